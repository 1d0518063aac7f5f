/-! the plain law: what is asked of days to come, on -/
set_option maxRecDepth 100000
section QQ
variable {σ : vv_S} {T : tw_T} {x0 pa va ca a : Nat} {h0 : Nat → Option vv_E} {P : pvT} {R : Nat → Int32} {lo : Int32}
theorem luck_loop (H : isEnv σ x0 h0 pa va P) (c0 : isCo σ x0 a R lo) (r0 : isRw T 85 R) (p0 : isTp T P) : ∀ (c i n : Nat) (w : Int32), (w = -1 ∨ ∃ b, b < P.1.1 ∧ w = nI b) → i + c = P.1.1 → c < n → ∃ v, KX1_luckiest_27 (KX_fo 80) n x0 a w (nI i) σ = some (.inl (v, σ)) ∧ J_luckiest_30 n w (nI i) T = some (v, T) := by
  have h8 := ev_8 H
  intro c
  induction c with
  | zero =>
    intro i n w hw hi hn
    obtain ⟨n, rfl⟩ : ∃ m, n = m + 1 := ⟨n - 1, by omega⟩
    show ∃ v, BKX1_luckiest_27 (KX_fo 80) (KX1_luckiest_27 (KX_fo 80) n) x0 a w (nI i) σ = _ ∧ B_luckiest_30 (J_luckiest_30 n) w (nI i) T = _
    unfold BKX1_luckiest_27 B_luckiest_30
    simp only [ev_pa H, ev_o H, ev_tw H, p0.1, bdS]
    rw [if_pos (nI_le (show P.1.1 ≤ i by omega) (by omega)), if_pos (nI_le (show P.1.1 ≤ i by omega) (by omega))]
    exact ⟨w, rfl, rfl⟩
  | succ c ih =>
    intro i n w hw hi hn
    obtain ⟨n, rfl⟩ : ∃ m, n = m + 1 := ⟨n - 1, by omega⟩
    show ∃ v, BKX1_luckiest_27 (KX_fo 80) (KX1_luckiest_27 (KX_fo 80) n) x0 a w (nI i) σ = _ ∧ B_luckiest_30 (J_luckiest_30 n) w (nI i) T = _
    unfold BKX1_luckiest_27 B_luckiest_30 KX1_luckiest_60 KX1_luckiest_63 J_luckiest_64 J_luckiest_66
    simp only [ev_pa H, ev_o H, ev_tw H, p0.1, bdS]
    rw [if_neg (nI_ge (show i < P.1.1 by omega) (by omega)), if_neg (nI_ge (show i < P.1.1 by omega) (by omega)), nI_add]
    by_cases w1 : w = -1
    · rw [if_pos w1, if_pos w1]
      exact ih (i + 1) n (nI i) (Or.inr ⟨i, by omega, rfl⟩) (by omega) (by omega)
    · rw [if_neg w1, if_neg w1]
      obtain ⟨b, hb, rfl⟩ := hw.resolve_left w1
      have l0 : aI σ .int (a + 1 + 2) (nI i) = some (R (17 + i)) := co_aI c0 (j := 2) (by decide) (show i < 8 by omega)
      have l1 : aI σ .int (a + 1 + 2) (nI b) = some (R (17 + b)) := co_aI c0 (j := 2) (by decide) (show b < 8 by omega)
      have m0 : rdI 170 (T.2.2 20) (nI 102 + nI i) = some (R (17 + i)) := by rw [nI_add]; exact rd85 r0 (by omega) (by omega) (us_tp p0 (show i < P.1.1 by omega) (by omega) (by omega))
      have m1 : rdI 170 (T.2.2 20) (nI 102 + nI b) = some (R (17 + b)) := by rw [nI_add]; exact rd85 r0 (by omega) (by omega) (us_tp p0 hb (by omega) (by omega))
      simp only [co_R c0 (j := 2) (by decide), l0, l1, m0, m1, bdS]
      by_cases hv : R (17 + i) ≤ R (17 + b)
      · rw [if_pos hv, if_pos hv]
        exact ih (i + 1) n (nI b) (Or.inr ⟨b, hb, rfl⟩) (by omega) (by omega)
      · rw [if_neg hv, if_neg hv]
        exact ih (i + 1) n (nI i) (Or.inr ⟨i, by omega, rfl⟩) (by omega) (by omega)
theorem o_luckiest (Q : isQ x0 h0 pa va ca P R lo σ T) (x1 : Int32) : ans va 20 200 [(iae, nI 1)] σ T (KX1_luckiest (KX_fo 80) x0 x1 σ) (J_luckiest x1 T) := by
  obtain ⟨T0, e0, Q0, hz, f0⟩ := Q.z
  unfold KX1_luckiest J_luckiest
  simp only [e0, bdS]
  rcases g_days hz x1 (a := 0) (by omega) (c := nI 1) s1_ne with ⟨d, -, hd2, rfl, k2, j2⟩ | ⟨k2, j2⟩
  · obtain ⟨σ1, T1, s1, u1, B1, hd, F1, z1, y1, g1, hz1⟩ := Q0.start hz
    obtain ⟨lo1, -, c1, -⟩ := id B1
    obtain ⟨σ2, T2, s2, u2, B2, f2, g2⟩ := daysB Q0.cx hd B1 hd2
    obtain ⟨lo2, H2, c2, r2, p2, i2⟩ := B2
    obtain ⟨v, s3, u3⟩ := luck_loop H2 c2 r2 p2 P.1.1 0 NN (-1) (Or.inl rfl) (by omega) (by have := ev_8 H2; unfold NN; omega)
    simp only [k2, j2, K_right1, xbL, bdS, Q0.gc, co_o Q0.co, s1, u1, co_o c1, s2, u2, if_neg s1_ne]
    simp only [s3, u3, bdS]
    have F9 := F1.coV (Nat.le_refl _) f2
    exact ans.ok (g2.z.trans hz1) (F9.mo (fun _ h => h) (by omega) (by omega)) H2.ov ((f0.tr g1).tr (jq.jf g2))
  · simp only [k2, j2, K_right0, xbR, bdS, if_pos nI_0]
    exact ans.th (List.mem_cons_self ..) F_s (by omega) (by omega) Q0.1.ov (f0.tr jq.t0)
end QQ
