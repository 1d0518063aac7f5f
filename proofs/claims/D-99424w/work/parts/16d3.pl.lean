/-! the plain law: what is asked of days to come, on -/
set_option maxRecDepth 100000
section QQ
variable {σ : vv_S} {T : tw_T} {x0 pa va ca a : Nat} {h0 : Nat → Option vv_E} {P : pvT} {R : Nat → Int32} {lo : Int32}
theorem streak_loop (cx : six P ∧ invP P) (hd : ∀ q, coA a q → h0 q = none) {t : Nat} (ht : t < P.1.1) {m : Nat} (hm : m ≤ 60) : ∀ (c i n : Nat) (σ : vv_S) (T : tw_T) (R : Nat → Int32) (w most : Int32), bS x0 h0 pa va P a R σ T → i + c = m → c < n → ∃ v σ' T', KX1_streak_32 (KX_fo 80) n (nI t) (nI m) a w most (nI i) σ = some (.inl (v, σ')) ∧ J_streak_37 n (nI t) (nI m) most w (nI i) T = some (v, T') ∧ isEnv σ' x0 h0 pa va P ∧ fr (coV a va) σ σ' ∧ jfr 85 T T' := by
  intro c
  induction c with
  | zero =>
    intro i n σ T R w most B hi hn
    obtain ⟨n, rfl⟩ : ∃ m, n = m + 1 := ⟨n - 1, by omega⟩
    show ∃ v σ' T', BKX1_streak_32 (KX_fo 80) (KX1_streak_32 (KX_fo 80) n) (nI t) (nI m) a w most (nI i) σ = _ ∧ B_streak_37 (J_streak_37 n) (nI t) (nI m) most w (nI i) T = _ ∧ _
    unfold BKX1_streak_32 B_streak_37
    rw [if_pos (nI_le (show m ≤ i by omega) (by omega)), if_pos (nI_le (show m ≤ i by omega) (by omega))]
    obtain ⟨lo, H, -⟩ := B
    exact ⟨most, σ, T, rfl, rfl, H, fr.rf, jfr.rf⟩
  | succ c ih =>
    intro i n σ T R w most B hi hn
    obtain ⟨n, rfl⟩ : ∃ m, n = m + 1 := ⟨n - 1, by omega⟩
    show ∃ v σ' T', BKX1_streak_32 (KX_fo 80) (KX1_streak_32 (KX_fo 80) n) (nI t) (nI m) a w most (nI i) σ = _ ∧ B_streak_37 (J_streak_37 n) (nI t) (nI m) most w (nI i) T = _ ∧ _
    unfold BKX1_streak_32 B_streak_37
    rw [if_neg (nI_ge (show i < m by omega) (by omega)), if_neg (nI_ge (show i < m by omega) (by omega))]
    obtain ⟨lo, H, c0, r0, p0, i0⟩ := id B
    obtain ⟨z, hz⟩ := day_bits (P := P) (R := R) (ev_8 H)
    obtain ⟨z1, z2⟩ := hz t ht
    obtain ⟨σ1, T1, s1, u1, B1, l1, w1, f1, g1⟩ := dayB cx hd B
    simp only [co_o c0, s1, u1, l1, w1, z1, z2, bdS]
    unfold KX1_streak_61 J_streak_69 J_streak_83
    have hmx : ∀ s : Int32, (if s ≤ most then most else s) = mxI most s := fun s => by
      unfold mxI
      by_cases h : s ≤ most
      · rw [if_pos h, if_neg (i_nle.mpr h)]
      · rw [if_neg h, if_pos (i_nlt.mp h)]
    have fin : ∀ s : Int32, ∃ v σ' T', KX1_streak_32 (KX_fo 80) n (nI t) (nI m) a s (mxI most s) (nI i + nI 1) σ1 = some (.inl (v, σ')) ∧ (if s ≤ most then J_streak_37 n (nI t) (nI m) most s (nI i + nI 1) T1 else J_streak_37 n (nI t) (nI m) s s (nI i + nI 1) T1) = some (v, T') ∧ isEnv σ' x0 h0 pa va P ∧ fr (coV a va) σ σ' ∧ jfr 85 T T' := by
      intro s
      obtain ⟨v, σ2, T2, s2, u2, H2, f2, g2⟩ := ih (i + 1) n σ1 T1 _ s (mxI most s) B1 (by omega) (by omega)
      rw [← nI_add] at s2 u2
      refine ⟨v, σ2, T2, s2, ?_, H2, f1.tr f2, g1.tr g2⟩
      rw [← hmx s] at u2
      by_cases h : s ≤ most
      · rw [if_pos h] at u2 ⊢; exact u2
      · rw [if_neg h] at u2 ⊢; exact u2
    cases hzt : z t with
    | true =>
      simp only [if_pos (Eq.refl true), if_pos nI_0, if_pos (Eq.refl (nI 1))]
      exact fin _
    | false =>
      simp only [if_neg Bool.false_ne_true, if_neg s1_ne, if_neg n01]
      exact fin _
theorem o_streak (Q : isQ x0 h0 pa va ca P R lo σ T) (x1 x2 : Int32) : ans va 20 200 [(nse, nI 1), (iae, nI 2)] σ T (KX1_streak (KX_fo 80) x0 x1 x2 σ) (J_streak x1 x2 T) := by
  obtain ⟨T0, e0, Q0, hz, f0⟩ := Q.z
  unfold KX1_streak J_streak J_streak_23
  simp only [e0, bdS, ev_x Q0.1]
  rcases g_town Q0.1 Q0.tp hz x1 with ⟨t, ht, rfl, k1, j1⟩ | ⟨k1, j1⟩
  · rcases g_days hz x2 (a := 0) (by omega) (c := nI 2) (by decide) with ⟨d, -, hd2, rfl, k2, j2⟩ | ⟨k2, j2⟩
    · obtain ⟨σ1, T1, s1, u1, B1, hd, F1, z1, y1, g1, hz1⟩ := Q0.start hz
      obtain ⟨v, σ2, T2, s2, u2, H2, f2, g2⟩ := streak_loop Q0.cx hd ht hd2 d 0 NN σ1 T1 _ (nI 0) (nI 0) B1 (by omega) (by unfold NN; omega)
      simp only [k1, j1, k2, j2, K_right1, xbL, bdS, Q0.gc, co_o Q0.co, s1, u1, if_neg s1_ne]
      simp only [s2, u2, bdS]
      have F9 := F1.coV (Nat.le_refl _) f2
      exact ans.ok (g2.z.trans hz1) (F9.mo (fun _ h => h) (by omega) (by omega)) H2.ov ((f0.tr g1).tr (jq.jf g2))
    · simp only [k1, j1, k2, j2, K_right0, xbL, xbR, bdS, if_neg s1_ne, if_pos nI_0]
      exact ans.th (List.mem_cons_of_mem _ (List.mem_cons_self ..)) F_s (by omega) (by omega) Q0.1.ov (f0.tr jq.t0)
  · simp only [k1, j1, xbR, bdS, if_pos nI_0]
    exact ans.th (List.mem_cons_self ..) F_s (by omega) (by omega) Q0.1.ov (f0.tr jq.t0)
end QQ
