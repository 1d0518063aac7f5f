/-! the plain law: what is asked of days to come, on -/
set_option maxRecDepth 100000
section QQ
variable {σ : vv_S} {T : tw_T} {x0 pa va ca a : Nat} {h0 : Nat → Option vv_E} {P : pvT} {R : Nat → Int32} {lo : Int32}
theorem out_loop (cx : six P ∧ invP P) (hd : ∀ q, coA a q → h0 q = none) {t : Nat} (ht : t < P.1.1) : ∀ (c i n : Nat) (σ : vv_S) (T : tw_T) (R : Nat → Int32), bS x0 h0 pa va P a R σ T → i + c = 61 → c < n → ∃ v σ' T', KX1_out_15 (KX_fo 80) n (nI t) a (nI i) σ = some (.inl (v, σ')) ∧ J_out_21 n (nI t) (nI i) T = some (v, T') ∧ isEnv σ' x0 h0 pa va P ∧ fr (coV a va) σ σ' ∧ jfr 85 T T' := by
  intro c
  induction c with
  | zero =>
    intro i n σ T R B hi hn
    obtain ⟨n, rfl⟩ : ∃ m, n = m + 1 := ⟨n - 1, by omega⟩
    show ∃ v σ' T', BKX1_out_15 (KX_fo 80) (KX1_out_15 (KX_fo 80) n) (nI t) a (nI i) σ = _ ∧ B_out_21 (J_out_21 n) (nI t) (nI i) T = _ ∧ _
    unfold BKX1_out_15 B_out_21
    rw [if_pos (nI_lt (show 60 < i by omega) (by omega)), if_pos (nI_lt (show 60 < i by omega) (by omega))]
    obtain ⟨lo, H, -⟩ := B
    exact ⟨-1, σ, T, rfl, rfl, H, fr.rf, jfr.rf⟩
  | succ c ih =>
    intro i n σ T R B hi hn
    obtain ⟨n, rfl⟩ : ∃ m, n = m + 1 := ⟨n - 1, by omega⟩
    show ∃ v σ' T', BKX1_out_15 (KX_fo 80) (KX1_out_15 (KX_fo 80) n) (nI t) a (nI i) σ = _ ∧ B_out_21 (J_out_21 n) (nI t) (nI i) T = _ ∧ _
    unfold BKX1_out_15 B_out_21
    rw [if_neg (nI_nlt (show i ≤ 60 by omega) (by omega)), if_neg (nI_nlt (show i ≤ 60 by omega) (by omega))]
    obtain ⟨lo, H, c0, r0, p0, i0⟩ := id B
    obtain ⟨z, hz⟩ := day_bits (P := P) (R := R) (ev_8 H)
    obtain ⟨z1, z2⟩ := hz t ht
    obtain ⟨σ1, T1, s1, u1, B1, l1, w1, f1, g1⟩ := dayB cx hd B
    simp only [co_o c0, s1, u1, l1, w1, z1, z2, bdS]
    cases hzt : z t with
    | true =>
      simp only [if_pos (Eq.refl true), if_pos nI_0, if_neg s1_ne, nI_add]
      obtain ⟨v, σ2, T2, s2, u2, H2, f2, g2⟩ := ih (i + 1) n σ1 T1 _ B1 (by omega) (by omega)
      exact ⟨v, σ2, T2, s2, u2, H2, f1.tr f2, g1.tr g2⟩
    | false =>
      simp only [if_neg Bool.false_ne_true, if_pos nI_0, if_neg s1_ne]
      obtain ⟨lo1, H1, -⟩ := B1
      exact ⟨nI i, σ1, T1, rfl, rfl, H1, f1, g1⟩
theorem o_out (Q : isQ x0 h0 pa va ca P R lo σ T) (x1 : Int32) : ans va 20 200 [(nse, nI 1)] σ T (KX1_out (KX_fo 80) x0 x1 σ) (J_out x1 T) := by
  obtain ⟨T0, e0, Q0, hz, f0⟩ := Q.z
  unfold KX1_out J_out
  simp only [e0, bdS, ev_x Q0.1]
  rcases g_town Q0.1 Q0.tp hz x1 with ⟨t, ht, rfl, k1, j1⟩ | ⟨k1, j1⟩
  · obtain ⟨σ1, T1, s1, u1, B1, hd, F1, z1, y1, g1, hz1⟩ := Q0.start hz
    obtain ⟨v, σ2, T2, s2, u2, H2, f2, g2⟩ := out_loop Q0.cx hd ht 60 1 NN σ1 T1 _ B1 (by omega) (by unfold NN; omega)
    simp only [k1, j1, xbL, bdS, Q0.gc, co_o Q0.co, s1, u1, if_neg s1_ne]
    simp only [s2, u2, bdS]
    have F9 := F1.coV (Nat.le_refl _) f2
    exact ans.ok (g2.z.trans hz1) (F9.mo (fun _ h => h) (by omega) (by omega)) H2.ov ((f0.tr g1).tr (jq.jf g2))
  · simp only [k1, j1, xbR, bdS, if_pos nI_0]
    exact ans.th (List.mem_cons_self ..) F_s (by omega) (by omega) Q0.1.ov (f0.tr jq.t0)
end QQ
