/-! the plain law: what is asked of days to come, on -/
set_option maxRecDepth 100000
section QQ
variable {σ : vv_S} {T : tw_T} {x0 pa va ca a : Nat} {h0 : Nat → Option vv_E} {P : pvT} {R : Nat → Int32} {lo : Int32}
theorem day_loop (cx : six P ∧ invP P) (hd : ∀ q, coA a q → h0 q = none) {m : Nat} (hm : m ≤ 60) (w : Int32) : ∀ (c i n : Nat) (σ : vv_S) (T : tw_T) (R : Nat → Int32) (best most : Int32), bS x0 h0 pa va P a R σ T → i + c = m + 1 → c < n → ∃ v σ' T', KX1_day_32 (KX_fo 80) n (nI m) w a best most (nI i) σ = some (.inl (v, σ')) ∧ J_day_38 n (nI m) w best most (nI i) T = some (v, T') ∧ isEnv σ' x0 h0 pa va P ∧ fr (coV a va) σ σ' ∧ jfr 85 T T' := by
  intro c
  induction c with
  | zero =>
    intro i n σ T R best most B hi hn
    obtain ⟨n, rfl⟩ : ∃ m, n = m + 1 := ⟨n - 1, by omega⟩
    show ∃ v σ' T', BKX1_day_32 (KX_fo 80) (KX1_day_32 (KX_fo 80) n) (nI m) w a best most (nI i) σ = _ ∧ B_day_38 (J_day_38 n) (nI m) w best most (nI i) T = _ ∧ _
    unfold BKX1_day_32 B_day_38 KX1_day_108 J_day_107
    rw [if_pos (nI_lt (show m < i by omega) (by omega)), if_pos (nI_lt (show m < i by omega) (by omega))]
    obtain ⟨lo, H, -⟩ := B
    by_cases hw : w = 0
    · rw [if_pos hw, if_pos hw]
      exact ⟨best, σ, T, rfl, rfl, H, fr.rf, jfr.rf⟩
    · rw [if_neg hw, if_neg hw]
      exact ⟨most, σ, T, rfl, rfl, H, fr.rf, jfr.rf⟩
  | succ c ih =>
    intro i n σ T R best most B hi hn
    obtain ⟨n, rfl⟩ : ∃ m, n = m + 1 := ⟨n - 1, by omega⟩
    show ∃ v σ' T', BKX1_day_32 (KX_fo 80) (KX1_day_32 (KX_fo 80) n) (nI m) w a best most (nI i) σ = _ ∧ B_day_38 (J_day_38 n) (nI m) w best most (nI i) T = _ ∧ _
    unfold BKX1_day_32 B_day_38 KX1_day_83 KX1_day_91 J_day_84 J_day_91
    rw [if_neg (nI_nlt (show i ≤ m by omega) (by omega)), if_neg (nI_nlt (show i ≤ m by omega) (by omega))]
    obtain ⟨lo, H, c0, r0, p0, i0⟩ := id B
    have h8 := ev_8 H
    obtain ⟨σ1, T1, s1, u1, B1, -, -, f1, g1⟩ := dayB cx hd B
    obtain ⟨lo1, H1, c1, r1, p1, i1⟩ := id B1
    have a0 : KX3_sum a (a + 1 + 2) σ = some (sumR P R 17) := K_sum H c0 (j := 2) (by omega)
    have a1 : KX3_sum a (a + 1 + 2) σ1 = some (sumR P (dayR P R).1 17) := K_sum H1 c1 (j := 2) (by omega)
    have b0 : J_allOf (nI 102) T = some (sumR P R 17, T) := J_all_e r0 (by omega) p0 h8 (s := 17) (by omega)
    have b1 : J_allOf (nI 102) T1 = some (sumR P (dayR P R).1 17, T1) := J_all_e r1 (by omega) p1 h8 (s := 17) (by omega)
    simp only [co_R c0 (j := 2) (by decide), co_R c1 (j := 2) (by decide), co_o c0, co_o c1, a0, a1, b0, b1, s1, u1, nI_add, bdS]
    have fin : ∀ x y : Int32, ∃ v σ' T', KX1_day_32 (KX_fo 80) n (nI m) w a x y (nI (i + 1)) σ1 = some (.inl (v, σ')) ∧ J_day_38 n (nI m) w x y (nI (i + 1)) T1 = some (v, T') ∧ isEnv σ' x0 h0 pa va P ∧ fr (coV a va) σ σ' ∧ jfr 85 T T' := by
      intro x y
      obtain ⟨v, σ2, T2, s2, u2, H2, f2, g2⟩ := ih (i + 1) n σ1 T1 _ x y B1 (by omega) (by omega)
      exact ⟨v, σ2, T2, s2, u2, H2, f1.tr f2, g1.tr g2⟩
    by_cases e1 : best = -1
    · rw [if_pos e1, if_pos e1]
      exact fin _ _
    · rw [if_neg e1, if_neg e1]
      by_cases e2 : most < sumR P (dayR P R).1 17 - sumR P R 17
      · rw [if_pos e2, if_pos e2]
        exact fin _ _
      · rw [if_neg e2, if_neg e2]
        exact fin _ _
theorem o_day (Q : isQ x0 h0 pa va ca P R lo σ T) (x1 x2 : Int32) : ans va 20 200 [(nse, nI 1), (iae, nI 2)] σ T (KX1_day (KX_fo 80) x0 x1 x2 σ) (J_day x1 x2 T) := by
  obtain ⟨T0, e0, Q0, hz, f0⟩ := Q.z
  unfold KX1_day J_day J_day_24
  simp only [e0, bdS]
  rcases g_what (σ := σ) hz x2 (m := 1) (by omega) with ⟨w, hw, rfl, k3, j3⟩ | ⟨k3, j3⟩
  · rcases g_days hz x1 (a := 1) (by omega) (c := nI 2) (by decide) with ⟨d, -, hd2, rfl, k2, j2⟩ | ⟨k2, j2⟩
    · obtain ⟨σ1, T1, s1, u1, B1, hd, F1, z1, y1, g1, hz1⟩ := Q0.start hz
      obtain ⟨v, σ2, T2, s2, u2, H2, f2, g2⟩ := day_loop Q0.cx hd hd2 (nI w) d 1 NN σ1 T1 _ (-1) (nI 0) B1 (by omega) (by unfold NN; omega)
      simp only [k3, j3, k2, j2, K_right1, xbL, bdS, Q0.gc, co_o Q0.co, s1, u1, if_neg s1_ne]
      simp only [s2, u2, bdS]
      have F9 := F1.coV (Nat.le_refl _) f2
      exact ans.ok (g2.z.trans hz1) (F9.mo (fun _ h => h) (by omega) (by omega)) H2.ov ((f0.tr g1).tr (jq.jf g2))
    · simp only [k3, j3, k2, j2, K_right0, xbL, xbR, bdS, if_neg s1_ne, if_pos nI_0]
      exact ans.th (List.mem_cons_of_mem _ (List.mem_cons_self ..)) F_s (by omega) (by omega) Q0.1.ov (f0.tr jq.t0)
  · simp only [k3, j3, xbR, bdS, if_pos nI_0]
    exact ans.th (List.mem_cons_self ..) F_s (by omega) (by omega) Q0.1.ov (f0.tr jq.t0)
end QQ
