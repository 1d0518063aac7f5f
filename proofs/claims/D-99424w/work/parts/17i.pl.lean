/-! the plain law: count -/
set_option maxRecDepth 100000
section CO2
variable {σ : vv_S} {T : tw_T} {x0 pa va ca : Nat} {h0 : Nat → Option vv_E} {P : pvT} {R : Nat → Int32} {lo : Int32}
/-- what else is counted: acts, what was seen, taped, refused -/
def cnH (x0 : Nat) (σ : vv_S) (T : tw_T) : Prop := (∃ al n g, gR σ x0 0 7 = some al ∧ isLi σ.1 al n g ∧ T.1 44 = nI n) ∧ (∃ sl n g, gR σ x0 0 8 = some sl ∧ isLi σ.1 sl n g ∧ T.1 52 = nI n) ∧ gI σ x0 0 4 = some (T.1 13) ∧ ∃ rf, gR σ x0 0 6 = some rf ∧ ∀ k, k < 3 → aI σ .int rf (nI k) = some (T.2.2 9 k)
theorem o_count (Q : isQ x0 h0 pa va ca P R lo σ T) (C : cnH x0 σ T) (x1 : Int32) : ans va 20 200 [(nse, nI 1)] σ T (KX1_count x0 x1 σ) (J_count x1 T) := by
  obtain ⟨T0, e0, Q0, hz, f0⟩ := Q.z
  have C0 : cnH x0 σ T0 := by rw [← e0]; exact C
  obtain ⟨⟨al, na, ga, c1, c2, c3⟩, ⟨sl, ns, gs, d1, d2, d3⟩, t1, rf, r1, r2⟩ := C0
  have h8 := ev_8 Q0.1
  have h10 := ev_10 Q0.1
  obtain ⟨lw, l1, l2, l3, -⟩ := ev_lw Q0.1
  have cc := Q0.co
  unfold KX1_count J_count
  simp only [e0, bdS]
  have ok : ∀ v, ans va 20 200 [(nse, nI 1)] σ T (some (.inl (v, σ))) (some (v, T0)) := fun v => ans.ok hz (fa.rf.mo (fun _ h => h) (by omega) (by omega)) Q0.1.ov f0
  rcases g_in (T := T0) hz x1 (a := 0) (b := 15) (by omega) (by omega) (c := nI 1) s1_ne with ⟨t, -, ht, rfl, k1, j1⟩ | ⟨k1, j1⟩
  · simp only [j1, J_right1 hz, bdS]
    rw [if_neg s1_ne]
    rcases (show t = 0 ∨ t = 1 ∨ t = 2 ∨ t = 3 ∨ t = 4 ∨ t = 5 ∨ t = 6 ∨ t = 7 ∨ t = 8 ∨ t = 9 ∨ t = 10 ∨ t = 11 ∨ t = 12 ∨ t = 13 ∨ t = 14 ∨ t = 15 by omega) with rfl | rfl | rfl | rfl | rfl | rfl | rfl | rfl | rfl | rfl | rfl | rfl | rfl | rfl | rfl | rfl
    · rw [if_pos (Eq.refl (nI 0)), if_pos (Eq.refl (nI 0))]
      simp only [ev_pa Q0.1, ev_o Q0.1, ev_tw Q0.1, Q0.tp.1, bdS]
      exact ok _
    · rw [if_neg (show ¬ nI 1 = nI 0 by decide), if_neg (show ¬ nI 1 = nI 0 by decide), if_pos (Eq.refl (nI 1)), if_pos (Eq.refl (nI 1))]
      simp only [ev_pa Q0.1, l1, l2, l3, Q0.tp.2.1, bdS]
      exact ok _
    · rw [if_neg (show ¬ nI 2 = nI 0 by decide), if_neg (show ¬ nI 2 = nI 0 by decide), if_neg (show ¬ nI 2 = nI 1 by decide), if_neg (show ¬ nI 2 = nI 1 by decide), if_pos (Eq.refl (nI 2)), if_pos (Eq.refl (nI 2))]
      simp only [ev_pa Q0.1, ev_cr Q0.1, Q0.tp.2.2.1, bdS]
      exact ok _
    · rw [if_neg (show ¬ nI 3 = nI 0 by decide), if_neg (show ¬ nI 3 = nI 0 by decide), if_neg (show ¬ nI 3 = nI 1 by decide), if_neg (show ¬ nI 3 = nI 1 by decide), if_neg (show ¬ nI 3 = nI 2 by decide), if_neg (show ¬ nI 3 = nI 2 by decide), if_pos (Eq.refl (nI 3)), if_pos (Eq.refl (nI 3))]
      simp only [Q0.gc, co_9 cc, rd0 Q0.rw (show 0 < 85 by omega) us_0, bdS]
      exact ok _
    · rw [if_neg (show ¬ nI 4 = nI 0 by decide), if_neg (show ¬ nI 4 = nI 0 by decide), if_neg (show ¬ nI 4 = nI 1 by decide), if_neg (show ¬ nI 4 = nI 1 by decide), if_neg (show ¬ nI 4 = nI 2 by decide), if_neg (show ¬ nI 4 = nI 2 by decide), if_neg (show ¬ nI 4 = nI 3 by decide), if_neg (show ¬ nI 4 = nI 3 by decide), if_pos (Eq.refl (nI 4)), if_pos (Eq.refl (nI 4))]
      have k2 : KX3_sum ca (ca + 1 + 0) σ = some (sumR P R 1) := K_sum Q0.1 cc (j := 0) (by decide)
      have j2 : J_allOf (nI 1) T0 = some (sumR P R 1, T0) := by
        have := J_all_e (b := 0) Q0.rw (by omega) Q0.tp h8 (s := 1) (by omega)
        rw [Nat.zero_add] at this
        exact this
      simp only [Q0.gc, co_R cc (j := 0) (by decide), co_o cc, k2, j2, bdS]
      exact ok _
    · rw [if_neg (show ¬ nI 5 = nI 0 by decide), if_neg (show ¬ nI 5 = nI 0 by decide), if_neg (show ¬ nI 5 = nI 1 by decide), if_neg (show ¬ nI 5 = nI 1 by decide), if_neg (show ¬ nI 5 = nI 2 by decide), if_neg (show ¬ nI 5 = nI 2 by decide), if_neg (show ¬ nI 5 = nI 3 by decide), if_neg (show ¬ nI 5 = nI 3 by decide), if_neg (show ¬ nI 5 = nI 4 by decide), if_neg (show ¬ nI 5 = nI 4 by decide), if_pos (Eq.refl (nI 5)), if_pos (Eq.refl (nI 5))]
      have k2 : KX3_sum ca (ca + 1 + 1) σ = some (sumR P R 9) := K_sum Q0.1 cc (j := 1) (by decide)
      have j2 : J_allOf (nI 9) T0 = some (sumR P R 9, T0) := by
        have := J_all_e (b := 0) Q0.rw (by omega) Q0.tp h8 (s := 9) (by omega)
        rw [Nat.zero_add] at this
        exact this
      simp only [Q0.gc, co_R cc (j := 1) (by decide), co_o cc, k2, j2, bdS]
      exact ok _
    · rw [if_neg (show ¬ nI 6 = nI 0 by decide), if_neg (show ¬ nI 6 = nI 0 by decide), if_neg (show ¬ nI 6 = nI 1 by decide), if_neg (show ¬ nI 6 = nI 1 by decide), if_neg (show ¬ nI 6 = nI 2 by decide), if_neg (show ¬ nI 6 = nI 2 by decide), if_neg (show ¬ nI 6 = nI 3 by decide), if_neg (show ¬ nI 6 = nI 3 by decide), if_neg (show ¬ nI 6 = nI 4 by decide), if_neg (show ¬ nI 6 = nI 4 by decide), if_neg (show ¬ nI 6 = nI 5 by decide), if_neg (show ¬ nI 6 = nI 5 by decide), if_pos (Eq.refl (nI 6)), if_pos (Eq.refl (nI 6))]
      have k2 : KX3_sum ca (ca + 1 + 2) σ = some (sumR P R 17) := K_sum Q0.1 cc (j := 2) (by decide)
      have j2 : J_allOf (nI 17) T0 = some (sumR P R 17, T0) := by
        have := J_all_e (b := 0) Q0.rw (by omega) Q0.tp h8 (s := 17) (by omega)
        rw [Nat.zero_add] at this
        exact this
      simp only [Q0.gc, co_R cc (j := 2) (by decide), co_o cc, k2, j2, bdS]
      exact ok _
    · rw [if_neg (show ¬ nI 7 = nI 0 by decide), if_neg (show ¬ nI 7 = nI 0 by decide), if_neg (show ¬ nI 7 = nI 1 by decide), if_neg (show ¬ nI 7 = nI 1 by decide), if_neg (show ¬ nI 7 = nI 2 by decide), if_neg (show ¬ nI 7 = nI 2 by decide), if_neg (show ¬ nI 7 = nI 3 by decide), if_neg (show ¬ nI 7 = nI 3 by decide), if_neg (show ¬ nI 7 = nI 4 by decide), if_neg (show ¬ nI 7 = nI 4 by decide), if_neg (show ¬ nI 7 = nI 5 by decide), if_neg (show ¬ nI 7 = nI 5 by decide), if_neg (show ¬ nI 7 = nI 6 by decide), if_neg (show ¬ nI 7 = nI 6 by decide), if_pos (Eq.refl (nI 7)), if_pos (Eq.refl (nI 7))]
      have k2 : KX3_lying ca (-1) σ = some (lyR P R (-1)) := K_lying Q0.1 cc (-1)
      have j2 : J_lyingAll T0 = some (lyR P R (-1), T0) := J_lyA Q0.rw Q0.tp h10 P.1.2.2 0 NN (nI 0) (by omega) (by unfold NN; omega)
      simp only [Q0.gc, co_o cc, k2, j2, bdS]
      exact ok _
    · rw [if_neg (show ¬ nI 8 = nI 0 by decide), if_neg (show ¬ nI 8 = nI 0 by decide), if_neg (show ¬ nI 8 = nI 1 by decide), if_neg (show ¬ nI 8 = nI 1 by decide), if_neg (show ¬ nI 8 = nI 2 by decide), if_neg (show ¬ nI 8 = nI 2 by decide), if_neg (show ¬ nI 8 = nI 3 by decide), if_neg (show ¬ nI 8 = nI 3 by decide), if_neg (show ¬ nI 8 = nI 4 by decide), if_neg (show ¬ nI 8 = nI 4 by decide), if_neg (show ¬ nI 8 = nI 5 by decide), if_neg (show ¬ nI 8 = nI 5 by decide), if_neg (show ¬ nI 8 = nI 6 by decide), if_neg (show ¬ nI 8 = nI 6 by decide), if_neg (show ¬ nI 8 = nI 7 by decide), if_neg (show ¬ nI 8 = nI 7 by decide), if_pos (Eq.refl (nI 8)), if_pos (Eq.refl (nI 8))]
      have k2 := K_goingA Q0.1 cc Q0.gc P.1.2.2 0 NN (nI 0) (by omega) (by unfold NN; omega)
      have j2 : J_goingAll T0 = _ := J_going Q0.rw Q0.tp h10 P.1.2.2 0 NN (nI 0) (by omega) (by unfold NN; omega)
      simp only [k2, j2, bdS]
      exact ok _
    · rw [if_neg (show ¬ nI 9 = nI 0 by decide), if_neg (show ¬ nI 9 = nI 0 by decide), if_neg (show ¬ nI 9 = nI 1 by decide), if_neg (show ¬ nI 9 = nI 1 by decide), if_neg (show ¬ nI 9 = nI 2 by decide), if_neg (show ¬ nI 9 = nI 2 by decide), if_neg (show ¬ nI 9 = nI 3 by decide), if_neg (show ¬ nI 9 = nI 3 by decide), if_neg (show ¬ nI 9 = nI 4 by decide), if_neg (show ¬ nI 9 = nI 4 by decide), if_neg (show ¬ nI 9 = nI 5 by decide), if_neg (show ¬ nI 9 = nI 5 by decide), if_neg (show ¬ nI 9 = nI 6 by decide), if_neg (show ¬ nI 9 = nI 6 by decide), if_neg (show ¬ nI 9 = nI 7 by decide), if_neg (show ¬ nI 9 = nI 7 by decide), if_neg (show ¬ nI 9 = nI 8 by decide), if_neg (show ¬ nI 9 = nI 8 by decide), if_pos (Eq.refl (nI 9)), if_pos (Eq.refl (nI 9))]
      have k2 := K_goneA Q0.1 cc Q0.gc P.1.2.2 0 NN (nI 0) (by omega) (by unfold NN; omega)
      have j2 : J_goneIn (nI 0) T0 = _ := J_gone0 Q0.rw Q0.tp h10 P.1.2.2 0 NN (nI 0) (by omega) (by unfold NN; omega)
      simp only [k2, j2, bdS]
      exact ok _
    · rw [if_neg (show ¬ nI 10 = nI 0 by decide), if_neg (show ¬ nI 10 = nI 0 by decide), if_neg (show ¬ nI 10 = nI 1 by decide), if_neg (show ¬ nI 10 = nI 1 by decide), if_neg (show ¬ nI 10 = nI 2 by decide), if_neg (show ¬ nI 10 = nI 2 by decide), if_neg (show ¬ nI 10 = nI 3 by decide), if_neg (show ¬ nI 10 = nI 3 by decide), if_neg (show ¬ nI 10 = nI 4 by decide), if_neg (show ¬ nI 10 = nI 4 by decide), if_neg (show ¬ nI 10 = nI 5 by decide), if_neg (show ¬ nI 10 = nI 5 by decide), if_neg (show ¬ nI 10 = nI 6 by decide), if_neg (show ¬ nI 10 = nI 6 by decide), if_neg (show ¬ nI 10 = nI 7 by decide), if_neg (show ¬ nI 10 = nI 7 by decide), if_neg (show ¬ nI 10 = nI 8 by decide), if_neg (show ¬ nI 10 = nI 8 by decide), if_neg (show ¬ nI 10 = nI 9 by decide), if_neg (show ¬ nI 10 = nI 9 by decide), if_pos (Eq.refl (nI 10)), if_pos (Eq.refl (nI 10))]
      simp only [c1, li_o c2, li_size c2, c3, bdS]
      exact ok _
    · rw [if_neg (show ¬ nI 11 = nI 0 by decide), if_neg (show ¬ nI 11 = nI 0 by decide), if_neg (show ¬ nI 11 = nI 1 by decide), if_neg (show ¬ nI 11 = nI 1 by decide), if_neg (show ¬ nI 11 = nI 2 by decide), if_neg (show ¬ nI 11 = nI 2 by decide), if_neg (show ¬ nI 11 = nI 3 by decide), if_neg (show ¬ nI 11 = nI 3 by decide), if_neg (show ¬ nI 11 = nI 4 by decide), if_neg (show ¬ nI 11 = nI 4 by decide), if_neg (show ¬ nI 11 = nI 5 by decide), if_neg (show ¬ nI 11 = nI 5 by decide), if_neg (show ¬ nI 11 = nI 6 by decide), if_neg (show ¬ nI 11 = nI 6 by decide), if_neg (show ¬ nI 11 = nI 7 by decide), if_neg (show ¬ nI 11 = nI 7 by decide), if_neg (show ¬ nI 11 = nI 8 by decide), if_neg (show ¬ nI 11 = nI 8 by decide), if_neg (show ¬ nI 11 = nI 9 by decide), if_neg (show ¬ nI 11 = nI 9 by decide), if_neg (show ¬ nI 11 = nI 10 by decide), if_neg (show ¬ nI 11 = nI 10 by decide), if_pos (Eq.refl (nI 11)), if_pos (Eq.refl (nI 11))]
      simp only [d1, li_o d2, li_size d2, d3, bdS]
      exact ok _
    · rw [if_neg (show ¬ nI 12 = nI 0 by decide), if_neg (show ¬ nI 12 = nI 0 by decide), if_neg (show ¬ nI 12 = nI 1 by decide), if_neg (show ¬ nI 12 = nI 1 by decide), if_neg (show ¬ nI 12 = nI 2 by decide), if_neg (show ¬ nI 12 = nI 2 by decide), if_neg (show ¬ nI 12 = nI 3 by decide), if_neg (show ¬ nI 12 = nI 3 by decide), if_neg (show ¬ nI 12 = nI 4 by decide), if_neg (show ¬ nI 12 = nI 4 by decide), if_neg (show ¬ nI 12 = nI 5 by decide), if_neg (show ¬ nI 12 = nI 5 by decide), if_neg (show ¬ nI 12 = nI 6 by decide), if_neg (show ¬ nI 12 = nI 6 by decide), if_neg (show ¬ nI 12 = nI 7 by decide), if_neg (show ¬ nI 12 = nI 7 by decide), if_neg (show ¬ nI 12 = nI 8 by decide), if_neg (show ¬ nI 12 = nI 8 by decide), if_neg (show ¬ nI 12 = nI 9 by decide), if_neg (show ¬ nI 12 = nI 9 by decide), if_neg (show ¬ nI 12 = nI 10 by decide), if_neg (show ¬ nI 12 = nI 10 by decide), if_neg (show ¬ nI 12 = nI 11 by decide), if_neg (show ¬ nI 12 = nI 11 by decide), if_pos (Eq.refl (nI 12)), if_pos (Eq.refl (nI 12))]
      simp only [t1, bdS]
      exact ok _
    · rw [if_neg (show ¬ nI 13 = nI 0 by decide), if_neg (show ¬ nI 13 = nI 0 by decide), if_neg (show ¬ nI 13 = nI 1 by decide), if_neg (show ¬ nI 13 = nI 1 by decide), if_neg (show ¬ nI 13 = nI 2 by decide), if_neg (show ¬ nI 13 = nI 2 by decide), if_neg (show ¬ nI 13 = nI 3 by decide), if_neg (show ¬ nI 13 = nI 3 by decide), if_neg (show ¬ nI 13 = nI 4 by decide), if_neg (show ¬ nI 13 = nI 4 by decide), if_neg (show ¬ nI 13 = nI 5 by decide), if_neg (show ¬ nI 13 = nI 5 by decide), if_neg (show ¬ nI 13 = nI 6 by decide), if_neg (show ¬ nI 13 = nI 6 by decide), if_neg (show ¬ nI 13 = nI 7 by decide), if_neg (show ¬ nI 13 = nI 7 by decide), if_neg (show ¬ nI 13 = nI 8 by decide), if_neg (show ¬ nI 13 = nI 8 by decide), if_neg (show ¬ nI 13 = nI 9 by decide), if_neg (show ¬ nI 13 = nI 9 by decide), if_neg (show ¬ nI 13 = nI 10 by decide), if_neg (show ¬ nI 13 = nI 10 by decide), if_neg (show ¬ nI 13 = nI 11 by decide), if_neg (show ¬ nI 13 = nI 11 by decide), if_neg (show ¬ nI 13 = nI 12 by decide), if_neg (show ¬ nI 13 = nI 12 by decide)]
      have k2 : KX1_in (nI 13) (nI 13) (nI 15) = some (nI 1) := by rw [K_in, if_neg (by decide)]
      have j2 : rdI 3 (T0.2.2 9) (nI 0) = some (T0.2.2 9 0) := nI_rd (by omega) (by omega)
      have r3 := r2 0 (by omega)
      simp only [k2, K_found1, xbL, r1, pk_sub (show 13 ≤ 13 by omega), show 13 - 13 = 0 by omega, r3, j2, bdS]
      exact ok _
    · rw [if_neg (show ¬ nI 14 = nI 0 by decide), if_neg (show ¬ nI 14 = nI 0 by decide), if_neg (show ¬ nI 14 = nI 1 by decide), if_neg (show ¬ nI 14 = nI 1 by decide), if_neg (show ¬ nI 14 = nI 2 by decide), if_neg (show ¬ nI 14 = nI 2 by decide), if_neg (show ¬ nI 14 = nI 3 by decide), if_neg (show ¬ nI 14 = nI 3 by decide), if_neg (show ¬ nI 14 = nI 4 by decide), if_neg (show ¬ nI 14 = nI 4 by decide), if_neg (show ¬ nI 14 = nI 5 by decide), if_neg (show ¬ nI 14 = nI 5 by decide), if_neg (show ¬ nI 14 = nI 6 by decide), if_neg (show ¬ nI 14 = nI 6 by decide), if_neg (show ¬ nI 14 = nI 7 by decide), if_neg (show ¬ nI 14 = nI 7 by decide), if_neg (show ¬ nI 14 = nI 8 by decide), if_neg (show ¬ nI 14 = nI 8 by decide), if_neg (show ¬ nI 14 = nI 9 by decide), if_neg (show ¬ nI 14 = nI 9 by decide), if_neg (show ¬ nI 14 = nI 10 by decide), if_neg (show ¬ nI 14 = nI 10 by decide), if_neg (show ¬ nI 14 = nI 11 by decide), if_neg (show ¬ nI 14 = nI 11 by decide), if_neg (show ¬ nI 14 = nI 12 by decide), if_neg (show ¬ nI 14 = nI 12 by decide)]
      have k2 : KX1_in (nI 14) (nI 13) (nI 15) = some (nI 1) := by rw [K_in, if_neg (by decide)]
      have j2 : rdI 3 (T0.2.2 9) (nI 1) = some (T0.2.2 9 1) := nI_rd (by omega) (by omega)
      have r3 := r2 1 (by omega)
      simp only [k2, K_found1, xbL, r1, pk_sub (show 13 ≤ 14 by omega), show 14 - 13 = 1 by omega, r3, j2, bdS]
      exact ok _
    · rw [if_neg (show ¬ nI 15 = nI 0 by decide), if_neg (show ¬ nI 15 = nI 0 by decide), if_neg (show ¬ nI 15 = nI 1 by decide), if_neg (show ¬ nI 15 = nI 1 by decide), if_neg (show ¬ nI 15 = nI 2 by decide), if_neg (show ¬ nI 15 = nI 2 by decide), if_neg (show ¬ nI 15 = nI 3 by decide), if_neg (show ¬ nI 15 = nI 3 by decide), if_neg (show ¬ nI 15 = nI 4 by decide), if_neg (show ¬ nI 15 = nI 4 by decide), if_neg (show ¬ nI 15 = nI 5 by decide), if_neg (show ¬ nI 15 = nI 5 by decide), if_neg (show ¬ nI 15 = nI 6 by decide), if_neg (show ¬ nI 15 = nI 6 by decide), if_neg (show ¬ nI 15 = nI 7 by decide), if_neg (show ¬ nI 15 = nI 7 by decide), if_neg (show ¬ nI 15 = nI 8 by decide), if_neg (show ¬ nI 15 = nI 8 by decide), if_neg (show ¬ nI 15 = nI 9 by decide), if_neg (show ¬ nI 15 = nI 9 by decide), if_neg (show ¬ nI 15 = nI 10 by decide), if_neg (show ¬ nI 15 = nI 10 by decide), if_neg (show ¬ nI 15 = nI 11 by decide), if_neg (show ¬ nI 15 = nI 11 by decide), if_neg (show ¬ nI 15 = nI 12 by decide), if_neg (show ¬ nI 15 = nI 12 by decide)]
      have k2 : KX1_in (nI 15) (nI 13) (nI 15) = some (nI 1) := by rw [K_in, if_neg (by decide)]
      have j2 : rdI 3 (T0.2.2 9) (nI 2) = some (T0.2.2 9 2) := nI_rd (by omega) (by omega)
      have r3 := r2 2 (by omega)
      simp only [k2, K_found1, xbL, r1, pk_sub (show 13 ≤ 15 by omega), show 15 - 13 = 2 by omega, r3, j2, bdS]
      exact ok _
  · have hb : ∀ j, j ≤ 15 → ¬ x1 = nI j := fun j hj e => by
      rw [K_in] at k1
      by_cases h : x1 < nI 0 ∨ nI 15 < x1
      · exact rng_ne h hj (by omega) e
      · rw [if_neg h] at k1; exact absurd k1 (by decide)
    have k2 : KX1_in x1 (nI 13) (nI 15) = some (nI 0) := by
      rw [K_in] at k1 ⊢
      by_cases h : x1 < nI 0 ∨ nI 15 < x1
      · rw [if_pos (h.imp (fun h => by rw [ti_lt, ti_n (by omega)] at h ⊢; omega) id)]
      · rw [if_neg h] at k1; exact absurd k1 (by decide)
    simp only [j1, J_right0 hz s1_ne, bdS, if_pos nI_0]
    rw [if_neg (hb 0 (by omega)), if_neg (hb 1 (by omega)), if_neg (hb 2 (by omega)), if_neg (hb 3 (by omega)), if_neg (hb 4 (by omega)), if_neg (hb 5 (by omega)), if_neg (hb 6 (by omega)), if_neg (hb 7 (by omega)), if_neg (hb 8 (by omega)), if_neg (hb 9 (by omega)), if_neg (hb 10 (by omega)), if_neg (hb 11 (by omega)), if_neg (hb 12 (by omega))]
    simp only [k2, K_found0, xbR, bdS]
    exact ans.th (List.mem_cons_self ..) F_s (by omega) (by omega) Q0.1.ov (f0.tr jq.t0)
end CO2
