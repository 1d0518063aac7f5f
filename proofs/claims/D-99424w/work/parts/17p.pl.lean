/-! the plain law: the twin goes back to its image -/
set_option maxRecDepth 100000
theorem J_rs32 {R : Nat → Int32} : ∀ (c k m : Nat) (T : tw_T), (∀ q, q < 85 → T.2.2 31 q = R q) → (∀ q, q < k → T.2.2 20 q = R q) → k + c = 85 → c < m → ∃ T', J_restore_32 m (nI k) T = some (nI 1, T') ∧ (∀ q, q < 85 → T'.2.2 20 q = R q) ∧ (∀ q, q < 3400 → T'.2.2 21 q = T.2.2 32 q) ∧ (∀ q, q < 24 → T'.2.2 28 q = T.2.2 33 q) ∧ T'.1 = T.1 ∧ ∀ r, r ≠ 20 → r ≠ 21 → r ≠ 28 → T'.2.2 r = T.2.2 r := by
  intro c
  induction c with
  | zero =>
    intro k m T hR hq hk hm
    obtain ⟨m, rfl⟩ : ∃ z, m = z + 1 := ⟨m - 1, by omega⟩
    obtain ⟨T1, s1, a1, a2, a3⟩ := J_copies_e (x := 32) (y := 21) (N := 3400) (T := T) rfl rfl (by decide) (by omega)
    obtain ⟨T2, s2, b1, b2, b3⟩ := J_copies_e (x := 33) (y := 28) (N := 24) (T := T1) rfl rfl (by decide) (by omega)
    refine ⟨T2, ?_, fun q h => ?_, fun q h => ?_, fun q h => ?_, b2.trans a2, fun r h1 h2 h3 => (b3 r h3).trans (a3 r h2)⟩
    · show B_restore_32 (J_restore_32 m) (nI k) T = _
      unfold B_restore_32
      rw [if_pos (nI_le (by omega) (by omega))]
      simp only [s1, s2, bdS]
    · rw [b3 20 (by decide), a3 20 (by decide)]
      exact hq q (by omega)
    · rw [b3 21 (by decide)]; exact a1 q h
    · rw [b1 q h, a3 33 (by decide)]
  | succ c ih =>
    intro k m T hR hq hk hm
    obtain ⟨m, rfl⟩ : ∃ z, m = z + 1 := ⟨m - 1, by omega⟩
    obtain ⟨T2, s2, a1, a2, a3, a4, a5⟩ := ih (k + 1) m (tw_A T 20 (upd (T.2.2 20) k (R k))) (fun q h => by rw [A_n (by decide)]; exact hR q h) (fun q h => by
      rw [A_s]
      by_cases e : q = k
      · subst e; rw [upd_s]
      · rw [upd_n e]; exact hq q (by omega)) (by omega) (by omega)
    refine ⟨T2, ?_, a1, fun q h => (a2 q h).trans (by rw [A_n (by decide)]), fun q h => (a3 q h).trans (by rw [A_n (by decide)]), a4, fun r h1 h2 h3 => (a5 r h1 h2 h3).trans (A_n h1)⟩
    show B_restore_32 (J_restore_32 m) (nI k) T = _
    unfold B_restore_32
    rw [if_neg (nI_ge (show k < 85 by omega) (by omega))]
    simp only [nI_rd (show k < 85 by omega) (show 85 < 2 ^ 31 by omega), hR k (by omega), nI_st (show k < 170 by omega) (show 170 < 2 ^ 31 by omega), nI_add, bdS]
    exact s2
