/-! the plain law: the twin copies an array -/
set_option maxRecDepth 100000
theorem J_cpy {x y N : Nat} (hx : tw_len x = N) (hy : tw_len y = N) (hxy : x ≠ y) (hN : N < 60000) : ∀ (c k m : Nat) (T : tw_T), k + c = N → c < m → ∃ T', J_copies_2 m x y (nI k) T = some T' ∧ (∀ q, k ≤ q → q < N → T'.2.2 y q = T.2.2 x q) ∧ (∀ q, ¬ (k ≤ q ∧ q < N) → T'.2.2 y q = T.2.2 y q) ∧ T'.1 = T.1 ∧ ∀ r, r ≠ y → T'.2.2 r = T.2.2 r := by
  intro c
  induction c with
  | zero =>
    intro k m T hk hm
    obtain ⟨m, rfl⟩ : ∃ z, m = z + 1 := ⟨m - 1, by omega⟩
    refine ⟨T, ?_, fun q h1 h2 => by omega, fun _ _ => rfl, rfl, fun _ _ => rfl⟩
    show B_copies_2 (J_copies_2 m) x y (nI k) T = _
    unfold B_copies_2
    rw [hx, if_pos (nI_le (by omega) (by omega))]
  | succ c ih =>
    intro k m T hk hm
    obtain ⟨m, rfl⟩ : ∃ z, m = z + 1 := ⟨m - 1, by omega⟩
    obtain ⟨T2, s2, a1, a2, a3, a4⟩ := ih (k + 1) m (tw_A T y (upd (T.2.2 y) k (T.2.2 x k))) (by omega) (by omega)
    refine ⟨T2, ?_, fun q h1 h2 => ?_, fun q hq => ?_, a3, fun r hr => (a4 r hr).trans (A_n hr)⟩
    · show B_copies_2 (J_copies_2 m) x y (nI k) T = _
      unfold B_copies_2
      rw [hx, hy, if_neg (nI_ge (show k < N by omega) (by omega))]
      simp only [nI_rd (show k < N by omega) (show N < 2 ^ 31 by omega), nI_st (show k < N by omega) (show N < 2 ^ 31 by omega), nI_add, bdS]
      exact s2
    · by_cases e : q = k
      · subst e; rw [a2 _ (by omega), A_s, upd_s]
      · rw [a1 q (by omega) h2, A_n hxy]
    · rw [a2 q (by omega), A_s, upd_n (by omega)]
theorem J_copies_e {x y N : Nat} {T : tw_T} (hx : tw_len x = N) (hy : tw_len y = N) (hxy : x ≠ y) (hN : N < 60000) : ∃ T', J_copies x y T = some T' ∧ (∀ q, q < N → T'.2.2 y q = T.2.2 x q) ∧ T'.1 = T.1 ∧ ∀ r, r ≠ y → T'.2.2 r = T.2.2 r := by
  obtain ⟨T', s, a1, -, a3, a4⟩ := J_cpy hx hy hxy hN N 0 NN T (by omega) (by unfold NN; omega)
  exact ⟨T', s, fun q hq => a1 q (by omega) hq, a3, a4⟩
