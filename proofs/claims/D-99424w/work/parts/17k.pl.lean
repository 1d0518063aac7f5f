/-! the plain law: the twin takes an act back -/
set_option maxRecDepth 100000
theorem J_un26 {n : Nat} (hn : n < 40) : ∀ (c k m : Nat) (T : tw_T), T.1 44 = nI n → k + c = 85 → c < m → ∃ T', J_undo_26 m (nI k) T = some (nI n, T') ∧ (∀ q, k ≤ q → q < 85 → T'.2.2 20 q = T.2.2 21 (85 * n + q)) ∧ (∀ q, ¬ (k ≤ q ∧ q < 85) → T'.2.2 20 q = T.2.2 20 q) ∧ T'.1 = T.1 ∧ ∀ r, r ≠ 20 → T'.2.2 r = T.2.2 r := by
  intro c
  induction c with
  | zero =>
    intro k m T h44 hk hm
    obtain ⟨m, rfl⟩ : ∃ z, m = z + 1 := ⟨m - 1, by omega⟩
    refine ⟨T, ?_, fun q h1 h2 => by omega, fun _ _ => rfl, rfl, fun _ _ => rfl⟩
    show B_undo_26 (J_undo_26 m) (nI k) T = _
    unfold B_undo_26
    rw [if_pos (nI_le (by omega) (by omega)), h44]
  | succ c ih =>
    intro k m T h44 hk hm
    obtain ⟨m, rfl⟩ : ∃ z, m = z + 1 := ⟨m - 1, by omega⟩
    obtain ⟨T2, s2, a1, a2, a3, a4⟩ := ih (k + 1) m (tw_A T 20 (upd (T.2.2 20) k (T.2.2 21 (85 * n + k)))) h44 (by omega) (by omega)
    refine ⟨T2, ?_, fun q h1 h2 => ?_, fun q hq => ?_, a3, fun r hr => (a4 r hr).trans (A_n hr)⟩
    · show B_undo_26 (J_undo_26 m) (nI k) T = _
      unfold B_undo_26
      rw [if_neg (nI_ge (show k < 85 by omega) (by omega)), h44]
      simp only [pk_mul, nI_add, nI_rd (show 85 * n + k < 3400 by omega) (show 3400 < 2 ^ 31 by omega), nI_st (show k < 170 by omega) (show 170 < 2 ^ 31 by omega), bdS]
      exact s2
    · by_cases e : q = k
      · subst e; rw [a2 _ (by omega), A_s, upd_s]
      · rw [a1 q (by omega) h2, A_n (by decide)]
    · rw [a2 q (by omega), A_s, upd_n (by omega)]
theorem J_undo_e {T : tw_T} {n : Nat} {A : Nat → Nat → Int32} (h : isAc T (n + 1) A) : ∃ T', J_undo T = some (nI n, T') ∧ isAc T' n A ∧ isRw T' 0 (A n) ∧ T'.1 0 = 0 ∧ (∀ k, k ≠ 0 → k ≠ 44 → T'.1 k = T.1 k) ∧ ∀ r, r ≠ 20 → T'.2.2 r = T.2.2 r := by
  obtain ⟨h44, h40, hA⟩ := h
  have z : (tw_F T 0 (nI 0)).1 44 = nI (n + 1) := (F_n (by decide)).trans h44
  obtain ⟨T2, s2, a1, a2, a3, a4⟩ := J_un26 (n := n) (by omega) 85 0 NN (tw_F (tw_F T 0 (nI 0)) 44 (nI n)) F_s (by omega) (by unfold NN; omega)
  have us2 : ∀ {k : Nat}, us T2 k → us T k := fun h => h.k (by rw [a3, F_n (by decide), F_n (by decide)]) (by rw [a3, F_n (by decide), F_n (by decide)])
  refine ⟨T2, ?_, ⟨by rw [a3]; exact F_s, by omega, fun i k hi hk hu => ?_⟩, fun k hk hu => ?_, by rw [a3, F_n (by decide)]; exact F_00, fun k h1 h2 => by rw [a3, F_n h2, F_n h1], fun r hr => a4 r hr⟩
  · unfold J_undo
    simp only [z, bdS]
    rw [if_neg (nI_ne0 (by omega) (by omega)), pk_sub (by omega), show n + 1 - 1 = n by omega]
    exact s2
  · rw [a4 21 (by decide)]
    exact hA i k (by omega) hk (us2 hu)
  · rw [Nat.zero_add, a1 k (by omega) hk]
    exact hA n k (by omega) hk (us2 hu)
theorem J_undo_0 {T : tw_T} {A : Nat → Nat → Int32} (h : isAc T 0 A) : J_undo T = some (-1, tw_F T 0 (nI 0)) := by
  have z : (tw_F T 0 (nI 0)).1 44 = 0 := (F_n (by decide)).trans h.1
  unfold J_undo
  simp only [z, if_true, bdS]
