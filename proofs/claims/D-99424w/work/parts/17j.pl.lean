/-! the plain law: the twin's acts -/
set_option maxRecDepth 100000
/-- n acts, their rows -/
def isAc (T : tw_T) (n : Nat) (A : Nat → Nat → Int32) : Prop := T.1 44 = nI n ∧ n ≤ 40 ∧ ∀ i k, i < n → k < 85 → us T k → T.2.2 21 (85 * i + k) = A i k
/-- only the acts have changed -/
def jA (T T' : tw_T) : Prop := (∀ k, k ≠ 44 → T'.1 k = T.1 k) ∧ ∀ r, r ≠ 21 → T'.2.2 r = T.2.2 r
theorem jA.rf {T : tw_T} : jA T T := ⟨fun _ _ => rfl, fun _ _ => rfl⟩
theorem jA.tr {T T1 T2 : tw_T} (h1 : jA T T1) (h2 : jA T1 T2) : jA T T2 := ⟨fun k a => (h2.1 k a).trans (h1.1 k a), fun r a => (h2.2 r a).trans (h1.2 r a)⟩
theorem J_kp52 {R : Nat → Int32} {n : Nat} (hn : n < 40) : ∀ (c k m : Nat) (T : tw_T), (∀ q, q < 85 → T.2.2 20 q = R q) → T.1 44 = nI n → k + c = 85 → c < m → ∃ T', J_keeps_52 m (nI k) T = some T' ∧ T'.1 44 = nI (n + 1) ∧ (∀ q, k ≤ q → q < 85 → T'.2.2 21 (85 * n + q) = R q) ∧ (∀ q, ¬ (85 * n + k ≤ q ∧ q < 85 * n + 85) → T'.2.2 21 q = T.2.2 21 q) ∧ jA T T' := by
  intro c
  induction c with
  | zero =>
    intro k m T r h44 hk hm
    obtain ⟨m, rfl⟩ : ∃ z, m = z + 1 := ⟨m - 1, by omega⟩
    refine ⟨tw_F T 44 (nI (n + 1)), ?_, F_s, fun q h1 h2 => by omega, fun _ _ => rfl, fun q hq => F_n hq, fun _ _ => rfl⟩
    show B_keeps_52 (J_keeps_52 m) (nI k) T = _
    unfold B_keeps_52
    rw [if_pos (nI_le (by omega) (by omega)), h44, nI_add]
    rfl
  | succ c ih =>
    intro k m T r h44 hk hm
    obtain ⟨m, rfl⟩ : ∃ z, m = z + 1 := ⟨m - 1, by omega⟩
    have f1 : jA T (tw_A T 21 (upd (T.2.2 21) (85 * n + k) (R k))) := ⟨fun _ _ => rfl, fun _ h => A_n h⟩
    obtain ⟨T2, s2, a1, a2, a3, f2⟩ := ih (k + 1) m (tw_A T 21 (upd (T.2.2 21) (85 * n + k) (R k))) (fun q h => by rw [A_n (by decide)]; exact r q h) h44 (by omega) (by omega)
    refine ⟨T2, ?_, a1, fun q h1 h2 => ?_, fun q hq => ?_, f1.tr f2⟩
    · show B_keeps_52 (J_keeps_52 m) (nI k) T = _
      unfold B_keeps_52
      rw [if_neg (nI_ge (show k < 85 by omega) (by omega)), h44]
      simp only [nI_rd (show k < 170 by omega) (show 170 < 2 ^ 31 by omega), r k (by omega), pk_mul, nI_add, nI_st (show 85 * n + k < 3400 by omega) (show 3400 < 2 ^ 31 by omega), bdS]
      exact s2
    · by_cases e : q = k
      · subst e; rw [a3 _ (by omega), A_s, upd_s]
      · exact a2 q (by omega) h2
    · rw [a3 q (by omega), A_s, upd_n (by omega)]
theorem J_kp12 {n : Nat} (h44 : ∀ T : tw_T, True) : ∀ (c k m : Nat) (T : tw_T), 85 ≤ k → k + c = 3400 → c < m → ∃ T', J_keeps_12 m (nI k) T = J_keeps_50 (tw_F T' 44 (T.1 44 - nI 1)) ∧ (∀ q, k ≤ q → q < 3400 → T'.2.2 21 (q - 85) = T.2.2 21 q) ∧ (∀ q, ¬ (k ≤ q + 85 ∧ q + 85 < 3400) → T'.2.2 21 q = T.2.2 21 q) ∧ T'.1 = T.1 ∧ jA T T' := by
  intro c
  induction c with
  | zero =>
    intro k m T hk hc hm
    obtain ⟨m, rfl⟩ : ∃ z, m = z + 1 := ⟨m - 1, by omega⟩
    refine ⟨T, ?_, fun q h1 h2 => by omega, fun _ _ => rfl, rfl, jA.rf⟩
    show B_keeps_12 (J_keeps_12 m) (nI k) T = _
    unfold B_keeps_12
    rw [if_pos (nI_le (by omega) (by omega))]
    rfl
  | succ c ih =>
    intro k m T hk hc hm
    obtain ⟨m, rfl⟩ : ∃ z, m = z + 1 := ⟨m - 1, by omega⟩
    have f1 : jA T (tw_A T 21 (upd (T.2.2 21) (k - 85) (T.2.2 21 k))) := ⟨fun _ _ => rfl, fun _ h => A_n h⟩
    obtain ⟨T2, s2, a1, a2, a3, f2⟩ := ih (k + 1) m (tw_A T 21 (upd (T.2.2 21) (k - 85) (T.2.2 21 k))) (by omega) (by omega) (by omega)
    refine ⟨T2, ?_, fun q h1 h2 => ?_, fun q hq => ?_, a3, f1.tr f2⟩
    · show B_keeps_12 (J_keeps_12 m) (nI k) T = _
      unfold B_keeps_12
      rw [if_neg (nI_ge (show k < 3400 by omega) (by omega))]
      simp only [nI_rd (show k < 3400 by omega) (show 3400 < 2 ^ 31 by omega), pk_sub hk, nI_add, nI_st (show k - 85 < 3400 by omega) (show 3400 < 2 ^ 31 by omega), bdS]
      exact s2
    · by_cases e : q = k
      · subst e
        rw [a2 _ (by omega), A_s, upd_s]
      · rw [a1 q (by omega) h2, A_s, upd_n (by omega)]
    · rw [a2 q (by omega), A_s, upd_n (by omega)]
/-- one act more; the oldest goes where there are forty -/
theorem J_keeps_e {T : tw_T} {R : Nat → Int32} {n : Nat} {A : Nat → Nat → Int32} (r : isRw T 0 R) (h : isAc T n A) : ∃ T' n' A', J_keeps T = some T' ∧ isAc T' n' A' ∧ (n < 40 ∧ n' = n + 1 ∧ (∀ i k, i < n → A' i k = A i k) ∧ A' n = R ∨ n = 40 ∧ n' = 40 ∧ (∀ i k, i < 39 → A' i k = A (i + 1) k) ∧ A' 39 = R) ∧ jA T T' := by
  obtain ⟨h44, h40, hA⟩ := h
  unfold J_keeps
  rw [h44]
  by_cases e : n = 40
  · subst e
    rw [if_pos rfl]
    obtain ⟨T1, s1, a1, a2, a3, f1⟩ := J_kp12 (n := 40) (fun _ => trivial) 3315 85 NN T (Nat.le_refl _) (by omega) (by unfold NN; omega)
    have s1 : J_keeps_12 NN (nI 85) T = J_keeps_52 NN (nI 0) (tw_F T1 44 (T.1 44 - nI 1)) := s1
    have r1 : ∀ q, q < 85 → (tw_F T1 44 (T.1 44 - nI 1)).2.2 20 q = T.2.2 20 q := fun q _ => by
      show T1.2.2 20 q = _
      rw [f1.2 20 (by decide)]
    obtain ⟨T2, s2, b1, b2, b3, f2⟩ := J_kp52 (R := fun q => T.2.2 20 q) (n := 39) (by omega) 85 0 NN (tw_F T1 44 (T.1 44 - nI 1)) r1 (by rw [F_s, h44, pk_sub (by omega)]) (by omega) (by unfold NN; omega)
    have f3 : jA T1 (tw_F T1 44 (T.1 44 - nI 1)) := ⟨fun k hk => F_n hk, fun _ _ => rfl⟩
    have fA := (f1.tr f3).tr f2
    have us2 : ∀ {k : Nat}, us T2 k → us T k := fun h => h.k (fA.1 1 (by omega)).symm (fA.1 3 (by omega)).symm
    have rwk : ∀ k, k < 85 → us T2 k → T.2.2 20 k = R k := fun k hk hu => by
      have h9 := r k hk (us2 hu)
      rw [Nat.zero_add] at h9
      exact h9
    refine ⟨T2, 40, fun i => if i = 39 then R else A (i + 1), s1.trans s2, ⟨b1, Nat.le_refl _, fun i k hi hk hu => ?_⟩, Or.inr ⟨rfl, rfl, fun i k hi => by dsimp only; rw [if_neg (by omega)], by dsimp only; rw [if_pos rfl]⟩, (f1.tr f3).tr f2⟩
    dsimp only
    by_cases e : i = 39
    · rw [if_pos e, e, b2 k (by omega) hk]
      exact rwk k hk hu
    · rw [if_neg e, b3 _ (by omega)]
      show T1.2.2 21 (85 * i + k) = _
      have := a1 (85 * (i + 1) + k) (by omega) (by omega)
      rw [show 85 * (i + 1) + k - 85 = 85 * i + k by omega] at this
      rw [this]
      exact hA (i + 1) k (by omega) hk (us2 hu)
  · rw [if_neg (nI_nn e (by omega) (by omega))]
    obtain ⟨T2, s2, b1, b2, b3, f2⟩ := J_kp52 (R := fun q => T.2.2 20 q) (n := n) (by omega) 85 0 NN T (fun _ _ => rfl) h44 (by omega) (by unfold NN; omega)
    have us2 : ∀ {k : Nat}, us T2 k → us T k := fun h => h.k (f2.1 1 (by omega)).symm (f2.1 3 (by omega)).symm
    have rwk : ∀ k, k < 85 → us T2 k → T.2.2 20 k = R k := fun k hk hu => by
      have h9 := r k hk (us2 hu)
      rw [Nat.zero_add] at h9
      exact h9
    refine ⟨T2, n + 1, fun i => if i = n then R else A i, s2, ⟨b1, by omega, fun i k hi hk hu => ?_⟩, Or.inl ⟨by omega, rfl, fun i k hi => by dsimp only; rw [if_neg (by omega)], by dsimp only; rw [if_pos rfl]⟩, f2⟩
    dsimp only
    by_cases e : i = n
    · rw [if_pos e, e, b2 k (by omega) hk]
      exact rwk k hk hu
    · rw [if_neg e, b3 _ (by omega)]
      exact hA i k (by omega) hk (us2 hu)
