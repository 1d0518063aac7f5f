/-! the plain law: the twin's image, and back -/
set_option maxRecDepth 100000
/-- the twin's image: its row, acts, what was seen -/
def isIm (T : tw_T) (R : Nat → Int32) (n : Nat) (A : Nat → Nat → Int32) (S : seT) : Prop := T.1 57 = nI 1 ∧ T.1 58 = nI n ∧ n ≤ 40 ∧ T.1 59 = nI S.1 ∧ S.1 ≤ 8 ∧ (∀ q, q < 85 → us T q → T.2.2 31 q = R q) ∧ (∀ i k, i < n → k < 85 → us T k → T.2.2 32 (85 * i + k) = A i k) ∧ ∀ i, i < S.1 → T.2.2 33 (3 * i) = nI (S.2.1 i) ∧ T.2.2 33 (3 * i + 1) = nI (S.2.2.1 i) ∧ T.2.2 33 (3 * i + 2) = S.2.2.2 i
theorem J_image_e {T : tw_T} {R : Nat → Int32} {n : Nat} {A : Nat → Nat → Int32} {S : seT} (r : isRw T 0 R) (h : isAc T n A) (J : sJ T S) (h8 : S.1 ≤ 8) : ∃ T', J_image T = some T' ∧ isIm T' R n A S ∧ T'.1 0 = 0 ∧ (∀ k, k ≠ 0 → k ≠ 57 → k ≠ 58 → k ≠ 59 → T'.1 k = T.1 k) ∧ ∀ r, r ≠ 31 → r ≠ 32 → r ≠ 33 → T'.2.2 r = T.2.2 r := by
  obtain ⟨h44, h40, hA⟩ := h
  obtain ⟨j1, j2⟩ := J
  obtain ⟨T4, hT4⟩ : ∃ T4, T4 = tw_F (tw_F (tw_F (tw_F T 0 (nI 0)) 57 (nI 1)) 58 (nI n)) 59 (nI S.1) := ⟨_, rfl⟩
  have e44 : (tw_F (tw_F T 0 (nI 0)) 57 (nI 1)).1 44 = nI n := by rw [F_n (by decide), F_n (by decide)]; exact h44
  have e52 : (tw_F (tw_F (tw_F T 0 (nI 0)) 57 (nI 1)) 58 (nI n)).1 52 = nI S.1 := by rw [F_n (by decide), F_n (by decide), F_n (by decide)]; exact j1
  have a4 : T4.2.2 = T.2.2 := by rw [hT4]; rfl
  obtain ⟨T5, s5, b1, b2, b3, b4, b5⟩ := J_im28 (R := fun q => T.2.2 20 q) 85 0 NN T4 (fun q _ => by rw [a4]) (fun q h => by omega) (by omega) (by unfold NN; omega)
  have us2 : ∀ {k : Nat}, us T5 k → us T k := fun h => h.k (by rw [b4, hT4, F_n (by decide), F_n (by decide), F_n (by decide), F_n (by decide)]) (by rw [b4, hT4, F_n (by decide), F_n (by decide), F_n (by decide), F_n (by decide)])
  refine ⟨T5, ?_, ⟨?_, ?_, h40, ?_, h8, fun q hq hu => ?_, fun i k hi hk hu => ?_, fun i hi => ?_⟩, ?_, fun k h1 h2 h3 h4 => ?_, fun r h1 h2 h3 => (b5 r h1 h2 h3).trans (congrFun a4 r)⟩
  · unfold J_image
    simp only [e44, e52, bdS]
    rw [← hT4]
    exact s5
  · rw [b4, hT4, F_n (by decide), F_n (by decide), F_s]
  · rw [b4, hT4, F_n (by decide), F_s]
  · rw [b4, hT4, F_s]
  · have h9 := r q hq (us2 hu)
    rw [Nat.zero_add] at h9
    exact (b1 q hq).trans h9
  · rw [b2 _ (by omega), a4]; exact hA i k hi hk (us2 hu)
  · rw [b3 _ (by omega), b3 _ (by omega), b3 _ (by omega), a4]; exact j2 i hi
  · rw [b4, hT4, F_n (by decide), F_n (by decide), F_n (by decide)]; exact F_00
  · rw [b4, hT4, F_n h4, F_n h3, F_n h2, F_n h1]
