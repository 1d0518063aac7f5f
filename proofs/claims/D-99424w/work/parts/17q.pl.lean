/-! the plain law: the twin restores -/
set_option maxRecDepth 100000
theorem J_restore_e {T : tw_T} {R : Nat → Int32} {n : Nat} {A : Nat → Nat → Int32} {S : seT} (h : isIm T R n A S) : ∃ T', J_restore T = some (nI 1, T') ∧ isRw T' 0 R ∧ isAc T' n A ∧ sJ T' S ∧ T'.1 0 = 0 ∧ (∀ k, k ≠ 0 → k ≠ 44 → k ≠ 52 → T'.1 k = T.1 k) ∧ ∀ r, r ≠ 20 → r ≠ 21 → r ≠ 28 → T'.2.2 r = T.2.2 r := by
  obtain ⟨h57, h58, h40, h59, h8, i1, i2, i3⟩ := h
  obtain ⟨T4, hT4⟩ : ∃ T4, T4 = tw_F (tw_F (tw_F T 0 (nI 0)) 44 (nI n)) 52 (nI S.1) := ⟨_, rfl⟩
  have e57 : (tw_F T 0 (nI 0)).1 57 = nI 1 := (F_n (by decide)).trans h57
  have e58 : (tw_F T 0 (nI 0)).1 58 = nI n := (F_n (by decide)).trans h58
  have e59 : (tw_F (tw_F T 0 (nI 0)) 44 (nI n)).1 59 = nI S.1 := by rw [F_n (by decide), F_n (by decide)]; exact h59
  have a4 : T4.2.2 = T.2.2 := by rw [hT4]; rfl
  obtain ⟨T5, s5, b1, b2, b3, b4, b5⟩ := J_rs32 (R := fun q => T.2.2 31 q) 85 0 NN T4 (fun q h => by rw [a4]) (fun q h => by omega) (by omega) (by unfold NN; omega)
  have us2 : ∀ {k : Nat}, us T5 k → us T k := fun h => h.k (by rw [b4, hT4, F_n (by decide), F_n (by decide), F_n (by decide)]) (by rw [b4, hT4, F_n (by decide), F_n (by decide), F_n (by decide)])
  refine ⟨T5, ?_, fun q hq hu => by rw [Nat.zero_add]; exact (b1 q hq).trans (i1 q hq (us2 hu)), ⟨?_, h40, fun i k hi hk hu => ?_⟩, ⟨?_, fun i hi => ?_⟩, ?_, fun k h1 h2 h3 => ?_, fun r h1 h2 h3 => (b5 r h1 h2 h3).trans (congrFun a4 r)⟩
  · unfold J_restore
    simp only [e57, e58, e59, bdS]
    rw [if_neg s1_ne, ← hT4]
    exact s5
  · rw [b4, hT4, F_n (by decide), F_s]
  · rw [b2 _ (by omega), a4]; exact i2 i k hi hk (us2 hu)
  · rw [b4, hT4, F_s]
  · rw [b3 _ (by omega), b3 _ (by omega), b3 _ (by omega), a4]; exact i3 i hi
  · rw [b4, hT4, F_n (by decide), F_n (by decide)]; exact F_00
  · rw [b4, hT4, F_n h3, F_n h2, F_n h1]
