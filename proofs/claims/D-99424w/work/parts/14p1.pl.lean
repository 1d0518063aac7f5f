/-! the plain law: rows, Coasts -/
set_option maxRecDepth 100000
theorem nI_rd {n i : Nat} {f : Nat → Int32} (h : i < n) (hn : n < 2 ^ 31) : rdI n f (nI i) = some (f i) := by
  unfold rdI
  rw [if_neg (nI_in h hn), nI_clamp (Nat.lt_trans h hn)]
theorem upd_s {f : Nat → Int32} {k : Nat} {x : Int32} : upd f k x k = x := by unfold upd; rw [if_pos rfl]
theorem upd_n {f : Nat → Int32} {k j : Nat} {x : Int32} (h : j ≠ k) : upd f k x j = f j := by unfold upd; rw [if_neg h]
theorem up_n {h : Nat → Option vv_E} {a q : Nat} {e : vv_E} (hq : q ≠ a) : vv_up h a e q = h q := by unfold vv_up; rw [if_neg hq]
/-- where a Coast's nine arrays begin in a row; how long they are -/
def ro_b : Nat → Nat
  | 0 => 1
  | 1 => 9
  | 2 => 17
  | 3 => 25
  | 4 => 35
  | 5 => 45
  | 6 => 55
  | 7 => 65
  | 8 => 75
  | _ => 0
def ro_n (j : Nat) : Nat := if j < 3 then 8 else 10
theorem ro_lt : ∀ j, j < 9 → ∀ k, k < 9 → j < k → ro_b j + ro_n j ≤ ro_b k := by decide
theorem ro_ge : ∀ j, j < 9 → 1 ≤ ro_b j := by decide
theorem ro_10 : ∀ j, j < 9 → ro_n j ≤ 10 := by decide
theorem ro_ne {j k i q : Nat} (hj : j < 9) (hk : k < 9) (h : j ≠ k) (hi : i < ro_n j) (hq : q < ro_n k) : ro_b k + q ≠ ro_b j + i := by
  rcases Nat.lt_or_gt_of_ne h with h1 | h1
  · have := ro_lt j hj k hk h1
    omega
  · have := ro_lt k hk j hj h1
    omega
abbrev coS (a x0 : Nat) (day lo : Int32) : List Value := [.ref (a + 1), .ref (a + 1 + 1), .ref (a + 1 + 2), .ref (a + 1 + 3), .ref (a + 1 + 4), .ref (a + 1 + 5), .ref (a + 1 + 6), .ref (a + 1 + 7), .ref (a + 1 + 8), .int day, .int lo, .ref x0]
/-- a Coast at a, its arrays behind it, its row R, its losers lo -/
def isCo (σ : vv_S) (x0 a : Nat) (R : Nat → Int32) (lo : Int32) : Prop := σ.1 a = some (true, .inr (2, coS a x0 (R 0) lo)) ∧ ∀ j, j < 9 → ∃ f, σ.1 (a + 1 + j) = some (true, .inl (.int, ro_n j, .inl f)) ∧ ∀ i, i < ro_n j → f i = R (ro_b j + i)
/-- only where S says so may something have changed, nothing was made -/
def fr (S : Nat → Prop) (σ σ' : vv_S) : Prop := σ'.2 = σ.2 ∧ ∀ q, ¬ S q → σ'.1 q = σ.1 q
theorem fr.rf {S : Nat → Prop} {σ : vv_S} : fr S σ σ := ⟨rfl, fun _ _ => rfl⟩
theorem fr.tr {S : Nat → Prop} {σ σ1 σ2 : vv_S} (h1 : fr S σ σ1) (h2 : fr S σ1 σ2) : fr S σ σ2 := ⟨h2.1.trans h1.1, fun q hq => (h2.2 q hq).trans (h1.2 q hq)⟩
theorem fr.mo {S S' : Nat → Prop} {σ σ' : vv_S} (h : fr S σ σ') (hS : ∀ q, S q → S' q) : fr S' σ σ' := ⟨h.1, fun q hq => h.2 q fun h9 => hq (hS q h9)⟩
abbrev coA (a : Nat) : Nat → Prop := fun q => a ≤ q ∧ q < a + 10
theorem isCo.ke {σ σ' : vv_S} {x0 a : Nat} {R : Nat → Int32} {lo : Int32} (h : isCo σ x0 a R lo) (hq : ∀ q, a ≤ q → q < a + 10 → σ'.1 q = σ.1 q) : isCo σ' x0 a R lo := by
  refine ⟨(hq a (Nat.le_refl _) (by omega)).trans h.1, fun j hj => ?_⟩
  obtain ⟨f, h1, h2⟩ := h.2 j hj
  exact ⟨f, (hq _ (by omega) (by omega)).trans h1, h2⟩
theorem isCo.ext {σ : vv_S} {x0 a : Nat} {R R' : Nat → Int32} {lo : Int32} (h : isCo σ x0 a R lo) (hR : ∀ k, k < 85 → R' k = R k) : isCo σ x0 a R' lo := by
  refine ⟨by rw [hR 0 (by omega)]; exact h.1, fun j hj => ?_⟩
  obtain ⟨f, h1, h2⟩ := h.2 j hj
  refine ⟨f, h1, fun i hi => ?_⟩
  have hlt : ro_b j + i < 85 := by
    have := (by decide : ∀ j, j < 9 → ro_b j + ro_n j ≤ 85) j hj
    omega
  rw [h2 i hi, hR _ hlt]
section CO
variable {σ : vv_S} {x0 a : Nat} {R : Nat → Int32} {lo : Int32}
theorem co_o (h : isCo σ x0 a R lo) : isO σ a 2 = some () := by
  unfold isO
  rw [h.1]
  rfl
theorem co_R (h : isCo σ x0 a R lo) {j : Nat} (hj : j < 9) : gR σ a 2 j = some (a + 1 + j) := by
  unfold gR gV
  rw [h.1]
  rcases (show j = 0 ∨ j = 1 ∨ j = 2 ∨ j = 3 ∨ j = 4 ∨ j = 5 ∨ j = 6 ∨ j = 7 ∨ j = 8 by omega) with rfl | rfl | rfl | rfl | rfl | rfl | rfl | rfl | rfl <;> rfl
theorem co_9 (h : isCo σ x0 a R lo) : gI σ a 2 9 = some (R 0) := by
  unfold gI gV
  rw [h.1]
  rfl
theorem co_10 (h : isCo σ x0 a R lo) : gI σ a 2 10 = some lo := by
  unfold gI gV
  rw [h.1]
  rfl
theorem co_11 (h : isCo σ x0 a R lo) : gR σ a 2 11 = some x0 := by
  unfold gR gV
  rw [h.1]
  rfl
theorem co_aI (h : isCo σ x0 a R lo) {j i : Nat} (hj : j < 9) (hi : i < ro_n j) : aI σ .int (a + 1 + j) (nI i) = some (R (ro_b j + i)) := by
  obtain ⟨f, h1, h2⟩ := h.2 j hj
  unfold aI
  rw [h1]
  show (if FieldType.int = FieldType.int then rdI (ro_n j) f (nI i) else none) = _
  rw [if_pos rfl, nI_rd hi (by have := ro_10 j hj; omega), h2 i hi]
theorem co_sI (h : isCo σ x0 a R lo) {j i : Nat} {v : Int32} (hj : j < 9) (hi : i < ro_n j) : ∃ σ', sI σ (a + 1 + j) (nI i) v = some σ' ∧ isCo σ' x0 a (upd R (ro_b j + i) v) lo ∧ fr (coA a) σ σ' := by
  obtain ⟨f, h1, h2⟩ := h.2 j hj
  have hn := ro_10 j hj
  have hge := ro_ge j hj
  refine ⟨(vv_up σ.1 (a + 1 + j) (true, .inl (.int, ro_n j, .inl (upd f i v))), σ.2), ?_, ⟨?_, fun k hk => ?_⟩, rfl, fun q hq => up_n (by have hq : ¬ (a ≤ q ∧ q < a + 10) := hq; omega)⟩
  · unfold sI
    rw [h1]
    show (if FieldType.int = FieldType.int ∧ ¬ ((nI i) < 0 ∨ ro_n j ≤ (nI i).toNatClampNeg) then _ else none) = _
    rw [if_pos ⟨rfl, nI_in hi (by omega)⟩, nI_clamp (by omega)]
  · rw [upd_n (by omega)]
    exact (up_n (by omega)).trans h.1
  · by_cases hkj : k = j
    · subst hkj
      refine ⟨upd f i v, vv_up_at, fun q hq => ?_⟩
      by_cases hqi : q = i
      · subst hqi; rw [upd_s, upd_s]
      · rw [upd_n hqi, upd_n (by omega), h2 q hq]
    · obtain ⟨g, h3, h4⟩ := h.2 k hk
      refine ⟨g, (up_n (by omega)).trans h3, fun q hq => ?_⟩
      rw [upd_n (ro_ne hj hk (fun e => hkj e.symm) hi hq), h4 q hq]
theorem co_p9 (h : isCo σ x0 a R lo) {v : Int32} : ∃ σ', pF σ a 2 9 (.int v) = some σ' ∧ isCo σ' x0 a (upd R 0 v) lo ∧ fr (coA a) σ σ' := by
  refine ⟨(vv_up σ.1 a (true, .inr (2, coS a x0 v lo)), σ.2), ?_, ⟨by rw [upd_s]; exact vv_up_at, fun k hk => ?_⟩, rfl, fun q hq => up_n (by have hq : ¬ (a ≤ q ∧ q < a + 10) := hq; omega)⟩
  · unfold pF
    rw [h.1]
    rfl
  · obtain ⟨g, h3, h4⟩ := h.2 k hk
    refine ⟨g, (up_n (by omega)).trans h3, fun q hq => ?_⟩
    have := ro_ge k hk
    rw [upd_n (by omega), h4 q hq]
theorem co_p10 (h : isCo σ x0 a R lo) {v : Int32} : ∃ σ', pF σ a 2 10 (.int v) = some σ' ∧ isCo σ' x0 a R v ∧ fr (coA a) σ σ' := by
  refine ⟨(vv_up σ.1 a (true, .inr (2, coS a x0 (R 0) v)), σ.2), ?_, ⟨vv_up_at, fun k hk => ?_⟩, rfl, fun q hq => up_n (by have hq : ¬ (a ≤ q ∧ q < a + 10) := hq; omega)⟩
  · unfold pF
    rw [h.1]
    rfl
  · obtain ⟨g, h3, h4⟩ := h.2 k hk
    exact ⟨g, (up_n (by omega)).trans h3, h4⟩
end CO
