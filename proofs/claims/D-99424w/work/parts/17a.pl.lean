/-! the plain law: lists that grow -/
set_option maxRecDepth 100000
abbrev vObj : FieldType := .object "java/lang/Object"
/-- an array of references, what lies in it -/
def obE (b : Bool) (n : Nat) (g : Nat → Option Nat) : vv_E := (b, .inl (vObj, n, .inr (.inr (.inr (.inr g)))))
/-- a list that grows at l, its array e: n of g -/
def isMl (σ : vv_S) (ad : Nat → Nat) (l e n : Nat) (g : Nat → Nat) : Prop := ∃ (mc : Int32) (b : Bool) (cap : Nat) (gg : Nat → Option Nat), σ.1 l = some (true, .inr (11, [.int mc, .ref e, .int (nI n)])) ∧ σ.1 e = some (obE b cap gg) ∧ (cap = 0 ∨ b = true) ∧ (cap = 0 ↔ e = ad 0) ∧ n ≤ cap ∧ cap ≤ 2 * n + 10 ∧ (∀ i, i < n → gg i = some (g i) ∧ anyK σ "java/lang/Object" (g i) = true) ∧ ∀ i, n ≤ i → i < cap → gg i = none
section ML
variable {σ : vv_S} {ad : Nat → Nat} {l e n v : Nat} {g : Nat → Nat}
theorem isMl.li (h : isMl σ ad l e n g) (hn : n ≤ 1000) : isLi σ.1 l n g := by
  obtain ⟨mc, b, cap, gg, h1, h2, -, -, h5, h6, h7, -⟩ := h
  exact ⟨true, b, mc, e, cap, gg, h1, h2, h5, by omega, fun i hi => (h7 i hi).1⟩
theorem isMl.ke {σ' : vv_S} (h : isMl σ ad l e n g) (h1 : σ'.1 l = σ.1 l) (h2 : σ'.1 e = σ.1 e) (h3 : ∀ i, i < n → anyK σ "java/lang/Object" (g i) = true → anyK σ' "java/lang/Object" (g i) = true) : isMl σ' ad l e n g := by
  obtain ⟨mc, b, cap, gg, k1, k2, k3, k4, k5, k6, k7, k8⟩ := h
  exact ⟨mc, b, cap, gg, h1.trans k1, h2.trans k2, k3, k4, k5, k6, fun i hi => ⟨(k7 i hi).1, h3 i hi (k7 i hi).2⟩, k8⟩
theorem sh_1 : ∀ m, m < 2048 → nI m >>> (nI 1 &&& 31) = nI (m / 2) := by decide +kernel
/-- a new list -/
theorem K_linit (hl : ∃ fs, σ.1 l = some (true, .inr (11, fs)) ∧ fs = [.int 0, .null, .int 0]) (h0 : ∃ b gg, σ.1 (ad 0) = some (obE b 0 gg)) : ∃ σ', KJ2_init ad l σ = some σ' ∧ isMl σ' ad l (ad 0) 0 g ∧ fr (fun q => q = l) σ σ' := by
  obtain ⟨fs, h1, rfl⟩ := hl
  obtain ⟨b, gg, h2⟩ := h0
  have hne : ad 0 ≠ l := fun e => by rw [e, h1] at h2; cases h2
  have e1 : pF σ l 11 0 (.int (nI 0)) = some (vv_up σ.1 l (true, .inr (11, [.int (nI 0), .null, .int 0])), σ.2) := by unfold pF; rw [h1]; rfl
  have e2 : pF (vv_up σ.1 l (true, .inr (11, [.int (nI 0), .null, .int 0])), σ.2) l 11 1 (.ref (ad 0)) = some (vv_up (vv_up σ.1 l (true, .inr (11, [.int (nI 0), .null, .int 0]))) l (true, .inr (11, [.int (nI 0), .ref (ad 0), .int 0])), σ.2) := by
    unfold pF
    dsimp only
    rw [up_s]
    rfl
  refine ⟨(vv_up (vv_up σ.1 l (true, .inr (11, [.int (nI 0), .null, .int 0]))) l (true, .inr (11, [.int (nI 0), .ref (ad 0), .int 0])), σ.2), ?_, ⟨nI 0, b, 0, gg, ?_, ?_, Or.inl rfl, ⟨fun _ => rfl, fun _ => rfl⟩, by omega, by omega, fun i hi => by omega, fun i _ hi => by omega⟩, rfl, fun q hq => ?_⟩
  · have e0 : KJ0_init l = some () := rfl
    unfold KJ2_init KJ1_init
    simp only [e0, e1, e2, bdS]
  · show (vv_up _ l _) l = _
    rw [up_s]; rfl
  · show (vv_up _ l _) (ad 0) = _
    rw [up_n hne, up_n hne]
    exact h2
  · show (vv_up _ l _) q = _
    rw [up_n hq, up_n hq]
end ML
