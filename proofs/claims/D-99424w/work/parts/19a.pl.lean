/-! the plain law: texts, their tokens -/
set_option maxRecDepth 100000
/-- a text: how long, its bytes -/
abbrev txT : Type := Nat × (Nat → Nat)
def isSp (c : Nat) : Bool := c == 32 || c == 10
def isLe (c : Nat) : Bool := decide (97 ≤ c) && decide (c ≤ 122)
def isDi (c : Nat) : Bool := decide (48 ≤ c) && decide (c ≤ 57)
def isSg (c : Nat) : Bool := c == 59 || (c == 40 || (c == 41 || (c == 43 || (c == 45 || (c == 42 || (c == 47 || (c == 60 || c == 61)))))))
def run (f : Nat → Bool) (x : txT) : Nat → Nat → Nat
  | 0, p => p
  | k + 1, p => if p < x.1 ∧ f (x.2 p) = true then run f x k (p + 1) else p
/-- behind all that are so -/
def ru (f : Nat → Bool) (x : txT) (p : Nat) : Nat := run f x (x.1 - p) p
section TX
variable {f : Nat → Bool} {x : txT} {p b : Nat}
theorem ru_s (h : p < x.1) (h2 : f (x.2 p) = true) : ru f x p = ru f x (p + 1) := by
  unfold ru
  rw [show x.1 - p = (x.1 - (p + 1)) + 1 by omega]
  show (if p < x.1 ∧ f (x.2 p) = true then run f x (x.1 - (p + 1)) (p + 1) else p) = _
  rw [if_pos ⟨h, h2⟩]
theorem ru_0 (h : ¬ (p < x.1 ∧ f (x.2 p) = true)) : ru f x p = p := by
  unfold ru
  cases e : x.1 - p with
  | zero => rfl
  | succ k =>
    show (if p < x.1 ∧ f (x.2 p) = true then run f x k (p + 1) else p) = _
    rw [if_neg h]
theorem ru_i : ∀ (c p : Nat), p + c = x.1 → p ≤ ru f x p ∧ ru f x p ≤ x.1 ∧ (∀ q, p ≤ q → q < ru f x p → f (x.2 q) = true) ∧ ¬ (ru f x p < x.1 ∧ f (x.2 (ru f x p)) = true) := by
  intro c
  induction c with
  | zero =>
    intro p hp
    have h : ¬ (p < x.1 ∧ f (x.2 p) = true) := fun z => by omega
    rw [ru_0 h]
    exact ⟨Nat.le_refl _, by omega, fun q h1 h2 => by omega, h⟩
  | succ c ih =>
    intro p hp
    by_cases h : p < x.1 ∧ f (x.2 p) = true
    · obtain ⟨h1, h2, h3, h4⟩ := ih (p + 1) (by omega)
      rw [ru_s h.1 h.2]
      refine ⟨by omega, h2, fun q q1 q2 => ?_, h4⟩
      by_cases e : q = p
      · rw [e]; exact h.2
      · exact h3 q (by omega) q2
    · rw [ru_0 h]
      exact ⟨Nat.le_refl _, by omega, fun q h1 h2 => by omega, h⟩
theorem ru_ge (hp : p ≤ x.1) : p ≤ ru f x p := (ru_i (x.1 - p) p (by omega)).1
theorem ru_le (hp : p ≤ x.1) : ru f x p ≤ x.1 := (ru_i (x.1 - p) p (by omega)).2.1
theorem ru_al (hp : p ≤ x.1) : ∀ q, p ≤ q → q < ru f x p → f (x.2 q) = true := (ru_i (x.1 - p) p (by omega)).2.2.1
theorem ru_gt (h : p < x.1) (h2 : f (x.2 p) = true) : p < ru f x p := by
  rw [ru_s h h2]
  exact ru_ge (by omega)
end TX
/-- of a token that begins at b: its kind, its end; the next one's beginning -/
def kiT (x : txT) (b : Nat) : Nat := if x.1 ≤ b then 0 else if isLe (x.2 b) = true then 1 else if isDi (x.2 b) = true then 2 else if isSg (x.2 b) = true then 3 else 4
def enT (x : txT) (b : Nat) : Nat := if kiT x b = 0 then b else if kiT x b = 1 then ru isLe x b else if kiT x b = 2 then ru isDi x b else b + 1
def nxT (x : txT) (b : Nat) : Nat := ru isSp x (enT x b)
/-- its number, its word's sum: so many signs of it -/
def vlT (x : txT) (b : Nat) : Nat → Nat
  | 0 => 0
  | k + 1 => 10 * vlT x b k + (x.2 (b + k) - 48)
def hsT (f : Nat → Nat) : Nat → Nat
  | 0 => 0
  | k + 1 => hsT f k * 32 + (f k - 96)
section TK
variable {x : txT} {p b : Nat}
theorem di_b {c : Nat} (h : isDi c = true) : 48 ≤ c ∧ c ≤ 57 := by
  unfold isDi at h
  simp only [Bool.and_eq_true, decide_eq_true_eq] at h
  exact h
theorem le_b {c : Nat} (h : isLe c = true) : 97 ≤ c ∧ c ≤ 122 := by
  unfold isLe at h
  simp only [Bool.and_eq_true, decide_eq_true_eq] at h
  exact h
theorem di_n {c : Nat} (h : ¬ isDi c = true) : c < 48 ∨ 57 < c := by
  unfold isDi at h
  simp only [Bool.and_eq_true, decide_eq_true_eq] at h
  omega
theorem le_n {c : Nat} (h : ¬ isLe c = true) : c < 97 ∨ 122 < c := by
  unfold isLe at h
  simp only [Bool.and_eq_true, decide_eq_true_eq] at h
  omega
theorem en_b (hb : b ≤ x.1) : b ≤ enT x b ∧ enT x b ≤ x.1 ∧ (b < x.1 → b < enT x b) := by
  unfold enT
  by_cases h0 : kiT x b = 0
  · rw [if_pos h0]
    refine ⟨Nat.le_refl _, hb, fun h => ?_⟩
    unfold kiT at h0
    rw [if_neg (by omega)] at h0
    split at h0
    · omega
    · split at h0
      · omega
      · split at h0 <;> omega
  · have hlt : b < x.1 := by
      by_cases h : x.1 ≤ b
      · exfalso
        apply h0
        unfold kiT
        rw [if_pos h]
      · omega
    rw [if_neg h0]
    by_cases h1 : kiT x b = 1
    · rw [if_pos h1]
      have hl : isLe (x.2 b) = true := by
        unfold kiT at h1
        rw [if_neg (by omega)] at h1
        split at h1
        · assumption
        · split at h1
          · omega
          · split at h1 <;> omega
      exact ⟨ru_ge hb, ru_le hb, fun _ => ru_gt hlt hl⟩
    · rw [if_neg h1]
      by_cases h2 : kiT x b = 2
      · rw [if_pos h2]
        have hl : isDi (x.2 b) = true := by
          unfold kiT at h2
          rw [if_neg (by omega)] at h2
          split at h2
          · omega
          · split at h2
            · assumption
            · split at h2 <;> omega
        exact ⟨ru_ge hb, ru_le hb, fun _ => ru_gt hlt hl⟩
      · rw [if_neg h2]
        exact ⟨by omega, by omega, fun _ => by omega⟩
theorem nx_b (hb : b ≤ x.1) : b ≤ nxT x b ∧ nxT x b ≤ x.1 ∧ (b < x.1 → b < nxT x b) := by
  obtain ⟨h1, h2, h3⟩ := en_b hb
  have h4 := ru_ge (f := isSp) h2
  have h5 := ru_le (f := isSp) h2
  unfold nxT
  exact ⟨by omega, h5, fun h => by have := h3 h; omega⟩
theorem ki_0 (h : x.1 ≤ b) : kiT x b = 0 := by unfold kiT; rw [if_pos h]
theorem ki_1 (h : b < x.1) (h1 : isLe (x.2 b) = true) : kiT x b = 1 := by unfold kiT; rw [if_neg (by omega), if_pos h1]
theorem ki_2 (h : b < x.1) (h1 : ¬ isLe (x.2 b) = true) (h2 : isDi (x.2 b) = true) : kiT x b = 2 := by unfold kiT; rw [if_neg (by omega), if_neg h1, if_pos h2]
theorem ki_3 (h : b < x.1) (h1 : ¬ isLe (x.2 b) = true) (h2 : ¬ isDi (x.2 b) = true) (h3 : isSg (x.2 b) = true) : kiT x b = 3 := by unfold kiT; rw [if_neg (by omega), if_neg h1, if_neg h2, if_pos h3]
theorem ki_4 (h : b < x.1) (h1 : ¬ isLe (x.2 b) = true) (h2 : ¬ isDi (x.2 b) = true) (h3 : ¬ isSg (x.2 b) = true) : kiT x b = 4 := by unfold kiT; rw [if_neg (by omega), if_neg h1, if_neg h2, if_neg h3]
theorem vl_lt : ∀ k, (∀ q, b ≤ q → q < b + k → isDi (x.2 q) = true) → vlT x b k < 10 ^ k := by
  intro k
  induction k with
  | zero => intro _; exact Nat.one_pos
  | succ k ih =>
    intro h
    have h1 := ih fun q q1 q2 => h q q1 (by omega)
    have h2 := di_b (h (b + k) (by omega) (by omega))
    show 10 * vlT x b k + (x.2 (b + k) - 48) < 10 ^ (k + 1)
    rw [Nat.pow_succ]
    omega
end TK
/-! the component's side -/
/-- a Reader's fields: made, begun, names, component -/
abbrev rdF (c : Nat × Nat × Nat × Nat) (N : Nat) (at' tok bg en nu : Int32) : List Value := [.int (nI N), .ref c.1, .ref c.2.1, .ref c.2.2.1, .int at', .int tok, .int bg, .int en, .int nu, .ref c.2.2.2]
/-- a String in the heap -/
def stH (h : Nat → Option vv_E) (s n : Nat) (g : Nat → Nat) : Prop := ∃ (f1 f2 : Bool) (fs : List Value) (v : Nat) (gg : Nat → Int32), h s = some (f1, .inr (14, fs)) ∧ fs[0]? = some (.ref v) ∧ fs[1]? = some (.int 0) ∧ h v = some (f2, .inl (.byte, n, .inl gg)) ∧ ∀ i, i < n → gg i = nI (g i)
def sgL (i : Nat) : Nat := if i = 0 then 59 else if i = 1 then 40 else if i = 2 then 41 else if i = 3 then 43 else if i = 4 then 45 else if i = 5 then 42 else if i = 6 then 47 else if i = 7 then 60 else 61
/-- the text as the component has it -/
def txK (hS : Nat → Option vv_E) (ad : Nat → Nat) (x0 : Nat) (x : txT) : Prop := x.1 ≤ 700 ∧ (∀ q, x.2 q < 256) ∧ (∃ (f1 f2 : Bool) (fs : List Value) (ta : Nat) (tf : Nat → Int32), hS x0 = some (f1, .inr (0, fs)) ∧ fs[3]? = some (.ref ta) ∧ hS ta = some (f2, .inl (.byte, 700, .inl tf)) ∧ ∀ q, q < 700 → rI (tf q) (-128) 127 ∧ tf q &&& nI 255 = nI (x.2 q)) ∧ stH hS (ad 16) 9 sgL
section KT
variable {σ : vv_S} {hS : Nat → Option vv_E} {ad : Nat → Nat} {x : txT} {r p b : Nat} {c : Nat × Nat × Nat × Nat} {t bg en nu w : Int32}
def chI (x : txT) (p : Nat) : Int32 := if p < x.1 then nI (x.2 p) else -1
theorem r_4 (h : σ.1 r = some (true, .inr (4, rdF c x.1 w t bg en nu))) {v : Int32} : ∃ σ', pF σ r 4 4 (.int v) = some σ' ∧ σ'.1 r = some (true, .inr (4, rdF c x.1 v t bg en nu)) ∧ fr (fun q => q = r) σ σ' := ⟨(vv_up σ.1 r (true, .inr (4, rdF c x.1 v t bg en nu)), σ.2), by unfold pF; rw [h]; rfl, up_s, rfl, fun q hq => up_n hq⟩
theorem r_5 (h : σ.1 r = some (true, .inr (4, rdF c x.1 w t bg en nu))) {v : Int32} : ∃ σ', pF σ r 4 5 (.int v) = some σ' ∧ σ'.1 r = some (true, .inr (4, rdF c x.1 w v bg en nu)) ∧ fr (fun q => q = r) σ σ' := ⟨(vv_up σ.1 r (true, .inr (4, rdF c x.1 w v bg en nu)), σ.2), by unfold pF; rw [h]; rfl, up_s, rfl, fun q hq => up_n hq⟩
theorem r_6 (h : σ.1 r = some (true, .inr (4, rdF c x.1 w t bg en nu))) {v : Int32} : ∃ σ', pF σ r 4 6 (.int v) = some σ' ∧ σ'.1 r = some (true, .inr (4, rdF c x.1 w t v en nu)) ∧ fr (fun q => q = r) σ σ' := ⟨(vv_up σ.1 r (true, .inr (4, rdF c x.1 w t v en nu)), σ.2), by unfold pF; rw [h]; rfl, up_s, rfl, fun q hq => up_n hq⟩
theorem r_7 (h : σ.1 r = some (true, .inr (4, rdF c x.1 w t bg en nu))) {v : Int32} : ∃ σ', pF σ r 4 7 (.int v) = some σ' ∧ σ'.1 r = some (true, .inr (4, rdF c x.1 w t bg v nu)) ∧ fr (fun q => q = r) σ σ' := ⟨(vv_up σ.1 r (true, .inr (4, rdF c x.1 w t bg v nu)), σ.2), by unfold pF; rw [h]; rfl, up_s, rfl, fun q hq => up_n hq⟩
theorem r_8 (h : σ.1 r = some (true, .inr (4, rdF c x.1 w t bg en nu))) {v : Int32} : ∃ σ', pF σ r 4 8 (.int v) = some σ' ∧ σ'.1 r = some (true, .inr (4, rdF c x.1 w t bg en v)) ∧ fr (fun q => q = r) σ σ' := ⟨(vv_up σ.1 r (true, .inr (4, rdF c x.1 w t bg en v)), σ.2), by unfold pF; rw [h]; rfl, up_s, rfl, fun q hq => up_n hq⟩
theorem r_g4 (h : σ.1 r = some (true, .inr (4, rdF c x.1 w t bg en nu))) : gI σ r 4 4 = some w := by unfold gI gV; rw [h]; rfl
theorem r_g5 (h : σ.1 r = some (true, .inr (4, rdF c x.1 w t bg en nu))) : gI σ r 4 5 = some t := by unfold gI gV; rw [h]; rfl
theorem r_g6 (h : σ.1 r = some (true, .inr (4, rdF c x.1 w t bg en nu))) : gI σ r 4 6 = some bg := by unfold gI gV; rw [h]; rfl
theorem r_g7 (h : σ.1 r = some (true, .inr (4, rdF c x.1 w t bg en nu))) : gI σ r 4 7 = some en := by unfold gI gV; rw [h]; rfl
theorem r_g8 (h : σ.1 r = some (true, .inr (4, rdF c x.1 w t bg en nu))) : gI σ r 4 8 = some nu := by unfold gI gV; rw [h]; rfl
theorem r_g0 (h : σ.1 r = some (true, .inr (4, rdF c x.1 w t bg en nu))) : gI σ r 4 0 = some (nI x.1) := by unfold gI gV; rw [h]; rfl
theorem r_g9 (h : σ.1 r = some (true, .inr (4, rdF c x.1 w t bg en nu))) : gR σ r 4 9 = some c.2.2.2 := by unfold gR gV; rw [h]; rfl
theorem r_o (h : σ.1 r = some (true, .inr (4, rdF c x.1 w t bg en nu))) : isO σ r 4 = some () := by unfold isO; rw [h]; rfl
theorem aB_at {s n i : Nat} {f : Nat → Int32} {g : Bool} (h : σ.1 s = some (g, .inl (.byte, n, .inl f))) (hi : i < n) (hn : n < 2 ^ 31) : aI σ .byte s (nI i) = some (f i) := by
  unfold aI
  rw [h]
  show (if FieldType.byte = FieldType.byte then rdI n f (nI i) else none) = _
  rw [if_pos rfl, nI_rd hi hn]
/-- the tape's byte -/
theorem K_byte (X : txK hS ad c.2.2.2 x) (hs : sub hS σ.1) : ∃ (ta : Nat) (tf : Nat → Int32), gR σ c.2.2.2 0 3 = some ta ∧ (∀ q, q < 700 → aI σ .byte ta (nI q) = some (tf q) ∧ rI (tf q) (-128) 127 ∧ tf q &&& nI 255 = nI (x.2 q)) := by
  obtain ⟨h7, hb, ⟨f1, f2, fs, ta, tf, h1, h2, h3, h4⟩, -⟩ := X
  refine ⟨ta, tf, ?_, fun q hq => ⟨aB_at (hs _ _ h3) hq (by omega), h4 q hq⟩⟩
  unfold gR gV
  rw [hs _ _ h1]
  show (if 0 = 0 then fs[3]? else none).bind asR = _
  rw [if_pos rfl, h2]
  rfl
theorem K_here (X : txK hS ad c.2.2.2 x) (hs : sub hS σ.1) (h : σ.1 r = some (true, .inr (4, rdF c x.1 (nI p) t bg en nu))) (hp : p ≤ x.1) : KX5_here r σ = some (chI x p) := by
  obtain ⟨ta, tf, e1, e2⟩ := K_byte X hs
  have h7 := X.1
  unfold KX5_here KX5_here_31 chI
  simp only [r_g4 h, r_g0 h, r_g9 h, e1, bdS]
  by_cases hl : p < x.1
  · obtain ⟨b1, -, b3⟩ := e2 p (by omega)
    rw [if_neg (nI_ge hl (by omega)), if_pos hl, b1, bdS, b3]
  · rw [if_pos (nI_le (by omega) (by omega)), if_neg hl]
theorem K_isLe (X : txK hS ad c.2.2.2 x) (hs : sub hS σ.1) (h : σ.1 r = some (true, .inr (4, rdF c x.1 (nI p) t bg en nu))) (hp : p ≤ x.1) : KX5_isLetter r σ = some (if p < x.1 ∧ isLe (x.2 p) = true then nI 1 else nI 0) := by
  unfold KX5_isLetter
  have hb := X.2.1 p
  simp only [r_o h, K_here X hs h hp, K_in, bdS]
  unfold chI
  by_cases hl : p < x.1
  · rw [if_pos hl]
    by_cases h1 : isLe (x.2 p) = true
    · have := le_b h1
      rw [if_neg (by rw [nI_ltI (by omega) (by omega), nI_ltI (by omega) (by omega)]; omega), if_pos ⟨hl, h1⟩]
      exact zr1
    · have := le_n h1
      rw [if_pos (by rw [nI_ltI (by omega) (by omega), nI_ltI (by omega) (by omega)]; omega), if_neg (fun z => h1 z.2)]
      exact zr0
  · rw [if_neg hl, if_pos (Or.inl (by decide)), if_neg (fun z => hl z.1)]
    exact zr0
theorem K_isDi (X : txK hS ad c.2.2.2 x) (hs : sub hS σ.1) (h : σ.1 r = some (true, .inr (4, rdF c x.1 (nI p) t bg en nu))) (hp : p ≤ x.1) : KX5_isDigit r σ = some (if p < x.1 ∧ isDi (x.2 p) = true then nI 1 else nI 0) := by
  unfold KX5_isDigit
  have hb := X.2.1 p
  simp only [r_o h, K_here X hs h hp, K_in, bdS]
  unfold chI
  by_cases hl : p < x.1
  · rw [if_pos hl]
    by_cases h1 : isDi (x.2 p) = true
    · have := di_b h1
      rw [if_neg (by rw [nI_ltI (by omega) (by omega), nI_ltI (by omega) (by omega)]; omega), if_pos ⟨hl, h1⟩]
      exact zr1
    · have := di_n h1
      rw [if_pos (by rw [nI_ltI (by omega) (by omega), nI_ltI (by omega) (by omega)]; omega), if_neg (fun z => h1 z.2)]
      exact zr0
  · rw [if_neg hl, if_pos (Or.inl (by decide)), if_neg (fun z => hl z.1)]
    exact zr0
end KT
