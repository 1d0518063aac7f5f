/-! the plain law: a hold, in plain numbers -/
set_option maxRecDepth 100000
/-- the least harm of what is left behind b -/
def hdX (f cr : Nat) (hm : Nat → Nat → Nat) : Nat → Nat → Nat → Nat
  | 0, _, _ => 0
  | n + 1, left, b => if left = 0 then 0 else lp (fun k v => if left.testBit k = true then min v (hdX f cr hm n (dif left (2 ^ k)) k + hm b k) else v) cr 0 f
def hdH (f cr : Nat) (hm : Nat → Nat → Nat) (left b : Nat) : Nat := hdX f cr hm (left + 1) left b
theorem dif_bit_lt {l k : Nat} (h : l.testBit k = true) : dif l (2 ^ k) < l := by
  have h1 := dif_le l (2 ^ k)
  by_cases e : dif l (2 ^ k) = l
  · have h2 := dif_tb l (2 ^ k) k
    rw [e, h, Nat.testBit_two_pow_self] at h2
    cases h2
  · omega
section HD
variable {f cr : Nat} {hm : Nat → Nat → Nat}
theorem hd_st : ∀ (l : Nat) (n b : Nat), l < n → hdX f cr hm n l b = hdH f cr hm l b := by
  intro l
  induction l using Nat.strongRecOn with
  | ind l ih =>
    intro n b hn
    obtain ⟨n, rfl⟩ : ∃ m, n = m + 1 := ⟨n - 1, by omega⟩
    show (if l = 0 then 0 else lp (fun k v => if l.testBit k = true then min v (hdX f cr hm n (dif l (2 ^ k)) k + hm b k) else v) cr 0 f) = (if l = 0 then 0 else lp (fun k v => if l.testBit k = true then min v (hdX f cr hm l (dif l (2 ^ k)) k + hm b k) else v) cr 0 f)
    by_cases e : l = 0
    · rw [if_pos e, if_pos e]
    · rw [if_neg e, if_neg e]
      refine lp_congr _ _ _ fun k _ _ y => ?_
      show (if l.testBit k = true then min y (hdX f cr hm n (dif l (2 ^ k)) k + hm b k) else y) = (if l.testBit k = true then min y (hdX f cr hm l (dif l (2 ^ k)) k + hm b k) else y)
      by_cases hb : l.testBit k = true
      · have hlt := dif_bit_lt hb
        rw [if_pos hb, if_pos hb, ih _ hlt n k (by omega), ih _ hlt l k hlt]
      · rw [if_neg hb, if_neg hb]
def hdS (f cr : Nat) (hm : Nat → Nat → Nat) (l b k v : Nat) : Nat := if l.testBit k = true then min v (hdH f cr hm (dif l (2 ^ k)) k + hm b k) else v
theorem hd_eq {l b : Nat} : hdH f cr hm l b = if l = 0 then 0 else lp (hdS f cr hm l b) cr 0 f := by
  show (if l = 0 then 0 else lp (fun k v => if l.testBit k = true then min v (hdX f cr hm l (dif l (2 ^ k)) k + hm b k) else v) cr 0 f) = _
  by_cases e : l = 0
  · rw [if_pos e, if_pos e]
  · rw [if_neg e, if_neg e]
    refine lp_congr _ _ _ fun k _ _ y => ?_
    unfold hdS
    by_cases hb : l.testBit k = true
    · rw [if_pos hb, if_pos hb, hd_st _ l k (dif_bit_lt hb)]
    · rw [if_neg hb, if_neg hb]
theorem hdS_le {l b k v : Nat} : hdS f cr hm l b k v ≤ v := by
  unfold hdS
  split
  · omega
  · exact Nat.le_refl _
theorem hdL_le {l b : Nat} : ∀ (c i v : Nat), lp (hdS f cr hm l b) c i v ≤ v := by
  intro c
  induction c with
  | zero => intro i v; exact Nat.le_refl _
  | succ c ih => intro i v; exact Nat.le_trans (ih (i + 1) _) hdS_le
theorem hdL_k {l b k : Nat} (hb : l.testBit k = true) : ∀ (c i v : Nat), i ≤ k → k < i + c → lp (hdS f cr hm l b) c i v ≤ hdH f cr hm (dif l (2 ^ k)) k + hm b k := by
  intro c
  induction c with
  | zero => intro i v h1 h2; omega
  | succ c ih =>
    intro i v h1 h2
    by_cases e : i = k
    · subst e
      refine Nat.le_trans (hdL_le c (i + 1) _) ?_
      unfold hdS
      rw [if_pos hb]; omega
    · exact ih (i + 1) _ (by omega) (by omega)
/-- some one reaches it, if it is below the start -/
theorem hdL_at {l b : Nat} : ∀ (c i v : Nat), lp (hdS f cr hm l b) c i v = v ∨ ∃ k, i ≤ k ∧ k < i + c ∧ l.testBit k = true ∧ lp (hdS f cr hm l b) c i v = hdH f cr hm (dif l (2 ^ k)) k + hm b k := by
  intro c
  induction c with
  | zero => intro i v; exact Or.inl rfl
  | succ c ih =>
    intro i v
    show lp (hdS f cr hm l b) c (i + 1) (hdS f cr hm l b i v) = v ∨ ∃ k, _ ∧ _ ∧ _ ∧ lp (hdS f cr hm l b) c (i + 1) (hdS f cr hm l b i v) = _
    rcases ih (i + 1) (hdS f cr hm l b i v) with h | ⟨k, h1, h2, h3, h4⟩
    · rw [h]
      unfold hdS
      by_cases hb : l.testBit i = true
      · rw [if_pos hb]
        by_cases hm' : v ≤ hdH f cr hm (dif l (2 ^ i)) i + hm b i
        · exact Or.inl (Nat.min_eq_left hm')
        · exact Or.inr ⟨i, Nat.le_refl _, by omega, hb, Nat.min_eq_right (by omega)⟩
      · rw [if_neg hb]
        exact Or.inl rfl
    · exact Or.inr ⟨k, by omega, by omega, h3, h4⟩
theorem dif_low {l j : Nat} (h : l < 2 ^ (j + 1)) : dif l (2 ^ j) < 2 ^ j := by
  apply Nat.lt_pow_two_of_testBit
  intro i hi
  rw [dif_tb]
  by_cases e : j = i
  · subst e
    rw [Nat.testBit_two_pow_self]
    cases l.testBit j <;> rfl
  · rw [Nat.testBit_lt_two_pow (Nat.lt_of_lt_of_le h (Nat.pow_le_pow_right (by omega) (by omega)))]
    rfl
/-- it is small -/
theorem hd_b (hh : ∀ b k, hm b k ≤ 99) : ∀ (j l b : Nat), l < 2 ^ j → j ≤ cr → hdH f cr hm l b ≤ 99 * j := by
  intro j
  induction j with
  | zero =>
    intro l b hl _
    have e : l = 0 := by rw [Nat.pow_zero] at hl; omega
    rw [hd_eq, if_pos e]
    omega
  | succ j ih =>
    intro l b hl hj
    by_cases hb : l.testBit j = true
    · have h0 : l ≠ 0 := fun e => by rw [e, Nat.zero_testBit] at hb; cases hb
      rw [hd_eq, if_neg h0]
      have h1 := hdL_k (f := f) (cr := cr) (hm := hm) (b := b) hb cr 0 f (by omega) (by omega)
      have h2 := ih (dif l (2 ^ j)) j (dif_low hl) (by omega)
      have h3 := hh b j
      omega
    · have hl' : l < 2 ^ j := by
        apply Nat.lt_pow_two_of_testBit
        intro i hi
        by_cases e : j = i
        · subst e
          cases h : l.testBit j
          · rfl
          · exact absurd h hb
        · exact Nat.testBit_lt_two_pow (Nat.lt_of_lt_of_le hl (Nat.pow_le_pow_right (by omega) (by omega)))
      have := ih l b hl' (by omega)
      omega
/-- where it begins doesn't matter -/
theorem hdL_2 {g l b : Nat} (hh : ∀ b k, hm b k ≤ 99) (hc : cr ≤ 10) (hl : l < 2 ^ cr) (hf : 2000 ≤ f) (hg : 2000 ≤ g) (he : ∀ k, l.testBit k = true → hdH f cr hm (dif l (2 ^ k)) k = hdH g cr hm (dif l (2 ^ k)) k) : ∀ (c i u v : Nat), (u = f ∧ v = g) ∨ u = v → (lp (hdS f cr hm l b) c i u = f ∧ lp (hdS g cr hm l b) c i v = g ∧ ∀ k, i ≤ k → k < i + c → l.testBit k ≠ true) ∨ lp (hdS f cr hm l b) c i u = lp (hdS g cr hm l b) c i v := by
  intro c
  induction c with
  | zero =>
    intro i u v h
    rcases h with ⟨h1, h2⟩ | h
    · exact Or.inl ⟨h1, h2, fun k h3 h4 => by omega⟩
    · exact Or.inr h
  | succ c ih =>
    intro i u v h
    show (lp (hdS f cr hm l b) c (i + 1) (hdS f cr hm l b i u) = f ∧ lp (hdS g cr hm l b) c (i + 1) (hdS g cr hm l b i v) = g ∧ _) ∨ lp (hdS f cr hm l b) c (i + 1) (hdS f cr hm l b i u) = lp (hdS g cr hm l b) c (i + 1) (hdS g cr hm l b i v)
    by_cases hb : l.testBit i = true
    · have e := he i hb
      have hlt := dif_bit_lt hb
      have h2 := hd_b (f := f) (cr := cr) hh cr (dif l (2 ^ i)) i (by omega) (Nat.le_refl _)
      have h3 := hh b i
      have hst : hdS f cr hm l b i u = hdS g cr hm l b i v := by
        unfold hdS
        rw [if_pos hb, if_pos hb, e]
        rw [e] at h2
        rcases h with ⟨h1, h4⟩ | h
        · omega
        · rw [h]
      rw [hst]
      rcases ih (i + 1) _ _ (Or.inr (Eq.refl (hdS g cr hm l b i v))) with ⟨a1, a2, a3⟩ | a1
      · -- below the start from here on
        have q1 := hdL_le (f := f) (cr := cr) (hm := hm) (l := l) (b := b) c (i + 1) (hdS g cr hm l b i v)
        have q2 : hdS g cr hm l b i v ≤ hdH g cr hm (dif l (2 ^ i)) i + hm b i := by
          unfold hdS
          rw [if_pos hb]; omega
        rw [e] at h2
        omega
      · exact Or.inr a1
    · have hf1 : hdS f cr hm l b i u = u := by unfold hdS; rw [if_neg hb]
      have hg1 : hdS g cr hm l b i v = v := by unfold hdS; rw [if_neg hb]
      rw [hf1, hg1]
      rcases ih (i + 1) u v h with ⟨a1, a2, a3⟩ | a1
      · refine Or.inl ⟨a1, a2, fun k k1 k2 => ?_⟩
        by_cases e : k = i
        · subst e; exact hb
        · exact a3 k (by omega) (by omega)
      · exact Or.inr a1
theorem hd_fg {g : Nat} (hh : ∀ b k, hm b k ≤ 99) (hc : cr ≤ 10) (hf : 2000 ≤ f) (hg : 2000 ≤ g) : ∀ (l b : Nat), l < 2 ^ cr → hdH f cr hm l b = hdH g cr hm l b := by
  intro l
  induction l using Nat.strongRecOn with
  | ind l ih =>
    intro b hl
    rw [hd_eq, hd_eq]
    by_cases e : l = 0
    · rw [if_pos e, if_pos e]
    · rw [if_neg e, if_neg e]
      rcases hdL_2 (b := b) hh hc hl hf hg (fun k hk => ih _ (dif_bit_lt hk) k (Nat.lt_trans (dif_bit_lt hk) hl)) cr 0 f g (Or.inl ⟨rfl, rfl⟩) with ⟨-, -, a3⟩ | a1
      · have hk := Nat.testBit_log2 e
        have hlt : l.log2 < cr := (Nat.log2_lt e).mpr hl
        exact absurd hk (a3 _ (by omega) (by omega))
      · exact a1
/-- some crate is the next -/
theorem hd_next (hh : ∀ b k, hm b k ≤ 99) (hc : cr ≤ 10) (hf : 2000 ≤ f) {l b : Nat} (hl : l < 2 ^ cr) (h0 : l ≠ 0) : ∃ k, k < cr ∧ l.testBit k = true ∧ hdH f cr hm (dif l (2 ^ k)) k + hm b k = hdH f cr hm l b := by
  have h1 := hd_b (f := f) (cr := cr) hh cr l b hl (Nat.le_refl _)
  rw [hd_eq, if_neg h0] at h1 ⊢
  rcases hdL_at (f := f) (cr := cr) (hm := hm) (l := l) (b := b) cr 0 f with h2 | ⟨k, h2, h3, h4, h5⟩
  · omega
  · exact ⟨k, by omega, h4, h5.symm⟩
end HD
def pcN (m : Nat) : Nat := (m.testBit 0).toNat + (m.testBit 1).toNat + (m.testBit 2).toNat + (m.testBit 3).toNat + (m.testBit 4).toNat + (m.testBit 5).toNat + (m.testBit 6).toNat + (m.testBit 7).toNat + (m.testBit 8).toNat + (m.testBit 9).toNat
theorem pc_bc : ∀ m, m < 1024 → bcI (nI m) = nI (pcN m) := by decide +kernel
theorem pc_dif : ∀ m, m < 1024 → ∀ k, k < 10 → m.testBit k = true → pcN (dif m (2 ^ k)) + 1 = pcN m := by decide +kernel
theorem pc_0 : ∀ m, m < 1024 → pcN m ≠ 0 → m ≠ 0 := by
  intro m _ h e
  subst e
  exact h rfl
