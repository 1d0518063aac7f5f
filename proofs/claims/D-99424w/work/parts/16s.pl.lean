/-! the plain law: what is sent; sets in plain numbers -/
set_option maxRecDepth 100000
def lessB (s : Nat) (o : Option Nat) : Bool := match o with
  | none => true
  | some m => decide (pcN s < pcN m)
def stp (q : Nat → Bool) (s : Nat) (o : Option Nat) : Option Nat := if (q s && lessB s o) = true then some s else o
/-- the first of the fewest -/
theorem stp_is {q : Nat → Bool} : ∀ (c : Nat), (lp (stp q) c 0 none = none ∧ ∀ s, s < c → q s ≠ true) ∨ ∃ m, lp (stp q) c 0 none = some m ∧ m < c ∧ q m = true ∧ ∀ s, s < c → q s = true → pcN m < pcN s ∨ (pcN m = pcN s ∧ m ≤ s) := by
  intro c
  induction c with
  | zero => exact Or.inl ⟨rfl, fun s hs => by omega⟩
  | succ c ih =>
    have e : lp (stp q) (c + 1) 0 none = stp q c (lp (stp q) c 0 none) := by
      rw [lp_add c 1 0 none, Nat.zero_add]
      rfl
    rw [e]
    rcases ih with ⟨h1, h2⟩ | ⟨m, h1, h2, h3, h4⟩
    · rw [h1]
      unfold stp lessB
      by_cases hq : q c = true
      · rw [if_pos (by rw [hq]; rfl)]
        refine Or.inr ⟨c, rfl, by omega, hq, fun s hs hqs => ?_⟩
        by_cases e : s = c
        · subst e; exact Or.inr ⟨rfl, Nat.le_refl _⟩
        · exact absurd hqs (h2 s (by omega))
      · rw [if_neg (by cases h : q c; simp; exact absurd h hq)]
        refine Or.inl ⟨rfl, fun s hs => ?_⟩
        by_cases e : s = c
        · subst e; exact hq
        · exact h2 s (by omega)
    · rw [h1]
      unfold stp lessB
      by_cases hq : q c = true ∧ pcN c < pcN m
      · rw [if_pos (by dsimp only; rw [hq.1, decide_eq_true hq.2]; rfl)]
        refine Or.inr ⟨c, rfl, by omega, hq.1, fun s hs hqs => ?_⟩
        by_cases e : s = c
        · subst e; exact Or.inr ⟨rfl, Nat.le_refl _⟩
        · have := h4 s (by omega) hqs
          omega
      · rw [if_neg (by
          intro h
          dsimp only at h
          rw [Bool.and_eq_true] at h
          exact hq ⟨h.1, of_decide_eq_true h.2⟩)]
        refine Or.inr ⟨m, rfl, by omega, h3, fun s hs hqs => ?_⟩
        by_cases e : s = c
        · subst e
          have h9 : ¬ pcN s < pcN m := fun z => hq ⟨hqs, z⟩
          omega
        · exact h4 s (by omega) hqs
def smF (c : Nat → Nat) (s k v : Nat) : Nat := if s.testBit k = true then v + c k else v
def smN (c : Nat → Nat) (cr s : Nat) : Nat := lp (smF c s) cr 0 0
theorem sm_b {c : Nat → Nat} (hc : ∀ k, c k ≤ 99) (s : Nat) : ∀ (d i v : Nat), v ≤ 99 * i → lp (smF c s) d i v ≤ 99 * (i + d) := by
  intro d
  induction d with
  | zero => intro i v h; exact h
  | succ d ih =>
    intro i v h
    have h1 := hc i
    have h2 := ih (i + 1) (smF c s i v) (by unfold smF; split <;> omega)
    rw [show i + (d + 1) = i + 1 + d by omega]
    exact h2
def alB (c : Nat → Nat) (cr s : Nat) : Bool := lp (fun k b => if s.testBit k = true then b && decide (0 < c k) else b) cr 0 true
theorem al_is {c : Nat → Nat} (s : Nat) : ∀ (d i : Nat) (b : Bool), lp (fun k b => if s.testBit k = true then b && decide (0 < c k) else b) d i b = true ↔ b = true ∧ ∀ k, i ≤ k → k < i + d → s.testBit k = true → 0 < c k := by
  intro d
  induction d with
  | zero => intro i b; exact ⟨fun h => ⟨h, fun k h1 h2 => by omega⟩, fun h => h.1⟩
  | succ d ih =>
    intro i b
    show lp (fun k b => if s.testBit k = true then b && decide (0 < c k) else b) d (i + 1) (if s.testBit i = true then b && decide (0 < c i) else b) = true ↔ _
    rw [ih (i + 1)]
    by_cases hs : s.testBit i = true
    · rw [if_pos hs, Bool.and_eq_true]
      constructor
      · intro ⟨⟨h1, h2⟩, h3⟩
        refine ⟨h1, fun k k1 k2 k3 => ?_⟩
        by_cases e : k = i
        · subst e; exact of_decide_eq_true h2
        · exact h3 k (by omega) (by omega) k3
      · intro ⟨h1, h2⟩
        exact ⟨⟨h1, decide_eq_true (h2 i (by omega) (by omega) hs)⟩, fun k k1 k2 k3 => h2 k (by omega) (by omega) k3⟩
    · rw [if_neg hs]
      constructor
      · intro ⟨h1, h2⟩
        refine ⟨h1, fun k k1 k2 k3 => ?_⟩
        by_cases e : k = i
        · subst e; exact absurd k3 hs
        · exact h2 k (by omega) (by omega) k3
      · intro ⟨h1, h2⟩
        exact ⟨h1, fun k k1 k2 k3 => h2 k (by omega) (by omega) k3⟩
/-- both ways of choosing agree -/
theorem send_eq {c : Nat → Nat} {cr all G : Nat} (h10 : cr ≤ 10) (hG : 1 ≤ G) (ha : all < 2 ^ cr) (hc : ∀ k, k < cr → 0 < c k → all.testBit k = true) : lp (stp fun s => alB c cr s && decide (G ≤ smN c cr s)) (2 ^ cr) 0 none = lp (stp fun s => decide (dif s all = 0) && decide (G ≤ smN c cr s)) (all + 1) 0 none := by
  have h1024 : (2 : Nat) ^ cr ≤ 1024 := by
    rw [show (1024 : Nat) = 2 ^ 10 from rfl]
    exact Nat.pow_le_pow_right (by omega) h10
  have sub : ∀ s, s < 2 ^ cr → alB c cr s = true → dif s all = 0 := by
    intro s hs h
    have h1 := (al_is (c := c) s cr 0 true).mp h
    refine dif_sub.mpr fun k hk => ?_
    have hkc : k < cr := by
      by_cases e : k < cr
      · exact e
      · rw [Nat.testBit_lt_two_pow (Nat.lt_of_lt_of_le hs (Nat.pow_le_pow_right (by omega) (by omega)))] at hk
        cases hk
    exact hc k hkc (h1.2 k (by omega) (by omega) hk)
  have drop : ∀ s k, c k = 0 → smN c cr (dif s (2 ^ k)) = smN c cr s := by
    intro s k hk
    unfold smN
    refine lp_congr _ _ _ fun i _ _ v => ?_
    unfold smF
    rw [dif_tb, Nat.testBit_two_pow]
    by_cases e : k = i
    · subst e
      rw [decide_eq_true rfl, hk]
      cases s.testBit k <;> rfl
    · rw [decide_eq_false e]
      cases s.testBit i <;> rfl
  -- the twin's choice has no crate that brings nothing
  have pos : ∀ m, dif m all = 0 → G ≤ smN c cr m → (∀ s, s < all + 1 → dif s all = 0 → G ≤ smN c cr s → pcN m < pcN s ∨ (pcN m = pcN s ∧ m ≤ s)) → alB c cr m = true := by
    intro m h1 h2 h3
    refine (al_is (c := c) m cr 0 true).mpr ⟨rfl, fun k _ k2 k3 => ?_⟩
    by_cases h0 : 0 < c k
    · exact h0
    · have hm := dif_lt h1
      have hlt := dif_bit_lt k3
      have hs : dif (dif m (2 ^ k)) all = 0 := dif_sub.mpr fun i hi => by
        rw [dif_tb] at hi
        refine dif_sub.mp h1 i ?_
        cases h : m.testBit i
        · rw [h] at hi; cases hi
        · rfl
      have h4 := h3 (dif m (2 ^ k)) (by omega) hs (by rw [drop m k (by omega)]; exact h2)
      have h5 := pc_dif m (by omega) k (by omega) k3
      omega
  rcases stp_is (q := fun s => alB c cr s && decide (G ≤ smN c cr s)) (2 ^ cr) with ⟨a1, a2⟩ | ⟨m, a1, a2, a3, a4⟩
  · rcases stp_is (q := fun s => decide (dif s all = 0) && decide (G ≤ smN c cr s)) (all + 1) with ⟨b1, b2⟩ | ⟨m', b1, b2, b3, b4⟩
    · rw [a1, b1]
    · try dsimp only at b3
      rw [Bool.and_eq_true] at b3
      have d1 := of_decide_eq_true b3.1
      have d2 := of_decide_eq_true b3.2
      have hp := pos m' d1 d2 fun s hs hs1 hs2 => b4 s hs (by (try dsimp only); rw [decide_eq_true hs1, decide_eq_true hs2]; rfl)
      exact absurd (by (try dsimp only); rw [hp, decide_eq_true d2]; rfl) (a2 m' (by omega))
  · try dsimp only at a3
    rw [Bool.and_eq_true] at a3
    have e1 := sub m a2 a3.1
    have e2 := of_decide_eq_true a3.2
    have e3 := dif_lt e1
    rcases stp_is (q := fun s => decide (dif s all = 0) && decide (G ≤ smN c cr s)) (all + 1) with ⟨b1, b2⟩ | ⟨m', b1, b2, b3, b4⟩
    · exact absurd (by (try dsimp only); rw [decide_eq_true e1, decide_eq_true e2]; rfl) (b2 m (by omega))
    · try dsimp only at b3
      rw [Bool.and_eq_true] at b3
      have d1 := of_decide_eq_true b3.1
      have d2 := of_decide_eq_true b3.2
      have hp := pos m' d1 d2 fun s hs hs1 hs2 => b4 s hs (by (try dsimp only); rw [decide_eq_true hs1, decide_eq_true hs2]; rfl)
      have c1 := a4 m' (by omega) (by (try dsimp only); rw [hp, decide_eq_true d2]; rfl)
      have c2 := b4 m (by omega) (by (try dsimp only); rw [decide_eq_true e1, decide_eq_true e2]; rfl)
      rw [a1, b1, show m = m' by omega]
