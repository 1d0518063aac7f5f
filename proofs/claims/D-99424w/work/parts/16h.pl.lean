/-! the plain law: ways, in plain numbers: the least from town to town by rounds, and by towns between -/
set_option maxRecDepth 100000
def udN (f : Nat → Nat) (k v : Nat) : Nat → Nat := fun j => if j = k then v else f j
theorem udN_s {f : Nat → Nat} {k v : Nat} : udN f k v k = v := if_pos rfl
theorem udN_n {f : Nat → Nat} {k v j : Nat} (h : j ≠ k) : udN f k v j = f j := if_neg h
def ud2 (D : Nat → Nat → Nat) (a b v : Nat) : Nat → Nat → Nat := fun i j => if i = a ∧ j = b then v else D i j
theorem ud2_s {D : Nat → Nat → Nat} {a b v : Nat} : ud2 D a b v a b = v := if_pos ⟨rfl, rfl⟩
theorem ud2_n {D : Nat → Nat → Nat} {a b v i j : Nat} (h : ¬ (i = a ∧ j = b)) : ud2 D a b v i j = D i j := if_neg h
/-- ways: how many, the one left out; ends, measures -/
abbrev wyT : Type := (Nat × Nat) × (Nat → Nat) × (Nat → Nat) × (Nat → Nat)
def edge (E : wyT) (w a b : Nat) : Prop := w < E.1.1 ∧ w ≠ E.1.2 ∧ ((E.2.1 w = a ∧ E.2.2.1 w = b) ∨ (E.2.2.1 w = a ∧ E.2.1 w = b))
theorem edge.sy {E : wyT} {w a b : Nat} (h : edge E w a b) : edge E w b a := ⟨h.1, h.2.1, h.2.2.elim (fun z => Or.inr ⟨z.2, z.1⟩) (fun z => Or.inl ⟨z.2, z.1⟩)⟩
def wk (E : wyT) (L : Nat) (v p : Nat → Nat) : Prop := p 0 = 0 ∧ ∀ i, i < L → ∃ w, edge E w (v i) (v (i + 1)) ∧ p (i + 1) = p i + E.2.2.2 w
def wlL (E : wyT) (L a b s : Nat) : Prop := ∃ v p, wk E L v p ∧ v 0 = a ∧ v L = b ∧ p L = s
def okE (E : wyT) (n : Nat) : Prop := ∀ w, w < E.1.1 → E.2.1 w < n ∧ E.2.2.1 w < n ∧ E.2.1 w ≠ E.2.2.1 w ∧ E.2.2.2 w ≤ 81
def unE (E : wyT) : Prop := ∀ w u, w < E.1.1 → u < E.1.1 → w ≠ u → ¬ (E.2.1 w = E.2.1 u ∧ E.2.2.1 w = E.2.2.1 u) ∧ ¬ (E.2.1 w = E.2.2.1 u ∧ E.2.2.1 w = E.2.1 u)
section WK
variable {E : wyT} {n : Nat}
theorem wl_0 {a : Nat} : wlL E 0 a a 0 := ⟨fun _ => a, fun _ => 0, ⟨rfl, fun i hi => by omega⟩, rfl, rfl, rfl⟩
theorem wl_1 {w a b : Nat} (h : edge E w a b) : wlL E 1 a b (E.2.2.2 w) := by
  refine ⟨fun i => if i = 0 then a else b, fun i => if i = 0 then 0 else E.2.2.2 w, ⟨rfl, fun i hi => ?_⟩, rfl, rfl, rfl⟩
  obtain rfl : i = 0 := by omega
  exact ⟨w, h, (Nat.zero_add _).symm⟩
theorem wk_mono {L : Nat} {v p : Nat → Nat} (h : wk E L v p) : ∀ j, j ≤ L → ∀ i, i ≤ j → p i ≤ p j := by
  intro j
  induction j with
  | zero => intro _ i hi; obtain rfl : i = 0 := by omega
            exact Nat.le_refl _
  | succ j ih =>
    intro hj i hi
    by_cases e : i = j + 1
    · rw [e]; exact Nat.le_refl _
    · obtain ⟨w, -, h2⟩ := h.2 j (by omega)
      have h3 := ih (by omega) i (by omega)
      omega
theorem wl_app {L1 L2 a b d s s' : Nat} (h1 : wlL E L1 a b s) (h2 : wlL E L2 b d s') : wlL E (L1 + L2) a d (s + s') := by
  obtain ⟨v, p, ⟨k1, k2⟩, a1, a2, a3⟩ := h1
  obtain ⟨u, q, ⟨l1, l2⟩, b1, b2, b3⟩ := h2
  have hu : ∀ i, (if L1 + i ≤ L1 then v (L1 + i) else u (L1 + i - L1)) = u i := fun i => by
    by_cases hi : i = 0
    · subst hi
      rw [if_pos (by omega), Nat.add_zero, a2, b1]
    · rw [if_neg (by omega), Nat.add_sub_cancel_left]
  have hq : ∀ i, (if L1 + i ≤ L1 then p (L1 + i) else p L1 + q (L1 + i - L1)) = p L1 + q i := fun i => by
    by_cases hi : i = 0
    · subst hi
      rw [if_pos (by omega), Nat.add_zero, l1, Nat.add_zero]
    · rw [if_neg (by omega), Nat.add_sub_cancel_left]
  refine ⟨fun i => if i ≤ L1 then v i else u (i - L1), fun i => if i ≤ L1 then p i else p L1 + q (i - L1), ⟨?_, fun i hi => ?_⟩, ?_, ?_, ?_⟩
  · dsimp only
    rw [if_pos (Nat.zero_le _), k1]
  · dsimp only
    by_cases hi1 : i < L1
    · obtain ⟨w, h3, h4⟩ := k2 i hi1
      rw [if_pos (by omega), if_pos (by omega), if_pos (by omega), if_pos (by omega)]
      exact ⟨w, h3, h4⟩
    · obtain ⟨w, h3, h4⟩ := l2 (i - L1) (by omega)
      have e1 := hu (i - L1)
      have e2 := hu (i - L1 + 1)
      have e3 := hq (i - L1)
      have e4 := hq (i - L1 + 1)
      rw [show L1 + (i - L1) = i by omega] at e1 e3
      rw [show L1 + (i - L1 + 1) = i + 1 by omega] at e2 e4
      rw [e1, e2, e3, e4]
      exact ⟨w, h3, by omega⟩
  · dsimp only
    rw [if_pos (Nat.zero_le _), a1]
  · dsimp only
    rw [hu, b2]
  · dsimp only
    rw [hq, a3, b3]
theorem wl_pre {L i : Nat} {v p : Nat → Nat} (h : wk E L v p) (hi : i ≤ L) : wlL E i (v 0) (v i) (p i) := ⟨v, p, ⟨h.1, fun j hj => h.2 j (by omega)⟩, rfl, rfl, rfl⟩
theorem wl_suf {L i : Nat} {v p : Nat → Nat} (h : wk E L v p) (hi : i ≤ L) : wlL E (L - i) (v i) (v L) (p L - p i) := by
  refine ⟨fun j => v (i + j), fun j => p (i + j) - p i, ⟨?_, fun j hj => ?_⟩, rfl, ?_, ?_⟩
  · dsimp only
    rw [Nat.add_zero]; omega
  · obtain ⟨w, h3, h4⟩ := h.2 (i + j) (by omega)
    have h5 := wk_mono h (i + j) (by omega) i (by omega)
    exact ⟨w, h3, by dsimp only; rw [show i + (j + 1) = i + j + 1 by omega, h4]; omega⟩
  · dsimp only
    rw [show i + (L - i) = L by omega]
  · dsimp only
    rw [show i + (L - i) = L by omega]
theorem wl_rev : ∀ (L : Nat) (v p : Nat → Nat), wk E L v p → wlL E L (v L) (v 0) (p L) := by
  intro L
  induction L with
  | zero => intro v p h; rw [h.1]; exact wl_0
  | succ L ih =>
    intro v p h
    obtain ⟨w, h1, h2⟩ := h.2 L (by omega)
    have h3 := wl_app (wl_1 h1.sy) (ih v p ⟨h.1, fun i hi => h.2 i (by omega)⟩)
    rw [show 1 + L = L + 1 by omega, show E.2.2.2 w + p L = p (L + 1) by omega] at h3
    exact h3
theorem wl_sy {L a b s : Nat} (h : wlL E L a b s) : wlL E L b a s := by
  obtain ⟨v, p, h1, rfl, rfl, rfl⟩ := h
  exact wl_rev L v p h1
theorem wk_lt (hE : okE E n) {L : Nat} {v p : Nat → Nat} (h : wk E L v p) (h0 : v 0 < n) : ∀ i, i ≤ L → v i < n := by
  intro i hi
  cases i with
  | zero => exact h0
  | succ i =>
    obtain ⟨w, ⟨h1, -, h2⟩, -⟩ := h.2 i (by omega)
    obtain ⟨a1, a2, -⟩ := hE w h1
    rcases h2 with ⟨-, h2⟩ | ⟨-, h2⟩
    · omega
    · omega
theorem pigeon : ∀ (n : Nat) (f : Nat → Nat), (∀ i, i ≤ n → f i < n) → ∃ i j, i < j ∧ j ≤ n ∧ f i = f j := by
  intro n
  induction n with
  | zero => intro f h; exact absurd (h 0 (Nat.le_refl _)) (by omega)
  | succ n ih =>
    intro f h
    by_cases hx : ∃ i, i ≤ n ∧ f i = f (n + 1)
    · obtain ⟨i, h1, h2⟩ := hx
      exact ⟨i, n + 1, by omega, Nat.le_refl _, h2⟩
    · have hne : ∀ i, i ≤ n → f i ≠ f (n + 1) := fun i hi e => hx ⟨i, hi, e⟩
      obtain ⟨i, j, h1, h2, h3⟩ := ih (fun i => if f i = n then f (n + 1) else f i) (fun i hi => by
        try dsimp only
        have a1 := h i (by omega)
        have a2 := h (n + 1) (Nat.le_refl _)
        have a3 := hne i hi
        split <;> omega)
      refine ⟨i, j, h1, by omega, ?_⟩
      have a1 := hne i (by omega)
      have a2 := hne j (by omega)
      try dsimp only at h3
      split at h3 <;> split at h3 <;> omega
theorem wl_short (hE : okE E n) : ∀ (L a b s : Nat), a < n → wlL E L a b s → ∃ L' s', L' < n ∧ s' ≤ s ∧ wlL E L' a b s' := by
  intro L
  induction L using Nat.strongRecOn with
  | ind L ih =>
    intro a b s ha h
    by_cases hL : L < n
    · exact ⟨L, s, hL, Nat.le_refl _, h⟩
    · obtain ⟨v, p, h1, rfl, rfl, rfl⟩ := h
      obtain ⟨i, j, h2, h3, h4⟩ := pigeon n v (fun i hi => wk_lt hE h1 ha i (by omega))
      have w1 := wl_pre h1 (i := i) (by omega)
      have w2 := wl_suf h1 (i := j) (by omega)
      rw [← h4] at w2
      have w3 := wl_app w1 w2
      obtain ⟨L', s', a1, a2, a3⟩ := ih (i + (L - j)) (by omega) _ _ _ ha w3
      have m1 := wk_mono h1 j (by omega) i (by omega)
      have m2 := wk_mono h1 L (Nat.le_refl _) j (by omega)
      exact ⟨L', s', a1, by omega, a3⟩
/-! by rounds -/
def rlx (E : wyT) (w : Nat) (x : Nat → Nat) : Nat → Nat :=
  if w = E.1.2 then x else
    let x1 := udN x (E.2.2.1 w) (min (x (E.2.2.1 w)) (x (E.2.1 w) + E.2.2.2 w))
    udN x1 (E.2.1 w) (min (x1 (E.2.1 w)) (x1 (E.2.2.1 w) + E.2.2.2 w))
def bf0 (f : Nat) : Nat → Nat := fun t => if t = f then 0 else 100000
def bfx (E : wyT) (n f : Nat) : Nat → Nat := lp (fun _ x => lp (rlx E) E.1.1 0 x) n 0 (bf0 f)
theorem rlx_le {w t : Nat} {x : Nat → Nat} : rlx E w x t ≤ x t := by
  unfold rlx
  split
  · exact Nat.le_refl _
  · dsimp only
    by_cases e1 : t = E.2.1 w
    · subst e1
      rw [udN_s]
      by_cases e2 : E.2.1 w = E.2.2.1 w
      · rw [e2, udN_s]; omega
      · rw [udN_n e2]; omega
    · rw [udN_n e1]
      by_cases e2 : t = E.2.2.1 w
      · subst e2; rw [udN_s]; omega
      · rw [udN_n e2]; exact Nat.le_refl _
theorem rlx_ls : ∀ (c i : Nat) (x : Nat → Nat) (t : Nat), lp (rlx E) c i x t ≤ x t := by
  intro c
  induction c with
  | zero => intro i x t; exact Nat.le_refl _
  | succ c ih => intro i x t; exact Nat.le_trans (ih (i + 1) (rlx E i x) t) rlx_le
theorem rlx_ed (hE : okE E n) {w a b : Nat} (h : edge E w a b) (x : Nat → Nat) : rlx E w x b ≤ x a + E.2.2.2 w := by
  obtain ⟨h1, h2, h3⟩ := h
  obtain ⟨-, -, hne, -⟩ := hE w h1
  unfold rlx
  rw [if_neg h2]
  try dsimp only
  rcases h3 with ⟨rfl, rfl⟩ | ⟨rfl, rfl⟩
  · rw [udN_n (fun e => hne e.symm), udN_s]; omega
  · rw [udN_s, udN_s]; omega
theorem rnd_ed (hE : okE E n) {w a b : Nat} (h : edge E w a b) : ∀ (c i : Nat) (x : Nat → Nat), i ≤ w → w < i + c → lp (rlx E) c i x b ≤ x a + E.2.2.2 w := by
  intro c
  induction c with
  | zero => intro i x h1 h2; omega
  | succ c ih =>
    intro i x h1 h2
    by_cases e : i = w
    · subst e
      exact Nat.le_trans (rlx_ls c (i + 1) (rlx E i x) b) (rlx_ed hE h x)
    · have h3 := ih (i + 1) (rlx E i x) (by omega) (by omega)
      have h4 := rlx_le (E := E) (w := i) (t := a) (x := x)
      show lp (rlx E) c (i + 1) (rlx E i x) b ≤ _
      omega
theorem bf_com (hE : okE E n) {f : Nat} : ∀ (c r : Nat) (x : Nat → Nat), (∀ L v p, wk E L v p → v 0 = f → ∀ i, i ≤ L → i ≤ r → x (v i) ≤ p i) → ∀ k, ∀ L v p, wk E L v p → v 0 = f → ∀ i, i ≤ L → i ≤ r + c → lp (fun _ x => lp (rlx E) E.1.1 0 x) c k x (v i) ≤ p i := by
  intro c
  induction c with
  | zero => intro r x h k; exact h
  | succ c ih =>
    intro r x h k
    show ∀ L v p, wk E L v p → v 0 = f → ∀ i, i ≤ L → i ≤ r + (c + 1) → lp (fun _ x => lp (rlx E) E.1.1 0 x) c (k + 1) (lp (rlx E) E.1.1 0 x) (v i) ≤ p i
    rw [show r + (c + 1) = r + 1 + c by omega]
    refine ih (r + 1) (lp (rlx E) E.1.1 0 x) (fun L v p h1 h2 i h3 h4 => ?_) (k + 1)
    by_cases e : i ≤ r
    · exact Nat.le_trans (rlx_ls _ _ x _) (h L v p h1 h2 i h3 e)
    · obtain rfl : i = r + 1 := by omega
      obtain ⟨w, h5, h6⟩ := h1.2 r (by omega)
      have h7 := rnd_ed hE h5 E.1.1 0 x (Nat.zero_le _) (by have := h5.1; omega)
      have h8 := h L v p h1 h2 r (by omega) (Nat.le_refl _)
      omega
def bfS (E : wyT) (f j : Nat) (x : Nat → Nat) : Prop := ∀ t, x t = 100000 ∨ (x t ≤ 162 * j ∧ ∃ L, wlL E L f t (x t))
theorem bf_one {f j a b c w : Nat} {x : Nat → Nat} (hj : 162 * j + 81 < 100000) (hc : c ≤ 81) (h : bfS E f j x) (he : edge E w a b) (hw : E.2.2.2 w = c) (k : Nat) (hk : 162 * j + 81 ≤ k) : (udN x b (min (x b) (x a + c))) b = 100000 ∨ ((udN x b (min (x b) (x a + c))) b ≤ k ∧ ∃ L, wlL E L f b ((udN x b (min (x b) (x a + c))) b)) := by
  rw [udN_s]
  by_cases h1 : x b ≤ x a + c
  · rw [Nat.min_eq_left h1]
    rcases h b with h2 | ⟨h2, h3⟩
    · exact Or.inl h2
    · exact Or.inr ⟨by omega, h3⟩
  · rw [Nat.min_eq_right (by omega)]
    have hb : x b ≤ 100000 := by
      rcases h b with h2 | ⟨h2, -⟩ <;> omega
    rcases h a with h2 | ⟨h2, L, h3⟩
    · omega
    · refine Or.inr ⟨by omega, L + 1, ?_⟩
      have h4 := wl_app h3 (wl_1 he)
      rw [hw] at h4
      exact h4
theorem bf_snd (hE : okE E n) {f j w : Nat} {x : Nat → Nat} (hw : w < E.1.1) (hj : 162 * (j + 1) < 100000) (h : bfS E f j x) : bfS E f (j + 1) (rlx E w x) := by
  obtain ⟨-, -, hne, hc⟩ := hE w hw
  by_cases hb : w = E.1.2
  · unfold rlx
    rw [if_pos hb]
    intro t
    rcases h t with h1 | ⟨h1, h2⟩
    · exact Or.inl h1
    · exact Or.inr ⟨by omega, h2⟩
  · have ho : bfS E f j x → ∀ t, t ≠ E.2.2.1 w → ∀ v, (udN x (E.2.2.1 w) v) t = 100000 ∨ ((udN x (E.2.2.1 w) v) t ≤ 162 * j + 81 ∧ ∃ L, wlL E L f t ((udN x (E.2.2.1 w) v) t)) := by
      intro h t ht v
      rw [udN_n ht]
      rcases h t with h1 | ⟨h1, h2⟩
      · exact Or.inl h1
      · exact Or.inr ⟨by omega, h2⟩
    have s1 : ∀ t, (udN x (E.2.2.1 w) (min (x (E.2.2.1 w)) (x (E.2.1 w) + E.2.2.2 w))) t = 100000 ∨ ((udN x (E.2.2.1 w) (min (x (E.2.2.1 w)) (x (E.2.1 w) + E.2.2.2 w))) t ≤ 162 * j + 81 ∧ ∃ L, wlL E L f t ((udN x (E.2.2.1 w) (min (x (E.2.2.1 w)) (x (E.2.1 w) + E.2.2.2 w))) t)) := by
      intro t
      by_cases ht : t = E.2.2.1 w
      · subst ht
        exact bf_one (w := w) (by omega) hc h ⟨hw, hb, Or.inl ⟨rfl, rfl⟩⟩ rfl _ (Nat.le_refl _)
      · exact ho h t ht _
    unfold rlx
    rw [if_neg hb]
    dsimp only
    generalize udN x (E.2.2.1 w) (min (x (E.2.2.1 w)) (x (E.2.1 w) + E.2.2.2 w)) = x1 at s1
    intro t
    by_cases ht : t = E.2.1 w
    · subst ht
      rw [udN_s]
      by_cases h1 : x1 (E.2.1 w) ≤ x1 (E.2.2.1 w) + E.2.2.2 w
      · rw [Nat.min_eq_left h1]
        rcases s1 (E.2.1 w) with h2 | ⟨h2, h3⟩
        · exact Or.inl h2
        · exact Or.inr ⟨by omega, h3⟩
      · rw [Nat.min_eq_right (by omega)]
        have hb2 : x1 (E.2.1 w) ≤ 100000 := by
          rcases s1 (E.2.1 w) with h2 | ⟨h2, -⟩ <;> omega
        rcases s1 (E.2.2.1 w) with h2 | ⟨h2, L, h3⟩
        · omega
        · exact Or.inr ⟨by omega, L + 1, wl_app h3 (wl_1 ⟨hw, hb, Or.inr ⟨rfl, rfl⟩⟩)⟩
    · rw [udN_n ht]
      rcases s1 t with h2 | ⟨h2, h3⟩
      · exact Or.inl h2
      · exact Or.inr ⟨by omega, h3⟩
theorem bf_rnd (hE : okE E n) {f : Nat} : ∀ (c i j : Nat) (x : Nat → Nat), i + c ≤ E.1.1 → 162 * (j + c) < 100000 → bfS E f j x → bfS E f (j + c) (lp (rlx E) c i x) := by
  intro c
  induction c with
  | zero => intro i j x _ _ h; exact h
  | succ c ih =>
    intro i j x h1 h2 h
    have h3 := ih (i + 1) (j + 1) (rlx E i x) (by omega) (by omega) (bf_snd hE (by omega) (by omega) h)
    rw [show j + 1 + c = j + (c + 1) by omega] at h3
    exact h3
theorem bf_rnds (hE : okE E n) (h12 : E.1.1 ≤ 12) {f : Nat} : ∀ (c k j : Nat) (x : Nat → Nat), 162 * (j + 12 * c) < 100000 → bfS E f j x → bfS E f (j + 12 * c) (lp (fun _ x => lp (rlx E) E.1.1 0 x) c k x) := by
  intro c
  induction c with
  | zero => intro k j x _ h; exact h
  | succ c ih =>
    intro k j x h2 h
    have h3 := bf_rnd hE E.1.1 0 j x (by omega) (by omega) h
    have h4 : bfS E f (j + 12) (lp (rlx E) E.1.1 0 x) := fun t => by
      rcases h3 t with h5 | ⟨h5, h6⟩
      · exact Or.inl h5
      · exact Or.inr ⟨by omega, h6⟩
    have h5 := ih (k + 1) (j + 12) _ (by omega) h4
    rw [show j + 12 + 12 * c = j + 12 * (c + 1) by omega] at h5
    exact h5
/-- what rounds give: none, or the least -/
theorem bf_is (hE : okE E n) (h12 : E.1.1 ≤ 12) (h8 : n ≤ 8) {f : Nat} (hf : f < n) (t : Nat) : (bfx E n f t = 100000 ∨ (bfx E n f t ≤ 15552 ∧ ∃ L, wlL E L f t (bfx E n f t))) ∧ ∀ L s, wlL E L f t s → bfx E n f t ≤ s := by
  refine ⟨?_, fun L s h => ?_⟩
  · have h0 : bfS E f 0 (bf0 f) := fun q => by
      unfold bf0
      by_cases e : q = f
      · subst e
        rw [if_pos rfl]
        exact Or.inr ⟨by omega, 0, wl_0⟩
      · rw [if_neg e]
        exact Or.inl rfl
    rcases bf_rnds hE h12 n 0 0 (bf0 f) (by omega) h0 t with h1 | ⟨h1, h2⟩
    · exact Or.inl h1
    · refine Or.inr ⟨?_, h2⟩
      have h3 : bfx E n f t ≤ 162 * (0 + 12 * n) := h1
      omega
  · obtain ⟨L', s', a1, a2, v, p, b1, b2, b3, b4⟩ := wl_short hE L f t s hf h
    have h1 := bf_com hE n 0 (bf0 f) (fun L v p h1 h2 i h3 h4 => by
      obtain rfl : i = 0 := by omega
      unfold bf0
      rw [if_pos h2]
      exact Nat.zero_le _) 0 L' v p b1 b2 L' (Nat.le_refl _) (by omega)
    rw [b3, b4] at h1
    exact Nat.le_trans h1 a2
/-! by towns between -/
def fw0 : Nat → Nat → Nat := fun a b => if a = b then 0 else 99999
def fwE (E : wyT) (w : Nat) (D : Nat → Nat → Nat) : Nat → Nat → Nat := if w = E.1.2 then D else ud2 (ud2 D (E.2.1 w) (E.2.2.1 w) (E.2.2.2 w)) (E.2.2.1 w) (E.2.1 w) (E.2.2.2 w)
def fwB (m a b : Nat) (D : Nat → Nat → Nat) : Nat → Nat → Nat := ud2 D a b (min (D a b) (D a m + D m b))
def fwA (n m a : Nat) (D : Nat → Nat → Nat) : Nat → Nat → Nat := lp (fwB m a) n 0 D
def fwM (n m : Nat) (D : Nat → Nat → Nat) : Nat → Nat → Nat := lp (fwA n m) n 0 D
def fwx (E : wyT) (n : Nat) : Nat → Nat → Nat := lp (fwM n) n 0 (lp (fwE E) E.1.1 0 fw0)
def fwS (E : wyT) (D : Nat → Nat → Nat) : Prop := ∀ a b, D a b = 99999 ∨ (D a b ≤ 99999 ∧ ∃ L, wlL E L a b (D a b))
theorem fw_s0 : fwS E fw0 := fun a b => by
  unfold fw0
  by_cases e : a = b
  · subst e
    rw [if_pos rfl]
    exact Or.inr ⟨by omega, 0, wl_0⟩
  · rw [if_neg e]
    exact Or.inl rfl
theorem fw_sE (hE : okE E n) {w : Nat} (hw : w < E.1.1) {D : Nat → Nat → Nat} (h : fwS E D) : fwS E (fwE E w D) := by
  obtain ⟨-, -, -, hc⟩ := hE w hw
  unfold fwE
  split
  · exact h
  · rename_i hb
    intro a b
    by_cases e1 : a = E.2.2.1 w ∧ b = E.2.1 w
    · obtain ⟨rfl, rfl⟩ := e1
      rw [ud2_s]
      exact Or.inr ⟨by omega, 1, wl_1 ⟨hw, hb, Or.inr ⟨rfl, rfl⟩⟩⟩
    · rw [ud2_n e1]
      by_cases e2 : a = E.2.1 w ∧ b = E.2.2.1 w
      · obtain ⟨rfl, rfl⟩ := e2
        rw [ud2_s]
        exact Or.inr ⟨by omega, 1, wl_1 ⟨hw, hb, Or.inl ⟨rfl, rfl⟩⟩⟩
      · rw [ud2_n e2]
        exact h a b
theorem fw_sB {m a b : Nat} {D : Nat → Nat → Nat} (h : fwS E D) : fwS E (fwB m a b D) := by
  intro i j
  unfold fwB
  by_cases e : i = a ∧ j = b
  · obtain ⟨rfl, rfl⟩ := e
    rw [ud2_s]
    by_cases h1 : D i j ≤ D i m + D m j
    · rw [Nat.min_eq_left h1]; exact h i j
    · rw [Nat.min_eq_right (by omega)]
      have h0 : D i j ≤ 99999 := by rcases h i j with h2 | ⟨h2, -⟩ <;> omega
      rcases h i m with h2 | ⟨h2, L, h3⟩
      · omega
      · rcases h m j with h4 | ⟨h4, L', h5⟩
        · omega
        · exact Or.inr ⟨by omega, L + L', wl_app h3 h5⟩
  · rw [ud2_n e]; exact h i j
theorem fw_snd (hE : okE E n) : fwS E (fwx E n) := by
  unfold fwx
  refine lp_inv (p := fwS E) _ _ _ (lp_inv (p := fwS E) _ _ _ fw_s0 fun w _ h2 D hD => fw_sE hE (by omega) hD) fun m _ _ D hD => ?_
  unfold fwM
  refine lp_inv (p := fwS E) _ _ _ hD fun a _ _ D hD => ?_
  unfold fwA
  exact lp_inv (p := fwS E) _ _ _ hD fun b _ _ D hD => fw_sB hD
theorem fwB_le {m a b i j : Nat} {D : Nat → Nat → Nat} : fwB m a b D i j ≤ D i j := by
  unfold fwB
  by_cases e : i = a ∧ j = b
  · obtain ⟨rfl, rfl⟩ := e
    rw [ud2_s]; omega
  · rw [ud2_n e]; exact Nat.le_refl _
theorem fwBs_le {m a i j : Nat} : ∀ (c k : Nat) (D : Nat → Nat → Nat), lp (fwB m a) c k D i j ≤ D i j := by
  intro c
  induction c with
  | zero => intro k D; exact Nat.le_refl _
  | succ c ih => intro k D; exact Nat.le_trans (ih (k + 1) (fwB m a k D)) fwB_le
theorem fwBs_ed {m a b : Nat} : ∀ (c k : Nat) (D : Nat → Nat → Nat), k ≤ b → b < k + c → lp (fwB m a) c k D a b ≤ D a m + D m b := by
  intro c
  induction c with
  | zero => intro k D h1 h2; omega
  | succ c ih =>
    intro k D h1 h2
    by_cases e : k = b
    · subst e
      refine Nat.le_trans (fwBs_le c (k + 1) (fwB m a k D)) ?_
      unfold fwB
      rw [ud2_s]; omega
    · have h3 := ih (k + 1) (fwB m a k D) (by omega) (by omega)
      have h4 := fwB_le (m := m) (a := a) (b := k) (i := a) (j := m) (D := D)
      have h5 := fwB_le (m := m) (a := a) (b := k) (i := m) (j := b) (D := D)
      show lp (fwB m a) c (k + 1) (fwB m a k D) a b ≤ _
      omega
theorem fwA_le {m a i j : Nat} {D : Nat → Nat → Nat} : fwA n m a D i j ≤ D i j := fwBs_le n 0 D
theorem fwAs_le {m i j : Nat} : ∀ (c k : Nat) (D : Nat → Nat → Nat), lp (fwA n m) c k D i j ≤ D i j := by
  intro c
  induction c with
  | zero => intro k D; exact Nat.le_refl _
  | succ c ih => intro k D; exact Nat.le_trans (ih (k + 1) (fwA n m k D)) fwA_le
theorem fwAs_ed {m a b : Nat} (hb : b < n) : ∀ (c k : Nat) (D : Nat → Nat → Nat), k ≤ a → a < k + c → lp (fwA n m) c k D a b ≤ D a m + D m b := by
  intro c
  induction c with
  | zero => intro k D h1 h2; omega
  | succ c ih =>
    intro k D h1 h2
    by_cases e : k = a
    · subst e
      exact Nat.le_trans (fwAs_le c (k + 1) (fwA n m k D)) (fwBs_ed n 0 D (Nat.zero_le _) (by omega))
    · have h3 := ih (k + 1) (fwA n m k D) (by omega) (by omega)
      have h4 := fwA_le (n := n) (m := m) (a := k) (i := a) (j := m) (D := D)
      have h5 := fwA_le (n := n) (m := m) (a := k) (i := m) (j := b) (D := D)
      show lp (fwA n m) c (k + 1) (fwA n m k D) a b ≤ _
      omega
/-- the least over what lies between, of towns below m -/
def fwC (E : wyT) (n m : Nat) (D : Nat → Nat → Nat) : Prop := ∀ L v p, wk E L v p → v 0 < n → (∀ i, 0 < i → i < L → v i < m) → D (v 0) (v L) ≤ p L
theorem first_is {q : Nat → Prop} : ∀ (L : Nat), (∃ i, 0 < i ∧ i < L ∧ q i) → ∃ i, 0 < i ∧ i < L ∧ q i ∧ ∀ j, 0 < j → j < i → ¬ q j := by
  intro L
  induction L with
  | zero => intro ⟨i, h1, h2, h3⟩; omega
  | succ L ih =>
    intro ⟨i, h1, h2, h3⟩
    by_cases hx : ∃ i, 0 < i ∧ i < L ∧ q i
    · obtain ⟨i, a1, a2, a3, a4⟩ := ih hx
      exact ⟨i, a1, by omega, a3, a4⟩
    · refine ⟨i, h1, h2, h3, fun j b1 b2 b3 => hx ⟨j, b1, by omega, b3⟩⟩
theorem last_is {q : Nat → Prop} (L : Nat) (h : ∃ i, 0 < i ∧ i < L ∧ q i) : ∃ i, 0 < i ∧ i < L ∧ q i ∧ ∀ j, i < j → j < L → ¬ q j := by
  obtain ⟨i, h1, h2, h3⟩ := h
  obtain ⟨j, a1, a2, a3, a4⟩ := first_is (q := fun k => q (L - k)) L ⟨L - i, by omega, by omega, by rw [show L - (L - i) = i by omega]; exact h3⟩
  refine ⟨L - j, by omega, by omega, a3, fun k b1 b2 b3 => a4 (L - k) (by omega) (by omega) (by rw [show L - (L - k) = k by omega]; exact b3)⟩
theorem fw_c1 (hE : okE E n) {m : Nat} (hm : m < n) {D : Nat → Nat → Nat} (h : fwC E n m D) : fwC E n (m + 1) (fwM n m D) := by
  intro L v p h1 h0 h2
  have hle : ∀ i j, fwM n m D i j ≤ D i j := fun i j => fwAs_le n 0 D
  have hlt := wk_lt hE h1 h0
  by_cases hx : ∃ i, 0 < i ∧ i < L ∧ v i = m
  · obtain ⟨i, a1, a2, a3, a4⟩ := first_is (q := fun i => v i = m) L hx
    obtain ⟨j, b1, b2, b3, b4⟩ := last_is (q := fun i => v i = m) L hx
    have hij : i ≤ j := by
      by_cases hij : i ≤ j
      · exact hij
      · exact absurd a3 (b4 i (by omega) a2)
    have c1 := h i v p ⟨h1.1, fun k hk => h1.2 k (by omega)⟩ h0 (fun k k1 k2 => by
      have d1 := h2 k k1 (by omega)
      have d2 := a4 k k1 k2
      omega)
    have c2 := h (L - j) (fun k => v (j + k)) (fun k => p (j + k) - p j) ⟨by dsimp only; rw [Nat.add_zero]; omega, fun k hk => by
      obtain ⟨w, h3, h4⟩ := h1.2 (j + k) (by omega)
      have h5 := wk_mono h1 (j + k) (by omega) j (by omega)
      exact ⟨w, h3, by dsimp only; rw [show j + (k + 1) = j + k + 1 by omega, h4]; omega⟩⟩ (by exact hlt _ (by omega)) (fun k k1 k2 => by
      try dsimp only
      have d1 := h2 (j + k) (by omega) (by omega)
      have d2 := b4 (j + k) (by omega) (by omega)
      omega)
    try dsimp only at c2
    rw [Nat.add_zero, show j + (L - j) = L by omega, b3] at c2
    rw [a3] at c1
    have c3 : fwM n m D (v 0) (v L) ≤ D (v 0) m + D m (v L) := fwAs_ed (hlt L (Nat.le_refl _)) n 0 D (Nat.zero_le _) (by omega)
    have m1 := wk_mono h1 j (by omega) i hij
    have m2 := wk_mono h1 L (Nat.le_refl _) j (by omega)
    omega
  · refine Nat.le_trans (hle _ _) (h L v p h1 h0 fun k k1 k2 => ?_)
    have d1 := h2 k k1 k2
    have d2 : v k ≠ m := fun e => hx ⟨k, k1, k2, e⟩
    omega
theorem fw_cs (hE : okE E n) : ∀ (c m : Nat) (D : Nat → Nat → Nat), m + c ≤ n → fwC E n m D → fwC E n (m + c) (lp (fwM n) c m D) := by
  intro c
  induction c with
  | zero => intro m D _ h; exact h
  | succ c ih =>
    intro m D hm h
    have h1 := ih (m + 1) (fwM n m D) (by omega) (fw_c1 hE (by omega) h)
    rw [show m + 1 + c = m + (c + 1) by omega] at h1
    exact h1
theorem fw_E (hE : okE E n) (hU : unE E) : ∀ (c i : Nat) (D : Nat → Nat → Nat), i + c ≤ E.1.1 → (∀ a, D a a = 0) → (∀ w, w < i → w ≠ E.1.2 → D (E.2.1 w) (E.2.2.1 w) = E.2.2.2 w ∧ D (E.2.2.1 w) (E.2.1 w) = E.2.2.2 w) → (∀ a, lp (fwE E) c i D a a = 0) ∧ ∀ w, w < i + c → w ≠ E.1.2 → lp (fwE E) c i D (E.2.1 w) (E.2.2.1 w) = E.2.2.2 w ∧ lp (fwE E) c i D (E.2.2.1 w) (E.2.1 w) = E.2.2.2 w := by
  intro c
  induction c with
  | zero => intro i D _ h1 h2; exact ⟨h1, h2⟩
  | succ c ih =>
    intro i D hi h1 h2
    obtain ⟨-, -, hne, -⟩ := hE i (by omega)
    rw [show i + (c + 1) = i + 1 + c by omega]
    refine ih (i + 1) (fwE E i D) (by omega) (fun a => ?_) (fun w hw hb => ?_)
    · unfold fwE
      split
      · exact h1 a
      · rw [ud2_n (fun z => hne (by omega)), ud2_n (fun z => hne (by omega))]
        exact h1 a
    · unfold fwE
      by_cases e : w = i
      · subst e
        rw [if_neg hb]
        refine ⟨?_, ud2_s⟩
        rw [ud2_n (fun z => hne z.1), ud2_s]
      · obtain ⟨u1, u2⟩ := hU w i (by omega) (by omega) e
        obtain ⟨g1, g2⟩ := h2 w (by omega) hb
        split
        · exact ⟨g1, g2⟩
        · refine ⟨?_, ?_⟩
          · rw [ud2_n (fun z => u2 ⟨z.1, z.2⟩), ud2_n (fun z => u1 ⟨z.1, z.2⟩)]
            exact g1
          · rw [ud2_n (fun z => u1 ⟨z.2, z.1⟩), ud2_n (fun z => u2 ⟨z.2, z.1⟩)]
            exact g2
theorem fw_com (hE : okE E n) (hU : unE E) {a b L s : Nat} (ha : a < n) (h : wlL E L a b s) : fwx E n a b ≤ s := by
  obtain ⟨v, p, h1, rfl, rfl, rfl⟩ := h
  obtain ⟨e1, e2⟩ := fw_E hE hU E.1.1 0 fw0 (by omega) (fun a => by unfold fw0; rw [if_pos rfl]) (fun w hw => by omega)
  have h0 : fwC E n 0 (lp (fwE E) E.1.1 0 fw0) := by
    intro L v p h1 h2 h3
    by_cases hL0 : L = 0
    · subst hL0
      rw [e1]; exact Nat.zero_le _
    · by_cases hL1 : L = 1
      · subst hL1
        obtain ⟨w, ⟨k1, k2, k3⟩, h5⟩ := h1.2 0 (by omega)
        rw [h1.1, Nat.zero_add] at h5
        rw [Nat.zero_add] at h5
        obtain ⟨g1, g2⟩ := e2 w (by omega) k2
        rcases k3 with ⟨k3, k4⟩ | ⟨k3, k4⟩
        · rw [← k3, show v 1 = E.2.2.1 w from k4.symm, g1, h5]; exact Nat.le_refl _
        · rw [← k3, show v 1 = E.2.1 w from k4.symm, g2, h5]; exact Nat.le_refl _
      · exact absurd (h3 1 (by omega) (by omega)) (by omega)
  have h9 := fw_cs hE n 0 _ (by omega) h0
  exact h9 L v p h1 ha (fun i _ hi => by rw [Nat.zero_add]; exact wk_lt hE h1 ha i (by omega))
/-- both ways of reckoning agree -/
theorem bf_fw (hE : okE E n) (hU : unE E) (h12 : E.1.1 ≤ 12) (h8 : n ≤ 8) {a b : Nat} (ha : a < n) (hb : b < n) : (bfx E n a b = 100000 ∧ fwx E n a b = 99999) ∨ (bfx E n a b ≤ 15552 ∧ fwx E n a b = bfx E n a b) := by
  obtain ⟨h1, h2⟩ := bf_is hE h12 h8 ha b
  have h3 := fw_snd hE a b
  rcases h1 with h1 | ⟨h1, L, h4⟩
  · refine Or.inl ⟨h1, ?_⟩
    rcases h3 with h3 | ⟨h3, L, h5⟩
    · exact h3
    · have h6 := h2 L _ h5
      omega
  · refine Or.inr ⟨h1, ?_⟩
    have h5 := fw_com hE hU ha h4
    rcases h3 with h3 | ⟨h3, L', h6⟩
    · omega
    · have h7 := h2 L' _ h6
      omega
theorem fw_sy (hE : okE E n) (hU : unE E) {a b : Nat} (ha : a < n) (hb : b < n) : fwx E n a b = fwx E n b a := by
  have h1 := fw_snd hE a b
  have h2 := fw_snd hE b a
  rcases h1 with h1 | ⟨h1, L, h3⟩
  · rcases h2 with h2 | ⟨h2, L', h4⟩
    · rw [h1, h2]
    · have h5 := fw_com hE hU ha (wl_sy h4)
      omega
  · have h5 := fw_com hE hU hb (wl_sy h3)
    rcases h2 with h2 | ⟨h2, L', h4⟩
    · omega
    · have h6 := fw_com hE hU ha (wl_sy h4)
      omega
end WK
