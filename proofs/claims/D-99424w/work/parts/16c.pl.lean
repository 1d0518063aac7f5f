/-! the plain law: bits; those that won and lost -/
set_option maxRecDepth 100000
/-- no step of mere reckoning: the kernel is not to reduce what stands behind -/
theorem bdS {α β : Type} {a : α} {f : α → Option β} : (some a).bind f = f a := by
  have h : ∀ o : Option α, o = some a → o.bind f = f a := fun o ho => by
    rw [ho]
    rfl
  exact h _ rfl
theorem lp_congr {α : Type} {f g : Nat → α → α} : ∀ (c i : Nat) (x : α), (∀ k, i ≤ k → k < i + c → ∀ y, f k y = g k y) → lp f c i x = lp g c i x := by
  intro c
  induction c with
  | zero => intro i x _; rfl
  | succ c ih =>
    intro i x h
    show lp f c (i + 1) (f i x) = lp g c (i + 1) (g i x)
    rw [h i (Nat.le_refl _) (by omega)]
    exact ih (i + 1) _ fun k h1 h2 => h k (by omega) (by omega)
theorem bt_hs : ∀ t, t < 31 → ((nI t &&& 31 : Int32).toBitVec.smod 32).toNat = t := by decide +kernel
theorem bt_shl {t : Nat} (ht : t < 31) : (nI 1) <<< (nI t &&& 31) = nI (2 ^ t) := by
  have h : (1 : Nat) * 2 ^ t < 2 ^ 32 := by
    rw [Nat.one_mul]
    exact Nat.pow_lt_pow_right (by omega) (by omega)
  rw [pk_shlN (n := 1) (nI t &&& 31) t (bt_hs t ht) h, Nat.one_mul]
theorem bt_tst {m t : Nat} (hm : m < 2 ^ 31) (ht : t < 31) : ((nI m >>> (nI t &&& 31)) &&& nI 1) = if m.testBit t = true then nI 1 else nI 0 := by
  have h1 := Nat.div_le_self m (2 ^ t)
  have h2 : m / 2 ^ t % 2 < 2 := Nat.mod_lt _ (by omega)
  rw [pk_shrN hm _ t (bt_hs t ht), pk_andN (n := m / 2 ^ t) (by omega) 1 (by decide), Nat.testBit_eq_decide_div_mod_eq, show (2 : Nat) ^ 1 = 2 from rfl]
  by_cases h : m / 2 ^ t % 2 = 1
  · rw [h, if_pos (by decide)]
  · have h0 : m / 2 ^ t % 2 = 0 := by omega
    rw [h0, if_neg (by decide)]
theorem ite_1 {c : Prop} [Decidable c] : (if c then nI 1 else nI 0) = nI 1 ↔ c := by
  by_cases h : c
  · rw [if_pos h]; exact ⟨fun _ => h, fun _ => rfl⟩
  · rw [if_neg h]; exact ⟨fun e => absurd e (by decide), fun e => absurd e h⟩
theorem ite_0 {c : Prop} [Decidable c] : (if c then nI 1 else nI 0) = 0 ↔ ¬ c := by
  by_cases h : c
  · rw [if_pos h]; exact ⟨fun e => absurd e (by decide), fun e => absurd h e⟩
  · rw [if_neg h]; exact ⟨fun _ => h, fun _ => nI_0⟩
theorem K_isOf {m t : Nat} (hm : m < 2 ^ 31) (ht : t < 31) : KX1_isOf (nI m) (nI t) = some (if m.testBit t = true then nI 1 else nI 0) := by
  unfold KX1_isOf KX1_isOf_14
  rw [bt_tst hm ht]
  by_cases h : m.testBit t = true
  · rw [if_pos h, if_pos rfl, zr1]; rfl
  · rw [if_neg h, if_neg (by decide), zr0]; rfl
/-- bits are set -/
def bF (e : Nat → Bool) (t : Nat) (v : Int32) : Int32 := if e t = true then v ||| ((nI 1) <<< (nI t &&& 31)) else v
theorem lpB {e : Nat → Bool} : ∀ (c i m : Nat), i + c ≤ 30 → m < 2 ^ i → ∃ m', m' < 2 ^ (i + c) ∧ lp (bF e) c i (nI m) = nI m' ∧ ∀ t, m'.testBit t = (m.testBit t || (decide (i ≤ t) && decide (t < i + c) && e t)) := by
  intro c
  induction c with
  | zero =>
    intro i m hi hm
    refine ⟨m, hm, rfl, fun t => ?_⟩
    by_cases h : i ≤ t
    · rw [show decide (t < i + 0) = false from decide_eq_false (by omega)]; simp
    · rw [show decide (i ≤ t) = false from decide_eq_false h]; simp
  | succ c ih =>
    intro i m hi hm
    have hp : 2 ^ (i + 1) = 2 ^ i + 2 ^ i := by rw [Nat.pow_succ]; omega
    rw [show i + (c + 1) = i + 1 + c by omega]
    show ∃ m', m' < 2 ^ (i + 1 + c) ∧ lp (bF e) c (i + 1) (bF e i (nI m)) = nI m' ∧ _
    by_cases he : e i = true
    · have hb : bF e i (nI m) = nI (m ||| 2 ^ i) := by
        unfold bF
        rw [if_pos he, bt_shl (by omega), nI_or]
      rw [hb]
      obtain ⟨m', h1, h2, h3⟩ := ih (i + 1) (m ||| 2 ^ i) (by omega) (Nat.or_lt_two_pow (by omega) (by omega))
      refine ⟨m', h1, h2, fun t => ?_⟩
      rw [h3 t, Nat.testBit_or, Nat.testBit_two_pow]
      rcases Nat.lt_trichotomy t i with h | h | h
      · rw [show decide (i = t) = false from decide_eq_false (by omega), show decide (i ≤ t) = false from decide_eq_false (by omega), show decide (i + 1 ≤ t) = false from decide_eq_false (by omega)]
        simp
      · subst h
        rw [show decide (t = t) = true from decide_eq_true rfl, show decide (t ≤ t) = true from decide_eq_true (Nat.le_refl _), show decide (t < t + 1 + c) = true from decide_eq_true (by omega), he]
        simp
      · rw [show decide (i = t) = false from decide_eq_false (by omega), show decide (i ≤ t) = true from decide_eq_true (by omega), show decide (i + 1 ≤ t) = true from decide_eq_true (by omega)]
        simp
    · have hb : bF e i (nI m) = nI m := by
        unfold bF
        rw [if_neg he]
      rw [hb]
      obtain ⟨m', h1, h2, h3⟩ := ih (i + 1) m (by omega) (by omega)
      refine ⟨m', h1, h2, fun t => ?_⟩
      rw [h3 t]
      rcases Nat.lt_trichotomy t i with h | h | h
      · rw [show decide (i ≤ t) = false from decide_eq_false (by omega), show decide (i + 1 ≤ t) = false from decide_eq_false (by omega)]
      · subst h
        have he : e t = false := by cases h9 : e t; rfl; exact absurd h9 he
        rw [he]
        simp
      · rw [show decide (i ≤ t) = true from decide_eq_true (by omega), show decide (i + 1 ≤ t) = true from decide_eq_true (by omega)]
theorem lose_win {P : pvT} : ∀ (c i : Nat) (s s' : (Nat → Int32) × Int32), s.1 = s'.1 → ∃ d : Nat → Bool, (lp (townR P) c i s).2 = lp (bF fun t => !d t) c i s.2 ∧ (lp (townW P) c i s').2 = lp (bF d) c i s'.2 := by
  intro c
  induction c with
  | zero => intro i s s' _; exact ⟨fun _ => false, rfl, rfl⟩
  | succ c ih =>
    intro i s s' h
    obtain ⟨d, h1, h2⟩ := ih (i + 1) (townR P i s) (townW P i s') (townW_1 (s := s') (s' := s) h.symm).symm
    refine ⟨fun k => if k = i then !decide (oddR P (giveR s.1 i (P.2.1 0 i)) i < nI 7) else d k, ?_, ?_⟩
    · show (lp (townR P) c (i + 1) (townR P i s)).2 = lp _ c (i + 1) (bF _ i s.2)
      rw [h1]
      have e1 : (townR P i s).2 = bF (fun t => !(if t = i then !decide (oddR P (giveR s.1 i (P.2.1 0 i)) i < nI 7) else d t)) i s.2 := by
        unfold townR bF
        dsimp only
        by_cases h9 : oddR P (giveR s.1 i (P.2.1 0 i)) i < nI 7
        · simp [h9]
        · simp [h9]
      rw [e1]
      refine lp_congr c (i + 1) _ fun k hk1 hk2 y => ?_
      have hki : ¬ k = i := by omega
      unfold bF
      simp [hki]
    · show (lp (townW P) c (i + 1) (townW P i s')).2 = lp _ c (i + 1) (bF _ i s'.2)
      rw [h2]
      have e1 : (townW P i s').2 = bF (fun t => (if t = i then !decide (oddR P (giveR s.1 i (P.2.1 0 i)) i < nI 7) else d t)) i s'.2 := by
        unfold townW bF
        dsimp only
        rw [← h]
        by_cases h9 : oddR P (giveR s.1 i (P.2.1 0 i)) i < nI 7
        · simp [h9]
        · simp [h9]
      rw [e1]
      refine lp_congr c (i + 1) _ fun k hk1 hk2 y => ?_
      have hki : ¬ k = i := by omega
      unfold bF
      simp [hki]
/-- who wins on a day -/
theorem day_bits {P : pvT} {R : Nat → Int32} (h8 : P.1.1 ≤ 8) : ∃ z : Nat → Bool, ∀ t, t < P.1.1 → KX1_isOf (dayR P R).2 (nI t) = some (if z t = true then nI 0 else nI 1) ∧ ((dayW P R >>> (nI t &&& 31)) &&& nI 1) = if z t = true then nI 1 else nI 0 := by
  obtain ⟨d, h1, h2⟩ := lose_win (P := P) P.1.1 0 (lp gosR P.1.2.2 0 R, nI 0) (lp gosR P.1.2.2 0 R, nI 0) rfl
  obtain ⟨m, a1, a2, a3⟩ := lpB (e := fun t => !d t) P.1.1 0 0 (by omega) (by decide)
  obtain ⟨m', b1, b2, b3⟩ := lpB (e := d) P.1.1 0 0 (by omega) (by decide)
  have hb : (2 : Nat) ^ (0 + P.1.1) ≤ 2 ^ 30 := Nat.pow_le_pow_right (by omega) (by omega)
  refine ⟨d, fun t ht => ⟨?_, ?_⟩⟩
  · have e : (dayR P R).2 = nI m := by
      unfold dayR
      dsimp only
      rw [h1, a2]
    rw [e, K_isOf (by omega) (by omega), a3 t, Nat.zero_testBit, show decide (0 ≤ t) = true from decide_eq_true (by omega), show decide (t < 0 + P.1.1) = true from decide_eq_true (by omega)]
    cases d t <;> rfl
  · have e : dayW P R = nI m' := by
      unfold dayW
      rw [h2, b2]
    rw [e, bt_tst (by omega) (by omega), b3 t, Nat.zero_testBit, show decide (0 ≤ t) = true from decide_eq_true (by omega), show decide (t < 0 + P.1.1) = true from decide_eq_true (by omega)]
    cases d t <;> rfl
/-! what may be asked: guards of both -/
def nse : String := "java/util/NoSuchElementException"
def iae : String := "java/lang/IllegalArgumentException"
def tS (σ : vv_S) : vv_S := (σ.1, σ.2.1 + 1, σ.2.2 + 6)
theorem xbL {α β : Type} {r : α} {f : α → Option (hX β)} : xb (.inl r) f = f r := by
  have h : ∀ o : hX α, o = .inl r → xb o f = f r := fun o ho => by
    rw [ho]
    rfl
  exact h _ rfl
theorem xbR {α β : Type} {x : (String × Nat) × vv_S} {f : α → Option (hX β)} : xb (.inr x) f = some (.inr x) := by
  have h : ∀ o : hX α, o = .inr x → xb o f = some (.inr x) := fun o ho => by
    rw [ho]
    rfl
  exact h _ rfl
theorem K_found1 {σ : vv_S} : KX1_found (nI 1) σ = some (.inl σ) := by unfold KX1_found; rw [if_neg s1_ne]
theorem K_found0 {σ : vv_S} : KX1_found (nI 0) σ = some (.inr ((nse, σ.2.1), tS σ)) := by unfold KX1_found; rw [if_pos nI_0]; rfl
theorem K_right1 {σ : vv_S} : KX1_right (nI 1) σ = some (.inl σ) := by unfold KX1_right; rw [if_neg s1_ne]
theorem K_right0 {σ : vv_S} : KX1_right (nI 0) σ = some (.inr ((iae, σ.2.1), tS σ)) := by unfold KX1_right; rw [if_pos nI_0]; rfl
theorem K_in {x a b : Int32} : KX1_in x a b = some (if x < a ∨ b < x then nI 0 else nI 1) := by
  unfold KX1_in KX1_in_14 KX1_in_15
  by_cases h1 : x < a
  · rw [if_pos h1, if_pos (Or.inl h1), zr0]; rfl
  · rw [if_neg h1]
    by_cases h2 : b < x
    · rw [if_pos h2, if_pos (Or.inr h2), zr0]; rfl
    · rw [if_neg h2, if_neg (fun h => h.elim h1 h2), zr1]; rfl
theorem J_within_e {x a b : Int32} : J_within x a b = some (if x < a ∨ b < x then nI 0 else nI 1) := by
  unfold J_within J_within_14 J_within_15
  by_cases h1 : x < a
  · rw [if_pos h1, if_pos (Or.inl h1), zr0]; rfl
  · rw [if_neg h1]
    by_cases h2 : b < x
    · rw [if_pos h2, if_pos (Or.inr h2), zr0]; rfl
    · rw [if_neg h2, if_neg (fun h => h.elim h1 h2), zr1]; rfl
theorem J_right1 {T : tw_T} {c : Int32} (h : T.1 0 = 0) : J_right (nI 1) c T = some (nI 1, T) := by
  unfold J_right J_right_16 J_right_28
  rw [if_pos h, if_neg s1_ne, if_pos h, zr1]; rfl
theorem J_right0 {T : tw_T} {c : Int32} (h : T.1 0 = 0) (hc : c ≠ 0) : J_right (nI 0) c T = some (nI 0, tw_F T 0 c) := by
  unfold J_right J_right_16 J_right_28
  rw [if_pos h, if_pos nI_0]
  simp only [bdS]
  rw [if_neg (by rw [F_s]; exact hc), zr0]; rfl
theorem F_00 {T : tw_T} : (tw_F T 0 (nI 0)).1 0 = 0 := by rw [F_s, nI_0]
theorem ix_m1 (x : Int32) {n : Nat} (hn : n < 2 ^ 30) : (x < nI 0 ∨ nI n - nI 1 < x) ↔ (x < 0 ∨ nI n ≤ x) := by
  have e0 := ti_n (n := 0) (by omega)
  have e1 := ti_n (n := 1) (by omega)
  have en := ti_n (n := n) (by omega)
  have e : (nI n - nI 1).toInt = (n : Int) - 1 := by rw [ti_sub (by rw [en, e1]; omega) (by rw [en, e1]; omega), en, e1]; rfl
  rw [ti_lt, ti_lt, ti_lt, ti_le, e, e0, en, ti_0]
  omega
section GU
variable {σ : vv_S} {x0 pa va : Nat} {h0 : Nat → Option vv_E} {P : pvT} {T : tw_T}
/-- a number below n, or none -/
theorem g_ix (x : Int32) {n : Nat} (hn : n < 2 ^ 30) : (∃ t, t < n ∧ x = nI t ∧ KX1_in x (nI 0) (nI n - nI 1) = some (nI 1) ∧ ¬ x < 0 ∧ ¬ nI n ≤ x) ∨ (KX1_in x (nI 0) (nI n - nI 1) = some (nI 0) ∧ (x < 0 ∨ nI n ≤ x)) := by
  rw [K_in]
  by_cases h : x < 0 ∨ nI n ≤ x
  · exact Or.inr ⟨by rw [if_pos ((ix_m1 x hn).mpr h)], h⟩
  · refine Or.inl ?_
    rcases pk_ix x (n := n) (by omega) with h1 | h1 | ⟨j, hj, e⟩
    · exact absurd (Or.inl h1) h
    · exact absurd (Or.inr h1) h
    · exact ⟨j, hj, e, by rw [if_neg (fun z => h ((ix_m1 x hn).mp z))], fun z => h (Or.inl z), fun z => h (Or.inr z)⟩
theorem g_town (H : isEnv σ x0 h0 pa va P) (hP : isTp T P) (hz : T.1 0 = 0) (x : Int32) : (∃ t, t < P.1.1 ∧ x = nI t ∧ KX1_aTown x0 x σ = some (.inl σ) ∧ J_isTown x T = some (nI 1, T)) ∨ (KX1_aTown x0 x σ = some (.inr ((nse, σ.2.1), tS σ)) ∧ J_isTown x T = some (nI 0, tw_F T 0 (nI 1))) := by
  have h8 := ev_8 H
  unfold KX1_aTown J_isTown J_isTown_17 J_isTown_18
  simp only [ev_pa H, ev_o H, ev_tw H, bdS, hP.1]
  rcases g_ix x (n := P.1.1) (by omega) with ⟨t, h1, h2, h3, h4, h5⟩ | ⟨h3, h4⟩
  · refine Or.inl ⟨t, h1, h2, ?_, ?_⟩
    · simp only [h3, K_found1, xbL, bdS]
    · rw [if_neg h4, if_neg h5, J_right1 hz]
      simp only [bdS, zr1]
  · refine Or.inr ⟨?_, ?_⟩
    · simp only [h3, K_found0, xbR, bdS]
    · rw [J_right0 hz s1_ne]
      simp only [bdS, zr0]
      by_cases h5 : x < 0
      · rw [if_pos h5]
      · rw [if_neg h5, if_pos (h4.resolve_left h5)]
theorem g_crate (H : isEnv σ x0 h0 pa va P) (hP : isTp T P) (hz : T.1 0 = 0) (x : Int32) : (∃ t, t < P.1.2.2 ∧ x = nI t ∧ KX1_aCrate x0 x σ = some (.inl σ) ∧ J_isCrate x T = some (nI 1, T)) ∨ (KX1_aCrate x0 x σ = some (.inr ((nse, σ.2.1), tS σ)) ∧ J_isCrate x T = some (nI 0, tw_F T 0 (nI 1))) := by
  have h8 := ev_10 H
  unfold KX1_aCrate J_isCrate J_isCrate_17 J_isCrate_18
  simp only [ev_pa H, ev_cr H, bdS, hP.2.2.1]
  rcases g_ix x (n := P.1.2.2) (by omega) with ⟨t, h1, h2, h3, h4, h5⟩ | ⟨h3, h4⟩
  · refine Or.inl ⟨t, h1, h2, ?_, ?_⟩
    · simp only [h3, K_found1, xbL, bdS]
    · rw [if_neg h4, if_neg h5, J_right1 hz]
      simp only [bdS, zr1]
  · refine Or.inr ⟨?_, ?_⟩
    · simp only [h3, K_found0, xbR, bdS]
    · rw [J_right0 hz s1_ne]
      simp only [bdS, zr0]
      by_cases h5 : x < 0
      · rw [if_pos h5]
      · rw [if_neg h5, if_pos (h4.resolve_left h5)]
theorem g_way (hw : P.1.2.1 ≤ 12) (hP : isTp T P) (hz : T.1 0 = 0) (x : Int32) : (∃ t, t < P.1.2.1 ∧ x = nI t ∧ KX1_oneOf x (nI P.1.2.1 - nI 1) σ = some (.inl σ) ∧ J_isWay x T = some (nI 1, T)) ∨ (KX1_oneOf x (nI P.1.2.1 - nI 1) σ = some (.inr ((nse, σ.2.1), tS σ)) ∧ J_isWay x T = some (nI 0, tw_F T 0 (nI 1))) := by
  unfold KX1_oneOf J_isWay J_isWay_17 J_isWay_18
  simp only [hP.2.1]
  rcases g_ix x (n := P.1.2.1) (by omega) with ⟨t, h1, h2, h3, h4, h5⟩ | ⟨h3, h4⟩
  · refine Or.inl ⟨t, h1, h2, ?_, ?_⟩
    · simp only [h3, K_found1, xbL, bdS]
    · rw [if_neg h4, if_neg h5, J_right1 hz]
      simp only [bdS, zr1]
  · refine Or.inr ⟨?_, ?_⟩
    · simp only [h3, K_found0, xbR, bdS]
    · rw [J_right0 hz s1_ne]
      simp only [bdS, zr0]
      by_cases h5 : x < 0
      · rw [if_pos h5]
      · rw [if_neg h5, if_pos (h4.resolve_left h5)]
theorem in_rng (x : Int32) {a b : Nat} (hb : b < 2 ^ 30) (hab : a ≤ b) : (∃ t, a ≤ t ∧ t ≤ b ∧ x = nI t ∧ ¬ (x < nI a ∨ nI b < x)) ∨ (x < nI a ∨ nI b < x) := by
  by_cases h : x < nI a ∨ nI b < x
  · exact Or.inr h
  · refine Or.inl ?_
    have ea := ti_n (n := a) (by omega)
    have eb := ti_n (n := b) (by omega)
    have h1 : ¬ x.toInt < a := fun z => h (Or.inl (by rw [ti_lt, ea]; exact z))
    have h2 : ¬ (b : Int) < x.toInt := fun z => h (Or.inr (by rw [ti_lt, eb]; exact z))
    obtain ⟨t, ht, e⟩ := nI_of (x := x) (by rw [ti_lt, ti_0]; omega)
    have et := ti_n ht
    rw [e, et] at h1 h2
    exact ⟨t, by omega, by omega, e, h⟩
theorem g_what (hz : T.1 0 = 0) (x : Int32) {m : Nat} (hm : m < 2 ^ 30) : (∃ t, t ≤ m ∧ x = nI t ∧ KX1_oneOf x (nI m) σ = some (.inl σ) ∧ J_isWhat x (nI m) T = some (nI 1, T)) ∨ (KX1_oneOf x (nI m) σ = some (.inr ((nse, σ.2.1), tS σ)) ∧ J_isWhat x (nI m) T = some (nI 0, tw_F T 0 (nI 1))) := by
  unfold KX1_oneOf J_isWhat
  rw [K_in, J_within_e]
  rcases in_rng x (a := 0) hm (by omega) with ⟨t, -, h2, h3, h4⟩ | h4
  · refine Or.inl ⟨t, h2, h3, ?_, ?_⟩
    · rw [if_neg h4]; simp only [K_found1, xbL, bdS]
    · rw [if_neg h4]; simp only [J_right1 hz, zr1, bdS]
  · refine Or.inr ⟨?_, ?_⟩
    · rw [if_pos h4]; simp only [K_found0, xbR, bdS]
    · rw [if_pos h4]; simp only [J_right0 hz s1_ne, zr0, bdS]
theorem g_days (hz : T.1 0 = 0) (x : Int32) {a : Nat} (ha : a ≤ 60) {c : Int32} (hc : c ≠ 0) : (∃ t, a ≤ t ∧ t ≤ 60 ∧ x = nI t ∧ KX1_in x (nI a) (nI 60) = some (nI 1) ∧ J_isDays x (nI a) c T = some (nI 1, T)) ∨ (KX1_in x (nI a) (nI 60) = some (nI 0) ∧ J_isDays x (nI a) c T = some (nI 0, tw_F T 0 c)) := by
  unfold J_isDays
  rw [K_in, J_within_e]
  rcases in_rng x (a := a) (b := 60) (by omega) ha with ⟨t, h1, h2, h3, h4⟩ | h4
  · refine Or.inl ⟨t, h1, h2, h3, by rw [if_neg h4], ?_⟩
    rw [if_neg h4]; simp only [J_right1 hz, zr1, bdS]
  · refine Or.inr ⟨by rw [if_pos h4], ?_⟩
    rw [if_pos h4]; simp only [J_right0 hz hc, zr0, bdS]
theorem g_in (hz : T.1 0 = 0) (x : Int32) {a b : Nat} (hb : b < 2 ^ 30) (ha : a ≤ b) {c : Int32} (hc : c ≠ 0) : (∃ t, a ≤ t ∧ t ≤ b ∧ x = nI t ∧ KX1_in x (nI a) (nI b) = some (nI 1) ∧ J_within x (nI a) (nI b) = some (nI 1)) ∨ (KX1_in x (nI a) (nI b) = some (nI 0) ∧ J_within x (nI a) (nI b) = some (nI 0)) := by
  rw [K_in, J_within_e]
  rcases in_rng x (a := a) (b := b) hb ha with ⟨t, h1, h2, h3, h4⟩ | h4
  · exact Or.inl ⟨t, h1, h2, h3, by rw [if_neg h4], by rw [if_neg h4]⟩
  · exact Or.inr ⟨by rw [if_pos h4], by rw [if_pos h4]⟩
end GU
