/-! the plain law: the twin's rows -/
set_option maxRecDepth 100000
/-- so much of a row is in use: so many towns, so many crates -/
def us (T : tw_T) (k : Nat) : Prop := k = 0 ∨ (1 ≤ k ∧ k < 25 ∧ nI ((k - 1) % 8) < T.1 1) ∨ (25 ≤ k ∧ nI ((k - 25) % 10) < T.1 3)
theorem us_0 {T : tw_T} : us T 0 := Or.inl rfl
theorem us.k {T T' : tw_T} {k : Nat} (h : us T k) (h1 : T'.1 1 = T.1 1) (h3 : T'.1 3 = T.1 3) : us T' k := by
  unfold us
  rw [h1, h3]
  exact h
theorem us_lt {a n : Nat} (h : a < n) (hn : n < 100) : nI a < nI n := by
  rw [Int32.lt_iff_toInt_lt, nI_toInt (by omega), nI_toInt (by omega)]
  omega
theorem us_t {T : tw_T} {m s t : Nat} (h1 : T.1 1 = nI m) (ht : t < m) (hm : m ≤ 8) (hs : s = 1 ∨ s = 9 ∨ s = 17) : us T (s + t) := by
  refine Or.inr (Or.inl ⟨by omega, by omega, ?_⟩)
  have e : (s + t - 1) % 8 = t := by rcases hs with rfl | rfl | rfl <;> omega
  rw [h1, e]
  exact us_lt ht (by omega)
theorem us_c {T : tw_T} {m s t : Nat} (h1 : T.1 3 = nI m) (ht : t < m) (hm : m ≤ 10) (hs : s = 25 ∨ s = 35 ∨ s = 45 ∨ s = 55 ∨ s = 65 ∨ s = 75) : us T (s + t) := by
  refine Or.inr (Or.inr ⟨by omega, ?_⟩)
  have e : (s + t - 25) % 10 = t := by rcases hs with rfl | rfl | rfl | rfl | rfl | rfl <;> omega
  rw [h1, e]
  exact us_lt ht (by omega)
/-- the row at b of the twin's rows is R, as far as it is in use -/
def isRw (T : tw_T) (b : Nat) (R : Nat → Int32) : Prop := ∀ k, k < 85 → us T k → T.2.2 20 (b + k) = R k
/-- a day at b touches: rows at b, told, pile, winners -/
def jfr (b : Nat) (T T' : tw_T) : Prop := T'.2.1 = T.2.1 ∧ (∀ k, k ≠ 47 → T'.1 k = T.1 k) ∧ (∀ r, r ≠ 20 → r ≠ 22 → r ≠ 23 → T'.2.2 r = T.2.2 r) ∧ ∀ q, ¬ (b ≤ q ∧ q < b + 85) → T'.2.2 20 q = T.2.2 20 q
theorem jfr.rf {b : Nat} {T : tw_T} : jfr b T T := ⟨rfl, fun _ _ => rfl, fun _ _ _ _ => rfl, fun _ _ => rfl⟩
theorem jfr.tr {b : Nat} {T T1 T2 : tw_T} (h1 : jfr b T T1) (h2 : jfr b T1 T2) : jfr b T T2 := ⟨h2.1.trans h1.1, fun k hk => (h2.2.1 k hk).trans (h1.2.1 k hk), fun r a c d => (h2.2.2.1 r a c d).trans (h1.2.2.1 r a c d), fun q hq => (h2.2.2.2 q hq).trans (h1.2.2.2 q hq)⟩
theorem A_1 {T : tw_T} {j : Nat} {f : Nat → Int32} : (tw_A T j f).1 = T.1 := rfl
theorem A_w {T : tw_T} {j : Nat} {f : Nat → Int32} : (tw_A T j f).2.1 = T.2.1 := rfl
theorem A_s {T : tw_T} {j : Nat} {f : Nat → Int32} : (tw_A T j f).2.2 j = f := by unfold tw_A; dsimp only; rw [if_pos rfl]
theorem A_n {T : tw_T} {j r : Nat} {f : Nat → Int32} (h : r ≠ j) : (tw_A T j f).2.2 r = T.2.2 r := by unfold tw_A; dsimp only; rw [if_neg h]
theorem F_s {T : tw_T} {k : Nat} {v : Int32} : (tw_F T k v).1 k = v := by unfold tw_F; dsimp only; rw [if_pos rfl]
theorem F_n {T : tw_T} {k q : Nat} {v : Int32} (h : q ≠ k) : (tw_F T k v).1 q = T.1 q := by unfold tw_F; dsimp only; rw [if_neg h]
theorem F_2 {T : tw_T} {k : Nat} {v : Int32} : (tw_F T k v).2 = T.2 := rfl
theorem nI_st {T : tw_T} {j n i : Nat} {x : Int32} (h : i < n) (hn : n < 2 ^ 31) : stA T j n (nI i) x = some (tw_A T j (upd (T.2.2 j) i x)) := by
  unfold stA
  rw [if_neg (nI_in h hn), nI_clamp (Nat.lt_trans h hn)]
section RW
variable {T : tw_T} {b : Nat} {R : Nat → Int32}
theorem rw_rd (h : isRw T b R) (hb : b ≤ 85) {k : Nat} (hk : k < 85) (hu : us T k) : rdI 170 (T.2.2 20) (nI (b + k)) = some (R k) := by
  rw [nI_rd (by omega) (by omega), h k hk hu]
theorem rw_st (h : isRw T b R) (hb : b ≤ 85) {k : Nat} (hk : k < 85) {v : Int32} : ∃ T', stA T 20 170 (nI (b + k)) v = some T' ∧ isRw T' b (upd R k v) ∧ jfr b T T' := by
  refine ⟨_, nI_st (by omega) (by omega), fun q hq hu => ?_, rfl, fun _ _ => rfl, fun r h1 _ _ => A_n h1, fun q hq => ?_⟩
  · rw [A_s]
    by_cases hqk : q = k
    · subst hqk; rw [upd_s, upd_s]
    · rw [upd_n hqk, upd_n (by omega), h q hq hu]
  · rw [A_s, upd_n (by omega)]
theorem isRw.ext {R' : Nat → Int32} (h : isRw T b R) (hR : ∀ k, k < 85 → R' k = R k) : isRw T b R' := fun k hk hu => (h k hk hu).trans (hR k hk).symm
theorem isRw.of {T' : tw_T} (h : isRw T b R) (hT : T'.2.2 20 = T.2.2 20) (h1 : T'.1 1 = T.1 1 := by rfl) (h3 : T'.1 3 = T.1 3 := by rfl) : isRw T' b R := fun k hk hu => by rw [hT]; exact h k hk (hu.k h1.symm h3.symm)
theorem rx2 (x b c : Nat) : nI b + nI x + nI c = nI (b + (x + c)) := by rw [nI_add, nI_add, Nat.add_assoc]
theorem rx1 (x b : Nat) : nI b + nI x = nI (b + x) := nI_add b x
end RW
def kepI (v lo hi : Int32) : Int32 := if lo ≤ v then (if v ≤ hi then v else hi) else lo
def lesI (a b : Int32) : Int32 := if a < b then a else b
theorem J_kept_e {v lo hi : Int32} : J_kept v lo hi = some (kepI v lo hi) := by
  unfold J_kept J_kept_19 kepI
  split
  · split <;> rfl
  · rfl
theorem J_lies_e {T : tw_T} {b c : Nat} {R : Nat → Int32} {cr : Nat} (h : isRw T b R) (hb : b ≤ 85) (h3 : T.1 3 = nI cr) (hc : c < cr) (hcr : cr ≤ 10) : J_lies (nI b) (nI c) T = some (if liesR R c then nI 1 else nI 0, T) := by
  unfold J_lies J_lies_33 J_lies_34
  rw [rx2, rx2, rw_rd h hb (by omega) (us_c h3 hc hcr (by omega)), rw_rd h hb (by omega) (us_c h3 hc hcr (by omega))]
  simp only [Option.bind_some, zr1, zr0]
  by_cases h1 : R (55 + c) = -1
  · rw [if_pos h1, if_neg (fun q => q.1 h1)]
  · rw [if_neg h1]
    by_cases h2 : R (65 + c) = 0
    · rw [if_pos h2, if_pos ⟨h1, h2⟩]
    · rw [if_neg h2, if_neg (fun q => h2 q.2)]
