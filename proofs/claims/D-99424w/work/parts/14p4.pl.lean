/-! the plain law: whole numbers, what rows hold, the twin's day -/
set_option maxRecDepth 100000
theorem ti_add {x y : Int32} (h1 : -2147483648 ≤ x.toInt + y.toInt) (h2 : x.toInt + y.toInt ≤ 2147483647) : (x + y).toInt = x.toInt + y.toInt := by
  rw [Int32.toInt_add]
  exact Int.bmod_eq_of_le (by omega) (by omega)
theorem ti_sub {x y : Int32} (h1 : -2147483648 ≤ x.toInt - y.toInt) (h2 : x.toInt - y.toInt ≤ 2147483647) : (x - y).toInt = x.toInt - y.toInt := by
  rw [Int32.toInt_sub]
  exact Int.bmod_eq_of_le (by omega) (by omega)
theorem ti_n {n : Nat} (h : n < 2 ^ 31) : (nI n).toInt = (n : Int) := nI_toInt h
theorem ti_le {x y : Int32} : x ≤ y ↔ x.toInt ≤ y.toInt := Int32.le_iff_toInt_le
theorem ti_lt {x y : Int32} : x < y ↔ x.toInt < y.toInt := Int32.lt_iff_toInt_lt
theorem ti_eq {x y : Int32} (h : x.toInt = y.toInt) : x = y := Int32.toInt_inj.mp h
theorem ti_0 : (0 : Int32).toInt = 0 := rfl
theorem ti_m1 : (-1 : Int32).toInt = -1 := by decide
def rI (x : Int32) (lo hi : Int) : Prop := lo ≤ x.toInt ∧ x.toInt ≤ hi
/-- the province's numbers -/
def invP (P : pvT) : Prop := (∀ t, t < P.1.1 → rI (P.2.1 0 t) 0 20 ∧ rI (P.2.1 1 t) 0 20) ∧ ∀ w, w < P.1.2.1 → rI (P.2.1 2 w) 0 (P.1.1 - 1) ∧ rI (P.2.1 3 w) 0 (P.1.1 - 1) ∧ rI (P.2.1 4 w) 1 9 ∧ rI (P.2.1 5 w) 0 9
/-- a row's numbers -/
def invR (P : pvT) (R : Nat → Int32) : Prop := (∀ t, t < 8 → rI (R (1 + t)) 0 9999 ∧ rI (R (9 + t)) 0 9999) ∧ ∀ k, k < 10 → rI (R (25 + k)) 0 99 ∧ rI (R (35 + k)) 0 1 ∧ rI (R (45 + k)) 0 1 ∧ rI (R (55 + k)) (-1) (P.1.1 - 1) ∧ rI (R (65 + k)) 0 9 ∧ rI (R (75 + k)) 0 9
theorem mx_kep {v : Int32} (h : v.toInt ≤ 99) : kepI v (nI 0) (nI 99) = mxI (nI 0) v := by
  have h0 := ti_n (n := 0) (by omega)
  have h9 := ti_n (n := 99) (by omega)
  unfold kepI mxI
  simp only [ti_le, ti_lt, h0, h9]
  by_cases h1 : 0 < v.toInt
  · rw [if_pos (by omega), if_pos (by omega), if_pos (by omega)]
  · rw [if_neg (show ¬ ((0 : Nat) : Int) < v.toInt by omega)]
    by_cases h2 : 0 ≤ v.toInt
    · rw [if_pos (by omega), if_pos (by omega)]
      exact ti_eq (by rw [h0]; omega)
    · rw [if_neg (by omega)]
theorem mn_kep {v : Int32} (h : 0 ≤ v.toInt) : kepI v (nI 0) (nI 9999) = mnI (nI 9999) v := by
  have h0 := ti_n (n := 0) (by omega)
  have h9 := ti_n (n := 9999) (by omega)
  unfold kepI mnI
  simp only [ti_le, ti_lt, h0, h9]
  rw [if_pos (show ((0 : Nat) : Int) ≤ v.toInt by omega)]
  by_cases h1 : v.toInt < 9999
  · rw [if_pos (by omega), if_pos (by omega)]
  · rw [if_neg (show ¬ v.toInt < ((9999 : Nat) : Int) by omega)]
    by_cases h2 : v.toInt ≤ 9999
    · rw [if_pos (by omega)]
      exact ti_eq (by rw [h9]; omega)
    · rw [if_neg (by omega)]
theorem mx_kep2 {v : Int32} (h : v.toInt ≤ 9999) : kepI v (nI 0) (nI 9999) = mxI (nI 0) v := by
  have h0 := ti_n (n := 0) (by omega)
  have h9 := ti_n (n := 9999) (by omega)
  unfold kepI mxI
  simp only [ti_le, ti_lt, h0, h9]
  by_cases h1 : 0 < v.toInt
  · rw [if_pos (by omega), if_pos (by omega), if_pos (by omega)]
  · rw [if_neg (show ¬ ((0 : Nat) : Int) < v.toInt by omega)]
    by_cases h2 : 0 ≤ v.toInt
    · rw [if_pos (by omega), if_pos (by omega)]
      exact ti_eq (by rw [h0]; omega)
    · rw [if_neg (by omega)]
theorem J_lesser_e {x y : Int32} : J_lesser x y = some (mnI x y) := by
  unfold J_lesser J_lesser_10 mnI
  by_cases h1 : y < x
  · rw [if_pos h1, if_pos (by rw [ti_le]; rw [ti_lt] at h1; omega)]
  · rw [if_neg h1]
    by_cases h2 : y ≤ x
    · rw [if_pos h2]
      exact congrArg some (ti_eq (by rw [ti_le] at h2; rw [ti_lt] at h1; omega))
    · rw [if_neg h2]
theorem i_neg {x y : Int32} : x + (nI 0 - y) = x - y := by
  have h : (nI 0 : Int32) = 0 := nI_0
  rw [h, Int32.zero_sub, Int32.sub_eq_add_neg]
theorem i_neg2 {y : Int32} : nI 0 - y = -y := by
  have h : (nI 0 : Int32) = 0 := nI_0
  rw [h, Int32.zero_sub]
/-- the twin's province is P -/
def isTp (T : tw_T) (P : pvT) : Prop := T.1 1 = nI P.1.1 ∧ T.1 2 = nI P.1.2.1 ∧ T.1 3 = nI P.1.2.2 ∧ (∀ t, t < P.1.1 → T.2.2 1 t = P.2.1 0 t ∧ T.2.2 2 t = P.2.1 1 t) ∧ (∀ w, w < P.1.2.1 → T.2.2 3 w = P.2.1 2 w ∧ T.2.2 4 w = P.2.1 3 w ∧ T.2.2 5 w = P.2.1 4 w ∧ T.2.2 6 w = P.2.1 5 w) ∧
  match P.2.2 with
  | none => T.1 4 = -1
  | some ev => T.1 4 ≠ -1 ∧ ∀ T1 : tw_T, T1.2.2 7 = T.2.2 7 → ∃ f, J_reckons (T.1 4) T1 = some (ev (T1.2.2 22), tw_A T1 23 f)
section JD
variable {T : tw_T} {b : Nat} {R : Nat → Int32} {P : pvT}
theorem J_makes_e (h : isRw T b R) (hb : b ≤ 85) (hP : isTp T P) (hI : invR P R) (hQ : invP P) {t : Nat} (ht : t < P.1.1) (h8 : P.1.1 ≤ 8) : ∃ T', J_makesLuck (nI b) (nI t) T = some T' ∧ isRw T' b (giveR R t (P.2.1 0 t)) ∧ jfr b T T' := by
  obtain ⟨T', s1, s2, s3⟩ := rw_st h hb (k := 1 + t) (v := kepI (R (1 + t) + P.2.1 0 t) (nI 0) (nI 9999)) (by omega)
  have hm : rdI 8 (T.2.2 1) (nI t) = some (P.2.1 0 t) := by rw [nI_rd (by omega) (by omega), (hP.2.2.2.1 t ht).1]
  obtain ⟨hr1, hr2⟩ := (hI.1 t (by omega)).1
  obtain ⟨hq1, hq2⟩ := (hQ.1 t ht).1
  refine ⟨T', ?_, ?_, s3⟩
  · unfold J_makesLuck
    rw [rx2, rw_rd h hb (by omega) (us_t hP.1 ht h8 (by omega)), hm]
    simp only [Option.bind_some, J_kept_e, s1]
  · unfold giveR
    rw [← mn_kep (by rw [ti_add (by omega) (by omega)]; exact Int.add_nonneg hr1 hq1)]
    exact s2
end JD
