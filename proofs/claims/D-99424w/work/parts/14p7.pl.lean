/-! the plain law: the twin's day -/
set_option maxRecDepth 100000
theorem rI_n {x : Int32} {m : Nat} (h : rI x 0 m) : ∃ k : Nat, k ≤ m ∧ x = nI k := by
  obtain ⟨h1, h2⟩ := h
  obtain ⟨j, hj, rfl⟩ := nI_of (x := x) (by rw [ti_lt, ti_0]; omega)
  rw [ti_n hj] at h2
  exact ⟨j, by omega, rfl⟩
section JS
variable {T : tw_T} {b : Nat} {R : Nat → Int32} {P : pvT}
theorem isTp.jf {T' : tw_T} (h : isTp T P) (hf : jfr b T T') : isTp T' P := by
  obtain ⟨h1, h2, h3, h4, h5, h6⟩ := h
  obtain ⟨f1, f2, f3, f4⟩ := hf
  have g : ∀ r, r ≤ 19 → T'.2.2 r = T.2.2 r := fun r hr => f3 r (by omega) (by omega) (by omega)
  refine ⟨(f2 1 (by omega)).trans h1, (f2 2 (by omega)).trans h2, (f2 3 (by omega)).trans h3, fun t ht => ?_, fun w hw => ?_, ?_⟩
  · rw [g 1 (by omega), g 2 (by omega)]; exact h4 t ht
  · rw [g 3 (by omega), g 4 (by omega), g 5 (by omega), g 6 (by omega)]; exact h5 w hw
  · cases ho : P.2.2 with
    | none =>
      rw [ho] at h6
      exact (f2 4 (by omega)).trans h6
    | some ev =>
      rw [ho] at h6
      refine ⟨by rw [f2 4 (by omega)]; exact h6.1, fun T1 e2 => ?_⟩
      rw [f2 4 (by omega)]
      exact h6.2 T1 (by rw [e2, g 7 (by omega)])
theorem tp_8 (hP : isTp T P) {t : Nat} (ht : t < P.1.1) (h8 : P.1.1 ≤ 8) : rdI 8 (T.2.2 2) (nI t) = some (P.2.1 1 t) := by rw [nI_rd (by omega) (by omega), (hP.2.2.2.1 t ht).2]
theorem J_st77 {s2 s3 : Int32} {tn : Nat} (h : isRw T b R) (hb : b ≤ 85) (hn : T.1 1 = nI tn) (h8 : tn ≤ 8) {t : Nat} (ht : t < tn) : ∃ T', J_stakes_77 (nI (b + (1 + t))) s2 s3 (nI b) (nI t) T = some T' ∧ isRw T' b (fares75 (upd R (1 + t) (kepI (s2 + s3) (nI 0) (nI 9999))) t) ∧ jfr b T T' := by
  obtain ⟨T1, s1, c1, f1⟩ := rw_st h hb (k := 1 + t) (v := kepI (s2 + s3) (nI 0) (nI 9999)) (by omega)
  have n1 : T1.1 1 = nI tn := (f1.2.1 1 (by omega)).trans hn
  unfold J_stakes_77
  simp only [rx2, J_kept_e, s1, Option.bind_some, rw_rd c1 hb (show 1 + t < 85 by omega) (us_t n1 ht h8 (by omega)), rw_rd c1 hb (show 9 + t < 85 by omega) (us_t n1 ht h8 (by omega)), J_lesser_e]
  unfold fares75
  generalize upd R (1 + t) (kepI (s2 + s3) (nI 0) (nI 9999)) = R1 at c1
  obtain ⟨T2, s4, c2, f2⟩ := rw_st c1 hb (k := 1 + t) (v := R1 (1 + t) - mnI (R1 (1 + t)) (R1 (9 + t))) (by omega)
  have n2 : T2.1 1 = nI tn := (f2.2.1 1 (by omega)).trans n1
  simp only [s4, Option.bind_some, rw_rd c2 hb (show 9 + t < 85 by omega) (us_t n2 ht h8 (by omega))]
  obtain ⟨T3, s5, c3, f3⟩ := rw_st c2 hb (k := 9 + t) (v := upd R1 (1 + t) (R1 (1 + t) - mnI (R1 (1 + t)) (R1 (9 + t))) (9 + t) - mnI (R1 (1 + t)) (R1 (9 + t))) (by omega)
  simp only [s5, Option.bind_some]
  exact ⟨T3, rfl, c3, (f1.tr f2).tr f3⟩
def fares1 (P : pvT) (R : Nat → Int32) (t : Nat) : Nat → Int32 :=
  let R1 := upd R (17 + t) (R (17 + t) + P.2.1 1 t)
  fares75 (upd R1 (1 + t) (mxI (nI 0) (R1 (1 + t) - P.2.1 1 t))) t
def fares0 (P : pvT) (R : Nat → Int32) (t : Nat) : Nat → Int32 :=
  let R1 := upd R (17 + t) (R (17 + t) + -(P.2.1 1 t))
  fares75 (giveR R1 t (P.2.1 1 t / nI 2)) t
theorem fares_1 : faresR P R = fun t w => if w = true then fares1 P R t else fares0 P R t := rfl
theorem s1_ne : ¬ (nI 1 = 0) := by decide
theorem J_stakes_1 (h : isRw T b R) (hb : b ≤ 85) (hP : isTp T P) (hI : invR P R) (hQ : invP P) {t : Nat} (ht : t < P.1.1) (h8 : P.1.1 ≤ 8) : ∃ T', J_stakes (nI b) (nI t) (nI 1) T = some T' ∧ isRw T' b (fares1 P R t) ∧ jfr b T T' := by
  obtain ⟨hr1, hr2⟩ := (hI.1 t (by omega)).1
  obtain ⟨q, hq, eq⟩ := rI_n (m := 20) (hQ.1 t ht).2
  obtain ⟨T1, s1, c1, f1⟩ := rw_st h hb (k := 17 + t) (v := R (17 + t) + P.2.1 1 t) (by omega)
  obtain ⟨T2, s2, c2, f2⟩ := J_st77 (s2 := upd R (17 + t) (R (17 + t) + P.2.1 1 t) (1 + t)) (s3 := nI 0 - P.2.1 1 t) c1 hb ((f1.2.1 1 (by omega)).trans hP.1) h8 (t := t) ht
  refine ⟨T2, ?_, ?_, f1.tr f2⟩
  · unfold J_stakes J_stakes_33
    simp only [rx2, rw_rd h hb (show 17 + t < 85 by omega) (us_t hP.1 ht h8 (by omega)), Option.bind_some, tp_8 hP ht h8, if_neg s1_ne, s1, rw_rd c1 hb (show 1 + t < 85 by omega) (us_t ((f1.2.1 1 (by omega)).trans hP.1) ht h8 (by omega)), tp_8 (hP.jf f1) ht h8]
    exact s2
  · rw [i_neg, mx_kep2] at c2
    · exact c2
    · rw [upd_n (by omega), eq]
      have e := ti_n (n := q) (by omega)
      rw [ti_sub (by rw [e]; omega) (by rw [e]; omega), e]
      omega
theorem J_stakes_0 (h : isRw T b R) (hb : b ≤ 85) (hP : isTp T P) (hI : invR P R) (hQ : invP P) {t : Nat} (ht : t < P.1.1) (h8 : P.1.1 ≤ 8) : ∃ T', J_stakes (nI b) (nI t) (nI 0) T = some T' ∧ isRw T' b (fares0 P R t) ∧ jfr b T T' := by
  obtain ⟨hr1, hr2⟩ := (hI.1 t (by omega)).1
  obtain ⟨q, hq, eq⟩ := rI_n (m := 20) (hQ.1 t ht).2
  obtain ⟨T1, s1, c1, f1⟩ := rw_st h hb (k := 17 + t) (v := R (17 + t) + -(P.2.1 1 t)) (by omega)
  obtain ⟨T2, s2, c2, f2⟩ := J_st77 (s2 := upd R (17 + t) (R (17 + t) + -(P.2.1 1 t)) (1 + t)) (s3 := P.2.1 1 t / nI 2) c1 hb ((f1.2.1 1 (by omega)).trans hP.1) h8 (t := t) ht
  refine ⟨T2, ?_, ?_, f1.tr f2⟩
  · unfold J_stakes J_stakes_33
    simp only [rx2, rw_rd h hb (show 17 + t < 85 by omega) (us_t hP.1 ht h8 (by omega)), Option.bind_some, tp_8 hP ht h8, if_pos nI_0, i_neg2, s1, rw_rd c1 hb (show 1 + t < 85 by omega) (us_t ((f1.2.1 1 (by omega)).trans hP.1) ht h8 (by omega)), tp_8 (hP.jf f1) ht h8, dv_n (show 0 < 2 by omega) (show 2 < 2 ^ 31 by omega)]
    exact s2
  · rw [mn_kep] at c2
    · exact c2
    · rw [upd_n (by omega), eq, pk_div (by omega) (by omega) (by omega)]
      have e := ti_n (n := q / 2) (by omega)
      rw [ti_add (by rw [e]; omega) (by rw [e]; omega), e]
      omega
end JS
