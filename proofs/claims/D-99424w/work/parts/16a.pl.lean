/-! the plain law: the twin's day, whole -/
set_option maxRecDepth 100000
theorem stA_1 {T T' : tw_T} {j n : Nat} {i x : Int32} (h : stA T j n i x = some T') : T'.1 = T.1 := by
  unfold stA at h
  split at h
  · cases h
  · cases h; rfl
theorem nI_m1 {t : Nat} (h : t < 2 ^ 31) : nI t ≠ -1 := by
  intro e
  have h9 := congrArg Int32.toInt e
  rw [ti_n h, ti_m1] at h9
  omega
theorem J_makes_1 {T T' : tw_T} {x y : Int32} (h : J_makesLuck x y T = some T') : T'.1 = T.1 := by
  unfold J_makesLuck at h
  obtain ⟨v1, -, h⟩ := bd_o h
  obtain ⟨v2, -, h⟩ := bd_o h
  obtain ⟨v3, -, h⟩ := bd_o h
  obtain ⟨T4, e, h⟩ := bd_o h
  cases h
  exact stA_1 e
theorem J_st77_1 {T T' : tw_T} {a b c x y : Int32} (h : J_stakes_77 a b c x y T = some T') : T'.1 = T.1 := by
  unfold J_stakes_77 at h
  obtain ⟨r1, -, h⟩ := bd_o h
  obtain ⟨T2, e2, h⟩ := bd_o h
  obtain ⟨v3, -, h⟩ := bd_o h
  obtain ⟨v4, -, h⟩ := bd_o h
  obtain ⟨r5, -, h⟩ := bd_o h
  obtain ⟨v6, -, h⟩ := bd_o h
  obtain ⟨T7, e7, h⟩ := bd_o h
  obtain ⟨v8, -, h⟩ := bd_o h
  obtain ⟨T9, e9, h⟩ := bd_o h
  cases h
  exact (stA_1 e9).trans ((stA_1 e7).trans (stA_1 e2))
theorem J_st33_1 {T T' : tw_T} {a b c x y z : Int32} (h : J_stakes_33 a b c x y z T = some T') : T'.1 = T.1 := by
  unfold J_stakes_33 at h
  obtain ⟨T1, e1, h⟩ := bd_o h
  obtain ⟨v2, -, h⟩ := bd_o h
  split at h
  · obtain ⟨v4, -, h⟩ := bd_o h
    obtain ⟨v5, -, h⟩ := bd_o h
    exact (J_st77_1 h).trans (stA_1 e1)
  · obtain ⟨v7, -, h⟩ := bd_o h
    exact (J_st77_1 h).trans (stA_1 e1)
theorem J_stk_1 {T T' : tw_T} {x y z : Int32} (h : J_stakes x y z T = some T') : T'.1 = T.1 := by
  unfold J_stakes at h
  obtain ⟨v1, -, h⟩ := bd_o h
  split at h
  · obtain ⟨v4, -, h⟩ := bd_o h
    exact J_st33_1 h
  · obtain ⟨v7, -, h⟩ := bd_o h
    exact J_st33_1 h
theorem isTp.of {T T' : tw_T} {P : pvT} (h : isTp T P) (f2 : ∀ k, 1 ≤ k → k ≤ 4 → T'.1 k = T.1 k) (g : ∀ r, 1 ≤ r → r ≤ 7 → T'.2.2 r = T.2.2 r) : isTp T' P := by
  obtain ⟨h1, h2, h3, h4, h5, h6⟩ := h
  refine ⟨(f2 1 (by omega) (by omega)).trans h1, (f2 2 (by omega) (by omega)).trans h2, (f2 3 (by omega) (by omega)).trans h3, fun t ht => ?_, fun w hw => ?_, ?_⟩
  · rw [g 1 (by omega) (by omega), g 2 (by omega) (by omega)]; exact h4 t ht
  · rw [g 3 (by omega) (by omega), g 4 (by omega) (by omega), g 5 (by omega) (by omega), g 6 (by omega) (by omega)]; exact h5 w hw
  · cases ho : P.2.2 with
    | none =>
      rw [ho] at h6
      exact (f2 4 (by omega) (by omega)).trans h6
    | some ev =>
      rw [ho] at h6
      refine ⟨by rw [f2 4 (by omega) (by omega)]; exact h6.1, fun T1 e2 => ?_⟩
      rw [f2 4 (by omega) (by omega)]
      exact h6.2 T1 (by rw [e2, g 7 (by omega) (by omega)])
section OD
variable {T : tw_T} {b : Nat} {R : Nat → Int32} {P : pvT}
theorem st22 (h : isRw T b R) (hP : isTp T P) {j : Nat} (hj : j < 6) {v : Int32} : ∃ T', stA T 22 6 (nI j) v = some T' ∧ T'.2.2 22 = upd (T.2.2 22) j v ∧ isRw T' b R ∧ isTp T' P ∧ T'.1 = T.1 ∧ jfr b T T' ∧ T'.2.2 20 = T.2.2 20 := by
  have f : jfr b T (tw_A T 22 (upd (T.2.2 22) j v)) := ⟨rfl, fun _ _ => rfl, fun r _ h2 _ => A_n h2, fun q _ => by rw [A_n (by decide)]⟩
  exact ⟨_, nI_st hj (by omega), A_s, h.of (A_n (by decide)), hP.jf f, rfl, f, A_n (by decide)⟩
theorem J_odds_f (h : isRw T b R) (hb : b ≤ 85) (hP : isTp T P) (h8 : P.1.1 ≤ 8) (h10 : P.1.2.2 ≤ 10) (h6 : six P) {t : Nat} (ht : t < P.1.1) : ∃ T', J_oddsOf (nI b) (nI t) T = some (oddR P R t, T') ∧ isRw T' b R ∧ isTp T' P ∧ T'.1 = T.1 ∧ jfr b T T' ∧ T'.2.2 20 = T.2.2 20 := by
  unfold J_oddsOf
  simp only [rx2, rw_rd h hb (show 1 + t < 85 by omega) (us_t hP.1 ht h8 (by omega)), rw_rd h hb (show 9 + t < 85 by omega) (us_t hP.1 ht h8 (by omega)), Option.bind_some]
  cases ho : P.2.2 with
  | none =>
    have h4 : T.1 4 = -1 := by
      have h9 := hP.2.2.2.2.2
      rw [ho] at h9
      exact h9
    refine ⟨T, ?_, h, hP, rfl, jfr.rf, rfl⟩
    rw [if_pos h4]
    simp only [dv_n (show 0 < 10 by omega) (show 10 < 2 ^ 31 by omega), J_kept_e, Option.bind_some, kep_12]
    unfold oddR
    rw [ho]
  | some ev =>
    have h4 : T.1 4 ≠ -1 := by
      have h9 := hP.2.2.2.2.2
      rw [ho] at h9
      exact h9.1
    obtain ⟨T1, s1, u1, r1, p1, q1, f1, w1⟩ := st22 h hP (j := 0) (v := R (1 + t)) (by decide)
    obtain ⟨T2, s2, u2, r2, p2, q2, f2, w2⟩ := st22 r1 p1 (j := 1) (v := R (9 + t)) (by decide)
    obtain ⟨T3, s3, u3, r3, p3, q3, f3, w3⟩ := st22 r2 p2 (j := 2) (v := P.2.1 1 t) (by decide)
    obtain ⟨T4, s4, u4, r4, p4, q4, f4, w4⟩ := st22 r3 p3 (j := 3) (v := P.2.1 0 t) (by decide)
    obtain ⟨T5, s5, u5, r5, p5, q5, f5, w5⟩ := st22 r4 p4 (j := 4) (v := R 0) (by decide)
    obtain ⟨T6, s6, u6, r6, p6, q6, f6, w6⟩ := st22 r5 p5 (j := 5) (v := bcI (lyR P R (nI t))) (by decide)
    have e0 : rdI 170 (T4.2.2 20) (nI (b + 0)) = some (R 0) := rw_rd r4 hb (by omega) us_0
    have e1 : rdI 8 (T2.2.2 2) (nI t) = some (P.2.1 1 t) := tp_8 p2 ht h8
    have e2 : rdI 8 (T3.2.2 1) (nI t) = some (P.2.1 0 t) := by rw [nI_rd (by omega) (by omega), (p3.2.2.2.1 t ht).1]
    have e3 := J_lying_e r5 hb p5 h10 (w := nI t) (nI_m1 (by omega))
    obtain ⟨m, hm, em⟩ := ly_small (P := P) (R := R) (w := nI t) h10
    have e4 : J_bits (lyR P R (nI t)) = some (bcI (lyR P R (nI t))) := by rw [em]; exact bits_all m hm
    have h9 := p6.2.2.2.2.2
    rw [ho] at h9
    obtain ⟨f, e5⟩ := h9.2 T6 rfl
    have f7 : jfr b T6 (tw_A T6 23 f) := ⟨rfl, fun _ _ => rfl, fun r _ _ h3 => A_n h3, fun q _ => by rw [A_n (by decide)]⟩
    have hev : ev (T6.2.2 22) = ev (vaR P R t (bcI (lyR P R (nI t)))) := by
      have h6' := h6
      unfold six at h6'
      rw [ho] at h6'
      refine h6' _ _ fun k hk => ?_
      rw [u6, u5, u4, u3, u2, u1]
      rcases (show k = 0 ∨ k = 1 ∨ k = 2 ∨ k = 3 ∨ k = 4 ∨ k = 5 by omega) with rfl | rfl | rfl | rfl | rfl | rfl <;> rfl
    refine ⟨tw_A T6 23 f, ?_, r6.of (A_n (by decide)), p6.jf f7, q6.trans (q5.trans (q4.trans (q3.trans (q2.trans q1)))), (((((f1.tr f2).tr f3).tr f4).tr f5).tr f6).tr f7, (A_n (by decide)).trans (w6.trans (w5.trans (w4.trans (w3.trans (w2.trans w1)))))⟩
    rw [if_neg h4]
    simp only [s1, s2, e1, s3, e2, s4, rx1, e0, s5, e3, e4, s6, e5, J_kept_e, kep_12, Option.bind_some]
    rw [hev]
    unfold oddR
    rw [ho]
theorem J_odds_e (h : isRw T b R) (hb : b ≤ 85) (hP : isTp T P) (h8 : P.1.1 ≤ 8) (h10 : P.1.2.2 ≤ 10) (h6 : six P) {t : Nat} (ht : t < P.1.1) : ∃ T', J_oddsOf (nI b) (nI t) T = some (oddR P R t, T') ∧ isRw T' b R ∧ isTp T' P ∧ T'.1 = T.1 ∧ jfr b T T' := by
  obtain ⟨T', s1, s2, s3, s4, s5, -⟩ := J_odds_f h hb hP h8 h10 h6 ht
  exact ⟨T', s1, s2, s3, s4, s5⟩
/-! rows stay within bounds -/
theorem inv_give (h : invR P R) {t : Nat} (ht : t < 8) {v : Int32} (h1 : 0 ≤ v.toInt) (h2 : v.toInt ≤ 2000000000) : invR P (giveR R t v) := by
  obtain ⟨⟨a1, a2⟩, -⟩ := h.1 t ht
  unfold giveR
  have e9 := ti_n (n := 9999) (by omega)
  have e : (R (1 + t) + v).toInt = (R (1 + t)).toInt + v.toInt := ti_add (by omega) (by omega)
  refine inv_u h ⟨fun _ _ => ⟨by rw [mn_ti, e9, e]; omega, by rw [mn_ti, e9, e]; omega⟩, fun a c => by omega, fun a c => by omega, fun a c => by omega, fun a c => by omega⟩
theorem inv_f75 (h : invR P R) {t : Nat} (ht : t < 8) : invR P (fares75 R t) := by
  obtain ⟨⟨a1, a2⟩, ⟨b1, b2⟩⟩ := h.1 t ht
  have hm : (mnI (R (1 + t)) (R (9 + t))).toInt = min (R (1 + t)).toInt (R (9 + t)).toInt := mn_ti
  have e1 : (R (1 + t) - mnI (R (1 + t)) (R (9 + t))).toInt = (R (1 + t)).toInt - min (R (1 + t)).toInt (R (9 + t)).toInt := by rw [ti_sub (by rw [hm]; omega) (by rw [hm]; omega), hm]
  have e2 : (R (9 + t) - mnI (R (1 + t)) (R (9 + t))).toInt = (R (9 + t)).toInt - min (R (1 + t)).toInt (R (9 + t)).toInt := by rw [ti_sub (by rw [hm]; omega) (by rw [hm]; omega), hm]
  unfold fares75
  dsimp only
  rw [upd_n (show 9 + t ≠ 1 + t by omega)]
  exact inv_u (inv_u h ⟨fun _ _ => ⟨by rw [e1]; omega, by rw [e1]; omega⟩, fun a c => by omega, fun a c => by omega, fun a c => by omega, fun a c => by omega⟩) ⟨fun _ _ => ⟨by rw [e2]; omega, by rw [e2]; omega⟩, fun a c => by omega, fun a c => by omega, fun a c => by omega, fun a c => by omega⟩
theorem inv_won (h : invR P R) {t : Nat} (ht : t < 8) {v : Int32} : invR P (upd R (17 + t) v) := inv_u h ⟨fun a c => by omega, fun a c => by omega, fun a c => by omega, fun a c => by omega, fun a c => by omega⟩
theorem inv_day0 (h : invR P R) {v : Int32} : invR P (upd R 0 v) := inv_u h ⟨fun a c => by omega, fun a c => by omega, fun a c => by omega, fun a c => by omega, fun a c => by omega⟩
theorem inv_fares (h : invR P R) (hQ : invP P) (h8 : P.1.1 ≤ 8) {t : Nat} (ht : t < P.1.1) (w : Bool) : invR P (faresR P R t w) := by
  obtain ⟨q, hq, eq⟩ := rI_n (m := 20) (hQ.1 t ht).2
  have eqn := ti_n (n := q) (by omega)
  obtain ⟨⟨a1, a2⟩, -⟩ := h.1 t (by omega)
  rw [fares_1]
  cases w with
  | true =>
    show invR P (fares1 P R t)
    unfold fares1
    dsimp only
    refine inv_f75 (inv_u (inv_won h (by omega)) ⟨fun _ _ => ?_, fun a c => by omega, fun a c => by omega, fun a c => by omega, fun a c => by omega⟩) (by omega)
    rw [upd_n (show 1 + t ≠ 17 + t by omega), eq]
    have e : (R (1 + t) - nI q).toInt = (R (1 + t)).toInt - q := by rw [ti_sub (by rw [eqn]; omega) (by rw [eqn]; omega), eqn]
    exact ⟨by rw [mx_ti]; omega, by rw [mx_ti, e]; omega⟩
  | false =>
    show invR P (fares0 P R t)
    unfold fares0
    dsimp only
    have e := ti_n (n := q / 2) (by omega)
    refine inv_f75 (inv_give (inv_won h (by omega)) (by omega) ?_ ?_) (by omega)
    · rw [eq, pk_div (by omega) (by omega) (by omega), e]; omega
    · rw [eq, pk_div (by omega) (by omega) (by omega), e]; omega
theorem inv_makes (h : invR P R) (hQ : invP P) (h8 : P.1.1 ≤ 8) {t : Nat} (ht : t < P.1.1) : invR P (giveR R t (P.2.1 0 t)) := by
  obtain ⟨q1, q2⟩ := (hQ.1 t ht).1
  exact inv_give h (by omega) q1 (by omega)
theorem inv_gos (h : invR P R) {k : Nat} (hk : k < 10) : invR P (gosR k R) := by
  unfold gosR
  split
  · exact h
  · rename_i hg
    exact inv_ship h hk hg
theorem inv_crates : ∀ (c i : Nat) (R : Nat → Int32), invR P R → i + c ≤ 10 → invR P (lp gosR c i R) := by
  intro c
  induction c with
  | zero => intro i R h _; exact h
  | succ c ih => intro i R h hi; exact ih (i + 1) (gosR i R) (inv_gos h (by omega)) (by omega)
/-- the same, with those that win -/
def townW (P : pvT) (t : Nat) (s : (Nat → Int32) × Int32) : (Nat → Int32) × Int32 :=
  let R1 := giveR s.1 t (P.2.1 0 t)
  if oddR P R1 t < nI 7 then (faresR P R1 t false, s.2) else (faresR P R1 t true, s.2 ||| ((nI 1) <<< (nI t &&& 31)))
def dayW (P : pvT) (R : Nat → Int32) : Int32 := (lp (townW P) P.1.1 0 (lp gosR P.1.2.2 0 R, nI 0)).2
theorem townW_1 {P : pvT} {t : Nat} {s s' : (Nat → Int32) × Int32} (h : s.1 = s'.1) : (townW P t s).1 = (townR P t s').1 := by
  unfold townW townR
  dsimp only
  rw [h]
  split <;> rfl
theorem lpW_1 {P : pvT} : ∀ (c i : Nat) (s s' : (Nat → Int32) × Int32), s.1 = s'.1 → (lp (townW P) c i s).1 = (lp (townR P) c i s').1 := by
  intro c
  induction c with
  | zero => intro i s s' h; exact h
  | succ c ih => intro i s s' h; exact ih (i + 1) _ _ (townW_1 h)
theorem inv_town {P : pvT} {t : Nat} {s : (Nat → Int32) × Int32} (h : invR P s.1) (hQ : invP P) (h8 : P.1.1 ≤ 8) (ht : t < P.1.1) : invR P (townW P t s).1 := by
  unfold townW
  dsimp only
  split
  · exact inv_fares (inv_makes h hQ h8 ht) hQ h8 ht _
  · exact inv_fares (inv_makes h hQ h8 ht) hQ h8 ht _
theorem inv_towns {P : pvT} (hQ : invP P) (h8 : P.1.1 ≤ 8) : ∀ (c i : Nat) (s : (Nat → Int32) × Int32), invR P s.1 → i + c ≤ P.1.1 → invR P (lp (townW P) c i s).1 := by
  intro c
  induction c with
  | zero => intro i s h _; exact h
  | succ c ih => intro i s h hi; exact ih (i + 1) _ (inv_town h hQ h8 (by omega)) (by omega)
theorem inv_day (h : invR P R) (hQ : invP P) (h8 : P.1.1 ≤ 8) (h10 : P.1.2.2 ≤ 10) : invR P (dayR P R).1 := by
  unfold dayR
  dsimp only
  refine inv_day0 ?_
  rw [← lpW_1 P.1.1 0 (lp gosR P.1.2.2 0 R, nI 0) (lp gosR P.1.2.2 0 R, nI 0) rfl]
  exact inv_towns hQ h8 _ _ _ (inv_crates _ _ _ h (by omega)) (by omega)
theorem jfr.w47 {b : Nat} {T : tw_T} {v : Int32} : jfr b T (tw_F T 47 v) := ⟨rfl, fun k hk => F_n hk, fun _ _ _ _ => rfl, fun _ _ => rfl⟩
theorem J_day_loop (hb : b ≤ 85) (h8 : P.1.1 ≤ 8) (h10 : P.1.2.2 ≤ 10) (h6 : six P) (hQ : invP P) : ∀ (c i n : Nat) (T : tw_T) (R : Nat → Int32), isRw T b R → isTp T P → invR P R → i + c = P.1.1 → c < n → ∃ T', J_dayGoes_12 n (nI b) (nI i) T = some T' ∧ isRw T' b (upd (lp (townW P) c i (R, T.1 47)).1 0 ((lp (townW P) c i (R, T.1 47)).1 0 + nI 1)) ∧ T'.1 47 = (lp (townW P) c i (R, T.1 47)).2 ∧ jfr b T T' := by
  intro c
  induction c with
  | zero =>
    intro i n T R h hP hI hi hn
    obtain ⟨n, rfl⟩ : ∃ m, n = m + 1 := ⟨n - 1, by omega⟩
    show ∃ T', B_dayGoes_12 (J_dayGoes_12 n) (nI b) (nI i) T = _ ∧ _
    unfold B_dayGoes_12
    obtain ⟨T1, s1, c1, f1⟩ := rw_st h hb (k := 0) (v := R 0 + nI 1) (by omega)
    rw [hP.1, if_pos (nI_le (by omega) (by omega))]
    simp only [rx1, rw_rd h hb (show 0 < 85 by omega) us_0, Option.bind_some, s1]
    exact ⟨T1, rfl, c1, congrFun (stA_1 s1) 47, f1⟩
  | succ c ih =>
    intro i n T R h hP hI hi hn
    obtain ⟨n, rfl⟩ : ∃ m, n = m + 1 := ⟨n - 1, by omega⟩
    show ∃ T', B_dayGoes_12 (J_dayGoes_12 n) (nI b) (nI i) T = _ ∧ isRw T' b (upd (lp (townW P) c (i + 1) (townW P i (R, T.1 47))).1 0 ((lp (townW P) c (i + 1) (townW P i (R, T.1 47))).1 0 + nI 1)) ∧ T'.1 47 = (lp (townW P) c (i + 1) (townW P i (R, T.1 47))).2 ∧ _
    unfold B_dayGoes_12
    obtain ⟨T1, s1, c1, f1⟩ := J_makes_e h hb hP hI hQ (t := i) (by omega) h8
    have p1 := hP.jf f1
    have i1 := inv_makes hI hQ h8 (t := i) (by omega)
    obtain ⟨T2, s2, c2, p2, q2, f2⟩ := J_odds_e c1 hb p1 h8 h10 h6 (t := i) (by omega)
    have w2 : T2.1 47 = T.1 47 := by rw [q2, J_makes_1 s1]
    rw [hP.1, if_neg (nI_ge (show i < P.1.1 by omega) (by omega))]
    simp only [s1, s2, Option.bind_some]
    unfold J_dayGoes_42 J_dayGoes_59 townW
    dsimp only
    rw [nI_add]
    by_cases hw : oddR P (giveR R i (P.2.1 0 i)) i < nI 7
    · rw [if_pos hw, if_pos hw, if_pos nI_0, or_0]
      simp only [Option.bind_some]
      obtain ⟨T3, s3, c3, f3⟩ := J_stakes_0 (c2.of (T' := tw_F T2 47 (T2.1 47)) rfl) hb (p2.jf (jfr.w47 (b := b))) i1 hQ (t := i) (by omega) h8
      obtain ⟨T4, s4, c4, w4, f4⟩ := ih (i + 1) n T3 _ c3 (((p2.jf (jfr.w47 (b := b)))).jf f3) (inv_fares i1 hQ h8 (by omega) false) (by omega) (by omega)
      have w3 : T3.1 47 = T.1 47 := by rw [J_stk_1 s3, F_s, w2]
      rw [w3] at c4 w4
      refine ⟨T4, ?_, c4, w4, (((f1.tr f2).tr jfr.w47).tr f3).tr f4⟩
      rw [s3]
      exact s4
    · rw [if_neg hw, if_neg hw, if_neg s1_ne]
      simp only [Option.bind_some]
      obtain ⟨T3, s3, c3, f3⟩ := J_stakes_1 (c2.of (T' := tw_F T2 47 (T2.1 47 ||| ((nI 1) <<< (nI i &&& 31)))) rfl) hb (p2.jf (jfr.w47 (b := b))) i1 hQ (t := i) (by omega) h8
      obtain ⟨T4, s4, c4, w4, f4⟩ := ih (i + 1) n T3 _ c3 (((p2.jf (jfr.w47 (b := b)))).jf f3) (inv_fares i1 hQ h8 (by omega) true) (by omega) (by omega)
      have w3 : T3.1 47 = T.1 47 ||| ((nI 1) <<< (nI i &&& 31)) := by rw [J_stk_1 s3, F_s, w2]
      rw [w3] at c4 w4
      refine ⟨T4, ?_, c4, w4, (((f1.tr f2).tr jfr.w47).tr f3).tr f4⟩
      rw [s3]
      exact s4
theorem J_day_e (h : isRw T b R) (hb : b ≤ 85) (hP : isTp T P) (hI : invR P R) (hQ : invP P) (h6 : six P) (h8 : P.1.1 ≤ 8) (h10 : P.1.2.2 ≤ 10) : ∃ T', J_dayGoes (nI b) T = some T' ∧ isRw T' b (dayR P R).1 ∧ isTp T' P ∧ T'.1 47 = dayW P R ∧ jfr b T T' := by
  obtain ⟨T1, s1, c1, f1⟩ := J_crates_loop hb h10 P.1.2.2 0 NN T R h hP hI (by omega) (by unfold NN; omega)
  obtain ⟨T2, s2, c2, w2, f2⟩ := J_day_loop hb h8 h10 h6 hQ P.1.1 0 NN (tw_F T1 47 (nI 0)) _ (c1.of rfl) ((hP.jf f1).jf (jfr.w47 (b := b))) (inv_crates _ _ _ hI (by omega)) (by omega) (by unfold NN; omega)
  rw [F_s] at c2 w2
  have f3 := (f1.tr jfr.w47).tr f2
  refine ⟨T2, ?_, ?_, hP.jf f3, w2, f3⟩
  · unfold J_dayGoes J_cratesGo
    rw [s1]
    exact s2
  · unfold dayR
    dsimp only
    rw [← lpW_1 P.1.1 0 (lp gosR P.1.2.2 0 R, nI 0) (lp gosR P.1.2.2 0 R, nI 0) rfl]
    exact c2
/-- so many days -/
def itR (P : pvT) : Nat → (Nat → Int32) → (Nat → Int32)
  | 0, R => R
  | n + 1, R => itR P n (dayR P R).1
theorem J_days_loop (hb : b ≤ 85) (hQ : invP P) (h6 : six P) (h8 : P.1.1 ≤ 8) (h10 : P.1.2.2 ≤ 10) (m : Nat) (hm : m < 2 ^ 31) : ∀ (c i n : Nat) (T : tw_T) (R : Nat → Int32), isRw T 85 R → isTp T P → invR P R → i + c = m → c < n → ∃ T', J_daysGo_2 n (nI m) (nI i) T = some T' ∧ isRw T' 85 (itR P c R) ∧ isTp T' P ∧ invR P (itR P c R) ∧ jfr 85 T T' := by
  intro c
  induction c with
  | zero =>
    intro i n T R h hP hI hi hn
    obtain ⟨n, rfl⟩ : ∃ m, n = m + 1 := ⟨n - 1, by omega⟩
    show ∃ T', B_daysGo_2 (J_daysGo_2 n) (nI m) (nI i) T = _ ∧ _
    unfold B_daysGo_2
    rw [if_pos (nI_le (by omega) (by omega))]
    exact ⟨T, rfl, h, hP, hI, jfr.rf⟩
  | succ c ih =>
    intro i n T R h hP hI hi hn
    obtain ⟨n, rfl⟩ : ∃ m, n = m + 1 := ⟨n - 1, by omega⟩
    show ∃ T', B_daysGo_2 (J_daysGo_2 n) (nI m) (nI i) T = _ ∧ _
    unfold B_daysGo_2
    rw [if_neg (nI_ge (show i < m by omega) (by omega)), nI_add]
    obtain ⟨T1, s1, c1, p1, -, f1⟩ := J_day_e h (by omega) hP hI hQ h6 h8 h10
    obtain ⟨T2, s2, c2, p2, i2, f2⟩ := ih (i + 1) n T1 _ c1 p1 (inv_day hI hQ h8 h10) (by omega) (by omega)
    rw [s1]
    exact ⟨T2, s2, c2, p2, i2, f1.tr f2⟩
theorem J_days_e (h : isRw T 85 R) (hP : isTp T P) (hI : invR P R) (hQ : invP P) (h6 : six P) (h8 : P.1.1 ≤ 8) (h10 : P.1.2.2 ≤ 10) {m : Nat} (hm : m ≤ 60) : ∃ T', J_daysGo (nI m) T = some T' ∧ isRw T' 85 (itR P m R) ∧ isTp T' P ∧ invR P (itR P m R) ∧ jfr 85 T T' := J_days_loop (b := 85) (by omega) hQ h6 h8 h10 m (by omega) m 0 NN T R h hP hI (by omega) (by unfold NN; omega)
/-! what stays when the twin only looks -/
def jq (T T' : tw_T) : Prop := (∀ k, (1 ≤ k ∧ k ≤ 4) ∨ k = 13 ∨ k = 15 ∨ k = 44 ∨ k = 52 ∨ k = 57 ∨ k = 58 ∨ k = 59 → T'.1 k = T.1 k) ∧ (∀ r, r ≤ 9 ∨ r = 21 ∨ r = 28 ∨ r = 31 ∨ r = 32 ∨ r = 33 → T'.2.2 r = T.2.2 r) ∧ ∀ q, q < 85 → T'.2.2 20 q = T.2.2 20 q
theorem jq.rf {T : tw_T} : jq T T := ⟨fun _ _ => rfl, fun _ _ => rfl, fun _ _ => rfl⟩
theorem jq.tr {T T1 T2 : tw_T} (h1 : jq T T1) (h2 : jq T1 T2) : jq T T2 := ⟨fun k hk => (h2.1 k hk).trans (h1.1 k hk), fun r hr => (h2.2.1 r hr).trans (h1.2.1 r hr), fun q hq => (h2.2.2 q hq).trans (h1.2.2 q hq)⟩
theorem jq.jf {T T' : tw_T} (h : jfr 85 T T') : jq T T' := ⟨fun k hk => h.2.1 k (by omega), fun r hr => h.2.2.1 r (by omega) (by omega) (by omega), fun q hq => h.2.2.2 q (by omega)⟩
theorem jq.F {T : tw_T} {k : Nat} {v : Int32} (hk : ¬ ((1 ≤ k ∧ k ≤ 4) ∨ k = 13 ∨ k = 15 ∨ k = 44 ∨ k = 52 ∨ k = 57 ∨ k = 58 ∨ k = 59)) : jq T (tw_F T k v) := ⟨fun j hj => F_n (fun e => hk (by rw [← e]; exact hj)), fun _ _ => rfl, fun _ _ => rfl⟩
theorem jq.A {T : tw_T} {r : Nat} {f : Nat → Int32} (hk : ¬ (r ≤ 9 ∨ r = 21 ∨ r = 28 ∨ r = 31 ∨ r = 32 ∨ r = 33 ∨ r = 20)) : jq T (tw_A T r f) := ⟨fun _ _ => rfl, fun q hq => A_n (fun e => hk (by rw [← e]; omega)), fun q _ => by rw [A_n (fun e => hk (by omega))]⟩
theorem isTp.jq {T' : tw_T} (h : isTp T P) (hf : jq T T') : isTp T' P := h.of (fun k h1 h2 => hf.1 k (by omega)) (fun r h1 h2 => hf.2.1 r (by omega))
theorem isRw.jq {T' : tw_T} (h : isRw T 0 R) (hf : jq T T') : isRw T' 0 R := fun k hk hu => by
  have h1 := h k hk (hu.k (hf.1 1 (by omega)).symm (hf.1 3 (by omega)).symm)
  rw [Nat.zero_add] at h1 ⊢
  rw [hf.2.2 k hk, h1]
theorem J_tries_loop : ∀ (c i n : Nat) (T : tw_T), isRw T 0 R → (∀ k, k < i → us T k → T.2.2 20 (85 + k) = R k) → i + c = 85 → c < n → ∃ T', J_tries_2 n (nI i) T = some T' ∧ isRw T' 85 R ∧ T'.1 = T.1 ∧ jfr 85 T T' := by
  intro c
  induction c with
  | zero =>
    intro i n T h h1 hi hn
    obtain ⟨n, rfl⟩ : ∃ m, n = m + 1 := ⟨n - 1, by omega⟩
    show ∃ T', B_tries_2 (J_tries_2 n) (nI i) T = _ ∧ _
    unfold B_tries_2
    rw [if_pos (nI_le (by omega) (by omega))]
    exact ⟨T, rfl, fun k hk hu => h1 k (by omega) hu, rfl, jfr.rf⟩
  | succ c ih =>
    intro i n T h h1 hi hn
    obtain ⟨n, rfl⟩ : ∃ m, n = m + 1 := ⟨n - 1, by omega⟩
    show ∃ T', B_tries_2 (J_tries_2 n) (nI i) T = _ ∧ _
    unfold B_tries_2
    rw [if_neg (nI_ge (show i < 85 by omega) (by omega)), nI_rd (show i < 170 by omega) (by omega), nI_add, nI_add]
    simp only [Option.bind_some]
    rw [nI_st (show 85 + i < 170 by omega) (by omega)]
    simp only [Option.bind_some]
    have f1 : jfr 85 T (tw_A T 20 (upd (T.2.2 20) (85 + i) (T.2.2 20 i))) := ⟨rfl, fun _ _ => rfl, fun r hr _ _ => A_n hr, fun q hq => by rw [A_s, upd_n (by omega)]⟩
    obtain ⟨T2, s2, c2, q2, f2⟩ := ih (i + 1) n _ (h.jq (jq.jf f1)) (fun k hk hu => by
      rw [A_s]
      by_cases hki : k = i
      · subst hki
        rw [upd_s]
        have h2 := h k (by omega) hu
        rw [Nat.zero_add] at h2
        exact h2
      · rw [upd_n (by omega), h1 k (by omega) hu]) (by omega) (by omega)
    exact ⟨T2, s2, c2, q2, f1.tr f2⟩
theorem J_tries_e (h : isRw T 0 R) : ∃ T', J_tries T = some T' ∧ isRw T' 85 R ∧ T'.1 = T.1 ∧ jfr 85 T T' := J_tries_loop 85 0 NN T h (fun k hk => by omega) (by omega) (by unfold NN; omega)
end OD
