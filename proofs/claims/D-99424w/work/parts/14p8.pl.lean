/-! the plain law: the twin's odds and crates -/
set_option maxRecDepth 100000
theorem nI_or (x y : Nat) : nI x ||| nI y = nI (x ||| y) := by
  apply Int32.toBitVec_inj.mp
  show BitVec.ofNat 32 x ||| BitVec.ofNat 32 y = BitVec.ofNat 32 (x ||| y)
  apply BitVec.eq_of_toNat_eq
  rw [BitVec.toNat_or, BitVec.toNat_ofNat, BitVec.toNat_ofNat, BitVec.toNat_ofNat, Nat.or_mod_two_pow]
section JO
variable {T : tw_T} {b : Nat} {R : Nat → Int32} {P : pvT}
theorem or_0 {x : Int32} : x ||| nI 0 = x := by
  rw [nI_0]
  exact Int32.or_zero
theorem J_lying_loop (h : isRw T b R) (hb : b ≤ 85) (hP : isTp T P) (h10 : P.1.2.2 ≤ 10) {w : Int32} (hw : w ≠ -1) : ∀ (c i : Nat) (v : Int32) (n : Nat), i + c = P.1.2.2 → c < n → J_lyingIn_5 n (nI b) w v (nI i) T = some (lp (lyF R w) c i v, T) := by
  have h3 := hP.2.2.1
  intro c
  induction c with
  | zero =>
    intro i v n hi hn
    obtain ⟨n, rfl⟩ : ∃ m, n = m + 1 := ⟨n - 1, by omega⟩
    show B_lyingIn_5 (J_lyingIn_5 n) (nI b) w v (nI i) T = _
    unfold B_lyingIn_5
    rw [h3, if_pos (nI_le (by omega) (by omega))]
    rfl
  | succ c ih =>
    intro i v n hi hn
    obtain ⟨n, rfl⟩ : ∃ m, n = m + 1 := ⟨n - 1, by omega⟩
    show B_lyingIn_5 (J_lyingIn_5 n) (nI b) w v (nI i) T = _
    unfold B_lyingIn_5 J_lyingIn_48 J_lyingIn_49
    rw [h3, if_neg (nI_ge (show i < P.1.2.2 by omega) (by omega)), J_lies_e h hb h3 (show i < P.1.2.2 by omega) h10, nI_add]
    simp only [Option.bind_some, rx2, rw_rd h hb (show 55 + i < 85 by omega) (us_c h3 (show i < P.1.2.2 by omega) h10 (by omega)), or_0]
    show _ = some (lp (lyF R w) c (i + 1) (lyF R w i v), T)
    by_cases hl : liesR R i
    · rw [if_pos hl, if_neg s1_ne]
      by_cases ht : R (55 + i) = w
      · rw [if_pos ht, ih (i + 1) _ n (by omega) (by omega)]
        unfold lyF
        rw [if_pos ⟨hl, Or.inr ht⟩]
      · rw [if_neg ht, ih (i + 1) _ n (by omega) (by omega)]
        unfold lyF
        rw [if_neg (fun q => q.2.elim hw ht)]
    · rw [if_neg hl, if_pos nI_0, ih (i + 1) _ n (by omega) (by omega)]
      unfold lyF
      rw [if_neg (fun q => hl q.1)]
theorem J_lying_e (h : isRw T b R) (hb : b ≤ 85) (hP : isTp T P) (h10 : P.1.2.2 ≤ 10) {w : Int32} (hw : w ≠ -1) : J_lyingIn (nI b) w T = some (lyR P R w, T) := J_lying_loop h hb hP h10 hw _ 0 _ NN (by omega) (by unfold NN; omega)
theorem kep_12 {v : Int32} : kepI v (nI 0) (nI 12) = mxI (nI 0) (mnI (nI 12) v) := by
  have h0 := ti_n (n := 0) (by omega)
  have h9 := ti_n (n := 12) (by omega)
  unfold kepI mxI mnI
  simp only [ti_le, ti_lt, h0, h9]
  by_cases h2 : v.toInt < 12
  · rw [if_pos (show v.toInt < ((12 : Nat) : Int) by omega)]
    by_cases h1 : 0 < v.toInt
    · rw [if_pos (by omega), if_pos (by omega), if_pos (by omega)]
    · rw [if_neg (show ¬ ((0 : Nat) : Int) < v.toInt by omega)]
      by_cases h3 : 0 ≤ v.toInt
      · rw [if_pos (by omega), if_pos (by omega)]
        exact ti_eq (by rw [h0]; omega)
      · rw [if_neg (by omega)]
  · rw [if_neg (show ¬ v.toInt < ((12 : Nat) : Int) by omega), h9, if_pos (show ((0 : Nat) : Int) ≤ v.toInt by omega), if_pos (show ((0 : Nat) : Int) < ((12 : Nat) : Int) by omega)]
    by_cases h3 : v.toInt ≤ 12
    · rw [if_pos (by omega)]
      exact ti_eq (by rw [h9]; omega)
    · rw [if_neg (by omega)]
/-- a set of crates is below 1024 -/
theorem ly_1024 {w : Int32} : ∀ (c i : Nat) (m : Nat), i + c ≤ 10 → m < 2 ^ i → ∃ m', m' < 2 ^ (i + c) ∧ lp (lyF R w) c i (nI m) = nI m' := by
  intro c
  induction c with
  | zero => intro i m hi hm; exact ⟨m, hm, rfl⟩
  | succ c ih =>
    intro i m hi hm
    show ∃ m', m' < 2 ^ (i + (c + 1)) ∧ lp (lyF R w) c (i + 1) (lyF R w i (nI m)) = nI m'
    have hp : 2 ^ (i + 1) = 2 ^ i + 2 ^ i := by rw [Nat.pow_succ]; omega
    obtain ⟨m1, h1, h2⟩ : ∃ m1, m1 < 2 ^ (i + 1) ∧ lyF R w i (nI m) = nI m1 := by
      unfold lyF
      split
      · have hs : (nI 1) <<< (nI i &&& 31) = nI (2 ^ i) := by
          have := (by decide : ∀ i, i < 10 → (nI 1) <<< (nI i &&& 31) = nI (2 ^ i)) i (by omega)
          exact this
        rw [hs]
        refine ⟨m ||| 2 ^ i, Nat.or_lt_two_pow (by omega) (by omega), ?_⟩
        exact nI_or m (2 ^ i)
      · exact ⟨m, by omega, rfl⟩
    rw [h2]
    obtain ⟨m', h3, h4⟩ := ih (i + 1) m1 (by omega) h1
    exact ⟨m', by rw [show i + (c + 1) = i + 1 + c by omega]; exact h3, h4⟩
theorem ly_small {w : Int32} (h10 : P.1.2.2 ≤ 10) : ∃ m, m < 1024 ∧ lyR P R w = nI m := by
  obtain ⟨m, h1, h2⟩ := ly_1024 (R := R) (w := w) P.1.2.2 0 0 (by omega) (by decide)
  refine ⟨m, Nat.lt_of_lt_of_le h1 ?_, h2⟩
  rw [show (1024 : Nat) = 2 ^ 10 from rfl]
  exact Nat.pow_le_pow_right (by omega) (by omega)
theorem bits_all : ∀ m, m < 1024 → J_bits (nI m) = some (bcI (nI m)) := by decide +kernel
theorem J_cg81 {T : tw_T} {cr : Nat} (h : isRw T b R) (hb : b ≤ 85) (h3 : T.1 3 = nI cr) (hcr : cr ≤ 10) {k : Nat} (hk : k < cr) : ∃ T', (∀ k2, J_cratesGo_81 k2 (nI b) (nI k) T = k2 (nI b) (nI (k + 1)) T') ∧ isRw T' b (upd R (65 + k) (R (65 + k) - nI 1)) ∧ jfr b T T' := by
  obtain ⟨T1, s1, c1, f1⟩ := rw_st h hb (k := 65 + k) (v := R (65 + k) - nI 1) (by omega)
  refine ⟨T1, fun k2 => ?_, c1, f1⟩
  unfold J_cratesGo_81 J_cratesGo_96
  rw [rx2, nI_add]
  simp only [rw_rd h hb (show 65 + k < 85 by omega) (us_c h3 hk hcr (by omega)), s1, Option.bind_some]
/-- what a row's place may hold -/
def okJ (P : pvT) (j : Nat) (x : Int32) : Prop := (1 ≤ j → j < 17 → rI x 0 9999) ∧ (25 ≤ j → j < 35 → rI x 0 99) ∧ (35 ≤ j → j < 55 → rI x 0 1) ∧ (55 ≤ j → j < 65 → rI x (-1) (P.1.1 - 1)) ∧ (65 ≤ j → j < 85 → rI x 0 9)
theorem inv_j (h : invR P R) (j : Nat) : okJ P j (R j) := by
  refine ⟨fun a c => ?_, fun a c => ?_, fun a c => ?_, fun a c => ?_, fun a c => ?_⟩
  · by_cases q : j < 9
    · have := (h.1 (j - 1) (by omega)).1
      rw [show 1 + (j - 1) = j by omega] at this
      exact this
    · have := (h.1 (j - 9) (by omega)).2
      rw [show 9 + (j - 9) = j by omega] at this
      exact this
  · have := (h.2 (j - 25) (by omega)).1
    rw [show 25 + (j - 25) = j by omega] at this
    exact this
  · by_cases q : j < 45
    · have := (h.2 (j - 35) (by omega)).2.1
      rw [show 35 + (j - 35) = j by omega] at this
      exact this
    · have := (h.2 (j - 45) (by omega)).2.2.1
      rw [show 45 + (j - 45) = j by omega] at this
      exact this
  · have := (h.2 (j - 55) (by omega)).2.2.2.1
    rw [show 55 + (j - 55) = j by omega] at this
    exact this
  · by_cases q : j < 75
    · have := (h.2 (j - 65) (by omega)).2.2.2.2.1
      rw [show 65 + (j - 65) = j by omega] at this
      exact this
    · have := (h.2 (j - 75) (by omega)).2.2.2.2.2
      rw [show 75 + (j - 75) = j by omega] at this
      exact this
theorem inv_of (h : ∀ j, okJ P j (R j)) : invR P R := by
  refine ⟨fun t ht => ⟨(h _).1 (by omega) (by omega), (h _).1 (by omega) (by omega)⟩, fun k hk => ⟨(h _).2.1 (by omega) (by omega), (h _).2.2.1 (by omega) (by omega), (h _).2.2.1 (by omega) (by omega), (h _).2.2.2.1 (by omega) (by omega), (h _).2.2.2.2 (by omega) (by omega), (h _).2.2.2.2 (by omega) (by omega)⟩⟩
theorem inv_u (h : invR P R) {j : Nat} {v : Int32} (hv : okJ P j v) : invR P (upd R j v) := by
  refine inv_of fun q => ?_
  by_cases hq : q = j
  · subst hq; rw [upd_s]; exact hv
  · rw [upd_n hq]; exact inv_j h q
theorem mx_ti {v : Int32} : (mxI (nI 0) v).toInt = max 0 v.toInt := by
  have h0 := ti_n (n := 0) (by omega)
  unfold mxI
  simp only [ti_lt, h0]
  split
  · omega
  · rw [h0]; omega
theorem mn_ti {u v : Int32} : (mnI u v).toInt = min u.toInt v.toInt := by
  unfold mnI
  simp only [ti_lt]
  split <;> omega
theorem inv_ship (h : invR P R) {k : Nat} (hk : k < 10) (hg : ¬ R (65 + k) ≤ 0) : invR P (shipR R k) := by
  obtain ⟨⟨g1, g2⟩, -, -, -, ⟨t1, t2⟩, ⟨l1, l2⟩⟩ := h.2 k hk
  rw [ti_le, ti_0] at hg
  have e1 := ti_n (n := 1) (by omega)
  have hs : (R (65 + k) - nI 1).toInt = (R (65 + k)).toInt - 1 := by rw [ti_sub (by rw [e1]; omega) (by rw [e1]; omega), e1]; rfl
  have hv : okJ P (65 + k) (R (65 + k) - nI 1) := ⟨fun a c => by omega, fun a c => by omega, fun a c => by omega, fun a c => by omega, fun a c => ⟨by rw [hs]; omega, by rw [hs]; omega⟩⟩
  unfold shipR
  split
  · dsimp only
    rw [upd_n (show 65 + k ≠ 25 + k by omega)]
    refine inv_u (inv_u h ⟨fun a c => by omega, fun a c => ?_, fun a c => by omega, fun a c => by omega, fun a c => by omega⟩) hv
    have hd : (R (25 + k) - R (75 + k)).toInt = (R (25 + k)).toInt - (R (75 + k)).toInt := ti_sub (by omega) (by omega)
    exact ⟨by rw [mx_ti]; omega, by rw [mx_ti, hd]; omega⟩
  · exact inv_u h hv
theorem J_crates_loop (hb : b ≤ 85) (h10 : P.1.2.2 ≤ 10) : ∀ (c i n : Nat) (T : tw_T) (R : Nat → Int32), isRw T b R → isTp T P → invR P R → i + c = P.1.2.2 → c < n → ∃ T', J_cratesGo_2 n (nI b) (nI i) T = some T' ∧ isRw T' b (lp gosR c i R) ∧ jfr b T T' := by
  intro c
  induction c with
  | zero =>
    intro i n T R h hP hI hi hn
    obtain ⟨n, rfl⟩ : ∃ m, n = m + 1 := ⟨n - 1, by omega⟩
    show ∃ T', B_cratesGo_2 (J_cratesGo_2 n) (nI b) (nI i) T = _ ∧ _
    unfold B_cratesGo_2
    rw [hP.2.2.1, if_pos (nI_le (by omega) (by omega))]
    exact ⟨T, rfl, h, jfr.rf⟩
  | succ c ih =>
    intro i n T R h hP hI hi hn
    obtain ⟨n, rfl⟩ : ∃ m, n = m + 1 := ⟨n - 1, by omega⟩
    show ∃ T', B_cratesGo_2 (J_cratesGo_2 n) (nI b) (nI i) T = _ ∧ isRw T' b (lp gosR c (i + 1) (gosR i R)) ∧ _
    obtain ⟨⟨g1, g2⟩, -, -, -, ⟨t1, t2⟩, ⟨l1, l2⟩⟩ := hI.2 i (by omega)
    unfold B_cratesGo_2
    rw [hP.2.2.1, if_neg (nI_ge (show i < P.1.2.2 by omega) (by omega))]
    simp only [rx2, rw_rd h hb (show 65 + i < 85 by omega) (us_c hP.2.2.1 (show i < P.1.2.2 by omega) h10 (by omega)), rw_rd h hb (show 45 + i < 85 by omega) (us_c hP.2.2.1 (show i < P.1.2.2 by omega) h10 (by omega)), rw_rd h hb (show 25 + i < 85 by omega) (us_c hP.2.2.1 (show i < P.1.2.2 by omega) h10 (by omega)), rw_rd h hb (show 75 + i < 85 by omega) (us_c hP.2.2.1 (show i < P.1.2.2 by omega) h10 (by omega)), Option.bind_some, J_kept_e]
    by_cases hz : R (65 + i) = 0
    · have hg : gosR i R = R := by unfold gosR; rw [if_pos (by rw [hz, ti_le]; exact Int.le_refl _)]
      rw [if_pos hz, hg]
      unfold J_cratesGo_96
      rw [nI_add]
      exact ih (i + 1) n T R h hP hI (by omega) (by omega)
    · have hg : gosR i R = shipR R i := by
        unfold gosR
        rw [if_neg (by rw [ti_le, ti_0]; intro q; exact hz (ti_eq (by rw [ti_0]; omega)))]
      rw [if_neg hz, hg]
      have hI' : invR P (shipR R i) := inv_ship hI (by omega) (by rw [ti_le, ti_0]; intro q; exact hz (ti_eq (by rw [ti_0]; omega)))
      have hd : (R (25 + i) - R (75 + i)).toInt = (R (25 + i)).toInt - (R (75 + i)).toInt := ti_sub (by omega) (by omega)
      revert hI'
      unfold shipR
      by_cases hc : R (45 + i) = 0
      · rw [if_pos hc, if_pos hc]
        intro hI'
        obtain ⟨T1, s1, c1, f1⟩ := rw_st h hb (k := 25 + i) (v := kepI (R (25 + i) - R (75 + i)) (nI 0) (nI 99)) (by omega)
        rw [s1]
        rw [mx_kep (by omega)] at c1
        obtain ⟨T2, s2, c2, f2⟩ := J_cg81 c1 hb ((f1.2.1 3 (by omega)).trans hP.2.2.1) h10 (k := i) (by omega)
        obtain ⟨T3, s3, c3, f3⟩ := ih (i + 1) n T2 _ c2 ((hP.jf f1).jf f2) hI' (by omega) (by omega)
        exact ⟨T3, (s2 _).trans s3, c3, (f1.tr f2).tr f3⟩
      · rw [if_neg hc, if_neg hc]
        intro hI'
        obtain ⟨T2, s2, c2, f2⟩ := J_cg81 h hb hP.2.2.1 h10 (k := i) (by omega)
        obtain ⟨T3, s3, c3, f3⟩ := ih (i + 1) n T2 _ c2 (hP.jf f2) hI' (by omega) (by omega)
        exact ⟨T3, (s2 _).trans s3, c3, f2.tr f3⟩
end JO
