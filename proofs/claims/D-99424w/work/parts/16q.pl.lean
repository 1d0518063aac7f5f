/-! the plain law: a hold, the twin's; which crate is where -/
set_option maxRecDepth 100000
/-- only the rows of harm have changed -/
def jH (T T' : tw_T) : Prop := T'.1 = T.1 ∧ ∀ r, r ≠ 26 → T'.2.2 r = T.2.2 r
theorem jH.rf {T : tw_T} : jH T T := ⟨rfl, fun _ _ => rfl⟩
theorem jH.tr {T T1 T2 : tw_T} (h1 : jH T T1) (h2 : jH T1 T2) : jH T T2 := ⟨h2.1.trans h1.1, fun r a => (h2.2 r a).trans (h1.2 r a)⟩
theorem jH.q {T T' : tw_T} (h : jH T T') : jq T T' := ⟨fun k _ => congrFun h.1 k, fun r hr => h.2 r (by omega), fun q _ => by rw [h.2 20 (by omega)]⟩
theorem jH.a {T : tw_T} {f : Nat → Int32} : jH T (tw_A T 26 f) := ⟨rfl, fun _ h => A_n h⟩
theorem or_dif {all s k : Nat} : dif all (s ||| 2 ^ k) = dif (dif all s) (2 ^ k) := by
  apply Nat.eq_of_testBit_eq
  intro j
  rw [dif_tb, dif_tb, dif_tb, Nat.testBit_or]
  cases all.testBit j <;> cases s.testBit j <;> cases (2 ^ k).testBit j <;> rfl
theorem or_sub {all s k : Nat} (h : dif s all = 0) (hk : all.testBit k = true) : dif (s ||| 2 ^ k) all = 0 := by
  rw [dif_sub] at h ⊢
  intro j hj
  rw [Nat.testBit_or, Nat.testBit_two_pow] at hj
  cases h1 : s.testBit j
  · rw [h1] at hj
    have e : k = j := by simpa using hj
    rw [← e]; exact hk
  · exact h j h1
theorem or_gt {s k : Nat} (h : s.testBit k ≠ true) : s < s ||| 2 ^ k := by
  have h1 : s ≤ s ||| 2 ^ k := Nat.left_le_or
  by_cases e : s = s ||| 2 ^ k
  · have h2 : (s ||| 2 ^ k).testBit k = true := by rw [Nat.testBit_or, Nat.testBit_two_pow_self]; simp
    rw [← e] at h2
    exact absurd h2 h
  · omega
section HJ
variable {σ : vv_S} {T : tw_T} {x0 pa va ca r : Nat} {h0 : Nat → Option vv_E} {P : pvT} {R : Nat → Int32} {lo : Int32} {all : Nat}
def isHt (P : pvT) (R : Nat → Int32) (all : Nat) (T : tw_T) (s : Nat) : Prop := ∀ s' c, s < s' → s' ≤ all → dif s' all = 0 → c < P.1.2.2 → T.2.2 26 (10 * s' + c) = nI (hdH 99999 P.1.2.2 (hmN P R) (dif all s') c)
theorem J_lay_d (hr : isRw T 0 R) (hP : isTp T P) (hI : invR P R) (h10 : P.1.2.2 ≤ 10) (ha : all < 2 ^ P.1.2.2) (ha2 : all < 1024) {s c0 : Nat} (hs : s ≤ all) (hsa : dif s all = 0) (hc : c0 < P.1.2.2) (hH : isHt P R all T s) (k2 : Int32 → Int32 → tw_T → Option tw_T) (k19 : Int32 → Int32 → Int32 → tw_T → Option tw_T) : ∀ (c d n v : Nat), v ≤ 99999 → d + c = P.1.2.2 → c < n → J_laysHold_44 k2 k19 n (nI all) (nI s) (nI c0) (nI v) (nI d) T = k19 (nI all) (nI s) (nI (c0 + 1)) (tw_A T 26 (upd (T.2.2 26) (10 * s + c0) (nI (lp (hdS 99999 P.1.2.2 (hmN P R) (dif all s) c0) c d v)))) := by
  intro c
  induction c with
  | zero =>
    intro d n v hv hi hn
    obtain ⟨n, rfl⟩ : ∃ m, n = m + 1 := ⟨n - 1, by omega⟩
    show B_laysHold_44 k2 k19 (J_laysHold_44 k2 k19 n) (nI all) (nI s) (nI c0) (nI v) (nI d) T = _
    unfold B_laysHold_44
    rw [hP.2.2.1, if_pos (nI_le (by omega) (by omega)), pk_mul, nI_add, nI_st (by omega) (by omega), nI_add]
    rfl
  | succ c ih =>
    intro d n v hv hi hn
    obtain ⟨n, rfl⟩ : ∃ m, n = m + 1 := ⟨n - 1, by omega⟩
    show B_laysHold_44 k2 k19 (J_laysHold_44 k2 k19 n) (nI all) (nI s) (nI c0) (nI v) (nI d) T = k19 (nI all) (nI s) (nI (c0 + 1)) (tw_A T 26 (upd (T.2.2 26) (10 * s + c0) (nI (lp (hdS 99999 P.1.2.2 (hmN P R) (dif all s) c0) c (d + 1) (hdS 99999 P.1.2.2 (hmN P R) (dif all s) c0 d v)))))
    unfold B_laysHold_44 J_laysHold_107
    rw [hP.2.2.1, if_neg (nI_ge (show d < P.1.2.2 by omega) (by omega)), bt_tst (show all < 2 ^ 31 by omega) (show d < 31 by omega), bt_tst (show s < 2 ^ 31 by omega) (show d < 31 by omega), nI_add]
    have skip : (dif all s).testBit d ≠ true → J_laysHold_44 k2 k19 n (nI all) (nI s) (nI c0) (nI v) (nI (d + 1)) T = k19 (nI all) (nI s) (nI (c0 + 1)) (tw_A T 26 (upd (T.2.2 26) (10 * s + c0) (nI (lp (hdS 99999 P.1.2.2 (hmN P R) (dif all s) c0) c (d + 1) (hdS 99999 P.1.2.2 (hmN P R) (dif all s) c0 d v))))) := by
      intro hno
      rw [show hdS 99999 P.1.2.2 (hmN P R) (dif all s) c0 d v = v by unfold hdS; rw [if_neg hno]]
      exact ih (d + 1) n v hv (by omega) (by omega)
    by_cases h1 : all.testBit d = true
    · rw [if_pos h1, if_neg s1_ne]
      by_cases h2 : s.testBit d = true
      · rw [if_pos h2, if_pos rfl]
        exact skip (by rw [dif_tb, h1, h2]; decide)
      · have h2f : s.testBit d = false := by cases h : s.testBit d; rfl; exact absurd h h2
        have hbit : (dif all s).testBit d = true := by rw [dif_tb, h1, h2f]; rfl
        have hs' := or_sub hsa h1
        have hgt := or_gt h2
        have hle := dif_lt hs'
        have hv6 := hH (s ||| 2 ^ d) d hgt hle hs' (by omega)
        rw [or_dif] at hv6
        have hb := hd_b (f := 99999) (cr := P.1.2.2) (hm := hmN P R) hm_99 P.1.2.2 (dif (dif all s) (2 ^ d)) d (Nat.lt_trans (dif_bit_lt hbit) (Nat.lt_of_le_of_lt (dif_le all s) ha)) (Nat.le_refl _)
        have hm9 := hm_99 (P := P) (R := R) c0 d
        rw [if_neg h2, if_neg n01, bt_shl (show d < 31 by omega), nI_or, J_harms_e hr hP hI h10 hc (show d < P.1.2.2 by omega)]
        simp only [pk_mul, nI_add, nI_rd (show 10 * (s ||| 2 ^ d) + d < 10240 by omega) (show 10240 < 2 ^ 31 by omega), hv6, J_lesser_e, mn_nI (show v < 2 ^ 31 by omega) (show hmN P R c0 d + hdH 99999 P.1.2.2 (hmN P R) (dif (dif all s) (2 ^ d)) d < 2 ^ 31 by omega), bdS]
        have e4 : hdS 99999 P.1.2.2 (hmN P R) (dif all s) c0 d v = min v (hmN P R c0 d + hdH 99999 P.1.2.2 (hmN P R) (dif (dif all s) (2 ^ d)) d) := by
          unfold hdS
          rw [if_pos hbit, Nat.add_comm]
        rw [e4]
        exact ih (d + 1) n _ (by omega) (by omega) (by omega)
    · rw [if_neg h1, if_pos nI_0]
      have h1f : all.testBit d = false := by cases h : all.testBit d; rfl; exact absurd h h1
      exact skip (by rw [dif_tb, h1f]; simp)
theorem dif_self (a : Nat) : dif a a = 0 := dif_sub.mpr fun _ h => h
theorem dif_eq0 {a s : Nat} (h1 : dif s a = 0) (h2 : dif a s = 0) : s = a := by
  have := dif_lt h1
  have := dif_lt h2
  omega
theorem J_lay_c (hI : invR P R) (h10 : P.1.2.2 ≤ 10) (ha : all < 2 ^ P.1.2.2) (ha2 : all < 1024) {s : Nat} (hs : s ≤ all) (hs0 : 0 < s) (hsa : dif s all = 0) (k2 : Int32 → Int32 → tw_T → Option tw_T) : ∀ (c i n : Nat) (T : tw_T), isRw T 0 R → isTp T P → isHt P R all T s → (∀ q, q < i → T.2.2 26 (10 * s + q) = nI (hdH 99999 P.1.2.2 (hmN P R) (dif all s) q)) → i + c = P.1.2.2 → c < n → ∃ T', J_laysHold_19 k2 n (nI all) (nI s) (nI i) T = k2 (nI all) (nI (s - 1)) T' ∧ isHt P R all T' (s - 1) ∧ jH T T' := by
  intro c
  induction c with
  | zero =>
    intro i n T hr hP hH hq hi hn
    obtain ⟨n, rfl⟩ : ∃ m, n = m + 1 := ⟨n - 1, by omega⟩
    refine ⟨T, ?_, fun s' q h1 h2 h3 h4 => ?_, jH.rf⟩
    · show B_laysHold_19 k2 (J_laysHold_19 k2 n) (nI all) (nI s) (nI i) T = _
      unfold B_laysHold_19 J_laysHold_132
      rw [hP.2.2.1, if_pos (nI_le (by omega) (by omega))]
      obtain ⟨s1, rfl⟩ : ∃ s1, s = s1 + 1 := ⟨s - 1, by omega⟩
      rw [pk_m1]
      rfl
    · by_cases e : s' = s
      · subst e; exact hq q (by omega)
      · exact hH s' q (by omega) h2 h3 h4
  | succ c ih =>
    intro i n T hr hP hH hq hi hn
    obtain ⟨n, rfl⟩ : ∃ m, n = m + 1 := ⟨n - 1, by omega⟩
    have go : ∀ v, v ≤ 99999 → nI (lp (hdS 99999 P.1.2.2 (hmN P R) (dif all s) i) P.1.2.2 0 v) = nI (hdH 99999 P.1.2.2 (hmN P R) (dif all s) i) → ∃ T', J_laysHold_39 k2 (J_laysHold_19 k2 n) (nI v) (nI all) (nI s) (nI i) T = k2 (nI all) (nI (s - 1)) T' ∧ isHt P R all T' (s - 1) ∧ jH T T' := by
      intro v hv he
      have e1 := J_lay_d hr hP hI h10 ha ha2 hs hsa (c0 := i) (by omega) hH k2 (J_laysHold_19 k2 n) P.1.2.2 0 NN v hv (by omega) (by unfold NN; omega)
      rw [he] at e1
      have f1 : jH T (tw_A T 26 (upd (T.2.2 26) (10 * s + i) (nI (hdH 99999 P.1.2.2 (hmN P R) (dif all s) i)))) := jH.a
      obtain ⟨T', s1, s2, s3⟩ := ih (i + 1) n _ (hr.jq f1.q) (hP.jq f1.q) (fun s' q h1 h2 h3 h4 => by
        rw [A_s, upd_n (by omega)]
        exact hH s' q h1 h2 h3 h4) (fun q hq2 => by
        rw [A_s]
        by_cases e : q = i
        · subst e; rw [upd_s]
        · rw [upd_n (by omega)]; exact hq q (by omega)) (by omega) (by omega)
      refine ⟨T', ?_, s2, f1.tr s3⟩
      unfold J_laysHold_39
      rw [e1]
      exact s1
    show ∃ T', B_laysHold_19 k2 (J_laysHold_19 k2 n) (nI all) (nI s) (nI i) T = _ ∧ _
    unfold B_laysHold_19
    rw [hP.2.2.1, if_neg (nI_ge (show i < P.1.2.2 by omega) (by omega))]
    by_cases e : s = all
    · rw [if_pos (by rw [e])]
      refine go 0 (by omega) ?_
      have e0 : dif all s = 0 := by rw [e]; exact dif_self all
      rw [e0, hd_eq, if_pos rfl, lp_id _ _ _ fun k _ _ y => by unfold hdS; rw [Nat.zero_testBit, if_neg (by decide)]]
    · rw [if_neg (nI_nn e (by omega) (by omega))]
      refine go 99999 (Nat.le_refl _) ?_
      rw [hd_eq, if_neg (fun z => e (dif_eq0 hsa z))]
theorem J_lay_s (hI : invR P R) (h10 : P.1.2.2 ≤ 10) (ha : all < 2 ^ P.1.2.2) (ha2 : all < 1024) : ∀ (s n : Nat) (T : tw_T), s ≤ all → isRw T 0 R → isTp T P → isHt P R all T s → s < n → ∃ T', J_laysHold_2 n (nI all) (nI s) T = some T' ∧ isHt P R all T' 0 ∧ jH T T' := by
  intro s
  induction s with
  | zero =>
    intro n T _ hr hP hH hn
    obtain ⟨n, rfl⟩ : ∃ m, n = m + 1 := ⟨n - 1, by omega⟩
    refine ⟨T, ?_, hH, jH.rf⟩
    show B_laysHold_2 (J_laysHold_2 n) (nI all) (nI 0) T = _
    unfold B_laysHold_2
    rw [if_pos (by rw [nI_0, ti_le]; exact Int.le_refl _)]
  | succ s ih =>
    intro n T hs hr hP hH hn
    obtain ⟨n, rfl⟩ : ∃ m, n = m + 1 := ⟨n - 1, by omega⟩
    show ∃ T', B_laysHold_2 (J_laysHold_2 n) (nI all) (nI (s + 1)) T = _ ∧ _
    unfold B_laysHold_2 J_laysHold_132
    rw [if_neg (nI_nle (by omega) (by omega)), pk_m1]
    by_cases hsa : dif (s + 1) all = 0
    · rw [if_pos ((dif_0 (by omega)).mpr hsa)]
      obtain ⟨T1, s1, h1, f1⟩ := J_lay_c hI h10 ha ha2 hs (by omega) hsa (J_laysHold_2 n) P.1.2.2 0 NN T hr hP hH (fun q hq => by omega) (by omega) (by unfold NN; omega)
      obtain ⟨T2, s2, h2, f2⟩ := ih n T1 (by omega) (hr.jq f1.q) (hP.jq f1.q) h1 (by omega)
      exact ⟨T2, s1.trans s2, h2, f1.tr f2⟩
    · rw [if_neg (fun z => hsa ((dif_0 (by omega)).mp z))]
      exact ih n T (by omega) hr hP (fun s' q h1 h2 h3 h4 => by
        by_cases e : s' = s + 1
        · subst e; exact absurd h3 hsa
        · exact hH s' q (by omega) h2 h3 h4) (by omega)
/-! which is next -/
def ndF (cnd : Nat → Bool) : Nat → Int32 → Int32
  | 0, v => v
  | c + 1, v => ndF cnd c (if cnd c = true then nI c else v)
def ixI (c : Nat) : Int32 := if c = 0 then -1 else nI (c - 1)
theorem ix_m {c : Nat} : nI c + (-1) = ixI c := by
  unfold ixI
  by_cases e : c = 0
  · rw [if_pos e, e]; decide
  · rw [if_neg e]
    obtain ⟨d, rfl⟩ : ∃ d, c = d + 1 := ⟨c - 1, by omega⟩
    rw [pk_m1]; rfl
theorem ix_1 {c : Nat} (hc : c < 2 ^ 31) : nI c - nI 1 = ixI c := by
  unfold ixI
  by_cases e : c = 0
  · rw [if_pos e, e]; decide
  · rw [if_neg e, pk_sub (by omega)]
theorem nd_is {cnd : Nat → Bool} : ∀ (c : Nat) (v : Int32), ((∃ k, k < c ∧ cnd k = true) → ∃ k, k < c ∧ cnd k = true ∧ ndF cnd c v = nI k) ∧ ((∀ k, k < c → cnd k ≠ true) → ndF cnd c v = v) := by
  intro c
  induction c with
  | zero => intro v; exact ⟨fun ⟨k, h, _⟩ => by omega, fun _ => rfl⟩
  | succ c ih =>
    intro v
    refine ⟨fun ⟨k, h1, h2⟩ => ?_, fun h => ?_⟩
    · show ∃ k, k < c + 1 ∧ cnd k = true ∧ ndF cnd c (if cnd c = true then nI c else v) = nI k
      by_cases hx : ∃ k, k < c ∧ cnd k = true
      · obtain ⟨q, q1, q2, q3⟩ := (ih (if cnd c = true then nI c else v)).1 hx
        exact ⟨q, by omega, q2, q3⟩
      · have hc : cnd c = true := by
          by_cases e : k = c
          · rw [← e]; exact h2
          · exact absurd ⟨k, by omega, h2⟩ hx
        refine ⟨c, by omega, hc, ?_⟩
        rw [if_pos hc]
        exact (ih (nI c)).2 fun q hq hq2 => hx ⟨q, hq, hq2⟩
    · show ndF cnd c (if cnd c = true then nI c else v) = v
      rw [if_neg (h c (by omega))]
      exact (ih v).2 fun k hk => h k (by omega)
def cdB (P : pvT) (R : Nat → Int32) (l b c : Nat) : Bool := l.testBit c && decide (hdH 100000 P.1.2.2 (hmN P R) (dif l (2 ^ c)) c + hmN P R b c = hdH 100000 P.1.2.2 (hmN P R) l b)
theorem K_sel (B : hB x0 h0 pa va ca P R lo σ) (hI : invR P R) (ha : all < 2 ^ P.1.2.2) (ha2 : all < 1024) {X : Nat → Nat → Nat} (M : isM σ r all P.1.2.2 X) (hXX : ∀ j q, j ≤ all → dif j all = 0 → q ≤ P.1.2.2 → X j q = hdH 100000 P.1.2.2 (hmN P R) j q) {l b : Nat} (hl : dif l all = 0) (hb : b ≤ P.1.2.2) (x2 x7 : Int32) (k63 : Nat → Int32 → Nat → Int32 → Int32 → Int32 → vv_S → Option (hX (Int32 × vv_S))) : ∀ (c n : Nat) (v : Int32), c ≤ P.1.2.2 → c < n → KX1_hold_83 k63 n x0 x2 r (nI b) (nI l) x7 v (ixI c) σ = k63 x0 x2 r (ndF (cdB P R l b) c v) (nI l &&& (((nI 1) <<< (ndF (cdB P R l b) c v &&& 31)) ^^^ (-1))) (x7 + nI 1) σ := by
  have h10 := ev_10 B.1
  have hlle := dif_lt hl
  intro c
  induction c with
  | zero =>
    intro n v hc hn
    obtain ⟨n, rfl⟩ : ∃ m, n = m + 1 := ⟨n - 1, by omega⟩
    show BKX1_hold_83 k63 (KX1_hold_83 k63 n) x0 x2 r (nI b) (nI l) x7 v (-1) σ = _
    unfold BKX1_hold_83
    rw [if_pos (by decide)]
    rfl
  | succ c ih =>
    intro n v hc hn
    obtain ⟨n, rfl⟩ : ∃ m, n = m + 1 := ⟨n - 1, by omega⟩
    have e0 : ixI (c + 1) = nI c := by unfold ixI; rw [if_neg (by omega)]; rfl
    rw [e0]
    show BKX1_hold_83 k63 (KX1_hold_83 k63 n) x0 x2 r (nI b) (nI l) x7 v (nI c) σ = k63 x0 x2 r (ndF (cdB P R l b) c (if cdB P R l b c = true then nI c else v)) (nI l &&& (((nI 1) <<< (ndF (cdB P R l b) c (if cdB P R l b c = true then nI c else v) &&& 31)) ^^^ (-1))) (x7 + nI 1) σ
    unfold BKX1_hold_83 KX1_hold_137 KX1_hold_153
    simp only [ev_pa B.1, ev_cr B.1, K_isOf (show l < 2 ^ 31 by omega) (show c < 31 by omega), bt_shl (show c < 31 by omega), dif_e, M.q ha2 hlle, ix_m, bdS]
    rw [if_neg (nI_pos (by omega))]
    by_cases h1 : l.testBit c = true
    · have hlt := dif_bit_lt h1
      have hds : dif (dif l (2 ^ c)) all = 0 := by
        rw [dif_sub] at hl ⊢
        intro i hi
        rw [dif_tb] at hi
        exact hl i (by cases h : l.testBit i; rw [h] at hi; cases hi; rfl)
      have r1 := M.rd h10 (j := dif l (2 ^ c)) (b := c) (by omega) (by omega)
      rw [hXX _ c (by omega) hds (by omega)] at r1
      have r2 := M.rd h10 hlle hb
      rw [hXX _ b hlle hl hb] at r2
      have b1 := hd_b (f := 100000) (cr := P.1.2.2) (hm := hmN P R) hm_99 P.1.2.2 (dif l (2 ^ c)) c (sub_lt ha hds) (Nat.le_refl _)
      have b2 := hd_b (f := 100000) (cr := P.1.2.2) (hm := hmN P R) hm_99 P.1.2.2 l b (sub_lt ha hl) (Nat.le_refl _)
      have b3 := hm_99 (P := P) (R := R) b c
      rw [if_pos h1, if_neg s1_ne]
      simp only [M.q ha2 (show dif l (2 ^ c) ≤ all by omega), r1, r2, nI_add, bdS]
      have go : ∀ s, s = hmN P R b c → (if nI (hdH 100000 P.1.2.2 (hmN P R) (dif l (2 ^ c)) c + s) = nI (hdH 100000 P.1.2.2 (hmN P R) l b) then KX1_hold_83 k63 n x0 x2 r (nI b) (nI l) x7 (nI c) (ixI c) σ else KX1_hold_83 k63 n x0 x2 r (nI b) (nI l) x7 v (ixI c) σ) = k63 x0 x2 r (ndF (cdB P R l b) c (if cdB P R l b c = true then nI c else v)) (nI l &&& (((nI 1) <<< (ndF (cdB P R l b) c (if cdB P R l b c = true then nI c else v) &&& 31)) ^^^ (-1))) (x7 + nI 1) σ := by
        intro s hs
        rw [hs]
        by_cases hq : hdH 100000 P.1.2.2 (hmN P R) (dif l (2 ^ c)) c + hmN P R b c = hdH 100000 P.1.2.2 (hmN P R) l b
        · have hcd : cdB P R l b c = true := by unfold cdB; rw [h1, decide_eq_true hq]; rfl
          rw [if_pos (by rw [hq]), if_pos hcd]
          exact ih n _ (by omega) (by omega)
        · have hcd : ¬ cdB P R l b c = true := by unfold cdB; rw [h1, decide_eq_false hq]; decide
          rw [if_neg (nI_nn hq (by omega) (by omega)), if_neg hcd]
          exact ih n _ (by omega) (by omega)
      by_cases hbc : b = P.1.2.2
      · rw [if_pos (by rw [hbc])]
        exact go 0 (by unfold hmN; rw [if_pos hbc])
      · rw [if_neg (nI_nn hbc (by omega) (by omega))]
        simp only [ev_x B.1, K_harm B hI (show b < P.1.2.2 by omega) (show c < P.1.2.2 by omega), nI_add, bdS]
        exact go _ rfl
    · have hcd : ¬ cdB P R l b c = true := by
        unfold cdB
        have h1f : l.testBit c = false := by cases h : l.testBit c; rfl; exact absurd h h1
        rw [h1f]
        simp
      rw [if_neg h1, if_pos nI_0, if_neg hcd]
      exact ih n _ (by omega) (by omega)
def lastI (P : pvT) (b : Nat) : Int32 := if b = P.1.2.2 then -1 else nI b
theorem J_sel (hr : isRw T 0 R) (hP : isTp T P) (hI : invR P R) (h10 : P.1.2.2 ≤ 10) (ha : all < 2 ^ P.1.2.2) (ha2 : all < 1024) (hH : isHt P R all T 0) {s b : Nat} (hsa : dif s all = 0) (hb : b ≤ P.1.2.2) (x2 x8 : Int32) (k139 : Int32 → Int32 → Int32 → Int32 → Int32 → Int32 → tw_T → Option (Int32 × tw_T)) : ∀ (c n : Nat) (v : Int32), c ≤ P.1.2.2 → c < n → J_hold_156 k139 n x2 (nI all) (nI s) (lastI P b) (nI (hdH 100000 P.1.2.2 (hmN P R) (dif all s) b)) x8 v (ixI c) T = (if lastI P b = -1 then J_hold_265 k139 (nI (hdH 100000 P.1.2.2 (hmN P R) (dif all s) b)) (nI 0) x2 (nI all) (nI s) x8 (ndF (cdB P R (dif all s) b) c v) T else (J_harms (lastI P b) (ndF (cdB P R (dif all s) b) c v) T).bind fun r3 => J_hold_265 k139 (nI (hdH 100000 P.1.2.2 (hmN P R) (dif all s) b)) r3.1 x2 (nI all) (nI s) x8 (ndF (cdB P R (dif all s) b) c v) r3.2) := by
  have hsle := dif_lt hsa
  have hlle := dif_le all s
  intro c
  induction c with
  | zero =>
    intro n v hc hn
    obtain ⟨n, rfl⟩ : ∃ m, n = m + 1 := ⟨n - 1, by omega⟩
    show B_hold_156 k139 (J_hold_156 k139 n) x2 (nI all) (nI s) (lastI P b) (nI (hdH 100000 P.1.2.2 (hmN P R) (dif all s) b)) x8 v (-1) T = _
    unfold B_hold_156
    rw [if_pos (by decide)]
    rfl
  | succ c ih =>
    intro n v hc hn
    obtain ⟨n, rfl⟩ : ∃ m, n = m + 1 := ⟨n - 1, by omega⟩
    have e0 : ixI (c + 1) = nI c := by unfold ixI; rw [if_neg (by omega)]; rfl
    rw [e0]
    have hstep : J_hold_156 k139 (n + 1) x2 (nI all) (nI s) (lastI P b) (nI (hdH 100000 P.1.2.2 (hmN P R) (dif all s) b)) x8 v (nI c) T = J_hold_156 k139 n x2 (nI all) (nI s) (lastI P b) (nI (hdH 100000 P.1.2.2 (hmN P R) (dif all s) b)) x8 (if cdB P R (dif all s) b c = true then nI c else v) (ixI c) T := by
      show B_hold_156 k139 (J_hold_156 k139 n) x2 (nI all) (nI s) (lastI P b) (nI (hdH 100000 P.1.2.2 (hmN P R) (dif all s) b)) x8 v (nI c) T = _
      unfold B_hold_156 J_hold_202 J_hold_237 J_hold_239
      rw [if_neg (nI_pos (by omega)), bt_tst (show all < 2 ^ 31 by omega) (show c < 31 by omega), bt_tst (show s < 2 ^ 31 by omega) (show c < 31 by omega), ix_m]
      by_cases h1 : all.testBit c = true
      · rw [if_pos h1, if_neg s1_ne]
        by_cases h2 : s.testBit c = true
        · have hcd : ¬ cdB P R (dif all s) b c = true := by
            unfold cdB
            rw [dif_tb, h1, h2]
            simp
          rw [if_pos h2, if_pos rfl, if_neg hcd]
        · have h2f : s.testBit c = false := by cases h : s.testBit c; rfl; exact absurd h h2
          have hbit : (dif all s).testBit c = true := by rw [dif_tb, h1, h2f]; rfl
          have hs' := or_sub hsa h1
          have hgt := or_gt h2
          have hle := dif_lt hs'
          have hv6 := hH (s ||| 2 ^ c) c (by omega) hle hs' (by omega)
          have hlt1 := Nat.lt_trans (dif_bit_lt hbit) (Nat.lt_of_le_of_lt hlle ha)
          rw [or_dif, hd_fg (f := 99999) (g := 100000) hm_99 h10 (by omega) (by omega) _ c hlt1] at hv6
          have b1 := hd_b (f := 100000) (cr := P.1.2.2) (hm := hmN P R) hm_99 P.1.2.2 (dif (dif all s) (2 ^ c)) c hlt1 (Nat.le_refl _)
          have b2 := hd_b (f := 100000) (cr := P.1.2.2) (hm := hmN P R) hm_99 P.1.2.2 (dif all s) b (Nat.lt_of_le_of_lt hlle ha) (Nat.le_refl _)
          have b3 := hm_99 (P := P) (R := R) b c
          rw [if_neg h2, if_neg n01, bt_shl (show c < 31 by omega), nI_or]
          simp only [pk_mul, nI_add, nI_rd (show 10 * (s ||| 2 ^ c) + c < 10240 by omega) (show 10240 < 2 ^ 31 by omega), hv6, bdS]
          have go : ∀ q, q = hmN P R b c → (if nI (q + hdH 100000 P.1.2.2 (hmN P R) (dif (dif all s) (2 ^ c)) c) = nI (hdH 100000 P.1.2.2 (hmN P R) (dif all s) b) then J_hold_156 k139 n x2 (nI all) (nI s) (lastI P b) (nI (hdH 100000 P.1.2.2 (hmN P R) (dif all s) b)) x8 (nI c) (ixI c) T else J_hold_156 k139 n x2 (nI all) (nI s) (lastI P b) (nI (hdH 100000 P.1.2.2 (hmN P R) (dif all s) b)) x8 v (ixI c) T) = J_hold_156 k139 n x2 (nI all) (nI s) (lastI P b) (nI (hdH 100000 P.1.2.2 (hmN P R) (dif all s) b)) x8 (if cdB P R (dif all s) b c = true then nI c else v) (ixI c) T := by
            intro q hq
            rw [hq, Nat.add_comm]
            by_cases hqq : hdH 100000 P.1.2.2 (hmN P R) (dif (dif all s) (2 ^ c)) c + hmN P R b c = hdH 100000 P.1.2.2 (hmN P R) (dif all s) b
            · have hcd : cdB P R (dif all s) b c = true := by unfold cdB; rw [hbit, decide_eq_true hqq]; rfl
              rw [if_pos (by rw [hqq]), if_pos hcd]
            · have hcd : ¬ cdB P R (dif all s) b c = true := by unfold cdB; rw [hbit, decide_eq_false hqq]; decide
              rw [if_neg (nI_nn hqq (by omega) (by omega)), if_neg hcd]
          by_cases hbc : b = P.1.2.2
          · have hla : lastI P b = -1 := by unfold lastI; rw [if_pos hbc]
            rw [if_pos hla]
            exact go 0 (by unfold hmN; rw [if_pos hbc])
          · have hla : lastI P b = nI b := by unfold lastI; rw [if_neg hbc]
            rw [if_neg (by rw [hla]; exact nI_m1 (by omega))]
            have hjh : J_harms (lastI P b) (nI c) T = some (nI (hmN P R b c), T) := by rw [hla]; exact J_harms_e hr hP hI h10 (by omega) (by omega)
            simp only [hjh, hv6, nI_add, bdS]
            exact go _ rfl
      · have hcd : ¬ cdB P R (dif all s) b c = true := by
          unfold cdB
          have h1f : all.testBit c = false := by cases h : all.testBit c; rfl; exact absurd h h1
          rw [dif_tb, h1f]
          simp
        rw [if_neg h1, if_pos nI_0, if_neg hcd]
    rw [hstep]
    exact ih n _ (by omega) (by omega)
end HJ
