/-! the plain law: a hold, as both lay it -/
set_option maxRecDepth 100000
def gr25 (R : Nat → Int32) (k : Nat) : Nat := (R (25 + k)).toInt.toNat
/-- the harm of two, one behind the other; none behind none -/
def hmN (P : pvT) (R : Nat → Int32) (b k : Nat) : Nat := if b = P.1.2.2 then 0 else if R (35 + b) = R (35 + k) then 0 else min (min (gr25 R b) (gr25 R k)) 99
theorem hm_99 {P : pvT} {R : Nat → Int32} (b k : Nat) : hmN P R b k ≤ 99 := by
  unfold hmN
  split
  · omega
  · split <;> omega
/-- rows of numbers -/
def isM (σ : vv_S) (r all cr : Nat) (X : Nat → Nat → Nat) : Prop := σ.1 r = some (true, .inl (.array .int, all + 1, .inr (.inr (.inr (.inr fun j => if j < all + 1 then some (r + 1 + j) else none))))) ∧ ∀ j, j ≤ all → ∃ f, σ.1 (r + 1 + j) = some (true, .inl (.int, cr + 1, .inl f)) ∧ ∀ b, b ≤ cr → f b = nI (X j b)
theorem isM.q {σ : vv_S} {r all cr : Nat} {X : Nat → Nat → Nat} (h : isM σ r all cr X) (ha : all < 1024) {j : Nat} (hj : j ≤ all) : aQ σ r (nI j) = some (r + 1 + j) := by
  unfold aQ
  rw [h.1]
  show (if (FieldType.array .int).isReference = true ∧ ¬ ((nI j) < 0 ∨ all + 1 ≤ (nI j).toNatClampNeg) then (if (nI j).toNatClampNeg < all + 1 then some (r + 1 + (nI j).toNatClampNeg) else none) else none) = _
  rw [if_pos ⟨rfl, nI_in (by omega) (by omega)⟩, nI_clamp (by omega), if_pos (by omega)]
theorem isM.rd {σ : vv_S} {r all cr : Nat} {X : Nat → Nat → Nat} (h : isM σ r all cr X) (hc : cr ≤ 10) {j b : Nat} (hj : j ≤ all) (hb : b ≤ cr) : aI σ .int (r + 1 + j) (nI b) = some (nI (X j b)) := by
  obtain ⟨f, h1, h2⟩ := h.2 j hj
  rw [aI_at h1 (by omega) (by omega), h2 b hb]
theorem isM.st {σ : vv_S} {r all cr : Nat} {X : Nat → Nat → Nat} (h : isM σ r all cr X) (hc : cr ≤ 10) {j b : Nat} (hj : j ≤ all) (hb : b ≤ cr) (v : Nat) : ∃ σ', sI σ (r + 1 + j) (nI b) (nI v) = some σ' ∧ isM σ' r all cr (ud2 X j b v) ∧ fr (fun q => r ≤ q) σ σ' := by
  obtain ⟨f, h1, h2⟩ := h.2 j hj
  obtain ⟨σ', s1, s2, s3⟩ := sI_at h1 (i := b) (v := nI v) (by omega) (by omega)
  refine ⟨σ', s1, ⟨(s3.n1 (by omega)).trans h.1, fun i hi => ?_⟩, s3.mo fun q hq => by have hq : q = r + 1 + j := hq; show r ≤ q; omega⟩
  by_cases e : i = j
  · subst e
    refine ⟨_, s2, fun q hq => ?_⟩
    by_cases e2 : q = b
    · subst e2; rw [upd_s, ud2_s]
    · rw [upd_n e2, ud2_n (fun z => e2 z.2), h2 q hq]
  · obtain ⟨g, h3, h4⟩ := h.2 i hi
    exact ⟨g, (s3.n1 (by omega)).trans h3, fun q hq => by rw [ud2_n (fun z => e z.1), h4 q hq]⟩
section HW
variable {σ : vv_S} {T : tw_T} {x0 pa va ca r : Nat} {h0 : Nat → Option vv_E} {P : pvT} {R : Nat → Int32} {lo : Int32} {all : Nat}
/-- what stands below r -/
def hB (x0 : Nat) (h0 : Nat → Option vv_E) (pa va ca : Nat) (P : pvT) (R : Nat → Int32) (lo : Int32) (σ : vv_S) : Prop := isEnv σ x0 h0 pa va P ∧ isCo σ x0 ca R lo ∧ gR σ x0 0 2 = some ca
theorem hB.fr {σ' : vv_S} (h : hB x0 h0 pa va ca P R lo σ) (hd : ∀ q, r ≤ q → h0 q = none) (hl : va < r ∧ x0 < r ∧ ca + 10 ≤ r) (f : fr (fun q => r ≤ q) σ σ') : hB x0 h0 pa va ca P R lo σ' := by
  refine ⟨h.1.fr f (fun q hq => hd q hq) (fun hq => by have hq : r ≤ x0 := hq; omega) (fun hq => by have hq : r ≤ va := hq; omega), h.2.1.ke fun q h1 h2 => f.2 q (fun hq => by have hq : r ≤ q := hq; omega), (gR_eq (f.2 x0 (fun hq => by have hq : r ≤ x0 := hq; omega))).trans h.2.2⟩
theorem gr25_e (hI : invR P R) {k : Nat} (hk : k < 10) : gr25 R k ≤ 99 ∧ R (25 + k) = nI (gr25 R k) := wN_e (m := 99) (hI.2 k hk).1
theorem K_harm (h : hB x0 h0 pa va ca P R lo σ) (hI : invR P R) {b k : Nat} (hb : b < P.1.2.2) (hk : k < P.1.2.2) : KX1_harm x0 (nI b) (nI k) σ = some (nI (hmN P R b k)) := by
  have h10 := ev_10 h.1
  have l0 : aI σ .int (ca + 1 + 4) (nI b) = some (R (35 + b)) := co_aI h.2.1 (j := 4) (by decide) (show b < 10 by omega)
  have l1 : aI σ .int (ca + 1 + 4) (nI k) = some (R (35 + k)) := co_aI h.2.1 (j := 4) (by decide) (show k < 10 by omega)
  have l2 : aI σ .int (ca + 1 + 3) (nI b) = some (R (25 + b)) := co_aI h.2.1 (j := 3) (by decide) (show b < 10 by omega)
  have l3 : aI σ .int (ca + 1 + 3) (nI k) = some (R (25 + k)) := co_aI h.2.1 (j := 3) (by decide) (show k < 10 by omega)
  obtain ⟨b1, b2⟩ := gr25_e hI (k := b) (by omega)
  obtain ⟨k1, k2⟩ := gr25_e hI (k := k) (by omega)
  rw [b2] at l2
  rw [k2] at l3
  unfold KX1_harm KX1_harm_46 hmN
  simp only [h.2.2, co_R h.2.1 (j := 4) (by decide), co_R h.2.1 (j := 3) (by decide), l0, l1, l2, l3, mn_nI (show gr25 R b < 2 ^ 31 by omega) (show gr25 R k < 2 ^ 31 by omega), bdS]
  rw [if_neg (show ¬ b = P.1.2.2 by omega)]
  by_cases e : R (35 + b) = R (35 + k)
  · rw [if_pos e, if_pos e]
  · rw [if_neg e, if_neg e, Nat.min_eq_left (show min (gr25 R b) (gr25 R k) ≤ 99 by omega)]
theorem J_harms_e (h : isRw T 0 R) (hP : isTp T P) (hI : invR P R) (h10 : P.1.2.2 ≤ 10) {b k : Nat} (hb : b < P.1.2.2) (hk : k < P.1.2.2) : J_harms (nI b) (nI k) T = some (nI (hmN P R b k), T) := by
  obtain ⟨b1, b2⟩ := gr25_e hI (k := b) (by omega)
  obtain ⟨k1, k2⟩ := gr25_e hI (k := k) (by omega)
  unfold J_harms hmN
  simp only [nI_add, rd0 h (show 35 + b < 85 by omega) (us_cp hP (by omega) (by omega) (by omega)), rd0 h (show 35 + k < 85 by omega) (us_cp hP (by omega) (by omega) (by omega)), rd0 h (show 25 + b < 85 by omega) (us_cp hP (by omega) (by omega) (by omega)), rd0 h (show 25 + k < 85 by omega) (us_cp hP (by omega) (by omega) (by omega)), b2, k2, J_lesser_e, mn_nI (show gr25 R b < 2 ^ 31 by omega) (show gr25 R k < 2 ^ 31 by omega), bdS]
  rw [if_neg (show ¬ b = P.1.2.2 by omega)]
  by_cases e : R (35 + b) = R (35 + k)
  · rw [if_pos e, if_pos e]
  · rw [if_neg e, if_neg e, Nat.min_eq_left (show min (gr25 R b) (gr25 R k) ≤ 99 by omega)]
theorem sub_lt {l a : Nat} (ha : a < 2 ^ P.1.2.2) (h : dif l a = 0) : l < 2 ^ P.1.2.2 := Nat.lt_of_le_of_lt (dif_lt h) ha
theorem K_harm_in (hd : ∀ q, r ≤ q → h0 q = none) (hl : va < r ∧ x0 < r ∧ ca + 10 ≤ r) (hI : invR P R) (h10 : P.1.2.2 ≤ 10) (ha : all < 2 ^ P.1.2.2) (ha2 : all < 1024) {l b : Nat} (hla : dif l all = 0) (hb : b ≤ P.1.2.2) (k19 : Nat → Int32 → Nat → Int32 → vv_S → Option (Nat × vv_S)) (k38 : Nat → Int32 → Nat → Int32 → Int32 → vv_S → Option (Nat × vv_S)) : ∀ (c i n : Nat) (σ : vv_S) (X : Nat → Nat → Nat), hB x0 h0 pa va ca P R lo σ → isM σ r all P.1.2.2 X → X l b ≤ 100000 → (∀ k, k < P.1.2.2 → l.testBit k = true → X (dif l (2 ^ k)) k = hdH 100000 P.1.2.2 (hmN P R) (dif l (2 ^ k)) k) → i + c = P.1.2.2 → c < n → ∃ σ' X', KX1_harms_61 k19 k38 n x0 (nI all) r (nI l) (nI b) (nI i) σ = k38 x0 (nI all) r (nI l) (nI (b + 1)) σ' ∧ hB x0 h0 pa va ca P R lo σ' ∧ isM σ' r all P.1.2.2 X' ∧ fr (fun q => r ≤ q) σ σ' ∧ X' l b = lp (hdS 100000 P.1.2.2 (hmN P R) l b) c i (X l b) ∧ ∀ j q, ¬ (j = l ∧ q = b) → X' j q = X j q := by
  intro c
  have hlle := dif_lt hla
  induction c with
  | zero =>
    intro i n σ X B M hX hS hi hn
    obtain ⟨n, rfl⟩ : ∃ m, n = m + 1 := ⟨n - 1, by omega⟩
    refine ⟨σ, X, ?_, B, M, fr.rf, rfl, fun _ _ _ => rfl⟩
    show BKX1_harms_61 k19 k38 (KX1_harms_61 k19 k38 n) x0 (nI all) r (nI l) (nI b) (nI i) σ = _
    unfold BKX1_harms_61
    simp only [ev_pa B.1, ev_cr B.1, bdS]
    rw [if_pos (nI_le (by omega) (by omega)), nI_add]
  | succ c ih =>
    intro i n σ X B M hX hS hi hn
    obtain ⟨n, rfl⟩ : ∃ m, n = m + 1 := ⟨n - 1, by omega⟩
    show ∃ (σ' : vv_S) (X' : Nat → Nat → Nat), BKX1_harms_61 k19 k38 (KX1_harms_61 k19 k38 n) x0 (nI all) r (nI l) (nI b) (nI i) σ = _ ∧ _ ∧ _ ∧ _ ∧ X' l b = lp (hdS 100000 P.1.2.2 (hmN P R) l b) c (i + 1) (hdS 100000 P.1.2.2 (hmN P R) l b i (X l b)) ∧ _
    unfold BKX1_harms_61 KX1_harms_122 KX1_harms_142
    simp only [ev_pa B.1, ev_cr B.1, K_isOf (show l < 2 ^ 31 by omega) (show i < 31 by omega), bt_shl (show i < 31 by omega), dif_e, bdS]
    rw [if_neg (nI_ge (show i < P.1.2.2 by omega) (by omega)), nI_add]
    by_cases hbit : l.testBit i = true
    · have hlt := dif_bit_lt hbit
      have e1 := hS i (by omega) hbit
      have e2 := hd_b (f := 100000) (cr := P.1.2.2) (hm := hmN P R) hm_99 P.1.2.2 (dif l (2 ^ i)) i (Nat.lt_trans hlt (sub_lt ha hla)) (Nat.le_refl _)
      have e3 := hm_99 (P := P) (R := R) b i
      have r1 := M.rd h10 (j := dif l (2 ^ i)) (b := i) (by omega) (by omega)
      rw [e1] at r1
      obtain ⟨σ1, s1, M1, f1⟩ := M.st h10 hlle hb (min (X l b) (hdH 100000 P.1.2.2 (hmN P R) (dif l (2 ^ i)) i + hmN P R b i))
      have B1 := B.fr hd hl f1
      obtain ⟨σ2, X2, s2, B2, M2, f2, x1, x2⟩ := ih (i + 1) n σ1 _ B1 M1 (by rw [ud2_s]; omega) (fun k hk hkb => by
        rw [ud2_n (fun z => by have := dif_bit_lt hkb; omega)]
        exact hS k hk hkb) (by omega) (by omega)
      rw [if_pos hbit, if_neg s1_ne]
      simp only [M.q ha2 (show dif l (2 ^ i) ≤ all by omega), r1, bdS]
      have go : ∀ s, s = hmN P R b i → ∃ σ' X', (((aQ σ r (nI l)).bind fun v1 => (aQ σ r (nI l)).bind fun v2 => (aI σ .int v2 (nI b)).bind fun v3 => (sI σ v1 (nI b) (mnI v3 (nI (hdH 100000 P.1.2.2 (hmN P R) (dif l (2 ^ i)) i) + nI s))).bind fun σ4 => KX1_harms_61 k19 k38 n x0 (nI all) r (nI l) (nI b) (nI (i + 1)) σ4) = k38 x0 (nI all) r (nI l) (nI (b + 1)) σ') ∧ hB x0 h0 pa va ca P R lo σ' ∧ isM σ' r all P.1.2.2 X' ∧ fr (fun q => r ≤ q) σ σ' ∧ X' l b = lp (hdS 100000 P.1.2.2 (hmN P R) l b) c (i + 1) (hdS 100000 P.1.2.2 (hmN P R) l b i (X l b)) ∧ ∀ j q, ¬ (j = l ∧ q = b) → X' j q = X j q := by
        intro s hs
        refine ⟨σ2, X2, ?_, B2, M2, f1.tr f2, ?_, fun j q hjq => by rw [x2 j q hjq, ud2_n hjq]⟩
        · rw [hs]
          simp only [M.q ha2 hlle, M.rd h10 hlle hb, nI_add, mn_nI (show X l b < 2 ^ 31 by omega) (show hdH 100000 P.1.2.2 (hmN P R) (dif l (2 ^ i)) i + hmN P R b i < 2 ^ 31 by omega), s1, bdS]
          exact s2
        · rw [x1, ud2_s]
          have e4 : hdS 100000 P.1.2.2 (hmN P R) l b i (X l b) = min (X l b) (hdH 100000 P.1.2.2 (hmN P R) (dif l (2 ^ i)) i + hmN P R b i) := by
            unfold hdS
            rw [if_pos hbit]
          rw [e4]
      by_cases hbc : b = P.1.2.2
      · rw [if_pos (by rw [hbc])]
        exact go 0 (by unfold hmN; rw [if_pos hbc])
      · rw [if_neg (nI_nn hbc (by omega) (by omega))]
        simp only [ev_x B.1, K_harm B hI (show b < P.1.2.2 by omega) (show i < P.1.2.2 by omega), bdS]
        exact go _ rfl
    · rw [if_neg hbit, if_pos nI_0]
      have e4 : hdS 100000 P.1.2.2 (hmN P R) l b i (X l b) = X l b := by
        unfold hdS
        rw [if_neg hbit]
      rw [e4]
      exact ih (i + 1) n σ X B M hX hS (by omega) (by omega)
theorem K_harm_b (hd : ∀ q, r ≤ q → h0 q = none) (hl : va < r ∧ x0 < r ∧ ca + 10 ≤ r) (hI : invR P R) (h10 : P.1.2.2 ≤ 10) (ha : all < 2 ^ P.1.2.2) (ha2 : all < 1024) {l : Nat} (hla : dif l all = 0) (hl0 : l ≠ 0) (k19 : Nat → Int32 → Nat → Int32 → vv_S → Option (Nat × vv_S)) : ∀ (c b n : Nat) (σ : vv_S) (X : Nat → Nat → Nat), hB x0 h0 pa va ca P R lo σ → isM σ r all P.1.2.2 X → (∀ j q, j < l → dif j all = 0 → q ≤ P.1.2.2 → X j q = hdH 100000 P.1.2.2 (hmN P R) j q) → (∀ q, q < b → X l q = hdH 100000 P.1.2.2 (hmN P R) l q) → b + c = P.1.2.2 + 1 → c < n → ∃ σ' X', KX1_harms_38 k19 n x0 (nI all) r (nI l) (nI b) σ = k19 x0 (nI all) r (nI (l + 1)) σ' ∧ hB x0 h0 pa va ca P R lo σ' ∧ isM σ' r all P.1.2.2 X' ∧ fr (fun q => r ≤ q) σ σ' ∧ ∀ j q, j < l + 1 → dif j all = 0 → q ≤ P.1.2.2 → X' j q = hdH 100000 P.1.2.2 (hmN P R) j q := by
  intro c
  have hlle := dif_lt hla
  induction c with
  | zero =>
    intro b n σ X B M hS hS2 hi hn
    obtain ⟨n, rfl⟩ : ∃ m, n = m + 1 := ⟨n - 1, by omega⟩
    refine ⟨σ, X, ?_, B, M, fr.rf, fun j q hj hja hq => ?_⟩
    · show BKX1_harms_38 k19 (KX1_harms_38 k19 n) x0 (nI all) r (nI l) (nI b) σ = _
      unfold BKX1_harms_38 KX1_harms_154
      simp only [ev_pa B.1, ev_cr B.1, bdS]
      rw [if_pos (nI_lt (by omega) (by omega)), nI_add]
    · by_cases e : j = l
      · subst e; exact hS2 q (by omega)
      · exact hS j q (by omega) hja hq
  | succ c ih =>
    intro b n σ X B M hS hS2 hi hn
    obtain ⟨n, rfl⟩ : ∃ m, n = m + 1 := ⟨n - 1, by omega⟩
    obtain ⟨σ1, s1, M1, f1⟩ := M.st h10 hlle (b := b) (by omega) 100000
    have B1 := B.fr hd hl f1
    obtain ⟨σ2, X2, s2, B2, M2, f2, x1, x2⟩ := K_harm_in hd hl hI h10 ha ha2 hla (b := b) (by omega) k19 (KX1_harms_38 k19 n) P.1.2.2 0 NN σ1 _ B1 M1 (by rw [ud2_s]; exact Nat.le_refl _) (fun k hk hkb => by
      have hlt := dif_bit_lt hkb
      rw [ud2_n (fun z => by omega)]
      refine hS _ k hlt ?_ (by omega)
      rw [dif_sub] at hla ⊢
      intro i hi
      rw [dif_tb] at hi
      exact hla i (by cases h : l.testBit i; rw [h] at hi; cases hi; rfl)) (by omega) (by unfold NN; omega)
    rw [ud2_s] at x1
    obtain ⟨σ3, X3, s3, B3, M3, f3, x3⟩ := ih (b + 1) n σ2 X2 B2 M2 (fun j q hj hja hq => by
      rw [x2 j q (fun z => by omega), ud2_n (fun z => by omega)]
      exact hS j q hj hja hq) (fun q hq => by
      by_cases e : q = b
      · subst e
        rw [x1, hd_eq, if_neg hl0]
      · rw [x2 l q (fun z => e z.2), ud2_n (fun z => e z.2)]
        exact hS2 q (by omega)) (by omega) (by omega)
    refine ⟨σ3, X3, ?_, B3, M3, (f1.tr f2).tr f3, x3⟩
    show BKX1_harms_38 k19 (KX1_harms_38 k19 n) x0 (nI all) r (nI l) (nI b) σ = _
    unfold BKX1_harms_38
    simp only [ev_pa B.1, ev_cr B.1, M.q ha2 hlle, s1, bdS]
    rw [if_neg (nI_nlt (by omega) (by omega)), s2]
    exact s3
theorem K_harm_l (hd : ∀ q, r ≤ q → h0 q = none) (hl : va < r ∧ x0 < r ∧ ca + 10 ≤ r) (hI : invR P R) (h10 : P.1.2.2 ≤ 10) (ha : all < 2 ^ P.1.2.2) (ha2 : all < 1024) : ∀ (c l n : Nat) (σ : vv_S) (X : Nat → Nat → Nat), hB x0 h0 pa va ca P R lo σ → isM σ r all P.1.2.2 X → 0 < l → (∀ j q, j < l → dif j all = 0 → q ≤ P.1.2.2 → X j q = hdH 100000 P.1.2.2 (hmN P R) j q) → l + c = all + 1 → c < n → ∃ σ' X', KX1_harms_19 n x0 (nI all) r (nI l) σ = some (r, σ') ∧ hB x0 h0 pa va ca P R lo σ' ∧ isM σ' r all P.1.2.2 X' ∧ fr (fun q => r ≤ q) σ σ' ∧ ∀ j q, j ≤ all → dif j all = 0 → q ≤ P.1.2.2 → X' j q = hdH 100000 P.1.2.2 (hmN P R) j q := by
  intro c
  induction c with
  | zero =>
    intro l n σ X B M hl0 hS hi hn
    obtain ⟨n, rfl⟩ : ∃ m, n = m + 1 := ⟨n - 1, by omega⟩
    refine ⟨σ, X, ?_, B, M, fr.rf, fun j q hj hja hq => hS j q (by omega) hja hq⟩
    show BKX1_harms_19 (KX1_harms_19 n) x0 (nI all) r (nI l) σ = _
    unfold BKX1_harms_19
    rw [if_pos (nI_lt (by omega) (by omega))]
  | succ c ih =>
    intro l n σ X B M hl0 hS hi hn
    obtain ⟨n, rfl⟩ : ∃ m, n = m + 1 := ⟨n - 1, by omega⟩
    show ∃ σ' X', BKX1_harms_19 (KX1_harms_19 n) x0 (nI all) r (nI l) σ = _ ∧ _
    unfold BKX1_harms_19 KX1_harms_154
    rw [if_neg (nI_nlt (by omega) (by omega))]
    by_cases hla : dif l all = 0
    · rw [if_pos ((dif_0 (by omega)).mpr hla)]
      obtain ⟨σ1, X1, s1, B1, M1, f1, x1⟩ := K_harm_b hd hl hI h10 ha ha2 hla (by omega) (KX1_harms_19 n) (P.1.2.2 + 1) 0 NN σ X B M hS (fun q hq => by omega) (by omega) (by unfold NN; omega)
      obtain ⟨σ2, X2, s2, B2, M2, f2, x2⟩ := ih (l + 1) n σ1 X1 B1 M1 (by omega) x1 (by omega) (by omega)
      exact ⟨σ2, X2, s1.trans s2, B2, M2, f1.tr f2, x2⟩
    · rw [if_neg (fun z => hla ((dif_0 (by omega)).mp z)), nI_add]
      exact ih (l + 1) n σ X B M (by omega) (fun j q hj hja hq => by
        by_cases e : j = l
        · subst e; exact absurd hja hla
        · exact hS j q (by omega) hja hq) (by omega) (by omega)
theorem K_harms (Q : isQ x0 h0 pa va ca P R lo σ T) (ha : all < 2 ^ P.1.2.2) (ha2 : all < 1024) : ∃ σ' X, KX1_harms x0 (nI all) σ = some (σ.2.1, σ') ∧ hB x0 h0 pa va ca P R lo σ' ∧ isM σ' σ.2.1 all P.1.2.2 X ∧ fa (fun q => q = va) 1100 13000 σ σ' ∧ ∀ j q, j ≤ all → dif j all = 0 → q ≤ P.1.2.2 → X j q = hdH 100000 P.1.2.2 (hmN P R) j q := by
  have h10 := ev_10 Q.1
  obtain ⟨σ1, hσ1⟩ : ∃ σ1 : vv_S, nwM σ (nI (all + 1)) (nI (P.1.2.2 + 1)) = some σ1 ∧ isM σ1 σ.2.1 all P.1.2.2 (fun _ _ => 0) ∧ (σ1.2.1 = σ.2.1 + 1 + (all + 1) ∧ σ1.2.2 = σ.2.2 + (all + 1) + (all + 1) * (P.1.2.2 + 1)) ∧ ∀ q, q < σ.2.1 → σ1.1 q = σ.1 q := by
    refine ⟨(fun q => if q = σ.2.1 then some (true, .inl (.array .int, all + 1, .inr (.inr (.inr (.inr (fun j => if j < all + 1 then some (σ.2.1 + 1 + j) else none)))))) else if σ.2.1 < q ∧ q ≤ σ.2.1 + (all + 1) then some (true, .inl (.int, P.1.2.2 + 1, .inl (fun _ => 0))) else σ.1 q, σ.2.1 + 1 + (all + 1), σ.2.2 + (all + 1) + (all + 1) * (P.1.2.2 + 1)), ?_, ⟨?_, fun j hj => ⟨fun _ => 0, ?_, fun _ _ => rfl⟩⟩, ⟨rfl, rfl⟩, fun q hq => ?_⟩
    · unfold nwM
      rw [nI_clamp (show all + 1 < 2 ^ 31 by omega), nI_clamp (show P.1.2.2 + 1 < 2 ^ 31 by omega), if_neg (by
        intro h
        rcases h with h | h | h | h
        · exact nI_pos (by omega) h
        · exact nI_pos (by omega) h
        · omega
        · omega)]
    · dsimp only
      rw [if_pos rfl]
    · dsimp only
      rw [if_neg (by omega), if_pos (by omega)]
    · dsimp only
      rw [if_neg (by omega), if_neg (by omega)]
  obtain ⟨s1, M1, z1, k1⟩ := hσ1
  have hl := Q.lt
  have B1 : hB x0 h0 pa va ca P R lo σ1 := ⟨Q.1.up Q.dm hl.1 hl.2.1 k1, Q.co.ke fun q h1 h2 => k1 q (by omega), (gR_eq (k1 x0 hl.2.1)).trans Q.gc⟩
  obtain ⟨σ2, X2, s2, B2, M2, f2, x2⟩ := K_harm_l Q.dm hl Q.inv h10 ha ha2 all 1 NN σ1 _ B1 M1 (by omega) (fun j q hj _ _ => by
    obtain rfl : j = 0 := by omega
    rw [hd_eq, if_pos rfl]) (by omega) (by unfold NN; omega)
  refine ⟨σ2, X2, ?_, B2, M2, ⟨?_, fun q hq _ => ?_⟩, x2⟩
  · unfold KX1_harms
    simp only [ev_pa Q.1, ev_cr Q.1, nI_add, s1, s2, bdS]
  · have e := f2.1
    have m1 : (all + 1) * (P.1.2.2 + 1) ≤ 1024 * 11 := Nat.mul_le_mul (by omega) (by omega)
    rw [e, z1.1, z1.2]
    omega
  · rw [f2.2 q (fun h => by have h : σ.2.1 ≤ q := h; omega)]
    exact k1 q hq
end HW
