/-! the plain law: what is asked of now; sets of crates -/
set_option maxRecDepth 100000
/-- without those of another set -/
def dif (s a : Nat) : Nat := s &&& (s ^^^ a)
theorem dif_tb (s a j : Nat) : (dif s a).testBit j = (s.testBit j && !a.testBit j) := by
  unfold dif
  rw [Nat.testBit_and, Nat.testBit_xor]
  cases s.testBit j <;> cases a.testBit j <;> rfl
theorem dif_le (s a : Nat) : dif s a ≤ s := Nat.and_le_left
theorem m1_bv : (-1 : Int32).toBitVec = BitVec.allOnes 32 := by decide
theorem dif_e (s a : Nat) : nI s &&& (nI a ^^^ (-1)) = nI (dif s a) := by
  apply Int32.toBitVec_inj.mp
  rw [Int32.toBitVec_and, Int32.toBitVec_xor, m1_bv]
  show BitVec.ofNat 32 s &&& (BitVec.ofNat 32 a ^^^ BitVec.allOnes 32) = BitVec.ofNat 32 (dif s a)
  apply BitVec.eq_of_getLsbD_eq
  intro j hj
  rw [BitVec.getLsbD_and, BitVec.getLsbD_xor, BitVec.getLsbD_allOnes, BitVec.getLsbD_ofNat, BitVec.getLsbD_ofNat, BitVec.getLsbD_ofNat, dif_tb, decide_eq_true hj]
  cases s.testBit j <;> cases a.testBit j <;> rfl
theorem dif_0 {s a : Nat} (hs : s < 2 ^ 31) : nI s &&& (nI a ^^^ (-1)) = 0 ↔ dif s a = 0 := by
  rw [dif_e, ← nI_0]
  exact nI_eq (Nat.lt_of_le_of_lt (dif_le s a) hs) (by omega)
theorem dif_sub {s a : Nat} : dif s a = 0 ↔ ∀ k, s.testBit k = true → a.testBit k = true := by
  constructor
  · intro h k hk
    have h1 := dif_tb s a k
    rw [h, Nat.zero_testBit, hk] at h1
    cases h2 : a.testBit k
    · rw [h2] at h1; cases h1
    · rfl
  · intro h
    apply Nat.eq_of_testBit_eq
    intro k
    rw [dif_tb, Nat.zero_testBit]
    cases h1 : s.testBit k
    · rfl
    · rw [h k h1]; rfl
theorem dif_lt {s a : Nat} (h : dif s a = 0) : s ≤ a := by
  have h1 : s &&& a = s := by
    apply Nat.eq_of_testBit_eq
    intro k
    rw [Nat.testBit_and]
    cases h2 : s.testBit k
    · rfl
    · rw [dif_sub.mp h k h2]; rfl
  rw [← h1]
  exact Nat.and_le_right
theorem and_m1 (a : Nat) : nI a &&& (-1) = nI a := by
  apply Int32.toBitVec_inj.mp
  rw [Int32.toBitVec_and, m1_bv, BitVec.and_allOnes]
theorem lp_add {α : Type} {f : Nat → α → α} : ∀ (c d i : Nat) (x : α), lp f (c + d) i x = lp f d (i + c) (lp f c i x) := by
  intro c
  induction c with
  | zero => intro d i x; rw [Nat.zero_add]; rfl
  | succ c ih =>
    intro d i x
    rw [show c + 1 + d = (c + d) + 1 by omega, show i + (c + 1) = i + 1 + c by omega]
    exact ih d (i + 1) (f i x)
theorem lp_id {α : Type} {f : Nat → α → α} : ∀ (c i : Nat) (x : α), (∀ k, i ≤ k → k < i + c → ∀ y, f k y = y) → lp f c i x = x := by
  intro c
  induction c with
  | zero => intro i x _; rfl
  | succ c ih =>
    intro i x h
    show lp f c (i + 1) (f i x) = x
    rw [h i (Nat.le_refl _) (by omega)]
    exact ih (i + 1) x fun k h1 h2 => h k (by omega) (by omega)
theorem lp_inv {α : Type} {f : Nat → α → α} {p : α → Prop} : ∀ (c i : Nat) (x : α), p x → (∀ k, i ≤ k → k < i + c → ∀ y, p y → p (f k y)) → p (lp f c i x) := by
  intro c
  induction c with
  | zero => intro i x h _; exact h
  | succ c ih =>
    intro i x h hp
    exact ih (i + 1) _ (hp i (Nat.le_refl _) (by omega) x h) fun k h1 h2 => hp k (by omega) (by omega)
/-- grains of some crates of a sort -/
def grF (R : Nat → Int32) (m : Nat) (s : Int32) (k : Nat) (v : Int32) : Int32 := if m.testBit k = true then (if R (35 + k) = s then v + R (25 + k) else v) else v
def grI (P : pvT) (R : Nat → Int32) (m : Nat) (s : Int32) : Int32 := lp (grF R m s) P.1.2.2 0 (nI 0)
theorem rng_ne {x : Int32} {m j : Nat} (h : x < nI 0 ∨ nI m < x) (hj : j ≤ m) (hm : m < 2 ^ 30) : ¬ x = nI j := by
  intro e
  have ej := ti_n (n := j) (by omega)
  have em := ti_n (n := m) (by omega)
  have e0 := ti_n (n := 0) (by omega)
  rw [e, ti_lt, ti_lt, ej, em, e0] at h
  omega
theorem nI_nn {a b : Nat} (h : a ≠ b) (ha : a < 2 ^ 31) (hb : b < 2 ^ 31) : ¬ nI a = nI b := fun e => h ((nI_eq ha hb).mp e)
section QE
variable {σ : vv_S} {T : tw_T} {x0 pa va ca a : Nat} {h0 : Nat → Option vv_E} {P : pvT} {R : Nat → Int32} {lo : Int32}
theorem gr_b (hI : invR P R) (m : Nat) (s : Int32) : ∀ (c i g : Nat), i + c ≤ 10 → g ≤ 99 * i → ∃ g', g' ≤ 99 * (i + c) ∧ lp (grF R m s) c i (nI g) = nI g' := by
  intro c
  induction c with
  | zero => intro i g _ hg; exact ⟨g, hg, rfl⟩
  | succ c ih =>
    intro i g hi hg
    have hst : ∃ g1, g1 ≤ 99 * (i + 1) ∧ grF R m s i (nI g) = nI g1 := by
      unfold grF
      split
      · split
        · obtain ⟨q, hq, e⟩ := rI_n (m := 99) (hI.2 i (by omega)).1
          exact ⟨g + q, by omega, by rw [e, nI_add]⟩
        · exact ⟨g, by omega, rfl⟩
      · exact ⟨g, by omega, rfl⟩
    obtain ⟨g1, h1, e1⟩ := hst
    obtain ⟨g2, h2, e2⟩ := ih (i + 1) g1 (by omega) h1
    refine ⟨g2, by rw [show i + (c + 1) = i + 1 + c by omega]; exact h2, ?_⟩
    show lp (grF R m s) c (i + 1) (grF R m s i (nI g)) = _
    rw [e1, e2]
theorem gr_bound (hI : invR P R) (h10 : P.1.2.2 ≤ 10) (m : Nat) (s : Int32) : ∃ g, g ≤ 990 ∧ grI P R m s = nI g := by
  obtain ⟨g, h1, h2⟩ := gr_b hI m s P.1.2.2 0 0 (by omega) (by omega)
  exact ⟨g, by omega, h2⟩
theorem K_grains_loop (H : isEnv σ x0 h0 pa va P) (h : isCo σ x0 ca R lo) (hx : gR σ x0 0 2 = some ca) {m : Nat} (hm : m < 2 ^ 31) (s : Int32) : ∀ (c i n : Nat) (v : Int32), i + c = P.1.2.2 → c < n → KX1_grains_5 n x0 (nI m) s v (nI i) σ = some (lp (grF R m s) c i v) := by
  have h10 := ev_10 H
  intro c
  induction c with
  | zero =>
    intro i n v hi hn
    obtain ⟨n, rfl⟩ : ∃ m, n = m + 1 := ⟨n - 1, by omega⟩
    show BKX1_grains_5 (KX1_grains_5 n) x0 (nI m) s v (nI i) σ = _
    unfold BKX1_grains_5
    simp only [ev_pa H, ev_cr H, bdS]
    rw [if_pos (nI_le (by omega) (by omega))]
    rfl
  | succ c ih =>
    intro i n v hi hn
    obtain ⟨n, rfl⟩ : ∃ m, n = m + 1 := ⟨n - 1, by omega⟩
    show BKX1_grains_5 (KX1_grains_5 n) x0 (nI m) s v (nI i) σ = some (lp (grF R m s) c (i + 1) (grF R m s i v))
    unfold BKX1_grains_5 KX1_grains_53
    have k4 : aI σ .int (ca + 1 + 4) (nI i) = some (R (35 + i)) := co_aI h (j := 4) (by decide) (show i < 10 by omega)
    have k3 : aI σ .int (ca + 1 + 3) (nI i) = some (R (25 + i)) := co_aI h (j := 3) (by decide) (show i < 10 by omega)
    simp only [ev_pa H, ev_cr H, bdS, K_isOf hm (show i < 31 by omega), hx, co_R h (j := 4) (by decide), co_R h (j := 3) (by decide), k3, k4]
    rw [if_neg (nI_ge (show i < P.1.2.2 by omega) (by omega)), nI_add]
    unfold grF
    by_cases hb : m.testBit i = true
    · rw [if_pos hb, if_neg s1_ne, if_pos hb]
      by_cases hs : R (35 + i) = s
      · rw [if_pos hs, if_pos hs]; exact ih (i + 1) n _ (by omega) (by omega)
      · rw [if_neg hs, if_neg hs]; exact ih (i + 1) n _ (by omega) (by omega)
    · rw [if_neg hb, if_pos nI_0, if_neg hb]
      exact ih (i + 1) n _ (by omega) (by omega)
theorem K_grains (H : isEnv σ x0 h0 pa va P) (h : isCo σ x0 ca R lo) (hx : gR σ x0 0 2 = some ca) {m : Nat} (hm : m < 2 ^ 31) (s : Int32) : KX1_grains x0 (nI m) s σ = some (grI P R m s) := K_grains_loop H h hx hm s P.1.2.2 0 NN _ (by omega) (by have := ev_10 H; unfold NN; omega)
theorem J_grains_loop (h : isRw T 0 R) (hP : isTp T P) (h10 : P.1.2.2 ≤ 10) {m : Nat} (hm : m < 2 ^ 31) (s : Int32) : ∀ (c i n : Nat) (v : Int32), i + c = P.1.2.2 → c < n → J_grainsOf_5 n (nI m) s v (nI i) T = some (lp (grF R m s) c i v, T) := by
  intro c
  induction c with
  | zero =>
    intro i n v hi hn
    obtain ⟨n, rfl⟩ : ∃ m, n = m + 1 := ⟨n - 1, by omega⟩
    show B_grainsOf_5 (J_grainsOf_5 n) (nI m) s v (nI i) T = _
    unfold B_grainsOf_5
    rw [hP.2.2.1, if_pos (nI_le (by omega) (by omega))]
    rfl
  | succ c ih =>
    intro i n v hi hn
    obtain ⟨n, rfl⟩ : ∃ m, n = m + 1 := ⟨n - 1, by omega⟩
    show B_grainsOf_5 (J_grainsOf_5 n) (nI m) s v (nI i) T = some (lp (grF R m s) c (i + 1) (grF R m s i v), T)
    unfold B_grainsOf_5 J_grainsOf_52 J_grainsOf_53
    rw [hP.2.2.1, if_neg (nI_ge (show i < P.1.2.2 by omega) (by omega)), bt_tst hm (show i < 31 by omega), nI_add, nI_add, nI_add, rd0 h (show 35 + i < 85 by omega) (us_cp hP (by omega) (by omega) (by omega)), rd0 h (show 25 + i < 85 by omega) (us_cp hP (by omega) (by omega) (by omega))]
    simp only [bdS]
    have e0 : ∀ v : Int32, v + nI 0 = v := fun v => by rw [nI_0]; exact Int32.add_zero v
    unfold grF
    by_cases hb : m.testBit i = true
    · rw [if_pos hb, if_pos rfl, if_pos hb]
      by_cases hs : R (35 + i) = s
      · rw [if_pos hs, if_pos hs]; exact ih (i + 1) n _ (by omega) (by omega)
      · rw [if_neg hs, if_neg hs, e0]; exact ih (i + 1) n _ (by omega) (by omega)
    · rw [if_neg hb, if_neg (by decide), if_neg hb, e0]
      exact ih (i + 1) n _ (by omega) (by omega)
theorem J_grains_e (h : isRw T 0 R) (hP : isTp T P) (h10 : P.1.2.2 ≤ 10) {m : Nat} (hm : m < 2 ^ 31) (s : Int32) : J_grainsOf (nI m) s T = some (grI P R m s, T) := J_grains_loop h hP h10 hm s P.1.2.2 0 NN _ (by omega) (by unfold NN; omega)
theorem K_hasB_loop (H : isEnv σ x0 h0 pa va P) (h : isCo σ x0 ca R lo) (hx : gR σ x0 0 2 = some ca) {m : Nat} (hm : m < 2 ^ 31) : ∀ (c i n : Nat), i + c = P.1.2.2 → c < n → ((∃ k, i ≤ k ∧ k < P.1.2.2 ∧ m.testBit k = true ∧ R (35 + k) = nI 1) ∧ KX1_hasBallast_2 n x0 (nI m) (nI i) σ = some (nI 1)) ∨ ((∀ k, i ≤ k → k < P.1.2.2 → m.testBit k = true → R (35 + k) ≠ nI 1) ∧ KX1_hasBallast_2 n x0 (nI m) (nI i) σ = some (nI 0)) := by
  have h10 := ev_10 H
  intro c
  induction c with
  | zero =>
    intro i n hi hn
    obtain ⟨n, rfl⟩ : ∃ m, n = m + 1 := ⟨n - 1, by omega⟩
    refine Or.inr ⟨fun k h1 h2 => by omega, ?_⟩
    show BKX1_hasBallast_2 (KX1_hasBallast_2 n) x0 (nI m) (nI i) σ = _
    unfold BKX1_hasBallast_2
    simp only [ev_pa H, ev_cr H, bdS]
    rw [if_pos (nI_le (by omega) (by omega))]
  | succ c ih =>
    intro i n hi hn
    obtain ⟨n, rfl⟩ : ∃ m, n = m + 1 := ⟨n - 1, by omega⟩
    have k4 : aI σ .int (ca + 1 + 4) (nI i) = some (R (35 + i)) := co_aI h (j := 4) (by decide) (show i < 10 by omega)
    have hs : KX1_hasBallast_2 (n + 1) x0 (nI m) (nI i) σ = if m.testBit i = true ∧ R (35 + i) = nI 1 then some (nI 1) else KX1_hasBallast_2 n x0 (nI m) (nI (i + 1)) σ := by
      show BKX1_hasBallast_2 (KX1_hasBallast_2 n) x0 (nI m) (nI i) σ = _
      unfold BKX1_hasBallast_2 KX1_hasBallast_36
      simp only [ev_pa H, ev_cr H, bdS, K_isOf hm (show i < 31 by omega), hx, co_R h (j := 4) (by decide), k4]
      rw [if_neg (nI_ge (show i < P.1.2.2 by omega) (by omega)), nI_add]
      by_cases hb : m.testBit i = true
      · rw [if_pos hb, if_neg s1_ne]
        by_cases h1 : R (35 + i) = nI 1
        · rw [if_pos h1, if_pos ⟨hb, h1⟩]
        · rw [if_neg h1, if_neg (fun z => h1 z.2)]
      · rw [if_neg hb, if_pos nI_0, if_neg (fun z => hb z.1)]
    rw [hs]
    by_cases hc : m.testBit i = true ∧ R (35 + i) = nI 1
    · rw [if_pos hc]
      exact Or.inl ⟨⟨i, Nat.le_refl _, by omega, hc.1, hc.2⟩, rfl⟩
    · rw [if_neg hc]
      rcases ih (i + 1) n (by omega) (by omega) with ⟨⟨k, a1, a2, a3, a4⟩, e⟩ | ⟨a1, e⟩
      · exact Or.inl ⟨⟨k, by omega, a2, a3, a4⟩, e⟩
      · refine Or.inr ⟨fun k b1 b2 b3 b4 => ?_, e⟩
        by_cases hk : k = i
        · subst hk; exact hc ⟨b3, b4⟩
        · exact a1 k (by omega) b2 b3 b4
theorem K_hasB (H : isEnv σ x0 h0 pa va P) (h : isCo σ x0 ca R lo) (hx : gR σ x0 0 2 = some ca) {m : Nat} (hm : m < 2 ^ 31) : ((∃ k, k < P.1.2.2 ∧ m.testBit k = true ∧ R (35 + k) = nI 1) ∧ KX1_hasBallast x0 (nI m) σ = some (nI 1)) ∨ ((∀ k, k < P.1.2.2 → m.testBit k = true → R (35 + k) ≠ nI 1) ∧ KX1_hasBallast x0 (nI m) σ = some (nI 0)) := by
  rcases K_hasB_loop H h hx hm P.1.2.2 0 NN (by omega) (by have := ev_10 H; unfold NN; omega) with ⟨⟨k, a1, a2, a3, a4⟩, e⟩ | ⟨a1, e⟩
  · exact Or.inl ⟨⟨k, a2, a3, a4⟩, e⟩
  · exact Or.inr ⟨fun k b1 b2 => a1 k (by omega) b1 b2, e⟩
theorem K_fewer {s b : Nat} : KX1_isFewer (nI s) (nI b) = some (if bcI (nI b) ≤ bcI (nI s) then nI 0 else nI 1) := by
  unfold KX1_isFewer KX1_isFewer_16
  have e : ∀ x : Int32, KJ14_bitCount x = some (bcI x) := fun _ => rfl
  simp only [e, zr0, zr1, bdS]
  split <;> rfl
/-! the thief -/
def gN (P : pvT) (R : Nat → Int32) (m : Nat) : Nat := (grI P R m (nI 0)).toInt.toNat
theorem gN_e (hI : invR P R) (h10 : P.1.2.2 ≤ 10) (m : Nat) : gN P R m ≤ 990 ∧ grI P R m (nI 0) = nI (gN P R m) := by
  obtain ⟨g, h1, h2⟩ := gr_bound hI h10 m (nI 0)
  have e : gN P R m = g := by
    unfold gN
    rw [h2, ti_n (by omega)]
    exact Int.toNat_natCast g
  rw [e]
  exact ⟨h1, h2⟩
def thS (P : pvT) (R : Nat → Int32) (m1 G : Nat) (s b : Nat) : Nat := if dif s m1 = 0 ∧ gN P R s ≤ G ∧ (gN P R b < gN P R s ∨ gN P R s = gN P R b ∧ ¬ bcI (nI b) ≤ bcI (nI s)) then s else b
theorem thS_lt {m1 G s b : Nat} (hs : s < 1024) (hb : b < 1024) : thS P R m1 G s b < 1024 := by
  unfold thS
  split <;> assumption
theorem K_thief_loop (H : isEnv σ x0 h0 pa va P) (h : isCo σ x0 ca R lo) (hx : gR σ x0 0 2 = some ca) (hI : invR P R) {m m1 G : Nat} (hm : m < 1024) (hG : G ≤ 999) (hm1 : ∀ s, s < 1024 → (dif s m1 = 0 ↔ dif s m = 0 ∧ ∀ k, k < P.1.2.2 → s.testBit k = true → R (35 + k) ≠ nI 1)) : ∀ (c s n b : Nat), b < 1024 → s + c = m + 1 → c < n → KX1_thief_31 n x0 (nI G) (nI m) (nI b) (nI s) σ = some (.inl (nI (lp (thS P R m1 G) c s b), σ)) := by
  have h10 := ev_10 H
  intro c
  induction c with
  | zero =>
    intro s n b hb hi hn
    obtain ⟨n, rfl⟩ : ∃ m, n = m + 1 := ⟨n - 1, by omega⟩
    show BKX1_thief_31 (KX1_thief_31 n) x0 (nI G) (nI m) (nI b) (nI s) σ = _
    unfold BKX1_thief_31
    rw [if_pos (nI_lt (by omega) (by omega))]
    rfl
  | succ c ih =>
    intro s n b hb hi hn
    obtain ⟨n, rfl⟩ : ∃ m, n = m + 1 := ⟨n - 1, by omega⟩
    show BKX1_thief_31 (KX1_thief_31 n) x0 (nI G) (nI m) (nI b) (nI s) σ = some (.inl (nI (lp (thS P R m1 G) c (s + 1) (thS P R m1 G s b)), σ))
    unfold BKX1_thief_31 KX1_thief_107 KX1_thief_111
    obtain ⟨g1, g2⟩ := gN_e hI h10 s
    obtain ⟨b1, b2⟩ := gN_e hI h10 b
    have ks := K_grains H h hx (show s < 2 ^ 31 by omega) (nI 0)
    have kb := K_grains H h hx (show b < 2 ^ 31 by omega) (nI 0)
    rw [g2] at ks
    rw [b2] at kb
    rw [if_neg (nI_nlt (show s ≤ m by omega) (by omega)), nI_add]
    simp only [ev_x H, ks, kb, K_fewer, bdS]
    have no : ¬ (dif s m1 = 0 ∧ gN P R s ≤ G ∧ (gN P R b < gN P R s ∨ gN P R s = gN P R b ∧ ¬ bcI (nI b) ≤ bcI (nI s))) → KX1_thief_31 n x0 (nI G) (nI m) (nI b) (nI (s + 1)) σ = some (.inl (nI (lp (thS P R m1 G) c (s + 1) (thS P R m1 G s b)), σ)) := by
      intro hno
      rw [show thS P R m1 G s b = b by unfold thS; rw [if_neg hno]]
      exact ih (s + 1) n b hb (by omega) (by omega)
    have yes : (dif s m1 = 0 ∧ gN P R s ≤ G ∧ (gN P R b < gN P R s ∨ gN P R s = gN P R b ∧ ¬ bcI (nI b) ≤ bcI (nI s))) → KX1_thief_31 n x0 (nI G) (nI m) (nI s) (nI (s + 1)) σ = some (.inl (nI (lp (thS P R m1 G) c (s + 1) (thS P R m1 G s b)), σ)) := by
      intro hno
      rw [show thS P R m1 G s b = s by unfold thS; rw [if_pos hno]]
      exact ih (s + 1) n s (by omega) (by omega) (by omega)
    by_cases hd : dif s m = 0
    · rw [if_pos ((dif_0 (by omega)).mpr hd)]
      rcases K_hasB H h hx (m := s) (by omega) with ⟨⟨k, a1, a2, a3⟩, e⟩ | ⟨a1, e⟩
      · simp only [e, bdS]
        rw [if_neg s1_ne]
        exact no fun z => ((hm1 s (by omega)).mp z.1).2 k a1 a2 a3
      · simp only [e, bdS]
        rw [if_pos nI_0]
        have hd1 : dif s m1 = 0 := (hm1 s (by omega)).mpr ⟨hd, a1⟩
        by_cases c1 : G < gN P R s
        · rw [if_pos (nI_lt c1 (by omega))]
          exact no fun z => by omega
        · rw [if_neg (nI_nlt (by omega) (by omega))]
          by_cases c2 : gN P R b ≤ gN P R s
          · rw [if_pos (nI_le c2 (by omega))]
            by_cases c3 : gN P R b < gN P R s
            · rw [if_pos (nI_lt c3 (by omega))]
              exact yes ⟨hd1, by omega, Or.inl c3⟩
            · rw [if_neg (nI_nlt (by omega) (by omega))]
              by_cases c4 : bcI (nI b) ≤ bcI (nI s)
              · rw [if_pos c4, if_pos nI_0]
                exact no fun z => z.2.2.elim (fun h => by omega) (fun h => h.2 c4)
              · rw [if_neg c4, if_neg s1_ne]
                exact yes ⟨hd1, by omega, Or.inr ⟨by omega, c4⟩⟩
          · rw [if_neg (nI_ge (by omega) (by omega))]
            exact no fun z => by omega
    · rw [if_neg (fun z => hd ((dif_0 (by omega)).mp z))]
      exact no fun z => hd ((hm1 s (by omega)).mp z.1).1
theorem J_thief_loop (h : isRw T 0 R) (hP : isTp T P) (h10 : P.1.2.2 ≤ 10) (hI : invR P R) {m1 G : Nat} (hm : m1 < 1024) (hG : G ≤ 999) : ∀ (c s n b : Nat), b < 1024 → s + c = m1 + 1 → c < n → J_thief_89 n (nI G) (nI m1) (nI b) (nI s) T = some (nI (lp (thS P R m1 G) c s b), T) := by
  intro c
  induction c with
  | zero =>
    intro s n b hb hi hn
    obtain ⟨n, rfl⟩ : ∃ m, n = m + 1 := ⟨n - 1, by omega⟩
    show B_thief_89 (J_thief_89 n) (nI G) (nI m1) (nI b) (nI s) T = _
    unfold B_thief_89
    rw [if_pos (nI_lt (by omega) (by omega))]
    rfl
  | succ c ih =>
    intro s n b hb hi hn
    obtain ⟨n, rfl⟩ : ∃ m, n = m + 1 := ⟨n - 1, by omega⟩
    show B_thief_89 (J_thief_89 n) (nI G) (nI m1) (nI b) (nI s) T = some (nI (lp (thS P R m1 G) c (s + 1) (thS P R m1 G s b)), T)
    unfold B_thief_89 J_thief_158 J_thief_163 J_thief_165 J_thief_167
    obtain ⟨g1, g2⟩ := gN_e hI h10 s
    obtain ⟨b1, b2⟩ := gN_e hI h10 b
    have ks := J_grains_e h hP h10 (show s < 2 ^ 31 by omega) (nI 0)
    have kb := J_grains_e h hP h10 (show b < 2 ^ 31 by omega) (nI 0)
    rw [g2] at ks
    rw [b2] at kb
    rw [if_neg (nI_nlt (show s ≤ m1 by omega) (by omega)), nI_add]
    simp only [ks, kb, bits_all s (by omega), bits_all b hb, bdS]
    have e1 := ti_n (n := gN P R s) (by omega)
    have e2 := ti_n (n := gN P R b) (by omega)
    have ed : (nI (gN P R s) - nI (gN P R b)).toInt = (gN P R s : Int) - gN P R b := by rw [ti_sub (by rw [e1, e2]; omega) (by rw [e1, e2]; omega), e1, e2]
    have no : ¬ (dif s m1 = 0 ∧ gN P R s ≤ G ∧ (gN P R b < gN P R s ∨ gN P R s = gN P R b ∧ ¬ bcI (nI b) ≤ bcI (nI s))) → J_thief_89 n (nI G) (nI m1) (nI b) (nI (s + 1)) T = some (nI (lp (thS P R m1 G) c (s + 1) (thS P R m1 G s b)), T) := by
      intro hno
      rw [show thS P R m1 G s b = b by unfold thS; rw [if_neg hno]]
      exact ih (s + 1) n b hb (by omega) (by omega)
    have yes : (dif s m1 = 0 ∧ gN P R s ≤ G ∧ (gN P R b < gN P R s ∨ gN P R s = gN P R b ∧ ¬ bcI (nI b) ≤ bcI (nI s))) → J_thief_89 n (nI G) (nI m1) (nI s) (nI (s + 1)) T = some (nI (lp (thS P R m1 G) c (s + 1) (thS P R m1 G s b)), T) := by
      intro hno
      rw [show thS P R m1 G s b = s by unfold thS; rw [if_pos hno]]
      exact ih (s + 1) n s (by omega) (by omega) (by omega)
    by_cases hd : dif s m1 = 0
    · rw [if_pos ((dif_0 (by omega)).mpr hd)]
      by_cases c1 : gN P R s ≤ G
      · rw [if_pos (nI_le c1 (by omega))]
        by_cases c2 : gN P R b < gN P R s
        · rw [if_pos (by rw [ti_lt, ed, ti_0]; omega)]
          exact yes ⟨hd, c1, Or.inl c2⟩
        · rw [if_neg (by rw [ti_lt, ed, ti_0]; omega)]
          by_cases c3 : gN P R s = gN P R b
          · rw [if_pos (ti_eq (by rw [ed, ti_0]; omega))]
            by_cases c4 : bcI (nI b) ≤ bcI (nI s)
            · rw [if_pos c4]
              exact no fun z => z.2.2.elim (fun h => by omega) (fun h => h.2 c4)
            · rw [if_neg c4]
              exact yes ⟨hd, c1, Or.inr ⟨c3, c4⟩⟩
          · rw [if_neg (fun z => by have h9 := congrArg Int32.toInt z; rw [ed, ti_0] at h9; omega)]
            exact no fun z => z.2.2.elim (fun h => by omega) (fun h => c3 h.1)
      · rw [if_neg (nI_ge (by omega) (by omega))]
        exact no fun z => c1 z.2.1
    · rw [if_neg (fun z => hd ((dif_0 (by omega)).mp z))]
      exact no fun z => hd z.1
theorem J_thief_all (h : isRw T 0 R) (hP : isTp T P) (h10 : P.1.2.2 ≤ 10) (G : Int32) : ∀ (c i n m : Nat), m < 1024 → i + c = P.1.2.2 → c < n → ∃ m', m' ≤ m ∧ (∀ j, m'.testBit j = (m.testBit j && !(decide (i ≤ j ∧ j < P.1.2.2 ∧ R (35 + j) = nI 1)))) ∧ J_thief_41 n G (nI m) (nI i) T = J_thief_89 NN G (nI m') (nI 0) (nI 0) T := by
  intro c
  induction c with
  | zero =>
    intro i n m hm hi hn
    obtain ⟨n, rfl⟩ : ∃ m, n = m + 1 := ⟨n - 1, by omega⟩
    refine ⟨m, Nat.le_refl _, fun j => ?_, ?_⟩
    · rw [decide_eq_false (by omega)]; simp
    · show B_thief_41 (J_thief_41 n) G (nI m) (nI i) T = _
      unfold B_thief_41
      rw [hP.2.2.1, if_pos (nI_le (by omega) (by omega))]
  | succ c ih =>
    intro i n m hm hi hn
    obtain ⟨n, rfl⟩ : ∃ m, n = m + 1 := ⟨n - 1, by omega⟩
    have hs : J_thief_41 (n + 1) G (nI m) (nI i) T = J_thief_41 n G (nI (if R (35 + i) = nI 1 then dif m (2 ^ i) else m)) (nI (i + 1)) T := by
      show B_thief_41 (J_thief_41 n) G (nI m) (nI i) T = _
      unfold B_thief_41 J_thief_75
      rw [hP.2.2.1, if_neg (nI_ge (show i < P.1.2.2 by omega) (by omega)), nI_add, nI_add, rd0 h (show 35 + i < 85 by omega) (us_cp hP (by omega) (by omega) (by omega)), bt_shl (show i < 31 by omega), dif_e, and_m1]
      simp only [bdS]
      split <;> rfl
    rw [hs]
    by_cases hb : R (35 + i) = nI 1
    · rw [if_pos hb]
      obtain ⟨m', h1, h2, h3⟩ := ih (i + 1) n (dif m (2 ^ i)) (by have := dif_le m (2 ^ i); omega) (by omega) (by omega)
      refine ⟨m', Nat.le_trans h1 (dif_le _ _), fun j => ?_, h3⟩
      rw [h2 j, dif_tb, Nat.testBit_two_pow]
      by_cases hj : i = j
      · subst hj
        rw [decide_eq_true rfl, decide_eq_false (show ¬ (i + 1 ≤ i ∧ i < P.1.2.2 ∧ R (35 + i) = nI 1) by omega), decide_eq_true (show i ≤ i ∧ i < P.1.2.2 ∧ R (35 + i) = nI 1 from ⟨Nat.le_refl _, by omega, hb⟩)]
        cases m.testBit i <;> rfl
      · rw [decide_eq_false hj, show (decide (i + 1 ≤ j ∧ j < P.1.2.2 ∧ R (35 + j) = nI 1)) = (decide (i ≤ j ∧ j < P.1.2.2 ∧ R (35 + j) = nI 1)) from decide_eq_decide.mpr ⟨fun z => ⟨by omega, z.2⟩, fun z => ⟨by omega, z.2⟩⟩]
        cases m.testBit j <;> rfl
    · rw [if_neg hb]
      obtain ⟨m', h1, h2, h3⟩ := ih (i + 1) n m hm (by omega) (by omega)
      refine ⟨m', h1, fun j => ?_, h3⟩
      rw [h2 j]
      by_cases hj : i = j
      · subst hj
        rw [decide_eq_false (show ¬ (i + 1 ≤ i ∧ i < P.1.2.2 ∧ R (35 + i) = nI 1) by omega), decide_eq_false (show ¬ (i ≤ i ∧ i < P.1.2.2 ∧ R (35 + i) = nI 1) from fun z => hb z.2.2)]
      · rw [show (decide (i + 1 ≤ j ∧ j < P.1.2.2 ∧ R (35 + j) = nI 1)) = (decide (i ≤ j ∧ j < P.1.2.2 ∧ R (35 + j) = nI 1)) from decide_eq_decide.mpr ⟨fun z => ⟨by omega, z.2⟩, fun z => ⟨by omega, z.2⟩⟩]
theorem jq.t0' {T : tw_T} {c : Int32} : jq T (tw_F T 0 c) := jq.t0
theorem o_thief (Q : isQ x0 h0 pa va ca P R lo σ T) (x1 x2 : Int32) : ans va 20 200 [(nse, nI 1), (iae, nI 2)] σ T (KX1_thief x0 x1 x2 σ) (J_thief x1 x2 T) := by
  obtain ⟨T0, e0, Q0, hz, f0⟩ := Q.z
  unfold KX1_thief J_thief J_thief_29
  simp only [e0, bdS, ev_x Q0.1]
  rcases g_town Q0.1 Q0.tp hz x1 with ⟨t, ht, rfl, k1, j1⟩ | ⟨k1, j1⟩
  · rcases g_in (T := T0) hz x2 (a := 0) (b := 999) (by omega) (by omega) (c := nI 2) (by decide) with ⟨G, -, hG, rfl, k2, j2⟩ | ⟨k2, j2⟩
    · have h8 := ev_8 Q0.1
      have h10 := ev_10 Q0.1
      obtain ⟨m, hm, em⟩ := ly_small (P := P) (R := R) (w := nI t) h10
      have kl : KX3_lying ca (nI t) σ = some (nI m) := by rw [← em]; exact K_lying Q0.1 Q0.co (nI t)
      have jl : J_lyingIn (nI 0) (nI t) T0 = some (nI m, T0) := by rw [← em]; exact J_lying_e Q0.rw (by omega) Q0.tp h10 (nI_m1 (by omega))
      obtain ⟨m1, a1, a2, a3⟩ := J_thief_all Q0.rw Q0.tp h10 (nI G) P.1.2.2 0 NN m hm (by omega) (by unfold NN; omega)
      have hm1 : ∀ s, s < 1024 → (dif s m1 = 0 ↔ dif s m = 0 ∧ ∀ k, k < P.1.2.2 → s.testBit k = true → R (35 + k) ≠ nI 1) := by
        intro s _
        rw [dif_sub, dif_sub]
        constructor
        · intro h
          refine ⟨fun k hk => ?_, fun k h1 h2 h3 => ?_⟩
          · have h9 := h k hk
            rw [a2 k] at h9
            cases h5 : m.testBit k
            · rw [h5] at h9; cases h9
            · rfl
          · have h9 := h k h2
            rw [a2 k, decide_eq_true (show 0 ≤ k ∧ k < P.1.2.2 ∧ R (35 + k) = nI 1 from ⟨by omega, h1, h3⟩)] at h9
            cases h5 : m.testBit k <;> rw [h5] at h9 <;> cases h9
        · intro h k hk
          rw [a2 k, h.1 k hk, decide_eq_false (fun z => h.2 k z.2.1 hk z.2.2)]
          rfl
      have e1 := K_thief_loop Q0.1 Q0.co Q0.gc Q0.inv hm hG hm1 m 1 NN 0 (by omega) (by omega) (by unfold NN; omega)
      have e2 := J_thief_loop Q0.rw Q0.tp h10 Q0.inv (m1 := m1) (by omega) hG (m1 + 1) 0 NN 0 (by omega) (by omega) (by unfold NN; omega)
      have e3 : lp (thS P R m1 G) m 1 0 = lp (thS P R m1 G) (m1 + 1) 0 0 := by
        have s0 : thS P R m1 G 0 0 = 0 := by
          unfold thS
          split <;> rfl
        have s1 : lp (thS P R m1 G) (m1 + 1) 0 0 = lp (thS P R m1 G) m1 1 0 := by
          show lp (thS P R m1 G) m1 (0 + 1) (thS P R m1 G 0 0) = _
          rw [s0]
        rw [s1, show m = m1 + (m - m1) by omega, lp_add]
        refine lp_id _ _ _ fun k h1 h2 y => ?_
        unfold thS
        rw [if_neg (fun z => by have := dif_lt z.1; omega)]
      rw [e3] at e1
      simp only [k1, j1, k2, j2, K_right1, J_right1 hz, xbL, bdS, Q0.gc, co_o Q0.co, kl, jl, a3, e1, e2, if_neg s1_ne]
      exact ans.ok hz (fa.rf.mo (fun _ h => h) (by omega) (by omega)) Q0.1.ov f0
    · simp only [k1, j1, k2, j2, K_right0, J_right0 hz (c := nI 2) (by decide), xbL, xbR, bdS, if_neg s1_ne, if_pos nI_0]
      exact ans.th (List.mem_cons_of_mem _ (List.mem_cons_self ..)) F_s (by omega) (by omega) Q0.1.ov (f0.tr jq.t0)
  · simp only [k1, j1, xbR, bdS, if_pos nI_0]
    exact ans.th (List.mem_cons_self ..) F_s (by omega) (by omega) Q0.1.ov (f0.tr jq.t0)
/-! level -/
def offI (P : pvT) (R : Nat → Int32) (t m : Nat) : Int32 := abI (mnI (nI 9999) (R (1 + t) + grI P R m (nI 0)) - mnI (nI 9999) (R (9 + t) + grI P R m (nI 1)))
theorem K_unlevel (H : isEnv σ x0 h0 pa va P) (h : isCo σ x0 ca R lo) (hx : gR σ x0 0 2 = some ca) {m t : Nat} (hm : m < 2 ^ 31) (ht : t < 8) : KX1_unlevel x0 (nI t) (nI m) σ = some (offI P R t m) := by
  unfold KX1_unlevel offI
  have l0 : aI σ .int (ca + 1 + 0) (nI t) = some (R (1 + t)) := co_aI h (j := 0) (by decide) ht
  have l1 : aI σ .int (ca + 1 + 1) (nI t) = some (R (9 + t)) := co_aI h (j := 1) (by decide) ht
  simp only [hx, co_R h (j := 0) (by decide), co_R h (j := 1) (by decide), l0, l1, ev_x H, K_grains H h hx hm, bdS]
theorem J_offBy_e (h : isRw T 0 R) (hP : isTp T P) (h8 : P.1.1 ≤ 8) (h10 : P.1.2.2 ≤ 10) (hI : invR P R) {m t : Nat} (hm : m < 2 ^ 31) (ht1 : t < P.1.1) : J_offBy (nI t) (nI m) T = some (offI P R t m, T) := by
  have ht : t < 8 := by omega
  obtain ⟨⟨l1, l2⟩, ⟨d1, d2⟩⟩ := hI.1 t ht
  obtain ⟨g, hg, eg⟩ := gr_bound hI h10 m (nI 0)
  obtain ⟨g', hg', eg'⟩ := gr_bound hI h10 m (nI 1)
  have tg := ti_n (n := g) (by omega)
  have tg' := ti_n (n := g') (by omega)
  have t9 := ti_n (n := 9999) (by omega)
  have s1 : (R (1 + t) + nI g).toInt = (R (1 + t)).toInt + g := by rw [ti_add (by rw [tg]; omega) (by rw [tg]; omega), tg]
  have s2 : (R (9 + t) + nI g').toInt = (R (9 + t)).toInt + g' := by rw [ti_add (by rw [tg']; omega) (by rw [tg']; omega), tg']
  have a1 : (mnI (nI 9999) (R (1 + t) + nI g)).toInt = min 9999 ((R (1 + t)).toInt + g) := by rw [mn_ti, t9, s1]; rfl
  have a2 : (mnI (nI 9999) (R (9 + t) + nI g')).toInt = min 9999 ((R (9 + t)).toInt + g') := by rw [mn_ti, t9, s2]; rfl
  unfold J_offBy J_offBy_58 offI
  simp only [nI_add, rd0 h (show 1 + t < 85 by omega) (us_tp hP (by omega) (by omega) (by omega)), J_grains_e h hP h10 hm, J_kept_e, rd0 h (show 9 + t < 85 by omega) (us_tp hP (by omega) (by omega) (by omega)), bdS, eg, eg']
  rw [mn_kep (by rw [s1]; omega), mn_kep (by rw [s2]; omega)]
  have e3 : (mnI (nI 9999) (R (1 + t) + nI g) - mnI (nI 9999) (R (9 + t) + nI g')).toInt = min 9999 ((R (1 + t)).toInt + g) - min 9999 ((R (9 + t)).toInt + g') := by rw [ti_sub (by rw [a1, a2]; omega) (by rw [a1, a2]; omega), a1, a2]
  generalize mnI (nI 9999) (R (1 + t) + nI g) - mnI (nI 9999) (R (9 + t) + nI g') = d at e3
  unfold abI
  by_cases hd : (0 : Int32) ≤ d
  · rw [if_pos hd, if_pos hd]
  · rw [if_neg hd, if_neg hd, nI_0]
def lvS (P : pvT) (R : Nat → Int32) (t m : Nat) (s b : Nat) : Nat := if dif s m = 0 ∧ (0 < offI P R t b - offI P R t s ∨ offI P R t b - offI P R t s = 0 ∧ ¬ bcI (nI b) ≤ bcI (nI s)) then s else b
theorem K_level_loop (H : isEnv σ x0 h0 pa va P) (h : isCo σ x0 ca R lo) (hx : gR σ x0 0 2 = some ca) {m t : Nat} (hm : m < 1024) (ht : t < 8) : ∀ (c s n b : Nat), b < 1024 → s + c = m + 1 → c < n → KX1_level_19 n x0 (nI t) (nI m) (nI b) (nI s) σ = some (.inl (nI (lp (lvS P R t m) c s b), σ)) := by
  intro c
  induction c with
  | zero =>
    intro s n b hb hi hn
    obtain ⟨n, rfl⟩ : ∃ m, n = m + 1 := ⟨n - 1, by omega⟩
    show BKX1_level_19 (KX1_level_19 n) x0 (nI t) (nI m) (nI b) (nI s) σ = _
    unfold BKX1_level_19
    rw [if_pos (nI_lt (by omega) (by omega))]
    rfl
  | succ c ih =>
    intro s n b hb hi hn
    obtain ⟨n, rfl⟩ : ∃ m, n = m + 1 := ⟨n - 1, by omega⟩
    show BKX1_level_19 (KX1_level_19 n) x0 (nI t) (nI m) (nI b) (nI s) σ = some (.inl (nI (lp (lvS P R t m) c (s + 1) (lvS P R t m s b)), σ))
    unfold BKX1_level_19 KX1_level_72 KX1_level_75
    rw [if_neg (nI_nlt (show s ≤ m by omega) (by omega)), nI_add]
    simp only [ev_x H, K_unlevel H h hx (show s < 2 ^ 31 by omega) ht, K_unlevel H h hx (show b < 2 ^ 31 by omega) ht, K_fewer, bdS]
    unfold lvS
    by_cases hd : dif s m = 0
    · rw [if_pos ((dif_0 (by omega)).mpr hd)]
      by_cases c2 : 0 < offI P R t b - offI P R t s
      · rw [if_pos c2, if_pos ⟨hd, Or.inl c2⟩]
        exact ih (s + 1) n s (by omega) (by omega) (by omega)
      · rw [if_neg c2]
        by_cases c3 : offI P R t b - offI P R t s = 0
        · rw [if_pos c3]
          by_cases c4 : bcI (nI b) ≤ bcI (nI s)
          · rw [if_pos c4, if_pos nI_0, if_neg (fun z => z.2.elim c2 fun y => y.2 c4)]
            exact ih (s + 1) n b hb (by omega) (by omega)
          · rw [if_neg c4, if_neg s1_ne, if_pos ⟨hd, Or.inr ⟨c3, c4⟩⟩]
            exact ih (s + 1) n s (by omega) (by omega) (by omega)
        · rw [if_neg c3, if_neg (fun z => z.2.elim c2 fun y => c3 y.1)]
          exact ih (s + 1) n b hb (by omega) (by omega)
    · rw [if_neg (fun z => hd ((dif_0 (by omega)).mp z)), if_neg (fun z => hd z.1)]
      exact ih (s + 1) n b hb (by omega) (by omega)
theorem J_level_loop (h : isRw T 0 R) (hP : isTp T P) (h8 : P.1.1 ≤ 8) (h10 : P.1.2.2 ≤ 10) (hI : invR P R) {m t : Nat} (hm : m < 1024) (ht : t < P.1.1) : ∀ (c s n b : Nat), b < 1024 → s + c = m + 1 → c < n → J_level_27 n (nI t) (nI m) (nI b) (nI s) T = some (nI (lp (lvS P R t m) c s b), T) := by
  intro c
  induction c with
  | zero =>
    intro s n b hb hi hn
    obtain ⟨n, rfl⟩ : ∃ m, n = m + 1 := ⟨n - 1, by omega⟩
    show B_level_27 (J_level_27 n) (nI t) (nI m) (nI b) (nI s) T = _
    unfold B_level_27
    rw [if_pos (nI_lt (by omega) (by omega))]
    rfl
  | succ c ih =>
    intro s n b hb hi hn
    obtain ⟨n, rfl⟩ : ∃ m, n = m + 1 := ⟨n - 1, by omega⟩
    show B_level_27 (J_level_27 n) (nI t) (nI m) (nI b) (nI s) T = some (nI (lp (lvS P R t m) c (s + 1) (lvS P R t m s b)), T)
    unfold B_level_27 J_level_83 J_level_88 J_level_89 J_level_90
    rw [if_neg (nI_nlt (show s ≤ m by omega) (by omega)), nI_add]
    simp only [J_offBy_e h hP h8 h10 hI (show s < 2 ^ 31 by omega) ht, J_offBy_e h hP h8 h10 hI (show b < 2 ^ 31 by omega) ht, bits_all s (by omega), bits_all b hb, bdS]
    unfold lvS
    by_cases hd : dif s m = 0
    · rw [if_pos ((dif_0 (by omega)).mpr hd)]
      by_cases c2 : 0 < offI P R t b - offI P R t s
      · rw [if_pos c2, if_pos ⟨hd, Or.inl c2⟩]
        exact ih (s + 1) n s (by omega) (by omega) (by omega)
      · rw [if_neg c2]
        by_cases c3 : offI P R t b - offI P R t s = 0
        · rw [if_pos c3]
          by_cases c4 : bcI (nI b) ≤ bcI (nI s)
          · rw [if_pos c4, if_neg (fun z => z.2.elim c2 fun y => y.2 c4)]
            exact ih (s + 1) n b hb (by omega) (by omega)
          · rw [if_neg c4, if_pos ⟨hd, Or.inr ⟨c3, c4⟩⟩]
            exact ih (s + 1) n s (by omega) (by omega) (by omega)
        · rw [if_neg c3, if_neg (fun z => z.2.elim c2 fun y => c3 y.1)]
          exact ih (s + 1) n b hb (by omega) (by omega)
    · rw [if_neg (fun z => hd ((dif_0 (by omega)).mp z)), if_neg (fun z => hd z.1)]
      exact ih (s + 1) n b hb (by omega) (by omega)
theorem o_level (Q : isQ x0 h0 pa va ca P R lo σ T) (x1 : Int32) : ans va 20 200 [(nse, nI 1)] σ T (KX1_level x0 x1 σ) (J_level x1 T) := by
  obtain ⟨T0, e0, Q0, hz, f0⟩ := Q.z
  unfold KX1_level J_level
  simp only [e0, bdS, ev_x Q0.1]
  rcases g_town Q0.1 Q0.tp hz x1 with ⟨t, ht, rfl, k1, j1⟩ | ⟨k1, j1⟩
  · have h8 := ev_8 Q0.1
    have h10 := ev_10 Q0.1
    obtain ⟨m, hm, em⟩ := ly_small (P := P) (R := R) (w := nI t) h10
    have kl : KX3_lying ca (nI t) σ = some (nI m) := by rw [← em]; exact K_lying Q0.1 Q0.co (nI t)
    have jl : J_lyingIn (nI 0) (nI t) T0 = some (nI m, T0) := by rw [← em]; exact J_lying_e Q0.rw (by omega) Q0.tp h10 (nI_m1 (by omega))
    have e1 := K_level_loop (t := t) Q0.1 Q0.co Q0.gc hm (by omega) m 1 NN 0 (by omega) (by omega) (by unfold NN; omega)
    have e2 := J_level_loop (t := t) Q0.rw Q0.tp (ev_8 Q0.1) h10 Q0.inv hm (by omega) (m + 1) 0 NN 0 (by omega) (by omega) (by unfold NN; omega)
    have s1 : lp (lvS P R t m) (m + 1) 0 0 = lp (lvS P R t m) m 1 0 := by
      show lp (lvS P R t m) m (0 + 1) (lvS P R t m 0 0) = _
      have s0 : lvS P R t m 0 0 = 0 := by
        unfold lvS
        split <;> rfl
      rw [s0]
    rw [s1] at e2
    simp only [k1, j1, xbL, bdS, Q0.gc, co_o Q0.co, kl, jl, e1, e2, if_neg s1_ne]
    exact ans.ok hz (fa.rf.mo (fun _ h => h) (by omega) (by omega)) Q0.1.ov f0
  · simp only [k1, j1, xbR, bdS, if_pos nI_0]
    exact ans.th (List.mem_cons_self ..) F_s (by omega) (by omega) Q0.1.ov (f0.tr jq.t0)
end QE
