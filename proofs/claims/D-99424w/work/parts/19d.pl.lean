/-! the plain law: known words -/
set_option maxRecDepth 100000
def wdL : Nat → List Nat
  | 0 => [108, 117, 99, 107]
  | 1 => [98, 97, 100]
  | 2 => [115, 116, 97, 107, 101]
  | 3 => [109, 97, 107, 101, 115]
  | 4 => [100, 97, 121]
  | 5 => [99, 114, 97, 116, 101, 115]
  | 6 => [116, 111, 119, 110]
  | 7 => [119, 97, 121]
  | 8 => [99, 114, 97, 116, 101]
  | 9 => [98, 97, 108, 108, 97, 115, 116]
  | 10 => [99, 97, 116]
  | 11 => [111, 100, 100, 115]
  | 12 => [97, 110, 100]
  | 13 => [111, 114]
  | 14 => [110, 111, 116]
  | _ => []
def wn (k : Nat) : Nat := (wdL k).length
def wf (k i : Nat) : Nat := (wdL k).getD i 0
/-- where the launch has it -/
def wdA (k : Nat) : Nat := if k < 6 then 10 + k else if k = 12 then 24 else if k = 13 then 25 else if k = 14 then 23 else 11 + k
def wdK (hS : Nat → Option vv_E) (ad : Nat → Nat) : Prop := ∀ k, k < 15 → stH hS (ad (wdA k)) (wn k) (wf k)
/-- the token at b is the k-th word -/
def isW (x : txT) (b k : Nat) : Prop := kiT x b = 1 ∧ enT x b - b = wn k ∧ ∀ i, i < wn k → x.2 (b + i) = wf k i
section WO
variable {σ : vv_S} {hS : Nat → Option vv_E} {ad : Nat → Nat} {x : txT} {r p b : Nat} {c : Nat × Nat × Nat × Nat} {T : tw_T}
theorem wn_7 : ∀ k, k < 15 → wn k ≤ 7 ∧ 2 ≤ wn k := by decide
theorem wf_le : ∀ k, k < 15 → ∀ i, i < wn k → isLe (wf k i) = true := by decide
theorem w_un : ∀ k, k < 15 → ∀ j, j < 15 → wn k = wn j → (∀ i, i < wn k → wf k i = wf j i) → k = j := by decide +kernel
theorem isW.un {k j : Nat} (h1 : isW x b k) (h2 : isW x b j) (hk : k < 15) (hj : j < 15) : k = j := by
  have e : wn k = wn j := h1.2.1.symm.trans h2.2.1
  exact w_un k hk j hj e fun i hi => (h1.2.2 i hi).symm.trans (h2.2.2 i (by omega))
theorem hs_inj {f g : Nat → Nat} : ∀ (k j : Nat), (∀ i, i < k → isLe (f i) = true) → (∀ i, i < j → isLe (g i) = true) → hsT f k = hsT g j → k = j ∧ ∀ i, i < k → f i = g i := by
  intro k
  induction k with
  | zero =>
    intro j _ hg h
    cases j with
    | zero => exact ⟨rfl, fun i hi => by omega⟩
    | succ j =>
      have := le_b (hg j (by omega))
      have h : 0 = hsT g j * 32 + (g j - 96) := h
      omega
  | succ k ih =>
    intro j hf hg h
    have h1 := le_b (hf k (by omega))
    cases j with
    | zero =>
      have h : hsT f k * 32 + (f k - 96) = 0 := h
      omega
    | succ j =>
      have h2 := le_b (hg j (by omega))
      have h : hsT f k * 32 + (f k - 96) = hsT g j * 32 + (g j - 96) := h
      obtain ⟨e1, e2⟩ := ih j (fun i hi => hf i (by omega)) (fun i hi => hg i (by omega)) (by omega)
      refine ⟨by omega, fun i hi => ?_⟩
      by_cases e : i = k
      · rw [e]
        rw [e1]
        have : f k = g j := by omega
        rw [← e1]; rw [← e1] at this; exact this
      · exact e2 i (by omega)
theorem hs_eq {f g : Nat → Nat} : ∀ (k : Nat), (∀ i, i < k → f i = g i) → hsT f k = hsT g k := by
  intro k
  induction k with
  | zero => intro _; rfl
  | succ k ih =>
    intro h
    show hsT f k * 32 + (f k - 96) = hsT g k * 32 + (g k - 96)
    rw [ih fun i hi => h i (by omega), h k (by omega)]
theorem l_hs : ∀ k, k < 15 → J_letters (nI k) = some (lN (hsT (wf k) (wn k))) := by decide +kernel
theorem lg_0 {u v : Int64} : lg_cmp u v = 0 ↔ u = v := by
  unfold lg_cmp
  constructor
  · intro h
    split at h
    · exact absurd h (by decide)
    · split at h
      · assumption
      · exact absurd h (by decide)
  · intro h
    subst h
    rw [if_neg (by exact Int64.lt_irrefl), if_pos rfl]
theorem hs_b : ∀ k, k < 15 → hsT (wf k) (wn k) < 2 ^ 35 := by decide +kernel
theorem ki_le (h : kiT x b = 1) (hb : b ≤ x.1) : ∀ i, i < enT x b - b → isLe (x.2 (b + i)) = true := fun i hi => by
  have he : enT x b = ru isLe x b := by unfold enT; rw [if_neg (by omega), if_pos h]
  exact ru_al hb _ (by omega) (by omega)
theorem J_kwL (ht : tkJ T x b) (h1 : kiT x b = 1) (h7 : enT x b - b ≤ 7) : ∀ (c k n : Nat), k + c = 15 → c < n → ∃ v, J_knownWord_21 n (nI k) T = some (v, T) ∧ ((∃ j, k ≤ j ∧ j < 15 ∧ isW x b j ∧ v = nI j) ∨ ((∀ j, k ≤ j → j < 15 → ¬ isW x b j) ∧ v = -1)) := by
  intro c
  induction c with
  | zero =>
    intro k n hk hn
    obtain ⟨n, rfl⟩ : ∃ m, n = m + 1 := ⟨n - 1, by omega⟩
    refine ⟨-1, ?_, Or.inr ⟨fun j a d => by omega, rfl⟩⟩
    show B_knownWord_21 (J_knownWord_21 n) (nI k) T = _
    unfold B_knownWord_21
    rw [if_pos (nI_le (by omega) (by omega))]
  | succ c ih =>
    intro k n hk hn
    obtain ⟨n, rfl⟩ : ∃ m, n = m + 1 := ⟨n - 1, by omega⟩
    have hw : T.2.1 = lN (hsT (fun i => x.2 (b + i)) (enT x b - b)) := by
      rw [ht.2.2.2.2.2.2.2, if_pos h1, Nat.min_eq_right h7]
    have hl := ki_le h1 ht.1
    have hlt := hs_lt (f := fun i => x.2 (b + i)) (enT x b - b) hl
    have h32 : 32 ^ (enT x b - b) ≤ 2 ^ 35 := by
      have : 32 ^ (enT x b - b) ≤ 32 ^ 7 := Nat.pow_le_pow_right (by omega) h7
      exact Nat.le_trans this (by decide)
    have st : J_knownWord_21 (n + 1) (nI k) T = if lg_cmp (lN (hsT (wf k) (wn k))) T.2.1 = 0 then some (nI k, T) else J_knownWord_21 n (nI (k + 1)) T := by
      show B_knownWord_21 (J_knownWord_21 n) (nI k) T = _
      unfold B_knownWord_21
      rw [if_neg (nI_ge (by omega) (by omega)), l_hs k (by omega), bdS, nI_add]
    rw [st]
    have hb35 := hs_b k (by omega)
    by_cases he : lg_cmp (lN (hsT (wf k) (wn k))) T.2.1 = 0
    · rw [if_pos he]
      rw [lg_0, hw, pk_lEQ (by omega) (by omega)] at he
      obtain ⟨e1, e2⟩ := hs_inj _ _ (wf_le k (by omega)) hl he
      exact ⟨nI k, rfl, Or.inl ⟨k, Nat.le_refl _, by omega, ⟨h1, e1.symm, fun i hi => (e2 i hi).symm⟩, rfl⟩⟩
    · rw [if_neg he]
      obtain ⟨v, s1, h⟩ := ih (k + 1) n (by omega) (by omega)
      refine ⟨v, s1, ?_⟩
      rcases h with ⟨j, a1, a2, a3, a4⟩ | ⟨a1, a2⟩
      · exact Or.inl ⟨j, by omega, a2, a3, a4⟩
      · refine Or.inr ⟨fun j b1 b2 => ?_, a2⟩
        by_cases e : j = k
        · intro z
          apply he
          rw [lg_0, hw, e] at *
          rw [z.2.1]
          congr 1
          exact hs_eq _ fun i hi => (z.2.2 i hi).symm
        · exact a1 j (by omega) b2
theorem ki_4' : kiT x b ≤ 4 := by
  unfold kiT
  split
  · omega
  · split
    · omega
    · split
      · omega
      · split <;> omega
theorem J_kw (h : txJ T x) (ht : tkJ T x b) : ∃ v, J_knownWord T = some (v, T) ∧ ((∃ j, j < 15 ∧ isW x b j ∧ v = nI j) ∨ ((∀ j, j < 15 → ¬ isW x b j) ∧ v = -1)) := by
  have he := en_b ht.1
  have h4 : kiT x b ≤ 4 := ki_4'
  have h700 := h.1
  unfold J_knownWord J_knownWord_17
  rw [ht.2.2.1, ht.2.2.2.2.1]
  by_cases h1 : kiT x b = 1
  · rw [h1, if_pos rfl]
    by_cases h7 : enT x b - b ≤ 7
    · rw [if_pos (nI_le h7 (by omega))]
      obtain ⟨v, s1, h⟩ := J_kwL ht h1 h7 15 0 NN (by omega) (by unfold NN; omega)
      refine ⟨v, s1, ?_⟩
      rcases h with ⟨j, a1, a2, a3, a4⟩ | ⟨a1, a2⟩
      · exact Or.inl ⟨j, a2, a3, a4⟩
      · exact Or.inr ⟨fun j hj => a1 j (by omega) hj, a2⟩
    · rw [if_neg (nI_ge (by omega) (by omega))]
      refine ⟨-1, rfl, Or.inr ⟨fun j hj z => ?_, rfl⟩⟩
      have := wn_7 j hj
      rw [z.2.1] at h7
      omega
  · rw [if_neg (fun z => h1 ((nI_eq (by omega) (by omega)).mp z))]
    exact ⟨-1, rfl, Or.inr ⟨fun j _ z => h1 z.1, rfl⟩⟩
/-! the component's side -/
theorem s_cr : ∀ cc, cc < 256 → crI (Int32.toUInt32 (nI cc &&& nI 255) % 65536).toInt32 = some (nI cc) ∧ crI (nI cc) = some (nI cc) := by decide +kernel
theorem s_at {s n : Nat} {g : Nat → Nat} (H : stH σ.1 s n g) (hn : n < 1000) {i : Nat} (hi : i < n) (hg : g i < 256) : KJ8_charAt s (nI i) σ = some (nI (g i)) := by
  obtain ⟨v, h1, h2, h3, h4⟩ := s_v H hn
  have hc := s_cr (g i) hg
  unfold KJ8_charAt KJ9_charAt KJ8_checkIndex KJ11_checkIndex
  simp only [s_o H, s_lat H hn, bdS, if_neg s1_ne, h1, h3, if_neg (nI_pos (show i < 2 ^ 31 by omega)), if_pos (nI_lt hi (show n < 2 ^ 31 by omega)), h4 i hi, hc.1, hc.2]
theorem wf_b : ∀ k, k < 15 → ∀ i, i < wn k → wf k i < 256 := by decide
theorem K_isL (X : txK hS ad c.2.2.2 x) (W : wdK hS ad) (hs : sub hS σ.1) (h : tkK σ x r c b) {k : Nat} (hk : k < 15) (he : enT x b - b = wn k) : ∀ (m i n : Nat), i + m = wn k → m < n → ∃ v, KX5_is_28 n r (ad (wdA k)) (nI i) σ = some v ∧ ((∀ j, i ≤ j → j < wn k → x.2 (b + j) = wf k j) → v = nI 1) ∧ ((∃ j, i ≤ j ∧ j < wn k ∧ x.2 (b + j) ≠ wf k j) → v = nI 0) := by
  intro m
  have hw := (W k hk).up hs
  have h7 := wn_7 k hk
  obtain ⟨hb, u, hu, -, hr⟩ := h
  have heb := en_b hb
  have h700 := X.1
  induction m with
  | zero =>
    intro i n hi hn
    obtain ⟨n, rfl⟩ : ∃ z, n = z + 1 := ⟨n - 1, by omega⟩
    refine ⟨nI 1, ?_, fun _ => rfl, fun ⟨j, a1, a2, _⟩ => by omega⟩
    show BKX5_is_28 (KX5_is_28 n) r (ad (wdA k)) (nI i) σ = _
    unfold BKX5_is_28
    simp only [s_o hw, s_len hw (by omega), bdS]
    rw [if_pos (nI_le (by omega) (by omega))]
  | succ m ih =>
    intro i n hi hn
    obtain ⟨n, rfl⟩ : ∃ z, n = z + 1 := ⟨n - 1, by omega⟩
    obtain ⟨ta, tf, t1, t2⟩ := K_byte X hs
    obtain ⟨b1, -, b3⟩ := t2 (b + i) (by omega)
    have hxb := X.2.1 (b + i)
    have hwb := wf_b k hk i (by omega)
    have st : KX5_is_28 (n + 1) r (ad (wdA k)) (nI i) σ = if nI (wf k i) = nI (x.2 (b + i)) then KX5_is_28 n r (ad (wdA k)) (nI (i + 1)) σ else some (nI 0) := by
      show BKX5_is_28 (KX5_is_28 n) r (ad (wdA k)) (nI i) σ = _
      unfold BKX5_is_28
      simp only [s_o hw, s_len hw (by omega), bdS]
      rw [if_neg (nI_ge (by omega) (by omega))]
      simp only [s_at hw (by omega) (show i < wn k by omega) hwb, r_g9 hr, t1, r_g6 hr, nI_add, b1, b3, bdS]
    rw [st]
    by_cases e : x.2 (b + i) = wf k i
    · rw [if_pos (by rw [e])]
      obtain ⟨v, s1, v1, v0⟩ := ih (i + 1) n (by omega) (by omega)
      refine ⟨v, s1, fun h => v1 fun j a1 a2 => h j (by omega) a2, fun ⟨j, a1, a2, a3⟩ => v0 ⟨j, ?_, a2, a3⟩⟩
      by_cases ej : j = i
      · rw [ej] at a3; exact absurd e a3
      · omega
    · rw [if_neg (fun z => e ((nI_eq (by omega) (by omega)).mp z).symm)]
      exact ⟨nI 0, rfl, fun h => absurd (h i (Nat.le_refl _) (by omega)) e, fun _ => rfl⟩
theorem K_is (X : txK hS ad c.2.2.2 x) (W : wdK hS ad) (hs : sub hS σ.1) (h : tkK σ x r c b) {k : Nat} (hk : k < 15) : ∃ v, KX5_is r (ad (wdA k)) σ = some v ∧ (isW x b k ∧ v = nI 1 ∨ ¬ isW x b k ∧ v = nI 0) := by
  have hw := (W k hk).up hs
  have h7 := wn_7 k hk
  obtain ⟨hb, u, hu, hv, hr⟩ := id h
  have heb := en_b hb
  have h700 := X.1
  have h4 : kiT x b ≤ 4 := ki_4'
  unfold KX5_is KX5_is_24
  simp only [r_g5 hr, bdS]
  by_cases h1 : kiT x b = 1
  · rw [h1, if_pos rfl]
    simp only [s_o hw, s_len hw (by omega), r_g7 hr, r_g6 hr, bdS]
    rw [pk_sub heb.1]
    by_cases he : enT x b - b = wn k
    · rw [if_pos (by rw [he])]
      obtain ⟨v, s1, v1, v0⟩ := K_isL X W hs h hk he (wn k) 0 NN (by omega) (by unfold NN; omega)
      refine ⟨v, s1, ?_⟩
      by_cases ha : ∀ j, j < wn k → x.2 (b + j) = wf k j
      · exact Or.inl ⟨⟨h1, he, ha⟩, v1 fun j _ hj => ha j hj⟩
      · refine Or.inr ⟨fun z => ha z.2.2, v0 ?_⟩
        exact Classical.byContradiction fun z => ha fun j hj => Classical.byContradiction fun z2 => z ⟨j, Nat.zero_le _, hj, z2⟩
    · rw [if_neg (fun z => he ((nI_eq (by omega) (by omega)).mp z).symm)]
      exact ⟨nI 0, rfl, Or.inr ⟨fun z => he z.2.1, rfl⟩⟩
  · rw [if_neg (fun z => h1 ((nI_eq (by omega) (by omega)).mp z))]
    exact ⟨nI 0, rfl, Or.inr ⟨fun z => h1 z.1, rfl⟩⟩
/-- the names -/
def nmK (h : Nat → Option vv_E) (ad : Nat → Nat) (nm : Nat) : Prop := ∃ (f : Bool) (g : Nat → Option Nat), h nm = some (f, .inl (.object "java/lang/String", 6, .inr (.inr (.inr (.inr g))))) ∧ ∀ i, i < 6 → g i = some (ad (10 + i))
theorem K_wh (X : txK hS ad c.2.2.2 x) (W : wdK hS ad) (hs : sub hS σ.1) (h : tkK σ x r c b) {nm : Nat} (hn : nmK σ.1 ad nm) : ∀ (m i n : Nat), i + m = 6 → m < n → ∃ v, KX5_which_2 n r nm (nI i) σ = some v ∧ ((∃ j, i ≤ j ∧ j < 6 ∧ isW x b j ∧ v = nI j) ∨ ((∀ j, i ≤ j → j < 6 → ¬ isW x b j) ∧ v = -1)) := by
  obtain ⟨f, g, n1, n2⟩ := hn
  have al : aLn σ nm = some (nI 6) := by unfold aLn; rw [n1]
  obtain ⟨hb, u, hu, hv, hr⟩ := id h
  intro m
  induction m with
  | zero =>
    intro i n hi hn
    obtain ⟨n, rfl⟩ : ∃ z, n = z + 1 := ⟨n - 1, by omega⟩
    refine ⟨-1, ?_, Or.inr ⟨fun j a1 a2 => by omega, rfl⟩⟩
    show BKX5_which_2 (KX5_which_2 n) r nm (nI i) σ = _
    unfold BKX5_which_2
    rw [al, bdS, if_pos (nI_le (by omega) (by omega))]
  | succ m ih =>
    intro i n hi hn
    obtain ⟨n, rfl⟩ : ∃ z, n = z + 1 := ⟨n - 1, by omega⟩
    have q1 : aQ σ nm (nI i) = some (ad (wdA i)) := by
      unfold aQ
      rw [n1]
      show (if (FieldType.object "java/lang/String").isReference = true ∧ ¬ ((nI i) < 0 ∨ 6 ≤ (nI i).toNatClampNeg) then g (nI i).toNatClampNeg else none) = _
      rw [if_pos ⟨rfl, nI_in (by omega) (by omega)⟩, nI_clamp (by omega), n2 i (by omega)]
      unfold wdA
      rw [if_pos (by omega)]
    obtain ⟨v, s1, hv1⟩ := K_is X W hs h (show i < 15 by omega)
    have st : KX5_which_2 (n + 1) r nm (nI i) σ = if v = 0 then KX5_which_2 n r nm (nI (i + 1)) σ else some (nI i) := by
      show BKX5_which_2 (KX5_which_2 n) r nm (nI i) σ = _
      unfold BKX5_which_2
      rw [al, bdS, if_neg (nI_ge (by omega) (by omega))]
      simp only [q1, r_o hr, s1, nI_add, bdS]
    rw [st]
    rcases hv1 with ⟨w1, w2⟩ | ⟨w1, w2⟩
    · rw [w2, if_neg s1_ne]
      exact ⟨nI i, rfl, Or.inl ⟨i, Nat.le_refl _, by omega, w1, rfl⟩⟩
    · rw [w2, if_pos nI_0]
      obtain ⟨v', s2, h2⟩ := ih (i + 1) n (by omega) (by omega)
      refine ⟨v', s2, ?_⟩
      rcases h2 with ⟨j, a1, a2, a3, a4⟩ | ⟨a1, a2⟩
      · exact Or.inl ⟨j, by omega, a2, a3, a4⟩
      · refine Or.inr ⟨fun j b1 b2 => ?_, a2⟩
        by_cases e : j = i
        · rw [e]; exact w1
        · exact a1 j (by omega) b2
/-- signs, both -/
def isS (x : txT) (b k : Nat) : Prop := kiT x b = 3 ∧ x.2 b = k
theorem J_sg (h : txJ T x) (ht : tkJ T x b) {k : Nat} (hk : k < 128) : ∃ v, J_isSign (nI k) T = some (v, T) ∧ (isS x b k ∧ v = nI 1 ∨ ¬ isS x b k ∧ v = nI 0) := by
  have h4 : kiT x b ≤ 4 := ki_4'
  unfold J_isSign J_isSign_20 J_isSign_21
  rw [ht.2.2.1, ht.2.2.2.2.2.2.1]
  by_cases h3 : kiT x b = 3
  · rw [h3, if_pos rfl]
    have hlt : b < x.1 := by
      by_cases hl : x.1 ≤ b
      · rw [ki_0 hl] at h3; omega
      · omega
    rw [if_pos hlt]
    have hb := h.2.1 b
    by_cases e : x.2 b = k
    · rw [if_pos (by rw [e]), zr1, bdS]
      exact ⟨nI 1, rfl, Or.inl ⟨⟨h3, e⟩, rfl⟩⟩
    · rw [if_neg (fun z => e ((nI_eq (by omega) (by omega)).mp z)), zr0, bdS]
      exact ⟨nI 0, rfl, Or.inr ⟨fun z => e z.2, rfl⟩⟩
  · rw [if_neg (fun z => h3 ((nI_eq (by omega) (by omega)).mp z)), zr0, bdS]
    exact ⟨nI 0, rfl, Or.inr ⟨fun z => h3 z.1, rfl⟩⟩
theorem by_c {z : Int32} {m k : Nat} (h : rI z (-128) 127) (hm : z &&& nI 255 = nI m) (hm2 : m < 256) (hk : k < 128) : z = nI k ↔ m = k := by
  have e1 : z &&& nI 255 = nI (z.toBitVec.toNat % 2 ^ 8) := pk_and z 8 (by decide)
  rw [e1, nI_eq (by omega) (by omega)] at hm
  constructor
  · intro e
    rw [e, pk_tn (by omega)] at hm
    omega
  · intro e
    subst e
    apply ti_eq
    rw [ti_n (by omega)]
    obtain ⟨h1, h2⟩ := h
    have h3 : z.toInt = z.toBitVec.toInt := rfl
    rw [h3] at h1 h2 ⊢
    rw [BitVec.toInt_eq_toNat_cond] at h1 h2 ⊢
    split at h1 <;> rename_i hc
    · rw [if_pos hc] at h2 ⊢
      omega
    · rw [if_neg hc] at h2 ⊢
      omega
theorem K_sg (X : txK hS ad c.2.2.2 x) (hs : sub hS σ.1) (h : tkK σ x r c b) {k : Nat} (hk : k < 128) : ∃ v, KX5_isSign r (nI k) σ = some v ∧ (isS x b k ∧ v = nI 1 ∨ ¬ isS x b k ∧ v = nI 0) := by
  have h4 : kiT x b ≤ 4 := ki_4'
  obtain ⟨hb, u, hu, hv, hr⟩ := id h
  have h700 := X.1
  unfold KX5_isSign KX5_isSign_28 KX5_isSign_29
  simp only [r_g5 hr, bdS]
  by_cases h3 : kiT x b = 3
  · rw [h3, if_pos rfl]
    have hlt : b < x.1 := by
      by_cases hl : x.1 ≤ b
      · rw [ki_0 hl] at h3; omega
      · omega
    obtain ⟨ta, tf, t1, t2⟩ := K_byte X hs
    obtain ⟨b1, b2, b3⟩ := t2 b (by omega)
    simp only [r_g9 hr, t1, r_g6 hr, b1, bdS]
    have hc := by_c b2 b3 (X.2.1 b) hk
    by_cases e : x.2 b = k
    · rw [if_pos (hc.mpr e), zr1, bdS]
      exact ⟨nI 1, rfl, Or.inl ⟨⟨h3, e⟩, rfl⟩⟩
    · rw [if_neg (fun z => e (hc.mp z)), zr0, bdS]
      exact ⟨nI 0, rfl, Or.inr ⟨fun z => e z.2, rfl⟩⟩
  · rw [if_neg (fun z => h3 ((nI_eq (by omega) (by omega)).mp z)), zr0, bdS]
    exact ⟨nI 0, rfl, Or.inr ⟨fun z => h3 z.1, rfl⟩⟩
end WO
