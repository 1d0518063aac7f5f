/-! the plain law: which town to look at next, the counting -/
set_option maxRecDepth 100000
section NX
variable {σ : vv_S} {T : tw_T} {x0 l m : Nat} {P : pvT} {R : Nat → Int32} {ad : Nat → Nat} {g : Nat → Nat} {G : Nat → Nat → Int32}
/-- m guesses, their lucks -/
def gsI (P : pvT) (R : Nat → Int32) (m : Nat) (g : Nat → Nat) (G : Nat → Nat → Int32) (σ : vv_S) (T : tw_T) : Prop := m ≤ 100 ∧ ∀ i, i < m → σ.1 (g i) = some (true, .inl (.int, 248, .inl (G i))) ∧ (∀ j t, j ≤ 30 → t < P.1.1 → T.2.2 30 (248 * i + (8 * j + t)) = G i (8 * j + t)) ∧ ∀ j t, j ≤ 30 → P.1.1 ≤ t → t < 8 → G i (8 * j + t) = R (1 + t)
theorem K_like_t (I : gsI P R m g G σ T) {i i' d : Nat} (hi : i < m) (hi' : i' < m) (hd : d ≤ 30) : ∀ (c t n : Nat), P.1.1 ≤ t → t + c = 8 → c < n → KX1_isLike_5 n (g i) (g i') (nI d) (nI (8 * d + t)) σ = some (bI true) := by
  obtain ⟨a1, -, a3⟩ := I.2 i hi
  obtain ⟨b1, -, b3⟩ := I.2 i' hi'
  intro c
  induction c with
  | zero =>
    intro t n ht hc hn
    obtain ⟨n, rfl⟩ : ∃ m, n = m + 1 := ⟨n - 1, by omega⟩
    show BKX1_isLike_5 (KX1_isLike_5 n) (g i) (g i') (nI d) (nI (8 * d + t)) σ = _
    unfold BKX1_isLike_5
    rw [nI_add, pk_mul, if_pos (nI_le (by omega) (by omega))]
    rfl
  | succ c ih =>
    intro t n ht hc hn
    obtain ⟨n, rfl⟩ : ∃ m, n = m + 1 := ⟨n - 1, by omega⟩
    show BKX1_isLike_5 (KX1_isLike_5 n) (g i) (g i') (nI d) (nI (8 * d + t)) σ = _
    unfold BKX1_isLike_5
    have e1 : aI σ .int (g i) (nI (8 * d + t)) = some (R (1 + t)) := by rw [aI_at a1 (by omega) (by omega), a3 d t hd ht (by omega)]
    have e2 : aI σ .int (g i') (nI (8 * d + t)) = some (R (1 + t)) := by rw [aI_at b1 (by omega) (by omega), b3 d t hd ht (by omega)]
    rw [nI_add, pk_mul, if_neg (nI_ge (by omega) (by omega))]
    simp only [e1, e2, nI_add, if_true, bdS]
    exact ih (t + 1) n (by omega) (by omega) (by omega)
theorem like_e (I : gsI P R m g G σ T) (h8 : P.1.1 ≤ 8) (p : isTp T P) {i i' d : Nat} (hi : i < m) (hi' : i' < m) (hd : d ≤ 30) : ∀ (c t n n' : Nat), t + c = P.1.1 → 8 - t < n → c < n' → ∃ b, KX1_isLike_5 n (g i) (g i') (nI d) (nI (8 * d + t)) σ = some (bI b) ∧ J_areLike_3 n' (nI i') (nI i) (nI d) (nI t) T = some (bI b, T) := by
  obtain ⟨a1, a2, -⟩ := I.2 i hi
  obtain ⟨b1, b2, -⟩ := I.2 i' hi'
  have h100 := I.1
  intro c
  induction c with
  | zero =>
    intro t n n' ht hn hn'
    obtain ⟨n', rfl⟩ : ∃ m, n' = m + 1 := ⟨n' - 1, by omega⟩
    refine ⟨true, K_like_t I hi hi' hd (8 - t) t n (by omega) (by omega) hn, ?_⟩
    show B_areLike_3 (J_areLike_3 n') (nI i') (nI i) (nI d) (nI t) T = _
    unfold B_areLike_3
    rw [p.1, if_pos (nI_le (by omega) (by omega))]
    rfl
  | succ c ih =>
    intro t n n' ht hn hn'
    obtain ⟨n, rfl⟩ : ∃ m, n = m + 1 := ⟨n - 1, by omega⟩
    obtain ⟨n', rfl⟩ : ∃ m, n' = m + 1 := ⟨n' - 1, by omega⟩
    have e1 : aI σ .int (g i) (nI (8 * d + t)) = some (G i (8 * d + t)) := aI_at a1 (by omega) (by omega)
    have e2 : aI σ .int (g i') (nI (8 * d + t)) = some (G i' (8 * d + t)) := aI_at b1 (by omega) (by omega)
    have e3 : rdI 24800 (T.2.2 30) (nI (248 * i + 8 * d + t)) = some (G i (8 * d + t)) := by rw [show 248 * i + 8 * d + t = 248 * i + (8 * d + t) by omega, nI_rd (by omega) (by omega), a2 d t hd (by omega)]
    have e4 : rdI 24800 (T.2.2 30) (nI (248 * i' + 8 * d + t)) = some (G i' (8 * d + t)) := by rw [show 248 * i' + 8 * d + t = 248 * i' + (8 * d + t) by omega, nI_rd (by omega) (by omega), b2 d t hd (by omega)]
    have hk : KX1_isLike_5 (n + 1) (g i) (g i') (nI d) (nI (8 * d + t)) σ = if G i (8 * d + t) = G i' (8 * d + t) then KX1_isLike_5 n (g i) (g i') (nI d) (nI (8 * d + (t + 1))) σ else some (bI false) := by
      show BKX1_isLike_5 (KX1_isLike_5 n) (g i) (g i') (nI d) (nI (8 * d + t)) σ = _
      unfold BKX1_isLike_5
      rw [nI_add, pk_mul, if_neg (nI_ge (by omega) (by omega))]
      simp only [e1, e2, nI_add, bdS]
      rfl
    have hj : J_areLike_3 (n' + 1) (nI i') (nI i) (nI d) (nI t) T = if G i' (8 * d + t) = G i (8 * d + t) then J_areLike_3 n' (nI i') (nI i) (nI d) (nI (t + 1)) T else some (bI false, T) := by
      show B_areLike_3 (J_areLike_3 n') (nI i') (nI i) (nI d) (nI t) T = _
      unfold B_areLike_3
      rw [p.1, if_neg (nI_ge (show t < P.1.1 by omega) (by omega))]
      simp only [pk_mul, nI_add, e3, e4, bdS]
      rfl
    rw [hk, hj]
    by_cases h : G i (8 * d + t) = G i' (8 * d + t)
    · rw [if_pos h, if_pos h.symm]
      exact ih (t + 1) n n' (by omega) (by omega) (by omega)
    · rw [if_neg h, if_neg (fun z => h z.symm)]
      exact ⟨false, rfl, rfl⟩
theorem nx_157 (I : gsI P R m g G σ T) (h8 : P.1.1 ≤ 8) (p : isTp T P) (hli : isLi σ.1 l m g) {d x7 : Nat} (hd : d ≤ 30) (h7 : x7 < m) (k127 : Int32 → Nat → Int32 → Int32 → Int32 → vv_S → Option (hX (Int32 × vv_S))) (k140 : Int32 → Nat → Int32 → Int32 → Int32 → Int32 → Int32 → vv_S → Option (hX (Int32 × vv_S))) (k96 : Int32 → Int32 → Int32 → Int32 → Int32 → tw_T → Option (Int32 × tw_T)) (k109 : Int32 → Int32 → Int32 → Int32 → Int32 → Int32 → Int32 → tw_T → Option (Int32 × tw_T)) (x1 x2 x3 x4 x6 : Int32) : ∀ (c x9 n n' : Nat) (b : Bool), x9 + c = x7 → c < n → c < n' → ∃ b', KX1_next_157 (KX_fo 80) ad k127 k140 n x1 l x3 x4 (nI d) x6 (nI x7) (bI b) (nI x9) σ = KX1_next_212 (KX_fo 80) ad k127 k140 x1 l x3 x4 (nI d) x6 (nI x7) (bI b') σ ∧ J_next_121 k96 k109 n' x1 x2 x3 x4 (nI d) x6 (nI x7) (bI b) (nI x9) T = J_next_159 k96 k109 x1 x2 x3 x4 (nI d) x6 (nI x7) (bI b') T := by
  have h100 := I.1
  intro c
  induction c with
  | zero =>
    intro x9 n n' b hc hn hn'
    obtain ⟨n, rfl⟩ : ∃ m, n = m + 1 := ⟨n - 1, by omega⟩
    obtain ⟨n', rfl⟩ : ∃ m, n' = m + 1 := ⟨n' - 1, by omega⟩
    refine ⟨b, ?_, ?_⟩
    · show BKX1_next_157 (KX_fo 80) ad k127 k140 (KX1_next_157 (KX_fo 80) ad k127 k140 n) x1 l x3 x4 (nI d) x6 (nI x7) (bI b) (nI x9) σ = _
      unfold BKX1_next_157
      rw [if_pos (nI_le (by omega) (by omega))]
    · show B_next_121 k96 k109 (J_next_121 k96 k109 n') x1 x2 x3 x4 (nI d) x6 (nI x7) (bI b) (nI x9) T = _
      unfold B_next_121
      rw [if_pos (nI_le (by omega) (by omega))]
  | succ c ih =>
    intro x9 n n' b hc hn hn'
    obtain ⟨n, rfl⟩ : ∃ m, n = m + 1 := ⟨n - 1, by omega⟩
    obtain ⟨n', rfl⟩ : ∃ m, n' = m + 1 := ⟨n' - 1, by omega⟩
    show ∃ b', BKX1_next_157 (KX_fo 80) ad k127 k140 (KX1_next_157 (KX_fo 80) ad k127 k140 n) x1 l x3 x4 (nI d) x6 (nI x7) (bI b) (nI x9) σ = _ ∧ B_next_121 k96 k109 (J_next_121 k96 k109 n') x1 x2 x3 x4 (nI d) x6 (nI x7) (bI b) (nI x9) T = _
    unfold BKX1_next_157 B_next_121
    rw [if_neg (nI_ge (show x9 < x7 by omega) (by omega)), if_neg (nI_ge (show x9 < x7 by omega) (by omega))]
    cases b with
    | false =>
      rw [if_pos (show bI false = 0 from nI_0), if_pos (show bI false = 0 from nI_0)]
      exact ⟨false, rfl, rfl⟩
    | true =>
      rw [if_neg (show ¬ bI true = 0 from s1_ne), if_neg (show ¬ bI true = 0 from s1_ne)]
      obtain ⟨b1, s1, u1⟩ := like_e I h8 p (i := x9) (i' := x7) (by omega) h7 hd P.1.1 0 NN NN (by omega) (by unfold NN; omega) (by unfold NN; omega)
      have s1 : KX1_isLike (g x9) (g x7) (nI d) σ = some (bI b1) := by
        unfold KX1_isLike
        rw [pk_mul]
        exact s1
      have u1 : J_areLike (nI x7) (nI x9) (nI d) T = some (bI b1, T) := u1
      have i9 : isA σ (g x9) .int = some () := by unfold isA; rw [(I.2 x9 (by omega)).1]; rfl
      have i7 : isA σ (g x7) .int = some () := by unfold isA; rw [(I.2 x7 h7).1]; rfl
      simp only [li_o hli, li_get hli (show x9 < m by omega), li_get hli h7, i9, i7, s1, u1, bdS]
      unfold KX1_next_204 J_next_151
      cases b1 with
      | false =>
        rw [if_pos (show bI false = 0 from nI_0), if_pos (show bI false = 0 from nI_0), nI_add]
        exact ih (x9 + 1) n n' true (by omega) (by omega) (by omega)
      | true =>
        rw [if_neg (show ¬ bI true = 0 from s1_ne), if_neg (show ¬ bI true = 0 from s1_ne), nI_add]
        exact ih (x9 + 1) n n' false (by omega) (by omega) (by omega)
theorem nx_140 (I : gsI P R m g G σ T) (h8 : P.1.1 ≤ 8) (p : isTp T P) (hli : isLi σ.1 l m g) {d : Nat} (hd : d ≤ 30) (k127 : Int32 → Nat → Int32 → Int32 → Int32 → vv_S → Option (hX (Int32 × vv_S))) (k96 : Int32 → Int32 → Int32 → Int32 → Int32 → tw_T → Option (Int32 × tw_T)) (x1 x3 x4 : Int32) : ∀ (c x7 n n' : Nat) (x6 : Int32), x7 + c = m → c < n → c < n' → ∃ x3' x4', KX1_next_140 (KX_fo 80) ad k127 n x1 l x3 x4 (nI d) x6 (nI x7) σ = k127 x1 l x3' x4' (nI (d + 1)) σ ∧ J_next_109 k96 n' x1 (nI m) x3 x4 (nI d) x6 (nI x7) T = k96 x1 (nI m) x3' x4' (nI (d + 1)) T := by
  have h100 := I.1
  intro c
  induction c with
  | zero =>
    intro x7 n n' x6 hc hn hn'
    obtain ⟨n, rfl⟩ : ∃ m, n = m + 1 := ⟨n - 1, by omega⟩
    obtain ⟨n', rfl⟩ : ∃ m, n' = m + 1 := ⟨n' - 1, by omega⟩
    show ∃ x3' x4', BKX1_next_140 (KX_fo 80) ad k127 (KX1_next_140 (KX_fo 80) ad k127 n) x1 l x3 x4 (nI d) x6 (nI x7) σ = _ ∧ B_next_109 k96 (J_next_109 k96 n') x1 (nI m) x3 x4 (nI d) x6 (nI x7) T = _
    unfold BKX1_next_140 B_next_109 KX1_next_243 J_next_197
    simp only [li_o hli, li_size hli, nI_add, bdS]
    rw [if_pos (nI_le (show m ≤ x7 by omega) (by omega)), if_pos (nI_le (show m ≤ x7 by omega) (by omega))]
    by_cases h : x4 < x6
    · rw [if_pos h, if_pos h]; exact ⟨_, _, rfl, rfl⟩
    · rw [if_neg h, if_neg h]; exact ⟨_, _, rfl, rfl⟩
  | succ c ih =>
    intro x7 n n' x6 hc hn hn'
    obtain ⟨n, rfl⟩ : ∃ m, n = m + 1 := ⟨n - 1, by omega⟩
    obtain ⟨n', rfl⟩ : ∃ m, n' = m + 1 := ⟨n' - 1, by omega⟩
    obtain ⟨b, s1, u1⟩ := nx_157 (ad := ad) I h8 p hli hd (show x7 < m by omega) k127 (KX1_next_140 (KX_fo 80) ad k127 n) k96 (J_next_109 k96 n') x1 (nI m) x3 x4 x6 x7 0 NN NN true (by omega) (by unfold NN; omega) (by unfold NN; omega)
    show ∃ x3' x4', BKX1_next_140 (KX_fo 80) ad k127 (KX1_next_140 (KX_fo 80) ad k127 n) x1 l x3 x4 (nI d) x6 (nI x7) σ = _ ∧ B_next_109 k96 (J_next_109 k96 n') x1 (nI m) x3 x4 (nI d) x6 (nI x7) T = _
    unfold BKX1_next_140 B_next_109
    simp only [li_o hli, li_size hli, bdS]
    rw [if_neg (nI_ge (show x7 < m by omega) (by omega)), if_neg (nI_ge (show x7 < m by omega) (by omega))]
    have s1 : KX1_next_157 (KX_fo 80) ad k127 (KX1_next_140 (KX_fo 80) ad k127 n) NN x1 l x3 x4 (nI d) x6 (nI x7) (nI 1) (nI 0) σ = _ := s1
    have u1 : J_next_121 k96 (J_next_109 k96 n') NN x1 (nI m) x3 x4 (nI d) x6 (nI x7) (nI 1) (nI 0) T = _ := u1
    rw [s1, u1]
    unfold KX1_next_212 KX1_next_220 J_next_159 J_next_171
    cases b with
    | false =>
      rw [if_pos (show bI false = 0 from nI_0), if_pos (show bI false = 0 from nI_0), nI_add, show x6 + nI 0 = x6 by rw [nI_0]; exact Int32.add_zero x6]
      exact ih (x7 + 1) n n' x6 (by omega) (by omega) (by omega)
    | true =>
      rw [if_neg (show ¬ bI true = 0 from s1_ne), if_neg (show ¬ bI true = 0 from s1_ne), nI_add]
      exact ih (x7 + 1) n n' (x6 + nI 1) (by omega) (by omega) (by omega)
theorem nx_127 (I : gsI P R m g G σ T) (h8 : P.1.1 ≤ 8) (p : isTp T P) (hli : isLi σ.1 l m g) (x1 : Int32) : ∀ (c d n n' : Nat) (x3 x4 : Int32), d + c = 31 → c < n → c < n' → ∃ v, KX1_next_127 (KX_fo 80) ad n x1 l x3 x4 (nI d) σ = some (.inl (v, σ)) ∧ J_next_96 n' x1 (nI m) x3 x4 (nI d) T = some (v, T) := by
  have h100 := I.1
  intro c
  induction c with
  | zero =>
    intro d n n' x3 x4 hc hn hn'
    obtain ⟨n, rfl⟩ : ∃ m, n = m + 1 := ⟨n - 1, by omega⟩
    obtain ⟨n', rfl⟩ : ∃ m, n' = m + 1 := ⟨n' - 1, by omega⟩
    show ∃ v, BKX1_next_127 (KX_fo 80) ad (KX1_next_127 (KX_fo 80) ad n) x1 l x3 x4 (nI d) σ = _ ∧ B_next_96 (J_next_96 n') x1 (nI m) x3 x4 (nI d) T = _
    unfold BKX1_next_127 B_next_96 KX1_next_259 J_next_213
    rw [if_pos (nI_lt (show 30 < d by omega) (by omega)), if_pos (nI_lt (show 30 < d by omega) (by omega))]
    by_cases h : x1 = 0
    · rw [if_pos h, if_pos h]; exact ⟨_, rfl, rfl⟩
    · rw [if_neg h, if_neg h]; exact ⟨_, rfl, rfl⟩
  | succ c ih =>
    intro d n n' x3 x4 hc hn hn'
    obtain ⟨n, rfl⟩ : ∃ m, n = m + 1 := ⟨n - 1, by omega⟩
    obtain ⟨n', rfl⟩ : ∃ m, n' = m + 1 := ⟨n' - 1, by omega⟩
    obtain ⟨y3, y4, s1, u1⟩ := nx_140 (ad := ad) I h8 p hli (show d ≤ 30 by omega) (KX1_next_127 (KX_fo 80) ad n) (J_next_96 n') x1 x3 x4 m 0 NN NN (nI 0) (by omega) (by unfold NN; omega) (by unfold NN; omega)
    obtain ⟨v, s2, u2⟩ := ih (d + 1) n n' y3 y4 (by omega) (by omega) (by omega)
    refine ⟨v, ?_, ?_⟩
    · show BKX1_next_127 (KX_fo 80) ad (KX1_next_127 (KX_fo 80) ad n) x1 l x3 x4 (nI d) σ = _
      unfold BKX1_next_127
      rw [if_neg (nI_nlt (show d ≤ 30 by omega) (by omega))]
      exact s1.trans s2
    · show B_next_96 (J_next_96 n') x1 (nI m) x3 x4 (nI d) T = _
      unfold B_next_96
      rw [if_neg (nI_nlt (show d ≤ 30 by omega) (by omega))]
      exact u1.trans u2
end NX
