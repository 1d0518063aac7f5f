/-! the plain law: sets that are counted -/
set_option maxRecDepth 100000
section CN
variable {σ : vv_S} {T : tw_T} {x0 pa va ca : Nat} {h0 : Nat → Option vv_E} {P : pvT} {R : Nat → Int32} {lo : Int32}
theorem J_lyA (h : isRw T 0 R) (hP : isTp T P) (h10 : P.1.2.2 ≤ 10) : ∀ (c i n : Nat) (v : Int32), i + c = P.1.2.2 → c < n → J_lyingAll_4 n v (nI i) T = some (lp (lyF R (-1)) c i v, T) := by
  intro c
  induction c with
  | zero =>
    intro i n v hi hn
    obtain ⟨n, rfl⟩ : ∃ m, n = m + 1 := ⟨n - 1, by omega⟩
    show B_lyingAll_4 (J_lyingAll_4 n) v (nI i) T = _
    unfold B_lyingAll_4
    rw [hP.2.2.1, if_pos (nI_le (by omega) (by omega))]
    rfl
  | succ c ih =>
    intro i n v hi hn
    obtain ⟨n, rfl⟩ : ∃ m, n = m + 1 := ⟨n - 1, by omega⟩
    have e := ih (i + 1) n (lyF R (-1) i v) (by omega) (by omega)
    show B_lyingAll_4 (J_lyingAll_4 n) v (nI i) T = some (lp (lyF R (-1)) c (i + 1) (lyF R (-1) i v), T)
    rw [← e]
    unfold B_lyingAll_4 J_lyingAll_29 lyF
    rw [hP.2.2.1, if_neg (nI_ge (show i < P.1.2.2 by omega) (by omega))]
    simp only [J_lies_e h (by omega) hP.2.2.1 (show i < P.1.2.2 by omega) h10, nI_add, bdS]
    by_cases h1 : liesR R i
    · rw [if_pos h1, if_neg s1_ne, if_pos ⟨h1, Or.inl trivial⟩]
    · rw [if_neg h1, if_pos nI_0, if_neg (fun z => h1 z.1), or_0]
theorem J_gone0 (h : isRw T 0 R) (hP : isTp T P) (h10 : P.1.2.2 ≤ 10) : ∀ (c i n : Nat) (v : Int32), i + c = P.1.2.2 → c < n → J_goneIn_4 n (nI 0) v (nI i) T = some (lp (bF fun k => decide (R (55 + k) = -1)) c i v, T) := by
  intro c
  induction c with
  | zero =>
    intro i n v hi hn
    obtain ⟨n, rfl⟩ : ∃ m, n = m + 1 := ⟨n - 1, by omega⟩
    show B_goneIn_4 (J_goneIn_4 n) (nI 0) v (nI i) T = _
    unfold B_goneIn_4
    rw [hP.2.2.1, if_pos (nI_le (by omega) (by omega))]
    rfl
  | succ c ih =>
    intro i n v hi hn
    obtain ⟨n, rfl⟩ : ∃ m, n = m + 1 := ⟨n - 1, by omega⟩
    have e := ih (i + 1) n (bF (fun k => decide (R (55 + k) = -1)) i v) (by omega) (by omega)
    show B_goneIn_4 (J_goneIn_4 n) (nI 0) v (nI i) T = some (lp (bF fun k => decide (R (55 + k) = -1)) c (i + 1) (bF (fun k => decide (R (55 + k) = -1)) i v), T)
    rw [← e]
    unfold B_goneIn_4 J_goneIn_35 bF
    rw [hP.2.2.1, if_neg (nI_ge (show i < P.1.2.2 by omega) (by omega))]
    simp only [nI_add, show 0 + 55 + i = 55 + i by omega, rd0 h (show 55 + i < 85 by omega) (us_cp hP (by omega) (by omega) (by omega)), bdS]
    by_cases h1 : R (55 + i) = -1
    · rw [if_pos h1, if_pos (decide_eq_true h1)]
    · rw [if_neg h1, if_neg (by rw [decide_eq_false h1]; decide), or_0]
theorem J_going (h : isRw T 0 R) (hP : isTp T P) (h10 : P.1.2.2 ≤ 10) : ∀ (c i n : Nat) (v : Int32), i + c = P.1.2.2 → c < n → J_goingAll_4 n v (nI i) T = some (lp (bF fun k => decide (¬ R (65 + k) ≤ 0)) c i v, T) := by
  intro c
  induction c with
  | zero =>
    intro i n v hi hn
    obtain ⟨n, rfl⟩ : ∃ m, n = m + 1 := ⟨n - 1, by omega⟩
    show B_goingAll_4 (J_goingAll_4 n) v (nI i) T = _
    unfold B_goingAll_4
    rw [hP.2.2.1, if_pos (nI_le (by omega) (by omega))]
    rfl
  | succ c ih =>
    intro i n v hi hn
    obtain ⟨n, rfl⟩ : ∃ m, n = m + 1 := ⟨n - 1, by omega⟩
    have e := ih (i + 1) n (bF (fun k => decide (¬ R (65 + k) ≤ 0)) i v) (by omega) (by omega)
    show B_goingAll_4 (J_goingAll_4 n) v (nI i) T = some (lp (bF fun k => decide (¬ R (65 + k) ≤ 0)) c (i + 1) (bF (fun k => decide (¬ R (65 + k) ≤ 0)) i v), T)
    rw [← e]
    unfold B_goingAll_4 J_goingAll_32 bF
    rw [hP.2.2.1, if_neg (nI_ge (show i < P.1.2.2 by omega) (by omega))]
    simp only [nI_add, rd0 h (show 65 + i < 85 by omega) (us_cp hP (by omega) (by omega) (by omega)), bdS]
    by_cases h1 : R (65 + i) ≤ 0
    · rw [if_pos h1, if_neg (fun z => absurd h1 (of_decide_eq_true z)), or_0]
    · rw [if_neg h1, if_pos (decide_eq_true h1)]
theorem K_goneA (H : isEnv σ x0 h0 pa va P) (h : isCo σ x0 ca R lo) (hc : gR σ x0 0 2 = some ca) : ∀ (c i n : Nat) (v : Int32), i + c = P.1.2.2 → c < n → KX1_count_199 n x0 v (nI i) σ = some (.inl (lp (bF fun k => decide (R (55 + k) = -1)) c i v, σ)) := by
  have h10 := ev_10 H
  intro c
  induction c with
  | zero =>
    intro i n v hi hn
    obtain ⟨n, rfl⟩ : ∃ m, n = m + 1 := ⟨n - 1, by omega⟩
    show BKX1_count_199 (KX1_count_199 n) x0 v (nI i) σ = _
    unfold BKX1_count_199
    simp only [ev_pa H, ev_cr H, bdS]
    rw [if_pos (nI_le (by omega) (by omega))]
    rfl
  | succ c ih =>
    intro i n v hi hn
    obtain ⟨n, rfl⟩ : ∃ m, n = m + 1 := ⟨n - 1, by omega⟩
    have e := ih (i + 1) n (bF (fun k => decide (R (55 + k) = -1)) i v) (by omega) (by omega)
    show BKX1_count_199 (KX1_count_199 n) x0 v (nI i) σ = some (.inl (lp (bF fun k => decide (R (55 + k) = -1)) c (i + 1) (bF (fun k => decide (R (55 + k) = -1)) i v), σ))
    rw [← e]
    unfold BKX1_count_199 KX1_count_229 bF
    have l6 : aI σ .int (ca + 1 + 6) (nI i) = some (R (55 + i)) := co_aI h (j := 6) (by decide) (show i < 10 by omega)
    simp only [ev_pa H, ev_cr H, hc, co_R h (j := 6) (by decide), l6, nI_add, bdS]
    rw [if_neg (nI_ge (show i < P.1.2.2 by omega) (by omega))]
    by_cases h1 : R (55 + i) = -1
    · rw [if_pos h1, if_pos (decide_eq_true h1)]
    · rw [if_neg h1, if_neg (by rw [decide_eq_false h1]; decide)]
theorem K_goingA (H : isEnv σ x0 h0 pa va P) (h : isCo σ x0 ca R lo) (hc : gR σ x0 0 2 = some ca) : ∀ (c i n : Nat) (v : Int32), i + c = P.1.2.2 → c < n → KX1_count_161 n x0 v (nI i) σ = some (.inl (lp (bF fun k => decide (¬ R (65 + k) ≤ 0)) c i v, σ)) := by
  have h10 := ev_10 H
  intro c
  induction c with
  | zero =>
    intro i n v hi hn
    obtain ⟨n, rfl⟩ : ∃ m, n = m + 1 := ⟨n - 1, by omega⟩
    show BKX1_count_161 (KX1_count_161 n) x0 v (nI i) σ = _
    unfold BKX1_count_161
    simp only [ev_pa H, ev_cr H, bdS]
    rw [if_pos (nI_le (by omega) (by omega))]
    rfl
  | succ c ih =>
    intro i n v hi hn
    obtain ⟨n, rfl⟩ : ∃ m, n = m + 1 := ⟨n - 1, by omega⟩
    have e := ih (i + 1) n (bF (fun k => decide (¬ R (65 + k) ≤ 0)) i v) (by omega) (by omega)
    show BKX1_count_161 (KX1_count_161 n) x0 v (nI i) σ = some (.inl (lp (bF fun k => decide (¬ R (65 + k) ≤ 0)) c (i + 1) (bF (fun k => decide (¬ R (65 + k) ≤ 0)) i v), σ))
    rw [← e]
    unfold BKX1_count_161 KX1_count_189 bF
    simp only [ev_pa H, ev_cr H, hc, co_o h, K_goes h (show i < 10 by omega), nI_add, bdS]
    rw [if_neg (nI_ge (show i < P.1.2.2 by omega) (by omega))]
    by_cases h1 : R (65 + i) ≤ 0
    · rw [if_pos h1, if_pos nI_0, if_neg (fun z => absurd h1 (of_decide_eq_true z))]
    · rw [if_neg h1, if_neg s1_ne, if_pos (decide_eq_true h1)]
end CN
