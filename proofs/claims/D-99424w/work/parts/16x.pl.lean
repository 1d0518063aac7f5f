/-! the plain law: what was seen, a try of it -/
set_option maxRecDepth 100000
section SO
variable {σ : vv_S} {T : tw_T} {x0 pa va ca tc lu a : Nat} {h0 : Nat → Option vv_E} {P : pvT} {R R0 : Nat → Int32} {lo : Int32} {f : Nat → Int32}
def isLu (σ : vv_S) (lu : Nat) (f : Nat → Int32) : Prop := σ.1 lu = some (true, .inl (.int, 248, .inl f))
theorem lu_co (h : isCo σ x0 a R lo) (hu : isLu σ lu f) : ¬ coA a lu := by
  intro hq
  unfold isLu at hu
  by_cases e : lu = a
  · rw [e, h.1] at hu; cases hu
  · obtain ⟨g, h1, -⟩ := h.2 (lu - (a + 1)) (by have := hq.1; have := hq.2; omega)
    rw [show a + 1 + (lu - (a + 1)) = lu by have := hq.1; omega, hu] at h1
    have h2 := Option.some.inj h1
    have h3 := congrArg Prod.snd h2
    have h4 : (248 : Nat) = ro_n (lu - (a + 1)) := by injection h3 with h5; injection h5 with h6 h7; injection h7
    unfold ro_n at h4
    split at h4 <;> omega
theorem lu_va (H : isEnv σ x0 h0 pa va P) (hu : isLu σ lu f) : va ≠ lu := by
  obtain ⟨-, -, -, -, -, -, u, h⟩ := H
  intro e
  unfold isLu at hu
  rw [e, hu] at h
  have h2 := Option.some.inj h
  have h3 := congrArg Prod.snd h2
  have h4 : (248 : Nat) = 6 := by injection h3 with h5; injection h5 with h6 h7; injection h7
  omega
theorem lu_x (H : isEnv σ x0 h0 pa va P) (hu : isLu σ lu f) : x0 ≠ lu := by
  obtain ⟨-, -, ho, -⟩ := H
  intro e
  unfold isLu at hu
  unfold isO at ho
  rw [e, hu] at ho
  cases ho
def isU (x0 tc lu : Nat) (h0 : Nat → Option vv_E) (σ : vv_S) : Prop := gR σ x0 0 12 = some tc ∧ gR σ x0 0 13 = some lu ∧ (∀ q, coA tc q → h0 q = none) ∧ h0 lu = none
theorem isU.k {σ' : vv_S} (h : isU x0 tc lu h0 σ) (e : σ'.1 x0 = σ.1 x0) : isU x0 tc lu h0 σ' := ⟨(gR_eq e).trans h.1, (gR_eq e).trans h.2.1, h.2.2⟩
theorem K_rec (x1 x2 : Int32) (k14 : Nat → Int32 → Int32 → Int32 → vv_S → Option (Int32 × vv_S)) {j : Nat} (hj : j ≤ 30) : ∀ (c i n : Nat) (σ : vv_S) (f : Nat → Int32), isEnv σ x0 h0 pa va P → isCo σ x0 tc R lo → isU x0 tc lu h0 σ → isLu σ lu f → i + c = 8 → c < n → ∃ σ' f', KX1_isSoBy_42 (KX_fo 80) k14 n x0 x1 x2 (nI j) (nI i) σ = ((KX3_pass (KX_fo 80) tc (nI 0) σ').bind fun r3 => k14 x0 x1 x2 (nI (j + 1)) r3.2) ∧ isEnv σ' x0 h0 pa va P ∧ isCo σ' x0 tc R lo ∧ isU x0 tc lu h0 σ' ∧ isLu σ' lu f' ∧ (∀ t, i ≤ t → t < 8 → f' (8 * j + t) = R (1 + t)) ∧ (∀ q, ¬ (8 * j + i ≤ q ∧ q < 8 * j + 8) → f' q = f q) ∧ fr (fun q => q = lu) σ σ' := by
  intro c
  induction c with
  | zero =>
    intro i n σ f H C U L hi hn
    obtain ⟨n, rfl⟩ : ∃ m, n = m + 1 := ⟨n - 1, by omega⟩
    refine ⟨σ, f, ?_, H, C, U, L, fun t h1 h2 => by omega, fun q _ => rfl, fr.rf⟩
    show BKX1_isSoBy_42 (KX_fo 80) k14 (KX1_isSoBy_42 (KX_fo 80) k14 n) x0 x1 x2 (nI j) (nI i) σ = _
    unfold BKX1_isSoBy_42
    rw [if_pos (nI_le (by omega) (by omega))]
    simp only [U.1, co_o C, nI_add, bdS]
  | succ c ih =>
    intro i n σ f H C U L hi hn
    obtain ⟨n, rfl⟩ : ∃ m, n = m + 1 := ⟨n - 1, by omega⟩
    obtain ⟨σ1, s1, L1, f1⟩ := sI_at L (i := 8 * j + i) (v := R (1 + i)) (by omega) (by omega)
    have hx := lu_x H L
    obtain ⟨σ2, f2, a1, a2, a3, a4, a5, a6, a7, a8⟩ := ih (i + 1) n σ1 _ (H.fr f1 (fun q hq => by rw [show q = lu from hq]; exact U.2.2.2) hx (lu_va H L)) (C.ke fun q h1 h2 => f1.n1 fun e => lu_co C L (by rw [← e]; exact ⟨h1, h2⟩)) (U.k (f1.n1 hx)) L1 (by omega) (by omega)
    refine ⟨σ2, f2, ?_, a2, a3, a4, a5, fun t h1 h2 => ?_, fun q hq => ?_, f1.tr a8⟩
    · show BKX1_isSoBy_42 (KX_fo 80) k14 (KX1_isSoBy_42 (KX_fo 80) k14 n) x0 x1 x2 (nI j) (nI i) σ = _
      unfold BKX1_isSoBy_42
      have l0 : aI σ .int (tc + 1 + 0) (nI i) = some (R (1 + i)) := co_aI C (j := 0) (by decide) (show i < 8 by omega)
      rw [if_neg (nI_ge (by omega) (by omega))]
      simp only [U.1, U.2.1, co_R C (j := 0) (by decide), l0, pk_mul, nI_add, s1, bdS]
      exact a1
    · by_cases e : t = i
      · subst e
        rw [a7 _ (by omega), upd_s]
      · exact a6 t (by omega) h2
    · rw [a7 q (by omega), upd_n (by omega)]
def j29 (T T' : tw_T) : Prop := T'.1 = T.1 ∧ ∀ r, r ≠ 29 → T'.2.2 r = T.2.2 r
theorem j29.rf {T : tw_T} : j29 T T := ⟨rfl, fun _ _ => rfl⟩
theorem j29.tr {T T1 T2 : tw_T} (h1 : j29 T T1) (h2 : j29 T1 T2) : j29 T T2 := ⟨h2.1.trans h1.1, fun r a => (h2.2 r a).trans (h1.2 r a)⟩
theorem j29.q {T T' : tw_T} (h : j29 T T') : jq T T' := ⟨fun k _ => congrFun h.1 k, fun r hr => h.2 r (by omega), fun q _ => by rw [h.2 20 (by omega)]⟩
theorem J_rec (x1 x2 : Int32) (k6 : Int32 → Int32 → Int32 → tw_T → Option (Int32 × tw_T)) (h8 : P.1.1 ≤ 8) {j : Nat} (hj : j ≤ 30) : ∀ (c i n : Nat) (T : tw_T), isRw T 85 R → isTp T P → i + c = P.1.1 → c < n → ∃ T', J_isSeen_32 k6 n x1 x2 (nI j) (nI i) T = ((J_dayGoes (nI 85) T').bind fun r2 => k6 x1 x2 (nI (j + 1)) r2) ∧ (∀ t, i ≤ t → t < P.1.1 → T'.2.2 29 (8 * j + t) = R (1 + t)) ∧ (∀ q, ¬ (8 * j + i ≤ q ∧ q < 8 * j + P.1.1) → T'.2.2 29 q = T.2.2 29 q) ∧ j29 T T' := by
  intro c
  induction c with
  | zero =>
    intro i n T r p hi hn
    obtain ⟨n, rfl⟩ : ∃ m, n = m + 1 := ⟨n - 1, by omega⟩
    refine ⟨T, ?_, fun t h1 h2 => by omega, fun q _ => rfl, j29.rf⟩
    show B_isSeen_32 k6 (J_isSeen_32 k6 n) x1 x2 (nI j) (nI i) T = _
    unfold B_isSeen_32
    rw [p.1, if_pos (nI_le (by omega) (by omega)), nI_add]
  | succ c ih =>
    intro i n T r p hi hn
    obtain ⟨n, rfl⟩ : ∃ m, n = m + 1 := ⟨n - 1, by omega⟩
    have f1 : j29 T (tw_A T 29 (upd (T.2.2 29) (8 * j + i) (R (1 + i)))) := ⟨rfl, fun _ h => A_n h⟩
    obtain ⟨T2, a1, a2, a3, a4⟩ := ih (i + 1) n _ (r.of (A_n (by decide))) (p.jq f1.q) (by omega) (by omega)
    refine ⟨T2, ?_, fun t h1 h2 => ?_, fun q hq => ?_, f1.tr a4⟩
    · show B_isSeen_32 k6 (J_isSeen_32 k6 n) x1 x2 (nI j) (nI i) T = _
      unfold B_isSeen_32
      rw [p.1, if_neg (nI_ge (show i < P.1.1 by omega) (by omega))]
      simp only [nI_add, rd85 r (show 1 + i < 85 by omega) (show 86 + i = 85 + (1 + i) by omega) (us_tp p (by omega) (by omega) (by omega)), pk_mul, nI_st (show 8 * j + i < 248 by omega) (show 248 < 2 ^ 31 by omega), bdS]
      exact a1
    · by_cases e : t = i
      · subst e
        rw [a3 _ (by omega), A_s, upd_s]
      · exact a2 t (by omega) h2
    · rw [a3 q (by omega), A_s, upd_n (by omega)]
/-! what a day leaves -/
theorem gos_q {q i : Nat} (h1 : q ≠ 25 + i) (h2 : q = 65 + i → R q ≤ 0) : gosR i R q = R q := by
  unfold gosR
  by_cases hg : R (65 + i) ≤ 0
  · rw [if_pos hg]
  · rw [if_neg hg]
    have h3 : q ≠ 65 + i := fun e => hg (by rw [← e]; exact h2 e)
    unfold shipR
    try dsimp only
    rw [upd_n h3]
    split
    · rw [upd_n h1]
    · rfl
theorem gos_qs {q : Nat} : ∀ (c i : Nat) (R : Nat → Int32), (∀ k, i ≤ k → k < i + c → q ≠ 25 + k ∧ (q = 65 + k → R q ≤ 0)) → lp gosR c i R q = R q := by
  intro c
  induction c with
  | zero => intro i R _; rfl
  | succ c ih =>
    intro i R h
    show lp gosR c (i + 1) (gosR i R) q = R q
    have e := gos_q (R := R) (h i (Nat.le_refl _) (by omega)).1 (h i (Nat.le_refl _) (by omega)).2
    rw [ih (i + 1) _ fun k h1 h2 => ⟨(h k (by omega) (by omega)).1, fun z => by rw [e]; exact (h k (by omega) (by omega)).2 z⟩, e]
theorem towns_q {q : Nat} : ∀ (c i : Nat) (s : (Nat → Int32) × Int32), (∀ t, i ≤ t → t < i + c → q ≠ 1 + t ∧ q ≠ 9 + t ∧ q ≠ 17 + t) → (lp (townR P) c i s).1 q = s.1 q := by
  intro c
  induction c with
  | zero => intro i s _; rfl
  | succ c ih =>
    intro i s h
    show (lp (townR P) c (i + 1) (townR P i s)).1 q = s.1 q
    obtain ⟨h1, h2, h3⟩ := h i (Nat.le_refl _) (by omega)
    rw [ih (i + 1) _ fun t a b => h t (by omega) (by omega)]
    exact town_65 (R := s.1) (v := s.2) h1 h2 h3
theorem day_q {q : Nat} (hq0 : q ≠ 0) (h1 : ∀ t, t < P.1.1 → q ≠ 1 + t ∧ q ≠ 9 + t ∧ q ≠ 17 + t) (h2 : ∀ k, k < P.1.2.2 → q ≠ 25 + k ∧ (q = 65 + k → R q ≤ 0)) : (dayR P R).1 q = R q := by
  unfold dayR
  try dsimp only
  rw [upd_n hq0, towns_q P.1.1 0 _ (fun t _ h => h1 t (by omega))]
  exact gos_qs P.1.2.2 0 R (fun k _ h => h2 k (by omega))
theorem open_q {k t q : Nat} (h1 : q ≠ 1 + t) (h2 : q ≠ 9 + t) (h3 : q ≠ 25 + k) (h4 : q ≠ 55 + k) (h5 : q ≠ 65 + k) : openR R k t q = R q := by
  unfold openR loseR
  rw [upd_n h5, upd_n h4, upd_n h3]
  split
  · unfold giveR; rw [upd_n h1]
  · rw [upd_n h2]
end SO
