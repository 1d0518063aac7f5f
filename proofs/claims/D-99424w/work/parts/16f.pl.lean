/-! the plain law: pooled, missed, a game -/
set_option maxRecDepth 100000
/-- the same but at one place -/
def xq (j : Nat) (R R' : Nat → Int32) : Prop := ∀ i, i ≠ j → R i = R' i
theorem xq.u {j i : Nat} {R R' : Nat → Int32} {v v' : Int32} (h : xq j R R') (hv : v = v') : xq j (upd R i v) (upd R' i v') := fun q hq => by
  by_cases e : q = i
  · subst e; rw [upd_s, upd_s, hv]
  · rw [upd_n e, upd_n e, h q hq]
section XQ
variable {P : pvT} {R R' : Nat → Int32} {k : Nat}
theorem xq_give {j t : Nat} {v v' : Int32} (h : xq j R R') (ht : 1 + t ≠ j) (hv : v = v') : xq j (giveR R t v) (giveR R' t v') := by
  unfold giveR
  exact h.u (by rw [h _ ht, hv])
theorem xq_lose {j q : Nat} (h : xq j R R') : xq j (loseR R q) (loseR R' q) := by
  unfold loseR
  exact ((h.u rfl).u rfl).u rfl
theorem xq_open {j q t : Nat} (h : xq j R R') (h1 : 35 + q ≠ j) (h2 : 25 + q ≠ j) (h3 : 1 + t ≠ j) (h4 : 9 + t ≠ j) : xq j (openR R q t) (openR R' q t) := by
  unfold openR
  rw [← h _ h1, ← h _ h2]
  by_cases e : R (35 + q) = 0
  · rw [if_pos e, if_pos e]
    exact xq_lose (xq_give h h3 rfl)
  · rw [if_neg e, if_neg e]
    exact xq_lose (h.u (by rw [h _ h4]))
theorem xq_ship {j q : Nat} (h : xq j R R') (h1 : 45 + q ≠ j) (h2 : 25 + q ≠ j) (h3 : 75 + q ≠ j) (h4 : 65 + q ≠ j) : xq j (shipR R q) (shipR R' q) := by
  unfold shipR
  dsimp only
  rw [← h _ h1, ← h _ h2, ← h _ h3]
  by_cases e : R (45 + q) = 0
  · rw [if_pos e, if_pos e]
    exact (h.u rfl).u (by rw [upd_n (show 65 + q ≠ 25 + q by omega), upd_n (show 65 + q ≠ 25 + q by omega), h _ h4])
  · rw [if_neg e, if_neg e]
    exact h.u (by rw [h _ h4])
theorem xq_gos {q : Nat} (h : xq (25 + k) R R') (hk : k < 10) (hq : q < 10) (hz : R (65 + k) ≤ 0) : xq (25 + k) (gosR q R) (gosR q R') ∧ gosR q R (65 + k) ≤ 0 := by
  unfold gosR
  rw [← h (65 + q) (by omega)]
  by_cases e : R (65 + q) ≤ 0
  · rw [if_pos e, if_pos e]
    exact ⟨h, hz⟩
  · rw [if_neg e, if_neg e]
    have hne : q ≠ k := fun z => e (by rw [z]; exact hz)
    refine ⟨xq_ship h (by omega) (by omega) (by omega) (by omega), ?_⟩
    unfold shipR
    try dsimp only
    rw [upd_n (show 65 + k ≠ 65 + q by omega)]
    split
    · rw [upd_n (show 65 + k ≠ 25 + q by omega)]; exact hz
    · exact hz
theorem xq_crates (hk : k < 10) : ∀ (c i : Nat) (R R' : Nat → Int32), xq (25 + k) R R' → R (65 + k) ≤ 0 → i + c ≤ 10 → xq (25 + k) (lp gosR c i R) (lp gosR c i R') ∧ lp gosR c i R (65 + k) ≤ 0 := by
  intro c
  induction c with
  | zero => intro i R R' h hz _; exact ⟨h, hz⟩
  | succ c ih =>
    intro i R R' h hz hi
    obtain ⟨h1, h2⟩ := xq_gos h hk (q := i) (by omega) hz
    exact ih (i + 1) _ _ h1 h2 (by omega)
theorem xq_odd (h : xq (25 + k) R R') (hk : k < 10) (h10 : P.1.2.2 ≤ 10) {t : Nat} (ht : t < 8) : oddR P R t = oddR P R' t := by
  have hl : lyR P R (nI t) = lyR P R' (nI t) := by
    unfold lyR
    refine lp_congr _ _ _ fun q _ hq y => ?_
    unfold lyF liesR
    rw [h (55 + q) (by omega), h (65 + q) (by omega)]
  have hv : ∀ n, vaR P R t n = vaR P R' t n := fun n => by
    funext q
    unfold vaR
    rw [h (1 + t) (by omega), h (9 + t) (by omega), h 0 (by omega)]
  unfold oddR
  rw [hl, h (1 + t) (by omega), h (9 + t) (by omega)]
  cases ho : P.2.2 with
  | none => rfl
  | some ev => dsimp only; rw [hv]
theorem xq_f75 {j t : Nat} (h : xq j R R') (h1 : 1 + t ≠ j) (h2 : 9 + t ≠ j) : xq j (fares75 R t) (fares75 R' t) := by
  unfold fares75
  dsimp only
  rw [upd_n (show 9 + t ≠ 1 + t by omega), upd_n (show 9 + t ≠ 1 + t by omega), ← h _ h1, ← h _ h2]
  exact (h.u rfl).u rfl
theorem xq_fares {j t : Nat} (h : xq j R R') (h1 : 1 + t ≠ j) (h2 : 9 + t ≠ j) (h3 : 17 + t ≠ j) (w : Bool) : xq j (faresR P R t w) (faresR P R' t w) := by
  unfold faresR
  cases w with
  | true =>
    rw [if_pos rfl, if_pos rfl]
    dsimp only
    refine xq_f75 ((h.u (by rw [h _ h3])).u ?_) h1 h2
    rw [upd_n (show 1 + t ≠ 17 + t by omega), upd_n (show 1 + t ≠ 17 + t by omega), h _ h1]
  | false =>
    rw [if_neg (by decide), if_neg (by decide)]
    dsimp only
    exact xq_f75 (xq_give (h.u (by rw [h _ h3])) h1 rfl) h1 h2
theorem xq_town (h : xq (25 + k) R R') (hk : k < 10) (h8 : P.1.1 ≤ 8) (h10 : P.1.2.2 ≤ 10) {t : Nat} (ht : t < P.1.1) {v : Int32} : xq (25 + k) (townR P t (R, v)).1 (townR P t (R', v)).1 ∧ (townR P t (R, v)).2 = (townR P t (R', v)).2 := by
  have hg : xq (25 + k) (giveR R t (P.2.1 0 t)) (giveR R' t (P.2.1 0 t)) := xq_give h (by omega) rfl
  unfold townR
  dsimp only
  rw [xq_odd hg hk h10 (t := t) (by omega)]
  split
  · exact ⟨xq_fares (j := 25 + k) (t := t) (P := P) hg (by omega) (by omega) (by omega) false, rfl⟩
  · exact ⟨xq_fares (j := 25 + k) (t := t) (P := P) hg (by omega) (by omega) (by omega) true, rfl⟩
theorem fares_65 {t q : Nat} (h1 : q ≠ 1 + t) (h2 : q ≠ 9 + t) (h3 : q ≠ 17 + t) (w : Bool) : faresR P R t w q = R q := by
  unfold faresR fares75 giveR
  cases w with
  | true =>
    rw [if_pos rfl]
    try dsimp only
    rw [upd_n h2, upd_n h1, upd_n h1, upd_n h3]
  | false =>
    rw [if_neg (by decide)]
    try dsimp only
    rw [upd_n h2, upd_n h1, upd_n h1, upd_n h3]
theorem town_65 {t q : Nat} (h1 : q ≠ 1 + t) (h2 : q ≠ 9 + t) (h3 : q ≠ 17 + t) {v : Int32} : (townR P t (R, v)).1 q = R q := by
  unfold townR
  dsimp only
  split
  · dsimp only; rw [fares_65 h1 h2 h3]; unfold giveR; rw [upd_n h1]
  · dsimp only; rw [fares_65 h1 h2 h3]; unfold giveR; rw [upd_n h1]
theorem xq_towns (hk : k < 10) (h8 : P.1.1 ≤ 8) (h10 : P.1.2.2 ≤ 10) : ∀ (c i : Nat) (R R' : Nat → Int32) (v : Int32), xq (25 + k) R R' → i + c ≤ P.1.1 → xq (25 + k) (lp (townR P) c i (R, v)).1 (lp (townR P) c i (R', v)).1 ∧ (lp (townR P) c i (R, v)).1 (65 + k) = R (65 + k) := by
  intro c
  induction c with
  | zero => intro i R R' v h _; exact ⟨h, rfl⟩
  | succ c ih =>
    intro i R R' v h hi
    obtain ⟨h1, h2⟩ := xq_town (v := v) h hk h8 h10 (t := i) (by omega)
    obtain ⟨h3, h4⟩ := ih (i + 1) (townR P i (R, v)).1 (townR P i (R', v)).1 (townR P i (R, v)).2 h1 (by omega)
    show xq (25 + k) (lp (townR P) c (i + 1) (townR P i (R, v))).1 (lp (townR P) c (i + 1) (townR P i (R', v))).1 ∧ (lp (townR P) c (i + 1) (townR P i (R, v))).1 (65 + k) = R (65 + k)
    rw [show townR P i (R', v) = ((townR P i (R', v)).1, (townR P i (R, v)).2) from Prod.ext rfl h2.symm]
    exact ⟨h3, h4.trans (town_65 (by omega) (by omega) (by omega))⟩
theorem xq_day (h : xq (25 + k) R R') (hk : k < 10) (h8 : P.1.1 ≤ 8) (h10 : P.1.2.2 ≤ 10) (hz : R (65 + k) ≤ 0) : xq (25 + k) (dayR P R).1 (dayR P R').1 ∧ (dayR P R).1 (65 + k) ≤ 0 := by
  obtain ⟨h1, h2⟩ := xq_crates hk P.1.2.2 0 R R' h hz (by omega)
  obtain ⟨h3, h4⟩ := xq_towns (P := P) hk h8 h10 P.1.1 0 _ _ (nI 0) h1 (by omega)
  unfold dayR
  dsimp only
  refine ⟨h3.u (by rw [h3 0 (by omega)]), ?_⟩
  rw [upd_n (by omega), h4]
  exact h2
theorem xq_it (hk : k < 10) (h8 : P.1.1 ≤ 8) (h10 : P.1.2.2 ≤ 10) : ∀ (n : Nat) (R R' : Nat → Int32), xq (25 + k) R R' → R (65 + k) ≤ 0 → xq (25 + k) (itR P n R) (itR P n R') := by
  intro n
  induction n with
  | zero => intro R R' h _; exact h
  | succ n ih =>
    intro R R' h hz
    obtain ⟨h1, h2⟩ := xq_day h hk h8 h10 hz
    exact ih _ _ h1 h2
theorem xq_sum (h : xq (25 + k) R R') (h8 : P.1.1 ≤ 8) : sumR P R 17 = sumR P R' 17 := by
  unfold sumR
  exact lp_congr _ _ _ fun q _ hq y => by
    show y + R (17 + q) = y + R' (17 + q)
    rw [h (17 + q) (by omega)]
end XQ
section QF
variable {σ : vv_S} {T : tw_T} {x0 pa va ca a : Nat} {h0 : Nat → Option vv_E} {P : pvT} {R : Nat → Int32} {lo : Int32}
theorem K_wonIn (H : isEnv σ x0 h0 pa va P) (h : isCo σ x0 a R lo) (h6 : six P) (hd : ∀ q, coA a q → h0 q = none) {m : Nat} (hm : m ≤ 60) : ∃ σ' lo', KX1_wonIn (KX_fo 80) x0 a (nI m) σ = some (sumR P (itR P m R) 17, σ') ∧ isEnv σ' x0 h0 pa va P ∧ isCo σ' x0 a (itR P m R) lo' ∧ fr (coV a va) σ σ' := by
  obtain ⟨σ1, lo1, s1, H1, c1, f1⟩ := K_after H h h6 hd hm
  have a1 : KX3_sum a (a + 1 + 2) σ1 = some (sumR P (itR P m R) 17) := K_sum H1 c1 (j := 2) (by omega)
  refine ⟨σ1, lo1, ?_, H1, c1, f1⟩
  unfold KX1_wonIn
  simp only [co_o h, s1, co_R c1 (j := 2) (by decide), co_o c1, a1, bdS]
/-! pooled -/
def poF (P : pvT) (R : Nat → Int32) (t : Nat) (R' : Nat → Int32) : Nat → Int32 := upd (upd R' (1 + t) (sumR P R 1 / nI P.1.1)) (9 + t) (sumR P R 9 / nI P.1.1)
def poE (x0 : Nat) (x1 : Int32) (x2 : Nat) (σ : vv_S) : Option (hX (Int32 × vv_S)) := (isO σ x0 0).bind fun _ => (KX1_wonIn (KX_fo 80) x0 x2 x1 σ).bind fun r5 => (gR r5.2 x0 0 2).bind fun v7 => (isO r5.2 v7 2).bind fun _ => (KX3_copy v7 r5.2).bind fun r8 => (isO r8.2 x0 0).bind fun _ => (KX1_wonIn (KX_fo 80) x0 r8.1 x1 r8.2).bind fun r10 => some (.inl ((r5.1 - r10.1), r10.2))
theorem K_pool_loop (hab : ca + 10 ≤ a) (hd : ∀ q, coA a q → h0 q = none) (x1 : Int32) : ∀ (c i n : Nat) (σ : vv_S) (R' : Nat → Int32) (lo' : Int32), isEnv σ x0 h0 pa va P → gR σ x0 0 2 = some ca → isCo σ x0 ca R lo → isCo σ x0 a R' lo' → i + c = P.1.1 → c < n → ∃ σ', KX1_pooled_20 (KX_fo 80) n x0 x1 a (nI i) σ = poE x0 x1 a σ' ∧ isEnv σ' x0 h0 pa va P ∧ isCo σ' x0 a (lp (poF P R) c i R') lo' ∧ fr (coA a) σ σ' := by
  intro c
  induction c with
  | zero =>
    intro i n σ R' lo' H hx c0 c1 hi hn
    obtain ⟨n, rfl⟩ : ∃ m, n = m + 1 := ⟨n - 1, by omega⟩
    have h8 := ev_8 H
    refine ⟨σ, ?_, H, c1, fr.rf⟩
    show BKX1_pooled_20 (KX_fo 80) (KX1_pooled_20 (KX_fo 80) n) x0 x1 a (nI i) σ = _
    unfold BKX1_pooled_20
    simp only [ev_pa H, ev_o H, ev_tw H, bdS]
    rw [if_pos (nI_le (by omega) (by omega))]
    rfl
  | succ c ih =>
    intro i n σ R' lo' H hx c0 c1 hi hn
    obtain ⟨n, rfl⟩ : ∃ m, n = m + 1 := ⟨n - 1, by omega⟩
    have h8 := ev_8 H
    have ke : ∀ {σ1 σ2 : vv_S} {R1 : Nat → Int32} {lo1 : Int32}, isCo σ1 x0 ca R1 lo1 → fr (coA a) σ1 σ2 → isCo σ2 x0 ca R1 lo1 := fun h f => h.ke fun q h1 h2 => f.2 q fun h4 => by have h4 : a ≤ q ∧ q < a + 10 := h4; omega
    obtain ⟨σ1, s1, d1, f1⟩ := co_sI c1 (j := 0) (i := i) (v := sumR P R 1 / nI P.1.1) (by decide) (show i < 8 by omega)
    have H1 := ev_co H c1 hd f1
    have e1 := ke c0 f1
    have hx1 : gR σ1 x0 0 2 = some ca := (gR_eq (f1.2 _ (ev_xco H c1))).trans hx
    obtain ⟨σ2, s2, d2, f2⟩ := co_sI d1 (j := 1) (i := i) (v := sumR P R 9 / nI P.1.1) (by decide) (show i < 8 by omega)
    have H2 := ev_co H1 d1 hd f2
    have e2 := ke e1 f2
    have hx2 : gR σ2 x0 0 2 = some ca := (gR_eq (f2.2 _ (ev_xco H1 d1))).trans hx1
    obtain ⟨σ3, s3, H3, d3, f3⟩ := ih (i + 1) n σ2 _ lo' H2 hx2 e2 d2 (by omega) (by omega)
    refine ⟨σ3, ?_, H3, d3, (f1.tr f2).tr f3⟩
    show BKX1_pooled_20 (KX_fo 80) (KX1_pooled_20 (KX_fo 80) n) x0 x1 a (nI i) σ = _
    unfold BKX1_pooled_20
    have a1 : KX3_sum ca (ca + 1 + 0) σ = some (sumR P R 1) := K_sum H c0 (j := 0) (by omega)
    have a2 : KX3_sum ca (ca + 1 + 1) σ1 = some (sumR P R 9) := K_sum H1 e1 (j := 1) (by omega)
    have hP0 : 0 < P.1.1 := by omega
    simp only [ev_pa H, ev_o H, ev_tw H, hx, co_R c1 (j := 0) (by decide), co_R c0 (j := 0) (by decide), co_o c0, a1, dv_n hP0 (show P.1.1 < 2 ^ 31 by omega), s1, co_R d1 (j := 1) (by decide), hx1, co_R e1 (j := 1) (by decide), co_o e1, a2, ev_pa H1, ev_o H1, ev_tw H1, s2, bdS]
    rw [if_neg (nI_ge (show i < P.1.1 by omega) (by omega)), nI_add]
    exact s3
theorem sum_b (hI : invR P R) (h8 : P.1.1 ≤ 8) {s : Nat} (hs : s = 1 ∨ s = 9) : ∀ (c i g : Nat), i + c ≤ 8 → g ≤ 9999 * i → ∃ g', g' ≤ 9999 * (i + c) ∧ lp (fun t v => v + R (s + t)) c i (nI g) = nI g' := by
  intro c
  induction c with
  | zero => intro i g _ hg; exact ⟨g, hg, rfl⟩
  | succ c ih =>
    intro i g hi hg
    have hr : rI (R (s + i)) 0 (9999 : Nat) := by
      rcases hs with rfl | rfl
      · exact (hI.1 i (by omega)).1
      · exact (hI.1 i (by omega)).2
    obtain ⟨q, hq, e⟩ := rI_n hr
    obtain ⟨g', h1, h2⟩ := ih (i + 1) (g + q) (by omega) (by omega)
    refine ⟨g', by rw [show i + (c + 1) = i + 1 + c by omega]; exact h1, ?_⟩
    show lp (fun t v => v + R (s + t)) c (i + 1) (nI g + R (s + i)) = _
    rw [e, nI_add]
    exact h2
theorem avg_b (hI : invR P R) (h8 : P.1.1 ≤ 8) (h1 : 0 < P.1.1) {s : Nat} (hs : s = 1 ∨ s = 9) : rI (sumR P R s / nI P.1.1) 0 9999 := by
  obtain ⟨g, hg, e⟩ := sum_b hI h8 hs P.1.1 0 0 (by omega) (by omega)
  unfold sumR
  rw [e, pk_div (by omega) h1 (by omega)]
  have hd : g / P.1.1 ≤ 9999 := Nat.div_le_of_le_mul (by rw [Nat.mul_comm]; omega)
  generalize g / P.1.1 = q at hd ⊢
  unfold rI
  rw [ti_n (by omega)]
  omega
theorem inv_pool (hI : invR P R) (h8 : P.1.1 ≤ 8) : ∀ (c i : Nat) (R' : Nat → Int32), invR P R' → i + c ≤ P.1.1 → invR P (lp (poF P R) c i R') := by
  intro c i R' h hi
  refine lp_inv (p := invR P) c i R' h fun t h1 h2 y hy => ?_
  unfold poF
  have a1 := avg_b hI h8 (by omega) (s := 1) (Or.inl rfl)
  have a9 := avg_b hI h8 (by omega) (s := 9) (Or.inr rfl)
  exact inv_u (inv_u hy ⟨fun _ _ => a1, fun a c => by omega, fun a c => by omega, fun a c => by omega, fun a c => by omega⟩) ⟨fun _ _ => a9, fun a c => by omega, fun a c => by omega, fun a c => by omega, fun a c => by omega⟩
theorem J_pool_loop (hI : invR P R) (cx : six P ∧ invP P) (h8 : P.1.1 ≤ 8) (h10 : P.1.2.2 ≤ 10) {m : Nat} (hm : m ≤ 60) (w : Int32) : ∀ (c i n : Nat) (T : tw_T) (R' : Nat → Int32), isRw T 0 R → isRw T 85 R' → isTp T P → invR P R' → i + c = P.1.1 → c < n → ∃ T', J_pooled_39 n (nI m) w (nI i) T = some (sumR P (itR P m (lp (poF P R) c i R')) 17 - w, T') ∧ jfr 85 T T' := by
  intro c
  induction c with
  | zero =>
    intro i n T R' r0 r1 p0 i1 hi hn
    obtain ⟨n, rfl⟩ : ∃ m, n = m + 1 := ⟨n - 1, by omega⟩
    obtain ⟨T1, s1, c1, p1, i2, f1⟩ := J_days_e r1 p0 i1 cx.2 cx.1 h8 h10 hm
    have b1 : J_allOf (nI 102) T1 = some (sumR P (itR P m R') 17, T1) := J_all_e c1 (by omega) p1 h8 (s := 17) (by omega)
    refine ⟨T1, ?_, f1⟩
    show B_pooled_39 (J_pooled_39 n) (nI m) w (nI i) T = _
    unfold B_pooled_39
    rw [p0.1, if_pos (nI_le (by omega) (by omega))]
    simp only [s1, b1, bdS]
    rfl
  | succ c ih =>
    intro i n T R' r0 r1 p0 i1 hi hn
    obtain ⟨n, rfl⟩ : ∃ m, n = m + 1 := ⟨n - 1, by omega⟩
    have hP0 : 0 < P.1.1 := by omega
    have b1 : J_allOf (nI 1) T = some (sumR P R 1, T) := J_all_e r0 (by omega) p0 h8 (s := 1) (by omega)
    obtain ⟨T1, s1, c1, f1⟩ := rw_st r1 (by omega) (k := 1 + i) (v := sumR P R 1 / nI P.1.1) (by omega)
    have s1 : stA T 20 170 (nI (86 + i)) (sumR P R 1 / nI P.1.1) = some T1 := by rw [show 86 + i = 85 + (1 + i) by omega]; exact s1
    have r01 := r0.jq (jq.jf f1)
    have p1 := p0.jf f1
    have b2 : J_allOf (nI 9) T1 = some (sumR P R 9, T1) := J_all_e r01 (by omega) p1 h8 (s := 9) (by omega)
    obtain ⟨T2, s2, c2, f2⟩ := rw_st c1 (by omega) (k := 9 + i) (v := sumR P R 9 / nI P.1.1) (by omega)
    have s2 : stA T1 20 170 (nI (94 + i)) (sumR P R 9 / nI P.1.1) = some T2 := by rw [show 94 + i = 85 + (9 + i) by omega]; exact s2
    obtain ⟨T3, s3, f3⟩ := ih (i + 1) n T2 _ (r01.jq (jq.jf f2)) c2 (p1.jf f2) (inv_pool hI h8 1 i R' i1 (by omega)) (by omega) (by omega)
    refine ⟨T3, ?_, (f1.tr f2).tr f3⟩
    show B_pooled_39 (J_pooled_39 n) (nI m) w (nI i) T = _
    unfold B_pooled_39
    rw [p0.1, if_neg (nI_ge (show i < P.1.1 by omega) (by omega))]
    simp only [b1, p0.1, dv_n hP0 (show P.1.1 < 2 ^ 31 by omega), nI_add, s1, b2, p1.1, s2, bdS]
    exact s3
theorem o_pooled (Q : isQ x0 h0 pa va ca P R lo σ T) (x1 : Int32) : ans va 30 400 [(iae, nI 1)] σ T (KX1_pooled (KX_fo 80) x0 x1 σ) (J_pooled x1 T) := by
  obtain ⟨T0, e0, Q0, hz, f0⟩ := Q.z
  unfold KX1_pooled J_pooled
  simp only [e0, bdS]
  rcases g_days hz x1 (a := 1) (by omega) (c := nI 1) s1_ne with ⟨d, -, hd2, rfl, k2, j2⟩ | ⟨k2, j2⟩
  · have h8 := ev_8 Q0.1
    have h10 := ev_10 Q0.1
    obtain ⟨σ1, T1, s1, u1, B1, hd, F1, z1, y1, g1, hz1⟩ := Q0.start hz
    have Q1 := (Q0.k (by obtain ⟨lo1, H1, -⟩ := B1; exact H1) F1).j g1
    obtain ⟨lo1, H1, c1, r1, p1, i1⟩ := B1
    -- the twin: first as it is
    obtain ⟨T2, u2, r2, p2, i2, g2⟩ := J_days_e r1 p1 i1 Q0.cx.2 Q0.cx.1 h8 h10 hd2
    have b2 : J_allOf (nI 102) T2 = some (sumR P (itR P d R) 17, T2) := J_all_e r2 (by omega) p2 h8 (s := 17) (by omega)
    have Q2 := Q1.j (jq.jf g2)
    obtain ⟨T3, u3, r3, e3, g3⟩ := J_tries_e Q2.rw
    obtain ⟨T4, u4, g4⟩ := J_pool_loop Q0.inv Q0.cx h8 h10 hd2 (sumR P (itR P d R) 17) P.1.1 0 NN T3 R (Q2.rw.jq (jq.jf g3)) r3 (Q2.tp.jq (jq.jf g3)) Q0.inv (by omega) (by unfold NN; omega)
    -- the component
    obtain ⟨σ2, s2, H2, c2, f2⟩ := K_pool_loop (R := R) (lo := lo) Q0.lt.2.2 hd (nI d) P.1.1 0 NN σ1 R lo1 H1 Q1.gc Q1.co c1 (by omega) (by unfold NN; omega)
    obtain ⟨σ3, lo3, s3, H3, c3, f3⟩ := K_wonIn H2 c2 Q0.cx.1 hd hd2
    have F3 := (F1.coV (Nat.le_refl _) (f2.mo fun q hq => Or.inl hq)).coV (Nat.le_refl _) f3
    have Q3 := Q0.k H3 F3
    obtain ⟨σ4, s4, c4, z4, k4⟩ := K_copy Q3.co Q3.lt.2.2
    have H4 := H3.up Q3.dm Q3.lt.1 Q3.lt.2.1 k4
    have hd4 : ∀ q, coA σ3.2.1 q → h0 q = none := fun q hq => Q3.dm q hq.1
    obtain ⟨σ5, lo5, s5, H5, c5, f5⟩ := K_wonIn H4 c4 Q0.cx.1 hd4 hd2
    have F4 : fa (fun q => q = va) 10 96 σ3 σ4 := ⟨by rw [z4]; exact ⟨Nat.le_add_right _ _, Nat.le_refl _, Nat.le_add_right _ _, Nat.le_refl _⟩, fun q h1 _ => k4 q h1⟩
    have F5 : fa (fun q => q = va) 10 96 σ3 σ5 := F4.coV (Nat.le_refl _) f5
    have hE : poE x0 (nI d) σ.2.1 σ2 = some (.inl (sumR P (itR P d (lp (poF P R) P.1.1 0 R)) 17 - sumR P (itR P d R) 17, σ5)) := by
      unfold poE
      simp only [ev_x H2, s3, Q3.gc, co_o Q3.co, s4, ev_x H4, s5, bdS]
    simp only [k2, j2, K_right1, xbL, bdS, Q0.gc, co_o Q0.co, s1, u1, u2, b2, u3, u4, s2, hE, if_neg s1_ne]
    exact ans.ok ((g4.z.trans (g3.z.trans g2.z)).trans hz1) ((F3.tr F5 (fun _ _ h => h)).mo (fun _ h => h) (by omega) (by omega)) H5.ov (((f0.tr g1).tr (jq.jf g2)).tr (jq.jf (g3.tr g4)))
  · simp only [k2, j2, K_right0, xbR, bdS, if_pos nI_0]
    exact ans.th (List.mem_cons_self ..) F_s (by omega) (by omega) Q0.1.ov (f0.tr jq.t0)
end QF
