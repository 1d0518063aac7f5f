/-! the plain law: the twin's next token -/
set_option maxRecDepth 100000
/-- the twin has the text -/
def txJ (T : tw_T) (x : txT) : Prop := x.1 ≤ 700 ∧ (∀ q, x.2 q < 256) ∧ (∀ q, q < 700 → T.2.2 8 q = nI (x.2 q)) ∧ T.1 17 = nI x.1
/-- the twin stands at the token that begins at b -/
def tkJ (T : tw_T) (x : txT) (b : Nat) : Prop := b ≤ x.1 ∧ T.1 18 = nI (enT x b) ∧ T.1 19 = nI (kiT x b) ∧ T.1 20 = nI b ∧ T.1 21 = nI (enT x b - b) ∧ T.1 22 = nI (if kiT x b = 2 then vlT x b (min 4 (enT x b - b)) else 0) ∧ T.1 23 = nI (if b < x.1 then x.2 b else 0) ∧ T.2.1 = lN (if kiT x b = 1 then hsT (fun i => x.2 (b + i)) (min 7 (enT x b - b)) else 0)
/-- only the scan has moved -/
def jk (T T' : tw_T) : Prop := (∀ k, ¬ (18 ≤ k ∧ k ≤ 23) → T'.1 k = T.1 k) ∧ T'.2.2 = T.2.2
theorem jk.rf {T : tw_T} : jk T T := ⟨fun _ _ => rfl, rfl⟩
theorem jk.tr {T T1 T2 : tw_T} (h1 : jk T T1) (h2 : jk T1 T2) : jk T T2 := ⟨fun k hk => (h2.1 k hk).trans (h1.1 k hk), h2.2.trans h1.2⟩
theorem jk.F {T : tw_T} {k : Nat} {v : Int32} (h : 18 ≤ k ∧ k ≤ 23) : jk T (tw_F T k v) := ⟨fun q hq => F_n (fun e => hq (by rw [e]; exact h)), rfl⟩
theorem jk.L {T : tw_T} {v : Int64} : jk T (tw_L T v) := ⟨fun _ _ => rfl, rfl⟩
section TJ
variable {T : tw_T} {x : txT} {p b : Nat}
theorem txJ.k {T' : tw_T} (h : txJ T x) (f : jk T T') : txJ T' x := ⟨h.1, h.2.1, fun q hq => by rw [f.2]; exact h.2.2.1 q hq, (f.1 17 (by omega)).trans h.2.2.2⟩
theorem J_by (h : txJ T x) (hp : p ≤ x.1) : J_byteAt (nI p) T = some (nI (if p < x.1 then x.2 p else 0), T) := by
  have h7 := h.1
  unfold J_byteAt J_byteAt_18
  rw [h.2.2.2]
  by_cases hl : p < x.1
  · rw [if_neg (nI_ge hl (by omega)), if_pos hl, nI_rd (by omega) (by omega), h.2.2.1 p (by omega)]
    rfl
  · rw [if_pos (nI_le (by omega) (by omega)), if_neg hl]
theorem J_le {cc : Nat} (hc : cc < 256) : J_isLetter (nI cc) = some (if isLe cc = true then nI 1 else nI 0) := by
  unfold J_isLetter J_isLetter_16 J_isLetter_17
  by_cases h1 : isLe cc = true
  · have := le_b h1
    rw [if_neg (nI_nlt (by omega) (by omega)), if_neg (nI_nlt (by omega) (by omega)), if_pos h1]
    exact zr1
  · have := le_n h1
    rw [if_neg h1]
    by_cases h2 : cc < 97
    · rw [if_pos (nI_lt h2 (by omega))]; exact zr0
    · rw [if_neg (nI_nlt (by omega) (by omega)), if_pos (nI_lt (by omega) (by omega))]; exact zr0
theorem J_di {cc : Nat} (hc : cc < 256) : J_isDigit (nI cc) = some (if isDi cc = true then nI 1 else nI 0) := by
  unfold J_isDigit J_isDigit_16 J_isDigit_17
  by_cases h1 : isDi cc = true
  · have := di_b h1
    rw [if_neg (nI_nlt (by omega) (by omega)), if_neg (nI_nlt (by omega) (by omega)), if_pos h1]
    exact zr1
  · have := di_n h1
    rw [if_neg h1]
    by_cases h2 : cc < 48
    · rw [if_pos (nI_lt h2 (by omega))]; exact zr0
    · rw [if_neg (nI_nlt (by omega) (by omega)), if_pos (nI_lt (by omega) (by omega))]; exact zr0
theorem le_0 : isLe 0 = false := by decide
theorem di_0 : isDi 0 = false := by decide
theorem d_l : ∀ d, d < 32 → Int32.toInt64 (nI d) = lN d := by decide +kernel
theorem h_st {h d : Nat} (hh : h < 2 ^ 30) (hd : d < 32) : (lN h <<< (Int32.toInt64 (nI 5) &&& 63)) ||| Int32.toInt64 (nI d) = lN (h * 32 + d) := by
  rw [d_l d hd]
  apply Int64.toBitVec_inj.mp
  rw [Int64.toBitVec_or, Int64.toBitVec_shiftLeft]
  have e1 : ∀ n, (lN n).toBitVec = BitVec.ofNat 64 n := fun _ => rfl
  have e2 : ((Int32.toInt64 (nI 5) &&& 63).toBitVec.smod 64) = 5#64 := by decide +kernel
  rw [e1, e1, e1, e2]
  apply BitVec.eq_of_toNat_eq
  rw [BitVec.toNat_or, BitVec.shiftLeft_eq', BitVec.toNat_shiftLeft, BitVec.toNat_ofNat, BitVec.toNat_ofNat, BitVec.toNat_ofNat, BitVec.toNat_ofNat, Nat.mod_eq_of_lt (show h < 2 ^ 64 by omega), Nat.mod_eq_of_lt (show d < 2 ^ 64 by omega), Nat.mod_eq_of_lt (show 5 < 2 ^ 64 by omega), Nat.shiftLeft_eq, Nat.mod_eq_of_lt (show h * 2 ^ 5 < 2 ^ 64 by omega), Nat.mod_eq_of_lt (show h * 32 + d < 2 ^ 64 by omega)]
  have := Nat.two_pow_add_eq_or_of_lt (i := 5) (b := d) (by omega) h
  rw [Nat.mul_comm h (2 ^ 5), ← this]
theorem hs_lt {f : Nat → Nat} : ∀ k, (∀ i, i < k → isLe (f i) = true) → hsT f k < 32 ^ k := by
  intro k
  induction k with
  | zero => intro _; exact Nat.one_pos
  | succ k ih =>
    intro h
    have h1 := ih fun i hi => h i (by omega)
    have h2 := le_b (h k (by omega))
    show hsT f k * 32 + (f k - 96) < 32 ^ (k + 1)
    rw [Nat.pow_succ]
    omega
theorem J_g108 : ∀ (k p n : Nat) (T : tw_T), txJ T x → T.1 18 = nI p → T.1 20 = nI b → b ≤ p → (∀ q, b ≤ q → q < p → isLe (x.2 q) = true) → T.2.1 = lN (hsT (fun i => x.2 (b + i)) (min 7 (p - b))) → p + k = x.1 → k < n → ∃ T', J_goes_108 n T = some T' ∧ T'.1 18 = nI (ru isLe x p) ∧ T'.1 19 = nI 1 ∧ T'.1 20 = nI b ∧ T'.1 21 = nI (ru isLe x p - b) ∧ T'.1 22 = T.1 22 ∧ T'.1 23 = T.1 23 ∧ T'.2.1 = lN (hsT (fun i => x.2 (b + i)) (min 7 (ru isLe x p - b))) ∧ jk T T' := by
  intro k
  have stop : ∀ (p n : Nat) (T : tw_T), txJ T x → T.1 18 = nI p → T.1 20 = nI b → b ≤ p → p ≤ x.1 → T.2.1 = lN (hsT (fun i => x.2 (b + i)) (min 7 (p - b))) → ¬ (p < x.1 ∧ isLe (x.2 p) = true) → ∃ T', J_goes_108 (n + 1) T = some T' ∧ T'.1 18 = nI (ru isLe x p) ∧ T'.1 19 = nI 1 ∧ T'.1 20 = nI b ∧ T'.1 21 = nI (ru isLe x p - b) ∧ T'.1 22 = T.1 22 ∧ T'.1 23 = T.1 23 ∧ T'.2.1 = lN (hsT (fun i => x.2 (b + i)) (min 7 (ru isLe x p - b))) ∧ jk T T' := by
    intro p n T h h18 h20 hb hp hw hl
    rw [ru_0 hl]
    have hc : (if p < x.1 then x.2 p else 0) < 256 := by
      split
      · exact h.2.1 p
      · omega
    have hz : isLe (if p < x.1 then x.2 p else 0) = false := by
      by_cases hlt : p < x.1
      · rw [if_pos hlt]
        cases e : isLe (x.2 p) with
        | true => exact absurd ⟨hlt, e⟩ hl
        | false => rfl
      · rw [if_neg hlt]; exact le_0
    refine ⟨tw_F (tw_F T 19 (nI 1)) 21 (nI (p - b)), ?_, (F_n (by omega)).trans ((F_n (by omega)).trans h18), (F_n (by omega)).trans F_s, (F_n (by omega)).trans ((F_n (by omega)).trans h20), F_s, (F_n (by omega)).trans (F_n (by omega)), (F_n (by omega)).trans (F_n (by omega)), hw, (jk.F (by omega)).tr (jk.F (by omega))⟩
    show B_goes_108 (J_goes_108 n) T = _
    unfold B_goes_108 J_goes_331
    simp only [h18, J_by h hp, bdS, J_le hc, hz]
    rw [if_pos (by rw [if_neg (by decide)]; exact nI_0)]
    rw [F_n (show 18 ≠ 19 by omega), F_n (show 20 ≠ 19 by omega), h18, h20, pk_sub hb]
  induction k with
  | zero =>
    intro p n T h h18 h20 hb ha hw hp hn
    obtain ⟨n, rfl⟩ : ∃ m, n = m + 1 := ⟨n - 1, by omega⟩
    exact stop p n T h h18 h20 hb (by omega) hw (fun z => by omega)
  | succ k ih =>
    intro p n T h h18 h20 hb ha hw hp hn
    obtain ⟨n, rfl⟩ : ∃ m, n = m + 1 := ⟨n - 1, by omega⟩
    by_cases hl : p < x.1 ∧ isLe (x.2 p) = true
    · have hle := le_b hl.2
      have hj := J_by h (show p ≤ x.1 by omega)
      rw [if_pos hl.1] at hj
      have h7 := h.1
      by_cases h7b : 7 ≤ p - b
      · obtain ⟨T2, s2, a1, a2, a3, a4, a5, a6, a7, a8⟩ := ih (p + 1) n (tw_F T 18 (nI (p + 1))) (h.k (jk.F (by omega))) F_s ((F_n (by omega)).trans h20) (by omega) (fun q q1 q2 => by
          by_cases e : q = p
          · rw [e]; exact hl.2
          · exact ha q q1 (by omega)) (by
          show T.2.1 = _
          rw [hw, show min 7 (p + 1 - b) = min 7 (p - b) by omega]) (by omega) (by omega)
        rw [ru_s hl.1 hl.2]
        refine ⟨T2, ?_, a1, a2, a3, a4, a5.trans (F_n (by omega)), a6.trans (F_n (by omega)), a7, (jk.F (by omega)).tr a8⟩
        rw [← s2]
        show B_goes_108 (J_goes_108 n) T = _
        unfold B_goes_108 J_goes_159
        simp only [h18, hj, bdS, J_le (h.2.1 p), hl.2, h20, pk_sub hb]
        rw [if_neg (by rw [if_pos trivial]; exact s1_ne), if_pos (nI_le h7b (by omega)), nI_add]
      · have hlt := hs_lt (f := fun i => x.2 (b + i)) (p - b) (fun i hi => ha (b + i) (by omega) (by omega))
        have h32 : 32 ^ (p - b) ≤ 2 ^ 30 := by
          rcases (show p - b = 0 ∨ p - b = 1 ∨ p - b = 2 ∨ p - b = 3 ∨ p - b = 4 ∨ p - b = 5 ∨ p - b = 6 by omega) with e | e | e | e | e | e | e <;> rw [e] <;> decide
        have hst : (T.2.1 <<< (Int32.toInt64 (nI 5) &&& 63)) ||| (Int32.toInt64 (nI (x.2 p) - nI 96)) = lN (hsT (fun i => x.2 (b + i)) (min 7 (p + 1 - b))) := by
          rw [hw, pk_sub (by omega), show min 7 (p - b) = p - b by omega, h_st (by omega) (by omega), show min 7 (p + 1 - b) = (p - b) + 1 by omega]
          show lN _ = lN (hsT (fun i => x.2 (b + i)) (p - b) * 32 + (x.2 (b + (p - b)) - 96))
          rw [show b + (p - b) = p by omega]
        obtain ⟨T2, s2, a1, a2, a3, a4, a5, a6, a7, a8⟩ := ih (p + 1) n (tw_F (tw_L T (lN (hsT (fun i => x.2 (b + i)) (min 7 (p + 1 - b))))) 18 (nI (p + 1))) (h.k (jk.L.tr (jk.F (by omega)))) F_s ((F_n (by omega)).trans h20) (by omega) (fun q q1 q2 => by
          by_cases e : q = p
          · rw [e]; exact hl.2
          · exact ha q q1 (by omega)) rfl (by omega) (by omega)
        rw [ru_s hl.1 hl.2]
        refine ⟨T2, ?_, a1, a2, a3, a4, a5.trans (F_n (by omega)), a6.trans (F_n (by omega)), a7, (jk.L.tr (jk.F (by omega))).tr a8⟩
        rw [← s2]
        show B_goes_108 (J_goes_108 n) T = _
        unfold B_goes_108 J_goes_159
        simp only [h18, hj, bdS, J_le (h.2.1 p), hl.2, h20, pk_sub hb]
        rw [if_neg (by rw [if_pos trivial]; exact s1_ne), if_neg (nI_ge (by omega) (by omega))]
        simp only [h18, hj, bdS, hst]
        rw [show (tw_L T (lN (hsT (fun i => x.2 (b + i)) (min 7 (p + 1 - b))))).1 18 = nI p from h18, nI_add]
    · exact stop p n T h h18 h20 hb (by omega) hw hl
theorem J_g187 : ∀ (k p n : Nat) (T : tw_T), txJ T x → T.1 18 = nI p → T.1 20 = nI b → b ≤ p → (∀ q, b ≤ q → q < p → isDi (x.2 q) = true) → T.1 22 = nI (vlT x b (min 4 (p - b))) → p + k = x.1 → k < n → ∃ T', J_goes_187 n T = some T' ∧ T'.1 18 = nI (ru isDi x p) ∧ T'.1 19 = nI 2 ∧ T'.1 20 = nI b ∧ T'.1 21 = nI (ru isDi x p - b) ∧ T'.1 22 = nI (vlT x b (min 4 (ru isDi x p - b))) ∧ T'.1 23 = T.1 23 ∧ T'.2.1 = T.2.1 ∧ jk T T' := by
  intro k
  have stop : ∀ (p n : Nat) (T : tw_T), txJ T x → T.1 18 = nI p → T.1 20 = nI b → b ≤ p → p ≤ x.1 → T.1 22 = nI (vlT x b (min 4 (p - b))) → ¬ (p < x.1 ∧ isDi (x.2 p) = true) → ∃ T', J_goes_187 (n + 1) T = some T' ∧ T'.1 18 = nI (ru isDi x p) ∧ T'.1 19 = nI 2 ∧ T'.1 20 = nI b ∧ T'.1 21 = nI (ru isDi x p - b) ∧ T'.1 22 = nI (vlT x b (min 4 (ru isDi x p - b))) ∧ T'.1 23 = T.1 23 ∧ T'.2.1 = T.2.1 ∧ jk T T' := by
    intro p n T h h18 h20 hb hp hw hl
    rw [ru_0 hl]
    have hc : (if p < x.1 then x.2 p else 0) < 256 := by
      split
      · exact h.2.1 p
      · omega
    have hz : isDi (if p < x.1 then x.2 p else 0) = false := by
      by_cases hlt : p < x.1
      · rw [if_pos hlt]
        cases e : isDi (x.2 p) with
        | true => exact absurd ⟨hlt, e⟩ hl
        | false => rfl
      · rw [if_neg hlt]; exact di_0
    refine ⟨tw_F (tw_F T 19 (nI 2)) 21 (nI (p - b)), ?_, (F_n (by omega)).trans ((F_n (by omega)).trans h18), (F_n (by omega)).trans F_s, (F_n (by omega)).trans ((F_n (by omega)).trans h20), F_s, ((F_n (by omega)).trans (F_n (by omega))).trans hw, (F_n (by omega)).trans (F_n (by omega)), rfl, (jk.F (by omega)).tr (jk.F (by omega))⟩
    show B_goes_187 (J_goes_187 n) T = _
    unfold B_goes_187 J_goes_331
    simp only [h18, J_by h hp, bdS, J_di hc, hz]
    rw [if_pos (by rw [if_neg (by decide)]; exact nI_0)]
    rw [F_n (show 18 ≠ 19 by omega), F_n (show 20 ≠ 19 by omega), h18, h20, pk_sub hb]
  induction k with
  | zero =>
    intro p n T h h18 h20 hb ha hw hp hn
    obtain ⟨n, rfl⟩ : ∃ m, n = m + 1 := ⟨n - 1, by omega⟩
    exact stop p n T h h18 h20 hb (by omega) hw (fun z => by omega)
  | succ k ih =>
    intro p n T h h18 h20 hb ha hw hp hn
    obtain ⟨n, rfl⟩ : ∃ m, n = m + 1 := ⟨n - 1, by omega⟩
    by_cases hl : p < x.1 ∧ isDi (x.2 p) = true
    · have hle := di_b hl.2
      have hj := J_by h (show p ≤ x.1 by omega)
      rw [if_pos hl.1] at hj
      have h7 := h.1
      by_cases h7b : 4 ≤ p - b
      · obtain ⟨T2, s2, a1, a2, a3, a4, a5, a6, a7, a8⟩ := ih (p + 1) n (tw_F T 18 (nI (p + 1))) (h.k (jk.F (by omega))) F_s ((F_n (by omega)).trans h20) (by omega) (fun q q1 q2 => by
          by_cases e : q = p
          · rw [e]; exact hl.2
          · exact ha q q1 (by omega)) (by
          rw [F_n (by omega), hw, show min 4 (p + 1 - b) = min 4 (p - b) by omega]) (by omega) (by omega)
        rw [ru_s hl.1 hl.2]
        refine ⟨T2, ?_, a1, a2, a3, a4, a5, a6.trans (F_n (by omega)), a7, (jk.F (by omega)).tr a8⟩
        rw [← s2]
        show B_goes_187 (J_goes_187 n) T = _
        unfold B_goes_187 J_goes_237
        simp only [h18, hj, bdS, J_di (h.2.1 p), hl.2, h20, pk_sub hb]
        rw [if_neg (by rw [if_pos trivial]; exact s1_ne), if_pos (nI_le h7b (by omega)), nI_add]
      · have hst : nI 10 * T.1 22 + nI (x.2 p) - nI 48 = nI (vlT x b (min 4 (p + 1 - b))) := by
          rw [hw, pk_mul, nI_add, pk_sub (by omega), show min 4 (p - b) = p - b by omega, show min 4 (p + 1 - b) = (p - b) + 1 by omega]
          show nI _ = nI (10 * vlT x b (p - b) + (x.2 (b + (p - b)) - 48))
          rw [show b + (p - b) = p by omega]
          congr 1
          omega
        obtain ⟨T2, s2, a1, a2, a3, a4, a5, a6, a7, a8⟩ := ih (p + 1) n (tw_F (tw_F T 22 (nI (vlT x b (min 4 (p + 1 - b))))) 18 (nI (p + 1))) (h.k ((jk.F (by omega)).tr (jk.F (by omega)))) F_s ((F_n (by omega)).trans ((F_n (by omega)).trans h20)) (by omega) (fun q q1 q2 => by
          by_cases e : q = p
          · rw [e]; exact hl.2
          · exact ha q q1 (by omega)) ((F_n (by omega)).trans F_s) (by omega) (by omega)
        rw [ru_s hl.1 hl.2]
        refine ⟨T2, ?_, a1, a2, a3, a4, a5, a6.trans ((F_n (by omega)).trans (F_n (by omega))), a7, ((jk.F (by omega)).tr (jk.F (by omega))).tr a8⟩
        rw [← s2]
        show B_goes_187 (J_goes_187 n) T = _
        unfold B_goes_187 J_goes_237
        simp only [h18, hj, bdS, J_di (h.2.1 p), hl.2, h20, pk_sub hb]
        rw [if_neg (by rw [if_pos trivial]; exact s1_ne), if_neg (nI_ge (by omega) (by omega))]
        simp only [h18, hj, bdS, hst]
        rw [F_n (show 18 ≠ 22 by omega), h18, nI_add]
    · exact stop p n T h h18 h20 hb (by omega) hw hl
theorem J_g50 (h : txJ T x) (h18 : T.1 18 = nI p) (hp : p ≤ x.1) : ∃ T', J_goes_50 T = some T' ∧ tkJ T' x p ∧ jk T T' := by
  have h7 := h.1
  have h17 := h.2.2.2
  have hc : (if p < x.1 then x.2 p else 0) < 256 := by
    split
    · exact h.2.1 p
    · omega
  obtain ⟨T5, hT5⟩ : ∃ T5 : tw_T, T5 = tw_F (tw_F (tw_L (tw_F T 20 (nI p)) 0) 22 (nI 0)) 23 (nI (if p < x.1 then x.2 p else 0)) := ⟨_, rfl⟩
  have L_1 : ∀ {T0 : tw_T} {v : Int64}, (tw_L T0 v).1 = T0.1 := rfl
  have a18 : T5.1 18 = nI p := by rw [hT5, F_n (show 18 ≠ 23 by omega), F_n (show 18 ≠ 22 by omega), L_1, F_n (show 18 ≠ 20 by omega), h18]
  have a17 : T5.1 17 = nI x.1 := by rw [hT5, F_n (show 17 ≠ 23 by omega), F_n (show 17 ≠ 22 by omega), L_1, F_n (show 17 ≠ 20 by omega), h17]
  have a20 : T5.1 20 = nI p := by rw [hT5, F_n (show 20 ≠ 23 by omega), F_n (show 20 ≠ 22 by omega), L_1, F_s]
  have a22 : T5.1 22 = nI 0 := by rw [hT5]; exact (F_n (show 22 ≠ 23 by omega)).trans F_s
  have a23 : T5.1 23 = nI (if p < x.1 then x.2 p else 0) := by rw [hT5, F_s]
  have aw : T5.2.1 = lN 0 := by rw [hT5]; rfl
  have f5 : jk T T5 := by rw [hT5]; exact (((jk.F (by omega)).tr jk.L).tr (jk.F (by omega))).tr (jk.F (by omega))
  have st : J_goes_50 T = if (T5.1 18) < (T5.1 17) then ((J_isLetter (nI (if p < x.1 then x.2 p else 0))).bind fun r7 => if r7 = 0 then ((J_isDigit (nI (if p < x.1 then x.2 p else 0))).bind fun r9 => if r9 = 0 then ((some (tw_F T5 18 ((T5.1 18) + (nI 1)))).bind fun T11 => if (nI (if p < x.1 then x.2 p else 0)) = (nI 59) then (J_goes_323 T11) else (if (nI (if p < x.1 then x.2 p else 0)) = (nI 40) then (J_goes_323 T11) else (if (nI (if p < x.1 then x.2 p else 0)) = (nI 41) then (J_goes_323 T11) else (if (nI (if p < x.1 then x.2 p else 0)) = (nI 43) then (J_goes_323 T11) else (if (nI (if p < x.1 then x.2 p else 0)) = (nI 45) then (J_goes_323 T11) else (if (nI (if p < x.1 then x.2 p else 0)) = (nI 42) then (J_goes_323 T11) else (if (nI (if p < x.1 then x.2 p else 0)) = (nI 47) then (J_goes_323 T11) else (if (nI (if p < x.1 then x.2 p else 0)) = (nI 60) then (J_goes_323 T11) else (if (nI (if p < x.1 then x.2 p else 0)) = (nI 61) then (J_goes_323 T11) else (J_goes_328 (nI 4) T11)))))))))) else (J_goes_187 NN T5)) else (J_goes_108 NN T5)) else ((some (tw_F T5 19 (nI 0))).bind fun T21 => J_goes_331 T21) := by
    unfold J_goes_50
    have e3 : (tw_F (tw_L (tw_F T 20 (nI p)) 0) 22 (nI 0)).1 18 = nI p := by rw [F_n (show 18 ≠ 22 by omega), L_1, F_n (show 18 ≠ 20 by omega), h18]
    have hj : J_byteAt (nI p) (tw_F (tw_L (tw_F T 20 (nI p)) 0) 22 (nI 0)) = some (nI (if p < x.1 then x.2 p else 0), tw_F (tw_L (tw_F T 20 (nI p)) 0) 22 (nI 0)) := J_by (h.k (((jk.F (by omega)).tr jk.L).tr (jk.F (by omega)))) hp
    simp only [bdS, h18, e3, hj]
    rw [hT5]
  rw [st, a18, a17]
  by_cases hlt : p < x.1
  · rw [if_pos (nI_lt hlt (by omega))]
    simp only [if_pos hlt]
    rw [J_le (h.2.1 p), bdS]
    by_cases hle : isLe (x.2 p) = true
    · rw [if_neg (by rw [if_pos hle]; exact s1_ne)]
      obtain ⟨T', s1, b1, b2, b3, b4, b5, b6, b7, b8⟩ := J_g108 (x := x) (b := p) (x.1 - p) p NN T5 (h.k f5) a18 a20 (Nat.le_refl _) (fun q q1 q2 => by omega) (by rw [aw, Nat.sub_self]; rfl) (by omega) (by unfold NN; omega)
      have hk := ki_1 hlt hle
      have he : enT x p = ru isLe x p := by unfold enT; rw [if_neg (by omega), if_pos hk]
      exact ⟨T', s1, ⟨hp, by rw [he]; exact b1, by rw [hk]; exact b2, b3, by rw [he]; exact b4, by rw [if_neg (by omega), b5]; exact a22, by rw [b6, a23], by rw [if_pos hk, he]; exact b7⟩, f5.tr b8⟩
    · rw [if_pos (by rw [if_neg hle]; exact nI_0), J_di (h.2.1 p), bdS]
      by_cases hdi : isDi (x.2 p) = true
      · rw [if_neg (by rw [if_pos hdi]; exact s1_ne)]
        obtain ⟨T', s1, b1, b2, b3, b4, b5, b6, b7, b8⟩ := J_g187 (x := x) (b := p) (x.1 - p) p NN T5 (h.k f5) a18 a20 (Nat.le_refl _) (fun q q1 q2 => by omega) (by rw [a22, Nat.sub_self]; rfl) (by omega) (by unfold NN; omega)
        have hk := ki_2 hlt hle hdi
        have he : enT x p = ru isDi x p := by unfold enT; rw [if_neg (by omega), if_neg (by omega), if_pos hk]
        exact ⟨T', s1, ⟨hp, by rw [he]; exact b1, by rw [hk]; exact b2, b3, by rw [he]; exact b4, by rw [if_pos hk, he]; exact b5, by rw [b6, a23], by rw [if_neg (by omega), b7]; exact aw⟩, f5.tr b8⟩
      · rw [if_pos (by rw [if_neg hdi]; exact nI_0)]
        have hb := h.2.1 p
        have fin : ∀ kk : Nat, kiT x p = kk → (kk = 3 ∨ kk = 4) → ∃ T', J_goes_328 (nI kk) (tw_F T5 18 (nI (p + 1))) = some T' ∧ tkJ T' x p ∧ jk T T' := by
          intro kk hk hkk
          have he : enT x p = p + 1 := by unfold enT; rw [if_neg (by omega), if_neg (by omega), if_neg (by omega)]
          refine ⟨tw_F (tw_F (tw_F T5 18 (nI (p + 1))) 19 (nI kk)) 21 (nI (p + 1 - p)), ?_, ⟨hp, ?_, ?_, ?_, ?_, ?_, ?_, ?_⟩, ((f5.tr (jk.F (by omega))).tr (jk.F (by omega))).tr (jk.F (by omega))⟩
          · unfold J_goes_328 J_goes_331
            simp only [bdS]
            rw [F_n (show 18 ≠ 19 by omega), F_n (show 20 ≠ 19 by omega), F_s, F_n (show 20 ≠ 18 by omega), a20, pk_sub (by omega)]
          · rw [he, F_n (by omega), F_n (by omega), F_s]
          · rw [hk, F_n (by omega), F_s]
          · rw [F_n (by omega), F_n (by omega), F_n (by omega), a20]
          · rw [he, F_s]
          · rw [if_neg (by omega), F_n (by omega), F_n (by omega), F_n (by omega), a22]
          · rw [F_n (by omega), F_n (by omega), F_n (by omega), a23]
          · rw [if_neg (by omega)]; exact aw
        rw [nI_add, bdS]
        by_cases hsg : isSg (x.2 p) = true
        · have e3 : J_goes_323 (tw_F T5 18 (nI (p + 1))) = J_goes_328 (nI 3) (tw_F T5 18 (nI (p + 1))) := rfl
          obtain ⟨T', s1, r1⟩ := fin 3 (ki_3 hlt hle hdi hsg) (Or.inl rfl)
          refine ⟨T', ?_, r1⟩
          rw [← s1, ← e3]
          have hor : x.2 p = 59 ∨ x.2 p = 40 ∨ x.2 p = 41 ∨ x.2 p = 43 ∨ x.2 p = 45 ∨ x.2 p = 42 ∨ x.2 p = 47 ∨ x.2 p = 60 ∨ x.2 p = 61 := by
            unfold isSg at hsg
            simp only [Bool.or_eq_true, beq_iff_eq] at hsg
            exact hsg
          rcases hor with e | e | e | e | e | e | e | e | e <;> rw [e] <;> rfl
        · obtain ⟨T', s1, r1⟩ := fin 4 (ki_4 hlt hle hdi hsg) (Or.inr rfl)
          refine ⟨T', ?_, r1⟩
          rw [← s1]
          have hor : ¬ (x.2 p = 59 ∨ x.2 p = 40 ∨ x.2 p = 41 ∨ x.2 p = 43 ∨ x.2 p = 45 ∨ x.2 p = 42 ∨ x.2 p = 47 ∨ x.2 p = 60 ∨ x.2 p = 61) := fun z => hsg (by
            unfold isSg
            simp only [Bool.or_eq_true, beq_iff_eq]
            exact z)
          have ne : ∀ k : Nat, k < 256 → x.2 p ≠ k → ¬ nI (x.2 p) = nI k := fun k h1 h2 z => h2 ((nI_eq (by omega) (by omega)).mp z)
          rw [if_neg (ne 59 (by omega) (by omega)), if_neg (ne 40 (by omega) (by omega)), if_neg (ne 41 (by omega) (by omega)), if_neg (ne 43 (by omega) (by omega)), if_neg (ne 45 (by omega) (by omega)), if_neg (ne 42 (by omega) (by omega)), if_neg (ne 47 (by omega) (by omega)), if_neg (ne 60 (by omega) (by omega)), if_neg (ne 61 (by omega) (by omega))]
  · rw [if_neg (nI_nlt (by omega) (by omega))]
    have hk := ki_0 (x := x) (b := p) (by omega)
    have he : enT x p = p := by unfold enT; rw [if_pos hk]
    refine ⟨tw_F (tw_F T5 19 (nI 0)) 21 (nI (p - p)), ?_, ⟨hp, ?_, ?_, ?_, ?_, ?_, ?_, ?_⟩, (f5.tr (jk.F (by omega))).tr (jk.F (by omega))⟩
    · unfold J_goes_331
      simp only [bdS]
      rw [F_n (show 18 ≠ 19 by omega), F_n (show 20 ≠ 19 by omega), a18, a20, pk_sub (by omega)]
    · rw [he, F_n (by omega), F_n (by omega), a18]
    · rw [hk, F_n (by omega), F_s]
    · rw [F_n (by omega), F_n (by omega), a20]
    · rw [he, F_s]
    · rw [if_neg (by omega), F_n (by omega), F_n (by omega), a22]
    · rw [F_n (by omega), F_n (by omega), a23]
    · rw [if_neg (by omega)]; exact aw
theorem J_g0 : ∀ (k p n : Nat) (T : tw_T), txJ T x → T.1 18 = nI p → p + k = x.1 → k < n → ∃ T', J_goes_0 n T = some T' ∧ tkJ T' x (ru isSp x p) ∧ jk T T' := by
  intro k
  induction k with
  | zero =>
    intro p n T h h18 hp hn
    obtain ⟨n, rfl⟩ : ∃ m, n = m + 1 := ⟨n - 1, by omega⟩
    obtain ⟨T', s1, t1, f1⟩ := J_g50 h h18 (by omega)
    rw [ru_0 (fun z => by omega)]
    refine ⟨T', ?_, t1, f1⟩
    rw [← s1]
    show B_goes_0 (J_goes_0 n) T = _
    unfold B_goes_0
    rw [h.2.2.2, h18, if_pos (nI_le (by omega) (by have := h.1; omega))]
  | succ k ih =>
    intro p n T h h18 hp hn
    obtain ⟨n, rfl⟩ : ∃ m, n = m + 1 := ⟨n - 1, by omega⟩
    have hlt : p < x.1 := by omega
    have hb := h.2.1 p
    have h7 := h.1
    have hj := J_by h (show p ≤ x.1 by omega)
    rw [if_pos hlt] at hj
    have st : J_goes_0 (n + 1) T = if nI (x.2 p) = nI 32 then J_goes_37 (J_goes_0 n) T else if nI (x.2 p) = nI 10 then J_goes_37 (J_goes_0 n) T else J_goes_50 T := by
      show B_goes_0 (J_goes_0 n) T = _
      unfold B_goes_0
      rw [h.2.2.2, h18, if_neg (nI_ge hlt (by omega)), hj, bdS]
      dsimp only
      rw [h18, hj, bdS]
    rw [st]
    by_cases hsp : isSp (x.2 p) = true
    · obtain ⟨T2, s2, t2, f2⟩ := ih (p + 1) n (tw_F T 18 (nI (p + 1))) (h.k (jk.F (by omega))) F_s (by omega) (by omega)
      rw [ru_s hlt hsp]
      have e37 : J_goes_37 (J_goes_0 n) T = some T2 := by
        unfold J_goes_37
        rw [h18, nI_add, bdS]
        exact s2
      refine ⟨T2, ?_, t2, (jk.F (by omega)).tr f2⟩
      by_cases e32 : nI (x.2 p) = nI 32
      · rw [if_pos e32]; exact e37
      · rw [if_neg e32]
        rw [nI_eq (by omega) (by omega)] at e32
        have e10 : x.2 p = 10 := by
          unfold isSp at hsp
          simp only [Bool.or_eq_true, beq_iff_eq] at hsp
          omega
        rw [if_pos (by rw [e10])]
        exact e37
    · have hns : x.2 p ≠ 32 ∧ x.2 p ≠ 10 := by
        unfold isSp at hsp
        simp only [Bool.or_eq_true, beq_iff_eq] at hsp
        omega
      rw [ru_0 (fun z => hsp z.2), if_neg (by rw [nI_eq (by omega) (by omega)]; omega), if_neg (by rw [nI_eq (by omega) (by omega)]; omega)]
      exact J_g50 h h18 (by omega)
/-- from a token to the next -/
theorem J_goes_e (h : txJ T x) (ht : tkJ T x b) : ∃ T', J_goes T = some T' ∧ tkJ T' x (nxT x b) ∧ jk T T' := by
  have he := (en_b ht.1).2.1
  exact J_g0 (x.1 - enT x b) (enT x b) NN T h ht.2.1 (by omega) (by have := h.1; unfold NN; omega)
end TJ
