/-! the plain law: the component's next token -/
set_option maxRecDepth 100000
/-- the Reader stands at the token that begins at b -/
def tkK (σ : vv_S) (x : txT) (r : Nat) (c : Nat × Nat × Nat × Nat) (b : Nat) : Prop := b ≤ x.1 ∧ ∃ u, u ≤ 100000 ∧ (kiT x b = 2 → enT x b - b ≤ 4 → u = vlT x b (enT x b - b)) ∧ σ.1 r = some (true, .inr (4, rdF c x.1 (nI (enT x b)) (nI (kiT x b)) (nI b) (nI (enT x b)) (nI u)))
section KN
variable {σ : vv_S} {hS : Nat → Option vv_E} {ad : Nat → Nat} {x : txT} {r p b : Nat} {c : Nat × Nat × Nat × Nat} {t bg en nu w : Int32}
theorem sb_rd {σ' : vv_S} (hs : sub hS σ.1) (hr : hS r = none) (f : fr (fun q => q = r) σ σ') : sub hS σ'.1 := hs.fr f fun q hq => by rw [show q = r from hq]; exact hr
theorem K_n185 (h : σ.1 r = some (true, .inr (4, rdF c x.1 w t bg en nu))) : ∃ σ', KX5_next_185 ad r σ = some σ' ∧ σ'.1 r = some (true, .inr (4, rdF c x.1 w t bg w nu)) ∧ fr (fun q => q = r) σ σ' := by
  obtain ⟨σ1, s1, h1, f1⟩ := r_7 h (v := w)
  refine ⟨σ1, ?_, h1, f1⟩
  unfold KX5_next_185
  simp only [r_g4 h, s1, bdS]
theorem K_n62 (X : txK hS ad c.2.2.2 x) (hr : hS r = none) : ∀ (k p n : Nat) (σ : vv_S), sub hS σ.1 → σ.1 r = some (true, .inr (4, rdF c x.1 (nI p) t bg en nu)) → p + k = x.1 → k < n → ∃ σ', KX5_next_62 ad n r σ = some σ' ∧ σ'.1 r = some (true, .inr (4, rdF c x.1 (nI (ru isLe x p)) (nI 1) bg (nI (ru isLe x p)) nu)) ∧ fr (fun q => q = r) σ σ' := by
  intro k
  induction k with
  | zero =>
    intro p n σ hs h hp hn
    obtain ⟨n, rfl⟩ : ∃ m, n = m + 1 := ⟨n - 1, by omega⟩
    obtain ⟨σ1, s1, h1, f1⟩ := r_5 h (v := nI 1)
    obtain ⟨σ2, s2, h2, f2⟩ := K_n185 (ad := ad) h1
    rw [ru_0 (fun z => by omega)]
    refine ⟨σ2, ?_, h2, f1.tr f2⟩
    show BKX5_next_62 ad (KX5_next_62 ad n) r σ = _
    unfold BKX5_next_62
    simp only [r_o h, K_isLe X hs h (by omega), bdS]
    rw [if_pos (by rw [if_neg (fun z => by omega)]; exact nI_0)]
    simp only [s1, s2, bdS]
  | succ k ih =>
    intro p n σ hs h hp hn
    obtain ⟨n, rfl⟩ : ∃ m, n = m + 1 := ⟨n - 1, by omega⟩
    by_cases hl : p < x.1 ∧ isLe (x.2 p) = true
    · obtain ⟨σ1, s1, h1, f1⟩ := r_4 h (v := nI (p + 1))
      obtain ⟨σ2, s2, h2, f2⟩ := ih (p + 1) n σ1 (sb_rd hs hr f1) h1 (by omega) (by omega)
      rw [ru_s hl.1 hl.2]
      refine ⟨σ2, ?_, h2, f1.tr f2⟩
      show BKX5_next_62 ad (KX5_next_62 ad n) r σ = _
      unfold BKX5_next_62
      simp only [r_o h, K_isLe X hs h (by omega), bdS]
      rw [if_neg (by rw [if_pos hl]; exact s1_ne)]
      simp only [r_g4 h, nI_add, s1, bdS]
      exact s2
    · obtain ⟨σ1, s1, h1, f1⟩ := r_5 h (v := nI 1)
      obtain ⟨σ2, s2, h2, f2⟩ := K_n185 (ad := ad) h1
      rw [ru_0 hl]
      refine ⟨σ2, ?_, h2, f1.tr f2⟩
      show BKX5_next_62 ad (KX5_next_62 ad n) r σ = _
      unfold BKX5_next_62
      simp only [r_o h, K_isLe X hs h (by omega), bdS]
      rw [if_pos (by rw [if_neg hl]; exact nI_0)]
      simp only [s1, s2, bdS]
theorem K_n102 (X : txK hS ad c.2.2.2 x) (hr : hS r = none) {b : Nat} : ∀ (k p n : Nat) (σ : vv_S) (u : Nat), sub hS σ.1 → σ.1 r = some (true, .inr (4, rdF c x.1 (nI p) t bg en (nI u))) → b ≤ p → (∀ q, b ≤ q → q < p → isDi (x.2 q) = true) → u ≤ 100000 → (p - b ≤ 4 → u = vlT x b (p - b)) → p + k = x.1 → k < n → ∃ σ' u', KX5_next_102 ad n r σ = some σ' ∧ u' ≤ 100000 ∧ (ru isDi x p - b ≤ 4 → u' = vlT x b (ru isDi x p - b)) ∧ σ'.1 r = some (true, .inr (4, rdF c x.1 (nI (ru isDi x p)) (nI 2) bg (nI (ru isDi x p)) (nI u'))) ∧ fr (fun q => q = r) σ σ' := by
  intro k
  induction k with
  | zero =>
    intro p n σ u hs h hb ha hu hv hp hn
    obtain ⟨n, rfl⟩ : ∃ m, n = m + 1 := ⟨n - 1, by omega⟩
    obtain ⟨σ1, s1, h1, f1⟩ := r_5 h (v := nI 2)
    obtain ⟨σ2, s2, h2, f2⟩ := K_n185 (ad := ad) h1
    rw [ru_0 (fun z => by omega)]
    refine ⟨σ2, u, ?_, hu, hv, h2, f1.tr f2⟩
    show BKX5_next_102 ad (KX5_next_102 ad n) r σ = _
    unfold BKX5_next_102
    simp only [r_o h, K_isDi X hs h (by omega), bdS]
    rw [if_pos (by rw [if_neg (fun z => by omega)]; exact nI_0)]
    simp only [s1, s2, bdS]
  | succ k ih =>
    intro p n σ u hs h hb ha hu hv hp hn
    obtain ⟨n, rfl⟩ : ∃ m, n = m + 1 := ⟨n - 1, by omega⟩
    by_cases hl : p < x.1 ∧ isDi (x.2 p) = true
    · have hd := di_b hl.2
      have he : mnI (nI 100000) (nI 10 * nI u + nI (x.2 p) - nI 48) = nI (min 100000 (10 * u + x.2 p - 48)) := by
        rw [pk_mul, nI_add, pk_sub (by omega), mn_nI (by omega) (by omega)]
      obtain ⟨σ0, s0, h0, f0⟩ := r_8 h (v := nI (min 100000 (10 * u + x.2 p - 48)))
      obtain ⟨σ1, s1, h1, f1⟩ := r_4 h0 (v := nI (p + 1))
      obtain ⟨σ2, u2, s2, hu2, hv2, h2, f2⟩ := ih (p + 1) n σ1 _ (sb_rd hs hr (f0.tr f1)) h1 (by omega) (fun q q1 q2 => by
        by_cases e : q = p
        · rw [e]; exact hl.2
        · exact ha q q1 (by omega)) (by omega) (fun h4 => by
        have hv' := hv (by omega)
        have hlt := vl_lt (x := x) (b := b) (p - b) (fun q q1 q2 => ha q q1 (by omega))
        have h10 : 10 ^ (p - b) ≤ 1000 := by
          have h9 : p - b = 0 ∨ p - b = 1 ∨ p - b = 2 ∨ p - b = 3 := by omega
          rcases h9 with e | e | e | e <;> rw [e] <;> omega
        rw [show p + 1 - b = (p - b) + 1 by omega]
        show _ = 10 * vlT x b (p - b) + (x.2 (b + (p - b)) - 48)
        rw [show b + (p - b) = p by omega, ← hv']
        rw [← hv'] at hlt
        omega) (by omega) (by omega)
      rw [ru_s hl.1 hl.2]
      refine ⟨σ2, u2, ?_, hu2, hv2, h2, (f0.tr f1).tr f2⟩
      show BKX5_next_102 ad (KX5_next_102 ad n) r σ = _
      unfold BKX5_next_102
      have hh := K_here X hs h (show p ≤ x.1 by omega)
      unfold chI at hh
      rw [if_pos hl.1] at hh
      simp only [r_o h, K_isDi X hs h (by omega), bdS]
      rw [if_neg (by rw [if_pos hl]; exact s1_ne)]
      simp only [r_g8 h, r_o h, hh, he, s0, r_g4 h0, nI_add, s1, bdS]
      exact s2
    · obtain ⟨σ1, s1, h1, f1⟩ := r_5 h (v := nI 2)
      obtain ⟨σ2, s2, h2, f2⟩ := K_n185 (ad := ad) h1
      rw [ru_0 hl]
      refine ⟨σ2, u, ?_, hu, hv, h2, f1.tr f2⟩
      show BKX5_next_102 ad (KX5_next_102 ad n) r σ = _
      unfold BKX5_next_102
      simp only [r_o h, K_isDi X hs h (by omega), bdS]
      rw [if_pos (by rw [if_neg hl]; exact nI_0)]
      simp only [s1, s2, bdS]
/-- strings in the heap -/
theorem s_o {s n : Nat} {g : Nat → Nat} (H : stH σ.1 s n g) : isO σ s 14 = some () := by
  obtain ⟨f1, f2, fs, v, gg, h1, -⟩ := H
  unfold isO; rw [h1]; rfl
theorem stH.up {h h' : Nat → Option vv_E} {s n : Nat} {g : Nat → Nat} (H : stH h s n g) (hs : sub h h') : stH h' s n g := by
  obtain ⟨f1, f2, fs, v, gg, h1, h2, h3, h4, h5⟩ := H
  exact ⟨f1, f2, fs, v, gg, hs _ _ h1, h2, h3, hs _ _ h4, h5⟩
theorem s_v {s n : Nat} {g : Nat → Nat} (H : stH σ.1 s n g) (hn : n < 1000) : ∃ v, gR σ s 14 0 = some v ∧ gI σ s 14 1 = some 0 ∧ aLn σ v = some (nI n) ∧ ∀ i, i < n → aI σ .byte v (nI i) = some (nI (g i)) := by
  obtain ⟨f1, f2, fs, v, gg, h1, h2, h3, h4, h5⟩ := H
  refine ⟨v, ?_, ?_, ?_, fun i hi => ?_⟩
  · unfold gR gV; rw [h1]; show (if 14 = 14 then fs[0]? else none).bind asR = _; rw [if_pos rfl, h2]; rfl
  · unfold gI gV; rw [h1]; show (if 14 = 14 then fs[1]? else none).bind asI = _; rw [if_pos rfl, h3]; rfl
  · unfold aLn; rw [h4]
  · rw [aB_at h4 hi (by omega), h5 i hi]
theorem s_lat {s n : Nat} {g : Nat → Nat} (H : stH σ.1 s n g) (hn : n < 1000) : KJ8_isLatin1 s σ = some (nI 1) := by
  obtain ⟨v, -, h2, -⟩ := s_v H hn
  unfold KJ8_isLatin1 KJ8_isLatin1_18
  rw [if_neg s1_ne, h2, bdS, if_pos rfl]
  rfl
theorem s_len {s n : Nat} {g : Nat → Nat} (H : stH σ.1 s n g) (hn : n < 1000) : KJ8_length s σ = some (nI n) := by
  obtain ⟨v, h1, h2, h3, -⟩ := s_v H hn
  unfold KJ8_length KJ8_coder KJ8_coder_14
  simp only [h1, h3, s_o H, bdS, if_neg s1_ne, h2]
  have : brI 0 = some 0 := by decide
  simp only [this, bdS]
  have h0 : ((0 : Int32) &&& 31) = 0 := by decide
  rw [h0]
  congr 1
  have h9 := pk_shrN (n := n) (by omega) 0 0 (by decide)
  exact h9.trans (by rw [Nat.pow_zero, Nat.div_one])
theorem K_ixL {v n : Nat} {g : Nat → Nat} (hn : n < 1000) (hv : ∀ i, i < n → aI σ .byte v (nI i) = some (nI (g i))) (y : Int32) : ∀ (k i m : Nat), i + k = n → k < m → ∃ z, KJ9_indexOfChar_7 m v (nI n) y (nI i) σ = some z ∧ (z < 0 ↔ ∀ j, i ≤ j → j < n → nI (g j) ≠ y) := by
  intro k
  induction k with
  | zero =>
    intro i m hi hm
    obtain ⟨m, rfl⟩ : ∃ z, m = z + 1 := ⟨m - 1, by omega⟩
    refine ⟨-1, ?_, fun _ j h1 h2 => by omega, fun _ => by decide⟩
    show BKJ9_indexOfChar_7 (KJ9_indexOfChar_7 m) v (nI n) y (nI i) σ = _
    unfold BKJ9_indexOfChar_7
    rw [if_pos (nI_le (by omega) (by omega))]
  | succ k ih =>
    intro i m hi hm
    obtain ⟨m, rfl⟩ : ∃ z, m = z + 1 := ⟨m - 1, by omega⟩
    by_cases he : nI (g i) = y
    · refine ⟨nI i, ?_, fun h => absurd h (nI_pos (by omega)), fun h => absurd he (h i (Nat.le_refl _) (by omega))⟩
      show BKJ9_indexOfChar_7 (KJ9_indexOfChar_7 m) v (nI n) y (nI i) σ = _
      unfold BKJ9_indexOfChar_7
      rw [if_neg (nI_ge (show i < n by omega) (by omega)), hv i (by omega), bdS, if_pos he]
    · obtain ⟨z, s1, h1⟩ := ih (i + 1) m (by omega) (by omega)
      refine ⟨z, ?_, fun h j h2 h3 => ?_, fun h => h1.mpr fun j h2 h3 => h j (by omega) h3⟩
      · show BKJ9_indexOfChar_7 (KJ9_indexOfChar_7 m) v (nI n) y (nI i) σ = _
        unfold BKJ9_indexOfChar_7
        rw [if_neg (nI_ge (show i < n by omega) (by omega)), hv i (by omega), bdS, if_neg he, nI_add]
        exact s1
      · by_cases e : j = i
        · rw [e]; exact he
        · exact h1.mp h j (by omega) h3
theorem sg_i : ∀ cc, cc < 256 → ((∀ j, j < 9 → nI (sgL j) ≠ (Int32.toInt8 (nI cc)).toInt32) ↔ isSg cc = false) := by decide +kernel
theorem K_ix (X : txK hS ad c.2.2.2 x) (hs : sub hS σ.1) {cc : Nat} (hc : cc < 256) : ∃ z, KJ8_indexOf (ad 16) (nI cc) σ = some z ∧ (z < 0 ↔ isSg cc = false) := by
  have H := X.2.2.2.up hs
  obtain ⟨v, h1, h2, h3, h4⟩ := s_v H (by omega)
  obtain ⟨z, s1, hz⟩ := K_ixL (σ := σ) (v := v) (n := 9) (g := sgL) (by omega) h4 (Int32.toInt8 (nI cc)).toInt32 9 0 NN (by omega) (by unfold NN; omega)
  refine ⟨z, ?_, hz.trans ((⟨fun h j hj => h j (by omega) hj, fun h j _ hj => h j hj⟩ : (∀ j, 0 ≤ j → j < 9 → nI (sgL j) ≠ (Int32.toInt8 (nI cc)).toInt32) ↔ ∀ j, j < 9 → nI (sgL j) ≠ (Int32.toInt8 (nI cc)).toInt32).trans (sg_i cc hc))⟩
  have m0 : mxI (nI 0) (nI 0) = nI 0 := by decide
  have m9 : mnI (nI 9) (nI 9) = nI 9 := by decide
  unfold KJ8_indexOf KJ8_indexOf_2 KJ9_indexOf KJ9_canEncode KJ9_canEncode_16 KJ9_indexOfChar
  simp only [s_o H, s_lat H (by omega), bdS, if_neg s1_ne, h1, s_len H (by omega), if_neg (nI_pos (show cc < 2 ^ 31 by omega)), if_neg (nI_nlt (show cc ≤ 255 by omega) (show 255 < 2 ^ 31 by omega)), zr1, h3, m0, m9]
  rw [if_pos (by decide)]
  simp only [s1, bdS]
theorem K_n0 (X : txK hS ad c.2.2.2 x) (hr : hS r = none) : ∀ (k p n : Nat) (σ : vv_S) (t bg en : Int32) (u : Nat), u ≤ 100000 → sub hS σ.1 → σ.1 r = some (true, .inr (4, rdF c x.1 (nI p) t bg en (nI u))) → p + k = x.1 → k < n → ∃ σ', KX5_next_0 ad n r σ = some σ' ∧ tkK σ' x r c (ru isSp x p) ∧ fr (fun q => q = r) σ σ' := by
  intro k
  induction k with
  | zero =>
    intro p n σ t bg en u hu hs h hp hn
    obtain ⟨n, rfl⟩ : ∃ m, n = m + 1 := ⟨n - 1, by omega⟩
    obtain ⟨σ1, s1, h1, f1⟩ := r_6 h (v := nI p)
    obtain ⟨σ2, s2, h2, f2⟩ := r_5 h1 (v := nI 0)
    obtain ⟨σ3, s3, h3, f3⟩ := K_n185 (ad := ad) h2
    have hk : kiT x p = 0 := ki_0 (by omega)
    have he : enT x p = p := by unfold enT; rw [if_pos hk]
    rw [ru_0 (fun z => by omega)]
    refine ⟨σ3, ?_, ⟨by omega, u, hu, fun z => by omega, by rw [he, hk]; exact h3⟩, (f1.tr f2).tr f3⟩
    have hh := K_here X hs h (show p ≤ x.1 by omega)
    have hh1 := K_here X (sb_rd hs hr f1) h1 (show p ≤ x.1 by omega)
    unfold chI at hh hh1
    rw [if_neg (by omega)] at hh hh1
    show BKX5_next_0 ad (KX5_next_0 ad n) r σ = _
    unfold BKX5_next_0
    simp only [r_o h, hh, bdS]
    rw [if_neg (by decide), if_neg (by decide)]
    simp only [r_g4 h, s1, r_o h1, hh1, bdS, if_true, s2, s3]
  | succ k ih =>
    intro p n σ t bg en u hu hs h hp hn
    obtain ⟨n, rfl⟩ : ∃ m, n = m + 1 := ⟨n - 1, by omega⟩
    have hlt : p < x.1 := by omega
    have hb := X.2.1 p
    have hh := K_here X hs h (show p ≤ x.1 by omega)
    unfold chI at hh
    rw [if_pos hlt] at hh
    by_cases hsp : isSp (x.2 p) = true
    · obtain ⟨σ1, s1, h1, f1⟩ := r_4 h (v := nI (p + 1))
      obtain ⟨σ2, s2, h2, f2⟩ := ih (p + 1) n σ1 t bg en u hu (sb_rd hs hr f1) h1 (by omega) (by omega)
      rw [ru_s hlt hsp]
      refine ⟨σ2, ?_, h2, f1.tr f2⟩
      show BKX5_next_0 ad (KX5_next_0 ad n) r σ = _
      have e18 : KX5_next_18 ad (KX5_next_0 ad n) r σ = some σ2 := by
        unfold KX5_next_18
        simp only [r_g4 h, nI_add, s1, bdS]
        exact s2
      unfold BKX5_next_0
      simp only [r_o h, hh, bdS]
      by_cases e32 : nI (x.2 p) = nI 32
      · rw [if_pos e32]; exact e18
      · rw [if_neg e32]
        rw [nI_eq (by omega) (by omega)] at e32
        have e10 : x.2 p = 10 := by
          unfold isSp at hsp
          simp only [Bool.or_eq_true, beq_iff_eq] at hsp
          omega
        rw [if_pos (by rw [e10])]
        exact e18
    · have hns : x.2 p ≠ 32 ∧ x.2 p ≠ 10 := by
        unfold isSp at hsp
        simp only [Bool.or_eq_true, beq_iff_eq] at hsp
        omega
      rw [ru_0 (fun z => hsp z.2)]
      obtain ⟨σ1, s1, h1, f1⟩ := r_6 h (v := nI p)
      have hs1 := sb_rd hs hr f1
      have hh1 := K_here X hs1 h1 (show p ≤ x.1 by omega)
      unfold chI at hh1
      rw [if_pos hlt] at hh1
      have st : BKX5_next_0 ad (KX5_next_0 ad n) r σ = if (if p < x.1 ∧ isLe (x.2 p) = true then nI 1 else nI 0) = 0 then (if (if p < x.1 ∧ isDi (x.2 p) = true then nI 1 else nI 0) = 0 then ((KJ8_indexOf (ad 16) (nI (x.2 p)) σ1).bind fun r20 => if r20 < 0 then (KX5_next_172 ad r (nI 4) r σ1) else (KX5_next_172 ad r (nI 3) r σ1)) else ((pF σ1 r 4 8 (.int (nI 0))).bind fun σ23 => KX5_next_102 ad NN r σ23)) else (KX5_next_62 ad NN r σ1) := by
        unfold BKX5_next_0
        simp only [r_o h, hh, bdS]
        rw [if_neg (by rw [nI_eq (by omega) (by omega)]; omega), if_neg (by rw [nI_eq (by omega) (by omega)]; omega)]
        simp only [r_g4 h, s1, r_o h1, hh1, bdS, if_neg (nI_m1 (show x.2 p < 2 ^ 31 by omega)), K_isLe X hs1 h1 (show p ≤ x.1 by omega), K_isDi X hs1 h1 (show p ≤ x.1 by omega), s_o (X.2.2.2.up hs1)]
      have st' : KX5_next_0 ad (n + 1) r σ = _ := st
      rw [st']
      by_cases hle : isLe (x.2 p) = true
      · rw [if_neg (by rw [if_pos ⟨hlt, hle⟩]; exact s1_ne)]
        obtain ⟨σ2, s2, h2, f2⟩ := K_n62 (t := t) (bg := nI p) (en := en) (nu := nI u) X hr (k + 1) p NN σ1 hs1 h1 (by omega) (by have := X.1; unfold NN; omega)
        have hk := ki_1 hlt hle
        have he : enT x p = ru isLe x p := by unfold enT; rw [if_neg (by omega), if_pos hk]
        exact ⟨σ2, s2, ⟨by omega, u, hu, fun z => by omega, by rw [he, hk]; exact h2⟩, f1.tr f2⟩
      · rw [if_pos (by rw [if_neg (fun z => hle z.2)]; exact nI_0)]
        by_cases hdi : isDi (x.2 p) = true
        · rw [if_neg (by rw [if_pos ⟨hlt, hdi⟩]; exact s1_ne)]
          obtain ⟨σ2, s2, h2, f2⟩ := r_8 h1 (v := nI 0)
          obtain ⟨σ3, u3, s3, hu3, hv3, h3, f3⟩ := K_n102 (t := t) (bg := nI p) (en := en) (b := p) X hr (k + 1) p NN σ2 0 (sb_rd hs1 hr f2) h2 (Nat.le_refl _) (fun q q1 q2 => by omega) (by omega) (fun _ => by rw [Nat.sub_self]; rfl) (by omega) (by have := X.1; unfold NN; omega)
          have hk := ki_2 hlt hle hdi
          have he : enT x p = ru isDi x p := by unfold enT; rw [if_neg (by omega), if_neg (by omega), if_pos hk]
          refine ⟨σ3, ?_, ⟨by omega, u3, hu3, fun _ h4 => by rw [he] at h4 ⊢; exact hv3 h4, by rw [he, hk]; exact h3⟩, (f1.tr f2).tr f3⟩
          rw [s2, bdS]
          exact s3
        · rw [if_pos (by rw [if_neg (fun z => hdi z.2)]; exact nI_0)]
          obtain ⟨z, i1, i2⟩ := K_ix X hs1 hb
          rw [i1, bdS]
          have fin : ∀ kk : Nat, kiT x p = kk → (kk = 3 ∨ kk = 4) → ∃ σ', KX5_next_172 ad r (nI kk) r σ1 = some σ' ∧ tkK σ' x r c p ∧ fr (fun q => q = r) σ σ' := by
            intro kk hk hkk
            obtain ⟨σ2, s2, h2, f2⟩ := r_5 h1 (v := nI kk)
            obtain ⟨σ3, s3, h3, f3⟩ := r_4 h2 (v := nI (p + 1))
            obtain ⟨σ4, s4, h4, f4⟩ := K_n185 (ad := ad) h3
            have he : enT x p = p + 1 := by unfold enT; rw [if_neg (by omega), if_neg (by omega), if_neg (by omega)]
            refine ⟨σ4, ?_, ⟨by omega, u, hu, fun z => by omega, by rw [he, hk]; exact h4⟩, ((f1.tr f2).tr f3).tr f4⟩
            unfold KX5_next_172
            simp only [s2, r_g4 h2, nI_add, s3, s4, bdS]
          by_cases hsg : isSg (x.2 p) = true
          · rw [if_neg (fun z' => by rw [i2, hsg] at z'; cases z')]
            exact fin 3 (ki_3 hlt hle hdi hsg) (Or.inl rfl)
          · rw [if_pos (i2.mpr (by cases hh9 : isSg (x.2 p) with
              | true => exact absurd hh9 hsg
              | false => rfl))]
            exact fin 4 (ki_4 hlt hle hdi hsg) (Or.inr rfl)
/-- from a token to the next -/
theorem KR_next (X : txK hS ad c.2.2.2 x) (hr : hS r = none) (hs : sub hS σ.1) (h : tkK σ x r c b) : ∃ σ', KX5_next ad r σ = some σ' ∧ tkK σ' x r c (nxT x b) ∧ fr (fun q => q = r) σ σ' := by
  obtain ⟨hb, u, hu, -, h1⟩ := h
  have he := (en_b hb).2.1
  exact K_n0 X hr (x.1 - enT x b) (enT x b) NN σ _ _ _ u hu hs h1 (by omega) (by have := X.1; unfold NN; omega)
end KN
