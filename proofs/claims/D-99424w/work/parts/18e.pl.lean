/-! the plain law: texts are fed -/
set_option maxRecDepth 100000
section FE
variable {ad a own : Nat → Nat} {hC h0 : Nat → Option vv_E} {P : pvT} {R : Nat → Int32} {lo : Int32} {n : Nat} {A : Nat → Nat → Int32} {S : seT} {tp : Nat} {i5 : Int32} {v9 v10 v11 : Value} {sd : Int32} {σ σ' : vv_S} {T T' : tw_T} {x0 ot o : Nat}
/-- a byte of a word -/
def byI (w : Int32) : Int32 := vp_nar .byte (Int32.toInt8 w).toInt32
theorem byI_e (w : Int32) : byI w = w.toInt8.toInt32 := by
  have h : byI w = ((w.toInt8.toInt32).toInt8).toInt32 := rfl
  rw [h, Int8.toInt8_toInt32]
theorem by_rI (w : Int32) : rI (byI w) (-128) 127 := by
  rw [byI_e]
  have h : (w.toInt8.toInt32).toInt = w.toInt8.toInt := Int8.toInt_toInt32 _
  have h1 := Int8.le_toInt w.toInt8
  have h2 := Int8.toInt_lt w.toInt8
  exact ⟨by rw [h]; omega, by rw [h]; omega⟩
theorem by_255 (w : Int32) : byI w &&& nI 255 = w &&& nI 255 := by
  rw [byI_e]
  apply Int32.toBitVec_inj.mp
  rw [Int32.toBitVec_and, Int32.toBitVec_and, Int8.toBitVec_toInt32, Int32.toBitVec_toInt8]
  have e : (nI 255).toBitVec = 255#32 := rfl
  rw [e]
  apply BitVec.eq_of_getLsbD_eq
  intro i hi
  rw [BitVec.getLsbD_and, BitVec.getLsbD_and]
  by_cases h8 : i < 8
  · rw [BitVec.getLsbD_signExtend, BitVec.getLsbD_signExtend]
    have h32 : i < 32 := hi
    simp [h8, h32]
  · have : ∀ j : Nat, j < 32 → ¬ j < 8 → (255#32).getLsbD j = false := by decide
    rw [this i hi h8, Bool.and_false, Bool.and_false]
theorem K_feed1 {i : Nat} {tf : Nat → Int32} {w x1 x2 x3 x4 x5 : Int32} {i5' : Int32} (hx : σ.1 (a 20) = some (true, .inr (0, xF a (nI tp) i5' v9 v10 v11 sd))) (ht : σ.1 (a 3) = some (true, .inl (.byte, 700, .inl tf))) (hi : i < 20) (hp : tp + 20 ≤ 700) (k18 : Nat → Int32 → Int32 → Int32 → Int32 → Int32 → Int32 → vv_S → Option (Int32 × vv_S)) : KX1_feed_71 k18 w (a 20) x1 x2 x3 x4 x5 (nI i) σ = k18 (a 20) x1 x2 x3 x4 x5 (nI (i + 1)) (vv_up σ.1 (a 3) (true, .inl (.byte, 700, .inl (upd tf (tp + i) (byI (w >>> (nI (8 * (3 - i % 4)) &&& 31)))))), σ.2) := by
  have g3 : gR σ (a 20) 0 3 = some (a 3) := by unfold gR gV; rw [hx]; rfl
  have g4 : gI σ (a 20) 0 4 = some (nI tp) := by unfold gI gV; rw [hx]; rfl
  have hs : nI 24 - nI 8 * nI (i % 4) = nI (8 * (3 - i % 4)) := by
    rw [pk_mul, pk_sub (by omega)]
    congr 1
    omega
  have s1 : sB σ (a 3) (nI (tp + i)) (Int32.toInt8 (w >>> (nI (8 * (3 - i % 4)) &&& 31))).toInt32 = some (vv_up σ.1 (a 3) (true, .inl (.byte, 700, .inl (upd tf (tp + i) (byI (w >>> (nI (8 * (3 - i % 4)) &&& 31)))))), σ.2) := by
    unfold sB
    rw [ht]
    show (if FieldType.byte = FieldType.byte ∧ ¬ ((nI (tp + i)) < 0 ∨ 700 ≤ (nI (tp + i)).toNatClampNeg) then _ else none) = _
    rw [if_pos ⟨rfl, nI_in (by omega) (by omega)⟩, nI_clamp (by omega)]
    rfl
  unfold KX1_feed_71
  simp only [g3, g4, rm_n (show i < 2 ^ 31 by omega) (show 0 < 4 by omega) (show 4 < 2 ^ 31 by omega), hs, nI_add, s1, bdS]
/-- which word -/
def wrd (x1 x2 x3 x4 x5 : Int32) (i : Nat) : Int32 := if i < 4 then x1 else if i < 8 then x2 else if i < 12 then x3 else if i < 16 then x4 else x5
theorem K_feedL {x1 x2 x3 x4 x5 : Int32} {i5' : Int32} (hp : tp + 20 ≤ 700) (h3 : a 3 ≠ a 20) : ∀ (c i m : Nat) (σ : vv_S) (tf : Nat → Int32), σ.1 (a 20) = some (true, .inr (0, xF a (nI tp) i5' v9 v10 v11 sd)) → σ.1 (a 3) = some (true, .inl (.byte, 700, .inl tf)) → i + c = 20 → c < m → ∃ σ' tf', KX1_feed_18 m (a 20) x1 x2 x3 x4 x5 (nI i) σ = some (nI (tp + 20), σ') ∧ σ'.1 (a 20) = some (true, .inr (0, xF a (nI (tp + 20)) i5' v9 v10 v11 sd)) ∧ σ'.1 (a 3) = some (true, .inl (.byte, 700, .inl tf')) ∧ (∀ j, i ≤ j → j < 20 → tf' (tp + j) = byI (wrd x1 x2 x3 x4 x5 j >>> (nI (8 * (3 - j % 4)) &&& 31))) ∧ (∀ q, ¬ (tp + i ≤ q ∧ q < tp + 20) → tf' q = tf q) ∧ σ'.2 = σ.2 ∧ ∀ q, q ≠ a 20 → q ≠ a 3 → σ'.1 q = σ.1 q := by
  intro c
  induction c with
  | zero =>
    intro i m σ tf hx ht hi hm
    obtain ⟨m, rfl⟩ : ∃ z, m = z + 1 := ⟨m - 1, by omega⟩
    have g4 : gI σ (a 20) 0 4 = some (nI tp) := by unfold gI gV; rw [hx]; rfl
    have s1 := x_p (k := 4) (v := .int (nI (tp + 20))) hx (show _ < 15 by decide)
    refine ⟨(vv_up σ.1 (a 20) (true, .inr (0, xF a (nI (tp + 20)) i5' v9 v10 v11 sd)), σ.2), tf, ?_, up_s, (up_n h3).trans ht, fun j h1 h2 => by omega, fun _ _ => rfl, rfl, fun q h1 _ => up_n h1⟩
    show BKX1_feed_18 (KX1_feed_18 m) (a 20) x1 x2 x3 x4 x5 (nI i) σ = _
    unfold BKX1_feed_18
    rw [if_pos (nI_le (by omega) (by omega))]
    simp only [g4, nI_add, s1, bdS]
    have g5 : gI (vv_up σ.1 (a 20) (true, .inr (0, (xF a (nI tp) i5' v9 v10 v11 sd).set 4 (.int (nI (tp + 20))))), σ.2) (a 20) 0 4 = some (nI (tp + 20)) := by
      unfold gI gV
      dsimp only
      rw [up_s]
      rfl
    rw [g5, bdS]
    rfl
  | succ c ih =>
    intro i m σ tf hx ht hi hm
    obtain ⟨m, rfl⟩ : ∃ z, m = z + 1 := ⟨m - 1, by omega⟩
    obtain ⟨σ1, hσ1⟩ : ∃ τ : vv_S, τ = (vv_up σ.1 (a 3) (true, .inl (.byte, 700, .inl (upd tf (tp + i) (byI (wrd x1 x2 x3 x4 x5 i >>> (nI (8 * (3 - i % 4)) &&& 31)))))), σ.2) := ⟨_, rfl⟩
    have hx1 : σ1.1 (a 20) = some (true, .inr (0, xF a (nI tp) i5' v9 v10 v11 sd)) := by rw [hσ1]; exact (up_n (Ne.symm h3)).trans hx
    have ht1 : σ1.1 (a 3) = some (true, .inl (.byte, 700, .inl (upd tf (tp + i) (byI (wrd x1 x2 x3 x4 x5 i >>> (nI (8 * (3 - i % 4)) &&& 31)))))) := by rw [hσ1]; exact up_s
    obtain ⟨σ2, tf2, s2, x2', t2, b2, b3, z2, k2⟩ := ih (i + 1) m σ1 _ hx1 ht1 (by omega) (by omega)
    refine ⟨σ2, tf2, ?_, x2', t2, fun j h1 h2 => ?_, fun q hq => ?_, by rw [z2, hσ1], fun q h1 h2 => by rw [k2 q h1 h2, hσ1]; exact up_n h2⟩
    · rw [← s2]
      show BKX1_feed_18 (KX1_feed_18 m) (a 20) x1 x2 x3 x4 x5 (nI i) σ = _
      unfold BKX1_feed_18
      rw [if_neg (nI_ge (show i < 20 by omega) (by omega))]
      have st := fun w => K_feed1 (w := w) (x1 := x1) (x2 := x2) (x3 := x3) (x4 := x4) (x5 := x5) hx ht (show i < 20 by omega) hp (KX1_feed_18 m)
      rw [hσ1]
      unfold wrd
      by_cases h4 : i < 4
      · rw [if_neg (nI_ge h4 (by omega)), if_pos h4]; exact st x1
      · rw [if_pos (nI_le (by omega) (by omega)), if_neg h4]
        by_cases h8 : i < 8
        · rw [if_neg (nI_ge h8 (by omega)), if_pos h8]; exact st x2
        · rw [if_pos (nI_le (by omega) (by omega)), if_neg h8]
          by_cases h12 : i < 12
          · rw [if_neg (nI_ge h12 (by omega)), if_pos h12]; exact st x3
          · rw [if_pos (nI_le (by omega) (by omega)), if_neg h12]
            by_cases h16 : i < 16
            · rw [if_neg (nI_ge h16 (by omega)), if_pos h16]; exact st x4
            · rw [if_pos (nI_le (by omega) (by omega)), if_neg h16]; exact st x5
    · by_cases e : j = i
      · subst e
        rw [b3 _ (by omega), upd_s]
      · exact b2 j (by omega) h2
    · rw [b3 q (by omega), upd_n (by omega)]
theorem J_laysL (w : Int32) : ∀ (c p m : Nat) (T : tw_T), c ≤ 4 → T.1 13 = nI p → p + c ≤ 700 → c < m → ∃ T', J_lays_3 m w (nI (8 * c) + (-8)) T = some T' ∧ T'.1 13 = nI (p + c) ∧ (∀ q, p ≤ q → q < p + c → T'.2.2 8 q = (w >>> (nI (8 * (c - 1 - (q - p))) &&& 31)) &&& nI 255) ∧ (∀ q, ¬ (p ≤ q ∧ q < p + c) → T'.2.2 8 q = T.2.2 8 q) ∧ (∀ k, k ≠ 13 → T'.1 k = T.1 k) ∧ ∀ r, r ≠ 8 → T'.2.2 r = T.2.2 r := by
  intro c
  induction c with
  | zero =>
    intro p m T _ h13 hp hm
    obtain ⟨m, rfl⟩ : ∃ z, m = z + 1 := ⟨m - 1, by omega⟩
    refine ⟨T, ?_, h13, fun q h1 h2 => by omega, fun _ _ => rfl, fun _ _ => rfl, fun _ _ => rfl⟩
    show B_lays_3 (J_lays_3 m) w (nI (8 * 0) + (-8)) T = _
    unfold B_lays_3
    rw [if_pos (by decide)]
  | succ c ih =>
    intro p m T hc h13 hp hm
    obtain ⟨m, rfl⟩ : ∃ z, m = z + 1 := ⟨m - 1, by omega⟩
    have e8 : nI (8 * (c + 1)) + (-8) = nI (8 * c) := by
      rcases (show c = 0 ∨ c = 1 ∨ c = 2 ∨ c = 3 by omega) with rfl | rfl | rfl | rfl <;> decide
    obtain ⟨T2, s2, a1, a2, a3, a4, a5⟩ := ih (p + 1) m (tw_F (tw_A T 8 (upd (T.2.2 8) p ((w >>> (nI (8 * c) &&& 31)) &&& nI 255))) 13 (nI (p + 1))) (by omega) F_s (by omega) (by omega)
    refine ⟨T2, ?_, by rw [a1]; congr 1; omega, fun q h1 h2 => ?_, fun q hq => ?_, fun k hk => (a4 k hk).trans (F_n hk), fun r hr => (a5 r hr).trans (A_n hr)⟩
    · rw [← s2]
      show B_lays_3 (J_lays_3 m) w (nI (8 * (c + 1)) + (-8)) T = _
      unfold B_lays_3
      rw [e8, if_neg (nI_pos (by omega)), h13, nI_st (by omega) (by omega)]
      simp only [bdS]
      rw [show (tw_A T 8 (upd (T.2.2 8) p ((w >>> (nI (8 * c) &&& 31)) &&& nI 255))).1 13 = nI p from h13, nI_add]
    · by_cases e : q = p
      · subst e
        rw [a3 _ (by omega)]
        show (tw_A T 8 _).2.2 8 q = _
        rw [A_s, upd_s, show c + 1 - 1 - (q - q) = c by omega]
      · rw [a2 q (by omega) (by omega), show c + 1 - 1 - (q - p) = c - 1 - (q - (p + 1)) by omega]
    · rw [a3 q (by omega)]
      show (tw_A T 8 _).2.2 8 q = _
      rw [A_s, upd_n (by omega)]
theorem J_lays_e (w : Int32) {p : Nat} {T : tw_T} (h13 : T.1 13 = nI p) (hp : p + 4 ≤ 700) : ∃ T', J_lays w T = some T' ∧ T'.1 13 = nI (p + 4) ∧ (∀ q, p ≤ q → q < p + 4 → T'.2.2 8 q = (w >>> (nI (8 * (3 - (q - p))) &&& 31)) &&& nI 255) ∧ (∀ q, ¬ (p ≤ q ∧ q < p + 4) → T'.2.2 8 q = T.2.2 8 q) ∧ (∀ k, k ≠ 13 → T'.1 k = T.1 k) ∧ ∀ r, r ≠ 8 → T'.2.2 r = T.2.2 r := J_laysL w 4 p NN T (by omega) h13 hp (by unfold NN; omega)
theorem RL.feed (h : RL ad hC x0 ot o σ T) (x1 x2 x3 x4 x5 : Int32) : op0 ad hC x0 ot o σ (KX1_feed x0 x1 x2 x3 x4 x5 σ) (J_feed x1 x2 x3 x4 x5 T) := by
  obtain ⟨a, own, h0, P, R, lo, n, A, S, tp, i5, v9, v10, v11, sd, e1, e2, e3, H⟩ := h
  subst e1 e2 e3
  obtain ⟨T0, e0, H0, hz⟩ := H.z
  have hx := H0.2.1
  have hM := H0.1
  have hJ := H0.2.2.2.2.2.2.2.2.2.2
  obtain ⟨tf, t1, t2⟩ := H0.2.2.2.2.2.1
  have g4 : gI σ (a 20) 0 4 = some (nI tp) := by unfold gI gV; rw [hx]; rfl
  have h13 : T0.1 13 = nI tp := hJ.2.2.2.2.2.1
  have h700 := hJ.2.2.2.2.2.2.1
  unfold KX1_feed J_feed
  simp only [g4, e0, h13, nI_add, bdS]
  by_cases hp : tp + 20 ≤ 700
  · rw [if_pos (nI_le hp (by omega)), if_pos (nI_le hp (by omega))]
    have h3 : a 3 ≠ a 20 := fun z => by have h1 := hM.1.m3.1; rw [z, hM.1.m20.1] at h1; omega
    obtain ⟨σ1, tf1, s1, hx1, ht1, b1, b2, z1, k1⟩ := K_feedL (x1 := x1) (x2 := x2) (x3 := x3) (x4 := x4) (x5 := x5) hp h3 20 0 NN σ tf hx t1 (by omega) (by unfold NN; omega)
    obtain ⟨T1, j1, a1, c1, d1, u1, w1⟩ := J_lays_e x1 h13 (by omega)
    obtain ⟨T2, j2, a2, c2, d2, u2, w2⟩ := J_lays_e x2 a1 (by omega)
    obtain ⟨T3, j3, a3, c3, d3, u3, w3⟩ := J_lays_e x3 a2 (by omega)
    obtain ⟨T4, j4, a4, c4, d4, u4, w4⟩ := J_lays_e x4 a3 (by omega)
    obtain ⟨T5, j5, a5, c5, d5, u5, w5⟩ := J_lays_e x5 a4 (by omega)
    have uu : ∀ k, k ≠ 13 → T5.1 k = T0.1 k := fun k hk => by rw [u5 k hk, u4 k hk, u3 k hk, u2 k hk, u1 k hk]
    have ww : ∀ r, r ≠ 8 → T5.2.2 r = T0.2.2 r := fun r hr => by rw [w5 r hr, w4 r hr, w3 r hr, w2 r hr, w1 r hr]
    have a5' : T5.1 13 = nI (tp + 20) := by rw [a5]
    have H1 := H0.setX (σ' := σ1) (T' := T5) (fun q h1 h2 _ => k1 q h1 h2) z1 hx1 ⟨tf1, ht1, fun q hq => by
      by_cases hq1 : tp ≤ q ∧ q < tp + 20
      · obtain ⟨j, rfl⟩ : ∃ j, q = tp + j := ⟨q - tp, by omega⟩
        have hj : j < 20 := by omega
        rw [b1 j (by omega) hj]
        refine ⟨by_rI _, ?_⟩
        rw [by_255]
        unfold wrd
        by_cases h4 : j < 4
        · rw [if_pos h4, d5 _ (by omega), d4 _ (by omega), d3 _ (by omega), d2 _ (by omega), c1 _ (by omega) (by omega), show tp + j - tp = j % 4 by omega]
        · rw [if_neg h4]
          by_cases h8 : j < 8
          · rw [if_pos h8, d5 _ (by omega), d4 _ (by omega), d3 _ (by omega), c2 _ (by omega) (by omega), show tp + j - (tp + 4) = j % 4 by omega]
          · rw [if_neg h8]
            by_cases h12 : j < 12
            · rw [if_pos h12, d5 _ (by omega), d4 _ (by omega), c3 _ (by omega) (by omega), show tp + j - (tp + 4 + 4) = j % 4 by omega]
            · rw [if_neg h12]
              by_cases h16 : j < 16
              · rw [if_pos h16, d5 _ (by omega), c4 _ (by omega) (by omega), show tp + j - (tp + 4 + 4 + 4) = j % 4 by omega]
              · rw [if_neg h16, c5 _ (by omega) (by omega), show tp + j - (tp + 4 + 4 + 4 + 4) = j % 4 by omega]
      · rw [b2 q (by omega), d5 _ (by omega), d4 _ (by omega), d3 _ (by omega), d2 _ (by omega), d1 _ (by omega)]
        exact t2 q hq⟩ (by
      obtain ⟨rf, r1, r2⟩ := H0.2.2.2.2.2.2.1
      refine ⟨rf, (k1 _ ?_ ?_).trans r1, fun k hk => by rw [ww 9 (by omega)]; exact r2 k hk⟩
      · intro z; have h1 := hM.1.m6.1; rw [z, hM.1.m20.1] at h1; omega
      · intro z; have h1 := hM.1.m6.1; rw [z, hM.1.m3.1] at h1; omega) (H0.2.2.2.2.2.2.2.2.2.1.k (fun k h1 h2 => uu k (by omega)) (fun r h1 h2 => ww r (by omega)) (uu 1 (by omega)) (uu 3 (by omega))) (by
      obtain ⟨y1, y2, y3, y4, y5, y6, y7, y8⟩ := hJ
      refine ⟨y1.of (fun k h1 h2 => uu k (by omega)) (fun r h1 h2 => ww r (by omega)), y2.of (ww 20 (by omega)) (uu 1 (by omega)) (uu 3 (by omega)), y3.k (uu 44 (by omega)) (ww 21 (by omega)) (uu 1 (by omega)) (uu 3 (by omega)), y4.k (uu 52 (by omega)) (ww 28 (by omega)), y5, a5', by omega, (uu 15 (by omega)).trans y8⟩)
    have F : fC (a 21) (a 22) 0 0 σ σ1 := fC.of (D := fun t => t = 21 ∨ t = 4) (own := own) (a := a) ⟨by rw [z1]; omega, fun q h1 h2 => k1 q (fun z => h2 (Or.inl (by rw [z]; exact hM.1.m20.1))) (fun z => h2 (Or.inr (by rw [z]; exact hM.1.m3.1)))⟩ hM.1 (by simp) (by simp)
    refine ⟨nI (tp + 20), σ1, T5, s1, ?_, H1.rr' rfl rfl rfl, F.mo (by omega) (by omega)⟩
    simp only [j1, j2, j3, j4, j5, a5', bdS]
  · rw [if_neg (nI_ge (by omega) (by omega)), if_neg (nI_ge (by omega) (by omega))]
    exact ⟨-1, σ, T0, rfl, rfl, H0.rr' rfl rfl rfl, fC.rf.mo (by omega) (by omega)⟩
theorem RL.fault (h : RL ad hC x0 ot o σ T) : ∃ v T', KX1_fault x0 σ = some v ∧ J_fault T = some (v, T') ∧ RL ad hC x0 ot o σ T' := by
  obtain ⟨a, own, h0, P, R, lo, n, A, S, tp, i5, v9, v10, v11, sd, e1, e2, e3, H⟩ := h
  subst e1 e2 e3
  obtain ⟨T0, e0, H0, hz⟩ := H.z
  have h15 := H0.2.2.2.2.2.2.2.2.2.2.2.2.2.2.2.2.2
  have g5 : gI σ (a 20) 0 5 = some i5 := by unfold gI gV; rw [H0.2.1]; rfl
  refine ⟨i5, T0, ?_, ?_, H0.rr' rfl rfl rfl⟩
  · unfold KX1_fault
    simp only [g5, bdS]
  · unfold J_fault
    simp only [e0, bdS]
    rw [h15]
end FE
