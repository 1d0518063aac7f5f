set_option maxRecDepth 100000
/-! ('X1', 'pooled') -/
def BKX1_pooled_20 (fo : Nat → Nat → vv_S → Option Int32) (k20 : Nat → Int32 → Nat → Int32 → vv_S → Option (hX (Int32 × vv_S))) (x0 : Nat) (x1 : Int32) (x2 : Nat) (x3 : Int32) (σ : vv_S) : Option (hX (Int32 × vv_S)) := (gR σ x0 0 1).bind fun v1 => (isO σ v1 1).bind fun _ => (KX2_towns v1 σ).bind fun r2 => if r2 ≤ x3 then ((isO σ x0 0).bind fun _ => (KX1_wonIn fo x0 x2 x1 σ).bind fun r5 => (gR r5.2 x0 0 2).bind fun v7 => (isO r5.2 v7 2).bind fun _ => (KX3_copy v7 r5.2).bind fun r8 => (isO r8.2 x0 0).bind fun _ => (KX1_wonIn fo x0 r8.1 x1 r8.2).bind fun r10 => some (.inl ((r5.1 - r10.1), r10.2))) else ((gR σ x2 2 0).bind fun v12 => (gR σ x0 0 2).bind fun v13 => (gR σ x0 0 2).bind fun v14 => (gR σ v14 2 0).bind fun v15 => (isO σ v13 2).bind fun _ => (KX3_sum v13 v15 σ).bind fun r16 => (gR σ x0 0 1).bind fun v18 => (isO σ v18 1).bind fun _ => (KX2_towns v18 σ).bind fun r19 => (dvI r16 r19).bind fun v21 => (sI σ v12 x3 v21).bind fun σ23 => (gR σ23 x2 2 1).bind fun v24 => (gR σ23 x0 0 2).bind fun v25 => (gR σ23 x0 0 2).bind fun v26 => (gR σ23 v26 2 1).bind fun v27 => (isO σ23 v25 2).bind fun _ => (KX3_sum v25 v27 σ23).bind fun r28 => (gR σ23 x0 0 1).bind fun v30 => (isO σ23 v30 1).bind fun _ => (KX2_towns v30 σ23).bind fun r31 => (dvI r28 r31).bind fun v33 => (sI σ23 v24 x3 v33).bind fun σ35 => k20 x0 x1 x2 (x3 + (nI 1)) σ35)
def KX1_pooled_20 (fo : Nat → Nat → vv_S → Option Int32) : Nat → Nat → Int32 → Nat → Int32 → vv_S → Option (hX (Int32 × vv_S))
  | 0, _, _, _, _, _ => none
  | n + 1, x0, x1, x2, x3, σ => BKX1_pooled_20 fo (KX1_pooled_20 fo n) x0 x1 x2 x3 σ
theorem vb_KX1_pooled_20 {l : Launch} {G : vv_G} {d : Nat} {ad : Nat → Nat} {fo : Nat → Nat → vv_S → Option Int32} (hG : vv_gok G) (hH : vv_hy l G ad) (hfo : ∀ {a vs : Nat} {σ : vv_S} {r : Int32}, fo a vs σ = some r → vv_Form l G d a vs σ r) {k20 : Nat → Int32 → Nat → Int32 → vv_S → Option (hX (Int32 × vv_S))} (hk20 : ∀ {x0 : Nat} {x1 : Int32} {x2 : Nat} {x3 : Int32} {σ : vv_S} {r : hX (Int32 × vv_S)}, k20 x0 x1 x2 x3 σ = some r → vv_V l G MX1_pooled (d + 9) 20 [(0, .ref x0), (1, .int x1), (2, .ref x2), (3, .int x3)] [] σ (xI r)) {x0 : Nat} {x1 : Int32} {x2 : Nat} {x3 : Int32} {σ : vv_S} {r : hX (Int32 × vv_S)} (h : BKX1_pooled_20 fo k20 x0 x1 x2 x3 σ = some r) : vv_V l G MX1_pooled (d + 9) 20 [(0, .ref x0), (1, .int x1), (2, .ref x2), (3, .int x3)] [] σ (xI r) := by
  unfold BKX1_pooled_20 at h
  refine vv_iload_n dX1_pooled_20 rfl 3 rfl ?_
  refine vv_aload_n dX1_pooled_21 rfl 0 rfl ?_
  replace h := gR_o h; obtain ⟨v1, fv1, sv1, ev1, lv1, h⟩ := h
  refine vv_get (fl_X1_22 hG) ev1 lv1 dX1_pooled_22 ?_
  replace h := isO_o h; obtain ⟨fz3, sz3, ez3, h⟩ := h
  replace h := bd_o h; obtain ⟨r2, er2, h⟩ := h
  refine vv_callV ok_X2_towns q638 (m_KX2_towns hG hH er2 d) rfl (by omega) ⟨_, _, _, _, _, ez3, by rw [hG.1]; rfl⟩ rfl rfl (Nat.le_of_ble_eq_true rfl) dX1_pooled_25 ?_
  refine vv_icmp_ge (tgt := 93) dX1_pooled_28 (by decide) (fun c4 => ?_) (fun c4 => ?_)
  · rw [if_pos c4] at h
    refine vv_aload_n dX1_pooled_93 rfl 0 rfl ?_
    refine vv_aload_n dX1_pooled_94 rfl 2 rfl ?_
    refine vv_iload_n dX1_pooled_95 rfl 1 rfl ?_
    replace h := isO_o h; obtain ⟨fz6, sz6, ez6, h⟩ := h
    replace h := bd_o h; obtain ⟨r5, er5, h⟩ := h
    refine vv_callV ok_X1_wonIn q625 (m_KX1_wonIn hG hH hfo er5 d) rfl (by omega) ⟨_, _, _, _, _, ez6, by rw [hG.1]; rfl⟩ rfl rfl (Nat.le_of_ble_eq_true rfl) dX1_pooled_96 ?_
    refine vv_aload_n dX1_pooled_99 rfl 0 rfl ?_
    refine vv_aload_n dX1_pooled_100 rfl 0 rfl ?_
    replace h := gR_o h; obtain ⟨v7, fv7, sv7, ev7, lv7, h⟩ := h
    refine vv_get (fl_X1_31 hG) ev7 lv7 dX1_pooled_101 ?_
    replace h := isO_o h; obtain ⟨fz9, sz9, ez9, h⟩ := h
    replace h := bd_o h; obtain ⟨r8, er8, h⟩ := h
    refine vv_callV ok_X3_copy q346 (m_KX3_copy hG hH er8 d) rfl (by omega) ⟨_, _, _, _, _, ez9, by rw [hG.1]; rfl⟩ rfl rfl (Nat.le_of_ble_eq_true rfl) dX1_pooled_104 ?_
    refine vv_iload_n dX1_pooled_107 rfl 1 rfl ?_
    replace h := isO_o h; obtain ⟨fz11, sz11, ez11, h⟩ := h
    replace h := bd_o h; obtain ⟨r10, er10, h⟩ := h
    refine vv_callV ok_X1_wonIn q625 (m_KX1_wonIn hG hH hfo er10 d) rfl (by omega) ⟨_, _, _, _, _, ez11, by rw [hG.1]; rfl⟩ rfl rfl (Nat.le_of_ble_eq_true rfl) dX1_pooled_108 ?_
    refine vv_isub dX1_pooled_111 ?_
    cases h
    exact vv_iret rfl dX1_pooled_112
  · rw [if_neg c4] at h
    refine vv_aload_n dX1_pooled_31 rfl 2 rfl ?_
    replace h := gR_o h; obtain ⟨v12, fv12, sv12, ev12, lv12, h⟩ := h
    refine vv_getM (fl_X1_110 hH) ev12 lv12 dX1_pooled_32 ?_
    refine vv_iload_n dX1_pooled_35 rfl 3 rfl ?_
    refine vv_aload_n dX1_pooled_36 rfl 0 rfl ?_
    replace h := gR_o h; obtain ⟨v13, fv13, sv13, ev13, lv13, h⟩ := h
    refine vv_get (fl_X1_31 hG) ev13 lv13 dX1_pooled_37 ?_
    refine vv_aload_n dX1_pooled_40 rfl 0 rfl ?_
    replace h := gR_o h; obtain ⟨v14, fv14, sv14, ev14, lv14, h⟩ := h
    refine vv_get (fl_X1_31 hG) ev14 lv14 dX1_pooled_41 ?_
    replace h := gR_o h; obtain ⟨v15, fv15, sv15, ev15, lv15, h⟩ := h
    refine vv_getM (fl_X1_110 hH) ev15 lv15 dX1_pooled_44 ?_
    replace h := isO_o h; obtain ⟨fz17, sz17, ez17, h⟩ := h
    replace h := bd_o h; obtain ⟨r16, er16, h⟩ := h
    refine vv_callV ok_X3_sum q629 (m_KX3_sum hG hH er16 d) rfl (by omega) ⟨_, _, _, _, _, ez17, by rw [hG.1]; rfl⟩ rfl rfl (Nat.le_of_ble_eq_true rfl) dX1_pooled_47 ?_
    refine vv_aload_n dX1_pooled_50 rfl 0 rfl ?_
    replace h := gR_o h; obtain ⟨v18, fv18, sv18, ev18, lv18, h⟩ := h
    refine vv_get (fl_X1_22 hG) ev18 lv18 dX1_pooled_51 ?_
    replace h := isO_o h; obtain ⟨fz20, sz20, ez20, h⟩ := h
    replace h := bd_o h; obtain ⟨r19, er19, h⟩ := h
    refine vv_callV ok_X2_towns q638 (m_KX2_towns hG hH er19 d) rfl (by omega) ⟨_, _, _, _, _, ez20, by rw [hG.1]; rfl⟩ rfl rfl (Nat.le_of_ble_eq_true rfl) dX1_pooled_54 ?_
    replace h := dv_o h; obtain ⟨hz22, h⟩ := h
    refine vv_idiv dX1_pooled_57 hz22 ?_
    obtain ⟨v21, ev21⟩ : ∃ z, z = (r16 / r19) := ⟨_, rfl⟩
    rw [← ev21] at h ⊢
    replace h := sI_o h; obtain ⟨σ23, nσ23, qσ23, eσ23, iσ23, uσ23, h⟩ := h
    refine vv_iast eσ23 iσ23 dX1_pooled_58 ?_
    refine vv_sg uσ23 ?_
    refine vv_aload_n dX1_pooled_59 rfl 2 rfl ?_
    replace h := gR_o h; obtain ⟨v24, fv24, sv24, ev24, lv24, h⟩ := h
    refine vv_getM (fl_X1_117 hH) ev24 lv24 dX1_pooled_60 ?_
    refine vv_iload_n dX1_pooled_63 rfl 3 rfl ?_
    refine vv_aload_n dX1_pooled_64 rfl 0 rfl ?_
    replace h := gR_o h; obtain ⟨v25, fv25, sv25, ev25, lv25, h⟩ := h
    refine vv_get (fl_X1_31 hG) ev25 lv25 dX1_pooled_65 ?_
    refine vv_aload_n dX1_pooled_68 rfl 0 rfl ?_
    replace h := gR_o h; obtain ⟨v26, fv26, sv26, ev26, lv26, h⟩ := h
    refine vv_get (fl_X1_31 hG) ev26 lv26 dX1_pooled_69 ?_
    replace h := gR_o h; obtain ⟨v27, fv27, sv27, ev27, lv27, h⟩ := h
    refine vv_getM (fl_X1_117 hH) ev27 lv27 dX1_pooled_72 ?_
    replace h := isO_o h; obtain ⟨fz29, sz29, ez29, h⟩ := h
    replace h := bd_o h; obtain ⟨r28, er28, h⟩ := h
    refine vv_callV ok_X3_sum q629 (m_KX3_sum hG hH er28 d) rfl (by omega) ⟨_, _, _, _, _, ez29, by rw [hG.1]; rfl⟩ rfl rfl (Nat.le_of_ble_eq_true rfl) dX1_pooled_75 ?_
    refine vv_aload_n dX1_pooled_78 rfl 0 rfl ?_
    replace h := gR_o h; obtain ⟨v30, fv30, sv30, ev30, lv30, h⟩ := h
    refine vv_get (fl_X1_22 hG) ev30 lv30 dX1_pooled_79 ?_
    replace h := isO_o h; obtain ⟨fz32, sz32, ez32, h⟩ := h
    replace h := bd_o h; obtain ⟨r31, er31, h⟩ := h
    refine vv_callV ok_X2_towns q638 (m_KX2_towns hG hH er31 d) rfl (by omega) ⟨_, _, _, _, _, ez32, by rw [hG.1]; rfl⟩ rfl rfl (Nat.le_of_ble_eq_true rfl) dX1_pooled_82 ?_
    replace h := dv_o h; obtain ⟨hz34, h⟩ := h
    refine vv_idiv dX1_pooled_85 hz34 ?_
    obtain ⟨v33, ev33⟩ : ∃ z, z = (r28 / r31) := ⟨_, rfl⟩
    rw [← ev33] at h ⊢
    replace h := sI_o h; obtain ⟨σ35, nσ35, qσ35, eσ35, iσ35, uσ35, h⟩ := h
    refine vv_iast eσ35 iσ35 dX1_pooled_86 ?_
    refine vv_sg uσ35 ?_
    refine vv_iinc (v := (x3 + (nI 1))) (lv' := [(0, .ref x0), (1, .int x1), (2, .ref x2), (3, .int (x3 + (nI 1)))]) dX1_pooled_87 3 rfl rfl (by decide) [1, 2, 3, 0] rfl ?_
    refine vv_goto (tgt := 20) dX1_pooled_90 (by decide) ?_
    exact hk20 h
theorem v_KX1_pooled_20 {l : Launch} {G : vv_G} {d : Nat} {ad : Nat → Nat} {fo : Nat → Nat → vv_S → Option Int32} (hG : vv_gok G) (hH : vv_hy l G ad) (hfo : ∀ {a vs : Nat} {σ : vv_S} {r : Int32}, fo a vs σ = some r → vv_Form l G d a vs σ r) : ∀ (n : Nat) {x0 : Nat} {x1 : Int32} {x2 : Nat} {x3 : Int32} {σ : vv_S} {r : hX (Int32 × vv_S)}, KX1_pooled_20 fo n x0 x1 x2 x3 σ = some r → vv_V l G MX1_pooled (d + 9) 20 [(0, .ref x0), (1, .int x1), (2, .ref x2), (3, .int x3)] [] σ (xI r) := by
  intro n
  induction n with
  | zero => intro _ _ _ _ _ _ h; cases h
  | succ n ih => intro _ _ _ _ _ _ h; exact vb_KX1_pooled_20 hG hH hfo ih h
def KX1_pooled (fo : Nat → Nat → vv_S → Option Int32) (x0 : Nat) (x1 : Int32) (σ : vv_S) : Option (hX (Int32 × vv_S)) := (KX1_in x1 (nI 1) (nI 60)).bind fun r1 => (KX1_right r1 σ).bind fun r2 => xb r2 fun r3 => (gR r3 x0 0 2).bind fun v4 => (isO r3 v4 2).bind fun _ => (KX3_copy v4 r3).bind fun r5 => KX1_pooled_20 fo NN x0 x1 r5.1 (nI 0) r5.2
theorem v_KX1_pooled_0 {l : Launch} {G : vv_G} {d : Nat} {ad : Nat → Nat} {fo : Nat → Nat → vv_S → Option Int32} (hG : vv_gok G) (hH : vv_hy l G ad) (hfo : ∀ {a vs : Nat} {σ : vv_S} {r : Int32}, fo a vs σ = some r → vv_Form l G d a vs σ r) {x0 : Nat} {x1 : Int32} {σ : vv_S} {r : hX (Int32 × vv_S)} (h : KX1_pooled fo x0 x1 σ = some r) : vv_V l G MX1_pooled (d + 9) 0 [(0, .ref x0), (1, .int x1)] [] σ (xI r) := by
  unfold KX1_pooled at h
  refine vv_iload_n dX1_pooled_0 rfl 1 rfl ?_
  refine vv_iconst (v := (nI 1)) dX1_pooled_1 (by decide) ?_
  refine vv_bipush (v := (nI 60)) dX1_pooled_2 (by decide) ?_
  replace h := bd_o h; obtain ⟨r1, er1, h⟩ := h
  refine vv_callS ok_X1_in q335 (m_KX1_in hG hH er1 d) rfl (by omega) rfl rfl (Nat.le_of_ble_eq_true rfl) dX1_pooled_4 ?_
  replace h := bd_o h; obtain ⟨r2, er2, h⟩ := h
  rcases r2 with r3 | r3x
  · refine vv_callS ok_X1_right q700 (m_KX1_right hG hH er2 d) rfl (by omega) rfl rfl (Nat.le_of_ble_eq_true rfl) dX1_pooled_7 ?_
    replace h := xb_l h
    refine vv_aload_n dX1_pooled_10 rfl 0 rfl ?_
    replace h := gR_o h; obtain ⟨v4, fv4, sv4, ev4, lv4, h⟩ := h
    refine vv_get (fl_X1_31 hG) ev4 lv4 dX1_pooled_11 ?_
    replace h := isO_o h; obtain ⟨fz6, sz6, ez6, h⟩ := h
    replace h := bd_o h; obtain ⟨r5, er5, h⟩ := h
    refine vv_callV ok_X3_copy q346 (m_KX3_copy hG hH er5 d) rfl (by omega) ⟨_, _, _, _, _, ez6, by rw [hG.1]; rfl⟩ rfl rfl (Nat.le_of_ble_eq_true rfl) dX1_pooled_14 ?_
    refine vv_astore_n (lv' := [(0, .ref x0), (1, .int x1), (2, .ref r5.1)]) dX1_pooled_17 rfl (by decide) [1, 2, 0] rfl ?_
    refine vv_iconst (v := (nI 0)) dX1_pooled_18 (by decide) ?_
    refine vv_istore_n (lv' := [(0, .ref x0), (1, .int x1), (2, .ref r5.1), (3, .int (nI 0))]) dX1_pooled_19 rfl (by decide) [1, 2, 3, 0] rfl ?_
    exact v_KX1_pooled_20 hG hH hfo NN h
  · cases h
    exact vv_callSX ok_X1_right q700 (m_KX1_right hG hH er2 d) rfl (by omega) rfl rfl (Nat.le_of_ble_eq_true rfl) dX1_pooled_7 (vv_Tout (by intro x hx; cases hx))
theorem m_KX1_pooled {l : Launch} {G : vv_G} {d : Nat} {ad : Nat → Nat} {fo : Nat → Nat → vv_S → Option Int32} (hG : vv_gok G) (hH : vv_hy l G ad) (hfo : ∀ {a vs : Nat} {σ : vv_S} {r : Int32}, fo a vs σ = some r → vv_Form l G d a vs σ r) {x0 : Nat} {x1 : Int32} {σ : vv_S} {r : hX (Int32 × vv_S)} (h : KX1_pooled fo x0 x1 σ = some r) (d9 : Nat) (e9 : d9 = d := by rfl) : vv_Met l G MX1_pooled (d9 + 9) [.ref x0, .int x1] σ (xI r) := by
  subst e9
  exact vv_head (by decide +kernel) rfl (Nat.le_of_ble_eq_true rfl) rfl (v_KX1_pooled_0 hG hH hfo h)
/-! ('X1', 'gains') -/
def KX1_gains (fo : Nat → Nat → vv_S → Option Int32) (x0 : Nat) (x1 : Int32) (x2 : Int32) (x3 : Int32) (x4 : Int32) (σ : vv_S) : Option (Nat × vv_S) := (gR σ x0 0 2).bind fun v1 => (isO σ v1 2).bind fun _ => (KX3_copy v1 σ).bind fun r2 => (gR r2.2 x0 0 2).bind fun v4 => (gR r2.2 v4 2 0).bind fun v5 => (aI r2.2 .int v5 x1).bind fun v6 => (dvI v6 (nI 10)).bind fun v7 => (gR r2.2 x0 0 2).bind fun v9 => (gR r2.2 v9 2 0).bind fun v10 => (aI r2.2 .int v10 x2).bind fun v11 => (dvI v11 (nI 10)).bind fun v12 => (gR r2.2 r2.1 2 0).bind fun v14 => (gR r2.2 x0 0 2).bind fun v15 => (gR r2.2 v15 2 0).bind fun v16 => (aI r2.2 .int v16 x1).bind fun v17 => (sI r2.2 v14 x1 (mnI (nI 9999) ((v17 - (x3 * v7)) + (x4 * v12)))).bind fun σ18 => (gR σ18 r2.1 2 0).bind fun v19 => (gR σ18 x0 0 2).bind fun v20 => (gR σ18 v20 2 0).bind fun v21 => (aI σ18 .int v21 x2).bind fun v22 => (sI σ18 v19 x2 (mnI (nI 9999) ((v22 - (x4 * v12)) + (x3 * v7)))).bind fun σ23 => (isO σ23 r2.1 2).bind fun _ => (KX3_after fo r2.1 (nI 10) σ23).bind fun r24 => (nwA r24.2 .int (nI 2)).bind fun σ26 => (gR σ26 r2.1 2 2).bind fun v27 => (aI σ26 .int v27 x1).bind fun v28 => (gR σ26 x0 0 2).bind fun v29 => (gR σ26 v29 2 2).bind fun v30 => (aI σ26 .int v30 x1).bind fun v31 => (sI σ26 r24.2.2.1 (nI 0) (v28 - v31)).bind fun σ32 => (gR σ32 r2.1 2 2).bind fun v33 => (aI σ32 .int v33 x2).bind fun v34 => (gR σ32 x0 0 2).bind fun v35 => (gR σ32 v35 2 2).bind fun v36 => (aI σ32 .int v36 x2).bind fun v37 => (sI σ32 r24.2.2.1 (nI 1) (v34 - v37)).bind fun σ38 => some (r24.2.2.1, σ38)
theorem v_KX1_gains_0 {l : Launch} {G : vv_G} {d : Nat} {ad : Nat → Nat} {fo : Nat → Nat → vv_S → Option Int32} (hG : vv_gok G) (hH : vv_hy l G ad) (hfo : ∀ {a vs : Nat} {σ : vv_S} {r : Int32}, fo a vs σ = some r → vv_Form l G d a vs σ r) {x0 : Nat} {x1 : Int32} {x2 : Int32} {x3 : Int32} {x4 : Int32} {σ : vv_S} {r : Nat × vv_S} (h : KX1_gains fo x0 x1 x2 x3 x4 σ = some r) : vv_V l G MX1_gains (d + 6) 0 [(0, .ref x0), (1, .int x1), (2, .int x2), (3, .int x3), (4, .int x4)] [] σ (.inl (some (.ref r.1)), r.2) := by
  unfold KX1_gains at h
  refine vv_aload_n dX1_gains_0 rfl 0 rfl ?_
  replace h := gR_o h; obtain ⟨v1, fv1, sv1, ev1, lv1, h⟩ := h
  refine vv_get (fl_X1_31 hG) ev1 lv1 dX1_gains_1 ?_
  replace h := isO_o h; obtain ⟨fz3, sz3, ez3, h⟩ := h
  replace h := bd_o h; obtain ⟨r2, er2, h⟩ := h
  refine vv_callV ok_X3_copy q346 (m_KX3_copy hG hH er2 d) rfl (by omega) ⟨_, _, _, _, _, ez3, by rw [hG.1]; rfl⟩ rfl rfl (Nat.le_of_ble_eq_true rfl) dX1_gains_4 ?_
  refine vv_astore (lv' := [(0, .ref x0), (1, .int x1), (2, .int x2), (3, .int x3), (4, .int x4), (5, .ref r2.1)]) dX1_gains_7 (by decide) [1, 2, 3, 4, 5, 0] rfl ?_
  refine vv_iload_n dX1_gains_9 rfl 3 rfl ?_
  refine vv_aload_n dX1_gains_10 rfl 0 rfl ?_
  replace h := gR_o h; obtain ⟨v4, fv4, sv4, ev4, lv4, h⟩ := h
  refine vv_get (fl_X1_31 hG) ev4 lv4 dX1_gains_11 ?_
  replace h := gR_o h; obtain ⟨v5, fv5, sv5, ev5, lv5, h⟩ := h
  refine vv_getM (fl_X1_110 hH) ev5 lv5 dX1_gains_14 ?_
  refine vv_iload_n dX1_gains_17 rfl 1 rfl ?_
  replace h := aI_o h; obtain ⟨v6, fv6, nv6, qv6, ev6, iv6, wv6, h⟩ := h
  refine vv_iald ev6 iv6 dX1_gains_18 ?_
  rw [wv6]
  refine vv_bipush (v := (nI 10)) dX1_gains_19 (by decide) ?_
  replace h := dv_o h; obtain ⟨hz8, h⟩ := h
  refine vv_idiv dX1_gains_21 hz8 ?_
  obtain ⟨v7, ev7⟩ : ∃ z, z = (v6 / (nI 10)) := ⟨_, rfl⟩
  rw [← ev7] at h ⊢
  refine vv_imul dX1_gains_22 ?_
  refine vv_istore (lv' := [(0, .ref x0), (1, .int x1), (2, .int x2), (3, .int x3), (4, .int x4), (5, .ref r2.1), (6, .int (x3 * v7))]) dX1_gains_23 (by decide) [1, 2, 3, 4, 5, 6, 0] rfl ?_
  refine vv_iload dX1_gains_25 4 rfl ?_
  refine vv_aload_n dX1_gains_27 rfl 0 rfl ?_
  replace h := gR_o h; obtain ⟨v9, fv9, sv9, ev9, lv9, h⟩ := h
  refine vv_get (fl_X1_31 hG) ev9 lv9 dX1_gains_28 ?_
  replace h := gR_o h; obtain ⟨v10, fv10, sv10, ev10, lv10, h⟩ := h
  refine vv_getM (fl_X1_110 hH) ev10 lv10 dX1_gains_31 ?_
  refine vv_iload_n dX1_gains_34 rfl 2 rfl ?_
  replace h := aI_o h; obtain ⟨v11, fv11, nv11, qv11, ev11, iv11, wv11, h⟩ := h
  refine vv_iald ev11 iv11 dX1_gains_35 ?_
  rw [wv11]
  refine vv_bipush (v := (nI 10)) dX1_gains_36 (by decide) ?_
  replace h := dv_o h; obtain ⟨hz13, h⟩ := h
  refine vv_idiv dX1_gains_38 hz13 ?_
  obtain ⟨v12, ev12⟩ : ∃ z, z = (v11 / (nI 10)) := ⟨_, rfl⟩
  rw [← ev12] at h ⊢
  refine vv_imul dX1_gains_39 ?_
  refine vv_istore (lv' := [(0, .ref x0), (1, .int x1), (2, .int x2), (3, .int x3), (4, .int x4), (5, .ref r2.1), (6, .int (x3 * v7)), (7, .int (x4 * v12))]) dX1_gains_40 (by decide) [1, 2, 3, 4, 5, 6, 7, 0] rfl ?_
  refine vv_aload dX1_gains_42 5 rfl ?_
  replace h := gR_o h; obtain ⟨v14, fv14, sv14, ev14, lv14, h⟩ := h
  refine vv_getM (fl_X1_110 hH) ev14 lv14 dX1_gains_44 ?_
  refine vv_iload_n dX1_gains_47 rfl 1 rfl ?_
  refine vv_sipush (v := (nI 9999)) dX1_gains_48 (by decide) ?_
  refine vv_aload_n dX1_gains_51 rfl 0 rfl ?_
  replace h := gR_o h; obtain ⟨v15, fv15, sv15, ev15, lv15, h⟩ := h
  refine vv_get (fl_X1_31 hG) ev15 lv15 dX1_gains_52 ?_
  replace h := gR_o h; obtain ⟨v16, fv16, sv16, ev16, lv16, h⟩ := h
  refine vv_getM (fl_X1_110 hH) ev16 lv16 dX1_gains_55 ?_
  refine vv_iload_n dX1_gains_58 rfl 1 rfl ?_
  replace h := aI_o h; obtain ⟨v17, fv17, nv17, qv17, ev17, iv17, wv17, h⟩ := h
  refine vv_iald ev17 iv17 dX1_gains_59 ?_
  rw [wv17]
  refine vv_iload dX1_gains_60 6 rfl ?_
  refine vv_isub dX1_gains_62 ?_
  refine vv_iload dX1_gains_63 7 rfl ?_
  refine vv_iadd dX1_gains_65 ?_
  refine vv_mmin q1326 (by omega) (Nat.le_of_ble_eq_true rfl) dX1_gains_66 ?_
  replace h := sI_o h; obtain ⟨σ18, nσ18, qσ18, eσ18, iσ18, uσ18, h⟩ := h
  refine vv_iast eσ18 iσ18 dX1_gains_69 ?_
  refine vv_sg uσ18 ?_
  refine vv_aload dX1_gains_70 5 rfl ?_
  replace h := gR_o h; obtain ⟨v19, fv19, sv19, ev19, lv19, h⟩ := h
  refine vv_getM (fl_X1_110 hH) ev19 lv19 dX1_gains_72 ?_
  refine vv_iload_n dX1_gains_75 rfl 2 rfl ?_
  refine vv_sipush (v := (nI 9999)) dX1_gains_76 (by decide) ?_
  refine vv_aload_n dX1_gains_79 rfl 0 rfl ?_
  replace h := gR_o h; obtain ⟨v20, fv20, sv20, ev20, lv20, h⟩ := h
  refine vv_get (fl_X1_31 hG) ev20 lv20 dX1_gains_80 ?_
  replace h := gR_o h; obtain ⟨v21, fv21, sv21, ev21, lv21, h⟩ := h
  refine vv_getM (fl_X1_110 hH) ev21 lv21 dX1_gains_83 ?_
  refine vv_iload_n dX1_gains_86 rfl 2 rfl ?_
  replace h := aI_o h; obtain ⟨v22, fv22, nv22, qv22, ev22, iv22, wv22, h⟩ := h
  refine vv_iald ev22 iv22 dX1_gains_87 ?_
  rw [wv22]
  refine vv_iload dX1_gains_88 7 rfl ?_
  refine vv_isub dX1_gains_90 ?_
  refine vv_iload dX1_gains_91 6 rfl ?_
  refine vv_iadd dX1_gains_93 ?_
  refine vv_mmin q1326 (by omega) (Nat.le_of_ble_eq_true rfl) dX1_gains_94 ?_
  replace h := sI_o h; obtain ⟨σ23, nσ23, qσ23, eσ23, iσ23, uσ23, h⟩ := h
  refine vv_iast eσ23 iσ23 dX1_gains_97 ?_
  refine vv_sg uσ23 ?_
  refine vv_aload dX1_gains_98 5 rfl ?_
  refine vv_bipush (v := (nI 10)) dX1_gains_100 (by decide) ?_
  replace h := isO_o h; obtain ⟨fz25, sz25, ez25, h⟩ := h
  replace h := bd_o h; obtain ⟨r24, er24, h⟩ := h
  refine vv_callV ok_X3_after q454 (m_KX3_after hG hH hfo er24 d) rfl (by omega) ⟨_, _, _, _, _, ez25, by rw [hG.1]; rfl⟩ rfl rfl (Nat.le_of_ble_eq_true rfl) dX1_gains_102 ?_
  refine vv_pop dX1_gains_105 rfl ?_
  refine vv_iconst (v := (nI 2)) dX1_gains_106 (by decide) ?_
  replace h := nA_o h; obtain ⟨σ26, aσ26, bσ26, uσ26, h⟩ := h
  refine vv_newa (atype := .int) (ty := .int) (a0 := (((nI 2)).toNatClampNeg, .inl (fun _ => 0))) rfl rfl (by rw [hG.2]; decide) q183 (fun cA => rfl) aσ26 rfl (Nat.le_trans (Nat.mul_le_mul_right _ bσ26) (Nat.le_of_ble_eq_true rfl)) dX1_gains_107 ?_
  refine vv_sg uσ26 ?_
  refine vv_dup dX1_gains_109 rfl ?_
  refine vv_iconst (v := (nI 0)) dX1_gains_110 (by decide) ?_
  refine vv_aload dX1_gains_111 5 rfl ?_
  replace h := gR_o h; obtain ⟨v27, fv27, sv27, ev27, lv27, h⟩ := h
  refine vv_getM (fl_X1_120 hH) ev27 lv27 dX1_gains_113 ?_
  refine vv_iload_n dX1_gains_116 rfl 1 rfl ?_
  replace h := aI_o h; obtain ⟨v28, fv28, nv28, qv28, ev28, iv28, wv28, h⟩ := h
  refine vv_iald ev28 iv28 dX1_gains_117 ?_
  rw [wv28]
  refine vv_aload_n dX1_gains_118 rfl 0 rfl ?_
  replace h := gR_o h; obtain ⟨v29, fv29, sv29, ev29, lv29, h⟩ := h
  refine vv_get (fl_X1_31 hG) ev29 lv29 dX1_gains_119 ?_
  replace h := gR_o h; obtain ⟨v30, fv30, sv30, ev30, lv30, h⟩ := h
  refine vv_getM (fl_X1_120 hH) ev30 lv30 dX1_gains_122 ?_
  refine vv_iload_n dX1_gains_125 rfl 1 rfl ?_
  replace h := aI_o h; obtain ⟨v31, fv31, nv31, qv31, ev31, iv31, wv31, h⟩ := h
  refine vv_iald ev31 iv31 dX1_gains_126 ?_
  rw [wv31]
  refine vv_isub dX1_gains_127 ?_
  replace h := sI_o h; obtain ⟨σ32, nσ32, qσ32, eσ32, iσ32, uσ32, h⟩ := h
  refine vv_iast eσ32 iσ32 dX1_gains_128 ?_
  refine vv_sg uσ32 ?_
  refine vv_dup dX1_gains_129 rfl ?_
  refine vv_iconst (v := (nI 1)) dX1_gains_130 (by decide) ?_
  refine vv_aload dX1_gains_131 5 rfl ?_
  replace h := gR_o h; obtain ⟨v33, fv33, sv33, ev33, lv33, h⟩ := h
  refine vv_getM (fl_X1_120 hH) ev33 lv33 dX1_gains_133 ?_
  refine vv_iload_n dX1_gains_136 rfl 2 rfl ?_
  replace h := aI_o h; obtain ⟨v34, fv34, nv34, qv34, ev34, iv34, wv34, h⟩ := h
  refine vv_iald ev34 iv34 dX1_gains_137 ?_
  rw [wv34]
  refine vv_aload_n dX1_gains_138 rfl 0 rfl ?_
  replace h := gR_o h; obtain ⟨v35, fv35, sv35, ev35, lv35, h⟩ := h
  refine vv_get (fl_X1_31 hG) ev35 lv35 dX1_gains_139 ?_
  replace h := gR_o h; obtain ⟨v36, fv36, sv36, ev36, lv36, h⟩ := h
  refine vv_getM (fl_X1_120 hH) ev36 lv36 dX1_gains_142 ?_
  refine vv_iload_n dX1_gains_145 rfl 2 rfl ?_
  replace h := aI_o h; obtain ⟨v37, fv37, nv37, qv37, ev37, iv37, wv37, h⟩ := h
  refine vv_iald ev37 iv37 dX1_gains_146 ?_
  rw [wv37]
  refine vv_isub dX1_gains_147 ?_
  replace h := sI_o h; obtain ⟨σ38, nσ38, qσ38, eσ38, iσ38, uσ38, h⟩ := h
  refine vv_iast eσ38 iσ38 dX1_gains_148 ?_
  refine vv_sg uσ38 ?_
  cases h
  exact vv_aret rfl (by first | exact Or.inl ⟨_, rfl⟩ | exact Or.inr ⟨_, rfl⟩) (Or.inr ⟨_, rfl⟩) dX1_gains_149
theorem m_KX1_gains {l : Launch} {G : vv_G} {d : Nat} {ad : Nat → Nat} {fo : Nat → Nat → vv_S → Option Int32} (hG : vv_gok G) (hH : vv_hy l G ad) (hfo : ∀ {a vs : Nat} {σ : vv_S} {r : Int32}, fo a vs σ = some r → vv_Form l G d a vs σ r) {x0 : Nat} {x1 : Int32} {x2 : Int32} {x3 : Int32} {x4 : Int32} {σ : vv_S} {r : Nat × vv_S} (h : KX1_gains fo x0 x1 x2 x3 x4 σ = some r) (d9 : Nat) (e9 : d9 = d := by rfl) : vv_Met l G MX1_gains (d9 + 6) [.ref x0, .int x1, .int x2, .int x3, .int x4] σ (.inl (some (.ref r.1)), r.2) := by
  subst e9
  exact vv_head (by decide +kernel) rfl (Nat.le_of_ble_eq_true rfl) rfl (v_KX1_gains_0 hG hH hfo h)
/-! ('X1', 'game') -/
def KX1_game_150 (fo : Nat → Nat → vv_S → Option Int32) (s0 : Int32) (σ : vv_S) : Option (hX (Int32 × vv_S)) := some (.inl (s0, σ))
theorem v_KX1_game_150 {l : Launch} {G : vv_G} {d : Nat} {ad : Nat → Nat} {fo : Nat → Nat → vv_S → Option Int32} (hG : vv_gok G) (hH : vv_hy l G ad) (hfo : ∀ {a vs : Nat} {σ : vv_S} {r : Int32}, fo a vs σ = some r → vv_Form l G d a vs σ r) {s0 : Int32} {σ : vv_S} {r : hX (Int32 × vv_S)} (h : KX1_game_150 fo s0 σ = some r) : vv_V l G MX1_game (d + 10) 150 [] [.int s0] σ (xI r) := by
  unfold KX1_game_150 at h
  cases h
  exact vv_iret rfl dX1_game_150
def KX1_game_127 (fo : Nat → Nat → vv_S → Option Int32) (k37 : Nat → Int32 → Int32 → Int32 → Int32 → Int32 → Int32 → vv_S → Option (hX (Int32 × vv_S))) (k46 : Nat → Int32 → Int32 → Int32 → Int32 → Int32 → Int32 → Int32 → vv_S → Option (hX (Int32 × vv_S))) (x0 : Nat) (x1 : Int32) (x2 : Int32) (x3 : Int32) (x4 : Int32) (x5 : Int32) (x6 : Int32) (x7 : Int32) (σ : vv_S) : Option (hX (Int32 × vv_S)) := k46 x0 x1 x2 x3 x4 x5 x6 (x7 + (nI 1)) σ
theorem v_KX1_game_127 {l : Launch} {G : vv_G} {d : Nat} {ad : Nat → Nat} {fo : Nat → Nat → vv_S → Option Int32} (hG : vv_gok G) (hH : vv_hy l G ad) (hfo : ∀ {a vs : Nat} {σ : vv_S} {r : Int32}, fo a vs σ = some r → vv_Form l G d a vs σ r) {k37 : Nat → Int32 → Int32 → Int32 → Int32 → Int32 → Int32 → vv_S → Option (hX (Int32 × vv_S))} (hk37 : ∀ {x0 : Nat} {x1 : Int32} {x2 : Int32} {x3 : Int32} {x4 : Int32} {x5 : Int32} {x6 : Int32} {σ : vv_S} {r : hX (Int32 × vv_S)}, k37 x0 x1 x2 x3 x4 x5 x6 σ = some r → vv_V l G MX1_game (d + 10) 37 [(0, .ref x0), (1, .int x1), (2, .int x2), (3, .int x3), (4, .int x4), (5, .int x5), (6, .int x6)] [] σ (xI r)) {k46 : Nat → Int32 → Int32 → Int32 → Int32 → Int32 → Int32 → Int32 → vv_S → Option (hX (Int32 × vv_S))} (hk46 : ∀ {x0 : Nat} {x1 : Int32} {x2 : Int32} {x3 : Int32} {x4 : Int32} {x5 : Int32} {x6 : Int32} {x7 : Int32} {σ : vv_S} {r : hX (Int32 × vv_S)}, k46 x0 x1 x2 x3 x4 x5 x6 x7 σ = some r → vv_V l G MX1_game (d + 10) 46 [(0, .ref x0), (1, .int x1), (2, .int x2), (3, .int x3), (4, .int x4), (5, .int x5), (6, .int x6), (7, .int x7)] [] σ (xI r)) {x0 : Nat} {x1 : Int32} {x2 : Int32} {x3 : Int32} {x4 : Int32} {x5 : Int32} {x6 : Int32} {x7 : Int32} {σ : vv_S} {r : hX (Int32 × vv_S)} (h : KX1_game_127 fo k37 k46 x0 x1 x2 x3 x4 x5 x6 x7 σ = some r) : vv_V l G MX1_game (d + 10) 127 [(0, .ref x0), (1, .int x1), (2, .int x2), (3, .int x3), (4, .int x4), (5, .int x5), (6, .int x6), (7, .int x7)] [] σ (xI r) := by
  unfold KX1_game_127 at h
  refine vv_iinc (v := (x7 + (nI 1))) (lv' := [(0, .ref x0), (1, .int x1), (2, .int x2), (3, .int x3), (4, .int x4), (5, .int x5), (6, .int x6), (7, .int (x7 + (nI 1)))]) dX1_game_127 7 rfl rfl (by decide) [1, 2, 3, 4, 5, 6, 7, 0] rfl ?_
  refine vv_goto (tgt := 46) dX1_game_130 (by decide) ?_
  exact hk46 h
def KX1_game_124 (fo : Nat → Nat → vv_S → Option Int32) (k37 : Nat → Int32 → Int32 → Int32 → Int32 → Int32 → Int32 → vv_S → Option (hX (Int32 × vv_S))) (k46 : Nat → Int32 → Int32 → Int32 → Int32 → Int32 → Int32 → Int32 → vv_S → Option (hX (Int32 × vv_S))) (x0 : Nat) (x1 : Int32) (x2 : Int32) (x3 : Int32) (x4 : Int32) (x5 : Int32) (x6 : Int32) (x7 : Int32) (σ : vv_S) : Option (hX (Int32 × vv_S)) := KX1_game_127 fo k37 k46 x0 x1 x2 x3 (x4 + (nI 1)) x5 x6 x7 σ
theorem v_KX1_game_124 {l : Launch} {G : vv_G} {d : Nat} {ad : Nat → Nat} {fo : Nat → Nat → vv_S → Option Int32} (hG : vv_gok G) (hH : vv_hy l G ad) (hfo : ∀ {a vs : Nat} {σ : vv_S} {r : Int32}, fo a vs σ = some r → vv_Form l G d a vs σ r) {k37 : Nat → Int32 → Int32 → Int32 → Int32 → Int32 → Int32 → vv_S → Option (hX (Int32 × vv_S))} (hk37 : ∀ {x0 : Nat} {x1 : Int32} {x2 : Int32} {x3 : Int32} {x4 : Int32} {x5 : Int32} {x6 : Int32} {σ : vv_S} {r : hX (Int32 × vv_S)}, k37 x0 x1 x2 x3 x4 x5 x6 σ = some r → vv_V l G MX1_game (d + 10) 37 [(0, .ref x0), (1, .int x1), (2, .int x2), (3, .int x3), (4, .int x4), (5, .int x5), (6, .int x6)] [] σ (xI r)) {k46 : Nat → Int32 → Int32 → Int32 → Int32 → Int32 → Int32 → Int32 → vv_S → Option (hX (Int32 × vv_S))} (hk46 : ∀ {x0 : Nat} {x1 : Int32} {x2 : Int32} {x3 : Int32} {x4 : Int32} {x5 : Int32} {x6 : Int32} {x7 : Int32} {σ : vv_S} {r : hX (Int32 × vv_S)}, k46 x0 x1 x2 x3 x4 x5 x6 x7 σ = some r → vv_V l G MX1_game (d + 10) 46 [(0, .ref x0), (1, .int x1), (2, .int x2), (3, .int x3), (4, .int x4), (5, .int x5), (6, .int x6), (7, .int x7)] [] σ (xI r)) {x0 : Nat} {x1 : Int32} {x2 : Int32} {x3 : Int32} {x4 : Int32} {x5 : Int32} {x6 : Int32} {x7 : Int32} {σ : vv_S} {r : hX (Int32 × vv_S)} (h : KX1_game_124 fo k37 k46 x0 x1 x2 x3 x4 x5 x6 x7 σ = some r) : vv_V l G MX1_game (d + 10) 124 [(0, .ref x0), (1, .int x1), (2, .int x2), (3, .int x3), (4, .int x4), (5, .int x5), (6, .int x6), (7, .int x7)] [] σ (xI r) := by
  unfold KX1_game_124 at h
  refine vv_iinc (v := (x4 + (nI 1))) (lv' := [(0, .ref x0), (1, .int x1), (2, .int x2), (3, .int x3), (4, .int (x4 + (nI 1))), (5, .int x5), (6, .int x6), (7, .int x7)]) dX1_game_124 4 rfl rfl (by decide) [1, 2, 3, 4, 0, 5, 6, 7] rfl ?_
  exact v_KX1_game_127 hG hH hfo hk37 hk46 h
def BKX1_game_46 (fo : Nat → Nat → vv_S → Option Int32) (k37 : Nat → Int32 → Int32 → Int32 → Int32 → Int32 → Int32 → vv_S → Option (hX (Int32 × vv_S))) (k46 : Nat → Int32 → Int32 → Int32 → Int32 → Int32 → Int32 → Int32 → vv_S → Option (hX (Int32 × vv_S))) (x0 : Nat) (x1 : Int32) (x2 : Int32) (x3 : Int32) (x4 : Int32) (x5 : Int32) (x6 : Int32) (x7 : Int32) (σ : vv_S) : Option (hX (Int32 × vv_S)) := if (nI 2) ≤ x7 then (k37 x0 x1 x2 x3 x4 x5 (x6 + (nI 1)) σ) else ((isO σ x0 0).bind fun _ => (KX1_gains fo x0 x1 x2 x6 x7 σ).bind fun r2 => (isO r2.2 x0 0).bind fun _ => (KX1_gains fo x0 x1 x2 ((nI 1) - x6) x7 r2.2).bind fun r4 => (aI r4.2 .int r4.1 (nI 0)).bind fun v6 => (aI r4.2 .int r2.1 (nI 0)).bind fun v7 => if v7 < v6 then (KX1_game_127 fo k37 k46 x0 x1 x2 x3 x4 x5 x6 x7 r4.2) else ((isO r4.2 x0 0).bind fun _ => (KX1_gains fo x0 x1 x2 x6 ((nI 1) - x7) r4.2).bind fun r9 => (aI r9.2 .int r9.1 (nI 1)).bind fun v11 => (aI r9.2 .int r2.1 (nI 1)).bind fun v12 => if v11 ≤ v12 then (if x4 = 0 then (KX1_game_124 fo k37 k46 x0 x1 x2 x3 x4 (((nI 10) * x6) + x7) x6 x7 r9.2) else (KX1_game_124 fo k37 k46 x0 x1 x2 x3 x4 x5 x6 x7 r9.2)) else (KX1_game_127 fo k37 k46 x0 x1 x2 x3 x4 x5 x6 x7 r9.2)))
def KX1_game_46 (fo : Nat → Nat → vv_S → Option Int32) (k37 : Nat → Int32 → Int32 → Int32 → Int32 → Int32 → Int32 → vv_S → Option (hX (Int32 × vv_S))) : Nat → Nat → Int32 → Int32 → Int32 → Int32 → Int32 → Int32 → Int32 → vv_S → Option (hX (Int32 × vv_S))
  | 0, _, _, _, _, _, _, _, _, _ => none
  | n + 1, x0, x1, x2, x3, x4, x5, x6, x7, σ => BKX1_game_46 fo k37 (KX1_game_46 fo k37 n) x0 x1 x2 x3 x4 x5 x6 x7 σ
theorem vb_KX1_game_46 {l : Launch} {G : vv_G} {d : Nat} {ad : Nat → Nat} {fo : Nat → Nat → vv_S → Option Int32} (hG : vv_gok G) (hH : vv_hy l G ad) (hfo : ∀ {a vs : Nat} {σ : vv_S} {r : Int32}, fo a vs σ = some r → vv_Form l G d a vs σ r) {k37 : Nat → Int32 → Int32 → Int32 → Int32 → Int32 → Int32 → vv_S → Option (hX (Int32 × vv_S))} (hk37 : ∀ {x0 : Nat} {x1 : Int32} {x2 : Int32} {x3 : Int32} {x4 : Int32} {x5 : Int32} {x6 : Int32} {σ : vv_S} {r : hX (Int32 × vv_S)}, k37 x0 x1 x2 x3 x4 x5 x6 σ = some r → vv_V l G MX1_game (d + 10) 37 [(0, .ref x0), (1, .int x1), (2, .int x2), (3, .int x3), (4, .int x4), (5, .int x5), (6, .int x6)] [] σ (xI r)) {k46 : Nat → Int32 → Int32 → Int32 → Int32 → Int32 → Int32 → Int32 → vv_S → Option (hX (Int32 × vv_S))} (hk46 : ∀ {x0 : Nat} {x1 : Int32} {x2 : Int32} {x3 : Int32} {x4 : Int32} {x5 : Int32} {x6 : Int32} {x7 : Int32} {σ : vv_S} {r : hX (Int32 × vv_S)}, k46 x0 x1 x2 x3 x4 x5 x6 x7 σ = some r → vv_V l G MX1_game (d + 10) 46 [(0, .ref x0), (1, .int x1), (2, .int x2), (3, .int x3), (4, .int x4), (5, .int x5), (6, .int x6), (7, .int x7)] [] σ (xI r)) {x0 : Nat} {x1 : Int32} {x2 : Int32} {x3 : Int32} {x4 : Int32} {x5 : Int32} {x6 : Int32} {x7 : Int32} {σ : vv_S} {r : hX (Int32 × vv_S)} (h : BKX1_game_46 fo k37 k46 x0 x1 x2 x3 x4 x5 x6 x7 σ = some r) : vv_V l G MX1_game (d + 10) 46 [(0, .ref x0), (1, .int x1), (2, .int x2), (3, .int x3), (4, .int x4), (5, .int x5), (6, .int x6), (7, .int x7)] [] σ (xI r) := by
  unfold BKX1_game_46 at h
  refine vv_iload dX1_game_46 7 rfl ?_
  refine vv_iconst (v := (nI 2)) dX1_game_48 (by decide) ?_
  refine vv_icmp_ge (tgt := 133) dX1_game_49 (by decide) (fun c1 => ?_) (fun c1 => ?_)
  · rw [if_pos c1] at h
    refine vv_iinc (v := (x6 + (nI 1))) (lv' := [(0, .ref x0), (1, .int x1), (2, .int x2), (3, .int x3), (4, .int x4), (5, .int x5), (6, .int (x6 + (nI 1))), (7, .int x7)]) dX1_game_133 6 rfl rfl (by decide) [1, 2, 3, 4, 5, 6, 0, 7] rfl ?_
    refine vv_goto (tgt := 37) dX1_game_136 (by decide) ?_
    refine vv_sub (lv' := [(0, .ref x0), (1, .int x1), (2, .int x2), (3, .int x3), (4, .int x4), (5, .int x5), (6, .int (x6 + (nI 1)))]) [0, 1, 2, 3, 4, 5, 6] rfl ?_
    exact hk37 h
  · rw [if_neg c1] at h
    refine vv_aload_n dX1_game_52 rfl 0 rfl ?_
    refine vv_iload_n dX1_game_53 rfl 1 rfl ?_
    refine vv_iload_n dX1_game_54 rfl 2 rfl ?_
    refine vv_iload dX1_game_55 6 rfl ?_
    refine vv_iload dX1_game_57 7 rfl ?_
    replace h := isO_o h; obtain ⟨fz3, sz3, ez3, h⟩ := h
    replace h := bd_o h; obtain ⟨r2, er2, h⟩ := h
    refine vv_callV ok_X1_gains q1479 (m_KX1_gains hG hH hfo er2 d) rfl (by omega) ⟨_, _, _, _, _, ez3, by rw [hG.1]; rfl⟩ rfl rfl (Nat.le_of_ble_eq_true rfl) dX1_game_59 ?_
    refine vv_astore (lv' := [(0, .ref x0), (1, .int x1), (2, .int x2), (3, .int x3), (4, .int x4), (5, .int x5), (6, .int x6), (7, .int x7), (8, .ref r2.1)]) dX1_game_62 (by decide) [1, 2, 3, 4, 5, 6, 7, 8, 0] rfl ?_
    refine vv_aload_n dX1_game_64 rfl 0 rfl ?_
    refine vv_iload_n dX1_game_65 rfl 1 rfl ?_
    refine vv_iload_n dX1_game_66 rfl 2 rfl ?_
    refine vv_iconst (v := (nI 1)) dX1_game_67 (by decide) ?_
    refine vv_iload dX1_game_68 6 rfl ?_
    refine vv_isub dX1_game_70 ?_
    refine vv_iload dX1_game_71 7 rfl ?_
    replace h := isO_o h; obtain ⟨fz5, sz5, ez5, h⟩ := h
    replace h := bd_o h; obtain ⟨r4, er4, h⟩ := h
    refine vv_callV ok_X1_gains q1479 (m_KX1_gains hG hH hfo er4 d) rfl (by omega) ⟨_, _, _, _, _, ez5, by rw [hG.1]; rfl⟩ rfl rfl (Nat.le_of_ble_eq_true rfl) dX1_game_73 ?_
    refine vv_iconst (v := (nI 0)) dX1_game_76 (by decide) ?_
    replace h := aI_o h; obtain ⟨v6, fv6, nv6, qv6, ev6, iv6, wv6, h⟩ := h
    refine vv_iald ev6 iv6 dX1_game_77 ?_
    rw [wv6]
    refine vv_aload dX1_game_78 8 rfl ?_
    refine vv_iconst (v := (nI 0)) dX1_game_80 (by decide) ?_
    replace h := aI_o h; obtain ⟨v7, fv7, nv7, qv7, ev7, iv7, wv7, h⟩ := h
    refine vv_iald ev7 iv7 dX1_game_81 ?_
    rw [wv7]
    refine vv_icmp_gt (tgt := 127) dX1_game_82 (by decide) (fun c8 => ?_) (fun c8 => ?_)
    · rw [if_pos c8] at h
      refine vv_sub (lv' := [(0, .ref x0), (1, .int x1), (2, .int x2), (3, .int x3), (4, .int x4), (5, .int x5), (6, .int x6), (7, .int x7)]) [0, 1, 2, 3, 4, 5, 6, 7] rfl ?_
      exact v_KX1_game_127 hG hH hfo hk37 hk46 h
    · rw [if_neg c8] at h
      refine vv_aload_n dX1_game_85 rfl 0 rfl ?_
      refine vv_iload_n dX1_game_86 rfl 1 rfl ?_
      refine vv_iload_n dX1_game_87 rfl 2 rfl ?_
      refine vv_iload dX1_game_88 6 rfl ?_
      refine vv_iconst (v := (nI 1)) dX1_game_90 (by decide) ?_
      refine vv_iload dX1_game_91 7 rfl ?_
      refine vv_isub dX1_game_93 ?_
      replace h := isO_o h; obtain ⟨fz10, sz10, ez10, h⟩ := h
      replace h := bd_o h; obtain ⟨r9, er9, h⟩ := h
      refine vv_callV ok_X1_gains q1479 (m_KX1_gains hG hH hfo er9 d) rfl (by omega) ⟨_, _, _, _, _, ez10, by rw [hG.1]; rfl⟩ rfl rfl (Nat.le_of_ble_eq_true rfl) dX1_game_94 ?_
      refine vv_iconst (v := (nI 1)) dX1_game_97 (by decide) ?_
      replace h := aI_o h; obtain ⟨v11, fv11, nv11, qv11, ev11, iv11, wv11, h⟩ := h
      refine vv_iald ev11 iv11 dX1_game_98 ?_
      rw [wv11]
      refine vv_aload dX1_game_99 8 rfl ?_
      refine vv_iconst (v := (nI 1)) dX1_game_101 (by decide) ?_
      replace h := aI_o h; obtain ⟨v12, fv12, nv12, qv12, ev12, iv12, wv12, h⟩ := h
      refine vv_iald ev12 iv12 dX1_game_102 ?_
      rw [wv12]
      refine vv_icmp_le (tgt := 109) dX1_game_103 (by decide) (fun c13 => ?_) (fun c13 => ?_)
      · rw [if_pos c13] at h
        refine vv_iload dX1_game_109 4 rfl ?_
        refine vv_if_ne (tgt := 124) dX1_game_111 (by decide) (fun c14 => ?_) (fun c14 => ?_)
        · rw [if_neg c14] at h
          refine vv_sub (lv' := [(0, .ref x0), (1, .int x1), (2, .int x2), (3, .int x3), (4, .int x4), (5, .int x5), (6, .int x6), (7, .int x7)]) [0, 1, 2, 3, 4, 5, 6, 7] rfl ?_
          exact v_KX1_game_124 hG hH hfo hk37 hk46 h
        · rw [if_pos c14] at h
          refine vv_bipush (v := (nI 10)) dX1_game_114 (by decide) ?_
          refine vv_iload dX1_game_116 6 rfl ?_
          refine vv_imul dX1_game_118 ?_
          refine vv_iload dX1_game_119 7 rfl ?_
          refine vv_iadd dX1_game_121 ?_
          refine vv_istore (lv' := [(0, .ref x0), (1, .int x1), (2, .int x2), (3, .int x3), (4, .int x4), (5, .int (((nI 10) * x6) + x7)), (6, .int x6), (7, .int x7), (8, .ref r2.1)]) dX1_game_122 (by decide) [1, 2, 3, 4, 5, 0, 6, 7, 8] rfl ?_
          refine vv_sub (lv' := [(0, .ref x0), (1, .int x1), (2, .int x2), (3, .int x3), (4, .int x4), (5, .int (((nI 10) * x6) + x7)), (6, .int x6), (7, .int x7)]) [0, 1, 2, 3, 4, 5, 6, 7] rfl ?_
          exact v_KX1_game_124 hG hH hfo hk37 hk46 h
      · rw [if_neg c13] at h
        refine vv_goto (tgt := 127) dX1_game_106 (by decide) ?_
        refine vv_sub (lv' := [(0, .ref x0), (1, .int x1), (2, .int x2), (3, .int x3), (4, .int x4), (5, .int x5), (6, .int x6), (7, .int x7)]) [0, 1, 2, 3, 4, 5, 6, 7] rfl ?_
        exact v_KX1_game_127 hG hH hfo hk37 hk46 h
theorem v_KX1_game_46 {l : Launch} {G : vv_G} {d : Nat} {ad : Nat → Nat} {fo : Nat → Nat → vv_S → Option Int32} (hG : vv_gok G) (hH : vv_hy l G ad) (hfo : ∀ {a vs : Nat} {σ : vv_S} {r : Int32}, fo a vs σ = some r → vv_Form l G d a vs σ r) {k37 : Nat → Int32 → Int32 → Int32 → Int32 → Int32 → Int32 → vv_S → Option (hX (Int32 × vv_S))} (hk37 : ∀ {x0 : Nat} {x1 : Int32} {x2 : Int32} {x3 : Int32} {x4 : Int32} {x5 : Int32} {x6 : Int32} {σ : vv_S} {r : hX (Int32 × vv_S)}, k37 x0 x1 x2 x3 x4 x5 x6 σ = some r → vv_V l G MX1_game (d + 10) 37 [(0, .ref x0), (1, .int x1), (2, .int x2), (3, .int x3), (4, .int x4), (5, .int x5), (6, .int x6)] [] σ (xI r)) : ∀ (n : Nat) {x0 : Nat} {x1 : Int32} {x2 : Int32} {x3 : Int32} {x4 : Int32} {x5 : Int32} {x6 : Int32} {x7 : Int32} {σ : vv_S} {r : hX (Int32 × vv_S)}, KX1_game_46 fo k37 n x0 x1 x2 x3 x4 x5 x6 x7 σ = some r → vv_V l G MX1_game (d + 10) 46 [(0, .ref x0), (1, .int x1), (2, .int x2), (3, .int x3), (4, .int x4), (5, .int x5), (6, .int x6), (7, .int x7)] [] σ (xI r) := by
  intro n
  induction n with
  | zero => intro _ _ _ _ _ _ _ _ _ _ h; cases h
  | succ n ih => intro _ _ _ _ _ _ _ _ _ _ h; exact vb_KX1_game_46 hG hH hfo hk37 ih h
def BKX1_game_37 (fo : Nat → Nat → vv_S → Option Int32) (k37 : Nat → Int32 → Int32 → Int32 → Int32 → Int32 → Int32 → vv_S → Option (hX (Int32 × vv_S))) (x0 : Nat) (x1 : Int32) (x2 : Int32) (x3 : Int32) (x4 : Int32) (x5 : Int32) (x6 : Int32) (σ : vv_S) : Option (hX (Int32 × vv_S)) := if (nI 2) ≤ x6 then (if x3 = 0 then (KX1_game_150 fo x4 σ) else (KX1_game_150 fo x5 σ)) else (KX1_game_46 fo k37 NN x0 x1 x2 x3 x4 x5 x6 (nI 0) σ)
def KX1_game_37 (fo : Nat → Nat → vv_S → Option Int32) : Nat → Nat → Int32 → Int32 → Int32 → Int32 → Int32 → Int32 → vv_S → Option (hX (Int32 × vv_S))
  | 0, _, _, _, _, _, _, _, _ => none
  | n + 1, x0, x1, x2, x3, x4, x5, x6, σ => BKX1_game_37 fo (KX1_game_37 fo n) x0 x1 x2 x3 x4 x5 x6 σ
theorem vb_KX1_game_37 {l : Launch} {G : vv_G} {d : Nat} {ad : Nat → Nat} {fo : Nat → Nat → vv_S → Option Int32} (hG : vv_gok G) (hH : vv_hy l G ad) (hfo : ∀ {a vs : Nat} {σ : vv_S} {r : Int32}, fo a vs σ = some r → vv_Form l G d a vs σ r) {k37 : Nat → Int32 → Int32 → Int32 → Int32 → Int32 → Int32 → vv_S → Option (hX (Int32 × vv_S))} (hk37 : ∀ {x0 : Nat} {x1 : Int32} {x2 : Int32} {x3 : Int32} {x4 : Int32} {x5 : Int32} {x6 : Int32} {σ : vv_S} {r : hX (Int32 × vv_S)}, k37 x0 x1 x2 x3 x4 x5 x6 σ = some r → vv_V l G MX1_game (d + 10) 37 [(0, .ref x0), (1, .int x1), (2, .int x2), (3, .int x3), (4, .int x4), (5, .int x5), (6, .int x6)] [] σ (xI r)) {x0 : Nat} {x1 : Int32} {x2 : Int32} {x3 : Int32} {x4 : Int32} {x5 : Int32} {x6 : Int32} {σ : vv_S} {r : hX (Int32 × vv_S)} (h : BKX1_game_37 fo k37 x0 x1 x2 x3 x4 x5 x6 σ = some r) : vv_V l G MX1_game (d + 10) 37 [(0, .ref x0), (1, .int x1), (2, .int x2), (3, .int x3), (4, .int x4), (5, .int x5), (6, .int x6)] [] σ (xI r) := by
  unfold BKX1_game_37 at h
  refine vv_iload dX1_game_37 6 rfl ?_
  refine vv_iconst (v := (nI 2)) dX1_game_39 (by decide) ?_
  refine vv_icmp_ge (tgt := 139) dX1_game_40 (by decide) (fun c1 => ?_) (fun c1 => ?_)
  · rw [if_pos c1] at h
    refine vv_iload_n dX1_game_139 rfl 3 rfl ?_
    refine vv_if_ne (tgt := 148) dX1_game_140 (by decide) (fun c2 => ?_) (fun c2 => ?_)
    · rw [if_neg c2] at h
      refine vv_iload dX1_game_148 5 rfl ?_
      refine vv_sub (lv' := []) [] rfl ?_
      exact v_KX1_game_150 hG hH hfo h
    · rw [if_pos c2] at h
      refine vv_iload dX1_game_143 4 rfl ?_
      refine vv_goto (tgt := 150) dX1_game_145 (by decide) ?_
      refine vv_sub (lv' := []) [] rfl ?_
      exact v_KX1_game_150 hG hH hfo h
  · rw [if_neg c1] at h
    refine vv_iconst (v := (nI 0)) dX1_game_43 (by decide) ?_
    refine vv_istore (lv' := [(0, .ref x0), (1, .int x1), (2, .int x2), (3, .int x3), (4, .int x4), (5, .int x5), (6, .int x6), (7, .int (nI 0))]) dX1_game_44 (by decide) [1, 2, 3, 4, 5, 6, 7, 0] rfl ?_
    exact v_KX1_game_46 hG hH hfo hk37 NN h
theorem v_KX1_game_37 {l : Launch} {G : vv_G} {d : Nat} {ad : Nat → Nat} {fo : Nat → Nat → vv_S → Option Int32} (hG : vv_gok G) (hH : vv_hy l G ad) (hfo : ∀ {a vs : Nat} {σ : vv_S} {r : Int32}, fo a vs σ = some r → vv_Form l G d a vs σ r) : ∀ (n : Nat) {x0 : Nat} {x1 : Int32} {x2 : Int32} {x3 : Int32} {x4 : Int32} {x5 : Int32} {x6 : Int32} {σ : vv_S} {r : hX (Int32 × vv_S)}, KX1_game_37 fo n x0 x1 x2 x3 x4 x5 x6 σ = some r → vv_V l G MX1_game (d + 10) 37 [(0, .ref x0), (1, .int x1), (2, .int x2), (3, .int x3), (4, .int x4), (5, .int x5), (6, .int x6)] [] σ (xI r) := by
  intro n
  induction n with
  | zero => intro _ _ _ _ _ _ _ _ _ h; cases h
  | succ n ih => intro _ _ _ _ _ _ _ _ _ h; exact vb_KX1_game_37 hG hH hfo ih h
def KX1_game_25 (fo : Nat → Nat → vv_S → Option Int32) (s0 : Int32) (x0 : Nat) (x1 : Int32) (x2 : Int32) (x3 : Int32) (σ : vv_S) : Option (hX (Int32 × vv_S)) := (KX1_right s0 σ).bind fun r1 => xb r1 fun r2 => KX1_game_37 fo NN x0 x1 x2 x3 (nI 0) (-1) (nI 0) r2
theorem v_KX1_game_25 {l : Launch} {G : vv_G} {d : Nat} {ad : Nat → Nat} {fo : Nat → Nat → vv_S → Option Int32} (hG : vv_gok G) (hH : vv_hy l G ad) (hfo : ∀ {a vs : Nat} {σ : vv_S} {r : Int32}, fo a vs σ = some r → vv_Form l G d a vs σ r) {s0 : Int32} {x0 : Nat} {x1 : Int32} {x2 : Int32} {x3 : Int32} {σ : vv_S} {r : hX (Int32 × vv_S)} (h : KX1_game_25 fo s0 x0 x1 x2 x3 σ = some r) : vv_V l G MX1_game (d + 10) 25 [(0, .ref x0), (1, .int x1), (2, .int x2), (3, .int x3)] [.int s0] σ (xI r) := by
  unfold KX1_game_25 at h
  replace h := bd_o h; obtain ⟨r1, er1, h⟩ := h
  rcases r1 with r2 | r2x
  · refine vv_callS ok_X1_right q700 (m_KX1_right hG hH er1 d) rfl (by omega) rfl rfl (Nat.le_of_ble_eq_true rfl) dX1_game_25 ?_
    replace h := xb_l h
    refine vv_iconst (v := (nI 0)) dX1_game_28 (by decide) ?_
    refine vv_istore (lv' := [(0, .ref x0), (1, .int x1), (2, .int x2), (3, .int x3), (4, .int (nI 0))]) dX1_game_29 (by decide) [1, 2, 3, 4, 0] rfl ?_
    refine vv_iconst (v := (-1)) dX1_game_31 (by decide) ?_
    refine vv_istore (lv' := [(0, .ref x0), (1, .int x1), (2, .int x2), (3, .int x3), (4, .int (nI 0)), (5, .int (-1))]) dX1_game_32 (by decide) [1, 2, 3, 4, 5, 0] rfl ?_
    refine vv_iconst (v := (nI 0)) dX1_game_34 (by decide) ?_
    refine vv_istore (lv' := [(0, .ref x0), (1, .int x1), (2, .int x2), (3, .int x3), (4, .int (nI 0)), (5, .int (-1)), (6, .int (nI 0))]) dX1_game_35 (by decide) [1, 2, 3, 4, 5, 6, 0] rfl ?_
    exact v_KX1_game_37 hG hH hfo NN h
  · cases h
    exact vv_callSX ok_X1_right q700 (m_KX1_right hG hH er1 d) rfl (by omega) rfl rfl (Nat.le_of_ble_eq_true rfl) dX1_game_25 (vv_Tout (by intro x hx; cases hx))
def KX1_game (fo : Nat → Nat → vv_S → Option Int32) (x0 : Nat) (x1 : Int32) (x2 : Int32) (x3 : Int32) (σ : vv_S) : Option (hX (Int32 × vv_S)) := (isO σ x0 0).bind fun _ => (KX1_aTown x0 x1 σ).bind fun r1 => xb r1 fun r3 => (isO r3 x0 0).bind fun _ => (KX1_aTown x0 x2 r3).bind fun r4 => xb r4 fun r6 => (KX1_oneOf x3 (nI 1) r6).bind fun r7 => xb r7 fun r8 => if x1 = x2 then (KX1_game_25 fo (nI 0) x0 x1 x2 x3 r8) else (KX1_game_25 fo (nI 1) x0 x1 x2 x3 r8)
theorem v_KX1_game_0 {l : Launch} {G : vv_G} {d : Nat} {ad : Nat → Nat} {fo : Nat → Nat → vv_S → Option Int32} (hG : vv_gok G) (hH : vv_hy l G ad) (hfo : ∀ {a vs : Nat} {σ : vv_S} {r : Int32}, fo a vs σ = some r → vv_Form l G d a vs σ r) {x0 : Nat} {x1 : Int32} {x2 : Int32} {x3 : Int32} {σ : vv_S} {r : hX (Int32 × vv_S)} (h : KX1_game fo x0 x1 x2 x3 σ = some r) : vv_V l G MX1_game (d + 10) 0 [(0, .ref x0), (1, .int x1), (2, .int x2), (3, .int x3)] [] σ (xI r) := by
  unfold KX1_game at h
  refine vv_aload_n dX1_game_0 rfl 0 rfl ?_
  refine vv_iload_n dX1_game_1 rfl 1 rfl ?_
  replace h := isO_o h; obtain ⟨fz2, sz2, ez2, h⟩ := h
  replace h := bd_o h; obtain ⟨r1, er1, h⟩ := h
  rcases r1 with r3 | r3x
  · refine vv_callV ok_X1_aTown q1273 (m_KX1_aTown hG hH er1 d) rfl (by omega) ⟨_, _, _, _, _, ez2, by rw [hG.1]; rfl⟩ rfl rfl (Nat.le_of_ble_eq_true rfl) dX1_game_2 ?_
    replace h := xb_l h
    refine vv_aload_n dX1_game_5 rfl 0 rfl ?_
    refine vv_iload_n dX1_game_6 rfl 2 rfl ?_
    replace h := isO_o h; obtain ⟨fz5, sz5, ez5, h⟩ := h
    replace h := bd_o h; obtain ⟨r4, er4, h⟩ := h
    rcases r4 with r6 | r6x
    · refine vv_callV ok_X1_aTown q1273 (m_KX1_aTown hG hH er4 d) rfl (by omega) ⟨_, _, _, _, _, ez5, by rw [hG.1]; rfl⟩ rfl rfl (Nat.le_of_ble_eq_true rfl) dX1_game_7 ?_
      replace h := xb_l h
      refine vv_iload_n dX1_game_10 rfl 3 rfl ?_
      refine vv_iconst (v := (nI 1)) dX1_game_11 (by decide) ?_
      replace h := bd_o h; obtain ⟨r7, er7, h⟩ := h
      rcases r7 with r8 | r8x
      · refine vv_callS ok_X1_oneOf q1293 (m_KX1_oneOf hG hH er7 d) rfl (by omega) rfl rfl (Nat.le_of_ble_eq_true rfl) dX1_game_12 ?_
        replace h := xb_l h
        refine vv_iload_n dX1_game_15 rfl 1 rfl ?_
        refine vv_iload_n dX1_game_16 rfl 2 rfl ?_
        refine vv_icmp_eq (tgt := 24) dX1_game_17 (by decide) (fun c9 => ?_) (fun c9 => ?_)
        · rw [if_pos c9] at h
          refine vv_iconst (v := (nI 0)) dX1_game_24 (by decide) ?_
          exact v_KX1_game_25 hG hH hfo h
        · rw [if_neg c9] at h
          refine vv_iconst (v := (nI 1)) dX1_game_20 (by decide) ?_
          refine vv_goto (tgt := 25) dX1_game_21 (by decide) ?_
          exact v_KX1_game_25 hG hH hfo h
      · cases h
        exact vv_callSX ok_X1_oneOf q1293 (m_KX1_oneOf hG hH er7 d) rfl (by omega) rfl rfl (Nat.le_of_ble_eq_true rfl) dX1_game_12 (vv_Tout (by intro x hx; cases hx))
    · cases h
      exact vv_callVX ok_X1_aTown q1273 (m_KX1_aTown hG hH er4 d) rfl (by omega) ⟨_, _, _, _, _, ez5, by rw [hG.1]; rfl⟩ rfl rfl (Nat.le_of_ble_eq_true rfl) dX1_game_7 (vv_Tout (by intro x hx; cases hx))
  · cases h
    exact vv_callVX ok_X1_aTown q1273 (m_KX1_aTown hG hH er1 d) rfl (by omega) ⟨_, _, _, _, _, ez2, by rw [hG.1]; rfl⟩ rfl rfl (Nat.le_of_ble_eq_true rfl) dX1_game_2 (vv_Tout (by intro x hx; cases hx))
theorem m_KX1_game {l : Launch} {G : vv_G} {d : Nat} {ad : Nat → Nat} {fo : Nat → Nat → vv_S → Option Int32} (hG : vv_gok G) (hH : vv_hy l G ad) (hfo : ∀ {a vs : Nat} {σ : vv_S} {r : Int32}, fo a vs σ = some r → vv_Form l G d a vs σ r) {x0 : Nat} {x1 : Int32} {x2 : Int32} {x3 : Int32} {σ : vv_S} {r : hX (Int32 × vv_S)} (h : KX1_game fo x0 x1 x2 x3 σ = some r) (d9 : Nat) (e9 : d9 = d := by rfl) : vv_Met l G MX1_game (d9 + 10) [.ref x0, .int x1, .int x2, .int x3] σ (xI r) := by
  subst e9
  exact vv_head (by decide +kernel) rfl (Nat.le_of_ble_eq_true rfl) rfl (v_KX1_game_0 hG hH hfo h)
/-! ('X1', 'years') -/
def KX1_years_166 (fo : Nat → Nat → vv_S → Option Int32) (k139 : Nat → Nat → Int32 → Int32 → vv_S → Option (hX (Int32 × vv_S))) (x0 : Nat) (x4 : Nat) (x5 : Int32) (x6 : Int32) (σ : vv_S) : Option (hX (Int32 × vv_S)) := k139 x0 x4 x5 (x6 + (nI 1)) σ
theorem v_KX1_years_166 {l : Launch} {G : vv_G} {d : Nat} {ad : Nat → Nat} {fo : Nat → Nat → vv_S → Option Int32} (hG : vv_gok G) (hH : vv_hy l G ad) (hfo : ∀ {a vs : Nat} {σ : vv_S} {r : Int32}, fo a vs σ = some r → vv_Form l G d a vs σ r) {k139 : Nat → Nat → Int32 → Int32 → vv_S → Option (hX (Int32 × vv_S))} (hk139 : ∀ {x0 : Nat} {x4 : Nat} {x5 : Int32} {x6 : Int32} {σ : vv_S} {r : hX (Int32 × vv_S)}, k139 x0 x4 x5 x6 σ = some r → vv_V l G MX1_years (d + 10) 139 [(0, .ref x0), (4, .ref x4), (5, .int x5), (6, .int x6)] [] σ (xI r)) {x0 : Nat} {x4 : Nat} {x5 : Int32} {x6 : Int32} {σ : vv_S} {r : hX (Int32 × vv_S)} (h : KX1_years_166 fo k139 x0 x4 x5 x6 σ = some r) : vv_V l G MX1_years (d + 10) 166 [(0, .ref x0), (4, .ref x4), (5, .int x5), (6, .int x6)] [] σ (xI r) := by
  unfold KX1_years_166 at h
  refine vv_iinc (v := (x6 + (nI 1))) (lv' := [(0, .ref x0), (4, .ref x4), (5, .int x5), (6, .int (x6 + (nI 1)))]) dX1_years_166 3 rfl rfl (by decide) [1, 2, 3, 0] rfl ?_
  refine vv_goto (tgt := 139) dX1_years_169 (by decide) ?_
  exact hk139 h
def BKX1_years_139 (fo : Nat → Nat → vv_S → Option Int32) (k139 : Nat → Nat → Int32 → Int32 → vv_S → Option (hX (Int32 × vv_S))) (x0 : Nat) (x4 : Nat) (x5 : Int32) (x6 : Int32) (σ : vv_S) : Option (hX (Int32 × vv_S)) := (gR σ x0 0 1).bind fun v1 => (gI σ v1 1 3).bind fun v2 => if v2 ≤ x6 then (some (.inl (x5, σ))) else ((gR σ x4 2 6).bind fun v4 => (aI σ .int v4 x6).bind fun v5 => if v5 = (-1) then (KX1_years_166 fo k139 x0 x4 (x5 + (nI 1)) x6 σ) else (KX1_years_166 fo k139 x0 x4 x5 x6 σ))
def KX1_years_139 (fo : Nat → Nat → vv_S → Option Int32) : Nat → Nat → Nat → Int32 → Int32 → vv_S → Option (hX (Int32 × vv_S))
  | 0, _, _, _, _, _ => none
  | n + 1, x0, x4, x5, x6, σ => BKX1_years_139 fo (KX1_years_139 fo n) x0 x4 x5 x6 σ
theorem vb_KX1_years_139 {l : Launch} {G : vv_G} {d : Nat} {ad : Nat → Nat} {fo : Nat → Nat → vv_S → Option Int32} (hG : vv_gok G) (hH : vv_hy l G ad) (hfo : ∀ {a vs : Nat} {σ : vv_S} {r : Int32}, fo a vs σ = some r → vv_Form l G d a vs σ r) {k139 : Nat → Nat → Int32 → Int32 → vv_S → Option (hX (Int32 × vv_S))} (hk139 : ∀ {x0 : Nat} {x4 : Nat} {x5 : Int32} {x6 : Int32} {σ : vv_S} {r : hX (Int32 × vv_S)}, k139 x0 x4 x5 x6 σ = some r → vv_V l G MX1_years (d + 10) 139 [(0, .ref x0), (4, .ref x4), (5, .int x5), (6, .int x6)] [] σ (xI r)) {x0 : Nat} {x4 : Nat} {x5 : Int32} {x6 : Int32} {σ : vv_S} {r : hX (Int32 × vv_S)} (h : BKX1_years_139 fo k139 x0 x4 x5 x6 σ = some r) : vv_V l G MX1_years (d + 10) 139 [(0, .ref x0), (4, .ref x4), (5, .int x5), (6, .int x6)] [] σ (xI r) := by
  unfold BKX1_years_139 at h
  refine vv_iload dX1_years_139 3 rfl ?_
  refine vv_aload_n dX1_years_141 rfl 0 rfl ?_
  replace h := gR_o h; obtain ⟨v1, fv1, sv1, ev1, lv1, h⟩ := h
  refine vv_get (fl_X1_22 hG) ev1 lv1 dX1_years_142 ?_
  replace h := gI_o h; obtain ⟨v2, fv2, sv2, ev2, lv2, h⟩ := h
  refine vv_getM (fl_X1_104 hH) ev2 lv2 dX1_years_145 ?_
  refine vv_icmp_ge (tgt := 172) dX1_years_148 (by decide) (fun c3 => ?_) (fun c3 => ?_)
  · rw [if_pos c3] at h
    refine vv_iload dX1_years_172 2 rfl ?_
    cases h
    exact vv_iret rfl dX1_years_174
  · rw [if_neg c3] at h
    refine vv_aload dX1_years_151 1 rfl ?_
    replace h := gR_o h; obtain ⟨v4, fv4, sv4, ev4, lv4, h⟩ := h
    refine vv_getM (fl_X1_131 hH) ev4 lv4 dX1_years_153 ?_
    refine vv_iload dX1_years_156 3 rfl ?_
    replace h := aI_o h; obtain ⟨v5, fv5, nv5, qv5, ev5, iv5, wv5, h⟩ := h
    refine vv_iald ev5 iv5 dX1_years_158 ?_
    rw [wv5]
    refine vv_iconst (v := (-1)) dX1_years_159 (by decide) ?_
    refine vv_icmp_ne (tgt := 166) dX1_years_160 (by decide) (fun c6 => ?_) (fun c6 => ?_)
    · rw [if_neg c6] at h
      exact v_KX1_years_166 hG hH hfo hk139 h
    · rw [if_pos c6] at h
      refine vv_iinc (v := (x5 + (nI 1))) (lv' := [(0, .ref x0), (4, .ref x4), (5, .int (x5 + (nI 1))), (6, .int x6)]) dX1_years_163 2 rfl rfl (by decide) [1, 2, 0, 3] rfl ?_
      exact v_KX1_years_166 hG hH hfo hk139 h
theorem v_KX1_years_139 {l : Launch} {G : vv_G} {d : Nat} {ad : Nat → Nat} {fo : Nat → Nat → vv_S → Option Int32} (hG : vv_gok G) (hH : vv_hy l G ad) (hfo : ∀ {a vs : Nat} {σ : vv_S} {r : Int32}, fo a vs σ = some r → vv_Form l G d a vs σ r) : ∀ (n : Nat) {x0 : Nat} {x4 : Nat} {x5 : Int32} {x6 : Int32} {σ : vv_S} {r : hX (Int32 × vv_S)}, KX1_years_139 fo n x0 x4 x5 x6 σ = some r → vv_V l G MX1_years (d + 10) 139 [(0, .ref x0), (4, .ref x4), (5, .int x5), (6, .int x6)] [] σ (xI r) := by
  intro n
  induction n with
  | zero => intro _ _ _ _ _ _ h; cases h
  | succ n ih => intro _ _ _ _ _ _ h; exact vb_KX1_years_139 hG hH hfo ih h
def KX1_years_132 (fo : Nat → Nat → vv_S → Option Int32) (s0 : Int32) (σ : vv_S) : Option (hX (Int32 × vv_S)) := some (.inl (s0, σ))
theorem v_KX1_years_132 {l : Launch} {G : vv_G} {d : Nat} {ad : Nat → Nat} {fo : Nat → Nat → vv_S → Option Int32} (hG : vv_gok G) (hH : vv_hy l G ad) (hfo : ∀ {a vs : Nat} {σ : vv_S} {r : Int32}, fo a vs σ = some r → vv_Form l G d a vs σ r) {s0 : Int32} {σ : vv_S} {r : hX (Int32 × vv_S)} (h : KX1_years_132 fo s0 σ = some r) : vv_V l G MX1_years (d + 10) 132 [] [.int s0] σ (xI r) := by
  unfold KX1_years_132 at h
  cases h
  exact vv_iret rfl dX1_years_132
def KX1_years_87 (fo : Nat → Nat → vv_S → Option Int32) (k32 : Nat → Int32 → Int32 → Nat → Int32 → vv_S → Option (hX (Int32 × vv_S))) (x0 : Nat) (x2 : Int32) (x3 : Int32) (x4 : Nat) (x5 : Int32) (σ : vv_S) : Option (hX (Int32 × vv_S)) := (isO σ x4 2).bind fun _ => (KX3_pass fo x4 (nI 1) σ).bind fun r1 => k32 x0 x2 x3 x4 (x5 + (nI 1)) r1.2
theorem v_KX1_years_87 {l : Launch} {G : vv_G} {d : Nat} {ad : Nat → Nat} {fo : Nat → Nat → vv_S → Option Int32} (hG : vv_gok G) (hH : vv_hy l G ad) (hfo : ∀ {a vs : Nat} {σ : vv_S} {r : Int32}, fo a vs σ = some r → vv_Form l G d a vs σ r) {k32 : Nat → Int32 → Int32 → Nat → Int32 → vv_S → Option (hX (Int32 × vv_S))} (hk32 : ∀ {x0 : Nat} {x2 : Int32} {x3 : Int32} {x4 : Nat} {x5 : Int32} {σ : vv_S} {r : hX (Int32 × vv_S)}, k32 x0 x2 x3 x4 x5 σ = some r → vv_V l G MX1_years (d + 10) 32 [(0, .ref x0), (2, .int x2), (3, .int x3), (4, .ref x4), (5, .int x5)] [] σ (xI r)) {x0 : Nat} {x2 : Int32} {x3 : Int32} {x4 : Nat} {x5 : Int32} {σ : vv_S} {r : hX (Int32 × vv_S)} (h : KX1_years_87 fo k32 x0 x2 x3 x4 x5 σ = some r) : vv_V l G MX1_years (d + 10) 87 [(0, .ref x0), (2, .int x2), (3, .int x3), (4, .ref x4), (5, .int x5)] [] σ (xI r) := by
  unfold KX1_years_87 at h
  refine vv_aload dX1_years_87 3 rfl ?_
  refine vv_iconst (v := (nI 1)) dX1_years_89 (by decide) ?_
  replace h := isO_o h; obtain ⟨fz2, sz2, ez2, h⟩ := h
  replace h := bd_o h; obtain ⟨r1, er1, h⟩ := h
  refine vv_callV ok_X3_pass q1344 (m_KX3_pass hG hH hfo er1 d) rfl (by omega) ⟨_, _, _, _, _, ez2, by rw [hG.1]; rfl⟩ rfl rfl (Nat.le_of_ble_eq_true rfl) dX1_years_90 ?_
  refine vv_pop dX1_years_93 rfl ?_
  refine vv_iinc (v := (x5 + (nI 1))) (lv' := [(0, .ref x0), (2, .int x2), (3, .int x3), (4, .ref x4), (5, .int (x5 + (nI 1)))]) dX1_years_94 4 rfl rfl (by decide) [1, 2, 3, 4, 0] rfl ?_
  refine vv_goto (tgt := 32) dX1_years_97 (by decide) ?_
  exact hk32 h
def BKX1_years_32 (fo : Nat → Nat → vv_S → Option Int32) (k32 : Nat → Int32 → Int32 → Nat → Int32 → vv_S → Option (hX (Int32 × vv_S))) (x0 : Nat) (x2 : Int32) (x3 : Int32) (x4 : Nat) (x5 : Int32) (σ : vv_S) : Option (hX (Int32 × vv_S)) := if x2 ≤ x5 then (if (nI 2) ≤ x3 then (KX1_years_139 fo NN x0 x4 (nI 0) (nI 0) σ) else (if x3 = 0 then ((gR σ x4 2 2).bind fun v7 => (isO σ x4 2).bind fun _ => (KX3_sum x4 v7 σ).bind fun r8 => KX1_years_132 fo r8 σ) else ((gR σ x4 2 0).bind fun v4 => (isO σ x4 2).bind fun _ => (KX3_sum x4 v4 σ).bind fun r5 => KX1_years_132 fo r5 σ))) else ((isO σ x0 0).bind fun _ => (KX1_draw x0 (nI 9) σ).bind fun r10 => if r10.1 = 0 then ((gR r10.2 x0 0 1).bind fun v13 => (gI r10.2 v13 1 3).bind fun v14 => if v14 ≤ 0 then (KX1_years_87 fo k32 x0 x2 x3 x4 x5 r10.2) else ((gR r10.2 x0 0 1).bind fun v16 => (gI r10.2 v16 1 3).bind fun v17 => (isO r10.2 x0 0).bind fun _ => (KX1_draw x0 v17 r10.2).bind fun r18 => (isO r18.2 x4 2).bind fun _ => (KX3_lies x4 r18.1 r18.2).bind fun r20 => if r20 = 0 then (KX1_years_87 fo k32 x0 x2 x3 x4 x5 r18.2) else ((isO r18.2 x4 2).bind fun _ => (KX3_lose x4 r18.1 r18.2).bind fun r23 => KX1_years_87 fo k32 x0 x2 x3 x4 x5 r23))) else (KX1_years_87 fo k32 x0 x2 x3 x4 x5 r10.2))
def KX1_years_32 (fo : Nat → Nat → vv_S → Option Int32) : Nat → Nat → Int32 → Int32 → Nat → Int32 → vv_S → Option (hX (Int32 × vv_S))
  | 0, _, _, _, _, _, _ => none
  | n + 1, x0, x2, x3, x4, x5, σ => BKX1_years_32 fo (KX1_years_32 fo n) x0 x2 x3 x4 x5 σ
theorem vb_KX1_years_32 {l : Launch} {G : vv_G} {d : Nat} {ad : Nat → Nat} {fo : Nat → Nat → vv_S → Option Int32} (hG : vv_gok G) (hH : vv_hy l G ad) (hfo : ∀ {a vs : Nat} {σ : vv_S} {r : Int32}, fo a vs σ = some r → vv_Form l G d a vs σ r) {k32 : Nat → Int32 → Int32 → Nat → Int32 → vv_S → Option (hX (Int32 × vv_S))} (hk32 : ∀ {x0 : Nat} {x2 : Int32} {x3 : Int32} {x4 : Nat} {x5 : Int32} {σ : vv_S} {r : hX (Int32 × vv_S)}, k32 x0 x2 x3 x4 x5 σ = some r → vv_V l G MX1_years (d + 10) 32 [(0, .ref x0), (2, .int x2), (3, .int x3), (4, .ref x4), (5, .int x5)] [] σ (xI r)) {x0 : Nat} {x2 : Int32} {x3 : Int32} {x4 : Nat} {x5 : Int32} {σ : vv_S} {r : hX (Int32 × vv_S)} (h : BKX1_years_32 fo k32 x0 x2 x3 x4 x5 σ = some r) : vv_V l G MX1_years (d + 10) 32 [(0, .ref x0), (2, .int x2), (3, .int x3), (4, .ref x4), (5, .int x5)] [] σ (xI r) := by
  unfold BKX1_years_32 at h
  refine vv_iload dX1_years_32 4 rfl ?_
  refine vv_iload_n dX1_years_34 rfl 1 rfl ?_
  refine vv_icmp_ge (tgt := 100) dX1_years_35 (by decide) (fun c1 => ?_) (fun c1 => ?_)
  · rw [if_pos c1] at h
    refine vv_iload_n dX1_years_100 rfl 2 rfl ?_
    refine vv_iconst (v := (nI 2)) dX1_years_101 (by decide) ?_
    refine vv_icmp_ge (tgt := 133) dX1_years_102 (by decide) (fun c2 => ?_) (fun c2 => ?_)
    · rw [if_pos c2] at h
      refine vv_iconst (v := (nI 0)) dX1_years_133 (by decide) ?_
      refine vv_istore (lv' := [(0, .ref x0), (2, .int x2), (3, .int x3), (4, .ref x4), (5, .int (nI 0))]) dX1_years_134 (by decide) [1, 2, 3, 4, 0] rfl ?_
      refine vv_iconst (v := (nI 0)) dX1_years_136 (by decide) ?_
      refine vv_istore (lv' := [(0, .ref x0), (2, .int x2), (3, .int x3), (4, .ref x4), (5, .int (nI 0)), (6, .int (nI 0))]) dX1_years_137 (by decide) [1, 2, 3, 4, 5, 0] rfl ?_
      refine vv_sub (lv' := [(0, .ref x0), (4, .ref x4), (5, .int (nI 0)), (6, .int (nI 0))]) [0, 3, 4, 5] rfl ?_
      exact v_KX1_years_139 hG hH hfo NN h
    · rw [if_neg c2] at h
      refine vv_iload_n dX1_years_105 rfl 2 rfl ?_
      refine vv_if_ne (tgt := 122) dX1_years_106 (by decide) (fun c3 => ?_) (fun c3 => ?_)
      · rw [if_neg c3] at h
        refine vv_aload dX1_years_122 3 rfl ?_
        refine vv_aload dX1_years_124 3 rfl ?_
        replace h := gR_o h; obtain ⟨v4, fv4, sv4, ev4, lv4, h⟩ := h
        refine vv_getM (fl_X1_110 hH) ev4 lv4 dX1_years_126 ?_
        replace h := isO_o h; obtain ⟨fz6, sz6, ez6, h⟩ := h
        replace h := bd_o h; obtain ⟨r5, er5, h⟩ := h
        refine vv_callV ok_X3_sum q629 (m_KX3_sum hG hH er5 d) rfl (by omega) ⟨_, _, _, _, _, ez6, by rw [hG.1]; rfl⟩ rfl rfl (Nat.le_of_ble_eq_true rfl) dX1_years_129 ?_
        refine vv_sub (lv' := []) [] rfl ?_
        exact v_KX1_years_132 hG hH hfo h
      · rw [if_pos c3] at h
        refine vv_aload dX1_years_109 3 rfl ?_
        refine vv_aload dX1_years_111 3 rfl ?_
        replace h := gR_o h; obtain ⟨v7, fv7, sv7, ev7, lv7, h⟩ := h
        refine vv_getM (fl_X1_120 hH) ev7 lv7 dX1_years_113 ?_
        replace h := isO_o h; obtain ⟨fz9, sz9, ez9, h⟩ := h
        replace h := bd_o h; obtain ⟨r8, er8, h⟩ := h
        refine vv_callV ok_X3_sum q629 (m_KX3_sum hG hH er8 d) rfl (by omega) ⟨_, _, _, _, _, ez9, by rw [hG.1]; rfl⟩ rfl rfl (Nat.le_of_ble_eq_true rfl) dX1_years_116 ?_
        refine vv_goto (tgt := 132) dX1_years_119 (by decide) ?_
        refine vv_sub (lv' := []) [] rfl ?_
        exact v_KX1_years_132 hG hH hfo h
  · rw [if_neg c1] at h
    refine vv_aload_n dX1_years_38 rfl 0 rfl ?_
    refine vv_bipush (v := (nI 9)) dX1_years_39 (by decide) ?_
    replace h := isO_o h; obtain ⟨fz11, sz11, ez11, h⟩ := h
    replace h := bd_o h; obtain ⟨r10, er10, h⟩ := h
    refine vv_callV ok_X1_draw q1490 (m_KX1_draw hG hH er10 d) rfl (by omega) ⟨_, _, _, _, _, ez11, by rw [hG.1]; rfl⟩ rfl rfl (Nat.le_of_ble_eq_true rfl) dX1_years_41 ?_
    refine vv_if_ne (tgt := 87) dX1_years_44 (by decide) (fun c12 => ?_) (fun c12 => ?_)
    · rw [if_neg c12] at h
      exact v_KX1_years_87 hG hH hfo hk32 h
    · rw [if_pos c12] at h
      refine vv_aload_n dX1_years_47 rfl 0 rfl ?_
      replace h := gR_o h; obtain ⟨v13, fv13, sv13, ev13, lv13, h⟩ := h
      refine vv_get (fl_X1_22 hG) ev13 lv13 dX1_years_48 ?_
      replace h := gI_o h; obtain ⟨v14, fv14, sv14, ev14, lv14, h⟩ := h
      refine vv_getM (fl_X1_104 hH) ev14 lv14 dX1_years_51 ?_
      refine vv_if_le (tgt := 87) dX1_years_54 (by decide) (fun c15 => ?_) (fun c15 => ?_)
      · rw [if_pos c15] at h
        exact v_KX1_years_87 hG hH hfo hk32 h
      · rw [if_neg c15] at h
        refine vv_aload_n dX1_years_57 rfl 0 rfl ?_
        refine vv_aload_n dX1_years_58 rfl 0 rfl ?_
        replace h := gR_o h; obtain ⟨v16, fv16, sv16, ev16, lv16, h⟩ := h
        refine vv_get (fl_X1_22 hG) ev16 lv16 dX1_years_59 ?_
        replace h := gI_o h; obtain ⟨v17, fv17, sv17, ev17, lv17, h⟩ := h
        refine vv_getM (fl_X1_104 hH) ev17 lv17 dX1_years_62 ?_
        replace h := isO_o h; obtain ⟨fz19, sz19, ez19, h⟩ := h
        replace h := bd_o h; obtain ⟨r18, er18, h⟩ := h
        refine vv_callV ok_X1_draw q1490 (m_KX1_draw hG hH er18 d) rfl (by omega) ⟨_, _, _, _, _, ez19, by rw [hG.1]; rfl⟩ rfl rfl (Nat.le_of_ble_eq_true rfl) dX1_years_65 ?_
        refine vv_istore (lv' := [(0, .ref x0), (2, .int x2), (3, .int x3), (4, .ref x4), (5, .int x5), (6, .int r18.1)]) dX1_years_68 (by decide) [1, 2, 3, 4, 5, 0] rfl ?_
        refine vv_aload dX1_years_70 3 rfl ?_
        refine vv_iload dX1_years_72 5 rfl ?_
        replace h := isO_o h; obtain ⟨fz21, sz21, ez21, h⟩ := h
        replace h := bd_o h; obtain ⟨r20, er20, h⟩ := h
        refine vv_callV ok_X3_lies q615 (m_KX3_lies hG hH er20 d) rfl (by omega) ⟨_, _, _, _, _, ez21, by rw [hG.1]; rfl⟩ rfl rfl (Nat.le_of_ble_eq_true rfl) dX1_years_74 ?_
        refine vv_if_eq (tgt := 87) dX1_years_77 (by decide) (fun c22 => ?_) (fun c22 => ?_)
        · rw [if_pos c22] at h
          refine vv_sub (lv' := [(0, .ref x0), (2, .int x2), (3, .int x3), (4, .ref x4), (5, .int x5)]) [0, 1, 2, 3, 4] rfl ?_
          exact v_KX1_years_87 hG hH hfo hk32 h
        · rw [if_neg c22] at h
          refine vv_aload dX1_years_80 3 rfl ?_
          refine vv_iload dX1_years_82 5 rfl ?_
          replace h := isO_o h; obtain ⟨fz24, sz24, ez24, h⟩ := h
          replace h := bd_o h; obtain ⟨r23, er23, h⟩ := h
          refine vv_callV ok_X3_lose q624 (m_KX3_lose hG hH er23 d) rfl (by omega) ⟨_, _, _, _, _, ez24, by rw [hG.1]; rfl⟩ rfl rfl (Nat.le_of_ble_eq_true rfl) dX1_years_84 ?_
          refine vv_sub (lv' := [(0, .ref x0), (2, .int x2), (3, .int x3), (4, .ref x4), (5, .int x5)]) [0, 1, 2, 3, 4] rfl ?_
          exact v_KX1_years_87 hG hH hfo hk32 h
theorem v_KX1_years_32 {l : Launch} {G : vv_G} {d : Nat} {ad : Nat → Nat} {fo : Nat → Nat → vv_S → Option Int32} (hG : vv_gok G) (hH : vv_hy l G ad) (hfo : ∀ {a vs : Nat} {σ : vv_S} {r : Int32}, fo a vs σ = some r → vv_Form l G d a vs σ r) : ∀ (n : Nat) {x0 : Nat} {x2 : Int32} {x3 : Int32} {x4 : Nat} {x5 : Int32} {σ : vv_S} {r : hX (Int32 × vv_S)}, KX1_years_32 fo n x0 x2 x3 x4 x5 σ = some r → vv_V l G MX1_years (d + 10) 32 [(0, .ref x0), (2, .int x2), (3, .int x3), (4, .ref x4), (5, .int x5)] [] σ (xI r) := by
  intro n
  induction n with
  | zero => intro _ _ _ _ _ _ _ h; cases h
  | succ n ih => intro _ _ _ _ _ _ _ h; exact vb_KX1_years_32 hG hH hfo ih h
def KX1_years (fo : Nat → Nat → vv_S → Option Int32) (x0 : Nat) (x1 : Int32) (x2 : Int32) (x3 : Int32) (σ : vv_S) : Option (hX (Int32 × vv_S)) := (KX1_oneOf x3 (nI 2) σ).bind fun r1 => xb r1 fun r2 => (KX1_in x2 (nI 0) (nI 60)).bind fun r3 => (KX1_right r3 r2).bind fun r4 => xb r4 fun r5 => (pF r5 x0 0 14 (.int x1)).bind fun σ6 => (gR σ6 x0 0 2).bind fun v7 => (isO σ6 v7 2).bind fun _ => (KX3_copy v7 σ6).bind fun r8 => KX1_years_32 fo NN x0 x2 x3 r8.1 (nI 0) r8.2
theorem v_KX1_years_0 {l : Launch} {G : vv_G} {d : Nat} {ad : Nat → Nat} {fo : Nat → Nat → vv_S → Option Int32} (hG : vv_gok G) (hH : vv_hy l G ad) (hfo : ∀ {a vs : Nat} {σ : vv_S} {r : Int32}, fo a vs σ = some r → vv_Form l G d a vs σ r) {x0 : Nat} {x1 : Int32} {x2 : Int32} {x3 : Int32} {σ : vv_S} {r : hX (Int32 × vv_S)} (h : KX1_years fo x0 x1 x2 x3 σ = some r) : vv_V l G MX1_years (d + 10) 0 [(0, .ref x0), (1, .int x1), (2, .int x2), (3, .int x3)] [] σ (xI r) := by
  unfold KX1_years at h
  refine vv_iload_n dX1_years_0 rfl 3 rfl ?_
  refine vv_iconst (v := (nI 2)) dX1_years_1 (by decide) ?_
  replace h := bd_o h; obtain ⟨r1, er1, h⟩ := h
  rcases r1 with r2 | r2x
  · refine vv_callS ok_X1_oneOf q1293 (m_KX1_oneOf hG hH er1 d) rfl (by omega) rfl rfl (Nat.le_of_ble_eq_true rfl) dX1_years_2 ?_
    replace h := xb_l h
    refine vv_iload_n dX1_years_5 rfl 2 rfl ?_
    refine vv_iconst (v := (nI 0)) dX1_years_6 (by decide) ?_
    refine vv_bipush (v := (nI 60)) dX1_years_7 (by decide) ?_
    replace h := bd_o h; obtain ⟨r3, er3, h⟩ := h
    refine vv_callS ok_X1_in q335 (m_KX1_in hG hH er3 d) rfl (by omega) rfl rfl (Nat.le_of_ble_eq_true rfl) dX1_years_9 ?_
    replace h := bd_o h; obtain ⟨r4, er4, h⟩ := h
    rcases r4 with r5 | r5x
    · refine vv_callS ok_X1_right q700 (m_KX1_right hG hH er4 d) rfl (by omega) rfl rfl (Nat.le_of_ble_eq_true rfl) dX1_years_12 ?_
      replace h := xb_l h
      refine vv_aload_n dX1_years_15 rfl 0 rfl ?_
      refine vv_iload_n dX1_years_16 rfl 1 rfl ?_
      replace h := pF_o h; obtain ⟨σ6, sσ6, eσ6, lσ6, uσ6, h⟩ := h
      refine vv_putf (pt_X1_314 hG) (Or.inr fun C T' N h9 => by rw [hG.1] at h9; cases h9; rfl) eσ6 rfl rfl lσ6 dX1_years_17 ?_
      refine vv_sg uσ6 ?_
      refine vv_aload_n dX1_years_20 rfl 0 rfl ?_
      replace h := gR_o h; obtain ⟨v7, fv7, sv7, ev7, lv7, h⟩ := h
      refine vv_get (fl_X1_31 hG) ev7 lv7 dX1_years_21 ?_
      replace h := isO_o h; obtain ⟨fz9, sz9, ez9, h⟩ := h
      replace h := bd_o h; obtain ⟨r8, er8, h⟩ := h
      refine vv_callV ok_X3_copy q346 (m_KX3_copy hG hH er8 d) rfl (by omega) ⟨_, _, _, _, _, ez9, by rw [hG.1]; rfl⟩ rfl rfl (Nat.le_of_ble_eq_true rfl) dX1_years_24 ?_
      refine vv_astore (lv' := [(0, .ref x0), (1, .int x1), (2, .int x2), (3, .int x3), (4, .ref r8.1)]) dX1_years_27 (by decide) [1, 2, 3, 4, 0] rfl ?_
      refine vv_iconst (v := (nI 0)) dX1_years_29 (by decide) ?_
      refine vv_istore (lv' := [(0, .ref x0), (1, .int x1), (2, .int x2), (3, .int x3), (4, .ref r8.1), (5, .int (nI 0))]) dX1_years_30 (by decide) [1, 2, 3, 4, 5, 0] rfl ?_
      refine vv_sub (lv' := [(0, .ref x0), (2, .int x2), (3, .int x3), (4, .ref r8.1), (5, .int (nI 0))]) [0, 2, 3, 4, 5] rfl ?_
      exact v_KX1_years_32 hG hH hfo NN h
    · cases h
      exact vv_callSX ok_X1_right q700 (m_KX1_right hG hH er4 d) rfl (by omega) rfl rfl (Nat.le_of_ble_eq_true rfl) dX1_years_12 (vv_Tout (by intro x hx; cases hx))
  · cases h
    exact vv_callSX ok_X1_oneOf q1293 (m_KX1_oneOf hG hH er1 d) rfl (by omega) rfl rfl (Nat.le_of_ble_eq_true rfl) dX1_years_2 (vv_Tout (by intro x hx; cases hx))
theorem m_KX1_years {l : Launch} {G : vv_G} {d : Nat} {ad : Nat → Nat} {fo : Nat → Nat → vv_S → Option Int32} (hG : vv_gok G) (hH : vv_hy l G ad) (hfo : ∀ {a vs : Nat} {σ : vv_S} {r : Int32}, fo a vs σ = some r → vv_Form l G d a vs σ r) {x0 : Nat} {x1 : Int32} {x2 : Int32} {x3 : Int32} {σ : vv_S} {r : hX (Int32 × vv_S)} (h : KX1_years fo x0 x1 x2 x3 σ = some r) (d9 : Nat) (e9 : d9 = d := by rfl) : vv_Met l G MX1_years (d9 + 10) [.ref x0, .int x1, .int x2, .int x3] σ (xI r) := by
  subst e9
  exact vv_head (by decide +kernel) rfl (Nat.le_of_ble_eq_true rfl) rfl (v_KX1_years_0 hG hH hfo h)
/-! ('X1', 'grains') -/
def KX1_grains_53 (k5 : Nat → Int32 → Int32 → Int32 → Int32 → vv_S → Option Int32) (x0 : Nat) (x1 : Int32) (x2 : Int32) (x3 : Int32) (x4 : Int32) (σ : vv_S) : Option Int32 := k5 x0 x1 x2 x3 (x4 + (nI 1)) σ
theorem v_KX1_grains_53 {l : Launch} {G : vv_G} {d : Nat} {ad : Nat → Nat} (hG : vv_gok G) (hH : vv_hy l G ad) {k5 : Nat → Int32 → Int32 → Int32 → Int32 → vv_S → Option Int32} (hk5 : ∀ {x0 : Nat} {x1 : Int32} {x2 : Int32} {x3 : Int32} {x4 : Int32} {σ : vv_S} {r : Int32}, k5 x0 x1 x2 x3 x4 σ = some r → vv_V l G MX1_grains (d + 1) 5 [(0, .ref x0), (1, .int x1), (2, .int x2), (3, .int x3), (4, .int x4)] [] σ (.inl (some (.int r)), σ)) {x0 : Nat} {x1 : Int32} {x2 : Int32} {x3 : Int32} {x4 : Int32} {σ : vv_S} {r : Int32} (h : KX1_grains_53 k5 x0 x1 x2 x3 x4 σ = some r) : vv_V l G MX1_grains (d + 1) 53 [(0, .ref x0), (1, .int x1), (2, .int x2), (3, .int x3), (4, .int x4)] [] σ (.inl (some (.int r)), σ) := by
  unfold KX1_grains_53 at h
  refine vv_iinc (v := (x4 + (nI 1))) (lv' := [(0, .ref x0), (1, .int x1), (2, .int x2), (3, .int x3), (4, .int (x4 + (nI 1)))]) dX1_grains_53 4 rfl rfl (by decide) [1, 2, 3, 4, 0] rfl ?_
  refine vv_goto (tgt := 5) dX1_grains_56 (by decide) ?_
  exact hk5 h
def BKX1_grains_5 (k5 : Nat → Int32 → Int32 → Int32 → Int32 → vv_S → Option Int32) (x0 : Nat) (x1 : Int32) (x2 : Int32) (x3 : Int32) (x4 : Int32) (σ : vv_S) : Option Int32 := (gR σ x0 0 1).bind fun v1 => (gI σ v1 1 3).bind fun v2 => if v2 ≤ x4 then (some x3) else ((KX1_isOf x1 x4).bind fun r4 => if r4 = 0 then (KX1_grains_53 k5 x0 x1 x2 x3 x4 σ) else ((gR σ x0 0 2).bind fun v6 => (gR σ v6 2 4).bind fun v7 => (aI σ .int v7 x4).bind fun v8 => if v8 = x2 then ((gR σ x0 0 2).bind fun v10 => (gR σ v10 2 3).bind fun v11 => (aI σ .int v11 x4).bind fun v12 => KX1_grains_53 k5 x0 x1 x2 (x3 + v12) x4 σ) else (KX1_grains_53 k5 x0 x1 x2 x3 x4 σ)))
def KX1_grains_5 : Nat → Nat → Int32 → Int32 → Int32 → Int32 → vv_S → Option Int32
  | 0, _, _, _, _, _, _ => none
  | n + 1, x0, x1, x2, x3, x4, σ => BKX1_grains_5 (KX1_grains_5 n) x0 x1 x2 x3 x4 σ
theorem vb_KX1_grains_5 {l : Launch} {G : vv_G} {d : Nat} {ad : Nat → Nat} (hG : vv_gok G) (hH : vv_hy l G ad) {k5 : Nat → Int32 → Int32 → Int32 → Int32 → vv_S → Option Int32} (hk5 : ∀ {x0 : Nat} {x1 : Int32} {x2 : Int32} {x3 : Int32} {x4 : Int32} {σ : vv_S} {r : Int32}, k5 x0 x1 x2 x3 x4 σ = some r → vv_V l G MX1_grains (d + 1) 5 [(0, .ref x0), (1, .int x1), (2, .int x2), (3, .int x3), (4, .int x4)] [] σ (.inl (some (.int r)), σ)) {x0 : Nat} {x1 : Int32} {x2 : Int32} {x3 : Int32} {x4 : Int32} {σ : vv_S} {r : Int32} (h : BKX1_grains_5 k5 x0 x1 x2 x3 x4 σ = some r) : vv_V l G MX1_grains (d + 1) 5 [(0, .ref x0), (1, .int x1), (2, .int x2), (3, .int x3), (4, .int x4)] [] σ (.inl (some (.int r)), σ) := by
  unfold BKX1_grains_5 at h
  refine vv_iload dX1_grains_5 4 rfl ?_
  refine vv_aload_n dX1_grains_7 rfl 0 rfl ?_
  replace h := gR_o h; obtain ⟨v1, fv1, sv1, ev1, lv1, h⟩ := h
  refine vv_get (fl_X1_22 hG) ev1 lv1 dX1_grains_8 ?_
  replace h := gI_o h; obtain ⟨v2, fv2, sv2, ev2, lv2, h⟩ := h
  refine vv_getM (fl_X1_104 hH) ev2 lv2 dX1_grains_11 ?_
  refine vv_icmp_ge (tgt := 59) dX1_grains_14 (by decide) (fun c3 => ?_) (fun c3 => ?_)
  · rw [if_pos c3] at h
    refine vv_iload_n dX1_grains_59 rfl 3 rfl ?_
    cases h
    exact vv_iret rfl dX1_grains_60
  · rw [if_neg c3] at h
    refine vv_iload_n dX1_grains_17 rfl 1 rfl ?_
    refine vv_iload dX1_grains_18 4 rfl ?_
    replace h := bd_o h; obtain ⟨r4, er4, h⟩ := h
    refine vv_callS ok_X1_isOf q1352 (m_KX1_isOf hG hH er4 d) rfl (by omega) rfl rfl (Nat.le_of_ble_eq_true rfl) dX1_grains_20 ?_
    refine vv_if_eq (tgt := 53) dX1_grains_23 (by decide) (fun c5 => ?_) (fun c5 => ?_)
    · rw [if_pos c5] at h
      exact v_KX1_grains_53 hG hH hk5 h
    · rw [if_neg c5] at h
      refine vv_aload_n dX1_grains_26 rfl 0 rfl ?_
      replace h := gR_o h; obtain ⟨v6, fv6, sv6, ev6, lv6, h⟩ := h
      refine vv_get (fl_X1_31 hG) ev6 lv6 dX1_grains_27 ?_
      replace h := gR_o h; obtain ⟨v7, fv7, sv7, ev7, lv7, h⟩ := h
      refine vv_getM (fl_X1_173 hH) ev7 lv7 dX1_grains_30 ?_
      refine vv_iload dX1_grains_33 4 rfl ?_
      replace h := aI_o h; obtain ⟨v8, fv8, nv8, qv8, ev8, iv8, wv8, h⟩ := h
      refine vv_iald ev8 iv8 dX1_grains_35 ?_
      rw [wv8]
      refine vv_iload_n dX1_grains_36 rfl 2 rfl ?_
      refine vv_icmp_ne (tgt := 53) dX1_grains_37 (by decide) (fun c9 => ?_) (fun c9 => ?_)
      · rw [if_neg c9] at h
        exact v_KX1_grains_53 hG hH hk5 h
      · rw [if_pos c9] at h
        refine vv_iload_n dX1_grains_40 rfl 3 rfl ?_
        refine vv_aload_n dX1_grains_41 rfl 0 rfl ?_
        replace h := gR_o h; obtain ⟨v10, fv10, sv10, ev10, lv10, h⟩ := h
        refine vv_get (fl_X1_31 hG) ev10 lv10 dX1_grains_42 ?_
        replace h := gR_o h; obtain ⟨v11, fv11, sv11, ev11, lv11, h⟩ := h
        refine vv_getM (fl_X1_170 hH) ev11 lv11 dX1_grains_45 ?_
        refine vv_iload dX1_grains_48 4 rfl ?_
        replace h := aI_o h; obtain ⟨v12, fv12, nv12, qv12, ev12, iv12, wv12, h⟩ := h
        refine vv_iald ev12 iv12 dX1_grains_50 ?_
        rw [wv12]
        refine vv_iadd dX1_grains_51 ?_
        refine vv_istore_n (lv' := [(0, .ref x0), (1, .int x1), (2, .int x2), (3, .int (x3 + v12)), (4, .int x4)]) dX1_grains_52 rfl (by decide) [1, 2, 3, 0, 4] rfl ?_
        exact v_KX1_grains_53 hG hH hk5 h
theorem v_KX1_grains_5 {l : Launch} {G : vv_G} {d : Nat} {ad : Nat → Nat} (hG : vv_gok G) (hH : vv_hy l G ad) : ∀ (n : Nat) {x0 : Nat} {x1 : Int32} {x2 : Int32} {x3 : Int32} {x4 : Int32} {σ : vv_S} {r : Int32}, KX1_grains_5 n x0 x1 x2 x3 x4 σ = some r → vv_V l G MX1_grains (d + 1) 5 [(0, .ref x0), (1, .int x1), (2, .int x2), (3, .int x3), (4, .int x4)] [] σ (.inl (some (.int r)), σ) := by
  intro n
  induction n with
  | zero => intro _ _ _ _ _ _ _ h; cases h
  | succ n ih => intro _ _ _ _ _ _ _ h; exact vb_KX1_grains_5 hG hH ih h
def KX1_grains (x0 : Nat) (x1 : Int32) (x2 : Int32) (σ : vv_S) : Option Int32 := KX1_grains_5 NN x0 x1 x2 (nI 0) (nI 0) σ
theorem v_KX1_grains_0 {l : Launch} {G : vv_G} {d : Nat} {ad : Nat → Nat} (hG : vv_gok G) (hH : vv_hy l G ad) {x0 : Nat} {x1 : Int32} {x2 : Int32} {σ : vv_S} {r : Int32} (h : KX1_grains x0 x1 x2 σ = some r) : vv_V l G MX1_grains (d + 1) 0 [(0, .ref x0), (1, .int x1), (2, .int x2)] [] σ (.inl (some (.int r)), σ) := by
  unfold KX1_grains at h
  refine vv_iconst (v := (nI 0)) dX1_grains_0 (by decide) ?_
  refine vv_istore_n (lv' := [(0, .ref x0), (1, .int x1), (2, .int x2), (3, .int (nI 0))]) dX1_grains_1 rfl (by decide) [1, 2, 3, 0] rfl ?_
  refine vv_iconst (v := (nI 0)) dX1_grains_2 (by decide) ?_
  refine vv_istore (lv' := [(0, .ref x0), (1, .int x1), (2, .int x2), (3, .int (nI 0)), (4, .int (nI 0))]) dX1_grains_3 (by decide) [1, 2, 3, 4, 0] rfl ?_
  exact v_KX1_grains_5 hG hH NN h
theorem m_KX1_grains {l : Launch} {G : vv_G} {ad : Nat → Nat} (hG : vv_gok G) (hH : vv_hy l G ad) {x0 : Nat} {x1 : Int32} {x2 : Int32} {σ : vv_S} {r : Int32} (h : KX1_grains x0 x1 x2 σ = some r) (d : Nat) : vv_Met l G MX1_grains (d + 1) [.ref x0, .int x1, .int x2] σ (.inl (some (.int r)), σ) := vv_head (by decide +kernel) rfl (Nat.le_of_ble_eq_true rfl) rfl (v_KX1_grains_0 hG hH h)
/-! ('X1', 'hasBallast') -/
def KX1_hasBallast_36 (k2 : Nat → Int32 → Int32 → vv_S → Option Int32) (x0 : Nat) (x1 : Int32) (x2 : Int32) (σ : vv_S) : Option Int32 := k2 x0 x1 (x2 + (nI 1)) σ
theorem v_KX1_hasBallast_36 {l : Launch} {G : vv_G} {d : Nat} {ad : Nat → Nat} (hG : vv_gok G) (hH : vv_hy l G ad) {k2 : Nat → Int32 → Int32 → vv_S → Option Int32} (hk2 : ∀ {x0 : Nat} {x1 : Int32} {x2 : Int32} {σ : vv_S} {r : Int32}, k2 x0 x1 x2 σ = some r → vv_V l G MX1_hasBallast (d + 1) 2 [(0, .ref x0), (1, .int x1), (2, .int x2)] [] σ (.inl (some (.int r)), σ)) {x0 : Nat} {x1 : Int32} {x2 : Int32} {σ : vv_S} {r : Int32} (h : KX1_hasBallast_36 k2 x0 x1 x2 σ = some r) : vv_V l G MX1_hasBallast (d + 1) 36 [(0, .ref x0), (1, .int x1), (2, .int x2)] [] σ (.inl (some (.int r)), σ) := by
  unfold KX1_hasBallast_36 at h
  refine vv_iinc (v := (x2 + (nI 1))) (lv' := [(0, .ref x0), (1, .int x1), (2, .int (x2 + (nI 1)))]) dX1_hasBallast_36 2 rfl rfl (by decide) [1, 2, 0] rfl ?_
  refine vv_goto (tgt := 2) dX1_hasBallast_39 (by decide) ?_
  exact hk2 h
def BKX1_hasBallast_2 (k2 : Nat → Int32 → Int32 → vv_S → Option Int32) (x0 : Nat) (x1 : Int32) (x2 : Int32) (σ : vv_S) : Option Int32 := (gR σ x0 0 1).bind fun v1 => (gI σ v1 1 3).bind fun v2 => if v2 ≤ x2 then (some (nI 0)) else ((KX1_isOf x1 x2).bind fun r4 => if r4 = 0 then (KX1_hasBallast_36 k2 x0 x1 x2 σ) else ((gR σ x0 0 2).bind fun v6 => (gR σ v6 2 4).bind fun v7 => (aI σ .int v7 x2).bind fun v8 => if v8 = (nI 1) then (some (nI 1)) else (KX1_hasBallast_36 k2 x0 x1 x2 σ)))
def KX1_hasBallast_2 : Nat → Nat → Int32 → Int32 → vv_S → Option Int32
  | 0, _, _, _, _ => none
  | n + 1, x0, x1, x2, σ => BKX1_hasBallast_2 (KX1_hasBallast_2 n) x0 x1 x2 σ
theorem vb_KX1_hasBallast_2 {l : Launch} {G : vv_G} {d : Nat} {ad : Nat → Nat} (hG : vv_gok G) (hH : vv_hy l G ad) {k2 : Nat → Int32 → Int32 → vv_S → Option Int32} (hk2 : ∀ {x0 : Nat} {x1 : Int32} {x2 : Int32} {σ : vv_S} {r : Int32}, k2 x0 x1 x2 σ = some r → vv_V l G MX1_hasBallast (d + 1) 2 [(0, .ref x0), (1, .int x1), (2, .int x2)] [] σ (.inl (some (.int r)), σ)) {x0 : Nat} {x1 : Int32} {x2 : Int32} {σ : vv_S} {r : Int32} (h : BKX1_hasBallast_2 k2 x0 x1 x2 σ = some r) : vv_V l G MX1_hasBallast (d + 1) 2 [(0, .ref x0), (1, .int x1), (2, .int x2)] [] σ (.inl (some (.int r)), σ) := by
  unfold BKX1_hasBallast_2 at h
  refine vv_iload_n dX1_hasBallast_2 rfl 2 rfl ?_
  refine vv_aload_n dX1_hasBallast_3 rfl 0 rfl ?_
  replace h := gR_o h; obtain ⟨v1, fv1, sv1, ev1, lv1, h⟩ := h
  refine vv_get (fl_X1_22 hG) ev1 lv1 dX1_hasBallast_4 ?_
  replace h := gI_o h; obtain ⟨v2, fv2, sv2, ev2, lv2, h⟩ := h
  refine vv_getM (fl_X1_104 hH) ev2 lv2 dX1_hasBallast_7 ?_
  refine vv_icmp_ge (tgt := 42) dX1_hasBallast_10 (by decide) (fun c3 => ?_) (fun c3 => ?_)
  · rw [if_pos c3] at h
    refine vv_iconst (v := (nI 0)) dX1_hasBallast_42 (by decide) ?_
    cases h
    exact vv_zret rfl (by decide) dX1_hasBallast_43
  · rw [if_neg c3] at h
    refine vv_iload_n dX1_hasBallast_13 rfl 1 rfl ?_
    refine vv_iload_n dX1_hasBallast_14 rfl 2 rfl ?_
    replace h := bd_o h; obtain ⟨r4, er4, h⟩ := h
    refine vv_callS ok_X1_isOf q1352 (m_KX1_isOf hG hH er4 d) rfl (by omega) rfl rfl (Nat.le_of_ble_eq_true rfl) dX1_hasBallast_15 ?_
    refine vv_if_eq (tgt := 36) dX1_hasBallast_18 (by decide) (fun c5 => ?_) (fun c5 => ?_)
    · rw [if_pos c5] at h
      exact v_KX1_hasBallast_36 hG hH hk2 h
    · rw [if_neg c5] at h
      refine vv_aload_n dX1_hasBallast_21 rfl 0 rfl ?_
      replace h := gR_o h; obtain ⟨v6, fv6, sv6, ev6, lv6, h⟩ := h
      refine vv_get (fl_X1_31 hG) ev6 lv6 dX1_hasBallast_22 ?_
      replace h := gR_o h; obtain ⟨v7, fv7, sv7, ev7, lv7, h⟩ := h
      refine vv_getM (fl_X1_173 hH) ev7 lv7 dX1_hasBallast_25 ?_
      refine vv_iload_n dX1_hasBallast_28 rfl 2 rfl ?_
      replace h := aI_o h; obtain ⟨v8, fv8, nv8, qv8, ev8, iv8, wv8, h⟩ := h
      refine vv_iald ev8 iv8 dX1_hasBallast_29 ?_
      rw [wv8]
      refine vv_iconst (v := (nI 1)) dX1_hasBallast_30 (by decide) ?_
      refine vv_icmp_ne (tgt := 36) dX1_hasBallast_31 (by decide) (fun c9 => ?_) (fun c9 => ?_)
      · rw [if_neg c9] at h
        exact v_KX1_hasBallast_36 hG hH hk2 h
      · rw [if_pos c9] at h
        refine vv_iconst (v := (nI 1)) dX1_hasBallast_34 (by decide) ?_
        cases h
        exact vv_zret rfl (by decide) dX1_hasBallast_35
theorem v_KX1_hasBallast_2 {l : Launch} {G : vv_G} {d : Nat} {ad : Nat → Nat} (hG : vv_gok G) (hH : vv_hy l G ad) : ∀ (n : Nat) {x0 : Nat} {x1 : Int32} {x2 : Int32} {σ : vv_S} {r : Int32}, KX1_hasBallast_2 n x0 x1 x2 σ = some r → vv_V l G MX1_hasBallast (d + 1) 2 [(0, .ref x0), (1, .int x1), (2, .int x2)] [] σ (.inl (some (.int r)), σ) := by
  intro n
  induction n with
  | zero => intro _ _ _ _ _ h; cases h
  | succ n ih => intro _ _ _ _ _ h; exact vb_KX1_hasBallast_2 hG hH ih h
def KX1_hasBallast (x0 : Nat) (x1 : Int32) (σ : vv_S) : Option Int32 := KX1_hasBallast_2 NN x0 x1 (nI 0) σ
theorem v_KX1_hasBallast_0 {l : Launch} {G : vv_G} {d : Nat} {ad : Nat → Nat} (hG : vv_gok G) (hH : vv_hy l G ad) {x0 : Nat} {x1 : Int32} {σ : vv_S} {r : Int32} (h : KX1_hasBallast x0 x1 σ = some r) : vv_V l G MX1_hasBallast (d + 1) 0 [(0, .ref x0), (1, .int x1)] [] σ (.inl (some (.int r)), σ) := by
  unfold KX1_hasBallast at h
  refine vv_iconst (v := (nI 0)) dX1_hasBallast_0 (by decide) ?_
  refine vv_istore_n (lv' := [(0, .ref x0), (1, .int x1), (2, .int (nI 0))]) dX1_hasBallast_1 rfl (by decide) [1, 2, 0] rfl ?_
  exact v_KX1_hasBallast_2 hG hH NN h
theorem m_KX1_hasBallast {l : Launch} {G : vv_G} {ad : Nat → Nat} (hG : vv_gok G) (hH : vv_hy l G ad) {x0 : Nat} {x1 : Int32} {σ : vv_S} {r : Int32} (h : KX1_hasBallast x0 x1 σ = some r) (d : Nat) : vv_Met l G MX1_hasBallast (d + 1) [.ref x0, .int x1] σ (.inl (some (.int r)), σ) := vv_head (by decide +kernel) rfl (Nat.le_of_ble_eq_true rfl) rfl (v_KX1_hasBallast_0 hG hH h)
/-! ('X1', 'isFewer') -/
def KX1_isFewer_16 (s0 : Int32) : Option Int32 := (zrI s0).bind fun v1 => some v1
theorem v_KX1_isFewer_16 {l : Launch} {G : vv_G} {d : Nat} {ad : Nat → Nat} {σ : vv_S} (hG : vv_gok G) (hH : vv_hy l G ad) {s0 : Int32} {r : Int32} (h : KX1_isFewer_16 s0 = some r) : vv_V l G MX1_isFewer (d + 1) 16 [] [.int s0] σ (.inl (some (.int r)), σ) := by
  unfold KX1_isFewer_16 at h
  replace h := zr_o h; obtain ⟨zv1, h⟩ := h
  cases h
  exact vv_zret rfl zv1 dX1_isFewer_16
def KX1_isFewer (x0 : Int32) (x1 : Int32) : Option Int32 := (KJ14_bitCount x0).bind fun r1 => (KJ14_bitCount x1).bind fun r2 => if r2 ≤ r1 then (KX1_isFewer_16 (nI 0)) else (KX1_isFewer_16 (nI 1))
theorem v_KX1_isFewer_0 {l : Launch} {G : vv_G} {d : Nat} {ad : Nat → Nat} {σ : vv_S} (hG : vv_gok G) (hH : vv_hy l G ad) {x0 : Int32} {x1 : Int32} {r : Int32} (h : KX1_isFewer x0 x1 = some r) : vv_V l G MX1_isFewer (d + 1) 0 [(0, .int x0), (1, .int x1)] [] σ (.inl (some (.int r)), σ) := by
  unfold KX1_isFewer at h
  refine vv_iload_n dX1_isFewer_0 rfl 0 rfl ?_
  replace h := bd_o h; obtain ⟨r1, er1, h⟩ := h
  refine vv_callS ok_J14_bitCount q1386 (m_KJ14_bitCount hG hH er1 d) rfl (by omega) rfl rfl (Nat.le_of_ble_eq_true rfl) dX1_isFewer_1 ?_
  refine vv_iload_n dX1_isFewer_4 rfl 1 rfl ?_
  replace h := bd_o h; obtain ⟨r2, er2, h⟩ := h
  refine vv_callS ok_J14_bitCount q1386 (m_KJ14_bitCount hG hH er2 d) rfl (by omega) rfl rfl (Nat.le_of_ble_eq_true rfl) dX1_isFewer_5 ?_
  refine vv_icmp_ge (tgt := 15) dX1_isFewer_8 (by decide) (fun c3 => ?_) (fun c3 => ?_)
  · rw [if_pos c3] at h
    refine vv_iconst (v := (nI 0)) dX1_isFewer_15 (by decide) ?_
    refine vv_sub (lv' := []) [] rfl ?_
    exact v_KX1_isFewer_16 hG hH h
  · rw [if_neg c3] at h
    refine vv_iconst (v := (nI 1)) dX1_isFewer_11 (by decide) ?_
    refine vv_goto (tgt := 16) dX1_isFewer_12 (by decide) ?_
    refine vv_sub (lv' := []) [] rfl ?_
    exact v_KX1_isFewer_16 hG hH h
theorem m_KX1_isFewer {l : Launch} {G : vv_G} {ad : Nat → Nat} {σ : vv_S} (hG : vv_gok G) (hH : vv_hy l G ad) {x0 : Int32} {x1 : Int32} {r : Int32} (h : KX1_isFewer x0 x1 = some r) (d : Nat) : vv_Met l G MX1_isFewer (d + 1) [.int x0, .int x1] σ (.inl (some (.int r)), σ) := vv_head (by decide +kernel) rfl (Nat.le_of_ble_eq_true rfl) rfl (v_KX1_isFewer_0 hG hH h)
/-! ('X1', 'thief') -/
def KX1_thief_111 (k31 : Nat → Int32 → Int32 → Int32 → Int32 → vv_S → Option (hX (Int32 × vv_S))) (x0 : Nat) (x2 : Int32) (x3 : Int32) (x4 : Int32) (x5 : Int32) (σ : vv_S) : Option (hX (Int32 × vv_S)) := k31 x0 x2 x3 x4 (x5 + (nI 1)) σ
theorem v_KX1_thief_111 {l : Launch} {G : vv_G} {d : Nat} {ad : Nat → Nat} (hG : vv_gok G) (hH : vv_hy l G ad) {k31 : Nat → Int32 → Int32 → Int32 → Int32 → vv_S → Option (hX (Int32 × vv_S))} (hk31 : ∀ {x0 : Nat} {x2 : Int32} {x3 : Int32} {x4 : Int32} {x5 : Int32} {σ : vv_S} {r : hX (Int32 × vv_S)}, k31 x0 x2 x3 x4 x5 σ = some r → vv_V l G MX1_thief (d + 10) 31 [(0, .ref x0), (2, .int x2), (3, .int x3), (4, .int x4), (5, .int x5)] [] σ (xI r)) {x0 : Nat} {x2 : Int32} {x3 : Int32} {x4 : Int32} {x5 : Int32} {σ : vv_S} {r : hX (Int32 × vv_S)} (h : KX1_thief_111 k31 x0 x2 x3 x4 x5 σ = some r) : vv_V l G MX1_thief (d + 10) 111 [(0, .ref x0), (2, .int x2), (3, .int x3), (4, .int x4), (5, .int x5)] [] σ (xI r) := by
  unfold KX1_thief_111 at h
  refine vv_iinc (v := (x5 + (nI 1))) (lv' := [(0, .ref x0), (2, .int x2), (3, .int x3), (4, .int x4), (5, .int (x5 + (nI 1)))]) dX1_thief_111 4 rfl rfl (by decide) [1, 2, 3, 4, 0] rfl ?_
  refine vv_goto (tgt := 31) dX1_thief_114 (by decide) ?_
  exact hk31 h
def KX1_thief_107 (k31 : Nat → Int32 → Int32 → Int32 → Int32 → vv_S → Option (hX (Int32 × vv_S))) (x0 : Nat) (x2 : Int32) (x3 : Int32) (x5 : Int32) (σ : vv_S) : Option (hX (Int32 × vv_S)) := KX1_thief_111 k31 x0 x2 x3 x5 x5 σ
theorem v_KX1_thief_107 {l : Launch} {G : vv_G} {d : Nat} {ad : Nat → Nat} (hG : vv_gok G) (hH : vv_hy l G ad) {k31 : Nat → Int32 → Int32 → Int32 → Int32 → vv_S → Option (hX (Int32 × vv_S))} (hk31 : ∀ {x0 : Nat} {x2 : Int32} {x3 : Int32} {x4 : Int32} {x5 : Int32} {σ : vv_S} {r : hX (Int32 × vv_S)}, k31 x0 x2 x3 x4 x5 σ = some r → vv_V l G MX1_thief (d + 10) 31 [(0, .ref x0), (2, .int x2), (3, .int x3), (4, .int x4), (5, .int x5)] [] σ (xI r)) {x0 : Nat} {x2 : Int32} {x3 : Int32} {x5 : Int32} {σ : vv_S} {r : hX (Int32 × vv_S)} (h : KX1_thief_107 k31 x0 x2 x3 x5 σ = some r) : vv_V l G MX1_thief (d + 10) 107 [(0, .ref x0), (2, .int x2), (3, .int x3), (5, .int x5)] [] σ (xI r) := by
  unfold KX1_thief_107 at h
  refine vv_iload dX1_thief_107 3 rfl ?_
  refine vv_istore (lv' := [(0, .ref x0), (2, .int x2), (3, .int x3), (4, .int x5), (5, .int x5)]) dX1_thief_109 (by decide) [1, 2, 3, 0, 4] rfl ?_
  exact v_KX1_thief_111 hG hH hk31 h
def BKX1_thief_31 (k31 : Nat → Int32 → Int32 → Int32 → Int32 → vv_S → Option (hX (Int32 × vv_S))) (x0 : Nat) (x2 : Int32) (x3 : Int32) (x4 : Int32) (x5 : Int32) (σ : vv_S) : Option (hX (Int32 × vv_S)) := if x3 < x5 then (some (.inl (x4, σ))) else ((isO σ x0 0).bind fun _ => (KX1_grains x0 x5 (nI 0) σ).bind fun r2 => if (x5 &&& (x3 ^^^ (-1))) = 0 then ((isO σ x0 0).bind fun _ => (KX1_hasBallast x0 x5 σ).bind fun r5 => if r5 = 0 then (if x2 < r2 then (KX1_thief_111 k31 x0 x2 x3 x4 x5 σ) else ((isO σ x0 0).bind fun _ => (KX1_grains x0 x4 (nI 0) σ).bind fun r9 => if r9 ≤ r2 then ((isO σ x0 0).bind fun _ => (KX1_grains x0 x4 (nI 0) σ).bind fun r12 => if r12 < r2 then (KX1_thief_107 k31 x0 x2 x3 x5 σ) else ((KX1_isFewer x5 x4).bind fun r15 => if r15 = 0 then (KX1_thief_111 k31 x0 x2 x3 x4 x5 σ) else (KX1_thief_107 k31 x0 x2 x3 x5 σ))) else (KX1_thief_111 k31 x0 x2 x3 x4 x5 σ))) else (KX1_thief_111 k31 x0 x2 x3 x4 x5 σ)) else (KX1_thief_111 k31 x0 x2 x3 x4 x5 σ))
def KX1_thief_31 : Nat → Nat → Int32 → Int32 → Int32 → Int32 → vv_S → Option (hX (Int32 × vv_S))
  | 0, _, _, _, _, _, _ => none
  | n + 1, x0, x2, x3, x4, x5, σ => BKX1_thief_31 (KX1_thief_31 n) x0 x2 x3 x4 x5 σ
theorem vb_KX1_thief_31 {l : Launch} {G : vv_G} {d : Nat} {ad : Nat → Nat} (hG : vv_gok G) (hH : vv_hy l G ad) {k31 : Nat → Int32 → Int32 → Int32 → Int32 → vv_S → Option (hX (Int32 × vv_S))} (hk31 : ∀ {x0 : Nat} {x2 : Int32} {x3 : Int32} {x4 : Int32} {x5 : Int32} {σ : vv_S} {r : hX (Int32 × vv_S)}, k31 x0 x2 x3 x4 x5 σ = some r → vv_V l G MX1_thief (d + 10) 31 [(0, .ref x0), (2, .int x2), (3, .int x3), (4, .int x4), (5, .int x5)] [] σ (xI r)) {x0 : Nat} {x2 : Int32} {x3 : Int32} {x4 : Int32} {x5 : Int32} {σ : vv_S} {r : hX (Int32 × vv_S)} (h : BKX1_thief_31 k31 x0 x2 x3 x4 x5 σ = some r) : vv_V l G MX1_thief (d + 10) 31 [(0, .ref x0), (2, .int x2), (3, .int x3), (4, .int x4), (5, .int x5)] [] σ (xI r) := by
  unfold BKX1_thief_31 at h
  refine vv_iload dX1_thief_31 4 rfl ?_
  refine vv_iload_n dX1_thief_33 rfl 2 rfl ?_
  refine vv_icmp_gt (tgt := 117) dX1_thief_34 (by decide) (fun c1 => ?_) (fun c1 => ?_)
  · rw [if_pos c1] at h
    refine vv_iload dX1_thief_117 3 rfl ?_
    cases h
    exact vv_iret rfl dX1_thief_119
  · rw [if_neg c1] at h
    refine vv_aload_n dX1_thief_37 rfl 0 rfl ?_
    refine vv_iload dX1_thief_38 4 rfl ?_
    refine vv_iconst (v := (nI 0)) dX1_thief_40 (by decide) ?_
    replace h := isO_o h; obtain ⟨fz3, sz3, ez3, h⟩ := h
    replace h := bd_o h; obtain ⟨r2, er2, h⟩ := h
    refine vv_callV ok_X1_grains q1498 (m_KX1_grains hG hH er2 d) rfl (by omega) ⟨_, _, _, _, _, ez3, by rw [hG.1]; rfl⟩ rfl rfl (Nat.le_of_ble_eq_true rfl) dX1_thief_41 ?_
    refine vv_istore (lv' := [(0, .ref x0), (2, .int x2), (3, .int x3), (4, .int x4), (5, .int x5), (6, .int r2)]) dX1_thief_44 (by decide) [1, 2, 3, 4, 5, 0] rfl ?_
    refine vv_iload dX1_thief_46 4 rfl ?_
    refine vv_iload_n dX1_thief_48 rfl 2 rfl ?_
    refine vv_iconst (v := (-1)) dX1_thief_49 (by decide) ?_
    refine vv_ixor dX1_thief_50 ?_
    refine vv_iand dX1_thief_51 ?_
    refine vv_if_ne (tgt := 111) dX1_thief_52 (by decide) (fun c4 => ?_) (fun c4 => ?_)
    · rw [if_neg c4] at h
      refine vv_sub (lv' := [(0, .ref x0), (2, .int x2), (3, .int x3), (4, .int x4), (5, .int x5)]) [0, 1, 2, 3, 4] rfl ?_
      exact v_KX1_thief_111 hG hH hk31 h
    · rw [if_pos c4] at h
      refine vv_aload_n dX1_thief_55 rfl 0 rfl ?_
      refine vv_iload dX1_thief_56 4 rfl ?_
      replace h := isO_o h; obtain ⟨fz6, sz6, ez6, h⟩ := h
      replace h := bd_o h; obtain ⟨r5, er5, h⟩ := h
      refine vv_callV ok_X1_hasBallast q1502 (m_KX1_hasBallast hG hH er5 d) rfl (by omega) ⟨_, _, _, _, _, ez6, by rw [hG.1]; rfl⟩ rfl rfl (Nat.le_of_ble_eq_true rfl) dX1_thief_58 ?_
      refine vv_if_ne (tgt := 111) dX1_thief_61 (by decide) (fun c7 => ?_) (fun c7 => ?_)
      · rw [if_neg c7] at h
        refine vv_sub (lv' := [(0, .ref x0), (2, .int x2), (3, .int x3), (4, .int x4), (5, .int x5)]) [0, 1, 2, 3, 4] rfl ?_
        exact v_KX1_thief_111 hG hH hk31 h
      · rw [if_pos c7] at h
        refine vv_iload dX1_thief_64 5 rfl ?_
        refine vv_iload_n dX1_thief_66 rfl 1 rfl ?_
        refine vv_icmp_gt (tgt := 111) dX1_thief_67 (by decide) (fun c8 => ?_) (fun c8 => ?_)
        · rw [if_pos c8] at h
          refine vv_sub (lv' := [(0, .ref x0), (2, .int x2), (3, .int x3), (4, .int x4), (5, .int x5)]) [0, 1, 2, 3, 4] rfl ?_
          exact v_KX1_thief_111 hG hH hk31 h
        · rw [if_neg c8] at h
          refine vv_iload dX1_thief_70 5 rfl ?_
          refine vv_aload_n dX1_thief_72 rfl 0 rfl ?_
          refine vv_iload dX1_thief_73 3 rfl ?_
          refine vv_iconst (v := (nI 0)) dX1_thief_75 (by decide) ?_
          replace h := isO_o h; obtain ⟨fz10, sz10, ez10, h⟩ := h
          replace h := bd_o h; obtain ⟨r9, er9, h⟩ := h
          refine vv_callV ok_X1_grains q1498 (m_KX1_grains hG hH er9 d) rfl (by omega) ⟨_, _, _, _, _, ez10, by rw [hG.1]; rfl⟩ rfl rfl (Nat.le_of_ble_eq_true rfl) dX1_thief_76 ?_
          refine vv_icmp_ge (tgt := 85) dX1_thief_79 (by decide) (fun c11 => ?_) (fun c11 => ?_)
          · rw [if_pos c11] at h
            refine vv_iload dX1_thief_85 5 rfl ?_
            refine vv_aload_n dX1_thief_87 rfl 0 rfl ?_
            refine vv_iload dX1_thief_88 3 rfl ?_
            refine vv_iconst (v := (nI 0)) dX1_thief_90 (by decide) ?_
            replace h := isO_o h; obtain ⟨fz13, sz13, ez13, h⟩ := h
            replace h := bd_o h; obtain ⟨r12, er12, h⟩ := h
            refine vv_callV ok_X1_grains q1498 (m_KX1_grains hG hH er12 d) rfl (by omega) ⟨_, _, _, _, _, ez13, by rw [hG.1]; rfl⟩ rfl rfl (Nat.le_of_ble_eq_true rfl) dX1_thief_91 ?_
            refine vv_icmp_gt (tgt := 107) dX1_thief_94 (by decide) (fun c14 => ?_) (fun c14 => ?_)
            · rw [if_pos c14] at h
              refine vv_sub (lv' := [(0, .ref x0), (2, .int x2), (3, .int x3), (5, .int x5)]) [0, 1, 2, 4] rfl ?_
              exact v_KX1_thief_107 hG hH hk31 h
            · rw [if_neg c14] at h
              refine vv_iload dX1_thief_97 4 rfl ?_
              refine vv_iload dX1_thief_99 3 rfl ?_
              replace h := bd_o h; obtain ⟨r15, er15, h⟩ := h
              refine vv_callS ok_X1_isFewer q1506 (m_KX1_isFewer hG hH er15 d) rfl (by omega) rfl rfl (Nat.le_of_ble_eq_true rfl) dX1_thief_101 ?_
              refine vv_if_eq (tgt := 111) dX1_thief_104 (by decide) (fun c16 => ?_) (fun c16 => ?_)
              · rw [if_pos c16] at h
                refine vv_sub (lv' := [(0, .ref x0), (2, .int x2), (3, .int x3), (4, .int x4), (5, .int x5)]) [0, 1, 2, 3, 4] rfl ?_
                exact v_KX1_thief_111 hG hH hk31 h
              · rw [if_neg c16] at h
                refine vv_sub (lv' := [(0, .ref x0), (2, .int x2), (3, .int x3), (5, .int x5)]) [0, 1, 2, 4] rfl ?_
                exact v_KX1_thief_107 hG hH hk31 h
          · rw [if_neg c11] at h
            refine vv_goto (tgt := 111) dX1_thief_82 (by decide) ?_
            refine vv_sub (lv' := [(0, .ref x0), (2, .int x2), (3, .int x3), (4, .int x4), (5, .int x5)]) [0, 1, 2, 3, 4] rfl ?_
            exact v_KX1_thief_111 hG hH hk31 h
theorem v_KX1_thief_31 {l : Launch} {G : vv_G} {d : Nat} {ad : Nat → Nat} (hG : vv_gok G) (hH : vv_hy l G ad) : ∀ (n : Nat) {x0 : Nat} {x2 : Int32} {x3 : Int32} {x4 : Int32} {x5 : Int32} {σ : vv_S} {r : hX (Int32 × vv_S)}, KX1_thief_31 n x0 x2 x3 x4 x5 σ = some r → vv_V l G MX1_thief (d + 10) 31 [(0, .ref x0), (2, .int x2), (3, .int x3), (4, .int x4), (5, .int x5)] [] σ (xI r) := by
  intro n
  induction n with
  | zero => intro _ _ _ _ _ _ _ h; cases h
  | succ n ih => intro _ _ _ _ _ _ _ h; exact vb_KX1_thief_31 hG hH ih h
def KX1_thief (x0 : Nat) (x1 : Int32) (x2 : Int32) (σ : vv_S) : Option (hX (Int32 × vv_S)) := (isO σ x0 0).bind fun _ => (KX1_aTown x0 x1 σ).bind fun r1 => xb r1 fun r3 => (KX1_in x2 (nI 0) (nI 999)).bind fun r4 => (KX1_right r4 r3).bind fun r5 => xb r5 fun r6 => (gR r6 x0 0 2).bind fun v7 => (isO r6 v7 2).bind fun _ => (KX3_lying v7 x1 r6).bind fun r8 => KX1_thief_31 NN x0 x2 r8 (nI 0) (nI 1) r6
theorem v_KX1_thief_0 {l : Launch} {G : vv_G} {d : Nat} {ad : Nat → Nat} (hG : vv_gok G) (hH : vv_hy l G ad) {x0 : Nat} {x1 : Int32} {x2 : Int32} {σ : vv_S} {r : hX (Int32 × vv_S)} (h : KX1_thief x0 x1 x2 σ = some r) : vv_V l G MX1_thief (d + 10) 0 [(0, .ref x0), (1, .int x1), (2, .int x2)] [] σ (xI r) := by
  unfold KX1_thief at h
  refine vv_aload_n dX1_thief_0 rfl 0 rfl ?_
  refine vv_iload_n dX1_thief_1 rfl 1 rfl ?_
  replace h := isO_o h; obtain ⟨fz2, sz2, ez2, h⟩ := h
  replace h := bd_o h; obtain ⟨r1, er1, h⟩ := h
  rcases r1 with r3 | r3x
  · refine vv_callV ok_X1_aTown q1273 (m_KX1_aTown hG hH er1 d) rfl (by omega) ⟨_, _, _, _, _, ez2, by rw [hG.1]; rfl⟩ rfl rfl (Nat.le_of_ble_eq_true rfl) dX1_thief_2 ?_
    replace h := xb_l h
    refine vv_iload_n dX1_thief_5 rfl 2 rfl ?_
    refine vv_iconst (v := (nI 0)) dX1_thief_6 (by decide) ?_
    refine vv_sipush (v := (nI 999)) dX1_thief_7 (by decide) ?_
    replace h := bd_o h; obtain ⟨r4, er4, h⟩ := h
    refine vv_callS ok_X1_in q335 (m_KX1_in hG hH er4 d) rfl (by omega) rfl rfl (Nat.le_of_ble_eq_true rfl) dX1_thief_10 ?_
    replace h := bd_o h; obtain ⟨r5, er5, h⟩ := h
    rcases r5 with r6 | r6x
    · refine vv_callS ok_X1_right q700 (m_KX1_right hG hH er5 d) rfl (by omega) rfl rfl (Nat.le_of_ble_eq_true rfl) dX1_thief_13 ?_
      replace h := xb_l h
      refine vv_aload_n dX1_thief_16 rfl 0 rfl ?_
      replace h := gR_o h; obtain ⟨v7, fv7, sv7, ev7, lv7, h⟩ := h
      refine vv_get (fl_X1_31 hG) ev7 lv7 dX1_thief_17 ?_
      refine vv_iload_n dX1_thief_20 rfl 1 rfl ?_
      replace h := isO_o h; obtain ⟨fz9, sz9, ez9, h⟩ := h
      replace h := bd_o h; obtain ⟨r8, er8, h⟩ := h
      refine vv_callV ok_X3_lying q1247 (m_KX3_lying hG hH er8 d) rfl (by omega) ⟨_, _, _, _, _, ez9, by rw [hG.1]; rfl⟩ rfl rfl (Nat.le_of_ble_eq_true rfl) dX1_thief_21 ?_
      refine vv_istore_n (lv' := [(0, .ref x0), (1, .int x1), (2, .int x2), (3, .int r8)]) dX1_thief_24 rfl (by decide) [1, 2, 3, 0] rfl ?_
      refine vv_iconst (v := (nI 0)) dX1_thief_25 (by decide) ?_
      refine vv_istore (lv' := [(0, .ref x0), (1, .int x1), (2, .int x2), (3, .int r8), (4, .int (nI 0))]) dX1_thief_26 (by decide) [1, 2, 3, 4, 0] rfl ?_
      refine vv_iconst (v := (nI 1)) dX1_thief_28 (by decide) ?_
      refine vv_istore (lv' := [(0, .ref x0), (1, .int x1), (2, .int x2), (3, .int r8), (4, .int (nI 0)), (5, .int (nI 1))]) dX1_thief_29 (by decide) [1, 2, 3, 4, 5, 0] rfl ?_
      refine vv_sub (lv' := [(0, .ref x0), (2, .int x2), (3, .int r8), (4, .int (nI 0)), (5, .int (nI 1))]) [0, 2, 3, 4, 5] rfl ?_
      exact v_KX1_thief_31 hG hH NN h
    · cases h
      exact vv_callSX ok_X1_right q700 (m_KX1_right hG hH er5 d) rfl (by omega) rfl rfl (Nat.le_of_ble_eq_true rfl) dX1_thief_13 (vv_Tout (by intro x hx; cases hx))
  · cases h
    exact vv_callVX ok_X1_aTown q1273 (m_KX1_aTown hG hH er1 d) rfl (by omega) ⟨_, _, _, _, _, ez2, by rw [hG.1]; rfl⟩ rfl rfl (Nat.le_of_ble_eq_true rfl) dX1_thief_2 (vv_Tout (by intro x hx; cases hx))
theorem m_KX1_thief {l : Launch} {G : vv_G} {ad : Nat → Nat} (hG : vv_gok G) (hH : vv_hy l G ad) {x0 : Nat} {x1 : Int32} {x2 : Int32} {σ : vv_S} {r : hX (Int32 × vv_S)} (h : KX1_thief x0 x1 x2 σ = some r) (d : Nat) : vv_Met l G MX1_thief (d + 10) [.ref x0, .int x1, .int x2] σ (xI r) := vv_head (by decide +kernel) rfl (Nat.le_of_ble_eq_true rfl) rfl (v_KX1_thief_0 hG hH h)
/-! ('X1', 'nextOf') -/
def KX1_nextOf_85 (k5 : Nat → Int32 → Nat → Int32 → Int32 → vv_S → Option Int32) (x0 : Nat) (x1 : Int32) (x2 : Nat) (x3 : Int32) (x4 : Int32) (σ : vv_S) : Option Int32 := k5 x0 x1 x2 x3 (x4 + (nI 1)) σ
theorem v_KX1_nextOf_85 {l : Launch} {G : vv_G} {d : Nat} {ad : Nat → Nat} (hG : vv_gok G) (hH : vv_hy l G ad) {k5 : Nat → Int32 → Nat → Int32 → Int32 → vv_S → Option Int32} (hk5 : ∀ {x0 : Nat} {x1 : Int32} {x2 : Nat} {x3 : Int32} {x4 : Int32} {σ : vv_S} {r : Int32}, k5 x0 x1 x2 x3 x4 σ = some r → vv_V l G MX1_nextOf (d + 3) 5 [(0, .ref x0), (1, .int x1), (2, .ref x2), (3, .int x3), (4, .int x4)] [] σ (.inl (some (.int r)), σ)) {x0 : Nat} {x1 : Int32} {x2 : Nat} {x3 : Int32} {x4 : Int32} {σ : vv_S} {r : Int32} (h : KX1_nextOf_85 k5 x0 x1 x2 x3 x4 σ = some r) : vv_V l G MX1_nextOf (d + 3) 85 [(0, .ref x0), (1, .int x1), (2, .ref x2), (3, .int x3), (4, .int x4)] [] σ (.inl (some (.int r)), σ) := by
  unfold KX1_nextOf_85 at h
  refine vv_iinc (v := (x4 + (nI 1))) (lv' := [(0, .ref x0), (1, .int x1), (2, .ref x2), (3, .int x3), (4, .int (x4 + (nI 1)))]) dX1_nextOf_85 4 rfl rfl (by decide) [1, 2, 3, 4, 0] rfl ?_
  refine vv_goto (tgt := 5) dX1_nextOf_88 (by decide) ?_
  exact hk5 h
def KX1_nextOf_82 (k5 : Nat → Int32 → Nat → Int32 → Int32 → vv_S → Option Int32) (x0 : Nat) (x1 : Int32) (x2 : Nat) (x4 : Int32) (x6 : Int32) (σ : vv_S) : Option Int32 := KX1_nextOf_85 k5 x0 x1 x2 x6 x4 σ
theorem v_KX1_nextOf_82 {l : Launch} {G : vv_G} {d : Nat} {ad : Nat → Nat} (hG : vv_gok G) (hH : vv_hy l G ad) {k5 : Nat → Int32 → Nat → Int32 → Int32 → vv_S → Option Int32} (hk5 : ∀ {x0 : Nat} {x1 : Int32} {x2 : Nat} {x3 : Int32} {x4 : Int32} {σ : vv_S} {r : Int32}, k5 x0 x1 x2 x3 x4 σ = some r → vv_V l G MX1_nextOf (d + 3) 5 [(0, .ref x0), (1, .int x1), (2, .ref x2), (3, .int x3), (4, .int x4)] [] σ (.inl (some (.int r)), σ)) {x0 : Nat} {x1 : Int32} {x2 : Nat} {x4 : Int32} {x6 : Int32} {σ : vv_S} {r : Int32} (h : KX1_nextOf_82 k5 x0 x1 x2 x4 x6 σ = some r) : vv_V l G MX1_nextOf (d + 3) 82 [(0, .ref x0), (1, .int x1), (2, .ref x2), (4, .int x4), (6, .int x6)] [] σ (.inl (some (.int r)), σ) := by
  unfold KX1_nextOf_82 at h
  refine vv_iload dX1_nextOf_82 4 rfl ?_
  refine vv_istore_n (lv' := [(0, .ref x0), (1, .int x1), (2, .ref x2), (3, .int x6), (4, .int x4), (6, .int x6)]) dX1_nextOf_84 rfl (by decide) [1, 2, 3, 0, 4, 5] rfl ?_
  refine vv_sub (lv' := [(0, .ref x0), (1, .int x1), (2, .ref x2), (3, .int x6), (4, .int x4)]) [0, 1, 2, 3, 4] rfl ?_
  exact v_KX1_nextOf_85 hG hH hk5 h
def BKX1_nextOf_5 (k5 : Nat → Int32 → Nat → Int32 → Int32 → vv_S → Option Int32) (x0 : Nat) (x1 : Int32) (x2 : Nat) (x3 : Int32) (x4 : Int32) (σ : vv_S) : Option Int32 := (gR σ x0 0 1).bind fun v1 => (gR σ v1 1 2).bind fun v2 => (isO σ v2 11).bind fun _ => (KJ2_size v2 σ).bind fun r3 => if r3 ≤ x4 then (some x3) else ((gR σ x0 0 1).bind fun v6 => (gR σ v6 1 2).bind fun v7 => (isO σ v7 11).bind fun _ => (KJ2_get v7 x4 σ).bind fun r8 => (isO σ r8 6).bind fun _ => (isO σ r8 6).bind fun _ => (KX7_from r8 x1 σ).bind fun r11 => if r11 = (-1) then (KX1_nextOf_85 k5 x0 x1 x2 x3 x4 σ) else ((aI σ .int x2 r11).bind fun v14 => (gI σ r8 6 2).bind fun v15 => (aI σ .int x2 x1).bind fun v16 => if (v14 + v15) = v16 then (if x3 = (-1) then (KX1_nextOf_82 k5 x0 x1 x2 x4 r11 σ) else (if x3 ≤ r11 then (KX1_nextOf_85 k5 x0 x1 x2 x3 x4 σ) else (KX1_nextOf_82 k5 x0 x1 x2 x4 r11 σ))) else (KX1_nextOf_85 k5 x0 x1 x2 x3 x4 σ)))
def KX1_nextOf_5 : Nat → Nat → Int32 → Nat → Int32 → Int32 → vv_S → Option Int32
  | 0, _, _, _, _, _, _ => none
  | n + 1, x0, x1, x2, x3, x4, σ => BKX1_nextOf_5 (KX1_nextOf_5 n) x0 x1 x2 x3 x4 σ
theorem vb_KX1_nextOf_5 {l : Launch} {G : vv_G} {d : Nat} {ad : Nat → Nat} (hG : vv_gok G) (hH : vv_hy l G ad) {k5 : Nat → Int32 → Nat → Int32 → Int32 → vv_S → Option Int32} (hk5 : ∀ {x0 : Nat} {x1 : Int32} {x2 : Nat} {x3 : Int32} {x4 : Int32} {σ : vv_S} {r : Int32}, k5 x0 x1 x2 x3 x4 σ = some r → vv_V l G MX1_nextOf (d + 3) 5 [(0, .ref x0), (1, .int x1), (2, .ref x2), (3, .int x3), (4, .int x4)] [] σ (.inl (some (.int r)), σ)) {x0 : Nat} {x1 : Int32} {x2 : Nat} {x3 : Int32} {x4 : Int32} {σ : vv_S} {r : Int32} (h : BKX1_nextOf_5 k5 x0 x1 x2 x3 x4 σ = some r) : vv_V l G MX1_nextOf (d + 3) 5 [(0, .ref x0), (1, .int x1), (2, .ref x2), (3, .int x3), (4, .int x4)] [] σ (.inl (some (.int r)), σ) := by
  unfold BKX1_nextOf_5 at h
  refine vv_iload dX1_nextOf_5 4 rfl ?_
  refine vv_aload_n dX1_nextOf_7 rfl 0 rfl ?_
  replace h := gR_o h; obtain ⟨v1, fv1, sv1, ev1, lv1, h⟩ := h
  refine vv_get (fl_X1_22 hG) ev1 lv1 dX1_nextOf_8 ?_
  replace h := gR_o h; obtain ⟨v2, fv2, sv2, ev2, lv2, h⟩ := h
  refine vv_getM (fl_X1_96 hH) ev2 lv2 dX1_nextOf_11 ?_
  replace h := isO_o h; obtain ⟨fz4, sz4, ez4, h⟩ := h
  replace h := bd_o h; obtain ⟨r3, er3, h⟩ := h
  refine vv_callF (xx := ⟨"java/util/List", "size", "()I"⟩) okf_J2_size q426 (m_KJ2_size hG hH er3 d) rfl (by omega) ⟨_, _, _, _, _, ez4, by rw [hG.1]; rfl⟩ q429 (fun U hK => hH.1.2.2.1 U hK _ (List.mem_of_getElem? (i := 1) rfl)) ⟨by decide, by decide, by decide +kernel⟩ rfl rfl (Nat.le_of_ble_eq_true rfl) dX1_nextOf_14 ?_
  refine vv_icmp_ge (tgt := 91) dX1_nextOf_19 (by decide) (fun c5 => ?_) (fun c5 => ?_)
  · rw [if_pos c5] at h
    refine vv_iload_n dX1_nextOf_91 rfl 3 rfl ?_
    cases h
    exact vv_iret rfl dX1_nextOf_92
  · rw [if_neg c5] at h
    refine vv_aload_n dX1_nextOf_22 rfl 0 rfl ?_
    replace h := gR_o h; obtain ⟨v6, fv6, sv6, ev6, lv6, h⟩ := h
    refine vv_get (fl_X1_22 hG) ev6 lv6 dX1_nextOf_23 ?_
    replace h := gR_o h; obtain ⟨v7, fv7, sv7, ev7, lv7, h⟩ := h
    refine vv_getM (fl_X1_96 hH) ev7 lv7 dX1_nextOf_26 ?_
    refine vv_iload dX1_nextOf_29 4 rfl ?_
    replace h := isO_o h; obtain ⟨fz9, sz9, ez9, h⟩ := h
    replace h := bd_o h; obtain ⟨r8, er8, h⟩ := h
    refine vv_callF (xx := ⟨"java/util/List", "get", "(I)Ljava/lang/Object;"⟩) okf_J2_get q1278 (m_KJ2_get hG hH er8 d) rfl (by omega) ⟨_, _, _, _, _, ez9, by rw [hG.1]; rfl⟩ q481 (fun U hK => hH.1.2.2.1 U hK _ (List.mem_of_getElem? (i := 3) rfl)) ⟨by decide, by decide, by decide +kernel⟩ rfl rfl (Nat.le_of_ble_eq_true rfl) dX1_nextOf_31 ?_
    replace h := isO_o h; obtain ⟨fz10, sz10, ez10, h⟩ := h
    refine vv_cast ez10 ⟨_, _, by rw [hG.1]; rfl⟩ q1303 (Or.inl rfl) dX1_nextOf_36 ?_
    refine vv_astore (lv' := [(0, .ref x0), (1, .int x1), (2, .ref x2), (3, .int x3), (4, .int x4), (5, .ref r8)]) dX1_nextOf_39 (by decide) [1, 2, 3, 4, 5, 0] rfl ?_
    refine vv_aload dX1_nextOf_41 5 rfl ?_
    refine vv_iload_n dX1_nextOf_43 rfl 1 rfl ?_
    replace h := isO_o h; obtain ⟨fz12, sz12, ez12, h⟩ := h
    replace h := bd_o h; obtain ⟨r11, er11, h⟩ := h
    refine vv_callV ok_X7_from q1304 (m_KX7_from hG hH er11 d) rfl (by omega) ⟨_, _, _, _, _, ez12, by rw [hG.1]; rfl⟩ rfl rfl (Nat.le_of_ble_eq_true rfl) dX1_nextOf_44 ?_
    refine vv_istore (lv' := [(0, .ref x0), (1, .int x1), (2, .ref x2), (3, .int x3), (4, .int x4), (5, .ref r8), (6, .int r11)]) dX1_nextOf_47 (by decide) [1, 2, 3, 4, 5, 6, 0] rfl ?_
    refine vv_iload dX1_nextOf_49 6 rfl ?_
    refine vv_iconst (v := (-1)) dX1_nextOf_51 (by decide) ?_
    refine vv_icmp_eq (tgt := 85) dX1_nextOf_52 (by decide) (fun c13 => ?_) (fun c13 => ?_)
    · rw [if_pos c13] at h
      refine vv_sub (lv' := [(0, .ref x0), (1, .int x1), (2, .ref x2), (3, .int x3), (4, .int x4)]) [0, 1, 2, 3, 4] rfl ?_
      exact v_KX1_nextOf_85 hG hH hk5 h
    · rw [if_neg c13] at h
      refine vv_aload_n dX1_nextOf_55 rfl 2 rfl ?_
      refine vv_iload dX1_nextOf_56 6 rfl ?_
      replace h := aI_o h; obtain ⟨v14, fv14, nv14, qv14, ev14, iv14, wv14, h⟩ := h
      refine vv_iald ev14 iv14 dX1_nextOf_58 ?_
      rw [wv14]
      refine vv_aload dX1_nextOf_59 5 rfl ?_
      replace h := gI_o h; obtain ⟨v15, fv15, sv15, ev15, lv15, h⟩ := h
      refine vv_getM (fl_X1_211 hH) ev15 lv15 dX1_nextOf_61 ?_
      refine vv_iadd dX1_nextOf_64 ?_
      refine vv_aload_n dX1_nextOf_65 rfl 2 rfl ?_
      refine vv_iload_n dX1_nextOf_66 rfl 1 rfl ?_
      replace h := aI_o h; obtain ⟨v16, fv16, nv16, qv16, ev16, iv16, wv16, h⟩ := h
      refine vv_iald ev16 iv16 dX1_nextOf_67 ?_
      rw [wv16]
      refine vv_icmp_ne (tgt := 85) dX1_nextOf_68 (by decide) (fun c17 => ?_) (fun c17 => ?_)
      · rw [if_neg c17] at h
        refine vv_sub (lv' := [(0, .ref x0), (1, .int x1), (2, .ref x2), (3, .int x3), (4, .int x4)]) [0, 1, 2, 3, 4] rfl ?_
        exact v_KX1_nextOf_85 hG hH hk5 h
      · rw [if_pos c17] at h
        refine vv_iload_n dX1_nextOf_71 rfl 3 rfl ?_
        refine vv_iconst (v := (-1)) dX1_nextOf_72 (by decide) ?_
        refine vv_icmp_eq (tgt := 82) dX1_nextOf_73 (by decide) (fun c18 => ?_) (fun c18 => ?_)
        · rw [if_pos c18] at h
          refine vv_sub (lv' := [(0, .ref x0), (1, .int x1), (2, .ref x2), (4, .int x4), (6, .int r11)]) [0, 1, 2, 4, 6] rfl ?_
          exact v_KX1_nextOf_82 hG hH hk5 h
        · rw [if_neg c18] at h
          refine vv_iload dX1_nextOf_76 6 rfl ?_
          refine vv_iload_n dX1_nextOf_78 rfl 3 rfl ?_
          refine vv_icmp_ge (tgt := 85) dX1_nextOf_79 (by decide) (fun c19 => ?_) (fun c19 => ?_)
          · rw [if_pos c19] at h
            refine vv_sub (lv' := [(0, .ref x0), (1, .int x1), (2, .ref x2), (3, .int x3), (4, .int x4)]) [0, 1, 2, 3, 4] rfl ?_
            exact v_KX1_nextOf_85 hG hH hk5 h
          · rw [if_neg c19] at h
            refine vv_sub (lv' := [(0, .ref x0), (1, .int x1), (2, .ref x2), (4, .int x4), (6, .int r11)]) [0, 1, 2, 4, 6] rfl ?_
            exact v_KX1_nextOf_82 hG hH hk5 h
theorem v_KX1_nextOf_5 {l : Launch} {G : vv_G} {d : Nat} {ad : Nat → Nat} (hG : vv_gok G) (hH : vv_hy l G ad) : ∀ (n : Nat) {x0 : Nat} {x1 : Int32} {x2 : Nat} {x3 : Int32} {x4 : Int32} {σ : vv_S} {r : Int32}, KX1_nextOf_5 n x0 x1 x2 x3 x4 σ = some r → vv_V l G MX1_nextOf (d + 3) 5 [(0, .ref x0), (1, .int x1), (2, .ref x2), (3, .int x3), (4, .int x4)] [] σ (.inl (some (.int r)), σ) := by
  intro n
  induction n with
  | zero => intro _ _ _ _ _ _ _ h; cases h
  | succ n ih => intro _ _ _ _ _ _ _ h; exact vb_KX1_nextOf_5 hG hH ih h
def KX1_nextOf (x0 : Nat) (x1 : Int32) (x2 : Nat) (σ : vv_S) : Option Int32 := KX1_nextOf_5 NN x0 x1 x2 (-1) (nI 0) σ
theorem v_KX1_nextOf_0 {l : Launch} {G : vv_G} {d : Nat} {ad : Nat → Nat} (hG : vv_gok G) (hH : vv_hy l G ad) {x0 : Nat} {x1 : Int32} {x2 : Nat} {σ : vv_S} {r : Int32} (h : KX1_nextOf x0 x1 x2 σ = some r) : vv_V l G MX1_nextOf (d + 3) 0 [(0, .ref x0), (1, .int x1), (2, .ref x2)] [] σ (.inl (some (.int r)), σ) := by
  unfold KX1_nextOf at h
  refine vv_iconst (v := (-1)) dX1_nextOf_0 (by decide) ?_
  refine vv_istore_n (lv' := [(0, .ref x0), (1, .int x1), (2, .ref x2), (3, .int (-1))]) dX1_nextOf_1 rfl (by decide) [1, 2, 3, 0] rfl ?_
  refine vv_iconst (v := (nI 0)) dX1_nextOf_2 (by decide) ?_
  refine vv_istore (lv' := [(0, .ref x0), (1, .int x1), (2, .ref x2), (3, .int (-1)), (4, .int (nI 0))]) dX1_nextOf_3 (by decide) [1, 2, 3, 4, 0] rfl ?_
  exact v_KX1_nextOf_5 hG hH NN h
theorem m_KX1_nextOf {l : Launch} {G : vv_G} {ad : Nat → Nat} (hG : vv_gok G) (hH : vv_hy l G ad) {x0 : Nat} {x1 : Int32} {x2 : Nat} {σ : vv_S} {r : Int32} (h : KX1_nextOf x0 x1 x2 σ = some r) (d : Nat) : vv_Met l G MX1_nextOf (d + 3) [.ref x0, .int x1, .ref x2] σ (.inl (some (.int r)), σ) := vv_head (by decide +kernel) rfl (Nat.le_of_ble_eq_true rfl) rfl (v_KX1_nextOf_0 hG hH h)
/-! ('X1', 'row') -/
def KX1_row_65 (k48 : Nat → Int32 → Int32 → Nat → Int32 → Int32 → vv_S → Option (hX (Int32 × vv_S))) (s0 : Int32) (x0 : Nat) (x2 : Int32) (x3 : Int32) (x4 : Nat) (x5 : Int32) (x6 : Int32) (σ : vv_S) : Option (hX (Int32 × vv_S)) := (KX1_found s0 σ).bind fun r1 => xb r1 fun r2 => (isO r2 x0 0).bind fun _ => (KX1_nextOf x0 x5 x4 r2).bind fun r3 => k48 x0 x2 x3 x4 r3 (x6 + (nI 1)) r2
theorem v_KX1_row_65 {l : Launch} {G : vv_G} {d : Nat} {ad : Nat → Nat} (hG : vv_gok G) (hH : vv_hy l G ad) {k48 : Nat → Int32 → Int32 → Nat → Int32 → Int32 → vv_S → Option (hX (Int32 × vv_S))} (hk48 : ∀ {x0 : Nat} {x2 : Int32} {x3 : Int32} {x4 : Nat} {x5 : Int32} {x6 : Int32} {σ : vv_S} {r : hX (Int32 × vv_S)}, k48 x0 x2 x3 x4 x5 x6 σ = some r → vv_V l G MX1_row (d + 10) 48 [(0, .ref x0), (2, .int x2), (3, .int x3), (4, .ref x4), (5, .int x5), (6, .int x6)] [] σ (xI r)) {s0 : Int32} {x0 : Nat} {x2 : Int32} {x3 : Int32} {x4 : Nat} {x5 : Int32} {x6 : Int32} {σ : vv_S} {r : hX (Int32 × vv_S)} (h : KX1_row_65 k48 s0 x0 x2 x3 x4 x5 x6 σ = some r) : vv_V l G MX1_row (d + 10) 65 [(0, .ref x0), (2, .int x2), (3, .int x3), (4, .ref x4), (5, .int x5), (6, .int x6)] [.int s0] σ (xI r) := by
  unfold KX1_row_65 at h
  replace h := bd_o h; obtain ⟨r1, er1, h⟩ := h
  rcases r1 with r2 | r2x
  · refine vv_callS ok_X1_found q1248 (m_KX1_found hG hH er1 d) rfl (by omega) rfl rfl (Nat.le_of_ble_eq_true rfl) dX1_row_65 ?_
    replace h := xb_l h
    refine vv_aload_n dX1_row_68 rfl 0 rfl ?_
    refine vv_iload dX1_row_69 4 rfl ?_
    refine vv_aload dX1_row_71 3 rfl ?_
    replace h := isO_o h; obtain ⟨fz4, sz4, ez4, h⟩ := h
    replace h := bd_o h; obtain ⟨r3, er3, h⟩ := h
    refine vv_callV ok_X1_nextOf q1516 (m_KX1_nextOf hG hH er3 d) rfl (by omega) ⟨_, _, _, _, _, ez4, by rw [hG.1]; rfl⟩ rfl rfl (Nat.le_of_ble_eq_true rfl) dX1_row_73 ?_
    refine vv_istore (lv' := [(0, .ref x0), (2, .int x2), (3, .int x3), (4, .ref x4), (5, .int r3), (6, .int x6)]) dX1_row_76 (by decide) [1, 2, 3, 4, 0, 5] rfl ?_
    refine vv_iinc (v := (x6 + (nI 1))) (lv' := [(0, .ref x0), (2, .int x2), (3, .int x3), (4, .ref x4), (5, .int r3), (6, .int (x6 + (nI 1)))]) dX1_row_78 5 rfl rfl (by decide) [1, 2, 3, 4, 5, 0] rfl ?_
    refine vv_goto (tgt := 48) dX1_row_81 (by decide) ?_
    exact hk48 h
  · cases h
    exact vv_callSX ok_X1_found q1248 (m_KX1_found hG hH er1 d) rfl (by omega) rfl rfl (Nat.le_of_ble_eq_true rfl) dX1_row_65 (vv_Tout (by intro x hx; cases hx))
def BKX1_row_48 (k48 : Nat → Int32 → Int32 → Nat → Int32 → Int32 → vv_S → Option (hX (Int32 × vv_S))) (x0 : Nat) (x2 : Int32) (x3 : Int32) (x4 : Nat) (x5 : Int32) (x6 : Int32) (σ : vv_S) : Option (hX (Int32 × vv_S)) := if x3 ≤ x6 then (some (.inl (x5, σ))) else (if x5 = x2 then (KX1_row_65 k48 (nI 0) x0 x2 x3 x4 x5 x6 σ) else (KX1_row_65 k48 (nI 1) x0 x2 x3 x4 x5 x6 σ))
def KX1_row_48 : Nat → Nat → Int32 → Int32 → Nat → Int32 → Int32 → vv_S → Option (hX (Int32 × vv_S))
  | 0, _, _, _, _, _, _, _ => none
  | n + 1, x0, x2, x3, x4, x5, x6, σ => BKX1_row_48 (KX1_row_48 n) x0 x2 x3 x4 x5 x6 σ
theorem vb_KX1_row_48 {l : Launch} {G : vv_G} {d : Nat} {ad : Nat → Nat} (hG : vv_gok G) (hH : vv_hy l G ad) {k48 : Nat → Int32 → Int32 → Nat → Int32 → Int32 → vv_S → Option (hX (Int32 × vv_S))} (hk48 : ∀ {x0 : Nat} {x2 : Int32} {x3 : Int32} {x4 : Nat} {x5 : Int32} {x6 : Int32} {σ : vv_S} {r : hX (Int32 × vv_S)}, k48 x0 x2 x3 x4 x5 x6 σ = some r → vv_V l G MX1_row (d + 10) 48 [(0, .ref x0), (2, .int x2), (3, .int x3), (4, .ref x4), (5, .int x5), (6, .int x6)] [] σ (xI r)) {x0 : Nat} {x2 : Int32} {x3 : Int32} {x4 : Nat} {x5 : Int32} {x6 : Int32} {σ : vv_S} {r : hX (Int32 × vv_S)} (h : BKX1_row_48 k48 x0 x2 x3 x4 x5 x6 σ = some r) : vv_V l G MX1_row (d + 10) 48 [(0, .ref x0), (2, .int x2), (3, .int x3), (4, .ref x4), (5, .int x5), (6, .int x6)] [] σ (xI r) := by
  unfold BKX1_row_48 at h
  refine vv_iload dX1_row_48 5 rfl ?_
  refine vv_iload_n dX1_row_50 rfl 2 rfl ?_
  refine vv_icmp_ge (tgt := 84) dX1_row_51 (by decide) (fun c1 => ?_) (fun c1 => ?_)
  · rw [if_pos c1] at h
    refine vv_iload dX1_row_84 4 rfl ?_
    cases h
    exact vv_iret rfl dX1_row_86
  · rw [if_neg c1] at h
    refine vv_iload dX1_row_54 4 rfl ?_
    refine vv_iload_n dX1_row_56 rfl 1 rfl ?_
    refine vv_icmp_eq (tgt := 64) dX1_row_57 (by decide) (fun c2 => ?_) (fun c2 => ?_)
    · rw [if_pos c2] at h
      refine vv_iconst (v := (nI 0)) dX1_row_64 (by decide) ?_
      exact v_KX1_row_65 hG hH hk48 h
    · rw [if_neg c2] at h
      refine vv_iconst (v := (nI 1)) dX1_row_60 (by decide) ?_
      refine vv_goto (tgt := 65) dX1_row_61 (by decide) ?_
      exact v_KX1_row_65 hG hH hk48 h
theorem v_KX1_row_48 {l : Launch} {G : vv_G} {d : Nat} {ad : Nat → Nat} (hG : vv_gok G) (hH : vv_hy l G ad) : ∀ (n : Nat) {x0 : Nat} {x2 : Int32} {x3 : Int32} {x4 : Nat} {x5 : Int32} {x6 : Int32} {σ : vv_S} {r : hX (Int32 × vv_S)}, KX1_row_48 n x0 x2 x3 x4 x5 x6 σ = some r → vv_V l G MX1_row (d + 10) 48 [(0, .ref x0), (2, .int x2), (3, .int x3), (4, .ref x4), (5, .int x5), (6, .int x6)] [] σ (xI r) := by
  intro n
  induction n with
  | zero => intro _ _ _ _ _ _ _ _ h; cases h
  | succ n ih => intro _ _ _ _ _ _ _ _ h; exact vb_KX1_row_48 hG hH ih h
def KX1_row_39 (s0 : Int32) (x0 : Nat) (x1 : Int32) (x2 : Int32) (x3 : Int32) (x4 : Nat) (σ : vv_S) : Option (hX (Int32 × vv_S)) := (KX1_found s0 σ).bind fun r1 => xb r1 fun r2 => KX1_row_48 NN x0 x2 x3 x4 x1 (nI 0) r2
theorem v_KX1_row_39 {l : Launch} {G : vv_G} {d : Nat} {ad : Nat → Nat} (hG : vv_gok G) (hH : vv_hy l G ad) {s0 : Int32} {x0 : Nat} {x1 : Int32} {x2 : Int32} {x3 : Int32} {x4 : Nat} {σ : vv_S} {r : hX (Int32 × vv_S)} (h : KX1_row_39 s0 x0 x1 x2 x3 x4 σ = some r) : vv_V l G MX1_row (d + 10) 39 [(0, .ref x0), (1, .int x1), (2, .int x2), (3, .int x3), (4, .ref x4)] [.int s0] σ (xI r) := by
  unfold KX1_row_39 at h
  replace h := bd_o h; obtain ⟨r1, er1, h⟩ := h
  rcases r1 with r2 | r2x
  · refine vv_callS ok_X1_found q1248 (m_KX1_found hG hH er1 d) rfl (by omega) rfl rfl (Nat.le_of_ble_eq_true rfl) dX1_row_39 ?_
    replace h := xb_l h
    refine vv_iload_n dX1_row_42 rfl 1 rfl ?_
    refine vv_istore (lv' := [(0, .ref x0), (1, .int x1), (2, .int x2), (3, .int x3), (4, .ref x4), (5, .int x1)]) dX1_row_43 (by decide) [1, 2, 3, 4, 5, 0] rfl ?_
    refine vv_iconst (v := (nI 0)) dX1_row_45 (by decide) ?_
    refine vv_istore (lv' := [(0, .ref x0), (1, .int x1), (2, .int x2), (3, .int x3), (4, .ref x4), (5, .int x1), (6, .int (nI 0))]) dX1_row_46 (by decide) [1, 2, 3, 4, 5, 6, 0] rfl ?_
    refine vv_sub (lv' := [(0, .ref x0), (2, .int x2), (3, .int x3), (4, .ref x4), (5, .int x1), (6, .int (nI 0))]) [0, 2, 3, 4, 5, 6] rfl ?_
    exact v_KX1_row_48 hG hH NN h
  · cases h
    exact vv_callSX ok_X1_found q1248 (m_KX1_found hG hH er1 d) rfl (by omega) rfl rfl (Nat.le_of_ble_eq_true rfl) dX1_row_39 (vv_Tout (by intro x hx; cases hx))
def KX1_row_38 (x0 : Nat) (x1 : Int32) (x2 : Int32) (x3 : Int32) (x4 : Nat) (σ : vv_S) : Option (hX (Int32 × vv_S)) := KX1_row_39 (nI 0) x0 x1 x2 x3 x4 σ
theorem v_KX1_row_38 {l : Launch} {G : vv_G} {d : Nat} {ad : Nat → Nat} (hG : vv_gok G) (hH : vv_hy l G ad) {x0 : Nat} {x1 : Int32} {x2 : Int32} {x3 : Int32} {x4 : Nat} {σ : vv_S} {r : hX (Int32 × vv_S)} (h : KX1_row_38 x0 x1 x2 x3 x4 σ = some r) : vv_V l G MX1_row (d + 10) 38 [(0, .ref x0), (1, .int x1), (2, .int x2), (3, .int x3), (4, .ref x4)] [] σ (xI r) := by
  unfold KX1_row_38 at h
  refine vv_iconst (v := (nI 0)) dX1_row_38 (by decide) ?_
  exact v_KX1_row_39 hG hH h
def KX1_row (x0 : Nat) (x1 : Int32) (x2 : Int32) (x3 : Int32) (σ : vv_S) : Option (hX (Int32 × vv_S)) := (isO σ x0 0).bind fun _ => (KX1_aTown x0 x1 σ).bind fun r1 => xb r1 fun r3 => (isO r3 x0 0).bind fun _ => (KX1_aTown x0 x2 r3).bind fun r4 => xb r4 fun r6 => (gR r6 x0 0 1).bind fun v7 => (isO r6 v7 1).bind fun _ => (KX2_least v7 x2 (nI 0) r6).bind fun r8 => (aI r8.2 .int r8.1 x1).bind fun v10 => if (nI 100000) ≤ v10 then (KX1_row_38 x0 x1 x2 x3 r8.1 r8.2) else (if x3 < 0 then (KX1_row_38 x0 x1 x2 x3 r8.1 r8.2) else (KX1_row_39 (nI 1) x0 x1 x2 x3 r8.1 r8.2))
theorem v_KX1_row_0 {l : Launch} {G : vv_G} {d : Nat} {ad : Nat → Nat} (hG : vv_gok G) (hH : vv_hy l G ad) {x0 : Nat} {x1 : Int32} {x2 : Int32} {x3 : Int32} {σ : vv_S} {r : hX (Int32 × vv_S)} (h : KX1_row x0 x1 x2 x3 σ = some r) : vv_V l G MX1_row (d + 10) 0 [(0, .ref x0), (1, .int x1), (2, .int x2), (3, .int x3)] [] σ (xI r) := by
  unfold KX1_row at h
  refine vv_aload_n dX1_row_0 rfl 0 rfl ?_
  refine vv_iload_n dX1_row_1 rfl 1 rfl ?_
  replace h := isO_o h; obtain ⟨fz2, sz2, ez2, h⟩ := h
  replace h := bd_o h; obtain ⟨r1, er1, h⟩ := h
  rcases r1 with r3 | r3x
  · refine vv_callV ok_X1_aTown q1273 (m_KX1_aTown hG hH er1 d) rfl (by omega) ⟨_, _, _, _, _, ez2, by rw [hG.1]; rfl⟩ rfl rfl (Nat.le_of_ble_eq_true rfl) dX1_row_2 ?_
    replace h := xb_l h
    refine vv_aload_n dX1_row_5 rfl 0 rfl ?_
    refine vv_iload_n dX1_row_6 rfl 2 rfl ?_
    replace h := isO_o h; obtain ⟨fz5, sz5, ez5, h⟩ := h
    replace h := bd_o h; obtain ⟨r4, er4, h⟩ := h
    rcases r4 with r6 | r6x
    · refine vv_callV ok_X1_aTown q1273 (m_KX1_aTown hG hH er4 d) rfl (by omega) ⟨_, _, _, _, _, ez5, by rw [hG.1]; rfl⟩ rfl rfl (Nat.le_of_ble_eq_true rfl) dX1_row_7 ?_
      replace h := xb_l h
      refine vv_aload_n dX1_row_10 rfl 0 rfl ?_
      replace h := gR_o h; obtain ⟨v7, fv7, sv7, ev7, lv7, h⟩ := h
      refine vv_get (fl_X1_22 hG) ev7 lv7 dX1_row_11 ?_
      refine vv_iload_n dX1_row_14 rfl 2 rfl ?_
      refine vv_iconst (v := (nI 0)) dX1_row_15 (by decide) ?_
      replace h := isO_o h; obtain ⟨fz9, sz9, ez9, h⟩ := h
      replace h := bd_o h; obtain ⟨r8, er8, h⟩ := h
      refine vv_callV ok_X2_least q639 (m_KX2_least hG hH er8 d) rfl (by omega) ⟨_, _, _, _, _, ez9, by rw [hG.1]; rfl⟩ rfl rfl (Nat.le_of_ble_eq_true rfl) dX1_row_16 ?_
      refine vv_astore (lv' := [(0, .ref x0), (1, .int x1), (2, .int x2), (3, .int x3), (4, .ref r8.1)]) dX1_row_19 (by decide) [1, 2, 3, 4, 0] rfl ?_
      refine vv_aload dX1_row_21 4 rfl ?_
      refine vv_iload_n dX1_row_23 rfl 1 rfl ?_
      replace h := aI_o h; obtain ⟨v10, fv10, nv10, qv10, ev10, iv10, wv10, h⟩ := h
      refine vv_iald ev10 iv10 dX1_row_24 ?_
      rw [wv10]
      refine vv_ldc (v := (nI 100000)) dX1_row_25 q637 ?_
      refine vv_icmp_ge (tgt := 38) dX1_row_27 (by decide) (fun c11 => ?_) (fun c11 => ?_)
      · rw [if_pos c11] at h
        exact v_KX1_row_38 hG hH h
      · rw [if_neg c11] at h
        refine vv_iload_n dX1_row_30 rfl 3 rfl ?_
        refine vv_if_lt (tgt := 38) dX1_row_31 (by decide) (fun c12 => ?_) (fun c12 => ?_)
        · rw [if_pos c12] at h
          exact v_KX1_row_38 hG hH h
        · rw [if_neg c12] at h
          refine vv_iconst (v := (nI 1)) dX1_row_34 (by decide) ?_
          refine vv_goto (tgt := 39) dX1_row_35 (by decide) ?_
          exact v_KX1_row_39 hG hH h
    · cases h
      exact vv_callVX ok_X1_aTown q1273 (m_KX1_aTown hG hH er4 d) rfl (by omega) ⟨_, _, _, _, _, ez5, by rw [hG.1]; rfl⟩ rfl rfl (Nat.le_of_ble_eq_true rfl) dX1_row_7 (vv_Tout (by intro x hx; cases hx))
  · cases h
    exact vv_callVX ok_X1_aTown q1273 (m_KX1_aTown hG hH er1 d) rfl (by omega) ⟨_, _, _, _, _, ez2, by rw [hG.1]; rfl⟩ rfl rfl (Nat.le_of_ble_eq_true rfl) dX1_row_2 (vv_Tout (by intro x hx; cases hx))
theorem m_KX1_row {l : Launch} {G : vv_G} {ad : Nat → Nat} (hG : vv_gok G) (hH : vv_hy l G ad) {x0 : Nat} {x1 : Int32} {x2 : Int32} {x3 : Int32} {σ : vv_S} {r : hX (Int32 × vv_S)} (h : KX1_row x0 x1 x2 x3 σ = some r) (d : Nat) : vv_Met l G MX1_row (d + 10) [.ref x0, .int x1, .int x2, .int x3] σ (xI r) := vv_head (by decide +kernel) rfl (Nat.le_of_ble_eq_true rfl) rfl (v_KX1_row_0 hG hH h)
/-! ('X1', 'bridge') -/
def KX1_bridge_63 (s0 : Int32) (σ : vv_S) : Option (hX (Int32 × vv_S)) := (zrI s0).bind fun v1 => some (.inl (v1, σ))
theorem v_KX1_bridge_63 {l : Launch} {G : vv_G} {d : Nat} {ad : Nat → Nat} (hG : vv_gok G) (hH : vv_hy l G ad) {s0 : Int32} {σ : vv_S} {r : hX (Int32 × vv_S)} (h : KX1_bridge_63 s0 σ = some r) : vv_V l G MX1_bridge (d + 10) 63 [] [.int s0] σ (xI r) := by
  unfold KX1_bridge_63 at h
  replace h := zr_o h; obtain ⟨zv1, h⟩ := h
  cases h
  exact vv_zret rfl zv1 dX1_bridge_63
def KX1_bridge (x0 : Nat) (x1 : Int32) (σ : vv_S) : Option (hX (Int32 × vv_S)) := (gR σ x0 0 1).bind fun v1 => (gR σ v1 1 2).bind fun v2 => (isO σ v2 11).bind fun _ => (KJ2_size v2 σ).bind fun r3 => (KX1_oneOf x1 (r3 - (nI 1)) σ).bind fun r5 => xb r5 fun r6 => (gR r6 x0 0 1).bind fun v7 => (gR r6 v7 1 2).bind fun v8 => (isO r6 v8 11).bind fun _ => (KJ2_get v8 x1 r6).bind fun r9 => (isO r6 r9 6).bind fun _ => (gR r6 x0 0 1).bind fun v12 => (gI r6 r9 6 0).bind fun v13 => (isO r6 v12 1).bind fun _ => (KX2_least_2 v12 v13 (nI 0) x1 r6).bind fun r14 => (gI r14.2 r9 6 1).bind fun v16 => (aI r14.2 .int r14.1 v16).bind fun v17 => if v17 < (nI 100000) then (KX1_bridge_63 (nI 0) r14.2) else (KX1_bridge_63 (nI 1) r14.2)
theorem v_KX1_bridge_0 {l : Launch} {G : vv_G} {d : Nat} {ad : Nat → Nat} (hG : vv_gok G) (hH : vv_hy l G ad) {x0 : Nat} {x1 : Int32} {σ : vv_S} {r : hX (Int32 × vv_S)} (h : KX1_bridge x0 x1 σ = some r) : vv_V l G MX1_bridge (d + 10) 0 [(0, .ref x0), (1, .int x1)] [] σ (xI r) := by
  unfold KX1_bridge at h
  refine vv_iload_n dX1_bridge_0 rfl 1 rfl ?_
  refine vv_aload_n dX1_bridge_1 rfl 0 rfl ?_
  replace h := gR_o h; obtain ⟨v1, fv1, sv1, ev1, lv1, h⟩ := h
  refine vv_get (fl_X1_22 hG) ev1 lv1 dX1_bridge_2 ?_
  replace h := gR_o h; obtain ⟨v2, fv2, sv2, ev2, lv2, h⟩ := h
  refine vv_getM (fl_X1_96 hH) ev2 lv2 dX1_bridge_5 ?_
  replace h := isO_o h; obtain ⟨fz4, sz4, ez4, h⟩ := h
  replace h := bd_o h; obtain ⟨r3, er3, h⟩ := h
  refine vv_callF (xx := ⟨"java/util/List", "size", "()I"⟩) okf_J2_size q426 (m_KJ2_size hG hH er3 d) rfl (by omega) ⟨_, _, _, _, _, ez4, by rw [hG.1]; rfl⟩ q429 (fun U hK => hH.1.2.2.1 U hK _ (List.mem_of_getElem? (i := 1) rfl)) ⟨by decide, by decide, by decide +kernel⟩ rfl rfl (Nat.le_of_ble_eq_true rfl) dX1_bridge_8 ?_
  refine vv_iconst (v := (nI 1)) dX1_bridge_13 (by decide) ?_
  refine vv_isub dX1_bridge_14 ?_
  replace h := bd_o h; obtain ⟨r5, er5, h⟩ := h
  rcases r5 with r6 | r6x
  · refine vv_callS ok_X1_oneOf q1293 (m_KX1_oneOf hG hH er5 d) rfl (by omega) rfl rfl (Nat.le_of_ble_eq_true rfl) dX1_bridge_15 ?_
    replace h := xb_l h
    refine vv_aload_n dX1_bridge_18 rfl 0 rfl ?_
    replace h := gR_o h; obtain ⟨v7, fv7, sv7, ev7, lv7, h⟩ := h
    refine vv_get (fl_X1_22 hG) ev7 lv7 dX1_bridge_19 ?_
    replace h := gR_o h; obtain ⟨v8, fv8, sv8, ev8, lv8, h⟩ := h
    refine vv_getM (fl_X1_96 hH) ev8 lv8 dX1_bridge_22 ?_
    refine vv_iload_n dX1_bridge_25 rfl 1 rfl ?_
    replace h := isO_o h; obtain ⟨fz10, sz10, ez10, h⟩ := h
    replace h := bd_o h; obtain ⟨r9, er9, h⟩ := h
    refine vv_callF (xx := ⟨"java/util/List", "get", "(I)Ljava/lang/Object;"⟩) okf_J2_get q1278 (m_KJ2_get hG hH er9 d) rfl (by omega) ⟨_, _, _, _, _, ez10, by rw [hG.1]; rfl⟩ q481 (fun U hK => hH.1.2.2.1 U hK _ (List.mem_of_getElem? (i := 3) rfl)) ⟨by decide, by decide, by decide +kernel⟩ rfl rfl (Nat.le_of_ble_eq_true rfl) dX1_bridge_26 ?_
    replace h := isO_o h; obtain ⟨fz11, sz11, ez11, h⟩ := h
    refine vv_cast ez11 ⟨_, _, by rw [hG.1]; rfl⟩ q1303 (Or.inl rfl) dX1_bridge_31 ?_
    refine vv_astore_n (lv' := [(0, .ref x0), (1, .int x1), (2, .ref r9)]) dX1_bridge_34 rfl (by decide) [1, 2, 0] rfl ?_
    refine vv_aload_n dX1_bridge_35 rfl 0 rfl ?_
    replace h := gR_o h; obtain ⟨v12, fv12, sv12, ev12, lv12, h⟩ := h
    refine vv_get (fl_X1_22 hG) ev12 lv12 dX1_bridge_36 ?_
    refine vv_aload_n dX1_bridge_39 rfl 2 rfl ?_
    replace h := gI_o h; obtain ⟨v13, fv13, sv13, ev13, lv13, h⟩ := h
    refine vv_getM (fl_X1_333 hH) ev13 lv13 dX1_bridge_40 ?_
    refine vv_iconst (v := (nI 0)) dX1_bridge_43 (by decide) ?_
    refine vv_iload_n dX1_bridge_44 rfl 1 rfl ?_
    replace h := isO_o h; obtain ⟨fz15, sz15, ez15, h⟩ := h
    replace h := bd_o h; obtain ⟨r14, er14, h⟩ := h
    refine vv_callV ok_X2_least_2 q1527 (m_KX2_least_2 hG hH er14 d) rfl (by omega) ⟨_, _, _, _, _, ez15, by rw [hG.1]; rfl⟩ rfl rfl (Nat.le_of_ble_eq_true rfl) dX1_bridge_45 ?_
    refine vv_aload_n dX1_bridge_48 rfl 2 rfl ?_
    replace h := gI_o h; obtain ⟨v16, fv16, sv16, ev16, lv16, h⟩ := h
    refine vv_getM (fl_X1_339 hH) ev16 lv16 dX1_bridge_49 ?_
    replace h := aI_o h; obtain ⟨v17, fv17, nv17, qv17, ev17, iv17, wv17, h⟩ := h
    refine vv_iald ev17 iv17 dX1_bridge_52 ?_
    rw [wv17]
    refine vv_ldc (v := (nI 100000)) dX1_bridge_53 q637 ?_
    refine vv_icmp_lt (tgt := 62) dX1_bridge_55 (by decide) (fun c18 => ?_) (fun c18 => ?_)
    · rw [if_pos c18] at h
      refine vv_iconst (v := (nI 0)) dX1_bridge_62 (by decide) ?_
      refine vv_sub (lv' := []) [] rfl ?_
      exact v_KX1_bridge_63 hG hH h
    · rw [if_neg c18] at h
      refine vv_iconst (v := (nI 1)) dX1_bridge_58 (by decide) ?_
      refine vv_goto (tgt := 63) dX1_bridge_59 (by decide) ?_
      refine vv_sub (lv' := []) [] rfl ?_
      exact v_KX1_bridge_63 hG hH h
  · cases h
    exact vv_callSX ok_X1_oneOf q1293 (m_KX1_oneOf hG hH er5 d) rfl (by omega) rfl rfl (Nat.le_of_ble_eq_true rfl) dX1_bridge_15 (vv_Tout (by intro x hx; cases hx))
theorem m_KX1_bridge {l : Launch} {G : vv_G} {ad : Nat → Nat} (hG : vv_gok G) (hH : vv_hy l G ad) {x0 : Nat} {x1 : Int32} {σ : vv_S} {r : hX (Int32 × vv_S)} (h : KX1_bridge x0 x1 σ = some r) (d : Nat) : vv_Met l G MX1_bridge (d + 10) [.ref x0, .int x1] σ (xI r) := vv_head (by decide +kernel) rfl (Nat.le_of_ble_eq_true rfl) rfl (v_KX1_bridge_0 hG hH h)
/-! ('X1', 'streak') -/
def KX1_streak_61 (fo : Nat → Nat → vv_S → Option Int32) (k32 : Int32 → Int32 → Nat → Int32 → Int32 → Int32 → vv_S → Option (hX (Int32 × vv_S))) (s0 : Int32) (x1 : Int32) (x2 : Int32) (x3 : Nat) (x5 : Int32) (x6 : Int32) (σ : vv_S) : Option (hX (Int32 × vv_S)) := k32 x1 x2 x3 s0 (mxI x5 s0) (x6 + (nI 1)) σ
theorem v_KX1_streak_61 {l : Launch} {G : vv_G} {d : Nat} {ad : Nat → Nat} {fo : Nat → Nat → vv_S → Option Int32} (hG : vv_gok G) (hH : vv_hy l G ad) (hfo : ∀ {a vs : Nat} {σ : vv_S} {r : Int32}, fo a vs σ = some r → vv_Form l G d a vs σ r) {k32 : Int32 → Int32 → Nat → Int32 → Int32 → Int32 → vv_S → Option (hX (Int32 × vv_S))} (hk32 : ∀ {x1 : Int32} {x2 : Int32} {x3 : Nat} {x4 : Int32} {x5 : Int32} {x6 : Int32} {σ : vv_S} {r : hX (Int32 × vv_S)}, k32 x1 x2 x3 x4 x5 x6 σ = some r → vv_V l G MX1_streak (d + 10) 32 [(1, .int x1), (2, .int x2), (3, .ref x3), (4, .int x4), (5, .int x5), (6, .int x6)] [] σ (xI r)) {s0 : Int32} {x1 : Int32} {x2 : Int32} {x3 : Nat} {x5 : Int32} {x6 : Int32} {σ : vv_S} {r : hX (Int32 × vv_S)} (h : KX1_streak_61 fo k32 s0 x1 x2 x3 x5 x6 σ = some r) : vv_V l G MX1_streak (d + 10) 61 [(1, .int x1), (2, .int x2), (3, .ref x3), (5, .int x5), (6, .int x6)] [.int s0] σ (xI r) := by
  unfold KX1_streak_61 at h
  refine vv_istore (lv' := [(1, .int x1), (2, .int x2), (3, .ref x3), (4, .int s0), (5, .int x5), (6, .int x6)]) dX1_streak_61 (by decide) [1, 2, 3, 0, 4, 5] rfl ?_
  refine vv_iload dX1_streak_63 4 rfl ?_
  refine vv_iload dX1_streak_65 3 rfl ?_
  refine vv_mmax q653 (by omega) (Nat.le_of_ble_eq_true rfl) dX1_streak_67 ?_
  refine vv_istore (lv' := [(1, .int x1), (2, .int x2), (3, .ref x3), (4, .int s0), (5, .int (mxI x5 s0)), (6, .int x6)]) dX1_streak_70 (by decide) [1, 2, 3, 4, 0, 5] rfl ?_
  refine vv_iinc (v := (x6 + (nI 1))) (lv' := [(1, .int x1), (2, .int x2), (3, .ref x3), (4, .int s0), (5, .int (mxI x5 s0)), (6, .int (x6 + (nI 1)))]) dX1_streak_72 5 rfl rfl (by decide) [1, 2, 3, 4, 5, 0] rfl ?_
  refine vv_goto (tgt := 32) dX1_streak_75 (by decide) ?_
  exact hk32 h
def BKX1_streak_32 (fo : Nat → Nat → vv_S → Option Int32) (k32 : Int32 → Int32 → Nat → Int32 → Int32 → Int32 → vv_S → Option (hX (Int32 × vv_S))) (x1 : Int32) (x2 : Int32) (x3 : Nat) (x4 : Int32) (x5 : Int32) (x6 : Int32) (σ : vv_S) : Option (hX (Int32 × vv_S)) := if x2 ≤ x6 then (some (.inl (x5, σ))) else ((isO σ x3 2).bind fun _ => (KX3_pass fo x3 (nI 0) σ).bind fun r2 => (gI r2.2 r2.1 2 10).bind fun v4 => (KX1_isOf v4 x1).bind fun r5 => if r5 = 0 then (KX1_streak_61 fo k32 (x4 + (nI 1)) x1 x2 x3 x5 x6 r2.2) else (KX1_streak_61 fo k32 (nI 0) x1 x2 x3 x5 x6 r2.2))
def KX1_streak_32 (fo : Nat → Nat → vv_S → Option Int32) : Nat → Int32 → Int32 → Nat → Int32 → Int32 → Int32 → vv_S → Option (hX (Int32 × vv_S))
  | 0, _, _, _, _, _, _, _ => none
  | n + 1, x1, x2, x3, x4, x5, x6, σ => BKX1_streak_32 fo (KX1_streak_32 fo n) x1 x2 x3 x4 x5 x6 σ
theorem vb_KX1_streak_32 {l : Launch} {G : vv_G} {d : Nat} {ad : Nat → Nat} {fo : Nat → Nat → vv_S → Option Int32} (hG : vv_gok G) (hH : vv_hy l G ad) (hfo : ∀ {a vs : Nat} {σ : vv_S} {r : Int32}, fo a vs σ = some r → vv_Form l G d a vs σ r) {k32 : Int32 → Int32 → Nat → Int32 → Int32 → Int32 → vv_S → Option (hX (Int32 × vv_S))} (hk32 : ∀ {x1 : Int32} {x2 : Int32} {x3 : Nat} {x4 : Int32} {x5 : Int32} {x6 : Int32} {σ : vv_S} {r : hX (Int32 × vv_S)}, k32 x1 x2 x3 x4 x5 x6 σ = some r → vv_V l G MX1_streak (d + 10) 32 [(1, .int x1), (2, .int x2), (3, .ref x3), (4, .int x4), (5, .int x5), (6, .int x6)] [] σ (xI r)) {x1 : Int32} {x2 : Int32} {x3 : Nat} {x4 : Int32} {x5 : Int32} {x6 : Int32} {σ : vv_S} {r : hX (Int32 × vv_S)} (h : BKX1_streak_32 fo k32 x1 x2 x3 x4 x5 x6 σ = some r) : vv_V l G MX1_streak (d + 10) 32 [(1, .int x1), (2, .int x2), (3, .ref x3), (4, .int x4), (5, .int x5), (6, .int x6)] [] σ (xI r) := by
  unfold BKX1_streak_32 at h
  refine vv_iload dX1_streak_32 5 rfl ?_
  refine vv_iload_n dX1_streak_34 rfl 1 rfl ?_
  refine vv_icmp_ge (tgt := 78) dX1_streak_35 (by decide) (fun c1 => ?_) (fun c1 => ?_)
  · rw [if_pos c1] at h
    refine vv_iload dX1_streak_78 4 rfl ?_
    cases h
    exact vv_iret rfl dX1_streak_80
  · rw [if_neg c1] at h
    refine vv_aload_n dX1_streak_38 rfl 2 rfl ?_
    refine vv_iconst (v := (nI 0)) dX1_streak_39 (by decide) ?_
    replace h := isO_o h; obtain ⟨fz3, sz3, ez3, h⟩ := h
    replace h := bd_o h; obtain ⟨r2, er2, h⟩ := h
    refine vv_callV ok_X3_pass q1344 (m_KX3_pass hG hH hfo er2 d) rfl (by omega) ⟨_, _, _, _, _, ez3, by rw [hG.1]; rfl⟩ rfl rfl (Nat.le_of_ble_eq_true rfl) dX1_streak_40 ?_
    replace h := gI_o h; obtain ⟨v4, fv4, sv4, ev4, lv4, h⟩ := h
    refine vv_getM (fl_X1_242 hH) ev4 lv4 dX1_streak_43 ?_
    refine vv_iload_n dX1_streak_46 rfl 0 rfl ?_
    replace h := bd_o h; obtain ⟨r5, er5, h⟩ := h
    refine vv_callS ok_X1_isOf q1352 (m_KX1_isOf hG hH er5 d) rfl (by omega) rfl rfl (Nat.le_of_ble_eq_true rfl) dX1_streak_47 ?_
    refine vv_if_eq (tgt := 57) dX1_streak_50 (by decide) (fun c6 => ?_) (fun c6 => ?_)
    · rw [if_pos c6] at h
      refine vv_iload dX1_streak_57 3 rfl ?_
      refine vv_iconst (v := (nI 1)) dX1_streak_59 (by decide) ?_
      refine vv_iadd dX1_streak_60 ?_
      refine vv_sub (lv' := [(1, .int x1), (2, .int x2), (3, .ref x3), (5, .int x5), (6, .int x6)]) [0, 1, 2, 4, 5] rfl ?_
      exact v_KX1_streak_61 hG hH hfo hk32 h
    · rw [if_neg c6] at h
      refine vv_iconst (v := (nI 0)) dX1_streak_53 (by decide) ?_
      refine vv_goto (tgt := 61) dX1_streak_54 (by decide) ?_
      refine vv_sub (lv' := [(1, .int x1), (2, .int x2), (3, .ref x3), (5, .int x5), (6, .int x6)]) [0, 1, 2, 4, 5] rfl ?_
      exact v_KX1_streak_61 hG hH hfo hk32 h
theorem v_KX1_streak_32 {l : Launch} {G : vv_G} {d : Nat} {ad : Nat → Nat} {fo : Nat → Nat → vv_S → Option Int32} (hG : vv_gok G) (hH : vv_hy l G ad) (hfo : ∀ {a vs : Nat} {σ : vv_S} {r : Int32}, fo a vs σ = some r → vv_Form l G d a vs σ r) : ∀ (n : Nat) {x1 : Int32} {x2 : Int32} {x3 : Nat} {x4 : Int32} {x5 : Int32} {x6 : Int32} {σ : vv_S} {r : hX (Int32 × vv_S)}, KX1_streak_32 fo n x1 x2 x3 x4 x5 x6 σ = some r → vv_V l G MX1_streak (d + 10) 32 [(1, .int x1), (2, .int x2), (3, .ref x3), (4, .int x4), (5, .int x5), (6, .int x6)] [] σ (xI r) := by
  intro n
  induction n with
  | zero => intro _ _ _ _ _ _ _ _ h; cases h
  | succ n ih => intro _ _ _ _ _ _ _ _ h; exact vb_KX1_streak_32 hG hH hfo ih h
def KX1_streak (fo : Nat → Nat → vv_S → Option Int32) (x0 : Nat) (x1 : Int32) (x2 : Int32) (σ : vv_S) : Option (hX (Int32 × vv_S)) := (isO σ x0 0).bind fun _ => (KX1_aTown x0 x1 σ).bind fun r1 => xb r1 fun r3 => (KX1_in x2 (nI 0) (nI 60)).bind fun r4 => (KX1_right r4 r3).bind fun r5 => xb r5 fun r6 => (gR r6 x0 0 2).bind fun v7 => (isO r6 v7 2).bind fun _ => (KX3_copy v7 r6).bind fun r8 => KX1_streak_32 fo NN x1 x2 r8.1 (nI 0) (nI 0) (nI 0) r8.2
theorem v_KX1_streak_0 {l : Launch} {G : vv_G} {d : Nat} {ad : Nat → Nat} {fo : Nat → Nat → vv_S → Option Int32} (hG : vv_gok G) (hH : vv_hy l G ad) (hfo : ∀ {a vs : Nat} {σ : vv_S} {r : Int32}, fo a vs σ = some r → vv_Form l G d a vs σ r) {x0 : Nat} {x1 : Int32} {x2 : Int32} {σ : vv_S} {r : hX (Int32 × vv_S)} (h : KX1_streak fo x0 x1 x2 σ = some r) : vv_V l G MX1_streak (d + 10) 0 [(0, .ref x0), (1, .int x1), (2, .int x2)] [] σ (xI r) := by
  unfold KX1_streak at h
  refine vv_aload_n dX1_streak_0 rfl 0 rfl ?_
  refine vv_iload_n dX1_streak_1 rfl 1 rfl ?_
  replace h := isO_o h; obtain ⟨fz2, sz2, ez2, h⟩ := h
  replace h := bd_o h; obtain ⟨r1, er1, h⟩ := h
  rcases r1 with r3 | r3x
  · refine vv_callV ok_X1_aTown q1273 (m_KX1_aTown hG hH er1 d) rfl (by omega) ⟨_, _, _, _, _, ez2, by rw [hG.1]; rfl⟩ rfl rfl (Nat.le_of_ble_eq_true rfl) dX1_streak_2 ?_
    replace h := xb_l h
    refine vv_iload_n dX1_streak_5 rfl 2 rfl ?_
    refine vv_iconst (v := (nI 0)) dX1_streak_6 (by decide) ?_
    refine vv_bipush (v := (nI 60)) dX1_streak_7 (by decide) ?_
    replace h := bd_o h; obtain ⟨r4, er4, h⟩ := h
    refine vv_callS ok_X1_in q335 (m_KX1_in hG hH er4 d) rfl (by omega) rfl rfl (Nat.le_of_ble_eq_true rfl) dX1_streak_9 ?_
    replace h := bd_o h; obtain ⟨r5, er5, h⟩ := h
    rcases r5 with r6 | r6x
    · refine vv_callS ok_X1_right q700 (m_KX1_right hG hH er5 d) rfl (by omega) rfl rfl (Nat.le_of_ble_eq_true rfl) dX1_streak_12 ?_
      replace h := xb_l h
      refine vv_aload_n dX1_streak_15 rfl 0 rfl ?_
      replace h := gR_o h; obtain ⟨v7, fv7, sv7, ev7, lv7, h⟩ := h
      refine vv_get (fl_X1_31 hG) ev7 lv7 dX1_streak_16 ?_
      replace h := isO_o h; obtain ⟨fz9, sz9, ez9, h⟩ := h
      replace h := bd_o h; obtain ⟨r8, er8, h⟩ := h
      refine vv_callV ok_X3_copy q346 (m_KX3_copy hG hH er8 d) rfl (by omega) ⟨_, _, _, _, _, ez9, by rw [hG.1]; rfl⟩ rfl rfl (Nat.le_of_ble_eq_true rfl) dX1_streak_19 ?_
      refine vv_astore_n (lv' := [(0, .ref x0), (1, .int x1), (2, .int x2), (3, .ref r8.1)]) dX1_streak_22 rfl (by decide) [1, 2, 3, 0] rfl ?_
      refine vv_iconst (v := (nI 0)) dX1_streak_23 (by decide) ?_
      refine vv_istore (lv' := [(0, .ref x0), (1, .int x1), (2, .int x2), (3, .ref r8.1), (4, .int (nI 0))]) dX1_streak_24 (by decide) [1, 2, 3, 4, 0] rfl ?_
      refine vv_iconst (v := (nI 0)) dX1_streak_26 (by decide) ?_
      refine vv_istore (lv' := [(0, .ref x0), (1, .int x1), (2, .int x2), (3, .ref r8.1), (4, .int (nI 0)), (5, .int (nI 0))]) dX1_streak_27 (by decide) [1, 2, 3, 4, 5, 0] rfl ?_
      refine vv_iconst (v := (nI 0)) dX1_streak_29 (by decide) ?_
      refine vv_istore (lv' := [(0, .ref x0), (1, .int x1), (2, .int x2), (3, .ref r8.1), (4, .int (nI 0)), (5, .int (nI 0)), (6, .int (nI 0))]) dX1_streak_30 (by decide) [1, 2, 3, 4, 5, 6, 0] rfl ?_
      refine vv_sub (lv' := [(1, .int x1), (2, .int x2), (3, .ref r8.1), (4, .int (nI 0)), (5, .int (nI 0)), (6, .int (nI 0))]) [1, 2, 3, 4, 5, 6] rfl ?_
      exact v_KX1_streak_32 hG hH hfo NN h
    · cases h
      exact vv_callSX ok_X1_right q700 (m_KX1_right hG hH er5 d) rfl (by omega) rfl rfl (Nat.le_of_ble_eq_true rfl) dX1_streak_12 (vv_Tout (by intro x hx; cases hx))
  · cases h
    exact vv_callVX ok_X1_aTown q1273 (m_KX1_aTown hG hH er1 d) rfl (by omega) ⟨_, _, _, _, _, ez2, by rw [hG.1]; rfl⟩ rfl rfl (Nat.le_of_ble_eq_true rfl) dX1_streak_2 (vv_Tout (by intro x hx; cases hx))
theorem m_KX1_streak {l : Launch} {G : vv_G} {d : Nat} {ad : Nat → Nat} {fo : Nat → Nat → vv_S → Option Int32} (hG : vv_gok G) (hH : vv_hy l G ad) (hfo : ∀ {a vs : Nat} {σ : vv_S} {r : Int32}, fo a vs σ = some r → vv_Form l G d a vs σ r) {x0 : Nat} {x1 : Int32} {x2 : Int32} {σ : vv_S} {r : hX (Int32 × vv_S)} (h : KX1_streak fo x0 x1 x2 σ = some r) (d9 : Nat) (e9 : d9 = d := by rfl) : vv_Met l G MX1_streak (d9 + 10) [.ref x0, .int x1, .int x2] σ (xI r) := by
  subst e9
  exact vv_head (by decide +kernel) rfl (Nat.le_of_ble_eq_true rfl) rfl (v_KX1_streak_0 hG hH hfo h)
/-! ('X1', 'day') -/
def KX1_day_108 (fo : Nat → Nat → vv_S → Option Int32) (s0 : Int32) (σ : vv_S) : Option (hX (Int32 × vv_S)) := some (.inl (s0, σ))
theorem v_KX1_day_108 {l : Launch} {G : vv_G} {d : Nat} {ad : Nat → Nat} {fo : Nat → Nat → vv_S → Option Int32} (hG : vv_gok G) (hH : vv_hy l G ad) (hfo : ∀ {a vs : Nat} {σ : vv_S} {r : Int32}, fo a vs σ = some r → vv_Form l G d a vs σ r) {s0 : Int32} {σ : vv_S} {r : hX (Int32 × vv_S)} (h : KX1_day_108 fo s0 σ = some r) : vv_V l G MX1_day (d + 10) 108 [] [.int s0] σ (xI r) := by
  unfold KX1_day_108 at h
  cases h
  exact vv_iret rfl dX1_day_108
def KX1_day_91 (fo : Nat → Nat → vv_S → Option Int32) (k32 : Int32 → Int32 → Nat → Int32 → Int32 → Int32 → vv_S → Option (hX (Int32 × vv_S))) (x1 : Int32) (x2 : Int32) (x3 : Nat) (x4 : Int32) (x5 : Int32) (x6 : Int32) (σ : vv_S) : Option (hX (Int32 × vv_S)) := k32 x1 x2 x3 x4 x5 (x6 + (nI 1)) σ
theorem v_KX1_day_91 {l : Launch} {G : vv_G} {d : Nat} {ad : Nat → Nat} {fo : Nat → Nat → vv_S → Option Int32} (hG : vv_gok G) (hH : vv_hy l G ad) (hfo : ∀ {a vs : Nat} {σ : vv_S} {r : Int32}, fo a vs σ = some r → vv_Form l G d a vs σ r) {k32 : Int32 → Int32 → Nat → Int32 → Int32 → Int32 → vv_S → Option (hX (Int32 × vv_S))} (hk32 : ∀ {x1 : Int32} {x2 : Int32} {x3 : Nat} {x4 : Int32} {x5 : Int32} {x6 : Int32} {σ : vv_S} {r : hX (Int32 × vv_S)}, k32 x1 x2 x3 x4 x5 x6 σ = some r → vv_V l G MX1_day (d + 10) 32 [(1, .int x1), (2, .int x2), (3, .ref x3), (4, .int x4), (5, .int x5), (6, .int x6)] [] σ (xI r)) {x1 : Int32} {x2 : Int32} {x3 : Nat} {x4 : Int32} {x5 : Int32} {x6 : Int32} {σ : vv_S} {r : hX (Int32 × vv_S)} (h : KX1_day_91 fo k32 x1 x2 x3 x4 x5 x6 σ = some r) : vv_V l G MX1_day (d + 10) 91 [(1, .int x1), (2, .int x2), (3, .ref x3), (4, .int x4), (5, .int x5), (6, .int x6)] [] σ (xI r) := by
  unfold KX1_day_91 at h
  refine vv_iinc (v := (x6 + (nI 1))) (lv' := [(1, .int x1), (2, .int x2), (3, .ref x3), (4, .int x4), (5, .int x5), (6, .int (x6 + (nI 1)))]) dX1_day_91 5 rfl rfl (by decide) [1, 2, 3, 4, 5, 0] rfl ?_
  refine vv_goto (tgt := 32) dX1_day_94 (by decide) ?_
  exact hk32 h
def KX1_day_83 (fo : Nat → Nat → vv_S → Option Int32) (k32 : Int32 → Int32 → Nat → Int32 → Int32 → Int32 → vv_S → Option (hX (Int32 × vv_S))) (x1 : Int32) (x2 : Int32) (x3 : Nat) (x6 : Int32) (x8 : Int32) (σ : vv_S) : Option (hX (Int32 × vv_S)) := KX1_day_91 fo k32 x1 x2 x3 x6 x8 x6 σ
theorem v_KX1_day_83 {l : Launch} {G : vv_G} {d : Nat} {ad : Nat → Nat} {fo : Nat → Nat → vv_S → Option Int32} (hG : vv_gok G) (hH : vv_hy l G ad) (hfo : ∀ {a vs : Nat} {σ : vv_S} {r : Int32}, fo a vs σ = some r → vv_Form l G d a vs σ r) {k32 : Int32 → Int32 → Nat → Int32 → Int32 → Int32 → vv_S → Option (hX (Int32 × vv_S))} (hk32 : ∀ {x1 : Int32} {x2 : Int32} {x3 : Nat} {x4 : Int32} {x5 : Int32} {x6 : Int32} {σ : vv_S} {r : hX (Int32 × vv_S)}, k32 x1 x2 x3 x4 x5 x6 σ = some r → vv_V l G MX1_day (d + 10) 32 [(1, .int x1), (2, .int x2), (3, .ref x3), (4, .int x4), (5, .int x5), (6, .int x6)] [] σ (xI r)) {x1 : Int32} {x2 : Int32} {x3 : Nat} {x6 : Int32} {x8 : Int32} {σ : vv_S} {r : hX (Int32 × vv_S)} (h : KX1_day_83 fo k32 x1 x2 x3 x6 x8 σ = some r) : vv_V l G MX1_day (d + 10) 83 [(1, .int x1), (2, .int x2), (3, .ref x3), (6, .int x6), (8, .int x8)] [] σ (xI r) := by
  unfold KX1_day_83 at h
  refine vv_iload dX1_day_83 3 rfl ?_
  refine vv_istore (lv' := [(1, .int x1), (2, .int x2), (3, .ref x3), (4, .int x6), (6, .int x6), (8, .int x8)]) dX1_day_85 (by decide) [1, 2, 3, 0, 4, 5] rfl ?_
  refine vv_iload dX1_day_87 5 rfl ?_
  refine vv_istore (lv' := [(1, .int x1), (2, .int x2), (3, .ref x3), (4, .int x6), (5, .int x8), (6, .int x6), (8, .int x8)]) dX1_day_89 (by decide) [1, 2, 3, 4, 0, 5, 6] rfl ?_
  refine vv_sub (lv' := [(1, .int x1), (2, .int x2), (3, .ref x3), (4, .int x6), (5, .int x8), (6, .int x6)]) [0, 1, 2, 3, 4, 5] rfl ?_
  exact v_KX1_day_91 hG hH hfo hk32 h
def BKX1_day_32 (fo : Nat → Nat → vv_S → Option Int32) (k32 : Int32 → Int32 → Nat → Int32 → Int32 → Int32 → vv_S → Option (hX (Int32 × vv_S))) (x1 : Int32) (x2 : Int32) (x3 : Nat) (x4 : Int32) (x5 : Int32) (x6 : Int32) (σ : vv_S) : Option (hX (Int32 × vv_S)) := if x1 < x6 then (if x2 = 0 then (KX1_day_108 fo x4 σ) else (KX1_day_108 fo x5 σ)) else ((gR σ x3 2 2).bind fun v3 => (isO σ x3 2).bind fun _ => (KX3_sum x3 v3 σ).bind fun r4 => (isO σ x3 2).bind fun _ => (KX3_pass fo x3 (nI 0) σ).bind fun r6 => (gR r6.2 x3 2 2).bind fun v8 => (isO r6.2 x3 2).bind fun _ => (KX3_sum x3 v8 r6.2).bind fun r9 => if x4 = (-1) then (KX1_day_83 fo k32 x1 x2 x3 x6 (r9 - r4) r6.2) else (if x5 < (r9 - r4) then (KX1_day_83 fo k32 x1 x2 x3 x6 (r9 - r4) r6.2) else (KX1_day_91 fo k32 x1 x2 x3 x4 x5 x6 r6.2)))
def KX1_day_32 (fo : Nat → Nat → vv_S → Option Int32) : Nat → Int32 → Int32 → Nat → Int32 → Int32 → Int32 → vv_S → Option (hX (Int32 × vv_S))
  | 0, _, _, _, _, _, _, _ => none
  | n + 1, x1, x2, x3, x4, x5, x6, σ => BKX1_day_32 fo (KX1_day_32 fo n) x1 x2 x3 x4 x5 x6 σ
theorem vb_KX1_day_32 {l : Launch} {G : vv_G} {d : Nat} {ad : Nat → Nat} {fo : Nat → Nat → vv_S → Option Int32} (hG : vv_gok G) (hH : vv_hy l G ad) (hfo : ∀ {a vs : Nat} {σ : vv_S} {r : Int32}, fo a vs σ = some r → vv_Form l G d a vs σ r) {k32 : Int32 → Int32 → Nat → Int32 → Int32 → Int32 → vv_S → Option (hX (Int32 × vv_S))} (hk32 : ∀ {x1 : Int32} {x2 : Int32} {x3 : Nat} {x4 : Int32} {x5 : Int32} {x6 : Int32} {σ : vv_S} {r : hX (Int32 × vv_S)}, k32 x1 x2 x3 x4 x5 x6 σ = some r → vv_V l G MX1_day (d + 10) 32 [(1, .int x1), (2, .int x2), (3, .ref x3), (4, .int x4), (5, .int x5), (6, .int x6)] [] σ (xI r)) {x1 : Int32} {x2 : Int32} {x3 : Nat} {x4 : Int32} {x5 : Int32} {x6 : Int32} {σ : vv_S} {r : hX (Int32 × vv_S)} (h : BKX1_day_32 fo k32 x1 x2 x3 x4 x5 x6 σ = some r) : vv_V l G MX1_day (d + 10) 32 [(1, .int x1), (2, .int x2), (3, .ref x3), (4, .int x4), (5, .int x5), (6, .int x6)] [] σ (xI r) := by
  unfold BKX1_day_32 at h
  refine vv_iload dX1_day_32 5 rfl ?_
  refine vv_iload_n dX1_day_34 rfl 0 rfl ?_
  refine vv_icmp_gt (tgt := 97) dX1_day_35 (by decide) (fun c1 => ?_) (fun c1 => ?_)
  · rw [if_pos c1] at h
    refine vv_iload_n dX1_day_97 rfl 1 rfl ?_
    refine vv_if_ne (tgt := 106) dX1_day_98 (by decide) (fun c2 => ?_) (fun c2 => ?_)
    · rw [if_neg c2] at h
      refine vv_iload dX1_day_106 4 rfl ?_
      refine vv_sub (lv' := []) [] rfl ?_
      exact v_KX1_day_108 hG hH hfo h
    · rw [if_pos c2] at h
      refine vv_iload dX1_day_101 3 rfl ?_
      refine vv_goto (tgt := 108) dX1_day_103 (by decide) ?_
      refine vv_sub (lv' := []) [] rfl ?_
      exact v_KX1_day_108 hG hH hfo h
  · rw [if_neg c1] at h
    refine vv_aload_n dX1_day_38 rfl 2 rfl ?_
    refine vv_aload_n dX1_day_39 rfl 2 rfl ?_
    replace h := gR_o h; obtain ⟨v3, fv3, sv3, ev3, lv3, h⟩ := h
    refine vv_getM (fl_X1_120 hH) ev3 lv3 dX1_day_40 ?_
    replace h := isO_o h; obtain ⟨fz5, sz5, ez5, h⟩ := h
    replace h := bd_o h; obtain ⟨r4, er4, h⟩ := h
    refine vv_callV ok_X3_sum q629 (m_KX3_sum hG hH er4 d) rfl (by omega) ⟨_, _, _, _, _, ez5, by rw [hG.1]; rfl⟩ rfl rfl (Nat.le_of_ble_eq_true rfl) dX1_day_43 ?_
    refine vv_istore (lv' := [(1, .int x1), (2, .int x2), (3, .ref x3), (4, .int x4), (5, .int x5), (6, .int x6), (7, .int r4)]) dX1_day_46 (by decide) [1, 2, 3, 4, 5, 6, 0] rfl ?_
    refine vv_aload_n dX1_day_48 rfl 2 rfl ?_
    refine vv_iconst (v := (nI 0)) dX1_day_49 (by decide) ?_
    replace h := isO_o h; obtain ⟨fz7, sz7, ez7, h⟩ := h
    replace h := bd_o h; obtain ⟨r6, er6, h⟩ := h
    refine vv_callV ok_X3_pass q1344 (m_KX3_pass hG hH hfo er6 d) rfl (by omega) ⟨_, _, _, _, _, ez7, by rw [hG.1]; rfl⟩ rfl rfl (Nat.le_of_ble_eq_true rfl) dX1_day_50 ?_
    refine vv_pop dX1_day_53 rfl ?_
    refine vv_aload_n dX1_day_54 rfl 2 rfl ?_
    refine vv_aload_n dX1_day_55 rfl 2 rfl ?_
    replace h := gR_o h; obtain ⟨v8, fv8, sv8, ev8, lv8, h⟩ := h
    refine vv_getM (fl_X1_120 hH) ev8 lv8 dX1_day_56 ?_
    replace h := isO_o h; obtain ⟨fz10, sz10, ez10, h⟩ := h
    replace h := bd_o h; obtain ⟨r9, er9, h⟩ := h
    refine vv_callV ok_X3_sum q629 (m_KX3_sum hG hH er9 d) rfl (by omega) ⟨_, _, _, _, _, ez10, by rw [hG.1]; rfl⟩ rfl rfl (Nat.le_of_ble_eq_true rfl) dX1_day_59 ?_
    refine vv_iload dX1_day_62 6 rfl ?_
    refine vv_isub dX1_day_64 ?_
    refine vv_istore (lv' := [(1, .int x1), (2, .int x2), (3, .ref x3), (4, .int x4), (5, .int x5), (6, .int x6), (7, .int r4), (8, .int (r9 - r4))]) dX1_day_65 (by decide) [1, 2, 3, 4, 5, 6, 7, 0] rfl ?_
    refine vv_iload dX1_day_67 3 rfl ?_
    refine vv_iconst (v := (-1)) dX1_day_69 (by decide) ?_
    refine vv_icmp_eq (tgt := 83) dX1_day_70 (by decide) (fun c11 => ?_) (fun c11 => ?_)
    · rw [if_pos c11] at h
      refine vv_sub (lv' := [(1, .int x1), (2, .int x2), (3, .ref x3), (6, .int x6), (8, .int (r9 - r4))]) [0, 1, 2, 5, 7] rfl ?_
      exact v_KX1_day_83 hG hH hfo hk32 h
    · rw [if_neg c11] at h
      refine vv_iload dX1_day_73 7 rfl ?_
      refine vv_iload dX1_day_75 4 rfl ?_
      refine vv_icmp_gt (tgt := 83) dX1_day_77 (by decide) (fun c12 => ?_) (fun c12 => ?_)
      · rw [if_pos c12] at h
        refine vv_sub (lv' := [(1, .int x1), (2, .int x2), (3, .ref x3), (6, .int x6), (8, .int (r9 - r4))]) [0, 1, 2, 5, 7] rfl ?_
        exact v_KX1_day_83 hG hH hfo hk32 h
      · rw [if_neg c12] at h
        refine vv_goto (tgt := 91) dX1_day_80 (by decide) ?_
        refine vv_sub (lv' := [(1, .int x1), (2, .int x2), (3, .ref x3), (4, .int x4), (5, .int x5), (6, .int x6)]) [0, 1, 2, 3, 4, 5] rfl ?_
        exact v_KX1_day_91 hG hH hfo hk32 h
theorem v_KX1_day_32 {l : Launch} {G : vv_G} {d : Nat} {ad : Nat → Nat} {fo : Nat → Nat → vv_S → Option Int32} (hG : vv_gok G) (hH : vv_hy l G ad) (hfo : ∀ {a vs : Nat} {σ : vv_S} {r : Int32}, fo a vs σ = some r → vv_Form l G d a vs σ r) : ∀ (n : Nat) {x1 : Int32} {x2 : Int32} {x3 : Nat} {x4 : Int32} {x5 : Int32} {x6 : Int32} {σ : vv_S} {r : hX (Int32 × vv_S)}, KX1_day_32 fo n x1 x2 x3 x4 x5 x6 σ = some r → vv_V l G MX1_day (d + 10) 32 [(1, .int x1), (2, .int x2), (3, .ref x3), (4, .int x4), (5, .int x5), (6, .int x6)] [] σ (xI r) := by
  intro n
  induction n with
  | zero => intro _ _ _ _ _ _ _ _ h; cases h
  | succ n ih => intro _ _ _ _ _ _ _ _ h; exact vb_KX1_day_32 hG hH hfo ih h
def KX1_day (fo : Nat → Nat → vv_S → Option Int32) (x0 : Nat) (x1 : Int32) (x2 : Int32) (σ : vv_S) : Option (hX (Int32 × vv_S)) := (KX1_oneOf x2 (nI 1) σ).bind fun r1 => xb r1 fun r2 => (KX1_in x1 (nI 1) (nI 60)).bind fun r3 => (KX1_right r3 r2).bind fun r4 => xb r4 fun r5 => (gR r5 x0 0 2).bind fun v6 => (isO r5 v6 2).bind fun _ => (KX3_copy v6 r5).bind fun r7 => KX1_day_32 fo NN x1 x2 r7.1 (-1) (nI 0) (nI 1) r7.2
theorem v_KX1_day_0 {l : Launch} {G : vv_G} {d : Nat} {ad : Nat → Nat} {fo : Nat → Nat → vv_S → Option Int32} (hG : vv_gok G) (hH : vv_hy l G ad) (hfo : ∀ {a vs : Nat} {σ : vv_S} {r : Int32}, fo a vs σ = some r → vv_Form l G d a vs σ r) {x0 : Nat} {x1 : Int32} {x2 : Int32} {σ : vv_S} {r : hX (Int32 × vv_S)} (h : KX1_day fo x0 x1 x2 σ = some r) : vv_V l G MX1_day (d + 10) 0 [(0, .ref x0), (1, .int x1), (2, .int x2)] [] σ (xI r) := by
  unfold KX1_day at h
  refine vv_iload_n dX1_day_0 rfl 2 rfl ?_
  refine vv_iconst (v := (nI 1)) dX1_day_1 (by decide) ?_
  replace h := bd_o h; obtain ⟨r1, er1, h⟩ := h
  rcases r1 with r2 | r2x
  · refine vv_callS ok_X1_oneOf q1293 (m_KX1_oneOf hG hH er1 d) rfl (by omega) rfl rfl (Nat.le_of_ble_eq_true rfl) dX1_day_2 ?_
    replace h := xb_l h
    refine vv_iload_n dX1_day_5 rfl 1 rfl ?_
    refine vv_iconst (v := (nI 1)) dX1_day_6 (by decide) ?_
    refine vv_bipush (v := (nI 60)) dX1_day_7 (by decide) ?_
    replace h := bd_o h; obtain ⟨r3, er3, h⟩ := h
    refine vv_callS ok_X1_in q335 (m_KX1_in hG hH er3 d) rfl (by omega) rfl rfl (Nat.le_of_ble_eq_true rfl) dX1_day_9 ?_
    replace h := bd_o h; obtain ⟨r4, er4, h⟩ := h
    rcases r4 with r5 | r5x
    · refine vv_callS ok_X1_right q700 (m_KX1_right hG hH er4 d) rfl (by omega) rfl rfl (Nat.le_of_ble_eq_true rfl) dX1_day_12 ?_
      replace h := xb_l h
      refine vv_aload_n dX1_day_15 rfl 0 rfl ?_
      replace h := gR_o h; obtain ⟨v6, fv6, sv6, ev6, lv6, h⟩ := h
      refine vv_get (fl_X1_31 hG) ev6 lv6 dX1_day_16 ?_
      replace h := isO_o h; obtain ⟨fz8, sz8, ez8, h⟩ := h
      replace h := bd_o h; obtain ⟨r7, er7, h⟩ := h
      refine vv_callV ok_X3_copy q346 (m_KX3_copy hG hH er7 d) rfl (by omega) ⟨_, _, _, _, _, ez8, by rw [hG.1]; rfl⟩ rfl rfl (Nat.le_of_ble_eq_true rfl) dX1_day_19 ?_
      refine vv_astore_n (lv' := [(0, .ref x0), (1, .int x1), (2, .int x2), (3, .ref r7.1)]) dX1_day_22 rfl (by decide) [1, 2, 3, 0] rfl ?_
      refine vv_iconst (v := (-1)) dX1_day_23 (by decide) ?_
      refine vv_istore (lv' := [(0, .ref x0), (1, .int x1), (2, .int x2), (3, .ref r7.1), (4, .int (-1))]) dX1_day_24 (by decide) [1, 2, 3, 4, 0] rfl ?_
      refine vv_iconst (v := (nI 0)) dX1_day_26 (by decide) ?_
      refine vv_istore (lv' := [(0, .ref x0), (1, .int x1), (2, .int x2), (3, .ref r7.1), (4, .int (-1)), (5, .int (nI 0))]) dX1_day_27 (by decide) [1, 2, 3, 4, 5, 0] rfl ?_
      refine vv_iconst (v := (nI 1)) dX1_day_29 (by decide) ?_
      refine vv_istore (lv' := [(0, .ref x0), (1, .int x1), (2, .int x2), (3, .ref r7.1), (4, .int (-1)), (5, .int (nI 0)), (6, .int (nI 1))]) dX1_day_30 (by decide) [1, 2, 3, 4, 5, 6, 0] rfl ?_
      refine vv_sub (lv' := [(1, .int x1), (2, .int x2), (3, .ref r7.1), (4, .int (-1)), (5, .int (nI 0)), (6, .int (nI 1))]) [1, 2, 3, 4, 5, 6] rfl ?_
      exact v_KX1_day_32 hG hH hfo NN h
    · cases h
      exact vv_callSX ok_X1_right q700 (m_KX1_right hG hH er4 d) rfl (by omega) rfl rfl (Nat.le_of_ble_eq_true rfl) dX1_day_12 (vv_Tout (by intro x hx; cases hx))
  · cases h
    exact vv_callSX ok_X1_oneOf q1293 (m_KX1_oneOf hG hH er1 d) rfl (by omega) rfl rfl (Nat.le_of_ble_eq_true rfl) dX1_day_2 (vv_Tout (by intro x hx; cases hx))
theorem m_KX1_day {l : Launch} {G : vv_G} {d : Nat} {ad : Nat → Nat} {fo : Nat → Nat → vv_S → Option Int32} (hG : vv_gok G) (hH : vv_hy l G ad) (hfo : ∀ {a vs : Nat} {σ : vv_S} {r : Int32}, fo a vs σ = some r → vv_Form l G d a vs σ r) {x0 : Nat} {x1 : Int32} {x2 : Int32} {σ : vv_S} {r : hX (Int32 × vv_S)} (h : KX1_day fo x0 x1 x2 σ = some r) (d9 : Nat) (e9 : d9 = d := by rfl) : vv_Met l G MX1_day (d9 + 10) [.ref x0, .int x1, .int x2] σ (xI r) := by
  subst e9
  exact vv_head (by decide +kernel) rfl (Nat.le_of_ble_eq_true rfl) rfl (v_KX1_day_0 hG hH hfo h)
