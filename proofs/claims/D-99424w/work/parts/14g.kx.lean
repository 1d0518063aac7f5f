set_option maxRecDepth 100000
/-! ('X1', 'unlevel') -/
def KX1_unlevel (x0 : Nat) (x1 : Int32) (x2 : Int32) (σ : vv_S) : Option Int32 := (gR σ x0 0 2).bind fun v1 => (gR σ v1 2 0).bind fun v2 => (aI σ .int v2 x1).bind fun v3 => (isO σ x0 0).bind fun _ => (KX1_grains x0 x2 (nI 0) σ).bind fun r4 => (gR σ x0 0 2).bind fun v6 => (gR σ v6 2 1).bind fun v7 => (aI σ .int v7 x1).bind fun v8 => (isO σ x0 0).bind fun _ => (KX1_grains x0 x2 (nI 1) σ).bind fun r9 => some (abI ((mnI (nI 9999) (v3 + r4)) - (mnI (nI 9999) (v8 + r9))))
theorem v_KX1_unlevel_0 {l : Launch} {G : vv_G} {d : Nat} {ad : Nat → Nat} (hG : vv_gok G) (hH : vv_hy l G ad) {x0 : Nat} {x1 : Int32} {x2 : Int32} {σ : vv_S} {r : Int32} (h : KX1_unlevel x0 x1 x2 σ = some r) : vv_V l G MX1_unlevel (d + 2) 0 [(0, .ref x0), (1, .int x1), (2, .int x2)] [] σ (.inl (some (.int r)), σ) := by
  unfold KX1_unlevel at h
  refine vv_sipush (v := (nI 9999)) dX1_unlevel_0 (by decide) ?_
  refine vv_aload_n dX1_unlevel_3 rfl 0 rfl ?_
  replace h := gR_o h; obtain ⟨v1, fv1, sv1, ev1, lv1, h⟩ := h
  refine vv_get (fl_X1_31 hG) ev1 lv1 dX1_unlevel_4 ?_
  replace h := gR_o h; obtain ⟨v2, fv2, sv2, ev2, lv2, h⟩ := h
  refine vv_getM (fl_X1_110 hH) ev2 lv2 dX1_unlevel_7 ?_
  refine vv_iload_n dX1_unlevel_10 rfl 1 rfl ?_
  replace h := aI_o h; obtain ⟨v3, fv3, nv3, qv3, ev3, iv3, wv3, h⟩ := h
  refine vv_iald ev3 iv3 dX1_unlevel_11 ?_
  rw [wv3]
  refine vv_aload_n dX1_unlevel_12 rfl 0 rfl ?_
  refine vv_iload_n dX1_unlevel_13 rfl 2 rfl ?_
  refine vv_iconst (v := (nI 0)) dX1_unlevel_14 (by decide) ?_
  replace h := isO_o h; obtain ⟨fz5, sz5, ez5, h⟩ := h
  replace h := bd_o h; obtain ⟨r4, er4, h⟩ := h
  refine vv_callV ok_X1_grains q1498 (m_KX1_grains hG hH er4 d) rfl (by omega) ⟨_, _, _, _, _, ez5, by rw [hG.1]; rfl⟩ rfl rfl (Nat.le_of_ble_eq_true rfl) dX1_unlevel_15 ?_
  refine vv_iadd dX1_unlevel_18 ?_
  refine vv_mmin q1326 (by omega) (Nat.le_of_ble_eq_true rfl) dX1_unlevel_19 ?_
  refine vv_istore_n (lv' := [(0, .ref x0), (1, .int x1), (2, .int x2), (3, .int (mnI (nI 9999) (v3 + r4)))]) dX1_unlevel_22 rfl (by decide) [1, 2, 3, 0] rfl ?_
  refine vv_iload_n dX1_unlevel_23 rfl 3 rfl ?_
  refine vv_sipush (v := (nI 9999)) dX1_unlevel_24 (by decide) ?_
  refine vv_aload_n dX1_unlevel_27 rfl 0 rfl ?_
  replace h := gR_o h; obtain ⟨v6, fv6, sv6, ev6, lv6, h⟩ := h
  refine vv_get (fl_X1_31 hG) ev6 lv6 dX1_unlevel_28 ?_
  replace h := gR_o h; obtain ⟨v7, fv7, sv7, ev7, lv7, h⟩ := h
  refine vv_getM (fl_X1_117 hH) ev7 lv7 dX1_unlevel_31 ?_
  refine vv_iload_n dX1_unlevel_34 rfl 1 rfl ?_
  replace h := aI_o h; obtain ⟨v8, fv8, nv8, qv8, ev8, iv8, wv8, h⟩ := h
  refine vv_iald ev8 iv8 dX1_unlevel_35 ?_
  rw [wv8]
  refine vv_aload_n dX1_unlevel_36 rfl 0 rfl ?_
  refine vv_iload_n dX1_unlevel_37 rfl 2 rfl ?_
  refine vv_iconst (v := (nI 1)) dX1_unlevel_38 (by decide) ?_
  replace h := isO_o h; obtain ⟨fz10, sz10, ez10, h⟩ := h
  replace h := bd_o h; obtain ⟨r9, er9, h⟩ := h
  refine vv_callV ok_X1_grains q1498 (m_KX1_grains hG hH er9 d) rfl (by omega) ⟨_, _, _, _, _, ez10, by rw [hG.1]; rfl⟩ rfl rfl (Nat.le_of_ble_eq_true rfl) dX1_unlevel_39 ?_
  refine vv_iadd dX1_unlevel_42 ?_
  refine vv_mmin q1326 (by omega) (Nat.le_of_ble_eq_true rfl) dX1_unlevel_43 ?_
  refine vv_isub dX1_unlevel_46 ?_
  refine vv_mabs q1327 (by omega) (Nat.le_of_ble_eq_true rfl) dX1_unlevel_47 ?_
  cases h
  exact vv_iret rfl dX1_unlevel_50
theorem m_KX1_unlevel {l : Launch} {G : vv_G} {ad : Nat → Nat} (hG : vv_gok G) (hH : vv_hy l G ad) {x0 : Nat} {x1 : Int32} {x2 : Int32} {σ : vv_S} {r : Int32} (h : KX1_unlevel x0 x1 x2 σ = some r) (d : Nat) : vv_Met l G MX1_unlevel (d + 2) [.ref x0, .int x1, .int x2] σ (.inl (some (.int r)), σ) := vv_head (by decide +kernel) rfl (Nat.le_of_ble_eq_true rfl) rfl (v_KX1_unlevel_0 hG hH h)
/-! ('X1', 'level') -/
def KX1_level_75 (k19 : Nat → Int32 → Int32 → Int32 → Int32 → vv_S → Option (hX (Int32 × vv_S))) (x0 : Nat) (x1 : Int32) (x2 : Int32) (x3 : Int32) (x4 : Int32) (σ : vv_S) : Option (hX (Int32 × vv_S)) := k19 x0 x1 x2 x3 (x4 + (nI 1)) σ
theorem v_KX1_level_75 {l : Launch} {G : vv_G} {d : Nat} {ad : Nat → Nat} (hG : vv_gok G) (hH : vv_hy l G ad) {k19 : Nat → Int32 → Int32 → Int32 → Int32 → vv_S → Option (hX (Int32 × vv_S))} (hk19 : ∀ {x0 : Nat} {x1 : Int32} {x2 : Int32} {x3 : Int32} {x4 : Int32} {σ : vv_S} {r : hX (Int32 × vv_S)}, k19 x0 x1 x2 x3 x4 σ = some r → vv_V l G MX1_level (d + 10) 19 [(0, .ref x0), (1, .int x1), (2, .int x2), (3, .int x3), (4, .int x4)] [] σ (xI r)) {x0 : Nat} {x1 : Int32} {x2 : Int32} {x3 : Int32} {x4 : Int32} {σ : vv_S} {r : hX (Int32 × vv_S)} (h : KX1_level_75 k19 x0 x1 x2 x3 x4 σ = some r) : vv_V l G MX1_level (d + 10) 75 [(0, .ref x0), (1, .int x1), (2, .int x2), (3, .int x3), (4, .int x4)] [] σ (xI r) := by
  unfold KX1_level_75 at h
  refine vv_iinc (v := (x4 + (nI 1))) (lv' := [(0, .ref x0), (1, .int x1), (2, .int x2), (3, .int x3), (4, .int (x4 + (nI 1)))]) dX1_level_75 4 rfl rfl (by decide) [1, 2, 3, 4, 0] rfl ?_
  refine vv_goto (tgt := 19) dX1_level_78 (by decide) ?_
  exact hk19 h
def KX1_level_72 (k19 : Nat → Int32 → Int32 → Int32 → Int32 → vv_S → Option (hX (Int32 × vv_S))) (x0 : Nat) (x1 : Int32) (x2 : Int32) (x4 : Int32) (σ : vv_S) : Option (hX (Int32 × vv_S)) := KX1_level_75 k19 x0 x1 x2 x4 x4 σ
theorem v_KX1_level_72 {l : Launch} {G : vv_G} {d : Nat} {ad : Nat → Nat} (hG : vv_gok G) (hH : vv_hy l G ad) {k19 : Nat → Int32 → Int32 → Int32 → Int32 → vv_S → Option (hX (Int32 × vv_S))} (hk19 : ∀ {x0 : Nat} {x1 : Int32} {x2 : Int32} {x3 : Int32} {x4 : Int32} {σ : vv_S} {r : hX (Int32 × vv_S)}, k19 x0 x1 x2 x3 x4 σ = some r → vv_V l G MX1_level (d + 10) 19 [(0, .ref x0), (1, .int x1), (2, .int x2), (3, .int x3), (4, .int x4)] [] σ (xI r)) {x0 : Nat} {x1 : Int32} {x2 : Int32} {x4 : Int32} {σ : vv_S} {r : hX (Int32 × vv_S)} (h : KX1_level_72 k19 x0 x1 x2 x4 σ = some r) : vv_V l G MX1_level (d + 10) 72 [(0, .ref x0), (1, .int x1), (2, .int x2), (4, .int x4)] [] σ (xI r) := by
  unfold KX1_level_72 at h
  refine vv_iload dX1_level_72 3 rfl ?_
  refine vv_istore_n (lv' := [(0, .ref x0), (1, .int x1), (2, .int x2), (3, .int x4), (4, .int x4)]) dX1_level_74 rfl (by decide) [1, 2, 3, 0, 4] rfl ?_
  exact v_KX1_level_75 hG hH hk19 h
def BKX1_level_19 (k19 : Nat → Int32 → Int32 → Int32 → Int32 → vv_S → Option (hX (Int32 × vv_S))) (x0 : Nat) (x1 : Int32) (x2 : Int32) (x3 : Int32) (x4 : Int32) (σ : vv_S) : Option (hX (Int32 × vv_S)) := if x2 < x4 then (some (.inl (x3, σ))) else (if (x4 &&& (x2 ^^^ (-1))) = 0 then ((isO σ x0 0).bind fun _ => (KX1_unlevel x0 x1 x3 σ).bind fun r3 => (isO σ x0 0).bind fun _ => (KX1_unlevel x0 x1 x4 σ).bind fun r5 => if 0 < (r3 - r5) then (KX1_level_72 k19 x0 x1 x2 x4 σ) else (if (r3 - r5) = 0 then ((KX1_isFewer x4 x3).bind fun r9 => if r9 = 0 then (KX1_level_75 k19 x0 x1 x2 x3 x4 σ) else (KX1_level_72 k19 x0 x1 x2 x4 σ)) else (KX1_level_75 k19 x0 x1 x2 x3 x4 σ))) else (KX1_level_75 k19 x0 x1 x2 x3 x4 σ))
def KX1_level_19 : Nat → Nat → Int32 → Int32 → Int32 → Int32 → vv_S → Option (hX (Int32 × vv_S))
  | 0, _, _, _, _, _, _ => none
  | n + 1, x0, x1, x2, x3, x4, σ => BKX1_level_19 (KX1_level_19 n) x0 x1 x2 x3 x4 σ
theorem vb_KX1_level_19 {l : Launch} {G : vv_G} {d : Nat} {ad : Nat → Nat} (hG : vv_gok G) (hH : vv_hy l G ad) {k19 : Nat → Int32 → Int32 → Int32 → Int32 → vv_S → Option (hX (Int32 × vv_S))} (hk19 : ∀ {x0 : Nat} {x1 : Int32} {x2 : Int32} {x3 : Int32} {x4 : Int32} {σ : vv_S} {r : hX (Int32 × vv_S)}, k19 x0 x1 x2 x3 x4 σ = some r → vv_V l G MX1_level (d + 10) 19 [(0, .ref x0), (1, .int x1), (2, .int x2), (3, .int x3), (4, .int x4)] [] σ (xI r)) {x0 : Nat} {x1 : Int32} {x2 : Int32} {x3 : Int32} {x4 : Int32} {σ : vv_S} {r : hX (Int32 × vv_S)} (h : BKX1_level_19 k19 x0 x1 x2 x3 x4 σ = some r) : vv_V l G MX1_level (d + 10) 19 [(0, .ref x0), (1, .int x1), (2, .int x2), (3, .int x3), (4, .int x4)] [] σ (xI r) := by
  unfold BKX1_level_19 at h
  refine vv_iload dX1_level_19 4 rfl ?_
  refine vv_iload_n dX1_level_21 rfl 2 rfl ?_
  refine vv_icmp_gt (tgt := 81) dX1_level_22 (by decide) (fun c1 => ?_) (fun c1 => ?_)
  · rw [if_pos c1] at h
    refine vv_iload_n dX1_level_81 rfl 3 rfl ?_
    cases h
    exact vv_iret rfl dX1_level_82
  · rw [if_neg c1] at h
    refine vv_iload dX1_level_25 4 rfl ?_
    refine vv_iload_n dX1_level_27 rfl 2 rfl ?_
    refine vv_iconst (v := (-1)) dX1_level_28 (by decide) ?_
    refine vv_ixor dX1_level_29 ?_
    refine vv_iand dX1_level_30 ?_
    refine vv_if_eq (tgt := 37) dX1_level_31 (by decide) (fun c2 => ?_) (fun c2 => ?_)
    · rw [if_pos c2] at h
      refine vv_aload_n dX1_level_37 rfl 0 rfl ?_
      refine vv_iload_n dX1_level_38 rfl 1 rfl ?_
      refine vv_iload_n dX1_level_39 rfl 3 rfl ?_
      replace h := isO_o h; obtain ⟨fz4, sz4, ez4, h⟩ := h
      replace h := bd_o h; obtain ⟨r3, er3, h⟩ := h
      refine vv_callV ok_X1_unlevel q1549 (m_KX1_unlevel hG hH er3 d) rfl (by omega) ⟨_, _, _, _, _, ez4, by rw [hG.1]; rfl⟩ rfl rfl (Nat.le_of_ble_eq_true rfl) dX1_level_40 ?_
      refine vv_aload_n dX1_level_43 rfl 0 rfl ?_
      refine vv_iload_n dX1_level_44 rfl 1 rfl ?_
      refine vv_iload dX1_level_45 4 rfl ?_
      replace h := isO_o h; obtain ⟨fz6, sz6, ez6, h⟩ := h
      replace h := bd_o h; obtain ⟨r5, er5, h⟩ := h
      refine vv_callV ok_X1_unlevel q1549 (m_KX1_unlevel hG hH er5 d) rfl (by omega) ⟨_, _, _, _, _, ez6, by rw [hG.1]; rfl⟩ rfl rfl (Nat.le_of_ble_eq_true rfl) dX1_level_47 ?_
      refine vv_isub dX1_level_50 ?_
      refine vv_istore (lv' := [(0, .ref x0), (1, .int x1), (2, .int x2), (3, .int x3), (4, .int x4), (5, .int (r3 - r5))]) dX1_level_51 (by decide) [1, 2, 3, 4, 5, 0] rfl ?_
      refine vv_iload dX1_level_53 5 rfl ?_
      refine vv_if_gt (tgt := 72) dX1_level_55 (by decide) (fun c7 => ?_) (fun c7 => ?_)
      · rw [if_pos c7] at h
        refine vv_sub (lv' := [(0, .ref x0), (1, .int x1), (2, .int x2), (4, .int x4)]) [0, 1, 2, 4] rfl ?_
        exact v_KX1_level_72 hG hH hk19 h
      · rw [if_neg c7] at h
        refine vv_iload dX1_level_58 5 rfl ?_
        refine vv_if_ne (tgt := 75) dX1_level_60 (by decide) (fun c8 => ?_) (fun c8 => ?_)
        · rw [if_neg c8] at h
          refine vv_sub (lv' := [(0, .ref x0), (1, .int x1), (2, .int x2), (3, .int x3), (4, .int x4)]) [0, 1, 2, 3, 4] rfl ?_
          exact v_KX1_level_75 hG hH hk19 h
        · rw [if_pos c8] at h
          refine vv_iload dX1_level_63 4 rfl ?_
          refine vv_iload_n dX1_level_65 rfl 3 rfl ?_
          replace h := bd_o h; obtain ⟨r9, er9, h⟩ := h
          refine vv_callS ok_X1_isFewer q1506 (m_KX1_isFewer hG hH er9 d) rfl (by omega) rfl rfl (Nat.le_of_ble_eq_true rfl) dX1_level_66 ?_
          refine vv_if_eq (tgt := 75) dX1_level_69 (by decide) (fun c10 => ?_) (fun c10 => ?_)
          · rw [if_pos c10] at h
            refine vv_sub (lv' := [(0, .ref x0), (1, .int x1), (2, .int x2), (3, .int x3), (4, .int x4)]) [0, 1, 2, 3, 4] rfl ?_
            exact v_KX1_level_75 hG hH hk19 h
          · rw [if_neg c10] at h
            refine vv_sub (lv' := [(0, .ref x0), (1, .int x1), (2, .int x2), (4, .int x4)]) [0, 1, 2, 4] rfl ?_
            exact v_KX1_level_72 hG hH hk19 h
    · rw [if_neg c2] at h
      refine vv_goto (tgt := 75) dX1_level_34 (by decide) ?_
      exact v_KX1_level_75 hG hH hk19 h
theorem v_KX1_level_19 {l : Launch} {G : vv_G} {d : Nat} {ad : Nat → Nat} (hG : vv_gok G) (hH : vv_hy l G ad) : ∀ (n : Nat) {x0 : Nat} {x1 : Int32} {x2 : Int32} {x3 : Int32} {x4 : Int32} {σ : vv_S} {r : hX (Int32 × vv_S)}, KX1_level_19 n x0 x1 x2 x3 x4 σ = some r → vv_V l G MX1_level (d + 10) 19 [(0, .ref x0), (1, .int x1), (2, .int x2), (3, .int x3), (4, .int x4)] [] σ (xI r) := by
  intro n
  induction n with
  | zero => intro _ _ _ _ _ _ _ h; cases h
  | succ n ih => intro _ _ _ _ _ _ _ h; exact vb_KX1_level_19 hG hH ih h
def KX1_level (x0 : Nat) (x1 : Int32) (σ : vv_S) : Option (hX (Int32 × vv_S)) := (isO σ x0 0).bind fun _ => (KX1_aTown x0 x1 σ).bind fun r1 => xb r1 fun r3 => (gR r3 x0 0 2).bind fun v4 => (isO r3 v4 2).bind fun _ => (KX3_lying v4 x1 r3).bind fun r5 => KX1_level_19 NN x0 x1 r5 (nI 0) (nI 1) r3
theorem v_KX1_level_0 {l : Launch} {G : vv_G} {d : Nat} {ad : Nat → Nat} (hG : vv_gok G) (hH : vv_hy l G ad) {x0 : Nat} {x1 : Int32} {σ : vv_S} {r : hX (Int32 × vv_S)} (h : KX1_level x0 x1 σ = some r) : vv_V l G MX1_level (d + 10) 0 [(0, .ref x0), (1, .int x1)] [] σ (xI r) := by
  unfold KX1_level at h
  refine vv_aload_n dX1_level_0 rfl 0 rfl ?_
  refine vv_iload_n dX1_level_1 rfl 1 rfl ?_
  replace h := isO_o h; obtain ⟨fz2, sz2, ez2, h⟩ := h
  replace h := bd_o h; obtain ⟨r1, er1, h⟩ := h
  rcases r1 with r3 | r3x
  · refine vv_callV ok_X1_aTown q1273 (m_KX1_aTown hG hH er1 d) rfl (by omega) ⟨_, _, _, _, _, ez2, by rw [hG.1]; rfl⟩ rfl rfl (Nat.le_of_ble_eq_true rfl) dX1_level_2 ?_
    replace h := xb_l h
    refine vv_aload_n dX1_level_5 rfl 0 rfl ?_
    replace h := gR_o h; obtain ⟨v4, fv4, sv4, ev4, lv4, h⟩ := h
    refine vv_get (fl_X1_31 hG) ev4 lv4 dX1_level_6 ?_
    refine vv_iload_n dX1_level_9 rfl 1 rfl ?_
    replace h := isO_o h; obtain ⟨fz6, sz6, ez6, h⟩ := h
    replace h := bd_o h; obtain ⟨r5, er5, h⟩ := h
    refine vv_callV ok_X3_lying q1247 (m_KX3_lying hG hH er5 d) rfl (by omega) ⟨_, _, _, _, _, ez6, by rw [hG.1]; rfl⟩ rfl rfl (Nat.le_of_ble_eq_true rfl) dX1_level_10 ?_
    refine vv_istore_n (lv' := [(0, .ref x0), (1, .int x1), (2, .int r5)]) dX1_level_13 rfl (by decide) [1, 2, 0] rfl ?_
    refine vv_iconst (v := (nI 0)) dX1_level_14 (by decide) ?_
    refine vv_istore_n (lv' := [(0, .ref x0), (1, .int x1), (2, .int r5), (3, .int (nI 0))]) dX1_level_15 rfl (by decide) [1, 2, 3, 0] rfl ?_
    refine vv_iconst (v := (nI 1)) dX1_level_16 (by decide) ?_
    refine vv_istore (lv' := [(0, .ref x0), (1, .int x1), (2, .int r5), (3, .int (nI 0)), (4, .int (nI 1))]) dX1_level_17 (by decide) [1, 2, 3, 4, 0] rfl ?_
    exact v_KX1_level_19 hG hH NN h
  · cases h
    exact vv_callVX ok_X1_aTown q1273 (m_KX1_aTown hG hH er1 d) rfl (by omega) ⟨_, _, _, _, _, ez2, by rw [hG.1]; rfl⟩ rfl rfl (Nat.le_of_ble_eq_true rfl) dX1_level_2 (vv_Tout (by intro x hx; cases hx))
theorem m_KX1_level {l : Launch} {G : vv_G} {ad : Nat → Nat} (hG : vv_gok G) (hH : vv_hy l G ad) {x0 : Nat} {x1 : Int32} {σ : vv_S} {r : hX (Int32 × vv_S)} (h : KX1_level x0 x1 σ = some r) (d : Nat) : vv_Met l G MX1_level (d + 10) [.ref x0, .int x1] σ (xI r) := vv_head (by decide +kernel) rfl (Nat.le_of_ble_eq_true rfl) rfl (v_KX1_level_0 hG hH h)
/-! ('X1', 'lend') -/
def KX1_lend_78 (fo : Nat → Nat → vv_S → Option Int32) (k33 : Nat → Int32 → Nat → Int32 → Int32 → vv_S → Option (hX (Int32 × vv_S))) (x0 : Nat) (x1 : Int32) (x2 : Nat) (x3 : Int32) (x4 : Int32) (σ : vv_S) : Option (hX (Int32 × vv_S)) := k33 x0 x1 x2 x3 (x4 + (nI 1)) σ
theorem v_KX1_lend_78 {l : Launch} {G : vv_G} {d : Nat} {ad : Nat → Nat} {fo : Nat → Nat → vv_S → Option Int32} (hG : vv_gok G) (hH : vv_hy l G ad) (hfo : ∀ {a vs : Nat} {σ : vv_S} {r : Int32}, fo a vs σ = some r → vv_Form l G d a vs σ r) {k33 : Nat → Int32 → Nat → Int32 → Int32 → vv_S → Option (hX (Int32 × vv_S))} (hk33 : ∀ {x0 : Nat} {x1 : Int32} {x2 : Nat} {x3 : Int32} {x4 : Int32} {σ : vv_S} {r : hX (Int32 × vv_S)}, k33 x0 x1 x2 x3 x4 σ = some r → vv_V l G MX1_lend (d + 10) 33 [(0, .ref x0), (1, .int x1), (2, .ref x2), (3, .int x3), (4, .int x4)] [] σ (xI r)) {x0 : Nat} {x1 : Int32} {x2 : Nat} {x3 : Int32} {x4 : Int32} {σ : vv_S} {r : hX (Int32 × vv_S)} (h : KX1_lend_78 fo k33 x0 x1 x2 x3 x4 σ = some r) : vv_V l G MX1_lend (d + 10) 78 [(0, .ref x0), (1, .int x1), (2, .ref x2), (3, .int x3), (4, .int x4)] [] σ (xI r) := by
  unfold KX1_lend_78 at h
  refine vv_iinc (v := (x4 + (nI 1))) (lv' := [(0, .ref x0), (1, .int x1), (2, .ref x2), (3, .int x3), (4, .int (x4 + (nI 1)))]) dX1_lend_78 4 rfl rfl (by decide) [1, 2, 3, 4, 0] rfl ?_
  refine vv_goto (tgt := 33) dX1_lend_81 (by decide) ?_
  exact hk33 h
def BKX1_lend_33 (fo : Nat → Nat → vv_S → Option Int32) (k33 : Nat → Int32 → Nat → Int32 → Int32 → vv_S → Option (hX (Int32 × vv_S))) (x0 : Nat) (x1 : Int32) (x2 : Nat) (x3 : Int32) (x4 : Int32) (σ : vv_S) : Option (hX (Int32 × vv_S)) := (gR σ x0 0 2).bind fun v1 => (gR σ v1 2 0).bind fun v2 => (aI σ .int v2 x1).bind fun v3 => if v3 < x4 then (some (.inl (x3, σ))) else ((gR σ x2 2 0).bind fun v5 => (gR σ x0 0 2).bind fun v6 => (gR σ v6 2 0).bind fun v7 => (aI σ .int v7 x1).bind fun v8 => (sI σ v5 x1 (v8 - x4)).bind fun σ9 => (isO σ9 x2 2).bind fun _ => (KX3_odds fo x2 x1 σ9).bind fun r10 => if r10.1 < (nI 7) then (KX1_lend_78 fo k33 x0 x1 x2 x3 x4 r10.2) else (KX1_lend_78 fo k33 x0 x1 x2 x4 x4 r10.2))
def KX1_lend_33 (fo : Nat → Nat → vv_S → Option Int32) : Nat → Nat → Int32 → Nat → Int32 → Int32 → vv_S → Option (hX (Int32 × vv_S))
  | 0, _, _, _, _, _, _ => none
  | n + 1, x0, x1, x2, x3, x4, σ => BKX1_lend_33 fo (KX1_lend_33 fo n) x0 x1 x2 x3 x4 σ
theorem vb_KX1_lend_33 {l : Launch} {G : vv_G} {d : Nat} {ad : Nat → Nat} {fo : Nat → Nat → vv_S → Option Int32} (hG : vv_gok G) (hH : vv_hy l G ad) (hfo : ∀ {a vs : Nat} {σ : vv_S} {r : Int32}, fo a vs σ = some r → vv_Form l G d a vs σ r) {k33 : Nat → Int32 → Nat → Int32 → Int32 → vv_S → Option (hX (Int32 × vv_S))} (hk33 : ∀ {x0 : Nat} {x1 : Int32} {x2 : Nat} {x3 : Int32} {x4 : Int32} {σ : vv_S} {r : hX (Int32 × vv_S)}, k33 x0 x1 x2 x3 x4 σ = some r → vv_V l G MX1_lend (d + 10) 33 [(0, .ref x0), (1, .int x1), (2, .ref x2), (3, .int x3), (4, .int x4)] [] σ (xI r)) {x0 : Nat} {x1 : Int32} {x2 : Nat} {x3 : Int32} {x4 : Int32} {σ : vv_S} {r : hX (Int32 × vv_S)} (h : BKX1_lend_33 fo k33 x0 x1 x2 x3 x4 σ = some r) : vv_V l G MX1_lend (d + 10) 33 [(0, .ref x0), (1, .int x1), (2, .ref x2), (3, .int x3), (4, .int x4)] [] σ (xI r) := by
  unfold BKX1_lend_33 at h
  refine vv_iload dX1_lend_33 4 rfl ?_
  refine vv_aload_n dX1_lend_35 rfl 0 rfl ?_
  replace h := gR_o h; obtain ⟨v1, fv1, sv1, ev1, lv1, h⟩ := h
  refine vv_get (fl_X1_31 hG) ev1 lv1 dX1_lend_36 ?_
  replace h := gR_o h; obtain ⟨v2, fv2, sv2, ev2, lv2, h⟩ := h
  refine vv_getM (fl_X1_110 hH) ev2 lv2 dX1_lend_39 ?_
  refine vv_iload_n dX1_lend_42 rfl 1 rfl ?_
  replace h := aI_o h; obtain ⟨v3, fv3, nv3, qv3, ev3, iv3, wv3, h⟩ := h
  refine vv_iald ev3 iv3 dX1_lend_43 ?_
  rw [wv3]
  refine vv_icmp_gt (tgt := 84) dX1_lend_44 (by decide) (fun c4 => ?_) (fun c4 => ?_)
  · rw [if_pos c4] at h
    refine vv_iload_n dX1_lend_84 rfl 3 rfl ?_
    cases h
    exact vv_iret rfl dX1_lend_85
  · rw [if_neg c4] at h
    refine vv_aload_n dX1_lend_47 rfl 2 rfl ?_
    replace h := gR_o h; obtain ⟨v5, fv5, sv5, ev5, lv5, h⟩ := h
    refine vv_getM (fl_X1_110 hH) ev5 lv5 dX1_lend_48 ?_
    refine vv_iload_n dX1_lend_51 rfl 1 rfl ?_
    refine vv_aload_n dX1_lend_52 rfl 0 rfl ?_
    replace h := gR_o h; obtain ⟨v6, fv6, sv6, ev6, lv6, h⟩ := h
    refine vv_get (fl_X1_31 hG) ev6 lv6 dX1_lend_53 ?_
    replace h := gR_o h; obtain ⟨v7, fv7, sv7, ev7, lv7, h⟩ := h
    refine vv_getM (fl_X1_110 hH) ev7 lv7 dX1_lend_56 ?_
    refine vv_iload_n dX1_lend_59 rfl 1 rfl ?_
    replace h := aI_o h; obtain ⟨v8, fv8, nv8, qv8, ev8, iv8, wv8, h⟩ := h
    refine vv_iald ev8 iv8 dX1_lend_60 ?_
    rw [wv8]
    refine vv_iload dX1_lend_61 4 rfl ?_
    refine vv_isub dX1_lend_63 ?_
    replace h := sI_o h; obtain ⟨σ9, nσ9, qσ9, eσ9, iσ9, uσ9, h⟩ := h
    refine vv_iast eσ9 iσ9 dX1_lend_64 ?_
    refine vv_sg uσ9 ?_
    refine vv_aload_n dX1_lend_65 rfl 2 rfl ?_
    refine vv_iload_n dX1_lend_66 rfl 1 rfl ?_
    replace h := isO_o h; obtain ⟨fz11, sz11, ez11, h⟩ := h
    replace h := bd_o h; obtain ⟨r10, er10, h⟩ := h
    refine vv_callV ok_X3_odds q1281 (m_KX3_odds hG hH hfo er10 d) rfl (by omega) ⟨_, _, _, _, _, ez11, by rw [hG.1]; rfl⟩ rfl rfl (Nat.le_of_ble_eq_true rfl) dX1_lend_67 ?_
    refine vv_bipush (v := (nI 7)) dX1_lend_70 (by decide) ?_
    refine vv_icmp_lt (tgt := 78) dX1_lend_72 (by decide) (fun c12 => ?_) (fun c12 => ?_)
    · rw [if_pos c12] at h
      exact v_KX1_lend_78 hG hH hfo hk33 h
    · rw [if_neg c12] at h
      refine vv_iload dX1_lend_75 4 rfl ?_
      refine vv_istore_n (lv' := [(0, .ref x0), (1, .int x1), (2, .ref x2), (3, .int x4), (4, .int x4)]) dX1_lend_77 rfl (by decide) [1, 2, 3, 0, 4] rfl ?_
      exact v_KX1_lend_78 hG hH hfo hk33 h
theorem v_KX1_lend_33 {l : Launch} {G : vv_G} {d : Nat} {ad : Nat → Nat} {fo : Nat → Nat → vv_S → Option Int32} (hG : vv_gok G) (hH : vv_hy l G ad) (hfo : ∀ {a vs : Nat} {σ : vv_S} {r : Int32}, fo a vs σ = some r → vv_Form l G d a vs σ r) : ∀ (n : Nat) {x0 : Nat} {x1 : Int32} {x2 : Nat} {x3 : Int32} {x4 : Int32} {σ : vv_S} {r : hX (Int32 × vv_S)}, KX1_lend_33 fo n x0 x1 x2 x3 x4 σ = some r → vv_V l G MX1_lend (d + 10) 33 [(0, .ref x0), (1, .int x1), (2, .ref x2), (3, .int x3), (4, .int x4)] [] σ (xI r) := by
  intro n
  induction n with
  | zero => intro _ _ _ _ _ _ _ h; cases h
  | succ n ih => intro _ _ _ _ _ _ _ h; exact vb_KX1_lend_33 hG hH hfo ih h
def KX1_lend (fo : Nat → Nat → vv_S → Option Int32) (x0 : Nat) (x1 : Int32) (σ : vv_S) : Option (hX (Int32 × vv_S)) := (isO σ x0 0).bind fun _ => (KX1_aTown x0 x1 σ).bind fun r1 => xb r1 fun r3 => (gR r3 x0 0 2).bind fun v4 => (isO r3 v4 2).bind fun _ => (KX3_odds fo v4 x1 r3).bind fun r5 => if (nI 7) ≤ r5.1 then ((gR r5.2 x0 0 2).bind fun v8 => (isO r5.2 v8 2).bind fun _ => (KX3_copy v8 r5.2).bind fun r9 => KX1_lend_33 fo NN x0 x1 r9.1 (nI 0) (nI 0) r9.2) else (some (.inl ((-1), r5.2)))
theorem v_KX1_lend_0 {l : Launch} {G : vv_G} {d : Nat} {ad : Nat → Nat} {fo : Nat → Nat → vv_S → Option Int32} (hG : vv_gok G) (hH : vv_hy l G ad) (hfo : ∀ {a vs : Nat} {σ : vv_S} {r : Int32}, fo a vs σ = some r → vv_Form l G d a vs σ r) {x0 : Nat} {x1 : Int32} {σ : vv_S} {r : hX (Int32 × vv_S)} (h : KX1_lend fo x0 x1 σ = some r) : vv_V l G MX1_lend (d + 10) 0 [(0, .ref x0), (1, .int x1)] [] σ (xI r) := by
  unfold KX1_lend at h
  refine vv_aload_n dX1_lend_0 rfl 0 rfl ?_
  refine vv_iload_n dX1_lend_1 rfl 1 rfl ?_
  replace h := isO_o h; obtain ⟨fz2, sz2, ez2, h⟩ := h
  replace h := bd_o h; obtain ⟨r1, er1, h⟩ := h
  rcases r1 with r3 | r3x
  · refine vv_callV ok_X1_aTown q1273 (m_KX1_aTown hG hH er1 d) rfl (by omega) ⟨_, _, _, _, _, ez2, by rw [hG.1]; rfl⟩ rfl rfl (Nat.le_of_ble_eq_true rfl) dX1_lend_2 ?_
    replace h := xb_l h
    refine vv_aload_n dX1_lend_5 rfl 0 rfl ?_
    replace h := gR_o h; obtain ⟨v4, fv4, sv4, ev4, lv4, h⟩ := h
    refine vv_get (fl_X1_31 hG) ev4 lv4 dX1_lend_6 ?_
    refine vv_iload_n dX1_lend_9 rfl 1 rfl ?_
    replace h := isO_o h; obtain ⟨fz6, sz6, ez6, h⟩ := h
    replace h := bd_o h; obtain ⟨r5, er5, h⟩ := h
    refine vv_callV ok_X3_odds q1281 (m_KX3_odds hG hH hfo er5 d) rfl (by omega) ⟨_, _, _, _, _, ez6, by rw [hG.1]; rfl⟩ rfl rfl (Nat.le_of_ble_eq_true rfl) dX1_lend_10 ?_
    refine vv_bipush (v := (nI 7)) dX1_lend_13 (by decide) ?_
    refine vv_icmp_ge (tgt := 20) dX1_lend_15 (by decide) (fun c7 => ?_) (fun c7 => ?_)
    · rw [if_pos c7] at h
      refine vv_aload_n dX1_lend_20 rfl 0 rfl ?_
      replace h := gR_o h; obtain ⟨v8, fv8, sv8, ev8, lv8, h⟩ := h
      refine vv_get (fl_X1_31 hG) ev8 lv8 dX1_lend_21 ?_
      replace h := isO_o h; obtain ⟨fz10, sz10, ez10, h⟩ := h
      replace h := bd_o h; obtain ⟨r9, er9, h⟩ := h
      refine vv_callV ok_X3_copy q346 (m_KX3_copy hG hH er9 d) rfl (by omega) ⟨_, _, _, _, _, ez10, by rw [hG.1]; rfl⟩ rfl rfl (Nat.le_of_ble_eq_true rfl) dX1_lend_24 ?_
      refine vv_astore_n (lv' := [(0, .ref x0), (1, .int x1), (2, .ref r9.1)]) dX1_lend_27 rfl (by decide) [1, 2, 0] rfl ?_
      refine vv_iconst (v := (nI 0)) dX1_lend_28 (by decide) ?_
      refine vv_istore_n (lv' := [(0, .ref x0), (1, .int x1), (2, .ref r9.1), (3, .int (nI 0))]) dX1_lend_29 rfl (by decide) [1, 2, 3, 0] rfl ?_
      refine vv_iconst (v := (nI 0)) dX1_lend_30 (by decide) ?_
      refine vv_istore (lv' := [(0, .ref x0), (1, .int x1), (2, .ref r9.1), (3, .int (nI 0)), (4, .int (nI 0))]) dX1_lend_31 (by decide) [1, 2, 3, 4, 0] rfl ?_
      exact v_KX1_lend_33 hG hH hfo NN h
    · rw [if_neg c7] at h
      refine vv_iconst (v := (-1)) dX1_lend_18 (by decide) ?_
      cases h
      exact vv_iret rfl dX1_lend_19
  · cases h
    exact vv_callVX ok_X1_aTown q1273 (m_KX1_aTown hG hH er1 d) rfl (by omega) ⟨_, _, _, _, _, ez2, by rw [hG.1]; rfl⟩ rfl rfl (Nat.le_of_ble_eq_true rfl) dX1_lend_2 (vv_Tout (by intro x hx; cases hx))
theorem m_KX1_lend {l : Launch} {G : vv_G} {d : Nat} {ad : Nat → Nat} {fo : Nat → Nat → vv_S → Option Int32} (hG : vv_gok G) (hH : vv_hy l G ad) (hfo : ∀ {a vs : Nat} {σ : vv_S} {r : Int32}, fo a vs σ = some r → vv_Form l G d a vs σ r) {x0 : Nat} {x1 : Int32} {σ : vv_S} {r : hX (Int32 × vv_S)} (h : KX1_lend fo x0 x1 σ = some r) (d9 : Nat) (e9 : d9 = d := by rfl) : vv_Met l G MX1_lend (d9 + 10) [.ref x0, .int x1] σ (xI r) := by
  subst e9
  exact vv_head (by decide +kernel) rfl (Nat.le_of_ble_eq_true rfl) rfl (v_KX1_lend_0 hG hH hfo h)
/-! ('X2', 'isJoined') -/
def BKX2_isJoined_2 (k2 : Nat → Int32 → Int32 → Int32 → vv_S → Option Int32) (x0 : Nat) (x1 : Int32) (x2 : Int32) (x3 : Int32) (σ : vv_S) : Option Int32 := (gR σ x0 1 2).bind fun v1 => (isO σ v1 11).bind fun _ => (KJ2_size v1 σ).bind fun r2 => if r2 ≤ x3 then (some (nI 0)) else ((gR σ x0 1 2).bind fun v5 => (isO σ v5 11).bind fun _ => (KJ2_get v5 x3 σ).bind fun r6 => (isO σ r6 6).bind fun _ => (isO σ r6 6).bind fun _ => (KX7_from r6 x1 σ).bind fun r9 => if r9 = x2 then (some (nI 1)) else (k2 x0 x1 x2 (x3 + (nI 1)) σ))
def KX2_isJoined_2 : Nat → Nat → Int32 → Int32 → Int32 → vv_S → Option Int32
  | 0, _, _, _, _, _ => none
  | n + 1, x0, x1, x2, x3, σ => BKX2_isJoined_2 (KX2_isJoined_2 n) x0 x1 x2 x3 σ
theorem vb_KX2_isJoined_2 {l : Launch} {G : vv_G} {d : Nat} {ad : Nat → Nat} (hG : vv_gok G) (hH : vv_hy l G ad) {k2 : Nat → Int32 → Int32 → Int32 → vv_S → Option Int32} (hk2 : ∀ {x0 : Nat} {x1 : Int32} {x2 : Int32} {x3 : Int32} {σ : vv_S} {r : Int32}, k2 x0 x1 x2 x3 σ = some r → vv_V l G MX2_isJoined (d + 3) 2 [(0, .ref x0), (1, .int x1), (2, .int x2), (3, .int x3)] [] σ (.inl (some (.int r)), σ)) {x0 : Nat} {x1 : Int32} {x2 : Int32} {x3 : Int32} {σ : vv_S} {r : Int32} (h : BKX2_isJoined_2 k2 x0 x1 x2 x3 σ = some r) : vv_V l G MX2_isJoined (d + 3) 2 [(0, .ref x0), (1, .int x1), (2, .int x2), (3, .int x3)] [] σ (.inl (some (.int r)), σ) := by
  unfold BKX2_isJoined_2 at h
  refine vv_iload_n dX2_isJoined_2 rfl 3 rfl ?_
  refine vv_aload_n dX2_isJoined_3 rfl 0 rfl ?_
  replace h := gR_o h; obtain ⟨v1, fv1, sv1, ev1, lv1, h⟩ := h
  refine vv_get (fl_X2_21 hG) ev1 lv1 dX2_isJoined_4 ?_
  replace h := isO_o h; obtain ⟨fz3, sz3, ez3, h⟩ := h
  replace h := bd_o h; obtain ⟨r2, er2, h⟩ := h
  refine vv_callF (xx := ⟨"java/util/List", "size", "()I"⟩) okf_J2_size q476 (m_KJ2_size hG hH er2 d) rfl (by omega) ⟨_, _, _, _, _, ez3, by rw [hG.1]; rfl⟩ q429 (fun U hK => hH.1.2.2.1 U hK _ (List.mem_of_getElem? (i := 1) rfl)) ⟨by decide, by decide, by decide +kernel⟩ rfl rfl (Nat.le_of_ble_eq_true rfl) dX2_isJoined_7 ?_
  refine vv_icmp_ge (tgt := 44) dX2_isJoined_12 (by decide) (fun c4 => ?_) (fun c4 => ?_)
  · rw [if_pos c4] at h
    refine vv_iconst (v := (nI 0)) dX2_isJoined_44 (by decide) ?_
    cases h
    exact vv_zret rfl (by decide) dX2_isJoined_45
  · rw [if_neg c4] at h
    refine vv_aload_n dX2_isJoined_15 rfl 0 rfl ?_
    replace h := gR_o h; obtain ⟨v5, fv5, sv5, ev5, lv5, h⟩ := h
    refine vv_get (fl_X2_21 hG) ev5 lv5 dX2_isJoined_16 ?_
    refine vv_iload_n dX2_isJoined_19 rfl 3 rfl ?_
    replace h := isO_o h; obtain ⟨fz7, sz7, ez7, h⟩ := h
    replace h := bd_o h; obtain ⟨r6, er6, h⟩ := h
    refine vv_callF (xx := ⟨"java/util/List", "get", "(I)Ljava/lang/Object;"⟩) okf_J2_get q650 (m_KJ2_get hG hH er6 d) rfl (by omega) ⟨_, _, _, _, _, ez7, by rw [hG.1]; rfl⟩ q481 (fun U hK => hH.1.2.2.1 U hK _ (List.mem_of_getElem? (i := 3) rfl)) ⟨by decide, by decide, by decide +kernel⟩ rfl rfl (Nat.le_of_ble_eq_true rfl) dX2_isJoined_20 ?_
    replace h := isO_o h; obtain ⟨fz8, sz8, ez8, h⟩ := h
    refine vv_cast ez8 ⟨_, _, by rw [hG.1]; rfl⟩ q651 (Or.inl rfl) dX2_isJoined_25 ?_
    refine vv_iload_n dX2_isJoined_28 rfl 1 rfl ?_
    replace h := isO_o h; obtain ⟨fz10, sz10, ez10, h⟩ := h
    replace h := bd_o h; obtain ⟨r9, er9, h⟩ := h
    refine vv_callV ok_X7_from q1014 (m_KX7_from hG hH er9 d) rfl (by omega) ⟨_, _, _, _, _, ez10, by rw [hG.1]; rfl⟩ rfl rfl (Nat.le_of_ble_eq_true rfl) dX2_isJoined_29 ?_
    refine vv_iload_n dX2_isJoined_32 rfl 2 rfl ?_
    refine vv_icmp_ne (tgt := 38) dX2_isJoined_33 (by decide) (fun c11 => ?_) (fun c11 => ?_)
    · rw [if_neg c11] at h
      refine vv_iinc (v := (x3 + (nI 1))) (lv' := [(0, .ref x0), (1, .int x1), (2, .int x2), (3, .int (x3 + (nI 1)))]) dX2_isJoined_38 3 rfl rfl (by decide) [1, 2, 3, 0] rfl ?_
      refine vv_goto (tgt := 2) dX2_isJoined_41 (by decide) ?_
      exact hk2 h
    · rw [if_pos c11] at h
      refine vv_iconst (v := (nI 1)) dX2_isJoined_36 (by decide) ?_
      cases h
      exact vv_zret rfl (by decide) dX2_isJoined_37
theorem v_KX2_isJoined_2 {l : Launch} {G : vv_G} {d : Nat} {ad : Nat → Nat} (hG : vv_gok G) (hH : vv_hy l G ad) : ∀ (n : Nat) {x0 : Nat} {x1 : Int32} {x2 : Int32} {x3 : Int32} {σ : vv_S} {r : Int32}, KX2_isJoined_2 n x0 x1 x2 x3 σ = some r → vv_V l G MX2_isJoined (d + 3) 2 [(0, .ref x0), (1, .int x1), (2, .int x2), (3, .int x3)] [] σ (.inl (some (.int r)), σ) := by
  intro n
  induction n with
  | zero => intro _ _ _ _ _ _ h; cases h
  | succ n ih => intro _ _ _ _ _ _ h; exact vb_KX2_isJoined_2 hG hH ih h
def KX2_isJoined (x0 : Nat) (x1 : Int32) (x2 : Int32) (σ : vv_S) : Option Int32 := KX2_isJoined_2 NN x0 x1 x2 (nI 0) σ
theorem v_KX2_isJoined_0 {l : Launch} {G : vv_G} {d : Nat} {ad : Nat → Nat} (hG : vv_gok G) (hH : vv_hy l G ad) {x0 : Nat} {x1 : Int32} {x2 : Int32} {σ : vv_S} {r : Int32} (h : KX2_isJoined x0 x1 x2 σ = some r) : vv_V l G MX2_isJoined (d + 3) 0 [(0, .ref x0), (1, .int x1), (2, .int x2)] [] σ (.inl (some (.int r)), σ) := by
  unfold KX2_isJoined at h
  refine vv_iconst (v := (nI 0)) dX2_isJoined_0 (by decide) ?_
  refine vv_istore_n (lv' := [(0, .ref x0), (1, .int x1), (2, .int x2), (3, .int (nI 0))]) dX2_isJoined_1 rfl (by decide) [1, 2, 3, 0] rfl ?_
  exact v_KX2_isJoined_2 hG hH NN h
theorem m_KX2_isJoined {l : Launch} {G : vv_G} {ad : Nat → Nat} (hG : vv_gok G) (hH : vv_hy l G ad) {x0 : Nat} {x1 : Int32} {x2 : Int32} {σ : vv_S} {r : Int32} (h : KX2_isJoined x0 x1 x2 σ = some r) (d : Nat) : vv_Met l G MX2_isJoined (d + 3) [.ref x0, .int x1, .int x2] σ (.inl (some (.int r)), σ) := vv_head (by decide +kernel) rfl (Nat.le_of_ble_eq_true rfl) rfl (v_KX2_isJoined_0 hG hH h)
/-! ('X5', 'init') -/
def KX5_init (ad : Nat → Nat) (x0 : Nat) (x1 : Nat) (x2 : Int32) (σ : vv_S) : Option vv_S := (pF σ x0 4 9 (.ref x1)).bind fun σ1 => (some (nwO σ1 1 [.null, .null, .null, .int 0, .null] 5)).bind fun σ2 => (KX2_init ad σ1.2.1 σ2).bind fun r3 => (pF r3 x0 4 1 (.ref σ1.2.1)).bind fun σ4 => (some (nwO σ4 2 [.null, .null, .null, .null, .null, .null, .null, .null, .null, .int 0, .int 0, .null] 12)).bind fun σ5 => (gR σ5 x0 4 9).bind fun v6 => (KX3_init σ4.2.1 v6 σ5).bind fun r7 => (pF r7 x0 4 2 (.ref σ4.2.1)).bind fun σ8 => (nwQ σ8 "java/lang/String" (nI 6)).bind fun σ9 => (sQ σ9 σ8.2.1 (nI 0) (ad 10)).bind fun σ10 => (sQ σ10 σ8.2.1 (nI 1) (ad 11)).bind fun σ11 => (sQ σ11 σ8.2.1 (nI 2) (ad 12)).bind fun σ12 => (sQ σ12 σ8.2.1 (nI 3) (ad 13)).bind fun σ13 => (sQ σ13 σ8.2.1 (nI 4) (ad 14)).bind fun σ14 => (sQ σ14 σ8.2.1 (nI 5) (ad 15)).bind fun σ15 => (pF σ15 x0 4 3 (.ref σ8.2.1)).bind fun σ16 => (pF σ16 x0 4 0 (.int x2)).bind fun σ17 => some σ17
theorem v_KX5_init_0 {l : Launch} {G : vv_G} {d : Nat} {ad : Nat → Nat} (hG : vv_gok G) (hH : vv_hy l G ad) {x0 : Nat} {x1 : Nat} {x2 : Int32} {σ : vv_S} {r : vv_S} (h : KX5_init ad x0 x1 x2 σ = some r) : vv_V l G MX5_init (d + 5) 0 [(0, .ref x0), (1, .ref x1), (2, .int x2)] [] σ (.inl none, r) := by
  unfold KX5_init at h
  refine vv_aload_n dX5_init_0 rfl 0 rfl ?_
  refine vv_aload_n dX5_init_1 rfl 1 rfl ?_
  replace h := pF_o h; obtain ⟨σ1, sσ1, eσ1, lσ1, uσ1, h⟩ := h
  refine vv_putf (pt_X5_3 hG) (Or.inl rfl) eσ1 rfl rfl lσ1 dX5_init_2 ?_
  refine vv_sg uσ1 ?_
  refine vv_aload_n dX5_init_5 rfl 0 rfl ?_
  refine vv_objinit q772 q149 q150 (by omega) (Nat.le_of_ble_eq_true rfl) dX5_init_6 ?_
  refine vv_aload_n dX5_init_9 rfl 0 rfl ?_
  obtain ⟨σ2, uσ2, h⟩ := bd_s h
  refine vv_new (nw_X5_15 hG) dX5_init_10 ?_
  refine vv_sg uσ2 ?_
  refine vv_dup dX5_init_13 rfl ?_
  replace h := bd_o h; obtain ⟨r3, er3, h⟩ := h
  refine vv_callIN ok_X2_init (fun U hK => hH.1.2.1 U hK _ q774 rfl) (m_KX2_init hG hH er3 d) rfl (by omega) rfl rfl (Nat.le_of_ble_eq_true rfl) dX5_init_14 ?_
  replace h := pF_o h; obtain ⟨σ4, sσ4, eσ4, lσ4, uσ4, h⟩ := h
  refine vv_putf (pt_X5_18 hG) (Or.inl rfl) eσ4 rfl rfl lσ4 dX5_init_17 ?_
  refine vv_sg uσ4 ?_
  refine vv_aload_n dX5_init_20 rfl 0 rfl ?_
  obtain ⟨σ5, uσ5, h⟩ := bd_s h
  refine vv_new (nw_X5_22 hG) dX5_init_21 ?_
  refine vv_sg uσ5 ?_
  refine vv_dup dX5_init_24 rfl ?_
  refine vv_aload_n dX5_init_25 rfl 0 rfl ?_
  replace h := gR_o h; obtain ⟨v6, fv6, sv6, ev6, lv6, h⟩ := h
  refine vv_get (fl_X5_3 hG) ev6 lv6 dX5_init_26 ?_
  replace h := bd_o h; obtain ⟨r7, er7, h⟩ := h
  refine vv_callIN ok_X3_init (fun U hK => hH.1.2.1 U hK _ q776 rfl) (m_KX3_init hG hH er7 d) rfl (by omega) rfl rfl (Nat.le_of_ble_eq_true rfl) dX5_init_29 ?_
  replace h := pF_o h; obtain ⟨σ8, sσ8, eσ8, lσ8, uσ8, h⟩ := h
  refine vv_putf (pt_X5_27 hG) (Or.inl rfl) eσ8 rfl rfl lσ8 dX5_init_32 ?_
  refine vv_sg uσ8 ?_
  refine vv_aload_n dX5_init_35 rfl 0 rfl ?_
  refine vv_bipush (v := (nI 6)) dX5_init_36 (by decide) ?_
  replace h := nQ_o h; obtain ⟨σ9, aσ9, bσ9, uσ9, h⟩ := h
  refine vv_newq (by rw [hG.2]; decide) q777 (fun U hK => hH.1.2.1 U hK _ q778 rfl) aσ9 rfl (by omega) dX5_init_38 ?_
  refine vv_sg uσ9 ?_
  refine vv_dup dX5_init_41 rfl ?_
  refine vv_iconst (v := (nI 0)) dX5_init_42 (by decide) ?_
  refine vv_lds (st_0 hH) dX5_init_43 ?_
  replace h := sQ_o h; obtain ⟨σ10, tσ10, nσ10, qσ10, wσ10, eσ10, fσ10, gσ10, iσ10, uσ10, h⟩ := h
  refine vv_aast eσ10 fσ10 (anyE_any hH.1 gσ10) iσ10 dX5_init_45 ?_
  refine vv_sg uσ10 ?_
  refine vv_dup dX5_init_46 rfl ?_
  refine vv_iconst (v := (nI 1)) dX5_init_47 (by decide) ?_
  refine vv_lds (st_1 hH) dX5_init_48 ?_
  replace h := sQ_o h; obtain ⟨σ11, tσ11, nσ11, qσ11, wσ11, eσ11, fσ11, gσ11, iσ11, uσ11, h⟩ := h
  refine vv_aast eσ11 fσ11 (anyE_any hH.1 gσ11) iσ11 dX5_init_50 ?_
  refine vv_sg uσ11 ?_
  refine vv_dup dX5_init_51 rfl ?_
  refine vv_iconst (v := (nI 2)) dX5_init_52 (by decide) ?_
  refine vv_lds (st_2 hH) dX5_init_53 ?_
  replace h := sQ_o h; obtain ⟨σ12, tσ12, nσ12, qσ12, wσ12, eσ12, fσ12, gσ12, iσ12, uσ12, h⟩ := h
  refine vv_aast eσ12 fσ12 (anyE_any hH.1 gσ12) iσ12 dX5_init_55 ?_
  refine vv_sg uσ12 ?_
  refine vv_dup dX5_init_56 rfl ?_
  refine vv_iconst (v := (nI 3)) dX5_init_57 (by decide) ?_
  refine vv_lds (st_3 hH) dX5_init_58 ?_
  replace h := sQ_o h; obtain ⟨σ13, tσ13, nσ13, qσ13, wσ13, eσ13, fσ13, gσ13, iσ13, uσ13, h⟩ := h
  refine vv_aast eσ13 fσ13 (anyE_any hH.1 gσ13) iσ13 dX5_init_60 ?_
  refine vv_sg uσ13 ?_
  refine vv_dup dX5_init_61 rfl ?_
  refine vv_iconst (v := (nI 4)) dX5_init_62 (by decide) ?_
  refine vv_lds (st_4 hH) dX5_init_63 ?_
  replace h := sQ_o h; obtain ⟨σ14, tσ14, nσ14, qσ14, wσ14, eσ14, fσ14, gσ14, iσ14, uσ14, h⟩ := h
  refine vv_aast eσ14 fσ14 (anyE_any hH.1 gσ14) iσ14 dX5_init_65 ?_
  refine vv_sg uσ14 ?_
  refine vv_dup dX5_init_66 rfl ?_
  refine vv_iconst (v := (nI 5)) dX5_init_67 (by decide) ?_
  refine vv_lds (st_5 hH) dX5_init_68 ?_
  replace h := sQ_o h; obtain ⟨σ15, tσ15, nσ15, qσ15, wσ15, eσ15, fσ15, gσ15, iσ15, uσ15, h⟩ := h
  refine vv_aast eσ15 fσ15 (anyE_any hH.1 gσ15) iσ15 dX5_init_70 ?_
  refine vv_sg uσ15 ?_
  replace h := pF_o h; obtain ⟨σ16, sσ16, eσ16, lσ16, uσ16, h⟩ := h
  refine vv_putf (pt_X5_45 hG) (Or.inl rfl) eσ16 rfl rfl lσ16 dX5_init_71 ?_
  refine vv_sg uσ16 ?_
  refine vv_aload_n dX5_init_74 rfl 0 rfl ?_
  refine vv_iload_n dX5_init_75 rfl 2 rfl ?_
  replace h := pF_o h; obtain ⟨σ17, sσ17, eσ17, lσ17, uσ17, h⟩ := h
  refine vv_putf (pt_X5_49 hG) (Or.inl rfl) eσ17 rfl rfl lσ17 dX5_init_76 ?_
  refine vv_sg uσ17 ?_
  cases h
  exact vv_vret rfl dX5_init_79
theorem m_KX5_init {l : Launch} {G : vv_G} {ad : Nat → Nat} (hG : vv_gok G) (hH : vv_hy l G ad) {x0 : Nat} {x1 : Nat} {x2 : Int32} {σ : vv_S} {r : vv_S} (h : KX5_init ad x0 x1 x2 σ = some r) (d : Nat) : vv_Met l G MX5_init (d + 5) [.ref x0, .ref x1, .int x2] σ (.inl none, r) := vv_head (by decide +kernel) rfl (Nat.le_of_ble_eq_true rfl) rfl (v_KX5_init_0 hG hH h)
/-! ('X5', 'here') -/
def KX5_here_31 (s0 : Int32) (σ : vv_S) : Option Int32 := some s0
theorem v_KX5_here_31 {l : Launch} {G : vv_G} {d : Nat} {ad : Nat → Nat} (hG : vv_gok G) (hH : vv_hy l G ad) {s0 : Int32} {σ : vv_S} {r : Int32} (h : KX5_here_31 s0 σ = some r) : vv_V l G MX5_here (d + 0) 31 [] [.int s0] σ (.inl (some (.int r)), σ) := by
  unfold KX5_here_31 at h
  cases h
  exact vv_iret rfl dX5_here_31
def KX5_here (x0 : Nat) (σ : vv_S) : Option Int32 := (gI σ x0 4 4).bind fun v1 => (gI σ x0 4 0).bind fun v2 => if v2 ≤ v1 then (KX5_here_31 (-1) σ) else ((gR σ x0 4 9).bind fun v4 => (gR σ v4 0 3).bind fun v5 => (gI σ x0 4 4).bind fun v6 => (aI σ .byte v5 v6).bind fun v7 => KX5_here_31 (v7 &&& (nI 255)) σ)
theorem v_KX5_here_0 {l : Launch} {G : vv_G} {d : Nat} {ad : Nat → Nat} (hG : vv_gok G) (hH : vv_hy l G ad) {x0 : Nat} {σ : vv_S} {r : Int32} (h : KX5_here x0 σ = some r) : vv_V l G MX5_here (d + 0) 0 [(0, .ref x0)] [] σ (.inl (some (.int r)), σ) := by
  unfold KX5_here at h
  refine vv_aload_n dX5_here_0 rfl 0 rfl ?_
  replace h := gI_o h; obtain ⟨v1, fv1, sv1, ev1, lv1, h⟩ := h
  refine vv_get (fl_X5_53 hG) ev1 lv1 dX5_here_1 ?_
  refine vv_aload_n dX5_here_4 rfl 0 rfl ?_
  replace h := gI_o h; obtain ⟨v2, fv2, sv2, ev2, lv2, h⟩ := h
  refine vv_get (fl_X5_49 hG) ev2 lv2 dX5_here_5 ?_
  refine vv_icmp_ge (tgt := 30) dX5_here_8 (by decide) (fun c3 => ?_) (fun c3 => ?_)
  · rw [if_pos c3] at h
    refine vv_iconst (v := (-1)) dX5_here_30 (by decide) ?_
    refine vv_sub (lv' := []) [] rfl ?_
    exact v_KX5_here_31 hG hH h
  · rw [if_neg c3] at h
    refine vv_aload_n dX5_here_11 rfl 0 rfl ?_
    replace h := gR_o h; obtain ⟨v4, fv4, sv4, ev4, lv4, h⟩ := h
    refine vv_get (fl_X5_3 hG) ev4 lv4 dX5_here_12 ?_
    replace h := gR_o h; obtain ⟨v5, fv5, sv5, ev5, lv5, h⟩ := h
    refine vv_getM (fl_X5_56 hH) ev5 lv5 dX5_here_15 ?_
    refine vv_aload_n dX5_here_18 rfl 0 rfl ?_
    replace h := gI_o h; obtain ⟨v6, fv6, sv6, ev6, lv6, h⟩ := h
    refine vv_get (fl_X5_53 hG) ev6 lv6 dX5_here_19 ?_
    replace h := aI_o h; obtain ⟨v7, fv7, nv7, qv7, ev7, iv7, wv7, h⟩ := h
    refine vv_bald ev7 iv7 dX5_here_22 ?_
    rw [wv7]
    refine vv_sipush (v := (nI 255)) dX5_here_23 (by decide) ?_
    refine vv_iand dX5_here_26 ?_
    refine vv_goto (tgt := 31) dX5_here_27 (by decide) ?_
    refine vv_sub (lv' := []) [] rfl ?_
    exact v_KX5_here_31 hG hH h
theorem m_KX5_here {l : Launch} {G : vv_G} {ad : Nat → Nat} (hG : vv_gok G) (hH : vv_hy l G ad) {x0 : Nat} {σ : vv_S} {r : Int32} (h : KX5_here x0 σ = some r) (d : Nat) : vv_Met l G MX5_here (d + 0) [.ref x0] σ (.inl (some (.int r)), σ) := vv_head (by decide +kernel) rfl (Nat.le_of_ble_eq_true rfl) rfl (v_KX5_here_0 hG hH h)
/-! ('X5', 'isLetter') -/
def KX5_isLetter (x0 : Nat) (σ : vv_S) : Option Int32 := (isO σ x0 4).bind fun _ => (KX5_here x0 σ).bind fun r1 => (KX1_in r1 (nI 97) (nI 122)).bind fun r3 => (zrI r3).bind fun v4 => some v4
theorem v_KX5_isLetter_0 {l : Launch} {G : vv_G} {d : Nat} {ad : Nat → Nat} (hG : vv_gok G) (hH : vv_hy l G ad) {x0 : Nat} {σ : vv_S} {r : Int32} (h : KX5_isLetter x0 σ = some r) : vv_V l G MX5_isLetter (d + 1) 0 [(0, .ref x0)] [] σ (.inl (some (.int r)), σ) := by
  unfold KX5_isLetter at h
  refine vv_aload_n dX5_isLetter_0 rfl 0 rfl ?_
  replace h := isO_o h; obtain ⟨fz2, sz2, ez2, h⟩ := h
  replace h := bd_o h; obtain ⟨r1, er1, h⟩ := h
  refine vv_callV ok_X5_here q826 (m_KX5_here hG hH er1 d) rfl (by omega) ⟨_, _, _, _, _, ez2, by rw [hG.1]; rfl⟩ rfl rfl (Nat.le_of_ble_eq_true rfl) dX5_isLetter_1 ?_
  refine vv_bipush (v := (nI 97)) dX5_isLetter_4 (by decide) ?_
  refine vv_bipush (v := (nI 122)) dX5_isLetter_6 (by decide) ?_
  replace h := bd_o h; obtain ⟨r3, er3, h⟩ := h
  refine vv_callSN ok_X1_in (fun U hK => hH.1.2.1 U hK _ q834 rfl) (m_KX1_in hG hH er3 d) rfl (by omega) rfl rfl (Nat.le_of_ble_eq_true rfl) dX5_isLetter_8 ?_
  replace h := zr_o h; obtain ⟨zv4, h⟩ := h
  cases h
  exact vv_zret rfl zv4 dX5_isLetter_11
theorem m_KX5_isLetter {l : Launch} {G : vv_G} {ad : Nat → Nat} (hG : vv_gok G) (hH : vv_hy l G ad) {x0 : Nat} {σ : vv_S} {r : Int32} (h : KX5_isLetter x0 σ = some r) (d : Nat) : vv_Met l G MX5_isLetter (d + 1) [.ref x0] σ (.inl (some (.int r)), σ) := vv_head (by decide +kernel) rfl (Nat.le_of_ble_eq_true rfl) rfl (v_KX5_isLetter_0 hG hH h)
/-! ('X5', 'isDigit') -/
def KX5_isDigit (x0 : Nat) (σ : vv_S) : Option Int32 := (isO σ x0 4).bind fun _ => (KX5_here x0 σ).bind fun r1 => (KX1_in r1 (nI 48) (nI 57)).bind fun r3 => (zrI r3).bind fun v4 => some v4
theorem v_KX5_isDigit_0 {l : Launch} {G : vv_G} {d : Nat} {ad : Nat → Nat} (hG : vv_gok G) (hH : vv_hy l G ad) {x0 : Nat} {σ : vv_S} {r : Int32} (h : KX5_isDigit x0 σ = some r) : vv_V l G MX5_isDigit (d + 1) 0 [(0, .ref x0)] [] σ (.inl (some (.int r)), σ) := by
  unfold KX5_isDigit at h
  refine vv_aload_n dX5_isDigit_0 rfl 0 rfl ?_
  replace h := isO_o h; obtain ⟨fz2, sz2, ez2, h⟩ := h
  replace h := bd_o h; obtain ⟨r1, er1, h⟩ := h
  refine vv_callV ok_X5_here q826 (m_KX5_here hG hH er1 d) rfl (by omega) ⟨_, _, _, _, _, ez2, by rw [hG.1]; rfl⟩ rfl rfl (Nat.le_of_ble_eq_true rfl) dX5_isDigit_1 ?_
  refine vv_bipush (v := (nI 48)) dX5_isDigit_4 (by decide) ?_
  refine vv_bipush (v := (nI 57)) dX5_isDigit_6 (by decide) ?_
  replace h := bd_o h; obtain ⟨r3, er3, h⟩ := h
  refine vv_callSN ok_X1_in (fun U hK => hH.1.2.1 U hK _ q834 rfl) (m_KX1_in hG hH er3 d) rfl (by omega) rfl rfl (Nat.le_of_ble_eq_true rfl) dX5_isDigit_8 ?_
  replace h := zr_o h; obtain ⟨zv4, h⟩ := h
  cases h
  exact vv_zret rfl zv4 dX5_isDigit_11
theorem m_KX5_isDigit {l : Launch} {G : vv_G} {ad : Nat → Nat} (hG : vv_gok G) (hH : vv_hy l G ad) {x0 : Nat} {σ : vv_S} {r : Int32} (h : KX5_isDigit x0 σ = some r) (d : Nat) : vv_Met l G MX5_isDigit (d + 1) [.ref x0] σ (.inl (some (.int r)), σ) := vv_head (by decide +kernel) rfl (Nat.le_of_ble_eq_true rfl) rfl (v_KX5_isDigit_0 hG hH h)
/-! ('X5', 'next') -/
def KX5_next_18 (ad : Nat → Nat) (k0 : Nat → vv_S → Option vv_S) (x0 : Nat) (σ : vv_S) : Option vv_S := (gI σ x0 4 4).bind fun v1 => (pF σ x0 4 4 (.int (v1 + (nI 1)))).bind fun σ2 => k0 x0 σ2
theorem v_KX5_next_18 {l : Launch} {G : vv_G} {d : Nat} {ad : Nat → Nat} (hG : vv_gok G) (hH : vv_hy l G ad) {k0 : Nat → vv_S → Option vv_S} (hk0 : ∀ {x0 : Nat} {σ : vv_S} {r : vv_S}, k0 x0 σ = some r → vv_V l G MX5_next (d + 4) 0 [(0, .ref x0)] [] σ (.inl none, r)) {x0 : Nat} {σ : vv_S} {r : vv_S} (h : KX5_next_18 ad k0 x0 σ = some r) : vv_V l G MX5_next (d + 4) 18 [(0, .ref x0)] [] σ (.inl none, r) := by
  unfold KX5_next_18 at h
  refine vv_aload_n dX5_next_18 rfl 0 rfl ?_
  refine vv_dup dX5_next_19 rfl ?_
  replace h := gI_o h; obtain ⟨v1, fv1, sv1, ev1, lv1, h⟩ := h
  refine vv_get (fl_X5_53 hG) ev1 lv1 dX5_next_20 ?_
  refine vv_iconst (v := (nI 1)) dX5_next_23 (by decide) ?_
  refine vv_iadd dX5_next_24 ?_
  replace h := pF_o h; obtain ⟨σ2, sσ2, eσ2, lσ2, uσ2, h⟩ := h
  refine vv_putf (pt_X5_53 hG) (Or.inr fun C T' N h9 => by rw [hG.1] at h9; cases h9; rfl) eσ2 rfl rfl lσ2 dX5_next_25 ?_
  refine vv_sg uσ2 ?_
  refine vv_goto (tgt := 0) dX5_next_28 (by decide) ?_
  exact hk0 h
def KX5_next_185 (ad : Nat → Nat) (x0 : Nat) (σ : vv_S) : Option vv_S := (gI σ x0 4 4).bind fun v1 => (pF σ x0 4 7 (.int v1)).bind fun σ2 => some σ2
theorem v_KX5_next_185 {l : Launch} {G : vv_G} {d : Nat} {ad : Nat → Nat} (hG : vv_gok G) (hH : vv_hy l G ad) {x0 : Nat} {σ : vv_S} {r : vv_S} (h : KX5_next_185 ad x0 σ = some r) : vv_V l G MX5_next (d + 4) 185 [(0, .ref x0)] [] σ (.inl none, r) := by
  unfold KX5_next_185 at h
  refine vv_aload_n dX5_next_185 rfl 0 rfl ?_
  refine vv_aload_n dX5_next_186 rfl 0 rfl ?_
  replace h := gI_o h; obtain ⟨v1, fv1, sv1, ev1, lv1, h⟩ := h
  refine vv_get (fl_X5_53 hG) ev1 lv1 dX5_next_187 ?_
  replace h := pF_o h; obtain ⟨σ2, sσ2, eσ2, lσ2, uσ2, h⟩ := h
  refine vv_putf (pt_X5_97 hG) (Or.inr fun C T' N h9 => by rw [hG.1] at h9; cases h9; rfl) eσ2 rfl rfl lσ2 dX5_next_190 ?_
  refine vv_sg uσ2 ?_
  cases h
  exact vv_vret rfl dX5_next_193
def KX5_next_172 (ad : Nat → Nat) (s0 : Nat) (s1 : Int32) (x0 : Nat) (σ : vv_S) : Option vv_S := (pF σ s0 4 5 (.int s1)).bind fun σ1 => (gI σ1 x0 4 4).bind fun v2 => (pF σ1 x0 4 4 (.int (v2 + (nI 1)))).bind fun σ3 => KX5_next_185 ad x0 σ3
theorem v_KX5_next_172 {l : Launch} {G : vv_G} {d : Nat} {ad : Nat → Nat} (hG : vv_gok G) (hH : vv_hy l G ad) {s0 : Nat} {s1 : Int32} {x0 : Nat} {σ : vv_S} {r : vv_S} (h : KX5_next_172 ad s0 s1 x0 σ = some r) : vv_V l G MX5_next (d + 4) 172 [(0, .ref x0)] [.int s1, .ref s0] σ (.inl none, r) := by
  unfold KX5_next_172 at h
  replace h := pF_o h; obtain ⟨σ1, sσ1, eσ1, lσ1, uσ1, h⟩ := h
  refine vv_putf (pt_X5_71 hG) (Or.inr fun C T' N h9 => by rw [hG.1] at h9; cases h9; rfl) eσ1 rfl rfl lσ1 dX5_next_172 ?_
  refine vv_sg uσ1 ?_
  refine vv_aload_n dX5_next_175 rfl 0 rfl ?_
  refine vv_dup dX5_next_176 rfl ?_
  replace h := gI_o h; obtain ⟨v2, fv2, sv2, ev2, lv2, h⟩ := h
  refine vv_get (fl_X5_53 hG) ev2 lv2 dX5_next_177 ?_
  refine vv_iconst (v := (nI 1)) dX5_next_180 (by decide) ?_
  refine vv_iadd dX5_next_181 ?_
  replace h := pF_o h; obtain ⟨σ3, sσ3, eσ3, lσ3, uσ3, h⟩ := h
  refine vv_putf (pt_X5_53 hG) (Or.inr fun C T' N h9 => by rw [hG.1] at h9; cases h9; rfl) eσ3 rfl rfl lσ3 dX5_next_182 ?_
  refine vv_sg uσ3 ?_
  exact v_KX5_next_185 hG hH h
def BKX5_next_102 (ad : Nat → Nat) (k102 : Nat → vv_S → Option vv_S) (x0 : Nat) (σ : vv_S) : Option vv_S := (isO σ x0 4).bind fun _ => (KX5_isDigit x0 σ).bind fun r1 => if r1 = 0 then ((pF σ x0 4 5 (.int (nI 2))).bind fun σ4 => KX5_next_185 ad x0 σ4) else ((gI σ x0 4 8).bind fun v5 => (isO σ x0 4).bind fun _ => (KX5_here x0 σ).bind fun r6 => (pF σ x0 4 8 (.int (mnI (nI 100000) ((((nI 10) * v5) + r6) - (nI 48))))).bind fun σ8 => (gI σ8 x0 4 4).bind fun v9 => (pF σ8 x0 4 4 (.int (v9 + (nI 1)))).bind fun σ10 => k102 x0 σ10)
def KX5_next_102 (ad : Nat → Nat) : Nat → Nat → vv_S → Option vv_S
  | 0, _, _ => none
  | n + 1, x0, σ => BKX5_next_102 ad (KX5_next_102 ad n) x0 σ
theorem vb_KX5_next_102 {l : Launch} {G : vv_G} {d : Nat} {ad : Nat → Nat} (hG : vv_gok G) (hH : vv_hy l G ad) {k102 : Nat → vv_S → Option vv_S} (hk102 : ∀ {x0 : Nat} {σ : vv_S} {r : vv_S}, k102 x0 σ = some r → vv_V l G MX5_next (d + 4) 102 [(0, .ref x0)] [] σ (.inl none, r)) {x0 : Nat} {σ : vv_S} {r : vv_S} (h : BKX5_next_102 ad k102 x0 σ = some r) : vv_V l G MX5_next (d + 4) 102 [(0, .ref x0)] [] σ (.inl none, r) := by
  unfold BKX5_next_102 at h
  refine vv_aload_n dX5_next_102 rfl 0 rfl ?_
  replace h := isO_o h; obtain ⟨fz2, sz2, ez2, h⟩ := h
  replace h := bd_o h; obtain ⟨r1, er1, h⟩ := h
  refine vv_callV ok_X5_isDigit q835 (m_KX5_isDigit hG hH er1 d) rfl (by omega) ⟨_, _, _, _, _, ez2, by rw [hG.1]; rfl⟩ rfl rfl (Nat.le_of_ble_eq_true rfl) dX5_next_103 ?_
  refine vv_if_eq (tgt := 146) dX5_next_106 (by decide) (fun c3 => ?_) (fun c3 => ?_)
  · rw [if_pos c3] at h
    refine vv_aload_n dX5_next_146 rfl 0 rfl ?_
    refine vv_iconst (v := (nI 2)) dX5_next_147 (by decide) ?_
    replace h := pF_o h; obtain ⟨σ4, sσ4, eσ4, lσ4, uσ4, h⟩ := h
    refine vv_putf (pt_X5_71 hG) (Or.inr fun C T' N h9 => by rw [hG.1] at h9; cases h9; rfl) eσ4 rfl rfl lσ4 dX5_next_148 ?_
    refine vv_sg uσ4 ?_
    refine vv_goto (tgt := 185) dX5_next_151 (by decide) ?_
    exact v_KX5_next_185 hG hH h
  · rw [if_neg c3] at h
    refine vv_aload_n dX5_next_109 rfl 0 rfl ?_
    refine vv_ldc (v := (nI 100000)) dX5_next_110 q839 ?_
    refine vv_bipush (v := (nI 10)) dX5_next_112 (by decide) ?_
    refine vv_aload_n dX5_next_114 rfl 0 rfl ?_
    replace h := gI_o h; obtain ⟨v5, fv5, sv5, ev5, lv5, h⟩ := h
    refine vv_get (fl_X5_81 hG) ev5 lv5 dX5_next_115 ?_
    refine vv_imul dX5_next_118 ?_
    refine vv_aload_n dX5_next_119 rfl 0 rfl ?_
    replace h := isO_o h; obtain ⟨fz7, sz7, ez7, h⟩ := h
    replace h := bd_o h; obtain ⟨r6, er6, h⟩ := h
    refine vv_callV ok_X5_here q826 (m_KX5_here hG hH er6 d) rfl (by omega) ⟨_, _, _, _, _, ez7, by rw [hG.1]; rfl⟩ rfl rfl (Nat.le_of_ble_eq_true rfl) dX5_next_120 ?_
    refine vv_iadd dX5_next_123 ?_
    refine vv_bipush (v := (nI 48)) dX5_next_124 (by decide) ?_
    refine vv_isub dX5_next_126 ?_
    refine vv_mmin q840 (by omega) (Nat.le_of_ble_eq_true rfl) dX5_next_127 ?_
    replace h := pF_o h; obtain ⟨σ8, sσ8, eσ8, lσ8, uσ8, h⟩ := h
    refine vv_putf (pt_X5_81 hG) (Or.inr fun C T' N h9 => by rw [hG.1] at h9; cases h9; rfl) eσ8 rfl rfl lσ8 dX5_next_130 ?_
    refine vv_sg uσ8 ?_
    refine vv_aload_n dX5_next_133 rfl 0 rfl ?_
    refine vv_dup dX5_next_134 rfl ?_
    replace h := gI_o h; obtain ⟨v9, fv9, sv9, ev9, lv9, h⟩ := h
    refine vv_get (fl_X5_53 hG) ev9 lv9 dX5_next_135 ?_
    refine vv_iconst (v := (nI 1)) dX5_next_138 (by decide) ?_
    refine vv_iadd dX5_next_139 ?_
    replace h := pF_o h; obtain ⟨σ10, sσ10, eσ10, lσ10, uσ10, h⟩ := h
    refine vv_putf (pt_X5_53 hG) (Or.inr fun C T' N h9 => by rw [hG.1] at h9; cases h9; rfl) eσ10 rfl rfl lσ10 dX5_next_140 ?_
    refine vv_sg uσ10 ?_
    refine vv_goto (tgt := 102) dX5_next_143 (by decide) ?_
    exact hk102 h
theorem v_KX5_next_102 {l : Launch} {G : vv_G} {d : Nat} {ad : Nat → Nat} (hG : vv_gok G) (hH : vv_hy l G ad) : ∀ (n : Nat) {x0 : Nat} {σ : vv_S} {r : vv_S}, KX5_next_102 ad n x0 σ = some r → vv_V l G MX5_next (d + 4) 102 [(0, .ref x0)] [] σ (.inl none, r) := by
  intro n
  induction n with
  | zero => intro _ _ _ h; cases h
  | succ n ih => intro _ _ _ h; exact vb_KX5_next_102 hG hH ih h
def BKX5_next_62 (ad : Nat → Nat) (k62 : Nat → vv_S → Option vv_S) (x0 : Nat) (σ : vv_S) : Option vv_S := (isO σ x0 4).bind fun _ => (KX5_isLetter x0 σ).bind fun r1 => if r1 = 0 then ((pF σ x0 4 5 (.int (nI 1))).bind fun σ4 => KX5_next_185 ad x0 σ4) else ((gI σ x0 4 4).bind fun v5 => (pF σ x0 4 4 (.int (v5 + (nI 1)))).bind fun σ6 => k62 x0 σ6)
def KX5_next_62 (ad : Nat → Nat) : Nat → Nat → vv_S → Option vv_S
  | 0, _, _ => none
  | n + 1, x0, σ => BKX5_next_62 ad (KX5_next_62 ad n) x0 σ
theorem vb_KX5_next_62 {l : Launch} {G : vv_G} {d : Nat} {ad : Nat → Nat} (hG : vv_gok G) (hH : vv_hy l G ad) {k62 : Nat → vv_S → Option vv_S} (hk62 : ∀ {x0 : Nat} {σ : vv_S} {r : vv_S}, k62 x0 σ = some r → vv_V l G MX5_next (d + 4) 62 [(0, .ref x0)] [] σ (.inl none, r)) {x0 : Nat} {σ : vv_S} {r : vv_S} (h : BKX5_next_62 ad k62 x0 σ = some r) : vv_V l G MX5_next (d + 4) 62 [(0, .ref x0)] [] σ (.inl none, r) := by
  unfold BKX5_next_62 at h
  refine vv_aload_n dX5_next_62 rfl 0 rfl ?_
  replace h := isO_o h; obtain ⟨fz2, sz2, ez2, h⟩ := h
  replace h := bd_o h; obtain ⟨r1, er1, h⟩ := h
  refine vv_callV ok_X5_isLetter q830 (m_KX5_isLetter hG hH er1 d) rfl (by omega) ⟨_, _, _, _, _, ez2, by rw [hG.1]; rfl⟩ rfl rfl (Nat.le_of_ble_eq_true rfl) dX5_next_63 ?_
  refine vv_if_eq (tgt := 82) dX5_next_66 (by decide) (fun c3 => ?_) (fun c3 => ?_)
  · rw [if_pos c3] at h
    refine vv_aload_n dX5_next_82 rfl 0 rfl ?_
    refine vv_iconst (v := (nI 1)) dX5_next_83 (by decide) ?_
    replace h := pF_o h; obtain ⟨σ4, sσ4, eσ4, lσ4, uσ4, h⟩ := h
    refine vv_putf (pt_X5_71 hG) (Or.inr fun C T' N h9 => by rw [hG.1] at h9; cases h9; rfl) eσ4 rfl rfl lσ4 dX5_next_84 ?_
    refine vv_sg uσ4 ?_
    refine vv_goto (tgt := 185) dX5_next_87 (by decide) ?_
    exact v_KX5_next_185 hG hH h
  · rw [if_neg c3] at h
    refine vv_aload_n dX5_next_69 rfl 0 rfl ?_
    refine vv_dup dX5_next_70 rfl ?_
    replace h := gI_o h; obtain ⟨v5, fv5, sv5, ev5, lv5, h⟩ := h
    refine vv_get (fl_X5_53 hG) ev5 lv5 dX5_next_71 ?_
    refine vv_iconst (v := (nI 1)) dX5_next_74 (by decide) ?_
    refine vv_iadd dX5_next_75 ?_
    replace h := pF_o h; obtain ⟨σ6, sσ6, eσ6, lσ6, uσ6, h⟩ := h
    refine vv_putf (pt_X5_53 hG) (Or.inr fun C T' N h9 => by rw [hG.1] at h9; cases h9; rfl) eσ6 rfl rfl lσ6 dX5_next_76 ?_
    refine vv_sg uσ6 ?_
    refine vv_goto (tgt := 62) dX5_next_79 (by decide) ?_
    exact hk62 h
theorem v_KX5_next_62 {l : Launch} {G : vv_G} {d : Nat} {ad : Nat → Nat} (hG : vv_gok G) (hH : vv_hy l G ad) : ∀ (n : Nat) {x0 : Nat} {σ : vv_S} {r : vv_S}, KX5_next_62 ad n x0 σ = some r → vv_V l G MX5_next (d + 4) 62 [(0, .ref x0)] [] σ (.inl none, r) := by
  intro n
  induction n with
  | zero => intro _ _ _ h; cases h
  | succ n ih => intro _ _ _ h; exact vb_KX5_next_62 hG hH ih h
def BKX5_next_0 (ad : Nat → Nat) (k0 : Nat → vv_S → Option vv_S) (x0 : Nat) (σ : vv_S) : Option vv_S := (isO σ x0 4).bind fun _ => (KX5_here x0 σ).bind fun r1 => if r1 = (nI 32) then (KX5_next_18 ad k0 x0 σ) else ((isO σ x0 4).bind fun _ => (KX5_here x0 σ).bind fun r4 => if r4 = (nI 10) then (KX5_next_18 ad k0 x0 σ) else ((gI σ x0 4 4).bind fun v7 => (pF σ x0 4 6 (.int v7)).bind fun σ8 => (isO σ8 x0 4).bind fun _ => (KX5_here x0 σ8).bind fun r9 => if r9 = (-1) then ((pF σ8 x0 4 5 (.int (nI 0))).bind fun σ24 => KX5_next_185 ad x0 σ24) else ((isO σ8 x0 4).bind fun _ => (KX5_isLetter x0 σ8).bind fun r12 => if r12 = 0 then ((isO σ8 x0 4).bind fun _ => (KX5_isDigit x0 σ8).bind fun r15 => if r15 = 0 then ((isO σ8 x0 4).bind fun _ => (KX5_here x0 σ8).bind fun r18 => (isO σ8 (ad 16) 14).bind fun _ => (KJ8_indexOf (ad 16) r18 σ8).bind fun r20 => if r20 < 0 then (KX5_next_172 ad x0 (nI 4) x0 σ8) else (KX5_next_172 ad x0 (nI 3) x0 σ8)) else ((pF σ8 x0 4 8 (.int (nI 0))).bind fun σ23 => KX5_next_102 ad NN x0 σ23)) else (KX5_next_62 ad NN x0 σ8))))
def KX5_next_0 (ad : Nat → Nat) : Nat → Nat → vv_S → Option vv_S
  | 0, _, _ => none
  | n + 1, x0, σ => BKX5_next_0 ad (KX5_next_0 ad n) x0 σ
theorem vb_KX5_next_0 {l : Launch} {G : vv_G} {d : Nat} {ad : Nat → Nat} (hG : vv_gok G) (hH : vv_hy l G ad) {k0 : Nat → vv_S → Option vv_S} (hk0 : ∀ {x0 : Nat} {σ : vv_S} {r : vv_S}, k0 x0 σ = some r → vv_V l G MX5_next (d + 4) 0 [(0, .ref x0)] [] σ (.inl none, r)) {x0 : Nat} {σ : vv_S} {r : vv_S} (h : BKX5_next_0 ad k0 x0 σ = some r) : vv_V l G MX5_next (d + 4) 0 [(0, .ref x0)] [] σ (.inl none, r) := by
  unfold BKX5_next_0 at h
  refine vv_aload_n dX5_next_0 rfl 0 rfl ?_
  replace h := isO_o h; obtain ⟨fz2, sz2, ez2, h⟩ := h
  replace h := bd_o h; obtain ⟨r1, er1, h⟩ := h
  refine vv_callV ok_X5_here q826 (m_KX5_here hG hH er1 d) rfl (by omega) ⟨_, _, _, _, _, ez2, by rw [hG.1]; rfl⟩ rfl rfl (Nat.le_of_ble_eq_true rfl) dX5_next_1 ?_
  refine vv_bipush (v := (nI 32)) dX5_next_4 (by decide) ?_
  refine vv_icmp_eq (tgt := 18) dX5_next_6 (by decide) (fun c3 => ?_) (fun c3 => ?_)
  · rw [if_pos c3] at h
    exact v_KX5_next_18 hG hH hk0 h
  · rw [if_neg c3] at h
    refine vv_aload_n dX5_next_9 rfl 0 rfl ?_
    replace h := isO_o h; obtain ⟨fz5, sz5, ez5, h⟩ := h
    replace h := bd_o h; obtain ⟨r4, er4, h⟩ := h
    refine vv_callV ok_X5_here q826 (m_KX5_here hG hH er4 d) rfl (by omega) ⟨_, _, _, _, _, ez5, by rw [hG.1]; rfl⟩ rfl rfl (Nat.le_of_ble_eq_true rfl) dX5_next_10 ?_
    refine vv_bipush (v := (nI 10)) dX5_next_13 (by decide) ?_
    refine vv_icmp_ne (tgt := 31) dX5_next_15 (by decide) (fun c6 => ?_) (fun c6 => ?_)
    · rw [if_neg c6] at h
      refine vv_aload_n dX5_next_31 rfl 0 rfl ?_
      refine vv_aload_n dX5_next_32 rfl 0 rfl ?_
      replace h := gI_o h; obtain ⟨v7, fv7, sv7, ev7, lv7, h⟩ := h
      refine vv_get (fl_X5_53 hG) ev7 lv7 dX5_next_33 ?_
      replace h := pF_o h; obtain ⟨σ8, sσ8, eσ8, lσ8, uσ8, h⟩ := h
      refine vv_putf (pt_X5_68 hG) (Or.inr fun C T' N h9 => by rw [hG.1] at h9; cases h9; rfl) eσ8 rfl rfl lσ8 dX5_next_36 ?_
      refine vv_sg uσ8 ?_
      refine vv_aload_n dX5_next_39 rfl 0 rfl ?_
      replace h := isO_o h; obtain ⟨fz10, sz10, ez10, h⟩ := h
      replace h := bd_o h; obtain ⟨r9, er9, h⟩ := h
      refine vv_callV ok_X5_here q826 (m_KX5_here hG hH er9 d) rfl (by omega) ⟨_, _, _, _, _, ez10, by rw [hG.1]; rfl⟩ rfl rfl (Nat.le_of_ble_eq_true rfl) dX5_next_40 ?_
      refine vv_iconst (v := (-1)) dX5_next_43 (by decide) ?_
      refine vv_icmp_ne (tgt := 55) dX5_next_44 (by decide) (fun c11 => ?_) (fun c11 => ?_)
      · rw [if_neg c11] at h
        refine vv_aload_n dX5_next_55 rfl 0 rfl ?_
        replace h := isO_o h; obtain ⟨fz13, sz13, ez13, h⟩ := h
        replace h := bd_o h; obtain ⟨r12, er12, h⟩ := h
        refine vv_callV ok_X5_isLetter q830 (m_KX5_isLetter hG hH er12 d) rfl (by omega) ⟨_, _, _, _, _, ez13, by rw [hG.1]; rfl⟩ rfl rfl (Nat.le_of_ble_eq_true rfl) dX5_next_56 ?_
        refine vv_if_eq (tgt := 90) dX5_next_59 (by decide) (fun c14 => ?_) (fun c14 => ?_)
        · rw [if_pos c14] at h
          refine vv_aload_n dX5_next_90 rfl 0 rfl ?_
          replace h := isO_o h; obtain ⟨fz16, sz16, ez16, h⟩ := h
          replace h := bd_o h; obtain ⟨r15, er15, h⟩ := h
          refine vv_callV ok_X5_isDigit q835 (m_KX5_isDigit hG hH er15 d) rfl (by omega) ⟨_, _, _, _, _, ez16, by rw [hG.1]; rfl⟩ rfl rfl (Nat.le_of_ble_eq_true rfl) dX5_next_91 ?_
          refine vv_if_eq (tgt := 154) dX5_next_94 (by decide) (fun c17 => ?_) (fun c17 => ?_)
          · rw [if_pos c17] at h
            refine vv_aload_n dX5_next_154 rfl 0 rfl ?_
            refine vv_lds (st_6 hH) dX5_next_155 ?_
            refine vv_aload_n dX5_next_157 rfl 0 rfl ?_
            replace h := isO_o h; obtain ⟨fz19, sz19, ez19, h⟩ := h
            replace h := bd_o h; obtain ⟨r18, er18, h⟩ := h
            refine vv_callV ok_X5_here q826 (m_KX5_here hG hH er18 d) rfl (by omega) ⟨_, _, _, _, _, ez19, by rw [hG.1]; rfl⟩ rfl rfl (Nat.le_of_ble_eq_true rfl) dX5_next_158 ?_
            replace h := isO_o h; obtain ⟨fz21, sz21, ez21, h⟩ := h
            replace h := bd_o h; obtain ⟨r20, er20, h⟩ := h
            refine vv_callV ok_J8_indexOf q842 (m_KJ8_indexOf hG hH er20 d) rfl (by omega) ⟨_, _, _, _, _, ez21, by rw [hG.1]; rfl⟩ rfl rfl (Nat.le_of_ble_eq_true rfl) dX5_next_161 ?_
            refine vv_if_lt (tgt := 171) dX5_next_164 (by decide) (fun c22 => ?_) (fun c22 => ?_)
            · rw [if_pos c22] at h
              refine vv_iconst (v := (nI 4)) dX5_next_171 (by decide) ?_
              exact v_KX5_next_172 hG hH h
            · rw [if_neg c22] at h
              refine vv_iconst (v := (nI 3)) dX5_next_167 (by decide) ?_
              refine vv_goto (tgt := 172) dX5_next_168 (by decide) ?_
              exact v_KX5_next_172 hG hH h
          · rw [if_neg c17] at h
            refine vv_aload_n dX5_next_97 rfl 0 rfl ?_
            refine vv_iconst (v := (nI 0)) dX5_next_98 (by decide) ?_
            replace h := pF_o h; obtain ⟨σ23, sσ23, eσ23, lσ23, uσ23, h⟩ := h
            refine vv_putf (pt_X5_81 hG) (Or.inr fun C T' N h9 => by rw [hG.1] at h9; cases h9; rfl) eσ23 rfl rfl lσ23 dX5_next_99 ?_
            refine vv_sg uσ23 ?_
            exact v_KX5_next_102 hG hH NN h
        · rw [if_neg c14] at h
          exact v_KX5_next_62 hG hH NN h
      · rw [if_pos c11] at h
        refine vv_aload_n dX5_next_47 rfl 0 rfl ?_
        refine vv_iconst (v := (nI 0)) dX5_next_48 (by decide) ?_
        replace h := pF_o h; obtain ⟨σ24, sσ24, eσ24, lσ24, uσ24, h⟩ := h
        refine vv_putf (pt_X5_71 hG) (Or.inr fun C T' N h9 => by rw [hG.1] at h9; cases h9; rfl) eσ24 rfl rfl lσ24 dX5_next_49 ?_
        refine vv_sg uσ24 ?_
        refine vv_goto (tgt := 185) dX5_next_52 (by decide) ?_
        exact v_KX5_next_185 hG hH h
    · rw [if_pos c6] at h
      exact v_KX5_next_18 hG hH hk0 h
theorem v_KX5_next_0 {l : Launch} {G : vv_G} {d : Nat} {ad : Nat → Nat} (hG : vv_gok G) (hH : vv_hy l G ad) : ∀ (n : Nat) {x0 : Nat} {σ : vv_S} {r : vv_S}, KX5_next_0 ad n x0 σ = some r → vv_V l G MX5_next (d + 4) 0 [(0, .ref x0)] [] σ (.inl none, r) := by
  intro n
  induction n with
  | zero => intro _ _ _ h; cases h
  | succ n ih => intro _ _ _ h; exact vb_KX5_next_0 hG hH ih h
def KX5_next (ad : Nat → Nat) (x0 : Nat) (σ : vv_S) : Option vv_S := KX5_next_0 ad NN x0 σ
theorem m_KX5_next {l : Launch} {G : vv_G} {ad : Nat → Nat} (hG : vv_gok G) (hH : vv_hy l G ad) {x0 : Nat} {σ : vv_S} {r : vv_S} (h : KX5_next ad x0 σ = some r) (d : Nat) : vv_Met l G MX5_next (d + 4) [.ref x0] σ (.inl none, r) := vv_head (by decide +kernel) rfl (Nat.le_of_ble_eq_true rfl) rfl (v_KX5_next_0 hG hH NN h)
/-! ('X5', 'is') -/
def KX5_is_24 (σ : vv_S) : Option Int32 := some (nI 0)
theorem v_KX5_is_24 {l : Launch} {G : vv_G} {d : Nat} {ad : Nat → Nat} (hG : vv_gok G) (hH : vv_hy l G ad) {σ : vv_S} {r : Int32} (h : KX5_is_24 σ = some r) : vv_V l G MX5_is (d + 4) 24 [] [] σ (.inl (some (.int r)), σ) := by
  unfold KX5_is_24 at h
  refine vv_iconst (v := (nI 0)) dX5_is_24 (by decide) ?_
  cases h
  exact vv_zret rfl (by decide) dX5_is_25
def BKX5_is_28 (k28 : Nat → Nat → Int32 → vv_S → Option Int32) (x0 : Nat) (x1 : Nat) (x2 : Int32) (σ : vv_S) : Option Int32 := (isO σ x1 14).bind fun _ => (KJ8_length x1 σ).bind fun r1 => if r1 ≤ x2 then (some (nI 1)) else ((isO σ x1 14).bind fun _ => (KJ8_charAt x1 x2 σ).bind fun r4 => (gR σ x0 4 9).bind fun v6 => (gR σ v6 0 3).bind fun v7 => (gI σ x0 4 6).bind fun v8 => (aI σ .byte v7 (v8 + x2)).bind fun v9 => if r4 = (v9 &&& (nI 255)) then (k28 x0 x1 (x2 + (nI 1)) σ) else (some (nI 0)))
def KX5_is_28 : Nat → Nat → Nat → Int32 → vv_S → Option Int32
  | 0, _, _, _, _ => none
  | n + 1, x0, x1, x2, σ => BKX5_is_28 (KX5_is_28 n) x0 x1 x2 σ
theorem vb_KX5_is_28 {l : Launch} {G : vv_G} {d : Nat} {ad : Nat → Nat} (hG : vv_gok G) (hH : vv_hy l G ad) {k28 : Nat → Nat → Int32 → vv_S → Option Int32} (hk28 : ∀ {x0 : Nat} {x1 : Nat} {x2 : Int32} {σ : vv_S} {r : Int32}, k28 x0 x1 x2 σ = some r → vv_V l G MX5_is (d + 4) 28 [(0, .ref x0), (1, .ref x1), (2, .int x2)] [] σ (.inl (some (.int r)), σ)) {x0 : Nat} {x1 : Nat} {x2 : Int32} {σ : vv_S} {r : Int32} (h : BKX5_is_28 k28 x0 x1 x2 σ = some r) : vv_V l G MX5_is (d + 4) 28 [(0, .ref x0), (1, .ref x1), (2, .int x2)] [] σ (.inl (some (.int r)), σ) := by
  unfold BKX5_is_28 at h
  refine vv_iload_n dX5_is_28 rfl 2 rfl ?_
  refine vv_aload_n dX5_is_29 rfl 1 rfl ?_
  replace h := isO_o h; obtain ⟨fz2, sz2, ez2, h⟩ := h
  replace h := bd_o h; obtain ⟨r1, er1, h⟩ := h
  refine vv_callV ok_J8_length q920 (m_KJ8_length hG hH er1 d) rfl (by omega) ⟨_, _, _, _, _, ez2, by rw [hG.1]; rfl⟩ rfl rfl (Nat.le_of_ble_eq_true rfl) dX5_is_30 ?_
  refine vv_icmp_ge (tgt := 70) dX5_is_33 (by decide) (fun c3 => ?_) (fun c3 => ?_)
  · rw [if_pos c3] at h
    refine vv_iconst (v := (nI 1)) dX5_is_70 (by decide) ?_
    cases h
    exact vv_zret rfl (by decide) dX5_is_71
  · rw [if_neg c3] at h
    refine vv_aload_n dX5_is_36 rfl 1 rfl ?_
    refine vv_iload_n dX5_is_37 rfl 2 rfl ?_
    replace h := isO_o h; obtain ⟨fz5, sz5, ez5, h⟩ := h
    replace h := bd_o h; obtain ⟨r4, er4, h⟩ := h
    refine vv_callV ok_J8_charAt q921 (m_KJ8_charAt hG hH er4 d) rfl (by omega) ⟨_, _, _, _, _, ez5, by rw [hG.1]; rfl⟩ rfl rfl (Nat.le_of_ble_eq_true rfl) dX5_is_38 ?_
    refine vv_aload_n dX5_is_41 rfl 0 rfl ?_
    replace h := gR_o h; obtain ⟨v6, fv6, sv6, ev6, lv6, h⟩ := h
    refine vv_get (fl_X5_3 hG) ev6 lv6 dX5_is_42 ?_
    replace h := gR_o h; obtain ⟨v7, fv7, sv7, ev7, lv7, h⟩ := h
    refine vv_getM (fl_X5_56 hH) ev7 lv7 dX5_is_45 ?_
    refine vv_aload_n dX5_is_48 rfl 0 rfl ?_
    replace h := gI_o h; obtain ⟨v8, fv8, sv8, ev8, lv8, h⟩ := h
    refine vv_get (fl_X5_68 hG) ev8 lv8 dX5_is_49 ?_
    refine vv_iload_n dX5_is_52 rfl 2 rfl ?_
    refine vv_iadd dX5_is_53 ?_
    replace h := aI_o h; obtain ⟨v9, fv9, nv9, qv9, ev9, iv9, wv9, h⟩ := h
    refine vv_bald ev9 iv9 dX5_is_54 ?_
    rw [wv9]
    refine vv_sipush (v := (nI 255)) dX5_is_55 (by decide) ?_
    refine vv_iand dX5_is_58 ?_
    refine vv_icmp_eq (tgt := 64) dX5_is_59 (by decide) (fun c10 => ?_) (fun c10 => ?_)
    · rw [if_pos c10] at h
      refine vv_iinc (v := (x2 + (nI 1))) (lv' := [(0, .ref x0), (1, .ref x1), (2, .int (x2 + (nI 1)))]) dX5_is_64 2 rfl rfl (by decide) [1, 2, 0] rfl ?_
      refine vv_goto (tgt := 28) dX5_is_67 (by decide) ?_
      exact hk28 h
    · rw [if_neg c10] at h
      refine vv_iconst (v := (nI 0)) dX5_is_62 (by decide) ?_
      cases h
      exact vv_zret rfl (by decide) dX5_is_63
theorem v_KX5_is_28 {l : Launch} {G : vv_G} {d : Nat} {ad : Nat → Nat} (hG : vv_gok G) (hH : vv_hy l G ad) : ∀ (n : Nat) {x0 : Nat} {x1 : Nat} {x2 : Int32} {σ : vv_S} {r : Int32}, KX5_is_28 n x0 x1 x2 σ = some r → vv_V l G MX5_is (d + 4) 28 [(0, .ref x0), (1, .ref x1), (2, .int x2)] [] σ (.inl (some (.int r)), σ) := by
  intro n
  induction n with
  | zero => intro _ _ _ _ _ h; cases h
  | succ n ih => intro _ _ _ _ _ h; exact vb_KX5_is_28 hG hH ih h
def KX5_is (x0 : Nat) (x1 : Nat) (σ : vv_S) : Option Int32 := (gI σ x0 4 5).bind fun v1 => if v1 = (nI 1) then ((isO σ x1 14).bind fun _ => (KJ8_length x1 σ).bind fun r3 => (gI σ x0 4 7).bind fun v5 => (gI σ x0 4 6).bind fun v6 => if r3 = (v5 - v6) then (KX5_is_28 NN x0 x1 (nI 0) σ) else (KX5_is_24 σ)) else (KX5_is_24 σ)
theorem v_KX5_is_0 {l : Launch} {G : vv_G} {d : Nat} {ad : Nat → Nat} (hG : vv_gok G) (hH : vv_hy l G ad) {x0 : Nat} {x1 : Nat} {σ : vv_S} {r : Int32} (h : KX5_is x0 x1 σ = some r) : vv_V l G MX5_is (d + 4) 0 [(0, .ref x0), (1, .ref x1)] [] σ (.inl (some (.int r)), σ) := by
  unfold KX5_is at h
  refine vv_aload_n dX5_is_0 rfl 0 rfl ?_
  replace h := gI_o h; obtain ⟨v1, fv1, sv1, ev1, lv1, h⟩ := h
  refine vv_get (fl_X5_71 hG) ev1 lv1 dX5_is_1 ?_
  refine vv_iconst (v := (nI 1)) dX5_is_4 (by decide) ?_
  refine vv_icmp_ne (tgt := 24) dX5_is_5 (by decide) (fun c2 => ?_) (fun c2 => ?_)
  · rw [if_neg c2] at h
    refine vv_sub (lv' := []) [] rfl ?_
    exact v_KX5_is_24 hG hH h
  · rw [if_pos c2] at h
    refine vv_aload_n dX5_is_8 rfl 1 rfl ?_
    replace h := isO_o h; obtain ⟨fz4, sz4, ez4, h⟩ := h
    replace h := bd_o h; obtain ⟨r3, er3, h⟩ := h
    refine vv_callV ok_J8_length q920 (m_KJ8_length hG hH er3 d) rfl (by omega) ⟨_, _, _, _, _, ez4, by rw [hG.1]; rfl⟩ rfl rfl (Nat.le_of_ble_eq_true rfl) dX5_is_9 ?_
    refine vv_aload_n dX5_is_12 rfl 0 rfl ?_
    replace h := gI_o h; obtain ⟨v5, fv5, sv5, ev5, lv5, h⟩ := h
    refine vv_get (fl_X5_97 hG) ev5 lv5 dX5_is_13 ?_
    refine vv_aload_n dX5_is_16 rfl 0 rfl ?_
    replace h := gI_o h; obtain ⟨v6, fv6, sv6, ev6, lv6, h⟩ := h
    refine vv_get (fl_X5_68 hG) ev6 lv6 dX5_is_17 ?_
    refine vv_isub dX5_is_20 ?_
    refine vv_icmp_eq (tgt := 26) dX5_is_21 (by decide) (fun c7 => ?_) (fun c7 => ?_)
    · rw [if_pos c7] at h
      refine vv_iconst (v := (nI 0)) dX5_is_26 (by decide) ?_
      refine vv_istore_n (lv' := [(0, .ref x0), (1, .ref x1), (2, .int (nI 0))]) dX5_is_27 rfl (by decide) [1, 2, 0] rfl ?_
      exact v_KX5_is_28 hG hH NN h
    · rw [if_neg c7] at h
      refine vv_sub (lv' := []) [] rfl ?_
      exact v_KX5_is_24 hG hH h
theorem m_KX5_is {l : Launch} {G : vv_G} {ad : Nat → Nat} (hG : vv_gok G) (hH : vv_hy l G ad) {x0 : Nat} {x1 : Nat} {σ : vv_S} {r : Int32} (h : KX5_is x0 x1 σ = some r) (d : Nat) : vv_Met l G MX5_is (d + 4) [.ref x0, .ref x1] σ (.inl (some (.int r)), σ) := vv_head (by decide +kernel) rfl (Nat.le_of_ble_eq_true rfl) rfl (v_KX5_is_0 hG hH h)
/-! ('X6', 'init') -/
def KX6_init (x0 : Nat) (x1 : Int32) (σ : vv_S) : Option vv_S := (KJ4_init_2 x0 (nI 0) (nI 0) σ).bind fun r1 => (pF r1 x0 5 6 (.int x1)).bind fun σ2 => some σ2
theorem v_KX6_init_0 {l : Launch} {G : vv_G} {d : Nat} {ad : Nat → Nat} (hG : vv_gok G) (hH : vv_hy l G ad) {x0 : Nat} {x1 : Int32} {σ : vv_S} {r : vv_S} (h : KX6_init x0 x1 σ = some r) : vv_V l G MX6_init (d + 4) 0 [(0, .ref x0), (1, .int x1)] [] σ (.inl none, r) := by
  unfold KX6_init at h
  refine vv_aload_n dX6_init_0 rfl 0 rfl ?_
  refine vv_null dX6_init_1 ?_
  refine vv_null dX6_init_2 ?_
  refine vv_iconst (v := (nI 0)) dX6_init_3 (by decide) ?_
  refine vv_iconst (v := (nI 0)) dX6_init_4 (by decide) ?_
  replace h := bd_o h; obtain ⟨r1, er1, h⟩ := h
  refine vv_callI ok_J4_init_2 q957 (m_KJ4_init_2 hG hH er1 d) rfl (by omega) rfl rfl (Nat.le_of_ble_eq_true rfl) dX6_init_5 ?_
  refine vv_aload_n dX6_init_8 rfl 0 rfl ?_
  refine vv_iload_n dX6_init_9 rfl 1 rfl ?_
  replace h := pF_o h; obtain ⟨σ2, sσ2, eσ2, lσ2, uσ2, h⟩ := h
  refine vv_putf (pt_X6_7 hG) (Or.inl rfl) eσ2 rfl rfl lσ2 dX6_init_10 ?_
  refine vv_sg uσ2 ?_
  cases h
  exact vv_vret rfl dX6_init_13
theorem m_KX6_init {l : Launch} {G : vv_G} {ad : Nat → Nat} (hG : vv_gok G) (hH : vv_hy l G ad) {x0 : Nat} {x1 : Int32} {σ : vv_S} {r : vv_S} (h : KX6_init x0 x1 σ = some r) (d : Nat) : vv_Met l G MX6_init (d + 4) [.ref x0, .int x1] σ (.inl none, r) := vv_head (by decide +kernel) rfl (Nat.le_of_ble_eq_true rfl) rfl (v_KX6_init_0 hG hH h)
/-! ('X5', 'want') -/
def KX5_want (x0 : Nat) (x1 : Int32) (x2 : Int32) (σ : vv_S) : Option (hX vv_S) := if x1 = 0 then ((some (nwO σ 5 [.null, .null, .null, .null, .null, .int 0, .int 0] 7)).bind fun σ2 => (KX6_init σ.2.1 x2 σ2).bind fun r3 => (isO r3 σ.2.1 5).bind fun _ => some (.inr (("LuckCrates$Wrong", σ.2.1), r3))) else (some (.inl σ))
theorem v_KX5_want_0 {l : Launch} {G : vv_G} {d : Nat} {ad : Nat → Nat} (hG : vv_gok G) (hH : vv_hy l G ad) {x0 : Nat} {x1 : Int32} {x2 : Int32} {σ : vv_S} {r : hX vv_S} (h : KX5_want x0 x1 x2 σ = some r) : vv_V l G MX5_want (d + 5) 0 [(0, .ref x0), (1, .int x1), (2, .int x2)] [] σ (xU r) := by
  unfold KX5_want at h
  refine vv_iload_n dX5_want_0 rfl 1 rfl ?_
  refine vv_if_ne (tgt := 13) dX5_want_1 (by decide) (fun c1 => ?_) (fun c1 => ?_)
  · rw [if_neg c1] at h
    cases h
    exact vv_vret rfl dX5_want_13
  · rw [if_pos c1] at h
    obtain ⟨σ2, uσ2, h⟩ := bd_s h
    refine vv_new (nw_X5_114 hG) dX5_want_4 ?_
    refine vv_sg uσ2 ?_
    refine vv_dup dX5_want_7 rfl ?_
    refine vv_iload_n dX5_want_8 rfl 2 rfl ?_
    replace h := bd_o h; obtain ⟨r3, er3, h⟩ := h
    refine vv_callI ok_X6_init q954 (m_KX6_init hG hH er3 d) rfl (by omega) rfl rfl (Nat.le_of_ble_eq_true rfl) dX5_want_9 ?_
    replace h := isO_o h; obtain ⟨fz4, sz4, ez4, h⟩ := h
    cases h
    refine vv_athrow (C := "LuckCrates$Wrong") ez4 ⟨_, _, by rw [hG.1]; rfl⟩ dX5_want_12 ?_
    exact vv_Tout (by intro x hx; cases hx)
theorem m_KX5_want {l : Launch} {G : vv_G} {ad : Nat → Nat} (hG : vv_gok G) (hH : vv_hy l G ad) {x0 : Nat} {x1 : Int32} {x2 : Int32} {σ : vv_S} {r : hX vv_S} (h : KX5_want x0 x1 x2 σ = some r) (d : Nat) : vv_Met l G MX5_want (d + 5) [.ref x0, .int x1, .int x2] σ (xU r) := vv_head (by decide +kernel) rfl (Nat.le_of_ble_eq_true rfl) rfl (v_KX5_want_0 hG hH h)
/-! ('X5', 'numberNow') -/
def KX5_numberNow_53 (s0 : Nat) (s1 : Int32) (x0 : Nat) (σ : vv_S) : Option (hX (Int32 × vv_S)) := (isO σ s0 4).bind fun _ => (KX5_want s0 s1 (nI 2) σ).bind fun r1 => xb r1 fun r3 => (gI r3 x0 4 8).bind fun v4 => some (.inl (v4, r3))
theorem v_KX5_numberNow_53 {l : Launch} {G : vv_G} {d : Nat} {ad : Nat → Nat} (hG : vv_gok G) (hH : vv_hy l G ad) {s0 : Nat} {s1 : Int32} {x0 : Nat} {σ : vv_S} {r : hX (Int32 × vv_S)} (h : KX5_numberNow_53 s0 s1 x0 σ = some r) : vv_V l G MX5_numberNow (d + 6) 53 [(0, .ref x0)] [.int s1, .ref s0] σ (xI r) := by
  unfold KX5_numberNow_53 at h
  refine vv_iconst (v := (nI 2)) dX5_numberNow_53 (by decide) ?_
  replace h := isO_o h; obtain ⟨fz2, sz2, ez2, h⟩ := h
  replace h := bd_o h; obtain ⟨r1, er1, h⟩ := h
  rcases r1 with r3 | r3x
  · refine vv_callV ok_X5_want q941 (m_KX5_want hG hH er1 d) rfl (by omega) ⟨_, _, _, _, _, ez2, by rw [hG.1]; rfl⟩ rfl rfl (Nat.le_of_ble_eq_true rfl) dX5_numberNow_54 ?_
    replace h := xb_l h
    refine vv_aload_n dX5_numberNow_57 rfl 0 rfl ?_
    replace h := gI_o h; obtain ⟨v4, fv4, sv4, ev4, lv4, h⟩ := h
    refine vv_get (fl_X5_81 hG) ev4 lv4 dX5_numberNow_58 ?_
    cases h
    exact vv_iret rfl dX5_numberNow_61
  · cases h
    exact vv_callVX ok_X5_want q941 (m_KX5_want hG hH er1 d) rfl (by omega) ⟨_, _, _, _, _, ez2, by rw [hG.1]; rfl⟩ rfl rfl (Nat.le_of_ble_eq_true rfl) dX5_numberNow_54 (vv_Tout (by intro x hx; cases hx))
def KX5_numberNow_52 (s0 : Nat) (x0 : Nat) (σ : vv_S) : Option (hX (Int32 × vv_S)) := KX5_numberNow_53 s0 (nI 0) x0 σ
theorem v_KX5_numberNow_52 {l : Launch} {G : vv_G} {d : Nat} {ad : Nat → Nat} (hG : vv_gok G) (hH : vv_hy l G ad) {s0 : Nat} {x0 : Nat} {σ : vv_S} {r : hX (Int32 × vv_S)} (h : KX5_numberNow_52 s0 x0 σ = some r) : vv_V l G MX5_numberNow (d + 6) 52 [(0, .ref x0)] [.ref s0] σ (xI r) := by
  unfold KX5_numberNow_52 at h
  refine vv_iconst (v := (nI 0)) dX5_numberNow_52 (by decide) ?_
  exact v_KX5_numberNow_53 hG hH h
def KX5_numberNow_14 (s0 : Nat) (s1 : Int32) (x0 : Nat) (x1 : Int32) (x2 : Int32) (σ : vv_S) : Option (hX (Int32 × vv_S)) := (isO σ s0 4).bind fun _ => (KX5_want s0 s1 (nI 1) σ).bind fun r1 => xb r1 fun r3 => (gI r3 x0 4 7).bind fun v4 => (gI r3 x0 4 6).bind fun v5 => if (nI 4) < (v4 - v5) then (KX5_numberNow_52 x0 x0 r3) else ((gI r3 x0 4 8).bind fun v7 => if v7 < x1 then (KX5_numberNow_52 x0 x0 r3) else ((gI r3 x0 4 8).bind fun v9 => if x2 < v9 then (KX5_numberNow_52 x0 x0 r3) else (KX5_numberNow_53 x0 (nI 1) x0 r3)))
theorem v_KX5_numberNow_14 {l : Launch} {G : vv_G} {d : Nat} {ad : Nat → Nat} (hG : vv_gok G) (hH : vv_hy l G ad) {s0 : Nat} {s1 : Int32} {x0 : Nat} {x1 : Int32} {x2 : Int32} {σ : vv_S} {r : hX (Int32 × vv_S)} (h : KX5_numberNow_14 s0 s1 x0 x1 x2 σ = some r) : vv_V l G MX5_numberNow (d + 6) 14 [(0, .ref x0), (1, .int x1), (2, .int x2)] [.int s1, .ref s0] σ (xI r) := by
  unfold KX5_numberNow_14 at h
  refine vv_iconst (v := (nI 1)) dX5_numberNow_14 (by decide) ?_
  replace h := isO_o h; obtain ⟨fz2, sz2, ez2, h⟩ := h
  replace h := bd_o h; obtain ⟨r1, er1, h⟩ := h
  rcases r1 with r3 | r3x
  · refine vv_callV ok_X5_want q941 (m_KX5_want hG hH er1 d) rfl (by omega) ⟨_, _, _, _, _, ez2, by rw [hG.1]; rfl⟩ rfl rfl (Nat.le_of_ble_eq_true rfl) dX5_numberNow_15 ?_
    replace h := xb_l h
    refine vv_aload_n dX5_numberNow_18 rfl 0 rfl ?_
    refine vv_aload_n dX5_numberNow_19 rfl 0 rfl ?_
    replace h := gI_o h; obtain ⟨v4, fv4, sv4, ev4, lv4, h⟩ := h
    refine vv_get (fl_X5_97 hG) ev4 lv4 dX5_numberNow_20 ?_
    refine vv_aload_n dX5_numberNow_23 rfl 0 rfl ?_
    replace h := gI_o h; obtain ⟨v5, fv5, sv5, ev5, lv5, h⟩ := h
    refine vv_get (fl_X5_68 hG) ev5 lv5 dX5_numberNow_24 ?_
    refine vv_isub dX5_numberNow_27 ?_
    refine vv_iconst (v := (nI 4)) dX5_numberNow_28 (by decide) ?_
    refine vv_icmp_gt (tgt := 52) dX5_numberNow_29 (by decide) (fun c6 => ?_) (fun c6 => ?_)
    · rw [if_pos c6] at h
      refine vv_sub (lv' := [(0, .ref x0)]) [0] rfl ?_
      exact v_KX5_numberNow_52 hG hH h
    · rw [if_neg c6] at h
      refine vv_aload_n dX5_numberNow_32 rfl 0 rfl ?_
      replace h := gI_o h; obtain ⟨v7, fv7, sv7, ev7, lv7, h⟩ := h
      refine vv_get (fl_X5_81 hG) ev7 lv7 dX5_numberNow_33 ?_
      refine vv_iload_n dX5_numberNow_36 rfl 1 rfl ?_
      refine vv_icmp_lt (tgt := 52) dX5_numberNow_37 (by decide) (fun c8 => ?_) (fun c8 => ?_)
      · rw [if_pos c8] at h
        refine vv_sub (lv' := [(0, .ref x0)]) [0] rfl ?_
        exact v_KX5_numberNow_52 hG hH h
      · rw [if_neg c8] at h
        refine vv_aload_n dX5_numberNow_40 rfl 0 rfl ?_
        replace h := gI_o h; obtain ⟨v9, fv9, sv9, ev9, lv9, h⟩ := h
        refine vv_get (fl_X5_81 hG) ev9 lv9 dX5_numberNow_41 ?_
        refine vv_iload_n dX5_numberNow_44 rfl 2 rfl ?_
        refine vv_icmp_gt (tgt := 52) dX5_numberNow_45 (by decide) (fun c10 => ?_) (fun c10 => ?_)
        · rw [if_pos c10] at h
          refine vv_sub (lv' := [(0, .ref x0)]) [0] rfl ?_
          exact v_KX5_numberNow_52 hG hH h
        · rw [if_neg c10] at h
          refine vv_iconst (v := (nI 1)) dX5_numberNow_48 (by decide) ?_
          refine vv_goto (tgt := 53) dX5_numberNow_49 (by decide) ?_
          refine vv_sub (lv' := [(0, .ref x0)]) [0] rfl ?_
          exact v_KX5_numberNow_53 hG hH h
  · cases h
    exact vv_callVX ok_X5_want q941 (m_KX5_want hG hH er1 d) rfl (by omega) ⟨_, _, _, _, _, ez2, by rw [hG.1]; rfl⟩ rfl rfl (Nat.le_of_ble_eq_true rfl) dX5_numberNow_15 (vv_Tout (by intro x hx; cases hx))
def KX5_numberNow (x0 : Nat) (x1 : Int32) (x2 : Int32) (σ : vv_S) : Option (hX (Int32 × vv_S)) := (gI σ x0 4 5).bind fun v1 => if v1 = (nI 2) then (KX5_numberNow_14 x0 (nI 1) x0 x1 x2 σ) else (KX5_numberNow_14 x0 (nI 0) x0 x1 x2 σ)
theorem v_KX5_numberNow_0 {l : Launch} {G : vv_G} {d : Nat} {ad : Nat → Nat} (hG : vv_gok G) (hH : vv_hy l G ad) {x0 : Nat} {x1 : Int32} {x2 : Int32} {σ : vv_S} {r : hX (Int32 × vv_S)} (h : KX5_numberNow x0 x1 x2 σ = some r) : vv_V l G MX5_numberNow (d + 6) 0 [(0, .ref x0), (1, .int x1), (2, .int x2)] [] σ (xI r) := by
  unfold KX5_numberNow at h
  refine vv_aload_n dX5_numberNow_0 rfl 0 rfl ?_
  refine vv_aload_n dX5_numberNow_1 rfl 0 rfl ?_
  replace h := gI_o h; obtain ⟨v1, fv1, sv1, ev1, lv1, h⟩ := h
  refine vv_get (fl_X5_71 hG) ev1 lv1 dX5_numberNow_2 ?_
  refine vv_iconst (v := (nI 2)) dX5_numberNow_5 (by decide) ?_
  refine vv_icmp_ne (tgt := 13) dX5_numberNow_6 (by decide) (fun c2 => ?_) (fun c2 => ?_)
  · rw [if_neg c2] at h
    refine vv_iconst (v := (nI 0)) dX5_numberNow_13 (by decide) ?_
    exact v_KX5_numberNow_14 hG hH h
  · rw [if_pos c2] at h
    refine vv_iconst (v := (nI 1)) dX5_numberNow_9 (by decide) ?_
    refine vv_goto (tgt := 14) dX5_numberNow_10 (by decide) ?_
    exact v_KX5_numberNow_14 hG hH h
theorem m_KX5_numberNow {l : Launch} {G : vv_G} {ad : Nat → Nat} (hG : vv_gok G) (hH : vv_hy l G ad) {x0 : Nat} {x1 : Int32} {x2 : Int32} {σ : vv_S} {r : hX (Int32 × vv_S)} (h : KX5_numberNow x0 x1 x2 σ = some r) (d : Nat) : vv_Met l G MX5_numberNow (d + 6) [.ref x0, .int x1, .int x2] σ (xI r) := vv_head (by decide +kernel) rfl (Nat.le_of_ble_eq_true rfl) rfl (v_KX5_numberNow_0 hG hH h)
/-! ('X5', 'number') -/
def KX5_number (ad : Nat → Nat) (x0 : Nat) (x1 : Int32) (x2 : Int32) (σ : vv_S) : Option (hX (Int32 × vv_S)) := (isO σ x0 4).bind fun _ => (KX5_numberNow x0 x1 x2 σ).bind fun r1 => xb r1 fun r3 => (isO r3.2 x0 4).bind fun _ => (KX5_next ad x0 r3.2).bind fun r4 => some (.inl (r3.1, r4))
theorem v_KX5_number_0 {l : Launch} {G : vv_G} {d : Nat} {ad : Nat → Nat} (hG : vv_gok G) (hH : vv_hy l G ad) {x0 : Nat} {x1 : Int32} {x2 : Int32} {σ : vv_S} {r : hX (Int32 × vv_S)} (h : KX5_number ad x0 x1 x2 σ = some r) : vv_V l G MX5_number (d + 7) 0 [(0, .ref x0), (1, .int x1), (2, .int x2)] [] σ (xI r) := by
  unfold KX5_number at h
  refine vv_aload_n dX5_number_0 rfl 0 rfl ?_
  refine vv_iload_n dX5_number_1 rfl 1 rfl ?_
  refine vv_iload_n dX5_number_2 rfl 2 rfl ?_
  replace h := isO_o h; obtain ⟨fz2, sz2, ez2, h⟩ := h
  replace h := bd_o h; obtain ⟨r1, er1, h⟩ := h
  rcases r1 with r3 | r3x
  · refine vv_callV ok_X5_numberNow q973 (m_KX5_numberNow hG hH er1 d) rfl (by omega) ⟨_, _, _, _, _, ez2, by rw [hG.1]; rfl⟩ rfl rfl (Nat.le_of_ble_eq_true rfl) dX5_number_3 ?_
    replace h := xb_l h
    refine vv_istore_n (lv' := [(0, .ref x0), (1, .int x1), (2, .int x2), (3, .int r3.1)]) dX5_number_6 rfl (by decide) [1, 2, 3, 0] rfl ?_
    refine vv_aload_n dX5_number_7 rfl 0 rfl ?_
    replace h := isO_o h; obtain ⟨fz5, sz5, ez5, h⟩ := h
    replace h := bd_o h; obtain ⟨r4, er4, h⟩ := h
    refine vv_callV ok_X5_next q822 (m_KX5_next hG hH er4 d) rfl (by omega) ⟨_, _, _, _, _, ez5, by rw [hG.1]; rfl⟩ rfl rfl (Nat.le_of_ble_eq_true rfl) dX5_number_8 ?_
    refine vv_iload_n dX5_number_11 rfl 3 rfl ?_
    cases h
    exact vv_iret rfl dX5_number_12
  · cases h
    exact vv_callVX ok_X5_numberNow q973 (m_KX5_numberNow hG hH er1 d) rfl (by omega) ⟨_, _, _, _, _, ez2, by rw [hG.1]; rfl⟩ rfl rfl (Nat.le_of_ble_eq_true rfl) dX5_number_3 (vv_Tout (by intro x hx; cases hx))
theorem m_KX5_number {l : Launch} {G : vv_G} {ad : Nat → Nat} (hG : vv_gok G) (hH : vv_hy l G ad) {x0 : Nat} {x1 : Int32} {x2 : Int32} {σ : vv_S} {r : hX (Int32 × vv_S)} (h : KX5_number ad x0 x1 x2 σ = some r) (d : Nat) : vv_Met l G MX5_number (d + 7) [.ref x0, .int x1, .int x2] σ (xI r) := vv_head (by decide +kernel) rfl (Nat.le_of_ble_eq_true rfl) rfl (v_KX5_number_0 hG hH h)
/-! ('X5', 'town') -/
def KX5_town_20 (ad : Nat → Nat) (s0 : Nat) (s1 : Int32) (x0 : Nat) (x1 : Int32) (σ : vv_S) : Option (hX vv_S) := (isO σ s0 4).bind fun _ => (KX5_want s0 s1 (nI 2) σ).bind fun r1 => xb r1 fun r3 => (isO r3 x0 4).bind fun _ => (KX5_next ad x0 r3).bind fun r4 => (gR r4 x0 4 2).bind fun v6 => (gR r4 v6 2 0).bind fun v7 => (isO r4 x0 4).bind fun _ => (KX5_number ad x0 (nI 0) (nI 999) r4).bind fun r8 => xb r8 fun r10 => (sI r10.2 v7 x1 r10.1).bind fun σ11 => (gR σ11 x0 4 2).bind fun v12 => (gR σ11 v12 2 1).bind fun v13 => (isO σ11 x0 4).bind fun _ => (KX5_number ad x0 (nI 0) (nI 999) σ11).bind fun r14 => xb r14 fun r16 => (sI r16.2 v13 x1 r16.1).bind fun σ17 => (isO σ17 x0 4).bind fun _ => (KX5_number ad x0 (nI 0) (nI 20) σ17).bind fun r18 => xb r18 fun r20 => (gR r20.2 x0 4 1).bind fun v21 => (gR r20.2 v21 1 1).bind fun v22 => (isO r20.2 x0 4).bind fun _ => (KX5_number ad x0 (nI 0) (nI 20) r20.2).bind fun r23 => xb r23 fun r25 => (KJ14_valueOf ad r25.1 r25.2).bind fun r26 => (isO r25.2 v22 11).bind fun _ => (KJ2_add ad v22 r26 r25.2).bind fun r27 => (gR r27.2 x0 4 1).bind fun v29 => (gR r27.2 v29 1 0).bind fun v30 => (KJ14_valueOf ad r20.1 r27.2).bind fun r31 => (isO r27.2 v30 11).bind fun _ => (KJ2_add ad v30 r31 r27.2).bind fun r32 => some (.inl r32.2)
theorem v_KX5_town_20 {l : Launch} {G : vv_G} {d : Nat} {ad : Nat → Nat} (hG : vv_gok G) (hH : vv_hy l G ad) {s0 : Nat} {s1 : Int32} {x0 : Nat} {x1 : Int32} {σ : vv_S} {r : hX vv_S} (h : KX5_town_20 ad s0 s1 x0 x1 σ = some r) : vv_V l G MX5_town (d + 8) 20 [(0, .ref x0), (1, .int x1)] [.int s1, .ref s0] σ (xU r) := by
  unfold KX5_town_20 at h
  refine vv_iconst (v := (nI 2)) dX5_town_20 (by decide) ?_
  replace h := isO_o h; obtain ⟨fz2, sz2, ez2, h⟩ := h
  replace h := bd_o h; obtain ⟨r1, er1, h⟩ := h
  rcases r1 with r3 | r3x
  · refine vv_callV ok_X5_want q941 (m_KX5_want hG hH er1 d) rfl (by omega) ⟨_, _, _, _, _, ez2, by rw [hG.1]; rfl⟩ rfl rfl (Nat.le_of_ble_eq_true rfl) dX5_town_21 ?_
    replace h := xb_l h
    refine vv_aload_n dX5_town_24 rfl 0 rfl ?_
    replace h := isO_o h; obtain ⟨fz5, sz5, ez5, h⟩ := h
    replace h := bd_o h; obtain ⟨r4, er4, h⟩ := h
    refine vv_callV ok_X5_next q822 (m_KX5_next hG hH er4 d) rfl (by omega) ⟨_, _, _, _, _, ez5, by rw [hG.1]; rfl⟩ rfl rfl (Nat.le_of_ble_eq_true rfl) dX5_town_25 ?_
    refine vv_aload_n dX5_town_28 rfl 0 rfl ?_
    replace h := gR_o h; obtain ⟨v6, fv6, sv6, ev6, lv6, h⟩ := h
    refine vv_get (fl_X5_27 hG) ev6 lv6 dX5_town_29 ?_
    replace h := gR_o h; obtain ⟨v7, fv7, sv7, ev7, lv7, h⟩ := h
    refine vv_getM (fl_X5_191 hH) ev7 lv7 dX5_town_32 ?_
    refine vv_iload_n dX5_town_35 rfl 1 rfl ?_
    refine vv_aload_n dX5_town_36 rfl 0 rfl ?_
    refine vv_iconst (v := (nI 0)) dX5_town_37 (by decide) ?_
    refine vv_sipush (v := (nI 999)) dX5_town_38 (by decide) ?_
    replace h := isO_o h; obtain ⟨fz9, sz9, ez9, h⟩ := h
    replace h := bd_o h; obtain ⟨r8, er8, h⟩ := h
    rcases r8 with r10 | r10x
    · refine vv_callV ok_X5_number q969 (m_KX5_number hG hH er8 d) rfl (by omega) ⟨_, _, _, _, _, ez9, by rw [hG.1]; rfl⟩ rfl rfl (Nat.le_of_ble_eq_true rfl) dX5_town_41 ?_
      replace h := xb_l h
      replace h := sI_o h; obtain ⟨σ11, nσ11, qσ11, eσ11, iσ11, uσ11, h⟩ := h
      refine vv_iast eσ11 iσ11 dX5_town_44 ?_
      refine vv_sg uσ11 ?_
      refine vv_aload_n dX5_town_45 rfl 0 rfl ?_
      replace h := gR_o h; obtain ⟨v12, fv12, sv12, ev12, lv12, h⟩ := h
      refine vv_get (fl_X5_27 hG) ev12 lv12 dX5_town_46 ?_
      replace h := gR_o h; obtain ⟨v13, fv13, sv13, ev13, lv13, h⟩ := h
      refine vv_getM (fl_X5_194 hH) ev13 lv13 dX5_town_49 ?_
      refine vv_iload_n dX5_town_52 rfl 1 rfl ?_
      refine vv_aload_n dX5_town_53 rfl 0 rfl ?_
      refine vv_iconst (v := (nI 0)) dX5_town_54 (by decide) ?_
      refine vv_sipush (v := (nI 999)) dX5_town_55 (by decide) ?_
      replace h := isO_o h; obtain ⟨fz15, sz15, ez15, h⟩ := h
      replace h := bd_o h; obtain ⟨r14, er14, h⟩ := h
      rcases r14 with r16 | r16x
      · refine vv_callV ok_X5_number q969 (m_KX5_number hG hH er14 d) rfl (by omega) ⟨_, _, _, _, _, ez15, by rw [hG.1]; rfl⟩ rfl rfl (Nat.le_of_ble_eq_true rfl) dX5_town_58 ?_
        replace h := xb_l h
        replace h := sI_o h; obtain ⟨σ17, nσ17, qσ17, eσ17, iσ17, uσ17, h⟩ := h
        refine vv_iast eσ17 iσ17 dX5_town_61 ?_
        refine vv_sg uσ17 ?_
        refine vv_aload_n dX5_town_62 rfl 0 rfl ?_
        refine vv_iconst (v := (nI 0)) dX5_town_63 (by decide) ?_
        refine vv_bipush (v := (nI 20)) dX5_town_64 (by decide) ?_
        replace h := isO_o h; obtain ⟨fz19, sz19, ez19, h⟩ := h
        replace h := bd_o h; obtain ⟨r18, er18, h⟩ := h
        rcases r18 with r20 | r20x
        · refine vv_callV ok_X5_number q969 (m_KX5_number hG hH er18 d) rfl (by omega) ⟨_, _, _, _, _, ez19, by rw [hG.1]; rfl⟩ rfl rfl (Nat.le_of_ble_eq_true rfl) dX5_town_66 ?_
          replace h := xb_l h
          refine vv_istore_n (lv' := [(0, .ref x0), (1, .int x1), (2, .int r20.1)]) dX5_town_69 rfl (by decide) [1, 2, 0] rfl ?_
          refine vv_aload_n dX5_town_70 rfl 0 rfl ?_
          replace h := gR_o h; obtain ⟨v21, fv21, sv21, ev21, lv21, h⟩ := h
          refine vv_get (fl_X5_18 hG) ev21 lv21 dX5_town_71 ?_
          replace h := gR_o h; obtain ⟨v22, fv22, sv22, ev22, lv22, h⟩ := h
          refine vv_getM (fl_X5_196 hH) ev22 lv22 dX5_town_74 ?_
          refine vv_aload_n dX5_town_77 rfl 0 rfl ?_
          refine vv_iconst (v := (nI 0)) dX5_town_78 (by decide) ?_
          refine vv_bipush (v := (nI 20)) dX5_town_79 (by decide) ?_
          replace h := isO_o h; obtain ⟨fz24, sz24, ez24, h⟩ := h
          replace h := bd_o h; obtain ⟨r23, er23, h⟩ := h
          rcases r23 with r25 | r25x
          · refine vv_callV ok_X5_number q969 (m_KX5_number hG hH er23 d) rfl (by omega) ⟨_, _, _, _, _, ez24, by rw [hG.1]; rfl⟩ rfl rfl (Nat.le_of_ble_eq_true rfl) dX5_town_81 ?_
            replace h := xb_l h
            replace h := bd_o h; obtain ⟨r26, er26, h⟩ := h
            refine vv_callS ok_J14_valueOf q977 (m_KJ14_valueOf hG hH er26 d) rfl (by omega) rfl rfl (Nat.le_of_ble_eq_true rfl) dX5_town_84 ?_
            replace h := isO_o h; obtain ⟨fz28, sz28, ez28, h⟩ := h
            replace h := bd_o h; obtain ⟨r27, er27, h⟩ := h
            refine vv_callF (xx := ⟨"java/util/List", "add", "(Ljava/lang/Object;)Z"⟩) okf_J2_add q998 (m_KJ2_add hG hH er27 d) rfl (by omega) ⟨_, _, _, _, _, ez28, by rw [hG.1]; rfl⟩ q361 (fun U hK => hH.1.2.2.1 U hK _ (List.mem_of_getElem? (i := 0) rfl)) ⟨by decide, by decide, by decide +kernel⟩ rfl rfl (Nat.le_of_ble_eq_true rfl) dX5_town_87 ?_
            refine vv_pop dX5_town_92 rfl ?_
            refine vv_aload_n dX5_town_93 rfl 0 rfl ?_
            replace h := gR_o h; obtain ⟨v29, fv29, sv29, ev29, lv29, h⟩ := h
            refine vv_get (fl_X5_18 hG) ev29 lv29 dX5_town_94 ?_
            replace h := gR_o h; obtain ⟨v30, fv30, sv30, ev30, lv30, h⟩ := h
            refine vv_getM (fl_X5_211 hH) ev30 lv30 dX5_town_97 ?_
            refine vv_iload_n dX5_town_100 rfl 2 rfl ?_
            replace h := bd_o h; obtain ⟨r31, er31, h⟩ := h
            refine vv_callS ok_J14_valueOf q977 (m_KJ14_valueOf hG hH er31 d) rfl (by omega) rfl rfl (Nat.le_of_ble_eq_true rfl) dX5_town_101 ?_
            replace h := isO_o h; obtain ⟨fz33, sz33, ez33, h⟩ := h
            replace h := bd_o h; obtain ⟨r32, er32, h⟩ := h
            refine vv_callF (xx := ⟨"java/util/List", "add", "(Ljava/lang/Object;)Z"⟩) okf_J2_add q998 (m_KJ2_add hG hH er32 d) rfl (by omega) ⟨_, _, _, _, _, ez33, by rw [hG.1]; rfl⟩ q361 (fun U hK => hH.1.2.2.1 U hK _ (List.mem_of_getElem? (i := 0) rfl)) ⟨by decide, by decide, by decide +kernel⟩ rfl rfl (Nat.le_of_ble_eq_true rfl) dX5_town_104 ?_
            refine vv_pop dX5_town_109 rfl ?_
            cases h
            exact vv_vret rfl dX5_town_110
          · cases h
            exact vv_callVX ok_X5_number q969 (m_KX5_number hG hH er23 d) rfl (by omega) ⟨_, _, _, _, _, ez24, by rw [hG.1]; rfl⟩ rfl rfl (Nat.le_of_ble_eq_true rfl) dX5_town_81 (vv_Tout (by intro x hx; cases hx))
        · cases h
          exact vv_callVX ok_X5_number q969 (m_KX5_number hG hH er18 d) rfl (by omega) ⟨_, _, _, _, _, ez19, by rw [hG.1]; rfl⟩ rfl rfl (Nat.le_of_ble_eq_true rfl) dX5_town_66 (vv_Tout (by intro x hx; cases hx))
      · cases h
        exact vv_callVX ok_X5_number q969 (m_KX5_number hG hH er14 d) rfl (by omega) ⟨_, _, _, _, _, ez15, by rw [hG.1]; rfl⟩ rfl rfl (Nat.le_of_ble_eq_true rfl) dX5_town_58 (vv_Tout (by intro x hx; cases hx))
    · cases h
      exact vv_callVX ok_X5_number q969 (m_KX5_number hG hH er8 d) rfl (by omega) ⟨_, _, _, _, _, ez9, by rw [hG.1]; rfl⟩ rfl rfl (Nat.le_of_ble_eq_true rfl) dX5_town_41 (vv_Tout (by intro x hx; cases hx))
  · cases h
    exact vv_callVX ok_X5_want q941 (m_KX5_want hG hH er1 d) rfl (by omega) ⟨_, _, _, _, _, ez2, by rw [hG.1]; rfl⟩ rfl rfl (Nat.le_of_ble_eq_true rfl) dX5_town_21 (vv_Tout (by intro x hx; cases hx))
def KX5_town (ad : Nat → Nat) (x0 : Nat) (σ : vv_S) : Option (hX vv_S) := (gR σ x0 4 1).bind fun v1 => (isO σ v1 1).bind fun _ => (KX2_towns v1 σ).bind fun r2 => if (nI 8) ≤ r2 then (KX5_town_20 ad x0 (nI 0) x0 r2 σ) else (KX5_town_20 ad x0 (nI 1) x0 r2 σ)
theorem v_KX5_town_0 {l : Launch} {G : vv_G} {d : Nat} {ad : Nat → Nat} (hG : vv_gok G) (hH : vv_hy l G ad) {x0 : Nat} {σ : vv_S} {r : hX vv_S} (h : KX5_town ad x0 σ = some r) : vv_V l G MX5_town (d + 8) 0 [(0, .ref x0)] [] σ (xU r) := by
  unfold KX5_town at h
  refine vv_aload_n dX5_town_0 rfl 0 rfl ?_
  replace h := gR_o h; obtain ⟨v1, fv1, sv1, ev1, lv1, h⟩ := h
  refine vv_get (fl_X5_18 hG) ev1 lv1 dX5_town_1 ?_
  replace h := isO_o h; obtain ⟨fz3, sz3, ez3, h⟩ := h
  replace h := bd_o h; obtain ⟨r2, er2, h⟩ := h
  refine vv_callV ok_X2_towns q940 (m_KX2_towns hG hH er2 d) rfl (by omega) ⟨_, _, _, _, _, ez3, by rw [hG.1]; rfl⟩ rfl rfl (Nat.le_of_ble_eq_true rfl) dX5_town_4 ?_
  refine vv_istore_n (lv' := [(0, .ref x0), (1, .int r2)]) dX5_town_7 rfl (by decide) [1, 0] rfl ?_
  refine vv_aload_n dX5_town_8 rfl 0 rfl ?_
  refine vv_iload_n dX5_town_9 rfl 1 rfl ?_
  refine vv_bipush (v := (nI 8)) dX5_town_10 (by decide) ?_
  refine vv_icmp_ge (tgt := 19) dX5_town_12 (by decide) (fun c4 => ?_) (fun c4 => ?_)
  · rw [if_pos c4] at h
    refine vv_iconst (v := (nI 0)) dX5_town_19 (by decide) ?_
    exact v_KX5_town_20 hG hH h
  · rw [if_neg c4] at h
    refine vv_iconst (v := (nI 1)) dX5_town_15 (by decide) ?_
    refine vv_goto (tgt := 20) dX5_town_16 (by decide) ?_
    exact v_KX5_town_20 hG hH h
theorem m_KX5_town {l : Launch} {G : vv_G} {ad : Nat → Nat} (hG : vv_gok G) (hH : vv_hy l G ad) {x0 : Nat} {σ : vv_S} {r : hX vv_S} (h : KX5_town ad x0 σ = some r) (d : Nat) : vv_Met l G MX5_town (d + 8) [.ref x0] σ (xU r) := vv_head (by decide +kernel) rfl (Nat.le_of_ble_eq_true rfl) rfl (v_KX5_town_0 hG hH h)
/-! ('X5', 'townNow') -/
def KX5_townNow_26 (s0 : Nat) (s1 : Int32) (x1 : Int32) (σ : vv_S) : Option (hX (Int32 × vv_S)) := (isO σ s0 4).bind fun _ => (KX5_want s0 s1 (nI 3) σ).bind fun r1 => xb r1 fun r3 => some (.inl (x1, r3))
theorem v_KX5_townNow_26 {l : Launch} {G : vv_G} {d : Nat} {ad : Nat → Nat} (hG : vv_gok G) (hH : vv_hy l G ad) {s0 : Nat} {s1 : Int32} {x1 : Int32} {σ : vv_S} {r : hX (Int32 × vv_S)} (h : KX5_townNow_26 s0 s1 x1 σ = some r) : vv_V l G MX5_townNow (d + 7) 26 [(1, .int x1)] [.int s1, .ref s0] σ (xI r) := by
  unfold KX5_townNow_26 at h
  refine vv_iconst (v := (nI 3)) dX5_townNow_26 (by decide) ?_
  replace h := isO_o h; obtain ⟨fz2, sz2, ez2, h⟩ := h
  replace h := bd_o h; obtain ⟨r1, er1, h⟩ := h
  rcases r1 with r3 | r3x
  · refine vv_callV ok_X5_want q941 (m_KX5_want hG hH er1 d) rfl (by omega) ⟨_, _, _, _, _, ez2, by rw [hG.1]; rfl⟩ rfl rfl (Nat.le_of_ble_eq_true rfl) dX5_townNow_27 ?_
    replace h := xb_l h
    refine vv_iload_n dX5_townNow_30 rfl 0 rfl ?_
    cases h
    exact vv_iret rfl dX5_townNow_31
  · cases h
    exact vv_callVX ok_X5_want q941 (m_KX5_want hG hH er1 d) rfl (by omega) ⟨_, _, _, _, _, ez2, by rw [hG.1]; rfl⟩ rfl rfl (Nat.le_of_ble_eq_true rfl) dX5_townNow_27 (vv_Tout (by intro x hx; cases hx))
def KX5_townNow (x0 : Nat) (σ : vv_S) : Option (hX (Int32 × vv_S)) := (isO σ x0 4).bind fun _ => (KX5_numberNow x0 (nI 0) (nI 9999) σ).bind fun r1 => xb r1 fun r3 => (gR r3.2 x0 4 1).bind fun v4 => (isO r3.2 v4 1).bind fun _ => (KX2_towns v4 r3.2).bind fun r5 => if r5 ≤ r3.1 then (KX5_townNow_26 x0 (nI 0) r3.1 r3.2) else (KX5_townNow_26 x0 (nI 1) r3.1 r3.2)
theorem v_KX5_townNow_0 {l : Launch} {G : vv_G} {d : Nat} {ad : Nat → Nat} (hG : vv_gok G) (hH : vv_hy l G ad) {x0 : Nat} {σ : vv_S} {r : hX (Int32 × vv_S)} (h : KX5_townNow x0 σ = some r) : vv_V l G MX5_townNow (d + 7) 0 [(0, .ref x0)] [] σ (xI r) := by
  unfold KX5_townNow at h
  refine vv_aload_n dX5_townNow_0 rfl 0 rfl ?_
  refine vv_iconst (v := (nI 0)) dX5_townNow_1 (by decide) ?_
  refine vv_sipush (v := (nI 9999)) dX5_townNow_2 (by decide) ?_
  replace h := isO_o h; obtain ⟨fz2, sz2, ez2, h⟩ := h
  replace h := bd_o h; obtain ⟨r1, er1, h⟩ := h
  rcases r1 with r3 | r3x
  · refine vv_callV ok_X5_numberNow q973 (m_KX5_numberNow hG hH er1 d) rfl (by omega) ⟨_, _, _, _, _, ez2, by rw [hG.1]; rfl⟩ rfl rfl (Nat.le_of_ble_eq_true rfl) dX5_townNow_5 ?_
    replace h := xb_l h
    refine vv_istore_n (lv' := [(0, .ref x0), (1, .int r3.1)]) dX5_townNow_8 rfl (by decide) [1, 0] rfl ?_
    refine vv_aload_n dX5_townNow_9 rfl 0 rfl ?_
    refine vv_iload_n dX5_townNow_10 rfl 1 rfl ?_
    refine vv_aload_n dX5_townNow_11 rfl 0 rfl ?_
    replace h := gR_o h; obtain ⟨v4, fv4, sv4, ev4, lv4, h⟩ := h
    refine vv_get (fl_X5_18 hG) ev4 lv4 dX5_townNow_12 ?_
    replace h := isO_o h; obtain ⟨fz6, sz6, ez6, h⟩ := h
    replace h := bd_o h; obtain ⟨r5, er5, h⟩ := h
    refine vv_callV ok_X2_towns q940 (m_KX2_towns hG hH er5 d) rfl (by omega) ⟨_, _, _, _, _, ez6, by rw [hG.1]; rfl⟩ rfl rfl (Nat.le_of_ble_eq_true rfl) dX5_townNow_15 ?_
    refine vv_icmp_ge (tgt := 25) dX5_townNow_18 (by decide) (fun c7 => ?_) (fun c7 => ?_)
    · rw [if_pos c7] at h
      refine vv_iconst (v := (nI 0)) dX5_townNow_25 (by decide) ?_
      refine vv_sub (lv' := [(1, .int r3.1)]) [1] rfl ?_
      exact v_KX5_townNow_26 hG hH h
    · rw [if_neg c7] at h
      refine vv_iconst (v := (nI 1)) dX5_townNow_21 (by decide) ?_
      refine vv_goto (tgt := 26) dX5_townNow_22 (by decide) ?_
      refine vv_sub (lv' := [(1, .int r3.1)]) [1] rfl ?_
      exact v_KX5_townNow_26 hG hH h
  · cases h
    exact vv_callVX ok_X5_numberNow q973 (m_KX5_numberNow hG hH er1 d) rfl (by omega) ⟨_, _, _, _, _, ez2, by rw [hG.1]; rfl⟩ rfl rfl (Nat.le_of_ble_eq_true rfl) dX5_townNow_5 (vv_Tout (by intro x hx; cases hx))
theorem m_KX5_townNow {l : Launch} {G : vv_G} {ad : Nat → Nat} (hG : vv_gok G) (hH : vv_hy l G ad) {x0 : Nat} {σ : vv_S} {r : hX (Int32 × vv_S)} (h : KX5_townNow x0 σ = some r) (d : Nat) : vv_Met l G MX5_townNow (d + 7) [.ref x0] σ (xI r) := vv_head (by decide +kernel) rfl (Nat.le_of_ble_eq_true rfl) rfl (v_KX5_townNow_0 hG hH h)
/-! ('X7', 'init') -/
def KX7_init (x0 : Nat) (x1 : Int32) (x2 : Int32) (x3 : Int32) (x4 : Int32) (σ : vv_S) : Option vv_S := (pF σ x0 6 0 (.int x1)).bind fun σ1 => (pF σ1 x0 6 1 (.int x2)).bind fun σ2 => (pF σ2 x0 6 2 (.int x3)).bind fun σ3 => (pF σ3 x0 6 3 (.int x4)).bind fun σ4 => some σ4
theorem v_KX7_init_0 {l : Launch} {G : vv_G} {d : Nat} {ad : Nat → Nat} (hG : vv_gok G) (hH : vv_hy l G ad) {x0 : Nat} {x1 : Int32} {x2 : Int32} {x3 : Int32} {x4 : Int32} {σ : vv_S} {r : vv_S} (h : KX7_init x0 x1 x2 x3 x4 σ = some r) : vv_V l G MX7_init (d + 1) 0 [(0, .ref x0), (1, .int x1), (2, .int x2), (3, .int x3), (4, .int x4)] [] σ (.inl none, r) := by
  unfold KX7_init at h
  refine vv_aload_n dX7_init_0 rfl 0 rfl ?_
  refine vv_objinit q1023 q149 q150 (by omega) (Nat.le_of_ble_eq_true rfl) dX7_init_1 ?_
  refine vv_aload_n dX7_init_4 rfl 0 rfl ?_
  refine vv_iload_n dX7_init_5 rfl 1 rfl ?_
  replace h := pF_o h; obtain ⟨σ1, sσ1, eσ1, lσ1, uσ1, h⟩ := h
  refine vv_putf (pt_X7_9 hG) (Or.inl rfl) eσ1 rfl rfl lσ1 dX7_init_6 ?_
  refine vv_sg uσ1 ?_
  refine vv_aload_n dX7_init_9 rfl 0 rfl ?_
  refine vv_iload_n dX7_init_10 rfl 2 rfl ?_
  replace h := pF_o h; obtain ⟨σ2, sσ2, eσ2, lσ2, uσ2, h⟩ := h
  refine vv_putf (pt_X7_15 hG) (Or.inl rfl) eσ2 rfl rfl lσ2 dX7_init_11 ?_
  refine vv_sg uσ2 ?_
  refine vv_aload_n dX7_init_14 rfl 0 rfl ?_
  refine vv_iload_n dX7_init_15 rfl 3 rfl ?_
  replace h := pF_o h; obtain ⟨σ3, sσ3, eσ3, lσ3, uσ3, h⟩ := h
  refine vv_putf (pt_X7_18 hG) (Or.inl rfl) eσ3 rfl rfl lσ3 dX7_init_16 ?_
  refine vv_sg uσ3 ?_
  refine vv_aload_n dX7_init_19 rfl 0 rfl ?_
  refine vv_iload dX7_init_20 4 rfl ?_
  replace h := pF_o h; obtain ⟨σ4, sσ4, eσ4, lσ4, uσ4, h⟩ := h
  refine vv_putf (pt_X7_21 hG) (Or.inl rfl) eσ4 rfl rfl lσ4 dX7_init_22 ?_
  refine vv_sg uσ4 ?_
  cases h
  exact vv_vret rfl dX7_init_25
theorem m_KX7_init {l : Launch} {G : vv_G} {ad : Nat → Nat} (hG : vv_gok G) (hH : vv_hy l G ad) {x0 : Nat} {x1 : Int32} {x2 : Int32} {x3 : Int32} {x4 : Int32} {σ : vv_S} {r : vv_S} (h : KX7_init x0 x1 x2 x3 x4 σ = some r) (d : Nat) : vv_Met l G MX7_init (d + 1) [.ref x0, .int x1, .int x2, .int x3, .int x4] σ (.inl none, r) := vv_head (by decide +kernel) rfl (Nat.le_of_ble_eq_true rfl) rfl (v_KX7_init_0 hG hH h)
/-! ('X5', 'way') -/
def KX5_way_68 (ad : Nat → Nat) (s0 : Nat) (s1 : Int32) (x0 : Nat) (x1 : Int32) (x2 : Int32) (σ : vv_S) : Option (hX vv_S) := (isO σ s0 4).bind fun _ => (KX5_want s0 s1 (nI 4) σ).bind fun r1 => xb r1 fun r3 => (isO r3 x0 4).bind fun _ => (KX5_next ad x0 r3).bind fun r4 => (isO r4 x0 4).bind fun _ => (KX5_number ad x0 (nI 1) (nI 9) r4).bind fun r6 => xb r6 fun r8 => (gR r8.2 x0 4 1).bind fun v9 => (gR r8.2 v9 1 2).bind fun v10 => (some (nwO r8.2 6 [.int 0, .int 0, .int 0, .int 0] 4)).bind fun σ11 => (isO σ11 x0 4).bind fun _ => (KX5_number ad x0 (nI 0) (nI 9) σ11).bind fun r12 => xb r12 fun r14 => (KX7_init r8.2.2.1 x1 x2 r8.1 r14.1 r14.2).bind fun r15 => (isO r15 v10 11).bind fun _ => (KJ2_add ad v10 r8.2.2.1 r15).bind fun r16 => some (.inl r16.2)
theorem v_KX5_way_68 {l : Launch} {G : vv_G} {d : Nat} {ad : Nat → Nat} (hG : vv_gok G) (hH : vv_hy l G ad) {s0 : Nat} {s1 : Int32} {x0 : Nat} {x1 : Int32} {x2 : Int32} {σ : vv_S} {r : hX vv_S} (h : KX5_way_68 ad s0 s1 x0 x1 x2 σ = some r) : vv_V l G MX5_way (d + 8) 68 [(0, .ref x0), (1, .int x1), (2, .int x2)] [.int s1, .ref s0] σ (xU r) := by
  unfold KX5_way_68 at h
  refine vv_iconst (v := (nI 4)) dX5_way_68 (by decide) ?_
  replace h := isO_o h; obtain ⟨fz2, sz2, ez2, h⟩ := h
  replace h := bd_o h; obtain ⟨r1, er1, h⟩ := h
  rcases r1 with r3 | r3x
  · refine vv_callV ok_X5_want q941 (m_KX5_want hG hH er1 d) rfl (by omega) ⟨_, _, _, _, _, ez2, by rw [hG.1]; rfl⟩ rfl rfl (Nat.le_of_ble_eq_true rfl) dX5_way_69 ?_
    replace h := xb_l h
    refine vv_aload_n dX5_way_72 rfl 0 rfl ?_
    replace h := isO_o h; obtain ⟨fz5, sz5, ez5, h⟩ := h
    replace h := bd_o h; obtain ⟨r4, er4, h⟩ := h
    refine vv_callV ok_X5_next q822 (m_KX5_next hG hH er4 d) rfl (by omega) ⟨_, _, _, _, _, ez5, by rw [hG.1]; rfl⟩ rfl rfl (Nat.le_of_ble_eq_true rfl) dX5_way_73 ?_
    refine vv_aload_n dX5_way_76 rfl 0 rfl ?_
    refine vv_iconst (v := (nI 1)) dX5_way_77 (by decide) ?_
    refine vv_bipush (v := (nI 9)) dX5_way_78 (by decide) ?_
    replace h := isO_o h; obtain ⟨fz7, sz7, ez7, h⟩ := h
    replace h := bd_o h; obtain ⟨r6, er6, h⟩ := h
    rcases r6 with r8 | r8x
    · refine vv_callV ok_X5_number q969 (m_KX5_number hG hH er6 d) rfl (by omega) ⟨_, _, _, _, _, ez7, by rw [hG.1]; rfl⟩ rfl rfl (Nat.le_of_ble_eq_true rfl) dX5_way_80 ?_
      replace h := xb_l h
      refine vv_istore_n (lv' := [(0, .ref x0), (1, .int x1), (2, .int x2), (3, .int r8.1)]) dX5_way_83 rfl (by decide) [1, 2, 3, 0] rfl ?_
      refine vv_aload_n dX5_way_84 rfl 0 rfl ?_
      replace h := gR_o h; obtain ⟨v9, fv9, sv9, ev9, lv9, h⟩ := h
      refine vv_get (fl_X5_18 hG) ev9 lv9 dX5_way_85 ?_
      replace h := gR_o h; obtain ⟨v10, fv10, sv10, ev10, lv10, h⟩ := h
      refine vv_getM (fl_X5_213 hH) ev10 lv10 dX5_way_88 ?_
      obtain ⟨σ11, uσ11, h⟩ := bd_s h
      refine vv_new (nw_X5_225 hG) dX5_way_91 ?_
      refine vv_sg uσ11 ?_
      refine vv_dup dX5_way_94 rfl ?_
      refine vv_iload_n dX5_way_95 rfl 1 rfl ?_
      refine vv_iload_n dX5_way_96 rfl 2 rfl ?_
      refine vv_iload_n dX5_way_97 rfl 3 rfl ?_
      refine vv_aload_n dX5_way_98 rfl 0 rfl ?_
      refine vv_iconst (v := (nI 0)) dX5_way_99 (by decide) ?_
      refine vv_bipush (v := (nI 9)) dX5_way_100 (by decide) ?_
      replace h := isO_o h; obtain ⟨fz13, sz13, ez13, h⟩ := h
      replace h := bd_o h; obtain ⟨r12, er12, h⟩ := h
      rcases r12 with r14 | r14x
      · refine vv_callV ok_X5_number q969 (m_KX5_number hG hH er12 d) rfl (by omega) ⟨_, _, _, _, _, ez13, by rw [hG.1]; rfl⟩ rfl rfl (Nat.le_of_ble_eq_true rfl) dX5_way_102 ?_
        replace h := xb_l h
        replace h := bd_o h; obtain ⟨r15, er15, h⟩ := h
        refine vv_callI ok_X7_init q1020 (m_KX7_init hG hH er15 d) rfl (by omega) rfl rfl (Nat.le_of_ble_eq_true rfl) dX5_way_105 ?_
        replace h := isO_o h; obtain ⟨fz17, sz17, ez17, h⟩ := h
        replace h := bd_o h; obtain ⟨r16, er16, h⟩ := h
        refine vv_callF (xx := ⟨"java/util/List", "add", "(Ljava/lang/Object;)Z"⟩) okf_J2_add q998 (m_KJ2_add hG hH er16 d) rfl (by omega) ⟨_, _, _, _, _, ez17, by rw [hG.1]; rfl⟩ q361 (fun U hK => hH.1.2.2.1 U hK _ (List.mem_of_getElem? (i := 0) rfl)) ⟨by decide, by decide, by decide +kernel⟩ rfl rfl (Nat.le_of_ble_eq_true rfl) dX5_way_108 ?_
        refine vv_pop dX5_way_113 rfl ?_
        cases h
        exact vv_vret rfl dX5_way_114
      · cases h
        exact vv_callVX ok_X5_number q969 (m_KX5_number hG hH er12 d) rfl (by omega) ⟨_, _, _, _, _, ez13, by rw [hG.1]; rfl⟩ rfl rfl (Nat.le_of_ble_eq_true rfl) dX5_way_102 (vv_Tout (by intro x hx; cases hx))
    · cases h
      exact vv_callVX ok_X5_number q969 (m_KX5_number hG hH er6 d) rfl (by omega) ⟨_, _, _, _, _, ez7, by rw [hG.1]; rfl⟩ rfl rfl (Nat.le_of_ble_eq_true rfl) dX5_way_80 (vv_Tout (by intro x hx; cases hx))
  · cases h
    exact vv_callVX ok_X5_want q941 (m_KX5_want hG hH er1 d) rfl (by omega) ⟨_, _, _, _, _, ez2, by rw [hG.1]; rfl⟩ rfl rfl (Nat.le_of_ble_eq_true rfl) dX5_way_69 (vv_Tout (by intro x hx; cases hx))
def KX5_way_67 (ad : Nat → Nat) (s0 : Nat) (x0 : Nat) (x1 : Int32) (x2 : Int32) (σ : vv_S) : Option (hX vv_S) := KX5_way_68 ad s0 (nI 0) x0 x1 x2 σ
theorem v_KX5_way_67 {l : Launch} {G : vv_G} {d : Nat} {ad : Nat → Nat} (hG : vv_gok G) (hH : vv_hy l G ad) {s0 : Nat} {x0 : Nat} {x1 : Int32} {x2 : Int32} {σ : vv_S} {r : hX vv_S} (h : KX5_way_67 ad s0 x0 x1 x2 σ = some r) : vv_V l G MX5_way (d + 8) 67 [(0, .ref x0), (1, .int x1), (2, .int x2)] [.ref s0] σ (xU r) := by
  unfold KX5_way_67 at h
  refine vv_iconst (v := (nI 0)) dX5_way_67 (by decide) ?_
  exact v_KX5_way_68 hG hH h
def KX5_way_23 (ad : Nat → Nat) (s0 : Nat) (s1 : Int32) (x0 : Nat) (σ : vv_S) : Option (hX vv_S) := (isO σ s0 4).bind fun _ => (KX5_want s0 s1 (nI 2) σ).bind fun r1 => xb r1 fun r3 => (isO r3 x0 4).bind fun _ => (KX5_next ad x0 r3).bind fun r4 => (isO r4 x0 4).bind fun _ => (KX5_townNow x0 r4).bind fun r6 => xb r6 fun r8 => (isO r8.2 x0 4).bind fun _ => (KX5_next ad x0 r8.2).bind fun r9 => (isO r9 x0 4).bind fun _ => (KX5_townNow x0 r9).bind fun r11 => xb r11 fun r13 => if r8.1 = r13.1 then (KX5_way_67 ad x0 x0 r8.1 r13.1 r13.2) else ((gR r13.2 x0 4 1).bind fun v15 => (isO r13.2 v15 1).bind fun _ => (KX2_isJoined v15 r8.1 r13.1 r13.2).bind fun r16 => if r16 = 0 then (KX5_way_68 ad x0 (nI 1) x0 r8.1 r13.1 r13.2) else (KX5_way_67 ad x0 x0 r8.1 r13.1 r13.2))
theorem v_KX5_way_23 {l : Launch} {G : vv_G} {d : Nat} {ad : Nat → Nat} (hG : vv_gok G) (hH : vv_hy l G ad) {s0 : Nat} {s1 : Int32} {x0 : Nat} {σ : vv_S} {r : hX vv_S} (h : KX5_way_23 ad s0 s1 x0 σ = some r) : vv_V l G MX5_way (d + 8) 23 [(0, .ref x0)] [.int s1, .ref s0] σ (xU r) := by
  unfold KX5_way_23 at h
  refine vv_iconst (v := (nI 2)) dX5_way_23 (by decide) ?_
  replace h := isO_o h; obtain ⟨fz2, sz2, ez2, h⟩ := h
  replace h := bd_o h; obtain ⟨r1, er1, h⟩ := h
  rcases r1 with r3 | r3x
  · refine vv_callV ok_X5_want q941 (m_KX5_want hG hH er1 d) rfl (by omega) ⟨_, _, _, _, _, ez2, by rw [hG.1]; rfl⟩ rfl rfl (Nat.le_of_ble_eq_true rfl) dX5_way_24 ?_
    replace h := xb_l h
    refine vv_aload_n dX5_way_27 rfl 0 rfl ?_
    replace h := isO_o h; obtain ⟨fz5, sz5, ez5, h⟩ := h
    replace h := bd_o h; obtain ⟨r4, er4, h⟩ := h
    refine vv_callV ok_X5_next q822 (m_KX5_next hG hH er4 d) rfl (by omega) ⟨_, _, _, _, _, ez5, by rw [hG.1]; rfl⟩ rfl rfl (Nat.le_of_ble_eq_true rfl) dX5_way_28 ?_
    refine vv_aload_n dX5_way_31 rfl 0 rfl ?_
    replace h := isO_o h; obtain ⟨fz7, sz7, ez7, h⟩ := h
    replace h := bd_o h; obtain ⟨r6, er6, h⟩ := h
    rcases r6 with r8 | r8x
    · refine vv_callV ok_X5_townNow q1006 (m_KX5_townNow hG hH er6 d) rfl (by omega) ⟨_, _, _, _, _, ez7, by rw [hG.1]; rfl⟩ rfl rfl (Nat.le_of_ble_eq_true rfl) dX5_way_32 ?_
      replace h := xb_l h
      refine vv_istore_n (lv' := [(0, .ref x0), (1, .int r8.1)]) dX5_way_35 rfl (by decide) [1, 0] rfl ?_
      refine vv_aload_n dX5_way_36 rfl 0 rfl ?_
      replace h := isO_o h; obtain ⟨fz10, sz10, ez10, h⟩ := h
      replace h := bd_o h; obtain ⟨r9, er9, h⟩ := h
      refine vv_callV ok_X5_next q822 (m_KX5_next hG hH er9 d) rfl (by omega) ⟨_, _, _, _, _, ez10, by rw [hG.1]; rfl⟩ rfl rfl (Nat.le_of_ble_eq_true rfl) dX5_way_37 ?_
      refine vv_aload_n dX5_way_40 rfl 0 rfl ?_
      replace h := isO_o h; obtain ⟨fz12, sz12, ez12, h⟩ := h
      replace h := bd_o h; obtain ⟨r11, er11, h⟩ := h
      rcases r11 with r13 | r13x
      · refine vv_callV ok_X5_townNow q1006 (m_KX5_townNow hG hH er11 d) rfl (by omega) ⟨_, _, _, _, _, ez12, by rw [hG.1]; rfl⟩ rfl rfl (Nat.le_of_ble_eq_true rfl) dX5_way_41 ?_
        replace h := xb_l h
        refine vv_istore_n (lv' := [(0, .ref x0), (1, .int r8.1), (2, .int r13.1)]) dX5_way_44 rfl (by decide) [1, 2, 0] rfl ?_
        refine vv_aload_n dX5_way_45 rfl 0 rfl ?_
        refine vv_iload_n dX5_way_46 rfl 1 rfl ?_
        refine vv_iload_n dX5_way_47 rfl 2 rfl ?_
        refine vv_icmp_eq (tgt := 67) dX5_way_48 (by decide) (fun c14 => ?_) (fun c14 => ?_)
        · rw [if_pos c14] at h
          exact v_KX5_way_67 hG hH h
        · rw [if_neg c14] at h
          refine vv_aload_n dX5_way_51 rfl 0 rfl ?_
          replace h := gR_o h; obtain ⟨v15, fv15, sv15, ev15, lv15, h⟩ := h
          refine vv_get (fl_X5_18 hG) ev15 lv15 dX5_way_52 ?_
          refine vv_iload_n dX5_way_55 rfl 1 rfl ?_
          refine vv_iload_n dX5_way_56 rfl 2 rfl ?_
          replace h := isO_o h; obtain ⟨fz17, sz17, ez17, h⟩ := h
          replace h := bd_o h; obtain ⟨r16, er16, h⟩ := h
          refine vv_callV ok_X2_isJoined q1010 (m_KX2_isJoined hG hH er16 d) rfl (by omega) ⟨_, _, _, _, _, ez17, by rw [hG.1]; rfl⟩ rfl rfl (Nat.le_of_ble_eq_true rfl) dX5_way_57 ?_
          refine vv_if_ne (tgt := 67) dX5_way_60 (by decide) (fun c18 => ?_) (fun c18 => ?_)
          · rw [if_neg c18] at h
            exact v_KX5_way_67 hG hH h
          · rw [if_pos c18] at h
            refine vv_iconst (v := (nI 1)) dX5_way_63 (by decide) ?_
            refine vv_goto (tgt := 68) dX5_way_64 (by decide) ?_
            exact v_KX5_way_68 hG hH h
      · cases h
        exact vv_callVX ok_X5_townNow q1006 (m_KX5_townNow hG hH er11 d) rfl (by omega) ⟨_, _, _, _, _, ez12, by rw [hG.1]; rfl⟩ rfl rfl (Nat.le_of_ble_eq_true rfl) dX5_way_41 (vv_Tout (by intro x hx; cases hx))
    · cases h
      exact vv_callVX ok_X5_townNow q1006 (m_KX5_townNow hG hH er6 d) rfl (by omega) ⟨_, _, _, _, _, ez7, by rw [hG.1]; rfl⟩ rfl rfl (Nat.le_of_ble_eq_true rfl) dX5_way_32 (vv_Tout (by intro x hx; cases hx))
  · cases h
    exact vv_callVX ok_X5_want q941 (m_KX5_want hG hH er1 d) rfl (by omega) ⟨_, _, _, _, _, ez2, by rw [hG.1]; rfl⟩ rfl rfl (Nat.le_of_ble_eq_true rfl) dX5_way_24 (vv_Tout (by intro x hx; cases hx))
def KX5_way (ad : Nat → Nat) (x0 : Nat) (σ : vv_S) : Option (hX vv_S) := (gR σ x0 4 1).bind fun v1 => (gR σ v1 1 2).bind fun v2 => (isO σ v2 11).bind fun _ => (KJ2_size v2 σ).bind fun r3 => if (nI 12) ≤ r3 then (KX5_way_23 ad x0 (nI 0) x0 σ) else (KX5_way_23 ad x0 (nI 1) x0 σ)
theorem v_KX5_way_0 {l : Launch} {G : vv_G} {d : Nat} {ad : Nat → Nat} (hG : vv_gok G) (hH : vv_hy l G ad) {x0 : Nat} {σ : vv_S} {r : hX vv_S} (h : KX5_way ad x0 σ = some r) : vv_V l G MX5_way (d + 8) 0 [(0, .ref x0)] [] σ (xU r) := by
  unfold KX5_way at h
  refine vv_aload_n dX5_way_0 rfl 0 rfl ?_
  refine vv_aload_n dX5_way_1 rfl 0 rfl ?_
  replace h := gR_o h; obtain ⟨v1, fv1, sv1, ev1, lv1, h⟩ := h
  refine vv_get (fl_X5_18 hG) ev1 lv1 dX5_way_2 ?_
  replace h := gR_o h; obtain ⟨v2, fv2, sv2, ev2, lv2, h⟩ := h
  refine vv_getM (fl_X5_213 hH) ev2 lv2 dX5_way_5 ?_
  replace h := isO_o h; obtain ⟨fz4, sz4, ez4, h⟩ := h
  replace h := bd_o h; obtain ⟨r3, er3, h⟩ := h
  refine vv_callF (xx := ⟨"java/util/List", "size", "()I"⟩) okf_J2_size q1005 (m_KJ2_size hG hH er3 d) rfl (by omega) ⟨_, _, _, _, _, ez4, by rw [hG.1]; rfl⟩ q429 (fun U hK => hH.1.2.2.1 U hK _ (List.mem_of_getElem? (i := 1) rfl)) ⟨by decide, by decide, by decide +kernel⟩ rfl rfl (Nat.le_of_ble_eq_true rfl) dX5_way_8 ?_
  refine vv_bipush (v := (nI 12)) dX5_way_13 (by decide) ?_
  refine vv_icmp_ge (tgt := 22) dX5_way_15 (by decide) (fun c5 => ?_) (fun c5 => ?_)
  · rw [if_pos c5] at h
    refine vv_iconst (v := (nI 0)) dX5_way_22 (by decide) ?_
    exact v_KX5_way_23 hG hH h
  · rw [if_neg c5] at h
    refine vv_iconst (v := (nI 1)) dX5_way_18 (by decide) ?_
    refine vv_goto (tgt := 23) dX5_way_19 (by decide) ?_
    exact v_KX5_way_23 hG hH h
theorem m_KX5_way {l : Launch} {G : vv_G} {ad : Nat → Nat} (hG : vv_gok G) (hH : vv_hy l G ad) {x0 : Nat} {σ : vv_S} {r : hX vv_S} (h : KX5_way ad x0 σ = some r) (d : Nat) : vv_Met l G MX5_way (d + 8) [.ref x0] σ (xU r) := vv_head (by decide +kernel) rfl (Nat.le_of_ble_eq_true rfl) rfl (v_KX5_way_0 hG hH h)
/-! ('X5', 'passes') -/
def KX5_passes_14 (ad : Nat → Nat) (x2 : Int32) (σ : vv_S) : Option (Int32 × vv_S) := (zrI x2).bind fun v1 => some (v1, σ)
theorem v_KX5_passes_14 {l : Launch} {G : vv_G} {d : Nat} {ad : Nat → Nat} (hG : vv_gok G) (hH : vv_hy l G ad) {x2 : Int32} {σ : vv_S} {r : Int32 × vv_S} (h : KX5_passes_14 ad x2 σ = some r) : vv_V l G MX5_passes (d + 5) 14 [(2, .int x2)] [] σ (.inl (some (.int r.1)), r.2) := by
  unfold KX5_passes_14 at h
  refine vv_iload_n dX5_passes_14 rfl 0 rfl ?_
  replace h := zr_o h; obtain ⟨zv1, h⟩ := h
  cases h
  exact vv_zret rfl zv1 dX5_passes_15
def KX5_passes (ad : Nat → Nat) (x0 : Nat) (x1 : Nat) (σ : vv_S) : Option (Int32 × vv_S) := (isO σ x0 4).bind fun _ => (KX5_is x0 x1 σ).bind fun r1 => if r1 = 0 then (KX5_passes_14 ad r1 σ) else ((isO σ x0 4).bind fun _ => (KX5_next ad x0 σ).bind fun r4 => KX5_passes_14 ad r1 r4)
theorem v_KX5_passes_0 {l : Launch} {G : vv_G} {d : Nat} {ad : Nat → Nat} (hG : vv_gok G) (hH : vv_hy l G ad) {x0 : Nat} {x1 : Nat} {σ : vv_S} {r : Int32 × vv_S} (h : KX5_passes ad x0 x1 σ = some r) : vv_V l G MX5_passes (d + 5) 0 [(0, .ref x0), (1, .ref x1)] [] σ (.inl (some (.int r.1)), r.2) := by
  unfold KX5_passes at h
  refine vv_aload_n dX5_passes_0 rfl 0 rfl ?_
  refine vv_aload_n dX5_passes_1 rfl 1 rfl ?_
  replace h := isO_o h; obtain ⟨fz2, sz2, ez2, h⟩ := h
  replace h := bd_o h; obtain ⟨r1, er1, h⟩ := h
  refine vv_callV ok_X5_is q916 (m_KX5_is hG hH er1 d) rfl (by omega) ⟨_, _, _, _, _, ez2, by rw [hG.1]; rfl⟩ rfl rfl (Nat.le_of_ble_eq_true rfl) dX5_passes_2 ?_
  refine vv_istore_n (lv' := [(0, .ref x0), (1, .ref x1), (2, .int r1)]) dX5_passes_5 rfl (by decide) [1, 2, 0] rfl ?_
  refine vv_iload_n dX5_passes_6 rfl 2 rfl ?_
  refine vv_if_eq (tgt := 14) dX5_passes_7 (by decide) (fun c3 => ?_) (fun c3 => ?_)
  · rw [if_pos c3] at h
    refine vv_sub (lv' := [(2, .int r1)]) [2] rfl ?_
    exact v_KX5_passes_14 hG hH h
  · rw [if_neg c3] at h
    refine vv_aload_n dX5_passes_10 rfl 0 rfl ?_
    replace h := isO_o h; obtain ⟨fz5, sz5, ez5, h⟩ := h
    replace h := bd_o h; obtain ⟨r4, er4, h⟩ := h
    refine vv_callV ok_X5_next q822 (m_KX5_next hG hH er4 d) rfl (by omega) ⟨_, _, _, _, _, ez5, by rw [hG.1]; rfl⟩ rfl rfl (Nat.le_of_ble_eq_true rfl) dX5_passes_11 ?_
    refine vv_sub (lv' := [(2, .int r1)]) [2] rfl ?_
    exact v_KX5_passes_14 hG hH h
theorem m_KX5_passes {l : Launch} {G : vv_G} {ad : Nat → Nat} (hG : vv_gok G) (hH : vv_hy l G ad) {x0 : Nat} {x1 : Nat} {σ : vv_S} {r : Int32 × vv_S} (h : KX5_passes ad x0 x1 σ = some r) (d : Nat) : vv_Met l G MX5_passes (d + 5) [.ref x0, .ref x1] σ (.inl (some (.int r.1)), r.2) := vv_head (by decide +kernel) rfl (Nat.le_of_ble_eq_true rfl) rfl (v_KX5_passes_0 hG hH h)
/-! ('X5', 'crate') -/
def KX5_crate_101 (ad : Nat → Nat) (s0 : Nat) (s1 : Int32) (s2 : Int32) (x0 : Nat) (σ : vv_S) : Option (hX vv_S) := (sI σ s0 s1 s2).bind fun σ1 => (gR σ1 x0 4 1).bind fun v2 => (gI σ1 v2 1 3).bind fun v3 => (pF σ1 v2 1 3 (.int (v3 + (nI 1)))).bind fun σ4 => some (.inl σ4)
theorem v_KX5_crate_101 {l : Launch} {G : vv_G} {d : Nat} {ad : Nat → Nat} (hG : vv_gok G) (hH : vv_hy l G ad) {s0 : Nat} {s1 : Int32} {s2 : Int32} {x0 : Nat} {σ : vv_S} {r : hX vv_S} (h : KX5_crate_101 ad s0 s1 s2 x0 σ = some r) : vv_V l G MX5_crate (d + 8) 101 [(0, .ref x0)] [.int s2, .int s1, .ref s0] σ (xU r) := by
  unfold KX5_crate_101 at h
  replace h := sI_o h; obtain ⟨σ1, nσ1, qσ1, eσ1, iσ1, uσ1, h⟩ := h
  refine vv_iast eσ1 iσ1 dX5_crate_101 ?_
  refine vv_sg uσ1 ?_
  refine vv_aload_n dX5_crate_102 rfl 0 rfl ?_
  replace h := gR_o h; obtain ⟨v2, fv2, sv2, ev2, lv2, h⟩ := h
  refine vv_get (fl_X5_18 hG) ev2 lv2 dX5_crate_103 ?_
  refine vv_dup dX5_crate_106 rfl ?_
  replace h := gI_o h; obtain ⟨v3, fv3, sv3, ev3, lv3, h⟩ := h
  refine vv_getM (fl_X5_230 hH) ev3 lv3 dX5_crate_107 ?_
  refine vv_iconst (v := (nI 1)) dX5_crate_110 (by decide) ?_
  refine vv_iadd dX5_crate_111 ?_
  replace h := pF_o h; obtain ⟨σ4, sσ4, eσ4, lσ4, uσ4, h⟩ := h
  refine vv_putM (ty := .int) (fl_X5_230 hH) (fun C T' N h9 => by rw [hG.1] at h9; cases h9; exact ⟨rfl, by decide +kernel⟩) eσ4 rfl rfl lσ4 dX5_crate_112 ?_
  refine vv_sg uσ4 ?_
  cases h
  exact vv_vret rfl dX5_crate_115
def KX5_crate_61 (ad : Nat → Nat) (s0 : Nat) (s1 : Int32) (s2 : Int32) (x0 : Nat) (x2 : Int32) (σ : vv_S) : Option (hX vv_S) := (sI σ s0 s1 s2).bind fun σ1 => (gR σ1 x0 4 2).bind fun v2 => (gR σ1 v2 2 6).bind fun v3 => (isO σ1 x0 4).bind fun _ => (KX5_townNow x0 σ1).bind fun r4 => xb r4 fun r6 => (sI r6.2 v3 x2 r6.1).bind fun σ7 => (isO σ7 x0 4).bind fun _ => (KX5_next ad x0 σ7).bind fun r8 => (gR r8 x0 4 2).bind fun v10 => (gR r8 v10 2 5).bind fun v11 => (isO r8 x0 4).bind fun _ => (KX5_passes ad x0 (ad 21) r8).bind fun r12 => if r12.1 = 0 then (KX5_crate_101 ad v11 x2 (nI 0) x0 r12.2) else (KX5_crate_101 ad v11 x2 (nI 1) x0 r12.2)
theorem v_KX5_crate_61 {l : Launch} {G : vv_G} {d : Nat} {ad : Nat → Nat} (hG : vv_gok G) (hH : vv_hy l G ad) {s0 : Nat} {s1 : Int32} {s2 : Int32} {x0 : Nat} {x2 : Int32} {σ : vv_S} {r : hX vv_S} (h : KX5_crate_61 ad s0 s1 s2 x0 x2 σ = some r) : vv_V l G MX5_crate (d + 8) 61 [(0, .ref x0), (2, .int x2)] [.int s2, .int s1, .ref s0] σ (xU r) := by
  unfold KX5_crate_61 at h
  replace h := sI_o h; obtain ⟨σ1, nσ1, qσ1, eσ1, iσ1, uσ1, h⟩ := h
  refine vv_iast eσ1 iσ1 dX5_crate_61 ?_
  refine vv_sg uσ1 ?_
  refine vv_aload_n dX5_crate_62 rfl 0 rfl ?_
  replace h := gR_o h; obtain ⟨v2, fv2, sv2, ev2, lv2, h⟩ := h
  refine vv_get (fl_X5_27 hG) ev2 lv2 dX5_crate_63 ?_
  replace h := gR_o h; obtain ⟨v3, fv3, sv3, ev3, lv3, h⟩ := h
  refine vv_getM (fl_X5_238 hH) ev3 lv3 dX5_crate_66 ?_
  refine vv_iload_n dX5_crate_69 rfl 1 rfl ?_
  refine vv_aload_n dX5_crate_70 rfl 0 rfl ?_
  replace h := isO_o h; obtain ⟨fz5, sz5, ez5, h⟩ := h
  replace h := bd_o h; obtain ⟨r4, er4, h⟩ := h
  rcases r4 with r6 | r6x
  · refine vv_callV ok_X5_townNow q1006 (m_KX5_townNow hG hH er4 d) rfl (by omega) ⟨_, _, _, _, _, ez5, by rw [hG.1]; rfl⟩ rfl rfl (Nat.le_of_ble_eq_true rfl) dX5_crate_71 ?_
    replace h := xb_l h
    replace h := sI_o h; obtain ⟨σ7, nσ7, qσ7, eσ7, iσ7, uσ7, h⟩ := h
    refine vv_iast eσ7 iσ7 dX5_crate_74 ?_
    refine vv_sg uσ7 ?_
    refine vv_aload_n dX5_crate_75 rfl 0 rfl ?_
    replace h := isO_o h; obtain ⟨fz9, sz9, ez9, h⟩ := h
    replace h := bd_o h; obtain ⟨r8, er8, h⟩ := h
    refine vv_callV ok_X5_next q822 (m_KX5_next hG hH er8 d) rfl (by omega) ⟨_, _, _, _, _, ez9, by rw [hG.1]; rfl⟩ rfl rfl (Nat.le_of_ble_eq_true rfl) dX5_crate_76 ?_
    refine vv_aload_n dX5_crate_79 rfl 0 rfl ?_
    replace h := gR_o h; obtain ⟨v10, fv10, sv10, ev10, lv10, h⟩ := h
    refine vv_get (fl_X5_27 hG) ev10 lv10 dX5_crate_80 ?_
    replace h := gR_o h; obtain ⟨v11, fv11, sv11, ev11, lv11, h⟩ := h
    refine vv_getM (fl_X5_241 hH) ev11 lv11 dX5_crate_83 ?_
    refine vv_iload_n dX5_crate_86 rfl 1 rfl ?_
    refine vv_aload_n dX5_crate_87 rfl 0 rfl ?_
    refine vv_lds (st_11 hH) dX5_crate_88 ?_
    replace h := isO_o h; obtain ⟨fz13, sz13, ez13, h⟩ := h
    replace h := bd_o h; obtain ⟨r12, er12, h⟩ := h
    refine vv_callV ok_X5_passes q1052 (m_KX5_passes hG hH er12 d) rfl (by omega) ⟨_, _, _, _, _, ez13, by rw [hG.1]; rfl⟩ rfl rfl (Nat.le_of_ble_eq_true rfl) dX5_crate_90 ?_
    refine vv_if_eq (tgt := 100) dX5_crate_93 (by decide) (fun c14 => ?_) (fun c14 => ?_)
    · rw [if_pos c14] at h
      refine vv_iconst (v := (nI 0)) dX5_crate_100 (by decide) ?_
      refine vv_sub (lv' := [(0, .ref x0)]) [0] rfl ?_
      exact v_KX5_crate_101 hG hH h
    · rw [if_neg c14] at h
      refine vv_iconst (v := (nI 1)) dX5_crate_96 (by decide) ?_
      refine vv_goto (tgt := 101) dX5_crate_97 (by decide) ?_
      refine vv_sub (lv' := [(0, .ref x0)]) [0] rfl ?_
      exact v_KX5_crate_101 hG hH h
  · cases h
    exact vv_callVX ok_X5_townNow q1006 (m_KX5_townNow hG hH er4 d) rfl (by omega) ⟨_, _, _, _, _, ez5, by rw [hG.1]; rfl⟩ rfl rfl (Nat.le_of_ble_eq_true rfl) dX5_crate_71 (vv_Tout (by intro x hx; cases hx))
def KX5_crate_20 (ad : Nat → Nat) (s0 : Nat) (s1 : Int32) (x0 : Nat) (x1 : Int32) (x2 : Int32) (σ : vv_S) : Option (hX vv_S) := (isO σ s0 4).bind fun _ => (KX5_want s0 s1 (nI 2) σ).bind fun r1 => xb r1 fun r3 => (isO r3 x0 4).bind fun _ => (KX5_next ad x0 r3).bind fun r4 => (gR r4 x0 4 2).bind fun v6 => (gR r4 v6 2 3).bind fun v7 => (isO r4 x0 4).bind fun _ => (KX5_number ad x0 (nI 0) (nI 99) r4).bind fun r8 => xb r8 fun r10 => (sI r10.2 v7 x2 r10.1).bind fun σ11 => (gR σ11 x0 4 2).bind fun v12 => (gR σ11 v12 2 4).bind fun v13 => if x1 = 0 then (KX5_crate_61 ad v13 x2 (nI 0) x0 x2 σ11) else (KX5_crate_61 ad v13 x2 (nI 1) x0 x2 σ11)
theorem v_KX5_crate_20 {l : Launch} {G : vv_G} {d : Nat} {ad : Nat → Nat} (hG : vv_gok G) (hH : vv_hy l G ad) {s0 : Nat} {s1 : Int32} {x0 : Nat} {x1 : Int32} {x2 : Int32} {σ : vv_S} {r : hX vv_S} (h : KX5_crate_20 ad s0 s1 x0 x1 x2 σ = some r) : vv_V l G MX5_crate (d + 8) 20 [(0, .ref x0), (1, .int x1), (2, .int x2)] [.int s1, .ref s0] σ (xU r) := by
  unfold KX5_crate_20 at h
  refine vv_iconst (v := (nI 2)) dX5_crate_20 (by decide) ?_
  replace h := isO_o h; obtain ⟨fz2, sz2, ez2, h⟩ := h
  replace h := bd_o h; obtain ⟨r1, er1, h⟩ := h
  rcases r1 with r3 | r3x
  · refine vv_callV ok_X5_want q941 (m_KX5_want hG hH er1 d) rfl (by omega) ⟨_, _, _, _, _, ez2, by rw [hG.1]; rfl⟩ rfl rfl (Nat.le_of_ble_eq_true rfl) dX5_crate_21 ?_
    replace h := xb_l h
    refine vv_aload_n dX5_crate_24 rfl 0 rfl ?_
    replace h := isO_o h; obtain ⟨fz5, sz5, ez5, h⟩ := h
    replace h := bd_o h; obtain ⟨r4, er4, h⟩ := h
    refine vv_callV ok_X5_next q822 (m_KX5_next hG hH er4 d) rfl (by omega) ⟨_, _, _, _, _, ez5, by rw [hG.1]; rfl⟩ rfl rfl (Nat.le_of_ble_eq_true rfl) dX5_crate_25 ?_
    refine vv_aload_n dX5_crate_28 rfl 0 rfl ?_
    replace h := gR_o h; obtain ⟨v6, fv6, sv6, ev6, lv6, h⟩ := h
    refine vv_get (fl_X5_27 hG) ev6 lv6 dX5_crate_29 ?_
    replace h := gR_o h; obtain ⟨v7, fv7, sv7, ev7, lv7, h⟩ := h
    refine vv_getM (fl_X5_232 hH) ev7 lv7 dX5_crate_32 ?_
    refine vv_iload_n dX5_crate_35 rfl 2 rfl ?_
    refine vv_aload_n dX5_crate_36 rfl 0 rfl ?_
    refine vv_iconst (v := (nI 0)) dX5_crate_37 (by decide) ?_
    refine vv_bipush (v := (nI 99)) dX5_crate_38 (by decide) ?_
    replace h := isO_o h; obtain ⟨fz9, sz9, ez9, h⟩ := h
    replace h := bd_o h; obtain ⟨r8, er8, h⟩ := h
    rcases r8 with r10 | r10x
    · refine vv_callV ok_X5_number q969 (m_KX5_number hG hH er8 d) rfl (by omega) ⟨_, _, _, _, _, ez9, by rw [hG.1]; rfl⟩ rfl rfl (Nat.le_of_ble_eq_true rfl) dX5_crate_40 ?_
      replace h := xb_l h
      replace h := sI_o h; obtain ⟨σ11, nσ11, qσ11, eσ11, iσ11, uσ11, h⟩ := h
      refine vv_iast eσ11 iσ11 dX5_crate_43 ?_
      refine vv_sg uσ11 ?_
      refine vv_aload_n dX5_crate_44 rfl 0 rfl ?_
      replace h := gR_o h; obtain ⟨v12, fv12, sv12, ev12, lv12, h⟩ := h
      refine vv_get (fl_X5_27 hG) ev12 lv12 dX5_crate_45 ?_
      replace h := gR_o h; obtain ⟨v13, fv13, sv13, ev13, lv13, h⟩ := h
      refine vv_getM (fl_X5_235 hH) ev13 lv13 dX5_crate_48 ?_
      refine vv_iload_n dX5_crate_51 rfl 2 rfl ?_
      refine vv_iload_n dX5_crate_52 rfl 1 rfl ?_
      refine vv_if_eq (tgt := 60) dX5_crate_53 (by decide) (fun c14 => ?_) (fun c14 => ?_)
      · rw [if_pos c14] at h
        refine vv_iconst (v := (nI 0)) dX5_crate_60 (by decide) ?_
        refine vv_sub (lv' := [(0, .ref x0), (2, .int x2)]) [0, 2] rfl ?_
        exact v_KX5_crate_61 hG hH h
      · rw [if_neg c14] at h
        refine vv_iconst (v := (nI 1)) dX5_crate_56 (by decide) ?_
        refine vv_goto (tgt := 61) dX5_crate_57 (by decide) ?_
        refine vv_sub (lv' := [(0, .ref x0), (2, .int x2)]) [0, 2] rfl ?_
        exact v_KX5_crate_61 hG hH h
    · cases h
      exact vv_callVX ok_X5_number q969 (m_KX5_number hG hH er8 d) rfl (by omega) ⟨_, _, _, _, _, ez9, by rw [hG.1]; rfl⟩ rfl rfl (Nat.le_of_ble_eq_true rfl) dX5_crate_40 (vv_Tout (by intro x hx; cases hx))
  · cases h
    exact vv_callVX ok_X5_want q941 (m_KX5_want hG hH er1 d) rfl (by omega) ⟨_, _, _, _, _, ez2, by rw [hG.1]; rfl⟩ rfl rfl (Nat.le_of_ble_eq_true rfl) dX5_crate_21 (vv_Tout (by intro x hx; cases hx))
def KX5_crate (ad : Nat → Nat) (x0 : Nat) (x1 : Int32) (σ : vv_S) : Option (hX vv_S) := (gR σ x0 4 1).bind fun v1 => (gI σ v1 1 3).bind fun v2 => if (nI 10) ≤ v2 then (KX5_crate_20 ad x0 (nI 0) x0 x1 v2 σ) else (KX5_crate_20 ad x0 (nI 1) x0 x1 v2 σ)
theorem v_KX5_crate_0 {l : Launch} {G : vv_G} {d : Nat} {ad : Nat → Nat} (hG : vv_gok G) (hH : vv_hy l G ad) {x0 : Nat} {x1 : Int32} {σ : vv_S} {r : hX vv_S} (h : KX5_crate ad x0 x1 σ = some r) : vv_V l G MX5_crate (d + 8) 0 [(0, .ref x0), (1, .int x1)] [] σ (xU r) := by
  unfold KX5_crate at h
  refine vv_aload_n dX5_crate_0 rfl 0 rfl ?_
  replace h := gR_o h; obtain ⟨v1, fv1, sv1, ev1, lv1, h⟩ := h
  refine vv_get (fl_X5_18 hG) ev1 lv1 dX5_crate_1 ?_
  replace h := gI_o h; obtain ⟨v2, fv2, sv2, ev2, lv2, h⟩ := h
  refine vv_getM (fl_X5_230 hH) ev2 lv2 dX5_crate_4 ?_
  refine vv_istore_n (lv' := [(0, .ref x0), (1, .int x1), (2, .int v2)]) dX5_crate_7 rfl (by decide) [1, 2, 0] rfl ?_
  refine vv_aload_n dX5_crate_8 rfl 0 rfl ?_
  refine vv_iload_n dX5_crate_9 rfl 2 rfl ?_
  refine vv_bipush (v := (nI 10)) dX5_crate_10 (by decide) ?_
  refine vv_icmp_ge (tgt := 19) dX5_crate_12 (by decide) (fun c3 => ?_) (fun c3 => ?_)
  · rw [if_pos c3] at h
    refine vv_iconst (v := (nI 0)) dX5_crate_19 (by decide) ?_
    exact v_KX5_crate_20 hG hH h
  · rw [if_neg c3] at h
    refine vv_iconst (v := (nI 1)) dX5_crate_15 (by decide) ?_
    refine vv_goto (tgt := 20) dX5_crate_16 (by decide) ?_
    exact v_KX5_crate_20 hG hH h
theorem m_KX5_crate {l : Launch} {G : vv_G} {ad : Nat → Nat} (hG : vv_gok G) (hH : vv_hy l G ad) {x0 : Nat} {x1 : Int32} {σ : vv_S} {r : hX vv_S} (h : KX5_crate ad x0 x1 σ = some r) (d : Nat) : vv_Met l G MX5_crate (d + 8) [.ref x0, .int x1] σ (xU r) := vv_head (by decide +kernel) rfl (Nat.le_of_ble_eq_true rfl) rfl (v_KX5_crate_0 hG hH h)
