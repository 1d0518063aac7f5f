set_option maxRecDepth 100000
/-! ('X1', 'aCrate') -/
def KX1_aCrate (x0 : Nat) (x1 : Int32) (σ : vv_S) : Option (hX vv_S) := (gR σ x0 0 1).bind fun v1 => (gI σ v1 1 3).bind fun v2 => (KX1_in x1 (nI 0) (v2 - (nI 1))).bind fun r3 => (KX1_found r3 σ).bind fun r4 => xb r4 fun r5 => some (.inl r5)
theorem v_KX1_aCrate_0 {l : Launch} {G : vv_G} {d : Nat} {ad : Nat → Nat} (hG : vv_gok G) (hH : vv_hy l G ad) {x0 : Nat} {x1 : Int32} {σ : vv_S} {r : hX vv_S} (h : KX1_aCrate x0 x1 σ = some r) : vv_V l G MX1_aCrate (d + 9) 0 [(0, .ref x0), (1, .int x1)] [] σ (xU r) := by
  unfold KX1_aCrate at h
  refine vv_iload_n dX1_aCrate_0 rfl 1 rfl ?_
  refine vv_iconst (v := (nI 0)) dX1_aCrate_1 (by decide) ?_
  refine vv_aload_n dX1_aCrate_2 rfl 0 rfl ?_
  replace h := gR_o h; obtain ⟨v1, fv1, sv1, ev1, lv1, h⟩ := h
  refine vv_get (fl_X1_22 hG) ev1 lv1 dX1_aCrate_3 ?_
  replace h := gI_o h; obtain ⟨v2, fv2, sv2, ev2, lv2, h⟩ := h
  refine vv_getM (fl_X1_104 hH) ev2 lv2 dX1_aCrate_6 ?_
  refine vv_iconst (v := (nI 1)) dX1_aCrate_9 (by decide) ?_
  refine vv_isub dX1_aCrate_10 ?_
  replace h := bd_o h; obtain ⟨r3, er3, h⟩ := h
  refine vv_callS ok_X1_in q335 (m_KX1_in hG hH er3 d) rfl (by omega) rfl rfl (Nat.le_of_ble_eq_true rfl) dX1_aCrate_11 ?_
  replace h := bd_o h; obtain ⟨r4, er4, h⟩ := h
  rcases r4 with r5 | r5x
  · refine vv_callS ok_X1_found q1248 (m_KX1_found hG hH er4 d) rfl (by omega) rfl rfl (Nat.le_of_ble_eq_true rfl) dX1_aCrate_14 ?_
    replace h := xb_l h
    cases h
    exact vv_vret rfl dX1_aCrate_17
  · cases h
    exact vv_callSX ok_X1_found q1248 (m_KX1_found hG hH er4 d) rfl (by omega) rfl rfl (Nat.le_of_ble_eq_true rfl) dX1_aCrate_14 (vv_Tout (by intro x hx; cases hx))
theorem m_KX1_aCrate {l : Launch} {G : vv_G} {ad : Nat → Nat} (hG : vv_gok G) (hH : vv_hy l G ad) {x0 : Nat} {x1 : Int32} {σ : vv_S} {r : hX vv_S} (h : KX1_aCrate x0 x1 σ = some r) (d : Nat) : vv_Met l G MX1_aCrate (d + 9) [.ref x0, .int x1] σ (xU r) := vv_head (by decide +kernel) rfl (Nat.le_of_ble_eq_true rfl) rfl (v_KX1_aCrate_0 hG hH h)
/-! ('X1', 'oneOf') -/
def KX1_oneOf (x0 : Int32) (x1 : Int32) (σ : vv_S) : Option (hX vv_S) := (KX1_in x0 (nI 0) x1).bind fun r1 => (KX1_found r1 σ).bind fun r2 => xb r2 fun r3 => some (.inl r3)
theorem v_KX1_oneOf_0 {l : Launch} {G : vv_G} {d : Nat} {ad : Nat → Nat} (hG : vv_gok G) (hH : vv_hy l G ad) {x0 : Int32} {x1 : Int32} {σ : vv_S} {r : hX vv_S} (h : KX1_oneOf x0 x1 σ = some r) : vv_V l G MX1_oneOf (d + 9) 0 [(0, .int x0), (1, .int x1)] [] σ (xU r) := by
  unfold KX1_oneOf at h
  refine vv_iload_n dX1_oneOf_0 rfl 0 rfl ?_
  refine vv_iconst (v := (nI 0)) dX1_oneOf_1 (by decide) ?_
  refine vv_iload_n dX1_oneOf_2 rfl 1 rfl ?_
  replace h := bd_o h; obtain ⟨r1, er1, h⟩ := h
  refine vv_callS ok_X1_in q335 (m_KX1_in hG hH er1 d) rfl (by omega) rfl rfl (Nat.le_of_ble_eq_true rfl) dX1_oneOf_3 ?_
  replace h := bd_o h; obtain ⟨r2, er2, h⟩ := h
  rcases r2 with r3 | r3x
  · refine vv_callS ok_X1_found q1248 (m_KX1_found hG hH er2 d) rfl (by omega) rfl rfl (Nat.le_of_ble_eq_true rfl) dX1_oneOf_6 ?_
    replace h := xb_l h
    cases h
    exact vv_vret rfl dX1_oneOf_9
  · cases h
    exact vv_callSX ok_X1_found q1248 (m_KX1_found hG hH er2 d) rfl (by omega) rfl rfl (Nat.le_of_ble_eq_true rfl) dX1_oneOf_6 (vv_Tout (by intro x hx; cases hx))
theorem m_KX1_oneOf {l : Launch} {G : vv_G} {ad : Nat → Nat} (hG : vv_gok G) (hH : vv_hy l G ad) {x0 : Int32} {x1 : Int32} {σ : vv_S} {r : hX vv_S} (h : KX1_oneOf x0 x1 σ = some r) (d : Nat) : vv_Met l G MX1_oneOf (d + 9) [.int x0, .int x1] σ (xU r) := vv_head (by decide +kernel) rfl (Nat.le_of_ble_eq_true rfl) rfl (v_KX1_oneOf_0 hG hH h)
/-! ('X1', 'crate') -/
def KX1_crate_86 (s0 : Int32) (σ : vv_S) : Option (hX (Int32 × vv_S)) := some (.inl (s0, σ))
theorem v_KX1_crate_86 {l : Launch} {G : vv_G} {d : Nat} {ad : Nat → Nat} (hG : vv_gok G) (hH : vv_hy l G ad) {s0 : Int32} {σ : vv_S} {r : hX (Int32 × vv_S)} (h : KX1_crate_86 s0 σ = some r) : vv_V l G MX1_crate (d + 10) 86 [] [.int s0] σ (xI r) := by
  unfold KX1_crate_86 at h
  cases h
  exact vv_iret rfl dX1_crate_86
def KX1_crate (x0 : Nat) (x1 : Int32) (x2 : Int32) (σ : vv_S) : Option (hX (Int32 × vv_S)) := (isO σ x0 0).bind fun _ => (KX1_aCrate x0 x1 σ).bind fun r1 => xb r1 fun r3 => (KX1_oneOf x2 (nI 4) r3).bind fun r4 => xb r4 fun r5 => if x2 = 0 then ((gR r5 x0 0 2).bind fun v22 => (gR r5 v22 2 3).bind fun v23 => (aI r5 .int v23 x1).bind fun v24 => KX1_crate_86 v24 r5) else (if x2 = (nI 1) then ((gR r5 x0 0 2).bind fun v19 => (gR r5 v19 2 4).bind fun v20 => (aI r5 .int v20 x1).bind fun v21 => KX1_crate_86 v21 r5) else (if x2 = (nI 2) then ((gR r5 x0 0 2).bind fun v16 => (gR r5 v16 2 5).bind fun v17 => (aI r5 .int v17 x1).bind fun v18 => KX1_crate_86 v18 r5) else (if x2 = (nI 3) then ((gR r5 x0 0 2).bind fun v13 => (gR r5 v13 2 6).bind fun v14 => (aI r5 .int v14 x1).bind fun v15 => KX1_crate_86 v15 r5) else ((gR r5 x0 0 2).bind fun v10 => (gR r5 v10 2 7).bind fun v11 => (aI r5 .int v11 x1).bind fun v12 => KX1_crate_86 v12 r5))))
theorem v_KX1_crate_0 {l : Launch} {G : vv_G} {d : Nat} {ad : Nat → Nat} (hG : vv_gok G) (hH : vv_hy l G ad) {x0 : Nat} {x1 : Int32} {x2 : Int32} {σ : vv_S} {r : hX (Int32 × vv_S)} (h : KX1_crate x0 x1 x2 σ = some r) : vv_V l G MX1_crate (d + 10) 0 [(0, .ref x0), (1, .int x1), (2, .int x2)] [] σ (xI r) := by
  unfold KX1_crate at h
  refine vv_aload_n dX1_crate_0 rfl 0 rfl ?_
  refine vv_iload_n dX1_crate_1 rfl 1 rfl ?_
  replace h := isO_o h; obtain ⟨fz2, sz2, ez2, h⟩ := h
  replace h := bd_o h; obtain ⟨r1, er1, h⟩ := h
  rcases r1 with r3 | r3x
  · refine vv_callV ok_X1_aCrate q1289 (m_KX1_aCrate hG hH er1 d) rfl (by omega) ⟨_, _, _, _, _, ez2, by rw [hG.1]; rfl⟩ rfl rfl (Nat.le_of_ble_eq_true rfl) dX1_crate_2 ?_
    replace h := xb_l h
    refine vv_iload_n dX1_crate_5 rfl 2 rfl ?_
    refine vv_iconst (v := (nI 4)) dX1_crate_6 (by decide) ?_
    replace h := bd_o h; obtain ⟨r4, er4, h⟩ := h
    rcases r4 with r5 | r5x
    · refine vv_callS ok_X1_oneOf q1293 (m_KX1_oneOf hG hH er4 d) rfl (by omega) rfl rfl (Nat.le_of_ble_eq_true rfl) dX1_crate_7 ?_
      replace h := xb_l h
      refine vv_iload_n dX1_crate_10 rfl 2 rfl ?_
      refine vv_if_ne (tgt := 26) dX1_crate_11 (by decide) (fun c6 => ?_) (fun c6 => ?_)
      · rw [if_neg c6] at h
        refine vv_iload_n dX1_crate_26 rfl 2 rfl ?_
        refine vv_iconst (v := (nI 1)) dX1_crate_27 (by decide) ?_
        refine vv_icmp_ne (tgt := 43) dX1_crate_28 (by decide) (fun c7 => ?_) (fun c7 => ?_)
        · rw [if_neg c7] at h
          refine vv_iload_n dX1_crate_43 rfl 2 rfl ?_
          refine vv_iconst (v := (nI 2)) dX1_crate_44 (by decide) ?_
          refine vv_icmp_ne (tgt := 60) dX1_crate_45 (by decide) (fun c8 => ?_) (fun c8 => ?_)
          · rw [if_neg c8] at h
            refine vv_iload_n dX1_crate_60 rfl 2 rfl ?_
            refine vv_iconst (v := (nI 3)) dX1_crate_61 (by decide) ?_
            refine vv_icmp_ne (tgt := 77) dX1_crate_62 (by decide) (fun c9 => ?_) (fun c9 => ?_)
            · rw [if_neg c9] at h
              refine vv_aload_n dX1_crate_77 rfl 0 rfl ?_
              replace h := gR_o h; obtain ⟨v10, fv10, sv10, ev10, lv10, h⟩ := h
              refine vv_get (fl_X1_31 hG) ev10 lv10 dX1_crate_78 ?_
              replace h := gR_o h; obtain ⟨v11, fv11, sv11, ev11, lv11, h⟩ := h
              refine vv_getM (fl_X1_179 hH) ev11 lv11 dX1_crate_81 ?_
              refine vv_iload_n dX1_crate_84 rfl 1 rfl ?_
              replace h := aI_o h; obtain ⟨v12, fv12, nv12, qv12, ev12, iv12, wv12, h⟩ := h
              refine vv_iald ev12 iv12 dX1_crate_85 ?_
              rw [wv12]
              refine vv_sub (lv' := []) [] rfl ?_
              exact v_KX1_crate_86 hG hH h
            · rw [if_pos c9] at h
              refine vv_aload_n dX1_crate_65 rfl 0 rfl ?_
              replace h := gR_o h; obtain ⟨v13, fv13, sv13, ev13, lv13, h⟩ := h
              refine vv_get (fl_X1_31 hG) ev13 lv13 dX1_crate_66 ?_
              replace h := gR_o h; obtain ⟨v14, fv14, sv14, ev14, lv14, h⟩ := h
              refine vv_getM (fl_X1_131 hH) ev14 lv14 dX1_crate_69 ?_
              refine vv_iload_n dX1_crate_72 rfl 1 rfl ?_
              replace h := aI_o h; obtain ⟨v15, fv15, nv15, qv15, ev15, iv15, wv15, h⟩ := h
              refine vv_iald ev15 iv15 dX1_crate_73 ?_
              rw [wv15]
              refine vv_goto (tgt := 86) dX1_crate_74 (by decide) ?_
              refine vv_sub (lv' := []) [] rfl ?_
              exact v_KX1_crate_86 hG hH h
          · rw [if_pos c8] at h
            refine vv_aload_n dX1_crate_48 rfl 0 rfl ?_
            replace h := gR_o h; obtain ⟨v16, fv16, sv16, ev16, lv16, h⟩ := h
            refine vv_get (fl_X1_31 hG) ev16 lv16 dX1_crate_49 ?_
            replace h := gR_o h; obtain ⟨v17, fv17, sv17, ev17, lv17, h⟩ := h
            refine vv_getM (fl_X1_176 hH) ev17 lv17 dX1_crate_52 ?_
            refine vv_iload_n dX1_crate_55 rfl 1 rfl ?_
            replace h := aI_o h; obtain ⟨v18, fv18, nv18, qv18, ev18, iv18, wv18, h⟩ := h
            refine vv_iald ev18 iv18 dX1_crate_56 ?_
            rw [wv18]
            refine vv_goto (tgt := 86) dX1_crate_57 (by decide) ?_
            refine vv_sub (lv' := []) [] rfl ?_
            exact v_KX1_crate_86 hG hH h
        · rw [if_pos c7] at h
          refine vv_aload_n dX1_crate_31 rfl 0 rfl ?_
          replace h := gR_o h; obtain ⟨v19, fv19, sv19, ev19, lv19, h⟩ := h
          refine vv_get (fl_X1_31 hG) ev19 lv19 dX1_crate_32 ?_
          replace h := gR_o h; obtain ⟨v20, fv20, sv20, ev20, lv20, h⟩ := h
          refine vv_getM (fl_X1_173 hH) ev20 lv20 dX1_crate_35 ?_
          refine vv_iload_n dX1_crate_38 rfl 1 rfl ?_
          replace h := aI_o h; obtain ⟨v21, fv21, nv21, qv21, ev21, iv21, wv21, h⟩ := h
          refine vv_iald ev21 iv21 dX1_crate_39 ?_
          rw [wv21]
          refine vv_goto (tgt := 86) dX1_crate_40 (by decide) ?_
          refine vv_sub (lv' := []) [] rfl ?_
          exact v_KX1_crate_86 hG hH h
      · rw [if_pos c6] at h
        refine vv_aload_n dX1_crate_14 rfl 0 rfl ?_
        replace h := gR_o h; obtain ⟨v22, fv22, sv22, ev22, lv22, h⟩ := h
        refine vv_get (fl_X1_31 hG) ev22 lv22 dX1_crate_15 ?_
        replace h := gR_o h; obtain ⟨v23, fv23, sv23, ev23, lv23, h⟩ := h
        refine vv_getM (fl_X1_170 hH) ev23 lv23 dX1_crate_18 ?_
        refine vv_iload_n dX1_crate_21 rfl 1 rfl ?_
        replace h := aI_o h; obtain ⟨v24, fv24, nv24, qv24, ev24, iv24, wv24, h⟩ := h
        refine vv_iald ev24 iv24 dX1_crate_22 ?_
        rw [wv24]
        refine vv_goto (tgt := 86) dX1_crate_23 (by decide) ?_
        refine vv_sub (lv' := []) [] rfl ?_
        exact v_KX1_crate_86 hG hH h
    · cases h
      exact vv_callSX ok_X1_oneOf q1293 (m_KX1_oneOf hG hH er4 d) rfl (by omega) rfl rfl (Nat.le_of_ble_eq_true rfl) dX1_crate_7 (vv_Tout (by intro x hx; cases hx))
  · cases h
    exact vv_callVX ok_X1_aCrate q1289 (m_KX1_aCrate hG hH er1 d) rfl (by omega) ⟨_, _, _, _, _, ez2, by rw [hG.1]; rfl⟩ rfl rfl (Nat.le_of_ble_eq_true rfl) dX1_crate_2 (vv_Tout (by intro x hx; cases hx))
theorem m_KX1_crate {l : Launch} {G : vv_G} {ad : Nat → Nat} (hG : vv_gok G) (hH : vv_hy l G ad) {x0 : Nat} {x1 : Int32} {x2 : Int32} {σ : vv_S} {r : hX (Int32 × vv_S)} (h : KX1_crate x0 x1 x2 σ = some r) (d : Nat) : vv_Met l G MX1_crate (d + 10) [.ref x0, .int x1, .int x2] σ (xI r) := vv_head (by decide +kernel) rfl (Nat.le_of_ble_eq_true rfl) rfl (v_KX1_crate_0 hG hH h)
/-! ('X7', 'from') -/
def KX7_from_31 (s0 : Int32) (σ : vv_S) : Option Int32 := some s0
theorem v_KX7_from_31 {l : Launch} {G : vv_G} {d : Nat} {ad : Nat → Nat} (hG : vv_gok G) (hH : vv_hy l G ad) {s0 : Int32} {σ : vv_S} {r : Int32} (h : KX7_from_31 s0 σ = some r) : vv_V l G MX7_from (d + 0) 31 [] [.int s0] σ (.inl (some (.int r)), σ) := by
  unfold KX7_from_31 at h
  cases h
  exact vv_iret rfl dX7_from_31
def KX7_from (x0 : Nat) (x1 : Int32) (σ : vv_S) : Option Int32 := (gI σ x0 6 0).bind fun v1 => if x1 = v1 then ((gI σ x0 6 1).bind fun v6 => KX7_from_31 v6 σ) else ((gI σ x0 6 1).bind fun v3 => if x1 = v3 then ((gI σ x0 6 0).bind fun v5 => KX7_from_31 v5 σ) else (KX7_from_31 (-1) σ))
theorem v_KX7_from_0 {l : Launch} {G : vv_G} {d : Nat} {ad : Nat → Nat} (hG : vv_gok G) (hH : vv_hy l G ad) {x0 : Nat} {x1 : Int32} {σ : vv_S} {r : Int32} (h : KX7_from x0 x1 σ = some r) : vv_V l G MX7_from (d + 0) 0 [(0, .ref x0), (1, .int x1)] [] σ (.inl (some (.int r)), σ) := by
  unfold KX7_from at h
  refine vv_iload_n dX7_from_0 rfl 1 rfl ?_
  refine vv_aload_n dX7_from_1 rfl 0 rfl ?_
  replace h := gI_o h; obtain ⟨v1, fv1, sv1, ev1, lv1, h⟩ := h
  refine vv_get (fl_X7_9 hG) ev1 lv1 dX7_from_2 ?_
  refine vv_icmp_ne (tgt := 15) dX7_from_5 (by decide) (fun c2 => ?_) (fun c2 => ?_)
  · rw [if_neg c2] at h
    refine vv_iload_n dX7_from_15 rfl 1 rfl ?_
    refine vv_aload_n dX7_from_16 rfl 0 rfl ?_
    replace h := gI_o h; obtain ⟨v3, fv3, sv3, ev3, lv3, h⟩ := h
    refine vv_get (fl_X7_15 hG) ev3 lv3 dX7_from_17 ?_
    refine vv_icmp_ne (tgt := 30) dX7_from_20 (by decide) (fun c4 => ?_) (fun c4 => ?_)
    · rw [if_neg c4] at h
      refine vv_iconst (v := (-1)) dX7_from_30 (by decide) ?_
      refine vv_sub (lv' := []) [] rfl ?_
      exact v_KX7_from_31 hG hH h
    · rw [if_pos c4] at h
      refine vv_aload_n dX7_from_23 rfl 0 rfl ?_
      replace h := gI_o h; obtain ⟨v5, fv5, sv5, ev5, lv5, h⟩ := h
      refine vv_get (fl_X7_9 hG) ev5 lv5 dX7_from_24 ?_
      refine vv_goto (tgt := 31) dX7_from_27 (by decide) ?_
      refine vv_sub (lv' := []) [] rfl ?_
      exact v_KX7_from_31 hG hH h
  · rw [if_pos c2] at h
    refine vv_aload_n dX7_from_8 rfl 0 rfl ?_
    replace h := gI_o h; obtain ⟨v6, fv6, sv6, ev6, lv6, h⟩ := h
    refine vv_get (fl_X7_15 hG) ev6 lv6 dX7_from_9 ?_
    refine vv_goto (tgt := 31) dX7_from_12 (by decide) ?_
    refine vv_sub (lv' := []) [] rfl ?_
    exact v_KX7_from_31 hG hH h
theorem m_KX7_from {l : Launch} {G : vv_G} {ad : Nat → Nat} (hG : vv_gok G) (hH : vv_hy l G ad) {x0 : Nat} {x1 : Int32} {σ : vv_S} {r : Int32} (h : KX7_from x0 x1 σ = some r) (d : Nat) : vv_Met l G MX7_from (d + 0) [.ref x0, .int x1] σ (.inl (some (.int r)), σ) := vv_head (by decide +kernel) rfl (Nat.le_of_ble_eq_true rfl) rfl (v_KX7_from_0 hG hH h)
/-! ('X1', 'send') -/
def KX1_send_68 (ad : Nat → Nat) (x0 : Nat) (σ : vv_S) : Option (hX (Int32 × vv_S)) := (isO σ x0 0).bind fun _ => (KX1_refuse x0 (nI 1) σ).bind fun r1 => some (.inl (r1.1, r1.2))
theorem v_KX1_send_68 {l : Launch} {G : vv_G} {d : Nat} {ad : Nat → Nat} (hG : vv_gok G) (hH : vv_hy l G ad) {x0 : Nat} {σ : vv_S} {r : hX (Int32 × vv_S)} (h : KX1_send_68 ad x0 σ = some r) : vv_V l G MX1_send (d + 10) 68 [(0, .ref x0)] [] σ (xI r) := by
  unfold KX1_send_68 at h
  refine vv_aload_n dX1_send_68 rfl 0 rfl ?_
  refine vv_iconst (v := (nI 1)) dX1_send_69 (by decide) ?_
  replace h := isO_o h; obtain ⟨fz2, sz2, ez2, h⟩ := h
  replace h := bd_o h; obtain ⟨r1, er1, h⟩ := h
  refine vv_callV ok_X1_refuse q338 (m_KX1_refuse hG hH er1 d) rfl (by omega) ⟨_, _, _, _, _, ez2, by rw [hG.1]; rfl⟩ rfl rfl (Nat.le_of_ble_eq_true rfl) dX1_send_70 ?_
  cases h
  exact vv_iret rfl dX1_send_73
def KX1_send (ad : Nat → Nat) (x0 : Nat) (x1 : Int32) (x2 : Int32) (σ : vv_S) : Option (hX (Int32 × vv_S)) := (isO σ x0 0).bind fun _ => (KX1_aCrate x0 x1 σ).bind fun r1 => xb r1 fun r3 => (gR r3 x0 0 1).bind fun v4 => (gR r3 v4 1 2).bind fun v5 => (isO r3 v5 11).bind fun _ => (KJ2_size v5 r3).bind fun r6 => (KX1_oneOf x2 (r6 - (nI 1)) r3).bind fun r8 => xb r8 fun r9 => (gR r9 x0 0 1).bind fun v10 => (gR r9 v10 1 2).bind fun v11 => (isO r9 v11 11).bind fun _ => (KJ2_get v11 x2 r9).bind fun r12 => (isO r9 r12 6).bind fun _ => (gR r9 x0 0 2).bind fun v15 => (isO r9 v15 2).bind fun _ => (KX3_lies v15 x1 r9).bind fun r16 => if r16 = 0 then (KX1_send_68 ad x0 r9) else ((gR r9 x0 0 2).bind fun v19 => (gR r9 v19 2 6).bind fun v20 => (aI r9 .int v20 x1).bind fun v21 => (isO r9 r12 6).bind fun _ => (KX7_from r12 v21 r9).bind fun r22 => if r22 = (-1) then (KX1_send_68 ad x0 r9) else ((isO r9 x0 0).bind fun _ => (KX1_keep ad x0 r9).bind fun r25 => (gR r25 x0 0 2).bind fun v27 => (gR r25 v27 2 6).bind fun v28 => (gR r25 x0 0 2).bind fun v29 => (gR r25 v29 2 6).bind fun v30 => (aI r25 .int v30 x1).bind fun v31 => (isO r25 r12 6).bind fun _ => (KX7_from r12 v31 r25).bind fun r32 => (sI r25 v28 x1 r32).bind fun σ34 => (gR σ34 x0 0 2).bind fun v35 => (gR σ34 v35 2 7).bind fun v36 => (gI σ34 r12 6 2).bind fun v37 => (sI σ34 v36 x1 v37).bind fun σ38 => (gR σ38 x0 0 2).bind fun v39 => (gR σ38 v39 2 8).bind fun v40 => (gI σ38 r12 6 3).bind fun v41 => (sI σ38 v40 x1 v41).bind fun σ42 => (gR σ42 x0 0 2).bind fun v43 => (gR σ42 v43 2 6).bind fun v44 => (aI σ42 .int v44 x1).bind fun v45 => some (.inl (v45, σ42))))
theorem v_KX1_send_0 {l : Launch} {G : vv_G} {d : Nat} {ad : Nat → Nat} (hG : vv_gok G) (hH : vv_hy l G ad) {x0 : Nat} {x1 : Int32} {x2 : Int32} {σ : vv_S} {r : hX (Int32 × vv_S)} (h : KX1_send ad x0 x1 x2 σ = some r) : vv_V l G MX1_send (d + 10) 0 [(0, .ref x0), (1, .int x1), (2, .int x2)] [] σ (xI r) := by
  unfold KX1_send at h
  refine vv_aload_n dX1_send_0 rfl 0 rfl ?_
  refine vv_iload_n dX1_send_1 rfl 1 rfl ?_
  replace h := isO_o h; obtain ⟨fz2, sz2, ez2, h⟩ := h
  replace h := bd_o h; obtain ⟨r1, er1, h⟩ := h
  rcases r1 with r3 | r3x
  · refine vv_callV ok_X1_aCrate q1289 (m_KX1_aCrate hG hH er1 d) rfl (by omega) ⟨_, _, _, _, _, ez2, by rw [hG.1]; rfl⟩ rfl rfl (Nat.le_of_ble_eq_true rfl) dX1_send_2 ?_
    replace h := xb_l h
    refine vv_iload_n dX1_send_5 rfl 2 rfl ?_
    refine vv_aload_n dX1_send_6 rfl 0 rfl ?_
    replace h := gR_o h; obtain ⟨v4, fv4, sv4, ev4, lv4, h⟩ := h
    refine vv_get (fl_X1_22 hG) ev4 lv4 dX1_send_7 ?_
    replace h := gR_o h; obtain ⟨v5, fv5, sv5, ev5, lv5, h⟩ := h
    refine vv_getM (fl_X1_96 hH) ev5 lv5 dX1_send_10 ?_
    replace h := isO_o h; obtain ⟨fz7, sz7, ez7, h⟩ := h
    replace h := bd_o h; obtain ⟨r6, er6, h⟩ := h
    refine vv_callF (xx := ⟨"java/util/List", "size", "()I"⟩) okf_J2_size q426 (m_KJ2_size hG hH er6 d) rfl (by omega) ⟨_, _, _, _, _, ez7, by rw [hG.1]; rfl⟩ q429 (fun U hK => hH.1.2.2.1 U hK _ (List.mem_of_getElem? (i := 1) rfl)) ⟨by decide, by decide, by decide +kernel⟩ rfl rfl (Nat.le_of_ble_eq_true rfl) dX1_send_13 ?_
    refine vv_iconst (v := (nI 1)) dX1_send_18 (by decide) ?_
    refine vv_isub dX1_send_19 ?_
    replace h := bd_o h; obtain ⟨r8, er8, h⟩ := h
    rcases r8 with r9 | r9x
    · refine vv_callS ok_X1_oneOf q1293 (m_KX1_oneOf hG hH er8 d) rfl (by omega) rfl rfl (Nat.le_of_ble_eq_true rfl) dX1_send_20 ?_
      replace h := xb_l h
      refine vv_aload_n dX1_send_23 rfl 0 rfl ?_
      replace h := gR_o h; obtain ⟨v10, fv10, sv10, ev10, lv10, h⟩ := h
      refine vv_get (fl_X1_22 hG) ev10 lv10 dX1_send_24 ?_
      replace h := gR_o h; obtain ⟨v11, fv11, sv11, ev11, lv11, h⟩ := h
      refine vv_getM (fl_X1_96 hH) ev11 lv11 dX1_send_27 ?_
      refine vv_iload_n dX1_send_30 rfl 2 rfl ?_
      replace h := isO_o h; obtain ⟨fz13, sz13, ez13, h⟩ := h
      replace h := bd_o h; obtain ⟨r12, er12, h⟩ := h
      refine vv_callF (xx := ⟨"java/util/List", "get", "(I)Ljava/lang/Object;"⟩) okf_J2_get q1278 (m_KJ2_get hG hH er12 d) rfl (by omega) ⟨_, _, _, _, _, ez13, by rw [hG.1]; rfl⟩ q481 (fun U hK => hH.1.2.2.1 U hK _ (List.mem_of_getElem? (i := 3) rfl)) ⟨by decide, by decide, by decide +kernel⟩ rfl rfl (Nat.le_of_ble_eq_true rfl) dX1_send_31 ?_
      replace h := isO_o h; obtain ⟨fz14, sz14, ez14, h⟩ := h
      refine vv_cast ez14 ⟨_, _, by rw [hG.1]; rfl⟩ q1303 (Or.inl rfl) dX1_send_36 ?_
      refine vv_astore_n (lv' := [(0, .ref x0), (1, .int x1), (2, .int x2), (3, .ref r12)]) dX1_send_39 rfl (by decide) [1, 2, 3, 0] rfl ?_
      refine vv_aload_n dX1_send_40 rfl 0 rfl ?_
      replace h := gR_o h; obtain ⟨v15, fv15, sv15, ev15, lv15, h⟩ := h
      refine vv_get (fl_X1_31 hG) ev15 lv15 dX1_send_41 ?_
      refine vv_iload_n dX1_send_44 rfl 1 rfl ?_
      replace h := isO_o h; obtain ⟨fz17, sz17, ez17, h⟩ := h
      replace h := bd_o h; obtain ⟨r16, er16, h⟩ := h
      refine vv_callV ok_X3_lies q615 (m_KX3_lies hG hH er16 d) rfl (by omega) ⟨_, _, _, _, _, ez17, by rw [hG.1]; rfl⟩ rfl rfl (Nat.le_of_ble_eq_true rfl) dX1_send_45 ?_
      refine vv_if_eq (tgt := 68) dX1_send_48 (by decide) (fun c18 => ?_) (fun c18 => ?_)
      · rw [if_pos c18] at h
        refine vv_sub (lv' := [(0, .ref x0)]) [0] rfl ?_
        exact v_KX1_send_68 hG hH h
      · rw [if_neg c18] at h
        refine vv_aload_n dX1_send_51 rfl 3 rfl ?_
        refine vv_aload_n dX1_send_52 rfl 0 rfl ?_
        replace h := gR_o h; obtain ⟨v19, fv19, sv19, ev19, lv19, h⟩ := h
        refine vv_get (fl_X1_31 hG) ev19 lv19 dX1_send_53 ?_
        replace h := gR_o h; obtain ⟨v20, fv20, sv20, ev20, lv20, h⟩ := h
        refine vv_getM (fl_X1_131 hH) ev20 lv20 dX1_send_56 ?_
        refine vv_iload_n dX1_send_59 rfl 1 rfl ?_
        replace h := aI_o h; obtain ⟨v21, fv21, nv21, qv21, ev21, iv21, wv21, h⟩ := h
        refine vv_iald ev21 iv21 dX1_send_60 ?_
        rw [wv21]
        replace h := isO_o h; obtain ⟨fz23, sz23, ez23, h⟩ := h
        replace h := bd_o h; obtain ⟨r22, er22, h⟩ := h
        refine vv_callV ok_X7_from q1304 (m_KX7_from hG hH er22 d) rfl (by omega) ⟨_, _, _, _, _, ez23, by rw [hG.1]; rfl⟩ rfl rfl (Nat.le_of_ble_eq_true rfl) dX1_send_61 ?_
        refine vv_iconst (v := (-1)) dX1_send_64 (by decide) ?_
        refine vv_icmp_ne (tgt := 74) dX1_send_65 (by decide) (fun c24 => ?_) (fun c24 => ?_)
        · rw [if_neg c24] at h
          refine vv_aload_n dX1_send_74 rfl 0 rfl ?_
          replace h := isO_o h; obtain ⟨fz26, sz26, ez26, h⟩ := h
          replace h := bd_o h; obtain ⟨r25, er25, h⟩ := h
          refine vv_callV ok_X1_keep q342 (m_KX1_keep hG hH er25 d) rfl (by omega) ⟨_, _, _, _, _, ez26, by rw [hG.1]; rfl⟩ rfl rfl (Nat.le_of_ble_eq_true rfl) dX1_send_75 ?_
          refine vv_aload_n dX1_send_78 rfl 0 rfl ?_
          replace h := gR_o h; obtain ⟨v27, fv27, sv27, ev27, lv27, h⟩ := h
          refine vv_get (fl_X1_31 hG) ev27 lv27 dX1_send_79 ?_
          replace h := gR_o h; obtain ⟨v28, fv28, sv28, ev28, lv28, h⟩ := h
          refine vv_getM (fl_X1_131 hH) ev28 lv28 dX1_send_82 ?_
          refine vv_iload_n dX1_send_85 rfl 1 rfl ?_
          refine vv_aload_n dX1_send_86 rfl 3 rfl ?_
          refine vv_aload_n dX1_send_87 rfl 0 rfl ?_
          replace h := gR_o h; obtain ⟨v29, fv29, sv29, ev29, lv29, h⟩ := h
          refine vv_get (fl_X1_31 hG) ev29 lv29 dX1_send_88 ?_
          replace h := gR_o h; obtain ⟨v30, fv30, sv30, ev30, lv30, h⟩ := h
          refine vv_getM (fl_X1_131 hH) ev30 lv30 dX1_send_91 ?_
          refine vv_iload_n dX1_send_94 rfl 1 rfl ?_
          replace h := aI_o h; obtain ⟨v31, fv31, nv31, qv31, ev31, iv31, wv31, h⟩ := h
          refine vv_iald ev31 iv31 dX1_send_95 ?_
          rw [wv31]
          replace h := isO_o h; obtain ⟨fz33, sz33, ez33, h⟩ := h
          replace h := bd_o h; obtain ⟨r32, er32, h⟩ := h
          refine vv_callV ok_X7_from q1304 (m_KX7_from hG hH er32 d) rfl (by omega) ⟨_, _, _, _, _, ez33, by rw [hG.1]; rfl⟩ rfl rfl (Nat.le_of_ble_eq_true rfl) dX1_send_96 ?_
          replace h := sI_o h; obtain ⟨σ34, nσ34, qσ34, eσ34, iσ34, uσ34, h⟩ := h
          refine vv_iast eσ34 iσ34 dX1_send_99 ?_
          rw [← uσ34]
          refine vv_aload_n dX1_send_100 rfl 0 rfl ?_
          replace h := gR_o h; obtain ⟨v35, fv35, sv35, ev35, lv35, h⟩ := h
          refine vv_get (fl_X1_31 hG) ev35 lv35 dX1_send_101 ?_
          replace h := gR_o h; obtain ⟨v36, fv36, sv36, ev36, lv36, h⟩ := h
          refine vv_getM (fl_X1_179 hH) ev36 lv36 dX1_send_104 ?_
          refine vv_iload_n dX1_send_107 rfl 1 rfl ?_
          refine vv_aload_n dX1_send_108 rfl 3 rfl ?_
          replace h := gI_o h; obtain ⟨v37, fv37, sv37, ev37, lv37, h⟩ := h
          refine vv_getM (fl_X1_211 hH) ev37 lv37 dX1_send_109 ?_
          replace h := sI_o h; obtain ⟨σ38, nσ38, qσ38, eσ38, iσ38, uσ38, h⟩ := h
          refine vv_iast eσ38 iσ38 dX1_send_112 ?_
          rw [← uσ38]
          refine vv_aload_n dX1_send_113 rfl 0 rfl ?_
          replace h := gR_o h; obtain ⟨v39, fv39, sv39, ev39, lv39, h⟩ := h
          refine vv_get (fl_X1_31 hG) ev39 lv39 dX1_send_114 ?_
          replace h := gR_o h; obtain ⟨v40, fv40, sv40, ev40, lv40, h⟩ := h
          refine vv_getM (fl_X1_214 hH) ev40 lv40 dX1_send_117 ?_
          refine vv_iload_n dX1_send_120 rfl 1 rfl ?_
          refine vv_aload_n dX1_send_121 rfl 3 rfl ?_
          replace h := gI_o h; obtain ⟨v41, fv41, sv41, ev41, lv41, h⟩ := h
          refine vv_getM (fl_X1_217 hH) ev41 lv41 dX1_send_122 ?_
          replace h := sI_o h; obtain ⟨σ42, nσ42, qσ42, eσ42, iσ42, uσ42, h⟩ := h
          refine vv_iast eσ42 iσ42 dX1_send_125 ?_
          rw [← uσ42]
          refine vv_aload_n dX1_send_126 rfl 0 rfl ?_
          replace h := gR_o h; obtain ⟨v43, fv43, sv43, ev43, lv43, h⟩ := h
          refine vv_get (fl_X1_31 hG) ev43 lv43 dX1_send_127 ?_
          replace h := gR_o h; obtain ⟨v44, fv44, sv44, ev44, lv44, h⟩ := h
          refine vv_getM (fl_X1_131 hH) ev44 lv44 dX1_send_130 ?_
          refine vv_iload_n dX1_send_133 rfl 1 rfl ?_
          replace h := aI_o h; obtain ⟨v45, fv45, nv45, qv45, ev45, iv45, wv45, h⟩ := h
          refine vv_iald ev45 iv45 dX1_send_134 ?_
          rw [wv45]
          cases h
          exact vv_iret rfl dX1_send_135
        · rw [if_pos c24] at h
          refine vv_sub (lv' := [(0, .ref x0)]) [0] rfl ?_
          exact v_KX1_send_68 hG hH h
    · cases h
      exact vv_callSX ok_X1_oneOf q1293 (m_KX1_oneOf hG hH er8 d) rfl (by omega) rfl rfl (Nat.le_of_ble_eq_true rfl) dX1_send_20 (vv_Tout (by intro x hx; cases hx))
  · cases h
    exact vv_callVX ok_X1_aCrate q1289 (m_KX1_aCrate hG hH er1 d) rfl (by omega) ⟨_, _, _, _, _, ez2, by rw [hG.1]; rfl⟩ rfl rfl (Nat.le_of_ble_eq_true rfl) dX1_send_2 (vv_Tout (by intro x hx; cases hx))
theorem m_KX1_send {l : Launch} {G : vv_G} {ad : Nat → Nat} (hG : vv_gok G) (hH : vv_hy l G ad) {x0 : Nat} {x1 : Int32} {x2 : Int32} {σ : vv_S} {r : hX (Int32 × vv_S)} (h : KX1_send ad x0 x1 x2 σ = some r) (d : Nat) : vv_Met l G MX1_send (d + 10) [.ref x0, .int x1, .int x2] σ (xI r) := vv_head (by decide +kernel) rfl (Nat.le_of_ble_eq_true rfl) rfl (v_KX1_send_0 hG hH h)
/-! ('X1', 'open') -/
def KX1_open (ad : Nat → Nat) (x0 : Nat) (x1 : Int32) (σ : vv_S) : Option (hX (Int32 × vv_S)) := (isO σ x0 0).bind fun _ => (KX1_aCrate x0 x1 σ).bind fun r1 => xb r1 fun r3 => (gR r3 x0 0 2).bind fun v4 => (isO r3 v4 2).bind fun _ => (KX3_lies v4 x1 r3).bind fun r5 => if r5 = 0 then ((isO r3 x0 0).bind fun _ => (KX1_refuse x0 (nI 1) r3).bind fun r13 => some (.inl (r13.1, r13.2))) else ((isO r3 x0 0).bind fun _ => (KX1_keep ad x0 r3).bind fun r8 => (gR r8 x0 0 2).bind fun v10 => (isO r8 v10 2).bind fun _ => (KX3_open v10 x1 r8).bind fun r11 => some (.inl (r11.1, r11.2)))
theorem v_KX1_open_0 {l : Launch} {G : vv_G} {d : Nat} {ad : Nat → Nat} (hG : vv_gok G) (hH : vv_hy l G ad) {x0 : Nat} {x1 : Int32} {σ : vv_S} {r : hX (Int32 × vv_S)} (h : KX1_open ad x0 x1 σ = some r) : vv_V l G MX1_open (d + 10) 0 [(0, .ref x0), (1, .int x1)] [] σ (xI r) := by
  unfold KX1_open at h
  refine vv_aload_n dX1_open_0 rfl 0 rfl ?_
  refine vv_iload_n dX1_open_1 rfl 1 rfl ?_
  replace h := isO_o h; obtain ⟨fz2, sz2, ez2, h⟩ := h
  replace h := bd_o h; obtain ⟨r1, er1, h⟩ := h
  rcases r1 with r3 | r3x
  · refine vv_callV ok_X1_aCrate q1289 (m_KX1_aCrate hG hH er1 d) rfl (by omega) ⟨_, _, _, _, _, ez2, by rw [hG.1]; rfl⟩ rfl rfl (Nat.le_of_ble_eq_true rfl) dX1_open_2 ?_
    replace h := xb_l h
    refine vv_aload_n dX1_open_5 rfl 0 rfl ?_
    replace h := gR_o h; obtain ⟨v4, fv4, sv4, ev4, lv4, h⟩ := h
    refine vv_get (fl_X1_31 hG) ev4 lv4 dX1_open_6 ?_
    refine vv_iload_n dX1_open_9 rfl 1 rfl ?_
    replace h := isO_o h; obtain ⟨fz6, sz6, ez6, h⟩ := h
    replace h := bd_o h; obtain ⟨r5, er5, h⟩ := h
    refine vv_callV ok_X3_lies q615 (m_KX3_lies hG hH er5 d) rfl (by omega) ⟨_, _, _, _, _, ez6, by rw [hG.1]; rfl⟩ rfl rfl (Nat.le_of_ble_eq_true rfl) dX1_open_10 ?_
    refine vv_if_ne (tgt := 22) dX1_open_13 (by decide) (fun c7 => ?_) (fun c7 => ?_)
    · rw [if_neg c7] at h
      refine vv_aload_n dX1_open_22 rfl 0 rfl ?_
      replace h := isO_o h; obtain ⟨fz9, sz9, ez9, h⟩ := h
      replace h := bd_o h; obtain ⟨r8, er8, h⟩ := h
      refine vv_callV ok_X1_keep q342 (m_KX1_keep hG hH er8 d) rfl (by omega) ⟨_, _, _, _, _, ez9, by rw [hG.1]; rfl⟩ rfl rfl (Nat.le_of_ble_eq_true rfl) dX1_open_23 ?_
      refine vv_aload_n dX1_open_26 rfl 0 rfl ?_
      replace h := gR_o h; obtain ⟨v10, fv10, sv10, ev10, lv10, h⟩ := h
      refine vv_get (fl_X1_31 hG) ev10 lv10 dX1_open_27 ?_
      refine vv_iload_n dX1_open_30 rfl 1 rfl ?_
      replace h := isO_o h; obtain ⟨fz12, sz12, ez12, h⟩ := h
      replace h := bd_o h; obtain ⟨r11, er11, h⟩ := h
      refine vv_callV ok_X3_open q616 (m_KX3_open hG hH er11 d) rfl (by omega) ⟨_, _, _, _, _, ez12, by rw [hG.1]; rfl⟩ rfl rfl (Nat.le_of_ble_eq_true rfl) dX1_open_31 ?_
      cases h
      exact vv_iret rfl dX1_open_34
    · rw [if_pos c7] at h
      refine vv_aload_n dX1_open_16 rfl 0 rfl ?_
      refine vv_iconst (v := (nI 1)) dX1_open_17 (by decide) ?_
      replace h := isO_o h; obtain ⟨fz14, sz14, ez14, h⟩ := h
      replace h := bd_o h; obtain ⟨r13, er13, h⟩ := h
      refine vv_callV ok_X1_refuse q338 (m_KX1_refuse hG hH er13 d) rfl (by omega) ⟨_, _, _, _, _, ez14, by rw [hG.1]; rfl⟩ rfl rfl (Nat.le_of_ble_eq_true rfl) dX1_open_18 ?_
      cases h
      exact vv_iret rfl dX1_open_21
  · cases h
    exact vv_callVX ok_X1_aCrate q1289 (m_KX1_aCrate hG hH er1 d) rfl (by omega) ⟨_, _, _, _, _, ez2, by rw [hG.1]; rfl⟩ rfl rfl (Nat.le_of_ble_eq_true rfl) dX1_open_2 (vv_Tout (by intro x hx; cases hx))
theorem m_KX1_open {l : Launch} {G : vv_G} {ad : Nat → Nat} (hG : vv_gok G) (hH : vv_hy l G ad) {x0 : Nat} {x1 : Int32} {σ : vv_S} {r : hX (Int32 × vv_S)} (h : KX1_open ad x0 x1 σ = some r) (d : Nat) : vv_Met l G MX1_open (d + 10) [.ref x0, .int x1] σ (xI r) := vv_head (by decide +kernel) rfl (Nat.le_of_ble_eq_true rfl) rfl (v_KX1_open_0 hG hH h)
/-! ('X1', 'cat') -/
def KX1_cat_40 (ad : Nat → Nat) (x0 : Nat) (σ : vv_S) : Option (hX (Int32 × vv_S)) := (gR σ x0 0 6).bind fun v1 => (aI σ .int v1 (nI 1)).bind fun v2 => (sI σ v1 (nI 1) (v2 + (nI 1))).bind fun σ3 => some (.inl ((nI 0), σ3))
theorem v_KX1_cat_40 {l : Launch} {G : vv_G} {d : Nat} {ad : Nat → Nat} (hG : vv_gok G) (hH : vv_hy l G ad) {x0 : Nat} {σ : vv_S} {r : hX (Int32 × vv_S)} (h : KX1_cat_40 ad x0 σ = some r) : vv_V l G MX1_cat (d + 10) 40 [(0, .ref x0)] [] σ (xI r) := by
  unfold KX1_cat_40 at h
  refine vv_aload_n dX1_cat_40 rfl 0 rfl ?_
  replace h := gR_o h; obtain ⟨v1, fv1, sv1, ev1, lv1, h⟩ := h
  refine vv_get (fl_X1_43 hG) ev1 lv1 dX1_cat_41 ?_
  refine vv_iconst (v := (nI 1)) dX1_cat_44 (by decide) ?_
  refine vv_dup2 dX1_cat_45 rfl rfl ?_
  replace h := aI_o h; obtain ⟨v2, fv2, nv2, qv2, ev2, iv2, wv2, h⟩ := h
  refine vv_iald ev2 iv2 dX1_cat_46 ?_
  rw [wv2]
  refine vv_iconst (v := (nI 1)) dX1_cat_47 (by decide) ?_
  refine vv_iadd dX1_cat_48 ?_
  replace h := sI_o h; obtain ⟨σ3, nσ3, qσ3, eσ3, iσ3, uσ3, h⟩ := h
  refine vv_iast eσ3 iσ3 dX1_cat_49 ?_
  rw [← uσ3]
  refine vv_iconst (v := (nI 0)) dX1_cat_50 (by decide) ?_
  cases h
  exact vv_zret rfl (by decide) dX1_cat_51
def KX1_cat_73 (ad : Nat → Nat) (s0 : Nat) (s1 : Int32) (s2 : Int32) (σ : vv_S) : Option (hX (Int32 × vv_S)) := (sI σ s0 s1 s2).bind fun σ1 => some (.inl ((nI 1), σ1))
theorem v_KX1_cat_73 {l : Launch} {G : vv_G} {d : Nat} {ad : Nat → Nat} (hG : vv_gok G) (hH : vv_hy l G ad) {s0 : Nat} {s1 : Int32} {s2 : Int32} {σ : vv_S} {r : hX (Int32 × vv_S)} (h : KX1_cat_73 ad s0 s1 s2 σ = some r) : vv_V l G MX1_cat (d + 10) 73 [] [.int s2, .int s1, .ref s0] σ (xI r) := by
  unfold KX1_cat_73 at h
  replace h := sI_o h; obtain ⟨σ1, nσ1, qσ1, eσ1, iσ1, uσ1, h⟩ := h
  refine vv_iast eσ1 iσ1 dX1_cat_73 ?_
  rw [← uσ1]
  refine vv_iconst (v := (nI 1)) dX1_cat_74 (by decide) ?_
  cases h
  exact vv_zret rfl (by decide) dX1_cat_75
def KX1_cat_36 (ad : Nat → Nat) (s0 : Int32) (x0 : Nat) (x1 : Int32) (x2 : Int32) (σ : vv_S) : Option (hX (Int32 × vv_S)) := if s0 = x2 then (KX1_cat_40 ad x0 σ) else ((isO σ x0 0).bind fun _ => (KX1_keep ad x0 σ).bind fun r2 => (gR r2 x0 0 2).bind fun v4 => (gR r2 v4 2 5).bind fun v5 => if x2 = 0 then (KX1_cat_73 ad v5 x1 (nI 0) r2) else (KX1_cat_73 ad v5 x1 (nI 1) r2))
theorem v_KX1_cat_36 {l : Launch} {G : vv_G} {d : Nat} {ad : Nat → Nat} (hG : vv_gok G) (hH : vv_hy l G ad) {s0 : Int32} {x0 : Nat} {x1 : Int32} {x2 : Int32} {σ : vv_S} {r : hX (Int32 × vv_S)} (h : KX1_cat_36 ad s0 x0 x1 x2 σ = some r) : vv_V l G MX1_cat (d + 10) 36 [(0, .ref x0), (1, .int x1), (2, .int x2)] [.int s0] σ (xI r) := by
  unfold KX1_cat_36 at h
  refine vv_iload_n dX1_cat_36 rfl 2 rfl ?_
  refine vv_icmp_ne (tgt := 52) dX1_cat_37 (by decide) (fun c1 => ?_) (fun c1 => ?_)
  · rw [if_neg c1] at h
    refine vv_aload_n dX1_cat_52 rfl 0 rfl ?_
    replace h := isO_o h; obtain ⟨fz3, sz3, ez3, h⟩ := h
    replace h := bd_o h; obtain ⟨r2, er2, h⟩ := h
    refine vv_callV ok_X1_keep q342 (m_KX1_keep hG hH er2 d) rfl (by omega) ⟨_, _, _, _, _, ez3, by rw [hG.1]; rfl⟩ rfl rfl (Nat.le_of_ble_eq_true rfl) dX1_cat_53 ?_
    refine vv_aload_n dX1_cat_56 rfl 0 rfl ?_
    replace h := gR_o h; obtain ⟨v4, fv4, sv4, ev4, lv4, h⟩ := h
    refine vv_get (fl_X1_31 hG) ev4 lv4 dX1_cat_57 ?_
    replace h := gR_o h; obtain ⟨v5, fv5, sv5, ev5, lv5, h⟩ := h
    refine vv_getM (fl_X1_176 hH) ev5 lv5 dX1_cat_60 ?_
    refine vv_iload_n dX1_cat_63 rfl 1 rfl ?_
    refine vv_iload_n dX1_cat_64 rfl 2 rfl ?_
    refine vv_if_eq (tgt := 72) dX1_cat_65 (by decide) (fun c6 => ?_) (fun c6 => ?_)
    · rw [if_pos c6] at h
      refine vv_iconst (v := (nI 0)) dX1_cat_72 (by decide) ?_
      refine vv_sub (lv' := []) [] rfl ?_
      exact v_KX1_cat_73 hG hH h
    · rw [if_neg c6] at h
      refine vv_iconst (v := (nI 1)) dX1_cat_68 (by decide) ?_
      refine vv_goto (tgt := 73) dX1_cat_69 (by decide) ?_
      refine vv_sub (lv' := []) [] rfl ?_
      exact v_KX1_cat_73 hG hH h
  · rw [if_pos c1] at h
    refine vv_sub (lv' := [(0, .ref x0)]) [0] rfl ?_
    exact v_KX1_cat_40 hG hH h
def KX1_cat (ad : Nat → Nat) (x0 : Nat) (x1 : Int32) (x2 : Int32) (σ : vv_S) : Option (hX (Int32 × vv_S)) := (isO σ x0 0).bind fun _ => (KX1_aCrate x0 x1 σ).bind fun r1 => xb r1 fun r3 => (gR r3 x0 0 2).bind fun v4 => (gR r3 v4 2 6).bind fun v5 => (aI r3 .int v5 x1).bind fun v6 => if v6 = (-1) then (KX1_cat_40 ad x0 r3) else ((gR r3 x0 0 2).bind fun v8 => (gR r3 v8 2 5).bind fun v9 => (aI r3 .int v9 x1).bind fun v10 => if v10 = (nI 1) then (KX1_cat_36 ad (nI 1) x0 x1 x2 r3) else (KX1_cat_36 ad (nI 0) x0 x1 x2 r3))
theorem v_KX1_cat_0 {l : Launch} {G : vv_G} {d : Nat} {ad : Nat → Nat} (hG : vv_gok G) (hH : vv_hy l G ad) {x0 : Nat} {x1 : Int32} {x2 : Int32} {σ : vv_S} {r : hX (Int32 × vv_S)} (h : KX1_cat ad x0 x1 x2 σ = some r) : vv_V l G MX1_cat (d + 10) 0 [(0, .ref x0), (1, .int x1), (2, .int x2)] [] σ (xI r) := by
  unfold KX1_cat at h
  refine vv_aload_n dX1_cat_0 rfl 0 rfl ?_
  refine vv_iload_n dX1_cat_1 rfl 1 rfl ?_
  replace h := isO_o h; obtain ⟨fz2, sz2, ez2, h⟩ := h
  replace h := bd_o h; obtain ⟨r1, er1, h⟩ := h
  rcases r1 with r3 | r3x
  · refine vv_callV ok_X1_aCrate q1289 (m_KX1_aCrate hG hH er1 d) rfl (by omega) ⟨_, _, _, _, _, ez2, by rw [hG.1]; rfl⟩ rfl rfl (Nat.le_of_ble_eq_true rfl) dX1_cat_2 ?_
    replace h := xb_l h
    refine vv_aload_n dX1_cat_5 rfl 0 rfl ?_
    replace h := gR_o h; obtain ⟨v4, fv4, sv4, ev4, lv4, h⟩ := h
    refine vv_get (fl_X1_31 hG) ev4 lv4 dX1_cat_6 ?_
    replace h := gR_o h; obtain ⟨v5, fv5, sv5, ev5, lv5, h⟩ := h
    refine vv_getM (fl_X1_131 hH) ev5 lv5 dX1_cat_9 ?_
    refine vv_iload_n dX1_cat_12 rfl 1 rfl ?_
    replace h := aI_o h; obtain ⟨v6, fv6, nv6, qv6, ev6, iv6, wv6, h⟩ := h
    refine vv_iald ev6 iv6 dX1_cat_13 ?_
    rw [wv6]
    refine vv_iconst (v := (-1)) dX1_cat_14 (by decide) ?_
    refine vv_icmp_eq (tgt := 40) dX1_cat_15 (by decide) (fun c7 => ?_) (fun c7 => ?_)
    · rw [if_pos c7] at h
      refine vv_sub (lv' := [(0, .ref x0)]) [0] rfl ?_
      exact v_KX1_cat_40 hG hH h
    · rw [if_neg c7] at h
      refine vv_aload_n dX1_cat_18 rfl 0 rfl ?_
      replace h := gR_o h; obtain ⟨v8, fv8, sv8, ev8, lv8, h⟩ := h
      refine vv_get (fl_X1_31 hG) ev8 lv8 dX1_cat_19 ?_
      replace h := gR_o h; obtain ⟨v9, fv9, sv9, ev9, lv9, h⟩ := h
      refine vv_getM (fl_X1_176 hH) ev9 lv9 dX1_cat_22 ?_
      refine vv_iload_n dX1_cat_25 rfl 1 rfl ?_
      replace h := aI_o h; obtain ⟨v10, fv10, nv10, qv10, ev10, iv10, wv10, h⟩ := h
      refine vv_iald ev10 iv10 dX1_cat_26 ?_
      rw [wv10]
      refine vv_iconst (v := (nI 1)) dX1_cat_27 (by decide) ?_
      refine vv_icmp_ne (tgt := 35) dX1_cat_28 (by decide) (fun c11 => ?_) (fun c11 => ?_)
      · rw [if_neg c11] at h
        refine vv_iconst (v := (nI 0)) dX1_cat_35 (by decide) ?_
        exact v_KX1_cat_36 hG hH h
      · rw [if_pos c11] at h
        refine vv_iconst (v := (nI 1)) dX1_cat_31 (by decide) ?_
        refine vv_goto (tgt := 36) dX1_cat_32 (by decide) ?_
        exact v_KX1_cat_36 hG hH h
  · cases h
    exact vv_callVX ok_X1_aCrate q1289 (m_KX1_aCrate hG hH er1 d) rfl (by omega) ⟨_, _, _, _, _, ez2, by rw [hG.1]; rfl⟩ rfl rfl (Nat.le_of_ble_eq_true rfl) dX1_cat_2 (vv_Tout (by intro x hx; cases hx))
theorem m_KX1_cat {l : Launch} {G : vv_G} {ad : Nat → Nat} (hG : vv_gok G) (hH : vv_hy l G ad) {x0 : Nat} {x1 : Int32} {x2 : Int32} {σ : vv_S} {r : hX (Int32 × vv_S)} (h : KX1_cat ad x0 x1 x2 σ = some r) (d : Nat) : vv_Met l G MX1_cat (d + 10) [.ref x0, .int x1, .int x2] σ (xI r) := vv_head (by decide +kernel) rfl (Nat.le_of_ble_eq_true rfl) rfl (v_KX1_cat_0 hG hH h)
/-! ('X1', 'mix') -/
def KX1_mix_58 (ad : Nat → Nat) (x0 : Nat) (σ : vv_S) : Option (hX (Int32 × vv_S)) := (isO σ x0 0).bind fun _ => (KX1_refuse x0 (nI 1) σ).bind fun r1 => some (.inl (r1.1, r1.2))
theorem v_KX1_mix_58 {l : Launch} {G : vv_G} {d : Nat} {ad : Nat → Nat} (hG : vv_gok G) (hH : vv_hy l G ad) {x0 : Nat} {σ : vv_S} {r : hX (Int32 × vv_S)} (h : KX1_mix_58 ad x0 σ = some r) : vv_V l G MX1_mix (d + 10) 58 [(0, .ref x0)] [] σ (xI r) := by
  unfold KX1_mix_58 at h
  refine vv_aload_n dX1_mix_58 rfl 0 rfl ?_
  refine vv_iconst (v := (nI 1)) dX1_mix_59 (by decide) ?_
  replace h := isO_o h; obtain ⟨fz2, sz2, ez2, h⟩ := h
  replace h := bd_o h; obtain ⟨r1, er1, h⟩ := h
  refine vv_callV ok_X1_refuse q338 (m_KX1_refuse hG hH er1 d) rfl (by omega) ⟨_, _, _, _, _, ez2, by rw [hG.1]; rfl⟩ rfl rfl (Nat.le_of_ble_eq_true rfl) dX1_mix_60 ?_
  cases h
  exact vv_iret rfl dX1_mix_63
def KX1_mix_171 (ad : Nat → Nat) (x0 : Nat) (x1 : Int32) (x2 : Int32) (σ : vv_S) : Option (hX (Int32 × vv_S)) := (gR σ x0 0 2).bind fun v1 => (isO σ v1 2).bind fun _ => (KX3_lose v1 x2 σ).bind fun r2 => (gR r2 x0 0 2).bind fun v4 => (gR r2 v4 2 3).bind fun v5 => (aI r2 .int v5 x1).bind fun v6 => some (.inl (v6, r2))
theorem v_KX1_mix_171 {l : Launch} {G : vv_G} {d : Nat} {ad : Nat → Nat} (hG : vv_gok G) (hH : vv_hy l G ad) {x0 : Nat} {x1 : Int32} {x2 : Int32} {σ : vv_S} {r : hX (Int32 × vv_S)} (h : KX1_mix_171 ad x0 x1 x2 σ = some r) : vv_V l G MX1_mix (d + 10) 171 [(0, .ref x0), (1, .int x1), (2, .int x2)] [] σ (xI r) := by
  unfold KX1_mix_171 at h
  refine vv_aload_n dX1_mix_171 rfl 0 rfl ?_
  replace h := gR_o h; obtain ⟨v1, fv1, sv1, ev1, lv1, h⟩ := h
  refine vv_get (fl_X1_31 hG) ev1 lv1 dX1_mix_172 ?_
  refine vv_iload_n dX1_mix_175 rfl 2 rfl ?_
  replace h := isO_o h; obtain ⟨fz3, sz3, ez3, h⟩ := h
  replace h := bd_o h; obtain ⟨r2, er2, h⟩ := h
  refine vv_callV ok_X3_lose q624 (m_KX3_lose hG hH er2 d) rfl (by omega) ⟨_, _, _, _, _, ez3, by rw [hG.1]; rfl⟩ rfl rfl (Nat.le_of_ble_eq_true rfl) dX1_mix_176 ?_
  refine vv_aload_n dX1_mix_179 rfl 0 rfl ?_
  replace h := gR_o h; obtain ⟨v4, fv4, sv4, ev4, lv4, h⟩ := h
  refine vv_get (fl_X1_31 hG) ev4 lv4 dX1_mix_180 ?_
  replace h := gR_o h; obtain ⟨v5, fv5, sv5, ev5, lv5, h⟩ := h
  refine vv_getM (fl_X1_170 hH) ev5 lv5 dX1_mix_183 ?_
  refine vv_iload_n dX1_mix_186 rfl 1 rfl ?_
  replace h := aI_o h; obtain ⟨v6, fv6, nv6, qv6, ev6, iv6, wv6, h⟩ := h
  refine vv_iald ev6 iv6 dX1_mix_187 ?_
  rw [wv6]
  cases h
  exact vv_iret rfl dX1_mix_188
def KX1_mix_155 (ad : Nat → Nat) (x0 : Nat) (x1 : Int32) (x2 : Int32) (x3 : Int32) (x4 : Int32) (σ : vv_S) : Option (hX (Int32 × vv_S)) := (gR σ x0 0 2).bind fun v1 => (gR σ v1 2 3).bind fun v2 => (sI σ v2 x1 (abI (x3 - x4))).bind fun σ3 => KX1_mix_171 ad x0 x1 x2 σ3
theorem v_KX1_mix_155 {l : Launch} {G : vv_G} {d : Nat} {ad : Nat → Nat} (hG : vv_gok G) (hH : vv_hy l G ad) {x0 : Nat} {x1 : Int32} {x2 : Int32} {x3 : Int32} {x4 : Int32} {σ : vv_S} {r : hX (Int32 × vv_S)} (h : KX1_mix_155 ad x0 x1 x2 x3 x4 σ = some r) : vv_V l G MX1_mix (d + 10) 155 [(0, .ref x0), (1, .int x1), (2, .int x2), (3, .int x3), (4, .int x4)] [] σ (xI r) := by
  unfold KX1_mix_155 at h
  refine vv_aload_n dX1_mix_155 rfl 0 rfl ?_
  replace h := gR_o h; obtain ⟨v1, fv1, sv1, ev1, lv1, h⟩ := h
  refine vv_get (fl_X1_31 hG) ev1 lv1 dX1_mix_156 ?_
  replace h := gR_o h; obtain ⟨v2, fv2, sv2, ev2, lv2, h⟩ := h
  refine vv_getM (fl_X1_170 hH) ev2 lv2 dX1_mix_159 ?_
  refine vv_iload_n dX1_mix_162 rfl 1 rfl ?_
  refine vv_iload_n dX1_mix_163 rfl 3 rfl ?_
  refine vv_iload dX1_mix_164 4 rfl ?_
  refine vv_isub dX1_mix_166 ?_
  refine vv_mabs q1327 (by omega) (Nat.le_of_ble_eq_true rfl) dX1_mix_167 ?_
  replace h := sI_o h; obtain ⟨σ3, nσ3, qσ3, eσ3, iσ3, uσ3, h⟩ := h
  refine vv_iast eσ3 iσ3 dX1_mix_170 ?_
  rw [← uσ3]
  refine vv_sub (lv' := [(0, .ref x0), (1, .int x1), (2, .int x2)]) [0, 1, 2] rfl ?_
  exact v_KX1_mix_171 hG hH h
def KX1_mix (ad : Nat → Nat) (x0 : Nat) (x1 : Int32) (x2 : Int32) (σ : vv_S) : Option (hX (Int32 × vv_S)) := (isO σ x0 0).bind fun _ => (KX1_aCrate x0 x1 σ).bind fun r1 => xb r1 fun r3 => (isO r3 x0 0).bind fun _ => (KX1_aCrate x0 x2 r3).bind fun r4 => xb r4 fun r6 => if x1 = x2 then (KX1_mix_58 ad x0 r6) else ((gR r6 x0 0 2).bind fun v8 => (isO r6 v8 2).bind fun _ => (KX3_lies v8 x1 r6).bind fun r9 => if r9 = 0 then (KX1_mix_58 ad x0 r6) else ((gR r6 x0 0 2).bind fun v12 => (isO r6 v12 2).bind fun _ => (KX3_lies v12 x2 r6).bind fun r13 => if r13 = 0 then (KX1_mix_58 ad x0 r6) else ((gR r6 x0 0 2).bind fun v16 => (gR r6 v16 2 6).bind fun v17 => (aI r6 .int v17 x1).bind fun v18 => (gR r6 x0 0 2).bind fun v19 => (gR r6 v19 2 6).bind fun v20 => (aI r6 .int v20 x2).bind fun v21 => if v18 = v21 then ((isO r6 x0 0).bind fun _ => (KX1_keep ad x0 r6).bind fun r23 => (gR r23 x0 0 2).bind fun v25 => (gR r23 v25 2 3).bind fun v26 => (aI r23 .int v26 x1).bind fun v27 => (gR r23 x0 0 2).bind fun v28 => (gR r23 v28 2 3).bind fun v29 => (aI r23 .int v29 x2).bind fun v30 => (gR r23 x0 0 2).bind fun v31 => (gR r23 v31 2 4).bind fun v32 => (aI r23 .int v32 x1).bind fun v33 => (gR r23 x0 0 2).bind fun v34 => (gR r23 v34 2 4).bind fun v35 => (aI r23 .int v35 x2).bind fun v36 => if v33 = v36 then ((gR r23 x0 0 2).bind fun v45 => (gR r23 v45 2 3).bind fun v46 => (sI r23 v46 x1 (mnI (nI 99) (v27 + v30))).bind fun σ47 => KX1_mix_171 ad x0 x1 x2 σ47) else (if v30 ≤ v27 then (KX1_mix_155 ad x0 x1 x2 v27 v30 r23) else ((gR r23 x0 0 2).bind fun v39 => (gR r23 v39 2 4).bind fun v40 => (gR r23 x0 0 2).bind fun v41 => (gR r23 v41 2 4).bind fun v42 => (aI r23 .int v42 x2).bind fun v43 => (sI r23 v40 x1 v43).bind fun σ44 => KX1_mix_155 ad x0 x1 x2 v27 v30 σ44))) else (KX1_mix_58 ad x0 r6))))
theorem v_KX1_mix_0 {l : Launch} {G : vv_G} {d : Nat} {ad : Nat → Nat} (hG : vv_gok G) (hH : vv_hy l G ad) {x0 : Nat} {x1 : Int32} {x2 : Int32} {σ : vv_S} {r : hX (Int32 × vv_S)} (h : KX1_mix ad x0 x1 x2 σ = some r) : vv_V l G MX1_mix (d + 10) 0 [(0, .ref x0), (1, .int x1), (2, .int x2)] [] σ (xI r) := by
  unfold KX1_mix at h
  refine vv_aload_n dX1_mix_0 rfl 0 rfl ?_
  refine vv_iload_n dX1_mix_1 rfl 1 rfl ?_
  replace h := isO_o h; obtain ⟨fz2, sz2, ez2, h⟩ := h
  replace h := bd_o h; obtain ⟨r1, er1, h⟩ := h
  rcases r1 with r3 | r3x
  · refine vv_callV ok_X1_aCrate q1289 (m_KX1_aCrate hG hH er1 d) rfl (by omega) ⟨_, _, _, _, _, ez2, by rw [hG.1]; rfl⟩ rfl rfl (Nat.le_of_ble_eq_true rfl) dX1_mix_2 ?_
    replace h := xb_l h
    refine vv_aload_n dX1_mix_5 rfl 0 rfl ?_
    refine vv_iload_n dX1_mix_6 rfl 2 rfl ?_
    replace h := isO_o h; obtain ⟨fz5, sz5, ez5, h⟩ := h
    replace h := bd_o h; obtain ⟨r4, er4, h⟩ := h
    rcases r4 with r6 | r6x
    · refine vv_callV ok_X1_aCrate q1289 (m_KX1_aCrate hG hH er4 d) rfl (by omega) ⟨_, _, _, _, _, ez5, by rw [hG.1]; rfl⟩ rfl rfl (Nat.le_of_ble_eq_true rfl) dX1_mix_7 ?_
      replace h := xb_l h
      refine vv_iload_n dX1_mix_10 rfl 1 rfl ?_
      refine vv_iload_n dX1_mix_11 rfl 2 rfl ?_
      refine vv_icmp_eq (tgt := 58) dX1_mix_12 (by decide) (fun c7 => ?_) (fun c7 => ?_)
      · rw [if_pos c7] at h
        refine vv_sub (lv' := [(0, .ref x0)]) [0] rfl ?_
        exact v_KX1_mix_58 hG hH h
      · rw [if_neg c7] at h
        refine vv_aload_n dX1_mix_15 rfl 0 rfl ?_
        replace h := gR_o h; obtain ⟨v8, fv8, sv8, ev8, lv8, h⟩ := h
        refine vv_get (fl_X1_31 hG) ev8 lv8 dX1_mix_16 ?_
        refine vv_iload_n dX1_mix_19 rfl 1 rfl ?_
        replace h := isO_o h; obtain ⟨fz10, sz10, ez10, h⟩ := h
        replace h := bd_o h; obtain ⟨r9, er9, h⟩ := h
        refine vv_callV ok_X3_lies q615 (m_KX3_lies hG hH er9 d) rfl (by omega) ⟨_, _, _, _, _, ez10, by rw [hG.1]; rfl⟩ rfl rfl (Nat.le_of_ble_eq_true rfl) dX1_mix_20 ?_
        refine vv_if_eq (tgt := 58) dX1_mix_23 (by decide) (fun c11 => ?_) (fun c11 => ?_)
        · rw [if_pos c11] at h
          refine vv_sub (lv' := [(0, .ref x0)]) [0] rfl ?_
          exact v_KX1_mix_58 hG hH h
        · rw [if_neg c11] at h
          refine vv_aload_n dX1_mix_26 rfl 0 rfl ?_
          replace h := gR_o h; obtain ⟨v12, fv12, sv12, ev12, lv12, h⟩ := h
          refine vv_get (fl_X1_31 hG) ev12 lv12 dX1_mix_27 ?_
          refine vv_iload_n dX1_mix_30 rfl 2 rfl ?_
          replace h := isO_o h; obtain ⟨fz14, sz14, ez14, h⟩ := h
          replace h := bd_o h; obtain ⟨r13, er13, h⟩ := h
          refine vv_callV ok_X3_lies q615 (m_KX3_lies hG hH er13 d) rfl (by omega) ⟨_, _, _, _, _, ez14, by rw [hG.1]; rfl⟩ rfl rfl (Nat.le_of_ble_eq_true rfl) dX1_mix_31 ?_
          refine vv_if_eq (tgt := 58) dX1_mix_34 (by decide) (fun c15 => ?_) (fun c15 => ?_)
          · rw [if_pos c15] at h
            refine vv_sub (lv' := [(0, .ref x0)]) [0] rfl ?_
            exact v_KX1_mix_58 hG hH h
          · rw [if_neg c15] at h
            refine vv_aload_n dX1_mix_37 rfl 0 rfl ?_
            replace h := gR_o h; obtain ⟨v16, fv16, sv16, ev16, lv16, h⟩ := h
            refine vv_get (fl_X1_31 hG) ev16 lv16 dX1_mix_38 ?_
            replace h := gR_o h; obtain ⟨v17, fv17, sv17, ev17, lv17, h⟩ := h
            refine vv_getM (fl_X1_131 hH) ev17 lv17 dX1_mix_41 ?_
            refine vv_iload_n dX1_mix_44 rfl 1 rfl ?_
            replace h := aI_o h; obtain ⟨v18, fv18, nv18, qv18, ev18, iv18, wv18, h⟩ := h
            refine vv_iald ev18 iv18 dX1_mix_45 ?_
            rw [wv18]
            refine vv_aload_n dX1_mix_46 rfl 0 rfl ?_
            replace h := gR_o h; obtain ⟨v19, fv19, sv19, ev19, lv19, h⟩ := h
            refine vv_get (fl_X1_31 hG) ev19 lv19 dX1_mix_47 ?_
            replace h := gR_o h; obtain ⟨v20, fv20, sv20, ev20, lv20, h⟩ := h
            refine vv_getM (fl_X1_131 hH) ev20 lv20 dX1_mix_50 ?_
            refine vv_iload_n dX1_mix_53 rfl 2 rfl ?_
            replace h := aI_o h; obtain ⟨v21, fv21, nv21, qv21, ev21, iv21, wv21, h⟩ := h
            refine vv_iald ev21 iv21 dX1_mix_54 ?_
            rw [wv21]
            refine vv_icmp_eq (tgt := 64) dX1_mix_55 (by decide) (fun c22 => ?_) (fun c22 => ?_)
            · rw [if_pos c22] at h
              refine vv_aload_n dX1_mix_64 rfl 0 rfl ?_
              replace h := isO_o h; obtain ⟨fz24, sz24, ez24, h⟩ := h
              replace h := bd_o h; obtain ⟨r23, er23, h⟩ := h
              refine vv_callV ok_X1_keep q342 (m_KX1_keep hG hH er23 d) rfl (by omega) ⟨_, _, _, _, _, ez24, by rw [hG.1]; rfl⟩ rfl rfl (Nat.le_of_ble_eq_true rfl) dX1_mix_65 ?_
              refine vv_aload_n dX1_mix_68 rfl 0 rfl ?_
              replace h := gR_o h; obtain ⟨v25, fv25, sv25, ev25, lv25, h⟩ := h
              refine vv_get (fl_X1_31 hG) ev25 lv25 dX1_mix_69 ?_
              replace h := gR_o h; obtain ⟨v26, fv26, sv26, ev26, lv26, h⟩ := h
              refine vv_getM (fl_X1_170 hH) ev26 lv26 dX1_mix_72 ?_
              refine vv_iload_n dX1_mix_75 rfl 1 rfl ?_
              replace h := aI_o h; obtain ⟨v27, fv27, nv27, qv27, ev27, iv27, wv27, h⟩ := h
              refine vv_iald ev27 iv27 dX1_mix_76 ?_
              rw [wv27]
              refine vv_istore_n (lv' := [(0, .ref x0), (1, .int x1), (2, .int x2), (3, .int v27)]) dX1_mix_77 rfl (by decide) [1, 2, 3, 0] rfl ?_
              refine vv_aload_n dX1_mix_78 rfl 0 rfl ?_
              replace h := gR_o h; obtain ⟨v28, fv28, sv28, ev28, lv28, h⟩ := h
              refine vv_get (fl_X1_31 hG) ev28 lv28 dX1_mix_79 ?_
              replace h := gR_o h; obtain ⟨v29, fv29, sv29, ev29, lv29, h⟩ := h
              refine vv_getM (fl_X1_170 hH) ev29 lv29 dX1_mix_82 ?_
              refine vv_iload_n dX1_mix_85 rfl 2 rfl ?_
              replace h := aI_o h; obtain ⟨v30, fv30, nv30, qv30, ev30, iv30, wv30, h⟩ := h
              refine vv_iald ev30 iv30 dX1_mix_86 ?_
              rw [wv30]
              refine vv_istore (lv' := [(0, .ref x0), (1, .int x1), (2, .int x2), (3, .int v27), (4, .int v30)]) dX1_mix_87 (by decide) [1, 2, 3, 4, 0] rfl ?_
              refine vv_aload_n dX1_mix_89 rfl 0 rfl ?_
              replace h := gR_o h; obtain ⟨v31, fv31, sv31, ev31, lv31, h⟩ := h
              refine vv_get (fl_X1_31 hG) ev31 lv31 dX1_mix_90 ?_
              replace h := gR_o h; obtain ⟨v32, fv32, sv32, ev32, lv32, h⟩ := h
              refine vv_getM (fl_X1_173 hH) ev32 lv32 dX1_mix_93 ?_
              refine vv_iload_n dX1_mix_96 rfl 1 rfl ?_
              replace h := aI_o h; obtain ⟨v33, fv33, nv33, qv33, ev33, iv33, wv33, h⟩ := h
              refine vv_iald ev33 iv33 dX1_mix_97 ?_
              rw [wv33]
              refine vv_aload_n dX1_mix_98 rfl 0 rfl ?_
              replace h := gR_o h; obtain ⟨v34, fv34, sv34, ev34, lv34, h⟩ := h
              refine vv_get (fl_X1_31 hG) ev34 lv34 dX1_mix_99 ?_
              replace h := gR_o h; obtain ⟨v35, fv35, sv35, ev35, lv35, h⟩ := h
              refine vv_getM (fl_X1_173 hH) ev35 lv35 dX1_mix_102 ?_
              refine vv_iload_n dX1_mix_105 rfl 2 rfl ?_
              replace h := aI_o h; obtain ⟨v36, fv36, nv36, qv36, ev36, iv36, wv36, h⟩ := h
              refine vv_iald ev36 iv36 dX1_mix_106 ?_
              rw [wv36]
              refine vv_icmp_ne (tgt := 131) dX1_mix_107 (by decide) (fun c37 => ?_) (fun c37 => ?_)
              · rw [if_neg c37] at h
                refine vv_iload dX1_mix_131 4 rfl ?_
                refine vv_iload_n dX1_mix_133 rfl 3 rfl ?_
                refine vv_icmp_le (tgt := 155) dX1_mix_134 (by decide) (fun c38 => ?_) (fun c38 => ?_)
                · rw [if_pos c38] at h
                  exact v_KX1_mix_155 hG hH h
                · rw [if_neg c38] at h
                  refine vv_aload_n dX1_mix_137 rfl 0 rfl ?_
                  replace h := gR_o h; obtain ⟨v39, fv39, sv39, ev39, lv39, h⟩ := h
                  refine vv_get (fl_X1_31 hG) ev39 lv39 dX1_mix_138 ?_
                  replace h := gR_o h; obtain ⟨v40, fv40, sv40, ev40, lv40, h⟩ := h
                  refine vv_getM (fl_X1_173 hH) ev40 lv40 dX1_mix_141 ?_
                  refine vv_iload_n dX1_mix_144 rfl 1 rfl ?_
                  refine vv_aload_n dX1_mix_145 rfl 0 rfl ?_
                  replace h := gR_o h; obtain ⟨v41, fv41, sv41, ev41, lv41, h⟩ := h
                  refine vv_get (fl_X1_31 hG) ev41 lv41 dX1_mix_146 ?_
                  replace h := gR_o h; obtain ⟨v42, fv42, sv42, ev42, lv42, h⟩ := h
                  refine vv_getM (fl_X1_173 hH) ev42 lv42 dX1_mix_149 ?_
                  refine vv_iload_n dX1_mix_152 rfl 2 rfl ?_
                  replace h := aI_o h; obtain ⟨v43, fv43, nv43, qv43, ev43, iv43, wv43, h⟩ := h
                  refine vv_iald ev43 iv43 dX1_mix_153 ?_
                  rw [wv43]
                  replace h := sI_o h; obtain ⟨σ44, nσ44, qσ44, eσ44, iσ44, uσ44, h⟩ := h
                  refine vv_iast eσ44 iσ44 dX1_mix_154 ?_
                  rw [← uσ44]
                  exact v_KX1_mix_155 hG hH h
              · rw [if_pos c37] at h
                refine vv_aload_n dX1_mix_110 rfl 0 rfl ?_
                replace h := gR_o h; obtain ⟨v45, fv45, sv45, ev45, lv45, h⟩ := h
                refine vv_get (fl_X1_31 hG) ev45 lv45 dX1_mix_111 ?_
                replace h := gR_o h; obtain ⟨v46, fv46, sv46, ev46, lv46, h⟩ := h
                refine vv_getM (fl_X1_170 hH) ev46 lv46 dX1_mix_114 ?_
                refine vv_iload_n dX1_mix_117 rfl 1 rfl ?_
                refine vv_bipush (v := (nI 99)) dX1_mix_118 (by decide) ?_
                refine vv_iload_n dX1_mix_120 rfl 3 rfl ?_
                refine vv_iload dX1_mix_121 4 rfl ?_
                refine vv_iadd dX1_mix_123 ?_
                refine vv_mmin q1326 (by omega) (Nat.le_of_ble_eq_true rfl) dX1_mix_124 ?_
                replace h := sI_o h; obtain ⟨σ47, nσ47, qσ47, eσ47, iσ47, uσ47, h⟩ := h
                refine vv_iast eσ47 iσ47 dX1_mix_127 ?_
                rw [← uσ47]
                refine vv_goto (tgt := 171) dX1_mix_128 (by decide) ?_
                refine vv_sub (lv' := [(0, .ref x0), (1, .int x1), (2, .int x2)]) [0, 1, 2] rfl ?_
                exact v_KX1_mix_171 hG hH h
            · rw [if_neg c22] at h
              refine vv_sub (lv' := [(0, .ref x0)]) [0] rfl ?_
              exact v_KX1_mix_58 hG hH h
    · cases h
      exact vv_callVX ok_X1_aCrate q1289 (m_KX1_aCrate hG hH er4 d) rfl (by omega) ⟨_, _, _, _, _, ez5, by rw [hG.1]; rfl⟩ rfl rfl (Nat.le_of_ble_eq_true rfl) dX1_mix_7 (vv_Tout (by intro x hx; cases hx))
  · cases h
    exact vv_callVX ok_X1_aCrate q1289 (m_KX1_aCrate hG hH er1 d) rfl (by omega) ⟨_, _, _, _, _, ez2, by rw [hG.1]; rfl⟩ rfl rfl (Nat.le_of_ble_eq_true rfl) dX1_mix_2 (vv_Tout (by intro x hx; cases hx))
theorem m_KX1_mix {l : Launch} {G : vv_G} {ad : Nat → Nat} (hG : vv_gok G) (hH : vv_hy l G ad) {x0 : Nat} {x1 : Int32} {x2 : Int32} {σ : vv_S} {r : hX (Int32 × vv_S)} (h : KX1_mix ad x0 x1 x2 σ = some r) (d : Nat) : vv_Met l G MX1_mix (d + 10) [.ref x0, .int x1, .int x2] σ (xI r) := vv_head (by decide +kernel) rfl (Nat.le_of_ble_eq_true rfl) rfl (v_KX1_mix_0 hG hH h)
/-! ('X1', 'then') -/
def KX1_then_83 (fo : Nat → Nat → vv_S → Option Int32) (s0 : Int32) (σ : vv_S) : Option (hX (Int32 × vv_S)) := some (.inl (s0, σ))
theorem v_KX1_then_83 {l : Launch} {G : vv_G} {d : Nat} {ad : Nat → Nat} {fo : Nat → Nat → vv_S → Option Int32} (hG : vv_gok G) (hH : vv_hy l G ad) (hfo : ∀ {a vs : Nat} {σ : vv_S} {r : Int32}, fo a vs σ = some r → vv_Form l G d a vs σ r) {s0 : Int32} {σ : vv_S} {r : hX (Int32 × vv_S)} (h : KX1_then_83 fo s0 σ = some r) : vv_V l G MX1_then (d + 10) 83 [] [.int s0] σ (xI r) := by
  unfold KX1_then_83 at h
  cases h
  exact vv_iret rfl dX1_then_83
def KX1_then (fo : Nat → Nat → vv_S → Option Int32) (x0 : Nat) (x1 : Int32) (x2 : Int32) (x3 : Int32) (σ : vv_S) : Option (hX (Int32 × vv_S)) := (isO σ x0 0).bind fun _ => (KX1_aTown x0 x1 σ).bind fun r1 => xb r1 fun r3 => (KX1_oneOf x3 (nI 3) r3).bind fun r4 => xb r4 fun r5 => (KX1_in x2 (nI 0) (nI 60)).bind fun r6 => (KX1_right r6 r5).bind fun r7 => xb r7 fun r8 => (gR r8 x0 0 2).bind fun v9 => (isO r8 v9 2).bind fun _ => (KX3_copy v9 r8).bind fun r10 => (isO r10.2 r10.1 2).bind fun _ => (KX3_after fo r10.1 x2 r10.2).bind fun r12 => if x3 = 0 then ((gR r12.2 r12.1 2 0).bind fun v23 => (aI r12.2 .int v23 x1).bind fun v24 => KX1_then_83 fo v24 r12.2) else (if x3 = (nI 1) then ((gR r12.2 r12.1 2 1).bind fun v21 => (aI r12.2 .int v21 x1).bind fun v22 => KX1_then_83 fo v22 r12.2) else (if x3 = (nI 2) then ((gR r12.2 r12.1 2 2).bind fun v19 => (aI r12.2 .int v19 x1).bind fun v20 => KX1_then_83 fo v20 r12.2) else ((isO r12.2 r12.1 2).bind fun _ => (KX3_odds fo r12.1 x1 r12.2).bind fun r17 => KX1_then_83 fo r17.1 r17.2)))
theorem v_KX1_then_0 {l : Launch} {G : vv_G} {d : Nat} {ad : Nat → Nat} {fo : Nat → Nat → vv_S → Option Int32} (hG : vv_gok G) (hH : vv_hy l G ad) (hfo : ∀ {a vs : Nat} {σ : vv_S} {r : Int32}, fo a vs σ = some r → vv_Form l G d a vs σ r) {x0 : Nat} {x1 : Int32} {x2 : Int32} {x3 : Int32} {σ : vv_S} {r : hX (Int32 × vv_S)} (h : KX1_then fo x0 x1 x2 x3 σ = some r) : vv_V l G MX1_then (d + 10) 0 [(0, .ref x0), (1, .int x1), (2, .int x2), (3, .int x3)] [] σ (xI r) := by
  unfold KX1_then at h
  refine vv_aload_n dX1_then_0 rfl 0 rfl ?_
  refine vv_iload_n dX1_then_1 rfl 1 rfl ?_
  replace h := isO_o h; obtain ⟨fz2, sz2, ez2, h⟩ := h
  replace h := bd_o h; obtain ⟨r1, er1, h⟩ := h
  rcases r1 with r3 | r3x
  · refine vv_callV ok_X1_aTown q1273 (m_KX1_aTown hG hH er1 d) rfl (by omega) ⟨_, _, _, _, _, ez2, by rw [hG.1]; rfl⟩ rfl rfl (Nat.le_of_ble_eq_true rfl) dX1_then_2 ?_
    replace h := xb_l h
    refine vv_iload_n dX1_then_5 rfl 3 rfl ?_
    refine vv_iconst (v := (nI 3)) dX1_then_6 (by decide) ?_
    replace h := bd_o h; obtain ⟨r4, er4, h⟩ := h
    rcases r4 with r5 | r5x
    · refine vv_callS ok_X1_oneOf q1293 (m_KX1_oneOf hG hH er4 d) rfl (by omega) rfl rfl (Nat.le_of_ble_eq_true rfl) dX1_then_7 ?_
      replace h := xb_l h
      refine vv_iload_n dX1_then_10 rfl 2 rfl ?_
      refine vv_iconst (v := (nI 0)) dX1_then_11 (by decide) ?_
      refine vv_bipush (v := (nI 60)) dX1_then_12 (by decide) ?_
      replace h := bd_o h; obtain ⟨r6, er6, h⟩ := h
      refine vv_callS ok_X1_in q335 (m_KX1_in hG hH er6 d) rfl (by omega) rfl rfl (Nat.le_of_ble_eq_true rfl) dX1_then_14 ?_
      replace h := bd_o h; obtain ⟨r7, er7, h⟩ := h
      rcases r7 with r8 | r8x
      · refine vv_callS ok_X1_right q700 (m_KX1_right hG hH er7 d) rfl (by omega) rfl rfl (Nat.le_of_ble_eq_true rfl) dX1_then_17 ?_
        replace h := xb_l h
        refine vv_aload_n dX1_then_20 rfl 0 rfl ?_
        replace h := gR_o h; obtain ⟨v9, fv9, sv9, ev9, lv9, h⟩ := h
        refine vv_get (fl_X1_31 hG) ev9 lv9 dX1_then_21 ?_
        replace h := isO_o h; obtain ⟨fz11, sz11, ez11, h⟩ := h
        replace h := bd_o h; obtain ⟨r10, er10, h⟩ := h
        refine vv_callV ok_X3_copy q346 (m_KX3_copy hG hH er10 d) rfl (by omega) ⟨_, _, _, _, _, ez11, by rw [hG.1]; rfl⟩ rfl rfl (Nat.le_of_ble_eq_true rfl) dX1_then_24 ?_
        refine vv_iload_n dX1_then_27 rfl 2 rfl ?_
        replace h := isO_o h; obtain ⟨fz13, sz13, ez13, h⟩ := h
        replace h := bd_o h; obtain ⟨r12, er12, h⟩ := h
        refine vv_callV ok_X3_after q454 (m_KX3_after hG hH hfo er12 d) rfl (by omega) ⟨_, _, _, _, _, ez13, by rw [hG.1]; rfl⟩ rfl rfl (Nat.le_of_ble_eq_true rfl) dX1_then_28 ?_
        refine vv_astore (lv' := [(0, .ref x0), (1, .int x1), (2, .int x2), (3, .int x3), (4, .ref r12.1)]) dX1_then_31 (by decide) [1, 2, 3, 4, 0] rfl ?_
        refine vv_iload_n dX1_then_33 rfl 3 rfl ?_
        refine vv_if_ne (tgt := 47) dX1_then_34 (by decide) (fun c14 => ?_) (fun c14 => ?_)
        · rw [if_neg c14] at h
          refine vv_iload_n dX1_then_47 rfl 3 rfl ?_
          refine vv_iconst (v := (nI 1)) dX1_then_48 (by decide) ?_
          refine vv_icmp_ne (tgt := 62) dX1_then_49 (by decide) (fun c15 => ?_) (fun c15 => ?_)
          · rw [if_neg c15] at h
            refine vv_iload_n dX1_then_62 rfl 3 rfl ?_
            refine vv_iconst (v := (nI 2)) dX1_then_63 (by decide) ?_
            refine vv_icmp_ne (tgt := 77) dX1_then_64 (by decide) (fun c16 => ?_) (fun c16 => ?_)
            · rw [if_neg c16] at h
              refine vv_aload dX1_then_77 4 rfl ?_
              refine vv_iload_n dX1_then_79 rfl 1 rfl ?_
              replace h := isO_o h; obtain ⟨fz18, sz18, ez18, h⟩ := h
              replace h := bd_o h; obtain ⟨r17, er17, h⟩ := h
              refine vv_callV ok_X3_odds q1281 (m_KX3_odds hG hH hfo er17 d) rfl (by omega) ⟨_, _, _, _, _, ez18, by rw [hG.1]; rfl⟩ rfl rfl (Nat.le_of_ble_eq_true rfl) dX1_then_80 ?_
              refine vv_sub (lv' := []) [] rfl ?_
              exact v_KX1_then_83 hG hH hfo h
            · rw [if_pos c16] at h
              refine vv_aload dX1_then_67 4 rfl ?_
              replace h := gR_o h; obtain ⟨v19, fv19, sv19, ev19, lv19, h⟩ := h
              refine vv_getM (fl_X1_120 hH) ev19 lv19 dX1_then_69 ?_
              refine vv_iload_n dX1_then_72 rfl 1 rfl ?_
              replace h := aI_o h; obtain ⟨v20, fv20, nv20, qv20, ev20, iv20, wv20, h⟩ := h
              refine vv_iald ev20 iv20 dX1_then_73 ?_
              rw [wv20]
              refine vv_goto (tgt := 83) dX1_then_74 (by decide) ?_
              refine vv_sub (lv' := []) [] rfl ?_
              exact v_KX1_then_83 hG hH hfo h
          · rw [if_pos c15] at h
            refine vv_aload dX1_then_52 4 rfl ?_
            replace h := gR_o h; obtain ⟨v21, fv21, sv21, ev21, lv21, h⟩ := h
            refine vv_getM (fl_X1_117 hH) ev21 lv21 dX1_then_54 ?_
            refine vv_iload_n dX1_then_57 rfl 1 rfl ?_
            replace h := aI_o h; obtain ⟨v22, fv22, nv22, qv22, ev22, iv22, wv22, h⟩ := h
            refine vv_iald ev22 iv22 dX1_then_58 ?_
            rw [wv22]
            refine vv_goto (tgt := 83) dX1_then_59 (by decide) ?_
            refine vv_sub (lv' := []) [] rfl ?_
            exact v_KX1_then_83 hG hH hfo h
        · rw [if_pos c14] at h
          refine vv_aload dX1_then_37 4 rfl ?_
          replace h := gR_o h; obtain ⟨v23, fv23, sv23, ev23, lv23, h⟩ := h
          refine vv_getM (fl_X1_110 hH) ev23 lv23 dX1_then_39 ?_
          refine vv_iload_n dX1_then_42 rfl 1 rfl ?_
          replace h := aI_o h; obtain ⟨v24, fv24, nv24, qv24, ev24, iv24, wv24, h⟩ := h
          refine vv_iald ev24 iv24 dX1_then_43 ?_
          rw [wv24]
          refine vv_goto (tgt := 83) dX1_then_44 (by decide) ?_
          refine vv_sub (lv' := []) [] rfl ?_
          exact v_KX1_then_83 hG hH hfo h
      · cases h
        exact vv_callSX ok_X1_right q700 (m_KX1_right hG hH er7 d) rfl (by omega) rfl rfl (Nat.le_of_ble_eq_true rfl) dX1_then_17 (vv_Tout (by intro x hx; cases hx))
    · cases h
      exact vv_callSX ok_X1_oneOf q1293 (m_KX1_oneOf hG hH er4 d) rfl (by omega) rfl rfl (Nat.le_of_ble_eq_true rfl) dX1_then_7 (vv_Tout (by intro x hx; cases hx))
  · cases h
    exact vv_callVX ok_X1_aTown q1273 (m_KX1_aTown hG hH er1 d) rfl (by omega) ⟨_, _, _, _, _, ez2, by rw [hG.1]; rfl⟩ rfl rfl (Nat.le_of_ble_eq_true rfl) dX1_then_2 (vv_Tout (by intro x hx; cases hx))
theorem m_KX1_then {l : Launch} {G : vv_G} {d : Nat} {ad : Nat → Nat} {fo : Nat → Nat → vv_S → Option Int32} (hG : vv_gok G) (hH : vv_hy l G ad) (hfo : ∀ {a vs : Nat} {σ : vv_S} {r : Int32}, fo a vs σ = some r → vv_Form l G d a vs σ r) {x0 : Nat} {x1 : Int32} {x2 : Int32} {x3 : Int32} {σ : vv_S} {r : hX (Int32 × vv_S)} (h : KX1_then fo x0 x1 x2 x3 σ = some r) (d9 : Nat) (e9 : d9 = d := by rfl) : vv_Met l G MX1_then (d9 + 10) [.ref x0, .int x1, .int x2, .int x3] σ (xI r) := by
  subst e9
  exact vv_head (by decide +kernel) rfl (Nat.le_of_ble_eq_true rfl) rfl (v_KX1_then_0 hG hH hfo h)
/-! ('X1', 'even') -/
def BKX1_even_15 (fo : Nat → Nat → vv_S → Option Int32) (k15 : Int32 → Nat → Int32 → vv_S → Option (hX (Int32 × vv_S))) (x1 : Int32) (x2 : Nat) (x3 : Int32) (σ : vv_S) : Option (hX (Int32 × vv_S)) := if (nI 60) < x3 then (some (.inl ((-1), σ))) else ((gR σ x2 2 0).bind fun v2 => (aI σ .int v2 x1).bind fun v3 => (gR σ x2 2 1).bind fun v4 => (aI σ .int v4 x1).bind fun v5 => if v3 = v5 then (some (.inl (x3, σ))) else ((isO σ x2 2).bind fun _ => (KX3_pass fo x2 (nI 0) σ).bind fun r7 => k15 x1 x2 (x3 + (nI 1)) r7.2))
def KX1_even_15 (fo : Nat → Nat → vv_S → Option Int32) : Nat → Int32 → Nat → Int32 → vv_S → Option (hX (Int32 × vv_S))
  | 0, _, _, _, _ => none
  | n + 1, x1, x2, x3, σ => BKX1_even_15 fo (KX1_even_15 fo n) x1 x2 x3 σ
theorem vb_KX1_even_15 {l : Launch} {G : vv_G} {d : Nat} {ad : Nat → Nat} {fo : Nat → Nat → vv_S → Option Int32} (hG : vv_gok G) (hH : vv_hy l G ad) (hfo : ∀ {a vs : Nat} {σ : vv_S} {r : Int32}, fo a vs σ = some r → vv_Form l G d a vs σ r) {k15 : Int32 → Nat → Int32 → vv_S → Option (hX (Int32 × vv_S))} (hk15 : ∀ {x1 : Int32} {x2 : Nat} {x3 : Int32} {σ : vv_S} {r : hX (Int32 × vv_S)}, k15 x1 x2 x3 σ = some r → vv_V l G MX1_even (d + 10) 15 [(1, .int x1), (2, .ref x2), (3, .int x3)] [] σ (xI r)) {x1 : Int32} {x2 : Nat} {x3 : Int32} {σ : vv_S} {r : hX (Int32 × vv_S)} (h : BKX1_even_15 fo k15 x1 x2 x3 σ = some r) : vv_V l G MX1_even (d + 10) 15 [(1, .int x1), (2, .ref x2), (3, .int x3)] [] σ (xI r) := by
  unfold BKX1_even_15 at h
  refine vv_iload_n dX1_even_15 rfl 2 rfl ?_
  refine vv_bipush (v := (nI 60)) dX1_even_16 (by decide) ?_
  refine vv_icmp_gt (tgt := 50) dX1_even_18 (by decide) (fun c1 => ?_) (fun c1 => ?_)
  · rw [if_pos c1] at h
    refine vv_iconst (v := (-1)) dX1_even_50 (by decide) ?_
    cases h
    exact vv_iret rfl dX1_even_51
  · rw [if_neg c1] at h
    refine vv_aload_n dX1_even_21 rfl 1 rfl ?_
    replace h := gR_o h; obtain ⟨v2, fv2, sv2, ev2, lv2, h⟩ := h
    refine vv_getM (fl_X1_110 hH) ev2 lv2 dX1_even_22 ?_
    refine vv_iload_n dX1_even_25 rfl 0 rfl ?_
    replace h := aI_o h; obtain ⟨v3, fv3, nv3, qv3, ev3, iv3, wv3, h⟩ := h
    refine vv_iald ev3 iv3 dX1_even_26 ?_
    rw [wv3]
    refine vv_aload_n dX1_even_27 rfl 1 rfl ?_
    replace h := gR_o h; obtain ⟨v4, fv4, sv4, ev4, lv4, h⟩ := h
    refine vv_getM (fl_X1_117 hH) ev4 lv4 dX1_even_28 ?_
    refine vv_iload_n dX1_even_31 rfl 0 rfl ?_
    replace h := aI_o h; obtain ⟨v5, fv5, nv5, qv5, ev5, iv5, wv5, h⟩ := h
    refine vv_iald ev5 iv5 dX1_even_32 ?_
    rw [wv5]
    refine vv_icmp_ne (tgt := 38) dX1_even_33 (by decide) (fun c6 => ?_) (fun c6 => ?_)
    · rw [if_neg c6] at h
      refine vv_aload_n dX1_even_38 rfl 1 rfl ?_
      refine vv_iconst (v := (nI 0)) dX1_even_39 (by decide) ?_
      replace h := isO_o h; obtain ⟨fz8, sz8, ez8, h⟩ := h
      replace h := bd_o h; obtain ⟨r7, er7, h⟩ := h
      refine vv_callV ok_X3_pass q1344 (m_KX3_pass hG hH hfo er7 d) rfl (by omega) ⟨_, _, _, _, _, ez8, by rw [hG.1]; rfl⟩ rfl rfl (Nat.le_of_ble_eq_true rfl) dX1_even_40 ?_
      refine vv_pop dX1_even_43 rfl ?_
      refine vv_iinc (v := (x3 + (nI 1))) (lv' := [(1, .int x1), (2, .ref x2), (3, .int (x3 + (nI 1)))]) dX1_even_44 2 rfl rfl (by decide) [1, 2, 0] rfl ?_
      refine vv_goto (tgt := 15) dX1_even_47 (by decide) ?_
      exact hk15 h
    · rw [if_pos c6] at h
      refine vv_iload_n dX1_even_36 rfl 2 rfl ?_
      cases h
      exact vv_iret rfl dX1_even_37
theorem v_KX1_even_15 {l : Launch} {G : vv_G} {d : Nat} {ad : Nat → Nat} {fo : Nat → Nat → vv_S → Option Int32} (hG : vv_gok G) (hH : vv_hy l G ad) (hfo : ∀ {a vs : Nat} {σ : vv_S} {r : Int32}, fo a vs σ = some r → vv_Form l G d a vs σ r) : ∀ (n : Nat) {x1 : Int32} {x2 : Nat} {x3 : Int32} {σ : vv_S} {r : hX (Int32 × vv_S)}, KX1_even_15 fo n x1 x2 x3 σ = some r → vv_V l G MX1_even (d + 10) 15 [(1, .int x1), (2, .ref x2), (3, .int x3)] [] σ (xI r) := by
  intro n
  induction n with
  | zero => intro _ _ _ _ _ h; cases h
  | succ n ih => intro _ _ _ _ _ h; exact vb_KX1_even_15 hG hH hfo ih h
def KX1_even (fo : Nat → Nat → vv_S → Option Int32) (x0 : Nat) (x1 : Int32) (σ : vv_S) : Option (hX (Int32 × vv_S)) := (isO σ x0 0).bind fun _ => (KX1_aTown x0 x1 σ).bind fun r1 => xb r1 fun r3 => (gR r3 x0 0 2).bind fun v4 => (isO r3 v4 2).bind fun _ => (KX3_copy v4 r3).bind fun r5 => KX1_even_15 fo NN x1 r5.1 (nI 0) r5.2
theorem v_KX1_even_0 {l : Launch} {G : vv_G} {d : Nat} {ad : Nat → Nat} {fo : Nat → Nat → vv_S → Option Int32} (hG : vv_gok G) (hH : vv_hy l G ad) (hfo : ∀ {a vs : Nat} {σ : vv_S} {r : Int32}, fo a vs σ = some r → vv_Form l G d a vs σ r) {x0 : Nat} {x1 : Int32} {σ : vv_S} {r : hX (Int32 × vv_S)} (h : KX1_even fo x0 x1 σ = some r) : vv_V l G MX1_even (d + 10) 0 [(0, .ref x0), (1, .int x1)] [] σ (xI r) := by
  unfold KX1_even at h
  refine vv_aload_n dX1_even_0 rfl 0 rfl ?_
  refine vv_iload_n dX1_even_1 rfl 1 rfl ?_
  replace h := isO_o h; obtain ⟨fz2, sz2, ez2, h⟩ := h
  replace h := bd_o h; obtain ⟨r1, er1, h⟩ := h
  rcases r1 with r3 | r3x
  · refine vv_callV ok_X1_aTown q1273 (m_KX1_aTown hG hH er1 d) rfl (by omega) ⟨_, _, _, _, _, ez2, by rw [hG.1]; rfl⟩ rfl rfl (Nat.le_of_ble_eq_true rfl) dX1_even_2 ?_
    replace h := xb_l h
    refine vv_aload_n dX1_even_5 rfl 0 rfl ?_
    replace h := gR_o h; obtain ⟨v4, fv4, sv4, ev4, lv4, h⟩ := h
    refine vv_get (fl_X1_31 hG) ev4 lv4 dX1_even_6 ?_
    replace h := isO_o h; obtain ⟨fz6, sz6, ez6, h⟩ := h
    replace h := bd_o h; obtain ⟨r5, er5, h⟩ := h
    refine vv_callV ok_X3_copy q346 (m_KX3_copy hG hH er5 d) rfl (by omega) ⟨_, _, _, _, _, ez6, by rw [hG.1]; rfl⟩ rfl rfl (Nat.le_of_ble_eq_true rfl) dX1_even_9 ?_
    refine vv_astore_n (lv' := [(0, .ref x0), (1, .int x1), (2, .ref r5.1)]) dX1_even_12 rfl (by decide) [1, 2, 0] rfl ?_
    refine vv_iconst (v := (nI 0)) dX1_even_13 (by decide) ?_
    refine vv_istore_n (lv' := [(0, .ref x0), (1, .int x1), (2, .ref r5.1), (3, .int (nI 0))]) dX1_even_14 rfl (by decide) [1, 2, 3, 0] rfl ?_
    refine vv_sub (lv' := [(1, .int x1), (2, .ref r5.1), (3, .int (nI 0))]) [1, 2, 3] rfl ?_
    exact v_KX1_even_15 hG hH hfo NN h
  · cases h
    exact vv_callVX ok_X1_aTown q1273 (m_KX1_aTown hG hH er1 d) rfl (by omega) ⟨_, _, _, _, _, ez2, by rw [hG.1]; rfl⟩ rfl rfl (Nat.le_of_ble_eq_true rfl) dX1_even_2 (vv_Tout (by intro x hx; cases hx))
theorem m_KX1_even {l : Launch} {G : vv_G} {d : Nat} {ad : Nat → Nat} {fo : Nat → Nat → vv_S → Option Int32} (hG : vv_gok G) (hH : vv_hy l G ad) (hfo : ∀ {a vs : Nat} {σ : vv_S} {r : Int32}, fo a vs σ = some r → vv_Form l G d a vs σ r) {x0 : Nat} {x1 : Int32} {σ : vv_S} {r : hX (Int32 × vv_S)} (h : KX1_even fo x0 x1 σ = some r) (d9 : Nat) (e9 : d9 = d := by rfl) : vv_Met l G MX1_even (d9 + 10) [.ref x0, .int x1] σ (xI r) := by
  subst e9
  exact vv_head (by decide +kernel) rfl (Nat.le_of_ble_eq_true rfl) rfl (v_KX1_even_0 hG hH hfo h)
/-! ('X1', 'isOf') -/
def KX1_isOf_14 (s0 : Int32) : Option Int32 := (zrI s0).bind fun v1 => some v1
theorem v_KX1_isOf_14 {l : Launch} {G : vv_G} {d : Nat} {ad : Nat → Nat} {σ : vv_S} (hG : vv_gok G) (hH : vv_hy l G ad) {s0 : Int32} {r : Int32} (h : KX1_isOf_14 s0 = some r) : vv_V l G MX1_isOf (d + 0) 14 [] [.int s0] σ (.inl (some (.int r)), σ) := by
  unfold KX1_isOf_14 at h
  replace h := zr_o h; obtain ⟨zv1, h⟩ := h
  cases h
  exact vv_zret rfl zv1 dX1_isOf_14
def KX1_isOf (x0 : Int32) (x1 : Int32) : Option Int32 := if ((x0 >>> (x1 &&& 31)) &&& (nI 1)) = (nI 1) then (KX1_isOf_14 (nI 1)) else (KX1_isOf_14 (nI 0))
theorem v_KX1_isOf_0 {l : Launch} {G : vv_G} {d : Nat} {ad : Nat → Nat} {σ : vv_S} (hG : vv_gok G) (hH : vv_hy l G ad) {x0 : Int32} {x1 : Int32} {r : Int32} (h : KX1_isOf x0 x1 = some r) : vv_V l G MX1_isOf (d + 0) 0 [(0, .int x0), (1, .int x1)] [] σ (.inl (some (.int r)), σ) := by
  unfold KX1_isOf at h
  refine vv_iload_n dX1_isOf_0 rfl 0 rfl ?_
  refine vv_iload_n dX1_isOf_1 rfl 1 rfl ?_
  refine vv_ishr dX1_isOf_2 ?_
  refine vv_iconst (v := (nI 1)) dX1_isOf_3 (by decide) ?_
  refine vv_iand dX1_isOf_4 ?_
  refine vv_iconst (v := (nI 1)) dX1_isOf_5 (by decide) ?_
  refine vv_icmp_ne (tgt := 13) dX1_isOf_6 (by decide) (fun c1 => ?_) (fun c1 => ?_)
  · rw [if_neg c1] at h
    refine vv_iconst (v := (nI 0)) dX1_isOf_13 (by decide) ?_
    refine vv_sub (lv' := []) [] rfl ?_
    exact v_KX1_isOf_14 hG hH h
  · rw [if_pos c1] at h
    refine vv_iconst (v := (nI 1)) dX1_isOf_9 (by decide) ?_
    refine vv_goto (tgt := 14) dX1_isOf_10 (by decide) ?_
    refine vv_sub (lv' := []) [] rfl ?_
    exact v_KX1_isOf_14 hG hH h
theorem m_KX1_isOf {l : Launch} {G : vv_G} {ad : Nat → Nat} {σ : vv_S} (hG : vv_gok G) (hH : vv_hy l G ad) {x0 : Int32} {x1 : Int32} {r : Int32} (h : KX1_isOf x0 x1 = some r) (d : Nat) : vv_Met l G MX1_isOf (d + 0) [.int x0, .int x1] σ (.inl (some (.int r)), σ) := vv_head (by decide +kernel) rfl (Nat.le_of_ble_eq_true rfl) rfl (v_KX1_isOf_0 hG hH h)
/-! ('X1', 'out') -/
def BKX1_out_15 (fo : Nat → Nat → vv_S → Option Int32) (k15 : Int32 → Nat → Int32 → vv_S → Option (hX (Int32 × vv_S))) (x1 : Int32) (x2 : Nat) (x3 : Int32) (σ : vv_S) : Option (hX (Int32 × vv_S)) := if (nI 60) < x3 then (some (.inl ((-1), σ))) else ((isO σ x2 2).bind fun _ => (KX3_pass fo x2 (nI 0) σ).bind fun r2 => (gI r2.2 r2.1 2 10).bind fun v4 => (KX1_isOf v4 x1).bind fun r5 => if r5 = 0 then (k15 x1 x2 (x3 + (nI 1)) r2.2) else (some (.inl (x3, r2.2))))
def KX1_out_15 (fo : Nat → Nat → vv_S → Option Int32) : Nat → Int32 → Nat → Int32 → vv_S → Option (hX (Int32 × vv_S))
  | 0, _, _, _, _ => none
  | n + 1, x1, x2, x3, σ => BKX1_out_15 fo (KX1_out_15 fo n) x1 x2 x3 σ
theorem vb_KX1_out_15 {l : Launch} {G : vv_G} {d : Nat} {ad : Nat → Nat} {fo : Nat → Nat → vv_S → Option Int32} (hG : vv_gok G) (hH : vv_hy l G ad) (hfo : ∀ {a vs : Nat} {σ : vv_S} {r : Int32}, fo a vs σ = some r → vv_Form l G d a vs σ r) {k15 : Int32 → Nat → Int32 → vv_S → Option (hX (Int32 × vv_S))} (hk15 : ∀ {x1 : Int32} {x2 : Nat} {x3 : Int32} {σ : vv_S} {r : hX (Int32 × vv_S)}, k15 x1 x2 x3 σ = some r → vv_V l G MX1_out (d + 10) 15 [(1, .int x1), (2, .ref x2), (3, .int x3)] [] σ (xI r)) {x1 : Int32} {x2 : Nat} {x3 : Int32} {σ : vv_S} {r : hX (Int32 × vv_S)} (h : BKX1_out_15 fo k15 x1 x2 x3 σ = some r) : vv_V l G MX1_out (d + 10) 15 [(1, .int x1), (2, .ref x2), (3, .int x3)] [] σ (xI r) := by
  unfold BKX1_out_15 at h
  refine vv_iload_n dX1_out_15 rfl 2 rfl ?_
  refine vv_bipush (v := (nI 60)) dX1_out_16 (by decide) ?_
  refine vv_icmp_gt (tgt := 44) dX1_out_18 (by decide) (fun c1 => ?_) (fun c1 => ?_)
  · rw [if_pos c1] at h
    refine vv_iconst (v := (-1)) dX1_out_44 (by decide) ?_
    cases h
    exact vv_iret rfl dX1_out_45
  · rw [if_neg c1] at h
    refine vv_aload_n dX1_out_21 rfl 1 rfl ?_
    refine vv_iconst (v := (nI 0)) dX1_out_22 (by decide) ?_
    replace h := isO_o h; obtain ⟨fz3, sz3, ez3, h⟩ := h
    replace h := bd_o h; obtain ⟨r2, er2, h⟩ := h
    refine vv_callV ok_X3_pass q1344 (m_KX3_pass hG hH hfo er2 d) rfl (by omega) ⟨_, _, _, _, _, ez3, by rw [hG.1]; rfl⟩ rfl rfl (Nat.le_of_ble_eq_true rfl) dX1_out_23 ?_
    replace h := gI_o h; obtain ⟨v4, fv4, sv4, ev4, lv4, h⟩ := h
    refine vv_getM (fl_X1_242 hH) ev4 lv4 dX1_out_26 ?_
    refine vv_iload_n dX1_out_29 rfl 0 rfl ?_
    replace h := bd_o h; obtain ⟨r5, er5, h⟩ := h
    refine vv_callS ok_X1_isOf q1352 (m_KX1_isOf hG hH er5 d) rfl (by omega) rfl rfl (Nat.le_of_ble_eq_true rfl) dX1_out_30 ?_
    refine vv_if_eq (tgt := 38) dX1_out_33 (by decide) (fun c6 => ?_) (fun c6 => ?_)
    · rw [if_pos c6] at h
      refine vv_iinc (v := (x3 + (nI 1))) (lv' := [(1, .int x1), (2, .ref x2), (3, .int (x3 + (nI 1)))]) dX1_out_38 2 rfl rfl (by decide) [1, 2, 0] rfl ?_
      refine vv_goto (tgt := 15) dX1_out_41 (by decide) ?_
      exact hk15 h
    · rw [if_neg c6] at h
      refine vv_iload_n dX1_out_36 rfl 2 rfl ?_
      cases h
      exact vv_iret rfl dX1_out_37
theorem v_KX1_out_15 {l : Launch} {G : vv_G} {d : Nat} {ad : Nat → Nat} {fo : Nat → Nat → vv_S → Option Int32} (hG : vv_gok G) (hH : vv_hy l G ad) (hfo : ∀ {a vs : Nat} {σ : vv_S} {r : Int32}, fo a vs σ = some r → vv_Form l G d a vs σ r) : ∀ (n : Nat) {x1 : Int32} {x2 : Nat} {x3 : Int32} {σ : vv_S} {r : hX (Int32 × vv_S)}, KX1_out_15 fo n x1 x2 x3 σ = some r → vv_V l G MX1_out (d + 10) 15 [(1, .int x1), (2, .ref x2), (3, .int x3)] [] σ (xI r) := by
  intro n
  induction n with
  | zero => intro _ _ _ _ _ h; cases h
  | succ n ih => intro _ _ _ _ _ h; exact vb_KX1_out_15 hG hH hfo ih h
def KX1_out (fo : Nat → Nat → vv_S → Option Int32) (x0 : Nat) (x1 : Int32) (σ : vv_S) : Option (hX (Int32 × vv_S)) := (isO σ x0 0).bind fun _ => (KX1_aTown x0 x1 σ).bind fun r1 => xb r1 fun r3 => (gR r3 x0 0 2).bind fun v4 => (isO r3 v4 2).bind fun _ => (KX3_copy v4 r3).bind fun r5 => KX1_out_15 fo NN x1 r5.1 (nI 1) r5.2
theorem v_KX1_out_0 {l : Launch} {G : vv_G} {d : Nat} {ad : Nat → Nat} {fo : Nat → Nat → vv_S → Option Int32} (hG : vv_gok G) (hH : vv_hy l G ad) (hfo : ∀ {a vs : Nat} {σ : vv_S} {r : Int32}, fo a vs σ = some r → vv_Form l G d a vs σ r) {x0 : Nat} {x1 : Int32} {σ : vv_S} {r : hX (Int32 × vv_S)} (h : KX1_out fo x0 x1 σ = some r) : vv_V l G MX1_out (d + 10) 0 [(0, .ref x0), (1, .int x1)] [] σ (xI r) := by
  unfold KX1_out at h
  refine vv_aload_n dX1_out_0 rfl 0 rfl ?_
  refine vv_iload_n dX1_out_1 rfl 1 rfl ?_
  replace h := isO_o h; obtain ⟨fz2, sz2, ez2, h⟩ := h
  replace h := bd_o h; obtain ⟨r1, er1, h⟩ := h
  rcases r1 with r3 | r3x
  · refine vv_callV ok_X1_aTown q1273 (m_KX1_aTown hG hH er1 d) rfl (by omega) ⟨_, _, _, _, _, ez2, by rw [hG.1]; rfl⟩ rfl rfl (Nat.le_of_ble_eq_true rfl) dX1_out_2 ?_
    replace h := xb_l h
    refine vv_aload_n dX1_out_5 rfl 0 rfl ?_
    replace h := gR_o h; obtain ⟨v4, fv4, sv4, ev4, lv4, h⟩ := h
    refine vv_get (fl_X1_31 hG) ev4 lv4 dX1_out_6 ?_
    replace h := isO_o h; obtain ⟨fz6, sz6, ez6, h⟩ := h
    replace h := bd_o h; obtain ⟨r5, er5, h⟩ := h
    refine vv_callV ok_X3_copy q346 (m_KX3_copy hG hH er5 d) rfl (by omega) ⟨_, _, _, _, _, ez6, by rw [hG.1]; rfl⟩ rfl rfl (Nat.le_of_ble_eq_true rfl) dX1_out_9 ?_
    refine vv_astore_n (lv' := [(0, .ref x0), (1, .int x1), (2, .ref r5.1)]) dX1_out_12 rfl (by decide) [1, 2, 0] rfl ?_
    refine vv_iconst (v := (nI 1)) dX1_out_13 (by decide) ?_
    refine vv_istore_n (lv' := [(0, .ref x0), (1, .int x1), (2, .ref r5.1), (3, .int (nI 1))]) dX1_out_14 rfl (by decide) [1, 2, 3, 0] rfl ?_
    refine vv_sub (lv' := [(1, .int x1), (2, .ref r5.1), (3, .int (nI 1))]) [1, 2, 3] rfl ?_
    exact v_KX1_out_15 hG hH hfo NN h
  · cases h
    exact vv_callVX ok_X1_aTown q1273 (m_KX1_aTown hG hH er1 d) rfl (by omega) ⟨_, _, _, _, _, ez2, by rw [hG.1]; rfl⟩ rfl rfl (Nat.le_of_ble_eq_true rfl) dX1_out_2 (vv_Tout (by intro x hx; cases hx))
theorem m_KX1_out {l : Launch} {G : vv_G} {d : Nat} {ad : Nat → Nat} {fo : Nat → Nat → vv_S → Option Int32} (hG : vv_gok G) (hH : vv_hy l G ad) (hfo : ∀ {a vs : Nat} {σ : vv_S} {r : Int32}, fo a vs σ = some r → vv_Form l G d a vs σ r) {x0 : Nat} {x1 : Int32} {σ : vv_S} {r : hX (Int32 × vv_S)} (h : KX1_out fo x0 x1 σ = some r) (d9 : Nat) (e9 : d9 = d := by rfl) : vv_Met l G MX1_out (d9 + 10) [.ref x0, .int x1] σ (xI r) := by
  subst e9
  exact vv_head (by decide +kernel) rfl (Nat.le_of_ble_eq_true rfl) rfl (v_KX1_out_0 hG hH hfo h)
/-! ('X1', 'luckiest') -/
def KX1_luckiest_63 (fo : Nat → Nat → vv_S → Option Int32) (k27 : Nat → Nat → Int32 → Int32 → vv_S → Option (hX (Int32 × vv_S))) (x0 : Nat) (x2 : Nat) (x3 : Int32) (x4 : Int32) (σ : vv_S) : Option (hX (Int32 × vv_S)) := k27 x0 x2 x3 (x4 + (nI 1)) σ
theorem v_KX1_luckiest_63 {l : Launch} {G : vv_G} {d : Nat} {ad : Nat → Nat} {fo : Nat → Nat → vv_S → Option Int32} (hG : vv_gok G) (hH : vv_hy l G ad) (hfo : ∀ {a vs : Nat} {σ : vv_S} {r : Int32}, fo a vs σ = some r → vv_Form l G d a vs σ r) {k27 : Nat → Nat → Int32 → Int32 → vv_S → Option (hX (Int32 × vv_S))} (hk27 : ∀ {x0 : Nat} {x2 : Nat} {x3 : Int32} {x4 : Int32} {σ : vv_S} {r : hX (Int32 × vv_S)}, k27 x0 x2 x3 x4 σ = some r → vv_V l G MX1_luckiest (d + 9) 27 [(0, .ref x0), (2, .ref x2), (3, .int x3), (4, .int x4)] [] σ (xI r)) {x0 : Nat} {x2 : Nat} {x3 : Int32} {x4 : Int32} {σ : vv_S} {r : hX (Int32 × vv_S)} (h : KX1_luckiest_63 fo k27 x0 x2 x3 x4 σ = some r) : vv_V l G MX1_luckiest (d + 9) 63 [(0, .ref x0), (2, .ref x2), (3, .int x3), (4, .int x4)] [] σ (xI r) := by
  unfold KX1_luckiest_63 at h
  refine vv_iinc (v := (x4 + (nI 1))) (lv' := [(0, .ref x0), (2, .ref x2), (3, .int x3), (4, .int (x4 + (nI 1)))]) dX1_luckiest_63 3 rfl rfl (by decide) [1, 2, 3, 0] rfl ?_
  refine vv_goto (tgt := 27) dX1_luckiest_66 (by decide) ?_
  exact hk27 h
def KX1_luckiest_60 (fo : Nat → Nat → vv_S → Option Int32) (k27 : Nat → Nat → Int32 → Int32 → vv_S → Option (hX (Int32 × vv_S))) (x0 : Nat) (x2 : Nat) (x4 : Int32) (σ : vv_S) : Option (hX (Int32 × vv_S)) := KX1_luckiest_63 fo k27 x0 x2 x4 x4 σ
theorem v_KX1_luckiest_60 {l : Launch} {G : vv_G} {d : Nat} {ad : Nat → Nat} {fo : Nat → Nat → vv_S → Option Int32} (hG : vv_gok G) (hH : vv_hy l G ad) (hfo : ∀ {a vs : Nat} {σ : vv_S} {r : Int32}, fo a vs σ = some r → vv_Form l G d a vs σ r) {k27 : Nat → Nat → Int32 → Int32 → vv_S → Option (hX (Int32 × vv_S))} (hk27 : ∀ {x0 : Nat} {x2 : Nat} {x3 : Int32} {x4 : Int32} {σ : vv_S} {r : hX (Int32 × vv_S)}, k27 x0 x2 x3 x4 σ = some r → vv_V l G MX1_luckiest (d + 9) 27 [(0, .ref x0), (2, .ref x2), (3, .int x3), (4, .int x4)] [] σ (xI r)) {x0 : Nat} {x2 : Nat} {x4 : Int32} {σ : vv_S} {r : hX (Int32 × vv_S)} (h : KX1_luckiest_60 fo k27 x0 x2 x4 σ = some r) : vv_V l G MX1_luckiest (d + 9) 60 [(0, .ref x0), (2, .ref x2), (4, .int x4)] [] σ (xI r) := by
  unfold KX1_luckiest_60 at h
  refine vv_iload dX1_luckiest_60 2 rfl ?_
  refine vv_istore_n (lv' := [(0, .ref x0), (2, .ref x2), (3, .int x4), (4, .int x4)]) dX1_luckiest_62 rfl (by decide) [1, 2, 0, 3] rfl ?_
  exact v_KX1_luckiest_63 hG hH hfo hk27 h
def BKX1_luckiest_27 (fo : Nat → Nat → vv_S → Option Int32) (k27 : Nat → Nat → Int32 → Int32 → vv_S → Option (hX (Int32 × vv_S))) (x0 : Nat) (x2 : Nat) (x3 : Int32) (x4 : Int32) (σ : vv_S) : Option (hX (Int32 × vv_S)) := (gR σ x0 0 1).bind fun v1 => (isO σ v1 1).bind fun _ => (KX2_towns v1 σ).bind fun r2 => if r2 ≤ x4 then (some (.inl (x3, σ))) else (if x3 = (-1) then (KX1_luckiest_60 fo k27 x0 x2 x4 σ) else ((gR σ x2 2 2).bind fun v6 => (aI σ .int v6 x4).bind fun v7 => (gR σ x2 2 2).bind fun v8 => (aI σ .int v8 x3).bind fun v9 => if v7 ≤ v9 then (KX1_luckiest_63 fo k27 x0 x2 x3 x4 σ) else (KX1_luckiest_60 fo k27 x0 x2 x4 σ)))
def KX1_luckiest_27 (fo : Nat → Nat → vv_S → Option Int32) : Nat → Nat → Nat → Int32 → Int32 → vv_S → Option (hX (Int32 × vv_S))
  | 0, _, _, _, _, _ => none
  | n + 1, x0, x2, x3, x4, σ => BKX1_luckiest_27 fo (KX1_luckiest_27 fo n) x0 x2 x3 x4 σ
theorem vb_KX1_luckiest_27 {l : Launch} {G : vv_G} {d : Nat} {ad : Nat → Nat} {fo : Nat → Nat → vv_S → Option Int32} (hG : vv_gok G) (hH : vv_hy l G ad) (hfo : ∀ {a vs : Nat} {σ : vv_S} {r : Int32}, fo a vs σ = some r → vv_Form l G d a vs σ r) {k27 : Nat → Nat → Int32 → Int32 → vv_S → Option (hX (Int32 × vv_S))} (hk27 : ∀ {x0 : Nat} {x2 : Nat} {x3 : Int32} {x4 : Int32} {σ : vv_S} {r : hX (Int32 × vv_S)}, k27 x0 x2 x3 x4 σ = some r → vv_V l G MX1_luckiest (d + 9) 27 [(0, .ref x0), (2, .ref x2), (3, .int x3), (4, .int x4)] [] σ (xI r)) {x0 : Nat} {x2 : Nat} {x3 : Int32} {x4 : Int32} {σ : vv_S} {r : hX (Int32 × vv_S)} (h : BKX1_luckiest_27 fo k27 x0 x2 x3 x4 σ = some r) : vv_V l G MX1_luckiest (d + 9) 27 [(0, .ref x0), (2, .ref x2), (3, .int x3), (4, .int x4)] [] σ (xI r) := by
  unfold BKX1_luckiest_27 at h
  refine vv_iload dX1_luckiest_27 3 rfl ?_
  refine vv_aload_n dX1_luckiest_29 rfl 0 rfl ?_
  replace h := gR_o h; obtain ⟨v1, fv1, sv1, ev1, lv1, h⟩ := h
  refine vv_get (fl_X1_22 hG) ev1 lv1 dX1_luckiest_30 ?_
  replace h := isO_o h; obtain ⟨fz3, sz3, ez3, h⟩ := h
  replace h := bd_o h; obtain ⟨r2, er2, h⟩ := h
  refine vv_callV ok_X2_towns q638 (m_KX2_towns hG hH er2 d) rfl (by omega) ⟨_, _, _, _, _, ez3, by rw [hG.1]; rfl⟩ rfl rfl (Nat.le_of_ble_eq_true rfl) dX1_luckiest_33 ?_
  refine vv_icmp_ge (tgt := 69) dX1_luckiest_36 (by decide) (fun c4 => ?_) (fun c4 => ?_)
  · rw [if_pos c4] at h
    refine vv_iload_n dX1_luckiest_69 rfl 2 rfl ?_
    cases h
    exact vv_iret rfl dX1_luckiest_70
  · rw [if_neg c4] at h
    refine vv_iload_n dX1_luckiest_39 rfl 2 rfl ?_
    refine vv_iconst (v := (-1)) dX1_luckiest_40 (by decide) ?_
    refine vv_icmp_eq (tgt := 60) dX1_luckiest_41 (by decide) (fun c5 => ?_) (fun c5 => ?_)
    · rw [if_pos c5] at h
      refine vv_sub (lv' := [(0, .ref x0), (2, .ref x2), (4, .int x4)]) [0, 1, 3] rfl ?_
      exact v_KX1_luckiest_60 hG hH hfo hk27 h
    · rw [if_neg c5] at h
      refine vv_aload_n dX1_luckiest_44 rfl 1 rfl ?_
      replace h := gR_o h; obtain ⟨v6, fv6, sv6, ev6, lv6, h⟩ := h
      refine vv_getM (fl_X1_120 hH) ev6 lv6 dX1_luckiest_45 ?_
      refine vv_iload dX1_luckiest_48 3 rfl ?_
      replace h := aI_o h; obtain ⟨v7, fv7, nv7, qv7, ev7, iv7, wv7, h⟩ := h
      refine vv_iald ev7 iv7 dX1_luckiest_50 ?_
      rw [wv7]
      refine vv_aload_n dX1_luckiest_51 rfl 1 rfl ?_
      replace h := gR_o h; obtain ⟨v8, fv8, sv8, ev8, lv8, h⟩ := h
      refine vv_getM (fl_X1_120 hH) ev8 lv8 dX1_luckiest_52 ?_
      refine vv_iload_n dX1_luckiest_55 rfl 2 rfl ?_
      replace h := aI_o h; obtain ⟨v9, fv9, nv9, qv9, ev9, iv9, wv9, h⟩ := h
      refine vv_iald ev9 iv9 dX1_luckiest_56 ?_
      rw [wv9]
      refine vv_icmp_le (tgt := 63) dX1_luckiest_57 (by decide) (fun c10 => ?_) (fun c10 => ?_)
      · rw [if_pos c10] at h
        exact v_KX1_luckiest_63 hG hH hfo hk27 h
      · rw [if_neg c10] at h
        refine vv_sub (lv' := [(0, .ref x0), (2, .ref x2), (4, .int x4)]) [0, 1, 3] rfl ?_
        exact v_KX1_luckiest_60 hG hH hfo hk27 h
theorem v_KX1_luckiest_27 {l : Launch} {G : vv_G} {d : Nat} {ad : Nat → Nat} {fo : Nat → Nat → vv_S → Option Int32} (hG : vv_gok G) (hH : vv_hy l G ad) (hfo : ∀ {a vs : Nat} {σ : vv_S} {r : Int32}, fo a vs σ = some r → vv_Form l G d a vs σ r) : ∀ (n : Nat) {x0 : Nat} {x2 : Nat} {x3 : Int32} {x4 : Int32} {σ : vv_S} {r : hX (Int32 × vv_S)}, KX1_luckiest_27 fo n x0 x2 x3 x4 σ = some r → vv_V l G MX1_luckiest (d + 9) 27 [(0, .ref x0), (2, .ref x2), (3, .int x3), (4, .int x4)] [] σ (xI r) := by
  intro n
  induction n with
  | zero => intro _ _ _ _ _ _ h; cases h
  | succ n ih => intro _ _ _ _ _ _ h; exact vb_KX1_luckiest_27 hG hH hfo ih h
def KX1_luckiest (fo : Nat → Nat → vv_S → Option Int32) (x0 : Nat) (x1 : Int32) (σ : vv_S) : Option (hX (Int32 × vv_S)) := (KX1_in x1 (nI 0) (nI 60)).bind fun r1 => (KX1_right r1 σ).bind fun r2 => xb r2 fun r3 => (gR r3 x0 0 2).bind fun v4 => (isO r3 v4 2).bind fun _ => (KX3_copy v4 r3).bind fun r5 => (isO r5.2 r5.1 2).bind fun _ => (KX3_after fo r5.1 x1 r5.2).bind fun r7 => KX1_luckiest_27 fo NN x0 r7.1 (-1) (nI 0) r7.2
theorem v_KX1_luckiest_0 {l : Launch} {G : vv_G} {d : Nat} {ad : Nat → Nat} {fo : Nat → Nat → vv_S → Option Int32} (hG : vv_gok G) (hH : vv_hy l G ad) (hfo : ∀ {a vs : Nat} {σ : vv_S} {r : Int32}, fo a vs σ = some r → vv_Form l G d a vs σ r) {x0 : Nat} {x1 : Int32} {σ : vv_S} {r : hX (Int32 × vv_S)} (h : KX1_luckiest fo x0 x1 σ = some r) : vv_V l G MX1_luckiest (d + 9) 0 [(0, .ref x0), (1, .int x1)] [] σ (xI r) := by
  unfold KX1_luckiest at h
  refine vv_iload_n dX1_luckiest_0 rfl 1 rfl ?_
  refine vv_iconst (v := (nI 0)) dX1_luckiest_1 (by decide) ?_
  refine vv_bipush (v := (nI 60)) dX1_luckiest_2 (by decide) ?_
  replace h := bd_o h; obtain ⟨r1, er1, h⟩ := h
  refine vv_callS ok_X1_in q335 (m_KX1_in hG hH er1 d) rfl (by omega) rfl rfl (Nat.le_of_ble_eq_true rfl) dX1_luckiest_4 ?_
  replace h := bd_o h; obtain ⟨r2, er2, h⟩ := h
  rcases r2 with r3 | r3x
  · refine vv_callS ok_X1_right q700 (m_KX1_right hG hH er2 d) rfl (by omega) rfl rfl (Nat.le_of_ble_eq_true rfl) dX1_luckiest_7 ?_
    replace h := xb_l h
    refine vv_aload_n dX1_luckiest_10 rfl 0 rfl ?_
    replace h := gR_o h; obtain ⟨v4, fv4, sv4, ev4, lv4, h⟩ := h
    refine vv_get (fl_X1_31 hG) ev4 lv4 dX1_luckiest_11 ?_
    replace h := isO_o h; obtain ⟨fz6, sz6, ez6, h⟩ := h
    replace h := bd_o h; obtain ⟨r5, er5, h⟩ := h
    refine vv_callV ok_X3_copy q346 (m_KX3_copy hG hH er5 d) rfl (by omega) ⟨_, _, _, _, _, ez6, by rw [hG.1]; rfl⟩ rfl rfl (Nat.le_of_ble_eq_true rfl) dX1_luckiest_14 ?_
    refine vv_iload_n dX1_luckiest_17 rfl 1 rfl ?_
    replace h := isO_o h; obtain ⟨fz8, sz8, ez8, h⟩ := h
    replace h := bd_o h; obtain ⟨r7, er7, h⟩ := h
    refine vv_callV ok_X3_after q454 (m_KX3_after hG hH hfo er7 d) rfl (by omega) ⟨_, _, _, _, _, ez8, by rw [hG.1]; rfl⟩ rfl rfl (Nat.le_of_ble_eq_true rfl) dX1_luckiest_18 ?_
    refine vv_astore_n (lv' := [(0, .ref x0), (1, .int x1), (2, .ref r7.1)]) dX1_luckiest_21 rfl (by decide) [1, 2, 0] rfl ?_
    refine vv_iconst (v := (-1)) dX1_luckiest_22 (by decide) ?_
    refine vv_istore_n (lv' := [(0, .ref x0), (1, .int x1), (2, .ref r7.1), (3, .int (-1))]) dX1_luckiest_23 rfl (by decide) [1, 2, 3, 0] rfl ?_
    refine vv_iconst (v := (nI 0)) dX1_luckiest_24 (by decide) ?_
    refine vv_istore (lv' := [(0, .ref x0), (1, .int x1), (2, .ref r7.1), (3, .int (-1)), (4, .int (nI 0))]) dX1_luckiest_25 (by decide) [1, 2, 3, 4, 0] rfl ?_
    refine vv_sub (lv' := [(0, .ref x0), (2, .ref r7.1), (3, .int (-1)), (4, .int (nI 0))]) [0, 2, 3, 4] rfl ?_
    exact v_KX1_luckiest_27 hG hH hfo NN h
  · cases h
    exact vv_callSX ok_X1_right q700 (m_KX1_right hG hH er2 d) rfl (by omega) rfl rfl (Nat.le_of_ble_eq_true rfl) dX1_luckiest_7 (vv_Tout (by intro x hx; cases hx))
theorem m_KX1_luckiest {l : Launch} {G : vv_G} {d : Nat} {ad : Nat → Nat} {fo : Nat → Nat → vv_S → Option Int32} (hG : vv_gok G) (hH : vv_hy l G ad) (hfo : ∀ {a vs : Nat} {σ : vv_S} {r : Int32}, fo a vs σ = some r → vv_Form l G d a vs σ r) {x0 : Nat} {x1 : Int32} {σ : vv_S} {r : hX (Int32 × vv_S)} (h : KX1_luckiest fo x0 x1 σ = some r) (d9 : Nat) (e9 : d9 = d := by rfl) : vv_Met l G MX1_luckiest (d9 + 9) [.ref x0, .int x1] σ (xI r) := by
  subst e9
  exact vv_head (by decide +kernel) rfl (Nat.le_of_ble_eq_true rfl) rfl (v_KX1_luckiest_0 hG hH hfo h)
/-! ('X1', 'told') -/
def KX1_told_11 (s0 : Int32) : Option Int32 := some s0
theorem v_KX1_told_11 {l : Launch} {G : vv_G} {d : Nat} {ad : Nat → Nat} {σ : vv_S} (hG : vv_gok G) (hH : vv_hy l G ad) {s0 : Int32} {r : Int32} (h : KX1_told_11 s0 = some r) : vv_V l G MX1_told (d + 0) 11 [] [.int s0] σ (.inl (some (.int r)), σ) := by
  unfold KX1_told_11 at h
  cases h
  exact vv_iret rfl dX1_told_11
def KX1_told (x0 : Int32) : Option Int32 := if x0 < (nI 100000) then (KX1_told_11 x0) else (KX1_told_11 (-1))
theorem v_KX1_told_0 {l : Launch} {G : vv_G} {d : Nat} {ad : Nat → Nat} {σ : vv_S} (hG : vv_gok G) (hH : vv_hy l G ad) {x0 : Int32} {r : Int32} (h : KX1_told x0 = some r) : vv_V l G MX1_told (d + 0) 0 [(0, .int x0)] [] σ (.inl (some (.int r)), σ) := by
  unfold KX1_told at h
  refine vv_iload_n dX1_told_0 rfl 0 rfl ?_
  refine vv_ldc (v := (nI 100000)) dX1_told_1 q637 ?_
  refine vv_icmp_lt (tgt := 10) dX1_told_3 (by decide) (fun c1 => ?_) (fun c1 => ?_)
  · rw [if_pos c1] at h
    refine vv_iload_n dX1_told_10 rfl 0 rfl ?_
    refine vv_sub (lv' := []) [] rfl ?_
    exact v_KX1_told_11 hG hH h
  · rw [if_neg c1] at h
    refine vv_iconst (v := (-1)) dX1_told_6 (by decide) ?_
    refine vv_goto (tgt := 11) dX1_told_7 (by decide) ?_
    refine vv_sub (lv' := []) [] rfl ?_
    exact v_KX1_told_11 hG hH h
theorem m_KX1_told {l : Launch} {G : vv_G} {ad : Nat → Nat} {σ : vv_S} (hG : vv_gok G) (hH : vv_hy l G ad) {x0 : Int32} {r : Int32} (h : KX1_told x0 = some r) (d : Nat) : vv_Met l G MX1_told (d + 0) [.int x0] σ (.inl (some (.int r)), σ) := vv_head (by decide +kernel) rfl (Nat.le_of_ble_eq_true rfl) rfl (v_KX1_told_0 hG hH h)
/-! ('X1', 'far') -/
def KX1_far (x0 : Nat) (x1 : Int32) (x2 : Int32) (σ : vv_S) : Option (hX (Int32 × vv_S)) := (isO σ x0 0).bind fun _ => (KX1_aTown x0 x1 σ).bind fun r1 => xb r1 fun r3 => (isO r3 x0 0).bind fun _ => (KX1_aTown x0 x2 r3).bind fun r4 => xb r4 fun r6 => (gR r6 x0 0 1).bind fun v7 => (isO r6 v7 1).bind fun _ => (KX2_least v7 x1 (nI 0) r6).bind fun r8 => (aI r8.2 .int r8.1 x2).bind fun v10 => (KX1_told v10).bind fun r11 => some (.inl (r11, r8.2))
theorem v_KX1_far_0 {l : Launch} {G : vv_G} {d : Nat} {ad : Nat → Nat} (hG : vv_gok G) (hH : vv_hy l G ad) {x0 : Nat} {x1 : Int32} {x2 : Int32} {σ : vv_S} {r : hX (Int32 × vv_S)} (h : KX1_far x0 x1 x2 σ = some r) : vv_V l G MX1_far (d + 10) 0 [(0, .ref x0), (1, .int x1), (2, .int x2)] [] σ (xI r) := by
  unfold KX1_far at h
  refine vv_aload_n dX1_far_0 rfl 0 rfl ?_
  refine vv_iload_n dX1_far_1 rfl 1 rfl ?_
  replace h := isO_o h; obtain ⟨fz2, sz2, ez2, h⟩ := h
  replace h := bd_o h; obtain ⟨r1, er1, h⟩ := h
  rcases r1 with r3 | r3x
  · refine vv_callV ok_X1_aTown q1273 (m_KX1_aTown hG hH er1 d) rfl (by omega) ⟨_, _, _, _, _, ez2, by rw [hG.1]; rfl⟩ rfl rfl (Nat.le_of_ble_eq_true rfl) dX1_far_2 ?_
    replace h := xb_l h
    refine vv_aload_n dX1_far_5 rfl 0 rfl ?_
    refine vv_iload_n dX1_far_6 rfl 2 rfl ?_
    replace h := isO_o h; obtain ⟨fz5, sz5, ez5, h⟩ := h
    replace h := bd_o h; obtain ⟨r4, er4, h⟩ := h
    rcases r4 with r6 | r6x
    · refine vv_callV ok_X1_aTown q1273 (m_KX1_aTown hG hH er4 d) rfl (by omega) ⟨_, _, _, _, _, ez5, by rw [hG.1]; rfl⟩ rfl rfl (Nat.le_of_ble_eq_true rfl) dX1_far_7 ?_
      replace h := xb_l h
      refine vv_aload_n dX1_far_10 rfl 0 rfl ?_
      replace h := gR_o h; obtain ⟨v7, fv7, sv7, ev7, lv7, h⟩ := h
      refine vv_get (fl_X1_22 hG) ev7 lv7 dX1_far_11 ?_
      refine vv_iload_n dX1_far_14 rfl 1 rfl ?_
      refine vv_iconst (v := (nI 0)) dX1_far_15 (by decide) ?_
      replace h := isO_o h; obtain ⟨fz9, sz9, ez9, h⟩ := h
      replace h := bd_o h; obtain ⟨r8, er8, h⟩ := h
      refine vv_callV ok_X2_least q639 (m_KX2_least hG hH er8 d) rfl (by omega) ⟨_, _, _, _, _, ez9, by rw [hG.1]; rfl⟩ rfl rfl (Nat.le_of_ble_eq_true rfl) dX1_far_16 ?_
      refine vv_iload_n dX1_far_19 rfl 2 rfl ?_
      replace h := aI_o h; obtain ⟨v10, fv10, nv10, qv10, ev10, iv10, wv10, h⟩ := h
      refine vv_iald ev10 iv10 dX1_far_20 ?_
      rw [wv10]
      replace h := bd_o h; obtain ⟨r11, er11, h⟩ := h
      refine vv_callS ok_X1_told q1369 (m_KX1_told hG hH er11 d) rfl (by omega) rfl rfl (Nat.le_of_ble_eq_true rfl) dX1_far_21 ?_
      cases h
      exact vv_iret rfl dX1_far_24
    · cases h
      exact vv_callVX ok_X1_aTown q1273 (m_KX1_aTown hG hH er4 d) rfl (by omega) ⟨_, _, _, _, _, ez5, by rw [hG.1]; rfl⟩ rfl rfl (Nat.le_of_ble_eq_true rfl) dX1_far_7 (vv_Tout (by intro x hx; cases hx))
  · cases h
    exact vv_callVX ok_X1_aTown q1273 (m_KX1_aTown hG hH er1 d) rfl (by omega) ⟨_, _, _, _, _, ez2, by rw [hG.1]; rfl⟩ rfl rfl (Nat.le_of_ble_eq_true rfl) dX1_far_2 (vv_Tout (by intro x hx; cases hx))
theorem m_KX1_far {l : Launch} {G : vv_G} {ad : Nat → Nat} (hG : vv_gok G) (hH : vv_hy l G ad) {x0 : Nat} {x1 : Int32} {x2 : Int32} {σ : vv_S} {r : hX (Int32 × vv_S)} (h : KX1_far x0 x1 x2 σ = some r) (d : Nat) : vv_Met l G MX1_far (d + 10) [.ref x0, .int x1, .int x2] σ (xI r) := vv_head (by decide +kernel) rfl (Nat.le_of_ble_eq_true rfl) rfl (v_KX1_far_0 hG hH h)
/-! ('X1', 'leak') -/
def KX1_leak (x0 : Nat) (x1 : Int32) (x2 : Int32) (σ : vv_S) : Option (hX (Int32 × vv_S)) := (isO σ x0 0).bind fun _ => (KX1_aTown x0 x1 σ).bind fun r1 => xb r1 fun r3 => (isO r3 x0 0).bind fun _ => (KX1_aTown x0 x2 r3).bind fun r4 => xb r4 fun r6 => (gR r6 x0 0 1).bind fun v7 => (isO r6 v7 1).bind fun _ => (KX2_least v7 x1 (nI 1) r6).bind fun r8 => (aI r8.2 .int r8.1 x2).bind fun v10 => (KX1_told v10).bind fun r11 => some (.inl (r11, r8.2))
theorem v_KX1_leak_0 {l : Launch} {G : vv_G} {d : Nat} {ad : Nat → Nat} (hG : vv_gok G) (hH : vv_hy l G ad) {x0 : Nat} {x1 : Int32} {x2 : Int32} {σ : vv_S} {r : hX (Int32 × vv_S)} (h : KX1_leak x0 x1 x2 σ = some r) : vv_V l G MX1_leak (d + 10) 0 [(0, .ref x0), (1, .int x1), (2, .int x2)] [] σ (xI r) := by
  unfold KX1_leak at h
  refine vv_aload_n dX1_leak_0 rfl 0 rfl ?_
  refine vv_iload_n dX1_leak_1 rfl 1 rfl ?_
  replace h := isO_o h; obtain ⟨fz2, sz2, ez2, h⟩ := h
  replace h := bd_o h; obtain ⟨r1, er1, h⟩ := h
  rcases r1 with r3 | r3x
  · refine vv_callV ok_X1_aTown q1273 (m_KX1_aTown hG hH er1 d) rfl (by omega) ⟨_, _, _, _, _, ez2, by rw [hG.1]; rfl⟩ rfl rfl (Nat.le_of_ble_eq_true rfl) dX1_leak_2 ?_
    replace h := xb_l h
    refine vv_aload_n dX1_leak_5 rfl 0 rfl ?_
    refine vv_iload_n dX1_leak_6 rfl 2 rfl ?_
    replace h := isO_o h; obtain ⟨fz5, sz5, ez5, h⟩ := h
    replace h := bd_o h; obtain ⟨r4, er4, h⟩ := h
    rcases r4 with r6 | r6x
    · refine vv_callV ok_X1_aTown q1273 (m_KX1_aTown hG hH er4 d) rfl (by omega) ⟨_, _, _, _, _, ez5, by rw [hG.1]; rfl⟩ rfl rfl (Nat.le_of_ble_eq_true rfl) dX1_leak_7 ?_
      replace h := xb_l h
      refine vv_aload_n dX1_leak_10 rfl 0 rfl ?_
      replace h := gR_o h; obtain ⟨v7, fv7, sv7, ev7, lv7, h⟩ := h
      refine vv_get (fl_X1_22 hG) ev7 lv7 dX1_leak_11 ?_
      refine vv_iload_n dX1_leak_14 rfl 1 rfl ?_
      refine vv_iconst (v := (nI 1)) dX1_leak_15 (by decide) ?_
      replace h := isO_o h; obtain ⟨fz9, sz9, ez9, h⟩ := h
      replace h := bd_o h; obtain ⟨r8, er8, h⟩ := h
      refine vv_callV ok_X2_least q639 (m_KX2_least hG hH er8 d) rfl (by omega) ⟨_, _, _, _, _, ez9, by rw [hG.1]; rfl⟩ rfl rfl (Nat.le_of_ble_eq_true rfl) dX1_leak_16 ?_
      refine vv_iload_n dX1_leak_19 rfl 2 rfl ?_
      replace h := aI_o h; obtain ⟨v10, fv10, nv10, qv10, ev10, iv10, wv10, h⟩ := h
      refine vv_iald ev10 iv10 dX1_leak_20 ?_
      rw [wv10]
      replace h := bd_o h; obtain ⟨r11, er11, h⟩ := h
      refine vv_callS ok_X1_told q1369 (m_KX1_told hG hH er11 d) rfl (by omega) rfl rfl (Nat.le_of_ble_eq_true rfl) dX1_leak_21 ?_
      cases h
      exact vv_iret rfl dX1_leak_24
    · cases h
      exact vv_callVX ok_X1_aTown q1273 (m_KX1_aTown hG hH er4 d) rfl (by omega) ⟨_, _, _, _, _, ez5, by rw [hG.1]; rfl⟩ rfl rfl (Nat.le_of_ble_eq_true rfl) dX1_leak_7 (vv_Tout (by intro x hx; cases hx))
  · cases h
    exact vv_callVX ok_X1_aTown q1273 (m_KX1_aTown hG hH er1 d) rfl (by omega) ⟨_, _, _, _, _, ez2, by rw [hG.1]; rfl⟩ rfl rfl (Nat.le_of_ble_eq_true rfl) dX1_leak_2 (vv_Tout (by intro x hx; cases hx))
theorem m_KX1_leak {l : Launch} {G : vv_G} {ad : Nat → Nat} (hG : vv_gok G) (hH : vv_hy l G ad) {x0 : Nat} {x1 : Int32} {x2 : Int32} {σ : vv_S} {r : hX (Int32 × vv_S)} (h : KX1_leak x0 x1 x2 σ = some r) (d : Nat) : vv_Met l G MX1_leak (d + 10) [.ref x0, .int x1, .int x2] σ (xI r) := vv_head (by decide +kernel) rfl (Nat.le_of_ble_eq_true rfl) rfl (v_KX1_leak_0 hG hH h)
/-! ('X1', 'sending') -/
def KX1_sending_271 (k155 : Nat → Int32 → Nat → Int32 → Int32 → vv_S → Option (hX (Int32 × vv_S))) (x0 : Nat) (x2 : Int32) (x4 : Nat) (x5 : Int32) (x6 : Int32) (σ : vv_S) : Option (hX (Int32 × vv_S)) := k155 x0 x2 x4 x5 (x6 + (nI 1)) σ
theorem v_KX1_sending_271 {l : Launch} {G : vv_G} {d : Nat} {ad : Nat → Nat} (hG : vv_gok G) (hH : vv_hy l G ad) {k155 : Nat → Int32 → Nat → Int32 → Int32 → vv_S → Option (hX (Int32 × vv_S))} (hk155 : ∀ {x0 : Nat} {x2 : Int32} {x4 : Nat} {x5 : Int32} {x6 : Int32} {σ : vv_S} {r : hX (Int32 × vv_S)}, k155 x0 x2 x4 x5 x6 σ = some r → vv_V l G MX1_sending (d + 10) 155 [(0, .ref x0), (2, .int x2), (4, .ref x4), (5, .int x5), (6, .int x6)] [] σ (xI r)) {x0 : Nat} {x2 : Int32} {x4 : Nat} {x5 : Int32} {x6 : Int32} {σ : vv_S} {r : hX (Int32 × vv_S)} (h : KX1_sending_271 k155 x0 x2 x4 x5 x6 σ = some r) : vv_V l G MX1_sending (d + 10) 271 [(0, .ref x0), (2, .int x2), (4, .ref x4), (5, .int x5), (6, .int x6)] [] σ (xI r) := by
  unfold KX1_sending_271 at h
  refine vv_iinc (v := (x6 + (nI 1))) (lv' := [(0, .ref x0), (2, .int x2), (4, .ref x4), (5, .int x5), (6, .int (x6 + (nI 1)))]) dX1_sending_271 4 rfl rfl (by decide) [1, 2, 3, 4, 0] rfl ?_
  refine vv_goto (tgt := 155) dX1_sending_274 (by decide) ?_
  exact hk155 h
def KX1_sending_267 (k155 : Nat → Int32 → Nat → Int32 → Int32 → vv_S → Option (hX (Int32 × vv_S))) (x0 : Nat) (x2 : Int32) (x4 : Nat) (x6 : Int32) (σ : vv_S) : Option (hX (Int32 × vv_S)) := KX1_sending_271 k155 x0 x2 x4 x6 x6 σ
theorem v_KX1_sending_267 {l : Launch} {G : vv_G} {d : Nat} {ad : Nat → Nat} (hG : vv_gok G) (hH : vv_hy l G ad) {k155 : Nat → Int32 → Nat → Int32 → Int32 → vv_S → Option (hX (Int32 × vv_S))} (hk155 : ∀ {x0 : Nat} {x2 : Int32} {x4 : Nat} {x5 : Int32} {x6 : Int32} {σ : vv_S} {r : hX (Int32 × vv_S)}, k155 x0 x2 x4 x5 x6 σ = some r → vv_V l G MX1_sending (d + 10) 155 [(0, .ref x0), (2, .int x2), (4, .ref x4), (5, .int x5), (6, .int x6)] [] σ (xI r)) {x0 : Nat} {x2 : Int32} {x4 : Nat} {x6 : Int32} {σ : vv_S} {r : hX (Int32 × vv_S)} (h : KX1_sending_267 k155 x0 x2 x4 x6 σ = some r) : vv_V l G MX1_sending (d + 10) 267 [(0, .ref x0), (2, .int x2), (4, .ref x4), (6, .int x6)] [] σ (xI r) := by
  unfold KX1_sending_267 at h
  refine vv_iload dX1_sending_267 3 rfl ?_
  refine vv_istore (lv' := [(0, .ref x0), (2, .int x2), (4, .ref x4), (5, .int x6), (6, .int x6)]) dX1_sending_269 (by decide) [1, 2, 3, 0, 4] rfl ?_
  exact v_KX1_sending_271 hG hH hk155 h
def KX1_sending_231 (k155 : Nat → Int32 → Nat → Int32 → Int32 → vv_S → Option (hX (Int32 × vv_S))) (k178 : Nat → Int32 → Nat → Int32 → Int32 → Int32 → Int32 → Int32 → vv_S → Option (hX (Int32 × vv_S))) (x0 : Nat) (x2 : Int32) (x4 : Nat) (x5 : Int32) (x6 : Int32) (x7 : Int32) (x8 : Int32) (x9 : Int32) (σ : vv_S) : Option (hX (Int32 × vv_S)) := k178 x0 x2 x4 x5 x6 x7 x8 (x9 + (nI 1)) σ
theorem v_KX1_sending_231 {l : Launch} {G : vv_G} {d : Nat} {ad : Nat → Nat} (hG : vv_gok G) (hH : vv_hy l G ad) {k155 : Nat → Int32 → Nat → Int32 → Int32 → vv_S → Option (hX (Int32 × vv_S))} (hk155 : ∀ {x0 : Nat} {x2 : Int32} {x4 : Nat} {x5 : Int32} {x6 : Int32} {σ : vv_S} {r : hX (Int32 × vv_S)}, k155 x0 x2 x4 x5 x6 σ = some r → vv_V l G MX1_sending (d + 10) 155 [(0, .ref x0), (2, .int x2), (4, .ref x4), (5, .int x5), (6, .int x6)] [] σ (xI r)) {k178 : Nat → Int32 → Nat → Int32 → Int32 → Int32 → Int32 → Int32 → vv_S → Option (hX (Int32 × vv_S))} (hk178 : ∀ {x0 : Nat} {x2 : Int32} {x4 : Nat} {x5 : Int32} {x6 : Int32} {x7 : Int32} {x8 : Int32} {x9 : Int32} {σ : vv_S} {r : hX (Int32 × vv_S)}, k178 x0 x2 x4 x5 x6 x7 x8 x9 σ = some r → vv_V l G MX1_sending (d + 10) 178 [(0, .ref x0), (2, .int x2), (4, .ref x4), (5, .int x5), (6, .int x6), (7, .int x7), (8, .int x8), (9, .int x9)] [] σ (xI r)) {x0 : Nat} {x2 : Int32} {x4 : Nat} {x5 : Int32} {x6 : Int32} {x7 : Int32} {x8 : Int32} {x9 : Int32} {σ : vv_S} {r : hX (Int32 × vv_S)} (h : KX1_sending_231 k155 k178 x0 x2 x4 x5 x6 x7 x8 x9 σ = some r) : vv_V l G MX1_sending (d + 10) 231 [(0, .ref x0), (2, .int x2), (4, .ref x4), (5, .int x5), (6, .int x6), (7, .int x7), (8, .int x8), (9, .int x9)] [] σ (xI r) := by
  unfold KX1_sending_231 at h
  refine vv_iinc (v := (x9 + (nI 1))) (lv' := [(0, .ref x0), (2, .int x2), (4, .ref x4), (5, .int x5), (6, .int x6), (7, .int x7), (8, .int x8), (9, .int (x9 + (nI 1)))]) dX1_sending_231 7 rfl rfl (by decide) [1, 2, 3, 4, 5, 6, 7, 0] rfl ?_
  refine vv_goto (tgt := 178) dX1_sending_234 (by decide) ?_
  exact hk178 h
def KX1_sending_228 (k155 : Nat → Int32 → Nat → Int32 → Int32 → vv_S → Option (hX (Int32 × vv_S))) (k178 : Nat → Int32 → Nat → Int32 → Int32 → Int32 → Int32 → Int32 → vv_S → Option (hX (Int32 × vv_S))) (s0 : Int32) (s1 : Int32) (x0 : Nat) (x2 : Int32) (x4 : Nat) (x5 : Int32) (x6 : Int32) (x7 : Int32) (x9 : Int32) (σ : vv_S) : Option (hX (Int32 × vv_S)) := KX1_sending_231 k155 k178 x0 x2 x4 x5 x6 x7 (s0 &&& s1) x9 σ
theorem v_KX1_sending_228 {l : Launch} {G : vv_G} {d : Nat} {ad : Nat → Nat} (hG : vv_gok G) (hH : vv_hy l G ad) {k155 : Nat → Int32 → Nat → Int32 → Int32 → vv_S → Option (hX (Int32 × vv_S))} (hk155 : ∀ {x0 : Nat} {x2 : Int32} {x4 : Nat} {x5 : Int32} {x6 : Int32} {σ : vv_S} {r : hX (Int32 × vv_S)}, k155 x0 x2 x4 x5 x6 σ = some r → vv_V l G MX1_sending (d + 10) 155 [(0, .ref x0), (2, .int x2), (4, .ref x4), (5, .int x5), (6, .int x6)] [] σ (xI r)) {k178 : Nat → Int32 → Nat → Int32 → Int32 → Int32 → Int32 → Int32 → vv_S → Option (hX (Int32 × vv_S))} (hk178 : ∀ {x0 : Nat} {x2 : Int32} {x4 : Nat} {x5 : Int32} {x6 : Int32} {x7 : Int32} {x8 : Int32} {x9 : Int32} {σ : vv_S} {r : hX (Int32 × vv_S)}, k178 x0 x2 x4 x5 x6 x7 x8 x9 σ = some r → vv_V l G MX1_sending (d + 10) 178 [(0, .ref x0), (2, .int x2), (4, .ref x4), (5, .int x5), (6, .int x6), (7, .int x7), (8, .int x8), (9, .int x9)] [] σ (xI r)) {s0 : Int32} {s1 : Int32} {x0 : Nat} {x2 : Int32} {x4 : Nat} {x5 : Int32} {x6 : Int32} {x7 : Int32} {x9 : Int32} {σ : vv_S} {r : hX (Int32 × vv_S)} (h : KX1_sending_228 k155 k178 s0 s1 x0 x2 x4 x5 x6 x7 x9 σ = some r) : vv_V l G MX1_sending (d + 10) 228 [(0, .ref x0), (2, .int x2), (4, .ref x4), (5, .int x5), (6, .int x6), (7, .int x7), (9, .int x9)] [.int s1, .int s0] σ (xI r) := by
  unfold KX1_sending_228 at h
  refine vv_iand dX1_sending_228 ?_
  refine vv_istore (lv' := [(0, .ref x0), (2, .int x2), (4, .ref x4), (5, .int x5), (6, .int x6), (7, .int x7), (8, .int (s0 &&& s1)), (9, .int x9)]) dX1_sending_229 (by decide) [1, 2, 3, 4, 5, 6, 0, 7] rfl ?_
  exact v_KX1_sending_231 hG hH hk155 hk178 h
def BKX1_sending_178 (k155 : Nat → Int32 → Nat → Int32 → Int32 → vv_S → Option (hX (Int32 × vv_S))) (k178 : Nat → Int32 → Nat → Int32 → Int32 → Int32 → Int32 → Int32 → vv_S → Option (hX (Int32 × vv_S))) (x0 : Nat) (x2 : Int32) (x4 : Nat) (x5 : Int32) (x6 : Int32) (x7 : Int32) (x8 : Int32) (x9 : Int32) (σ : vv_S) : Option (hX (Int32 × vv_S)) := (gR σ x0 0 1).bind fun v1 => (gI σ v1 1 3).bind fun v2 => if v2 ≤ x9 then (if x8 = 0 then (KX1_sending_271 k155 x0 x2 x4 x5 x6 σ) else (if x7 < x2 then (KX1_sending_271 k155 x0 x2 x4 x5 x6 σ) else (if x5 = (-1) then (KX1_sending_267 k155 x0 x2 x4 x6 σ) else ((KJ14_bitCount x6).bind fun r7 => (KJ14_bitCount x5).bind fun r8 => if r8 ≤ r7 then (KX1_sending_271 k155 x0 x2 x4 x5 x6 σ) else (KX1_sending_267 k155 x0 x2 x4 x6 σ))))) else ((KX1_isOf x6 x9).bind fun r10 => if r10 = 0 then (KX1_sending_231 k155 k178 x0 x2 x4 x5 x6 x7 x8 x9 σ) else ((aI σ .int x4 x9).bind fun v12 => (aI σ .int x4 x9).bind fun v13 => if v13 ≤ 0 then (KX1_sending_228 k155 k178 x8 (nI 0) x0 x2 x4 x5 x6 (x7 + v12) x9 σ) else (KX1_sending_228 k155 k178 x8 (nI 1) x0 x2 x4 x5 x6 (x7 + v12) x9 σ)))
def KX1_sending_178 (k155 : Nat → Int32 → Nat → Int32 → Int32 → vv_S → Option (hX (Int32 × vv_S))) : Nat → Nat → Int32 → Nat → Int32 → Int32 → Int32 → Int32 → Int32 → vv_S → Option (hX (Int32 × vv_S))
  | 0, _, _, _, _, _, _, _, _, _ => none
  | n + 1, x0, x2, x4, x5, x6, x7, x8, x9, σ => BKX1_sending_178 k155 (KX1_sending_178 k155 n) x0 x2 x4 x5 x6 x7 x8 x9 σ
theorem vb_KX1_sending_178 {l : Launch} {G : vv_G} {d : Nat} {ad : Nat → Nat} (hG : vv_gok G) (hH : vv_hy l G ad) {k155 : Nat → Int32 → Nat → Int32 → Int32 → vv_S → Option (hX (Int32 × vv_S))} (hk155 : ∀ {x0 : Nat} {x2 : Int32} {x4 : Nat} {x5 : Int32} {x6 : Int32} {σ : vv_S} {r : hX (Int32 × vv_S)}, k155 x0 x2 x4 x5 x6 σ = some r → vv_V l G MX1_sending (d + 10) 155 [(0, .ref x0), (2, .int x2), (4, .ref x4), (5, .int x5), (6, .int x6)] [] σ (xI r)) {k178 : Nat → Int32 → Nat → Int32 → Int32 → Int32 → Int32 → Int32 → vv_S → Option (hX (Int32 × vv_S))} (hk178 : ∀ {x0 : Nat} {x2 : Int32} {x4 : Nat} {x5 : Int32} {x6 : Int32} {x7 : Int32} {x8 : Int32} {x9 : Int32} {σ : vv_S} {r : hX (Int32 × vv_S)}, k178 x0 x2 x4 x5 x6 x7 x8 x9 σ = some r → vv_V l G MX1_sending (d + 10) 178 [(0, .ref x0), (2, .int x2), (4, .ref x4), (5, .int x5), (6, .int x6), (7, .int x7), (8, .int x8), (9, .int x9)] [] σ (xI r)) {x0 : Nat} {x2 : Int32} {x4 : Nat} {x5 : Int32} {x6 : Int32} {x7 : Int32} {x8 : Int32} {x9 : Int32} {σ : vv_S} {r : hX (Int32 × vv_S)} (h : BKX1_sending_178 k155 k178 x0 x2 x4 x5 x6 x7 x8 x9 σ = some r) : vv_V l G MX1_sending (d + 10) 178 [(0, .ref x0), (2, .int x2), (4, .ref x4), (5, .int x5), (6, .int x6), (7, .int x7), (8, .int x8), (9, .int x9)] [] σ (xI r) := by
  unfold BKX1_sending_178 at h
  refine vv_iload dX1_sending_178 7 rfl ?_
  refine vv_aload_n dX1_sending_180 rfl 0 rfl ?_
  replace h := gR_o h; obtain ⟨v1, fv1, sv1, ev1, lv1, h⟩ := h
  refine vv_get (fl_X1_22 hG) ev1 lv1 dX1_sending_181 ?_
  replace h := gI_o h; obtain ⟨v2, fv2, sv2, ev2, lv2, h⟩ := h
  refine vv_getM (fl_X1_104 hH) ev2 lv2 dX1_sending_184 ?_
  refine vv_icmp_ge (tgt := 237) dX1_sending_187 (by decide) (fun c3 => ?_) (fun c3 => ?_)
  · rw [if_pos c3] at h
    refine vv_iload dX1_sending_237 6 rfl ?_
    refine vv_if_eq (tgt := 271) dX1_sending_239 (by decide) (fun c4 => ?_) (fun c4 => ?_)
    · rw [if_pos c4] at h
      refine vv_sub (lv' := [(0, .ref x0), (2, .int x2), (4, .ref x4), (5, .int x5), (6, .int x6)]) [0, 1, 2, 3, 4] rfl ?_
      exact v_KX1_sending_271 hG hH hk155 h
    · rw [if_neg c4] at h
      refine vv_iload dX1_sending_242 5 rfl ?_
      refine vv_iload_n dX1_sending_244 rfl 1 rfl ?_
      refine vv_icmp_lt (tgt := 271) dX1_sending_245 (by decide) (fun c5 => ?_) (fun c5 => ?_)
      · rw [if_pos c5] at h
        refine vv_sub (lv' := [(0, .ref x0), (2, .int x2), (4, .ref x4), (5, .int x5), (6, .int x6)]) [0, 1, 2, 3, 4] rfl ?_
        exact v_KX1_sending_271 hG hH hk155 h
      · rw [if_neg c5] at h
        refine vv_iload dX1_sending_248 3 rfl ?_
        refine vv_iconst (v := (-1)) dX1_sending_250 (by decide) ?_
        refine vv_icmp_eq (tgt := 267) dX1_sending_251 (by decide) (fun c6 => ?_) (fun c6 => ?_)
        · rw [if_pos c6] at h
          refine vv_sub (lv' := [(0, .ref x0), (2, .int x2), (4, .ref x4), (6, .int x6)]) [0, 1, 2, 4] rfl ?_
          exact v_KX1_sending_267 hG hH hk155 h
        · rw [if_neg c6] at h
          refine vv_iload dX1_sending_254 4 rfl ?_
          replace h := bd_o h; obtain ⟨r7, er7, h⟩ := h
          refine vv_callS ok_J14_bitCount q1386 (m_KJ14_bitCount hG hH er7 d) rfl (by omega) rfl rfl (Nat.le_of_ble_eq_true rfl) dX1_sending_256 ?_
          refine vv_iload dX1_sending_259 3 rfl ?_
          replace h := bd_o h; obtain ⟨r8, er8, h⟩ := h
          refine vv_callS ok_J14_bitCount q1386 (m_KJ14_bitCount hG hH er8 d) rfl (by omega) rfl rfl (Nat.le_of_ble_eq_true rfl) dX1_sending_261 ?_
          refine vv_icmp_ge (tgt := 271) dX1_sending_264 (by decide) (fun c9 => ?_) (fun c9 => ?_)
          · rw [if_pos c9] at h
            refine vv_sub (lv' := [(0, .ref x0), (2, .int x2), (4, .ref x4), (5, .int x5), (6, .int x6)]) [0, 1, 2, 3, 4] rfl ?_
            exact v_KX1_sending_271 hG hH hk155 h
          · rw [if_neg c9] at h
            refine vv_sub (lv' := [(0, .ref x0), (2, .int x2), (4, .ref x4), (6, .int x6)]) [0, 1, 2, 4] rfl ?_
            exact v_KX1_sending_267 hG hH hk155 h
  · rw [if_neg c3] at h
    refine vv_iload dX1_sending_190 4 rfl ?_
    refine vv_iload dX1_sending_192 7 rfl ?_
    replace h := bd_o h; obtain ⟨r10, er10, h⟩ := h
    refine vv_callS ok_X1_isOf q1352 (m_KX1_isOf hG hH er10 d) rfl (by omega) rfl rfl (Nat.le_of_ble_eq_true rfl) dX1_sending_194 ?_
    refine vv_if_ne (tgt := 203) dX1_sending_197 (by decide) (fun c11 => ?_) (fun c11 => ?_)
    · rw [if_neg c11] at h
      refine vv_iload dX1_sending_203 5 rfl ?_
      refine vv_aload dX1_sending_205 2 rfl ?_
      refine vv_iload dX1_sending_207 7 rfl ?_
      replace h := aI_o h; obtain ⟨v12, fv12, nv12, qv12, ev12, iv12, wv12, h⟩ := h
      refine vv_iald ev12 iv12 dX1_sending_209 ?_
      rw [wv12]
      refine vv_iadd dX1_sending_210 ?_
      refine vv_istore (lv' := [(0, .ref x0), (2, .int x2), (4, .ref x4), (5, .int x5), (6, .int x6), (7, .int (x7 + v12)), (8, .int x8), (9, .int x9)]) dX1_sending_211 (by decide) [1, 2, 3, 4, 5, 0, 6, 7] rfl ?_
      refine vv_iload dX1_sending_213 6 rfl ?_
      refine vv_aload dX1_sending_215 2 rfl ?_
      refine vv_iload dX1_sending_217 7 rfl ?_
      replace h := aI_o h; obtain ⟨v13, fv13, nv13, qv13, ev13, iv13, wv13, h⟩ := h
      refine vv_iald ev13 iv13 dX1_sending_219 ?_
      rw [wv13]
      refine vv_if_le (tgt := 227) dX1_sending_220 (by decide) (fun c14 => ?_) (fun c14 => ?_)
      · rw [if_pos c14] at h
        refine vv_iconst (v := (nI 0)) dX1_sending_227 (by decide) ?_
        refine vv_sub (lv' := [(0, .ref x0), (2, .int x2), (4, .ref x4), (5, .int x5), (6, .int x6), (7, .int (x7 + v12)), (9, .int x9)]) [0, 1, 2, 3, 4, 5, 7] rfl ?_
        exact v_KX1_sending_228 hG hH hk155 hk178 h
      · rw [if_neg c14] at h
        refine vv_iconst (v := (nI 1)) dX1_sending_223 (by decide) ?_
        refine vv_goto (tgt := 228) dX1_sending_224 (by decide) ?_
        refine vv_sub (lv' := [(0, .ref x0), (2, .int x2), (4, .ref x4), (5, .int x5), (6, .int x6), (7, .int (x7 + v12)), (9, .int x9)]) [0, 1, 2, 3, 4, 5, 7] rfl ?_
        exact v_KX1_sending_228 hG hH hk155 hk178 h
    · rw [if_pos c11] at h
      refine vv_goto (tgt := 231) dX1_sending_200 (by decide) ?_
      exact v_KX1_sending_231 hG hH hk155 hk178 h
theorem v_KX1_sending_178 {l : Launch} {G : vv_G} {d : Nat} {ad : Nat → Nat} (hG : vv_gok G) (hH : vv_hy l G ad) {k155 : Nat → Int32 → Nat → Int32 → Int32 → vv_S → Option (hX (Int32 × vv_S))} (hk155 : ∀ {x0 : Nat} {x2 : Int32} {x4 : Nat} {x5 : Int32} {x6 : Int32} {σ : vv_S} {r : hX (Int32 × vv_S)}, k155 x0 x2 x4 x5 x6 σ = some r → vv_V l G MX1_sending (d + 10) 155 [(0, .ref x0), (2, .int x2), (4, .ref x4), (5, .int x5), (6, .int x6)] [] σ (xI r)) : ∀ (n : Nat) {x0 : Nat} {x2 : Int32} {x4 : Nat} {x5 : Int32} {x6 : Int32} {x7 : Int32} {x8 : Int32} {x9 : Int32} {σ : vv_S} {r : hX (Int32 × vv_S)}, KX1_sending_178 k155 n x0 x2 x4 x5 x6 x7 x8 x9 σ = some r → vv_V l G MX1_sending (d + 10) 178 [(0, .ref x0), (2, .int x2), (4, .ref x4), (5, .int x5), (6, .int x6), (7, .int x7), (8, .int x8), (9, .int x9)] [] σ (xI r) := by
  intro n
  induction n with
  | zero => intro _ _ _ _ _ _ _ _ _ _ h; cases h
  | succ n ih => intro _ _ _ _ _ _ _ _ _ _ h; exact vb_KX1_sending_178 hG hH hk155 ih h
def BKX1_sending_155 (k155 : Nat → Int32 → Nat → Int32 → Int32 → vv_S → Option (hX (Int32 × vv_S))) (x0 : Nat) (x2 : Int32) (x4 : Nat) (x5 : Int32) (x6 : Int32) (σ : vv_S) : Option (hX (Int32 × vv_S)) := (gR σ x0 0 1).bind fun v1 => (gI σ v1 1 3).bind fun v2 => if ((nI 1) <<< (v2 &&& 31)) ≤ x6 then (some (.inl (x5, σ))) else (KX1_sending_178 k155 NN x0 x2 x4 x5 x6 (nI 0) (nI 1) (nI 0) σ)
def KX1_sending_155 : Nat → Nat → Int32 → Nat → Int32 → Int32 → vv_S → Option (hX (Int32 × vv_S))
  | 0, _, _, _, _, _, _ => none
  | n + 1, x0, x2, x4, x5, x6, σ => BKX1_sending_155 (KX1_sending_155 n) x0 x2 x4 x5 x6 σ
theorem vb_KX1_sending_155 {l : Launch} {G : vv_G} {d : Nat} {ad : Nat → Nat} (hG : vv_gok G) (hH : vv_hy l G ad) {k155 : Nat → Int32 → Nat → Int32 → Int32 → vv_S → Option (hX (Int32 × vv_S))} (hk155 : ∀ {x0 : Nat} {x2 : Int32} {x4 : Nat} {x5 : Int32} {x6 : Int32} {σ : vv_S} {r : hX (Int32 × vv_S)}, k155 x0 x2 x4 x5 x6 σ = some r → vv_V l G MX1_sending (d + 10) 155 [(0, .ref x0), (2, .int x2), (4, .ref x4), (5, .int x5), (6, .int x6)] [] σ (xI r)) {x0 : Nat} {x2 : Int32} {x4 : Nat} {x5 : Int32} {x6 : Int32} {σ : vv_S} {r : hX (Int32 × vv_S)} (h : BKX1_sending_155 k155 x0 x2 x4 x5 x6 σ = some r) : vv_V l G MX1_sending (d + 10) 155 [(0, .ref x0), (2, .int x2), (4, .ref x4), (5, .int x5), (6, .int x6)] [] σ (xI r) := by
  unfold BKX1_sending_155 at h
  refine vv_iload dX1_sending_155 4 rfl ?_
  refine vv_iconst (v := (nI 1)) dX1_sending_157 (by decide) ?_
  refine vv_aload_n dX1_sending_158 rfl 0 rfl ?_
  replace h := gR_o h; obtain ⟨v1, fv1, sv1, ev1, lv1, h⟩ := h
  refine vv_get (fl_X1_22 hG) ev1 lv1 dX1_sending_159 ?_
  replace h := gI_o h; obtain ⟨v2, fv2, sv2, ev2, lv2, h⟩ := h
  refine vv_getM (fl_X1_104 hH) ev2 lv2 dX1_sending_162 ?_
  refine vv_ishl dX1_sending_165 ?_
  refine vv_icmp_ge (tgt := 277) dX1_sending_166 (by decide) (fun c3 => ?_) (fun c3 => ?_)
  · rw [if_pos c3] at h
    refine vv_iload dX1_sending_277 3 rfl ?_
    cases h
    exact vv_iret rfl dX1_sending_279
  · rw [if_neg c3] at h
    refine vv_iconst (v := (nI 0)) dX1_sending_169 (by decide) ?_
    refine vv_istore (lv' := [(0, .ref x0), (2, .int x2), (4, .ref x4), (5, .int x5), (6, .int x6), (7, .int (nI 0))]) dX1_sending_170 (by decide) [1, 2, 3, 4, 5, 0] rfl ?_
    refine vv_iconst (v := (nI 1)) dX1_sending_172 (by decide) ?_
    refine vv_istore (lv' := [(0, .ref x0), (2, .int x2), (4, .ref x4), (5, .int x5), (6, .int x6), (7, .int (nI 0)), (8, .int (nI 1))]) dX1_sending_173 (by decide) [1, 2, 3, 4, 5, 6, 0] rfl ?_
    refine vv_iconst (v := (nI 0)) dX1_sending_175 (by decide) ?_
    refine vv_istore (lv' := [(0, .ref x0), (2, .int x2), (4, .ref x4), (5, .int x5), (6, .int x6), (7, .int (nI 0)), (8, .int (nI 1)), (9, .int (nI 0))]) dX1_sending_176 (by decide) [1, 2, 3, 4, 5, 6, 7, 0] rfl ?_
    exact v_KX1_sending_178 hG hH hk155 NN h
theorem v_KX1_sending_155 {l : Launch} {G : vv_G} {d : Nat} {ad : Nat → Nat} (hG : vv_gok G) (hH : vv_hy l G ad) : ∀ (n : Nat) {x0 : Nat} {x2 : Int32} {x4 : Nat} {x5 : Int32} {x6 : Int32} {σ : vv_S} {r : hX (Int32 × vv_S)}, KX1_sending_155 n x0 x2 x4 x5 x6 σ = some r → vv_V l G MX1_sending (d + 10) 155 [(0, .ref x0), (2, .int x2), (4, .ref x4), (5, .int x5), (6, .int x6)] [] σ (xI r) := by
  intro n
  induction n with
  | zero => intro _ _ _ _ _ _ _ h; cases h
  | succ n ih => intro _ _ _ _ _ _ _ h; exact vb_KX1_sending_155 hG hH ih h
def KX1_sending_143 (k35 : Nat → Int32 → Nat → Nat → Int32 → vv_S → Option (hX (Int32 × vv_S))) (x0 : Nat) (x2 : Int32) (x3 : Nat) (x4 : Nat) (x5 : Int32) (σ : vv_S) : Option (hX (Int32 × vv_S)) := k35 x0 x2 x3 x4 (x5 + (nI 1)) σ
theorem v_KX1_sending_143 {l : Launch} {G : vv_G} {d : Nat} {ad : Nat → Nat} (hG : vv_gok G) (hH : vv_hy l G ad) {k35 : Nat → Int32 → Nat → Nat → Int32 → vv_S → Option (hX (Int32 × vv_S))} (hk35 : ∀ {x0 : Nat} {x2 : Int32} {x3 : Nat} {x4 : Nat} {x5 : Int32} {σ : vv_S} {r : hX (Int32 × vv_S)}, k35 x0 x2 x3 x4 x5 σ = some r → vv_V l G MX1_sending (d + 10) 35 [(0, .ref x0), (2, .int x2), (3, .ref x3), (4, .ref x4), (5, .int x5)] [] σ (xI r)) {x0 : Nat} {x2 : Int32} {x3 : Nat} {x4 : Nat} {x5 : Int32} {σ : vv_S} {r : hX (Int32 × vv_S)} (h : KX1_sending_143 k35 x0 x2 x3 x4 x5 σ = some r) : vv_V l G MX1_sending (d + 10) 143 [(0, .ref x0), (2, .int x2), (3, .ref x3), (4, .ref x4), (5, .int x5)] [] σ (xI r) := by
  unfold KX1_sending_143 at h
  refine vv_iinc (v := (x5 + (nI 1))) (lv' := [(0, .ref x0), (2, .int x2), (3, .ref x3), (4, .ref x4), (5, .int (x5 + (nI 1)))]) dX1_sending_143 4 rfl rfl (by decide) [1, 2, 3, 4, 0] rfl ?_
  refine vv_goto (tgt := 35) dX1_sending_146 (by decide) ?_
  exact hk35 h
def KX1_sending_138 (k35 : Nat → Int32 → Nat → Nat → Int32 → vv_S → Option (hX (Int32 × vv_S))) (s0 : Nat) (s1 : Int32) (s2 : Int32) (s3 : Int32) (s4 : Int32) (x0 : Nat) (x2 : Int32) (x3 : Nat) (x4 : Nat) (x5 : Int32) (σ : vv_S) : Option (hX (Int32 × vv_S)) := (sI σ s0 s1 (mxI s2 (s3 - s4))).bind fun σ1 => KX1_sending_143 k35 x0 x2 x3 x4 x5 σ1
theorem v_KX1_sending_138 {l : Launch} {G : vv_G} {d : Nat} {ad : Nat → Nat} (hG : vv_gok G) (hH : vv_hy l G ad) {k35 : Nat → Int32 → Nat → Nat → Int32 → vv_S → Option (hX (Int32 × vv_S))} (hk35 : ∀ {x0 : Nat} {x2 : Int32} {x3 : Nat} {x4 : Nat} {x5 : Int32} {σ : vv_S} {r : hX (Int32 × vv_S)}, k35 x0 x2 x3 x4 x5 σ = some r → vv_V l G MX1_sending (d + 10) 35 [(0, .ref x0), (2, .int x2), (3, .ref x3), (4, .ref x4), (5, .int x5)] [] σ (xI r)) {s0 : Nat} {s1 : Int32} {s2 : Int32} {s3 : Int32} {s4 : Int32} {x0 : Nat} {x2 : Int32} {x3 : Nat} {x4 : Nat} {x5 : Int32} {σ : vv_S} {r : hX (Int32 × vv_S)} (h : KX1_sending_138 k35 s0 s1 s2 s3 s4 x0 x2 x3 x4 x5 σ = some r) : vv_V l G MX1_sending (d + 10) 138 [(0, .ref x0), (2, .int x2), (3, .ref x3), (4, .ref x4), (5, .int x5)] [.int s4, .int s3, .int s2, .int s1, .ref s0] σ (xI r) := by
  unfold KX1_sending_138 at h
  refine vv_isub dX1_sending_138 ?_
  refine vv_mmax q653 (by omega) (Nat.le_of_ble_eq_true rfl) dX1_sending_139 ?_
  replace h := sI_o h; obtain ⟨σ1, nσ1, qσ1, eσ1, iσ1, uσ1, h⟩ := h
  refine vv_iast eσ1 iσ1 dX1_sending_142 ?_
  rw [← uσ1]
  exact v_KX1_sending_143 hG hH hk35 h
def BKX1_sending_35 (k35 : Nat → Int32 → Nat → Nat → Int32 → vv_S → Option (hX (Int32 × vv_S))) (x0 : Nat) (x2 : Int32) (x3 : Nat) (x4 : Nat) (x5 : Int32) (σ : vv_S) : Option (hX (Int32 × vv_S)) := (gR σ x0 0 1).bind fun v1 => (gI σ v1 1 3).bind fun v2 => if v2 ≤ x5 then (KX1_sending_155 NN x0 x2 x4 (-1) (nI 0) σ) else ((gR σ x0 0 2).bind fun v4 => (isO σ v4 2).bind fun _ => (KX3_lies v4 x5 σ).bind fun r5 => if r5 = 0 then (KX1_sending_143 k35 x0 x2 x3 x4 x5 σ) else ((gR σ x0 0 2).bind fun v8 => (gR σ v8 2 4).bind fun v9 => (aI σ .int v9 x5).bind fun v10 => if v10 = (nI 1) then (KX1_sending_143 k35 x0 x2 x3 x4 x5 σ) else ((gR σ x0 0 2).bind fun v12 => (gR σ v12 2 6).bind fun v13 => (aI σ .int v13 x5).bind fun v14 => (aI σ .int x3 v14).bind fun v15 => if v15 < (nI 100000) then ((gR σ x0 0 2).bind fun v17 => (gR σ v17 2 3).bind fun v18 => (aI σ .int v18 x5).bind fun v19 => (gR σ x0 0 2).bind fun v20 => (gR σ v20 2 5).bind fun v21 => (aI σ .int v21 x5).bind fun v22 => if v22 = (nI 1) then (KX1_sending_138 k35 x4 x5 (nI 0) v19 (nI 0) x0 x2 x3 x4 x5 σ) else ((gR σ x0 0 2).bind fun v24 => (gR σ v24 2 6).bind fun v25 => (aI σ .int v25 x5).bind fun v26 => (aI σ .int x3 v26).bind fun v27 => KX1_sending_138 k35 x4 x5 (nI 0) v19 v27 x0 x2 x3 x4 x5 σ)) else (KX1_sending_143 k35 x0 x2 x3 x4 x5 σ))))
def KX1_sending_35 : Nat → Nat → Int32 → Nat → Nat → Int32 → vv_S → Option (hX (Int32 × vv_S))
  | 0, _, _, _, _, _, _ => none
  | n + 1, x0, x2, x3, x4, x5, σ => BKX1_sending_35 (KX1_sending_35 n) x0 x2 x3 x4 x5 σ
theorem vb_KX1_sending_35 {l : Launch} {G : vv_G} {d : Nat} {ad : Nat → Nat} (hG : vv_gok G) (hH : vv_hy l G ad) {k35 : Nat → Int32 → Nat → Nat → Int32 → vv_S → Option (hX (Int32 × vv_S))} (hk35 : ∀ {x0 : Nat} {x2 : Int32} {x3 : Nat} {x4 : Nat} {x5 : Int32} {σ : vv_S} {r : hX (Int32 × vv_S)}, k35 x0 x2 x3 x4 x5 σ = some r → vv_V l G MX1_sending (d + 10) 35 [(0, .ref x0), (2, .int x2), (3, .ref x3), (4, .ref x4), (5, .int x5)] [] σ (xI r)) {x0 : Nat} {x2 : Int32} {x3 : Nat} {x4 : Nat} {x5 : Int32} {σ : vv_S} {r : hX (Int32 × vv_S)} (h : BKX1_sending_35 k35 x0 x2 x3 x4 x5 σ = some r) : vv_V l G MX1_sending (d + 10) 35 [(0, .ref x0), (2, .int x2), (3, .ref x3), (4, .ref x4), (5, .int x5)] [] σ (xI r) := by
  unfold BKX1_sending_35 at h
  refine vv_iload dX1_sending_35 4 rfl ?_
  refine vv_aload_n dX1_sending_37 rfl 0 rfl ?_
  replace h := gR_o h; obtain ⟨v1, fv1, sv1, ev1, lv1, h⟩ := h
  refine vv_get (fl_X1_22 hG) ev1 lv1 dX1_sending_38 ?_
  replace h := gI_o h; obtain ⟨v2, fv2, sv2, ev2, lv2, h⟩ := h
  refine vv_getM (fl_X1_104 hH) ev2 lv2 dX1_sending_41 ?_
  refine vv_icmp_ge (tgt := 149) dX1_sending_44 (by decide) (fun c3 => ?_) (fun c3 => ?_)
  · rw [if_pos c3] at h
    refine vv_iconst (v := (-1)) dX1_sending_149 (by decide) ?_
    refine vv_istore (lv' := [(0, .ref x0), (2, .int x2), (3, .ref x3), (4, .ref x4), (5, .int (-1))]) dX1_sending_150 (by decide) [1, 2, 3, 4, 0] rfl ?_
    refine vv_iconst (v := (nI 0)) dX1_sending_152 (by decide) ?_
    refine vv_istore (lv' := [(0, .ref x0), (2, .int x2), (3, .ref x3), (4, .ref x4), (5, .int (-1)), (6, .int (nI 0))]) dX1_sending_153 (by decide) [1, 2, 3, 4, 5, 0] rfl ?_
    refine vv_sub (lv' := [(0, .ref x0), (2, .int x2), (4, .ref x4), (5, .int (-1)), (6, .int (nI 0))]) [0, 1, 3, 4, 5] rfl ?_
    exact v_KX1_sending_155 hG hH NN h
  · rw [if_neg c3] at h
    refine vv_aload_n dX1_sending_47 rfl 0 rfl ?_
    replace h := gR_o h; obtain ⟨v4, fv4, sv4, ev4, lv4, h⟩ := h
    refine vv_get (fl_X1_31 hG) ev4 lv4 dX1_sending_48 ?_
    refine vv_iload dX1_sending_51 4 rfl ?_
    replace h := isO_o h; obtain ⟨fz6, sz6, ez6, h⟩ := h
    replace h := bd_o h; obtain ⟨r5, er5, h⟩ := h
    refine vv_callV ok_X3_lies q615 (m_KX3_lies hG hH er5 d) rfl (by omega) ⟨_, _, _, _, _, ez6, by rw [hG.1]; rfl⟩ rfl rfl (Nat.le_of_ble_eq_true rfl) dX1_sending_53 ?_
    refine vv_if_eq (tgt := 143) dX1_sending_56 (by decide) (fun c7 => ?_) (fun c7 => ?_)
    · rw [if_pos c7] at h
      exact v_KX1_sending_143 hG hH hk35 h
    · rw [if_neg c7] at h
      refine vv_aload_n dX1_sending_59 rfl 0 rfl ?_
      replace h := gR_o h; obtain ⟨v8, fv8, sv8, ev8, lv8, h⟩ := h
      refine vv_get (fl_X1_31 hG) ev8 lv8 dX1_sending_60 ?_
      replace h := gR_o h; obtain ⟨v9, fv9, sv9, ev9, lv9, h⟩ := h
      refine vv_getM (fl_X1_173 hH) ev9 lv9 dX1_sending_63 ?_
      refine vv_iload dX1_sending_66 4 rfl ?_
      replace h := aI_o h; obtain ⟨v10, fv10, nv10, qv10, ev10, iv10, wv10, h⟩ := h
      refine vv_iald ev10 iv10 dX1_sending_68 ?_
      rw [wv10]
      refine vv_iconst (v := (nI 1)) dX1_sending_69 (by decide) ?_
      refine vv_icmp_eq (tgt := 143) dX1_sending_70 (by decide) (fun c11 => ?_) (fun c11 => ?_)
      · rw [if_pos c11] at h
        exact v_KX1_sending_143 hG hH hk35 h
      · rw [if_neg c11] at h
        refine vv_aload_n dX1_sending_73 rfl 2 rfl ?_
        refine vv_aload_n dX1_sending_74 rfl 0 rfl ?_
        replace h := gR_o h; obtain ⟨v12, fv12, sv12, ev12, lv12, h⟩ := h
        refine vv_get (fl_X1_31 hG) ev12 lv12 dX1_sending_75 ?_
        replace h := gR_o h; obtain ⟨v13, fv13, sv13, ev13, lv13, h⟩ := h
        refine vv_getM (fl_X1_131 hH) ev13 lv13 dX1_sending_78 ?_
        refine vv_iload dX1_sending_81 4 rfl ?_
        replace h := aI_o h; obtain ⟨v14, fv14, nv14, qv14, ev14, iv14, wv14, h⟩ := h
        refine vv_iald ev14 iv14 dX1_sending_83 ?_
        rw [wv14]
        replace h := aI_o h; obtain ⟨v15, fv15, nv15, qv15, ev15, iv15, wv15, h⟩ := h
        refine vv_iald ev15 iv15 dX1_sending_84 ?_
        rw [wv15]
        refine vv_ldc (v := (nI 100000)) dX1_sending_85 q637 ?_
        refine vv_icmp_lt (tgt := 93) dX1_sending_87 (by decide) (fun c16 => ?_) (fun c16 => ?_)
        · rw [if_pos c16] at h
          refine vv_aload dX1_sending_93 3 rfl ?_
          refine vv_iload dX1_sending_95 4 rfl ?_
          refine vv_iconst (v := (nI 0)) dX1_sending_97 (by decide) ?_
          refine vv_aload_n dX1_sending_98 rfl 0 rfl ?_
          replace h := gR_o h; obtain ⟨v17, fv17, sv17, ev17, lv17, h⟩ := h
          refine vv_get (fl_X1_31 hG) ev17 lv17 dX1_sending_99 ?_
          replace h := gR_o h; obtain ⟨v18, fv18, sv18, ev18, lv18, h⟩ := h
          refine vv_getM (fl_X1_170 hH) ev18 lv18 dX1_sending_102 ?_
          refine vv_iload dX1_sending_105 4 rfl ?_
          replace h := aI_o h; obtain ⟨v19, fv19, nv19, qv19, ev19, iv19, wv19, h⟩ := h
          refine vv_iald ev19 iv19 dX1_sending_107 ?_
          rw [wv19]
          refine vv_aload_n dX1_sending_108 rfl 0 rfl ?_
          replace h := gR_o h; obtain ⟨v20, fv20, sv20, ev20, lv20, h⟩ := h
          refine vv_get (fl_X1_31 hG) ev20 lv20 dX1_sending_109 ?_
          replace h := gR_o h; obtain ⟨v21, fv21, sv21, ev21, lv21, h⟩ := h
          refine vv_getM (fl_X1_176 hH) ev21 lv21 dX1_sending_112 ?_
          refine vv_iload dX1_sending_115 4 rfl ?_
          replace h := aI_o h; obtain ⟨v22, fv22, nv22, qv22, ev22, iv22, wv22, h⟩ := h
          refine vv_iald ev22 iv22 dX1_sending_117 ?_
          rw [wv22]
          refine vv_iconst (v := (nI 1)) dX1_sending_118 (by decide) ?_
          refine vv_icmp_ne (tgt := 126) dX1_sending_119 (by decide) (fun c23 => ?_) (fun c23 => ?_)
          · rw [if_neg c23] at h
            refine vv_aload_n dX1_sending_126 rfl 2 rfl ?_
            refine vv_aload_n dX1_sending_127 rfl 0 rfl ?_
            replace h := gR_o h; obtain ⟨v24, fv24, sv24, ev24, lv24, h⟩ := h
            refine vv_get (fl_X1_31 hG) ev24 lv24 dX1_sending_128 ?_
            replace h := gR_o h; obtain ⟨v25, fv25, sv25, ev25, lv25, h⟩ := h
            refine vv_getM (fl_X1_131 hH) ev25 lv25 dX1_sending_131 ?_
            refine vv_iload dX1_sending_134 4 rfl ?_
            replace h := aI_o h; obtain ⟨v26, fv26, nv26, qv26, ev26, iv26, wv26, h⟩ := h
            refine vv_iald ev26 iv26 dX1_sending_136 ?_
            rw [wv26]
            replace h := aI_o h; obtain ⟨v27, fv27, nv27, qv27, ev27, iv27, wv27, h⟩ := h
            refine vv_iald ev27 iv27 dX1_sending_137 ?_
            rw [wv27]
            exact v_KX1_sending_138 hG hH hk35 h
          · rw [if_pos c23] at h
            refine vv_iconst (v := (nI 0)) dX1_sending_122 (by decide) ?_
            refine vv_goto (tgt := 138) dX1_sending_123 (by decide) ?_
            exact v_KX1_sending_138 hG hH hk35 h
        · rw [if_neg c16] at h
          refine vv_goto (tgt := 143) dX1_sending_90 (by decide) ?_
          exact v_KX1_sending_143 hG hH hk35 h
theorem v_KX1_sending_35 {l : Launch} {G : vv_G} {d : Nat} {ad : Nat → Nat} (hG : vv_gok G) (hH : vv_hy l G ad) : ∀ (n : Nat) {x0 : Nat} {x2 : Int32} {x3 : Nat} {x4 : Nat} {x5 : Int32} {σ : vv_S} {r : hX (Int32 × vv_S)}, KX1_sending_35 n x0 x2 x3 x4 x5 σ = some r → vv_V l G MX1_sending (d + 10) 35 [(0, .ref x0), (2, .int x2), (3, .ref x3), (4, .ref x4), (5, .int x5)] [] σ (xI r) := by
  intro n
  induction n with
  | zero => intro _ _ _ _ _ _ _ h; cases h
  | succ n ih => intro _ _ _ _ _ _ _ h; exact vb_KX1_sending_35 hG hH ih h
def KX1_sending (x0 : Nat) (x1 : Int32) (x2 : Int32) (σ : vv_S) : Option (hX (Int32 × vv_S)) := (isO σ x0 0).bind fun _ => (KX1_aTown x0 x1 σ).bind fun r1 => xb r1 fun r3 => (KX1_in x2 (nI 1) (nI 999)).bind fun r4 => (KX1_right r4 r3).bind fun r5 => xb r5 fun r6 => (gR r6 x0 0 1).bind fun v7 => (isO r6 v7 1).bind fun _ => (KX2_least v7 x1 (nI 1) r6).bind fun r8 => (nwA r8.2 .int (nI 10)).bind fun σ10 => KX1_sending_35 NN x0 x2 r8.1 r8.2.2.1 (nI 0) σ10
theorem v_KX1_sending_0 {l : Launch} {G : vv_G} {d : Nat} {ad : Nat → Nat} (hG : vv_gok G) (hH : vv_hy l G ad) {x0 : Nat} {x1 : Int32} {x2 : Int32} {σ : vv_S} {r : hX (Int32 × vv_S)} (h : KX1_sending x0 x1 x2 σ = some r) : vv_V l G MX1_sending (d + 10) 0 [(0, .ref x0), (1, .int x1), (2, .int x2)] [] σ (xI r) := by
  unfold KX1_sending at h
  refine vv_aload_n dX1_sending_0 rfl 0 rfl ?_
  refine vv_iload_n dX1_sending_1 rfl 1 rfl ?_
  replace h := isO_o h; obtain ⟨fz2, sz2, ez2, h⟩ := h
  replace h := bd_o h; obtain ⟨r1, er1, h⟩ := h
  rcases r1 with r3 | r3x
  · refine vv_callV ok_X1_aTown q1273 (m_KX1_aTown hG hH er1 d) rfl (by omega) ⟨_, _, _, _, _, ez2, by rw [hG.1]; rfl⟩ rfl rfl (Nat.le_of_ble_eq_true rfl) dX1_sending_2 ?_
    replace h := xb_l h
    refine vv_iload_n dX1_sending_5 rfl 2 rfl ?_
    refine vv_iconst (v := (nI 1)) dX1_sending_6 (by decide) ?_
    refine vv_sipush (v := (nI 999)) dX1_sending_7 (by decide) ?_
    replace h := bd_o h; obtain ⟨r4, er4, h⟩ := h
    refine vv_callS ok_X1_in q335 (m_KX1_in hG hH er4 d) rfl (by omega) rfl rfl (Nat.le_of_ble_eq_true rfl) dX1_sending_10 ?_
    replace h := bd_o h; obtain ⟨r5, er5, h⟩ := h
    rcases r5 with r6 | r6x
    · refine vv_callS ok_X1_right q700 (m_KX1_right hG hH er5 d) rfl (by omega) rfl rfl (Nat.le_of_ble_eq_true rfl) dX1_sending_13 ?_
      replace h := xb_l h
      refine vv_aload_n dX1_sending_16 rfl 0 rfl ?_
      replace h := gR_o h; obtain ⟨v7, fv7, sv7, ev7, lv7, h⟩ := h
      refine vv_get (fl_X1_22 hG) ev7 lv7 dX1_sending_17 ?_
      refine vv_iload_n dX1_sending_20 rfl 1 rfl ?_
      refine vv_iconst (v := (nI 1)) dX1_sending_21 (by decide) ?_
      replace h := isO_o h; obtain ⟨fz9, sz9, ez9, h⟩ := h
      replace h := bd_o h; obtain ⟨r8, er8, h⟩ := h
      refine vv_callV ok_X2_least q639 (m_KX2_least hG hH er8 d) rfl (by omega) ⟨_, _, _, _, _, ez9, by rw [hG.1]; rfl⟩ rfl rfl (Nat.le_of_ble_eq_true rfl) dX1_sending_22 ?_
      refine vv_astore_n (lv' := [(0, .ref x0), (1, .int x1), (2, .int x2), (3, .ref r8.1)]) dX1_sending_25 rfl (by decide) [1, 2, 3, 0] rfl ?_
      refine vv_bipush (v := (nI 10)) dX1_sending_26 (by decide) ?_
      replace h := nA_o h; obtain ⟨σ10, aσ10, bσ10, uσ10, h⟩ := h
      refine vv_newa (atype := .int) (ty := .int) (a0 := (((nI 10)).toNatClampNeg, .inl (fun _ => 0))) rfl rfl (by rw [hG.2]; decide) q183 (fun cA => rfl) aσ10 rfl (Nat.le_trans (Nat.mul_le_mul_right _ bσ10) (Nat.le_of_ble_eq_true rfl)) dX1_sending_28 ?_
      rw [← uσ10]
      refine vv_astore (lv' := [(0, .ref x0), (1, .int x1), (2, .int x2), (3, .ref r8.1), (4, .ref r8.2.2.1)]) dX1_sending_30 (by decide) [1, 2, 3, 4, 0] rfl ?_
      refine vv_iconst (v := (nI 0)) dX1_sending_32 (by decide) ?_
      refine vv_istore (lv' := [(0, .ref x0), (1, .int x1), (2, .int x2), (3, .ref r8.1), (4, .ref r8.2.2.1), (5, .int (nI 0))]) dX1_sending_33 (by decide) [1, 2, 3, 4, 5, 0] rfl ?_
      refine vv_sub (lv' := [(0, .ref x0), (2, .int x2), (3, .ref r8.1), (4, .ref r8.2.2.1), (5, .int (nI 0))]) [0, 2, 3, 4, 5] rfl ?_
      exact v_KX1_sending_35 hG hH NN h
    · cases h
      exact vv_callSX ok_X1_right q700 (m_KX1_right hG hH er5 d) rfl (by omega) rfl rfl (Nat.le_of_ble_eq_true rfl) dX1_sending_13 (vv_Tout (by intro x hx; cases hx))
  · cases h
    exact vv_callVX ok_X1_aTown q1273 (m_KX1_aTown hG hH er1 d) rfl (by omega) ⟨_, _, _, _, _, ez2, by rw [hG.1]; rfl⟩ rfl rfl (Nat.le_of_ble_eq_true rfl) dX1_sending_2 (vv_Tout (by intro x hx; cases hx))
theorem m_KX1_sending {l : Launch} {G : vv_G} {ad : Nat → Nat} (hG : vv_gok G) (hH : vv_hy l G ad) {x0 : Nat} {x1 : Int32} {x2 : Int32} {σ : vv_S} {r : hX (Int32 × vv_S)} (h : KX1_sending x0 x1 x2 σ = some r) (d : Nat) : vv_Met l G MX1_sending (d + 10) [.ref x0, .int x1, .int x2] σ (xI r) := vv_head (by decide +kernel) rfl (Nat.le_of_ble_eq_true rfl) rfl (v_KX1_sending_0 hG hH h)
