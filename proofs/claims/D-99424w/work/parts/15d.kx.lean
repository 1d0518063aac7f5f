set_option maxRecDepth 100000
/-! ('X1', 'province') -/
def KX1_province_51 (ad : Nat → Nat) (s0 : Nat) (x0 : Nat) (x2 : Nat) (σ : vv_S) : Option (hX (Int32 × vv_S)) := (gI σ x2 4 6).bind fun v1 => (pF σ x0 0 5 (.int v1)).bind fun σ2 => (gR σ2 x0 0 6).bind fun v3 => (aI σ2 .int v3 (nI 0)).bind fun v4 => (sI σ2 v3 (nI 0) (v4 + (nI 1))).bind fun σ5 => (gI σ5 s0 5 6).bind fun v6 => some (.inl (v6, σ5))
theorem v_KX1_province_51 {l : Launch} {G : vv_G} {d : Nat} {ad : Nat → Nat} (hG : vv_gok G) (hH : vv_hy l G ad) {s0 : Nat} {x0 : Nat} {x2 : Nat} {σ : vv_S} {r : hX (Int32 × vv_S)} (h : KX1_province_51 ad s0 x0 x2 σ = some r) : vv_V l G MX1_province (d + 115) 51 [(0, .ref x0), (2, .ref x2)] [.ref s0] σ (xI r) := by
  unfold KX1_province_51 at h
  refine vv_astore_n (lv' := [(0, .ref x0), (2, .ref x2), (3, .ref s0)]) dX1_province_51 rfl (by decide) [1, 2, 0] rfl ?_
  refine vv_aload_n dX1_province_52 rfl 0 rfl ?_
  refine vv_aload_n dX1_province_53 rfl 1 rfl ?_
  replace h := gI_o h; obtain ⟨v1, fv1, sv1, ev1, lv1, h⟩ := h
  refine vv_getM (fl_X1_80 hH) ev1 lv1 dX1_province_54 ?_
  replace h := pF_o h; obtain ⟨σ2, sσ2, eσ2, lσ2, uσ2, h⟩ := h
  refine vv_putf (pt_X1_39 hG) (Or.inr fun C T' N h9 => by rw [hG.1] at h9; cases h9; rfl) eσ2 rfl rfl lσ2 dX1_province_57 ?_
  refine vv_sg uσ2 ?_
  refine vv_aload_n dX1_province_60 rfl 0 rfl ?_
  replace h := gR_o h; obtain ⟨v3, fv3, sv3, ev3, lv3, h⟩ := h
  refine vv_get (fl_X1_43 hG) ev3 lv3 dX1_province_61 ?_
  refine vv_iconst (v := (nI 0)) dX1_province_64 (by decide) ?_
  refine vv_dup2 dX1_province_65 rfl rfl ?_
  replace h := aI_o h; obtain ⟨v4, fv4, nv4, qv4, ev4, iv4, wv4, h⟩ := h
  refine vv_iald ev4 iv4 dX1_province_66 ?_
  rw [wv4]
  refine vv_iconst (v := (nI 1)) dX1_province_67 (by decide) ?_
  refine vv_iadd dX1_province_68 ?_
  replace h := sI_o h; obtain ⟨σ5, nσ5, qσ5, eσ5, iσ5, uσ5, h⟩ := h
  refine vv_iast eσ5 iσ5 dX1_province_69 ?_
  refine vv_sg uσ5 ?_
  refine vv_aload_n dX1_province_70 rfl 2 rfl ?_
  replace h := gI_o h; obtain ⟨v6, fv6, sv6, ev6, lv6, h⟩ := h
  refine vv_getM (fl_X1_83 hH) ev6 lv6 dX1_province_71 ?_
  cases h
  exact vv_iret rfl dX1_province_74
def KX1_province_17 (ad : Nat → Nat) (s0 : Int32) (x0 : Nat) (x1 : Int32) (σ : vv_S) : Option (hX (Int32 × vv_S)) := (KX1_right s0 σ).bind fun r1 => xb r1 fun r2 => (pF r2 x0 0 4 (.int (nI 0))).bind fun σ3 => (pF σ3 x0 0 5 (.int (-1))).bind fun σ4 => (some (nwO σ4 4 [.int 0, .null, .null, .null, .int 0, .int 0, .int 0, .int 0, .int 0, .null] 10)).bind fun σ5 => (KX5_init ad σ4.2.1 x0 x1 σ5).bind fun r6 => (isO r6 σ4.2.1 4).bind fun _ => (KX5_read ad σ4.2.1 r6).bind fun r7 => xh1 r7 "LuckCrates$Wrong" (fun r9 => (pF r9.2 x0 0 1 (.ref r9.1)).bind fun σ10 => (gR σ10 σ4.2.1 4 2).bind fun v11 => (pF σ10 x0 0 2 (.ref v11)).bind fun σ12 => (some (nwO σ12 11 [.int 0, .null, .int 0] 3)).bind fun σ13 => (KJ2_init ad σ12.2.1 σ13).bind fun r14 => (pF r14 x0 0 7 (.ref σ12.2.1)).bind fun σ15 => (some (nwO σ15 11 [.int 0, .null, .int 0] 3)).bind fun σ16 => (KJ2_init ad σ15.2.1 σ16).bind fun r17 => (pF r17 x0 0 8 (.ref σ15.2.1)).bind fun σ18 => (pF σ18 x0 0 9 (.null)).bind fun σ19 => some (.inl ((nI 0), σ19))) (fun r9x => KX1_province_51 ad r9x.1.2 x0 σ4.2.1 r9x.2)
theorem v_KX1_province_17 {l : Launch} {G : vv_G} {d : Nat} {ad : Nat → Nat} (hG : vv_gok G) (hH : vv_hy l G ad) {s0 : Int32} {x0 : Nat} {x1 : Int32} {σ : vv_S} {r : hX (Int32 × vv_S)} (h : KX1_province_17 ad s0 x0 x1 σ = some r) : vv_V l G MX1_province (d + 115) 17 [(0, .ref x0), (1, .int x1)] [.int s0] σ (xI r) := by
  unfold KX1_province_17 at h
  replace h := bd_o h; obtain ⟨r1, er1, h⟩ := h
  rcases r1 with r2 | r2x
  · refine vv_callS ok_X1_right q700 (m_KX1_right hG hH er1 d) rfl (by omega) rfl rfl (Nat.le_of_ble_eq_true rfl) dX1_province_17 ?_
    replace h := xb_l h
    refine vv_aload_n dX1_province_20 rfl 0 rfl ?_
    refine vv_iconst (v := (nI 0)) dX1_province_21 (by decide) ?_
    replace h := pF_o h; obtain ⟨σ3, sσ3, eσ3, lσ3, uσ3, h⟩ := h
    refine vv_putf (pt_X1_62 hG) (Or.inr fun C T' N h9 => by rw [hG.1] at h9; cases h9; rfl) eσ3 rfl rfl lσ3 dX1_province_22 ?_
    refine vv_sg uσ3 ?_
    refine vv_aload_n dX1_province_25 rfl 0 rfl ?_
    refine vv_iconst (v := (-1)) dX1_province_26 (by decide) ?_
    replace h := pF_o h; obtain ⟨σ4, sσ4, eσ4, lσ4, uσ4, h⟩ := h
    refine vv_putf (pt_X1_39 hG) (Or.inr fun C T' N h9 => by rw [hG.1] at h9; cases h9; rfl) eσ4 rfl rfl lσ4 dX1_province_27 ?_
    refine vv_sg uσ4 ?_
    obtain ⟨σ5, uσ5, h⟩ := bd_s h
    refine vv_new (nw_X1_69 hG) dX1_province_30 ?_
    refine vv_sg uσ5 ?_
    refine vv_dup dX1_province_33 rfl ?_
    refine vv_aload_n dX1_province_34 rfl 0 rfl ?_
    refine vv_iload_n dX1_province_35 rfl 1 rfl ?_
    replace h := bd_o h; obtain ⟨r6, er6, h⟩ := h
    refine vv_callI ok_X5_init q769 (m_KX5_init hG hH er6 d) rfl (by omega) rfl rfl (Nat.le_of_ble_eq_true rfl) dX1_province_36 ?_
    refine vv_astore_n (lv' := [(0, .ref x0), (1, .int x1), (2, .ref σ4.2.1)]) dX1_province_39 rfl (by decide) [1, 2, 0] rfl ?_
    refine vv_aload_n dX1_province_40 rfl 0 rfl ?_
    refine vv_aload_n dX1_province_41 rfl 2 rfl ?_
    replace h := isO_o h; obtain ⟨fz8, sz8, ez8, h⟩ := h
    replace h := bd_o h; obtain ⟨r7, er7, h⟩ := h
    rcases r7 with r9 | r9x
    · refine vv_callV ok_X5_read q818 (m_KX5_read hG hH er7 d) rfl (by omega) ⟨_, _, _, _, _, ez8, by rw [hG.1]; rfl⟩ rfl rfl (Nat.le_of_ble_eq_true rfl) dX1_province_42 ?_
      replace h := xh1_l h
      replace h := pF_o h; obtain ⟨σ10, sσ10, eσ10, lσ10, uσ10, h⟩ := h
      refine vv_putf (pt_X1_22 hG) (Or.inr fun C T' N h9 => by rw [hG.1] at h9; cases h9; rfl) eσ10 rfl rfl lσ10 dX1_province_45 ?_
      refine vv_sg uσ10 ?_
      refine vv_goto (tgt := 75) dX1_province_48 (by decide) ?_
      refine vv_aload_n dX1_province_75 rfl 0 rfl ?_
      refine vv_aload_n dX1_province_76 rfl 2 rfl ?_
      replace h := gR_o h; obtain ⟨v11, fv11, sv11, ev11, lv11, h⟩ := h
      refine vv_getM (fl_X1_86 hH) ev11 lv11 dX1_province_77 ?_
      replace h := pF_o h; obtain ⟨σ12, sσ12, eσ12, lσ12, uσ12, h⟩ := h
      refine vv_putf (pt_X1_31 hG) (Or.inr fun C T' N h9 => by rw [hG.1] at h9; cases h9; rfl) eσ12 rfl rfl lσ12 dX1_province_80 ?_
      refine vv_sg uσ12 ?_
      refine vv_aload_n dX1_province_83 rfl 0 rfl ?_
      obtain ⟨σ13, uσ13, h⟩ := bd_s h
      refine vv_new (nw_X1_46 hG) dX1_province_84 ?_
      refine vv_sg uσ13 ?_
      refine vv_dup dX1_province_87 rfl ?_
      replace h := bd_o h; obtain ⟨r14, er14, h⟩ := h
      refine vv_callI ok_J2_init q272 (m_KJ2_init hG hH er14 d) rfl (by omega) rfl rfl (Nat.le_of_ble_eq_true rfl) dX1_province_88 ?_
      replace h := pF_o h; obtain ⟨σ15, sσ15, eσ15, lσ15, uσ15, h⟩ := h
      refine vv_putf (pt_X1_49 hG) (Or.inr fun C T' N h9 => by rw [hG.1] at h9; cases h9; rfl) eσ15 rfl rfl lσ15 dX1_province_91 ?_
      refine vv_sg uσ15 ?_
      refine vv_aload_n dX1_province_94 rfl 0 rfl ?_
      obtain ⟨σ16, uσ16, h⟩ := bd_s h
      refine vv_new (nw_X1_46 hG) dX1_province_95 ?_
      refine vv_sg uσ16 ?_
      refine vv_dup dX1_province_98 rfl ?_
      replace h := bd_o h; obtain ⟨r17, er17, h⟩ := h
      refine vv_callI ok_J2_init q272 (m_KJ2_init hG hH er17 d) rfl (by omega) rfl rfl (Nat.le_of_ble_eq_true rfl) dX1_province_99 ?_
      replace h := pF_o h; obtain ⟨σ18, sσ18, eσ18, lσ18, uσ18, h⟩ := h
      refine vv_putf (pt_X1_53 hG) (Or.inr fun C T' N h9 => by rw [hG.1] at h9; cases h9; rfl) eσ18 rfl rfl lσ18 dX1_province_102 ?_
      refine vv_sg uσ18 ?_
      refine vv_aload_n dX1_province_105 rfl 0 rfl ?_
      refine vv_null dX1_province_106 ?_
      replace h := pF_o h; obtain ⟨σ19, sσ19, eσ19, lσ19, uσ19, h⟩ := h
      refine vv_putf (pt_X1_89 hG) (Or.inr fun C T' N h9 => by rw [hG.1] at h9; cases h9; rfl) eσ19 rfl rfl lσ19 dX1_province_107 ?_
      refine vv_sg uσ19 ?_
      refine vv_iconst (v := (nI 0)) dX1_province_110 (by decide) ?_
      cases h
      exact vv_iret rfl dX1_province_111
    · obtain ⟨cr9, h⟩ := xh1_r h
      refine vv_callVX ok_X5_read q818 (m_KX5_read hG hH er7 d) rfl (by omega) ⟨_, _, _, _, _, ez8, by rw [hG.1]; rfl⟩ rfl rfl (Nat.le_of_ble_eq_true rfl) dX1_province_42 (vv_Tcatch [] ⟨40, 48, 51, 78⟩ [] rfl (fun z hz => by cases hz) (by decide) (by decide) q699 (fun U hK => by rw [cr9]; exact hH.1.2.1 U hK _ q947 rfl) rfl ?_)
      refine vv_sub (lv' := [(0, .ref x0), (2, .ref σ4.2.1)]) [0, 2] rfl ?_
      exact v_KX1_province_51 hG hH h
  · cases h
    exact vv_callSX ok_X1_right q700 (m_KX1_right hG hH er1 d) rfl (by omega) rfl rfl (Nat.le_of_ble_eq_true rfl) dX1_province_17 (vv_Tout (by decide))
def KX1_province_16 (ad : Nat → Nat) (x0 : Nat) (x1 : Int32) (σ : vv_S) : Option (hX (Int32 × vv_S)) := KX1_province_17 ad (nI 0) x0 x1 σ
theorem v_KX1_province_16 {l : Launch} {G : vv_G} {d : Nat} {ad : Nat → Nat} (hG : vv_gok G) (hH : vv_hy l G ad) {x0 : Nat} {x1 : Int32} {σ : vv_S} {r : hX (Int32 × vv_S)} (h : KX1_province_16 ad x0 x1 σ = some r) : vv_V l G MX1_province (d + 115) 16 [(0, .ref x0), (1, .int x1)] [] σ (xI r) := by
  unfold KX1_province_16 at h
  refine vv_iconst (v := (nI 0)) dX1_province_16 (by decide) ?_
  exact v_KX1_province_17 hG hH h
def KX1_province (ad : Nat → Nat) (x0 : Nat) (x1 : Int32) (σ : vv_S) : Option (hX (Int32 × vv_S)) := if x1 < 0 then (KX1_province_16 ad x0 x1 σ) else ((gI σ x0 0 4).bind fun v2 => if v2 < x1 then (KX1_province_16 ad x0 x1 σ) else (KX1_province_17 ad (nI 1) x0 x1 σ))
theorem v_KX1_province_0 {l : Launch} {G : vv_G} {d : Nat} {ad : Nat → Nat} (hG : vv_gok G) (hH : vv_hy l G ad) {x0 : Nat} {x1 : Int32} {σ : vv_S} {r : hX (Int32 × vv_S)} (h : KX1_province ad x0 x1 σ = some r) : vv_V l G MX1_province (d + 115) 0 [(0, .ref x0), (1, .int x1)] [] σ (xI r) := by
  unfold KX1_province at h
  refine vv_iload_n dX1_province_0 rfl 1 rfl ?_
  refine vv_if_lt (tgt := 16) dX1_province_1 (by decide) (fun c1 => ?_) (fun c1 => ?_)
  · rw [if_pos c1] at h
    exact v_KX1_province_16 hG hH h
  · rw [if_neg c1] at h
    refine vv_iload_n dX1_province_4 rfl 1 rfl ?_
    refine vv_aload_n dX1_province_5 rfl 0 rfl ?_
    replace h := gI_o h; obtain ⟨v2, fv2, sv2, ev2, lv2, h⟩ := h
    refine vv_get (fl_X1_62 hG) ev2 lv2 dX1_province_6 ?_
    refine vv_icmp_gt (tgt := 16) dX1_province_9 (by decide) (fun c3 => ?_) (fun c3 => ?_)
    · rw [if_pos c3] at h
      exact v_KX1_province_16 hG hH h
    · rw [if_neg c3] at h
      refine vv_iconst (v := (nI 1)) dX1_province_12 (by decide) ?_
      refine vv_goto (tgt := 17) dX1_province_13 (by decide) ?_
      exact v_KX1_province_17 hG hH h
theorem m_KX1_province {l : Launch} {G : vv_G} {ad : Nat → Nat} (hG : vv_gok G) (hH : vv_hy l G ad) {x0 : Nat} {x1 : Int32} {σ : vv_S} {r : hX (Int32 × vv_S)} (h : KX1_province ad x0 x1 σ = some r) (d : Nat) : vv_Met l G MX1_province (d + 115) [.ref x0, .int x1] σ (xI r) := vv_headH (by decide +kernel) (by intro h; cases h) (Nat.le_of_ble_eq_true rfl) rfl (v_KX1_province_0 hG hH h)
/-! ('X0', 'province') -/
def KX0_province_12 (ad : Nat → Nat) (s0 : Nat) (σ : vv_S) : Option (Int32 × vv_S) := some ((nI 1), σ)
theorem v_KX0_province_12 {l : Launch} {G : vv_G} {d : Nat} {ad : Nat → Nat} (hG : vv_gok G) (hH : vv_hy l G ad) {s0 : Nat} {σ : vv_S} {r : Int32 × vv_S} (h : KX0_province_12 ad s0 σ = some r) : vv_V l G MX0_province (d + 116) 12 [] [.ref s0] σ (.inl (some (.int r.1)), r.2) := by
  unfold KX0_province_12 at h
  refine vv_astore_n (lv' := [(3, .ref s0)]) dX0_province_12 rfl (by decide) [0] rfl ?_
  refine vv_iconst (v := (nI 1)) dX0_province_13 (by decide) ?_
  cases h
  exact vv_iret rfl dX0_province_14
def KX0_province (ad : Nat → Nat) (x0 : Nat) (x1 : Int32) (x2 : Nat) (σ : vv_S) : Option (Int32 × vv_S) := (isO σ x0 0).bind fun _ => (KX1_province ad x0 x1 σ).bind fun r1 => xh1 r1 "java/lang/IllegalArgumentException" (fun r3 => (sL r3.2 x2 (nI 0) (Int32.toInt64 r3.1)).bind fun σ4 => some ((nI 0), σ4)) (fun r3x => KX0_province_12 ad r3x.1.2 r3x.2)
theorem v_KX0_province_0 {l : Launch} {G : vv_G} {d : Nat} {ad : Nat → Nat} (hG : vv_gok G) (hH : vv_hy l G ad) {x0 : Nat} {x1 : Int32} {x2 : Nat} {σ : vv_S} {r : Int32 × vv_S} (h : KX0_province ad x0 x1 x2 σ = some r) : vv_V l G MX0_province (d + 116) 0 [(0, .ref x0), (1, .int x1), (2, .ref x2)] [] σ (.inl (some (.int r.1)), r.2) := by
  unfold KX0_province at h
  refine vv_aload_n dX0_province_0 rfl 2 rfl ?_
  refine vv_iconst (v := (nI 0)) dX0_province_1 (by decide) ?_
  refine vv_aload_n dX0_province_2 rfl 0 rfl ?_
  refine vv_iload_n dX0_province_3 rfl 1 rfl ?_
  replace h := isO_o h; obtain ⟨fz2, sz2, ez2, h⟩ := h
  replace h := bd_o h; obtain ⟨r1, er1, h⟩ := h
  rcases r1 with r3 | r3x
  · refine vv_callVH ok_X1_province q695 (m_KX1_province hG hH er1 d) rfl (by omega) ⟨_, _, _, _, _, ez2, by rw [hG.1]; rfl⟩ rfl rfl (Nat.le_of_ble_eq_true rfl) dX0_province_4 ?_
    replace h := xh1_l h
    refine vv_i2l dX0_province_7 ?_
    replace h := sL_o h; obtain ⟨σ4, nσ4, qσ4, eσ4, iσ4, uσ4, h⟩ := h
    refine vv_last eσ4 iσ4 dX0_province_8 ?_
    refine vv_sg uσ4 ?_
    refine vv_goto (tgt := 15) dX0_province_9 (by decide) ?_
    refine vv_iconst (v := (nI 0)) dX0_province_15 (by decide) ?_
    cases h
    exact vv_iret rfl dX0_province_16
  · obtain ⟨cr3, h⟩ := xh1_r h
    refine vv_callVHX ok_X1_province q695 (m_KX1_province hG hH er1 d) rfl (by omega) ⟨_, _, _, _, _, ez2, by rw [hG.1]; rfl⟩ rfl rfl (Nat.le_of_ble_eq_true rfl) dX0_province_4 (vv_Tcatch [] ⟨0, 9, 12, 13⟩ [] rfl (fun z hz => by cases hz) (by decide) (by decide) q694 (fun U hK => by rw [cr3]; exact hH.1.2.1 U hK _ q705 rfl) rfl ?_)
    refine vv_sub (lv' := []) [] rfl ?_
    exact v_KX0_province_12 hG hH h
theorem m_KX0_province {l : Launch} {G : vv_G} {ad : Nat → Nat} (hG : vv_gok G) (hH : vv_hy l G ad) {x0 : Nat} {x1 : Int32} {x2 : Nat} {σ : vv_S} {r : Int32 × vv_S} (h : KX0_province ad x0 x1 x2 σ = some r) (d : Nat) : vv_Met l G MX0_province (d + 116) [.ref x0, .int x1, .ref x2] σ (.inl (some (.int r.1)), r.2) := vv_headH (by decide +kernel) (by intro h; cases h) (Nat.le_of_ble_eq_true rfl) rfl (v_KX0_province_0 hG hH h)
/-! ('X0', 'count') -/
def KX0_count_12 (s0 : Nat) (σ : vv_S) : Option (Int32 × vv_S) := some ((nI 1), σ)
theorem v_KX0_count_12 {l : Launch} {G : vv_G} {d : Nat} {ad : Nat → Nat} (hG : vv_gok G) (hH : vv_hy l G ad) {s0 : Nat} {σ : vv_S} {r : Int32 × vv_S} (h : KX0_count_12 s0 σ = some r) : vv_V l G MX0_count (d + 10) 12 [] [.ref s0] σ (.inl (some (.int r.1)), r.2) := by
  unfold KX0_count_12 at h
  refine vv_astore_n (lv' := [(3, .ref s0)]) dX0_count_12 rfl (by decide) [0] rfl ?_
  refine vv_iconst (v := (nI 1)) dX0_count_13 (by decide) ?_
  cases h
  exact vv_iret rfl dX0_count_14
def KX0_count (x0 : Nat) (x1 : Int32) (x2 : Nat) (σ : vv_S) : Option (Int32 × vv_S) := (isO σ x0 0).bind fun _ => (KX1_count x0 x1 σ).bind fun r1 => xh1 r1 "java/util/NoSuchElementException" (fun r3 => (sL r3.2 x2 (nI 0) (Int32.toInt64 r3.1)).bind fun σ4 => some ((nI 0), σ4)) (fun r3x => KX0_count_12 r3x.1.2 r3x.2)
theorem v_KX0_count_0 {l : Launch} {G : vv_G} {d : Nat} {ad : Nat → Nat} (hG : vv_gok G) (hH : vv_hy l G ad) {x0 : Nat} {x1 : Int32} {x2 : Nat} {σ : vv_S} {r : Int32 × vv_S} (h : KX0_count x0 x1 x2 σ = some r) : vv_V l G MX0_count (d + 10) 0 [(0, .ref x0), (1, .int x1), (2, .ref x2)] [] σ (.inl (some (.int r.1)), r.2) := by
  unfold KX0_count at h
  refine vv_aload_n dX0_count_0 rfl 2 rfl ?_
  refine vv_iconst (v := (nI 0)) dX0_count_1 (by decide) ?_
  refine vv_aload_n dX0_count_2 rfl 0 rfl ?_
  refine vv_iload_n dX0_count_3 rfl 1 rfl ?_
  replace h := isO_o h; obtain ⟨fz2, sz2, ez2, h⟩ := h
  replace h := bd_o h; obtain ⟨r1, er1, h⟩ := h
  rcases r1 with r3 | r3x
  · refine vv_callV ok_X1_count q1243 (m_KX1_count hG hH er1 d) rfl (by omega) ⟨_, _, _, _, _, ez2, by rw [hG.1]; rfl⟩ rfl rfl (Nat.le_of_ble_eq_true rfl) dX0_count_4 ?_
    replace h := xh1_l h
    refine vv_i2l dX0_count_7 ?_
    replace h := sL_o h; obtain ⟨σ4, nσ4, qσ4, eσ4, iσ4, uσ4, h⟩ := h
    refine vv_last eσ4 iσ4 dX0_count_8 ?_
    refine vv_sg uσ4 ?_
    refine vv_goto (tgt := 15) dX0_count_9 (by decide) ?_
    refine vv_iconst (v := (nI 0)) dX0_count_15 (by decide) ?_
    cases h
    exact vv_iret rfl dX0_count_16
  · obtain ⟨cr3, h⟩ := xh1_r h
    refine vv_callVX ok_X1_count q1243 (m_KX1_count hG hH er1 d) rfl (by omega) ⟨_, _, _, _, _, ez2, by rw [hG.1]; rfl⟩ rfl rfl (Nat.le_of_ble_eq_true rfl) dX0_count_4 (vv_Tcatch [] ⟨0, 9, 12, 18⟩ [] rfl (fun z hz => by cases hz) (by decide) (by decide) q1242 (fun U hK => by rw [cr3]; exact hH.1.2.1 U hK _ q1253 rfl) rfl ?_)
    refine vv_sub (lv' := []) [] rfl ?_
    exact v_KX0_count_12 hG hH h
theorem m_KX0_count {l : Launch} {G : vv_G} {ad : Nat → Nat} (hG : vv_gok G) (hH : vv_hy l G ad) {x0 : Nat} {x1 : Int32} {x2 : Nat} {σ : vv_S} {r : Int32 × vv_S} (h : KX0_count x0 x1 x2 σ = some r) (d : Nat) : vv_Met l G MX0_count (d + 10) [.ref x0, .int x1, .ref x2] σ (.inl (some (.int r.1)), r.2) := vv_headH (by decide +kernel) (by intro h; cases h) (Nat.le_of_ble_eq_true rfl) rfl (v_KX0_count_0 hG hH h)
/-! ('X0', 'town') -/
def KX0_town_13 (fo : Nat → Nat → vv_S → Option Int32) (s0 : Nat) (σ : vv_S) : Option (Int32 × vv_S) := some ((nI 1), σ)
theorem v_KX0_town_13 {l : Launch} {G : vv_G} {d : Nat} {ad : Nat → Nat} {fo : Nat → Nat → vv_S → Option Int32} (hG : vv_gok G) (hH : vv_hy l G ad) (hfo : ∀ {a vs : Nat} {σ : vv_S} {r : Int32}, fo a vs σ = some r → vv_Form l G d a vs σ r) {s0 : Nat} {σ : vv_S} {r : Int32 × vv_S} (h : KX0_town_13 fo s0 σ = some r) : vv_V l G MX0_town (d + 11) 13 [] [.ref s0] σ (.inl (some (.int r.1)), r.2) := by
  unfold KX0_town_13 at h
  refine vv_astore (lv' := [(4, .ref s0)]) dX0_town_13 (by decide) [0] rfl ?_
  refine vv_iconst (v := (nI 1)) dX0_town_15 (by decide) ?_
  cases h
  exact vv_iret rfl dX0_town_16
def KX0_town (fo : Nat → Nat → vv_S → Option Int32) (x0 : Nat) (x1 : Int32) (x2 : Int32) (x3 : Nat) (σ : vv_S) : Option (Int32 × vv_S) := (isO σ x0 0).bind fun _ => (KX1_town fo x0 x1 x2 σ).bind fun r1 => xh1 r1 "java/util/NoSuchElementException" (fun r3 => (sL r3.2 x3 (nI 0) (Int32.toInt64 r3.1)).bind fun σ4 => some ((nI 0), σ4)) (fun r3x => KX0_town_13 fo r3x.1.2 r3x.2)
theorem v_KX0_town_0 {l : Launch} {G : vv_G} {d : Nat} {ad : Nat → Nat} {fo : Nat → Nat → vv_S → Option Int32} (hG : vv_gok G) (hH : vv_hy l G ad) (hfo : ∀ {a vs : Nat} {σ : vv_S} {r : Int32}, fo a vs σ = some r → vv_Form l G d a vs σ r) {x0 : Nat} {x1 : Int32} {x2 : Int32} {x3 : Nat} {σ : vv_S} {r : Int32 × vv_S} (h : KX0_town fo x0 x1 x2 x3 σ = some r) : vv_V l G MX0_town (d + 11) 0 [(0, .ref x0), (1, .int x1), (2, .int x2), (3, .ref x3)] [] σ (.inl (some (.int r.1)), r.2) := by
  unfold KX0_town at h
  refine vv_aload_n dX0_town_0 rfl 3 rfl ?_
  refine vv_iconst (v := (nI 0)) dX0_town_1 (by decide) ?_
  refine vv_aload_n dX0_town_2 rfl 0 rfl ?_
  refine vv_iload_n dX0_town_3 rfl 1 rfl ?_
  refine vv_iload_n dX0_town_4 rfl 2 rfl ?_
  replace h := isO_o h; obtain ⟨fz2, sz2, ez2, h⟩ := h
  replace h := bd_o h; obtain ⟨r1, er1, h⟩ := h
  rcases r1 with r3 | r3x
  · refine vv_callV ok_X1_town q1269 (m_KX1_town hG hH hfo er1 d) rfl (by omega) ⟨_, _, _, _, _, ez2, by rw [hG.1]; rfl⟩ rfl rfl (Nat.le_of_ble_eq_true rfl) dX0_town_5 ?_
    replace h := xh1_l h
    refine vv_i2l dX0_town_8 ?_
    replace h := sL_o h; obtain ⟨σ4, nσ4, qσ4, eσ4, iσ4, uσ4, h⟩ := h
    refine vv_last eσ4 iσ4 dX0_town_9 ?_
    refine vv_sg uσ4 ?_
    refine vv_goto (tgt := 17) dX0_town_10 (by decide) ?_
    refine vv_iconst (v := (nI 0)) dX0_town_17 (by decide) ?_
    cases h
    exact vv_iret rfl dX0_town_18
  · obtain ⟨cr3, h⟩ := xh1_r h
    refine vv_callVX ok_X1_town q1269 (m_KX1_town hG hH hfo er1 d) rfl (by omega) ⟨_, _, _, _, _, ez2, by rw [hG.1]; rfl⟩ rfl rfl (Nat.le_of_ble_eq_true rfl) dX0_town_5 (vv_Tcatch [] ⟨0, 10, 13, 18⟩ [] rfl (fun z hz => by cases hz) (by decide) (by decide) q1242 (fun U hK => by rw [cr3]; exact hH.1.2.1 U hK _ q1253 rfl) rfl ?_)
    refine vv_sub (lv' := []) [] rfl ?_
    exact v_KX0_town_13 hG hH hfo h
theorem m_KX0_town {l : Launch} {G : vv_G} {d : Nat} {ad : Nat → Nat} {fo : Nat → Nat → vv_S → Option Int32} (hG : vv_gok G) (hH : vv_hy l G ad) (hfo : ∀ {a vs : Nat} {σ : vv_S} {r : Int32}, fo a vs σ = some r → vv_Form l G d a vs σ r) {x0 : Nat} {x1 : Int32} {x2 : Int32} {x3 : Nat} {σ : vv_S} {r : Int32 × vv_S} (h : KX0_town fo x0 x1 x2 x3 σ = some r) (d9 : Nat) (e9 : d9 = d := by rfl) : vv_Met l G MX0_town (d9 + 11) [.ref x0, .int x1, .int x2, .ref x3] σ (.inl (some (.int r.1)), r.2) := by
  subst e9
  exact vv_headH (by decide +kernel) (by intro h; cases h) (Nat.le_of_ble_eq_true rfl) rfl (v_KX0_town_0 hG hH hfo h)
/-! ('X0', 'crate') -/
def KX0_crate_13 (s0 : Nat) (σ : vv_S) : Option (Int32 × vv_S) := some ((nI 1), σ)
theorem v_KX0_crate_13 {l : Launch} {G : vv_G} {d : Nat} {ad : Nat → Nat} (hG : vv_gok G) (hH : vv_hy l G ad) {s0 : Nat} {σ : vv_S} {r : Int32 × vv_S} (h : KX0_crate_13 s0 σ = some r) : vv_V l G MX0_crate (d + 11) 13 [] [.ref s0] σ (.inl (some (.int r.1)), r.2) := by
  unfold KX0_crate_13 at h
  refine vv_astore (lv' := [(4, .ref s0)]) dX0_crate_13 (by decide) [0] rfl ?_
  refine vv_iconst (v := (nI 1)) dX0_crate_15 (by decide) ?_
  cases h
  exact vv_iret rfl dX0_crate_16
def KX0_crate (x0 : Nat) (x1 : Int32) (x2 : Int32) (x3 : Nat) (σ : vv_S) : Option (Int32 × vv_S) := (isO σ x0 0).bind fun _ => (KX1_crate x0 x1 x2 σ).bind fun r1 => xh1 r1 "java/util/NoSuchElementException" (fun r3 => (sL r3.2 x3 (nI 0) (Int32.toInt64 r3.1)).bind fun σ4 => some ((nI 0), σ4)) (fun r3x => KX0_crate_13 r3x.1.2 r3x.2)
theorem v_KX0_crate_0 {l : Launch} {G : vv_G} {d : Nat} {ad : Nat → Nat} (hG : vv_gok G) (hH : vv_hy l G ad) {x0 : Nat} {x1 : Int32} {x2 : Int32} {x3 : Nat} {σ : vv_S} {r : Int32 × vv_S} (h : KX0_crate x0 x1 x2 x3 σ = some r) : vv_V l G MX0_crate (d + 11) 0 [(0, .ref x0), (1, .int x1), (2, .int x2), (3, .ref x3)] [] σ (.inl (some (.int r.1)), r.2) := by
  unfold KX0_crate at h
  refine vv_aload_n dX0_crate_0 rfl 3 rfl ?_
  refine vv_iconst (v := (nI 0)) dX0_crate_1 (by decide) ?_
  refine vv_aload_n dX0_crate_2 rfl 0 rfl ?_
  refine vv_iload_n dX0_crate_3 rfl 1 rfl ?_
  refine vv_iload_n dX0_crate_4 rfl 2 rfl ?_
  replace h := isO_o h; obtain ⟨fz2, sz2, ez2, h⟩ := h
  replace h := bd_o h; obtain ⟨r1, er1, h⟩ := h
  rcases r1 with r3 | r3x
  · refine vv_callV ok_X1_crate q1285 (m_KX1_crate hG hH er1 d) rfl (by omega) ⟨_, _, _, _, _, ez2, by rw [hG.1]; rfl⟩ rfl rfl (Nat.le_of_ble_eq_true rfl) dX0_crate_5 ?_
    replace h := xh1_l h
    refine vv_i2l dX0_crate_8 ?_
    replace h := sL_o h; obtain ⟨σ4, nσ4, qσ4, eσ4, iσ4, uσ4, h⟩ := h
    refine vv_last eσ4 iσ4 dX0_crate_9 ?_
    refine vv_sg uσ4 ?_
    refine vv_goto (tgt := 17) dX0_crate_10 (by decide) ?_
    refine vv_iconst (v := (nI 0)) dX0_crate_17 (by decide) ?_
    cases h
    exact vv_iret rfl dX0_crate_18
  · obtain ⟨cr3, h⟩ := xh1_r h
    refine vv_callVX ok_X1_crate q1285 (m_KX1_crate hG hH er1 d) rfl (by omega) ⟨_, _, _, _, _, ez2, by rw [hG.1]; rfl⟩ rfl rfl (Nat.le_of_ble_eq_true rfl) dX0_crate_5 (vv_Tcatch [] ⟨0, 10, 13, 18⟩ [] rfl (fun z hz => by cases hz) (by decide) (by decide) q1242 (fun U hK => by rw [cr3]; exact hH.1.2.1 U hK _ q1253 rfl) rfl ?_)
    refine vv_sub (lv' := []) [] rfl ?_
    exact v_KX0_crate_13 hG hH h
theorem m_KX0_crate {l : Launch} {G : vv_G} {ad : Nat → Nat} (hG : vv_gok G) (hH : vv_hy l G ad) {x0 : Nat} {x1 : Int32} {x2 : Int32} {x3 : Nat} {σ : vv_S} {r : Int32 × vv_S} (h : KX0_crate x0 x1 x2 x3 σ = some r) (d : Nat) : vv_Met l G MX0_crate (d + 11) [.ref x0, .int x1, .int x2, .ref x3] σ (.inl (some (.int r.1)), r.2) := vv_headH (by decide +kernel) (by intro h; cases h) (Nat.le_of_ble_eq_true rfl) rfl (v_KX0_crate_0 hG hH h)
/-! ('X0', 'send') -/
def KX0_send_13 (ad : Nat → Nat) (s0 : Nat) (σ : vv_S) : Option (Int32 × vv_S) := some ((nI 1), σ)
theorem v_KX0_send_13 {l : Launch} {G : vv_G} {d : Nat} {ad : Nat → Nat} (hG : vv_gok G) (hH : vv_hy l G ad) {s0 : Nat} {σ : vv_S} {r : Int32 × vv_S} (h : KX0_send_13 ad s0 σ = some r) : vv_V l G MX0_send (d + 11) 13 [] [.ref s0] σ (.inl (some (.int r.1)), r.2) := by
  unfold KX0_send_13 at h
  refine vv_astore (lv' := [(4, .ref s0)]) dX0_send_13 (by decide) [0] rfl ?_
  refine vv_iconst (v := (nI 1)) dX0_send_15 (by decide) ?_
  cases h
  exact vv_iret rfl dX0_send_16
def KX0_send (ad : Nat → Nat) (x0 : Nat) (x1 : Int32) (x2 : Int32) (x3 : Nat) (σ : vv_S) : Option (Int32 × vv_S) := (isO σ x0 0).bind fun _ => (KX1_send ad x0 x1 x2 σ).bind fun r1 => xh1 r1 "java/util/NoSuchElementException" (fun r3 => (sL r3.2 x3 (nI 0) (Int32.toInt64 r3.1)).bind fun σ4 => some ((nI 0), σ4)) (fun r3x => KX0_send_13 ad r3x.1.2 r3x.2)
theorem v_KX0_send_0 {l : Launch} {G : vv_G} {d : Nat} {ad : Nat → Nat} (hG : vv_gok G) (hH : vv_hy l G ad) {x0 : Nat} {x1 : Int32} {x2 : Int32} {x3 : Nat} {σ : vv_S} {r : Int32 × vv_S} (h : KX0_send ad x0 x1 x2 x3 σ = some r) : vv_V l G MX0_send (d + 11) 0 [(0, .ref x0), (1, .int x1), (2, .int x2), (3, .ref x3)] [] σ (.inl (some (.int r.1)), r.2) := by
  unfold KX0_send at h
  refine vv_aload_n dX0_send_0 rfl 3 rfl ?_
  refine vv_iconst (v := (nI 0)) dX0_send_1 (by decide) ?_
  refine vv_aload_n dX0_send_2 rfl 0 rfl ?_
  refine vv_iload_n dX0_send_3 rfl 1 rfl ?_
  refine vv_iload_n dX0_send_4 rfl 2 rfl ?_
  replace h := isO_o h; obtain ⟨fz2, sz2, ez2, h⟩ := h
  replace h := bd_o h; obtain ⟨r1, er1, h⟩ := h
  rcases r1 with r3 | r3x
  · refine vv_callV ok_X1_send q1299 (m_KX1_send hG hH er1 d) rfl (by omega) ⟨_, _, _, _, _, ez2, by rw [hG.1]; rfl⟩ rfl rfl (Nat.le_of_ble_eq_true rfl) dX0_send_5 ?_
    replace h := xh1_l h
    refine vv_i2l dX0_send_8 ?_
    replace h := sL_o h; obtain ⟨σ4, nσ4, qσ4, eσ4, iσ4, uσ4, h⟩ := h
    refine vv_last eσ4 iσ4 dX0_send_9 ?_
    refine vv_sg uσ4 ?_
    refine vv_goto (tgt := 17) dX0_send_10 (by decide) ?_
    refine vv_iconst (v := (nI 0)) dX0_send_17 (by decide) ?_
    cases h
    exact vv_iret rfl dX0_send_18
  · obtain ⟨cr3, h⟩ := xh1_r h
    refine vv_callVX ok_X1_send q1299 (m_KX1_send hG hH er1 d) rfl (by omega) ⟨_, _, _, _, _, ez2, by rw [hG.1]; rfl⟩ rfl rfl (Nat.le_of_ble_eq_true rfl) dX0_send_5 (vv_Tcatch [] ⟨0, 10, 13, 18⟩ [] rfl (fun z hz => by cases hz) (by decide) (by decide) q1242 (fun U hK => by rw [cr3]; exact hH.1.2.1 U hK _ q1253 rfl) rfl ?_)
    refine vv_sub (lv' := []) [] rfl ?_
    exact v_KX0_send_13 hG hH h
theorem m_KX0_send {l : Launch} {G : vv_G} {ad : Nat → Nat} (hG : vv_gok G) (hH : vv_hy l G ad) {x0 : Nat} {x1 : Int32} {x2 : Int32} {x3 : Nat} {σ : vv_S} {r : Int32 × vv_S} (h : KX0_send ad x0 x1 x2 x3 σ = some r) (d : Nat) : vv_Met l G MX0_send (d + 11) [.ref x0, .int x1, .int x2, .ref x3] σ (.inl (some (.int r.1)), r.2) := vv_headH (by decide +kernel) (by intro h; cases h) (Nat.le_of_ble_eq_true rfl) rfl (v_KX0_send_0 hG hH h)
/-! ('X0', 'open') -/
def KX0_open_12 (ad : Nat → Nat) (s0 : Nat) (σ : vv_S) : Option (Int32 × vv_S) := some ((nI 1), σ)
theorem v_KX0_open_12 {l : Launch} {G : vv_G} {d : Nat} {ad : Nat → Nat} (hG : vv_gok G) (hH : vv_hy l G ad) {s0 : Nat} {σ : vv_S} {r : Int32 × vv_S} (h : KX0_open_12 ad s0 σ = some r) : vv_V l G MX0_open (d + 11) 12 [] [.ref s0] σ (.inl (some (.int r.1)), r.2) := by
  unfold KX0_open_12 at h
  refine vv_astore_n (lv' := [(3, .ref s0)]) dX0_open_12 rfl (by decide) [0] rfl ?_
  refine vv_iconst (v := (nI 1)) dX0_open_13 (by decide) ?_
  cases h
  exact vv_iret rfl dX0_open_14
def KX0_open (ad : Nat → Nat) (x0 : Nat) (x1 : Int32) (x2 : Nat) (σ : vv_S) : Option (Int32 × vv_S) := (isO σ x0 0).bind fun _ => (KX1_open ad x0 x1 σ).bind fun r1 => xh1 r1 "java/util/NoSuchElementException" (fun r3 => (sL r3.2 x2 (nI 0) (Int32.toInt64 r3.1)).bind fun σ4 => some ((nI 0), σ4)) (fun r3x => KX0_open_12 ad r3x.1.2 r3x.2)
theorem v_KX0_open_0 {l : Launch} {G : vv_G} {d : Nat} {ad : Nat → Nat} (hG : vv_gok G) (hH : vv_hy l G ad) {x0 : Nat} {x1 : Int32} {x2 : Nat} {σ : vv_S} {r : Int32 × vv_S} (h : KX0_open ad x0 x1 x2 σ = some r) : vv_V l G MX0_open (d + 11) 0 [(0, .ref x0), (1, .int x1), (2, .ref x2)] [] σ (.inl (some (.int r.1)), r.2) := by
  unfold KX0_open at h
  refine vv_aload_n dX0_open_0 rfl 2 rfl ?_
  refine vv_iconst (v := (nI 0)) dX0_open_1 (by decide) ?_
  refine vv_aload_n dX0_open_2 rfl 0 rfl ?_
  refine vv_iload_n dX0_open_3 rfl 1 rfl ?_
  replace h := isO_o h; obtain ⟨fz2, sz2, ez2, h⟩ := h
  replace h := bd_o h; obtain ⟨r1, er1, h⟩ := h
  rcases r1 with r3 | r3x
  · refine vv_callV ok_X1_open q1308 (m_KX1_open hG hH er1 d) rfl (by omega) ⟨_, _, _, _, _, ez2, by rw [hG.1]; rfl⟩ rfl rfl (Nat.le_of_ble_eq_true rfl) dX0_open_4 ?_
    replace h := xh1_l h
    refine vv_i2l dX0_open_7 ?_
    replace h := sL_o h; obtain ⟨σ4, nσ4, qσ4, eσ4, iσ4, uσ4, h⟩ := h
    refine vv_last eσ4 iσ4 dX0_open_8 ?_
    refine vv_sg uσ4 ?_
    refine vv_goto (tgt := 15) dX0_open_9 (by decide) ?_
    refine vv_iconst (v := (nI 0)) dX0_open_15 (by decide) ?_
    cases h
    exact vv_iret rfl dX0_open_16
  · obtain ⟨cr3, h⟩ := xh1_r h
    refine vv_callVX ok_X1_open q1308 (m_KX1_open hG hH er1 d) rfl (by omega) ⟨_, _, _, _, _, ez2, by rw [hG.1]; rfl⟩ rfl rfl (Nat.le_of_ble_eq_true rfl) dX0_open_4 (vv_Tcatch [] ⟨0, 9, 12, 18⟩ [] rfl (fun z hz => by cases hz) (by decide) (by decide) q1242 (fun U hK => by rw [cr3]; exact hH.1.2.1 U hK _ q1253 rfl) rfl ?_)
    refine vv_sub (lv' := []) [] rfl ?_
    exact v_KX0_open_12 hG hH h
theorem m_KX0_open {l : Launch} {G : vv_G} {ad : Nat → Nat} (hG : vv_gok G) (hH : vv_hy l G ad) {x0 : Nat} {x1 : Int32} {x2 : Nat} {σ : vv_S} {r : Int32 × vv_S} (h : KX0_open ad x0 x1 x2 σ = some r) (d : Nat) : vv_Met l G MX0_open (d + 11) [.ref x0, .int x1, .ref x2] σ (.inl (some (.int r.1)), r.2) := vv_headH (by decide +kernel) (by intro h; cases h) (Nat.le_of_ble_eq_true rfl) rfl (v_KX0_open_0 hG hH h)
/-! ('X0', 'cat') -/
def KX0_cat_20 (ad : Nat → Nat) (s0 : Nat) (σ : vv_S) : Option (Int32 × vv_S) := some ((nI 1), σ)
theorem v_KX0_cat_20 {l : Launch} {G : vv_G} {d : Nat} {ad : Nat → Nat} (hG : vv_gok G) (hH : vv_hy l G ad) {s0 : Nat} {σ : vv_S} {r : Int32 × vv_S} (h : KX0_cat_20 ad s0 σ = some r) : vv_V l G MX0_cat (d + 11) 20 [] [.ref s0] σ (.inl (some (.int r.1)), r.2) := by
  unfold KX0_cat_20 at h
  refine vv_astore (lv' := [(4, .ref s0)]) dX0_cat_20 (by decide) [0] rfl ?_
  refine vv_iconst (v := (nI 1)) dX0_cat_22 (by decide) ?_
  cases h
  exact vv_iret rfl dX0_cat_23
def KX0_cat_16 (ad : Nat → Nat) (s0 : Nat) (s1 : Int32) (s2 : Int64) (σ : vv_S) : Option (Int32 × vv_S) := (sL σ s0 s1 s2).bind fun σ1 => some ((nI 0), σ1)
theorem v_KX0_cat_16 {l : Launch} {G : vv_G} {d : Nat} {ad : Nat → Nat} (hG : vv_gok G) (hH : vv_hy l G ad) {s0 : Nat} {s1 : Int32} {s2 : Int64} {σ : vv_S} {r : Int32 × vv_S} (h : KX0_cat_16 ad s0 s1 s2 σ = some r) : vv_V l G MX0_cat (d + 11) 16 [] [.long s2, .int s1, .ref s0] σ (.inl (some (.int r.1)), r.2) := by
  unfold KX0_cat_16 at h
  replace h := sL_o h; obtain ⟨σ1, nσ1, qσ1, eσ1, iσ1, uσ1, h⟩ := h
  refine vv_last eσ1 iσ1 dX0_cat_16 ?_
  refine vv_sg uσ1 ?_
  refine vv_goto (tgt := 24) dX0_cat_17 (by decide) ?_
  refine vv_iconst (v := (nI 0)) dX0_cat_24 (by decide) ?_
  cases h
  exact vv_iret rfl dX0_cat_25
def KX0_cat (ad : Nat → Nat) (x0 : Nat) (x1 : Int32) (x2 : Int32) (x3 : Nat) (σ : vv_S) : Option (Int32 × vv_S) := (isO σ x0 0).bind fun _ => (KX1_cat ad x0 x1 x2 σ).bind fun r1 => xh1 r1 "java/util/NoSuchElementException" (fun r3 => if r3.1 = 0 then (KX0_cat_16 ad x3 (nI 0) (0 : Int64) r3.2) else (KX0_cat_16 ad x3 (nI 0) (1 : Int64) r3.2)) (fun r3x => KX0_cat_20 ad r3x.1.2 r3x.2)
theorem v_KX0_cat_0 {l : Launch} {G : vv_G} {d : Nat} {ad : Nat → Nat} (hG : vv_gok G) (hH : vv_hy l G ad) {x0 : Nat} {x1 : Int32} {x2 : Int32} {x3 : Nat} {σ : vv_S} {r : Int32 × vv_S} (h : KX0_cat ad x0 x1 x2 x3 σ = some r) : vv_V l G MX0_cat (d + 11) 0 [(0, .ref x0), (1, .int x1), (2, .int x2), (3, .ref x3)] [] σ (.inl (some (.int r.1)), r.2) := by
  unfold KX0_cat at h
  refine vv_aload_n dX0_cat_0 rfl 3 rfl ?_
  refine vv_iconst (v := (nI 0)) dX0_cat_1 (by decide) ?_
  refine vv_aload_n dX0_cat_2 rfl 0 rfl ?_
  refine vv_iload_n dX0_cat_3 rfl 1 rfl ?_
  refine vv_iload_n dX0_cat_4 rfl 2 rfl ?_
  replace h := isO_o h; obtain ⟨fz2, sz2, ez2, h⟩ := h
  replace h := bd_o h; obtain ⟨r1, er1, h⟩ := h
  rcases r1 with r3 | r3x
  · refine vv_callV ok_X1_cat q1315 (m_KX1_cat hG hH er1 d) rfl (by omega) ⟨_, _, _, _, _, ez2, by rw [hG.1]; rfl⟩ rfl rfl (Nat.le_of_ble_eq_true rfl) dX0_cat_5 ?_
    replace h := xh1_l h
    refine vv_if_eq (tgt := 15) dX0_cat_8 (by decide) (fun c4 => ?_) (fun c4 => ?_)
    · rw [if_pos c4] at h
      refine vv_lconst (v := 0) dX0_cat_15 (by decide) ?_
      refine vv_sub (lv' := []) [] rfl ?_
      exact v_KX0_cat_16 hG hH h
    · rw [if_neg c4] at h
      refine vv_lconst (v := 1) dX0_cat_11 (by decide) ?_
      refine vv_goto (tgt := 16) dX0_cat_12 (by decide) ?_
      refine vv_sub (lv' := []) [] rfl ?_
      exact v_KX0_cat_16 hG hH h
  · obtain ⟨cr3, h⟩ := xh1_r h
    refine vv_callVX ok_X1_cat q1315 (m_KX1_cat hG hH er1 d) rfl (by omega) ⟨_, _, _, _, _, ez2, by rw [hG.1]; rfl⟩ rfl rfl (Nat.le_of_ble_eq_true rfl) dX0_cat_5 (vv_Tcatch [] ⟨0, 17, 20, 18⟩ [] rfl (fun z hz => by cases hz) (by decide) (by decide) q1242 (fun U hK => by rw [cr3]; exact hH.1.2.1 U hK _ q1253 rfl) rfl ?_)
    refine vv_sub (lv' := []) [] rfl ?_
    exact v_KX0_cat_20 hG hH h
theorem m_KX0_cat {l : Launch} {G : vv_G} {ad : Nat → Nat} (hG : vv_gok G) (hH : vv_hy l G ad) {x0 : Nat} {x1 : Int32} {x2 : Int32} {x3 : Nat} {σ : vv_S} {r : Int32 × vv_S} (h : KX0_cat ad x0 x1 x2 x3 σ = some r) (d : Nat) : vv_Met l G MX0_cat (d + 11) [.ref x0, .int x1, .int x2, .ref x3] σ (.inl (some (.int r.1)), r.2) := vv_headH (by decide +kernel) (by intro h; cases h) (Nat.le_of_ble_eq_true rfl) rfl (v_KX0_cat_0 hG hH h)
/-! ('X0', 'mix') -/
def KX0_mix_13 (ad : Nat → Nat) (s0 : Nat) (σ : vv_S) : Option (Int32 × vv_S) := some ((nI 1), σ)
theorem v_KX0_mix_13 {l : Launch} {G : vv_G} {d : Nat} {ad : Nat → Nat} (hG : vv_gok G) (hH : vv_hy l G ad) {s0 : Nat} {σ : vv_S} {r : Int32 × vv_S} (h : KX0_mix_13 ad s0 σ = some r) : vv_V l G MX0_mix (d + 11) 13 [] [.ref s0] σ (.inl (some (.int r.1)), r.2) := by
  unfold KX0_mix_13 at h
  refine vv_astore (lv' := [(4, .ref s0)]) dX0_mix_13 (by decide) [0] rfl ?_
  refine vv_iconst (v := (nI 1)) dX0_mix_15 (by decide) ?_
  cases h
  exact vv_iret rfl dX0_mix_16
def KX0_mix (ad : Nat → Nat) (x0 : Nat) (x1 : Int32) (x2 : Int32) (x3 : Nat) (σ : vv_S) : Option (Int32 × vv_S) := (isO σ x0 0).bind fun _ => (KX1_mix ad x0 x1 x2 σ).bind fun r1 => xh1 r1 "java/util/NoSuchElementException" (fun r3 => (sL r3.2 x3 (nI 0) (Int32.toInt64 r3.1)).bind fun σ4 => some ((nI 0), σ4)) (fun r3x => KX0_mix_13 ad r3x.1.2 r3x.2)
theorem v_KX0_mix_0 {l : Launch} {G : vv_G} {d : Nat} {ad : Nat → Nat} (hG : vv_gok G) (hH : vv_hy l G ad) {x0 : Nat} {x1 : Int32} {x2 : Int32} {x3 : Nat} {σ : vv_S} {r : Int32 × vv_S} (h : KX0_mix ad x0 x1 x2 x3 σ = some r) : vv_V l G MX0_mix (d + 11) 0 [(0, .ref x0), (1, .int x1), (2, .int x2), (3, .ref x3)] [] σ (.inl (some (.int r.1)), r.2) := by
  unfold KX0_mix at h
  refine vv_aload_n dX0_mix_0 rfl 3 rfl ?_
  refine vv_iconst (v := (nI 0)) dX0_mix_1 (by decide) ?_
  refine vv_aload_n dX0_mix_2 rfl 0 rfl ?_
  refine vv_iload_n dX0_mix_3 rfl 1 rfl ?_
  refine vv_iload_n dX0_mix_4 rfl 2 rfl ?_
  replace h := isO_o h; obtain ⟨fz2, sz2, ez2, h⟩ := h
  replace h := bd_o h; obtain ⟨r1, er1, h⟩ := h
  rcases r1 with r3 | r3x
  · refine vv_callV ok_X1_mix q1322 (m_KX1_mix hG hH er1 d) rfl (by omega) ⟨_, _, _, _, _, ez2, by rw [hG.1]; rfl⟩ rfl rfl (Nat.le_of_ble_eq_true rfl) dX0_mix_5 ?_
    replace h := xh1_l h
    refine vv_i2l dX0_mix_8 ?_
    replace h := sL_o h; obtain ⟨σ4, nσ4, qσ4, eσ4, iσ4, uσ4, h⟩ := h
    refine vv_last eσ4 iσ4 dX0_mix_9 ?_
    refine vv_sg uσ4 ?_
    refine vv_goto (tgt := 17) dX0_mix_10 (by decide) ?_
    refine vv_iconst (v := (nI 0)) dX0_mix_17 (by decide) ?_
    cases h
    exact vv_iret rfl dX0_mix_18
  · obtain ⟨cr3, h⟩ := xh1_r h
    refine vv_callVX ok_X1_mix q1322 (m_KX1_mix hG hH er1 d) rfl (by omega) ⟨_, _, _, _, _, ez2, by rw [hG.1]; rfl⟩ rfl rfl (Nat.le_of_ble_eq_true rfl) dX0_mix_5 (vv_Tcatch [] ⟨0, 10, 13, 18⟩ [] rfl (fun z hz => by cases hz) (by decide) (by decide) q1242 (fun U hK => by rw [cr3]; exact hH.1.2.1 U hK _ q1253 rfl) rfl ?_)
    refine vv_sub (lv' := []) [] rfl ?_
    exact v_KX0_mix_13 hG hH h
theorem m_KX0_mix {l : Launch} {G : vv_G} {ad : Nat → Nat} (hG : vv_gok G) (hH : vv_hy l G ad) {x0 : Nat} {x1 : Int32} {x2 : Int32} {x3 : Nat} {σ : vv_S} {r : Int32 × vv_S} (h : KX0_mix ad x0 x1 x2 x3 σ = some r) (d : Nat) : vv_Met l G MX0_mix (d + 11) [.ref x0, .int x1, .int x2, .ref x3] σ (.inl (some (.int r.1)), r.2) := vv_headH (by decide +kernel) (by intro h; cases h) (Nat.le_of_ble_eq_true rfl) rfl (v_KX0_mix_0 hG hH h)
/-! ('X0', 'then') -/
def KX0_then_19 (fo : Nat → Nat → vv_S → Option Int32) (s0 : Nat) (σ : vv_S) : Option (Int32 × vv_S) := some ((nI 2), σ)
theorem v_KX0_then_19 {l : Launch} {G : vv_G} {d : Nat} {ad : Nat → Nat} {fo : Nat → Nat → vv_S → Option Int32} (hG : vv_gok G) (hH : vv_hy l G ad) (hNc : ∀ U, vv_K G U → va_Nc "java/lang/IllegalArgumentException" "java/util/NoSuchElementException" U) (hfo : ∀ {a vs : Nat} {σ : vv_S} {r : Int32}, fo a vs σ = some r → vv_Form l G d a vs σ r) {s0 : Nat} {σ : vv_S} {r : Int32 × vv_S} (h : KX0_then_19 fo s0 σ = some r) : vv_V l G MX0_then (d + 11) 19 [] [.ref s0] σ (.inl (some (.int r.1)), r.2) := by
  unfold KX0_then_19 at h
  refine vv_astore (lv' := [(5, .ref s0)]) dX0_then_19 (by decide) [0] rfl ?_
  refine vv_iconst (v := (nI 2)) dX0_then_21 (by decide) ?_
  cases h
  exact vv_iret rfl dX0_then_22
def KX0_then_15 (fo : Nat → Nat → vv_S → Option Int32) (s0 : Nat) (σ : vv_S) : Option (Int32 × vv_S) := some ((nI 1), σ)
theorem v_KX0_then_15 {l : Launch} {G : vv_G} {d : Nat} {ad : Nat → Nat} {fo : Nat → Nat → vv_S → Option Int32} (hG : vv_gok G) (hH : vv_hy l G ad) (hNc : ∀ U, vv_K G U → va_Nc "java/lang/IllegalArgumentException" "java/util/NoSuchElementException" U) (hfo : ∀ {a vs : Nat} {σ : vv_S} {r : Int32}, fo a vs σ = some r → vv_Form l G d a vs σ r) {s0 : Nat} {σ : vv_S} {r : Int32 × vv_S} (h : KX0_then_15 fo s0 σ = some r) : vv_V l G MX0_then (d + 11) 15 [] [.ref s0] σ (.inl (some (.int r.1)), r.2) := by
  unfold KX0_then_15 at h
  refine vv_astore (lv' := [(5, .ref s0)]) dX0_then_15 (by decide) [0] rfl ?_
  refine vv_iconst (v := (nI 1)) dX0_then_17 (by decide) ?_
  cases h
  exact vv_iret rfl dX0_then_18
def KX0_then (fo : Nat → Nat → vv_S → Option Int32) (x0 : Nat) (x1 : Int32) (x2 : Int32) (x3 : Int32) (x4 : Nat) (σ : vv_S) : Option (Int32 × vv_S) := (isO σ x0 0).bind fun _ => (KX1_then fo x0 x1 x2 x3 σ).bind fun r1 => xh2 r1 "java/util/NoSuchElementException" "java/lang/IllegalArgumentException" (fun r3 => (sL r3.2 x4 (nI 0) (Int32.toInt64 r3.1)).bind fun σ4 => some ((nI 0), σ4)) (fun r3x => KX0_then_15 fo r3x.1.2 r3x.2) (fun r3x => KX0_then_19 fo r3x.1.2 r3x.2)
theorem v_KX0_then_0 {l : Launch} {G : vv_G} {d : Nat} {ad : Nat → Nat} {fo : Nat → Nat → vv_S → Option Int32} (hG : vv_gok G) (hH : vv_hy l G ad) (hNc : ∀ U, vv_K G U → va_Nc "java/lang/IllegalArgumentException" "java/util/NoSuchElementException" U) (hfo : ∀ {a vs : Nat} {σ : vv_S} {r : Int32}, fo a vs σ = some r → vv_Form l G d a vs σ r) {x0 : Nat} {x1 : Int32} {x2 : Int32} {x3 : Int32} {x4 : Nat} {σ : vv_S} {r : Int32 × vv_S} (h : KX0_then fo x0 x1 x2 x3 x4 σ = some r) : vv_V l G MX0_then (d + 11) 0 [(0, .ref x0), (1, .int x1), (2, .int x2), (3, .int x3), (4, .ref x4)] [] σ (.inl (some (.int r.1)), r.2) := by
  unfold KX0_then at h
  refine vv_aload dX0_then_0 4 rfl ?_
  refine vv_iconst (v := (nI 0)) dX0_then_2 (by decide) ?_
  refine vv_aload_n dX0_then_3 rfl 0 rfl ?_
  refine vv_iload_n dX0_then_4 rfl 1 rfl ?_
  refine vv_iload_n dX0_then_5 rfl 2 rfl ?_
  refine vv_iload_n dX0_then_6 rfl 3 rfl ?_
  replace h := isO_o h; obtain ⟨fz2, sz2, ez2, h⟩ := h
  replace h := bd_o h; obtain ⟨r1, er1, h⟩ := h
  rcases r1 with r3 | r3x
  · refine vv_callV ok_X1_then q1333 (m_KX1_then hG hH hfo er1 d) rfl (by omega) ⟨_, _, _, _, _, ez2, by rw [hG.1]; rfl⟩ rfl rfl (Nat.le_of_ble_eq_true rfl) dX0_then_7 ?_
    replace h := xh2_l h
    refine vv_i2l dX0_then_10 ?_
    replace h := sL_o h; obtain ⟨σ4, nσ4, qσ4, eσ4, iσ4, uσ4, h⟩ := h
    refine vv_last eσ4 iσ4 dX0_then_11 ?_
    refine vv_sg uσ4 ?_
    refine vv_goto (tgt := 23) dX0_then_12 (by decide) ?_
    refine vv_iconst (v := (nI 0)) dX0_then_23 (by decide) ?_
    cases h
    exact vv_iret rfl dX0_then_24
  · rcases xh2_r h with ⟨cr3, h⟩ | ⟨cr3, h⟩
    · skip
      refine vv_callVX ok_X1_then q1333 (m_KX1_then hG hH hfo er1 d) rfl (by omega) ⟨_, _, _, _, _, ez2, by rw [hG.1]; rfl⟩ rfl rfl (Nat.le_of_ble_eq_true rfl) dX0_then_7 (vv_Tcatch [] ⟨0, 12, 15, 18⟩ [⟨0, 12, 19, 13⟩] rfl (fun z hz => by cases hz) (by decide) (by decide) q1242 (fun U hK => by rw [cr3]; exact hH.1.2.1 U hK _ q1253 rfl) rfl ?_)
      refine vv_sub (lv' := []) [] rfl ?_
      exact v_KX0_then_15 hG hH hNc hfo h
    · skip
      refine vv_callVX ok_X1_then q1333 (m_KX1_then hG hH hfo er1 d) rfl (by omega) ⟨_, _, _, _, _, ez2, by rw [hG.1]; rfl⟩ rfl rfl (Nat.le_of_ble_eq_true rfl) dX0_then_7 (vv_Tcatch [⟨0, 12, 15, 18⟩] ⟨0, 12, 19, 13⟩ [] rfl (fun z hz => Or.inr (by rw [List.mem_singleton.mp hz]; exact ⟨by decide, _, q1242, fun U hK => by rw [cr3]; exact hNc U hK⟩)) (by decide) (by decide) q694 (fun U hK => by rw [cr3]; exact hH.1.2.1 U hK _ q705 rfl) rfl ?_)
      refine vv_sub (lv' := []) [] rfl ?_
      exact v_KX0_then_19 hG hH hNc hfo h
theorem m_KX0_then {l : Launch} {G : vv_G} {d : Nat} {ad : Nat → Nat} {fo : Nat → Nat → vv_S → Option Int32} (hG : vv_gok G) (hH : vv_hy l G ad) (hNc : ∀ U, vv_K G U → va_Nc "java/lang/IllegalArgumentException" "java/util/NoSuchElementException" U) (hfo : ∀ {a vs : Nat} {σ : vv_S} {r : Int32}, fo a vs σ = some r → vv_Form l G d a vs σ r) {x0 : Nat} {x1 : Int32} {x2 : Int32} {x3 : Int32} {x4 : Nat} {σ : vv_S} {r : Int32 × vv_S} (h : KX0_then fo x0 x1 x2 x3 x4 σ = some r) (d9 : Nat) (e9 : d9 = d := by rfl) : vv_Met l G MX0_then (d9 + 11) [.ref x0, .int x1, .int x2, .int x3, .ref x4] σ (.inl (some (.int r.1)), r.2) := by
  subst e9
  exact vv_headH (by decide +kernel) (by intro h; cases h) (Nat.le_of_ble_eq_true rfl) rfl (v_KX0_then_0 hG hH hNc hfo h)
/-! ('X0', 'even') -/
def KX0_even_12 (fo : Nat → Nat → vv_S → Option Int32) (s0 : Nat) (σ : vv_S) : Option (Int32 × vv_S) := some ((nI 1), σ)
theorem v_KX0_even_12 {l : Launch} {G : vv_G} {d : Nat} {ad : Nat → Nat} {fo : Nat → Nat → vv_S → Option Int32} (hG : vv_gok G) (hH : vv_hy l G ad) (hfo : ∀ {a vs : Nat} {σ : vv_S} {r : Int32}, fo a vs σ = some r → vv_Form l G d a vs σ r) {s0 : Nat} {σ : vv_S} {r : Int32 × vv_S} (h : KX0_even_12 fo s0 σ = some r) : vv_V l G MX0_even (d + 11) 12 [] [.ref s0] σ (.inl (some (.int r.1)), r.2) := by
  unfold KX0_even_12 at h
  refine vv_astore_n (lv' := [(3, .ref s0)]) dX0_even_12 rfl (by decide) [0] rfl ?_
  refine vv_iconst (v := (nI 1)) dX0_even_13 (by decide) ?_
  cases h
  exact vv_iret rfl dX0_even_14
def KX0_even (fo : Nat → Nat → vv_S → Option Int32) (x0 : Nat) (x1 : Int32) (x2 : Nat) (σ : vv_S) : Option (Int32 × vv_S) := (isO σ x0 0).bind fun _ => (KX1_even fo x0 x1 σ).bind fun r1 => xh1 r1 "java/util/NoSuchElementException" (fun r3 => (sL r3.2 x2 (nI 0) (Int32.toInt64 r3.1)).bind fun σ4 => some ((nI 0), σ4)) (fun r3x => KX0_even_12 fo r3x.1.2 r3x.2)
theorem v_KX0_even_0 {l : Launch} {G : vv_G} {d : Nat} {ad : Nat → Nat} {fo : Nat → Nat → vv_S → Option Int32} (hG : vv_gok G) (hH : vv_hy l G ad) (hfo : ∀ {a vs : Nat} {σ : vv_S} {r : Int32}, fo a vs σ = some r → vv_Form l G d a vs σ r) {x0 : Nat} {x1 : Int32} {x2 : Nat} {σ : vv_S} {r : Int32 × vv_S} (h : KX0_even fo x0 x1 x2 σ = some r) : vv_V l G MX0_even (d + 11) 0 [(0, .ref x0), (1, .int x1), (2, .ref x2)] [] σ (.inl (some (.int r.1)), r.2) := by
  unfold KX0_even at h
  refine vv_aload_n dX0_even_0 rfl 2 rfl ?_
  refine vv_iconst (v := (nI 0)) dX0_even_1 (by decide) ?_
  refine vv_aload_n dX0_even_2 rfl 0 rfl ?_
  refine vv_iload_n dX0_even_3 rfl 1 rfl ?_
  replace h := isO_o h; obtain ⟨fz2, sz2, ez2, h⟩ := h
  replace h := bd_o h; obtain ⟨r1, er1, h⟩ := h
  rcases r1 with r3 | r3x
  · refine vv_callV ok_X1_even q1340 (m_KX1_even hG hH hfo er1 d) rfl (by omega) ⟨_, _, _, _, _, ez2, by rw [hG.1]; rfl⟩ rfl rfl (Nat.le_of_ble_eq_true rfl) dX0_even_4 ?_
    replace h := xh1_l h
    refine vv_i2l dX0_even_7 ?_
    replace h := sL_o h; obtain ⟨σ4, nσ4, qσ4, eσ4, iσ4, uσ4, h⟩ := h
    refine vv_last eσ4 iσ4 dX0_even_8 ?_
    refine vv_sg uσ4 ?_
    refine vv_goto (tgt := 15) dX0_even_9 (by decide) ?_
    refine vv_iconst (v := (nI 0)) dX0_even_15 (by decide) ?_
    cases h
    exact vv_iret rfl dX0_even_16
  · obtain ⟨cr3, h⟩ := xh1_r h
    refine vv_callVX ok_X1_even q1340 (m_KX1_even hG hH hfo er1 d) rfl (by omega) ⟨_, _, _, _, _, ez2, by rw [hG.1]; rfl⟩ rfl rfl (Nat.le_of_ble_eq_true rfl) dX0_even_4 (vv_Tcatch [] ⟨0, 9, 12, 18⟩ [] rfl (fun z hz => by cases hz) (by decide) (by decide) q1242 (fun U hK => by rw [cr3]; exact hH.1.2.1 U hK _ q1253 rfl) rfl ?_)
    refine vv_sub (lv' := []) [] rfl ?_
    exact v_KX0_even_12 hG hH hfo h
theorem m_KX0_even {l : Launch} {G : vv_G} {d : Nat} {ad : Nat → Nat} {fo : Nat → Nat → vv_S → Option Int32} (hG : vv_gok G) (hH : vv_hy l G ad) (hfo : ∀ {a vs : Nat} {σ : vv_S} {r : Int32}, fo a vs σ = some r → vv_Form l G d a vs σ r) {x0 : Nat} {x1 : Int32} {x2 : Nat} {σ : vv_S} {r : Int32 × vv_S} (h : KX0_even fo x0 x1 x2 σ = some r) (d9 : Nat) (e9 : d9 = d := by rfl) : vv_Met l G MX0_even (d9 + 11) [.ref x0, .int x1, .ref x2] σ (.inl (some (.int r.1)), r.2) := by
  subst e9
  exact vv_headH (by decide +kernel) (by intro h; cases h) (Nat.le_of_ble_eq_true rfl) rfl (v_KX0_even_0 hG hH hfo h)
/-! ('X0', 'out') -/
def KX0_out_12 (fo : Nat → Nat → vv_S → Option Int32) (s0 : Nat) (σ : vv_S) : Option (Int32 × vv_S) := some ((nI 1), σ)
theorem v_KX0_out_12 {l : Launch} {G : vv_G} {d : Nat} {ad : Nat → Nat} {fo : Nat → Nat → vv_S → Option Int32} (hG : vv_gok G) (hH : vv_hy l G ad) (hfo : ∀ {a vs : Nat} {σ : vv_S} {r : Int32}, fo a vs σ = some r → vv_Form l G d a vs σ r) {s0 : Nat} {σ : vv_S} {r : Int32 × vv_S} (h : KX0_out_12 fo s0 σ = some r) : vv_V l G MX0_out (d + 11) 12 [] [.ref s0] σ (.inl (some (.int r.1)), r.2) := by
  unfold KX0_out_12 at h
  refine vv_astore_n (lv' := [(3, .ref s0)]) dX0_out_12 rfl (by decide) [0] rfl ?_
  refine vv_iconst (v := (nI 1)) dX0_out_13 (by decide) ?_
  cases h
  exact vv_iret rfl dX0_out_14
def KX0_out (fo : Nat → Nat → vv_S → Option Int32) (x0 : Nat) (x1 : Int32) (x2 : Nat) (σ : vv_S) : Option (Int32 × vv_S) := (isO σ x0 0).bind fun _ => (KX1_out fo x0 x1 σ).bind fun r1 => xh1 r1 "java/util/NoSuchElementException" (fun r3 => (sL r3.2 x2 (nI 0) (Int32.toInt64 r3.1)).bind fun σ4 => some ((nI 0), σ4)) (fun r3x => KX0_out_12 fo r3x.1.2 r3x.2)
theorem v_KX0_out_0 {l : Launch} {G : vv_G} {d : Nat} {ad : Nat → Nat} {fo : Nat → Nat → vv_S → Option Int32} (hG : vv_gok G) (hH : vv_hy l G ad) (hfo : ∀ {a vs : Nat} {σ : vv_S} {r : Int32}, fo a vs σ = some r → vv_Form l G d a vs σ r) {x0 : Nat} {x1 : Int32} {x2 : Nat} {σ : vv_S} {r : Int32 × vv_S} (h : KX0_out fo x0 x1 x2 σ = some r) : vv_V l G MX0_out (d + 11) 0 [(0, .ref x0), (1, .int x1), (2, .ref x2)] [] σ (.inl (some (.int r.1)), r.2) := by
  unfold KX0_out at h
  refine vv_aload_n dX0_out_0 rfl 2 rfl ?_
  refine vv_iconst (v := (nI 0)) dX0_out_1 (by decide) ?_
  refine vv_aload_n dX0_out_2 rfl 0 rfl ?_
  refine vv_iload_n dX0_out_3 rfl 1 rfl ?_
  replace h := isO_o h; obtain ⟨fz2, sz2, ez2, h⟩ := h
  replace h := bd_o h; obtain ⟨r1, er1, h⟩ := h
  rcases r1 with r3 | r3x
  · refine vv_callV ok_X1_out q1348 (m_KX1_out hG hH hfo er1 d) rfl (by omega) ⟨_, _, _, _, _, ez2, by rw [hG.1]; rfl⟩ rfl rfl (Nat.le_of_ble_eq_true rfl) dX0_out_4 ?_
    replace h := xh1_l h
    refine vv_i2l dX0_out_7 ?_
    replace h := sL_o h; obtain ⟨σ4, nσ4, qσ4, eσ4, iσ4, uσ4, h⟩ := h
    refine vv_last eσ4 iσ4 dX0_out_8 ?_
    refine vv_sg uσ4 ?_
    refine vv_goto (tgt := 15) dX0_out_9 (by decide) ?_
    refine vv_iconst (v := (nI 0)) dX0_out_15 (by decide) ?_
    cases h
    exact vv_iret rfl dX0_out_16
  · obtain ⟨cr3, h⟩ := xh1_r h
    refine vv_callVX ok_X1_out q1348 (m_KX1_out hG hH hfo er1 d) rfl (by omega) ⟨_, _, _, _, _, ez2, by rw [hG.1]; rfl⟩ rfl rfl (Nat.le_of_ble_eq_true rfl) dX0_out_4 (vv_Tcatch [] ⟨0, 9, 12, 18⟩ [] rfl (fun z hz => by cases hz) (by decide) (by decide) q1242 (fun U hK => by rw [cr3]; exact hH.1.2.1 U hK _ q1253 rfl) rfl ?_)
    refine vv_sub (lv' := []) [] rfl ?_
    exact v_KX0_out_12 hG hH hfo h
theorem m_KX0_out {l : Launch} {G : vv_G} {d : Nat} {ad : Nat → Nat} {fo : Nat → Nat → vv_S → Option Int32} (hG : vv_gok G) (hH : vv_hy l G ad) (hfo : ∀ {a vs : Nat} {σ : vv_S} {r : Int32}, fo a vs σ = some r → vv_Form l G d a vs σ r) {x0 : Nat} {x1 : Int32} {x2 : Nat} {σ : vv_S} {r : Int32 × vv_S} (h : KX0_out fo x0 x1 x2 σ = some r) (d9 : Nat) (e9 : d9 = d := by rfl) : vv_Met l G MX0_out (d9 + 11) [.ref x0, .int x1, .ref x2] σ (.inl (some (.int r.1)), r.2) := by
  subst e9
  exact vv_headH (by decide +kernel) (by intro h; cases h) (Nat.le_of_ble_eq_true rfl) rfl (v_KX0_out_0 hG hH hfo h)
/-! ('X0', 'luckiest') -/
def KX0_luckiest_12 (fo : Nat → Nat → vv_S → Option Int32) (s0 : Nat) (σ : vv_S) : Option (Int32 × vv_S) := some ((nI 1), σ)
theorem v_KX0_luckiest_12 {l : Launch} {G : vv_G} {d : Nat} {ad : Nat → Nat} {fo : Nat → Nat → vv_S → Option Int32} (hG : vv_gok G) (hH : vv_hy l G ad) (hfo : ∀ {a vs : Nat} {σ : vv_S} {r : Int32}, fo a vs σ = some r → vv_Form l G d a vs σ r) {s0 : Nat} {σ : vv_S} {r : Int32 × vv_S} (h : KX0_luckiest_12 fo s0 σ = some r) : vv_V l G MX0_luckiest (d + 10) 12 [] [.ref s0] σ (.inl (some (.int r.1)), r.2) := by
  unfold KX0_luckiest_12 at h
  refine vv_astore_n (lv' := [(3, .ref s0)]) dX0_luckiest_12 rfl (by decide) [0] rfl ?_
  refine vv_iconst (v := (nI 1)) dX0_luckiest_13 (by decide) ?_
  cases h
  exact vv_iret rfl dX0_luckiest_14
def KX0_luckiest (fo : Nat → Nat → vv_S → Option Int32) (x0 : Nat) (x1 : Int32) (x2 : Nat) (σ : vv_S) : Option (Int32 × vv_S) := (isO σ x0 0).bind fun _ => (KX1_luckiest fo x0 x1 σ).bind fun r1 => xh1 r1 "java/lang/IllegalArgumentException" (fun r3 => (sL r3.2 x2 (nI 0) (Int32.toInt64 r3.1)).bind fun σ4 => some ((nI 0), σ4)) (fun r3x => KX0_luckiest_12 fo r3x.1.2 r3x.2)
theorem v_KX0_luckiest_0 {l : Launch} {G : vv_G} {d : Nat} {ad : Nat → Nat} {fo : Nat → Nat → vv_S → Option Int32} (hG : vv_gok G) (hH : vv_hy l G ad) (hfo : ∀ {a vs : Nat} {σ : vv_S} {r : Int32}, fo a vs σ = some r → vv_Form l G d a vs σ r) {x0 : Nat} {x1 : Int32} {x2 : Nat} {σ : vv_S} {r : Int32 × vv_S} (h : KX0_luckiest fo x0 x1 x2 σ = some r) : vv_V l G MX0_luckiest (d + 10) 0 [(0, .ref x0), (1, .int x1), (2, .ref x2)] [] σ (.inl (some (.int r.1)), r.2) := by
  unfold KX0_luckiest at h
  refine vv_aload_n dX0_luckiest_0 rfl 2 rfl ?_
  refine vv_iconst (v := (nI 0)) dX0_luckiest_1 (by decide) ?_
  refine vv_aload_n dX0_luckiest_2 rfl 0 rfl ?_
  refine vv_iload_n dX0_luckiest_3 rfl 1 rfl ?_
  replace h := isO_o h; obtain ⟨fz2, sz2, ez2, h⟩ := h
  replace h := bd_o h; obtain ⟨r1, er1, h⟩ := h
  rcases r1 with r3 | r3x
  · refine vv_callV ok_X1_luckiest q1358 (m_KX1_luckiest hG hH hfo er1 d) rfl (by omega) ⟨_, _, _, _, _, ez2, by rw [hG.1]; rfl⟩ rfl rfl (Nat.le_of_ble_eq_true rfl) dX0_luckiest_4 ?_
    replace h := xh1_l h
    refine vv_i2l dX0_luckiest_7 ?_
    replace h := sL_o h; obtain ⟨σ4, nσ4, qσ4, eσ4, iσ4, uσ4, h⟩ := h
    refine vv_last eσ4 iσ4 dX0_luckiest_8 ?_
    refine vv_sg uσ4 ?_
    refine vv_goto (tgt := 15) dX0_luckiest_9 (by decide) ?_
    refine vv_iconst (v := (nI 0)) dX0_luckiest_15 (by decide) ?_
    cases h
    exact vv_iret rfl dX0_luckiest_16
  · obtain ⟨cr3, h⟩ := xh1_r h
    refine vv_callVX ok_X1_luckiest q1358 (m_KX1_luckiest hG hH hfo er1 d) rfl (by omega) ⟨_, _, _, _, _, ez2, by rw [hG.1]; rfl⟩ rfl rfl (Nat.le_of_ble_eq_true rfl) dX0_luckiest_4 (vv_Tcatch [] ⟨0, 9, 12, 13⟩ [] rfl (fun z hz => by cases hz) (by decide) (by decide) q694 (fun U hK => by rw [cr3]; exact hH.1.2.1 U hK _ q705 rfl) rfl ?_)
    refine vv_sub (lv' := []) [] rfl ?_
    exact v_KX0_luckiest_12 hG hH hfo h
theorem m_KX0_luckiest {l : Launch} {G : vv_G} {d : Nat} {ad : Nat → Nat} {fo : Nat → Nat → vv_S → Option Int32} (hG : vv_gok G) (hH : vv_hy l G ad) (hfo : ∀ {a vs : Nat} {σ : vv_S} {r : Int32}, fo a vs σ = some r → vv_Form l G d a vs σ r) {x0 : Nat} {x1 : Int32} {x2 : Nat} {σ : vv_S} {r : Int32 × vv_S} (h : KX0_luckiest fo x0 x1 x2 σ = some r) (d9 : Nat) (e9 : d9 = d := by rfl) : vv_Met l G MX0_luckiest (d9 + 10) [.ref x0, .int x1, .ref x2] σ (.inl (some (.int r.1)), r.2) := by
  subst e9
  exact vv_headH (by decide +kernel) (by intro h; cases h) (Nat.le_of_ble_eq_true rfl) rfl (v_KX0_luckiest_0 hG hH hfo h)
/-! ('X0', 'far') -/
def KX0_far_13 (s0 : Nat) (σ : vv_S) : Option (Int32 × vv_S) := some ((nI 1), σ)
theorem v_KX0_far_13 {l : Launch} {G : vv_G} {d : Nat} {ad : Nat → Nat} (hG : vv_gok G) (hH : vv_hy l G ad) {s0 : Nat} {σ : vv_S} {r : Int32 × vv_S} (h : KX0_far_13 s0 σ = some r) : vv_V l G MX0_far (d + 11) 13 [] [.ref s0] σ (.inl (some (.int r.1)), r.2) := by
  unfold KX0_far_13 at h
  refine vv_astore (lv' := [(4, .ref s0)]) dX0_far_13 (by decide) [0] rfl ?_
  refine vv_iconst (v := (nI 1)) dX0_far_15 (by decide) ?_
  cases h
  exact vv_iret rfl dX0_far_16
def KX0_far (x0 : Nat) (x1 : Int32) (x2 : Int32) (x3 : Nat) (σ : vv_S) : Option (Int32 × vv_S) := (isO σ x0 0).bind fun _ => (KX1_far x0 x1 x2 σ).bind fun r1 => xh1 r1 "java/util/NoSuchElementException" (fun r3 => (sL r3.2 x3 (nI 0) (Int32.toInt64 r3.1)).bind fun σ4 => some ((nI 0), σ4)) (fun r3x => KX0_far_13 r3x.1.2 r3x.2)
theorem v_KX0_far_0 {l : Launch} {G : vv_G} {d : Nat} {ad : Nat → Nat} (hG : vv_gok G) (hH : vv_hy l G ad) {x0 : Nat} {x1 : Int32} {x2 : Int32} {x3 : Nat} {σ : vv_S} {r : Int32 × vv_S} (h : KX0_far x0 x1 x2 x3 σ = some r) : vv_V l G MX0_far (d + 11) 0 [(0, .ref x0), (1, .int x1), (2, .int x2), (3, .ref x3)] [] σ (.inl (some (.int r.1)), r.2) := by
  unfold KX0_far at h
  refine vv_aload_n dX0_far_0 rfl 3 rfl ?_
  refine vv_iconst (v := (nI 0)) dX0_far_1 (by decide) ?_
  refine vv_aload_n dX0_far_2 rfl 0 rfl ?_
  refine vv_iload_n dX0_far_3 rfl 1 rfl ?_
  refine vv_iload_n dX0_far_4 rfl 2 rfl ?_
  replace h := isO_o h; obtain ⟨fz2, sz2, ez2, h⟩ := h
  replace h := bd_o h; obtain ⟨r1, er1, h⟩ := h
  rcases r1 with r3 | r3x
  · refine vv_callV ok_X1_far q1365 (m_KX1_far hG hH er1 d) rfl (by omega) ⟨_, _, _, _, _, ez2, by rw [hG.1]; rfl⟩ rfl rfl (Nat.le_of_ble_eq_true rfl) dX0_far_5 ?_
    replace h := xh1_l h
    refine vv_i2l dX0_far_8 ?_
    replace h := sL_o h; obtain ⟨σ4, nσ4, qσ4, eσ4, iσ4, uσ4, h⟩ := h
    refine vv_last eσ4 iσ4 dX0_far_9 ?_
    refine vv_sg uσ4 ?_
    refine vv_goto (tgt := 17) dX0_far_10 (by decide) ?_
    refine vv_iconst (v := (nI 0)) dX0_far_17 (by decide) ?_
    cases h
    exact vv_iret rfl dX0_far_18
  · obtain ⟨cr3, h⟩ := xh1_r h
    refine vv_callVX ok_X1_far q1365 (m_KX1_far hG hH er1 d) rfl (by omega) ⟨_, _, _, _, _, ez2, by rw [hG.1]; rfl⟩ rfl rfl (Nat.le_of_ble_eq_true rfl) dX0_far_5 (vv_Tcatch [] ⟨0, 10, 13, 18⟩ [] rfl (fun z hz => by cases hz) (by decide) (by decide) q1242 (fun U hK => by rw [cr3]; exact hH.1.2.1 U hK _ q1253 rfl) rfl ?_)
    refine vv_sub (lv' := []) [] rfl ?_
    exact v_KX0_far_13 hG hH h
theorem m_KX0_far {l : Launch} {G : vv_G} {ad : Nat → Nat} (hG : vv_gok G) (hH : vv_hy l G ad) {x0 : Nat} {x1 : Int32} {x2 : Int32} {x3 : Nat} {σ : vv_S} {r : Int32 × vv_S} (h : KX0_far x0 x1 x2 x3 σ = some r) (d : Nat) : vv_Met l G MX0_far (d + 11) [.ref x0, .int x1, .int x2, .ref x3] σ (.inl (some (.int r.1)), r.2) := vv_headH (by decide +kernel) (by intro h; cases h) (Nat.le_of_ble_eq_true rfl) rfl (v_KX0_far_0 hG hH h)
/-! ('X0', 'leak') -/
def KX0_leak_13 (s0 : Nat) (σ : vv_S) : Option (Int32 × vv_S) := some ((nI 1), σ)
theorem v_KX0_leak_13 {l : Launch} {G : vv_G} {d : Nat} {ad : Nat → Nat} (hG : vv_gok G) (hH : vv_hy l G ad) {s0 : Nat} {σ : vv_S} {r : Int32 × vv_S} (h : KX0_leak_13 s0 σ = some r) : vv_V l G MX0_leak (d + 11) 13 [] [.ref s0] σ (.inl (some (.int r.1)), r.2) := by
  unfold KX0_leak_13 at h
  refine vv_astore (lv' := [(4, .ref s0)]) dX0_leak_13 (by decide) [0] rfl ?_
  refine vv_iconst (v := (nI 1)) dX0_leak_15 (by decide) ?_
  cases h
  exact vv_iret rfl dX0_leak_16
def KX0_leak (x0 : Nat) (x1 : Int32) (x2 : Int32) (x3 : Nat) (σ : vv_S) : Option (Int32 × vv_S) := (isO σ x0 0).bind fun _ => (KX1_leak x0 x1 x2 σ).bind fun r1 => xh1 r1 "java/util/NoSuchElementException" (fun r3 => (sL r3.2 x3 (nI 0) (Int32.toInt64 r3.1)).bind fun σ4 => some ((nI 0), σ4)) (fun r3x => KX0_leak_13 r3x.1.2 r3x.2)
theorem v_KX0_leak_0 {l : Launch} {G : vv_G} {d : Nat} {ad : Nat → Nat} (hG : vv_gok G) (hH : vv_hy l G ad) {x0 : Nat} {x1 : Int32} {x2 : Int32} {x3 : Nat} {σ : vv_S} {r : Int32 × vv_S} (h : KX0_leak x0 x1 x2 x3 σ = some r) : vv_V l G MX0_leak (d + 11) 0 [(0, .ref x0), (1, .int x1), (2, .int x2), (3, .ref x3)] [] σ (.inl (some (.int r.1)), r.2) := by
  unfold KX0_leak at h
  refine vv_aload_n dX0_leak_0 rfl 3 rfl ?_
  refine vv_iconst (v := (nI 0)) dX0_leak_1 (by decide) ?_
  refine vv_aload_n dX0_leak_2 rfl 0 rfl ?_
  refine vv_iload_n dX0_leak_3 rfl 1 rfl ?_
  refine vv_iload_n dX0_leak_4 rfl 2 rfl ?_
  replace h := isO_o h; obtain ⟨fz2, sz2, ez2, h⟩ := h
  replace h := bd_o h; obtain ⟨r1, er1, h⟩ := h
  rcases r1 with r3 | r3x
  · refine vv_callV ok_X1_leak q1375 (m_KX1_leak hG hH er1 d) rfl (by omega) ⟨_, _, _, _, _, ez2, by rw [hG.1]; rfl⟩ rfl rfl (Nat.le_of_ble_eq_true rfl) dX0_leak_5 ?_
    replace h := xh1_l h
    refine vv_i2l dX0_leak_8 ?_
    replace h := sL_o h; obtain ⟨σ4, nσ4, qσ4, eσ4, iσ4, uσ4, h⟩ := h
    refine vv_last eσ4 iσ4 dX0_leak_9 ?_
    refine vv_sg uσ4 ?_
    refine vv_goto (tgt := 17) dX0_leak_10 (by decide) ?_
    refine vv_iconst (v := (nI 0)) dX0_leak_17 (by decide) ?_
    cases h
    exact vv_iret rfl dX0_leak_18
  · obtain ⟨cr3, h⟩ := xh1_r h
    refine vv_callVX ok_X1_leak q1375 (m_KX1_leak hG hH er1 d) rfl (by omega) ⟨_, _, _, _, _, ez2, by rw [hG.1]; rfl⟩ rfl rfl (Nat.le_of_ble_eq_true rfl) dX0_leak_5 (vv_Tcatch [] ⟨0, 10, 13, 18⟩ [] rfl (fun z hz => by cases hz) (by decide) (by decide) q1242 (fun U hK => by rw [cr3]; exact hH.1.2.1 U hK _ q1253 rfl) rfl ?_)
    refine vv_sub (lv' := []) [] rfl ?_
    exact v_KX0_leak_13 hG hH h
theorem m_KX0_leak {l : Launch} {G : vv_G} {ad : Nat → Nat} (hG : vv_gok G) (hH : vv_hy l G ad) {x0 : Nat} {x1 : Int32} {x2 : Int32} {x3 : Nat} {σ : vv_S} {r : Int32 × vv_S} (h : KX0_leak x0 x1 x2 x3 σ = some r) (d : Nat) : vv_Met l G MX0_leak (d + 11) [.ref x0, .int x1, .int x2, .ref x3] σ (.inl (some (.int r.1)), r.2) := vv_headH (by decide +kernel) (by intro h; cases h) (Nat.le_of_ble_eq_true rfl) rfl (v_KX0_leak_0 hG hH h)
/-! ('X0', 'sending') -/
def KX0_sending_17 (s0 : Nat) (σ : vv_S) : Option (Int32 × vv_S) := some ((nI 2), σ)
theorem v_KX0_sending_17 {l : Launch} {G : vv_G} {d : Nat} {ad : Nat → Nat} (hG : vv_gok G) (hH : vv_hy l G ad) (hNc : ∀ U, vv_K G U → va_Nc "java/lang/IllegalArgumentException" "java/util/NoSuchElementException" U) {s0 : Nat} {σ : vv_S} {r : Int32 × vv_S} (h : KX0_sending_17 s0 σ = some r) : vv_V l G MX0_sending (d + 11) 17 [] [.ref s0] σ (.inl (some (.int r.1)), r.2) := by
  unfold KX0_sending_17 at h
  refine vv_astore (lv' := [(4, .ref s0)]) dX0_sending_17 (by decide) [0] rfl ?_
  refine vv_iconst (v := (nI 2)) dX0_sending_19 (by decide) ?_
  cases h
  exact vv_iret rfl dX0_sending_20
def KX0_sending_13 (s0 : Nat) (σ : vv_S) : Option (Int32 × vv_S) := some ((nI 1), σ)
theorem v_KX0_sending_13 {l : Launch} {G : vv_G} {d : Nat} {ad : Nat → Nat} (hG : vv_gok G) (hH : vv_hy l G ad) (hNc : ∀ U, vv_K G U → va_Nc "java/lang/IllegalArgumentException" "java/util/NoSuchElementException" U) {s0 : Nat} {σ : vv_S} {r : Int32 × vv_S} (h : KX0_sending_13 s0 σ = some r) : vv_V l G MX0_sending (d + 11) 13 [] [.ref s0] σ (.inl (some (.int r.1)), r.2) := by
  unfold KX0_sending_13 at h
  refine vv_astore (lv' := [(4, .ref s0)]) dX0_sending_13 (by decide) [0] rfl ?_
  refine vv_iconst (v := (nI 1)) dX0_sending_15 (by decide) ?_
  cases h
  exact vv_iret rfl dX0_sending_16
def KX0_sending (x0 : Nat) (x1 : Int32) (x2 : Int32) (x3 : Nat) (σ : vv_S) : Option (Int32 × vv_S) := (isO σ x0 0).bind fun _ => (KX1_sending x0 x1 x2 σ).bind fun r1 => xh2 r1 "java/util/NoSuchElementException" "java/lang/IllegalArgumentException" (fun r3 => (sL r3.2 x3 (nI 0) (Int32.toInt64 r3.1)).bind fun σ4 => some ((nI 0), σ4)) (fun r3x => KX0_sending_13 r3x.1.2 r3x.2) (fun r3x => KX0_sending_17 r3x.1.2 r3x.2)
theorem v_KX0_sending_0 {l : Launch} {G : vv_G} {d : Nat} {ad : Nat → Nat} (hG : vv_gok G) (hH : vv_hy l G ad) (hNc : ∀ U, vv_K G U → va_Nc "java/lang/IllegalArgumentException" "java/util/NoSuchElementException" U) {x0 : Nat} {x1 : Int32} {x2 : Int32} {x3 : Nat} {σ : vv_S} {r : Int32 × vv_S} (h : KX0_sending x0 x1 x2 x3 σ = some r) : vv_V l G MX0_sending (d + 11) 0 [(0, .ref x0), (1, .int x1), (2, .int x2), (3, .ref x3)] [] σ (.inl (some (.int r.1)), r.2) := by
  unfold KX0_sending at h
  refine vv_aload_n dX0_sending_0 rfl 3 rfl ?_
  refine vv_iconst (v := (nI 0)) dX0_sending_1 (by decide) ?_
  refine vv_aload_n dX0_sending_2 rfl 0 rfl ?_
  refine vv_iload_n dX0_sending_3 rfl 1 rfl ?_
  refine vv_iload_n dX0_sending_4 rfl 2 rfl ?_
  replace h := isO_o h; obtain ⟨fz2, sz2, ez2, h⟩ := h
  replace h := bd_o h; obtain ⟨r1, er1, h⟩ := h
  rcases r1 with r3 | r3x
  · refine vv_callV ok_X1_sending q1382 (m_KX1_sending hG hH er1 d) rfl (by omega) ⟨_, _, _, _, _, ez2, by rw [hG.1]; rfl⟩ rfl rfl (Nat.le_of_ble_eq_true rfl) dX0_sending_5 ?_
    replace h := xh2_l h
    refine vv_i2l dX0_sending_8 ?_
    replace h := sL_o h; obtain ⟨σ4, nσ4, qσ4, eσ4, iσ4, uσ4, h⟩ := h
    refine vv_last eσ4 iσ4 dX0_sending_9 ?_
    refine vv_sg uσ4 ?_
    refine vv_goto (tgt := 21) dX0_sending_10 (by decide) ?_
    refine vv_iconst (v := (nI 0)) dX0_sending_21 (by decide) ?_
    cases h
    exact vv_iret rfl dX0_sending_22
  · rcases xh2_r h with ⟨cr3, h⟩ | ⟨cr3, h⟩
    · skip
      refine vv_callVX ok_X1_sending q1382 (m_KX1_sending hG hH er1 d) rfl (by omega) ⟨_, _, _, _, _, ez2, by rw [hG.1]; rfl⟩ rfl rfl (Nat.le_of_ble_eq_true rfl) dX0_sending_5 (vv_Tcatch [] ⟨0, 10, 13, 18⟩ [⟨0, 10, 17, 13⟩] rfl (fun z hz => by cases hz) (by decide) (by decide) q1242 (fun U hK => by rw [cr3]; exact hH.1.2.1 U hK _ q1253 rfl) rfl ?_)
      refine vv_sub (lv' := []) [] rfl ?_
      exact v_KX0_sending_13 hG hH hNc h
    · skip
      refine vv_callVX ok_X1_sending q1382 (m_KX1_sending hG hH er1 d) rfl (by omega) ⟨_, _, _, _, _, ez2, by rw [hG.1]; rfl⟩ rfl rfl (Nat.le_of_ble_eq_true rfl) dX0_sending_5 (vv_Tcatch [⟨0, 10, 13, 18⟩] ⟨0, 10, 17, 13⟩ [] rfl (fun z hz => Or.inr (by rw [List.mem_singleton.mp hz]; exact ⟨by decide, _, q1242, fun U hK => by rw [cr3]; exact hNc U hK⟩)) (by decide) (by decide) q694 (fun U hK => by rw [cr3]; exact hH.1.2.1 U hK _ q705 rfl) rfl ?_)
      refine vv_sub (lv' := []) [] rfl ?_
      exact v_KX0_sending_17 hG hH hNc h
theorem m_KX0_sending {l : Launch} {G : vv_G} {ad : Nat → Nat} (hG : vv_gok G) (hH : vv_hy l G ad) (hNc : ∀ U, vv_K G U → va_Nc "java/lang/IllegalArgumentException" "java/util/NoSuchElementException" U) {x0 : Nat} {x1 : Int32} {x2 : Int32} {x3 : Nat} {σ : vv_S} {r : Int32 × vv_S} (h : KX0_sending x0 x1 x2 x3 σ = some r) (d : Nat) : vv_Met l G MX0_sending (d + 11) [.ref x0, .int x1, .int x2, .ref x3] σ (.inl (some (.int r.1)), r.2) := vv_headH (by decide +kernel) (by intro h; cases h) (Nat.le_of_ble_eq_true rfl) rfl (v_KX0_sending_0 hG hH hNc h)
/-! ('X0', 'hold') -/
def KX0_hold_13 (s0 : Nat) (σ : vv_S) : Option (Int32 × vv_S) := some ((nI 1), σ)
theorem v_KX0_hold_13 {l : Launch} {G : vv_G} {d : Nat} {ad : Nat → Nat} (hG : vv_gok G) (hH : vv_hy l G ad) {s0 : Nat} {σ : vv_S} {r : Int32 × vv_S} (h : KX0_hold_13 s0 σ = some r) : vv_V l G MX0_hold (d + 11) 13 [] [.ref s0] σ (.inl (some (.int r.1)), r.2) := by
  unfold KX0_hold_13 at h
  refine vv_astore (lv' := [(4, .ref s0)]) dX0_hold_13 (by decide) [0] rfl ?_
  refine vv_iconst (v := (nI 1)) dX0_hold_15 (by decide) ?_
  cases h
  exact vv_iret rfl dX0_hold_16
def KX0_hold (x0 : Nat) (x1 : Int32) (x2 : Int32) (x3 : Nat) (σ : vv_S) : Option (Int32 × vv_S) := (isO σ x0 0).bind fun _ => (KX1_hold x0 x1 x2 σ).bind fun r1 => xh1 r1 "java/util/NoSuchElementException" (fun r3 => (sL r3.2 x3 (nI 0) (Int32.toInt64 r3.1)).bind fun σ4 => some ((nI 0), σ4)) (fun r3x => KX0_hold_13 r3x.1.2 r3x.2)
theorem v_KX0_hold_0 {l : Launch} {G : vv_G} {d : Nat} {ad : Nat → Nat} (hG : vv_gok G) (hH : vv_hy l G ad) {x0 : Nat} {x1 : Int32} {x2 : Int32} {x3 : Nat} {σ : vv_S} {r : Int32 × vv_S} (h : KX0_hold x0 x1 x2 x3 σ = some r) : vv_V l G MX0_hold (d + 11) 0 [(0, .ref x0), (1, .int x1), (2, .int x2), (3, .ref x3)] [] σ (.inl (some (.int r.1)), r.2) := by
  unfold KX0_hold at h
  refine vv_aload_n dX0_hold_0 rfl 3 rfl ?_
  refine vv_iconst (v := (nI 0)) dX0_hold_1 (by decide) ?_
  refine vv_aload_n dX0_hold_2 rfl 0 rfl ?_
  refine vv_iload_n dX0_hold_3 rfl 1 rfl ?_
  refine vv_iload_n dX0_hold_4 rfl 2 rfl ?_
  replace h := isO_o h; obtain ⟨fz2, sz2, ez2, h⟩ := h
  replace h := bd_o h; obtain ⟨r1, er1, h⟩ := h
  rcases r1 with r3 | r3x
  · refine vv_callV ok_X1_hold q1390 (m_KX1_hold hG hH er1 d) rfl (by omega) ⟨_, _, _, _, _, ez2, by rw [hG.1]; rfl⟩ rfl rfl (Nat.le_of_ble_eq_true rfl) dX0_hold_5 ?_
    replace h := xh1_l h
    refine vv_i2l dX0_hold_8 ?_
    replace h := sL_o h; obtain ⟨σ4, nσ4, qσ4, eσ4, iσ4, uσ4, h⟩ := h
    refine vv_last eσ4 iσ4 dX0_hold_9 ?_
    refine vv_sg uσ4 ?_
    refine vv_goto (tgt := 17) dX0_hold_10 (by decide) ?_
    refine vv_iconst (v := (nI 0)) dX0_hold_17 (by decide) ?_
    cases h
    exact vv_iret rfl dX0_hold_18
  · obtain ⟨cr3, h⟩ := xh1_r h
    refine vv_callVX ok_X1_hold q1390 (m_KX1_hold hG hH er1 d) rfl (by omega) ⟨_, _, _, _, _, ez2, by rw [hG.1]; rfl⟩ rfl rfl (Nat.le_of_ble_eq_true rfl) dX0_hold_5 (vv_Tcatch [] ⟨0, 10, 13, 18⟩ [] rfl (fun z hz => by cases hz) (by decide) (by decide) q1242 (fun U hK => by rw [cr3]; exact hH.1.2.1 U hK _ q1253 rfl) rfl ?_)
    refine vv_sub (lv' := []) [] rfl ?_
    exact v_KX0_hold_13 hG hH h
theorem m_KX0_hold {l : Launch} {G : vv_G} {ad : Nat → Nat} (hG : vv_gok G) (hH : vv_hy l G ad) {x0 : Nat} {x1 : Int32} {x2 : Int32} {x3 : Nat} {σ : vv_S} {r : Int32 × vv_S} (h : KX0_hold x0 x1 x2 x3 σ = some r) (d : Nat) : vv_Met l G MX0_hold (d + 11) [.ref x0, .int x1, .int x2, .ref x3] σ (.inl (some (.int r.1)), r.2) := vv_headH (by decide +kernel) (by intro h; cases h) (Nat.le_of_ble_eq_true rfl) rfl (v_KX0_hold_0 hG hH h)
/-! ('X0', 'thrower') -/
def KX0_thrower_17 (s0 : Nat) (σ : vv_S) : Option (Int32 × vv_S) := some ((nI 1), σ)
theorem v_KX0_thrower_17 {l : Launch} {G : vv_G} {d : Nat} {ad : Nat → Nat} (hG : vv_gok G) (hH : vv_hy l G ad) {s0 : Nat} {σ : vv_S} {r : Int32 × vv_S} (h : KX0_thrower_17 s0 σ = some r) : vv_V l G MX0_thrower (d + 22) 17 [] [.ref s0] σ (.inl (some (.int r.1)), r.2) := by
  unfold KX0_thrower_17 at h
  refine vv_astore (lv' := [(6, .ref s0)]) dX0_thrower_17 (by decide) [0] rfl ?_
  refine vv_iconst (v := (nI 1)) dX0_thrower_19 (by decide) ?_
  cases h
  exact vv_iret rfl dX0_thrower_20
def KX0_thrower (x0 : Nat) (x1 : Int32) (x2 : Int32) (x3 : Int32) (x4 : Int32) (x5 : Nat) (σ : vv_S) : Option (Int32 × vv_S) := (isO σ x0 0).bind fun _ => (KX1_thrower x0 x1 x2 x3 x4 σ).bind fun r1 => xh1 r1 "java/lang/IllegalArgumentException" (fun r3 => (sL r3.2 x5 (nI 0) (Int32.toInt64 r3.1)).bind fun σ4 => some ((nI 0), σ4)) (fun r3x => KX0_thrower_17 r3x.1.2 r3x.2)
theorem v_KX0_thrower_0 {l : Launch} {G : vv_G} {d : Nat} {ad : Nat → Nat} (hG : vv_gok G) (hH : vv_hy l G ad) {x0 : Nat} {x1 : Int32} {x2 : Int32} {x3 : Int32} {x4 : Int32} {x5 : Nat} {σ : vv_S} {r : Int32 × vv_S} (h : KX0_thrower x0 x1 x2 x3 x4 x5 σ = some r) : vv_V l G MX0_thrower (d + 22) 0 [(0, .ref x0), (1, .int x1), (2, .int x2), (3, .int x3), (4, .int x4), (5, .ref x5)] [] σ (.inl (some (.int r.1)), r.2) := by
  unfold KX0_thrower at h
  refine vv_aload dX0_thrower_0 5 rfl ?_
  refine vv_iconst (v := (nI 0)) dX0_thrower_2 (by decide) ?_
  refine vv_aload_n dX0_thrower_3 rfl 0 rfl ?_
  refine vv_iload_n dX0_thrower_4 rfl 1 rfl ?_
  refine vv_iload_n dX0_thrower_5 rfl 2 rfl ?_
  refine vv_iload_n dX0_thrower_6 rfl 3 rfl ?_
  refine vv_iload dX0_thrower_7 4 rfl ?_
  replace h := isO_o h; obtain ⟨fz2, sz2, ez2, h⟩ := h
  replace h := bd_o h; obtain ⟨r1, er1, h⟩ := h
  rcases r1 with r3 | r3x
  · refine vv_callV ok_X1_thrower q1407 (m_KX1_thrower hG hH er1 d) rfl (by omega) ⟨_, _, _, _, _, ez2, by rw [hG.1]; rfl⟩ rfl rfl (Nat.le_of_ble_eq_true rfl) dX0_thrower_9 ?_
    replace h := xh1_l h
    refine vv_i2l dX0_thrower_12 ?_
    replace h := sL_o h; obtain ⟨σ4, nσ4, qσ4, eσ4, iσ4, uσ4, h⟩ := h
    refine vv_last eσ4 iσ4 dX0_thrower_13 ?_
    refine vv_sg uσ4 ?_
    refine vv_goto (tgt := 21) dX0_thrower_14 (by decide) ?_
    refine vv_iconst (v := (nI 0)) dX0_thrower_21 (by decide) ?_
    cases h
    exact vv_iret rfl dX0_thrower_22
  · obtain ⟨cr3, h⟩ := xh1_r h
    refine vv_callVX ok_X1_thrower q1407 (m_KX1_thrower hG hH er1 d) rfl (by omega) ⟨_, _, _, _, _, ez2, by rw [hG.1]; rfl⟩ rfl rfl (Nat.le_of_ble_eq_true rfl) dX0_thrower_9 (vv_Tcatch [] ⟨0, 14, 17, 13⟩ [] rfl (fun z hz => by cases hz) (by decide) (by decide) q694 (fun U hK => by rw [cr3]; exact hH.1.2.1 U hK _ q705 rfl) rfl ?_)
    refine vv_sub (lv' := []) [] rfl ?_
    exact v_KX0_thrower_17 hG hH h
theorem m_KX0_thrower {l : Launch} {G : vv_G} {ad : Nat → Nat} (hG : vv_gok G) (hH : vv_hy l G ad) {x0 : Nat} {x1 : Int32} {x2 : Int32} {x3 : Int32} {x4 : Int32} {x5 : Nat} {σ : vv_S} {r : Int32 × vv_S} (h : KX0_thrower x0 x1 x2 x3 x4 x5 σ = some r) (d : Nat) : vv_Met l G MX0_thrower (d + 22) [.ref x0, .int x1, .int x2, .int x3, .int x4, .ref x5] σ (.inl (some (.int r.1)), r.2) := vv_headH (by decide +kernel) (by intro h; cases h) (Nat.le_of_ble_eq_true rfl) rfl (v_KX0_thrower_0 hG hH h)
/-! ('X0', 'stop') -/
def KX0_stop_21 (s0 : Nat) (σ : vv_S) : Option (Int32 × vv_S) := some ((nI 2), σ)
theorem v_KX0_stop_21 {l : Launch} {G : vv_G} {d : Nat} {ad : Nat → Nat} (hG : vv_gok G) (hH : vv_hy l G ad) (hNc : ∀ U, vv_K G U → va_Nc "java/lang/IllegalArgumentException" "java/util/NoSuchElementException" U) {s0 : Nat} {σ : vv_S} {r : Int32 × vv_S} (h : KX0_stop_21 s0 σ = some r) : vv_V l G MX0_stop (d + 32) 21 [] [.ref s0] σ (.inl (some (.int r.1)), r.2) := by
  unfold KX0_stop_21 at h
  refine vv_astore (lv' := [(6, .ref s0)]) dX0_stop_21 (by decide) [0] rfl ?_
  refine vv_iconst (v := (nI 2)) dX0_stop_23 (by decide) ?_
  cases h
  exact vv_iret rfl dX0_stop_24
def KX0_stop_17 (s0 : Nat) (σ : vv_S) : Option (Int32 × vv_S) := some ((nI 1), σ)
theorem v_KX0_stop_17 {l : Launch} {G : vv_G} {d : Nat} {ad : Nat → Nat} (hG : vv_gok G) (hH : vv_hy l G ad) (hNc : ∀ U, vv_K G U → va_Nc "java/lang/IllegalArgumentException" "java/util/NoSuchElementException" U) {s0 : Nat} {σ : vv_S} {r : Int32 × vv_S} (h : KX0_stop_17 s0 σ = some r) : vv_V l G MX0_stop (d + 32) 17 [] [.ref s0] σ (.inl (some (.int r.1)), r.2) := by
  unfold KX0_stop_17 at h
  refine vv_astore (lv' := [(6, .ref s0)]) dX0_stop_17 (by decide) [0] rfl ?_
  refine vv_iconst (v := (nI 1)) dX0_stop_19 (by decide) ?_
  cases h
  exact vv_iret rfl dX0_stop_20
def KX0_stop (x0 : Nat) (x1 : Int32) (x2 : Int32) (x3 : Int32) (x4 : Int32) (x5 : Nat) (σ : vv_S) : Option (Int32 × vv_S) := (isO σ x0 0).bind fun _ => (KX1_stop x0 x1 x2 x3 x4 σ).bind fun r1 => xh2 r1 "java/util/NoSuchElementException" "java/lang/IllegalArgumentException" (fun r3 => (sL r3.2 x5 (nI 0) (Int32.toInt64 r3.1)).bind fun σ4 => some ((nI 0), σ4)) (fun r3x => KX0_stop_17 r3x.1.2 r3x.2) (fun r3x => KX0_stop_21 r3x.1.2 r3x.2)
theorem v_KX0_stop_0 {l : Launch} {G : vv_G} {d : Nat} {ad : Nat → Nat} (hG : vv_gok G) (hH : vv_hy l G ad) (hNc : ∀ U, vv_K G U → va_Nc "java/lang/IllegalArgumentException" "java/util/NoSuchElementException" U) {x0 : Nat} {x1 : Int32} {x2 : Int32} {x3 : Int32} {x4 : Int32} {x5 : Nat} {σ : vv_S} {r : Int32 × vv_S} (h : KX0_stop x0 x1 x2 x3 x4 x5 σ = some r) : vv_V l G MX0_stop (d + 32) 0 [(0, .ref x0), (1, .int x1), (2, .int x2), (3, .int x3), (4, .int x4), (5, .ref x5)] [] σ (.inl (some (.int r.1)), r.2) := by
  unfold KX0_stop at h
  refine vv_aload dX0_stop_0 5 rfl ?_
  refine vv_iconst (v := (nI 0)) dX0_stop_2 (by decide) ?_
  refine vv_aload_n dX0_stop_3 rfl 0 rfl ?_
  refine vv_iload_n dX0_stop_4 rfl 1 rfl ?_
  refine vv_iload_n dX0_stop_5 rfl 2 rfl ?_
  refine vv_iload_n dX0_stop_6 rfl 3 rfl ?_
  refine vv_iload dX0_stop_7 4 rfl ?_
  replace h := isO_o h; obtain ⟨fz2, sz2, ez2, h⟩ := h
  replace h := bd_o h; obtain ⟨r1, er1, h⟩ := h
  rcases r1 with r3 | r3x
  · refine vv_callV ok_X1_stop q1420 (m_KX1_stop hG hH er1 d) rfl (by omega) ⟨_, _, _, _, _, ez2, by rw [hG.1]; rfl⟩ rfl rfl (Nat.le_of_ble_eq_true rfl) dX0_stop_9 ?_
    replace h := xh2_l h
    refine vv_i2l dX0_stop_12 ?_
    replace h := sL_o h; obtain ⟨σ4, nσ4, qσ4, eσ4, iσ4, uσ4, h⟩ := h
    refine vv_last eσ4 iσ4 dX0_stop_13 ?_
    refine vv_sg uσ4 ?_
    refine vv_goto (tgt := 25) dX0_stop_14 (by decide) ?_
    refine vv_iconst (v := (nI 0)) dX0_stop_25 (by decide) ?_
    cases h
    exact vv_iret rfl dX0_stop_26
  · rcases xh2_r h with ⟨cr3, h⟩ | ⟨cr3, h⟩
    · skip
      refine vv_callVX ok_X1_stop q1420 (m_KX1_stop hG hH er1 d) rfl (by omega) ⟨_, _, _, _, _, ez2, by rw [hG.1]; rfl⟩ rfl rfl (Nat.le_of_ble_eq_true rfl) dX0_stop_9 (vv_Tcatch [] ⟨0, 14, 17, 18⟩ [⟨0, 14, 21, 13⟩] rfl (fun z hz => by cases hz) (by decide) (by decide) q1242 (fun U hK => by rw [cr3]; exact hH.1.2.1 U hK _ q1253 rfl) rfl ?_)
      refine vv_sub (lv' := []) [] rfl ?_
      exact v_KX0_stop_17 hG hH hNc h
    · skip
      refine vv_callVX ok_X1_stop q1420 (m_KX1_stop hG hH er1 d) rfl (by omega) ⟨_, _, _, _, _, ez2, by rw [hG.1]; rfl⟩ rfl rfl (Nat.le_of_ble_eq_true rfl) dX0_stop_9 (vv_Tcatch [⟨0, 14, 17, 18⟩] ⟨0, 14, 21, 13⟩ [] rfl (fun z hz => Or.inr (by rw [List.mem_singleton.mp hz]; exact ⟨by decide, _, q1242, fun U hK => by rw [cr3]; exact hNc U hK⟩)) (by decide) (by decide) q694 (fun U hK => by rw [cr3]; exact hH.1.2.1 U hK _ q705 rfl) rfl ?_)
      refine vv_sub (lv' := []) [] rfl ?_
      exact v_KX0_stop_21 hG hH hNc h
theorem m_KX0_stop {l : Launch} {G : vv_G} {ad : Nat → Nat} (hG : vv_gok G) (hH : vv_hy l G ad) (hNc : ∀ U, vv_K G U → va_Nc "java/lang/IllegalArgumentException" "java/util/NoSuchElementException" U) {x0 : Nat} {x1 : Int32} {x2 : Int32} {x3 : Int32} {x4 : Int32} {x5 : Nat} {σ : vv_S} {r : Int32 × vv_S} (h : KX0_stop x0 x1 x2 x3 x4 x5 σ = some r) (d : Nat) : vv_Met l G MX0_stop (d + 32) [.ref x0, .int x1, .int x2, .int x3, .int x4, .ref x5] σ (.inl (some (.int r.1)), r.2) := vv_headH (by decide +kernel) (by intro h; cases h) (Nat.le_of_ble_eq_true rfl) rfl (v_KX0_stop_0 hG hH hNc h)
/-! ('X0', 'see') -/
def KX0_see_15 (ad : Nat → Nat) (s0 : Nat) (σ : vv_S) : Option (Int32 × vv_S) := some ((nI 1), σ)
theorem v_KX0_see_15 {l : Launch} {G : vv_G} {d : Nat} {ad : Nat → Nat} (hG : vv_gok G) (hH : vv_hy l G ad) {s0 : Nat} {σ : vv_S} {r : Int32 × vv_S} (h : KX0_see_15 ad s0 σ = some r) : vv_V l G MX0_see (d + 11) 15 [] [.ref s0] σ (.inl (some (.int r.1)), r.2) := by
  unfold KX0_see_15 at h
  refine vv_astore (lv' := [(5, .ref s0)]) dX0_see_15 (by decide) [0] rfl ?_
  refine vv_iconst (v := (nI 1)) dX0_see_17 (by decide) ?_
  cases h
  exact vv_iret rfl dX0_see_18
def KX0_see (ad : Nat → Nat) (x0 : Nat) (x1 : Int32) (x2 : Int32) (x3 : Int32) (x4 : Nat) (σ : vv_S) : Option (Int32 × vv_S) := (isO σ x0 0).bind fun _ => (KX1_see ad x0 x1 x2 x3 σ).bind fun r1 => xh1 r1 "java/util/NoSuchElementException" (fun r3 => (sL r3.2 x4 (nI 0) (Int32.toInt64 r3.1)).bind fun σ4 => some ((nI 0), σ4)) (fun r3x => KX0_see_15 ad r3x.1.2 r3x.2)
theorem v_KX0_see_0 {l : Launch} {G : vv_G} {d : Nat} {ad : Nat → Nat} (hG : vv_gok G) (hH : vv_hy l G ad) {x0 : Nat} {x1 : Int32} {x2 : Int32} {x3 : Int32} {x4 : Nat} {σ : vv_S} {r : Int32 × vv_S} (h : KX0_see ad x0 x1 x2 x3 x4 σ = some r) : vv_V l G MX0_see (d + 11) 0 [(0, .ref x0), (1, .int x1), (2, .int x2), (3, .int x3), (4, .ref x4)] [] σ (.inl (some (.int r.1)), r.2) := by
  unfold KX0_see at h
  refine vv_aload dX0_see_0 4 rfl ?_
  refine vv_iconst (v := (nI 0)) dX0_see_2 (by decide) ?_
  refine vv_aload_n dX0_see_3 rfl 0 rfl ?_
  refine vv_iload_n dX0_see_4 rfl 1 rfl ?_
  refine vv_iload_n dX0_see_5 rfl 2 rfl ?_
  refine vv_iload_n dX0_see_6 rfl 3 rfl ?_
  replace h := isO_o h; obtain ⟨fz2, sz2, ez2, h⟩ := h
  replace h := bd_o h; obtain ⟨r1, er1, h⟩ := h
  rcases r1 with r3 | r3x
  · refine vv_callV ok_X1_see q1433 (m_KX1_see hG hH er1 d) rfl (by omega) ⟨_, _, _, _, _, ez2, by rw [hG.1]; rfl⟩ rfl rfl (Nat.le_of_ble_eq_true rfl) dX0_see_7 ?_
    replace h := xh1_l h
    refine vv_i2l dX0_see_10 ?_
    replace h := sL_o h; obtain ⟨σ4, nσ4, qσ4, eσ4, iσ4, uσ4, h⟩ := h
    refine vv_last eσ4 iσ4 dX0_see_11 ?_
    refine vv_sg uσ4 ?_
    refine vv_goto (tgt := 19) dX0_see_12 (by decide) ?_
    refine vv_iconst (v := (nI 0)) dX0_see_19 (by decide) ?_
    cases h
    exact vv_iret rfl dX0_see_20
  · obtain ⟨cr3, h⟩ := xh1_r h
    refine vv_callVX ok_X1_see q1433 (m_KX1_see hG hH er1 d) rfl (by omega) ⟨_, _, _, _, _, ez2, by rw [hG.1]; rfl⟩ rfl rfl (Nat.le_of_ble_eq_true rfl) dX0_see_7 (vv_Tcatch [] ⟨0, 12, 15, 18⟩ [] rfl (fun z hz => by cases hz) (by decide) (by decide) q1242 (fun U hK => by rw [cr3]; exact hH.1.2.1 U hK _ q1253 rfl) rfl ?_)
    refine vv_sub (lv' := []) [] rfl ?_
    exact v_KX0_see_15 hG hH h
theorem m_KX0_see {l : Launch} {G : vv_G} {ad : Nat → Nat} (hG : vv_gok G) (hH : vv_hy l G ad) {x0 : Nat} {x1 : Int32} {x2 : Int32} {x3 : Int32} {x4 : Nat} {σ : vv_S} {r : Int32 × vv_S} (h : KX0_see ad x0 x1 x2 x3 x4 σ = some r) (d : Nat) : vv_Met l G MX0_see (d + 11) [.ref x0, .int x1, .int x2, .int x3, .ref x4] σ (.inl (some (.int r.1)), r.2) := vv_headH (by decide +kernel) (by intro h; cases h) (Nat.le_of_ble_eq_true rfl) rfl (v_KX0_see_0 hG hH h)
/-! ('X0', 'opened') -/
def KX0_opened_12 (fo : Nat → Nat → vv_S → Option Int32) (ad : Nat → Nat) (s0 : Nat) (σ : vv_S) : Option (Int32 × vv_S) := some ((nI 1), σ)
theorem v_KX0_opened_12 {l : Launch} {G : vv_G} {d : Nat} {ad : Nat → Nat} {fo : Nat → Nat → vv_S → Option Int32} (hG : vv_gok G) (hH : vv_hy l G ad) (hfo : ∀ {a vs : Nat} {σ : vv_S} {r : Int32}, fo a vs σ = some r → vv_Form l G d a vs σ r) {s0 : Nat} {σ : vv_S} {r : Int32 × vv_S} (h : KX0_opened_12 fo ad s0 σ = some r) : vv_V l G MX0_opened (d + 11) 12 [] [.ref s0] σ (.inl (some (.int r.1)), r.2) := by
  unfold KX0_opened_12 at h
  refine vv_astore_n (lv' := [(3, .ref s0)]) dX0_opened_12 rfl (by decide) [0] rfl ?_
  refine vv_iconst (v := (nI 1)) dX0_opened_13 (by decide) ?_
  cases h
  exact vv_iret rfl dX0_opened_14
def KX0_opened (fo : Nat → Nat → vv_S → Option Int32) (ad : Nat → Nat) (x0 : Nat) (x1 : Int32) (x2 : Nat) (σ : vv_S) : Option (Int32 × vv_S) := (isO σ x0 0).bind fun _ => (KX1_opened fo ad x0 x1 σ).bind fun r1 => xh1 r1 "java/util/NoSuchElementException" (fun r3 => (sL r3.2 x2 (nI 0) (Int32.toInt64 r3.1)).bind fun σ4 => some ((nI 0), σ4)) (fun r3x => KX0_opened_12 fo ad r3x.1.2 r3x.2)
theorem v_KX0_opened_0 {l : Launch} {G : vv_G} {d : Nat} {ad : Nat → Nat} {fo : Nat → Nat → vv_S → Option Int32} (hG : vv_gok G) (hH : vv_hy l G ad) (hfo : ∀ {a vs : Nat} {σ : vv_S} {r : Int32}, fo a vs σ = some r → vv_Form l G d a vs σ r) {x0 : Nat} {x1 : Int32} {x2 : Nat} {σ : vv_S} {r : Int32 × vv_S} (h : KX0_opened fo ad x0 x1 x2 σ = some r) : vv_V l G MX0_opened (d + 11) 0 [(0, .ref x0), (1, .int x1), (2, .ref x2)] [] σ (.inl (some (.int r.1)), r.2) := by
  unfold KX0_opened at h
  refine vv_aload_n dX0_opened_0 rfl 2 rfl ?_
  refine vv_iconst (v := (nI 0)) dX0_opened_1 (by decide) ?_
  refine vv_aload_n dX0_opened_2 rfl 0 rfl ?_
  refine vv_iload_n dX0_opened_3 rfl 1 rfl ?_
  replace h := isO_o h; obtain ⟨fz2, sz2, ez2, h⟩ := h
  replace h := bd_o h; obtain ⟨r1, er1, h⟩ := h
  rcases r1 with r3 | r3x
  · refine vv_callV ok_X1_opened q1440 (m_KX1_opened hG hH hfo er1 d) rfl (by omega) ⟨_, _, _, _, _, ez2, by rw [hG.1]; rfl⟩ rfl rfl (Nat.le_of_ble_eq_true rfl) dX0_opened_4 ?_
    replace h := xh1_l h
    refine vv_i2l dX0_opened_7 ?_
    replace h := sL_o h; obtain ⟨σ4, nσ4, qσ4, eσ4, iσ4, uσ4, h⟩ := h
    refine vv_last eσ4 iσ4 dX0_opened_8 ?_
    refine vv_sg uσ4 ?_
    refine vv_goto (tgt := 15) dX0_opened_9 (by decide) ?_
    refine vv_iconst (v := (nI 0)) dX0_opened_15 (by decide) ?_
    cases h
    exact vv_iret rfl dX0_opened_16
  · obtain ⟨cr3, h⟩ := xh1_r h
    refine vv_callVX ok_X1_opened q1440 (m_KX1_opened hG hH hfo er1 d) rfl (by omega) ⟨_, _, _, _, _, ez2, by rw [hG.1]; rfl⟩ rfl rfl (Nat.le_of_ble_eq_true rfl) dX0_opened_4 (vv_Tcatch [] ⟨0, 9, 12, 18⟩ [] rfl (fun z hz => by cases hz) (by decide) (by decide) q1242 (fun U hK => by rw [cr3]; exact hH.1.2.1 U hK _ q1253 rfl) rfl ?_)
    refine vv_sub (lv' := []) [] rfl ?_
    exact v_KX0_opened_12 hG hH hfo h
theorem m_KX0_opened {l : Launch} {G : vv_G} {d : Nat} {ad : Nat → Nat} {fo : Nat → Nat → vv_S → Option Int32} (hG : vv_gok G) (hH : vv_hy l G ad) (hfo : ∀ {a vs : Nat} {σ : vv_S} {r : Int32}, fo a vs σ = some r → vv_Form l G d a vs σ r) {x0 : Nat} {x1 : Int32} {x2 : Nat} {σ : vv_S} {r : Int32 × vv_S} (h : KX0_opened fo ad x0 x1 x2 σ = some r) (d9 : Nat) (e9 : d9 = d := by rfl) : vv_Met l G MX0_opened (d9 + 11) [.ref x0, .int x1, .ref x2] σ (.inl (some (.int r.1)), r.2) := by
  subst e9
  exact vv_headH (by decide +kernel) (by intro h; cases h) (Nat.le_of_ble_eq_true rfl) rfl (v_KX0_opened_0 hG hH hfo h)
/-! ('X0', 'next') -/
def KX0_next_12 (fo : Nat → Nat → vv_S → Option Int32) (ad : Nat → Nat) (s0 : Nat) (σ : vv_S) : Option (Int32 × vv_S) := some ((nI 1), σ)
theorem v_KX0_next_12 {l : Launch} {G : vv_G} {d : Nat} {ad : Nat → Nat} {fo : Nat → Nat → vv_S → Option Int32} (hG : vv_gok G) (hH : vv_hy l G ad) (hfo : ∀ {a vs : Nat} {σ : vv_S} {r : Int32}, fo a vs σ = some r → vv_Form l G d a vs σ r) {s0 : Nat} {σ : vv_S} {r : Int32 × vv_S} (h : KX0_next_12 fo ad s0 σ = some r) : vv_V l G MX0_next (d + 11) 12 [] [.ref s0] σ (.inl (some (.int r.1)), r.2) := by
  unfold KX0_next_12 at h
  refine vv_astore_n (lv' := [(3, .ref s0)]) dX0_next_12 rfl (by decide) [0] rfl ?_
  refine vv_iconst (v := (nI 1)) dX0_next_13 (by decide) ?_
  cases h
  exact vv_iret rfl dX0_next_14
def KX0_next (fo : Nat → Nat → vv_S → Option Int32) (ad : Nat → Nat) (x0 : Nat) (x1 : Int32) (x2 : Nat) (σ : vv_S) : Option (Int32 × vv_S) := (isO σ x0 0).bind fun _ => (KX1_next fo ad x0 x1 σ).bind fun r1 => xh1 r1 "java/util/NoSuchElementException" (fun r3 => (sL r3.2 x2 (nI 0) (Int32.toInt64 r3.1)).bind fun σ4 => some ((nI 0), σ4)) (fun r3x => KX0_next_12 fo ad r3x.1.2 r3x.2)
theorem v_KX0_next_0 {l : Launch} {G : vv_G} {d : Nat} {ad : Nat → Nat} {fo : Nat → Nat → vv_S → Option Int32} (hG : vv_gok G) (hH : vv_hy l G ad) (hfo : ∀ {a vs : Nat} {σ : vv_S} {r : Int32}, fo a vs σ = some r → vv_Form l G d a vs σ r) {x0 : Nat} {x1 : Int32} {x2 : Nat} {σ : vv_S} {r : Int32 × vv_S} (h : KX0_next fo ad x0 x1 x2 σ = some r) : vv_V l G MX0_next (d + 11) 0 [(0, .ref x0), (1, .int x1), (2, .ref x2)] [] σ (.inl (some (.int r.1)), r.2) := by
  unfold KX0_next at h
  refine vv_aload_n dX0_next_0 rfl 2 rfl ?_
  refine vv_iconst (v := (nI 0)) dX0_next_1 (by decide) ?_
  refine vv_aload_n dX0_next_2 rfl 0 rfl ?_
  refine vv_iload_n dX0_next_3 rfl 1 rfl ?_
  replace h := isO_o h; obtain ⟨fz2, sz2, ez2, h⟩ := h
  replace h := bd_o h; obtain ⟨r1, er1, h⟩ := h
  rcases r1 with r3 | r3x
  · refine vv_callV ok_X1_next q1458 (m_KX1_next hG hH hfo er1 d) rfl (by omega) ⟨_, _, _, _, _, ez2, by rw [hG.1]; rfl⟩ rfl rfl (Nat.le_of_ble_eq_true rfl) dX0_next_4 ?_
    replace h := xh1_l h
    refine vv_i2l dX0_next_7 ?_
    replace h := sL_o h; obtain ⟨σ4, nσ4, qσ4, eσ4, iσ4, uσ4, h⟩ := h
    refine vv_last eσ4 iσ4 dX0_next_8 ?_
    refine vv_sg uσ4 ?_
    refine vv_goto (tgt := 15) dX0_next_9 (by decide) ?_
    refine vv_iconst (v := (nI 0)) dX0_next_15 (by decide) ?_
    cases h
    exact vv_iret rfl dX0_next_16
  · obtain ⟨cr3, h⟩ := xh1_r h
    refine vv_callVX ok_X1_next q1458 (m_KX1_next hG hH hfo er1 d) rfl (by omega) ⟨_, _, _, _, _, ez2, by rw [hG.1]; rfl⟩ rfl rfl (Nat.le_of_ble_eq_true rfl) dX0_next_4 (vv_Tcatch [] ⟨0, 9, 12, 18⟩ [] rfl (fun z hz => by cases hz) (by decide) (by decide) q1242 (fun U hK => by rw [cr3]; exact hH.1.2.1 U hK _ q1253 rfl) rfl ?_)
    refine vv_sub (lv' := []) [] rfl ?_
    exact v_KX0_next_12 hG hH hfo h
theorem m_KX0_next {l : Launch} {G : vv_G} {d : Nat} {ad : Nat → Nat} {fo : Nat → Nat → vv_S → Option Int32} (hG : vv_gok G) (hH : vv_hy l G ad) (hfo : ∀ {a vs : Nat} {σ : vv_S} {r : Int32}, fo a vs σ = some r → vv_Form l G d a vs σ r) {x0 : Nat} {x1 : Int32} {x2 : Nat} {σ : vv_S} {r : Int32 × vv_S} (h : KX0_next fo ad x0 x1 x2 σ = some r) (d9 : Nat) (e9 : d9 = d := by rfl) : vv_Met l G MX0_next (d9 + 11) [.ref x0, .int x1, .ref x2] σ (.inl (some (.int r.1)), r.2) := by
  subst e9
  exact vv_headH (by decide +kernel) (by intro h; cases h) (Nat.le_of_ble_eq_true rfl) rfl (v_KX0_next_0 hG hH hfo h)
/-! ('X0', 'pooled') -/
def KX0_pooled_12 (fo : Nat → Nat → vv_S → Option Int32) (s0 : Nat) (σ : vv_S) : Option (Int32 × vv_S) := some ((nI 1), σ)
theorem v_KX0_pooled_12 {l : Launch} {G : vv_G} {d : Nat} {ad : Nat → Nat} {fo : Nat → Nat → vv_S → Option Int32} (hG : vv_gok G) (hH : vv_hy l G ad) (hfo : ∀ {a vs : Nat} {σ : vv_S} {r : Int32}, fo a vs σ = some r → vv_Form l G d a vs σ r) {s0 : Nat} {σ : vv_S} {r : Int32 × vv_S} (h : KX0_pooled_12 fo s0 σ = some r) : vv_V l G MX0_pooled (d + 10) 12 [] [.ref s0] σ (.inl (some (.int r.1)), r.2) := by
  unfold KX0_pooled_12 at h
  refine vv_astore_n (lv' := [(3, .ref s0)]) dX0_pooled_12 rfl (by decide) [0] rfl ?_
  refine vv_iconst (v := (nI 1)) dX0_pooled_13 (by decide) ?_
  cases h
  exact vv_iret rfl dX0_pooled_14
def KX0_pooled (fo : Nat → Nat → vv_S → Option Int32) (x0 : Nat) (x1 : Int32) (x2 : Nat) (σ : vv_S) : Option (Int32 × vv_S) := (isO σ x0 0).bind fun _ => (KX1_pooled fo x0 x1 σ).bind fun r1 => xh1 r1 "java/lang/IllegalArgumentException" (fun r3 => (sL r3.2 x2 (nI 0) (Int32.toInt64 r3.1)).bind fun σ4 => some ((nI 0), σ4)) (fun r3x => KX0_pooled_12 fo r3x.1.2 r3x.2)
theorem v_KX0_pooled_0 {l : Launch} {G : vv_G} {d : Nat} {ad : Nat → Nat} {fo : Nat → Nat → vv_S → Option Int32} (hG : vv_gok G) (hH : vv_hy l G ad) (hfo : ∀ {a vs : Nat} {σ : vv_S} {r : Int32}, fo a vs σ = some r → vv_Form l G d a vs σ r) {x0 : Nat} {x1 : Int32} {x2 : Nat} {σ : vv_S} {r : Int32 × vv_S} (h : KX0_pooled fo x0 x1 x2 σ = some r) : vv_V l G MX0_pooled (d + 10) 0 [(0, .ref x0), (1, .int x1), (2, .ref x2)] [] σ (.inl (some (.int r.1)), r.2) := by
  unfold KX0_pooled at h
  refine vv_aload_n dX0_pooled_0 rfl 2 rfl ?_
  refine vv_iconst (v := (nI 0)) dX0_pooled_1 (by decide) ?_
  refine vv_aload_n dX0_pooled_2 rfl 0 rfl ?_
  refine vv_iload_n dX0_pooled_3 rfl 1 rfl ?_
  replace h := isO_o h; obtain ⟨fz2, sz2, ez2, h⟩ := h
  replace h := bd_o h; obtain ⟨r1, er1, h⟩ := h
  rcases r1 with r3 | r3x
  · refine vv_callV ok_X1_pooled q1468 (m_KX1_pooled hG hH hfo er1 d) rfl (by omega) ⟨_, _, _, _, _, ez2, by rw [hG.1]; rfl⟩ rfl rfl (Nat.le_of_ble_eq_true rfl) dX0_pooled_4 ?_
    replace h := xh1_l h
    refine vv_i2l dX0_pooled_7 ?_
    replace h := sL_o h; obtain ⟨σ4, nσ4, qσ4, eσ4, iσ4, uσ4, h⟩ := h
    refine vv_last eσ4 iσ4 dX0_pooled_8 ?_
    refine vv_sg uσ4 ?_
    refine vv_goto (tgt := 15) dX0_pooled_9 (by decide) ?_
    refine vv_iconst (v := (nI 0)) dX0_pooled_15 (by decide) ?_
    cases h
    exact vv_iret rfl dX0_pooled_16
  · obtain ⟨cr3, h⟩ := xh1_r h
    refine vv_callVX ok_X1_pooled q1468 (m_KX1_pooled hG hH hfo er1 d) rfl (by omega) ⟨_, _, _, _, _, ez2, by rw [hG.1]; rfl⟩ rfl rfl (Nat.le_of_ble_eq_true rfl) dX0_pooled_4 (vv_Tcatch [] ⟨0, 9, 12, 13⟩ [] rfl (fun z hz => by cases hz) (by decide) (by decide) q694 (fun U hK => by rw [cr3]; exact hH.1.2.1 U hK _ q705 rfl) rfl ?_)
    refine vv_sub (lv' := []) [] rfl ?_
    exact v_KX0_pooled_12 hG hH hfo h
theorem m_KX0_pooled {l : Launch} {G : vv_G} {d : Nat} {ad : Nat → Nat} {fo : Nat → Nat → vv_S → Option Int32} (hG : vv_gok G) (hH : vv_hy l G ad) (hfo : ∀ {a vs : Nat} {σ : vv_S} {r : Int32}, fo a vs σ = some r → vv_Form l G d a vs σ r) {x0 : Nat} {x1 : Int32} {x2 : Nat} {σ : vv_S} {r : Int32 × vv_S} (h : KX0_pooled fo x0 x1 x2 σ = some r) (d9 : Nat) (e9 : d9 = d := by rfl) : vv_Met l G MX0_pooled (d9 + 10) [.ref x0, .int x1, .ref x2] σ (.inl (some (.int r.1)), r.2) := by
  subst e9
  exact vv_headH (by decide +kernel) (by intro h; cases h) (Nat.le_of_ble_eq_true rfl) rfl (v_KX0_pooled_0 hG hH hfo h)
/-! ('X0', 'game') -/
def KX0_game_19 (fo : Nat → Nat → vv_S → Option Int32) (s0 : Nat) (σ : vv_S) : Option (Int32 × vv_S) := some ((nI 2), σ)
theorem v_KX0_game_19 {l : Launch} {G : vv_G} {d : Nat} {ad : Nat → Nat} {fo : Nat → Nat → vv_S → Option Int32} (hG : vv_gok G) (hH : vv_hy l G ad) (hNc : ∀ U, vv_K G U → va_Nc "java/lang/IllegalArgumentException" "java/util/NoSuchElementException" U) (hfo : ∀ {a vs : Nat} {σ : vv_S} {r : Int32}, fo a vs σ = some r → vv_Form l G d a vs σ r) {s0 : Nat} {σ : vv_S} {r : Int32 × vv_S} (h : KX0_game_19 fo s0 σ = some r) : vv_V l G MX0_game (d + 11) 19 [] [.ref s0] σ (.inl (some (.int r.1)), r.2) := by
  unfold KX0_game_19 at h
  refine vv_astore (lv' := [(5, .ref s0)]) dX0_game_19 (by decide) [0] rfl ?_
  refine vv_iconst (v := (nI 2)) dX0_game_21 (by decide) ?_
  cases h
  exact vv_iret rfl dX0_game_22
def KX0_game_15 (fo : Nat → Nat → vv_S → Option Int32) (s0 : Nat) (σ : vv_S) : Option (Int32 × vv_S) := some ((nI 1), σ)
theorem v_KX0_game_15 {l : Launch} {G : vv_G} {d : Nat} {ad : Nat → Nat} {fo : Nat → Nat → vv_S → Option Int32} (hG : vv_gok G) (hH : vv_hy l G ad) (hNc : ∀ U, vv_K G U → va_Nc "java/lang/IllegalArgumentException" "java/util/NoSuchElementException" U) (hfo : ∀ {a vs : Nat} {σ : vv_S} {r : Int32}, fo a vs σ = some r → vv_Form l G d a vs σ r) {s0 : Nat} {σ : vv_S} {r : Int32 × vv_S} (h : KX0_game_15 fo s0 σ = some r) : vv_V l G MX0_game (d + 11) 15 [] [.ref s0] σ (.inl (some (.int r.1)), r.2) := by
  unfold KX0_game_15 at h
  refine vv_astore (lv' := [(5, .ref s0)]) dX0_game_15 (by decide) [0] rfl ?_
  refine vv_iconst (v := (nI 1)) dX0_game_17 (by decide) ?_
  cases h
  exact vv_iret rfl dX0_game_18
def KX0_game (fo : Nat → Nat → vv_S → Option Int32) (x0 : Nat) (x1 : Int32) (x2 : Int32) (x3 : Int32) (x4 : Nat) (σ : vv_S) : Option (Int32 × vv_S) := (isO σ x0 0).bind fun _ => (KX1_game fo x0 x1 x2 x3 σ).bind fun r1 => xh2 r1 "java/util/NoSuchElementException" "java/lang/IllegalArgumentException" (fun r3 => (sL r3.2 x4 (nI 0) (Int32.toInt64 r3.1)).bind fun σ4 => some ((nI 0), σ4)) (fun r3x => KX0_game_15 fo r3x.1.2 r3x.2) (fun r3x => KX0_game_19 fo r3x.1.2 r3x.2)
theorem v_KX0_game_0 {l : Launch} {G : vv_G} {d : Nat} {ad : Nat → Nat} {fo : Nat → Nat → vv_S → Option Int32} (hG : vv_gok G) (hH : vv_hy l G ad) (hNc : ∀ U, vv_K G U → va_Nc "java/lang/IllegalArgumentException" "java/util/NoSuchElementException" U) (hfo : ∀ {a vs : Nat} {σ : vv_S} {r : Int32}, fo a vs σ = some r → vv_Form l G d a vs σ r) {x0 : Nat} {x1 : Int32} {x2 : Int32} {x3 : Int32} {x4 : Nat} {σ : vv_S} {r : Int32 × vv_S} (h : KX0_game fo x0 x1 x2 x3 x4 σ = some r) : vv_V l G MX0_game (d + 11) 0 [(0, .ref x0), (1, .int x1), (2, .int x2), (3, .int x3), (4, .ref x4)] [] σ (.inl (some (.int r.1)), r.2) := by
  unfold KX0_game at h
  refine vv_aload dX0_game_0 4 rfl ?_
  refine vv_iconst (v := (nI 0)) dX0_game_2 (by decide) ?_
  refine vv_aload_n dX0_game_3 rfl 0 rfl ?_
  refine vv_iload_n dX0_game_4 rfl 1 rfl ?_
  refine vv_iload_n dX0_game_5 rfl 2 rfl ?_
  refine vv_iload_n dX0_game_6 rfl 3 rfl ?_
  replace h := isO_o h; obtain ⟨fz2, sz2, ez2, h⟩ := h
  replace h := bd_o h; obtain ⟨r1, er1, h⟩ := h
  rcases r1 with r3 | r3x
  · refine vv_callV ok_X1_game q1475 (m_KX1_game hG hH hfo er1 d) rfl (by omega) ⟨_, _, _, _, _, ez2, by rw [hG.1]; rfl⟩ rfl rfl (Nat.le_of_ble_eq_true rfl) dX0_game_7 ?_
    replace h := xh2_l h
    refine vv_i2l dX0_game_10 ?_
    replace h := sL_o h; obtain ⟨σ4, nσ4, qσ4, eσ4, iσ4, uσ4, h⟩ := h
    refine vv_last eσ4 iσ4 dX0_game_11 ?_
    refine vv_sg uσ4 ?_
    refine vv_goto (tgt := 23) dX0_game_12 (by decide) ?_
    refine vv_iconst (v := (nI 0)) dX0_game_23 (by decide) ?_
    cases h
    exact vv_iret rfl dX0_game_24
  · rcases xh2_r h with ⟨cr3, h⟩ | ⟨cr3, h⟩
    · skip
      refine vv_callVX ok_X1_game q1475 (m_KX1_game hG hH hfo er1 d) rfl (by omega) ⟨_, _, _, _, _, ez2, by rw [hG.1]; rfl⟩ rfl rfl (Nat.le_of_ble_eq_true rfl) dX0_game_7 (vv_Tcatch [] ⟨0, 12, 15, 18⟩ [⟨0, 12, 19, 13⟩] rfl (fun z hz => by cases hz) (by decide) (by decide) q1242 (fun U hK => by rw [cr3]; exact hH.1.2.1 U hK _ q1253 rfl) rfl ?_)
      refine vv_sub (lv' := []) [] rfl ?_
      exact v_KX0_game_15 hG hH hNc hfo h
    · skip
      refine vv_callVX ok_X1_game q1475 (m_KX1_game hG hH hfo er1 d) rfl (by omega) ⟨_, _, _, _, _, ez2, by rw [hG.1]; rfl⟩ rfl rfl (Nat.le_of_ble_eq_true rfl) dX0_game_7 (vv_Tcatch [⟨0, 12, 15, 18⟩] ⟨0, 12, 19, 13⟩ [] rfl (fun z hz => Or.inr (by rw [List.mem_singleton.mp hz]; exact ⟨by decide, _, q1242, fun U hK => by rw [cr3]; exact hNc U hK⟩)) (by decide) (by decide) q694 (fun U hK => by rw [cr3]; exact hH.1.2.1 U hK _ q705 rfl) rfl ?_)
      refine vv_sub (lv' := []) [] rfl ?_
      exact v_KX0_game_19 hG hH hNc hfo h
theorem m_KX0_game {l : Launch} {G : vv_G} {d : Nat} {ad : Nat → Nat} {fo : Nat → Nat → vv_S → Option Int32} (hG : vv_gok G) (hH : vv_hy l G ad) (hNc : ∀ U, vv_K G U → va_Nc "java/lang/IllegalArgumentException" "java/util/NoSuchElementException" U) (hfo : ∀ {a vs : Nat} {σ : vv_S} {r : Int32}, fo a vs σ = some r → vv_Form l G d a vs σ r) {x0 : Nat} {x1 : Int32} {x2 : Int32} {x3 : Int32} {x4 : Nat} {σ : vv_S} {r : Int32 × vv_S} (h : KX0_game fo x0 x1 x2 x3 x4 σ = some r) (d9 : Nat) (e9 : d9 = d := by rfl) : vv_Met l G MX0_game (d9 + 11) [.ref x0, .int x1, .int x2, .int x3, .ref x4] σ (.inl (some (.int r.1)), r.2) := by
  subst e9
  exact vv_headH (by decide +kernel) (by intro h; cases h) (Nat.le_of_ble_eq_true rfl) rfl (v_KX0_game_0 hG hH hNc hfo h)
/-! ('X0', 'years') -/
def KX0_years_19 (fo : Nat → Nat → vv_S → Option Int32) (s0 : Nat) (σ : vv_S) : Option (Int32 × vv_S) := some ((nI 2), σ)
theorem v_KX0_years_19 {l : Launch} {G : vv_G} {d : Nat} {ad : Nat → Nat} {fo : Nat → Nat → vv_S → Option Int32} (hG : vv_gok G) (hH : vv_hy l G ad) (hNc : ∀ U, vv_K G U → va_Nc "java/lang/IllegalArgumentException" "java/util/NoSuchElementException" U) (hfo : ∀ {a vs : Nat} {σ : vv_S} {r : Int32}, fo a vs σ = some r → vv_Form l G d a vs σ r) {s0 : Nat} {σ : vv_S} {r : Int32 × vv_S} (h : KX0_years_19 fo s0 σ = some r) : vv_V l G MX0_years (d + 11) 19 [] [.ref s0] σ (.inl (some (.int r.1)), r.2) := by
  unfold KX0_years_19 at h
  refine vv_astore (lv' := [(5, .ref s0)]) dX0_years_19 (by decide) [0] rfl ?_
  refine vv_iconst (v := (nI 2)) dX0_years_21 (by decide) ?_
  cases h
  exact vv_iret rfl dX0_years_22
def KX0_years_15 (fo : Nat → Nat → vv_S → Option Int32) (s0 : Nat) (σ : vv_S) : Option (Int32 × vv_S) := some ((nI 1), σ)
theorem v_KX0_years_15 {l : Launch} {G : vv_G} {d : Nat} {ad : Nat → Nat} {fo : Nat → Nat → vv_S → Option Int32} (hG : vv_gok G) (hH : vv_hy l G ad) (hNc : ∀ U, vv_K G U → va_Nc "java/lang/IllegalArgumentException" "java/util/NoSuchElementException" U) (hfo : ∀ {a vs : Nat} {σ : vv_S} {r : Int32}, fo a vs σ = some r → vv_Form l G d a vs σ r) {s0 : Nat} {σ : vv_S} {r : Int32 × vv_S} (h : KX0_years_15 fo s0 σ = some r) : vv_V l G MX0_years (d + 11) 15 [] [.ref s0] σ (.inl (some (.int r.1)), r.2) := by
  unfold KX0_years_15 at h
  refine vv_astore (lv' := [(5, .ref s0)]) dX0_years_15 (by decide) [0] rfl ?_
  refine vv_iconst (v := (nI 1)) dX0_years_17 (by decide) ?_
  cases h
  exact vv_iret rfl dX0_years_18
def KX0_years (fo : Nat → Nat → vv_S → Option Int32) (x0 : Nat) (x1 : Int32) (x2 : Int32) (x3 : Int32) (x4 : Nat) (σ : vv_S) : Option (Int32 × vv_S) := (isO σ x0 0).bind fun _ => (KX1_years fo x0 x1 x2 x3 σ).bind fun r1 => xh2 r1 "java/util/NoSuchElementException" "java/lang/IllegalArgumentException" (fun r3 => (sL r3.2 x4 (nI 0) (Int32.toInt64 r3.1)).bind fun σ4 => some ((nI 0), σ4)) (fun r3x => KX0_years_15 fo r3x.1.2 r3x.2) (fun r3x => KX0_years_19 fo r3x.1.2 r3x.2)
theorem v_KX0_years_0 {l : Launch} {G : vv_G} {d : Nat} {ad : Nat → Nat} {fo : Nat → Nat → vv_S → Option Int32} (hG : vv_gok G) (hH : vv_hy l G ad) (hNc : ∀ U, vv_K G U → va_Nc "java/lang/IllegalArgumentException" "java/util/NoSuchElementException" U) (hfo : ∀ {a vs : Nat} {σ : vv_S} {r : Int32}, fo a vs σ = some r → vv_Form l G d a vs σ r) {x0 : Nat} {x1 : Int32} {x2 : Int32} {x3 : Int32} {x4 : Nat} {σ : vv_S} {r : Int32 × vv_S} (h : KX0_years fo x0 x1 x2 x3 x4 σ = some r) : vv_V l G MX0_years (d + 11) 0 [(0, .ref x0), (1, .int x1), (2, .int x2), (3, .int x3), (4, .ref x4)] [] σ (.inl (some (.int r.1)), r.2) := by
  unfold KX0_years at h
  refine vv_aload dX0_years_0 4 rfl ?_
  refine vv_iconst (v := (nI 0)) dX0_years_2 (by decide) ?_
  refine vv_aload_n dX0_years_3 rfl 0 rfl ?_
  refine vv_iload_n dX0_years_4 rfl 1 rfl ?_
  refine vv_iload_n dX0_years_5 rfl 2 rfl ?_
  refine vv_iload_n dX0_years_6 rfl 3 rfl ?_
  replace h := isO_o h; obtain ⟨fz2, sz2, ez2, h⟩ := h
  replace h := bd_o h; obtain ⟨r1, er1, h⟩ := h
  rcases r1 with r3 | r3x
  · refine vv_callV ok_X1_years q1486 (m_KX1_years hG hH hfo er1 d) rfl (by omega) ⟨_, _, _, _, _, ez2, by rw [hG.1]; rfl⟩ rfl rfl (Nat.le_of_ble_eq_true rfl) dX0_years_7 ?_
    replace h := xh2_l h
    refine vv_i2l dX0_years_10 ?_
    replace h := sL_o h; obtain ⟨σ4, nσ4, qσ4, eσ4, iσ4, uσ4, h⟩ := h
    refine vv_last eσ4 iσ4 dX0_years_11 ?_
    refine vv_sg uσ4 ?_
    refine vv_goto (tgt := 23) dX0_years_12 (by decide) ?_
    refine vv_iconst (v := (nI 0)) dX0_years_23 (by decide) ?_
    cases h
    exact vv_iret rfl dX0_years_24
  · rcases xh2_r h with ⟨cr3, h⟩ | ⟨cr3, h⟩
    · skip
      refine vv_callVX ok_X1_years q1486 (m_KX1_years hG hH hfo er1 d) rfl (by omega) ⟨_, _, _, _, _, ez2, by rw [hG.1]; rfl⟩ rfl rfl (Nat.le_of_ble_eq_true rfl) dX0_years_7 (vv_Tcatch [] ⟨0, 12, 15, 18⟩ [⟨0, 12, 19, 13⟩] rfl (fun z hz => by cases hz) (by decide) (by decide) q1242 (fun U hK => by rw [cr3]; exact hH.1.2.1 U hK _ q1253 rfl) rfl ?_)
      refine vv_sub (lv' := []) [] rfl ?_
      exact v_KX0_years_15 hG hH hNc hfo h
    · skip
      refine vv_callVX ok_X1_years q1486 (m_KX1_years hG hH hfo er1 d) rfl (by omega) ⟨_, _, _, _, _, ez2, by rw [hG.1]; rfl⟩ rfl rfl (Nat.le_of_ble_eq_true rfl) dX0_years_7 (vv_Tcatch [⟨0, 12, 15, 18⟩] ⟨0, 12, 19, 13⟩ [] rfl (fun z hz => Or.inr (by rw [List.mem_singleton.mp hz]; exact ⟨by decide, _, q1242, fun U hK => by rw [cr3]; exact hNc U hK⟩)) (by decide) (by decide) q694 (fun U hK => by rw [cr3]; exact hH.1.2.1 U hK _ q705 rfl) rfl ?_)
      refine vv_sub (lv' := []) [] rfl ?_
      exact v_KX0_years_19 hG hH hNc hfo h
theorem m_KX0_years {l : Launch} {G : vv_G} {d : Nat} {ad : Nat → Nat} {fo : Nat → Nat → vv_S → Option Int32} (hG : vv_gok G) (hH : vv_hy l G ad) (hNc : ∀ U, vv_K G U → va_Nc "java/lang/IllegalArgumentException" "java/util/NoSuchElementException" U) (hfo : ∀ {a vs : Nat} {σ : vv_S} {r : Int32}, fo a vs σ = some r → vv_Form l G d a vs σ r) {x0 : Nat} {x1 : Int32} {x2 : Int32} {x3 : Int32} {x4 : Nat} {σ : vv_S} {r : Int32 × vv_S} (h : KX0_years fo x0 x1 x2 x3 x4 σ = some r) (d9 : Nat) (e9 : d9 = d := by rfl) : vv_Met l G MX0_years (d9 + 11) [.ref x0, .int x1, .int x2, .int x3, .ref x4] σ (.inl (some (.int r.1)), r.2) := by
  subst e9
  exact vv_headH (by decide +kernel) (by intro h; cases h) (Nat.le_of_ble_eq_true rfl) rfl (v_KX0_years_0 hG hH hNc hfo h)
/-! ('X0', 'thief') -/
def KX0_thief_17 (s0 : Nat) (σ : vv_S) : Option (Int32 × vv_S) := some ((nI 2), σ)
theorem v_KX0_thief_17 {l : Launch} {G : vv_G} {d : Nat} {ad : Nat → Nat} (hG : vv_gok G) (hH : vv_hy l G ad) (hNc : ∀ U, vv_K G U → va_Nc "java/lang/IllegalArgumentException" "java/util/NoSuchElementException" U) {s0 : Nat} {σ : vv_S} {r : Int32 × vv_S} (h : KX0_thief_17 s0 σ = some r) : vv_V l G MX0_thief (d + 11) 17 [] [.ref s0] σ (.inl (some (.int r.1)), r.2) := by
  unfold KX0_thief_17 at h
  refine vv_astore (lv' := [(4, .ref s0)]) dX0_thief_17 (by decide) [0] rfl ?_
  refine vv_iconst (v := (nI 2)) dX0_thief_19 (by decide) ?_
  cases h
  exact vv_iret rfl dX0_thief_20
def KX0_thief_13 (s0 : Nat) (σ : vv_S) : Option (Int32 × vv_S) := some ((nI 1), σ)
theorem v_KX0_thief_13 {l : Launch} {G : vv_G} {d : Nat} {ad : Nat → Nat} (hG : vv_gok G) (hH : vv_hy l G ad) (hNc : ∀ U, vv_K G U → va_Nc "java/lang/IllegalArgumentException" "java/util/NoSuchElementException" U) {s0 : Nat} {σ : vv_S} {r : Int32 × vv_S} (h : KX0_thief_13 s0 σ = some r) : vv_V l G MX0_thief (d + 11) 13 [] [.ref s0] σ (.inl (some (.int r.1)), r.2) := by
  unfold KX0_thief_13 at h
  refine vv_astore (lv' := [(4, .ref s0)]) dX0_thief_13 (by decide) [0] rfl ?_
  refine vv_iconst (v := (nI 1)) dX0_thief_15 (by decide) ?_
  cases h
  exact vv_iret rfl dX0_thief_16
def KX0_thief (x0 : Nat) (x1 : Int32) (x2 : Int32) (x3 : Nat) (σ : vv_S) : Option (Int32 × vv_S) := (isO σ x0 0).bind fun _ => (KX1_thief x0 x1 x2 σ).bind fun r1 => xh2 r1 "java/util/NoSuchElementException" "java/lang/IllegalArgumentException" (fun r3 => (sL r3.2 x3 (nI 0) (Int32.toInt64 r3.1)).bind fun σ4 => some ((nI 0), σ4)) (fun r3x => KX0_thief_13 r3x.1.2 r3x.2) (fun r3x => KX0_thief_17 r3x.1.2 r3x.2)
theorem v_KX0_thief_0 {l : Launch} {G : vv_G} {d : Nat} {ad : Nat → Nat} (hG : vv_gok G) (hH : vv_hy l G ad) (hNc : ∀ U, vv_K G U → va_Nc "java/lang/IllegalArgumentException" "java/util/NoSuchElementException" U) {x0 : Nat} {x1 : Int32} {x2 : Int32} {x3 : Nat} {σ : vv_S} {r : Int32 × vv_S} (h : KX0_thief x0 x1 x2 x3 σ = some r) : vv_V l G MX0_thief (d + 11) 0 [(0, .ref x0), (1, .int x1), (2, .int x2), (3, .ref x3)] [] σ (.inl (some (.int r.1)), r.2) := by
  unfold KX0_thief at h
  refine vv_aload_n dX0_thief_0 rfl 3 rfl ?_
  refine vv_iconst (v := (nI 0)) dX0_thief_1 (by decide) ?_
  refine vv_aload_n dX0_thief_2 rfl 0 rfl ?_
  refine vv_iload_n dX0_thief_3 rfl 1 rfl ?_
  refine vv_iload_n dX0_thief_4 rfl 2 rfl ?_
  replace h := isO_o h; obtain ⟨fz2, sz2, ez2, h⟩ := h
  replace h := bd_o h; obtain ⟨r1, er1, h⟩ := h
  rcases r1 with r3 | r3x
  · refine vv_callV ok_X1_thief q1494 (m_KX1_thief hG hH er1 d) rfl (by omega) ⟨_, _, _, _, _, ez2, by rw [hG.1]; rfl⟩ rfl rfl (Nat.le_of_ble_eq_true rfl) dX0_thief_5 ?_
    replace h := xh2_l h
    refine vv_i2l dX0_thief_8 ?_
    replace h := sL_o h; obtain ⟨σ4, nσ4, qσ4, eσ4, iσ4, uσ4, h⟩ := h
    refine vv_last eσ4 iσ4 dX0_thief_9 ?_
    refine vv_sg uσ4 ?_
    refine vv_goto (tgt := 21) dX0_thief_10 (by decide) ?_
    refine vv_iconst (v := (nI 0)) dX0_thief_21 (by decide) ?_
    cases h
    exact vv_iret rfl dX0_thief_22
  · rcases xh2_r h with ⟨cr3, h⟩ | ⟨cr3, h⟩
    · skip
      refine vv_callVX ok_X1_thief q1494 (m_KX1_thief hG hH er1 d) rfl (by omega) ⟨_, _, _, _, _, ez2, by rw [hG.1]; rfl⟩ rfl rfl (Nat.le_of_ble_eq_true rfl) dX0_thief_5 (vv_Tcatch [] ⟨0, 10, 13, 18⟩ [⟨0, 10, 17, 13⟩] rfl (fun z hz => by cases hz) (by decide) (by decide) q1242 (fun U hK => by rw [cr3]; exact hH.1.2.1 U hK _ q1253 rfl) rfl ?_)
      refine vv_sub (lv' := []) [] rfl ?_
      exact v_KX0_thief_13 hG hH hNc h
    · skip
      refine vv_callVX ok_X1_thief q1494 (m_KX1_thief hG hH er1 d) rfl (by omega) ⟨_, _, _, _, _, ez2, by rw [hG.1]; rfl⟩ rfl rfl (Nat.le_of_ble_eq_true rfl) dX0_thief_5 (vv_Tcatch [⟨0, 10, 13, 18⟩] ⟨0, 10, 17, 13⟩ [] rfl (fun z hz => Or.inr (by rw [List.mem_singleton.mp hz]; exact ⟨by decide, _, q1242, fun U hK => by rw [cr3]; exact hNc U hK⟩)) (by decide) (by decide) q694 (fun U hK => by rw [cr3]; exact hH.1.2.1 U hK _ q705 rfl) rfl ?_)
      refine vv_sub (lv' := []) [] rfl ?_
      exact v_KX0_thief_17 hG hH hNc h
theorem m_KX0_thief {l : Launch} {G : vv_G} {ad : Nat → Nat} (hG : vv_gok G) (hH : vv_hy l G ad) (hNc : ∀ U, vv_K G U → va_Nc "java/lang/IllegalArgumentException" "java/util/NoSuchElementException" U) {x0 : Nat} {x1 : Int32} {x2 : Int32} {x3 : Nat} {σ : vv_S} {r : Int32 × vv_S} (h : KX0_thief x0 x1 x2 x3 σ = some r) (d : Nat) : vv_Met l G MX0_thief (d + 11) [.ref x0, .int x1, .int x2, .ref x3] σ (.inl (some (.int r.1)), r.2) := vv_headH (by decide +kernel) (by intro h; cases h) (Nat.le_of_ble_eq_true rfl) rfl (v_KX0_thief_0 hG hH hNc h)
/-! ('X0', 'row') -/
def KX0_row_15 (s0 : Nat) (σ : vv_S) : Option (Int32 × vv_S) := some ((nI 1), σ)
theorem v_KX0_row_15 {l : Launch} {G : vv_G} {d : Nat} {ad : Nat → Nat} (hG : vv_gok G) (hH : vv_hy l G ad) {s0 : Nat} {σ : vv_S} {r : Int32 × vv_S} (h : KX0_row_15 s0 σ = some r) : vv_V l G MX0_row (d + 11) 15 [] [.ref s0] σ (.inl (some (.int r.1)), r.2) := by
  unfold KX0_row_15 at h
  refine vv_astore (lv' := [(5, .ref s0)]) dX0_row_15 (by decide) [0] rfl ?_
  refine vv_iconst (v := (nI 1)) dX0_row_17 (by decide) ?_
  cases h
  exact vv_iret rfl dX0_row_18
def KX0_row (x0 : Nat) (x1 : Int32) (x2 : Int32) (x3 : Int32) (x4 : Nat) (σ : vv_S) : Option (Int32 × vv_S) := (isO σ x0 0).bind fun _ => (KX1_row x0 x1 x2 x3 σ).bind fun r1 => xh1 r1 "java/util/NoSuchElementException" (fun r3 => (sL r3.2 x4 (nI 0) (Int32.toInt64 r3.1)).bind fun σ4 => some ((nI 0), σ4)) (fun r3x => KX0_row_15 r3x.1.2 r3x.2)
theorem v_KX0_row_0 {l : Launch} {G : vv_G} {d : Nat} {ad : Nat → Nat} (hG : vv_gok G) (hH : vv_hy l G ad) {x0 : Nat} {x1 : Int32} {x2 : Int32} {x3 : Int32} {x4 : Nat} {σ : vv_S} {r : Int32 × vv_S} (h : KX0_row x0 x1 x2 x3 x4 σ = some r) : vv_V l G MX0_row (d + 11) 0 [(0, .ref x0), (1, .int x1), (2, .int x2), (3, .int x3), (4, .ref x4)] [] σ (.inl (some (.int r.1)), r.2) := by
  unfold KX0_row at h
  refine vv_aload dX0_row_0 4 rfl ?_
  refine vv_iconst (v := (nI 0)) dX0_row_2 (by decide) ?_
  refine vv_aload_n dX0_row_3 rfl 0 rfl ?_
  refine vv_iload_n dX0_row_4 rfl 1 rfl ?_
  refine vv_iload_n dX0_row_5 rfl 2 rfl ?_
  refine vv_iload_n dX0_row_6 rfl 3 rfl ?_
  replace h := isO_o h; obtain ⟨fz2, sz2, ez2, h⟩ := h
  replace h := bd_o h; obtain ⟨r1, er1, h⟩ := h
  rcases r1 with r3 | r3x
  · refine vv_callV ok_X1_row q1512 (m_KX1_row hG hH er1 d) rfl (by omega) ⟨_, _, _, _, _, ez2, by rw [hG.1]; rfl⟩ rfl rfl (Nat.le_of_ble_eq_true rfl) dX0_row_7 ?_
    replace h := xh1_l h
    refine vv_i2l dX0_row_10 ?_
    replace h := sL_o h; obtain ⟨σ4, nσ4, qσ4, eσ4, iσ4, uσ4, h⟩ := h
    refine vv_last eσ4 iσ4 dX0_row_11 ?_
    refine vv_sg uσ4 ?_
    refine vv_goto (tgt := 19) dX0_row_12 (by decide) ?_
    refine vv_iconst (v := (nI 0)) dX0_row_19 (by decide) ?_
    cases h
    exact vv_iret rfl dX0_row_20
  · obtain ⟨cr3, h⟩ := xh1_r h
    refine vv_callVX ok_X1_row q1512 (m_KX1_row hG hH er1 d) rfl (by omega) ⟨_, _, _, _, _, ez2, by rw [hG.1]; rfl⟩ rfl rfl (Nat.le_of_ble_eq_true rfl) dX0_row_7 (vv_Tcatch [] ⟨0, 12, 15, 18⟩ [] rfl (fun z hz => by cases hz) (by decide) (by decide) q1242 (fun U hK => by rw [cr3]; exact hH.1.2.1 U hK _ q1253 rfl) rfl ?_)
    refine vv_sub (lv' := []) [] rfl ?_
    exact v_KX0_row_15 hG hH h
theorem m_KX0_row {l : Launch} {G : vv_G} {ad : Nat → Nat} (hG : vv_gok G) (hH : vv_hy l G ad) {x0 : Nat} {x1 : Int32} {x2 : Int32} {x3 : Int32} {x4 : Nat} {σ : vv_S} {r : Int32 × vv_S} (h : KX0_row x0 x1 x2 x3 x4 σ = some r) (d : Nat) : vv_Met l G MX0_row (d + 11) [.ref x0, .int x1, .int x2, .int x3, .ref x4] σ (.inl (some (.int r.1)), r.2) := vv_headH (by decide +kernel) (by intro h; cases h) (Nat.le_of_ble_eq_true rfl) rfl (v_KX0_row_0 hG hH h)
/-! ('X0', 'bridge') -/
def KX0_bridge_19 (s0 : Nat) (σ : vv_S) : Option (Int32 × vv_S) := some ((nI 1), σ)
theorem v_KX0_bridge_19 {l : Launch} {G : vv_G} {d : Nat} {ad : Nat → Nat} (hG : vv_gok G) (hH : vv_hy l G ad) {s0 : Nat} {σ : vv_S} {r : Int32 × vv_S} (h : KX0_bridge_19 s0 σ = some r) : vv_V l G MX0_bridge (d + 11) 19 [] [.ref s0] σ (.inl (some (.int r.1)), r.2) := by
  unfold KX0_bridge_19 at h
  refine vv_astore_n (lv' := [(3, .ref s0)]) dX0_bridge_19 rfl (by decide) [0] rfl ?_
  refine vv_iconst (v := (nI 1)) dX0_bridge_20 (by decide) ?_
  cases h
  exact vv_iret rfl dX0_bridge_21
def KX0_bridge_15 (s0 : Nat) (s1 : Int32) (s2 : Int64) (σ : vv_S) : Option (Int32 × vv_S) := (sL σ s0 s1 s2).bind fun σ1 => some ((nI 0), σ1)
theorem v_KX0_bridge_15 {l : Launch} {G : vv_G} {d : Nat} {ad : Nat → Nat} (hG : vv_gok G) (hH : vv_hy l G ad) {s0 : Nat} {s1 : Int32} {s2 : Int64} {σ : vv_S} {r : Int32 × vv_S} (h : KX0_bridge_15 s0 s1 s2 σ = some r) : vv_V l G MX0_bridge (d + 11) 15 [] [.long s2, .int s1, .ref s0] σ (.inl (some (.int r.1)), r.2) := by
  unfold KX0_bridge_15 at h
  replace h := sL_o h; obtain ⟨σ1, nσ1, qσ1, eσ1, iσ1, uσ1, h⟩ := h
  refine vv_last eσ1 iσ1 dX0_bridge_15 ?_
  refine vv_sg uσ1 ?_
  refine vv_goto (tgt := 22) dX0_bridge_16 (by decide) ?_
  refine vv_iconst (v := (nI 0)) dX0_bridge_22 (by decide) ?_
  cases h
  exact vv_iret rfl dX0_bridge_23
def KX0_bridge (x0 : Nat) (x1 : Int32) (x2 : Nat) (σ : vv_S) : Option (Int32 × vv_S) := (isO σ x0 0).bind fun _ => (KX1_bridge x0 x1 σ).bind fun r1 => xh1 r1 "java/util/NoSuchElementException" (fun r3 => if r3.1 = 0 then (KX0_bridge_15 x2 (nI 0) (0 : Int64) r3.2) else (KX0_bridge_15 x2 (nI 0) (1 : Int64) r3.2)) (fun r3x => KX0_bridge_19 r3x.1.2 r3x.2)
theorem v_KX0_bridge_0 {l : Launch} {G : vv_G} {d : Nat} {ad : Nat → Nat} (hG : vv_gok G) (hH : vv_hy l G ad) {x0 : Nat} {x1 : Int32} {x2 : Nat} {σ : vv_S} {r : Int32 × vv_S} (h : KX0_bridge x0 x1 x2 σ = some r) : vv_V l G MX0_bridge (d + 11) 0 [(0, .ref x0), (1, .int x1), (2, .ref x2)] [] σ (.inl (some (.int r.1)), r.2) := by
  unfold KX0_bridge at h
  refine vv_aload_n dX0_bridge_0 rfl 2 rfl ?_
  refine vv_iconst (v := (nI 0)) dX0_bridge_1 (by decide) ?_
  refine vv_aload_n dX0_bridge_2 rfl 0 rfl ?_
  refine vv_iload_n dX0_bridge_3 rfl 1 rfl ?_
  replace h := isO_o h; obtain ⟨fz2, sz2, ez2, h⟩ := h
  replace h := bd_o h; obtain ⟨r1, er1, h⟩ := h
  rcases r1 with r3 | r3x
  · refine vv_callV ok_X1_bridge q1523 (m_KX1_bridge hG hH er1 d) rfl (by omega) ⟨_, _, _, _, _, ez2, by rw [hG.1]; rfl⟩ rfl rfl (Nat.le_of_ble_eq_true rfl) dX0_bridge_4 ?_
    replace h := xh1_l h
    refine vv_if_eq (tgt := 14) dX0_bridge_7 (by decide) (fun c4 => ?_) (fun c4 => ?_)
    · rw [if_pos c4] at h
      refine vv_lconst (v := 0) dX0_bridge_14 (by decide) ?_
      refine vv_sub (lv' := []) [] rfl ?_
      exact v_KX0_bridge_15 hG hH h
    · rw [if_neg c4] at h
      refine vv_lconst (v := 1) dX0_bridge_10 (by decide) ?_
      refine vv_goto (tgt := 15) dX0_bridge_11 (by decide) ?_
      refine vv_sub (lv' := []) [] rfl ?_
      exact v_KX0_bridge_15 hG hH h
  · obtain ⟨cr3, h⟩ := xh1_r h
    refine vv_callVX ok_X1_bridge q1523 (m_KX1_bridge hG hH er1 d) rfl (by omega) ⟨_, _, _, _, _, ez2, by rw [hG.1]; rfl⟩ rfl rfl (Nat.le_of_ble_eq_true rfl) dX0_bridge_4 (vv_Tcatch [] ⟨0, 16, 19, 18⟩ [] rfl (fun z hz => by cases hz) (by decide) (by decide) q1242 (fun U hK => by rw [cr3]; exact hH.1.2.1 U hK _ q1253 rfl) rfl ?_)
    refine vv_sub (lv' := []) [] rfl ?_
    exact v_KX0_bridge_19 hG hH h
theorem m_KX0_bridge {l : Launch} {G : vv_G} {ad : Nat → Nat} (hG : vv_gok G) (hH : vv_hy l G ad) {x0 : Nat} {x1 : Int32} {x2 : Nat} {σ : vv_S} {r : Int32 × vv_S} (h : KX0_bridge x0 x1 x2 σ = some r) (d : Nat) : vv_Met l G MX0_bridge (d + 11) [.ref x0, .int x1, .ref x2] σ (.inl (some (.int r.1)), r.2) := vv_headH (by decide +kernel) (by intro h; cases h) (Nat.le_of_ble_eq_true rfl) rfl (v_KX0_bridge_0 hG hH h)
/-! ('X0', 'streak') -/
def KX0_streak_17 (fo : Nat → Nat → vv_S → Option Int32) (s0 : Nat) (σ : vv_S) : Option (Int32 × vv_S) := some ((nI 2), σ)
theorem v_KX0_streak_17 {l : Launch} {G : vv_G} {d : Nat} {ad : Nat → Nat} {fo : Nat → Nat → vv_S → Option Int32} (hG : vv_gok G) (hH : vv_hy l G ad) (hNc : ∀ U, vv_K G U → va_Nc "java/lang/IllegalArgumentException" "java/util/NoSuchElementException" U) (hfo : ∀ {a vs : Nat} {σ : vv_S} {r : Int32}, fo a vs σ = some r → vv_Form l G d a vs σ r) {s0 : Nat} {σ : vv_S} {r : Int32 × vv_S} (h : KX0_streak_17 fo s0 σ = some r) : vv_V l G MX0_streak (d + 11) 17 [] [.ref s0] σ (.inl (some (.int r.1)), r.2) := by
  unfold KX0_streak_17 at h
  refine vv_astore (lv' := [(4, .ref s0)]) dX0_streak_17 (by decide) [0] rfl ?_
  refine vv_iconst (v := (nI 2)) dX0_streak_19 (by decide) ?_
  cases h
  exact vv_iret rfl dX0_streak_20
def KX0_streak_13 (fo : Nat → Nat → vv_S → Option Int32) (s0 : Nat) (σ : vv_S) : Option (Int32 × vv_S) := some ((nI 1), σ)
theorem v_KX0_streak_13 {l : Launch} {G : vv_G} {d : Nat} {ad : Nat → Nat} {fo : Nat → Nat → vv_S → Option Int32} (hG : vv_gok G) (hH : vv_hy l G ad) (hNc : ∀ U, vv_K G U → va_Nc "java/lang/IllegalArgumentException" "java/util/NoSuchElementException" U) (hfo : ∀ {a vs : Nat} {σ : vv_S} {r : Int32}, fo a vs σ = some r → vv_Form l G d a vs σ r) {s0 : Nat} {σ : vv_S} {r : Int32 × vv_S} (h : KX0_streak_13 fo s0 σ = some r) : vv_V l G MX0_streak (d + 11) 13 [] [.ref s0] σ (.inl (some (.int r.1)), r.2) := by
  unfold KX0_streak_13 at h
  refine vv_astore (lv' := [(4, .ref s0)]) dX0_streak_13 (by decide) [0] rfl ?_
  refine vv_iconst (v := (nI 1)) dX0_streak_15 (by decide) ?_
  cases h
  exact vv_iret rfl dX0_streak_16
def KX0_streak (fo : Nat → Nat → vv_S → Option Int32) (x0 : Nat) (x1 : Int32) (x2 : Int32) (x3 : Nat) (σ : vv_S) : Option (Int32 × vv_S) := (isO σ x0 0).bind fun _ => (KX1_streak fo x0 x1 x2 σ).bind fun r1 => xh2 r1 "java/util/NoSuchElementException" "java/lang/IllegalArgumentException" (fun r3 => (sL r3.2 x3 (nI 0) (Int32.toInt64 r3.1)).bind fun σ4 => some ((nI 0), σ4)) (fun r3x => KX0_streak_13 fo r3x.1.2 r3x.2) (fun r3x => KX0_streak_17 fo r3x.1.2 r3x.2)
theorem v_KX0_streak_0 {l : Launch} {G : vv_G} {d : Nat} {ad : Nat → Nat} {fo : Nat → Nat → vv_S → Option Int32} (hG : vv_gok G) (hH : vv_hy l G ad) (hNc : ∀ U, vv_K G U → va_Nc "java/lang/IllegalArgumentException" "java/util/NoSuchElementException" U) (hfo : ∀ {a vs : Nat} {σ : vv_S} {r : Int32}, fo a vs σ = some r → vv_Form l G d a vs σ r) {x0 : Nat} {x1 : Int32} {x2 : Int32} {x3 : Nat} {σ : vv_S} {r : Int32 × vv_S} (h : KX0_streak fo x0 x1 x2 x3 σ = some r) : vv_V l G MX0_streak (d + 11) 0 [(0, .ref x0), (1, .int x1), (2, .int x2), (3, .ref x3)] [] σ (.inl (some (.int r.1)), r.2) := by
  unfold KX0_streak at h
  refine vv_aload_n dX0_streak_0 rfl 3 rfl ?_
  refine vv_iconst (v := (nI 0)) dX0_streak_1 (by decide) ?_
  refine vv_aload_n dX0_streak_2 rfl 0 rfl ?_
  refine vv_iload_n dX0_streak_3 rfl 1 rfl ?_
  refine vv_iload_n dX0_streak_4 rfl 2 rfl ?_
  replace h := isO_o h; obtain ⟨fz2, sz2, ez2, h⟩ := h
  replace h := bd_o h; obtain ⟨r1, er1, h⟩ := h
  rcases r1 with r3 | r3x
  · refine vv_callV ok_X1_streak q1531 (m_KX1_streak hG hH hfo er1 d) rfl (by omega) ⟨_, _, _, _, _, ez2, by rw [hG.1]; rfl⟩ rfl rfl (Nat.le_of_ble_eq_true rfl) dX0_streak_5 ?_
    replace h := xh2_l h
    refine vv_i2l dX0_streak_8 ?_
    replace h := sL_o h; obtain ⟨σ4, nσ4, qσ4, eσ4, iσ4, uσ4, h⟩ := h
    refine vv_last eσ4 iσ4 dX0_streak_9 ?_
    refine vv_sg uσ4 ?_
    refine vv_goto (tgt := 21) dX0_streak_10 (by decide) ?_
    refine vv_iconst (v := (nI 0)) dX0_streak_21 (by decide) ?_
    cases h
    exact vv_iret rfl dX0_streak_22
  · rcases xh2_r h with ⟨cr3, h⟩ | ⟨cr3, h⟩
    · skip
      refine vv_callVX ok_X1_streak q1531 (m_KX1_streak hG hH hfo er1 d) rfl (by omega) ⟨_, _, _, _, _, ez2, by rw [hG.1]; rfl⟩ rfl rfl (Nat.le_of_ble_eq_true rfl) dX0_streak_5 (vv_Tcatch [] ⟨0, 10, 13, 18⟩ [⟨0, 10, 17, 13⟩] rfl (fun z hz => by cases hz) (by decide) (by decide) q1242 (fun U hK => by rw [cr3]; exact hH.1.2.1 U hK _ q1253 rfl) rfl ?_)
      refine vv_sub (lv' := []) [] rfl ?_
      exact v_KX0_streak_13 hG hH hNc hfo h
    · skip
      refine vv_callVX ok_X1_streak q1531 (m_KX1_streak hG hH hfo er1 d) rfl (by omega) ⟨_, _, _, _, _, ez2, by rw [hG.1]; rfl⟩ rfl rfl (Nat.le_of_ble_eq_true rfl) dX0_streak_5 (vv_Tcatch [⟨0, 10, 13, 18⟩] ⟨0, 10, 17, 13⟩ [] rfl (fun z hz => Or.inr (by rw [List.mem_singleton.mp hz]; exact ⟨by decide, _, q1242, fun U hK => by rw [cr3]; exact hNc U hK⟩)) (by decide) (by decide) q694 (fun U hK => by rw [cr3]; exact hH.1.2.1 U hK _ q705 rfl) rfl ?_)
      refine vv_sub (lv' := []) [] rfl ?_
      exact v_KX0_streak_17 hG hH hNc hfo h
theorem m_KX0_streak {l : Launch} {G : vv_G} {d : Nat} {ad : Nat → Nat} {fo : Nat → Nat → vv_S → Option Int32} (hG : vv_gok G) (hH : vv_hy l G ad) (hNc : ∀ U, vv_K G U → va_Nc "java/lang/IllegalArgumentException" "java/util/NoSuchElementException" U) (hfo : ∀ {a vs : Nat} {σ : vv_S} {r : Int32}, fo a vs σ = some r → vv_Form l G d a vs σ r) {x0 : Nat} {x1 : Int32} {x2 : Int32} {x3 : Nat} {σ : vv_S} {r : Int32 × vv_S} (h : KX0_streak fo x0 x1 x2 x3 σ = some r) (d9 : Nat) (e9 : d9 = d := by rfl) : vv_Met l G MX0_streak (d9 + 11) [.ref x0, .int x1, .int x2, .ref x3] σ (.inl (some (.int r.1)), r.2) := by
  subst e9
  exact vv_headH (by decide +kernel) (by intro h; cases h) (Nat.le_of_ble_eq_true rfl) rfl (v_KX0_streak_0 hG hH hNc hfo h)
/-! ('X0', 'day') -/
def KX0_day_17 (fo : Nat → Nat → vv_S → Option Int32) (s0 : Nat) (σ : vv_S) : Option (Int32 × vv_S) := some ((nI 2), σ)
theorem v_KX0_day_17 {l : Launch} {G : vv_G} {d : Nat} {ad : Nat → Nat} {fo : Nat → Nat → vv_S → Option Int32} (hG : vv_gok G) (hH : vv_hy l G ad) (hNc : ∀ U, vv_K G U → va_Nc "java/lang/IllegalArgumentException" "java/util/NoSuchElementException" U) (hfo : ∀ {a vs : Nat} {σ : vv_S} {r : Int32}, fo a vs σ = some r → vv_Form l G d a vs σ r) {s0 : Nat} {σ : vv_S} {r : Int32 × vv_S} (h : KX0_day_17 fo s0 σ = some r) : vv_V l G MX0_day (d + 11) 17 [] [.ref s0] σ (.inl (some (.int r.1)), r.2) := by
  unfold KX0_day_17 at h
  refine vv_astore (lv' := [(4, .ref s0)]) dX0_day_17 (by decide) [0] rfl ?_
  refine vv_iconst (v := (nI 2)) dX0_day_19 (by decide) ?_
  cases h
  exact vv_iret rfl dX0_day_20
def KX0_day_13 (fo : Nat → Nat → vv_S → Option Int32) (s0 : Nat) (σ : vv_S) : Option (Int32 × vv_S) := some ((nI 1), σ)
theorem v_KX0_day_13 {l : Launch} {G : vv_G} {d : Nat} {ad : Nat → Nat} {fo : Nat → Nat → vv_S → Option Int32} (hG : vv_gok G) (hH : vv_hy l G ad) (hNc : ∀ U, vv_K G U → va_Nc "java/lang/IllegalArgumentException" "java/util/NoSuchElementException" U) (hfo : ∀ {a vs : Nat} {σ : vv_S} {r : Int32}, fo a vs σ = some r → vv_Form l G d a vs σ r) {s0 : Nat} {σ : vv_S} {r : Int32 × vv_S} (h : KX0_day_13 fo s0 σ = some r) : vv_V l G MX0_day (d + 11) 13 [] [.ref s0] σ (.inl (some (.int r.1)), r.2) := by
  unfold KX0_day_13 at h
  refine vv_astore (lv' := [(4, .ref s0)]) dX0_day_13 (by decide) [0] rfl ?_
  refine vv_iconst (v := (nI 1)) dX0_day_15 (by decide) ?_
  cases h
  exact vv_iret rfl dX0_day_16
def KX0_day (fo : Nat → Nat → vv_S → Option Int32) (x0 : Nat) (x1 : Int32) (x2 : Int32) (x3 : Nat) (σ : vv_S) : Option (Int32 × vv_S) := (isO σ x0 0).bind fun _ => (KX1_day fo x0 x1 x2 σ).bind fun r1 => xh2 r1 "java/util/NoSuchElementException" "java/lang/IllegalArgumentException" (fun r3 => (sL r3.2 x3 (nI 0) (Int32.toInt64 r3.1)).bind fun σ4 => some ((nI 0), σ4)) (fun r3x => KX0_day_13 fo r3x.1.2 r3x.2) (fun r3x => KX0_day_17 fo r3x.1.2 r3x.2)
theorem v_KX0_day_0 {l : Launch} {G : vv_G} {d : Nat} {ad : Nat → Nat} {fo : Nat → Nat → vv_S → Option Int32} (hG : vv_gok G) (hH : vv_hy l G ad) (hNc : ∀ U, vv_K G U → va_Nc "java/lang/IllegalArgumentException" "java/util/NoSuchElementException" U) (hfo : ∀ {a vs : Nat} {σ : vv_S} {r : Int32}, fo a vs σ = some r → vv_Form l G d a vs σ r) {x0 : Nat} {x1 : Int32} {x2 : Int32} {x3 : Nat} {σ : vv_S} {r : Int32 × vv_S} (h : KX0_day fo x0 x1 x2 x3 σ = some r) : vv_V l G MX0_day (d + 11) 0 [(0, .ref x0), (1, .int x1), (2, .int x2), (3, .ref x3)] [] σ (.inl (some (.int r.1)), r.2) := by
  unfold KX0_day at h
  refine vv_aload_n dX0_day_0 rfl 3 rfl ?_
  refine vv_iconst (v := (nI 0)) dX0_day_1 (by decide) ?_
  refine vv_aload_n dX0_day_2 rfl 0 rfl ?_
  refine vv_iload_n dX0_day_3 rfl 1 rfl ?_
  refine vv_iload_n dX0_day_4 rfl 2 rfl ?_
  replace h := isO_o h; obtain ⟨fz2, sz2, ez2, h⟩ := h
  replace h := bd_o h; obtain ⟨r1, er1, h⟩ := h
  rcases r1 with r3 | r3x
  · refine vv_callV ok_X1_day q1538 (m_KX1_day hG hH hfo er1 d) rfl (by omega) ⟨_, _, _, _, _, ez2, by rw [hG.1]; rfl⟩ rfl rfl (Nat.le_of_ble_eq_true rfl) dX0_day_5 ?_
    replace h := xh2_l h
    refine vv_i2l dX0_day_8 ?_
    replace h := sL_o h; obtain ⟨σ4, nσ4, qσ4, eσ4, iσ4, uσ4, h⟩ := h
    refine vv_last eσ4 iσ4 dX0_day_9 ?_
    refine vv_sg uσ4 ?_
    refine vv_goto (tgt := 21) dX0_day_10 (by decide) ?_
    refine vv_iconst (v := (nI 0)) dX0_day_21 (by decide) ?_
    cases h
    exact vv_iret rfl dX0_day_22
  · rcases xh2_r h with ⟨cr3, h⟩ | ⟨cr3, h⟩
    · skip
      refine vv_callVX ok_X1_day q1538 (m_KX1_day hG hH hfo er1 d) rfl (by omega) ⟨_, _, _, _, _, ez2, by rw [hG.1]; rfl⟩ rfl rfl (Nat.le_of_ble_eq_true rfl) dX0_day_5 (vv_Tcatch [] ⟨0, 10, 13, 18⟩ [⟨0, 10, 17, 13⟩] rfl (fun z hz => by cases hz) (by decide) (by decide) q1242 (fun U hK => by rw [cr3]; exact hH.1.2.1 U hK _ q1253 rfl) rfl ?_)
      refine vv_sub (lv' := []) [] rfl ?_
      exact v_KX0_day_13 hG hH hNc hfo h
    · skip
      refine vv_callVX ok_X1_day q1538 (m_KX1_day hG hH hfo er1 d) rfl (by omega) ⟨_, _, _, _, _, ez2, by rw [hG.1]; rfl⟩ rfl rfl (Nat.le_of_ble_eq_true rfl) dX0_day_5 (vv_Tcatch [⟨0, 10, 13, 18⟩] ⟨0, 10, 17, 13⟩ [] rfl (fun z hz => Or.inr (by rw [List.mem_singleton.mp hz]; exact ⟨by decide, _, q1242, fun U hK => by rw [cr3]; exact hNc U hK⟩)) (by decide) (by decide) q694 (fun U hK => by rw [cr3]; exact hH.1.2.1 U hK _ q705 rfl) rfl ?_)
      refine vv_sub (lv' := []) [] rfl ?_
      exact v_KX0_day_17 hG hH hNc hfo h
theorem m_KX0_day {l : Launch} {G : vv_G} {d : Nat} {ad : Nat → Nat} {fo : Nat → Nat → vv_S → Option Int32} (hG : vv_gok G) (hH : vv_hy l G ad) (hNc : ∀ U, vv_K G U → va_Nc "java/lang/IllegalArgumentException" "java/util/NoSuchElementException" U) (hfo : ∀ {a vs : Nat} {σ : vv_S} {r : Int32}, fo a vs σ = some r → vv_Form l G d a vs σ r) {x0 : Nat} {x1 : Int32} {x2 : Int32} {x3 : Nat} {σ : vv_S} {r : Int32 × vv_S} (h : KX0_day fo x0 x1 x2 x3 σ = some r) (d9 : Nat) (e9 : d9 = d := by rfl) : vv_Met l G MX0_day (d9 + 11) [.ref x0, .int x1, .int x2, .ref x3] σ (.inl (some (.int r.1)), r.2) := by
  subst e9
  exact vv_headH (by decide +kernel) (by intro h; cases h) (Nat.le_of_ble_eq_true rfl) rfl (v_KX0_day_0 hG hH hNc hfo h)
/-! ('X0', 'level') -/
def KX0_level_12 (s0 : Nat) (σ : vv_S) : Option (Int32 × vv_S) := some ((nI 1), σ)
theorem v_KX0_level_12 {l : Launch} {G : vv_G} {d : Nat} {ad : Nat → Nat} (hG : vv_gok G) (hH : vv_hy l G ad) {s0 : Nat} {σ : vv_S} {r : Int32 × vv_S} (h : KX0_level_12 s0 σ = some r) : vv_V l G MX0_level (d + 11) 12 [] [.ref s0] σ (.inl (some (.int r.1)), r.2) := by
  unfold KX0_level_12 at h
  refine vv_astore_n (lv' := [(3, .ref s0)]) dX0_level_12 rfl (by decide) [0] rfl ?_
  refine vv_iconst (v := (nI 1)) dX0_level_13 (by decide) ?_
  cases h
  exact vv_iret rfl dX0_level_14
def KX0_level (x0 : Nat) (x1 : Int32) (x2 : Nat) (σ : vv_S) : Option (Int32 × vv_S) := (isO σ x0 0).bind fun _ => (KX1_level x0 x1 σ).bind fun r1 => xh1 r1 "java/util/NoSuchElementException" (fun r3 => (sL r3.2 x2 (nI 0) (Int32.toInt64 r3.1)).bind fun σ4 => some ((nI 0), σ4)) (fun r3x => KX0_level_12 r3x.1.2 r3x.2)
theorem v_KX0_level_0 {l : Launch} {G : vv_G} {d : Nat} {ad : Nat → Nat} (hG : vv_gok G) (hH : vv_hy l G ad) {x0 : Nat} {x1 : Int32} {x2 : Nat} {σ : vv_S} {r : Int32 × vv_S} (h : KX0_level x0 x1 x2 σ = some r) : vv_V l G MX0_level (d + 11) 0 [(0, .ref x0), (1, .int x1), (2, .ref x2)] [] σ (.inl (some (.int r.1)), r.2) := by
  unfold KX0_level at h
  refine vv_aload_n dX0_level_0 rfl 2 rfl ?_
  refine vv_iconst (v := (nI 0)) dX0_level_1 (by decide) ?_
  refine vv_aload_n dX0_level_2 rfl 0 rfl ?_
  refine vv_iload_n dX0_level_3 rfl 1 rfl ?_
  replace h := isO_o h; obtain ⟨fz2, sz2, ez2, h⟩ := h
  replace h := bd_o h; obtain ⟨r1, er1, h⟩ := h
  rcases r1 with r3 | r3x
  · refine vv_callV ok_X1_level q1545 (m_KX1_level hG hH er1 d) rfl (by omega) ⟨_, _, _, _, _, ez2, by rw [hG.1]; rfl⟩ rfl rfl (Nat.le_of_ble_eq_true rfl) dX0_level_4 ?_
    replace h := xh1_l h
    refine vv_i2l dX0_level_7 ?_
    replace h := sL_o h; obtain ⟨σ4, nσ4, qσ4, eσ4, iσ4, uσ4, h⟩ := h
    refine vv_last eσ4 iσ4 dX0_level_8 ?_
    refine vv_sg uσ4 ?_
    refine vv_goto (tgt := 15) dX0_level_9 (by decide) ?_
    refine vv_iconst (v := (nI 0)) dX0_level_15 (by decide) ?_
    cases h
    exact vv_iret rfl dX0_level_16
  · obtain ⟨cr3, h⟩ := xh1_r h
    refine vv_callVX ok_X1_level q1545 (m_KX1_level hG hH er1 d) rfl (by omega) ⟨_, _, _, _, _, ez2, by rw [hG.1]; rfl⟩ rfl rfl (Nat.le_of_ble_eq_true rfl) dX0_level_4 (vv_Tcatch [] ⟨0, 9, 12, 18⟩ [] rfl (fun z hz => by cases hz) (by decide) (by decide) q1242 (fun U hK => by rw [cr3]; exact hH.1.2.1 U hK _ q1253 rfl) rfl ?_)
    refine vv_sub (lv' := []) [] rfl ?_
    exact v_KX0_level_12 hG hH h
theorem m_KX0_level {l : Launch} {G : vv_G} {ad : Nat → Nat} (hG : vv_gok G) (hH : vv_hy l G ad) {x0 : Nat} {x1 : Int32} {x2 : Nat} {σ : vv_S} {r : Int32 × vv_S} (h : KX0_level x0 x1 x2 σ = some r) (d : Nat) : vv_Met l G MX0_level (d + 11) [.ref x0, .int x1, .ref x2] σ (.inl (some (.int r.1)), r.2) := vv_headH (by decide +kernel) (by intro h; cases h) (Nat.le_of_ble_eq_true rfl) rfl (v_KX0_level_0 hG hH h)
/-! ('X0', 'lend') -/
def KX0_lend_12 (fo : Nat → Nat → vv_S → Option Int32) (s0 : Nat) (σ : vv_S) : Option (Int32 × vv_S) := some ((nI 1), σ)
theorem v_KX0_lend_12 {l : Launch} {G : vv_G} {d : Nat} {ad : Nat → Nat} {fo : Nat → Nat → vv_S → Option Int32} (hG : vv_gok G) (hH : vv_hy l G ad) (hfo : ∀ {a vs : Nat} {σ : vv_S} {r : Int32}, fo a vs σ = some r → vv_Form l G d a vs σ r) {s0 : Nat} {σ : vv_S} {r : Int32 × vv_S} (h : KX0_lend_12 fo s0 σ = some r) : vv_V l G MX0_lend (d + 11) 12 [] [.ref s0] σ (.inl (some (.int r.1)), r.2) := by
  unfold KX0_lend_12 at h
  refine vv_astore_n (lv' := [(3, .ref s0)]) dX0_lend_12 rfl (by decide) [0] rfl ?_
  refine vv_iconst (v := (nI 1)) dX0_lend_13 (by decide) ?_
  cases h
  exact vv_iret rfl dX0_lend_14
def KX0_lend (fo : Nat → Nat → vv_S → Option Int32) (x0 : Nat) (x1 : Int32) (x2 : Nat) (σ : vv_S) : Option (Int32 × vv_S) := (isO σ x0 0).bind fun _ => (KX1_lend fo x0 x1 σ).bind fun r1 => xh1 r1 "java/util/NoSuchElementException" (fun r3 => (sL r3.2 x2 (nI 0) (Int32.toInt64 r3.1)).bind fun σ4 => some ((nI 0), σ4)) (fun r3x => KX0_lend_12 fo r3x.1.2 r3x.2)
theorem v_KX0_lend_0 {l : Launch} {G : vv_G} {d : Nat} {ad : Nat → Nat} {fo : Nat → Nat → vv_S → Option Int32} (hG : vv_gok G) (hH : vv_hy l G ad) (hfo : ∀ {a vs : Nat} {σ : vv_S} {r : Int32}, fo a vs σ = some r → vv_Form l G d a vs σ r) {x0 : Nat} {x1 : Int32} {x2 : Nat} {σ : vv_S} {r : Int32 × vv_S} (h : KX0_lend fo x0 x1 x2 σ = some r) : vv_V l G MX0_lend (d + 11) 0 [(0, .ref x0), (1, .int x1), (2, .ref x2)] [] σ (.inl (some (.int r.1)), r.2) := by
  unfold KX0_lend at h
  refine vv_aload_n dX0_lend_0 rfl 2 rfl ?_
  refine vv_iconst (v := (nI 0)) dX0_lend_1 (by decide) ?_
  refine vv_aload_n dX0_lend_2 rfl 0 rfl ?_
  refine vv_iload_n dX0_lend_3 rfl 1 rfl ?_
  replace h := isO_o h; obtain ⟨fz2, sz2, ez2, h⟩ := h
  replace h := bd_o h; obtain ⟨r1, er1, h⟩ := h
  rcases r1 with r3 | r3x
  · refine vv_callV ok_X1_lend q1556 (m_KX1_lend hG hH hfo er1 d) rfl (by omega) ⟨_, _, _, _, _, ez2, by rw [hG.1]; rfl⟩ rfl rfl (Nat.le_of_ble_eq_true rfl) dX0_lend_4 ?_
    replace h := xh1_l h
    refine vv_i2l dX0_lend_7 ?_
    replace h := sL_o h; obtain ⟨σ4, nσ4, qσ4, eσ4, iσ4, uσ4, h⟩ := h
    refine vv_last eσ4 iσ4 dX0_lend_8 ?_
    refine vv_sg uσ4 ?_
    refine vv_goto (tgt := 15) dX0_lend_9 (by decide) ?_
    refine vv_iconst (v := (nI 0)) dX0_lend_15 (by decide) ?_
    cases h
    exact vv_iret rfl dX0_lend_16
  · obtain ⟨cr3, h⟩ := xh1_r h
    refine vv_callVX ok_X1_lend q1556 (m_KX1_lend hG hH hfo er1 d) rfl (by omega) ⟨_, _, _, _, _, ez2, by rw [hG.1]; rfl⟩ rfl rfl (Nat.le_of_ble_eq_true rfl) dX0_lend_4 (vv_Tcatch [] ⟨0, 9, 12, 18⟩ [] rfl (fun z hz => by cases hz) (by decide) (by decide) q1242 (fun U hK => by rw [cr3]; exact hH.1.2.1 U hK _ q1253 rfl) rfl ?_)
    refine vv_sub (lv' := []) [] rfl ?_
    exact v_KX0_lend_12 hG hH hfo h
theorem m_KX0_lend {l : Launch} {G : vv_G} {d : Nat} {ad : Nat → Nat} {fo : Nat → Nat → vv_S → Option Int32} (hG : vv_gok G) (hH : vv_hy l G ad) (hfo : ∀ {a vs : Nat} {σ : vv_S} {r : Int32}, fo a vs σ = some r → vv_Form l G d a vs σ r) {x0 : Nat} {x1 : Int32} {x2 : Nat} {σ : vv_S} {r : Int32 × vv_S} (h : KX0_lend fo x0 x1 x2 σ = some r) (d9 : Nat) (e9 : d9 = d := by rfl) : vv_Met l G MX0_lend (d9 + 11) [.ref x0, .int x1, .ref x2] σ (.inl (some (.int r.1)), r.2) := by
  subst e9
  exact vv_headH (by decide +kernel) (by intro h; cases h) (Nat.le_of_ble_eq_true rfl) rfl (v_KX0_lend_0 hG hH hfo h)
/-! ('X4', 'init') -/
def KX4_init (x0 : Nat) (σ : vv_S) : Option vv_S := (pF σ x0 3 4 (.int (-1))).bind fun σ1 => (nwA σ1 .int (nI 8)).bind fun σ2 => (pF σ2 x0 3 5 (.ref σ1.2.1)).bind fun σ3 => (nwA σ3 .int (nI 8)).bind fun σ4 => (pF σ4 x0 3 6 (.ref σ3.2.1)).bind fun σ5 => (nwA σ5 .int (nI 12)).bind fun σ6 => (pF σ6 x0 3 7 (.ref σ5.2.1)).bind fun σ7 => (nwA σ7 .int (nI 12)).bind fun σ8 => (pF σ8 x0 3 8 (.ref σ7.2.1)).bind fun σ9 => (nwA σ9 .int (nI 12)).bind fun σ10 => (pF σ10 x0 3 9 (.ref σ9.2.1)).bind fun σ11 => (nwA σ11 .int (nI 12)).bind fun σ12 => (pF σ12 x0 3 10 (.ref σ11.2.1)).bind fun σ13 => (nwA σ13 .int (nI 1400)).bind fun σ14 => (pF σ14 x0 3 11 (.ref σ13.2.1)).bind fun σ15 => (nwA σ15 .int (nI 700)).bind fun σ16 => (pF σ16 x0 3 12 (.ref σ15.2.1)).bind fun σ17 => (pF σ17 x0 3 15 (.int (-1))).bind fun σ18 => (nwA σ18 .int (nI 3)).bind fun σ19 => (pF σ19 x0 3 16 (.ref σ18.2.1)).bind fun σ20 => (nwA σ20 .int (nI 8)).bind fun σ21 => (pF σ21 x0 3 32 (.ref σ20.2.1)).bind fun σ22 => (nwA σ22 .int (nI 8)).bind fun σ23 => (pF σ23 x0 3 33 (.ref σ22.2.1)).bind fun σ24 => (nwA σ24 .int (nI 12)).bind fun σ25 => (pF σ25 x0 3 34 (.ref σ24.2.1)).bind fun σ26 => (nwA σ26 .int (nI 12)).bind fun σ27 => (pF σ27 x0 3 35 (.ref σ26.2.1)).bind fun σ28 => (nwA σ28 .int (nI 12)).bind fun σ29 => (pF σ29 x0 3 36 (.ref σ28.2.1)).bind fun σ30 => (nwA σ30 .int (nI 12)).bind fun σ31 => (pF σ31 x0 3 37 (.ref σ30.2.1)).bind fun σ32 => (nwA σ32 .int (nI 85)).bind fun σ33 => (pF σ33 x0 3 38 (.ref σ32.2.1)).bind fun σ34 => (nwA σ34 .int (nI 1400)).bind fun σ35 => (pF σ35 x0 3 39 (.ref σ34.2.1)).bind fun σ36 => (nwA σ36 .int (nI 950)).bind fun σ37 => (pF σ37 x0 3 40 (.ref σ36.2.1)).bind fun σ38 => (nwA σ38 .boolean (nI 9)).bind fun σ39 => (pF σ39 x0 3 41 (.ref σ38.2.1)).bind fun σ40 => (nwA σ40 .int (nI 170)).bind fun σ41 => (pF σ41 x0 3 42 (.ref σ40.2.1)).bind fun σ42 => (nwA σ42 .int (nI 3400)).bind fun σ43 => (pF σ43 x0 3 43 (.ref σ42.2.1)).bind fun σ44 => (nwA σ44 .int (nI 6)).bind fun σ45 => (pF σ45 x0 3 45 (.ref σ44.2.1)).bind fun σ46 => (nwA σ46 .int (nI 950)).bind fun σ47 => (pF σ47 x0 3 46 (.ref σ46.2.1)).bind fun σ48 => (nwA σ48 .int (nI 64)).bind fun σ49 => (pF σ49 x0 3 48 (.ref σ48.2.1)).bind fun σ50 => (nwA σ50 .int (nI 64)).bind fun σ51 => (pF σ51 x0 3 49 (.ref σ50.2.1)).bind fun σ52 => (nwA σ52 .int (nI 10240)).bind fun σ53 => (pF σ53 x0 3 50 (.ref σ52.2.1)).bind fun σ54 => (nwA σ54 .int (nI 240)).bind fun σ55 => (pF σ55 x0 3 51 (.ref σ54.2.1)).bind fun σ56 => (nwA σ56 .int (nI 24)).bind fun σ57 => (pF σ57 x0 3 53 (.ref σ56.2.1)).bind fun σ58 => (nwA σ58 .int (nI 248)).bind fun σ59 => (pF σ59 x0 3 54 (.ref σ58.2.1)).bind fun σ60 => (nwA σ60 .int (nI 24800)).bind fun σ61 => (pF σ61 x0 3 55 (.ref σ60.2.1)).bind fun σ62 => (nwA σ62 .int (nI 85)).bind fun σ63 => (pF σ63 x0 3 60 (.ref σ62.2.1)).bind fun σ64 => (nwA σ64 .int (nI 3400)).bind fun σ65 => (pF σ65 x0 3 61 (.ref σ64.2.1)).bind fun σ66 => (nwA σ66 .int (nI 24)).bind fun σ67 => (pF σ67 x0 3 62 (.ref σ66.2.1)).bind fun σ68 => some σ68
theorem v_KX4_init_0 {l : Launch} {G : vv_G} {d : Nat} {ad : Nat → Nat} (hG : vv_gok G) (hH : vv_hy l G ad) {x0 : Nat} {σ : vv_S} {r : vv_S} (h : KX4_init x0 σ = some r) : vv_V l G MX4_init (d + 1) 0 [(0, .ref x0)] [] σ (.inl none, r) := by
  unfold KX4_init at h
  refine vv_aload_n dX4_init_0 rfl 0 rfl ?_
  refine vv_objinit q1565 q149 q150 (by omega) (Nat.le_of_ble_eq_true rfl) dX4_init_1 ?_
  refine vv_aload_n dX4_init_4 rfl 0 rfl ?_
  refine vv_iconst (v := (-1)) dX4_init_5 (by decide) ?_
  replace h := pF_o h; obtain ⟨σ1, sσ1, eσ1, lσ1, uσ1, h⟩ := h
  refine vv_putf (pt_X4_9 hG) (Or.inr fun C T' N h9 => by rw [hG.1] at h9; cases h9; rfl) eσ1 rfl rfl lσ1 dX4_init_6 ?_
  refine vv_sg uσ1 ?_
  refine vv_aload_n dX4_init_9 rfl 0 rfl ?_
  refine vv_bipush (v := (nI 8)) dX4_init_10 (by decide) ?_
  replace h := nA_o h; obtain ⟨σ2, aσ2, bσ2, uσ2, h⟩ := h
  refine vv_newa (atype := .int) (ty := .int) (a0 := (((nI 8)).toNatClampNeg, .inl (fun _ => 0))) rfl rfl (by rw [hG.2]; decide) q183 (fun cA => rfl) aσ2 rfl (Nat.le_trans (Nat.mul_le_mul_right _ bσ2) (Nat.le_of_ble_eq_true rfl)) dX4_init_12 ?_
  refine vv_sg uσ2 ?_
  replace h := pF_o h; obtain ⟨σ3, sσ3, eσ3, lσ3, uσ3, h⟩ := h
  refine vv_putf (pt_X4_13 hG) (Or.inl rfl) eσ3 rfl rfl lσ3 dX4_init_14 ?_
  refine vv_sg uσ3 ?_
  refine vv_aload_n dX4_init_17 rfl 0 rfl ?_
  refine vv_bipush (v := (nI 8)) dX4_init_18 (by decide) ?_
  replace h := nA_o h; obtain ⟨σ4, aσ4, bσ4, uσ4, h⟩ := h
  refine vv_newa (atype := .int) (ty := .int) (a0 := (((nI 8)).toNatClampNeg, .inl (fun _ => 0))) rfl rfl (by rw [hG.2]; decide) q183 (fun cA => rfl) aσ4 rfl (Nat.le_trans (Nat.mul_le_mul_right _ bσ4) (Nat.le_of_ble_eq_true rfl)) dX4_init_20 ?_
  refine vv_sg uσ4 ?_
  replace h := pF_o h; obtain ⟨σ5, sσ5, eσ5, lσ5, uσ5, h⟩ := h
  refine vv_putf (pt_X4_17 hG) (Or.inl rfl) eσ5 rfl rfl lσ5 dX4_init_22 ?_
  refine vv_sg uσ5 ?_
  refine vv_aload_n dX4_init_25 rfl 0 rfl ?_
  refine vv_bipush (v := (nI 12)) dX4_init_26 (by decide) ?_
  replace h := nA_o h; obtain ⟨σ6, aσ6, bσ6, uσ6, h⟩ := h
  refine vv_newa (atype := .int) (ty := .int) (a0 := (((nI 12)).toNatClampNeg, .inl (fun _ => 0))) rfl rfl (by rw [hG.2]; decide) q183 (fun cA => rfl) aσ6 rfl (Nat.le_trans (Nat.mul_le_mul_right _ bσ6) (Nat.le_of_ble_eq_true rfl)) dX4_init_28 ?_
  refine vv_sg uσ6 ?_
  replace h := pF_o h; obtain ⟨σ7, sσ7, eσ7, lσ7, uσ7, h⟩ := h
  refine vv_putf (pt_X4_20 hG) (Or.inl rfl) eσ7 rfl rfl lσ7 dX4_init_30 ?_
  refine vv_sg uσ7 ?_
  refine vv_aload_n dX4_init_33 rfl 0 rfl ?_
  refine vv_bipush (v := (nI 12)) dX4_init_34 (by decide) ?_
  replace h := nA_o h; obtain ⟨σ8, aσ8, bσ8, uσ8, h⟩ := h
  refine vv_newa (atype := .int) (ty := .int) (a0 := (((nI 12)).toNatClampNeg, .inl (fun _ => 0))) rfl rfl (by rw [hG.2]; decide) q183 (fun cA => rfl) aσ8 rfl (Nat.le_trans (Nat.mul_le_mul_right _ bσ8) (Nat.le_of_ble_eq_true rfl)) dX4_init_36 ?_
  refine vv_sg uσ8 ?_
  replace h := pF_o h; obtain ⟨σ9, sσ9, eσ9, lσ9, uσ9, h⟩ := h
  refine vv_putf (pt_X4_23 hG) (Or.inl rfl) eσ9 rfl rfl lσ9 dX4_init_38 ?_
  refine vv_sg uσ9 ?_
  refine vv_aload_n dX4_init_41 rfl 0 rfl ?_
  refine vv_bipush (v := (nI 12)) dX4_init_42 (by decide) ?_
  replace h := nA_o h; obtain ⟨σ10, aσ10, bσ10, uσ10, h⟩ := h
  refine vv_newa (atype := .int) (ty := .int) (a0 := (((nI 12)).toNatClampNeg, .inl (fun _ => 0))) rfl rfl (by rw [hG.2]; decide) q183 (fun cA => rfl) aσ10 rfl (Nat.le_trans (Nat.mul_le_mul_right _ bσ10) (Nat.le_of_ble_eq_true rfl)) dX4_init_44 ?_
  refine vv_sg uσ10 ?_
  replace h := pF_o h; obtain ⟨σ11, sσ11, eσ11, lσ11, uσ11, h⟩ := h
  refine vv_putf (pt_X4_26 hG) (Or.inl rfl) eσ11 rfl rfl lσ11 dX4_init_46 ?_
  refine vv_sg uσ11 ?_
  refine vv_aload_n dX4_init_49 rfl 0 rfl ?_
  refine vv_bipush (v := (nI 12)) dX4_init_50 (by decide) ?_
  replace h := nA_o h; obtain ⟨σ12, aσ12, bσ12, uσ12, h⟩ := h
  refine vv_newa (atype := .int) (ty := .int) (a0 := (((nI 12)).toNatClampNeg, .inl (fun _ => 0))) rfl rfl (by rw [hG.2]; decide) q183 (fun cA => rfl) aσ12 rfl (Nat.le_trans (Nat.mul_le_mul_right _ bσ12) (Nat.le_of_ble_eq_true rfl)) dX4_init_52 ?_
  refine vv_sg uσ12 ?_
  replace h := pF_o h; obtain ⟨σ13, sσ13, eσ13, lσ13, uσ13, h⟩ := h
  refine vv_putf (pt_X4_29 hG) (Or.inl rfl) eσ13 rfl rfl lσ13 dX4_init_54 ?_
  refine vv_sg uσ13 ?_
  refine vv_aload_n dX4_init_57 rfl 0 rfl ?_
  refine vv_sipush (v := (nI 1400)) dX4_init_58 (by decide) ?_
  replace h := nA_o h; obtain ⟨σ14, aσ14, bσ14, uσ14, h⟩ := h
  refine vv_newa (atype := .int) (ty := .int) (a0 := (((nI 1400)).toNatClampNeg, .inl (fun _ => 0))) rfl rfl (by rw [hG.2]; decide) q183 (fun cA => rfl) aσ14 rfl (Nat.le_trans (Nat.mul_le_mul_right _ bσ14) (Nat.le_of_ble_eq_true rfl)) dX4_init_61 ?_
  refine vv_sg uσ14 ?_
  replace h := pF_o h; obtain ⟨σ15, sσ15, eσ15, lσ15, uσ15, h⟩ := h
  refine vv_putf (pt_X4_32 hG) (Or.inl rfl) eσ15 rfl rfl lσ15 dX4_init_63 ?_
  refine vv_sg uσ15 ?_
  refine vv_aload_n dX4_init_66 rfl 0 rfl ?_
  refine vv_sipush (v := (nI 700)) dX4_init_67 (by decide) ?_
  replace h := nA_o h; obtain ⟨σ16, aσ16, bσ16, uσ16, h⟩ := h
  refine vv_newa (atype := .int) (ty := .int) (a0 := (((nI 700)).toNatClampNeg, .inl (fun _ => 0))) rfl rfl (by rw [hG.2]; decide) q183 (fun cA => rfl) aσ16 rfl (Nat.le_trans (Nat.mul_le_mul_right _ bσ16) (Nat.le_of_ble_eq_true rfl)) dX4_init_70 ?_
  refine vv_sg uσ16 ?_
  replace h := pF_o h; obtain ⟨σ17, sσ17, eσ17, lσ17, uσ17, h⟩ := h
  refine vv_putf (pt_X4_35 hG) (Or.inl rfl) eσ17 rfl rfl lσ17 dX4_init_72 ?_
  refine vv_sg uσ17 ?_
  refine vv_aload_n dX4_init_75 rfl 0 rfl ?_
  refine vv_iconst (v := (-1)) dX4_init_76 (by decide) ?_
  replace h := pF_o h; obtain ⟨σ18, sσ18, eσ18, lσ18, uσ18, h⟩ := h
  refine vv_putf (pt_X4_38 hG) (Or.inr fun C T' N h9 => by rw [hG.1] at h9; cases h9; rfl) eσ18 rfl rfl lσ18 dX4_init_77 ?_
  refine vv_sg uσ18 ?_
  refine vv_aload_n dX4_init_80 rfl 0 rfl ?_
  refine vv_iconst (v := (nI 3)) dX4_init_81 (by decide) ?_
  replace h := nA_o h; obtain ⟨σ19, aσ19, bσ19, uσ19, h⟩ := h
  refine vv_newa (atype := .int) (ty := .int) (a0 := (((nI 3)).toNatClampNeg, .inl (fun _ => 0))) rfl rfl (by rw [hG.2]; decide) q183 (fun cA => rfl) aσ19 rfl (Nat.le_trans (Nat.mul_le_mul_right _ bσ19) (Nat.le_of_ble_eq_true rfl)) dX4_init_82 ?_
  refine vv_sg uσ19 ?_
  replace h := pF_o h; obtain ⟨σ20, sσ20, eσ20, lσ20, uσ20, h⟩ := h
  refine vv_putf (pt_X4_41 hG) (Or.inl rfl) eσ20 rfl rfl lσ20 dX4_init_84 ?_
  refine vv_sg uσ20 ?_
  refine vv_aload_n dX4_init_87 rfl 0 rfl ?_
  refine vv_bipush (v := (nI 8)) dX4_init_88 (by decide) ?_
  replace h := nA_o h; obtain ⟨σ21, aσ21, bσ21, uσ21, h⟩ := h
  refine vv_newa (atype := .int) (ty := .int) (a0 := (((nI 8)).toNatClampNeg, .inl (fun _ => 0))) rfl rfl (by rw [hG.2]; decide) q183 (fun cA => rfl) aσ21 rfl (Nat.le_trans (Nat.mul_le_mul_right _ bσ21) (Nat.le_of_ble_eq_true rfl)) dX4_init_90 ?_
  refine vv_sg uσ21 ?_
  replace h := pF_o h; obtain ⟨σ22, sσ22, eσ22, lσ22, uσ22, h⟩ := h
  refine vv_putf (pt_X4_44 hG) (Or.inl rfl) eσ22 rfl rfl lσ22 dX4_init_92 ?_
  refine vv_sg uσ22 ?_
  refine vv_aload_n dX4_init_95 rfl 0 rfl ?_
  refine vv_bipush (v := (nI 8)) dX4_init_96 (by decide) ?_
  replace h := nA_o h; obtain ⟨σ23, aσ23, bσ23, uσ23, h⟩ := h
  refine vv_newa (atype := .int) (ty := .int) (a0 := (((nI 8)).toNatClampNeg, .inl (fun _ => 0))) rfl rfl (by rw [hG.2]; decide) q183 (fun cA => rfl) aσ23 rfl (Nat.le_trans (Nat.mul_le_mul_right _ bσ23) (Nat.le_of_ble_eq_true rfl)) dX4_init_98 ?_
  refine vv_sg uσ23 ?_
  replace h := pF_o h; obtain ⟨σ24, sσ24, eσ24, lσ24, uσ24, h⟩ := h
  refine vv_putf (pt_X4_47 hG) (Or.inl rfl) eσ24 rfl rfl lσ24 dX4_init_100 ?_
  refine vv_sg uσ24 ?_
  refine vv_aload_n dX4_init_103 rfl 0 rfl ?_
  refine vv_bipush (v := (nI 12)) dX4_init_104 (by decide) ?_
  replace h := nA_o h; obtain ⟨σ25, aσ25, bσ25, uσ25, h⟩ := h
  refine vv_newa (atype := .int) (ty := .int) (a0 := (((nI 12)).toNatClampNeg, .inl (fun _ => 0))) rfl rfl (by rw [hG.2]; decide) q183 (fun cA => rfl) aσ25 rfl (Nat.le_trans (Nat.mul_le_mul_right _ bσ25) (Nat.le_of_ble_eq_true rfl)) dX4_init_106 ?_
  refine vv_sg uσ25 ?_
  replace h := pF_o h; obtain ⟨σ26, sσ26, eσ26, lσ26, uσ26, h⟩ := h
  refine vv_putf (pt_X4_50 hG) (Or.inl rfl) eσ26 rfl rfl lσ26 dX4_init_108 ?_
  refine vv_sg uσ26 ?_
  refine vv_aload_n dX4_init_111 rfl 0 rfl ?_
  refine vv_bipush (v := (nI 12)) dX4_init_112 (by decide) ?_
  replace h := nA_o h; obtain ⟨σ27, aσ27, bσ27, uσ27, h⟩ := h
  refine vv_newa (atype := .int) (ty := .int) (a0 := (((nI 12)).toNatClampNeg, .inl (fun _ => 0))) rfl rfl (by rw [hG.2]; decide) q183 (fun cA => rfl) aσ27 rfl (Nat.le_trans (Nat.mul_le_mul_right _ bσ27) (Nat.le_of_ble_eq_true rfl)) dX4_init_114 ?_
  refine vv_sg uσ27 ?_
  replace h := pF_o h; obtain ⟨σ28, sσ28, eσ28, lσ28, uσ28, h⟩ := h
  refine vv_putf (pt_X4_53 hG) (Or.inl rfl) eσ28 rfl rfl lσ28 dX4_init_116 ?_
  refine vv_sg uσ28 ?_
  refine vv_aload_n dX4_init_119 rfl 0 rfl ?_
  refine vv_bipush (v := (nI 12)) dX4_init_120 (by decide) ?_
  replace h := nA_o h; obtain ⟨σ29, aσ29, bσ29, uσ29, h⟩ := h
  refine vv_newa (atype := .int) (ty := .int) (a0 := (((nI 12)).toNatClampNeg, .inl (fun _ => 0))) rfl rfl (by rw [hG.2]; decide) q183 (fun cA => rfl) aσ29 rfl (Nat.le_trans (Nat.mul_le_mul_right _ bσ29) (Nat.le_of_ble_eq_true rfl)) dX4_init_122 ?_
  refine vv_sg uσ29 ?_
  replace h := pF_o h; obtain ⟨σ30, sσ30, eσ30, lσ30, uσ30, h⟩ := h
  refine vv_putf (pt_X4_56 hG) (Or.inl rfl) eσ30 rfl rfl lσ30 dX4_init_124 ?_
  refine vv_sg uσ30 ?_
  refine vv_aload_n dX4_init_127 rfl 0 rfl ?_
  refine vv_bipush (v := (nI 12)) dX4_init_128 (by decide) ?_
  replace h := nA_o h; obtain ⟨σ31, aσ31, bσ31, uσ31, h⟩ := h
  refine vv_newa (atype := .int) (ty := .int) (a0 := (((nI 12)).toNatClampNeg, .inl (fun _ => 0))) rfl rfl (by rw [hG.2]; decide) q183 (fun cA => rfl) aσ31 rfl (Nat.le_trans (Nat.mul_le_mul_right _ bσ31) (Nat.le_of_ble_eq_true rfl)) dX4_init_130 ?_
  refine vv_sg uσ31 ?_
  replace h := pF_o h; obtain ⟨σ32, sσ32, eσ32, lσ32, uσ32, h⟩ := h
  refine vv_putf (pt_X4_59 hG) (Or.inl rfl) eσ32 rfl rfl lσ32 dX4_init_132 ?_
  refine vv_sg uσ32 ?_
  refine vv_aload_n dX4_init_135 rfl 0 rfl ?_
  refine vv_bipush (v := (nI 85)) dX4_init_136 (by decide) ?_
  replace h := nA_o h; obtain ⟨σ33, aσ33, bσ33, uσ33, h⟩ := h
  refine vv_newa (atype := .int) (ty := .int) (a0 := (((nI 85)).toNatClampNeg, .inl (fun _ => 0))) rfl rfl (by rw [hG.2]; decide) q183 (fun cA => rfl) aσ33 rfl (Nat.le_trans (Nat.mul_le_mul_right _ bσ33) (Nat.le_of_ble_eq_true rfl)) dX4_init_138 ?_
  refine vv_sg uσ33 ?_
  replace h := pF_o h; obtain ⟨σ34, sσ34, eσ34, lσ34, uσ34, h⟩ := h
  refine vv_putf (pt_X4_62 hG) (Or.inl rfl) eσ34 rfl rfl lσ34 dX4_init_140 ?_
  refine vv_sg uσ34 ?_
  refine vv_aload_n dX4_init_143 rfl 0 rfl ?_
  refine vv_sipush (v := (nI 1400)) dX4_init_144 (by decide) ?_
  replace h := nA_o h; obtain ⟨σ35, aσ35, bσ35, uσ35, h⟩ := h
  refine vv_newa (atype := .int) (ty := .int) (a0 := (((nI 1400)).toNatClampNeg, .inl (fun _ => 0))) rfl rfl (by rw [hG.2]; decide) q183 (fun cA => rfl) aσ35 rfl (Nat.le_trans (Nat.mul_le_mul_right _ bσ35) (Nat.le_of_ble_eq_true rfl)) dX4_init_147 ?_
  refine vv_sg uσ35 ?_
  replace h := pF_o h; obtain ⟨σ36, sσ36, eσ36, lσ36, uσ36, h⟩ := h
  refine vv_putf (pt_X4_65 hG) (Or.inl rfl) eσ36 rfl rfl lσ36 dX4_init_149 ?_
  refine vv_sg uσ36 ?_
  refine vv_aload_n dX4_init_152 rfl 0 rfl ?_
  refine vv_sipush (v := (nI 950)) dX4_init_153 (by decide) ?_
  replace h := nA_o h; obtain ⟨σ37, aσ37, bσ37, uσ37, h⟩ := h
  refine vv_newa (atype := .int) (ty := .int) (a0 := (((nI 950)).toNatClampNeg, .inl (fun _ => 0))) rfl rfl (by rw [hG.2]; decide) q183 (fun cA => rfl) aσ37 rfl (Nat.le_trans (Nat.mul_le_mul_right _ bσ37) (Nat.le_of_ble_eq_true rfl)) dX4_init_156 ?_
  refine vv_sg uσ37 ?_
  replace h := pF_o h; obtain ⟨σ38, sσ38, eσ38, lσ38, uσ38, h⟩ := h
  refine vv_putf (pt_X4_68 hG) (Or.inl rfl) eσ38 rfl rfl lσ38 dX4_init_158 ?_
  refine vv_sg uσ38 ?_
  refine vv_aload_n dX4_init_161 rfl 0 rfl ?_
  refine vv_bipush (v := (nI 9)) dX4_init_162 (by decide) ?_
  replace h := nA_o h; obtain ⟨σ39, aσ39, bσ39, uσ39, h⟩ := h
  refine vv_newa (atype := .boolean) (ty := .boolean) (a0 := (((nI 9)).toNatClampNeg, .inl (fun _ => 0))) rfl rfl (by rw [hG.2]; decide) q1756 (fun cA => rfl) aσ39 rfl (Nat.le_trans (Nat.mul_le_mul_right _ bσ39) (Nat.le_of_ble_eq_true rfl)) dX4_init_164 ?_
  refine vv_sg uσ39 ?_
  replace h := pF_o h; obtain ⟨σ40, sσ40, eσ40, lσ40, uσ40, h⟩ := h
  refine vv_putf (pt_X4_71 hG) (Or.inl rfl) eσ40 rfl rfl lσ40 dX4_init_166 ?_
  refine vv_sg uσ40 ?_
  refine vv_aload_n dX4_init_169 rfl 0 rfl ?_
  refine vv_sipush (v := (nI 170)) dX4_init_170 (by decide) ?_
  replace h := nA_o h; obtain ⟨σ41, aσ41, bσ41, uσ41, h⟩ := h
  refine vv_newa (atype := .int) (ty := .int) (a0 := (((nI 170)).toNatClampNeg, .inl (fun _ => 0))) rfl rfl (by rw [hG.2]; decide) q183 (fun cA => rfl) aσ41 rfl (Nat.le_trans (Nat.mul_le_mul_right _ bσ41) (Nat.le_of_ble_eq_true rfl)) dX4_init_173 ?_
  refine vv_sg uσ41 ?_
  replace h := pF_o h; obtain ⟨σ42, sσ42, eσ42, lσ42, uσ42, h⟩ := h
  refine vv_putf (pt_X4_75 hG) (Or.inl rfl) eσ42 rfl rfl lσ42 dX4_init_175 ?_
  refine vv_sg uσ42 ?_
  refine vv_aload_n dX4_init_178 rfl 0 rfl ?_
  refine vv_sipush (v := (nI 3400)) dX4_init_179 (by decide) ?_
  replace h := nA_o h; obtain ⟨σ43, aσ43, bσ43, uσ43, h⟩ := h
  refine vv_newa (atype := .int) (ty := .int) (a0 := (((nI 3400)).toNatClampNeg, .inl (fun _ => 0))) rfl rfl (by rw [hG.2]; decide) q183 (fun cA => rfl) aσ43 rfl (Nat.le_trans (Nat.mul_le_mul_right _ bσ43) (Nat.le_of_ble_eq_true rfl)) dX4_init_182 ?_
  refine vv_sg uσ43 ?_
  replace h := pF_o h; obtain ⟨σ44, sσ44, eσ44, lσ44, uσ44, h⟩ := h
  refine vv_putf (pt_X4_78 hG) (Or.inl rfl) eσ44 rfl rfl lσ44 dX4_init_184 ?_
  refine vv_sg uσ44 ?_
  refine vv_aload_n dX4_init_187 rfl 0 rfl ?_
  refine vv_bipush (v := (nI 6)) dX4_init_188 (by decide) ?_
  replace h := nA_o h; obtain ⟨σ45, aσ45, bσ45, uσ45, h⟩ := h
  refine vv_newa (atype := .int) (ty := .int) (a0 := (((nI 6)).toNatClampNeg, .inl (fun _ => 0))) rfl rfl (by rw [hG.2]; decide) q183 (fun cA => rfl) aσ45 rfl (Nat.le_trans (Nat.mul_le_mul_right _ bσ45) (Nat.le_of_ble_eq_true rfl)) dX4_init_190 ?_
  refine vv_sg uσ45 ?_
  replace h := pF_o h; obtain ⟨σ46, sσ46, eσ46, lσ46, uσ46, h⟩ := h
  refine vv_putf (pt_X4_81 hG) (Or.inl rfl) eσ46 rfl rfl lσ46 dX4_init_192 ?_
  refine vv_sg uσ46 ?_
  refine vv_aload_n dX4_init_195 rfl 0 rfl ?_
  refine vv_sipush (v := (nI 950)) dX4_init_196 (by decide) ?_
  replace h := nA_o h; obtain ⟨σ47, aσ47, bσ47, uσ47, h⟩ := h
  refine vv_newa (atype := .int) (ty := .int) (a0 := (((nI 950)).toNatClampNeg, .inl (fun _ => 0))) rfl rfl (by rw [hG.2]; decide) q183 (fun cA => rfl) aσ47 rfl (Nat.le_trans (Nat.mul_le_mul_right _ bσ47) (Nat.le_of_ble_eq_true rfl)) dX4_init_199 ?_
  refine vv_sg uσ47 ?_
  replace h := pF_o h; obtain ⟨σ48, sσ48, eσ48, lσ48, uσ48, h⟩ := h
  refine vv_putf (pt_X4_84 hG) (Or.inl rfl) eσ48 rfl rfl lσ48 dX4_init_201 ?_
  refine vv_sg uσ48 ?_
  refine vv_aload_n dX4_init_204 rfl 0 rfl ?_
  refine vv_bipush (v := (nI 64)) dX4_init_205 (by decide) ?_
  replace h := nA_o h; obtain ⟨σ49, aσ49, bσ49, uσ49, h⟩ := h
  refine vv_newa (atype := .int) (ty := .int) (a0 := (((nI 64)).toNatClampNeg, .inl (fun _ => 0))) rfl rfl (by rw [hG.2]; decide) q183 (fun cA => rfl) aσ49 rfl (Nat.le_trans (Nat.mul_le_mul_right _ bσ49) (Nat.le_of_ble_eq_true rfl)) dX4_init_207 ?_
  refine vv_sg uσ49 ?_
  replace h := pF_o h; obtain ⟨σ50, sσ50, eσ50, lσ50, uσ50, h⟩ := h
  refine vv_putf (pt_X4_87 hG) (Or.inl rfl) eσ50 rfl rfl lσ50 dX4_init_209 ?_
  refine vv_sg uσ50 ?_
  refine vv_aload_n dX4_init_212 rfl 0 rfl ?_
  refine vv_bipush (v := (nI 64)) dX4_init_213 (by decide) ?_
  replace h := nA_o h; obtain ⟨σ51, aσ51, bσ51, uσ51, h⟩ := h
  refine vv_newa (atype := .int) (ty := .int) (a0 := (((nI 64)).toNatClampNeg, .inl (fun _ => 0))) rfl rfl (by rw [hG.2]; decide) q183 (fun cA => rfl) aσ51 rfl (Nat.le_trans (Nat.mul_le_mul_right _ bσ51) (Nat.le_of_ble_eq_true rfl)) dX4_init_215 ?_
  refine vv_sg uσ51 ?_
  replace h := pF_o h; obtain ⟨σ52, sσ52, eσ52, lσ52, uσ52, h⟩ := h
  refine vv_putf (pt_X4_90 hG) (Or.inl rfl) eσ52 rfl rfl lσ52 dX4_init_217 ?_
  refine vv_sg uσ52 ?_
  refine vv_aload_n dX4_init_220 rfl 0 rfl ?_
  refine vv_sipush (v := (nI 10240)) dX4_init_221 (by decide) ?_
  replace h := nA_o h; obtain ⟨σ53, aσ53, bσ53, uσ53, h⟩ := h
  refine vv_newa (atype := .int) (ty := .int) (a0 := (((nI 10240)).toNatClampNeg, .inl (fun _ => 0))) rfl rfl (by rw [hG.2]; decide) q183 (fun cA => rfl) aσ53 rfl (Nat.le_trans (Nat.mul_le_mul_right _ bσ53) (Nat.le_of_ble_eq_true rfl)) dX4_init_224 ?_
  refine vv_sg uσ53 ?_
  replace h := pF_o h; obtain ⟨σ54, sσ54, eσ54, lσ54, uσ54, h⟩ := h
  refine vv_putf (pt_X4_93 hG) (Or.inl rfl) eσ54 rfl rfl lσ54 dX4_init_226 ?_
  refine vv_sg uσ54 ?_
  refine vv_aload_n dX4_init_229 rfl 0 rfl ?_
  refine vv_sipush (v := (nI 240)) dX4_init_230 (by decide) ?_
  replace h := nA_o h; obtain ⟨σ55, aσ55, bσ55, uσ55, h⟩ := h
  refine vv_newa (atype := .int) (ty := .int) (a0 := (((nI 240)).toNatClampNeg, .inl (fun _ => 0))) rfl rfl (by rw [hG.2]; decide) q183 (fun cA => rfl) aσ55 rfl (Nat.le_trans (Nat.mul_le_mul_right _ bσ55) (Nat.le_of_ble_eq_true rfl)) dX4_init_233 ?_
  refine vv_sg uσ55 ?_
  replace h := pF_o h; obtain ⟨σ56, sσ56, eσ56, lσ56, uσ56, h⟩ := h
  refine vv_putf (pt_X4_96 hG) (Or.inl rfl) eσ56 rfl rfl lσ56 dX4_init_235 ?_
  refine vv_sg uσ56 ?_
  refine vv_aload_n dX4_init_238 rfl 0 rfl ?_
  refine vv_bipush (v := (nI 24)) dX4_init_239 (by decide) ?_
  replace h := nA_o h; obtain ⟨σ57, aσ57, bσ57, uσ57, h⟩ := h
  refine vv_newa (atype := .int) (ty := .int) (a0 := (((nI 24)).toNatClampNeg, .inl (fun _ => 0))) rfl rfl (by rw [hG.2]; decide) q183 (fun cA => rfl) aσ57 rfl (Nat.le_trans (Nat.mul_le_mul_right _ bσ57) (Nat.le_of_ble_eq_true rfl)) dX4_init_241 ?_
  refine vv_sg uσ57 ?_
  replace h := pF_o h; obtain ⟨σ58, sσ58, eσ58, lσ58, uσ58, h⟩ := h
  refine vv_putf (pt_X4_99 hG) (Or.inl rfl) eσ58 rfl rfl lσ58 dX4_init_243 ?_
  refine vv_sg uσ58 ?_
  refine vv_aload_n dX4_init_246 rfl 0 rfl ?_
  refine vv_sipush (v := (nI 248)) dX4_init_247 (by decide) ?_
  replace h := nA_o h; obtain ⟨σ59, aσ59, bσ59, uσ59, h⟩ := h
  refine vv_newa (atype := .int) (ty := .int) (a0 := (((nI 248)).toNatClampNeg, .inl (fun _ => 0))) rfl rfl (by rw [hG.2]; decide) q183 (fun cA => rfl) aσ59 rfl (Nat.le_trans (Nat.mul_le_mul_right _ bσ59) (Nat.le_of_ble_eq_true rfl)) dX4_init_250 ?_
  refine vv_sg uσ59 ?_
  replace h := pF_o h; obtain ⟨σ60, sσ60, eσ60, lσ60, uσ60, h⟩ := h
  refine vv_putf (pt_X4_102 hG) (Or.inl rfl) eσ60 rfl rfl lσ60 dX4_init_252 ?_
  refine vv_sg uσ60 ?_
  refine vv_aload_n dX4_init_255 rfl 0 rfl ?_
  refine vv_sipush (v := (nI 24800)) dX4_init_256 (by decide) ?_
  replace h := nA_o h; obtain ⟨σ61, aσ61, bσ61, uσ61, h⟩ := h
  refine vv_newa (atype := .int) (ty := .int) (a0 := (((nI 24800)).toNatClampNeg, .inl (fun _ => 0))) rfl rfl (by rw [hG.2]; decide) q183 (fun cA => rfl) aσ61 rfl (Nat.le_trans (Nat.mul_le_mul_right _ bσ61) (Nat.le_of_ble_eq_true rfl)) dX4_init_259 ?_
  refine vv_sg uσ61 ?_
  replace h := pF_o h; obtain ⟨σ62, sσ62, eσ62, lσ62, uσ62, h⟩ := h
  refine vv_putf (pt_X4_105 hG) (Or.inl rfl) eσ62 rfl rfl lσ62 dX4_init_261 ?_
  refine vv_sg uσ62 ?_
  refine vv_aload_n dX4_init_264 rfl 0 rfl ?_
  refine vv_bipush (v := (nI 85)) dX4_init_265 (by decide) ?_
  replace h := nA_o h; obtain ⟨σ63, aσ63, bσ63, uσ63, h⟩ := h
  refine vv_newa (atype := .int) (ty := .int) (a0 := (((nI 85)).toNatClampNeg, .inl (fun _ => 0))) rfl rfl (by rw [hG.2]; decide) q183 (fun cA => rfl) aσ63 rfl (Nat.le_trans (Nat.mul_le_mul_right _ bσ63) (Nat.le_of_ble_eq_true rfl)) dX4_init_267 ?_
  refine vv_sg uσ63 ?_
  replace h := pF_o h; obtain ⟨σ64, sσ64, eσ64, lσ64, uσ64, h⟩ := h
  refine vv_putf (pt_X4_108 hG) (Or.inl rfl) eσ64 rfl rfl lσ64 dX4_init_269 ?_
  refine vv_sg uσ64 ?_
  refine vv_aload_n dX4_init_272 rfl 0 rfl ?_
  refine vv_sipush (v := (nI 3400)) dX4_init_273 (by decide) ?_
  replace h := nA_o h; obtain ⟨σ65, aσ65, bσ65, uσ65, h⟩ := h
  refine vv_newa (atype := .int) (ty := .int) (a0 := (((nI 3400)).toNatClampNeg, .inl (fun _ => 0))) rfl rfl (by rw [hG.2]; decide) q183 (fun cA => rfl) aσ65 rfl (Nat.le_trans (Nat.mul_le_mul_right _ bσ65) (Nat.le_of_ble_eq_true rfl)) dX4_init_276 ?_
  refine vv_sg uσ65 ?_
  replace h := pF_o h; obtain ⟨σ66, sσ66, eσ66, lσ66, uσ66, h⟩ := h
  refine vv_putf (pt_X4_111 hG) (Or.inl rfl) eσ66 rfl rfl lσ66 dX4_init_278 ?_
  refine vv_sg uσ66 ?_
  refine vv_aload_n dX4_init_281 rfl 0 rfl ?_
  refine vv_bipush (v := (nI 24)) dX4_init_282 (by decide) ?_
  replace h := nA_o h; obtain ⟨σ67, aσ67, bσ67, uσ67, h⟩ := h
  refine vv_newa (atype := .int) (ty := .int) (a0 := (((nI 24)).toNatClampNeg, .inl (fun _ => 0))) rfl rfl (by rw [hG.2]; decide) q183 (fun cA => rfl) aσ67 rfl (Nat.le_trans (Nat.mul_le_mul_right _ bσ67) (Nat.le_of_ble_eq_true rfl)) dX4_init_284 ?_
  refine vv_sg uσ67 ?_
  replace h := pF_o h; obtain ⟨σ68, sσ68, eσ68, lσ68, uσ68, h⟩ := h
  refine vv_putf (pt_X4_114 hG) (Or.inl rfl) eσ68 rfl rfl lσ68 dX4_init_286 ?_
  refine vv_sg uσ68 ?_
  cases h
  exact vv_vret rfl dX4_init_289
theorem m_KX4_init {l : Launch} {G : vv_G} {ad : Nat → Nat} (hG : vv_gok G) (hH : vv_hy l G ad) {x0 : Nat} {σ : vv_S} {r : vv_S} (h : KX4_init x0 σ = some r) (d : Nat) : vv_Met l G MX4_init (d + 1) [.ref x0] σ (.inl none, r) := vv_head (by decide +kernel) rfl (Nat.le_of_ble_eq_true rfl) rfl (v_KX4_init_0 hG hH h)
