set_option maxRecDepth 100000
/-! ('X2', 'init') -/
def KX2_init (ad : Nat → Nat) (x0 : Nat) (σ : vv_S) : Option vv_S := (some (nwO σ 11 [.int 0, .null, .int 0] 3)).bind fun σ1 => (KJ2_init ad σ.2.1 σ1).bind fun r2 => (pF r2 x0 1 0 (.ref σ.2.1)).bind fun σ3 => (some (nwO σ3 11 [.int 0, .null, .int 0] 3)).bind fun σ4 => (KJ2_init ad σ3.2.1 σ4).bind fun r5 => (pF r5 x0 1 1 (.ref σ3.2.1)).bind fun σ6 => (some (nwO σ6 11 [.int 0, .null, .int 0] 3)).bind fun σ7 => (KJ2_init ad σ6.2.1 σ7).bind fun r8 => (pF r8 x0 1 2 (.ref σ6.2.1)).bind fun σ9 => some σ9
theorem v_KX2_init_0 {l : Launch} {G : vv_G} {d : Nat} {ad : Nat → Nat} (hG : vv_gok G) (hH : vv_hy l G ad) {x0 : Nat} {σ : vv_S} {r : vv_S} (h : KX2_init ad x0 σ = some r) : vv_V l G MX2_init (d + 4) 0 [(0, .ref x0)] [] σ (.inl none, r) := by
  unfold KX2_init at h
  refine vv_aload_n dX2_init_0 rfl 0 rfl ?_
  refine vv_objinit q156 q149 q150 (by omega) (Nat.le_of_ble_eq_true rfl) dX2_init_1 ?_
  refine vv_aload_n dX2_init_4 rfl 0 rfl ?_
  obtain ⟨σ1, uσ1, h⟩ := bd_s h
  refine vv_new (nw_X2_9 hG) dX2_init_5 ?_
  rw [show (vv_up σ.1 σ.2.1 _, _, _) = σ1 from uσ1.symm]
  refine vv_dup dX2_init_8 rfl ?_
  replace h := bd_o h; obtain ⟨r2, er2, h⟩ := h
  refine vv_callI ok_J2_init q159 (m_KJ2_init hG hH er2 d) rfl (by omega) rfl rfl (Nat.le_of_ble_eq_true rfl) dX2_init_9 ?_
  replace h := pF_o h; obtain ⟨σ3, sσ3, eσ3, lσ3, uσ3, h⟩ := h
  refine vv_putf (pt_X2_12 hG) (Or.inl rfl) eσ3 rfl rfl lσ3 dX2_init_12 ?_
  rw [← uσ3]
  refine vv_aload_n dX2_init_15 rfl 0 rfl ?_
  obtain ⟨σ4, uσ4, h⟩ := bd_s h
  refine vv_new (nw_X2_9 hG) dX2_init_16 ?_
  rw [show (vv_up σ3.1 σ3.2.1 _, _, _) = σ4 from uσ4.symm]
  refine vv_dup dX2_init_19 rfl ?_
  replace h := bd_o h; obtain ⟨r5, er5, h⟩ := h
  refine vv_callI ok_J2_init q159 (m_KJ2_init hG hH er5 d) rfl (by omega) rfl rfl (Nat.le_of_ble_eq_true rfl) dX2_init_20 ?_
  replace h := pF_o h; obtain ⟨σ6, sσ6, eσ6, lσ6, uσ6, h⟩ := h
  refine vv_putf (pt_X2_18 hG) (Or.inl rfl) eσ6 rfl rfl lσ6 dX2_init_23 ?_
  rw [← uσ6]
  refine vv_aload_n dX2_init_26 rfl 0 rfl ?_
  obtain ⟨σ7, uσ7, h⟩ := bd_s h
  refine vv_new (nw_X2_9 hG) dX2_init_27 ?_
  rw [show (vv_up σ6.1 σ6.2.1 _, _, _) = σ7 from uσ7.symm]
  refine vv_dup dX2_init_30 rfl ?_
  replace h := bd_o h; obtain ⟨r8, er8, h⟩ := h
  refine vv_callI ok_J2_init q159 (m_KJ2_init hG hH er8 d) rfl (by omega) rfl rfl (Nat.le_of_ble_eq_true rfl) dX2_init_31 ?_
  replace h := pF_o h; obtain ⟨σ9, sσ9, eσ9, lσ9, uσ9, h⟩ := h
  refine vv_putf (pt_X2_21 hG) (Or.inl rfl) eσ9 rfl rfl lσ9 dX2_init_34 ?_
  rw [← uσ9]
  cases h
  exact vv_vret rfl dX2_init_37
theorem m_KX2_init {l : Launch} {G : vv_G} {ad : Nat → Nat} (hG : vv_gok G) (hH : vv_hy l G ad) {x0 : Nat} {σ : vv_S} {r : vv_S} (h : KX2_init ad x0 σ = some r) (d : Nat) : vv_Met l G MX2_init (d + 4) [.ref x0] σ (.inl none, r) := vv_head (by decide +kernel) rfl (Nat.le_of_ble_eq_true rfl) rfl (v_KX2_init_0 hG hH h)
/-! ('X3', 'init') -/
def KX3_init (x0 : Nat) (x1 : Nat) (σ : vv_S) : Option vv_S := (pF σ x0 2 11 (.ref x1)).bind fun σ1 => (nwA σ1 .int (nI 8)).bind fun σ2 => (pF σ2 x0 2 0 (.ref σ1.2.1)).bind fun σ3 => (nwA σ3 .int (nI 8)).bind fun σ4 => (pF σ4 x0 2 1 (.ref σ3.2.1)).bind fun σ5 => (nwA σ5 .int (nI 8)).bind fun σ6 => (pF σ6 x0 2 2 (.ref σ5.2.1)).bind fun σ7 => (nwA σ7 .int (nI 10)).bind fun σ8 => (pF σ8 x0 2 3 (.ref σ7.2.1)).bind fun σ9 => (nwA σ9 .int (nI 10)).bind fun σ10 => (pF σ10 x0 2 4 (.ref σ9.2.1)).bind fun σ11 => (nwA σ11 .int (nI 10)).bind fun σ12 => (pF σ12 x0 2 5 (.ref σ11.2.1)).bind fun σ13 => (nwA σ13 .int (nI 10)).bind fun σ14 => (pF σ14 x0 2 6 (.ref σ13.2.1)).bind fun σ15 => (nwA σ15 .int (nI 10)).bind fun σ16 => (pF σ16 x0 2 7 (.ref σ15.2.1)).bind fun σ17 => (nwA σ17 .int (nI 10)).bind fun σ18 => (pF σ18 x0 2 8 (.ref σ17.2.1)).bind fun σ19 => some σ19
theorem v_KX3_init_0 {l : Launch} {G : vv_G} {d : Nat} {ad : Nat → Nat} (hG : vv_gok G) (hH : vv_hy l G ad) {x0 : Nat} {x1 : Nat} {σ : vv_S} {r : vv_S} (h : KX3_init x0 x1 σ = some r) : vv_V l G MX3_init (d + 1) 0 [(0, .ref x0), (1, .ref x1)] [] σ (.inl none, r) := by
  unfold KX3_init at h
  refine vv_aload_n dX3_init_0 rfl 0 rfl ?_
  refine vv_aload_n dX3_init_1 rfl 1 rfl ?_
  replace h := pF_o h; obtain ⟨σ1, sσ1, eσ1, lσ1, uσ1, h⟩ := h
  refine vv_putf (pt_X3_3 hG) (Or.inl rfl) eσ1 rfl rfl lσ1 dX3_init_2 ?_
  rw [← uσ1]
  refine vv_aload_n dX3_init_5 rfl 0 rfl ?_
  refine vv_objinit q216 q149 q150 (by omega) (Nat.le_of_ble_eq_true rfl) dX3_init_6 ?_
  refine vv_aload_n dX3_init_9 rfl 0 rfl ?_
  refine vv_bipush (v := (nI 8)) dX3_init_10 (by decide) ?_
  replace h := nA_o h; obtain ⟨σ2, aσ2, bσ2, uσ2, h⟩ := h
  refine vv_newa (atype := .int) (ty := .int) (a0 := (((nI 8)).toNatClampNeg, .inl (fun _ => 0))) rfl rfl (by rw [hG.2]; decide) q183 (fun cA => rfl) aσ2 rfl (Nat.le_trans (Nat.mul_le_mul_right _ bσ2) (Nat.le_of_ble_eq_true rfl)) dX3_init_12 ?_
  rw [← uσ2]
  replace h := pF_o h; obtain ⟨σ3, sσ3, eσ3, lσ3, uσ3, h⟩ := h
  refine vv_putf (pt_X3_15 hG) (Or.inl rfl) eσ3 rfl rfl lσ3 dX3_init_14 ?_
  rw [← uσ3]
  refine vv_aload_n dX3_init_17 rfl 0 rfl ?_
  refine vv_bipush (v := (nI 8)) dX3_init_18 (by decide) ?_
  replace h := nA_o h; obtain ⟨σ4, aσ4, bσ4, uσ4, h⟩ := h
  refine vv_newa (atype := .int) (ty := .int) (a0 := (((nI 8)).toNatClampNeg, .inl (fun _ => 0))) rfl rfl (by rw [hG.2]; decide) q183 (fun cA => rfl) aσ4 rfl (Nat.le_trans (Nat.mul_le_mul_right _ bσ4) (Nat.le_of_ble_eq_true rfl)) dX3_init_20 ?_
  rw [← uσ4]
  replace h := pF_o h; obtain ⟨σ5, sσ5, eσ5, lσ5, uσ5, h⟩ := h
  refine vv_putf (pt_X3_19 hG) (Or.inl rfl) eσ5 rfl rfl lσ5 dX3_init_22 ?_
  rw [← uσ5]
  refine vv_aload_n dX3_init_25 rfl 0 rfl ?_
  refine vv_bipush (v := (nI 8)) dX3_init_26 (by decide) ?_
  replace h := nA_o h; obtain ⟨σ6, aσ6, bσ6, uσ6, h⟩ := h
  refine vv_newa (atype := .int) (ty := .int) (a0 := (((nI 8)).toNatClampNeg, .inl (fun _ => 0))) rfl rfl (by rw [hG.2]; decide) q183 (fun cA => rfl) aσ6 rfl (Nat.le_trans (Nat.mul_le_mul_right _ bσ6) (Nat.le_of_ble_eq_true rfl)) dX3_init_28 ?_
  rw [← uσ6]
  replace h := pF_o h; obtain ⟨σ7, sσ7, eσ7, lσ7, uσ7, h⟩ := h
  refine vv_putf (pt_X3_22 hG) (Or.inl rfl) eσ7 rfl rfl lσ7 dX3_init_30 ?_
  rw [← uσ7]
  refine vv_aload_n dX3_init_33 rfl 0 rfl ?_
  refine vv_bipush (v := (nI 10)) dX3_init_34 (by decide) ?_
  replace h := nA_o h; obtain ⟨σ8, aσ8, bσ8, uσ8, h⟩ := h
  refine vv_newa (atype := .int) (ty := .int) (a0 := (((nI 10)).toNatClampNeg, .inl (fun _ => 0))) rfl rfl (by rw [hG.2]; decide) q183 (fun cA => rfl) aσ8 rfl (Nat.le_trans (Nat.mul_le_mul_right _ bσ8) (Nat.le_of_ble_eq_true rfl)) dX3_init_36 ?_
  rw [← uσ8]
  replace h := pF_o h; obtain ⟨σ9, sσ9, eσ9, lσ9, uσ9, h⟩ := h
  refine vv_putf (pt_X3_25 hG) (Or.inl rfl) eσ9 rfl rfl lσ9 dX3_init_38 ?_
  rw [← uσ9]
  refine vv_aload_n dX3_init_41 rfl 0 rfl ?_
  refine vv_bipush (v := (nI 10)) dX3_init_42 (by decide) ?_
  replace h := nA_o h; obtain ⟨σ10, aσ10, bσ10, uσ10, h⟩ := h
  refine vv_newa (atype := .int) (ty := .int) (a0 := (((nI 10)).toNatClampNeg, .inl (fun _ => 0))) rfl rfl (by rw [hG.2]; decide) q183 (fun cA => rfl) aσ10 rfl (Nat.le_trans (Nat.mul_le_mul_right _ bσ10) (Nat.le_of_ble_eq_true rfl)) dX3_init_44 ?_
  rw [← uσ10]
  replace h := pF_o h; obtain ⟨σ11, sσ11, eσ11, lσ11, uσ11, h⟩ := h
  refine vv_putf (pt_X3_28 hG) (Or.inl rfl) eσ11 rfl rfl lσ11 dX3_init_46 ?_
  rw [← uσ11]
  refine vv_aload_n dX3_init_49 rfl 0 rfl ?_
  refine vv_bipush (v := (nI 10)) dX3_init_50 (by decide) ?_
  replace h := nA_o h; obtain ⟨σ12, aσ12, bσ12, uσ12, h⟩ := h
  refine vv_newa (atype := .int) (ty := .int) (a0 := (((nI 10)).toNatClampNeg, .inl (fun _ => 0))) rfl rfl (by rw [hG.2]; decide) q183 (fun cA => rfl) aσ12 rfl (Nat.le_trans (Nat.mul_le_mul_right _ bσ12) (Nat.le_of_ble_eq_true rfl)) dX3_init_52 ?_
  rw [← uσ12]
  replace h := pF_o h; obtain ⟨σ13, sσ13, eσ13, lσ13, uσ13, h⟩ := h
  refine vv_putf (pt_X3_31 hG) (Or.inl rfl) eσ13 rfl rfl lσ13 dX3_init_54 ?_
  rw [← uσ13]
  refine vv_aload_n dX3_init_57 rfl 0 rfl ?_
  refine vv_bipush (v := (nI 10)) dX3_init_58 (by decide) ?_
  replace h := nA_o h; obtain ⟨σ14, aσ14, bσ14, uσ14, h⟩ := h
  refine vv_newa (atype := .int) (ty := .int) (a0 := (((nI 10)).toNatClampNeg, .inl (fun _ => 0))) rfl rfl (by rw [hG.2]; decide) q183 (fun cA => rfl) aσ14 rfl (Nat.le_trans (Nat.mul_le_mul_right _ bσ14) (Nat.le_of_ble_eq_true rfl)) dX3_init_60 ?_
  rw [← uσ14]
  replace h := pF_o h; obtain ⟨σ15, sσ15, eσ15, lσ15, uσ15, h⟩ := h
  refine vv_putf (pt_X3_34 hG) (Or.inl rfl) eσ15 rfl rfl lσ15 dX3_init_62 ?_
  rw [← uσ15]
  refine vv_aload_n dX3_init_65 rfl 0 rfl ?_
  refine vv_bipush (v := (nI 10)) dX3_init_66 (by decide) ?_
  replace h := nA_o h; obtain ⟨σ16, aσ16, bσ16, uσ16, h⟩ := h
  refine vv_newa (atype := .int) (ty := .int) (a0 := (((nI 10)).toNatClampNeg, .inl (fun _ => 0))) rfl rfl (by rw [hG.2]; decide) q183 (fun cA => rfl) aσ16 rfl (Nat.le_trans (Nat.mul_le_mul_right _ bσ16) (Nat.le_of_ble_eq_true rfl)) dX3_init_68 ?_
  rw [← uσ16]
  replace h := pF_o h; obtain ⟨σ17, sσ17, eσ17, lσ17, uσ17, h⟩ := h
  refine vv_putf (pt_X3_37 hG) (Or.inl rfl) eσ17 rfl rfl lσ17 dX3_init_70 ?_
  rw [← uσ17]
  refine vv_aload_n dX3_init_73 rfl 0 rfl ?_
  refine vv_bipush (v := (nI 10)) dX3_init_74 (by decide) ?_
  replace h := nA_o h; obtain ⟨σ18, aσ18, bσ18, uσ18, h⟩ := h
  refine vv_newa (atype := .int) (ty := .int) (a0 := (((nI 10)).toNatClampNeg, .inl (fun _ => 0))) rfl rfl (by rw [hG.2]; decide) q183 (fun cA => rfl) aσ18 rfl (Nat.le_trans (Nat.mul_le_mul_right _ bσ18) (Nat.le_of_ble_eq_true rfl)) dX3_init_76 ?_
  rw [← uσ18]
  replace h := pF_o h; obtain ⟨σ19, sσ19, eσ19, lσ19, uσ19, h⟩ := h
  refine vv_putf (pt_X3_40 hG) (Or.inl rfl) eσ19 rfl rfl lσ19 dX3_init_78 ?_
  rw [← uσ19]
  cases h
  exact vv_vret rfl dX3_init_81
theorem m_KX3_init {l : Launch} {G : vv_G} {ad : Nat → Nat} (hG : vv_gok G) (hH : vv_hy l G ad) {x0 : Nat} {x1 : Nat} {σ : vv_S} {r : vv_S} (h : KX3_init x0 x1 σ = some r) (d : Nat) : vv_Met l G MX3_init (d + 1) [.ref x0, .ref x1] σ (.inl none, r) := vv_head (by decide +kernel) rfl (Nat.le_of_ble_eq_true rfl) rfl (v_KX3_init_0 hG hH h)
/-! ('X1', 'init') -/
def KX1_init (ad : Nat → Nat) (x0 : Nat) (σ : vv_S) : Option vv_S := (nwA σ .int (nI 6)).bind fun σ1 => (pF σ1 x0 0 0 (.ref σ.2.1)).bind fun σ2 => (some (nwO σ2 1 [.null, .null, .null, .int 0, .null] 5)).bind fun σ3 => (KX2_init ad σ2.2.1 σ3).bind fun r4 => (pF r4 x0 0 1 (.ref σ2.2.1)).bind fun σ5 => (some (nwO σ5 2 [.null, .null, .null, .null, .null, .null, .null, .null, .null, .int 0, .int 0, .null] 12)).bind fun σ6 => (KX3_init σ5.2.1 x0 σ6).bind fun r7 => (pF r7 x0 0 2 (.ref σ5.2.1)).bind fun σ8 => (nwA σ8 .byte (nI 700)).bind fun σ9 => (pF σ9 x0 0 3 (.ref σ8.2.1)).bind fun σ10 => (pF σ10 x0 0 5 (.int (-1))).bind fun σ11 => (nwA σ11 .int (nI 3)).bind fun σ12 => (pF σ12 x0 0 6 (.ref σ11.2.1)).bind fun σ13 => (some (nwO σ13 11 [.int 0, .null, .int 0] 3)).bind fun σ14 => (KJ2_init ad σ13.2.1 σ14).bind fun r15 => (pF r15 x0 0 7 (.ref σ13.2.1)).bind fun σ16 => (some (nwO σ16 11 [.int 0, .null, .int 0] 3)).bind fun σ17 => (KJ2_init ad σ16.2.1 σ17).bind fun r18 => (pF r18 x0 0 8 (.ref σ16.2.1)).bind fun σ19 => (some (nwO σ19 2 [.null, .null, .null, .null, .null, .null, .null, .null, .null, .int 0, .int 0, .null] 12)).bind fun σ20 => (KX3_init σ19.2.1 x0 σ20).bind fun r21 => (pF r21 x0 0 12 (.ref σ19.2.1)).bind fun σ22 => (nwA σ22 .int (nI 248)).bind fun σ23 => (pF σ23 x0 0 13 (.ref σ22.2.1)).bind fun σ24 => some σ24
theorem v_KX1_init_0 {l : Launch} {G : vv_G} {d : Nat} {ad : Nat → Nat} (hG : vv_gok G) (hH : vv_hy l G ad) {x0 : Nat} {σ : vv_S} {r : vv_S} (h : KX1_init ad x0 σ = some r) : vv_V l G MX1_init (d + 5) 0 [(0, .ref x0)] [] σ (.inl none, r) := by
  unfold KX1_init at h
  refine vv_aload_n dX1_init_0 rfl 0 rfl ?_
  refine vv_objinit q148 q149 q150 (by omega) (Nat.le_of_ble_eq_true rfl) dX1_init_1 ?_
  refine vv_aload_n dX1_init_4 rfl 0 rfl ?_
  refine vv_bipush (v := (nI 6)) dX1_init_5 (by decide) ?_
  replace h := nA_o h; obtain ⟨σ1, aσ1, bσ1, uσ1, h⟩ := h
  refine vv_newa (atype := .int) (ty := .int) (a0 := (((nI 6)).toNatClampNeg, .inl (fun _ => 0))) rfl rfl (by rw [hG.2]; decide) q183 (fun cA => rfl) aσ1 rfl (Nat.le_trans (Nat.mul_le_mul_right _ bσ1) (Nat.le_of_ble_eq_true rfl)) dX1_init_7 ?_
  rw [← uσ1]
  replace h := pF_o h; obtain ⟨σ2, sσ2, eσ2, lσ2, uσ2, h⟩ := h
  refine vv_putf (pt_X1_13 hG) (Or.inl rfl) eσ2 rfl rfl lσ2 dX1_init_9 ?_
  rw [← uσ2]
  refine vv_aload_n dX1_init_12 rfl 0 rfl ?_
  obtain ⟨σ3, uσ3, h⟩ := bd_s h
  refine vv_new (nw_X1_19 hG) dX1_init_13 ?_
  rw [show (vv_up σ2.1 σ2.2.1 _, _, _) = σ3 from uσ3.symm]
  refine vv_dup dX1_init_16 rfl ?_
  replace h := bd_o h; obtain ⟨r4, er4, h⟩ := h
  refine vv_callIN ok_X2_init (fun U hK => hH.1.2.1 U hK _ q153 rfl) (m_KX2_init hG hH er4 d) rfl (by omega) rfl rfl (Nat.le_of_ble_eq_true rfl) dX1_init_17 ?_
  replace h := pF_o h; obtain ⟨σ5, sσ5, eσ5, lσ5, uσ5, h⟩ := h
  refine vv_putf (pt_X1_22 hG) (Or.inr fun C T' N h9 => by rw [hG.1] at h9; cases h9; rfl) eσ5 rfl rfl lσ5 dX1_init_20 ?_
  rw [← uσ5]
  refine vv_aload_n dX1_init_23 rfl 0 rfl ?_
  obtain ⟨σ6, uσ6, h⟩ := bd_s h
  refine vv_new (nw_X1_26 hG) dX1_init_24 ?_
  rw [show (vv_up σ5.1 σ5.2.1 _, _, _) = σ6 from uσ6.symm]
  refine vv_dup dX1_init_27 rfl ?_
  refine vv_aload_n dX1_init_28 rfl 0 rfl ?_
  replace h := bd_o h; obtain ⟨r7, er7, h⟩ := h
  refine vv_callIN ok_X3_init (fun U hK => hH.1.2.1 U hK _ q213 rfl) (m_KX3_init hG hH er7 d) rfl (by omega) rfl rfl (Nat.le_of_ble_eq_true rfl) dX1_init_29 ?_
  replace h := pF_o h; obtain ⟨σ8, sσ8, eσ8, lσ8, uσ8, h⟩ := h
  refine vv_putf (pt_X1_31 hG) (Or.inr fun C T' N h9 => by rw [hG.1] at h9; cases h9; rfl) eσ8 rfl rfl lσ8 dX1_init_32 ?_
  rw [← uσ8]
  refine vv_aload_n dX1_init_35 rfl 0 rfl ?_
  refine vv_sipush (v := (nI 700)) dX1_init_36 (by decide) ?_
  replace h := nA_o h; obtain ⟨σ9, aσ9, bσ9, uσ9, h⟩ := h
  refine vv_newa (atype := .byte) (ty := .byte) (a0 := (((nI 700)).toNatClampNeg, .inl (fun _ => 0))) rfl rfl (by rw [hG.2]; decide) q322 (fun cA => rfl) aσ9 rfl (Nat.le_trans (Nat.mul_le_mul_right _ bσ9) (Nat.le_of_ble_eq_true rfl)) dX1_init_39 ?_
  rw [← uσ9]
  replace h := pF_o h; obtain ⟨σ10, sσ10, eσ10, lσ10, uσ10, h⟩ := h
  refine vv_putf (pt_X1_35 hG) (Or.inl rfl) eσ10 rfl rfl lσ10 dX1_init_41 ?_
  rw [← uσ10]
  refine vv_aload_n dX1_init_44 rfl 0 rfl ?_
  refine vv_iconst (v := (-1)) dX1_init_45 (by decide) ?_
  replace h := pF_o h; obtain ⟨σ11, sσ11, eσ11, lσ11, uσ11, h⟩ := h
  refine vv_putf (pt_X1_39 hG) (Or.inr fun C T' N h9 => by rw [hG.1] at h9; cases h9; rfl) eσ11 rfl rfl lσ11 dX1_init_46 ?_
  rw [← uσ11]
  refine vv_aload_n dX1_init_49 rfl 0 rfl ?_
  refine vv_iconst (v := (nI 3)) dX1_init_50 (by decide) ?_
  replace h := nA_o h; obtain ⟨σ12, aσ12, bσ12, uσ12, h⟩ := h
  refine vv_newa (atype := .int) (ty := .int) (a0 := (((nI 3)).toNatClampNeg, .inl (fun _ => 0))) rfl rfl (by rw [hG.2]; decide) q183 (fun cA => rfl) aσ12 rfl (Nat.le_trans (Nat.mul_le_mul_right _ bσ12) (Nat.le_of_ble_eq_true rfl)) dX1_init_51 ?_
  rw [← uσ12]
  replace h := pF_o h; obtain ⟨σ13, sσ13, eσ13, lσ13, uσ13, h⟩ := h
  refine vv_putf (pt_X1_43 hG) (Or.inl rfl) eσ13 rfl rfl lσ13 dX1_init_53 ?_
  rw [← uσ13]
  refine vv_aload_n dX1_init_56 rfl 0 rfl ?_
  obtain ⟨σ14, uσ14, h⟩ := bd_s h
  refine vv_new (nw_X1_46 hG) dX1_init_57 ?_
  rw [show (vv_up σ13.1 σ13.2.1 _, _, _) = σ14 from uσ14.symm]
  refine vv_dup dX1_init_60 rfl ?_
  replace h := bd_o h; obtain ⟨r15, er15, h⟩ := h
  refine vv_callI ok_J2_init q272 (m_KJ2_init hG hH er15 d) rfl (by omega) rfl rfl (Nat.le_of_ble_eq_true rfl) dX1_init_61 ?_
  replace h := pF_o h; obtain ⟨σ16, sσ16, eσ16, lσ16, uσ16, h⟩ := h
  refine vv_putf (pt_X1_49 hG) (Or.inr fun C T' N h9 => by rw [hG.1] at h9; cases h9; rfl) eσ16 rfl rfl lσ16 dX1_init_64 ?_
  rw [← uσ16]
  refine vv_aload_n dX1_init_67 rfl 0 rfl ?_
  obtain ⟨σ17, uσ17, h⟩ := bd_s h
  refine vv_new (nw_X1_46 hG) dX1_init_68 ?_
  rw [show (vv_up σ16.1 σ16.2.1 _, _, _) = σ17 from uσ17.symm]
  refine vv_dup dX1_init_71 rfl ?_
  replace h := bd_o h; obtain ⟨r18, er18, h⟩ := h
  refine vv_callI ok_J2_init q272 (m_KJ2_init hG hH er18 d) rfl (by omega) rfl rfl (Nat.le_of_ble_eq_true rfl) dX1_init_72 ?_
  replace h := pF_o h; obtain ⟨σ19, sσ19, eσ19, lσ19, uσ19, h⟩ := h
  refine vv_putf (pt_X1_53 hG) (Or.inr fun C T' N h9 => by rw [hG.1] at h9; cases h9; rfl) eσ19 rfl rfl lσ19 dX1_init_75 ?_
  rw [← uσ19]
  refine vv_aload_n dX1_init_78 rfl 0 rfl ?_
  obtain ⟨σ20, uσ20, h⟩ := bd_s h
  refine vv_new (nw_X1_26 hG) dX1_init_79 ?_
  rw [show (vv_up σ19.1 σ19.2.1 _, _, _) = σ20 from uσ20.symm]
  refine vv_dup dX1_init_82 rfl ?_
  refine vv_aload_n dX1_init_83 rfl 0 rfl ?_
  replace h := bd_o h; obtain ⟨r21, er21, h⟩ := h
  refine vv_callIN ok_X3_init (fun U hK => hH.1.2.1 U hK _ q213 rfl) (m_KX3_init hG hH er21 d) rfl (by omega) rfl rfl (Nat.le_of_ble_eq_true rfl) dX1_init_84 ?_
  replace h := pF_o h; obtain ⟨σ22, sσ22, eσ22, lσ22, uσ22, h⟩ := h
  refine vv_putf (pt_X1_56 hG) (Or.inl rfl) eσ22 rfl rfl lσ22 dX1_init_87 ?_
  rw [← uσ22]
  refine vv_aload_n dX1_init_90 rfl 0 rfl ?_
  refine vv_sipush (v := (nI 248)) dX1_init_91 (by decide) ?_
  replace h := nA_o h; obtain ⟨σ23, aσ23, bσ23, uσ23, h⟩ := h
  refine vv_newa (atype := .int) (ty := .int) (a0 := (((nI 248)).toNatClampNeg, .inl (fun _ => 0))) rfl rfl (by rw [hG.2]; decide) q183 (fun cA => rfl) aσ23 rfl (Nat.le_trans (Nat.mul_le_mul_right _ bσ23) (Nat.le_of_ble_eq_true rfl)) dX1_init_94 ?_
  rw [← uσ23]
  replace h := pF_o h; obtain ⟨σ24, sσ24, eσ24, lσ24, uσ24, h⟩ := h
  refine vv_putf (pt_X1_59 hG) (Or.inl rfl) eσ24 rfl rfl lσ24 dX1_init_96 ?_
  rw [← uσ24]
  cases h
  exact vv_vret rfl dX1_init_99
theorem m_KX1_init {l : Launch} {G : vv_G} {ad : Nat → Nat} (hG : vv_gok G) (hH : vv_hy l G ad) {x0 : Nat} {σ : vv_S} {r : vv_S} (h : KX1_init ad x0 σ = some r) (d : Nat) : vv_Met l G MX1_init (d + 5) [.ref x0] σ (.inl none, r) := vv_head (by decide +kernel) rfl (Nat.le_of_ble_eq_true rfl) rfl (v_KX1_init_0 hG hH h)
/-! ('X1', 'feed') -/
def KX1_feed_71 (k18 : Nat → Int32 → Int32 → Int32 → Int32 → Int32 → Int32 → vv_S → Option (Int32 × vv_S)) (s0 : Int32) (x0 : Nat) (x1 : Int32) (x2 : Int32) (x3 : Int32) (x4 : Int32) (x5 : Int32) (x6 : Int32) (σ : vv_S) : Option (Int32 × vv_S) := (gR σ x0 0 3).bind fun v1 => (gI σ x0 0 4).bind fun v2 => (rmI x6 (nI 4)).bind fun v3 => (sB σ v1 (v2 + x6) (Int32.toInt8 (s0 >>> (((nI 24) - ((nI 8) * v3)) &&& 31))).toInt32).bind fun σ5 => k18 x0 x1 x2 x3 x4 x5 (x6 + (nI 1)) σ5
theorem v_KX1_feed_71 {l : Launch} {G : vv_G} {d : Nat} {ad : Nat → Nat} (hG : vv_gok G) (hH : vv_hy l G ad) {k18 : Nat → Int32 → Int32 → Int32 → Int32 → Int32 → Int32 → vv_S → Option (Int32 × vv_S)} (hk18 : ∀ {x0 : Nat} {x1 : Int32} {x2 : Int32} {x3 : Int32} {x4 : Int32} {x5 : Int32} {x6 : Int32} {σ : vv_S} {r : Int32 × vv_S}, k18 x0 x1 x2 x3 x4 x5 x6 σ = some r → vv_V l G MX1_feed (d + 0) 18 [(0, .ref x0), (1, .int x1), (2, .int x2), (3, .int x3), (4, .int x4), (5, .int x5), (6, .int x6)] [] σ (.inl (some (.int r.1)), r.2)) {s0 : Int32} {x0 : Nat} {x1 : Int32} {x2 : Int32} {x3 : Int32} {x4 : Int32} {x5 : Int32} {x6 : Int32} {σ : vv_S} {r : Int32 × vv_S} (h : KX1_feed_71 k18 s0 x0 x1 x2 x3 x4 x5 x6 σ = some r) : vv_V l G MX1_feed (d + 0) 71 [(0, .ref x0), (1, .int x1), (2, .int x2), (3, .int x3), (4, .int x4), (5, .int x5), (6, .int x6)] [.int s0] σ (.inl (some (.int r.1)), r.2) := by
  unfold KX1_feed_71 at h
  refine vv_istore (lv' := [(0, .ref x0), (1, .int x1), (2, .int x2), (3, .int x3), (4, .int x4), (5, .int x5), (6, .int x6), (7, .int s0)]) dX1_feed_71 (by decide) [1, 2, 3, 4, 5, 6, 7, 0] rfl ?_
  refine vv_aload_n dX1_feed_73 rfl 0 rfl ?_
  replace h := gR_o h; obtain ⟨v1, fv1, sv1, ev1, lv1, h⟩ := h
  refine vv_get (fl_X1_35 hG) ev1 lv1 dX1_feed_74 ?_
  refine vv_aload_n dX1_feed_77 rfl 0 rfl ?_
  replace h := gI_o h; obtain ⟨v2, fv2, sv2, ev2, lv2, h⟩ := h
  refine vv_get (fl_X1_62 hG) ev2 lv2 dX1_feed_78 ?_
  refine vv_iload dX1_feed_81 6 rfl ?_
  refine vv_iadd dX1_feed_83 ?_
  refine vv_iload dX1_feed_84 7 rfl ?_
  refine vv_bipush (v := (nI 24)) dX1_feed_86 (by decide) ?_
  refine vv_bipush (v := (nI 8)) dX1_feed_88 (by decide) ?_
  refine vv_iload dX1_feed_90 6 rfl ?_
  refine vv_iconst (v := (nI 4)) dX1_feed_92 (by decide) ?_
  replace h := rm_o h; obtain ⟨hz4, h⟩ := h
  refine vv_irem dX1_feed_93 hz4 ?_
  obtain ⟨v3, ev3⟩ : ∃ z, z = (x6 - x6 / (nI 4) * (nI 4)) := ⟨_, rfl⟩
  rw [← ev3] at h ⊢
  refine vv_imul dX1_feed_94 ?_
  refine vv_isub dX1_feed_95 ?_
  refine vv_ishr dX1_feed_96 ?_
  refine vv_i2b dX1_feed_97 ?_
  replace h := sB_o h; obtain ⟨σ5, nσ5, qσ5, eσ5, iσ5, uσ5, h⟩ := h
  refine vv_bast eσ5 iσ5 dX1_feed_98 ?_
  rw [← uσ5]
  refine vv_iinc (v := (x6 + (nI 1))) (lv' := [(0, .ref x0), (1, .int x1), (2, .int x2), (3, .int x3), (4, .int x4), (5, .int x5), (6, .int (x6 + (nI 1))), (7, .int s0)]) dX1_feed_99 6 rfl rfl (by decide) [1, 2, 3, 4, 5, 6, 0, 7] rfl ?_
  refine vv_goto (tgt := 18) dX1_feed_102 (by decide) ?_
  refine vv_sub (lv' := [(0, .ref x0), (1, .int x1), (2, .int x2), (3, .int x3), (4, .int x4), (5, .int x5), (6, .int (x6 + (nI 1)))]) [0, 1, 2, 3, 4, 5, 6] rfl ?_
  exact hk18 h
def BKX1_feed_18 (k18 : Nat → Int32 → Int32 → Int32 → Int32 → Int32 → Int32 → vv_S → Option (Int32 × vv_S)) (x0 : Nat) (x1 : Int32) (x2 : Int32) (x3 : Int32) (x4 : Int32) (x5 : Int32) (x6 : Int32) (σ : vv_S) : Option (Int32 × vv_S) := if (nI 20) ≤ x6 then ((gI σ x0 0 4).bind fun v2 => (pF σ x0 0 4 (.int (v2 + (nI 20)))).bind fun σ3 => (gI σ3 x0 0 4).bind fun v4 => some (v4, σ3)) else (if (nI 4) ≤ x6 then (if (nI 8) ≤ x6 then (if (nI 12) ≤ x6 then (if (nI 16) ≤ x6 then (KX1_feed_71 k18 x5 x0 x1 x2 x3 x4 x5 x6 σ) else (KX1_feed_71 k18 x4 x0 x1 x2 x3 x4 x5 x6 σ)) else (KX1_feed_71 k18 x3 x0 x1 x2 x3 x4 x5 x6 σ)) else (KX1_feed_71 k18 x2 x0 x1 x2 x3 x4 x5 x6 σ)) else (KX1_feed_71 k18 x1 x0 x1 x2 x3 x4 x5 x6 σ))
def KX1_feed_18 : Nat → Nat → Int32 → Int32 → Int32 → Int32 → Int32 → Int32 → vv_S → Option (Int32 × vv_S)
  | 0, _, _, _, _, _, _, _, _ => none
  | n + 1, x0, x1, x2, x3, x4, x5, x6, σ => BKX1_feed_18 (KX1_feed_18 n) x0 x1 x2 x3 x4 x5 x6 σ
theorem vb_KX1_feed_18 {l : Launch} {G : vv_G} {d : Nat} {ad : Nat → Nat} (hG : vv_gok G) (hH : vv_hy l G ad) {k18 : Nat → Int32 → Int32 → Int32 → Int32 → Int32 → Int32 → vv_S → Option (Int32 × vv_S)} (hk18 : ∀ {x0 : Nat} {x1 : Int32} {x2 : Int32} {x3 : Int32} {x4 : Int32} {x5 : Int32} {x6 : Int32} {σ : vv_S} {r : Int32 × vv_S}, k18 x0 x1 x2 x3 x4 x5 x6 σ = some r → vv_V l G MX1_feed (d + 0) 18 [(0, .ref x0), (1, .int x1), (2, .int x2), (3, .int x3), (4, .int x4), (5, .int x5), (6, .int x6)] [] σ (.inl (some (.int r.1)), r.2)) {x0 : Nat} {x1 : Int32} {x2 : Int32} {x3 : Int32} {x4 : Int32} {x5 : Int32} {x6 : Int32} {σ : vv_S} {r : Int32 × vv_S} (h : BKX1_feed_18 k18 x0 x1 x2 x3 x4 x5 x6 σ = some r) : vv_V l G MX1_feed (d + 0) 18 [(0, .ref x0), (1, .int x1), (2, .int x2), (3, .int x3), (4, .int x4), (5, .int x5), (6, .int x6)] [] σ (.inl (some (.int r.1)), r.2) := by
  unfold BKX1_feed_18 at h
  refine vv_iload dX1_feed_18 6 rfl ?_
  refine vv_bipush (v := (nI 20)) dX1_feed_20 (by decide) ?_
  refine vv_icmp_ge (tgt := 105) dX1_feed_22 (by decide) (fun c1 => ?_) (fun c1 => ?_)
  · rw [if_pos c1] at h
    refine vv_aload_n dX1_feed_105 rfl 0 rfl ?_
    refine vv_dup dX1_feed_106 rfl ?_
    replace h := gI_o h; obtain ⟨v2, fv2, sv2, ev2, lv2, h⟩ := h
    refine vv_get (fl_X1_62 hG) ev2 lv2 dX1_feed_107 ?_
    refine vv_bipush (v := (nI 20)) dX1_feed_110 (by decide) ?_
    refine vv_iadd dX1_feed_112 ?_
    replace h := pF_o h; obtain ⟨σ3, sσ3, eσ3, lσ3, uσ3, h⟩ := h
    refine vv_putf (pt_X1_62 hG) (Or.inr fun C T' N h9 => by rw [hG.1] at h9; cases h9; rfl) eσ3 rfl rfl lσ3 dX1_feed_113 ?_
    rw [← uσ3]
    refine vv_aload_n dX1_feed_116 rfl 0 rfl ?_
    replace h := gI_o h; obtain ⟨v4, fv4, sv4, ev4, lv4, h⟩ := h
    refine vv_get (fl_X1_62 hG) ev4 lv4 dX1_feed_117 ?_
    cases h
    exact vv_iret rfl dX1_feed_120
  · rw [if_neg c1] at h
    refine vv_iload dX1_feed_25 6 rfl ?_
    refine vv_iconst (v := (nI 4)) dX1_feed_27 (by decide) ?_
    refine vv_icmp_ge (tgt := 35) dX1_feed_28 (by decide) (fun c5 => ?_) (fun c5 => ?_)
    · rw [if_pos c5] at h
      refine vv_iload dX1_feed_35 6 rfl ?_
      refine vv_bipush (v := (nI 8)) dX1_feed_37 (by decide) ?_
      refine vv_icmp_ge (tgt := 46) dX1_feed_39 (by decide) (fun c6 => ?_) (fun c6 => ?_)
      · rw [if_pos c6] at h
        refine vv_iload dX1_feed_46 6 rfl ?_
        refine vv_bipush (v := (nI 12)) dX1_feed_48 (by decide) ?_
        refine vv_icmp_ge (tgt := 57) dX1_feed_50 (by decide) (fun c7 => ?_) (fun c7 => ?_)
        · rw [if_pos c7] at h
          refine vv_iload dX1_feed_57 6 rfl ?_
          refine vv_bipush (v := (nI 16)) dX1_feed_59 (by decide) ?_
          refine vv_icmp_ge (tgt := 69) dX1_feed_61 (by decide) (fun c8 => ?_) (fun c8 => ?_)
          · rw [if_pos c8] at h
            refine vv_iload dX1_feed_69 5 rfl ?_
            exact v_KX1_feed_71 hG hH hk18 h
          · rw [if_neg c8] at h
            refine vv_iload dX1_feed_64 4 rfl ?_
            refine vv_goto (tgt := 71) dX1_feed_66 (by decide) ?_
            exact v_KX1_feed_71 hG hH hk18 h
        · rw [if_neg c7] at h
          refine vv_iload_n dX1_feed_53 rfl 3 rfl ?_
          refine vv_goto (tgt := 71) dX1_feed_54 (by decide) ?_
          exact v_KX1_feed_71 hG hH hk18 h
      · rw [if_neg c6] at h
        refine vv_iload_n dX1_feed_42 rfl 2 rfl ?_
        refine vv_goto (tgt := 71) dX1_feed_43 (by decide) ?_
        exact v_KX1_feed_71 hG hH hk18 h
    · rw [if_neg c5] at h
      refine vv_iload_n dX1_feed_31 rfl 1 rfl ?_
      refine vv_goto (tgt := 71) dX1_feed_32 (by decide) ?_
      exact v_KX1_feed_71 hG hH hk18 h
theorem v_KX1_feed_18 {l : Launch} {G : vv_G} {d : Nat} {ad : Nat → Nat} (hG : vv_gok G) (hH : vv_hy l G ad) : ∀ (n : Nat) {x0 : Nat} {x1 : Int32} {x2 : Int32} {x3 : Int32} {x4 : Int32} {x5 : Int32} {x6 : Int32} {σ : vv_S} {r : Int32 × vv_S}, KX1_feed_18 n x0 x1 x2 x3 x4 x5 x6 σ = some r → vv_V l G MX1_feed (d + 0) 18 [(0, .ref x0), (1, .int x1), (2, .int x2), (3, .int x3), (4, .int x4), (5, .int x5), (6, .int x6)] [] σ (.inl (some (.int r.1)), r.2) := by
  intro n
  induction n with
  | zero => intro _ _ _ _ _ _ _ _ _ h; cases h
  | succ n ih => intro _ _ _ _ _ _ _ _ _ h; exact vb_KX1_feed_18 hG hH ih h
def KX1_feed (x0 : Nat) (x1 : Int32) (x2 : Int32) (x3 : Int32) (x4 : Int32) (x5 : Int32) (σ : vv_S) : Option (Int32 × vv_S) := (gI σ x0 0 4).bind fun v1 => if (v1 + (nI 20)) ≤ (nI 700) then (KX1_feed_18 NN x0 x1 x2 x3 x4 x5 (nI 0) σ) else (some ((-1), σ))
theorem v_KX1_feed_0 {l : Launch} {G : vv_G} {d : Nat} {ad : Nat → Nat} (hG : vv_gok G) (hH : vv_hy l G ad) {x0 : Nat} {x1 : Int32} {x2 : Int32} {x3 : Int32} {x4 : Int32} {x5 : Int32} {σ : vv_S} {r : Int32 × vv_S} (h : KX1_feed x0 x1 x2 x3 x4 x5 σ = some r) : vv_V l G MX1_feed (d + 0) 0 [(0, .ref x0), (1, .int x1), (2, .int x2), (3, .int x3), (4, .int x4), (5, .int x5)] [] σ (.inl (some (.int r.1)), r.2) := by
  unfold KX1_feed at h
  refine vv_aload_n dX1_feed_0 rfl 0 rfl ?_
  replace h := gI_o h; obtain ⟨v1, fv1, sv1, ev1, lv1, h⟩ := h
  refine vv_get (fl_X1_62 hG) ev1 lv1 dX1_feed_1 ?_
  refine vv_bipush (v := (nI 20)) dX1_feed_4 (by decide) ?_
  refine vv_iadd dX1_feed_6 ?_
  refine vv_sipush (v := (nI 700)) dX1_feed_7 (by decide) ?_
  refine vv_icmp_le (tgt := 15) dX1_feed_10 (by decide) (fun c2 => ?_) (fun c2 => ?_)
  · rw [if_pos c2] at h
    refine vv_iconst (v := (nI 0)) dX1_feed_15 (by decide) ?_
    refine vv_istore (lv' := [(0, .ref x0), (1, .int x1), (2, .int x2), (3, .int x3), (4, .int x4), (5, .int x5), (6, .int (nI 0))]) dX1_feed_16 (by decide) [1, 2, 3, 4, 5, 6, 0] rfl ?_
    exact v_KX1_feed_18 hG hH NN h
  · rw [if_neg c2] at h
    refine vv_iconst (v := (-1)) dX1_feed_13 (by decide) ?_
    cases h
    exact vv_iret rfl dX1_feed_14
theorem m_KX1_feed {l : Launch} {G : vv_G} {ad : Nat → Nat} (hG : vv_gok G) (hH : vv_hy l G ad) {x0 : Nat} {x1 : Int32} {x2 : Int32} {x3 : Int32} {x4 : Int32} {x5 : Int32} {σ : vv_S} {r : Int32 × vv_S} (h : KX1_feed x0 x1 x2 x3 x4 x5 σ = some r) (d : Nat) : vv_Met l G MX1_feed (d + 0) [.ref x0, .int x1, .int x2, .int x3, .int x4, .int x5] σ (.inl (some (.int r.1)), r.2) := vv_head (by decide +kernel) rfl (Nat.le_of_ble_eq_true rfl) rfl (v_KX1_feed_0 hG hH h)
/-! ('X1', 'fault') -/
def KX1_fault (x0 : Nat) (σ : vv_S) : Option Int32 := (gI σ x0 0 5).bind fun v1 => some v1
theorem v_KX1_fault_0 {l : Launch} {G : vv_G} {d : Nat} {ad : Nat → Nat} (hG : vv_gok G) (hH : vv_hy l G ad) {x0 : Nat} {σ : vv_S} {r : Int32} (h : KX1_fault x0 σ = some r) : vv_V l G MX1_fault (d + 0) 0 [(0, .ref x0)] [] σ (.inl (some (.int r)), σ) := by
  unfold KX1_fault at h
  refine vv_aload_n dX1_fault_0 rfl 0 rfl ?_
  replace h := gI_o h; obtain ⟨v1, fv1, sv1, ev1, lv1, h⟩ := h
  refine vv_get (fl_X1_39 hG) ev1 lv1 dX1_fault_1 ?_
  cases h
  exact vv_iret rfl dX1_fault_4
theorem m_KX1_fault {l : Launch} {G : vv_G} {ad : Nat → Nat} (hG : vv_gok G) (hH : vv_hy l G ad) {x0 : Nat} {σ : vv_S} {r : Int32} (h : KX1_fault x0 σ = some r) (d : Nat) : vv_Met l G MX1_fault (d + 0) [.ref x0] σ (.inl (some (.int r)), σ) := vv_head (by decide +kernel) rfl (Nat.le_of_ble_eq_true rfl) rfl (v_KX1_fault_0 hG hH h)
/-! ('X1', 'in') -/
def KX1_in_15 (s0 : Int32) : Option Int32 := (zrI s0).bind fun v1 => some v1
theorem v_KX1_in_15 {l : Launch} {G : vv_G} {d : Nat} {ad : Nat → Nat} {σ : vv_S} (hG : vv_gok G) (hH : vv_hy l G ad) {s0 : Int32} {r : Int32} (h : KX1_in_15 s0 = some r) : vv_V l G MX1_in (d + 0) 15 [] [.int s0] σ (.inl (some (.int r)), σ) := by
  unfold KX1_in_15 at h
  replace h := zr_o h; obtain ⟨zv1, h⟩ := h
  cases h
  exact vv_zret rfl zv1 dX1_in_15
def KX1_in_14 : Option Int32 := KX1_in_15 (nI 0)
theorem v_KX1_in_14 {l : Launch} {G : vv_G} {d : Nat} {ad : Nat → Nat} {σ : vv_S} (hG : vv_gok G) (hH : vv_hy l G ad) {r : Int32} (h : KX1_in_14 = some r) : vv_V l G MX1_in (d + 0) 14 [] [] σ (.inl (some (.int r)), σ) := by
  unfold KX1_in_14 at h
  refine vv_iconst (v := (nI 0)) dX1_in_14 (by decide) ?_
  exact v_KX1_in_15 hG hH h
def KX1_in (x0 : Int32) (x1 : Int32) (x2 : Int32) : Option Int32 := if x0 < x1 then (KX1_in_14) else (if x2 < x0 then (KX1_in_14) else (KX1_in_15 (nI 1)))
theorem v_KX1_in_0 {l : Launch} {G : vv_G} {d : Nat} {ad : Nat → Nat} {σ : vv_S} (hG : vv_gok G) (hH : vv_hy l G ad) {x0 : Int32} {x1 : Int32} {x2 : Int32} {r : Int32} (h : KX1_in x0 x1 x2 = some r) : vv_V l G MX1_in (d + 0) 0 [(0, .int x0), (1, .int x1), (2, .int x2)] [] σ (.inl (some (.int r)), σ) := by
  unfold KX1_in at h
  refine vv_iload_n dX1_in_0 rfl 0 rfl ?_
  refine vv_iload_n dX1_in_1 rfl 1 rfl ?_
  refine vv_icmp_lt (tgt := 14) dX1_in_2 (by decide) (fun c1 => ?_) (fun c1 => ?_)
  · rw [if_pos c1] at h
    refine vv_sub (lv' := []) [] rfl ?_
    exact v_KX1_in_14 hG hH h
  · rw [if_neg c1] at h
    refine vv_iload_n dX1_in_5 rfl 0 rfl ?_
    refine vv_iload_n dX1_in_6 rfl 2 rfl ?_
    refine vv_icmp_gt (tgt := 14) dX1_in_7 (by decide) (fun c2 => ?_) (fun c2 => ?_)
    · rw [if_pos c2] at h
      refine vv_sub (lv' := []) [] rfl ?_
      exact v_KX1_in_14 hG hH h
    · rw [if_neg c2] at h
      refine vv_iconst (v := (nI 1)) dX1_in_10 (by decide) ?_
      refine vv_goto (tgt := 15) dX1_in_11 (by decide) ?_
      refine vv_sub (lv' := []) [] rfl ?_
      exact v_KX1_in_15 hG hH h
theorem m_KX1_in {l : Launch} {G : vv_G} {ad : Nat → Nat} {σ : vv_S} (hG : vv_gok G) (hH : vv_hy l G ad) {x0 : Int32} {x1 : Int32} {x2 : Int32} {r : Int32} (h : KX1_in x0 x1 x2 = some r) (d : Nat) : vv_Met l G MX1_in (d + 0) [.int x0, .int x1, .int x2] σ (.inl (some (.int r)), σ) := vv_head (by decide +kernel) rfl (Nat.le_of_ble_eq_true rfl) rfl (v_KX1_in_0 hG hH h)
/-! ('X1', 'refuse') -/
def KX1_refuse (x0 : Nat) (x1 : Int32) (σ : vv_S) : Option (Int32 × vv_S) := (gR σ x0 0 6).bind fun v1 => (aI σ .int v1 x1).bind fun v2 => (sI σ v1 x1 (v2 + (nI 1))).bind fun σ3 => some ((-1), σ3)
theorem v_KX1_refuse_0 {l : Launch} {G : vv_G} {d : Nat} {ad : Nat → Nat} (hG : vv_gok G) (hH : vv_hy l G ad) {x0 : Nat} {x1 : Int32} {σ : vv_S} {r : Int32 × vv_S} (h : KX1_refuse x0 x1 σ = some r) : vv_V l G MX1_refuse (d + 0) 0 [(0, .ref x0), (1, .int x1)] [] σ (.inl (some (.int r.1)), r.2) := by
  unfold KX1_refuse at h
  refine vv_aload_n dX1_refuse_0 rfl 0 rfl ?_
  replace h := gR_o h; obtain ⟨v1, fv1, sv1, ev1, lv1, h⟩ := h
  refine vv_get (fl_X1_43 hG) ev1 lv1 dX1_refuse_1 ?_
  refine vv_iload_n dX1_refuse_4 rfl 1 rfl ?_
  refine vv_dup2 dX1_refuse_5 rfl rfl ?_
  replace h := aI_o h; obtain ⟨v2, fv2, nv2, qv2, ev2, iv2, wv2, h⟩ := h
  refine vv_iald ev2 iv2 dX1_refuse_6 ?_
  rw [wv2]
  refine vv_iconst (v := (nI 1)) dX1_refuse_7 (by decide) ?_
  refine vv_iadd dX1_refuse_8 ?_
  replace h := sI_o h; obtain ⟨σ3, nσ3, qσ3, eσ3, iσ3, uσ3, h⟩ := h
  refine vv_iast eσ3 iσ3 dX1_refuse_9 ?_
  rw [← uσ3]
  refine vv_iconst (v := (-1)) dX1_refuse_10 (by decide) ?_
  cases h
  exact vv_iret rfl dX1_refuse_11
theorem m_KX1_refuse {l : Launch} {G : vv_G} {ad : Nat → Nat} (hG : vv_gok G) (hH : vv_hy l G ad) {x0 : Nat} {x1 : Int32} {σ : vv_S} {r : Int32 × vv_S} (h : KX1_refuse x0 x1 σ = some r) (d : Nat) : vv_Met l G MX1_refuse (d + 0) [.ref x0, .int x1] σ (.inl (some (.int r.1)), r.2) := vv_head (by decide +kernel) rfl (Nat.le_of_ble_eq_true rfl) rfl (v_KX1_refuse_0 hG hH h)
/-! ('X3', 'be') -/
def BKX3_be_52 (k52 : Nat → Nat → Int32 → vv_S → Option (Nat × vv_S)) (x0 : Nat) (x1 : Nat) (x2 : Int32) (σ : vv_S) : Option (Nat × vv_S) := if (nI 10) ≤ x2 then ((gI σ x1 2 9).bind fun v2 => (pF σ x0 2 9 (.int v2)).bind fun σ3 => some (x0, σ3)) else ((gR σ x0 2 3).bind fun v4 => (gR σ x1 2 3).bind fun v5 => (aI σ .int v5 x2).bind fun v6 => (sI σ v4 x2 v6).bind fun σ7 => (gR σ7 x0 2 4).bind fun v8 => (gR σ7 x1 2 4).bind fun v9 => (aI σ7 .int v9 x2).bind fun v10 => (sI σ7 v8 x2 v10).bind fun σ11 => (gR σ11 x0 2 5).bind fun v12 => (gR σ11 x1 2 5).bind fun v13 => (aI σ11 .int v13 x2).bind fun v14 => (sI σ11 v12 x2 v14).bind fun σ15 => (gR σ15 x0 2 6).bind fun v16 => (gR σ15 x1 2 6).bind fun v17 => (aI σ15 .int v17 x2).bind fun v18 => (sI σ15 v16 x2 v18).bind fun σ19 => (gR σ19 x0 2 7).bind fun v20 => (gR σ19 x1 2 7).bind fun v21 => (aI σ19 .int v21 x2).bind fun v22 => (sI σ19 v20 x2 v22).bind fun σ23 => (gR σ23 x0 2 8).bind fun v24 => (gR σ23 x1 2 8).bind fun v25 => (aI σ23 .int v25 x2).bind fun v26 => (sI σ23 v24 x2 v26).bind fun σ27 => k52 x0 x1 (x2 + (nI 1)) σ27)
def KX3_be_52 : Nat → Nat → Nat → Int32 → vv_S → Option (Nat × vv_S)
  | 0, _, _, _, _ => none
  | n + 1, x0, x1, x2, σ => BKX3_be_52 (KX3_be_52 n) x0 x1 x2 σ
theorem vb_KX3_be_52 {l : Launch} {G : vv_G} {d : Nat} {ad : Nat → Nat} (hG : vv_gok G) (hH : vv_hy l G ad) {k52 : Nat → Nat → Int32 → vv_S → Option (Nat × vv_S)} (hk52 : ∀ {x0 : Nat} {x1 : Nat} {x2 : Int32} {σ : vv_S} {r : Nat × vv_S}, k52 x0 x1 x2 σ = some r → vv_V l G MX3_be (d + 0) 52 [(0, .ref x0), (1, .ref x1), (2, .int x2)] [] σ (.inl (some (.ref r.1)), r.2)) {x0 : Nat} {x1 : Nat} {x2 : Int32} {σ : vv_S} {r : Nat × vv_S} (h : BKX3_be_52 k52 x0 x1 x2 σ = some r) : vv_V l G MX3_be (d + 0) 52 [(0, .ref x0), (1, .ref x1), (2, .int x2)] [] σ (.inl (some (.ref r.1)), r.2) := by
  unfold BKX3_be_52 at h
  refine vv_iload_n dX3_be_52 rfl 2 rfl ?_
  refine vv_bipush (v := (nI 10)) dX3_be_53 (by decide) ?_
  refine vv_icmp_ge (tgt := 136) dX3_be_55 (by decide) (fun c1 => ?_) (fun c1 => ?_)
  · rw [if_pos c1] at h
    refine vv_aload_n dX3_be_136 rfl 0 rfl ?_
    refine vv_aload_n dX3_be_137 rfl 1 rfl ?_
    replace h := gI_o h; obtain ⟨v2, fv2, sv2, ev2, lv2, h⟩ := h
    refine vv_get (fl_X3_43 hG) ev2 lv2 dX3_be_138 ?_
    replace h := pF_o h; obtain ⟨σ3, sσ3, eσ3, lσ3, uσ3, h⟩ := h
    refine vv_putf (pt_X3_43 hG) (Or.inr fun C T' N h9 => by rw [hG.1] at h9; cases h9; rfl) eσ3 rfl rfl lσ3 dX3_be_141 ?_
    rw [← uσ3]
    refine vv_aload_n dX3_be_144 rfl 0 rfl ?_
    cases h
    exact vv_aret rfl (by first | exact Or.inl ⟨_, rfl⟩ | exact Or.inr ⟨_, rfl⟩) (Or.inr ⟨_, rfl⟩) dX3_be_145
  · rw [if_neg c1] at h
    refine vv_aload_n dX3_be_58 rfl 0 rfl ?_
    replace h := gR_o h; obtain ⟨v4, fv4, sv4, ev4, lv4, h⟩ := h
    refine vv_get (fl_X3_25 hG) ev4 lv4 dX3_be_59 ?_
    refine vv_iload_n dX3_be_62 rfl 2 rfl ?_
    refine vv_aload_n dX3_be_63 rfl 1 rfl ?_
    replace h := gR_o h; obtain ⟨v5, fv5, sv5, ev5, lv5, h⟩ := h
    refine vv_get (fl_X3_25 hG) ev5 lv5 dX3_be_64 ?_
    refine vv_iload_n dX3_be_67 rfl 2 rfl ?_
    replace h := aI_o h; obtain ⟨v6, fv6, nv6, qv6, ev6, iv6, wv6, h⟩ := h
    refine vv_iald ev6 iv6 dX3_be_68 ?_
    rw [wv6]
    replace h := sI_o h; obtain ⟨σ7, nσ7, qσ7, eσ7, iσ7, uσ7, h⟩ := h
    refine vv_iast eσ7 iσ7 dX3_be_69 ?_
    rw [← uσ7]
    refine vv_aload_n dX3_be_70 rfl 0 rfl ?_
    replace h := gR_o h; obtain ⟨v8, fv8, sv8, ev8, lv8, h⟩ := h
    refine vv_get (fl_X3_28 hG) ev8 lv8 dX3_be_71 ?_
    refine vv_iload_n dX3_be_74 rfl 2 rfl ?_
    refine vv_aload_n dX3_be_75 rfl 1 rfl ?_
    replace h := gR_o h; obtain ⟨v9, fv9, sv9, ev9, lv9, h⟩ := h
    refine vv_get (fl_X3_28 hG) ev9 lv9 dX3_be_76 ?_
    refine vv_iload_n dX3_be_79 rfl 2 rfl ?_
    replace h := aI_o h; obtain ⟨v10, fv10, nv10, qv10, ev10, iv10, wv10, h⟩ := h
    refine vv_iald ev10 iv10 dX3_be_80 ?_
    rw [wv10]
    replace h := sI_o h; obtain ⟨σ11, nσ11, qσ11, eσ11, iσ11, uσ11, h⟩ := h
    refine vv_iast eσ11 iσ11 dX3_be_81 ?_
    rw [← uσ11]
    refine vv_aload_n dX3_be_82 rfl 0 rfl ?_
    replace h := gR_o h; obtain ⟨v12, fv12, sv12, ev12, lv12, h⟩ := h
    refine vv_get (fl_X3_31 hG) ev12 lv12 dX3_be_83 ?_
    refine vv_iload_n dX3_be_86 rfl 2 rfl ?_
    refine vv_aload_n dX3_be_87 rfl 1 rfl ?_
    replace h := gR_o h; obtain ⟨v13, fv13, sv13, ev13, lv13, h⟩ := h
    refine vv_get (fl_X3_31 hG) ev13 lv13 dX3_be_88 ?_
    refine vv_iload_n dX3_be_91 rfl 2 rfl ?_
    replace h := aI_o h; obtain ⟨v14, fv14, nv14, qv14, ev14, iv14, wv14, h⟩ := h
    refine vv_iald ev14 iv14 dX3_be_92 ?_
    rw [wv14]
    replace h := sI_o h; obtain ⟨σ15, nσ15, qσ15, eσ15, iσ15, uσ15, h⟩ := h
    refine vv_iast eσ15 iσ15 dX3_be_93 ?_
    rw [← uσ15]
    refine vv_aload_n dX3_be_94 rfl 0 rfl ?_
    replace h := gR_o h; obtain ⟨v16, fv16, sv16, ev16, lv16, h⟩ := h
    refine vv_get (fl_X3_34 hG) ev16 lv16 dX3_be_95 ?_
    refine vv_iload_n dX3_be_98 rfl 2 rfl ?_
    refine vv_aload_n dX3_be_99 rfl 1 rfl ?_
    replace h := gR_o h; obtain ⟨v17, fv17, sv17, ev17, lv17, h⟩ := h
    refine vv_get (fl_X3_34 hG) ev17 lv17 dX3_be_100 ?_
    refine vv_iload_n dX3_be_103 rfl 2 rfl ?_
    replace h := aI_o h; obtain ⟨v18, fv18, nv18, qv18, ev18, iv18, wv18, h⟩ := h
    refine vv_iald ev18 iv18 dX3_be_104 ?_
    rw [wv18]
    replace h := sI_o h; obtain ⟨σ19, nσ19, qσ19, eσ19, iσ19, uσ19, h⟩ := h
    refine vv_iast eσ19 iσ19 dX3_be_105 ?_
    rw [← uσ19]
    refine vv_aload_n dX3_be_106 rfl 0 rfl ?_
    replace h := gR_o h; obtain ⟨v20, fv20, sv20, ev20, lv20, h⟩ := h
    refine vv_get (fl_X3_37 hG) ev20 lv20 dX3_be_107 ?_
    refine vv_iload_n dX3_be_110 rfl 2 rfl ?_
    refine vv_aload_n dX3_be_111 rfl 1 rfl ?_
    replace h := gR_o h; obtain ⟨v21, fv21, sv21, ev21, lv21, h⟩ := h
    refine vv_get (fl_X3_37 hG) ev21 lv21 dX3_be_112 ?_
    refine vv_iload_n dX3_be_115 rfl 2 rfl ?_
    replace h := aI_o h; obtain ⟨v22, fv22, nv22, qv22, ev22, iv22, wv22, h⟩ := h
    refine vv_iald ev22 iv22 dX3_be_116 ?_
    rw [wv22]
    replace h := sI_o h; obtain ⟨σ23, nσ23, qσ23, eσ23, iσ23, uσ23, h⟩ := h
    refine vv_iast eσ23 iσ23 dX3_be_117 ?_
    rw [← uσ23]
    refine vv_aload_n dX3_be_118 rfl 0 rfl ?_
    replace h := gR_o h; obtain ⟨v24, fv24, sv24, ev24, lv24, h⟩ := h
    refine vv_get (fl_X3_40 hG) ev24 lv24 dX3_be_119 ?_
    refine vv_iload_n dX3_be_122 rfl 2 rfl ?_
    refine vv_aload_n dX3_be_123 rfl 1 rfl ?_
    replace h := gR_o h; obtain ⟨v25, fv25, sv25, ev25, lv25, h⟩ := h
    refine vv_get (fl_X3_40 hG) ev25 lv25 dX3_be_124 ?_
    refine vv_iload_n dX3_be_127 rfl 2 rfl ?_
    replace h := aI_o h; obtain ⟨v26, fv26, nv26, qv26, ev26, iv26, wv26, h⟩ := h
    refine vv_iald ev26 iv26 dX3_be_128 ?_
    rw [wv26]
    replace h := sI_o h; obtain ⟨σ27, nσ27, qσ27, eσ27, iσ27, uσ27, h⟩ := h
    refine vv_iast eσ27 iσ27 dX3_be_129 ?_
    rw [← uσ27]
    refine vv_iinc (v := (x2 + (nI 1))) (lv' := [(0, .ref x0), (1, .ref x1), (2, .int (x2 + (nI 1)))]) dX3_be_130 2 rfl rfl (by decide) [1, 2, 0] rfl ?_
    refine vv_goto (tgt := 52) dX3_be_133 (by decide) ?_
    exact hk52 h
theorem v_KX3_be_52 {l : Launch} {G : vv_G} {d : Nat} {ad : Nat → Nat} (hG : vv_gok G) (hH : vv_hy l G ad) : ∀ (n : Nat) {x0 : Nat} {x1 : Nat} {x2 : Int32} {σ : vv_S} {r : Nat × vv_S}, KX3_be_52 n x0 x1 x2 σ = some r → vv_V l G MX3_be (d + 0) 52 [(0, .ref x0), (1, .ref x1), (2, .int x2)] [] σ (.inl (some (.ref r.1)), r.2) := by
  intro n
  induction n with
  | zero => intro _ _ _ _ _ h; cases h
  | succ n ih => intro _ _ _ _ _ h; exact vb_KX3_be_52 hG hH ih h
def BKX3_be_2 (k2 : Nat → Nat → Int32 → vv_S → Option (Nat × vv_S)) (x0 : Nat) (x1 : Nat) (x2 : Int32) (σ : vv_S) : Option (Nat × vv_S) := if (nI 8) ≤ x2 then (KX3_be_52 NN x0 x1 (nI 0) σ) else ((gR σ x0 2 0).bind fun v2 => (gR σ x1 2 0).bind fun v3 => (aI σ .int v3 x2).bind fun v4 => (sI σ v2 x2 v4).bind fun σ5 => (gR σ5 x0 2 1).bind fun v6 => (gR σ5 x1 2 1).bind fun v7 => (aI σ5 .int v7 x2).bind fun v8 => (sI σ5 v6 x2 v8).bind fun σ9 => (gR σ9 x0 2 2).bind fun v10 => (gR σ9 x1 2 2).bind fun v11 => (aI σ9 .int v11 x2).bind fun v12 => (sI σ9 v10 x2 v12).bind fun σ13 => k2 x0 x1 (x2 + (nI 1)) σ13)
def KX3_be_2 : Nat → Nat → Nat → Int32 → vv_S → Option (Nat × vv_S)
  | 0, _, _, _, _ => none
  | n + 1, x0, x1, x2, σ => BKX3_be_2 (KX3_be_2 n) x0 x1 x2 σ
theorem vb_KX3_be_2 {l : Launch} {G : vv_G} {d : Nat} {ad : Nat → Nat} (hG : vv_gok G) (hH : vv_hy l G ad) {k2 : Nat → Nat → Int32 → vv_S → Option (Nat × vv_S)} (hk2 : ∀ {x0 : Nat} {x1 : Nat} {x2 : Int32} {σ : vv_S} {r : Nat × vv_S}, k2 x0 x1 x2 σ = some r → vv_V l G MX3_be (d + 0) 2 [(0, .ref x0), (1, .ref x1), (2, .int x2)] [] σ (.inl (some (.ref r.1)), r.2)) {x0 : Nat} {x1 : Nat} {x2 : Int32} {σ : vv_S} {r : Nat × vv_S} (h : BKX3_be_2 k2 x0 x1 x2 σ = some r) : vv_V l G MX3_be (d + 0) 2 [(0, .ref x0), (1, .ref x1), (2, .int x2)] [] σ (.inl (some (.ref r.1)), r.2) := by
  unfold BKX3_be_2 at h
  refine vv_iload_n dX3_be_2 rfl 2 rfl ?_
  refine vv_bipush (v := (nI 8)) dX3_be_3 (by decide) ?_
  refine vv_icmp_ge (tgt := 50) dX3_be_5 (by decide) (fun c1 => ?_) (fun c1 => ?_)
  · rw [if_pos c1] at h
    refine vv_iconst (v := (nI 0)) dX3_be_50 (by decide) ?_
    refine vv_istore_n (lv' := [(0, .ref x0), (1, .ref x1), (2, .int (nI 0))]) dX3_be_51 rfl (by decide) [1, 2, 0] rfl ?_
    exact v_KX3_be_52 hG hH NN h
  · rw [if_neg c1] at h
    refine vv_aload_n dX3_be_8 rfl 0 rfl ?_
    replace h := gR_o h; obtain ⟨v2, fv2, sv2, ev2, lv2, h⟩ := h
    refine vv_get (fl_X3_15 hG) ev2 lv2 dX3_be_9 ?_
    refine vv_iload_n dX3_be_12 rfl 2 rfl ?_
    refine vv_aload_n dX3_be_13 rfl 1 rfl ?_
    replace h := gR_o h; obtain ⟨v3, fv3, sv3, ev3, lv3, h⟩ := h
    refine vv_get (fl_X3_15 hG) ev3 lv3 dX3_be_14 ?_
    refine vv_iload_n dX3_be_17 rfl 2 rfl ?_
    replace h := aI_o h; obtain ⟨v4, fv4, nv4, qv4, ev4, iv4, wv4, h⟩ := h
    refine vv_iald ev4 iv4 dX3_be_18 ?_
    rw [wv4]
    replace h := sI_o h; obtain ⟨σ5, nσ5, qσ5, eσ5, iσ5, uσ5, h⟩ := h
    refine vv_iast eσ5 iσ5 dX3_be_19 ?_
    rw [← uσ5]
    refine vv_aload_n dX3_be_20 rfl 0 rfl ?_
    replace h := gR_o h; obtain ⟨v6, fv6, sv6, ev6, lv6, h⟩ := h
    refine vv_get (fl_X3_19 hG) ev6 lv6 dX3_be_21 ?_
    refine vv_iload_n dX3_be_24 rfl 2 rfl ?_
    refine vv_aload_n dX3_be_25 rfl 1 rfl ?_
    replace h := gR_o h; obtain ⟨v7, fv7, sv7, ev7, lv7, h⟩ := h
    refine vv_get (fl_X3_19 hG) ev7 lv7 dX3_be_26 ?_
    refine vv_iload_n dX3_be_29 rfl 2 rfl ?_
    replace h := aI_o h; obtain ⟨v8, fv8, nv8, qv8, ev8, iv8, wv8, h⟩ := h
    refine vv_iald ev8 iv8 dX3_be_30 ?_
    rw [wv8]
    replace h := sI_o h; obtain ⟨σ9, nσ9, qσ9, eσ9, iσ9, uσ9, h⟩ := h
    refine vv_iast eσ9 iσ9 dX3_be_31 ?_
    rw [← uσ9]
    refine vv_aload_n dX3_be_32 rfl 0 rfl ?_
    replace h := gR_o h; obtain ⟨v10, fv10, sv10, ev10, lv10, h⟩ := h
    refine vv_get (fl_X3_22 hG) ev10 lv10 dX3_be_33 ?_
    refine vv_iload_n dX3_be_36 rfl 2 rfl ?_
    refine vv_aload_n dX3_be_37 rfl 1 rfl ?_
    replace h := gR_o h; obtain ⟨v11, fv11, sv11, ev11, lv11, h⟩ := h
    refine vv_get (fl_X3_22 hG) ev11 lv11 dX3_be_38 ?_
    refine vv_iload_n dX3_be_41 rfl 2 rfl ?_
    replace h := aI_o h; obtain ⟨v12, fv12, nv12, qv12, ev12, iv12, wv12, h⟩ := h
    refine vv_iald ev12 iv12 dX3_be_42 ?_
    rw [wv12]
    replace h := sI_o h; obtain ⟨σ13, nσ13, qσ13, eσ13, iσ13, uσ13, h⟩ := h
    refine vv_iast eσ13 iσ13 dX3_be_43 ?_
    rw [← uσ13]
    refine vv_iinc (v := (x2 + (nI 1))) (lv' := [(0, .ref x0), (1, .ref x1), (2, .int (x2 + (nI 1)))]) dX3_be_44 2 rfl rfl (by decide) [1, 2, 0] rfl ?_
    refine vv_goto (tgt := 2) dX3_be_47 (by decide) ?_
    exact hk2 h
theorem v_KX3_be_2 {l : Launch} {G : vv_G} {d : Nat} {ad : Nat → Nat} (hG : vv_gok G) (hH : vv_hy l G ad) : ∀ (n : Nat) {x0 : Nat} {x1 : Nat} {x2 : Int32} {σ : vv_S} {r : Nat × vv_S}, KX3_be_2 n x0 x1 x2 σ = some r → vv_V l G MX3_be (d + 0) 2 [(0, .ref x0), (1, .ref x1), (2, .int x2)] [] σ (.inl (some (.ref r.1)), r.2) := by
  intro n
  induction n with
  | zero => intro _ _ _ _ _ h; cases h
  | succ n ih => intro _ _ _ _ _ h; exact vb_KX3_be_2 hG hH ih h
def KX3_be (x0 : Nat) (x1 : Nat) (σ : vv_S) : Option (Nat × vv_S) := KX3_be_2 NN x0 x1 (nI 0) σ
theorem v_KX3_be_0 {l : Launch} {G : vv_G} {d : Nat} {ad : Nat → Nat} (hG : vv_gok G) (hH : vv_hy l G ad) {x0 : Nat} {x1 : Nat} {σ : vv_S} {r : Nat × vv_S} (h : KX3_be x0 x1 σ = some r) : vv_V l G MX3_be (d + 0) 0 [(0, .ref x0), (1, .ref x1)] [] σ (.inl (some (.ref r.1)), r.2) := by
  unfold KX3_be at h
  refine vv_iconst (v := (nI 0)) dX3_be_0 (by decide) ?_
  refine vv_istore_n (lv' := [(0, .ref x0), (1, .ref x1), (2, .int (nI 0))]) dX3_be_1 rfl (by decide) [1, 2, 0] rfl ?_
  exact v_KX3_be_2 hG hH NN h
theorem m_KX3_be {l : Launch} {G : vv_G} {ad : Nat → Nat} (hG : vv_gok G) (hH : vv_hy l G ad) {x0 : Nat} {x1 : Nat} {σ : vv_S} {r : Nat × vv_S} (h : KX3_be x0 x1 σ = some r) (d : Nat) : vv_Met l G MX3_be (d + 0) [.ref x0, .ref x1] σ (.inl (some (.ref r.1)), r.2) := vv_head (by decide +kernel) rfl (Nat.le_of_ble_eq_true rfl) rfl (v_KX3_be_0 hG hH h)
/-! ('X3', 'copy') -/
def KX3_copy (x0 : Nat) (σ : vv_S) : Option (Nat × vv_S) := (some (nwO σ 2 [.null, .null, .null, .null, .null, .null, .null, .null, .null, .int 0, .int 0, .null] 12)).bind fun σ1 => (gR σ1 x0 2 11).bind fun v2 => (KX3_init σ.2.1 v2 σ1).bind fun r3 => (isO r3 σ.2.1 2).bind fun _ => (KX3_be σ.2.1 x0 r3).bind fun r4 => some (r4.1, r4.2)
theorem v_KX3_copy_0 {l : Launch} {G : vv_G} {d : Nat} {ad : Nat → Nat} (hG : vv_gok G) (hH : vv_hy l G ad) {x0 : Nat} {σ : vv_S} {r : Nat × vv_S} (h : KX3_copy x0 σ = some r) : vv_V l G MX3_copy (d + 2) 0 [(0, .ref x0)] [] σ (.inl (some (.ref r.1)), r.2) := by
  unfold KX3_copy at h
  obtain ⟨σ1, uσ1, h⟩ := bd_s h
  refine vv_new (nw_X3_4 hG) dX3_copy_0 ?_
  rw [show (vv_up σ.1 σ.2.1 _, _, _) = σ1 from uσ1.symm]
  refine vv_dup dX3_copy_3 rfl ?_
  refine vv_aload_n dX3_copy_4 rfl 0 rfl ?_
  replace h := gR_o h; obtain ⟨v2, fv2, sv2, ev2, lv2, h⟩ := h
  refine vv_get (fl_X3_3 hG) ev2 lv2 dX3_copy_5 ?_
  replace h := bd_o h; obtain ⟨r3, er3, h⟩ := h
  refine vv_callI ok_X3_init q351 (m_KX3_init hG hH er3 d) rfl (by omega) rfl rfl (Nat.le_of_ble_eq_true rfl) dX3_copy_8 ?_
  refine vv_aload_n dX3_copy_11 rfl 0 rfl ?_
  replace h := isO_o h; obtain ⟨fz5, sz5, ez5, h⟩ := h
  replace h := bd_o h; obtain ⟨r4, er4, h⟩ := h
  refine vv_callV ok_X3_be q352 (m_KX3_be hG hH er4 d) rfl (by omega) ⟨_, _, _, _, _, ez5, by rw [hG.1]; rfl⟩ rfl rfl (Nat.le_of_ble_eq_true rfl) dX3_copy_12 ?_
  cases h
  exact vv_aret rfl (by first | exact Or.inl ⟨_, rfl⟩ | exact Or.inr ⟨_, rfl⟩) (Or.inr ⟨_, rfl⟩) dX3_copy_15
theorem m_KX3_copy {l : Launch} {G : vv_G} {ad : Nat → Nat} (hG : vv_gok G) (hH : vv_hy l G ad) {x0 : Nat} {σ : vv_S} {r : Nat × vv_S} (h : KX3_copy x0 σ = some r) (d : Nat) : vv_Met l G MX3_copy (d + 2) [.ref x0] σ (.inl (some (.ref r.1)), r.2) := vv_head (by decide +kernel) rfl (Nat.le_of_ble_eq_true rfl) rfl (v_KX3_copy_0 hG hH h)
/-! ('X1', 'keep') -/
def KX1_keep_42 (ad : Nat → Nat) (σ : vv_S) : Option vv_S := some σ
theorem v_KX1_keep_42 {l : Launch} {G : vv_G} {d : Nat} {ad : Nat → Nat} (hG : vv_gok G) (hH : vv_hy l G ad) {σ : vv_S} {r : vv_S} (h : KX1_keep_42 ad σ = some r) : vv_V l G MX1_keep (d + 7) 42 [] [] σ (.inl none, r) := by
  unfold KX1_keep_42 at h
  cases h
  exact vv_vret rfl dX1_keep_42
def KX1_keep (ad : Nat → Nat) (x0 : Nat) (σ : vv_S) : Option vv_S := (gR σ x0 0 7).bind fun v1 => (gR σ x0 0 2).bind fun v2 => (isO σ v2 2).bind fun _ => (KX3_copy v2 σ).bind fun r3 => (isO r3.2 v1 11).bind fun _ => (KJ2_add ad v1 r3.1 r3.2).bind fun r5 => (gR r5.2 x0 0 7).bind fun v7 => (isO r5.2 v7 11).bind fun _ => (KJ2_size v7 r5.2).bind fun r8 => if r8 ≤ (nI 40) then (KX1_keep_42 ad r5.2) else ((gR r5.2 x0 0 7).bind fun v11 => (isO r5.2 v11 11).bind fun _ => (KJ2_remove v11 (nI 0) r5.2).bind fun r12 => KX1_keep_42 ad r12.2)
theorem v_KX1_keep_0 {l : Launch} {G : vv_G} {d : Nat} {ad : Nat → Nat} (hG : vv_gok G) (hH : vv_hy l G ad) {x0 : Nat} {σ : vv_S} {r : vv_S} (h : KX1_keep ad x0 σ = some r) : vv_V l G MX1_keep (d + 7) 0 [(0, .ref x0)] [] σ (.inl none, r) := by
  unfold KX1_keep at h
  refine vv_aload_n dX1_keep_0 rfl 0 rfl ?_
  replace h := gR_o h; obtain ⟨v1, fv1, sv1, ev1, lv1, h⟩ := h
  refine vv_get (fl_X1_49 hG) ev1 lv1 dX1_keep_1 ?_
  refine vv_aload_n dX1_keep_4 rfl 0 rfl ?_
  replace h := gR_o h; obtain ⟨v2, fv2, sv2, ev2, lv2, h⟩ := h
  refine vv_get (fl_X1_31 hG) ev2 lv2 dX1_keep_5 ?_
  replace h := isO_o h; obtain ⟨fz4, sz4, ez4, h⟩ := h
  replace h := bd_o h; obtain ⟨r3, er3, h⟩ := h
  refine vv_callV ok_X3_copy q346 (m_KX3_copy hG hH er3 d) rfl (by omega) ⟨_, _, _, _, _, ez4, by rw [hG.1]; rfl⟩ rfl rfl (Nat.le_of_ble_eq_true rfl) dX1_keep_8 ?_
  replace h := isO_o h; obtain ⟨fz6, sz6, ez6, h⟩ := h
  replace h := bd_o h; obtain ⟨r5, er5, h⟩ := h
  refine vv_callF (xx := ⟨"java/util/List", "add", "(Ljava/lang/Object;)Z"⟩) okf_J2_add q357 (m_KJ2_add hG hH er5 d) rfl (by omega) ⟨_, _, _, _, _, ez6, by rw [hG.1]; rfl⟩ q361 (fun U hK => hH.1.2.2.1 U hK _ (List.mem_of_getElem? (i := 0) rfl)) ⟨by decide, by decide, by decide +kernel⟩ rfl rfl (Nat.le_of_ble_eq_true rfl) dX1_keep_11 ?_
  refine vv_pop dX1_keep_16 rfl ?_
  refine vv_aload_n dX1_keep_17 rfl 0 rfl ?_
  replace h := gR_o h; obtain ⟨v7, fv7, sv7, ev7, lv7, h⟩ := h
  refine vv_get (fl_X1_49 hG) ev7 lv7 dX1_keep_18 ?_
  replace h := isO_o h; obtain ⟨fz9, sz9, ez9, h⟩ := h
  replace h := bd_o h; obtain ⟨r8, er8, h⟩ := h
  refine vv_callF (xx := ⟨"java/util/List", "size", "()I"⟩) okf_J2_size q426 (m_KJ2_size hG hH er8 d) rfl (by omega) ⟨_, _, _, _, _, ez9, by rw [hG.1]; rfl⟩ q429 (fun U hK => hH.1.2.2.1 U hK _ (List.mem_of_getElem? (i := 1) rfl)) ⟨by decide, by decide, by decide +kernel⟩ rfl rfl (Nat.le_of_ble_eq_true rfl) dX1_keep_21 ?_
  refine vv_bipush (v := (nI 40)) dX1_keep_26 (by decide) ?_
  refine vv_icmp_le (tgt := 42) dX1_keep_28 (by decide) (fun c10 => ?_) (fun c10 => ?_)
  · rw [if_pos c10] at h
    refine vv_sub (lv' := []) [] rfl ?_
    exact v_KX1_keep_42 hG hH h
  · rw [if_neg c10] at h
    refine vv_aload_n dX1_keep_31 rfl 0 rfl ?_
    replace h := gR_o h; obtain ⟨v11, fv11, sv11, ev11, lv11, h⟩ := h
    refine vv_get (fl_X1_49 hG) ev11 lv11 dX1_keep_32 ?_
    refine vv_iconst (v := (nI 0)) dX1_keep_35 (by decide) ?_
    replace h := isO_o h; obtain ⟨fz13, sz13, ez13, h⟩ := h
    replace h := bd_o h; obtain ⟨r12, er12, h⟩ := h
    refine vv_callF (xx := ⟨"java/util/List", "remove", "(I)Ljava/lang/Object;"⟩) okf_J2_remove q435 (m_KJ2_remove hG hH er12 d) rfl (by omega) ⟨_, _, _, _, _, ez13, by rw [hG.1]; rfl⟩ q438 (fun U hK => hH.1.2.2.1 U hK _ (List.mem_of_getElem? (i := 2) rfl)) ⟨by decide, by decide, by decide +kernel⟩ rfl rfl (Nat.le_of_ble_eq_true rfl) dX1_keep_36 ?_
    refine vv_pop dX1_keep_41 rfl ?_
    refine vv_sub (lv' := []) [] rfl ?_
    exact v_KX1_keep_42 hG hH h
theorem m_KX1_keep {l : Launch} {G : vv_G} {ad : Nat → Nat} (hG : vv_gok G) (hH : vv_hy l G ad) {x0 : Nat} {σ : vv_S} {r : vv_S} (h : KX1_keep ad x0 σ = some r) (d : Nat) : vv_Met l G MX1_keep (d + 7) [.ref x0] σ (.inl none, r) := vv_head (by decide +kernel) rfl (Nat.le_of_ble_eq_true rfl) rfl (v_KX1_keep_0 hG hH h)
/-! ('X3', 'goes') -/
def KX3_goes_14 (s0 : Int32) (σ : vv_S) : Option Int32 := (zrI s0).bind fun v1 => some v1
theorem v_KX3_goes_14 {l : Launch} {G : vv_G} {d : Nat} {ad : Nat → Nat} (hG : vv_gok G) (hH : vv_hy l G ad) {s0 : Int32} {σ : vv_S} {r : Int32} (h : KX3_goes_14 s0 σ = some r) : vv_V l G MX3_goes (d + 0) 14 [] [.int s0] σ (.inl (some (.int r)), σ) := by
  unfold KX3_goes_14 at h
  replace h := zr_o h; obtain ⟨zv1, h⟩ := h
  cases h
  exact vv_zret rfl zv1 dX3_goes_14
def KX3_goes (x0 : Nat) (x1 : Int32) (σ : vv_S) : Option Int32 := (gR σ x0 2 7).bind fun v1 => (aI σ .int v1 x1).bind fun v2 => if v2 ≤ 0 then (KX3_goes_14 (nI 0) σ) else (KX3_goes_14 (nI 1) σ)
theorem v_KX3_goes_0 {l : Launch} {G : vv_G} {d : Nat} {ad : Nat → Nat} (hG : vv_gok G) (hH : vv_hy l G ad) {x0 : Nat} {x1 : Int32} {σ : vv_S} {r : Int32} (h : KX3_goes x0 x1 σ = some r) : vv_V l G MX3_goes (d + 0) 0 [(0, .ref x0), (1, .int x1)] [] σ (.inl (some (.int r)), σ) := by
  unfold KX3_goes at h
  refine vv_aload_n dX3_goes_0 rfl 0 rfl ?_
  replace h := gR_o h; obtain ⟨v1, fv1, sv1, ev1, lv1, h⟩ := h
  refine vv_get (fl_X3_37 hG) ev1 lv1 dX3_goes_1 ?_
  refine vv_iload_n dX3_goes_4 rfl 1 rfl ?_
  replace h := aI_o h; obtain ⟨v2, fv2, nv2, qv2, ev2, iv2, wv2, h⟩ := h
  refine vv_iald ev2 iv2 dX3_goes_5 ?_
  rw [wv2]
  refine vv_if_le (tgt := 13) dX3_goes_6 (by decide) (fun c3 => ?_) (fun c3 => ?_)
  · rw [if_pos c3] at h
    refine vv_iconst (v := (nI 0)) dX3_goes_13 (by decide) ?_
    refine vv_sub (lv' := []) [] rfl ?_
    exact v_KX3_goes_14 hG hH h
  · rw [if_neg c3] at h
    refine vv_iconst (v := (nI 1)) dX3_goes_9 (by decide) ?_
    refine vv_goto (tgt := 14) dX3_goes_10 (by decide) ?_
    refine vv_sub (lv' := []) [] rfl ?_
    exact v_KX3_goes_14 hG hH h
theorem m_KX3_goes {l : Launch} {G : vv_G} {ad : Nat → Nat} (hG : vv_gok G) (hH : vv_hy l G ad) {x0 : Nat} {x1 : Int32} {σ : vv_S} {r : Int32} (h : KX3_goes x0 x1 σ = some r) (d : Nat) : vv_Met l G MX3_goes (d + 0) [.ref x0, .int x1] σ (.inl (some (.int r)), σ) := vv_head (by decide +kernel) rfl (Nat.le_of_ble_eq_true rfl) rfl (v_KX3_goes_0 hG hH h)
/-! ('X3', 'ship') -/
def KX3_ship_32 (x0 : Nat) (x1 : Int32) (σ : vv_S) : Option vv_S := (gR σ x0 2 7).bind fun v1 => (aI σ .int v1 x1).bind fun v2 => (sI σ v1 x1 (v2 - (nI 1))).bind fun σ3 => some σ3
theorem v_KX3_ship_32 {l : Launch} {G : vv_G} {d : Nat} {ad : Nat → Nat} (hG : vv_gok G) (hH : vv_hy l G ad) {x0 : Nat} {x1 : Int32} {σ : vv_S} {r : vv_S} (h : KX3_ship_32 x0 x1 σ = some r) : vv_V l G MX3_ship (d + 1) 32 [(0, .ref x0), (1, .int x1)] [] σ (.inl none, r) := by
  unfold KX3_ship_32 at h
  refine vv_aload_n dX3_ship_32 rfl 0 rfl ?_
  replace h := gR_o h; obtain ⟨v1, fv1, sv1, ev1, lv1, h⟩ := h
  refine vv_get (fl_X3_37 hG) ev1 lv1 dX3_ship_33 ?_
  refine vv_iload_n dX3_ship_36 rfl 1 rfl ?_
  refine vv_dup2 dX3_ship_37 rfl rfl ?_
  replace h := aI_o h; obtain ⟨v2, fv2, nv2, qv2, ev2, iv2, wv2, h⟩ := h
  refine vv_iald ev2 iv2 dX3_ship_38 ?_
  rw [wv2]
  refine vv_iconst (v := (nI 1)) dX3_ship_39 (by decide) ?_
  refine vv_isub dX3_ship_40 ?_
  replace h := sI_o h; obtain ⟨σ3, nσ3, qσ3, eσ3, iσ3, uσ3, h⟩ := h
  refine vv_iast eσ3 iσ3 dX3_ship_41 ?_
  rw [← uσ3]
  cases h
  exact vv_vret rfl dX3_ship_42
def KX3_ship (x0 : Nat) (x1 : Int32) (σ : vv_S) : Option vv_S := (gR σ x0 2 5).bind fun v1 => (aI σ .int v1 x1).bind fun v2 => if v2 = 0 then ((gR σ x0 2 3).bind fun v4 => (gR σ x0 2 3).bind fun v5 => (aI σ .int v5 x1).bind fun v6 => (gR σ x0 2 8).bind fun v7 => (aI σ .int v7 x1).bind fun v8 => (sI σ v4 x1 (mxI (nI 0) (v6 - v8))).bind fun σ9 => KX3_ship_32 x0 x1 σ9) else (KX3_ship_32 x0 x1 σ)
theorem v_KX3_ship_0 {l : Launch} {G : vv_G} {d : Nat} {ad : Nat → Nat} (hG : vv_gok G) (hH : vv_hy l G ad) {x0 : Nat} {x1 : Int32} {σ : vv_S} {r : vv_S} (h : KX3_ship x0 x1 σ = some r) : vv_V l G MX3_ship (d + 1) 0 [(0, .ref x0), (1, .int x1)] [] σ (.inl none, r) := by
  unfold KX3_ship at h
  refine vv_aload_n dX3_ship_0 rfl 0 rfl ?_
  replace h := gR_o h; obtain ⟨v1, fv1, sv1, ev1, lv1, h⟩ := h
  refine vv_get (fl_X3_31 hG) ev1 lv1 dX3_ship_1 ?_
  refine vv_iload_n dX3_ship_4 rfl 1 rfl ?_
  replace h := aI_o h; obtain ⟨v2, fv2, nv2, qv2, ev2, iv2, wv2, h⟩ := h
  refine vv_iald ev2 iv2 dX3_ship_5 ?_
  rw [wv2]
  refine vv_if_ne (tgt := 32) dX3_ship_6 (by decide) (fun c3 => ?_) (fun c3 => ?_)
  · rw [if_neg c3] at h
    exact v_KX3_ship_32 hG hH h
  · rw [if_pos c3] at h
    refine vv_aload_n dX3_ship_9 rfl 0 rfl ?_
    replace h := gR_o h; obtain ⟨v4, fv4, sv4, ev4, lv4, h⟩ := h
    refine vv_get (fl_X3_25 hG) ev4 lv4 dX3_ship_10 ?_
    refine vv_iload_n dX3_ship_13 rfl 1 rfl ?_
    refine vv_iconst (v := (nI 0)) dX3_ship_14 (by decide) ?_
    refine vv_aload_n dX3_ship_15 rfl 0 rfl ?_
    replace h := gR_o h; obtain ⟨v5, fv5, sv5, ev5, lv5, h⟩ := h
    refine vv_get (fl_X3_25 hG) ev5 lv5 dX3_ship_16 ?_
    refine vv_iload_n dX3_ship_19 rfl 1 rfl ?_
    replace h := aI_o h; obtain ⟨v6, fv6, nv6, qv6, ev6, iv6, wv6, h⟩ := h
    refine vv_iald ev6 iv6 dX3_ship_20 ?_
    rw [wv6]
    refine vv_aload_n dX3_ship_21 rfl 0 rfl ?_
    replace h := gR_o h; obtain ⟨v7, fv7, sv7, ev7, lv7, h⟩ := h
    refine vv_get (fl_X3_40 hG) ev7 lv7 dX3_ship_22 ?_
    refine vv_iload_n dX3_ship_25 rfl 1 rfl ?_
    replace h := aI_o h; obtain ⟨v8, fv8, nv8, qv8, ev8, iv8, wv8, h⟩ := h
    refine vv_iald ev8 iv8 dX3_ship_26 ?_
    rw [wv8]
    refine vv_isub dX3_ship_27 ?_
    refine vv_mmax q470 (by omega) (Nat.le_of_ble_eq_true rfl) dX3_ship_28 ?_
    replace h := sI_o h; obtain ⟨σ9, nσ9, qσ9, eσ9, iσ9, uσ9, h⟩ := h
    refine vv_iast eσ9 iσ9 dX3_ship_31 ?_
    rw [← uσ9]
    exact v_KX3_ship_32 hG hH h
theorem m_KX3_ship {l : Launch} {G : vv_G} {ad : Nat → Nat} (hG : vv_gok G) (hH : vv_hy l G ad) {x0 : Nat} {x1 : Int32} {σ : vv_S} {r : vv_S} (h : KX3_ship x0 x1 σ = some r) (d : Nat) : vv_Met l G MX3_ship (d + 1) [.ref x0, .int x1] σ (.inl none, r) := vv_head (by decide +kernel) rfl (Nat.le_of_ble_eq_true rfl) rfl (v_KX3_ship_0 hG hH h)
/-! ('X2', 'towns') -/
def KX2_towns (x0 : Nat) (σ : vv_S) : Option Int32 := (gR σ x0 1 0).bind fun v1 => (isO σ v1 11).bind fun _ => (KJ2_size v1 σ).bind fun r2 => some r2
theorem v_KX2_towns_0 {l : Launch} {G : vv_G} {d : Nat} {ad : Nat → Nat} (hG : vv_gok G) (hH : vv_hy l G ad) {x0 : Nat} {σ : vv_S} {r : Int32} (h : KX2_towns x0 σ = some r) : vv_V l G MX2_towns (d + 1) 0 [(0, .ref x0)] [] σ (.inl (some (.int r)), σ) := by
  unfold KX2_towns at h
  refine vv_aload_n dX2_towns_0 rfl 0 rfl ?_
  replace h := gR_o h; obtain ⟨v1, fv1, sv1, ev1, lv1, h⟩ := h
  refine vv_get (fl_X2_12 hG) ev1 lv1 dX2_towns_1 ?_
  replace h := isO_o h; obtain ⟨fz3, sz3, ez3, h⟩ := h
  replace h := bd_o h; obtain ⟨r2, er2, h⟩ := h
  refine vv_callF (xx := ⟨"java/util/List", "size", "()I"⟩) okf_J2_size q476 (m_KJ2_size hG hH er2 d) rfl (by omega) ⟨_, _, _, _, _, ez3, by rw [hG.1]; rfl⟩ q429 (fun U hK => hH.1.2.2.1 U hK _ (List.mem_of_getElem? (i := 1) rfl)) ⟨by decide, by decide, by decide +kernel⟩ rfl rfl (Nat.le_of_ble_eq_true rfl) dX2_towns_4 ?_
  cases h
  exact vv_iret rfl dX2_towns_9
theorem m_KX2_towns {l : Launch} {G : vv_G} {ad : Nat → Nat} (hG : vv_gok G) (hH : vv_hy l G ad) {x0 : Nat} {σ : vv_S} {r : Int32} (h : KX2_towns x0 σ = some r) (d : Nat) : vv_Met l G MX2_towns (d + 1) [.ref x0] σ (.inl (some (.int r)), σ) := vv_head (by decide +kernel) rfl (Nat.le_of_ble_eq_true rfl) rfl (v_KX2_towns_0 hG hH h)
/-! ('X3', 'give') -/
def KX3_give (x0 : Nat) (x1 : Int32) (x2 : Int32) (σ : vv_S) : Option vv_S := (gR σ x0 2 0).bind fun v1 => (gR σ x0 2 0).bind fun v2 => (aI σ .int v2 x1).bind fun v3 => (sI σ v1 x1 (mnI (nI 9999) (v3 + x2))).bind fun σ4 => some σ4
theorem v_KX3_give_0 {l : Launch} {G : vv_G} {d : Nat} {ad : Nat → Nat} (hG : vv_gok G) (hH : vv_hy l G ad) {x0 : Nat} {x1 : Int32} {x2 : Int32} {σ : vv_S} {r : vv_S} (h : KX3_give x0 x1 x2 σ = some r) : vv_V l G MX3_give (d + 1) 0 [(0, .ref x0), (1, .int x1), (2, .int x2)] [] σ (.inl none, r) := by
  unfold KX3_give at h
  refine vv_aload_n dX3_give_0 rfl 0 rfl ?_
  replace h := gR_o h; obtain ⟨v1, fv1, sv1, ev1, lv1, h⟩ := h
  refine vv_get (fl_X3_15 hG) ev1 lv1 dX3_give_1 ?_
  refine vv_iload_n dX3_give_4 rfl 1 rfl ?_
  refine vv_sipush (v := (nI 9999)) dX3_give_5 (by decide) ?_
  refine vv_aload_n dX3_give_8 rfl 0 rfl ?_
  replace h := gR_o h; obtain ⟨v2, fv2, sv2, ev2, lv2, h⟩ := h
  refine vv_get (fl_X3_15 hG) ev2 lv2 dX3_give_9 ?_
  refine vv_iload_n dX3_give_12 rfl 1 rfl ?_
  replace h := aI_o h; obtain ⟨v3, fv3, nv3, qv3, ev3, iv3, wv3, h⟩ := h
  refine vv_iald ev3 iv3 dX3_give_13 ?_
  rw [wv3]
  refine vv_iload_n dX3_give_14 rfl 2 rfl ?_
  refine vv_iadd dX3_give_15 ?_
  refine vv_mmin q499 (by omega) (Nat.le_of_ble_eq_true rfl) dX3_give_16 ?_
  replace h := sI_o h; obtain ⟨σ4, nσ4, qσ4, eσ4, iσ4, uσ4, h⟩ := h
  refine vv_iast eσ4 iσ4 dX3_give_19 ?_
  rw [← uσ4]
  cases h
  exact vv_vret rfl dX3_give_20
theorem m_KX3_give {l : Launch} {G : vv_G} {ad : Nat → Nat} (hG : vv_gok G) (hH : vv_hy l G ad) {x0 : Nat} {x1 : Int32} {x2 : Int32} {σ : vv_S} {r : vv_S} (h : KX3_give x0 x1 x2 σ = some r) (d : Nat) : vv_Met l G MX3_give (d + 1) [.ref x0, .int x1, .int x2] σ (.inl none, r) := vv_head (by decide +kernel) rfl (Nat.le_of_ble_eq_true rfl) rfl (v_KX3_give_0 hG hH h)
/-! ('X1', 'draw') -/
def KX1_draw (x0 : Nat) (x1 : Int32) (σ : vv_S) : Option (Int32 × vv_S) := (gI σ x0 0 14).bind fun v1 => (pF σ x0 0 14 (.int ((v1 * (nI 1103515245)) + (nI 12345)))).bind fun σ2 => (gI σ2 x0 0 14).bind fun v3 => (rmI ((v3 >>> ((nI 16) &&& 31)) &&& (nI 32767)) x1).bind fun v4 => some (v4, σ2)
theorem v_KX1_draw_0 {l : Launch} {G : vv_G} {d : Nat} {ad : Nat → Nat} (hG : vv_gok G) (hH : vv_hy l G ad) {x0 : Nat} {x1 : Int32} {σ : vv_S} {r : Int32 × vv_S} (h : KX1_draw x0 x1 σ = some r) : vv_V l G MX1_draw (d + 0) 0 [(0, .ref x0), (1, .int x1)] [] σ (.inl (some (.int r.1)), r.2) := by
  unfold KX1_draw at h
  refine vv_aload_n dX1_draw_0 rfl 0 rfl ?_
  refine vv_aload_n dX1_draw_1 rfl 0 rfl ?_
  replace h := gI_o h; obtain ⟨v1, fv1, sv1, ev1, lv1, h⟩ := h
  refine vv_get (fl_X1_314 hG) ev1 lv1 dX1_draw_2 ?_
  refine vv_ldcw (v := (nI 1103515245)) dX1_draw_5 q504 ?_
  refine vv_imul dX1_draw_8 ?_
  refine vv_sipush (v := (nI 12345)) dX1_draw_9 (by decide) ?_
  refine vv_iadd dX1_draw_12 ?_
  replace h := pF_o h; obtain ⟨σ2, sσ2, eσ2, lσ2, uσ2, h⟩ := h
  refine vv_putf (pt_X1_314 hG) (Or.inr fun C T' N h9 => by rw [hG.1] at h9; cases h9; rfl) eσ2 rfl rfl lσ2 dX1_draw_13 ?_
  rw [← uσ2]
  refine vv_aload_n dX1_draw_16 rfl 0 rfl ?_
  replace h := gI_o h; obtain ⟨v3, fv3, sv3, ev3, lv3, h⟩ := h
  refine vv_get (fl_X1_314 hG) ev3 lv3 dX1_draw_17 ?_
  refine vv_bipush (v := (nI 16)) dX1_draw_20 (by decide) ?_
  refine vv_ishr dX1_draw_22 ?_
  refine vv_sipush (v := (nI 32767)) dX1_draw_23 (by decide) ?_
  refine vv_iand dX1_draw_26 ?_
  refine vv_iload_n dX1_draw_27 rfl 1 rfl ?_
  replace h := rm_o h; obtain ⟨hz5, h⟩ := h
  refine vv_irem dX1_draw_28 hz5 ?_
  obtain ⟨v4, ev4⟩ : ∃ z, z = (((v3 >>> ((nI 16) &&& 31)) &&& (nI 32767)) - ((v3 >>> ((nI 16) &&& 31)) &&& (nI 32767)) / x1 * x1) := ⟨_, rfl⟩
  rw [← ev4] at h ⊢
  cases h
  exact vv_iret rfl dX1_draw_29
theorem m_KX1_draw {l : Launch} {G : vv_G} {ad : Nat → Nat} (hG : vv_gok G) (hH : vv_hy l G ad) {x0 : Nat} {x1 : Int32} {σ : vv_S} {r : Int32 × vv_S} (h : KX1_draw x0 x1 σ = some r) (d : Nat) : vv_Met l G MX1_draw (d + 0) [.ref x0, .int x1] σ (.inl (some (.int r.1)), r.2) := vv_head (by decide +kernel) rfl (Nat.le_of_ble_eq_true rfl) rfl (v_KX1_draw_0 hG hH h)
/-! ('X3', 'lies') -/
def KX3_lies_24 (s0 : Int32) (σ : vv_S) : Option Int32 := (zrI s0).bind fun v1 => some v1
theorem v_KX3_lies_24 {l : Launch} {G : vv_G} {d : Nat} {ad : Nat → Nat} (hG : vv_gok G) (hH : vv_hy l G ad) {s0 : Int32} {σ : vv_S} {r : Int32} (h : KX3_lies_24 s0 σ = some r) : vv_V l G MX3_lies (d + 0) 24 [] [.int s0] σ (.inl (some (.int r)), σ) := by
  unfold KX3_lies_24 at h
  replace h := zr_o h; obtain ⟨zv1, h⟩ := h
  cases h
  exact vv_zret rfl zv1 dX3_lies_24
def KX3_lies_23 (σ : vv_S) : Option Int32 := KX3_lies_24 (nI 0) σ
theorem v_KX3_lies_23 {l : Launch} {G : vv_G} {d : Nat} {ad : Nat → Nat} (hG : vv_gok G) (hH : vv_hy l G ad) {σ : vv_S} {r : Int32} (h : KX3_lies_23 σ = some r) : vv_V l G MX3_lies (d + 0) 23 [] [] σ (.inl (some (.int r)), σ) := by
  unfold KX3_lies_23 at h
  refine vv_iconst (v := (nI 0)) dX3_lies_23 (by decide) ?_
  exact v_KX3_lies_24 hG hH h
def KX3_lies (x0 : Nat) (x1 : Int32) (σ : vv_S) : Option Int32 := (gR σ x0 2 6).bind fun v1 => (aI σ .int v1 x1).bind fun v2 => if v2 = (-1) then (KX3_lies_23 σ) else ((gR σ x0 2 7).bind fun v4 => (aI σ .int v4 x1).bind fun v5 => if v5 = 0 then (KX3_lies_24 (nI 1) σ) else (KX3_lies_23 σ))
theorem v_KX3_lies_0 {l : Launch} {G : vv_G} {d : Nat} {ad : Nat → Nat} (hG : vv_gok G) (hH : vv_hy l G ad) {x0 : Nat} {x1 : Int32} {σ : vv_S} {r : Int32} (h : KX3_lies x0 x1 σ = some r) : vv_V l G MX3_lies (d + 0) 0 [(0, .ref x0), (1, .int x1)] [] σ (.inl (some (.int r)), σ) := by
  unfold KX3_lies at h
  refine vv_aload_n dX3_lies_0 rfl 0 rfl ?_
  replace h := gR_o h; obtain ⟨v1, fv1, sv1, ev1, lv1, h⟩ := h
  refine vv_get (fl_X3_34 hG) ev1 lv1 dX3_lies_1 ?_
  refine vv_iload_n dX3_lies_4 rfl 1 rfl ?_
  replace h := aI_o h; obtain ⟨v2, fv2, nv2, qv2, ev2, iv2, wv2, h⟩ := h
  refine vv_iald ev2 iv2 dX3_lies_5 ?_
  rw [wv2]
  refine vv_iconst (v := (-1)) dX3_lies_6 (by decide) ?_
  refine vv_icmp_eq (tgt := 23) dX3_lies_7 (by decide) (fun c3 => ?_) (fun c3 => ?_)
  · rw [if_pos c3] at h
    refine vv_sub (lv' := []) [] rfl ?_
    exact v_KX3_lies_23 hG hH h
  · rw [if_neg c3] at h
    refine vv_aload_n dX3_lies_10 rfl 0 rfl ?_
    replace h := gR_o h; obtain ⟨v4, fv4, sv4, ev4, lv4, h⟩ := h
    refine vv_get (fl_X3_37 hG) ev4 lv4 dX3_lies_11 ?_
    refine vv_iload_n dX3_lies_14 rfl 1 rfl ?_
    replace h := aI_o h; obtain ⟨v5, fv5, nv5, qv5, ev5, iv5, wv5, h⟩ := h
    refine vv_iald ev5 iv5 dX3_lies_15 ?_
    rw [wv5]
    refine vv_if_ne (tgt := 23) dX3_lies_16 (by decide) (fun c6 => ?_) (fun c6 => ?_)
    · rw [if_neg c6] at h
      refine vv_sub (lv' := []) [] rfl ?_
      exact v_KX3_lies_23 hG hH h
    · rw [if_pos c6] at h
      refine vv_iconst (v := (nI 1)) dX3_lies_19 (by decide) ?_
      refine vv_goto (tgt := 24) dX3_lies_20 (by decide) ?_
      refine vv_sub (lv' := []) [] rfl ?_
      exact v_KX3_lies_24 hG hH h
theorem m_KX3_lies {l : Launch} {G : vv_G} {ad : Nat → Nat} (hG : vv_gok G) (hH : vv_hy l G ad) {x0 : Nat} {x1 : Int32} {σ : vv_S} {r : Int32} (h : KX3_lies x0 x1 σ = some r) (d : Nat) : vv_Met l G MX3_lies (d + 0) [.ref x0, .int x1] σ (.inl (some (.int r)), σ) := vv_head (by decide +kernel) rfl (Nat.le_of_ble_eq_true rfl) rfl (v_KX3_lies_0 hG hH h)
/-! ('X3', 'lying') -/
def KX3_lying_47 (k4 : Nat → Int32 → Int32 → Int32 → vv_S → Option Int32) (x0 : Nat) (x1 : Int32) (x2 : Int32) (x3 : Int32) (σ : vv_S) : Option Int32 := k4 x0 x1 x2 (x3 + (nI 1)) σ
theorem v_KX3_lying_47 {l : Launch} {G : vv_G} {d : Nat} {ad : Nat → Nat} (hG : vv_gok G) (hH : vv_hy l G ad) {k4 : Nat → Int32 → Int32 → Int32 → vv_S → Option Int32} (hk4 : ∀ {x0 : Nat} {x1 : Int32} {x2 : Int32} {x3 : Int32} {σ : vv_S} {r : Int32}, k4 x0 x1 x2 x3 σ = some r → vv_V l G MX3_lying (d + 1) 4 [(0, .ref x0), (1, .int x1), (2, .int x2), (3, .int x3)] [] σ (.inl (some (.int r)), σ)) {x0 : Nat} {x1 : Int32} {x2 : Int32} {x3 : Int32} {σ : vv_S} {r : Int32} (h : KX3_lying_47 k4 x0 x1 x2 x3 σ = some r) : vv_V l G MX3_lying (d + 1) 47 [(0, .ref x0), (1, .int x1), (2, .int x2), (3, .int x3)] [] σ (.inl (some (.int r)), σ) := by
  unfold KX3_lying_47 at h
  refine vv_iinc (v := (x3 + (nI 1))) (lv' := [(0, .ref x0), (1, .int x1), (2, .int x2), (3, .int (x3 + (nI 1)))]) dX3_lying_47 3 rfl rfl (by decide) [1, 2, 3, 0] rfl ?_
  refine vv_goto (tgt := 4) dX3_lying_50 (by decide) ?_
  exact hk4 h
def KX3_lying_41 (k4 : Nat → Int32 → Int32 → Int32 → vv_S → Option Int32) (x0 : Nat) (x1 : Int32) (x2 : Int32) (x3 : Int32) (σ : vv_S) : Option Int32 := KX3_lying_47 k4 x0 x1 (x2 ||| ((nI 1) <<< (x3 &&& 31))) x3 σ
theorem v_KX3_lying_41 {l : Launch} {G : vv_G} {d : Nat} {ad : Nat → Nat} (hG : vv_gok G) (hH : vv_hy l G ad) {k4 : Nat → Int32 → Int32 → Int32 → vv_S → Option Int32} (hk4 : ∀ {x0 : Nat} {x1 : Int32} {x2 : Int32} {x3 : Int32} {σ : vv_S} {r : Int32}, k4 x0 x1 x2 x3 σ = some r → vv_V l G MX3_lying (d + 1) 4 [(0, .ref x0), (1, .int x1), (2, .int x2), (3, .int x3)] [] σ (.inl (some (.int r)), σ)) {x0 : Nat} {x1 : Int32} {x2 : Int32} {x3 : Int32} {σ : vv_S} {r : Int32} (h : KX3_lying_41 k4 x0 x1 x2 x3 σ = some r) : vv_V l G MX3_lying (d + 1) 41 [(0, .ref x0), (1, .int x1), (2, .int x2), (3, .int x3)] [] σ (.inl (some (.int r)), σ) := by
  unfold KX3_lying_41 at h
  refine vv_iload_n dX3_lying_41 rfl 2 rfl ?_
  refine vv_iconst (v := (nI 1)) dX3_lying_42 (by decide) ?_
  refine vv_iload_n dX3_lying_43 rfl 3 rfl ?_
  refine vv_ishl dX3_lying_44 ?_
  refine vv_ior dX3_lying_45 ?_
  refine vv_istore_n (lv' := [(0, .ref x0), (1, .int x1), (2, .int (x2 ||| ((nI 1) <<< (x3 &&& 31)))), (3, .int x3)]) dX3_lying_46 rfl (by decide) [1, 2, 0, 3] rfl ?_
  exact v_KX3_lying_47 hG hH hk4 h
def BKX3_lying_4 (k4 : Nat → Int32 → Int32 → Int32 → vv_S → Option Int32) (x0 : Nat) (x1 : Int32) (x2 : Int32) (x3 : Int32) (σ : vv_S) : Option Int32 := (gR σ x0 2 11).bind fun v1 => (gR σ v1 0 1).bind fun v2 => (gI σ v2 1 3).bind fun v3 => if v3 ≤ x3 then (some x2) else ((isO σ x0 2).bind fun _ => (KX3_lies x0 x3 σ).bind fun r5 => if r5 = 0 then (KX3_lying_47 k4 x0 x1 x2 x3 σ) else (if x1 = (-1) then (KX3_lying_41 k4 x0 x1 x2 x3 σ) else ((gR σ x0 2 6).bind fun v9 => (aI σ .int v9 x3).bind fun v10 => if v10 = x1 then (KX3_lying_41 k4 x0 x1 x2 x3 σ) else (KX3_lying_47 k4 x0 x1 x2 x3 σ))))
def KX3_lying_4 : Nat → Nat → Int32 → Int32 → Int32 → vv_S → Option Int32
  | 0, _, _, _, _, _ => none
  | n + 1, x0, x1, x2, x3, σ => BKX3_lying_4 (KX3_lying_4 n) x0 x1 x2 x3 σ
theorem vb_KX3_lying_4 {l : Launch} {G : vv_G} {d : Nat} {ad : Nat → Nat} (hG : vv_gok G) (hH : vv_hy l G ad) {k4 : Nat → Int32 → Int32 → Int32 → vv_S → Option Int32} (hk4 : ∀ {x0 : Nat} {x1 : Int32} {x2 : Int32} {x3 : Int32} {σ : vv_S} {r : Int32}, k4 x0 x1 x2 x3 σ = some r → vv_V l G MX3_lying (d + 1) 4 [(0, .ref x0), (1, .int x1), (2, .int x2), (3, .int x3)] [] σ (.inl (some (.int r)), σ)) {x0 : Nat} {x1 : Int32} {x2 : Int32} {x3 : Int32} {σ : vv_S} {r : Int32} (h : BKX3_lying_4 k4 x0 x1 x2 x3 σ = some r) : vv_V l G MX3_lying (d + 1) 4 [(0, .ref x0), (1, .int x1), (2, .int x2), (3, .int x3)] [] σ (.inl (some (.int r)), σ) := by
  unfold BKX3_lying_4 at h
  refine vv_iload_n dX3_lying_4 rfl 3 rfl ?_
  refine vv_aload_n dX3_lying_5 rfl 0 rfl ?_
  replace h := gR_o h; obtain ⟨v1, fv1, sv1, ev1, lv1, h⟩ := h
  refine vv_get (fl_X3_3 hG) ev1 lv1 dX3_lying_6 ?_
  replace h := gR_o h; obtain ⟨v2, fv2, sv2, ev2, lv2, h⟩ := h
  refine vv_getM (fl_X3_54 hH) ev2 lv2 dX3_lying_9 ?_
  replace h := gI_o h; obtain ⟨v3, fv3, sv3, ev3, lv3, h⟩ := h
  refine vv_getM (fl_X3_58 hH) ev3 lv3 dX3_lying_12 ?_
  refine vv_icmp_ge (tgt := 53) dX3_lying_15 (by decide) (fun c4 => ?_) (fun c4 => ?_)
  · rw [if_pos c4] at h
    refine vv_iload_n dX3_lying_53 rfl 2 rfl ?_
    cases h
    exact vv_iret rfl dX3_lying_54
  · rw [if_neg c4] at h
    refine vv_aload_n dX3_lying_18 rfl 0 rfl ?_
    refine vv_iload_n dX3_lying_19 rfl 3 rfl ?_
    replace h := isO_o h; obtain ⟨fz6, sz6, ez6, h⟩ := h
    replace h := bd_o h; obtain ⟨r5, er5, h⟩ := h
    refine vv_callV ok_X3_lies q513 (m_KX3_lies hG hH er5 d) rfl (by omega) ⟨_, _, _, _, _, ez6, by rw [hG.1]; rfl⟩ rfl rfl (Nat.le_of_ble_eq_true rfl) dX3_lying_20 ?_
    refine vv_if_eq (tgt := 47) dX3_lying_23 (by decide) (fun c7 => ?_) (fun c7 => ?_)
    · rw [if_pos c7] at h
      exact v_KX3_lying_47 hG hH hk4 h
    · rw [if_neg c7] at h
      refine vv_iload_n dX3_lying_26 rfl 1 rfl ?_
      refine vv_iconst (v := (-1)) dX3_lying_27 (by decide) ?_
      refine vv_icmp_eq (tgt := 41) dX3_lying_28 (by decide) (fun c8 => ?_) (fun c8 => ?_)
      · rw [if_pos c8] at h
        exact v_KX3_lying_41 hG hH hk4 h
      · rw [if_neg c8] at h
        refine vv_aload_n dX3_lying_31 rfl 0 rfl ?_
        replace h := gR_o h; obtain ⟨v9, fv9, sv9, ev9, lv9, h⟩ := h
        refine vv_get (fl_X3_34 hG) ev9 lv9 dX3_lying_32 ?_
        refine vv_iload_n dX3_lying_35 rfl 3 rfl ?_
        replace h := aI_o h; obtain ⟨v10, fv10, nv10, qv10, ev10, iv10, wv10, h⟩ := h
        refine vv_iald ev10 iv10 dX3_lying_36 ?_
        rw [wv10]
        refine vv_iload_n dX3_lying_37 rfl 1 rfl ?_
        refine vv_icmp_ne (tgt := 47) dX3_lying_38 (by decide) (fun c11 => ?_) (fun c11 => ?_)
        · rw [if_neg c11] at h
          exact v_KX3_lying_47 hG hH hk4 h
        · rw [if_pos c11] at h
          exact v_KX3_lying_41 hG hH hk4 h
theorem v_KX3_lying_4 {l : Launch} {G : vv_G} {d : Nat} {ad : Nat → Nat} (hG : vv_gok G) (hH : vv_hy l G ad) : ∀ (n : Nat) {x0 : Nat} {x1 : Int32} {x2 : Int32} {x3 : Int32} {σ : vv_S} {r : Int32}, KX3_lying_4 n x0 x1 x2 x3 σ = some r → vv_V l G MX3_lying (d + 1) 4 [(0, .ref x0), (1, .int x1), (2, .int x2), (3, .int x3)] [] σ (.inl (some (.int r)), σ) := by
  intro n
  induction n with
  | zero => intro _ _ _ _ _ _ h; cases h
  | succ n ih => intro _ _ _ _ _ _ h; exact vb_KX3_lying_4 hG hH ih h
def KX3_lying (x0 : Nat) (x1 : Int32) (σ : vv_S) : Option Int32 := KX3_lying_4 NN x0 x1 (nI 0) (nI 0) σ
theorem v_KX3_lying_0 {l : Launch} {G : vv_G} {d : Nat} {ad : Nat → Nat} (hG : vv_gok G) (hH : vv_hy l G ad) {x0 : Nat} {x1 : Int32} {σ : vv_S} {r : Int32} (h : KX3_lying x0 x1 σ = some r) : vv_V l G MX3_lying (d + 1) 0 [(0, .ref x0), (1, .int x1)] [] σ (.inl (some (.int r)), σ) := by
  unfold KX3_lying at h
  refine vv_iconst (v := (nI 0)) dX3_lying_0 (by decide) ?_
  refine vv_istore_n (lv' := [(0, .ref x0), (1, .int x1), (2, .int (nI 0))]) dX3_lying_1 rfl (by decide) [1, 2, 0] rfl ?_
  refine vv_iconst (v := (nI 0)) dX3_lying_2 (by decide) ?_
  refine vv_istore_n (lv' := [(0, .ref x0), (1, .int x1), (2, .int (nI 0)), (3, .int (nI 0))]) dX3_lying_3 rfl (by decide) [1, 2, 3, 0] rfl ?_
  exact v_KX3_lying_4 hG hH NN h
theorem m_KX3_lying {l : Launch} {G : vv_G} {ad : Nat → Nat} (hG : vv_gok G) (hH : vv_hy l G ad) {x0 : Nat} {x1 : Int32} {σ : vv_S} {r : Int32} (h : KX3_lying x0 x1 σ = some r) (d : Nat) : vv_Met l G MX3_lying (d + 1) [.ref x0, .int x1] σ (.inl (some (.int r)), σ) := vv_head (by decide +kernel) rfl (Nat.le_of_ble_eq_true rfl) rfl (v_KX3_lying_0 hG hH h)
/-! ('X3', 'odds') -/
def KX3_odds_181 (fo : Nat → Nat → vv_S → Option Int32) (x2 : Int32) (σ : vv_S) : Option (Int32 × vv_S) := some ((mxI (nI 0) (mnI (nI 12) x2)), σ)
theorem v_KX3_odds_181 {l : Launch} {G : vv_G} {d : Nat} {ad : Nat → Nat} {fo : Nat → Nat → vv_S → Option Int32} (hG : vv_gok G) (hH : vv_hy l G ad) (hfo : ∀ {a vs : Nat} {σ : vv_S} {r : Int32}, fo a vs σ = some r → vv_Form l G d a vs σ r) {x2 : Int32} {σ : vv_S} {r : Int32 × vv_S} (h : KX3_odds_181 fo x2 σ = some r) : vv_V l G MX3_odds (d + 3) 181 [(2, .int x2)] [] σ (.inl (some (.int r.1)), r.2) := by
  unfold KX3_odds_181 at h
  refine vv_iconst (v := (nI 0)) dX3_odds_181 (by decide) ?_
  refine vv_bipush (v := (nI 12)) dX3_odds_182 (by decide) ?_
  refine vv_iload_n dX3_odds_184 rfl 0 rfl ?_
  refine vv_mmin q499 (by omega) (Nat.le_of_ble_eq_true rfl) dX3_odds_185 ?_
  refine vv_mmax q470 (by omega) (Nat.le_of_ble_eq_true rfl) dX3_odds_188 ?_
  cases h
  exact vv_iret rfl dX3_odds_191
def KX3_odds (fo : Nat → Nat → vv_S → Option Int32) (x0 : Nat) (x1 : Int32) (σ : vv_S) : Option (Int32 × vv_S) := (gR σ x0 2 0).bind fun v1 => (aI σ .int v1 x1).bind fun v2 => (dvI v2 (nI 10)).bind fun v3 => (gR σ x0 2 1).bind fun v5 => (aI σ .int v5 x1).bind fun v6 => (dvI v6 (nI 10)).bind fun v7 => (gR σ x0 2 11).bind fun v9 => (gR σ v9 0 1).bind fun v10 => (gV σ v10 1 4).bind fun v11 => (nlV v11).bind fun b12 => if b12 = true then (KX3_odds_181 fo (((nI 6) + v3) - v7) σ) else ((gR σ x0 2 11).bind fun v14 => (gR σ v14 0 0).bind fun v15 => (gR σ x0 2 0).bind fun v16 => (aI σ .int v16 x1).bind fun v17 => (sI σ v15 (nI 0) v17).bind fun σ18 => (gR σ18 x0 2 11).bind fun v19 => (gR σ18 v19 0 0).bind fun v20 => (gR σ18 x0 2 1).bind fun v21 => (aI σ18 .int v21 x1).bind fun v22 => (sI σ18 v20 (nI 1) v22).bind fun σ23 => (gR σ23 x0 2 11).bind fun v24 => (gR σ23 v24 0 0).bind fun v25 => (gR σ23 x0 2 11).bind fun v26 => (gR σ23 v26 0 1).bind fun v27 => (gR σ23 v27 1 1).bind fun v28 => (isO σ23 v28 11).bind fun _ => (KJ2_get v28 x1 σ23).bind fun r29 => (isO σ23 r29 12).bind fun _ => (isO σ23 r29 12).bind fun _ => (KJ14_intValue r29 σ23).bind fun r32 => (sI σ23 v25 (nI 2) r32).bind fun σ34 => (gR σ34 x0 2 11).bind fun v35 => (gR σ34 v35 0 0).bind fun v36 => (gR σ34 x0 2 11).bind fun v37 => (gR σ34 v37 0 1).bind fun v38 => (gR σ34 v38 1 0).bind fun v39 => (isO σ34 v39 11).bind fun _ => (KJ2_get v39 x1 σ34).bind fun r40 => (isO σ34 r40 12).bind fun _ => (isO σ34 r40 12).bind fun _ => (KJ14_intValue r40 σ34).bind fun r43 => (sI σ34 v36 (nI 3) r43).bind fun σ45 => (gR σ45 x0 2 11).bind fun v46 => (gR σ45 v46 0 0).bind fun v47 => (gI σ45 x0 2 9).bind fun v48 => (sI σ45 v47 (nI 4) v48).bind fun σ49 => (gR σ49 x0 2 11).bind fun v50 => (gR σ49 v50 0 0).bind fun v51 => (isO σ49 x0 2).bind fun _ => (KX3_lying x0 x1 σ49).bind fun r52 => (KJ14_bitCount r52).bind fun r54 => (sI σ49 v51 (nI 5) r54).bind fun σ55 => (gR σ55 x0 2 11).bind fun v56 => (gR σ55 v56 0 1).bind fun v57 => (gV σ55 v57 1 4).bind fun v58 => (gR σ55 x0 2 11).bind fun v59 => (gR σ55 v59 0 0).bind fun v60 => (asR v58).bind fun a62 => (fo a62 v60 σ55).bind fun r61 => KX3_odds_181 fo r61 σ55)
theorem v_KX3_odds_0 {l : Launch} {G : vv_G} {d : Nat} {ad : Nat → Nat} {fo : Nat → Nat → vv_S → Option Int32} (hG : vv_gok G) (hH : vv_hy l G ad) (hfo : ∀ {a vs : Nat} {σ : vv_S} {r : Int32}, fo a vs σ = some r → vv_Form l G d a vs σ r) {x0 : Nat} {x1 : Int32} {σ : vv_S} {r : Int32 × vv_S} (h : KX3_odds fo x0 x1 σ = some r) : vv_V l G MX3_odds (d + 3) 0 [(0, .ref x0), (1, .int x1)] [] σ (.inl (some (.int r.1)), r.2) := by
  unfold KX3_odds at h
  refine vv_bipush (v := (nI 6)) dX3_odds_0 (by decide) ?_
  refine vv_aload_n dX3_odds_2 rfl 0 rfl ?_
  replace h := gR_o h; obtain ⟨v1, fv1, sv1, ev1, lv1, h⟩ := h
  refine vv_get (fl_X3_15 hG) ev1 lv1 dX3_odds_3 ?_
  refine vv_iload_n dX3_odds_6 rfl 1 rfl ?_
  replace h := aI_o h; obtain ⟨v2, fv2, nv2, qv2, ev2, iv2, wv2, h⟩ := h
  refine vv_iald ev2 iv2 dX3_odds_7 ?_
  rw [wv2]
  refine vv_bipush (v := (nI 10)) dX3_odds_8 (by decide) ?_
  replace h := dv_o h; obtain ⟨hz4, h⟩ := h
  refine vv_idiv dX3_odds_10 hz4 ?_
  obtain ⟨v3, ev3⟩ : ∃ z, z = (v2 / (nI 10)) := ⟨_, rfl⟩
  rw [← ev3] at h ⊢
  refine vv_iadd dX3_odds_11 ?_
  refine vv_aload_n dX3_odds_12 rfl 0 rfl ?_
  replace h := gR_o h; obtain ⟨v5, fv5, sv5, ev5, lv5, h⟩ := h
  refine vv_get (fl_X3_19 hG) ev5 lv5 dX3_odds_13 ?_
  refine vv_iload_n dX3_odds_16 rfl 1 rfl ?_
  replace h := aI_o h; obtain ⟨v6, fv6, nv6, qv6, ev6, iv6, wv6, h⟩ := h
  refine vv_iald ev6 iv6 dX3_odds_17 ?_
  rw [wv6]
  refine vv_bipush (v := (nI 10)) dX3_odds_18 (by decide) ?_
  replace h := dv_o h; obtain ⟨hz8, h⟩ := h
  refine vv_idiv dX3_odds_20 hz8 ?_
  obtain ⟨v7, ev7⟩ : ∃ z, z = (v6 / (nI 10)) := ⟨_, rfl⟩
  rw [← ev7] at h ⊢
  refine vv_isub dX3_odds_21 ?_
  refine vv_istore_n (lv' := [(0, .ref x0), (1, .int x1), (2, .int (((nI 6) + v3) - v7))]) dX3_odds_22 rfl (by decide) [1, 2, 0] rfl ?_
  refine vv_aload_n dX3_odds_23 rfl 0 rfl ?_
  replace h := gR_o h; obtain ⟨v9, fv9, sv9, ev9, lv9, h⟩ := h
  refine vv_get (fl_X3_3 hG) ev9 lv9 dX3_odds_24 ?_
  replace h := gR_o h; obtain ⟨v10, fv10, sv10, ev10, lv10, h⟩ := h
  refine vv_getM (fl_X3_54 hH) ev10 lv10 dX3_odds_27 ?_
  replace h := gV_o h; obtain ⟨v11, fv11, sv11, ev11, lv11, h⟩ := h
  refine vv_getM (fl_X3_67 hH) ev11 lv11 dX3_odds_30 ?_
  replace h := nl_o h
  rcases h with ⟨nb12, h⟩ | ⟨a13, nb12, h⟩
  · subst nb12
    rw [if_pos rfl] at h
    refine vv_ifnullN (tgt := 181) dX3_odds_33 (by decide) ?_
    refine vv_sub (lv' := [(2, .int (((nI 6) + v3) - v7))]) [2] rfl ?_
    exact v_KX3_odds_181 hG hH hfo h
  · subst nb12
    rw [if_neg (by decide)] at h
    refine vv_ifnull dX3_odds_33 ?_
    refine vv_aload_n dX3_odds_36 rfl 0 rfl ?_
    replace h := gR_o h; obtain ⟨v14, fv14, sv14, ev14, lv14, h⟩ := h
    refine vv_get (fl_X3_3 hG) ev14 lv14 dX3_odds_37 ?_
    replace h := gR_o h; obtain ⟨v15, fv15, sv15, ev15, lv15, h⟩ := h
    refine vv_getM (fl_X3_71 hH) ev15 lv15 dX3_odds_40 ?_
    refine vv_iconst (v := (nI 0)) dX3_odds_43 (by decide) ?_
    refine vv_aload_n dX3_odds_44 rfl 0 rfl ?_
    replace h := gR_o h; obtain ⟨v16, fv16, sv16, ev16, lv16, h⟩ := h
    refine vv_get (fl_X3_15 hG) ev16 lv16 dX3_odds_45 ?_
    refine vv_iload_n dX3_odds_48 rfl 1 rfl ?_
    replace h := aI_o h; obtain ⟨v17, fv17, nv17, qv17, ev17, iv17, wv17, h⟩ := h
    refine vv_iald ev17 iv17 dX3_odds_49 ?_
    rw [wv17]
    replace h := sI_o h; obtain ⟨σ18, nσ18, qσ18, eσ18, iσ18, uσ18, h⟩ := h
    refine vv_iast eσ18 iσ18 dX3_odds_50 ?_
    rw [← uσ18]
    refine vv_aload_n dX3_odds_51 rfl 0 rfl ?_
    replace h := gR_o h; obtain ⟨v19, fv19, sv19, ev19, lv19, h⟩ := h
    refine vv_get (fl_X3_3 hG) ev19 lv19 dX3_odds_52 ?_
    replace h := gR_o h; obtain ⟨v20, fv20, sv20, ev20, lv20, h⟩ := h
    refine vv_getM (fl_X3_71 hH) ev20 lv20 dX3_odds_55 ?_
    refine vv_iconst (v := (nI 1)) dX3_odds_58 (by decide) ?_
    refine vv_aload_n dX3_odds_59 rfl 0 rfl ?_
    replace h := gR_o h; obtain ⟨v21, fv21, sv21, ev21, lv21, h⟩ := h
    refine vv_get (fl_X3_19 hG) ev21 lv21 dX3_odds_60 ?_
    refine vv_iload_n dX3_odds_63 rfl 1 rfl ?_
    replace h := aI_o h; obtain ⟨v22, fv22, nv22, qv22, ev22, iv22, wv22, h⟩ := h
    refine vv_iald ev22 iv22 dX3_odds_64 ?_
    rw [wv22]
    replace h := sI_o h; obtain ⟨σ23, nσ23, qσ23, eσ23, iσ23, uσ23, h⟩ := h
    refine vv_iast eσ23 iσ23 dX3_odds_65 ?_
    rw [← uσ23]
    refine vv_aload_n dX3_odds_66 rfl 0 rfl ?_
    replace h := gR_o h; obtain ⟨v24, fv24, sv24, ev24, lv24, h⟩ := h
    refine vv_get (fl_X3_3 hG) ev24 lv24 dX3_odds_67 ?_
    replace h := gR_o h; obtain ⟨v25, fv25, sv25, ev25, lv25, h⟩ := h
    refine vv_getM (fl_X3_71 hH) ev25 lv25 dX3_odds_70 ?_
    refine vv_iconst (v := (nI 2)) dX3_odds_73 (by decide) ?_
    refine vv_aload_n dX3_odds_74 rfl 0 rfl ?_
    replace h := gR_o h; obtain ⟨v26, fv26, sv26, ev26, lv26, h⟩ := h
    refine vv_get (fl_X3_3 hG) ev26 lv26 dX3_odds_75 ?_
    replace h := gR_o h; obtain ⟨v27, fv27, sv27, ev27, lv27, h⟩ := h
    refine vv_getM (fl_X3_54 hH) ev27 lv27 dX3_odds_78 ?_
    replace h := gR_o h; obtain ⟨v28, fv28, sv28, ev28, lv28, h⟩ := h
    refine vv_getM (fl_X3_74 hH) ev28 lv28 dX3_odds_81 ?_
    refine vv_iload_n dX3_odds_84 rfl 1 rfl ?_
    replace h := isO_o h; obtain ⟨fz30, sz30, ez30, h⟩ := h
    replace h := bd_o h; obtain ⟨r29, er29, h⟩ := h
    refine vv_callF (xx := ⟨"java/util/List", "get", "(I)Ljava/lang/Object;"⟩) okf_J2_get q478 (m_KJ2_get hG hH er29 d) rfl (by omega) ⟨_, _, _, _, _, ez30, by rw [hG.1]; rfl⟩ q481 (fun U hK => hH.1.2.2.1 U hK _ (List.mem_of_getElem? (i := 3) rfl)) ⟨by decide, by decide, by decide +kernel⟩ rfl rfl (Nat.le_of_ble_eq_true rfl) dX3_odds_85 ?_
    replace h := isO_o h; obtain ⟨fz31, sz31, ez31, h⟩ := h
    refine vv_cast ez31 ⟨_, _, by rw [hG.1]; rfl⟩ q490 (Or.inl rfl) dX3_odds_90 ?_
    replace h := isO_o h; obtain ⟨fz33, sz33, ez33, h⟩ := h
    replace h := bd_o h; obtain ⟨r32, er32, h⟩ := h
    refine vv_callV ok_J14_intValue q491 (m_KJ14_intValue hG hH er32 d) rfl (by omega) ⟨_, _, _, _, _, ez33, by rw [hG.1]; rfl⟩ rfl rfl (Nat.le_of_ble_eq_true rfl) dX3_odds_93 ?_
    replace h := sI_o h; obtain ⟨σ34, nσ34, qσ34, eσ34, iσ34, uσ34, h⟩ := h
    refine vv_iast eσ34 iσ34 dX3_odds_96 ?_
    rw [← uσ34]
    refine vv_aload_n dX3_odds_97 rfl 0 rfl ?_
    replace h := gR_o h; obtain ⟨v35, fv35, sv35, ev35, lv35, h⟩ := h
    refine vv_get (fl_X3_3 hG) ev35 lv35 dX3_odds_98 ?_
    replace h := gR_o h; obtain ⟨v36, fv36, sv36, ev36, lv36, h⟩ := h
    refine vv_getM (fl_X3_71 hH) ev36 lv36 dX3_odds_101 ?_
    refine vv_iconst (v := (nI 3)) dX3_odds_104 (by decide) ?_
    refine vv_aload_n dX3_odds_105 rfl 0 rfl ?_
    replace h := gR_o h; obtain ⟨v37, fv37, sv37, ev37, lv37, h⟩ := h
    refine vv_get (fl_X3_3 hG) ev37 lv37 dX3_odds_106 ?_
    replace h := gR_o h; obtain ⟨v38, fv38, sv38, ev38, lv38, h⟩ := h
    refine vv_getM (fl_X3_54 hH) ev38 lv38 dX3_odds_109 ?_
    replace h := gR_o h; obtain ⟨v39, fv39, sv39, ev39, lv39, h⟩ := h
    refine vv_getM (fl_X3_90 hH) ev39 lv39 dX3_odds_112 ?_
    refine vv_iload_n dX3_odds_115 rfl 1 rfl ?_
    replace h := isO_o h; obtain ⟨fz41, sz41, ez41, h⟩ := h
    replace h := bd_o h; obtain ⟨r40, er40, h⟩ := h
    refine vv_callF (xx := ⟨"java/util/List", "get", "(I)Ljava/lang/Object;"⟩) okf_J2_get q478 (m_KJ2_get hG hH er40 d) rfl (by omega) ⟨_, _, _, _, _, ez41, by rw [hG.1]; rfl⟩ q481 (fun U hK => hH.1.2.2.1 U hK _ (List.mem_of_getElem? (i := 3) rfl)) ⟨by decide, by decide, by decide +kernel⟩ rfl rfl (Nat.le_of_ble_eq_true rfl) dX3_odds_116 ?_
    replace h := isO_o h; obtain ⟨fz42, sz42, ez42, h⟩ := h
    refine vv_cast ez42 ⟨_, _, by rw [hG.1]; rfl⟩ q490 (Or.inl rfl) dX3_odds_121 ?_
    replace h := isO_o h; obtain ⟨fz44, sz44, ez44, h⟩ := h
    replace h := bd_o h; obtain ⟨r43, er43, h⟩ := h
    refine vv_callV ok_J14_intValue q491 (m_KJ14_intValue hG hH er43 d) rfl (by omega) ⟨_, _, _, _, _, ez44, by rw [hG.1]; rfl⟩ rfl rfl (Nat.le_of_ble_eq_true rfl) dX3_odds_124 ?_
    replace h := sI_o h; obtain ⟨σ45, nσ45, qσ45, eσ45, iσ45, uσ45, h⟩ := h
    refine vv_iast eσ45 iσ45 dX3_odds_127 ?_
    rw [← uσ45]
    refine vv_aload_n dX3_odds_128 rfl 0 rfl ?_
    replace h := gR_o h; obtain ⟨v46, fv46, sv46, ev46, lv46, h⟩ := h
    refine vv_get (fl_X3_3 hG) ev46 lv46 dX3_odds_129 ?_
    replace h := gR_o h; obtain ⟨v47, fv47, sv47, ev47, lv47, h⟩ := h
    refine vv_getM (fl_X3_71 hH) ev47 lv47 dX3_odds_132 ?_
    refine vv_iconst (v := (nI 4)) dX3_odds_135 (by decide) ?_
    refine vv_aload_n dX3_odds_136 rfl 0 rfl ?_
    replace h := gI_o h; obtain ⟨v48, fv48, sv48, ev48, lv48, h⟩ := h
    refine vv_get (fl_X3_43 hG) ev48 lv48 dX3_odds_137 ?_
    replace h := sI_o h; obtain ⟨σ49, nσ49, qσ49, eσ49, iσ49, uσ49, h⟩ := h
    refine vv_iast eσ49 iσ49 dX3_odds_140 ?_
    rw [← uσ49]
    refine vv_aload_n dX3_odds_141 rfl 0 rfl ?_
    replace h := gR_o h; obtain ⟨v50, fv50, sv50, ev50, lv50, h⟩ := h
    refine vv_get (fl_X3_3 hG) ev50 lv50 dX3_odds_142 ?_
    replace h := gR_o h; obtain ⟨v51, fv51, sv51, ev51, lv51, h⟩ := h
    refine vv_getM (fl_X3_71 hH) ev51 lv51 dX3_odds_145 ?_
    refine vv_iconst (v := (nI 5)) dX3_odds_148 (by decide) ?_
    refine vv_aload_n dX3_odds_149 rfl 0 rfl ?_
    refine vv_iload_n dX3_odds_150 rfl 1 rfl ?_
    replace h := isO_o h; obtain ⟨fz53, sz53, ez53, h⟩ := h
    replace h := bd_o h; obtain ⟨r52, er52, h⟩ := h
    refine vv_callV ok_X3_lying q509 (m_KX3_lying hG hH er52 d) rfl (by omega) ⟨_, _, _, _, _, ez53, by rw [hG.1]; rfl⟩ rfl rfl (Nat.le_of_ble_eq_true rfl) dX3_odds_151 ?_
    replace h := bd_o h; obtain ⟨r54, er54, h⟩ := h
    refine vv_callS ok_J14_bitCount q517 (m_KJ14_bitCount hG hH er54 d) rfl (by omega) rfl rfl (Nat.le_of_ble_eq_true rfl) dX3_odds_154 ?_
    replace h := sI_o h; obtain ⟨σ55, nσ55, qσ55, eσ55, iσ55, uσ55, h⟩ := h
    refine vv_iast eσ55 iσ55 dX3_odds_157 ?_
    rw [← uσ55]
    refine vv_aload_n dX3_odds_158 rfl 0 rfl ?_
    replace h := gR_o h; obtain ⟨v56, fv56, sv56, ev56, lv56, h⟩ := h
    refine vv_get (fl_X3_3 hG) ev56 lv56 dX3_odds_159 ?_
    replace h := gR_o h; obtain ⟨v57, fv57, sv57, ev57, lv57, h⟩ := h
    refine vv_getM (fl_X3_54 hH) ev57 lv57 dX3_odds_162 ?_
    replace h := gV_o h; obtain ⟨v58, fv58, sv58, ev58, lv58, h⟩ := h
    refine vv_getM (fl_X3_67 hH) ev58 lv58 dX3_odds_165 ?_
    refine vv_aload_n dX3_odds_168 rfl 0 rfl ?_
    replace h := gR_o h; obtain ⟨v59, fv59, sv59, ev59, lv59, h⟩ := h
    refine vv_get (fl_X3_3 hG) ev59 lv59 dX3_odds_169 ?_
    replace h := gR_o h; obtain ⟨v60, fv60, sv60, ev60, lv60, h⟩ := h
    refine vv_getM (fl_X3_71 hH) ev60 lv60 dX3_odds_172 ?_
    replace h := asR_o h
    obtain ⟨a62, na62, h⟩ := h
    subst na62
    replace h := bd_o h; obtain ⟨r61, er61, h⟩ := h
    refine vv_callform (hfo er61) q524 (by omega) rfl (Nat.le_of_ble_eq_true rfl) dX3_odds_175 ?_
    refine vv_istore_n (lv' := [(0, .ref x0), (1, .int x1), (2, .int r61)]) dX3_odds_180 rfl (by decide) [1, 2, 0] rfl ?_
    refine vv_sub (lv' := [(2, .int r61)]) [2] rfl ?_
    exact v_KX3_odds_181 hG hH hfo h
theorem m_KX3_odds {l : Launch} {G : vv_G} {d : Nat} {ad : Nat → Nat} {fo : Nat → Nat → vv_S → Option Int32} (hG : vv_gok G) (hH : vv_hy l G ad) (hfo : ∀ {a vs : Nat} {σ : vv_S} {r : Int32}, fo a vs σ = some r → vv_Form l G d a vs σ r) {x0 : Nat} {x1 : Int32} {σ : vv_S} {r : Int32 × vv_S} (h : KX3_odds fo x0 x1 σ = some r) (d9 : Nat) (e9 : d9 = d := by rfl) : vv_Met l G MX3_odds (d9 + 3) [.ref x0, .int x1] σ (.inl (some (.int r.1)), r.2) := by
  subst e9
  exact vv_head (by decide +kernel) rfl (Nat.le_of_ble_eq_true rfl) rfl (v_KX3_odds_0 hG hH hfo h)
/-! ('X3', 'fares') -/
def KX3_fares_75 (x0 : Nat) (x1 : Int32) (σ : vv_S) : Option vv_S := (gR σ x0 2 0).bind fun v1 => (aI σ .int v1 x1).bind fun v2 => (gR σ x0 2 1).bind fun v3 => (aI σ .int v3 x1).bind fun v4 => (gR σ x0 2 0).bind fun v5 => (aI σ .int v5 x1).bind fun v6 => (sI σ v5 x1 (v6 - (mnI v2 v4))).bind fun σ7 => (gR σ7 x0 2 1).bind fun v8 => (aI σ7 .int v8 x1).bind fun v9 => (sI σ7 v8 x1 (v9 - (mnI v2 v4))).bind fun σ10 => some σ10
theorem v_KX3_fares_75 {l : Launch} {G : vv_G} {d : Nat} {ad : Nat → Nat} (hG : vv_gok G) (hH : vv_hy l G ad) {x0 : Nat} {x1 : Int32} {σ : vv_S} {r : vv_S} (h : KX3_fares_75 x0 x1 σ = some r) : vv_V l G MX3_fares (d + 3) 75 [(0, .ref x0), (1, .int x1)] [] σ (.inl none, r) := by
  unfold KX3_fares_75 at h
  refine vv_aload_n dX3_fares_75 rfl 0 rfl ?_
  replace h := gR_o h; obtain ⟨v1, fv1, sv1, ev1, lv1, h⟩ := h
  refine vv_get (fl_X3_15 hG) ev1 lv1 dX3_fares_76 ?_
  refine vv_iload_n dX3_fares_79 rfl 1 rfl ?_
  replace h := aI_o h; obtain ⟨v2, fv2, nv2, qv2, ev2, iv2, wv2, h⟩ := h
  refine vv_iald ev2 iv2 dX3_fares_80 ?_
  rw [wv2]
  refine vv_aload_n dX3_fares_81 rfl 0 rfl ?_
  replace h := gR_o h; obtain ⟨v3, fv3, sv3, ev3, lv3, h⟩ := h
  refine vv_get (fl_X3_19 hG) ev3 lv3 dX3_fares_82 ?_
  refine vv_iload_n dX3_fares_85 rfl 1 rfl ?_
  replace h := aI_o h; obtain ⟨v4, fv4, nv4, qv4, ev4, iv4, wv4, h⟩ := h
  refine vv_iald ev4 iv4 dX3_fares_86 ?_
  rw [wv4]
  refine vv_mmin q499 (by omega) (Nat.le_of_ble_eq_true rfl) dX3_fares_87 ?_
  refine vv_istore (lv' := [(0, .ref x0), (1, .int x1), (4, .int (mnI v2 v4))]) dX3_fares_90 (by decide) [1, 2, 0] rfl ?_
  refine vv_aload_n dX3_fares_92 rfl 0 rfl ?_
  replace h := gR_o h; obtain ⟨v5, fv5, sv5, ev5, lv5, h⟩ := h
  refine vv_get (fl_X3_15 hG) ev5 lv5 dX3_fares_93 ?_
  refine vv_iload_n dX3_fares_96 rfl 1 rfl ?_
  refine vv_dup2 dX3_fares_97 rfl rfl ?_
  replace h := aI_o h; obtain ⟨v6, fv6, nv6, qv6, ev6, iv6, wv6, h⟩ := h
  refine vv_iald ev6 iv6 dX3_fares_98 ?_
  rw [wv6]
  refine vv_iload dX3_fares_99 2 rfl ?_
  refine vv_isub dX3_fares_101 ?_
  replace h := sI_o h; obtain ⟨σ7, nσ7, qσ7, eσ7, iσ7, uσ7, h⟩ := h
  refine vv_iast eσ7 iσ7 dX3_fares_102 ?_
  rw [← uσ7]
  refine vv_aload_n dX3_fares_103 rfl 0 rfl ?_
  replace h := gR_o h; obtain ⟨v8, fv8, sv8, ev8, lv8, h⟩ := h
  refine vv_get (fl_X3_19 hG) ev8 lv8 dX3_fares_104 ?_
  refine vv_iload_n dX3_fares_107 rfl 1 rfl ?_
  refine vv_dup2 dX3_fares_108 rfl rfl ?_
  replace h := aI_o h; obtain ⟨v9, fv9, nv9, qv9, ev9, iv9, wv9, h⟩ := h
  refine vv_iald ev9 iv9 dX3_fares_109 ?_
  rw [wv9]
  refine vv_iload dX3_fares_110 2 rfl ?_
  refine vv_isub dX3_fares_112 ?_
  replace h := sI_o h; obtain ⟨σ10, nσ10, qσ10, eσ10, iσ10, uσ10, h⟩ := h
  refine vv_iast eσ10 iσ10 dX3_fares_113 ?_
  rw [← uσ10]
  cases h
  exact vv_vret rfl dX3_fares_114
def KX3_fares_40 (s0 : Nat) (s1 : Int32) (s2 : Int32) (s3 : Int32) (x0 : Nat) (x1 : Int32) (x2 : Int32) (x3 : Int32) (σ : vv_S) : Option vv_S := (sI σ s0 s1 (s2 + s3)).bind fun σ1 => if x2 = 0 then ((dvI x3 (nI 2)).bind fun v3 => (isO σ1 x0 2).bind fun _ => (KX3_give x0 x1 v3 σ1).bind fun r5 => KX3_fares_75 x0 x1 r5) else ((gR σ1 x0 2 0).bind fun v7 => (gR σ1 x0 2 0).bind fun v8 => (aI σ1 .int v8 x1).bind fun v9 => (sI σ1 v7 x1 (mxI (nI 0) (v9 - x3))).bind fun σ10 => KX3_fares_75 x0 x1 σ10)
theorem v_KX3_fares_40 {l : Launch} {G : vv_G} {d : Nat} {ad : Nat → Nat} (hG : vv_gok G) (hH : vv_hy l G ad) {s0 : Nat} {s1 : Int32} {s2 : Int32} {s3 : Int32} {x0 : Nat} {x1 : Int32} {x2 : Int32} {x3 : Int32} {σ : vv_S} {r : vv_S} (h : KX3_fares_40 s0 s1 s2 s3 x0 x1 x2 x3 σ = some r) : vv_V l G MX3_fares (d + 3) 40 [(0, .ref x0), (1, .int x1), (2, .int x2), (3, .int x3)] [.int s3, .int s2, .int s1, .ref s0] σ (.inl none, r) := by
  unfold KX3_fares_40 at h
  refine vv_iadd dX3_fares_40 ?_
  replace h := sI_o h; obtain ⟨σ1, nσ1, qσ1, eσ1, iσ1, uσ1, h⟩ := h
  refine vv_iast eσ1 iσ1 dX3_fares_41 ?_
  rw [← uσ1]
  refine vv_iload_n dX3_fares_42 rfl 2 rfl ?_
  refine vv_if_eq (tgt := 67) dX3_fares_43 (by decide) (fun c2 => ?_) (fun c2 => ?_)
  · rw [if_pos c2] at h
    refine vv_aload_n dX3_fares_67 rfl 0 rfl ?_
    refine vv_iload_n dX3_fares_68 rfl 1 rfl ?_
    refine vv_iload_n dX3_fares_69 rfl 3 rfl ?_
    refine vv_iconst (v := (nI 2)) dX3_fares_70 (by decide) ?_
    replace h := dv_o h; obtain ⟨hz4, h⟩ := h
    refine vv_idiv dX3_fares_71 hz4 ?_
    obtain ⟨v3, ev3⟩ : ∃ z, z = (x3 / (nI 2)) := ⟨_, rfl⟩
    rw [← ev3] at h ⊢
    replace h := isO_o h; obtain ⟨fz6, sz6, ez6, h⟩ := h
    replace h := bd_o h; obtain ⟨r5, er5, h⟩ := h
    refine vv_callV ok_X3_give q495 (m_KX3_give hG hH er5 d) rfl (by omega) ⟨_, _, _, _, _, ez6, by rw [hG.1]; rfl⟩ rfl rfl (Nat.le_of_ble_eq_true rfl) dX3_fares_72 ?_
    refine vv_sub (lv' := [(0, .ref x0), (1, .int x1)]) [0, 1] rfl ?_
    exact v_KX3_fares_75 hG hH h
  · rw [if_neg c2] at h
    refine vv_aload_n dX3_fares_46 rfl 0 rfl ?_
    replace h := gR_o h; obtain ⟨v7, fv7, sv7, ev7, lv7, h⟩ := h
    refine vv_get (fl_X3_15 hG) ev7 lv7 dX3_fares_47 ?_
    refine vv_iload_n dX3_fares_50 rfl 1 rfl ?_
    refine vv_iconst (v := (nI 0)) dX3_fares_51 (by decide) ?_
    refine vv_aload_n dX3_fares_52 rfl 0 rfl ?_
    replace h := gR_o h; obtain ⟨v8, fv8, sv8, ev8, lv8, h⟩ := h
    refine vv_get (fl_X3_15 hG) ev8 lv8 dX3_fares_53 ?_
    refine vv_iload_n dX3_fares_56 rfl 1 rfl ?_
    replace h := aI_o h; obtain ⟨v9, fv9, nv9, qv9, ev9, iv9, wv9, h⟩ := h
    refine vv_iald ev9 iv9 dX3_fares_57 ?_
    rw [wv9]
    refine vv_iload_n dX3_fares_58 rfl 3 rfl ?_
    refine vv_isub dX3_fares_59 ?_
    refine vv_mmax q470 (by omega) (Nat.le_of_ble_eq_true rfl) dX3_fares_60 ?_
    replace h := sI_o h; obtain ⟨σ10, nσ10, qσ10, eσ10, iσ10, uσ10, h⟩ := h
    refine vv_iast eσ10 iσ10 dX3_fares_63 ?_
    rw [← uσ10]
    refine vv_goto (tgt := 75) dX3_fares_64 (by decide) ?_
    refine vv_sub (lv' := [(0, .ref x0), (1, .int x1)]) [0, 1] rfl ?_
    exact v_KX3_fares_75 hG hH h
def KX3_fares (x0 : Nat) (x1 : Int32) (x2 : Int32) (σ : vv_S) : Option vv_S := (gR σ x0 2 11).bind fun v1 => (gR σ v1 0 1).bind fun v2 => (gR σ v2 1 1).bind fun v3 => (isO σ v3 11).bind fun _ => (KJ2_get v3 x1 σ).bind fun r4 => (isO σ r4 12).bind fun _ => (isO σ r4 12).bind fun _ => (KJ14_intValue r4 σ).bind fun r7 => (gR σ x0 2 2).bind fun v9 => (aI σ .int v9 x1).bind fun v10 => if x2 = 0 then (KX3_fares_40 v9 x1 v10 (-r7) x0 x1 x2 r7 σ) else (KX3_fares_40 v9 x1 v10 r7 x0 x1 x2 r7 σ)
theorem v_KX3_fares_0 {l : Launch} {G : vv_G} {d : Nat} {ad : Nat → Nat} (hG : vv_gok G) (hH : vv_hy l G ad) {x0 : Nat} {x1 : Int32} {x2 : Int32} {σ : vv_S} {r : vv_S} (h : KX3_fares x0 x1 x2 σ = some r) : vv_V l G MX3_fares (d + 3) 0 [(0, .ref x0), (1, .int x1), (2, .int x2)] [] σ (.inl none, r) := by
  unfold KX3_fares at h
  refine vv_aload_n dX3_fares_0 rfl 0 rfl ?_
  replace h := gR_o h; obtain ⟨v1, fv1, sv1, ev1, lv1, h⟩ := h
  refine vv_get (fl_X3_3 hG) ev1 lv1 dX3_fares_1 ?_
  replace h := gR_o h; obtain ⟨v2, fv2, sv2, ev2, lv2, h⟩ := h
  refine vv_getM (fl_X3_54 hH) ev2 lv2 dX3_fares_4 ?_
  replace h := gR_o h; obtain ⟨v3, fv3, sv3, ev3, lv3, h⟩ := h
  refine vv_getM (fl_X3_74 hH) ev3 lv3 dX3_fares_7 ?_
  refine vv_iload_n dX3_fares_10 rfl 1 rfl ?_
  replace h := isO_o h; obtain ⟨fz5, sz5, ez5, h⟩ := h
  replace h := bd_o h; obtain ⟨r4, er4, h⟩ := h
  refine vv_callF (xx := ⟨"java/util/List", "get", "(I)Ljava/lang/Object;"⟩) okf_J2_get q478 (m_KJ2_get hG hH er4 d) rfl (by omega) ⟨_, _, _, _, _, ez5, by rw [hG.1]; rfl⟩ q481 (fun U hK => hH.1.2.2.1 U hK _ (List.mem_of_getElem? (i := 3) rfl)) ⟨by decide, by decide, by decide +kernel⟩ rfl rfl (Nat.le_of_ble_eq_true rfl) dX3_fares_11 ?_
  replace h := isO_o h; obtain ⟨fz6, sz6, ez6, h⟩ := h
  refine vv_cast ez6 ⟨_, _, by rw [hG.1]; rfl⟩ q490 (Or.inl rfl) dX3_fares_16 ?_
  replace h := isO_o h; obtain ⟨fz8, sz8, ez8, h⟩ := h
  replace h := bd_o h; obtain ⟨r7, er7, h⟩ := h
  refine vv_callV ok_J14_intValue q491 (m_KJ14_intValue hG hH er7 d) rfl (by omega) ⟨_, _, _, _, _, ez8, by rw [hG.1]; rfl⟩ rfl rfl (Nat.le_of_ble_eq_true rfl) dX3_fares_19 ?_
  refine vv_istore_n (lv' := [(0, .ref x0), (1, .int x1), (2, .int x2), (3, .int r7)]) dX3_fares_22 rfl (by decide) [1, 2, 3, 0] rfl ?_
  refine vv_aload_n dX3_fares_23 rfl 0 rfl ?_
  replace h := gR_o h; obtain ⟨v9, fv9, sv9, ev9, lv9, h⟩ := h
  refine vv_get (fl_X3_22 hG) ev9 lv9 dX3_fares_24 ?_
  refine vv_iload_n dX3_fares_27 rfl 1 rfl ?_
  refine vv_dup2 dX3_fares_28 rfl rfl ?_
  replace h := aI_o h; obtain ⟨v10, fv10, nv10, qv10, ev10, iv10, wv10, h⟩ := h
  refine vv_iald ev10 iv10 dX3_fares_29 ?_
  rw [wv10]
  refine vv_iload_n dX3_fares_30 rfl 2 rfl ?_
  refine vv_if_eq (tgt := 38) dX3_fares_31 (by decide) (fun c11 => ?_) (fun c11 => ?_)
  · rw [if_pos c11] at h
    refine vv_iload_n dX3_fares_38 rfl 3 rfl ?_
    refine vv_ineg dX3_fares_39 ?_
    exact v_KX3_fares_40 hG hH h
  · rw [if_neg c11] at h
    refine vv_iload_n dX3_fares_34 rfl 3 rfl ?_
    refine vv_goto (tgt := 40) dX3_fares_35 (by decide) ?_
    exact v_KX3_fares_40 hG hH h
theorem m_KX3_fares {l : Launch} {G : vv_G} {ad : Nat → Nat} (hG : vv_gok G) (hH : vv_hy l G ad) {x0 : Nat} {x1 : Int32} {x2 : Int32} {σ : vv_S} {r : vv_S} (h : KX3_fares x0 x1 x2 σ = some r) (d : Nat) : vv_Met l G MX3_fares (d + 3) [.ref x0, .int x1, .int x2] σ (.inl none, r) := vv_head (by decide +kernel) rfl (Nat.le_of_ble_eq_true rfl) rfl (v_KX3_fares_0 hG hH h)
/-! ('X3', 'pass') -/
def KX3_pass_144 (fo : Nat → Nat → vv_S → Option Int32) (k42 : Nat → Int32 → Int32 → vv_S → Option (Nat × vv_S)) (x0 : Nat) (x1 : Int32) (x2 : Int32) (x3 : Int32) (σ : vv_S) : Option (Nat × vv_S) := (isO σ x0 2).bind fun _ => (KX3_fares x0 x2 x3 σ).bind fun r1 => k42 x0 x1 (x2 + (nI 1)) r1
theorem v_KX3_pass_144 {l : Launch} {G : vv_G} {d : Nat} {ad : Nat → Nat} {fo : Nat → Nat → vv_S → Option Int32} (hG : vv_gok G) (hH : vv_hy l G ad) (hfo : ∀ {a vs : Nat} {σ : vv_S} {r : Int32}, fo a vs σ = some r → vv_Form l G d a vs σ r) {k42 : Nat → Int32 → Int32 → vv_S → Option (Nat × vv_S)} (hk42 : ∀ {x0 : Nat} {x1 : Int32} {x2 : Int32} {σ : vv_S} {r : Nat × vv_S}, k42 x0 x1 x2 σ = some r → vv_V l G MX3_pass (d + 4) 42 [(0, .ref x0), (1, .int x1), (2, .int x2)] [] σ (.inl (some (.ref r.1)), r.2)) {x0 : Nat} {x1 : Int32} {x2 : Int32} {x3 : Int32} {σ : vv_S} {r : Nat × vv_S} (h : KX3_pass_144 fo k42 x0 x1 x2 x3 σ = some r) : vv_V l G MX3_pass (d + 4) 144 [(0, .ref x0), (1, .int x1), (2, .int x2), (3, .int x3)] [] σ (.inl (some (.ref r.1)), r.2) := by
  unfold KX3_pass_144 at h
  refine vv_aload_n dX3_pass_144 rfl 0 rfl ?_
  refine vv_iload_n dX3_pass_145 rfl 2 rfl ?_
  refine vv_iload_n dX3_pass_146 rfl 3 rfl ?_
  replace h := isO_o h; obtain ⟨fz2, sz2, ez2, h⟩ := h
  replace h := bd_o h; obtain ⟨r1, er1, h⟩ := h
  refine vv_callV ok_X3_fares q590 (m_KX3_fares hG hH er1 d) rfl (by omega) ⟨_, _, _, _, _, ez2, by rw [hG.1]; rfl⟩ rfl rfl (Nat.le_of_ble_eq_true rfl) dX3_pass_147 ?_
  refine vv_iinc (v := (x2 + (nI 1))) (lv' := [(0, .ref x0), (1, .int x1), (2, .int (x2 + (nI 1))), (3, .int x3)]) dX3_pass_150 2 rfl rfl (by decide) [1, 2, 0, 3] rfl ?_
  refine vv_goto (tgt := 42) dX3_pass_153 (by decide) ?_
  refine vv_sub (lv' := [(0, .ref x0), (1, .int x1), (2, .int (x2 + (nI 1)))]) [0, 1, 2] rfl ?_
  exact hk42 h
def KX3_pass_127 (fo : Nat → Nat → vv_S → Option Int32) (k42 : Nat → Int32 → Int32 → vv_S → Option (Nat × vv_S)) (s0 : Int32) (x0 : Nat) (x1 : Int32) (x2 : Int32) (σ : vv_S) : Option (Nat × vv_S) := if s0 = 0 then ((gI σ x0 2 10).bind fun v2 => (pF σ x0 2 10 (.int (v2 ||| ((nI 1) <<< (x2 &&& 31))))).bind fun σ3 => KX3_pass_144 fo k42 x0 x1 x2 s0 σ3) else (KX3_pass_144 fo k42 x0 x1 x2 s0 σ)
theorem v_KX3_pass_127 {l : Launch} {G : vv_G} {d : Nat} {ad : Nat → Nat} {fo : Nat → Nat → vv_S → Option Int32} (hG : vv_gok G) (hH : vv_hy l G ad) (hfo : ∀ {a vs : Nat} {σ : vv_S} {r : Int32}, fo a vs σ = some r → vv_Form l G d a vs σ r) {k42 : Nat → Int32 → Int32 → vv_S → Option (Nat × vv_S)} (hk42 : ∀ {x0 : Nat} {x1 : Int32} {x2 : Int32} {σ : vv_S} {r : Nat × vv_S}, k42 x0 x1 x2 σ = some r → vv_V l G MX3_pass (d + 4) 42 [(0, .ref x0), (1, .int x1), (2, .int x2)] [] σ (.inl (some (.ref r.1)), r.2)) {s0 : Int32} {x0 : Nat} {x1 : Int32} {x2 : Int32} {σ : vv_S} {r : Nat × vv_S} (h : KX3_pass_127 fo k42 s0 x0 x1 x2 σ = some r) : vv_V l G MX3_pass (d + 4) 127 [(0, .ref x0), (1, .int x1), (2, .int x2)] [.int s0] σ (.inl (some (.ref r.1)), r.2) := by
  unfold KX3_pass_127 at h
  refine vv_istore_n (lv' := [(0, .ref x0), (1, .int x1), (2, .int x2), (3, .int s0)]) dX3_pass_127 rfl (by decide) [1, 2, 3, 0] rfl ?_
  refine vv_iload_n dX3_pass_128 rfl 3 rfl ?_
  refine vv_if_ne (tgt := 144) dX3_pass_129 (by decide) (fun c1 => ?_) (fun c1 => ?_)
  · rw [if_neg c1] at h
    exact v_KX3_pass_144 hG hH hfo hk42 h
  · rw [if_pos c1] at h
    refine vv_aload_n dX3_pass_132 rfl 0 rfl ?_
    refine vv_dup dX3_pass_133 rfl ?_
    replace h := gI_o h; obtain ⟨v2, fv2, sv2, ev2, lv2, h⟩ := h
    refine vv_get (fl_X3_126 hG) ev2 lv2 dX3_pass_134 ?_
    refine vv_iconst (v := (nI 1)) dX3_pass_137 (by decide) ?_
    refine vv_iload_n dX3_pass_138 rfl 2 rfl ?_
    refine vv_ishl dX3_pass_139 ?_
    refine vv_ior dX3_pass_140 ?_
    replace h := pF_o h; obtain ⟨σ3, sσ3, eσ3, lσ3, uσ3, h⟩ := h
    refine vv_putf (pt_X3_126 hG) (Or.inr fun C T' N h9 => by rw [hG.1] at h9; cases h9; rfl) eσ3 rfl rfl lσ3 dX3_pass_141 ?_
    rw [← uσ3]
    exact v_KX3_pass_144 hG hH hfo hk42 h
def BKX3_pass_42 (fo : Nat → Nat → vv_S → Option Int32) (k42 : Nat → Int32 → Int32 → vv_S → Option (Nat × vv_S)) (x0 : Nat) (x1 : Int32) (x2 : Int32) (σ : vv_S) : Option (Nat × vv_S) := (gR σ x0 2 11).bind fun v1 => (gR σ v1 0 1).bind fun v2 => (isO σ v2 1).bind fun _ => (KX2_towns v2 σ).bind fun r3 => if r3 ≤ x2 then ((gI σ x0 2 9).bind fun v6 => (pF σ x0 2 9 (.int (v6 + (nI 1)))).bind fun σ7 => some (x0, σ7)) else ((gR σ x0 2 11).bind fun v8 => (gR σ v8 0 1).bind fun v9 => (gR σ v9 1 0).bind fun v10 => (isO σ v10 11).bind fun _ => (KJ2_get v10 x2 σ).bind fun r11 => (isO σ r11 12).bind fun _ => (isO σ r11 12).bind fun _ => (KJ14_intValue r11 σ).bind fun r14 => (isO σ x0 2).bind fun _ => (KX3_give x0 x2 r14 σ).bind fun r16 => if x1 = 0 then ((isO r16 x0 2).bind fun _ => (KX3_odds fo x0 x2 r16).bind fun r19 => if r19.1 < (nI 7) then (KX3_pass_127 fo k42 (nI 0) x0 x1 x2 r19.2) else (KX3_pass_127 fo k42 (nI 1) x0 x1 x2 r19.2)) else ((gR r16 x0 2 11).bind fun v22 => (isO r16 v22 0).bind fun _ => (KX1_draw v22 (nI 12) r16).bind fun r23 => (isO r23.2 x0 2).bind fun _ => (KX3_odds fo x0 x2 r23.2).bind fun r25 => if r25.1 ≤ r23.1 then (KX3_pass_127 fo k42 (nI 0) x0 x1 x2 r25.2) else (KX3_pass_127 fo k42 (nI 1) x0 x1 x2 r25.2)))
def KX3_pass_42 (fo : Nat → Nat → vv_S → Option Int32) : Nat → Nat → Int32 → Int32 → vv_S → Option (Nat × vv_S)
  | 0, _, _, _, _ => none
  | n + 1, x0, x1, x2, σ => BKX3_pass_42 fo (KX3_pass_42 fo n) x0 x1 x2 σ
theorem vb_KX3_pass_42 {l : Launch} {G : vv_G} {d : Nat} {ad : Nat → Nat} {fo : Nat → Nat → vv_S → Option Int32} (hG : vv_gok G) (hH : vv_hy l G ad) (hfo : ∀ {a vs : Nat} {σ : vv_S} {r : Int32}, fo a vs σ = some r → vv_Form l G d a vs σ r) {k42 : Nat → Int32 → Int32 → vv_S → Option (Nat × vv_S)} (hk42 : ∀ {x0 : Nat} {x1 : Int32} {x2 : Int32} {σ : vv_S} {r : Nat × vv_S}, k42 x0 x1 x2 σ = some r → vv_V l G MX3_pass (d + 4) 42 [(0, .ref x0), (1, .int x1), (2, .int x2)] [] σ (.inl (some (.ref r.1)), r.2)) {x0 : Nat} {x1 : Int32} {x2 : Int32} {σ : vv_S} {r : Nat × vv_S} (h : BKX3_pass_42 fo k42 x0 x1 x2 σ = some r) : vv_V l G MX3_pass (d + 4) 42 [(0, .ref x0), (1, .int x1), (2, .int x2)] [] σ (.inl (some (.ref r.1)), r.2) := by
  unfold BKX3_pass_42 at h
  refine vv_iload_n dX3_pass_42 rfl 2 rfl ?_
  refine vv_aload_n dX3_pass_43 rfl 0 rfl ?_
  replace h := gR_o h; obtain ⟨v1, fv1, sv1, ev1, lv1, h⟩ := h
  refine vv_get (fl_X3_3 hG) ev1 lv1 dX3_pass_44 ?_
  replace h := gR_o h; obtain ⟨v2, fv2, sv2, ev2, lv2, h⟩ := h
  refine vv_getM (fl_X3_54 hH) ev2 lv2 dX3_pass_47 ?_
  replace h := isO_o h; obtain ⟨fz4, sz4, ez4, h⟩ := h
  replace h := bd_o h; obtain ⟨r3, er3, h⟩ := h
  refine vv_callV ok_X2_towns q471 (m_KX2_towns hG hH er3 d) rfl (by omega) ⟨_, _, _, _, _, ez4, by rw [hG.1]; rfl⟩ rfl rfl (Nat.le_of_ble_eq_true rfl) dX3_pass_50 ?_
  refine vv_icmp_ge (tgt := 156) dX3_pass_53 (by decide) (fun c5 => ?_) (fun c5 => ?_)
  · rw [if_pos c5] at h
    refine vv_aload_n dX3_pass_156 rfl 0 rfl ?_
    refine vv_dup dX3_pass_157 rfl ?_
    replace h := gI_o h; obtain ⟨v6, fv6, sv6, ev6, lv6, h⟩ := h
    refine vv_get (fl_X3_43 hG) ev6 lv6 dX3_pass_158 ?_
    refine vv_iconst (v := (nI 1)) dX3_pass_161 (by decide) ?_
    refine vv_iadd dX3_pass_162 ?_
    replace h := pF_o h; obtain ⟨σ7, sσ7, eσ7, lσ7, uσ7, h⟩ := h
    refine vv_putf (pt_X3_43 hG) (Or.inr fun C T' N h9 => by rw [hG.1] at h9; cases h9; rfl) eσ7 rfl rfl lσ7 dX3_pass_163 ?_
    rw [← uσ7]
    refine vv_aload_n dX3_pass_166 rfl 0 rfl ?_
    cases h
    exact vv_aret rfl (by first | exact Or.inl ⟨_, rfl⟩ | exact Or.inr ⟨_, rfl⟩) (Or.inr ⟨_, rfl⟩) dX3_pass_167
  · rw [if_neg c5] at h
    refine vv_aload_n dX3_pass_56 rfl 0 rfl ?_
    refine vv_iload_n dX3_pass_57 rfl 2 rfl ?_
    refine vv_aload_n dX3_pass_58 rfl 0 rfl ?_
    replace h := gR_o h; obtain ⟨v8, fv8, sv8, ev8, lv8, h⟩ := h
    refine vv_get (fl_X3_3 hG) ev8 lv8 dX3_pass_59 ?_
    replace h := gR_o h; obtain ⟨v9, fv9, sv9, ev9, lv9, h⟩ := h
    refine vv_getM (fl_X3_54 hH) ev9 lv9 dX3_pass_62 ?_
    replace h := gR_o h; obtain ⟨v10, fv10, sv10, ev10, lv10, h⟩ := h
    refine vv_getM (fl_X3_90 hH) ev10 lv10 dX3_pass_65 ?_
    refine vv_iload_n dX3_pass_68 rfl 2 rfl ?_
    replace h := isO_o h; obtain ⟨fz12, sz12, ez12, h⟩ := h
    replace h := bd_o h; obtain ⟨r11, er11, h⟩ := h
    refine vv_callF (xx := ⟨"java/util/List", "get", "(I)Ljava/lang/Object;"⟩) okf_J2_get q478 (m_KJ2_get hG hH er11 d) rfl (by omega) ⟨_, _, _, _, _, ez12, by rw [hG.1]; rfl⟩ q481 (fun U hK => hH.1.2.2.1 U hK _ (List.mem_of_getElem? (i := 3) rfl)) ⟨by decide, by decide, by decide +kernel⟩ rfl rfl (Nat.le_of_ble_eq_true rfl) dX3_pass_69 ?_
    replace h := isO_o h; obtain ⟨fz13, sz13, ez13, h⟩ := h
    refine vv_cast ez13 ⟨_, _, by rw [hG.1]; rfl⟩ q490 (Or.inl rfl) dX3_pass_74 ?_
    replace h := isO_o h; obtain ⟨fz15, sz15, ez15, h⟩ := h
    replace h := bd_o h; obtain ⟨r14, er14, h⟩ := h
    refine vv_callV ok_J14_intValue q491 (m_KJ14_intValue hG hH er14 d) rfl (by omega) ⟨_, _, _, _, _, ez15, by rw [hG.1]; rfl⟩ rfl rfl (Nat.le_of_ble_eq_true rfl) dX3_pass_77 ?_
    replace h := isO_o h; obtain ⟨fz17, sz17, ez17, h⟩ := h
    replace h := bd_o h; obtain ⟨r16, er16, h⟩ := h
    refine vv_callV ok_X3_give q495 (m_KX3_give hG hH er16 d) rfl (by omega) ⟨_, _, _, _, _, ez17, by rw [hG.1]; rfl⟩ rfl rfl (Nat.le_of_ble_eq_true rfl) dX3_pass_80 ?_
    refine vv_iload_n dX3_pass_83 rfl 1 rfl ?_
    refine vv_if_eq (tgt := 112) dX3_pass_84 (by decide) (fun c18 => ?_) (fun c18 => ?_)
    · rw [if_pos c18] at h
      refine vv_aload_n dX3_pass_112 rfl 0 rfl ?_
      refine vv_iload_n dX3_pass_113 rfl 2 rfl ?_
      replace h := isO_o h; obtain ⟨fz20, sz20, ez20, h⟩ := h
      replace h := bd_o h; obtain ⟨r19, er19, h⟩ := h
      refine vv_callV ok_X3_odds q505 (m_KX3_odds hG hH hfo er19 d) rfl (by omega) ⟨_, _, _, _, _, ez20, by rw [hG.1]; rfl⟩ rfl rfl (Nat.le_of_ble_eq_true rfl) dX3_pass_114 ?_
      refine vv_bipush (v := (nI 7)) dX3_pass_117 (by decide) ?_
      refine vv_icmp_lt (tgt := 126) dX3_pass_119 (by decide) (fun c21 => ?_) (fun c21 => ?_)
      · rw [if_pos c21] at h
        refine vv_iconst (v := (nI 0)) dX3_pass_126 (by decide) ?_
        exact v_KX3_pass_127 hG hH hfo hk42 h
      · rw [if_neg c21] at h
        refine vv_iconst (v := (nI 1)) dX3_pass_122 (by decide) ?_
        refine vv_goto (tgt := 127) dX3_pass_123 (by decide) ?_
        exact v_KX3_pass_127 hG hH hfo hk42 h
    · rw [if_neg c18] at h
      refine vv_aload_n dX3_pass_87 rfl 0 rfl ?_
      replace h := gR_o h; obtain ⟨v22, fv22, sv22, ev22, lv22, h⟩ := h
      refine vv_get (fl_X3_3 hG) ev22 lv22 dX3_pass_88 ?_
      refine vv_bipush (v := (nI 12)) dX3_pass_91 (by decide) ?_
      replace h := isO_o h; obtain ⟨fz24, sz24, ez24, h⟩ := h
      replace h := bd_o h; obtain ⟨r23, er23, h⟩ := h
      refine vv_callVN ok_X1_draw (fun U hK => hH.1.2.1 U hK _ q500 rfl) (m_KX1_draw hG hH er23 d) rfl (by omega) ⟨_, _, _, _, _, ez24, by rw [hG.1]; rfl⟩ rfl rfl (Nat.le_of_ble_eq_true rfl) dX3_pass_93 ?_
      refine vv_aload_n dX3_pass_96 rfl 0 rfl ?_
      refine vv_iload_n dX3_pass_97 rfl 2 rfl ?_
      replace h := isO_o h; obtain ⟨fz26, sz26, ez26, h⟩ := h
      replace h := bd_o h; obtain ⟨r25, er25, h⟩ := h
      refine vv_callV ok_X3_odds q505 (m_KX3_odds hG hH hfo er25 d) rfl (by omega) ⟨_, _, _, _, _, ez26, by rw [hG.1]; rfl⟩ rfl rfl (Nat.le_of_ble_eq_true rfl) dX3_pass_98 ?_
      refine vv_icmp_ge (tgt := 108) dX3_pass_101 (by decide) (fun c27 => ?_) (fun c27 => ?_)
      · rw [if_pos c27] at h
        refine vv_iconst (v := (nI 0)) dX3_pass_108 (by decide) ?_
        refine vv_goto (tgt := 127) dX3_pass_109 (by decide) ?_
        exact v_KX3_pass_127 hG hH hfo hk42 h
      · rw [if_neg c27] at h
        refine vv_iconst (v := (nI 1)) dX3_pass_104 (by decide) ?_
        refine vv_goto (tgt := 127) dX3_pass_105 (by decide) ?_
        exact v_KX3_pass_127 hG hH hfo hk42 h
theorem v_KX3_pass_42 {l : Launch} {G : vv_G} {d : Nat} {ad : Nat → Nat} {fo : Nat → Nat → vv_S → Option Int32} (hG : vv_gok G) (hH : vv_hy l G ad) (hfo : ∀ {a vs : Nat} {σ : vv_S} {r : Int32}, fo a vs σ = some r → vv_Form l G d a vs σ r) : ∀ (n : Nat) {x0 : Nat} {x1 : Int32} {x2 : Int32} {σ : vv_S} {r : Nat × vv_S}, KX3_pass_42 fo n x0 x1 x2 σ = some r → vv_V l G MX3_pass (d + 4) 42 [(0, .ref x0), (1, .int x1), (2, .int x2)] [] σ (.inl (some (.ref r.1)), r.2) := by
  intro n
  induction n with
  | zero => intro _ _ _ _ _ h; cases h
  | succ n ih => intro _ _ _ _ _ h; exact vb_KX3_pass_42 hG hH hfo ih h
def KX3_pass_29 (fo : Nat → Nat → vv_S → Option Int32) (k2 : Nat → Int32 → Int32 → vv_S → Option (Nat × vv_S)) (x0 : Nat) (x1 : Int32) (x2 : Int32) (σ : vv_S) : Option (Nat × vv_S) := k2 x0 x1 (x2 + (nI 1)) σ
theorem v_KX3_pass_29 {l : Launch} {G : vv_G} {d : Nat} {ad : Nat → Nat} {fo : Nat → Nat → vv_S → Option Int32} (hG : vv_gok G) (hH : vv_hy l G ad) (hfo : ∀ {a vs : Nat} {σ : vv_S} {r : Int32}, fo a vs σ = some r → vv_Form l G d a vs σ r) {k2 : Nat → Int32 → Int32 → vv_S → Option (Nat × vv_S)} (hk2 : ∀ {x0 : Nat} {x1 : Int32} {x2 : Int32} {σ : vv_S} {r : Nat × vv_S}, k2 x0 x1 x2 σ = some r → vv_V l G MX3_pass (d + 4) 2 [(0, .ref x0), (1, .int x1), (2, .int x2)] [] σ (.inl (some (.ref r.1)), r.2)) {x0 : Nat} {x1 : Int32} {x2 : Int32} {σ : vv_S} {r : Nat × vv_S} (h : KX3_pass_29 fo k2 x0 x1 x2 σ = some r) : vv_V l G MX3_pass (d + 4) 29 [(0, .ref x0), (1, .int x1), (2, .int x2)] [] σ (.inl (some (.ref r.1)), r.2) := by
  unfold KX3_pass_29 at h
  refine vv_iinc (v := (x2 + (nI 1))) (lv' := [(0, .ref x0), (1, .int x1), (2, .int (x2 + (nI 1)))]) dX3_pass_29 2 rfl rfl (by decide) [1, 2, 0] rfl ?_
  refine vv_goto (tgt := 2) dX3_pass_32 (by decide) ?_
  exact hk2 h
def BKX3_pass_2 (fo : Nat → Nat → vv_S → Option Int32) (k2 : Nat → Int32 → Int32 → vv_S → Option (Nat × vv_S)) (x0 : Nat) (x1 : Int32) (x2 : Int32) (σ : vv_S) : Option (Nat × vv_S) := (gR σ x0 2 11).bind fun v1 => (gR σ v1 0 1).bind fun v2 => (gI σ v2 1 3).bind fun v3 => if v3 ≤ x2 then ((pF σ x0 2 10 (.int (nI 0))).bind fun σ5 => KX3_pass_42 fo NN x0 x1 (nI 0) σ5) else ((isO σ x0 2).bind fun _ => (KX3_goes x0 x2 σ).bind fun r6 => if r6 = 0 then (KX3_pass_29 fo k2 x0 x1 x2 σ) else ((isO σ x0 2).bind fun _ => (KX3_ship x0 x2 σ).bind fun r9 => KX3_pass_29 fo k2 x0 x1 x2 r9))
def KX3_pass_2 (fo : Nat → Nat → vv_S → Option Int32) : Nat → Nat → Int32 → Int32 → vv_S → Option (Nat × vv_S)
  | 0, _, _, _, _ => none
  | n + 1, x0, x1, x2, σ => BKX3_pass_2 fo (KX3_pass_2 fo n) x0 x1 x2 σ
theorem vb_KX3_pass_2 {l : Launch} {G : vv_G} {d : Nat} {ad : Nat → Nat} {fo : Nat → Nat → vv_S → Option Int32} (hG : vv_gok G) (hH : vv_hy l G ad) (hfo : ∀ {a vs : Nat} {σ : vv_S} {r : Int32}, fo a vs σ = some r → vv_Form l G d a vs σ r) {k2 : Nat → Int32 → Int32 → vv_S → Option (Nat × vv_S)} (hk2 : ∀ {x0 : Nat} {x1 : Int32} {x2 : Int32} {σ : vv_S} {r : Nat × vv_S}, k2 x0 x1 x2 σ = some r → vv_V l G MX3_pass (d + 4) 2 [(0, .ref x0), (1, .int x1), (2, .int x2)] [] σ (.inl (some (.ref r.1)), r.2)) {x0 : Nat} {x1 : Int32} {x2 : Int32} {σ : vv_S} {r : Nat × vv_S} (h : BKX3_pass_2 fo k2 x0 x1 x2 σ = some r) : vv_V l G MX3_pass (d + 4) 2 [(0, .ref x0), (1, .int x1), (2, .int x2)] [] σ (.inl (some (.ref r.1)), r.2) := by
  unfold BKX3_pass_2 at h
  refine vv_iload_n dX3_pass_2 rfl 2 rfl ?_
  refine vv_aload_n dX3_pass_3 rfl 0 rfl ?_
  replace h := gR_o h; obtain ⟨v1, fv1, sv1, ev1, lv1, h⟩ := h
  refine vv_get (fl_X3_3 hG) ev1 lv1 dX3_pass_4 ?_
  replace h := gR_o h; obtain ⟨v2, fv2, sv2, ev2, lv2, h⟩ := h
  refine vv_getM (fl_X3_54 hH) ev2 lv2 dX3_pass_7 ?_
  replace h := gI_o h; obtain ⟨v3, fv3, sv3, ev3, lv3, h⟩ := h
  refine vv_getM (fl_X3_58 hH) ev3 lv3 dX3_pass_10 ?_
  refine vv_icmp_ge (tgt := 35) dX3_pass_13 (by decide) (fun c4 => ?_) (fun c4 => ?_)
  · rw [if_pos c4] at h
    refine vv_aload_n dX3_pass_35 rfl 0 rfl ?_
    refine vv_iconst (v := (nI 0)) dX3_pass_36 (by decide) ?_
    replace h := pF_o h; obtain ⟨σ5, sσ5, eσ5, lσ5, uσ5, h⟩ := h
    refine vv_putf (pt_X3_126 hG) (Or.inr fun C T' N h9 => by rw [hG.1] at h9; cases h9; rfl) eσ5 rfl rfl lσ5 dX3_pass_37 ?_
    rw [← uσ5]
    refine vv_iconst (v := (nI 0)) dX3_pass_40 (by decide) ?_
    refine vv_istore_n (lv' := [(0, .ref x0), (1, .int x1), (2, .int (nI 0))]) dX3_pass_41 rfl (by decide) [1, 2, 0] rfl ?_
    exact v_KX3_pass_42 hG hH hfo NN h
  · rw [if_neg c4] at h
    refine vv_aload_n dX3_pass_16 rfl 0 rfl ?_
    refine vv_iload_n dX3_pass_17 rfl 2 rfl ?_
    replace h := isO_o h; obtain ⟨fz7, sz7, ez7, h⟩ := h
    replace h := bd_o h; obtain ⟨r6, er6, h⟩ := h
    refine vv_callV ok_X3_goes q462 (m_KX3_goes hG hH er6 d) rfl (by omega) ⟨_, _, _, _, _, ez7, by rw [hG.1]; rfl⟩ rfl rfl (Nat.le_of_ble_eq_true rfl) dX3_pass_18 ?_
    refine vv_if_eq (tgt := 29) dX3_pass_21 (by decide) (fun c8 => ?_) (fun c8 => ?_)
    · rw [if_pos c8] at h
      exact v_KX3_pass_29 hG hH hfo hk2 h
    · rw [if_neg c8] at h
      refine vv_aload_n dX3_pass_24 rfl 0 rfl ?_
      refine vv_iload_n dX3_pass_25 rfl 2 rfl ?_
      replace h := isO_o h; obtain ⟨fz10, sz10, ez10, h⟩ := h
      replace h := bd_o h; obtain ⟨r9, er9, h⟩ := h
      refine vv_callV ok_X3_ship q466 (m_KX3_ship hG hH er9 d) rfl (by omega) ⟨_, _, _, _, _, ez10, by rw [hG.1]; rfl⟩ rfl rfl (Nat.le_of_ble_eq_true rfl) dX3_pass_26 ?_
      exact v_KX3_pass_29 hG hH hfo hk2 h
theorem v_KX3_pass_2 {l : Launch} {G : vv_G} {d : Nat} {ad : Nat → Nat} {fo : Nat → Nat → vv_S → Option Int32} (hG : vv_gok G) (hH : vv_hy l G ad) (hfo : ∀ {a vs : Nat} {σ : vv_S} {r : Int32}, fo a vs σ = some r → vv_Form l G d a vs σ r) : ∀ (n : Nat) {x0 : Nat} {x1 : Int32} {x2 : Int32} {σ : vv_S} {r : Nat × vv_S}, KX3_pass_2 fo n x0 x1 x2 σ = some r → vv_V l G MX3_pass (d + 4) 2 [(0, .ref x0), (1, .int x1), (2, .int x2)] [] σ (.inl (some (.ref r.1)), r.2) := by
  intro n
  induction n with
  | zero => intro _ _ _ _ _ h; cases h
  | succ n ih => intro _ _ _ _ _ h; exact vb_KX3_pass_2 hG hH hfo ih h
def KX3_pass (fo : Nat → Nat → vv_S → Option Int32) (x0 : Nat) (x1 : Int32) (σ : vv_S) : Option (Nat × vv_S) := KX3_pass_2 fo NN x0 x1 (nI 0) σ
theorem v_KX3_pass_0 {l : Launch} {G : vv_G} {d : Nat} {ad : Nat → Nat} {fo : Nat → Nat → vv_S → Option Int32} (hG : vv_gok G) (hH : vv_hy l G ad) (hfo : ∀ {a vs : Nat} {σ : vv_S} {r : Int32}, fo a vs σ = some r → vv_Form l G d a vs σ r) {x0 : Nat} {x1 : Int32} {σ : vv_S} {r : Nat × vv_S} (h : KX3_pass fo x0 x1 σ = some r) : vv_V l G MX3_pass (d + 4) 0 [(0, .ref x0), (1, .int x1)] [] σ (.inl (some (.ref r.1)), r.2) := by
  unfold KX3_pass at h
  refine vv_iconst (v := (nI 0)) dX3_pass_0 (by decide) ?_
  refine vv_istore_n (lv' := [(0, .ref x0), (1, .int x1), (2, .int (nI 0))]) dX3_pass_1 rfl (by decide) [1, 2, 0] rfl ?_
  exact v_KX3_pass_2 hG hH hfo NN h
theorem m_KX3_pass {l : Launch} {G : vv_G} {d : Nat} {ad : Nat → Nat} {fo : Nat → Nat → vv_S → Option Int32} (hG : vv_gok G) (hH : vv_hy l G ad) (hfo : ∀ {a vs : Nat} {σ : vv_S} {r : Int32}, fo a vs σ = some r → vv_Form l G d a vs σ r) {x0 : Nat} {x1 : Int32} {σ : vv_S} {r : Nat × vv_S} (h : KX3_pass fo x0 x1 σ = some r) (d9 : Nat) (e9 : d9 = d := by rfl) : vv_Met l G MX3_pass (d9 + 4) [.ref x0, .int x1] σ (.inl (some (.ref r.1)), r.2) := by
  subst e9
  exact vv_head (by decide +kernel) rfl (Nat.le_of_ble_eq_true rfl) rfl (v_KX3_pass_0 hG hH hfo h)
