set_option maxRecDepth 100000
/-! readsWay -/
def J_readsWay_156 (T : tw_T) : Option tw_T := some T
theorem v_readsWay_156 {l : Launch} {G : vv_G} {d : Nat} {o : Nat} {h0 : Nat → Option vv_E} {nz : Nat × Nat} (hG : vv_gok G) {T : tw_T} {r : tw_T} (h : J_readsWay_156 T = some r) : vv_V l G MX4_readsWay (d + 3) 156 [(0, .ref o)] [] (tp o h0 T, nz) (.inl none, (tp o h0 r, nz)) := by
  unfold J_readsWay_156 at h
  cases h
  exact vv_vret rfl dX4_readsWay_156
def J_readsWay_72 (x1 : Int32) (T : tw_T) : Option tw_T := (J_isGood T).bind fun r1 => if r1.1 = 0 then (some r1.2) else ((stA r1.2 12 12 (r1.2.1 26) x1).bind fun T3 => (stA T3 13 12 (T3.1 26) (T3.1 22)).bind fun T4 => (J_goes T4).bind fun r5 => (J_number (nI 1) (nI 9) r5).bind fun r6 => (stA r6.2 14 12 (r5.1 26) r6.1).bind fun T7 => (J_number (nI 0) (nI 9) T7).bind fun r8 => (stA r8.2 15 12 (T7.1 26) r8.1).bind fun T9 => (J_isGood T9).bind fun r10 => if r10.1 = 0 then (J_readsWay_156 r10.2) else ((some (tw_F r10.2 26 ((r10.2.1 26) + (nI 1)))).bind fun T12 => J_readsWay_156 T12))
theorem v_readsWay_72 {l : Launch} {G : vv_G} {d : Nat} {o : Nat} {h0 : Nat → Option vv_E} {nz : Nat × Nat} (hG : vv_gok G) {x1 : Int32} {T : tw_T} {r : tw_T} (h : J_readsWay_72 x1 T = some r) : vv_V l G MX4_readsWay (d + 3) 72 [(0, .ref o), (1, .int x1)] [] (tp o h0 T, nz) (.inl none, (tp o h0 r, nz)) := by
  unfold J_readsWay_72 at h
  refine vv_aload_n dX4_readsWay_72 rfl 0 rfl ?_
  obtain ⟨r1, er1, h⟩ := bd_o h
  refine vv_callV ok_X4_isGood q1791 (m_isGood hG er1 (d + 2)) rfl (by omega) ⟨_, _, _, _, _, tp_o, by rw [hG.1]; rfl⟩ rfl rfl (Nat.le_of_ble_eq_true rfl) dX4_readsWay_73 ?_
  refine vv_if_ne (tgt := 80) dX4_readsWay_76 (by decide) (fun c2 => ?_) (fun c2 => ?_)
  · rw [if_neg c2] at h
    refine vv_aload_n dX4_readsWay_80 rfl 0 rfl ?_
    refine tw_get (fl_X4_50 hG) (k := 34) rfl dX4_readsWay_81 ?_
    refine vv_aload_n dX4_readsWay_84 rfl 0 rfl ?_
    refine tw_get (fl_X4_243 hG) (k := 26) rfl dX4_readsWay_85 ?_
    refine vv_iload_n dX4_readsWay_88 rfl 1 rfl ?_
    obtain ⟨T3, iT3, eT3, h⟩ := st_o h
    refine tw_ast 12 (by decide) rfl iT3 eT3 dX4_readsWay_89 ?_
    refine vv_aload_n dX4_readsWay_90 rfl 0 rfl ?_
    refine tw_get (fl_X4_53 hG) (k := 35) rfl dX4_readsWay_91 ?_
    refine vv_aload_n dX4_readsWay_94 rfl 0 rfl ?_
    refine tw_get (fl_X4_243 hG) (k := 26) rfl dX4_readsWay_95 ?_
    refine vv_aload_n dX4_readsWay_98 rfl 0 rfl ?_
    refine tw_get (fl_X4_144 hG) (k := 22) rfl dX4_readsWay_99 ?_
    obtain ⟨T4, iT4, eT4, h⟩ := st_o h
    refine tw_ast 13 (by decide) rfl iT4 eT4 dX4_readsWay_102 ?_
    refine vv_aload_n dX4_readsWay_103 rfl 0 rfl ?_
    obtain ⟨r5, er5, h⟩ := bd_o h
    refine vv_callV ok_X4_goes q1777 (m_goes hG er5 (d + 1)) rfl (by omega) ⟨_, _, _, _, _, tp_o, by rw [hG.1]; rfl⟩ rfl rfl (Nat.le_of_ble_eq_true rfl) dX4_readsWay_104 ?_
    refine vv_aload_n dX4_readsWay_107 rfl 0 rfl ?_
    refine tw_get (fl_X4_56 hG) (k := 36) rfl dX4_readsWay_108 ?_
    refine vv_aload_n dX4_readsWay_111 rfl 0 rfl ?_
    refine tw_get (fl_X4_243 hG) (k := 26) rfl dX4_readsWay_112 ?_
    refine vv_aload_n dX4_readsWay_115 rfl 0 rfl ?_
    refine vv_iconst (v := (nI 1)) dX4_readsWay_116 (by decide) ?_
    refine vv_bipush (v := (nI 9)) dX4_readsWay_117 (by decide) ?_
    obtain ⟨r6, er6, h⟩ := bd_o h
    refine vv_callV ok_X4_number q1818 (m_number hG er6 (d + 0)) rfl (by omega) ⟨_, _, _, _, _, tp_o, by rw [hG.1]; rfl⟩ rfl rfl (Nat.le_of_ble_eq_true rfl) dX4_readsWay_119 ?_
    obtain ⟨T7, iT7, eT7, h⟩ := st_o h
    refine tw_ast 14 (by decide) rfl iT7 eT7 dX4_readsWay_122 ?_
    refine vv_aload_n dX4_readsWay_123 rfl 0 rfl ?_
    refine tw_get (fl_X4_59 hG) (k := 37) rfl dX4_readsWay_124 ?_
    refine vv_aload_n dX4_readsWay_127 rfl 0 rfl ?_
    refine tw_get (fl_X4_243 hG) (k := 26) rfl dX4_readsWay_128 ?_
    refine vv_aload_n dX4_readsWay_131 rfl 0 rfl ?_
    refine vv_iconst (v := (nI 0)) dX4_readsWay_132 (by decide) ?_
    refine vv_bipush (v := (nI 9)) dX4_readsWay_133 (by decide) ?_
    obtain ⟨r8, er8, h⟩ := bd_o h
    refine vv_callV ok_X4_number q1818 (m_number hG er8 (d + 0)) rfl (by omega) ⟨_, _, _, _, _, tp_o, by rw [hG.1]; rfl⟩ rfl rfl (Nat.le_of_ble_eq_true rfl) dX4_readsWay_135 ?_
    obtain ⟨T9, iT9, eT9, h⟩ := st_o h
    refine tw_ast 15 (by decide) rfl iT9 eT9 dX4_readsWay_138 ?_
    refine vv_aload_n dX4_readsWay_139 rfl 0 rfl ?_
    obtain ⟨r10, er10, h⟩ := bd_o h
    refine vv_callV ok_X4_isGood q1791 (m_isGood hG er10 (d + 2)) rfl (by omega) ⟨_, _, _, _, _, tp_o, by rw [hG.1]; rfl⟩ rfl rfl (Nat.le_of_ble_eq_true rfl) dX4_readsWay_140 ?_
    refine vv_if_eq (tgt := 156) dX4_readsWay_143 (by decide) (fun c11 => ?_) (fun c11 => ?_)
    · rw [if_pos c11] at h
      refine vv_sub (lv' := [(0, .ref o)]) [0] rfl ?_
      exact v_readsWay_156 hG h
    · rw [if_neg c11] at h
      refine vv_aload_n dX4_readsWay_146 rfl 0 rfl ?_
      refine vv_dup dX4_readsWay_147 rfl ?_
      refine tw_get (fl_X4_243 hG) (k := 26) rfl dX4_readsWay_148 ?_
      refine vv_iconst (v := (nI 1)) dX4_readsWay_151 (by decide) ?_
      refine vv_iadd dX4_readsWay_152 ?_
      obtain ⟨T12, eT12, h⟩ := bd_s h
      refine tw_put (T1 := T12) (pt_X4_243 hG) hG rfl rfl rfl (by decide) (by rw [eT12]; exact tw_set26 _ _ _) (by rw [eT12]; rfl) dX4_readsWay_153 ?_
      refine vv_sub (lv' := [(0, .ref o)]) [0] rfl ?_
      exact v_readsWay_156 hG h
  · rw [if_pos c2] at h
    cases h
    exact vv_vret rfl dX4_readsWay_79
def J_readsWay_67 (x1 : Int32) (T : tw_T) : Option tw_T := (J_wrong (nI 4) T).bind fun r1 => J_readsWay_72 x1 r1
theorem v_readsWay_67 {l : Launch} {G : vv_G} {d : Nat} {o : Nat} {h0 : Nat → Option vv_E} {nz : Nat × Nat} (hG : vv_gok G) {x1 : Int32} {T : tw_T} {r : tw_T} (h : J_readsWay_67 x1 T = some r) : vv_V l G MX4_readsWay (d + 3) 67 [(0, .ref o), (1, .int x1)] [] (tp o h0 T, nz) (.inl none, (tp o h0 r, nz)) := by
  unfold J_readsWay_67 at h
  refine vv_aload_n dX4_readsWay_67 rfl 0 rfl ?_
  refine vv_iconst (v := (nI 4)) dX4_readsWay_68 (by decide) ?_
  obtain ⟨r1, er1, h⟩ := bd_o h
  refine vv_callV ok_X4_wrong q1814 (m_wrong hG er1 (d + 2)) rfl (by omega) ⟨_, _, _, _, _, tp_o, by rw [hG.1]; rfl⟩ rfl rfl (Nat.le_of_ble_eq_true rfl) dX4_readsWay_69 ?_
  exact v_readsWay_72 hG h
def J_readsWay_14 (T : tw_T) : Option tw_T := (J_isGood T).bind fun r1 => if r1.1 = 0 then (some r1.2) else ((J_goes r1.2).bind fun r3 => (J_among (r3.1 25) r3).bind fun r4 => (J_amongHere (r4.2.1 25) r4.2).bind fun r5 => if r5.1 = 0 then (some r5.2) else (if (r5.2.1 22) = r4.1 then (J_readsWay_67 r4.1 r5.2) else ((J_hasWay r4.1 (r5.2.1 22) r5.2).bind fun r8 => if r8.1 = 0 then (J_readsWay_72 r4.1 r8.2) else (J_readsWay_67 r4.1 r8.2))))
theorem v_readsWay_14 {l : Launch} {G : vv_G} {d : Nat} {o : Nat} {h0 : Nat → Option vv_E} {nz : Nat × Nat} (hG : vv_gok G) {T : tw_T} {r : tw_T} (h : J_readsWay_14 T = some r) : vv_V l G MX4_readsWay (d + 3) 14 [(0, .ref o)] [] (tp o h0 T, nz) (.inl none, (tp o h0 r, nz)) := by
  unfold J_readsWay_14 at h
  refine vv_aload_n dX4_readsWay_14 rfl 0 rfl ?_
  obtain ⟨r1, er1, h⟩ := bd_o h
  refine vv_callV ok_X4_isGood q1791 (m_isGood hG er1 (d + 2)) rfl (by omega) ⟨_, _, _, _, _, tp_o, by rw [hG.1]; rfl⟩ rfl rfl (Nat.le_of_ble_eq_true rfl) dX4_readsWay_15 ?_
  refine vv_if_ne (tgt := 22) dX4_readsWay_18 (by decide) (fun c2 => ?_) (fun c2 => ?_)
  · rw [if_neg c2] at h
    refine vv_aload_n dX4_readsWay_22 rfl 0 rfl ?_
    obtain ⟨r3, er3, h⟩ := bd_o h
    refine vv_callV ok_X4_goes q1777 (m_goes hG er3 (d + 1)) rfl (by omega) ⟨_, _, _, _, _, tp_o, by rw [hG.1]; rfl⟩ rfl rfl (Nat.le_of_ble_eq_true rfl) dX4_readsWay_23 ?_
    refine vv_aload_n dX4_readsWay_26 rfl 0 rfl ?_
    refine vv_aload_n dX4_readsWay_27 rfl 0 rfl ?_
    refine tw_get (fl_X4_236 hG) (k := 25) rfl dX4_readsWay_28 ?_
    obtain ⟨r4, er4, h⟩ := bd_o h
    refine vv_callV ok_X4_among q1826 (m_among hG er4 (d + 0)) rfl (by omega) ⟨_, _, _, _, _, tp_o, by rw [hG.1]; rfl⟩ rfl rfl (Nat.le_of_ble_eq_true rfl) dX4_readsWay_31 ?_
    refine vv_istore_n (lv' := [(0, .ref o), (1, .int r4.1)]) dX4_readsWay_34 rfl (by decide) [1, 0] rfl ?_
    refine vv_aload_n dX4_readsWay_35 rfl 0 rfl ?_
    refine vv_aload_n dX4_readsWay_36 rfl 0 rfl ?_
    refine tw_get (fl_X4_236 hG) (k := 25) rfl dX4_readsWay_37 ?_
    obtain ⟨r5, er5, h⟩ := bd_o h
    refine vv_callV ok_X4_amongHere q1830 (m_amongHere hG er5 (d + 1)) rfl (by omega) ⟨_, _, _, _, _, tp_o, by rw [hG.1]; rfl⟩ rfl rfl (Nat.le_of_ble_eq_true rfl) dX4_readsWay_40 ?_
    refine vv_if_ne (tgt := 47) dX4_readsWay_43 (by decide) (fun c6 => ?_) (fun c6 => ?_)
    · rw [if_neg c6] at h
      refine vv_aload_n dX4_readsWay_47 rfl 0 rfl ?_
      refine tw_get (fl_X4_144 hG) (k := 22) rfl dX4_readsWay_48 ?_
      refine vv_iload_n dX4_readsWay_51 rfl 1 rfl ?_
      refine vv_icmp_eq (tgt := 67) dX4_readsWay_52 (by decide) (fun c7 => ?_) (fun c7 => ?_)
      · rw [if_pos c7] at h
        exact v_readsWay_67 hG h
      · rw [if_neg c7] at h
        refine vv_aload_n dX4_readsWay_55 rfl 0 rfl ?_
        refine vv_iload_n dX4_readsWay_56 rfl 1 rfl ?_
        refine vv_aload_n dX4_readsWay_57 rfl 0 rfl ?_
        refine tw_get (fl_X4_144 hG) (k := 22) rfl dX4_readsWay_58 ?_
        obtain ⟨r8, er8, h⟩ := bd_o h
        refine vv_callV ok_X4_hasWay q1834 (m_hasWay hG er8 (d + 2)) rfl (by omega) ⟨_, _, _, _, _, tp_o, by rw [hG.1]; rfl⟩ rfl rfl (Nat.le_of_ble_eq_true rfl) dX4_readsWay_61 ?_
        refine vv_if_eq (tgt := 72) dX4_readsWay_64 (by decide) (fun c9 => ?_) (fun c9 => ?_)
        · rw [if_pos c9] at h
          exact v_readsWay_72 hG h
        · rw [if_neg c9] at h
          exact v_readsWay_67 hG h
    · rw [if_pos c6] at h
      cases h
      exact vv_vret rfl dX4_readsWay_46
  · rw [if_pos c2] at h
    cases h
    exact vv_vret rfl dX4_readsWay_21
def J_readsWay (T : tw_T) : Option tw_T := if (T.1 26) = (nI 12) then ((J_wrong (nI 2) T).bind fun r2 => J_readsWay_14 r2) else (J_readsWay_14 T)
theorem v_readsWay_0 {l : Launch} {G : vv_G} {d : Nat} {o : Nat} {h0 : Nat → Option vv_E} {nz : Nat × Nat} (hG : vv_gok G) {T : tw_T} {r : tw_T} (h : J_readsWay T = some r) : vv_V l G MX4_readsWay (d + 3) 0 [(0, .ref o)] [] (tp o h0 T, nz) (.inl none, (tp o h0 r, nz)) := by
  unfold J_readsWay at h
  refine vv_aload_n dX4_readsWay_0 rfl 0 rfl ?_
  refine tw_get (fl_X4_243 hG) (k := 26) rfl dX4_readsWay_1 ?_
  refine vv_bipush (v := (nI 12)) dX4_readsWay_4 (by decide) ?_
  refine vv_icmp_ne (tgt := 14) dX4_readsWay_6 (by decide) (fun c1 => ?_) (fun c1 => ?_)
  · rw [if_neg c1] at h
    exact v_readsWay_14 hG h
  · rw [if_pos c1] at h
    refine vv_aload_n dX4_readsWay_9 rfl 0 rfl ?_
    refine vv_iconst (v := (nI 2)) dX4_readsWay_10 (by decide) ?_
    obtain ⟨r2, er2, h⟩ := bd_o h
    refine vv_callV ok_X4_wrong q1814 (m_wrong hG er2 (d + 2)) rfl (by omega) ⟨_, _, _, _, _, tp_o, by rw [hG.1]; rfl⟩ rfl rfl (Nat.le_of_ble_eq_true rfl) dX4_readsWay_11 ?_
    exact v_readsWay_14 hG h
theorem m_readsWay {l : Launch} {G : vv_G} {o : Nat} {h0 : Nat → Option vv_E} {nz : Nat × Nat} (hG : vv_gok G) {T : tw_T} {r : tw_T} (h : J_readsWay T = some r) (d : Nat) : vv_Met l G MX4_readsWay (d + 3) [.ref o] (tp o h0 T, nz) (.inl none, (tp o h0 r, nz)) := vv_head (by decide +kernel) rfl (Nat.le_of_ble_eq_true rfl) rfl (v_readsWay_0 hG h)
/-! line -/
def J_line_112 (T : tw_T) : Option tw_T := (J_isSign (nI 59) T).bind fun r1 => (J_need r1.1 r1.2).bind fun r2 => some r2
theorem v_line_112 {l : Launch} {G : vv_G} {d : Nat} {o : Nat} {h0 : Nat → Option vv_E} {nz : Nat × Nat} (hG : vv_gok G) {T : tw_T} {r : tw_T} (h : J_line_112 T = some r) : vv_V l G MX4_line (d + 6) 112 [(0, .ref o)] [] (tp o h0 T, nz) (.inl none, (tp o h0 r, nz)) := by
  unfold J_line_112 at h
  refine vv_aload_n dX4_line_112 rfl 0 rfl ?_
  refine vv_aload_n dX4_line_113 rfl 0 rfl ?_
  refine vv_bipush (v := (nI 59)) dX4_line_114 (by decide) ?_
  obtain ⟨r1, er1, h⟩ := bd_o h
  refine vv_callV ok_X4_isSign q1850 (m_isSign hG er1 (d + 5)) rfl (by omega) ⟨_, _, _, _, _, tp_o, by rw [hG.1]; rfl⟩ rfl rfl (Nat.le_of_ble_eq_true rfl) dX4_line_116 ?_
  obtain ⟨r2, er2, h⟩ := bd_o h
  refine vv_callV ok_X4_need q1888 (m_need hG er2 (d + 3)) rfl (by omega) ⟨_, _, _, _, _, tp_o, by rw [hG.1]; rfl⟩ rfl rfl (Nat.le_of_ble_eq_true rfl) dX4_line_119 ?_
  cases h
  exact vv_vret rfl dX4_line_122
def J_line_55 (s1 : Int32) (T : tw_T) : Option tw_T := (J_readsCrate s1 T).bind fun r1 => J_line_112 r1
theorem v_line_55 {l : Launch} {G : vv_G} {d : Nat} {o : Nat} {h0 : Nat → Option vv_E} {nz : Nat × Nat} (hG : vv_gok G) {s1 : Int32} {T : tw_T} {r : tw_T} (h : J_line_55 s1 T = some r) : vv_V l G MX4_line (d + 6) 55 [(0, .ref o)] [.int s1, .ref o] (tp o h0 T, nz) (.inl none, (tp o h0 r, nz)) := by
  unfold J_line_55 at h
  obtain ⟨r1, er1, h⟩ := bd_o h
  refine vv_callV ok_X4_readsCrate q1838 (m_readsCrate hG er1 (d + 2)) rfl (by omega) ⟨_, _, _, _, _, tp_o, by rw [hG.1]; rfl⟩ rfl rfl (Nat.le_of_ble_eq_true rfl) dX4_line_55 ?_
  refine vv_goto (tgt := 112) dX4_line_58 (by decide) ?_
  exact v_line_112 hG h
def J_line_43 (x1 : Int32) (T : tw_T) : Option tw_T := if x1 = (nI 9) then (J_line_55 (nI 1) T) else (J_line_55 (nI 0) T)
theorem v_line_43 {l : Launch} {G : vv_G} {d : Nat} {o : Nat} {h0 : Nat → Option vv_E} {nz : Nat × Nat} (hG : vv_gok G) {x1 : Int32} {T : tw_T} {r : tw_T} (h : J_line_43 x1 T = some r) : vv_V l G MX4_line (d + 6) 43 [(0, .ref o), (1, .int x1)] [] (tp o h0 T, nz) (.inl none, (tp o h0 r, nz)) := by
  unfold J_line_43 at h
  refine vv_aload_n dX4_line_43 rfl 0 rfl ?_
  refine vv_iload_n dX4_line_44 rfl 1 rfl ?_
  refine vv_bipush (v := (nI 9)) dX4_line_45 (by decide) ?_
  refine vv_icmp_ne (tgt := 54) dX4_line_47 (by decide) (fun c1 => ?_) (fun c1 => ?_)
  · rw [if_neg c1] at h
    refine vv_iconst (v := (nI 0)) dX4_line_54 (by decide) ?_
    refine vv_sub (lv' := [(0, .ref o)]) [0] rfl ?_
    exact v_line_55 hG h
  · rw [if_pos c1] at h
    refine vv_iconst (v := (nI 1)) dX4_line_50 (by decide) ?_
    refine vv_goto (tgt := 55) dX4_line_51 (by decide) ?_
    refine vv_sub (lv' := [(0, .ref o)]) [0] rfl ?_
    exact v_line_55 hG h
def J_line_80 (T : tw_T) : Option tw_T := (J_isGood T).bind fun r1 => if r1.1 = 0 then (some r1.2) else ((J_goes r1.2).bind fun r3 => (some (tw_F r3 28 (r3.1 29))).bind fun T4 => (J_expression T4).bind fun r5 => J_line_112 r5)
theorem v_line_80 {l : Launch} {G : vv_G} {d : Nat} {o : Nat} {h0 : Nat → Option vv_E} {nz : Nat × Nat} (hG : vv_gok G) {T : tw_T} {r : tw_T} (h : J_line_80 T = some r) : vv_V l G MX4_line (d + 6) 80 [(0, .ref o)] [] (tp o h0 T, nz) (.inl none, (tp o h0 r, nz)) := by
  unfold J_line_80 at h
  refine vv_aload_n dX4_line_80 rfl 0 rfl ?_
  obtain ⟨r1, er1, h⟩ := bd_o h
  refine vv_callV ok_X4_isGood q1791 (m_isGood hG er1 (d + 5)) rfl (by omega) ⟨_, _, _, _, _, tp_o, by rw [hG.1]; rfl⟩ rfl rfl (Nat.le_of_ble_eq_true rfl) dX4_line_81 ?_
  refine vv_if_ne (tgt := 88) dX4_line_84 (by decide) (fun c2 => ?_) (fun c2 => ?_)
  · rw [if_neg c2] at h
    refine vv_aload_n dX4_line_88 rfl 0 rfl ?_
    obtain ⟨r3, er3, h⟩ := bd_o h
    refine vv_callV ok_X4_goes q1777 (m_goes hG er3 (d + 4)) rfl (by omega) ⟨_, _, _, _, _, tp_o, by rw [hG.1]; rfl⟩ rfl rfl (Nat.le_of_ble_eq_true rfl) dX4_line_89 ?_
    refine vv_aload_n dX4_line_92 rfl 0 rfl ?_
    refine vv_aload_n dX4_line_93 rfl 0 rfl ?_
    refine tw_get (fl_X4_189 hG) (k := 29) rfl dX4_line_94 ?_
    obtain ⟨T4, eT4, h⟩ := bd_s h
    refine tw_put (T1 := T4) (pt_X4_265 hG) hG rfl rfl rfl (by decide) (by rw [eT4]; exact tw_set28 _ _ _) (by rw [eT4]; rfl) dX4_line_97 ?_
    refine vv_aload_n dX4_line_100 rfl 0 rfl ?_
    obtain ⟨r5, er5, h⟩ := bd_o h
    refine vv_callV ok_X4_expression q1842 (m_expression hG er5 (d + 0)) rfl (by omega) ⟨_, _, _, _, _, tp_o, by rw [hG.1]; rfl⟩ rfl rfl (Nat.le_of_ble_eq_true rfl) dX4_line_101 ?_
    refine vv_goto (tgt := 112) dX4_line_104 (by decide) ?_
    exact v_line_112 hG h
  · rw [if_pos c2] at h
    cases h
    exact vv_vret rfl dX4_line_87
def J_line (T : tw_T) : Option tw_T := (J_knownWord T).bind fun r1 => if r1.1 = (nI 6) then ((J_readsTown r1.2).bind fun r11 => J_line_112 r11) else (if r1.1 = (nI 7) then ((J_readsWay r1.2).bind fun r10 => J_line_112 r10) else (if r1.1 = (nI 8) then (J_line_43 r1.1 r1.2) else (if r1.1 = (nI 9) then (J_line_43 r1.1 r1.2) else (if r1.1 = (nI 11) then (if (r1.2.1 28) = (-1) then (J_line_80 r1.2) else ((J_wrong (nI 5) r1.2).bind fun r9 => J_line_80 r9)) else ((J_wrong (nI 1) r1.2).bind fun r7 => J_line_112 r7)))))
theorem v_line_0 {l : Launch} {G : vv_G} {d : Nat} {o : Nat} {h0 : Nat → Option vv_E} {nz : Nat × Nat} (hG : vv_gok G) {T : tw_T} {r : tw_T} (h : J_line T = some r) : vv_V l G MX4_line (d + 6) 0 [(0, .ref o)] [] (tp o h0 T, nz) (.inl none, (tp o h0 r, nz)) := by
  unfold J_line at h
  refine vv_aload_n dX4_line_0 rfl 0 rfl ?_
  obtain ⟨r1, er1, h⟩ := bd_o h
  refine vv_callV ok_X4_knownWord q1799 (m_knownWord hG er1 (d + 3)) rfl (by omega) ⟨_, _, _, _, _, tp_o, by rw [hG.1]; rfl⟩ rfl rfl (Nat.le_of_ble_eq_true rfl) dX4_line_1 ?_
  refine vv_istore_n (lv' := [(0, .ref o), (1, .int r1.1)]) dX4_line_4 rfl (by decide) [1, 0] rfl ?_
  refine vv_iload_n dX4_line_5 rfl 1 rfl ?_
  refine vv_bipush (v := (nI 6)) dX4_line_6 (by decide) ?_
  refine vv_icmp_ne (tgt := 18) dX4_line_8 (by decide) (fun c2 => ?_) (fun c2 => ?_)
  · rw [if_neg c2] at h
    refine vv_iload_n dX4_line_18 rfl 1 rfl ?_
    refine vv_bipush (v := (nI 7)) dX4_line_19 (by decide) ?_
    refine vv_icmp_ne (tgt := 31) dX4_line_21 (by decide) (fun c3 => ?_) (fun c3 => ?_)
    · rw [if_neg c3] at h
      refine vv_iload_n dX4_line_31 rfl 1 rfl ?_
      refine vv_bipush (v := (nI 8)) dX4_line_32 (by decide) ?_
      refine vv_icmp_eq (tgt := 43) dX4_line_34 (by decide) (fun c4 => ?_) (fun c4 => ?_)
      · rw [if_pos c4] at h
        exact v_line_43 hG h
      · rw [if_neg c4] at h
        refine vv_iload_n dX4_line_37 rfl 1 rfl ?_
        refine vv_bipush (v := (nI 9)) dX4_line_38 (by decide) ?_
        refine vv_icmp_ne (tgt := 61) dX4_line_40 (by decide) (fun c5 => ?_) (fun c5 => ?_)
        · rw [if_neg c5] at h
          refine vv_iload_n dX4_line_61 rfl 1 rfl ?_
          refine vv_bipush (v := (nI 11)) dX4_line_62 (by decide) ?_
          refine vv_icmp_ne (tgt := 107) dX4_line_64 (by decide) (fun c6 => ?_) (fun c6 => ?_)
          · rw [if_neg c6] at h
            refine vv_aload_n dX4_line_107 rfl 0 rfl ?_
            refine vv_iconst (v := (nI 1)) dX4_line_108 (by decide) ?_
            obtain ⟨r7, er7, h⟩ := bd_o h
            refine vv_callV ok_X4_wrong q1814 (m_wrong hG er7 (d + 5)) rfl (by omega) ⟨_, _, _, _, _, tp_o, by rw [hG.1]; rfl⟩ rfl rfl (Nat.le_of_ble_eq_true rfl) dX4_line_109 ?_
            refine vv_sub (lv' := [(0, .ref o)]) [0] rfl ?_
            exact v_line_112 hG h
          · rw [if_pos c6] at h
            refine vv_aload_n dX4_line_67 rfl 0 rfl ?_
            refine tw_get (fl_X4_265 hG) (k := 28) rfl dX4_line_68 ?_
            refine vv_iconst (v := (-1)) dX4_line_71 (by decide) ?_
            refine vv_icmp_eq (tgt := 80) dX4_line_72 (by decide) (fun c8 => ?_) (fun c8 => ?_)
            · rw [if_pos c8] at h
              refine vv_sub (lv' := [(0, .ref o)]) [0] rfl ?_
              exact v_line_80 hG h
            · rw [if_neg c8] at h
              refine vv_aload_n dX4_line_75 rfl 0 rfl ?_
              refine vv_iconst (v := (nI 5)) dX4_line_76 (by decide) ?_
              obtain ⟨r9, er9, h⟩ := bd_o h
              refine vv_callV ok_X4_wrong q1814 (m_wrong hG er9 (d + 5)) rfl (by omega) ⟨_, _, _, _, _, tp_o, by rw [hG.1]; rfl⟩ rfl rfl (Nat.le_of_ble_eq_true rfl) dX4_line_77 ?_
              refine vv_sub (lv' := [(0, .ref o)]) [0] rfl ?_
              exact v_line_80 hG h
        · rw [if_pos c5] at h
          exact v_line_43 hG h
    · rw [if_pos c3] at h
      refine vv_aload_n dX4_line_24 rfl 0 rfl ?_
      obtain ⟨r10, er10, h⟩ := bd_o h
      refine vv_callV ok_X4_readsWay q1822 (m_readsWay hG er10 (d + 2)) rfl (by omega) ⟨_, _, _, _, _, tp_o, by rw [hG.1]; rfl⟩ rfl rfl (Nat.le_of_ble_eq_true rfl) dX4_line_25 ?_
      refine vv_goto (tgt := 112) dX4_line_28 (by decide) ?_
      refine vv_sub (lv' := [(0, .ref o)]) [0] rfl ?_
      exact v_line_112 hG h
  · rw [if_pos c2] at h
    refine vv_aload_n dX4_line_11 rfl 0 rfl ?_
    obtain ⟨r11, er11, h⟩ := bd_o h
    refine vv_callV ok_X4_readsTown q1810 (m_readsTown hG er11 (d + 2)) rfl (by omega) ⟨_, _, _, _, _, tp_o, by rw [hG.1]; rfl⟩ rfl rfl (Nat.le_of_ble_eq_true rfl) dX4_line_12 ?_
    refine vv_goto (tgt := 112) dX4_line_15 (by decide) ?_
    refine vv_sub (lv' := [(0, .ref o)]) [0] rfl ?_
    exact v_line_112 hG h
theorem m_line {l : Launch} {G : vv_G} {o : Nat} {h0 : Nat → Option vv_E} {nz : Nat × Nat} (hG : vv_gok G) {T : tw_T} {r : tw_T} (h : J_line T = some r) (d : Nat) : vv_Met l G MX4_line (d + 6) [.ref o] (tp o h0 T, nz) (.inl none, (tp o h0 r, nz)) := vv_head (by decide +kernel) rfl (Nat.le_of_ble_eq_true rfl) rfl (v_line_0 hG h)
/-! right -/
def J_right_28 (s0 : Int32) (T : tw_T) : Option (Int32 × tw_T) := (zrI s0).bind fun v1 => some (v1, T)
theorem v_right_28 {l : Launch} {G : vv_G} {d : Nat} {o : Nat} {h0 : Nat → Option vv_E} {nz : Nat × Nat} (hG : vv_gok G) {s0 : Int32} {T : tw_T} {r : Int32 × tw_T} (h : J_right_28 s0 T = some r) : vv_V l G MX4_right (d + 0) 28 [(0, .ref o)] [.int s0] (tp o h0 T, nz) (.inl (some (.int r.1)), (tp o h0 r.2, nz)) := by
  unfold J_right_28 at h
  obtain ⟨zv1, h⟩ := zr_o h
  cases h
  exact vv_zret rfl zv1 dX4_right_28
def J_right_16 (T : tw_T) : Option (Int32 × tw_T) := if (T.1 0) = 0 then (J_right_28 (nI 1) T) else (J_right_28 (nI 0) T)
theorem v_right_16 {l : Launch} {G : vv_G} {d : Nat} {o : Nat} {h0 : Nat → Option vv_E} {nz : Nat × Nat} (hG : vv_gok G) {T : tw_T} {r : Int32 × tw_T} (h : J_right_16 T = some r) : vv_V l G MX4_right (d + 0) 16 [(0, .ref o)] [] (tp o h0 T, nz) (.inl (some (.int r.1)), (tp o h0 r.2, nz)) := by
  unfold J_right_16 at h
  refine vv_aload_n dX4_right_16 rfl 0 rfl ?_
  refine tw_get (fl_X4_117 hG) (k := 0) rfl dX4_right_17 ?_
  refine vv_if_ne (tgt := 27) dX4_right_20 (by decide) (fun c1 => ?_) (fun c1 => ?_)
  · rw [if_neg c1] at h
    refine vv_iconst (v := (nI 0)) dX4_right_27 (by decide) ?_
    exact v_right_28 hG h
  · rw [if_pos c1] at h
    refine vv_iconst (v := (nI 1)) dX4_right_23 (by decide) ?_
    refine vv_goto (tgt := 28) dX4_right_24 (by decide) ?_
    exact v_right_28 hG h
def J_right (x1 : Int32) (x2 : Int32) (T : tw_T) : Option (Int32 × tw_T) := if (T.1 0) = 0 then (if x1 = 0 then ((some (tw_F T 0 x2)).bind fun T3 => J_right_16 T3) else (J_right_16 T)) else (J_right_16 T)
theorem v_right_0 {l : Launch} {G : vv_G} {d : Nat} {o : Nat} {h0 : Nat → Option vv_E} {nz : Nat × Nat} (hG : vv_gok G) {x1 : Int32} {x2 : Int32} {T : tw_T} {r : Int32 × tw_T} (h : J_right x1 x2 T = some r) : vv_V l G MX4_right (d + 0) 0 [(0, .ref o), (1, .int x1), (2, .int x2)] [] (tp o h0 T, nz) (.inl (some (.int r.1)), (tp o h0 r.2, nz)) := by
  unfold J_right at h
  refine vv_aload_n dX4_right_0 rfl 0 rfl ?_
  refine tw_get (fl_X4_117 hG) (k := 0) rfl dX4_right_1 ?_
  refine vv_if_ne (tgt := 16) dX4_right_4 (by decide) (fun c1 => ?_) (fun c1 => ?_)
  · rw [if_neg c1] at h
    refine vv_sub (lv' := [(0, .ref o)]) [0] rfl ?_
    exact v_right_16 hG h
  · rw [if_pos c1] at h
    refine vv_iload_n dX4_right_7 rfl 1 rfl ?_
    refine vv_if_ne (tgt := 16) dX4_right_8 (by decide) (fun c2 => ?_) (fun c2 => ?_)
    · rw [if_neg c2] at h
      refine vv_sub (lv' := [(0, .ref o)]) [0] rfl ?_
      exact v_right_16 hG h
    · rw [if_pos c2] at h
      refine vv_aload_n dX4_right_11 rfl 0 rfl ?_
      refine vv_iload_n dX4_right_12 rfl 2 rfl ?_
      obtain ⟨T3, eT3, h⟩ := bd_s h
      refine tw_put (T1 := T3) (pt_X4_117 hG) hG rfl rfl rfl (by decide) (by rw [eT3]; exact tw_set0 _ _ _) (by rw [eT3]; rfl) dX4_right_13 ?_
      refine vv_sub (lv' := [(0, .ref o)]) [0] rfl ?_
      exact v_right_16 hG h
theorem m_right {l : Launch} {G : vv_G} {o : Nat} {h0 : Nat → Option vv_E} {nz : Nat × Nat} (hG : vv_gok G) {x1 : Int32} {x2 : Int32} {T : tw_T} {r : Int32 × tw_T} (h : J_right x1 x2 T = some r) (d : Nat) : vv_Met l G MX4_right (d + 0) [.ref o, .int x1, .int x2] (tp o h0 T, nz) (.inl (some (.int r.1)), (tp o h0 r.2, nz)) := vv_head (by decide +kernel) rfl (Nat.le_of_ble_eq_true rfl) rfl (v_right_0 hG h)
/-! province -/
def B_province_254 (k254 : Int32 → tw_T → Option (Int32 × tw_T)) (x2 : Int32) (T : tw_T) : Option (Int32 × tw_T) := if (nI 85) ≤ x2 then ((some (tw_F T 44 (nI 0))).bind fun T2 => (some (tw_F T2 52 (nI 0))).bind fun T3 => (some (tw_F T3 57 (nI 0))).bind fun T4 => some ((nI 0), T4)) else ((rdI 85 (T.2.2 16) x2).bind fun v5 => (stA T 20 170 x2 v5).bind fun T6 => k254 (x2 + (nI 1)) T6)
def J_province_254 : Nat → Int32 → tw_T → Option (Int32 × tw_T)
  | 0, _, _ => none
  | n + 1, x2, T => B_province_254 (J_province_254 n) x2 T
theorem vb_province_254 {l : Launch} {G : vv_G} {d : Nat} {o : Nat} {h0 : Nat → Option vv_E} {nz : Nat × Nat} (hG : vv_gok G) {k254 : Int32 → tw_T → Option (Int32 × tw_T)} (hk254 : ∀ {x2 : Int32} {T : tw_T} {r : Int32 × tw_T}, k254 x2 T = some r → vv_V l G MX4_province (d + 7) 254 [(0, .ref o), (2, .int x2)] [] (tp o h0 T, nz) (.inl (some (.int r.1)), (tp o h0 r.2, nz))) {x2 : Int32} {T : tw_T} {r : Int32 × tw_T} (h : B_province_254 k254 x2 T = some r) : vv_V l G MX4_province (d + 7) 254 [(0, .ref o), (2, .int x2)] [] (tp o h0 T, nz) (.inl (some (.int r.1)), (tp o h0 r.2, nz)) := by
  unfold B_province_254 at h
  refine vv_iload_n dX4_province_254 rfl 1 rfl ?_
  refine vv_bipush (v := (nI 85)) dX4_province_255 (by decide) ?_
  refine vv_icmp_ge (tgt := 278) dX4_province_257 (by decide) (fun c1 => ?_) (fun c1 => ?_)
  · rw [if_pos c1] at h
    refine vv_aload_n dX4_province_278 rfl 0 rfl ?_
    refine vv_iconst (v := (nI 0)) dX4_province_279 (by decide) ?_
    obtain ⟨T2, eT2, h⟩ := bd_s h
    refine tw_put (T1 := T2) (pt_X4_294 hG) hG rfl rfl rfl (by decide) (by rw [eT2]; exact tw_set44 _ _ _) (by rw [eT2]; rfl) dX4_province_280 ?_
    refine vv_aload_n dX4_province_283 rfl 0 rfl ?_
    refine vv_iconst (v := (nI 0)) dX4_province_284 (by decide) ?_
    obtain ⟨T3, eT3, h⟩ := bd_s h
    refine tw_put (T1 := T3) (pt_X4_297 hG) hG rfl rfl rfl (by decide) (by rw [eT3]; exact tw_set52 _ _ _) (by rw [eT3]; rfl) dX4_province_285 ?_
    refine vv_aload_n dX4_province_288 rfl 0 rfl ?_
    refine vv_iconst (v := (nI 0)) dX4_province_289 (by decide) ?_
    obtain ⟨T4, eT4, h⟩ := bd_s h
    refine tw_put (T1 := T4) (pt_X4_300 hG) hG rfl rfl (by decide) (by decide) (by rw [eT4]; exact tw_set57 _ _ _) (by rw [eT4]; rfl) dX4_province_290 ?_
    refine vv_iconst (v := (nI 0)) dX4_province_293 (by decide) ?_
    cases h
    exact vv_iret rfl dX4_province_294
  · rw [if_neg c1] at h
    refine vv_aload_n dX4_province_260 rfl 0 rfl ?_
    refine tw_get (fl_X4_75 hG) (k := 42) rfl dX4_province_261 ?_
    refine vv_iload_n dX4_province_264 rfl 1 rfl ?_
    refine vv_aload_n dX4_province_265 rfl 0 rfl ?_
    refine tw_get (fl_X4_62 hG) (k := 38) rfl dX4_province_266 ?_
    refine vv_iload_n dX4_province_269 rfl 1 rfl ?_
    obtain ⟨v5, iv5, ev5, h⟩ := rd_o h
    refine tw_ald 16 (by decide) rfl iv5 ev5 dX4_province_270 ?_
    obtain ⟨T6, iT6, eT6, h⟩ := st_o h
    refine tw_ast 20 (by decide) rfl iT6 eT6 dX4_province_271 ?_
    refine vv_iinc (v := (x2 + (nI 1))) (lv' := [(0, .ref o), (2, .int (x2 + (nI 1)))]) dX4_province_272 1 rfl rfl (by decide) [1, 0] rfl ?_
    refine vv_goto (tgt := 254) dX4_province_275 (by decide) ?_
    exact hk254 h
theorem v_province_254 {l : Launch} {G : vv_G} {d : Nat} {o : Nat} {h0 : Nat → Option vv_E} {nz : Nat × Nat} (hG : vv_gok G) : ∀ (n : Nat) {x2 : Int32} {T : tw_T} {r : Int32 × tw_T}, J_province_254 n x2 T = some r → vv_V l G MX4_province (d + 7) 254 [(0, .ref o), (2, .int x2)] [] (tp o h0 T, nz) (.inl (some (.int r.1)), (tp o h0 r.2, nz)) := by
  intro n
  induction n with
  | zero => intro _ _ _ h; cases h
  | succ n ih => intro _ _ _ h; exact vb_province_254 hG ih h
def J_province_114 (T : tw_T) : Option (Int32 × tw_T) := (J_isGood T).bind fun r1 => if r1.1 = 0 then ((rdI 3 (r1.2.2.2 9) (nI 0)).bind fun v14 => (stA r1.2 9 3 (nI 0) (v14 + (nI 1))).bind fun T15 => some ((T15.1 14), T15)) else ((some (tw_F r1.2 1 (r1.2.1 25))).bind fun T3 => (some (tw_F T3 2 (T3.1 26))).bind fun T4 => (some (tw_F T4 3 (T4.1 27))).bind fun T5 => (some (tw_F T5 4 (T5.1 28))).bind fun T6 => (J_copies 10 1 T6).bind fun r7 => (J_copies 11 2 r7).bind fun r8 => (J_copies 12 3 r8).bind fun r9 => (J_copies 13 4 r9).bind fun r10 => (J_copies 14 5 r10).bind fun r11 => (J_copies 15 6 r11).bind fun r12 => (J_copies 17 7 r12).bind fun r13 => J_province_254 NN (nI 0) r13)
theorem v_province_114 {l : Launch} {G : vv_G} {d : Nat} {o : Nat} {h0 : Nat → Option vv_E} {nz : Nat × Nat} (hG : vv_gok G) {T : tw_T} {r : Int32 × tw_T} (h : J_province_114 T = some r) : vv_V l G MX4_province (d + 7) 114 [(0, .ref o)] [] (tp o h0 T, nz) (.inl (some (.int r.1)), (tp o h0 r.2, nz)) := by
  unfold J_province_114 at h
  refine vv_aload_n dX4_province_114 rfl 0 rfl ?_
  obtain ⟨r1, er1, h⟩ := bd_o h
  refine vv_callV ok_X4_isGood q1791 (m_isGood hG er1 (d + 6)) rfl (by omega) ⟨_, _, _, _, _, tp_o, by rw [hG.1]; rfl⟩ rfl rfl (Nat.le_of_ble_eq_true rfl) dX4_province_115 ?_
  refine vv_if_ne (tgt := 136) dX4_province_118 (by decide) (fun c2 => ?_) (fun c2 => ?_)
  · rw [if_neg c2] at h
    refine vv_aload_n dX4_province_136 rfl 0 rfl ?_
    refine vv_aload_n dX4_province_137 rfl 0 rfl ?_
    refine tw_get (fl_X4_236 hG) (k := 25) rfl dX4_province_138 ?_
    obtain ⟨T3, eT3, h⟩ := bd_s h
    refine tw_put (T1 := T3) (pt_X4_281 hG) hG rfl rfl rfl (by decide) (by rw [eT3]; exact tw_set1 _ _ _) (by rw [eT3]; rfl) dX4_province_141 ?_
    refine vv_aload_n dX4_province_144 rfl 0 rfl ?_
    refine vv_aload_n dX4_province_145 rfl 0 rfl ?_
    refine tw_get (fl_X4_243 hG) (k := 26) rfl dX4_province_146 ?_
    obtain ⟨T4, eT4, h⟩ := bd_s h
    refine tw_put (T1 := T4) (pt_X4_284 hG) hG rfl rfl rfl (by decide) (by rw [eT4]; exact tw_set2 _ _ _) (by rw [eT4]; rfl) dX4_province_149 ?_
    refine vv_aload_n dX4_province_152 rfl 0 rfl ?_
    refine vv_aload_n dX4_province_153 rfl 0 rfl ?_
    refine tw_get (fl_X4_253 hG) (k := 27) rfl dX4_province_154 ?_
    obtain ⟨T5, eT5, h⟩ := bd_s h
    refine tw_put (T1 := T5) (pt_X4_287 hG) hG rfl rfl rfl (by decide) (by rw [eT5]; exact tw_set3 _ _ _) (by rw [eT5]; rfl) dX4_province_157 ?_
    refine vv_aload_n dX4_province_160 rfl 0 rfl ?_
    refine vv_aload_n dX4_province_161 rfl 0 rfl ?_
    refine tw_get (fl_X4_265 hG) (k := 28) rfl dX4_province_162 ?_
    obtain ⟨T6, eT6, h⟩ := bd_s h
    refine tw_put (T1 := T6) (pt_X4_9 hG) hG rfl rfl rfl (by decide) (by rw [eT6]; exact tw_set4 _ _ _) (by rw [eT6]; rfl) dX4_province_165 ?_
    refine vv_aload_n dX4_province_168 rfl 0 rfl ?_
    refine vv_aload_n dX4_province_169 rfl 0 rfl ?_
    refine tw_get (fl_X4_44 hG) (k := 32) rfl dX4_province_170 ?_
    refine vv_aload_n dX4_province_173 rfl 0 rfl ?_
    refine tw_get (fl_X4_13 hG) (k := 5) rfl dX4_province_174 ?_
    obtain ⟨r7, er7, h⟩ := bd_o h
    refine vv_callV ok_X4_copies q1892 (m_copies hG (⟨by decide, rfl⟩) (⟨by decide, rfl⟩) er7 (d + 6)) rfl (by omega) ⟨_, _, _, _, _, tp_o, by rw [hG.1]; rfl⟩ rfl rfl (Nat.le_of_ble_eq_true rfl) dX4_province_177 ?_
    refine vv_aload_n dX4_province_180 rfl 0 rfl ?_
    refine vv_aload_n dX4_province_181 rfl 0 rfl ?_
    refine tw_get (fl_X4_47 hG) (k := 33) rfl dX4_province_182 ?_
    refine vv_aload_n dX4_province_185 rfl 0 rfl ?_
    refine tw_get (fl_X4_17 hG) (k := 6) rfl dX4_province_186 ?_
    obtain ⟨r8, er8, h⟩ := bd_o h
    refine vv_callV ok_X4_copies q1892 (m_copies hG (⟨by decide, rfl⟩) (⟨by decide, rfl⟩) er8 (d + 6)) rfl (by omega) ⟨_, _, _, _, _, tp_o, by rw [hG.1]; rfl⟩ rfl rfl (Nat.le_of_ble_eq_true rfl) dX4_province_189 ?_
    refine vv_aload_n dX4_province_192 rfl 0 rfl ?_
    refine vv_aload_n dX4_province_193 rfl 0 rfl ?_
    refine tw_get (fl_X4_50 hG) (k := 34) rfl dX4_province_194 ?_
    refine vv_aload_n dX4_province_197 rfl 0 rfl ?_
    refine tw_get (fl_X4_20 hG) (k := 7) rfl dX4_province_198 ?_
    obtain ⟨r9, er9, h⟩ := bd_o h
    refine vv_callV ok_X4_copies q1892 (m_copies hG (⟨by decide, rfl⟩) (⟨by decide, rfl⟩) er9 (d + 6)) rfl (by omega) ⟨_, _, _, _, _, tp_o, by rw [hG.1]; rfl⟩ rfl rfl (Nat.le_of_ble_eq_true rfl) dX4_province_201 ?_
    refine vv_aload_n dX4_province_204 rfl 0 rfl ?_
    refine vv_aload_n dX4_province_205 rfl 0 rfl ?_
    refine tw_get (fl_X4_53 hG) (k := 35) rfl dX4_province_206 ?_
    refine vv_aload_n dX4_province_209 rfl 0 rfl ?_
    refine tw_get (fl_X4_23 hG) (k := 8) rfl dX4_province_210 ?_
    obtain ⟨r10, er10, h⟩ := bd_o h
    refine vv_callV ok_X4_copies q1892 (m_copies hG (⟨by decide, rfl⟩) (⟨by decide, rfl⟩) er10 (d + 6)) rfl (by omega) ⟨_, _, _, _, _, tp_o, by rw [hG.1]; rfl⟩ rfl rfl (Nat.le_of_ble_eq_true rfl) dX4_province_213 ?_
    refine vv_aload_n dX4_province_216 rfl 0 rfl ?_
    refine vv_aload_n dX4_province_217 rfl 0 rfl ?_
    refine tw_get (fl_X4_56 hG) (k := 36) rfl dX4_province_218 ?_
    refine vv_aload_n dX4_province_221 rfl 0 rfl ?_
    refine tw_get (fl_X4_26 hG) (k := 9) rfl dX4_province_222 ?_
    obtain ⟨r11, er11, h⟩ := bd_o h
    refine vv_callV ok_X4_copies q1892 (m_copies hG (⟨by decide, rfl⟩) (⟨by decide, rfl⟩) er11 (d + 6)) rfl (by omega) ⟨_, _, _, _, _, tp_o, by rw [hG.1]; rfl⟩ rfl rfl (Nat.le_of_ble_eq_true rfl) dX4_province_225 ?_
    refine vv_aload_n dX4_province_228 rfl 0 rfl ?_
    refine vv_aload_n dX4_province_229 rfl 0 rfl ?_
    refine tw_get (fl_X4_59 hG) (k := 37) rfl dX4_province_230 ?_
    refine vv_aload_n dX4_province_233 rfl 0 rfl ?_
    refine tw_get (fl_X4_29 hG) (k := 10) rfl dX4_province_234 ?_
    obtain ⟨r12, er12, h⟩ := bd_o h
    refine vv_callV ok_X4_copies q1892 (m_copies hG (⟨by decide, rfl⟩) (⟨by decide, rfl⟩) er12 (d + 6)) rfl (by omega) ⟨_, _, _, _, _, tp_o, by rw [hG.1]; rfl⟩ rfl rfl (Nat.le_of_ble_eq_true rfl) dX4_province_237 ?_
    refine vv_aload_n dX4_province_240 rfl 0 rfl ?_
    refine vv_aload_n dX4_province_241 rfl 0 rfl ?_
    refine tw_get (fl_X4_65 hG) (k := 39) rfl dX4_province_242 ?_
    refine vv_aload_n dX4_province_245 rfl 0 rfl ?_
    refine tw_get (fl_X4_32 hG) (k := 11) rfl dX4_province_246 ?_
    obtain ⟨r13, er13, h⟩ := bd_o h
    refine vv_callV ok_X4_copies q1892 (m_copies hG (⟨by decide, rfl⟩) (⟨by decide, rfl⟩) er13 (d + 6)) rfl (by omega) ⟨_, _, _, _, _, tp_o, by rw [hG.1]; rfl⟩ rfl rfl (Nat.le_of_ble_eq_true rfl) dX4_province_249 ?_
    refine vv_iconst (v := (nI 0)) dX4_province_252 (by decide) ?_
    refine vv_istore_n (lv' := [(0, .ref o), (2, .int (nI 0))]) dX4_province_253 rfl (by decide) [1, 0] rfl ?_
    exact v_province_254 hG NN h
  · rw [if_pos c2] at h
    refine vv_aload_n dX4_province_121 rfl 0 rfl ?_
    refine tw_get (fl_X4_41 hG) (k := 16) rfl dX4_province_122 ?_
    refine vv_iconst (v := (nI 0)) dX4_province_125 (by decide) ?_
    refine vv_dup2 dX4_province_126 rfl rfl ?_
    obtain ⟨v14, iv14, ev14, h⟩ := rd_o h
    refine tw_ald 9 (by decide) rfl iv14 ev14 dX4_province_127 ?_
    refine vv_iconst (v := (nI 1)) dX4_province_128 (by decide) ?_
    refine vv_iadd dX4_province_129 ?_
    obtain ⟨T15, iT15, eT15, h⟩ := st_o h
    refine tw_ast 9 (by decide) rfl iT15 eT15 dX4_province_130 ?_
    refine vv_aload_n dX4_province_131 rfl 0 rfl ?_
    refine tw_get (fl_X4_173 hG) (k := 14) rfl dX4_province_132 ?_
    cases h
    exact vv_iret rfl dX4_province_135
def B_province_93 (k93 : tw_T → Option (Int32 × tw_T)) (T : tw_T) : Option (Int32 × tw_T) := (J_isGood T).bind fun r1 => if r1.1 = 0 then (J_province_114 r1.2) else (if (r1.2.1 19) = 0 then (J_province_114 r1.2) else ((J_line r1.2).bind fun r4 => k93 r4))
def J_province_93 : Nat → tw_T → Option (Int32 × tw_T)
  | 0, _ => none
  | n + 1, T => B_province_93 (J_province_93 n) T
theorem vb_province_93 {l : Launch} {G : vv_G} {d : Nat} {o : Nat} {h0 : Nat → Option vv_E} {nz : Nat × Nat} (hG : vv_gok G) {k93 : tw_T → Option (Int32 × tw_T)} (hk93 : ∀ {T : tw_T} {r : Int32 × tw_T}, k93 T = some r → vv_V l G MX4_province (d + 7) 93 [(0, .ref o)] [] (tp o h0 T, nz) (.inl (some (.int r.1)), (tp o h0 r.2, nz))) {T : tw_T} {r : Int32 × tw_T} (h : B_province_93 k93 T = some r) : vv_V l G MX4_province (d + 7) 93 [(0, .ref o)] [] (tp o h0 T, nz) (.inl (some (.int r.1)), (tp o h0 r.2, nz)) := by
  unfold B_province_93 at h
  refine vv_aload_n dX4_province_93 rfl 0 rfl ?_
  obtain ⟨r1, er1, h⟩ := bd_o h
  refine vv_callV ok_X4_isGood q1791 (m_isGood hG er1 (d + 6)) rfl (by omega) ⟨_, _, _, _, _, tp_o, by rw [hG.1]; rfl⟩ rfl rfl (Nat.le_of_ble_eq_true rfl) dX4_province_94 ?_
  refine vv_if_eq (tgt := 114) dX4_province_97 (by decide) (fun c2 => ?_) (fun c2 => ?_)
  · rw [if_pos c2] at h
    exact v_province_114 hG h
  · rw [if_neg c2] at h
    refine vv_aload_n dX4_province_100 rfl 0 rfl ?_
    refine tw_get (fl_X4_150 hG) (k := 19) rfl dX4_province_101 ?_
    refine vv_if_eq (tgt := 114) dX4_province_104 (by decide) (fun c3 => ?_) (fun c3 => ?_)
    · rw [if_pos c3] at h
      exact v_province_114 hG h
    · rw [if_neg c3] at h
      refine vv_aload_n dX4_province_107 rfl 0 rfl ?_
      obtain ⟨r4, er4, h⟩ := bd_o h
      refine vv_callV ok_X4_line q1795 (m_line hG er4 (d + 0)) rfl (by omega) ⟨_, _, _, _, _, tp_o, by rw [hG.1]; rfl⟩ rfl rfl (Nat.le_of_ble_eq_true rfl) dX4_province_108 ?_
      refine vv_goto (tgt := 93) dX4_province_111 (by decide) ?_
      exact hk93 h
theorem v_province_93 {l : Launch} {G : vv_G} {d : Nat} {o : Nat} {h0 : Nat → Option vv_E} {nz : Nat × Nat} (hG : vv_gok G) : ∀ (n : Nat) {T : tw_T} {r : Int32 × tw_T}, J_province_93 n T = some r → vv_V l G MX4_province (d + 7) 93 [(0, .ref o)] [] (tp o h0 T, nz) (.inl (some (.int r.1)), (tp o h0 r.2, nz)) := by
  intro n
  induction n with
  | zero => intro _ _ h; cases h
  | succ n ih => intro _ _ h; exact vb_province_93 hG ih h
def J_province_23 (s1 : Int32) (x1 : Int32) (T : tw_T) : Option (Int32 × tw_T) := (J_right s1 (nI 1) T).bind fun r1 => if r1.1 = 0 then (some ((nI 0), r1.2)) else ((some (tw_F r1.2 13 (nI 0))).bind fun T3 => (some (tw_F T3 15 (-1))).bind fun T4 => (some (tw_F T4 14 (nI 0))).bind fun T5 => (some (tw_F T5 17 x1)).bind fun T6 => (some (tw_F T6 18 (nI 0))).bind fun T7 => (some (tw_F T7 25 (nI 0))).bind fun T8 => (some (tw_F T8 26 (nI 0))).bind fun T9 => (some (tw_F T9 27 (nI 0))).bind fun T10 => (some (tw_F T10 28 (-1))).bind fun T11 => (stA T11 16 85 (nI 0) (nI 0)).bind fun T12 => (some (tw_F T12 29 (nI 0))).bind fun T13 => (J_goes T13).bind fun r14 => J_province_93 NN r14)
theorem v_province_23 {l : Launch} {G : vv_G} {d : Nat} {o : Nat} {h0 : Nat → Option vv_E} {nz : Nat × Nat} (hG : vv_gok G) {s1 : Int32} {x1 : Int32} {T : tw_T} {r : Int32 × tw_T} (h : J_province_23 s1 x1 T = some r) : vv_V l G MX4_province (d + 7) 23 [(0, .ref o), (1, .int x1)] [.int s1, .ref o] (tp o h0 T, nz) (.inl (some (.int r.1)), (tp o h0 r.2, nz)) := by
  unfold J_province_23 at h
  refine vv_iconst (v := (nI 1)) dX4_province_23 (by decide) ?_
  obtain ⟨r1, er1, h⟩ := bd_o h
  refine vv_callV ok_X4_right q1773 (m_right hG er1 (d + 6)) rfl (by omega) ⟨_, _, _, _, _, tp_o, by rw [hG.1]; rfl⟩ rfl rfl (Nat.le_of_ble_eq_true rfl) dX4_province_24 ?_
  refine vv_if_ne (tgt := 32) dX4_province_27 (by decide) (fun c2 => ?_) (fun c2 => ?_)
  · rw [if_neg c2] at h
    refine vv_aload_n dX4_province_32 rfl 0 rfl ?_
    refine vv_iconst (v := (nI 0)) dX4_province_33 (by decide) ?_
    obtain ⟨T3, eT3, h⟩ := bd_s h
    refine tw_put (T1 := T3) (pt_X4_120 hG) hG rfl rfl rfl (by decide) (by rw [eT3]; exact tw_set13 _ _ _) (by rw [eT3]; rfl) dX4_province_34 ?_
    refine vv_aload_n dX4_province_37 rfl 0 rfl ?_
    refine vv_iconst (v := (-1)) dX4_province_38 (by decide) ?_
    obtain ⟨T4, eT4, h⟩ := bd_s h
    refine tw_put (T1 := T4) (pt_X4_38 hG) hG rfl rfl rfl (by decide) (by rw [eT4]; exact tw_set15 _ _ _) (by rw [eT4]; rfl) dX4_province_39 ?_
    refine vv_aload_n dX4_province_42 rfl 0 rfl ?_
    refine vv_iconst (v := (nI 0)) dX4_province_43 (by decide) ?_
    obtain ⟨T5, eT5, h⟩ := bd_s h
    refine tw_put (T1 := T5) (pt_X4_173 hG) hG rfl rfl rfl (by decide) (by rw [eT5]; exact tw_set14 _ _ _) (by rw [eT5]; rfl) dX4_province_44 ?_
    refine vv_aload_n dX4_province_47 rfl 0 rfl ?_
    refine vv_iload_n dX4_province_48 rfl 1 rfl ?_
    obtain ⟨T6, eT6, h⟩ := bd_s h
    refine tw_put (T1 := T6) (pt_X4_127 hG) hG rfl rfl rfl (by decide) (by rw [eT6]; exact tw_set17 _ _ _) (by rw [eT6]; rfl) dX4_province_49 ?_
    refine vv_aload_n dX4_province_52 rfl 0 rfl ?_
    refine vv_iconst (v := (nI 0)) dX4_province_53 (by decide) ?_
    obtain ⟨T7, eT7, h⟩ := bd_s h
    refine tw_put (T1 := T7) (pt_X4_130 hG) hG rfl rfl rfl (by decide) (by rw [eT7]; exact tw_set18 _ _ _) (by rw [eT7]; rfl) dX4_province_54 ?_
    refine vv_aload_n dX4_province_57 rfl 0 rfl ?_
    refine vv_iconst (v := (nI 0)) dX4_province_58 (by decide) ?_
    obtain ⟨T8, eT8, h⟩ := bd_s h
    refine tw_put (T1 := T8) (pt_X4_236 hG) hG rfl rfl rfl (by decide) (by rw [eT8]; exact tw_set25 _ _ _) (by rw [eT8]; rfl) dX4_province_59 ?_
    refine vv_aload_n dX4_province_62 rfl 0 rfl ?_
    refine vv_iconst (v := (nI 0)) dX4_province_63 (by decide) ?_
    obtain ⟨T9, eT9, h⟩ := bd_s h
    refine tw_put (T1 := T9) (pt_X4_243 hG) hG rfl rfl rfl (by decide) (by rw [eT9]; exact tw_set26 _ _ _) (by rw [eT9]; rfl) dX4_province_64 ?_
    refine vv_aload_n dX4_province_67 rfl 0 rfl ?_
    refine vv_iconst (v := (nI 0)) dX4_province_68 (by decide) ?_
    obtain ⟨T10, eT10, h⟩ := bd_s h
    refine tw_put (T1 := T10) (pt_X4_253 hG) hG rfl rfl rfl (by decide) (by rw [eT10]; exact tw_set27 _ _ _) (by rw [eT10]; rfl) dX4_province_69 ?_
    refine vv_aload_n dX4_province_72 rfl 0 rfl ?_
    refine vv_iconst (v := (-1)) dX4_province_73 (by decide) ?_
    obtain ⟨T11, eT11, h⟩ := bd_s h
    refine tw_put (T1 := T11) (pt_X4_265 hG) hG rfl rfl rfl (by decide) (by rw [eT11]; exact tw_set28 _ _ _) (by rw [eT11]; rfl) dX4_province_74 ?_
    refine vv_aload_n dX4_province_77 rfl 0 rfl ?_
    refine tw_get (fl_X4_62 hG) (k := 38) rfl dX4_province_78 ?_
    refine vv_iconst (v := (nI 0)) dX4_province_81 (by decide) ?_
    refine vv_iconst (v := (nI 0)) dX4_province_82 (by decide) ?_
    obtain ⟨T12, iT12, eT12, h⟩ := st_o h
    refine tw_ast 16 (by decide) rfl iT12 eT12 dX4_province_83 ?_
    refine vv_aload_n dX4_province_84 rfl 0 rfl ?_
    refine vv_iconst (v := (nI 0)) dX4_province_85 (by decide) ?_
    obtain ⟨T13, eT13, h⟩ := bd_s h
    refine tw_put (T1 := T13) (pt_X4_189 hG) hG rfl rfl rfl (by decide) (by rw [eT13]; exact tw_set29 _ _ _) (by rw [eT13]; rfl) dX4_province_86 ?_
    refine vv_aload_n dX4_province_89 rfl 0 rfl ?_
    obtain ⟨r14, er14, h⟩ := bd_o h
    refine vv_callV ok_X4_goes q1777 (m_goes hG er14 (d + 5)) rfl (by omega) ⟨_, _, _, _, _, tp_o, by rw [hG.1]; rfl⟩ rfl rfl (Nat.le_of_ble_eq_true rfl) dX4_province_90 ?_
    refine vv_sub (lv' := [(0, .ref o)]) [0] rfl ?_
    exact v_province_93 hG NN h
  · rw [if_pos c2] at h
    refine vv_iconst (v := (nI 0)) dX4_province_30 (by decide) ?_
    cases h
    exact vv_iret rfl dX4_province_31
def J_province_22 (x1 : Int32) (T : tw_T) : Option (Int32 × tw_T) := J_province_23 (nI 0) x1 T
theorem v_province_22 {l : Launch} {G : vv_G} {d : Nat} {o : Nat} {h0 : Nat → Option vv_E} {nz : Nat × Nat} (hG : vv_gok G) {x1 : Int32} {T : tw_T} {r : Int32 × tw_T} (h : J_province_22 x1 T = some r) : vv_V l G MX4_province (d + 7) 22 [(0, .ref o), (1, .int x1)] [.ref o] (tp o h0 T, nz) (.inl (some (.int r.1)), (tp o h0 r.2, nz)) := by
  unfold J_province_22 at h
  refine vv_iconst (v := (nI 0)) dX4_province_22 (by decide) ?_
  exact v_province_23 hG h
def J_province (x1 : Int32) (T : tw_T) : Option (Int32 × tw_T) := (some (tw_F T 0 (nI 0))).bind fun T1 => if x1 < 0 then (J_province_22 x1 T1) else (if (T1.1 13) < x1 then (J_province_22 x1 T1) else (J_province_23 (nI 1) x1 T1))
theorem v_province_0 {l : Launch} {G : vv_G} {d : Nat} {o : Nat} {h0 : Nat → Option vv_E} {nz : Nat × Nat} (hG : vv_gok G) {x1 : Int32} {T : tw_T} {r : Int32 × tw_T} (h : J_province x1 T = some r) : vv_V l G MX4_province (d + 7) 0 [(0, .ref o), (1, .int x1)] [] (tp o h0 T, nz) (.inl (some (.int r.1)), (tp o h0 r.2, nz)) := by
  unfold J_province at h
  refine vv_aload_n dX4_province_0 rfl 0 rfl ?_
  refine vv_iconst (v := (nI 0)) dX4_province_1 (by decide) ?_
  obtain ⟨T1, eT1, h⟩ := bd_s h
  refine tw_put (T1 := T1) (pt_X4_117 hG) hG rfl rfl rfl (by decide) (by rw [eT1]; exact tw_set0 _ _ _) (by rw [eT1]; rfl) dX4_province_2 ?_
  refine vv_aload_n dX4_province_5 rfl 0 rfl ?_
  refine vv_iload_n dX4_province_6 rfl 1 rfl ?_
  refine vv_if_lt (tgt := 22) dX4_province_7 (by decide) (fun c2 => ?_) (fun c2 => ?_)
  · rw [if_pos c2] at h
    exact v_province_22 hG h
  · rw [if_neg c2] at h
    refine vv_iload_n dX4_province_10 rfl 1 rfl ?_
    refine vv_aload_n dX4_province_11 rfl 0 rfl ?_
    refine tw_get (fl_X4_120 hG) (k := 13) rfl dX4_province_12 ?_
    refine vv_icmp_gt (tgt := 22) dX4_province_15 (by decide) (fun c3 => ?_) (fun c3 => ?_)
    · rw [if_pos c3] at h
      exact v_province_22 hG h
    · rw [if_neg c3] at h
      refine vv_iconst (v := (nI 1)) dX4_province_18 (by decide) ?_
      refine vv_goto (tgt := 23) dX4_province_19 (by decide) ?_
      exact v_province_23 hG h
theorem m_province {l : Launch} {G : vv_G} {o : Nat} {h0 : Nat → Option vv_E} {nz : Nat × Nat} (hG : vv_gok G) {x1 : Int32} {T : tw_T} {r : Int32 × tw_T} (h : J_province x1 T = some r) (d : Nat) : vv_Met l G MX4_province (d + 7) [.ref o, .int x1] (tp o h0 T, nz) (.inl (some (.int r.1)), (tp o h0 r.2, nz)) := vv_head (by decide +kernel) rfl (Nat.le_of_ble_eq_true rfl) rfl (v_province_0 hG h)
/-! fault -/
def J_fault (T : tw_T) : Option (Int32 × tw_T) := (some (tw_F T 0 (nI 0))).bind fun T1 => some ((T1.1 15), T1)
theorem v_fault_0 {l : Launch} {G : vv_G} {d : Nat} {o : Nat} {h0 : Nat → Option vv_E} {nz : Nat × Nat} (hG : vv_gok G) {T : tw_T} {r : Int32 × tw_T} (h : J_fault T = some r) : vv_V l G MX4_fault (d + 0) 0 [(0, .ref o)] [] (tp o h0 T, nz) (.inl (some (.int r.1)), (tp o h0 r.2, nz)) := by
  unfold J_fault at h
  refine vv_aload_n dX4_fault_0 rfl 0 rfl ?_
  refine vv_iconst (v := (nI 0)) dX4_fault_1 (by decide) ?_
  obtain ⟨T1, eT1, h⟩ := bd_s h
  refine tw_put (T1 := T1) (pt_X4_117 hG) hG rfl rfl rfl (by decide) (by rw [eT1]; exact tw_set0 _ _ _) (by rw [eT1]; rfl) dX4_fault_2 ?_
  refine vv_aload_n dX4_fault_5 rfl 0 rfl ?_
  refine tw_get (fl_X4_38 hG) (k := 15) rfl dX4_fault_6 ?_
  cases h
  exact vv_iret rfl dX4_fault_9
theorem m_fault {l : Launch} {G : vv_G} {o : Nat} {h0 : Nat → Option vv_E} {nz : Nat × Nat} (hG : vv_gok G) {T : tw_T} {r : Int32 × tw_T} (h : J_fault T = some r) (d : Nat) : vv_Met l G MX4_fault (d + 0) [.ref o] (tp o h0 T, nz) (.inl (some (.int r.1)), (tp o h0 r.2, nz)) := vv_head (by decide +kernel) rfl (Nat.le_of_ble_eq_true rfl) rfl (v_fault_0 hG h)
/-! undo -/
def B_undo_26 (k26 : Int32 → tw_T → Option (Int32 × tw_T)) (x1 : Int32) (T : tw_T) : Option (Int32 × tw_T) := if (nI 85) ≤ x1 then (some ((T.1 44), T)) else ((rdI 3400 (T.2.2 21) (((nI 85) * (T.1 44)) + x1)).bind fun v2 => (stA T 20 170 x1 v2).bind fun T3 => k26 (x1 + (nI 1)) T3)
def J_undo_26 : Nat → Int32 → tw_T → Option (Int32 × tw_T)
  | 0, _, _ => none
  | n + 1, x1, T => B_undo_26 (J_undo_26 n) x1 T
theorem vb_undo_26 {l : Launch} {G : vv_G} {d : Nat} {o : Nat} {h0 : Nat → Option vv_E} {nz : Nat × Nat} (hG : vv_gok G) {k26 : Int32 → tw_T → Option (Int32 × tw_T)} (hk26 : ∀ {x1 : Int32} {T : tw_T} {r : Int32 × tw_T}, k26 x1 T = some r → vv_V l G MX4_undo (d + 0) 26 [(0, .ref o), (1, .int x1)] [] (tp o h0 T, nz) (.inl (some (.int r.1)), (tp o h0 r.2, nz))) {x1 : Int32} {T : tw_T} {r : Int32 × tw_T} (h : B_undo_26 k26 x1 T = some r) : vv_V l G MX4_undo (d + 0) 26 [(0, .ref o), (1, .int x1)] [] (tp o h0 T, nz) (.inl (some (.int r.1)), (tp o h0 r.2, nz)) := by
  unfold B_undo_26 at h
  refine vv_iload_n dX4_undo_26 rfl 1 rfl ?_
  refine vv_bipush (v := (nI 85)) dX4_undo_27 (by decide) ?_
  refine vv_icmp_ge (tgt := 58) dX4_undo_29 (by decide) (fun c1 => ?_) (fun c1 => ?_)
  · rw [if_pos c1] at h
    refine vv_aload_n dX4_undo_58 rfl 0 rfl ?_
    refine tw_get (fl_X4_294 hG) (k := 44) rfl dX4_undo_59 ?_
    cases h
    exact vv_iret rfl dX4_undo_62
  · rw [if_neg c1] at h
    refine vv_aload_n dX4_undo_32 rfl 0 rfl ?_
    refine tw_get (fl_X4_75 hG) (k := 42) rfl dX4_undo_33 ?_
    refine vv_iload_n dX4_undo_36 rfl 1 rfl ?_
    refine vv_aload_n dX4_undo_37 rfl 0 rfl ?_
    refine tw_get (fl_X4_78 hG) (k := 43) rfl dX4_undo_38 ?_
    refine vv_bipush (v := (nI 85)) dX4_undo_41 (by decide) ?_
    refine vv_aload_n dX4_undo_43 rfl 0 rfl ?_
    refine tw_get (fl_X4_294 hG) (k := 44) rfl dX4_undo_44 ?_
    refine vv_imul dX4_undo_47 ?_
    refine vv_iload_n dX4_undo_48 rfl 1 rfl ?_
    refine vv_iadd dX4_undo_49 ?_
    obtain ⟨v2, iv2, ev2, h⟩ := rd_o h
    refine tw_ald 21 (by decide) rfl iv2 ev2 dX4_undo_50 ?_
    obtain ⟨T3, iT3, eT3, h⟩ := st_o h
    refine tw_ast 20 (by decide) rfl iT3 eT3 dX4_undo_51 ?_
    refine vv_iinc (v := (x1 + (nI 1))) (lv' := [(0, .ref o), (1, .int (x1 + (nI 1)))]) dX4_undo_52 1 rfl rfl (by decide) [1, 0] rfl ?_
    refine vv_goto (tgt := 26) dX4_undo_55 (by decide) ?_
    exact hk26 h
theorem v_undo_26 {l : Launch} {G : vv_G} {d : Nat} {o : Nat} {h0 : Nat → Option vv_E} {nz : Nat × Nat} (hG : vv_gok G) : ∀ (n : Nat) {x1 : Int32} {T : tw_T} {r : Int32 × tw_T}, J_undo_26 n x1 T = some r → vv_V l G MX4_undo (d + 0) 26 [(0, .ref o), (1, .int x1)] [] (tp o h0 T, nz) (.inl (some (.int r.1)), (tp o h0 r.2, nz)) := by
  intro n
  induction n with
  | zero => intro _ _ _ h; cases h
  | succ n ih => intro _ _ _ h; exact vb_undo_26 hG ih h
def J_undo (T : tw_T) : Option (Int32 × tw_T) := (some (tw_F T 0 (nI 0))).bind fun T1 => if (T1.1 44) = 0 then (some ((-1), T1)) else ((some (tw_F T1 44 ((T1.1 44) - (nI 1)))).bind fun T3 => J_undo_26 NN (nI 0) T3)
theorem v_undo_0 {l : Launch} {G : vv_G} {d : Nat} {o : Nat} {h0 : Nat → Option vv_E} {nz : Nat × Nat} (hG : vv_gok G) {T : tw_T} {r : Int32 × tw_T} (h : J_undo T = some r) : vv_V l G MX4_undo (d + 0) 0 [(0, .ref o)] [] (tp o h0 T, nz) (.inl (some (.int r.1)), (tp o h0 r.2, nz)) := by
  unfold J_undo at h
  refine vv_aload_n dX4_undo_0 rfl 0 rfl ?_
  refine vv_iconst (v := (nI 0)) dX4_undo_1 (by decide) ?_
  obtain ⟨T1, eT1, h⟩ := bd_s h
  refine tw_put (T1 := T1) (pt_X4_117 hG) hG rfl rfl rfl (by decide) (by rw [eT1]; exact tw_set0 _ _ _) (by rw [eT1]; rfl) dX4_undo_2 ?_
  refine vv_aload_n dX4_undo_5 rfl 0 rfl ?_
  refine tw_get (fl_X4_294 hG) (k := 44) rfl dX4_undo_6 ?_
  refine vv_if_ne (tgt := 14) dX4_undo_9 (by decide) (fun c2 => ?_) (fun c2 => ?_)
  · rw [if_neg c2] at h
    refine vv_aload_n dX4_undo_14 rfl 0 rfl ?_
    refine vv_dup dX4_undo_15 rfl ?_
    refine tw_get (fl_X4_294 hG) (k := 44) rfl dX4_undo_16 ?_
    refine vv_iconst (v := (nI 1)) dX4_undo_19 (by decide) ?_
    refine vv_isub dX4_undo_20 ?_
    obtain ⟨T3, eT3, h⟩ := bd_s h
    refine tw_put (T1 := T3) (pt_X4_294 hG) hG rfl rfl rfl (by decide) (by rw [eT3]; exact tw_set44 _ _ _) (by rw [eT3]; rfl) dX4_undo_21 ?_
    refine vv_iconst (v := (nI 0)) dX4_undo_24 (by decide) ?_
    refine vv_istore_n (lv' := [(0, .ref o), (1, .int (nI 0))]) dX4_undo_25 rfl (by decide) [1, 0] rfl ?_
    exact v_undo_26 hG NN h
  · rw [if_pos c2] at h
    refine vv_iconst (v := (-1)) dX4_undo_12 (by decide) ?_
    cases h
    exact vv_iret rfl dX4_undo_13
theorem m_undo {l : Launch} {G : vv_G} {o : Nat} {h0 : Nat → Option vv_E} {nz : Nat × Nat} (hG : vv_gok G) {T : tw_T} {r : Int32 × tw_T} (h : J_undo T = some r) (d : Nat) : vv_Met l G MX4_undo (d + 0) [.ref o] (tp o h0 T, nz) (.inl (some (.int r.1)), (tp o h0 r.2, nz)) := vv_head (by decide +kernel) rfl (Nat.le_of_ble_eq_true rfl) rfl (v_undo_0 hG h)
/-! allOf -/
def B_allOf_4 (k4 : Int32 → Int32 → Int32 → tw_T → Option (Int32 × tw_T)) (x1 : Int32) (x2 : Int32) (x3 : Int32) (T : tw_T) : Option (Int32 × tw_T) := if (T.1 1) ≤ x3 then (some (x2, T)) else ((rdI 170 (T.2.2 20) (x1 + x3)).bind fun v2 => k4 x1 (x2 + v2) (x3 + (nI 1)) T)
def J_allOf_4 : Nat → Int32 → Int32 → Int32 → tw_T → Option (Int32 × tw_T)
  | 0, _, _, _, _ => none
  | n + 1, x1, x2, x3, T => B_allOf_4 (J_allOf_4 n) x1 x2 x3 T
theorem vb_allOf_4 {l : Launch} {G : vv_G} {d : Nat} {o : Nat} {h0 : Nat → Option vv_E} {nz : Nat × Nat} (hG : vv_gok G) {k4 : Int32 → Int32 → Int32 → tw_T → Option (Int32 × tw_T)} (hk4 : ∀ {x1 : Int32} {x2 : Int32} {x3 : Int32} {T : tw_T} {r : Int32 × tw_T}, k4 x1 x2 x3 T = some r → vv_V l G MX4_allOf (d + 0) 4 [(0, .ref o), (1, .int x1), (2, .int x2), (3, .int x3)] [] (tp o h0 T, nz) (.inl (some (.int r.1)), (tp o h0 r.2, nz))) {x1 : Int32} {x2 : Int32} {x3 : Int32} {T : tw_T} {r : Int32 × tw_T} (h : B_allOf_4 k4 x1 x2 x3 T = some r) : vv_V l G MX4_allOf (d + 0) 4 [(0, .ref o), (1, .int x1), (2, .int x2), (3, .int x3)] [] (tp o h0 T, nz) (.inl (some (.int r.1)), (tp o h0 r.2, nz)) := by
  unfold B_allOf_4 at h
  refine vv_iload_n dX4_allOf_4 rfl 3 rfl ?_
  refine vv_aload_n dX4_allOf_5 rfl 0 rfl ?_
  refine tw_get (fl_X4_281 hG) (k := 1) rfl dX4_allOf_6 ?_
  refine vv_icmp_ge (tgt := 29) dX4_allOf_9 (by decide) (fun c1 => ?_) (fun c1 => ?_)
  · rw [if_pos c1] at h
    refine vv_iload_n dX4_allOf_29 rfl 2 rfl ?_
    cases h
    exact vv_iret rfl dX4_allOf_30
  · rw [if_neg c1] at h
    refine vv_iload_n dX4_allOf_12 rfl 2 rfl ?_
    refine vv_aload_n dX4_allOf_13 rfl 0 rfl ?_
    refine tw_get (fl_X4_75 hG) (k := 42) rfl dX4_allOf_14 ?_
    refine vv_iload_n dX4_allOf_17 rfl 1 rfl ?_
    refine vv_iload_n dX4_allOf_18 rfl 3 rfl ?_
    refine vv_iadd dX4_allOf_19 ?_
    obtain ⟨v2, iv2, ev2, h⟩ := rd_o h
    refine tw_ald 20 (by decide) rfl iv2 ev2 dX4_allOf_20 ?_
    refine vv_iadd dX4_allOf_21 ?_
    refine vv_istore_n (lv' := [(0, .ref o), (1, .int x1), (2, .int (x2 + v2)), (3, .int x3)]) dX4_allOf_22 rfl (by decide) [1, 2, 0, 3] rfl ?_
    refine vv_iinc (v := (x3 + (nI 1))) (lv' := [(0, .ref o), (1, .int x1), (2, .int (x2 + v2)), (3, .int (x3 + (nI 1)))]) dX4_allOf_23 3 rfl rfl (by decide) [1, 2, 3, 0] rfl ?_
    refine vv_goto (tgt := 4) dX4_allOf_26 (by decide) ?_
    exact hk4 h
theorem v_allOf_4 {l : Launch} {G : vv_G} {d : Nat} {o : Nat} {h0 : Nat → Option vv_E} {nz : Nat × Nat} (hG : vv_gok G) : ∀ (n : Nat) {x1 : Int32} {x2 : Int32} {x3 : Int32} {T : tw_T} {r : Int32 × tw_T}, J_allOf_4 n x1 x2 x3 T = some r → vv_V l G MX4_allOf (d + 0) 4 [(0, .ref o), (1, .int x1), (2, .int x2), (3, .int x3)] [] (tp o h0 T, nz) (.inl (some (.int r.1)), (tp o h0 r.2, nz)) := by
  intro n
  induction n with
  | zero => intro _ _ _ _ _ h; cases h
  | succ n ih => intro _ _ _ _ _ h; exact vb_allOf_4 hG ih h
def J_allOf (x1 : Int32) (T : tw_T) : Option (Int32 × tw_T) := J_allOf_4 NN x1 (nI 0) (nI 0) T
theorem v_allOf_0 {l : Launch} {G : vv_G} {d : Nat} {o : Nat} {h0 : Nat → Option vv_E} {nz : Nat × Nat} (hG : vv_gok G) {x1 : Int32} {T : tw_T} {r : Int32 × tw_T} (h : J_allOf x1 T = some r) : vv_V l G MX4_allOf (d + 0) 0 [(0, .ref o), (1, .int x1)] [] (tp o h0 T, nz) (.inl (some (.int r.1)), (tp o h0 r.2, nz)) := by
  unfold J_allOf at h
  refine vv_iconst (v := (nI 0)) dX4_allOf_0 (by decide) ?_
  refine vv_istore_n (lv' := [(0, .ref o), (1, .int x1), (2, .int (nI 0))]) dX4_allOf_1 rfl (by decide) [1, 2, 0] rfl ?_
  refine vv_iconst (v := (nI 0)) dX4_allOf_2 (by decide) ?_
  refine vv_istore_n (lv' := [(0, .ref o), (1, .int x1), (2, .int (nI 0)), (3, .int (nI 0))]) dX4_allOf_3 rfl (by decide) [1, 2, 3, 0] rfl ?_
  exact v_allOf_4 hG NN h
theorem m_allOf {l : Launch} {G : vv_G} {o : Nat} {h0 : Nat → Option vv_E} {nz : Nat × Nat} (hG : vv_gok G) {x1 : Int32} {T : tw_T} {r : Int32 × tw_T} (h : J_allOf x1 T = some r) (d : Nat) : vv_Met l G MX4_allOf (d + 0) [.ref o, .int x1] (tp o h0 T, nz) (.inl (some (.int r.1)), (tp o h0 r.2, nz)) := vv_head (by decide +kernel) rfl (Nat.le_of_ble_eq_true rfl) rfl (v_allOf_0 hG h)
/-! goingAll -/
def J_goingAll_32 (k4 : Int32 → Int32 → tw_T → Option (Int32 × tw_T)) (s0 : Int32) (s1 : Int32) (x2 : Int32) (T : tw_T) : Option (Int32 × tw_T) := k4 (s0 ||| s1) (x2 + (nI 1)) T
theorem v_goingAll_32 {l : Launch} {G : vv_G} {d : Nat} {o : Nat} {h0 : Nat → Option vv_E} {nz : Nat × Nat} (hG : vv_gok G) {k4 : Int32 → Int32 → tw_T → Option (Int32 × tw_T)} (hk4 : ∀ {x1 : Int32} {x2 : Int32} {T : tw_T} {r : Int32 × tw_T}, k4 x1 x2 T = some r → vv_V l G MX4_goingAll (d + 0) 4 [(0, .ref o), (1, .int x1), (2, .int x2)] [] (tp o h0 T, nz) (.inl (some (.int r.1)), (tp o h0 r.2, nz))) {s0 : Int32} {s1 : Int32} {x2 : Int32} {T : tw_T} {r : Int32 × tw_T} (h : J_goingAll_32 k4 s0 s1 x2 T = some r) : vv_V l G MX4_goingAll (d + 0) 32 [(0, .ref o), (2, .int x2)] [.int s1, .int s0] (tp o h0 T, nz) (.inl (some (.int r.1)), (tp o h0 r.2, nz)) := by
  unfold J_goingAll_32 at h
  refine vv_ior dX4_goingAll_32 ?_
  refine vv_istore_n (lv' := [(0, .ref o), (1, .int (s0 ||| s1)), (2, .int x2)]) dX4_goingAll_33 rfl (by decide) [1, 0, 2] rfl ?_
  refine vv_iinc (v := (x2 + (nI 1))) (lv' := [(0, .ref o), (1, .int (s0 ||| s1)), (2, .int (x2 + (nI 1)))]) dX4_goingAll_34 2 rfl rfl (by decide) [1, 2, 0] rfl ?_
  refine vv_goto (tgt := 4) dX4_goingAll_37 (by decide) ?_
  exact hk4 h
def B_goingAll_4 (k4 : Int32 → Int32 → tw_T → Option (Int32 × tw_T)) (x1 : Int32) (x2 : Int32) (T : tw_T) : Option (Int32 × tw_T) := if (T.1 3) ≤ x2 then (some (x1, T)) else ((rdI 170 (T.2.2 20) ((nI 65) + x2)).bind fun v2 => if v2 ≤ 0 then (J_goingAll_32 k4 x1 (nI 0) x2 T) else (J_goingAll_32 k4 x1 ((nI 1) <<< (x2 &&& 31)) x2 T))
def J_goingAll_4 : Nat → Int32 → Int32 → tw_T → Option (Int32 × tw_T)
  | 0, _, _, _ => none
  | n + 1, x1, x2, T => B_goingAll_4 (J_goingAll_4 n) x1 x2 T
theorem vb_goingAll_4 {l : Launch} {G : vv_G} {d : Nat} {o : Nat} {h0 : Nat → Option vv_E} {nz : Nat × Nat} (hG : vv_gok G) {k4 : Int32 → Int32 → tw_T → Option (Int32 × tw_T)} (hk4 : ∀ {x1 : Int32} {x2 : Int32} {T : tw_T} {r : Int32 × tw_T}, k4 x1 x2 T = some r → vv_V l G MX4_goingAll (d + 0) 4 [(0, .ref o), (1, .int x1), (2, .int x2)] [] (tp o h0 T, nz) (.inl (some (.int r.1)), (tp o h0 r.2, nz))) {x1 : Int32} {x2 : Int32} {T : tw_T} {r : Int32 × tw_T} (h : B_goingAll_4 k4 x1 x2 T = some r) : vv_V l G MX4_goingAll (d + 0) 4 [(0, .ref o), (1, .int x1), (2, .int x2)] [] (tp o h0 T, nz) (.inl (some (.int r.1)), (tp o h0 r.2, nz)) := by
  unfold B_goingAll_4 at h
  refine vv_iload_n dX4_goingAll_4 rfl 2 rfl ?_
  refine vv_aload_n dX4_goingAll_5 rfl 0 rfl ?_
  refine tw_get (fl_X4_287 hG) (k := 3) rfl dX4_goingAll_6 ?_
  refine vv_icmp_ge (tgt := 40) dX4_goingAll_9 (by decide) (fun c1 => ?_) (fun c1 => ?_)
  · rw [if_pos c1] at h
    refine vv_iload_n dX4_goingAll_40 rfl 1 rfl ?_
    cases h
    exact vv_iret rfl dX4_goingAll_41
  · rw [if_neg c1] at h
    refine vv_iload_n dX4_goingAll_12 rfl 1 rfl ?_
    refine vv_aload_n dX4_goingAll_13 rfl 0 rfl ?_
    refine tw_get (fl_X4_75 hG) (k := 42) rfl dX4_goingAll_14 ?_
    refine vv_bipush (v := (nI 65)) dX4_goingAll_17 (by decide) ?_
    refine vv_iload_n dX4_goingAll_19 rfl 2 rfl ?_
    refine vv_iadd dX4_goingAll_20 ?_
    obtain ⟨v2, iv2, ev2, h⟩ := rd_o h
    refine tw_ald 20 (by decide) rfl iv2 ev2 dX4_goingAll_21 ?_
    refine vv_if_le (tgt := 31) dX4_goingAll_22 (by decide) (fun c3 => ?_) (fun c3 => ?_)
    · rw [if_pos c3] at h
      refine vv_iconst (v := (nI 0)) dX4_goingAll_31 (by decide) ?_
      refine vv_sub (lv' := [(0, .ref o), (2, .int x2)]) [0, 2] rfl ?_
      exact v_goingAll_32 hG hk4 h
    · rw [if_neg c3] at h
      refine vv_iconst (v := (nI 1)) dX4_goingAll_25 (by decide) ?_
      refine vv_iload_n dX4_goingAll_26 rfl 2 rfl ?_
      refine vv_ishl dX4_goingAll_27 ?_
      refine vv_goto (tgt := 32) dX4_goingAll_28 (by decide) ?_
      refine vv_sub (lv' := [(0, .ref o), (2, .int x2)]) [0, 2] rfl ?_
      exact v_goingAll_32 hG hk4 h
theorem v_goingAll_4 {l : Launch} {G : vv_G} {d : Nat} {o : Nat} {h0 : Nat → Option vv_E} {nz : Nat × Nat} (hG : vv_gok G) : ∀ (n : Nat) {x1 : Int32} {x2 : Int32} {T : tw_T} {r : Int32 × tw_T}, J_goingAll_4 n x1 x2 T = some r → vv_V l G MX4_goingAll (d + 0) 4 [(0, .ref o), (1, .int x1), (2, .int x2)] [] (tp o h0 T, nz) (.inl (some (.int r.1)), (tp o h0 r.2, nz)) := by
  intro n
  induction n with
  | zero => intro _ _ _ _ h; cases h
  | succ n ih => intro _ _ _ _ h; exact vb_goingAll_4 hG ih h
def J_goingAll (T : tw_T) : Option (Int32 × tw_T) := J_goingAll_4 NN (nI 0) (nI 0) T
theorem v_goingAll_0 {l : Launch} {G : vv_G} {d : Nat} {o : Nat} {h0 : Nat → Option vv_E} {nz : Nat × Nat} (hG : vv_gok G) {T : tw_T} {r : Int32 × tw_T} (h : J_goingAll T = some r) : vv_V l G MX4_goingAll (d + 0) 0 [(0, .ref o)] [] (tp o h0 T, nz) (.inl (some (.int r.1)), (tp o h0 r.2, nz)) := by
  unfold J_goingAll at h
  refine vv_iconst (v := (nI 0)) dX4_goingAll_0 (by decide) ?_
  refine vv_istore_n (lv' := [(0, .ref o), (1, .int (nI 0))]) dX4_goingAll_1 rfl (by decide) [1, 0] rfl ?_
  refine vv_iconst (v := (nI 0)) dX4_goingAll_2 (by decide) ?_
  refine vv_istore_n (lv' := [(0, .ref o), (1, .int (nI 0)), (2, .int (nI 0))]) dX4_goingAll_3 rfl (by decide) [1, 2, 0] rfl ?_
  exact v_goingAll_4 hG NN h
theorem m_goingAll {l : Launch} {G : vv_G} {o : Nat} {h0 : Nat → Option vv_E} {nz : Nat × Nat} (hG : vv_gok G) {T : tw_T} {r : Int32 × tw_T} (h : J_goingAll T = some r) (d : Nat) : vv_Met l G MX4_goingAll (d + 0) [.ref o] (tp o h0 T, nz) (.inl (some (.int r.1)), (tp o h0 r.2, nz)) := vv_head (by decide +kernel) rfl (Nat.le_of_ble_eq_true rfl) rfl (v_goingAll_0 hG h)
/-! goneIn -/
def J_goneIn_35 (k4 : Int32 → Int32 → Int32 → tw_T → Option (Int32 × tw_T)) (s0 : Int32) (s1 : Int32) (x1 : Int32) (x3 : Int32) (T : tw_T) : Option (Int32 × tw_T) := k4 x1 (s0 ||| s1) (x3 + (nI 1)) T
theorem v_goneIn_35 {l : Launch} {G : vv_G} {d : Nat} {o : Nat} {h0 : Nat → Option vv_E} {nz : Nat × Nat} (hG : vv_gok G) {k4 : Int32 → Int32 → Int32 → tw_T → Option (Int32 × tw_T)} (hk4 : ∀ {x1 : Int32} {x2 : Int32} {x3 : Int32} {T : tw_T} {r : Int32 × tw_T}, k4 x1 x2 x3 T = some r → vv_V l G MX4_goneIn (d + 0) 4 [(0, .ref o), (1, .int x1), (2, .int x2), (3, .int x3)] [] (tp o h0 T, nz) (.inl (some (.int r.1)), (tp o h0 r.2, nz))) {s0 : Int32} {s1 : Int32} {x1 : Int32} {x3 : Int32} {T : tw_T} {r : Int32 × tw_T} (h : J_goneIn_35 k4 s0 s1 x1 x3 T = some r) : vv_V l G MX4_goneIn (d + 0) 35 [(0, .ref o), (1, .int x1), (3, .int x3)] [.int s1, .int s0] (tp o h0 T, nz) (.inl (some (.int r.1)), (tp o h0 r.2, nz)) := by
  unfold J_goneIn_35 at h
  refine vv_ior dX4_goneIn_35 ?_
  refine vv_istore_n (lv' := [(0, .ref o), (1, .int x1), (2, .int (s0 ||| s1)), (3, .int x3)]) dX4_goneIn_36 rfl (by decide) [1, 2, 0, 3] rfl ?_
  refine vv_iinc (v := (x3 + (nI 1))) (lv' := [(0, .ref o), (1, .int x1), (2, .int (s0 ||| s1)), (3, .int (x3 + (nI 1)))]) dX4_goneIn_37 3 rfl rfl (by decide) [1, 2, 3, 0] rfl ?_
  refine vv_goto (tgt := 4) dX4_goneIn_40 (by decide) ?_
  exact hk4 h
def B_goneIn_4 (k4 : Int32 → Int32 → Int32 → tw_T → Option (Int32 × tw_T)) (x1 : Int32) (x2 : Int32) (x3 : Int32) (T : tw_T) : Option (Int32 × tw_T) := if (T.1 3) ≤ x3 then (some (x2, T)) else ((rdI 170 (T.2.2 20) ((x1 + (nI 55)) + x3)).bind fun v2 => if v2 = (-1) then (J_goneIn_35 k4 x2 ((nI 1) <<< (x3 &&& 31)) x1 x3 T) else (J_goneIn_35 k4 x2 (nI 0) x1 x3 T))
def J_goneIn_4 : Nat → Int32 → Int32 → Int32 → tw_T → Option (Int32 × tw_T)
  | 0, _, _, _, _ => none
  | n + 1, x1, x2, x3, T => B_goneIn_4 (J_goneIn_4 n) x1 x2 x3 T
theorem vb_goneIn_4 {l : Launch} {G : vv_G} {d : Nat} {o : Nat} {h0 : Nat → Option vv_E} {nz : Nat × Nat} (hG : vv_gok G) {k4 : Int32 → Int32 → Int32 → tw_T → Option (Int32 × tw_T)} (hk4 : ∀ {x1 : Int32} {x2 : Int32} {x3 : Int32} {T : tw_T} {r : Int32 × tw_T}, k4 x1 x2 x3 T = some r → vv_V l G MX4_goneIn (d + 0) 4 [(0, .ref o), (1, .int x1), (2, .int x2), (3, .int x3)] [] (tp o h0 T, nz) (.inl (some (.int r.1)), (tp o h0 r.2, nz))) {x1 : Int32} {x2 : Int32} {x3 : Int32} {T : tw_T} {r : Int32 × tw_T} (h : B_goneIn_4 k4 x1 x2 x3 T = some r) : vv_V l G MX4_goneIn (d + 0) 4 [(0, .ref o), (1, .int x1), (2, .int x2), (3, .int x3)] [] (tp o h0 T, nz) (.inl (some (.int r.1)), (tp o h0 r.2, nz)) := by
  unfold B_goneIn_4 at h
  refine vv_iload_n dX4_goneIn_4 rfl 3 rfl ?_
  refine vv_aload_n dX4_goneIn_5 rfl 0 rfl ?_
  refine tw_get (fl_X4_287 hG) (k := 3) rfl dX4_goneIn_6 ?_
  refine vv_icmp_ge (tgt := 43) dX4_goneIn_9 (by decide) (fun c1 => ?_) (fun c1 => ?_)
  · rw [if_pos c1] at h
    refine vv_iload_n dX4_goneIn_43 rfl 2 rfl ?_
    cases h
    exact vv_iret rfl dX4_goneIn_44
  · rw [if_neg c1] at h
    refine vv_iload_n dX4_goneIn_12 rfl 2 rfl ?_
    refine vv_aload_n dX4_goneIn_13 rfl 0 rfl ?_
    refine tw_get (fl_X4_75 hG) (k := 42) rfl dX4_goneIn_14 ?_
    refine vv_iload_n dX4_goneIn_17 rfl 1 rfl ?_
    refine vv_bipush (v := (nI 55)) dX4_goneIn_18 (by decide) ?_
    refine vv_iadd dX4_goneIn_20 ?_
    refine vv_iload_n dX4_goneIn_21 rfl 3 rfl ?_
    refine vv_iadd dX4_goneIn_22 ?_
    obtain ⟨v2, iv2, ev2, h⟩ := rd_o h
    refine tw_ald 20 (by decide) rfl iv2 ev2 dX4_goneIn_23 ?_
    refine vv_iconst (v := (-1)) dX4_goneIn_24 (by decide) ?_
    refine vv_icmp_ne (tgt := 34) dX4_goneIn_25 (by decide) (fun c3 => ?_) (fun c3 => ?_)
    · rw [if_neg c3] at h
      refine vv_iconst (v := (nI 0)) dX4_goneIn_34 (by decide) ?_
      refine vv_sub (lv' := [(0, .ref o), (1, .int x1), (3, .int x3)]) [0, 1, 3] rfl ?_
      exact v_goneIn_35 hG hk4 h
    · rw [if_pos c3] at h
      refine vv_iconst (v := (nI 1)) dX4_goneIn_28 (by decide) ?_
      refine vv_iload_n dX4_goneIn_29 rfl 3 rfl ?_
      refine vv_ishl dX4_goneIn_30 ?_
      refine vv_goto (tgt := 35) dX4_goneIn_31 (by decide) ?_
      refine vv_sub (lv' := [(0, .ref o), (1, .int x1), (3, .int x3)]) [0, 1, 3] rfl ?_
      exact v_goneIn_35 hG hk4 h
theorem v_goneIn_4 {l : Launch} {G : vv_G} {d : Nat} {o : Nat} {h0 : Nat → Option vv_E} {nz : Nat × Nat} (hG : vv_gok G) : ∀ (n : Nat) {x1 : Int32} {x2 : Int32} {x3 : Int32} {T : tw_T} {r : Int32 × tw_T}, J_goneIn_4 n x1 x2 x3 T = some r → vv_V l G MX4_goneIn (d + 0) 4 [(0, .ref o), (1, .int x1), (2, .int x2), (3, .int x3)] [] (tp o h0 T, nz) (.inl (some (.int r.1)), (tp o h0 r.2, nz)) := by
  intro n
  induction n with
  | zero => intro _ _ _ _ _ h; cases h
  | succ n ih => intro _ _ _ _ _ h; exact vb_goneIn_4 hG ih h
def J_goneIn (x1 : Int32) (T : tw_T) : Option (Int32 × tw_T) := J_goneIn_4 NN x1 (nI 0) (nI 0) T
theorem v_goneIn_0 {l : Launch} {G : vv_G} {d : Nat} {o : Nat} {h0 : Nat → Option vv_E} {nz : Nat × Nat} (hG : vv_gok G) {x1 : Int32} {T : tw_T} {r : Int32 × tw_T} (h : J_goneIn x1 T = some r) : vv_V l G MX4_goneIn (d + 0) 0 [(0, .ref o), (1, .int x1)] [] (tp o h0 T, nz) (.inl (some (.int r.1)), (tp o h0 r.2, nz)) := by
  unfold J_goneIn at h
  refine vv_iconst (v := (nI 0)) dX4_goneIn_0 (by decide) ?_
  refine vv_istore_n (lv' := [(0, .ref o), (1, .int x1), (2, .int (nI 0))]) dX4_goneIn_1 rfl (by decide) [1, 2, 0] rfl ?_
  refine vv_iconst (v := (nI 0)) dX4_goneIn_2 (by decide) ?_
  refine vv_istore_n (lv' := [(0, .ref o), (1, .int x1), (2, .int (nI 0)), (3, .int (nI 0))]) dX4_goneIn_3 rfl (by decide) [1, 2, 3, 0] rfl ?_
  exact v_goneIn_4 hG NN h
theorem m_goneIn {l : Launch} {G : vv_G} {o : Nat} {h0 : Nat → Option vv_E} {nz : Nat × Nat} (hG : vv_gok G) {x1 : Int32} {T : tw_T} {r : Int32 × tw_T} (h : J_goneIn x1 T = some r) (d : Nat) : vv_Met l G MX4_goneIn (d + 0) [.ref o, .int x1] (tp o h0 T, nz) (.inl (some (.int r.1)), (tp o h0 r.2, nz)) := vv_head (by decide +kernel) rfl (Nat.le_of_ble_eq_true rfl) rfl (v_goneIn_0 hG h)
/-! lies -/
def J_lies_34 (s0 : Int32) (T : tw_T) : Option (Int32 × tw_T) := (zrI s0).bind fun v1 => some (v1, T)
theorem v_lies_34 {l : Launch} {G : vv_G} {d : Nat} {o : Nat} {h0 : Nat → Option vv_E} {nz : Nat × Nat} (hG : vv_gok G) {s0 : Int32} {T : tw_T} {r : Int32 × tw_T} (h : J_lies_34 s0 T = some r) : vv_V l G MX4_lies (d + 0) 34 [(0, .ref o)] [.int s0] (tp o h0 T, nz) (.inl (some (.int r.1)), (tp o h0 r.2, nz)) := by
  unfold J_lies_34 at h
  obtain ⟨zv1, h⟩ := zr_o h
  cases h
  exact vv_zret rfl zv1 dX4_lies_34
def J_lies_33 (T : tw_T) : Option (Int32 × tw_T) := J_lies_34 (nI 0) T
theorem v_lies_33 {l : Launch} {G : vv_G} {d : Nat} {o : Nat} {h0 : Nat → Option vv_E} {nz : Nat × Nat} (hG : vv_gok G) {T : tw_T} {r : Int32 × tw_T} (h : J_lies_33 T = some r) : vv_V l G MX4_lies (d + 0) 33 [(0, .ref o)] [] (tp o h0 T, nz) (.inl (some (.int r.1)), (tp o h0 r.2, nz)) := by
  unfold J_lies_33 at h
  refine vv_iconst (v := (nI 0)) dX4_lies_33 (by decide) ?_
  exact v_lies_34 hG h
def J_lies (x1 : Int32) (x2 : Int32) (T : tw_T) : Option (Int32 × tw_T) := (rdI 170 (T.2.2 20) ((x1 + (nI 55)) + x2)).bind fun v1 => if v1 = (-1) then (J_lies_33 T) else ((rdI 170 (T.2.2 20) ((x1 + (nI 65)) + x2)).bind fun v3 => if v3 = 0 then (J_lies_34 (nI 1) T) else (J_lies_33 T))
theorem v_lies_0 {l : Launch} {G : vv_G} {d : Nat} {o : Nat} {h0 : Nat → Option vv_E} {nz : Nat × Nat} (hG : vv_gok G) {x1 : Int32} {x2 : Int32} {T : tw_T} {r : Int32 × tw_T} (h : J_lies x1 x2 T = some r) : vv_V l G MX4_lies (d + 0) 0 [(0, .ref o), (1, .int x1), (2, .int x2)] [] (tp o h0 T, nz) (.inl (some (.int r.1)), (tp o h0 r.2, nz)) := by
  unfold J_lies at h
  refine vv_aload_n dX4_lies_0 rfl 0 rfl ?_
  refine tw_get (fl_X4_75 hG) (k := 42) rfl dX4_lies_1 ?_
  refine vv_iload_n dX4_lies_4 rfl 1 rfl ?_
  refine vv_bipush (v := (nI 55)) dX4_lies_5 (by decide) ?_
  refine vv_iadd dX4_lies_7 ?_
  refine vv_iload_n dX4_lies_8 rfl 2 rfl ?_
  refine vv_iadd dX4_lies_9 ?_
  obtain ⟨v1, iv1, ev1, h⟩ := rd_o h
  refine tw_ald 20 (by decide) rfl iv1 ev1 dX4_lies_10 ?_
  refine vv_iconst (v := (-1)) dX4_lies_11 (by decide) ?_
  refine vv_icmp_eq (tgt := 33) dX4_lies_12 (by decide) (fun c2 => ?_) (fun c2 => ?_)
  · rw [if_pos c2] at h
    refine vv_sub (lv' := [(0, .ref o)]) [0] rfl ?_
    exact v_lies_33 hG h
  · rw [if_neg c2] at h
    refine vv_aload_n dX4_lies_15 rfl 0 rfl ?_
    refine tw_get (fl_X4_75 hG) (k := 42) rfl dX4_lies_16 ?_
    refine vv_iload_n dX4_lies_19 rfl 1 rfl ?_
    refine vv_bipush (v := (nI 65)) dX4_lies_20 (by decide) ?_
    refine vv_iadd dX4_lies_22 ?_
    refine vv_iload_n dX4_lies_23 rfl 2 rfl ?_
    refine vv_iadd dX4_lies_24 ?_
    obtain ⟨v3, iv3, ev3, h⟩ := rd_o h
    refine tw_ald 20 (by decide) rfl iv3 ev3 dX4_lies_25 ?_
    refine vv_if_ne (tgt := 33) dX4_lies_26 (by decide) (fun c4 => ?_) (fun c4 => ?_)
    · rw [if_neg c4] at h
      refine vv_sub (lv' := [(0, .ref o)]) [0] rfl ?_
      exact v_lies_33 hG h
    · rw [if_pos c4] at h
      refine vv_iconst (v := (nI 1)) dX4_lies_29 (by decide) ?_
      refine vv_goto (tgt := 34) dX4_lies_30 (by decide) ?_
      refine vv_sub (lv' := [(0, .ref o)]) [0] rfl ?_
      exact v_lies_34 hG h
theorem m_lies {l : Launch} {G : vv_G} {o : Nat} {h0 : Nat → Option vv_E} {nz : Nat × Nat} (hG : vv_gok G) {x1 : Int32} {x2 : Int32} {T : tw_T} {r : Int32 × tw_T} (h : J_lies x1 x2 T = some r) (d : Nat) : vv_Met l G MX4_lies (d + 0) [.ref o, .int x1, .int x2] (tp o h0 T, nz) (.inl (some (.int r.1)), (tp o h0 r.2, nz)) := vv_head (by decide +kernel) rfl (Nat.le_of_ble_eq_true rfl) rfl (v_lies_0 hG h)
/-! lyingAll -/
def J_lyingAll_29 (k4 : Int32 → Int32 → tw_T → Option (Int32 × tw_T)) (s0 : Int32) (s1 : Int32) (x2 : Int32) (T : tw_T) : Option (Int32 × tw_T) := k4 (s0 ||| s1) (x2 + (nI 1)) T
theorem v_lyingAll_29 {l : Launch} {G : vv_G} {d : Nat} {o : Nat} {h0 : Nat → Option vv_E} {nz : Nat × Nat} (hG : vv_gok G) {k4 : Int32 → Int32 → tw_T → Option (Int32 × tw_T)} (hk4 : ∀ {x1 : Int32} {x2 : Int32} {T : tw_T} {r : Int32 × tw_T}, k4 x1 x2 T = some r → vv_V l G MX4_lyingAll (d + 1) 4 [(0, .ref o), (1, .int x1), (2, .int x2)] [] (tp o h0 T, nz) (.inl (some (.int r.1)), (tp o h0 r.2, nz))) {s0 : Int32} {s1 : Int32} {x2 : Int32} {T : tw_T} {r : Int32 × tw_T} (h : J_lyingAll_29 k4 s0 s1 x2 T = some r) : vv_V l G MX4_lyingAll (d + 1) 29 [(0, .ref o), (2, .int x2)] [.int s1, .int s0] (tp o h0 T, nz) (.inl (some (.int r.1)), (tp o h0 r.2, nz)) := by
  unfold J_lyingAll_29 at h
  refine vv_ior dX4_lyingAll_29 ?_
  refine vv_istore_n (lv' := [(0, .ref o), (1, .int (s0 ||| s1)), (2, .int x2)]) dX4_lyingAll_30 rfl (by decide) [1, 0, 2] rfl ?_
  refine vv_iinc (v := (x2 + (nI 1))) (lv' := [(0, .ref o), (1, .int (s0 ||| s1)), (2, .int (x2 + (nI 1)))]) dX4_lyingAll_31 2 rfl rfl (by decide) [1, 2, 0] rfl ?_
  refine vv_goto (tgt := 4) dX4_lyingAll_34 (by decide) ?_
  exact hk4 h
def B_lyingAll_4 (k4 : Int32 → Int32 → tw_T → Option (Int32 × tw_T)) (x1 : Int32) (x2 : Int32) (T : tw_T) : Option (Int32 × tw_T) := if (T.1 3) ≤ x2 then (some (x1, T)) else ((J_lies (nI 0) x2 T).bind fun r2 => if r2.1 = 0 then (J_lyingAll_29 k4 x1 (nI 0) x2 r2.2) else (J_lyingAll_29 k4 x1 ((nI 1) <<< (x2 &&& 31)) x2 r2.2))
def J_lyingAll_4 : Nat → Int32 → Int32 → tw_T → Option (Int32 × tw_T)
  | 0, _, _, _ => none
  | n + 1, x1, x2, T => B_lyingAll_4 (J_lyingAll_4 n) x1 x2 T
theorem vb_lyingAll_4 {l : Launch} {G : vv_G} {d : Nat} {o : Nat} {h0 : Nat → Option vv_E} {nz : Nat × Nat} (hG : vv_gok G) {k4 : Int32 → Int32 → tw_T → Option (Int32 × tw_T)} (hk4 : ∀ {x1 : Int32} {x2 : Int32} {T : tw_T} {r : Int32 × tw_T}, k4 x1 x2 T = some r → vv_V l G MX4_lyingAll (d + 1) 4 [(0, .ref o), (1, .int x1), (2, .int x2)] [] (tp o h0 T, nz) (.inl (some (.int r.1)), (tp o h0 r.2, nz))) {x1 : Int32} {x2 : Int32} {T : tw_T} {r : Int32 × tw_T} (h : B_lyingAll_4 k4 x1 x2 T = some r) : vv_V l G MX4_lyingAll (d + 1) 4 [(0, .ref o), (1, .int x1), (2, .int x2)] [] (tp o h0 T, nz) (.inl (some (.int r.1)), (tp o h0 r.2, nz)) := by
  unfold B_lyingAll_4 at h
  refine vv_iload_n dX4_lyingAll_4 rfl 2 rfl ?_
  refine vv_aload_n dX4_lyingAll_5 rfl 0 rfl ?_
  refine tw_get (fl_X4_287 hG) (k := 3) rfl dX4_lyingAll_6 ?_
  refine vv_icmp_ge (tgt := 37) dX4_lyingAll_9 (by decide) (fun c1 => ?_) (fun c1 => ?_)
  · rw [if_pos c1] at h
    refine vv_iload_n dX4_lyingAll_37 rfl 1 rfl ?_
    cases h
    exact vv_iret rfl dX4_lyingAll_38
  · rw [if_neg c1] at h
    refine vv_iload_n dX4_lyingAll_12 rfl 1 rfl ?_
    refine vv_aload_n dX4_lyingAll_13 rfl 0 rfl ?_
    refine vv_iconst (v := (nI 0)) dX4_lyingAll_14 (by decide) ?_
    refine vv_iload_n dX4_lyingAll_15 rfl 2 rfl ?_
    obtain ⟨r2, er2, h⟩ := bd_o h
    refine vv_callV ok_X4_lies q1919 (m_lies hG er2 (d + 0)) rfl (by omega) ⟨_, _, _, _, _, tp_o, by rw [hG.1]; rfl⟩ rfl rfl (Nat.le_of_ble_eq_true rfl) dX4_lyingAll_16 ?_
    refine vv_if_eq (tgt := 28) dX4_lyingAll_19 (by decide) (fun c3 => ?_) (fun c3 => ?_)
    · rw [if_pos c3] at h
      refine vv_iconst (v := (nI 0)) dX4_lyingAll_28 (by decide) ?_
      refine vv_sub (lv' := [(0, .ref o), (2, .int x2)]) [0, 2] rfl ?_
      exact v_lyingAll_29 hG hk4 h
    · rw [if_neg c3] at h
      refine vv_iconst (v := (nI 1)) dX4_lyingAll_22 (by decide) ?_
      refine vv_iload_n dX4_lyingAll_23 rfl 2 rfl ?_
      refine vv_ishl dX4_lyingAll_24 ?_
      refine vv_goto (tgt := 29) dX4_lyingAll_25 (by decide) ?_
      refine vv_sub (lv' := [(0, .ref o), (2, .int x2)]) [0, 2] rfl ?_
      exact v_lyingAll_29 hG hk4 h
theorem v_lyingAll_4 {l : Launch} {G : vv_G} {d : Nat} {o : Nat} {h0 : Nat → Option vv_E} {nz : Nat × Nat} (hG : vv_gok G) : ∀ (n : Nat) {x1 : Int32} {x2 : Int32} {T : tw_T} {r : Int32 × tw_T}, J_lyingAll_4 n x1 x2 T = some r → vv_V l G MX4_lyingAll (d + 1) 4 [(0, .ref o), (1, .int x1), (2, .int x2)] [] (tp o h0 T, nz) (.inl (some (.int r.1)), (tp o h0 r.2, nz)) := by
  intro n
  induction n with
  | zero => intro _ _ _ _ h; cases h
  | succ n ih => intro _ _ _ _ h; exact vb_lyingAll_4 hG ih h
def J_lyingAll (T : tw_T) : Option (Int32 × tw_T) := J_lyingAll_4 NN (nI 0) (nI 0) T
theorem v_lyingAll_0 {l : Launch} {G : vv_G} {d : Nat} {o : Nat} {h0 : Nat → Option vv_E} {nz : Nat × Nat} (hG : vv_gok G) {T : tw_T} {r : Int32 × tw_T} (h : J_lyingAll T = some r) : vv_V l G MX4_lyingAll (d + 1) 0 [(0, .ref o)] [] (tp o h0 T, nz) (.inl (some (.int r.1)), (tp o h0 r.2, nz)) := by
  unfold J_lyingAll at h
  refine vv_iconst (v := (nI 0)) dX4_lyingAll_0 (by decide) ?_
  refine vv_istore_n (lv' := [(0, .ref o), (1, .int (nI 0))]) dX4_lyingAll_1 rfl (by decide) [1, 0] rfl ?_
  refine vv_iconst (v := (nI 0)) dX4_lyingAll_2 (by decide) ?_
  refine vv_istore_n (lv' := [(0, .ref o), (1, .int (nI 0)), (2, .int (nI 0))]) dX4_lyingAll_3 rfl (by decide) [1, 2, 0] rfl ?_
  exact v_lyingAll_4 hG NN h
theorem m_lyingAll {l : Launch} {G : vv_G} {o : Nat} {h0 : Nat → Option vv_E} {nz : Nat × Nat} (hG : vv_gok G) {T : tw_T} {r : Int32 × tw_T} (h : J_lyingAll T = some r) (d : Nat) : vv_Met l G MX4_lyingAll (d + 1) [.ref o] (tp o h0 T, nz) (.inl (some (.int r.1)), (tp o h0 r.2, nz)) := vv_head (by decide +kernel) rfl (Nat.le_of_ble_eq_true rfl) rfl (v_lyingAll_0 hG h)
/-! within -/
def J_within_15 (s0 : Int32) : Option Int32 := (zrI s0).bind fun v1 => some v1
theorem v_within_15 {l : Launch} {G : vv_G} {d : Nat} {σ : vv_S} (hG : vv_gok G) {s0 : Int32} {r : Int32} (h : J_within_15 s0 = some r) : vv_V l G MX4_within (d + 0) 15 [] [.int s0] σ (.inl (some (.int r)), σ) := by
  unfold J_within_15 at h
  obtain ⟨zv1, h⟩ := zr_o h
  cases h
  exact vv_zret rfl zv1 dX4_within_15
def J_within_14 : Option Int32 := J_within_15 (nI 0)
theorem v_within_14 {l : Launch} {G : vv_G} {d : Nat} {σ : vv_S} (hG : vv_gok G) {r : Int32} (h : J_within_14 = some r) : vv_V l G MX4_within (d + 0) 14 [] [] σ (.inl (some (.int r)), σ) := by
  unfold J_within_14 at h
  refine vv_iconst (v := (nI 0)) dX4_within_14 (by decide) ?_
  exact v_within_15 hG h
def J_within (x0 : Int32) (x1 : Int32) (x2 : Int32) : Option Int32 := if x0 < x1 then (J_within_14) else (if x2 < x0 then (J_within_14) else (J_within_15 (nI 1)))
theorem v_within_0 {l : Launch} {G : vv_G} {d : Nat} {σ : vv_S} (hG : vv_gok G) {x0 : Int32} {x1 : Int32} {x2 : Int32} {r : Int32} (h : J_within x0 x1 x2 = some r) : vv_V l G MX4_within (d + 0) 0 [(0, .int x0), (1, .int x1), (2, .int x2)] [] σ (.inl (some (.int r)), σ) := by
  unfold J_within at h
  refine vv_iload_n dX4_within_0 rfl 0 rfl ?_
  refine vv_iload_n dX4_within_1 rfl 1 rfl ?_
  refine vv_icmp_lt (tgt := 14) dX4_within_2 (by decide) (fun c1 => ?_) (fun c1 => ?_)
  · rw [if_pos c1] at h
    refine vv_sub (lv' := []) [] rfl ?_
    exact v_within_14 hG h
  · rw [if_neg c1] at h
    refine vv_iload_n dX4_within_5 rfl 0 rfl ?_
    refine vv_iload_n dX4_within_6 rfl 2 rfl ?_
    refine vv_icmp_gt (tgt := 14) dX4_within_7 (by decide) (fun c2 => ?_) (fun c2 => ?_)
    · rw [if_pos c2] at h
      refine vv_sub (lv' := []) [] rfl ?_
      exact v_within_14 hG h
    · rw [if_neg c2] at h
      refine vv_iconst (v := (nI 1)) dX4_within_10 (by decide) ?_
      refine vv_goto (tgt := 15) dX4_within_11 (by decide) ?_
      refine vv_sub (lv' := []) [] rfl ?_
      exact v_within_15 hG h
theorem m_within {l : Launch} {G : vv_G} {σ : vv_S} (hG : vv_gok G) {x0 : Int32} {x1 : Int32} {x2 : Int32} {r : Int32} (h : J_within x0 x1 x2 = some r) (d : Nat) : vv_Met l G MX4_within (d + 0) [.int x0, .int x1, .int x2] σ (.inl (some (.int r)), σ) := vv_head (by decide +kernel) rfl (Nat.le_of_ble_eq_true rfl) rfl (v_within_0 hG h)
/-! count -/
def J_count (x1 : Int32) (T : tw_T) : Option (Int32 × tw_T) := (some (tw_F T 0 (nI 0))).bind fun T1 => (J_within x1 (nI 0) (nI 15)).bind fun r2 => (J_right r2 (nI 1) T1).bind fun r3 => if r3.1 = 0 then (some ((nI 0), r3.2)) else (if x1 = (nI 0) then (some ((r3.2.1 1), r3.2)) else if x1 = (nI 1) then (some ((r3.2.1 2), r3.2)) else if x1 = (nI 2) then (some ((r3.2.1 3), r3.2)) else if x1 = (nI 3) then ((rdI 170 (r3.2.2.2 20) (nI 0)).bind fun v9 => some (v9, r3.2)) else if x1 = (nI 4) then ((J_allOf (nI 1) r3.2).bind fun r11 => some (r11.1, r11.2)) else if x1 = (nI 5) then ((J_allOf (nI 9) r3.2).bind fun r13 => some (r13.1, r13.2)) else if x1 = (nI 6) then ((J_allOf (nI 17) r3.2).bind fun r15 => some (r15.1, r15.2)) else if x1 = (nI 7) then ((J_lyingAll r3.2).bind fun r17 => some (r17.1, r17.2)) else if x1 = (nI 8) then ((J_goingAll r3.2).bind fun r19 => some (r19.1, r19.2)) else if x1 = (nI 9) then ((J_goneIn (nI 0) r3.2).bind fun r21 => some (r21.1, r21.2)) else if x1 = (nI 10) then (some ((r3.2.1 44), r3.2)) else if x1 = (nI 11) then (some ((r3.2.1 52), r3.2)) else if x1 = (nI 12) then (some ((r3.2.1 13), r3.2)) else ((rdI 3 (r3.2.2.2 9) (x1 - (nI 13))).bind fun v25 => some (v25, r3.2)))
theorem v_count_0 {l : Launch} {G : vv_G} {d : Nat} {o : Nat} {h0 : Nat → Option vv_E} {nz : Nat × Nat} (hG : vv_gok G) {x1 : Int32} {T : tw_T} {r : Int32 × tw_T} (h : J_count x1 T = some r) : vv_V l G MX4_count (d + 2) 0 [(0, .ref o), (1, .int x1)] [] (tp o h0 T, nz) (.inl (some (.int r.1)), (tp o h0 r.2, nz)) := by
  unfold J_count at h
  refine vv_aload_n dX4_count_0 rfl 0 rfl ?_
  refine vv_iconst (v := (nI 0)) dX4_count_1 (by decide) ?_
  obtain ⟨T1, eT1, h⟩ := bd_s h
  refine tw_put (T1 := T1) (pt_X4_117 hG) hG rfl rfl rfl (by decide) (by rw [eT1]; exact tw_set0 _ _ _) (by rw [eT1]; rfl) dX4_count_2 ?_
  refine vv_aload_n dX4_count_5 rfl 0 rfl ?_
  refine vv_iload_n dX4_count_6 rfl 1 rfl ?_
  refine vv_iconst (v := (nI 0)) dX4_count_7 (by decide) ?_
  refine vv_bipush (v := (nI 15)) dX4_count_8 (by decide) ?_
  obtain ⟨r2, er2, h⟩ := bd_o h
  refine vv_callS ok_X4_within q1908 (m_within hG er2 (d + 1)) rfl (by omega) rfl rfl (Nat.le_of_ble_eq_true rfl) dX4_count_10 ?_
  refine vv_iconst (v := (nI 1)) dX4_count_13 (by decide) ?_
  obtain ⟨r3, er3, h⟩ := bd_o h
  refine vv_callV ok_X4_right q1773 (m_right hG er3 (d + 1)) rfl (by omega) ⟨_, _, _, _, _, tp_o, by rw [hG.1]; rfl⟩ rfl rfl (Nat.le_of_ble_eq_true rfl) dX4_count_14 ?_
  refine vv_if_ne (tgt := 22) dX4_count_17 (by decide) (fun c4 => ?_) (fun c4 => ?_)
  · rw [if_neg c4] at h
    refine vv_iload_n dX4_count_22 rfl 1 rfl ?_
    by_cases c5 : x1 = (nI 0)
    · rw [if_pos c5] at h
      refine vv_tableIn (tgt := 88) dX4_count_23 (by rw [c5]; decide) (by rw [c5]; decide) (by rw [c5]; rfl) (by decide) ?_
      refine vv_aload_n dX4_count_88 rfl 0 rfl ?_
      refine tw_get (fl_X4_281 hG) (k := 1) rfl dX4_count_89 ?_
      cases h
      exact vv_iret rfl dX4_count_92
    rw [if_neg c5] at h
    by_cases c6 : x1 = (nI 1)
    · rw [if_pos c6] at h
      refine vv_tableIn (tgt := 93) dX4_count_23 (by rw [c6]; decide) (by rw [c6]; decide) (by rw [c6]; rfl) (by decide) ?_
      refine vv_aload_n dX4_count_93 rfl 0 rfl ?_
      refine tw_get (fl_X4_284 hG) (k := 2) rfl dX4_count_94 ?_
      cases h
      exact vv_iret rfl dX4_count_97
    rw [if_neg c6] at h
    by_cases c7 : x1 = (nI 2)
    · rw [if_pos c7] at h
      refine vv_tableIn (tgt := 98) dX4_count_23 (by rw [c7]; decide) (by rw [c7]; decide) (by rw [c7]; rfl) (by decide) ?_
      refine vv_aload_n dX4_count_98 rfl 0 rfl ?_
      refine tw_get (fl_X4_287 hG) (k := 3) rfl dX4_count_99 ?_
      cases h
      exact vv_iret rfl dX4_count_102
    rw [if_neg c7] at h
    by_cases c8 : x1 = (nI 3)
    · rw [if_pos c8] at h
      refine vv_tableIn (tgt := 103) dX4_count_23 (by rw [c8]; decide) (by rw [c8]; decide) (by rw [c8]; rfl) (by decide) ?_
      refine vv_aload_n dX4_count_103 rfl 0 rfl ?_
      refine tw_get (fl_X4_75 hG) (k := 42) rfl dX4_count_104 ?_
      refine vv_iconst (v := (nI 0)) dX4_count_107 (by decide) ?_
      obtain ⟨v9, iv9, ev9, h⟩ := rd_o h
      refine tw_ald 20 (by decide) rfl iv9 ev9 dX4_count_108 ?_
      cases h
      exact vv_iret rfl dX4_count_109
    rw [if_neg c8] at h
    by_cases c10 : x1 = (nI 4)
    · rw [if_pos c10] at h
      refine vv_tableIn (tgt := 110) dX4_count_23 (by rw [c10]; decide) (by rw [c10]; decide) (by rw [c10]; rfl) (by decide) ?_
      refine vv_aload_n dX4_count_110 rfl 0 rfl ?_
      refine vv_iconst (v := (nI 1)) dX4_count_111 (by decide) ?_
      obtain ⟨r11, er11, h⟩ := bd_o h
      refine vv_callV ok_X4_allOf q1911 (m_allOf hG er11 (d + 1)) rfl (by omega) ⟨_, _, _, _, _, tp_o, by rw [hG.1]; rfl⟩ rfl rfl (Nat.le_of_ble_eq_true rfl) dX4_count_112 ?_
      cases h
      exact vv_iret rfl dX4_count_115
    rw [if_neg c10] at h
    by_cases c12 : x1 = (nI 5)
    · rw [if_pos c12] at h
      refine vv_tableIn (tgt := 116) dX4_count_23 (by rw [c12]; decide) (by rw [c12]; decide) (by rw [c12]; rfl) (by decide) ?_
      refine vv_aload_n dX4_count_116 rfl 0 rfl ?_
      refine vv_bipush (v := (nI 9)) dX4_count_117 (by decide) ?_
      obtain ⟨r13, er13, h⟩ := bd_o h
      refine vv_callV ok_X4_allOf q1911 (m_allOf hG er13 (d + 1)) rfl (by omega) ⟨_, _, _, _, _, tp_o, by rw [hG.1]; rfl⟩ rfl rfl (Nat.le_of_ble_eq_true rfl) dX4_count_119 ?_
      cases h
      exact vv_iret rfl dX4_count_122
    rw [if_neg c12] at h
    by_cases c14 : x1 = (nI 6)
    · rw [if_pos c14] at h
      refine vv_tableIn (tgt := 123) dX4_count_23 (by rw [c14]; decide) (by rw [c14]; decide) (by rw [c14]; rfl) (by decide) ?_
      refine vv_aload_n dX4_count_123 rfl 0 rfl ?_
      refine vv_bipush (v := (nI 17)) dX4_count_124 (by decide) ?_
      obtain ⟨r15, er15, h⟩ := bd_o h
      refine vv_callV ok_X4_allOf q1911 (m_allOf hG er15 (d + 1)) rfl (by omega) ⟨_, _, _, _, _, tp_o, by rw [hG.1]; rfl⟩ rfl rfl (Nat.le_of_ble_eq_true rfl) dX4_count_126 ?_
      cases h
      exact vv_iret rfl dX4_count_129
    rw [if_neg c14] at h
    by_cases c16 : x1 = (nI 7)
    · rw [if_pos c16] at h
      refine vv_tableIn (tgt := 130) dX4_count_23 (by rw [c16]; decide) (by rw [c16]; decide) (by rw [c16]; rfl) (by decide) ?_
      refine vv_aload_n dX4_count_130 rfl 0 rfl ?_
      obtain ⟨r17, er17, h⟩ := bd_o h
      refine vv_callV ok_X4_lyingAll q1915 (m_lyingAll hG er17 (d + 0)) rfl (by omega) ⟨_, _, _, _, _, tp_o, by rw [hG.1]; rfl⟩ rfl rfl (Nat.le_of_ble_eq_true rfl) dX4_count_131 ?_
      cases h
      exact vv_iret rfl dX4_count_134
    rw [if_neg c16] at h
    by_cases c18 : x1 = (nI 8)
    · rw [if_pos c18] at h
      refine vv_tableIn (tgt := 135) dX4_count_23 (by rw [c18]; decide) (by rw [c18]; decide) (by rw [c18]; rfl) (by decide) ?_
      refine vv_aload_n dX4_count_135 rfl 0 rfl ?_
      obtain ⟨r19, er19, h⟩ := bd_o h
      refine vv_callV ok_X4_goingAll q1923 (m_goingAll hG er19 (d + 1)) rfl (by omega) ⟨_, _, _, _, _, tp_o, by rw [hG.1]; rfl⟩ rfl rfl (Nat.le_of_ble_eq_true rfl) dX4_count_136 ?_
      cases h
      exact vv_iret rfl dX4_count_139
    rw [if_neg c18] at h
    by_cases c20 : x1 = (nI 9)
    · rw [if_pos c20] at h
      refine vv_tableIn (tgt := 140) dX4_count_23 (by rw [c20]; decide) (by rw [c20]; decide) (by rw [c20]; rfl) (by decide) ?_
      refine vv_aload_n dX4_count_140 rfl 0 rfl ?_
      refine vv_iconst (v := (nI 0)) dX4_count_141 (by decide) ?_
      obtain ⟨r21, er21, h⟩ := bd_o h
      refine vv_callV ok_X4_goneIn q1927 (m_goneIn hG er21 (d + 1)) rfl (by omega) ⟨_, _, _, _, _, tp_o, by rw [hG.1]; rfl⟩ rfl rfl (Nat.le_of_ble_eq_true rfl) dX4_count_142 ?_
      cases h
      exact vv_iret rfl dX4_count_145
    rw [if_neg c20] at h
    by_cases c22 : x1 = (nI 10)
    · rw [if_pos c22] at h
      refine vv_tableIn (tgt := 146) dX4_count_23 (by rw [c22]; decide) (by rw [c22]; decide) (by rw [c22]; rfl) (by decide) ?_
      refine vv_aload_n dX4_count_146 rfl 0 rfl ?_
      refine tw_get (fl_X4_294 hG) (k := 44) rfl dX4_count_147 ?_
      cases h
      exact vv_iret rfl dX4_count_150
    rw [if_neg c22] at h
    by_cases c23 : x1 = (nI 11)
    · rw [if_pos c23] at h
      refine vv_tableIn (tgt := 151) dX4_count_23 (by rw [c23]; decide) (by rw [c23]; decide) (by rw [c23]; rfl) (by decide) ?_
      refine vv_aload_n dX4_count_151 rfl 0 rfl ?_
      refine tw_get (fl_X4_297 hG) (k := 52) rfl dX4_count_152 ?_
      cases h
      exact vv_iret rfl dX4_count_155
    rw [if_neg c23] at h
    by_cases c24 : x1 = (nI 12)
    · rw [if_pos c24] at h
      refine vv_tableIn (tgt := 156) dX4_count_23 (by rw [c24]; decide) (by rw [c24]; decide) (by rw [c24]; rfl) (by decide) ?_
      refine vv_aload_n dX4_count_156 rfl 0 rfl ?_
      refine tw_get (fl_X4_120 hG) (k := 13) rfl dX4_count_157 ?_
      cases h
      exact vv_iret rfl dX4_count_160
    rw [if_neg c24] at h
    have tc5 : ¬ (x1).toInt = 0 := fun hh => c5 (Int32.toInt_inj.mp (hh.trans (by decide)))
    have tc6 : ¬ (x1).toInt = 1 := fun hh => c6 (Int32.toInt_inj.mp (hh.trans (by decide)))
    have tc7 : ¬ (x1).toInt = 2 := fun hh => c7 (Int32.toInt_inj.mp (hh.trans (by decide)))
    have tc8 : ¬ (x1).toInt = 3 := fun hh => c8 (Int32.toInt_inj.mp (hh.trans (by decide)))
    have tc10 : ¬ (x1).toInt = 4 := fun hh => c10 (Int32.toInt_inj.mp (hh.trans (by decide)))
    have tc12 : ¬ (x1).toInt = 5 := fun hh => c12 (Int32.toInt_inj.mp (hh.trans (by decide)))
    have tc14 : ¬ (x1).toInt = 6 := fun hh => c14 (Int32.toInt_inj.mp (hh.trans (by decide)))
    have tc16 : ¬ (x1).toInt = 7 := fun hh => c16 (Int32.toInt_inj.mp (hh.trans (by decide)))
    have tc18 : ¬ (x1).toInt = 8 := fun hh => c18 (Int32.toInt_inj.mp (hh.trans (by decide)))
    have tc20 : ¬ (x1).toInt = 9 := fun hh => c20 (Int32.toInt_inj.mp (hh.trans (by decide)))
    have tc22 : ¬ (x1).toInt = 10 := fun hh => c22 (Int32.toInt_inj.mp (hh.trans (by decide)))
    have tc23 : ¬ (x1).toInt = 11 := fun hh => c23 (Int32.toInt_inj.mp (hh.trans (by decide)))
    have tc24 : ¬ (x1).toInt = 12 := fun hh => c24 (Int32.toInt_inj.mp (hh.trans (by decide)))
    refine vv_tableOut (tgt := 161) dX4_count_23 (by omega) (by decide) ?_
    refine vv_aload_n dX4_count_161 rfl 0 rfl ?_
    refine tw_get (fl_X4_41 hG) (k := 16) rfl dX4_count_162 ?_
    refine vv_iload_n dX4_count_165 rfl 1 rfl ?_
    refine vv_bipush (v := (nI 13)) dX4_count_166 (by decide) ?_
    refine vv_isub dX4_count_168 ?_
    obtain ⟨v25, iv25, ev25, h⟩ := rd_o h
    refine tw_ald 9 (by decide) rfl iv25 ev25 dX4_count_169 ?_
    cases h
    exact vv_iret rfl dX4_count_170
  · rw [if_pos c4] at h
    refine vv_iconst (v := (nI 0)) dX4_count_20 (by decide) ?_
    cases h
    exact vv_iret rfl dX4_count_21
theorem m_count {l : Launch} {G : vv_G} {o : Nat} {h0 : Nat → Option vv_E} {nz : Nat × Nat} (hG : vv_gok G) {x1 : Int32} {T : tw_T} {r : Int32 × tw_T} (h : J_count x1 T = some r) (d : Nat) : vv_Met l G MX4_count (d + 2) [.ref o, .int x1] (tp o h0 T, nz) (.inl (some (.int r.1)), (tp o h0 r.2, nz)) := vv_head (by decide +kernel) rfl (Nat.le_of_ble_eq_true rfl) rfl (v_count_0 hG h)
/-! isTown -/
def J_isTown_18 (s1 : Int32) (T : tw_T) : Option (Int32 × tw_T) := (J_right s1 (nI 1) T).bind fun r1 => (zrI r1.1).bind fun v2 => some (v2, r1.2)
theorem v_isTown_18 {l : Launch} {G : vv_G} {d : Nat} {o : Nat} {h0 : Nat → Option vv_E} {nz : Nat × Nat} (hG : vv_gok G) {s1 : Int32} {T : tw_T} {r : Int32 × tw_T} (h : J_isTown_18 s1 T = some r) : vv_V l G MX4_isTown (d + 1) 18 [(0, .ref o)] [.int s1, .ref o] (tp o h0 T, nz) (.inl (some (.int r.1)), (tp o h0 r.2, nz)) := by
  unfold J_isTown_18 at h
  refine vv_iconst (v := (nI 1)) dX4_isTown_18 (by decide) ?_
  obtain ⟨r1, er1, h⟩ := bd_o h
  refine vv_callV ok_X4_right q1773 (m_right hG er1 (d + 0)) rfl (by omega) ⟨_, _, _, _, _, tp_o, by rw [hG.1]; rfl⟩ rfl rfl (Nat.le_of_ble_eq_true rfl) dX4_isTown_19 ?_
  obtain ⟨zv2, h⟩ := zr_o h
  cases h
  exact vv_zret rfl zv2 dX4_isTown_22
def J_isTown_17 (T : tw_T) : Option (Int32 × tw_T) := J_isTown_18 (nI 0) T
theorem v_isTown_17 {l : Launch} {G : vv_G} {d : Nat} {o : Nat} {h0 : Nat → Option vv_E} {nz : Nat × Nat} (hG : vv_gok G) {T : tw_T} {r : Int32 × tw_T} (h : J_isTown_17 T = some r) : vv_V l G MX4_isTown (d + 1) 17 [(0, .ref o)] [.ref o] (tp o h0 T, nz) (.inl (some (.int r.1)), (tp o h0 r.2, nz)) := by
  unfold J_isTown_17 at h
  refine vv_iconst (v := (nI 0)) dX4_isTown_17 (by decide) ?_
  exact v_isTown_18 hG h
def J_isTown (x1 : Int32) (T : tw_T) : Option (Int32 × tw_T) := if x1 < 0 then (J_isTown_17 T) else (if (T.1 1) ≤ x1 then (J_isTown_17 T) else (J_isTown_18 (nI 1) T))
theorem v_isTown_0 {l : Launch} {G : vv_G} {d : Nat} {o : Nat} {h0 : Nat → Option vv_E} {nz : Nat × Nat} (hG : vv_gok G) {x1 : Int32} {T : tw_T} {r : Int32 × tw_T} (h : J_isTown x1 T = some r) : vv_V l G MX4_isTown (d + 1) 0 [(0, .ref o), (1, .int x1)] [] (tp o h0 T, nz) (.inl (some (.int r.1)), (tp o h0 r.2, nz)) := by
  unfold J_isTown at h
  refine vv_aload_n dX4_isTown_0 rfl 0 rfl ?_
  refine vv_iload_n dX4_isTown_1 rfl 1 rfl ?_
  refine vv_if_lt (tgt := 17) dX4_isTown_2 (by decide) (fun c1 => ?_) (fun c1 => ?_)
  · rw [if_pos c1] at h
    refine vv_sub (lv' := [(0, .ref o)]) [0] rfl ?_
    exact v_isTown_17 hG h
  · rw [if_neg c1] at h
    refine vv_iload_n dX4_isTown_5 rfl 1 rfl ?_
    refine vv_aload_n dX4_isTown_6 rfl 0 rfl ?_
    refine tw_get (fl_X4_281 hG) (k := 1) rfl dX4_isTown_7 ?_
    refine vv_icmp_ge (tgt := 17) dX4_isTown_10 (by decide) (fun c2 => ?_) (fun c2 => ?_)
    · rw [if_pos c2] at h
      refine vv_sub (lv' := [(0, .ref o)]) [0] rfl ?_
      exact v_isTown_17 hG h
    · rw [if_neg c2] at h
      refine vv_iconst (v := (nI 1)) dX4_isTown_13 (by decide) ?_
      refine vv_goto (tgt := 18) dX4_isTown_14 (by decide) ?_
      refine vv_sub (lv' := [(0, .ref o)]) [0] rfl ?_
      exact v_isTown_18 hG h
theorem m_isTown {l : Launch} {G : vv_G} {o : Nat} {h0 : Nat → Option vv_E} {nz : Nat × Nat} (hG : vv_gok G) {x1 : Int32} {T : tw_T} {r : Int32 × tw_T} (h : J_isTown x1 T = some r) (d : Nat) : vv_Met l G MX4_isTown (d + 1) [.ref o, .int x1] (tp o h0 T, nz) (.inl (some (.int r.1)), (tp o h0 r.2, nz)) := vv_head (by decide +kernel) rfl (Nat.le_of_ble_eq_true rfl) rfl (v_isTown_0 hG h)
/-! isWhat -/
def J_isWhat (x1 : Int32) (x2 : Int32) (T : tw_T) : Option (Int32 × tw_T) := (J_within x1 (nI 0) x2).bind fun r1 => (J_right r1 (nI 1) T).bind fun r2 => (zrI r2.1).bind fun v3 => some (v3, r2.2)
theorem v_isWhat_0 {l : Launch} {G : vv_G} {d : Nat} {o : Nat} {h0 : Nat → Option vv_E} {nz : Nat × Nat} (hG : vv_gok G) {x1 : Int32} {x2 : Int32} {T : tw_T} {r : Int32 × tw_T} (h : J_isWhat x1 x2 T = some r) : vv_V l G MX4_isWhat (d + 1) 0 [(0, .ref o), (1, .int x1), (2, .int x2)] [] (tp o h0 T, nz) (.inl (some (.int r.1)), (tp o h0 r.2, nz)) := by
  unfold J_isWhat at h
  refine vv_aload_n dX4_isWhat_0 rfl 0 rfl ?_
  refine vv_iload_n dX4_isWhat_1 rfl 1 rfl ?_
  refine vv_iconst (v := (nI 0)) dX4_isWhat_2 (by decide) ?_
  refine vv_iload_n dX4_isWhat_3 rfl 2 rfl ?_
  obtain ⟨r1, er1, h⟩ := bd_o h
  refine vv_callS ok_X4_within q1908 (m_within hG er1 (d + 0)) rfl (by omega) rfl rfl (Nat.le_of_ble_eq_true rfl) dX4_isWhat_4 ?_
  refine vv_iconst (v := (nI 1)) dX4_isWhat_7 (by decide) ?_
  obtain ⟨r2, er2, h⟩ := bd_o h
  refine vv_callV ok_X4_right q1773 (m_right hG er2 (d + 0)) rfl (by omega) ⟨_, _, _, _, _, tp_o, by rw [hG.1]; rfl⟩ rfl rfl (Nat.le_of_ble_eq_true rfl) dX4_isWhat_8 ?_
  obtain ⟨zv3, h⟩ := zr_o h
  cases h
  exact vv_zret rfl zv3 dX4_isWhat_11
theorem m_isWhat {l : Launch} {G : vv_G} {o : Nat} {h0 : Nat → Option vv_E} {nz : Nat × Nat} (hG : vv_gok G) {x1 : Int32} {x2 : Int32} {T : tw_T} {r : Int32 × tw_T} (h : J_isWhat x1 x2 T = some r) (d : Nat) : vv_Met l G MX4_isWhat (d + 1) [.ref o, .int x1, .int x2] (tp o h0 T, nz) (.inl (some (.int r.1)), (tp o h0 r.2, nz)) := vv_head (by decide +kernel) rfl (Nat.le_of_ble_eq_true rfl) rfl (v_isWhat_0 hG h)
/-! lyingIn -/
def J_lyingIn_49 (k5 : Int32 → Int32 → Int32 → Int32 → tw_T → Option (Int32 × tw_T)) (s0 : Int32) (s1 : Int32) (x1 : Int32) (x2 : Int32) (x4 : Int32) (T : tw_T) : Option (Int32 × tw_T) := k5 x1 x2 (s0 ||| s1) (x4 + (nI 1)) T
theorem v_lyingIn_49 {l : Launch} {G : vv_G} {d : Nat} {o : Nat} {h0 : Nat → Option vv_E} {nz : Nat × Nat} (hG : vv_gok G) {k5 : Int32 → Int32 → Int32 → Int32 → tw_T → Option (Int32 × tw_T)} (hk5 : ∀ {x1 : Int32} {x2 : Int32} {x3 : Int32} {x4 : Int32} {T : tw_T} {r : Int32 × tw_T}, k5 x1 x2 x3 x4 T = some r → vv_V l G MX4_lyingIn (d + 1) 5 [(0, .ref o), (1, .int x1), (2, .int x2), (3, .int x3), (4, .int x4)] [] (tp o h0 T, nz) (.inl (some (.int r.1)), (tp o h0 r.2, nz))) {s0 : Int32} {s1 : Int32} {x1 : Int32} {x2 : Int32} {x4 : Int32} {T : tw_T} {r : Int32 × tw_T} (h : J_lyingIn_49 k5 s0 s1 x1 x2 x4 T = some r) : vv_V l G MX4_lyingIn (d + 1) 49 [(0, .ref o), (1, .int x1), (2, .int x2), (4, .int x4)] [.int s1, .int s0] (tp o h0 T, nz) (.inl (some (.int r.1)), (tp o h0 r.2, nz)) := by
  unfold J_lyingIn_49 at h
  refine vv_ior dX4_lyingIn_49 ?_
  refine vv_istore_n (lv' := [(0, .ref o), (1, .int x1), (2, .int x2), (3, .int (s0 ||| s1)), (4, .int x4)]) dX4_lyingIn_50 rfl (by decide) [1, 2, 3, 0, 4] rfl ?_
  refine vv_iinc (v := (x4 + (nI 1))) (lv' := [(0, .ref o), (1, .int x1), (2, .int x2), (3, .int (s0 ||| s1)), (4, .int (x4 + (nI 1)))]) dX4_lyingIn_51 4 rfl rfl (by decide) [1, 2, 3, 4, 0] rfl ?_
  refine vv_goto (tgt := 5) dX4_lyingIn_54 (by decide) ?_
  exact hk5 h
def J_lyingIn_48 (k5 : Int32 → Int32 → Int32 → Int32 → tw_T → Option (Int32 × tw_T)) (s0 : Int32) (x1 : Int32) (x2 : Int32) (x4 : Int32) (T : tw_T) : Option (Int32 × tw_T) := J_lyingIn_49 k5 s0 (nI 0) x1 x2 x4 T
theorem v_lyingIn_48 {l : Launch} {G : vv_G} {d : Nat} {o : Nat} {h0 : Nat → Option vv_E} {nz : Nat × Nat} (hG : vv_gok G) {k5 : Int32 → Int32 → Int32 → Int32 → tw_T → Option (Int32 × tw_T)} (hk5 : ∀ {x1 : Int32} {x2 : Int32} {x3 : Int32} {x4 : Int32} {T : tw_T} {r : Int32 × tw_T}, k5 x1 x2 x3 x4 T = some r → vv_V l G MX4_lyingIn (d + 1) 5 [(0, .ref o), (1, .int x1), (2, .int x2), (3, .int x3), (4, .int x4)] [] (tp o h0 T, nz) (.inl (some (.int r.1)), (tp o h0 r.2, nz))) {s0 : Int32} {x1 : Int32} {x2 : Int32} {x4 : Int32} {T : tw_T} {r : Int32 × tw_T} (h : J_lyingIn_48 k5 s0 x1 x2 x4 T = some r) : vv_V l G MX4_lyingIn (d + 1) 48 [(0, .ref o), (1, .int x1), (2, .int x2), (4, .int x4)] [.int s0] (tp o h0 T, nz) (.inl (some (.int r.1)), (tp o h0 r.2, nz)) := by
  unfold J_lyingIn_48 at h
  refine vv_iconst (v := (nI 0)) dX4_lyingIn_48 (by decide) ?_
  exact v_lyingIn_49 hG hk5 h
def B_lyingIn_5 (k5 : Int32 → Int32 → Int32 → Int32 → tw_T → Option (Int32 × tw_T)) (x1 : Int32) (x2 : Int32) (x3 : Int32) (x4 : Int32) (T : tw_T) : Option (Int32 × tw_T) := if (T.1 3) ≤ x4 then (some (x3, T)) else ((J_lies x1 x4 T).bind fun r2 => if r2.1 = 0 then (J_lyingIn_48 k5 x3 x1 x2 x4 r2.2) else ((rdI 170 (r2.2.2.2 20) ((x1 + (nI 55)) + x4)).bind fun v4 => if v4 = x2 then (J_lyingIn_49 k5 x3 ((nI 1) <<< (x4 &&& 31)) x1 x2 x4 r2.2) else (J_lyingIn_48 k5 x3 x1 x2 x4 r2.2)))
def J_lyingIn_5 : Nat → Int32 → Int32 → Int32 → Int32 → tw_T → Option (Int32 × tw_T)
  | 0, _, _, _, _, _ => none
  | n + 1, x1, x2, x3, x4, T => B_lyingIn_5 (J_lyingIn_5 n) x1 x2 x3 x4 T
theorem vb_lyingIn_5 {l : Launch} {G : vv_G} {d : Nat} {o : Nat} {h0 : Nat → Option vv_E} {nz : Nat × Nat} (hG : vv_gok G) {k5 : Int32 → Int32 → Int32 → Int32 → tw_T → Option (Int32 × tw_T)} (hk5 : ∀ {x1 : Int32} {x2 : Int32} {x3 : Int32} {x4 : Int32} {T : tw_T} {r : Int32 × tw_T}, k5 x1 x2 x3 x4 T = some r → vv_V l G MX4_lyingIn (d + 1) 5 [(0, .ref o), (1, .int x1), (2, .int x2), (3, .int x3), (4, .int x4)] [] (tp o h0 T, nz) (.inl (some (.int r.1)), (tp o h0 r.2, nz))) {x1 : Int32} {x2 : Int32} {x3 : Int32} {x4 : Int32} {T : tw_T} {r : Int32 × tw_T} (h : B_lyingIn_5 k5 x1 x2 x3 x4 T = some r) : vv_V l G MX4_lyingIn (d + 1) 5 [(0, .ref o), (1, .int x1), (2, .int x2), (3, .int x3), (4, .int x4)] [] (tp o h0 T, nz) (.inl (some (.int r.1)), (tp o h0 r.2, nz)) := by
  unfold B_lyingIn_5 at h
  refine vv_iload dX4_lyingIn_5 4 rfl ?_
  refine vv_aload_n dX4_lyingIn_7 rfl 0 rfl ?_
  refine tw_get (fl_X4_287 hG) (k := 3) rfl dX4_lyingIn_8 ?_
  refine vv_icmp_ge (tgt := 57) dX4_lyingIn_11 (by decide) (fun c1 => ?_) (fun c1 => ?_)
  · rw [if_pos c1] at h
    refine vv_iload_n dX4_lyingIn_57 rfl 3 rfl ?_
    cases h
    exact vv_iret rfl dX4_lyingIn_58
  · rw [if_neg c1] at h
    refine vv_iload_n dX4_lyingIn_14 rfl 3 rfl ?_
    refine vv_aload_n dX4_lyingIn_15 rfl 0 rfl ?_
    refine vv_iload_n dX4_lyingIn_16 rfl 1 rfl ?_
    refine vv_iload dX4_lyingIn_17 4 rfl ?_
    obtain ⟨r2, er2, h⟩ := bd_o h
    refine vv_callV ok_X4_lies q1919 (m_lies hG er2 (d + 0)) rfl (by omega) ⟨_, _, _, _, _, tp_o, by rw [hG.1]; rfl⟩ rfl rfl (Nat.le_of_ble_eq_true rfl) dX4_lyingIn_19 ?_
    refine vv_if_eq (tgt := 48) dX4_lyingIn_22 (by decide) (fun c3 => ?_) (fun c3 => ?_)
    · rw [if_pos c3] at h
      refine vv_sub (lv' := [(0, .ref o), (1, .int x1), (2, .int x2), (4, .int x4)]) [0, 1, 2, 4] rfl ?_
      exact v_lyingIn_48 hG hk5 h
    · rw [if_neg c3] at h
      refine vv_aload_n dX4_lyingIn_25 rfl 0 rfl ?_
      refine tw_get (fl_X4_75 hG) (k := 42) rfl dX4_lyingIn_26 ?_
      refine vv_iload_n dX4_lyingIn_29 rfl 1 rfl ?_
      refine vv_bipush (v := (nI 55)) dX4_lyingIn_30 (by decide) ?_
      refine vv_iadd dX4_lyingIn_32 ?_
      refine vv_iload dX4_lyingIn_33 4 rfl ?_
      refine vv_iadd dX4_lyingIn_35 ?_
      obtain ⟨v4, iv4, ev4, h⟩ := rd_o h
      refine tw_ald 20 (by decide) rfl iv4 ev4 dX4_lyingIn_36 ?_
      refine vv_iload_n dX4_lyingIn_37 rfl 2 rfl ?_
      refine vv_icmp_ne (tgt := 48) dX4_lyingIn_38 (by decide) (fun c5 => ?_) (fun c5 => ?_)
      · rw [if_neg c5] at h
        refine vv_sub (lv' := [(0, .ref o), (1, .int x1), (2, .int x2), (4, .int x4)]) [0, 1, 2, 4] rfl ?_
        exact v_lyingIn_48 hG hk5 h
      · rw [if_pos c5] at h
        refine vv_iconst (v := (nI 1)) dX4_lyingIn_41 (by decide) ?_
        refine vv_iload dX4_lyingIn_42 4 rfl ?_
        refine vv_ishl dX4_lyingIn_44 ?_
        refine vv_goto (tgt := 49) dX4_lyingIn_45 (by decide) ?_
        refine vv_sub (lv' := [(0, .ref o), (1, .int x1), (2, .int x2), (4, .int x4)]) [0, 1, 2, 4] rfl ?_
        exact v_lyingIn_49 hG hk5 h
theorem v_lyingIn_5 {l : Launch} {G : vv_G} {d : Nat} {o : Nat} {h0 : Nat → Option vv_E} {nz : Nat × Nat} (hG : vv_gok G) : ∀ (n : Nat) {x1 : Int32} {x2 : Int32} {x3 : Int32} {x4 : Int32} {T : tw_T} {r : Int32 × tw_T}, J_lyingIn_5 n x1 x2 x3 x4 T = some r → vv_V l G MX4_lyingIn (d + 1) 5 [(0, .ref o), (1, .int x1), (2, .int x2), (3, .int x3), (4, .int x4)] [] (tp o h0 T, nz) (.inl (some (.int r.1)), (tp o h0 r.2, nz)) := by
  intro n
  induction n with
  | zero => intro _ _ _ _ _ _ h; cases h
  | succ n ih => intro _ _ _ _ _ _ h; exact vb_lyingIn_5 hG ih h
def J_lyingIn (x1 : Int32) (x2 : Int32) (T : tw_T) : Option (Int32 × tw_T) := J_lyingIn_5 NN x1 x2 (nI 0) (nI 0) T
theorem v_lyingIn_0 {l : Launch} {G : vv_G} {d : Nat} {o : Nat} {h0 : Nat → Option vv_E} {nz : Nat × Nat} (hG : vv_gok G) {x1 : Int32} {x2 : Int32} {T : tw_T} {r : Int32 × tw_T} (h : J_lyingIn x1 x2 T = some r) : vv_V l G MX4_lyingIn (d + 1) 0 [(0, .ref o), (1, .int x1), (2, .int x2)] [] (tp o h0 T, nz) (.inl (some (.int r.1)), (tp o h0 r.2, nz)) := by
  unfold J_lyingIn at h
  refine vv_iconst (v := (nI 0)) dX4_lyingIn_0 (by decide) ?_
  refine vv_istore_n (lv' := [(0, .ref o), (1, .int x1), (2, .int x2), (3, .int (nI 0))]) dX4_lyingIn_1 rfl (by decide) [1, 2, 3, 0] rfl ?_
  refine vv_iconst (v := (nI 0)) dX4_lyingIn_2 (by decide) ?_
  refine vv_istore (lv' := [(0, .ref o), (1, .int x1), (2, .int x2), (3, .int (nI 0)), (4, .int (nI 0))]) dX4_lyingIn_3 (by decide) [1, 2, 3, 4, 0] rfl ?_
  exact v_lyingIn_5 hG NN h
theorem m_lyingIn {l : Launch} {G : vv_G} {o : Nat} {h0 : Nat → Option vv_E} {nz : Nat × Nat} (hG : vv_gok G) {x1 : Int32} {x2 : Int32} {T : tw_T} {r : Int32 × tw_T} (h : J_lyingIn x1 x2 T = some r) (d : Nat) : vv_Met l G MX4_lyingIn (d + 1) [.ref o, .int x1, .int x2] (tp o h0 T, nz) (.inl (some (.int r.1)), (tp o h0 r.2, nz)) := vv_head (by decide +kernel) rfl (Nat.le_of_ble_eq_true rfl) rfl (v_lyingIn_0 hG h)
/-! bits -/
def B_bits_4 (k4 : Int32 → Int32 → Int32 → Option Int32) (x0 : Int32) (x1 : Int32) (x2 : Int32) : Option Int32 := if (nI 10) ≤ x2 then (some x1) else (k4 x0 (x1 + ((x0 >>> (x2 &&& 31)) &&& (nI 1))) (x2 + (nI 1)))
def J_bits_4 : Nat → Int32 → Int32 → Int32 → Option Int32
  | 0, _, _, _ => none
  | n + 1, x0, x1, x2 => B_bits_4 (J_bits_4 n) x0 x1 x2
theorem vb_bits_4 {l : Launch} {G : vv_G} {d : Nat} {σ : vv_S} (hG : vv_gok G) {k4 : Int32 → Int32 → Int32 → Option Int32} (hk4 : ∀ {x0 : Int32} {x1 : Int32} {x2 : Int32} {r : Int32}, k4 x0 x1 x2 = some r → vv_V l G MX4_bits (d + 0) 4 [(0, .int x0), (1, .int x1), (2, .int x2)] [] σ (.inl (some (.int r)), σ)) {x0 : Int32} {x1 : Int32} {x2 : Int32} {r : Int32} (h : B_bits_4 k4 x0 x1 x2 = some r) : vv_V l G MX4_bits (d + 0) 4 [(0, .int x0), (1, .int x1), (2, .int x2)] [] σ (.inl (some (.int r)), σ) := by
  unfold B_bits_4 at h
  refine vv_iload_n dX4_bits_4 rfl 2 rfl ?_
  refine vv_bipush (v := (nI 10)) dX4_bits_5 (by decide) ?_
  refine vv_icmp_ge (tgt := 24) dX4_bits_7 (by decide) (fun c1 => ?_) (fun c1 => ?_)
  · rw [if_pos c1] at h
    refine vv_iload_n dX4_bits_24 rfl 1 rfl ?_
    cases h
    exact vv_iret rfl dX4_bits_25
  · rw [if_neg c1] at h
    refine vv_iload_n dX4_bits_10 rfl 1 rfl ?_
    refine vv_iload_n dX4_bits_11 rfl 0 rfl ?_
    refine vv_iload_n dX4_bits_12 rfl 2 rfl ?_
    refine vv_ishr dX4_bits_13 ?_
    refine vv_iconst (v := (nI 1)) dX4_bits_14 (by decide) ?_
    refine vv_iand dX4_bits_15 ?_
    refine vv_iadd dX4_bits_16 ?_
    refine vv_istore_n (lv' := [(0, .int x0), (1, .int (x1 + ((x0 >>> (x2 &&& 31)) &&& (nI 1)))), (2, .int x2)]) dX4_bits_17 rfl (by decide) [1, 0, 2] rfl ?_
    refine vv_iinc (v := (x2 + (nI 1))) (lv' := [(0, .int x0), (1, .int (x1 + ((x0 >>> (x2 &&& 31)) &&& (nI 1)))), (2, .int (x2 + (nI 1)))]) dX4_bits_18 2 rfl rfl (by decide) [1, 2, 0] rfl ?_
    refine vv_goto (tgt := 4) dX4_bits_21 (by decide) ?_
    exact hk4 h
theorem v_bits_4 {l : Launch} {G : vv_G} {d : Nat} {σ : vv_S} (hG : vv_gok G) : ∀ (n : Nat) {x0 : Int32} {x1 : Int32} {x2 : Int32} {r : Int32}, J_bits_4 n x0 x1 x2 = some r → vv_V l G MX4_bits (d + 0) 4 [(0, .int x0), (1, .int x1), (2, .int x2)] [] σ (.inl (some (.int r)), σ) := by
  intro n
  induction n with
  | zero => intro _ _ _ _ h; cases h
  | succ n ih => intro _ _ _ _ h; exact vb_bits_4 hG ih h
def J_bits (x0 : Int32) : Option Int32 := J_bits_4 NN x0 (nI 0) (nI 0)
theorem v_bits_0 {l : Launch} {G : vv_G} {d : Nat} {σ : vv_S} (hG : vv_gok G) {x0 : Int32} {r : Int32} (h : J_bits x0 = some r) : vv_V l G MX4_bits (d + 0) 0 [(0, .int x0)] [] σ (.inl (some (.int r)), σ) := by
  unfold J_bits at h
  refine vv_iconst (v := (nI 0)) dX4_bits_0 (by decide) ?_
  refine vv_istore_n (lv' := [(0, .int x0), (1, .int (nI 0))]) dX4_bits_1 rfl (by decide) [1, 0] rfl ?_
  refine vv_iconst (v := (nI 0)) dX4_bits_2 (by decide) ?_
  refine vv_istore_n (lv' := [(0, .int x0), (1, .int (nI 0)), (2, .int (nI 0))]) dX4_bits_3 rfl (by decide) [1, 2, 0] rfl ?_
  exact v_bits_4 hG NN h
theorem m_bits {l : Launch} {G : vv_G} {σ : vv_S} (hG : vv_gok G) {x0 : Int32} {r : Int32} (h : J_bits x0 = some r) (d : Nat) : vv_Met l G MX4_bits (d + 0) [.int x0] σ (.inl (some (.int r)), σ) := vv_head (by decide +kernel) rfl (Nat.le_of_ble_eq_true rfl) rfl (v_bits_0 hG h)
/-! kept -/
def J_kept_19 (s0 : Int32) : Option Int32 := some s0
theorem v_kept_19 {l : Launch} {G : vv_G} {d : Nat} {σ : vv_S} (hG : vv_gok G) {s0 : Int32} {r : Int32} (h : J_kept_19 s0 = some r) : vv_V l G MX4_kept (d + 0) 19 [] [.int s0] σ (.inl (some (.int r)), σ) := by
  unfold J_kept_19 at h
  cases h
  exact vv_iret rfl dX4_kept_19
def J_kept (x0 : Int32) (x1 : Int32) (x2 : Int32) : Option Int32 := if x1 ≤ x0 then (if x0 ≤ x2 then (J_kept_19 x0) else (J_kept_19 x2)) else (J_kept_19 x1)
theorem v_kept_0 {l : Launch} {G : vv_G} {d : Nat} {σ : vv_S} (hG : vv_gok G) {x0 : Int32} {x1 : Int32} {x2 : Int32} {r : Int32} (h : J_kept x0 x1 x2 = some r) : vv_V l G MX4_kept (d + 0) 0 [(0, .int x0), (1, .int x1), (2, .int x2)] [] σ (.inl (some (.int r)), σ) := by
  unfold J_kept at h
  refine vv_iload_n dX4_kept_0 rfl 0 rfl ?_
  refine vv_iload_n dX4_kept_1 rfl 1 rfl ?_
  refine vv_icmp_ge (tgt := 9) dX4_kept_2 (by decide) (fun c1 => ?_) (fun c1 => ?_)
  · rw [if_pos c1] at h
    refine vv_iload_n dX4_kept_9 rfl 0 rfl ?_
    refine vv_iload_n dX4_kept_10 rfl 2 rfl ?_
    refine vv_icmp_le (tgt := 18) dX4_kept_11 (by decide) (fun c2 => ?_) (fun c2 => ?_)
    · rw [if_pos c2] at h
      refine vv_iload_n dX4_kept_18 rfl 0 rfl ?_
      refine vv_sub (lv' := []) [] rfl ?_
      exact v_kept_19 hG h
    · rw [if_neg c2] at h
      refine vv_iload_n dX4_kept_14 rfl 2 rfl ?_
      refine vv_goto (tgt := 19) dX4_kept_15 (by decide) ?_
      refine vv_sub (lv' := []) [] rfl ?_
      exact v_kept_19 hG h
  · rw [if_neg c1] at h
    refine vv_iload_n dX4_kept_5 rfl 1 rfl ?_
    refine vv_goto (tgt := 19) dX4_kept_6 (by decide) ?_
    refine vv_sub (lv' := []) [] rfl ?_
    exact v_kept_19 hG h
theorem m_kept {l : Launch} {G : vv_G} {σ : vv_S} (hG : vv_gok G) {x0 : Int32} {x1 : Int32} {x2 : Int32} {r : Int32} (h : J_kept x0 x1 x2 = some r) (d : Nat) : vv_Met l G MX4_kept (d + 0) [.int x0, .int x1, .int x2] σ (.inl (some (.int r)), σ) := vv_head (by decide +kernel) rfl (Nat.le_of_ble_eq_true rfl) rfl (v_kept_0 hG h)
/-! works -/
def J_works_93 (s0 : Int32) : Option Int32 := some s0
theorem v_works_93 {l : Launch} {G : vv_G} {d : Nat} {σ : vv_S} (hG : vv_gok G) {s0 : Int32} {r : Int32} (h : J_works_93 s0 = some r) : vv_V l G MX4_works (d + 0) 93 [] [.int s0] σ (.inl (some (.int r)), σ) := by
  unfold J_works_93 at h
  cases h
  exact vv_iret rfl dX4_works_93
def J_works_82 (s0 : Int32) : Option Int32 := some s0
theorem v_works_82 {l : Launch} {G : vv_G} {d : Nat} {σ : vv_S} (hG : vv_gok G) {s0 : Int32} {r : Int32} (h : J_works_82 s0 = some r) : vv_V l G MX4_works (d + 0) 82 [] [.int s0] σ (.inl (some (.int r)), σ) := by
  unfold J_works_82 at h
  cases h
  exact vv_iret rfl dX4_works_82
def J_works_71 (s0 : Int32) : Option Int32 := some s0
theorem v_works_71 {l : Launch} {G : vv_G} {d : Nat} {σ : vv_S} (hG : vv_gok G) {s0 : Int32} {r : Int32} (h : J_works_71 s0 = some r) : vv_V l G MX4_works (d + 0) 71 [] [.int s0] σ (.inl (some (.int r)), σ) := by
  unfold J_works_71 at h
  cases h
  exact vv_iret rfl dX4_works_71
def J_works_66 : Option Int32 := J_works_71 (nI 1)
theorem v_works_66 {l : Launch} {G : vv_G} {d : Nat} {σ : vv_S} (hG : vv_gok G) {r : Int32} (h : J_works_66 = some r) : vv_V l G MX4_works (d + 0) 66 [] [] σ (.inl (some (.int r)), σ) := by
  unfold J_works_66 at h
  refine vv_iconst (v := (nI 1)) dX4_works_66 (by decide) ?_
  refine vv_goto (tgt := 71) dX4_works_67 (by decide) ?_
  exact v_works_71 hG h
def J_works_57 (s0 : Int32) : Option Int32 := some s0
theorem v_works_57 {l : Launch} {G : vv_G} {d : Nat} {σ : vv_S} (hG : vv_gok G) {s0 : Int32} {r : Int32} (h : J_works_57 s0 = some r) : vv_V l G MX4_works (d + 0) 57 [] [.int s0] σ (.inl (some (.int r)), σ) := by
  unfold J_works_57 at h
  cases h
  exact vv_iret rfl dX4_works_57
def J_works_56 : Option Int32 := J_works_57 (nI 0)
theorem v_works_56 {l : Launch} {G : vv_G} {d : Nat} {σ : vv_S} (hG : vv_gok G) {r : Int32} (h : J_works_56 = some r) : vv_V l G MX4_works (d + 0) 56 [] [] σ (.inl (some (.int r)), σ) := by
  unfold J_works_56 at h
  refine vv_iconst (v := (nI 0)) dX4_works_56 (by decide) ?_
  exact v_works_57 hG h
def J_works_117 (s0 : Int32) : Option Int32 := some s0
theorem v_works_117 {l : Launch} {G : vv_G} {d : Nat} {σ : vv_S} (hG : vv_gok G) {s0 : Int32} {r : Int32} (h : J_works_117 s0 = some r) : vv_V l G MX4_works (d + 0) 117 [] [.int s0] σ (.inl (some (.int r)), σ) := by
  unfold J_works_117 at h
  cases h
  exact vv_iret rfl dX4_works_117
def J_works (x0 : Int32) (x1 : Int32) (x2 : Int32) : Option Int32 := if x0 = (nI 4) then (if x1 = 0 then (J_works_56) else (if x2 = 0 then (J_works_56) else (J_works_57 (nI 1)))) else if x0 = (nI 5) then (if x1 = 0 then (if x2 = 0 then (J_works_71 (nI 0)) else (J_works_66)) else (J_works_66)) else if x0 = (nI 6) then (if x2 ≤ x1 then (J_works_82 (nI 0)) else (J_works_82 (nI 1))) else if x0 = (nI 7) then (if x1 = x2 then (J_works_93 (nI 1)) else (J_works_93 (nI 0))) else if x0 = (nI 8) then (some (x1 + x2)) else if x0 = (nI 9) then (some (x1 - x2)) else if x0 = (nI 10) then (some (x1 * x2)) else (if x2 = 0 then (J_works_117 (nI 0)) else ((dvI x1 x2).bind fun v15 => J_works_117 v15))
theorem v_works_0 {l : Launch} {G : vv_G} {d : Nat} {σ : vv_S} (hG : vv_gok G) {x0 : Int32} {x1 : Int32} {x2 : Int32} {r : Int32} (h : J_works x0 x1 x2 = some r) : vv_V l G MX4_works (d + 0) 0 [(0, .int x0), (1, .int x1), (2, .int x2)] [] σ (.inl (some (.int r)), σ) := by
  unfold J_works at h
  refine vv_iload_n dX4_works_0 rfl 0 rfl ?_
  by_cases c1 : x0 = (nI 4)
  · rw [if_pos c1] at h
    refine vv_tableIn (tgt := 44) dX4_works_1 (by rw [c1]; decide) (by rw [c1]; decide) (by rw [c1]; rfl) (by decide) ?_
    refine vv_iload_n dX4_works_44 rfl 1 rfl ?_
    refine vv_if_eq (tgt := 56) dX4_works_45 (by decide) (fun c2 => ?_) (fun c2 => ?_)
    · rw [if_pos c2] at h
      refine vv_sub (lv' := []) [] rfl ?_
      exact v_works_56 hG h
    · rw [if_neg c2] at h
      refine vv_iload_n dX4_works_48 rfl 2 rfl ?_
      refine vv_if_eq (tgt := 56) dX4_works_49 (by decide) (fun c3 => ?_) (fun c3 => ?_)
      · rw [if_pos c3] at h
        refine vv_sub (lv' := []) [] rfl ?_
        exact v_works_56 hG h
      · rw [if_neg c3] at h
        refine vv_iconst (v := (nI 1)) dX4_works_52 (by decide) ?_
        refine vv_goto (tgt := 57) dX4_works_53 (by decide) ?_
        refine vv_sub (lv' := []) [] rfl ?_
        exact v_works_57 hG h
  rw [if_neg c1] at h
  by_cases c4 : x0 = (nI 5)
  · rw [if_pos c4] at h
    refine vv_tableIn (tgt := 58) dX4_works_1 (by rw [c4]; decide) (by rw [c4]; decide) (by rw [c4]; rfl) (by decide) ?_
    refine vv_iload_n dX4_works_58 rfl 1 rfl ?_
    refine vv_if_ne (tgt := 66) dX4_works_59 (by decide) (fun c5 => ?_) (fun c5 => ?_)
    · rw [if_neg c5] at h
      refine vv_sub (lv' := []) [] rfl ?_
      exact v_works_66 hG h
    · rw [if_pos c5] at h
      refine vv_iload_n dX4_works_62 rfl 2 rfl ?_
      refine vv_if_eq (tgt := 70) dX4_works_63 (by decide) (fun c6 => ?_) (fun c6 => ?_)
      · rw [if_pos c6] at h
        refine vv_iconst (v := (nI 0)) dX4_works_70 (by decide) ?_
        refine vv_sub (lv' := []) [] rfl ?_
        exact v_works_71 hG h
      · rw [if_neg c6] at h
        refine vv_sub (lv' := []) [] rfl ?_
        exact v_works_66 hG h
  rw [if_neg c4] at h
  by_cases c7 : x0 = (nI 6)
  · rw [if_pos c7] at h
    refine vv_tableIn (tgt := 72) dX4_works_1 (by rw [c7]; decide) (by rw [c7]; decide) (by rw [c7]; rfl) (by decide) ?_
    refine vv_iload_n dX4_works_72 rfl 1 rfl ?_
    refine vv_iload_n dX4_works_73 rfl 2 rfl ?_
    refine vv_icmp_ge (tgt := 81) dX4_works_74 (by decide) (fun c8 => ?_) (fun c8 => ?_)
    · rw [if_pos c8] at h
      refine vv_iconst (v := (nI 0)) dX4_works_81 (by decide) ?_
      refine vv_sub (lv' := []) [] rfl ?_
      exact v_works_82 hG h
    · rw [if_neg c8] at h
      refine vv_iconst (v := (nI 1)) dX4_works_77 (by decide) ?_
      refine vv_goto (tgt := 82) dX4_works_78 (by decide) ?_
      refine vv_sub (lv' := []) [] rfl ?_
      exact v_works_82 hG h
  rw [if_neg c7] at h
  by_cases c9 : x0 = (nI 7)
  · rw [if_pos c9] at h
    refine vv_tableIn (tgt := 83) dX4_works_1 (by rw [c9]; decide) (by rw [c9]; decide) (by rw [c9]; rfl) (by decide) ?_
    refine vv_iload_n dX4_works_83 rfl 1 rfl ?_
    refine vv_iload_n dX4_works_84 rfl 2 rfl ?_
    refine vv_icmp_ne (tgt := 92) dX4_works_85 (by decide) (fun c10 => ?_) (fun c10 => ?_)
    · rw [if_neg c10] at h
      refine vv_iconst (v := (nI 0)) dX4_works_92 (by decide) ?_
      refine vv_sub (lv' := []) [] rfl ?_
      exact v_works_93 hG h
    · rw [if_pos c10] at h
      refine vv_iconst (v := (nI 1)) dX4_works_88 (by decide) ?_
      refine vv_goto (tgt := 93) dX4_works_89 (by decide) ?_
      refine vv_sub (lv' := []) [] rfl ?_
      exact v_works_93 hG h
  rw [if_neg c9] at h
  by_cases c11 : x0 = (nI 8)
  · rw [if_pos c11] at h
    refine vv_tableIn (tgt := 94) dX4_works_1 (by rw [c11]; decide) (by rw [c11]; decide) (by rw [c11]; rfl) (by decide) ?_
    refine vv_iload_n dX4_works_94 rfl 1 rfl ?_
    refine vv_iload_n dX4_works_95 rfl 2 rfl ?_
    refine vv_iadd dX4_works_96 ?_
    cases h
    exact vv_iret rfl dX4_works_97
  rw [if_neg c11] at h
  by_cases c12 : x0 = (nI 9)
  · rw [if_pos c12] at h
    refine vv_tableIn (tgt := 98) dX4_works_1 (by rw [c12]; decide) (by rw [c12]; decide) (by rw [c12]; rfl) (by decide) ?_
    refine vv_iload_n dX4_works_98 rfl 1 rfl ?_
    refine vv_iload_n dX4_works_99 rfl 2 rfl ?_
    refine vv_isub dX4_works_100 ?_
    cases h
    exact vv_iret rfl dX4_works_101
  rw [if_neg c12] at h
  by_cases c13 : x0 = (nI 10)
  · rw [if_pos c13] at h
    refine vv_tableIn (tgt := 102) dX4_works_1 (by rw [c13]; decide) (by rw [c13]; decide) (by rw [c13]; rfl) (by decide) ?_
    refine vv_iload_n dX4_works_102 rfl 1 rfl ?_
    refine vv_iload_n dX4_works_103 rfl 2 rfl ?_
    refine vv_imul dX4_works_104 ?_
    cases h
    exact vv_iret rfl dX4_works_105
  rw [if_neg c13] at h
  have tc1 : ¬ (x0).toInt = 4 := fun hh => c1 (Int32.toInt_inj.mp (hh.trans (by decide)))
  have tc4 : ¬ (x0).toInt = 5 := fun hh => c4 (Int32.toInt_inj.mp (hh.trans (by decide)))
  have tc7 : ¬ (x0).toInt = 6 := fun hh => c7 (Int32.toInt_inj.mp (hh.trans (by decide)))
  have tc9 : ¬ (x0).toInt = 7 := fun hh => c9 (Int32.toInt_inj.mp (hh.trans (by decide)))
  have tc11 : ¬ (x0).toInt = 8 := fun hh => c11 (Int32.toInt_inj.mp (hh.trans (by decide)))
  have tc12 : ¬ (x0).toInt = 9 := fun hh => c12 (Int32.toInt_inj.mp (hh.trans (by decide)))
  have tc13 : ¬ (x0).toInt = 10 := fun hh => c13 (Int32.toInt_inj.mp (hh.trans (by decide)))
  refine vv_tableOut (tgt := 106) dX4_works_1 (by omega) (by decide) ?_
  refine vv_iload_n dX4_works_106 rfl 2 rfl ?_
  refine vv_if_ne (tgt := 114) dX4_works_107 (by decide) (fun c14 => ?_) (fun c14 => ?_)
  · rw [if_neg c14] at h
    refine vv_iload_n dX4_works_114 rfl 1 rfl ?_
    refine vv_iload_n dX4_works_115 rfl 2 rfl ?_
    obtain ⟨hz16, h⟩ := dv_o h
    refine vv_idiv dX4_works_116 hz16 ?_
    obtain ⟨v15, ev15⟩ : ∃ z, z = (x1 / x2) := ⟨_, rfl⟩
    rw [← ev15] at h ⊢
    refine vv_sub (lv' := []) [] rfl ?_
    exact v_works_117 hG h
  · rw [if_pos c14] at h
    refine vv_iconst (v := (nI 0)) dX4_works_110 (by decide) ?_
    refine vv_goto (tgt := 117) dX4_works_111 (by decide) ?_
    refine vv_sub (lv' := []) [] rfl ?_
    exact v_works_117 hG h
theorem m_works {l : Launch} {G : vv_G} {σ : vv_S} (hG : vv_gok G) {x0 : Int32} {x1 : Int32} {x2 : Int32} {r : Int32} (h : J_works x0 x1 x2 = some r) (d : Nat) : vv_Met l G MX4_works (d + 0) [.int x0, .int x1, .int x2] σ (.inl (some (.int r)), σ) := vv_head (by decide +kernel) rfl (Nat.le_of_ble_eq_true rfl) rfl (v_works_0 hG h)
/-! reckons -/
def J_reckons_140 (k4 : Int32 → Int32 → tw_T → Option (Int32 × tw_T)) (x2 : Int32) (x3 : Int32) (T : tw_T) : Option (Int32 × tw_T) := k4 x2 x3 T
theorem v_reckons_140 {l : Launch} {G : vv_G} {d : Nat} {o : Nat} {h0 : Nat → Option vv_E} {nz : Nat × Nat} (hG : vv_gok G) {k4 : Int32 → Int32 → tw_T → Option (Int32 × tw_T)} (hk4 : ∀ {x2 : Int32} {x3 : Int32} {T : tw_T} {r : Int32 × tw_T}, k4 x2 x3 T = some r → vv_V l G MX4_reckons (d + 1) 4 [(0, .ref o), (2, .int x2), (3, .int x3)] [] (tp o h0 T, nz) (.inl (some (.int r.1)), (tp o h0 r.2, nz))) {x2 : Int32} {x3 : Int32} {T : tw_T} {r : Int32 × tw_T} (h : J_reckons_140 k4 x2 x3 T = some r) : vv_V l G MX4_reckons (d + 1) 140 [(0, .ref o), (2, .int x2), (3, .int x3)] [] (tp o h0 T, nz) (.inl (some (.int r.1)), (tp o h0 r.2, nz)) := by
  unfold J_reckons_140 at h
  refine vv_goto (tgt := 4) dX4_reckons_140 (by decide) ?_
  exact hk4 h
def J_reckons_67 (k4 : Int32 → Int32 → tw_T → Option (Int32 × tw_T)) (s1 : Int32) (s2 : Int32) (x2 : Int32) (x3 : Int32) (T : tw_T) : Option (Int32 × tw_T) := (stA T 23 950 s1 s2).bind fun T1 => J_reckons_140 k4 (x2 + (nI 1)) (x3 + (nI 1)) T1
theorem v_reckons_67 {l : Launch} {G : vv_G} {d : Nat} {o : Nat} {h0 : Nat → Option vv_E} {nz : Nat × Nat} (hG : vv_gok G) {k4 : Int32 → Int32 → tw_T → Option (Int32 × tw_T)} (hk4 : ∀ {x2 : Int32} {x3 : Int32} {T : tw_T} {r : Int32 × tw_T}, k4 x2 x3 T = some r → vv_V l G MX4_reckons (d + 1) 4 [(0, .ref o), (2, .int x2), (3, .int x3)] [] (tp o h0 T, nz) (.inl (some (.int r.1)), (tp o h0 r.2, nz))) {s1 : Int32} {s2 : Int32} {x2 : Int32} {x3 : Int32} {T : tw_T} {r : Int32 × tw_T} (h : J_reckons_67 k4 s1 s2 x2 x3 T = some r) : vv_V l G MX4_reckons (d + 1) 67 [(0, .ref o), (2, .int x2), (3, .int x3)] [.int s2, .int s1, .ref (o + 23)] (tp o h0 T, nz) (.inl (some (.int r.1)), (tp o h0 r.2, nz)) := by
  unfold J_reckons_67 at h
  obtain ⟨T1, iT1, eT1, h⟩ := st_o h
  refine tw_ast 23 (by decide) rfl iT1 eT1 dX4_reckons_67 ?_
  refine vv_iinc (v := (x3 + (nI 1))) (lv' := [(0, .ref o), (2, .int x2), (3, .int (x3 + (nI 1)))]) dX4_reckons_68 2 rfl rfl (by decide) [1, 2, 0] rfl ?_
  refine vv_iinc (v := (x2 + (nI 1))) (lv' := [(0, .ref o), (2, .int (x2 + (nI 1))), (3, .int (x3 + (nI 1)))]) dX4_reckons_71 1 rfl rfl (by decide) [1, 0, 2] rfl ?_
  refine vv_goto (tgt := 140) dX4_reckons_74 (by decide) ?_
  exact v_reckons_140 hG hk4 h
def J_reckons_36 (k4 : Int32 → Int32 → tw_T → Option (Int32 × tw_T)) (x2 : Int32) (x3 : Int32) (x4 : Int32) (T : tw_T) : Option (Int32 × tw_T) := if x4 = (nI 1) then ((rdI 1400 (T.2.2 7) x3).bind fun v4 => J_reckons_67 k4 x2 v4 x2 x3 T) else ((rdI 1400 (T.2.2 7) x3).bind fun v2 => (rdI 6 (T.2.2 22) v2).bind fun v3 => J_reckons_67 k4 x2 v3 x2 x3 T)
theorem v_reckons_36 {l : Launch} {G : vv_G} {d : Nat} {o : Nat} {h0 : Nat → Option vv_E} {nz : Nat × Nat} (hG : vv_gok G) {k4 : Int32 → Int32 → tw_T → Option (Int32 × tw_T)} (hk4 : ∀ {x2 : Int32} {x3 : Int32} {T : tw_T} {r : Int32 × tw_T}, k4 x2 x3 T = some r → vv_V l G MX4_reckons (d + 1) 4 [(0, .ref o), (2, .int x2), (3, .int x3)] [] (tp o h0 T, nz) (.inl (some (.int r.1)), (tp o h0 r.2, nz))) {x2 : Int32} {x3 : Int32} {x4 : Int32} {T : tw_T} {r : Int32 × tw_T} (h : J_reckons_36 k4 x2 x3 x4 T = some r) : vv_V l G MX4_reckons (d + 1) 36 [(0, .ref o), (2, .int x2), (3, .int x3), (4, .int x4)] [] (tp o h0 T, nz) (.inl (some (.int r.1)), (tp o h0 r.2, nz)) := by
  unfold J_reckons_36 at h
  refine vv_aload_n dX4_reckons_36 rfl 0 rfl ?_
  refine tw_get (fl_X4_84 hG) (k := 46) rfl dX4_reckons_37 ?_
  refine vv_iload_n dX4_reckons_40 rfl 1 rfl ?_
  refine vv_iload dX4_reckons_41 3 rfl ?_
  refine vv_iconst (v := (nI 1)) dX4_reckons_43 (by decide) ?_
  refine vv_icmp_ne (tgt := 56) dX4_reckons_44 (by decide) (fun c1 => ?_) (fun c1 => ?_)
  · rw [if_neg c1] at h
    refine vv_aload_n dX4_reckons_56 rfl 0 rfl ?_
    refine tw_get (fl_X4_81 hG) (k := 45) rfl dX4_reckons_57 ?_
    refine vv_aload_n dX4_reckons_60 rfl 0 rfl ?_
    refine tw_get (fl_X4_32 hG) (k := 11) rfl dX4_reckons_61 ?_
    refine vv_iload_n dX4_reckons_64 rfl 2 rfl ?_
    obtain ⟨v2, iv2, ev2, h⟩ := rd_o h
    refine tw_ald 7 (by decide) rfl iv2 ev2 dX4_reckons_65 ?_
    obtain ⟨v3, iv3, ev3, h⟩ := rd_o h
    refine tw_ald 22 (by decide) rfl iv3 ev3 dX4_reckons_66 ?_
    refine vv_sub (lv' := [(0, .ref o), (2, .int x2), (3, .int x3)]) [0, 1, 2] rfl ?_
    exact v_reckons_67 hG hk4 h
  · rw [if_pos c1] at h
    refine vv_aload_n dX4_reckons_47 rfl 0 rfl ?_
    refine tw_get (fl_X4_32 hG) (k := 11) rfl dX4_reckons_48 ?_
    refine vv_iload_n dX4_reckons_51 rfl 2 rfl ?_
    obtain ⟨v4, iv4, ev4, h⟩ := rd_o h
    refine tw_ald 7 (by decide) rfl iv4 ev4 dX4_reckons_52 ?_
    refine vv_goto (tgt := 67) dX4_reckons_53 (by decide) ?_
    refine vv_sub (lv' := [(0, .ref o), (2, .int x2), (3, .int x3)]) [0, 1, 2] rfl ?_
    exact v_reckons_67 hG hk4 h
def J_reckons_106 (k4 : Int32 → Int32 → tw_T → Option (Int32 × tw_T)) (s1 : Int32) (s2 : Int32) (x2 : Int32) (x3 : Int32) (T : tw_T) : Option (Int32 × tw_T) := (stA T 23 950 s1 s2).bind fun T1 => J_reckons_140 k4 x2 x3 T1
theorem v_reckons_106 {l : Launch} {G : vv_G} {d : Nat} {o : Nat} {h0 : Nat → Option vv_E} {nz : Nat × Nat} (hG : vv_gok G) {k4 : Int32 → Int32 → tw_T → Option (Int32 × tw_T)} (hk4 : ∀ {x2 : Int32} {x3 : Int32} {T : tw_T} {r : Int32 × tw_T}, k4 x2 x3 T = some r → vv_V l G MX4_reckons (d + 1) 4 [(0, .ref o), (2, .int x2), (3, .int x3)] [] (tp o h0 T, nz) (.inl (some (.int r.1)), (tp o h0 r.2, nz))) {s1 : Int32} {s2 : Int32} {x2 : Int32} {x3 : Int32} {T : tw_T} {r : Int32 × tw_T} (h : J_reckons_106 k4 s1 s2 x2 x3 T = some r) : vv_V l G MX4_reckons (d + 1) 106 [(0, .ref o), (2, .int x2), (3, .int x3)] [.int s2, .int s1, .ref (o + 23)] (tp o h0 T, nz) (.inl (some (.int r.1)), (tp o h0 r.2, nz)) := by
  unfold J_reckons_106 at h
  obtain ⟨T1, iT1, eT1, h⟩ := st_o h
  refine tw_ast 23 (by decide) rfl iT1 eT1 dX4_reckons_106 ?_
  refine vv_goto (tgt := 140) dX4_reckons_107 (by decide) ?_
  exact v_reckons_140 hG hk4 h
def B_reckons_4 (k4 : Int32 → Int32 → tw_T → Option (Int32 × tw_T)) (x2 : Int32) (x3 : Int32) (T : tw_T) : Option (Int32 × tw_T) := (rdI 1400 (T.2.2 7) x3).bind fun v1 => if v1 = 0 then ((rdI 950 (T.2.2 23) (nI 0)).bind fun v3 => some (v3, T)) else ((rdI 1400 (T.2.2 7) x3).bind fun v4 => if v4 = (nI 1) then (J_reckons_36 k4 x2 (x3 + (nI 1)) v4 T) else (if v4 = (nI 2) then (J_reckons_36 k4 x2 (x3 + (nI 1)) v4 T) else (if v4 = (nI 3) then ((rdI 950 (T.2.2 23) (x2 - (nI 1))).bind fun v12 => if v12 = 0 then (J_reckons_106 k4 (x2 - (nI 1)) (nI 1) x2 (x3 + (nI 1)) T) else (J_reckons_106 k4 (x2 - (nI 1)) (nI 0) x2 (x3 + (nI 1)) T)) else ((rdI 950 (T.2.2 23) ((x2 + (-1)) - (nI 1))).bind fun v8 => (rdI 950 (T.2.2 23) (x2 + (-1))).bind fun v9 => (J_works v4 v8 v9).bind fun r10 => (stA T 23 950 ((x2 + (-1)) - (nI 1)) r10).bind fun T11 => J_reckons_140 k4 (x2 + (-1)) (x3 + (nI 1)) T11))))
def J_reckons_4 : Nat → Int32 → Int32 → tw_T → Option (Int32 × tw_T)
  | 0, _, _, _ => none
  | n + 1, x2, x3, T => B_reckons_4 (J_reckons_4 n) x2 x3 T
theorem vb_reckons_4 {l : Launch} {G : vv_G} {d : Nat} {o : Nat} {h0 : Nat → Option vv_E} {nz : Nat × Nat} (hG : vv_gok G) {k4 : Int32 → Int32 → tw_T → Option (Int32 × tw_T)} (hk4 : ∀ {x2 : Int32} {x3 : Int32} {T : tw_T} {r : Int32 × tw_T}, k4 x2 x3 T = some r → vv_V l G MX4_reckons (d + 1) 4 [(0, .ref o), (2, .int x2), (3, .int x3)] [] (tp o h0 T, nz) (.inl (some (.int r.1)), (tp o h0 r.2, nz))) {x2 : Int32} {x3 : Int32} {T : tw_T} {r : Int32 × tw_T} (h : B_reckons_4 k4 x2 x3 T = some r) : vv_V l G MX4_reckons (d + 1) 4 [(0, .ref o), (2, .int x2), (3, .int x3)] [] (tp o h0 T, nz) (.inl (some (.int r.1)), (tp o h0 r.2, nz)) := by
  unfold B_reckons_4 at h
  refine vv_aload_n dX4_reckons_4 rfl 0 rfl ?_
  refine tw_get (fl_X4_32 hG) (k := 11) rfl dX4_reckons_5 ?_
  refine vv_iload_n dX4_reckons_8 rfl 2 rfl ?_
  obtain ⟨v1, iv1, ev1, h⟩ := rd_o h
  refine tw_ald 7 (by decide) rfl iv1 ev1 dX4_reckons_9 ?_
  refine vv_if_eq (tgt := 143) dX4_reckons_10 (by decide) (fun c2 => ?_) (fun c2 => ?_)
  · rw [if_pos c2] at h
    refine vv_aload_n dX4_reckons_143 rfl 0 rfl ?_
    refine tw_get (fl_X4_84 hG) (k := 46) rfl dX4_reckons_144 ?_
    refine vv_iconst (v := (nI 0)) dX4_reckons_147 (by decide) ?_
    obtain ⟨v3, iv3, ev3, h⟩ := rd_o h
    refine tw_ald 23 (by decide) rfl iv3 ev3 dX4_reckons_148 ?_
    cases h
    exact vv_iret rfl dX4_reckons_149
  · rw [if_neg c2] at h
    refine vv_aload_n dX4_reckons_13 rfl 0 rfl ?_
    refine tw_get (fl_X4_32 hG) (k := 11) rfl dX4_reckons_14 ?_
    refine vv_iload_n dX4_reckons_17 rfl 2 rfl ?_
    obtain ⟨v4, iv4, ev4, h⟩ := rd_o h
    refine tw_ald 7 (by decide) rfl iv4 ev4 dX4_reckons_18 ?_
    refine vv_istore (lv' := [(0, .ref o), (2, .int x2), (3, .int x3), (4, .int v4)]) dX4_reckons_19 (by decide) [1, 2, 3, 0] rfl ?_
    refine vv_iinc (v := (x3 + (nI 1))) (lv' := [(0, .ref o), (2, .int x2), (3, .int (x3 + (nI 1))), (4, .int v4)]) dX4_reckons_21 2 rfl rfl (by decide) [1, 2, 0, 3] rfl ?_
    refine vv_iload dX4_reckons_24 3 rfl ?_
    refine vv_iconst (v := (nI 1)) dX4_reckons_26 (by decide) ?_
    refine vv_icmp_eq (tgt := 36) dX4_reckons_27 (by decide) (fun c5 => ?_) (fun c5 => ?_)
    · rw [if_pos c5] at h
      exact v_reckons_36 hG hk4 h
    · rw [if_neg c5] at h
      refine vv_iload dX4_reckons_30 3 rfl ?_
      refine vv_iconst (v := (nI 2)) dX4_reckons_32 (by decide) ?_
      refine vv_icmp_ne (tgt := 77) dX4_reckons_33 (by decide) (fun c6 => ?_) (fun c6 => ?_)
      · rw [if_neg c6] at h
        refine vv_iload dX4_reckons_77 3 rfl ?_
        refine vv_iconst (v := (nI 3)) dX4_reckons_79 (by decide) ?_
        refine vv_icmp_ne (tgt := 110) dX4_reckons_80 (by decide) (fun c7 => ?_) (fun c7 => ?_)
        · rw [if_neg c7] at h
          refine vv_iinc (v := (x2 + (-1))) (lv' := [(0, .ref o), (2, .int (x2 + (-1))), (3, .int (x3 + (nI 1))), (4, .int v4)]) dX4_reckons_110 1 rfl rfl (by decide) [1, 0, 2, 3] rfl ?_
          refine vv_aload_n dX4_reckons_113 rfl 0 rfl ?_
          refine tw_get (fl_X4_84 hG) (k := 46) rfl dX4_reckons_114 ?_
          refine vv_iload_n dX4_reckons_117 rfl 1 rfl ?_
          refine vv_iconst (v := (nI 1)) dX4_reckons_118 (by decide) ?_
          refine vv_isub dX4_reckons_119 ?_
          refine vv_iload dX4_reckons_120 3 rfl ?_
          refine vv_aload_n dX4_reckons_122 rfl 0 rfl ?_
          refine tw_get (fl_X4_84 hG) (k := 46) rfl dX4_reckons_123 ?_
          refine vv_iload_n dX4_reckons_126 rfl 1 rfl ?_
          refine vv_iconst (v := (nI 1)) dX4_reckons_127 (by decide) ?_
          refine vv_isub dX4_reckons_128 ?_
          obtain ⟨v8, iv8, ev8, h⟩ := rd_o h
          refine tw_ald 23 (by decide) rfl iv8 ev8 dX4_reckons_129 ?_
          refine vv_aload_n dX4_reckons_130 rfl 0 rfl ?_
          refine tw_get (fl_X4_84 hG) (k := 46) rfl dX4_reckons_131 ?_
          refine vv_iload_n dX4_reckons_134 rfl 1 rfl ?_
          obtain ⟨v9, iv9, ev9, h⟩ := rd_o h
          refine tw_ald 23 (by decide) rfl iv9 ev9 dX4_reckons_135 ?_
          obtain ⟨r10, er10, h⟩ := bd_o h
          refine vv_callS ok_X4_works q1961 (m_works hG er10 (d + 0)) rfl (by omega) rfl rfl (Nat.le_of_ble_eq_true rfl) dX4_reckons_136 ?_
          obtain ⟨T11, iT11, eT11, h⟩ := st_o h
          refine tw_ast 23 (by decide) rfl iT11 eT11 dX4_reckons_139 ?_
          refine vv_sub (lv' := [(0, .ref o), (2, .int (x2 + (-1))), (3, .int (x3 + (nI 1)))]) [0, 1, 2] rfl ?_
          exact v_reckons_140 hG hk4 h
        · rw [if_pos c7] at h
          refine vv_aload_n dX4_reckons_83 rfl 0 rfl ?_
          refine tw_get (fl_X4_84 hG) (k := 46) rfl dX4_reckons_84 ?_
          refine vv_iload_n dX4_reckons_87 rfl 1 rfl ?_
          refine vv_iconst (v := (nI 1)) dX4_reckons_88 (by decide) ?_
          refine vv_isub dX4_reckons_89 ?_
          refine vv_aload_n dX4_reckons_90 rfl 0 rfl ?_
          refine tw_get (fl_X4_84 hG) (k := 46) rfl dX4_reckons_91 ?_
          refine vv_iload_n dX4_reckons_94 rfl 1 rfl ?_
          refine vv_iconst (v := (nI 1)) dX4_reckons_95 (by decide) ?_
          refine vv_isub dX4_reckons_96 ?_
          obtain ⟨v12, iv12, ev12, h⟩ := rd_o h
          refine tw_ald 23 (by decide) rfl iv12 ev12 dX4_reckons_97 ?_
          refine vv_if_ne (tgt := 105) dX4_reckons_98 (by decide) (fun c13 => ?_) (fun c13 => ?_)
          · rw [if_neg c13] at h
            refine vv_iconst (v := (nI 0)) dX4_reckons_105 (by decide) ?_
            refine vv_sub (lv' := [(0, .ref o), (2, .int x2), (3, .int (x3 + (nI 1)))]) [0, 1, 2] rfl ?_
            exact v_reckons_106 hG hk4 h
          · rw [if_pos c13] at h
            refine vv_iconst (v := (nI 1)) dX4_reckons_101 (by decide) ?_
            refine vv_goto (tgt := 106) dX4_reckons_102 (by decide) ?_
            refine vv_sub (lv' := [(0, .ref o), (2, .int x2), (3, .int (x3 + (nI 1)))]) [0, 1, 2] rfl ?_
            exact v_reckons_106 hG hk4 h
      · rw [if_pos c6] at h
        exact v_reckons_36 hG hk4 h
theorem v_reckons_4 {l : Launch} {G : vv_G} {d : Nat} {o : Nat} {h0 : Nat → Option vv_E} {nz : Nat × Nat} (hG : vv_gok G) : ∀ (n : Nat) {x2 : Int32} {x3 : Int32} {T : tw_T} {r : Int32 × tw_T}, J_reckons_4 n x2 x3 T = some r → vv_V l G MX4_reckons (d + 1) 4 [(0, .ref o), (2, .int x2), (3, .int x3)] [] (tp o h0 T, nz) (.inl (some (.int r.1)), (tp o h0 r.2, nz)) := by
  intro n
  induction n with
  | zero => intro _ _ _ _ h; cases h
  | succ n ih => intro _ _ _ _ h; exact vb_reckons_4 hG ih h
def J_reckons (x1 : Int32) (T : tw_T) : Option (Int32 × tw_T) := J_reckons_4 NN (nI 0) x1 T
theorem v_reckons_0 {l : Launch} {G : vv_G} {d : Nat} {o : Nat} {h0 : Nat → Option vv_E} {nz : Nat × Nat} (hG : vv_gok G) {x1 : Int32} {T : tw_T} {r : Int32 × tw_T} (h : J_reckons x1 T = some r) : vv_V l G MX4_reckons (d + 1) 0 [(0, .ref o), (1, .int x1)] [] (tp o h0 T, nz) (.inl (some (.int r.1)), (tp o h0 r.2, nz)) := by
  unfold J_reckons at h
  refine vv_iconst (v := (nI 0)) dX4_reckons_0 (by decide) ?_
  refine vv_istore_n (lv' := [(0, .ref o), (1, .int x1), (2, .int (nI 0))]) dX4_reckons_1 rfl (by decide) [1, 2, 0] rfl ?_
  refine vv_iload_n dX4_reckons_2 rfl 1 rfl ?_
  refine vv_istore_n (lv' := [(0, .ref o), (1, .int x1), (2, .int (nI 0)), (3, .int x1)]) dX4_reckons_3 rfl (by decide) [1, 2, 3, 0] rfl ?_
  refine vv_sub (lv' := [(0, .ref o), (2, .int (nI 0)), (3, .int x1)]) [0, 2, 3] rfl ?_
  exact v_reckons_4 hG NN h
theorem m_reckons {l : Launch} {G : vv_G} {o : Nat} {h0 : Nat → Option vv_E} {nz : Nat × Nat} (hG : vv_gok G) {x1 : Int32} {T : tw_T} {r : Int32 × tw_T} (h : J_reckons x1 T = some r) (d : Nat) : vv_Met l G MX4_reckons (d + 1) [.ref o, .int x1] (tp o h0 T, nz) (.inl (some (.int r.1)), (tp o h0 r.2, nz)) := vv_head (by decide +kernel) rfl (Nat.le_of_ble_eq_true rfl) rfl (v_reckons_0 hG h)
/-! oddsOf -/
def J_oddsOf (x1 : Int32) (x2 : Int32) (T : tw_T) : Option (Int32 × tw_T) := (rdI 170 (T.2.2 20) ((x1 + (nI 1)) + x2)).bind fun v1 => (rdI 170 (T.2.2 20) ((x1 + (nI 9)) + x2)).bind fun v2 => if (T.1 4) = (-1) then ((dvI v1 (nI 10)).bind fun v17 => (dvI v2 (nI 10)).bind fun v19 => (J_kept (((nI 6) + v17) - v19) (nI 0) (nI 12)).bind fun r21 => some (r21, T)) else ((stA T 22 6 (nI 0) v1).bind fun T4 => (stA T4 22 6 (nI 1) v2).bind fun T5 => (rdI 8 (T5.2.2 2) x2).bind fun v6 => (stA T5 22 6 (nI 2) v6).bind fun T7 => (rdI 8 (T7.2.2 1) x2).bind fun v8 => (stA T7 22 6 (nI 3) v8).bind fun T9 => (rdI 170 (T9.2.2 20) (x1 + (nI 0))).bind fun v10 => (stA T9 22 6 (nI 4) v10).bind fun T11 => (J_lyingIn x1 x2 T11).bind fun r12 => (J_bits r12.1).bind fun r13 => (stA r12.2 22 6 (nI 5) r13).bind fun T14 => (J_reckons (T14.1 4) T14).bind fun r15 => (J_kept r15.1 (nI 0) (nI 12)).bind fun r16 => some (r16, r15.2))
theorem v_oddsOf_0 {l : Launch} {G : vv_G} {d : Nat} {o : Nat} {h0 : Nat → Option vv_E} {nz : Nat × Nat} (hG : vv_gok G) {x1 : Int32} {x2 : Int32} {T : tw_T} {r : Int32 × tw_T} (h : J_oddsOf x1 x2 T = some r) : vv_V l G MX4_oddsOf (d + 2) 0 [(0, .ref o), (1, .int x1), (2, .int x2)] [] (tp o h0 T, nz) (.inl (some (.int r.1)), (tp o h0 r.2, nz)) := by
  unfold J_oddsOf at h
  refine vv_aload_n dX4_oddsOf_0 rfl 0 rfl ?_
  refine tw_get (fl_X4_75 hG) (k := 42) rfl dX4_oddsOf_1 ?_
  refine vv_iload_n dX4_oddsOf_4 rfl 1 rfl ?_
  refine vv_iconst (v := (nI 1)) dX4_oddsOf_5 (by decide) ?_
  refine vv_iadd dX4_oddsOf_6 ?_
  refine vv_iload_n dX4_oddsOf_7 rfl 2 rfl ?_
  refine vv_iadd dX4_oddsOf_8 ?_
  obtain ⟨v1, iv1, ev1, h⟩ := rd_o h
  refine tw_ald 20 (by decide) rfl iv1 ev1 dX4_oddsOf_9 ?_
  refine vv_istore_n (lv' := [(0, .ref o), (1, .int x1), (2, .int x2), (3, .int v1)]) dX4_oddsOf_10 rfl (by decide) [1, 2, 3, 0] rfl ?_
  refine vv_aload_n dX4_oddsOf_11 rfl 0 rfl ?_
  refine tw_get (fl_X4_75 hG) (k := 42) rfl dX4_oddsOf_12 ?_
  refine vv_iload_n dX4_oddsOf_15 rfl 1 rfl ?_
  refine vv_bipush (v := (nI 9)) dX4_oddsOf_16 (by decide) ?_
  refine vv_iadd dX4_oddsOf_18 ?_
  refine vv_iload_n dX4_oddsOf_19 rfl 2 rfl ?_
  refine vv_iadd dX4_oddsOf_20 ?_
  obtain ⟨v2, iv2, ev2, h⟩ := rd_o h
  refine tw_ald 20 (by decide) rfl iv2 ev2 dX4_oddsOf_21 ?_
  refine vv_istore (lv' := [(0, .ref o), (1, .int x1), (2, .int x2), (3, .int v1), (4, .int v2)]) dX4_oddsOf_22 (by decide) [1, 2, 3, 4, 0] rfl ?_
  refine vv_aload_n dX4_oddsOf_24 rfl 0 rfl ?_
  refine tw_get (fl_X4_9 hG) (k := 4) rfl dX4_oddsOf_25 ?_
  refine vv_iconst (v := (-1)) dX4_oddsOf_28 (by decide) ?_
  refine vv_icmp_ne (tgt := 52) dX4_oddsOf_29 (by decide) (fun c3 => ?_) (fun c3 => ?_)
  · rw [if_neg c3] at h
    refine vv_aload_n dX4_oddsOf_52 rfl 0 rfl ?_
    refine tw_get (fl_X4_81 hG) (k := 45) rfl dX4_oddsOf_53 ?_
    refine vv_iconst (v := (nI 0)) dX4_oddsOf_56 (by decide) ?_
    refine vv_iload_n dX4_oddsOf_57 rfl 3 rfl ?_
    obtain ⟨T4, iT4, eT4, h⟩ := st_o h
    refine tw_ast 22 (by decide) rfl iT4 eT4 dX4_oddsOf_58 ?_
    refine vv_aload_n dX4_oddsOf_59 rfl 0 rfl ?_
    refine tw_get (fl_X4_81 hG) (k := 45) rfl dX4_oddsOf_60 ?_
    refine vv_iconst (v := (nI 1)) dX4_oddsOf_63 (by decide) ?_
    refine vv_iload dX4_oddsOf_64 4 rfl ?_
    obtain ⟨T5, iT5, eT5, h⟩ := st_o h
    refine tw_ast 22 (by decide) rfl iT5 eT5 dX4_oddsOf_66 ?_
    refine vv_aload_n dX4_oddsOf_67 rfl 0 rfl ?_
    refine tw_get (fl_X4_81 hG) (k := 45) rfl dX4_oddsOf_68 ?_
    refine vv_iconst (v := (nI 2)) dX4_oddsOf_71 (by decide) ?_
    refine vv_aload_n dX4_oddsOf_72 rfl 0 rfl ?_
    refine tw_get (fl_X4_17 hG) (k := 6) rfl dX4_oddsOf_73 ?_
    refine vv_iload_n dX4_oddsOf_76 rfl 2 rfl ?_
    obtain ⟨v6, iv6, ev6, h⟩ := rd_o h
    refine tw_ald 2 (by decide) rfl iv6 ev6 dX4_oddsOf_77 ?_
    obtain ⟨T7, iT7, eT7, h⟩ := st_o h
    refine tw_ast 22 (by decide) rfl iT7 eT7 dX4_oddsOf_78 ?_
    refine vv_aload_n dX4_oddsOf_79 rfl 0 rfl ?_
    refine tw_get (fl_X4_81 hG) (k := 45) rfl dX4_oddsOf_80 ?_
    refine vv_iconst (v := (nI 3)) dX4_oddsOf_83 (by decide) ?_
    refine vv_aload_n dX4_oddsOf_84 rfl 0 rfl ?_
    refine tw_get (fl_X4_13 hG) (k := 5) rfl dX4_oddsOf_85 ?_
    refine vv_iload_n dX4_oddsOf_88 rfl 2 rfl ?_
    obtain ⟨v8, iv8, ev8, h⟩ := rd_o h
    refine tw_ald 1 (by decide) rfl iv8 ev8 dX4_oddsOf_89 ?_
    obtain ⟨T9, iT9, eT9, h⟩ := st_o h
    refine tw_ast 22 (by decide) rfl iT9 eT9 dX4_oddsOf_90 ?_
    refine vv_aload_n dX4_oddsOf_91 rfl 0 rfl ?_
    refine tw_get (fl_X4_81 hG) (k := 45) rfl dX4_oddsOf_92 ?_
    refine vv_iconst (v := (nI 4)) dX4_oddsOf_95 (by decide) ?_
    refine vv_aload_n dX4_oddsOf_96 rfl 0 rfl ?_
    refine tw_get (fl_X4_75 hG) (k := 42) rfl dX4_oddsOf_97 ?_
    refine vv_iload_n dX4_oddsOf_100 rfl 1 rfl ?_
    refine vv_iconst (v := (nI 0)) dX4_oddsOf_101 (by decide) ?_
    refine vv_iadd dX4_oddsOf_102 ?_
    obtain ⟨v10, iv10, ev10, h⟩ := rd_o h
    refine tw_ald 20 (by decide) rfl iv10 ev10 dX4_oddsOf_103 ?_
    obtain ⟨T11, iT11, eT11, h⟩ := st_o h
    refine tw_ast 22 (by decide) rfl iT11 eT11 dX4_oddsOf_104 ?_
    refine vv_aload_n dX4_oddsOf_105 rfl 0 rfl ?_
    refine tw_get (fl_X4_81 hG) (k := 45) rfl dX4_oddsOf_106 ?_
    refine vv_iconst (v := (nI 5)) dX4_oddsOf_109 (by decide) ?_
    refine vv_aload_n dX4_oddsOf_110 rfl 0 rfl ?_
    refine vv_iload_n dX4_oddsOf_111 rfl 1 rfl ?_
    refine vv_iload_n dX4_oddsOf_112 rfl 2 rfl ?_
    obtain ⟨r12, er12, h⟩ := bd_o h
    refine vv_callV ok_X4_lyingIn q1950 (m_lyingIn hG er12 (d + 0)) rfl (by omega) ⟨_, _, _, _, _, tp_o, by rw [hG.1]; rfl⟩ rfl rfl (Nat.le_of_ble_eq_true rfl) dX4_oddsOf_113 ?_
    obtain ⟨r13, er13, h⟩ := bd_o h
    refine vv_callS ok_X4_bits q1954 (m_bits hG er13 (d + 1)) rfl (by omega) rfl rfl (Nat.le_of_ble_eq_true rfl) dX4_oddsOf_116 ?_
    obtain ⟨T14, iT14, eT14, h⟩ := st_o h
    refine tw_ast 22 (by decide) rfl iT14 eT14 dX4_oddsOf_119 ?_
    refine vv_aload_n dX4_oddsOf_120 rfl 0 rfl ?_
    refine vv_aload_n dX4_oddsOf_121 rfl 0 rfl ?_
    refine tw_get (fl_X4_9 hG) (k := 4) rfl dX4_oddsOf_122 ?_
    obtain ⟨r15, er15, h⟩ := bd_o h
    refine vv_callV ok_X4_reckons q1957 (m_reckons hG er15 (d + 0)) rfl (by omega) ⟨_, _, _, _, _, tp_o, by rw [hG.1]; rfl⟩ rfl rfl (Nat.le_of_ble_eq_true rfl) dX4_oddsOf_125 ?_
    refine vv_iconst (v := (nI 0)) dX4_oddsOf_128 (by decide) ?_
    refine vv_bipush (v := (nI 12)) dX4_oddsOf_129 (by decide) ?_
    obtain ⟨r16, er16, h⟩ := bd_o h
    refine vv_callS ok_X4_kept q1947 (m_kept hG er16 (d + 1)) rfl (by omega) rfl rfl (Nat.le_of_ble_eq_true rfl) dX4_oddsOf_131 ?_
    cases h
    exact vv_iret rfl dX4_oddsOf_134
  · rw [if_pos c3] at h
    refine vv_bipush (v := (nI 6)) dX4_oddsOf_32 (by decide) ?_
    refine vv_iload_n dX4_oddsOf_34 rfl 3 rfl ?_
    refine vv_bipush (v := (nI 10)) dX4_oddsOf_35 (by decide) ?_
    obtain ⟨hz18, h⟩ := dv_o h
    refine vv_idiv dX4_oddsOf_37 hz18 ?_
    obtain ⟨v17, ev17⟩ : ∃ z, z = (v1 / (nI 10)) := ⟨_, rfl⟩
    rw [← ev17] at h ⊢
    refine vv_iadd dX4_oddsOf_38 ?_
    refine vv_iload dX4_oddsOf_39 4 rfl ?_
    refine vv_bipush (v := (nI 10)) dX4_oddsOf_41 (by decide) ?_
    obtain ⟨hz20, h⟩ := dv_o h
    refine vv_idiv dX4_oddsOf_43 hz20 ?_
    obtain ⟨v19, ev19⟩ : ∃ z, z = (v2 / (nI 10)) := ⟨_, rfl⟩
    rw [← ev19] at h ⊢
    refine vv_isub dX4_oddsOf_44 ?_
    refine vv_iconst (v := (nI 0)) dX4_oddsOf_45 (by decide) ?_
    refine vv_bipush (v := (nI 12)) dX4_oddsOf_46 (by decide) ?_
    obtain ⟨r21, er21, h⟩ := bd_o h
    refine vv_callS ok_X4_kept q1947 (m_kept hG er21 (d + 1)) rfl (by omega) rfl rfl (Nat.le_of_ble_eq_true rfl) dX4_oddsOf_48 ?_
    cases h
    exact vv_iret rfl dX4_oddsOf_51
theorem m_oddsOf {l : Launch} {G : vv_G} {o : Nat} {h0 : Nat → Option vv_E} {nz : Nat × Nat} (hG : vv_gok G) {x1 : Int32} {x2 : Int32} {T : tw_T} {r : Int32 × tw_T} (h : J_oddsOf x1 x2 T = some r) (d : Nat) : vv_Met l G MX4_oddsOf (d + 2) [.ref o, .int x1, .int x2] (tp o h0 T, nz) (.inl (some (.int r.1)), (tp o h0 r.2, nz)) := vv_head (by decide +kernel) rfl (Nat.le_of_ble_eq_true rfl) rfl (v_oddsOf_0 hG h)
/-! town -/
def J_town_23 (T : tw_T) : Option (Int32 × tw_T) := some ((nI 0), T)
theorem v_town_23 {l : Launch} {G : vv_G} {d : Nat} {o : Nat} {h0 : Nat → Option vv_E} {nz : Nat × Nat} (hG : vv_gok G) {T : tw_T} {r : Int32 × tw_T} (h : J_town_23 T = some r) : vv_V l G MX4_town (d + 3) 23 [(0, .ref o)] [] (tp o h0 T, nz) (.inl (some (.int r.1)), (tp o h0 r.2, nz)) := by
  unfold J_town_23 at h
  refine vv_iconst (v := (nI 0)) dX4_town_23 (by decide) ?_
  cases h
  exact vv_iret rfl dX4_town_24
def J_town (x1 : Int32) (x2 : Int32) (T : tw_T) : Option (Int32 × tw_T) := (some (tw_F T 0 (nI 0))).bind fun T1 => (J_isTown x1 T1).bind fun r2 => if r2.1 = 0 then (J_town_23 r2.2) else ((J_isWhat x2 (nI 6) r2.2).bind fun r4 => if r4.1 = 0 then (J_town_23 r4.2) else (if x2 = (nI 0) then ((rdI 170 (r4.2.2.2 20) ((nI 1) + x1)).bind fun v7 => some (v7, r4.2)) else if x2 = (nI 1) then ((rdI 170 (r4.2.2.2 20) ((nI 9) + x1)).bind fun v9 => some (v9, r4.2)) else if x2 = (nI 2) then ((rdI 8 (r4.2.2.2 1) x1).bind fun v11 => some (v11, r4.2)) else if x2 = (nI 3) then ((rdI 8 (r4.2.2.2 2) x1).bind fun v13 => some (v13, r4.2)) else if x2 = (nI 4) then ((rdI 170 (r4.2.2.2 20) ((nI 17) + x1)).bind fun v15 => some (v15, r4.2)) else if x2 = (nI 5) then ((J_oddsOf (nI 0) x1 r4.2).bind fun r17 => some (r17.1, r17.2)) else ((J_lyingIn (nI 0) x1 r4.2).bind fun r18 => some (r18.1, r18.2))))
theorem v_town_0 {l : Launch} {G : vv_G} {d : Nat} {o : Nat} {h0 : Nat → Option vv_E} {nz : Nat × Nat} (hG : vv_gok G) {x1 : Int32} {x2 : Int32} {T : tw_T} {r : Int32 × tw_T} (h : J_town x1 x2 T = some r) : vv_V l G MX4_town (d + 3) 0 [(0, .ref o), (1, .int x1), (2, .int x2)] [] (tp o h0 T, nz) (.inl (some (.int r.1)), (tp o h0 r.2, nz)) := by
  unfold J_town at h
  refine vv_aload_n dX4_town_0 rfl 0 rfl ?_
  refine vv_iconst (v := (nI 0)) dX4_town_1 (by decide) ?_
  obtain ⟨T1, eT1, h⟩ := bd_s h
  refine tw_put (T1 := T1) (pt_X4_117 hG) hG rfl rfl rfl (by decide) (by rw [eT1]; exact tw_set0 _ _ _) (by rw [eT1]; rfl) dX4_town_2 ?_
  refine vv_aload_n dX4_town_5 rfl 0 rfl ?_
  refine vv_iload_n dX4_town_6 rfl 1 rfl ?_
  obtain ⟨r2, er2, h⟩ := bd_o h
  refine vv_callV ok_X4_isTown q1935 (m_isTown hG er2 (d + 1)) rfl (by omega) ⟨_, _, _, _, _, tp_o, by rw [hG.1]; rfl⟩ rfl rfl (Nat.le_of_ble_eq_true rfl) dX4_town_7 ?_
  refine vv_if_eq (tgt := 23) dX4_town_10 (by decide) (fun c3 => ?_) (fun c3 => ?_)
  · rw [if_pos c3] at h
    refine vv_sub (lv' := [(0, .ref o)]) [0] rfl ?_
    exact v_town_23 hG h
  · rw [if_neg c3] at h
    refine vv_aload_n dX4_town_13 rfl 0 rfl ?_
    refine vv_iload_n dX4_town_14 rfl 2 rfl ?_
    refine vv_bipush (v := (nI 6)) dX4_town_15 (by decide) ?_
    obtain ⟨r4, er4, h⟩ := bd_o h
    refine vv_callV ok_X4_isWhat q1939 (m_isWhat hG er4 (d + 1)) rfl (by omega) ⟨_, _, _, _, _, tp_o, by rw [hG.1]; rfl⟩ rfl rfl (Nat.le_of_ble_eq_true rfl) dX4_town_17 ?_
    refine vv_if_ne (tgt := 25) dX4_town_20 (by decide) (fun c5 => ?_) (fun c5 => ?_)
    · rw [if_neg c5] at h
      refine vv_iload_n dX4_town_25 rfl 2 rfl ?_
      by_cases c6 : x2 = (nI 0)
      · rw [if_pos c6] at h
        refine vv_tableIn (tgt := 64) dX4_town_26 (by rw [c6]; decide) (by rw [c6]; decide) (by rw [c6]; rfl) (by decide) ?_
        refine vv_aload_n dX4_town_64 rfl 0 rfl ?_
        refine tw_get (fl_X4_75 hG) (k := 42) rfl dX4_town_65 ?_
        refine vv_iconst (v := (nI 1)) dX4_town_68 (by decide) ?_
        refine vv_iload_n dX4_town_69 rfl 1 rfl ?_
        refine vv_iadd dX4_town_70 ?_
        obtain ⟨v7, iv7, ev7, h⟩ := rd_o h
        refine tw_ald 20 (by decide) rfl iv7 ev7 dX4_town_71 ?_
        cases h
        exact vv_iret rfl dX4_town_72
      rw [if_neg c6] at h
      by_cases c8 : x2 = (nI 1)
      · rw [if_pos c8] at h
        refine vv_tableIn (tgt := 73) dX4_town_26 (by rw [c8]; decide) (by rw [c8]; decide) (by rw [c8]; rfl) (by decide) ?_
        refine vv_aload_n dX4_town_73 rfl 0 rfl ?_
        refine tw_get (fl_X4_75 hG) (k := 42) rfl dX4_town_74 ?_
        refine vv_bipush (v := (nI 9)) dX4_town_77 (by decide) ?_
        refine vv_iload_n dX4_town_79 rfl 1 rfl ?_
        refine vv_iadd dX4_town_80 ?_
        obtain ⟨v9, iv9, ev9, h⟩ := rd_o h
        refine tw_ald 20 (by decide) rfl iv9 ev9 dX4_town_81 ?_
        cases h
        exact vv_iret rfl dX4_town_82
      rw [if_neg c8] at h
      by_cases c10 : x2 = (nI 2)
      · rw [if_pos c10] at h
        refine vv_tableIn (tgt := 83) dX4_town_26 (by rw [c10]; decide) (by rw [c10]; decide) (by rw [c10]; rfl) (by decide) ?_
        refine vv_aload_n dX4_town_83 rfl 0 rfl ?_
        refine tw_get (fl_X4_13 hG) (k := 5) rfl dX4_town_84 ?_
        refine vv_iload_n dX4_town_87 rfl 1 rfl ?_
        obtain ⟨v11, iv11, ev11, h⟩ := rd_o h
        refine tw_ald 1 (by decide) rfl iv11 ev11 dX4_town_88 ?_
        cases h
        exact vv_iret rfl dX4_town_89
      rw [if_neg c10] at h
      by_cases c12 : x2 = (nI 3)
      · rw [if_pos c12] at h
        refine vv_tableIn (tgt := 90) dX4_town_26 (by rw [c12]; decide) (by rw [c12]; decide) (by rw [c12]; rfl) (by decide) ?_
        refine vv_aload_n dX4_town_90 rfl 0 rfl ?_
        refine tw_get (fl_X4_17 hG) (k := 6) rfl dX4_town_91 ?_
        refine vv_iload_n dX4_town_94 rfl 1 rfl ?_
        obtain ⟨v13, iv13, ev13, h⟩ := rd_o h
        refine tw_ald 2 (by decide) rfl iv13 ev13 dX4_town_95 ?_
        cases h
        exact vv_iret rfl dX4_town_96
      rw [if_neg c12] at h
      by_cases c14 : x2 = (nI 4)
      · rw [if_pos c14] at h
        refine vv_tableIn (tgt := 97) dX4_town_26 (by rw [c14]; decide) (by rw [c14]; decide) (by rw [c14]; rfl) (by decide) ?_
        refine vv_aload_n dX4_town_97 rfl 0 rfl ?_
        refine tw_get (fl_X4_75 hG) (k := 42) rfl dX4_town_98 ?_
        refine vv_bipush (v := (nI 17)) dX4_town_101 (by decide) ?_
        refine vv_iload_n dX4_town_103 rfl 1 rfl ?_
        refine vv_iadd dX4_town_104 ?_
        obtain ⟨v15, iv15, ev15, h⟩ := rd_o h
        refine tw_ald 20 (by decide) rfl iv15 ev15 dX4_town_105 ?_
        cases h
        exact vv_iret rfl dX4_town_106
      rw [if_neg c14] at h
      by_cases c16 : x2 = (nI 5)
      · rw [if_pos c16] at h
        refine vv_tableIn (tgt := 107) dX4_town_26 (by rw [c16]; decide) (by rw [c16]; decide) (by rw [c16]; rfl) (by decide) ?_
        refine vv_aload_n dX4_town_107 rfl 0 rfl ?_
        refine vv_iconst (v := (nI 0)) dX4_town_108 (by decide) ?_
        refine vv_iload_n dX4_town_109 rfl 1 rfl ?_
        obtain ⟨r17, er17, h⟩ := bd_o h
        refine vv_callV ok_X4_oddsOf q1943 (m_oddsOf hG er17 (d + 0)) rfl (by omega) ⟨_, _, _, _, _, tp_o, by rw [hG.1]; rfl⟩ rfl rfl (Nat.le_of_ble_eq_true rfl) dX4_town_110 ?_
        cases h
        exact vv_iret rfl dX4_town_113
      rw [if_neg c16] at h
      have tc6 : ¬ (x2).toInt = 0 := fun hh => c6 (Int32.toInt_inj.mp (hh.trans (by decide)))
      have tc8 : ¬ (x2).toInt = 1 := fun hh => c8 (Int32.toInt_inj.mp (hh.trans (by decide)))
      have tc10 : ¬ (x2).toInt = 2 := fun hh => c10 (Int32.toInt_inj.mp (hh.trans (by decide)))
      have tc12 : ¬ (x2).toInt = 3 := fun hh => c12 (Int32.toInt_inj.mp (hh.trans (by decide)))
      have tc14 : ¬ (x2).toInt = 4 := fun hh => c14 (Int32.toInt_inj.mp (hh.trans (by decide)))
      have tc16 : ¬ (x2).toInt = 5 := fun hh => c16 (Int32.toInt_inj.mp (hh.trans (by decide)))
      refine vv_tableOut (tgt := 114) dX4_town_26 (by omega) (by decide) ?_
      refine vv_aload_n dX4_town_114 rfl 0 rfl ?_
      refine vv_iconst (v := (nI 0)) dX4_town_115 (by decide) ?_
      refine vv_iload_n dX4_town_116 rfl 1 rfl ?_
      obtain ⟨r18, er18, h⟩ := bd_o h
      refine vv_callV ok_X4_lyingIn q1950 (m_lyingIn hG er18 (d + 1)) rfl (by omega) ⟨_, _, _, _, _, tp_o, by rw [hG.1]; rfl⟩ rfl rfl (Nat.le_of_ble_eq_true rfl) dX4_town_117 ?_
      cases h
      exact vv_iret rfl dX4_town_120
    · rw [if_pos c5] at h
      refine vv_sub (lv' := [(0, .ref o)]) [0] rfl ?_
      exact v_town_23 hG h
theorem m_town {l : Launch} {G : vv_G} {o : Nat} {h0 : Nat → Option vv_E} {nz : Nat × Nat} (hG : vv_gok G) {x1 : Int32} {x2 : Int32} {T : tw_T} {r : Int32 × tw_T} (h : J_town x1 x2 T = some r) (d : Nat) : vv_Met l G MX4_town (d + 3) [.ref o, .int x1, .int x2] (tp o h0 T, nz) (.inl (some (.int r.1)), (tp o h0 r.2, nz)) := vv_head (by decide +kernel) rfl (Nat.le_of_ble_eq_true rfl) rfl (v_town_0 hG h)
/-! isCrate -/
def J_isCrate_18 (s1 : Int32) (T : tw_T) : Option (Int32 × tw_T) := (J_right s1 (nI 1) T).bind fun r1 => (zrI r1.1).bind fun v2 => some (v2, r1.2)
theorem v_isCrate_18 {l : Launch} {G : vv_G} {d : Nat} {o : Nat} {h0 : Nat → Option vv_E} {nz : Nat × Nat} (hG : vv_gok G) {s1 : Int32} {T : tw_T} {r : Int32 × tw_T} (h : J_isCrate_18 s1 T = some r) : vv_V l G MX4_isCrate (d + 1) 18 [(0, .ref o)] [.int s1, .ref o] (tp o h0 T, nz) (.inl (some (.int r.1)), (tp o h0 r.2, nz)) := by
  unfold J_isCrate_18 at h
  refine vv_iconst (v := (nI 1)) dX4_isCrate_18 (by decide) ?_
  obtain ⟨r1, er1, h⟩ := bd_o h
  refine vv_callV ok_X4_right q1773 (m_right hG er1 (d + 0)) rfl (by omega) ⟨_, _, _, _, _, tp_o, by rw [hG.1]; rfl⟩ rfl rfl (Nat.le_of_ble_eq_true rfl) dX4_isCrate_19 ?_
  obtain ⟨zv2, h⟩ := zr_o h
  cases h
  exact vv_zret rfl zv2 dX4_isCrate_22
def J_isCrate_17 (T : tw_T) : Option (Int32 × tw_T) := J_isCrate_18 (nI 0) T
theorem v_isCrate_17 {l : Launch} {G : vv_G} {d : Nat} {o : Nat} {h0 : Nat → Option vv_E} {nz : Nat × Nat} (hG : vv_gok G) {T : tw_T} {r : Int32 × tw_T} (h : J_isCrate_17 T = some r) : vv_V l G MX4_isCrate (d + 1) 17 [(0, .ref o)] [.ref o] (tp o h0 T, nz) (.inl (some (.int r.1)), (tp o h0 r.2, nz)) := by
  unfold J_isCrate_17 at h
  refine vv_iconst (v := (nI 0)) dX4_isCrate_17 (by decide) ?_
  exact v_isCrate_18 hG h
def J_isCrate (x1 : Int32) (T : tw_T) : Option (Int32 × tw_T) := if x1 < 0 then (J_isCrate_17 T) else (if (T.1 3) ≤ x1 then (J_isCrate_17 T) else (J_isCrate_18 (nI 1) T))
theorem v_isCrate_0 {l : Launch} {G : vv_G} {d : Nat} {o : Nat} {h0 : Nat → Option vv_E} {nz : Nat × Nat} (hG : vv_gok G) {x1 : Int32} {T : tw_T} {r : Int32 × tw_T} (h : J_isCrate x1 T = some r) : vv_V l G MX4_isCrate (d + 1) 0 [(0, .ref o), (1, .int x1)] [] (tp o h0 T, nz) (.inl (some (.int r.1)), (tp o h0 r.2, nz)) := by
  unfold J_isCrate at h
  refine vv_aload_n dX4_isCrate_0 rfl 0 rfl ?_
  refine vv_iload_n dX4_isCrate_1 rfl 1 rfl ?_
  refine vv_if_lt (tgt := 17) dX4_isCrate_2 (by decide) (fun c1 => ?_) (fun c1 => ?_)
  · rw [if_pos c1] at h
    refine vv_sub (lv' := [(0, .ref o)]) [0] rfl ?_
    exact v_isCrate_17 hG h
  · rw [if_neg c1] at h
    refine vv_iload_n dX4_isCrate_5 rfl 1 rfl ?_
    refine vv_aload_n dX4_isCrate_6 rfl 0 rfl ?_
    refine tw_get (fl_X4_287 hG) (k := 3) rfl dX4_isCrate_7 ?_
    refine vv_icmp_ge (tgt := 17) dX4_isCrate_10 (by decide) (fun c2 => ?_) (fun c2 => ?_)
    · rw [if_pos c2] at h
      refine vv_sub (lv' := [(0, .ref o)]) [0] rfl ?_
      exact v_isCrate_17 hG h
    · rw [if_neg c2] at h
      refine vv_iconst (v := (nI 1)) dX4_isCrate_13 (by decide) ?_
      refine vv_goto (tgt := 18) dX4_isCrate_14 (by decide) ?_
      refine vv_sub (lv' := [(0, .ref o)]) [0] rfl ?_
      exact v_isCrate_18 hG h
theorem m_isCrate {l : Launch} {G : vv_G} {o : Nat} {h0 : Nat → Option vv_E} {nz : Nat × Nat} (hG : vv_gok G) {x1 : Int32} {T : tw_T} {r : Int32 × tw_T} (h : J_isCrate x1 T = some r) (d : Nat) : vv_Met l G MX4_isCrate (d + 1) [.ref o, .int x1] (tp o h0 T, nz) (.inl (some (.int r.1)), (tp o h0 r.2, nz)) := vv_head (by decide +kernel) rfl (Nat.le_of_ble_eq_true rfl) rfl (v_isCrate_0 hG h)
/-! crate -/
def J_crate_22 (T : tw_T) : Option (Int32 × tw_T) := some ((nI 0), T)
theorem v_crate_22 {l : Launch} {G : vv_G} {d : Nat} {o : Nat} {h0 : Nat → Option vv_E} {nz : Nat × Nat} (hG : vv_gok G) {T : tw_T} {r : Int32 × tw_T} (h : J_crate_22 T = some r) : vv_V l G MX4_crate (d + 2) 22 [(0, .ref o)] [] (tp o h0 T, nz) (.inl (some (.int r.1)), (tp o h0 r.2, nz)) := by
  unfold J_crate_22 at h
  refine vv_iconst (v := (nI 0)) dX4_crate_22 (by decide) ?_
  cases h
  exact vv_iret rfl dX4_crate_23
def J_crate (x1 : Int32) (x2 : Int32) (T : tw_T) : Option (Int32 × tw_T) := (some (tw_F T 0 (nI 0))).bind fun T1 => (J_isCrate x1 T1).bind fun r2 => if r2.1 = 0 then (J_crate_22 r2.2) else ((J_isWhat x2 (nI 4) r2.2).bind fun r4 => if r4.1 = 0 then (J_crate_22 r4.2) else (if x2 = (nI 0) then ((rdI 170 (r4.2.2.2 20) ((nI 25) + x1)).bind fun v7 => some (v7, r4.2)) else if x2 = (nI 1) then ((rdI 170 (r4.2.2.2 20) ((nI 35) + x1)).bind fun v9 => some (v9, r4.2)) else if x2 = (nI 2) then ((rdI 170 (r4.2.2.2 20) ((nI 45) + x1)).bind fun v11 => some (v11, r4.2)) else if x2 = (nI 3) then ((rdI 170 (r4.2.2.2 20) ((nI 55) + x1)).bind fun v13 => some (v13, r4.2)) else ((rdI 170 (r4.2.2.2 20) ((nI 65) + x1)).bind fun v14 => some (v14, r4.2))))
theorem v_crate_0 {l : Launch} {G : vv_G} {d : Nat} {o : Nat} {h0 : Nat → Option vv_E} {nz : Nat × Nat} (hG : vv_gok G) {x1 : Int32} {x2 : Int32} {T : tw_T} {r : Int32 × tw_T} (h : J_crate x1 x2 T = some r) : vv_V l G MX4_crate (d + 2) 0 [(0, .ref o), (1, .int x1), (2, .int x2)] [] (tp o h0 T, nz) (.inl (some (.int r.1)), (tp o h0 r.2, nz)) := by
  unfold J_crate at h
  refine vv_aload_n dX4_crate_0 rfl 0 rfl ?_
  refine vv_iconst (v := (nI 0)) dX4_crate_1 (by decide) ?_
  obtain ⟨T1, eT1, h⟩ := bd_s h
  refine tw_put (T1 := T1) (pt_X4_117 hG) hG rfl rfl rfl (by decide) (by rw [eT1]; exact tw_set0 _ _ _) (by rw [eT1]; rfl) dX4_crate_2 ?_
  refine vv_aload_n dX4_crate_5 rfl 0 rfl ?_
  refine vv_iload_n dX4_crate_6 rfl 1 rfl ?_
  obtain ⟨r2, er2, h⟩ := bd_o h
  refine vv_callV ok_X4_isCrate q1968 (m_isCrate hG er2 (d + 0)) rfl (by omega) ⟨_, _, _, _, _, tp_o, by rw [hG.1]; rfl⟩ rfl rfl (Nat.le_of_ble_eq_true rfl) dX4_crate_7 ?_
  refine vv_if_eq (tgt := 22) dX4_crate_10 (by decide) (fun c3 => ?_) (fun c3 => ?_)
  · rw [if_pos c3] at h
    refine vv_sub (lv' := [(0, .ref o)]) [0] rfl ?_
    exact v_crate_22 hG h
  · rw [if_neg c3] at h
    refine vv_aload_n dX4_crate_13 rfl 0 rfl ?_
    refine vv_iload_n dX4_crate_14 rfl 2 rfl ?_
    refine vv_iconst (v := (nI 4)) dX4_crate_15 (by decide) ?_
    obtain ⟨r4, er4, h⟩ := bd_o h
    refine vv_callV ok_X4_isWhat q1939 (m_isWhat hG er4 (d + 0)) rfl (by omega) ⟨_, _, _, _, _, tp_o, by rw [hG.1]; rfl⟩ rfl rfl (Nat.le_of_ble_eq_true rfl) dX4_crate_16 ?_
    refine vv_if_ne (tgt := 24) dX4_crate_19 (by decide) (fun c5 => ?_) (fun c5 => ?_)
    · rw [if_neg c5] at h
      refine vv_iload_n dX4_crate_24 rfl 2 rfl ?_
      by_cases c6 : x2 = (nI 0)
      · rw [if_pos c6] at h
        refine vv_tableIn (tgt := 56) dX4_crate_25 (by rw [c6]; decide) (by rw [c6]; decide) (by rw [c6]; rfl) (by decide) ?_
        refine vv_aload_n dX4_crate_56 rfl 0 rfl ?_
        refine tw_get (fl_X4_75 hG) (k := 42) rfl dX4_crate_57 ?_
        refine vv_bipush (v := (nI 25)) dX4_crate_60 (by decide) ?_
        refine vv_iload_n dX4_crate_62 rfl 1 rfl ?_
        refine vv_iadd dX4_crate_63 ?_
        obtain ⟨v7, iv7, ev7, h⟩ := rd_o h
        refine tw_ald 20 (by decide) rfl iv7 ev7 dX4_crate_64 ?_
        cases h
        exact vv_iret rfl dX4_crate_65
      rw [if_neg c6] at h
      by_cases c8 : x2 = (nI 1)
      · rw [if_pos c8] at h
        refine vv_tableIn (tgt := 66) dX4_crate_25 (by rw [c8]; decide) (by rw [c8]; decide) (by rw [c8]; rfl) (by decide) ?_
        refine vv_aload_n dX4_crate_66 rfl 0 rfl ?_
        refine tw_get (fl_X4_75 hG) (k := 42) rfl dX4_crate_67 ?_
        refine vv_bipush (v := (nI 35)) dX4_crate_70 (by decide) ?_
        refine vv_iload_n dX4_crate_72 rfl 1 rfl ?_
        refine vv_iadd dX4_crate_73 ?_
        obtain ⟨v9, iv9, ev9, h⟩ := rd_o h
        refine tw_ald 20 (by decide) rfl iv9 ev9 dX4_crate_74 ?_
        cases h
        exact vv_iret rfl dX4_crate_75
      rw [if_neg c8] at h
      by_cases c10 : x2 = (nI 2)
      · rw [if_pos c10] at h
        refine vv_tableIn (tgt := 76) dX4_crate_25 (by rw [c10]; decide) (by rw [c10]; decide) (by rw [c10]; rfl) (by decide) ?_
        refine vv_aload_n dX4_crate_76 rfl 0 rfl ?_
        refine tw_get (fl_X4_75 hG) (k := 42) rfl dX4_crate_77 ?_
        refine vv_bipush (v := (nI 45)) dX4_crate_80 (by decide) ?_
        refine vv_iload_n dX4_crate_82 rfl 1 rfl ?_
        refine vv_iadd dX4_crate_83 ?_
        obtain ⟨v11, iv11, ev11, h⟩ := rd_o h
        refine tw_ald 20 (by decide) rfl iv11 ev11 dX4_crate_84 ?_
        cases h
        exact vv_iret rfl dX4_crate_85
      rw [if_neg c10] at h
      by_cases c12 : x2 = (nI 3)
      · rw [if_pos c12] at h
        refine vv_tableIn (tgt := 86) dX4_crate_25 (by rw [c12]; decide) (by rw [c12]; decide) (by rw [c12]; rfl) (by decide) ?_
        refine vv_aload_n dX4_crate_86 rfl 0 rfl ?_
        refine tw_get (fl_X4_75 hG) (k := 42) rfl dX4_crate_87 ?_
        refine vv_bipush (v := (nI 55)) dX4_crate_90 (by decide) ?_
        refine vv_iload_n dX4_crate_92 rfl 1 rfl ?_
        refine vv_iadd dX4_crate_93 ?_
        obtain ⟨v13, iv13, ev13, h⟩ := rd_o h
        refine tw_ald 20 (by decide) rfl iv13 ev13 dX4_crate_94 ?_
        cases h
        exact vv_iret rfl dX4_crate_95
      rw [if_neg c12] at h
      have tc6 : ¬ (x2).toInt = 0 := fun hh => c6 (Int32.toInt_inj.mp (hh.trans (by decide)))
      have tc8 : ¬ (x2).toInt = 1 := fun hh => c8 (Int32.toInt_inj.mp (hh.trans (by decide)))
      have tc10 : ¬ (x2).toInt = 2 := fun hh => c10 (Int32.toInt_inj.mp (hh.trans (by decide)))
      have tc12 : ¬ (x2).toInt = 3 := fun hh => c12 (Int32.toInt_inj.mp (hh.trans (by decide)))
      refine vv_tableOut (tgt := 96) dX4_crate_25 (by omega) (by decide) ?_
      refine vv_aload_n dX4_crate_96 rfl 0 rfl ?_
      refine tw_get (fl_X4_75 hG) (k := 42) rfl dX4_crate_97 ?_
      refine vv_bipush (v := (nI 65)) dX4_crate_100 (by decide) ?_
      refine vv_iload_n dX4_crate_102 rfl 1 rfl ?_
      refine vv_iadd dX4_crate_103 ?_
      obtain ⟨v14, iv14, ev14, h⟩ := rd_o h
      refine tw_ald 20 (by decide) rfl iv14 ev14 dX4_crate_104 ?_
      cases h
      exact vv_iret rfl dX4_crate_105
    · rw [if_pos c5] at h
      refine vv_sub (lv' := [(0, .ref o)]) [0] rfl ?_
      exact v_crate_22 hG h
theorem m_crate {l : Launch} {G : vv_G} {o : Nat} {h0 : Nat → Option vv_E} {nz : Nat × Nat} (hG : vv_gok G) {x1 : Int32} {x2 : Int32} {T : tw_T} {r : Int32 × tw_T} (h : J_crate x1 x2 T = some r) (d : Nat) : vv_Met l G MX4_crate (d + 2) [.ref o, .int x1, .int x2] (tp o h0 T, nz) (.inl (some (.int r.1)), (tp o h0 r.2, nz)) := vv_head (by decide +kernel) rfl (Nat.le_of_ble_eq_true rfl) rfl (v_crate_0 hG h)
/-! cratesGo -/
def J_cratesGo_96 (k2 : Int32 → Int32 → tw_T → Option tw_T) (x1 : Int32) (x2 : Int32) (T : tw_T) : Option tw_T := k2 x1 (x2 + (nI 1)) T
theorem v_cratesGo_96 {l : Launch} {G : vv_G} {d : Nat} {o : Nat} {h0 : Nat → Option vv_E} {nz : Nat × Nat} (hG : vv_gok G) {k2 : Int32 → Int32 → tw_T → Option tw_T} (hk2 : ∀ {x1 : Int32} {x2 : Int32} {T : tw_T} {r : tw_T}, k2 x1 x2 T = some r → vv_V l G MX4_cratesGo (d + 1) 2 [(0, .ref o), (1, .int x1), (2, .int x2)] [] (tp o h0 T, nz) (.inl none, (tp o h0 r, nz))) {x1 : Int32} {x2 : Int32} {T : tw_T} {r : tw_T} (h : J_cratesGo_96 k2 x1 x2 T = some r) : vv_V l G MX4_cratesGo (d + 1) 96 [(0, .ref o), (1, .int x1), (2, .int x2)] [] (tp o h0 T, nz) (.inl none, (tp o h0 r, nz)) := by
  unfold J_cratesGo_96 at h
  refine vv_iinc (v := (x2 + (nI 1))) (lv' := [(0, .ref o), (1, .int x1), (2, .int (x2 + (nI 1)))]) dX4_cratesGo_96 2 rfl rfl (by decide) [1, 2, 0] rfl ?_
  refine vv_goto (tgt := 2) dX4_cratesGo_99 (by decide) ?_
  exact hk2 h
def J_cratesGo_81 (k2 : Int32 → Int32 → tw_T → Option tw_T) (x1 : Int32) (x2 : Int32) (T : tw_T) : Option tw_T := (rdI 170 (T.2.2 20) ((x1 + (nI 65)) + x2)).bind fun v1 => (stA T 20 170 ((x1 + (nI 65)) + x2) (v1 - (nI 1))).bind fun T2 => J_cratesGo_96 k2 x1 x2 T2
theorem v_cratesGo_81 {l : Launch} {G : vv_G} {d : Nat} {o : Nat} {h0 : Nat → Option vv_E} {nz : Nat × Nat} (hG : vv_gok G) {k2 : Int32 → Int32 → tw_T → Option tw_T} (hk2 : ∀ {x1 : Int32} {x2 : Int32} {T : tw_T} {r : tw_T}, k2 x1 x2 T = some r → vv_V l G MX4_cratesGo (d + 1) 2 [(0, .ref o), (1, .int x1), (2, .int x2)] [] (tp o h0 T, nz) (.inl none, (tp o h0 r, nz))) {x1 : Int32} {x2 : Int32} {T : tw_T} {r : tw_T} (h : J_cratesGo_81 k2 x1 x2 T = some r) : vv_V l G MX4_cratesGo (d + 1) 81 [(0, .ref o), (1, .int x1), (2, .int x2)] [] (tp o h0 T, nz) (.inl none, (tp o h0 r, nz)) := by
  unfold J_cratesGo_81 at h
  refine vv_aload_n dX4_cratesGo_81 rfl 0 rfl ?_
  refine tw_get (fl_X4_75 hG) (k := 42) rfl dX4_cratesGo_82 ?_
  refine vv_iload_n dX4_cratesGo_85 rfl 1 rfl ?_
  refine vv_bipush (v := (nI 65)) dX4_cratesGo_86 (by decide) ?_
  refine vv_iadd dX4_cratesGo_88 ?_
  refine vv_iload_n dX4_cratesGo_89 rfl 2 rfl ?_
  refine vv_iadd dX4_cratesGo_90 ?_
  refine vv_dup2 dX4_cratesGo_91 rfl rfl ?_
  obtain ⟨v1, iv1, ev1, h⟩ := rd_o h
  refine tw_ald 20 (by decide) rfl iv1 ev1 dX4_cratesGo_92 ?_
  refine vv_iconst (v := (nI 1)) dX4_cratesGo_93 (by decide) ?_
  refine vv_isub dX4_cratesGo_94 ?_
  obtain ⟨T2, iT2, eT2, h⟩ := st_o h
  refine tw_ast 20 (by decide) rfl iT2 eT2 dX4_cratesGo_95 ?_
  exact v_cratesGo_96 hG hk2 h
def B_cratesGo_2 (k2 : Int32 → Int32 → tw_T → Option tw_T) (x1 : Int32) (x2 : Int32) (T : tw_T) : Option tw_T := if (T.1 3) ≤ x2 then (some T) else ((rdI 170 (T.2.2 20) ((x1 + (nI 65)) + x2)).bind fun v2 => if v2 = 0 then (J_cratesGo_96 k2 x1 x2 T) else ((rdI 170 (T.2.2 20) ((x1 + (nI 45)) + x2)).bind fun v4 => if v4 = 0 then ((rdI 170 (T.2.2 20) ((x1 + (nI 25)) + x2)).bind fun v6 => (rdI 170 (T.2.2 20) ((x1 + (nI 75)) + x2)).bind fun v7 => (J_kept (v6 - v7) (nI 0) (nI 99)).bind fun r8 => (stA T 20 170 ((x1 + (nI 25)) + x2) r8).bind fun T9 => J_cratesGo_81 k2 x1 x2 T9) else (J_cratesGo_81 k2 x1 x2 T)))
def J_cratesGo_2 : Nat → Int32 → Int32 → tw_T → Option tw_T
  | 0, _, _, _ => none
  | n + 1, x1, x2, T => B_cratesGo_2 (J_cratesGo_2 n) x1 x2 T
theorem vb_cratesGo_2 {l : Launch} {G : vv_G} {d : Nat} {o : Nat} {h0 : Nat → Option vv_E} {nz : Nat × Nat} (hG : vv_gok G) {k2 : Int32 → Int32 → tw_T → Option tw_T} (hk2 : ∀ {x1 : Int32} {x2 : Int32} {T : tw_T} {r : tw_T}, k2 x1 x2 T = some r → vv_V l G MX4_cratesGo (d + 1) 2 [(0, .ref o), (1, .int x1), (2, .int x2)] [] (tp o h0 T, nz) (.inl none, (tp o h0 r, nz))) {x1 : Int32} {x2 : Int32} {T : tw_T} {r : tw_T} (h : B_cratesGo_2 k2 x1 x2 T = some r) : vv_V l G MX4_cratesGo (d + 1) 2 [(0, .ref o), (1, .int x1), (2, .int x2)] [] (tp o h0 T, nz) (.inl none, (tp o h0 r, nz)) := by
  unfold B_cratesGo_2 at h
  refine vv_iload_n dX4_cratesGo_2 rfl 2 rfl ?_
  refine vv_aload_n dX4_cratesGo_3 rfl 0 rfl ?_
  refine tw_get (fl_X4_287 hG) (k := 3) rfl dX4_cratesGo_4 ?_
  refine vv_icmp_ge (tgt := 102) dX4_cratesGo_7 (by decide) (fun c1 => ?_) (fun c1 => ?_)
  · rw [if_pos c1] at h
    cases h
    exact vv_vret rfl dX4_cratesGo_102
  · rw [if_neg c1] at h
    refine vv_aload_n dX4_cratesGo_10 rfl 0 rfl ?_
    refine tw_get (fl_X4_75 hG) (k := 42) rfl dX4_cratesGo_11 ?_
    refine vv_iload_n dX4_cratesGo_14 rfl 1 rfl ?_
    refine vv_bipush (v := (nI 65)) dX4_cratesGo_15 (by decide) ?_
    refine vv_iadd dX4_cratesGo_17 ?_
    refine vv_iload_n dX4_cratesGo_18 rfl 2 rfl ?_
    refine vv_iadd dX4_cratesGo_19 ?_
    obtain ⟨v2, iv2, ev2, h⟩ := rd_o h
    refine tw_ald 20 (by decide) rfl iv2 ev2 dX4_cratesGo_20 ?_
    refine vv_if_ne (tgt := 27) dX4_cratesGo_21 (by decide) (fun c3 => ?_) (fun c3 => ?_)
    · rw [if_neg c3] at h
      refine vv_aload_n dX4_cratesGo_27 rfl 0 rfl ?_
      refine tw_get (fl_X4_75 hG) (k := 42) rfl dX4_cratesGo_28 ?_
      refine vv_iload_n dX4_cratesGo_31 rfl 1 rfl ?_
      refine vv_bipush (v := (nI 45)) dX4_cratesGo_32 (by decide) ?_
      refine vv_iadd dX4_cratesGo_34 ?_
      refine vv_iload_n dX4_cratesGo_35 rfl 2 rfl ?_
      refine vv_iadd dX4_cratesGo_36 ?_
      obtain ⟨v4, iv4, ev4, h⟩ := rd_o h
      refine tw_ald 20 (by decide) rfl iv4 ev4 dX4_cratesGo_37 ?_
      refine vv_if_ne (tgt := 81) dX4_cratesGo_38 (by decide) (fun c5 => ?_) (fun c5 => ?_)
      · rw [if_neg c5] at h
        exact v_cratesGo_81 hG hk2 h
      · rw [if_pos c5] at h
        refine vv_aload_n dX4_cratesGo_41 rfl 0 rfl ?_
        refine tw_get (fl_X4_75 hG) (k := 42) rfl dX4_cratesGo_42 ?_
        refine vv_iload_n dX4_cratesGo_45 rfl 1 rfl ?_
        refine vv_bipush (v := (nI 25)) dX4_cratesGo_46 (by decide) ?_
        refine vv_iadd dX4_cratesGo_48 ?_
        refine vv_iload_n dX4_cratesGo_49 rfl 2 rfl ?_
        refine vv_iadd dX4_cratesGo_50 ?_
        refine vv_aload_n dX4_cratesGo_51 rfl 0 rfl ?_
        refine tw_get (fl_X4_75 hG) (k := 42) rfl dX4_cratesGo_52 ?_
        refine vv_iload_n dX4_cratesGo_55 rfl 1 rfl ?_
        refine vv_bipush (v := (nI 25)) dX4_cratesGo_56 (by decide) ?_
        refine vv_iadd dX4_cratesGo_58 ?_
        refine vv_iload_n dX4_cratesGo_59 rfl 2 rfl ?_
        refine vv_iadd dX4_cratesGo_60 ?_
        obtain ⟨v6, iv6, ev6, h⟩ := rd_o h
        refine tw_ald 20 (by decide) rfl iv6 ev6 dX4_cratesGo_61 ?_
        refine vv_aload_n dX4_cratesGo_62 rfl 0 rfl ?_
        refine tw_get (fl_X4_75 hG) (k := 42) rfl dX4_cratesGo_63 ?_
        refine vv_iload_n dX4_cratesGo_66 rfl 1 rfl ?_
        refine vv_bipush (v := (nI 75)) dX4_cratesGo_67 (by decide) ?_
        refine vv_iadd dX4_cratesGo_69 ?_
        refine vv_iload_n dX4_cratesGo_70 rfl 2 rfl ?_
        refine vv_iadd dX4_cratesGo_71 ?_
        obtain ⟨v7, iv7, ev7, h⟩ := rd_o h
        refine tw_ald 20 (by decide) rfl iv7 ev7 dX4_cratesGo_72 ?_
        refine vv_isub dX4_cratesGo_73 ?_
        refine vv_iconst (v := (nI 0)) dX4_cratesGo_74 (by decide) ?_
        refine vv_bipush (v := (nI 99)) dX4_cratesGo_75 (by decide) ?_
        obtain ⟨r8, er8, h⟩ := bd_o h
        refine vv_callS ok_X4_kept q1947 (m_kept hG er8 (d + 0)) rfl (by omega) rfl rfl (Nat.le_of_ble_eq_true rfl) dX4_cratesGo_77 ?_
        obtain ⟨T9, iT9, eT9, h⟩ := st_o h
        refine tw_ast 20 (by decide) rfl iT9 eT9 dX4_cratesGo_80 ?_
        exact v_cratesGo_81 hG hk2 h
    · rw [if_pos c3] at h
      refine vv_goto (tgt := 96) dX4_cratesGo_24 (by decide) ?_
      exact v_cratesGo_96 hG hk2 h
theorem v_cratesGo_2 {l : Launch} {G : vv_G} {d : Nat} {o : Nat} {h0 : Nat → Option vv_E} {nz : Nat × Nat} (hG : vv_gok G) : ∀ (n : Nat) {x1 : Int32} {x2 : Int32} {T : tw_T} {r : tw_T}, J_cratesGo_2 n x1 x2 T = some r → vv_V l G MX4_cratesGo (d + 1) 2 [(0, .ref o), (1, .int x1), (2, .int x2)] [] (tp o h0 T, nz) (.inl none, (tp o h0 r, nz)) := by
  intro n
  induction n with
  | zero => intro _ _ _ _ h; cases h
  | succ n ih => intro _ _ _ _ h; exact vb_cratesGo_2 hG ih h
def J_cratesGo (x1 : Int32) (T : tw_T) : Option tw_T := J_cratesGo_2 NN x1 (nI 0) T
theorem v_cratesGo_0 {l : Launch} {G : vv_G} {d : Nat} {o : Nat} {h0 : Nat → Option vv_E} {nz : Nat × Nat} (hG : vv_gok G) {x1 : Int32} {T : tw_T} {r : tw_T} (h : J_cratesGo x1 T = some r) : vv_V l G MX4_cratesGo (d + 1) 0 [(0, .ref o), (1, .int x1)] [] (tp o h0 T, nz) (.inl none, (tp o h0 r, nz)) := by
  unfold J_cratesGo at h
  refine vv_iconst (v := (nI 0)) dX4_cratesGo_0 (by decide) ?_
  refine vv_istore_n (lv' := [(0, .ref o), (1, .int x1), (2, .int (nI 0))]) dX4_cratesGo_1 rfl (by decide) [1, 2, 0] rfl ?_
  exact v_cratesGo_2 hG NN h
theorem m_cratesGo {l : Launch} {G : vv_G} {o : Nat} {h0 : Nat → Option vv_E} {nz : Nat × Nat} (hG : vv_gok G) {x1 : Int32} {T : tw_T} {r : tw_T} (h : J_cratesGo x1 T = some r) (d : Nat) : vv_Met l G MX4_cratesGo (d + 1) [.ref o, .int x1] (tp o h0 T, nz) (.inl none, (tp o h0 r, nz)) := vv_head (by decide +kernel) rfl (Nat.le_of_ble_eq_true rfl) rfl (v_cratesGo_0 hG h)
/-! makesLuck -/
def J_makesLuck (x1 : Int32) (x2 : Int32) (T : tw_T) : Option tw_T := (rdI 170 (T.2.2 20) ((x1 + (nI 1)) + x2)).bind fun v1 => (rdI 8 (T.2.2 1) x2).bind fun v2 => (J_kept (v1 + v2) (nI 0) (nI 9999)).bind fun r3 => (stA T 20 170 ((x1 + (nI 1)) + x2) r3).bind fun T4 => some T4
theorem v_makesLuck_0 {l : Launch} {G : vv_G} {d : Nat} {o : Nat} {h0 : Nat → Option vv_E} {nz : Nat × Nat} (hG : vv_gok G) {x1 : Int32} {x2 : Int32} {T : tw_T} {r : tw_T} (h : J_makesLuck x1 x2 T = some r) : vv_V l G MX4_makesLuck (d + 1) 0 [(0, .ref o), (1, .int x1), (2, .int x2)] [] (tp o h0 T, nz) (.inl none, (tp o h0 r, nz)) := by
  unfold J_makesLuck at h
  refine vv_aload_n dX4_makesLuck_0 rfl 0 rfl ?_
  refine tw_get (fl_X4_75 hG) (k := 42) rfl dX4_makesLuck_1 ?_
  refine vv_iload_n dX4_makesLuck_4 rfl 1 rfl ?_
  refine vv_iconst (v := (nI 1)) dX4_makesLuck_5 (by decide) ?_
  refine vv_iadd dX4_makesLuck_6 ?_
  refine vv_iload_n dX4_makesLuck_7 rfl 2 rfl ?_
  refine vv_iadd dX4_makesLuck_8 ?_
  refine vv_aload_n dX4_makesLuck_9 rfl 0 rfl ?_
  refine tw_get (fl_X4_75 hG) (k := 42) rfl dX4_makesLuck_10 ?_
  refine vv_iload_n dX4_makesLuck_13 rfl 1 rfl ?_
  refine vv_iconst (v := (nI 1)) dX4_makesLuck_14 (by decide) ?_
  refine vv_iadd dX4_makesLuck_15 ?_
  refine vv_iload_n dX4_makesLuck_16 rfl 2 rfl ?_
  refine vv_iadd dX4_makesLuck_17 ?_
  obtain ⟨v1, iv1, ev1, h⟩ := rd_o h
  refine tw_ald 20 (by decide) rfl iv1 ev1 dX4_makesLuck_18 ?_
  refine vv_aload_n dX4_makesLuck_19 rfl 0 rfl ?_
  refine tw_get (fl_X4_13 hG) (k := 5) rfl dX4_makesLuck_20 ?_
  refine vv_iload_n dX4_makesLuck_23 rfl 2 rfl ?_
  obtain ⟨v2, iv2, ev2, h⟩ := rd_o h
  refine tw_ald 1 (by decide) rfl iv2 ev2 dX4_makesLuck_24 ?_
  refine vv_iadd dX4_makesLuck_25 ?_
  refine vv_iconst (v := (nI 0)) dX4_makesLuck_26 (by decide) ?_
  refine vv_sipush (v := (nI 9999)) dX4_makesLuck_27 (by decide) ?_
  obtain ⟨r3, er3, h⟩ := bd_o h
  refine vv_callS ok_X4_kept q1947 (m_kept hG er3 (d + 0)) rfl (by omega) rfl rfl (Nat.le_of_ble_eq_true rfl) dX4_makesLuck_30 ?_
  obtain ⟨T4, iT4, eT4, h⟩ := st_o h
  refine tw_ast 20 (by decide) rfl iT4 eT4 dX4_makesLuck_33 ?_
  cases h
  exact vv_vret rfl dX4_makesLuck_34
theorem m_makesLuck {l : Launch} {G : vv_G} {o : Nat} {h0 : Nat → Option vv_E} {nz : Nat × Nat} (hG : vv_gok G) {x1 : Int32} {x2 : Int32} {T : tw_T} {r : tw_T} (h : J_makesLuck x1 x2 T = some r) (d : Nat) : vv_Met l G MX4_makesLuck (d + 1) [.ref o, .int x1, .int x2] (tp o h0 T, nz) (.inl none, (tp o h0 r, nz)) := vv_head (by decide +kernel) rfl (Nat.le_of_ble_eq_true rfl) rfl (v_makesLuck_0 hG h)
/-! lesser -/
def J_lesser_10 (s0 : Int32) : Option Int32 := some s0
theorem v_lesser_10 {l : Launch} {G : vv_G} {d : Nat} {σ : vv_S} (hG : vv_gok G) {s0 : Int32} {r : Int32} (h : J_lesser_10 s0 = some r) : vv_V l G MX4_lesser (d + 0) 10 [] [.int s0] σ (.inl (some (.int r)), σ) := by
  unfold J_lesser_10 at h
  cases h
  exact vv_iret rfl dX4_lesser_10
def J_lesser (x0 : Int32) (x1 : Int32) : Option Int32 := if x1 ≤ x0 then (J_lesser_10 x1) else (J_lesser_10 x0)
theorem v_lesser_0 {l : Launch} {G : vv_G} {d : Nat} {σ : vv_S} (hG : vv_gok G) {x0 : Int32} {x1 : Int32} {r : Int32} (h : J_lesser x0 x1 = some r) : vv_V l G MX4_lesser (d + 0) 0 [(0, .int x0), (1, .int x1)] [] σ (.inl (some (.int r)), σ) := by
  unfold J_lesser at h
  refine vv_iload_n dX4_lesser_0 rfl 0 rfl ?_
  refine vv_iload_n dX4_lesser_1 rfl 1 rfl ?_
  refine vv_icmp_ge (tgt := 9) dX4_lesser_2 (by decide) (fun c1 => ?_) (fun c1 => ?_)
  · rw [if_pos c1] at h
    refine vv_iload_n dX4_lesser_9 rfl 1 rfl ?_
    refine vv_sub (lv' := []) [] rfl ?_
    exact v_lesser_10 hG h
  · rw [if_neg c1] at h
    refine vv_iload_n dX4_lesser_5 rfl 0 rfl ?_
    refine vv_goto (tgt := 10) dX4_lesser_6 (by decide) ?_
    refine vv_sub (lv' := []) [] rfl ?_
    exact v_lesser_10 hG h
theorem m_lesser {l : Launch} {G : vv_G} {σ : vv_S} (hG : vv_gok G) {x0 : Int32} {x1 : Int32} {r : Int32} (h : J_lesser x0 x1 = some r) (d : Nat) : vv_Met l G MX4_lesser (d + 0) [.int x0, .int x1] σ (.inl (some (.int r)), σ) := vv_head (by decide +kernel) rfl (Nat.le_of_ble_eq_true rfl) rfl (v_lesser_0 hG h)
/-! stakes -/
def J_stakes_77 (s1 : Int32) (s2 : Int32) (s3 : Int32) (x1 : Int32) (x2 : Int32) (T : tw_T) : Option tw_T := (J_kept (s2 + s3) (nI 0) (nI 9999)).bind fun r1 => (stA T 20 170 s1 r1).bind fun T2 => (rdI 170 (T2.2.2 20) ((x1 + (nI 1)) + x2)).bind fun v3 => (rdI 170 (T2.2.2 20) ((x1 + (nI 9)) + x2)).bind fun v4 => (J_lesser v3 v4).bind fun r5 => (rdI 170 (T2.2.2 20) ((x1 + (nI 1)) + x2)).bind fun v6 => (stA T2 20 170 ((x1 + (nI 1)) + x2) (v6 - r5)).bind fun T7 => (rdI 170 (T7.2.2 20) ((x1 + (nI 9)) + x2)).bind fun v8 => (stA T7 20 170 ((x1 + (nI 9)) + x2) (v8 - r5)).bind fun T9 => some T9
theorem v_stakes_77 {l : Launch} {G : vv_G} {d : Nat} {o : Nat} {h0 : Nat → Option vv_E} {nz : Nat × Nat} (hG : vv_gok G) {s1 : Int32} {s2 : Int32} {s3 : Int32} {x1 : Int32} {x2 : Int32} {T : tw_T} {r : tw_T} (h : J_stakes_77 s1 s2 s3 x1 x2 T = some r) : vv_V l G MX4_stakes (d + 1) 77 [(0, .ref o), (1, .int x1), (2, .int x2)] [.int s3, .int s2, .int s1, .ref (o + 20)] (tp o h0 T, nz) (.inl none, (tp o h0 r, nz)) := by
  unfold J_stakes_77 at h
  refine vv_iadd dX4_stakes_77 ?_
  refine vv_iconst (v := (nI 0)) dX4_stakes_78 (by decide) ?_
  refine vv_sipush (v := (nI 9999)) dX4_stakes_79 (by decide) ?_
  obtain ⟨r1, er1, h⟩ := bd_o h
  refine vv_callS ok_X4_kept q1947 (m_kept hG er1 (d + 0)) rfl (by omega) rfl rfl (Nat.le_of_ble_eq_true rfl) dX4_stakes_82 ?_
  obtain ⟨T2, iT2, eT2, h⟩ := st_o h
  refine tw_ast 20 (by decide) rfl iT2 eT2 dX4_stakes_85 ?_
  refine vv_aload_n dX4_stakes_86 rfl 0 rfl ?_
  refine tw_get (fl_X4_75 hG) (k := 42) rfl dX4_stakes_87 ?_
  refine vv_iload_n dX4_stakes_90 rfl 1 rfl ?_
  refine vv_iconst (v := (nI 1)) dX4_stakes_91 (by decide) ?_
  refine vv_iadd dX4_stakes_92 ?_
  refine vv_iload_n dX4_stakes_93 rfl 2 rfl ?_
  refine vv_iadd dX4_stakes_94 ?_
  obtain ⟨v3, iv3, ev3, h⟩ := rd_o h
  refine tw_ald 20 (by decide) rfl iv3 ev3 dX4_stakes_95 ?_
  refine vv_aload_n dX4_stakes_96 rfl 0 rfl ?_
  refine tw_get (fl_X4_75 hG) (k := 42) rfl dX4_stakes_97 ?_
  refine vv_iload_n dX4_stakes_100 rfl 1 rfl ?_
  refine vv_bipush (v := (nI 9)) dX4_stakes_101 (by decide) ?_
  refine vv_iadd dX4_stakes_103 ?_
  refine vv_iload_n dX4_stakes_104 rfl 2 rfl ?_
  refine vv_iadd dX4_stakes_105 ?_
  obtain ⟨v4, iv4, ev4, h⟩ := rd_o h
  refine tw_ald 20 (by decide) rfl iv4 ev4 dX4_stakes_106 ?_
  obtain ⟨r5, er5, h⟩ := bd_o h
  refine vv_callS ok_X4_lesser q2000 (m_lesser hG er5 (d + 0)) rfl (by omega) rfl rfl (Nat.le_of_ble_eq_true rfl) dX4_stakes_107 ?_
  refine vv_istore (lv' := [(0, .ref o), (1, .int x1), (2, .int x2), (4, .int r5)]) dX4_stakes_110 (by decide) [1, 2, 3, 0] rfl ?_
  refine vv_aload_n dX4_stakes_112 rfl 0 rfl ?_
  refine tw_get (fl_X4_75 hG) (k := 42) rfl dX4_stakes_113 ?_
  refine vv_iload_n dX4_stakes_116 rfl 1 rfl ?_
  refine vv_iconst (v := (nI 1)) dX4_stakes_117 (by decide) ?_
  refine vv_iadd dX4_stakes_118 ?_
  refine vv_iload_n dX4_stakes_119 rfl 2 rfl ?_
  refine vv_iadd dX4_stakes_120 ?_
  refine vv_dup2 dX4_stakes_121 rfl rfl ?_
  obtain ⟨v6, iv6, ev6, h⟩ := rd_o h
  refine tw_ald 20 (by decide) rfl iv6 ev6 dX4_stakes_122 ?_
  refine vv_iload dX4_stakes_123 3 rfl ?_
  refine vv_isub dX4_stakes_125 ?_
  obtain ⟨T7, iT7, eT7, h⟩ := st_o h
  refine tw_ast 20 (by decide) rfl iT7 eT7 dX4_stakes_126 ?_
  refine vv_aload_n dX4_stakes_127 rfl 0 rfl ?_
  refine tw_get (fl_X4_75 hG) (k := 42) rfl dX4_stakes_128 ?_
  refine vv_iload_n dX4_stakes_131 rfl 1 rfl ?_
  refine vv_bipush (v := (nI 9)) dX4_stakes_132 (by decide) ?_
  refine vv_iadd dX4_stakes_134 ?_
  refine vv_iload_n dX4_stakes_135 rfl 2 rfl ?_
  refine vv_iadd dX4_stakes_136 ?_
  refine vv_dup2 dX4_stakes_137 rfl rfl ?_
  obtain ⟨v8, iv8, ev8, h⟩ := rd_o h
  refine tw_ald 20 (by decide) rfl iv8 ev8 dX4_stakes_138 ?_
  refine vv_iload dX4_stakes_139 3 rfl ?_
  refine vv_isub dX4_stakes_141 ?_
  obtain ⟨T9, iT9, eT9, h⟩ := st_o h
  refine tw_ast 20 (by decide) rfl iT9 eT9 dX4_stakes_142 ?_
  cases h
  exact vv_vret rfl dX4_stakes_143
def J_stakes_33 (s1 : Int32) (s2 : Int32) (s3 : Int32) (x1 : Int32) (x2 : Int32) (x3 : Int32) (T : tw_T) : Option tw_T := (stA T 20 170 s1 (s2 + s3)).bind fun T1 => (rdI 170 (T1.2.2 20) ((x1 + (nI 1)) + x2)).bind fun v2 => if x3 = 0 then ((rdI 8 (T1.2.2 2) x2).bind fun v4 => (dvI v4 (nI 2)).bind fun v5 => J_stakes_77 ((x1 + (nI 1)) + x2) v2 v5 x1 x2 T1) else ((rdI 8 (T1.2.2 2) x2).bind fun v7 => J_stakes_77 ((x1 + (nI 1)) + x2) v2 ((nI 0) - v7) x1 x2 T1)
theorem v_stakes_33 {l : Launch} {G : vv_G} {d : Nat} {o : Nat} {h0 : Nat → Option vv_E} {nz : Nat × Nat} (hG : vv_gok G) {s1 : Int32} {s2 : Int32} {s3 : Int32} {x1 : Int32} {x2 : Int32} {x3 : Int32} {T : tw_T} {r : tw_T} (h : J_stakes_33 s1 s2 s3 x1 x2 x3 T = some r) : vv_V l G MX4_stakes (d + 1) 33 [(0, .ref o), (1, .int x1), (2, .int x2), (3, .int x3)] [.int s3, .int s2, .int s1, .ref (o + 20)] (tp o h0 T, nz) (.inl none, (tp o h0 r, nz)) := by
  unfold J_stakes_33 at h
  refine vv_iadd dX4_stakes_33 ?_
  obtain ⟨T1, iT1, eT1, h⟩ := st_o h
  refine tw_ast 20 (by decide) rfl iT1 eT1 dX4_stakes_34 ?_
  refine vv_aload_n dX4_stakes_35 rfl 0 rfl ?_
  refine tw_get (fl_X4_75 hG) (k := 42) rfl dX4_stakes_36 ?_
  refine vv_iload_n dX4_stakes_39 rfl 1 rfl ?_
  refine vv_iconst (v := (nI 1)) dX4_stakes_40 (by decide) ?_
  refine vv_iadd dX4_stakes_41 ?_
  refine vv_iload_n dX4_stakes_42 rfl 2 rfl ?_
  refine vv_iadd dX4_stakes_43 ?_
  refine vv_aload_n dX4_stakes_44 rfl 0 rfl ?_
  refine tw_get (fl_X4_75 hG) (k := 42) rfl dX4_stakes_45 ?_
  refine vv_iload_n dX4_stakes_48 rfl 1 rfl ?_
  refine vv_iconst (v := (nI 1)) dX4_stakes_49 (by decide) ?_
  refine vv_iadd dX4_stakes_50 ?_
  refine vv_iload_n dX4_stakes_51 rfl 2 rfl ?_
  refine vv_iadd dX4_stakes_52 ?_
  obtain ⟨v2, iv2, ev2, h⟩ := rd_o h
  refine tw_ald 20 (by decide) rfl iv2 ev2 dX4_stakes_53 ?_
  refine vv_iload_n dX4_stakes_54 rfl 3 rfl ?_
  refine vv_if_eq (tgt := 69) dX4_stakes_55 (by decide) (fun c3 => ?_) (fun c3 => ?_)
  · rw [if_pos c3] at h
    refine vv_aload_n dX4_stakes_69 rfl 0 rfl ?_
    refine tw_get (fl_X4_17 hG) (k := 6) rfl dX4_stakes_70 ?_
    refine vv_iload_n dX4_stakes_73 rfl 2 rfl ?_
    obtain ⟨v4, iv4, ev4, h⟩ := rd_o h
    refine tw_ald 2 (by decide) rfl iv4 ev4 dX4_stakes_74 ?_
    refine vv_iconst (v := (nI 2)) dX4_stakes_75 (by decide) ?_
    obtain ⟨hz6, h⟩ := dv_o h
    refine vv_idiv dX4_stakes_76 hz6 ?_
    obtain ⟨v5, ev5⟩ : ∃ z, z = (v4 / (nI 2)) := ⟨_, rfl⟩
    rw [← ev5] at h ⊢
    refine vv_sub (lv' := [(0, .ref o), (1, .int x1), (2, .int x2)]) [0, 1, 2] rfl ?_
    exact v_stakes_77 hG h
  · rw [if_neg c3] at h
    refine vv_iconst (v := (nI 0)) dX4_stakes_58 (by decide) ?_
    refine vv_aload_n dX4_stakes_59 rfl 0 rfl ?_
    refine tw_get (fl_X4_17 hG) (k := 6) rfl dX4_stakes_60 ?_
    refine vv_iload_n dX4_stakes_63 rfl 2 rfl ?_
    obtain ⟨v7, iv7, ev7, h⟩ := rd_o h
    refine tw_ald 2 (by decide) rfl iv7 ev7 dX4_stakes_64 ?_
    refine vv_isub dX4_stakes_65 ?_
    refine vv_goto (tgt := 77) dX4_stakes_66 (by decide) ?_
    refine vv_sub (lv' := [(0, .ref o), (1, .int x1), (2, .int x2)]) [0, 1, 2] rfl ?_
    exact v_stakes_77 hG h
def J_stakes (x1 : Int32) (x2 : Int32) (x3 : Int32) (T : tw_T) : Option tw_T := (rdI 170 (T.2.2 20) ((x1 + (nI 17)) + x2)).bind fun v1 => if x3 = 0 then ((rdI 8 (T.2.2 2) x2).bind fun v3 => J_stakes_33 ((x1 + (nI 17)) + x2) v1 ((nI 0) - v3) x1 x2 x3 T) else ((rdI 8 (T.2.2 2) x2).bind fun v4 => J_stakes_33 ((x1 + (nI 17)) + x2) v1 v4 x1 x2 x3 T)
theorem v_stakes_0 {l : Launch} {G : vv_G} {d : Nat} {o : Nat} {h0 : Nat → Option vv_E} {nz : Nat × Nat} (hG : vv_gok G) {x1 : Int32} {x2 : Int32} {x3 : Int32} {T : tw_T} {r : tw_T} (h : J_stakes x1 x2 x3 T = some r) : vv_V l G MX4_stakes (d + 1) 0 [(0, .ref o), (1, .int x1), (2, .int x2), (3, .int x3)] [] (tp o h0 T, nz) (.inl none, (tp o h0 r, nz)) := by
  unfold J_stakes at h
  refine vv_aload_n dX4_stakes_0 rfl 0 rfl ?_
  refine tw_get (fl_X4_75 hG) (k := 42) rfl dX4_stakes_1 ?_
  refine vv_iload_n dX4_stakes_4 rfl 1 rfl ?_
  refine vv_bipush (v := (nI 17)) dX4_stakes_5 (by decide) ?_
  refine vv_iadd dX4_stakes_7 ?_
  refine vv_iload_n dX4_stakes_8 rfl 2 rfl ?_
  refine vv_iadd dX4_stakes_9 ?_
  refine vv_dup2 dX4_stakes_10 rfl rfl ?_
  obtain ⟨v1, iv1, ev1, h⟩ := rd_o h
  refine tw_ald 20 (by decide) rfl iv1 ev1 dX4_stakes_11 ?_
  refine vv_iload_n dX4_stakes_12 rfl 3 rfl ?_
  refine vv_if_eq (tgt := 25) dX4_stakes_13 (by decide) (fun c2 => ?_) (fun c2 => ?_)
  · rw [if_pos c2] at h
    refine vv_iconst (v := (nI 0)) dX4_stakes_25 (by decide) ?_
    refine vv_aload_n dX4_stakes_26 rfl 0 rfl ?_
    refine tw_get (fl_X4_17 hG) (k := 6) rfl dX4_stakes_27 ?_
    refine vv_iload_n dX4_stakes_30 rfl 2 rfl ?_
    obtain ⟨v3, iv3, ev3, h⟩ := rd_o h
    refine tw_ald 2 (by decide) rfl iv3 ev3 dX4_stakes_31 ?_
    refine vv_isub dX4_stakes_32 ?_
    exact v_stakes_33 hG h
  · rw [if_neg c2] at h
    refine vv_aload_n dX4_stakes_16 rfl 0 rfl ?_
    refine tw_get (fl_X4_17 hG) (k := 6) rfl dX4_stakes_17 ?_
    refine vv_iload_n dX4_stakes_20 rfl 2 rfl ?_
    obtain ⟨v4, iv4, ev4, h⟩ := rd_o h
    refine tw_ald 2 (by decide) rfl iv4 ev4 dX4_stakes_21 ?_
    refine vv_goto (tgt := 33) dX4_stakes_22 (by decide) ?_
    exact v_stakes_33 hG h
theorem m_stakes {l : Launch} {G : vv_G} {o : Nat} {h0 : Nat → Option vv_E} {nz : Nat × Nat} (hG : vv_gok G) {x1 : Int32} {x2 : Int32} {x3 : Int32} {T : tw_T} {r : tw_T} (h : J_stakes x1 x2 x3 T = some r) (d : Nat) : vv_Met l G MX4_stakes (d + 1) [.ref o, .int x1, .int x2, .int x3] (tp o h0 T, nz) (.inl none, (tp o h0 r, nz)) := vv_head (by decide +kernel) rfl (Nat.le_of_ble_eq_true rfl) rfl (v_stakes_0 hG h)
/-! dayGoes -/
def J_dayGoes_59 (k12 : Int32 → Int32 → tw_T → Option tw_T) (s1 : Int32) (s2 : Int32) (x1 : Int32) (x2 : Int32) (x3 : Int32) (T : tw_T) : Option tw_T := (some (tw_F T 47 (s1 ||| s2))).bind fun T1 => (J_stakes x1 x2 x3 T1).bind fun r2 => k12 x1 (x2 + (nI 1)) r2
theorem v_dayGoes_59 {l : Launch} {G : vv_G} {d : Nat} {o : Nat} {h0 : Nat → Option vv_E} {nz : Nat × Nat} (hG : vv_gok G) {k12 : Int32 → Int32 → tw_T → Option tw_T} (hk12 : ∀ {x1 : Int32} {x2 : Int32} {T : tw_T} {r : tw_T}, k12 x1 x2 T = some r → vv_V l G MX4_dayGoes (d + 3) 12 [(0, .ref o), (1, .int x1), (2, .int x2)] [] (tp o h0 T, nz) (.inl none, (tp o h0 r, nz))) {s1 : Int32} {s2 : Int32} {x1 : Int32} {x2 : Int32} {x3 : Int32} {T : tw_T} {r : tw_T} (h : J_dayGoes_59 k12 s1 s2 x1 x2 x3 T = some r) : vv_V l G MX4_dayGoes (d + 3) 59 [(0, .ref o), (1, .int x1), (2, .int x2), (3, .int x3)] [.int s2, .int s1, .ref o] (tp o h0 T, nz) (.inl none, (tp o h0 r, nz)) := by
  unfold J_dayGoes_59 at h
  refine vv_ior dX4_dayGoes_59 ?_
  obtain ⟨T1, eT1, h⟩ := bd_s h
  refine tw_put (T1 := T1) (pt_X4_329 hG) hG rfl rfl rfl (by decide) (by rw [eT1]; exact tw_set47 _ _ _) (by rw [eT1]; rfl) dX4_dayGoes_60 ?_
  refine vv_aload_n dX4_dayGoes_63 rfl 0 rfl ?_
  refine vv_iload_n dX4_dayGoes_64 rfl 1 rfl ?_
  refine vv_iload_n dX4_dayGoes_65 rfl 2 rfl ?_
  refine vv_iload_n dX4_dayGoes_66 rfl 3 rfl ?_
  obtain ⟨r2, er2, h⟩ := bd_o h
  refine vv_callV ok_X4_stakes q1996 (m_stakes hG er2 (d + 1)) rfl (by omega) ⟨_, _, _, _, _, tp_o, by rw [hG.1]; rfl⟩ rfl rfl (Nat.le_of_ble_eq_true rfl) dX4_dayGoes_67 ?_
  refine vv_iinc (v := (x2 + (nI 1))) (lv' := [(0, .ref o), (1, .int x1), (2, .int (x2 + (nI 1))), (3, .int x3)]) dX4_dayGoes_70 2 rfl rfl (by decide) [1, 2, 0, 3] rfl ?_
  refine vv_goto (tgt := 12) dX4_dayGoes_73 (by decide) ?_
  refine vv_sub (lv' := [(0, .ref o), (1, .int x1), (2, .int (x2 + (nI 1)))]) [0, 1, 2] rfl ?_
  exact hk12 h
def J_dayGoes_42 (k12 : Int32 → Int32 → tw_T → Option tw_T) (s0 : Int32) (x1 : Int32) (x2 : Int32) (T : tw_T) : Option tw_T := if s0 = 0 then (J_dayGoes_59 k12 (T.1 47) (nI 0) x1 x2 s0 T) else (J_dayGoes_59 k12 (T.1 47) ((nI 1) <<< (x2 &&& 31)) x1 x2 s0 T)
theorem v_dayGoes_42 {l : Launch} {G : vv_G} {d : Nat} {o : Nat} {h0 : Nat → Option vv_E} {nz : Nat × Nat} (hG : vv_gok G) {k12 : Int32 → Int32 → tw_T → Option tw_T} (hk12 : ∀ {x1 : Int32} {x2 : Int32} {T : tw_T} {r : tw_T}, k12 x1 x2 T = some r → vv_V l G MX4_dayGoes (d + 3) 12 [(0, .ref o), (1, .int x1), (2, .int x2)] [] (tp o h0 T, nz) (.inl none, (tp o h0 r, nz))) {s0 : Int32} {x1 : Int32} {x2 : Int32} {T : tw_T} {r : tw_T} (h : J_dayGoes_42 k12 s0 x1 x2 T = some r) : vv_V l G MX4_dayGoes (d + 3) 42 [(0, .ref o), (1, .int x1), (2, .int x2)] [.int s0] (tp o h0 T, nz) (.inl none, (tp o h0 r, nz)) := by
  unfold J_dayGoes_42 at h
  refine vv_istore_n (lv' := [(0, .ref o), (1, .int x1), (2, .int x2), (3, .int s0)]) dX4_dayGoes_42 rfl (by decide) [1, 2, 3, 0] rfl ?_
  refine vv_aload_n dX4_dayGoes_43 rfl 0 rfl ?_
  refine vv_dup dX4_dayGoes_44 rfl ?_
  refine tw_get (fl_X4_329 hG) (k := 47) rfl dX4_dayGoes_45 ?_
  refine vv_iload_n dX4_dayGoes_48 rfl 3 rfl ?_
  refine vv_if_eq (tgt := 58) dX4_dayGoes_49 (by decide) (fun c1 => ?_) (fun c1 => ?_)
  · rw [if_pos c1] at h
    refine vv_iconst (v := (nI 0)) dX4_dayGoes_58 (by decide) ?_
    exact v_dayGoes_59 hG hk12 h
  · rw [if_neg c1] at h
    refine vv_iconst (v := (nI 1)) dX4_dayGoes_52 (by decide) ?_
    refine vv_iload_n dX4_dayGoes_53 rfl 2 rfl ?_
    refine vv_ishl dX4_dayGoes_54 ?_
    refine vv_goto (tgt := 59) dX4_dayGoes_55 (by decide) ?_
    exact v_dayGoes_59 hG hk12 h
def B_dayGoes_12 (k12 : Int32 → Int32 → tw_T → Option tw_T) (x1 : Int32) (x2 : Int32) (T : tw_T) : Option tw_T := if (T.1 1) ≤ x2 then ((rdI 170 (T.2.2 20) (x1 + (nI 0))).bind fun v2 => (stA T 20 170 (x1 + (nI 0)) (v2 + (nI 1))).bind fun T3 => some T3) else ((J_makesLuck x1 x2 T).bind fun r4 => (J_oddsOf x1 x2 r4).bind fun r5 => if r5.1 < (nI 7) then (J_dayGoes_42 k12 (nI 0) x1 x2 r5.2) else (J_dayGoes_42 k12 (nI 1) x1 x2 r5.2))
def J_dayGoes_12 : Nat → Int32 → Int32 → tw_T → Option tw_T
  | 0, _, _, _ => none
  | n + 1, x1, x2, T => B_dayGoes_12 (J_dayGoes_12 n) x1 x2 T
theorem vb_dayGoes_12 {l : Launch} {G : vv_G} {d : Nat} {o : Nat} {h0 : Nat → Option vv_E} {nz : Nat × Nat} (hG : vv_gok G) {k12 : Int32 → Int32 → tw_T → Option tw_T} (hk12 : ∀ {x1 : Int32} {x2 : Int32} {T : tw_T} {r : tw_T}, k12 x1 x2 T = some r → vv_V l G MX4_dayGoes (d + 3) 12 [(0, .ref o), (1, .int x1), (2, .int x2)] [] (tp o h0 T, nz) (.inl none, (tp o h0 r, nz))) {x1 : Int32} {x2 : Int32} {T : tw_T} {r : tw_T} (h : B_dayGoes_12 k12 x1 x2 T = some r) : vv_V l G MX4_dayGoes (d + 3) 12 [(0, .ref o), (1, .int x1), (2, .int x2)] [] (tp o h0 T, nz) (.inl none, (tp o h0 r, nz)) := by
  unfold B_dayGoes_12 at h
  refine vv_iload_n dX4_dayGoes_12 rfl 2 rfl ?_
  refine vv_aload_n dX4_dayGoes_13 rfl 0 rfl ?_
  refine tw_get (fl_X4_281 hG) (k := 1) rfl dX4_dayGoes_14 ?_
  refine vv_icmp_ge (tgt := 76) dX4_dayGoes_17 (by decide) (fun c1 => ?_) (fun c1 => ?_)
  · rw [if_pos c1] at h
    refine vv_aload_n dX4_dayGoes_76 rfl 0 rfl ?_
    refine tw_get (fl_X4_75 hG) (k := 42) rfl dX4_dayGoes_77 ?_
    refine vv_iload_n dX4_dayGoes_80 rfl 1 rfl ?_
    refine vv_iconst (v := (nI 0)) dX4_dayGoes_81 (by decide) ?_
    refine vv_iadd dX4_dayGoes_82 ?_
    refine vv_dup2 dX4_dayGoes_83 rfl rfl ?_
    obtain ⟨v2, iv2, ev2, h⟩ := rd_o h
    refine tw_ald 20 (by decide) rfl iv2 ev2 dX4_dayGoes_84 ?_
    refine vv_iconst (v := (nI 1)) dX4_dayGoes_85 (by decide) ?_
    refine vv_iadd dX4_dayGoes_86 ?_
    obtain ⟨T3, iT3, eT3, h⟩ := st_o h
    refine tw_ast 20 (by decide) rfl iT3 eT3 dX4_dayGoes_87 ?_
    cases h
    exact vv_vret rfl dX4_dayGoes_88
  · rw [if_neg c1] at h
    refine vv_aload_n dX4_dayGoes_20 rfl 0 rfl ?_
    refine vv_iload_n dX4_dayGoes_21 rfl 1 rfl ?_
    refine vv_iload_n dX4_dayGoes_22 rfl 2 rfl ?_
    obtain ⟨r4, er4, h⟩ := bd_o h
    refine vv_callV ok_X4_makesLuck q1992 (m_makesLuck hG er4 (d + 1)) rfl (by omega) ⟨_, _, _, _, _, tp_o, by rw [hG.1]; rfl⟩ rfl rfl (Nat.le_of_ble_eq_true rfl) dX4_dayGoes_23 ?_
    refine vv_aload_n dX4_dayGoes_26 rfl 0 rfl ?_
    refine vv_iload_n dX4_dayGoes_27 rfl 1 rfl ?_
    refine vv_iload_n dX4_dayGoes_28 rfl 2 rfl ?_
    obtain ⟨r5, er5, h⟩ := bd_o h
    refine vv_callV ok_X4_oddsOf q1943 (m_oddsOf hG er5 (d + 0)) rfl (by omega) ⟨_, _, _, _, _, tp_o, by rw [hG.1]; rfl⟩ rfl rfl (Nat.le_of_ble_eq_true rfl) dX4_dayGoes_29 ?_
    refine vv_bipush (v := (nI 7)) dX4_dayGoes_32 (by decide) ?_
    refine vv_icmp_lt (tgt := 41) dX4_dayGoes_34 (by decide) (fun c6 => ?_) (fun c6 => ?_)
    · rw [if_pos c6] at h
      refine vv_iconst (v := (nI 0)) dX4_dayGoes_41 (by decide) ?_
      exact v_dayGoes_42 hG hk12 h
    · rw [if_neg c6] at h
      refine vv_iconst (v := (nI 1)) dX4_dayGoes_37 (by decide) ?_
      refine vv_goto (tgt := 42) dX4_dayGoes_38 (by decide) ?_
      exact v_dayGoes_42 hG hk12 h
theorem v_dayGoes_12 {l : Launch} {G : vv_G} {d : Nat} {o : Nat} {h0 : Nat → Option vv_E} {nz : Nat × Nat} (hG : vv_gok G) : ∀ (n : Nat) {x1 : Int32} {x2 : Int32} {T : tw_T} {r : tw_T}, J_dayGoes_12 n x1 x2 T = some r → vv_V l G MX4_dayGoes (d + 3) 12 [(0, .ref o), (1, .int x1), (2, .int x2)] [] (tp o h0 T, nz) (.inl none, (tp o h0 r, nz)) := by
  intro n
  induction n with
  | zero => intro _ _ _ _ h; cases h
  | succ n ih => intro _ _ _ _ h; exact vb_dayGoes_12 hG ih h
def J_dayGoes (x1 : Int32) (T : tw_T) : Option tw_T := (J_cratesGo x1 T).bind fun r1 => (some (tw_F r1 47 (nI 0))).bind fun T2 => J_dayGoes_12 NN x1 (nI 0) T2
theorem v_dayGoes_0 {l : Launch} {G : vv_G} {d : Nat} {o : Nat} {h0 : Nat → Option vv_E} {nz : Nat × Nat} (hG : vv_gok G) {x1 : Int32} {T : tw_T} {r : tw_T} (h : J_dayGoes x1 T = some r) : vv_V l G MX4_dayGoes (d + 3) 0 [(0, .ref o), (1, .int x1)] [] (tp o h0 T, nz) (.inl none, (tp o h0 r, nz)) := by
  unfold J_dayGoes at h
  refine vv_aload_n dX4_dayGoes_0 rfl 0 rfl ?_
  refine vv_iload_n dX4_dayGoes_1 rfl 1 rfl ?_
  obtain ⟨r1, er1, h⟩ := bd_o h
  refine vv_callV ok_X4_cratesGo q1988 (m_cratesGo hG er1 (d + 1)) rfl (by omega) ⟨_, _, _, _, _, tp_o, by rw [hG.1]; rfl⟩ rfl rfl (Nat.le_of_ble_eq_true rfl) dX4_dayGoes_2 ?_
  refine vv_aload_n dX4_dayGoes_5 rfl 0 rfl ?_
  refine vv_iconst (v := (nI 0)) dX4_dayGoes_6 (by decide) ?_
  obtain ⟨T2, eT2, h⟩ := bd_s h
  refine tw_put (T1 := T2) (pt_X4_329 hG) hG rfl rfl rfl (by decide) (by rw [eT2]; exact tw_set47 _ _ _) (by rw [eT2]; rfl) dX4_dayGoes_7 ?_
  refine vv_iconst (v := (nI 0)) dX4_dayGoes_10 (by decide) ?_
  refine vv_istore_n (lv' := [(0, .ref o), (1, .int x1), (2, .int (nI 0))]) dX4_dayGoes_11 rfl (by decide) [1, 2, 0] rfl ?_
  exact v_dayGoes_12 hG NN h
theorem m_dayGoes {l : Launch} {G : vv_G} {o : Nat} {h0 : Nat → Option vv_E} {nz : Nat × Nat} (hG : vv_gok G) {x1 : Int32} {T : tw_T} {r : tw_T} (h : J_dayGoes x1 T = some r) (d : Nat) : vv_Met l G MX4_dayGoes (d + 3) [.ref o, .int x1] (tp o h0 T, nz) (.inl none, (tp o h0 r, nz)) := vv_head (by decide +kernel) rfl (Nat.le_of_ble_eq_true rfl) rfl (v_dayGoes_0 hG h)
/-! keeps -/
def B_keeps_52 (k52 : Int32 → tw_T → Option tw_T) (x1 : Int32) (T : tw_T) : Option tw_T := if (nI 85) ≤ x1 then ((some (tw_F T 44 ((T.1 44) + (nI 1)))).bind fun T2 => some T2) else ((rdI 170 (T.2.2 20) x1).bind fun v3 => (stA T 21 3400 (((nI 85) * (T.1 44)) + x1) v3).bind fun T4 => k52 (x1 + (nI 1)) T4)
def J_keeps_52 : Nat → Int32 → tw_T → Option tw_T
  | 0, _, _ => none
  | n + 1, x1, T => B_keeps_52 (J_keeps_52 n) x1 T
theorem vb_keeps_52 {l : Launch} {G : vv_G} {d : Nat} {o : Nat} {h0 : Nat → Option vv_E} {nz : Nat × Nat} (hG : vv_gok G) {k52 : Int32 → tw_T → Option tw_T} (hk52 : ∀ {x1 : Int32} {T : tw_T} {r : tw_T}, k52 x1 T = some r → vv_V l G MX4_keeps (d + 0) 52 [(0, .ref o), (1, .int x1)] [] (tp o h0 T, nz) (.inl none, (tp o h0 r, nz))) {x1 : Int32} {T : tw_T} {r : tw_T} (h : B_keeps_52 k52 x1 T = some r) : vv_V l G MX4_keeps (d + 0) 52 [(0, .ref o), (1, .int x1)] [] (tp o h0 T, nz) (.inl none, (tp o h0 r, nz)) := by
  unfold B_keeps_52 at h
  refine vv_iload_n dX4_keeps_52 rfl 1 rfl ?_
  refine vv_bipush (v := (nI 85)) dX4_keeps_53 (by decide) ?_
  refine vv_icmp_ge (tgt := 84) dX4_keeps_55 (by decide) (fun c1 => ?_) (fun c1 => ?_)
  · rw [if_pos c1] at h
    refine vv_aload_n dX4_keeps_84 rfl 0 rfl ?_
    refine vv_dup dX4_keeps_85 rfl ?_
    refine tw_get (fl_X4_294 hG) (k := 44) rfl dX4_keeps_86 ?_
    refine vv_iconst (v := (nI 1)) dX4_keeps_89 (by decide) ?_
    refine vv_iadd dX4_keeps_90 ?_
    obtain ⟨T2, eT2, h⟩ := bd_s h
    refine tw_put (T1 := T2) (pt_X4_294 hG) hG rfl rfl rfl (by decide) (by rw [eT2]; exact tw_set44 _ _ _) (by rw [eT2]; rfl) dX4_keeps_91 ?_
    cases h
    exact vv_vret rfl dX4_keeps_94
  · rw [if_neg c1] at h
    refine vv_aload_n dX4_keeps_58 rfl 0 rfl ?_
    refine tw_get (fl_X4_78 hG) (k := 43) rfl dX4_keeps_59 ?_
    refine vv_bipush (v := (nI 85)) dX4_keeps_62 (by decide) ?_
    refine vv_aload_n dX4_keeps_64 rfl 0 rfl ?_
    refine tw_get (fl_X4_294 hG) (k := 44) rfl dX4_keeps_65 ?_
    refine vv_imul dX4_keeps_68 ?_
    refine vv_iload_n dX4_keeps_69 rfl 1 rfl ?_
    refine vv_iadd dX4_keeps_70 ?_
    refine vv_aload_n dX4_keeps_71 rfl 0 rfl ?_
    refine tw_get (fl_X4_75 hG) (k := 42) rfl dX4_keeps_72 ?_
    refine vv_iload_n dX4_keeps_75 rfl 1 rfl ?_
    obtain ⟨v3, iv3, ev3, h⟩ := rd_o h
    refine tw_ald 20 (by decide) rfl iv3 ev3 dX4_keeps_76 ?_
    obtain ⟨T4, iT4, eT4, h⟩ := st_o h
    refine tw_ast 21 (by decide) rfl iT4 eT4 dX4_keeps_77 ?_
    refine vv_iinc (v := (x1 + (nI 1))) (lv' := [(0, .ref o), (1, .int (x1 + (nI 1)))]) dX4_keeps_78 1 rfl rfl (by decide) [1, 0] rfl ?_
    refine vv_goto (tgt := 52) dX4_keeps_81 (by decide) ?_
    exact hk52 h
theorem v_keeps_52 {l : Launch} {G : vv_G} {d : Nat} {o : Nat} {h0 : Nat → Option vv_E} {nz : Nat × Nat} (hG : vv_gok G) : ∀ (n : Nat) {x1 : Int32} {T : tw_T} {r : tw_T}, J_keeps_52 n x1 T = some r → vv_V l G MX4_keeps (d + 0) 52 [(0, .ref o), (1, .int x1)] [] (tp o h0 T, nz) (.inl none, (tp o h0 r, nz)) := by
  intro n
  induction n with
  | zero => intro _ _ _ h; cases h
  | succ n ih => intro _ _ _ h; exact vb_keeps_52 hG ih h
def J_keeps_50 (T : tw_T) : Option tw_T := J_keeps_52 NN (nI 0) T
theorem v_keeps_50 {l : Launch} {G : vv_G} {d : Nat} {o : Nat} {h0 : Nat → Option vv_E} {nz : Nat × Nat} (hG : vv_gok G) {T : tw_T} {r : tw_T} (h : J_keeps_50 T = some r) : vv_V l G MX4_keeps (d + 0) 50 [(0, .ref o)] [] (tp o h0 T, nz) (.inl none, (tp o h0 r, nz)) := by
  unfold J_keeps_50 at h
  refine vv_iconst (v := (nI 0)) dX4_keeps_50 (by decide) ?_
  refine vv_istore_n (lv' := [(0, .ref o), (1, .int (nI 0))]) dX4_keeps_51 rfl (by decide) [1, 0] rfl ?_
  exact v_keeps_52 hG NN h
def B_keeps_12 (k12 : Int32 → tw_T → Option tw_T) (x1 : Int32) (T : tw_T) : Option tw_T := if (nI 3400) ≤ x1 then ((some (tw_F T 44 ((T.1 44) - (nI 1)))).bind fun T2 => J_keeps_50 T2) else ((rdI 3400 (T.2.2 21) x1).bind fun v3 => (stA T 21 3400 (x1 - (nI 85)) v3).bind fun T4 => k12 (x1 + (nI 1)) T4)
def J_keeps_12 : Nat → Int32 → tw_T → Option tw_T
  | 0, _, _ => none
  | n + 1, x1, T => B_keeps_12 (J_keeps_12 n) x1 T
theorem vb_keeps_12 {l : Launch} {G : vv_G} {d : Nat} {o : Nat} {h0 : Nat → Option vv_E} {nz : Nat × Nat} (hG : vv_gok G) {k12 : Int32 → tw_T → Option tw_T} (hk12 : ∀ {x1 : Int32} {T : tw_T} {r : tw_T}, k12 x1 T = some r → vv_V l G MX4_keeps (d + 0) 12 [(0, .ref o), (1, .int x1)] [] (tp o h0 T, nz) (.inl none, (tp o h0 r, nz))) {x1 : Int32} {T : tw_T} {r : tw_T} (h : B_keeps_12 k12 x1 T = some r) : vv_V l G MX4_keeps (d + 0) 12 [(0, .ref o), (1, .int x1)] [] (tp o h0 T, nz) (.inl none, (tp o h0 r, nz)) := by
  unfold B_keeps_12 at h
  refine vv_iload_n dX4_keeps_12 rfl 1 rfl ?_
  refine vv_sipush (v := (nI 3400)) dX4_keeps_13 (by decide) ?_
  refine vv_icmp_ge (tgt := 40) dX4_keeps_16 (by decide) (fun c1 => ?_) (fun c1 => ?_)
  · rw [if_pos c1] at h
    refine vv_aload_n dX4_keeps_40 rfl 0 rfl ?_
    refine vv_dup dX4_keeps_41 rfl ?_
    refine tw_get (fl_X4_294 hG) (k := 44) rfl dX4_keeps_42 ?_
    refine vv_iconst (v := (nI 1)) dX4_keeps_45 (by decide) ?_
    refine vv_isub dX4_keeps_46 ?_
    obtain ⟨T2, eT2, h⟩ := bd_s h
    refine tw_put (T1 := T2) (pt_X4_294 hG) hG rfl rfl rfl (by decide) (by rw [eT2]; exact tw_set44 _ _ _) (by rw [eT2]; rfl) dX4_keeps_47 ?_
    refine vv_sub (lv' := [(0, .ref o)]) [0] rfl ?_
    exact v_keeps_50 hG h
  · rw [if_neg c1] at h
    refine vv_aload_n dX4_keeps_19 rfl 0 rfl ?_
    refine tw_get (fl_X4_78 hG) (k := 43) rfl dX4_keeps_20 ?_
    refine vv_iload_n dX4_keeps_23 rfl 1 rfl ?_
    refine vv_bipush (v := (nI 85)) dX4_keeps_24 (by decide) ?_
    refine vv_isub dX4_keeps_26 ?_
    refine vv_aload_n dX4_keeps_27 rfl 0 rfl ?_
    refine tw_get (fl_X4_78 hG) (k := 43) rfl dX4_keeps_28 ?_
    refine vv_iload_n dX4_keeps_31 rfl 1 rfl ?_
    obtain ⟨v3, iv3, ev3, h⟩ := rd_o h
    refine tw_ald 21 (by decide) rfl iv3 ev3 dX4_keeps_32 ?_
    obtain ⟨T4, iT4, eT4, h⟩ := st_o h
    refine tw_ast 21 (by decide) rfl iT4 eT4 dX4_keeps_33 ?_
    refine vv_iinc (v := (x1 + (nI 1))) (lv' := [(0, .ref o), (1, .int (x1 + (nI 1)))]) dX4_keeps_34 1 rfl rfl (by decide) [1, 0] rfl ?_
    refine vv_goto (tgt := 12) dX4_keeps_37 (by decide) ?_
    exact hk12 h
theorem v_keeps_12 {l : Launch} {G : vv_G} {d : Nat} {o : Nat} {h0 : Nat → Option vv_E} {nz : Nat × Nat} (hG : vv_gok G) : ∀ (n : Nat) {x1 : Int32} {T : tw_T} {r : tw_T}, J_keeps_12 n x1 T = some r → vv_V l G MX4_keeps (d + 0) 12 [(0, .ref o), (1, .int x1)] [] (tp o h0 T, nz) (.inl none, (tp o h0 r, nz)) := by
  intro n
  induction n with
  | zero => intro _ _ _ h; cases h
  | succ n ih => intro _ _ _ h; exact vb_keeps_12 hG ih h
def J_keeps (T : tw_T) : Option tw_T := if (T.1 44) = (nI 40) then (J_keeps_12 NN (nI 85) T) else (J_keeps_50 T)
theorem v_keeps_0 {l : Launch} {G : vv_G} {d : Nat} {o : Nat} {h0 : Nat → Option vv_E} {nz : Nat × Nat} (hG : vv_gok G) {T : tw_T} {r : tw_T} (h : J_keeps T = some r) : vv_V l G MX4_keeps (d + 0) 0 [(0, .ref o)] [] (tp o h0 T, nz) (.inl none, (tp o h0 r, nz)) := by
  unfold J_keeps at h
  refine vv_aload_n dX4_keeps_0 rfl 0 rfl ?_
  refine tw_get (fl_X4_294 hG) (k := 44) rfl dX4_keeps_1 ?_
  refine vv_bipush (v := (nI 40)) dX4_keeps_4 (by decide) ?_
  refine vv_icmp_ne (tgt := 50) dX4_keeps_6 (by decide) (fun c1 => ?_) (fun c1 => ?_)
  · rw [if_neg c1] at h
    exact v_keeps_50 hG h
  · rw [if_pos c1] at h
    refine vv_bipush (v := (nI 85)) dX4_keeps_9 (by decide) ?_
    refine vv_istore_n (lv' := [(0, .ref o), (1, .int (nI 85))]) dX4_keeps_11 rfl (by decide) [1, 0] rfl ?_
    exact v_keeps_12 hG NN h
theorem m_keeps {l : Launch} {G : vv_G} {o : Nat} {h0 : Nat → Option vv_E} {nz : Nat × Nat} (hG : vv_gok G) {T : tw_T} {r : tw_T} (h : J_keeps T = some r) (d : Nat) : vv_Met l G MX4_keeps (d + 0) [.ref o] (tp o h0 T, nz) (.inl none, (tp o h0 r, nz)) := vv_head (by decide +kernel) rfl (Nat.le_of_ble_eq_true rfl) rfl (v_keeps_0 hG h)
/-! refuses -/
def J_refuses (x1 : Int32) (T : tw_T) : Option (Int32 × tw_T) := (rdI 3 (T.2.2 9) x1).bind fun v1 => (stA T 9 3 x1 (v1 + (nI 1))).bind fun T2 => some ((-1), T2)
theorem v_refuses_0 {l : Launch} {G : vv_G} {d : Nat} {o : Nat} {h0 : Nat → Option vv_E} {nz : Nat × Nat} (hG : vv_gok G) {x1 : Int32} {T : tw_T} {r : Int32 × tw_T} (h : J_refuses x1 T = some r) : vv_V l G MX4_refuses (d + 0) 0 [(0, .ref o), (1, .int x1)] [] (tp o h0 T, nz) (.inl (some (.int r.1)), (tp o h0 r.2, nz)) := by
  unfold J_refuses at h
  refine vv_aload_n dX4_refuses_0 rfl 0 rfl ?_
  refine tw_get (fl_X4_41 hG) (k := 16) rfl dX4_refuses_1 ?_
  refine vv_iload_n dX4_refuses_4 rfl 1 rfl ?_
  refine vv_dup2 dX4_refuses_5 rfl rfl ?_
  obtain ⟨v1, iv1, ev1, h⟩ := rd_o h
  refine tw_ald 9 (by decide) rfl iv1 ev1 dX4_refuses_6 ?_
  refine vv_iconst (v := (nI 1)) dX4_refuses_7 (by decide) ?_
  refine vv_iadd dX4_refuses_8 ?_
  obtain ⟨T2, iT2, eT2, h⟩ := st_o h
  refine tw_ast 9 (by decide) rfl iT2 eT2 dX4_refuses_9 ?_
  refine vv_iconst (v := (-1)) dX4_refuses_10 (by decide) ?_
  cases h
  exact vv_iret rfl dX4_refuses_11
theorem m_refuses {l : Launch} {G : vv_G} {o : Nat} {h0 : Nat → Option vv_E} {nz : Nat × Nat} (hG : vv_gok G) {x1 : Int32} {T : tw_T} {r : Int32 × tw_T} (h : J_refuses x1 T = some r) (d : Nat) : vv_Met l G MX4_refuses (d + 0) [.ref o, .int x1] (tp o h0 T, nz) (.inl (some (.int r.1)), (tp o h0 r.2, nz)) := vv_head (by decide +kernel) rfl (Nat.le_of_ble_eq_true rfl) rfl (v_refuses_0 hG h)
/-! days -/
def J_days_29 (T : tw_T) : Option (Int32 × tw_T) := (J_refuses (nI 1) T).bind fun r1 => some (r1.1, r1.2)
theorem v_days_29 {l : Launch} {G : vv_G} {d : Nat} {o : Nat} {h0 : Nat → Option vv_E} {nz : Nat × Nat} (hG : vv_gok G) {T : tw_T} {r : Int32 × tw_T} (h : J_days_29 T = some r) : vv_V l G MX4_days (d + 4) 29 [(0, .ref o)] [] (tp o h0 T, nz) (.inl (some (.int r.1)), (tp o h0 r.2, nz)) := by
  unfold J_days_29 at h
  refine vv_aload_n dX4_days_29 rfl 0 rfl ?_
  refine vv_iconst (v := (nI 1)) dX4_days_30 (by decide) ?_
  obtain ⟨r1, er1, h⟩ := bd_o h
  refine vv_callV ok_X4_refuses q1976 (m_refuses hG er1 (d + 3)) rfl (by omega) ⟨_, _, _, _, _, tp_o, by rw [hG.1]; rfl⟩ rfl rfl (Nat.le_of_ble_eq_true rfl) dX4_days_31 ?_
  cases h
  exact vv_iret rfl dX4_days_34
def B_days_41 (k41 : Int32 → Int32 → tw_T → Option (Int32 × tw_T)) (x1 : Int32) (x2 : Int32) (T : tw_T) : Option (Int32 × tw_T) := if x1 ≤ x2 then ((rdI 170 (T.2.2 20) (nI 0)).bind fun v2 => some (v2, T)) else ((J_dayGoes (nI 0) T).bind fun r3 => k41 x1 (x2 + (nI 1)) r3)
def J_days_41 : Nat → Int32 → Int32 → tw_T → Option (Int32 × tw_T)
  | 0, _, _, _ => none
  | n + 1, x1, x2, T => B_days_41 (J_days_41 n) x1 x2 T
theorem vb_days_41 {l : Launch} {G : vv_G} {d : Nat} {o : Nat} {h0 : Nat → Option vv_E} {nz : Nat × Nat} (hG : vv_gok G) {k41 : Int32 → Int32 → tw_T → Option (Int32 × tw_T)} (hk41 : ∀ {x1 : Int32} {x2 : Int32} {T : tw_T} {r : Int32 × tw_T}, k41 x1 x2 T = some r → vv_V l G MX4_days (d + 4) 41 [(0, .ref o), (1, .int x1), (2, .int x2)] [] (tp o h0 T, nz) (.inl (some (.int r.1)), (tp o h0 r.2, nz))) {x1 : Int32} {x2 : Int32} {T : tw_T} {r : Int32 × tw_T} (h : B_days_41 k41 x1 x2 T = some r) : vv_V l G MX4_days (d + 4) 41 [(0, .ref o), (1, .int x1), (2, .int x2)] [] (tp o h0 T, nz) (.inl (some (.int r.1)), (tp o h0 r.2, nz)) := by
  unfold B_days_41 at h
  refine vv_iload_n dX4_days_41 rfl 2 rfl ?_
  refine vv_iload_n dX4_days_42 rfl 1 rfl ?_
  refine vv_icmp_ge (tgt := 57) dX4_days_43 (by decide) (fun c1 => ?_) (fun c1 => ?_)
  · rw [if_pos c1] at h
    refine vv_aload_n dX4_days_57 rfl 0 rfl ?_
    refine tw_get (fl_X4_75 hG) (k := 42) rfl dX4_days_58 ?_
    refine vv_iconst (v := (nI 0)) dX4_days_61 (by decide) ?_
    obtain ⟨v2, iv2, ev2, h⟩ := rd_o h
    refine tw_ald 20 (by decide) rfl iv2 ev2 dX4_days_62 ?_
    cases h
    exact vv_iret rfl dX4_days_63
  · rw [if_neg c1] at h
    refine vv_aload_n dX4_days_46 rfl 0 rfl ?_
    refine vv_iconst (v := (nI 0)) dX4_days_47 (by decide) ?_
    obtain ⟨r3, er3, h⟩ := bd_o h
    refine vv_callV ok_X4_dayGoes q1984 (m_dayGoes hG er3 (d + 0)) rfl (by omega) ⟨_, _, _, _, _, tp_o, by rw [hG.1]; rfl⟩ rfl rfl (Nat.le_of_ble_eq_true rfl) dX4_days_48 ?_
    refine vv_iinc (v := (x2 + (nI 1))) (lv' := [(0, .ref o), (1, .int x1), (2, .int (x2 + (nI 1)))]) dX4_days_51 2 rfl rfl (by decide) [1, 2, 0] rfl ?_
    refine vv_goto (tgt := 41) dX4_days_54 (by decide) ?_
    exact hk41 h
theorem v_days_41 {l : Launch} {G : vv_G} {d : Nat} {o : Nat} {h0 : Nat → Option vv_E} {nz : Nat × Nat} (hG : vv_gok G) : ∀ (n : Nat) {x1 : Int32} {x2 : Int32} {T : tw_T} {r : Int32 × tw_T}, J_days_41 n x1 x2 T = some r → vv_V l G MX4_days (d + 4) 41 [(0, .ref o), (1, .int x1), (2, .int x2)] [] (tp o h0 T, nz) (.inl (some (.int r.1)), (tp o h0 r.2, nz)) := by
  intro n
  induction n with
  | zero => intro _ _ _ _ h; cases h
  | succ n ih => intro _ _ _ _ h; exact vb_days_41 hG ih h
def J_days (x1 : Int32) (T : tw_T) : Option (Int32 × tw_T) := (some (tw_F T 0 (nI 0))).bind fun T1 => (J_within x1 (nI 1) (nI 30)).bind fun r2 => if r2 = 0 then (J_days_29 T1) else ((rdI 170 (T1.2.2 20) (nI 0)).bind fun v4 => if (v4 + x1) ≤ (nI 999) then ((J_keeps T1).bind fun r6 => J_days_41 NN x1 (nI 0) r6) else (J_days_29 T1))
theorem v_days_0 {l : Launch} {G : vv_G} {d : Nat} {o : Nat} {h0 : Nat → Option vv_E} {nz : Nat × Nat} (hG : vv_gok G) {x1 : Int32} {T : tw_T} {r : Int32 × tw_T} (h : J_days x1 T = some r) : vv_V l G MX4_days (d + 4) 0 [(0, .ref o), (1, .int x1)] [] (tp o h0 T, nz) (.inl (some (.int r.1)), (tp o h0 r.2, nz)) := by
  unfold J_days at h
  refine vv_aload_n dX4_days_0 rfl 0 rfl ?_
  refine vv_iconst (v := (nI 0)) dX4_days_1 (by decide) ?_
  obtain ⟨T1, eT1, h⟩ := bd_s h
  refine tw_put (T1 := T1) (pt_X4_117 hG) hG rfl rfl rfl (by decide) (by rw [eT1]; exact tw_set0 _ _ _) (by rw [eT1]; rfl) dX4_days_2 ?_
  refine vv_iload_n dX4_days_5 rfl 1 rfl ?_
  refine vv_iconst (v := (nI 1)) dX4_days_6 (by decide) ?_
  refine vv_bipush (v := (nI 30)) dX4_days_7 (by decide) ?_
  obtain ⟨r2, er2, h⟩ := bd_o h
  refine vv_callS ok_X4_within q1908 (m_within hG er2 (d + 3)) rfl (by omega) rfl rfl (Nat.le_of_ble_eq_true rfl) dX4_days_9 ?_
  refine vv_if_eq (tgt := 29) dX4_days_12 (by decide) (fun c3 => ?_) (fun c3 => ?_)
  · rw [if_pos c3] at h
    refine vv_sub (lv' := [(0, .ref o)]) [0] rfl ?_
    exact v_days_29 hG h
  · rw [if_neg c3] at h
    refine vv_aload_n dX4_days_15 rfl 0 rfl ?_
    refine tw_get (fl_X4_75 hG) (k := 42) rfl dX4_days_16 ?_
    refine vv_iconst (v := (nI 0)) dX4_days_19 (by decide) ?_
    obtain ⟨v4, iv4, ev4, h⟩ := rd_o h
    refine tw_ald 20 (by decide) rfl iv4 ev4 dX4_days_20 ?_
    refine vv_iload_n dX4_days_21 rfl 1 rfl ?_
    refine vv_iadd dX4_days_22 ?_
    refine vv_sipush (v := (nI 999)) dX4_days_23 (by decide) ?_
    refine vv_icmp_le (tgt := 35) dX4_days_26 (by decide) (fun c5 => ?_) (fun c5 => ?_)
    · rw [if_pos c5] at h
      refine vv_aload_n dX4_days_35 rfl 0 rfl ?_
      obtain ⟨r6, er6, h⟩ := bd_o h
      refine vv_callV ok_X4_keeps q1980 (m_keeps hG er6 (d + 3)) rfl (by omega) ⟨_, _, _, _, _, tp_o, by rw [hG.1]; rfl⟩ rfl rfl (Nat.le_of_ble_eq_true rfl) dX4_days_36 ?_
      refine vv_iconst (v := (nI 0)) dX4_days_39 (by decide) ?_
      refine vv_istore_n (lv' := [(0, .ref o), (1, .int x1), (2, .int (nI 0))]) dX4_days_40 rfl (by decide) [1, 2, 0] rfl ?_
      exact v_days_41 hG NN h
    · rw [if_neg c5] at h
      refine vv_sub (lv' := [(0, .ref o)]) [0] rfl ?_
      exact v_days_29 hG h
theorem m_days {l : Launch} {G : vv_G} {o : Nat} {h0 : Nat → Option vv_E} {nz : Nat × Nat} (hG : vv_gok G) {x1 : Int32} {T : tw_T} {r : Int32 × tw_T} (h : J_days x1 T = some r) (d : Nat) : vv_Met l G MX4_days (d + 4) [.ref o, .int x1] (tp o h0 T, nz) (.inl (some (.int r.1)), (tp o h0 r.2, nz)) := vv_head (by decide +kernel) rfl (Nat.le_of_ble_eq_true rfl) rfl (v_days_0 hG h)
