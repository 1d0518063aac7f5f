set_option maxRecDepth 100000
/-! isWay -/
def J_isWay_18 (s1 : Int32) (T : tw_T) : Option (Int32 × tw_T) := (J_right s1 (nI 1) T).bind fun r1 => (zrI r1.1).bind fun v2 => some (v2, r1.2)
theorem v_isWay_18 {l : Launch} {G : vv_G} {d : Nat} {o : Nat} {h0 : Nat → Option vv_E} {nz : Nat × Nat} (hG : vv_gok G) {s1 : Int32} {T : tw_T} {r : Int32 × tw_T} (h : J_isWay_18 s1 T = some r) : vv_V l G MX4_isWay (d + 1) 18 [(0, .ref o)] [.int s1, .ref o] (tp o h0 T, nz) (.inl (some (.int r.1)), (tp o h0 r.2, nz)) := by
  unfold J_isWay_18 at h
  refine vv_iconst (v := (nI 1)) dX4_isWay_18 (by decide) ?_
  obtain ⟨r1, er1, h⟩ := bd_o h
  refine vv_callV ok_X4_right q1773 (m_right hG er1 (d + 0)) rfl (by omega) ⟨_, _, _, _, _, tp_o, by rw [hG.1]; rfl⟩ rfl rfl (Nat.le_of_ble_eq_true rfl) dX4_isWay_19 ?_
  obtain ⟨zv2, h⟩ := zr_o h
  cases h
  exact vv_zret rfl zv2 dX4_isWay_22
def J_isWay_17 (T : tw_T) : Option (Int32 × tw_T) := J_isWay_18 (nI 0) T
theorem v_isWay_17 {l : Launch} {G : vv_G} {d : Nat} {o : Nat} {h0 : Nat → Option vv_E} {nz : Nat × Nat} (hG : vv_gok G) {T : tw_T} {r : Int32 × tw_T} (h : J_isWay_17 T = some r) : vv_V l G MX4_isWay (d + 1) 17 [(0, .ref o)] [.ref o] (tp o h0 T, nz) (.inl (some (.int r.1)), (tp o h0 r.2, nz)) := by
  unfold J_isWay_17 at h
  refine vv_iconst (v := (nI 0)) dX4_isWay_17 (by decide) ?_
  exact v_isWay_18 hG h
def J_isWay (x1 : Int32) (T : tw_T) : Option (Int32 × tw_T) := if x1 < 0 then (J_isWay_17 T) else (if (T.1 2) ≤ x1 then (J_isWay_17 T) else (J_isWay_18 (nI 1) T))
theorem v_isWay_0 {l : Launch} {G : vv_G} {d : Nat} {o : Nat} {h0 : Nat → Option vv_E} {nz : Nat × Nat} (hG : vv_gok G) {x1 : Int32} {T : tw_T} {r : Int32 × tw_T} (h : J_isWay x1 T = some r) : vv_V l G MX4_isWay (d + 1) 0 [(0, .ref o), (1, .int x1)] [] (tp o h0 T, nz) (.inl (some (.int r.1)), (tp o h0 r.2, nz)) := by
  unfold J_isWay at h
  refine vv_aload_n dX4_isWay_0 rfl 0 rfl ?_
  refine vv_iload_n dX4_isWay_1 rfl 1 rfl ?_
  refine vv_if_lt (tgt := 17) dX4_isWay_2 (by decide) (fun c1 => ?_) (fun c1 => ?_)
  · rw [if_pos c1] at h
    refine vv_sub (lv' := [(0, .ref o)]) [0] rfl ?_
    exact v_isWay_17 hG h
  · rw [if_neg c1] at h
    refine vv_iload_n dX4_isWay_5 rfl 1 rfl ?_
    refine vv_aload_n dX4_isWay_6 rfl 0 rfl ?_
    refine tw_get (fl_X4_284 hG) (k := 2) rfl dX4_isWay_7 ?_
    refine vv_icmp_ge (tgt := 17) dX4_isWay_10 (by decide) (fun c2 => ?_) (fun c2 => ?_)
    · rw [if_pos c2] at h
      refine vv_sub (lv' := [(0, .ref o)]) [0] rfl ?_
      exact v_isWay_17 hG h
    · rw [if_neg c2] at h
      refine vv_iconst (v := (nI 1)) dX4_isWay_13 (by decide) ?_
      refine vv_goto (tgt := 18) dX4_isWay_14 (by decide) ?_
      refine vv_sub (lv' := [(0, .ref o)]) [0] rfl ?_
      exact v_isWay_18 hG h
theorem m_isWay {l : Launch} {G : vv_G} {o : Nat} {h0 : Nat → Option vv_E} {nz : Nat × Nat} (hG : vv_gok G) {x1 : Int32} {T : tw_T} {r : Int32 × tw_T} (h : J_isWay x1 T = some r) (d : Nat) : vv_Met l G MX4_isWay (d + 1) [.ref o, .int x1] (tp o h0 T, nz) (.inl (some (.int r.1)), (tp o h0 r.2, nz)) := vv_head (by decide +kernel) rfl (Nat.le_of_ble_eq_true rfl) rfl (v_isWay_0 hG h)
/-! leads -/
def J_leads_39 (s0 : Int32) (T : tw_T) : Option (Int32 × tw_T) := some (s0, T)
theorem v_leads_39 {l : Launch} {G : vv_G} {d : Nat} {o : Nat} {h0 : Nat → Option vv_E} {nz : Nat × Nat} (hG : vv_gok G) {s0 : Int32} {T : tw_T} {r : Int32 × tw_T} (h : J_leads_39 s0 T = some r) : vv_V l G MX4_leads (d + 0) 39 [(0, .ref o)] [.int s0] (tp o h0 T, nz) (.inl (some (.int r.1)), (tp o h0 r.2, nz)) := by
  unfold J_leads_39 at h
  cases h
  exact vv_iret rfl dX4_leads_39
def J_leads (x1 : Int32) (x2 : Int32) (T : tw_T) : Option (Int32 × tw_T) := (rdI 12 (T.2.2 3) x1).bind fun v1 => if v1 = x2 then ((rdI 12 (T.2.2 4) x1).bind fun v6 => J_leads_39 v6 T) else ((rdI 12 (T.2.2 4) x1).bind fun v3 => if v3 = x2 then ((rdI 12 (T.2.2 3) x1).bind fun v5 => J_leads_39 v5 T) else (J_leads_39 (-1) T))
theorem v_leads_0 {l : Launch} {G : vv_G} {d : Nat} {o : Nat} {h0 : Nat → Option vv_E} {nz : Nat × Nat} (hG : vv_gok G) {x1 : Int32} {x2 : Int32} {T : tw_T} {r : Int32 × tw_T} (h : J_leads x1 x2 T = some r) : vv_V l G MX4_leads (d + 0) 0 [(0, .ref o), (1, .int x1), (2, .int x2)] [] (tp o h0 T, nz) (.inl (some (.int r.1)), (tp o h0 r.2, nz)) := by
  unfold J_leads at h
  refine vv_aload_n dX4_leads_0 rfl 0 rfl ?_
  refine tw_get (fl_X4_20 hG) (k := 7) rfl dX4_leads_1 ?_
  refine vv_iload_n dX4_leads_4 rfl 1 rfl ?_
  obtain ⟨v1, iv1, ev1, h⟩ := rd_o h
  refine tw_ald 3 (by decide) rfl iv1 ev1 dX4_leads_5 ?_
  refine vv_iload_n dX4_leads_6 rfl 2 rfl ?_
  refine vv_icmp_ne (tgt := 19) dX4_leads_7 (by decide) (fun c2 => ?_) (fun c2 => ?_)
  · rw [if_neg c2] at h
    refine vv_aload_n dX4_leads_19 rfl 0 rfl ?_
    refine tw_get (fl_X4_23 hG) (k := 8) rfl dX4_leads_20 ?_
    refine vv_iload_n dX4_leads_23 rfl 1 rfl ?_
    obtain ⟨v3, iv3, ev3, h⟩ := rd_o h
    refine tw_ald 4 (by decide) rfl iv3 ev3 dX4_leads_24 ?_
    refine vv_iload_n dX4_leads_25 rfl 2 rfl ?_
    refine vv_icmp_ne (tgt := 38) dX4_leads_26 (by decide) (fun c4 => ?_) (fun c4 => ?_)
    · rw [if_neg c4] at h
      refine vv_iconst (v := (-1)) dX4_leads_38 (by decide) ?_
      refine vv_sub (lv' := [(0, .ref o)]) [0] rfl ?_
      exact v_leads_39 hG h
    · rw [if_pos c4] at h
      refine vv_aload_n dX4_leads_29 rfl 0 rfl ?_
      refine tw_get (fl_X4_20 hG) (k := 7) rfl dX4_leads_30 ?_
      refine vv_iload_n dX4_leads_33 rfl 1 rfl ?_
      obtain ⟨v5, iv5, ev5, h⟩ := rd_o h
      refine tw_ald 3 (by decide) rfl iv5 ev5 dX4_leads_34 ?_
      refine vv_goto (tgt := 39) dX4_leads_35 (by decide) ?_
      refine vv_sub (lv' := [(0, .ref o)]) [0] rfl ?_
      exact v_leads_39 hG h
  · rw [if_pos c2] at h
    refine vv_aload_n dX4_leads_10 rfl 0 rfl ?_
    refine tw_get (fl_X4_23 hG) (k := 8) rfl dX4_leads_11 ?_
    refine vv_iload_n dX4_leads_14 rfl 1 rfl ?_
    obtain ⟨v6, iv6, ev6, h⟩ := rd_o h
    refine tw_ald 4 (by decide) rfl iv6 ev6 dX4_leads_15 ?_
    refine vv_goto (tgt := 39) dX4_leads_16 (by decide) ?_
    refine vv_sub (lv' := [(0, .ref o)]) [0] rfl ?_
    exact v_leads_39 hG h
theorem m_leads {l : Launch} {G : vv_G} {o : Nat} {h0 : Nat → Option vv_E} {nz : Nat × Nat} (hG : vv_gok G) {x1 : Int32} {x2 : Int32} {T : tw_T} {r : Int32 × tw_T} (h : J_leads x1 x2 T = some r) (d : Nat) : vv_Met l G MX4_leads (d + 0) [.ref o, .int x1, .int x2] (tp o h0 T, nz) (.inl (some (.int r.1)), (tp o h0 r.2, nz)) := vv_head (by decide +kernel) rfl (Nat.le_of_ble_eq_true rfl) rfl (v_leads_0 hG h)
/-! send -/
def J_send_21 (T : tw_T) : Option (Int32 × tw_T) := some ((nI 0), T)
theorem v_send_21 {l : Launch} {G : vv_G} {d : Nat} {o : Nat} {h0 : Nat → Option vv_E} {nz : Nat × Nat} (hG : vv_gok G) {T : tw_T} {r : Int32 × tw_T} (h : J_send_21 T = some r) : vv_V l G MX4_send (d + 2) 21 [(0, .ref o)] [] (tp o h0 T, nz) (.inl (some (.int r.1)), (tp o h0 r.2, nz)) := by
  unfold J_send_21 at h
  refine vv_iconst (v := (nI 0)) dX4_send_21 (by decide) ?_
  cases h
  exact vv_iret rfl dX4_send_22
def J_send_50 (T : tw_T) : Option (Int32 × tw_T) := (J_refuses (nI 1) T).bind fun r1 => some (r1.1, r1.2)
theorem v_send_50 {l : Launch} {G : vv_G} {d : Nat} {o : Nat} {h0 : Nat → Option vv_E} {nz : Nat × Nat} (hG : vv_gok G) {T : tw_T} {r : Int32 × tw_T} (h : J_send_50 T = some r) : vv_V l G MX4_send (d + 2) 50 [(0, .ref o)] [] (tp o h0 T, nz) (.inl (some (.int r.1)), (tp o h0 r.2, nz)) := by
  unfold J_send_50 at h
  refine vv_aload_n dX4_send_50 rfl 0 rfl ?_
  refine vv_iconst (v := (nI 1)) dX4_send_51 (by decide) ?_
  obtain ⟨r1, er1, h⟩ := bd_o h
  refine vv_callV ok_X4_refuses q1976 (m_refuses hG er1 (d + 1)) rfl (by omega) ⟨_, _, _, _, _, tp_o, by rw [hG.1]; rfl⟩ rfl rfl (Nat.le_of_ble_eq_true rfl) dX4_send_52 ?_
  cases h
  exact vv_iret rfl dX4_send_55
def J_send (x1 : Int32) (x2 : Int32) (T : tw_T) : Option (Int32 × tw_T) := (some (tw_F T 0 (nI 0))).bind fun T1 => (J_isCrate x1 T1).bind fun r2 => if r2.1 = 0 then (J_send_21 r2.2) else ((J_isWay x2 r2.2).bind fun r4 => if r4.1 = 0 then (J_send_21 r4.2) else ((J_lies (nI 0) x1 r4.2).bind fun r6 => if r6.1 = 0 then (J_send_50 r6.2) else ((rdI 170 (r6.2.2.2 20) ((nI 55) + x1)).bind fun v8 => (J_leads x2 v8 r6.2).bind fun r9 => if r9.1 = (-1) then (J_send_50 r9.2) else ((J_keeps r9.2).bind fun r11 => (rdI 170 (r11.2.2 20) ((nI 55) + x1)).bind fun v12 => (J_leads x2 v12 r11).bind fun r13 => (stA r13.2 20 170 ((nI 55) + x1) r13.1).bind fun T14 => (rdI 12 (T14.2.2 5) x2).bind fun v15 => (stA T14 20 170 ((nI 65) + x1) v15).bind fun T16 => (rdI 12 (T16.2.2 6) x2).bind fun v17 => (stA T16 20 170 ((nI 75) + x1) v17).bind fun T18 => (rdI 170 (T18.2.2 20) ((nI 55) + x1)).bind fun v19 => some (v19, T18)))))
theorem v_send_0 {l : Launch} {G : vv_G} {d : Nat} {o : Nat} {h0 : Nat → Option vv_E} {nz : Nat × Nat} (hG : vv_gok G) {x1 : Int32} {x2 : Int32} {T : tw_T} {r : Int32 × tw_T} (h : J_send x1 x2 T = some r) : vv_V l G MX4_send (d + 2) 0 [(0, .ref o), (1, .int x1), (2, .int x2)] [] (tp o h0 T, nz) (.inl (some (.int r.1)), (tp o h0 r.2, nz)) := by
  unfold J_send at h
  refine vv_aload_n dX4_send_0 rfl 0 rfl ?_
  refine vv_iconst (v := (nI 0)) dX4_send_1 (by decide) ?_
  obtain ⟨T1, eT1, h⟩ := bd_s h
  refine tw_put (T1 := T1) (pt_X4_117 hG) hG rfl rfl rfl (by decide) (by rw [eT1]; exact tw_set0 _ _ _) (by rw [eT1]; rfl) dX4_send_2 ?_
  refine vv_aload_n dX4_send_5 rfl 0 rfl ?_
  refine vv_iload_n dX4_send_6 rfl 1 rfl ?_
  obtain ⟨r2, er2, h⟩ := bd_o h
  refine vv_callV ok_X4_isCrate q1968 (m_isCrate hG er2 (d + 0)) rfl (by omega) ⟨_, _, _, _, _, tp_o, by rw [hG.1]; rfl⟩ rfl rfl (Nat.le_of_ble_eq_true rfl) dX4_send_7 ?_
  refine vv_if_eq (tgt := 21) dX4_send_10 (by decide) (fun c3 => ?_) (fun c3 => ?_)
  · rw [if_pos c3] at h
    refine vv_sub (lv' := [(0, .ref o)]) [0] rfl ?_
    exact v_send_21 hG h
  · rw [if_neg c3] at h
    refine vv_aload_n dX4_send_13 rfl 0 rfl ?_
    refine vv_iload_n dX4_send_14 rfl 2 rfl ?_
    obtain ⟨r4, er4, h⟩ := bd_o h
    refine vv_callV ok_X4_isWay q2007 (m_isWay hG er4 (d + 0)) rfl (by omega) ⟨_, _, _, _, _, tp_o, by rw [hG.1]; rfl⟩ rfl rfl (Nat.le_of_ble_eq_true rfl) dX4_send_15 ?_
    refine vv_if_ne (tgt := 23) dX4_send_18 (by decide) (fun c5 => ?_) (fun c5 => ?_)
    · rw [if_neg c5] at h
      refine vv_aload_n dX4_send_23 rfl 0 rfl ?_
      refine vv_iconst (v := (nI 0)) dX4_send_24 (by decide) ?_
      refine vv_iload_n dX4_send_25 rfl 1 rfl ?_
      obtain ⟨r6, er6, h⟩ := bd_o h
      refine vv_callV ok_X4_lies q1919 (m_lies hG er6 (d + 1)) rfl (by omega) ⟨_, _, _, _, _, tp_o, by rw [hG.1]; rfl⟩ rfl rfl (Nat.le_of_ble_eq_true rfl) dX4_send_26 ?_
      refine vv_if_eq (tgt := 50) dX4_send_29 (by decide) (fun c7 => ?_) (fun c7 => ?_)
      · rw [if_pos c7] at h
        refine vv_sub (lv' := [(0, .ref o)]) [0] rfl ?_
        exact v_send_50 hG h
      · rw [if_neg c7] at h
        refine vv_aload_n dX4_send_32 rfl 0 rfl ?_
        refine vv_iload_n dX4_send_33 rfl 2 rfl ?_
        refine vv_aload_n dX4_send_34 rfl 0 rfl ?_
        refine tw_get (fl_X4_75 hG) (k := 42) rfl dX4_send_35 ?_
        refine vv_bipush (v := (nI 55)) dX4_send_38 (by decide) ?_
        refine vv_iload_n dX4_send_40 rfl 1 rfl ?_
        refine vv_iadd dX4_send_41 ?_
        obtain ⟨v8, iv8, ev8, h⟩ := rd_o h
        refine tw_ald 20 (by decide) rfl iv8 ev8 dX4_send_42 ?_
        obtain ⟨r9, er9, h⟩ := bd_o h
        refine vv_callV ok_X4_leads q2011 (m_leads hG er9 (d + 1)) rfl (by omega) ⟨_, _, _, _, _, tp_o, by rw [hG.1]; rfl⟩ rfl rfl (Nat.le_of_ble_eq_true rfl) dX4_send_43 ?_
        refine vv_iconst (v := (-1)) dX4_send_46 (by decide) ?_
        refine vv_icmp_ne (tgt := 56) dX4_send_47 (by decide) (fun c10 => ?_) (fun c10 => ?_)
        · rw [if_neg c10] at h
          refine vv_aload_n dX4_send_56 rfl 0 rfl ?_
          obtain ⟨r11, er11, h⟩ := bd_o h
          refine vv_callV ok_X4_keeps q1980 (m_keeps hG er11 (d + 1)) rfl (by omega) ⟨_, _, _, _, _, tp_o, by rw [hG.1]; rfl⟩ rfl rfl (Nat.le_of_ble_eq_true rfl) dX4_send_57 ?_
          refine vv_aload_n dX4_send_60 rfl 0 rfl ?_
          refine tw_get (fl_X4_75 hG) (k := 42) rfl dX4_send_61 ?_
          refine vv_bipush (v := (nI 55)) dX4_send_64 (by decide) ?_
          refine vv_iload_n dX4_send_66 rfl 1 rfl ?_
          refine vv_iadd dX4_send_67 ?_
          refine vv_aload_n dX4_send_68 rfl 0 rfl ?_
          refine vv_iload_n dX4_send_69 rfl 2 rfl ?_
          refine vv_aload_n dX4_send_70 rfl 0 rfl ?_
          refine tw_get (fl_X4_75 hG) (k := 42) rfl dX4_send_71 ?_
          refine vv_bipush (v := (nI 55)) dX4_send_74 (by decide) ?_
          refine vv_iload_n dX4_send_76 rfl 1 rfl ?_
          refine vv_iadd dX4_send_77 ?_
          obtain ⟨v12, iv12, ev12, h⟩ := rd_o h
          refine tw_ald 20 (by decide) rfl iv12 ev12 dX4_send_78 ?_
          obtain ⟨r13, er13, h⟩ := bd_o h
          refine vv_callV ok_X4_leads q2011 (m_leads hG er13 (d + 1)) rfl (by omega) ⟨_, _, _, _, _, tp_o, by rw [hG.1]; rfl⟩ rfl rfl (Nat.le_of_ble_eq_true rfl) dX4_send_79 ?_
          obtain ⟨T14, iT14, eT14, h⟩ := st_o h
          refine tw_ast 20 (by decide) rfl iT14 eT14 dX4_send_82 ?_
          refine vv_aload_n dX4_send_83 rfl 0 rfl ?_
          refine tw_get (fl_X4_75 hG) (k := 42) rfl dX4_send_84 ?_
          refine vv_bipush (v := (nI 65)) dX4_send_87 (by decide) ?_
          refine vv_iload_n dX4_send_89 rfl 1 rfl ?_
          refine vv_iadd dX4_send_90 ?_
          refine vv_aload_n dX4_send_91 rfl 0 rfl ?_
          refine tw_get (fl_X4_26 hG) (k := 9) rfl dX4_send_92 ?_
          refine vv_iload_n dX4_send_95 rfl 2 rfl ?_
          obtain ⟨v15, iv15, ev15, h⟩ := rd_o h
          refine tw_ald 5 (by decide) rfl iv15 ev15 dX4_send_96 ?_
          obtain ⟨T16, iT16, eT16, h⟩ := st_o h
          refine tw_ast 20 (by decide) rfl iT16 eT16 dX4_send_97 ?_
          refine vv_aload_n dX4_send_98 rfl 0 rfl ?_
          refine tw_get (fl_X4_75 hG) (k := 42) rfl dX4_send_99 ?_
          refine vv_bipush (v := (nI 75)) dX4_send_102 (by decide) ?_
          refine vv_iload_n dX4_send_104 rfl 1 rfl ?_
          refine vv_iadd dX4_send_105 ?_
          refine vv_aload_n dX4_send_106 rfl 0 rfl ?_
          refine tw_get (fl_X4_29 hG) (k := 10) rfl dX4_send_107 ?_
          refine vv_iload_n dX4_send_110 rfl 2 rfl ?_
          obtain ⟨v17, iv17, ev17, h⟩ := rd_o h
          refine tw_ald 6 (by decide) rfl iv17 ev17 dX4_send_111 ?_
          obtain ⟨T18, iT18, eT18, h⟩ := st_o h
          refine tw_ast 20 (by decide) rfl iT18 eT18 dX4_send_112 ?_
          refine vv_aload_n dX4_send_113 rfl 0 rfl ?_
          refine tw_get (fl_X4_75 hG) (k := 42) rfl dX4_send_114 ?_
          refine vv_bipush (v := (nI 55)) dX4_send_117 (by decide) ?_
          refine vv_iload_n dX4_send_119 rfl 1 rfl ?_
          refine vv_iadd dX4_send_120 ?_
          obtain ⟨v19, iv19, ev19, h⟩ := rd_o h
          refine tw_ald 20 (by decide) rfl iv19 ev19 dX4_send_121 ?_
          cases h
          exact vv_iret rfl dX4_send_122
        · rw [if_pos c10] at h
          refine vv_sub (lv' := [(0, .ref o)]) [0] rfl ?_
          exact v_send_50 hG h
    · rw [if_pos c5] at h
      refine vv_sub (lv' := [(0, .ref o)]) [0] rfl ?_
      exact v_send_21 hG h
theorem m_send {l : Launch} {G : vv_G} {o : Nat} {h0 : Nat → Option vv_E} {nz : Nat × Nat} (hG : vv_gok G) {x1 : Int32} {x2 : Int32} {T : tw_T} {r : Int32 × tw_T} (h : J_send x1 x2 T = some r) (d : Nat) : vv_Met l G MX4_send (d + 2) [.ref o, .int x1, .int x2] (tp o h0 T, nz) (.inl (some (.int r.1)), (tp o h0 r.2, nz)) := vv_head (by decide +kernel) rfl (Nat.le_of_ble_eq_true rfl) rfl (v_send_0 hG h)
/-! opens -/
def J_opens_22 (s0 : Int32) (s1 : Int32) (x1 : Int32) (x2 : Int32) (T : tw_T) : Option tw_T := (rdI 170 (T.2.2 20) ((x1 + (nI 55)) + x2)).bind fun v1 => (rdI 170 (T.2.2 20) ((s0 + s1) + v1)).bind fun v2 => (rdI 170 (T.2.2 20) ((x1 + (nI 25)) + x2)).bind fun v3 => (J_kept (v2 + v3) (nI 0) (nI 9999)).bind fun r4 => (stA T 20 170 ((s0 + s1) + v1) r4).bind fun T5 => (stA T5 20 170 ((x1 + (nI 25)) + x2) (nI 0)).bind fun T6 => (stA T6 20 170 ((x1 + (nI 55)) + x2) (-1)).bind fun T7 => some T7
theorem v_opens_22 {l : Launch} {G : vv_G} {d : Nat} {o : Nat} {h0 : Nat → Option vv_E} {nz : Nat × Nat} (hG : vv_gok G) {s0 : Int32} {s1 : Int32} {x1 : Int32} {x2 : Int32} {T : tw_T} {r : tw_T} (h : J_opens_22 s0 s1 x1 x2 T = some r) : vv_V l G MX4_opens (d + 1) 22 [(0, .ref o), (1, .int x1), (2, .int x2)] [.int s1, .int s0] (tp o h0 T, nz) (.inl none, (tp o h0 r, nz)) := by
  unfold J_opens_22 at h
  refine vv_iadd dX4_opens_22 ?_
  refine vv_aload_n dX4_opens_23 rfl 0 rfl ?_
  refine tw_get (fl_X4_75 hG) (k := 42) rfl dX4_opens_24 ?_
  refine vv_iload_n dX4_opens_27 rfl 1 rfl ?_
  refine vv_bipush (v := (nI 55)) dX4_opens_28 (by decide) ?_
  refine vv_iadd dX4_opens_30 ?_
  refine vv_iload_n dX4_opens_31 rfl 2 rfl ?_
  refine vv_iadd dX4_opens_32 ?_
  obtain ⟨v1, iv1, ev1, h⟩ := rd_o h
  refine tw_ald 20 (by decide) rfl iv1 ev1 dX4_opens_33 ?_
  refine vv_iadd dX4_opens_34 ?_
  refine vv_istore_n (lv' := [(0, .ref o), (1, .int x1), (2, .int x2), (3, .int ((s0 + s1) + v1))]) dX4_opens_35 rfl (by decide) [1, 2, 3, 0] rfl ?_
  refine vv_aload_n dX4_opens_36 rfl 0 rfl ?_
  refine tw_get (fl_X4_75 hG) (k := 42) rfl dX4_opens_37 ?_
  refine vv_iload_n dX4_opens_40 rfl 3 rfl ?_
  refine vv_aload_n dX4_opens_41 rfl 0 rfl ?_
  refine tw_get (fl_X4_75 hG) (k := 42) rfl dX4_opens_42 ?_
  refine vv_iload_n dX4_opens_45 rfl 3 rfl ?_
  obtain ⟨v2, iv2, ev2, h⟩ := rd_o h
  refine tw_ald 20 (by decide) rfl iv2 ev2 dX4_opens_46 ?_
  refine vv_aload_n dX4_opens_47 rfl 0 rfl ?_
  refine tw_get (fl_X4_75 hG) (k := 42) rfl dX4_opens_48 ?_
  refine vv_iload_n dX4_opens_51 rfl 1 rfl ?_
  refine vv_bipush (v := (nI 25)) dX4_opens_52 (by decide) ?_
  refine vv_iadd dX4_opens_54 ?_
  refine vv_iload_n dX4_opens_55 rfl 2 rfl ?_
  refine vv_iadd dX4_opens_56 ?_
  obtain ⟨v3, iv3, ev3, h⟩ := rd_o h
  refine tw_ald 20 (by decide) rfl iv3 ev3 dX4_opens_57 ?_
  refine vv_iadd dX4_opens_58 ?_
  refine vv_iconst (v := (nI 0)) dX4_opens_59 (by decide) ?_
  refine vv_sipush (v := (nI 9999)) dX4_opens_60 (by decide) ?_
  obtain ⟨r4, er4, h⟩ := bd_o h
  refine vv_callS ok_X4_kept q1947 (m_kept hG er4 (d + 0)) rfl (by omega) rfl rfl (Nat.le_of_ble_eq_true rfl) dX4_opens_63 ?_
  obtain ⟨T5, iT5, eT5, h⟩ := st_o h
  refine tw_ast 20 (by decide) rfl iT5 eT5 dX4_opens_66 ?_
  refine vv_aload_n dX4_opens_67 rfl 0 rfl ?_
  refine tw_get (fl_X4_75 hG) (k := 42) rfl dX4_opens_68 ?_
  refine vv_iload_n dX4_opens_71 rfl 1 rfl ?_
  refine vv_bipush (v := (nI 25)) dX4_opens_72 (by decide) ?_
  refine vv_iadd dX4_opens_74 ?_
  refine vv_iload_n dX4_opens_75 rfl 2 rfl ?_
  refine vv_iadd dX4_opens_76 ?_
  refine vv_iconst (v := (nI 0)) dX4_opens_77 (by decide) ?_
  obtain ⟨T6, iT6, eT6, h⟩ := st_o h
  refine tw_ast 20 (by decide) rfl iT6 eT6 dX4_opens_78 ?_
  refine vv_aload_n dX4_opens_79 rfl 0 rfl ?_
  refine tw_get (fl_X4_75 hG) (k := 42) rfl dX4_opens_80 ?_
  refine vv_iload_n dX4_opens_83 rfl 1 rfl ?_
  refine vv_bipush (v := (nI 55)) dX4_opens_84 (by decide) ?_
  refine vv_iadd dX4_opens_86 ?_
  refine vv_iload_n dX4_opens_87 rfl 2 rfl ?_
  refine vv_iadd dX4_opens_88 ?_
  refine vv_iconst (v := (-1)) dX4_opens_89 (by decide) ?_
  obtain ⟨T7, iT7, eT7, h⟩ := st_o h
  refine tw_ast 20 (by decide) rfl iT7 eT7 dX4_opens_90 ?_
  cases h
  exact vv_vret rfl dX4_opens_91
def J_opens (x1 : Int32) (x2 : Int32) (T : tw_T) : Option tw_T := (rdI 170 (T.2.2 20) ((x1 + (nI 35)) + x2)).bind fun v1 => if v1 = (nI 1) then (J_opens_22 x1 (nI 9) x1 x2 T) else (J_opens_22 x1 (nI 1) x1 x2 T)
theorem v_opens_0 {l : Launch} {G : vv_G} {d : Nat} {o : Nat} {h0 : Nat → Option vv_E} {nz : Nat × Nat} (hG : vv_gok G) {x1 : Int32} {x2 : Int32} {T : tw_T} {r : tw_T} (h : J_opens x1 x2 T = some r) : vv_V l G MX4_opens (d + 1) 0 [(0, .ref o), (1, .int x1), (2, .int x2)] [] (tp o h0 T, nz) (.inl none, (tp o h0 r, nz)) := by
  unfold J_opens at h
  refine vv_iload_n dX4_opens_0 rfl 1 rfl ?_
  refine vv_aload_n dX4_opens_1 rfl 0 rfl ?_
  refine tw_get (fl_X4_75 hG) (k := 42) rfl dX4_opens_2 ?_
  refine vv_iload_n dX4_opens_5 rfl 1 rfl ?_
  refine vv_bipush (v := (nI 35)) dX4_opens_6 (by decide) ?_
  refine vv_iadd dX4_opens_8 ?_
  refine vv_iload_n dX4_opens_9 rfl 2 rfl ?_
  refine vv_iadd dX4_opens_10 ?_
  obtain ⟨v1, iv1, ev1, h⟩ := rd_o h
  refine tw_ald 20 (by decide) rfl iv1 ev1 dX4_opens_11 ?_
  refine vv_iconst (v := (nI 1)) dX4_opens_12 (by decide) ?_
  refine vv_icmp_ne (tgt := 21) dX4_opens_13 (by decide) (fun c2 => ?_) (fun c2 => ?_)
  · rw [if_neg c2] at h
    refine vv_iconst (v := (nI 1)) dX4_opens_21 (by decide) ?_
    exact v_opens_22 hG h
  · rw [if_pos c2] at h
    refine vv_bipush (v := (nI 9)) dX4_opens_16 (by decide) ?_
    refine vv_goto (tgt := 22) dX4_opens_18 (by decide) ?_
    exact v_opens_22 hG h
theorem m_opens {l : Launch} {G : vv_G} {o : Nat} {h0 : Nat → Option vv_E} {nz : Nat × Nat} (hG : vv_gok G) {x1 : Int32} {x2 : Int32} {T : tw_T} {r : tw_T} (h : J_opens x1 x2 T = some r) (d : Nat) : vv_Met l G MX4_opens (d + 1) [.ref o, .int x1, .int x2] (tp o h0 T, nz) (.inl none, (tp o h0 r, nz)) := vv_head (by decide +kernel) rfl (Nat.le_of_ble_eq_true rfl) rfl (v_opens_0 hG h)
/-! open -/
def J_open (x1 : Int32) (T : tw_T) : Option (Int32 × tw_T) := (some (tw_F T 0 (nI 0))).bind fun T1 => (J_isCrate x1 T1).bind fun r2 => if r2.1 = 0 then (some ((nI 0), r2.2)) else ((J_lies (nI 0) x1 r2.2).bind fun r4 => if r4.1 = 0 then ((J_refuses (nI 1) r4.2).bind fun r9 => some (r9.1, r9.2)) else ((J_keeps r4.2).bind fun r6 => (rdI 170 (r6.2.2 20) ((nI 25) + x1)).bind fun v7 => (J_opens (nI 0) x1 r6).bind fun r8 => some (v7, r8)))
theorem v_open_0 {l : Launch} {G : vv_G} {d : Nat} {o : Nat} {h0 : Nat → Option vv_E} {nz : Nat × Nat} (hG : vv_gok G) {x1 : Int32} {T : tw_T} {r : Int32 × tw_T} (h : J_open x1 T = some r) : vv_V l G MX4_open (d + 2) 0 [(0, .ref o), (1, .int x1)] [] (tp o h0 T, nz) (.inl (some (.int r.1)), (tp o h0 r.2, nz)) := by
  unfold J_open at h
  refine vv_aload_n dX4_open_0 rfl 0 rfl ?_
  refine vv_iconst (v := (nI 0)) dX4_open_1 (by decide) ?_
  obtain ⟨T1, eT1, h⟩ := bd_s h
  refine tw_put (T1 := T1) (pt_X4_117 hG) hG rfl rfl rfl (by decide) (by rw [eT1]; exact tw_set0 _ _ _) (by rw [eT1]; rfl) dX4_open_2 ?_
  refine vv_aload_n dX4_open_5 rfl 0 rfl ?_
  refine vv_iload_n dX4_open_6 rfl 1 rfl ?_
  obtain ⟨r2, er2, h⟩ := bd_o h
  refine vv_callV ok_X4_isCrate q1968 (m_isCrate hG er2 (d + 0)) rfl (by omega) ⟨_, _, _, _, _, tp_o, by rw [hG.1]; rfl⟩ rfl rfl (Nat.le_of_ble_eq_true rfl) dX4_open_7 ?_
  refine vv_if_ne (tgt := 15) dX4_open_10 (by decide) (fun c3 => ?_) (fun c3 => ?_)
  · rw [if_neg c3] at h
    refine vv_aload_n dX4_open_15 rfl 0 rfl ?_
    refine vv_iconst (v := (nI 0)) dX4_open_16 (by decide) ?_
    refine vv_iload_n dX4_open_17 rfl 1 rfl ?_
    obtain ⟨r4, er4, h⟩ := bd_o h
    refine vv_callV ok_X4_lies q1919 (m_lies hG er4 (d + 1)) rfl (by omega) ⟨_, _, _, _, _, tp_o, by rw [hG.1]; rfl⟩ rfl rfl (Nat.le_of_ble_eq_true rfl) dX4_open_18 ?_
    refine vv_if_ne (tgt := 30) dX4_open_21 (by decide) (fun c5 => ?_) (fun c5 => ?_)
    · rw [if_neg c5] at h
      refine vv_aload_n dX4_open_30 rfl 0 rfl ?_
      obtain ⟨r6, er6, h⟩ := bd_o h
      refine vv_callV ok_X4_keeps q1980 (m_keeps hG er6 (d + 1)) rfl (by omega) ⟨_, _, _, _, _, tp_o, by rw [hG.1]; rfl⟩ rfl rfl (Nat.le_of_ble_eq_true rfl) dX4_open_31 ?_
      refine vv_aload_n dX4_open_34 rfl 0 rfl ?_
      refine tw_get (fl_X4_75 hG) (k := 42) rfl dX4_open_35 ?_
      refine vv_bipush (v := (nI 25)) dX4_open_38 (by decide) ?_
      refine vv_iload_n dX4_open_40 rfl 1 rfl ?_
      refine vv_iadd dX4_open_41 ?_
      obtain ⟨v7, iv7, ev7, h⟩ := rd_o h
      refine tw_ald 20 (by decide) rfl iv7 ev7 dX4_open_42 ?_
      refine vv_istore_n (lv' := [(0, .ref o), (1, .int x1), (2, .int v7)]) dX4_open_43 rfl (by decide) [1, 2, 0] rfl ?_
      refine vv_aload_n dX4_open_44 rfl 0 rfl ?_
      refine vv_iconst (v := (nI 0)) dX4_open_45 (by decide) ?_
      refine vv_iload_n dX4_open_46 rfl 1 rfl ?_
      obtain ⟨r8, er8, h⟩ := bd_o h
      refine vv_callV ok_X4_opens q2019 (m_opens hG er8 (d + 0)) rfl (by omega) ⟨_, _, _, _, _, tp_o, by rw [hG.1]; rfl⟩ rfl rfl (Nat.le_of_ble_eq_true rfl) dX4_open_47 ?_
      refine vv_iload_n dX4_open_50 rfl 2 rfl ?_
      cases h
      exact vv_iret rfl dX4_open_51
    · rw [if_pos c5] at h
      refine vv_aload_n dX4_open_24 rfl 0 rfl ?_
      refine vv_iconst (v := (nI 1)) dX4_open_25 (by decide) ?_
      obtain ⟨r9, er9, h⟩ := bd_o h
      refine vv_callV ok_X4_refuses q1976 (m_refuses hG er9 (d + 1)) rfl (by omega) ⟨_, _, _, _, _, tp_o, by rw [hG.1]; rfl⟩ rfl rfl (Nat.le_of_ble_eq_true rfl) dX4_open_26 ?_
      cases h
      exact vv_iret rfl dX4_open_29
  · rw [if_pos c3] at h
    refine vv_iconst (v := (nI 0)) dX4_open_13 (by decide) ?_
    cases h
    exact vv_iret rfl dX4_open_14
theorem m_open {l : Launch} {G : vv_G} {o : Nat} {h0 : Nat → Option vv_E} {nz : Nat × Nat} (hG : vv_gok G) {x1 : Int32} {T : tw_T} {r : Int32 × tw_T} (h : J_open x1 T = some r) (d : Nat) : vv_Met l G MX4_open (d + 2) [.ref o, .int x1] (tp o h0 T, nz) (.inl (some (.int r.1)), (tp o h0 r.2, nz)) := vv_head (by decide +kernel) rfl (Nat.le_of_ble_eq_true rfl) rfl (v_open_0 hG h)
/-! cat -/
def J_cat_64 (s0 : Int32) (T : tw_T) : Option (Int32 × tw_T) := (zrI s0).bind fun v1 => some (v1, T)
theorem v_cat_64 {l : Launch} {G : vv_G} {d : Nat} {o : Nat} {h0 : Nat → Option vv_E} {nz : Nat × Nat} (hG : vv_gok G) {s0 : Int32} {T : tw_T} {r : Int32 × tw_T} (h : J_cat_64 s0 T = some r) : vv_V l G MX4_cat (d + 2) 64 [(0, .ref o)] [.int s0] (tp o h0 T, nz) (.inl (some (.int r.1)), (tp o h0 r.2, nz)) := by
  unfold J_cat_64 at h
  obtain ⟨zv1, h⟩ := zr_o h
  cases h
  exact vv_zret rfl zv1 dX4_cat_64
def J_cat_51 (T : tw_T) : Option (Int32 × tw_T) := (J_refuses (nI 1) T).bind fun r1 => if r1.1 ≤ 0 then (J_cat_64 (nI 0) r1.2) else (J_cat_64 (nI 1) r1.2)
theorem v_cat_51 {l : Launch} {G : vv_G} {d : Nat} {o : Nat} {h0 : Nat → Option vv_E} {nz : Nat × Nat} (hG : vv_gok G) {T : tw_T} {r : Int32 × tw_T} (h : J_cat_51 T = some r) : vv_V l G MX4_cat (d + 2) 51 [(0, .ref o)] [] (tp o h0 T, nz) (.inl (some (.int r.1)), (tp o h0 r.2, nz)) := by
  unfold J_cat_51 at h
  refine vv_aload_n dX4_cat_51 rfl 0 rfl ?_
  refine vv_iconst (v := (nI 1)) dX4_cat_52 (by decide) ?_
  obtain ⟨r1, er1, h⟩ := bd_o h
  refine vv_callV ok_X4_refuses q1976 (m_refuses hG er1 (d + 1)) rfl (by omega) ⟨_, _, _, _, _, tp_o, by rw [hG.1]; rfl⟩ rfl rfl (Nat.le_of_ble_eq_true rfl) dX4_cat_53 ?_
  refine vv_if_le (tgt := 63) dX4_cat_56 (by decide) (fun c2 => ?_) (fun c2 => ?_)
  · rw [if_pos c2] at h
    refine vv_iconst (v := (nI 0)) dX4_cat_63 (by decide) ?_
    exact v_cat_64 hG h
  · rw [if_neg c2] at h
    refine vv_iconst (v := (nI 1)) dX4_cat_59 (by decide) ?_
    refine vv_goto (tgt := 64) dX4_cat_60 (by decide) ?_
    exact v_cat_64 hG h
def J_cat_24 (s0 : Int32) (x1 : Int32) (T : tw_T) : Option (Int32 × tw_T) := (rdI 170 (T.2.2 20) ((nI 55) + x1)).bind fun v1 => if v1 = (-1) then (J_cat_51 T) else ((rdI 170 (T.2.2 20) ((nI 45) + x1)).bind fun v3 => if v3 = s0 then (J_cat_51 T) else ((J_keeps T).bind fun r5 => (stA r5 20 170 ((nI 45) + x1) s0).bind fun T6 => some ((nI 1), T6)))
theorem v_cat_24 {l : Launch} {G : vv_G} {d : Nat} {o : Nat} {h0 : Nat → Option vv_E} {nz : Nat × Nat} (hG : vv_gok G) {s0 : Int32} {x1 : Int32} {T : tw_T} {r : Int32 × tw_T} (h : J_cat_24 s0 x1 T = some r) : vv_V l G MX4_cat (d + 2) 24 [(0, .ref o), (1, .int x1)] [.int s0] (tp o h0 T, nz) (.inl (some (.int r.1)), (tp o h0 r.2, nz)) := by
  unfold J_cat_24 at h
  refine vv_istore_n (lv' := [(0, .ref o), (1, .int x1), (3, .int s0)]) dX4_cat_24 rfl (by decide) [1, 2, 0] rfl ?_
  refine vv_aload_n dX4_cat_25 rfl 0 rfl ?_
  refine tw_get (fl_X4_75 hG) (k := 42) rfl dX4_cat_26 ?_
  refine vv_bipush (v := (nI 55)) dX4_cat_29 (by decide) ?_
  refine vv_iload_n dX4_cat_31 rfl 1 rfl ?_
  refine vv_iadd dX4_cat_32 ?_
  obtain ⟨v1, iv1, ev1, h⟩ := rd_o h
  refine tw_ald 20 (by decide) rfl iv1 ev1 dX4_cat_33 ?_
  refine vv_iconst (v := (-1)) dX4_cat_34 (by decide) ?_
  refine vv_icmp_eq (tgt := 51) dX4_cat_35 (by decide) (fun c2 => ?_) (fun c2 => ?_)
  · rw [if_pos c2] at h
    refine vv_sub (lv' := [(0, .ref o)]) [0] rfl ?_
    exact v_cat_51 hG h
  · rw [if_neg c2] at h
    refine vv_aload_n dX4_cat_38 rfl 0 rfl ?_
    refine tw_get (fl_X4_75 hG) (k := 42) rfl dX4_cat_39 ?_
    refine vv_bipush (v := (nI 45)) dX4_cat_42 (by decide) ?_
    refine vv_iload_n dX4_cat_44 rfl 1 rfl ?_
    refine vv_iadd dX4_cat_45 ?_
    obtain ⟨v3, iv3, ev3, h⟩ := rd_o h
    refine tw_ald 20 (by decide) rfl iv3 ev3 dX4_cat_46 ?_
    refine vv_iload_n dX4_cat_47 rfl 2 rfl ?_
    refine vv_icmp_ne (tgt := 65) dX4_cat_48 (by decide) (fun c4 => ?_) (fun c4 => ?_)
    · rw [if_neg c4] at h
      refine vv_aload_n dX4_cat_65 rfl 0 rfl ?_
      obtain ⟨r5, er5, h⟩ := bd_o h
      refine vv_callV ok_X4_keeps q1980 (m_keeps hG er5 (d + 1)) rfl (by omega) ⟨_, _, _, _, _, tp_o, by rw [hG.1]; rfl⟩ rfl rfl (Nat.le_of_ble_eq_true rfl) dX4_cat_66 ?_
      refine vv_aload_n dX4_cat_69 rfl 0 rfl ?_
      refine tw_get (fl_X4_75 hG) (k := 42) rfl dX4_cat_70 ?_
      refine vv_bipush (v := (nI 45)) dX4_cat_73 (by decide) ?_
      refine vv_iload_n dX4_cat_75 rfl 1 rfl ?_
      refine vv_iadd dX4_cat_76 ?_
      refine vv_iload_n dX4_cat_77 rfl 2 rfl ?_
      obtain ⟨T6, iT6, eT6, h⟩ := st_o h
      refine tw_ast 20 (by decide) rfl iT6 eT6 dX4_cat_78 ?_
      refine vv_iconst (v := (nI 1)) dX4_cat_79 (by decide) ?_
      cases h
      exact vv_zret rfl (by decide) dX4_cat_80
    · rw [if_pos c4] at h
      refine vv_sub (lv' := [(0, .ref o)]) [0] rfl ?_
      exact v_cat_51 hG h
def J_cat (x1 : Int32) (x2 : Int32) (T : tw_T) : Option (Int32 × tw_T) := (some (tw_F T 0 (nI 0))).bind fun T1 => (J_isCrate x1 T1).bind fun r2 => if r2.1 = 0 then (some ((nI 0), r2.2)) else (if x2 = 0 then (J_cat_24 (nI 0) x1 r2.2) else (J_cat_24 (nI 1) x1 r2.2))
theorem v_cat_0 {l : Launch} {G : vv_G} {d : Nat} {o : Nat} {h0 : Nat → Option vv_E} {nz : Nat × Nat} (hG : vv_gok G) {x1 : Int32} {x2 : Int32} {T : tw_T} {r : Int32 × tw_T} (h : J_cat x1 x2 T = some r) : vv_V l G MX4_cat (d + 2) 0 [(0, .ref o), (1, .int x1), (2, .int x2)] [] (tp o h0 T, nz) (.inl (some (.int r.1)), (tp o h0 r.2, nz)) := by
  unfold J_cat at h
  refine vv_aload_n dX4_cat_0 rfl 0 rfl ?_
  refine vv_iconst (v := (nI 0)) dX4_cat_1 (by decide) ?_
  obtain ⟨T1, eT1, h⟩ := bd_s h
  refine tw_put (T1 := T1) (pt_X4_117 hG) hG rfl rfl rfl (by decide) (by rw [eT1]; exact tw_set0 _ _ _) (by rw [eT1]; rfl) dX4_cat_2 ?_
  refine vv_aload_n dX4_cat_5 rfl 0 rfl ?_
  refine vv_iload_n dX4_cat_6 rfl 1 rfl ?_
  obtain ⟨r2, er2, h⟩ := bd_o h
  refine vv_callV ok_X4_isCrate q1968 (m_isCrate hG er2 (d + 0)) rfl (by omega) ⟨_, _, _, _, _, tp_o, by rw [hG.1]; rfl⟩ rfl rfl (Nat.le_of_ble_eq_true rfl) dX4_cat_7 ?_
  refine vv_if_ne (tgt := 15) dX4_cat_10 (by decide) (fun c3 => ?_) (fun c3 => ?_)
  · rw [if_neg c3] at h
    refine vv_iload_n dX4_cat_15 rfl 2 rfl ?_
    refine vv_if_eq (tgt := 23) dX4_cat_16 (by decide) (fun c4 => ?_) (fun c4 => ?_)
    · rw [if_pos c4] at h
      refine vv_iconst (v := (nI 0)) dX4_cat_23 (by decide) ?_
      refine vv_sub (lv' := [(0, .ref o), (1, .int x1)]) [0, 1] rfl ?_
      exact v_cat_24 hG h
    · rw [if_neg c4] at h
      refine vv_iconst (v := (nI 1)) dX4_cat_19 (by decide) ?_
      refine vv_goto (tgt := 24) dX4_cat_20 (by decide) ?_
      refine vv_sub (lv' := [(0, .ref o), (1, .int x1)]) [0, 1] rfl ?_
      exact v_cat_24 hG h
  · rw [if_pos c3] at h
    refine vv_iconst (v := (nI 0)) dX4_cat_13 (by decide) ?_
    cases h
    exact vv_zret rfl (by decide) dX4_cat_14
theorem m_cat {l : Launch} {G : vv_G} {o : Nat} {h0 : Nat → Option vv_E} {nz : Nat × Nat} (hG : vv_gok G) {x1 : Int32} {x2 : Int32} {T : tw_T} {r : Int32 × tw_T} (h : J_cat x1 x2 T = some r) (d : Nat) : vv_Met l G MX4_cat (d + 2) [.ref o, .int x1, .int x2] (tp o h0 T, nz) (.inl (some (.int r.1)), (tp o h0 r.2, nz)) := vv_head (by decide +kernel) rfl (Nat.le_of_ble_eq_true rfl) rfl (v_cat_0 hG h)
/-! mix -/
def J_mix_21 (T : tw_T) : Option (Int32 × tw_T) := some ((nI 0), T)
theorem v_mix_21 {l : Launch} {G : vv_G} {d : Nat} {o : Nat} {h0 : Nat → Option vv_E} {nz : Nat × Nat} (hG : vv_gok G) {T : tw_T} {r : Int32 × tw_T} (h : J_mix_21 T = some r) : vv_V l G MX4_mix (d + 2) 21 [(0, .ref o)] [] (tp o h0 T, nz) (.inl (some (.int r.1)), (tp o h0 r.2, nz)) := by
  unfold J_mix_21 at h
  refine vv_iconst (v := (nI 0)) dX4_mix_21 (by decide) ?_
  cases h
  exact vv_iret rfl dX4_mix_22
def J_mix_67 (T : tw_T) : Option (Int32 × tw_T) := (J_refuses (nI 1) T).bind fun r1 => some (r1.1, r1.2)
theorem v_mix_67 {l : Launch} {G : vv_G} {d : Nat} {o : Nat} {h0 : Nat → Option vv_E} {nz : Nat × Nat} (hG : vv_gok G) {T : tw_T} {r : Int32 × tw_T} (h : J_mix_67 T = some r) : vv_V l G MX4_mix (d + 2) 67 [(0, .ref o)] [] (tp o h0 T, nz) (.inl (some (.int r.1)), (tp o h0 r.2, nz)) := by
  unfold J_mix_67 at h
  refine vv_aload_n dX4_mix_67 rfl 0 rfl ?_
  refine vv_iconst (v := (nI 1)) dX4_mix_68 (by decide) ?_
  obtain ⟨r1, er1, h⟩ := bd_o h
  refine vv_callV ok_X4_refuses q1976 (m_refuses hG er1 (d + 1)) rfl (by omega) ⟨_, _, _, _, _, tp_o, by rw [hG.1]; rfl⟩ rfl rfl (Nat.le_of_ble_eq_true rfl) dX4_mix_69 ?_
  cases h
  exact vv_iret rfl dX4_mix_72
def J_mix_198 (s1 : Int32) (s2 : Int32) (x1 : Int32) (x2 : Int32) (T : tw_T) : Option (Int32 × tw_T) := (stA T 20 170 s1 s2).bind fun T1 => (stA T1 20 170 ((nI 25) + x2) (nI 0)).bind fun T2 => (stA T2 20 170 ((nI 55) + x2) (-1)).bind fun T3 => (rdI 170 (T3.2.2 20) ((nI 25) + x1)).bind fun v4 => some (v4, T3)
theorem v_mix_198 {l : Launch} {G : vv_G} {d : Nat} {o : Nat} {h0 : Nat → Option vv_E} {nz : Nat × Nat} (hG : vv_gok G) {s1 : Int32} {s2 : Int32} {x1 : Int32} {x2 : Int32} {T : tw_T} {r : Int32 × tw_T} (h : J_mix_198 s1 s2 x1 x2 T = some r) : vv_V l G MX4_mix (d + 2) 198 [(0, .ref o), (1, .int x1), (2, .int x2)] [.int s2, .int s1, .ref (o + 20)] (tp o h0 T, nz) (.inl (some (.int r.1)), (tp o h0 r.2, nz)) := by
  unfold J_mix_198 at h
  obtain ⟨T1, iT1, eT1, h⟩ := st_o h
  refine tw_ast 20 (by decide) rfl iT1 eT1 dX4_mix_198 ?_
  refine vv_aload_n dX4_mix_199 rfl 0 rfl ?_
  refine tw_get (fl_X4_75 hG) (k := 42) rfl dX4_mix_200 ?_
  refine vv_bipush (v := (nI 25)) dX4_mix_203 (by decide) ?_
  refine vv_iload_n dX4_mix_205 rfl 2 rfl ?_
  refine vv_iadd dX4_mix_206 ?_
  refine vv_iconst (v := (nI 0)) dX4_mix_207 (by decide) ?_
  obtain ⟨T2, iT2, eT2, h⟩ := st_o h
  refine tw_ast 20 (by decide) rfl iT2 eT2 dX4_mix_208 ?_
  refine vv_aload_n dX4_mix_209 rfl 0 rfl ?_
  refine tw_get (fl_X4_75 hG) (k := 42) rfl dX4_mix_210 ?_
  refine vv_bipush (v := (nI 55)) dX4_mix_213 (by decide) ?_
  refine vv_iload_n dX4_mix_215 rfl 2 rfl ?_
  refine vv_iadd dX4_mix_216 ?_
  refine vv_iconst (v := (-1)) dX4_mix_217 (by decide) ?_
  obtain ⟨T3, iT3, eT3, h⟩ := st_o h
  refine tw_ast 20 (by decide) rfl iT3 eT3 dX4_mix_218 ?_
  refine vv_aload_n dX4_mix_219 rfl 0 rfl ?_
  refine tw_get (fl_X4_75 hG) (k := 42) rfl dX4_mix_220 ?_
  refine vv_bipush (v := (nI 25)) dX4_mix_223 (by decide) ?_
  refine vv_iload_n dX4_mix_225 rfl 1 rfl ?_
  refine vv_iadd dX4_mix_226 ?_
  obtain ⟨v4, iv4, ev4, h⟩ := rd_o h
  refine tw_ald 20 (by decide) rfl iv4 ev4 dX4_mix_227 ?_
  cases h
  exact vv_iret rfl dX4_mix_228
def J_mix_155 (x1 : Int32) (x2 : Int32) (x3 : Int32) (x4 : Int32) (x5 : Int32) (T : tw_T) : Option (Int32 × tw_T) := if x5 = 0 then (if x3 ≤ x4 then (J_mix_198 ((nI 25) + x1) (x4 - x3) x1 x2 T) else (J_mix_198 ((nI 25) + x1) (x3 - x4) x1 x2 T)) else ((J_kept (x3 + x4) (nI 0) (nI 99)).bind fun r3 => J_mix_198 ((nI 25) + x1) r3 x1 x2 T)
theorem v_mix_155 {l : Launch} {G : vv_G} {d : Nat} {o : Nat} {h0 : Nat → Option vv_E} {nz : Nat × Nat} (hG : vv_gok G) {x1 : Int32} {x2 : Int32} {x3 : Int32} {x4 : Int32} {x5 : Int32} {T : tw_T} {r : Int32 × tw_T} (h : J_mix_155 x1 x2 x3 x4 x5 T = some r) : vv_V l G MX4_mix (d + 2) 155 [(0, .ref o), (1, .int x1), (2, .int x2), (3, .int x3), (4, .int x4), (5, .int x5)] [] (tp o h0 T, nz) (.inl (some (.int r.1)), (tp o h0 r.2, nz)) := by
  unfold J_mix_155 at h
  refine vv_aload_n dX4_mix_155 rfl 0 rfl ?_
  refine tw_get (fl_X4_75 hG) (k := 42) rfl dX4_mix_156 ?_
  refine vv_bipush (v := (nI 25)) dX4_mix_159 (by decide) ?_
  refine vv_iload_n dX4_mix_161 rfl 1 rfl ?_
  refine vv_iadd dX4_mix_162 ?_
  refine vv_iload dX4_mix_163 5 rfl ?_
  refine vv_if_eq (tgt := 181) dX4_mix_165 (by decide) (fun c1 => ?_) (fun c1 => ?_)
  · rw [if_pos c1] at h
    refine vv_iload_n dX4_mix_181 rfl 3 rfl ?_
    refine vv_iload dX4_mix_182 4 rfl ?_
    refine vv_icmp_le (tgt := 194) dX4_mix_184 (by decide) (fun c2 => ?_) (fun c2 => ?_)
    · rw [if_pos c2] at h
      refine vv_iload dX4_mix_194 4 rfl ?_
      refine vv_iload_n dX4_mix_196 rfl 3 rfl ?_
      refine vv_isub dX4_mix_197 ?_
      refine vv_sub (lv' := [(0, .ref o), (1, .int x1), (2, .int x2)]) [0, 1, 2] rfl ?_
      exact v_mix_198 hG h
    · rw [if_neg c2] at h
      refine vv_iload_n dX4_mix_187 rfl 3 rfl ?_
      refine vv_iload dX4_mix_188 4 rfl ?_
      refine vv_isub dX4_mix_190 ?_
      refine vv_goto (tgt := 198) dX4_mix_191 (by decide) ?_
      refine vv_sub (lv' := [(0, .ref o), (1, .int x1), (2, .int x2)]) [0, 1, 2] rfl ?_
      exact v_mix_198 hG h
  · rw [if_neg c1] at h
    refine vv_iload_n dX4_mix_168 rfl 3 rfl ?_
    refine vv_iload dX4_mix_169 4 rfl ?_
    refine vv_iadd dX4_mix_171 ?_
    refine vv_iconst (v := (nI 0)) dX4_mix_172 (by decide) ?_
    refine vv_bipush (v := (nI 99)) dX4_mix_173 (by decide) ?_
    obtain ⟨r3, er3, h⟩ := bd_o h
    refine vv_callS ok_X4_kept q1947 (m_kept hG er3 (d + 1)) rfl (by omega) rfl rfl (Nat.le_of_ble_eq_true rfl) dX4_mix_175 ?_
    refine vv_goto (tgt := 198) dX4_mix_178 (by decide) ?_
    refine vv_sub (lv' := [(0, .ref o), (1, .int x1), (2, .int x2)]) [0, 1, 2] rfl ?_
    exact v_mix_198 hG h
def J_mix_124 (s0 : Int32) (x1 : Int32) (x2 : Int32) (x3 : Int32) (x4 : Int32) (T : tw_T) : Option (Int32 × tw_T) := if s0 = 0 then (if x4 ≤ x3 then (J_mix_155 x1 x2 x3 x4 s0 T) else ((rdI 170 (T.2.2 20) ((nI 35) + x2)).bind fun v3 => (stA T 20 170 ((nI 35) + x1) v3).bind fun T4 => J_mix_155 x1 x2 x3 x4 s0 T4)) else (J_mix_155 x1 x2 x3 x4 s0 T)
theorem v_mix_124 {l : Launch} {G : vv_G} {d : Nat} {o : Nat} {h0 : Nat → Option vv_E} {nz : Nat × Nat} (hG : vv_gok G) {s0 : Int32} {x1 : Int32} {x2 : Int32} {x3 : Int32} {x4 : Int32} {T : tw_T} {r : Int32 × tw_T} (h : J_mix_124 s0 x1 x2 x3 x4 T = some r) : vv_V l G MX4_mix (d + 2) 124 [(0, .ref o), (1, .int x1), (2, .int x2), (3, .int x3), (4, .int x4)] [.int s0] (tp o h0 T, nz) (.inl (some (.int r.1)), (tp o h0 r.2, nz)) := by
  unfold J_mix_124 at h
  refine vv_istore (lv' := [(0, .ref o), (1, .int x1), (2, .int x2), (3, .int x3), (4, .int x4), (5, .int s0)]) dX4_mix_124 (by decide) [1, 2, 3, 4, 5, 0] rfl ?_
  refine vv_iload dX4_mix_126 5 rfl ?_
  refine vv_if_ne (tgt := 155) dX4_mix_128 (by decide) (fun c1 => ?_) (fun c1 => ?_)
  · rw [if_neg c1] at h
    exact v_mix_155 hG h
  · rw [if_pos c1] at h
    refine vv_iload dX4_mix_131 4 rfl ?_
    refine vv_iload_n dX4_mix_133 rfl 3 rfl ?_
    refine vv_icmp_le (tgt := 155) dX4_mix_134 (by decide) (fun c2 => ?_) (fun c2 => ?_)
    · rw [if_pos c2] at h
      exact v_mix_155 hG h
    · rw [if_neg c2] at h
      refine vv_aload_n dX4_mix_137 rfl 0 rfl ?_
      refine tw_get (fl_X4_75 hG) (k := 42) rfl dX4_mix_138 ?_
      refine vv_bipush (v := (nI 35)) dX4_mix_141 (by decide) ?_
      refine vv_iload_n dX4_mix_143 rfl 1 rfl ?_
      refine vv_iadd dX4_mix_144 ?_
      refine vv_aload_n dX4_mix_145 rfl 0 rfl ?_
      refine tw_get (fl_X4_75 hG) (k := 42) rfl dX4_mix_146 ?_
      refine vv_bipush (v := (nI 35)) dX4_mix_149 (by decide) ?_
      refine vv_iload_n dX4_mix_151 rfl 2 rfl ?_
      refine vv_iadd dX4_mix_152 ?_
      obtain ⟨v3, iv3, ev3, h⟩ := rd_o h
      refine tw_ald 20 (by decide) rfl iv3 ev3 dX4_mix_153 ?_
      obtain ⟨T4, iT4, eT4, h⟩ := st_o h
      refine tw_ast 20 (by decide) rfl iT4 eT4 dX4_mix_154 ?_
      exact v_mix_155 hG h
def J_mix (x1 : Int32) (x2 : Int32) (T : tw_T) : Option (Int32 × tw_T) := (some (tw_F T 0 (nI 0))).bind fun T1 => (J_isCrate x1 T1).bind fun r2 => if r2.1 = 0 then (J_mix_21 r2.2) else ((J_isCrate x2 r2.2).bind fun r4 => if r4.1 = 0 then (J_mix_21 r4.2) else (if x1 = x2 then (J_mix_67 r4.2) else ((J_lies (nI 0) x1 r4.2).bind fun r7 => if r7.1 = 0 then (J_mix_67 r7.2) else ((J_lies (nI 0) x2 r7.2).bind fun r9 => if r9.1 = 0 then (J_mix_67 r9.2) else ((rdI 170 (r9.2.2.2 20) ((nI 55) + x1)).bind fun v11 => (rdI 170 (r9.2.2.2 20) ((nI 55) + x2)).bind fun v12 => if v11 = v12 then ((J_keeps r9.2).bind fun r14 => (rdI 170 (r14.2.2 20) ((nI 25) + x1)).bind fun v15 => (rdI 170 (r14.2.2 20) ((nI 25) + x2)).bind fun v16 => (rdI 170 (r14.2.2 20) ((nI 35) + x1)).bind fun v17 => (rdI 170 (r14.2.2 20) ((nI 35) + x2)).bind fun v18 => if v17 = v18 then (J_mix_124 (nI 1) x1 x2 v15 v16 r14) else (J_mix_124 (nI 0) x1 x2 v15 v16 r14)) else (J_mix_67 r9.2))))))
theorem v_mix_0 {l : Launch} {G : vv_G} {d : Nat} {o : Nat} {h0 : Nat → Option vv_E} {nz : Nat × Nat} (hG : vv_gok G) {x1 : Int32} {x2 : Int32} {T : tw_T} {r : Int32 × tw_T} (h : J_mix x1 x2 T = some r) : vv_V l G MX4_mix (d + 2) 0 [(0, .ref o), (1, .int x1), (2, .int x2)] [] (tp o h0 T, nz) (.inl (some (.int r.1)), (tp o h0 r.2, nz)) := by
  unfold J_mix at h
  refine vv_aload_n dX4_mix_0 rfl 0 rfl ?_
  refine vv_iconst (v := (nI 0)) dX4_mix_1 (by decide) ?_
  obtain ⟨T1, eT1, h⟩ := bd_s h
  refine tw_put (T1 := T1) (pt_X4_117 hG) hG rfl rfl rfl (by decide) (by rw [eT1]; exact tw_set0 _ _ _) (by rw [eT1]; rfl) dX4_mix_2 ?_
  refine vv_aload_n dX4_mix_5 rfl 0 rfl ?_
  refine vv_iload_n dX4_mix_6 rfl 1 rfl ?_
  obtain ⟨r2, er2, h⟩ := bd_o h
  refine vv_callV ok_X4_isCrate q1968 (m_isCrate hG er2 (d + 0)) rfl (by omega) ⟨_, _, _, _, _, tp_o, by rw [hG.1]; rfl⟩ rfl rfl (Nat.le_of_ble_eq_true rfl) dX4_mix_7 ?_
  refine vv_if_eq (tgt := 21) dX4_mix_10 (by decide) (fun c3 => ?_) (fun c3 => ?_)
  · rw [if_pos c3] at h
    refine vv_sub (lv' := [(0, .ref o)]) [0] rfl ?_
    exact v_mix_21 hG h
  · rw [if_neg c3] at h
    refine vv_aload_n dX4_mix_13 rfl 0 rfl ?_
    refine vv_iload_n dX4_mix_14 rfl 2 rfl ?_
    obtain ⟨r4, er4, h⟩ := bd_o h
    refine vv_callV ok_X4_isCrate q1968 (m_isCrate hG er4 (d + 0)) rfl (by omega) ⟨_, _, _, _, _, tp_o, by rw [hG.1]; rfl⟩ rfl rfl (Nat.le_of_ble_eq_true rfl) dX4_mix_15 ?_
    refine vv_if_ne (tgt := 23) dX4_mix_18 (by decide) (fun c5 => ?_) (fun c5 => ?_)
    · rw [if_neg c5] at h
      refine vv_iload_n dX4_mix_23 rfl 1 rfl ?_
      refine vv_iload_n dX4_mix_24 rfl 2 rfl ?_
      refine vv_icmp_eq (tgt := 67) dX4_mix_25 (by decide) (fun c6 => ?_) (fun c6 => ?_)
      · rw [if_pos c6] at h
        refine vv_sub (lv' := [(0, .ref o)]) [0] rfl ?_
        exact v_mix_67 hG h
      · rw [if_neg c6] at h
        refine vv_aload_n dX4_mix_28 rfl 0 rfl ?_
        refine vv_iconst (v := (nI 0)) dX4_mix_29 (by decide) ?_
        refine vv_iload_n dX4_mix_30 rfl 1 rfl ?_
        obtain ⟨r7, er7, h⟩ := bd_o h
        refine vv_callV ok_X4_lies q1919 (m_lies hG er7 (d + 1)) rfl (by omega) ⟨_, _, _, _, _, tp_o, by rw [hG.1]; rfl⟩ rfl rfl (Nat.le_of_ble_eq_true rfl) dX4_mix_31 ?_
        refine vv_if_eq (tgt := 67) dX4_mix_34 (by decide) (fun c8 => ?_) (fun c8 => ?_)
        · rw [if_pos c8] at h
          refine vv_sub (lv' := [(0, .ref o)]) [0] rfl ?_
          exact v_mix_67 hG h
        · rw [if_neg c8] at h
          refine vv_aload_n dX4_mix_37 rfl 0 rfl ?_
          refine vv_iconst (v := (nI 0)) dX4_mix_38 (by decide) ?_
          refine vv_iload_n dX4_mix_39 rfl 2 rfl ?_
          obtain ⟨r9, er9, h⟩ := bd_o h
          refine vv_callV ok_X4_lies q1919 (m_lies hG er9 (d + 1)) rfl (by omega) ⟨_, _, _, _, _, tp_o, by rw [hG.1]; rfl⟩ rfl rfl (Nat.le_of_ble_eq_true rfl) dX4_mix_40 ?_
          refine vv_if_eq (tgt := 67) dX4_mix_43 (by decide) (fun c10 => ?_) (fun c10 => ?_)
          · rw [if_pos c10] at h
            refine vv_sub (lv' := [(0, .ref o)]) [0] rfl ?_
            exact v_mix_67 hG h
          · rw [if_neg c10] at h
            refine vv_aload_n dX4_mix_46 rfl 0 rfl ?_
            refine tw_get (fl_X4_75 hG) (k := 42) rfl dX4_mix_47 ?_
            refine vv_bipush (v := (nI 55)) dX4_mix_50 (by decide) ?_
            refine vv_iload_n dX4_mix_52 rfl 1 rfl ?_
            refine vv_iadd dX4_mix_53 ?_
            obtain ⟨v11, iv11, ev11, h⟩ := rd_o h
            refine tw_ald 20 (by decide) rfl iv11 ev11 dX4_mix_54 ?_
            refine vv_aload_n dX4_mix_55 rfl 0 rfl ?_
            refine tw_get (fl_X4_75 hG) (k := 42) rfl dX4_mix_56 ?_
            refine vv_bipush (v := (nI 55)) dX4_mix_59 (by decide) ?_
            refine vv_iload_n dX4_mix_61 rfl 2 rfl ?_
            refine vv_iadd dX4_mix_62 ?_
            obtain ⟨v12, iv12, ev12, h⟩ := rd_o h
            refine tw_ald 20 (by decide) rfl iv12 ev12 dX4_mix_63 ?_
            refine vv_icmp_eq (tgt := 73) dX4_mix_64 (by decide) (fun c13 => ?_) (fun c13 => ?_)
            · rw [if_pos c13] at h
              refine vv_aload_n dX4_mix_73 rfl 0 rfl ?_
              obtain ⟨r14, er14, h⟩ := bd_o h
              refine vv_callV ok_X4_keeps q1980 (m_keeps hG er14 (d + 1)) rfl (by omega) ⟨_, _, _, _, _, tp_o, by rw [hG.1]; rfl⟩ rfl rfl (Nat.le_of_ble_eq_true rfl) dX4_mix_74 ?_
              refine vv_aload_n dX4_mix_77 rfl 0 rfl ?_
              refine tw_get (fl_X4_75 hG) (k := 42) rfl dX4_mix_78 ?_
              refine vv_bipush (v := (nI 25)) dX4_mix_81 (by decide) ?_
              refine vv_iload_n dX4_mix_83 rfl 1 rfl ?_
              refine vv_iadd dX4_mix_84 ?_
              obtain ⟨v15, iv15, ev15, h⟩ := rd_o h
              refine tw_ald 20 (by decide) rfl iv15 ev15 dX4_mix_85 ?_
              refine vv_istore_n (lv' := [(0, .ref o), (1, .int x1), (2, .int x2), (3, .int v15)]) dX4_mix_86 rfl (by decide) [1, 2, 3, 0] rfl ?_
              refine vv_aload_n dX4_mix_87 rfl 0 rfl ?_
              refine tw_get (fl_X4_75 hG) (k := 42) rfl dX4_mix_88 ?_
              refine vv_bipush (v := (nI 25)) dX4_mix_91 (by decide) ?_
              refine vv_iload_n dX4_mix_93 rfl 2 rfl ?_
              refine vv_iadd dX4_mix_94 ?_
              obtain ⟨v16, iv16, ev16, h⟩ := rd_o h
              refine tw_ald 20 (by decide) rfl iv16 ev16 dX4_mix_95 ?_
              refine vv_istore (lv' := [(0, .ref o), (1, .int x1), (2, .int x2), (3, .int v15), (4, .int v16)]) dX4_mix_96 (by decide) [1, 2, 3, 4, 0] rfl ?_
              refine vv_aload_n dX4_mix_98 rfl 0 rfl ?_
              refine tw_get (fl_X4_75 hG) (k := 42) rfl dX4_mix_99 ?_
              refine vv_bipush (v := (nI 35)) dX4_mix_102 (by decide) ?_
              refine vv_iload_n dX4_mix_104 rfl 1 rfl ?_
              refine vv_iadd dX4_mix_105 ?_
              obtain ⟨v17, iv17, ev17, h⟩ := rd_o h
              refine tw_ald 20 (by decide) rfl iv17 ev17 dX4_mix_106 ?_
              refine vv_aload_n dX4_mix_107 rfl 0 rfl ?_
              refine tw_get (fl_X4_75 hG) (k := 42) rfl dX4_mix_108 ?_
              refine vv_bipush (v := (nI 35)) dX4_mix_111 (by decide) ?_
              refine vv_iload_n dX4_mix_113 rfl 2 rfl ?_
              refine vv_iadd dX4_mix_114 ?_
              obtain ⟨v18, iv18, ev18, h⟩ := rd_o h
              refine tw_ald 20 (by decide) rfl iv18 ev18 dX4_mix_115 ?_
              refine vv_icmp_ne (tgt := 123) dX4_mix_116 (by decide) (fun c19 => ?_) (fun c19 => ?_)
              · rw [if_neg c19] at h
                refine vv_iconst (v := (nI 0)) dX4_mix_123 (by decide) ?_
                exact v_mix_124 hG h
              · rw [if_pos c19] at h
                refine vv_iconst (v := (nI 1)) dX4_mix_119 (by decide) ?_
                refine vv_goto (tgt := 124) dX4_mix_120 (by decide) ?_
                exact v_mix_124 hG h
            · rw [if_neg c13] at h
              refine vv_sub (lv' := [(0, .ref o)]) [0] rfl ?_
              exact v_mix_67 hG h
    · rw [if_pos c5] at h
      refine vv_sub (lv' := [(0, .ref o)]) [0] rfl ?_
      exact v_mix_21 hG h
theorem m_mix {l : Launch} {G : vv_G} {o : Nat} {h0 : Nat → Option vv_E} {nz : Nat × Nat} (hG : vv_gok G) {x1 : Int32} {x2 : Int32} {T : tw_T} {r : Int32 × tw_T} (h : J_mix x1 x2 T = some r) (d : Nat) : vv_Met l G MX4_mix (d + 2) [.ref o, .int x1, .int x2] (tp o h0 T, nz) (.inl (some (.int r.1)), (tp o h0 r.2, nz)) := vv_head (by decide +kernel) rfl (Nat.le_of_ble_eq_true rfl) rfl (v_mix_0 hG h)
/-! daysGo -/
def B_daysGo_2 (k2 : Int32 → Int32 → tw_T → Option tw_T) (x1 : Int32) (x2 : Int32) (T : tw_T) : Option tw_T := if x1 ≤ x2 then (some T) else ((J_dayGoes (nI 85) T).bind fun r2 => k2 x1 (x2 + (nI 1)) r2)
def J_daysGo_2 : Nat → Int32 → Int32 → tw_T → Option tw_T
  | 0, _, _, _ => none
  | n + 1, x1, x2, T => B_daysGo_2 (J_daysGo_2 n) x1 x2 T
theorem vb_daysGo_2 {l : Launch} {G : vv_G} {d : Nat} {o : Nat} {h0 : Nat → Option vv_E} {nz : Nat × Nat} (hG : vv_gok G) {k2 : Int32 → Int32 → tw_T → Option tw_T} (hk2 : ∀ {x1 : Int32} {x2 : Int32} {T : tw_T} {r : tw_T}, k2 x1 x2 T = some r → vv_V l G MX4_daysGo (d + 4) 2 [(0, .ref o), (1, .int x1), (2, .int x2)] [] (tp o h0 T, nz) (.inl none, (tp o h0 r, nz))) {x1 : Int32} {x2 : Int32} {T : tw_T} {r : tw_T} (h : B_daysGo_2 k2 x1 x2 T = some r) : vv_V l G MX4_daysGo (d + 4) 2 [(0, .ref o), (1, .int x1), (2, .int x2)] [] (tp o h0 T, nz) (.inl none, (tp o h0 r, nz)) := by
  unfold B_daysGo_2 at h
  refine vv_iload_n dX4_daysGo_2 rfl 2 rfl ?_
  refine vv_iload_n dX4_daysGo_3 rfl 1 rfl ?_
  refine vv_icmp_ge (tgt := 19) dX4_daysGo_4 (by decide) (fun c1 => ?_) (fun c1 => ?_)
  · rw [if_pos c1] at h
    cases h
    exact vv_vret rfl dX4_daysGo_19
  · rw [if_neg c1] at h
    refine vv_aload_n dX4_daysGo_7 rfl 0 rfl ?_
    refine vv_bipush (v := (nI 85)) dX4_daysGo_8 (by decide) ?_
    obtain ⟨r2, er2, h⟩ := bd_o h
    refine vv_callV ok_X4_dayGoes q1984 (m_dayGoes hG er2 (d + 0)) rfl (by omega) ⟨_, _, _, _, _, tp_o, by rw [hG.1]; rfl⟩ rfl rfl (Nat.le_of_ble_eq_true rfl) dX4_daysGo_10 ?_
    refine vv_iinc (v := (x2 + (nI 1))) (lv' := [(0, .ref o), (1, .int x1), (2, .int (x2 + (nI 1)))]) dX4_daysGo_13 2 rfl rfl (by decide) [1, 2, 0] rfl ?_
    refine vv_goto (tgt := 2) dX4_daysGo_16 (by decide) ?_
    exact hk2 h
theorem v_daysGo_2 {l : Launch} {G : vv_G} {d : Nat} {o : Nat} {h0 : Nat → Option vv_E} {nz : Nat × Nat} (hG : vv_gok G) : ∀ (n : Nat) {x1 : Int32} {x2 : Int32} {T : tw_T} {r : tw_T}, J_daysGo_2 n x1 x2 T = some r → vv_V l G MX4_daysGo (d + 4) 2 [(0, .ref o), (1, .int x1), (2, .int x2)] [] (tp o h0 T, nz) (.inl none, (tp o h0 r, nz)) := by
  intro n
  induction n with
  | zero => intro _ _ _ _ h; cases h
  | succ n ih => intro _ _ _ _ h; exact vb_daysGo_2 hG ih h
def J_daysGo (x1 : Int32) (T : tw_T) : Option tw_T := J_daysGo_2 NN x1 (nI 0) T
theorem v_daysGo_0 {l : Launch} {G : vv_G} {d : Nat} {o : Nat} {h0 : Nat → Option vv_E} {nz : Nat × Nat} (hG : vv_gok G) {x1 : Int32} {T : tw_T} {r : tw_T} (h : J_daysGo x1 T = some r) : vv_V l G MX4_daysGo (d + 4) 0 [(0, .ref o), (1, .int x1)] [] (tp o h0 T, nz) (.inl none, (tp o h0 r, nz)) := by
  unfold J_daysGo at h
  refine vv_iconst (v := (nI 0)) dX4_daysGo_0 (by decide) ?_
  refine vv_istore_n (lv' := [(0, .ref o), (1, .int x1), (2, .int (nI 0))]) dX4_daysGo_1 rfl (by decide) [1, 2, 0] rfl ?_
  exact v_daysGo_2 hG NN h
theorem m_daysGo {l : Launch} {G : vv_G} {o : Nat} {h0 : Nat → Option vv_E} {nz : Nat × Nat} (hG : vv_gok G) {x1 : Int32} {T : tw_T} {r : tw_T} (h : J_daysGo x1 T = some r) (d : Nat) : vv_Met l G MX4_daysGo (d + 4) [.ref o, .int x1] (tp o h0 T, nz) (.inl none, (tp o h0 r, nz)) := vv_head (by decide +kernel) rfl (Nat.le_of_ble_eq_true rfl) rfl (v_daysGo_0 hG h)
/-! isDays -/
def J_isDays (x1 : Int32) (x2 : Int32) (x3 : Int32) (T : tw_T) : Option (Int32 × tw_T) := (J_within x1 x2 (nI 60)).bind fun r1 => (J_right r1 x3 T).bind fun r2 => (zrI r2.1).bind fun v3 => some (v3, r2.2)
theorem v_isDays_0 {l : Launch} {G : vv_G} {d : Nat} {o : Nat} {h0 : Nat → Option vv_E} {nz : Nat × Nat} (hG : vv_gok G) {x1 : Int32} {x2 : Int32} {x3 : Int32} {T : tw_T} {r : Int32 × tw_T} (h : J_isDays x1 x2 x3 T = some r) : vv_V l G MX4_isDays (d + 1) 0 [(0, .ref o), (1, .int x1), (2, .int x2), (3, .int x3)] [] (tp o h0 T, nz) (.inl (some (.int r.1)), (tp o h0 r.2, nz)) := by
  unfold J_isDays at h
  refine vv_aload_n dX4_isDays_0 rfl 0 rfl ?_
  refine vv_iload_n dX4_isDays_1 rfl 1 rfl ?_
  refine vv_iload_n dX4_isDays_2 rfl 2 rfl ?_
  refine vv_bipush (v := (nI 60)) dX4_isDays_3 (by decide) ?_
  obtain ⟨r1, er1, h⟩ := bd_o h
  refine vv_callS ok_X4_within q1908 (m_within hG er1 (d + 0)) rfl (by omega) rfl rfl (Nat.le_of_ble_eq_true rfl) dX4_isDays_5 ?_
  refine vv_iload_n dX4_isDays_8 rfl 3 rfl ?_
  obtain ⟨r2, er2, h⟩ := bd_o h
  refine vv_callV ok_X4_right q1773 (m_right hG er2 (d + 0)) rfl (by omega) ⟨_, _, _, _, _, tp_o, by rw [hG.1]; rfl⟩ rfl rfl (Nat.le_of_ble_eq_true rfl) dX4_isDays_9 ?_
  obtain ⟨zv3, h⟩ := zr_o h
  cases h
  exact vv_zret rfl zv3 dX4_isDays_12
theorem m_isDays {l : Launch} {G : vv_G} {o : Nat} {h0 : Nat → Option vv_E} {nz : Nat × Nat} (hG : vv_gok G) {x1 : Int32} {x2 : Int32} {x3 : Int32} {T : tw_T} {r : Int32 × tw_T} (h : J_isDays x1 x2 x3 T = some r) (d : Nat) : vv_Met l G MX4_isDays (d + 1) [.ref o, .int x1, .int x2, .int x3] (tp o h0 T, nz) (.inl (some (.int r.1)), (tp o h0 r.2, nz)) := vv_head (by decide +kernel) rfl (Nat.le_of_ble_eq_true rfl) rfl (v_isDays_0 hG h)
/-! tries -/
def B_tries_2 (k2 : Int32 → tw_T → Option tw_T) (x1 : Int32) (T : tw_T) : Option tw_T := if (nI 85) ≤ x1 then (some T) else ((rdI 170 (T.2.2 20) x1).bind fun v2 => (stA T 20 170 ((nI 85) + x1) v2).bind fun T3 => k2 (x1 + (nI 1)) T3)
def J_tries_2 : Nat → Int32 → tw_T → Option tw_T
  | 0, _, _ => none
  | n + 1, x1, T => B_tries_2 (J_tries_2 n) x1 T
theorem vb_tries_2 {l : Launch} {G : vv_G} {d : Nat} {o : Nat} {h0 : Nat → Option vv_E} {nz : Nat × Nat} (hG : vv_gok G) {k2 : Int32 → tw_T → Option tw_T} (hk2 : ∀ {x1 : Int32} {T : tw_T} {r : tw_T}, k2 x1 T = some r → vv_V l G MX4_tries (d + 0) 2 [(0, .ref o), (1, .int x1)] [] (tp o h0 T, nz) (.inl none, (tp o h0 r, nz))) {x1 : Int32} {T : tw_T} {r : tw_T} (h : B_tries_2 k2 x1 T = some r) : vv_V l G MX4_tries (d + 0) 2 [(0, .ref o), (1, .int x1)] [] (tp o h0 T, nz) (.inl none, (tp o h0 r, nz)) := by
  unfold B_tries_2 at h
  refine vv_iload_n dX4_tries_2 rfl 1 rfl ?_
  refine vv_bipush (v := (nI 85)) dX4_tries_3 (by decide) ?_
  refine vv_icmp_ge (tgt := 29) dX4_tries_5 (by decide) (fun c1 => ?_) (fun c1 => ?_)
  · rw [if_pos c1] at h
    cases h
    exact vv_vret rfl dX4_tries_29
  · rw [if_neg c1] at h
    refine vv_aload_n dX4_tries_8 rfl 0 rfl ?_
    refine tw_get (fl_X4_75 hG) (k := 42) rfl dX4_tries_9 ?_
    refine vv_bipush (v := (nI 85)) dX4_tries_12 (by decide) ?_
    refine vv_iload_n dX4_tries_14 rfl 1 rfl ?_
    refine vv_iadd dX4_tries_15 ?_
    refine vv_aload_n dX4_tries_16 rfl 0 rfl ?_
    refine tw_get (fl_X4_75 hG) (k := 42) rfl dX4_tries_17 ?_
    refine vv_iload_n dX4_tries_20 rfl 1 rfl ?_
    obtain ⟨v2, iv2, ev2, h⟩ := rd_o h
    refine tw_ald 20 (by decide) rfl iv2 ev2 dX4_tries_21 ?_
    obtain ⟨T3, iT3, eT3, h⟩ := st_o h
    refine tw_ast 20 (by decide) rfl iT3 eT3 dX4_tries_22 ?_
    refine vv_iinc (v := (x1 + (nI 1))) (lv' := [(0, .ref o), (1, .int (x1 + (nI 1)))]) dX4_tries_23 1 rfl rfl (by decide) [1, 0] rfl ?_
    refine vv_goto (tgt := 2) dX4_tries_26 (by decide) ?_
    exact hk2 h
theorem v_tries_2 {l : Launch} {G : vv_G} {d : Nat} {o : Nat} {h0 : Nat → Option vv_E} {nz : Nat × Nat} (hG : vv_gok G) : ∀ (n : Nat) {x1 : Int32} {T : tw_T} {r : tw_T}, J_tries_2 n x1 T = some r → vv_V l G MX4_tries (d + 0) 2 [(0, .ref o), (1, .int x1)] [] (tp o h0 T, nz) (.inl none, (tp o h0 r, nz)) := by
  intro n
  induction n with
  | zero => intro _ _ _ h; cases h
  | succ n ih => intro _ _ _ h; exact vb_tries_2 hG ih h
def J_tries (T : tw_T) : Option tw_T := J_tries_2 NN (nI 0) T
theorem v_tries_0 {l : Launch} {G : vv_G} {d : Nat} {o : Nat} {h0 : Nat → Option vv_E} {nz : Nat × Nat} (hG : vv_gok G) {T : tw_T} {r : tw_T} (h : J_tries T = some r) : vv_V l G MX4_tries (d + 0) 0 [(0, .ref o)] [] (tp o h0 T, nz) (.inl none, (tp o h0 r, nz)) := by
  unfold J_tries at h
  refine vv_iconst (v := (nI 0)) dX4_tries_0 (by decide) ?_
  refine vv_istore_n (lv' := [(0, .ref o), (1, .int (nI 0))]) dX4_tries_1 rfl (by decide) [1, 0] rfl ?_
  exact v_tries_2 hG NN h
theorem m_tries {l : Launch} {G : vv_G} {o : Nat} {h0 : Nat → Option vv_E} {nz : Nat × Nat} (hG : vv_gok G) {T : tw_T} {r : tw_T} (h : J_tries T = some r) (d : Nat) : vv_Met l G MX4_tries (d + 0) [.ref o] (tp o h0 T, nz) (.inl none, (tp o h0 r, nz)) := vv_head (by decide +kernel) rfl (Nat.le_of_ble_eq_true rfl) rfl (v_tries_0 hG h)
/-! then -/
def J_then_32 (T : tw_T) : Option (Int32 × tw_T) := some ((nI 0), T)
theorem v_then_32 {l : Launch} {G : vv_G} {d : Nat} {o : Nat} {h0 : Nat → Option vv_E} {nz : Nat × Nat} (hG : vv_gok G) {T : tw_T} {r : Int32 × tw_T} (h : J_then_32 T = some r) : vv_V l G MX4_then (d + 5) 32 [(0, .ref o)] [] (tp o h0 T, nz) (.inl (some (.int r.1)), (tp o h0 r.2, nz)) := by
  unfold J_then_32 at h
  refine vv_iconst (v := (nI 0)) dX4_then_32 (by decide) ?_
  cases h
  exact vv_iret rfl dX4_then_33
def J_then_100 (s0 : Int32) (T : tw_T) : Option (Int32 × tw_T) := some (s0, T)
theorem v_then_100 {l : Launch} {G : vv_G} {d : Nat} {o : Nat} {h0 : Nat → Option vv_E} {nz : Nat × Nat} (hG : vv_gok G) {s0 : Int32} {T : tw_T} {r : Int32 × tw_T} (h : J_then_100 s0 T = some r) : vv_V l G MX4_then (d + 5) 100 [(0, .ref o)] [.int s0] (tp o h0 T, nz) (.inl (some (.int r.1)), (tp o h0 r.2, nz)) := by
  unfold J_then_100 at h
  cases h
  exact vv_iret rfl dX4_then_100
def J_then (x1 : Int32) (x2 : Int32) (x3 : Int32) (T : tw_T) : Option (Int32 × tw_T) := (some (tw_F T 0 (nI 0))).bind fun T1 => (J_isTown x1 T1).bind fun r2 => if r2.1 = 0 then (J_then_32 r2.2) else ((J_isWhat x3 (nI 3) r2.2).bind fun r4 => if r4.1 = 0 then (J_then_32 r4.2) else ((J_isDays x2 (nI 0) (nI 2) r4.2).bind fun r6 => if r6.1 = 0 then (J_then_32 r6.2) else ((J_tries r6.2).bind fun r8 => (J_daysGo x2 r8).bind fun r9 => if x3 = 0 then ((rdI 170 (r9.2.2 20) ((nI 86) + x1)).bind fun v16 => J_then_100 v16 r9) else (if x3 = (nI 1) then ((rdI 170 (r9.2.2 20) ((nI 94) + x1)).bind fun v15 => J_then_100 v15 r9) else (if x3 = (nI 2) then ((rdI 170 (r9.2.2 20) ((nI 102) + x1)).bind fun v14 => J_then_100 v14 r9) else ((J_oddsOf (nI 85) x1 r9).bind fun r13 => J_then_100 r13.1 r13.2))))))
theorem v_then_0 {l : Launch} {G : vv_G} {d : Nat} {o : Nat} {h0 : Nat → Option vv_E} {nz : Nat × Nat} (hG : vv_gok G) {x1 : Int32} {x2 : Int32} {x3 : Int32} {T : tw_T} {r : Int32 × tw_T} (h : J_then x1 x2 x3 T = some r) : vv_V l G MX4_then (d + 5) 0 [(0, .ref o), (1, .int x1), (2, .int x2), (3, .int x3)] [] (tp o h0 T, nz) (.inl (some (.int r.1)), (tp o h0 r.2, nz)) := by
  unfold J_then at h
  refine vv_aload_n dX4_then_0 rfl 0 rfl ?_
  refine vv_iconst (v := (nI 0)) dX4_then_1 (by decide) ?_
  obtain ⟨T1, eT1, h⟩ := bd_s h
  refine tw_put (T1 := T1) (pt_X4_117 hG) hG rfl rfl rfl (by decide) (by rw [eT1]; exact tw_set0 _ _ _) (by rw [eT1]; rfl) dX4_then_2 ?_
  refine vv_aload_n dX4_then_5 rfl 0 rfl ?_
  refine vv_iload_n dX4_then_6 rfl 1 rfl ?_
  obtain ⟨r2, er2, h⟩ := bd_o h
  refine vv_callV ok_X4_isTown q1935 (m_isTown hG er2 (d + 3)) rfl (by omega) ⟨_, _, _, _, _, tp_o, by rw [hG.1]; rfl⟩ rfl rfl (Nat.le_of_ble_eq_true rfl) dX4_then_7 ?_
  refine vv_if_eq (tgt := 32) dX4_then_10 (by decide) (fun c3 => ?_) (fun c3 => ?_)
  · rw [if_pos c3] at h
    refine vv_sub (lv' := [(0, .ref o)]) [0] rfl ?_
    exact v_then_32 hG h
  · rw [if_neg c3] at h
    refine vv_aload_n dX4_then_13 rfl 0 rfl ?_
    refine vv_iload_n dX4_then_14 rfl 3 rfl ?_
    refine vv_iconst (v := (nI 3)) dX4_then_15 (by decide) ?_
    obtain ⟨r4, er4, h⟩ := bd_o h
    refine vv_callV ok_X4_isWhat q1939 (m_isWhat hG er4 (d + 3)) rfl (by omega) ⟨_, _, _, _, _, tp_o, by rw [hG.1]; rfl⟩ rfl rfl (Nat.le_of_ble_eq_true rfl) dX4_then_16 ?_
    refine vv_if_eq (tgt := 32) dX4_then_19 (by decide) (fun c5 => ?_) (fun c5 => ?_)
    · rw [if_pos c5] at h
      refine vv_sub (lv' := [(0, .ref o)]) [0] rfl ?_
      exact v_then_32 hG h
    · rw [if_neg c5] at h
      refine vv_aload_n dX4_then_22 rfl 0 rfl ?_
      refine vv_iload_n dX4_then_23 rfl 2 rfl ?_
      refine vv_iconst (v := (nI 0)) dX4_then_24 (by decide) ?_
      refine vv_iconst (v := (nI 2)) dX4_then_25 (by decide) ?_
      obtain ⟨r6, er6, h⟩ := bd_o h
      refine vv_callV ok_X4_isDays q2035 (m_isDays hG er6 (d + 3)) rfl (by omega) ⟨_, _, _, _, _, tp_o, by rw [hG.1]; rfl⟩ rfl rfl (Nat.le_of_ble_eq_true rfl) dX4_then_26 ?_
      refine vv_if_ne (tgt := 34) dX4_then_29 (by decide) (fun c7 => ?_) (fun c7 => ?_)
      · rw [if_neg c7] at h
        refine vv_aload_n dX4_then_34 rfl 0 rfl ?_
        obtain ⟨r8, er8, h⟩ := bd_o h
        refine vv_callV ok_X4_tries q2039 (m_tries hG er8 (d + 4)) rfl (by omega) ⟨_, _, _, _, _, tp_o, by rw [hG.1]; rfl⟩ rfl rfl (Nat.le_of_ble_eq_true rfl) dX4_then_35 ?_
        refine vv_aload_n dX4_then_38 rfl 0 rfl ?_
        refine vv_iload_n dX4_then_39 rfl 2 rfl ?_
        obtain ⟨r9, er9, h⟩ := bd_o h
        refine vv_callV ok_X4_daysGo q2043 (m_daysGo hG er9 (d + 0)) rfl (by omega) ⟨_, _, _, _, _, tp_o, by rw [hG.1]; rfl⟩ rfl rfl (Nat.le_of_ble_eq_true rfl) dX4_then_40 ?_
        refine vv_iload_n dX4_then_43 rfl 3 rfl ?_
        refine vv_if_ne (tgt := 59) dX4_then_44 (by decide) (fun c10 => ?_) (fun c10 => ?_)
        · rw [if_neg c10] at h
          refine vv_iload_n dX4_then_59 rfl 3 rfl ?_
          refine vv_iconst (v := (nI 1)) dX4_then_60 (by decide) ?_
          refine vv_icmp_ne (tgt := 76) dX4_then_61 (by decide) (fun c11 => ?_) (fun c11 => ?_)
          · rw [if_neg c11] at h
            refine vv_iload_n dX4_then_76 rfl 3 rfl ?_
            refine vv_iconst (v := (nI 2)) dX4_then_77 (by decide) ?_
            refine vv_icmp_ne (tgt := 93) dX4_then_78 (by decide) (fun c12 => ?_) (fun c12 => ?_)
            · rw [if_neg c12] at h
              refine vv_aload_n dX4_then_93 rfl 0 rfl ?_
              refine vv_bipush (v := (nI 85)) dX4_then_94 (by decide) ?_
              refine vv_iload_n dX4_then_96 rfl 1 rfl ?_
              obtain ⟨r13, er13, h⟩ := bd_o h
              refine vv_callV ok_X4_oddsOf q1943 (m_oddsOf hG er13 (d + 2)) rfl (by omega) ⟨_, _, _, _, _, tp_o, by rw [hG.1]; rfl⟩ rfl rfl (Nat.le_of_ble_eq_true rfl) dX4_then_97 ?_
              refine vv_sub (lv' := [(0, .ref o)]) [0] rfl ?_
              exact v_then_100 hG h
            · rw [if_pos c12] at h
              refine vv_aload_n dX4_then_81 rfl 0 rfl ?_
              refine tw_get (fl_X4_75 hG) (k := 42) rfl dX4_then_82 ?_
              refine vv_bipush (v := (nI 102)) dX4_then_85 (by decide) ?_
              refine vv_iload_n dX4_then_87 rfl 1 rfl ?_
              refine vv_iadd dX4_then_88 ?_
              obtain ⟨v14, iv14, ev14, h⟩ := rd_o h
              refine tw_ald 20 (by decide) rfl iv14 ev14 dX4_then_89 ?_
              refine vv_goto (tgt := 100) dX4_then_90 (by decide) ?_
              refine vv_sub (lv' := [(0, .ref o)]) [0] rfl ?_
              exact v_then_100 hG h
          · rw [if_pos c11] at h
            refine vv_aload_n dX4_then_64 rfl 0 rfl ?_
            refine tw_get (fl_X4_75 hG) (k := 42) rfl dX4_then_65 ?_
            refine vv_bipush (v := (nI 94)) dX4_then_68 (by decide) ?_
            refine vv_iload_n dX4_then_70 rfl 1 rfl ?_
            refine vv_iadd dX4_then_71 ?_
            obtain ⟨v15, iv15, ev15, h⟩ := rd_o h
            refine tw_ald 20 (by decide) rfl iv15 ev15 dX4_then_72 ?_
            refine vv_goto (tgt := 100) dX4_then_73 (by decide) ?_
            refine vv_sub (lv' := [(0, .ref o)]) [0] rfl ?_
            exact v_then_100 hG h
        · rw [if_pos c10] at h
          refine vv_aload_n dX4_then_47 rfl 0 rfl ?_
          refine tw_get (fl_X4_75 hG) (k := 42) rfl dX4_then_48 ?_
          refine vv_bipush (v := (nI 86)) dX4_then_51 (by decide) ?_
          refine vv_iload_n dX4_then_53 rfl 1 rfl ?_
          refine vv_iadd dX4_then_54 ?_
          obtain ⟨v16, iv16, ev16, h⟩ := rd_o h
          refine tw_ald 20 (by decide) rfl iv16 ev16 dX4_then_55 ?_
          refine vv_goto (tgt := 100) dX4_then_56 (by decide) ?_
          refine vv_sub (lv' := [(0, .ref o)]) [0] rfl ?_
          exact v_then_100 hG h
      · rw [if_pos c7] at h
        refine vv_sub (lv' := [(0, .ref o)]) [0] rfl ?_
        exact v_then_32 hG h
theorem m_then {l : Launch} {G : vv_G} {o : Nat} {h0 : Nat → Option vv_E} {nz : Nat × Nat} (hG : vv_gok G) {x1 : Int32} {x2 : Int32} {x3 : Int32} {T : tw_T} {r : Int32 × tw_T} (h : J_then x1 x2 x3 T = some r) (d : Nat) : vv_Met l G MX4_then (d + 5) [.ref o, .int x1, .int x2, .int x3] (tp o h0 T, nz) (.inl (some (.int r.1)), (tp o h0 r.2, nz)) := vv_head (by decide +kernel) rfl (Nat.le_of_ble_eq_true rfl) rfl (v_then_0 hG h)
/-! even -/
def B_even_21 (k21 : Int32 → Int32 → tw_T → Option (Int32 × tw_T)) (x1 : Int32) (x2 : Int32) (T : tw_T) : Option (Int32 × tw_T) := if (nI 60) < x2 then (some ((-1), T)) else ((rdI 170 (T.2.2 20) ((nI 86) + x1)).bind fun v2 => (rdI 170 (T.2.2 20) ((nI 94) + x1)).bind fun v3 => if v2 = v3 then (some (x2, T)) else ((J_dayGoes (nI 85) T).bind fun r5 => k21 x1 (x2 + (nI 1)) r5))
def J_even_21 : Nat → Int32 → Int32 → tw_T → Option (Int32 × tw_T)
  | 0, _, _, _ => none
  | n + 1, x1, x2, T => B_even_21 (J_even_21 n) x1 x2 T
theorem vb_even_21 {l : Launch} {G : vv_G} {d : Nat} {o : Nat} {h0 : Nat → Option vv_E} {nz : Nat × Nat} (hG : vv_gok G) {k21 : Int32 → Int32 → tw_T → Option (Int32 × tw_T)} (hk21 : ∀ {x1 : Int32} {x2 : Int32} {T : tw_T} {r : Int32 × tw_T}, k21 x1 x2 T = some r → vv_V l G MX4_even (d + 4) 21 [(0, .ref o), (1, .int x1), (2, .int x2)] [] (tp o h0 T, nz) (.inl (some (.int r.1)), (tp o h0 r.2, nz))) {x1 : Int32} {x2 : Int32} {T : tw_T} {r : Int32 × tw_T} (h : B_even_21 k21 x1 x2 T = some r) : vv_V l G MX4_even (d + 4) 21 [(0, .ref o), (1, .int x1), (2, .int x2)] [] (tp o h0 T, nz) (.inl (some (.int r.1)), (tp o h0 r.2, nz)) := by
  unfold B_even_21 at h
  refine vv_iload_n dX4_even_21 rfl 2 rfl ?_
  refine vv_bipush (v := (nI 60)) dX4_even_22 (by decide) ?_
  refine vv_icmp_gt (tgt := 62) dX4_even_24 (by decide) (fun c1 => ?_) (fun c1 => ?_)
  · rw [if_pos c1] at h
    refine vv_iconst (v := (-1)) dX4_even_62 (by decide) ?_
    cases h
    exact vv_iret rfl dX4_even_63
  · rw [if_neg c1] at h
    refine vv_aload_n dX4_even_27 rfl 0 rfl ?_
    refine tw_get (fl_X4_75 hG) (k := 42) rfl dX4_even_28 ?_
    refine vv_bipush (v := (nI 86)) dX4_even_31 (by decide) ?_
    refine vv_iload_n dX4_even_33 rfl 1 rfl ?_
    refine vv_iadd dX4_even_34 ?_
    obtain ⟨v2, iv2, ev2, h⟩ := rd_o h
    refine tw_ald 20 (by decide) rfl iv2 ev2 dX4_even_35 ?_
    refine vv_aload_n dX4_even_36 rfl 0 rfl ?_
    refine tw_get (fl_X4_75 hG) (k := 42) rfl dX4_even_37 ?_
    refine vv_bipush (v := (nI 94)) dX4_even_40 (by decide) ?_
    refine vv_iload_n dX4_even_42 rfl 1 rfl ?_
    refine vv_iadd dX4_even_43 ?_
    obtain ⟨v3, iv3, ev3, h⟩ := rd_o h
    refine tw_ald 20 (by decide) rfl iv3 ev3 dX4_even_44 ?_
    refine vv_icmp_ne (tgt := 50) dX4_even_45 (by decide) (fun c4 => ?_) (fun c4 => ?_)
    · rw [if_neg c4] at h
      refine vv_aload_n dX4_even_50 rfl 0 rfl ?_
      refine vv_bipush (v := (nI 85)) dX4_even_51 (by decide) ?_
      obtain ⟨r5, er5, h⟩ := bd_o h
      refine vv_callV ok_X4_dayGoes q1984 (m_dayGoes hG er5 (d + 0)) rfl (by omega) ⟨_, _, _, _, _, tp_o, by rw [hG.1]; rfl⟩ rfl rfl (Nat.le_of_ble_eq_true rfl) dX4_even_53 ?_
      refine vv_iinc (v := (x2 + (nI 1))) (lv' := [(0, .ref o), (1, .int x1), (2, .int (x2 + (nI 1)))]) dX4_even_56 2 rfl rfl (by decide) [1, 2, 0] rfl ?_
      refine vv_goto (tgt := 21) dX4_even_59 (by decide) ?_
      exact hk21 h
    · rw [if_pos c4] at h
      refine vv_iload_n dX4_even_48 rfl 2 rfl ?_
      cases h
      exact vv_iret rfl dX4_even_49
theorem v_even_21 {l : Launch} {G : vv_G} {d : Nat} {o : Nat} {h0 : Nat → Option vv_E} {nz : Nat × Nat} (hG : vv_gok G) : ∀ (n : Nat) {x1 : Int32} {x2 : Int32} {T : tw_T} {r : Int32 × tw_T}, J_even_21 n x1 x2 T = some r → vv_V l G MX4_even (d + 4) 21 [(0, .ref o), (1, .int x1), (2, .int x2)] [] (tp o h0 T, nz) (.inl (some (.int r.1)), (tp o h0 r.2, nz)) := by
  intro n
  induction n with
  | zero => intro _ _ _ _ h; cases h
  | succ n ih => intro _ _ _ _ h; exact vb_even_21 hG ih h
def J_even (x1 : Int32) (T : tw_T) : Option (Int32 × tw_T) := (some (tw_F T 0 (nI 0))).bind fun T1 => (J_isTown x1 T1).bind fun r2 => if r2.1 = 0 then (some ((nI 0), r2.2)) else ((J_tries r2.2).bind fun r4 => J_even_21 NN x1 (nI 0) r4)
theorem v_even_0 {l : Launch} {G : vv_G} {d : Nat} {o : Nat} {h0 : Nat → Option vv_E} {nz : Nat × Nat} (hG : vv_gok G) {x1 : Int32} {T : tw_T} {r : Int32 × tw_T} (h : J_even x1 T = some r) : vv_V l G MX4_even (d + 4) 0 [(0, .ref o), (1, .int x1)] [] (tp o h0 T, nz) (.inl (some (.int r.1)), (tp o h0 r.2, nz)) := by
  unfold J_even at h
  refine vv_aload_n dX4_even_0 rfl 0 rfl ?_
  refine vv_iconst (v := (nI 0)) dX4_even_1 (by decide) ?_
  obtain ⟨T1, eT1, h⟩ := bd_s h
  refine tw_put (T1 := T1) (pt_X4_117 hG) hG rfl rfl rfl (by decide) (by rw [eT1]; exact tw_set0 _ _ _) (by rw [eT1]; rfl) dX4_even_2 ?_
  refine vv_aload_n dX4_even_5 rfl 0 rfl ?_
  refine vv_iload_n dX4_even_6 rfl 1 rfl ?_
  obtain ⟨r2, er2, h⟩ := bd_o h
  refine vv_callV ok_X4_isTown q1935 (m_isTown hG er2 (d + 2)) rfl (by omega) ⟨_, _, _, _, _, tp_o, by rw [hG.1]; rfl⟩ rfl rfl (Nat.le_of_ble_eq_true rfl) dX4_even_7 ?_
  refine vv_if_ne (tgt := 15) dX4_even_10 (by decide) (fun c3 => ?_) (fun c3 => ?_)
  · rw [if_neg c3] at h
    refine vv_aload_n dX4_even_15 rfl 0 rfl ?_
    obtain ⟨r4, er4, h⟩ := bd_o h
    refine vv_callV ok_X4_tries q2039 (m_tries hG er4 (d + 3)) rfl (by omega) ⟨_, _, _, _, _, tp_o, by rw [hG.1]; rfl⟩ rfl rfl (Nat.le_of_ble_eq_true rfl) dX4_even_16 ?_
    refine vv_iconst (v := (nI 0)) dX4_even_19 (by decide) ?_
    refine vv_istore_n (lv' := [(0, .ref o), (1, .int x1), (2, .int (nI 0))]) dX4_even_20 rfl (by decide) [1, 2, 0] rfl ?_
    exact v_even_21 hG NN h
  · rw [if_pos c3] at h
    refine vv_iconst (v := (nI 0)) dX4_even_13 (by decide) ?_
    cases h
    exact vv_iret rfl dX4_even_14
theorem m_even {l : Launch} {G : vv_G} {o : Nat} {h0 : Nat → Option vv_E} {nz : Nat × Nat} (hG : vv_gok G) {x1 : Int32} {T : tw_T} {r : Int32 × tw_T} (h : J_even x1 T = some r) (d : Nat) : vv_Met l G MX4_even (d + 4) [.ref o, .int x1] (tp o h0 T, nz) (.inl (some (.int r.1)), (tp o h0 r.2, nz)) := vv_head (by decide +kernel) rfl (Nat.le_of_ble_eq_true rfl) rfl (v_even_0 hG h)
/-! out -/
def B_out_21 (k21 : Int32 → Int32 → tw_T → Option (Int32 × tw_T)) (x1 : Int32) (x2 : Int32) (T : tw_T) : Option (Int32 × tw_T) := if (nI 60) < x2 then (some ((-1), T)) else ((J_dayGoes (nI 85) T).bind fun r2 => if (((r2.1 47) >>> (x1 &&& 31)) &&& (nI 1)) = 0 then (some (x2, r2)) else (k21 x1 (x2 + (nI 1)) r2))
def J_out_21 : Nat → Int32 → Int32 → tw_T → Option (Int32 × tw_T)
  | 0, _, _, _ => none
  | n + 1, x1, x2, T => B_out_21 (J_out_21 n) x1 x2 T
theorem vb_out_21 {l : Launch} {G : vv_G} {d : Nat} {o : Nat} {h0 : Nat → Option vv_E} {nz : Nat × Nat} (hG : vv_gok G) {k21 : Int32 → Int32 → tw_T → Option (Int32 × tw_T)} (hk21 : ∀ {x1 : Int32} {x2 : Int32} {T : tw_T} {r : Int32 × tw_T}, k21 x1 x2 T = some r → vv_V l G MX4_out (d + 4) 21 [(0, .ref o), (1, .int x1), (2, .int x2)] [] (tp o h0 T, nz) (.inl (some (.int r.1)), (tp o h0 r.2, nz))) {x1 : Int32} {x2 : Int32} {T : tw_T} {r : Int32 × tw_T} (h : B_out_21 k21 x1 x2 T = some r) : vv_V l G MX4_out (d + 4) 21 [(0, .ref o), (1, .int x1), (2, .int x2)] [] (tp o h0 T, nz) (.inl (some (.int r.1)), (tp o h0 r.2, nz)) := by
  unfold B_out_21 at h
  refine vv_iload_n dX4_out_21 rfl 2 rfl ?_
  refine vv_bipush (v := (nI 60)) dX4_out_22 (by decide) ?_
  refine vv_icmp_gt (tgt := 52) dX4_out_24 (by decide) (fun c1 => ?_) (fun c1 => ?_)
  · rw [if_pos c1] at h
    refine vv_iconst (v := (-1)) dX4_out_52 (by decide) ?_
    cases h
    exact vv_iret rfl dX4_out_53
  · rw [if_neg c1] at h
    refine vv_aload_n dX4_out_27 rfl 0 rfl ?_
    refine vv_bipush (v := (nI 85)) dX4_out_28 (by decide) ?_
    obtain ⟨r2, er2, h⟩ := bd_o h
    refine vv_callV ok_X4_dayGoes q1984 (m_dayGoes hG er2 (d + 0)) rfl (by omega) ⟨_, _, _, _, _, tp_o, by rw [hG.1]; rfl⟩ rfl rfl (Nat.le_of_ble_eq_true rfl) dX4_out_30 ?_
    refine vv_aload_n dX4_out_33 rfl 0 rfl ?_
    refine tw_get (fl_X4_329 hG) (k := 47) rfl dX4_out_34 ?_
    refine vv_iload_n dX4_out_37 rfl 1 rfl ?_
    refine vv_ishr dX4_out_38 ?_
    refine vv_iconst (v := (nI 1)) dX4_out_39 (by decide) ?_
    refine vv_iand dX4_out_40 ?_
    refine vv_if_ne (tgt := 46) dX4_out_41 (by decide) (fun c3 => ?_) (fun c3 => ?_)
    · rw [if_neg c3] at h
      refine vv_iinc (v := (x2 + (nI 1))) (lv' := [(0, .ref o), (1, .int x1), (2, .int (x2 + (nI 1)))]) dX4_out_46 2 rfl rfl (by decide) [1, 2, 0] rfl ?_
      refine vv_goto (tgt := 21) dX4_out_49 (by decide) ?_
      exact hk21 h
    · rw [if_pos c3] at h
      refine vv_iload_n dX4_out_44 rfl 2 rfl ?_
      cases h
      exact vv_iret rfl dX4_out_45
theorem v_out_21 {l : Launch} {G : vv_G} {d : Nat} {o : Nat} {h0 : Nat → Option vv_E} {nz : Nat × Nat} (hG : vv_gok G) : ∀ (n : Nat) {x1 : Int32} {x2 : Int32} {T : tw_T} {r : Int32 × tw_T}, J_out_21 n x1 x2 T = some r → vv_V l G MX4_out (d + 4) 21 [(0, .ref o), (1, .int x1), (2, .int x2)] [] (tp o h0 T, nz) (.inl (some (.int r.1)), (tp o h0 r.2, nz)) := by
  intro n
  induction n with
  | zero => intro _ _ _ _ h; cases h
  | succ n ih => intro _ _ _ _ h; exact vb_out_21 hG ih h
def J_out (x1 : Int32) (T : tw_T) : Option (Int32 × tw_T) := (some (tw_F T 0 (nI 0))).bind fun T1 => (J_isTown x1 T1).bind fun r2 => if r2.1 = 0 then (some ((nI 0), r2.2)) else ((J_tries r2.2).bind fun r4 => J_out_21 NN x1 (nI 1) r4)
theorem v_out_0 {l : Launch} {G : vv_G} {d : Nat} {o : Nat} {h0 : Nat → Option vv_E} {nz : Nat × Nat} (hG : vv_gok G) {x1 : Int32} {T : tw_T} {r : Int32 × tw_T} (h : J_out x1 T = some r) : vv_V l G MX4_out (d + 4) 0 [(0, .ref o), (1, .int x1)] [] (tp o h0 T, nz) (.inl (some (.int r.1)), (tp o h0 r.2, nz)) := by
  unfold J_out at h
  refine vv_aload_n dX4_out_0 rfl 0 rfl ?_
  refine vv_iconst (v := (nI 0)) dX4_out_1 (by decide) ?_
  obtain ⟨T1, eT1, h⟩ := bd_s h
  refine tw_put (T1 := T1) (pt_X4_117 hG) hG rfl rfl rfl (by decide) (by rw [eT1]; exact tw_set0 _ _ _) (by rw [eT1]; rfl) dX4_out_2 ?_
  refine vv_aload_n dX4_out_5 rfl 0 rfl ?_
  refine vv_iload_n dX4_out_6 rfl 1 rfl ?_
  obtain ⟨r2, er2, h⟩ := bd_o h
  refine vv_callV ok_X4_isTown q1935 (m_isTown hG er2 (d + 2)) rfl (by omega) ⟨_, _, _, _, _, tp_o, by rw [hG.1]; rfl⟩ rfl rfl (Nat.le_of_ble_eq_true rfl) dX4_out_7 ?_
  refine vv_if_ne (tgt := 15) dX4_out_10 (by decide) (fun c3 => ?_) (fun c3 => ?_)
  · rw [if_neg c3] at h
    refine vv_aload_n dX4_out_15 rfl 0 rfl ?_
    obtain ⟨r4, er4, h⟩ := bd_o h
    refine vv_callV ok_X4_tries q2039 (m_tries hG er4 (d + 3)) rfl (by omega) ⟨_, _, _, _, _, tp_o, by rw [hG.1]; rfl⟩ rfl rfl (Nat.le_of_ble_eq_true rfl) dX4_out_16 ?_
    refine vv_iconst (v := (nI 1)) dX4_out_19 (by decide) ?_
    refine vv_istore_n (lv' := [(0, .ref o), (1, .int x1), (2, .int (nI 1))]) dX4_out_20 rfl (by decide) [1, 2, 0] rfl ?_
    exact v_out_21 hG NN h
  · rw [if_pos c3] at h
    refine vv_iconst (v := (nI 0)) dX4_out_13 (by decide) ?_
    cases h
    exact vv_iret rfl dX4_out_14
theorem m_out {l : Launch} {G : vv_G} {o : Nat} {h0 : Nat → Option vv_E} {nz : Nat × Nat} (hG : vv_gok G) {x1 : Int32} {T : tw_T} {r : Int32 × tw_T} (h : J_out x1 T = some r) (d : Nat) : vv_Met l G MX4_out (d + 4) [.ref o, .int x1] (tp o h0 T, nz) (.inl (some (.int r.1)), (tp o h0 r.2, nz)) := vv_head (by decide +kernel) rfl (Nat.le_of_ble_eq_true rfl) rfl (v_out_0 hG h)
/-! luckiest -/
def J_luckiest_66 (k30 : Int32 → Int32 → tw_T → Option (Int32 × tw_T)) (x2 : Int32) (x3 : Int32) (T : tw_T) : Option (Int32 × tw_T) := k30 x2 (x3 + (nI 1)) T
theorem v_luckiest_66 {l : Launch} {G : vv_G} {d : Nat} {o : Nat} {h0 : Nat → Option vv_E} {nz : Nat × Nat} (hG : vv_gok G) {k30 : Int32 → Int32 → tw_T → Option (Int32 × tw_T)} (hk30 : ∀ {x2 : Int32} {x3 : Int32} {T : tw_T} {r : Int32 × tw_T}, k30 x2 x3 T = some r → vv_V l G MX4_luckiest (d + 5) 30 [(0, .ref o), (2, .int x2), (3, .int x3)] [] (tp o h0 T, nz) (.inl (some (.int r.1)), (tp o h0 r.2, nz))) {x2 : Int32} {x3 : Int32} {T : tw_T} {r : Int32 × tw_T} (h : J_luckiest_66 k30 x2 x3 T = some r) : vv_V l G MX4_luckiest (d + 5) 66 [(0, .ref o), (2, .int x2), (3, .int x3)] [] (tp o h0 T, nz) (.inl (some (.int r.1)), (tp o h0 r.2, nz)) := by
  unfold J_luckiest_66 at h
  refine vv_iinc (v := (x3 + (nI 1))) (lv' := [(0, .ref o), (2, .int x2), (3, .int (x3 + (nI 1)))]) dX4_luckiest_66 2 rfl rfl (by decide) [1, 2, 0] rfl ?_
  refine vv_goto (tgt := 30) dX4_luckiest_69 (by decide) ?_
  exact hk30 h
def J_luckiest_64 (k30 : Int32 → Int32 → tw_T → Option (Int32 × tw_T)) (x3 : Int32) (T : tw_T) : Option (Int32 × tw_T) := J_luckiest_66 k30 x3 x3 T
theorem v_luckiest_64 {l : Launch} {G : vv_G} {d : Nat} {o : Nat} {h0 : Nat → Option vv_E} {nz : Nat × Nat} (hG : vv_gok G) {k30 : Int32 → Int32 → tw_T → Option (Int32 × tw_T)} (hk30 : ∀ {x2 : Int32} {x3 : Int32} {T : tw_T} {r : Int32 × tw_T}, k30 x2 x3 T = some r → vv_V l G MX4_luckiest (d + 5) 30 [(0, .ref o), (2, .int x2), (3, .int x3)] [] (tp o h0 T, nz) (.inl (some (.int r.1)), (tp o h0 r.2, nz))) {x3 : Int32} {T : tw_T} {r : Int32 × tw_T} (h : J_luckiest_64 k30 x3 T = some r) : vv_V l G MX4_luckiest (d + 5) 64 [(0, .ref o), (3, .int x3)] [] (tp o h0 T, nz) (.inl (some (.int r.1)), (tp o h0 r.2, nz)) := by
  unfold J_luckiest_64 at h
  refine vv_iload_n dX4_luckiest_64 rfl 1 rfl ?_
  refine vv_istore_n (lv' := [(0, .ref o), (2, .int x3), (3, .int x3)]) dX4_luckiest_65 rfl (by decide) [1, 0, 2] rfl ?_
  exact v_luckiest_66 hG hk30 h
def B_luckiest_30 (k30 : Int32 → Int32 → tw_T → Option (Int32 × tw_T)) (x2 : Int32) (x3 : Int32) (T : tw_T) : Option (Int32 × tw_T) := if (T.1 1) ≤ x3 then (some (x2, T)) else (if x2 = (-1) then (J_luckiest_64 k30 x3 T) else ((rdI 170 (T.2.2 20) ((nI 102) + x3)).bind fun v3 => (rdI 170 (T.2.2 20) ((nI 102) + x2)).bind fun v4 => if v3 ≤ v4 then (J_luckiest_66 k30 x2 x3 T) else (J_luckiest_64 k30 x3 T)))
def J_luckiest_30 : Nat → Int32 → Int32 → tw_T → Option (Int32 × tw_T)
  | 0, _, _, _ => none
  | n + 1, x2, x3, T => B_luckiest_30 (J_luckiest_30 n) x2 x3 T
theorem vb_luckiest_30 {l : Launch} {G : vv_G} {d : Nat} {o : Nat} {h0 : Nat → Option vv_E} {nz : Nat × Nat} (hG : vv_gok G) {k30 : Int32 → Int32 → tw_T → Option (Int32 × tw_T)} (hk30 : ∀ {x2 : Int32} {x3 : Int32} {T : tw_T} {r : Int32 × tw_T}, k30 x2 x3 T = some r → vv_V l G MX4_luckiest (d + 5) 30 [(0, .ref o), (2, .int x2), (3, .int x3)] [] (tp o h0 T, nz) (.inl (some (.int r.1)), (tp o h0 r.2, nz))) {x2 : Int32} {x3 : Int32} {T : tw_T} {r : Int32 × tw_T} (h : B_luckiest_30 k30 x2 x3 T = some r) : vv_V l G MX4_luckiest (d + 5) 30 [(0, .ref o), (2, .int x2), (3, .int x3)] [] (tp o h0 T, nz) (.inl (some (.int r.1)), (tp o h0 r.2, nz)) := by
  unfold B_luckiest_30 at h
  refine vv_iload_n dX4_luckiest_30 rfl 2 rfl ?_
  refine vv_aload_n dX4_luckiest_31 rfl 0 rfl ?_
  refine tw_get (fl_X4_281 hG) (k := 1) rfl dX4_luckiest_32 ?_
  refine vv_icmp_ge (tgt := 72) dX4_luckiest_35 (by decide) (fun c1 => ?_) (fun c1 => ?_)
  · rw [if_pos c1] at h
    refine vv_iload_n dX4_luckiest_72 rfl 1 rfl ?_
    cases h
    exact vv_iret rfl dX4_luckiest_73
  · rw [if_neg c1] at h
    refine vv_iload_n dX4_luckiest_38 rfl 1 rfl ?_
    refine vv_iconst (v := (-1)) dX4_luckiest_39 (by decide) ?_
    refine vv_icmp_eq (tgt := 64) dX4_luckiest_40 (by decide) (fun c2 => ?_) (fun c2 => ?_)
    · rw [if_pos c2] at h
      refine vv_sub (lv' := [(0, .ref o), (3, .int x3)]) [0, 2] rfl ?_
      exact v_luckiest_64 hG hk30 h
    · rw [if_neg c2] at h
      refine vv_aload_n dX4_luckiest_43 rfl 0 rfl ?_
      refine tw_get (fl_X4_75 hG) (k := 42) rfl dX4_luckiest_44 ?_
      refine vv_bipush (v := (nI 102)) dX4_luckiest_47 (by decide) ?_
      refine vv_iload_n dX4_luckiest_49 rfl 2 rfl ?_
      refine vv_iadd dX4_luckiest_50 ?_
      obtain ⟨v3, iv3, ev3, h⟩ := rd_o h
      refine tw_ald 20 (by decide) rfl iv3 ev3 dX4_luckiest_51 ?_
      refine vv_aload_n dX4_luckiest_52 rfl 0 rfl ?_
      refine tw_get (fl_X4_75 hG) (k := 42) rfl dX4_luckiest_53 ?_
      refine vv_bipush (v := (nI 102)) dX4_luckiest_56 (by decide) ?_
      refine vv_iload_n dX4_luckiest_58 rfl 1 rfl ?_
      refine vv_iadd dX4_luckiest_59 ?_
      obtain ⟨v4, iv4, ev4, h⟩ := rd_o h
      refine tw_ald 20 (by decide) rfl iv4 ev4 dX4_luckiest_60 ?_
      refine vv_icmp_le (tgt := 66) dX4_luckiest_61 (by decide) (fun c5 => ?_) (fun c5 => ?_)
      · rw [if_pos c5] at h
        exact v_luckiest_66 hG hk30 h
      · rw [if_neg c5] at h
        refine vv_sub (lv' := [(0, .ref o), (3, .int x3)]) [0, 2] rfl ?_
        exact v_luckiest_64 hG hk30 h
theorem v_luckiest_30 {l : Launch} {G : vv_G} {d : Nat} {o : Nat} {h0 : Nat → Option vv_E} {nz : Nat × Nat} (hG : vv_gok G) : ∀ (n : Nat) {x2 : Int32} {x3 : Int32} {T : tw_T} {r : Int32 × tw_T}, J_luckiest_30 n x2 x3 T = some r → vv_V l G MX4_luckiest (d + 5) 30 [(0, .ref o), (2, .int x2), (3, .int x3)] [] (tp o h0 T, nz) (.inl (some (.int r.1)), (tp o h0 r.2, nz)) := by
  intro n
  induction n with
  | zero => intro _ _ _ _ h; cases h
  | succ n ih => intro _ _ _ _ h; exact vb_luckiest_30 hG ih h
def J_luckiest (x1 : Int32) (T : tw_T) : Option (Int32 × tw_T) := (some (tw_F T 0 (nI 0))).bind fun T1 => (J_isDays x1 (nI 0) (nI 1) T1).bind fun r2 => if r2.1 = 0 then (some ((nI 0), r2.2)) else ((J_tries r2.2).bind fun r4 => (J_daysGo x1 r4).bind fun r5 => J_luckiest_30 NN (-1) (nI 0) r5)
theorem v_luckiest_0 {l : Launch} {G : vv_G} {d : Nat} {o : Nat} {h0 : Nat → Option vv_E} {nz : Nat × Nat} (hG : vv_gok G) {x1 : Int32} {T : tw_T} {r : Int32 × tw_T} (h : J_luckiest x1 T = some r) : vv_V l G MX4_luckiest (d + 5) 0 [(0, .ref o), (1, .int x1)] [] (tp o h0 T, nz) (.inl (some (.int r.1)), (tp o h0 r.2, nz)) := by
  unfold J_luckiest at h
  refine vv_aload_n dX4_luckiest_0 rfl 0 rfl ?_
  refine vv_iconst (v := (nI 0)) dX4_luckiest_1 (by decide) ?_
  obtain ⟨T1, eT1, h⟩ := bd_s h
  refine tw_put (T1 := T1) (pt_X4_117 hG) hG rfl rfl rfl (by decide) (by rw [eT1]; exact tw_set0 _ _ _) (by rw [eT1]; rfl) dX4_luckiest_2 ?_
  refine vv_aload_n dX4_luckiest_5 rfl 0 rfl ?_
  refine vv_iload_n dX4_luckiest_6 rfl 1 rfl ?_
  refine vv_iconst (v := (nI 0)) dX4_luckiest_7 (by decide) ?_
  refine vv_iconst (v := (nI 1)) dX4_luckiest_8 (by decide) ?_
  obtain ⟨r2, er2, h⟩ := bd_o h
  refine vv_callV ok_X4_isDays q2035 (m_isDays hG er2 (d + 3)) rfl (by omega) ⟨_, _, _, _, _, tp_o, by rw [hG.1]; rfl⟩ rfl rfl (Nat.le_of_ble_eq_true rfl) dX4_luckiest_9 ?_
  refine vv_if_ne (tgt := 17) dX4_luckiest_12 (by decide) (fun c3 => ?_) (fun c3 => ?_)
  · rw [if_neg c3] at h
    refine vv_aload_n dX4_luckiest_17 rfl 0 rfl ?_
    obtain ⟨r4, er4, h⟩ := bd_o h
    refine vv_callV ok_X4_tries q2039 (m_tries hG er4 (d + 4)) rfl (by omega) ⟨_, _, _, _, _, tp_o, by rw [hG.1]; rfl⟩ rfl rfl (Nat.le_of_ble_eq_true rfl) dX4_luckiest_18 ?_
    refine vv_aload_n dX4_luckiest_21 rfl 0 rfl ?_
    refine vv_iload_n dX4_luckiest_22 rfl 1 rfl ?_
    obtain ⟨r5, er5, h⟩ := bd_o h
    refine vv_callV ok_X4_daysGo q2043 (m_daysGo hG er5 (d + 0)) rfl (by omega) ⟨_, _, _, _, _, tp_o, by rw [hG.1]; rfl⟩ rfl rfl (Nat.le_of_ble_eq_true rfl) dX4_luckiest_23 ?_
    refine vv_iconst (v := (-1)) dX4_luckiest_26 (by decide) ?_
    refine vv_istore_n (lv' := [(0, .ref o), (1, .int x1), (2, .int (-1))]) dX4_luckiest_27 rfl (by decide) [1, 2, 0] rfl ?_
    refine vv_iconst (v := (nI 0)) dX4_luckiest_28 (by decide) ?_
    refine vv_istore_n (lv' := [(0, .ref o), (1, .int x1), (2, .int (-1)), (3, .int (nI 0))]) dX4_luckiest_29 rfl (by decide) [1, 2, 3, 0] rfl ?_
    refine vv_sub (lv' := [(0, .ref o), (2, .int (-1)), (3, .int (nI 0))]) [0, 2, 3] rfl ?_
    exact v_luckiest_30 hG NN h
  · rw [if_pos c3] at h
    refine vv_iconst (v := (nI 0)) dX4_luckiest_15 (by decide) ?_
    cases h
    exact vv_iret rfl dX4_luckiest_16
theorem m_luckiest {l : Launch} {G : vv_G} {o : Nat} {h0 : Nat → Option vv_E} {nz : Nat × Nat} (hG : vv_gok G) {x1 : Int32} {T : tw_T} {r : Int32 × tw_T} (h : J_luckiest x1 T = some r) (d : Nat) : vv_Met l G MX4_luckiest (d + 5) [.ref o, .int x1] (tp o h0 T, nz) (.inl (some (.int r.1)), (tp o h0 r.2, nz)) := vv_head (by decide +kernel) rfl (Nat.le_of_ble_eq_true rfl) rfl (v_luckiest_0 hG h)
/-! streak -/
def J_streak_23 (T : tw_T) : Option (Int32 × tw_T) := some ((nI 0), T)
theorem v_streak_23 {l : Launch} {G : vv_G} {d : Nat} {o : Nat} {h0 : Nat → Option vv_E} {nz : Nat × Nat} (hG : vv_gok G) {T : tw_T} {r : Int32 × tw_T} (h : J_streak_23 T = some r) : vv_V l G MX4_streak (d + 4) 23 [(0, .ref o)] [] (tp o h0 T, nz) (.inl (some (.int r.1)), (tp o h0 r.2, nz)) := by
  unfold J_streak_23 at h
  refine vv_iconst (v := (nI 0)) dX4_streak_23 (by decide) ?_
  cases h
  exact vv_iret rfl dX4_streak_24
def J_streak_83 (k37 : Int32 → Int32 → Int32 → Int32 → Int32 → tw_T → Option (Int32 × tw_T)) (s0 : Int32) (x1 : Int32) (x2 : Int32) (x4 : Int32) (x5 : Int32) (T : tw_T) : Option (Int32 × tw_T) := k37 x1 x2 s0 x4 (x5 + (nI 1)) T
theorem v_streak_83 {l : Launch} {G : vv_G} {d : Nat} {o : Nat} {h0 : Nat → Option vv_E} {nz : Nat × Nat} (hG : vv_gok G) {k37 : Int32 → Int32 → Int32 → Int32 → Int32 → tw_T → Option (Int32 × tw_T)} (hk37 : ∀ {x1 : Int32} {x2 : Int32} {x3 : Int32} {x4 : Int32} {x5 : Int32} {T : tw_T} {r : Int32 × tw_T}, k37 x1 x2 x3 x4 x5 T = some r → vv_V l G MX4_streak (d + 4) 37 [(0, .ref o), (1, .int x1), (2, .int x2), (3, .int x3), (4, .int x4), (5, .int x5)] [] (tp o h0 T, nz) (.inl (some (.int r.1)), (tp o h0 r.2, nz))) {s0 : Int32} {x1 : Int32} {x2 : Int32} {x4 : Int32} {x5 : Int32} {T : tw_T} {r : Int32 × tw_T} (h : J_streak_83 k37 s0 x1 x2 x4 x5 T = some r) : vv_V l G MX4_streak (d + 4) 83 [(0, .ref o), (1, .int x1), (2, .int x2), (4, .int x4), (5, .int x5)] [.int s0] (tp o h0 T, nz) (.inl (some (.int r.1)), (tp o h0 r.2, nz)) := by
  unfold J_streak_83 at h
  refine vv_istore_n (lv' := [(0, .ref o), (1, .int x1), (2, .int x2), (3, .int s0), (4, .int x4), (5, .int x5)]) dX4_streak_83 rfl (by decide) [1, 2, 3, 0, 4, 5] rfl ?_
  refine vv_iinc (v := (x5 + (nI 1))) (lv' := [(0, .ref o), (1, .int x1), (2, .int x2), (3, .int s0), (4, .int x4), (5, .int (x5 + (nI 1)))]) dX4_streak_84 5 rfl rfl (by decide) [1, 2, 3, 4, 5, 0] rfl ?_
  refine vv_goto (tgt := 37) dX4_streak_87 (by decide) ?_
  exact hk37 h
def J_streak_69 (k37 : Int32 → Int32 → Int32 → Int32 → Int32 → tw_T → Option (Int32 × tw_T)) (s0 : Int32) (x1 : Int32) (x2 : Int32) (x3 : Int32) (x5 : Int32) (T : tw_T) : Option (Int32 × tw_T) := if s0 ≤ x3 then (J_streak_83 k37 x3 x1 x2 s0 x5 T) else (J_streak_83 k37 s0 x1 x2 s0 x5 T)
theorem v_streak_69 {l : Launch} {G : vv_G} {d : Nat} {o : Nat} {h0 : Nat → Option vv_E} {nz : Nat × Nat} (hG : vv_gok G) {k37 : Int32 → Int32 → Int32 → Int32 → Int32 → tw_T → Option (Int32 × tw_T)} (hk37 : ∀ {x1 : Int32} {x2 : Int32} {x3 : Int32} {x4 : Int32} {x5 : Int32} {T : tw_T} {r : Int32 × tw_T}, k37 x1 x2 x3 x4 x5 T = some r → vv_V l G MX4_streak (d + 4) 37 [(0, .ref o), (1, .int x1), (2, .int x2), (3, .int x3), (4, .int x4), (5, .int x5)] [] (tp o h0 T, nz) (.inl (some (.int r.1)), (tp o h0 r.2, nz))) {s0 : Int32} {x1 : Int32} {x2 : Int32} {x3 : Int32} {x5 : Int32} {T : tw_T} {r : Int32 × tw_T} (h : J_streak_69 k37 s0 x1 x2 x3 x5 T = some r) : vv_V l G MX4_streak (d + 4) 69 [(0, .ref o), (1, .int x1), (2, .int x2), (3, .int x3), (5, .int x5)] [.int s0] (tp o h0 T, nz) (.inl (some (.int r.1)), (tp o h0 r.2, nz)) := by
  unfold J_streak_69 at h
  refine vv_istore (lv' := [(0, .ref o), (1, .int x1), (2, .int x2), (3, .int x3), (4, .int s0), (5, .int x5)]) dX4_streak_69 (by decide) [1, 2, 3, 4, 0, 5] rfl ?_
  refine vv_iload dX4_streak_71 4 rfl ?_
  refine vv_iload_n dX4_streak_73 rfl 3 rfl ?_
  refine vv_icmp_le (tgt := 82) dX4_streak_74 (by decide) (fun c1 => ?_) (fun c1 => ?_)
  · rw [if_pos c1] at h
    refine vv_iload_n dX4_streak_82 rfl 3 rfl ?_
    refine vv_sub (lv' := [(0, .ref o), (1, .int x1), (2, .int x2), (4, .int s0), (5, .int x5)]) [0, 1, 2, 4, 5] rfl ?_
    exact v_streak_83 hG hk37 h
  · rw [if_neg c1] at h
    refine vv_iload dX4_streak_77 4 rfl ?_
    refine vv_goto (tgt := 83) dX4_streak_79 (by decide) ?_
    refine vv_sub (lv' := [(0, .ref o), (1, .int x1), (2, .int x2), (4, .int s0), (5, .int x5)]) [0, 1, 2, 4, 5] rfl ?_
    exact v_streak_83 hG hk37 h
def B_streak_37 (k37 : Int32 → Int32 → Int32 → Int32 → Int32 → tw_T → Option (Int32 × tw_T)) (x1 : Int32) (x2 : Int32) (x3 : Int32) (x4 : Int32) (x5 : Int32) (T : tw_T) : Option (Int32 × tw_T) := if x2 ≤ x5 then (some (x3, T)) else ((J_dayGoes (nI 85) T).bind fun r2 => if (((r2.1 47) >>> (x1 &&& 31)) &&& (nI 1)) = (nI 1) then (J_streak_69 k37 (x4 + (nI 1)) x1 x2 x3 x5 r2) else (J_streak_69 k37 (nI 0) x1 x2 x3 x5 r2))
def J_streak_37 : Nat → Int32 → Int32 → Int32 → Int32 → Int32 → tw_T → Option (Int32 × tw_T)
  | 0, _, _, _, _, _, _ => none
  | n + 1, x1, x2, x3, x4, x5, T => B_streak_37 (J_streak_37 n) x1 x2 x3 x4 x5 T
theorem vb_streak_37 {l : Launch} {G : vv_G} {d : Nat} {o : Nat} {h0 : Nat → Option vv_E} {nz : Nat × Nat} (hG : vv_gok G) {k37 : Int32 → Int32 → Int32 → Int32 → Int32 → tw_T → Option (Int32 × tw_T)} (hk37 : ∀ {x1 : Int32} {x2 : Int32} {x3 : Int32} {x4 : Int32} {x5 : Int32} {T : tw_T} {r : Int32 × tw_T}, k37 x1 x2 x3 x4 x5 T = some r → vv_V l G MX4_streak (d + 4) 37 [(0, .ref o), (1, .int x1), (2, .int x2), (3, .int x3), (4, .int x4), (5, .int x5)] [] (tp o h0 T, nz) (.inl (some (.int r.1)), (tp o h0 r.2, nz))) {x1 : Int32} {x2 : Int32} {x3 : Int32} {x4 : Int32} {x5 : Int32} {T : tw_T} {r : Int32 × tw_T} (h : B_streak_37 k37 x1 x2 x3 x4 x5 T = some r) : vv_V l G MX4_streak (d + 4) 37 [(0, .ref o), (1, .int x1), (2, .int x2), (3, .int x3), (4, .int x4), (5, .int x5)] [] (tp o h0 T, nz) (.inl (some (.int r.1)), (tp o h0 r.2, nz)) := by
  unfold B_streak_37 at h
  refine vv_iload dX4_streak_37 5 rfl ?_
  refine vv_iload_n dX4_streak_39 rfl 2 rfl ?_
  refine vv_icmp_ge (tgt := 90) dX4_streak_40 (by decide) (fun c1 => ?_) (fun c1 => ?_)
  · rw [if_pos c1] at h
    refine vv_iload_n dX4_streak_90 rfl 3 rfl ?_
    cases h
    exact vv_iret rfl dX4_streak_91
  · rw [if_neg c1] at h
    refine vv_aload_n dX4_streak_43 rfl 0 rfl ?_
    refine vv_bipush (v := (nI 85)) dX4_streak_44 (by decide) ?_
    obtain ⟨r2, er2, h⟩ := bd_o h
    refine vv_callV ok_X4_dayGoes q1984 (m_dayGoes hG er2 (d + 0)) rfl (by omega) ⟨_, _, _, _, _, tp_o, by rw [hG.1]; rfl⟩ rfl rfl (Nat.le_of_ble_eq_true rfl) dX4_streak_46 ?_
    refine vv_aload_n dX4_streak_49 rfl 0 rfl ?_
    refine tw_get (fl_X4_329 hG) (k := 47) rfl dX4_streak_50 ?_
    refine vv_iload_n dX4_streak_53 rfl 1 rfl ?_
    refine vv_ishr dX4_streak_54 ?_
    refine vv_iconst (v := (nI 1)) dX4_streak_55 (by decide) ?_
    refine vv_iand dX4_streak_56 ?_
    refine vv_iconst (v := (nI 1)) dX4_streak_57 (by decide) ?_
    refine vv_icmp_ne (tgt := 68) dX4_streak_58 (by decide) (fun c3 => ?_) (fun c3 => ?_)
    · rw [if_neg c3] at h
      refine vv_iconst (v := (nI 0)) dX4_streak_68 (by decide) ?_
      refine vv_sub (lv' := [(0, .ref o), (1, .int x1), (2, .int x2), (3, .int x3), (5, .int x5)]) [0, 1, 2, 3, 5] rfl ?_
      exact v_streak_69 hG hk37 h
    · rw [if_pos c3] at h
      refine vv_iload dX4_streak_61 4 rfl ?_
      refine vv_iconst (v := (nI 1)) dX4_streak_63 (by decide) ?_
      refine vv_iadd dX4_streak_64 ?_
      refine vv_goto (tgt := 69) dX4_streak_65 (by decide) ?_
      refine vv_sub (lv' := [(0, .ref o), (1, .int x1), (2, .int x2), (3, .int x3), (5, .int x5)]) [0, 1, 2, 3, 5] rfl ?_
      exact v_streak_69 hG hk37 h
theorem v_streak_37 {l : Launch} {G : vv_G} {d : Nat} {o : Nat} {h0 : Nat → Option vv_E} {nz : Nat × Nat} (hG : vv_gok G) : ∀ (n : Nat) {x1 : Int32} {x2 : Int32} {x3 : Int32} {x4 : Int32} {x5 : Int32} {T : tw_T} {r : Int32 × tw_T}, J_streak_37 n x1 x2 x3 x4 x5 T = some r → vv_V l G MX4_streak (d + 4) 37 [(0, .ref o), (1, .int x1), (2, .int x2), (3, .int x3), (4, .int x4), (5, .int x5)] [] (tp o h0 T, nz) (.inl (some (.int r.1)), (tp o h0 r.2, nz)) := by
  intro n
  induction n with
  | zero => intro _ _ _ _ _ _ _ h; cases h
  | succ n ih => intro _ _ _ _ _ _ _ h; exact vb_streak_37 hG ih h
def J_streak (x1 : Int32) (x2 : Int32) (T : tw_T) : Option (Int32 × tw_T) := (some (tw_F T 0 (nI 0))).bind fun T1 => (J_isTown x1 T1).bind fun r2 => if r2.1 = 0 then (J_streak_23 r2.2) else ((J_isDays x2 (nI 0) (nI 2) r2.2).bind fun r4 => if r4.1 = 0 then (J_streak_23 r4.2) else ((J_tries r4.2).bind fun r6 => J_streak_37 NN x1 x2 (nI 0) (nI 0) (nI 0) r6))
theorem v_streak_0 {l : Launch} {G : vv_G} {d : Nat} {o : Nat} {h0 : Nat → Option vv_E} {nz : Nat × Nat} (hG : vv_gok G) {x1 : Int32} {x2 : Int32} {T : tw_T} {r : Int32 × tw_T} (h : J_streak x1 x2 T = some r) : vv_V l G MX4_streak (d + 4) 0 [(0, .ref o), (1, .int x1), (2, .int x2)] [] (tp o h0 T, nz) (.inl (some (.int r.1)), (tp o h0 r.2, nz)) := by
  unfold J_streak at h
  refine vv_aload_n dX4_streak_0 rfl 0 rfl ?_
  refine vv_iconst (v := (nI 0)) dX4_streak_1 (by decide) ?_
  obtain ⟨T1, eT1, h⟩ := bd_s h
  refine tw_put (T1 := T1) (pt_X4_117 hG) hG rfl rfl rfl (by decide) (by rw [eT1]; exact tw_set0 _ _ _) (by rw [eT1]; rfl) dX4_streak_2 ?_
  refine vv_aload_n dX4_streak_5 rfl 0 rfl ?_
  refine vv_iload_n dX4_streak_6 rfl 1 rfl ?_
  obtain ⟨r2, er2, h⟩ := bd_o h
  refine vv_callV ok_X4_isTown q1935 (m_isTown hG er2 (d + 2)) rfl (by omega) ⟨_, _, _, _, _, tp_o, by rw [hG.1]; rfl⟩ rfl rfl (Nat.le_of_ble_eq_true rfl) dX4_streak_7 ?_
  refine vv_if_eq (tgt := 23) dX4_streak_10 (by decide) (fun c3 => ?_) (fun c3 => ?_)
  · rw [if_pos c3] at h
    refine vv_sub (lv' := [(0, .ref o)]) [0] rfl ?_
    exact v_streak_23 hG h
  · rw [if_neg c3] at h
    refine vv_aload_n dX4_streak_13 rfl 0 rfl ?_
    refine vv_iload_n dX4_streak_14 rfl 2 rfl ?_
    refine vv_iconst (v := (nI 0)) dX4_streak_15 (by decide) ?_
    refine vv_iconst (v := (nI 2)) dX4_streak_16 (by decide) ?_
    obtain ⟨r4, er4, h⟩ := bd_o h
    refine vv_callV ok_X4_isDays q2035 (m_isDays hG er4 (d + 2)) rfl (by omega) ⟨_, _, _, _, _, tp_o, by rw [hG.1]; rfl⟩ rfl rfl (Nat.le_of_ble_eq_true rfl) dX4_streak_17 ?_
    refine vv_if_ne (tgt := 25) dX4_streak_20 (by decide) (fun c5 => ?_) (fun c5 => ?_)
    · rw [if_neg c5] at h
      refine vv_aload_n dX4_streak_25 rfl 0 rfl ?_
      obtain ⟨r6, er6, h⟩ := bd_o h
      refine vv_callV ok_X4_tries q2039 (m_tries hG er6 (d + 3)) rfl (by omega) ⟨_, _, _, _, _, tp_o, by rw [hG.1]; rfl⟩ rfl rfl (Nat.le_of_ble_eq_true rfl) dX4_streak_26 ?_
      refine vv_iconst (v := (nI 0)) dX4_streak_29 (by decide) ?_
      refine vv_istore_n (lv' := [(0, .ref o), (1, .int x1), (2, .int x2), (3, .int (nI 0))]) dX4_streak_30 rfl (by decide) [1, 2, 3, 0] rfl ?_
      refine vv_iconst (v := (nI 0)) dX4_streak_31 (by decide) ?_
      refine vv_istore (lv' := [(0, .ref o), (1, .int x1), (2, .int x2), (3, .int (nI 0)), (4, .int (nI 0))]) dX4_streak_32 (by decide) [1, 2, 3, 4, 0] rfl ?_
      refine vv_iconst (v := (nI 0)) dX4_streak_34 (by decide) ?_
      refine vv_istore (lv' := [(0, .ref o), (1, .int x1), (2, .int x2), (3, .int (nI 0)), (4, .int (nI 0)), (5, .int (nI 0))]) dX4_streak_35 (by decide) [1, 2, 3, 4, 5, 0] rfl ?_
      exact v_streak_37 hG NN h
    · rw [if_pos c5] at h
      refine vv_sub (lv' := [(0, .ref o)]) [0] rfl ?_
      exact v_streak_23 hG h
theorem m_streak {l : Launch} {G : vv_G} {o : Nat} {h0 : Nat → Option vv_E} {nz : Nat × Nat} (hG : vv_gok G) {x1 : Int32} {x2 : Int32} {T : tw_T} {r : Int32 × tw_T} (h : J_streak x1 x2 T = some r) (d : Nat) : vv_Met l G MX4_streak (d + 4) [.ref o, .int x1, .int x2] (tp o h0 T, nz) (.inl (some (.int r.1)), (tp o h0 r.2, nz)) := vv_head (by decide +kernel) rfl (Nat.le_of_ble_eq_true rfl) rfl (v_streak_0 hG h)
/-! day -/
def J_day_24 (T : tw_T) : Option (Int32 × tw_T) := some ((nI 0), T)
theorem v_day_24 {l : Launch} {G : vv_G} {d : Nat} {o : Nat} {h0 : Nat → Option vv_E} {nz : Nat × Nat} (hG : vv_gok G) {T : tw_T} {r : Int32 × tw_T} (h : J_day_24 T = some r) : vv_V l G MX4_day (d + 4) 24 [(0, .ref o)] [] (tp o h0 T, nz) (.inl (some (.int r.1)), (tp o h0 r.2, nz)) := by
  unfold J_day_24 at h
  refine vv_iconst (v := (nI 0)) dX4_day_24 (by decide) ?_
  cases h
  exact vv_iret rfl dX4_day_25
def J_day_107 (s0 : Int32) (T : tw_T) : Option (Int32 × tw_T) := some (s0, T)
theorem v_day_107 {l : Launch} {G : vv_G} {d : Nat} {o : Nat} {h0 : Nat → Option vv_E} {nz : Nat × Nat} (hG : vv_gok G) {s0 : Int32} {T : tw_T} {r : Int32 × tw_T} (h : J_day_107 s0 T = some r) : vv_V l G MX4_day (d + 4) 107 [(0, .ref o)] [.int s0] (tp o h0 T, nz) (.inl (some (.int r.1)), (tp o h0 r.2, nz)) := by
  unfold J_day_107 at h
  cases h
  exact vv_iret rfl dX4_day_107
def J_day_91 (k38 : Int32 → Int32 → Int32 → Int32 → Int32 → tw_T → Option (Int32 × tw_T)) (x1 : Int32) (x2 : Int32) (x3 : Int32) (x4 : Int32) (x5 : Int32) (T : tw_T) : Option (Int32 × tw_T) := k38 x1 x2 x3 x4 (x5 + (nI 1)) T
theorem v_day_91 {l : Launch} {G : vv_G} {d : Nat} {o : Nat} {h0 : Nat → Option vv_E} {nz : Nat × Nat} (hG : vv_gok G) {k38 : Int32 → Int32 → Int32 → Int32 → Int32 → tw_T → Option (Int32 × tw_T)} (hk38 : ∀ {x1 : Int32} {x2 : Int32} {x3 : Int32} {x4 : Int32} {x5 : Int32} {T : tw_T} {r : Int32 × tw_T}, k38 x1 x2 x3 x4 x5 T = some r → vv_V l G MX4_day (d + 4) 38 [(0, .ref o), (1, .int x1), (2, .int x2), (3, .int x3), (4, .int x4), (5, .int x5)] [] (tp o h0 T, nz) (.inl (some (.int r.1)), (tp o h0 r.2, nz))) {x1 : Int32} {x2 : Int32} {x3 : Int32} {x4 : Int32} {x5 : Int32} {T : tw_T} {r : Int32 × tw_T} (h : J_day_91 k38 x1 x2 x3 x4 x5 T = some r) : vv_V l G MX4_day (d + 4) 91 [(0, .ref o), (1, .int x1), (2, .int x2), (3, .int x3), (4, .int x4), (5, .int x5)] [] (tp o h0 T, nz) (.inl (some (.int r.1)), (tp o h0 r.2, nz)) := by
  unfold J_day_91 at h
  refine vv_iinc (v := (x5 + (nI 1))) (lv' := [(0, .ref o), (1, .int x1), (2, .int x2), (3, .int x3), (4, .int x4), (5, .int (x5 + (nI 1)))]) dX4_day_91 5 rfl rfl (by decide) [1, 2, 3, 4, 5, 0] rfl ?_
  refine vv_goto (tgt := 38) dX4_day_94 (by decide) ?_
  exact hk38 h
def J_day_84 (k38 : Int32 → Int32 → Int32 → Int32 → Int32 → tw_T → Option (Int32 × tw_T)) (x1 : Int32) (x2 : Int32) (x5 : Int32) (x7 : Int32) (T : tw_T) : Option (Int32 × tw_T) := J_day_91 k38 x1 x2 x5 x7 x5 T
theorem v_day_84 {l : Launch} {G : vv_G} {d : Nat} {o : Nat} {h0 : Nat → Option vv_E} {nz : Nat × Nat} (hG : vv_gok G) {k38 : Int32 → Int32 → Int32 → Int32 → Int32 → tw_T → Option (Int32 × tw_T)} (hk38 : ∀ {x1 : Int32} {x2 : Int32} {x3 : Int32} {x4 : Int32} {x5 : Int32} {T : tw_T} {r : Int32 × tw_T}, k38 x1 x2 x3 x4 x5 T = some r → vv_V l G MX4_day (d + 4) 38 [(0, .ref o), (1, .int x1), (2, .int x2), (3, .int x3), (4, .int x4), (5, .int x5)] [] (tp o h0 T, nz) (.inl (some (.int r.1)), (tp o h0 r.2, nz))) {x1 : Int32} {x2 : Int32} {x5 : Int32} {x7 : Int32} {T : tw_T} {r : Int32 × tw_T} (h : J_day_84 k38 x1 x2 x5 x7 T = some r) : vv_V l G MX4_day (d + 4) 84 [(0, .ref o), (1, .int x1), (2, .int x2), (5, .int x5), (7, .int x7)] [] (tp o h0 T, nz) (.inl (some (.int r.1)), (tp o h0 r.2, nz)) := by
  unfold J_day_84 at h
  refine vv_iload dX4_day_84 3 rfl ?_
  refine vv_istore_n (lv' := [(0, .ref o), (1, .int x1), (2, .int x2), (3, .int x5), (5, .int x5), (7, .int x7)]) dX4_day_86 rfl (by decide) [1, 2, 3, 0, 4, 5] rfl ?_
  refine vv_iload dX4_day_87 5 rfl ?_
  refine vv_istore (lv' := [(0, .ref o), (1, .int x1), (2, .int x2), (3, .int x5), (4, .int x7), (5, .int x5), (7, .int x7)]) dX4_day_89 (by decide) [1, 2, 3, 4, 0, 5, 6] rfl ?_
  refine vv_sub (lv' := [(0, .ref o), (1, .int x1), (2, .int x2), (3, .int x5), (4, .int x7), (5, .int x5)]) [0, 1, 2, 3, 4, 5] rfl ?_
  exact v_day_91 hG hk38 h
def B_day_38 (k38 : Int32 → Int32 → Int32 → Int32 → Int32 → tw_T → Option (Int32 × tw_T)) (x1 : Int32) (x2 : Int32) (x3 : Int32) (x4 : Int32) (x5 : Int32) (T : tw_T) : Option (Int32 × tw_T) := if x1 < x5 then (if x2 = 0 then (J_day_107 x3 T) else (J_day_107 x4 T)) else ((J_allOf (nI 102) T).bind fun r3 => (J_dayGoes (nI 85) r3.2).bind fun r4 => (J_allOf (nI 102) r4).bind fun r5 => if x3 = (-1) then (J_day_84 k38 x1 x2 x5 (r5.1 - r3.1) r5.2) else (if x4 < (r5.1 - r3.1) then (J_day_84 k38 x1 x2 x5 (r5.1 - r3.1) r5.2) else (J_day_91 k38 x1 x2 x3 x4 x5 r5.2)))
def J_day_38 : Nat → Int32 → Int32 → Int32 → Int32 → Int32 → tw_T → Option (Int32 × tw_T)
  | 0, _, _, _, _, _, _ => none
  | n + 1, x1, x2, x3, x4, x5, T => B_day_38 (J_day_38 n) x1 x2 x3 x4 x5 T
theorem vb_day_38 {l : Launch} {G : vv_G} {d : Nat} {o : Nat} {h0 : Nat → Option vv_E} {nz : Nat × Nat} (hG : vv_gok G) {k38 : Int32 → Int32 → Int32 → Int32 → Int32 → tw_T → Option (Int32 × tw_T)} (hk38 : ∀ {x1 : Int32} {x2 : Int32} {x3 : Int32} {x4 : Int32} {x5 : Int32} {T : tw_T} {r : Int32 × tw_T}, k38 x1 x2 x3 x4 x5 T = some r → vv_V l G MX4_day (d + 4) 38 [(0, .ref o), (1, .int x1), (2, .int x2), (3, .int x3), (4, .int x4), (5, .int x5)] [] (tp o h0 T, nz) (.inl (some (.int r.1)), (tp o h0 r.2, nz))) {x1 : Int32} {x2 : Int32} {x3 : Int32} {x4 : Int32} {x5 : Int32} {T : tw_T} {r : Int32 × tw_T} (h : B_day_38 k38 x1 x2 x3 x4 x5 T = some r) : vv_V l G MX4_day (d + 4) 38 [(0, .ref o), (1, .int x1), (2, .int x2), (3, .int x3), (4, .int x4), (5, .int x5)] [] (tp o h0 T, nz) (.inl (some (.int r.1)), (tp o h0 r.2, nz)) := by
  unfold B_day_38 at h
  refine vv_iload dX4_day_38 5 rfl ?_
  refine vv_iload_n dX4_day_40 rfl 1 rfl ?_
  refine vv_icmp_gt (tgt := 97) dX4_day_41 (by decide) (fun c1 => ?_) (fun c1 => ?_)
  · rw [if_pos c1] at h
    refine vv_iload_n dX4_day_97 rfl 2 rfl ?_
    refine vv_if_ne (tgt := 105) dX4_day_98 (by decide) (fun c2 => ?_) (fun c2 => ?_)
    · rw [if_neg c2] at h
      refine vv_iload dX4_day_105 4 rfl ?_
      refine vv_sub (lv' := [(0, .ref o)]) [0] rfl ?_
      exact v_day_107 hG h
    · rw [if_pos c2] at h
      refine vv_iload_n dX4_day_101 rfl 3 rfl ?_
      refine vv_goto (tgt := 107) dX4_day_102 (by decide) ?_
      refine vv_sub (lv' := [(0, .ref o)]) [0] rfl ?_
      exact v_day_107 hG h
  · rw [if_neg c1] at h
    refine vv_aload_n dX4_day_44 rfl 0 rfl ?_
    refine vv_bipush (v := (nI 102)) dX4_day_45 (by decide) ?_
    obtain ⟨r3, er3, h⟩ := bd_o h
    refine vv_callV ok_X4_allOf q1911 (m_allOf hG er3 (d + 3)) rfl (by omega) ⟨_, _, _, _, _, tp_o, by rw [hG.1]; rfl⟩ rfl rfl (Nat.le_of_ble_eq_true rfl) dX4_day_47 ?_
    refine vv_istore (lv' := [(0, .ref o), (1, .int x1), (2, .int x2), (3, .int x3), (4, .int x4), (5, .int x5), (6, .int r3.1)]) dX4_day_50 (by decide) [1, 2, 3, 4, 5, 6, 0] rfl ?_
    refine vv_aload_n dX4_day_52 rfl 0 rfl ?_
    refine vv_bipush (v := (nI 85)) dX4_day_53 (by decide) ?_
    obtain ⟨r4, er4, h⟩ := bd_o h
    refine vv_callV ok_X4_dayGoes q1984 (m_dayGoes hG er4 (d + 0)) rfl (by omega) ⟨_, _, _, _, _, tp_o, by rw [hG.1]; rfl⟩ rfl rfl (Nat.le_of_ble_eq_true rfl) dX4_day_55 ?_
    refine vv_aload_n dX4_day_58 rfl 0 rfl ?_
    refine vv_bipush (v := (nI 102)) dX4_day_59 (by decide) ?_
    obtain ⟨r5, er5, h⟩ := bd_o h
    refine vv_callV ok_X4_allOf q1911 (m_allOf hG er5 (d + 3)) rfl (by omega) ⟨_, _, _, _, _, tp_o, by rw [hG.1]; rfl⟩ rfl rfl (Nat.le_of_ble_eq_true rfl) dX4_day_61 ?_
    refine vv_iload dX4_day_64 6 rfl ?_
    refine vv_isub dX4_day_66 ?_
    refine vv_istore (lv' := [(0, .ref o), (1, .int x1), (2, .int x2), (3, .int x3), (4, .int x4), (5, .int x5), (6, .int r3.1), (7, .int (r5.1 - r3.1))]) dX4_day_67 (by decide) [1, 2, 3, 4, 5, 6, 7, 0] rfl ?_
    refine vv_iload_n dX4_day_69 rfl 3 rfl ?_
    refine vv_iconst (v := (-1)) dX4_day_70 (by decide) ?_
    refine vv_icmp_eq (tgt := 84) dX4_day_71 (by decide) (fun c6 => ?_) (fun c6 => ?_)
    · rw [if_pos c6] at h
      refine vv_sub (lv' := [(0, .ref o), (1, .int x1), (2, .int x2), (5, .int x5), (7, .int (r5.1 - r3.1))]) [0, 1, 2, 5, 7] rfl ?_
      exact v_day_84 hG hk38 h
    · rw [if_neg c6] at h
      refine vv_iload dX4_day_74 7 rfl ?_
      refine vv_iload dX4_day_76 4 rfl ?_
      refine vv_icmp_gt (tgt := 84) dX4_day_78 (by decide) (fun c7 => ?_) (fun c7 => ?_)
      · rw [if_pos c7] at h
        refine vv_sub (lv' := [(0, .ref o), (1, .int x1), (2, .int x2), (5, .int x5), (7, .int (r5.1 - r3.1))]) [0, 1, 2, 5, 7] rfl ?_
        exact v_day_84 hG hk38 h
      · rw [if_neg c7] at h
        refine vv_goto (tgt := 91) dX4_day_81 (by decide) ?_
        refine vv_sub (lv' := [(0, .ref o), (1, .int x1), (2, .int x2), (3, .int x3), (4, .int x4), (5, .int x5)]) [0, 1, 2, 3, 4, 5] rfl ?_
        exact v_day_91 hG hk38 h
theorem v_day_38 {l : Launch} {G : vv_G} {d : Nat} {o : Nat} {h0 : Nat → Option vv_E} {nz : Nat × Nat} (hG : vv_gok G) : ∀ (n : Nat) {x1 : Int32} {x2 : Int32} {x3 : Int32} {x4 : Int32} {x5 : Int32} {T : tw_T} {r : Int32 × tw_T}, J_day_38 n x1 x2 x3 x4 x5 T = some r → vv_V l G MX4_day (d + 4) 38 [(0, .ref o), (1, .int x1), (2, .int x2), (3, .int x3), (4, .int x4), (5, .int x5)] [] (tp o h0 T, nz) (.inl (some (.int r.1)), (tp o h0 r.2, nz)) := by
  intro n
  induction n with
  | zero => intro _ _ _ _ _ _ _ h; cases h
  | succ n ih => intro _ _ _ _ _ _ _ h; exact vb_day_38 hG ih h
def J_day (x1 : Int32) (x2 : Int32) (T : tw_T) : Option (Int32 × tw_T) := (some (tw_F T 0 (nI 0))).bind fun T1 => (J_isWhat x2 (nI 1) T1).bind fun r2 => if r2.1 = 0 then (J_day_24 r2.2) else ((J_isDays x1 (nI 1) (nI 2) r2.2).bind fun r4 => if r4.1 = 0 then (J_day_24 r4.2) else ((J_tries r4.2).bind fun r6 => J_day_38 NN x1 x2 (-1) (nI 0) (nI 1) r6))
theorem v_day_0 {l : Launch} {G : vv_G} {d : Nat} {o : Nat} {h0 : Nat → Option vv_E} {nz : Nat × Nat} (hG : vv_gok G) {x1 : Int32} {x2 : Int32} {T : tw_T} {r : Int32 × tw_T} (h : J_day x1 x2 T = some r) : vv_V l G MX4_day (d + 4) 0 [(0, .ref o), (1, .int x1), (2, .int x2)] [] (tp o h0 T, nz) (.inl (some (.int r.1)), (tp o h0 r.2, nz)) := by
  unfold J_day at h
  refine vv_aload_n dX4_day_0 rfl 0 rfl ?_
  refine vv_iconst (v := (nI 0)) dX4_day_1 (by decide) ?_
  obtain ⟨T1, eT1, h⟩ := bd_s h
  refine tw_put (T1 := T1) (pt_X4_117 hG) hG rfl rfl rfl (by decide) (by rw [eT1]; exact tw_set0 _ _ _) (by rw [eT1]; rfl) dX4_day_2 ?_
  refine vv_aload_n dX4_day_5 rfl 0 rfl ?_
  refine vv_iload_n dX4_day_6 rfl 2 rfl ?_
  refine vv_iconst (v := (nI 1)) dX4_day_7 (by decide) ?_
  obtain ⟨r2, er2, h⟩ := bd_o h
  refine vv_callV ok_X4_isWhat q1939 (m_isWhat hG er2 (d + 2)) rfl (by omega) ⟨_, _, _, _, _, tp_o, by rw [hG.1]; rfl⟩ rfl rfl (Nat.le_of_ble_eq_true rfl) dX4_day_8 ?_
  refine vv_if_eq (tgt := 24) dX4_day_11 (by decide) (fun c3 => ?_) (fun c3 => ?_)
  · rw [if_pos c3] at h
    refine vv_sub (lv' := [(0, .ref o)]) [0] rfl ?_
    exact v_day_24 hG h
  · rw [if_neg c3] at h
    refine vv_aload_n dX4_day_14 rfl 0 rfl ?_
    refine vv_iload_n dX4_day_15 rfl 1 rfl ?_
    refine vv_iconst (v := (nI 1)) dX4_day_16 (by decide) ?_
    refine vv_iconst (v := (nI 2)) dX4_day_17 (by decide) ?_
    obtain ⟨r4, er4, h⟩ := bd_o h
    refine vv_callV ok_X4_isDays q2035 (m_isDays hG er4 (d + 2)) rfl (by omega) ⟨_, _, _, _, _, tp_o, by rw [hG.1]; rfl⟩ rfl rfl (Nat.le_of_ble_eq_true rfl) dX4_day_18 ?_
    refine vv_if_ne (tgt := 26) dX4_day_21 (by decide) (fun c5 => ?_) (fun c5 => ?_)
    · rw [if_neg c5] at h
      refine vv_aload_n dX4_day_26 rfl 0 rfl ?_
      obtain ⟨r6, er6, h⟩ := bd_o h
      refine vv_callV ok_X4_tries q2039 (m_tries hG er6 (d + 3)) rfl (by omega) ⟨_, _, _, _, _, tp_o, by rw [hG.1]; rfl⟩ rfl rfl (Nat.le_of_ble_eq_true rfl) dX4_day_27 ?_
      refine vv_iconst (v := (-1)) dX4_day_30 (by decide) ?_
      refine vv_istore_n (lv' := [(0, .ref o), (1, .int x1), (2, .int x2), (3, .int (-1))]) dX4_day_31 rfl (by decide) [1, 2, 3, 0] rfl ?_
      refine vv_iconst (v := (nI 0)) dX4_day_32 (by decide) ?_
      refine vv_istore (lv' := [(0, .ref o), (1, .int x1), (2, .int x2), (3, .int (-1)), (4, .int (nI 0))]) dX4_day_33 (by decide) [1, 2, 3, 4, 0] rfl ?_
      refine vv_iconst (v := (nI 1)) dX4_day_35 (by decide) ?_
      refine vv_istore (lv' := [(0, .ref o), (1, .int x1), (2, .int x2), (3, .int (-1)), (4, .int (nI 0)), (5, .int (nI 1))]) dX4_day_36 (by decide) [1, 2, 3, 4, 5, 0] rfl ?_
      exact v_day_38 hG NN h
    · rw [if_pos c5] at h
      refine vv_sub (lv' := [(0, .ref o)]) [0] rfl ?_
      exact v_day_24 hG h
theorem m_day {l : Launch} {G : vv_G} {o : Nat} {h0 : Nat → Option vv_E} {nz : Nat × Nat} (hG : vv_gok G) {x1 : Int32} {x2 : Int32} {T : tw_T} {r : Int32 × tw_T} (h : J_day x1 x2 T = some r) (d : Nat) : vv_Met l G MX4_day (d + 4) [.ref o, .int x1, .int x2] (tp o h0 T, nz) (.inl (some (.int r.1)), (tp o h0 r.2, nz)) := vv_head (by decide +kernel) rfl (Nat.le_of_ble_eq_true rfl) rfl (v_day_0 hG h)
/-! measures -/
def B_measures_189 (k168 : Int32 → tw_T → Option tw_T) (k178 : Int32 → Int32 → tw_T → Option tw_T) (k189 : Int32 → Int32 → Int32 → tw_T → Option tw_T) (x2 : Int32) (x3 : Int32) (x4 : Int32) (T : tw_T) : Option tw_T := if (T.1 1) ≤ x4 then (k178 x2 (x3 + (nI 1)) T) else ((rdI 64 (T.2.2 24) (((nI 8) * x3) + x4)).bind fun v2 => (rdI 64 (T.2.2 24) (((nI 8) * x3) + x2)).bind fun v3 => (rdI 64 (T.2.2 24) (((nI 8) * x2) + x4)).bind fun v4 => (J_lesser v2 (v3 + v4)).bind fun r5 => (stA T 24 64 (((nI 8) * x3) + x4) r5).bind fun T6 => (rdI 64 (T6.2.2 25) (((nI 8) * x3) + x4)).bind fun v7 => (rdI 64 (T6.2.2 25) (((nI 8) * x3) + x2)).bind fun v8 => (rdI 64 (T6.2.2 25) (((nI 8) * x2) + x4)).bind fun v9 => (J_lesser v7 (v8 + v9)).bind fun r10 => (stA T6 25 64 (((nI 8) * x3) + x4) r10).bind fun T11 => k189 x2 x3 (x4 + (nI 1)) T11)
def J_measures_189 (k168 : Int32 → tw_T → Option tw_T) (k178 : Int32 → Int32 → tw_T → Option tw_T) : Nat → Int32 → Int32 → Int32 → tw_T → Option tw_T
  | 0, _, _, _, _ => none
  | n + 1, x2, x3, x4, T => B_measures_189 k168 k178 (J_measures_189 k168 k178 n) x2 x3 x4 T
theorem vb_measures_189 {l : Launch} {G : vv_G} {d : Nat} {o : Nat} {h0 : Nat → Option vv_E} {nz : Nat × Nat} (hG : vv_gok G) {k168 : Int32 → tw_T → Option tw_T} (hk168 : ∀ {x2 : Int32} {T : tw_T} {r : tw_T}, k168 x2 T = some r → vv_V l G MX4_measures (d + 1) 168 [(0, .ref o), (2, .int x2)] [] (tp o h0 T, nz) (.inl none, (tp o h0 r, nz))) {k178 : Int32 → Int32 → tw_T → Option tw_T} (hk178 : ∀ {x2 : Int32} {x3 : Int32} {T : tw_T} {r : tw_T}, k178 x2 x3 T = some r → vv_V l G MX4_measures (d + 1) 178 [(0, .ref o), (2, .int x2), (3, .int x3)] [] (tp o h0 T, nz) (.inl none, (tp o h0 r, nz))) {k189 : Int32 → Int32 → Int32 → tw_T → Option tw_T} (hk189 : ∀ {x2 : Int32} {x3 : Int32} {x4 : Int32} {T : tw_T} {r : tw_T}, k189 x2 x3 x4 T = some r → vv_V l G MX4_measures (d + 1) 189 [(0, .ref o), (2, .int x2), (3, .int x3), (4, .int x4)] [] (tp o h0 T, nz) (.inl none, (tp o h0 r, nz))) {x2 : Int32} {x3 : Int32} {x4 : Int32} {T : tw_T} {r : tw_T} (h : B_measures_189 k168 k178 k189 x2 x3 x4 T = some r) : vv_V l G MX4_measures (d + 1) 189 [(0, .ref o), (2, .int x2), (3, .int x3), (4, .int x4)] [] (tp o h0 T, nz) (.inl none, (tp o h0 r, nz)) := by
  unfold B_measures_189 at h
  refine vv_iload dX4_measures_189 3 rfl ?_
  refine vv_aload_n dX4_measures_191 rfl 0 rfl ?_
  refine tw_get (fl_X4_281 hG) (k := 1) rfl dX4_measures_192 ?_
  refine vv_icmp_ge (tgt := 306) dX4_measures_195 (by decide) (fun c1 => ?_) (fun c1 => ?_)
  · rw [if_pos c1] at h
    refine vv_iinc (v := (x3 + (nI 1))) (lv' := [(0, .ref o), (2, .int x2), (3, .int (x3 + (nI 1))), (4, .int x4)]) dX4_measures_306 2 rfl rfl (by decide) [1, 2, 0, 3] rfl ?_
    refine vv_goto (tgt := 178) dX4_measures_309 (by decide) ?_
    refine vv_sub (lv' := [(0, .ref o), (2, .int x2), (3, .int (x3 + (nI 1)))]) [0, 1, 2] rfl ?_
    exact hk178 h
  · rw [if_neg c1] at h
    refine vv_aload_n dX4_measures_198 rfl 0 rfl ?_
    refine tw_get (fl_X4_87 hG) (k := 48) rfl dX4_measures_199 ?_
    refine vv_bipush (v := (nI 8)) dX4_measures_202 (by decide) ?_
    refine vv_iload_n dX4_measures_204 rfl 2 rfl ?_
    refine vv_imul dX4_measures_205 ?_
    refine vv_iload dX4_measures_206 3 rfl ?_
    refine vv_iadd dX4_measures_208 ?_
    refine vv_aload_n dX4_measures_209 rfl 0 rfl ?_
    refine tw_get (fl_X4_87 hG) (k := 48) rfl dX4_measures_210 ?_
    refine vv_bipush (v := (nI 8)) dX4_measures_213 (by decide) ?_
    refine vv_iload_n dX4_measures_215 rfl 2 rfl ?_
    refine vv_imul dX4_measures_216 ?_
    refine vv_iload dX4_measures_217 3 rfl ?_
    refine vv_iadd dX4_measures_219 ?_
    obtain ⟨v2, iv2, ev2, h⟩ := rd_o h
    refine tw_ald 24 (by decide) rfl iv2 ev2 dX4_measures_220 ?_
    refine vv_aload_n dX4_measures_221 rfl 0 rfl ?_
    refine tw_get (fl_X4_87 hG) (k := 48) rfl dX4_measures_222 ?_
    refine vv_bipush (v := (nI 8)) dX4_measures_225 (by decide) ?_
    refine vv_iload_n dX4_measures_227 rfl 2 rfl ?_
    refine vv_imul dX4_measures_228 ?_
    refine vv_iload_n dX4_measures_229 rfl 1 rfl ?_
    refine vv_iadd dX4_measures_230 ?_
    obtain ⟨v3, iv3, ev3, h⟩ := rd_o h
    refine tw_ald 24 (by decide) rfl iv3 ev3 dX4_measures_231 ?_
    refine vv_aload_n dX4_measures_232 rfl 0 rfl ?_
    refine tw_get (fl_X4_87 hG) (k := 48) rfl dX4_measures_233 ?_
    refine vv_bipush (v := (nI 8)) dX4_measures_236 (by decide) ?_
    refine vv_iload_n dX4_measures_238 rfl 1 rfl ?_
    refine vv_imul dX4_measures_239 ?_
    refine vv_iload dX4_measures_240 3 rfl ?_
    refine vv_iadd dX4_measures_242 ?_
    obtain ⟨v4, iv4, ev4, h⟩ := rd_o h
    refine tw_ald 24 (by decide) rfl iv4 ev4 dX4_measures_243 ?_
    refine vv_iadd dX4_measures_244 ?_
    obtain ⟨r5, er5, h⟩ := bd_o h
    refine vv_callS ok_X4_lesser q2000 (m_lesser hG er5 (d + 0)) rfl (by omega) rfl rfl (Nat.le_of_ble_eq_true rfl) dX4_measures_245 ?_
    obtain ⟨T6, iT6, eT6, h⟩ := st_o h
    refine tw_ast 24 (by decide) rfl iT6 eT6 dX4_measures_248 ?_
    refine vv_aload_n dX4_measures_249 rfl 0 rfl ?_
    refine tw_get (fl_X4_90 hG) (k := 49) rfl dX4_measures_250 ?_
    refine vv_bipush (v := (nI 8)) dX4_measures_253 (by decide) ?_
    refine vv_iload_n dX4_measures_255 rfl 2 rfl ?_
    refine vv_imul dX4_measures_256 ?_
    refine vv_iload dX4_measures_257 3 rfl ?_
    refine vv_iadd dX4_measures_259 ?_
    refine vv_aload_n dX4_measures_260 rfl 0 rfl ?_
    refine tw_get (fl_X4_90 hG) (k := 49) rfl dX4_measures_261 ?_
    refine vv_bipush (v := (nI 8)) dX4_measures_264 (by decide) ?_
    refine vv_iload_n dX4_measures_266 rfl 2 rfl ?_
    refine vv_imul dX4_measures_267 ?_
    refine vv_iload dX4_measures_268 3 rfl ?_
    refine vv_iadd dX4_measures_270 ?_
    obtain ⟨v7, iv7, ev7, h⟩ := rd_o h
    refine tw_ald 25 (by decide) rfl iv7 ev7 dX4_measures_271 ?_
    refine vv_aload_n dX4_measures_272 rfl 0 rfl ?_
    refine tw_get (fl_X4_90 hG) (k := 49) rfl dX4_measures_273 ?_
    refine vv_bipush (v := (nI 8)) dX4_measures_276 (by decide) ?_
    refine vv_iload_n dX4_measures_278 rfl 2 rfl ?_
    refine vv_imul dX4_measures_279 ?_
    refine vv_iload_n dX4_measures_280 rfl 1 rfl ?_
    refine vv_iadd dX4_measures_281 ?_
    obtain ⟨v8, iv8, ev8, h⟩ := rd_o h
    refine tw_ald 25 (by decide) rfl iv8 ev8 dX4_measures_282 ?_
    refine vv_aload_n dX4_measures_283 rfl 0 rfl ?_
    refine tw_get (fl_X4_90 hG) (k := 49) rfl dX4_measures_284 ?_
    refine vv_bipush (v := (nI 8)) dX4_measures_287 (by decide) ?_
    refine vv_iload_n dX4_measures_289 rfl 1 rfl ?_
    refine vv_imul dX4_measures_290 ?_
    refine vv_iload dX4_measures_291 3 rfl ?_
    refine vv_iadd dX4_measures_293 ?_
    obtain ⟨v9, iv9, ev9, h⟩ := rd_o h
    refine tw_ald 25 (by decide) rfl iv9 ev9 dX4_measures_294 ?_
    refine vv_iadd dX4_measures_295 ?_
    obtain ⟨r10, er10, h⟩ := bd_o h
    refine vv_callS ok_X4_lesser q2000 (m_lesser hG er10 (d + 0)) rfl (by omega) rfl rfl (Nat.le_of_ble_eq_true rfl) dX4_measures_296 ?_
    obtain ⟨T11, iT11, eT11, h⟩ := st_o h
    refine tw_ast 25 (by decide) rfl iT11 eT11 dX4_measures_299 ?_
    refine vv_iinc (v := (x4 + (nI 1))) (lv' := [(0, .ref o), (2, .int x2), (3, .int x3), (4, .int (x4 + (nI 1)))]) dX4_measures_300 3 rfl rfl (by decide) [1, 2, 3, 0] rfl ?_
    refine vv_goto (tgt := 189) dX4_measures_303 (by decide) ?_
    exact hk189 h
theorem v_measures_189 {l : Launch} {G : vv_G} {d : Nat} {o : Nat} {h0 : Nat → Option vv_E} {nz : Nat × Nat} (hG : vv_gok G) {k168 : Int32 → tw_T → Option tw_T} (hk168 : ∀ {x2 : Int32} {T : tw_T} {r : tw_T}, k168 x2 T = some r → vv_V l G MX4_measures (d + 1) 168 [(0, .ref o), (2, .int x2)] [] (tp o h0 T, nz) (.inl none, (tp o h0 r, nz))) {k178 : Int32 → Int32 → tw_T → Option tw_T} (hk178 : ∀ {x2 : Int32} {x3 : Int32} {T : tw_T} {r : tw_T}, k178 x2 x3 T = some r → vv_V l G MX4_measures (d + 1) 178 [(0, .ref o), (2, .int x2), (3, .int x3)] [] (tp o h0 T, nz) (.inl none, (tp o h0 r, nz))) : ∀ (n : Nat) {x2 : Int32} {x3 : Int32} {x4 : Int32} {T : tw_T} {r : tw_T}, J_measures_189 k168 k178 n x2 x3 x4 T = some r → vv_V l G MX4_measures (d + 1) 189 [(0, .ref o), (2, .int x2), (3, .int x3), (4, .int x4)] [] (tp o h0 T, nz) (.inl none, (tp o h0 r, nz)) := by
  intro n
  induction n with
  | zero => intro _ _ _ _ _ h; cases h
  | succ n ih => intro _ _ _ _ _ h; exact vb_measures_189 hG hk168 hk178 ih h
def B_measures_178 (k168 : Int32 → tw_T → Option tw_T) (k178 : Int32 → Int32 → tw_T → Option tw_T) (x2 : Int32) (x3 : Int32) (T : tw_T) : Option tw_T := if (T.1 1) ≤ x3 then (k168 (x2 + (nI 1)) T) else (J_measures_189 k168 k178 NN x2 x3 (nI 0) T)
def J_measures_178 (k168 : Int32 → tw_T → Option tw_T) : Nat → Int32 → Int32 → tw_T → Option tw_T
  | 0, _, _, _ => none
  | n + 1, x2, x3, T => B_measures_178 k168 (J_measures_178 k168 n) x2 x3 T
theorem vb_measures_178 {l : Launch} {G : vv_G} {d : Nat} {o : Nat} {h0 : Nat → Option vv_E} {nz : Nat × Nat} (hG : vv_gok G) {k168 : Int32 → tw_T → Option tw_T} (hk168 : ∀ {x2 : Int32} {T : tw_T} {r : tw_T}, k168 x2 T = some r → vv_V l G MX4_measures (d + 1) 168 [(0, .ref o), (2, .int x2)] [] (tp o h0 T, nz) (.inl none, (tp o h0 r, nz))) {k178 : Int32 → Int32 → tw_T → Option tw_T} (hk178 : ∀ {x2 : Int32} {x3 : Int32} {T : tw_T} {r : tw_T}, k178 x2 x3 T = some r → vv_V l G MX4_measures (d + 1) 178 [(0, .ref o), (2, .int x2), (3, .int x3)] [] (tp o h0 T, nz) (.inl none, (tp o h0 r, nz))) {x2 : Int32} {x3 : Int32} {T : tw_T} {r : tw_T} (h : B_measures_178 k168 k178 x2 x3 T = some r) : vv_V l G MX4_measures (d + 1) 178 [(0, .ref o), (2, .int x2), (3, .int x3)] [] (tp o h0 T, nz) (.inl none, (tp o h0 r, nz)) := by
  unfold B_measures_178 at h
  refine vv_iload_n dX4_measures_178 rfl 2 rfl ?_
  refine vv_aload_n dX4_measures_179 rfl 0 rfl ?_
  refine tw_get (fl_X4_281 hG) (k := 1) rfl dX4_measures_180 ?_
  refine vv_icmp_ge (tgt := 312) dX4_measures_183 (by decide) (fun c1 => ?_) (fun c1 => ?_)
  · rw [if_pos c1] at h
    refine vv_iinc (v := (x2 + (nI 1))) (lv' := [(0, .ref o), (2, .int (x2 + (nI 1))), (3, .int x3)]) dX4_measures_312 1 rfl rfl (by decide) [1, 0, 2] rfl ?_
    refine vv_goto (tgt := 168) dX4_measures_315 (by decide) ?_
    refine vv_sub (lv' := [(0, .ref o), (2, .int (x2 + (nI 1)))]) [0, 1] rfl ?_
    exact hk168 h
  · rw [if_neg c1] at h
    refine vv_iconst (v := (nI 0)) dX4_measures_186 (by decide) ?_
    refine vv_istore (lv' := [(0, .ref o), (2, .int x2), (3, .int x3), (4, .int (nI 0))]) dX4_measures_187 (by decide) [1, 2, 3, 0] rfl ?_
    exact v_measures_189 hG hk168 hk178 NN h
theorem v_measures_178 {l : Launch} {G : vv_G} {d : Nat} {o : Nat} {h0 : Nat → Option vv_E} {nz : Nat × Nat} (hG : vv_gok G) {k168 : Int32 → tw_T → Option tw_T} (hk168 : ∀ {x2 : Int32} {T : tw_T} {r : tw_T}, k168 x2 T = some r → vv_V l G MX4_measures (d + 1) 168 [(0, .ref o), (2, .int x2)] [] (tp o h0 T, nz) (.inl none, (tp o h0 r, nz))) : ∀ (n : Nat) {x2 : Int32} {x3 : Int32} {T : tw_T} {r : tw_T}, J_measures_178 k168 n x2 x3 T = some r → vv_V l G MX4_measures (d + 1) 178 [(0, .ref o), (2, .int x2), (3, .int x3)] [] (tp o h0 T, nz) (.inl none, (tp o h0 r, nz)) := by
  intro n
  induction n with
  | zero => intro _ _ _ _ h; cases h
  | succ n ih => intro _ _ _ _ h; exact vb_measures_178 hG hk168 ih h
def B_measures_168 (k168 : Int32 → tw_T → Option tw_T) (x2 : Int32) (T : tw_T) : Option tw_T := if (T.1 1) ≤ x2 then (some T) else (J_measures_178 k168 NN x2 (nI 0) T)
def J_measures_168 : Nat → Int32 → tw_T → Option tw_T
  | 0, _, _ => none
  | n + 1, x2, T => B_measures_168 (J_measures_168 n) x2 T
theorem vb_measures_168 {l : Launch} {G : vv_G} {d : Nat} {o : Nat} {h0 : Nat → Option vv_E} {nz : Nat × Nat} (hG : vv_gok G) {k168 : Int32 → tw_T → Option tw_T} (hk168 : ∀ {x2 : Int32} {T : tw_T} {r : tw_T}, k168 x2 T = some r → vv_V l G MX4_measures (d + 1) 168 [(0, .ref o), (2, .int x2)] [] (tp o h0 T, nz) (.inl none, (tp o h0 r, nz))) {x2 : Int32} {T : tw_T} {r : tw_T} (h : B_measures_168 k168 x2 T = some r) : vv_V l G MX4_measures (d + 1) 168 [(0, .ref o), (2, .int x2)] [] (tp o h0 T, nz) (.inl none, (tp o h0 r, nz)) := by
  unfold B_measures_168 at h
  refine vv_iload_n dX4_measures_168 rfl 1 rfl ?_
  refine vv_aload_n dX4_measures_169 rfl 0 rfl ?_
  refine tw_get (fl_X4_281 hG) (k := 1) rfl dX4_measures_170 ?_
  refine vv_icmp_ge (tgt := 318) dX4_measures_173 (by decide) (fun c1 => ?_) (fun c1 => ?_)
  · rw [if_pos c1] at h
    cases h
    exact vv_vret rfl dX4_measures_318
  · rw [if_neg c1] at h
    refine vv_iconst (v := (nI 0)) dX4_measures_176 (by decide) ?_
    refine vv_istore_n (lv' := [(0, .ref o), (2, .int x2), (3, .int (nI 0))]) dX4_measures_177 rfl (by decide) [1, 2, 0] rfl ?_
    exact v_measures_178 hG hk168 NN h
theorem v_measures_168 {l : Launch} {G : vv_G} {d : Nat} {o : Nat} {h0 : Nat → Option vv_E} {nz : Nat × Nat} (hG : vv_gok G) : ∀ (n : Nat) {x2 : Int32} {T : tw_T} {r : tw_T}, J_measures_168 n x2 T = some r → vv_V l G MX4_measures (d + 1) 168 [(0, .ref o), (2, .int x2)] [] (tp o h0 T, nz) (.inl none, (tp o h0 r, nz)) := by
  intro n
  induction n with
  | zero => intro _ _ _ h; cases h
  | succ n ih => intro _ _ _ h; exact vb_measures_168 hG ih h
def J_measures_160 (k52 : Int32 → Int32 → tw_T → Option tw_T) (x1 : Int32) (x2 : Int32) (T : tw_T) : Option tw_T := k52 x1 (x2 + (nI 1)) T
theorem v_measures_160 {l : Launch} {G : vv_G} {d : Nat} {o : Nat} {h0 : Nat → Option vv_E} {nz : Nat × Nat} (hG : vv_gok G) {k52 : Int32 → Int32 → tw_T → Option tw_T} (hk52 : ∀ {x1 : Int32} {x2 : Int32} {T : tw_T} {r : tw_T}, k52 x1 x2 T = some r → vv_V l G MX4_measures (d + 1) 52 [(0, .ref o), (1, .int x1), (2, .int x2)] [] (tp o h0 T, nz) (.inl none, (tp o h0 r, nz))) {x1 : Int32} {x2 : Int32} {T : tw_T} {r : tw_T} (h : J_measures_160 k52 x1 x2 T = some r) : vv_V l G MX4_measures (d + 1) 160 [(0, .ref o), (1, .int x1), (2, .int x2)] [] (tp o h0 T, nz) (.inl none, (tp o h0 r, nz)) := by
  unfold J_measures_160 at h
  refine vv_iinc (v := (x2 + (nI 1))) (lv' := [(0, .ref o), (1, .int x1), (2, .int (x2 + (nI 1)))]) dX4_measures_160 2 rfl rfl (by decide) [1, 2, 0] rfl ?_
  refine vv_goto (tgt := 52) dX4_measures_163 (by decide) ?_
  exact hk52 h
def B_measures_52 (k52 : Int32 → Int32 → tw_T → Option tw_T) (x1 : Int32) (x2 : Int32) (T : tw_T) : Option tw_T := if (T.1 2) ≤ x2 then (J_measures_168 NN (nI 0) T) else (if x2 = x1 then (J_measures_160 k52 x1 x2 T) else ((rdI 12 (T.2.2 3) x2).bind fun v3 => (rdI 12 (T.2.2 4) x2).bind fun v4 => (rdI 12 (T.2.2 4) x2).bind fun v5 => (rdI 12 (T.2.2 3) x2).bind fun v6 => (rdI 12 (T.2.2 5) x2).bind fun v7 => (stA T 24 64 (((nI 8) * v3) + v4) v7).bind fun T8 => (rdI 12 (T8.2.2 5) x2).bind fun v9 => (stA T8 24 64 (((nI 8) * v5) + v6) v9).bind fun T10 => (rdI 12 (T10.2.2 5) x2).bind fun v11 => (rdI 12 (T10.2.2 6) x2).bind fun v12 => (stA T10 25 64 (((nI 8) * v3) + v4) (v11 * v12)).bind fun T13 => (rdI 64 (T13.2.2 25) (((nI 8) * v3) + v4)).bind fun v14 => (stA T13 25 64 (((nI 8) * v5) + v6) v14).bind fun T15 => J_measures_160 k52 x1 x2 T15))
def J_measures_52 : Nat → Int32 → Int32 → tw_T → Option tw_T
  | 0, _, _, _ => none
  | n + 1, x1, x2, T => B_measures_52 (J_measures_52 n) x1 x2 T
theorem vb_measures_52 {l : Launch} {G : vv_G} {d : Nat} {o : Nat} {h0 : Nat → Option vv_E} {nz : Nat × Nat} (hG : vv_gok G) {k52 : Int32 → Int32 → tw_T → Option tw_T} (hk52 : ∀ {x1 : Int32} {x2 : Int32} {T : tw_T} {r : tw_T}, k52 x1 x2 T = some r → vv_V l G MX4_measures (d + 1) 52 [(0, .ref o), (1, .int x1), (2, .int x2)] [] (tp o h0 T, nz) (.inl none, (tp o h0 r, nz))) {x1 : Int32} {x2 : Int32} {T : tw_T} {r : tw_T} (h : B_measures_52 k52 x1 x2 T = some r) : vv_V l G MX4_measures (d + 1) 52 [(0, .ref o), (1, .int x1), (2, .int x2)] [] (tp o h0 T, nz) (.inl none, (tp o h0 r, nz)) := by
  unfold B_measures_52 at h
  refine vv_iload_n dX4_measures_52 rfl 2 rfl ?_
  refine vv_aload_n dX4_measures_53 rfl 0 rfl ?_
  refine tw_get (fl_X4_284 hG) (k := 2) rfl dX4_measures_54 ?_
  refine vv_icmp_ge (tgt := 166) dX4_measures_57 (by decide) (fun c1 => ?_) (fun c1 => ?_)
  · rw [if_pos c1] at h
    refine vv_iconst (v := (nI 0)) dX4_measures_166 (by decide) ?_
    refine vv_istore_n (lv' := [(0, .ref o), (1, .int x1), (2, .int (nI 0))]) dX4_measures_167 rfl (by decide) [1, 2, 0] rfl ?_
    refine vv_sub (lv' := [(0, .ref o), (2, .int (nI 0))]) [0, 2] rfl ?_
    exact v_measures_168 hG NN h
  · rw [if_neg c1] at h
    refine vv_iload_n dX4_measures_60 rfl 2 rfl ?_
    refine vv_iload_n dX4_measures_61 rfl 1 rfl ?_
    refine vv_icmp_ne (tgt := 68) dX4_measures_62 (by decide) (fun c2 => ?_) (fun c2 => ?_)
    · rw [if_neg c2] at h
      refine vv_bipush (v := (nI 8)) dX4_measures_68 (by decide) ?_
      refine vv_aload_n dX4_measures_70 rfl 0 rfl ?_
      refine tw_get (fl_X4_20 hG) (k := 7) rfl dX4_measures_71 ?_
      refine vv_iload_n dX4_measures_74 rfl 2 rfl ?_
      obtain ⟨v3, iv3, ev3, h⟩ := rd_o h
      refine tw_ald 3 (by decide) rfl iv3 ev3 dX4_measures_75 ?_
      refine vv_imul dX4_measures_76 ?_
      refine vv_aload_n dX4_measures_77 rfl 0 rfl ?_
      refine tw_get (fl_X4_23 hG) (k := 8) rfl dX4_measures_78 ?_
      refine vv_iload_n dX4_measures_81 rfl 2 rfl ?_
      obtain ⟨v4, iv4, ev4, h⟩ := rd_o h
      refine tw_ald 4 (by decide) rfl iv4 ev4 dX4_measures_82 ?_
      refine vv_iadd dX4_measures_83 ?_
      refine vv_istore_n (lv' := [(0, .ref o), (1, .int x1), (2, .int x2), (3, .int (((nI 8) * v3) + v4))]) dX4_measures_84 rfl (by decide) [1, 2, 3, 0] rfl ?_
      refine vv_bipush (v := (nI 8)) dX4_measures_85 (by decide) ?_
      refine vv_aload_n dX4_measures_87 rfl 0 rfl ?_
      refine tw_get (fl_X4_23 hG) (k := 8) rfl dX4_measures_88 ?_
      refine vv_iload_n dX4_measures_91 rfl 2 rfl ?_
      obtain ⟨v5, iv5, ev5, h⟩ := rd_o h
      refine tw_ald 4 (by decide) rfl iv5 ev5 dX4_measures_92 ?_
      refine vv_imul dX4_measures_93 ?_
      refine vv_aload_n dX4_measures_94 rfl 0 rfl ?_
      refine tw_get (fl_X4_20 hG) (k := 7) rfl dX4_measures_95 ?_
      refine vv_iload_n dX4_measures_98 rfl 2 rfl ?_
      obtain ⟨v6, iv6, ev6, h⟩ := rd_o h
      refine tw_ald 3 (by decide) rfl iv6 ev6 dX4_measures_99 ?_
      refine vv_iadd dX4_measures_100 ?_
      refine vv_istore (lv' := [(0, .ref o), (1, .int x1), (2, .int x2), (3, .int (((nI 8) * v3) + v4)), (4, .int (((nI 8) * v5) + v6))]) dX4_measures_101 (by decide) [1, 2, 3, 4, 0] rfl ?_
      refine vv_aload_n dX4_measures_103 rfl 0 rfl ?_
      refine tw_get (fl_X4_87 hG) (k := 48) rfl dX4_measures_104 ?_
      refine vv_iload_n dX4_measures_107 rfl 3 rfl ?_
      refine vv_aload_n dX4_measures_108 rfl 0 rfl ?_
      refine tw_get (fl_X4_26 hG) (k := 9) rfl dX4_measures_109 ?_
      refine vv_iload_n dX4_measures_112 rfl 2 rfl ?_
      obtain ⟨v7, iv7, ev7, h⟩ := rd_o h
      refine tw_ald 5 (by decide) rfl iv7 ev7 dX4_measures_113 ?_
      obtain ⟨T8, iT8, eT8, h⟩ := st_o h
      refine tw_ast 24 (by decide) rfl iT8 eT8 dX4_measures_114 ?_
      refine vv_aload_n dX4_measures_115 rfl 0 rfl ?_
      refine tw_get (fl_X4_87 hG) (k := 48) rfl dX4_measures_116 ?_
      refine vv_iload dX4_measures_119 4 rfl ?_
      refine vv_aload_n dX4_measures_121 rfl 0 rfl ?_
      refine tw_get (fl_X4_26 hG) (k := 9) rfl dX4_measures_122 ?_
      refine vv_iload_n dX4_measures_125 rfl 2 rfl ?_
      obtain ⟨v9, iv9, ev9, h⟩ := rd_o h
      refine tw_ald 5 (by decide) rfl iv9 ev9 dX4_measures_126 ?_
      obtain ⟨T10, iT10, eT10, h⟩ := st_o h
      refine tw_ast 24 (by decide) rfl iT10 eT10 dX4_measures_127 ?_
      refine vv_aload_n dX4_measures_128 rfl 0 rfl ?_
      refine tw_get (fl_X4_90 hG) (k := 49) rfl dX4_measures_129 ?_
      refine vv_iload_n dX4_measures_132 rfl 3 rfl ?_
      refine vv_aload_n dX4_measures_133 rfl 0 rfl ?_
      refine tw_get (fl_X4_26 hG) (k := 9) rfl dX4_measures_134 ?_
      refine vv_iload_n dX4_measures_137 rfl 2 rfl ?_
      obtain ⟨v11, iv11, ev11, h⟩ := rd_o h
      refine tw_ald 5 (by decide) rfl iv11 ev11 dX4_measures_138 ?_
      refine vv_aload_n dX4_measures_139 rfl 0 rfl ?_
      refine tw_get (fl_X4_29 hG) (k := 10) rfl dX4_measures_140 ?_
      refine vv_iload_n dX4_measures_143 rfl 2 rfl ?_
      obtain ⟨v12, iv12, ev12, h⟩ := rd_o h
      refine tw_ald 6 (by decide) rfl iv12 ev12 dX4_measures_144 ?_
      refine vv_imul dX4_measures_145 ?_
      obtain ⟨T13, iT13, eT13, h⟩ := st_o h
      refine tw_ast 25 (by decide) rfl iT13 eT13 dX4_measures_146 ?_
      refine vv_aload_n dX4_measures_147 rfl 0 rfl ?_
      refine tw_get (fl_X4_90 hG) (k := 49) rfl dX4_measures_148 ?_
      refine vv_iload dX4_measures_151 4 rfl ?_
      refine vv_aload_n dX4_measures_153 rfl 0 rfl ?_
      refine tw_get (fl_X4_90 hG) (k := 49) rfl dX4_measures_154 ?_
      refine vv_iload_n dX4_measures_157 rfl 3 rfl ?_
      obtain ⟨v14, iv14, ev14, h⟩ := rd_o h
      refine tw_ald 25 (by decide) rfl iv14 ev14 dX4_measures_158 ?_
      obtain ⟨T15, iT15, eT15, h⟩ := st_o h
      refine tw_ast 25 (by decide) rfl iT15 eT15 dX4_measures_159 ?_
      refine vv_sub (lv' := [(0, .ref o), (1, .int x1), (2, .int x2)]) [0, 1, 2] rfl ?_
      exact v_measures_160 hG hk52 h
    · rw [if_pos c2] at h
      refine vv_goto (tgt := 160) dX4_measures_65 (by decide) ?_
      exact v_measures_160 hG hk52 h
theorem v_measures_52 {l : Launch} {G : vv_G} {d : Nat} {o : Nat} {h0 : Nat → Option vv_E} {nz : Nat × Nat} (hG : vv_gok G) : ∀ (n : Nat) {x1 : Int32} {x2 : Int32} {T : tw_T} {r : tw_T}, J_measures_52 n x1 x2 T = some r → vv_V l G MX4_measures (d + 1) 52 [(0, .ref o), (1, .int x1), (2, .int x2)] [] (tp o h0 T, nz) (.inl none, (tp o h0 r, nz)) := by
  intro n
  induction n with
  | zero => intro _ _ _ _ h; cases h
  | succ n ih => intro _ _ _ _ h; exact vb_measures_52 hG ih h
def J_measures_31 (k2 : Int32 → Int32 → tw_T → Option tw_T) (s1 : Int32) (s2 : Int32) (x1 : Int32) (x2 : Int32) (T : tw_T) : Option tw_T := (stA T 24 64 s1 s2).bind fun T1 => (rdI 64 (T1.2.2 24) x2).bind fun v2 => (stA T1 25 64 x2 v2).bind fun T3 => k2 x1 (x2 + (nI 1)) T3
theorem v_measures_31 {l : Launch} {G : vv_G} {d : Nat} {o : Nat} {h0 : Nat → Option vv_E} {nz : Nat × Nat} (hG : vv_gok G) {k2 : Int32 → Int32 → tw_T → Option tw_T} (hk2 : ∀ {x1 : Int32} {x2 : Int32} {T : tw_T} {r : tw_T}, k2 x1 x2 T = some r → vv_V l G MX4_measures (d + 1) 2 [(0, .ref o), (1, .int x1), (2, .int x2)] [] (tp o h0 T, nz) (.inl none, (tp o h0 r, nz))) {s1 : Int32} {s2 : Int32} {x1 : Int32} {x2 : Int32} {T : tw_T} {r : tw_T} (h : J_measures_31 k2 s1 s2 x1 x2 T = some r) : vv_V l G MX4_measures (d + 1) 31 [(0, .ref o), (1, .int x1), (2, .int x2)] [.int s2, .int s1, .ref (o + 24)] (tp o h0 T, nz) (.inl none, (tp o h0 r, nz)) := by
  unfold J_measures_31 at h
  obtain ⟨T1, iT1, eT1, h⟩ := st_o h
  refine tw_ast 24 (by decide) rfl iT1 eT1 dX4_measures_31 ?_
  refine vv_aload_n dX4_measures_32 rfl 0 rfl ?_
  refine tw_get (fl_X4_90 hG) (k := 49) rfl dX4_measures_33 ?_
  refine vv_iload_n dX4_measures_36 rfl 2 rfl ?_
  refine vv_aload_n dX4_measures_37 rfl 0 rfl ?_
  refine tw_get (fl_X4_87 hG) (k := 48) rfl dX4_measures_38 ?_
  refine vv_iload_n dX4_measures_41 rfl 2 rfl ?_
  obtain ⟨v2, iv2, ev2, h⟩ := rd_o h
  refine tw_ald 24 (by decide) rfl iv2 ev2 dX4_measures_42 ?_
  obtain ⟨T3, iT3, eT3, h⟩ := st_o h
  refine tw_ast 25 (by decide) rfl iT3 eT3 dX4_measures_43 ?_
  refine vv_iinc (v := (x2 + (nI 1))) (lv' := [(0, .ref o), (1, .int x1), (2, .int (x2 + (nI 1)))]) dX4_measures_44 2 rfl rfl (by decide) [1, 2, 0] rfl ?_
  refine vv_goto (tgt := 2) dX4_measures_47 (by decide) ?_
  exact hk2 h
def B_measures_2 (k2 : Int32 → Int32 → tw_T → Option tw_T) (x1 : Int32) (x2 : Int32) (T : tw_T) : Option tw_T := if (nI 64) ≤ x2 then (J_measures_52 NN x1 (nI 0) T) else ((dvI x2 (nI 8)).bind fun v2 => (rmI x2 (nI 8)).bind fun v4 => if v2 = v4 then (J_measures_31 k2 x2 (nI 0) x1 x2 T) else (J_measures_31 k2 x2 (nI 99999) x1 x2 T))
def J_measures_2 : Nat → Int32 → Int32 → tw_T → Option tw_T
  | 0, _, _, _ => none
  | n + 1, x1, x2, T => B_measures_2 (J_measures_2 n) x1 x2 T
theorem vb_measures_2 {l : Launch} {G : vv_G} {d : Nat} {o : Nat} {h0 : Nat → Option vv_E} {nz : Nat × Nat} (hG : vv_gok G) {k2 : Int32 → Int32 → tw_T → Option tw_T} (hk2 : ∀ {x1 : Int32} {x2 : Int32} {T : tw_T} {r : tw_T}, k2 x1 x2 T = some r → vv_V l G MX4_measures (d + 1) 2 [(0, .ref o), (1, .int x1), (2, .int x2)] [] (tp o h0 T, nz) (.inl none, (tp o h0 r, nz))) {x1 : Int32} {x2 : Int32} {T : tw_T} {r : tw_T} (h : B_measures_2 k2 x1 x2 T = some r) : vv_V l G MX4_measures (d + 1) 2 [(0, .ref o), (1, .int x1), (2, .int x2)] [] (tp o h0 T, nz) (.inl none, (tp o h0 r, nz)) := by
  unfold B_measures_2 at h
  refine vv_iload_n dX4_measures_2 rfl 2 rfl ?_
  refine vv_bipush (v := (nI 64)) dX4_measures_3 (by decide) ?_
  refine vv_icmp_ge (tgt := 50) dX4_measures_5 (by decide) (fun c1 => ?_) (fun c1 => ?_)
  · rw [if_pos c1] at h
    refine vv_iconst (v := (nI 0)) dX4_measures_50 (by decide) ?_
    refine vv_istore_n (lv' := [(0, .ref o), (1, .int x1), (2, .int (nI 0))]) dX4_measures_51 rfl (by decide) [1, 2, 0] rfl ?_
    exact v_measures_52 hG NN h
  · rw [if_neg c1] at h
    refine vv_aload_n dX4_measures_8 rfl 0 rfl ?_
    refine tw_get (fl_X4_87 hG) (k := 48) rfl dX4_measures_9 ?_
    refine vv_iload_n dX4_measures_12 rfl 2 rfl ?_
    refine vv_iload_n dX4_measures_13 rfl 2 rfl ?_
    refine vv_bipush (v := (nI 8)) dX4_measures_14 (by decide) ?_
    obtain ⟨hz3, h⟩ := dv_o h
    refine vv_idiv dX4_measures_16 hz3 ?_
    obtain ⟨v2, ev2⟩ : ∃ z, z = (x2 / (nI 8)) := ⟨_, rfl⟩
    rw [← ev2] at h ⊢
    refine vv_iload_n dX4_measures_17 rfl 2 rfl ?_
    refine vv_bipush (v := (nI 8)) dX4_measures_18 (by decide) ?_
    obtain ⟨hz5, h⟩ := rm_o h
    refine vv_irem dX4_measures_20 hz5 ?_
    obtain ⟨v4, ev4⟩ : ∃ z, z = (x2 - x2 / (nI 8) * (nI 8)) := ⟨_, rfl⟩
    rw [← ev4] at h ⊢
    refine vv_icmp_ne (tgt := 28) dX4_measures_21 (by decide) (fun c6 => ?_) (fun c6 => ?_)
    · rw [if_neg c6] at h
      refine vv_ldcw (v := (nI 99999)) dX4_measures_28 q2075 ?_
      exact v_measures_31 hG hk2 h
    · rw [if_pos c6] at h
      refine vv_iconst (v := (nI 0)) dX4_measures_24 (by decide) ?_
      refine vv_goto (tgt := 31) dX4_measures_25 (by decide) ?_
      exact v_measures_31 hG hk2 h
theorem v_measures_2 {l : Launch} {G : vv_G} {d : Nat} {o : Nat} {h0 : Nat → Option vv_E} {nz : Nat × Nat} (hG : vv_gok G) : ∀ (n : Nat) {x1 : Int32} {x2 : Int32} {T : tw_T} {r : tw_T}, J_measures_2 n x1 x2 T = some r → vv_V l G MX4_measures (d + 1) 2 [(0, .ref o), (1, .int x1), (2, .int x2)] [] (tp o h0 T, nz) (.inl none, (tp o h0 r, nz)) := by
  intro n
  induction n with
  | zero => intro _ _ _ _ h; cases h
  | succ n ih => intro _ _ _ _ h; exact vb_measures_2 hG ih h
def J_measures (x1 : Int32) (T : tw_T) : Option tw_T := J_measures_2 NN x1 (nI 0) T
theorem v_measures_0 {l : Launch} {G : vv_G} {d : Nat} {o : Nat} {h0 : Nat → Option vv_E} {nz : Nat × Nat} (hG : vv_gok G) {x1 : Int32} {T : tw_T} {r : tw_T} (h : J_measures x1 T = some r) : vv_V l G MX4_measures (d + 1) 0 [(0, .ref o), (1, .int x1)] [] (tp o h0 T, nz) (.inl none, (tp o h0 r, nz)) := by
  unfold J_measures at h
  refine vv_iconst (v := (nI 0)) dX4_measures_0 (by decide) ?_
  refine vv_istore_n (lv' := [(0, .ref o), (1, .int x1), (2, .int (nI 0))]) dX4_measures_1 rfl (by decide) [1, 2, 0] rfl ?_
  exact v_measures_2 hG NN h
theorem m_measures {l : Launch} {G : vv_G} {o : Nat} {h0 : Nat → Option vv_E} {nz : Nat × Nat} (hG : vv_gok G) {x1 : Int32} {T : tw_T} {r : tw_T} (h : J_measures x1 T = some r) (d : Nat) : vv_Met l G MX4_measures (d + 1) [.ref o, .int x1] (tp o h0 T, nz) (.inl none, (tp o h0 r, nz)) := vv_head (by decide +kernel) rfl (Nat.le_of_ble_eq_true rfl) rfl (v_measures_0 hG h)
/-! orNone -/
def J_orNone_12 (s0 : Int32) : Option Int32 := some s0
theorem v_orNone_12 {l : Launch} {G : vv_G} {d : Nat} {σ : vv_S} (hG : vv_gok G) {s0 : Int32} {r : Int32} (h : J_orNone_12 s0 = some r) : vv_V l G MX4_orNone (d + 0) 12 [] [.int s0] σ (.inl (some (.int r)), σ) := by
  unfold J_orNone_12 at h
  cases h
  exact vv_iret rfl dX4_orNone_12
def J_orNone (x0 : Int32) : Option Int32 := if x0 < (nI 99999) then (J_orNone_12 x0) else (J_orNone_12 (-1))
theorem v_orNone_0 {l : Launch} {G : vv_G} {d : Nat} {σ : vv_S} (hG : vv_gok G) {x0 : Int32} {r : Int32} (h : J_orNone x0 = some r) : vv_V l G MX4_orNone (d + 0) 0 [(0, .int x0)] [] σ (.inl (some (.int r)), σ) := by
  unfold J_orNone at h
  refine vv_iload_n dX4_orNone_0 rfl 0 rfl ?_
  refine vv_ldcw (v := (nI 99999)) dX4_orNone_1 q2075 ?_
  refine vv_icmp_lt (tgt := 11) dX4_orNone_4 (by decide) (fun c1 => ?_) (fun c1 => ?_)
  · rw [if_pos c1] at h
    refine vv_iload_n dX4_orNone_11 rfl 0 rfl ?_
    refine vv_sub (lv' := []) [] rfl ?_
    exact v_orNone_12 hG h
  · rw [if_neg c1] at h
    refine vv_iconst (v := (-1)) dX4_orNone_7 (by decide) ?_
    refine vv_goto (tgt := 12) dX4_orNone_8 (by decide) ?_
    refine vv_sub (lv' := []) [] rfl ?_
    exact v_orNone_12 hG h
theorem m_orNone {l : Launch} {G : vv_G} {σ : vv_S} (hG : vv_gok G) {x0 : Int32} {r : Int32} (h : J_orNone x0 = some r) (d : Nat) : vv_Met l G MX4_orNone (d + 0) [.int x0] σ (.inl (some (.int r)), σ) := vv_head (by decide +kernel) rfl (Nat.le_of_ble_eq_true rfl) rfl (v_orNone_0 hG h)
/-! far -/
def J_far_21 (T : tw_T) : Option (Int32 × tw_T) := some ((nI 0), T)
theorem v_far_21 {l : Launch} {G : vv_G} {d : Nat} {o : Nat} {h0 : Nat → Option vv_E} {nz : Nat × Nat} (hG : vv_gok G) {T : tw_T} {r : Int32 × tw_T} (h : J_far_21 T = some r) : vv_V l G MX4_far (d + 2) 21 [(0, .ref o)] [] (tp o h0 T, nz) (.inl (some (.int r.1)), (tp o h0 r.2, nz)) := by
  unfold J_far_21 at h
  refine vv_iconst (v := (nI 0)) dX4_far_21 (by decide) ?_
  cases h
  exact vv_iret rfl dX4_far_22
def J_far (x1 : Int32) (x2 : Int32) (T : tw_T) : Option (Int32 × tw_T) := (some (tw_F T 0 (nI 0))).bind fun T1 => (J_isTown x1 T1).bind fun r2 => if r2.1 = 0 then (J_far_21 r2.2) else ((J_isTown x2 r2.2).bind fun r4 => if r4.1 = 0 then (J_far_21 r4.2) else ((J_measures (-1) r4.2).bind fun r6 => (rdI 64 (r6.2.2 24) (((nI 8) * x1) + x2)).bind fun v7 => (J_orNone v7).bind fun r8 => some (r8, r6)))
theorem v_far_0 {l : Launch} {G : vv_G} {d : Nat} {o : Nat} {h0 : Nat → Option vv_E} {nz : Nat × Nat} (hG : vv_gok G) {x1 : Int32} {x2 : Int32} {T : tw_T} {r : Int32 × tw_T} (h : J_far x1 x2 T = some r) : vv_V l G MX4_far (d + 2) 0 [(0, .ref o), (1, .int x1), (2, .int x2)] [] (tp o h0 T, nz) (.inl (some (.int r.1)), (tp o h0 r.2, nz)) := by
  unfold J_far at h
  refine vv_aload_n dX4_far_0 rfl 0 rfl ?_
  refine vv_iconst (v := (nI 0)) dX4_far_1 (by decide) ?_
  obtain ⟨T1, eT1, h⟩ := bd_s h
  refine tw_put (T1 := T1) (pt_X4_117 hG) hG rfl rfl rfl (by decide) (by rw [eT1]; exact tw_set0 _ _ _) (by rw [eT1]; rfl) dX4_far_2 ?_
  refine vv_aload_n dX4_far_5 rfl 0 rfl ?_
  refine vv_iload_n dX4_far_6 rfl 1 rfl ?_
  obtain ⟨r2, er2, h⟩ := bd_o h
  refine vv_callV ok_X4_isTown q1935 (m_isTown hG er2 (d + 0)) rfl (by omega) ⟨_, _, _, _, _, tp_o, by rw [hG.1]; rfl⟩ rfl rfl (Nat.le_of_ble_eq_true rfl) dX4_far_7 ?_
  refine vv_if_eq (tgt := 21) dX4_far_10 (by decide) (fun c3 => ?_) (fun c3 => ?_)
  · rw [if_pos c3] at h
    refine vv_sub (lv' := [(0, .ref o)]) [0] rfl ?_
    exact v_far_21 hG h
  · rw [if_neg c3] at h
    refine vv_aload_n dX4_far_13 rfl 0 rfl ?_
    refine vv_iload_n dX4_far_14 rfl 2 rfl ?_
    obtain ⟨r4, er4, h⟩ := bd_o h
    refine vv_callV ok_X4_isTown q1935 (m_isTown hG er4 (d + 0)) rfl (by omega) ⟨_, _, _, _, _, tp_o, by rw [hG.1]; rfl⟩ rfl rfl (Nat.le_of_ble_eq_true rfl) dX4_far_15 ?_
    refine vv_if_ne (tgt := 23) dX4_far_18 (by decide) (fun c5 => ?_) (fun c5 => ?_)
    · rw [if_neg c5] at h
      refine vv_aload_n dX4_far_23 rfl 0 rfl ?_
      refine vv_iconst (v := (-1)) dX4_far_24 (by decide) ?_
      obtain ⟨r6, er6, h⟩ := bd_o h
      refine vv_callV ok_X4_measures q2071 (m_measures hG er6 (d + 0)) rfl (by omega) ⟨_, _, _, _, _, tp_o, by rw [hG.1]; rfl⟩ rfl rfl (Nat.le_of_ble_eq_true rfl) dX4_far_25 ?_
      refine vv_aload_n dX4_far_28 rfl 0 rfl ?_
      refine tw_get (fl_X4_87 hG) (k := 48) rfl dX4_far_29 ?_
      refine vv_bipush (v := (nI 8)) dX4_far_32 (by decide) ?_
      refine vv_iload_n dX4_far_34 rfl 1 rfl ?_
      refine vv_imul dX4_far_35 ?_
      refine vv_iload_n dX4_far_36 rfl 2 rfl ?_
      refine vv_iadd dX4_far_37 ?_
      obtain ⟨v7, iv7, ev7, h⟩ := rd_o h
      refine tw_ald 24 (by decide) rfl iv7 ev7 dX4_far_38 ?_
      obtain ⟨r8, er8, h⟩ := bd_o h
      refine vv_callS ok_X4_orNone q2076 (m_orNone hG er8 (d + 1)) rfl (by omega) rfl rfl (Nat.le_of_ble_eq_true rfl) dX4_far_39 ?_
      cases h
      exact vv_iret rfl dX4_far_42
    · rw [if_pos c5] at h
      refine vv_sub (lv' := [(0, .ref o)]) [0] rfl ?_
      exact v_far_21 hG h
theorem m_far {l : Launch} {G : vv_G} {o : Nat} {h0 : Nat → Option vv_E} {nz : Nat × Nat} (hG : vv_gok G) {x1 : Int32} {x2 : Int32} {T : tw_T} {r : Int32 × tw_T} (h : J_far x1 x2 T = some r) (d : Nat) : vv_Met l G MX4_far (d + 2) [.ref o, .int x1, .int x2] (tp o h0 T, nz) (.inl (some (.int r.1)), (tp o h0 r.2, nz)) := vv_head (by decide +kernel) rfl (Nat.le_of_ble_eq_true rfl) rfl (v_far_0 hG h)
/-! leak -/
def J_leak_21 (T : tw_T) : Option (Int32 × tw_T) := some ((nI 0), T)
theorem v_leak_21 {l : Launch} {G : vv_G} {d : Nat} {o : Nat} {h0 : Nat → Option vv_E} {nz : Nat × Nat} (hG : vv_gok G) {T : tw_T} {r : Int32 × tw_T} (h : J_leak_21 T = some r) : vv_V l G MX4_leak (d + 2) 21 [(0, .ref o)] [] (tp o h0 T, nz) (.inl (some (.int r.1)), (tp o h0 r.2, nz)) := by
  unfold J_leak_21 at h
  refine vv_iconst (v := (nI 0)) dX4_leak_21 (by decide) ?_
  cases h
  exact vv_iret rfl dX4_leak_22
def J_leak (x1 : Int32) (x2 : Int32) (T : tw_T) : Option (Int32 × tw_T) := (some (tw_F T 0 (nI 0))).bind fun T1 => (J_isTown x1 T1).bind fun r2 => if r2.1 = 0 then (J_leak_21 r2.2) else ((J_isTown x2 r2.2).bind fun r4 => if r4.1 = 0 then (J_leak_21 r4.2) else ((J_measures (-1) r4.2).bind fun r6 => (rdI 64 (r6.2.2 25) (((nI 8) * x1) + x2)).bind fun v7 => (J_orNone v7).bind fun r8 => some (r8, r6)))
theorem v_leak_0 {l : Launch} {G : vv_G} {d : Nat} {o : Nat} {h0 : Nat → Option vv_E} {nz : Nat × Nat} (hG : vv_gok G) {x1 : Int32} {x2 : Int32} {T : tw_T} {r : Int32 × tw_T} (h : J_leak x1 x2 T = some r) : vv_V l G MX4_leak (d + 2) 0 [(0, .ref o), (1, .int x1), (2, .int x2)] [] (tp o h0 T, nz) (.inl (some (.int r.1)), (tp o h0 r.2, nz)) := by
  unfold J_leak at h
  refine vv_aload_n dX4_leak_0 rfl 0 rfl ?_
  refine vv_iconst (v := (nI 0)) dX4_leak_1 (by decide) ?_
  obtain ⟨T1, eT1, h⟩ := bd_s h
  refine tw_put (T1 := T1) (pt_X4_117 hG) hG rfl rfl rfl (by decide) (by rw [eT1]; exact tw_set0 _ _ _) (by rw [eT1]; rfl) dX4_leak_2 ?_
  refine vv_aload_n dX4_leak_5 rfl 0 rfl ?_
  refine vv_iload_n dX4_leak_6 rfl 1 rfl ?_
  obtain ⟨r2, er2, h⟩ := bd_o h
  refine vv_callV ok_X4_isTown q1935 (m_isTown hG er2 (d + 0)) rfl (by omega) ⟨_, _, _, _, _, tp_o, by rw [hG.1]; rfl⟩ rfl rfl (Nat.le_of_ble_eq_true rfl) dX4_leak_7 ?_
  refine vv_if_eq (tgt := 21) dX4_leak_10 (by decide) (fun c3 => ?_) (fun c3 => ?_)
  · rw [if_pos c3] at h
    refine vv_sub (lv' := [(0, .ref o)]) [0] rfl ?_
    exact v_leak_21 hG h
  · rw [if_neg c3] at h
    refine vv_aload_n dX4_leak_13 rfl 0 rfl ?_
    refine vv_iload_n dX4_leak_14 rfl 2 rfl ?_
    obtain ⟨r4, er4, h⟩ := bd_o h
    refine vv_callV ok_X4_isTown q1935 (m_isTown hG er4 (d + 0)) rfl (by omega) ⟨_, _, _, _, _, tp_o, by rw [hG.1]; rfl⟩ rfl rfl (Nat.le_of_ble_eq_true rfl) dX4_leak_15 ?_
    refine vv_if_ne (tgt := 23) dX4_leak_18 (by decide) (fun c5 => ?_) (fun c5 => ?_)
    · rw [if_neg c5] at h
      refine vv_aload_n dX4_leak_23 rfl 0 rfl ?_
      refine vv_iconst (v := (-1)) dX4_leak_24 (by decide) ?_
      obtain ⟨r6, er6, h⟩ := bd_o h
      refine vv_callV ok_X4_measures q2071 (m_measures hG er6 (d + 0)) rfl (by omega) ⟨_, _, _, _, _, tp_o, by rw [hG.1]; rfl⟩ rfl rfl (Nat.le_of_ble_eq_true rfl) dX4_leak_25 ?_
      refine vv_aload_n dX4_leak_28 rfl 0 rfl ?_
      refine tw_get (fl_X4_90 hG) (k := 49) rfl dX4_leak_29 ?_
      refine vv_bipush (v := (nI 8)) dX4_leak_32 (by decide) ?_
      refine vv_iload_n dX4_leak_34 rfl 1 rfl ?_
      refine vv_imul dX4_leak_35 ?_
      refine vv_iload_n dX4_leak_36 rfl 2 rfl ?_
      refine vv_iadd dX4_leak_37 ?_
      obtain ⟨v7, iv7, ev7, h⟩ := rd_o h
      refine tw_ald 25 (by decide) rfl iv7 ev7 dX4_leak_38 ?_
      obtain ⟨r8, er8, h⟩ := bd_o h
      refine vv_callS ok_X4_orNone q2076 (m_orNone hG er8 (d + 1)) rfl (by omega) rfl rfl (Nat.le_of_ble_eq_true rfl) dX4_leak_39 ?_
      cases h
      exact vv_iret rfl dX4_leak_42
    · rw [if_pos c5] at h
      refine vv_sub (lv' := [(0, .ref o)]) [0] rfl ?_
      exact v_leak_21 hG h
theorem m_leak {l : Launch} {G : vv_G} {o : Nat} {h0 : Nat → Option vv_E} {nz : Nat × Nat} (hG : vv_gok G) {x1 : Int32} {x2 : Int32} {T : tw_T} {r : Int32 × tw_T} (h : J_leak x1 x2 T = some r) (d : Nat) : vv_Met l G MX4_leak (d + 2) [.ref o, .int x1, .int x2] (tp o h0 T, nz) (.inl (some (.int r.1)), (tp o h0 r.2, nz)) := vv_head (by decide +kernel) rfl (Nat.le_of_ble_eq_true rfl) rfl (v_leak_0 hG h)
/-! comesTo -/
def J_comesTo_70 (s0 : Int32) (T : tw_T) : Option (Int32 × tw_T) := some (s0, T)
theorem v_comesTo_70 {l : Launch} {G : vv_G} {d : Nat} {o : Nat} {h0 : Nat → Option vv_E} {nz : Nat × Nat} (hG : vv_gok G) {s0 : Int32} {T : tw_T} {r : Int32 × tw_T} (h : J_comesTo_70 s0 T = some r) : vv_V l G MX4_comesTo (d + 0) 70 [(0, .ref o)] [.int s0] (tp o h0 T, nz) (.inl (some (.int r.1)), (tp o h0 r.2, nz)) := by
  unfold J_comesTo_70 at h
  cases h
  exact vv_iret rfl dX4_comesTo_70
def J_comesTo_56 (s0 : Int32) (s1 : Int32) (T : tw_T) : Option (Int32 × tw_T) := if 0 ≤ (s0 - s1) then (J_comesTo_70 (s0 - s1) T) else (J_comesTo_70 (nI 0) T)
theorem v_comesTo_56 {l : Launch} {G : vv_G} {d : Nat} {o : Nat} {h0 : Nat → Option vv_E} {nz : Nat × Nat} (hG : vv_gok G) {s0 : Int32} {s1 : Int32} {T : tw_T} {r : Int32 × tw_T} (h : J_comesTo_56 s0 s1 T = some r) : vv_V l G MX4_comesTo (d + 0) 56 [(0, .ref o)] [.int s1, .int s0] (tp o h0 T, nz) (.inl (some (.int r.1)), (tp o h0 r.2, nz)) := by
  unfold J_comesTo_56 at h
  refine vv_isub dX4_comesTo_56 ?_
  refine vv_istore (lv' := [(0, .ref o), (4, .int (s0 - s1))]) dX4_comesTo_57 (by decide) [1, 0] rfl ?_
  refine vv_iload dX4_comesTo_59 1 rfl ?_
  refine vv_if_ge (tgt := 68) dX4_comesTo_61 (by decide) (fun c1 => ?_) (fun c1 => ?_)
  · rw [if_pos c1] at h
    refine vv_iload dX4_comesTo_68 1 rfl ?_
    refine vv_sub (lv' := [(0, .ref o)]) [0] rfl ?_
    exact v_comesTo_70 hG h
  · rw [if_neg c1] at h
    refine vv_iconst (v := (nI 0)) dX4_comesTo_64 (by decide) ?_
    refine vv_goto (tgt := 70) dX4_comesTo_65 (by decide) ?_
    refine vv_sub (lv' := [(0, .ref o)]) [0] rfl ?_
    exact v_comesTo_70 hG h
def J_comesTo (x1 : Int32) (x2 : Int32) (T : tw_T) : Option (Int32 × tw_T) := (rdI 170 (T.2.2 20) ((nI 55) + x1)).bind fun v1 => (rdI 64 (T.2.2 25) (((nI 8) * v1) + x2)).bind fun v2 => if v2 < (nI 99999) then ((rdI 170 (T.2.2 20) ((nI 25) + x1)).bind fun v4 => (rdI 170 (T.2.2 20) ((nI 45) + x1)).bind fun v5 => if v5 = (nI 1) then (J_comesTo_56 v4 (nI 0) T) else (J_comesTo_56 v4 v2 T)) else (some ((nI 0), T))
theorem v_comesTo_0 {l : Launch} {G : vv_G} {d : Nat} {o : Nat} {h0 : Nat → Option vv_E} {nz : Nat × Nat} (hG : vv_gok G) {x1 : Int32} {x2 : Int32} {T : tw_T} {r : Int32 × tw_T} (h : J_comesTo x1 x2 T = some r) : vv_V l G MX4_comesTo (d + 0) 0 [(0, .ref o), (1, .int x1), (2, .int x2)] [] (tp o h0 T, nz) (.inl (some (.int r.1)), (tp o h0 r.2, nz)) := by
  unfold J_comesTo at h
  refine vv_aload_n dX4_comesTo_0 rfl 0 rfl ?_
  refine tw_get (fl_X4_90 hG) (k := 49) rfl dX4_comesTo_1 ?_
  refine vv_bipush (v := (nI 8)) dX4_comesTo_4 (by decide) ?_
  refine vv_aload_n dX4_comesTo_6 rfl 0 rfl ?_
  refine tw_get (fl_X4_75 hG) (k := 42) rfl dX4_comesTo_7 ?_
  refine vv_bipush (v := (nI 55)) dX4_comesTo_10 (by decide) ?_
  refine vv_iload_n dX4_comesTo_12 rfl 1 rfl ?_
  refine vv_iadd dX4_comesTo_13 ?_
  obtain ⟨v1, iv1, ev1, h⟩ := rd_o h
  refine tw_ald 20 (by decide) rfl iv1 ev1 dX4_comesTo_14 ?_
  refine vv_imul dX4_comesTo_15 ?_
  refine vv_iload_n dX4_comesTo_16 rfl 2 rfl ?_
  refine vv_iadd dX4_comesTo_17 ?_
  obtain ⟨v2, iv2, ev2, h⟩ := rd_o h
  refine tw_ald 25 (by decide) rfl iv2 ev2 dX4_comesTo_18 ?_
  refine vv_istore_n (lv' := [(0, .ref o), (1, .int x1), (2, .int x2), (3, .int v2)]) dX4_comesTo_19 rfl (by decide) [1, 2, 3, 0] rfl ?_
  refine vv_iload_n dX4_comesTo_20 rfl 3 rfl ?_
  refine vv_ldcw (v := (nI 99999)) dX4_comesTo_21 q2075 ?_
  refine vv_icmp_lt (tgt := 29) dX4_comesTo_24 (by decide) (fun c3 => ?_) (fun c3 => ?_)
  · rw [if_pos c3] at h
    refine vv_aload_n dX4_comesTo_29 rfl 0 rfl ?_
    refine tw_get (fl_X4_75 hG) (k := 42) rfl dX4_comesTo_30 ?_
    refine vv_bipush (v := (nI 25)) dX4_comesTo_33 (by decide) ?_
    refine vv_iload_n dX4_comesTo_35 rfl 1 rfl ?_
    refine vv_iadd dX4_comesTo_36 ?_
    obtain ⟨v4, iv4, ev4, h⟩ := rd_o h
    refine tw_ald 20 (by decide) rfl iv4 ev4 dX4_comesTo_37 ?_
    refine vv_aload_n dX4_comesTo_38 rfl 0 rfl ?_
    refine tw_get (fl_X4_75 hG) (k := 42) rfl dX4_comesTo_39 ?_
    refine vv_bipush (v := (nI 45)) dX4_comesTo_42 (by decide) ?_
    refine vv_iload_n dX4_comesTo_44 rfl 1 rfl ?_
    refine vv_iadd dX4_comesTo_45 ?_
    obtain ⟨v5, iv5, ev5, h⟩ := rd_o h
    refine tw_ald 20 (by decide) rfl iv5 ev5 dX4_comesTo_46 ?_
    refine vv_iconst (v := (nI 1)) dX4_comesTo_47 (by decide) ?_
    refine vv_icmp_ne (tgt := 55) dX4_comesTo_48 (by decide) (fun c6 => ?_) (fun c6 => ?_)
    · rw [if_neg c6] at h
      refine vv_iload_n dX4_comesTo_55 rfl 3 rfl ?_
      refine vv_sub (lv' := [(0, .ref o)]) [0] rfl ?_
      exact v_comesTo_56 hG h
    · rw [if_pos c6] at h
      refine vv_iconst (v := (nI 0)) dX4_comesTo_51 (by decide) ?_
      refine vv_goto (tgt := 56) dX4_comesTo_52 (by decide) ?_
      refine vv_sub (lv' := [(0, .ref o)]) [0] rfl ?_
      exact v_comesTo_56 hG h
  · rw [if_neg c3] at h
    refine vv_iconst (v := (nI 0)) dX4_comesTo_27 (by decide) ?_
    cases h
    exact vv_iret rfl dX4_comesTo_28
theorem m_comesTo {l : Launch} {G : vv_G} {o : Nat} {h0 : Nat → Option vv_E} {nz : Nat × Nat} (hG : vv_gok G) {x1 : Int32} {x2 : Int32} {T : tw_T} {r : Int32 × tw_T} (h : J_comesTo x1 x2 T = some r) (d : Nat) : vv_Met l G MX4_comesTo (d + 0) [.ref o, .int x1, .int x2] (tp o h0 T, nz) (.inl (some (.int r.1)), (tp o h0 r.2, nz)) := vv_head (by decide +kernel) rfl (Nat.le_of_ble_eq_true rfl) rfl (v_comesTo_0 hG h)
/-! sending -/
def J_sending_29 (T : tw_T) : Option (Int32 × tw_T) := some ((nI 0), T)
theorem v_sending_29 {l : Launch} {G : vv_G} {d : Nat} {o : Nat} {h0 : Nat → Option vv_E} {nz : Nat × Nat} (hG : vv_gok G) {T : tw_T} {r : Int32 × tw_T} (h : J_sending_29 T = some r) : vv_V l G MX4_sending (d + 2) 29 [(0, .ref o)] [] (tp o h0 T, nz) (.inl (some (.int r.1)), (tp o h0 r.2, nz)) := by
  unfold J_sending_29 at h
  refine vv_iconst (v := (nI 0)) dX4_sending_29 (by decide) ?_
  cases h
  exact vv_iret rfl dX4_sending_30
def J_sending_222 (k122 : Int32 → Int32 → Int32 → Int32 → Int32 → tw_T → Option (Int32 × tw_T)) (x1 : Int32) (x2 : Int32) (x3 : Int32) (x4 : Int32) (x5 : Int32) (T : tw_T) : Option (Int32 × tw_T) := k122 x1 x2 x3 x4 (x5 + (nI 1)) T
theorem v_sending_222 {l : Launch} {G : vv_G} {d : Nat} {o : Nat} {h0 : Nat → Option vv_E} {nz : Nat × Nat} (hG : vv_gok G) {k122 : Int32 → Int32 → Int32 → Int32 → Int32 → tw_T → Option (Int32 × tw_T)} (hk122 : ∀ {x1 : Int32} {x2 : Int32} {x3 : Int32} {x4 : Int32} {x5 : Int32} {T : tw_T} {r : Int32 × tw_T}, k122 x1 x2 x3 x4 x5 T = some r → vv_V l G MX4_sending (d + 2) 122 [(0, .ref o), (1, .int x1), (2, .int x2), (3, .int x3), (4, .int x4), (5, .int x5)] [] (tp o h0 T, nz) (.inl (some (.int r.1)), (tp o h0 r.2, nz))) {x1 : Int32} {x2 : Int32} {x3 : Int32} {x4 : Int32} {x5 : Int32} {T : tw_T} {r : Int32 × tw_T} (h : J_sending_222 k122 x1 x2 x3 x4 x5 T = some r) : vv_V l G MX4_sending (d + 2) 222 [(0, .ref o), (1, .int x1), (2, .int x2), (3, .int x3), (4, .int x4), (5, .int x5)] [] (tp o h0 T, nz) (.inl (some (.int r.1)), (tp o h0 r.2, nz)) := by
  unfold J_sending_222 at h
  refine vv_iinc (v := (x5 + (nI 1))) (lv' := [(0, .ref o), (1, .int x1), (2, .int x2), (3, .int x3), (4, .int x4), (5, .int (x5 + (nI 1)))]) dX4_sending_222 5 rfl rfl (by decide) [1, 2, 3, 4, 5, 0] rfl ?_
  refine vv_goto (tgt := 122) dX4_sending_225 (by decide) ?_
  exact hk122 h
def J_sending_220 (k122 : Int32 → Int32 → Int32 → Int32 → Int32 → tw_T → Option (Int32 × tw_T)) (s0 : Int32) (x1 : Int32) (x2 : Int32) (x3 : Int32) (x5 : Int32) (T : tw_T) : Option (Int32 × tw_T) := J_sending_222 k122 x1 x2 x3 s0 x5 T
theorem v_sending_220 {l : Launch} {G : vv_G} {d : Nat} {o : Nat} {h0 : Nat → Option vv_E} {nz : Nat × Nat} (hG : vv_gok G) {k122 : Int32 → Int32 → Int32 → Int32 → Int32 → tw_T → Option (Int32 × tw_T)} (hk122 : ∀ {x1 : Int32} {x2 : Int32} {x3 : Int32} {x4 : Int32} {x5 : Int32} {T : tw_T} {r : Int32 × tw_T}, k122 x1 x2 x3 x4 x5 T = some r → vv_V l G MX4_sending (d + 2) 122 [(0, .ref o), (1, .int x1), (2, .int x2), (3, .int x3), (4, .int x4), (5, .int x5)] [] (tp o h0 T, nz) (.inl (some (.int r.1)), (tp o h0 r.2, nz))) {s0 : Int32} {x1 : Int32} {x2 : Int32} {x3 : Int32} {x5 : Int32} {T : tw_T} {r : Int32 × tw_T} (h : J_sending_220 k122 s0 x1 x2 x3 x5 T = some r) : vv_V l G MX4_sending (d + 2) 220 [(0, .ref o), (1, .int x1), (2, .int x2), (3, .int x3), (5, .int x5)] [.int s0] (tp o h0 T, nz) (.inl (some (.int r.1)), (tp o h0 r.2, nz)) := by
  unfold J_sending_220 at h
  refine vv_istore (lv' := [(0, .ref o), (1, .int x1), (2, .int x2), (3, .int x3), (4, .int s0), (5, .int x5)]) dX4_sending_220 (by decide) [1, 2, 3, 4, 0, 5] rfl ?_
  exact v_sending_222 hG hk122 h
def J_sending_198 (k122 : Int32 → Int32 → Int32 → Int32 → Int32 → tw_T → Option (Int32 × tw_T)) (k165 : Int32 → Int32 → Int32 → Int32 → Int32 → Int32 → Int32 → tw_T → Option (Int32 × tw_T)) (s0 : Int32) (s1 : Int32) (x1 : Int32) (x2 : Int32) (x3 : Int32) (x4 : Int32) (x5 : Int32) (x7 : Int32) (T : tw_T) : Option (Int32 × tw_T) := k165 x1 x2 x3 x4 x5 (s0 + s1) (x7 + (nI 1)) T
theorem v_sending_198 {l : Launch} {G : vv_G} {d : Nat} {o : Nat} {h0 : Nat → Option vv_E} {nz : Nat × Nat} (hG : vv_gok G) {k122 : Int32 → Int32 → Int32 → Int32 → Int32 → tw_T → Option (Int32 × tw_T)} (hk122 : ∀ {x1 : Int32} {x2 : Int32} {x3 : Int32} {x4 : Int32} {x5 : Int32} {T : tw_T} {r : Int32 × tw_T}, k122 x1 x2 x3 x4 x5 T = some r → vv_V l G MX4_sending (d + 2) 122 [(0, .ref o), (1, .int x1), (2, .int x2), (3, .int x3), (4, .int x4), (5, .int x5)] [] (tp o h0 T, nz) (.inl (some (.int r.1)), (tp o h0 r.2, nz))) {k165 : Int32 → Int32 → Int32 → Int32 → Int32 → Int32 → Int32 → tw_T → Option (Int32 × tw_T)} (hk165 : ∀ {x1 : Int32} {x2 : Int32} {x3 : Int32} {x4 : Int32} {x5 : Int32} {x6 : Int32} {x7 : Int32} {T : tw_T} {r : Int32 × tw_T}, k165 x1 x2 x3 x4 x5 x6 x7 T = some r → vv_V l G MX4_sending (d + 2) 165 [(0, .ref o), (1, .int x1), (2, .int x2), (3, .int x3), (4, .int x4), (5, .int x5), (6, .int x6), (7, .int x7)] [] (tp o h0 T, nz) (.inl (some (.int r.1)), (tp o h0 r.2, nz))) {s0 : Int32} {s1 : Int32} {x1 : Int32} {x2 : Int32} {x3 : Int32} {x4 : Int32} {x5 : Int32} {x7 : Int32} {T : tw_T} {r : Int32 × tw_T} (h : J_sending_198 k122 k165 s0 s1 x1 x2 x3 x4 x5 x7 T = some r) : vv_V l G MX4_sending (d + 2) 198 [(0, .ref o), (1, .int x1), (2, .int x2), (3, .int x3), (4, .int x4), (5, .int x5), (7, .int x7)] [.int s1, .int s0] (tp o h0 T, nz) (.inl (some (.int r.1)), (tp o h0 r.2, nz)) := by
  unfold J_sending_198 at h
  refine vv_iadd dX4_sending_198 ?_
  refine vv_istore (lv' := [(0, .ref o), (1, .int x1), (2, .int x2), (3, .int x3), (4, .int x4), (5, .int x5), (6, .int (s0 + s1)), (7, .int x7)]) dX4_sending_199 (by decide) [1, 2, 3, 4, 5, 6, 0, 7] rfl ?_
  refine vv_iinc (v := (x7 + (nI 1))) (lv' := [(0, .ref o), (1, .int x1), (2, .int x2), (3, .int x3), (4, .int x4), (5, .int x5), (6, .int (s0 + s1)), (7, .int (x7 + (nI 1)))]) dX4_sending_201 7 rfl rfl (by decide) [1, 2, 3, 4, 5, 6, 7, 0] rfl ?_
  refine vv_goto (tgt := 165) dX4_sending_204 (by decide) ?_
  exact hk165 h
def B_sending_165 (k122 : Int32 → Int32 → Int32 → Int32 → Int32 → tw_T → Option (Int32 × tw_T)) (k165 : Int32 → Int32 → Int32 → Int32 → Int32 → Int32 → Int32 → tw_T → Option (Int32 × tw_T)) (x1 : Int32) (x2 : Int32) (x3 : Int32) (x4 : Int32) (x5 : Int32) (x6 : Int32) (x7 : Int32) (T : tw_T) : Option (Int32 × tw_T) := if (T.1 3) ≤ x7 then (if x6 < x2 then (J_sending_220 k122 x4 x1 x2 x3 x5 T) else (J_sending_220 k122 x5 x1 x2 x3 x5 T)) else (if ((x5 >>> (x7 &&& 31)) &&& (nI 1)) = (nI 1) then ((J_comesTo x7 x1 T).bind fun r4 => J_sending_198 k122 k165 x6 r4.1 x1 x2 x3 x4 x5 x7 r4.2) else (J_sending_198 k122 k165 x6 (nI 0) x1 x2 x3 x4 x5 x7 T))
def J_sending_165 (k122 : Int32 → Int32 → Int32 → Int32 → Int32 → tw_T → Option (Int32 × tw_T)) : Nat → Int32 → Int32 → Int32 → Int32 → Int32 → Int32 → Int32 → tw_T → Option (Int32 × tw_T)
  | 0, _, _, _, _, _, _, _, _ => none
  | n + 1, x1, x2, x3, x4, x5, x6, x7, T => B_sending_165 k122 (J_sending_165 k122 n) x1 x2 x3 x4 x5 x6 x7 T
theorem vb_sending_165 {l : Launch} {G : vv_G} {d : Nat} {o : Nat} {h0 : Nat → Option vv_E} {nz : Nat × Nat} (hG : vv_gok G) {k122 : Int32 → Int32 → Int32 → Int32 → Int32 → tw_T → Option (Int32 × tw_T)} (hk122 : ∀ {x1 : Int32} {x2 : Int32} {x3 : Int32} {x4 : Int32} {x5 : Int32} {T : tw_T} {r : Int32 × tw_T}, k122 x1 x2 x3 x4 x5 T = some r → vv_V l G MX4_sending (d + 2) 122 [(0, .ref o), (1, .int x1), (2, .int x2), (3, .int x3), (4, .int x4), (5, .int x5)] [] (tp o h0 T, nz) (.inl (some (.int r.1)), (tp o h0 r.2, nz))) {k165 : Int32 → Int32 → Int32 → Int32 → Int32 → Int32 → Int32 → tw_T → Option (Int32 × tw_T)} (hk165 : ∀ {x1 : Int32} {x2 : Int32} {x3 : Int32} {x4 : Int32} {x5 : Int32} {x6 : Int32} {x7 : Int32} {T : tw_T} {r : Int32 × tw_T}, k165 x1 x2 x3 x4 x5 x6 x7 T = some r → vv_V l G MX4_sending (d + 2) 165 [(0, .ref o), (1, .int x1), (2, .int x2), (3, .int x3), (4, .int x4), (5, .int x5), (6, .int x6), (7, .int x7)] [] (tp o h0 T, nz) (.inl (some (.int r.1)), (tp o h0 r.2, nz))) {x1 : Int32} {x2 : Int32} {x3 : Int32} {x4 : Int32} {x5 : Int32} {x6 : Int32} {x7 : Int32} {T : tw_T} {r : Int32 × tw_T} (h : B_sending_165 k122 k165 x1 x2 x3 x4 x5 x6 x7 T = some r) : vv_V l G MX4_sending (d + 2) 165 [(0, .ref o), (1, .int x1), (2, .int x2), (3, .int x3), (4, .int x4), (5, .int x5), (6, .int x6), (7, .int x7)] [] (tp o h0 T, nz) (.inl (some (.int r.1)), (tp o h0 r.2, nz)) := by
  unfold B_sending_165 at h
  refine vv_iload dX4_sending_165 7 rfl ?_
  refine vv_aload_n dX4_sending_167 rfl 0 rfl ?_
  refine tw_get (fl_X4_287 hG) (k := 3) rfl dX4_sending_168 ?_
  refine vv_icmp_ge (tgt := 207) dX4_sending_171 (by decide) (fun c1 => ?_) (fun c1 => ?_)
  · rw [if_pos c1] at h
    refine vv_iload dX4_sending_207 6 rfl ?_
    refine vv_iload_n dX4_sending_209 rfl 2 rfl ?_
    refine vv_icmp_lt (tgt := 218) dX4_sending_210 (by decide) (fun c2 => ?_) (fun c2 => ?_)
    · rw [if_pos c2] at h
      refine vv_iload dX4_sending_218 4 rfl ?_
      refine vv_sub (lv' := [(0, .ref o), (1, .int x1), (2, .int x2), (3, .int x3), (5, .int x5)]) [0, 1, 2, 3, 5] rfl ?_
      exact v_sending_220 hG hk122 h
    · rw [if_neg c2] at h
      refine vv_iload dX4_sending_213 5 rfl ?_
      refine vv_goto (tgt := 220) dX4_sending_215 (by decide) ?_
      refine vv_sub (lv' := [(0, .ref o), (1, .int x1), (2, .int x2), (3, .int x3), (5, .int x5)]) [0, 1, 2, 3, 5] rfl ?_
      exact v_sending_220 hG hk122 h
  · rw [if_neg c1] at h
    refine vv_iload dX4_sending_174 6 rfl ?_
    refine vv_iload dX4_sending_176 5 rfl ?_
    refine vv_iload dX4_sending_178 7 rfl ?_
    refine vv_ishr dX4_sending_180 ?_
    refine vv_iconst (v := (nI 1)) dX4_sending_181 (by decide) ?_
    refine vv_iand dX4_sending_182 ?_
    refine vv_iconst (v := (nI 1)) dX4_sending_183 (by decide) ?_
    refine vv_icmp_ne (tgt := 197) dX4_sending_184 (by decide) (fun c3 => ?_) (fun c3 => ?_)
    · rw [if_neg c3] at h
      refine vv_iconst (v := (nI 0)) dX4_sending_197 (by decide) ?_
      refine vv_sub (lv' := [(0, .ref o), (1, .int x1), (2, .int x2), (3, .int x3), (4, .int x4), (5, .int x5), (7, .int x7)]) [0, 1, 2, 3, 4, 5, 7] rfl ?_
      exact v_sending_198 hG hk122 hk165 h
    · rw [if_pos c3] at h
      refine vv_aload_n dX4_sending_187 rfl 0 rfl ?_
      refine vv_iload dX4_sending_188 7 rfl ?_
      refine vv_iload_n dX4_sending_190 rfl 1 rfl ?_
      obtain ⟨r4, er4, h⟩ := bd_o h
      refine vv_callV ok_X4_comesTo q2087 (m_comesTo hG er4 (d + 1)) rfl (by omega) ⟨_, _, _, _, _, tp_o, by rw [hG.1]; rfl⟩ rfl rfl (Nat.le_of_ble_eq_true rfl) dX4_sending_191 ?_
      refine vv_goto (tgt := 198) dX4_sending_194 (by decide) ?_
      refine vv_sub (lv' := [(0, .ref o), (1, .int x1), (2, .int x2), (3, .int x3), (4, .int x4), (5, .int x5), (7, .int x7)]) [0, 1, 2, 3, 4, 5, 7] rfl ?_
      exact v_sending_198 hG hk122 hk165 h
theorem v_sending_165 {l : Launch} {G : vv_G} {d : Nat} {o : Nat} {h0 : Nat → Option vv_E} {nz : Nat × Nat} (hG : vv_gok G) {k122 : Int32 → Int32 → Int32 → Int32 → Int32 → tw_T → Option (Int32 × tw_T)} (hk122 : ∀ {x1 : Int32} {x2 : Int32} {x3 : Int32} {x4 : Int32} {x5 : Int32} {T : tw_T} {r : Int32 × tw_T}, k122 x1 x2 x3 x4 x5 T = some r → vv_V l G MX4_sending (d + 2) 122 [(0, .ref o), (1, .int x1), (2, .int x2), (3, .int x3), (4, .int x4), (5, .int x5)] [] (tp o h0 T, nz) (.inl (some (.int r.1)), (tp o h0 r.2, nz))) : ∀ (n : Nat) {x1 : Int32} {x2 : Int32} {x3 : Int32} {x4 : Int32} {x5 : Int32} {x6 : Int32} {x7 : Int32} {T : tw_T} {r : Int32 × tw_T}, J_sending_165 k122 n x1 x2 x3 x4 x5 x6 x7 T = some r → vv_V l G MX4_sending (d + 2) 165 [(0, .ref o), (1, .int x1), (2, .int x2), (3, .int x3), (4, .int x4), (5, .int x5), (6, .int x6), (7, .int x7)] [] (tp o h0 T, nz) (.inl (some (.int r.1)), (tp o h0 r.2, nz)) := by
  intro n
  induction n with
  | zero => intro _ _ _ _ _ _ _ _ _ h; cases h
  | succ n ih => intro _ _ _ _ _ _ _ _ _ h; exact vb_sending_165 hG hk122 ih h
def J_sending_159 (k122 : Int32 → Int32 → Int32 → Int32 → Int32 → tw_T → Option (Int32 × tw_T)) (x1 : Int32) (x2 : Int32) (x3 : Int32) (x4 : Int32) (x5 : Int32) (T : tw_T) : Option (Int32 × tw_T) := J_sending_165 k122 NN x1 x2 x3 x4 x5 (nI 0) (nI 0) T
theorem v_sending_159 {l : Launch} {G : vv_G} {d : Nat} {o : Nat} {h0 : Nat → Option vv_E} {nz : Nat × Nat} (hG : vv_gok G) {k122 : Int32 → Int32 → Int32 → Int32 → Int32 → tw_T → Option (Int32 × tw_T)} (hk122 : ∀ {x1 : Int32} {x2 : Int32} {x3 : Int32} {x4 : Int32} {x5 : Int32} {T : tw_T} {r : Int32 × tw_T}, k122 x1 x2 x3 x4 x5 T = some r → vv_V l G MX4_sending (d + 2) 122 [(0, .ref o), (1, .int x1), (2, .int x2), (3, .int x3), (4, .int x4), (5, .int x5)] [] (tp o h0 T, nz) (.inl (some (.int r.1)), (tp o h0 r.2, nz))) {x1 : Int32} {x2 : Int32} {x3 : Int32} {x4 : Int32} {x5 : Int32} {T : tw_T} {r : Int32 × tw_T} (h : J_sending_159 k122 x1 x2 x3 x4 x5 T = some r) : vv_V l G MX4_sending (d + 2) 159 [(0, .ref o), (1, .int x1), (2, .int x2), (3, .int x3), (4, .int x4), (5, .int x5)] [] (tp o h0 T, nz) (.inl (some (.int r.1)), (tp o h0 r.2, nz)) := by
  unfold J_sending_159 at h
  refine vv_iconst (v := (nI 0)) dX4_sending_159 (by decide) ?_
  refine vv_istore (lv' := [(0, .ref o), (1, .int x1), (2, .int x2), (3, .int x3), (4, .int x4), (5, .int x5), (6, .int (nI 0))]) dX4_sending_160 (by decide) [1, 2, 3, 4, 5, 6, 0] rfl ?_
  refine vv_iconst (v := (nI 0)) dX4_sending_162 (by decide) ?_
  refine vv_istore (lv' := [(0, .ref o), (1, .int x1), (2, .int x2), (3, .int x3), (4, .int x4), (5, .int x5), (6, .int (nI 0)), (7, .int (nI 0))]) dX4_sending_163 (by decide) [1, 2, 3, 4, 5, 6, 7, 0] rfl ?_
  exact v_sending_165 hG hk122 NN h
def B_sending_122 (k122 : Int32 → Int32 → Int32 → Int32 → Int32 → tw_T → Option (Int32 × tw_T)) (x1 : Int32) (x2 : Int32) (x3 : Int32) (x4 : Int32) (x5 : Int32) (T : tw_T) : Option (Int32 × tw_T) := if x3 < x5 then (some (x4, T)) else (if (x5 &&& (x3 ^^^ (-1))) = 0 then (if x4 = (-1) then (J_sending_159 k122 x1 x2 x3 x4 x5 T) else ((J_bits x5).bind fun r4 => (J_bits x4).bind fun r5 => if r4 < r5 then (J_sending_159 k122 x1 x2 x3 x4 x5 T) else (J_sending_222 k122 x1 x2 x3 x4 x5 T))) else (J_sending_222 k122 x1 x2 x3 x4 x5 T))
def J_sending_122 : Nat → Int32 → Int32 → Int32 → Int32 → Int32 → tw_T → Option (Int32 × tw_T)
  | 0, _, _, _, _, _, _ => none
  | n + 1, x1, x2, x3, x4, x5, T => B_sending_122 (J_sending_122 n) x1 x2 x3 x4 x5 T
theorem vb_sending_122 {l : Launch} {G : vv_G} {d : Nat} {o : Nat} {h0 : Nat → Option vv_E} {nz : Nat × Nat} (hG : vv_gok G) {k122 : Int32 → Int32 → Int32 → Int32 → Int32 → tw_T → Option (Int32 × tw_T)} (hk122 : ∀ {x1 : Int32} {x2 : Int32} {x3 : Int32} {x4 : Int32} {x5 : Int32} {T : tw_T} {r : Int32 × tw_T}, k122 x1 x2 x3 x4 x5 T = some r → vv_V l G MX4_sending (d + 2) 122 [(0, .ref o), (1, .int x1), (2, .int x2), (3, .int x3), (4, .int x4), (5, .int x5)] [] (tp o h0 T, nz) (.inl (some (.int r.1)), (tp o h0 r.2, nz))) {x1 : Int32} {x2 : Int32} {x3 : Int32} {x4 : Int32} {x5 : Int32} {T : tw_T} {r : Int32 × tw_T} (h : B_sending_122 k122 x1 x2 x3 x4 x5 T = some r) : vv_V l G MX4_sending (d + 2) 122 [(0, .ref o), (1, .int x1), (2, .int x2), (3, .int x3), (4, .int x4), (5, .int x5)] [] (tp o h0 T, nz) (.inl (some (.int r.1)), (tp o h0 r.2, nz)) := by
  unfold B_sending_122 at h
  refine vv_iload dX4_sending_122 5 rfl ?_
  refine vv_iload_n dX4_sending_124 rfl 3 rfl ?_
  refine vv_icmp_gt (tgt := 228) dX4_sending_125 (by decide) (fun c1 => ?_) (fun c1 => ?_)
  · rw [if_pos c1] at h
    refine vv_iload dX4_sending_228 4 rfl ?_
    cases h
    exact vv_iret rfl dX4_sending_230
  · rw [if_neg c1] at h
    refine vv_iload dX4_sending_128 5 rfl ?_
    refine vv_iload_n dX4_sending_130 rfl 3 rfl ?_
    refine vv_iconst (v := (-1)) dX4_sending_131 (by decide) ?_
    refine vv_ixor dX4_sending_132 ?_
    refine vv_iand dX4_sending_133 ?_
    refine vv_if_ne (tgt := 222) dX4_sending_134 (by decide) (fun c2 => ?_) (fun c2 => ?_)
    · rw [if_neg c2] at h
      exact v_sending_222 hG hk122 h
    · rw [if_pos c2] at h
      refine vv_iload dX4_sending_137 4 rfl ?_
      refine vv_iconst (v := (-1)) dX4_sending_139 (by decide) ?_
      refine vv_icmp_eq (tgt := 159) dX4_sending_140 (by decide) (fun c3 => ?_) (fun c3 => ?_)
      · rw [if_pos c3] at h
        exact v_sending_159 hG hk122 h
      · rw [if_neg c3] at h
        refine vv_iload dX4_sending_143 5 rfl ?_
        obtain ⟨r4, er4, h⟩ := bd_o h
        refine vv_callS ok_X4_bits q1954 (m_bits hG er4 (d + 1)) rfl (by omega) rfl rfl (Nat.le_of_ble_eq_true rfl) dX4_sending_145 ?_
        refine vv_iload dX4_sending_148 4 rfl ?_
        obtain ⟨r5, er5, h⟩ := bd_o h
        refine vv_callS ok_X4_bits q1954 (m_bits hG er5 (d + 1)) rfl (by omega) rfl rfl (Nat.le_of_ble_eq_true rfl) dX4_sending_150 ?_
        refine vv_icmp_lt (tgt := 159) dX4_sending_153 (by decide) (fun c6 => ?_) (fun c6 => ?_)
        · rw [if_pos c6] at h
          exact v_sending_159 hG hk122 h
        · rw [if_neg c6] at h
          refine vv_goto (tgt := 222) dX4_sending_156 (by decide) ?_
          exact v_sending_222 hG hk122 h
theorem v_sending_122 {l : Launch} {G : vv_G} {d : Nat} {o : Nat} {h0 : Nat → Option vv_E} {nz : Nat × Nat} (hG : vv_gok G) : ∀ (n : Nat) {x1 : Int32} {x2 : Int32} {x3 : Int32} {x4 : Int32} {x5 : Int32} {T : tw_T} {r : Int32 × tw_T}, J_sending_122 n x1 x2 x3 x4 x5 T = some r → vv_V l G MX4_sending (d + 2) 122 [(0, .ref o), (1, .int x1), (2, .int x2), (3, .int x3), (4, .int x4), (5, .int x5)] [] (tp o h0 T, nz) (.inl (some (.int r.1)), (tp o h0 r.2, nz)) := by
  intro n
  induction n with
  | zero => intro _ _ _ _ _ _ _ h; cases h
  | succ n ih => intro _ _ _ _ _ _ _ h; exact vb_sending_122 hG ih h
def J_sending_108 (k41 : Int32 → Int32 → Int32 → Int32 → tw_T → Option (Int32 × tw_T)) (s0 : Int32) (s1 : Int32) (x1 : Int32) (x2 : Int32) (x4 : Int32) (T : tw_T) : Option (Int32 × tw_T) := k41 x1 x2 (s0 ||| s1) (x4 + (nI 1)) T
theorem v_sending_108 {l : Launch} {G : vv_G} {d : Nat} {o : Nat} {h0 : Nat → Option vv_E} {nz : Nat × Nat} (hG : vv_gok G) {k41 : Int32 → Int32 → Int32 → Int32 → tw_T → Option (Int32 × tw_T)} (hk41 : ∀ {x1 : Int32} {x2 : Int32} {x3 : Int32} {x4 : Int32} {T : tw_T} {r : Int32 × tw_T}, k41 x1 x2 x3 x4 T = some r → vv_V l G MX4_sending (d + 2) 41 [(0, .ref o), (1, .int x1), (2, .int x2), (3, .int x3), (4, .int x4)] [] (tp o h0 T, nz) (.inl (some (.int r.1)), (tp o h0 r.2, nz))) {s0 : Int32} {s1 : Int32} {x1 : Int32} {x2 : Int32} {x4 : Int32} {T : tw_T} {r : Int32 × tw_T} (h : J_sending_108 k41 s0 s1 x1 x2 x4 T = some r) : vv_V l G MX4_sending (d + 2) 108 [(0, .ref o), (1, .int x1), (2, .int x2), (4, .int x4)] [.int s1, .int s0] (tp o h0 T, nz) (.inl (some (.int r.1)), (tp o h0 r.2, nz)) := by
  unfold J_sending_108 at h
  refine vv_ior dX4_sending_108 ?_
  refine vv_istore_n (lv' := [(0, .ref o), (1, .int x1), (2, .int x2), (3, .int (s0 ||| s1)), (4, .int x4)]) dX4_sending_109 rfl (by decide) [1, 2, 3, 0, 4] rfl ?_
  refine vv_iinc (v := (x4 + (nI 1))) (lv' := [(0, .ref o), (1, .int x1), (2, .int x2), (3, .int (s0 ||| s1)), (4, .int (x4 + (nI 1)))]) dX4_sending_110 4 rfl rfl (by decide) [1, 2, 3, 4, 0] rfl ?_
  refine vv_goto (tgt := 41) dX4_sending_113 (by decide) ?_
  exact hk41 h
def J_sending_107 (k41 : Int32 → Int32 → Int32 → Int32 → tw_T → Option (Int32 × tw_T)) (s0 : Int32) (x1 : Int32) (x2 : Int32) (x4 : Int32) (T : tw_T) : Option (Int32 × tw_T) := J_sending_108 k41 s0 (nI 0) x1 x2 x4 T
theorem v_sending_107 {l : Launch} {G : vv_G} {d : Nat} {o : Nat} {h0 : Nat → Option vv_E} {nz : Nat × Nat} (hG : vv_gok G) {k41 : Int32 → Int32 → Int32 → Int32 → tw_T → Option (Int32 × tw_T)} (hk41 : ∀ {x1 : Int32} {x2 : Int32} {x3 : Int32} {x4 : Int32} {T : tw_T} {r : Int32 × tw_T}, k41 x1 x2 x3 x4 T = some r → vv_V l G MX4_sending (d + 2) 41 [(0, .ref o), (1, .int x1), (2, .int x2), (3, .int x3), (4, .int x4)] [] (tp o h0 T, nz) (.inl (some (.int r.1)), (tp o h0 r.2, nz))) {s0 : Int32} {x1 : Int32} {x2 : Int32} {x4 : Int32} {T : tw_T} {r : Int32 × tw_T} (h : J_sending_107 k41 s0 x1 x2 x4 T = some r) : vv_V l G MX4_sending (d + 2) 107 [(0, .ref o), (1, .int x1), (2, .int x2), (4, .int x4)] [.int s0] (tp o h0 T, nz) (.inl (some (.int r.1)), (tp o h0 r.2, nz)) := by
  unfold J_sending_107 at h
  refine vv_iconst (v := (nI 0)) dX4_sending_107 (by decide) ?_
  exact v_sending_108 hG hk41 h
def B_sending_41 (k41 : Int32 → Int32 → Int32 → Int32 → tw_T → Option (Int32 × tw_T)) (x1 : Int32) (x2 : Int32) (x3 : Int32) (x4 : Int32) (T : tw_T) : Option (Int32 × tw_T) := if (T.1 3) ≤ x4 then (J_sending_122 NN x1 x2 x3 (-1) (nI 0) T) else ((J_lies (nI 0) x4 T).bind fun r2 => if r2.1 = 0 then (J_sending_107 k41 x3 x1 x2 x4 r2.2) else ((rdI 170 (r2.2.2.2 20) ((nI 35) + x4)).bind fun v4 => if v4 = 0 then ((rdI 170 (r2.2.2.2 20) ((nI 55) + x4)).bind fun v6 => (rdI 64 (r2.2.2.2 25) (((nI 8) * v6) + x1)).bind fun v7 => if (nI 99999) ≤ v7 then (J_sending_107 k41 x3 x1 x2 x4 r2.2) else (J_sending_108 k41 x3 ((nI 1) <<< (x4 &&& 31)) x1 x2 x4 r2.2)) else (J_sending_107 k41 x3 x1 x2 x4 r2.2)))
def J_sending_41 : Nat → Int32 → Int32 → Int32 → Int32 → tw_T → Option (Int32 × tw_T)
  | 0, _, _, _, _, _ => none
  | n + 1, x1, x2, x3, x4, T => B_sending_41 (J_sending_41 n) x1 x2 x3 x4 T
theorem vb_sending_41 {l : Launch} {G : vv_G} {d : Nat} {o : Nat} {h0 : Nat → Option vv_E} {nz : Nat × Nat} (hG : vv_gok G) {k41 : Int32 → Int32 → Int32 → Int32 → tw_T → Option (Int32 × tw_T)} (hk41 : ∀ {x1 : Int32} {x2 : Int32} {x3 : Int32} {x4 : Int32} {T : tw_T} {r : Int32 × tw_T}, k41 x1 x2 x3 x4 T = some r → vv_V l G MX4_sending (d + 2) 41 [(0, .ref o), (1, .int x1), (2, .int x2), (3, .int x3), (4, .int x4)] [] (tp o h0 T, nz) (.inl (some (.int r.1)), (tp o h0 r.2, nz))) {x1 : Int32} {x2 : Int32} {x3 : Int32} {x4 : Int32} {T : tw_T} {r : Int32 × tw_T} (h : B_sending_41 k41 x1 x2 x3 x4 T = some r) : vv_V l G MX4_sending (d + 2) 41 [(0, .ref o), (1, .int x1), (2, .int x2), (3, .int x3), (4, .int x4)] [] (tp o h0 T, nz) (.inl (some (.int r.1)), (tp o h0 r.2, nz)) := by
  unfold B_sending_41 at h
  refine vv_iload dX4_sending_41 4 rfl ?_
  refine vv_aload_n dX4_sending_43 rfl 0 rfl ?_
  refine tw_get (fl_X4_287 hG) (k := 3) rfl dX4_sending_44 ?_
  refine vv_icmp_ge (tgt := 116) dX4_sending_47 (by decide) (fun c1 => ?_) (fun c1 => ?_)
  · rw [if_pos c1] at h
    refine vv_iconst (v := (-1)) dX4_sending_116 (by decide) ?_
    refine vv_istore (lv' := [(0, .ref o), (1, .int x1), (2, .int x2), (3, .int x3), (4, .int (-1))]) dX4_sending_117 (by decide) [1, 2, 3, 4, 0] rfl ?_
    refine vv_iconst (v := (nI 0)) dX4_sending_119 (by decide) ?_
    refine vv_istore (lv' := [(0, .ref o), (1, .int x1), (2, .int x2), (3, .int x3), (4, .int (-1)), (5, .int (nI 0))]) dX4_sending_120 (by decide) [1, 2, 3, 4, 5, 0] rfl ?_
    exact v_sending_122 hG NN h
  · rw [if_neg c1] at h
    refine vv_iload_n dX4_sending_50 rfl 3 rfl ?_
    refine vv_aload_n dX4_sending_51 rfl 0 rfl ?_
    refine vv_iconst (v := (nI 0)) dX4_sending_52 (by decide) ?_
    refine vv_iload dX4_sending_53 4 rfl ?_
    obtain ⟨r2, er2, h⟩ := bd_o h
    refine vv_callV ok_X4_lies q1919 (m_lies hG er2 (d + 1)) rfl (by omega) ⟨_, _, _, _, _, tp_o, by rw [hG.1]; rfl⟩ rfl rfl (Nat.le_of_ble_eq_true rfl) dX4_sending_55 ?_
    refine vv_if_eq (tgt := 107) dX4_sending_58 (by decide) (fun c3 => ?_) (fun c3 => ?_)
    · rw [if_pos c3] at h
      refine vv_sub (lv' := [(0, .ref o), (1, .int x1), (2, .int x2), (4, .int x4)]) [0, 1, 2, 4] rfl ?_
      exact v_sending_107 hG hk41 h
    · rw [if_neg c3] at h
      refine vv_aload_n dX4_sending_61 rfl 0 rfl ?_
      refine tw_get (fl_X4_75 hG) (k := 42) rfl dX4_sending_62 ?_
      refine vv_bipush (v := (nI 35)) dX4_sending_65 (by decide) ?_
      refine vv_iload dX4_sending_67 4 rfl ?_
      refine vv_iadd dX4_sending_69 ?_
      obtain ⟨v4, iv4, ev4, h⟩ := rd_o h
      refine tw_ald 20 (by decide) rfl iv4 ev4 dX4_sending_70 ?_
      refine vv_if_ne (tgt := 107) dX4_sending_71 (by decide) (fun c5 => ?_) (fun c5 => ?_)
      · rw [if_neg c5] at h
        refine vv_sub (lv' := [(0, .ref o), (1, .int x1), (2, .int x2), (4, .int x4)]) [0, 1, 2, 4] rfl ?_
        exact v_sending_107 hG hk41 h
      · rw [if_pos c5] at h
        refine vv_aload_n dX4_sending_74 rfl 0 rfl ?_
        refine tw_get (fl_X4_90 hG) (k := 49) rfl dX4_sending_75 ?_
        refine vv_bipush (v := (nI 8)) dX4_sending_78 (by decide) ?_
        refine vv_aload_n dX4_sending_80 rfl 0 rfl ?_
        refine tw_get (fl_X4_75 hG) (k := 42) rfl dX4_sending_81 ?_
        refine vv_bipush (v := (nI 55)) dX4_sending_84 (by decide) ?_
        refine vv_iload dX4_sending_86 4 rfl ?_
        refine vv_iadd dX4_sending_88 ?_
        obtain ⟨v6, iv6, ev6, h⟩ := rd_o h
        refine tw_ald 20 (by decide) rfl iv6 ev6 dX4_sending_89 ?_
        refine vv_imul dX4_sending_90 ?_
        refine vv_iload_n dX4_sending_91 rfl 1 rfl ?_
        refine vv_iadd dX4_sending_92 ?_
        obtain ⟨v7, iv7, ev7, h⟩ := rd_o h
        refine tw_ald 25 (by decide) rfl iv7 ev7 dX4_sending_93 ?_
        refine vv_ldcw (v := (nI 99999)) dX4_sending_94 q2075 ?_
        refine vv_icmp_ge (tgt := 107) dX4_sending_97 (by decide) (fun c8 => ?_) (fun c8 => ?_)
        · rw [if_pos c8] at h
          refine vv_sub (lv' := [(0, .ref o), (1, .int x1), (2, .int x2), (4, .int x4)]) [0, 1, 2, 4] rfl ?_
          exact v_sending_107 hG hk41 h
        · rw [if_neg c8] at h
          refine vv_iconst (v := (nI 1)) dX4_sending_100 (by decide) ?_
          refine vv_iload dX4_sending_101 4 rfl ?_
          refine vv_ishl dX4_sending_103 ?_
          refine vv_goto (tgt := 108) dX4_sending_104 (by decide) ?_
          refine vv_sub (lv' := [(0, .ref o), (1, .int x1), (2, .int x2), (4, .int x4)]) [0, 1, 2, 4] rfl ?_
          exact v_sending_108 hG hk41 h
theorem v_sending_41 {l : Launch} {G : vv_G} {d : Nat} {o : Nat} {h0 : Nat → Option vv_E} {nz : Nat × Nat} (hG : vv_gok G) : ∀ (n : Nat) {x1 : Int32} {x2 : Int32} {x3 : Int32} {x4 : Int32} {T : tw_T} {r : Int32 × tw_T}, J_sending_41 n x1 x2 x3 x4 T = some r → vv_V l G MX4_sending (d + 2) 41 [(0, .ref o), (1, .int x1), (2, .int x2), (3, .int x3), (4, .int x4)] [] (tp o h0 T, nz) (.inl (some (.int r.1)), (tp o h0 r.2, nz)) := by
  intro n
  induction n with
  | zero => intro _ _ _ _ _ _ h; cases h
  | succ n ih => intro _ _ _ _ _ _ h; exact vb_sending_41 hG ih h
def J_sending (x1 : Int32) (x2 : Int32) (T : tw_T) : Option (Int32 × tw_T) := (some (tw_F T 0 (nI 0))).bind fun T1 => (J_isTown x1 T1).bind fun r2 => if r2.1 = 0 then (J_sending_29 r2.2) else ((J_within x2 (nI 1) (nI 999)).bind fun r4 => (J_right r4 (nI 2) r2.2).bind fun r5 => if r5.1 = 0 then (J_sending_29 r5.2) else ((J_measures (-1) r5.2).bind fun r7 => J_sending_41 NN x1 x2 (nI 0) (nI 0) r7))
theorem v_sending_0 {l : Launch} {G : vv_G} {d : Nat} {o : Nat} {h0 : Nat → Option vv_E} {nz : Nat × Nat} (hG : vv_gok G) {x1 : Int32} {x2 : Int32} {T : tw_T} {r : Int32 × tw_T} (h : J_sending x1 x2 T = some r) : vv_V l G MX4_sending (d + 2) 0 [(0, .ref o), (1, .int x1), (2, .int x2)] [] (tp o h0 T, nz) (.inl (some (.int r.1)), (tp o h0 r.2, nz)) := by
  unfold J_sending at h
  refine vv_aload_n dX4_sending_0 rfl 0 rfl ?_
  refine vv_iconst (v := (nI 0)) dX4_sending_1 (by decide) ?_
  obtain ⟨T1, eT1, h⟩ := bd_s h
  refine tw_put (T1 := T1) (pt_X4_117 hG) hG rfl rfl rfl (by decide) (by rw [eT1]; exact tw_set0 _ _ _) (by rw [eT1]; rfl) dX4_sending_2 ?_
  refine vv_aload_n dX4_sending_5 rfl 0 rfl ?_
  refine vv_iload_n dX4_sending_6 rfl 1 rfl ?_
  obtain ⟨r2, er2, h⟩ := bd_o h
  refine vv_callV ok_X4_isTown q1935 (m_isTown hG er2 (d + 0)) rfl (by omega) ⟨_, _, _, _, _, tp_o, by rw [hG.1]; rfl⟩ rfl rfl (Nat.le_of_ble_eq_true rfl) dX4_sending_7 ?_
  refine vv_if_eq (tgt := 29) dX4_sending_10 (by decide) (fun c3 => ?_) (fun c3 => ?_)
  · rw [if_pos c3] at h
    refine vv_sub (lv' := [(0, .ref o)]) [0] rfl ?_
    exact v_sending_29 hG h
  · rw [if_neg c3] at h
    refine vv_aload_n dX4_sending_13 rfl 0 rfl ?_
    refine vv_iload_n dX4_sending_14 rfl 2 rfl ?_
    refine vv_iconst (v := (nI 1)) dX4_sending_15 (by decide) ?_
    refine vv_sipush (v := (nI 999)) dX4_sending_16 (by decide) ?_
    obtain ⟨r4, er4, h⟩ := bd_o h
    refine vv_callS ok_X4_within q1908 (m_within hG er4 (d + 1)) rfl (by omega) rfl rfl (Nat.le_of_ble_eq_true rfl) dX4_sending_19 ?_
    refine vv_iconst (v := (nI 2)) dX4_sending_22 (by decide) ?_
    obtain ⟨r5, er5, h⟩ := bd_o h
    refine vv_callV ok_X4_right q1773 (m_right hG er5 (d + 1)) rfl (by omega) ⟨_, _, _, _, _, tp_o, by rw [hG.1]; rfl⟩ rfl rfl (Nat.le_of_ble_eq_true rfl) dX4_sending_23 ?_
    refine vv_if_ne (tgt := 31) dX4_sending_26 (by decide) (fun c6 => ?_) (fun c6 => ?_)
    · rw [if_neg c6] at h
      refine vv_aload_n dX4_sending_31 rfl 0 rfl ?_
      refine vv_iconst (v := (-1)) dX4_sending_32 (by decide) ?_
      obtain ⟨r7, er7, h⟩ := bd_o h
      refine vv_callV ok_X4_measures q2071 (m_measures hG er7 (d + 0)) rfl (by omega) ⟨_, _, _, _, _, tp_o, by rw [hG.1]; rfl⟩ rfl rfl (Nat.le_of_ble_eq_true rfl) dX4_sending_33 ?_
      refine vv_iconst (v := (nI 0)) dX4_sending_36 (by decide) ?_
      refine vv_istore_n (lv' := [(0, .ref o), (1, .int x1), (2, .int x2), (3, .int (nI 0))]) dX4_sending_37 rfl (by decide) [1, 2, 3, 0] rfl ?_
      refine vv_iconst (v := (nI 0)) dX4_sending_38 (by decide) ?_
      refine vv_istore (lv' := [(0, .ref o), (1, .int x1), (2, .int x2), (3, .int (nI 0)), (4, .int (nI 0))]) dX4_sending_39 (by decide) [1, 2, 3, 4, 0] rfl ?_
      exact v_sending_41 hG NN h
    · rw [if_pos c6] at h
      refine vv_sub (lv' := [(0, .ref o)]) [0] rfl ?_
      exact v_sending_29 hG h
theorem m_sending {l : Launch} {G : vv_G} {o : Nat} {h0 : Nat → Option vv_E} {nz : Nat × Nat} (hG : vv_gok G) {x1 : Int32} {x2 : Int32} {T : tw_T} {r : Int32 × tw_T} (h : J_sending x1 x2 T = some r) (d : Nat) : vv_Met l G MX4_sending (d + 2) [.ref o, .int x1, .int x2] (tp o h0 T, nz) (.inl (some (.int r.1)), (tp o h0 r.2, nz)) := vv_head (by decide +kernel) rfl (Nat.le_of_ble_eq_true rfl) rfl (v_sending_0 hG h)
/-! nextOn -/
def J_nextOn_102 (k2 : Int32 → Int32 → Int32 → tw_T → Option (Int32 × tw_T)) (x1 : Int32) (x2 : Int32) (x3 : Int32) (T : tw_T) : Option (Int32 × tw_T) := k2 x1 x2 (x3 + (nI 1)) T
theorem v_nextOn_102 {l : Launch} {G : vv_G} {d : Nat} {o : Nat} {h0 : Nat → Option vv_E} {nz : Nat × Nat} (hG : vv_gok G) {k2 : Int32 → Int32 → Int32 → tw_T → Option (Int32 × tw_T)} (hk2 : ∀ {x1 : Int32} {x2 : Int32} {x3 : Int32} {T : tw_T} {r : Int32 × tw_T}, k2 x1 x2 x3 T = some r → vv_V l G MX4_nextOn (d + 1) 2 [(0, .ref o), (1, .int x1), (2, .int x2), (3, .int x3)] [] (tp o h0 T, nz) (.inl (some (.int r.1)), (tp o h0 r.2, nz))) {x1 : Int32} {x2 : Int32} {x3 : Int32} {T : tw_T} {r : Int32 × tw_T} (h : J_nextOn_102 k2 x1 x2 x3 T = some r) : vv_V l G MX4_nextOn (d + 1) 102 [(0, .ref o), (1, .int x1), (2, .int x2), (3, .int x3)] [] (tp o h0 T, nz) (.inl (some (.int r.1)), (tp o h0 r.2, nz)) := by
  unfold J_nextOn_102 at h
  refine vv_iinc (v := (x3 + (nI 1))) (lv' := [(0, .ref o), (1, .int x1), (2, .int x2), (3, .int (x3 + (nI 1)))]) dX4_nextOn_102 3 rfl rfl (by decide) [1, 2, 3, 0] rfl ?_
  refine vv_goto (tgt := 2) dX4_nextOn_105 (by decide) ?_
  exact hk2 h
def J_nextOn_87 (k2 : Int32 → Int32 → Int32 → tw_T → Option (Int32 × tw_T)) (k24 : Int32 → Int32 → Int32 → Int32 → Int32 → tw_T → Option (Int32 × tw_T)) (s0 : Int32) (x1 : Int32) (x2 : Int32) (x3 : Int32) (x5 : Int32) (T : tw_T) : Option (Int32 × tw_T) := k24 x1 x2 x3 s0 (x5 + (nI 1)) T
theorem v_nextOn_87 {l : Launch} {G : vv_G} {d : Nat} {o : Nat} {h0 : Nat → Option vv_E} {nz : Nat × Nat} (hG : vv_gok G) {k2 : Int32 → Int32 → Int32 → tw_T → Option (Int32 × tw_T)} (hk2 : ∀ {x1 : Int32} {x2 : Int32} {x3 : Int32} {T : tw_T} {r : Int32 × tw_T}, k2 x1 x2 x3 T = some r → vv_V l G MX4_nextOn (d + 1) 2 [(0, .ref o), (1, .int x1), (2, .int x2), (3, .int x3)] [] (tp o h0 T, nz) (.inl (some (.int r.1)), (tp o h0 r.2, nz))) {k24 : Int32 → Int32 → Int32 → Int32 → Int32 → tw_T → Option (Int32 × tw_T)} (hk24 : ∀ {x1 : Int32} {x2 : Int32} {x3 : Int32} {x4 : Int32} {x5 : Int32} {T : tw_T} {r : Int32 × tw_T}, k24 x1 x2 x3 x4 x5 T = some r → vv_V l G MX4_nextOn (d + 1) 24 [(0, .ref o), (1, .int x1), (2, .int x2), (3, .int x3), (4, .int x4), (5, .int x5)] [] (tp o h0 T, nz) (.inl (some (.int r.1)), (tp o h0 r.2, nz))) {s0 : Int32} {x1 : Int32} {x2 : Int32} {x3 : Int32} {x5 : Int32} {T : tw_T} {r : Int32 × tw_T} (h : J_nextOn_87 k2 k24 s0 x1 x2 x3 x5 T = some r) : vv_V l G MX4_nextOn (d + 1) 87 [(0, .ref o), (1, .int x1), (2, .int x2), (3, .int x3), (5, .int x5)] [.int s0] (tp o h0 T, nz) (.inl (some (.int r.1)), (tp o h0 r.2, nz)) := by
  unfold J_nextOn_87 at h
  refine vv_istore (lv' := [(0, .ref o), (1, .int x1), (2, .int x2), (3, .int x3), (4, .int s0), (5, .int x5)]) dX4_nextOn_87 (by decide) [1, 2, 3, 4, 0, 5] rfl ?_
  refine vv_iinc (v := (x5 + (nI 1))) (lv' := [(0, .ref o), (1, .int x1), (2, .int x2), (3, .int x3), (4, .int s0), (5, .int (x5 + (nI 1)))]) dX4_nextOn_89 5 rfl rfl (by decide) [1, 2, 3, 4, 5, 0] rfl ?_
  refine vv_goto (tgt := 24) dX4_nextOn_92 (by decide) ?_
  exact hk24 h
def J_nextOn_82 (k2 : Int32 → Int32 → Int32 → tw_T → Option (Int32 × tw_T)) (k24 : Int32 → Int32 → Int32 → Int32 → Int32 → tw_T → Option (Int32 × tw_T)) (x1 : Int32) (x2 : Int32) (x3 : Int32) (x5 : Int32) (T : tw_T) : Option (Int32 × tw_T) := J_nextOn_87 k2 k24 (nI 1) x1 x2 x3 x5 T
theorem v_nextOn_82 {l : Launch} {G : vv_G} {d : Nat} {o : Nat} {h0 : Nat → Option vv_E} {nz : Nat × Nat} (hG : vv_gok G) {k2 : Int32 → Int32 → Int32 → tw_T → Option (Int32 × tw_T)} (hk2 : ∀ {x1 : Int32} {x2 : Int32} {x3 : Int32} {T : tw_T} {r : Int32 × tw_T}, k2 x1 x2 x3 T = some r → vv_V l G MX4_nextOn (d + 1) 2 [(0, .ref o), (1, .int x1), (2, .int x2), (3, .int x3)] [] (tp o h0 T, nz) (.inl (some (.int r.1)), (tp o h0 r.2, nz))) {k24 : Int32 → Int32 → Int32 → Int32 → Int32 → tw_T → Option (Int32 × tw_T)} (hk24 : ∀ {x1 : Int32} {x2 : Int32} {x3 : Int32} {x4 : Int32} {x5 : Int32} {T : tw_T} {r : Int32 × tw_T}, k24 x1 x2 x3 x4 x5 T = some r → vv_V l G MX4_nextOn (d + 1) 24 [(0, .ref o), (1, .int x1), (2, .int x2), (3, .int x3), (4, .int x4), (5, .int x5)] [] (tp o h0 T, nz) (.inl (some (.int r.1)), (tp o h0 r.2, nz))) {x1 : Int32} {x2 : Int32} {x3 : Int32} {x5 : Int32} {T : tw_T} {r : Int32 × tw_T} (h : J_nextOn_82 k2 k24 x1 x2 x3 x5 T = some r) : vv_V l G MX4_nextOn (d + 1) 82 [(0, .ref o), (1, .int x1), (2, .int x2), (3, .int x3), (5, .int x5)] [] (tp o h0 T, nz) (.inl (some (.int r.1)), (tp o h0 r.2, nz)) := by
  unfold J_nextOn_82 at h
  refine vv_iconst (v := (nI 1)) dX4_nextOn_82 (by decide) ?_
  refine vv_goto (tgt := 87) dX4_nextOn_83 (by decide) ?_
  exact v_nextOn_87 hG hk2 hk24 h
def J_nextOn_86 (k2 : Int32 → Int32 → Int32 → tw_T → Option (Int32 × tw_T)) (k24 : Int32 → Int32 → Int32 → Int32 → Int32 → tw_T → Option (Int32 × tw_T)) (x1 : Int32) (x2 : Int32) (x3 : Int32) (x5 : Int32) (T : tw_T) : Option (Int32 × tw_T) := J_nextOn_87 k2 k24 (nI 0) x1 x2 x3 x5 T
theorem v_nextOn_86 {l : Launch} {G : vv_G} {d : Nat} {o : Nat} {h0 : Nat → Option vv_E} {nz : Nat × Nat} (hG : vv_gok G) {k2 : Int32 → Int32 → Int32 → tw_T → Option (Int32 × tw_T)} (hk2 : ∀ {x1 : Int32} {x2 : Int32} {x3 : Int32} {T : tw_T} {r : Int32 × tw_T}, k2 x1 x2 x3 T = some r → vv_V l G MX4_nextOn (d + 1) 2 [(0, .ref o), (1, .int x1), (2, .int x2), (3, .int x3)] [] (tp o h0 T, nz) (.inl (some (.int r.1)), (tp o h0 r.2, nz))) {k24 : Int32 → Int32 → Int32 → Int32 → Int32 → tw_T → Option (Int32 × tw_T)} (hk24 : ∀ {x1 : Int32} {x2 : Int32} {x3 : Int32} {x4 : Int32} {x5 : Int32} {T : tw_T} {r : Int32 × tw_T}, k24 x1 x2 x3 x4 x5 T = some r → vv_V l G MX4_nextOn (d + 1) 24 [(0, .ref o), (1, .int x1), (2, .int x2), (3, .int x3), (4, .int x4), (5, .int x5)] [] (tp o h0 T, nz) (.inl (some (.int r.1)), (tp o h0 r.2, nz))) {x1 : Int32} {x2 : Int32} {x3 : Int32} {x5 : Int32} {T : tw_T} {r : Int32 × tw_T} (h : J_nextOn_86 k2 k24 x1 x2 x3 x5 T = some r) : vv_V l G MX4_nextOn (d + 1) 86 [(0, .ref o), (1, .int x1), (2, .int x2), (3, .int x3), (5, .int x5)] [] (tp o h0 T, nz) (.inl (some (.int r.1)), (tp o h0 r.2, nz)) := by
  unfold J_nextOn_86 at h
  refine vv_iconst (v := (nI 0)) dX4_nextOn_86 (by decide) ?_
  exact v_nextOn_87 hG hk2 hk24 h
def B_nextOn_24 (k2 : Int32 → Int32 → Int32 → tw_T → Option (Int32 × tw_T)) (k24 : Int32 → Int32 → Int32 → Int32 → Int32 → tw_T → Option (Int32 × tw_T)) (x1 : Int32) (x2 : Int32) (x3 : Int32) (x4 : Int32) (x5 : Int32) (T : tw_T) : Option (Int32 × tw_T) := if (T.1 2) ≤ x5 then (if x4 = 0 then (J_nextOn_102 k2 x1 x2 x3 T) else (some (x3, T))) else (if x4 = 0 then ((J_leads x5 x1 T).bind fun r4 => if r4.1 = x3 then ((rdI 12 (r4.2.2.2 5) x5).bind fun v6 => (rdI 64 (r4.2.2.2 24) (((nI 8) * x3) + x2)).bind fun v7 => (rdI 64 (r4.2.2.2 24) (((nI 8) * x1) + x2)).bind fun v8 => if (v6 + v7) = v8 then (J_nextOn_82 k2 k24 x1 x2 x3 x5 r4.2) else (J_nextOn_86 k2 k24 x1 x2 x3 x5 r4.2)) else (J_nextOn_86 k2 k24 x1 x2 x3 x5 r4.2)) else (J_nextOn_82 k2 k24 x1 x2 x3 x5 T))
def J_nextOn_24 (k2 : Int32 → Int32 → Int32 → tw_T → Option (Int32 × tw_T)) : Nat → Int32 → Int32 → Int32 → Int32 → Int32 → tw_T → Option (Int32 × tw_T)
  | 0, _, _, _, _, _, _ => none
  | n + 1, x1, x2, x3, x4, x5, T => B_nextOn_24 k2 (J_nextOn_24 k2 n) x1 x2 x3 x4 x5 T
theorem vb_nextOn_24 {l : Launch} {G : vv_G} {d : Nat} {o : Nat} {h0 : Nat → Option vv_E} {nz : Nat × Nat} (hG : vv_gok G) {k2 : Int32 → Int32 → Int32 → tw_T → Option (Int32 × tw_T)} (hk2 : ∀ {x1 : Int32} {x2 : Int32} {x3 : Int32} {T : tw_T} {r : Int32 × tw_T}, k2 x1 x2 x3 T = some r → vv_V l G MX4_nextOn (d + 1) 2 [(0, .ref o), (1, .int x1), (2, .int x2), (3, .int x3)] [] (tp o h0 T, nz) (.inl (some (.int r.1)), (tp o h0 r.2, nz))) {k24 : Int32 → Int32 → Int32 → Int32 → Int32 → tw_T → Option (Int32 × tw_T)} (hk24 : ∀ {x1 : Int32} {x2 : Int32} {x3 : Int32} {x4 : Int32} {x5 : Int32} {T : tw_T} {r : Int32 × tw_T}, k24 x1 x2 x3 x4 x5 T = some r → vv_V l G MX4_nextOn (d + 1) 24 [(0, .ref o), (1, .int x1), (2, .int x2), (3, .int x3), (4, .int x4), (5, .int x5)] [] (tp o h0 T, nz) (.inl (some (.int r.1)), (tp o h0 r.2, nz))) {x1 : Int32} {x2 : Int32} {x3 : Int32} {x4 : Int32} {x5 : Int32} {T : tw_T} {r : Int32 × tw_T} (h : B_nextOn_24 k2 k24 x1 x2 x3 x4 x5 T = some r) : vv_V l G MX4_nextOn (d + 1) 24 [(0, .ref o), (1, .int x1), (2, .int x2), (3, .int x3), (4, .int x4), (5, .int x5)] [] (tp o h0 T, nz) (.inl (some (.int r.1)), (tp o h0 r.2, nz)) := by
  unfold B_nextOn_24 at h
  refine vv_iload dX4_nextOn_24 5 rfl ?_
  refine vv_aload_n dX4_nextOn_26 rfl 0 rfl ?_
  refine tw_get (fl_X4_284 hG) (k := 2) rfl dX4_nextOn_27 ?_
  refine vv_icmp_ge (tgt := 95) dX4_nextOn_30 (by decide) (fun c1 => ?_) (fun c1 => ?_)
  · rw [if_pos c1] at h
    refine vv_iload dX4_nextOn_95 4 rfl ?_
    refine vv_if_eq (tgt := 102) dX4_nextOn_97 (by decide) (fun c2 => ?_) (fun c2 => ?_)
    · rw [if_pos c2] at h
      refine vv_sub (lv' := [(0, .ref o), (1, .int x1), (2, .int x2), (3, .int x3)]) [0, 1, 2, 3] rfl ?_
      exact v_nextOn_102 hG hk2 h
    · rw [if_neg c2] at h
      refine vv_iload_n dX4_nextOn_100 rfl 3 rfl ?_
      cases h
      exact vv_iret rfl dX4_nextOn_101
  · rw [if_neg c1] at h
    refine vv_iload dX4_nextOn_33 4 rfl ?_
    refine vv_if_ne (tgt := 82) dX4_nextOn_35 (by decide) (fun c3 => ?_) (fun c3 => ?_)
    · rw [if_neg c3] at h
      refine vv_sub (lv' := [(0, .ref o), (1, .int x1), (2, .int x2), (3, .int x3), (5, .int x5)]) [0, 1, 2, 3, 5] rfl ?_
      exact v_nextOn_82 hG hk2 hk24 h
    · rw [if_pos c3] at h
      refine vv_aload_n dX4_nextOn_38 rfl 0 rfl ?_
      refine vv_iload dX4_nextOn_39 5 rfl ?_
      refine vv_iload_n dX4_nextOn_41 rfl 1 rfl ?_
      obtain ⟨r4, er4, h⟩ := bd_o h
      refine vv_callV ok_X4_leads q2011 (m_leads hG er4 (d + 0)) rfl (by omega) ⟨_, _, _, _, _, tp_o, by rw [hG.1]; rfl⟩ rfl rfl (Nat.le_of_ble_eq_true rfl) dX4_nextOn_42 ?_
      refine vv_iload_n dX4_nextOn_45 rfl 3 rfl ?_
      refine vv_icmp_ne (tgt := 86) dX4_nextOn_46 (by decide) (fun c5 => ?_) (fun c5 => ?_)
      · rw [if_neg c5] at h
        refine vv_sub (lv' := [(0, .ref o), (1, .int x1), (2, .int x2), (3, .int x3), (5, .int x5)]) [0, 1, 2, 3, 5] rfl ?_
        exact v_nextOn_86 hG hk2 hk24 h
      · rw [if_pos c5] at h
        refine vv_aload_n dX4_nextOn_49 rfl 0 rfl ?_
        refine tw_get (fl_X4_26 hG) (k := 9) rfl dX4_nextOn_50 ?_
        refine vv_iload dX4_nextOn_53 5 rfl ?_
        obtain ⟨v6, iv6, ev6, h⟩ := rd_o h
        refine tw_ald 5 (by decide) rfl iv6 ev6 dX4_nextOn_55 ?_
        refine vv_aload_n dX4_nextOn_56 rfl 0 rfl ?_
        refine tw_get (fl_X4_87 hG) (k := 48) rfl dX4_nextOn_57 ?_
        refine vv_bipush (v := (nI 8)) dX4_nextOn_60 (by decide) ?_
        refine vv_iload_n dX4_nextOn_62 rfl 3 rfl ?_
        refine vv_imul dX4_nextOn_63 ?_
        refine vv_iload_n dX4_nextOn_64 rfl 2 rfl ?_
        refine vv_iadd dX4_nextOn_65 ?_
        obtain ⟨v7, iv7, ev7, h⟩ := rd_o h
        refine tw_ald 24 (by decide) rfl iv7 ev7 dX4_nextOn_66 ?_
        refine vv_iadd dX4_nextOn_67 ?_
        refine vv_aload_n dX4_nextOn_68 rfl 0 rfl ?_
        refine tw_get (fl_X4_87 hG) (k := 48) rfl dX4_nextOn_69 ?_
        refine vv_bipush (v := (nI 8)) dX4_nextOn_72 (by decide) ?_
        refine vv_iload_n dX4_nextOn_74 rfl 1 rfl ?_
        refine vv_imul dX4_nextOn_75 ?_
        refine vv_iload_n dX4_nextOn_76 rfl 2 rfl ?_
        refine vv_iadd dX4_nextOn_77 ?_
        obtain ⟨v8, iv8, ev8, h⟩ := rd_o h
        refine tw_ald 24 (by decide) rfl iv8 ev8 dX4_nextOn_78 ?_
        refine vv_icmp_ne (tgt := 86) dX4_nextOn_79 (by decide) (fun c9 => ?_) (fun c9 => ?_)
        · rw [if_neg c9] at h
          refine vv_sub (lv' := [(0, .ref o), (1, .int x1), (2, .int x2), (3, .int x3), (5, .int x5)]) [0, 1, 2, 3, 5] rfl ?_
          exact v_nextOn_86 hG hk2 hk24 h
        · rw [if_pos c9] at h
          refine vv_sub (lv' := [(0, .ref o), (1, .int x1), (2, .int x2), (3, .int x3), (5, .int x5)]) [0, 1, 2, 3, 5] rfl ?_
          exact v_nextOn_82 hG hk2 hk24 h
theorem v_nextOn_24 {l : Launch} {G : vv_G} {d : Nat} {o : Nat} {h0 : Nat → Option vv_E} {nz : Nat × Nat} (hG : vv_gok G) {k2 : Int32 → Int32 → Int32 → tw_T → Option (Int32 × tw_T)} (hk2 : ∀ {x1 : Int32} {x2 : Int32} {x3 : Int32} {T : tw_T} {r : Int32 × tw_T}, k2 x1 x2 x3 T = some r → vv_V l G MX4_nextOn (d + 1) 2 [(0, .ref o), (1, .int x1), (2, .int x2), (3, .int x3)] [] (tp o h0 T, nz) (.inl (some (.int r.1)), (tp o h0 r.2, nz))) : ∀ (n : Nat) {x1 : Int32} {x2 : Int32} {x3 : Int32} {x4 : Int32} {x5 : Int32} {T : tw_T} {r : Int32 × tw_T}, J_nextOn_24 k2 n x1 x2 x3 x4 x5 T = some r → vv_V l G MX4_nextOn (d + 1) 24 [(0, .ref o), (1, .int x1), (2, .int x2), (3, .int x3), (4, .int x4), (5, .int x5)] [] (tp o h0 T, nz) (.inl (some (.int r.1)), (tp o h0 r.2, nz)) := by
  intro n
  induction n with
  | zero => intro _ _ _ _ _ _ _ h; cases h
  | succ n ih => intro _ _ _ _ _ _ _ h; exact vb_nextOn_24 hG hk2 ih h
def B_nextOn_2 (k2 : Int32 → Int32 → Int32 → tw_T → Option (Int32 × tw_T)) (x1 : Int32) (x2 : Int32) (x3 : Int32) (T : tw_T) : Option (Int32 × tw_T) := if (T.1 1) ≤ x3 then (some ((-1), T)) else (if x3 = x1 then (J_nextOn_102 k2 x1 x2 x3 T) else (J_nextOn_24 k2 NN x1 x2 x3 (nI 0) (nI 0) T))
def J_nextOn_2 : Nat → Int32 → Int32 → Int32 → tw_T → Option (Int32 × tw_T)
  | 0, _, _, _, _ => none
  | n + 1, x1, x2, x3, T => B_nextOn_2 (J_nextOn_2 n) x1 x2 x3 T
theorem vb_nextOn_2 {l : Launch} {G : vv_G} {d : Nat} {o : Nat} {h0 : Nat → Option vv_E} {nz : Nat × Nat} (hG : vv_gok G) {k2 : Int32 → Int32 → Int32 → tw_T → Option (Int32 × tw_T)} (hk2 : ∀ {x1 : Int32} {x2 : Int32} {x3 : Int32} {T : tw_T} {r : Int32 × tw_T}, k2 x1 x2 x3 T = some r → vv_V l G MX4_nextOn (d + 1) 2 [(0, .ref o), (1, .int x1), (2, .int x2), (3, .int x3)] [] (tp o h0 T, nz) (.inl (some (.int r.1)), (tp o h0 r.2, nz))) {x1 : Int32} {x2 : Int32} {x3 : Int32} {T : tw_T} {r : Int32 × tw_T} (h : B_nextOn_2 k2 x1 x2 x3 T = some r) : vv_V l G MX4_nextOn (d + 1) 2 [(0, .ref o), (1, .int x1), (2, .int x2), (3, .int x3)] [] (tp o h0 T, nz) (.inl (some (.int r.1)), (tp o h0 r.2, nz)) := by
  unfold B_nextOn_2 at h
  refine vv_iload_n dX4_nextOn_2 rfl 3 rfl ?_
  refine vv_aload_n dX4_nextOn_3 rfl 0 rfl ?_
  refine tw_get (fl_X4_281 hG) (k := 1) rfl dX4_nextOn_4 ?_
  refine vv_icmp_ge (tgt := 108) dX4_nextOn_7 (by decide) (fun c1 => ?_) (fun c1 => ?_)
  · rw [if_pos c1] at h
    refine vv_iconst (v := (-1)) dX4_nextOn_108 (by decide) ?_
    cases h
    exact vv_iret rfl dX4_nextOn_109
  · rw [if_neg c1] at h
    refine vv_iload_n dX4_nextOn_10 rfl 3 rfl ?_
    refine vv_iload_n dX4_nextOn_11 rfl 1 rfl ?_
    refine vv_icmp_ne (tgt := 18) dX4_nextOn_12 (by decide) (fun c2 => ?_) (fun c2 => ?_)
    · rw [if_neg c2] at h
      refine vv_iconst (v := (nI 0)) dX4_nextOn_18 (by decide) ?_
      refine vv_istore (lv' := [(0, .ref o), (1, .int x1), (2, .int x2), (3, .int x3), (4, .int (nI 0))]) dX4_nextOn_19 (by decide) [1, 2, 3, 4, 0] rfl ?_
      refine vv_iconst (v := (nI 0)) dX4_nextOn_21 (by decide) ?_
      refine vv_istore (lv' := [(0, .ref o), (1, .int x1), (2, .int x2), (3, .int x3), (4, .int (nI 0)), (5, .int (nI 0))]) dX4_nextOn_22 (by decide) [1, 2, 3, 4, 5, 0] rfl ?_
      exact v_nextOn_24 hG hk2 NN h
    · rw [if_pos c2] at h
      refine vv_goto (tgt := 102) dX4_nextOn_15 (by decide) ?_
      exact v_nextOn_102 hG hk2 h
theorem v_nextOn_2 {l : Launch} {G : vv_G} {d : Nat} {o : Nat} {h0 : Nat → Option vv_E} {nz : Nat × Nat} (hG : vv_gok G) : ∀ (n : Nat) {x1 : Int32} {x2 : Int32} {x3 : Int32} {T : tw_T} {r : Int32 × tw_T}, J_nextOn_2 n x1 x2 x3 T = some r → vv_V l G MX4_nextOn (d + 1) 2 [(0, .ref o), (1, .int x1), (2, .int x2), (3, .int x3)] [] (tp o h0 T, nz) (.inl (some (.int r.1)), (tp o h0 r.2, nz)) := by
  intro n
  induction n with
  | zero => intro _ _ _ _ _ h; cases h
  | succ n ih => intro _ _ _ _ _ h; exact vb_nextOn_2 hG ih h
def J_nextOn (x1 : Int32) (x2 : Int32) (T : tw_T) : Option (Int32 × tw_T) := J_nextOn_2 NN x1 x2 (nI 0) T
theorem v_nextOn_0 {l : Launch} {G : vv_G} {d : Nat} {o : Nat} {h0 : Nat → Option vv_E} {nz : Nat × Nat} (hG : vv_gok G) {x1 : Int32} {x2 : Int32} {T : tw_T} {r : Int32 × tw_T} (h : J_nextOn x1 x2 T = some r) : vv_V l G MX4_nextOn (d + 1) 0 [(0, .ref o), (1, .int x1), (2, .int x2)] [] (tp o h0 T, nz) (.inl (some (.int r.1)), (tp o h0 r.2, nz)) := by
  unfold J_nextOn at h
  refine vv_iconst (v := (nI 0)) dX4_nextOn_0 (by decide) ?_
  refine vv_istore_n (lv' := [(0, .ref o), (1, .int x1), (2, .int x2), (3, .int (nI 0))]) dX4_nextOn_1 rfl (by decide) [1, 2, 3, 0] rfl ?_
  exact v_nextOn_2 hG NN h
theorem m_nextOn {l : Launch} {G : vv_G} {o : Nat} {h0 : Nat → Option vv_E} {nz : Nat × Nat} (hG : vv_gok G) {x1 : Int32} {x2 : Int32} {T : tw_T} {r : Int32 × tw_T} (h : J_nextOn x1 x2 T = some r) (d : Nat) : vv_Met l G MX4_nextOn (d + 1) [.ref o, .int x1, .int x2] (tp o h0 T, nz) (.inl (some (.int r.1)), (tp o h0 r.2, nz)) := vv_head (by decide +kernel) rfl (Nat.le_of_ble_eq_true rfl) rfl (v_nextOn_0 hG h)
/-! row -/
def J_row_21 (T : tw_T) : Option (Int32 × tw_T) := some ((nI 0), T)
theorem v_row_21 {l : Launch} {G : vv_G} {d : Nat} {o : Nat} {h0 : Nat → Option vv_E} {nz : Nat × Nat} (hG : vv_gok G) {T : tw_T} {r : Int32 × tw_T} (h : J_row_21 T = some r) : vv_V l G MX4_row (d + 2) 21 [(0, .ref o)] [] (tp o h0 T, nz) (.inl (some (.int r.1)), (tp o h0 r.2, nz)) := by
  unfold J_row_21 at h
  refine vv_iconst (v := (nI 0)) dX4_row_21 (by decide) ?_
  cases h
  exact vv_iret rfl dX4_row_22
def J_row_122 (s0 : Int32) (T : tw_T) : Option (Int32 × tw_T) := some (s0, T)
theorem v_row_122 {l : Launch} {G : vv_G} {d : Nat} {o : Nat} {h0 : Nat → Option vv_E} {nz : Nat × Nat} (hG : vv_gok G) {s0 : Int32} {T : tw_T} {r : Int32 × tw_T} (h : J_row_122 s0 T = some r) : vv_V l G MX4_row (d + 2) 122 [(0, .ref o)] [.int s0] (tp o h0 T, nz) (.inl (some (.int r.1)), (tp o h0 r.2, nz)) := by
  unfold J_row_122 at h
  cases h
  exact vv_iret rfl dX4_row_122
def J_row_109 (s1 : Int32) (x4 : Int32) (T : tw_T) : Option (Int32 × tw_T) := (J_right s1 (nI 1) T).bind fun r1 => if r1.1 = 0 then (J_row_122 (nI 0) r1.2) else (J_row_122 x4 r1.2)
theorem v_row_109 {l : Launch} {G : vv_G} {d : Nat} {o : Nat} {h0 : Nat → Option vv_E} {nz : Nat × Nat} (hG : vv_gok G) {s1 : Int32} {x4 : Int32} {T : tw_T} {r : Int32 × tw_T} (h : J_row_109 s1 x4 T = some r) : vv_V l G MX4_row (d + 2) 109 [(0, .ref o), (4, .int x4)] [.int s1, .ref o] (tp o h0 T, nz) (.inl (some (.int r.1)), (tp o h0 r.2, nz)) := by
  unfold J_row_109 at h
  refine vv_iconst (v := (nI 1)) dX4_row_109 (by decide) ?_
  obtain ⟨r1, er1, h⟩ := bd_o h
  refine vv_callV ok_X4_right q1773 (m_right hG er1 (d + 1)) rfl (by omega) ⟨_, _, _, _, _, tp_o, by rw [hG.1]; rfl⟩ rfl rfl (Nat.le_of_ble_eq_true rfl) dX4_row_110 ?_
  refine vv_if_eq (tgt := 121) dX4_row_113 (by decide) (fun c2 => ?_) (fun c2 => ?_)
  · rw [if_pos c2] at h
    refine vv_iconst (v := (nI 0)) dX4_row_121 (by decide) ?_
    refine vv_sub (lv' := [(0, .ref o)]) [0] rfl ?_
    exact v_row_122 hG h
  · rw [if_neg c2] at h
    refine vv_iload dX4_row_116 1 rfl ?_
    refine vv_goto (tgt := 122) dX4_row_118 (by decide) ?_
    refine vv_sub (lv' := [(0, .ref o)]) [0] rfl ?_
    exact v_row_122 hG h
def J_row_97 (x3 : Int32) (x4 : Int32) (x5 : Int32) (T : tw_T) : Option (Int32 × tw_T) := if x5 = x3 then (J_row_109 (nI 1) x4 T) else (J_row_109 (nI 0) x4 T)
theorem v_row_97 {l : Launch} {G : vv_G} {d : Nat} {o : Nat} {h0 : Nat → Option vv_E} {nz : Nat × Nat} (hG : vv_gok G) {x3 : Int32} {x4 : Int32} {x5 : Int32} {T : tw_T} {r : Int32 × tw_T} (h : J_row_97 x3 x4 x5 T = some r) : vv_V l G MX4_row (d + 2) 97 [(0, .ref o), (3, .int x3), (4, .int x4), (5, .int x5)] [] (tp o h0 T, nz) (.inl (some (.int r.1)), (tp o h0 r.2, nz)) := by
  unfold J_row_97 at h
  refine vv_aload_n dX4_row_97 rfl 0 rfl ?_
  refine vv_iload dX4_row_98 3 rfl ?_
  refine vv_iload_n dX4_row_100 rfl 1 rfl ?_
  refine vv_icmp_ne (tgt := 108) dX4_row_101 (by decide) (fun c1 => ?_) (fun c1 => ?_)
  · rw [if_neg c1] at h
    refine vv_iconst (v := (nI 0)) dX4_row_108 (by decide) ?_
    refine vv_sub (lv' := [(0, .ref o), (4, .int x4)]) [0, 2] rfl ?_
    exact v_row_109 hG h
  · rw [if_pos c1] at h
    refine vv_iconst (v := (nI 1)) dX4_row_104 (by decide) ?_
    refine vv_goto (tgt := 109) dX4_row_105 (by decide) ?_
    refine vv_sub (lv' := [(0, .ref o), (4, .int x4)]) [0, 2] rfl ?_
    exact v_row_109 hG h
def B_row_70 (k70 : Int32 → Int32 → Int32 → Int32 → tw_T → Option (Int32 × tw_T)) (x2 : Int32) (x3 : Int32) (x4 : Int32) (x5 : Int32) (T : tw_T) : Option (Int32 × tw_T) := if x3 ≤ x5 then (J_row_97 x3 x4 x5 T) else (if x4 = x2 then (J_row_97 x3 x4 x5 T) else ((J_nextOn x4 x2 T).bind fun r3 => k70 x2 x3 r3.1 (x5 + (nI 1)) r3.2))
def J_row_70 : Nat → Int32 → Int32 → Int32 → Int32 → tw_T → Option (Int32 × tw_T)
  | 0, _, _, _, _, _ => none
  | n + 1, x2, x3, x4, x5, T => B_row_70 (J_row_70 n) x2 x3 x4 x5 T
theorem vb_row_70 {l : Launch} {G : vv_G} {d : Nat} {o : Nat} {h0 : Nat → Option vv_E} {nz : Nat × Nat} (hG : vv_gok G) {k70 : Int32 → Int32 → Int32 → Int32 → tw_T → Option (Int32 × tw_T)} (hk70 : ∀ {x2 : Int32} {x3 : Int32} {x4 : Int32} {x5 : Int32} {T : tw_T} {r : Int32 × tw_T}, k70 x2 x3 x4 x5 T = some r → vv_V l G MX4_row (d + 2) 70 [(0, .ref o), (2, .int x2), (3, .int x3), (4, .int x4), (5, .int x5)] [] (tp o h0 T, nz) (.inl (some (.int r.1)), (tp o h0 r.2, nz))) {x2 : Int32} {x3 : Int32} {x4 : Int32} {x5 : Int32} {T : tw_T} {r : Int32 × tw_T} (h : B_row_70 k70 x2 x3 x4 x5 T = some r) : vv_V l G MX4_row (d + 2) 70 [(0, .ref o), (2, .int x2), (3, .int x3), (4, .int x4), (5, .int x5)] [] (tp o h0 T, nz) (.inl (some (.int r.1)), (tp o h0 r.2, nz)) := by
  unfold B_row_70 at h
  refine vv_iload dX4_row_70 4 rfl ?_
  refine vv_iload_n dX4_row_72 rfl 2 rfl ?_
  refine vv_icmp_ge (tgt := 97) dX4_row_73 (by decide) (fun c1 => ?_) (fun c1 => ?_)
  · rw [if_pos c1] at h
    refine vv_sub (lv' := [(0, .ref o), (3, .int x3), (4, .int x4), (5, .int x5)]) [0, 2, 3, 4] rfl ?_
    exact v_row_97 hG h
  · rw [if_neg c1] at h
    refine vv_iload dX4_row_76 3 rfl ?_
    refine vv_iload_n dX4_row_78 rfl 1 rfl ?_
    refine vv_icmp_eq (tgt := 97) dX4_row_79 (by decide) (fun c2 => ?_) (fun c2 => ?_)
    · rw [if_pos c2] at h
      refine vv_sub (lv' := [(0, .ref o), (3, .int x3), (4, .int x4), (5, .int x5)]) [0, 2, 3, 4] rfl ?_
      exact v_row_97 hG h
    · rw [if_neg c2] at h
      refine vv_aload_n dX4_row_82 rfl 0 rfl ?_
      refine vv_iload dX4_row_83 3 rfl ?_
      refine vv_iload_n dX4_row_85 rfl 1 rfl ?_
      obtain ⟨r3, er3, h⟩ := bd_o h
      refine vv_callV ok_X4_nextOn q2095 (m_nextOn hG er3 (d + 0)) rfl (by omega) ⟨_, _, _, _, _, tp_o, by rw [hG.1]; rfl⟩ rfl rfl (Nat.le_of_ble_eq_true rfl) dX4_row_86 ?_
      refine vv_istore (lv' := [(0, .ref o), (2, .int x2), (3, .int x3), (4, .int r3.1), (5, .int x5)]) dX4_row_89 (by decide) [1, 2, 3, 0, 4] rfl ?_
      refine vv_iinc (v := (x5 + (nI 1))) (lv' := [(0, .ref o), (2, .int x2), (3, .int x3), (4, .int r3.1), (5, .int (x5 + (nI 1)))]) dX4_row_91 4 rfl rfl (by decide) [1, 2, 3, 4, 0] rfl ?_
      refine vv_goto (tgt := 70) dX4_row_94 (by decide) ?_
      exact hk70 h
theorem v_row_70 {l : Launch} {G : vv_G} {d : Nat} {o : Nat} {h0 : Nat → Option vv_E} {nz : Nat × Nat} (hG : vv_gok G) : ∀ (n : Nat) {x2 : Int32} {x3 : Int32} {x4 : Int32} {x5 : Int32} {T : tw_T} {r : Int32 × tw_T}, J_row_70 n x2 x3 x4 x5 T = some r → vv_V l G MX4_row (d + 2) 70 [(0, .ref o), (2, .int x2), (3, .int x3), (4, .int x4), (5, .int x5)] [] (tp o h0 T, nz) (.inl (some (.int r.1)), (tp o h0 r.2, nz)) := by
  intro n
  induction n with
  | zero => intro _ _ _ _ _ _ h; cases h
  | succ n ih => intro _ _ _ _ _ _ h; exact vb_row_70 hG ih h
def J_row_55 (s1 : Int32) (x1 : Int32) (x2 : Int32) (x3 : Int32) (T : tw_T) : Option (Int32 × tw_T) := (J_right s1 (nI 1) T).bind fun r1 => if r1.1 = 0 then (some ((nI 0), r1.2)) else (J_row_70 NN x2 x3 x1 (nI 0) r1.2)
theorem v_row_55 {l : Launch} {G : vv_G} {d : Nat} {o : Nat} {h0 : Nat → Option vv_E} {nz : Nat × Nat} (hG : vv_gok G) {s1 : Int32} {x1 : Int32} {x2 : Int32} {x3 : Int32} {T : tw_T} {r : Int32 × tw_T} (h : J_row_55 s1 x1 x2 x3 T = some r) : vv_V l G MX4_row (d + 2) 55 [(0, .ref o), (1, .int x1), (2, .int x2), (3, .int x3)] [.int s1, .ref o] (tp o h0 T, nz) (.inl (some (.int r.1)), (tp o h0 r.2, nz)) := by
  unfold J_row_55 at h
  refine vv_iconst (v := (nI 1)) dX4_row_55 (by decide) ?_
  obtain ⟨r1, er1, h⟩ := bd_o h
  refine vv_callV ok_X4_right q1773 (m_right hG er1 (d + 1)) rfl (by omega) ⟨_, _, _, _, _, tp_o, by rw [hG.1]; rfl⟩ rfl rfl (Nat.le_of_ble_eq_true rfl) dX4_row_56 ?_
  refine vv_if_ne (tgt := 64) dX4_row_59 (by decide) (fun c2 => ?_) (fun c2 => ?_)
  · rw [if_neg c2] at h
    refine vv_iload_n dX4_row_64 rfl 1 rfl ?_
    refine vv_istore (lv' := [(0, .ref o), (1, .int x1), (2, .int x2), (3, .int x3), (4, .int x1)]) dX4_row_65 (by decide) [1, 2, 3, 4, 0] rfl ?_
    refine vv_iconst (v := (nI 0)) dX4_row_67 (by decide) ?_
    refine vv_istore (lv' := [(0, .ref o), (1, .int x1), (2, .int x2), (3, .int x3), (4, .int x1), (5, .int (nI 0))]) dX4_row_68 (by decide) [1, 2, 3, 4, 5, 0] rfl ?_
    refine vv_sub (lv' := [(0, .ref o), (2, .int x2), (3, .int x3), (4, .int x1), (5, .int (nI 0))]) [0, 2, 3, 4, 5] rfl ?_
    exact v_row_70 hG NN h
  · rw [if_pos c2] at h
    refine vv_iconst (v := (nI 0)) dX4_row_62 (by decide) ?_
    cases h
    exact vv_iret rfl dX4_row_63
def J_row_54 (x1 : Int32) (x2 : Int32) (x3 : Int32) (T : tw_T) : Option (Int32 × tw_T) := J_row_55 (nI 0) x1 x2 x3 T
theorem v_row_54 {l : Launch} {G : vv_G} {d : Nat} {o : Nat} {h0 : Nat → Option vv_E} {nz : Nat × Nat} (hG : vv_gok G) {x1 : Int32} {x2 : Int32} {x3 : Int32} {T : tw_T} {r : Int32 × tw_T} (h : J_row_54 x1 x2 x3 T = some r) : vv_V l G MX4_row (d + 2) 54 [(0, .ref o), (1, .int x1), (2, .int x2), (3, .int x3)] [.ref o] (tp o h0 T, nz) (.inl (some (.int r.1)), (tp o h0 r.2, nz)) := by
  unfold J_row_54 at h
  refine vv_iconst (v := (nI 0)) dX4_row_54 (by decide) ?_
  exact v_row_55 hG h
def J_row (x1 : Int32) (x2 : Int32) (x3 : Int32) (T : tw_T) : Option (Int32 × tw_T) := (some (tw_F T 0 (nI 0))).bind fun T1 => (J_isTown x1 T1).bind fun r2 => if r2.1 = 0 then (J_row_21 r2.2) else ((J_isTown x2 r2.2).bind fun r4 => if r4.1 = 0 then (J_row_21 r4.2) else ((J_measures (-1) r4.2).bind fun r6 => if x3 < 0 then (J_row_54 x1 x2 x3 r6) else ((rdI 64 (r6.2.2 24) (((nI 8) * x1) + x2)).bind fun v8 => if (nI 99999) ≤ v8 then (J_row_54 x1 x2 x3 r6) else (J_row_55 (nI 1) x1 x2 x3 r6))))
theorem v_row_0 {l : Launch} {G : vv_G} {d : Nat} {o : Nat} {h0 : Nat → Option vv_E} {nz : Nat × Nat} (hG : vv_gok G) {x1 : Int32} {x2 : Int32} {x3 : Int32} {T : tw_T} {r : Int32 × tw_T} (h : J_row x1 x2 x3 T = some r) : vv_V l G MX4_row (d + 2) 0 [(0, .ref o), (1, .int x1), (2, .int x2), (3, .int x3)] [] (tp o h0 T, nz) (.inl (some (.int r.1)), (tp o h0 r.2, nz)) := by
  unfold J_row at h
  refine vv_aload_n dX4_row_0 rfl 0 rfl ?_
  refine vv_iconst (v := (nI 0)) dX4_row_1 (by decide) ?_
  obtain ⟨T1, eT1, h⟩ := bd_s h
  refine tw_put (T1 := T1) (pt_X4_117 hG) hG rfl rfl rfl (by decide) (by rw [eT1]; exact tw_set0 _ _ _) (by rw [eT1]; rfl) dX4_row_2 ?_
  refine vv_aload_n dX4_row_5 rfl 0 rfl ?_
  refine vv_iload_n dX4_row_6 rfl 1 rfl ?_
  obtain ⟨r2, er2, h⟩ := bd_o h
  refine vv_callV ok_X4_isTown q1935 (m_isTown hG er2 (d + 0)) rfl (by omega) ⟨_, _, _, _, _, tp_o, by rw [hG.1]; rfl⟩ rfl rfl (Nat.le_of_ble_eq_true rfl) dX4_row_7 ?_
  refine vv_if_eq (tgt := 21) dX4_row_10 (by decide) (fun c3 => ?_) (fun c3 => ?_)
  · rw [if_pos c3] at h
    refine vv_sub (lv' := [(0, .ref o)]) [0] rfl ?_
    exact v_row_21 hG h
  · rw [if_neg c3] at h
    refine vv_aload_n dX4_row_13 rfl 0 rfl ?_
    refine vv_iload_n dX4_row_14 rfl 2 rfl ?_
    obtain ⟨r4, er4, h⟩ := bd_o h
    refine vv_callV ok_X4_isTown q1935 (m_isTown hG er4 (d + 0)) rfl (by omega) ⟨_, _, _, _, _, tp_o, by rw [hG.1]; rfl⟩ rfl rfl (Nat.le_of_ble_eq_true rfl) dX4_row_15 ?_
    refine vv_if_ne (tgt := 23) dX4_row_18 (by decide) (fun c5 => ?_) (fun c5 => ?_)
    · rw [if_neg c5] at h
      refine vv_aload_n dX4_row_23 rfl 0 rfl ?_
      refine vv_iconst (v := (-1)) dX4_row_24 (by decide) ?_
      obtain ⟨r6, er6, h⟩ := bd_o h
      refine vv_callV ok_X4_measures q2071 (m_measures hG er6 (d + 0)) rfl (by omega) ⟨_, _, _, _, _, tp_o, by rw [hG.1]; rfl⟩ rfl rfl (Nat.le_of_ble_eq_true rfl) dX4_row_25 ?_
      refine vv_aload_n dX4_row_28 rfl 0 rfl ?_
      refine vv_iload_n dX4_row_29 rfl 3 rfl ?_
      refine vv_if_lt (tgt := 54) dX4_row_30 (by decide) (fun c7 => ?_) (fun c7 => ?_)
      · rw [if_pos c7] at h
        exact v_row_54 hG h
      · rw [if_neg c7] at h
        refine vv_aload_n dX4_row_33 rfl 0 rfl ?_
        refine tw_get (fl_X4_87 hG) (k := 48) rfl dX4_row_34 ?_
        refine vv_bipush (v := (nI 8)) dX4_row_37 (by decide) ?_
        refine vv_iload_n dX4_row_39 rfl 1 rfl ?_
        refine vv_imul dX4_row_40 ?_
        refine vv_iload_n dX4_row_41 rfl 2 rfl ?_
        refine vv_iadd dX4_row_42 ?_
        obtain ⟨v8, iv8, ev8, h⟩ := rd_o h
        refine tw_ald 24 (by decide) rfl iv8 ev8 dX4_row_43 ?_
        refine vv_ldcw (v := (nI 99999)) dX4_row_44 q2075 ?_
        refine vv_icmp_ge (tgt := 54) dX4_row_47 (by decide) (fun c9 => ?_) (fun c9 => ?_)
        · rw [if_pos c9] at h
          exact v_row_54 hG h
        · rw [if_neg c9] at h
          refine vv_iconst (v := (nI 1)) dX4_row_50 (by decide) ?_
          refine vv_goto (tgt := 55) dX4_row_51 (by decide) ?_
          exact v_row_55 hG h
    · rw [if_pos c5] at h
      refine vv_sub (lv' := [(0, .ref o)]) [0] rfl ?_
      exact v_row_21 hG h
theorem m_row {l : Launch} {G : vv_G} {o : Nat} {h0 : Nat → Option vv_E} {nz : Nat × Nat} (hG : vv_gok G) {x1 : Int32} {x2 : Int32} {x3 : Int32} {T : tw_T} {r : Int32 × tw_T} (h : J_row x1 x2 x3 T = some r) (d : Nat) : vv_Met l G MX4_row (d + 2) [.ref o, .int x1, .int x2, .int x3] (tp o h0 T, nz) (.inl (some (.int r.1)), (tp o h0 r.2, nz)) := vv_head (by decide +kernel) rfl (Nat.le_of_ble_eq_true rfl) rfl (v_row_0 hG h)
/-! hub -/
def J_hub_97 (k18 : Int32 → Int32 → Int32 → tw_T → Option (Int32 × tw_T)) (x1 : Int32) (x2 : Int32) (x3 : Int32) (T : tw_T) : Option (Int32 × tw_T) := k18 x1 x2 (x3 + (nI 1)) T
theorem v_hub_97 {l : Launch} {G : vv_G} {d : Nat} {o : Nat} {h0 : Nat → Option vv_E} {nz : Nat × Nat} (hG : vv_gok G) {k18 : Int32 → Int32 → Int32 → tw_T → Option (Int32 × tw_T)} (hk18 : ∀ {x1 : Int32} {x2 : Int32} {x3 : Int32} {T : tw_T} {r : Int32 × tw_T}, k18 x1 x2 x3 T = some r → vv_V l G MX4_hub (d + 2) 18 [(0, .ref o), (1, .int x1), (2, .int x2), (3, .int x3)] [] (tp o h0 T, nz) (.inl (some (.int r.1)), (tp o h0 r.2, nz))) {x1 : Int32} {x2 : Int32} {x3 : Int32} {T : tw_T} {r : Int32 × tw_T} (h : J_hub_97 k18 x1 x2 x3 T = some r) : vv_V l G MX4_hub (d + 2) 97 [(0, .ref o), (1, .int x1), (2, .int x2), (3, .int x3)] [] (tp o h0 T, nz) (.inl (some (.int r.1)), (tp o h0 r.2, nz)) := by
  unfold J_hub_97 at h
  refine vv_iinc (v := (x3 + (nI 1))) (lv' := [(0, .ref o), (1, .int x1), (2, .int x2), (3, .int (x3 + (nI 1)))]) dX4_hub_97 3 rfl rfl (by decide) [1, 2, 3, 0] rfl ?_
  refine vv_goto (tgt := 18) dX4_hub_100 (by decide) ?_
  exact hk18 h
def J_hub_75 (k18 : Int32 → Int32 → Int32 → tw_T → Option (Int32 × tw_T)) (k32 : Int32 → Int32 → Int32 → Int32 → Int32 → tw_T → Option (Int32 × tw_T)) (s0 : Int32) (x1 : Int32) (x2 : Int32) (x3 : Int32) (x5 : Int32) (T : tw_T) : Option (Int32 × tw_T) := k32 x1 x2 x3 s0 (x5 + (nI 1)) T
theorem v_hub_75 {l : Launch} {G : vv_G} {d : Nat} {o : Nat} {h0 : Nat → Option vv_E} {nz : Nat × Nat} (hG : vv_gok G) {k18 : Int32 → Int32 → Int32 → tw_T → Option (Int32 × tw_T)} (hk18 : ∀ {x1 : Int32} {x2 : Int32} {x3 : Int32} {T : tw_T} {r : Int32 × tw_T}, k18 x1 x2 x3 T = some r → vv_V l G MX4_hub (d + 2) 18 [(0, .ref o), (1, .int x1), (2, .int x2), (3, .int x3)] [] (tp o h0 T, nz) (.inl (some (.int r.1)), (tp o h0 r.2, nz))) {k32 : Int32 → Int32 → Int32 → Int32 → Int32 → tw_T → Option (Int32 × tw_T)} (hk32 : ∀ {x1 : Int32} {x2 : Int32} {x3 : Int32} {x4 : Int32} {x5 : Int32} {T : tw_T} {r : Int32 × tw_T}, k32 x1 x2 x3 x4 x5 T = some r → vv_V l G MX4_hub (d + 2) 32 [(0, .ref o), (1, .int x1), (2, .int x2), (3, .int x3), (4, .int x4), (5, .int x5)] [] (tp o h0 T, nz) (.inl (some (.int r.1)), (tp o h0 r.2, nz))) {s0 : Int32} {x1 : Int32} {x2 : Int32} {x3 : Int32} {x5 : Int32} {T : tw_T} {r : Int32 × tw_T} (h : J_hub_75 k18 k32 s0 x1 x2 x3 x5 T = some r) : vv_V l G MX4_hub (d + 2) 75 [(0, .ref o), (1, .int x1), (2, .int x2), (3, .int x3), (5, .int x5)] [.int s0] (tp o h0 T, nz) (.inl (some (.int r.1)), (tp o h0 r.2, nz)) := by
  unfold J_hub_75 at h
  refine vv_istore (lv' := [(0, .ref o), (1, .int x1), (2, .int x2), (3, .int x3), (4, .int s0), (5, .int x5)]) dX4_hub_75 (by decide) [1, 2, 3, 4, 0, 5] rfl ?_
  refine vv_iinc (v := (x5 + (nI 1))) (lv' := [(0, .ref o), (1, .int x1), (2, .int x2), (3, .int x3), (4, .int s0), (5, .int (x5 + (nI 1)))]) dX4_hub_77 5 rfl rfl (by decide) [1, 2, 3, 4, 5, 0] rfl ?_
  refine vv_goto (tgt := 32) dX4_hub_80 (by decide) ?_
  exact hk32 h
def B_hub_32 (k18 : Int32 → Int32 → Int32 → tw_T → Option (Int32 × tw_T)) (k32 : Int32 → Int32 → Int32 → Int32 → Int32 → tw_T → Option (Int32 × tw_T)) (x1 : Int32) (x2 : Int32) (x3 : Int32) (x4 : Int32) (x5 : Int32) (T : tw_T) : Option (Int32 × tw_T) := if (T.1 1) ≤ x5 then (if x4 < x2 then (J_hub_97 k18 x3 x4 x3 T) else (J_hub_97 k18 x1 x2 x3 T)) else ((rdI 64 (T.2.2 24) (((nI 8) * x3) + x5)).bind fun v3 => if v3 ≤ x4 then (J_hub_75 k18 k32 x4 x1 x2 x3 x5 T) else ((rdI 64 (T.2.2 24) (((nI 8) * x3) + x5)).bind fun v5 => J_hub_75 k18 k32 v5 x1 x2 x3 x5 T))
def J_hub_32 (k18 : Int32 → Int32 → Int32 → tw_T → Option (Int32 × tw_T)) : Nat → Int32 → Int32 → Int32 → Int32 → Int32 → tw_T → Option (Int32 × tw_T)
  | 0, _, _, _, _, _, _ => none
  | n + 1, x1, x2, x3, x4, x5, T => B_hub_32 k18 (J_hub_32 k18 n) x1 x2 x3 x4 x5 T
theorem vb_hub_32 {l : Launch} {G : vv_G} {d : Nat} {o : Nat} {h0 : Nat → Option vv_E} {nz : Nat × Nat} (hG : vv_gok G) {k18 : Int32 → Int32 → Int32 → tw_T → Option (Int32 × tw_T)} (hk18 : ∀ {x1 : Int32} {x2 : Int32} {x3 : Int32} {T : tw_T} {r : Int32 × tw_T}, k18 x1 x2 x3 T = some r → vv_V l G MX4_hub (d + 2) 18 [(0, .ref o), (1, .int x1), (2, .int x2), (3, .int x3)] [] (tp o h0 T, nz) (.inl (some (.int r.1)), (tp o h0 r.2, nz))) {k32 : Int32 → Int32 → Int32 → Int32 → Int32 → tw_T → Option (Int32 × tw_T)} (hk32 : ∀ {x1 : Int32} {x2 : Int32} {x3 : Int32} {x4 : Int32} {x5 : Int32} {T : tw_T} {r : Int32 × tw_T}, k32 x1 x2 x3 x4 x5 T = some r → vv_V l G MX4_hub (d + 2) 32 [(0, .ref o), (1, .int x1), (2, .int x2), (3, .int x3), (4, .int x4), (5, .int x5)] [] (tp o h0 T, nz) (.inl (some (.int r.1)), (tp o h0 r.2, nz))) {x1 : Int32} {x2 : Int32} {x3 : Int32} {x4 : Int32} {x5 : Int32} {T : tw_T} {r : Int32 × tw_T} (h : B_hub_32 k18 k32 x1 x2 x3 x4 x5 T = some r) : vv_V l G MX4_hub (d + 2) 32 [(0, .ref o), (1, .int x1), (2, .int x2), (3, .int x3), (4, .int x4), (5, .int x5)] [] (tp o h0 T, nz) (.inl (some (.int r.1)), (tp o h0 r.2, nz)) := by
  unfold B_hub_32 at h
  refine vv_iload dX4_hub_32 5 rfl ?_
  refine vv_aload_n dX4_hub_34 rfl 0 rfl ?_
  refine tw_get (fl_X4_281 hG) (k := 1) rfl dX4_hub_35 ?_
  refine vv_icmp_ge (tgt := 83) dX4_hub_38 (by decide) (fun c1 => ?_) (fun c1 => ?_)
  · rw [if_pos c1] at h
    refine vv_iload dX4_hub_83 4 rfl ?_
    refine vv_iload_n dX4_hub_85 rfl 2 rfl ?_
    refine vv_icmp_lt (tgt := 92) dX4_hub_86 (by decide) (fun c2 => ?_) (fun c2 => ?_)
    · rw [if_pos c2] at h
      refine vv_iload_n dX4_hub_92 rfl 3 rfl ?_
      refine vv_istore_n (lv' := [(0, .ref o), (1, .int x3), (2, .int x2), (3, .int x3), (4, .int x4), (5, .int x5)]) dX4_hub_93 rfl (by decide) [1, 0, 2, 3, 4, 5] rfl ?_
      refine vv_iload dX4_hub_94 4 rfl ?_
      refine vv_istore_n (lv' := [(0, .ref o), (1, .int x3), (2, .int x4), (3, .int x3), (4, .int x4), (5, .int x5)]) dX4_hub_96 rfl (by decide) [1, 2, 0, 3, 4, 5] rfl ?_
      refine vv_sub (lv' := [(0, .ref o), (1, .int x3), (2, .int x4), (3, .int x3)]) [0, 1, 2, 3] rfl ?_
      exact v_hub_97 hG hk18 h
    · rw [if_neg c2] at h
      refine vv_goto (tgt := 97) dX4_hub_89 (by decide) ?_
      refine vv_sub (lv' := [(0, .ref o), (1, .int x1), (2, .int x2), (3, .int x3)]) [0, 1, 2, 3] rfl ?_
      exact v_hub_97 hG hk18 h
  · rw [if_neg c1] at h
    refine vv_aload_n dX4_hub_41 rfl 0 rfl ?_
    refine tw_get (fl_X4_87 hG) (k := 48) rfl dX4_hub_42 ?_
    refine vv_bipush (v := (nI 8)) dX4_hub_45 (by decide) ?_
    refine vv_iload_n dX4_hub_47 rfl 3 rfl ?_
    refine vv_imul dX4_hub_48 ?_
    refine vv_iload dX4_hub_49 5 rfl ?_
    refine vv_iadd dX4_hub_51 ?_
    obtain ⟨v3, iv3, ev3, h⟩ := rd_o h
    refine tw_ald 24 (by decide) rfl iv3 ev3 dX4_hub_52 ?_
    refine vv_iload dX4_hub_53 4 rfl ?_
    refine vv_icmp_le (tgt := 73) dX4_hub_55 (by decide) (fun c4 => ?_) (fun c4 => ?_)
    · rw [if_pos c4] at h
      refine vv_iload dX4_hub_73 4 rfl ?_
      refine vv_sub (lv' := [(0, .ref o), (1, .int x1), (2, .int x2), (3, .int x3), (5, .int x5)]) [0, 1, 2, 3, 5] rfl ?_
      exact v_hub_75 hG hk18 hk32 h
    · rw [if_neg c4] at h
      refine vv_aload_n dX4_hub_58 rfl 0 rfl ?_
      refine tw_get (fl_X4_87 hG) (k := 48) rfl dX4_hub_59 ?_
      refine vv_bipush (v := (nI 8)) dX4_hub_62 (by decide) ?_
      refine vv_iload_n dX4_hub_64 rfl 3 rfl ?_
      refine vv_imul dX4_hub_65 ?_
      refine vv_iload dX4_hub_66 5 rfl ?_
      refine vv_iadd dX4_hub_68 ?_
      obtain ⟨v5, iv5, ev5, h⟩ := rd_o h
      refine tw_ald 24 (by decide) rfl iv5 ev5 dX4_hub_69 ?_
      refine vv_goto (tgt := 75) dX4_hub_70 (by decide) ?_
      refine vv_sub (lv' := [(0, .ref o), (1, .int x1), (2, .int x2), (3, .int x3), (5, .int x5)]) [0, 1, 2, 3, 5] rfl ?_
      exact v_hub_75 hG hk18 hk32 h
theorem v_hub_32 {l : Launch} {G : vv_G} {d : Nat} {o : Nat} {h0 : Nat → Option vv_E} {nz : Nat × Nat} (hG : vv_gok G) {k18 : Int32 → Int32 → Int32 → tw_T → Option (Int32 × tw_T)} (hk18 : ∀ {x1 : Int32} {x2 : Int32} {x3 : Int32} {T : tw_T} {r : Int32 × tw_T}, k18 x1 x2 x3 T = some r → vv_V l G MX4_hub (d + 2) 18 [(0, .ref o), (1, .int x1), (2, .int x2), (3, .int x3)] [] (tp o h0 T, nz) (.inl (some (.int r.1)), (tp o h0 r.2, nz))) : ∀ (n : Nat) {x1 : Int32} {x2 : Int32} {x3 : Int32} {x4 : Int32} {x5 : Int32} {T : tw_T} {r : Int32 × tw_T}, J_hub_32 k18 n x1 x2 x3 x4 x5 T = some r → vv_V l G MX4_hub (d + 2) 32 [(0, .ref o), (1, .int x1), (2, .int x2), (3, .int x3), (4, .int x4), (5, .int x5)] [] (tp o h0 T, nz) (.inl (some (.int r.1)), (tp o h0 r.2, nz)) := by
  intro n
  induction n with
  | zero => intro _ _ _ _ _ _ _ h; cases h
  | succ n ih => intro _ _ _ _ _ _ _ h; exact vb_hub_32 hG hk18 ih h
def B_hub_18 (k18 : Int32 → Int32 → Int32 → tw_T → Option (Int32 × tw_T)) (x1 : Int32) (x2 : Int32) (x3 : Int32) (T : tw_T) : Option (Int32 × tw_T) := if (T.1 1) ≤ x3 then (some (x1, T)) else (J_hub_32 k18 NN x1 x2 x3 (nI 0) (nI 0) T)
def J_hub_18 : Nat → Int32 → Int32 → Int32 → tw_T → Option (Int32 × tw_T)
  | 0, _, _, _, _ => none
  | n + 1, x1, x2, x3, T => B_hub_18 (J_hub_18 n) x1 x2 x3 T
theorem vb_hub_18 {l : Launch} {G : vv_G} {d : Nat} {o : Nat} {h0 : Nat → Option vv_E} {nz : Nat × Nat} (hG : vv_gok G) {k18 : Int32 → Int32 → Int32 → tw_T → Option (Int32 × tw_T)} (hk18 : ∀ {x1 : Int32} {x2 : Int32} {x3 : Int32} {T : tw_T} {r : Int32 × tw_T}, k18 x1 x2 x3 T = some r → vv_V l G MX4_hub (d + 2) 18 [(0, .ref o), (1, .int x1), (2, .int x2), (3, .int x3)] [] (tp o h0 T, nz) (.inl (some (.int r.1)), (tp o h0 r.2, nz))) {x1 : Int32} {x2 : Int32} {x3 : Int32} {T : tw_T} {r : Int32 × tw_T} (h : B_hub_18 k18 x1 x2 x3 T = some r) : vv_V l G MX4_hub (d + 2) 18 [(0, .ref o), (1, .int x1), (2, .int x2), (3, .int x3)] [] (tp o h0 T, nz) (.inl (some (.int r.1)), (tp o h0 r.2, nz)) := by
  unfold B_hub_18 at h
  refine vv_iload_n dX4_hub_18 rfl 3 rfl ?_
  refine vv_aload_n dX4_hub_19 rfl 0 rfl ?_
  refine tw_get (fl_X4_281 hG) (k := 1) rfl dX4_hub_20 ?_
  refine vv_icmp_ge (tgt := 103) dX4_hub_23 (by decide) (fun c1 => ?_) (fun c1 => ?_)
  · rw [if_pos c1] at h
    refine vv_iload_n dX4_hub_103 rfl 1 rfl ?_
    cases h
    exact vv_iret rfl dX4_hub_104
  · rw [if_neg c1] at h
    refine vv_iconst (v := (nI 0)) dX4_hub_26 (by decide) ?_
    refine vv_istore (lv' := [(0, .ref o), (1, .int x1), (2, .int x2), (3, .int x3), (4, .int (nI 0))]) dX4_hub_27 (by decide) [1, 2, 3, 4, 0] rfl ?_
    refine vv_iconst (v := (nI 0)) dX4_hub_29 (by decide) ?_
    refine vv_istore (lv' := [(0, .ref o), (1, .int x1), (2, .int x2), (3, .int x3), (4, .int (nI 0)), (5, .int (nI 0))]) dX4_hub_30 (by decide) [1, 2, 3, 4, 5, 0] rfl ?_
    exact v_hub_32 hG hk18 NN h
theorem v_hub_18 {l : Launch} {G : vv_G} {d : Nat} {o : Nat} {h0 : Nat → Option vv_E} {nz : Nat × Nat} (hG : vv_gok G) : ∀ (n : Nat) {x1 : Int32} {x2 : Int32} {x3 : Int32} {T : tw_T} {r : Int32 × tw_T}, J_hub_18 n x1 x2 x3 T = some r → vv_V l G MX4_hub (d + 2) 18 [(0, .ref o), (1, .int x1), (2, .int x2), (3, .int x3)] [] (tp o h0 T, nz) (.inl (some (.int r.1)), (tp o h0 r.2, nz)) := by
  intro n
  induction n with
  | zero => intro _ _ _ _ _ h; cases h
  | succ n ih => intro _ _ _ _ _ h; exact vb_hub_18 hG ih h
def J_hub (T : tw_T) : Option (Int32 × tw_T) := (some (tw_F T 0 (nI 0))).bind fun T1 => (J_measures (-1) T1).bind fun r2 => J_hub_18 NN (-1) (nI 99999) (nI 0) r2
theorem v_hub_0 {l : Launch} {G : vv_G} {d : Nat} {o : Nat} {h0 : Nat → Option vv_E} {nz : Nat × Nat} (hG : vv_gok G) {T : tw_T} {r : Int32 × tw_T} (h : J_hub T = some r) : vv_V l G MX4_hub (d + 2) 0 [(0, .ref o)] [] (tp o h0 T, nz) (.inl (some (.int r.1)), (tp o h0 r.2, nz)) := by
  unfold J_hub at h
  refine vv_aload_n dX4_hub_0 rfl 0 rfl ?_
  refine vv_iconst (v := (nI 0)) dX4_hub_1 (by decide) ?_
  obtain ⟨T1, eT1, h⟩ := bd_s h
  refine tw_put (T1 := T1) (pt_X4_117 hG) hG rfl rfl rfl (by decide) (by rw [eT1]; exact tw_set0 _ _ _) (by rw [eT1]; rfl) dX4_hub_2 ?_
  refine vv_aload_n dX4_hub_5 rfl 0 rfl ?_
  refine vv_iconst (v := (-1)) dX4_hub_6 (by decide) ?_
  obtain ⟨r2, er2, h⟩ := bd_o h
  refine vv_callV ok_X4_measures q2071 (m_measures hG er2 (d + 0)) rfl (by omega) ⟨_, _, _, _, _, tp_o, by rw [hG.1]; rfl⟩ rfl rfl (Nat.le_of_ble_eq_true rfl) dX4_hub_7 ?_
  refine vv_iconst (v := (-1)) dX4_hub_10 (by decide) ?_
  refine vv_istore_n (lv' := [(0, .ref o), (1, .int (-1))]) dX4_hub_11 rfl (by decide) [1, 0] rfl ?_
  refine vv_ldcw (v := (nI 99999)) dX4_hub_12 q2075 ?_
  refine vv_istore_n (lv' := [(0, .ref o), (1, .int (-1)), (2, .int (nI 99999))]) dX4_hub_15 rfl (by decide) [1, 2, 0] rfl ?_
  refine vv_iconst (v := (nI 0)) dX4_hub_16 (by decide) ?_
  refine vv_istore_n (lv' := [(0, .ref o), (1, .int (-1)), (2, .int (nI 99999)), (3, .int (nI 0))]) dX4_hub_17 rfl (by decide) [1, 2, 3, 0] rfl ?_
  exact v_hub_18 hG NN h
theorem m_hub {l : Launch} {G : vv_G} {o : Nat} {h0 : Nat → Option vv_E} {nz : Nat × Nat} (hG : vv_gok G) {T : tw_T} {r : Int32 × tw_T} (h : J_hub T = some r) (d : Nat) : vv_Met l G MX4_hub (d + 2) [.ref o] (tp o h0 T, nz) (.inl (some (.int r.1)), (tp o h0 r.2, nz)) := vv_head (by decide +kernel) rfl (Nat.le_of_ble_eq_true rfl) rfl (v_hub_0 hG h)
/-! bridge -/
def J_bridge_52 (s0 : Int32) (T : tw_T) : Option (Int32 × tw_T) := (zrI s0).bind fun v1 => some (v1, T)
theorem v_bridge_52 {l : Launch} {G : vv_G} {d : Nat} {o : Nat} {h0 : Nat → Option vv_E} {nz : Nat × Nat} (hG : vv_gok G) {s0 : Int32} {T : tw_T} {r : Int32 × tw_T} (h : J_bridge_52 s0 T = some r) : vv_V l G MX4_bridge (d + 2) 52 [(0, .ref o)] [.int s0] (tp o h0 T, nz) (.inl (some (.int r.1)), (tp o h0 r.2, nz)) := by
  unfold J_bridge_52 at h
  obtain ⟨zv1, h⟩ := zr_o h
  cases h
  exact vv_zret rfl zv1 dX4_bridge_52
def J_bridge (x1 : Int32) (T : tw_T) : Option (Int32 × tw_T) := (some (tw_F T 0 (nI 0))).bind fun T1 => (J_isWay x1 T1).bind fun r2 => if r2.1 = 0 then (some ((nI 0), r2.2)) else ((J_measures x1 r2.2).bind fun r4 => (rdI 12 (r4.2.2 3) x1).bind fun v5 => (rdI 12 (r4.2.2 4) x1).bind fun v6 => (rdI 64 (r4.2.2 24) (((nI 8) * v5) + v6)).bind fun v7 => if v7 < (nI 99999) then (J_bridge_52 (nI 0) r4) else (J_bridge_52 (nI 1) r4))
theorem v_bridge_0 {l : Launch} {G : vv_G} {d : Nat} {o : Nat} {h0 : Nat → Option vv_E} {nz : Nat × Nat} (hG : vv_gok G) {x1 : Int32} {T : tw_T} {r : Int32 × tw_T} (h : J_bridge x1 T = some r) : vv_V l G MX4_bridge (d + 2) 0 [(0, .ref o), (1, .int x1)] [] (tp o h0 T, nz) (.inl (some (.int r.1)), (tp o h0 r.2, nz)) := by
  unfold J_bridge at h
  refine vv_aload_n dX4_bridge_0 rfl 0 rfl ?_
  refine vv_iconst (v := (nI 0)) dX4_bridge_1 (by decide) ?_
  obtain ⟨T1, eT1, h⟩ := bd_s h
  refine tw_put (T1 := T1) (pt_X4_117 hG) hG rfl rfl rfl (by decide) (by rw [eT1]; exact tw_set0 _ _ _) (by rw [eT1]; rfl) dX4_bridge_2 ?_
  refine vv_aload_n dX4_bridge_5 rfl 0 rfl ?_
  refine vv_iload_n dX4_bridge_6 rfl 1 rfl ?_
  obtain ⟨r2, er2, h⟩ := bd_o h
  refine vv_callV ok_X4_isWay q2007 (m_isWay hG er2 (d + 0)) rfl (by omega) ⟨_, _, _, _, _, tp_o, by rw [hG.1]; rfl⟩ rfl rfl (Nat.le_of_ble_eq_true rfl) dX4_bridge_7 ?_
  refine vv_if_ne (tgt := 15) dX4_bridge_10 (by decide) (fun c3 => ?_) (fun c3 => ?_)
  · rw [if_neg c3] at h
    refine vv_aload_n dX4_bridge_15 rfl 0 rfl ?_
    refine vv_iload_n dX4_bridge_16 rfl 1 rfl ?_
    obtain ⟨r4, er4, h⟩ := bd_o h
    refine vv_callV ok_X4_measures q2071 (m_measures hG er4 (d + 0)) rfl (by omega) ⟨_, _, _, _, _, tp_o, by rw [hG.1]; rfl⟩ rfl rfl (Nat.le_of_ble_eq_true rfl) dX4_bridge_17 ?_
    refine vv_aload_n dX4_bridge_20 rfl 0 rfl ?_
    refine tw_get (fl_X4_87 hG) (k := 48) rfl dX4_bridge_21 ?_
    refine vv_bipush (v := (nI 8)) dX4_bridge_24 (by decide) ?_
    refine vv_aload_n dX4_bridge_26 rfl 0 rfl ?_
    refine tw_get (fl_X4_20 hG) (k := 7) rfl dX4_bridge_27 ?_
    refine vv_iload_n dX4_bridge_30 rfl 1 rfl ?_
    obtain ⟨v5, iv5, ev5, h⟩ := rd_o h
    refine tw_ald 3 (by decide) rfl iv5 ev5 dX4_bridge_31 ?_
    refine vv_imul dX4_bridge_32 ?_
    refine vv_aload_n dX4_bridge_33 rfl 0 rfl ?_
    refine tw_get (fl_X4_23 hG) (k := 8) rfl dX4_bridge_34 ?_
    refine vv_iload_n dX4_bridge_37 rfl 1 rfl ?_
    obtain ⟨v6, iv6, ev6, h⟩ := rd_o h
    refine tw_ald 4 (by decide) rfl iv6 ev6 dX4_bridge_38 ?_
    refine vv_iadd dX4_bridge_39 ?_
    obtain ⟨v7, iv7, ev7, h⟩ := rd_o h
    refine tw_ald 24 (by decide) rfl iv7 ev7 dX4_bridge_40 ?_
    refine vv_ldcw (v := (nI 99999)) dX4_bridge_41 q2075 ?_
    refine vv_icmp_lt (tgt := 51) dX4_bridge_44 (by decide) (fun c8 => ?_) (fun c8 => ?_)
    · rw [if_pos c8] at h
      refine vv_iconst (v := (nI 0)) dX4_bridge_51 (by decide) ?_
      refine vv_sub (lv' := [(0, .ref o)]) [0] rfl ?_
      exact v_bridge_52 hG h
    · rw [if_neg c8] at h
      refine vv_iconst (v := (nI 1)) dX4_bridge_47 (by decide) ?_
      refine vv_goto (tgt := 52) dX4_bridge_48 (by decide) ?_
      refine vv_sub (lv' := [(0, .ref o)]) [0] rfl ?_
      exact v_bridge_52 hG h
  · rw [if_pos c3] at h
    refine vv_iconst (v := (nI 0)) dX4_bridge_13 (by decide) ?_
    cases h
    exact vv_zret rfl (by decide) dX4_bridge_14
theorem m_bridge {l : Launch} {G : vv_G} {o : Nat} {h0 : Nat → Option vv_E} {nz : Nat × Nat} (hG : vv_gok G) {x1 : Int32} {T : tw_T} {r : Int32 × tw_T} (h : J_bridge x1 T = some r) (d : Nat) : vv_Met l G MX4_bridge (d + 2) [.ref o, .int x1] (tp o h0 T, nz) (.inl (some (.int r.1)), (tp o h0 r.2, nz)) := vv_head (by decide +kernel) rfl (Nat.le_of_ble_eq_true rfl) rfl (v_bridge_0 hG h)
/-! spoilt -/
def J_spoilt_93 (k9 : Int32 → Int32 → tw_T → Option (Int32 × tw_T)) (x1 : Int32) (x2 : Int32) (T : tw_T) : Option (Int32 × tw_T) := k9 x1 (x2 + (nI 1)) T
theorem v_spoilt_93 {l : Launch} {G : vv_G} {d : Nat} {o : Nat} {h0 : Nat → Option vv_E} {nz : Nat × Nat} (hG : vv_gok G) {k9 : Int32 → Int32 → tw_T → Option (Int32 × tw_T)} (hk9 : ∀ {x1 : Int32} {x2 : Int32} {T : tw_T} {r : Int32 × tw_T}, k9 x1 x2 T = some r → vv_V l G MX4_spoilt (d + 0) 9 [(0, .ref o), (1, .int x1), (2, .int x2)] [] (tp o h0 T, nz) (.inl (some (.int r.1)), (tp o h0 r.2, nz))) {x1 : Int32} {x2 : Int32} {T : tw_T} {r : Int32 × tw_T} (h : J_spoilt_93 k9 x1 x2 T = some r) : vv_V l G MX4_spoilt (d + 0) 93 [(0, .ref o), (1, .int x1), (2, .int x2)] [] (tp o h0 T, nz) (.inl (some (.int r.1)), (tp o h0 r.2, nz)) := by
  unfold J_spoilt_93 at h
  refine vv_iinc (v := (x2 + (nI 1))) (lv' := [(0, .ref o), (1, .int x1), (2, .int (x2 + (nI 1)))]) dX4_spoilt_93 2 rfl rfl (by decide) [1, 2, 0] rfl ?_
  refine vv_goto (tgt := 9) dX4_spoilt_96 (by decide) ?_
  exact hk9 h
def J_spoilt_91 (k9 : Int32 → Int32 → tw_T → Option (Int32 × tw_T)) (s0 : Int32) (s1 : Int32) (x2 : Int32) (T : tw_T) : Option (Int32 × tw_T) := J_spoilt_93 k9 (s0 ||| s1) x2 T
theorem v_spoilt_91 {l : Launch} {G : vv_G} {d : Nat} {o : Nat} {h0 : Nat → Option vv_E} {nz : Nat × Nat} (hG : vv_gok G) {k9 : Int32 → Int32 → tw_T → Option (Int32 × tw_T)} (hk9 : ∀ {x1 : Int32} {x2 : Int32} {T : tw_T} {r : Int32 × tw_T}, k9 x1 x2 T = some r → vv_V l G MX4_spoilt (d + 0) 9 [(0, .ref o), (1, .int x1), (2, .int x2)] [] (tp o h0 T, nz) (.inl (some (.int r.1)), (tp o h0 r.2, nz))) {s0 : Int32} {s1 : Int32} {x2 : Int32} {T : tw_T} {r : Int32 × tw_T} (h : J_spoilt_91 k9 s0 s1 x2 T = some r) : vv_V l G MX4_spoilt (d + 0) 91 [(0, .ref o), (2, .int x2)] [.int s1, .int s0] (tp o h0 T, nz) (.inl (some (.int r.1)), (tp o h0 r.2, nz)) := by
  unfold J_spoilt_91 at h
  refine vv_ior dX4_spoilt_91 ?_
  refine vv_istore_n (lv' := [(0, .ref o), (1, .int (s0 ||| s1)), (2, .int x2)]) dX4_spoilt_92 rfl (by decide) [1, 0, 2] rfl ?_
  exact v_spoilt_93 hG hk9 h
def J_spoilt_77 (k9 : Int32 → Int32 → tw_T → Option (Int32 × tw_T)) (s0 : Int32) (s1 : Int32) (x1 : Int32) (x2 : Int32) (T : tw_T) : Option (Int32 × tw_T) := if 0 < (s0 - s1) then (J_spoilt_91 k9 x1 (nI 0) x2 T) else (J_spoilt_91 k9 x1 ((nI 1) <<< (x2 &&& 31)) x2 T)
theorem v_spoilt_77 {l : Launch} {G : vv_G} {d : Nat} {o : Nat} {h0 : Nat → Option vv_E} {nz : Nat × Nat} (hG : vv_gok G) {k9 : Int32 → Int32 → tw_T → Option (Int32 × tw_T)} (hk9 : ∀ {x1 : Int32} {x2 : Int32} {T : tw_T} {r : Int32 × tw_T}, k9 x1 x2 T = some r → vv_V l G MX4_spoilt (d + 0) 9 [(0, .ref o), (1, .int x1), (2, .int x2)] [] (tp o h0 T, nz) (.inl (some (.int r.1)), (tp o h0 r.2, nz))) {s0 : Int32} {s1 : Int32} {x1 : Int32} {x2 : Int32} {T : tw_T} {r : Int32 × tw_T} (h : J_spoilt_77 k9 s0 s1 x1 x2 T = some r) : vv_V l G MX4_spoilt (d + 0) 77 [(0, .ref o), (1, .int x1), (2, .int x2)] [.int s1, .int s0] (tp o h0 T, nz) (.inl (some (.int r.1)), (tp o h0 r.2, nz)) := by
  unfold J_spoilt_77 at h
  refine vv_isub dX4_spoilt_77 ?_
  refine vv_istore_n (lv' := [(0, .ref o), (1, .int x1), (2, .int x2), (3, .int (s0 - s1))]) dX4_spoilt_78 rfl (by decide) [1, 2, 3, 0] rfl ?_
  refine vv_iload_n dX4_spoilt_79 rfl 1 rfl ?_
  refine vv_iload_n dX4_spoilt_80 rfl 3 rfl ?_
  refine vv_if_gt (tgt := 90) dX4_spoilt_81 (by decide) (fun c1 => ?_) (fun c1 => ?_)
  · rw [if_pos c1] at h
    refine vv_iconst (v := (nI 0)) dX4_spoilt_90 (by decide) ?_
    refine vv_sub (lv' := [(0, .ref o), (2, .int x2)]) [0, 2] rfl ?_
    exact v_spoilt_91 hG hk9 h
  · rw [if_neg c1] at h
    refine vv_iconst (v := (nI 1)) dX4_spoilt_84 (by decide) ?_
    refine vv_iload_n dX4_spoilt_85 rfl 2 rfl ?_
    refine vv_ishl dX4_spoilt_86 ?_
    refine vv_goto (tgt := 91) dX4_spoilt_87 (by decide) ?_
    refine vv_sub (lv' := [(0, .ref o), (2, .int x2)]) [0, 2] rfl ?_
    exact v_spoilt_91 hG hk9 h
def B_spoilt_9 (k9 : Int32 → Int32 → tw_T → Option (Int32 × tw_T)) (x1 : Int32) (x2 : Int32) (T : tw_T) : Option (Int32 × tw_T) := if (T.1 3) ≤ x2 then (some (x1, T)) else ((rdI 170 (T.2.2 20) ((nI 65) + x2)).bind fun v2 => if v2 = 0 then (J_spoilt_93 k9 x1 x2 T) else ((rdI 170 (T.2.2 20) ((nI 25) + x2)).bind fun v4 => (rdI 170 (T.2.2 20) ((nI 45) + x2)).bind fun v5 => if v5 = (nI 1) then (J_spoilt_77 k9 v4 (nI 0) x1 x2 T) else ((rdI 170 (T.2.2 20) ((nI 75) + x2)).bind fun v7 => (rdI 170 (T.2.2 20) ((nI 65) + x2)).bind fun v8 => J_spoilt_77 k9 v4 (v7 * v8) x1 x2 T)))
def J_spoilt_9 : Nat → Int32 → Int32 → tw_T → Option (Int32 × tw_T)
  | 0, _, _, _ => none
  | n + 1, x1, x2, T => B_spoilt_9 (J_spoilt_9 n) x1 x2 T
theorem vb_spoilt_9 {l : Launch} {G : vv_G} {d : Nat} {o : Nat} {h0 : Nat → Option vv_E} {nz : Nat × Nat} (hG : vv_gok G) {k9 : Int32 → Int32 → tw_T → Option (Int32 × tw_T)} (hk9 : ∀ {x1 : Int32} {x2 : Int32} {T : tw_T} {r : Int32 × tw_T}, k9 x1 x2 T = some r → vv_V l G MX4_spoilt (d + 0) 9 [(0, .ref o), (1, .int x1), (2, .int x2)] [] (tp o h0 T, nz) (.inl (some (.int r.1)), (tp o h0 r.2, nz))) {x1 : Int32} {x2 : Int32} {T : tw_T} {r : Int32 × tw_T} (h : B_spoilt_9 k9 x1 x2 T = some r) : vv_V l G MX4_spoilt (d + 0) 9 [(0, .ref o), (1, .int x1), (2, .int x2)] [] (tp o h0 T, nz) (.inl (some (.int r.1)), (tp o h0 r.2, nz)) := by
  unfold B_spoilt_9 at h
  refine vv_iload_n dX4_spoilt_9 rfl 2 rfl ?_
  refine vv_aload_n dX4_spoilt_10 rfl 0 rfl ?_
  refine tw_get (fl_X4_287 hG) (k := 3) rfl dX4_spoilt_11 ?_
  refine vv_icmp_ge (tgt := 99) dX4_spoilt_14 (by decide) (fun c1 => ?_) (fun c1 => ?_)
  · rw [if_pos c1] at h
    refine vv_iload_n dX4_spoilt_99 rfl 1 rfl ?_
    cases h
    exact vv_iret rfl dX4_spoilt_100
  · rw [if_neg c1] at h
    refine vv_aload_n dX4_spoilt_17 rfl 0 rfl ?_
    refine tw_get (fl_X4_75 hG) (k := 42) rfl dX4_spoilt_18 ?_
    refine vv_bipush (v := (nI 65)) dX4_spoilt_21 (by decide) ?_
    refine vv_iload_n dX4_spoilt_23 rfl 2 rfl ?_
    refine vv_iadd dX4_spoilt_24 ?_
    obtain ⟨v2, iv2, ev2, h⟩ := rd_o h
    refine tw_ald 20 (by decide) rfl iv2 ev2 dX4_spoilt_25 ?_
    refine vv_if_ne (tgt := 32) dX4_spoilt_26 (by decide) (fun c3 => ?_) (fun c3 => ?_)
    · rw [if_neg c3] at h
      refine vv_aload_n dX4_spoilt_32 rfl 0 rfl ?_
      refine tw_get (fl_X4_75 hG) (k := 42) rfl dX4_spoilt_33 ?_
      refine vv_bipush (v := (nI 25)) dX4_spoilt_36 (by decide) ?_
      refine vv_iload_n dX4_spoilt_38 rfl 2 rfl ?_
      refine vv_iadd dX4_spoilt_39 ?_
      obtain ⟨v4, iv4, ev4, h⟩ := rd_o h
      refine tw_ald 20 (by decide) rfl iv4 ev4 dX4_spoilt_40 ?_
      refine vv_aload_n dX4_spoilt_41 rfl 0 rfl ?_
      refine tw_get (fl_X4_75 hG) (k := 42) rfl dX4_spoilt_42 ?_
      refine vv_bipush (v := (nI 45)) dX4_spoilt_45 (by decide) ?_
      refine vv_iload_n dX4_spoilt_47 rfl 2 rfl ?_
      refine vv_iadd dX4_spoilt_48 ?_
      obtain ⟨v5, iv5, ev5, h⟩ := rd_o h
      refine tw_ald 20 (by decide) rfl iv5 ev5 dX4_spoilt_49 ?_
      refine vv_iconst (v := (nI 1)) dX4_spoilt_50 (by decide) ?_
      refine vv_icmp_ne (tgt := 58) dX4_spoilt_51 (by decide) (fun c6 => ?_) (fun c6 => ?_)
      · rw [if_neg c6] at h
        refine vv_aload_n dX4_spoilt_58 rfl 0 rfl ?_
        refine tw_get (fl_X4_75 hG) (k := 42) rfl dX4_spoilt_59 ?_
        refine vv_bipush (v := (nI 75)) dX4_spoilt_62 (by decide) ?_
        refine vv_iload_n dX4_spoilt_64 rfl 2 rfl ?_
        refine vv_iadd dX4_spoilt_65 ?_
        obtain ⟨v7, iv7, ev7, h⟩ := rd_o h
        refine tw_ald 20 (by decide) rfl iv7 ev7 dX4_spoilt_66 ?_
        refine vv_aload_n dX4_spoilt_67 rfl 0 rfl ?_
        refine tw_get (fl_X4_75 hG) (k := 42) rfl dX4_spoilt_68 ?_
        refine vv_bipush (v := (nI 65)) dX4_spoilt_71 (by decide) ?_
        refine vv_iload_n dX4_spoilt_73 rfl 2 rfl ?_
        refine vv_iadd dX4_spoilt_74 ?_
        obtain ⟨v8, iv8, ev8, h⟩ := rd_o h
        refine tw_ald 20 (by decide) rfl iv8 ev8 dX4_spoilt_75 ?_
        refine vv_imul dX4_spoilt_76 ?_
        exact v_spoilt_77 hG hk9 h
      · rw [if_pos c6] at h
        refine vv_iconst (v := (nI 0)) dX4_spoilt_54 (by decide) ?_
        refine vv_goto (tgt := 77) dX4_spoilt_55 (by decide) ?_
        exact v_spoilt_77 hG hk9 h
    · rw [if_pos c3] at h
      refine vv_goto (tgt := 93) dX4_spoilt_29 (by decide) ?_
      exact v_spoilt_93 hG hk9 h
theorem v_spoilt_9 {l : Launch} {G : vv_G} {d : Nat} {o : Nat} {h0 : Nat → Option vv_E} {nz : Nat × Nat} (hG : vv_gok G) : ∀ (n : Nat) {x1 : Int32} {x2 : Int32} {T : tw_T} {r : Int32 × tw_T}, J_spoilt_9 n x1 x2 T = some r → vv_V l G MX4_spoilt (d + 0) 9 [(0, .ref o), (1, .int x1), (2, .int x2)] [] (tp o h0 T, nz) (.inl (some (.int r.1)), (tp o h0 r.2, nz)) := by
  intro n
  induction n with
  | zero => intro _ _ _ _ h; cases h
  | succ n ih => intro _ _ _ _ h; exact vb_spoilt_9 hG ih h
def J_spoilt (T : tw_T) : Option (Int32 × tw_T) := (some (tw_F T 0 (nI 0))).bind fun T1 => J_spoilt_9 NN (nI 0) (nI 0) T1
theorem v_spoilt_0 {l : Launch} {G : vv_G} {d : Nat} {o : Nat} {h0 : Nat → Option vv_E} {nz : Nat × Nat} (hG : vv_gok G) {T : tw_T} {r : Int32 × tw_T} (h : J_spoilt T = some r) : vv_V l G MX4_spoilt (d + 0) 0 [(0, .ref o)] [] (tp o h0 T, nz) (.inl (some (.int r.1)), (tp o h0 r.2, nz)) := by
  unfold J_spoilt at h
  refine vv_aload_n dX4_spoilt_0 rfl 0 rfl ?_
  refine vv_iconst (v := (nI 0)) dX4_spoilt_1 (by decide) ?_
  obtain ⟨T1, eT1, h⟩ := bd_s h
  refine tw_put (T1 := T1) (pt_X4_117 hG) hG rfl rfl rfl (by decide) (by rw [eT1]; exact tw_set0 _ _ _) (by rw [eT1]; rfl) dX4_spoilt_2 ?_
  refine vv_iconst (v := (nI 0)) dX4_spoilt_5 (by decide) ?_
  refine vv_istore_n (lv' := [(0, .ref o), (1, .int (nI 0))]) dX4_spoilt_6 rfl (by decide) [1, 0] rfl ?_
  refine vv_iconst (v := (nI 0)) dX4_spoilt_7 (by decide) ?_
  refine vv_istore_n (lv' := [(0, .ref o), (1, .int (nI 0)), (2, .int (nI 0))]) dX4_spoilt_8 rfl (by decide) [1, 2, 0] rfl ?_
  exact v_spoilt_9 hG NN h
theorem m_spoilt {l : Launch} {G : vv_G} {o : Nat} {h0 : Nat → Option vv_E} {nz : Nat × Nat} (hG : vv_gok G) {T : tw_T} {r : Int32 × tw_T} (h : J_spoilt T = some r) (d : Nat) : vv_Met l G MX4_spoilt (d + 0) [.ref o] (tp o h0 T, nz) (.inl (some (.int r.1)), (tp o h0 r.2, nz)) := vv_head (by decide +kernel) rfl (Nat.le_of_ble_eq_true rfl) rfl (v_spoilt_0 hG h)
