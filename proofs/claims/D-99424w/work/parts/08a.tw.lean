set_option maxRecDepth 100000
/-! thrown -/
def J_thrown (T : tw_T) : Option (Int32 × tw_T) := some ((T.1 0), T)
theorem v_thrown_0 {l : Launch} {G : vv_G} {d : Nat} {o : Nat} {h0 : Nat → Option vv_E} {nz : Nat × Nat} (hG : vv_gok G) {T : tw_T} {r : Int32 × tw_T} (h : J_thrown T = some r) : vv_V l G MX4_thrown (d + 0) 0 [(0, .ref o)] [] (tp o h0 T, nz) (.inl (some (.int r.1)), (tp o h0 r.2, nz)) := by
  unfold J_thrown at h
  refine vv_aload_n dX4_thrown_0 rfl 0 rfl ?_
  refine tw_get (fl_X4_117 hG) (k := 0) rfl dX4_thrown_1 ?_
  cases h
  exact vv_iret rfl dX4_thrown_4
theorem m_thrown {l : Launch} {G : vv_G} {o : Nat} {h0 : Nat → Option vv_E} {nz : Nat × Nat} (hG : vv_gok G) {T : tw_T} {r : Int32 × tw_T} (h : J_thrown T = some r) (d : Nat) : vv_Met l G MX4_thrown (d + 0) [.ref o] (tp o h0 T, nz) (.inl (some (.int r.1)), (tp o h0 r.2, nz)) := vv_head (by decide +kernel) rfl (Nat.le_of_ble_eq_true rfl) rfl (v_thrown_0 hG h)
/-! lays -/
def B_lays_3 (k3 : Int32 → Int32 → tw_T → Option tw_T) (x1 : Int32) (x2 : Int32) (T : tw_T) : Option tw_T := if x2 < 0 then (some T) else ((stA T 8 700 (T.1 13) ((x1 >>> (x2 &&& 31)) &&& (nI 255))).bind fun T2 => (some (tw_F T2 13 ((T2.1 13) + (nI 1)))).bind fun T3 => k3 x1 (x2 + (-8)) T3)
def J_lays_3 : Nat → Int32 → Int32 → tw_T → Option tw_T
  | 0, _, _, _ => none
  | n + 1, x1, x2, T => B_lays_3 (J_lays_3 n) x1 x2 T
theorem vb_lays_3 {l : Launch} {G : vv_G} {d : Nat} {o : Nat} {h0 : Nat → Option vv_E} {nz : Nat × Nat} (hG : vv_gok G) {k3 : Int32 → Int32 → tw_T → Option tw_T} (hk3 : ∀ {x1 : Int32} {x2 : Int32} {T : tw_T} {r : tw_T}, k3 x1 x2 T = some r → vv_V l G MX4_lays (d + 0) 3 [(0, .ref o), (1, .int x1), (2, .int x2)] [] (tp o h0 T, nz) (.inl none, (tp o h0 r, nz))) {x1 : Int32} {x2 : Int32} {T : tw_T} {r : tw_T} (h : B_lays_3 k3 x1 x2 T = some r) : vv_V l G MX4_lays (d + 0) 3 [(0, .ref o), (1, .int x1), (2, .int x2)] [] (tp o h0 T, nz) (.inl none, (tp o h0 r, nz)) := by
  unfold B_lays_3 at h
  refine vv_iload_n dX4_lays_3 rfl 2 rfl ?_
  refine vv_if_lt (tgt := 39) dX4_lays_4 (by decide) (fun c1 => ?_) (fun c1 => ?_)
  · rw [if_pos c1] at h
    cases h
    exact vv_vret rfl dX4_lays_39
  · rw [if_neg c1] at h
    refine vv_aload_n dX4_lays_7 rfl 0 rfl ?_
    refine tw_get (fl_X4_35 hG) (k := 12) rfl dX4_lays_8 ?_
    refine vv_aload_n dX4_lays_11 rfl 0 rfl ?_
    refine tw_get (fl_X4_120 hG) (k := 13) rfl dX4_lays_12 ?_
    refine vv_iload_n dX4_lays_15 rfl 1 rfl ?_
    refine vv_iload_n dX4_lays_16 rfl 2 rfl ?_
    refine vv_ishr dX4_lays_17 ?_
    refine vv_sipush (v := (nI 255)) dX4_lays_18 (by decide) ?_
    refine vv_iand dX4_lays_21 ?_
    obtain ⟨T2, iT2, eT2, h⟩ := st_o h
    refine tw_ast 8 (by decide) rfl iT2 eT2 dX4_lays_22 ?_
    refine vv_aload_n dX4_lays_23 rfl 0 rfl ?_
    refine vv_dup dX4_lays_24 rfl ?_
    refine tw_get (fl_X4_120 hG) (k := 13) rfl dX4_lays_25 ?_
    refine vv_iconst (v := (nI 1)) dX4_lays_28 (by decide) ?_
    refine vv_iadd dX4_lays_29 ?_
    obtain ⟨T3, eT3, h⟩ := bd_s h
    refine tw_put (T1 := T3) (pt_X4_120 hG) hG rfl rfl rfl (by decide) (by rw [eT3]; exact tw_set13 _ _ _) (by rw [eT3]; rfl) dX4_lays_30 ?_
    refine vv_iinc (v := (x2 + (-8))) (lv' := [(0, .ref o), (1, .int x1), (2, .int (x2 + (-8)))]) dX4_lays_33 2 rfl rfl (by decide) [1, 2, 0] rfl ?_
    refine vv_goto (tgt := 3) dX4_lays_36 (by decide) ?_
    exact hk3 h
theorem v_lays_3 {l : Launch} {G : vv_G} {d : Nat} {o : Nat} {h0 : Nat → Option vv_E} {nz : Nat × Nat} (hG : vv_gok G) : ∀ (n : Nat) {x1 : Int32} {x2 : Int32} {T : tw_T} {r : tw_T}, J_lays_3 n x1 x2 T = some r → vv_V l G MX4_lays (d + 0) 3 [(0, .ref o), (1, .int x1), (2, .int x2)] [] (tp o h0 T, nz) (.inl none, (tp o h0 r, nz)) := by
  intro n
  induction n with
  | zero => intro _ _ _ _ h; cases h
  | succ n ih => intro _ _ _ _ h; exact vb_lays_3 hG ih h
def J_lays (x1 : Int32) (T : tw_T) : Option tw_T := J_lays_3 NN x1 (nI 24) T
theorem v_lays_0 {l : Launch} {G : vv_G} {d : Nat} {o : Nat} {h0 : Nat → Option vv_E} {nz : Nat × Nat} (hG : vv_gok G) {x1 : Int32} {T : tw_T} {r : tw_T} (h : J_lays x1 T = some r) : vv_V l G MX4_lays (d + 0) 0 [(0, .ref o), (1, .int x1)] [] (tp o h0 T, nz) (.inl none, (tp o h0 r, nz)) := by
  unfold J_lays at h
  refine vv_bipush (v := (nI 24)) dX4_lays_0 (by decide) ?_
  refine vv_istore_n (lv' := [(0, .ref o), (1, .int x1), (2, .int (nI 24))]) dX4_lays_2 rfl (by decide) [1, 2, 0] rfl ?_
  exact v_lays_3 hG NN h
theorem m_lays {l : Launch} {G : vv_G} {o : Nat} {h0 : Nat → Option vv_E} {nz : Nat × Nat} (hG : vv_gok G) {x1 : Int32} {T : tw_T} {r : tw_T} (h : J_lays x1 T = some r) (d : Nat) : vv_Met l G MX4_lays (d + 0) [.ref o, .int x1] (tp o h0 T, nz) (.inl none, (tp o h0 r, nz)) := vv_head (by decide +kernel) rfl (Nat.le_of_ble_eq_true rfl) rfl (v_lays_0 hG h)
/-! feed -/
def J_feed (x1 : Int32) (x2 : Int32) (x3 : Int32) (x4 : Int32) (x5 : Int32) (T : tw_T) : Option (Int32 × tw_T) := (some (tw_F T 0 (nI 0))).bind fun T1 => if ((T1.1 13) + (nI 20)) ≤ (nI 700) then ((J_lays x1 T1).bind fun r3 => (J_lays x2 r3).bind fun r4 => (J_lays x3 r4).bind fun r5 => (J_lays x4 r5).bind fun r6 => (J_lays x5 r6).bind fun r7 => some ((r7.1 13), r7)) else (some ((-1), T1))
theorem v_feed_0 {l : Launch} {G : vv_G} {d : Nat} {o : Nat} {h0 : Nat → Option vv_E} {nz : Nat × Nat} (hG : vv_gok G) {x1 : Int32} {x2 : Int32} {x3 : Int32} {x4 : Int32} {x5 : Int32} {T : tw_T} {r : Int32 × tw_T} (h : J_feed x1 x2 x3 x4 x5 T = some r) : vv_V l G MX4_feed (d + 1) 0 [(0, .ref o), (1, .int x1), (2, .int x2), (3, .int x3), (4, .int x4), (5, .int x5)] [] (tp o h0 T, nz) (.inl (some (.int r.1)), (tp o h0 r.2, nz)) := by
  unfold J_feed at h
  refine vv_aload_n dX4_feed_0 rfl 0 rfl ?_
  refine vv_iconst (v := (nI 0)) dX4_feed_1 (by decide) ?_
  obtain ⟨T1, eT1, h⟩ := bd_s h
  refine tw_put (T1 := T1) (pt_X4_117 hG) hG rfl rfl rfl (by decide) (by rw [eT1]; exact tw_set0 _ _ _) (by rw [eT1]; rfl) dX4_feed_2 ?_
  refine vv_aload_n dX4_feed_5 rfl 0 rfl ?_
  refine tw_get (fl_X4_120 hG) (k := 13) rfl dX4_feed_6 ?_
  refine vv_bipush (v := (nI 20)) dX4_feed_9 (by decide) ?_
  refine vv_iadd dX4_feed_11 ?_
  refine vv_sipush (v := (nI 700)) dX4_feed_12 (by decide) ?_
  refine vv_icmp_le (tgt := 20) dX4_feed_15 (by decide) (fun c2 => ?_) (fun c2 => ?_)
  · rw [if_pos c2] at h
    refine vv_aload_n dX4_feed_20 rfl 0 rfl ?_
    refine vv_iload_n dX4_feed_21 rfl 1 rfl ?_
    obtain ⟨r3, er3, h⟩ := bd_o h
    refine vv_callV ok_X4_lays q1765 (m_lays hG er3 (d + 0)) rfl (by omega) ⟨_, _, _, _, _, tp_o, by rw [hG.1]; rfl⟩ rfl rfl (Nat.le_of_ble_eq_true rfl) dX4_feed_22 ?_
    refine vv_aload_n dX4_feed_25 rfl 0 rfl ?_
    refine vv_iload_n dX4_feed_26 rfl 2 rfl ?_
    obtain ⟨r4, er4, h⟩ := bd_o h
    refine vv_callV ok_X4_lays q1765 (m_lays hG er4 (d + 0)) rfl (by omega) ⟨_, _, _, _, _, tp_o, by rw [hG.1]; rfl⟩ rfl rfl (Nat.le_of_ble_eq_true rfl) dX4_feed_27 ?_
    refine vv_aload_n dX4_feed_30 rfl 0 rfl ?_
    refine vv_iload_n dX4_feed_31 rfl 3 rfl ?_
    obtain ⟨r5, er5, h⟩ := bd_o h
    refine vv_callV ok_X4_lays q1765 (m_lays hG er5 (d + 0)) rfl (by omega) ⟨_, _, _, _, _, tp_o, by rw [hG.1]; rfl⟩ rfl rfl (Nat.le_of_ble_eq_true rfl) dX4_feed_32 ?_
    refine vv_aload_n dX4_feed_35 rfl 0 rfl ?_
    refine vv_iload dX4_feed_36 4 rfl ?_
    obtain ⟨r6, er6, h⟩ := bd_o h
    refine vv_callV ok_X4_lays q1765 (m_lays hG er6 (d + 0)) rfl (by omega) ⟨_, _, _, _, _, tp_o, by rw [hG.1]; rfl⟩ rfl rfl (Nat.le_of_ble_eq_true rfl) dX4_feed_38 ?_
    refine vv_aload_n dX4_feed_41 rfl 0 rfl ?_
    refine vv_iload dX4_feed_42 5 rfl ?_
    obtain ⟨r7, er7, h⟩ := bd_o h
    refine vv_callV ok_X4_lays q1765 (m_lays hG er7 (d + 0)) rfl (by omega) ⟨_, _, _, _, _, tp_o, by rw [hG.1]; rfl⟩ rfl rfl (Nat.le_of_ble_eq_true rfl) dX4_feed_44 ?_
    refine vv_aload_n dX4_feed_47 rfl 0 rfl ?_
    refine tw_get (fl_X4_120 hG) (k := 13) rfl dX4_feed_48 ?_
    cases h
    exact vv_iret rfl dX4_feed_51
  · rw [if_neg c2] at h
    refine vv_iconst (v := (-1)) dX4_feed_18 (by decide) ?_
    cases h
    exact vv_iret rfl dX4_feed_19
theorem m_feed {l : Launch} {G : vv_G} {o : Nat} {h0 : Nat → Option vv_E} {nz : Nat × Nat} (hG : vv_gok G) {x1 : Int32} {x2 : Int32} {x3 : Int32} {x4 : Int32} {x5 : Int32} {T : tw_T} {r : Int32 × tw_T} (h : J_feed x1 x2 x3 x4 x5 T = some r) (d : Nat) : vv_Met l G MX4_feed (d + 1) [.ref o, .int x1, .int x2, .int x3, .int x4, .int x5] (tp o h0 T, nz) (.inl (some (.int r.1)), (tp o h0 r.2, nz)) := vv_head (by decide +kernel) rfl (Nat.le_of_ble_eq_true rfl) rfl (v_feed_0 hG h)
/-! copies -/
def B_copies_2 (k2 : Nat → Nat → Int32 → tw_T → Option tw_T) (x1 : Nat) (x2 : Nat) (x3 : Int32) (T : tw_T) : Option tw_T := if (nI (tw_len x1)) ≤ x3 then (some T) else ((rdI (tw_len x1) (T.2.2 x1) x3).bind fun v2 => (stA T x2 (tw_len x2) x3 v2).bind fun T3 => k2 x1 x2 (x3 + (nI 1)) T3)
def J_copies_2 : Nat → Nat → Nat → Int32 → tw_T → Option tw_T
  | 0, _, _, _, _ => none
  | n + 1, x1, x2, x3, T => B_copies_2 (J_copies_2 n) x1 x2 x3 T
theorem vb_copies_2 {l : Launch} {G : vv_G} {d : Nat} {o : Nat} {h0 : Nat → Option vv_E} {nz : Nat × Nat} (hG : vv_gok G) {k2 : Nat → Nat → Int32 → tw_T → Option tw_T} (hk2 : ∀ {x1 : Nat} {x2 : Nat} {x3 : Int32} {T : tw_T} {r : tw_T}, ((0 < x1 ∧ x1 < 34) ∧ tw_ty x1 = .int) → ((0 < x2 ∧ x2 < 34) ∧ tw_ty x2 = .int) → k2 x1 x2 x3 T = some r → vv_V l G MX4_copies (d + 0) 2 [(0, .ref o), (1, .ref (o + x1)), (2, .ref (o + x2)), (3, .int x3)] [] (tp o h0 T, nz) (.inl none, (tp o h0 r, nz))) {x1 : Nat} {x2 : Nat} {x3 : Int32} {T : tw_T} {r : tw_T} (hx1 : (0 < x1 ∧ x1 < 34) ∧ tw_ty x1 = .int) (hx2 : (0 < x2 ∧ x2 < 34) ∧ tw_ty x2 = .int) (h : B_copies_2 k2 x1 x2 x3 T = some r) : vv_V l G MX4_copies (d + 0) 2 [(0, .ref o), (1, .ref (o + x1)), (2, .ref (o + x2)), (3, .int x3)] [] (tp o h0 T, nz) (.inl none, (tp o h0 r, nz)) := by
  unfold B_copies_2 at h
  refine vv_iload_n dX4_copies_2 rfl 3 rfl ?_
  refine vv_aload_n dX4_copies_3 rfl 1 rfl ?_
  refine tw_alen x1 hx1.1 rfl dX4_copies_4 ?_
  refine vv_icmp_ge (tgt := 20) dX4_copies_5 (by decide) (fun c1 => ?_) (fun c1 => ?_)
  · rw [if_pos c1] at h
    cases h
    exact vv_vret rfl dX4_copies_20
  · rw [if_neg c1] at h
    refine vv_aload_n dX4_copies_8 rfl 2 rfl ?_
    refine vv_iload_n dX4_copies_9 rfl 3 rfl ?_
    refine vv_aload_n dX4_copies_10 rfl 1 rfl ?_
    refine vv_iload_n dX4_copies_11 rfl 3 rfl ?_
    obtain ⟨v2, iv2, ev2, h⟩ := rd_o h
    refine tw_ald x1 hx1.1 hx1.2 iv2 ev2 dX4_copies_12 ?_
    obtain ⟨T3, iT3, eT3, h⟩ := st_o h
    refine tw_ast x2 hx2.1 hx2.2 iT3 eT3 dX4_copies_13 ?_
    refine vv_iinc (v := (x3 + (nI 1))) (lv' := [(0, .ref o), (1, .ref (o + x1)), (2, .ref (o + x2)), (3, .int (x3 + (nI 1)))]) dX4_copies_14 3 rfl rfl (by decide) [1, 2, 3, 0] rfl ?_
    refine vv_goto (tgt := 2) dX4_copies_17 (by decide) ?_
    exact hk2 hx1 hx2 h
theorem v_copies_2 {l : Launch} {G : vv_G} {d : Nat} {o : Nat} {h0 : Nat → Option vv_E} {nz : Nat × Nat} (hG : vv_gok G) : ∀ (n : Nat) {x1 : Nat} {x2 : Nat} {x3 : Int32} {T : tw_T} {r : tw_T}, ((0 < x1 ∧ x1 < 34) ∧ tw_ty x1 = .int) → ((0 < x2 ∧ x2 < 34) ∧ tw_ty x2 = .int) → J_copies_2 n x1 x2 x3 T = some r → vv_V l G MX4_copies (d + 0) 2 [(0, .ref o), (1, .ref (o + x1)), (2, .ref (o + x2)), (3, .int x3)] [] (tp o h0 T, nz) (.inl none, (tp o h0 r, nz)) := by
  intro n
  induction n with
  | zero => intro _ _ _ _ _ hx1 hx2 h; cases h
  | succ n ih => intro _ _ _ _ _ hx1 hx2 h; exact vb_copies_2 hG ih hx1 hx2 h
def J_copies (x1 : Nat) (x2 : Nat) (T : tw_T) : Option tw_T := J_copies_2 NN x1 x2 (nI 0) T
theorem v_copies_0 {l : Launch} {G : vv_G} {d : Nat} {o : Nat} {h0 : Nat → Option vv_E} {nz : Nat × Nat} (hG : vv_gok G) {x1 : Nat} {x2 : Nat} {T : tw_T} {r : tw_T} (hx1 : (0 < x1 ∧ x1 < 34) ∧ tw_ty x1 = .int) (hx2 : (0 < x2 ∧ x2 < 34) ∧ tw_ty x2 = .int) (h : J_copies x1 x2 T = some r) : vv_V l G MX4_copies (d + 0) 0 [(0, .ref o), (1, .ref (o + x1)), (2, .ref (o + x2))] [] (tp o h0 T, nz) (.inl none, (tp o h0 r, nz)) := by
  unfold J_copies at h
  refine vv_iconst (v := (nI 0)) dX4_copies_0 (by decide) ?_
  refine vv_istore_n (lv' := [(0, .ref o), (1, .ref (o + x1)), (2, .ref (o + x2)), (3, .int (nI 0))]) dX4_copies_1 rfl (by decide) [1, 2, 3, 0] rfl ?_
  exact v_copies_2 hG NN hx1 hx2 h
theorem m_copies {l : Launch} {G : vv_G} {o : Nat} {h0 : Nat → Option vv_E} {nz : Nat × Nat} (hG : vv_gok G) {x1 : Nat} {x2 : Nat} {T : tw_T} {r : tw_T} (hx1 : (0 < x1 ∧ x1 < 34) ∧ tw_ty x1 = .int) (hx2 : (0 < x2 ∧ x2 < 34) ∧ tw_ty x2 = .int) (h : J_copies x1 x2 T = some r) (d : Nat) : vv_Met l G MX4_copies (d + 0) [.ref o, .ref (o + x1), .ref (o + x2)] (tp o h0 T, nz) (.inl none, (tp o h0 r, nz)) := vv_head (by decide +kernel) rfl (Nat.le_of_ble_eq_true rfl) rfl (v_copies_0 hG hx1 hx2 h)
/-! byteAt -/
def J_byteAt_18 (s0 : Int32) (T : tw_T) : Option (Int32 × tw_T) := some (s0, T)
theorem v_byteAt_18 {l : Launch} {G : vv_G} {d : Nat} {o : Nat} {h0 : Nat → Option vv_E} {nz : Nat × Nat} (hG : vv_gok G) {s0 : Int32} {T : tw_T} {r : Int32 × tw_T} (h : J_byteAt_18 s0 T = some r) : vv_V l G MX4_byteAt (d + 0) 18 [(0, .ref o)] [.int s0] (tp o h0 T, nz) (.inl (some (.int r.1)), (tp o h0 r.2, nz)) := by
  unfold J_byteAt_18 at h
  cases h
  exact vv_iret rfl dX4_byteAt_18
def J_byteAt (x1 : Int32) (T : tw_T) : Option (Int32 × tw_T) := if (T.1 17) ≤ x1 then (J_byteAt_18 (nI 0) T) else ((rdI 700 (T.2.2 8) x1).bind fun v2 => J_byteAt_18 v2 T)
theorem v_byteAt_0 {l : Launch} {G : vv_G} {d : Nat} {o : Nat} {h0 : Nat → Option vv_E} {nz : Nat × Nat} (hG : vv_gok G) {x1 : Int32} {T : tw_T} {r : Int32 × tw_T} (h : J_byteAt x1 T = some r) : vv_V l G MX4_byteAt (d + 0) 0 [(0, .ref o), (1, .int x1)] [] (tp o h0 T, nz) (.inl (some (.int r.1)), (tp o h0 r.2, nz)) := by
  unfold J_byteAt at h
  refine vv_iload_n dX4_byteAt_0 rfl 1 rfl ?_
  refine vv_aload_n dX4_byteAt_1 rfl 0 rfl ?_
  refine tw_get (fl_X4_127 hG) (k := 17) rfl dX4_byteAt_2 ?_
  refine vv_icmp_ge (tgt := 17) dX4_byteAt_5 (by decide) (fun c1 => ?_) (fun c1 => ?_)
  · rw [if_pos c1] at h
    refine vv_iconst (v := (nI 0)) dX4_byteAt_17 (by decide) ?_
    refine vv_sub (lv' := [(0, .ref o)]) [0] rfl ?_
    exact v_byteAt_18 hG h
  · rw [if_neg c1] at h
    refine vv_aload_n dX4_byteAt_8 rfl 0 rfl ?_
    refine tw_get (fl_X4_35 hG) (k := 12) rfl dX4_byteAt_9 ?_
    refine vv_iload_n dX4_byteAt_12 rfl 1 rfl ?_
    obtain ⟨v2, iv2, ev2, h⟩ := rd_o h
    refine tw_ald 8 (by decide) rfl iv2 ev2 dX4_byteAt_13 ?_
    refine vv_goto (tgt := 18) dX4_byteAt_14 (by decide) ?_
    refine vv_sub (lv' := [(0, .ref o)]) [0] rfl ?_
    exact v_byteAt_18 hG h
theorem m_byteAt {l : Launch} {G : vv_G} {o : Nat} {h0 : Nat → Option vv_E} {nz : Nat × Nat} (hG : vv_gok G) {x1 : Int32} {T : tw_T} {r : Int32 × tw_T} (h : J_byteAt x1 T = some r) (d : Nat) : vv_Met l G MX4_byteAt (d + 0) [.ref o, .int x1] (tp o h0 T, nz) (.inl (some (.int r.1)), (tp o h0 r.2, nz)) := vv_head (by decide +kernel) rfl (Nat.le_of_ble_eq_true rfl) rfl (v_byteAt_0 hG h)
/-! isDigit -/
def J_isDigit_17 (s0 : Int32) : Option Int32 := (zrI s0).bind fun v1 => some v1
theorem v_isDigit_17 {l : Launch} {G : vv_G} {d : Nat} {σ : vv_S} (hG : vv_gok G) {s0 : Int32} {r : Int32} (h : J_isDigit_17 s0 = some r) : vv_V l G MX4_isDigit (d + 0) 17 [] [.int s0] σ (.inl (some (.int r)), σ) := by
  unfold J_isDigit_17 at h
  obtain ⟨zv1, h⟩ := zr_o h
  cases h
  exact vv_zret rfl zv1 dX4_isDigit_17
def J_isDigit_16 : Option Int32 := J_isDigit_17 (nI 0)
theorem v_isDigit_16 {l : Launch} {G : vv_G} {d : Nat} {σ : vv_S} (hG : vv_gok G) {r : Int32} (h : J_isDigit_16 = some r) : vv_V l G MX4_isDigit (d + 0) 16 [] [] σ (.inl (some (.int r)), σ) := by
  unfold J_isDigit_16 at h
  refine vv_iconst (v := (nI 0)) dX4_isDigit_16 (by decide) ?_
  exact v_isDigit_17 hG h
def J_isDigit (x0 : Int32) : Option Int32 := if x0 < (nI 48) then (J_isDigit_16) else (if (nI 57) < x0 then (J_isDigit_16) else (J_isDigit_17 (nI 1)))
theorem v_isDigit_0 {l : Launch} {G : vv_G} {d : Nat} {σ : vv_S} (hG : vv_gok G) {x0 : Int32} {r : Int32} (h : J_isDigit x0 = some r) : vv_V l G MX4_isDigit (d + 0) 0 [(0, .int x0)] [] σ (.inl (some (.int r)), σ) := by
  unfold J_isDigit at h
  refine vv_iload_n dX4_isDigit_0 rfl 0 rfl ?_
  refine vv_bipush (v := (nI 48)) dX4_isDigit_1 (by decide) ?_
  refine vv_icmp_lt (tgt := 16) dX4_isDigit_3 (by decide) (fun c1 => ?_) (fun c1 => ?_)
  · rw [if_pos c1] at h
    refine vv_sub (lv' := []) [] rfl ?_
    exact v_isDigit_16 hG h
  · rw [if_neg c1] at h
    refine vv_iload_n dX4_isDigit_6 rfl 0 rfl ?_
    refine vv_bipush (v := (nI 57)) dX4_isDigit_7 (by decide) ?_
    refine vv_icmp_gt (tgt := 16) dX4_isDigit_9 (by decide) (fun c2 => ?_) (fun c2 => ?_)
    · rw [if_pos c2] at h
      refine vv_sub (lv' := []) [] rfl ?_
      exact v_isDigit_16 hG h
    · rw [if_neg c2] at h
      refine vv_iconst (v := (nI 1)) dX4_isDigit_12 (by decide) ?_
      refine vv_goto (tgt := 17) dX4_isDigit_13 (by decide) ?_
      refine vv_sub (lv' := []) [] rfl ?_
      exact v_isDigit_17 hG h
theorem m_isDigit {l : Launch} {G : vv_G} {σ : vv_S} (hG : vv_gok G) {x0 : Int32} {r : Int32} (h : J_isDigit x0 = some r) (d : Nat) : vv_Met l G MX4_isDigit (d + 0) [.int x0] σ (.inl (some (.int r)), σ) := vv_head (by decide +kernel) rfl (Nat.le_of_ble_eq_true rfl) rfl (v_isDigit_0 hG h)
/-! isLetter -/
def J_isLetter_17 (s0 : Int32) : Option Int32 := (zrI s0).bind fun v1 => some v1
theorem v_isLetter_17 {l : Launch} {G : vv_G} {d : Nat} {σ : vv_S} (hG : vv_gok G) {s0 : Int32} {r : Int32} (h : J_isLetter_17 s0 = some r) : vv_V l G MX4_isLetter (d + 0) 17 [] [.int s0] σ (.inl (some (.int r)), σ) := by
  unfold J_isLetter_17 at h
  obtain ⟨zv1, h⟩ := zr_o h
  cases h
  exact vv_zret rfl zv1 dX4_isLetter_17
def J_isLetter_16 : Option Int32 := J_isLetter_17 (nI 0)
theorem v_isLetter_16 {l : Launch} {G : vv_G} {d : Nat} {σ : vv_S} (hG : vv_gok G) {r : Int32} (h : J_isLetter_16 = some r) : vv_V l G MX4_isLetter (d + 0) 16 [] [] σ (.inl (some (.int r)), σ) := by
  unfold J_isLetter_16 at h
  refine vv_iconst (v := (nI 0)) dX4_isLetter_16 (by decide) ?_
  exact v_isLetter_17 hG h
def J_isLetter (x0 : Int32) : Option Int32 := if x0 < (nI 97) then (J_isLetter_16) else (if (nI 122) < x0 then (J_isLetter_16) else (J_isLetter_17 (nI 1)))
theorem v_isLetter_0 {l : Launch} {G : vv_G} {d : Nat} {σ : vv_S} (hG : vv_gok G) {x0 : Int32} {r : Int32} (h : J_isLetter x0 = some r) : vv_V l G MX4_isLetter (d + 0) 0 [(0, .int x0)] [] σ (.inl (some (.int r)), σ) := by
  unfold J_isLetter at h
  refine vv_iload_n dX4_isLetter_0 rfl 0 rfl ?_
  refine vv_bipush (v := (nI 97)) dX4_isLetter_1 (by decide) ?_
  refine vv_icmp_lt (tgt := 16) dX4_isLetter_3 (by decide) (fun c1 => ?_) (fun c1 => ?_)
  · rw [if_pos c1] at h
    refine vv_sub (lv' := []) [] rfl ?_
    exact v_isLetter_16 hG h
  · rw [if_neg c1] at h
    refine vv_iload_n dX4_isLetter_6 rfl 0 rfl ?_
    refine vv_bipush (v := (nI 122)) dX4_isLetter_7 (by decide) ?_
    refine vv_icmp_gt (tgt := 16) dX4_isLetter_9 (by decide) (fun c2 => ?_) (fun c2 => ?_)
    · rw [if_pos c2] at h
      refine vv_sub (lv' := []) [] rfl ?_
      exact v_isLetter_16 hG h
    · rw [if_neg c2] at h
      refine vv_iconst (v := (nI 1)) dX4_isLetter_12 (by decide) ?_
      refine vv_goto (tgt := 17) dX4_isLetter_13 (by decide) ?_
      refine vv_sub (lv' := []) [] rfl ?_
      exact v_isLetter_17 hG h
theorem m_isLetter {l : Launch} {G : vv_G} {σ : vv_S} (hG : vv_gok G) {x0 : Int32} {r : Int32} (h : J_isLetter x0 = some r) (d : Nat) : vv_Met l G MX4_isLetter (d + 0) [.int x0] σ (.inl (some (.int r)), σ) := vv_head (by decide +kernel) rfl (Nat.le_of_ble_eq_true rfl) rfl (v_isLetter_0 hG h)
/-! goes -/
def J_goes_331 (T : tw_T) : Option tw_T := (some (tw_F T 21 ((T.1 18) - (T.1 20)))).bind fun T1 => some T1
theorem v_goes_331 {l : Launch} {G : vv_G} {d : Nat} {o : Nat} {h0 : Nat → Option vv_E} {nz : Nat × Nat} (hG : vv_gok G) {T : tw_T} {r : tw_T} (h : J_goes_331 T = some r) : vv_V l G MX4_goes (d + 1) 331 [(0, .ref o)] [] (tp o h0 T, nz) (.inl none, (tp o h0 r, nz)) := by
  unfold J_goes_331 at h
  refine vv_aload_n dX4_goes_331 rfl 0 rfl ?_
  refine vv_aload_n dX4_goes_332 rfl 0 rfl ?_
  refine tw_get (fl_X4_130 hG) (k := 18) rfl dX4_goes_333 ?_
  refine vv_aload_n dX4_goes_336 rfl 0 rfl ?_
  refine tw_get (fl_X4_137 hG) (k := 20) rfl dX4_goes_337 ?_
  refine vv_isub dX4_goes_340 ?_
  obtain ⟨T1, eT1, h⟩ := bd_s h
  refine tw_put (T1 := T1) (pt_X4_160 hG) hG rfl rfl rfl (by decide) (by rw [eT1]; exact tw_set21 _ _ _) (by rw [eT1]; rfl) dX4_goes_341 ?_
  cases h
  exact vv_vret rfl dX4_goes_344
def J_goes_328 (s1 : Int32) (T : tw_T) : Option tw_T := (some (tw_F T 19 s1)).bind fun T1 => J_goes_331 T1
theorem v_goes_328 {l : Launch} {G : vv_G} {d : Nat} {o : Nat} {h0 : Nat → Option vv_E} {nz : Nat × Nat} (hG : vv_gok G) {s1 : Int32} {T : tw_T} {r : tw_T} (h : J_goes_328 s1 T = some r) : vv_V l G MX4_goes (d + 1) 328 [(0, .ref o)] [.int s1, .ref o] (tp o h0 T, nz) (.inl none, (tp o h0 r, nz)) := by
  unfold J_goes_328 at h
  obtain ⟨T1, eT1, h⟩ := bd_s h
  refine tw_put (T1 := T1) (pt_X4_150 hG) hG rfl rfl rfl (by decide) (by rw [eT1]; exact tw_set19 _ _ _) (by rw [eT1]; rfl) dX4_goes_328 ?_
  exact v_goes_331 hG h
def J_goes_323 (T : tw_T) : Option tw_T := J_goes_328 (nI 3) T
theorem v_goes_323 {l : Launch} {G : vv_G} {d : Nat} {o : Nat} {h0 : Nat → Option vv_E} {nz : Nat × Nat} (hG : vv_gok G) {T : tw_T} {r : tw_T} (h : J_goes_323 T = some r) : vv_V l G MX4_goes (d + 1) 323 [(0, .ref o)] [.ref o] (tp o h0 T, nz) (.inl none, (tp o h0 r, nz)) := by
  unfold J_goes_323 at h
  refine vv_iconst (v := (nI 3)) dX4_goes_323 (by decide) ?_
  refine vv_goto (tgt := 328) dX4_goes_324 (by decide) ?_
  exact v_goes_328 hG h
def J_goes_237 (k187 : tw_T → Option tw_T) (T : tw_T) : Option tw_T := (some (tw_F T 18 ((T.1 18) + (nI 1)))).bind fun T1 => k187 T1
theorem v_goes_237 {l : Launch} {G : vv_G} {d : Nat} {o : Nat} {h0 : Nat → Option vv_E} {nz : Nat × Nat} (hG : vv_gok G) {k187 : tw_T → Option tw_T} (hk187 : ∀ {T : tw_T} {r : tw_T}, k187 T = some r → vv_V l G MX4_goes (d + 1) 187 [(0, .ref o)] [] (tp o h0 T, nz) (.inl none, (tp o h0 r, nz))) {T : tw_T} {r : tw_T} (h : J_goes_237 k187 T = some r) : vv_V l G MX4_goes (d + 1) 237 [(0, .ref o)] [] (tp o h0 T, nz) (.inl none, (tp o h0 r, nz)) := by
  unfold J_goes_237 at h
  refine vv_aload_n dX4_goes_237 rfl 0 rfl ?_
  refine vv_dup dX4_goes_238 rfl ?_
  refine tw_get (fl_X4_130 hG) (k := 18) rfl dX4_goes_239 ?_
  refine vv_iconst (v := (nI 1)) dX4_goes_242 (by decide) ?_
  refine vv_iadd dX4_goes_243 ?_
  obtain ⟨T1, eT1, h⟩ := bd_s h
  refine tw_put (T1 := T1) (pt_X4_130 hG) hG rfl rfl rfl (by decide) (by rw [eT1]; exact tw_set18 _ _ _) (by rw [eT1]; rfl) dX4_goes_244 ?_
  refine vv_goto (tgt := 187) dX4_goes_247 (by decide) ?_
  exact hk187 h
def B_goes_187 (k187 : tw_T → Option tw_T) (T : tw_T) : Option tw_T := (J_byteAt (T.1 18) T).bind fun r1 => (J_isDigit r1.1).bind fun r2 => if r2 = 0 then ((some (tw_F r1.2 19 (nI 2))).bind fun T4 => J_goes_331 T4) else (if (nI 4) ≤ ((r1.2.1 18) - (r1.2.1 20)) then (J_goes_237 k187 r1.2) else ((J_byteAt (r1.2.1 18) r1.2).bind fun r6 => (some (tw_F r6.2 22 ((((nI 10) * (r1.2.1 22)) + r6.1) - (nI 48)))).bind fun T7 => J_goes_237 k187 T7))
def J_goes_187 : Nat → tw_T → Option tw_T
  | 0, _ => none
  | n + 1, T => B_goes_187 (J_goes_187 n) T
theorem vb_goes_187 {l : Launch} {G : vv_G} {d : Nat} {o : Nat} {h0 : Nat → Option vv_E} {nz : Nat × Nat} (hG : vv_gok G) {k187 : tw_T → Option tw_T} (hk187 : ∀ {T : tw_T} {r : tw_T}, k187 T = some r → vv_V l G MX4_goes (d + 1) 187 [(0, .ref o)] [] (tp o h0 T, nz) (.inl none, (tp o h0 r, nz))) {T : tw_T} {r : tw_T} (h : B_goes_187 k187 T = some r) : vv_V l G MX4_goes (d + 1) 187 [(0, .ref o)] [] (tp o h0 T, nz) (.inl none, (tp o h0 r, nz)) := by
  unfold B_goes_187 at h
  refine vv_aload_n dX4_goes_187 rfl 0 rfl ?_
  refine vv_aload_n dX4_goes_188 rfl 0 rfl ?_
  refine tw_get (fl_X4_130 hG) (k := 18) rfl dX4_goes_189 ?_
  obtain ⟨r1, er1, h⟩ := bd_o h
  refine vv_callV ok_X4_byteAt q1781 (m_byteAt hG er1 (d + 0)) rfl (by omega) ⟨_, _, _, _, _, tp_o, by rw [hG.1]; rfl⟩ rfl rfl (Nat.le_of_ble_eq_true rfl) dX4_goes_192 ?_
  obtain ⟨r2, er2, h⟩ := bd_o h
  refine vv_callS ok_X4_isDigit q1788 (m_isDigit hG er2 (d + 0)) rfl (by omega) rfl rfl (Nat.le_of_ble_eq_true rfl) dX4_goes_195 ?_
  refine vv_if_eq (tgt := 250) dX4_goes_198 (by decide) (fun c3 => ?_) (fun c3 => ?_)
  · rw [if_pos c3] at h
    refine vv_aload_n dX4_goes_250 rfl 0 rfl ?_
    refine vv_iconst (v := (nI 2)) dX4_goes_251 (by decide) ?_
    obtain ⟨T4, eT4, h⟩ := bd_s h
    refine tw_put (T1 := T4) (pt_X4_150 hG) hG rfl rfl rfl (by decide) (by rw [eT4]; exact tw_set19 _ _ _) (by rw [eT4]; rfl) dX4_goes_252 ?_
    refine vv_goto (tgt := 331) dX4_goes_255 (by decide) ?_
    exact v_goes_331 hG h
  · rw [if_neg c3] at h
    refine vv_aload_n dX4_goes_201 rfl 0 rfl ?_
    refine tw_get (fl_X4_130 hG) (k := 18) rfl dX4_goes_202 ?_
    refine vv_aload_n dX4_goes_205 rfl 0 rfl ?_
    refine tw_get (fl_X4_137 hG) (k := 20) rfl dX4_goes_206 ?_
    refine vv_isub dX4_goes_209 ?_
    refine vv_iconst (v := (nI 4)) dX4_goes_210 (by decide) ?_
    refine vv_icmp_ge (tgt := 237) dX4_goes_211 (by decide) (fun c5 => ?_) (fun c5 => ?_)
    · rw [if_pos c5] at h
      exact v_goes_237 hG hk187 h
    · rw [if_neg c5] at h
      refine vv_aload_n dX4_goes_214 rfl 0 rfl ?_
      refine vv_bipush (v := (nI 10)) dX4_goes_215 (by decide) ?_
      refine vv_aload_n dX4_goes_217 rfl 0 rfl ?_
      refine tw_get (fl_X4_144 hG) (k := 22) rfl dX4_goes_218 ?_
      refine vv_imul dX4_goes_221 ?_
      refine vv_aload_n dX4_goes_222 rfl 0 rfl ?_
      refine vv_aload_n dX4_goes_223 rfl 0 rfl ?_
      refine tw_get (fl_X4_130 hG) (k := 18) rfl dX4_goes_224 ?_
      obtain ⟨r6, er6, h⟩ := bd_o h
      refine vv_callV ok_X4_byteAt q1781 (m_byteAt hG er6 (d + 0)) rfl (by omega) ⟨_, _, _, _, _, tp_o, by rw [hG.1]; rfl⟩ rfl rfl (Nat.le_of_ble_eq_true rfl) dX4_goes_227 ?_
      refine vv_iadd dX4_goes_230 ?_
      refine vv_bipush (v := (nI 48)) dX4_goes_231 (by decide) ?_
      refine vv_isub dX4_goes_233 ?_
      obtain ⟨T7, eT7, h⟩ := bd_s h
      refine tw_put (T1 := T7) (pt_X4_144 hG) hG rfl rfl rfl (by decide) (by rw [eT7]; exact tw_set22 _ _ _) (by rw [eT7]; rfl) dX4_goes_234 ?_
      exact v_goes_237 hG hk187 h
theorem v_goes_187 {l : Launch} {G : vv_G} {d : Nat} {o : Nat} {h0 : Nat → Option vv_E} {nz : Nat × Nat} (hG : vv_gok G) : ∀ (n : Nat) {T : tw_T} {r : tw_T}, J_goes_187 n T = some r → vv_V l G MX4_goes (d + 1) 187 [(0, .ref o)] [] (tp o h0 T, nz) (.inl none, (tp o h0 r, nz)) := by
  intro n
  induction n with
  | zero => intro _ _ h; cases h
  | succ n ih => intro _ _ h; exact vb_goes_187 hG ih h
def J_goes_159 (k108 : tw_T → Option tw_T) (T : tw_T) : Option tw_T := (some (tw_F T 18 ((T.1 18) + (nI 1)))).bind fun T1 => k108 T1
theorem v_goes_159 {l : Launch} {G : vv_G} {d : Nat} {o : Nat} {h0 : Nat → Option vv_E} {nz : Nat × Nat} (hG : vv_gok G) {k108 : tw_T → Option tw_T} (hk108 : ∀ {T : tw_T} {r : tw_T}, k108 T = some r → vv_V l G MX4_goes (d + 1) 108 [(0, .ref o)] [] (tp o h0 T, nz) (.inl none, (tp o h0 r, nz))) {T : tw_T} {r : tw_T} (h : J_goes_159 k108 T = some r) : vv_V l G MX4_goes (d + 1) 159 [(0, .ref o)] [] (tp o h0 T, nz) (.inl none, (tp o h0 r, nz)) := by
  unfold J_goes_159 at h
  refine vv_aload_n dX4_goes_159 rfl 0 rfl ?_
  refine vv_dup dX4_goes_160 rfl ?_
  refine tw_get (fl_X4_130 hG) (k := 18) rfl dX4_goes_161 ?_
  refine vv_iconst (v := (nI 1)) dX4_goes_164 (by decide) ?_
  refine vv_iadd dX4_goes_165 ?_
  obtain ⟨T1, eT1, h⟩ := bd_s h
  refine tw_put (T1 := T1) (pt_X4_130 hG) hG rfl rfl rfl (by decide) (by rw [eT1]; exact tw_set18 _ _ _) (by rw [eT1]; rfl) dX4_goes_166 ?_
  refine vv_goto (tgt := 108) dX4_goes_169 (by decide) ?_
  exact hk108 h
def B_goes_108 (k108 : tw_T → Option tw_T) (T : tw_T) : Option tw_T := (J_byteAt (T.1 18) T).bind fun r1 => (J_isLetter r1.1).bind fun r2 => if r2 = 0 then ((some (tw_F r1.2 19 (nI 1))).bind fun T4 => J_goes_331 T4) else (if (nI 7) ≤ ((r1.2.1 18) - (r1.2.1 20)) then (J_goes_159 k108 r1.2) else ((J_byteAt (r1.2.1 18) r1.2).bind fun r6 => (some (tw_L r6.2 ((r1.2.2.1 <<< (Int32.toInt64 (nI 5) &&& 63)) ||| (Int32.toInt64 (r6.1 - (nI 96)))))).bind fun T7 => J_goes_159 k108 T7))
def J_goes_108 : Nat → tw_T → Option tw_T
  | 0, _ => none
  | n + 1, T => B_goes_108 (J_goes_108 n) T
theorem vb_goes_108 {l : Launch} {G : vv_G} {d : Nat} {o : Nat} {h0 : Nat → Option vv_E} {nz : Nat × Nat} (hG : vv_gok G) {k108 : tw_T → Option tw_T} (hk108 : ∀ {T : tw_T} {r : tw_T}, k108 T = some r → vv_V l G MX4_goes (d + 1) 108 [(0, .ref o)] [] (tp o h0 T, nz) (.inl none, (tp o h0 r, nz))) {T : tw_T} {r : tw_T} (h : B_goes_108 k108 T = some r) : vv_V l G MX4_goes (d + 1) 108 [(0, .ref o)] [] (tp o h0 T, nz) (.inl none, (tp o h0 r, nz)) := by
  unfold B_goes_108 at h
  refine vv_aload_n dX4_goes_108 rfl 0 rfl ?_
  refine vv_aload_n dX4_goes_109 rfl 0 rfl ?_
  refine tw_get (fl_X4_130 hG) (k := 18) rfl dX4_goes_110 ?_
  obtain ⟨r1, er1, h⟩ := bd_o h
  refine vv_callV ok_X4_byteAt q1781 (m_byteAt hG er1 (d + 0)) rfl (by omega) ⟨_, _, _, _, _, tp_o, by rw [hG.1]; rfl⟩ rfl rfl (Nat.le_of_ble_eq_true rfl) dX4_goes_113 ?_
  obtain ⟨r2, er2, h⟩ := bd_o h
  refine vv_callS ok_X4_isLetter q1785 (m_isLetter hG er2 (d + 0)) rfl (by omega) rfl rfl (Nat.le_of_ble_eq_true rfl) dX4_goes_116 ?_
  refine vv_if_eq (tgt := 172) dX4_goes_119 (by decide) (fun c3 => ?_) (fun c3 => ?_)
  · rw [if_pos c3] at h
    refine vv_aload_n dX4_goes_172 rfl 0 rfl ?_
    refine vv_iconst (v := (nI 1)) dX4_goes_173 (by decide) ?_
    obtain ⟨T4, eT4, h⟩ := bd_s h
    refine tw_put (T1 := T4) (pt_X4_150 hG) hG rfl rfl rfl (by decide) (by rw [eT4]; exact tw_set19 _ _ _) (by rw [eT4]; rfl) dX4_goes_174 ?_
    refine vv_goto (tgt := 331) dX4_goes_177 (by decide) ?_
    exact v_goes_331 hG h
  · rw [if_neg c3] at h
    refine vv_aload_n dX4_goes_122 rfl 0 rfl ?_
    refine tw_get (fl_X4_130 hG) (k := 18) rfl dX4_goes_123 ?_
    refine vv_aload_n dX4_goes_126 rfl 0 rfl ?_
    refine tw_get (fl_X4_137 hG) (k := 20) rfl dX4_goes_127 ?_
    refine vv_isub dX4_goes_130 ?_
    refine vv_bipush (v := (nI 7)) dX4_goes_131 (by decide) ?_
    refine vv_icmp_ge (tgt := 159) dX4_goes_133 (by decide) (fun c5 => ?_) (fun c5 => ?_)
    · rw [if_pos c5] at h
      exact v_goes_159 hG hk108 h
    · rw [if_neg c5] at h
      refine vv_aload_n dX4_goes_136 rfl 0 rfl ?_
      refine vv_aload_n dX4_goes_137 rfl 0 rfl ?_
      refine tw_get (fl_X4_140 hG) (k := 24) rfl dX4_goes_138 ?_
      refine vv_iconst (v := (nI 5)) dX4_goes_141 (by decide) ?_
      refine vv_lshl dX4_goes_142 ?_
      refine vv_aload_n dX4_goes_143 rfl 0 rfl ?_
      refine vv_aload_n dX4_goes_144 rfl 0 rfl ?_
      refine tw_get (fl_X4_130 hG) (k := 18) rfl dX4_goes_145 ?_
      obtain ⟨r6, er6, h⟩ := bd_o h
      refine vv_callV ok_X4_byteAt q1781 (m_byteAt hG er6 (d + 0)) rfl (by omega) ⟨_, _, _, _, _, tp_o, by rw [hG.1]; rfl⟩ rfl rfl (Nat.le_of_ble_eq_true rfl) dX4_goes_148 ?_
      refine vv_bipush (v := (nI 96)) dX4_goes_151 (by decide) ?_
      refine vv_isub dX4_goes_153 ?_
      refine vv_i2l dX4_goes_154 ?_
      refine vv_lor dX4_goes_155 ?_
      obtain ⟨T7, eT7, h⟩ := bd_s h
      refine tw_put (T1 := T7) (pt_X4_140 hG) hG rfl rfl rfl (by decide) (by rw [eT7]; exact tw_set24 _ _ _) (by rw [eT7]; rfl) dX4_goes_156 ?_
      exact v_goes_159 hG hk108 h
theorem v_goes_108 {l : Launch} {G : vv_G} {d : Nat} {o : Nat} {h0 : Nat → Option vv_E} {nz : Nat × Nat} (hG : vv_gok G) : ∀ (n : Nat) {T : tw_T} {r : tw_T}, J_goes_108 n T = some r → vv_V l G MX4_goes (d + 1) 108 [(0, .ref o)] [] (tp o h0 T, nz) (.inl none, (tp o h0 r, nz)) := by
  intro n
  induction n with
  | zero => intro _ _ h; cases h
  | succ n ih => intro _ _ h; exact vb_goes_108 hG ih h
def J_goes_50 (T : tw_T) : Option tw_T := (some (tw_F T 20 (T.1 18))).bind fun T1 => (some (tw_L T1 (0 : Int64))).bind fun T2 => (some (tw_F T2 22 (nI 0))).bind fun T3 => (J_byteAt (T3.1 18) T3).bind fun r4 => (some (tw_F r4.2 23 r4.1)).bind fun T5 => if (T5.1 18) < (T5.1 17) then ((J_isLetter r4.1).bind fun r7 => if r7 = 0 then ((J_isDigit r4.1).bind fun r9 => if r9 = 0 then ((some (tw_F T5 18 ((T5.1 18) + (nI 1)))).bind fun T11 => if r4.1 = (nI 59) then (J_goes_323 T11) else (if r4.1 = (nI 40) then (J_goes_323 T11) else (if r4.1 = (nI 41) then (J_goes_323 T11) else (if r4.1 = (nI 43) then (J_goes_323 T11) else (if r4.1 = (nI 45) then (J_goes_323 T11) else (if r4.1 = (nI 42) then (J_goes_323 T11) else (if r4.1 = (nI 47) then (J_goes_323 T11) else (if r4.1 = (nI 60) then (J_goes_323 T11) else (if r4.1 = (nI 61) then (J_goes_323 T11) else (J_goes_328 (nI 4) T11)))))))))) else (J_goes_187 NN T5)) else (J_goes_108 NN T5)) else ((some (tw_F T5 19 (nI 0))).bind fun T21 => J_goes_331 T21)
theorem v_goes_50 {l : Launch} {G : vv_G} {d : Nat} {o : Nat} {h0 : Nat → Option vv_E} {nz : Nat × Nat} (hG : vv_gok G) {T : tw_T} {r : tw_T} (h : J_goes_50 T = some r) : vv_V l G MX4_goes (d + 1) 50 [(0, .ref o)] [] (tp o h0 T, nz) (.inl none, (tp o h0 r, nz)) := by
  unfold J_goes_50 at h
  refine vv_aload_n dX4_goes_50 rfl 0 rfl ?_
  refine vv_aload_n dX4_goes_51 rfl 0 rfl ?_
  refine tw_get (fl_X4_130 hG) (k := 18) rfl dX4_goes_52 ?_
  obtain ⟨T1, eT1, h⟩ := bd_s h
  refine tw_put (T1 := T1) (pt_X4_137 hG) hG rfl rfl rfl (by decide) (by rw [eT1]; exact tw_set20 _ _ _) (by rw [eT1]; rfl) dX4_goes_55 ?_
  refine vv_aload_n dX4_goes_58 rfl 0 rfl ?_
  refine vv_lconst (v := 0) dX4_goes_59 (by decide) ?_
  obtain ⟨T2, eT2, h⟩ := bd_s h
  refine tw_put (T1 := T2) (pt_X4_140 hG) hG rfl rfl rfl (by decide) (by rw [eT2]; exact tw_set24 _ _ _) (by rw [eT2]; rfl) dX4_goes_60 ?_
  refine vv_aload_n dX4_goes_63 rfl 0 rfl ?_
  refine vv_iconst (v := (nI 0)) dX4_goes_64 (by decide) ?_
  obtain ⟨T3, eT3, h⟩ := bd_s h
  refine tw_put (T1 := T3) (pt_X4_144 hG) hG rfl rfl rfl (by decide) (by rw [eT3]; exact tw_set22 _ _ _) (by rw [eT3]; rfl) dX4_goes_65 ?_
  refine vv_aload_n dX4_goes_68 rfl 0 rfl ?_
  refine vv_aload_n dX4_goes_69 rfl 0 rfl ?_
  refine tw_get (fl_X4_130 hG) (k := 18) rfl dX4_goes_70 ?_
  obtain ⟨r4, er4, h⟩ := bd_o h
  refine vv_callV ok_X4_byteAt q1781 (m_byteAt hG er4 (d + 0)) rfl (by omega) ⟨_, _, _, _, _, tp_o, by rw [hG.1]; rfl⟩ rfl rfl (Nat.le_of_ble_eq_true rfl) dX4_goes_73 ?_
  refine vv_istore_n (lv' := [(0, .ref o), (1, .int r4.1)]) dX4_goes_76 rfl (by decide) [1, 0] rfl ?_
  refine vv_aload_n dX4_goes_77 rfl 0 rfl ?_
  refine vv_iload_n dX4_goes_78 rfl 1 rfl ?_
  obtain ⟨T5, eT5, h⟩ := bd_s h
  refine tw_put (T1 := T5) (pt_X4_147 hG) hG rfl rfl rfl (by decide) (by rw [eT5]; exact tw_set23 _ _ _) (by rw [eT5]; rfl) dX4_goes_79 ?_
  refine vv_aload_n dX4_goes_82 rfl 0 rfl ?_
  refine tw_get (fl_X4_130 hG) (k := 18) rfl dX4_goes_83 ?_
  refine vv_aload_n dX4_goes_86 rfl 0 rfl ?_
  refine tw_get (fl_X4_127 hG) (k := 17) rfl dX4_goes_87 ?_
  refine vv_icmp_lt (tgt := 101) dX4_goes_90 (by decide) (fun c6 => ?_) (fun c6 => ?_)
  · rw [if_pos c6] at h
    refine vv_iload_n dX4_goes_101 rfl 1 rfl ?_
    obtain ⟨r7, er7, h⟩ := bd_o h
    refine vv_callS ok_X4_isLetter q1785 (m_isLetter hG er7 (d + 0)) rfl (by omega) rfl rfl (Nat.le_of_ble_eq_true rfl) dX4_goes_102 ?_
    refine vv_if_eq (tgt := 180) dX4_goes_105 (by decide) (fun c8 => ?_) (fun c8 => ?_)
    · rw [if_pos c8] at h
      refine vv_iload_n dX4_goes_180 rfl 1 rfl ?_
      obtain ⟨r9, er9, h⟩ := bd_o h
      refine vv_callS ok_X4_isDigit q1788 (m_isDigit hG er9 (d + 0)) rfl (by omega) rfl rfl (Nat.le_of_ble_eq_true rfl) dX4_goes_181 ?_
      refine vv_if_eq (tgt := 258) dX4_goes_184 (by decide) (fun c10 => ?_) (fun c10 => ?_)
      · rw [if_pos c10] at h
        refine vv_aload_n dX4_goes_258 rfl 0 rfl ?_
        refine vv_dup dX4_goes_259 rfl ?_
        refine tw_get (fl_X4_130 hG) (k := 18) rfl dX4_goes_260 ?_
        refine vv_iconst (v := (nI 1)) dX4_goes_263 (by decide) ?_
        refine vv_iadd dX4_goes_264 ?_
        obtain ⟨T11, eT11, h⟩ := bd_s h
        refine tw_put (T1 := T11) (pt_X4_130 hG) hG rfl rfl rfl (by decide) (by rw [eT11]; exact tw_set18 _ _ _) (by rw [eT11]; rfl) dX4_goes_265 ?_
        refine vv_aload_n dX4_goes_268 rfl 0 rfl ?_
        refine vv_iload_n dX4_goes_269 rfl 1 rfl ?_
        refine vv_bipush (v := (nI 59)) dX4_goes_270 (by decide) ?_
        refine vv_icmp_eq (tgt := 323) dX4_goes_272 (by decide) (fun c12 => ?_) (fun c12 => ?_)
        · rw [if_pos c12] at h
          refine vv_sub (lv' := [(0, .ref o)]) [0] rfl ?_
          exact v_goes_323 hG h
        · rw [if_neg c12] at h
          refine vv_iload_n dX4_goes_275 rfl 1 rfl ?_
          refine vv_bipush (v := (nI 40)) dX4_goes_276 (by decide) ?_
          refine vv_icmp_eq (tgt := 323) dX4_goes_278 (by decide) (fun c13 => ?_) (fun c13 => ?_)
          · rw [if_pos c13] at h
            refine vv_sub (lv' := [(0, .ref o)]) [0] rfl ?_
            exact v_goes_323 hG h
          · rw [if_neg c13] at h
            refine vv_iload_n dX4_goes_281 rfl 1 rfl ?_
            refine vv_bipush (v := (nI 41)) dX4_goes_282 (by decide) ?_
            refine vv_icmp_eq (tgt := 323) dX4_goes_284 (by decide) (fun c14 => ?_) (fun c14 => ?_)
            · rw [if_pos c14] at h
              refine vv_sub (lv' := [(0, .ref o)]) [0] rfl ?_
              exact v_goes_323 hG h
            · rw [if_neg c14] at h
              refine vv_iload_n dX4_goes_287 rfl 1 rfl ?_
              refine vv_bipush (v := (nI 43)) dX4_goes_288 (by decide) ?_
              refine vv_icmp_eq (tgt := 323) dX4_goes_290 (by decide) (fun c15 => ?_) (fun c15 => ?_)
              · rw [if_pos c15] at h
                refine vv_sub (lv' := [(0, .ref o)]) [0] rfl ?_
                exact v_goes_323 hG h
              · rw [if_neg c15] at h
                refine vv_iload_n dX4_goes_293 rfl 1 rfl ?_
                refine vv_bipush (v := (nI 45)) dX4_goes_294 (by decide) ?_
                refine vv_icmp_eq (tgt := 323) dX4_goes_296 (by decide) (fun c16 => ?_) (fun c16 => ?_)
                · rw [if_pos c16] at h
                  refine vv_sub (lv' := [(0, .ref o)]) [0] rfl ?_
                  exact v_goes_323 hG h
                · rw [if_neg c16] at h
                  refine vv_iload_n dX4_goes_299 rfl 1 rfl ?_
                  refine vv_bipush (v := (nI 42)) dX4_goes_300 (by decide) ?_
                  refine vv_icmp_eq (tgt := 323) dX4_goes_302 (by decide) (fun c17 => ?_) (fun c17 => ?_)
                  · rw [if_pos c17] at h
                    refine vv_sub (lv' := [(0, .ref o)]) [0] rfl ?_
                    exact v_goes_323 hG h
                  · rw [if_neg c17] at h
                    refine vv_iload_n dX4_goes_305 rfl 1 rfl ?_
                    refine vv_bipush (v := (nI 47)) dX4_goes_306 (by decide) ?_
                    refine vv_icmp_eq (tgt := 323) dX4_goes_308 (by decide) (fun c18 => ?_) (fun c18 => ?_)
                    · rw [if_pos c18] at h
                      refine vv_sub (lv' := [(0, .ref o)]) [0] rfl ?_
                      exact v_goes_323 hG h
                    · rw [if_neg c18] at h
                      refine vv_iload_n dX4_goes_311 rfl 1 rfl ?_
                      refine vv_bipush (v := (nI 60)) dX4_goes_312 (by decide) ?_
                      refine vv_icmp_eq (tgt := 323) dX4_goes_314 (by decide) (fun c19 => ?_) (fun c19 => ?_)
                      · rw [if_pos c19] at h
                        refine vv_sub (lv' := [(0, .ref o)]) [0] rfl ?_
                        exact v_goes_323 hG h
                      · rw [if_neg c19] at h
                        refine vv_iload_n dX4_goes_317 rfl 1 rfl ?_
                        refine vv_bipush (v := (nI 61)) dX4_goes_318 (by decide) ?_
                        refine vv_icmp_ne (tgt := 327) dX4_goes_320 (by decide) (fun c20 => ?_) (fun c20 => ?_)
                        · rw [if_neg c20] at h
                          refine vv_iconst (v := (nI 4)) dX4_goes_327 (by decide) ?_
                          refine vv_sub (lv' := [(0, .ref o)]) [0] rfl ?_
                          exact v_goes_328 hG h
                        · rw [if_pos c20] at h
                          refine vv_sub (lv' := [(0, .ref o)]) [0] rfl ?_
                          exact v_goes_323 hG h
      · rw [if_neg c10] at h
        refine vv_sub (lv' := [(0, .ref o)]) [0] rfl ?_
        exact v_goes_187 hG NN h
    · rw [if_neg c8] at h
      refine vv_sub (lv' := [(0, .ref o)]) [0] rfl ?_
      exact v_goes_108 hG NN h
  · rw [if_neg c6] at h
    refine vv_aload_n dX4_goes_93 rfl 0 rfl ?_
    refine vv_iconst (v := (nI 0)) dX4_goes_94 (by decide) ?_
    obtain ⟨T21, eT21, h⟩ := bd_s h
    refine tw_put (T1 := T21) (pt_X4_150 hG) hG rfl rfl rfl (by decide) (by rw [eT21]; exact tw_set19 _ _ _) (by rw [eT21]; rfl) dX4_goes_95 ?_
    refine vv_goto (tgt := 331) dX4_goes_98 (by decide) ?_
    refine vv_sub (lv' := [(0, .ref o)]) [0] rfl ?_
    exact v_goes_331 hG h
def J_goes_37 (k0 : tw_T → Option tw_T) (T : tw_T) : Option tw_T := (some (tw_F T 18 ((T.1 18) + (nI 1)))).bind fun T1 => k0 T1
theorem v_goes_37 {l : Launch} {G : vv_G} {d : Nat} {o : Nat} {h0 : Nat → Option vv_E} {nz : Nat × Nat} (hG : vv_gok G) {k0 : tw_T → Option tw_T} (hk0 : ∀ {T : tw_T} {r : tw_T}, k0 T = some r → vv_V l G MX4_goes (d + 1) 0 [(0, .ref o)] [] (tp o h0 T, nz) (.inl none, (tp o h0 r, nz))) {T : tw_T} {r : tw_T} (h : J_goes_37 k0 T = some r) : vv_V l G MX4_goes (d + 1) 37 [(0, .ref o)] [] (tp o h0 T, nz) (.inl none, (tp o h0 r, nz)) := by
  unfold J_goes_37 at h
  refine vv_aload_n dX4_goes_37 rfl 0 rfl ?_
  refine vv_dup dX4_goes_38 rfl ?_
  refine tw_get (fl_X4_130 hG) (k := 18) rfl dX4_goes_39 ?_
  refine vv_iconst (v := (nI 1)) dX4_goes_42 (by decide) ?_
  refine vv_iadd dX4_goes_43 ?_
  obtain ⟨T1, eT1, h⟩ := bd_s h
  refine tw_put (T1 := T1) (pt_X4_130 hG) hG rfl rfl rfl (by decide) (by rw [eT1]; exact tw_set18 _ _ _) (by rw [eT1]; rfl) dX4_goes_44 ?_
  refine vv_goto (tgt := 0) dX4_goes_47 (by decide) ?_
  exact hk0 h
def B_goes_0 (k0 : tw_T → Option tw_T) (T : tw_T) : Option tw_T := if (T.1 17) ≤ (T.1 18) then (J_goes_50 T) else ((J_byteAt (T.1 18) T).bind fun r2 => if r2.1 = (nI 32) then (J_goes_37 k0 r2.2) else ((J_byteAt (r2.2.1 18) r2.2).bind fun r4 => if r4.1 = (nI 10) then (J_goes_37 k0 r4.2) else (J_goes_50 r4.2)))
def J_goes_0 : Nat → tw_T → Option tw_T
  | 0, _ => none
  | n + 1, T => B_goes_0 (J_goes_0 n) T
theorem vb_goes_0 {l : Launch} {G : vv_G} {d : Nat} {o : Nat} {h0 : Nat → Option vv_E} {nz : Nat × Nat} (hG : vv_gok G) {k0 : tw_T → Option tw_T} (hk0 : ∀ {T : tw_T} {r : tw_T}, k0 T = some r → vv_V l G MX4_goes (d + 1) 0 [(0, .ref o)] [] (tp o h0 T, nz) (.inl none, (tp o h0 r, nz))) {T : tw_T} {r : tw_T} (h : B_goes_0 k0 T = some r) : vv_V l G MX4_goes (d + 1) 0 [(0, .ref o)] [] (tp o h0 T, nz) (.inl none, (tp o h0 r, nz)) := by
  unfold B_goes_0 at h
  refine vv_aload_n dX4_goes_0 rfl 0 rfl ?_
  refine tw_get (fl_X4_130 hG) (k := 18) rfl dX4_goes_1 ?_
  refine vv_aload_n dX4_goes_4 rfl 0 rfl ?_
  refine tw_get (fl_X4_127 hG) (k := 17) rfl dX4_goes_5 ?_
  refine vv_icmp_ge (tgt := 50) dX4_goes_8 (by decide) (fun c1 => ?_) (fun c1 => ?_)
  · rw [if_pos c1] at h
    exact v_goes_50 hG h
  · rw [if_neg c1] at h
    refine vv_aload_n dX4_goes_11 rfl 0 rfl ?_
    refine vv_aload_n dX4_goes_12 rfl 0 rfl ?_
    refine tw_get (fl_X4_130 hG) (k := 18) rfl dX4_goes_13 ?_
    obtain ⟨r2, er2, h⟩ := bd_o h
    refine vv_callV ok_X4_byteAt q1781 (m_byteAt hG er2 (d + 0)) rfl (by omega) ⟨_, _, _, _, _, tp_o, by rw [hG.1]; rfl⟩ rfl rfl (Nat.le_of_ble_eq_true rfl) dX4_goes_16 ?_
    refine vv_bipush (v := (nI 32)) dX4_goes_19 (by decide) ?_
    refine vv_icmp_eq (tgt := 37) dX4_goes_21 (by decide) (fun c3 => ?_) (fun c3 => ?_)
    · rw [if_pos c3] at h
      exact v_goes_37 hG hk0 h
    · rw [if_neg c3] at h
      refine vv_aload_n dX4_goes_24 rfl 0 rfl ?_
      refine vv_aload_n dX4_goes_25 rfl 0 rfl ?_
      refine tw_get (fl_X4_130 hG) (k := 18) rfl dX4_goes_26 ?_
      obtain ⟨r4, er4, h⟩ := bd_o h
      refine vv_callV ok_X4_byteAt q1781 (m_byteAt hG er4 (d + 0)) rfl (by omega) ⟨_, _, _, _, _, tp_o, by rw [hG.1]; rfl⟩ rfl rfl (Nat.le_of_ble_eq_true rfl) dX4_goes_29 ?_
      refine vv_bipush (v := (nI 10)) dX4_goes_32 (by decide) ?_
      refine vv_icmp_ne (tgt := 50) dX4_goes_34 (by decide) (fun c5 => ?_) (fun c5 => ?_)
      · rw [if_neg c5] at h
        exact v_goes_50 hG h
      · rw [if_pos c5] at h
        exact v_goes_37 hG hk0 h
theorem v_goes_0 {l : Launch} {G : vv_G} {d : Nat} {o : Nat} {h0 : Nat → Option vv_E} {nz : Nat × Nat} (hG : vv_gok G) : ∀ (n : Nat) {T : tw_T} {r : tw_T}, J_goes_0 n T = some r → vv_V l G MX4_goes (d + 1) 0 [(0, .ref o)] [] (tp o h0 T, nz) (.inl none, (tp o h0 r, nz)) := by
  intro n
  induction n with
  | zero => intro _ _ h; cases h
  | succ n ih => intro _ _ h; exact vb_goes_0 hG ih h
def J_goes (T : tw_T) : Option tw_T := J_goes_0 NN T
theorem m_goes {l : Launch} {G : vv_G} {o : Nat} {h0 : Nat → Option vv_E} {nz : Nat × Nat} (hG : vv_gok G) {T : tw_T} {r : tw_T} (h : J_goes T = some r) (d : Nat) : vv_Met l G MX4_goes (d + 1) [.ref o] (tp o h0 T, nz) (.inl none, (tp o h0 r, nz)) := vv_head (by decide +kernel) rfl (Nat.le_of_ble_eq_true rfl) rfl (vv_sub [0] rfl (v_goes_0 hG NN h))
/-! isGood -/
def J_isGood_12 (s0 : Int32) (T : tw_T) : Option (Int32 × tw_T) := (zrI s0).bind fun v1 => some (v1, T)
theorem v_isGood_12 {l : Launch} {G : vv_G} {d : Nat} {o : Nat} {h0 : Nat → Option vv_E} {nz : Nat × Nat} (hG : vv_gok G) {s0 : Int32} {T : tw_T} {r : Int32 × tw_T} (h : J_isGood_12 s0 T = some r) : vv_V l G MX4_isGood (d + 0) 12 [(0, .ref o)] [.int s0] (tp o h0 T, nz) (.inl (some (.int r.1)), (tp o h0 r.2, nz)) := by
  unfold J_isGood_12 at h
  obtain ⟨zv1, h⟩ := zr_o h
  cases h
  exact vv_zret rfl zv1 dX4_isGood_12
def J_isGood (T : tw_T) : Option (Int32 × tw_T) := if (T.1 14) = 0 then (J_isGood_12 (nI 1) T) else (J_isGood_12 (nI 0) T)
theorem v_isGood_0 {l : Launch} {G : vv_G} {d : Nat} {o : Nat} {h0 : Nat → Option vv_E} {nz : Nat × Nat} (hG : vv_gok G) {T : tw_T} {r : Int32 × tw_T} (h : J_isGood T = some r) : vv_V l G MX4_isGood (d + 0) 0 [(0, .ref o)] [] (tp o h0 T, nz) (.inl (some (.int r.1)), (tp o h0 r.2, nz)) := by
  unfold J_isGood at h
  refine vv_aload_n dX4_isGood_0 rfl 0 rfl ?_
  refine tw_get (fl_X4_173 hG) (k := 14) rfl dX4_isGood_1 ?_
  refine vv_if_ne (tgt := 11) dX4_isGood_4 (by decide) (fun c1 => ?_) (fun c1 => ?_)
  · rw [if_neg c1] at h
    refine vv_iconst (v := (nI 0)) dX4_isGood_11 (by decide) ?_
    exact v_isGood_12 hG h
  · rw [if_pos c1] at h
    refine vv_iconst (v := (nI 1)) dX4_isGood_7 (by decide) ?_
    refine vv_goto (tgt := 12) dX4_isGood_8 (by decide) ?_
    exact v_isGood_12 hG h
theorem m_isGood {l : Launch} {G : vv_G} {o : Nat} {h0 : Nat → Option vv_E} {nz : Nat × Nat} (hG : vv_gok G) {T : tw_T} {r : Int32 × tw_T} (h : J_isGood T = some r) (d : Nat) : vv_Met l G MX4_isGood (d + 0) [.ref o] (tp o h0 T, nz) (.inl (some (.int r.1)), (tp o h0 r.2, nz)) := vv_head (by decide +kernel) rfl (Nat.le_of_ble_eq_true rfl) rfl (v_isGood_0 hG h)
/-! isOpen -/
def J_isOpen_11 (s0 : Int32) : Option Int32 := (zrI s0).bind fun v1 => some v1
theorem v_isOpen_11 {l : Launch} {G : vv_G} {d : Nat} {σ : vv_S} (hG : vv_gok G) {s0 : Int32} {r : Int32} (h : J_isOpen_11 s0 = some r) : vv_V l G MX4_isOpen (d + 0) 11 [] [.int s0] σ (.inl (some (.int r)), σ) := by
  unfold J_isOpen_11 at h
  obtain ⟨zv1, h⟩ := zr_o h
  cases h
  exact vv_zret rfl zv1 dX4_isOpen_11
def J_isOpen (x0 : Int32) : Option Int32 := if x0 < (nI 14) then (J_isOpen_11 (nI 0)) else (J_isOpen_11 (nI 1))
theorem v_isOpen_0 {l : Launch} {G : vv_G} {d : Nat} {σ : vv_S} (hG : vv_gok G) {x0 : Int32} {r : Int32} (h : J_isOpen x0 = some r) : vv_V l G MX4_isOpen (d + 0) 0 [(0, .int x0)] [] σ (.inl (some (.int r)), σ) := by
  unfold J_isOpen at h
  refine vv_iload_n dX4_isOpen_0 rfl 0 rfl ?_
  refine vv_bipush (v := (nI 14)) dX4_isOpen_1 (by decide) ?_
  refine vv_icmp_lt (tgt := 10) dX4_isOpen_3 (by decide) (fun c1 => ?_) (fun c1 => ?_)
  · rw [if_pos c1] at h
    refine vv_iconst (v := (nI 0)) dX4_isOpen_10 (by decide) ?_
    refine vv_sub (lv' := []) [] rfl ?_
    exact v_isOpen_11 hG h
  · rw [if_neg c1] at h
    refine vv_iconst (v := (nI 1)) dX4_isOpen_6 (by decide) ?_
    refine vv_goto (tgt := 11) dX4_isOpen_7 (by decide) ?_
    refine vv_sub (lv' := []) [] rfl ?_
    exact v_isOpen_11 hG h
theorem m_isOpen {l : Launch} {G : vv_G} {σ : vv_S} (hG : vv_gok G) {x0 : Int32} {r : Int32} (h : J_isOpen x0 = some r) (d : Nat) : vv_Met l G MX4_isOpen (d + 0) [.int x0] σ (.inl (some (.int r)), σ) := vv_head (by decide +kernel) rfl (Nat.le_of_ble_eq_true rfl) rfl (v_isOpen_0 hG h)
/-! puts -/
def J_puts (x1 : Int32) (T : tw_T) : Option tw_T := (stA T 17 1400 (T.1 29) x1).bind fun T1 => (some (tw_F T1 29 ((T1.1 29) + (nI 1)))).bind fun T2 => some T2
theorem v_puts_0 {l : Launch} {G : vv_G} {d : Nat} {o : Nat} {h0 : Nat → Option vv_E} {nz : Nat × Nat} (hG : vv_gok G) {x1 : Int32} {T : tw_T} {r : tw_T} (h : J_puts x1 T = some r) : vv_V l G MX4_puts (d + 0) 0 [(0, .ref o), (1, .int x1)] [] (tp o h0 T, nz) (.inl none, (tp o h0 r, nz)) := by
  unfold J_puts at h
  refine vv_aload_n dX4_puts_0 rfl 0 rfl ?_
  refine tw_get (fl_X4_65 hG) (k := 39) rfl dX4_puts_1 ?_
  refine vv_aload_n dX4_puts_4 rfl 0 rfl ?_
  refine tw_get (fl_X4_189 hG) (k := 29) rfl dX4_puts_5 ?_
  refine vv_iload_n dX4_puts_8 rfl 1 rfl ?_
  obtain ⟨T1, iT1, eT1, h⟩ := st_o h
  refine tw_ast 17 (by decide) rfl iT1 eT1 dX4_puts_9 ?_
  refine vv_aload_n dX4_puts_10 rfl 0 rfl ?_
  refine vv_dup dX4_puts_11 rfl ?_
  refine tw_get (fl_X4_189 hG) (k := 29) rfl dX4_puts_12 ?_
  refine vv_iconst (v := (nI 1)) dX4_puts_15 (by decide) ?_
  refine vv_iadd dX4_puts_16 ?_
  obtain ⟨T2, eT2, h⟩ := bd_s h
  refine tw_put (T1 := T2) (pt_X4_189 hG) hG rfl rfl rfl (by decide) (by rw [eT2]; exact tw_set29 _ _ _) (by rw [eT2]; rfl) dX4_puts_17 ?_
  cases h
  exact vv_vret rfl dX4_puts_20
theorem m_puts {l : Launch} {G : vv_G} {o : Nat} {h0 : Nat → Option vv_E} {nz : Nat × Nat} (hG : vv_gok G) {x1 : Int32} {T : tw_T} {r : tw_T} (h : J_puts x1 T = some r) (d : Nat) : vv_Met l G MX4_puts (d + 0) [.ref o, .int x1] (tp o h0 T, nz) (.inl none, (tp o h0 r, nz)) := vv_head (by decide +kernel) rfl (Nat.le_of_ble_eq_true rfl) rfl (v_puts_0 hG h)
/-! strength -/
def J_strength_61 (s0 : Int32) : Option Int32 := some s0
theorem v_strength_61 {l : Launch} {G : vv_G} {d : Nat} {σ : vv_S} (hG : vv_gok G) {s0 : Int32} {r : Int32} (h : J_strength_61 s0 = some r) : vv_V l G MX4_strength (d + 0) 61 [] [.int s0] σ (.inl (some (.int r)), σ) := by
  unfold J_strength_61 at h
  cases h
  exact vv_iret rfl dX4_strength_61
def J_strength_39 : Option Int32 := J_strength_61 (nI 4)
theorem v_strength_39 {l : Launch} {G : vv_G} {d : Nat} {σ : vv_S} (hG : vv_gok G) {r : Int32} (h : J_strength_39 = some r) : vv_V l G MX4_strength (d + 0) 39 [] [] σ (.inl (some (.int r)), σ) := by
  unfold J_strength_39 at h
  refine vv_iconst (v := (nI 4)) dX4_strength_39 (by decide) ?_
  refine vv_goto (tgt := 61) dX4_strength_40 (by decide) ?_
  exact v_strength_61 hG h
def J_strength_55 : Option Int32 := J_strength_61 (nI 5)
theorem v_strength_55 {l : Launch} {G : vv_G} {d : Nat} {σ : vv_S} (hG : vv_gok G) {r : Int32} (h : J_strength_55 = some r) : vv_V l G MX4_strength (d + 0) 55 [] [] σ (.inl (some (.int r)), σ) := by
  unfold J_strength_55 at h
  refine vv_iconst (v := (nI 5)) dX4_strength_55 (by decide) ?_
  refine vv_goto (tgt := 61) dX4_strength_56 (by decide) ?_
  exact v_strength_61 hG h
def J_strength (x0 : Int32) : Option Int32 := if x0 = (nI 5) then (J_strength_61 (nI 1)) else (if x0 = (nI 4) then (J_strength_61 (nI 2)) else (if x0 = (nI 3) then (J_strength_61 (nI 3)) else (if x0 = (nI 6) then (J_strength_39) else (if x0 = (nI 7) then (J_strength_39) else (if x0 = (nI 8) then (J_strength_55) else (if x0 = (nI 9) then (J_strength_55) else (J_strength_61 (nI 6))))))))
theorem v_strength_0 {l : Launch} {G : vv_G} {d : Nat} {σ : vv_S} (hG : vv_gok G) {x0 : Int32} {r : Int32} (h : J_strength x0 = some r) : vv_V l G MX4_strength (d + 0) 0 [(0, .int x0)] [] σ (.inl (some (.int r)), σ) := by
  unfold J_strength at h
  refine vv_iload_n dX4_strength_0 rfl 0 rfl ?_
  refine vv_iconst (v := (nI 5)) dX4_strength_1 (by decide) ?_
  refine vv_icmp_ne (tgt := 9) dX4_strength_2 (by decide) (fun c1 => ?_) (fun c1 => ?_)
  · rw [if_neg c1] at h
    refine vv_iload_n dX4_strength_9 rfl 0 rfl ?_
    refine vv_iconst (v := (nI 4)) dX4_strength_10 (by decide) ?_
    refine vv_icmp_ne (tgt := 18) dX4_strength_11 (by decide) (fun c2 => ?_) (fun c2 => ?_)
    · rw [if_neg c2] at h
      refine vv_iload_n dX4_strength_18 rfl 0 rfl ?_
      refine vv_iconst (v := (nI 3)) dX4_strength_19 (by decide) ?_
      refine vv_icmp_ne (tgt := 27) dX4_strength_20 (by decide) (fun c3 => ?_) (fun c3 => ?_)
      · rw [if_neg c3] at h
        refine vv_iload_n dX4_strength_27 rfl 0 rfl ?_
        refine vv_bipush (v := (nI 6)) dX4_strength_28 (by decide) ?_
        refine vv_icmp_eq (tgt := 39) dX4_strength_30 (by decide) (fun c4 => ?_) (fun c4 => ?_)
        · rw [if_pos c4] at h
          refine vv_sub (lv' := []) [] rfl ?_
          exact v_strength_39 hG h
        · rw [if_neg c4] at h
          refine vv_iload_n dX4_strength_33 rfl 0 rfl ?_
          refine vv_bipush (v := (nI 7)) dX4_strength_34 (by decide) ?_
          refine vv_icmp_ne (tgt := 43) dX4_strength_36 (by decide) (fun c5 => ?_) (fun c5 => ?_)
          · rw [if_neg c5] at h
            refine vv_iload_n dX4_strength_43 rfl 0 rfl ?_
            refine vv_bipush (v := (nI 8)) dX4_strength_44 (by decide) ?_
            refine vv_icmp_eq (tgt := 55) dX4_strength_46 (by decide) (fun c6 => ?_) (fun c6 => ?_)
            · rw [if_pos c6] at h
              refine vv_sub (lv' := []) [] rfl ?_
              exact v_strength_55 hG h
            · rw [if_neg c6] at h
              refine vv_iload_n dX4_strength_49 rfl 0 rfl ?_
              refine vv_bipush (v := (nI 9)) dX4_strength_50 (by decide) ?_
              refine vv_icmp_ne (tgt := 59) dX4_strength_52 (by decide) (fun c7 => ?_) (fun c7 => ?_)
              · rw [if_neg c7] at h
                refine vv_bipush (v := (nI 6)) dX4_strength_59 (by decide) ?_
                refine vv_sub (lv' := []) [] rfl ?_
                exact v_strength_61 hG h
              · rw [if_pos c7] at h
                refine vv_sub (lv' := []) [] rfl ?_
                exact v_strength_55 hG h
          · rw [if_pos c5] at h
            refine vv_sub (lv' := []) [] rfl ?_
            exact v_strength_39 hG h
      · rw [if_pos c3] at h
        refine vv_iconst (v := (nI 3)) dX4_strength_23 (by decide) ?_
        refine vv_goto (tgt := 61) dX4_strength_24 (by decide) ?_
        refine vv_sub (lv' := []) [] rfl ?_
        exact v_strength_61 hG h
    · rw [if_pos c2] at h
      refine vv_iconst (v := (nI 2)) dX4_strength_14 (by decide) ?_
      refine vv_goto (tgt := 61) dX4_strength_15 (by decide) ?_
      refine vv_sub (lv' := []) [] rfl ?_
      exact v_strength_61 hG h
  · rw [if_pos c1] at h
    refine vv_iconst (v := (nI 1)) dX4_strength_5 (by decide) ?_
    refine vv_goto (tgt := 61) dX4_strength_6 (by decide) ?_
    refine vv_sub (lv' := []) [] rfl ?_
    exact v_strength_61 hG h
theorem m_strength {l : Launch} {G : vv_G} {σ : vv_S} (hG : vv_gok G) {x0 : Int32} {r : Int32} (h : J_strength x0 = some r) (d : Nat) : vv_Met l G MX4_strength (d + 0) [.int x0] σ (.inl (some (.int r)), σ) := vv_head (by decide +kernel) rfl (Nat.le_of_ble_eq_true rfl) rfl (v_strength_0 hG h)
/-! drops -/
def J_drops_68 (T : tw_T) : Option tw_T := some T
theorem v_drops_68 {l : Launch} {G : vv_G} {d : Nat} {o : Nat} {h0 : Nat → Option vv_E} {nz : Nat × Nat} (hG : vv_gok G) {T : tw_T} {r : tw_T} (h : J_drops_68 T = some r) : vv_V l G MX4_drops (d + 1) 68 [(0, .ref o)] [] (tp o h0 T, nz) (.inl none, (tp o h0 r, nz)) := by
  unfold J_drops_68 at h
  cases h
  exact vv_vret rfl dX4_drops_68
def B_drops_0 (k0 : Int32 → tw_T → Option tw_T) (x1 : Int32) (T : tw_T) : Option tw_T := if (T.1 30) ≤ 0 then (J_drops_68 T) else ((rdI 950 (T.2.2 18) ((T.1 30) - (nI 1))).bind fun v2 => (J_isOpen v2).bind fun r3 => if r3 = 0 then ((rdI 950 (T.2.2 18) ((T.1 30) - (nI 1))).bind fun v5 => (J_strength v5).bind fun r6 => if r6 < x1 then (J_drops_68 T) else ((some (tw_F T 30 ((T.1 30) - (nI 1)))).bind fun T8 => (rdI 950 (T8.2.2 18) (T8.1 30)).bind fun v9 => (J_puts v9 T8).bind fun r10 => k0 x1 r10)) else (J_drops_68 T))
def J_drops_0 : Nat → Int32 → tw_T → Option tw_T
  | 0, _, _ => none
  | n + 1, x1, T => B_drops_0 (J_drops_0 n) x1 T
theorem vb_drops_0 {l : Launch} {G : vv_G} {d : Nat} {o : Nat} {h0 : Nat → Option vv_E} {nz : Nat × Nat} (hG : vv_gok G) {k0 : Int32 → tw_T → Option tw_T} (hk0 : ∀ {x1 : Int32} {T : tw_T} {r : tw_T}, k0 x1 T = some r → vv_V l G MX4_drops (d + 1) 0 [(0, .ref o), (1, .int x1)] [] (tp o h0 T, nz) (.inl none, (tp o h0 r, nz))) {x1 : Int32} {T : tw_T} {r : tw_T} (h : B_drops_0 k0 x1 T = some r) : vv_V l G MX4_drops (d + 1) 0 [(0, .ref o), (1, .int x1)] [] (tp o h0 T, nz) (.inl none, (tp o h0 r, nz)) := by
  unfold B_drops_0 at h
  refine vv_aload_n dX4_drops_0 rfl 0 rfl ?_
  refine tw_get (fl_X4_192 hG) (k := 30) rfl dX4_drops_1 ?_
  refine vv_if_le (tgt := 68) dX4_drops_4 (by decide) (fun c1 => ?_) (fun c1 => ?_)
  · rw [if_pos c1] at h
    refine vv_sub (lv' := [(0, .ref o)]) [0] rfl ?_
    exact v_drops_68 hG h
  · rw [if_neg c1] at h
    refine vv_aload_n dX4_drops_7 rfl 0 rfl ?_
    refine tw_get (fl_X4_68 hG) (k := 40) rfl dX4_drops_8 ?_
    refine vv_aload_n dX4_drops_11 rfl 0 rfl ?_
    refine tw_get (fl_X4_192 hG) (k := 30) rfl dX4_drops_12 ?_
    refine vv_iconst (v := (nI 1)) dX4_drops_15 (by decide) ?_
    refine vv_isub dX4_drops_16 ?_
    obtain ⟨v2, iv2, ev2, h⟩ := rd_o h
    refine tw_ald 18 (by decide) rfl iv2 ev2 dX4_drops_17 ?_
    obtain ⟨r3, er3, h⟩ := bd_o h
    refine vv_callS ok_X4_isOpen q1874 (m_isOpen hG er3 (d + 0)) rfl (by omega) rfl rfl (Nat.le_of_ble_eq_true rfl) dX4_drops_18 ?_
    refine vv_if_ne (tgt := 68) dX4_drops_21 (by decide) (fun c4 => ?_) (fun c4 => ?_)
    · rw [if_neg c4] at h
      refine vv_sub (lv' := [(0, .ref o)]) [0] rfl ?_
      exact v_drops_68 hG h
    · rw [if_pos c4] at h
      refine vv_aload_n dX4_drops_24 rfl 0 rfl ?_
      refine tw_get (fl_X4_68 hG) (k := 40) rfl dX4_drops_25 ?_
      refine vv_aload_n dX4_drops_28 rfl 0 rfl ?_
      refine tw_get (fl_X4_192 hG) (k := 30) rfl dX4_drops_29 ?_
      refine vv_iconst (v := (nI 1)) dX4_drops_32 (by decide) ?_
      refine vv_isub dX4_drops_33 ?_
      obtain ⟨v5, iv5, ev5, h⟩ := rd_o h
      refine tw_ald 18 (by decide) rfl iv5 ev5 dX4_drops_34 ?_
      obtain ⟨r6, er6, h⟩ := bd_o h
      refine vv_callS ok_X4_strength q1877 (m_strength hG er6 (d + 0)) rfl (by omega) rfl rfl (Nat.le_of_ble_eq_true rfl) dX4_drops_35 ?_
      refine vv_iload_n dX4_drops_38 rfl 1 rfl ?_
      refine vv_icmp_lt (tgt := 68) dX4_drops_39 (by decide) (fun c7 => ?_) (fun c7 => ?_)
      · rw [if_pos c7] at h
        refine vv_sub (lv' := [(0, .ref o)]) [0] rfl ?_
        exact v_drops_68 hG h
      · rw [if_neg c7] at h
        refine vv_aload_n dX4_drops_42 rfl 0 rfl ?_
        refine vv_dup dX4_drops_43 rfl ?_
        refine tw_get (fl_X4_192 hG) (k := 30) rfl dX4_drops_44 ?_
        refine vv_iconst (v := (nI 1)) dX4_drops_47 (by decide) ?_
        refine vv_isub dX4_drops_48 ?_
        obtain ⟨T8, eT8, h⟩ := bd_s h
        refine tw_put (T1 := T8) (pt_X4_192 hG) hG rfl rfl rfl (by decide) (by rw [eT8]; exact tw_set30 _ _ _) (by rw [eT8]; rfl) dX4_drops_49 ?_
        refine vv_aload_n dX4_drops_52 rfl 0 rfl ?_
        refine vv_aload_n dX4_drops_53 rfl 0 rfl ?_
        refine tw_get (fl_X4_68 hG) (k := 40) rfl dX4_drops_54 ?_
        refine vv_aload_n dX4_drops_57 rfl 0 rfl ?_
        refine tw_get (fl_X4_192 hG) (k := 30) rfl dX4_drops_58 ?_
        obtain ⟨v9, iv9, ev9, h⟩ := rd_o h
        refine tw_ald 18 (by decide) rfl iv9 ev9 dX4_drops_61 ?_
        obtain ⟨r10, er10, h⟩ := bd_o h
        refine vv_callV ok_X4_puts q1866 (m_puts hG er10 (d + 0)) rfl (by omega) ⟨_, _, _, _, _, tp_o, by rw [hG.1]; rfl⟩ rfl rfl (Nat.le_of_ble_eq_true rfl) dX4_drops_62 ?_
        refine vv_goto (tgt := 0) dX4_drops_65 (by decide) ?_
        exact hk0 h
theorem v_drops_0 {l : Launch} {G : vv_G} {d : Nat} {o : Nat} {h0 : Nat → Option vv_E} {nz : Nat × Nat} (hG : vv_gok G) : ∀ (n : Nat) {x1 : Int32} {T : tw_T} {r : tw_T}, J_drops_0 n x1 T = some r → vv_V l G MX4_drops (d + 1) 0 [(0, .ref o), (1, .int x1)] [] (tp o h0 T, nz) (.inl none, (tp o h0 r, nz)) := by
  intro n
  induction n with
  | zero => intro _ _ _ h; cases h
  | succ n ih => intro _ _ _ h; exact vb_drops_0 hG ih h
def J_drops (x1 : Int32) (T : tw_T) : Option tw_T := J_drops_0 NN x1 T
theorem m_drops {l : Launch} {G : vv_G} {o : Nat} {h0 : Nat → Option vv_E} {nz : Nat × Nat} (hG : vv_gok G) {x1 : Int32} {T : tw_T} {r : tw_T} (h : J_drops x1 T = some r) (d : Nat) : vv_Met l G MX4_drops (d + 1) [.ref o, .int x1] (tp o h0 T, nz) (.inl none, (tp o h0 r, nz)) := vv_head (by decide +kernel) rfl (Nat.le_of_ble_eq_true rfl) rfl (vv_sub [0, 1] rfl (v_drops_0 hG NN h))
/-! closes -/
def J_closes (T : tw_T) : Option tw_T := (J_drops (nI 0) T).bind fun r1 => (some (tw_F r1 30 ((r1.1 30) - (nI 1)))).bind fun T2 => (some (tw_F T2 31 ((T2.1 31) - (nI 1)))).bind fun T3 => (J_goes T3).bind fun r4 => some r4
theorem v_closes_0 {l : Launch} {G : vv_G} {d : Nat} {o : Nat} {h0 : Nat → Option vv_E} {nz : Nat × Nat} (hG : vv_gok G) {T : tw_T} {r : tw_T} (h : J_closes T = some r) : vv_V l G MX4_closes (d + 2) 0 [(0, .ref o)] [] (tp o h0 T, nz) (.inl none, (tp o h0 r, nz)) := by
  unfold J_closes at h
  refine vv_aload_n dX4_closes_0 rfl 0 rfl ?_
  refine vv_iconst (v := (nI 0)) dX4_closes_1 (by decide) ?_
  obtain ⟨r1, er1, h⟩ := bd_o h
  refine vv_callV ok_X4_drops q1870 (m_drops hG er1 (d + 0)) rfl (by omega) ⟨_, _, _, _, _, tp_o, by rw [hG.1]; rfl⟩ rfl rfl (Nat.le_of_ble_eq_true rfl) dX4_closes_2 ?_
  refine vv_aload_n dX4_closes_5 rfl 0 rfl ?_
  refine vv_dup dX4_closes_6 rfl ?_
  refine tw_get (fl_X4_192 hG) (k := 30) rfl dX4_closes_7 ?_
  refine vv_iconst (v := (nI 1)) dX4_closes_10 (by decide) ?_
  refine vv_isub dX4_closes_11 ?_
  obtain ⟨T2, eT2, h⟩ := bd_s h
  refine tw_put (T1 := T2) (pt_X4_192 hG) hG rfl rfl rfl (by decide) (by rw [eT2]; exact tw_set30 _ _ _) (by rw [eT2]; rfl) dX4_closes_12 ?_
  refine vv_aload_n dX4_closes_15 rfl 0 rfl ?_
  refine vv_dup dX4_closes_16 rfl ?_
  refine tw_get (fl_X4_208 hG) (k := 31) rfl dX4_closes_17 ?_
  refine vv_iconst (v := (nI 1)) dX4_closes_20 (by decide) ?_
  refine vv_isub dX4_closes_21 ?_
  obtain ⟨T3, eT3, h⟩ := bd_s h
  refine tw_put (T1 := T3) (pt_X4_208 hG) hG rfl rfl rfl (by decide) (by rw [eT3]; exact tw_set31 _ _ _) (by rw [eT3]; rfl) dX4_closes_22 ?_
  refine vv_aload_n dX4_closes_25 rfl 0 rfl ?_
  obtain ⟨r4, er4, h⟩ := bd_o h
  refine vv_callV ok_X4_goes q1777 (m_goes hG er4 (d + 0)) rfl (by omega) ⟨_, _, _, _, _, tp_o, by rw [hG.1]; rfl⟩ rfl rfl (Nat.le_of_ble_eq_true rfl) dX4_closes_26 ?_
  cases h
  exact vv_vret rfl dX4_closes_29
theorem m_closes {l : Launch} {G : vv_G} {o : Nat} {h0 : Nat → Option vv_E} {nz : Nat × Nat} (hG : vv_gok G) {T : tw_T} {r : tw_T} (h : J_closes T = some r) (d : Nat) : vv_Met l G MX4_closes (d + 2) [.ref o] (tp o h0 T, nz) (.inl none, (tp o h0 r, nz)) := vv_head (by decide +kernel) rfl (Nat.le_of_ble_eq_true rfl) rfl (v_closes_0 hG h)
/-! isSign -/
def J_isSign_21 (s0 : Int32) (T : tw_T) : Option (Int32 × tw_T) := (zrI s0).bind fun v1 => some (v1, T)
theorem v_isSign_21 {l : Launch} {G : vv_G} {d : Nat} {o : Nat} {h0 : Nat → Option vv_E} {nz : Nat × Nat} (hG : vv_gok G) {s0 : Int32} {T : tw_T} {r : Int32 × tw_T} (h : J_isSign_21 s0 T = some r) : vv_V l G MX4_isSign (d + 0) 21 [(0, .ref o)] [.int s0] (tp o h0 T, nz) (.inl (some (.int r.1)), (tp o h0 r.2, nz)) := by
  unfold J_isSign_21 at h
  obtain ⟨zv1, h⟩ := zr_o h
  cases h
  exact vv_zret rfl zv1 dX4_isSign_21
def J_isSign_20 (T : tw_T) : Option (Int32 × tw_T) := J_isSign_21 (nI 0) T
theorem v_isSign_20 {l : Launch} {G : vv_G} {d : Nat} {o : Nat} {h0 : Nat → Option vv_E} {nz : Nat × Nat} (hG : vv_gok G) {T : tw_T} {r : Int32 × tw_T} (h : J_isSign_20 T = some r) : vv_V l G MX4_isSign (d + 0) 20 [(0, .ref o)] [] (tp o h0 T, nz) (.inl (some (.int r.1)), (tp o h0 r.2, nz)) := by
  unfold J_isSign_20 at h
  refine vv_iconst (v := (nI 0)) dX4_isSign_20 (by decide) ?_
  exact v_isSign_21 hG h
def J_isSign (x1 : Int32) (T : tw_T) : Option (Int32 × tw_T) := if (T.1 19) = (nI 3) then (if (T.1 23) = x1 then (J_isSign_21 (nI 1) T) else (J_isSign_20 T)) else (J_isSign_20 T)
theorem v_isSign_0 {l : Launch} {G : vv_G} {d : Nat} {o : Nat} {h0 : Nat → Option vv_E} {nz : Nat × Nat} (hG : vv_gok G) {x1 : Int32} {T : tw_T} {r : Int32 × tw_T} (h : J_isSign x1 T = some r) : vv_V l G MX4_isSign (d + 0) 0 [(0, .ref o), (1, .int x1)] [] (tp o h0 T, nz) (.inl (some (.int r.1)), (tp o h0 r.2, nz)) := by
  unfold J_isSign at h
  refine vv_aload_n dX4_isSign_0 rfl 0 rfl ?_
  refine tw_get (fl_X4_150 hG) (k := 19) rfl dX4_isSign_1 ?_
  refine vv_iconst (v := (nI 3)) dX4_isSign_4 (by decide) ?_
  refine vv_icmp_ne (tgt := 20) dX4_isSign_5 (by decide) (fun c1 => ?_) (fun c1 => ?_)
  · rw [if_neg c1] at h
    refine vv_sub (lv' := [(0, .ref o)]) [0] rfl ?_
    exact v_isSign_20 hG h
  · rw [if_pos c1] at h
    refine vv_aload_n dX4_isSign_8 rfl 0 rfl ?_
    refine tw_get (fl_X4_147 hG) (k := 23) rfl dX4_isSign_9 ?_
    refine vv_iload_n dX4_isSign_12 rfl 1 rfl ?_
    refine vv_icmp_ne (tgt := 20) dX4_isSign_13 (by decide) (fun c2 => ?_) (fun c2 => ?_)
    · rw [if_neg c2] at h
      refine vv_sub (lv' := [(0, .ref o)]) [0] rfl ?_
      exact v_isSign_20 hG h
    · rw [if_pos c2] at h
      refine vv_iconst (v := (nI 1)) dX4_isSign_16 (by decide) ?_
      refine vv_goto (tgt := 21) dX4_isSign_17 (by decide) ?_
      refine vv_sub (lv' := [(0, .ref o)]) [0] rfl ?_
      exact v_isSign_21 hG h
theorem m_isSign {l : Launch} {G : vv_G} {o : Nat} {h0 : Nat → Option vv_E} {nz : Nat × Nat} (hG : vv_gok G) {x1 : Int32} {T : tw_T} {r : Int32 × tw_T} (h : J_isSign x1 T = some r) (d : Nat) : vv_Met l G MX4_isSign (d + 0) [.ref o, .int x1] (tp o h0 T, nz) (.inl (some (.int r.1)), (tp o h0 r.2, nz)) := vv_head (by decide +kernel) rfl (Nat.le_of_ble_eq_true rfl) rfl (v_isSign_0 hG h)
/-! wrong -/
def J_wrong (x1 : Int32) (T : tw_T) : Option tw_T := if (T.1 14) = 0 then ((some (tw_F T 14 x1)).bind fun T2 => (some (tw_F T2 15 (T2.1 20))).bind fun T3 => some T3) else (some T)
theorem v_wrong_0 {l : Launch} {G : vv_G} {d : Nat} {o : Nat} {h0 : Nat → Option vv_E} {nz : Nat × Nat} (hG : vv_gok G) {x1 : Int32} {T : tw_T} {r : tw_T} (h : J_wrong x1 T = some r) : vv_V l G MX4_wrong (d + 0) 0 [(0, .ref o), (1, .int x1)] [] (tp o h0 T, nz) (.inl none, (tp o h0 r, nz)) := by
  unfold J_wrong at h
  refine vv_aload_n dX4_wrong_0 rfl 0 rfl ?_
  refine tw_get (fl_X4_173 hG) (k := 14) rfl dX4_wrong_1 ?_
  refine vv_if_eq (tgt := 8) dX4_wrong_4 (by decide) (fun c1 => ?_) (fun c1 => ?_)
  · rw [if_pos c1] at h
    refine vv_aload_n dX4_wrong_8 rfl 0 rfl ?_
    refine vv_iload_n dX4_wrong_9 rfl 1 rfl ?_
    obtain ⟨T2, eT2, h⟩ := bd_s h
    refine tw_put (T1 := T2) (pt_X4_173 hG) hG rfl rfl rfl (by decide) (by rw [eT2]; exact tw_set14 _ _ _) (by rw [eT2]; rfl) dX4_wrong_10 ?_
    refine vv_aload_n dX4_wrong_13 rfl 0 rfl ?_
    refine vv_aload_n dX4_wrong_14 rfl 0 rfl ?_
    refine tw_get (fl_X4_137 hG) (k := 20) rfl dX4_wrong_15 ?_
    obtain ⟨T3, eT3, h⟩ := bd_s h
    refine tw_put (T1 := T3) (pt_X4_38 hG) hG rfl rfl rfl (by decide) (by rw [eT3]; exact tw_set15 _ _ _) (by rw [eT3]; rfl) dX4_wrong_18 ?_
    cases h
    exact vv_vret rfl dX4_wrong_21
  · rw [if_neg c1] at h
    cases h
    exact vv_vret rfl dX4_wrong_7
theorem m_wrong {l : Launch} {G : vv_G} {o : Nat} {h0 : Nat → Option vv_E} {nz : Nat × Nat} (hG : vv_gok G) {x1 : Int32} {T : tw_T} {r : tw_T} (h : J_wrong x1 T = some r) (d : Nat) : vv_Met l G MX4_wrong (d + 0) [.ref o, .int x1] (tp o h0 T, nz) (.inl none, (tp o h0 r, nz)) := vv_head (by decide +kernel) rfl (Nat.le_of_ble_eq_true rfl) rfl (v_wrong_0 hG h)
/-! deeper -/
def J_deeper_61 (s1 : Int32) (T : tw_T) : Option tw_T := (J_wrong s1 T).bind fun r1 => some r1
theorem v_deeper_61 {l : Launch} {G : vv_G} {d : Nat} {o : Nat} {h0 : Nat → Option vv_E} {nz : Nat × Nat} (hG : vv_gok G) {s1 : Int32} {T : tw_T} {r : tw_T} (h : J_deeper_61 s1 T = some r) : vv_V l G MX4_deeper (d + 1) 61 [(0, .ref o)] [.int s1, .ref o] (tp o h0 T, nz) (.inl none, (tp o h0 r, nz)) := by
  unfold J_deeper_61 at h
  obtain ⟨r1, er1, h⟩ := bd_o h
  refine vv_callV ok_X4_wrong q1814 (m_wrong hG er1 (d + 0)) rfl (by omega) ⟨_, _, _, _, _, tp_o, by rw [hG.1]; rfl⟩ rfl rfl (Nat.le_of_ble_eq_true rfl) dX4_deeper_61 ?_
  cases h
  exact vv_vret rfl dX4_deeper_64
def J_deeper_56 (T : tw_T) : Option tw_T := J_deeper_61 (nI 2) T
theorem v_deeper_56 {l : Launch} {G : vv_G} {d : Nat} {o : Nat} {h0 : Nat → Option vv_E} {nz : Nat × Nat} (hG : vv_gok G) {T : tw_T} {r : tw_T} (h : J_deeper_56 T = some r) : vv_V l G MX4_deeper (d + 1) 56 [(0, .ref o)] [.ref o] (tp o h0 T, nz) (.inl none, (tp o h0 r, nz)) := by
  unfold J_deeper_56 at h
  refine vv_iconst (v := (nI 2)) dX4_deeper_56 (by decide) ?_
  refine vv_goto (tgt := 61) dX4_deeper_57 (by decide) ?_
  exact v_deeper_61 hG h
def J_deeper (T : tw_T) : Option tw_T := if (nI 6) ≤ (T.1 31) then (if (T.1 19) = (nI 2) then (J_deeper_56 T) else (if (T.1 19) = (nI 1) then (J_deeper_56 T) else ((J_isSign (nI 40) T).bind fun r4 => if r4.1 = 0 then (J_deeper_61 (nI 1) r4.2) else (J_deeper_56 r4.2)))) else ((some (tw_F T 31 ((T.1 31) + (nI 1)))).bind fun T6 => (stA T6 19 9 (T6.1 31) (nI 0)).bind fun T7 => some T7)
theorem v_deeper_0 {l : Launch} {G : vv_G} {d : Nat} {o : Nat} {h0 : Nat → Option vv_E} {nz : Nat × Nat} (hG : vv_gok G) {T : tw_T} {r : tw_T} (h : J_deeper T = some r) : vv_V l G MX4_deeper (d + 1) 0 [(0, .ref o)] [] (tp o h0 T, nz) (.inl none, (tp o h0 r, nz)) := by
  unfold J_deeper at h
  refine vv_aload_n dX4_deeper_0 rfl 0 rfl ?_
  refine tw_get (fl_X4_208 hG) (k := 31) rfl dX4_deeper_1 ?_
  refine vv_bipush (v := (nI 6)) dX4_deeper_4 (by decide) ?_
  refine vv_icmp_ge (tgt := 30) dX4_deeper_6 (by decide) (fun c1 => ?_) (fun c1 => ?_)
  · rw [if_pos c1] at h
    refine vv_aload_n dX4_deeper_30 rfl 0 rfl ?_
    refine vv_aload_n dX4_deeper_31 rfl 0 rfl ?_
    refine tw_get (fl_X4_150 hG) (k := 19) rfl dX4_deeper_32 ?_
    refine vv_iconst (v := (nI 2)) dX4_deeper_35 (by decide) ?_
    refine vv_icmp_eq (tgt := 56) dX4_deeper_36 (by decide) (fun c2 => ?_) (fun c2 => ?_)
    · rw [if_pos c2] at h
      exact v_deeper_56 hG h
    · rw [if_neg c2] at h
      refine vv_aload_n dX4_deeper_39 rfl 0 rfl ?_
      refine tw_get (fl_X4_150 hG) (k := 19) rfl dX4_deeper_40 ?_
      refine vv_iconst (v := (nI 1)) dX4_deeper_43 (by decide) ?_
      refine vv_icmp_eq (tgt := 56) dX4_deeper_44 (by decide) (fun c3 => ?_) (fun c3 => ?_)
      · rw [if_pos c3] at h
        exact v_deeper_56 hG h
      · rw [if_neg c3] at h
        refine vv_aload_n dX4_deeper_47 rfl 0 rfl ?_
        refine vv_bipush (v := (nI 40)) dX4_deeper_48 (by decide) ?_
        obtain ⟨r4, er4, h⟩ := bd_o h
        refine vv_callV ok_X4_isSign q1850 (m_isSign hG er4 (d + 0)) rfl (by omega) ⟨_, _, _, _, _, tp_o, by rw [hG.1]; rfl⟩ rfl rfl (Nat.le_of_ble_eq_true rfl) dX4_deeper_50 ?_
        refine vv_if_eq (tgt := 60) dX4_deeper_53 (by decide) (fun c5 => ?_) (fun c5 => ?_)
        · rw [if_pos c5] at h
          refine vv_iconst (v := (nI 1)) dX4_deeper_60 (by decide) ?_
          exact v_deeper_61 hG h
        · rw [if_neg c5] at h
          exact v_deeper_56 hG h
  · rw [if_neg c1] at h
    refine vv_aload_n dX4_deeper_9 rfl 0 rfl ?_
    refine vv_dup dX4_deeper_10 rfl ?_
    refine tw_get (fl_X4_208 hG) (k := 31) rfl dX4_deeper_11 ?_
    refine vv_iconst (v := (nI 1)) dX4_deeper_14 (by decide) ?_
    refine vv_iadd dX4_deeper_15 ?_
    obtain ⟨T6, eT6, h⟩ := bd_s h
    refine tw_put (T1 := T6) (pt_X4_208 hG) hG rfl rfl rfl (by decide) (by rw [eT6]; exact tw_set31 _ _ _) (by rw [eT6]; rfl) dX4_deeper_16 ?_
    refine vv_aload_n dX4_deeper_19 rfl 0 rfl ?_
    refine tw_get (fl_X4_71 hG) (k := 41) rfl dX4_deeper_20 ?_
    refine vv_aload_n dX4_deeper_23 rfl 0 rfl ?_
    refine tw_get (fl_X4_208 hG) (k := 31) rfl dX4_deeper_24 ?_
    refine vv_iconst (v := (nI 0)) dX4_deeper_27 (by decide) ?_
    obtain ⟨T7, iT7, eT7, h⟩ := st_o h
    refine tw_zast 19 (by decide) rfl iT7 (by decide) eT7 dX4_deeper_28 ?_
    cases h
    exact vv_vret rfl dX4_deeper_29
theorem m_deeper {l : Launch} {G : vv_G} {o : Nat} {h0 : Nat → Option vv_E} {nz : Nat × Nat} (hG : vv_gok G) {T : tw_T} {r : tw_T} (h : J_deeper T = some r) (d : Nat) : vv_Met l G MX4_deeper (d + 1) [.ref o] (tp o h0 T, nz) (.inl none, (tp o h0 r, nz)) := vv_head (by decide +kernel) rfl (Nat.le_of_ble_eq_true rfl) rfl (v_deeper_0 hG h)
/-! isOpened -/
def J_isOpened_38 (s0 : Int32) (T : tw_T) : Option (Int32 × tw_T) := (zrI s0).bind fun v1 => some (v1, T)
theorem v_isOpened_38 {l : Launch} {G : vv_G} {d : Nat} {o : Nat} {h0 : Nat → Option vv_E} {nz : Nat × Nat} (hG : vv_gok G) {s0 : Int32} {T : tw_T} {r : Int32 × tw_T} (h : J_isOpened_38 s0 T = some r) : vv_V l G MX4_isOpened (d + 1) 38 [(0, .ref o)] [.int s0] (tp o h0 T, nz) (.inl (some (.int r.1)), (tp o h0 r.2, nz)) := by
  unfold J_isOpened_38 at h
  obtain ⟨zv1, h⟩ := zr_o h
  cases h
  exact vv_zret rfl zv1 dX4_isOpened_38
def J_isOpened_29 (x1 : Int32) (T : tw_T) : Option (Int32 × tw_T) := if x1 < 0 then (J_isOpened_38 (nI 0) T) else (J_isOpened_38 (nI 1) T)
theorem v_isOpened_29 {l : Launch} {G : vv_G} {d : Nat} {o : Nat} {h0 : Nat → Option vv_E} {nz : Nat × Nat} (hG : vv_gok G) {x1 : Int32} {T : tw_T} {r : Int32 × tw_T} (h : J_isOpened_29 x1 T = some r) : vv_V l G MX4_isOpened (d + 1) 29 [(0, .ref o), (1, .int x1)] [] (tp o h0 T, nz) (.inl (some (.int r.1)), (tp o h0 r.2, nz)) := by
  unfold J_isOpened_29 at h
  refine vv_iload_n dX4_isOpened_29 rfl 1 rfl ?_
  refine vv_if_lt (tgt := 37) dX4_isOpened_30 (by decide) (fun c1 => ?_) (fun c1 => ?_)
  · rw [if_pos c1] at h
    refine vv_iconst (v := (nI 0)) dX4_isOpened_37 (by decide) ?_
    refine vv_sub (lv' := [(0, .ref o)]) [0] rfl ?_
    exact v_isOpened_38 hG h
  · rw [if_neg c1] at h
    refine vv_iconst (v := (nI 1)) dX4_isOpened_33 (by decide) ?_
    refine vv_goto (tgt := 38) dX4_isOpened_34 (by decide) ?_
    refine vv_sub (lv' := [(0, .ref o)]) [0] rfl ?_
    exact v_isOpened_38 hG h
def B_isOpened_7 (k7 : Int32 → tw_T → Option (Int32 × tw_T)) (x1 : Int32) (T : tw_T) : Option (Int32 × tw_T) := if x1 < 0 then (J_isOpened_29 x1 T) else ((rdI 950 (T.2.2 18) x1).bind fun v2 => (J_isOpen v2).bind fun r3 => if r3 = 0 then (k7 (x1 + (-1)) T) else (J_isOpened_29 x1 T))
def J_isOpened_7 : Nat → Int32 → tw_T → Option (Int32 × tw_T)
  | 0, _, _ => none
  | n + 1, x1, T => B_isOpened_7 (J_isOpened_7 n) x1 T
theorem vb_isOpened_7 {l : Launch} {G : vv_G} {d : Nat} {o : Nat} {h0 : Nat → Option vv_E} {nz : Nat × Nat} (hG : vv_gok G) {k7 : Int32 → tw_T → Option (Int32 × tw_T)} (hk7 : ∀ {x1 : Int32} {T : tw_T} {r : Int32 × tw_T}, k7 x1 T = some r → vv_V l G MX4_isOpened (d + 1) 7 [(0, .ref o), (1, .int x1)] [] (tp o h0 T, nz) (.inl (some (.int r.1)), (tp o h0 r.2, nz))) {x1 : Int32} {T : tw_T} {r : Int32 × tw_T} (h : B_isOpened_7 k7 x1 T = some r) : vv_V l G MX4_isOpened (d + 1) 7 [(0, .ref o), (1, .int x1)] [] (tp o h0 T, nz) (.inl (some (.int r.1)), (tp o h0 r.2, nz)) := by
  unfold B_isOpened_7 at h
  refine vv_iload_n dX4_isOpened_7 rfl 1 rfl ?_
  refine vv_if_lt (tgt := 29) dX4_isOpened_8 (by decide) (fun c1 => ?_) (fun c1 => ?_)
  · rw [if_pos c1] at h
    exact v_isOpened_29 hG h
  · rw [if_neg c1] at h
    refine vv_aload_n dX4_isOpened_11 rfl 0 rfl ?_
    refine tw_get (fl_X4_68 hG) (k := 40) rfl dX4_isOpened_12 ?_
    refine vv_iload_n dX4_isOpened_15 rfl 1 rfl ?_
    obtain ⟨v2, iv2, ev2, h⟩ := rd_o h
    refine tw_ald 18 (by decide) rfl iv2 ev2 dX4_isOpened_16 ?_
    obtain ⟨r3, er3, h⟩ := bd_o h
    refine vv_callS ok_X4_isOpen q1874 (m_isOpen hG er3 (d + 0)) rfl (by omega) rfl rfl (Nat.le_of_ble_eq_true rfl) dX4_isOpened_17 ?_
    refine vv_if_ne (tgt := 29) dX4_isOpened_20 (by decide) (fun c4 => ?_) (fun c4 => ?_)
    · rw [if_neg c4] at h
      exact v_isOpened_29 hG h
    · rw [if_pos c4] at h
      refine vv_iinc (v := (x1 + (-1))) (lv' := [(0, .ref o), (1, .int (x1 + (-1)))]) dX4_isOpened_23 1 rfl rfl (by decide) [1, 0] rfl ?_
      refine vv_goto (tgt := 7) dX4_isOpened_26 (by decide) ?_
      exact hk7 h
theorem v_isOpened_7 {l : Launch} {G : vv_G} {d : Nat} {o : Nat} {h0 : Nat → Option vv_E} {nz : Nat × Nat} (hG : vv_gok G) : ∀ (n : Nat) {x1 : Int32} {T : tw_T} {r : Int32 × tw_T}, J_isOpened_7 n x1 T = some r → vv_V l G MX4_isOpened (d + 1) 7 [(0, .ref o), (1, .int x1)] [] (tp o h0 T, nz) (.inl (some (.int r.1)), (tp o h0 r.2, nz)) := by
  intro n
  induction n with
  | zero => intro _ _ _ h; cases h
  | succ n ih => intro _ _ _ h; exact vb_isOpened_7 hG ih h
def J_isOpened (T : tw_T) : Option (Int32 × tw_T) := J_isOpened_7 NN ((T.1 30) - (nI 1)) T
theorem v_isOpened_0 {l : Launch} {G : vv_G} {d : Nat} {o : Nat} {h0 : Nat → Option vv_E} {nz : Nat × Nat} (hG : vv_gok G) {T : tw_T} {r : Int32 × tw_T} (h : J_isOpened T = some r) : vv_V l G MX4_isOpened (d + 1) 0 [(0, .ref o)] [] (tp o h0 T, nz) (.inl (some (.int r.1)), (tp o h0 r.2, nz)) := by
  unfold J_isOpened at h
  refine vv_aload_n dX4_isOpened_0 rfl 0 rfl ?_
  refine tw_get (fl_X4_192 hG) (k := 30) rfl dX4_isOpened_1 ?_
  refine vv_iconst (v := (nI 1)) dX4_isOpened_4 (by decide) ?_
  refine vv_isub dX4_isOpened_5 ?_
  refine vv_istore_n (lv' := [(0, .ref o), (1, .int ((T.1 30) - (nI 1)))]) dX4_isOpened_6 rfl (by decide) [1, 0] rfl ?_
  exact v_isOpened_7 hG NN h
theorem m_isOpened {l : Launch} {G : vv_G} {o : Nat} {h0 : Nat → Option vv_E} {nz : Nat × Nat} (hG : vv_gok G) {T : tw_T} {r : Int32 × tw_T} (h : J_isOpened T = some r) (d : Nat) : vv_Met l G MX4_isOpened (d + 1) [.ref o] (tp o h0 T, nz) (.inl (some (.int r.1)), (tp o h0 r.2, nz)) := vv_head (by decide +kernel) rfl (Nat.le_of_ble_eq_true rfl) rfl (v_isOpened_0 hG h)
/-! spelled -/
def J_spelled_102 (x7 : Int64) : Option Int64 := some x7
theorem v_spelled_102 {l : Launch} {G : vv_G} {d : Nat} {σ : vv_S} (hG : vv_gok G) {x7 : Int64} {r : Int64} (h : J_spelled_102 x7 = some r) : vv_V l G MX4_spelled (d + 0) 102 [(7, .long x7)] [] σ (.inl (some (.long r)), σ) := by
  unfold J_spelled_102 at h
  refine vv_lload dX4_spelled_102 0 rfl ?_
  cases h
  exact vv_lret rfl dX4_spelled_104
def J_spelled_84 (x6 : Int32) (x7 : Int64) : Option Int64 := if x6 = 0 then (J_spelled_102 x7) else (J_spelled_102 ((x7 <<< (Int32.toInt64 (nI 5) &&& 63)) ||| (Int32.toInt64 (x6 - (nI 96)))))
theorem v_spelled_84 {l : Launch} {G : vv_G} {d : Nat} {σ : vv_S} (hG : vv_gok G) {x6 : Int32} {x7 : Int64} {r : Int64} (h : J_spelled_84 x6 x7 = some r) : vv_V l G MX4_spelled (d + 0) 84 [(6, .int x6), (7, .long x7)] [] σ (.inl (some (.long r)), σ) := by
  unfold J_spelled_84 at h
  refine vv_iload dX4_spelled_84 0 rfl ?_
  refine vv_if_eq (tgt := 102) dX4_spelled_86 (by decide) (fun c1 => ?_) (fun c1 => ?_)
  · rw [if_pos c1] at h
    refine vv_sub (lv' := [(7, .long x7)]) [1] rfl ?_
    exact v_spelled_102 hG h
  · rw [if_neg c1] at h
    refine vv_lload dX4_spelled_89 1 rfl ?_
    refine vv_iconst (v := (nI 5)) dX4_spelled_91 (by decide) ?_
    refine vv_lshl dX4_spelled_92 ?_
    refine vv_iload dX4_spelled_93 0 rfl ?_
    refine vv_bipush (v := (nI 96)) dX4_spelled_95 (by decide) ?_
    refine vv_isub dX4_spelled_97 ?_
    refine vv_i2l dX4_spelled_98 ?_
    refine vv_lor dX4_spelled_99 ?_
    refine vv_lstore (lv' := [(6, .int x6), (7, .long ((x7 <<< (Int32.toInt64 (nI 5) &&& 63)) ||| (Int32.toInt64 (x6 - (nI 96)))))]) dX4_spelled_100 (by decide) [1, 0] rfl ?_
    refine vv_sub (lv' := [(7, .long ((x7 <<< (Int32.toInt64 (nI 5) &&& 63)) ||| (Int32.toInt64 (x6 - (nI 96)))))]) [1] rfl ?_
    exact v_spelled_102 hG h
def J_spelled_66 (x5 : Int32) (x6 : Int32) (x7 : Int64) : Option Int64 := if x5 = 0 then (J_spelled_84 x6 x7) else (J_spelled_84 x6 ((x7 <<< (Int32.toInt64 (nI 5) &&& 63)) ||| (Int32.toInt64 (x5 - (nI 96)))))
theorem v_spelled_66 {l : Launch} {G : vv_G} {d : Nat} {σ : vv_S} (hG : vv_gok G) {x5 : Int32} {x6 : Int32} {x7 : Int64} {r : Int64} (h : J_spelled_66 x5 x6 x7 = some r) : vv_V l G MX4_spelled (d + 0) 66 [(5, .int x5), (6, .int x6), (7, .long x7)] [] σ (.inl (some (.long r)), σ) := by
  unfold J_spelled_66 at h
  refine vv_iload dX4_spelled_66 0 rfl ?_
  refine vv_if_eq (tgt := 84) dX4_spelled_68 (by decide) (fun c1 => ?_) (fun c1 => ?_)
  · rw [if_pos c1] at h
    refine vv_sub (lv' := [(6, .int x6), (7, .long x7)]) [1, 2] rfl ?_
    exact v_spelled_84 hG h
  · rw [if_neg c1] at h
    refine vv_lload dX4_spelled_71 2 rfl ?_
    refine vv_iconst (v := (nI 5)) dX4_spelled_73 (by decide) ?_
    refine vv_lshl dX4_spelled_74 ?_
    refine vv_iload dX4_spelled_75 0 rfl ?_
    refine vv_bipush (v := (nI 96)) dX4_spelled_77 (by decide) ?_
    refine vv_isub dX4_spelled_79 ?_
    refine vv_i2l dX4_spelled_80 ?_
    refine vv_lor dX4_spelled_81 ?_
    refine vv_lstore (lv' := [(5, .int x5), (6, .int x6), (7, .long ((x7 <<< (Int32.toInt64 (nI 5) &&& 63)) ||| (Int32.toInt64 (x5 - (nI 96)))))]) dX4_spelled_82 (by decide) [1, 2, 0] rfl ?_
    refine vv_sub (lv' := [(6, .int x6), (7, .long ((x7 <<< (Int32.toInt64 (nI 5) &&& 63)) ||| (Int32.toInt64 (x5 - (nI 96)))))]) [1, 2] rfl ?_
    exact v_spelled_84 hG h
def J_spelled_48 (x4 : Int32) (x5 : Int32) (x6 : Int32) (x7 : Int64) : Option Int64 := if x4 = 0 then (J_spelled_66 x5 x6 x7) else (J_spelled_66 x5 x6 ((x7 <<< (Int32.toInt64 (nI 5) &&& 63)) ||| (Int32.toInt64 (x4 - (nI 96)))))
theorem v_spelled_48 {l : Launch} {G : vv_G} {d : Nat} {σ : vv_S} (hG : vv_gok G) {x4 : Int32} {x5 : Int32} {x6 : Int32} {x7 : Int64} {r : Int64} (h : J_spelled_48 x4 x5 x6 x7 = some r) : vv_V l G MX4_spelled (d + 0) 48 [(4, .int x4), (5, .int x5), (6, .int x6), (7, .long x7)] [] σ (.inl (some (.long r)), σ) := by
  unfold J_spelled_48 at h
  refine vv_iload dX4_spelled_48 0 rfl ?_
  refine vv_if_eq (tgt := 66) dX4_spelled_50 (by decide) (fun c1 => ?_) (fun c1 => ?_)
  · rw [if_pos c1] at h
    refine vv_sub (lv' := [(5, .int x5), (6, .int x6), (7, .long x7)]) [1, 2, 3] rfl ?_
    exact v_spelled_66 hG h
  · rw [if_neg c1] at h
    refine vv_lload dX4_spelled_53 3 rfl ?_
    refine vv_iconst (v := (nI 5)) dX4_spelled_55 (by decide) ?_
    refine vv_lshl dX4_spelled_56 ?_
    refine vv_iload dX4_spelled_57 0 rfl ?_
    refine vv_bipush (v := (nI 96)) dX4_spelled_59 (by decide) ?_
    refine vv_isub dX4_spelled_61 ?_
    refine vv_i2l dX4_spelled_62 ?_
    refine vv_lor dX4_spelled_63 ?_
    refine vv_lstore (lv' := [(4, .int x4), (5, .int x5), (6, .int x6), (7, .long ((x7 <<< (Int32.toInt64 (nI 5) &&& 63)) ||| (Int32.toInt64 (x4 - (nI 96)))))]) dX4_spelled_64 (by decide) [1, 2, 3, 0] rfl ?_
    refine vv_sub (lv' := [(5, .int x5), (6, .int x6), (7, .long ((x7 <<< (Int32.toInt64 (nI 5) &&& 63)) ||| (Int32.toInt64 (x4 - (nI 96)))))]) [1, 2, 3] rfl ?_
    exact v_spelled_66 hG h
def J_spelled_32 (x3 : Int32) (x4 : Int32) (x5 : Int32) (x6 : Int32) (x7 : Int64) : Option Int64 := if x3 = 0 then (J_spelled_48 x4 x5 x6 x7) else (J_spelled_48 x4 x5 x6 ((x7 <<< (Int32.toInt64 (nI 5) &&& 63)) ||| (Int32.toInt64 (x3 - (nI 96)))))
theorem v_spelled_32 {l : Launch} {G : vv_G} {d : Nat} {σ : vv_S} (hG : vv_gok G) {x3 : Int32} {x4 : Int32} {x5 : Int32} {x6 : Int32} {x7 : Int64} {r : Int64} (h : J_spelled_32 x3 x4 x5 x6 x7 = some r) : vv_V l G MX4_spelled (d + 0) 32 [(3, .int x3), (4, .int x4), (5, .int x5), (6, .int x6), (7, .long x7)] [] σ (.inl (some (.long r)), σ) := by
  unfold J_spelled_32 at h
  refine vv_iload_n dX4_spelled_32 rfl 0 rfl ?_
  refine vv_if_eq (tgt := 48) dX4_spelled_33 (by decide) (fun c1 => ?_) (fun c1 => ?_)
  · rw [if_pos c1] at h
    refine vv_sub (lv' := [(4, .int x4), (5, .int x5), (6, .int x6), (7, .long x7)]) [1, 2, 3, 4] rfl ?_
    exact v_spelled_48 hG h
  · rw [if_neg c1] at h
    refine vv_lload dX4_spelled_36 4 rfl ?_
    refine vv_iconst (v := (nI 5)) dX4_spelled_38 (by decide) ?_
    refine vv_lshl dX4_spelled_39 ?_
    refine vv_iload_n dX4_spelled_40 rfl 0 rfl ?_
    refine vv_bipush (v := (nI 96)) dX4_spelled_41 (by decide) ?_
    refine vv_isub dX4_spelled_43 ?_
    refine vv_i2l dX4_spelled_44 ?_
    refine vv_lor dX4_spelled_45 ?_
    refine vv_lstore (lv' := [(3, .int x3), (4, .int x4), (5, .int x5), (6, .int x6), (7, .long ((x7 <<< (Int32.toInt64 (nI 5) &&& 63)) ||| (Int32.toInt64 (x3 - (nI 96)))))]) dX4_spelled_46 (by decide) [1, 2, 3, 4, 0] rfl ?_
    refine vv_sub (lv' := [(4, .int x4), (5, .int x5), (6, .int x6), (7, .long ((x7 <<< (Int32.toInt64 (nI 5) &&& 63)) ||| (Int32.toInt64 (x3 - (nI 96)))))]) [1, 2, 3, 4] rfl ?_
    exact v_spelled_48 hG h
def J_spelled (x0 : Int32) (x1 : Int32) (x2 : Int32) (x3 : Int32) (x4 : Int32) (x5 : Int32) (x6 : Int32) : Option Int64 := if x2 = 0 then (J_spelled_32 x3 x4 x5 x6 ((((Int32.toInt64 x0) - (96 : Int64)) <<< (Int32.toInt64 (nI 5) &&& 63)) ||| (Int32.toInt64 (x1 - (nI 96))))) else (J_spelled_32 x3 x4 x5 x6 ((((((Int32.toInt64 x0) - (96 : Int64)) <<< (Int32.toInt64 (nI 5) &&& 63)) ||| (Int32.toInt64 (x1 - (nI 96)))) <<< (Int32.toInt64 (nI 5) &&& 63)) ||| (Int32.toInt64 (x2 - (nI 96)))))
theorem v_spelled_0 {l : Launch} {G : vv_G} {d : Nat} {σ : vv_S} (hG : vv_gok G) {x0 : Int32} {x1 : Int32} {x2 : Int32} {x3 : Int32} {x4 : Int32} {x5 : Int32} {x6 : Int32} {r : Int64} (h : J_spelled x0 x1 x2 x3 x4 x5 x6 = some r) : vv_V l G MX4_spelled (d + 0) 0 [(0, .int x0), (1, .int x1), (2, .int x2), (3, .int x3), (4, .int x4), (5, .int x5), (6, .int x6)] [] σ (.inl (some (.long r)), σ) := by
  unfold J_spelled at h
  refine vv_iload_n dX4_spelled_0 rfl 0 rfl ?_
  refine vv_i2l dX4_spelled_1 ?_
  refine vv_ldc2 (v := 96) dX4_spelled_2 q1809 ?_
  refine vv_lsub dX4_spelled_5 ?_
  refine vv_iconst (v := (nI 5)) dX4_spelled_6 (by decide) ?_
  refine vv_lshl dX4_spelled_7 ?_
  refine vv_iload_n dX4_spelled_8 rfl 1 rfl ?_
  refine vv_bipush (v := (nI 96)) dX4_spelled_9 (by decide) ?_
  refine vv_isub dX4_spelled_11 ?_
  refine vv_i2l dX4_spelled_12 ?_
  refine vv_lor dX4_spelled_13 ?_
  refine vv_lstore (lv' := [(0, .int x0), (1, .int x1), (2, .int x2), (3, .int x3), (4, .int x4), (5, .int x5), (6, .int x6), (7, .long ((((Int32.toInt64 x0) - (96 : Int64)) <<< (Int32.toInt64 (nI 5) &&& 63)) ||| (Int32.toInt64 (x1 - (nI 96)))))]) dX4_spelled_14 (by decide) [1, 2, 3, 4, 5, 6, 7, 0] rfl ?_
  refine vv_iload_n dX4_spelled_16 rfl 2 rfl ?_
  refine vv_if_eq (tgt := 32) dX4_spelled_17 (by decide) (fun c1 => ?_) (fun c1 => ?_)
  · rw [if_pos c1] at h
    refine vv_sub (lv' := [(3, .int x3), (4, .int x4), (5, .int x5), (6, .int x6), (7, .long ((((Int32.toInt64 x0) - (96 : Int64)) <<< (Int32.toInt64 (nI 5) &&& 63)) ||| (Int32.toInt64 (x1 - (nI 96)))))]) [3, 4, 5, 6, 7] rfl ?_
    exact v_spelled_32 hG h
  · rw [if_neg c1] at h
    refine vv_lload dX4_spelled_20 7 rfl ?_
    refine vv_iconst (v := (nI 5)) dX4_spelled_22 (by decide) ?_
    refine vv_lshl dX4_spelled_23 ?_
    refine vv_iload_n dX4_spelled_24 rfl 2 rfl ?_
    refine vv_bipush (v := (nI 96)) dX4_spelled_25 (by decide) ?_
    refine vv_isub dX4_spelled_27 ?_
    refine vv_i2l dX4_spelled_28 ?_
    refine vv_lor dX4_spelled_29 ?_
    refine vv_lstore (lv' := [(0, .int x0), (1, .int x1), (2, .int x2), (3, .int x3), (4, .int x4), (5, .int x5), (6, .int x6), (7, .long ((((((Int32.toInt64 x0) - (96 : Int64)) <<< (Int32.toInt64 (nI 5) &&& 63)) ||| (Int32.toInt64 (x1 - (nI 96)))) <<< (Int32.toInt64 (nI 5) &&& 63)) ||| (Int32.toInt64 (x2 - (nI 96)))))]) dX4_spelled_30 (by decide) [1, 2, 3, 4, 5, 6, 7, 0] rfl ?_
    refine vv_sub (lv' := [(3, .int x3), (4, .int x4), (5, .int x5), (6, .int x6), (7, .long ((((((Int32.toInt64 x0) - (96 : Int64)) <<< (Int32.toInt64 (nI 5) &&& 63)) ||| (Int32.toInt64 (x1 - (nI 96)))) <<< (Int32.toInt64 (nI 5) &&& 63)) ||| (Int32.toInt64 (x2 - (nI 96)))))]) [3, 4, 5, 6, 7] rfl ?_
    exact v_spelled_32 hG h
theorem m_spelled {l : Launch} {G : vv_G} {σ : vv_S} (hG : vv_gok G) {x0 : Int32} {x1 : Int32} {x2 : Int32} {x3 : Int32} {x4 : Int32} {x5 : Int32} {x6 : Int32} {r : Int64} (h : J_spelled x0 x1 x2 x3 x4 x5 x6 = some r) (d : Nat) : vv_Met l G MX4_spelled (d + 0) [.int x0, .int x1, .int x2, .int x3, .int x4, .int x5, .int x6] σ (.inl (some (.long r)), σ) := vv_head (by decide +kernel) rfl (Nat.le_of_ble_eq_true rfl) rfl (v_spelled_0 hG h)
/-! letters -/
def J_letters (x0 : Int32) : Option Int64 := if x0 = (nI 0) then ((J_spelled (nI 108) (nI 117) (nI 99) (nI 107) (nI 0) (nI 0) (nI 0)).bind fun r2 => some r2) else if x0 = (nI 1) then ((J_spelled (nI 98) (nI 97) (nI 100) (nI 0) (nI 0) (nI 0) (nI 0)).bind fun r4 => some r4) else if x0 = (nI 2) then ((J_spelled (nI 115) (nI 116) (nI 97) (nI 107) (nI 101) (nI 0) (nI 0)).bind fun r6 => some r6) else if x0 = (nI 3) then ((J_spelled (nI 109) (nI 97) (nI 107) (nI 101) (nI 115) (nI 0) (nI 0)).bind fun r8 => some r8) else if x0 = (nI 4) then ((J_spelled (nI 100) (nI 97) (nI 121) (nI 0) (nI 0) (nI 0) (nI 0)).bind fun r10 => some r10) else if x0 = (nI 5) then ((J_spelled (nI 99) (nI 114) (nI 97) (nI 116) (nI 101) (nI 115) (nI 0)).bind fun r12 => some r12) else if x0 = (nI 6) then ((J_spelled (nI 116) (nI 111) (nI 119) (nI 110) (nI 0) (nI 0) (nI 0)).bind fun r14 => some r14) else if x0 = (nI 7) then ((J_spelled (nI 119) (nI 97) (nI 121) (nI 0) (nI 0) (nI 0) (nI 0)).bind fun r16 => some r16) else if x0 = (nI 8) then ((J_spelled (nI 99) (nI 114) (nI 97) (nI 116) (nI 101) (nI 0) (nI 0)).bind fun r18 => some r18) else if x0 = (nI 9) then ((J_spelled (nI 98) (nI 97) (nI 108) (nI 108) (nI 97) (nI 115) (nI 116)).bind fun r20 => some r20) else if x0 = (nI 10) then ((J_spelled (nI 99) (nI 97) (nI 116) (nI 0) (nI 0) (nI 0) (nI 0)).bind fun r22 => some r22) else if x0 = (nI 11) then ((J_spelled (nI 111) (nI 100) (nI 100) (nI 115) (nI 0) (nI 0) (nI 0)).bind fun r24 => some r24) else if x0 = (nI 12) then ((J_spelled (nI 97) (nI 110) (nI 100) (nI 0) (nI 0) (nI 0) (nI 0)).bind fun r26 => some r26) else if x0 = (nI 13) then ((J_spelled (nI 111) (nI 114) (nI 0) (nI 0) (nI 0) (nI 0) (nI 0)).bind fun r28 => some r28) else ((J_spelled (nI 110) (nI 111) (nI 116) (nI 0) (nI 0) (nI 0) (nI 0)).bind fun r29 => some r29)
theorem v_letters_0 {l : Launch} {G : vv_G} {d : Nat} {σ : vv_S} (hG : vv_gok G) {x0 : Int32} {r : Int64} (h : J_letters x0 = some r) : vv_V l G MX4_letters (d + 1) 0 [(0, .int x0)] [] σ (.inl (some (.long r)), σ) := by
  unfold J_letters at h
  refine vv_iload_n dX4_letters_0 rfl 0 rfl ?_
  by_cases c1 : x0 = (nI 0)
  · rw [if_pos c1] at h
    refine vv_tableIn (tgt := 72) dX4_letters_1 (by rw [c1]; decide) (by rw [c1]; decide) (by rw [c1]; rfl) (by decide) ?_
    refine vv_bipush (v := (nI 108)) dX4_letters_72 (by decide) ?_
    refine vv_bipush (v := (nI 117)) dX4_letters_74 (by decide) ?_
    refine vv_bipush (v := (nI 99)) dX4_letters_76 (by decide) ?_
    refine vv_bipush (v := (nI 107)) dX4_letters_78 (by decide) ?_
    refine vv_iconst (v := (nI 0)) dX4_letters_80 (by decide) ?_
    refine vv_iconst (v := (nI 0)) dX4_letters_81 (by decide) ?_
    refine vv_iconst (v := (nI 0)) dX4_letters_82 (by decide) ?_
    obtain ⟨r2, er2, h⟩ := bd_o h
    refine vv_callS ok_X4_spelled q1806 (m_spelled hG er2 (d + 0)) rfl (by omega) rfl rfl (Nat.le_of_ble_eq_true rfl) dX4_letters_83 ?_
    cases h
    exact vv_lret rfl dX4_letters_86
  rw [if_neg c1] at h
  by_cases c3 : x0 = (nI 1)
  · rw [if_pos c3] at h
    refine vv_tableIn (tgt := 87) dX4_letters_1 (by rw [c3]; decide) (by rw [c3]; decide) (by rw [c3]; rfl) (by decide) ?_
    refine vv_bipush (v := (nI 98)) dX4_letters_87 (by decide) ?_
    refine vv_bipush (v := (nI 97)) dX4_letters_89 (by decide) ?_
    refine vv_bipush (v := (nI 100)) dX4_letters_91 (by decide) ?_
    refine vv_iconst (v := (nI 0)) dX4_letters_93 (by decide) ?_
    refine vv_iconst (v := (nI 0)) dX4_letters_94 (by decide) ?_
    refine vv_iconst (v := (nI 0)) dX4_letters_95 (by decide) ?_
    refine vv_iconst (v := (nI 0)) dX4_letters_96 (by decide) ?_
    obtain ⟨r4, er4, h⟩ := bd_o h
    refine vv_callS ok_X4_spelled q1806 (m_spelled hG er4 (d + 0)) rfl (by omega) rfl rfl (Nat.le_of_ble_eq_true rfl) dX4_letters_97 ?_
    cases h
    exact vv_lret rfl dX4_letters_100
  rw [if_neg c3] at h
  by_cases c5 : x0 = (nI 2)
  · rw [if_pos c5] at h
    refine vv_tableIn (tgt := 101) dX4_letters_1 (by rw [c5]; decide) (by rw [c5]; decide) (by rw [c5]; rfl) (by decide) ?_
    refine vv_bipush (v := (nI 115)) dX4_letters_101 (by decide) ?_
    refine vv_bipush (v := (nI 116)) dX4_letters_103 (by decide) ?_
    refine vv_bipush (v := (nI 97)) dX4_letters_105 (by decide) ?_
    refine vv_bipush (v := (nI 107)) dX4_letters_107 (by decide) ?_
    refine vv_bipush (v := (nI 101)) dX4_letters_109 (by decide) ?_
    refine vv_iconst (v := (nI 0)) dX4_letters_111 (by decide) ?_
    refine vv_iconst (v := (nI 0)) dX4_letters_112 (by decide) ?_
    obtain ⟨r6, er6, h⟩ := bd_o h
    refine vv_callS ok_X4_spelled q1806 (m_spelled hG er6 (d + 0)) rfl (by omega) rfl rfl (Nat.le_of_ble_eq_true rfl) dX4_letters_113 ?_
    cases h
    exact vv_lret rfl dX4_letters_116
  rw [if_neg c5] at h
  by_cases c7 : x0 = (nI 3)
  · rw [if_pos c7] at h
    refine vv_tableIn (tgt := 117) dX4_letters_1 (by rw [c7]; decide) (by rw [c7]; decide) (by rw [c7]; rfl) (by decide) ?_
    refine vv_bipush (v := (nI 109)) dX4_letters_117 (by decide) ?_
    refine vv_bipush (v := (nI 97)) dX4_letters_119 (by decide) ?_
    refine vv_bipush (v := (nI 107)) dX4_letters_121 (by decide) ?_
    refine vv_bipush (v := (nI 101)) dX4_letters_123 (by decide) ?_
    refine vv_bipush (v := (nI 115)) dX4_letters_125 (by decide) ?_
    refine vv_iconst (v := (nI 0)) dX4_letters_127 (by decide) ?_
    refine vv_iconst (v := (nI 0)) dX4_letters_128 (by decide) ?_
    obtain ⟨r8, er8, h⟩ := bd_o h
    refine vv_callS ok_X4_spelled q1806 (m_spelled hG er8 (d + 0)) rfl (by omega) rfl rfl (Nat.le_of_ble_eq_true rfl) dX4_letters_129 ?_
    cases h
    exact vv_lret rfl dX4_letters_132
  rw [if_neg c7] at h
  by_cases c9 : x0 = (nI 4)
  · rw [if_pos c9] at h
    refine vv_tableIn (tgt := 133) dX4_letters_1 (by rw [c9]; decide) (by rw [c9]; decide) (by rw [c9]; rfl) (by decide) ?_
    refine vv_bipush (v := (nI 100)) dX4_letters_133 (by decide) ?_
    refine vv_bipush (v := (nI 97)) dX4_letters_135 (by decide) ?_
    refine vv_bipush (v := (nI 121)) dX4_letters_137 (by decide) ?_
    refine vv_iconst (v := (nI 0)) dX4_letters_139 (by decide) ?_
    refine vv_iconst (v := (nI 0)) dX4_letters_140 (by decide) ?_
    refine vv_iconst (v := (nI 0)) dX4_letters_141 (by decide) ?_
    refine vv_iconst (v := (nI 0)) dX4_letters_142 (by decide) ?_
    obtain ⟨r10, er10, h⟩ := bd_o h
    refine vv_callS ok_X4_spelled q1806 (m_spelled hG er10 (d + 0)) rfl (by omega) rfl rfl (Nat.le_of_ble_eq_true rfl) dX4_letters_143 ?_
    cases h
    exact vv_lret rfl dX4_letters_146
  rw [if_neg c9] at h
  by_cases c11 : x0 = (nI 5)
  · rw [if_pos c11] at h
    refine vv_tableIn (tgt := 147) dX4_letters_1 (by rw [c11]; decide) (by rw [c11]; decide) (by rw [c11]; rfl) (by decide) ?_
    refine vv_bipush (v := (nI 99)) dX4_letters_147 (by decide) ?_
    refine vv_bipush (v := (nI 114)) dX4_letters_149 (by decide) ?_
    refine vv_bipush (v := (nI 97)) dX4_letters_151 (by decide) ?_
    refine vv_bipush (v := (nI 116)) dX4_letters_153 (by decide) ?_
    refine vv_bipush (v := (nI 101)) dX4_letters_155 (by decide) ?_
    refine vv_bipush (v := (nI 115)) dX4_letters_157 (by decide) ?_
    refine vv_iconst (v := (nI 0)) dX4_letters_159 (by decide) ?_
    obtain ⟨r12, er12, h⟩ := bd_o h
    refine vv_callS ok_X4_spelled q1806 (m_spelled hG er12 (d + 0)) rfl (by omega) rfl rfl (Nat.le_of_ble_eq_true rfl) dX4_letters_160 ?_
    cases h
    exact vv_lret rfl dX4_letters_163
  rw [if_neg c11] at h
  by_cases c13 : x0 = (nI 6)
  · rw [if_pos c13] at h
    refine vv_tableIn (tgt := 164) dX4_letters_1 (by rw [c13]; decide) (by rw [c13]; decide) (by rw [c13]; rfl) (by decide) ?_
    refine vv_bipush (v := (nI 116)) dX4_letters_164 (by decide) ?_
    refine vv_bipush (v := (nI 111)) dX4_letters_166 (by decide) ?_
    refine vv_bipush (v := (nI 119)) dX4_letters_168 (by decide) ?_
    refine vv_bipush (v := (nI 110)) dX4_letters_170 (by decide) ?_
    refine vv_iconst (v := (nI 0)) dX4_letters_172 (by decide) ?_
    refine vv_iconst (v := (nI 0)) dX4_letters_173 (by decide) ?_
    refine vv_iconst (v := (nI 0)) dX4_letters_174 (by decide) ?_
    obtain ⟨r14, er14, h⟩ := bd_o h
    refine vv_callS ok_X4_spelled q1806 (m_spelled hG er14 (d + 0)) rfl (by omega) rfl rfl (Nat.le_of_ble_eq_true rfl) dX4_letters_175 ?_
    cases h
    exact vv_lret rfl dX4_letters_178
  rw [if_neg c13] at h
  by_cases c15 : x0 = (nI 7)
  · rw [if_pos c15] at h
    refine vv_tableIn (tgt := 179) dX4_letters_1 (by rw [c15]; decide) (by rw [c15]; decide) (by rw [c15]; rfl) (by decide) ?_
    refine vv_bipush (v := (nI 119)) dX4_letters_179 (by decide) ?_
    refine vv_bipush (v := (nI 97)) dX4_letters_181 (by decide) ?_
    refine vv_bipush (v := (nI 121)) dX4_letters_183 (by decide) ?_
    refine vv_iconst (v := (nI 0)) dX4_letters_185 (by decide) ?_
    refine vv_iconst (v := (nI 0)) dX4_letters_186 (by decide) ?_
    refine vv_iconst (v := (nI 0)) dX4_letters_187 (by decide) ?_
    refine vv_iconst (v := (nI 0)) dX4_letters_188 (by decide) ?_
    obtain ⟨r16, er16, h⟩ := bd_o h
    refine vv_callS ok_X4_spelled q1806 (m_spelled hG er16 (d + 0)) rfl (by omega) rfl rfl (Nat.le_of_ble_eq_true rfl) dX4_letters_189 ?_
    cases h
    exact vv_lret rfl dX4_letters_192
  rw [if_neg c15] at h
  by_cases c17 : x0 = (nI 8)
  · rw [if_pos c17] at h
    refine vv_tableIn (tgt := 193) dX4_letters_1 (by rw [c17]; decide) (by rw [c17]; decide) (by rw [c17]; rfl) (by decide) ?_
    refine vv_bipush (v := (nI 99)) dX4_letters_193 (by decide) ?_
    refine vv_bipush (v := (nI 114)) dX4_letters_195 (by decide) ?_
    refine vv_bipush (v := (nI 97)) dX4_letters_197 (by decide) ?_
    refine vv_bipush (v := (nI 116)) dX4_letters_199 (by decide) ?_
    refine vv_bipush (v := (nI 101)) dX4_letters_201 (by decide) ?_
    refine vv_iconst (v := (nI 0)) dX4_letters_203 (by decide) ?_
    refine vv_iconst (v := (nI 0)) dX4_letters_204 (by decide) ?_
    obtain ⟨r18, er18, h⟩ := bd_o h
    refine vv_callS ok_X4_spelled q1806 (m_spelled hG er18 (d + 0)) rfl (by omega) rfl rfl (Nat.le_of_ble_eq_true rfl) dX4_letters_205 ?_
    cases h
    exact vv_lret rfl dX4_letters_208
  rw [if_neg c17] at h
  by_cases c19 : x0 = (nI 9)
  · rw [if_pos c19] at h
    refine vv_tableIn (tgt := 209) dX4_letters_1 (by rw [c19]; decide) (by rw [c19]; decide) (by rw [c19]; rfl) (by decide) ?_
    refine vv_bipush (v := (nI 98)) dX4_letters_209 (by decide) ?_
    refine vv_bipush (v := (nI 97)) dX4_letters_211 (by decide) ?_
    refine vv_bipush (v := (nI 108)) dX4_letters_213 (by decide) ?_
    refine vv_bipush (v := (nI 108)) dX4_letters_215 (by decide) ?_
    refine vv_bipush (v := (nI 97)) dX4_letters_217 (by decide) ?_
    refine vv_bipush (v := (nI 115)) dX4_letters_219 (by decide) ?_
    refine vv_bipush (v := (nI 116)) dX4_letters_221 (by decide) ?_
    obtain ⟨r20, er20, h⟩ := bd_o h
    refine vv_callS ok_X4_spelled q1806 (m_spelled hG er20 (d + 0)) rfl (by omega) rfl rfl (Nat.le_of_ble_eq_true rfl) dX4_letters_223 ?_
    cases h
    exact vv_lret rfl dX4_letters_226
  rw [if_neg c19] at h
  by_cases c21 : x0 = (nI 10)
  · rw [if_pos c21] at h
    refine vv_tableIn (tgt := 227) dX4_letters_1 (by rw [c21]; decide) (by rw [c21]; decide) (by rw [c21]; rfl) (by decide) ?_
    refine vv_bipush (v := (nI 99)) dX4_letters_227 (by decide) ?_
    refine vv_bipush (v := (nI 97)) dX4_letters_229 (by decide) ?_
    refine vv_bipush (v := (nI 116)) dX4_letters_231 (by decide) ?_
    refine vv_iconst (v := (nI 0)) dX4_letters_233 (by decide) ?_
    refine vv_iconst (v := (nI 0)) dX4_letters_234 (by decide) ?_
    refine vv_iconst (v := (nI 0)) dX4_letters_235 (by decide) ?_
    refine vv_iconst (v := (nI 0)) dX4_letters_236 (by decide) ?_
    obtain ⟨r22, er22, h⟩ := bd_o h
    refine vv_callS ok_X4_spelled q1806 (m_spelled hG er22 (d + 0)) rfl (by omega) rfl rfl (Nat.le_of_ble_eq_true rfl) dX4_letters_237 ?_
    cases h
    exact vv_lret rfl dX4_letters_240
  rw [if_neg c21] at h
  by_cases c23 : x0 = (nI 11)
  · rw [if_pos c23] at h
    refine vv_tableIn (tgt := 241) dX4_letters_1 (by rw [c23]; decide) (by rw [c23]; decide) (by rw [c23]; rfl) (by decide) ?_
    refine vv_bipush (v := (nI 111)) dX4_letters_241 (by decide) ?_
    refine vv_bipush (v := (nI 100)) dX4_letters_243 (by decide) ?_
    refine vv_bipush (v := (nI 100)) dX4_letters_245 (by decide) ?_
    refine vv_bipush (v := (nI 115)) dX4_letters_247 (by decide) ?_
    refine vv_iconst (v := (nI 0)) dX4_letters_249 (by decide) ?_
    refine vv_iconst (v := (nI 0)) dX4_letters_250 (by decide) ?_
    refine vv_iconst (v := (nI 0)) dX4_letters_251 (by decide) ?_
    obtain ⟨r24, er24, h⟩ := bd_o h
    refine vv_callS ok_X4_spelled q1806 (m_spelled hG er24 (d + 0)) rfl (by omega) rfl rfl (Nat.le_of_ble_eq_true rfl) dX4_letters_252 ?_
    cases h
    exact vv_lret rfl dX4_letters_255
  rw [if_neg c23] at h
  by_cases c25 : x0 = (nI 12)
  · rw [if_pos c25] at h
    refine vv_tableIn (tgt := 256) dX4_letters_1 (by rw [c25]; decide) (by rw [c25]; decide) (by rw [c25]; rfl) (by decide) ?_
    refine vv_bipush (v := (nI 97)) dX4_letters_256 (by decide) ?_
    refine vv_bipush (v := (nI 110)) dX4_letters_258 (by decide) ?_
    refine vv_bipush (v := (nI 100)) dX4_letters_260 (by decide) ?_
    refine vv_iconst (v := (nI 0)) dX4_letters_262 (by decide) ?_
    refine vv_iconst (v := (nI 0)) dX4_letters_263 (by decide) ?_
    refine vv_iconst (v := (nI 0)) dX4_letters_264 (by decide) ?_
    refine vv_iconst (v := (nI 0)) dX4_letters_265 (by decide) ?_
    obtain ⟨r26, er26, h⟩ := bd_o h
    refine vv_callS ok_X4_spelled q1806 (m_spelled hG er26 (d + 0)) rfl (by omega) rfl rfl (Nat.le_of_ble_eq_true rfl) dX4_letters_266 ?_
    cases h
    exact vv_lret rfl dX4_letters_269
  rw [if_neg c25] at h
  by_cases c27 : x0 = (nI 13)
  · rw [if_pos c27] at h
    refine vv_tableIn (tgt := 270) dX4_letters_1 (by rw [c27]; decide) (by rw [c27]; decide) (by rw [c27]; rfl) (by decide) ?_
    refine vv_bipush (v := (nI 111)) dX4_letters_270 (by decide) ?_
    refine vv_bipush (v := (nI 114)) dX4_letters_272 (by decide) ?_
    refine vv_iconst (v := (nI 0)) dX4_letters_274 (by decide) ?_
    refine vv_iconst (v := (nI 0)) dX4_letters_275 (by decide) ?_
    refine vv_iconst (v := (nI 0)) dX4_letters_276 (by decide) ?_
    refine vv_iconst (v := (nI 0)) dX4_letters_277 (by decide) ?_
    refine vv_iconst (v := (nI 0)) dX4_letters_278 (by decide) ?_
    obtain ⟨r28, er28, h⟩ := bd_o h
    refine vv_callS ok_X4_spelled q1806 (m_spelled hG er28 (d + 0)) rfl (by omega) rfl rfl (Nat.le_of_ble_eq_true rfl) dX4_letters_279 ?_
    cases h
    exact vv_lret rfl dX4_letters_282
  rw [if_neg c27] at h
  have tc1 : ¬ (x0).toInt = 0 := fun hh => c1 (Int32.toInt_inj.mp (hh.trans (by decide)))
  have tc3 : ¬ (x0).toInt = 1 := fun hh => c3 (Int32.toInt_inj.mp (hh.trans (by decide)))
  have tc5 : ¬ (x0).toInt = 2 := fun hh => c5 (Int32.toInt_inj.mp (hh.trans (by decide)))
  have tc7 : ¬ (x0).toInt = 3 := fun hh => c7 (Int32.toInt_inj.mp (hh.trans (by decide)))
  have tc9 : ¬ (x0).toInt = 4 := fun hh => c9 (Int32.toInt_inj.mp (hh.trans (by decide)))
  have tc11 : ¬ (x0).toInt = 5 := fun hh => c11 (Int32.toInt_inj.mp (hh.trans (by decide)))
  have tc13 : ¬ (x0).toInt = 6 := fun hh => c13 (Int32.toInt_inj.mp (hh.trans (by decide)))
  have tc15 : ¬ (x0).toInt = 7 := fun hh => c15 (Int32.toInt_inj.mp (hh.trans (by decide)))
  have tc17 : ¬ (x0).toInt = 8 := fun hh => c17 (Int32.toInt_inj.mp (hh.trans (by decide)))
  have tc19 : ¬ (x0).toInt = 9 := fun hh => c19 (Int32.toInt_inj.mp (hh.trans (by decide)))
  have tc21 : ¬ (x0).toInt = 10 := fun hh => c21 (Int32.toInt_inj.mp (hh.trans (by decide)))
  have tc23 : ¬ (x0).toInt = 11 := fun hh => c23 (Int32.toInt_inj.mp (hh.trans (by decide)))
  have tc25 : ¬ (x0).toInt = 12 := fun hh => c25 (Int32.toInt_inj.mp (hh.trans (by decide)))
  have tc27 : ¬ (x0).toInt = 13 := fun hh => c27 (Int32.toInt_inj.mp (hh.trans (by decide)))
  refine vv_tableOut (tgt := 283) dX4_letters_1 (by omega) (by decide) ?_
  refine vv_bipush (v := (nI 110)) dX4_letters_283 (by decide) ?_
  refine vv_bipush (v := (nI 111)) dX4_letters_285 (by decide) ?_
  refine vv_bipush (v := (nI 116)) dX4_letters_287 (by decide) ?_
  refine vv_iconst (v := (nI 0)) dX4_letters_289 (by decide) ?_
  refine vv_iconst (v := (nI 0)) dX4_letters_290 (by decide) ?_
  refine vv_iconst (v := (nI 0)) dX4_letters_291 (by decide) ?_
  refine vv_iconst (v := (nI 0)) dX4_letters_292 (by decide) ?_
  obtain ⟨r29, er29, h⟩ := bd_o h
  refine vv_callS ok_X4_spelled q1806 (m_spelled hG er29 (d + 0)) rfl (by omega) rfl rfl (Nat.le_of_ble_eq_true rfl) dX4_letters_293 ?_
  cases h
  exact vv_lret rfl dX4_letters_296
theorem m_letters {l : Launch} {G : vv_G} {σ : vv_S} (hG : vv_gok G) {x0 : Int32} {r : Int64} (h : J_letters x0 = some r) (d : Nat) : vv_Met l G MX4_letters (d + 1) [.int x0] σ (.inl (some (.long r)), σ) := vv_head (by decide +kernel) rfl (Nat.le_of_ble_eq_true rfl) rfl (v_letters_0 hG h)
/-! knownWord -/
def J_knownWord_17 (T : tw_T) : Option (Int32 × tw_T) := some ((-1), T)
theorem v_knownWord_17 {l : Launch} {G : vv_G} {d : Nat} {o : Nat} {h0 : Nat → Option vv_E} {nz : Nat × Nat} (hG : vv_gok G) {T : tw_T} {r : Int32 × tw_T} (h : J_knownWord_17 T = some r) : vv_V l G MX4_knownWord (d + 2) 17 [(0, .ref o)] [] (tp o h0 T, nz) (.inl (some (.int r.1)), (tp o h0 r.2, nz)) := by
  unfold J_knownWord_17 at h
  refine vv_iconst (v := (-1)) dX4_knownWord_17 (by decide) ?_
  cases h
  exact vv_iret rfl dX4_knownWord_18
def B_knownWord_21 (k21 : Int32 → tw_T → Option (Int32 × tw_T)) (x1 : Int32) (T : tw_T) : Option (Int32 × tw_T) := if (nI 15) ≤ x1 then (some ((-1), T)) else ((J_letters x1).bind fun r2 => if (lg_cmp r2 T.2.1) = 0 then (some (x1, T)) else (k21 (x1 + (nI 1)) T))
def J_knownWord_21 : Nat → Int32 → tw_T → Option (Int32 × tw_T)
  | 0, _, _ => none
  | n + 1, x1, T => B_knownWord_21 (J_knownWord_21 n) x1 T
theorem vb_knownWord_21 {l : Launch} {G : vv_G} {d : Nat} {o : Nat} {h0 : Nat → Option vv_E} {nz : Nat × Nat} (hG : vv_gok G) {k21 : Int32 → tw_T → Option (Int32 × tw_T)} (hk21 : ∀ {x1 : Int32} {T : tw_T} {r : Int32 × tw_T}, k21 x1 T = some r → vv_V l G MX4_knownWord (d + 2) 21 [(0, .ref o), (1, .int x1)] [] (tp o h0 T, nz) (.inl (some (.int r.1)), (tp o h0 r.2, nz))) {x1 : Int32} {T : tw_T} {r : Int32 × tw_T} (h : B_knownWord_21 k21 x1 T = some r) : vv_V l G MX4_knownWord (d + 2) 21 [(0, .ref o), (1, .int x1)] [] (tp o h0 T, nz) (.inl (some (.int r.1)), (tp o h0 r.2, nz)) := by
  unfold B_knownWord_21 at h
  refine vv_iload_n dX4_knownWord_21 rfl 1 rfl ?_
  refine vv_bipush (v := (nI 15)) dX4_knownWord_22 (by decide) ?_
  refine vv_icmp_ge (tgt := 47) dX4_knownWord_24 (by decide) (fun c1 => ?_) (fun c1 => ?_)
  · rw [if_pos c1] at h
    refine vv_iconst (v := (-1)) dX4_knownWord_47 (by decide) ?_
    cases h
    exact vv_iret rfl dX4_knownWord_48
  · rw [if_neg c1] at h
    refine vv_iload_n dX4_knownWord_27 rfl 1 rfl ?_
    obtain ⟨r2, er2, h⟩ := bd_o h
    refine vv_callS ok_X4_letters q1803 (m_letters hG er2 (d + 0)) rfl (by omega) rfl rfl (Nat.le_of_ble_eq_true rfl) dX4_knownWord_28 ?_
    refine vv_aload_n dX4_knownWord_31 rfl 0 rfl ?_
    refine tw_get (fl_X4_140 hG) (k := 24) rfl dX4_knownWord_32 ?_
    refine vv_lcmp dX4_knownWord_35 ?_
    refine vv_if_ne (tgt := 41) dX4_knownWord_36 (by decide) (fun c3 => ?_) (fun c3 => ?_)
    · rw [if_neg c3] at h
      refine vv_iinc (v := (x1 + (nI 1))) (lv' := [(0, .ref o), (1, .int (x1 + (nI 1)))]) dX4_knownWord_41 1 rfl rfl (by decide) [1, 0] rfl ?_
      refine vv_goto (tgt := 21) dX4_knownWord_44 (by decide) ?_
      exact hk21 h
    · rw [if_pos c3] at h
      refine vv_iload_n dX4_knownWord_39 rfl 1 rfl ?_
      cases h
      exact vv_iret rfl dX4_knownWord_40
theorem v_knownWord_21 {l : Launch} {G : vv_G} {d : Nat} {o : Nat} {h0 : Nat → Option vv_E} {nz : Nat × Nat} (hG : vv_gok G) : ∀ (n : Nat) {x1 : Int32} {T : tw_T} {r : Int32 × tw_T}, J_knownWord_21 n x1 T = some r → vv_V l G MX4_knownWord (d + 2) 21 [(0, .ref o), (1, .int x1)] [] (tp o h0 T, nz) (.inl (some (.int r.1)), (tp o h0 r.2, nz)) := by
  intro n
  induction n with
  | zero => intro _ _ _ h; cases h
  | succ n ih => intro _ _ _ h; exact vb_knownWord_21 hG ih h
def J_knownWord (T : tw_T) : Option (Int32 × tw_T) := if (T.1 19) = (nI 1) then (if (T.1 21) ≤ (nI 7) then (J_knownWord_21 NN (nI 0) T) else (J_knownWord_17 T)) else (J_knownWord_17 T)
theorem v_knownWord_0 {l : Launch} {G : vv_G} {d : Nat} {o : Nat} {h0 : Nat → Option vv_E} {nz : Nat × Nat} (hG : vv_gok G) {T : tw_T} {r : Int32 × tw_T} (h : J_knownWord T = some r) : vv_V l G MX4_knownWord (d + 2) 0 [(0, .ref o)] [] (tp o h0 T, nz) (.inl (some (.int r.1)), (tp o h0 r.2, nz)) := by
  unfold J_knownWord at h
  refine vv_aload_n dX4_knownWord_0 rfl 0 rfl ?_
  refine tw_get (fl_X4_150 hG) (k := 19) rfl dX4_knownWord_1 ?_
  refine vv_iconst (v := (nI 1)) dX4_knownWord_4 (by decide) ?_
  refine vv_icmp_ne (tgt := 17) dX4_knownWord_5 (by decide) (fun c1 => ?_) (fun c1 => ?_)
  · rw [if_neg c1] at h
    exact v_knownWord_17 hG h
  · rw [if_pos c1] at h
    refine vv_aload_n dX4_knownWord_8 rfl 0 rfl ?_
    refine tw_get (fl_X4_160 hG) (k := 21) rfl dX4_knownWord_9 ?_
    refine vv_bipush (v := (nI 7)) dX4_knownWord_12 (by decide) ?_
    refine vv_icmp_le (tgt := 19) dX4_knownWord_14 (by decide) (fun c2 => ?_) (fun c2 => ?_)
    · rw [if_pos c2] at h
      refine vv_iconst (v := (nI 0)) dX4_knownWord_19 (by decide) ?_
      refine vv_istore_n (lv' := [(0, .ref o), (1, .int (nI 0))]) dX4_knownWord_20 rfl (by decide) [1, 0] rfl ?_
      exact v_knownWord_21 hG NN h
    · rw [if_neg c2] at h
      exact v_knownWord_17 hG h
theorem m_knownWord {l : Launch} {G : vv_G} {o : Nat} {h0 : Nat → Option vv_E} {nz : Nat × Nat} (hG : vv_gok G) {T : tw_T} {r : Int32 × tw_T} (h : J_knownWord T = some r) (d : Nat) : vv_Met l G MX4_knownWord (d + 2) [.ref o] (tp o h0 T, nz) (.inl (some (.int r.1)), (tp o h0 r.2, nz)) := vv_head (by decide +kernel) rfl (Nat.le_of_ble_eq_true rfl) rfl (v_knownWord_0 hG h)
/-! part -/
def J_part_101 (T : tw_T) : Option tw_T := some T
theorem v_part_101 {l : Launch} {G : vv_G} {d : Nat} {o : Nat} {h0 : Nat → Option vv_E} {nz : Nat × Nat} (hG : vv_gok G) {T : tw_T} {r : tw_T} (h : J_part_101 T = some r) : vv_V l G MX4_part (d + 3) 101 [(0, .ref o)] [] (tp o h0 T, nz) (.inl none, (tp o h0 r, nz)) := by
  unfold J_part_101 at h
  cases h
  exact vv_vret rfl dX4_part_101
def J_part_90 (T : tw_T) : Option tw_T := (J_isGood T).bind fun r1 => if r1.1 = 0 then (J_part_101 r1.2) else ((J_goes r1.2).bind fun r3 => J_part_101 r3)
theorem v_part_90 {l : Launch} {G : vv_G} {d : Nat} {o : Nat} {h0 : Nat → Option vv_E} {nz : Nat × Nat} (hG : vv_gok G) {T : tw_T} {r : tw_T} (h : J_part_90 T = some r) : vv_V l G MX4_part (d + 3) 90 [(0, .ref o)] [] (tp o h0 T, nz) (.inl none, (tp o h0 r, nz)) := by
  unfold J_part_90 at h
  refine vv_aload_n dX4_part_90 rfl 0 rfl ?_
  obtain ⟨r1, er1, h⟩ := bd_o h
  refine vv_callV ok_X4_isGood q1791 (m_isGood hG er1 (d + 2)) rfl (by omega) ⟨_, _, _, _, _, tp_o, by rw [hG.1]; rfl⟩ rfl rfl (Nat.le_of_ble_eq_true rfl) dX4_part_91 ?_
  refine vv_if_eq (tgt := 101) dX4_part_94 (by decide) (fun c2 => ?_) (fun c2 => ?_)
  · rw [if_pos c2] at h
    exact v_part_101 hG h
  · rw [if_neg c2] at h
    refine vv_aload_n dX4_part_97 rfl 0 rfl ?_
    obtain ⟨r3, er3, h⟩ := bd_o h
    refine vv_callV ok_X4_goes q1777 (m_goes hG er3 (d + 1)) rfl (by omega) ⟨_, _, _, _, _, tp_o, by rw [hG.1]; rfl⟩ rfl rfl (Nat.le_of_ble_eq_true rfl) dX4_part_98 ?_
    exact v_part_101 hG h
def J_part_72 (x1 : Int32) (T : tw_T) : Option tw_T := (J_puts (nI 2) T).bind fun r1 => (J_puts x1 r1).bind fun r2 => J_part_90 r2
theorem v_part_72 {l : Launch} {G : vv_G} {d : Nat} {o : Nat} {h0 : Nat → Option vv_E} {nz : Nat × Nat} (hG : vv_gok G) {x1 : Int32} {T : tw_T} {r : tw_T} (h : J_part_72 x1 T = some r) : vv_V l G MX4_part (d + 3) 72 [(0, .ref o), (1, .int x1)] [] (tp o h0 T, nz) (.inl none, (tp o h0 r, nz)) := by
  unfold J_part_72 at h
  refine vv_aload_n dX4_part_72 rfl 0 rfl ?_
  refine vv_iconst (v := (nI 2)) dX4_part_73 (by decide) ?_
  obtain ⟨r1, er1, h⟩ := bd_o h
  refine vv_callV ok_X4_puts q1866 (m_puts hG er1 (d + 2)) rfl (by omega) ⟨_, _, _, _, _, tp_o, by rw [hG.1]; rfl⟩ rfl rfl (Nat.le_of_ble_eq_true rfl) dX4_part_74 ?_
  refine vv_aload_n dX4_part_77 rfl 0 rfl ?_
  refine vv_iload_n dX4_part_78 rfl 1 rfl ?_
  obtain ⟨r2, er2, h⟩ := bd_o h
  refine vv_callV ok_X4_puts q1866 (m_puts hG er2 (d + 2)) rfl (by omega) ⟨_, _, _, _, _, tp_o, by rw [hG.1]; rfl⟩ rfl rfl (Nat.le_of_ble_eq_true rfl) dX4_part_79 ?_
  refine vv_goto (tgt := 90) dX4_part_82 (by decide) ?_
  refine vv_sub (lv' := [(0, .ref o)]) [0] rfl ?_
  exact v_part_90 hG h
def J_part_67 (x1 : Int32) (T : tw_T) : Option tw_T := (J_wrong (nI 3) T).bind fun r1 => J_part_72 x1 r1
theorem v_part_67 {l : Launch} {G : vv_G} {d : Nat} {o : Nat} {h0 : Nat → Option vv_E} {nz : Nat × Nat} (hG : vv_gok G) {x1 : Int32} {T : tw_T} {r : tw_T} (h : J_part_67 x1 T = some r) : vv_V l G MX4_part (d + 3) 67 [(0, .ref o), (1, .int x1)] [] (tp o h0 T, nz) (.inl none, (tp o h0 r, nz)) := by
  unfold J_part_67 at h
  refine vv_aload_n dX4_part_67 rfl 0 rfl ?_
  refine vv_iconst (v := (nI 3)) dX4_part_68 (by decide) ?_
  obtain ⟨r1, er1, h⟩ := bd_o h
  refine vv_callV ok_X4_wrong q1814 (m_wrong hG er1 (d + 2)) rfl (by omega) ⟨_, _, _, _, _, tp_o, by rw [hG.1]; rfl⟩ rfl rfl (Nat.le_of_ble_eq_true rfl) dX4_part_69 ?_
  exact v_part_72 hG h
def J_part_29 (T : tw_T) : Option tw_T := (J_puts (nI 1) T).bind fun r1 => (J_puts (r1.1 22) r1).bind fun r2 => J_part_90 r2
theorem v_part_29 {l : Launch} {G : vv_G} {d : Nat} {o : Nat} {h0 : Nat → Option vv_E} {nz : Nat × Nat} (hG : vv_gok G) {T : tw_T} {r : tw_T} (h : J_part_29 T = some r) : vv_V l G MX4_part (d + 3) 29 [(0, .ref o)] [] (tp o h0 T, nz) (.inl none, (tp o h0 r, nz)) := by
  unfold J_part_29 at h
  refine vv_aload_n dX4_part_29 rfl 0 rfl ?_
  refine vv_iconst (v := (nI 1)) dX4_part_30 (by decide) ?_
  obtain ⟨r1, er1, h⟩ := bd_o h
  refine vv_callV ok_X4_puts q1866 (m_puts hG er1 (d + 2)) rfl (by omega) ⟨_, _, _, _, _, tp_o, by rw [hG.1]; rfl⟩ rfl rfl (Nat.le_of_ble_eq_true rfl) dX4_part_31 ?_
  refine vv_aload_n dX4_part_34 rfl 0 rfl ?_
  refine vv_aload_n dX4_part_35 rfl 0 rfl ?_
  refine tw_get (fl_X4_144 hG) (k := 22) rfl dX4_part_36 ?_
  obtain ⟨r2, er2, h⟩ := bd_o h
  refine vv_callV ok_X4_puts q1866 (m_puts hG er2 (d + 2)) rfl (by omega) ⟨_, _, _, _, _, tp_o, by rw [hG.1]; rfl⟩ rfl rfl (Nat.le_of_ble_eq_true rfl) dX4_part_39 ?_
  refine vv_goto (tgt := 90) dX4_part_42 (by decide) ?_
  exact v_part_90 hG h
def J_part (T : tw_T) : Option tw_T := (J_isGood T).bind fun r1 => if r1.1 = 0 then (some r1.2) else (if (r1.2.1 19) = (nI 2) then (if (r1.2.1 21) ≤ (nI 4) then (J_part_29 r1.2) else ((J_wrong (nI 2) r1.2).bind fun r10 => J_part_29 r10)) else (if (r1.2.1 19) = (nI 1) then ((J_knownWord r1.2).bind fun r6 => if r6.1 < 0 then (J_part_67 r6.1 r6.2) else (if r6.1 ≤ (nI 5) then (J_part_72 r6.1 r6.2) else (J_part_67 r6.1 r6.2))) else ((J_wrong (nI 1) r1.2).bind fun r5 => J_part_90 r5)))
theorem v_part_0 {l : Launch} {G : vv_G} {d : Nat} {o : Nat} {h0 : Nat → Option vv_E} {nz : Nat × Nat} (hG : vv_gok G) {T : tw_T} {r : tw_T} (h : J_part T = some r) : vv_V l G MX4_part (d + 3) 0 [(0, .ref o)] [] (tp o h0 T, nz) (.inl none, (tp o h0 r, nz)) := by
  unfold J_part at h
  refine vv_aload_n dX4_part_0 rfl 0 rfl ?_
  obtain ⟨r1, er1, h⟩ := bd_o h
  refine vv_callV ok_X4_isGood q1791 (m_isGood hG er1 (d + 2)) rfl (by omega) ⟨_, _, _, _, _, tp_o, by rw [hG.1]; rfl⟩ rfl rfl (Nat.le_of_ble_eq_true rfl) dX4_part_1 ?_
  refine vv_if_ne (tgt := 8) dX4_part_4 (by decide) (fun c2 => ?_) (fun c2 => ?_)
  · rw [if_neg c2] at h
    refine vv_aload_n dX4_part_8 rfl 0 rfl ?_
    refine tw_get (fl_X4_150 hG) (k := 19) rfl dX4_part_9 ?_
    refine vv_iconst (v := (nI 2)) dX4_part_12 (by decide) ?_
    refine vv_icmp_ne (tgt := 45) dX4_part_13 (by decide) (fun c3 => ?_) (fun c3 => ?_)
    · rw [if_neg c3] at h
      refine vv_aload_n dX4_part_45 rfl 0 rfl ?_
      refine tw_get (fl_X4_150 hG) (k := 19) rfl dX4_part_46 ?_
      refine vv_iconst (v := (nI 1)) dX4_part_49 (by decide) ?_
      refine vv_icmp_ne (tgt := 85) dX4_part_50 (by decide) (fun c4 => ?_) (fun c4 => ?_)
      · rw [if_neg c4] at h
        refine vv_aload_n dX4_part_85 rfl 0 rfl ?_
        refine vv_iconst (v := (nI 1)) dX4_part_86 (by decide) ?_
        obtain ⟨r5, er5, h⟩ := bd_o h
        refine vv_callV ok_X4_wrong q1814 (m_wrong hG er5 (d + 2)) rfl (by omega) ⟨_, _, _, _, _, tp_o, by rw [hG.1]; rfl⟩ rfl rfl (Nat.le_of_ble_eq_true rfl) dX4_part_87 ?_
        exact v_part_90 hG h
      · rw [if_pos c4] at h
        refine vv_aload_n dX4_part_53 rfl 0 rfl ?_
        obtain ⟨r6, er6, h⟩ := bd_o h
        refine vv_callV ok_X4_knownWord q1799 (m_knownWord hG er6 (d + 0)) rfl (by omega) ⟨_, _, _, _, _, tp_o, by rw [hG.1]; rfl⟩ rfl rfl (Nat.le_of_ble_eq_true rfl) dX4_part_54 ?_
        refine vv_istore_n (lv' := [(0, .ref o), (1, .int r6.1)]) dX4_part_57 rfl (by decide) [1, 0] rfl ?_
        refine vv_iload_n dX4_part_58 rfl 1 rfl ?_
        refine vv_if_lt (tgt := 67) dX4_part_59 (by decide) (fun c7 => ?_) (fun c7 => ?_)
        · rw [if_pos c7] at h
          exact v_part_67 hG h
        · rw [if_neg c7] at h
          refine vv_iload_n dX4_part_62 rfl 1 rfl ?_
          refine vv_iconst (v := (nI 5)) dX4_part_63 (by decide) ?_
          refine vv_icmp_le (tgt := 72) dX4_part_64 (by decide) (fun c8 => ?_) (fun c8 => ?_)
          · rw [if_pos c8] at h
            exact v_part_72 hG h
          · rw [if_neg c8] at h
            exact v_part_67 hG h
    · rw [if_pos c3] at h
      refine vv_aload_n dX4_part_16 rfl 0 rfl ?_
      refine tw_get (fl_X4_160 hG) (k := 21) rfl dX4_part_17 ?_
      refine vv_iconst (v := (nI 4)) dX4_part_20 (by decide) ?_
      refine vv_icmp_le (tgt := 29) dX4_part_21 (by decide) (fun c9 => ?_) (fun c9 => ?_)
      · rw [if_pos c9] at h
        exact v_part_29 hG h
      · rw [if_neg c9] at h
        refine vv_aload_n dX4_part_24 rfl 0 rfl ?_
        refine vv_iconst (v := (nI 2)) dX4_part_25 (by decide) ?_
        obtain ⟨r10, er10, h⟩ := bd_o h
        refine vv_callV ok_X4_wrong q1814 (m_wrong hG er10 (d + 2)) rfl (by omega) ⟨_, _, _, _, _, tp_o, by rw [hG.1]; rfl⟩ rfl rfl (Nat.le_of_ble_eq_true rfl) dX4_part_26 ?_
        exact v_part_29 hG h
  · rw [if_pos c2] at h
    cases h
    exact vv_vret rfl dX4_part_7
theorem m_part {l : Launch} {G : vv_G} {o : Nat} {h0 : Nat → Option vv_E} {nz : Nat × Nat} (hG : vv_gok G) {T : tw_T} {r : tw_T} (h : J_part T = some r) (d : Nat) : vv_Met l G MX4_part (d + 3) [.ref o] (tp o h0 T, nz) (.inl none, (tp o h0 r, nz)) := vv_head (by decide +kernel) rfl (Nat.le_of_ble_eq_true rfl) rfl (v_part_0 hG h)
/-! waitsFor -/
def J_waitsFor (x1 : Int32) (T : tw_T) : Option tw_T := (stA T 18 950 (T.1 30) x1).bind fun T1 => (some (tw_F T1 30 ((T1.1 30) + (nI 1)))).bind fun T2 => some T2
theorem v_waitsFor_0 {l : Launch} {G : vv_G} {d : Nat} {o : Nat} {h0 : Nat → Option vv_E} {nz : Nat × Nat} (hG : vv_gok G) {x1 : Int32} {T : tw_T} {r : tw_T} (h : J_waitsFor x1 T = some r) : vv_V l G MX4_waitsFor (d + 0) 0 [(0, .ref o), (1, .int x1)] [] (tp o h0 T, nz) (.inl none, (tp o h0 r, nz)) := by
  unfold J_waitsFor at h
  refine vv_aload_n dX4_waitsFor_0 rfl 0 rfl ?_
  refine tw_get (fl_X4_68 hG) (k := 40) rfl dX4_waitsFor_1 ?_
  refine vv_aload_n dX4_waitsFor_4 rfl 0 rfl ?_
  refine tw_get (fl_X4_192 hG) (k := 30) rfl dX4_waitsFor_5 ?_
  refine vv_iload_n dX4_waitsFor_8 rfl 1 rfl ?_
  obtain ⟨T1, iT1, eT1, h⟩ := st_o h
  refine tw_ast 18 (by decide) rfl iT1 eT1 dX4_waitsFor_9 ?_
  refine vv_aload_n dX4_waitsFor_10 rfl 0 rfl ?_
  refine vv_dup dX4_waitsFor_11 rfl ?_
  refine tw_get (fl_X4_192 hG) (k := 30) rfl dX4_waitsFor_12 ?_
  refine vv_iconst (v := (nI 1)) dX4_waitsFor_15 (by decide) ?_
  refine vv_iadd dX4_waitsFor_16 ?_
  obtain ⟨T2, eT2, h⟩ := bd_s h
  refine tw_put (T1 := T2) (pt_X4_192 hG) hG rfl rfl rfl (by decide) (by rw [eT2]; exact tw_set30 _ _ _) (by rw [eT2]; rfl) dX4_waitsFor_17 ?_
  cases h
  exact vv_vret rfl dX4_waitsFor_20
theorem m_waitsFor {l : Launch} {G : vv_G} {o : Nat} {h0 : Nat → Option vv_E} {nz : Nat × Nat} (hG : vv_gok G) {x1 : Int32} {T : tw_T} {r : tw_T} (h : J_waitsFor x1 T = some r) (d : Nat) : vv_Met l G MX4_waitsFor (d + 0) [.ref o, .int x1] (tp o h0 T, nz) (.inl none, (tp o h0 r, nz)) := vv_head (by decide +kernel) rfl (Nat.le_of_ble_eq_true rfl) rfl (v_waitsFor_0 hG h)
/-! operand -/
def J_operand_120 (T : tw_T) : Option tw_T := (J_part T).bind fun r1 => some r1
theorem v_operand_120 {l : Launch} {G : vv_G} {d : Nat} {o : Nat} {h0 : Nat → Option vv_E} {nz : Nat × Nat} (hG : vv_gok G) {T : tw_T} {r : tw_T} (h : J_operand_120 T = some r) : vv_V l G MX4_operand (d + 4) 120 [(0, .ref o)] [] (tp o h0 T, nz) (.inl none, (tp o h0 r, nz)) := by
  unfold J_operand_120 at h
  refine vv_aload_n dX4_operand_120 rfl 0 rfl ?_
  obtain ⟨r1, er1, h⟩ := bd_o h
  refine vv_callV ok_X4_part q1862 (m_part hG er1 (d + 0)) rfl (by omega) ⟨_, _, _, _, _, tp_o, by rw [hG.1]; rfl⟩ rfl rfl (Nat.le_of_ble_eq_true rfl) dX4_operand_121 ?_
  cases h
  exact vv_vret rfl dX4_operand_124
def J_operand_117 (k4 : Int32 → Int32 → tw_T → Option tw_T) (x2 : Int32) (x3 : Int32) (T : tw_T) : Option tw_T := k4 x2 x3 T
theorem v_operand_117 {l : Launch} {G : vv_G} {d : Nat} {o : Nat} {h0 : Nat → Option vv_E} {nz : Nat × Nat} (hG : vv_gok G) {k4 : Int32 → Int32 → tw_T → Option tw_T} (hk4 : ∀ {x2 : Int32} {x3 : Int32} {T : tw_T} {r : tw_T}, k4 x2 x3 T = some r → vv_V l G MX4_operand (d + 4) 4 [(0, .ref o), (2, .int x2), (3, .int x3)] [] (tp o h0 T, nz) (.inl none, (tp o h0 r, nz))) {x2 : Int32} {x3 : Int32} {T : tw_T} {r : tw_T} (h : J_operand_117 k4 x2 x3 T = some r) : vv_V l G MX4_operand (d + 4) 117 [(0, .ref o), (2, .int x2), (3, .int x3)] [] (tp o h0 T, nz) (.inl none, (tp o h0 r, nz)) := by
  unfold J_operand_117 at h
  refine vv_goto (tgt := 4) dX4_operand_117 (by decide) ?_
  exact hk4 h
def J_operand_96 (k4 : Int32 → Int32 → tw_T → Option tw_T) (s0 : Int32) (x2 : Int32) (T : tw_T) : Option tw_T := if s0 = 0 then (J_operand_117 k4 x2 s0 T) else ((J_waitsFor (nI 14) T).bind fun r2 => (J_goes r2).bind fun r3 => (J_deeper r3).bind fun r4 => J_operand_117 k4 (nI 1) s0 r4)
theorem v_operand_96 {l : Launch} {G : vv_G} {d : Nat} {o : Nat} {h0 : Nat → Option vv_E} {nz : Nat × Nat} (hG : vv_gok G) {k4 : Int32 → Int32 → tw_T → Option tw_T} (hk4 : ∀ {x2 : Int32} {x3 : Int32} {T : tw_T} {r : tw_T}, k4 x2 x3 T = some r → vv_V l G MX4_operand (d + 4) 4 [(0, .ref o), (2, .int x2), (3, .int x3)] [] (tp o h0 T, nz) (.inl none, (tp o h0 r, nz))) {s0 : Int32} {x2 : Int32} {T : tw_T} {r : tw_T} (h : J_operand_96 k4 s0 x2 T = some r) : vv_V l G MX4_operand (d + 4) 96 [(0, .ref o), (2, .int x2)] [.int s0] (tp o h0 T, nz) (.inl none, (tp o h0 r, nz)) := by
  unfold J_operand_96 at h
  refine vv_istore_n (lv' := [(0, .ref o), (2, .int x2), (3, .int s0)]) dX4_operand_96 rfl (by decide) [1, 2, 0] rfl ?_
  refine vv_iload_n dX4_operand_97 rfl 2 rfl ?_
  refine vv_if_eq (tgt := 117) dX4_operand_98 (by decide) (fun c1 => ?_) (fun c1 => ?_)
  · rw [if_pos c1] at h
    exact v_operand_117 hG hk4 h
  · rw [if_neg c1] at h
    refine vv_aload_n dX4_operand_101 rfl 0 rfl ?_
    refine vv_bipush (v := (nI 14)) dX4_operand_102 (by decide) ?_
    obtain ⟨r2, er2, h⟩ := bd_o h
    refine vv_callV ok_X4_waitsFor q1858 (m_waitsFor hG er2 (d + 3)) rfl (by omega) ⟨_, _, _, _, _, tp_o, by rw [hG.1]; rfl⟩ rfl rfl (Nat.le_of_ble_eq_true rfl) dX4_operand_104 ?_
    refine vv_aload_n dX4_operand_107 rfl 0 rfl ?_
    obtain ⟨r3, er3, h⟩ := bd_o h
    refine vv_callV ok_X4_goes q1777 (m_goes hG er3 (d + 2)) rfl (by omega) ⟨_, _, _, _, _, tp_o, by rw [hG.1]; rfl⟩ rfl rfl (Nat.le_of_ble_eq_true rfl) dX4_operand_108 ?_
    refine vv_aload_n dX4_operand_111 rfl 0 rfl ?_
    obtain ⟨r4, er4, h⟩ := bd_o h
    refine vv_callV ok_X4_deeper q1846 (m_deeper hG er4 (d + 2)) rfl (by omega) ⟨_, _, _, _, _, tp_o, by rw [hG.1]; rfl⟩ rfl rfl (Nat.le_of_ble_eq_true rfl) dX4_operand_112 ?_
    refine vv_iconst (v := (nI 1)) dX4_operand_115 (by decide) ?_
    refine vv_istore_n (lv' := [(0, .ref o), (2, .int (nI 1)), (3, .int s0)]) dX4_operand_116 rfl (by decide) [1, 0, 2] rfl ?_
    exact v_operand_117 hG hk4 h
def J_operand_95 (k4 : Int32 → Int32 → tw_T → Option tw_T) (x2 : Int32) (T : tw_T) : Option tw_T := J_operand_96 k4 (nI 0) x2 T
theorem v_operand_95 {l : Launch} {G : vv_G} {d : Nat} {o : Nat} {h0 : Nat → Option vv_E} {nz : Nat × Nat} (hG : vv_gok G) {k4 : Int32 → Int32 → tw_T → Option tw_T} (hk4 : ∀ {x2 : Int32} {x3 : Int32} {T : tw_T} {r : tw_T}, k4 x2 x3 T = some r → vv_V l G MX4_operand (d + 4) 4 [(0, .ref o), (2, .int x2), (3, .int x3)] [] (tp o h0 T, nz) (.inl none, (tp o h0 r, nz))) {x2 : Int32} {T : tw_T} {r : tw_T} (h : J_operand_95 k4 x2 T = some r) : vv_V l G MX4_operand (d + 4) 95 [(0, .ref o), (2, .int x2)] [] (tp o h0 T, nz) (.inl none, (tp o h0 r, nz)) := by
  unfold J_operand_95 at h
  refine vv_iconst (v := (nI 0)) dX4_operand_95 (by decide) ?_
  exact v_operand_96 hG hk4 h
def J_operand_75 (k4 : Int32 → Int32 → tw_T → Option tw_T) (x2 : Int32) (T : tw_T) : Option tw_T := (J_isGood T).bind fun r1 => if r1.1 = 0 then (J_operand_95 k4 x2 r1.2) else ((J_isSign (nI 40) r1.2).bind fun r3 => if r3.1 = 0 then (J_operand_95 k4 x2 r3.2) else (J_operand_96 k4 (nI 1) x2 r3.2))
theorem v_operand_75 {l : Launch} {G : vv_G} {d : Nat} {o : Nat} {h0 : Nat → Option vv_E} {nz : Nat × Nat} (hG : vv_gok G) {k4 : Int32 → Int32 → tw_T → Option tw_T} (hk4 : ∀ {x2 : Int32} {x3 : Int32} {T : tw_T} {r : tw_T}, k4 x2 x3 T = some r → vv_V l G MX4_operand (d + 4) 4 [(0, .ref o), (2, .int x2), (3, .int x3)] [] (tp o h0 T, nz) (.inl none, (tp o h0 r, nz))) {x2 : Int32} {T : tw_T} {r : tw_T} (h : J_operand_75 k4 x2 T = some r) : vv_V l G MX4_operand (d + 4) 75 [(0, .ref o), (2, .int x2)] [] (tp o h0 T, nz) (.inl none, (tp o h0 r, nz)) := by
  unfold J_operand_75 at h
  refine vv_aload_n dX4_operand_75 rfl 0 rfl ?_
  obtain ⟨r1, er1, h⟩ := bd_o h
  refine vv_callV ok_X4_isGood q1791 (m_isGood hG er1 (d + 3)) rfl (by omega) ⟨_, _, _, _, _, tp_o, by rw [hG.1]; rfl⟩ rfl rfl (Nat.le_of_ble_eq_true rfl) dX4_operand_76 ?_
  refine vv_if_eq (tgt := 95) dX4_operand_79 (by decide) (fun c2 => ?_) (fun c2 => ?_)
  · rw [if_pos c2] at h
    exact v_operand_95 hG hk4 h
  · rw [if_neg c2] at h
    refine vv_aload_n dX4_operand_82 rfl 0 rfl ?_
    refine vv_bipush (v := (nI 40)) dX4_operand_83 (by decide) ?_
    obtain ⟨r3, er3, h⟩ := bd_o h
    refine vv_callV ok_X4_isSign q1850 (m_isSign hG er3 (d + 3)) rfl (by omega) ⟨_, _, _, _, _, tp_o, by rw [hG.1]; rfl⟩ rfl rfl (Nat.le_of_ble_eq_true rfl) dX4_operand_85 ?_
    refine vv_if_eq (tgt := 95) dX4_operand_88 (by decide) (fun c4 => ?_) (fun c4 => ?_)
    · rw [if_pos c4] at h
      exact v_operand_95 hG hk4 h
    · rw [if_neg c4] at h
      refine vv_iconst (v := (nI 1)) dX4_operand_91 (by decide) ?_
      refine vv_goto (tgt := 96) dX4_operand_92 (by decide) ?_
      exact v_operand_96 hG hk4 h
def J_operand_50 (k4 : Int32 → Int32 → tw_T → Option tw_T) (k18 : Int32 → Int32 → tw_T → Option tw_T) (x2 : Int32) (x4 : Int32) (T : tw_T) : Option tw_T := (J_isGood T).bind fun r1 => if r1.1 = 0 then (k18 x2 (x4 + (nI 1)) r1.2) else ((J_waitsFor (nI 3) r1.2).bind fun r3 => (J_goes r3).bind fun r4 => k18 x2 (x4 + (nI 1)) r4)
theorem v_operand_50 {l : Launch} {G : vv_G} {d : Nat} {o : Nat} {h0 : Nat → Option vv_E} {nz : Nat × Nat} (hG : vv_gok G) {k4 : Int32 → Int32 → tw_T → Option tw_T} (hk4 : ∀ {x2 : Int32} {x3 : Int32} {T : tw_T} {r : tw_T}, k4 x2 x3 T = some r → vv_V l G MX4_operand (d + 4) 4 [(0, .ref o), (2, .int x2), (3, .int x3)] [] (tp o h0 T, nz) (.inl none, (tp o h0 r, nz))) {k18 : Int32 → Int32 → tw_T → Option tw_T} (hk18 : ∀ {x2 : Int32} {x4 : Int32} {T : tw_T} {r : tw_T}, k18 x2 x4 T = some r → vv_V l G MX4_operand (d + 4) 18 [(0, .ref o), (2, .int x2), (4, .int x4)] [] (tp o h0 T, nz) (.inl none, (tp o h0 r, nz))) {x2 : Int32} {x4 : Int32} {T : tw_T} {r : tw_T} (h : J_operand_50 k4 k18 x2 x4 T = some r) : vv_V l G MX4_operand (d + 4) 50 [(0, .ref o), (2, .int x2), (4, .int x4)] [] (tp o h0 T, nz) (.inl none, (tp o h0 r, nz)) := by
  unfold J_operand_50 at h
  refine vv_iinc (v := (x4 + (nI 1))) (lv' := [(0, .ref o), (2, .int x2), (4, .int (x4 + (nI 1)))]) dX4_operand_50 2 rfl rfl (by decide) [1, 2, 0] rfl ?_
  refine vv_aload_n dX4_operand_53 rfl 0 rfl ?_
  obtain ⟨r1, er1, h⟩ := bd_o h
  refine vv_callV ok_X4_isGood q1791 (m_isGood hG er1 (d + 3)) rfl (by omega) ⟨_, _, _, _, _, tp_o, by rw [hG.1]; rfl⟩ rfl rfl (Nat.le_of_ble_eq_true rfl) dX4_operand_54 ?_
  refine vv_if_ne (tgt := 63) dX4_operand_57 (by decide) (fun c2 => ?_) (fun c2 => ?_)
  · rw [if_neg c2] at h
    refine vv_aload_n dX4_operand_63 rfl 0 rfl ?_
    refine vv_iconst (v := (nI 3)) dX4_operand_64 (by decide) ?_
    obtain ⟨r3, er3, h⟩ := bd_o h
    refine vv_callV ok_X4_waitsFor q1858 (m_waitsFor hG er3 (d + 3)) rfl (by omega) ⟨_, _, _, _, _, tp_o, by rw [hG.1]; rfl⟩ rfl rfl (Nat.le_of_ble_eq_true rfl) dX4_operand_65 ?_
    refine vv_aload_n dX4_operand_68 rfl 0 rfl ?_
    obtain ⟨r4, er4, h⟩ := bd_o h
    refine vv_callV ok_X4_goes q1777 (m_goes hG er4 (d + 2)) rfl (by omega) ⟨_, _, _, _, _, tp_o, by rw [hG.1]; rfl⟩ rfl rfl (Nat.le_of_ble_eq_true rfl) dX4_operand_69 ?_
    refine vv_goto (tgt := 18) dX4_operand_72 (by decide) ?_
    exact hk18 h
  · rw [if_pos c2] at h
    refine vv_goto (tgt := 18) dX4_operand_60 (by decide) ?_
    exact hk18 h
def B_operand_18 (k4 : Int32 → Int32 → tw_T → Option tw_T) (k18 : Int32 → Int32 → tw_T → Option tw_T) (x2 : Int32) (x4 : Int32) (T : tw_T) : Option tw_T := (J_isGood T).bind fun r1 => if r1.1 = 0 then (J_operand_75 k4 x2 r1.2) else (if x2 = 0 then (J_operand_75 k4 x2 r1.2) else ((J_knownWord r1.2).bind fun r4 => if r4.1 = (nI 14) then (if x4 = (nI 6) then ((J_wrong (nI 2) r4.2).bind fun r7 => J_operand_50 k4 k18 x2 x4 r7) else (J_operand_50 k4 k18 x2 x4 r4.2)) else (J_operand_75 k4 x2 r4.2)))
def J_operand_18 (k4 : Int32 → Int32 → tw_T → Option tw_T) : Nat → Int32 → Int32 → tw_T → Option tw_T
  | 0, _, _, _ => none
  | n + 1, x2, x4, T => B_operand_18 k4 (J_operand_18 k4 n) x2 x4 T
theorem vb_operand_18 {l : Launch} {G : vv_G} {d : Nat} {o : Nat} {h0 : Nat → Option vv_E} {nz : Nat × Nat} (hG : vv_gok G) {k4 : Int32 → Int32 → tw_T → Option tw_T} (hk4 : ∀ {x2 : Int32} {x3 : Int32} {T : tw_T} {r : tw_T}, k4 x2 x3 T = some r → vv_V l G MX4_operand (d + 4) 4 [(0, .ref o), (2, .int x2), (3, .int x3)] [] (tp o h0 T, nz) (.inl none, (tp o h0 r, nz))) {k18 : Int32 → Int32 → tw_T → Option tw_T} (hk18 : ∀ {x2 : Int32} {x4 : Int32} {T : tw_T} {r : tw_T}, k18 x2 x4 T = some r → vv_V l G MX4_operand (d + 4) 18 [(0, .ref o), (2, .int x2), (4, .int x4)] [] (tp o h0 T, nz) (.inl none, (tp o h0 r, nz))) {x2 : Int32} {x4 : Int32} {T : tw_T} {r : tw_T} (h : B_operand_18 k4 k18 x2 x4 T = some r) : vv_V l G MX4_operand (d + 4) 18 [(0, .ref o), (2, .int x2), (4, .int x4)] [] (tp o h0 T, nz) (.inl none, (tp o h0 r, nz)) := by
  unfold B_operand_18 at h
  refine vv_aload_n dX4_operand_18 rfl 0 rfl ?_
  obtain ⟨r1, er1, h⟩ := bd_o h
  refine vv_callV ok_X4_isGood q1791 (m_isGood hG er1 (d + 3)) rfl (by omega) ⟨_, _, _, _, _, tp_o, by rw [hG.1]; rfl⟩ rfl rfl (Nat.le_of_ble_eq_true rfl) dX4_operand_19 ?_
  refine vv_if_eq (tgt := 75) dX4_operand_22 (by decide) (fun c2 => ?_) (fun c2 => ?_)
  · rw [if_pos c2] at h
    refine vv_sub (lv' := [(0, .ref o), (2, .int x2)]) [0, 1] rfl ?_
    exact v_operand_75 hG hk4 h
  · rw [if_neg c2] at h
    refine vv_iload_n dX4_operand_25 rfl 1 rfl ?_
    refine vv_if_eq (tgt := 75) dX4_operand_26 (by decide) (fun c3 => ?_) (fun c3 => ?_)
    · rw [if_pos c3] at h
      refine vv_sub (lv' := [(0, .ref o), (2, .int x2)]) [0, 1] rfl ?_
      exact v_operand_75 hG hk4 h
    · rw [if_neg c3] at h
      refine vv_aload_n dX4_operand_29 rfl 0 rfl ?_
      obtain ⟨r4, er4, h⟩ := bd_o h
      refine vv_callV ok_X4_knownWord q1799 (m_knownWord hG er4 (d + 1)) rfl (by omega) ⟨_, _, _, _, _, tp_o, by rw [hG.1]; rfl⟩ rfl rfl (Nat.le_of_ble_eq_true rfl) dX4_operand_30 ?_
      refine vv_bipush (v := (nI 14)) dX4_operand_33 (by decide) ?_
      refine vv_icmp_ne (tgt := 75) dX4_operand_35 (by decide) (fun c5 => ?_) (fun c5 => ?_)
      · rw [if_neg c5] at h
        refine vv_sub (lv' := [(0, .ref o), (2, .int x2)]) [0, 1] rfl ?_
        exact v_operand_75 hG hk4 h
      · rw [if_pos c5] at h
        refine vv_iload dX4_operand_38 2 rfl ?_
        refine vv_bipush (v := (nI 6)) dX4_operand_40 (by decide) ?_
        refine vv_icmp_ne (tgt := 50) dX4_operand_42 (by decide) (fun c6 => ?_) (fun c6 => ?_)
        · rw [if_neg c6] at h
          exact v_operand_50 hG hk4 hk18 h
        · rw [if_pos c6] at h
          refine vv_aload_n dX4_operand_45 rfl 0 rfl ?_
          refine vv_iconst (v := (nI 2)) dX4_operand_46 (by decide) ?_
          obtain ⟨r7, er7, h⟩ := bd_o h
          refine vv_callV ok_X4_wrong q1814 (m_wrong hG er7 (d + 3)) rfl (by omega) ⟨_, _, _, _, _, tp_o, by rw [hG.1]; rfl⟩ rfl rfl (Nat.le_of_ble_eq_true rfl) dX4_operand_47 ?_
          exact v_operand_50 hG hk4 hk18 h
theorem v_operand_18 {l : Launch} {G : vv_G} {d : Nat} {o : Nat} {h0 : Nat → Option vv_E} {nz : Nat × Nat} (hG : vv_gok G) {k4 : Int32 → Int32 → tw_T → Option tw_T} (hk4 : ∀ {x2 : Int32} {x3 : Int32} {T : tw_T} {r : tw_T}, k4 x2 x3 T = some r → vv_V l G MX4_operand (d + 4) 4 [(0, .ref o), (2, .int x2), (3, .int x3)] [] (tp o h0 T, nz) (.inl none, (tp o h0 r, nz))) : ∀ (n : Nat) {x2 : Int32} {x4 : Int32} {T : tw_T} {r : tw_T}, J_operand_18 k4 n x2 x4 T = some r → vv_V l G MX4_operand (d + 4) 18 [(0, .ref o), (2, .int x2), (4, .int x4)] [] (tp o h0 T, nz) (.inl none, (tp o h0 r, nz)) := by
  intro n
  induction n with
  | zero => intro _ _ _ _ h; cases h
  | succ n ih => intro _ _ _ _ h; exact vb_operand_18 hG hk4 ih h
def B_operand_4 (k4 : Int32 → Int32 → tw_T → Option tw_T) (x2 : Int32) (x3 : Int32) (T : tw_T) : Option tw_T := if x3 = 0 then (J_operand_120 T) else ((J_isGood T).bind fun r2 => if r2.1 = 0 then (J_operand_120 r2.2) else (J_operand_18 k4 NN x2 (nI 0) r2.2))
def J_operand_4 : Nat → Int32 → Int32 → tw_T → Option tw_T
  | 0, _, _, _ => none
  | n + 1, x2, x3, T => B_operand_4 (J_operand_4 n) x2 x3 T
theorem vb_operand_4 {l : Launch} {G : vv_G} {d : Nat} {o : Nat} {h0 : Nat → Option vv_E} {nz : Nat × Nat} (hG : vv_gok G) {k4 : Int32 → Int32 → tw_T → Option tw_T} (hk4 : ∀ {x2 : Int32} {x3 : Int32} {T : tw_T} {r : tw_T}, k4 x2 x3 T = some r → vv_V l G MX4_operand (d + 4) 4 [(0, .ref o), (2, .int x2), (3, .int x3)] [] (tp o h0 T, nz) (.inl none, (tp o h0 r, nz))) {x2 : Int32} {x3 : Int32} {T : tw_T} {r : tw_T} (h : B_operand_4 k4 x2 x3 T = some r) : vv_V l G MX4_operand (d + 4) 4 [(0, .ref o), (2, .int x2), (3, .int x3)] [] (tp o h0 T, nz) (.inl none, (tp o h0 r, nz)) := by
  unfold B_operand_4 at h
  refine vv_iload_n dX4_operand_4 rfl 2 rfl ?_
  refine vv_if_eq (tgt := 120) dX4_operand_5 (by decide) (fun c1 => ?_) (fun c1 => ?_)
  · rw [if_pos c1] at h
    refine vv_sub (lv' := [(0, .ref o)]) [0] rfl ?_
    exact v_operand_120 hG h
  · rw [if_neg c1] at h
    refine vv_aload_n dX4_operand_8 rfl 0 rfl ?_
    obtain ⟨r2, er2, h⟩ := bd_o h
    refine vv_callV ok_X4_isGood q1791 (m_isGood hG er2 (d + 3)) rfl (by omega) ⟨_, _, _, _, _, tp_o, by rw [hG.1]; rfl⟩ rfl rfl (Nat.le_of_ble_eq_true rfl) dX4_operand_9 ?_
    refine vv_if_eq (tgt := 120) dX4_operand_12 (by decide) (fun c3 => ?_) (fun c3 => ?_)
    · rw [if_pos c3] at h
      refine vv_sub (lv' := [(0, .ref o)]) [0] rfl ?_
      exact v_operand_120 hG h
    · rw [if_neg c3] at h
      refine vv_iconst (v := (nI 0)) dX4_operand_15 (by decide) ?_
      refine vv_istore (lv' := [(0, .ref o), (2, .int x2), (3, .int x3), (4, .int (nI 0))]) dX4_operand_16 (by decide) [1, 2, 3, 0] rfl ?_
      refine vv_sub (lv' := [(0, .ref o), (2, .int x2), (4, .int (nI 0))]) [0, 1, 3] rfl ?_
      exact v_operand_18 hG hk4 NN h
theorem v_operand_4 {l : Launch} {G : vv_G} {d : Nat} {o : Nat} {h0 : Nat → Option vv_E} {nz : Nat × Nat} (hG : vv_gok G) : ∀ (n : Nat) {x2 : Int32} {x3 : Int32} {T : tw_T} {r : tw_T}, J_operand_4 n x2 x3 T = some r → vv_V l G MX4_operand (d + 4) 4 [(0, .ref o), (2, .int x2), (3, .int x3)] [] (tp o h0 T, nz) (.inl none, (tp o h0 r, nz)) := by
  intro n
  induction n with
  | zero => intro _ _ _ _ h; cases h
  | succ n ih => intro _ _ _ _ h; exact vb_operand_4 hG ih h
def J_operand (x1 : Int32) (T : tw_T) : Option tw_T := J_operand_4 NN x1 (nI 1) T
theorem v_operand_0 {l : Launch} {G : vv_G} {d : Nat} {o : Nat} {h0 : Nat → Option vv_E} {nz : Nat × Nat} (hG : vv_gok G) {x1 : Int32} {T : tw_T} {r : tw_T} (h : J_operand x1 T = some r) : vv_V l G MX4_operand (d + 4) 0 [(0, .ref o), (1, .int x1)] [] (tp o h0 T, nz) (.inl none, (tp o h0 r, nz)) := by
  unfold J_operand at h
  refine vv_iload_n dX4_operand_0 rfl 1 rfl ?_
  refine vv_istore_n (lv' := [(0, .ref o), (1, .int x1), (2, .int x1)]) dX4_operand_1 rfl (by decide) [1, 2, 0] rfl ?_
  refine vv_iconst (v := (nI 1)) dX4_operand_2 (by decide) ?_
  refine vv_istore_n (lv' := [(0, .ref o), (1, .int x1), (2, .int x1), (3, .int (nI 1))]) dX4_operand_3 rfl (by decide) [1, 2, 3, 0] rfl ?_
  refine vv_sub (lv' := [(0, .ref o), (2, .int x1), (3, .int (nI 1))]) [0, 2, 3] rfl ?_
  exact v_operand_4 hG NN h
theorem m_operand {l : Launch} {G : vv_G} {o : Nat} {h0 : Nat → Option vv_E} {nz : Nat × Nat} (hG : vv_gok G) {x1 : Int32} {T : tw_T} {r : tw_T} (h : J_operand x1 T = some r) (d : Nat) : vv_Met l G MX4_operand (d + 4) [.ref o, .int x1] (tp o h0 T, nz) (.inl none, (tp o h0 r, nz)) := vv_head (by decide +kernel) rfl (Nat.le_of_ble_eq_true rfl) rfl (v_operand_0 hG h)
/-! expression -/
def J_expression_345 (T : tw_T) : Option tw_T := (J_drops (nI 0) T).bind fun r1 => (J_puts (nI 0) r1).bind fun r2 => some r2
theorem v_expression_345 {l : Launch} {G : vv_G} {d : Nat} {o : Nat} {h0 : Nat → Option vv_E} {nz : Nat × Nat} (hG : vv_gok G) {T : tw_T} {r : tw_T} (h : J_expression_345 T = some r) : vv_V l G MX4_expression (d + 5) 345 [(0, .ref o)] [] (tp o h0 T, nz) (.inl none, (tp o h0 r, nz)) := by
  unfold J_expression_345 at h
  refine vv_aload_n dX4_expression_345 rfl 0 rfl ?_
  refine vv_iconst (v := (nI 0)) dX4_expression_346 (by decide) ?_
  obtain ⟨r1, er1, h⟩ := bd_o h
  refine vv_callV ok_X4_drops q1870 (m_drops hG er1 (d + 3)) rfl (by omega) ⟨_, _, _, _, _, tp_o, by rw [hG.1]; rfl⟩ rfl rfl (Nat.le_of_ble_eq_true rfl) dX4_expression_347 ?_
  refine vv_aload_n dX4_expression_350 rfl 0 rfl ?_
  refine vv_iconst (v := (nI 0)) dX4_expression_351 (by decide) ?_
  obtain ⟨r2, er2, h⟩ := bd_o h
  refine vv_callV ok_X4_puts q1866 (m_puts hG er2 (d + 4)) rfl (by omega) ⟨_, _, _, _, _, tp_o, by rw [hG.1]; rfl⟩ rfl rfl (Nat.le_of_ble_eq_true rfl) dX4_expression_352 ?_
  cases h
  exact vv_vret rfl dX4_expression_355
def J_expression_325 (T : tw_T) : Option tw_T := (J_isGood T).bind fun r1 => if r1.1 = 0 then (J_expression_345 r1.2) else (if (r1.2.1 31) ≤ (nI 1) then (J_expression_345 r1.2) else ((J_wrong (nI 1) r1.2).bind fun r4 => J_expression_345 r4))
theorem v_expression_325 {l : Launch} {G : vv_G} {d : Nat} {o : Nat} {h0 : Nat → Option vv_E} {nz : Nat × Nat} (hG : vv_gok G) {T : tw_T} {r : tw_T} (h : J_expression_325 T = some r) : vv_V l G MX4_expression (d + 5) 325 [(0, .ref o)] [] (tp o h0 T, nz) (.inl none, (tp o h0 r, nz)) := by
  unfold J_expression_325 at h
  refine vv_aload_n dX4_expression_325 rfl 0 rfl ?_
  obtain ⟨r1, er1, h⟩ := bd_o h
  refine vv_callV ok_X4_isGood q1791 (m_isGood hG er1 (d + 4)) rfl (by omega) ⟨_, _, _, _, _, tp_o, by rw [hG.1]; rfl⟩ rfl rfl (Nat.le_of_ble_eq_true rfl) dX4_expression_326 ?_
  refine vv_if_eq (tgt := 345) dX4_expression_329 (by decide) (fun c2 => ?_) (fun c2 => ?_)
  · rw [if_pos c2] at h
    exact v_expression_345 hG h
  · rw [if_neg c2] at h
    refine vv_aload_n dX4_expression_332 rfl 0 rfl ?_
    refine tw_get (fl_X4_208 hG) (k := 31) rfl dX4_expression_333 ?_
    refine vv_iconst (v := (nI 1)) dX4_expression_336 (by decide) ?_
    refine vv_icmp_le (tgt := 345) dX4_expression_337 (by decide) (fun c3 => ?_) (fun c3 => ?_)
    · rw [if_pos c3] at h
      exact v_expression_345 hG h
    · rw [if_neg c3] at h
      refine vv_aload_n dX4_expression_340 rfl 0 rfl ?_
      refine vv_iconst (v := (nI 1)) dX4_expression_341 (by decide) ?_
      obtain ⟨r4, er4, h⟩ := bd_o h
      refine vv_callV ok_X4_wrong q1814 (m_wrong hG er4 (d + 4)) rfl (by omega) ⟨_, _, _, _, _, tp_o, by rw [hG.1]; rfl⟩ rfl rfl (Nat.le_of_ble_eq_true rfl) dX4_expression_342 ?_
      exact v_expression_345 hG h
def J_expression_322 (k29 : Int32 → tw_T → Option tw_T) (x1 : Int32) (T : tw_T) : Option tw_T := k29 x1 T
theorem v_expression_322 {l : Launch} {G : vv_G} {d : Nat} {o : Nat} {h0 : Nat → Option vv_E} {nz : Nat × Nat} (hG : vv_gok G) {k29 : Int32 → tw_T → Option tw_T} (hk29 : ∀ {x1 : Int32} {T : tw_T} {r : tw_T}, k29 x1 T = some r → vv_V l G MX4_expression (d + 5) 29 [(0, .ref o), (1, .int x1)] [] (tp o h0 T, nz) (.inl none, (tp o h0 r, nz))) {x1 : Int32} {T : tw_T} {r : tw_T} (h : J_expression_322 k29 x1 T = some r) : vv_V l G MX4_expression (d + 5) 322 [(0, .ref o), (1, .int x1)] [] (tp o h0 T, nz) (.inl none, (tp o h0 r, nz)) := by
  unfold J_expression_322 at h
  refine vv_goto (tgt := 29) dX4_expression_322 (by decide) ?_
  exact hk29 h
def J_expression_84 (k29 : Int32 → tw_T → Option tw_T) (s1 : Int32) (x1 : Int32) (T : tw_T) : Option tw_T := (J_waitsFor s1 T).bind fun r1 => (stA r1 19 9 (r1.1 31) (nI 0)).bind fun T2 => (J_goes T2).bind fun r3 => (J_operand (nI 1) r3).bind fun r4 => J_expression_322 k29 x1 r4
theorem v_expression_84 {l : Launch} {G : vv_G} {d : Nat} {o : Nat} {h0 : Nat → Option vv_E} {nz : Nat × Nat} (hG : vv_gok G) {k29 : Int32 → tw_T → Option tw_T} (hk29 : ∀ {x1 : Int32} {T : tw_T} {r : tw_T}, k29 x1 T = some r → vv_V l G MX4_expression (d + 5) 29 [(0, .ref o), (1, .int x1)] [] (tp o h0 T, nz) (.inl none, (tp o h0 r, nz))) {s1 : Int32} {x1 : Int32} {T : tw_T} {r : tw_T} (h : J_expression_84 k29 s1 x1 T = some r) : vv_V l G MX4_expression (d + 5) 84 [(0, .ref o), (1, .int x1)] [.int s1, .ref o] (tp o h0 T, nz) (.inl none, (tp o h0 r, nz)) := by
  unfold J_expression_84 at h
  obtain ⟨r1, er1, h⟩ := bd_o h
  refine vv_callV ok_X4_waitsFor q1858 (m_waitsFor hG er1 (d + 4)) rfl (by omega) ⟨_, _, _, _, _, tp_o, by rw [hG.1]; rfl⟩ rfl rfl (Nat.le_of_ble_eq_true rfl) dX4_expression_84 ?_
  refine vv_aload_n dX4_expression_87 rfl 0 rfl ?_
  refine tw_get (fl_X4_71 hG) (k := 41) rfl dX4_expression_88 ?_
  refine vv_aload_n dX4_expression_91 rfl 0 rfl ?_
  refine tw_get (fl_X4_208 hG) (k := 31) rfl dX4_expression_92 ?_
  refine vv_iconst (v := (nI 0)) dX4_expression_95 (by decide) ?_
  obtain ⟨T2, iT2, eT2, h⟩ := st_o h
  refine tw_zast 19 (by decide) rfl iT2 (by decide) eT2 dX4_expression_96 ?_
  refine vv_aload_n dX4_expression_97 rfl 0 rfl ?_
  obtain ⟨r3, er3, h⟩ := bd_o h
  refine vv_callV ok_X4_goes q1777 (m_goes hG er3 (d + 3)) rfl (by omega) ⟨_, _, _, _, _, tp_o, by rw [hG.1]; rfl⟩ rfl rfl (Nat.le_of_ble_eq_true rfl) dX4_expression_98 ?_
  refine vv_aload_n dX4_expression_101 rfl 0 rfl ?_
  refine vv_iconst (v := (nI 1)) dX4_expression_102 (by decide) ?_
  obtain ⟨r4, er4, h⟩ := bd_o h
  refine vv_callV ok_X4_operand q1854 (m_operand hG er4 (d + 0)) rfl (by omega) ⟨_, _, _, _, _, tp_o, by rw [hG.1]; rfl⟩ rfl rfl (Nat.le_of_ble_eq_true rfl) dX4_expression_103 ?_
  refine vv_goto (tgt := 322) dX4_expression_106 (by decide) ?_
  exact v_expression_322 hG hk29 h
def J_expression_69 (k29 : Int32 → tw_T → Option tw_T) (s1 : Int32) (x1 : Int32) (x2 : Int32) (T : tw_T) : Option tw_T := (J_drops s1 T).bind fun r1 => if x2 = (nI 12) then (J_expression_84 k29 (nI 4) x1 r1) else (J_expression_84 k29 (nI 5) x1 r1)
theorem v_expression_69 {l : Launch} {G : vv_G} {d : Nat} {o : Nat} {h0 : Nat → Option vv_E} {nz : Nat × Nat} (hG : vv_gok G) {k29 : Int32 → tw_T → Option tw_T} (hk29 : ∀ {x1 : Int32} {T : tw_T} {r : tw_T}, k29 x1 T = some r → vv_V l G MX4_expression (d + 5) 29 [(0, .ref o), (1, .int x1)] [] (tp o h0 T, nz) (.inl none, (tp o h0 r, nz))) {s1 : Int32} {x1 : Int32} {x2 : Int32} {T : tw_T} {r : tw_T} (h : J_expression_69 k29 s1 x1 x2 T = some r) : vv_V l G MX4_expression (d + 5) 69 [(0, .ref o), (1, .int x1), (2, .int x2)] [.int s1, .ref o] (tp o h0 T, nz) (.inl none, (tp o h0 r, nz)) := by
  unfold J_expression_69 at h
  obtain ⟨r1, er1, h⟩ := bd_o h
  refine vv_callV ok_X4_drops q1870 (m_drops hG er1 (d + 3)) rfl (by omega) ⟨_, _, _, _, _, tp_o, by rw [hG.1]; rfl⟩ rfl rfl (Nat.le_of_ble_eq_true rfl) dX4_expression_69 ?_
  refine vv_aload_n dX4_expression_72 rfl 0 rfl ?_
  refine vv_iload_n dX4_expression_73 rfl 2 rfl ?_
  refine vv_bipush (v := (nI 12)) dX4_expression_74 (by decide) ?_
  refine vv_icmp_ne (tgt := 83) dX4_expression_76 (by decide) (fun c2 => ?_) (fun c2 => ?_)
  · rw [if_neg c2] at h
    refine vv_iconst (v := (nI 5)) dX4_expression_83 (by decide) ?_
    refine vv_sub (lv' := [(0, .ref o), (1, .int x1)]) [0, 1] rfl ?_
    exact v_expression_84 hG hk29 h
  · rw [if_pos c2] at h
    refine vv_iconst (v := (nI 4)) dX4_expression_79 (by decide) ?_
    refine vv_goto (tgt := 84) dX4_expression_80 (by decide) ?_
    refine vv_sub (lv' := [(0, .ref o), (1, .int x1)]) [0, 1] rfl ?_
    exact v_expression_84 hG hk29 h
def J_expression_57 (k29 : Int32 → tw_T → Option tw_T) (x1 : Int32) (x2 : Int32) (T : tw_T) : Option tw_T := if x2 = (nI 12) then (J_expression_69 k29 (nI 2) x1 x2 T) else (J_expression_69 k29 (nI 1) x1 x2 T)
theorem v_expression_57 {l : Launch} {G : vv_G} {d : Nat} {o : Nat} {h0 : Nat → Option vv_E} {nz : Nat × Nat} (hG : vv_gok G) {k29 : Int32 → tw_T → Option tw_T} (hk29 : ∀ {x1 : Int32} {T : tw_T} {r : tw_T}, k29 x1 T = some r → vv_V l G MX4_expression (d + 5) 29 [(0, .ref o), (1, .int x1)] [] (tp o h0 T, nz) (.inl none, (tp o h0 r, nz))) {x1 : Int32} {x2 : Int32} {T : tw_T} {r : tw_T} (h : J_expression_57 k29 x1 x2 T = some r) : vv_V l G MX4_expression (d + 5) 57 [(0, .ref o), (1, .int x1), (2, .int x2)] [] (tp o h0 T, nz) (.inl none, (tp o h0 r, nz)) := by
  unfold J_expression_57 at h
  refine vv_aload_n dX4_expression_57 rfl 0 rfl ?_
  refine vv_iload_n dX4_expression_58 rfl 2 rfl ?_
  refine vv_bipush (v := (nI 12)) dX4_expression_59 (by decide) ?_
  refine vv_icmp_ne (tgt := 68) dX4_expression_61 (by decide) (fun c1 => ?_) (fun c1 => ?_)
  · rw [if_neg c1] at h
    refine vv_iconst (v := (nI 1)) dX4_expression_68 (by decide) ?_
    exact v_expression_69 hG hk29 h
  · rw [if_pos c1] at h
    refine vv_iconst (v := (nI 2)) dX4_expression_64 (by decide) ?_
    refine vv_goto (tgt := 69) dX4_expression_65 (by decide) ?_
    exact v_expression_69 hG hk29 h
def J_expression_226 (k29 : Int32 → tw_T → Option tw_T) (s1 : Int32) (x1 : Int32) (T : tw_T) : Option tw_T := (J_waitsFor s1 T).bind fun r1 => (J_goes r1).bind fun r2 => (J_operand (nI 0) r2).bind fun r3 => J_expression_322 k29 x1 r3
theorem v_expression_226 {l : Launch} {G : vv_G} {d : Nat} {o : Nat} {h0 : Nat → Option vv_E} {nz : Nat × Nat} (hG : vv_gok G) {k29 : Int32 → tw_T → Option tw_T} (hk29 : ∀ {x1 : Int32} {T : tw_T} {r : tw_T}, k29 x1 T = some r → vv_V l G MX4_expression (d + 5) 29 [(0, .ref o), (1, .int x1)] [] (tp o h0 T, nz) (.inl none, (tp o h0 r, nz))) {s1 : Int32} {x1 : Int32} {T : tw_T} {r : tw_T} (h : J_expression_226 k29 s1 x1 T = some r) : vv_V l G MX4_expression (d + 5) 226 [(0, .ref o), (1, .int x1)] [.int s1, .ref o] (tp o h0 T, nz) (.inl none, (tp o h0 r, nz)) := by
  unfold J_expression_226 at h
  obtain ⟨r1, er1, h⟩ := bd_o h
  refine vv_callV ok_X4_waitsFor q1858 (m_waitsFor hG er1 (d + 4)) rfl (by omega) ⟨_, _, _, _, _, tp_o, by rw [hG.1]; rfl⟩ rfl rfl (Nat.le_of_ble_eq_true rfl) dX4_expression_226 ?_
  refine vv_aload_n dX4_expression_229 rfl 0 rfl ?_
  obtain ⟨r2, er2, h⟩ := bd_o h
  refine vv_callV ok_X4_goes q1777 (m_goes hG er2 (d + 3)) rfl (by omega) ⟨_, _, _, _, _, tp_o, by rw [hG.1]; rfl⟩ rfl rfl (Nat.le_of_ble_eq_true rfl) dX4_expression_230 ?_
  refine vv_aload_n dX4_expression_233 rfl 0 rfl ?_
  refine vv_iconst (v := (nI 0)) dX4_expression_234 (by decide) ?_
  obtain ⟨r3, er3, h⟩ := bd_o h
  refine vv_callV ok_X4_operand q1854 (m_operand hG er3 (d + 0)) rfl (by omega) ⟨_, _, _, _, _, tp_o, by rw [hG.1]; rfl⟩ rfl rfl (Nat.le_of_ble_eq_true rfl) dX4_expression_235 ?_
  refine vv_goto (tgt := 322) dX4_expression_238 (by decide) ?_
  exact v_expression_322 hG hk29 h
def J_expression_204 (k29 : Int32 → tw_T → Option tw_T) (x1 : Int32) (T : tw_T) : Option tw_T := (J_drops (nI 5) T).bind fun r1 => (J_isSign (nI 43) r1).bind fun r2 => if r2.1 = 0 then (J_expression_226 k29 (nI 9) x1 r2.2) else (J_expression_226 k29 (nI 8) x1 r2.2)
theorem v_expression_204 {l : Launch} {G : vv_G} {d : Nat} {o : Nat} {h0 : Nat → Option vv_E} {nz : Nat × Nat} (hG : vv_gok G) {k29 : Int32 → tw_T → Option tw_T} (hk29 : ∀ {x1 : Int32} {T : tw_T} {r : tw_T}, k29 x1 T = some r → vv_V l G MX4_expression (d + 5) 29 [(0, .ref o), (1, .int x1)] [] (tp o h0 T, nz) (.inl none, (tp o h0 r, nz))) {x1 : Int32} {T : tw_T} {r : tw_T} (h : J_expression_204 k29 x1 T = some r) : vv_V l G MX4_expression (d + 5) 204 [(0, .ref o), (1, .int x1)] [] (tp o h0 T, nz) (.inl none, (tp o h0 r, nz)) := by
  unfold J_expression_204 at h
  refine vv_aload_n dX4_expression_204 rfl 0 rfl ?_
  refine vv_iconst (v := (nI 5)) dX4_expression_205 (by decide) ?_
  obtain ⟨r1, er1, h⟩ := bd_o h
  refine vv_callV ok_X4_drops q1870 (m_drops hG er1 (d + 3)) rfl (by omega) ⟨_, _, _, _, _, tp_o, by rw [hG.1]; rfl⟩ rfl rfl (Nat.le_of_ble_eq_true rfl) dX4_expression_206 ?_
  refine vv_aload_n dX4_expression_209 rfl 0 rfl ?_
  refine vv_aload_n dX4_expression_210 rfl 0 rfl ?_
  refine vv_bipush (v := (nI 43)) dX4_expression_211 (by decide) ?_
  obtain ⟨r2, er2, h⟩ := bd_o h
  refine vv_callV ok_X4_isSign q1850 (m_isSign hG er2 (d + 4)) rfl (by omega) ⟨_, _, _, _, _, tp_o, by rw [hG.1]; rfl⟩ rfl rfl (Nat.le_of_ble_eq_true rfl) dX4_expression_213 ?_
  refine vv_if_eq (tgt := 224) dX4_expression_216 (by decide) (fun c3 => ?_) (fun c3 => ?_)
  · rw [if_pos c3] at h
    refine vv_bipush (v := (nI 9)) dX4_expression_224 (by decide) ?_
    exact v_expression_226 hG hk29 h
  · rw [if_neg c3] at h
    refine vv_bipush (v := (nI 8)) dX4_expression_219 (by decide) ?_
    refine vv_goto (tgt := 226) dX4_expression_221 (by decide) ?_
    exact v_expression_226 hG hk29 h
def J_expression_282 (k29 : Int32 → tw_T → Option tw_T) (s1 : Int32) (x1 : Int32) (T : tw_T) : Option tw_T := (J_waitsFor s1 T).bind fun r1 => (J_goes r1).bind fun r2 => (J_operand (nI 0) r2).bind fun r3 => J_expression_322 k29 x1 r3
theorem v_expression_282 {l : Launch} {G : vv_G} {d : Nat} {o : Nat} {h0 : Nat → Option vv_E} {nz : Nat × Nat} (hG : vv_gok G) {k29 : Int32 → tw_T → Option tw_T} (hk29 : ∀ {x1 : Int32} {T : tw_T} {r : tw_T}, k29 x1 T = some r → vv_V l G MX4_expression (d + 5) 29 [(0, .ref o), (1, .int x1)] [] (tp o h0 T, nz) (.inl none, (tp o h0 r, nz))) {s1 : Int32} {x1 : Int32} {T : tw_T} {r : tw_T} (h : J_expression_282 k29 s1 x1 T = some r) : vv_V l G MX4_expression (d + 5) 282 [(0, .ref o), (1, .int x1)] [.int s1, .ref o] (tp o h0 T, nz) (.inl none, (tp o h0 r, nz)) := by
  unfold J_expression_282 at h
  obtain ⟨r1, er1, h⟩ := bd_o h
  refine vv_callV ok_X4_waitsFor q1858 (m_waitsFor hG er1 (d + 4)) rfl (by omega) ⟨_, _, _, _, _, tp_o, by rw [hG.1]; rfl⟩ rfl rfl (Nat.le_of_ble_eq_true rfl) dX4_expression_282 ?_
  refine vv_aload_n dX4_expression_285 rfl 0 rfl ?_
  obtain ⟨r2, er2, h⟩ := bd_o h
  refine vv_callV ok_X4_goes q1777 (m_goes hG er2 (d + 3)) rfl (by omega) ⟨_, _, _, _, _, tp_o, by rw [hG.1]; rfl⟩ rfl rfl (Nat.le_of_ble_eq_true rfl) dX4_expression_286 ?_
  refine vv_aload_n dX4_expression_289 rfl 0 rfl ?_
  refine vv_iconst (v := (nI 0)) dX4_expression_290 (by decide) ?_
  obtain ⟨r3, er3, h⟩ := bd_o h
  refine vv_callV ok_X4_operand q1854 (m_operand hG er3 (d + 0)) rfl (by omega) ⟨_, _, _, _, _, tp_o, by rw [hG.1]; rfl⟩ rfl rfl (Nat.le_of_ble_eq_true rfl) dX4_expression_291 ?_
  refine vv_goto (tgt := 322) dX4_expression_294 (by decide) ?_
  exact v_expression_322 hG hk29 h
def J_expression_259 (k29 : Int32 → tw_T → Option tw_T) (x1 : Int32) (T : tw_T) : Option tw_T := (J_drops (nI 6) T).bind fun r1 => (J_isSign (nI 42) r1).bind fun r2 => if r2.1 = 0 then (J_expression_282 k29 (nI 11) x1 r2.2) else (J_expression_282 k29 (nI 10) x1 r2.2)
theorem v_expression_259 {l : Launch} {G : vv_G} {d : Nat} {o : Nat} {h0 : Nat → Option vv_E} {nz : Nat × Nat} (hG : vv_gok G) {k29 : Int32 → tw_T → Option tw_T} (hk29 : ∀ {x1 : Int32} {T : tw_T} {r : tw_T}, k29 x1 T = some r → vv_V l G MX4_expression (d + 5) 29 [(0, .ref o), (1, .int x1)] [] (tp o h0 T, nz) (.inl none, (tp o h0 r, nz))) {x1 : Int32} {T : tw_T} {r : tw_T} (h : J_expression_259 k29 x1 T = some r) : vv_V l G MX4_expression (d + 5) 259 [(0, .ref o), (1, .int x1)] [] (tp o h0 T, nz) (.inl none, (tp o h0 r, nz)) := by
  unfold J_expression_259 at h
  refine vv_aload_n dX4_expression_259 rfl 0 rfl ?_
  refine vv_bipush (v := (nI 6)) dX4_expression_260 (by decide) ?_
  obtain ⟨r1, er1, h⟩ := bd_o h
  refine vv_callV ok_X4_drops q1870 (m_drops hG er1 (d + 3)) rfl (by omega) ⟨_, _, _, _, _, tp_o, by rw [hG.1]; rfl⟩ rfl rfl (Nat.le_of_ble_eq_true rfl) dX4_expression_262 ?_
  refine vv_aload_n dX4_expression_265 rfl 0 rfl ?_
  refine vv_aload_n dX4_expression_266 rfl 0 rfl ?_
  refine vv_bipush (v := (nI 42)) dX4_expression_267 (by decide) ?_
  obtain ⟨r2, er2, h⟩ := bd_o h
  refine vv_callV ok_X4_isSign q1850 (m_isSign hG er2 (d + 4)) rfl (by omega) ⟨_, _, _, _, _, tp_o, by rw [hG.1]; rfl⟩ rfl rfl (Nat.le_of_ble_eq_true rfl) dX4_expression_269 ?_
  refine vv_if_eq (tgt := 280) dX4_expression_272 (by decide) (fun c3 => ?_) (fun c3 => ?_)
  · rw [if_pos c3] at h
    refine vv_bipush (v := (nI 11)) dX4_expression_280 (by decide) ?_
    exact v_expression_282 hG hk29 h
  · rw [if_neg c3] at h
    refine vv_bipush (v := (nI 10)) dX4_expression_275 (by decide) ?_
    refine vv_goto (tgt := 282) dX4_expression_277 (by decide) ?_
    exact v_expression_282 hG hk29 h
def J_expression_320 (k29 : Int32 → tw_T → Option tw_T) (T : tw_T) : Option tw_T := J_expression_322 k29 (nI 0) T
theorem v_expression_320 {l : Launch} {G : vv_G} {d : Nat} {o : Nat} {h0 : Nat → Option vv_E} {nz : Nat × Nat} (hG : vv_gok G) {k29 : Int32 → tw_T → Option tw_T} (hk29 : ∀ {x1 : Int32} {T : tw_T} {r : tw_T}, k29 x1 T = some r → vv_V l G MX4_expression (d + 5) 29 [(0, .ref o), (1, .int x1)] [] (tp o h0 T, nz) (.inl none, (tp o h0 r, nz))) {T : tw_T} {r : tw_T} (h : J_expression_320 k29 T = some r) : vv_V l G MX4_expression (d + 5) 320 [(0, .ref o)] [] (tp o h0 T, nz) (.inl none, (tp o h0 r, nz)) := by
  unfold J_expression_320 at h
  refine vv_iconst (v := (nI 0)) dX4_expression_320 (by decide) ?_
  refine vv_istore_n (lv' := [(0, .ref o), (1, .int (nI 0))]) dX4_expression_321 rfl (by decide) [1, 0] rfl ?_
  exact v_expression_322 hG hk29 h
def J_expression_186 (k29 : Int32 → tw_T → Option tw_T) (x1 : Int32) (T : tw_T) : Option tw_T := (J_isSign (nI 43) T).bind fun r1 => if r1.1 = 0 then ((J_isSign (nI 45) r1.2).bind fun r3 => if r3.1 = 0 then ((J_isSign (nI 42) r3.2).bind fun r5 => if r5.1 = 0 then ((J_isSign (nI 47) r5.2).bind fun r7 => if r7.1 = 0 then ((J_isSign (nI 41) r7.2).bind fun r9 => if r9.1 = 0 then (J_expression_320 k29 r9.2) else ((J_isOpened r9.2).bind fun r11 => if r11.1 = 0 then (J_expression_320 k29 r11.2) else ((J_closes r11.2).bind fun r13 => J_expression_322 k29 x1 r13))) else (J_expression_259 k29 x1 r7.2)) else (J_expression_259 k29 x1 r5.2)) else (J_expression_204 k29 x1 r3.2)) else (J_expression_204 k29 x1 r1.2)
theorem v_expression_186 {l : Launch} {G : vv_G} {d : Nat} {o : Nat} {h0 : Nat → Option vv_E} {nz : Nat × Nat} (hG : vv_gok G) {k29 : Int32 → tw_T → Option tw_T} (hk29 : ∀ {x1 : Int32} {T : tw_T} {r : tw_T}, k29 x1 T = some r → vv_V l G MX4_expression (d + 5) 29 [(0, .ref o), (1, .int x1)] [] (tp o h0 T, nz) (.inl none, (tp o h0 r, nz))) {x1 : Int32} {T : tw_T} {r : tw_T} (h : J_expression_186 k29 x1 T = some r) : vv_V l G MX4_expression (d + 5) 186 [(0, .ref o), (1, .int x1)] [] (tp o h0 T, nz) (.inl none, (tp o h0 r, nz)) := by
  unfold J_expression_186 at h
  refine vv_aload_n dX4_expression_186 rfl 0 rfl ?_
  refine vv_bipush (v := (nI 43)) dX4_expression_187 (by decide) ?_
  obtain ⟨r1, er1, h⟩ := bd_o h
  refine vv_callV ok_X4_isSign q1850 (m_isSign hG er1 (d + 4)) rfl (by omega) ⟨_, _, _, _, _, tp_o, by rw [hG.1]; rfl⟩ rfl rfl (Nat.le_of_ble_eq_true rfl) dX4_expression_189 ?_
  refine vv_if_ne (tgt := 204) dX4_expression_192 (by decide) (fun c2 => ?_) (fun c2 => ?_)
  · rw [if_neg c2] at h
    exact v_expression_204 hG hk29 h
  · rw [if_pos c2] at h
    refine vv_aload_n dX4_expression_195 rfl 0 rfl ?_
    refine vv_bipush (v := (nI 45)) dX4_expression_196 (by decide) ?_
    obtain ⟨r3, er3, h⟩ := bd_o h
    refine vv_callV ok_X4_isSign q1850 (m_isSign hG er3 (d + 4)) rfl (by omega) ⟨_, _, _, _, _, tp_o, by rw [hG.1]; rfl⟩ rfl rfl (Nat.le_of_ble_eq_true rfl) dX4_expression_198 ?_
    refine vv_if_eq (tgt := 241) dX4_expression_201 (by decide) (fun c4 => ?_) (fun c4 => ?_)
    · rw [if_pos c4] at h
      refine vv_aload_n dX4_expression_241 rfl 0 rfl ?_
      refine vv_bipush (v := (nI 42)) dX4_expression_242 (by decide) ?_
      obtain ⟨r5, er5, h⟩ := bd_o h
      refine vv_callV ok_X4_isSign q1850 (m_isSign hG er5 (d + 4)) rfl (by omega) ⟨_, _, _, _, _, tp_o, by rw [hG.1]; rfl⟩ rfl rfl (Nat.le_of_ble_eq_true rfl) dX4_expression_244 ?_
      refine vv_if_ne (tgt := 259) dX4_expression_247 (by decide) (fun c6 => ?_) (fun c6 => ?_)
      · rw [if_neg c6] at h
        exact v_expression_259 hG hk29 h
      · rw [if_pos c6] at h
        refine vv_aload_n dX4_expression_250 rfl 0 rfl ?_
        refine vv_bipush (v := (nI 47)) dX4_expression_251 (by decide) ?_
        obtain ⟨r7, er7, h⟩ := bd_o h
        refine vv_callV ok_X4_isSign q1850 (m_isSign hG er7 (d + 4)) rfl (by omega) ⟨_, _, _, _, _, tp_o, by rw [hG.1]; rfl⟩ rfl rfl (Nat.le_of_ble_eq_true rfl) dX4_expression_253 ?_
        refine vv_if_eq (tgt := 297) dX4_expression_256 (by decide) (fun c8 => ?_) (fun c8 => ?_)
        · rw [if_pos c8] at h
          refine vv_aload_n dX4_expression_297 rfl 0 rfl ?_
          refine vv_bipush (v := (nI 41)) dX4_expression_298 (by decide) ?_
          obtain ⟨r9, er9, h⟩ := bd_o h
          refine vv_callV ok_X4_isSign q1850 (m_isSign hG er9 (d + 4)) rfl (by omega) ⟨_, _, _, _, _, tp_o, by rw [hG.1]; rfl⟩ rfl rfl (Nat.le_of_ble_eq_true rfl) dX4_expression_300 ?_
          refine vv_if_eq (tgt := 320) dX4_expression_303 (by decide) (fun c10 => ?_) (fun c10 => ?_)
          · rw [if_pos c10] at h
            refine vv_sub (lv' := [(0, .ref o)]) [0] rfl ?_
            exact v_expression_320 hG hk29 h
          · rw [if_neg c10] at h
            refine vv_aload_n dX4_expression_306 rfl 0 rfl ?_
            obtain ⟨r11, er11, h⟩ := bd_o h
            refine vv_callV ok_X4_isOpened q1880 (m_isOpened hG er11 (d + 3)) rfl (by omega) ⟨_, _, _, _, _, tp_o, by rw [hG.1]; rfl⟩ rfl rfl (Nat.le_of_ble_eq_true rfl) dX4_expression_307 ?_
            refine vv_if_eq (tgt := 320) dX4_expression_310 (by decide) (fun c12 => ?_) (fun c12 => ?_)
            · rw [if_pos c12] at h
              refine vv_sub (lv' := [(0, .ref o)]) [0] rfl ?_
              exact v_expression_320 hG hk29 h
            · rw [if_neg c12] at h
              refine vv_aload_n dX4_expression_313 rfl 0 rfl ?_
              obtain ⟨r13, er13, h⟩ := bd_o h
              refine vv_callV ok_X4_closes q1884 (m_closes hG er13 (d + 2)) rfl (by omega) ⟨_, _, _, _, _, tp_o, by rw [hG.1]; rfl⟩ rfl rfl (Nat.le_of_ble_eq_true rfl) dX4_expression_314 ?_
              refine vv_goto (tgt := 322) dX4_expression_317 (by decide) ?_
              exact v_expression_322 hG hk29 h
        · rw [if_neg c8] at h
          exact v_expression_259 hG hk29 h
    · rw [if_neg c4] at h
      exact v_expression_204 hG hk29 h
def J_expression_161 (k29 : Int32 → tw_T → Option tw_T) (s1 : Int32) (x1 : Int32) (T : tw_T) : Option tw_T := (J_waitsFor s1 T).bind fun r1 => (stA r1 19 9 (r1.1 31) (nI 1)).bind fun T2 => (J_goes T2).bind fun r3 => (J_operand (nI 0) r3).bind fun r4 => J_expression_322 k29 x1 r4
theorem v_expression_161 {l : Launch} {G : vv_G} {d : Nat} {o : Nat} {h0 : Nat → Option vv_E} {nz : Nat × Nat} (hG : vv_gok G) {k29 : Int32 → tw_T → Option tw_T} (hk29 : ∀ {x1 : Int32} {T : tw_T} {r : tw_T}, k29 x1 T = some r → vv_V l G MX4_expression (d + 5) 29 [(0, .ref o), (1, .int x1)] [] (tp o h0 T, nz) (.inl none, (tp o h0 r, nz))) {s1 : Int32} {x1 : Int32} {T : tw_T} {r : tw_T} (h : J_expression_161 k29 s1 x1 T = some r) : vv_V l G MX4_expression (d + 5) 161 [(0, .ref o), (1, .int x1)] [.int s1, .ref o] (tp o h0 T, nz) (.inl none, (tp o h0 r, nz)) := by
  unfold J_expression_161 at h
  obtain ⟨r1, er1, h⟩ := bd_o h
  refine vv_callV ok_X4_waitsFor q1858 (m_waitsFor hG er1 (d + 4)) rfl (by omega) ⟨_, _, _, _, _, tp_o, by rw [hG.1]; rfl⟩ rfl rfl (Nat.le_of_ble_eq_true rfl) dX4_expression_161 ?_
  refine vv_aload_n dX4_expression_164 rfl 0 rfl ?_
  refine tw_get (fl_X4_71 hG) (k := 41) rfl dX4_expression_165 ?_
  refine vv_aload_n dX4_expression_168 rfl 0 rfl ?_
  refine tw_get (fl_X4_208 hG) (k := 31) rfl dX4_expression_169 ?_
  refine vv_iconst (v := (nI 1)) dX4_expression_172 (by decide) ?_
  obtain ⟨T2, iT2, eT2, h⟩ := st_o h
  refine tw_zast 19 (by decide) rfl iT2 (by decide) eT2 dX4_expression_173 ?_
  refine vv_aload_n dX4_expression_174 rfl 0 rfl ?_
  obtain ⟨r3, er3, h⟩ := bd_o h
  refine vv_callV ok_X4_goes q1777 (m_goes hG er3 (d + 3)) rfl (by omega) ⟨_, _, _, _, _, tp_o, by rw [hG.1]; rfl⟩ rfl rfl (Nat.le_of_ble_eq_true rfl) dX4_expression_175 ?_
  refine vv_aload_n dX4_expression_178 rfl 0 rfl ?_
  refine vv_iconst (v := (nI 0)) dX4_expression_179 (by decide) ?_
  obtain ⟨r4, er4, h⟩ := bd_o h
  refine vv_callV ok_X4_operand q1854 (m_operand hG er4 (d + 0)) rfl (by omega) ⟨_, _, _, _, _, tp_o, by rw [hG.1]; rfl⟩ rfl rfl (Nat.le_of_ble_eq_true rfl) dX4_expression_180 ?_
  refine vv_goto (tgt := 322) dX4_expression_183 (by decide) ?_
  exact v_expression_322 hG hk29 h
def J_expression_127 (k29 : Int32 → tw_T → Option tw_T) (x1 : Int32) (T : tw_T) : Option tw_T := (rdI 9 (T.2.2 19) (T.1 31)).bind fun v1 => if v1 = 0 then ((J_drops (nI 4) T).bind fun r3 => (J_isSign (nI 60) r3).bind fun r4 => if r4.1 = 0 then (J_expression_161 k29 (nI 7) x1 r4.2) else (J_expression_161 k29 (nI 6) x1 r4.2)) else (J_expression_186 k29 x1 T)
theorem v_expression_127 {l : Launch} {G : vv_G} {d : Nat} {o : Nat} {h0 : Nat → Option vv_E} {nz : Nat × Nat} (hG : vv_gok G) {k29 : Int32 → tw_T → Option tw_T} (hk29 : ∀ {x1 : Int32} {T : tw_T} {r : tw_T}, k29 x1 T = some r → vv_V l G MX4_expression (d + 5) 29 [(0, .ref o), (1, .int x1)] [] (tp o h0 T, nz) (.inl none, (tp o h0 r, nz))) {x1 : Int32} {T : tw_T} {r : tw_T} (h : J_expression_127 k29 x1 T = some r) : vv_V l G MX4_expression (d + 5) 127 [(0, .ref o), (1, .int x1)] [] (tp o h0 T, nz) (.inl none, (tp o h0 r, nz)) := by
  unfold J_expression_127 at h
  refine vv_aload_n dX4_expression_127 rfl 0 rfl ?_
  refine tw_get (fl_X4_71 hG) (k := 41) rfl dX4_expression_128 ?_
  refine vv_aload_n dX4_expression_131 rfl 0 rfl ?_
  refine tw_get (fl_X4_208 hG) (k := 31) rfl dX4_expression_132 ?_
  obtain ⟨v1, iv1, ev1, h⟩ := rd_o h
  refine tw_zald 19 (by decide) rfl iv1 ev1 dX4_expression_135 ?_
  refine vv_if_ne (tgt := 186) dX4_expression_136 (by decide) (fun c2 => ?_) (fun c2 => ?_)
  · rw [if_neg c2] at h
    exact v_expression_186 hG hk29 h
  · rw [if_pos c2] at h
    refine vv_aload_n dX4_expression_139 rfl 0 rfl ?_
    refine vv_iconst (v := (nI 4)) dX4_expression_140 (by decide) ?_
    obtain ⟨r3, er3, h⟩ := bd_o h
    refine vv_callV ok_X4_drops q1870 (m_drops hG er3 (d + 3)) rfl (by omega) ⟨_, _, _, _, _, tp_o, by rw [hG.1]; rfl⟩ rfl rfl (Nat.le_of_ble_eq_true rfl) dX4_expression_141 ?_
    refine vv_aload_n dX4_expression_144 rfl 0 rfl ?_
    refine vv_aload_n dX4_expression_145 rfl 0 rfl ?_
    refine vv_bipush (v := (nI 60)) dX4_expression_146 (by decide) ?_
    obtain ⟨r4, er4, h⟩ := bd_o h
    refine vv_callV ok_X4_isSign q1850 (m_isSign hG er4 (d + 4)) rfl (by omega) ⟨_, _, _, _, _, tp_o, by rw [hG.1]; rfl⟩ rfl rfl (Nat.le_of_ble_eq_true rfl) dX4_expression_148 ?_
    refine vv_if_eq (tgt := 159) dX4_expression_151 (by decide) (fun c5 => ?_) (fun c5 => ?_)
    · rw [if_pos c5] at h
      refine vv_bipush (v := (nI 7)) dX4_expression_159 (by decide) ?_
      exact v_expression_161 hG hk29 h
    · rw [if_neg c5] at h
      refine vv_bipush (v := (nI 6)) dX4_expression_154 (by decide) ?_
      refine vv_goto (tgt := 161) dX4_expression_156 (by decide) ?_
      exact v_expression_161 hG hk29 h
def B_expression_29 (k29 : Int32 → tw_T → Option tw_T) (x1 : Int32) (T : tw_T) : Option tw_T := if x1 = 0 then (J_expression_325 T) else ((J_isGood T).bind fun r2 => if r2.1 = 0 then (J_expression_325 r2.2) else ((J_knownWord r2.2).bind fun r4 => if r4.1 = (nI 12) then (J_expression_57 k29 x1 r4.1 r4.2) else (if r4.1 = (nI 13) then (J_expression_57 k29 x1 r4.1 r4.2) else ((J_isSign (nI 60) r4.2).bind fun r7 => if r7.1 = 0 then ((J_isSign (nI 61) r7.2).bind fun r9 => if r9.1 = 0 then (J_expression_186 k29 x1 r9.2) else (J_expression_127 k29 x1 r9.2)) else (J_expression_127 k29 x1 r7.2)))))
def J_expression_29 : Nat → Int32 → tw_T → Option tw_T
  | 0, _, _ => none
  | n + 1, x1, T => B_expression_29 (J_expression_29 n) x1 T
theorem vb_expression_29 {l : Launch} {G : vv_G} {d : Nat} {o : Nat} {h0 : Nat → Option vv_E} {nz : Nat × Nat} (hG : vv_gok G) {k29 : Int32 → tw_T → Option tw_T} (hk29 : ∀ {x1 : Int32} {T : tw_T} {r : tw_T}, k29 x1 T = some r → vv_V l G MX4_expression (d + 5) 29 [(0, .ref o), (1, .int x1)] [] (tp o h0 T, nz) (.inl none, (tp o h0 r, nz))) {x1 : Int32} {T : tw_T} {r : tw_T} (h : B_expression_29 k29 x1 T = some r) : vv_V l G MX4_expression (d + 5) 29 [(0, .ref o), (1, .int x1)] [] (tp o h0 T, nz) (.inl none, (tp o h0 r, nz)) := by
  unfold B_expression_29 at h
  refine vv_iload_n dX4_expression_29 rfl 1 rfl ?_
  refine vv_if_eq (tgt := 325) dX4_expression_30 (by decide) (fun c1 => ?_) (fun c1 => ?_)
  · rw [if_pos c1] at h
    refine vv_sub (lv' := [(0, .ref o)]) [0] rfl ?_
    exact v_expression_325 hG h
  · rw [if_neg c1] at h
    refine vv_aload_n dX4_expression_33 rfl 0 rfl ?_
    obtain ⟨r2, er2, h⟩ := bd_o h
    refine vv_callV ok_X4_isGood q1791 (m_isGood hG er2 (d + 4)) rfl (by omega) ⟨_, _, _, _, _, tp_o, by rw [hG.1]; rfl⟩ rfl rfl (Nat.le_of_ble_eq_true rfl) dX4_expression_34 ?_
    refine vv_if_eq (tgt := 325) dX4_expression_37 (by decide) (fun c3 => ?_) (fun c3 => ?_)
    · rw [if_pos c3] at h
      refine vv_sub (lv' := [(0, .ref o)]) [0] rfl ?_
      exact v_expression_325 hG h
    · rw [if_neg c3] at h
      refine vv_aload_n dX4_expression_40 rfl 0 rfl ?_
      obtain ⟨r4, er4, h⟩ := bd_o h
      refine vv_callV ok_X4_knownWord q1799 (m_knownWord hG er4 (d + 2)) rfl (by omega) ⟨_, _, _, _, _, tp_o, by rw [hG.1]; rfl⟩ rfl rfl (Nat.le_of_ble_eq_true rfl) dX4_expression_41 ?_
      refine vv_istore_n (lv' := [(0, .ref o), (1, .int x1), (2, .int r4.1)]) dX4_expression_44 rfl (by decide) [1, 2, 0] rfl ?_
      refine vv_iload_n dX4_expression_45 rfl 2 rfl ?_
      refine vv_bipush (v := (nI 12)) dX4_expression_46 (by decide) ?_
      refine vv_icmp_eq (tgt := 57) dX4_expression_48 (by decide) (fun c5 => ?_) (fun c5 => ?_)
      · rw [if_pos c5] at h
        exact v_expression_57 hG hk29 h
      · rw [if_neg c5] at h
        refine vv_iload_n dX4_expression_51 rfl 2 rfl ?_
        refine vv_bipush (v := (nI 13)) dX4_expression_52 (by decide) ?_
        refine vv_icmp_ne (tgt := 109) dX4_expression_54 (by decide) (fun c6 => ?_) (fun c6 => ?_)
        · rw [if_neg c6] at h
          refine vv_aload_n dX4_expression_109 rfl 0 rfl ?_
          refine vv_bipush (v := (nI 60)) dX4_expression_110 (by decide) ?_
          obtain ⟨r7, er7, h⟩ := bd_o h
          refine vv_callV ok_X4_isSign q1850 (m_isSign hG er7 (d + 4)) rfl (by omega) ⟨_, _, _, _, _, tp_o, by rw [hG.1]; rfl⟩ rfl rfl (Nat.le_of_ble_eq_true rfl) dX4_expression_112 ?_
          refine vv_if_ne (tgt := 127) dX4_expression_115 (by decide) (fun c8 => ?_) (fun c8 => ?_)
          · rw [if_neg c8] at h
            refine vv_sub (lv' := [(0, .ref o), (1, .int x1)]) [0, 1] rfl ?_
            exact v_expression_127 hG hk29 h
          · rw [if_pos c8] at h
            refine vv_aload_n dX4_expression_118 rfl 0 rfl ?_
            refine vv_bipush (v := (nI 61)) dX4_expression_119 (by decide) ?_
            obtain ⟨r9, er9, h⟩ := bd_o h
            refine vv_callV ok_X4_isSign q1850 (m_isSign hG er9 (d + 4)) rfl (by omega) ⟨_, _, _, _, _, tp_o, by rw [hG.1]; rfl⟩ rfl rfl (Nat.le_of_ble_eq_true rfl) dX4_expression_121 ?_
            refine vv_if_eq (tgt := 186) dX4_expression_124 (by decide) (fun c10 => ?_) (fun c10 => ?_)
            · rw [if_pos c10] at h
              refine vv_sub (lv' := [(0, .ref o), (1, .int x1)]) [0, 1] rfl ?_
              exact v_expression_186 hG hk29 h
            · rw [if_neg c10] at h
              refine vv_sub (lv' := [(0, .ref o), (1, .int x1)]) [0, 1] rfl ?_
              exact v_expression_127 hG hk29 h
        · rw [if_pos c6] at h
          exact v_expression_57 hG hk29 h
theorem v_expression_29 {l : Launch} {G : vv_G} {d : Nat} {o : Nat} {h0 : Nat → Option vv_E} {nz : Nat × Nat} (hG : vv_gok G) : ∀ (n : Nat) {x1 : Int32} {T : tw_T} {r : tw_T}, J_expression_29 n x1 T = some r → vv_V l G MX4_expression (d + 5) 29 [(0, .ref o), (1, .int x1)] [] (tp o h0 T, nz) (.inl none, (tp o h0 r, nz)) := by
  intro n
  induction n with
  | zero => intro _ _ _ h; cases h
  | succ n ih => intro _ _ _ h; exact vb_expression_29 hG ih h
def J_expression (T : tw_T) : Option tw_T := (J_isGood T).bind fun r1 => if r1.1 = 0 then (some r1.2) else ((some (tw_F r1.2 30 (nI 0))).bind fun T3 => (some (tw_F T3 31 (nI 0))).bind fun T4 => (J_deeper T4).bind fun r5 => (J_operand (nI 1) r5).bind fun r6 => J_expression_29 NN (nI 1) r6)
theorem v_expression_0 {l : Launch} {G : vv_G} {d : Nat} {o : Nat} {h0 : Nat → Option vv_E} {nz : Nat × Nat} (hG : vv_gok G) {T : tw_T} {r : tw_T} (h : J_expression T = some r) : vv_V l G MX4_expression (d + 5) 0 [(0, .ref o)] [] (tp o h0 T, nz) (.inl none, (tp o h0 r, nz)) := by
  unfold J_expression at h
  refine vv_aload_n dX4_expression_0 rfl 0 rfl ?_
  obtain ⟨r1, er1, h⟩ := bd_o h
  refine vv_callV ok_X4_isGood q1791 (m_isGood hG er1 (d + 4)) rfl (by omega) ⟨_, _, _, _, _, tp_o, by rw [hG.1]; rfl⟩ rfl rfl (Nat.le_of_ble_eq_true rfl) dX4_expression_1 ?_
  refine vv_if_ne (tgt := 8) dX4_expression_4 (by decide) (fun c2 => ?_) (fun c2 => ?_)
  · rw [if_neg c2] at h
    refine vv_aload_n dX4_expression_8 rfl 0 rfl ?_
    refine vv_iconst (v := (nI 0)) dX4_expression_9 (by decide) ?_
    obtain ⟨T3, eT3, h⟩ := bd_s h
    refine tw_put (T1 := T3) (pt_X4_192 hG) hG rfl rfl rfl (by decide) (by rw [eT3]; exact tw_set30 _ _ _) (by rw [eT3]; rfl) dX4_expression_10 ?_
    refine vv_aload_n dX4_expression_13 rfl 0 rfl ?_
    refine vv_iconst (v := (nI 0)) dX4_expression_14 (by decide) ?_
    obtain ⟨T4, eT4, h⟩ := bd_s h
    refine tw_put (T1 := T4) (pt_X4_208 hG) hG rfl rfl rfl (by decide) (by rw [eT4]; exact tw_set31 _ _ _) (by rw [eT4]; rfl) dX4_expression_15 ?_
    refine vv_aload_n dX4_expression_18 rfl 0 rfl ?_
    obtain ⟨r5, er5, h⟩ := bd_o h
    refine vv_callV ok_X4_deeper q1846 (m_deeper hG er5 (d + 3)) rfl (by omega) ⟨_, _, _, _, _, tp_o, by rw [hG.1]; rfl⟩ rfl rfl (Nat.le_of_ble_eq_true rfl) dX4_expression_19 ?_
    refine vv_aload_n dX4_expression_22 rfl 0 rfl ?_
    refine vv_iconst (v := (nI 1)) dX4_expression_23 (by decide) ?_
    obtain ⟨r6, er6, h⟩ := bd_o h
    refine vv_callV ok_X4_operand q1854 (m_operand hG er6 (d + 0)) rfl (by omega) ⟨_, _, _, _, _, tp_o, by rw [hG.1]; rfl⟩ rfl rfl (Nat.le_of_ble_eq_true rfl) dX4_expression_24 ?_
    refine vv_iconst (v := (nI 1)) dX4_expression_27 (by decide) ?_
    refine vv_istore_n (lv' := [(0, .ref o), (1, .int (nI 1))]) dX4_expression_28 rfl (by decide) [1, 0] rfl ?_
    exact v_expression_29 hG NN h
  · rw [if_pos c2] at h
    cases h
    exact vv_vret rfl dX4_expression_7
theorem m_expression {l : Launch} {G : vv_G} {o : Nat} {h0 : Nat → Option vv_E} {nz : Nat × Nat} (hG : vv_gok G) {T : tw_T} {r : tw_T} (h : J_expression T = some r) (d : Nat) : vv_Met l G MX4_expression (d + 5) [.ref o] (tp o h0 T, nz) (.inl none, (tp o h0 r, nz)) := vv_head (by decide +kernel) rfl (Nat.le_of_ble_eq_true rfl) rfl (v_expression_0 hG h)
/-! need -/
def J_need_24 (T : tw_T) : Option tw_T := some T
theorem v_need_24 {l : Launch} {G : vv_G} {d : Nat} {o : Nat} {h0 : Nat → Option vv_E} {nz : Nat × Nat} (hG : vv_gok G) {T : tw_T} {r : tw_T} (h : J_need_24 T = some r) : vv_V l G MX4_need (d + 2) 24 [(0, .ref o)] [] (tp o h0 T, nz) (.inl none, (tp o h0 r, nz)) := by
  unfold J_need_24 at h
  cases h
  exact vv_vret rfl dX4_need_24
def J_need (x1 : Int32) (T : tw_T) : Option tw_T := (J_isGood T).bind fun r1 => if r1.1 = 0 then (some r1.2) else (if x1 = 0 then ((J_wrong (nI 1) r1.2).bind fun r4 => J_need_24 r4) else ((J_goes r1.2).bind fun r5 => J_need_24 r5))
theorem v_need_0 {l : Launch} {G : vv_G} {d : Nat} {o : Nat} {h0 : Nat → Option vv_E} {nz : Nat × Nat} (hG : vv_gok G) {x1 : Int32} {T : tw_T} {r : tw_T} (h : J_need x1 T = some r) : vv_V l G MX4_need (d + 2) 0 [(0, .ref o), (1, .int x1)] [] (tp o h0 T, nz) (.inl none, (tp o h0 r, nz)) := by
  unfold J_need at h
  refine vv_aload_n dX4_need_0 rfl 0 rfl ?_
  obtain ⟨r1, er1, h⟩ := bd_o h
  refine vv_callV ok_X4_isGood q1791 (m_isGood hG er1 (d + 1)) rfl (by omega) ⟨_, _, _, _, _, tp_o, by rw [hG.1]; rfl⟩ rfl rfl (Nat.le_of_ble_eq_true rfl) dX4_need_1 ?_
  refine vv_if_ne (tgt := 8) dX4_need_4 (by decide) (fun c2 => ?_) (fun c2 => ?_)
  · rw [if_neg c2] at h
    refine vv_iload_n dX4_need_8 rfl 1 rfl ?_
    refine vv_if_eq (tgt := 19) dX4_need_9 (by decide) (fun c3 => ?_) (fun c3 => ?_)
    · rw [if_pos c3] at h
      refine vv_aload_n dX4_need_19 rfl 0 rfl ?_
      refine vv_iconst (v := (nI 1)) dX4_need_20 (by decide) ?_
      obtain ⟨r4, er4, h⟩ := bd_o h
      refine vv_callV ok_X4_wrong q1814 (m_wrong hG er4 (d + 1)) rfl (by omega) ⟨_, _, _, _, _, tp_o, by rw [hG.1]; rfl⟩ rfl rfl (Nat.le_of_ble_eq_true rfl) dX4_need_21 ?_
      refine vv_sub (lv' := [(0, .ref o)]) [0] rfl ?_
      exact v_need_24 hG h
    · rw [if_neg c3] at h
      refine vv_aload_n dX4_need_12 rfl 0 rfl ?_
      obtain ⟨r5, er5, h⟩ := bd_o h
      refine vv_callV ok_X4_goes q1777 (m_goes hG er5 (d + 0)) rfl (by omega) ⟨_, _, _, _, _, tp_o, by rw [hG.1]; rfl⟩ rfl rfl (Nat.le_of_ble_eq_true rfl) dX4_need_13 ?_
      refine vv_goto (tgt := 24) dX4_need_16 (by decide) ?_
      refine vv_sub (lv' := [(0, .ref o)]) [0] rfl ?_
      exact v_need_24 hG h
  · rw [if_pos c2] at h
    cases h
    exact vv_vret rfl dX4_need_7
theorem m_need {l : Launch} {G : vv_G} {o : Nat} {h0 : Nat → Option vv_E} {nz : Nat × Nat} (hG : vv_gok G) {x1 : Int32} {T : tw_T} {r : tw_T} (h : J_need x1 T = some r) (d : Nat) : vv_Met l G MX4_need (d + 2) [.ref o, .int x1] (tp o h0 T, nz) (.inl none, (tp o h0 r, nz)) := vv_head (by decide +kernel) rfl (Nat.le_of_ble_eq_true rfl) rfl (v_need_0 hG h)
/-! amongHere -/
def J_amongHere_54 (T : tw_T) : Option (Int32 × tw_T) := (J_isGood T).bind fun r1 => (zrI r1.1).bind fun v2 => some (v2, r1.2)
theorem v_amongHere_54 {l : Launch} {G : vv_G} {d : Nat} {o : Nat} {h0 : Nat → Option vv_E} {nz : Nat × Nat} (hG : vv_gok G) {T : tw_T} {r : Int32 × tw_T} (h : J_amongHere_54 T = some r) : vv_V l G MX4_amongHere (d + 1) 54 [(0, .ref o)] [] (tp o h0 T, nz) (.inl (some (.int r.1)), (tp o h0 r.2, nz)) := by
  unfold J_amongHere_54 at h
  refine vv_aload_n dX4_amongHere_54 rfl 0 rfl ?_
  obtain ⟨r1, er1, h⟩ := bd_o h
  refine vv_callV ok_X4_isGood q1791 (m_isGood hG er1 (d + 0)) rfl (by omega) ⟨_, _, _, _, _, tp_o, by rw [hG.1]; rfl⟩ rfl rfl (Nat.le_of_ble_eq_true rfl) dX4_amongHere_55 ?_
  obtain ⟨zv2, h⟩ := zr_o h
  cases h
  exact vv_zret rfl zv2 dX4_amongHere_58
def J_amongHere (x1 : Int32) (T : tw_T) : Option (Int32 × tw_T) := (J_isGood T).bind fun r1 => if r1.1 = 0 then (some ((nI 0), r1.2)) else (if (r1.2.1 19) = (nI 2) then (if (r1.2.1 21) ≤ (nI 4) then (if (r1.2.1 22) < x1 then (J_amongHere_54 r1.2) else ((J_wrong (nI 3) r1.2).bind fun r6 => J_amongHere_54 r6)) else ((J_wrong (nI 2) r1.2).bind fun r7 => J_amongHere_54 r7)) else ((J_wrong (nI 1) r1.2).bind fun r8 => J_amongHere_54 r8))
theorem v_amongHere_0 {l : Launch} {G : vv_G} {d : Nat} {o : Nat} {h0 : Nat → Option vv_E} {nz : Nat × Nat} (hG : vv_gok G) {x1 : Int32} {T : tw_T} {r : Int32 × tw_T} (h : J_amongHere x1 T = some r) : vv_V l G MX4_amongHere (d + 1) 0 [(0, .ref o), (1, .int x1)] [] (tp o h0 T, nz) (.inl (some (.int r.1)), (tp o h0 r.2, nz)) := by
  unfold J_amongHere at h
  refine vv_aload_n dX4_amongHere_0 rfl 0 rfl ?_
  obtain ⟨r1, er1, h⟩ := bd_o h
  refine vv_callV ok_X4_isGood q1791 (m_isGood hG er1 (d + 0)) rfl (by omega) ⟨_, _, _, _, _, tp_o, by rw [hG.1]; rfl⟩ rfl rfl (Nat.le_of_ble_eq_true rfl) dX4_amongHere_1 ?_
  refine vv_if_ne (tgt := 9) dX4_amongHere_4 (by decide) (fun c2 => ?_) (fun c2 => ?_)
  · rw [if_neg c2] at h
    refine vv_aload_n dX4_amongHere_9 rfl 0 rfl ?_
    refine tw_get (fl_X4_150 hG) (k := 19) rfl dX4_amongHere_10 ?_
    refine vv_iconst (v := (nI 2)) dX4_amongHere_13 (by decide) ?_
    refine vv_icmp_eq (tgt := 25) dX4_amongHere_14 (by decide) (fun c3 => ?_) (fun c3 => ?_)
    · rw [if_pos c3] at h
      refine vv_aload_n dX4_amongHere_25 rfl 0 rfl ?_
      refine tw_get (fl_X4_160 hG) (k := 21) rfl dX4_amongHere_26 ?_
      refine vv_iconst (v := (nI 4)) dX4_amongHere_29 (by decide) ?_
      refine vv_icmp_le (tgt := 41) dX4_amongHere_30 (by decide) (fun c4 => ?_) (fun c4 => ?_)
      · rw [if_pos c4] at h
        refine vv_aload_n dX4_amongHere_41 rfl 0 rfl ?_
        refine tw_get (fl_X4_144 hG) (k := 22) rfl dX4_amongHere_42 ?_
        refine vv_iload_n dX4_amongHere_45 rfl 1 rfl ?_
        refine vv_icmp_lt (tgt := 54) dX4_amongHere_46 (by decide) (fun c5 => ?_) (fun c5 => ?_)
        · rw [if_pos c5] at h
          refine vv_sub (lv' := [(0, .ref o)]) [0] rfl ?_
          exact v_amongHere_54 hG h
        · rw [if_neg c5] at h
          refine vv_aload_n dX4_amongHere_49 rfl 0 rfl ?_
          refine vv_iconst (v := (nI 3)) dX4_amongHere_50 (by decide) ?_
          obtain ⟨r6, er6, h⟩ := bd_o h
          refine vv_callV ok_X4_wrong q1814 (m_wrong hG er6 (d + 0)) rfl (by omega) ⟨_, _, _, _, _, tp_o, by rw [hG.1]; rfl⟩ rfl rfl (Nat.le_of_ble_eq_true rfl) dX4_amongHere_51 ?_
          refine vv_sub (lv' := [(0, .ref o)]) [0] rfl ?_
          exact v_amongHere_54 hG h
      · rw [if_neg c4] at h
        refine vv_aload_n dX4_amongHere_33 rfl 0 rfl ?_
        refine vv_iconst (v := (nI 2)) dX4_amongHere_34 (by decide) ?_
        obtain ⟨r7, er7, h⟩ := bd_o h
        refine vv_callV ok_X4_wrong q1814 (m_wrong hG er7 (d + 0)) rfl (by omega) ⟨_, _, _, _, _, tp_o, by rw [hG.1]; rfl⟩ rfl rfl (Nat.le_of_ble_eq_true rfl) dX4_amongHere_35 ?_
        refine vv_goto (tgt := 54) dX4_amongHere_38 (by decide) ?_
        refine vv_sub (lv' := [(0, .ref o)]) [0] rfl ?_
        exact v_amongHere_54 hG h
    · rw [if_neg c3] at h
      refine vv_aload_n dX4_amongHere_17 rfl 0 rfl ?_
      refine vv_iconst (v := (nI 1)) dX4_amongHere_18 (by decide) ?_
      obtain ⟨r8, er8, h⟩ := bd_o h
      refine vv_callV ok_X4_wrong q1814 (m_wrong hG er8 (d + 0)) rfl (by omega) ⟨_, _, _, _, _, tp_o, by rw [hG.1]; rfl⟩ rfl rfl (Nat.le_of_ble_eq_true rfl) dX4_amongHere_19 ?_
      refine vv_goto (tgt := 54) dX4_amongHere_22 (by decide) ?_
      refine vv_sub (lv' := [(0, .ref o)]) [0] rfl ?_
      exact v_amongHere_54 hG h
  · rw [if_pos c2] at h
    refine vv_iconst (v := (nI 0)) dX4_amongHere_7 (by decide) ?_
    cases h
    exact vv_zret rfl (by decide) dX4_amongHere_8
theorem m_amongHere {l : Launch} {G : vv_G} {o : Nat} {h0 : Nat → Option vv_E} {nz : Nat × Nat} (hG : vv_gok G) {x1 : Int32} {T : tw_T} {r : Int32 × tw_T} (h : J_amongHere x1 T = some r) (d : Nat) : vv_Met l G MX4_amongHere (d + 1) [.ref o, .int x1] (tp o h0 T, nz) (.inl (some (.int r.1)), (tp o h0 r.2, nz)) := vv_head (by decide +kernel) rfl (Nat.le_of_ble_eq_true rfl) rfl (v_amongHere_0 hG h)
/-! among -/
def J_among_28 (x2 : Int32) (T : tw_T) : Option (Int32 × tw_T) := some (x2, T)
theorem v_among_28 {l : Launch} {G : vv_G} {d : Nat} {o : Nat} {h0 : Nat → Option vv_E} {nz : Nat × Nat} (hG : vv_gok G) {x2 : Int32} {T : tw_T} {r : Int32 × tw_T} (h : J_among_28 x2 T = some r) : vv_V l G MX4_among (d + 2) 28 [(0, .ref o), (2, .int x2)] [] (tp o h0 T, nz) (.inl (some (.int r.1)), (tp o h0 r.2, nz)) := by
  unfold J_among_28 at h
  refine vv_iload_n dX4_among_28 rfl 1 rfl ?_
  cases h
  exact vv_iret rfl dX4_among_29
def J_among_16 (s0 : Int32) (T : tw_T) : Option (Int32 × tw_T) := (J_isGood T).bind fun r1 => if r1.1 = 0 then (J_among_28 s0 r1.2) else ((J_goes r1.2).bind fun r3 => J_among_28 s0 r3)
theorem v_among_16 {l : Launch} {G : vv_G} {d : Nat} {o : Nat} {h0 : Nat → Option vv_E} {nz : Nat × Nat} (hG : vv_gok G) {s0 : Int32} {T : tw_T} {r : Int32 × tw_T} (h : J_among_16 s0 T = some r) : vv_V l G MX4_among (d + 2) 16 [(0, .ref o)] [.int s0] (tp o h0 T, nz) (.inl (some (.int r.1)), (tp o h0 r.2, nz)) := by
  unfold J_among_16 at h
  refine vv_istore_n (lv' := [(0, .ref o), (2, .int s0)]) dX4_among_16 rfl (by decide) [1, 0] rfl ?_
  refine vv_aload_n dX4_among_17 rfl 0 rfl ?_
  obtain ⟨r1, er1, h⟩ := bd_o h
  refine vv_callV ok_X4_isGood q1791 (m_isGood hG er1 (d + 1)) rfl (by omega) ⟨_, _, _, _, _, tp_o, by rw [hG.1]; rfl⟩ rfl rfl (Nat.le_of_ble_eq_true rfl) dX4_among_18 ?_
  refine vv_if_eq (tgt := 28) dX4_among_21 (by decide) (fun c2 => ?_) (fun c2 => ?_)
  · rw [if_pos c2] at h
    exact v_among_28 hG h
  · rw [if_neg c2] at h
    refine vv_aload_n dX4_among_24 rfl 0 rfl ?_
    obtain ⟨r3, er3, h⟩ := bd_o h
    refine vv_callV ok_X4_goes q1777 (m_goes hG er3 (d + 0)) rfl (by omega) ⟨_, _, _, _, _, tp_o, by rw [hG.1]; rfl⟩ rfl rfl (Nat.le_of_ble_eq_true rfl) dX4_among_25 ?_
    exact v_among_28 hG h
def J_among (x1 : Int32) (T : tw_T) : Option (Int32 × tw_T) := (J_amongHere x1 T).bind fun r1 => if r1.1 = 0 then (J_among_16 (nI 0) r1.2) else (J_among_16 (r1.2.1 22) r1.2)
theorem v_among_0 {l : Launch} {G : vv_G} {d : Nat} {o : Nat} {h0 : Nat → Option vv_E} {nz : Nat × Nat} (hG : vv_gok G) {x1 : Int32} {T : tw_T} {r : Int32 × tw_T} (h : J_among x1 T = some r) : vv_V l G MX4_among (d + 2) 0 [(0, .ref o), (1, .int x1)] [] (tp o h0 T, nz) (.inl (some (.int r.1)), (tp o h0 r.2, nz)) := by
  unfold J_among at h
  refine vv_aload_n dX4_among_0 rfl 0 rfl ?_
  refine vv_iload_n dX4_among_1 rfl 1 rfl ?_
  obtain ⟨r1, er1, h⟩ := bd_o h
  refine vv_callV ok_X4_amongHere q1830 (m_amongHere hG er1 (d + 0)) rfl (by omega) ⟨_, _, _, _, _, tp_o, by rw [hG.1]; rfl⟩ rfl rfl (Nat.le_of_ble_eq_true rfl) dX4_among_2 ?_
  refine vv_if_eq (tgt := 15) dX4_among_5 (by decide) (fun c2 => ?_) (fun c2 => ?_)
  · rw [if_pos c2] at h
    refine vv_iconst (v := (nI 0)) dX4_among_15 (by decide) ?_
    refine vv_sub (lv' := [(0, .ref o)]) [0] rfl ?_
    exact v_among_16 hG h
  · rw [if_neg c2] at h
    refine vv_aload_n dX4_among_8 rfl 0 rfl ?_
    refine tw_get (fl_X4_144 hG) (k := 22) rfl dX4_among_9 ?_
    refine vv_goto (tgt := 16) dX4_among_12 (by decide) ?_
    refine vv_sub (lv' := [(0, .ref o)]) [0] rfl ?_
    exact v_among_16 hG h
theorem m_among {l : Launch} {G : vv_G} {o : Nat} {h0 : Nat → Option vv_E} {nz : Nat × Nat} (hG : vv_gok G) {x1 : Int32} {T : tw_T} {r : Int32 × tw_T} (h : J_among x1 T = some r) (d : Nat) : vv_Met l G MX4_among (d + 2) [.ref o, .int x1] (tp o h0 T, nz) (.inl (some (.int r.1)), (tp o h0 r.2, nz)) := vv_head (by decide +kernel) rfl (Nat.le_of_ble_eq_true rfl) rfl (v_among_0 hG h)
/-! number -/
def J_number_70 (x3 : Int32) (T : tw_T) : Option (Int32 × tw_T) := some (x3, T)
theorem v_number_70 {l : Launch} {G : vv_G} {d : Nat} {o : Nat} {h0 : Nat → Option vv_E} {nz : Nat × Nat} (hG : vv_gok G) {x3 : Int32} {T : tw_T} {r : Int32 × tw_T} (h : J_number_70 x3 T = some r) : vv_V l G MX4_number (d + 2) 70 [(0, .ref o), (3, .int x3)] [] (tp o h0 T, nz) (.inl (some (.int r.1)), (tp o h0 r.2, nz)) := by
  unfold J_number_70 at h
  refine vv_iload_n dX4_number_70 rfl 1 rfl ?_
  cases h
  exact vv_iret rfl dX4_number_71
def J_number_54 (T : tw_T) : Option (Int32 × tw_T) := (J_isGood T).bind fun r1 => if r1.1 = 0 then (J_number_70 (T.1 22) r1.2) else ((J_goes r1.2).bind fun r3 => J_number_70 (T.1 22) r3)
theorem v_number_54 {l : Launch} {G : vv_G} {d : Nat} {o : Nat} {h0 : Nat → Option vv_E} {nz : Nat × Nat} (hG : vv_gok G) {T : tw_T} {r : Int32 × tw_T} (h : J_number_54 T = some r) : vv_V l G MX4_number (d + 2) 54 [(0, .ref o)] [] (tp o h0 T, nz) (.inl (some (.int r.1)), (tp o h0 r.2, nz)) := by
  unfold J_number_54 at h
  refine vv_aload_n dX4_number_54 rfl 0 rfl ?_
  refine tw_get (fl_X4_144 hG) (k := 22) rfl dX4_number_55 ?_
  refine vv_istore_n (lv' := [(0, .ref o), (3, .int (T.1 22))]) dX4_number_58 rfl (by decide) [1, 0] rfl ?_
  refine vv_aload_n dX4_number_59 rfl 0 rfl ?_
  obtain ⟨r1, er1, h⟩ := bd_o h
  refine vv_callV ok_X4_isGood q1791 (m_isGood hG er1 (d + 1)) rfl (by omega) ⟨_, _, _, _, _, tp_o, by rw [hG.1]; rfl⟩ rfl rfl (Nat.le_of_ble_eq_true rfl) dX4_number_60 ?_
  refine vv_if_eq (tgt := 70) dX4_number_63 (by decide) (fun c2 => ?_) (fun c2 => ?_)
  · rw [if_pos c2] at h
    exact v_number_70 hG h
  · rw [if_neg c2] at h
    refine vv_aload_n dX4_number_66 rfl 0 rfl ?_
    obtain ⟨r3, er3, h⟩ := bd_o h
    refine vv_callV ok_X4_goes q1777 (m_goes hG er3 (d + 0)) rfl (by omega) ⟨_, _, _, _, _, tp_o, by rw [hG.1]; rfl⟩ rfl rfl (Nat.le_of_ble_eq_true rfl) dX4_number_67 ?_
    exact v_number_70 hG h
def J_number_49 (T : tw_T) : Option (Int32 × tw_T) := (J_wrong (nI 2) T).bind fun r1 => J_number_54 r1
theorem v_number_49 {l : Launch} {G : vv_G} {d : Nat} {o : Nat} {h0 : Nat → Option vv_E} {nz : Nat × Nat} (hG : vv_gok G) {T : tw_T} {r : Int32 × tw_T} (h : J_number_49 T = some r) : vv_V l G MX4_number (d + 2) 49 [(0, .ref o)] [] (tp o h0 T, nz) (.inl (some (.int r.1)), (tp o h0 r.2, nz)) := by
  unfold J_number_49 at h
  refine vv_aload_n dX4_number_49 rfl 0 rfl ?_
  refine vv_iconst (v := (nI 2)) dX4_number_50 (by decide) ?_
  obtain ⟨r1, er1, h⟩ := bd_o h
  refine vv_callV ok_X4_wrong q1814 (m_wrong hG er1 (d + 1)) rfl (by omega) ⟨_, _, _, _, _, tp_o, by rw [hG.1]; rfl⟩ rfl rfl (Nat.le_of_ble_eq_true rfl) dX4_number_51 ?_
  exact v_number_54 hG h
def J_number (x1 : Int32) (x2 : Int32) (T : tw_T) : Option (Int32 × tw_T) := (J_isGood T).bind fun r1 => if r1.1 = 0 then (some ((nI 0), r1.2)) else (if (r1.2.1 19) = (nI 2) then (if (nI 4) < (r1.2.1 21) then (J_number_49 r1.2) else (if (r1.2.1 22) < x1 then (J_number_49 r1.2) else (if (r1.2.1 22) ≤ x2 then (J_number_54 r1.2) else (J_number_49 r1.2)))) else ((J_wrong (nI 1) r1.2).bind fun r7 => J_number_54 r7))
theorem v_number_0 {l : Launch} {G : vv_G} {d : Nat} {o : Nat} {h0 : Nat → Option vv_E} {nz : Nat × Nat} (hG : vv_gok G) {x1 : Int32} {x2 : Int32} {T : tw_T} {r : Int32 × tw_T} (h : J_number x1 x2 T = some r) : vv_V l G MX4_number (d + 2) 0 [(0, .ref o), (1, .int x1), (2, .int x2)] [] (tp o h0 T, nz) (.inl (some (.int r.1)), (tp o h0 r.2, nz)) := by
  unfold J_number at h
  refine vv_aload_n dX4_number_0 rfl 0 rfl ?_
  obtain ⟨r1, er1, h⟩ := bd_o h
  refine vv_callV ok_X4_isGood q1791 (m_isGood hG er1 (d + 1)) rfl (by omega) ⟨_, _, _, _, _, tp_o, by rw [hG.1]; rfl⟩ rfl rfl (Nat.le_of_ble_eq_true rfl) dX4_number_1 ?_
  refine vv_if_ne (tgt := 9) dX4_number_4 (by decide) (fun c2 => ?_) (fun c2 => ?_)
  · rw [if_neg c2] at h
    refine vv_aload_n dX4_number_9 rfl 0 rfl ?_
    refine tw_get (fl_X4_150 hG) (k := 19) rfl dX4_number_10 ?_
    refine vv_iconst (v := (nI 2)) dX4_number_13 (by decide) ?_
    refine vv_icmp_eq (tgt := 25) dX4_number_14 (by decide) (fun c3 => ?_) (fun c3 => ?_)
    · rw [if_pos c3] at h
      refine vv_aload_n dX4_number_25 rfl 0 rfl ?_
      refine tw_get (fl_X4_160 hG) (k := 21) rfl dX4_number_26 ?_
      refine vv_iconst (v := (nI 4)) dX4_number_29 (by decide) ?_
      refine vv_icmp_gt (tgt := 49) dX4_number_30 (by decide) (fun c4 => ?_) (fun c4 => ?_)
      · rw [if_pos c4] at h
        refine vv_sub (lv' := [(0, .ref o)]) [0] rfl ?_
        exact v_number_49 hG h
      · rw [if_neg c4] at h
        refine vv_aload_n dX4_number_33 rfl 0 rfl ?_
        refine tw_get (fl_X4_144 hG) (k := 22) rfl dX4_number_34 ?_
        refine vv_iload_n dX4_number_37 rfl 1 rfl ?_
        refine vv_icmp_lt (tgt := 49) dX4_number_38 (by decide) (fun c5 => ?_) (fun c5 => ?_)
        · rw [if_pos c5] at h
          refine vv_sub (lv' := [(0, .ref o)]) [0] rfl ?_
          exact v_number_49 hG h
        · rw [if_neg c5] at h
          refine vv_aload_n dX4_number_41 rfl 0 rfl ?_
          refine tw_get (fl_X4_144 hG) (k := 22) rfl dX4_number_42 ?_
          refine vv_iload_n dX4_number_45 rfl 2 rfl ?_
          refine vv_icmp_le (tgt := 54) dX4_number_46 (by decide) (fun c6 => ?_) (fun c6 => ?_)
          · rw [if_pos c6] at h
            refine vv_sub (lv' := [(0, .ref o)]) [0] rfl ?_
            exact v_number_54 hG h
          · rw [if_neg c6] at h
            refine vv_sub (lv' := [(0, .ref o)]) [0] rfl ?_
            exact v_number_49 hG h
    · rw [if_neg c3] at h
      refine vv_aload_n dX4_number_17 rfl 0 rfl ?_
      refine vv_iconst (v := (nI 1)) dX4_number_18 (by decide) ?_
      obtain ⟨r7, er7, h⟩ := bd_o h
      refine vv_callV ok_X4_wrong q1814 (m_wrong hG er7 (d + 1)) rfl (by omega) ⟨_, _, _, _, _, tp_o, by rw [hG.1]; rfl⟩ rfl rfl (Nat.le_of_ble_eq_true rfl) dX4_number_19 ?_
      refine vv_goto (tgt := 54) dX4_number_22 (by decide) ?_
      refine vv_sub (lv' := [(0, .ref o)]) [0] rfl ?_
      exact v_number_54 hG h
  · rw [if_pos c2] at h
    refine vv_iconst (v := (nI 0)) dX4_number_7 (by decide) ?_
    cases h
    exact vv_iret rfl dX4_number_8
theorem m_number {l : Launch} {G : vv_G} {o : Nat} {h0 : Nat → Option vv_E} {nz : Nat × Nat} (hG : vv_gok G) {x1 : Int32} {x2 : Int32} {T : tw_T} {r : Int32 × tw_T} (h : J_number x1 x2 T = some r) (d : Nat) : vv_Met l G MX4_number (d + 2) [.ref o, .int x1, .int x2] (tp o h0 T, nz) (.inl (some (.int r.1)), (tp o h0 r.2, nz)) := vv_head (by decide +kernel) rfl (Nat.le_of_ble_eq_true rfl) rfl (v_number_0 hG h)
/-! readsCrate -/
def J_readsCrate_151 (T : tw_T) : Option tw_T := some T
theorem v_readsCrate_151 {l : Launch} {G : vv_G} {d : Nat} {o : Nat} {h0 : Nat → Option vv_E} {nz : Nat × Nat} (hG : vv_gok G) {T : tw_T} {r : tw_T} (h : J_readsCrate_151 T = some r) : vv_V l G MX4_readsCrate (d + 3) 151 [(0, .ref o)] [] (tp o h0 T, nz) (.inl none, (tp o h0 r, nz)) := by
  unfold J_readsCrate_151 at h
  cases h
  exact vv_vret rfl dX4_readsCrate_151
def J_readsCrate_134 (T : tw_T) : Option tw_T := (J_isGood T).bind fun r1 => if r1.1 = 0 then (J_readsCrate_151 r1.2) else ((some (tw_F r1.2 27 ((r1.2.1 27) + (nI 1)))).bind fun T3 => J_readsCrate_151 T3)
theorem v_readsCrate_134 {l : Launch} {G : vv_G} {d : Nat} {o : Nat} {h0 : Nat → Option vv_E} {nz : Nat × Nat} (hG : vv_gok G) {T : tw_T} {r : tw_T} (h : J_readsCrate_134 T = some r) : vv_V l G MX4_readsCrate (d + 3) 134 [(0, .ref o)] [] (tp o h0 T, nz) (.inl none, (tp o h0 r, nz)) := by
  unfold J_readsCrate_134 at h
  refine vv_aload_n dX4_readsCrate_134 rfl 0 rfl ?_
  obtain ⟨r1, er1, h⟩ := bd_o h
  refine vv_callV ok_X4_isGood q1791 (m_isGood hG er1 (d + 2)) rfl (by omega) ⟨_, _, _, _, _, tp_o, by rw [hG.1]; rfl⟩ rfl rfl (Nat.le_of_ble_eq_true rfl) dX4_readsCrate_135 ?_
  refine vv_if_eq (tgt := 151) dX4_readsCrate_138 (by decide) (fun c2 => ?_) (fun c2 => ?_)
  · rw [if_pos c2] at h
    exact v_readsCrate_151 hG h
  · rw [if_neg c2] at h
    refine vv_aload_n dX4_readsCrate_141 rfl 0 rfl ?_
    refine vv_dup dX4_readsCrate_142 rfl ?_
    refine tw_get (fl_X4_253 hG) (k := 27) rfl dX4_readsCrate_143 ?_
    refine vv_iconst (v := (nI 1)) dX4_readsCrate_146 (by decide) ?_
    refine vv_iadd dX4_readsCrate_147 ?_
    obtain ⟨T3, eT3, h⟩ := bd_s h
    refine tw_put (T1 := T3) (pt_X4_253 hG) hG rfl rfl rfl (by decide) (by rw [eT3]; exact tw_set27 _ _ _) (by rw [eT3]; rfl) dX4_readsCrate_148 ?_
    exact v_readsCrate_151 hG h
def J_readsCrate_14 (x1 : Int32) (T : tw_T) : Option tw_T := (J_isGood T).bind fun r1 => if r1.1 = 0 then (some r1.2) else ((J_goes r1.2).bind fun r3 => (J_number (nI 0) (nI 99) r3).bind fun r4 => (stA r4.2 16 85 ((nI 25) + (r3.1 27)) r4.1).bind fun T5 => (stA T5 16 85 ((nI 35) + (r3.1 27)) x1).bind fun T6 => (J_among (T6.1 25) T6).bind fun r7 => (stA r7.2 16 85 ((nI 55) + (r3.1 27)) r7.1).bind fun T8 => (stA T8 16 85 ((nI 65) + (r3.1 27)) (nI 0)).bind fun T9 => (stA T9 16 85 ((nI 75) + (r3.1 27)) (nI 0)).bind fun T10 => (stA T10 16 85 ((nI 45) + (r3.1 27)) (nI 0)).bind fun T11 => (J_isGood T11).bind fun r12 => if r12.1 = 0 then (J_readsCrate_134 r12.2) else ((J_knownWord r12.2).bind fun r14 => if r14.1 = (nI 10) then ((stA r14.2 16 85 ((nI 45) + (r3.1 27)) (nI 1)).bind fun T16 => (J_goes T16).bind fun r17 => J_readsCrate_134 r17) else (J_readsCrate_134 r14.2)))
theorem v_readsCrate_14 {l : Launch} {G : vv_G} {d : Nat} {o : Nat} {h0 : Nat → Option vv_E} {nz : Nat × Nat} (hG : vv_gok G) {x1 : Int32} {T : tw_T} {r : tw_T} (h : J_readsCrate_14 x1 T = some r) : vv_V l G MX4_readsCrate (d + 3) 14 [(0, .ref o), (1, .int x1)] [] (tp o h0 T, nz) (.inl none, (tp o h0 r, nz)) := by
  unfold J_readsCrate_14 at h
  refine vv_aload_n dX4_readsCrate_14 rfl 0 rfl ?_
  obtain ⟨r1, er1, h⟩ := bd_o h
  refine vv_callV ok_X4_isGood q1791 (m_isGood hG er1 (d + 2)) rfl (by omega) ⟨_, _, _, _, _, tp_o, by rw [hG.1]; rfl⟩ rfl rfl (Nat.le_of_ble_eq_true rfl) dX4_readsCrate_15 ?_
  refine vv_if_ne (tgt := 22) dX4_readsCrate_18 (by decide) (fun c2 => ?_) (fun c2 => ?_)
  · rw [if_neg c2] at h
    refine vv_aload_n dX4_readsCrate_22 rfl 0 rfl ?_
    obtain ⟨r3, er3, h⟩ := bd_o h
    refine vv_callV ok_X4_goes q1777 (m_goes hG er3 (d + 1)) rfl (by omega) ⟨_, _, _, _, _, tp_o, by rw [hG.1]; rfl⟩ rfl rfl (Nat.le_of_ble_eq_true rfl) dX4_readsCrate_23 ?_
    refine vv_aload_n dX4_readsCrate_26 rfl 0 rfl ?_
    refine tw_get (fl_X4_253 hG) (k := 27) rfl dX4_readsCrate_27 ?_
    refine vv_istore_n (lv' := [(0, .ref o), (1, .int x1), (2, .int (r3.1 27))]) dX4_readsCrate_30 rfl (by decide) [1, 2, 0] rfl ?_
    refine vv_aload_n dX4_readsCrate_31 rfl 0 rfl ?_
    refine tw_get (fl_X4_62 hG) (k := 38) rfl dX4_readsCrate_32 ?_
    refine vv_bipush (v := (nI 25)) dX4_readsCrate_35 (by decide) ?_
    refine vv_iload_n dX4_readsCrate_37 rfl 2 rfl ?_
    refine vv_iadd dX4_readsCrate_38 ?_
    refine vv_aload_n dX4_readsCrate_39 rfl 0 rfl ?_
    refine vv_iconst (v := (nI 0)) dX4_readsCrate_40 (by decide) ?_
    refine vv_bipush (v := (nI 99)) dX4_readsCrate_41 (by decide) ?_
    obtain ⟨r4, er4, h⟩ := bd_o h
    refine vv_callV ok_X4_number q1818 (m_number hG er4 (d + 0)) rfl (by omega) ⟨_, _, _, _, _, tp_o, by rw [hG.1]; rfl⟩ rfl rfl (Nat.le_of_ble_eq_true rfl) dX4_readsCrate_43 ?_
    obtain ⟨T5, iT5, eT5, h⟩ := st_o h
    refine tw_ast 16 (by decide) rfl iT5 eT5 dX4_readsCrate_46 ?_
    refine vv_aload_n dX4_readsCrate_47 rfl 0 rfl ?_
    refine tw_get (fl_X4_62 hG) (k := 38) rfl dX4_readsCrate_48 ?_
    refine vv_bipush (v := (nI 35)) dX4_readsCrate_51 (by decide) ?_
    refine vv_iload_n dX4_readsCrate_53 rfl 2 rfl ?_
    refine vv_iadd dX4_readsCrate_54 ?_
    refine vv_iload_n dX4_readsCrate_55 rfl 1 rfl ?_
    obtain ⟨T6, iT6, eT6, h⟩ := st_o h
    refine tw_ast 16 (by decide) rfl iT6 eT6 dX4_readsCrate_56 ?_
    refine vv_aload_n dX4_readsCrate_57 rfl 0 rfl ?_
    refine tw_get (fl_X4_62 hG) (k := 38) rfl dX4_readsCrate_58 ?_
    refine vv_bipush (v := (nI 55)) dX4_readsCrate_61 (by decide) ?_
    refine vv_iload_n dX4_readsCrate_63 rfl 2 rfl ?_
    refine vv_iadd dX4_readsCrate_64 ?_
    refine vv_aload_n dX4_readsCrate_65 rfl 0 rfl ?_
    refine vv_aload_n dX4_readsCrate_66 rfl 0 rfl ?_
    refine tw_get (fl_X4_236 hG) (k := 25) rfl dX4_readsCrate_67 ?_
    obtain ⟨r7, er7, h⟩ := bd_o h
    refine vv_callV ok_X4_among q1826 (m_among hG er7 (d + 0)) rfl (by omega) ⟨_, _, _, _, _, tp_o, by rw [hG.1]; rfl⟩ rfl rfl (Nat.le_of_ble_eq_true rfl) dX4_readsCrate_70 ?_
    obtain ⟨T8, iT8, eT8, h⟩ := st_o h
    refine tw_ast 16 (by decide) rfl iT8 eT8 dX4_readsCrate_73 ?_
    refine vv_aload_n dX4_readsCrate_74 rfl 0 rfl ?_
    refine tw_get (fl_X4_62 hG) (k := 38) rfl dX4_readsCrate_75 ?_
    refine vv_bipush (v := (nI 65)) dX4_readsCrate_78 (by decide) ?_
    refine vv_iload_n dX4_readsCrate_80 rfl 2 rfl ?_
    refine vv_iadd dX4_readsCrate_81 ?_
    refine vv_iconst (v := (nI 0)) dX4_readsCrate_82 (by decide) ?_
    obtain ⟨T9, iT9, eT9, h⟩ := st_o h
    refine tw_ast 16 (by decide) rfl iT9 eT9 dX4_readsCrate_83 ?_
    refine vv_aload_n dX4_readsCrate_84 rfl 0 rfl ?_
    refine tw_get (fl_X4_62 hG) (k := 38) rfl dX4_readsCrate_85 ?_
    refine vv_bipush (v := (nI 75)) dX4_readsCrate_88 (by decide) ?_
    refine vv_iload_n dX4_readsCrate_90 rfl 2 rfl ?_
    refine vv_iadd dX4_readsCrate_91 ?_
    refine vv_iconst (v := (nI 0)) dX4_readsCrate_92 (by decide) ?_
    obtain ⟨T10, iT10, eT10, h⟩ := st_o h
    refine tw_ast 16 (by decide) rfl iT10 eT10 dX4_readsCrate_93 ?_
    refine vv_aload_n dX4_readsCrate_94 rfl 0 rfl ?_
    refine tw_get (fl_X4_62 hG) (k := 38) rfl dX4_readsCrate_95 ?_
    refine vv_bipush (v := (nI 45)) dX4_readsCrate_98 (by decide) ?_
    refine vv_iload_n dX4_readsCrate_100 rfl 2 rfl ?_
    refine vv_iadd dX4_readsCrate_101 ?_
    refine vv_iconst (v := (nI 0)) dX4_readsCrate_102 (by decide) ?_
    obtain ⟨T11, iT11, eT11, h⟩ := st_o h
    refine tw_ast 16 (by decide) rfl iT11 eT11 dX4_readsCrate_103 ?_
    refine vv_aload_n dX4_readsCrate_104 rfl 0 rfl ?_
    obtain ⟨r12, er12, h⟩ := bd_o h
    refine vv_callV ok_X4_isGood q1791 (m_isGood hG er12 (d + 2)) rfl (by omega) ⟨_, _, _, _, _, tp_o, by rw [hG.1]; rfl⟩ rfl rfl (Nat.le_of_ble_eq_true rfl) dX4_readsCrate_105 ?_
    refine vv_if_eq (tgt := 134) dX4_readsCrate_108 (by decide) (fun c13 => ?_) (fun c13 => ?_)
    · rw [if_pos c13] at h
      refine vv_sub (lv' := [(0, .ref o)]) [0] rfl ?_
      exact v_readsCrate_134 hG h
    · rw [if_neg c13] at h
      refine vv_aload_n dX4_readsCrate_111 rfl 0 rfl ?_
      obtain ⟨r14, er14, h⟩ := bd_o h
      refine vv_callV ok_X4_knownWord q1799 (m_knownWord hG er14 (d + 0)) rfl (by omega) ⟨_, _, _, _, _, tp_o, by rw [hG.1]; rfl⟩ rfl rfl (Nat.le_of_ble_eq_true rfl) dX4_readsCrate_112 ?_
      refine vv_bipush (v := (nI 10)) dX4_readsCrate_115 (by decide) ?_
      refine vv_icmp_ne (tgt := 134) dX4_readsCrate_117 (by decide) (fun c15 => ?_) (fun c15 => ?_)
      · rw [if_neg c15] at h
        refine vv_sub (lv' := [(0, .ref o)]) [0] rfl ?_
        exact v_readsCrate_134 hG h
      · rw [if_pos c15] at h
        refine vv_aload_n dX4_readsCrate_120 rfl 0 rfl ?_
        refine tw_get (fl_X4_62 hG) (k := 38) rfl dX4_readsCrate_121 ?_
        refine vv_bipush (v := (nI 45)) dX4_readsCrate_124 (by decide) ?_
        refine vv_iload_n dX4_readsCrate_126 rfl 2 rfl ?_
        refine vv_iadd dX4_readsCrate_127 ?_
        refine vv_iconst (v := (nI 1)) dX4_readsCrate_128 (by decide) ?_
        obtain ⟨T16, iT16, eT16, h⟩ := st_o h
        refine tw_ast 16 (by decide) rfl iT16 eT16 dX4_readsCrate_129 ?_
        refine vv_aload_n dX4_readsCrate_130 rfl 0 rfl ?_
        obtain ⟨r17, er17, h⟩ := bd_o h
        refine vv_callV ok_X4_goes q1777 (m_goes hG er17 (d + 1)) rfl (by omega) ⟨_, _, _, _, _, tp_o, by rw [hG.1]; rfl⟩ rfl rfl (Nat.le_of_ble_eq_true rfl) dX4_readsCrate_131 ?_
        refine vv_sub (lv' := [(0, .ref o)]) [0] rfl ?_
        exact v_readsCrate_134 hG h
  · rw [if_pos c2] at h
    cases h
    exact vv_vret rfl dX4_readsCrate_21
def J_readsCrate (x1 : Int32) (T : tw_T) : Option tw_T := if (T.1 27) = (nI 10) then ((J_wrong (nI 2) T).bind fun r2 => J_readsCrate_14 x1 r2) else (J_readsCrate_14 x1 T)
theorem v_readsCrate_0 {l : Launch} {G : vv_G} {d : Nat} {o : Nat} {h0 : Nat → Option vv_E} {nz : Nat × Nat} (hG : vv_gok G) {x1 : Int32} {T : tw_T} {r : tw_T} (h : J_readsCrate x1 T = some r) : vv_V l G MX4_readsCrate (d + 3) 0 [(0, .ref o), (1, .int x1)] [] (tp o h0 T, nz) (.inl none, (tp o h0 r, nz)) := by
  unfold J_readsCrate at h
  refine vv_aload_n dX4_readsCrate_0 rfl 0 rfl ?_
  refine tw_get (fl_X4_253 hG) (k := 27) rfl dX4_readsCrate_1 ?_
  refine vv_bipush (v := (nI 10)) dX4_readsCrate_4 (by decide) ?_
  refine vv_icmp_ne (tgt := 14) dX4_readsCrate_6 (by decide) (fun c1 => ?_) (fun c1 => ?_)
  · rw [if_neg c1] at h
    exact v_readsCrate_14 hG h
  · rw [if_pos c1] at h
    refine vv_aload_n dX4_readsCrate_9 rfl 0 rfl ?_
    refine vv_iconst (v := (nI 2)) dX4_readsCrate_10 (by decide) ?_
    obtain ⟨r2, er2, h⟩ := bd_o h
    refine vv_callV ok_X4_wrong q1814 (m_wrong hG er2 (d + 2)) rfl (by omega) ⟨_, _, _, _, _, tp_o, by rw [hG.1]; rfl⟩ rfl rfl (Nat.le_of_ble_eq_true rfl) dX4_readsCrate_11 ?_
    exact v_readsCrate_14 hG h
theorem m_readsCrate {l : Launch} {G : vv_G} {o : Nat} {h0 : Nat → Option vv_E} {nz : Nat × Nat} (hG : vv_gok G) {x1 : Int32} {T : tw_T} {r : tw_T} (h : J_readsCrate x1 T = some r) (d : Nat) : vv_Met l G MX4_readsCrate (d + 3) [.ref o, .int x1] (tp o h0 T, nz) (.inl none, (tp o h0 r, nz)) := vv_head (by decide +kernel) rfl (Nat.le_of_ble_eq_true rfl) rfl (v_readsCrate_0 hG h)
/-! readsTown -/
def J_readsTown_117 (T : tw_T) : Option tw_T := some T
theorem v_readsTown_117 {l : Launch} {G : vv_G} {d : Nat} {o : Nat} {h0 : Nat → Option vv_E} {nz : Nat × Nat} (hG : vv_gok G) {T : tw_T} {r : tw_T} (h : J_readsTown_117 T = some r) : vv_V l G MX4_readsTown (d + 3) 117 [(0, .ref o)] [] (tp o h0 T, nz) (.inl none, (tp o h0 r, nz)) := by
  unfold J_readsTown_117 at h
  cases h
  exact vv_vret rfl dX4_readsTown_117
def J_readsTown_14 (T : tw_T) : Option tw_T := (J_isGood T).bind fun r1 => if r1.1 = 0 then (some r1.2) else ((J_goes r1.2).bind fun r3 => (J_number (nI 0) (nI 999) r3).bind fun r4 => (stA r4.2 16 85 ((nI 1) + (r3.1 25)) r4.1).bind fun T5 => (J_number (nI 0) (nI 999) T5).bind fun r6 => (stA r6.2 16 85 ((nI 9) + (r3.1 25)) r6.1).bind fun T7 => (stA T7 16 85 ((nI 17) + (r3.1 25)) (nI 0)).bind fun T8 => (J_number (nI 0) (nI 20) T8).bind fun r9 => (stA r9.2 10 8 (r3.1 25) r9.1).bind fun T10 => (J_number (nI 0) (nI 20) T10).bind fun r11 => (stA r11.2 11 8 (r3.1 25) r11.1).bind fun T12 => (J_isGood T12).bind fun r13 => if r13.1 = 0 then (J_readsTown_117 r13.2) else ((some (tw_F r13.2 25 ((r13.2.1 25) + (nI 1)))).bind fun T15 => J_readsTown_117 T15))
theorem v_readsTown_14 {l : Launch} {G : vv_G} {d : Nat} {o : Nat} {h0 : Nat → Option vv_E} {nz : Nat × Nat} (hG : vv_gok G) {T : tw_T} {r : tw_T} (h : J_readsTown_14 T = some r) : vv_V l G MX4_readsTown (d + 3) 14 [(0, .ref o)] [] (tp o h0 T, nz) (.inl none, (tp o h0 r, nz)) := by
  unfold J_readsTown_14 at h
  refine vv_aload_n dX4_readsTown_14 rfl 0 rfl ?_
  obtain ⟨r1, er1, h⟩ := bd_o h
  refine vv_callV ok_X4_isGood q1791 (m_isGood hG er1 (d + 2)) rfl (by omega) ⟨_, _, _, _, _, tp_o, by rw [hG.1]; rfl⟩ rfl rfl (Nat.le_of_ble_eq_true rfl) dX4_readsTown_15 ?_
  refine vv_if_ne (tgt := 22) dX4_readsTown_18 (by decide) (fun c2 => ?_) (fun c2 => ?_)
  · rw [if_neg c2] at h
    refine vv_aload_n dX4_readsTown_22 rfl 0 rfl ?_
    obtain ⟨r3, er3, h⟩ := bd_o h
    refine vv_callV ok_X4_goes q1777 (m_goes hG er3 (d + 1)) rfl (by omega) ⟨_, _, _, _, _, tp_o, by rw [hG.1]; rfl⟩ rfl rfl (Nat.le_of_ble_eq_true rfl) dX4_readsTown_23 ?_
    refine vv_aload_n dX4_readsTown_26 rfl 0 rfl ?_
    refine tw_get (fl_X4_236 hG) (k := 25) rfl dX4_readsTown_27 ?_
    refine vv_istore_n (lv' := [(0, .ref o), (1, .int (r3.1 25))]) dX4_readsTown_30 rfl (by decide) [1, 0] rfl ?_
    refine vv_aload_n dX4_readsTown_31 rfl 0 rfl ?_
    refine tw_get (fl_X4_62 hG) (k := 38) rfl dX4_readsTown_32 ?_
    refine vv_iconst (v := (nI 1)) dX4_readsTown_35 (by decide) ?_
    refine vv_iload_n dX4_readsTown_36 rfl 1 rfl ?_
    refine vv_iadd dX4_readsTown_37 ?_
    refine vv_aload_n dX4_readsTown_38 rfl 0 rfl ?_
    refine vv_iconst (v := (nI 0)) dX4_readsTown_39 (by decide) ?_
    refine vv_sipush (v := (nI 999)) dX4_readsTown_40 (by decide) ?_
    obtain ⟨r4, er4, h⟩ := bd_o h
    refine vv_callV ok_X4_number q1818 (m_number hG er4 (d + 0)) rfl (by omega) ⟨_, _, _, _, _, tp_o, by rw [hG.1]; rfl⟩ rfl rfl (Nat.le_of_ble_eq_true rfl) dX4_readsTown_43 ?_
    obtain ⟨T5, iT5, eT5, h⟩ := st_o h
    refine tw_ast 16 (by decide) rfl iT5 eT5 dX4_readsTown_46 ?_
    refine vv_aload_n dX4_readsTown_47 rfl 0 rfl ?_
    refine tw_get (fl_X4_62 hG) (k := 38) rfl dX4_readsTown_48 ?_
    refine vv_bipush (v := (nI 9)) dX4_readsTown_51 (by decide) ?_
    refine vv_iload_n dX4_readsTown_53 rfl 1 rfl ?_
    refine vv_iadd dX4_readsTown_54 ?_
    refine vv_aload_n dX4_readsTown_55 rfl 0 rfl ?_
    refine vv_iconst (v := (nI 0)) dX4_readsTown_56 (by decide) ?_
    refine vv_sipush (v := (nI 999)) dX4_readsTown_57 (by decide) ?_
    obtain ⟨r6, er6, h⟩ := bd_o h
    refine vv_callV ok_X4_number q1818 (m_number hG er6 (d + 0)) rfl (by omega) ⟨_, _, _, _, _, tp_o, by rw [hG.1]; rfl⟩ rfl rfl (Nat.le_of_ble_eq_true rfl) dX4_readsTown_60 ?_
    obtain ⟨T7, iT7, eT7, h⟩ := st_o h
    refine tw_ast 16 (by decide) rfl iT7 eT7 dX4_readsTown_63 ?_
    refine vv_aload_n dX4_readsTown_64 rfl 0 rfl ?_
    refine tw_get (fl_X4_62 hG) (k := 38) rfl dX4_readsTown_65 ?_
    refine vv_bipush (v := (nI 17)) dX4_readsTown_68 (by decide) ?_
    refine vv_iload_n dX4_readsTown_70 rfl 1 rfl ?_
    refine vv_iadd dX4_readsTown_71 ?_
    refine vv_iconst (v := (nI 0)) dX4_readsTown_72 (by decide) ?_
    obtain ⟨T8, iT8, eT8, h⟩ := st_o h
    refine tw_ast 16 (by decide) rfl iT8 eT8 dX4_readsTown_73 ?_
    refine vv_aload_n dX4_readsTown_74 rfl 0 rfl ?_
    refine tw_get (fl_X4_44 hG) (k := 32) rfl dX4_readsTown_75 ?_
    refine vv_iload_n dX4_readsTown_78 rfl 1 rfl ?_
    refine vv_aload_n dX4_readsTown_79 rfl 0 rfl ?_
    refine vv_iconst (v := (nI 0)) dX4_readsTown_80 (by decide) ?_
    refine vv_bipush (v := (nI 20)) dX4_readsTown_81 (by decide) ?_
    obtain ⟨r9, er9, h⟩ := bd_o h
    refine vv_callV ok_X4_number q1818 (m_number hG er9 (d + 0)) rfl (by omega) ⟨_, _, _, _, _, tp_o, by rw [hG.1]; rfl⟩ rfl rfl (Nat.le_of_ble_eq_true rfl) dX4_readsTown_83 ?_
    obtain ⟨T10, iT10, eT10, h⟩ := st_o h
    refine tw_ast 10 (by decide) rfl iT10 eT10 dX4_readsTown_86 ?_
    refine vv_aload_n dX4_readsTown_87 rfl 0 rfl ?_
    refine tw_get (fl_X4_47 hG) (k := 33) rfl dX4_readsTown_88 ?_
    refine vv_iload_n dX4_readsTown_91 rfl 1 rfl ?_
    refine vv_aload_n dX4_readsTown_92 rfl 0 rfl ?_
    refine vv_iconst (v := (nI 0)) dX4_readsTown_93 (by decide) ?_
    refine vv_bipush (v := (nI 20)) dX4_readsTown_94 (by decide) ?_
    obtain ⟨r11, er11, h⟩ := bd_o h
    refine vv_callV ok_X4_number q1818 (m_number hG er11 (d + 0)) rfl (by omega) ⟨_, _, _, _, _, tp_o, by rw [hG.1]; rfl⟩ rfl rfl (Nat.le_of_ble_eq_true rfl) dX4_readsTown_96 ?_
    obtain ⟨T12, iT12, eT12, h⟩ := st_o h
    refine tw_ast 11 (by decide) rfl iT12 eT12 dX4_readsTown_99 ?_
    refine vv_aload_n dX4_readsTown_100 rfl 0 rfl ?_
    obtain ⟨r13, er13, h⟩ := bd_o h
    refine vv_callV ok_X4_isGood q1791 (m_isGood hG er13 (d + 2)) rfl (by omega) ⟨_, _, _, _, _, tp_o, by rw [hG.1]; rfl⟩ rfl rfl (Nat.le_of_ble_eq_true rfl) dX4_readsTown_101 ?_
    refine vv_if_eq (tgt := 117) dX4_readsTown_104 (by decide) (fun c14 => ?_) (fun c14 => ?_)
    · rw [if_pos c14] at h
      refine vv_sub (lv' := [(0, .ref o)]) [0] rfl ?_
      exact v_readsTown_117 hG h
    · rw [if_neg c14] at h
      refine vv_aload_n dX4_readsTown_107 rfl 0 rfl ?_
      refine vv_dup dX4_readsTown_108 rfl ?_
      refine tw_get (fl_X4_236 hG) (k := 25) rfl dX4_readsTown_109 ?_
      refine vv_iconst (v := (nI 1)) dX4_readsTown_112 (by decide) ?_
      refine vv_iadd dX4_readsTown_113 ?_
      obtain ⟨T15, eT15, h⟩ := bd_s h
      refine tw_put (T1 := T15) (pt_X4_236 hG) hG rfl rfl rfl (by decide) (by rw [eT15]; exact tw_set25 _ _ _) (by rw [eT15]; rfl) dX4_readsTown_114 ?_
      refine vv_sub (lv' := [(0, .ref o)]) [0] rfl ?_
      exact v_readsTown_117 hG h
  · rw [if_pos c2] at h
    cases h
    exact vv_vret rfl dX4_readsTown_21
def J_readsTown (T : tw_T) : Option tw_T := if (T.1 25) = (nI 8) then ((J_wrong (nI 2) T).bind fun r2 => J_readsTown_14 r2) else (J_readsTown_14 T)
theorem v_readsTown_0 {l : Launch} {G : vv_G} {d : Nat} {o : Nat} {h0 : Nat → Option vv_E} {nz : Nat × Nat} (hG : vv_gok G) {T : tw_T} {r : tw_T} (h : J_readsTown T = some r) : vv_V l G MX4_readsTown (d + 3) 0 [(0, .ref o)] [] (tp o h0 T, nz) (.inl none, (tp o h0 r, nz)) := by
  unfold J_readsTown at h
  refine vv_aload_n dX4_readsTown_0 rfl 0 rfl ?_
  refine tw_get (fl_X4_236 hG) (k := 25) rfl dX4_readsTown_1 ?_
  refine vv_bipush (v := (nI 8)) dX4_readsTown_4 (by decide) ?_
  refine vv_icmp_ne (tgt := 14) dX4_readsTown_6 (by decide) (fun c1 => ?_) (fun c1 => ?_)
  · rw [if_neg c1] at h
    exact v_readsTown_14 hG h
  · rw [if_pos c1] at h
    refine vv_aload_n dX4_readsTown_9 rfl 0 rfl ?_
    refine vv_iconst (v := (nI 2)) dX4_readsTown_10 (by decide) ?_
    obtain ⟨r2, er2, h⟩ := bd_o h
    refine vv_callV ok_X4_wrong q1814 (m_wrong hG er2 (d + 2)) rfl (by omega) ⟨_, _, _, _, _, tp_o, by rw [hG.1]; rfl⟩ rfl rfl (Nat.le_of_ble_eq_true rfl) dX4_readsTown_11 ?_
    exact v_readsTown_14 hG h
theorem m_readsTown {l : Launch} {G : vv_G} {o : Nat} {h0 : Nat → Option vv_E} {nz : Nat × Nat} (hG : vv_gok G) {T : tw_T} {r : tw_T} (h : J_readsTown T = some r) (d : Nat) : vv_Met l G MX4_readsTown (d + 3) [.ref o] (tp o h0 T, nz) (.inl none, (tp o h0 r, nz)) := vv_head (by decide +kernel) rfl (Nat.le_of_ble_eq_true rfl) rfl (v_readsTown_0 hG h)
/-! hasWay -/
def J_hasWay_52 (k2 : Int32 → Int32 → Int32 → tw_T → Option (Int32 × tw_T)) (x1 : Int32) (x2 : Int32) (x3 : Int32) (T : tw_T) : Option (Int32 × tw_T) := k2 x1 x2 (x3 + (nI 1)) T
theorem v_hasWay_52 {l : Launch} {G : vv_G} {d : Nat} {o : Nat} {h0 : Nat → Option vv_E} {nz : Nat × Nat} (hG : vv_gok G) {k2 : Int32 → Int32 → Int32 → tw_T → Option (Int32 × tw_T)} (hk2 : ∀ {x1 : Int32} {x2 : Int32} {x3 : Int32} {T : tw_T} {r : Int32 × tw_T}, k2 x1 x2 x3 T = some r → vv_V l G MX4_hasWay (d + 0) 2 [(0, .ref o), (1, .int x1), (2, .int x2), (3, .int x3)] [] (tp o h0 T, nz) (.inl (some (.int r.1)), (tp o h0 r.2, nz))) {x1 : Int32} {x2 : Int32} {x3 : Int32} {T : tw_T} {r : Int32 × tw_T} (h : J_hasWay_52 k2 x1 x2 x3 T = some r) : vv_V l G MX4_hasWay (d + 0) 52 [(0, .ref o), (1, .int x1), (2, .int x2), (3, .int x3)] [] (tp o h0 T, nz) (.inl (some (.int r.1)), (tp o h0 r.2, nz)) := by
  unfold J_hasWay_52 at h
  refine vv_iinc (v := (x3 + (nI 1))) (lv' := [(0, .ref o), (1, .int x1), (2, .int x2), (3, .int (x3 + (nI 1)))]) dX4_hasWay_52 3 rfl rfl (by decide) [1, 2, 3, 0] rfl ?_
  refine vv_goto (tgt := 2) dX4_hasWay_55 (by decide) ?_
  exact hk2 h
def J_hasWay_50 (T : tw_T) : Option (Int32 × tw_T) := some ((nI 1), T)
theorem v_hasWay_50 {l : Launch} {G : vv_G} {d : Nat} {o : Nat} {h0 : Nat → Option vv_E} {nz : Nat × Nat} (hG : vv_gok G) {T : tw_T} {r : Int32 × tw_T} (h : J_hasWay_50 T = some r) : vv_V l G MX4_hasWay (d + 0) 50 [(0, .ref o)] [] (tp o h0 T, nz) (.inl (some (.int r.1)), (tp o h0 r.2, nz)) := by
  unfold J_hasWay_50 at h
  refine vv_iconst (v := (nI 1)) dX4_hasWay_50 (by decide) ?_
  cases h
  exact vv_zret rfl (by decide) dX4_hasWay_51
def J_hasWay_30 (k2 : Int32 → Int32 → Int32 → tw_T → Option (Int32 × tw_T)) (x1 : Int32) (x2 : Int32) (x3 : Int32) (T : tw_T) : Option (Int32 × tw_T) := (rdI 12 (T.2.2 12) x3).bind fun v1 => if v1 = x2 then ((rdI 12 (T.2.2 13) x3).bind fun v3 => if v3 = x1 then (J_hasWay_50 T) else (J_hasWay_52 k2 x1 x2 x3 T)) else (J_hasWay_52 k2 x1 x2 x3 T)
theorem v_hasWay_30 {l : Launch} {G : vv_G} {d : Nat} {o : Nat} {h0 : Nat → Option vv_E} {nz : Nat × Nat} (hG : vv_gok G) {k2 : Int32 → Int32 → Int32 → tw_T → Option (Int32 × tw_T)} (hk2 : ∀ {x1 : Int32} {x2 : Int32} {x3 : Int32} {T : tw_T} {r : Int32 × tw_T}, k2 x1 x2 x3 T = some r → vv_V l G MX4_hasWay (d + 0) 2 [(0, .ref o), (1, .int x1), (2, .int x2), (3, .int x3)] [] (tp o h0 T, nz) (.inl (some (.int r.1)), (tp o h0 r.2, nz))) {x1 : Int32} {x2 : Int32} {x3 : Int32} {T : tw_T} {r : Int32 × tw_T} (h : J_hasWay_30 k2 x1 x2 x3 T = some r) : vv_V l G MX4_hasWay (d + 0) 30 [(0, .ref o), (1, .int x1), (2, .int x2), (3, .int x3)] [] (tp o h0 T, nz) (.inl (some (.int r.1)), (tp o h0 r.2, nz)) := by
  unfold J_hasWay_30 at h
  refine vv_aload_n dX4_hasWay_30 rfl 0 rfl ?_
  refine tw_get (fl_X4_50 hG) (k := 34) rfl dX4_hasWay_31 ?_
  refine vv_iload_n dX4_hasWay_34 rfl 3 rfl ?_
  obtain ⟨v1, iv1, ev1, h⟩ := rd_o h
  refine tw_ald 12 (by decide) rfl iv1 ev1 dX4_hasWay_35 ?_
  refine vv_iload_n dX4_hasWay_36 rfl 2 rfl ?_
  refine vv_icmp_ne (tgt := 52) dX4_hasWay_37 (by decide) (fun c2 => ?_) (fun c2 => ?_)
  · rw [if_neg c2] at h
    exact v_hasWay_52 hG hk2 h
  · rw [if_pos c2] at h
    refine vv_aload_n dX4_hasWay_40 rfl 0 rfl ?_
    refine tw_get (fl_X4_53 hG) (k := 35) rfl dX4_hasWay_41 ?_
    refine vv_iload_n dX4_hasWay_44 rfl 3 rfl ?_
    obtain ⟨v3, iv3, ev3, h⟩ := rd_o h
    refine tw_ald 13 (by decide) rfl iv3 ev3 dX4_hasWay_45 ?_
    refine vv_iload_n dX4_hasWay_46 rfl 1 rfl ?_
    refine vv_icmp_ne (tgt := 52) dX4_hasWay_47 (by decide) (fun c4 => ?_) (fun c4 => ?_)
    · rw [if_neg c4] at h
      exact v_hasWay_52 hG hk2 h
    · rw [if_pos c4] at h
      refine vv_sub (lv' := [(0, .ref o)]) [0] rfl ?_
      exact v_hasWay_50 hG h
def B_hasWay_2 (k2 : Int32 → Int32 → Int32 → tw_T → Option (Int32 × tw_T)) (x1 : Int32) (x2 : Int32) (x3 : Int32) (T : tw_T) : Option (Int32 × tw_T) := if (T.1 26) ≤ x3 then (some ((nI 0), T)) else ((rdI 12 (T.2.2 12) x3).bind fun v2 => if v2 = x1 then ((rdI 12 (T.2.2 13) x3).bind fun v4 => if v4 = x2 then (J_hasWay_50 T) else (J_hasWay_30 k2 x1 x2 x3 T)) else (J_hasWay_30 k2 x1 x2 x3 T))
def J_hasWay_2 : Nat → Int32 → Int32 → Int32 → tw_T → Option (Int32 × tw_T)
  | 0, _, _, _, _ => none
  | n + 1, x1, x2, x3, T => B_hasWay_2 (J_hasWay_2 n) x1 x2 x3 T
theorem vb_hasWay_2 {l : Launch} {G : vv_G} {d : Nat} {o : Nat} {h0 : Nat → Option vv_E} {nz : Nat × Nat} (hG : vv_gok G) {k2 : Int32 → Int32 → Int32 → tw_T → Option (Int32 × tw_T)} (hk2 : ∀ {x1 : Int32} {x2 : Int32} {x3 : Int32} {T : tw_T} {r : Int32 × tw_T}, k2 x1 x2 x3 T = some r → vv_V l G MX4_hasWay (d + 0) 2 [(0, .ref o), (1, .int x1), (2, .int x2), (3, .int x3)] [] (tp o h0 T, nz) (.inl (some (.int r.1)), (tp o h0 r.2, nz))) {x1 : Int32} {x2 : Int32} {x3 : Int32} {T : tw_T} {r : Int32 × tw_T} (h : B_hasWay_2 k2 x1 x2 x3 T = some r) : vv_V l G MX4_hasWay (d + 0) 2 [(0, .ref o), (1, .int x1), (2, .int x2), (3, .int x3)] [] (tp o h0 T, nz) (.inl (some (.int r.1)), (tp o h0 r.2, nz)) := by
  unfold B_hasWay_2 at h
  refine vv_iload_n dX4_hasWay_2 rfl 3 rfl ?_
  refine vv_aload_n dX4_hasWay_3 rfl 0 rfl ?_
  refine tw_get (fl_X4_243 hG) (k := 26) rfl dX4_hasWay_4 ?_
  refine vv_icmp_ge (tgt := 58) dX4_hasWay_7 (by decide) (fun c1 => ?_) (fun c1 => ?_)
  · rw [if_pos c1] at h
    refine vv_iconst (v := (nI 0)) dX4_hasWay_58 (by decide) ?_
    cases h
    exact vv_zret rfl (by decide) dX4_hasWay_59
  · rw [if_neg c1] at h
    refine vv_aload_n dX4_hasWay_10 rfl 0 rfl ?_
    refine tw_get (fl_X4_50 hG) (k := 34) rfl dX4_hasWay_11 ?_
    refine vv_iload_n dX4_hasWay_14 rfl 3 rfl ?_
    obtain ⟨v2, iv2, ev2, h⟩ := rd_o h
    refine tw_ald 12 (by decide) rfl iv2 ev2 dX4_hasWay_15 ?_
    refine vv_iload_n dX4_hasWay_16 rfl 1 rfl ?_
    refine vv_icmp_ne (tgt := 30) dX4_hasWay_17 (by decide) (fun c3 => ?_) (fun c3 => ?_)
    · rw [if_neg c3] at h
      exact v_hasWay_30 hG hk2 h
    · rw [if_pos c3] at h
      refine vv_aload_n dX4_hasWay_20 rfl 0 rfl ?_
      refine tw_get (fl_X4_53 hG) (k := 35) rfl dX4_hasWay_21 ?_
      refine vv_iload_n dX4_hasWay_24 rfl 3 rfl ?_
      obtain ⟨v4, iv4, ev4, h⟩ := rd_o h
      refine tw_ald 13 (by decide) rfl iv4 ev4 dX4_hasWay_25 ?_
      refine vv_iload_n dX4_hasWay_26 rfl 2 rfl ?_
      refine vv_icmp_eq (tgt := 50) dX4_hasWay_27 (by decide) (fun c5 => ?_) (fun c5 => ?_)
      · rw [if_pos c5] at h
        refine vv_sub (lv' := [(0, .ref o)]) [0] rfl ?_
        exact v_hasWay_50 hG h
      · rw [if_neg c5] at h
        exact v_hasWay_30 hG hk2 h
theorem v_hasWay_2 {l : Launch} {G : vv_G} {d : Nat} {o : Nat} {h0 : Nat → Option vv_E} {nz : Nat × Nat} (hG : vv_gok G) : ∀ (n : Nat) {x1 : Int32} {x2 : Int32} {x3 : Int32} {T : tw_T} {r : Int32 × tw_T}, J_hasWay_2 n x1 x2 x3 T = some r → vv_V l G MX4_hasWay (d + 0) 2 [(0, .ref o), (1, .int x1), (2, .int x2), (3, .int x3)] [] (tp o h0 T, nz) (.inl (some (.int r.1)), (tp o h0 r.2, nz)) := by
  intro n
  induction n with
  | zero => intro _ _ _ _ _ h; cases h
  | succ n ih => intro _ _ _ _ _ h; exact vb_hasWay_2 hG ih h
def J_hasWay (x1 : Int32) (x2 : Int32) (T : tw_T) : Option (Int32 × tw_T) := J_hasWay_2 NN x1 x2 (nI 0) T
theorem v_hasWay_0 {l : Launch} {G : vv_G} {d : Nat} {o : Nat} {h0 : Nat → Option vv_E} {nz : Nat × Nat} (hG : vv_gok G) {x1 : Int32} {x2 : Int32} {T : tw_T} {r : Int32 × tw_T} (h : J_hasWay x1 x2 T = some r) : vv_V l G MX4_hasWay (d + 0) 0 [(0, .ref o), (1, .int x1), (2, .int x2)] [] (tp o h0 T, nz) (.inl (some (.int r.1)), (tp o h0 r.2, nz)) := by
  unfold J_hasWay at h
  refine vv_iconst (v := (nI 0)) dX4_hasWay_0 (by decide) ?_
  refine vv_istore_n (lv' := [(0, .ref o), (1, .int x1), (2, .int x2), (3, .int (nI 0))]) dX4_hasWay_1 rfl (by decide) [1, 2, 3, 0] rfl ?_
  exact v_hasWay_2 hG NN h
theorem m_hasWay {l : Launch} {G : vv_G} {o : Nat} {h0 : Nat → Option vv_E} {nz : Nat × Nat} (hG : vv_gok G) {x1 : Int32} {x2 : Int32} {T : tw_T} {r : Int32 × tw_T} (h : J_hasWay x1 x2 T = some r) (d : Nat) : vv_Met l G MX4_hasWay (d + 0) [.ref o, .int x1, .int x2] (tp o h0 T, nz) (.inl (some (.int r.1)), (tp o h0 r.2, nz)) := vv_head (by decide +kernel) rfl (Nat.le_of_ble_eq_true rfl) rfl (v_hasWay_0 hG h)
