set_option maxRecDepth 100000
/-! harms -/
def J_harms (x1 : Int32) (x2 : Int32) (T : tw_T) : Option (Int32 × tw_T) := (rdI 170 (T.2.2 20) ((nI 35) + x1)).bind fun v1 => (rdI 170 (T.2.2 20) ((nI 35) + x2)).bind fun v2 => if v1 = v2 then (some ((nI 0), T)) else ((rdI 170 (T.2.2 20) ((nI 25) + x1)).bind fun v4 => (rdI 170 (T.2.2 20) ((nI 25) + x2)).bind fun v5 => (J_lesser v4 v5).bind fun r6 => some (r6, T))
theorem v_harms_0 {l : Launch} {G : vv_G} {d : Nat} {o : Nat} {h0 : Nat → Option vv_E} {nz : Nat × Nat} (hG : vv_gok G) {x1 : Int32} {x2 : Int32} {T : tw_T} {r : Int32 × tw_T} (h : J_harms x1 x2 T = some r) : vv_V l G MX4_harms (d + 1) 0 [(0, .ref o), (1, .int x1), (2, .int x2)] [] (tp o h0 T, nz) (.inl (some (.int r.1)), (tp o h0 r.2, nz)) := by
  unfold J_harms at h
  refine vv_aload_n dX4_harms_0 rfl 0 rfl ?_
  refine tw_get (fl_X4_75 hG) (k := 42) rfl dX4_harms_1 ?_
  refine vv_bipush (v := (nI 35)) dX4_harms_4 (by decide) ?_
  refine vv_iload_n dX4_harms_6 rfl 1 rfl ?_
  refine vv_iadd dX4_harms_7 ?_
  obtain ⟨v1, iv1, ev1, h⟩ := rd_o h
  refine tw_ald 20 (by decide) rfl iv1 ev1 dX4_harms_8 ?_
  refine vv_aload_n dX4_harms_9 rfl 0 rfl ?_
  refine tw_get (fl_X4_75 hG) (k := 42) rfl dX4_harms_10 ?_
  refine vv_bipush (v := (nI 35)) dX4_harms_13 (by decide) ?_
  refine vv_iload_n dX4_harms_15 rfl 2 rfl ?_
  refine vv_iadd dX4_harms_16 ?_
  obtain ⟨v2, iv2, ev2, h⟩ := rd_o h
  refine tw_ald 20 (by decide) rfl iv2 ev2 dX4_harms_17 ?_
  refine vv_icmp_ne (tgt := 23) dX4_harms_18 (by decide) (fun c3 => ?_) (fun c3 => ?_)
  · rw [if_neg c3] at h
    refine vv_aload_n dX4_harms_23 rfl 0 rfl ?_
    refine tw_get (fl_X4_75 hG) (k := 42) rfl dX4_harms_24 ?_
    refine vv_bipush (v := (nI 25)) dX4_harms_27 (by decide) ?_
    refine vv_iload_n dX4_harms_29 rfl 1 rfl ?_
    refine vv_iadd dX4_harms_30 ?_
    obtain ⟨v4, iv4, ev4, h⟩ := rd_o h
    refine tw_ald 20 (by decide) rfl iv4 ev4 dX4_harms_31 ?_
    refine vv_aload_n dX4_harms_32 rfl 0 rfl ?_
    refine tw_get (fl_X4_75 hG) (k := 42) rfl dX4_harms_33 ?_
    refine vv_bipush (v := (nI 25)) dX4_harms_36 (by decide) ?_
    refine vv_iload_n dX4_harms_38 rfl 2 rfl ?_
    refine vv_iadd dX4_harms_39 ?_
    obtain ⟨v5, iv5, ev5, h⟩ := rd_o h
    refine tw_ald 20 (by decide) rfl iv5 ev5 dX4_harms_40 ?_
    obtain ⟨r6, er6, h⟩ := bd_o h
    refine vv_callS ok_X4_lesser q2000 (m_lesser hG er6 (d + 0)) rfl (by omega) rfl rfl (Nat.le_of_ble_eq_true rfl) dX4_harms_41 ?_
    cases h
    exact vv_iret rfl dX4_harms_44
  · rw [if_pos c3] at h
    refine vv_iconst (v := (nI 0)) dX4_harms_21 (by decide) ?_
    cases h
    exact vv_iret rfl dX4_harms_22
theorem m_harms {l : Launch} {G : vv_G} {o : Nat} {h0 : Nat → Option vv_E} {nz : Nat × Nat} (hG : vv_gok G) {x1 : Int32} {x2 : Int32} {T : tw_T} {r : Int32 × tw_T} (h : J_harms x1 x2 T = some r) (d : Nat) : vv_Met l G MX4_harms (d + 1) [.ref o, .int x1, .int x2] (tp o h0 T, nz) (.inl (some (.int r.1)), (tp o h0 r.2, nz)) := vv_head (by decide +kernel) rfl (Nat.le_of_ble_eq_true rfl) rfl (v_harms_0 hG h)
/-! laysHold -/
def J_laysHold_132 (k2 : Int32 → Int32 → tw_T → Option tw_T) (x1 : Int32) (x2 : Int32) (T : tw_T) : Option tw_T := k2 x1 (x2 + (-1)) T
theorem v_laysHold_132 {l : Launch} {G : vv_G} {d : Nat} {o : Nat} {h0 : Nat → Option vv_E} {nz : Nat × Nat} (hG : vv_gok G) {k2 : Int32 → Int32 → tw_T → Option tw_T} (hk2 : ∀ {x1 : Int32} {x2 : Int32} {T : tw_T} {r : tw_T}, k2 x1 x2 T = some r → vv_V l G MX4_laysHold (d + 2) 2 [(0, .ref o), (1, .int x1), (2, .int x2)] [] (tp o h0 T, nz) (.inl none, (tp o h0 r, nz))) {x1 : Int32} {x2 : Int32} {T : tw_T} {r : tw_T} (h : J_laysHold_132 k2 x1 x2 T = some r) : vv_V l G MX4_laysHold (d + 2) 132 [(0, .ref o), (1, .int x1), (2, .int x2)] [] (tp o h0 T, nz) (.inl none, (tp o h0 r, nz)) := by
  unfold J_laysHold_132 at h
  refine vv_iinc (v := (x2 + (-1))) (lv' := [(0, .ref o), (1, .int x1), (2, .int (x2 + (-1)))]) dX4_laysHold_132 2 rfl rfl (by decide) [1, 2, 0] rfl ?_
  refine vv_goto (tgt := 2) dX4_laysHold_135 (by decide) ?_
  exact hk2 h
def J_laysHold_107 (k2 : Int32 → Int32 → tw_T → Option tw_T) (k19 : Int32 → Int32 → Int32 → tw_T → Option tw_T) (k44 : Int32 → Int32 → Int32 → Int32 → Int32 → tw_T → Option tw_T) (x1 : Int32) (x2 : Int32) (x3 : Int32) (x4 : Int32) (x5 : Int32) (T : tw_T) : Option tw_T := k44 x1 x2 x3 x4 (x5 + (nI 1)) T
theorem v_laysHold_107 {l : Launch} {G : vv_G} {d : Nat} {o : Nat} {h0 : Nat → Option vv_E} {nz : Nat × Nat} (hG : vv_gok G) {k2 : Int32 → Int32 → tw_T → Option tw_T} (hk2 : ∀ {x1 : Int32} {x2 : Int32} {T : tw_T} {r : tw_T}, k2 x1 x2 T = some r → vv_V l G MX4_laysHold (d + 2) 2 [(0, .ref o), (1, .int x1), (2, .int x2)] [] (tp o h0 T, nz) (.inl none, (tp o h0 r, nz))) {k19 : Int32 → Int32 → Int32 → tw_T → Option tw_T} (hk19 : ∀ {x1 : Int32} {x2 : Int32} {x3 : Int32} {T : tw_T} {r : tw_T}, k19 x1 x2 x3 T = some r → vv_V l G MX4_laysHold (d + 2) 19 [(0, .ref o), (1, .int x1), (2, .int x2), (3, .int x3)] [] (tp o h0 T, nz) (.inl none, (tp o h0 r, nz))) {k44 : Int32 → Int32 → Int32 → Int32 → Int32 → tw_T → Option tw_T} (hk44 : ∀ {x1 : Int32} {x2 : Int32} {x3 : Int32} {x4 : Int32} {x5 : Int32} {T : tw_T} {r : tw_T}, k44 x1 x2 x3 x4 x5 T = some r → vv_V l G MX4_laysHold (d + 2) 44 [(0, .ref o), (1, .int x1), (2, .int x2), (3, .int x3), (4, .int x4), (5, .int x5)] [] (tp o h0 T, nz) (.inl none, (tp o h0 r, nz))) {x1 : Int32} {x2 : Int32} {x3 : Int32} {x4 : Int32} {x5 : Int32} {T : tw_T} {r : tw_T} (h : J_laysHold_107 k2 k19 k44 x1 x2 x3 x4 x5 T = some r) : vv_V l G MX4_laysHold (d + 2) 107 [(0, .ref o), (1, .int x1), (2, .int x2), (3, .int x3), (4, .int x4), (5, .int x5)] [] (tp o h0 T, nz) (.inl none, (tp o h0 r, nz)) := by
  unfold J_laysHold_107 at h
  refine vv_iinc (v := (x5 + (nI 1))) (lv' := [(0, .ref o), (1, .int x1), (2, .int x2), (3, .int x3), (4, .int x4), (5, .int (x5 + (nI 1)))]) dX4_laysHold_107 5 rfl rfl (by decide) [1, 2, 3, 4, 5, 0] rfl ?_
  refine vv_goto (tgt := 44) dX4_laysHold_110 (by decide) ?_
  exact hk44 h
def B_laysHold_44 (k2 : Int32 → Int32 → tw_T → Option tw_T) (k19 : Int32 → Int32 → Int32 → tw_T → Option tw_T) (k44 : Int32 → Int32 → Int32 → Int32 → Int32 → tw_T → Option tw_T) (x1 : Int32) (x2 : Int32) (x3 : Int32) (x4 : Int32) (x5 : Int32) (T : tw_T) : Option tw_T := if (T.1 3) ≤ x5 then ((stA T 26 10240 (((nI 10) * x2) + x3) x4).bind fun T2 => k19 x1 x2 (x3 + (nI 1)) T2) else (if ((x1 >>> (x5 &&& 31)) &&& (nI 1)) = 0 then (J_laysHold_107 k2 k19 k44 x1 x2 x3 x4 x5 T) else (if ((x2 >>> (x5 &&& 31)) &&& (nI 1)) = (nI 1) then (J_laysHold_107 k2 k19 k44 x1 x2 x3 x4 x5 T) else ((J_harms x3 x5 T).bind fun r5 => (rdI 10240 (r5.2.2.2 26) (((nI 10) * (x2 ||| ((nI 1) <<< (x5 &&& 31)))) + x5)).bind fun v6 => (J_lesser x4 (r5.1 + v6)).bind fun r7 => J_laysHold_107 k2 k19 k44 x1 x2 x3 r7 x5 r5.2)))
def J_laysHold_44 (k2 : Int32 → Int32 → tw_T → Option tw_T) (k19 : Int32 → Int32 → Int32 → tw_T → Option tw_T) : Nat → Int32 → Int32 → Int32 → Int32 → Int32 → tw_T → Option tw_T
  | 0, _, _, _, _, _, _ => none
  | n + 1, x1, x2, x3, x4, x5, T => B_laysHold_44 k2 k19 (J_laysHold_44 k2 k19 n) x1 x2 x3 x4 x5 T
theorem vb_laysHold_44 {l : Launch} {G : vv_G} {d : Nat} {o : Nat} {h0 : Nat → Option vv_E} {nz : Nat × Nat} (hG : vv_gok G) {k2 : Int32 → Int32 → tw_T → Option tw_T} (hk2 : ∀ {x1 : Int32} {x2 : Int32} {T : tw_T} {r : tw_T}, k2 x1 x2 T = some r → vv_V l G MX4_laysHold (d + 2) 2 [(0, .ref o), (1, .int x1), (2, .int x2)] [] (tp o h0 T, nz) (.inl none, (tp o h0 r, nz))) {k19 : Int32 → Int32 → Int32 → tw_T → Option tw_T} (hk19 : ∀ {x1 : Int32} {x2 : Int32} {x3 : Int32} {T : tw_T} {r : tw_T}, k19 x1 x2 x3 T = some r → vv_V l G MX4_laysHold (d + 2) 19 [(0, .ref o), (1, .int x1), (2, .int x2), (3, .int x3)] [] (tp o h0 T, nz) (.inl none, (tp o h0 r, nz))) {k44 : Int32 → Int32 → Int32 → Int32 → Int32 → tw_T → Option tw_T} (hk44 : ∀ {x1 : Int32} {x2 : Int32} {x3 : Int32} {x4 : Int32} {x5 : Int32} {T : tw_T} {r : tw_T}, k44 x1 x2 x3 x4 x5 T = some r → vv_V l G MX4_laysHold (d + 2) 44 [(0, .ref o), (1, .int x1), (2, .int x2), (3, .int x3), (4, .int x4), (5, .int x5)] [] (tp o h0 T, nz) (.inl none, (tp o h0 r, nz))) {x1 : Int32} {x2 : Int32} {x3 : Int32} {x4 : Int32} {x5 : Int32} {T : tw_T} {r : tw_T} (h : B_laysHold_44 k2 k19 k44 x1 x2 x3 x4 x5 T = some r) : vv_V l G MX4_laysHold (d + 2) 44 [(0, .ref o), (1, .int x1), (2, .int x2), (3, .int x3), (4, .int x4), (5, .int x5)] [] (tp o h0 T, nz) (.inl none, (tp o h0 r, nz)) := by
  unfold B_laysHold_44 at h
  refine vv_iload dX4_laysHold_44 5 rfl ?_
  refine vv_aload_n dX4_laysHold_46 rfl 0 rfl ?_
  refine tw_get (fl_X4_287 hG) (k := 3) rfl dX4_laysHold_47 ?_
  refine vv_icmp_ge (tgt := 113) dX4_laysHold_50 (by decide) (fun c1 => ?_) (fun c1 => ?_)
  · rw [if_pos c1] at h
    refine vv_aload_n dX4_laysHold_113 rfl 0 rfl ?_
    refine tw_get (fl_X4_93 hG) (k := 50) rfl dX4_laysHold_114 ?_
    refine vv_bipush (v := (nI 10)) dX4_laysHold_117 (by decide) ?_
    refine vv_iload_n dX4_laysHold_119 rfl 2 rfl ?_
    refine vv_imul dX4_laysHold_120 ?_
    refine vv_iload_n dX4_laysHold_121 rfl 3 rfl ?_
    refine vv_iadd dX4_laysHold_122 ?_
    refine vv_iload dX4_laysHold_123 4 rfl ?_
    obtain ⟨T2, iT2, eT2, h⟩ := st_o h
    refine tw_ast 26 (by decide) rfl iT2 eT2 dX4_laysHold_125 ?_
    refine vv_iinc (v := (x3 + (nI 1))) (lv' := [(0, .ref o), (1, .int x1), (2, .int x2), (3, .int (x3 + (nI 1))), (4, .int x4), (5, .int x5)]) dX4_laysHold_126 3 rfl rfl (by decide) [1, 2, 3, 0, 4, 5] rfl ?_
    refine vv_goto (tgt := 19) dX4_laysHold_129 (by decide) ?_
    refine vv_sub (lv' := [(0, .ref o), (1, .int x1), (2, .int x2), (3, .int (x3 + (nI 1)))]) [0, 1, 2, 3] rfl ?_
    exact hk19 h
  · rw [if_neg c1] at h
    refine vv_iload_n dX4_laysHold_53 rfl 1 rfl ?_
    refine vv_iload dX4_laysHold_54 5 rfl ?_
    refine vv_ishr dX4_laysHold_56 ?_
    refine vv_iconst (v := (nI 1)) dX4_laysHold_57 (by decide) ?_
    refine vv_iand dX4_laysHold_58 ?_
    refine vv_if_eq (tgt := 107) dX4_laysHold_59 (by decide) (fun c3 => ?_) (fun c3 => ?_)
    · rw [if_pos c3] at h
      exact v_laysHold_107 hG hk2 hk19 hk44 h
    · rw [if_neg c3] at h
      refine vv_iload_n dX4_laysHold_62 rfl 2 rfl ?_
      refine vv_iload dX4_laysHold_63 5 rfl ?_
      refine vv_ishr dX4_laysHold_65 ?_
      refine vv_iconst (v := (nI 1)) dX4_laysHold_66 (by decide) ?_
      refine vv_iand dX4_laysHold_67 ?_
      refine vv_iconst (v := (nI 1)) dX4_laysHold_68 (by decide) ?_
      refine vv_icmp_ne (tgt := 75) dX4_laysHold_69 (by decide) (fun c4 => ?_) (fun c4 => ?_)
      · rw [if_neg c4] at h
        refine vv_iload dX4_laysHold_75 4 rfl ?_
        refine vv_aload_n dX4_laysHold_77 rfl 0 rfl ?_
        refine vv_iload_n dX4_laysHold_78 rfl 3 rfl ?_
        refine vv_iload dX4_laysHold_79 5 rfl ?_
        obtain ⟨r5, er5, h⟩ := bd_o h
        refine vv_callV ok_X4_harms q2119 (m_harms hG er5 (d + 0)) rfl (by omega) ⟨_, _, _, _, _, tp_o, by rw [hG.1]; rfl⟩ rfl rfl (Nat.le_of_ble_eq_true rfl) dX4_laysHold_81 ?_
        refine vv_aload_n dX4_laysHold_84 rfl 0 rfl ?_
        refine tw_get (fl_X4_93 hG) (k := 50) rfl dX4_laysHold_85 ?_
        refine vv_bipush (v := (nI 10)) dX4_laysHold_88 (by decide) ?_
        refine vv_iload_n dX4_laysHold_90 rfl 2 rfl ?_
        refine vv_iconst (v := (nI 1)) dX4_laysHold_91 (by decide) ?_
        refine vv_iload dX4_laysHold_92 5 rfl ?_
        refine vv_ishl dX4_laysHold_94 ?_
        refine vv_ior dX4_laysHold_95 ?_
        refine vv_imul dX4_laysHold_96 ?_
        refine vv_iload dX4_laysHold_97 5 rfl ?_
        refine vv_iadd dX4_laysHold_99 ?_
        obtain ⟨v6, iv6, ev6, h⟩ := rd_o h
        refine tw_ald 26 (by decide) rfl iv6 ev6 dX4_laysHold_100 ?_
        refine vv_iadd dX4_laysHold_101 ?_
        obtain ⟨r7, er7, h⟩ := bd_o h
        refine vv_callS ok_X4_lesser q2000 (m_lesser hG er7 (d + 1)) rfl (by omega) rfl rfl (Nat.le_of_ble_eq_true rfl) dX4_laysHold_102 ?_
        refine vv_istore (lv' := [(0, .ref o), (1, .int x1), (2, .int x2), (3, .int x3), (4, .int r7), (5, .int x5)]) dX4_laysHold_105 (by decide) [1, 2, 3, 4, 0, 5] rfl ?_
        exact v_laysHold_107 hG hk2 hk19 hk44 h
      · rw [if_pos c4] at h
        refine vv_goto (tgt := 107) dX4_laysHold_72 (by decide) ?_
        exact v_laysHold_107 hG hk2 hk19 hk44 h
theorem v_laysHold_44 {l : Launch} {G : vv_G} {d : Nat} {o : Nat} {h0 : Nat → Option vv_E} {nz : Nat × Nat} (hG : vv_gok G) {k2 : Int32 → Int32 → tw_T → Option tw_T} (hk2 : ∀ {x1 : Int32} {x2 : Int32} {T : tw_T} {r : tw_T}, k2 x1 x2 T = some r → vv_V l G MX4_laysHold (d + 2) 2 [(0, .ref o), (1, .int x1), (2, .int x2)] [] (tp o h0 T, nz) (.inl none, (tp o h0 r, nz))) {k19 : Int32 → Int32 → Int32 → tw_T → Option tw_T} (hk19 : ∀ {x1 : Int32} {x2 : Int32} {x3 : Int32} {T : tw_T} {r : tw_T}, k19 x1 x2 x3 T = some r → vv_V l G MX4_laysHold (d + 2) 19 [(0, .ref o), (1, .int x1), (2, .int x2), (3, .int x3)] [] (tp o h0 T, nz) (.inl none, (tp o h0 r, nz))) : ∀ (n : Nat) {x1 : Int32} {x2 : Int32} {x3 : Int32} {x4 : Int32} {x5 : Int32} {T : tw_T} {r : tw_T}, J_laysHold_44 k2 k19 n x1 x2 x3 x4 x5 T = some r → vv_V l G MX4_laysHold (d + 2) 44 [(0, .ref o), (1, .int x1), (2, .int x2), (3, .int x3), (4, .int x4), (5, .int x5)] [] (tp o h0 T, nz) (.inl none, (tp o h0 r, nz)) := by
  intro n
  induction n with
  | zero => intro _ _ _ _ _ _ _ h; cases h
  | succ n ih => intro _ _ _ _ _ _ _ h; exact vb_laysHold_44 hG hk2 hk19 ih h
def J_laysHold_39 (k2 : Int32 → Int32 → tw_T → Option tw_T) (k19 : Int32 → Int32 → Int32 → tw_T → Option tw_T) (s0 : Int32) (x1 : Int32) (x2 : Int32) (x3 : Int32) (T : tw_T) : Option tw_T := J_laysHold_44 k2 k19 NN x1 x2 x3 s0 (nI 0) T
theorem v_laysHold_39 {l : Launch} {G : vv_G} {d : Nat} {o : Nat} {h0 : Nat → Option vv_E} {nz : Nat × Nat} (hG : vv_gok G) {k2 : Int32 → Int32 → tw_T → Option tw_T} (hk2 : ∀ {x1 : Int32} {x2 : Int32} {T : tw_T} {r : tw_T}, k2 x1 x2 T = some r → vv_V l G MX4_laysHold (d + 2) 2 [(0, .ref o), (1, .int x1), (2, .int x2)] [] (tp o h0 T, nz) (.inl none, (tp o h0 r, nz))) {k19 : Int32 → Int32 → Int32 → tw_T → Option tw_T} (hk19 : ∀ {x1 : Int32} {x2 : Int32} {x3 : Int32} {T : tw_T} {r : tw_T}, k19 x1 x2 x3 T = some r → vv_V l G MX4_laysHold (d + 2) 19 [(0, .ref o), (1, .int x1), (2, .int x2), (3, .int x3)] [] (tp o h0 T, nz) (.inl none, (tp o h0 r, nz))) {s0 : Int32} {x1 : Int32} {x2 : Int32} {x3 : Int32} {T : tw_T} {r : tw_T} (h : J_laysHold_39 k2 k19 s0 x1 x2 x3 T = some r) : vv_V l G MX4_laysHold (d + 2) 39 [(0, .ref o), (1, .int x1), (2, .int x2), (3, .int x3)] [.int s0] (tp o h0 T, nz) (.inl none, (tp o h0 r, nz)) := by
  unfold J_laysHold_39 at h
  refine vv_istore (lv' := [(0, .ref o), (1, .int x1), (2, .int x2), (3, .int x3), (4, .int s0)]) dX4_laysHold_39 (by decide) [1, 2, 3, 4, 0] rfl ?_
  refine vv_iconst (v := (nI 0)) dX4_laysHold_41 (by decide) ?_
  refine vv_istore (lv' := [(0, .ref o), (1, .int x1), (2, .int x2), (3, .int x3), (4, .int s0), (5, .int (nI 0))]) dX4_laysHold_42 (by decide) [1, 2, 3, 4, 5, 0] rfl ?_
  exact v_laysHold_44 hG hk2 hk19 NN h
def B_laysHold_19 (k2 : Int32 → Int32 → tw_T → Option tw_T) (k19 : Int32 → Int32 → Int32 → tw_T → Option tw_T) (x1 : Int32) (x2 : Int32) (x3 : Int32) (T : tw_T) : Option tw_T := if (T.1 3) ≤ x3 then (J_laysHold_132 k2 x1 x2 T) else (if x2 = x1 then (J_laysHold_39 k2 k19 (nI 0) x1 x2 x3 T) else (J_laysHold_39 k2 k19 (nI 99999) x1 x2 x3 T))
def J_laysHold_19 (k2 : Int32 → Int32 → tw_T → Option tw_T) : Nat → Int32 → Int32 → Int32 → tw_T → Option tw_T
  | 0, _, _, _, _ => none
  | n + 1, x1, x2, x3, T => B_laysHold_19 k2 (J_laysHold_19 k2 n) x1 x2 x3 T
theorem vb_laysHold_19 {l : Launch} {G : vv_G} {d : Nat} {o : Nat} {h0 : Nat → Option vv_E} {nz : Nat × Nat} (hG : vv_gok G) {k2 : Int32 → Int32 → tw_T → Option tw_T} (hk2 : ∀ {x1 : Int32} {x2 : Int32} {T : tw_T} {r : tw_T}, k2 x1 x2 T = some r → vv_V l G MX4_laysHold (d + 2) 2 [(0, .ref o), (1, .int x1), (2, .int x2)] [] (tp o h0 T, nz) (.inl none, (tp o h0 r, nz))) {k19 : Int32 → Int32 → Int32 → tw_T → Option tw_T} (hk19 : ∀ {x1 : Int32} {x2 : Int32} {x3 : Int32} {T : tw_T} {r : tw_T}, k19 x1 x2 x3 T = some r → vv_V l G MX4_laysHold (d + 2) 19 [(0, .ref o), (1, .int x1), (2, .int x2), (3, .int x3)] [] (tp o h0 T, nz) (.inl none, (tp o h0 r, nz))) {x1 : Int32} {x2 : Int32} {x3 : Int32} {T : tw_T} {r : tw_T} (h : B_laysHold_19 k2 k19 x1 x2 x3 T = some r) : vv_V l G MX4_laysHold (d + 2) 19 [(0, .ref o), (1, .int x1), (2, .int x2), (3, .int x3)] [] (tp o h0 T, nz) (.inl none, (tp o h0 r, nz)) := by
  unfold B_laysHold_19 at h
  refine vv_iload_n dX4_laysHold_19 rfl 3 rfl ?_
  refine vv_aload_n dX4_laysHold_20 rfl 0 rfl ?_
  refine tw_get (fl_X4_287 hG) (k := 3) rfl dX4_laysHold_21 ?_
  refine vv_icmp_ge (tgt := 132) dX4_laysHold_24 (by decide) (fun c1 => ?_) (fun c1 => ?_)
  · rw [if_pos c1] at h
    refine vv_sub (lv' := [(0, .ref o), (1, .int x1), (2, .int x2)]) [0, 1, 2] rfl ?_
    exact v_laysHold_132 hG hk2 h
  · rw [if_neg c1] at h
    refine vv_iload_n dX4_laysHold_27 rfl 2 rfl ?_
    refine vv_iload_n dX4_laysHold_28 rfl 1 rfl ?_
    refine vv_icmp_ne (tgt := 36) dX4_laysHold_29 (by decide) (fun c2 => ?_) (fun c2 => ?_)
    · rw [if_neg c2] at h
      refine vv_ldcw (v := (nI 99999)) dX4_laysHold_36 q2075 ?_
      exact v_laysHold_39 hG hk2 hk19 h
    · rw [if_pos c2] at h
      refine vv_iconst (v := (nI 0)) dX4_laysHold_32 (by decide) ?_
      refine vv_goto (tgt := 39) dX4_laysHold_33 (by decide) ?_
      exact v_laysHold_39 hG hk2 hk19 h
theorem v_laysHold_19 {l : Launch} {G : vv_G} {d : Nat} {o : Nat} {h0 : Nat → Option vv_E} {nz : Nat × Nat} (hG : vv_gok G) {k2 : Int32 → Int32 → tw_T → Option tw_T} (hk2 : ∀ {x1 : Int32} {x2 : Int32} {T : tw_T} {r : tw_T}, k2 x1 x2 T = some r → vv_V l G MX4_laysHold (d + 2) 2 [(0, .ref o), (1, .int x1), (2, .int x2)] [] (tp o h0 T, nz) (.inl none, (tp o h0 r, nz))) : ∀ (n : Nat) {x1 : Int32} {x2 : Int32} {x3 : Int32} {T : tw_T} {r : tw_T}, J_laysHold_19 k2 n x1 x2 x3 T = some r → vv_V l G MX4_laysHold (d + 2) 19 [(0, .ref o), (1, .int x1), (2, .int x2), (3, .int x3)] [] (tp o h0 T, nz) (.inl none, (tp o h0 r, nz)) := by
  intro n
  induction n with
  | zero => intro _ _ _ _ _ h; cases h
  | succ n ih => intro _ _ _ _ _ h; exact vb_laysHold_19 hG hk2 ih h
def B_laysHold_2 (k2 : Int32 → Int32 → tw_T → Option tw_T) (x1 : Int32) (x2 : Int32) (T : tw_T) : Option tw_T := if x2 ≤ 0 then (some T) else (if (x2 &&& (x1 ^^^ (-1))) = 0 then (J_laysHold_19 k2 NN x1 x2 (nI 0) T) else (J_laysHold_132 k2 x1 x2 T))
def J_laysHold_2 : Nat → Int32 → Int32 → tw_T → Option tw_T
  | 0, _, _, _ => none
  | n + 1, x1, x2, T => B_laysHold_2 (J_laysHold_2 n) x1 x2 T
theorem vb_laysHold_2 {l : Launch} {G : vv_G} {d : Nat} {o : Nat} {h0 : Nat → Option vv_E} {nz : Nat × Nat} (hG : vv_gok G) {k2 : Int32 → Int32 → tw_T → Option tw_T} (hk2 : ∀ {x1 : Int32} {x2 : Int32} {T : tw_T} {r : tw_T}, k2 x1 x2 T = some r → vv_V l G MX4_laysHold (d + 2) 2 [(0, .ref o), (1, .int x1), (2, .int x2)] [] (tp o h0 T, nz) (.inl none, (tp o h0 r, nz))) {x1 : Int32} {x2 : Int32} {T : tw_T} {r : tw_T} (h : B_laysHold_2 k2 x1 x2 T = some r) : vv_V l G MX4_laysHold (d + 2) 2 [(0, .ref o), (1, .int x1), (2, .int x2)] [] (tp o h0 T, nz) (.inl none, (tp o h0 r, nz)) := by
  unfold B_laysHold_2 at h
  refine vv_iload_n dX4_laysHold_2 rfl 2 rfl ?_
  refine vv_if_le (tgt := 138) dX4_laysHold_3 (by decide) (fun c1 => ?_) (fun c1 => ?_)
  · rw [if_pos c1] at h
    cases h
    exact vv_vret rfl dX4_laysHold_138
  · rw [if_neg c1] at h
    refine vv_iload_n dX4_laysHold_6 rfl 2 rfl ?_
    refine vv_iload_n dX4_laysHold_7 rfl 1 rfl ?_
    refine vv_iconst (v := (-1)) dX4_laysHold_8 (by decide) ?_
    refine vv_ixor dX4_laysHold_9 ?_
    refine vv_iand dX4_laysHold_10 ?_
    refine vv_if_eq (tgt := 17) dX4_laysHold_11 (by decide) (fun c2 => ?_) (fun c2 => ?_)
    · rw [if_pos c2] at h
      refine vv_iconst (v := (nI 0)) dX4_laysHold_17 (by decide) ?_
      refine vv_istore_n (lv' := [(0, .ref o), (1, .int x1), (2, .int x2), (3, .int (nI 0))]) dX4_laysHold_18 rfl (by decide) [1, 2, 3, 0] rfl ?_
      exact v_laysHold_19 hG hk2 NN h
    · rw [if_neg c2] at h
      refine vv_goto (tgt := 132) dX4_laysHold_14 (by decide) ?_
      exact v_laysHold_132 hG hk2 h
theorem v_laysHold_2 {l : Launch} {G : vv_G} {d : Nat} {o : Nat} {h0 : Nat → Option vv_E} {nz : Nat × Nat} (hG : vv_gok G) : ∀ (n : Nat) {x1 : Int32} {x2 : Int32} {T : tw_T} {r : tw_T}, J_laysHold_2 n x1 x2 T = some r → vv_V l G MX4_laysHold (d + 2) 2 [(0, .ref o), (1, .int x1), (2, .int x2)] [] (tp o h0 T, nz) (.inl none, (tp o h0 r, nz)) := by
  intro n
  induction n with
  | zero => intro _ _ _ _ h; cases h
  | succ n ih => intro _ _ _ _ h; exact vb_laysHold_2 hG ih h
def J_laysHold (x1 : Int32) (T : tw_T) : Option tw_T := J_laysHold_2 NN x1 x1 T
theorem v_laysHold_0 {l : Launch} {G : vv_G} {d : Nat} {o : Nat} {h0 : Nat → Option vv_E} {nz : Nat × Nat} (hG : vv_gok G) {x1 : Int32} {T : tw_T} {r : tw_T} (h : J_laysHold x1 T = some r) : vv_V l G MX4_laysHold (d + 2) 0 [(0, .ref o), (1, .int x1)] [] (tp o h0 T, nz) (.inl none, (tp o h0 r, nz)) := by
  unfold J_laysHold at h
  refine vv_iload_n dX4_laysHold_0 rfl 1 rfl ?_
  refine vv_istore_n (lv' := [(0, .ref o), (1, .int x1), (2, .int x1)]) dX4_laysHold_1 rfl (by decide) [1, 2, 0] rfl ?_
  exact v_laysHold_2 hG NN h
theorem m_laysHold {l : Launch} {G : vv_G} {o : Nat} {h0 : Nat → Option vv_E} {nz : Nat × Nat} (hG : vv_gok G) {x1 : Int32} {T : tw_T} {r : tw_T} (h : J_laysHold x1 T = some r) (d : Nat) : vv_Met l G MX4_laysHold (d + 2) [.ref o, .int x1] (tp o h0 T, nz) (.inl none, (tp o h0 r, nz)) := vv_head (by decide +kernel) rfl (Nat.le_of_ble_eq_true rfl) rfl (v_laysHold_0 hG h)
/-! hold -/
def J_hold_265 (k139 : Int32 → Int32 → Int32 → Int32 → Int32 → Int32 → tw_T → Option (Int32 × tw_T)) (s0 : Int32) (s1 : Int32) (x2 : Int32) (x3 : Int32) (x5 : Int32) (x8 : Int32) (x9 : Int32) (T : tw_T) : Option (Int32 × tw_T) := k139 x2 x3 (x5 ||| ((nI 1) <<< (x9 &&& 31))) x9 (s0 - s1) (x8 + (nI 1)) T
theorem v_hold_265 {l : Launch} {G : vv_G} {d : Nat} {o : Nat} {h0 : Nat → Option vv_E} {nz : Nat × Nat} (hG : vv_gok G) {k139 : Int32 → Int32 → Int32 → Int32 → Int32 → Int32 → tw_T → Option (Int32 × tw_T)} (hk139 : ∀ {x2 : Int32} {x3 : Int32} {x5 : Int32} {x6 : Int32} {x7 : Int32} {x8 : Int32} {T : tw_T} {r : Int32 × tw_T}, k139 x2 x3 x5 x6 x7 x8 T = some r → vv_V l G MX4_hold (d + 3) 139 [(0, .ref o), (2, .int x2), (3, .int x3), (5, .int x5), (6, .int x6), (7, .int x7), (8, .int x8)] [] (tp o h0 T, nz) (.inl (some (.int r.1)), (tp o h0 r.2, nz))) {s0 : Int32} {s1 : Int32} {x2 : Int32} {x3 : Int32} {x5 : Int32} {x8 : Int32} {x9 : Int32} {T : tw_T} {r : Int32 × tw_T} (h : J_hold_265 k139 s0 s1 x2 x3 x5 x8 x9 T = some r) : vv_V l G MX4_hold (d + 3) 265 [(0, .ref o), (2, .int x2), (3, .int x3), (5, .int x5), (8, .int x8), (9, .int x9)] [.int s1, .int s0] (tp o h0 T, nz) (.inl (some (.int r.1)), (tp o h0 r.2, nz)) := by
  unfold J_hold_265 at h
  refine vv_isub dX4_hold_265 ?_
  refine vv_istore (lv' := [(0, .ref o), (2, .int x2), (3, .int x3), (5, .int x5), (7, .int (s0 - s1)), (8, .int x8), (9, .int x9)]) dX4_hold_266 (by decide) [1, 2, 3, 4, 0, 5, 6] rfl ?_
  refine vv_iload dX4_hold_268 3 rfl ?_
  refine vv_iconst (v := (nI 1)) dX4_hold_270 (by decide) ?_
  refine vv_iload dX4_hold_271 6 rfl ?_
  refine vv_ishl dX4_hold_273 ?_
  refine vv_ior dX4_hold_274 ?_
  refine vv_istore (lv' := [(0, .ref o), (2, .int x2), (3, .int x3), (5, .int (x5 ||| ((nI 1) <<< (x9 &&& 31)))), (7, .int (s0 - s1)), (8, .int x8), (9, .int x9)]) dX4_hold_275 (by decide) [1, 2, 3, 0, 4, 5, 6] rfl ?_
  refine vv_iload dX4_hold_277 6 rfl ?_
  refine vv_istore (lv' := [(0, .ref o), (2, .int x2), (3, .int x3), (5, .int (x5 ||| ((nI 1) <<< (x9 &&& 31)))), (6, .int x9), (7, .int (s0 - s1)), (8, .int x8), (9, .int x9)]) dX4_hold_279 (by decide) [1, 2, 3, 4, 0, 5, 6, 7] rfl ?_
  refine vv_iinc (v := (x8 + (nI 1))) (lv' := [(0, .ref o), (2, .int x2), (3, .int x3), (5, .int (x5 ||| ((nI 1) <<< (x9 &&& 31)))), (6, .int x9), (7, .int (s0 - s1)), (8, .int (x8 + (nI 1))), (9, .int x9)]) dX4_hold_281 6 rfl rfl (by decide) [1, 2, 3, 4, 5, 6, 0, 7] rfl ?_
  refine vv_goto (tgt := 139) dX4_hold_284 (by decide) ?_
  refine vv_sub (lv' := [(0, .ref o), (2, .int x2), (3, .int x3), (5, .int (x5 ||| ((nI 1) <<< (x9 &&& 31)))), (6, .int x9), (7, .int (s0 - s1)), (8, .int (x8 + (nI 1)))]) [0, 1, 2, 3, 4, 5, 6] rfl ?_
  exact hk139 h
def J_hold_239 (k139 : Int32 → Int32 → Int32 → Int32 → Int32 → Int32 → tw_T → Option (Int32 × tw_T)) (k156 : Int32 → Int32 → Int32 → Int32 → Int32 → Int32 → Int32 → Int32 → tw_T → Option (Int32 × tw_T)) (x2 : Int32) (x3 : Int32) (x5 : Int32) (x6 : Int32) (x7 : Int32) (x8 : Int32) (x9 : Int32) (x10 : Int32) (T : tw_T) : Option (Int32 × tw_T) := k156 x2 x3 x5 x6 x7 x8 x9 (x10 + (-1)) T
theorem v_hold_239 {l : Launch} {G : vv_G} {d : Nat} {o : Nat} {h0 : Nat → Option vv_E} {nz : Nat × Nat} (hG : vv_gok G) {k139 : Int32 → Int32 → Int32 → Int32 → Int32 → Int32 → tw_T → Option (Int32 × tw_T)} (hk139 : ∀ {x2 : Int32} {x3 : Int32} {x5 : Int32} {x6 : Int32} {x7 : Int32} {x8 : Int32} {T : tw_T} {r : Int32 × tw_T}, k139 x2 x3 x5 x6 x7 x8 T = some r → vv_V l G MX4_hold (d + 3) 139 [(0, .ref o), (2, .int x2), (3, .int x3), (5, .int x5), (6, .int x6), (7, .int x7), (8, .int x8)] [] (tp o h0 T, nz) (.inl (some (.int r.1)), (tp o h0 r.2, nz))) {k156 : Int32 → Int32 → Int32 → Int32 → Int32 → Int32 → Int32 → Int32 → tw_T → Option (Int32 × tw_T)} (hk156 : ∀ {x2 : Int32} {x3 : Int32} {x5 : Int32} {x6 : Int32} {x7 : Int32} {x8 : Int32} {x9 : Int32} {x10 : Int32} {T : tw_T} {r : Int32 × tw_T}, k156 x2 x3 x5 x6 x7 x8 x9 x10 T = some r → vv_V l G MX4_hold (d + 3) 156 [(0, .ref o), (2, .int x2), (3, .int x3), (5, .int x5), (6, .int x6), (7, .int x7), (8, .int x8), (9, .int x9), (10, .int x10)] [] (tp o h0 T, nz) (.inl (some (.int r.1)), (tp o h0 r.2, nz))) {x2 : Int32} {x3 : Int32} {x5 : Int32} {x6 : Int32} {x7 : Int32} {x8 : Int32} {x9 : Int32} {x10 : Int32} {T : tw_T} {r : Int32 × tw_T} (h : J_hold_239 k139 k156 x2 x3 x5 x6 x7 x8 x9 x10 T = some r) : vv_V l G MX4_hold (d + 3) 239 [(0, .ref o), (2, .int x2), (3, .int x3), (5, .int x5), (6, .int x6), (7, .int x7), (8, .int x8), (9, .int x9), (10, .int x10)] [] (tp o h0 T, nz) (.inl (some (.int r.1)), (tp o h0 r.2, nz)) := by
  unfold J_hold_239 at h
  refine vv_iinc (v := (x10 + (-1))) (lv' := [(0, .ref o), (2, .int x2), (3, .int x3), (5, .int x5), (6, .int x6), (7, .int x7), (8, .int x8), (9, .int x9), (10, .int (x10 + (-1)))]) dX4_hold_239 8 rfl rfl (by decide) [1, 2, 3, 4, 5, 6, 7, 8, 0] rfl ?_
  refine vv_goto (tgt := 156) dX4_hold_242 (by decide) ?_
  exact hk156 h
def J_hold_237 (k139 : Int32 → Int32 → Int32 → Int32 → Int32 → Int32 → tw_T → Option (Int32 × tw_T)) (k156 : Int32 → Int32 → Int32 → Int32 → Int32 → Int32 → Int32 → Int32 → tw_T → Option (Int32 × tw_T)) (s0 : Int32) (x2 : Int32) (x3 : Int32) (x5 : Int32) (x6 : Int32) (x7 : Int32) (x8 : Int32) (x10 : Int32) (T : tw_T) : Option (Int32 × tw_T) := J_hold_239 k139 k156 x2 x3 x5 x6 x7 x8 s0 x10 T
theorem v_hold_237 {l : Launch} {G : vv_G} {d : Nat} {o : Nat} {h0 : Nat → Option vv_E} {nz : Nat × Nat} (hG : vv_gok G) {k139 : Int32 → Int32 → Int32 → Int32 → Int32 → Int32 → tw_T → Option (Int32 × tw_T)} (hk139 : ∀ {x2 : Int32} {x3 : Int32} {x5 : Int32} {x6 : Int32} {x7 : Int32} {x8 : Int32} {T : tw_T} {r : Int32 × tw_T}, k139 x2 x3 x5 x6 x7 x8 T = some r → vv_V l G MX4_hold (d + 3) 139 [(0, .ref o), (2, .int x2), (3, .int x3), (5, .int x5), (6, .int x6), (7, .int x7), (8, .int x8)] [] (tp o h0 T, nz) (.inl (some (.int r.1)), (tp o h0 r.2, nz))) {k156 : Int32 → Int32 → Int32 → Int32 → Int32 → Int32 → Int32 → Int32 → tw_T → Option (Int32 × tw_T)} (hk156 : ∀ {x2 : Int32} {x3 : Int32} {x5 : Int32} {x6 : Int32} {x7 : Int32} {x8 : Int32} {x9 : Int32} {x10 : Int32} {T : tw_T} {r : Int32 × tw_T}, k156 x2 x3 x5 x6 x7 x8 x9 x10 T = some r → vv_V l G MX4_hold (d + 3) 156 [(0, .ref o), (2, .int x2), (3, .int x3), (5, .int x5), (6, .int x6), (7, .int x7), (8, .int x8), (9, .int x9), (10, .int x10)] [] (tp o h0 T, nz) (.inl (some (.int r.1)), (tp o h0 r.2, nz))) {s0 : Int32} {x2 : Int32} {x3 : Int32} {x5 : Int32} {x6 : Int32} {x7 : Int32} {x8 : Int32} {x10 : Int32} {T : tw_T} {r : Int32 × tw_T} (h : J_hold_237 k139 k156 s0 x2 x3 x5 x6 x7 x8 x10 T = some r) : vv_V l G MX4_hold (d + 3) 237 [(0, .ref o), (2, .int x2), (3, .int x3), (5, .int x5), (6, .int x6), (7, .int x7), (8, .int x8), (10, .int x10)] [.int s0] (tp o h0 T, nz) (.inl (some (.int r.1)), (tp o h0 r.2, nz)) := by
  unfold J_hold_237 at h
  refine vv_istore (lv' := [(0, .ref o), (2, .int x2), (3, .int x3), (5, .int x5), (6, .int x6), (7, .int x7), (8, .int x8), (9, .int s0), (10, .int x10)]) dX4_hold_237 (by decide) [1, 2, 3, 4, 5, 6, 7, 0, 8] rfl ?_
  exact v_hold_239 hG hk139 hk156 h
def J_hold_202 (k139 : Int32 → Int32 → Int32 → Int32 → Int32 → Int32 → tw_T → Option (Int32 × tw_T)) (k156 : Int32 → Int32 → Int32 → Int32 → Int32 → Int32 → Int32 → Int32 → tw_T → Option (Int32 × tw_T)) (s0 : Int32) (x2 : Int32) (x3 : Int32) (x5 : Int32) (x6 : Int32) (x7 : Int32) (x8 : Int32) (x9 : Int32) (x10 : Int32) (T : tw_T) : Option (Int32 × tw_T) := (rdI 10240 (T.2.2 26) (((nI 10) * (x5 ||| ((nI 1) <<< (x10 &&& 31)))) + x10)).bind fun v1 => if (s0 + v1) = x7 then (J_hold_237 k139 k156 x10 x2 x3 x5 x6 x7 x8 x10 T) else (J_hold_237 k139 k156 x9 x2 x3 x5 x6 x7 x8 x10 T)
theorem v_hold_202 {l : Launch} {G : vv_G} {d : Nat} {o : Nat} {h0 : Nat → Option vv_E} {nz : Nat × Nat} (hG : vv_gok G) {k139 : Int32 → Int32 → Int32 → Int32 → Int32 → Int32 → tw_T → Option (Int32 × tw_T)} (hk139 : ∀ {x2 : Int32} {x3 : Int32} {x5 : Int32} {x6 : Int32} {x7 : Int32} {x8 : Int32} {T : tw_T} {r : Int32 × tw_T}, k139 x2 x3 x5 x6 x7 x8 T = some r → vv_V l G MX4_hold (d + 3) 139 [(0, .ref o), (2, .int x2), (3, .int x3), (5, .int x5), (6, .int x6), (7, .int x7), (8, .int x8)] [] (tp o h0 T, nz) (.inl (some (.int r.1)), (tp o h0 r.2, nz))) {k156 : Int32 → Int32 → Int32 → Int32 → Int32 → Int32 → Int32 → Int32 → tw_T → Option (Int32 × tw_T)} (hk156 : ∀ {x2 : Int32} {x3 : Int32} {x5 : Int32} {x6 : Int32} {x7 : Int32} {x8 : Int32} {x9 : Int32} {x10 : Int32} {T : tw_T} {r : Int32 × tw_T}, k156 x2 x3 x5 x6 x7 x8 x9 x10 T = some r → vv_V l G MX4_hold (d + 3) 156 [(0, .ref o), (2, .int x2), (3, .int x3), (5, .int x5), (6, .int x6), (7, .int x7), (8, .int x8), (9, .int x9), (10, .int x10)] [] (tp o h0 T, nz) (.inl (some (.int r.1)), (tp o h0 r.2, nz))) {s0 : Int32} {x2 : Int32} {x3 : Int32} {x5 : Int32} {x6 : Int32} {x7 : Int32} {x8 : Int32} {x9 : Int32} {x10 : Int32} {T : tw_T} {r : Int32 × tw_T} (h : J_hold_202 k139 k156 s0 x2 x3 x5 x6 x7 x8 x9 x10 T = some r) : vv_V l G MX4_hold (d + 3) 202 [(0, .ref o), (2, .int x2), (3, .int x3), (5, .int x5), (6, .int x6), (7, .int x7), (8, .int x8), (9, .int x9), (10, .int x10)] [.int s0] (tp o h0 T, nz) (.inl (some (.int r.1)), (tp o h0 r.2, nz)) := by
  unfold J_hold_202 at h
  refine vv_aload_n dX4_hold_202 rfl 0 rfl ?_
  refine tw_get (fl_X4_93 hG) (k := 50) rfl dX4_hold_203 ?_
  refine vv_bipush (v := (nI 10)) dX4_hold_206 (by decide) ?_
  refine vv_iload dX4_hold_208 3 rfl ?_
  refine vv_iconst (v := (nI 1)) dX4_hold_210 (by decide) ?_
  refine vv_iload dX4_hold_211 8 rfl ?_
  refine vv_ishl dX4_hold_213 ?_
  refine vv_ior dX4_hold_214 ?_
  refine vv_imul dX4_hold_215 ?_
  refine vv_iload dX4_hold_216 8 rfl ?_
  refine vv_iadd dX4_hold_218 ?_
  obtain ⟨v1, iv1, ev1, h⟩ := rd_o h
  refine tw_ald 26 (by decide) rfl iv1 ev1 dX4_hold_219 ?_
  refine vv_iadd dX4_hold_220 ?_
  refine vv_istore (lv' := [(0, .ref o), (2, .int x2), (3, .int x3), (5, .int x5), (6, .int x6), (7, .int x7), (8, .int x8), (9, .int x9), (10, .int x10), (11, .int (s0 + v1))]) dX4_hold_221 (by decide) [1, 2, 3, 4, 5, 6, 7, 8, 9, 0] rfl ?_
  refine vv_iload dX4_hold_223 9 rfl ?_
  refine vv_iload dX4_hold_225 5 rfl ?_
  refine vv_icmp_ne (tgt := 235) dX4_hold_227 (by decide) (fun c2 => ?_) (fun c2 => ?_)
  · rw [if_neg c2] at h
    refine vv_iload dX4_hold_235 7 rfl ?_
    refine vv_sub (lv' := [(0, .ref o), (2, .int x2), (3, .int x3), (5, .int x5), (6, .int x6), (7, .int x7), (8, .int x8), (10, .int x10)]) [0, 1, 2, 3, 4, 5, 6, 8] rfl ?_
    exact v_hold_237 hG hk139 hk156 h
  · rw [if_pos c2] at h
    refine vv_iload dX4_hold_230 8 rfl ?_
    refine vv_goto (tgt := 237) dX4_hold_232 (by decide) ?_
    refine vv_sub (lv' := [(0, .ref o), (2, .int x2), (3, .int x3), (5, .int x5), (6, .int x6), (7, .int x7), (8, .int x8), (10, .int x10)]) [0, 1, 2, 3, 4, 5, 6, 8] rfl ?_
    exact v_hold_237 hG hk139 hk156 h
def B_hold_156 (k139 : Int32 → Int32 → Int32 → Int32 → Int32 → Int32 → tw_T → Option (Int32 × tw_T)) (k156 : Int32 → Int32 → Int32 → Int32 → Int32 → Int32 → Int32 → Int32 → tw_T → Option (Int32 × tw_T)) (x2 : Int32) (x3 : Int32) (x5 : Int32) (x6 : Int32) (x7 : Int32) (x8 : Int32) (x9 : Int32) (x10 : Int32) (T : tw_T) : Option (Int32 × tw_T) := if x10 < 0 then (if x6 = (-1) then (J_hold_265 k139 x7 (nI 0) x2 x3 x5 x8 x9 T) else ((J_harms x6 x9 T).bind fun r3 => J_hold_265 k139 x7 r3.1 x2 x3 x5 x8 x9 r3.2)) else (if ((x3 >>> (x10 &&& 31)) &&& (nI 1)) = 0 then (J_hold_239 k139 k156 x2 x3 x5 x6 x7 x8 x9 x10 T) else (if ((x5 >>> (x10 &&& 31)) &&& (nI 1)) = (nI 1) then (J_hold_239 k139 k156 x2 x3 x5 x6 x7 x8 x9 x10 T) else (if x6 = (-1) then (J_hold_202 k139 k156 (nI 0) x2 x3 x5 x6 x7 x8 x9 x10 T) else ((J_harms x6 x10 T).bind fun r7 => J_hold_202 k139 k156 r7.1 x2 x3 x5 x6 x7 x8 x9 x10 r7.2))))
def J_hold_156 (k139 : Int32 → Int32 → Int32 → Int32 → Int32 → Int32 → tw_T → Option (Int32 × tw_T)) : Nat → Int32 → Int32 → Int32 → Int32 → Int32 → Int32 → Int32 → Int32 → tw_T → Option (Int32 × tw_T)
  | 0, _, _, _, _, _, _, _, _, _ => none
  | n + 1, x2, x3, x5, x6, x7, x8, x9, x10, T => B_hold_156 k139 (J_hold_156 k139 n) x2 x3 x5 x6 x7 x8 x9 x10 T
theorem vb_hold_156 {l : Launch} {G : vv_G} {d : Nat} {o : Nat} {h0 : Nat → Option vv_E} {nz : Nat × Nat} (hG : vv_gok G) {k139 : Int32 → Int32 → Int32 → Int32 → Int32 → Int32 → tw_T → Option (Int32 × tw_T)} (hk139 : ∀ {x2 : Int32} {x3 : Int32} {x5 : Int32} {x6 : Int32} {x7 : Int32} {x8 : Int32} {T : tw_T} {r : Int32 × tw_T}, k139 x2 x3 x5 x6 x7 x8 T = some r → vv_V l G MX4_hold (d + 3) 139 [(0, .ref o), (2, .int x2), (3, .int x3), (5, .int x5), (6, .int x6), (7, .int x7), (8, .int x8)] [] (tp o h0 T, nz) (.inl (some (.int r.1)), (tp o h0 r.2, nz))) {k156 : Int32 → Int32 → Int32 → Int32 → Int32 → Int32 → Int32 → Int32 → tw_T → Option (Int32 × tw_T)} (hk156 : ∀ {x2 : Int32} {x3 : Int32} {x5 : Int32} {x6 : Int32} {x7 : Int32} {x8 : Int32} {x9 : Int32} {x10 : Int32} {T : tw_T} {r : Int32 × tw_T}, k156 x2 x3 x5 x6 x7 x8 x9 x10 T = some r → vv_V l G MX4_hold (d + 3) 156 [(0, .ref o), (2, .int x2), (3, .int x3), (5, .int x5), (6, .int x6), (7, .int x7), (8, .int x8), (9, .int x9), (10, .int x10)] [] (tp o h0 T, nz) (.inl (some (.int r.1)), (tp o h0 r.2, nz))) {x2 : Int32} {x3 : Int32} {x5 : Int32} {x6 : Int32} {x7 : Int32} {x8 : Int32} {x9 : Int32} {x10 : Int32} {T : tw_T} {r : Int32 × tw_T} (h : B_hold_156 k139 k156 x2 x3 x5 x6 x7 x8 x9 x10 T = some r) : vv_V l G MX4_hold (d + 3) 156 [(0, .ref o), (2, .int x2), (3, .int x3), (5, .int x5), (6, .int x6), (7, .int x7), (8, .int x8), (9, .int x9), (10, .int x10)] [] (tp o h0 T, nz) (.inl (some (.int r.1)), (tp o h0 r.2, nz)) := by
  unfold B_hold_156 at h
  refine vv_iload dX4_hold_156 8 rfl ?_
  refine vv_if_lt (tgt := 245) dX4_hold_158 (by decide) (fun c1 => ?_) (fun c1 => ?_)
  · rw [if_pos c1] at h
    refine vv_iload dX4_hold_245 5 rfl ?_
    refine vv_iload dX4_hold_247 4 rfl ?_
    refine vv_iconst (v := (-1)) dX4_hold_249 (by decide) ?_
    refine vv_icmp_ne (tgt := 257) dX4_hold_250 (by decide) (fun c2 => ?_) (fun c2 => ?_)
    · rw [if_neg c2] at h
      refine vv_aload_n dX4_hold_257 rfl 0 rfl ?_
      refine vv_iload dX4_hold_258 4 rfl ?_
      refine vv_iload dX4_hold_260 7 rfl ?_
      obtain ⟨r3, er3, h⟩ := bd_o h
      refine vv_callV ok_X4_harms q2119 (m_harms hG er3 (d + 1)) rfl (by omega) ⟨_, _, _, _, _, tp_o, by rw [hG.1]; rfl⟩ rfl rfl (Nat.le_of_ble_eq_true rfl) dX4_hold_262 ?_
      refine vv_sub (lv' := [(0, .ref o), (2, .int x2), (3, .int x3), (5, .int x5), (8, .int x8), (9, .int x9)]) [0, 1, 2, 3, 6, 7] rfl ?_
      exact v_hold_265 hG hk139 h
    · rw [if_pos c2] at h
      refine vv_iconst (v := (nI 0)) dX4_hold_253 (by decide) ?_
      refine vv_goto (tgt := 265) dX4_hold_254 (by decide) ?_
      refine vv_sub (lv' := [(0, .ref o), (2, .int x2), (3, .int x3), (5, .int x5), (8, .int x8), (9, .int x9)]) [0, 1, 2, 3, 6, 7] rfl ?_
      exact v_hold_265 hG hk139 h
  · rw [if_neg c1] at h
    refine vv_iload_n dX4_hold_161 rfl 2 rfl ?_
    refine vv_iload dX4_hold_162 8 rfl ?_
    refine vv_ishr dX4_hold_164 ?_
    refine vv_iconst (v := (nI 1)) dX4_hold_165 (by decide) ?_
    refine vv_iand dX4_hold_166 ?_
    refine vv_if_eq (tgt := 239) dX4_hold_167 (by decide) (fun c4 => ?_) (fun c4 => ?_)
    · rw [if_pos c4] at h
      exact v_hold_239 hG hk139 hk156 h
    · rw [if_neg c4] at h
      refine vv_iload dX4_hold_170 3 rfl ?_
      refine vv_iload dX4_hold_172 8 rfl ?_
      refine vv_ishr dX4_hold_174 ?_
      refine vv_iconst (v := (nI 1)) dX4_hold_175 (by decide) ?_
      refine vv_iand dX4_hold_176 ?_
      refine vv_iconst (v := (nI 1)) dX4_hold_177 (by decide) ?_
      refine vv_icmp_ne (tgt := 184) dX4_hold_178 (by decide) (fun c5 => ?_) (fun c5 => ?_)
      · rw [if_neg c5] at h
        refine vv_iload dX4_hold_184 4 rfl ?_
        refine vv_iconst (v := (-1)) dX4_hold_186 (by decide) ?_
        refine vv_icmp_ne (tgt := 194) dX4_hold_187 (by decide) (fun c6 => ?_) (fun c6 => ?_)
        · rw [if_neg c6] at h
          refine vv_aload_n dX4_hold_194 rfl 0 rfl ?_
          refine vv_iload dX4_hold_195 4 rfl ?_
          refine vv_iload dX4_hold_197 8 rfl ?_
          obtain ⟨r7, er7, h⟩ := bd_o h
          refine vv_callV ok_X4_harms q2119 (m_harms hG er7 (d + 1)) rfl (by omega) ⟨_, _, _, _, _, tp_o, by rw [hG.1]; rfl⟩ rfl rfl (Nat.le_of_ble_eq_true rfl) dX4_hold_199 ?_
          exact v_hold_202 hG hk139 hk156 h
        · rw [if_pos c6] at h
          refine vv_iconst (v := (nI 0)) dX4_hold_190 (by decide) ?_
          refine vv_goto (tgt := 202) dX4_hold_191 (by decide) ?_
          exact v_hold_202 hG hk139 hk156 h
      · rw [if_pos c5] at h
        refine vv_goto (tgt := 239) dX4_hold_181 (by decide) ?_
        exact v_hold_239 hG hk139 hk156 h
theorem v_hold_156 {l : Launch} {G : vv_G} {d : Nat} {o : Nat} {h0 : Nat → Option vv_E} {nz : Nat × Nat} (hG : vv_gok G) {k139 : Int32 → Int32 → Int32 → Int32 → Int32 → Int32 → tw_T → Option (Int32 × tw_T)} (hk139 : ∀ {x2 : Int32} {x3 : Int32} {x5 : Int32} {x6 : Int32} {x7 : Int32} {x8 : Int32} {T : tw_T} {r : Int32 × tw_T}, k139 x2 x3 x5 x6 x7 x8 T = some r → vv_V l G MX4_hold (d + 3) 139 [(0, .ref o), (2, .int x2), (3, .int x3), (5, .int x5), (6, .int x6), (7, .int x7), (8, .int x8)] [] (tp o h0 T, nz) (.inl (some (.int r.1)), (tp o h0 r.2, nz))) : ∀ (n : Nat) {x2 : Int32} {x3 : Int32} {x5 : Int32} {x6 : Int32} {x7 : Int32} {x8 : Int32} {x9 : Int32} {x10 : Int32} {T : tw_T} {r : Int32 × tw_T}, J_hold_156 k139 n x2 x3 x5 x6 x7 x8 x9 x10 T = some r → vv_V l G MX4_hold (d + 3) 156 [(0, .ref o), (2, .int x2), (3, .int x3), (5, .int x5), (6, .int x6), (7, .int x7), (8, .int x8), (9, .int x9), (10, .int x10)] [] (tp o h0 T, nz) (.inl (some (.int r.1)), (tp o h0 r.2, nz)) := by
  intro n
  induction n with
  | zero => intro _ _ _ _ _ _ _ _ _ _ h; cases h
  | succ n ih => intro _ _ _ _ _ _ _ _ _ _ h; exact vb_hold_156 hG hk139 ih h
def B_hold_139 (k139 : Int32 → Int32 → Int32 → Int32 → Int32 → Int32 → tw_T → Option (Int32 × tw_T)) (x2 : Int32) (x3 : Int32) (x5 : Int32) (x6 : Int32) (x7 : Int32) (x8 : Int32) (T : tw_T) : Option (Int32 × tw_T) := if x2 < x8 then (some (x6, T)) else (J_hold_156 k139 NN x2 x3 x5 x6 x7 x8 (-1) ((T.1 3) - (nI 1)) T)
def J_hold_139 : Nat → Int32 → Int32 → Int32 → Int32 → Int32 → Int32 → tw_T → Option (Int32 × tw_T)
  | 0, _, _, _, _, _, _, _ => none
  | n + 1, x2, x3, x5, x6, x7, x8, T => B_hold_139 (J_hold_139 n) x2 x3 x5 x6 x7 x8 T
theorem vb_hold_139 {l : Launch} {G : vv_G} {d : Nat} {o : Nat} {h0 : Nat → Option vv_E} {nz : Nat × Nat} (hG : vv_gok G) {k139 : Int32 → Int32 → Int32 → Int32 → Int32 → Int32 → tw_T → Option (Int32 × tw_T)} (hk139 : ∀ {x2 : Int32} {x3 : Int32} {x5 : Int32} {x6 : Int32} {x7 : Int32} {x8 : Int32} {T : tw_T} {r : Int32 × tw_T}, k139 x2 x3 x5 x6 x7 x8 T = some r → vv_V l G MX4_hold (d + 3) 139 [(0, .ref o), (2, .int x2), (3, .int x3), (5, .int x5), (6, .int x6), (7, .int x7), (8, .int x8)] [] (tp o h0 T, nz) (.inl (some (.int r.1)), (tp o h0 r.2, nz))) {x2 : Int32} {x3 : Int32} {x5 : Int32} {x6 : Int32} {x7 : Int32} {x8 : Int32} {T : tw_T} {r : Int32 × tw_T} (h : B_hold_139 k139 x2 x3 x5 x6 x7 x8 T = some r) : vv_V l G MX4_hold (d + 3) 139 [(0, .ref o), (2, .int x2), (3, .int x3), (5, .int x5), (6, .int x6), (7, .int x7), (8, .int x8)] [] (tp o h0 T, nz) (.inl (some (.int r.1)), (tp o h0 r.2, nz)) := by
  unfold B_hold_139 at h
  refine vv_iload dX4_hold_139 6 rfl ?_
  refine vv_iload_n dX4_hold_141 rfl 1 rfl ?_
  refine vv_icmp_gt (tgt := 287) dX4_hold_142 (by decide) (fun c1 => ?_) (fun c1 => ?_)
  · rw [if_pos c1] at h
    refine vv_iload dX4_hold_287 4 rfl ?_
    cases h
    exact vv_iret rfl dX4_hold_289
  · rw [if_neg c1] at h
    refine vv_iconst (v := (-1)) dX4_hold_145 (by decide) ?_
    refine vv_istore (lv' := [(0, .ref o), (2, .int x2), (3, .int x3), (5, .int x5), (6, .int x6), (7, .int x7), (8, .int x8), (9, .int (-1))]) dX4_hold_146 (by decide) [1, 2, 3, 4, 5, 6, 7, 0] rfl ?_
    refine vv_aload_n dX4_hold_148 rfl 0 rfl ?_
    refine tw_get (fl_X4_287 hG) (k := 3) rfl dX4_hold_149 ?_
    refine vv_iconst (v := (nI 1)) dX4_hold_152 (by decide) ?_
    refine vv_isub dX4_hold_153 ?_
    refine vv_istore (lv' := [(0, .ref o), (2, .int x2), (3, .int x3), (5, .int x5), (6, .int x6), (7, .int x7), (8, .int x8), (9, .int (-1)), (10, .int ((T.1 3) - (nI 1)))]) dX4_hold_154 (by decide) [1, 2, 3, 4, 5, 6, 7, 8, 0] rfl ?_
    exact v_hold_156 hG hk139 NN h
theorem v_hold_139 {l : Launch} {G : vv_G} {d : Nat} {o : Nat} {h0 : Nat → Option vv_E} {nz : Nat × Nat} (hG : vv_gok G) : ∀ (n : Nat) {x2 : Int32} {x3 : Int32} {x5 : Int32} {x6 : Int32} {x7 : Int32} {x8 : Int32} {T : tw_T} {r : Int32 × tw_T}, J_hold_139 n x2 x3 x5 x6 x7 x8 T = some r → vv_V l G MX4_hold (d + 3) 139 [(0, .ref o), (2, .int x2), (3, .int x3), (5, .int x5), (6, .int x6), (7, .int x7), (8, .int x8)] [] (tp o h0 T, nz) (.inl (some (.int r.1)), (tp o h0 r.2, nz)) := by
  intro n
  induction n with
  | zero => intro _ _ _ _ _ _ _ _ h; cases h
  | succ n ih => intro _ _ _ _ _ _ _ _ h; exact vb_hold_139 hG ih h
def J_hold_125 (s0 : Int32) (T : tw_T) : Option (Int32 × tw_T) := some (s0, T)
theorem v_hold_125 {l : Launch} {G : vv_G} {d : Nat} {o : Nat} {h0 : Nat → Option vv_E} {nz : Nat × Nat} (hG : vv_gok G) {s0 : Int32} {T : tw_T} {r : Int32 × tw_T} (h : J_hold_125 s0 T = some r) : vv_V l G MX4_hold (d + 3) 125 [(0, .ref o)] [.int s0] (tp o h0 T, nz) (.inl (some (.int r.1)), (tp o h0 r.2, nz)) := by
  unfold J_hold_125 at h
  cases h
  exact vv_iret rfl dX4_hold_125
def J_hold_104 (k63 : Int32 → Int32 → Int32 → Int32 → tw_T → Option (Int32 × tw_T)) (x2 : Int32) (x3 : Int32) (x4 : Int32) (x5 : Int32) (T : tw_T) : Option (Int32 × tw_T) := k63 x2 x3 x4 (x5 + (nI 1)) T
theorem v_hold_104 {l : Launch} {G : vv_G} {d : Nat} {o : Nat} {h0 : Nat → Option vv_E} {nz : Nat × Nat} (hG : vv_gok G) {k63 : Int32 → Int32 → Int32 → Int32 → tw_T → Option (Int32 × tw_T)} (hk63 : ∀ {x2 : Int32} {x3 : Int32} {x4 : Int32} {x5 : Int32} {T : tw_T} {r : Int32 × tw_T}, k63 x2 x3 x4 x5 T = some r → vv_V l G MX4_hold (d + 3) 63 [(0, .ref o), (2, .int x2), (3, .int x3), (4, .int x4), (5, .int x5)] [] (tp o h0 T, nz) (.inl (some (.int r.1)), (tp o h0 r.2, nz))) {x2 : Int32} {x3 : Int32} {x4 : Int32} {x5 : Int32} {T : tw_T} {r : Int32 × tw_T} (h : J_hold_104 k63 x2 x3 x4 x5 T = some r) : vv_V l G MX4_hold (d + 3) 104 [(0, .ref o), (2, .int x2), (3, .int x3), (4, .int x4), (5, .int x5)] [] (tp o h0 T, nz) (.inl (some (.int r.1)), (tp o h0 r.2, nz)) := by
  unfold J_hold_104 at h
  refine vv_iinc (v := (x5 + (nI 1))) (lv' := [(0, .ref o), (2, .int x2), (3, .int x3), (4, .int x4), (5, .int (x5 + (nI 1)))]) dX4_hold_104 4 rfl rfl (by decide) [1, 2, 3, 4, 0] rfl ?_
  refine vv_goto (tgt := 63) dX4_hold_107 (by decide) ?_
  exact hk63 h
def B_hold_63 (k63 : Int32 → Int32 → Int32 → Int32 → tw_T → Option (Int32 × tw_T)) (x2 : Int32) (x3 : Int32) (x4 : Int32) (x5 : Int32) (T : tw_T) : Option (Int32 × tw_T) := if (T.1 3) ≤ x5 then (if x2 = (-1) then (if x3 = 0 then (J_hold_125 (nI 0) T) else (J_hold_125 x4 T)) else (J_hold_139 NN x2 x3 (nI 0) (-1) x4 (nI 0) T)) else (if ((x3 >>> (x5 &&& 31)) &&& (nI 1)) = (nI 1) then ((rdI 10240 (T.2.2 26) (((nI 10) * ((nI 1) <<< (x5 &&& 31))) + x5)).bind fun v5 => (J_lesser x4 v5).bind fun r6 => J_hold_104 k63 x2 x3 r6 x5 T) else (J_hold_104 k63 x2 x3 x4 x5 T))
def J_hold_63 : Nat → Int32 → Int32 → Int32 → Int32 → tw_T → Option (Int32 × tw_T)
  | 0, _, _, _, _, _ => none
  | n + 1, x2, x3, x4, x5, T => B_hold_63 (J_hold_63 n) x2 x3 x4 x5 T
theorem vb_hold_63 {l : Launch} {G : vv_G} {d : Nat} {o : Nat} {h0 : Nat → Option vv_E} {nz : Nat × Nat} (hG : vv_gok G) {k63 : Int32 → Int32 → Int32 → Int32 → tw_T → Option (Int32 × tw_T)} (hk63 : ∀ {x2 : Int32} {x3 : Int32} {x4 : Int32} {x5 : Int32} {T : tw_T} {r : Int32 × tw_T}, k63 x2 x3 x4 x5 T = some r → vv_V l G MX4_hold (d + 3) 63 [(0, .ref o), (2, .int x2), (3, .int x3), (4, .int x4), (5, .int x5)] [] (tp o h0 T, nz) (.inl (some (.int r.1)), (tp o h0 r.2, nz))) {x2 : Int32} {x3 : Int32} {x4 : Int32} {x5 : Int32} {T : tw_T} {r : Int32 × tw_T} (h : B_hold_63 k63 x2 x3 x4 x5 T = some r) : vv_V l G MX4_hold (d + 3) 63 [(0, .ref o), (2, .int x2), (3, .int x3), (4, .int x4), (5, .int x5)] [] (tp o h0 T, nz) (.inl (some (.int r.1)), (tp o h0 r.2, nz)) := by
  unfold B_hold_63 at h
  refine vv_iload dX4_hold_63 4 rfl ?_
  refine vv_aload_n dX4_hold_65 rfl 0 rfl ?_
  refine tw_get (fl_X4_287 hG) (k := 3) rfl dX4_hold_66 ?_
  refine vv_icmp_ge (tgt := 110) dX4_hold_69 (by decide) (fun c1 => ?_) (fun c1 => ?_)
  · rw [if_pos c1] at h
    refine vv_iload_n dX4_hold_110 rfl 1 rfl ?_
    refine vv_iconst (v := (-1)) dX4_hold_111 (by decide) ?_
    refine vv_icmp_ne (tgt := 126) dX4_hold_112 (by decide) (fun c2 => ?_) (fun c2 => ?_)
    · rw [if_neg c2] at h
      refine vv_iconst (v := (nI 0)) dX4_hold_126 (by decide) ?_
      refine vv_istore (lv' := [(0, .ref o), (2, .int x2), (3, .int x3), (4, .int x4), (5, .int (nI 0))]) dX4_hold_127 (by decide) [1, 2, 3, 4, 0] rfl ?_
      refine vv_iconst (v := (-1)) dX4_hold_129 (by decide) ?_
      refine vv_istore (lv' := [(0, .ref o), (2, .int x2), (3, .int x3), (4, .int x4), (5, .int (nI 0)), (6, .int (-1))]) dX4_hold_130 (by decide) [1, 2, 3, 4, 5, 0] rfl ?_
      refine vv_iload dX4_hold_132 3 rfl ?_
      refine vv_istore (lv' := [(0, .ref o), (2, .int x2), (3, .int x3), (4, .int x4), (5, .int (nI 0)), (6, .int (-1)), (7, .int x4)]) dX4_hold_134 (by decide) [1, 2, 3, 4, 5, 6, 0] rfl ?_
      refine vv_iconst (v := (nI 0)) dX4_hold_136 (by decide) ?_
      refine vv_istore (lv' := [(0, .ref o), (2, .int x2), (3, .int x3), (4, .int x4), (5, .int (nI 0)), (6, .int (-1)), (7, .int x4), (8, .int (nI 0))]) dX4_hold_137 (by decide) [1, 2, 3, 4, 5, 6, 7, 0] rfl ?_
      refine vv_sub (lv' := [(0, .ref o), (2, .int x2), (3, .int x3), (5, .int (nI 0)), (6, .int (-1)), (7, .int x4), (8, .int (nI 0))]) [0, 1, 2, 4, 5, 6, 7] rfl ?_
      exact v_hold_139 hG NN h
    · rw [if_pos c2] at h
      refine vv_iload_n dX4_hold_115 rfl 2 rfl ?_
      refine vv_if_ne (tgt := 123) dX4_hold_116 (by decide) (fun c3 => ?_) (fun c3 => ?_)
      · rw [if_neg c3] at h
        refine vv_iload dX4_hold_123 3 rfl ?_
        refine vv_sub (lv' := [(0, .ref o)]) [0] rfl ?_
        exact v_hold_125 hG h
      · rw [if_pos c3] at h
        refine vv_iconst (v := (nI 0)) dX4_hold_119 (by decide) ?_
        refine vv_goto (tgt := 125) dX4_hold_120 (by decide) ?_
        refine vv_sub (lv' := [(0, .ref o)]) [0] rfl ?_
        exact v_hold_125 hG h
  · rw [if_neg c1] at h
    refine vv_iload_n dX4_hold_72 rfl 2 rfl ?_
    refine vv_iload dX4_hold_73 4 rfl ?_
    refine vv_ishr dX4_hold_75 ?_
    refine vv_iconst (v := (nI 1)) dX4_hold_76 (by decide) ?_
    refine vv_iand dX4_hold_77 ?_
    refine vv_iconst (v := (nI 1)) dX4_hold_78 (by decide) ?_
    refine vv_icmp_ne (tgt := 104) dX4_hold_79 (by decide) (fun c4 => ?_) (fun c4 => ?_)
    · rw [if_neg c4] at h
      exact v_hold_104 hG hk63 h
    · rw [if_pos c4] at h
      refine vv_iload dX4_hold_82 3 rfl ?_
      refine vv_aload_n dX4_hold_84 rfl 0 rfl ?_
      refine tw_get (fl_X4_93 hG) (k := 50) rfl dX4_hold_85 ?_
      refine vv_bipush (v := (nI 10)) dX4_hold_88 (by decide) ?_
      refine vv_iconst (v := (nI 1)) dX4_hold_90 (by decide) ?_
      refine vv_iload dX4_hold_91 4 rfl ?_
      refine vv_ishl dX4_hold_93 ?_
      refine vv_imul dX4_hold_94 ?_
      refine vv_iload dX4_hold_95 4 rfl ?_
      refine vv_iadd dX4_hold_97 ?_
      obtain ⟨v5, iv5, ev5, h⟩ := rd_o h
      refine tw_ald 26 (by decide) rfl iv5 ev5 dX4_hold_98 ?_
      obtain ⟨r6, er6, h⟩ := bd_o h
      refine vv_callS ok_X4_lesser q2000 (m_lesser hG er6 (d + 2)) rfl (by omega) rfl rfl (Nat.le_of_ble_eq_true rfl) dX4_hold_99 ?_
      refine vv_istore (lv' := [(0, .ref o), (2, .int x2), (3, .int x3), (4, .int r6), (5, .int x5)]) dX4_hold_102 (by decide) [1, 2, 3, 0, 4] rfl ?_
      exact v_hold_104 hG hk63 h
theorem v_hold_63 {l : Launch} {G : vv_G} {d : Nat} {o : Nat} {h0 : Nat → Option vv_E} {nz : Nat × Nat} (hG : vv_gok G) : ∀ (n : Nat) {x2 : Int32} {x3 : Int32} {x4 : Int32} {x5 : Int32} {T : tw_T} {r : Int32 × tw_T}, J_hold_63 n x2 x3 x4 x5 T = some r → vv_V l G MX4_hold (d + 3) 63 [(0, .ref o), (2, .int x2), (3, .int x3), (4, .int x4), (5, .int x5)] [] (tp o h0 T, nz) (.inl (some (.int r.1)), (tp o h0 r.2, nz)) := by
  intro n
  induction n with
  | zero => intro _ _ _ _ _ _ h; cases h
  | succ n ih => intro _ _ _ _ _ _ h; exact vb_hold_63 hG ih h
def J_hold_41 (s1 : Int32) (x2 : Int32) (x3 : Int32) (T : tw_T) : Option (Int32 × tw_T) := (J_right s1 (nI 1) T).bind fun r1 => if r1.1 = 0 then (some ((nI 0), r1.2)) else ((J_laysHold x3 r1.2).bind fun r3 => J_hold_63 NN x2 x3 (nI 99999) (nI 0) r3)
theorem v_hold_41 {l : Launch} {G : vv_G} {d : Nat} {o : Nat} {h0 : Nat → Option vv_E} {nz : Nat × Nat} (hG : vv_gok G) {s1 : Int32} {x2 : Int32} {x3 : Int32} {T : tw_T} {r : Int32 × tw_T} (h : J_hold_41 s1 x2 x3 T = some r) : vv_V l G MX4_hold (d + 3) 41 [(0, .ref o), (2, .int x2), (3, .int x3)] [.int s1, .ref o] (tp o h0 T, nz) (.inl (some (.int r.1)), (tp o h0 r.2, nz)) := by
  unfold J_hold_41 at h
  refine vv_iconst (v := (nI 1)) dX4_hold_41 (by decide) ?_
  obtain ⟨r1, er1, h⟩ := bd_o h
  refine vv_callV ok_X4_right q1773 (m_right hG er1 (d + 2)) rfl (by omega) ⟨_, _, _, _, _, tp_o, by rw [hG.1]; rfl⟩ rfl rfl (Nat.le_of_ble_eq_true rfl) dX4_hold_42 ?_
  refine vv_if_ne (tgt := 50) dX4_hold_45 (by decide) (fun c2 => ?_) (fun c2 => ?_)
  · rw [if_neg c2] at h
    refine vv_aload_n dX4_hold_50 rfl 0 rfl ?_
    refine vv_iload_n dX4_hold_51 rfl 2 rfl ?_
    obtain ⟨r3, er3, h⟩ := bd_o h
    refine vv_callV ok_X4_laysHold q2115 (m_laysHold hG er3 (d + 0)) rfl (by omega) ⟨_, _, _, _, _, tp_o, by rw [hG.1]; rfl⟩ rfl rfl (Nat.le_of_ble_eq_true rfl) dX4_hold_52 ?_
    refine vv_ldcw (v := (nI 99999)) dX4_hold_55 q2075 ?_
    refine vv_istore (lv' := [(0, .ref o), (2, .int x2), (3, .int x3), (4, .int (nI 99999))]) dX4_hold_58 (by decide) [1, 2, 3, 0] rfl ?_
    refine vv_iconst (v := (nI 0)) dX4_hold_60 (by decide) ?_
    refine vv_istore (lv' := [(0, .ref o), (2, .int x2), (3, .int x3), (4, .int (nI 99999)), (5, .int (nI 0))]) dX4_hold_61 (by decide) [1, 2, 3, 4, 0] rfl ?_
    exact v_hold_63 hG NN h
  · rw [if_pos c2] at h
    refine vv_iconst (v := (nI 0)) dX4_hold_48 (by decide) ?_
    cases h
    exact vv_iret rfl dX4_hold_49
def J_hold_40 (x2 : Int32) (x3 : Int32) (T : tw_T) : Option (Int32 × tw_T) := J_hold_41 (nI 0) x2 x3 T
theorem v_hold_40 {l : Launch} {G : vv_G} {d : Nat} {o : Nat} {h0 : Nat → Option vv_E} {nz : Nat × Nat} (hG : vv_gok G) {x2 : Int32} {x3 : Int32} {T : tw_T} {r : Int32 × tw_T} (h : J_hold_40 x2 x3 T = some r) : vv_V l G MX4_hold (d + 3) 40 [(0, .ref o), (2, .int x2), (3, .int x3)] [.ref o] (tp o h0 T, nz) (.inl (some (.int r.1)), (tp o h0 r.2, nz)) := by
  unfold J_hold_40 at h
  refine vv_iconst (v := (nI 0)) dX4_hold_40 (by decide) ?_
  exact v_hold_41 hG h
def J_hold (x1 : Int32) (x2 : Int32) (T : tw_T) : Option (Int32 × tw_T) := (some (tw_F T 0 (nI 0))).bind fun T1 => (J_isTown x1 T1).bind fun r2 => if r2.1 = 0 then (some ((nI 0), r2.2)) else ((J_lyingIn (nI 0) x1 r2.2).bind fun r4 => if x2 < (-1) then (J_hold_40 x2 r4.1 r4.2) else ((J_bits r4.1).bind fun r6 => if r6 ≤ x2 then (J_hold_40 x2 r4.1 r4.2) else (J_hold_41 (nI 1) x2 r4.1 r4.2)))
theorem v_hold_0 {l : Launch} {G : vv_G} {d : Nat} {o : Nat} {h0 : Nat → Option vv_E} {nz : Nat × Nat} (hG : vv_gok G) {x1 : Int32} {x2 : Int32} {T : tw_T} {r : Int32 × tw_T} (h : J_hold x1 x2 T = some r) : vv_V l G MX4_hold (d + 3) 0 [(0, .ref o), (1, .int x1), (2, .int x2)] [] (tp o h0 T, nz) (.inl (some (.int r.1)), (tp o h0 r.2, nz)) := by
  unfold J_hold at h
  refine vv_aload_n dX4_hold_0 rfl 0 rfl ?_
  refine vv_iconst (v := (nI 0)) dX4_hold_1 (by decide) ?_
  obtain ⟨T1, eT1, h⟩ := bd_s h
  refine tw_put (T1 := T1) (pt_X4_117 hG) hG rfl rfl rfl (by decide) (by rw [eT1]; exact tw_set0 _ _ _) (by rw [eT1]; rfl) dX4_hold_2 ?_
  refine vv_aload_n dX4_hold_5 rfl 0 rfl ?_
  refine vv_iload_n dX4_hold_6 rfl 1 rfl ?_
  obtain ⟨r2, er2, h⟩ := bd_o h
  refine vv_callV ok_X4_isTown q1935 (m_isTown hG er2 (d + 1)) rfl (by omega) ⟨_, _, _, _, _, tp_o, by rw [hG.1]; rfl⟩ rfl rfl (Nat.le_of_ble_eq_true rfl) dX4_hold_7 ?_
  refine vv_if_ne (tgt := 15) dX4_hold_10 (by decide) (fun c3 => ?_) (fun c3 => ?_)
  · rw [if_neg c3] at h
    refine vv_aload_n dX4_hold_15 rfl 0 rfl ?_
    refine vv_iconst (v := (nI 0)) dX4_hold_16 (by decide) ?_
    refine vv_iload_n dX4_hold_17 rfl 1 rfl ?_
    obtain ⟨r4, er4, h⟩ := bd_o h
    refine vv_callV ok_X4_lyingIn q1950 (m_lyingIn hG er4 (d + 1)) rfl (by omega) ⟨_, _, _, _, _, tp_o, by rw [hG.1]; rfl⟩ rfl rfl (Nat.le_of_ble_eq_true rfl) dX4_hold_18 ?_
    refine vv_istore_n (lv' := [(0, .ref o), (1, .int x1), (2, .int x2), (3, .int r4.1)]) dX4_hold_21 rfl (by decide) [1, 2, 3, 0] rfl ?_
    refine vv_aload_n dX4_hold_22 rfl 0 rfl ?_
    refine vv_iload_n dX4_hold_23 rfl 2 rfl ?_
    refine vv_iconst (v := (-1)) dX4_hold_24 (by decide) ?_
    refine vv_icmp_lt (tgt := 40) dX4_hold_25 (by decide) (fun c5 => ?_) (fun c5 => ?_)
    · rw [if_pos c5] at h
      refine vv_sub (lv' := [(0, .ref o), (2, .int x2), (3, .int r4.1)]) [0, 2, 3] rfl ?_
      exact v_hold_40 hG h
    · rw [if_neg c5] at h
      refine vv_iload_n dX4_hold_28 rfl 2 rfl ?_
      refine vv_iload_n dX4_hold_29 rfl 3 rfl ?_
      obtain ⟨r6, er6, h⟩ := bd_o h
      refine vv_callS ok_X4_bits q1954 (m_bits hG er6 (d + 2)) rfl (by omega) rfl rfl (Nat.le_of_ble_eq_true rfl) dX4_hold_30 ?_
      refine vv_icmp_ge (tgt := 40) dX4_hold_33 (by decide) (fun c7 => ?_) (fun c7 => ?_)
      · rw [if_pos c7] at h
        refine vv_sub (lv' := [(0, .ref o), (2, .int x2), (3, .int r4.1)]) [0, 2, 3] rfl ?_
        exact v_hold_40 hG h
      · rw [if_neg c7] at h
        refine vv_iconst (v := (nI 1)) dX4_hold_36 (by decide) ?_
        refine vv_goto (tgt := 41) dX4_hold_37 (by decide) ?_
        refine vv_sub (lv' := [(0, .ref o), (2, .int x2), (3, .int r4.1)]) [0, 2, 3] rfl ?_
        exact v_hold_41 hG h
  · rw [if_pos c3] at h
    refine vv_iconst (v := (nI 0)) dX4_hold_13 (by decide) ?_
    cases h
    exact vv_iret rfl dX4_hold_14
theorem m_hold {l : Launch} {G : vv_G} {o : Nat} {h0 : Nat → Option vv_E} {nz : Nat × Nat} (hG : vv_gok G) {x1 : Int32} {x2 : Int32} {T : tw_T} {r : Int32 × tw_T} (h : J_hold x1 x2 T = some r) (d : Nat) : vv_Met l G MX4_hold (d + 3) [.ref o, .int x1, .int x2] (tp o h0 T, nz) (.inl (some (.int r.1)), (tp o h0 r.2, nz)) := vv_head (by decide +kernel) rfl (Nat.le_of_ble_eq_true rfl) rfl (v_hold_0 hG h)
/-! power -/
def B_power_4 (k4 : Int32 → Int32 → Int32 → Option Int32) (x0 : Int32) (x1 : Int32) (x2 : Int32) : Option Int32 := if x0 ≤ x2 then (some x1) else (k4 x0 ((nI 12) * x1) (x2 + (nI 1)))
def J_power_4 : Nat → Int32 → Int32 → Int32 → Option Int32
  | 0, _, _, _ => none
  | n + 1, x0, x1, x2 => B_power_4 (J_power_4 n) x0 x1 x2
theorem vb_power_4 {l : Launch} {G : vv_G} {d : Nat} {σ : vv_S} (hG : vv_gok G) {k4 : Int32 → Int32 → Int32 → Option Int32} (hk4 : ∀ {x0 : Int32} {x1 : Int32} {x2 : Int32} {r : Int32}, k4 x0 x1 x2 = some r → vv_V l G MX4_power (d + 0) 4 [(0, .int x0), (1, .int x1), (2, .int x2)] [] σ (.inl (some (.int r)), σ)) {x0 : Int32} {x1 : Int32} {x2 : Int32} {r : Int32} (h : B_power_4 k4 x0 x1 x2 = some r) : vv_V l G MX4_power (d + 0) 4 [(0, .int x0), (1, .int x1), (2, .int x2)] [] σ (.inl (some (.int r)), σ) := by
  unfold B_power_4 at h
  refine vv_iload_n dX4_power_4 rfl 2 rfl ?_
  refine vv_iload_n dX4_power_5 rfl 0 rfl ?_
  refine vv_icmp_ge (tgt := 20) dX4_power_6 (by decide) (fun c1 => ?_) (fun c1 => ?_)
  · rw [if_pos c1] at h
    refine vv_iload_n dX4_power_20 rfl 1 rfl ?_
    cases h
    exact vv_iret rfl dX4_power_21
  · rw [if_neg c1] at h
    refine vv_bipush (v := (nI 12)) dX4_power_9 (by decide) ?_
    refine vv_iload_n dX4_power_11 rfl 1 rfl ?_
    refine vv_imul dX4_power_12 ?_
    refine vv_istore_n (lv' := [(0, .int x0), (1, .int ((nI 12) * x1)), (2, .int x2)]) dX4_power_13 rfl (by decide) [1, 0, 2] rfl ?_
    refine vv_iinc (v := (x2 + (nI 1))) (lv' := [(0, .int x0), (1, .int ((nI 12) * x1)), (2, .int (x2 + (nI 1)))]) dX4_power_14 2 rfl rfl (by decide) [1, 2, 0] rfl ?_
    refine vv_goto (tgt := 4) dX4_power_17 (by decide) ?_
    exact hk4 h
theorem v_power_4 {l : Launch} {G : vv_G} {d : Nat} {σ : vv_S} (hG : vv_gok G) : ∀ (n : Nat) {x0 : Int32} {x1 : Int32} {x2 : Int32} {r : Int32}, J_power_4 n x0 x1 x2 = some r → vv_V l G MX4_power (d + 0) 4 [(0, .int x0), (1, .int x1), (2, .int x2)] [] σ (.inl (some (.int r)), σ) := by
  intro n
  induction n with
  | zero => intro _ _ _ _ h; cases h
  | succ n ih => intro _ _ _ _ h; exact vb_power_4 hG ih h
def J_power (x0 : Int32) : Option Int32 := J_power_4 NN x0 (nI 1) (nI 0)
theorem v_power_0 {l : Launch} {G : vv_G} {d : Nat} {σ : vv_S} (hG : vv_gok G) {x0 : Int32} {r : Int32} (h : J_power x0 = some r) : vv_V l G MX4_power (d + 0) 0 [(0, .int x0)] [] σ (.inl (some (.int r)), σ) := by
  unfold J_power at h
  refine vv_iconst (v := (nI 1)) dX4_power_0 (by decide) ?_
  refine vv_istore_n (lv' := [(0, .int x0), (1, .int (nI 1))]) dX4_power_1 rfl (by decide) [1, 0] rfl ?_
  refine vv_iconst (v := (nI 0)) dX4_power_2 (by decide) ?_
  refine vv_istore_n (lv' := [(0, .int x0), (1, .int (nI 1)), (2, .int (nI 0))]) dX4_power_3 rfl (by decide) [1, 2, 0] rfl ?_
  exact v_power_4 hG NN h
theorem m_power {l : Launch} {G : vv_G} {σ : vv_S} (hG : vv_gok G) {x0 : Int32} {r : Int32} (h : J_power x0 = some r) (d : Nat) : vv_Met l G MX4_power (d + 0) [.int x0] σ (.inl (some (.int r)), σ) := vv_head (by decide +kernel) rfl (Nat.le_of_ble_eq_true rfl) rfl (v_power_0 hG h)
/-! thrower -/
def J_thrower_161 (k64 : Int32 → Int32 → Int32 → Int32 → Int32 → tw_T → Option (Int32 × tw_T)) (k74 : Int32 → Int32 → Int32 → Int32 → Int32 → Int32 → tw_T → Option (Int32 × tw_T)) (x1 : Int32) (x2 : Int32) (x3 : Int32) (x4 : Int32) (x5 : Int32) (x6 : Int32) (T : tw_T) : Option (Int32 × tw_T) := k74 x1 x2 x3 x4 x5 (x6 + (nI 1)) T
theorem v_thrower_161 {l : Launch} {G : vv_G} {d : Nat} {o : Nat} {h0 : Nat → Option vv_E} {nz : Nat × Nat} (hG : vv_gok G) {k64 : Int32 → Int32 → Int32 → Int32 → Int32 → tw_T → Option (Int32 × tw_T)} (hk64 : ∀ {x1 : Int32} {x2 : Int32} {x3 : Int32} {x4 : Int32} {x5 : Int32} {T : tw_T} {r : Int32 × tw_T}, k64 x1 x2 x3 x4 x5 T = some r → vv_V l G MX4_thrower (d + 1) 64 [(0, .ref o), (1, .int x1), (2, .int x2), (3, .int x3), (4, .int x4), (5, .int x5)] [] (tp o h0 T, nz) (.inl (some (.int r.1)), (tp o h0 r.2, nz))) {k74 : Int32 → Int32 → Int32 → Int32 → Int32 → Int32 → tw_T → Option (Int32 × tw_T)} (hk74 : ∀ {x1 : Int32} {x2 : Int32} {x3 : Int32} {x4 : Int32} {x5 : Int32} {x6 : Int32} {T : tw_T} {r : Int32 × tw_T}, k74 x1 x2 x3 x4 x5 x6 T = some r → vv_V l G MX4_thrower (d + 1) 74 [(0, .ref o), (1, .int x1), (2, .int x2), (3, .int x3), (4, .int x4), (5, .int x5), (6, .int x6)] [] (tp o h0 T, nz) (.inl (some (.int r.1)), (tp o h0 r.2, nz))) {x1 : Int32} {x2 : Int32} {x3 : Int32} {x4 : Int32} {x5 : Int32} {x6 : Int32} {T : tw_T} {r : Int32 × tw_T} (h : J_thrower_161 k64 k74 x1 x2 x3 x4 x5 x6 T = some r) : vv_V l G MX4_thrower (d + 1) 161 [(0, .ref o), (1, .int x1), (2, .int x2), (3, .int x3), (4, .int x4), (5, .int x5), (6, .int x6)] [] (tp o h0 T, nz) (.inl (some (.int r.1)), (tp o h0 r.2, nz)) := by
  unfold J_thrower_161 at h
  refine vv_iinc (v := (x6 + (nI 1))) (lv' := [(0, .ref o), (1, .int x1), (2, .int x2), (3, .int x3), (4, .int x4), (5, .int x5), (6, .int (x6 + (nI 1)))]) dX4_thrower_161 6 rfl rfl (by decide) [1, 2, 3, 4, 5, 6, 0] rfl ?_
  refine vv_goto (tgt := 74) dX4_thrower_164 (by decide) ?_
  exact hk74 h
def J_thrower_160 (k64 : Int32 → Int32 → Int32 → Int32 → Int32 → tw_T → Option (Int32 × tw_T)) (k74 : Int32 → Int32 → Int32 → Int32 → Int32 → Int32 → tw_T → Option (Int32 × tw_T)) (s1 : Int32) (s2 : Int32) (x1 : Int32) (x2 : Int32) (x3 : Int32) (x4 : Int32) (x5 : Int32) (x6 : Int32) (T : tw_T) : Option (Int32 × tw_T) := (stA T 27 240 s1 s2).bind fun T1 => J_thrower_161 k64 k74 x1 x2 x3 x4 x5 x6 T1
theorem v_thrower_160 {l : Launch} {G : vv_G} {d : Nat} {o : Nat} {h0 : Nat → Option vv_E} {nz : Nat × Nat} (hG : vv_gok G) {k64 : Int32 → Int32 → Int32 → Int32 → Int32 → tw_T → Option (Int32 × tw_T)} (hk64 : ∀ {x1 : Int32} {x2 : Int32} {x3 : Int32} {x4 : Int32} {x5 : Int32} {T : tw_T} {r : Int32 × tw_T}, k64 x1 x2 x3 x4 x5 T = some r → vv_V l G MX4_thrower (d + 1) 64 [(0, .ref o), (1, .int x1), (2, .int x2), (3, .int x3), (4, .int x4), (5, .int x5)] [] (tp o h0 T, nz) (.inl (some (.int r.1)), (tp o h0 r.2, nz))) {k74 : Int32 → Int32 → Int32 → Int32 → Int32 → Int32 → tw_T → Option (Int32 × tw_T)} (hk74 : ∀ {x1 : Int32} {x2 : Int32} {x3 : Int32} {x4 : Int32} {x5 : Int32} {x6 : Int32} {T : tw_T} {r : Int32 × tw_T}, k74 x1 x2 x3 x4 x5 x6 T = some r → vv_V l G MX4_thrower (d + 1) 74 [(0, .ref o), (1, .int x1), (2, .int x2), (3, .int x3), (4, .int x4), (5, .int x5), (6, .int x6)] [] (tp o h0 T, nz) (.inl (some (.int r.1)), (tp o h0 r.2, nz))) {s1 : Int32} {s2 : Int32} {x1 : Int32} {x2 : Int32} {x3 : Int32} {x4 : Int32} {x5 : Int32} {x6 : Int32} {T : tw_T} {r : Int32 × tw_T} (h : J_thrower_160 k64 k74 s1 s2 x1 x2 x3 x4 x5 x6 T = some r) : vv_V l G MX4_thrower (d + 1) 160 [(0, .ref o), (1, .int x1), (2, .int x2), (3, .int x3), (4, .int x4), (5, .int x5), (6, .int x6)] [.int s2, .int s1, .ref (o + 27)] (tp o h0 T, nz) (.inl (some (.int r.1)), (tp o h0 r.2, nz)) := by
  unfold J_thrower_160 at h
  obtain ⟨T1, iT1, eT1, h⟩ := st_o h
  refine tw_ast 27 (by decide) rfl iT1 eT1 dX4_thrower_160 ?_
  exact v_thrower_161 hG hk64 hk74 h
def J_thrower_128 (k64 : Int32 → Int32 → Int32 → Int32 → Int32 → tw_T → Option (Int32 × tw_T)) (k74 : Int32 → Int32 → Int32 → Int32 → Int32 → Int32 → tw_T → Option (Int32 × tw_T)) (s1 : Int32) (x1 : Int32) (x2 : Int32) (x3 : Int32) (x4 : Int32) (x5 : Int32) (x6 : Int32) (T : tw_T) : Option (Int32 × tw_T) := J_thrower_160 k64 k74 s1 (nI 0) x1 x2 x3 x4 x5 x6 T
theorem v_thrower_128 {l : Launch} {G : vv_G} {d : Nat} {o : Nat} {h0 : Nat → Option vv_E} {nz : Nat × Nat} (hG : vv_gok G) {k64 : Int32 → Int32 → Int32 → Int32 → Int32 → tw_T → Option (Int32 × tw_T)} (hk64 : ∀ {x1 : Int32} {x2 : Int32} {x3 : Int32} {x4 : Int32} {x5 : Int32} {T : tw_T} {r : Int32 × tw_T}, k64 x1 x2 x3 x4 x5 T = some r → vv_V l G MX4_thrower (d + 1) 64 [(0, .ref o), (1, .int x1), (2, .int x2), (3, .int x3), (4, .int x4), (5, .int x5)] [] (tp o h0 T, nz) (.inl (some (.int r.1)), (tp o h0 r.2, nz))) {k74 : Int32 → Int32 → Int32 → Int32 → Int32 → Int32 → tw_T → Option (Int32 × tw_T)} (hk74 : ∀ {x1 : Int32} {x2 : Int32} {x3 : Int32} {x4 : Int32} {x5 : Int32} {x6 : Int32} {T : tw_T} {r : Int32 × tw_T}, k74 x1 x2 x3 x4 x5 x6 T = some r → vv_V l G MX4_thrower (d + 1) 74 [(0, .ref o), (1, .int x1), (2, .int x2), (3, .int x3), (4, .int x4), (5, .int x5), (6, .int x6)] [] (tp o h0 T, nz) (.inl (some (.int r.1)), (tp o h0 r.2, nz))) {s1 : Int32} {x1 : Int32} {x2 : Int32} {x3 : Int32} {x4 : Int32} {x5 : Int32} {x6 : Int32} {T : tw_T} {r : Int32 × tw_T} (h : J_thrower_128 k64 k74 s1 x1 x2 x3 x4 x5 x6 T = some r) : vv_V l G MX4_thrower (d + 1) 128 [(0, .ref o), (1, .int x1), (2, .int x2), (3, .int x3), (4, .int x4), (5, .int x5), (6, .int x6)] [.int s1, .ref (o + 27)] (tp o h0 T, nz) (.inl (some (.int r.1)), (tp o h0 r.2, nz)) := by
  unfold J_thrower_128 at h
  refine vv_iconst (v := (nI 0)) dX4_thrower_128 (by decide) ?_
  refine vv_goto (tgt := 160) dX4_thrower_129 (by decide) ?_
  exact v_thrower_160 hG hk64 hk74 h
def B_thrower_74 (k64 : Int32 → Int32 → Int32 → Int32 → Int32 → tw_T → Option (Int32 × tw_T)) (k74 : Int32 → Int32 → Int32 → Int32 → Int32 → Int32 → tw_T → Option (Int32 × tw_T)) (x1 : Int32) (x2 : Int32) (x3 : Int32) (x4 : Int32) (x5 : Int32) (x6 : Int32) (T : tw_T) : Option (Int32 × tw_T) := if (nI 30) ≤ x6 then (k64 x1 x2 x3 x4 (x5 + (nI 1)) T) else (if x6 < x3 then (if x6 = 0 then (J_thrower_128 k64 k74 (((nI 30) * x5) + x6) x1 x2 x3 x4 x5 x6 T) else (if x5 = 0 then (J_thrower_128 k64 k74 (((nI 30) * x5) + x6) x1 x2 x3 x4 x5 x6 T) else ((rdI 240 (T.2.2 27) ((((nI 30) * x5) + x6) - (nI 29))).bind fun v5 => (rdI 240 (T.2.2 27) ((((nI 30) * x5) + x6) - (nI 31))).bind fun v6 => J_thrower_160 k64 k74 (((nI 30) * x5) + x6) ((x2 * v5) + (((nI 12) - x2) * v6)) x1 x2 x3 x4 x5 x6 T))) else ((J_power x5).bind fun r7 => (stA T 27 240 (((nI 30) * x5) + x6) r7).bind fun T8 => J_thrower_161 k64 k74 x1 x2 x3 x4 x5 x6 T8))
def J_thrower_74 (k64 : Int32 → Int32 → Int32 → Int32 → Int32 → tw_T → Option (Int32 × tw_T)) : Nat → Int32 → Int32 → Int32 → Int32 → Int32 → Int32 → tw_T → Option (Int32 × tw_T)
  | 0, _, _, _, _, _, _, _ => none
  | n + 1, x1, x2, x3, x4, x5, x6, T => B_thrower_74 k64 (J_thrower_74 k64 n) x1 x2 x3 x4 x5 x6 T
theorem vb_thrower_74 {l : Launch} {G : vv_G} {d : Nat} {o : Nat} {h0 : Nat → Option vv_E} {nz : Nat × Nat} (hG : vv_gok G) {k64 : Int32 → Int32 → Int32 → Int32 → Int32 → tw_T → Option (Int32 × tw_T)} (hk64 : ∀ {x1 : Int32} {x2 : Int32} {x3 : Int32} {x4 : Int32} {x5 : Int32} {T : tw_T} {r : Int32 × tw_T}, k64 x1 x2 x3 x4 x5 T = some r → vv_V l G MX4_thrower (d + 1) 64 [(0, .ref o), (1, .int x1), (2, .int x2), (3, .int x3), (4, .int x4), (5, .int x5)] [] (tp o h0 T, nz) (.inl (some (.int r.1)), (tp o h0 r.2, nz))) {k74 : Int32 → Int32 → Int32 → Int32 → Int32 → Int32 → tw_T → Option (Int32 × tw_T)} (hk74 : ∀ {x1 : Int32} {x2 : Int32} {x3 : Int32} {x4 : Int32} {x5 : Int32} {x6 : Int32} {T : tw_T} {r : Int32 × tw_T}, k74 x1 x2 x3 x4 x5 x6 T = some r → vv_V l G MX4_thrower (d + 1) 74 [(0, .ref o), (1, .int x1), (2, .int x2), (3, .int x3), (4, .int x4), (5, .int x5), (6, .int x6)] [] (tp o h0 T, nz) (.inl (some (.int r.1)), (tp o h0 r.2, nz))) {x1 : Int32} {x2 : Int32} {x3 : Int32} {x4 : Int32} {x5 : Int32} {x6 : Int32} {T : tw_T} {r : Int32 × tw_T} (h : B_thrower_74 k64 k74 x1 x2 x3 x4 x5 x6 T = some r) : vv_V l G MX4_thrower (d + 1) 74 [(0, .ref o), (1, .int x1), (2, .int x2), (3, .int x3), (4, .int x4), (5, .int x5), (6, .int x6)] [] (tp o h0 T, nz) (.inl (some (.int r.1)), (tp o h0 r.2, nz)) := by
  unfold B_thrower_74 at h
  refine vv_iload dX4_thrower_74 6 rfl ?_
  refine vv_bipush (v := (nI 30)) dX4_thrower_76 (by decide) ?_
  refine vv_icmp_ge (tgt := 167) dX4_thrower_78 (by decide) (fun c1 => ?_) (fun c1 => ?_)
  · rw [if_pos c1] at h
    refine vv_iinc (v := (x5 + (nI 1))) (lv' := [(0, .ref o), (1, .int x1), (2, .int x2), (3, .int x3), (4, .int x4), (5, .int (x5 + (nI 1))), (6, .int x6)]) dX4_thrower_167 5 rfl rfl (by decide) [1, 2, 3, 4, 5, 0, 6] rfl ?_
    refine vv_goto (tgt := 64) dX4_thrower_170 (by decide) ?_
    refine vv_sub (lv' := [(0, .ref o), (1, .int x1), (2, .int x2), (3, .int x3), (4, .int x4), (5, .int (x5 + (nI 1)))]) [0, 1, 2, 3, 4, 5] rfl ?_
    exact hk64 h
  · rw [if_neg c1] at h
    refine vv_bipush (v := (nI 30)) dX4_thrower_81 (by decide) ?_
    refine vv_iload dX4_thrower_83 5 rfl ?_
    refine vv_imul dX4_thrower_85 ?_
    refine vv_iload dX4_thrower_86 6 rfl ?_
    refine vv_iadd dX4_thrower_88 ?_
    refine vv_istore (lv' := [(0, .ref o), (1, .int x1), (2, .int x2), (3, .int x3), (4, .int x4), (5, .int x5), (6, .int x6), (7, .int (((nI 30) * x5) + x6))]) dX4_thrower_89 (by decide) [1, 2, 3, 4, 5, 6, 7, 0] rfl ?_
    refine vv_iload dX4_thrower_91 6 rfl ?_
    refine vv_iload_n dX4_thrower_93 rfl 3 rfl ?_
    refine vv_icmp_lt (tgt := 112) dX4_thrower_94 (by decide) (fun c2 => ?_) (fun c2 => ?_)
    · rw [if_pos c2] at h
      refine vv_aload_n dX4_thrower_112 rfl 0 rfl ?_
      refine tw_get (fl_X4_96 hG) (k := 51) rfl dX4_thrower_113 ?_
      refine vv_iload dX4_thrower_116 7 rfl ?_
      refine vv_iload dX4_thrower_118 6 rfl ?_
      refine vv_if_eq (tgt := 128) dX4_thrower_120 (by decide) (fun c3 => ?_) (fun c3 => ?_)
      · rw [if_pos c3] at h
        refine vv_sub (lv' := [(0, .ref o), (1, .int x1), (2, .int x2), (3, .int x3), (4, .int x4), (5, .int x5), (6, .int x6)]) [0, 1, 2, 3, 4, 5, 6] rfl ?_
        exact v_thrower_128 hG hk64 hk74 h
      · rw [if_neg c3] at h
        refine vv_iload dX4_thrower_123 5 rfl ?_
        refine vv_if_ne (tgt := 132) dX4_thrower_125 (by decide) (fun c4 => ?_) (fun c4 => ?_)
        · rw [if_neg c4] at h
          refine vv_iload_n dX4_thrower_132 rfl 2 rfl ?_
          refine vv_aload_n dX4_thrower_133 rfl 0 rfl ?_
          refine tw_get (fl_X4_96 hG) (k := 51) rfl dX4_thrower_134 ?_
          refine vv_iload dX4_thrower_137 7 rfl ?_
          refine vv_bipush (v := (nI 29)) dX4_thrower_139 (by decide) ?_
          refine vv_isub dX4_thrower_141 ?_
          obtain ⟨v5, iv5, ev5, h⟩ := rd_o h
          refine tw_ald 27 (by decide) rfl iv5 ev5 dX4_thrower_142 ?_
          refine vv_imul dX4_thrower_143 ?_
          refine vv_bipush (v := (nI 12)) dX4_thrower_144 (by decide) ?_
          refine vv_iload_n dX4_thrower_146 rfl 2 rfl ?_
          refine vv_isub dX4_thrower_147 ?_
          refine vv_aload_n dX4_thrower_148 rfl 0 rfl ?_
          refine tw_get (fl_X4_96 hG) (k := 51) rfl dX4_thrower_149 ?_
          refine vv_iload dX4_thrower_152 7 rfl ?_
          refine vv_bipush (v := (nI 31)) dX4_thrower_154 (by decide) ?_
          refine vv_isub dX4_thrower_156 ?_
          obtain ⟨v6, iv6, ev6, h⟩ := rd_o h
          refine tw_ald 27 (by decide) rfl iv6 ev6 dX4_thrower_157 ?_
          refine vv_imul dX4_thrower_158 ?_
          refine vv_iadd dX4_thrower_159 ?_
          refine vv_sub (lv' := [(0, .ref o), (1, .int x1), (2, .int x2), (3, .int x3), (4, .int x4), (5, .int x5), (6, .int x6)]) [0, 1, 2, 3, 4, 5, 6] rfl ?_
          exact v_thrower_160 hG hk64 hk74 h
        · rw [if_pos c4] at h
          refine vv_sub (lv' := [(0, .ref o), (1, .int x1), (2, .int x2), (3, .int x3), (4, .int x4), (5, .int x5), (6, .int x6)]) [0, 1, 2, 3, 4, 5, 6] rfl ?_
          exact v_thrower_128 hG hk64 hk74 h
    · rw [if_neg c2] at h
      refine vv_aload_n dX4_thrower_97 rfl 0 rfl ?_
      refine tw_get (fl_X4_96 hG) (k := 51) rfl dX4_thrower_98 ?_
      refine vv_iload dX4_thrower_101 7 rfl ?_
      refine vv_iload dX4_thrower_103 5 rfl ?_
      obtain ⟨r7, er7, h⟩ := bd_o h
      refine vv_callS ok_X4_power q2127 (m_power hG er7 (d + 0)) rfl (by omega) rfl rfl (Nat.le_of_ble_eq_true rfl) dX4_thrower_105 ?_
      obtain ⟨T8, iT8, eT8, h⟩ := st_o h
      refine tw_ast 27 (by decide) rfl iT8 eT8 dX4_thrower_108 ?_
      refine vv_goto (tgt := 161) dX4_thrower_109 (by decide) ?_
      refine vv_sub (lv' := [(0, .ref o), (1, .int x1), (2, .int x2), (3, .int x3), (4, .int x4), (5, .int x5), (6, .int x6)]) [0, 1, 2, 3, 4, 5, 6] rfl ?_
      exact v_thrower_161 hG hk64 hk74 h
theorem v_thrower_74 {l : Launch} {G : vv_G} {d : Nat} {o : Nat} {h0 : Nat → Option vv_E} {nz : Nat × Nat} (hG : vv_gok G) {k64 : Int32 → Int32 → Int32 → Int32 → Int32 → tw_T → Option (Int32 × tw_T)} (hk64 : ∀ {x1 : Int32} {x2 : Int32} {x3 : Int32} {x4 : Int32} {x5 : Int32} {T : tw_T} {r : Int32 × tw_T}, k64 x1 x2 x3 x4 x5 T = some r → vv_V l G MX4_thrower (d + 1) 64 [(0, .ref o), (1, .int x1), (2, .int x2), (3, .int x3), (4, .int x4), (5, .int x5)] [] (tp o h0 T, nz) (.inl (some (.int r.1)), (tp o h0 r.2, nz))) : ∀ (n : Nat) {x1 : Int32} {x2 : Int32} {x3 : Int32} {x4 : Int32} {x5 : Int32} {x6 : Int32} {T : tw_T} {r : Int32 × tw_T}, J_thrower_74 k64 n x1 x2 x3 x4 x5 x6 T = some r → vv_V l G MX4_thrower (d + 1) 74 [(0, .ref o), (1, .int x1), (2, .int x2), (3, .int x3), (4, .int x4), (5, .int x5), (6, .int x6)] [] (tp o h0 T, nz) (.inl (some (.int r.1)), (tp o h0 r.2, nz)) := by
  intro n
  induction n with
  | zero => intro _ _ _ _ _ _ _ _ h; cases h
  | succ n ih => intro _ _ _ _ _ _ _ _ h; exact vb_thrower_74 hG hk64 ih h
def B_thrower_64 (k64 : Int32 → Int32 → Int32 → Int32 → Int32 → tw_T → Option (Int32 × tw_T)) (x1 : Int32) (x2 : Int32) (x3 : Int32) (x4 : Int32) (x5 : Int32) (T : tw_T) : Option (Int32 × tw_T) := if x4 < x5 then ((rdI 240 (T.2.2 27) (((nI 30) * x4) + x1)).bind fun v2 => some (v2, T)) else (J_thrower_74 k64 NN x1 x2 x3 x4 x5 (nI 0) T)
def J_thrower_64 : Nat → Int32 → Int32 → Int32 → Int32 → Int32 → tw_T → Option (Int32 × tw_T)
  | 0, _, _, _, _, _, _ => none
  | n + 1, x1, x2, x3, x4, x5, T => B_thrower_64 (J_thrower_64 n) x1 x2 x3 x4 x5 T
theorem vb_thrower_64 {l : Launch} {G : vv_G} {d : Nat} {o : Nat} {h0 : Nat → Option vv_E} {nz : Nat × Nat} (hG : vv_gok G) {k64 : Int32 → Int32 → Int32 → Int32 → Int32 → tw_T → Option (Int32 × tw_T)} (hk64 : ∀ {x1 : Int32} {x2 : Int32} {x3 : Int32} {x4 : Int32} {x5 : Int32} {T : tw_T} {r : Int32 × tw_T}, k64 x1 x2 x3 x4 x5 T = some r → vv_V l G MX4_thrower (d + 1) 64 [(0, .ref o), (1, .int x1), (2, .int x2), (3, .int x3), (4, .int x4), (5, .int x5)] [] (tp o h0 T, nz) (.inl (some (.int r.1)), (tp o h0 r.2, nz))) {x1 : Int32} {x2 : Int32} {x3 : Int32} {x4 : Int32} {x5 : Int32} {T : tw_T} {r : Int32 × tw_T} (h : B_thrower_64 k64 x1 x2 x3 x4 x5 T = some r) : vv_V l G MX4_thrower (d + 1) 64 [(0, .ref o), (1, .int x1), (2, .int x2), (3, .int x3), (4, .int x4), (5, .int x5)] [] (tp o h0 T, nz) (.inl (some (.int r.1)), (tp o h0 r.2, nz)) := by
  unfold B_thrower_64 at h
  refine vv_iload dX4_thrower_64 5 rfl ?_
  refine vv_iload dX4_thrower_66 4 rfl ?_
  refine vv_icmp_gt (tgt := 173) dX4_thrower_68 (by decide) (fun c1 => ?_) (fun c1 => ?_)
  · rw [if_pos c1] at h
    refine vv_aload_n dX4_thrower_173 rfl 0 rfl ?_
    refine tw_get (fl_X4_96 hG) (k := 51) rfl dX4_thrower_174 ?_
    refine vv_bipush (v := (nI 30)) dX4_thrower_177 (by decide) ?_
    refine vv_iload dX4_thrower_179 4 rfl ?_
    refine vv_imul dX4_thrower_181 ?_
    refine vv_iload_n dX4_thrower_182 rfl 1 rfl ?_
    refine vv_iadd dX4_thrower_183 ?_
    obtain ⟨v2, iv2, ev2, h⟩ := rd_o h
    refine tw_ald 27 (by decide) rfl iv2 ev2 dX4_thrower_184 ?_
    cases h
    exact vv_iret rfl dX4_thrower_185
  · rw [if_neg c1] at h
    refine vv_iconst (v := (nI 0)) dX4_thrower_71 (by decide) ?_
    refine vv_istore (lv' := [(0, .ref o), (1, .int x1), (2, .int x2), (3, .int x3), (4, .int x4), (5, .int x5), (6, .int (nI 0))]) dX4_thrower_72 (by decide) [1, 2, 3, 4, 5, 6, 0] rfl ?_
    exact v_thrower_74 hG hk64 NN h
theorem v_thrower_64 {l : Launch} {G : vv_G} {d : Nat} {o : Nat} {h0 : Nat → Option vv_E} {nz : Nat × Nat} (hG : vv_gok G) : ∀ (n : Nat) {x1 : Int32} {x2 : Int32} {x3 : Int32} {x4 : Int32} {x5 : Int32} {T : tw_T} {r : Int32 × tw_T}, J_thrower_64 n x1 x2 x3 x4 x5 T = some r → vv_V l G MX4_thrower (d + 1) 64 [(0, .ref o), (1, .int x1), (2, .int x2), (3, .int x3), (4, .int x4), (5, .int x5)] [] (tp o h0 T, nz) (.inl (some (.int r.1)), (tp o h0 r.2, nz)) := by
  intro n
  induction n with
  | zero => intro _ _ _ _ _ _ _ h; cases h
  | succ n ih => intro _ _ _ _ _ _ _ h; exact vb_thrower_64 hG ih h
def J_thrower_52 (s1 : Int32) (x1 : Int32) (x2 : Int32) (x3 : Int32) (x4 : Int32) (T : tw_T) : Option (Int32 × tw_T) := (J_right s1 (nI 1) T).bind fun r1 => if r1.1 = 0 then (some ((nI 0), r1.2)) else (J_thrower_64 NN x1 x2 x3 x4 (nI 0) r1.2)
theorem v_thrower_52 {l : Launch} {G : vv_G} {d : Nat} {o : Nat} {h0 : Nat → Option vv_E} {nz : Nat × Nat} (hG : vv_gok G) {s1 : Int32} {x1 : Int32} {x2 : Int32} {x3 : Int32} {x4 : Int32} {T : tw_T} {r : Int32 × tw_T} (h : J_thrower_52 s1 x1 x2 x3 x4 T = some r) : vv_V l G MX4_thrower (d + 1) 52 [(0, .ref o), (1, .int x1), (2, .int x2), (3, .int x3), (4, .int x4)] [.int s1, .ref o] (tp o h0 T, nz) (.inl (some (.int r.1)), (tp o h0 r.2, nz)) := by
  unfold J_thrower_52 at h
  refine vv_iconst (v := (nI 1)) dX4_thrower_52 (by decide) ?_
  obtain ⟨r1, er1, h⟩ := bd_o h
  refine vv_callV ok_X4_right q1773 (m_right hG er1 (d + 0)) rfl (by omega) ⟨_, _, _, _, _, tp_o, by rw [hG.1]; rfl⟩ rfl rfl (Nat.le_of_ble_eq_true rfl) dX4_thrower_53 ?_
  refine vv_if_ne (tgt := 61) dX4_thrower_56 (by decide) (fun c2 => ?_) (fun c2 => ?_)
  · rw [if_neg c2] at h
    refine vv_iconst (v := (nI 0)) dX4_thrower_61 (by decide) ?_
    refine vv_istore (lv' := [(0, .ref o), (1, .int x1), (2, .int x2), (3, .int x3), (4, .int x4), (5, .int (nI 0))]) dX4_thrower_62 (by decide) [1, 2, 3, 4, 5, 0] rfl ?_
    exact v_thrower_64 hG NN h
  · rw [if_pos c2] at h
    refine vv_iconst (v := (nI 0)) dX4_thrower_59 (by decide) ?_
    cases h
    exact vv_iret rfl dX4_thrower_60
def J_thrower_51 (x1 : Int32) (x2 : Int32) (x3 : Int32) (x4 : Int32) (T : tw_T) : Option (Int32 × tw_T) := J_thrower_52 (nI 0) x1 x2 x3 x4 T
theorem v_thrower_51 {l : Launch} {G : vv_G} {d : Nat} {o : Nat} {h0 : Nat → Option vv_E} {nz : Nat × Nat} (hG : vv_gok G) {x1 : Int32} {x2 : Int32} {x3 : Int32} {x4 : Int32} {T : tw_T} {r : Int32 × tw_T} (h : J_thrower_51 x1 x2 x3 x4 T = some r) : vv_V l G MX4_thrower (d + 1) 51 [(0, .ref o), (1, .int x1), (2, .int x2), (3, .int x3), (4, .int x4)] [.ref o] (tp o h0 T, nz) (.inl (some (.int r.1)), (tp o h0 r.2, nz)) := by
  unfold J_thrower_51 at h
  refine vv_iconst (v := (nI 0)) dX4_thrower_51 (by decide) ?_
  exact v_thrower_52 hG h
def J_thrower (x1 : Int32) (x2 : Int32) (x3 : Int32) (x4 : Int32) (T : tw_T) : Option (Int32 × tw_T) := (some (tw_F T 0 (nI 0))).bind fun T1 => (J_within x1 (nI 0) (nI 20)).bind fun r2 => if r2 = 0 then (J_thrower_51 x1 x2 x3 x4 T1) else ((J_within x2 (nI 0) (nI 12)).bind fun r4 => if r4 = 0 then (J_thrower_51 x1 x2 x3 x4 T1) else ((J_within x3 (nI 1) (nI 20)).bind fun r6 => if r6 = 0 then (J_thrower_51 x1 x2 x3 x4 T1) else ((J_within x4 (nI 0) (nI 7)).bind fun r8 => if r8 = 0 then (J_thrower_51 x1 x2 x3 x4 T1) else (J_thrower_52 (nI 1) x1 x2 x3 x4 T1))))
theorem v_thrower_0 {l : Launch} {G : vv_G} {d : Nat} {o : Nat} {h0 : Nat → Option vv_E} {nz : Nat × Nat} (hG : vv_gok G) {x1 : Int32} {x2 : Int32} {x3 : Int32} {x4 : Int32} {T : tw_T} {r : Int32 × tw_T} (h : J_thrower x1 x2 x3 x4 T = some r) : vv_V l G MX4_thrower (d + 1) 0 [(0, .ref o), (1, .int x1), (2, .int x2), (3, .int x3), (4, .int x4)] [] (tp o h0 T, nz) (.inl (some (.int r.1)), (tp o h0 r.2, nz)) := by
  unfold J_thrower at h
  refine vv_aload_n dX4_thrower_0 rfl 0 rfl ?_
  refine vv_iconst (v := (nI 0)) dX4_thrower_1 (by decide) ?_
  obtain ⟨T1, eT1, h⟩ := bd_s h
  refine tw_put (T1 := T1) (pt_X4_117 hG) hG rfl rfl rfl (by decide) (by rw [eT1]; exact tw_set0 _ _ _) (by rw [eT1]; rfl) dX4_thrower_2 ?_
  refine vv_aload_n dX4_thrower_5 rfl 0 rfl ?_
  refine vv_iload_n dX4_thrower_6 rfl 1 rfl ?_
  refine vv_iconst (v := (nI 0)) dX4_thrower_7 (by decide) ?_
  refine vv_bipush (v := (nI 20)) dX4_thrower_8 (by decide) ?_
  obtain ⟨r2, er2, h⟩ := bd_o h
  refine vv_callS ok_X4_within q1908 (m_within hG er2 (d + 0)) rfl (by omega) rfl rfl (Nat.le_of_ble_eq_true rfl) dX4_thrower_10 ?_
  refine vv_if_eq (tgt := 51) dX4_thrower_13 (by decide) (fun c3 => ?_) (fun c3 => ?_)
  · rw [if_pos c3] at h
    exact v_thrower_51 hG h
  · rw [if_neg c3] at h
    refine vv_iload_n dX4_thrower_16 rfl 2 rfl ?_
    refine vv_iconst (v := (nI 0)) dX4_thrower_17 (by decide) ?_
    refine vv_bipush (v := (nI 12)) dX4_thrower_18 (by decide) ?_
    obtain ⟨r4, er4, h⟩ := bd_o h
    refine vv_callS ok_X4_within q1908 (m_within hG er4 (d + 0)) rfl (by omega) rfl rfl (Nat.le_of_ble_eq_true rfl) dX4_thrower_20 ?_
    refine vv_if_eq (tgt := 51) dX4_thrower_23 (by decide) (fun c5 => ?_) (fun c5 => ?_)
    · rw [if_pos c5] at h
      exact v_thrower_51 hG h
    · rw [if_neg c5] at h
      refine vv_iload_n dX4_thrower_26 rfl 3 rfl ?_
      refine vv_iconst (v := (nI 1)) dX4_thrower_27 (by decide) ?_
      refine vv_bipush (v := (nI 20)) dX4_thrower_28 (by decide) ?_
      obtain ⟨r6, er6, h⟩ := bd_o h
      refine vv_callS ok_X4_within q1908 (m_within hG er6 (d + 0)) rfl (by omega) rfl rfl (Nat.le_of_ble_eq_true rfl) dX4_thrower_30 ?_
      refine vv_if_eq (tgt := 51) dX4_thrower_33 (by decide) (fun c7 => ?_) (fun c7 => ?_)
      · rw [if_pos c7] at h
        exact v_thrower_51 hG h
      · rw [if_neg c7] at h
        refine vv_iload dX4_thrower_36 4 rfl ?_
        refine vv_iconst (v := (nI 0)) dX4_thrower_38 (by decide) ?_
        refine vv_bipush (v := (nI 7)) dX4_thrower_39 (by decide) ?_
        obtain ⟨r8, er8, h⟩ := bd_o h
        refine vv_callS ok_X4_within q1908 (m_within hG er8 (d + 0)) rfl (by omega) rfl rfl (Nat.le_of_ble_eq_true rfl) dX4_thrower_41 ?_
        refine vv_if_eq (tgt := 51) dX4_thrower_44 (by decide) (fun c9 => ?_) (fun c9 => ?_)
        · rw [if_pos c9] at h
          exact v_thrower_51 hG h
        · rw [if_neg c9] at h
          refine vv_iconst (v := (nI 1)) dX4_thrower_47 (by decide) ?_
          refine vv_goto (tgt := 52) dX4_thrower_48 (by decide) ?_
          exact v_thrower_52 hG h
theorem m_thrower {l : Launch} {G : vv_G} {o : Nat} {h0 : Nat → Option vv_E} {nz : Nat × Nat} (hG : vv_gok G) {x1 : Int32} {x2 : Int32} {x3 : Int32} {x4 : Int32} {T : tw_T} {r : Int32 × tw_T} (h : J_thrower x1 x2 x3 x4 T = some r) (d : Nat) : vv_Met l G MX4_thrower (d + 1) [.ref o, .int x1, .int x2, .int x3, .int x4] (tp o h0 T, nz) (.inl (some (.int r.1)), (tp o h0 r.2, nz)) := vv_head (by decide +kernel) rfl (Nat.le_of_ble_eq_true rfl) rfl (v_thrower_0 hG h)
/-! stop -/
def J_stop_58 (T : tw_T) : Option (Int32 × tw_T) := some ((nI 0), T)
theorem v_stop_58 {l : Launch} {G : vv_G} {d : Nat} {o : Nat} {h0 : Nat → Option vv_E} {nz : Nat × Nat} (hG : vv_gok G) {T : tw_T} {r : Int32 × tw_T} (h : J_stop_58 T = some r) : vv_V l G MX4_stop (d + 2) 58 [(0, .ref o)] [] (tp o h0 T, nz) (.inl (some (.int r.1)), (tp o h0 r.2, nz)) := by
  unfold J_stop_58 at h
  refine vv_iconst (v := (nI 0)) dX4_stop_58 (by decide) ?_
  cases h
  exact vv_iret rfl dX4_stop_59
def J_stop_237 (s0 : Int32) (T : tw_T) : Option (Int32 × tw_T) := some (s0, T)
theorem v_stop_237 {l : Launch} {G : vv_G} {d : Nat} {o : Nat} {h0 : Nat → Option vv_E} {nz : Nat × Nat} (hG : vv_gok G) {s0 : Int32} {T : tw_T} {r : Int32 × tw_T} (h : J_stop_237 s0 T = some r) : vv_V l G MX4_stop (d + 2) 237 [(0, .ref o)] [.int s0] (tp o h0 T, nz) (.inl (some (.int r.1)), (tp o h0 r.2, nz)) := by
  unfold J_stop_237 at h
  cases h
  exact vv_iret rfl dX4_stop_237
def J_stop_196 (k66 : Int32 → Int32 → Int32 → Int32 → Int32 → Int32 → tw_T → Option (Int32 × tw_T)) (k75 : Int32 → Int32 → Int32 → Int32 → Int32 → Int32 → Int32 → tw_T → Option (Int32 × tw_T)) (x1 : Int32) (x2 : Int32) (x3 : Int32) (x4 : Int32) (x5 : Int32) (x6 : Int32) (x7 : Int32) (T : tw_T) : Option (Int32 × tw_T) := k75 x1 x2 x3 x4 x5 x6 (x7 + (nI 1)) T
theorem v_stop_196 {l : Launch} {G : vv_G} {d : Nat} {o : Nat} {h0 : Nat → Option vv_E} {nz : Nat × Nat} (hG : vv_gok G) {k66 : Int32 → Int32 → Int32 → Int32 → Int32 → Int32 → tw_T → Option (Int32 × tw_T)} (hk66 : ∀ {x1 : Int32} {x2 : Int32} {x3 : Int32} {x4 : Int32} {x5 : Int32} {x6 : Int32} {T : tw_T} {r : Int32 × tw_T}, k66 x1 x2 x3 x4 x5 x6 T = some r → vv_V l G MX4_stop (d + 2) 66 [(0, .ref o), (1, .int x1), (2, .int x2), (3, .int x3), (4, .int x4), (5, .int x5), (6, .int x6)] [] (tp o h0 T, nz) (.inl (some (.int r.1)), (tp o h0 r.2, nz))) {k75 : Int32 → Int32 → Int32 → Int32 → Int32 → Int32 → Int32 → tw_T → Option (Int32 × tw_T)} (hk75 : ∀ {x1 : Int32} {x2 : Int32} {x3 : Int32} {x4 : Int32} {x5 : Int32} {x6 : Int32} {x7 : Int32} {T : tw_T} {r : Int32 × tw_T}, k75 x1 x2 x3 x4 x5 x6 x7 T = some r → vv_V l G MX4_stop (d + 2) 75 [(0, .ref o), (1, .int x1), (2, .int x2), (3, .int x3), (4, .int x4), (5, .int x5), (6, .int x6), (7, .int x7)] [] (tp o h0 T, nz) (.inl (some (.int r.1)), (tp o h0 r.2, nz))) {x1 : Int32} {x2 : Int32} {x3 : Int32} {x4 : Int32} {x5 : Int32} {x6 : Int32} {x7 : Int32} {T : tw_T} {r : Int32 × tw_T} (h : J_stop_196 k66 k75 x1 x2 x3 x4 x5 x6 x7 T = some r) : vv_V l G MX4_stop (d + 2) 196 [(0, .ref o), (1, .int x1), (2, .int x2), (3, .int x3), (4, .int x4), (5, .int x5), (6, .int x6), (7, .int x7)] [] (tp o h0 T, nz) (.inl (some (.int r.1)), (tp o h0 r.2, nz)) := by
  unfold J_stop_196 at h
  refine vv_iinc (v := (x7 + (nI 1))) (lv' := [(0, .ref o), (1, .int x1), (2, .int x2), (3, .int x3), (4, .int x4), (5, .int x5), (6, .int x6), (7, .int (x7 + (nI 1)))]) dX4_stop_196 7 rfl rfl (by decide) [1, 2, 3, 4, 5, 6, 7, 0] rfl ?_
  refine vv_goto (tgt := 75) dX4_stop_199 (by decide) ?_
  exact hk75 h
def J_stop_194 (k66 : Int32 → Int32 → Int32 → Int32 → Int32 → Int32 → tw_T → Option (Int32 × tw_T)) (k75 : Int32 → Int32 → Int32 → Int32 → Int32 → Int32 → Int32 → tw_T → Option (Int32 × tw_T)) (s0 : Int32) (x1 : Int32) (x2 : Int32) (x3 : Int32) (x4 : Int32) (x6 : Int32) (x7 : Int32) (T : tw_T) : Option (Int32 × tw_T) := J_stop_196 k66 k75 x1 x2 x3 x4 s0 x6 x7 T
theorem v_stop_194 {l : Launch} {G : vv_G} {d : Nat} {o : Nat} {h0 : Nat → Option vv_E} {nz : Nat × Nat} (hG : vv_gok G) {k66 : Int32 → Int32 → Int32 → Int32 → Int32 → Int32 → tw_T → Option (Int32 × tw_T)} (hk66 : ∀ {x1 : Int32} {x2 : Int32} {x3 : Int32} {x4 : Int32} {x5 : Int32} {x6 : Int32} {T : tw_T} {r : Int32 × tw_T}, k66 x1 x2 x3 x4 x5 x6 T = some r → vv_V l G MX4_stop (d + 2) 66 [(0, .ref o), (1, .int x1), (2, .int x2), (3, .int x3), (4, .int x4), (5, .int x5), (6, .int x6)] [] (tp o h0 T, nz) (.inl (some (.int r.1)), (tp o h0 r.2, nz))) {k75 : Int32 → Int32 → Int32 → Int32 → Int32 → Int32 → Int32 → tw_T → Option (Int32 × tw_T)} (hk75 : ∀ {x1 : Int32} {x2 : Int32} {x3 : Int32} {x4 : Int32} {x5 : Int32} {x6 : Int32} {x7 : Int32} {T : tw_T} {r : Int32 × tw_T}, k75 x1 x2 x3 x4 x5 x6 x7 T = some r → vv_V l G MX4_stop (d + 2) 75 [(0, .ref o), (1, .int x1), (2, .int x2), (3, .int x3), (4, .int x4), (5, .int x5), (6, .int x6), (7, .int x7)] [] (tp o h0 T, nz) (.inl (some (.int r.1)), (tp o h0 r.2, nz))) {s0 : Int32} {x1 : Int32} {x2 : Int32} {x3 : Int32} {x4 : Int32} {x6 : Int32} {x7 : Int32} {T : tw_T} {r : Int32 × tw_T} (h : J_stop_194 k66 k75 s0 x1 x2 x3 x4 x6 x7 T = some r) : vv_V l G MX4_stop (d + 2) 194 [(0, .ref o), (1, .int x1), (2, .int x2), (3, .int x3), (4, .int x4), (6, .int x6), (7, .int x7)] [.int s0] (tp o h0 T, nz) (.inl (some (.int r.1)), (tp o h0 r.2, nz)) := by
  unfold J_stop_194 at h
  refine vv_istore (lv' := [(0, .ref o), (1, .int x1), (2, .int x2), (3, .int x3), (4, .int x4), (5, .int s0), (6, .int x6), (7, .int x7)]) dX4_stop_194 (by decide) [1, 2, 3, 4, 5, 0, 6, 7] rfl ?_
  exact v_stop_196 hG hk66 hk75 h
def J_stop_169 (k66 : Int32 → Int32 → Int32 → Int32 → Int32 → Int32 → tw_T → Option (Int32 × tw_T)) (k75 : Int32 → Int32 → Int32 → Int32 → Int32 → Int32 → Int32 → tw_T → Option (Int32 × tw_T)) (s1 : Int32) (s2 : Int32) (x1 : Int32) (x2 : Int32) (x3 : Int32) (x4 : Int32) (x5 : Int32) (x6 : Int32) (x7 : Int32) (x9 : Int32) (x10 : Int32) (T : tw_T) : Option (Int32 × tw_T) := (stA T 27 240 s1 s2).bind fun T1 => if x6 = x3 then (if x7 = x1 then (if x10 ≤ x9 then (J_stop_194 k66 k75 (nI 0) x1 x2 x3 x4 x6 x7 T1) else (J_stop_194 k66 k75 (nI 1) x1 x2 x3 x4 x6 x7 T1)) else (J_stop_196 k66 k75 x1 x2 x3 x4 x5 x6 x7 T1)) else (J_stop_196 k66 k75 x1 x2 x3 x4 x5 x6 x7 T1)
theorem v_stop_169 {l : Launch} {G : vv_G} {d : Nat} {o : Nat} {h0 : Nat → Option vv_E} {nz : Nat × Nat} (hG : vv_gok G) {k66 : Int32 → Int32 → Int32 → Int32 → Int32 → Int32 → tw_T → Option (Int32 × tw_T)} (hk66 : ∀ {x1 : Int32} {x2 : Int32} {x3 : Int32} {x4 : Int32} {x5 : Int32} {x6 : Int32} {T : tw_T} {r : Int32 × tw_T}, k66 x1 x2 x3 x4 x5 x6 T = some r → vv_V l G MX4_stop (d + 2) 66 [(0, .ref o), (1, .int x1), (2, .int x2), (3, .int x3), (4, .int x4), (5, .int x5), (6, .int x6)] [] (tp o h0 T, nz) (.inl (some (.int r.1)), (tp o h0 r.2, nz))) {k75 : Int32 → Int32 → Int32 → Int32 → Int32 → Int32 → Int32 → tw_T → Option (Int32 × tw_T)} (hk75 : ∀ {x1 : Int32} {x2 : Int32} {x3 : Int32} {x4 : Int32} {x5 : Int32} {x6 : Int32} {x7 : Int32} {T : tw_T} {r : Int32 × tw_T}, k75 x1 x2 x3 x4 x5 x6 x7 T = some r → vv_V l G MX4_stop (d + 2) 75 [(0, .ref o), (1, .int x1), (2, .int x2), (3, .int x3), (4, .int x4), (5, .int x5), (6, .int x6), (7, .int x7)] [] (tp o h0 T, nz) (.inl (some (.int r.1)), (tp o h0 r.2, nz))) {s1 : Int32} {s2 : Int32} {x1 : Int32} {x2 : Int32} {x3 : Int32} {x4 : Int32} {x5 : Int32} {x6 : Int32} {x7 : Int32} {x9 : Int32} {x10 : Int32} {T : tw_T} {r : Int32 × tw_T} (h : J_stop_169 k66 k75 s1 s2 x1 x2 x3 x4 x5 x6 x7 x9 x10 T = some r) : vv_V l G MX4_stop (d + 2) 169 [(0, .ref o), (1, .int x1), (2, .int x2), (3, .int x3), (4, .int x4), (5, .int x5), (6, .int x6), (7, .int x7), (9, .int x9), (10, .int x10)] [.int s2, .int s1, .ref (o + 27)] (tp o h0 T, nz) (.inl (some (.int r.1)), (tp o h0 r.2, nz)) := by
  unfold J_stop_169 at h
  obtain ⟨T1, iT1, eT1, h⟩ := st_o h
  refine tw_ast 27 (by decide) rfl iT1 eT1 dX4_stop_169 ?_
  refine vv_iload dX4_stop_170 6 rfl ?_
  refine vv_iload_n dX4_stop_172 rfl 3 rfl ?_
  refine vv_icmp_ne (tgt := 196) dX4_stop_173 (by decide) (fun c2 => ?_) (fun c2 => ?_)
  · rw [if_neg c2] at h
    refine vv_sub (lv' := [(0, .ref o), (1, .int x1), (2, .int x2), (3, .int x3), (4, .int x4), (5, .int x5), (6, .int x6), (7, .int x7)]) [0, 1, 2, 3, 4, 5, 6, 7] rfl ?_
    exact v_stop_196 hG hk66 hk75 h
  · rw [if_pos c2] at h
    refine vv_iload dX4_stop_176 7 rfl ?_
    refine vv_iload_n dX4_stop_178 rfl 1 rfl ?_
    refine vv_icmp_ne (tgt := 196) dX4_stop_179 (by decide) (fun c3 => ?_) (fun c3 => ?_)
    · rw [if_neg c3] at h
      refine vv_sub (lv' := [(0, .ref o), (1, .int x1), (2, .int x2), (3, .int x3), (4, .int x4), (5, .int x5), (6, .int x6), (7, .int x7)]) [0, 1, 2, 3, 4, 5, 6, 7] rfl ?_
      exact v_stop_196 hG hk66 hk75 h
    · rw [if_pos c3] at h
      refine vv_iload dX4_stop_182 9 rfl ?_
      refine vv_iload dX4_stop_184 8 rfl ?_
      refine vv_icmp_le (tgt := 193) dX4_stop_186 (by decide) (fun c4 => ?_) (fun c4 => ?_)
      · rw [if_pos c4] at h
        refine vv_iconst (v := (nI 0)) dX4_stop_193 (by decide) ?_
        refine vv_sub (lv' := [(0, .ref o), (1, .int x1), (2, .int x2), (3, .int x3), (4, .int x4), (6, .int x6), (7, .int x7)]) [0, 1, 2, 3, 4, 6, 7] rfl ?_
        exact v_stop_194 hG hk66 hk75 h
      · rw [if_neg c4] at h
        refine vv_iconst (v := (nI 1)) dX4_stop_189 (by decide) ?_
        refine vv_goto (tgt := 194) dX4_stop_190 (by decide) ?_
        refine vv_sub (lv' := [(0, .ref o), (1, .int x1), (2, .int x2), (3, .int x3), (4, .int x4), (6, .int x6), (7, .int x7)]) [0, 1, 2, 3, 4, 6, 7] rfl ?_
        exact v_stop_194 hG hk66 hk75 h
def J_stop_147 (k66 : Int32 → Int32 → Int32 → Int32 → Int32 → Int32 → tw_T → Option (Int32 × tw_T)) (k75 : Int32 → Int32 → Int32 → Int32 → Int32 → Int32 → Int32 → tw_T → Option (Int32 × tw_T)) (s0 : Int32) (x1 : Int32) (x2 : Int32) (x3 : Int32) (x4 : Int32) (x5 : Int32) (x6 : Int32) (x7 : Int32) (x8 : Int32) (x9 : Int32) (T : tw_T) : Option (Int32 × tw_T) := if s0 ≤ x9 then (J_stop_169 k66 k75 x8 x9 x1 x2 x3 x4 x5 x6 x7 x9 s0 T) else (J_stop_169 k66 k75 x8 s0 x1 x2 x3 x4 x5 x6 x7 x9 s0 T)
theorem v_stop_147 {l : Launch} {G : vv_G} {d : Nat} {o : Nat} {h0 : Nat → Option vv_E} {nz : Nat × Nat} (hG : vv_gok G) {k66 : Int32 → Int32 → Int32 → Int32 → Int32 → Int32 → tw_T → Option (Int32 × tw_T)} (hk66 : ∀ {x1 : Int32} {x2 : Int32} {x3 : Int32} {x4 : Int32} {x5 : Int32} {x6 : Int32} {T : tw_T} {r : Int32 × tw_T}, k66 x1 x2 x3 x4 x5 x6 T = some r → vv_V l G MX4_stop (d + 2) 66 [(0, .ref o), (1, .int x1), (2, .int x2), (3, .int x3), (4, .int x4), (5, .int x5), (6, .int x6)] [] (tp o h0 T, nz) (.inl (some (.int r.1)), (tp o h0 r.2, nz))) {k75 : Int32 → Int32 → Int32 → Int32 → Int32 → Int32 → Int32 → tw_T → Option (Int32 × tw_T)} (hk75 : ∀ {x1 : Int32} {x2 : Int32} {x3 : Int32} {x4 : Int32} {x5 : Int32} {x6 : Int32} {x7 : Int32} {T : tw_T} {r : Int32 × tw_T}, k75 x1 x2 x3 x4 x5 x6 x7 T = some r → vv_V l G MX4_stop (d + 2) 75 [(0, .ref o), (1, .int x1), (2, .int x2), (3, .int x3), (4, .int x4), (5, .int x5), (6, .int x6), (7, .int x7)] [] (tp o h0 T, nz) (.inl (some (.int r.1)), (tp o h0 r.2, nz))) {s0 : Int32} {x1 : Int32} {x2 : Int32} {x3 : Int32} {x4 : Int32} {x5 : Int32} {x6 : Int32} {x7 : Int32} {x8 : Int32} {x9 : Int32} {T : tw_T} {r : Int32 × tw_T} (h : J_stop_147 k66 k75 s0 x1 x2 x3 x4 x5 x6 x7 x8 x9 T = some r) : vv_V l G MX4_stop (d + 2) 147 [(0, .ref o), (1, .int x1), (2, .int x2), (3, .int x3), (4, .int x4), (5, .int x5), (6, .int x6), (7, .int x7), (8, .int x8), (9, .int x9)] [.int s0] (tp o h0 T, nz) (.inl (some (.int r.1)), (tp o h0 r.2, nz)) := by
  unfold J_stop_147 at h
  refine vv_istore (lv' := [(0, .ref o), (1, .int x1), (2, .int x2), (3, .int x3), (4, .int x4), (5, .int x5), (6, .int x6), (7, .int x7), (8, .int x8), (9, .int x9), (10, .int s0)]) dX4_stop_147 (by decide) [1, 2, 3, 4, 5, 6, 7, 8, 9, 10, 0] rfl ?_
  refine vv_aload_n dX4_stop_149 rfl 0 rfl ?_
  refine tw_get (fl_X4_96 hG) (k := 51) rfl dX4_stop_150 ?_
  refine vv_iload dX4_stop_153 8 rfl ?_
  refine vv_iload dX4_stop_155 10 rfl ?_
  refine vv_iload dX4_stop_157 9 rfl ?_
  refine vv_icmp_le (tgt := 167) dX4_stop_159 (by decide) (fun c1 => ?_) (fun c1 => ?_)
  · rw [if_pos c1] at h
    refine vv_iload dX4_stop_167 9 rfl ?_
    refine vv_sub (lv' := [(0, .ref o), (1, .int x1), (2, .int x2), (3, .int x3), (4, .int x4), (5, .int x5), (6, .int x6), (7, .int x7), (9, .int x9), (10, .int s0)]) [0, 1, 2, 3, 4, 5, 6, 7, 9, 10] rfl ?_
    exact v_stop_169 hG hk66 hk75 h
  · rw [if_neg c1] at h
    refine vv_iload dX4_stop_162 10 rfl ?_
    refine vv_goto (tgt := 169) dX4_stop_164 (by decide) ?_
    refine vv_sub (lv' := [(0, .ref o), (1, .int x1), (2, .int x2), (3, .int x3), (4, .int x4), (5, .int x5), (6, .int x6), (7, .int x7), (9, .int x9), (10, .int s0)]) [0, 1, 2, 3, 4, 5, 6, 7, 9, 10] rfl ?_
    exact v_stop_169 hG hk66 hk75 h
def J_stop_115 (k66 : Int32 → Int32 → Int32 → Int32 → Int32 → Int32 → tw_T → Option (Int32 × tw_T)) (k75 : Int32 → Int32 → Int32 → Int32 → Int32 → Int32 → Int32 → tw_T → Option (Int32 × tw_T)) (x1 : Int32) (x2 : Int32) (x3 : Int32) (x4 : Int32) (x5 : Int32) (x6 : Int32) (x7 : Int32) (x8 : Int32) (x9 : Int32) (T : tw_T) : Option (Int32 × tw_T) := J_stop_147 k66 k75 (nI 0) x1 x2 x3 x4 x5 x6 x7 x8 x9 T
theorem v_stop_115 {l : Launch} {G : vv_G} {d : Nat} {o : Nat} {h0 : Nat → Option vv_E} {nz : Nat × Nat} (hG : vv_gok G) {k66 : Int32 → Int32 → Int32 → Int32 → Int32 → Int32 → tw_T → Option (Int32 × tw_T)} (hk66 : ∀ {x1 : Int32} {x2 : Int32} {x3 : Int32} {x4 : Int32} {x5 : Int32} {x6 : Int32} {T : tw_T} {r : Int32 × tw_T}, k66 x1 x2 x3 x4 x5 x6 T = some r → vv_V l G MX4_stop (d + 2) 66 [(0, .ref o), (1, .int x1), (2, .int x2), (3, .int x3), (4, .int x4), (5, .int x5), (6, .int x6)] [] (tp o h0 T, nz) (.inl (some (.int r.1)), (tp o h0 r.2, nz))) {k75 : Int32 → Int32 → Int32 → Int32 → Int32 → Int32 → Int32 → tw_T → Option (Int32 × tw_T)} (hk75 : ∀ {x1 : Int32} {x2 : Int32} {x3 : Int32} {x4 : Int32} {x5 : Int32} {x6 : Int32} {x7 : Int32} {T : tw_T} {r : Int32 × tw_T}, k75 x1 x2 x3 x4 x5 x6 x7 T = some r → vv_V l G MX4_stop (d + 2) 75 [(0, .ref o), (1, .int x1), (2, .int x2), (3, .int x3), (4, .int x4), (5, .int x5), (6, .int x6), (7, .int x7)] [] (tp o h0 T, nz) (.inl (some (.int r.1)), (tp o h0 r.2, nz))) {x1 : Int32} {x2 : Int32} {x3 : Int32} {x4 : Int32} {x5 : Int32} {x6 : Int32} {x7 : Int32} {x8 : Int32} {x9 : Int32} {T : tw_T} {r : Int32 × tw_T} (h : J_stop_115 k66 k75 x1 x2 x3 x4 x5 x6 x7 x8 x9 T = some r) : vv_V l G MX4_stop (d + 2) 115 [(0, .ref o), (1, .int x1), (2, .int x2), (3, .int x3), (4, .int x4), (5, .int x5), (6, .int x6), (7, .int x7), (8, .int x8), (9, .int x9)] [] (tp o h0 T, nz) (.inl (some (.int r.1)), (tp o h0 r.2, nz)) := by
  unfold J_stop_115 at h
  refine vv_iconst (v := (nI 0)) dX4_stop_115 (by decide) ?_
  refine vv_goto (tgt := 147) dX4_stop_116 (by decide) ?_
  exact v_stop_147 hG hk66 hk75 h
def B_stop_75 (k66 : Int32 → Int32 → Int32 → Int32 → Int32 → Int32 → tw_T → Option (Int32 × tw_T)) (k75 : Int32 → Int32 → Int32 → Int32 → Int32 → Int32 → Int32 → tw_T → Option (Int32 × tw_T)) (x1 : Int32) (x2 : Int32) (x3 : Int32) (x4 : Int32) (x5 : Int32) (x6 : Int32) (x7 : Int32) (T : tw_T) : Option (Int32 × tw_T) := if ((nI 29) - x6) ≤ x7 then (k66 x1 x2 x3 x4 x5 (x6 + (nI 1)) T) else ((J_power x6).bind fun r2 => if x7 = 0 then (J_stop_115 k66 k75 x1 x2 x3 x4 x5 x6 x7 (((nI 30) * x6) + x7) (x7 * r2) T) else (if x6 = 0 then (J_stop_115 k66 k75 x1 x2 x3 x4 x5 x6 x7 (((nI 30) * x6) + x7) (x7 * r2) T) else ((rdI 240 (T.2.2 27) ((((nI 30) * x6) + x7) - (nI 29))).bind fun v5 => (rdI 240 (T.2.2 27) ((((nI 30) * x6) + x7) - (nI 31))).bind fun v6 => J_stop_147 k66 k75 ((x2 * v5) + (((nI 12) - x2) * v6)) x1 x2 x3 x4 x5 x6 x7 (((nI 30) * x6) + x7) (x7 * r2) T)))
def J_stop_75 (k66 : Int32 → Int32 → Int32 → Int32 → Int32 → Int32 → tw_T → Option (Int32 × tw_T)) : Nat → Int32 → Int32 → Int32 → Int32 → Int32 → Int32 → Int32 → tw_T → Option (Int32 × tw_T)
  | 0, _, _, _, _, _, _, _, _ => none
  | n + 1, x1, x2, x3, x4, x5, x6, x7, T => B_stop_75 k66 (J_stop_75 k66 n) x1 x2 x3 x4 x5 x6 x7 T
theorem vb_stop_75 {l : Launch} {G : vv_G} {d : Nat} {o : Nat} {h0 : Nat → Option vv_E} {nz : Nat × Nat} (hG : vv_gok G) {k66 : Int32 → Int32 → Int32 → Int32 → Int32 → Int32 → tw_T → Option (Int32 × tw_T)} (hk66 : ∀ {x1 : Int32} {x2 : Int32} {x3 : Int32} {x4 : Int32} {x5 : Int32} {x6 : Int32} {T : tw_T} {r : Int32 × tw_T}, k66 x1 x2 x3 x4 x5 x6 T = some r → vv_V l G MX4_stop (d + 2) 66 [(0, .ref o), (1, .int x1), (2, .int x2), (3, .int x3), (4, .int x4), (5, .int x5), (6, .int x6)] [] (tp o h0 T, nz) (.inl (some (.int r.1)), (tp o h0 r.2, nz))) {k75 : Int32 → Int32 → Int32 → Int32 → Int32 → Int32 → Int32 → tw_T → Option (Int32 × tw_T)} (hk75 : ∀ {x1 : Int32} {x2 : Int32} {x3 : Int32} {x4 : Int32} {x5 : Int32} {x6 : Int32} {x7 : Int32} {T : tw_T} {r : Int32 × tw_T}, k75 x1 x2 x3 x4 x5 x6 x7 T = some r → vv_V l G MX4_stop (d + 2) 75 [(0, .ref o), (1, .int x1), (2, .int x2), (3, .int x3), (4, .int x4), (5, .int x5), (6, .int x6), (7, .int x7)] [] (tp o h0 T, nz) (.inl (some (.int r.1)), (tp o h0 r.2, nz))) {x1 : Int32} {x2 : Int32} {x3 : Int32} {x4 : Int32} {x5 : Int32} {x6 : Int32} {x7 : Int32} {T : tw_T} {r : Int32 × tw_T} (h : B_stop_75 k66 k75 x1 x2 x3 x4 x5 x6 x7 T = some r) : vv_V l G MX4_stop (d + 2) 75 [(0, .ref o), (1, .int x1), (2, .int x2), (3, .int x3), (4, .int x4), (5, .int x5), (6, .int x6), (7, .int x7)] [] (tp o h0 T, nz) (.inl (some (.int r.1)), (tp o h0 r.2, nz)) := by
  unfold B_stop_75 at h
  refine vv_iload dX4_stop_75 7 rfl ?_
  refine vv_bipush (v := (nI 29)) dX4_stop_77 (by decide) ?_
  refine vv_iload dX4_stop_79 6 rfl ?_
  refine vv_isub dX4_stop_81 ?_
  refine vv_icmp_ge (tgt := 202) dX4_stop_82 (by decide) (fun c1 => ?_) (fun c1 => ?_)
  · rw [if_pos c1] at h
    refine vv_iinc (v := (x6 + (nI 1))) (lv' := [(0, .ref o), (1, .int x1), (2, .int x2), (3, .int x3), (4, .int x4), (5, .int x5), (6, .int (x6 + (nI 1))), (7, .int x7)]) dX4_stop_202 6 rfl rfl (by decide) [1, 2, 3, 4, 5, 6, 0, 7] rfl ?_
    refine vv_goto (tgt := 66) dX4_stop_205 (by decide) ?_
    refine vv_sub (lv' := [(0, .ref o), (1, .int x1), (2, .int x2), (3, .int x3), (4, .int x4), (5, .int x5), (6, .int (x6 + (nI 1)))]) [0, 1, 2, 3, 4, 5, 6] rfl ?_
    exact hk66 h
  · rw [if_neg c1] at h
    refine vv_bipush (v := (nI 30)) dX4_stop_85 (by decide) ?_
    refine vv_iload dX4_stop_87 6 rfl ?_
    refine vv_imul dX4_stop_89 ?_
    refine vv_iload dX4_stop_90 7 rfl ?_
    refine vv_iadd dX4_stop_92 ?_
    refine vv_istore (lv' := [(0, .ref o), (1, .int x1), (2, .int x2), (3, .int x3), (4, .int x4), (5, .int x5), (6, .int x6), (7, .int x7), (8, .int (((nI 30) * x6) + x7))]) dX4_stop_93 (by decide) [1, 2, 3, 4, 5, 6, 7, 8, 0] rfl ?_
    refine vv_iload dX4_stop_95 7 rfl ?_
    refine vv_iload dX4_stop_97 6 rfl ?_
    obtain ⟨r2, er2, h⟩ := bd_o h
    refine vv_callS ok_X4_power q2127 (m_power hG er2 (d + 1)) rfl (by omega) rfl rfl (Nat.le_of_ble_eq_true rfl) dX4_stop_99 ?_
    refine vv_imul dX4_stop_102 ?_
    refine vv_istore (lv' := [(0, .ref o), (1, .int x1), (2, .int x2), (3, .int x3), (4, .int x4), (5, .int x5), (6, .int x6), (7, .int x7), (8, .int (((nI 30) * x6) + x7)), (9, .int (x7 * r2))]) dX4_stop_103 (by decide) [1, 2, 3, 4, 5, 6, 7, 8, 9, 0] rfl ?_
    refine vv_iload dX4_stop_105 7 rfl ?_
    refine vv_if_eq (tgt := 115) dX4_stop_107 (by decide) (fun c3 => ?_) (fun c3 => ?_)
    · rw [if_pos c3] at h
      exact v_stop_115 hG hk66 hk75 h
    · rw [if_neg c3] at h
      refine vv_iload dX4_stop_110 6 rfl ?_
      refine vv_if_ne (tgt := 119) dX4_stop_112 (by decide) (fun c4 => ?_) (fun c4 => ?_)
      · rw [if_neg c4] at h
        refine vv_iload_n dX4_stop_119 rfl 2 rfl ?_
        refine vv_aload_n dX4_stop_120 rfl 0 rfl ?_
        refine tw_get (fl_X4_96 hG) (k := 51) rfl dX4_stop_121 ?_
        refine vv_iload dX4_stop_124 8 rfl ?_
        refine vv_bipush (v := (nI 29)) dX4_stop_126 (by decide) ?_
        refine vv_isub dX4_stop_128 ?_
        obtain ⟨v5, iv5, ev5, h⟩ := rd_o h
        refine tw_ald 27 (by decide) rfl iv5 ev5 dX4_stop_129 ?_
        refine vv_imul dX4_stop_130 ?_
        refine vv_bipush (v := (nI 12)) dX4_stop_131 (by decide) ?_
        refine vv_iload_n dX4_stop_133 rfl 2 rfl ?_
        refine vv_isub dX4_stop_134 ?_
        refine vv_aload_n dX4_stop_135 rfl 0 rfl ?_
        refine tw_get (fl_X4_96 hG) (k := 51) rfl dX4_stop_136 ?_
        refine vv_iload dX4_stop_139 8 rfl ?_
        refine vv_bipush (v := (nI 31)) dX4_stop_141 (by decide) ?_
        refine vv_isub dX4_stop_143 ?_
        obtain ⟨v6, iv6, ev6, h⟩ := rd_o h
        refine tw_ald 27 (by decide) rfl iv6 ev6 dX4_stop_144 ?_
        refine vv_imul dX4_stop_145 ?_
        refine vv_iadd dX4_stop_146 ?_
        exact v_stop_147 hG hk66 hk75 h
      · rw [if_pos c4] at h
        exact v_stop_115 hG hk66 hk75 h
theorem v_stop_75 {l : Launch} {G : vv_G} {d : Nat} {o : Nat} {h0 : Nat → Option vv_E} {nz : Nat × Nat} (hG : vv_gok G) {k66 : Int32 → Int32 → Int32 → Int32 → Int32 → Int32 → tw_T → Option (Int32 × tw_T)} (hk66 : ∀ {x1 : Int32} {x2 : Int32} {x3 : Int32} {x4 : Int32} {x5 : Int32} {x6 : Int32} {T : tw_T} {r : Int32 × tw_T}, k66 x1 x2 x3 x4 x5 x6 T = some r → vv_V l G MX4_stop (d + 2) 66 [(0, .ref o), (1, .int x1), (2, .int x2), (3, .int x3), (4, .int x4), (5, .int x5), (6, .int x6)] [] (tp o h0 T, nz) (.inl (some (.int r.1)), (tp o h0 r.2, nz))) : ∀ (n : Nat) {x1 : Int32} {x2 : Int32} {x3 : Int32} {x4 : Int32} {x5 : Int32} {x6 : Int32} {x7 : Int32} {T : tw_T} {r : Int32 × tw_T}, J_stop_75 k66 n x1 x2 x3 x4 x5 x6 x7 T = some r → vv_V l G MX4_stop (d + 2) 75 [(0, .ref o), (1, .int x1), (2, .int x2), (3, .int x3), (4, .int x4), (5, .int x5), (6, .int x6), (7, .int x7)] [] (tp o h0 T, nz) (.inl (some (.int r.1)), (tp o h0 r.2, nz)) := by
  intro n
  induction n with
  | zero => intro _ _ _ _ _ _ _ _ _ h; cases h
  | succ n ih => intro _ _ _ _ _ _ _ _ _ h; exact vb_stop_75 hG hk66 ih h
def B_stop_66 (k66 : Int32 → Int32 → Int32 → Int32 → Int32 → Int32 → tw_T → Option (Int32 × tw_T)) (x1 : Int32) (x2 : Int32) (x3 : Int32) (x4 : Int32) (x5 : Int32) (x6 : Int32) (T : tw_T) : Option (Int32 × tw_T) := if x3 < x6 then (if x4 = 0 then ((rdI 240 (T.2.2 27) (((nI 30) * x3) + x1)).bind fun v4 => J_stop_237 v4 T) else (if x5 = 0 then (J_stop_237 (nI 0) T) else (J_stop_237 (nI 1) T))) else (J_stop_75 k66 NN x1 x2 x3 x4 x5 x6 (nI 0) T)
def J_stop_66 : Nat → Int32 → Int32 → Int32 → Int32 → Int32 → Int32 → tw_T → Option (Int32 × tw_T)
  | 0, _, _, _, _, _, _, _ => none
  | n + 1, x1, x2, x3, x4, x5, x6, T => B_stop_66 (J_stop_66 n) x1 x2 x3 x4 x5 x6 T
theorem vb_stop_66 {l : Launch} {G : vv_G} {d : Nat} {o : Nat} {h0 : Nat → Option vv_E} {nz : Nat × Nat} (hG : vv_gok G) {k66 : Int32 → Int32 → Int32 → Int32 → Int32 → Int32 → tw_T → Option (Int32 × tw_T)} (hk66 : ∀ {x1 : Int32} {x2 : Int32} {x3 : Int32} {x4 : Int32} {x5 : Int32} {x6 : Int32} {T : tw_T} {r : Int32 × tw_T}, k66 x1 x2 x3 x4 x5 x6 T = some r → vv_V l G MX4_stop (d + 2) 66 [(0, .ref o), (1, .int x1), (2, .int x2), (3, .int x3), (4, .int x4), (5, .int x5), (6, .int x6)] [] (tp o h0 T, nz) (.inl (some (.int r.1)), (tp o h0 r.2, nz))) {x1 : Int32} {x2 : Int32} {x3 : Int32} {x4 : Int32} {x5 : Int32} {x6 : Int32} {T : tw_T} {r : Int32 × tw_T} (h : B_stop_66 k66 x1 x2 x3 x4 x5 x6 T = some r) : vv_V l G MX4_stop (d + 2) 66 [(0, .ref o), (1, .int x1), (2, .int x2), (3, .int x3), (4, .int x4), (5, .int x5), (6, .int x6)] [] (tp o h0 T, nz) (.inl (some (.int r.1)), (tp o h0 r.2, nz)) := by
  unfold B_stop_66 at h
  refine vv_iload dX4_stop_66 6 rfl ?_
  refine vv_iload_n dX4_stop_68 rfl 3 rfl ?_
  refine vv_icmp_gt (tgt := 208) dX4_stop_69 (by decide) (fun c1 => ?_) (fun c1 => ?_)
  · rw [if_pos c1] at h
    refine vv_iload dX4_stop_208 4 rfl ?_
    refine vv_if_ne (tgt := 227) dX4_stop_210 (by decide) (fun c2 => ?_) (fun c2 => ?_)
    · rw [if_neg c2] at h
      refine vv_iload dX4_stop_227 5 rfl ?_
      refine vv_if_eq (tgt := 236) dX4_stop_229 (by decide) (fun c3 => ?_) (fun c3 => ?_)
      · rw [if_pos c3] at h
        refine vv_iconst (v := (nI 0)) dX4_stop_236 (by decide) ?_
        refine vv_sub (lv' := [(0, .ref o)]) [0] rfl ?_
        exact v_stop_237 hG h
      · rw [if_neg c3] at h
        refine vv_iconst (v := (nI 1)) dX4_stop_232 (by decide) ?_
        refine vv_goto (tgt := 237) dX4_stop_233 (by decide) ?_
        refine vv_sub (lv' := [(0, .ref o)]) [0] rfl ?_
        exact v_stop_237 hG h
    · rw [if_pos c2] at h
      refine vv_aload_n dX4_stop_213 rfl 0 rfl ?_
      refine tw_get (fl_X4_96 hG) (k := 51) rfl dX4_stop_214 ?_
      refine vv_bipush (v := (nI 30)) dX4_stop_217 (by decide) ?_
      refine vv_iload_n dX4_stop_219 rfl 3 rfl ?_
      refine vv_imul dX4_stop_220 ?_
      refine vv_iload_n dX4_stop_221 rfl 1 rfl ?_
      refine vv_iadd dX4_stop_222 ?_
      obtain ⟨v4, iv4, ev4, h⟩ := rd_o h
      refine tw_ald 27 (by decide) rfl iv4 ev4 dX4_stop_223 ?_
      refine vv_goto (tgt := 237) dX4_stop_224 (by decide) ?_
      refine vv_sub (lv' := [(0, .ref o)]) [0] rfl ?_
      exact v_stop_237 hG h
  · rw [if_neg c1] at h
    refine vv_iconst (v := (nI 0)) dX4_stop_72 (by decide) ?_
    refine vv_istore (lv' := [(0, .ref o), (1, .int x1), (2, .int x2), (3, .int x3), (4, .int x4), (5, .int x5), (6, .int x6), (7, .int (nI 0))]) dX4_stop_73 (by decide) [1, 2, 3, 4, 5, 6, 7, 0] rfl ?_
    exact v_stop_75 hG hk66 NN h
theorem v_stop_66 {l : Launch} {G : vv_G} {d : Nat} {o : Nat} {h0 : Nat → Option vv_E} {nz : Nat × Nat} (hG : vv_gok G) : ∀ (n : Nat) {x1 : Int32} {x2 : Int32} {x3 : Int32} {x4 : Int32} {x5 : Int32} {x6 : Int32} {T : tw_T} {r : Int32 × tw_T}, J_stop_66 n x1 x2 x3 x4 x5 x6 T = some r → vv_V l G MX4_stop (d + 2) 66 [(0, .ref o), (1, .int x1), (2, .int x2), (3, .int x3), (4, .int x4), (5, .int x5), (6, .int x6)] [] (tp o h0 T, nz) (.inl (some (.int r.1)), (tp o h0 r.2, nz)) := by
  intro n
  induction n with
  | zero => intro _ _ _ _ _ _ _ _ h; cases h
  | succ n ih => intro _ _ _ _ _ _ _ _ h; exact vb_stop_66 hG ih h
def J_stop_51 (s1 : Int32) (x1 : Int32) (x2 : Int32) (x3 : Int32) (x4 : Int32) (T : tw_T) : Option (Int32 × tw_T) := (J_right s1 (nI 2) T).bind fun r1 => if r1.1 = 0 then (J_stop_58 r1.2) else (J_stop_66 NN x1 x2 x3 x4 (nI 0) (nI 0) r1.2)
theorem v_stop_51 {l : Launch} {G : vv_G} {d : Nat} {o : Nat} {h0 : Nat → Option vv_E} {nz : Nat × Nat} (hG : vv_gok G) {s1 : Int32} {x1 : Int32} {x2 : Int32} {x3 : Int32} {x4 : Int32} {T : tw_T} {r : Int32 × tw_T} (h : J_stop_51 s1 x1 x2 x3 x4 T = some r) : vv_V l G MX4_stop (d + 2) 51 [(0, .ref o), (1, .int x1), (2, .int x2), (3, .int x3), (4, .int x4)] [.int s1, .ref o] (tp o h0 T, nz) (.inl (some (.int r.1)), (tp o h0 r.2, nz)) := by
  unfold J_stop_51 at h
  refine vv_iconst (v := (nI 2)) dX4_stop_51 (by decide) ?_
  obtain ⟨r1, er1, h⟩ := bd_o h
  refine vv_callV ok_X4_right q1773 (m_right hG er1 (d + 1)) rfl (by omega) ⟨_, _, _, _, _, tp_o, by rw [hG.1]; rfl⟩ rfl rfl (Nat.le_of_ble_eq_true rfl) dX4_stop_52 ?_
  refine vv_if_ne (tgt := 60) dX4_stop_55 (by decide) (fun c2 => ?_) (fun c2 => ?_)
  · rw [if_neg c2] at h
    refine vv_iconst (v := (nI 0)) dX4_stop_60 (by decide) ?_
    refine vv_istore (lv' := [(0, .ref o), (1, .int x1), (2, .int x2), (3, .int x3), (4, .int x4), (5, .int (nI 0))]) dX4_stop_61 (by decide) [1, 2, 3, 4, 5, 0] rfl ?_
    refine vv_iconst (v := (nI 0)) dX4_stop_63 (by decide) ?_
    refine vv_istore (lv' := [(0, .ref o), (1, .int x1), (2, .int x2), (3, .int x3), (4, .int x4), (5, .int (nI 0)), (6, .int (nI 0))]) dX4_stop_64 (by decide) [1, 2, 3, 4, 5, 6, 0] rfl ?_
    exact v_stop_66 hG NN h
  · rw [if_pos c2] at h
    refine vv_sub (lv' := [(0, .ref o)]) [0] rfl ?_
    exact v_stop_58 hG h
def J_stop_50 (x1 : Int32) (x2 : Int32) (x3 : Int32) (x4 : Int32) (T : tw_T) : Option (Int32 × tw_T) := J_stop_51 (nI 0) x1 x2 x3 x4 T
theorem v_stop_50 {l : Launch} {G : vv_G} {d : Nat} {o : Nat} {h0 : Nat → Option vv_E} {nz : Nat × Nat} (hG : vv_gok G) {x1 : Int32} {x2 : Int32} {x3 : Int32} {x4 : Int32} {T : tw_T} {r : Int32 × tw_T} (h : J_stop_50 x1 x2 x3 x4 T = some r) : vv_V l G MX4_stop (d + 2) 50 [(0, .ref o), (1, .int x1), (2, .int x2), (3, .int x3), (4, .int x4)] [.ref o] (tp o h0 T, nz) (.inl (some (.int r.1)), (tp o h0 r.2, nz)) := by
  unfold J_stop_50 at h
  refine vv_iconst (v := (nI 0)) dX4_stop_50 (by decide) ?_
  exact v_stop_51 hG h
def J_stop (x1 : Int32) (x2 : Int32) (x3 : Int32) (x4 : Int32) (T : tw_T) : Option (Int32 × tw_T) := (some (tw_F T 0 (nI 0))).bind fun T1 => (J_isWhat x4 (nI 1) T1).bind fun r2 => if r2.1 = 0 then (J_stop_58 r2.2) else ((J_within x1 (nI 0) (nI 20)).bind fun r4 => if r4 = 0 then (J_stop_50 x1 x2 x3 x4 r2.2) else ((J_within x2 (nI 0) (nI 12)).bind fun r6 => if r6 = 0 then (J_stop_50 x1 x2 x3 x4 r2.2) else ((J_within x3 (nI 1) (nI 7)).bind fun r8 => if r8 = 0 then (J_stop_50 x1 x2 x3 x4 r2.2) else (J_stop_51 (nI 1) x1 x2 x3 x4 r2.2))))
theorem v_stop_0 {l : Launch} {G : vv_G} {d : Nat} {o : Nat} {h0 : Nat → Option vv_E} {nz : Nat × Nat} (hG : vv_gok G) {x1 : Int32} {x2 : Int32} {x3 : Int32} {x4 : Int32} {T : tw_T} {r : Int32 × tw_T} (h : J_stop x1 x2 x3 x4 T = some r) : vv_V l G MX4_stop (d + 2) 0 [(0, .ref o), (1, .int x1), (2, .int x2), (3, .int x3), (4, .int x4)] [] (tp o h0 T, nz) (.inl (some (.int r.1)), (tp o h0 r.2, nz)) := by
  unfold J_stop at h
  refine vv_aload_n dX4_stop_0 rfl 0 rfl ?_
  refine vv_iconst (v := (nI 0)) dX4_stop_1 (by decide) ?_
  obtain ⟨T1, eT1, h⟩ := bd_s h
  refine tw_put (T1 := T1) (pt_X4_117 hG) hG rfl rfl rfl (by decide) (by rw [eT1]; exact tw_set0 _ _ _) (by rw [eT1]; rfl) dX4_stop_2 ?_
  refine vv_aload_n dX4_stop_5 rfl 0 rfl ?_
  refine vv_iload dX4_stop_6 4 rfl ?_
  refine vv_iconst (v := (nI 1)) dX4_stop_8 (by decide) ?_
  obtain ⟨r2, er2, h⟩ := bd_o h
  refine vv_callV ok_X4_isWhat q1939 (m_isWhat hG er2 (d + 0)) rfl (by omega) ⟨_, _, _, _, _, tp_o, by rw [hG.1]; rfl⟩ rfl rfl (Nat.le_of_ble_eq_true rfl) dX4_stop_9 ?_
  refine vv_if_eq (tgt := 58) dX4_stop_12 (by decide) (fun c3 => ?_) (fun c3 => ?_)
  · rw [if_pos c3] at h
    refine vv_sub (lv' := [(0, .ref o)]) [0] rfl ?_
    exact v_stop_58 hG h
  · rw [if_neg c3] at h
    refine vv_aload_n dX4_stop_15 rfl 0 rfl ?_
    refine vv_iload_n dX4_stop_16 rfl 1 rfl ?_
    refine vv_iconst (v := (nI 0)) dX4_stop_17 (by decide) ?_
    refine vv_bipush (v := (nI 20)) dX4_stop_18 (by decide) ?_
    obtain ⟨r4, er4, h⟩ := bd_o h
    refine vv_callS ok_X4_within q1908 (m_within hG er4 (d + 1)) rfl (by omega) rfl rfl (Nat.le_of_ble_eq_true rfl) dX4_stop_20 ?_
    refine vv_if_eq (tgt := 50) dX4_stop_23 (by decide) (fun c5 => ?_) (fun c5 => ?_)
    · rw [if_pos c5] at h
      exact v_stop_50 hG h
    · rw [if_neg c5] at h
      refine vv_iload_n dX4_stop_26 rfl 2 rfl ?_
      refine vv_iconst (v := (nI 0)) dX4_stop_27 (by decide) ?_
      refine vv_bipush (v := (nI 12)) dX4_stop_28 (by decide) ?_
      obtain ⟨r6, er6, h⟩ := bd_o h
      refine vv_callS ok_X4_within q1908 (m_within hG er6 (d + 1)) rfl (by omega) rfl rfl (Nat.le_of_ble_eq_true rfl) dX4_stop_30 ?_
      refine vv_if_eq (tgt := 50) dX4_stop_33 (by decide) (fun c7 => ?_) (fun c7 => ?_)
      · rw [if_pos c7] at h
        exact v_stop_50 hG h
      · rw [if_neg c7] at h
        refine vv_iload_n dX4_stop_36 rfl 3 rfl ?_
        refine vv_iconst (v := (nI 1)) dX4_stop_37 (by decide) ?_
        refine vv_bipush (v := (nI 7)) dX4_stop_38 (by decide) ?_
        obtain ⟨r8, er8, h⟩ := bd_o h
        refine vv_callS ok_X4_within q1908 (m_within hG er8 (d + 1)) rfl (by omega) rfl rfl (Nat.le_of_ble_eq_true rfl) dX4_stop_40 ?_
        refine vv_if_eq (tgt := 50) dX4_stop_43 (by decide) (fun c9 => ?_) (fun c9 => ?_)
        · rw [if_pos c9] at h
          exact v_stop_50 hG h
        · rw [if_neg c9] at h
          refine vv_iconst (v := (nI 1)) dX4_stop_46 (by decide) ?_
          refine vv_goto (tgt := 51) dX4_stop_47 (by decide) ?_
          exact v_stop_51 hG h
theorem m_stop {l : Launch} {G : vv_G} {o : Nat} {h0 : Nat → Option vv_E} {nz : Nat × Nat} (hG : vv_gok G) {x1 : Int32} {x2 : Int32} {x3 : Int32} {x4 : Int32} {T : tw_T} {r : Int32 × tw_T} (h : J_stop x1 x2 x3 x4 T = some r) (d : Nat) : vv_Met l G MX4_stop (d + 2) [.ref o, .int x1, .int x2, .int x3, .int x4] (tp o h0 T, nz) (.inl (some (.int r.1)), (tp o h0 r.2, nz)) := vv_head (by decide +kernel) rfl (Nat.le_of_ble_eq_true rfl) rfl (v_stop_0 hG h)
/-! see -/
def J_see_45 (T : tw_T) : Option (Int32 × tw_T) := (J_refuses (nI 2) T).bind fun r1 => some (r1.1, r1.2)
theorem v_see_45 {l : Launch} {G : vv_G} {d : Nat} {o : Nat} {h0 : Nat → Option vv_E} {nz : Nat × Nat} (hG : vv_gok G) {T : tw_T} {r : Int32 × tw_T} (h : J_see_45 T = some r) : vv_V l G MX4_see (d + 2) 45 [(0, .ref o)] [] (tp o h0 T, nz) (.inl (some (.int r.1)), (tp o h0 r.2, nz)) := by
  unfold J_see_45 at h
  refine vv_aload_n dX4_see_45 rfl 0 rfl ?_
  refine vv_iconst (v := (nI 2)) dX4_see_46 (by decide) ?_
  obtain ⟨r1, er1, h⟩ := bd_o h
  refine vv_callV ok_X4_refuses q1976 (m_refuses hG er1 (d + 1)) rfl (by omega) ⟨_, _, _, _, _, tp_o, by rw [hG.1]; rfl⟩ rfl rfl (Nat.le_of_ble_eq_true rfl) dX4_see_47 ?_
  cases h
  exact vv_iret rfl dX4_see_50
def J_see (x1 : Int32) (x2 : Int32) (x3 : Int32) (T : tw_T) : Option (Int32 × tw_T) := (some (tw_F T 0 (nI 0))).bind fun T1 => (J_isTown x1 T1).bind fun r2 => if r2.1 = 0 then (some ((nI 0), r2.2)) else (if (r2.2.1 52) = (nI 8) then (J_see_45 r2.2) else ((J_within x2 (nI 0) (nI 30)).bind fun r5 => if r5 = 0 then (J_see_45 r2.2) else ((J_within x3 (nI 0) (nI 9999)).bind fun r7 => if r7 = 0 then (J_see_45 r2.2) else ((stA r2.2 28 24 ((nI 3) * (r2.2.1 52)) x1).bind fun T9 => (stA T9 28 24 (((nI 3) * (T9.1 52)) + (nI 1)) x2).bind fun T10 => (stA T10 28 24 (((nI 3) * (T10.1 52)) + (nI 2)) x3).bind fun T11 => (some (tw_F T11 52 ((T11.1 52) + (nI 1)))).bind fun T12 => some ((T12.1 52), T12)))))
theorem v_see_0 {l : Launch} {G : vv_G} {d : Nat} {o : Nat} {h0 : Nat → Option vv_E} {nz : Nat × Nat} (hG : vv_gok G) {x1 : Int32} {x2 : Int32} {x3 : Int32} {T : tw_T} {r : Int32 × tw_T} (h : J_see x1 x2 x3 T = some r) : vv_V l G MX4_see (d + 2) 0 [(0, .ref o), (1, .int x1), (2, .int x2), (3, .int x3)] [] (tp o h0 T, nz) (.inl (some (.int r.1)), (tp o h0 r.2, nz)) := by
  unfold J_see at h
  refine vv_aload_n dX4_see_0 rfl 0 rfl ?_
  refine vv_iconst (v := (nI 0)) dX4_see_1 (by decide) ?_
  obtain ⟨T1, eT1, h⟩ := bd_s h
  refine tw_put (T1 := T1) (pt_X4_117 hG) hG rfl rfl rfl (by decide) (by rw [eT1]; exact tw_set0 _ _ _) (by rw [eT1]; rfl) dX4_see_2 ?_
  refine vv_aload_n dX4_see_5 rfl 0 rfl ?_
  refine vv_iload_n dX4_see_6 rfl 1 rfl ?_
  obtain ⟨r2, er2, h⟩ := bd_o h
  refine vv_callV ok_X4_isTown q1935 (m_isTown hG er2 (d + 0)) rfl (by omega) ⟨_, _, _, _, _, tp_o, by rw [hG.1]; rfl⟩ rfl rfl (Nat.le_of_ble_eq_true rfl) dX4_see_7 ?_
  refine vv_if_ne (tgt := 15) dX4_see_10 (by decide) (fun c3 => ?_) (fun c3 => ?_)
  · rw [if_neg c3] at h
    refine vv_aload_n dX4_see_15 rfl 0 rfl ?_
    refine tw_get (fl_X4_297 hG) (k := 52) rfl dX4_see_16 ?_
    refine vv_bipush (v := (nI 8)) dX4_see_19 (by decide) ?_
    refine vv_icmp_eq (tgt := 45) dX4_see_21 (by decide) (fun c4 => ?_) (fun c4 => ?_)
    · rw [if_pos c4] at h
      refine vv_sub (lv' := [(0, .ref o)]) [0] rfl ?_
      exact v_see_45 hG h
    · rw [if_neg c4] at h
      refine vv_iload_n dX4_see_24 rfl 2 rfl ?_
      refine vv_iconst (v := (nI 0)) dX4_see_25 (by decide) ?_
      refine vv_bipush (v := (nI 30)) dX4_see_26 (by decide) ?_
      obtain ⟨r5, er5, h⟩ := bd_o h
      refine vv_callS ok_X4_within q1908 (m_within hG er5 (d + 1)) rfl (by omega) rfl rfl (Nat.le_of_ble_eq_true rfl) dX4_see_28 ?_
      refine vv_if_eq (tgt := 45) dX4_see_31 (by decide) (fun c6 => ?_) (fun c6 => ?_)
      · rw [if_pos c6] at h
        refine vv_sub (lv' := [(0, .ref o)]) [0] rfl ?_
        exact v_see_45 hG h
      · rw [if_neg c6] at h
        refine vv_iload_n dX4_see_34 rfl 3 rfl ?_
        refine vv_iconst (v := (nI 0)) dX4_see_35 (by decide) ?_
        refine vv_sipush (v := (nI 9999)) dX4_see_36 (by decide) ?_
        obtain ⟨r7, er7, h⟩ := bd_o h
        refine vv_callS ok_X4_within q1908 (m_within hG er7 (d + 1)) rfl (by omega) rfl rfl (Nat.le_of_ble_eq_true rfl) dX4_see_39 ?_
        refine vv_if_ne (tgt := 51) dX4_see_42 (by decide) (fun c8 => ?_) (fun c8 => ?_)
        · rw [if_neg c8] at h
          refine vv_aload_n dX4_see_51 rfl 0 rfl ?_
          refine tw_get (fl_X4_99 hG) (k := 53) rfl dX4_see_52 ?_
          refine vv_iconst (v := (nI 3)) dX4_see_55 (by decide) ?_
          refine vv_aload_n dX4_see_56 rfl 0 rfl ?_
          refine tw_get (fl_X4_297 hG) (k := 52) rfl dX4_see_57 ?_
          refine vv_imul dX4_see_60 ?_
          refine vv_iload_n dX4_see_61 rfl 1 rfl ?_
          obtain ⟨T9, iT9, eT9, h⟩ := st_o h
          refine tw_ast 28 (by decide) rfl iT9 eT9 dX4_see_62 ?_
          refine vv_aload_n dX4_see_63 rfl 0 rfl ?_
          refine tw_get (fl_X4_99 hG) (k := 53) rfl dX4_see_64 ?_
          refine vv_iconst (v := (nI 3)) dX4_see_67 (by decide) ?_
          refine vv_aload_n dX4_see_68 rfl 0 rfl ?_
          refine tw_get (fl_X4_297 hG) (k := 52) rfl dX4_see_69 ?_
          refine vv_imul dX4_see_72 ?_
          refine vv_iconst (v := (nI 1)) dX4_see_73 (by decide) ?_
          refine vv_iadd dX4_see_74 ?_
          refine vv_iload_n dX4_see_75 rfl 2 rfl ?_
          obtain ⟨T10, iT10, eT10, h⟩ := st_o h
          refine tw_ast 28 (by decide) rfl iT10 eT10 dX4_see_76 ?_
          refine vv_aload_n dX4_see_77 rfl 0 rfl ?_
          refine tw_get (fl_X4_99 hG) (k := 53) rfl dX4_see_78 ?_
          refine vv_iconst (v := (nI 3)) dX4_see_81 (by decide) ?_
          refine vv_aload_n dX4_see_82 rfl 0 rfl ?_
          refine tw_get (fl_X4_297 hG) (k := 52) rfl dX4_see_83 ?_
          refine vv_imul dX4_see_86 ?_
          refine vv_iconst (v := (nI 2)) dX4_see_87 (by decide) ?_
          refine vv_iadd dX4_see_88 ?_
          refine vv_iload_n dX4_see_89 rfl 3 rfl ?_
          obtain ⟨T11, iT11, eT11, h⟩ := st_o h
          refine tw_ast 28 (by decide) rfl iT11 eT11 dX4_see_90 ?_
          refine vv_aload_n dX4_see_91 rfl 0 rfl ?_
          refine vv_dup dX4_see_92 rfl ?_
          refine tw_get (fl_X4_297 hG) (k := 52) rfl dX4_see_93 ?_
          refine vv_iconst (v := (nI 1)) dX4_see_96 (by decide) ?_
          refine vv_iadd dX4_see_97 ?_
          obtain ⟨T12, eT12, h⟩ := bd_s h
          refine tw_put (T1 := T12) (pt_X4_297 hG) hG rfl rfl rfl (by decide) (by rw [eT12]; exact tw_set52 _ _ _) (by rw [eT12]; rfl) dX4_see_98 ?_
          refine vv_aload_n dX4_see_101 rfl 0 rfl ?_
          refine tw_get (fl_X4_297 hG) (k := 52) rfl dX4_see_102 ?_
          cases h
          exact vv_iret rfl dX4_see_105
        · rw [if_pos c8] at h
          refine vv_sub (lv' := [(0, .ref o)]) [0] rfl ?_
          exact v_see_45 hG h
  · rw [if_pos c3] at h
    refine vv_iconst (v := (nI 0)) dX4_see_13 (by decide) ?_
    cases h
    exact vv_iret rfl dX4_see_14
theorem m_see {l : Launch} {G : vv_G} {o : Nat} {h0 : Nat → Option vv_E} {nz : Nat × Nat} (hG : vv_gok G) {x1 : Int32} {x2 : Int32} {x3 : Int32} {T : tw_T} {r : Int32 × tw_T} (h : J_see x1 x2 x3 T = some r) (d : Nat) : vv_Met l G MX4_see (d + 2) [.ref o, .int x1, .int x2, .int x3] (tp o h0 T, nz) (.inl (some (.int r.1)), (tp o h0 r.2, nz)) := vv_head (by decide +kernel) rfl (Nat.le_of_ble_eq_true rfl) rfl (v_see_0 hG h)
/-! forget -/
def J_forget (T : tw_T) : Option tw_T := (some (tw_F T 0 (nI 0))).bind fun T1 => (some (tw_F T1 52 (nI 0))).bind fun T2 => some T2
theorem v_forget_0 {l : Launch} {G : vv_G} {d : Nat} {o : Nat} {h0 : Nat → Option vv_E} {nz : Nat × Nat} (hG : vv_gok G) {T : tw_T} {r : tw_T} (h : J_forget T = some r) : vv_V l G MX4_forget (d + 0) 0 [(0, .ref o)] [] (tp o h0 T, nz) (.inl none, (tp o h0 r, nz)) := by
  unfold J_forget at h
  refine vv_aload_n dX4_forget_0 rfl 0 rfl ?_
  refine vv_iconst (v := (nI 0)) dX4_forget_1 (by decide) ?_
  obtain ⟨T1, eT1, h⟩ := bd_s h
  refine tw_put (T1 := T1) (pt_X4_117 hG) hG rfl rfl rfl (by decide) (by rw [eT1]; exact tw_set0 _ _ _) (by rw [eT1]; rfl) dX4_forget_2 ?_
  refine vv_aload_n dX4_forget_5 rfl 0 rfl ?_
  refine vv_iconst (v := (nI 0)) dX4_forget_6 (by decide) ?_
  obtain ⟨T2, eT2, h⟩ := bd_s h
  refine tw_put (T1 := T2) (pt_X4_297 hG) hG rfl rfl rfl (by decide) (by rw [eT2]; exact tw_set52 _ _ _) (by rw [eT2]; rfl) dX4_forget_7 ?_
  cases h
  exact vv_vret rfl dX4_forget_10
theorem m_forget {l : Launch} {G : vv_G} {o : Nat} {h0 : Nat → Option vv_E} {nz : Nat × Nat} (hG : vv_gok G) {T : tw_T} {r : tw_T} (h : J_forget T = some r) (d : Nat) : vv_Met l G MX4_forget (d + 0) [.ref o] (tp o h0 T, nz) (.inl none, (tp o h0 r, nz)) := vv_head (by decide +kernel) rfl (Nat.le_of_ble_eq_true rfl) rfl (v_forget_0 hG h)
/-! isSeen -/
def B_isSeen_83 (k83 : Int32 → tw_T → Option (Int32 × tw_T)) (x3 : Int32) (T : tw_T) : Option (Int32 × tw_T) := if (T.1 52) ≤ x3 then (some ((nI 1), T)) else ((rdI 24 (T.2.2 28) (((nI 3) * x3) + (nI 1))).bind fun v2 => (rdI 24 (T.2.2 28) ((nI 3) * x3)).bind fun v3 => (rdI 248 (T.2.2 29) (((nI 8) * v2) + v3)).bind fun v4 => (rdI 24 (T.2.2 28) (((nI 3) * x3) + (nI 2))).bind fun v5 => if v4 = v5 then (k83 (x3 + (nI 1)) T) else (some ((nI 0), T)))
def J_isSeen_83 : Nat → Int32 → tw_T → Option (Int32 × tw_T)
  | 0, _, _ => none
  | n + 1, x3, T => B_isSeen_83 (J_isSeen_83 n) x3 T
theorem vb_isSeen_83 {l : Launch} {G : vv_G} {d : Nat} {o : Nat} {h0 : Nat → Option vv_E} {nz : Nat × Nat} (hG : vv_gok G) {k83 : Int32 → tw_T → Option (Int32 × tw_T)} (hk83 : ∀ {x3 : Int32} {T : tw_T} {r : Int32 × tw_T}, k83 x3 T = some r → vv_V l G MX4_isSeen (d + 4) 83 [(0, .ref o), (3, .int x3)] [] (tp o h0 T, nz) (.inl (some (.int r.1)), (tp o h0 r.2, nz))) {x3 : Int32} {T : tw_T} {r : Int32 × tw_T} (h : B_isSeen_83 k83 x3 T = some r) : vv_V l G MX4_isSeen (d + 4) 83 [(0, .ref o), (3, .int x3)] [] (tp o h0 T, nz) (.inl (some (.int r.1)), (tp o h0 r.2, nz)) := by
  unfold B_isSeen_83 at h
  refine vv_iload_n dX4_isSeen_83 rfl 1 rfl ?_
  refine vv_aload_n dX4_isSeen_84 rfl 0 rfl ?_
  refine tw_get (fl_X4_297 hG) (k := 52) rfl dX4_isSeen_85 ?_
  refine vv_icmp_ge (tgt := 139) dX4_isSeen_88 (by decide) (fun c1 => ?_) (fun c1 => ?_)
  · rw [if_pos c1] at h
    refine vv_iconst (v := (nI 1)) dX4_isSeen_139 (by decide) ?_
    cases h
    exact vv_zret rfl (by decide) dX4_isSeen_140
  · rw [if_neg c1] at h
    refine vv_aload_n dX4_isSeen_91 rfl 0 rfl ?_
    refine tw_get (fl_X4_102 hG) (k := 54) rfl dX4_isSeen_92 ?_
    refine vv_bipush (v := (nI 8)) dX4_isSeen_95 (by decide) ?_
    refine vv_aload_n dX4_isSeen_97 rfl 0 rfl ?_
    refine tw_get (fl_X4_99 hG) (k := 53) rfl dX4_isSeen_98 ?_
    refine vv_iconst (v := (nI 3)) dX4_isSeen_101 (by decide) ?_
    refine vv_iload_n dX4_isSeen_102 rfl 1 rfl ?_
    refine vv_imul dX4_isSeen_103 ?_
    refine vv_iconst (v := (nI 1)) dX4_isSeen_104 (by decide) ?_
    refine vv_iadd dX4_isSeen_105 ?_
    obtain ⟨v2, iv2, ev2, h⟩ := rd_o h
    refine tw_ald 28 (by decide) rfl iv2 ev2 dX4_isSeen_106 ?_
    refine vv_imul dX4_isSeen_107 ?_
    refine vv_aload_n dX4_isSeen_108 rfl 0 rfl ?_
    refine tw_get (fl_X4_99 hG) (k := 53) rfl dX4_isSeen_109 ?_
    refine vv_iconst (v := (nI 3)) dX4_isSeen_112 (by decide) ?_
    refine vv_iload_n dX4_isSeen_113 rfl 1 rfl ?_
    refine vv_imul dX4_isSeen_114 ?_
    obtain ⟨v3, iv3, ev3, h⟩ := rd_o h
    refine tw_ald 28 (by decide) rfl iv3 ev3 dX4_isSeen_115 ?_
    refine vv_iadd dX4_isSeen_116 ?_
    obtain ⟨v4, iv4, ev4, h⟩ := rd_o h
    refine tw_ald 29 (by decide) rfl iv4 ev4 dX4_isSeen_117 ?_
    refine vv_aload_n dX4_isSeen_118 rfl 0 rfl ?_
    refine tw_get (fl_X4_99 hG) (k := 53) rfl dX4_isSeen_119 ?_
    refine vv_iconst (v := (nI 3)) dX4_isSeen_122 (by decide) ?_
    refine vv_iload_n dX4_isSeen_123 rfl 1 rfl ?_
    refine vv_imul dX4_isSeen_124 ?_
    refine vv_iconst (v := (nI 2)) dX4_isSeen_125 (by decide) ?_
    refine vv_iadd dX4_isSeen_126 ?_
    obtain ⟨v5, iv5, ev5, h⟩ := rd_o h
    refine tw_ald 28 (by decide) rfl iv5 ev5 dX4_isSeen_127 ?_
    refine vv_icmp_eq (tgt := 133) dX4_isSeen_128 (by decide) (fun c6 => ?_) (fun c6 => ?_)
    · rw [if_pos c6] at h
      refine vv_iinc (v := (x3 + (nI 1))) (lv' := [(0, .ref o), (3, .int (x3 + (nI 1)))]) dX4_isSeen_133 1 rfl rfl (by decide) [1, 0] rfl ?_
      refine vv_goto (tgt := 83) dX4_isSeen_136 (by decide) ?_
      exact hk83 h
    · rw [if_neg c6] at h
      refine vv_iconst (v := (nI 0)) dX4_isSeen_131 (by decide) ?_
      cases h
      exact vv_zret rfl (by decide) dX4_isSeen_132
theorem v_isSeen_83 {l : Launch} {G : vv_G} {d : Nat} {o : Nat} {h0 : Nat → Option vv_E} {nz : Nat × Nat} (hG : vv_gok G) : ∀ (n : Nat) {x3 : Int32} {T : tw_T} {r : Int32 × tw_T}, J_isSeen_83 n x3 T = some r → vv_V l G MX4_isSeen (d + 4) 83 [(0, .ref o), (3, .int x3)] [] (tp o h0 T, nz) (.inl (some (.int r.1)), (tp o h0 r.2, nz)) := by
  intro n
  induction n with
  | zero => intro _ _ _ h; cases h
  | succ n ih => intro _ _ _ h; exact vb_isSeen_83 hG ih h
def B_isSeen_32 (k6 : Int32 → Int32 → Int32 → tw_T → Option (Int32 × tw_T)) (k32 : Int32 → Int32 → Int32 → Int32 → tw_T → Option (Int32 × tw_T)) (x1 : Int32) (x2 : Int32) (x3 : Int32) (x4 : Int32) (T : tw_T) : Option (Int32 × tw_T) := if (T.1 1) ≤ x4 then ((J_dayGoes (nI 85) T).bind fun r2 => k6 x1 x2 (x3 + (nI 1)) r2) else ((rdI 170 (T.2.2 20) ((nI 86) + x4)).bind fun v3 => (stA T 29 248 (((nI 8) * x3) + x4) v3).bind fun T4 => k32 x1 x2 x3 (x4 + (nI 1)) T4)
def J_isSeen_32 (k6 : Int32 → Int32 → Int32 → tw_T → Option (Int32 × tw_T)) : Nat → Int32 → Int32 → Int32 → Int32 → tw_T → Option (Int32 × tw_T)
  | 0, _, _, _, _, _ => none
  | n + 1, x1, x2, x3, x4, T => B_isSeen_32 k6 (J_isSeen_32 k6 n) x1 x2 x3 x4 T
theorem vb_isSeen_32 {l : Launch} {G : vv_G} {d : Nat} {o : Nat} {h0 : Nat → Option vv_E} {nz : Nat × Nat} (hG : vv_gok G) {k6 : Int32 → Int32 → Int32 → tw_T → Option (Int32 × tw_T)} (hk6 : ∀ {x1 : Int32} {x2 : Int32} {x3 : Int32} {T : tw_T} {r : Int32 × tw_T}, k6 x1 x2 x3 T = some r → vv_V l G MX4_isSeen (d + 4) 6 [(0, .ref o), (1, .int x1), (2, .int x2), (3, .int x3)] [] (tp o h0 T, nz) (.inl (some (.int r.1)), (tp o h0 r.2, nz))) {k32 : Int32 → Int32 → Int32 → Int32 → tw_T → Option (Int32 × tw_T)} (hk32 : ∀ {x1 : Int32} {x2 : Int32} {x3 : Int32} {x4 : Int32} {T : tw_T} {r : Int32 × tw_T}, k32 x1 x2 x3 x4 T = some r → vv_V l G MX4_isSeen (d + 4) 32 [(0, .ref o), (1, .int x1), (2, .int x2), (3, .int x3), (4, .int x4)] [] (tp o h0 T, nz) (.inl (some (.int r.1)), (tp o h0 r.2, nz))) {x1 : Int32} {x2 : Int32} {x3 : Int32} {x4 : Int32} {T : tw_T} {r : Int32 × tw_T} (h : B_isSeen_32 k6 k32 x1 x2 x3 x4 T = some r) : vv_V l G MX4_isSeen (d + 4) 32 [(0, .ref o), (1, .int x1), (2, .int x2), (3, .int x3), (4, .int x4)] [] (tp o h0 T, nz) (.inl (some (.int r.1)), (tp o h0 r.2, nz)) := by
  unfold B_isSeen_32 at h
  refine vv_iload dX4_isSeen_32 4 rfl ?_
  refine vv_aload_n dX4_isSeen_34 rfl 0 rfl ?_
  refine tw_get (fl_X4_281 hG) (k := 1) rfl dX4_isSeen_35 ?_
  refine vv_icmp_ge (tgt := 69) dX4_isSeen_38 (by decide) (fun c1 => ?_) (fun c1 => ?_)
  · rw [if_pos c1] at h
    refine vv_aload_n dX4_isSeen_69 rfl 0 rfl ?_
    refine vv_bipush (v := (nI 85)) dX4_isSeen_70 (by decide) ?_
    obtain ⟨r2, er2, h⟩ := bd_o h
    refine vv_callV ok_X4_dayGoes q1984 (m_dayGoes hG er2 (d + 0)) rfl (by omega) ⟨_, _, _, _, _, tp_o, by rw [hG.1]; rfl⟩ rfl rfl (Nat.le_of_ble_eq_true rfl) dX4_isSeen_72 ?_
    refine vv_iinc (v := (x3 + (nI 1))) (lv' := [(0, .ref o), (1, .int x1), (2, .int x2), (3, .int (x3 + (nI 1))), (4, .int x4)]) dX4_isSeen_75 3 rfl rfl (by decide) [1, 2, 3, 0, 4] rfl ?_
    refine vv_goto (tgt := 6) dX4_isSeen_78 (by decide) ?_
    refine vv_sub (lv' := [(0, .ref o), (1, .int x1), (2, .int x2), (3, .int (x3 + (nI 1)))]) [0, 1, 2, 3] rfl ?_
    exact hk6 h
  · rw [if_neg c1] at h
    refine vv_aload_n dX4_isSeen_41 rfl 0 rfl ?_
    refine tw_get (fl_X4_102 hG) (k := 54) rfl dX4_isSeen_42 ?_
    refine vv_bipush (v := (nI 8)) dX4_isSeen_45 (by decide) ?_
    refine vv_iload_n dX4_isSeen_47 rfl 3 rfl ?_
    refine vv_imul dX4_isSeen_48 ?_
    refine vv_iload dX4_isSeen_49 4 rfl ?_
    refine vv_iadd dX4_isSeen_51 ?_
    refine vv_aload_n dX4_isSeen_52 rfl 0 rfl ?_
    refine tw_get (fl_X4_75 hG) (k := 42) rfl dX4_isSeen_53 ?_
    refine vv_bipush (v := (nI 86)) dX4_isSeen_56 (by decide) ?_
    refine vv_iload dX4_isSeen_58 4 rfl ?_
    refine vv_iadd dX4_isSeen_60 ?_
    obtain ⟨v3, iv3, ev3, h⟩ := rd_o h
    refine tw_ald 20 (by decide) rfl iv3 ev3 dX4_isSeen_61 ?_
    obtain ⟨T4, iT4, eT4, h⟩ := st_o h
    refine tw_ast 29 (by decide) rfl iT4 eT4 dX4_isSeen_62 ?_
    refine vv_iinc (v := (x4 + (nI 1))) (lv' := [(0, .ref o), (1, .int x1), (2, .int x2), (3, .int x3), (4, .int (x4 + (nI 1)))]) dX4_isSeen_63 4 rfl rfl (by decide) [1, 2, 3, 4, 0] rfl ?_
    refine vv_goto (tgt := 32) dX4_isSeen_66 (by decide) ?_
    exact hk32 h
theorem v_isSeen_32 {l : Launch} {G : vv_G} {d : Nat} {o : Nat} {h0 : Nat → Option vv_E} {nz : Nat × Nat} (hG : vv_gok G) {k6 : Int32 → Int32 → Int32 → tw_T → Option (Int32 × tw_T)} (hk6 : ∀ {x1 : Int32} {x2 : Int32} {x3 : Int32} {T : tw_T} {r : Int32 × tw_T}, k6 x1 x2 x3 T = some r → vv_V l G MX4_isSeen (d + 4) 6 [(0, .ref o), (1, .int x1), (2, .int x2), (3, .int x3)] [] (tp o h0 T, nz) (.inl (some (.int r.1)), (tp o h0 r.2, nz))) : ∀ (n : Nat) {x1 : Int32} {x2 : Int32} {x3 : Int32} {x4 : Int32} {T : tw_T} {r : Int32 × tw_T}, J_isSeen_32 k6 n x1 x2 x3 x4 T = some r → vv_V l G MX4_isSeen (d + 4) 32 [(0, .ref o), (1, .int x1), (2, .int x2), (3, .int x3), (4, .int x4)] [] (tp o h0 T, nz) (.inl (some (.int r.1)), (tp o h0 r.2, nz)) := by
  intro n
  induction n with
  | zero => intro _ _ _ _ _ _ h; cases h
  | succ n ih => intro _ _ _ _ _ _ h; exact vb_isSeen_32 hG hk6 ih h
def J_isSeen_29 (k6 : Int32 → Int32 → Int32 → tw_T → Option (Int32 × tw_T)) (x1 : Int32) (x2 : Int32) (x3 : Int32) (T : tw_T) : Option (Int32 × tw_T) := J_isSeen_32 k6 NN x1 x2 x3 (nI 0) T
theorem v_isSeen_29 {l : Launch} {G : vv_G} {d : Nat} {o : Nat} {h0 : Nat → Option vv_E} {nz : Nat × Nat} (hG : vv_gok G) {k6 : Int32 → Int32 → Int32 → tw_T → Option (Int32 × tw_T)} (hk6 : ∀ {x1 : Int32} {x2 : Int32} {x3 : Int32} {T : tw_T} {r : Int32 × tw_T}, k6 x1 x2 x3 T = some r → vv_V l G MX4_isSeen (d + 4) 6 [(0, .ref o), (1, .int x1), (2, .int x2), (3, .int x3)] [] (tp o h0 T, nz) (.inl (some (.int r.1)), (tp o h0 r.2, nz))) {x1 : Int32} {x2 : Int32} {x3 : Int32} {T : tw_T} {r : Int32 × tw_T} (h : J_isSeen_29 k6 x1 x2 x3 T = some r) : vv_V l G MX4_isSeen (d + 4) 29 [(0, .ref o), (1, .int x1), (2, .int x2), (3, .int x3)] [] (tp o h0 T, nz) (.inl (some (.int r.1)), (tp o h0 r.2, nz)) := by
  unfold J_isSeen_29 at h
  refine vv_iconst (v := (nI 0)) dX4_isSeen_29 (by decide) ?_
  refine vv_istore (lv' := [(0, .ref o), (1, .int x1), (2, .int x2), (3, .int x3), (4, .int (nI 0))]) dX4_isSeen_30 (by decide) [1, 2, 3, 4, 0] rfl ?_
  exact v_isSeen_32 hG hk6 NN h
def B_isSeen_6 (k6 : Int32 → Int32 → Int32 → tw_T → Option (Int32 × tw_T)) (x1 : Int32) (x2 : Int32) (x3 : Int32) (T : tw_T) : Option (Int32 × tw_T) := if (nI 30) < x3 then (J_isSeen_83 NN (nI 0) T) else (if x1 = (-1) then (J_isSeen_29 k6 x1 x2 x3 T) else (if x3 = x2 then ((J_opens (nI 85) x1 T).bind fun r4 => J_isSeen_29 k6 x1 x2 x3 r4) else (J_isSeen_29 k6 x1 x2 x3 T)))
def J_isSeen_6 : Nat → Int32 → Int32 → Int32 → tw_T → Option (Int32 × tw_T)
  | 0, _, _, _, _ => none
  | n + 1, x1, x2, x3, T => B_isSeen_6 (J_isSeen_6 n) x1 x2 x3 T
theorem vb_isSeen_6 {l : Launch} {G : vv_G} {d : Nat} {o : Nat} {h0 : Nat → Option vv_E} {nz : Nat × Nat} (hG : vv_gok G) {k6 : Int32 → Int32 → Int32 → tw_T → Option (Int32 × tw_T)} (hk6 : ∀ {x1 : Int32} {x2 : Int32} {x3 : Int32} {T : tw_T} {r : Int32 × tw_T}, k6 x1 x2 x3 T = some r → vv_V l G MX4_isSeen (d + 4) 6 [(0, .ref o), (1, .int x1), (2, .int x2), (3, .int x3)] [] (tp o h0 T, nz) (.inl (some (.int r.1)), (tp o h0 r.2, nz))) {x1 : Int32} {x2 : Int32} {x3 : Int32} {T : tw_T} {r : Int32 × tw_T} (h : B_isSeen_6 k6 x1 x2 x3 T = some r) : vv_V l G MX4_isSeen (d + 4) 6 [(0, .ref o), (1, .int x1), (2, .int x2), (3, .int x3)] [] (tp o h0 T, nz) (.inl (some (.int r.1)), (tp o h0 r.2, nz)) := by
  unfold B_isSeen_6 at h
  refine vv_iload_n dX4_isSeen_6 rfl 3 rfl ?_
  refine vv_bipush (v := (nI 30)) dX4_isSeen_7 (by decide) ?_
  refine vv_icmp_gt (tgt := 81) dX4_isSeen_9 (by decide) (fun c1 => ?_) (fun c1 => ?_)
  · rw [if_pos c1] at h
    refine vv_iconst (v := (nI 0)) dX4_isSeen_81 (by decide) ?_
    refine vv_istore_n (lv' := [(0, .ref o), (1, .int x1), (2, .int x2), (3, .int (nI 0))]) dX4_isSeen_82 rfl (by decide) [1, 2, 3, 0] rfl ?_
    refine vv_sub (lv' := [(0, .ref o), (3, .int (nI 0))]) [0, 3] rfl ?_
    exact v_isSeen_83 hG NN h
  · rw [if_neg c1] at h
    refine vv_iload_n dX4_isSeen_12 rfl 1 rfl ?_
    refine vv_iconst (v := (-1)) dX4_isSeen_13 (by decide) ?_
    refine vv_icmp_eq (tgt := 29) dX4_isSeen_14 (by decide) (fun c2 => ?_) (fun c2 => ?_)
    · rw [if_pos c2] at h
      exact v_isSeen_29 hG hk6 h
    · rw [if_neg c2] at h
      refine vv_iload_n dX4_isSeen_17 rfl 3 rfl ?_
      refine vv_iload_n dX4_isSeen_18 rfl 2 rfl ?_
      refine vv_icmp_ne (tgt := 29) dX4_isSeen_19 (by decide) (fun c3 => ?_) (fun c3 => ?_)
      · rw [if_neg c3] at h
        exact v_isSeen_29 hG hk6 h
      · rw [if_pos c3] at h
        refine vv_aload_n dX4_isSeen_22 rfl 0 rfl ?_
        refine vv_bipush (v := (nI 85)) dX4_isSeen_23 (by decide) ?_
        refine vv_iload_n dX4_isSeen_25 rfl 1 rfl ?_
        obtain ⟨r4, er4, h⟩ := bd_o h
        refine vv_callV ok_X4_opens q2019 (m_opens hG er4 (d + 2)) rfl (by omega) ⟨_, _, _, _, _, tp_o, by rw [hG.1]; rfl⟩ rfl rfl (Nat.le_of_ble_eq_true rfl) dX4_isSeen_26 ?_
        exact v_isSeen_29 hG hk6 h
theorem v_isSeen_6 {l : Launch} {G : vv_G} {d : Nat} {o : Nat} {h0 : Nat → Option vv_E} {nz : Nat × Nat} (hG : vv_gok G) : ∀ (n : Nat) {x1 : Int32} {x2 : Int32} {x3 : Int32} {T : tw_T} {r : Int32 × tw_T}, J_isSeen_6 n x1 x2 x3 T = some r → vv_V l G MX4_isSeen (d + 4) 6 [(0, .ref o), (1, .int x1), (2, .int x2), (3, .int x3)] [] (tp o h0 T, nz) (.inl (some (.int r.1)), (tp o h0 r.2, nz)) := by
  intro n
  induction n with
  | zero => intro _ _ _ _ _ h; cases h
  | succ n ih => intro _ _ _ _ _ h; exact vb_isSeen_6 hG ih h
def J_isSeen (x1 : Int32) (x2 : Int32) (T : tw_T) : Option (Int32 × tw_T) := (J_tries T).bind fun r1 => J_isSeen_6 NN x1 x2 (nI 0) r1
theorem v_isSeen_0 {l : Launch} {G : vv_G} {d : Nat} {o : Nat} {h0 : Nat → Option vv_E} {nz : Nat × Nat} (hG : vv_gok G) {x1 : Int32} {x2 : Int32} {T : tw_T} {r : Int32 × tw_T} (h : J_isSeen x1 x2 T = some r) : vv_V l G MX4_isSeen (d + 4) 0 [(0, .ref o), (1, .int x1), (2, .int x2)] [] (tp o h0 T, nz) (.inl (some (.int r.1)), (tp o h0 r.2, nz)) := by
  unfold J_isSeen at h
  refine vv_aload_n dX4_isSeen_0 rfl 0 rfl ?_
  obtain ⟨r1, er1, h⟩ := bd_o h
  refine vv_callV ok_X4_tries q2039 (m_tries hG er1 (d + 3)) rfl (by omega) ⟨_, _, _, _, _, tp_o, by rw [hG.1]; rfl⟩ rfl rfl (Nat.le_of_ble_eq_true rfl) dX4_isSeen_1 ?_
  refine vv_iconst (v := (nI 0)) dX4_isSeen_4 (by decide) ?_
  refine vv_istore_n (lv' := [(0, .ref o), (1, .int x1), (2, .int x2), (3, .int (nI 0))]) dX4_isSeen_5 rfl (by decide) [1, 2, 3, 0] rfl ?_
  exact v_isSeen_6 hG NN h
theorem m_isSeen {l : Launch} {G : vv_G} {o : Nat} {h0 : Nat → Option vv_E} {nz : Nat × Nat} (hG : vv_gok G) {x1 : Int32} {x2 : Int32} {T : tw_T} {r : Int32 × tw_T} (h : J_isSeen x1 x2 T = some r) (d : Nat) : vv_Met l G MX4_isSeen (d + 4) [.ref o, .int x1, .int x2] (tp o h0 T, nz) (.inl (some (.int r.1)), (tp o h0 r.2, nz)) := vv_head (by decide +kernel) rfl (Nat.le_of_ble_eq_true rfl) rfl (v_isSeen_0 hG h)
/-! isGuess -/
def J_isGuess_32 (s0 : Int32) (T : tw_T) : Option (Int32 × tw_T) := (zrI s0).bind fun v1 => some (v1, T)
theorem v_isGuess_32 {l : Launch} {G : vv_G} {d : Nat} {o : Nat} {h0 : Nat → Option vv_E} {nz : Nat × Nat} (hG : vv_gok G) {s0 : Int32} {T : tw_T} {r : Int32 × tw_T} (h : J_isGuess_32 s0 T = some r) : vv_V l G MX4_isGuess (d + 5) 32 [(0, .ref o)] [.int s0] (tp o h0 T, nz) (.inl (some (.int r.1)), (tp o h0 r.2, nz)) := by
  unfold J_isGuess_32 at h
  obtain ⟨zv1, h⟩ := zr_o h
  cases h
  exact vv_zret rfl zv1 dX4_isGuess_32
def J_isGuess_31 (T : tw_T) : Option (Int32 × tw_T) := J_isGuess_32 (nI 0) T
theorem v_isGuess_31 {l : Launch} {G : vv_G} {d : Nat} {o : Nat} {h0 : Nat → Option vv_E} {nz : Nat × Nat} (hG : vv_gok G) {T : tw_T} {r : Int32 × tw_T} (h : J_isGuess_31 T = some r) : vv_V l G MX4_isGuess (d + 5) 31 [(0, .ref o)] [] (tp o h0 T, nz) (.inl (some (.int r.1)), (tp o h0 r.2, nz)) := by
  unfold J_isGuess_31 at h
  refine vv_iconst (v := (nI 0)) dX4_isGuess_31 (by decide) ?_
  exact v_isGuess_32 hG h
def J_isGuess (x1 : Int32) (T : tw_T) : Option (Int32 × tw_T) := (dvI x1 (nI 10)).bind fun v1 => (J_lies (nI 0) v1 T).bind fun r3 => if r3.1 = 0 then (J_isGuess_31 r3.2) else ((dvI x1 (nI 10)).bind fun v5 => (rmI x1 (nI 10)).bind fun v7 => (J_isSeen v5 v7 r3.2).bind fun r9 => if r9.1 = 0 then (J_isGuess_31 r9.2) else (J_isGuess_32 (nI 1) r9.2))
theorem v_isGuess_0 {l : Launch} {G : vv_G} {d : Nat} {o : Nat} {h0 : Nat → Option vv_E} {nz : Nat × Nat} (hG : vv_gok G) {x1 : Int32} {T : tw_T} {r : Int32 × tw_T} (h : J_isGuess x1 T = some r) : vv_V l G MX4_isGuess (d + 5) 0 [(0, .ref o), (1, .int x1)] [] (tp o h0 T, nz) (.inl (some (.int r.1)), (tp o h0 r.2, nz)) := by
  unfold J_isGuess at h
  refine vv_aload_n dX4_isGuess_0 rfl 0 rfl ?_
  refine vv_iconst (v := (nI 0)) dX4_isGuess_1 (by decide) ?_
  refine vv_iload_n dX4_isGuess_2 rfl 1 rfl ?_
  refine vv_bipush (v := (nI 10)) dX4_isGuess_3 (by decide) ?_
  obtain ⟨hz2, h⟩ := dv_o h
  refine vv_idiv dX4_isGuess_5 hz2 ?_
  obtain ⟨v1, ev1⟩ : ∃ z, z = (x1 / (nI 10)) := ⟨_, rfl⟩
  rw [← ev1] at h ⊢
  obtain ⟨r3, er3, h⟩ := bd_o h
  refine vv_callV ok_X4_lies q1919 (m_lies hG er3 (d + 4)) rfl (by omega) ⟨_, _, _, _, _, tp_o, by rw [hG.1]; rfl⟩ rfl rfl (Nat.le_of_ble_eq_true rfl) dX4_isGuess_6 ?_
  refine vv_if_eq (tgt := 31) dX4_isGuess_9 (by decide) (fun c4 => ?_) (fun c4 => ?_)
  · rw [if_pos c4] at h
    refine vv_sub (lv' := [(0, .ref o)]) [0] rfl ?_
    exact v_isGuess_31 hG h
  · rw [if_neg c4] at h
    refine vv_aload_n dX4_isGuess_12 rfl 0 rfl ?_
    refine vv_iload_n dX4_isGuess_13 rfl 1 rfl ?_
    refine vv_bipush (v := (nI 10)) dX4_isGuess_14 (by decide) ?_
    obtain ⟨hz6, h⟩ := dv_o h
    refine vv_idiv dX4_isGuess_16 hz6 ?_
    obtain ⟨v5, ev5⟩ : ∃ z, z = (x1 / (nI 10)) := ⟨_, rfl⟩
    rw [← ev5] at h ⊢
    refine vv_iload_n dX4_isGuess_17 rfl 1 rfl ?_
    refine vv_bipush (v := (nI 10)) dX4_isGuess_18 (by decide) ?_
    obtain ⟨hz8, h⟩ := rm_o h
    refine vv_irem dX4_isGuess_20 hz8 ?_
    obtain ⟨v7, ev7⟩ : ∃ z, z = (x1 - x1 / (nI 10) * (nI 10)) := ⟨_, rfl⟩
    rw [← ev7] at h ⊢
    obtain ⟨r9, er9, h⟩ := bd_o h
    refine vv_callV ok_X4_isSeen q2146 (m_isSeen hG er9 (d + 0)) rfl (by omega) ⟨_, _, _, _, _, tp_o, by rw [hG.1]; rfl⟩ rfl rfl (Nat.le_of_ble_eq_true rfl) dX4_isGuess_21 ?_
    refine vv_if_eq (tgt := 31) dX4_isGuess_24 (by decide) (fun c10 => ?_) (fun c10 => ?_)
    · rw [if_pos c10] at h
      refine vv_sub (lv' := [(0, .ref o)]) [0] rfl ?_
      exact v_isGuess_31 hG h
    · rw [if_neg c10] at h
      refine vv_iconst (v := (nI 1)) dX4_isGuess_27 (by decide) ?_
      refine vv_goto (tgt := 32) dX4_isGuess_28 (by decide) ?_
      refine vv_sub (lv' := [(0, .ref o)]) [0] rfl ?_
      exact v_isGuess_32 hG h
theorem m_isGuess {l : Launch} {G : vv_G} {o : Nat} {h0 : Nat → Option vv_E} {nz : Nat × Nat} (hG : vv_gok G) {x1 : Int32} {T : tw_T} {r : Int32 × tw_T} (h : J_isGuess x1 T = some r) (d : Nat) : vv_Met l G MX4_isGuess (d + 5) [.ref o, .int x1] (tp o h0 T, nz) (.inl (some (.int r.1)), (tp o h0 r.2, nz)) := vv_head (by decide +kernel) rfl (Nat.le_of_ble_eq_true rfl) rfl (v_isGuess_0 hG h)
/-! opened -/
def J_opened_93 (s0 : Int32) (T : tw_T) : Option (Int32 × tw_T) := some (s0, T)
theorem v_opened_93 {l : Launch} {G : vv_G} {d : Nat} {o : Nat} {h0 : Nat → Option vv_E} {nz : Nat × Nat} (hG : vv_gok G) {s0 : Int32} {T : tw_T} {r : Int32 × tw_T} (h : J_opened_93 s0 T = some r) : vv_V l G MX4_opened (d + 6) 93 [(0, .ref o)] [.int s0] (tp o h0 T, nz) (.inl (some (.int r.1)), (tp o h0 r.2, nz)) := by
  unfold J_opened_93 at h
  cases h
  exact vv_iret rfl dX4_opened_93
def J_opened_78 (k43 : Int32 → Int32 → Int32 → Int32 → tw_T → Option (Int32 × tw_T)) (x1 : Int32) (x2 : Int32) (x3 : Int32) (x4 : Int32) (T : tw_T) : Option (Int32 × tw_T) := k43 x1 x2 x3 (x4 + (nI 1)) T
theorem v_opened_78 {l : Launch} {G : vv_G} {d : Nat} {o : Nat} {h0 : Nat → Option vv_E} {nz : Nat × Nat} (hG : vv_gok G) {k43 : Int32 → Int32 → Int32 → Int32 → tw_T → Option (Int32 × tw_T)} (hk43 : ∀ {x1 : Int32} {x2 : Int32} {x3 : Int32} {x4 : Int32} {T : tw_T} {r : Int32 × tw_T}, k43 x1 x2 x3 x4 T = some r → vv_V l G MX4_opened (d + 6) 43 [(0, .ref o), (1, .int x1), (2, .int x2), (3, .int x3), (4, .int x4)] [] (tp o h0 T, nz) (.inl (some (.int r.1)), (tp o h0 r.2, nz))) {x1 : Int32} {x2 : Int32} {x3 : Int32} {x4 : Int32} {T : tw_T} {r : Int32 × tw_T} (h : J_opened_78 k43 x1 x2 x3 x4 T = some r) : vv_V l G MX4_opened (d + 6) 78 [(0, .ref o), (1, .int x1), (2, .int x2), (3, .int x3), (4, .int x4)] [] (tp o h0 T, nz) (.inl (some (.int r.1)), (tp o h0 r.2, nz)) := by
  unfold J_opened_78 at h
  refine vv_iinc (v := (x4 + (nI 1))) (lv' := [(0, .ref o), (1, .int x1), (2, .int x2), (3, .int x3), (4, .int (x4 + (nI 1)))]) dX4_opened_78 4 rfl rfl (by decide) [1, 2, 3, 4, 0] rfl ?_
  refine vv_goto (tgt := 43) dX4_opened_81 (by decide) ?_
  exact hk43 h
def B_opened_43 (k43 : Int32 → Int32 → Int32 → Int32 → tw_T → Option (Int32 × tw_T)) (x1 : Int32) (x2 : Int32) (x3 : Int32) (x4 : Int32) (T : tw_T) : Option (Int32 × tw_T) := if ((nI 10) * (T.1 3)) ≤ x4 then (if x1 = 0 then (J_opened_93 x2 T) else (J_opened_93 x3 T)) else ((J_isGuess x4 T).bind fun r3 => if r3.1 = 0 then (J_opened_78 k43 x1 x2 x3 x4 r3.2) else (if x3 = (-1) then (J_opened_78 k43 x1 (x2 + (nI 1)) x4 x4 r3.2) else (J_opened_78 k43 x1 (x2 + (nI 1)) x3 x4 r3.2)))
def J_opened_43 : Nat → Int32 → Int32 → Int32 → Int32 → tw_T → Option (Int32 × tw_T)
  | 0, _, _, _, _, _ => none
  | n + 1, x1, x2, x3, x4, T => B_opened_43 (J_opened_43 n) x1 x2 x3 x4 T
theorem vb_opened_43 {l : Launch} {G : vv_G} {d : Nat} {o : Nat} {h0 : Nat → Option vv_E} {nz : Nat × Nat} (hG : vv_gok G) {k43 : Int32 → Int32 → Int32 → Int32 → tw_T → Option (Int32 × tw_T)} (hk43 : ∀ {x1 : Int32} {x2 : Int32} {x3 : Int32} {x4 : Int32} {T : tw_T} {r : Int32 × tw_T}, k43 x1 x2 x3 x4 T = some r → vv_V l G MX4_opened (d + 6) 43 [(0, .ref o), (1, .int x1), (2, .int x2), (3, .int x3), (4, .int x4)] [] (tp o h0 T, nz) (.inl (some (.int r.1)), (tp o h0 r.2, nz))) {x1 : Int32} {x2 : Int32} {x3 : Int32} {x4 : Int32} {T : tw_T} {r : Int32 × tw_T} (h : B_opened_43 k43 x1 x2 x3 x4 T = some r) : vv_V l G MX4_opened (d + 6) 43 [(0, .ref o), (1, .int x1), (2, .int x2), (3, .int x3), (4, .int x4)] [] (tp o h0 T, nz) (.inl (some (.int r.1)), (tp o h0 r.2, nz)) := by
  unfold B_opened_43 at h
  refine vv_iload dX4_opened_43 4 rfl ?_
  refine vv_bipush (v := (nI 10)) dX4_opened_45 (by decide) ?_
  refine vv_aload_n dX4_opened_47 rfl 0 rfl ?_
  refine tw_get (fl_X4_287 hG) (k := 3) rfl dX4_opened_48 ?_
  refine vv_imul dX4_opened_51 ?_
  refine vv_icmp_ge (tgt := 84) dX4_opened_52 (by decide) (fun c1 => ?_) (fun c1 => ?_)
  · rw [if_pos c1] at h
    refine vv_iload_n dX4_opened_84 rfl 1 rfl ?_
    refine vv_if_ne (tgt := 92) dX4_opened_85 (by decide) (fun c2 => ?_) (fun c2 => ?_)
    · rw [if_neg c2] at h
      refine vv_iload_n dX4_opened_92 rfl 3 rfl ?_
      refine vv_sub (lv' := [(0, .ref o)]) [0] rfl ?_
      exact v_opened_93 hG h
    · rw [if_pos c2] at h
      refine vv_iload_n dX4_opened_88 rfl 2 rfl ?_
      refine vv_goto (tgt := 93) dX4_opened_89 (by decide) ?_
      refine vv_sub (lv' := [(0, .ref o)]) [0] rfl ?_
      exact v_opened_93 hG h
  · rw [if_neg c1] at h
    refine vv_aload_n dX4_opened_55 rfl 0 rfl ?_
    refine vv_iload dX4_opened_56 4 rfl ?_
    obtain ⟨r3, er3, h⟩ := bd_o h
    refine vv_callV ok_X4_isGuess q2150 (m_isGuess hG er3 (d + 0)) rfl (by omega) ⟨_, _, _, _, _, tp_o, by rw [hG.1]; rfl⟩ rfl rfl (Nat.le_of_ble_eq_true rfl) dX4_opened_58 ?_
    refine vv_if_ne (tgt := 67) dX4_opened_61 (by decide) (fun c4 => ?_) (fun c4 => ?_)
    · rw [if_neg c4] at h
      refine vv_iinc (v := (x2 + (nI 1))) (lv' := [(0, .ref o), (1, .int x1), (2, .int (x2 + (nI 1))), (3, .int x3), (4, .int x4)]) dX4_opened_67 2 rfl rfl (by decide) [1, 2, 0, 3, 4] rfl ?_
      refine vv_iload_n dX4_opened_70 rfl 3 rfl ?_
      refine vv_iconst (v := (-1)) dX4_opened_71 (by decide) ?_
      refine vv_icmp_ne (tgt := 78) dX4_opened_72 (by decide) (fun c5 => ?_) (fun c5 => ?_)
      · rw [if_neg c5] at h
        exact v_opened_78 hG hk43 h
      · rw [if_pos c5] at h
        refine vv_iload dX4_opened_75 4 rfl ?_
        refine vv_istore_n (lv' := [(0, .ref o), (1, .int x1), (2, .int (x2 + (nI 1))), (3, .int x4), (4, .int x4)]) dX4_opened_77 rfl (by decide) [1, 2, 3, 0, 4] rfl ?_
        exact v_opened_78 hG hk43 h
    · rw [if_pos c4] at h
      refine vv_goto (tgt := 78) dX4_opened_64 (by decide) ?_
      exact v_opened_78 hG hk43 h
theorem v_opened_43 {l : Launch} {G : vv_G} {d : Nat} {o : Nat} {h0 : Nat → Option vv_E} {nz : Nat × Nat} (hG : vv_gok G) : ∀ (n : Nat) {x1 : Int32} {x2 : Int32} {x3 : Int32} {x4 : Int32} {T : tw_T} {r : Int32 × tw_T}, J_opened_43 n x1 x2 x3 x4 T = some r → vv_V l G MX4_opened (d + 6) 43 [(0, .ref o), (1, .int x1), (2, .int x2), (3, .int x3), (4, .int x4)] [] (tp o h0 T, nz) (.inl (some (.int r.1)), (tp o h0 r.2, nz)) := by
  intro n
  induction n with
  | zero => intro _ _ _ _ _ _ h; cases h
  | succ n ih => intro _ _ _ _ _ _ h; exact vb_opened_43 hG ih h
def J_opened_35 (s0 : Int32) (T : tw_T) : Option (Int32 × tw_T) := some (s0, T)
theorem v_opened_35 {l : Launch} {G : vv_G} {d : Nat} {o : Nat} {h0 : Nat → Option vv_E} {nz : Nat × Nat} (hG : vv_gok G) {s0 : Int32} {T : tw_T} {r : Int32 × tw_T} (h : J_opened_35 s0 T = some r) : vv_V l G MX4_opened (d + 6) 35 [(0, .ref o)] [.int s0] (tp o h0 T, nz) (.inl (some (.int r.1)), (tp o h0 r.2, nz)) := by
  unfold J_opened_35 at h
  cases h
  exact vv_iret rfl dX4_opened_35
def J_opened (x1 : Int32) (T : tw_T) : Option (Int32 × tw_T) := (some (tw_F T 0 (nI 0))).bind fun T1 => (J_isWhat x1 (nI 2) T1).bind fun r2 => if r2.1 = 0 then (some ((nI 0), r2.2)) else (if x1 = (nI 2) then ((J_isSeen (-1) (nI 0) r2.2).bind fun r5 => if r5.1 = 0 then (J_opened_35 (nI 0) r5.2) else (J_opened_35 (nI 1) r5.2)) else (J_opened_43 NN x1 (nI 0) (-1) (nI 0) r2.2))
theorem v_opened_0 {l : Launch} {G : vv_G} {d : Nat} {o : Nat} {h0 : Nat → Option vv_E} {nz : Nat × Nat} (hG : vv_gok G) {x1 : Int32} {T : tw_T} {r : Int32 × tw_T} (h : J_opened x1 T = some r) : vv_V l G MX4_opened (d + 6) 0 [(0, .ref o), (1, .int x1)] [] (tp o h0 T, nz) (.inl (some (.int r.1)), (tp o h0 r.2, nz)) := by
  unfold J_opened at h
  refine vv_aload_n dX4_opened_0 rfl 0 rfl ?_
  refine vv_iconst (v := (nI 0)) dX4_opened_1 (by decide) ?_
  obtain ⟨T1, eT1, h⟩ := bd_s h
  refine tw_put (T1 := T1) (pt_X4_117 hG) hG rfl rfl rfl (by decide) (by rw [eT1]; exact tw_set0 _ _ _) (by rw [eT1]; rfl) dX4_opened_2 ?_
  refine vv_aload_n dX4_opened_5 rfl 0 rfl ?_
  refine vv_iload_n dX4_opened_6 rfl 1 rfl ?_
  refine vv_iconst (v := (nI 2)) dX4_opened_7 (by decide) ?_
  obtain ⟨r2, er2, h⟩ := bd_o h
  refine vv_callV ok_X4_isWhat q1939 (m_isWhat hG er2 (d + 4)) rfl (by omega) ⟨_, _, _, _, _, tp_o, by rw [hG.1]; rfl⟩ rfl rfl (Nat.le_of_ble_eq_true rfl) dX4_opened_8 ?_
  refine vv_if_ne (tgt := 16) dX4_opened_11 (by decide) (fun c3 => ?_) (fun c3 => ?_)
  · rw [if_neg c3] at h
    refine vv_iload_n dX4_opened_16 rfl 1 rfl ?_
    refine vv_iconst (v := (nI 2)) dX4_opened_17 (by decide) ?_
    refine vv_icmp_ne (tgt := 36) dX4_opened_18 (by decide) (fun c4 => ?_) (fun c4 => ?_)
    · rw [if_neg c4] at h
      refine vv_iconst (v := (nI 0)) dX4_opened_36 (by decide) ?_
      refine vv_istore_n (lv' := [(0, .ref o), (1, .int x1), (2, .int (nI 0))]) dX4_opened_37 rfl (by decide) [1, 2, 0] rfl ?_
      refine vv_iconst (v := (-1)) dX4_opened_38 (by decide) ?_
      refine vv_istore_n (lv' := [(0, .ref o), (1, .int x1), (2, .int (nI 0)), (3, .int (-1))]) dX4_opened_39 rfl (by decide) [1, 2, 3, 0] rfl ?_
      refine vv_iconst (v := (nI 0)) dX4_opened_40 (by decide) ?_
      refine vv_istore (lv' := [(0, .ref o), (1, .int x1), (2, .int (nI 0)), (3, .int (-1)), (4, .int (nI 0))]) dX4_opened_41 (by decide) [1, 2, 3, 4, 0] rfl ?_
      exact v_opened_43 hG NN h
    · rw [if_pos c4] at h
      refine vv_aload_n dX4_opened_21 rfl 0 rfl ?_
      refine vv_iconst (v := (-1)) dX4_opened_22 (by decide) ?_
      refine vv_iconst (v := (nI 0)) dX4_opened_23 (by decide) ?_
      obtain ⟨r5, er5, h⟩ := bd_o h
      refine vv_callV ok_X4_isSeen q2146 (m_isSeen hG er5 (d + 1)) rfl (by omega) ⟨_, _, _, _, _, tp_o, by rw [hG.1]; rfl⟩ rfl rfl (Nat.le_of_ble_eq_true rfl) dX4_opened_24 ?_
      refine vv_if_eq (tgt := 34) dX4_opened_27 (by decide) (fun c6 => ?_) (fun c6 => ?_)
      · rw [if_pos c6] at h
        refine vv_iconst (v := (nI 0)) dX4_opened_34 (by decide) ?_
        refine vv_sub (lv' := [(0, .ref o)]) [0] rfl ?_
        exact v_opened_35 hG h
      · rw [if_neg c6] at h
        refine vv_iconst (v := (nI 1)) dX4_opened_30 (by decide) ?_
        refine vv_goto (tgt := 35) dX4_opened_31 (by decide) ?_
        refine vv_sub (lv' := [(0, .ref o)]) [0] rfl ?_
        exact v_opened_35 hG h
  · rw [if_pos c3] at h
    refine vv_iconst (v := (nI 0)) dX4_opened_14 (by decide) ?_
    cases h
    exact vv_iret rfl dX4_opened_15
theorem m_opened {l : Launch} {G : vv_G} {o : Nat} {h0 : Nat → Option vv_E} {nz : Nat × Nat} (hG : vv_gok G) {x1 : Int32} {T : tw_T} {r : Int32 × tw_T} (h : J_opened x1 T = some r) (d : Nat) : vv_Met l G MX4_opened (d + 6) [.ref o, .int x1] (tp o h0 T, nz) (.inl (some (.int r.1)), (tp o h0 r.2, nz)) := vv_head (by decide +kernel) rfl (Nat.le_of_ble_eq_true rfl) rfl (v_opened_0 hG h)
/-! areLike -/
def B_areLike_3 (k3 : Int32 → Int32 → Int32 → Int32 → tw_T → Option (Int32 × tw_T)) (x1 : Int32) (x2 : Int32) (x3 : Int32) (x4 : Int32) (T : tw_T) : Option (Int32 × tw_T) := if (T.1 1) ≤ x4 then (some ((nI 1), T)) else ((rdI 24800 (T.2.2 30) ((((nI 248) * x1) + ((nI 8) * x3)) + x4)).bind fun v2 => (rdI 24800 (T.2.2 30) ((((nI 248) * x2) + ((nI 8) * x3)) + x4)).bind fun v3 => if v2 = v3 then (k3 x1 x2 x3 (x4 + (nI 1)) T) else (some ((nI 0), T)))
def J_areLike_3 : Nat → Int32 → Int32 → Int32 → Int32 → tw_T → Option (Int32 × tw_T)
  | 0, _, _, _, _, _ => none
  | n + 1, x1, x2, x3, x4, T => B_areLike_3 (J_areLike_3 n) x1 x2 x3 x4 T
theorem vb_areLike_3 {l : Launch} {G : vv_G} {d : Nat} {o : Nat} {h0 : Nat → Option vv_E} {nz : Nat × Nat} (hG : vv_gok G) {k3 : Int32 → Int32 → Int32 → Int32 → tw_T → Option (Int32 × tw_T)} (hk3 : ∀ {x1 : Int32} {x2 : Int32} {x3 : Int32} {x4 : Int32} {T : tw_T} {r : Int32 × tw_T}, k3 x1 x2 x3 x4 T = some r → vv_V l G MX4_areLike (d + 0) 3 [(0, .ref o), (1, .int x1), (2, .int x2), (3, .int x3), (4, .int x4)] [] (tp o h0 T, nz) (.inl (some (.int r.1)), (tp o h0 r.2, nz))) {x1 : Int32} {x2 : Int32} {x3 : Int32} {x4 : Int32} {T : tw_T} {r : Int32 × tw_T} (h : B_areLike_3 k3 x1 x2 x3 x4 T = some r) : vv_V l G MX4_areLike (d + 0) 3 [(0, .ref o), (1, .int x1), (2, .int x2), (3, .int x3), (4, .int x4)] [] (tp o h0 T, nz) (.inl (some (.int r.1)), (tp o h0 r.2, nz)) := by
  unfold B_areLike_3 at h
  refine vv_iload dX4_areLike_3 4 rfl ?_
  refine vv_aload_n dX4_areLike_5 rfl 0 rfl ?_
  refine tw_get (fl_X4_281 hG) (k := 1) rfl dX4_areLike_6 ?_
  refine vv_icmp_ge (tgt := 59) dX4_areLike_9 (by decide) (fun c1 => ?_) (fun c1 => ?_)
  · rw [if_pos c1] at h
    refine vv_iconst (v := (nI 1)) dX4_areLike_59 (by decide) ?_
    cases h
    exact vv_zret rfl (by decide) dX4_areLike_60
  · rw [if_neg c1] at h
    refine vv_aload_n dX4_areLike_12 rfl 0 rfl ?_
    refine tw_get (fl_X4_105 hG) (k := 55) rfl dX4_areLike_13 ?_
    refine vv_sipush (v := (nI 248)) dX4_areLike_16 (by decide) ?_
    refine vv_iload_n dX4_areLike_19 rfl 1 rfl ?_
    refine vv_imul dX4_areLike_20 ?_
    refine vv_bipush (v := (nI 8)) dX4_areLike_21 (by decide) ?_
    refine vv_iload_n dX4_areLike_23 rfl 3 rfl ?_
    refine vv_imul dX4_areLike_24 ?_
    refine vv_iadd dX4_areLike_25 ?_
    refine vv_iload dX4_areLike_26 4 rfl ?_
    refine vv_iadd dX4_areLike_28 ?_
    obtain ⟨v2, iv2, ev2, h⟩ := rd_o h
    refine tw_ald 30 (by decide) rfl iv2 ev2 dX4_areLike_29 ?_
    refine vv_aload_n dX4_areLike_30 rfl 0 rfl ?_
    refine tw_get (fl_X4_105 hG) (k := 55) rfl dX4_areLike_31 ?_
    refine vv_sipush (v := (nI 248)) dX4_areLike_34 (by decide) ?_
    refine vv_iload_n dX4_areLike_37 rfl 2 rfl ?_
    refine vv_imul dX4_areLike_38 ?_
    refine vv_bipush (v := (nI 8)) dX4_areLike_39 (by decide) ?_
    refine vv_iload_n dX4_areLike_41 rfl 3 rfl ?_
    refine vv_imul dX4_areLike_42 ?_
    refine vv_iadd dX4_areLike_43 ?_
    refine vv_iload dX4_areLike_44 4 rfl ?_
    refine vv_iadd dX4_areLike_46 ?_
    obtain ⟨v3, iv3, ev3, h⟩ := rd_o h
    refine tw_ald 30 (by decide) rfl iv3 ev3 dX4_areLike_47 ?_
    refine vv_icmp_eq (tgt := 53) dX4_areLike_48 (by decide) (fun c4 => ?_) (fun c4 => ?_)
    · rw [if_pos c4] at h
      refine vv_iinc (v := (x4 + (nI 1))) (lv' := [(0, .ref o), (1, .int x1), (2, .int x2), (3, .int x3), (4, .int (x4 + (nI 1)))]) dX4_areLike_53 4 rfl rfl (by decide) [1, 2, 3, 4, 0] rfl ?_
      refine vv_goto (tgt := 3) dX4_areLike_56 (by decide) ?_
      exact hk3 h
    · rw [if_neg c4] at h
      refine vv_iconst (v := (nI 0)) dX4_areLike_51 (by decide) ?_
      cases h
      exact vv_zret rfl (by decide) dX4_areLike_52
theorem v_areLike_3 {l : Launch} {G : vv_G} {d : Nat} {o : Nat} {h0 : Nat → Option vv_E} {nz : Nat × Nat} (hG : vv_gok G) : ∀ (n : Nat) {x1 : Int32} {x2 : Int32} {x3 : Int32} {x4 : Int32} {T : tw_T} {r : Int32 × tw_T}, J_areLike_3 n x1 x2 x3 x4 T = some r → vv_V l G MX4_areLike (d + 0) 3 [(0, .ref o), (1, .int x1), (2, .int x2), (3, .int x3), (4, .int x4)] [] (tp o h0 T, nz) (.inl (some (.int r.1)), (tp o h0 r.2, nz)) := by
  intro n
  induction n with
  | zero => intro _ _ _ _ _ _ h; cases h
  | succ n ih => intro _ _ _ _ _ _ h; exact vb_areLike_3 hG ih h
def J_areLike (x1 : Int32) (x2 : Int32) (x3 : Int32) (T : tw_T) : Option (Int32 × tw_T) := J_areLike_3 NN x1 x2 x3 (nI 0) T
theorem v_areLike_0 {l : Launch} {G : vv_G} {d : Nat} {o : Nat} {h0 : Nat → Option vv_E} {nz : Nat × Nat} (hG : vv_gok G) {x1 : Int32} {x2 : Int32} {x3 : Int32} {T : tw_T} {r : Int32 × tw_T} (h : J_areLike x1 x2 x3 T = some r) : vv_V l G MX4_areLike (d + 0) 0 [(0, .ref o), (1, .int x1), (2, .int x2), (3, .int x3)] [] (tp o h0 T, nz) (.inl (some (.int r.1)), (tp o h0 r.2, nz)) := by
  unfold J_areLike at h
  refine vv_iconst (v := (nI 0)) dX4_areLike_0 (by decide) ?_
  refine vv_istore (lv' := [(0, .ref o), (1, .int x1), (2, .int x2), (3, .int x3), (4, .int (nI 0))]) dX4_areLike_1 (by decide) [1, 2, 3, 4, 0] rfl ?_
  exact v_areLike_3 hG NN h
theorem m_areLike {l : Launch} {G : vv_G} {o : Nat} {h0 : Nat → Option vv_E} {nz : Nat × Nat} (hG : vv_gok G) {x1 : Int32} {x2 : Int32} {x3 : Int32} {T : tw_T} {r : Int32 × tw_T} (h : J_areLike x1 x2 x3 T = some r) (d : Nat) : vv_Met l G MX4_areLike (d + 0) [.ref o, .int x1, .int x2, .int x3] (tp o h0 T, nz) (.inl (some (.int r.1)), (tp o h0 r.2, nz)) := vv_head (by decide +kernel) rfl (Nat.le_of_ble_eq_true rfl) rfl (v_areLike_0 hG h)
/-! next -/
def J_next_213 (s0 : Int32) (T : tw_T) : Option (Int32 × tw_T) := some (s0, T)
theorem v_next_213 {l : Launch} {G : vv_G} {d : Nat} {o : Nat} {h0 : Nat → Option vv_E} {nz : Nat × Nat} (hG : vv_gok G) {s0 : Int32} {T : tw_T} {r : Int32 × tw_T} (h : J_next_213 s0 T = some r) : vv_V l G MX4_next (d + 6) 213 [(0, .ref o)] [.int s0] (tp o h0 T, nz) (.inl (some (.int r.1)), (tp o h0 r.2, nz)) := by
  unfold J_next_213 at h
  cases h
  exact vv_iret rfl dX4_next_213
def J_next_197 (k96 : Int32 → Int32 → Int32 → Int32 → Int32 → tw_T → Option (Int32 × tw_T)) (x1 : Int32) (x2 : Int32) (x3 : Int32) (x4 : Int32) (x5 : Int32) (T : tw_T) : Option (Int32 × tw_T) := k96 x1 x2 x3 x4 (x5 + (nI 1)) T
theorem v_next_197 {l : Launch} {G : vv_G} {d : Nat} {o : Nat} {h0 : Nat → Option vv_E} {nz : Nat × Nat} (hG : vv_gok G) {k96 : Int32 → Int32 → Int32 → Int32 → Int32 → tw_T → Option (Int32 × tw_T)} (hk96 : ∀ {x1 : Int32} {x2 : Int32} {x3 : Int32} {x4 : Int32} {x5 : Int32} {T : tw_T} {r : Int32 × tw_T}, k96 x1 x2 x3 x4 x5 T = some r → vv_V l G MX4_next (d + 6) 96 [(0, .ref o), (1, .int x1), (2, .int x2), (3, .int x3), (4, .int x4), (5, .int x5)] [] (tp o h0 T, nz) (.inl (some (.int r.1)), (tp o h0 r.2, nz))) {x1 : Int32} {x2 : Int32} {x3 : Int32} {x4 : Int32} {x5 : Int32} {T : tw_T} {r : Int32 × tw_T} (h : J_next_197 k96 x1 x2 x3 x4 x5 T = some r) : vv_V l G MX4_next (d + 6) 197 [(0, .ref o), (1, .int x1), (2, .int x2), (3, .int x3), (4, .int x4), (5, .int x5)] [] (tp o h0 T, nz) (.inl (some (.int r.1)), (tp o h0 r.2, nz)) := by
  unfold J_next_197 at h
  refine vv_iinc (v := (x5 + (nI 1))) (lv' := [(0, .ref o), (1, .int x1), (2, .int x2), (3, .int x3), (4, .int x4), (5, .int (x5 + (nI 1)))]) dX4_next_197 5 rfl rfl (by decide) [1, 2, 3, 4, 5, 0] rfl ?_
  refine vv_goto (tgt := 96) dX4_next_200 (by decide) ?_
  exact hk96 h
def J_next_171 (k96 : Int32 → Int32 → Int32 → Int32 → Int32 → tw_T → Option (Int32 × tw_T)) (k109 : Int32 → Int32 → Int32 → Int32 → Int32 → Int32 → Int32 → tw_T → Option (Int32 × tw_T)) (s0 : Int32) (s1 : Int32) (x1 : Int32) (x2 : Int32) (x3 : Int32) (x4 : Int32) (x5 : Int32) (x7 : Int32) (T : tw_T) : Option (Int32 × tw_T) := k109 x1 x2 x3 x4 x5 (s0 + s1) (x7 + (nI 1)) T
theorem v_next_171 {l : Launch} {G : vv_G} {d : Nat} {o : Nat} {h0 : Nat → Option vv_E} {nz : Nat × Nat} (hG : vv_gok G) {k96 : Int32 → Int32 → Int32 → Int32 → Int32 → tw_T → Option (Int32 × tw_T)} (hk96 : ∀ {x1 : Int32} {x2 : Int32} {x3 : Int32} {x4 : Int32} {x5 : Int32} {T : tw_T} {r : Int32 × tw_T}, k96 x1 x2 x3 x4 x5 T = some r → vv_V l G MX4_next (d + 6) 96 [(0, .ref o), (1, .int x1), (2, .int x2), (3, .int x3), (4, .int x4), (5, .int x5)] [] (tp o h0 T, nz) (.inl (some (.int r.1)), (tp o h0 r.2, nz))) {k109 : Int32 → Int32 → Int32 → Int32 → Int32 → Int32 → Int32 → tw_T → Option (Int32 × tw_T)} (hk109 : ∀ {x1 : Int32} {x2 : Int32} {x3 : Int32} {x4 : Int32} {x5 : Int32} {x6 : Int32} {x7 : Int32} {T : tw_T} {r : Int32 × tw_T}, k109 x1 x2 x3 x4 x5 x6 x7 T = some r → vv_V l G MX4_next (d + 6) 109 [(0, .ref o), (1, .int x1), (2, .int x2), (3, .int x3), (4, .int x4), (5, .int x5), (6, .int x6), (7, .int x7)] [] (tp o h0 T, nz) (.inl (some (.int r.1)), (tp o h0 r.2, nz))) {s0 : Int32} {s1 : Int32} {x1 : Int32} {x2 : Int32} {x3 : Int32} {x4 : Int32} {x5 : Int32} {x7 : Int32} {T : tw_T} {r : Int32 × tw_T} (h : J_next_171 k96 k109 s0 s1 x1 x2 x3 x4 x5 x7 T = some r) : vv_V l G MX4_next (d + 6) 171 [(0, .ref o), (1, .int x1), (2, .int x2), (3, .int x3), (4, .int x4), (5, .int x5), (7, .int x7)] [.int s1, .int s0] (tp o h0 T, nz) (.inl (some (.int r.1)), (tp o h0 r.2, nz)) := by
  unfold J_next_171 at h
  refine vv_iadd dX4_next_171 ?_
  refine vv_istore (lv' := [(0, .ref o), (1, .int x1), (2, .int x2), (3, .int x3), (4, .int x4), (5, .int x5), (6, .int (s0 + s1)), (7, .int x7)]) dX4_next_172 (by decide) [1, 2, 3, 4, 5, 6, 0, 7] rfl ?_
  refine vv_iinc (v := (x7 + (nI 1))) (lv' := [(0, .ref o), (1, .int x1), (2, .int x2), (3, .int x3), (4, .int x4), (5, .int x5), (6, .int (s0 + s1)), (7, .int (x7 + (nI 1)))]) dX4_next_174 7 rfl rfl (by decide) [1, 2, 3, 4, 5, 6, 7, 0] rfl ?_
  refine vv_goto (tgt := 109) dX4_next_177 (by decide) ?_
  exact hk109 h
def J_next_159 (k96 : Int32 → Int32 → Int32 → Int32 → Int32 → tw_T → Option (Int32 × tw_T)) (k109 : Int32 → Int32 → Int32 → Int32 → Int32 → Int32 → Int32 → tw_T → Option (Int32 × tw_T)) (x1 : Int32) (x2 : Int32) (x3 : Int32) (x4 : Int32) (x5 : Int32) (x6 : Int32) (x7 : Int32) (x8 : Int32) (T : tw_T) : Option (Int32 × tw_T) := if x8 = 0 then (J_next_171 k96 k109 x6 (nI 0) x1 x2 x3 x4 x5 x7 T) else (J_next_171 k96 k109 x6 (nI 1) x1 x2 x3 x4 x5 x7 T)
theorem v_next_159 {l : Launch} {G : vv_G} {d : Nat} {o : Nat} {h0 : Nat → Option vv_E} {nz : Nat × Nat} (hG : vv_gok G) {k96 : Int32 → Int32 → Int32 → Int32 → Int32 → tw_T → Option (Int32 × tw_T)} (hk96 : ∀ {x1 : Int32} {x2 : Int32} {x3 : Int32} {x4 : Int32} {x5 : Int32} {T : tw_T} {r : Int32 × tw_T}, k96 x1 x2 x3 x4 x5 T = some r → vv_V l G MX4_next (d + 6) 96 [(0, .ref o), (1, .int x1), (2, .int x2), (3, .int x3), (4, .int x4), (5, .int x5)] [] (tp o h0 T, nz) (.inl (some (.int r.1)), (tp o h0 r.2, nz))) {k109 : Int32 → Int32 → Int32 → Int32 → Int32 → Int32 → Int32 → tw_T → Option (Int32 × tw_T)} (hk109 : ∀ {x1 : Int32} {x2 : Int32} {x3 : Int32} {x4 : Int32} {x5 : Int32} {x6 : Int32} {x7 : Int32} {T : tw_T} {r : Int32 × tw_T}, k109 x1 x2 x3 x4 x5 x6 x7 T = some r → vv_V l G MX4_next (d + 6) 109 [(0, .ref o), (1, .int x1), (2, .int x2), (3, .int x3), (4, .int x4), (5, .int x5), (6, .int x6), (7, .int x7)] [] (tp o h0 T, nz) (.inl (some (.int r.1)), (tp o h0 r.2, nz))) {x1 : Int32} {x2 : Int32} {x3 : Int32} {x4 : Int32} {x5 : Int32} {x6 : Int32} {x7 : Int32} {x8 : Int32} {T : tw_T} {r : Int32 × tw_T} (h : J_next_159 k96 k109 x1 x2 x3 x4 x5 x6 x7 x8 T = some r) : vv_V l G MX4_next (d + 6) 159 [(0, .ref o), (1, .int x1), (2, .int x2), (3, .int x3), (4, .int x4), (5, .int x5), (6, .int x6), (7, .int x7), (8, .int x8)] [] (tp o h0 T, nz) (.inl (some (.int r.1)), (tp o h0 r.2, nz)) := by
  unfold J_next_159 at h
  refine vv_iload dX4_next_159 6 rfl ?_
  refine vv_iload dX4_next_161 8 rfl ?_
  refine vv_if_eq (tgt := 170) dX4_next_163 (by decide) (fun c1 => ?_) (fun c1 => ?_)
  · rw [if_pos c1] at h
    refine vv_iconst (v := (nI 0)) dX4_next_170 (by decide) ?_
    refine vv_sub (lv' := [(0, .ref o), (1, .int x1), (2, .int x2), (3, .int x3), (4, .int x4), (5, .int x5), (7, .int x7)]) [0, 1, 2, 3, 4, 5, 7] rfl ?_
    exact v_next_171 hG hk96 hk109 h
  · rw [if_neg c1] at h
    refine vv_iconst (v := (nI 1)) dX4_next_166 (by decide) ?_
    refine vv_goto (tgt := 171) dX4_next_167 (by decide) ?_
    refine vv_sub (lv' := [(0, .ref o), (1, .int x1), (2, .int x2), (3, .int x3), (4, .int x4), (5, .int x5), (7, .int x7)]) [0, 1, 2, 3, 4, 5, 7] rfl ?_
    exact v_next_171 hG hk96 hk109 h
def J_next_151 (k96 : Int32 → Int32 → Int32 → Int32 → Int32 → tw_T → Option (Int32 × tw_T)) (k109 : Int32 → Int32 → Int32 → Int32 → Int32 → Int32 → Int32 → tw_T → Option (Int32 × tw_T)) (k121 : Int32 → Int32 → Int32 → Int32 → Int32 → Int32 → Int32 → Int32 → Int32 → tw_T → Option (Int32 × tw_T)) (s0 : Int32) (x1 : Int32) (x2 : Int32) (x3 : Int32) (x4 : Int32) (x5 : Int32) (x6 : Int32) (x7 : Int32) (x9 : Int32) (T : tw_T) : Option (Int32 × tw_T) := k121 x1 x2 x3 x4 x5 x6 x7 s0 (x9 + (nI 1)) T
theorem v_next_151 {l : Launch} {G : vv_G} {d : Nat} {o : Nat} {h0 : Nat → Option vv_E} {nz : Nat × Nat} (hG : vv_gok G) {k96 : Int32 → Int32 → Int32 → Int32 → Int32 → tw_T → Option (Int32 × tw_T)} (hk96 : ∀ {x1 : Int32} {x2 : Int32} {x3 : Int32} {x4 : Int32} {x5 : Int32} {T : tw_T} {r : Int32 × tw_T}, k96 x1 x2 x3 x4 x5 T = some r → vv_V l G MX4_next (d + 6) 96 [(0, .ref o), (1, .int x1), (2, .int x2), (3, .int x3), (4, .int x4), (5, .int x5)] [] (tp o h0 T, nz) (.inl (some (.int r.1)), (tp o h0 r.2, nz))) {k109 : Int32 → Int32 → Int32 → Int32 → Int32 → Int32 → Int32 → tw_T → Option (Int32 × tw_T)} (hk109 : ∀ {x1 : Int32} {x2 : Int32} {x3 : Int32} {x4 : Int32} {x5 : Int32} {x6 : Int32} {x7 : Int32} {T : tw_T} {r : Int32 × tw_T}, k109 x1 x2 x3 x4 x5 x6 x7 T = some r → vv_V l G MX4_next (d + 6) 109 [(0, .ref o), (1, .int x1), (2, .int x2), (3, .int x3), (4, .int x4), (5, .int x5), (6, .int x6), (7, .int x7)] [] (tp o h0 T, nz) (.inl (some (.int r.1)), (tp o h0 r.2, nz))) {k121 : Int32 → Int32 → Int32 → Int32 → Int32 → Int32 → Int32 → Int32 → Int32 → tw_T → Option (Int32 × tw_T)} (hk121 : ∀ {x1 : Int32} {x2 : Int32} {x3 : Int32} {x4 : Int32} {x5 : Int32} {x6 : Int32} {x7 : Int32} {x8 : Int32} {x9 : Int32} {T : tw_T} {r : Int32 × tw_T}, k121 x1 x2 x3 x4 x5 x6 x7 x8 x9 T = some r → vv_V l G MX4_next (d + 6) 121 [(0, .ref o), (1, .int x1), (2, .int x2), (3, .int x3), (4, .int x4), (5, .int x5), (6, .int x6), (7, .int x7), (8, .int x8), (9, .int x9)] [] (tp o h0 T, nz) (.inl (some (.int r.1)), (tp o h0 r.2, nz))) {s0 : Int32} {x1 : Int32} {x2 : Int32} {x3 : Int32} {x4 : Int32} {x5 : Int32} {x6 : Int32} {x7 : Int32} {x9 : Int32} {T : tw_T} {r : Int32 × tw_T} (h : J_next_151 k96 k109 k121 s0 x1 x2 x3 x4 x5 x6 x7 x9 T = some r) : vv_V l G MX4_next (d + 6) 151 [(0, .ref o), (1, .int x1), (2, .int x2), (3, .int x3), (4, .int x4), (5, .int x5), (6, .int x6), (7, .int x7), (9, .int x9)] [.int s0] (tp o h0 T, nz) (.inl (some (.int r.1)), (tp o h0 r.2, nz)) := by
  unfold J_next_151 at h
  refine vv_istore (lv' := [(0, .ref o), (1, .int x1), (2, .int x2), (3, .int x3), (4, .int x4), (5, .int x5), (6, .int x6), (7, .int x7), (8, .int s0), (9, .int x9)]) dX4_next_151 (by decide) [1, 2, 3, 4, 5, 6, 7, 8, 0, 9] rfl ?_
  refine vv_iinc (v := (x9 + (nI 1))) (lv' := [(0, .ref o), (1, .int x1), (2, .int x2), (3, .int x3), (4, .int x4), (5, .int x5), (6, .int x6), (7, .int x7), (8, .int s0), (9, .int (x9 + (nI 1)))]) dX4_next_153 9 rfl rfl (by decide) [1, 2, 3, 4, 5, 6, 7, 8, 9, 0] rfl ?_
  refine vv_goto (tgt := 121) dX4_next_156 (by decide) ?_
  exact hk121 h
def B_next_121 (k96 : Int32 → Int32 → Int32 → Int32 → Int32 → tw_T → Option (Int32 × tw_T)) (k109 : Int32 → Int32 → Int32 → Int32 → Int32 → Int32 → Int32 → tw_T → Option (Int32 × tw_T)) (k121 : Int32 → Int32 → Int32 → Int32 → Int32 → Int32 → Int32 → Int32 → Int32 → tw_T → Option (Int32 × tw_T)) (x1 : Int32) (x2 : Int32) (x3 : Int32) (x4 : Int32) (x5 : Int32) (x6 : Int32) (x7 : Int32) (x8 : Int32) (x9 : Int32) (T : tw_T) : Option (Int32 × tw_T) := if x7 ≤ x9 then (J_next_159 k96 k109 x1 x2 x3 x4 x5 x6 x7 x8 T) else (if x8 = 0 then (J_next_159 k96 k109 x1 x2 x3 x4 x5 x6 x7 x8 T) else ((J_areLike x7 x9 x5 T).bind fun r3 => if r3.1 = 0 then (J_next_151 k96 k109 k121 (nI 1) x1 x2 x3 x4 x5 x6 x7 x9 r3.2) else (J_next_151 k96 k109 k121 (nI 0) x1 x2 x3 x4 x5 x6 x7 x9 r3.2)))
def J_next_121 (k96 : Int32 → Int32 → Int32 → Int32 → Int32 → tw_T → Option (Int32 × tw_T)) (k109 : Int32 → Int32 → Int32 → Int32 → Int32 → Int32 → Int32 → tw_T → Option (Int32 × tw_T)) : Nat → Int32 → Int32 → Int32 → Int32 → Int32 → Int32 → Int32 → Int32 → Int32 → tw_T → Option (Int32 × tw_T)
  | 0, _, _, _, _, _, _, _, _, _, _ => none
  | n + 1, x1, x2, x3, x4, x5, x6, x7, x8, x9, T => B_next_121 k96 k109 (J_next_121 k96 k109 n) x1 x2 x3 x4 x5 x6 x7 x8 x9 T
theorem vb_next_121 {l : Launch} {G : vv_G} {d : Nat} {o : Nat} {h0 : Nat → Option vv_E} {nz : Nat × Nat} (hG : vv_gok G) {k96 : Int32 → Int32 → Int32 → Int32 → Int32 → tw_T → Option (Int32 × tw_T)} (hk96 : ∀ {x1 : Int32} {x2 : Int32} {x3 : Int32} {x4 : Int32} {x5 : Int32} {T : tw_T} {r : Int32 × tw_T}, k96 x1 x2 x3 x4 x5 T = some r → vv_V l G MX4_next (d + 6) 96 [(0, .ref o), (1, .int x1), (2, .int x2), (3, .int x3), (4, .int x4), (5, .int x5)] [] (tp o h0 T, nz) (.inl (some (.int r.1)), (tp o h0 r.2, nz))) {k109 : Int32 → Int32 → Int32 → Int32 → Int32 → Int32 → Int32 → tw_T → Option (Int32 × tw_T)} (hk109 : ∀ {x1 : Int32} {x2 : Int32} {x3 : Int32} {x4 : Int32} {x5 : Int32} {x6 : Int32} {x7 : Int32} {T : tw_T} {r : Int32 × tw_T}, k109 x1 x2 x3 x4 x5 x6 x7 T = some r → vv_V l G MX4_next (d + 6) 109 [(0, .ref o), (1, .int x1), (2, .int x2), (3, .int x3), (4, .int x4), (5, .int x5), (6, .int x6), (7, .int x7)] [] (tp o h0 T, nz) (.inl (some (.int r.1)), (tp o h0 r.2, nz))) {k121 : Int32 → Int32 → Int32 → Int32 → Int32 → Int32 → Int32 → Int32 → Int32 → tw_T → Option (Int32 × tw_T)} (hk121 : ∀ {x1 : Int32} {x2 : Int32} {x3 : Int32} {x4 : Int32} {x5 : Int32} {x6 : Int32} {x7 : Int32} {x8 : Int32} {x9 : Int32} {T : tw_T} {r : Int32 × tw_T}, k121 x1 x2 x3 x4 x5 x6 x7 x8 x9 T = some r → vv_V l G MX4_next (d + 6) 121 [(0, .ref o), (1, .int x1), (2, .int x2), (3, .int x3), (4, .int x4), (5, .int x5), (6, .int x6), (7, .int x7), (8, .int x8), (9, .int x9)] [] (tp o h0 T, nz) (.inl (some (.int r.1)), (tp o h0 r.2, nz))) {x1 : Int32} {x2 : Int32} {x3 : Int32} {x4 : Int32} {x5 : Int32} {x6 : Int32} {x7 : Int32} {x8 : Int32} {x9 : Int32} {T : tw_T} {r : Int32 × tw_T} (h : B_next_121 k96 k109 k121 x1 x2 x3 x4 x5 x6 x7 x8 x9 T = some r) : vv_V l G MX4_next (d + 6) 121 [(0, .ref o), (1, .int x1), (2, .int x2), (3, .int x3), (4, .int x4), (5, .int x5), (6, .int x6), (7, .int x7), (8, .int x8), (9, .int x9)] [] (tp o h0 T, nz) (.inl (some (.int r.1)), (tp o h0 r.2, nz)) := by
  unfold B_next_121 at h
  refine vv_iload dX4_next_121 9 rfl ?_
  refine vv_iload dX4_next_123 7 rfl ?_
  refine vv_icmp_ge (tgt := 159) dX4_next_125 (by decide) (fun c1 => ?_) (fun c1 => ?_)
  · rw [if_pos c1] at h
    refine vv_sub (lv' := [(0, .ref o), (1, .int x1), (2, .int x2), (3, .int x3), (4, .int x4), (5, .int x5), (6, .int x6), (7, .int x7), (8, .int x8)]) [0, 1, 2, 3, 4, 5, 6, 7, 8] rfl ?_
    exact v_next_159 hG hk96 hk109 h
  · rw [if_neg c1] at h
    refine vv_iload dX4_next_128 8 rfl ?_
    refine vv_if_eq (tgt := 159) dX4_next_130 (by decide) (fun c2 => ?_) (fun c2 => ?_)
    · rw [if_pos c2] at h
      refine vv_sub (lv' := [(0, .ref o), (1, .int x1), (2, .int x2), (3, .int x3), (4, .int x4), (5, .int x5), (6, .int x6), (7, .int x7), (8, .int x8)]) [0, 1, 2, 3, 4, 5, 6, 7, 8] rfl ?_
      exact v_next_159 hG hk96 hk109 h
    · rw [if_neg c2] at h
      refine vv_aload_n dX4_next_133 rfl 0 rfl ?_
      refine vv_iload dX4_next_134 7 rfl ?_
      refine vv_iload dX4_next_136 9 rfl ?_
      refine vv_iload dX4_next_138 5 rfl ?_
      obtain ⟨r3, er3, h⟩ := bd_o h
      refine vv_callV ok_X4_areLike q2158 (m_areLike hG er3 (d + 5)) rfl (by omega) ⟨_, _, _, _, _, tp_o, by rw [hG.1]; rfl⟩ rfl rfl (Nat.le_of_ble_eq_true rfl) dX4_next_140 ?_
      refine vv_if_ne (tgt := 150) dX4_next_143 (by decide) (fun c4 => ?_) (fun c4 => ?_)
      · rw [if_neg c4] at h
        refine vv_iconst (v := (nI 0)) dX4_next_150 (by decide) ?_
        refine vv_sub (lv' := [(0, .ref o), (1, .int x1), (2, .int x2), (3, .int x3), (4, .int x4), (5, .int x5), (6, .int x6), (7, .int x7), (9, .int x9)]) [0, 1, 2, 3, 4, 5, 6, 7, 9] rfl ?_
        exact v_next_151 hG hk96 hk109 hk121 h
      · rw [if_pos c4] at h
        refine vv_iconst (v := (nI 1)) dX4_next_146 (by decide) ?_
        refine vv_goto (tgt := 151) dX4_next_147 (by decide) ?_
        refine vv_sub (lv' := [(0, .ref o), (1, .int x1), (2, .int x2), (3, .int x3), (4, .int x4), (5, .int x5), (6, .int x6), (7, .int x7), (9, .int x9)]) [0, 1, 2, 3, 4, 5, 6, 7, 9] rfl ?_
        exact v_next_151 hG hk96 hk109 hk121 h
theorem v_next_121 {l : Launch} {G : vv_G} {d : Nat} {o : Nat} {h0 : Nat → Option vv_E} {nz : Nat × Nat} (hG : vv_gok G) {k96 : Int32 → Int32 → Int32 → Int32 → Int32 → tw_T → Option (Int32 × tw_T)} (hk96 : ∀ {x1 : Int32} {x2 : Int32} {x3 : Int32} {x4 : Int32} {x5 : Int32} {T : tw_T} {r : Int32 × tw_T}, k96 x1 x2 x3 x4 x5 T = some r → vv_V l G MX4_next (d + 6) 96 [(0, .ref o), (1, .int x1), (2, .int x2), (3, .int x3), (4, .int x4), (5, .int x5)] [] (tp o h0 T, nz) (.inl (some (.int r.1)), (tp o h0 r.2, nz))) {k109 : Int32 → Int32 → Int32 → Int32 → Int32 → Int32 → Int32 → tw_T → Option (Int32 × tw_T)} (hk109 : ∀ {x1 : Int32} {x2 : Int32} {x3 : Int32} {x4 : Int32} {x5 : Int32} {x6 : Int32} {x7 : Int32} {T : tw_T} {r : Int32 × tw_T}, k109 x1 x2 x3 x4 x5 x6 x7 T = some r → vv_V l G MX4_next (d + 6) 109 [(0, .ref o), (1, .int x1), (2, .int x2), (3, .int x3), (4, .int x4), (5, .int x5), (6, .int x6), (7, .int x7)] [] (tp o h0 T, nz) (.inl (some (.int r.1)), (tp o h0 r.2, nz))) : ∀ (n : Nat) {x1 : Int32} {x2 : Int32} {x3 : Int32} {x4 : Int32} {x5 : Int32} {x6 : Int32} {x7 : Int32} {x8 : Int32} {x9 : Int32} {T : tw_T} {r : Int32 × tw_T}, J_next_121 k96 k109 n x1 x2 x3 x4 x5 x6 x7 x8 x9 T = some r → vv_V l G MX4_next (d + 6) 121 [(0, .ref o), (1, .int x1), (2, .int x2), (3, .int x3), (4, .int x4), (5, .int x5), (6, .int x6), (7, .int x7), (8, .int x8), (9, .int x9)] [] (tp o h0 T, nz) (.inl (some (.int r.1)), (tp o h0 r.2, nz)) := by
  intro n
  induction n with
  | zero => intro _ _ _ _ _ _ _ _ _ _ _ h; cases h
  | succ n ih => intro _ _ _ _ _ _ _ _ _ _ _ h; exact vb_next_121 hG hk96 hk109 ih h
def B_next_109 (k96 : Int32 → Int32 → Int32 → Int32 → Int32 → tw_T → Option (Int32 × tw_T)) (k109 : Int32 → Int32 → Int32 → Int32 → Int32 → Int32 → Int32 → tw_T → Option (Int32 × tw_T)) (x1 : Int32) (x2 : Int32) (x3 : Int32) (x4 : Int32) (x5 : Int32) (x6 : Int32) (x7 : Int32) (T : tw_T) : Option (Int32 × tw_T) := if x2 ≤ x7 then (if x4 < x6 then (J_next_197 k96 x1 x2 x5 x6 x5 T) else (J_next_197 k96 x1 x2 x3 x4 x5 T)) else (J_next_121 k96 k109 NN x1 x2 x3 x4 x5 x6 x7 (nI 1) (nI 0) T)
def J_next_109 (k96 : Int32 → Int32 → Int32 → Int32 → Int32 → tw_T → Option (Int32 × tw_T)) : Nat → Int32 → Int32 → Int32 → Int32 → Int32 → Int32 → Int32 → tw_T → Option (Int32 × tw_T)
  | 0, _, _, _, _, _, _, _, _ => none
  | n + 1, x1, x2, x3, x4, x5, x6, x7, T => B_next_109 k96 (J_next_109 k96 n) x1 x2 x3 x4 x5 x6 x7 T
theorem vb_next_109 {l : Launch} {G : vv_G} {d : Nat} {o : Nat} {h0 : Nat → Option vv_E} {nz : Nat × Nat} (hG : vv_gok G) {k96 : Int32 → Int32 → Int32 → Int32 → Int32 → tw_T → Option (Int32 × tw_T)} (hk96 : ∀ {x1 : Int32} {x2 : Int32} {x3 : Int32} {x4 : Int32} {x5 : Int32} {T : tw_T} {r : Int32 × tw_T}, k96 x1 x2 x3 x4 x5 T = some r → vv_V l G MX4_next (d + 6) 96 [(0, .ref o), (1, .int x1), (2, .int x2), (3, .int x3), (4, .int x4), (5, .int x5)] [] (tp o h0 T, nz) (.inl (some (.int r.1)), (tp o h0 r.2, nz))) {k109 : Int32 → Int32 → Int32 → Int32 → Int32 → Int32 → Int32 → tw_T → Option (Int32 × tw_T)} (hk109 : ∀ {x1 : Int32} {x2 : Int32} {x3 : Int32} {x4 : Int32} {x5 : Int32} {x6 : Int32} {x7 : Int32} {T : tw_T} {r : Int32 × tw_T}, k109 x1 x2 x3 x4 x5 x6 x7 T = some r → vv_V l G MX4_next (d + 6) 109 [(0, .ref o), (1, .int x1), (2, .int x2), (3, .int x3), (4, .int x4), (5, .int x5), (6, .int x6), (7, .int x7)] [] (tp o h0 T, nz) (.inl (some (.int r.1)), (tp o h0 r.2, nz))) {x1 : Int32} {x2 : Int32} {x3 : Int32} {x4 : Int32} {x5 : Int32} {x6 : Int32} {x7 : Int32} {T : tw_T} {r : Int32 × tw_T} (h : B_next_109 k96 k109 x1 x2 x3 x4 x5 x6 x7 T = some r) : vv_V l G MX4_next (d + 6) 109 [(0, .ref o), (1, .int x1), (2, .int x2), (3, .int x3), (4, .int x4), (5, .int x5), (6, .int x6), (7, .int x7)] [] (tp o h0 T, nz) (.inl (some (.int r.1)), (tp o h0 r.2, nz)) := by
  unfold B_next_109 at h
  refine vv_iload dX4_next_109 7 rfl ?_
  refine vv_iload_n dX4_next_111 rfl 2 rfl ?_
  refine vv_icmp_ge (tgt := 180) dX4_next_112 (by decide) (fun c1 => ?_) (fun c1 => ?_)
  · rw [if_pos c1] at h
    refine vv_iload dX4_next_180 6 rfl ?_
    refine vv_iload dX4_next_182 4 rfl ?_
    refine vv_icmp_gt (tgt := 190) dX4_next_184 (by decide) (fun c2 => ?_) (fun c2 => ?_)
    · rw [if_pos c2] at h
      refine vv_iload dX4_next_190 5 rfl ?_
      refine vv_istore_n (lv' := [(0, .ref o), (1, .int x1), (2, .int x2), (3, .int x5), (4, .int x4), (5, .int x5), (6, .int x6), (7, .int x7)]) dX4_next_192 rfl (by decide) [1, 2, 3, 0, 4, 5, 6, 7] rfl ?_
      refine vv_iload dX4_next_193 6 rfl ?_
      refine vv_istore (lv' := [(0, .ref o), (1, .int x1), (2, .int x2), (3, .int x5), (4, .int x6), (5, .int x5), (6, .int x6), (7, .int x7)]) dX4_next_195 (by decide) [1, 2, 3, 4, 0, 5, 6, 7] rfl ?_
      refine vv_sub (lv' := [(0, .ref o), (1, .int x1), (2, .int x2), (3, .int x5), (4, .int x6), (5, .int x5)]) [0, 1, 2, 3, 4, 5] rfl ?_
      exact v_next_197 hG hk96 h
    · rw [if_neg c2] at h
      refine vv_goto (tgt := 197) dX4_next_187 (by decide) ?_
      refine vv_sub (lv' := [(0, .ref o), (1, .int x1), (2, .int x2), (3, .int x3), (4, .int x4), (5, .int x5)]) [0, 1, 2, 3, 4, 5] rfl ?_
      exact v_next_197 hG hk96 h
  · rw [if_neg c1] at h
    refine vv_iconst (v := (nI 1)) dX4_next_115 (by decide) ?_
    refine vv_istore (lv' := [(0, .ref o), (1, .int x1), (2, .int x2), (3, .int x3), (4, .int x4), (5, .int x5), (6, .int x6), (7, .int x7), (8, .int (nI 1))]) dX4_next_116 (by decide) [1, 2, 3, 4, 5, 6, 7, 8, 0] rfl ?_
    refine vv_iconst (v := (nI 0)) dX4_next_118 (by decide) ?_
    refine vv_istore (lv' := [(0, .ref o), (1, .int x1), (2, .int x2), (3, .int x3), (4, .int x4), (5, .int x5), (6, .int x6), (7, .int x7), (8, .int (nI 1)), (9, .int (nI 0))]) dX4_next_119 (by decide) [1, 2, 3, 4, 5, 6, 7, 8, 9, 0] rfl ?_
    exact v_next_121 hG hk96 hk109 NN h
theorem v_next_109 {l : Launch} {G : vv_G} {d : Nat} {o : Nat} {h0 : Nat → Option vv_E} {nz : Nat × Nat} (hG : vv_gok G) {k96 : Int32 → Int32 → Int32 → Int32 → Int32 → tw_T → Option (Int32 × tw_T)} (hk96 : ∀ {x1 : Int32} {x2 : Int32} {x3 : Int32} {x4 : Int32} {x5 : Int32} {T : tw_T} {r : Int32 × tw_T}, k96 x1 x2 x3 x4 x5 T = some r → vv_V l G MX4_next (d + 6) 96 [(0, .ref o), (1, .int x1), (2, .int x2), (3, .int x3), (4, .int x4), (5, .int x5)] [] (tp o h0 T, nz) (.inl (some (.int r.1)), (tp o h0 r.2, nz))) : ∀ (n : Nat) {x1 : Int32} {x2 : Int32} {x3 : Int32} {x4 : Int32} {x5 : Int32} {x6 : Int32} {x7 : Int32} {T : tw_T} {r : Int32 × tw_T}, J_next_109 k96 n x1 x2 x3 x4 x5 x6 x7 T = some r → vv_V l G MX4_next (d + 6) 109 [(0, .ref o), (1, .int x1), (2, .int x2), (3, .int x3), (4, .int x4), (5, .int x5), (6, .int x6), (7, .int x7)] [] (tp o h0 T, nz) (.inl (some (.int r.1)), (tp o h0 r.2, nz)) := by
  intro n
  induction n with
  | zero => intro _ _ _ _ _ _ _ _ _ h; cases h
  | succ n ih => intro _ _ _ _ _ _ _ _ _ h; exact vb_next_109 hG hk96 ih h
def B_next_96 (k96 : Int32 → Int32 → Int32 → Int32 → Int32 → tw_T → Option (Int32 × tw_T)) (x1 : Int32) (x2 : Int32) (x3 : Int32) (x4 : Int32) (x5 : Int32) (T : tw_T) : Option (Int32 × tw_T) := if (nI 30) < x5 then (if x1 = 0 then (J_next_213 x3 T) else (J_next_213 x4 T)) else (J_next_109 k96 NN x1 x2 x3 x4 x5 (nI 0) (nI 0) T)
def J_next_96 : Nat → Int32 → Int32 → Int32 → Int32 → Int32 → tw_T → Option (Int32 × tw_T)
  | 0, _, _, _, _, _, _ => none
  | n + 1, x1, x2, x3, x4, x5, T => B_next_96 (J_next_96 n) x1 x2 x3 x4 x5 T
theorem vb_next_96 {l : Launch} {G : vv_G} {d : Nat} {o : Nat} {h0 : Nat → Option vv_E} {nz : Nat × Nat} (hG : vv_gok G) {k96 : Int32 → Int32 → Int32 → Int32 → Int32 → tw_T → Option (Int32 × tw_T)} (hk96 : ∀ {x1 : Int32} {x2 : Int32} {x3 : Int32} {x4 : Int32} {x5 : Int32} {T : tw_T} {r : Int32 × tw_T}, k96 x1 x2 x3 x4 x5 T = some r → vv_V l G MX4_next (d + 6) 96 [(0, .ref o), (1, .int x1), (2, .int x2), (3, .int x3), (4, .int x4), (5, .int x5)] [] (tp o h0 T, nz) (.inl (some (.int r.1)), (tp o h0 r.2, nz))) {x1 : Int32} {x2 : Int32} {x3 : Int32} {x4 : Int32} {x5 : Int32} {T : tw_T} {r : Int32 × tw_T} (h : B_next_96 k96 x1 x2 x3 x4 x5 T = some r) : vv_V l G MX4_next (d + 6) 96 [(0, .ref o), (1, .int x1), (2, .int x2), (3, .int x3), (4, .int x4), (5, .int x5)] [] (tp o h0 T, nz) (.inl (some (.int r.1)), (tp o h0 r.2, nz)) := by
  unfold B_next_96 at h
  refine vv_iload dX4_next_96 5 rfl ?_
  refine vv_bipush (v := (nI 30)) dX4_next_98 (by decide) ?_
  refine vv_icmp_gt (tgt := 203) dX4_next_100 (by decide) (fun c1 => ?_) (fun c1 => ?_)
  · rw [if_pos c1] at h
    refine vv_iload_n dX4_next_203 rfl 1 rfl ?_
    refine vv_if_ne (tgt := 211) dX4_next_204 (by decide) (fun c2 => ?_) (fun c2 => ?_)
    · rw [if_neg c2] at h
      refine vv_iload dX4_next_211 4 rfl ?_
      refine vv_sub (lv' := [(0, .ref o)]) [0] rfl ?_
      exact v_next_213 hG h
    · rw [if_pos c2] at h
      refine vv_iload_n dX4_next_207 rfl 3 rfl ?_
      refine vv_goto (tgt := 213) dX4_next_208 (by decide) ?_
      refine vv_sub (lv' := [(0, .ref o)]) [0] rfl ?_
      exact v_next_213 hG h
  · rw [if_neg c1] at h
    refine vv_iconst (v := (nI 0)) dX4_next_103 (by decide) ?_
    refine vv_istore (lv' := [(0, .ref o), (1, .int x1), (2, .int x2), (3, .int x3), (4, .int x4), (5, .int x5), (6, .int (nI 0))]) dX4_next_104 (by decide) [1, 2, 3, 4, 5, 6, 0] rfl ?_
    refine vv_iconst (v := (nI 0)) dX4_next_106 (by decide) ?_
    refine vv_istore (lv' := [(0, .ref o), (1, .int x1), (2, .int x2), (3, .int x3), (4, .int x4), (5, .int x5), (6, .int (nI 0)), (7, .int (nI 0))]) dX4_next_107 (by decide) [1, 2, 3, 4, 5, 6, 7, 0] rfl ?_
    exact v_next_109 hG hk96 NN h
theorem v_next_96 {l : Launch} {G : vv_G} {d : Nat} {o : Nat} {h0 : Nat → Option vv_E} {nz : Nat × Nat} (hG : vv_gok G) : ∀ (n : Nat) {x1 : Int32} {x2 : Int32} {x3 : Int32} {x4 : Int32} {x5 : Int32} {T : tw_T} {r : Int32 × tw_T}, J_next_96 n x1 x2 x3 x4 x5 T = some r → vv_V l G MX4_next (d + 6) 96 [(0, .ref o), (1, .int x1), (2, .int x2), (3, .int x3), (4, .int x4), (5, .int x5)] [] (tp o h0 T, nz) (.inl (some (.int r.1)), (tp o h0 r.2, nz)) := by
  intro n
  induction n with
  | zero => intro _ _ _ _ _ _ _ h; cases h
  | succ n ih => intro _ _ _ _ _ _ _ h; exact vb_next_96 hG ih h
def J_next_82 (k20 : Int32 → Int32 → Int32 → tw_T → Option (Int32 × tw_T)) (x1 : Int32) (x2 : Int32) (x3 : Int32) (T : tw_T) : Option (Int32 × tw_T) := k20 x1 x2 (x3 + (nI 1)) T
theorem v_next_82 {l : Launch} {G : vv_G} {d : Nat} {o : Nat} {h0 : Nat → Option vv_E} {nz : Nat × Nat} (hG : vv_gok G) {k20 : Int32 → Int32 → Int32 → tw_T → Option (Int32 × tw_T)} (hk20 : ∀ {x1 : Int32} {x2 : Int32} {x3 : Int32} {T : tw_T} {r : Int32 × tw_T}, k20 x1 x2 x3 T = some r → vv_V l G MX4_next (d + 6) 20 [(0, .ref o), (1, .int x1), (2, .int x2), (3, .int x3)] [] (tp o h0 T, nz) (.inl (some (.int r.1)), (tp o h0 r.2, nz))) {x1 : Int32} {x2 : Int32} {x3 : Int32} {T : tw_T} {r : Int32 × tw_T} (h : J_next_82 k20 x1 x2 x3 T = some r) : vv_V l G MX4_next (d + 6) 82 [(0, .ref o), (1, .int x1), (2, .int x2), (3, .int x3)] [] (tp o h0 T, nz) (.inl (some (.int r.1)), (tp o h0 r.2, nz)) := by
  unfold J_next_82 at h
  refine vv_iinc (v := (x3 + (nI 1))) (lv' := [(0, .ref o), (1, .int x1), (2, .int x2), (3, .int (x3 + (nI 1)))]) dX4_next_82 3 rfl rfl (by decide) [1, 2, 3, 0] rfl ?_
  refine vv_goto (tgt := 20) dX4_next_85 (by decide) ?_
  exact hk20 h
def B_next_45 (k20 : Int32 → Int32 → Int32 → tw_T → Option (Int32 × tw_T)) (k45 : Int32 → Int32 → Int32 → Int32 → tw_T → Option (Int32 × tw_T)) (x1 : Int32) (x2 : Int32) (x3 : Int32) (x4 : Int32) (T : tw_T) : Option (Int32 × tw_T) := if (nI 248) ≤ x4 then (J_next_82 k20 x1 (x2 + (nI 1)) x3 T) else ((rdI 248 (T.2.2 29) x4).bind fun v2 => (stA T 30 24800 (((nI 248) * x2) + x4) v2).bind fun T3 => k45 x1 x2 x3 (x4 + (nI 1)) T3)
def J_next_45 (k20 : Int32 → Int32 → Int32 → tw_T → Option (Int32 × tw_T)) : Nat → Int32 → Int32 → Int32 → Int32 → tw_T → Option (Int32 × tw_T)
  | 0, _, _, _, _, _ => none
  | n + 1, x1, x2, x3, x4, T => B_next_45 k20 (J_next_45 k20 n) x1 x2 x3 x4 T
theorem vb_next_45 {l : Launch} {G : vv_G} {d : Nat} {o : Nat} {h0 : Nat → Option vv_E} {nz : Nat × Nat} (hG : vv_gok G) {k20 : Int32 → Int32 → Int32 → tw_T → Option (Int32 × tw_T)} (hk20 : ∀ {x1 : Int32} {x2 : Int32} {x3 : Int32} {T : tw_T} {r : Int32 × tw_T}, k20 x1 x2 x3 T = some r → vv_V l G MX4_next (d + 6) 20 [(0, .ref o), (1, .int x1), (2, .int x2), (3, .int x3)] [] (tp o h0 T, nz) (.inl (some (.int r.1)), (tp o h0 r.2, nz))) {k45 : Int32 → Int32 → Int32 → Int32 → tw_T → Option (Int32 × tw_T)} (hk45 : ∀ {x1 : Int32} {x2 : Int32} {x3 : Int32} {x4 : Int32} {T : tw_T} {r : Int32 × tw_T}, k45 x1 x2 x3 x4 T = some r → vv_V l G MX4_next (d + 6) 45 [(0, .ref o), (1, .int x1), (2, .int x2), (3, .int x3), (4, .int x4)] [] (tp o h0 T, nz) (.inl (some (.int r.1)), (tp o h0 r.2, nz))) {x1 : Int32} {x2 : Int32} {x3 : Int32} {x4 : Int32} {T : tw_T} {r : Int32 × tw_T} (h : B_next_45 k20 k45 x1 x2 x3 x4 T = some r) : vv_V l G MX4_next (d + 6) 45 [(0, .ref o), (1, .int x1), (2, .int x2), (3, .int x3), (4, .int x4)] [] (tp o h0 T, nz) (.inl (some (.int r.1)), (tp o h0 r.2, nz)) := by
  unfold B_next_45 at h
  refine vv_iload dX4_next_45 4 rfl ?_
  refine vv_sipush (v := (nI 248)) dX4_next_47 (by decide) ?_
  refine vv_icmp_ge (tgt := 79) dX4_next_50 (by decide) (fun c1 => ?_) (fun c1 => ?_)
  · rw [if_pos c1] at h
    refine vv_iinc (v := (x2 + (nI 1))) (lv' := [(0, .ref o), (1, .int x1), (2, .int (x2 + (nI 1))), (3, .int x3), (4, .int x4)]) dX4_next_79 2 rfl rfl (by decide) [1, 2, 0, 3, 4] rfl ?_
    refine vv_sub (lv' := [(0, .ref o), (1, .int x1), (2, .int (x2 + (nI 1))), (3, .int x3)]) [0, 1, 2, 3] rfl ?_
    exact v_next_82 hG hk20 h
  · rw [if_neg c1] at h
    refine vv_aload_n dX4_next_53 rfl 0 rfl ?_
    refine tw_get (fl_X4_105 hG) (k := 55) rfl dX4_next_54 ?_
    refine vv_sipush (v := (nI 248)) dX4_next_57 (by decide) ?_
    refine vv_iload_n dX4_next_60 rfl 2 rfl ?_
    refine vv_imul dX4_next_61 ?_
    refine vv_iload dX4_next_62 4 rfl ?_
    refine vv_iadd dX4_next_64 ?_
    refine vv_aload_n dX4_next_65 rfl 0 rfl ?_
    refine tw_get (fl_X4_102 hG) (k := 54) rfl dX4_next_66 ?_
    refine vv_iload dX4_next_69 4 rfl ?_
    obtain ⟨v2, iv2, ev2, h⟩ := rd_o h
    refine tw_ald 29 (by decide) rfl iv2 ev2 dX4_next_71 ?_
    obtain ⟨T3, iT3, eT3, h⟩ := st_o h
    refine tw_ast 30 (by decide) rfl iT3 eT3 dX4_next_72 ?_
    refine vv_iinc (v := (x4 + (nI 1))) (lv' := [(0, .ref o), (1, .int x1), (2, .int x2), (3, .int x3), (4, .int (x4 + (nI 1)))]) dX4_next_73 4 rfl rfl (by decide) [1, 2, 3, 4, 0] rfl ?_
    refine vv_goto (tgt := 45) dX4_next_76 (by decide) ?_
    exact hk45 h
theorem v_next_45 {l : Launch} {G : vv_G} {d : Nat} {o : Nat} {h0 : Nat → Option vv_E} {nz : Nat × Nat} (hG : vv_gok G) {k20 : Int32 → Int32 → Int32 → tw_T → Option (Int32 × tw_T)} (hk20 : ∀ {x1 : Int32} {x2 : Int32} {x3 : Int32} {T : tw_T} {r : Int32 × tw_T}, k20 x1 x2 x3 T = some r → vv_V l G MX4_next (d + 6) 20 [(0, .ref o), (1, .int x1), (2, .int x2), (3, .int x3)] [] (tp o h0 T, nz) (.inl (some (.int r.1)), (tp o h0 r.2, nz))) : ∀ (n : Nat) {x1 : Int32} {x2 : Int32} {x3 : Int32} {x4 : Int32} {T : tw_T} {r : Int32 × tw_T}, J_next_45 k20 n x1 x2 x3 x4 T = some r → vv_V l G MX4_next (d + 6) 45 [(0, .ref o), (1, .int x1), (2, .int x2), (3, .int x3), (4, .int x4)] [] (tp o h0 T, nz) (.inl (some (.int r.1)), (tp o h0 r.2, nz)) := by
  intro n
  induction n with
  | zero => intro _ _ _ _ _ _ h; cases h
  | succ n ih => intro _ _ _ _ _ _ h; exact vb_next_45 hG hk20 ih h
def B_next_20 (k20 : Int32 → Int32 → Int32 → tw_T → Option (Int32 × tw_T)) (x1 : Int32) (x2 : Int32) (x3 : Int32) (T : tw_T) : Option (Int32 × tw_T) := if ((nI 10) * (T.1 3)) ≤ x3 then (J_next_96 NN x1 x2 (-1) (nI 0) (nI 0) T) else ((J_isGuess x3 T).bind fun r2 => if r2.1 = 0 then (J_next_82 k20 x1 x2 x3 r2.2) else (J_next_45 k20 NN x1 x2 x3 (nI 0) r2.2))
def J_next_20 : Nat → Int32 → Int32 → Int32 → tw_T → Option (Int32 × tw_T)
  | 0, _, _, _, _ => none
  | n + 1, x1, x2, x3, T => B_next_20 (J_next_20 n) x1 x2 x3 T
theorem vb_next_20 {l : Launch} {G : vv_G} {d : Nat} {o : Nat} {h0 : Nat → Option vv_E} {nz : Nat × Nat} (hG : vv_gok G) {k20 : Int32 → Int32 → Int32 → tw_T → Option (Int32 × tw_T)} (hk20 : ∀ {x1 : Int32} {x2 : Int32} {x3 : Int32} {T : tw_T} {r : Int32 × tw_T}, k20 x1 x2 x3 T = some r → vv_V l G MX4_next (d + 6) 20 [(0, .ref o), (1, .int x1), (2, .int x2), (3, .int x3)] [] (tp o h0 T, nz) (.inl (some (.int r.1)), (tp o h0 r.2, nz))) {x1 : Int32} {x2 : Int32} {x3 : Int32} {T : tw_T} {r : Int32 × tw_T} (h : B_next_20 k20 x1 x2 x3 T = some r) : vv_V l G MX4_next (d + 6) 20 [(0, .ref o), (1, .int x1), (2, .int x2), (3, .int x3)] [] (tp o h0 T, nz) (.inl (some (.int r.1)), (tp o h0 r.2, nz)) := by
  unfold B_next_20 at h
  refine vv_iload_n dX4_next_20 rfl 3 rfl ?_
  refine vv_bipush (v := (nI 10)) dX4_next_21 (by decide) ?_
  refine vv_aload_n dX4_next_23 rfl 0 rfl ?_
  refine tw_get (fl_X4_287 hG) (k := 3) rfl dX4_next_24 ?_
  refine vv_imul dX4_next_27 ?_
  refine vv_icmp_ge (tgt := 88) dX4_next_28 (by decide) (fun c1 => ?_) (fun c1 => ?_)
  · rw [if_pos c1] at h
    refine vv_iconst (v := (-1)) dX4_next_88 (by decide) ?_
    refine vv_istore_n (lv' := [(0, .ref o), (1, .int x1), (2, .int x2), (3, .int (-1))]) dX4_next_89 rfl (by decide) [1, 2, 3, 0] rfl ?_
    refine vv_iconst (v := (nI 0)) dX4_next_90 (by decide) ?_
    refine vv_istore (lv' := [(0, .ref o), (1, .int x1), (2, .int x2), (3, .int (-1)), (4, .int (nI 0))]) dX4_next_91 (by decide) [1, 2, 3, 4, 0] rfl ?_
    refine vv_iconst (v := (nI 0)) dX4_next_93 (by decide) ?_
    refine vv_istore (lv' := [(0, .ref o), (1, .int x1), (2, .int x2), (3, .int (-1)), (4, .int (nI 0)), (5, .int (nI 0))]) dX4_next_94 (by decide) [1, 2, 3, 4, 5, 0] rfl ?_
    exact v_next_96 hG NN h
  · rw [if_neg c1] at h
    refine vv_aload_n dX4_next_31 rfl 0 rfl ?_
    refine vv_iload_n dX4_next_32 rfl 3 rfl ?_
    obtain ⟨r2, er2, h⟩ := bd_o h
    refine vv_callV ok_X4_isGuess q2150 (m_isGuess hG er2 (d + 0)) rfl (by omega) ⟨_, _, _, _, _, tp_o, by rw [hG.1]; rfl⟩ rfl rfl (Nat.le_of_ble_eq_true rfl) dX4_next_33 ?_
    refine vv_if_ne (tgt := 42) dX4_next_36 (by decide) (fun c3 => ?_) (fun c3 => ?_)
    · rw [if_neg c3] at h
      refine vv_iconst (v := (nI 0)) dX4_next_42 (by decide) ?_
      refine vv_istore (lv' := [(0, .ref o), (1, .int x1), (2, .int x2), (3, .int x3), (4, .int (nI 0))]) dX4_next_43 (by decide) [1, 2, 3, 4, 0] rfl ?_
      exact v_next_45 hG hk20 NN h
    · rw [if_pos c3] at h
      refine vv_goto (tgt := 82) dX4_next_39 (by decide) ?_
      exact v_next_82 hG hk20 h
theorem v_next_20 {l : Launch} {G : vv_G} {d : Nat} {o : Nat} {h0 : Nat → Option vv_E} {nz : Nat × Nat} (hG : vv_gok G) : ∀ (n : Nat) {x1 : Int32} {x2 : Int32} {x3 : Int32} {T : tw_T} {r : Int32 × tw_T}, J_next_20 n x1 x2 x3 T = some r → vv_V l G MX4_next (d + 6) 20 [(0, .ref o), (1, .int x1), (2, .int x2), (3, .int x3)] [] (tp o h0 T, nz) (.inl (some (.int r.1)), (tp o h0 r.2, nz)) := by
  intro n
  induction n with
  | zero => intro _ _ _ _ _ h; cases h
  | succ n ih => intro _ _ _ _ _ h; exact vb_next_20 hG ih h
def J_next (x1 : Int32) (T : tw_T) : Option (Int32 × tw_T) := (some (tw_F T 0 (nI 0))).bind fun T1 => (J_isWhat x1 (nI 1) T1).bind fun r2 => if r2.1 = 0 then (some ((nI 0), r2.2)) else (J_next_20 NN x1 (nI 0) (nI 0) r2.2)
theorem v_next_0 {l : Launch} {G : vv_G} {d : Nat} {o : Nat} {h0 : Nat → Option vv_E} {nz : Nat × Nat} (hG : vv_gok G) {x1 : Int32} {T : tw_T} {r : Int32 × tw_T} (h : J_next x1 T = some r) : vv_V l G MX4_next (d + 6) 0 [(0, .ref o), (1, .int x1)] [] (tp o h0 T, nz) (.inl (some (.int r.1)), (tp o h0 r.2, nz)) := by
  unfold J_next at h
  refine vv_aload_n dX4_next_0 rfl 0 rfl ?_
  refine vv_iconst (v := (nI 0)) dX4_next_1 (by decide) ?_
  obtain ⟨T1, eT1, h⟩ := bd_s h
  refine tw_put (T1 := T1) (pt_X4_117 hG) hG rfl rfl rfl (by decide) (by rw [eT1]; exact tw_set0 _ _ _) (by rw [eT1]; rfl) dX4_next_2 ?_
  refine vv_aload_n dX4_next_5 rfl 0 rfl ?_
  refine vv_iload_n dX4_next_6 rfl 1 rfl ?_
  refine vv_iconst (v := (nI 1)) dX4_next_7 (by decide) ?_
  obtain ⟨r2, er2, h⟩ := bd_o h
  refine vv_callV ok_X4_isWhat q1939 (m_isWhat hG er2 (d + 4)) rfl (by omega) ⟨_, _, _, _, _, tp_o, by rw [hG.1]; rfl⟩ rfl rfl (Nat.le_of_ble_eq_true rfl) dX4_next_8 ?_
  refine vv_if_ne (tgt := 16) dX4_next_11 (by decide) (fun c3 => ?_) (fun c3 => ?_)
  · rw [if_neg c3] at h
    refine vv_iconst (v := (nI 0)) dX4_next_16 (by decide) ?_
    refine vv_istore_n (lv' := [(0, .ref o), (1, .int x1), (2, .int (nI 0))]) dX4_next_17 rfl (by decide) [1, 2, 0] rfl ?_
    refine vv_iconst (v := (nI 0)) dX4_next_18 (by decide) ?_
    refine vv_istore_n (lv' := [(0, .ref o), (1, .int x1), (2, .int (nI 0)), (3, .int (nI 0))]) dX4_next_19 rfl (by decide) [1, 2, 3, 0] rfl ?_
    exact v_next_20 hG NN h
  · rw [if_pos c3] at h
    refine vv_iconst (v := (nI 0)) dX4_next_14 (by decide) ?_
    cases h
    exact vv_iret rfl dX4_next_15
theorem m_next {l : Launch} {G : vv_G} {o : Nat} {h0 : Nat → Option vv_E} {nz : Nat × Nat} (hG : vv_gok G) {x1 : Int32} {T : tw_T} {r : Int32 × tw_T} (h : J_next x1 T = some r) (d : Nat) : vv_Met l G MX4_next (d + 6) [.ref o, .int x1] (tp o h0 T, nz) (.inl (some (.int r.1)), (tp o h0 r.2, nz)) := vv_head (by decide +kernel) rfl (Nat.le_of_ble_eq_true rfl) rfl (v_next_0 hG h)
/-! pooled -/
def B_pooled_39 (k39 : Int32 → Int32 → Int32 → tw_T → Option (Int32 × tw_T)) (x1 : Int32) (x2 : Int32) (x3 : Int32) (T : tw_T) : Option (Int32 × tw_T) := if (T.1 1) ≤ x3 then ((J_daysGo x1 T).bind fun r2 => (J_allOf (nI 102) r2).bind fun r3 => some ((r3.1 - x2), r3.2)) else ((J_allOf (nI 1) T).bind fun r4 => (dvI r4.1 (r4.2.1 1)).bind fun v5 => (stA r4.2 20 170 ((nI 86) + x3) v5).bind fun T7 => (J_allOf (nI 9) T7).bind fun r8 => (dvI r8.1 (r8.2.1 1)).bind fun v9 => (stA r8.2 20 170 ((nI 94) + x3) v9).bind fun T11 => k39 x1 x2 (x3 + (nI 1)) T11)
def J_pooled_39 : Nat → Int32 → Int32 → Int32 → tw_T → Option (Int32 × tw_T)
  | 0, _, _, _, _ => none
  | n + 1, x1, x2, x3, T => B_pooled_39 (J_pooled_39 n) x1 x2 x3 T
theorem vb_pooled_39 {l : Launch} {G : vv_G} {d : Nat} {o : Nat} {h0 : Nat → Option vv_E} {nz : Nat × Nat} (hG : vv_gok G) {k39 : Int32 → Int32 → Int32 → tw_T → Option (Int32 × tw_T)} (hk39 : ∀ {x1 : Int32} {x2 : Int32} {x3 : Int32} {T : tw_T} {r : Int32 × tw_T}, k39 x1 x2 x3 T = some r → vv_V l G MX4_pooled (d + 5) 39 [(0, .ref o), (1, .int x1), (2, .int x2), (3, .int x3)] [] (tp o h0 T, nz) (.inl (some (.int r.1)), (tp o h0 r.2, nz))) {x1 : Int32} {x2 : Int32} {x3 : Int32} {T : tw_T} {r : Int32 × tw_T} (h : B_pooled_39 k39 x1 x2 x3 T = some r) : vv_V l G MX4_pooled (d + 5) 39 [(0, .ref o), (1, .int x1), (2, .int x2), (3, .int x3)] [] (tp o h0 T, nz) (.inl (some (.int r.1)), (tp o h0 r.2, nz)) := by
  unfold B_pooled_39 at h
  refine vv_iload_n dX4_pooled_39 rfl 3 rfl ?_
  refine vv_aload_n dX4_pooled_40 rfl 0 rfl ?_
  refine tw_get (fl_X4_281 hG) (k := 1) rfl dX4_pooled_41 ?_
  refine vv_icmp_ge (tgt := 92) dX4_pooled_44 (by decide) (fun c1 => ?_) (fun c1 => ?_)
  · rw [if_pos c1] at h
    refine vv_aload_n dX4_pooled_92 rfl 0 rfl ?_
    refine vv_iload_n dX4_pooled_93 rfl 1 rfl ?_
    obtain ⟨r2, er2, h⟩ := bd_o h
    refine vv_callV ok_X4_daysGo q2043 (m_daysGo hG er2 (d + 0)) rfl (by omega) ⟨_, _, _, _, _, tp_o, by rw [hG.1]; rfl⟩ rfl rfl (Nat.le_of_ble_eq_true rfl) dX4_pooled_94 ?_
    refine vv_aload_n dX4_pooled_97 rfl 0 rfl ?_
    refine vv_bipush (v := (nI 102)) dX4_pooled_98 (by decide) ?_
    obtain ⟨r3, er3, h⟩ := bd_o h
    refine vv_callV ok_X4_allOf q1911 (m_allOf hG er3 (d + 4)) rfl (by omega) ⟨_, _, _, _, _, tp_o, by rw [hG.1]; rfl⟩ rfl rfl (Nat.le_of_ble_eq_true rfl) dX4_pooled_100 ?_
    refine vv_iload_n dX4_pooled_103 rfl 2 rfl ?_
    refine vv_isub dX4_pooled_104 ?_
    cases h
    exact vv_iret rfl dX4_pooled_105
  · rw [if_neg c1] at h
    refine vv_aload_n dX4_pooled_47 rfl 0 rfl ?_
    refine tw_get (fl_X4_75 hG) (k := 42) rfl dX4_pooled_48 ?_
    refine vv_bipush (v := (nI 86)) dX4_pooled_51 (by decide) ?_
    refine vv_iload_n dX4_pooled_53 rfl 3 rfl ?_
    refine vv_iadd dX4_pooled_54 ?_
    refine vv_aload_n dX4_pooled_55 rfl 0 rfl ?_
    refine vv_iconst (v := (nI 1)) dX4_pooled_56 (by decide) ?_
    obtain ⟨r4, er4, h⟩ := bd_o h
    refine vv_callV ok_X4_allOf q1911 (m_allOf hG er4 (d + 4)) rfl (by omega) ⟨_, _, _, _, _, tp_o, by rw [hG.1]; rfl⟩ rfl rfl (Nat.le_of_ble_eq_true rfl) dX4_pooled_57 ?_
    refine vv_aload_n dX4_pooled_60 rfl 0 rfl ?_
    refine tw_get (fl_X4_281 hG) (k := 1) rfl dX4_pooled_61 ?_
    obtain ⟨hz6, h⟩ := dv_o h
    refine vv_idiv dX4_pooled_64 hz6 ?_
    obtain ⟨v5, ev5⟩ : ∃ z, z = (r4.1 / (r4.2.1 1)) := ⟨_, rfl⟩
    rw [← ev5] at h ⊢
    obtain ⟨T7, iT7, eT7, h⟩ := st_o h
    refine tw_ast 20 (by decide) rfl iT7 eT7 dX4_pooled_65 ?_
    refine vv_aload_n dX4_pooled_66 rfl 0 rfl ?_
    refine tw_get (fl_X4_75 hG) (k := 42) rfl dX4_pooled_67 ?_
    refine vv_bipush (v := (nI 94)) dX4_pooled_70 (by decide) ?_
    refine vv_iload_n dX4_pooled_72 rfl 3 rfl ?_
    refine vv_iadd dX4_pooled_73 ?_
    refine vv_aload_n dX4_pooled_74 rfl 0 rfl ?_
    refine vv_bipush (v := (nI 9)) dX4_pooled_75 (by decide) ?_
    obtain ⟨r8, er8, h⟩ := bd_o h
    refine vv_callV ok_X4_allOf q1911 (m_allOf hG er8 (d + 4)) rfl (by omega) ⟨_, _, _, _, _, tp_o, by rw [hG.1]; rfl⟩ rfl rfl (Nat.le_of_ble_eq_true rfl) dX4_pooled_77 ?_
    refine vv_aload_n dX4_pooled_80 rfl 0 rfl ?_
    refine tw_get (fl_X4_281 hG) (k := 1) rfl dX4_pooled_81 ?_
    obtain ⟨hz10, h⟩ := dv_o h
    refine vv_idiv dX4_pooled_84 hz10 ?_
    obtain ⟨v9, ev9⟩ : ∃ z, z = (r8.1 / (r8.2.1 1)) := ⟨_, rfl⟩
    rw [← ev9] at h ⊢
    obtain ⟨T11, iT11, eT11, h⟩ := st_o h
    refine tw_ast 20 (by decide) rfl iT11 eT11 dX4_pooled_85 ?_
    refine vv_iinc (v := (x3 + (nI 1))) (lv' := [(0, .ref o), (1, .int x1), (2, .int x2), (3, .int (x3 + (nI 1)))]) dX4_pooled_86 3 rfl rfl (by decide) [1, 2, 3, 0] rfl ?_
    refine vv_goto (tgt := 39) dX4_pooled_89 (by decide) ?_
    exact hk39 h
theorem v_pooled_39 {l : Launch} {G : vv_G} {d : Nat} {o : Nat} {h0 : Nat → Option vv_E} {nz : Nat × Nat} (hG : vv_gok G) : ∀ (n : Nat) {x1 : Int32} {x2 : Int32} {x3 : Int32} {T : tw_T} {r : Int32 × tw_T}, J_pooled_39 n x1 x2 x3 T = some r → vv_V l G MX4_pooled (d + 5) 39 [(0, .ref o), (1, .int x1), (2, .int x2), (3, .int x3)] [] (tp o h0 T, nz) (.inl (some (.int r.1)), (tp o h0 r.2, nz)) := by
  intro n
  induction n with
  | zero => intro _ _ _ _ _ h; cases h
  | succ n ih => intro _ _ _ _ _ h; exact vb_pooled_39 hG ih h
def J_pooled (x1 : Int32) (T : tw_T) : Option (Int32 × tw_T) := (some (tw_F T 0 (nI 0))).bind fun T1 => (J_isDays x1 (nI 1) (nI 1) T1).bind fun r2 => if r2.1 = 0 then (some ((nI 0), r2.2)) else ((J_tries r2.2).bind fun r4 => (J_daysGo x1 r4).bind fun r5 => (J_allOf (nI 102) r5).bind fun r6 => (J_tries r6.2).bind fun r7 => J_pooled_39 NN x1 r6.1 (nI 0) r7)
theorem v_pooled_0 {l : Launch} {G : vv_G} {d : Nat} {o : Nat} {h0 : Nat → Option vv_E} {nz : Nat × Nat} (hG : vv_gok G) {x1 : Int32} {T : tw_T} {r : Int32 × tw_T} (h : J_pooled x1 T = some r) : vv_V l G MX4_pooled (d + 5) 0 [(0, .ref o), (1, .int x1)] [] (tp o h0 T, nz) (.inl (some (.int r.1)), (tp o h0 r.2, nz)) := by
  unfold J_pooled at h
  refine vv_aload_n dX4_pooled_0 rfl 0 rfl ?_
  refine vv_iconst (v := (nI 0)) dX4_pooled_1 (by decide) ?_
  obtain ⟨T1, eT1, h⟩ := bd_s h
  refine tw_put (T1 := T1) (pt_X4_117 hG) hG rfl rfl rfl (by decide) (by rw [eT1]; exact tw_set0 _ _ _) (by rw [eT1]; rfl) dX4_pooled_2 ?_
  refine vv_aload_n dX4_pooled_5 rfl 0 rfl ?_
  refine vv_iload_n dX4_pooled_6 rfl 1 rfl ?_
  refine vv_iconst (v := (nI 1)) dX4_pooled_7 (by decide) ?_
  refine vv_iconst (v := (nI 1)) dX4_pooled_8 (by decide) ?_
  obtain ⟨r2, er2, h⟩ := bd_o h
  refine vv_callV ok_X4_isDays q2035 (m_isDays hG er2 (d + 3)) rfl (by omega) ⟨_, _, _, _, _, tp_o, by rw [hG.1]; rfl⟩ rfl rfl (Nat.le_of_ble_eq_true rfl) dX4_pooled_9 ?_
  refine vv_if_ne (tgt := 17) dX4_pooled_12 (by decide) (fun c3 => ?_) (fun c3 => ?_)
  · rw [if_neg c3] at h
    refine vv_aload_n dX4_pooled_17 rfl 0 rfl ?_
    obtain ⟨r4, er4, h⟩ := bd_o h
    refine vv_callV ok_X4_tries q2039 (m_tries hG er4 (d + 4)) rfl (by omega) ⟨_, _, _, _, _, tp_o, by rw [hG.1]; rfl⟩ rfl rfl (Nat.le_of_ble_eq_true rfl) dX4_pooled_18 ?_
    refine vv_aload_n dX4_pooled_21 rfl 0 rfl ?_
    refine vv_iload_n dX4_pooled_22 rfl 1 rfl ?_
    obtain ⟨r5, er5, h⟩ := bd_o h
    refine vv_callV ok_X4_daysGo q2043 (m_daysGo hG er5 (d + 0)) rfl (by omega) ⟨_, _, _, _, _, tp_o, by rw [hG.1]; rfl⟩ rfl rfl (Nat.le_of_ble_eq_true rfl) dX4_pooled_23 ?_
    refine vv_aload_n dX4_pooled_26 rfl 0 rfl ?_
    refine vv_bipush (v := (nI 102)) dX4_pooled_27 (by decide) ?_
    obtain ⟨r6, er6, h⟩ := bd_o h
    refine vv_callV ok_X4_allOf q1911 (m_allOf hG er6 (d + 4)) rfl (by omega) ⟨_, _, _, _, _, tp_o, by rw [hG.1]; rfl⟩ rfl rfl (Nat.le_of_ble_eq_true rfl) dX4_pooled_29 ?_
    refine vv_istore_n (lv' := [(0, .ref o), (1, .int x1), (2, .int r6.1)]) dX4_pooled_32 rfl (by decide) [1, 2, 0] rfl ?_
    refine vv_aload_n dX4_pooled_33 rfl 0 rfl ?_
    obtain ⟨r7, er7, h⟩ := bd_o h
    refine vv_callV ok_X4_tries q2039 (m_tries hG er7 (d + 4)) rfl (by omega) ⟨_, _, _, _, _, tp_o, by rw [hG.1]; rfl⟩ rfl rfl (Nat.le_of_ble_eq_true rfl) dX4_pooled_34 ?_
    refine vv_iconst (v := (nI 0)) dX4_pooled_37 (by decide) ?_
    refine vv_istore_n (lv' := [(0, .ref o), (1, .int x1), (2, .int r6.1), (3, .int (nI 0))]) dX4_pooled_38 rfl (by decide) [1, 2, 3, 0] rfl ?_
    exact v_pooled_39 hG NN h
  · rw [if_pos c3] at h
    refine vv_iconst (v := (nI 0)) dX4_pooled_15 (by decide) ?_
    cases h
    exact vv_iret rfl dX4_pooled_16
theorem m_pooled {l : Launch} {G : vv_G} {o : Nat} {h0 : Nat → Option vv_E} {nz : Nat × Nat} (hG : vv_gok G) {x1 : Int32} {T : tw_T} {r : Int32 × tw_T} (h : J_pooled x1 T = some r) (d : Nat) : vv_Met l G MX4_pooled (d + 5) [.ref o, .int x1] (tp o h0 T, nz) (.inl (some (.int r.1)), (tp o h0 r.2, nz)) := vv_head (by decide +kernel) rfl (Nat.le_of_ble_eq_true rfl) rfl (v_pooled_0 hG h)
/-! missed -/
def J_missed_116 (k11 : Int32 → Int32 → Int32 → tw_T → Option (Int32 × tw_T)) (x1 : Int32) (x2 : Int32) (x3 : Int32) (T : tw_T) : Option (Int32 × tw_T) := k11 x1 x2 (x3 + (nI 1)) T
theorem v_missed_116 {l : Launch} {G : vv_G} {d : Nat} {o : Nat} {h0 : Nat → Option vv_E} {nz : Nat × Nat} (hG : vv_gok G) {k11 : Int32 → Int32 → Int32 → tw_T → Option (Int32 × tw_T)} (hk11 : ∀ {x1 : Int32} {x2 : Int32} {x3 : Int32} {T : tw_T} {r : Int32 × tw_T}, k11 x1 x2 x3 T = some r → vv_V l G MX4_missed (d + 5) 11 [(0, .ref o), (1, .int x1), (2, .int x2), (3, .int x3)] [] (tp o h0 T, nz) (.inl (some (.int r.1)), (tp o h0 r.2, nz))) {x1 : Int32} {x2 : Int32} {x3 : Int32} {T : tw_T} {r : Int32 × tw_T} (h : J_missed_116 k11 x1 x2 x3 T = some r) : vv_V l G MX4_missed (d + 5) 116 [(0, .ref o), (1, .int x1), (2, .int x2), (3, .int x3)] [] (tp o h0 T, nz) (.inl (some (.int r.1)), (tp o h0 r.2, nz)) := by
  unfold J_missed_116 at h
  refine vv_iinc (v := (x3 + (nI 1))) (lv' := [(0, .ref o), (1, .int x1), (2, .int x2), (3, .int (x3 + (nI 1)))]) dX4_missed_116 3 rfl rfl (by decide) [1, 2, 3, 0] rfl ?_
  refine vv_goto (tgt := 11) dX4_missed_119 (by decide) ?_
  exact hk11 h
def J_missed_111 (k11 : Int32 → Int32 → Int32 → tw_T → Option (Int32 × tw_T)) (x3 : Int32) (x4 : Int32) (T : tw_T) : Option (Int32 × tw_T) := J_missed_116 k11 x3 x4 x3 T
theorem v_missed_111 {l : Launch} {G : vv_G} {d : Nat} {o : Nat} {h0 : Nat → Option vv_E} {nz : Nat × Nat} (hG : vv_gok G) {k11 : Int32 → Int32 → Int32 → tw_T → Option (Int32 × tw_T)} (hk11 : ∀ {x1 : Int32} {x2 : Int32} {x3 : Int32} {T : tw_T} {r : Int32 × tw_T}, k11 x1 x2 x3 T = some r → vv_V l G MX4_missed (d + 5) 11 [(0, .ref o), (1, .int x1), (2, .int x2), (3, .int x3)] [] (tp o h0 T, nz) (.inl (some (.int r.1)), (tp o h0 r.2, nz))) {x3 : Int32} {x4 : Int32} {T : tw_T} {r : Int32 × tw_T} (h : J_missed_111 k11 x3 x4 T = some r) : vv_V l G MX4_missed (d + 5) 111 [(0, .ref o), (3, .int x3), (4, .int x4)] [] (tp o h0 T, nz) (.inl (some (.int r.1)), (tp o h0 r.2, nz)) := by
  unfold J_missed_111 at h
  refine vv_iload_n dX4_missed_111 rfl 1 rfl ?_
  refine vv_istore_n (lv' := [(0, .ref o), (1, .int x3), (3, .int x3), (4, .int x4)]) dX4_missed_112 rfl (by decide) [1, 0, 2, 3] rfl ?_
  refine vv_iload dX4_missed_113 3 rfl ?_
  refine vv_istore_n (lv' := [(0, .ref o), (1, .int x3), (2, .int x4), (3, .int x3), (4, .int x4)]) dX4_missed_115 rfl (by decide) [1, 2, 0, 3, 4] rfl ?_
  refine vv_sub (lv' := [(0, .ref o), (1, .int x3), (2, .int x4), (3, .int x3)]) [0, 1, 2, 3] rfl ?_
  exact v_missed_116 hG hk11 h
def J_missed_77 (k11 : Int32 → Int32 → Int32 → tw_T → Option (Int32 × tw_T)) (k49 : Int32 → Int32 → Int32 → Int32 → tw_T → Option (Int32 × tw_T)) (x1 : Int32) (x2 : Int32) (x3 : Int32) (x4 : Int32) (T : tw_T) : Option (Int32 × tw_T) := k49 x1 x2 x3 (x4 + (nI 1)) T
theorem v_missed_77 {l : Launch} {G : vv_G} {d : Nat} {o : Nat} {h0 : Nat → Option vv_E} {nz : Nat × Nat} (hG : vv_gok G) {k11 : Int32 → Int32 → Int32 → tw_T → Option (Int32 × tw_T)} (hk11 : ∀ {x1 : Int32} {x2 : Int32} {x3 : Int32} {T : tw_T} {r : Int32 × tw_T}, k11 x1 x2 x3 T = some r → vv_V l G MX4_missed (d + 5) 11 [(0, .ref o), (1, .int x1), (2, .int x2), (3, .int x3)] [] (tp o h0 T, nz) (.inl (some (.int r.1)), (tp o h0 r.2, nz))) {k49 : Int32 → Int32 → Int32 → Int32 → tw_T → Option (Int32 × tw_T)} (hk49 : ∀ {x1 : Int32} {x2 : Int32} {x3 : Int32} {x4 : Int32} {T : tw_T} {r : Int32 × tw_T}, k49 x1 x2 x3 x4 T = some r → vv_V l G MX4_missed (d + 5) 49 [(0, .ref o), (1, .int x1), (2, .int x2), (3, .int x3), (4, .int x4)] [] (tp o h0 T, nz) (.inl (some (.int r.1)), (tp o h0 r.2, nz))) {x1 : Int32} {x2 : Int32} {x3 : Int32} {x4 : Int32} {T : tw_T} {r : Int32 × tw_T} (h : J_missed_77 k11 k49 x1 x2 x3 x4 T = some r) : vv_V l G MX4_missed (d + 5) 77 [(0, .ref o), (1, .int x1), (2, .int x2), (3, .int x3), (4, .int x4)] [] (tp o h0 T, nz) (.inl (some (.int r.1)), (tp o h0 r.2, nz)) := by
  unfold J_missed_77 at h
  refine vv_iinc (v := (x4 + (nI 1))) (lv' := [(0, .ref o), (1, .int x1), (2, .int x2), (3, .int x3), (4, .int (x4 + (nI 1)))]) dX4_missed_77 4 rfl rfl (by decide) [1, 2, 3, 4, 0] rfl ?_
  refine vv_goto (tgt := 49) dX4_missed_80 (by decide) ?_
  exact hk49 h
def B_missed_49 (k11 : Int32 → Int32 → Int32 → tw_T → Option (Int32 × tw_T)) (k49 : Int32 → Int32 → Int32 → Int32 → tw_T → Option (Int32 × tw_T)) (x1 : Int32) (x2 : Int32) (x3 : Int32) (x4 : Int32) (T : tw_T) : Option (Int32 × tw_T) := if (T.1 3) ≤ x4 then ((J_daysGo (nI 30) T).bind fun r2 => (J_allOf (nI 102) r2).bind fun r3 => if x1 = (-1) then (J_missed_111 k11 x3 r3.1 r3.2) else (if r3.1 < x2 then (J_missed_111 k11 x3 r3.1 r3.2) else (J_missed_116 k11 x1 x2 x3 r3.2))) else ((J_lies (nI 85) x4 T).bind fun r6 => if r6.1 = 0 then (J_missed_77 k11 k49 x1 x2 x3 x4 r6.2) else ((J_opens (nI 85) x4 r6.2).bind fun r8 => J_missed_77 k11 k49 x1 x2 x3 x4 r8))
def J_missed_49 (k11 : Int32 → Int32 → Int32 → tw_T → Option (Int32 × tw_T)) : Nat → Int32 → Int32 → Int32 → Int32 → tw_T → Option (Int32 × tw_T)
  | 0, _, _, _, _, _ => none
  | n + 1, x1, x2, x3, x4, T => B_missed_49 k11 (J_missed_49 k11 n) x1 x2 x3 x4 T
theorem vb_missed_49 {l : Launch} {G : vv_G} {d : Nat} {o : Nat} {h0 : Nat → Option vv_E} {nz : Nat × Nat} (hG : vv_gok G) {k11 : Int32 → Int32 → Int32 → tw_T → Option (Int32 × tw_T)} (hk11 : ∀ {x1 : Int32} {x2 : Int32} {x3 : Int32} {T : tw_T} {r : Int32 × tw_T}, k11 x1 x2 x3 T = some r → vv_V l G MX4_missed (d + 5) 11 [(0, .ref o), (1, .int x1), (2, .int x2), (3, .int x3)] [] (tp o h0 T, nz) (.inl (some (.int r.1)), (tp o h0 r.2, nz))) {k49 : Int32 → Int32 → Int32 → Int32 → tw_T → Option (Int32 × tw_T)} (hk49 : ∀ {x1 : Int32} {x2 : Int32} {x3 : Int32} {x4 : Int32} {T : tw_T} {r : Int32 × tw_T}, k49 x1 x2 x3 x4 T = some r → vv_V l G MX4_missed (d + 5) 49 [(0, .ref o), (1, .int x1), (2, .int x2), (3, .int x3), (4, .int x4)] [] (tp o h0 T, nz) (.inl (some (.int r.1)), (tp o h0 r.2, nz))) {x1 : Int32} {x2 : Int32} {x3 : Int32} {x4 : Int32} {T : tw_T} {r : Int32 × tw_T} (h : B_missed_49 k11 k49 x1 x2 x3 x4 T = some r) : vv_V l G MX4_missed (d + 5) 49 [(0, .ref o), (1, .int x1), (2, .int x2), (3, .int x3), (4, .int x4)] [] (tp o h0 T, nz) (.inl (some (.int r.1)), (tp o h0 r.2, nz)) := by
  unfold B_missed_49 at h
  refine vv_iload dX4_missed_49 4 rfl ?_
  refine vv_aload_n dX4_missed_51 rfl 0 rfl ?_
  refine tw_get (fl_X4_287 hG) (k := 3) rfl dX4_missed_52 ?_
  refine vv_icmp_ge (tgt := 83) dX4_missed_55 (by decide) (fun c1 => ?_) (fun c1 => ?_)
  · rw [if_pos c1] at h
    refine vv_aload_n dX4_missed_83 rfl 0 rfl ?_
    refine vv_bipush (v := (nI 30)) dX4_missed_84 (by decide) ?_
    obtain ⟨r2, er2, h⟩ := bd_o h
    refine vv_callV ok_X4_daysGo q2043 (m_daysGo hG er2 (d + 0)) rfl (by omega) ⟨_, _, _, _, _, tp_o, by rw [hG.1]; rfl⟩ rfl rfl (Nat.le_of_ble_eq_true rfl) dX4_missed_86 ?_
    refine vv_aload_n dX4_missed_89 rfl 0 rfl ?_
    refine vv_bipush (v := (nI 102)) dX4_missed_90 (by decide) ?_
    obtain ⟨r3, er3, h⟩ := bd_o h
    refine vv_callV ok_X4_allOf q1911 (m_allOf hG er3 (d + 4)) rfl (by omega) ⟨_, _, _, _, _, tp_o, by rw [hG.1]; rfl⟩ rfl rfl (Nat.le_of_ble_eq_true rfl) dX4_missed_92 ?_
    refine vv_istore (lv' := [(0, .ref o), (1, .int x1), (2, .int x2), (3, .int x3), (4, .int r3.1)]) dX4_missed_95 (by decide) [1, 2, 3, 4, 0] rfl ?_
    refine vv_iload_n dX4_missed_97 rfl 1 rfl ?_
    refine vv_iconst (v := (-1)) dX4_missed_98 (by decide) ?_
    refine vv_icmp_eq (tgt := 111) dX4_missed_99 (by decide) (fun c4 => ?_) (fun c4 => ?_)
    · rw [if_pos c4] at h
      refine vv_sub (lv' := [(0, .ref o), (3, .int x3), (4, .int r3.1)]) [0, 3, 4] rfl ?_
      exact v_missed_111 hG hk11 h
    · rw [if_neg c4] at h
      refine vv_iload dX4_missed_102 4 rfl ?_
      refine vv_iload_n dX4_missed_104 rfl 2 rfl ?_
      refine vv_icmp_lt (tgt := 111) dX4_missed_105 (by decide) (fun c5 => ?_) (fun c5 => ?_)
      · rw [if_pos c5] at h
        refine vv_sub (lv' := [(0, .ref o), (3, .int x3), (4, .int r3.1)]) [0, 3, 4] rfl ?_
        exact v_missed_111 hG hk11 h
      · rw [if_neg c5] at h
        refine vv_goto (tgt := 116) dX4_missed_108 (by decide) ?_
        refine vv_sub (lv' := [(0, .ref o), (1, .int x1), (2, .int x2), (3, .int x3)]) [0, 1, 2, 3] rfl ?_
        exact v_missed_116 hG hk11 h
  · rw [if_neg c1] at h
    refine vv_aload_n dX4_missed_58 rfl 0 rfl ?_
    refine vv_bipush (v := (nI 85)) dX4_missed_59 (by decide) ?_
    refine vv_iload dX4_missed_61 4 rfl ?_
    obtain ⟨r6, er6, h⟩ := bd_o h
    refine vv_callV ok_X4_lies q1919 (m_lies hG er6 (d + 4)) rfl (by omega) ⟨_, _, _, _, _, tp_o, by rw [hG.1]; rfl⟩ rfl rfl (Nat.le_of_ble_eq_true rfl) dX4_missed_63 ?_
    refine vv_if_eq (tgt := 77) dX4_missed_66 (by decide) (fun c7 => ?_) (fun c7 => ?_)
    · rw [if_pos c7] at h
      exact v_missed_77 hG hk11 hk49 h
    · rw [if_neg c7] at h
      refine vv_aload_n dX4_missed_69 rfl 0 rfl ?_
      refine vv_bipush (v := (nI 85)) dX4_missed_70 (by decide) ?_
      refine vv_iload dX4_missed_72 4 rfl ?_
      obtain ⟨r8, er8, h⟩ := bd_o h
      refine vv_callV ok_X4_opens q2019 (m_opens hG er8 (d + 3)) rfl (by omega) ⟨_, _, _, _, _, tp_o, by rw [hG.1]; rfl⟩ rfl rfl (Nat.le_of_ble_eq_true rfl) dX4_missed_74 ?_
      exact v_missed_77 hG hk11 hk49 h
theorem v_missed_49 {l : Launch} {G : vv_G} {d : Nat} {o : Nat} {h0 : Nat → Option vv_E} {nz : Nat × Nat} (hG : vv_gok G) {k11 : Int32 → Int32 → Int32 → tw_T → Option (Int32 × tw_T)} (hk11 : ∀ {x1 : Int32} {x2 : Int32} {x3 : Int32} {T : tw_T} {r : Int32 × tw_T}, k11 x1 x2 x3 T = some r → vv_V l G MX4_missed (d + 5) 11 [(0, .ref o), (1, .int x1), (2, .int x2), (3, .int x3)] [] (tp o h0 T, nz) (.inl (some (.int r.1)), (tp o h0 r.2, nz))) : ∀ (n : Nat) {x1 : Int32} {x2 : Int32} {x3 : Int32} {x4 : Int32} {T : tw_T} {r : Int32 × tw_T}, J_missed_49 k11 n x1 x2 x3 x4 T = some r → vv_V l G MX4_missed (d + 5) 49 [(0, .ref o), (1, .int x1), (2, .int x2), (3, .int x3), (4, .int x4)] [] (tp o h0 T, nz) (.inl (some (.int r.1)), (tp o h0 r.2, nz)) := by
  intro n
  induction n with
  | zero => intro _ _ _ _ _ _ h; cases h
  | succ n ih => intro _ _ _ _ _ _ h; exact vb_missed_49 hG hk11 ih h
def B_missed_11 (k11 : Int32 → Int32 → Int32 → tw_T → Option (Int32 × tw_T)) (x1 : Int32) (x2 : Int32) (x3 : Int32) (T : tw_T) : Option (Int32 × tw_T) := if (T.1 3) ≤ x3 then (some (x1, T)) else ((J_lies (nI 0) x3 T).bind fun r2 => if r2.1 = 0 then (J_missed_116 k11 x1 x2 x3 r2.2) else ((J_tries r2.2).bind fun r4 => (stA r4 20 170 ((nI 140) + x3) (-1)).bind fun T5 => J_missed_49 k11 NN x1 x2 x3 (nI 0) T5))
def J_missed_11 : Nat → Int32 → Int32 → Int32 → tw_T → Option (Int32 × tw_T)
  | 0, _, _, _, _ => none
  | n + 1, x1, x2, x3, T => B_missed_11 (J_missed_11 n) x1 x2 x3 T
theorem vb_missed_11 {l : Launch} {G : vv_G} {d : Nat} {o : Nat} {h0 : Nat → Option vv_E} {nz : Nat × Nat} (hG : vv_gok G) {k11 : Int32 → Int32 → Int32 → tw_T → Option (Int32 × tw_T)} (hk11 : ∀ {x1 : Int32} {x2 : Int32} {x3 : Int32} {T : tw_T} {r : Int32 × tw_T}, k11 x1 x2 x3 T = some r → vv_V l G MX4_missed (d + 5) 11 [(0, .ref o), (1, .int x1), (2, .int x2), (3, .int x3)] [] (tp o h0 T, nz) (.inl (some (.int r.1)), (tp o h0 r.2, nz))) {x1 : Int32} {x2 : Int32} {x3 : Int32} {T : tw_T} {r : Int32 × tw_T} (h : B_missed_11 k11 x1 x2 x3 T = some r) : vv_V l G MX4_missed (d + 5) 11 [(0, .ref o), (1, .int x1), (2, .int x2), (3, .int x3)] [] (tp o h0 T, nz) (.inl (some (.int r.1)), (tp o h0 r.2, nz)) := by
  unfold B_missed_11 at h
  refine vv_iload_n dX4_missed_11 rfl 3 rfl ?_
  refine vv_aload_n dX4_missed_12 rfl 0 rfl ?_
  refine tw_get (fl_X4_287 hG) (k := 3) rfl dX4_missed_13 ?_
  refine vv_icmp_ge (tgt := 122) dX4_missed_16 (by decide) (fun c1 => ?_) (fun c1 => ?_)
  · rw [if_pos c1] at h
    refine vv_iload_n dX4_missed_122 rfl 1 rfl ?_
    cases h
    exact vv_iret rfl dX4_missed_123
  · rw [if_neg c1] at h
    refine vv_aload_n dX4_missed_19 rfl 0 rfl ?_
    refine vv_iconst (v := (nI 0)) dX4_missed_20 (by decide) ?_
    refine vv_iload_n dX4_missed_21 rfl 3 rfl ?_
    obtain ⟨r2, er2, h⟩ := bd_o h
    refine vv_callV ok_X4_lies q1919 (m_lies hG er2 (d + 4)) rfl (by omega) ⟨_, _, _, _, _, tp_o, by rw [hG.1]; rfl⟩ rfl rfl (Nat.le_of_ble_eq_true rfl) dX4_missed_22 ?_
    refine vv_if_ne (tgt := 31) dX4_missed_25 (by decide) (fun c3 => ?_) (fun c3 => ?_)
    · rw [if_neg c3] at h
      refine vv_aload_n dX4_missed_31 rfl 0 rfl ?_
      obtain ⟨r4, er4, h⟩ := bd_o h
      refine vv_callV ok_X4_tries q2039 (m_tries hG er4 (d + 4)) rfl (by omega) ⟨_, _, _, _, _, tp_o, by rw [hG.1]; rfl⟩ rfl rfl (Nat.le_of_ble_eq_true rfl) dX4_missed_32 ?_
      refine vv_aload_n dX4_missed_35 rfl 0 rfl ?_
      refine tw_get (fl_X4_75 hG) (k := 42) rfl dX4_missed_36 ?_
      refine vv_sipush (v := (nI 140)) dX4_missed_39 (by decide) ?_
      refine vv_iload_n dX4_missed_42 rfl 3 rfl ?_
      refine vv_iadd dX4_missed_43 ?_
      refine vv_iconst (v := (-1)) dX4_missed_44 (by decide) ?_
      obtain ⟨T5, iT5, eT5, h⟩ := st_o h
      refine tw_ast 20 (by decide) rfl iT5 eT5 dX4_missed_45 ?_
      refine vv_iconst (v := (nI 0)) dX4_missed_46 (by decide) ?_
      refine vv_istore (lv' := [(0, .ref o), (1, .int x1), (2, .int x2), (3, .int x3), (4, .int (nI 0))]) dX4_missed_47 (by decide) [1, 2, 3, 4, 0] rfl ?_
      exact v_missed_49 hG hk11 NN h
    · rw [if_pos c3] at h
      refine vv_goto (tgt := 116) dX4_missed_28 (by decide) ?_
      exact v_missed_116 hG hk11 h
theorem v_missed_11 {l : Launch} {G : vv_G} {d : Nat} {o : Nat} {h0 : Nat → Option vv_E} {nz : Nat × Nat} (hG : vv_gok G) : ∀ (n : Nat) {x1 : Int32} {x2 : Int32} {x3 : Int32} {T : tw_T} {r : Int32 × tw_T}, J_missed_11 n x1 x2 x3 T = some r → vv_V l G MX4_missed (d + 5) 11 [(0, .ref o), (1, .int x1), (2, .int x2), (3, .int x3)] [] (tp o h0 T, nz) (.inl (some (.int r.1)), (tp o h0 r.2, nz)) := by
  intro n
  induction n with
  | zero => intro _ _ _ _ _ h; cases h
  | succ n ih => intro _ _ _ _ _ h; exact vb_missed_11 hG ih h
def J_missed (T : tw_T) : Option (Int32 × tw_T) := (some (tw_F T 0 (nI 0))).bind fun T1 => J_missed_11 NN (-1) (nI 0) (nI 0) T1
theorem v_missed_0 {l : Launch} {G : vv_G} {d : Nat} {o : Nat} {h0 : Nat → Option vv_E} {nz : Nat × Nat} (hG : vv_gok G) {T : tw_T} {r : Int32 × tw_T} (h : J_missed T = some r) : vv_V l G MX4_missed (d + 5) 0 [(0, .ref o)] [] (tp o h0 T, nz) (.inl (some (.int r.1)), (tp o h0 r.2, nz)) := by
  unfold J_missed at h
  refine vv_aload_n dX4_missed_0 rfl 0 rfl ?_
  refine vv_iconst (v := (nI 0)) dX4_missed_1 (by decide) ?_
  obtain ⟨T1, eT1, h⟩ := bd_s h
  refine tw_put (T1 := T1) (pt_X4_117 hG) hG rfl rfl rfl (by decide) (by rw [eT1]; exact tw_set0 _ _ _) (by rw [eT1]; rfl) dX4_missed_2 ?_
  refine vv_iconst (v := (-1)) dX4_missed_5 (by decide) ?_
  refine vv_istore_n (lv' := [(0, .ref o), (1, .int (-1))]) dX4_missed_6 rfl (by decide) [1, 0] rfl ?_
  refine vv_iconst (v := (nI 0)) dX4_missed_7 (by decide) ?_
  refine vv_istore_n (lv' := [(0, .ref o), (1, .int (-1)), (2, .int (nI 0))]) dX4_missed_8 rfl (by decide) [1, 2, 0] rfl ?_
  refine vv_iconst (v := (nI 0)) dX4_missed_9 (by decide) ?_
  refine vv_istore_n (lv' := [(0, .ref o), (1, .int (-1)), (2, .int (nI 0)), (3, .int (nI 0))]) dX4_missed_10 rfl (by decide) [1, 2, 3, 0] rfl ?_
  exact v_missed_11 hG NN h
theorem m_missed {l : Launch} {G : vv_G} {o : Nat} {h0 : Nat → Option vv_E} {nz : Nat × Nat} (hG : vv_gok G) {T : tw_T} {r : Int32 × tw_T} (h : J_missed T = some r) (d : Nat) : vv_Met l G MX4_missed (d + 5) [.ref o] (tp o h0 T, nz) (.inl (some (.int r.1)), (tp o h0 r.2, nz)) := vv_head (by decide +kernel) rfl (Nat.le_of_ble_eq_true rfl) rfl (v_missed_0 hG h)
/-! gains -/
def J_gains (x1 : Int32) (x2 : Int32) (x3 : Int32) (x4 : Int32) (T : tw_T) : Option (Int32 × tw_T) := (rdI 170 (T.2.2 20) ((nI 1) + x1)).bind fun v1 => (dvI v1 (nI 10)).bind fun v2 => (rdI 170 (T.2.2 20) ((nI 1) + x2)).bind fun v4 => (dvI v4 (nI 10)).bind fun v5 => (J_tries T).bind fun r7 => (rdI 170 (r7.2.2 20) ((nI 1) + x1)).bind fun v8 => (J_kept ((v8 - (x3 * v2)) + (x4 * v5)) (nI 0) (nI 9999)).bind fun r9 => (stA r7 20 170 ((nI 86) + x1) r9).bind fun T10 => (rdI 170 (T10.2.2 20) ((nI 1) + x2)).bind fun v11 => (J_kept ((v11 - (x4 * v5)) + (x3 * v2)) (nI 0) (nI 9999)).bind fun r12 => (stA T10 20 170 ((nI 86) + x2) r12).bind fun T13 => (J_daysGo (nI 10) T13).bind fun r14 => (rdI 170 (r14.2.2 20) ((nI 102) + x1)).bind fun v15 => (rdI 170 (r14.2.2 20) ((nI 17) + x1)).bind fun v16 => some ((v15 - v16), r14)
theorem v_gains_0 {l : Launch} {G : vv_G} {d : Nat} {o : Nat} {h0 : Nat → Option vv_E} {nz : Nat × Nat} (hG : vv_gok G) {x1 : Int32} {x2 : Int32} {x3 : Int32} {x4 : Int32} {T : tw_T} {r : Int32 × tw_T} (h : J_gains x1 x2 x3 x4 T = some r) : vv_V l G MX4_gains (d + 5) 0 [(0, .ref o), (1, .int x1), (2, .int x2), (3, .int x3), (4, .int x4)] [] (tp o h0 T, nz) (.inl (some (.int r.1)), (tp o h0 r.2, nz)) := by
  unfold J_gains at h
  refine vv_iload_n dX4_gains_0 rfl 3 rfl ?_
  refine vv_aload_n dX4_gains_1 rfl 0 rfl ?_
  refine tw_get (fl_X4_75 hG) (k := 42) rfl dX4_gains_2 ?_
  refine vv_iconst (v := (nI 1)) dX4_gains_5 (by decide) ?_
  refine vv_iload_n dX4_gains_6 rfl 1 rfl ?_
  refine vv_iadd dX4_gains_7 ?_
  obtain ⟨v1, iv1, ev1, h⟩ := rd_o h
  refine tw_ald 20 (by decide) rfl iv1 ev1 dX4_gains_8 ?_
  refine vv_bipush (v := (nI 10)) dX4_gains_9 (by decide) ?_
  obtain ⟨hz3, h⟩ := dv_o h
  refine vv_idiv dX4_gains_11 hz3 ?_
  obtain ⟨v2, ev2⟩ : ∃ z, z = (v1 / (nI 10)) := ⟨_, rfl⟩
  rw [← ev2] at h ⊢
  refine vv_imul dX4_gains_12 ?_
  refine vv_istore (lv' := [(0, .ref o), (1, .int x1), (2, .int x2), (3, .int x3), (4, .int x4), (5, .int (x3 * v2))]) dX4_gains_13 (by decide) [1, 2, 3, 4, 5, 0] rfl ?_
  refine vv_iload dX4_gains_15 4 rfl ?_
  refine vv_aload_n dX4_gains_17 rfl 0 rfl ?_
  refine tw_get (fl_X4_75 hG) (k := 42) rfl dX4_gains_18 ?_
  refine vv_iconst (v := (nI 1)) dX4_gains_21 (by decide) ?_
  refine vv_iload_n dX4_gains_22 rfl 2 rfl ?_
  refine vv_iadd dX4_gains_23 ?_
  obtain ⟨v4, iv4, ev4, h⟩ := rd_o h
  refine tw_ald 20 (by decide) rfl iv4 ev4 dX4_gains_24 ?_
  refine vv_bipush (v := (nI 10)) dX4_gains_25 (by decide) ?_
  obtain ⟨hz6, h⟩ := dv_o h
  refine vv_idiv dX4_gains_27 hz6 ?_
  obtain ⟨v5, ev5⟩ : ∃ z, z = (v4 / (nI 10)) := ⟨_, rfl⟩
  rw [← ev5] at h ⊢
  refine vv_imul dX4_gains_28 ?_
  refine vv_istore (lv' := [(0, .ref o), (1, .int x1), (2, .int x2), (3, .int x3), (4, .int x4), (5, .int (x3 * v2)), (6, .int (x4 * v5))]) dX4_gains_29 (by decide) [1, 2, 3, 4, 5, 6, 0] rfl ?_
  refine vv_aload_n dX4_gains_31 rfl 0 rfl ?_
  obtain ⟨r7, er7, h⟩ := bd_o h
  refine vv_callV ok_X4_tries q2039 (m_tries hG er7 (d + 4)) rfl (by omega) ⟨_, _, _, _, _, tp_o, by rw [hG.1]; rfl⟩ rfl rfl (Nat.le_of_ble_eq_true rfl) dX4_gains_32 ?_
  refine vv_aload_n dX4_gains_35 rfl 0 rfl ?_
  refine tw_get (fl_X4_75 hG) (k := 42) rfl dX4_gains_36 ?_
  refine vv_bipush (v := (nI 86)) dX4_gains_39 (by decide) ?_
  refine vv_iload_n dX4_gains_41 rfl 1 rfl ?_
  refine vv_iadd dX4_gains_42 ?_
  refine vv_aload_n dX4_gains_43 rfl 0 rfl ?_
  refine tw_get (fl_X4_75 hG) (k := 42) rfl dX4_gains_44 ?_
  refine vv_iconst (v := (nI 1)) dX4_gains_47 (by decide) ?_
  refine vv_iload_n dX4_gains_48 rfl 1 rfl ?_
  refine vv_iadd dX4_gains_49 ?_
  obtain ⟨v8, iv8, ev8, h⟩ := rd_o h
  refine tw_ald 20 (by decide) rfl iv8 ev8 dX4_gains_50 ?_
  refine vv_iload dX4_gains_51 5 rfl ?_
  refine vv_isub dX4_gains_53 ?_
  refine vv_iload dX4_gains_54 6 rfl ?_
  refine vv_iadd dX4_gains_56 ?_
  refine vv_iconst (v := (nI 0)) dX4_gains_57 (by decide) ?_
  refine vv_sipush (v := (nI 9999)) dX4_gains_58 (by decide) ?_
  obtain ⟨r9, er9, h⟩ := bd_o h
  refine vv_callS ok_X4_kept q1947 (m_kept hG er9 (d + 4)) rfl (by omega) rfl rfl (Nat.le_of_ble_eq_true rfl) dX4_gains_61 ?_
  obtain ⟨T10, iT10, eT10, h⟩ := st_o h
  refine tw_ast 20 (by decide) rfl iT10 eT10 dX4_gains_64 ?_
  refine vv_aload_n dX4_gains_65 rfl 0 rfl ?_
  refine tw_get (fl_X4_75 hG) (k := 42) rfl dX4_gains_66 ?_
  refine vv_bipush (v := (nI 86)) dX4_gains_69 (by decide) ?_
  refine vv_iload_n dX4_gains_71 rfl 2 rfl ?_
  refine vv_iadd dX4_gains_72 ?_
  refine vv_aload_n dX4_gains_73 rfl 0 rfl ?_
  refine tw_get (fl_X4_75 hG) (k := 42) rfl dX4_gains_74 ?_
  refine vv_iconst (v := (nI 1)) dX4_gains_77 (by decide) ?_
  refine vv_iload_n dX4_gains_78 rfl 2 rfl ?_
  refine vv_iadd dX4_gains_79 ?_
  obtain ⟨v11, iv11, ev11, h⟩ := rd_o h
  refine tw_ald 20 (by decide) rfl iv11 ev11 dX4_gains_80 ?_
  refine vv_iload dX4_gains_81 6 rfl ?_
  refine vv_isub dX4_gains_83 ?_
  refine vv_iload dX4_gains_84 5 rfl ?_
  refine vv_iadd dX4_gains_86 ?_
  refine vv_iconst (v := (nI 0)) dX4_gains_87 (by decide) ?_
  refine vv_sipush (v := (nI 9999)) dX4_gains_88 (by decide) ?_
  obtain ⟨r12, er12, h⟩ := bd_o h
  refine vv_callS ok_X4_kept q1947 (m_kept hG er12 (d + 4)) rfl (by omega) rfl rfl (Nat.le_of_ble_eq_true rfl) dX4_gains_91 ?_
  obtain ⟨T13, iT13, eT13, h⟩ := st_o h
  refine tw_ast 20 (by decide) rfl iT13 eT13 dX4_gains_94 ?_
  refine vv_aload_n dX4_gains_95 rfl 0 rfl ?_
  refine vv_bipush (v := (nI 10)) dX4_gains_96 (by decide) ?_
  obtain ⟨r14, er14, h⟩ := bd_o h
  refine vv_callV ok_X4_daysGo q2043 (m_daysGo hG er14 (d + 0)) rfl (by omega) ⟨_, _, _, _, _, tp_o, by rw [hG.1]; rfl⟩ rfl rfl (Nat.le_of_ble_eq_true rfl) dX4_gains_98 ?_
  refine vv_aload_n dX4_gains_101 rfl 0 rfl ?_
  refine tw_get (fl_X4_75 hG) (k := 42) rfl dX4_gains_102 ?_
  refine vv_bipush (v := (nI 102)) dX4_gains_105 (by decide) ?_
  refine vv_iload_n dX4_gains_107 rfl 1 rfl ?_
  refine vv_iadd dX4_gains_108 ?_
  obtain ⟨v15, iv15, ev15, h⟩ := rd_o h
  refine tw_ald 20 (by decide) rfl iv15 ev15 dX4_gains_109 ?_
  refine vv_aload_n dX4_gains_110 rfl 0 rfl ?_
  refine tw_get (fl_X4_75 hG) (k := 42) rfl dX4_gains_111 ?_
  refine vv_bipush (v := (nI 17)) dX4_gains_114 (by decide) ?_
  refine vv_iload_n dX4_gains_116 rfl 1 rfl ?_
  refine vv_iadd dX4_gains_117 ?_
  obtain ⟨v16, iv16, ev16, h⟩ := rd_o h
  refine tw_ald 20 (by decide) rfl iv16 ev16 dX4_gains_118 ?_
  refine vv_isub dX4_gains_119 ?_
  cases h
  exact vv_iret rfl dX4_gains_120
theorem m_gains {l : Launch} {G : vv_G} {o : Nat} {h0 : Nat → Option vv_E} {nz : Nat × Nat} (hG : vv_gok G) {x1 : Int32} {x2 : Int32} {x3 : Int32} {x4 : Int32} {T : tw_T} {r : Int32 × tw_T} (h : J_gains x1 x2 x3 x4 T = some r) (d : Nat) : vv_Met l G MX4_gains (d + 5) [.ref o, .int x1, .int x2, .int x3, .int x4] (tp o h0 T, nz) (.inl (some (.int r.1)), (tp o h0 r.2, nz)) := vv_head (by decide +kernel) rfl (Nat.le_of_ble_eq_true rfl) rfl (v_gains_0 hG h)
/-! game -/
def J_game_48 (T : tw_T) : Option (Int32 × tw_T) := some ((nI 0), T)
theorem v_game_48 {l : Launch} {G : vv_G} {d : Nat} {o : Nat} {h0 : Nat → Option vv_E} {nz : Nat × Nat} (hG : vv_gok G) {T : tw_T} {r : Int32 × tw_T} (h : J_game_48 T = some r) : vv_V l G MX4_game (d + 6) 48 [(0, .ref o)] [] (tp o h0 T, nz) (.inl (some (.int r.1)), (tp o h0 r.2, nz)) := by
  unfold J_game_48 at h
  refine vv_iconst (v := (nI 0)) dX4_game_48 (by decide) ?_
  cases h
  exact vv_iret rfl dX4_game_49
def J_game_166 (s0 : Int32) (T : tw_T) : Option (Int32 × tw_T) := some (s0, T)
theorem v_game_166 {l : Launch} {G : vv_G} {d : Nat} {o : Nat} {h0 : Nat → Option vv_E} {nz : Nat × Nat} (hG : vv_gok G) {s0 : Int32} {T : tw_T} {r : Int32 × tw_T} (h : J_game_166 s0 T = some r) : vv_V l G MX4_game (d + 6) 166 [(0, .ref o)] [.int s0] (tp o h0 T, nz) (.inl (some (.int r.1)), (tp o h0 r.2, nz)) := by
  unfold J_game_166 at h
  cases h
  exact vv_iret rfl dX4_game_166
def J_game_149 (k59 : Int32 → Int32 → Int32 → Int32 → Int32 → Int32 → tw_T → Option (Int32 × tw_T)) (x1 : Int32) (x2 : Int32) (x3 : Int32) (x4 : Int32) (x5 : Int32) (x6 : Int32) (T : tw_T) : Option (Int32 × tw_T) := k59 x1 x2 x3 x4 x5 (x6 + (nI 1)) T
theorem v_game_149 {l : Launch} {G : vv_G} {d : Nat} {o : Nat} {h0 : Nat → Option vv_E} {nz : Nat × Nat} (hG : vv_gok G) {k59 : Int32 → Int32 → Int32 → Int32 → Int32 → Int32 → tw_T → Option (Int32 × tw_T)} (hk59 : ∀ {x1 : Int32} {x2 : Int32} {x3 : Int32} {x4 : Int32} {x5 : Int32} {x6 : Int32} {T : tw_T} {r : Int32 × tw_T}, k59 x1 x2 x3 x4 x5 x6 T = some r → vv_V l G MX4_game (d + 6) 59 [(0, .ref o), (1, .int x1), (2, .int x2), (3, .int x3), (4, .int x4), (5, .int x5), (6, .int x6)] [] (tp o h0 T, nz) (.inl (some (.int r.1)), (tp o h0 r.2, nz))) {x1 : Int32} {x2 : Int32} {x3 : Int32} {x4 : Int32} {x5 : Int32} {x6 : Int32} {T : tw_T} {r : Int32 × tw_T} (h : J_game_149 k59 x1 x2 x3 x4 x5 x6 T = some r) : vv_V l G MX4_game (d + 6) 149 [(0, .ref o), (1, .int x1), (2, .int x2), (3, .int x3), (4, .int x4), (5, .int x5), (6, .int x6)] [] (tp o h0 T, nz) (.inl (some (.int r.1)), (tp o h0 r.2, nz)) := by
  unfold J_game_149 at h
  refine vv_iinc (v := (x6 + (nI 1))) (lv' := [(0, .ref o), (1, .int x1), (2, .int x2), (3, .int x3), (4, .int x4), (5, .int x5), (6, .int (x6 + (nI 1)))]) dX4_game_149 6 rfl rfl (by decide) [1, 2, 3, 4, 5, 6, 0] rfl ?_
  refine vv_goto (tgt := 59) dX4_game_152 (by decide) ?_
  exact hk59 h
def B_game_59 (k59 : Int32 → Int32 → Int32 → Int32 → Int32 → Int32 → tw_T → Option (Int32 × tw_T)) (x1 : Int32) (x2 : Int32) (x3 : Int32) (x4 : Int32) (x5 : Int32) (x6 : Int32) (T : tw_T) : Option (Int32 × tw_T) := if (nI 4) ≤ x6 then (if x3 = 0 then (J_game_166 x4 T) else (J_game_166 x5 T)) else ((dvI x6 (nI 2)).bind fun v3 => (rmI x6 (nI 2)).bind fun v5 => (J_gains x1 x2 ((nI 1) - v3) v5 T).bind fun r7 => (J_gains x1 x2 v3 v5 r7.2).bind fun r8 => if r8.1 < r7.1 then (J_game_149 k59 x1 x2 x3 x4 x5 x6 r8.2) else ((J_gains x2 x1 ((nI 1) - v5) v3 r8.2).bind fun r10 => (J_gains x2 x1 v5 v3 r10.2).bind fun r11 => if r10.1 ≤ r11.1 then (if x5 = (-1) then (J_game_149 k59 x1 x2 x3 (x4 + (nI 1)) (((nI 10) * v3) + v5) x6 r11.2) else (J_game_149 k59 x1 x2 x3 (x4 + (nI 1)) x5 x6 r11.2)) else (J_game_149 k59 x1 x2 x3 x4 x5 x6 r11.2)))
def J_game_59 : Nat → Int32 → Int32 → Int32 → Int32 → Int32 → Int32 → tw_T → Option (Int32 × tw_T)
  | 0, _, _, _, _, _, _, _ => none
  | n + 1, x1, x2, x3, x4, x5, x6, T => B_game_59 (J_game_59 n) x1 x2 x3 x4 x5 x6 T
theorem vb_game_59 {l : Launch} {G : vv_G} {d : Nat} {o : Nat} {h0 : Nat → Option vv_E} {nz : Nat × Nat} (hG : vv_gok G) {k59 : Int32 → Int32 → Int32 → Int32 → Int32 → Int32 → tw_T → Option (Int32 × tw_T)} (hk59 : ∀ {x1 : Int32} {x2 : Int32} {x3 : Int32} {x4 : Int32} {x5 : Int32} {x6 : Int32} {T : tw_T} {r : Int32 × tw_T}, k59 x1 x2 x3 x4 x5 x6 T = some r → vv_V l G MX4_game (d + 6) 59 [(0, .ref o), (1, .int x1), (2, .int x2), (3, .int x3), (4, .int x4), (5, .int x5), (6, .int x6)] [] (tp o h0 T, nz) (.inl (some (.int r.1)), (tp o h0 r.2, nz))) {x1 : Int32} {x2 : Int32} {x3 : Int32} {x4 : Int32} {x5 : Int32} {x6 : Int32} {T : tw_T} {r : Int32 × tw_T} (h : B_game_59 k59 x1 x2 x3 x4 x5 x6 T = some r) : vv_V l G MX4_game (d + 6) 59 [(0, .ref o), (1, .int x1), (2, .int x2), (3, .int x3), (4, .int x4), (5, .int x5), (6, .int x6)] [] (tp o h0 T, nz) (.inl (some (.int r.1)), (tp o h0 r.2, nz)) := by
  unfold B_game_59 at h
  refine vv_iload dX4_game_59 6 rfl ?_
  refine vv_iconst (v := (nI 4)) dX4_game_61 (by decide) ?_
  refine vv_icmp_ge (tgt := 155) dX4_game_62 (by decide) (fun c1 => ?_) (fun c1 => ?_)
  · rw [if_pos c1] at h
    refine vv_iload_n dX4_game_155 rfl 3 rfl ?_
    refine vv_if_ne (tgt := 164) dX4_game_156 (by decide) (fun c2 => ?_) (fun c2 => ?_)
    · rw [if_neg c2] at h
      refine vv_iload dX4_game_164 5 rfl ?_
      refine vv_sub (lv' := [(0, .ref o)]) [0] rfl ?_
      exact v_game_166 hG h
    · rw [if_pos c2] at h
      refine vv_iload dX4_game_159 4 rfl ?_
      refine vv_goto (tgt := 166) dX4_game_161 (by decide) ?_
      refine vv_sub (lv' := [(0, .ref o)]) [0] rfl ?_
      exact v_game_166 hG h
  · rw [if_neg c1] at h
    refine vv_iload dX4_game_65 6 rfl ?_
    refine vv_iconst (v := (nI 2)) dX4_game_67 (by decide) ?_
    obtain ⟨hz4, h⟩ := dv_o h
    refine vv_idiv dX4_game_68 hz4 ?_
    obtain ⟨v3, ev3⟩ : ∃ z, z = (x6 / (nI 2)) := ⟨_, rfl⟩
    rw [← ev3] at h ⊢
    refine vv_istore (lv' := [(0, .ref o), (1, .int x1), (2, .int x2), (3, .int x3), (4, .int x4), (5, .int x5), (6, .int x6), (7, .int v3)]) dX4_game_69 (by decide) [1, 2, 3, 4, 5, 6, 7, 0] rfl ?_
    refine vv_iload dX4_game_71 6 rfl ?_
    refine vv_iconst (v := (nI 2)) dX4_game_73 (by decide) ?_
    obtain ⟨hz6, h⟩ := rm_o h
    refine vv_irem dX4_game_74 hz6 ?_
    obtain ⟨v5, ev5⟩ : ∃ z, z = (x6 - x6 / (nI 2) * (nI 2)) := ⟨_, rfl⟩
    rw [← ev5] at h ⊢
    refine vv_istore (lv' := [(0, .ref o), (1, .int x1), (2, .int x2), (3, .int x3), (4, .int x4), (5, .int x5), (6, .int x6), (7, .int v3), (8, .int v5)]) dX4_game_75 (by decide) [1, 2, 3, 4, 5, 6, 7, 8, 0] rfl ?_
    refine vv_aload_n dX4_game_77 rfl 0 rfl ?_
    refine vv_iload_n dX4_game_78 rfl 1 rfl ?_
    refine vv_iload_n dX4_game_79 rfl 2 rfl ?_
    refine vv_iconst (v := (nI 1)) dX4_game_80 (by decide) ?_
    refine vv_iload dX4_game_81 7 rfl ?_
    refine vv_isub dX4_game_83 ?_
    refine vv_iload dX4_game_84 8 rfl ?_
    obtain ⟨r7, er7, h⟩ := bd_o h
    refine vv_callV ok_X4_gains q2174 (m_gains hG er7 (d + 0)) rfl (by omega) ⟨_, _, _, _, _, tp_o, by rw [hG.1]; rfl⟩ rfl rfl (Nat.le_of_ble_eq_true rfl) dX4_game_86 ?_
    refine vv_aload_n dX4_game_89 rfl 0 rfl ?_
    refine vv_iload_n dX4_game_90 rfl 1 rfl ?_
    refine vv_iload_n dX4_game_91 rfl 2 rfl ?_
    refine vv_iload dX4_game_92 7 rfl ?_
    refine vv_iload dX4_game_94 8 rfl ?_
    obtain ⟨r8, er8, h⟩ := bd_o h
    refine vv_callV ok_X4_gains q2174 (m_gains hG er8 (d + 0)) rfl (by omega) ⟨_, _, _, _, _, tp_o, by rw [hG.1]; rfl⟩ rfl rfl (Nat.le_of_ble_eq_true rfl) dX4_game_96 ?_
    refine vv_icmp_gt (tgt := 149) dX4_game_99 (by decide) (fun c9 => ?_) (fun c9 => ?_)
    · rw [if_pos c9] at h
      refine vv_sub (lv' := [(0, .ref o), (1, .int x1), (2, .int x2), (3, .int x3), (4, .int x4), (5, .int x5), (6, .int x6)]) [0, 1, 2, 3, 4, 5, 6] rfl ?_
      exact v_game_149 hG hk59 h
    · rw [if_neg c9] at h
      refine vv_aload_n dX4_game_102 rfl 0 rfl ?_
      refine vv_iload_n dX4_game_103 rfl 2 rfl ?_
      refine vv_iload_n dX4_game_104 rfl 1 rfl ?_
      refine vv_iconst (v := (nI 1)) dX4_game_105 (by decide) ?_
      refine vv_iload dX4_game_106 8 rfl ?_
      refine vv_isub dX4_game_108 ?_
      refine vv_iload dX4_game_109 7 rfl ?_
      obtain ⟨r10, er10, h⟩ := bd_o h
      refine vv_callV ok_X4_gains q2174 (m_gains hG er10 (d + 0)) rfl (by omega) ⟨_, _, _, _, _, tp_o, by rw [hG.1]; rfl⟩ rfl rfl (Nat.le_of_ble_eq_true rfl) dX4_game_111 ?_
      refine vv_aload_n dX4_game_114 rfl 0 rfl ?_
      refine vv_iload_n dX4_game_115 rfl 2 rfl ?_
      refine vv_iload_n dX4_game_116 rfl 1 rfl ?_
      refine vv_iload dX4_game_117 8 rfl ?_
      refine vv_iload dX4_game_119 7 rfl ?_
      obtain ⟨r11, er11, h⟩ := bd_o h
      refine vv_callV ok_X4_gains q2174 (m_gains hG er11 (d + 0)) rfl (by omega) ⟨_, _, _, _, _, tp_o, by rw [hG.1]; rfl⟩ rfl rfl (Nat.le_of_ble_eq_true rfl) dX4_game_121 ?_
      refine vv_icmp_le (tgt := 130) dX4_game_124 (by decide) (fun c12 => ?_) (fun c12 => ?_)
      · rw [if_pos c12] at h
        refine vv_iinc (v := (x4 + (nI 1))) (lv' := [(0, .ref o), (1, .int x1), (2, .int x2), (3, .int x3), (4, .int (x4 + (nI 1))), (5, .int x5), (6, .int x6), (7, .int v3), (8, .int v5)]) dX4_game_130 4 rfl rfl (by decide) [1, 2, 3, 4, 0, 5, 6, 7, 8] rfl ?_
        refine vv_iload dX4_game_133 5 rfl ?_
        refine vv_iconst (v := (-1)) dX4_game_135 (by decide) ?_
        refine vv_icmp_ne (tgt := 149) dX4_game_136 (by decide) (fun c13 => ?_) (fun c13 => ?_)
        · rw [if_neg c13] at h
          refine vv_sub (lv' := [(0, .ref o), (1, .int x1), (2, .int x2), (3, .int x3), (4, .int (x4 + (nI 1))), (5, .int x5), (6, .int x6)]) [0, 1, 2, 3, 4, 5, 6] rfl ?_
          exact v_game_149 hG hk59 h
        · rw [if_pos c13] at h
          refine vv_bipush (v := (nI 10)) dX4_game_139 (by decide) ?_
          refine vv_iload dX4_game_141 7 rfl ?_
          refine vv_imul dX4_game_143 ?_
          refine vv_iload dX4_game_144 8 rfl ?_
          refine vv_iadd dX4_game_146 ?_
          refine vv_istore (lv' := [(0, .ref o), (1, .int x1), (2, .int x2), (3, .int x3), (4, .int (x4 + (nI 1))), (5, .int (((nI 10) * v3) + v5)), (6, .int x6), (7, .int v3), (8, .int v5)]) dX4_game_147 (by decide) [1, 2, 3, 4, 5, 0, 6, 7, 8] rfl ?_
          refine vv_sub (lv' := [(0, .ref o), (1, .int x1), (2, .int x2), (3, .int x3), (4, .int (x4 + (nI 1))), (5, .int (((nI 10) * v3) + v5)), (6, .int x6)]) [0, 1, 2, 3, 4, 5, 6] rfl ?_
          exact v_game_149 hG hk59 h
      · rw [if_neg c12] at h
        refine vv_goto (tgt := 149) dX4_game_127 (by decide) ?_
        refine vv_sub (lv' := [(0, .ref o), (1, .int x1), (2, .int x2), (3, .int x3), (4, .int x4), (5, .int x5), (6, .int x6)]) [0, 1, 2, 3, 4, 5, 6] rfl ?_
        exact v_game_149 hG hk59 h
theorem v_game_59 {l : Launch} {G : vv_G} {d : Nat} {o : Nat} {h0 : Nat → Option vv_E} {nz : Nat × Nat} (hG : vv_gok G) : ∀ (n : Nat) {x1 : Int32} {x2 : Int32} {x3 : Int32} {x4 : Int32} {x5 : Int32} {x6 : Int32} {T : tw_T} {r : Int32 × tw_T}, J_game_59 n x1 x2 x3 x4 x5 x6 T = some r → vv_V l G MX4_game (d + 6) 59 [(0, .ref o), (1, .int x1), (2, .int x2), (3, .int x3), (4, .int x4), (5, .int x5), (6, .int x6)] [] (tp o h0 T, nz) (.inl (some (.int r.1)), (tp o h0 r.2, nz)) := by
  intro n
  induction n with
  | zero => intro _ _ _ _ _ _ _ _ h; cases h
  | succ n ih => intro _ _ _ _ _ _ _ _ h; exact vb_game_59 hG ih h
def J_game_41 (s1 : Int32) (x1 : Int32) (x2 : Int32) (x3 : Int32) (T : tw_T) : Option (Int32 × tw_T) := (J_right s1 (nI 2) T).bind fun r1 => if r1.1 = 0 then (J_game_48 r1.2) else (J_game_59 NN x1 x2 x3 (nI 0) (-1) (nI 0) r1.2)
theorem v_game_41 {l : Launch} {G : vv_G} {d : Nat} {o : Nat} {h0 : Nat → Option vv_E} {nz : Nat × Nat} (hG : vv_gok G) {s1 : Int32} {x1 : Int32} {x2 : Int32} {x3 : Int32} {T : tw_T} {r : Int32 × tw_T} (h : J_game_41 s1 x1 x2 x3 T = some r) : vv_V l G MX4_game (d + 6) 41 [(0, .ref o), (1, .int x1), (2, .int x2), (3, .int x3)] [.int s1, .ref o] (tp o h0 T, nz) (.inl (some (.int r.1)), (tp o h0 r.2, nz)) := by
  unfold J_game_41 at h
  refine vv_iconst (v := (nI 2)) dX4_game_41 (by decide) ?_
  obtain ⟨r1, er1, h⟩ := bd_o h
  refine vv_callV ok_X4_right q1773 (m_right hG er1 (d + 5)) rfl (by omega) ⟨_, _, _, _, _, tp_o, by rw [hG.1]; rfl⟩ rfl rfl (Nat.le_of_ble_eq_true rfl) dX4_game_42 ?_
  refine vv_if_ne (tgt := 50) dX4_game_45 (by decide) (fun c2 => ?_) (fun c2 => ?_)
  · rw [if_neg c2] at h
    refine vv_iconst (v := (nI 0)) dX4_game_50 (by decide) ?_
    refine vv_istore (lv' := [(0, .ref o), (1, .int x1), (2, .int x2), (3, .int x3), (4, .int (nI 0))]) dX4_game_51 (by decide) [1, 2, 3, 4, 0] rfl ?_
    refine vv_iconst (v := (-1)) dX4_game_53 (by decide) ?_
    refine vv_istore (lv' := [(0, .ref o), (1, .int x1), (2, .int x2), (3, .int x3), (4, .int (nI 0)), (5, .int (-1))]) dX4_game_54 (by decide) [1, 2, 3, 4, 5, 0] rfl ?_
    refine vv_iconst (v := (nI 0)) dX4_game_56 (by decide) ?_
    refine vv_istore (lv' := [(0, .ref o), (1, .int x1), (2, .int x2), (3, .int x3), (4, .int (nI 0)), (5, .int (-1)), (6, .int (nI 0))]) dX4_game_57 (by decide) [1, 2, 3, 4, 5, 6, 0] rfl ?_
    exact v_game_59 hG NN h
  · rw [if_pos c2] at h
    refine vv_sub (lv' := [(0, .ref o)]) [0] rfl ?_
    exact v_game_48 hG h
def J_game (x1 : Int32) (x2 : Int32) (x3 : Int32) (T : tw_T) : Option (Int32 × tw_T) := (some (tw_F T 0 (nI 0))).bind fun T1 => (J_isTown x1 T1).bind fun r2 => if r2.1 = 0 then (J_game_48 r2.2) else ((J_isTown x2 r2.2).bind fun r4 => if r4.1 = 0 then (J_game_48 r4.2) else ((J_isWhat x3 (nI 1) r4.2).bind fun r6 => if r6.1 = 0 then (J_game_48 r6.2) else (if x1 = x2 then (J_game_41 (nI 0) x1 x2 x3 r6.2) else (J_game_41 (nI 1) x1 x2 x3 r6.2))))
theorem v_game_0 {l : Launch} {G : vv_G} {d : Nat} {o : Nat} {h0 : Nat → Option vv_E} {nz : Nat × Nat} (hG : vv_gok G) {x1 : Int32} {x2 : Int32} {x3 : Int32} {T : tw_T} {r : Int32 × tw_T} (h : J_game x1 x2 x3 T = some r) : vv_V l G MX4_game (d + 6) 0 [(0, .ref o), (1, .int x1), (2, .int x2), (3, .int x3)] [] (tp o h0 T, nz) (.inl (some (.int r.1)), (tp o h0 r.2, nz)) := by
  unfold J_game at h
  refine vv_aload_n dX4_game_0 rfl 0 rfl ?_
  refine vv_iconst (v := (nI 0)) dX4_game_1 (by decide) ?_
  obtain ⟨T1, eT1, h⟩ := bd_s h
  refine tw_put (T1 := T1) (pt_X4_117 hG) hG rfl rfl rfl (by decide) (by rw [eT1]; exact tw_set0 _ _ _) (by rw [eT1]; rfl) dX4_game_2 ?_
  refine vv_aload_n dX4_game_5 rfl 0 rfl ?_
  refine vv_iload_n dX4_game_6 rfl 1 rfl ?_
  obtain ⟨r2, er2, h⟩ := bd_o h
  refine vv_callV ok_X4_isTown q1935 (m_isTown hG er2 (d + 4)) rfl (by omega) ⟨_, _, _, _, _, tp_o, by rw [hG.1]; rfl⟩ rfl rfl (Nat.le_of_ble_eq_true rfl) dX4_game_7 ?_
  refine vv_if_eq (tgt := 48) dX4_game_10 (by decide) (fun c3 => ?_) (fun c3 => ?_)
  · rw [if_pos c3] at h
    refine vv_sub (lv' := [(0, .ref o)]) [0] rfl ?_
    exact v_game_48 hG h
  · rw [if_neg c3] at h
    refine vv_aload_n dX4_game_13 rfl 0 rfl ?_
    refine vv_iload_n dX4_game_14 rfl 2 rfl ?_
    obtain ⟨r4, er4, h⟩ := bd_o h
    refine vv_callV ok_X4_isTown q1935 (m_isTown hG er4 (d + 4)) rfl (by omega) ⟨_, _, _, _, _, tp_o, by rw [hG.1]; rfl⟩ rfl rfl (Nat.le_of_ble_eq_true rfl) dX4_game_15 ?_
    refine vv_if_eq (tgt := 48) dX4_game_18 (by decide) (fun c5 => ?_) (fun c5 => ?_)
    · rw [if_pos c5] at h
      refine vv_sub (lv' := [(0, .ref o)]) [0] rfl ?_
      exact v_game_48 hG h
    · rw [if_neg c5] at h
      refine vv_aload_n dX4_game_21 rfl 0 rfl ?_
      refine vv_iload_n dX4_game_22 rfl 3 rfl ?_
      refine vv_iconst (v := (nI 1)) dX4_game_23 (by decide) ?_
      obtain ⟨r6, er6, h⟩ := bd_o h
      refine vv_callV ok_X4_isWhat q1939 (m_isWhat hG er6 (d + 4)) rfl (by omega) ⟨_, _, _, _, _, tp_o, by rw [hG.1]; rfl⟩ rfl rfl (Nat.le_of_ble_eq_true rfl) dX4_game_24 ?_
      refine vv_if_eq (tgt := 48) dX4_game_27 (by decide) (fun c7 => ?_) (fun c7 => ?_)
      · rw [if_pos c7] at h
        refine vv_sub (lv' := [(0, .ref o)]) [0] rfl ?_
        exact v_game_48 hG h
      · rw [if_neg c7] at h
        refine vv_aload_n dX4_game_30 rfl 0 rfl ?_
        refine vv_iload_n dX4_game_31 rfl 1 rfl ?_
        refine vv_iload_n dX4_game_32 rfl 2 rfl ?_
        refine vv_icmp_eq (tgt := 40) dX4_game_33 (by decide) (fun c8 => ?_) (fun c8 => ?_)
        · rw [if_pos c8] at h
          refine vv_iconst (v := (nI 0)) dX4_game_40 (by decide) ?_
          exact v_game_41 hG h
        · rw [if_neg c8] at h
          refine vv_iconst (v := (nI 1)) dX4_game_36 (by decide) ?_
          refine vv_goto (tgt := 41) dX4_game_37 (by decide) ?_
          exact v_game_41 hG h
theorem m_game {l : Launch} {G : vv_G} {o : Nat} {h0 : Nat → Option vv_E} {nz : Nat × Nat} (hG : vv_gok G) {x1 : Int32} {x2 : Int32} {x3 : Int32} {T : tw_T} {r : Int32 × tw_T} (h : J_game x1 x2 x3 T = some r) (d : Nat) : vv_Met l G MX4_game (d + 6) [.ref o, .int x1, .int x2, .int x3] (tp o h0 T, nz) (.inl (some (.int r.1)), (tp o h0 r.2, nz)) := vv_head (by decide +kernel) rfl (Nat.le_of_ble_eq_true rfl) rfl (v_game_0 hG h)
/-! draw -/
def J_draw (x1 : Int32) (T : tw_T) : Option (Int32 × tw_T) := (some (tw_F T 56 (((T.1 56) * (nI 1103515245)) + (nI 12345)))).bind fun T1 => (rmI (((T1.1 56) >>> ((nI 16) &&& 31)) &&& (nI 32767)) x1).bind fun v2 => some (v2, T1)
theorem v_draw_0 {l : Launch} {G : vv_G} {d : Nat} {o : Nat} {h0 : Nat → Option vv_E} {nz : Nat × Nat} (hG : vv_gok G) {x1 : Int32} {T : tw_T} {r : Int32 × tw_T} (h : J_draw x1 T = some r) : vv_V l G MX4_draw (d + 0) 0 [(0, .ref o), (1, .int x1)] [] (tp o h0 T, nz) (.inl (some (.int r.1)), (tp o h0 r.2, nz)) := by
  unfold J_draw at h
  refine vv_aload_n dX4_draw_0 rfl 0 rfl ?_
  refine vv_aload_n dX4_draw_1 rfl 0 rfl ?_
  refine tw_get (fl_X4_430 hG) (k := 56) rfl dX4_draw_2 ?_
  refine vv_ldcw (v := (nI 1103515245)) dX4_draw_5 q2190 ?_
  refine vv_imul dX4_draw_8 ?_
  refine vv_sipush (v := (nI 12345)) dX4_draw_9 (by decide) ?_
  refine vv_iadd dX4_draw_12 ?_
  obtain ⟨T1, eT1, h⟩ := bd_s h
  refine tw_put (T1 := T1) (pt_X4_430 hG) hG rfl rfl rfl (by decide) (by rw [eT1]; exact tw_set56 _ _ _) (by rw [eT1]; rfl) dX4_draw_13 ?_
  refine vv_aload_n dX4_draw_16 rfl 0 rfl ?_
  refine tw_get (fl_X4_430 hG) (k := 56) rfl dX4_draw_17 ?_
  refine vv_bipush (v := (nI 16)) dX4_draw_20 (by decide) ?_
  refine vv_ishr dX4_draw_22 ?_
  refine vv_sipush (v := (nI 32767)) dX4_draw_23 (by decide) ?_
  refine vv_iand dX4_draw_26 ?_
  refine vv_iload_n dX4_draw_27 rfl 1 rfl ?_
  obtain ⟨hz3, h⟩ := rm_o h
  refine vv_irem dX4_draw_28 hz3 ?_
  obtain ⟨v2, ev2⟩ : ∃ z, z = ((((T1.1 56) >>> ((nI 16) &&& 31)) &&& (nI 32767)) - (((T1.1 56) >>> ((nI 16) &&& 31)) &&& (nI 32767)) / x1 * x1) := ⟨_, rfl⟩
  rw [← ev2] at h ⊢
  cases h
  exact vv_iret rfl dX4_draw_29
theorem m_draw {l : Launch} {G : vv_G} {o : Nat} {h0 : Nat → Option vv_E} {nz : Nat × Nat} (hG : vv_gok G) {x1 : Int32} {T : tw_T} {r : Int32 × tw_T} (h : J_draw x1 T = some r) (d : Nat) : vv_Met l G MX4_draw (d + 0) [.ref o, .int x1] (tp o h0 T, nz) (.inl (some (.int r.1)), (tp o h0 r.2, nz)) := vv_head (by decide +kernel) rfl (Nat.le_of_ble_eq_true rfl) rfl (v_draw_0 hG h)
/-! steals -/
def J_steals_16 (T : tw_T) : Option tw_T := some T
theorem v_steals_16 {l : Launch} {G : vv_G} {d : Nat} {o : Nat} {h0 : Nat → Option vv_E} {nz : Nat × Nat} (hG : vv_gok G) {T : tw_T} {r : tw_T} (h : J_steals_16 T = some r) : vv_V l G MX4_steals (d + 1) 16 [(0, .ref o)] [] (tp o h0 T, nz) (.inl none, (tp o h0 r, nz)) := by
  unfold J_steals_16 at h
  cases h
  exact vv_vret rfl dX4_steals_16
def J_steals (T : tw_T) : Option tw_T := (J_draw (nI 9) T).bind fun r1 => if r1.1 = 0 then (if (r1.2.1 3) = 0 then (J_steals_16 r1.2) else ((J_draw (r1.2.1 3) r1.2).bind fun r4 => (J_lies (nI 85) r4.1 r4.2).bind fun r5 => if r5.1 = 0 then (some r5.2) else ((stA r5.2 20 170 ((nI 110) + r4.1) (nI 0)).bind fun T7 => (stA T7 20 170 ((nI 140) + r4.1) (-1)).bind fun T8 => some T8))) else (J_steals_16 r1.2)
theorem v_steals_0 {l : Launch} {G : vv_G} {d : Nat} {o : Nat} {h0 : Nat → Option vv_E} {nz : Nat × Nat} (hG : vv_gok G) {T : tw_T} {r : tw_T} (h : J_steals T = some r) : vv_V l G MX4_steals (d + 1) 0 [(0, .ref o)] [] (tp o h0 T, nz) (.inl none, (tp o h0 r, nz)) := by
  unfold J_steals at h
  refine vv_aload_n dX4_steals_0 rfl 0 rfl ?_
  refine vv_bipush (v := (nI 9)) dX4_steals_1 (by decide) ?_
  obtain ⟨r1, er1, h⟩ := bd_o h
  refine vv_callV ok_X4_draw q2186 (m_draw hG er1 (d + 0)) rfl (by omega) ⟨_, _, _, _, _, tp_o, by rw [hG.1]; rfl⟩ rfl rfl (Nat.le_of_ble_eq_true rfl) dX4_steals_3 ?_
  refine vv_if_ne (tgt := 16) dX4_steals_6 (by decide) (fun c2 => ?_) (fun c2 => ?_)
  · rw [if_neg c2] at h
    exact v_steals_16 hG h
  · rw [if_pos c2] at h
    refine vv_aload_n dX4_steals_9 rfl 0 rfl ?_
    refine tw_get (fl_X4_287 hG) (k := 3) rfl dX4_steals_10 ?_
    refine vv_if_ne (tgt := 17) dX4_steals_13 (by decide) (fun c3 => ?_) (fun c3 => ?_)
    · rw [if_neg c3] at h
      refine vv_aload_n dX4_steals_17 rfl 0 rfl ?_
      refine vv_aload_n dX4_steals_18 rfl 0 rfl ?_
      refine tw_get (fl_X4_287 hG) (k := 3) rfl dX4_steals_19 ?_
      obtain ⟨r4, er4, h⟩ := bd_o h
      refine vv_callV ok_X4_draw q2186 (m_draw hG er4 (d + 0)) rfl (by omega) ⟨_, _, _, _, _, tp_o, by rw [hG.1]; rfl⟩ rfl rfl (Nat.le_of_ble_eq_true rfl) dX4_steals_22 ?_
      refine vv_istore_n (lv' := [(0, .ref o), (1, .int r4.1)]) dX4_steals_25 rfl (by decide) [1, 0] rfl ?_
      refine vv_aload_n dX4_steals_26 rfl 0 rfl ?_
      refine vv_bipush (v := (nI 85)) dX4_steals_27 (by decide) ?_
      refine vv_iload_n dX4_steals_29 rfl 1 rfl ?_
      obtain ⟨r5, er5, h⟩ := bd_o h
      refine vv_callV ok_X4_lies q1919 (m_lies hG er5 (d + 0)) rfl (by omega) ⟨_, _, _, _, _, tp_o, by rw [hG.1]; rfl⟩ rfl rfl (Nat.le_of_ble_eq_true rfl) dX4_steals_30 ?_
      refine vv_if_ne (tgt := 37) dX4_steals_33 (by decide) (fun c6 => ?_) (fun c6 => ?_)
      · rw [if_neg c6] at h
        refine vv_aload_n dX4_steals_37 rfl 0 rfl ?_
        refine tw_get (fl_X4_75 hG) (k := 42) rfl dX4_steals_38 ?_
        refine vv_bipush (v := (nI 110)) dX4_steals_41 (by decide) ?_
        refine vv_iload_n dX4_steals_43 rfl 1 rfl ?_
        refine vv_iadd dX4_steals_44 ?_
        refine vv_iconst (v := (nI 0)) dX4_steals_45 (by decide) ?_
        obtain ⟨T7, iT7, eT7, h⟩ := st_o h
        refine tw_ast 20 (by decide) rfl iT7 eT7 dX4_steals_46 ?_
        refine vv_aload_n dX4_steals_47 rfl 0 rfl ?_
        refine tw_get (fl_X4_75 hG) (k := 42) rfl dX4_steals_48 ?_
        refine vv_sipush (v := (nI 140)) dX4_steals_51 (by decide) ?_
        refine vv_iload_n dX4_steals_54 rfl 1 rfl ?_
        refine vv_iadd dX4_steals_55 ?_
        refine vv_iconst (v := (-1)) dX4_steals_56 (by decide) ?_
        obtain ⟨T8, iT8, eT8, h⟩ := st_o h
        refine tw_ast 20 (by decide) rfl iT8 eT8 dX4_steals_57 ?_
        cases h
        exact vv_vret rfl dX4_steals_58
      · rw [if_pos c6] at h
        cases h
        exact vv_vret rfl dX4_steals_36
    · rw [if_pos c3] at h
      exact v_steals_16 hG h
theorem m_steals {l : Launch} {G : vv_G} {o : Nat} {h0 : Nat → Option vv_E} {nz : Nat × Nat} (hG : vv_gok G) {T : tw_T} {r : tw_T} (h : J_steals T = some r) (d : Nat) : vv_Met l G MX4_steals (d + 1) [.ref o] (tp o h0 T, nz) (.inl none, (tp o h0 r, nz)) := vv_head (by decide +kernel) rfl (Nat.le_of_ble_eq_true rfl) rfl (v_steals_0 hG h)
/-! years -/
def J_years_24 (T : tw_T) : Option (Int32 × tw_T) := some ((nI 0), T)
theorem v_years_24 {l : Launch} {G : vv_G} {d : Nat} {o : Nat} {h0 : Nat → Option vv_E} {nz : Nat × Nat} (hG : vv_gok G) {T : tw_T} {r : Int32 × tw_T} (h : J_years_24 T = some r) : vv_V l G MX4_years (d + 3) 24 [(0, .ref o)] [] (tp o h0 T, nz) (.inl (some (.int r.1)), (tp o h0 r.2, nz)) := by
  unfold J_years_24 at h
  refine vv_iconst (v := (nI 0)) dX4_years_24 (by decide) ?_
  cases h
  exact vv_iret rfl dX4_years_25
def J_years_167 (s0 : Int32) (T : tw_T) : Option (Int32 × tw_T) := some (s0, T)
theorem v_years_167 {l : Launch} {G : vv_G} {d : Nat} {o : Nat} {h0 : Nat → Option vv_E} {nz : Nat × Nat} (hG : vv_gok G) {s0 : Int32} {T : tw_T} {r : Int32 × tw_T} (h : J_years_167 s0 T = some r) : vv_V l G MX4_years (d + 3) 167 [(0, .ref o)] [.int s0] (tp o h0 T, nz) (.inl (some (.int r.1)), (tp o h0 r.2, nz)) := by
  unfold J_years_167 at h
  cases h
  exact vv_iret rfl dX4_years_167
def J_years_105 (k38 : Int32 → Int32 → Int32 → tw_T → Option (Int32 × tw_T)) (k57 : Int32 → Int32 → Int32 → Int32 → tw_T → Option (Int32 × tw_T)) (s1 : Int32) (s2 : Int32) (s3 : Int32) (x2 : Int32) (x3 : Int32) (x4 : Int32) (x5 : Int32) (T : tw_T) : Option (Int32 × tw_T) := (J_stakes s1 s2 s3 T).bind fun r1 => k57 x2 x3 x4 (x5 + (nI 1)) r1
theorem v_years_105 {l : Launch} {G : vv_G} {d : Nat} {o : Nat} {h0 : Nat → Option vv_E} {nz : Nat × Nat} (hG : vv_gok G) {k38 : Int32 → Int32 → Int32 → tw_T → Option (Int32 × tw_T)} (hk38 : ∀ {x2 : Int32} {x3 : Int32} {x4 : Int32} {T : tw_T} {r : Int32 × tw_T}, k38 x2 x3 x4 T = some r → vv_V l G MX4_years (d + 3) 38 [(0, .ref o), (2, .int x2), (3, .int x3), (4, .int x4)] [] (tp o h0 T, nz) (.inl (some (.int r.1)), (tp o h0 r.2, nz))) {k57 : Int32 → Int32 → Int32 → Int32 → tw_T → Option (Int32 × tw_T)} (hk57 : ∀ {x2 : Int32} {x3 : Int32} {x4 : Int32} {x5 : Int32} {T : tw_T} {r : Int32 × tw_T}, k57 x2 x3 x4 x5 T = some r → vv_V l G MX4_years (d + 3) 57 [(0, .ref o), (2, .int x2), (3, .int x3), (4, .int x4), (5, .int x5)] [] (tp o h0 T, nz) (.inl (some (.int r.1)), (tp o h0 r.2, nz))) {s1 : Int32} {s2 : Int32} {s3 : Int32} {x2 : Int32} {x3 : Int32} {x4 : Int32} {x5 : Int32} {T : tw_T} {r : Int32 × tw_T} (h : J_years_105 k38 k57 s1 s2 s3 x2 x3 x4 x5 T = some r) : vv_V l G MX4_years (d + 3) 105 [(0, .ref o), (2, .int x2), (3, .int x3), (4, .int x4), (5, .int x5)] [.int s3, .int s2, .int s1, .ref o] (tp o h0 T, nz) (.inl (some (.int r.1)), (tp o h0 r.2, nz)) := by
  unfold J_years_105 at h
  obtain ⟨r1, er1, h⟩ := bd_o h
  refine vv_callV ok_X4_stakes q1996 (m_stakes hG er1 (d + 1)) rfl (by omega) ⟨_, _, _, _, _, tp_o, by rw [hG.1]; rfl⟩ rfl rfl (Nat.le_of_ble_eq_true rfl) dX4_years_105 ?_
  refine vv_iinc (v := (x5 + (nI 1))) (lv' := [(0, .ref o), (2, .int x2), (3, .int x3), (4, .int x4), (5, .int (x5 + (nI 1)))]) dX4_years_108 4 rfl rfl (by decide) [1, 2, 3, 4, 0] rfl ?_
  refine vv_goto (tgt := 57) dX4_years_111 (by decide) ?_
  exact hk57 h
def B_years_57 (k38 : Int32 → Int32 → Int32 → tw_T → Option (Int32 × tw_T)) (k57 : Int32 → Int32 → Int32 → Int32 → tw_T → Option (Int32 × tw_T)) (x2 : Int32) (x3 : Int32) (x4 : Int32) (x5 : Int32) (T : tw_T) : Option (Int32 × tw_T) := if (T.1 1) ≤ x5 then ((rdI 170 (T.2.2 20) (nI 85)).bind fun v2 => (stA T 20 170 (nI 85) (v2 + (nI 1))).bind fun T3 => k38 x2 x3 (x4 + (nI 1)) T3) else ((J_makesLuck (nI 85) x5 T).bind fun r4 => (J_oddsOf (nI 85) x5 r4).bind fun r5 => (J_draw (nI 12) r5.2).bind fun r6 => if r5.1 ≤ r6.1 then (J_years_105 k38 k57 (nI 85) x5 (nI 0) x2 x3 x4 x5 r6.2) else (J_years_105 k38 k57 (nI 85) x5 (nI 1) x2 x3 x4 x5 r6.2))
def J_years_57 (k38 : Int32 → Int32 → Int32 → tw_T → Option (Int32 × tw_T)) : Nat → Int32 → Int32 → Int32 → Int32 → tw_T → Option (Int32 × tw_T)
  | 0, _, _, _, _, _ => none
  | n + 1, x2, x3, x4, x5, T => B_years_57 k38 (J_years_57 k38 n) x2 x3 x4 x5 T
theorem vb_years_57 {l : Launch} {G : vv_G} {d : Nat} {o : Nat} {h0 : Nat → Option vv_E} {nz : Nat × Nat} (hG : vv_gok G) {k38 : Int32 → Int32 → Int32 → tw_T → Option (Int32 × tw_T)} (hk38 : ∀ {x2 : Int32} {x3 : Int32} {x4 : Int32} {T : tw_T} {r : Int32 × tw_T}, k38 x2 x3 x4 T = some r → vv_V l G MX4_years (d + 3) 38 [(0, .ref o), (2, .int x2), (3, .int x3), (4, .int x4)] [] (tp o h0 T, nz) (.inl (some (.int r.1)), (tp o h0 r.2, nz))) {k57 : Int32 → Int32 → Int32 → Int32 → tw_T → Option (Int32 × tw_T)} (hk57 : ∀ {x2 : Int32} {x3 : Int32} {x4 : Int32} {x5 : Int32} {T : tw_T} {r : Int32 × tw_T}, k57 x2 x3 x4 x5 T = some r → vv_V l G MX4_years (d + 3) 57 [(0, .ref o), (2, .int x2), (3, .int x3), (4, .int x4), (5, .int x5)] [] (tp o h0 T, nz) (.inl (some (.int r.1)), (tp o h0 r.2, nz))) {x2 : Int32} {x3 : Int32} {x4 : Int32} {x5 : Int32} {T : tw_T} {r : Int32 × tw_T} (h : B_years_57 k38 k57 x2 x3 x4 x5 T = some r) : vv_V l G MX4_years (d + 3) 57 [(0, .ref o), (2, .int x2), (3, .int x3), (4, .int x4), (5, .int x5)] [] (tp o h0 T, nz) (.inl (some (.int r.1)), (tp o h0 r.2, nz)) := by
  unfold B_years_57 at h
  refine vv_iload dX4_years_57 4 rfl ?_
  refine vv_aload_n dX4_years_59 rfl 0 rfl ?_
  refine tw_get (fl_X4_281 hG) (k := 1) rfl dX4_years_60 ?_
  refine vv_icmp_ge (tgt := 114) dX4_years_63 (by decide) (fun c1 => ?_) (fun c1 => ?_)
  · rw [if_pos c1] at h
    refine vv_aload_n dX4_years_114 rfl 0 rfl ?_
    refine tw_get (fl_X4_75 hG) (k := 42) rfl dX4_years_115 ?_
    refine vv_bipush (v := (nI 85)) dX4_years_118 (by decide) ?_
    refine vv_dup2 dX4_years_120 rfl rfl ?_
    obtain ⟨v2, iv2, ev2, h⟩ := rd_o h
    refine tw_ald 20 (by decide) rfl iv2 ev2 dX4_years_121 ?_
    refine vv_iconst (v := (nI 1)) dX4_years_122 (by decide) ?_
    refine vv_iadd dX4_years_123 ?_
    obtain ⟨T3, iT3, eT3, h⟩ := st_o h
    refine tw_ast 20 (by decide) rfl iT3 eT3 dX4_years_124 ?_
    refine vv_iinc (v := (x4 + (nI 1))) (lv' := [(0, .ref o), (2, .int x2), (3, .int x3), (4, .int (x4 + (nI 1))), (5, .int x5)]) dX4_years_125 3 rfl rfl (by decide) [1, 2, 3, 0, 4] rfl ?_
    refine vv_goto (tgt := 38) dX4_years_128 (by decide) ?_
    refine vv_sub (lv' := [(0, .ref o), (2, .int x2), (3, .int x3), (4, .int (x4 + (nI 1)))]) [0, 1, 2, 3] rfl ?_
    exact hk38 h
  · rw [if_neg c1] at h
    refine vv_aload_n dX4_years_66 rfl 0 rfl ?_
    refine vv_bipush (v := (nI 85)) dX4_years_67 (by decide) ?_
    refine vv_iload dX4_years_69 4 rfl ?_
    obtain ⟨r4, er4, h⟩ := bd_o h
    refine vv_callV ok_X4_makesLuck q1992 (m_makesLuck hG er4 (d + 1)) rfl (by omega) ⟨_, _, _, _, _, tp_o, by rw [hG.1]; rfl⟩ rfl rfl (Nat.le_of_ble_eq_true rfl) dX4_years_71 ?_
    refine vv_aload_n dX4_years_74 rfl 0 rfl ?_
    refine vv_bipush (v := (nI 85)) dX4_years_75 (by decide) ?_
    refine vv_iload dX4_years_77 4 rfl ?_
    obtain ⟨r5, er5, h⟩ := bd_o h
    refine vv_callV ok_X4_oddsOf q1943 (m_oddsOf hG er5 (d + 0)) rfl (by omega) ⟨_, _, _, _, _, tp_o, by rw [hG.1]; rfl⟩ rfl rfl (Nat.le_of_ble_eq_true rfl) dX4_years_79 ?_
    refine vv_istore (lv' := [(0, .ref o), (2, .int x2), (3, .int x3), (4, .int x4), (5, .int x5), (6, .int r5.1)]) dX4_years_82 (by decide) [1, 2, 3, 4, 5, 0] rfl ?_
    refine vv_aload_n dX4_years_84 rfl 0 rfl ?_
    refine vv_bipush (v := (nI 85)) dX4_years_85 (by decide) ?_
    refine vv_iload dX4_years_87 4 rfl ?_
    refine vv_aload_n dX4_years_89 rfl 0 rfl ?_
    refine vv_bipush (v := (nI 12)) dX4_years_90 (by decide) ?_
    obtain ⟨r6, er6, h⟩ := bd_o h
    refine vv_callV ok_X4_draw q2186 (m_draw hG er6 (d + 2)) rfl (by omega) ⟨_, _, _, _, _, tp_o, by rw [hG.1]; rfl⟩ rfl rfl (Nat.le_of_ble_eq_true rfl) dX4_years_92 ?_
    refine vv_iload dX4_years_95 5 rfl ?_
    refine vv_icmp_ge (tgt := 104) dX4_years_97 (by decide) (fun c7 => ?_) (fun c7 => ?_)
    · rw [if_pos c7] at h
      refine vv_iconst (v := (nI 0)) dX4_years_104 (by decide) ?_
      refine vv_sub (lv' := [(0, .ref o), (2, .int x2), (3, .int x3), (4, .int x4), (5, .int x5)]) [0, 1, 2, 3, 4] rfl ?_
      exact v_years_105 hG hk38 hk57 h
    · rw [if_neg c7] at h
      refine vv_iconst (v := (nI 1)) dX4_years_100 (by decide) ?_
      refine vv_goto (tgt := 105) dX4_years_101 (by decide) ?_
      refine vv_sub (lv' := [(0, .ref o), (2, .int x2), (3, .int x3), (4, .int x4), (5, .int x5)]) [0, 1, 2, 3, 4] rfl ?_
      exact v_years_105 hG hk38 hk57 h
theorem v_years_57 {l : Launch} {G : vv_G} {d : Nat} {o : Nat} {h0 : Nat → Option vv_E} {nz : Nat × Nat} (hG : vv_gok G) {k38 : Int32 → Int32 → Int32 → tw_T → Option (Int32 × tw_T)} (hk38 : ∀ {x2 : Int32} {x3 : Int32} {x4 : Int32} {T : tw_T} {r : Int32 × tw_T}, k38 x2 x3 x4 T = some r → vv_V l G MX4_years (d + 3) 38 [(0, .ref o), (2, .int x2), (3, .int x3), (4, .int x4)] [] (tp o h0 T, nz) (.inl (some (.int r.1)), (tp o h0 r.2, nz))) : ∀ (n : Nat) {x2 : Int32} {x3 : Int32} {x4 : Int32} {x5 : Int32} {T : tw_T} {r : Int32 × tw_T}, J_years_57 k38 n x2 x3 x4 x5 T = some r → vv_V l G MX4_years (d + 3) 57 [(0, .ref o), (2, .int x2), (3, .int x3), (4, .int x4), (5, .int x5)] [] (tp o h0 T, nz) (.inl (some (.int r.1)), (tp o h0 r.2, nz)) := by
  intro n
  induction n with
  | zero => intro _ _ _ _ _ _ h; cases h
  | succ n ih => intro _ _ _ _ _ _ h; exact vb_years_57 hG hk38 ih h
def B_years_38 (k38 : Int32 → Int32 → Int32 → tw_T → Option (Int32 × tw_T)) (x2 : Int32) (x3 : Int32) (x4 : Int32) (T : tw_T) : Option (Int32 × tw_T) := if x2 ≤ x4 then (if x3 = 0 then ((J_allOf (nI 102) T).bind fun r7 => J_years_167 r7.1 r7.2) else (if x3 = (nI 1) then ((J_allOf (nI 86) T).bind fun r6 => J_years_167 r6.1 r6.2) else ((J_goneIn (nI 85) T).bind fun r4 => (J_bits r4.1).bind fun r5 => J_years_167 r5 r4.2))) else ((J_steals T).bind fun r8 => (J_cratesGo (nI 85) r8).bind fun r9 => J_years_57 k38 NN x2 x3 x4 (nI 0) r9)
def J_years_38 : Nat → Int32 → Int32 → Int32 → tw_T → Option (Int32 × tw_T)
  | 0, _, _, _, _ => none
  | n + 1, x2, x3, x4, T => B_years_38 (J_years_38 n) x2 x3 x4 T
theorem vb_years_38 {l : Launch} {G : vv_G} {d : Nat} {o : Nat} {h0 : Nat → Option vv_E} {nz : Nat × Nat} (hG : vv_gok G) {k38 : Int32 → Int32 → Int32 → tw_T → Option (Int32 × tw_T)} (hk38 : ∀ {x2 : Int32} {x3 : Int32} {x4 : Int32} {T : tw_T} {r : Int32 × tw_T}, k38 x2 x3 x4 T = some r → vv_V l G MX4_years (d + 3) 38 [(0, .ref o), (2, .int x2), (3, .int x3), (4, .int x4)] [] (tp o h0 T, nz) (.inl (some (.int r.1)), (tp o h0 r.2, nz))) {x2 : Int32} {x3 : Int32} {x4 : Int32} {T : tw_T} {r : Int32 × tw_T} (h : B_years_38 k38 x2 x3 x4 T = some r) : vv_V l G MX4_years (d + 3) 38 [(0, .ref o), (2, .int x2), (3, .int x3), (4, .int x4)] [] (tp o h0 T, nz) (.inl (some (.int r.1)), (tp o h0 r.2, nz)) := by
  unfold B_years_38 at h
  refine vv_iload dX4_years_38 3 rfl ?_
  refine vv_iload_n dX4_years_40 rfl 1 rfl ?_
  refine vv_icmp_ge (tgt := 131) dX4_years_41 (by decide) (fun c1 => ?_) (fun c1 => ?_)
  · rw [if_pos c1] at h
    refine vv_iload_n dX4_years_131 rfl 2 rfl ?_
    refine vv_if_ne (tgt := 144) dX4_years_132 (by decide) (fun c2 => ?_) (fun c2 => ?_)
    · rw [if_neg c2] at h
      refine vv_iload_n dX4_years_144 rfl 2 rfl ?_
      refine vv_iconst (v := (nI 1)) dX4_years_145 (by decide) ?_
      refine vv_icmp_ne (tgt := 158) dX4_years_146 (by decide) (fun c3 => ?_) (fun c3 => ?_)
      · rw [if_neg c3] at h
        refine vv_aload_n dX4_years_158 rfl 0 rfl ?_
        refine vv_bipush (v := (nI 85)) dX4_years_159 (by decide) ?_
        obtain ⟨r4, er4, h⟩ := bd_o h
        refine vv_callV ok_X4_goneIn q1927 (m_goneIn hG er4 (d + 2)) rfl (by omega) ⟨_, _, _, _, _, tp_o, by rw [hG.1]; rfl⟩ rfl rfl (Nat.le_of_ble_eq_true rfl) dX4_years_161 ?_
        obtain ⟨r5, er5, h⟩ := bd_o h
        refine vv_callS ok_X4_bits q1954 (m_bits hG er5 (d + 2)) rfl (by omega) rfl rfl (Nat.le_of_ble_eq_true rfl) dX4_years_164 ?_
        refine vv_sub (lv' := [(0, .ref o)]) [0] rfl ?_
        exact v_years_167 hG h
      · rw [if_pos c3] at h
        refine vv_aload_n dX4_years_149 rfl 0 rfl ?_
        refine vv_bipush (v := (nI 86)) dX4_years_150 (by decide) ?_
        obtain ⟨r6, er6, h⟩ := bd_o h
        refine vv_callV ok_X4_allOf q1911 (m_allOf hG er6 (d + 2)) rfl (by omega) ⟨_, _, _, _, _, tp_o, by rw [hG.1]; rfl⟩ rfl rfl (Nat.le_of_ble_eq_true rfl) dX4_years_152 ?_
        refine vv_goto (tgt := 167) dX4_years_155 (by decide) ?_
        refine vv_sub (lv' := [(0, .ref o)]) [0] rfl ?_
        exact v_years_167 hG h
    · rw [if_pos c2] at h
      refine vv_aload_n dX4_years_135 rfl 0 rfl ?_
      refine vv_bipush (v := (nI 102)) dX4_years_136 (by decide) ?_
      obtain ⟨r7, er7, h⟩ := bd_o h
      refine vv_callV ok_X4_allOf q1911 (m_allOf hG er7 (d + 2)) rfl (by omega) ⟨_, _, _, _, _, tp_o, by rw [hG.1]; rfl⟩ rfl rfl (Nat.le_of_ble_eq_true rfl) dX4_years_138 ?_
      refine vv_goto (tgt := 167) dX4_years_141 (by decide) ?_
      refine vv_sub (lv' := [(0, .ref o)]) [0] rfl ?_
      exact v_years_167 hG h
  · rw [if_neg c1] at h
    refine vv_aload_n dX4_years_44 rfl 0 rfl ?_
    obtain ⟨r8, er8, h⟩ := bd_o h
    refine vv_callV ok_X4_steals q2182 (m_steals hG er8 (d + 1)) rfl (by omega) ⟨_, _, _, _, _, tp_o, by rw [hG.1]; rfl⟩ rfl rfl (Nat.le_of_ble_eq_true rfl) dX4_years_45 ?_
    refine vv_aload_n dX4_years_48 rfl 0 rfl ?_
    refine vv_bipush (v := (nI 85)) dX4_years_49 (by decide) ?_
    obtain ⟨r9, er9, h⟩ := bd_o h
    refine vv_callV ok_X4_cratesGo q1988 (m_cratesGo hG er9 (d + 1)) rfl (by omega) ⟨_, _, _, _, _, tp_o, by rw [hG.1]; rfl⟩ rfl rfl (Nat.le_of_ble_eq_true rfl) dX4_years_51 ?_
    refine vv_iconst (v := (nI 0)) dX4_years_54 (by decide) ?_
    refine vv_istore (lv' := [(0, .ref o), (2, .int x2), (3, .int x3), (4, .int x4), (5, .int (nI 0))]) dX4_years_55 (by decide) [1, 2, 3, 4, 0] rfl ?_
    exact v_years_57 hG hk38 NN h
theorem v_years_38 {l : Launch} {G : vv_G} {d : Nat} {o : Nat} {h0 : Nat → Option vv_E} {nz : Nat × Nat} (hG : vv_gok G) : ∀ (n : Nat) {x2 : Int32} {x3 : Int32} {x4 : Int32} {T : tw_T} {r : Int32 × tw_T}, J_years_38 n x2 x3 x4 T = some r → vv_V l G MX4_years (d + 3) 38 [(0, .ref o), (2, .int x2), (3, .int x3), (4, .int x4)] [] (tp o h0 T, nz) (.inl (some (.int r.1)), (tp o h0 r.2, nz)) := by
  intro n
  induction n with
  | zero => intro _ _ _ _ _ h; cases h
  | succ n ih => intro _ _ _ _ _ h; exact vb_years_38 hG ih h
def J_years (x1 : Int32) (x2 : Int32) (x3 : Int32) (T : tw_T) : Option (Int32 × tw_T) := (some (tw_F T 0 (nI 0))).bind fun T1 => (J_isWhat x3 (nI 2) T1).bind fun r2 => if r2.1 = 0 then (J_years_24 r2.2) else ((J_isDays x2 (nI 0) (nI 2) r2.2).bind fun r4 => if r4.1 = 0 then (J_years_24 r4.2) else ((J_tries r4.2).bind fun r6 => (some (tw_F r6 56 x1)).bind fun T7 => J_years_38 NN x2 x3 (nI 0) T7))
theorem v_years_0 {l : Launch} {G : vv_G} {d : Nat} {o : Nat} {h0 : Nat → Option vv_E} {nz : Nat × Nat} (hG : vv_gok G) {x1 : Int32} {x2 : Int32} {x3 : Int32} {T : tw_T} {r : Int32 × tw_T} (h : J_years x1 x2 x3 T = some r) : vv_V l G MX4_years (d + 3) 0 [(0, .ref o), (1, .int x1), (2, .int x2), (3, .int x3)] [] (tp o h0 T, nz) (.inl (some (.int r.1)), (tp o h0 r.2, nz)) := by
  unfold J_years at h
  refine vv_aload_n dX4_years_0 rfl 0 rfl ?_
  refine vv_iconst (v := (nI 0)) dX4_years_1 (by decide) ?_
  obtain ⟨T1, eT1, h⟩ := bd_s h
  refine tw_put (T1 := T1) (pt_X4_117 hG) hG rfl rfl rfl (by decide) (by rw [eT1]; exact tw_set0 _ _ _) (by rw [eT1]; rfl) dX4_years_2 ?_
  refine vv_aload_n dX4_years_5 rfl 0 rfl ?_
  refine vv_iload_n dX4_years_6 rfl 3 rfl ?_
  refine vv_iconst (v := (nI 2)) dX4_years_7 (by decide) ?_
  obtain ⟨r2, er2, h⟩ := bd_o h
  refine vv_callV ok_X4_isWhat q1939 (m_isWhat hG er2 (d + 1)) rfl (by omega) ⟨_, _, _, _, _, tp_o, by rw [hG.1]; rfl⟩ rfl rfl (Nat.le_of_ble_eq_true rfl) dX4_years_8 ?_
  refine vv_if_eq (tgt := 24) dX4_years_11 (by decide) (fun c3 => ?_) (fun c3 => ?_)
  · rw [if_pos c3] at h
    refine vv_sub (lv' := [(0, .ref o)]) [0] rfl ?_
    exact v_years_24 hG h
  · rw [if_neg c3] at h
    refine vv_aload_n dX4_years_14 rfl 0 rfl ?_
    refine vv_iload_n dX4_years_15 rfl 2 rfl ?_
    refine vv_iconst (v := (nI 0)) dX4_years_16 (by decide) ?_
    refine vv_iconst (v := (nI 2)) dX4_years_17 (by decide) ?_
    obtain ⟨r4, er4, h⟩ := bd_o h
    refine vv_callV ok_X4_isDays q2035 (m_isDays hG er4 (d + 1)) rfl (by omega) ⟨_, _, _, _, _, tp_o, by rw [hG.1]; rfl⟩ rfl rfl (Nat.le_of_ble_eq_true rfl) dX4_years_18 ?_
    refine vv_if_ne (tgt := 26) dX4_years_21 (by decide) (fun c5 => ?_) (fun c5 => ?_)
    · rw [if_neg c5] at h
      refine vv_aload_n dX4_years_26 rfl 0 rfl ?_
      obtain ⟨r6, er6, h⟩ := bd_o h
      refine vv_callV ok_X4_tries q2039 (m_tries hG er6 (d + 2)) rfl (by omega) ⟨_, _, _, _, _, tp_o, by rw [hG.1]; rfl⟩ rfl rfl (Nat.le_of_ble_eq_true rfl) dX4_years_27 ?_
      refine vv_aload_n dX4_years_30 rfl 0 rfl ?_
      refine vv_iload_n dX4_years_31 rfl 1 rfl ?_
      obtain ⟨T7, eT7, h⟩ := bd_s h
      refine tw_put (T1 := T7) (pt_X4_430 hG) hG rfl rfl rfl (by decide) (by rw [eT7]; exact tw_set56 _ _ _) (by rw [eT7]; rfl) dX4_years_32 ?_
      refine vv_iconst (v := (nI 0)) dX4_years_35 (by decide) ?_
      refine vv_istore (lv' := [(0, .ref o), (1, .int x1), (2, .int x2), (3, .int x3), (4, .int (nI 0))]) dX4_years_36 (by decide) [1, 2, 3, 4, 0] rfl ?_
      refine vv_sub (lv' := [(0, .ref o), (2, .int x2), (3, .int x3), (4, .int (nI 0))]) [0, 2, 3, 4] rfl ?_
      exact v_years_38 hG NN h
    · rw [if_pos c5] at h
      refine vv_sub (lv' := [(0, .ref o)]) [0] rfl ?_
      exact v_years_24 hG h
theorem m_years {l : Launch} {G : vv_G} {o : Nat} {h0 : Nat → Option vv_E} {nz : Nat × Nat} (hG : vv_gok G) {x1 : Int32} {x2 : Int32} {x3 : Int32} {T : tw_T} {r : Int32 × tw_T} (h : J_years x1 x2 x3 T = some r) (d : Nat) : vv_Met l G MX4_years (d + 3) [.ref o, .int x1, .int x2, .int x3] (tp o h0 T, nz) (.inl (some (.int r.1)), (tp o h0 r.2, nz)) := vv_head (by decide +kernel) rfl (Nat.le_of_ble_eq_true rfl) rfl (v_years_0 hG h)
/-! grainsOf -/
def J_grainsOf_53 (k5 : Int32 → Int32 → Int32 → Int32 → tw_T → Option (Int32 × tw_T)) (s0 : Int32) (s1 : Int32) (x1 : Int32) (x2 : Int32) (x4 : Int32) (T : tw_T) : Option (Int32 × tw_T) := k5 x1 x2 (s0 + s1) (x4 + (nI 1)) T
theorem v_grainsOf_53 {l : Launch} {G : vv_G} {d : Nat} {o : Nat} {h0 : Nat → Option vv_E} {nz : Nat × Nat} (hG : vv_gok G) {k5 : Int32 → Int32 → Int32 → Int32 → tw_T → Option (Int32 × tw_T)} (hk5 : ∀ {x1 : Int32} {x2 : Int32} {x3 : Int32} {x4 : Int32} {T : tw_T} {r : Int32 × tw_T}, k5 x1 x2 x3 x4 T = some r → vv_V l G MX4_grainsOf (d + 0) 5 [(0, .ref o), (1, .int x1), (2, .int x2), (3, .int x3), (4, .int x4)] [] (tp o h0 T, nz) (.inl (some (.int r.1)), (tp o h0 r.2, nz))) {s0 : Int32} {s1 : Int32} {x1 : Int32} {x2 : Int32} {x4 : Int32} {T : tw_T} {r : Int32 × tw_T} (h : J_grainsOf_53 k5 s0 s1 x1 x2 x4 T = some r) : vv_V l G MX4_grainsOf (d + 0) 53 [(0, .ref o), (1, .int x1), (2, .int x2), (4, .int x4)] [.int s1, .int s0] (tp o h0 T, nz) (.inl (some (.int r.1)), (tp o h0 r.2, nz)) := by
  unfold J_grainsOf_53 at h
  refine vv_iadd dX4_grainsOf_53 ?_
  refine vv_istore_n (lv' := [(0, .ref o), (1, .int x1), (2, .int x2), (3, .int (s0 + s1)), (4, .int x4)]) dX4_grainsOf_54 rfl (by decide) [1, 2, 3, 0, 4] rfl ?_
  refine vv_iinc (v := (x4 + (nI 1))) (lv' := [(0, .ref o), (1, .int x1), (2, .int x2), (3, .int (s0 + s1)), (4, .int (x4 + (nI 1)))]) dX4_grainsOf_55 4 rfl rfl (by decide) [1, 2, 3, 4, 0] rfl ?_
  refine vv_goto (tgt := 5) dX4_grainsOf_58 (by decide) ?_
  exact hk5 h
def J_grainsOf_52 (k5 : Int32 → Int32 → Int32 → Int32 → tw_T → Option (Int32 × tw_T)) (s0 : Int32) (x1 : Int32) (x2 : Int32) (x4 : Int32) (T : tw_T) : Option (Int32 × tw_T) := J_grainsOf_53 k5 s0 (nI 0) x1 x2 x4 T
theorem v_grainsOf_52 {l : Launch} {G : vv_G} {d : Nat} {o : Nat} {h0 : Nat → Option vv_E} {nz : Nat × Nat} (hG : vv_gok G) {k5 : Int32 → Int32 → Int32 → Int32 → tw_T → Option (Int32 × tw_T)} (hk5 : ∀ {x1 : Int32} {x2 : Int32} {x3 : Int32} {x4 : Int32} {T : tw_T} {r : Int32 × tw_T}, k5 x1 x2 x3 x4 T = some r → vv_V l G MX4_grainsOf (d + 0) 5 [(0, .ref o), (1, .int x1), (2, .int x2), (3, .int x3), (4, .int x4)] [] (tp o h0 T, nz) (.inl (some (.int r.1)), (tp o h0 r.2, nz))) {s0 : Int32} {x1 : Int32} {x2 : Int32} {x4 : Int32} {T : tw_T} {r : Int32 × tw_T} (h : J_grainsOf_52 k5 s0 x1 x2 x4 T = some r) : vv_V l G MX4_grainsOf (d + 0) 52 [(0, .ref o), (1, .int x1), (2, .int x2), (4, .int x4)] [.int s0] (tp o h0 T, nz) (.inl (some (.int r.1)), (tp o h0 r.2, nz)) := by
  unfold J_grainsOf_52 at h
  refine vv_iconst (v := (nI 0)) dX4_grainsOf_52 (by decide) ?_
  exact v_grainsOf_53 hG hk5 h
def B_grainsOf_5 (k5 : Int32 → Int32 → Int32 → Int32 → tw_T → Option (Int32 × tw_T)) (x1 : Int32) (x2 : Int32) (x3 : Int32) (x4 : Int32) (T : tw_T) : Option (Int32 × tw_T) := if (T.1 3) ≤ x4 then (some (x3, T)) else (if ((x1 >>> (x4 &&& 31)) &&& (nI 1)) = (nI 1) then ((rdI 170 (T.2.2 20) ((nI 35) + x4)).bind fun v3 => if v3 = x2 then ((rdI 170 (T.2.2 20) ((nI 25) + x4)).bind fun v5 => J_grainsOf_53 k5 x3 v5 x1 x2 x4 T) else (J_grainsOf_52 k5 x3 x1 x2 x4 T)) else (J_grainsOf_52 k5 x3 x1 x2 x4 T))
def J_grainsOf_5 : Nat → Int32 → Int32 → Int32 → Int32 → tw_T → Option (Int32 × tw_T)
  | 0, _, _, _, _, _ => none
  | n + 1, x1, x2, x3, x4, T => B_grainsOf_5 (J_grainsOf_5 n) x1 x2 x3 x4 T
theorem vb_grainsOf_5 {l : Launch} {G : vv_G} {d : Nat} {o : Nat} {h0 : Nat → Option vv_E} {nz : Nat × Nat} (hG : vv_gok G) {k5 : Int32 → Int32 → Int32 → Int32 → tw_T → Option (Int32 × tw_T)} (hk5 : ∀ {x1 : Int32} {x2 : Int32} {x3 : Int32} {x4 : Int32} {T : tw_T} {r : Int32 × tw_T}, k5 x1 x2 x3 x4 T = some r → vv_V l G MX4_grainsOf (d + 0) 5 [(0, .ref o), (1, .int x1), (2, .int x2), (3, .int x3), (4, .int x4)] [] (tp o h0 T, nz) (.inl (some (.int r.1)), (tp o h0 r.2, nz))) {x1 : Int32} {x2 : Int32} {x3 : Int32} {x4 : Int32} {T : tw_T} {r : Int32 × tw_T} (h : B_grainsOf_5 k5 x1 x2 x3 x4 T = some r) : vv_V l G MX4_grainsOf (d + 0) 5 [(0, .ref o), (1, .int x1), (2, .int x2), (3, .int x3), (4, .int x4)] [] (tp o h0 T, nz) (.inl (some (.int r.1)), (tp o h0 r.2, nz)) := by
  unfold B_grainsOf_5 at h
  refine vv_iload dX4_grainsOf_5 4 rfl ?_
  refine vv_aload_n dX4_grainsOf_7 rfl 0 rfl ?_
  refine tw_get (fl_X4_287 hG) (k := 3) rfl dX4_grainsOf_8 ?_
  refine vv_icmp_ge (tgt := 61) dX4_grainsOf_11 (by decide) (fun c1 => ?_) (fun c1 => ?_)
  · rw [if_pos c1] at h
    refine vv_iload_n dX4_grainsOf_61 rfl 3 rfl ?_
    cases h
    exact vv_iret rfl dX4_grainsOf_62
  · rw [if_neg c1] at h
    refine vv_iload_n dX4_grainsOf_14 rfl 3 rfl ?_
    refine vv_iload_n dX4_grainsOf_15 rfl 1 rfl ?_
    refine vv_iload dX4_grainsOf_16 4 rfl ?_
    refine vv_ishr dX4_grainsOf_18 ?_
    refine vv_iconst (v := (nI 1)) dX4_grainsOf_19 (by decide) ?_
    refine vv_iand dX4_grainsOf_20 ?_
    refine vv_iconst (v := (nI 1)) dX4_grainsOf_21 (by decide) ?_
    refine vv_icmp_ne (tgt := 52) dX4_grainsOf_22 (by decide) (fun c2 => ?_) (fun c2 => ?_)
    · rw [if_neg c2] at h
      refine vv_sub (lv' := [(0, .ref o), (1, .int x1), (2, .int x2), (4, .int x4)]) [0, 1, 2, 4] rfl ?_
      exact v_grainsOf_52 hG hk5 h
    · rw [if_pos c2] at h
      refine vv_aload_n dX4_grainsOf_25 rfl 0 rfl ?_
      refine tw_get (fl_X4_75 hG) (k := 42) rfl dX4_grainsOf_26 ?_
      refine vv_bipush (v := (nI 35)) dX4_grainsOf_29 (by decide) ?_
      refine vv_iload dX4_grainsOf_31 4 rfl ?_
      refine vv_iadd dX4_grainsOf_33 ?_
      obtain ⟨v3, iv3, ev3, h⟩ := rd_o h
      refine tw_ald 20 (by decide) rfl iv3 ev3 dX4_grainsOf_34 ?_
      refine vv_iload_n dX4_grainsOf_35 rfl 2 rfl ?_
      refine vv_icmp_ne (tgt := 52) dX4_grainsOf_36 (by decide) (fun c4 => ?_) (fun c4 => ?_)
      · rw [if_neg c4] at h
        refine vv_sub (lv' := [(0, .ref o), (1, .int x1), (2, .int x2), (4, .int x4)]) [0, 1, 2, 4] rfl ?_
        exact v_grainsOf_52 hG hk5 h
      · rw [if_pos c4] at h
        refine vv_aload_n dX4_grainsOf_39 rfl 0 rfl ?_
        refine tw_get (fl_X4_75 hG) (k := 42) rfl dX4_grainsOf_40 ?_
        refine vv_bipush (v := (nI 25)) dX4_grainsOf_43 (by decide) ?_
        refine vv_iload dX4_grainsOf_45 4 rfl ?_
        refine vv_iadd dX4_grainsOf_47 ?_
        obtain ⟨v5, iv5, ev5, h⟩ := rd_o h
        refine tw_ald 20 (by decide) rfl iv5 ev5 dX4_grainsOf_48 ?_
        refine vv_goto (tgt := 53) dX4_grainsOf_49 (by decide) ?_
        refine vv_sub (lv' := [(0, .ref o), (1, .int x1), (2, .int x2), (4, .int x4)]) [0, 1, 2, 4] rfl ?_
        exact v_grainsOf_53 hG hk5 h
theorem v_grainsOf_5 {l : Launch} {G : vv_G} {d : Nat} {o : Nat} {h0 : Nat → Option vv_E} {nz : Nat × Nat} (hG : vv_gok G) : ∀ (n : Nat) {x1 : Int32} {x2 : Int32} {x3 : Int32} {x4 : Int32} {T : tw_T} {r : Int32 × tw_T}, J_grainsOf_5 n x1 x2 x3 x4 T = some r → vv_V l G MX4_grainsOf (d + 0) 5 [(0, .ref o), (1, .int x1), (2, .int x2), (3, .int x3), (4, .int x4)] [] (tp o h0 T, nz) (.inl (some (.int r.1)), (tp o h0 r.2, nz)) := by
  intro n
  induction n with
  | zero => intro _ _ _ _ _ _ h; cases h
  | succ n ih => intro _ _ _ _ _ _ h; exact vb_grainsOf_5 hG ih h
def J_grainsOf (x1 : Int32) (x2 : Int32) (T : tw_T) : Option (Int32 × tw_T) := J_grainsOf_5 NN x1 x2 (nI 0) (nI 0) T
theorem v_grainsOf_0 {l : Launch} {G : vv_G} {d : Nat} {o : Nat} {h0 : Nat → Option vv_E} {nz : Nat × Nat} (hG : vv_gok G) {x1 : Int32} {x2 : Int32} {T : tw_T} {r : Int32 × tw_T} (h : J_grainsOf x1 x2 T = some r) : vv_V l G MX4_grainsOf (d + 0) 0 [(0, .ref o), (1, .int x1), (2, .int x2)] [] (tp o h0 T, nz) (.inl (some (.int r.1)), (tp o h0 r.2, nz)) := by
  unfold J_grainsOf at h
  refine vv_iconst (v := (nI 0)) dX4_grainsOf_0 (by decide) ?_
  refine vv_istore_n (lv' := [(0, .ref o), (1, .int x1), (2, .int x2), (3, .int (nI 0))]) dX4_grainsOf_1 rfl (by decide) [1, 2, 3, 0] rfl ?_
  refine vv_iconst (v := (nI 0)) dX4_grainsOf_2 (by decide) ?_
  refine vv_istore (lv' := [(0, .ref o), (1, .int x1), (2, .int x2), (3, .int (nI 0)), (4, .int (nI 0))]) dX4_grainsOf_3 (by decide) [1, 2, 3, 4, 0] rfl ?_
  exact v_grainsOf_5 hG NN h
theorem m_grainsOf {l : Launch} {G : vv_G} {o : Nat} {h0 : Nat → Option vv_E} {nz : Nat × Nat} (hG : vv_gok G) {x1 : Int32} {x2 : Int32} {T : tw_T} {r : Int32 × tw_T} (h : J_grainsOf x1 x2 T = some r) (d : Nat) : vv_Met l G MX4_grainsOf (d + 0) [.ref o, .int x1, .int x2] (tp o h0 T, nz) (.inl (some (.int r.1)), (tp o h0 r.2, nz)) := vv_head (by decide +kernel) rfl (Nat.le_of_ble_eq_true rfl) rfl (v_grainsOf_0 hG h)
