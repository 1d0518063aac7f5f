set_option maxRecDepth 100000
/-! thief -/
def J_thief_29 (T : tw_T) : Option (Int32 × tw_T) := some ((nI 0), T)
theorem v_thief_29 {l : Launch} {G : vv_G} {d : Nat} {o : Nat} {h0 : Nat → Option vv_E} {nz : Nat × Nat} (hG : vv_gok G) {T : tw_T} {r : Int32 × tw_T} (h : J_thief_29 T = some r) : vv_V l G MX4_thief (d + 2) 29 [(0, .ref o)] [] (tp o h0 T, nz) (.inl (some (.int r.1)), (tp o h0 r.2, nz)) := by
  unfold J_thief_29 at h
  refine vv_iconst (v := (nI 0)) dX4_thief_29 (by decide) ?_
  cases h
  exact vv_iret rfl dX4_thief_30
def J_thief_167 (k89 : Int32 → Int32 → Int32 → Int32 → tw_T → Option (Int32 × tw_T)) (x2 : Int32) (x3 : Int32) (x4 : Int32) (x5 : Int32) (T : tw_T) : Option (Int32 × tw_T) := k89 x2 x3 x4 (x5 + (nI 1)) T
theorem v_thief_167 {l : Launch} {G : vv_G} {d : Nat} {o : Nat} {h0 : Nat → Option vv_E} {nz : Nat × Nat} (hG : vv_gok G) {k89 : Int32 → Int32 → Int32 → Int32 → tw_T → Option (Int32 × tw_T)} (hk89 : ∀ {x2 : Int32} {x3 : Int32} {x4 : Int32} {x5 : Int32} {T : tw_T} {r : Int32 × tw_T}, k89 x2 x3 x4 x5 T = some r → vv_V l G MX4_thief (d + 2) 89 [(0, .ref o), (2, .int x2), (3, .int x3), (4, .int x4), (5, .int x5)] [] (tp o h0 T, nz) (.inl (some (.int r.1)), (tp o h0 r.2, nz))) {x2 : Int32} {x3 : Int32} {x4 : Int32} {x5 : Int32} {T : tw_T} {r : Int32 × tw_T} (h : J_thief_167 k89 x2 x3 x4 x5 T = some r) : vv_V l G MX4_thief (d + 2) 167 [(0, .ref o), (2, .int x2), (3, .int x3), (4, .int x4), (5, .int x5)] [] (tp o h0 T, nz) (.inl (some (.int r.1)), (tp o h0 r.2, nz)) := by
  unfold J_thief_167 at h
  refine vv_iinc (v := (x5 + (nI 1))) (lv' := [(0, .ref o), (2, .int x2), (3, .int x3), (4, .int x4), (5, .int (x5 + (nI 1)))]) dX4_thief_167 4 rfl rfl (by decide) [1, 2, 3, 4, 0] rfl ?_
  refine vv_goto (tgt := 89) dX4_thief_170 (by decide) ?_
  exact hk89 h
def J_thief_165 (k89 : Int32 → Int32 → Int32 → Int32 → tw_T → Option (Int32 × tw_T)) (s0 : Int32) (x2 : Int32) (x3 : Int32) (x5 : Int32) (T : tw_T) : Option (Int32 × tw_T) := J_thief_167 k89 x2 x3 s0 x5 T
theorem v_thief_165 {l : Launch} {G : vv_G} {d : Nat} {o : Nat} {h0 : Nat → Option vv_E} {nz : Nat × Nat} (hG : vv_gok G) {k89 : Int32 → Int32 → Int32 → Int32 → tw_T → Option (Int32 × tw_T)} (hk89 : ∀ {x2 : Int32} {x3 : Int32} {x4 : Int32} {x5 : Int32} {T : tw_T} {r : Int32 × tw_T}, k89 x2 x3 x4 x5 T = some r → vv_V l G MX4_thief (d + 2) 89 [(0, .ref o), (2, .int x2), (3, .int x3), (4, .int x4), (5, .int x5)] [] (tp o h0 T, nz) (.inl (some (.int r.1)), (tp o h0 r.2, nz))) {s0 : Int32} {x2 : Int32} {x3 : Int32} {x5 : Int32} {T : tw_T} {r : Int32 × tw_T} (h : J_thief_165 k89 s0 x2 x3 x5 T = some r) : vv_V l G MX4_thief (d + 2) 165 [(0, .ref o), (2, .int x2), (3, .int x3), (5, .int x5)] [.int s0] (tp o h0 T, nz) (.inl (some (.int r.1)), (tp o h0 r.2, nz)) := by
  unfold J_thief_165 at h
  refine vv_istore (lv' := [(0, .ref o), (2, .int x2), (3, .int x3), (4, .int s0), (5, .int x5)]) dX4_thief_165 (by decide) [1, 2, 3, 0, 4] rfl ?_
  exact v_thief_167 hG hk89 h
def J_thief_158 (k89 : Int32 → Int32 → Int32 → Int32 → tw_T → Option (Int32 × tw_T)) (x2 : Int32) (x3 : Int32) (x5 : Int32) (T : tw_T) : Option (Int32 × tw_T) := J_thief_165 k89 x5 x2 x3 x5 T
theorem v_thief_158 {l : Launch} {G : vv_G} {d : Nat} {o : Nat} {h0 : Nat → Option vv_E} {nz : Nat × Nat} (hG : vv_gok G) {k89 : Int32 → Int32 → Int32 → Int32 → tw_T → Option (Int32 × tw_T)} (hk89 : ∀ {x2 : Int32} {x3 : Int32} {x4 : Int32} {x5 : Int32} {T : tw_T} {r : Int32 × tw_T}, k89 x2 x3 x4 x5 T = some r → vv_V l G MX4_thief (d + 2) 89 [(0, .ref o), (2, .int x2), (3, .int x3), (4, .int x4), (5, .int x5)] [] (tp o h0 T, nz) (.inl (some (.int r.1)), (tp o h0 r.2, nz))) {x2 : Int32} {x3 : Int32} {x5 : Int32} {T : tw_T} {r : Int32 × tw_T} (h : J_thief_158 k89 x2 x3 x5 T = some r) : vv_V l G MX4_thief (d + 2) 158 [(0, .ref o), (2, .int x2), (3, .int x3), (5, .int x5)] [] (tp o h0 T, nz) (.inl (some (.int r.1)), (tp o h0 r.2, nz)) := by
  unfold J_thief_158 at h
  refine vv_iload dX4_thief_158 3 rfl ?_
  refine vv_goto (tgt := 165) dX4_thief_160 (by decide) ?_
  exact v_thief_165 hG hk89 h
def J_thief_163 (k89 : Int32 → Int32 → Int32 → Int32 → tw_T → Option (Int32 × tw_T)) (x2 : Int32) (x3 : Int32) (x4 : Int32) (x5 : Int32) (T : tw_T) : Option (Int32 × tw_T) := J_thief_165 k89 x4 x2 x3 x5 T
theorem v_thief_163 {l : Launch} {G : vv_G} {d : Nat} {o : Nat} {h0 : Nat → Option vv_E} {nz : Nat × Nat} (hG : vv_gok G) {k89 : Int32 → Int32 → Int32 → Int32 → tw_T → Option (Int32 × tw_T)} (hk89 : ∀ {x2 : Int32} {x3 : Int32} {x4 : Int32} {x5 : Int32} {T : tw_T} {r : Int32 × tw_T}, k89 x2 x3 x4 x5 T = some r → vv_V l G MX4_thief (d + 2) 89 [(0, .ref o), (2, .int x2), (3, .int x3), (4, .int x4), (5, .int x5)] [] (tp o h0 T, nz) (.inl (some (.int r.1)), (tp o h0 r.2, nz))) {x2 : Int32} {x3 : Int32} {x4 : Int32} {x5 : Int32} {T : tw_T} {r : Int32 × tw_T} (h : J_thief_163 k89 x2 x3 x4 x5 T = some r) : vv_V l G MX4_thief (d + 2) 163 [(0, .ref o), (2, .int x2), (3, .int x3), (4, .int x4), (5, .int x5)] [] (tp o h0 T, nz) (.inl (some (.int r.1)), (tp o h0 r.2, nz)) := by
  unfold J_thief_163 at h
  refine vv_iload dX4_thief_163 3 rfl ?_
  refine vv_sub (lv' := [(0, .ref o), (2, .int x2), (3, .int x3), (5, .int x5)]) [0, 1, 2, 4] rfl ?_
  exact v_thief_165 hG hk89 h
def B_thief_89 (k89 : Int32 → Int32 → Int32 → Int32 → tw_T → Option (Int32 × tw_T)) (x2 : Int32) (x3 : Int32) (x4 : Int32) (x5 : Int32) (T : tw_T) : Option (Int32 × tw_T) := if x3 < x5 then (some (x4, T)) else (if (x5 &&& (x3 ^^^ (-1))) = 0 then ((J_grainsOf x5 (nI 0) T).bind fun r3 => if r3.1 ≤ x2 then ((J_grainsOf x5 (nI 0) r3.2).bind fun r5 => (J_grainsOf x4 (nI 0) r5.2).bind fun r6 => if 0 < (r5.1 - r6.1) then (J_thief_158 k89 x2 x3 x5 r6.2) else (if (r5.1 - r6.1) = 0 then ((J_bits x5).bind fun r9 => (J_bits x4).bind fun r10 => if r10 ≤ r9 then (J_thief_163 k89 x2 x3 x4 x5 r6.2) else (J_thief_158 k89 x2 x3 x5 r6.2)) else (J_thief_163 k89 x2 x3 x4 x5 r6.2))) else (J_thief_167 k89 x2 x3 x4 x5 r3.2)) else (J_thief_167 k89 x2 x3 x4 x5 T))
def J_thief_89 : Nat → Int32 → Int32 → Int32 → Int32 → tw_T → Option (Int32 × tw_T)
  | 0, _, _, _, _, _ => none
  | n + 1, x2, x3, x4, x5, T => B_thief_89 (J_thief_89 n) x2 x3 x4 x5 T
theorem vb_thief_89 {l : Launch} {G : vv_G} {d : Nat} {o : Nat} {h0 : Nat → Option vv_E} {nz : Nat × Nat} (hG : vv_gok G) {k89 : Int32 → Int32 → Int32 → Int32 → tw_T → Option (Int32 × tw_T)} (hk89 : ∀ {x2 : Int32} {x3 : Int32} {x4 : Int32} {x5 : Int32} {T : tw_T} {r : Int32 × tw_T}, k89 x2 x3 x4 x5 T = some r → vv_V l G MX4_thief (d + 2) 89 [(0, .ref o), (2, .int x2), (3, .int x3), (4, .int x4), (5, .int x5)] [] (tp o h0 T, nz) (.inl (some (.int r.1)), (tp o h0 r.2, nz))) {x2 : Int32} {x3 : Int32} {x4 : Int32} {x5 : Int32} {T : tw_T} {r : Int32 × tw_T} (h : B_thief_89 k89 x2 x3 x4 x5 T = some r) : vv_V l G MX4_thief (d + 2) 89 [(0, .ref o), (2, .int x2), (3, .int x3), (4, .int x4), (5, .int x5)] [] (tp o h0 T, nz) (.inl (some (.int r.1)), (tp o h0 r.2, nz)) := by
  unfold B_thief_89 at h
  refine vv_iload dX4_thief_89 4 rfl ?_
  refine vv_iload_n dX4_thief_91 rfl 2 rfl ?_
  refine vv_icmp_gt (tgt := 173) dX4_thief_92 (by decide) (fun c1 => ?_) (fun c1 => ?_)
  · rw [if_pos c1] at h
    refine vv_iload dX4_thief_173 3 rfl ?_
    cases h
    exact vv_iret rfl dX4_thief_175
  · rw [if_neg c1] at h
    refine vv_iload dX4_thief_95 4 rfl ?_
    refine vv_iload_n dX4_thief_97 rfl 2 rfl ?_
    refine vv_iconst (v := (-1)) dX4_thief_98 (by decide) ?_
    refine vv_ixor dX4_thief_99 ?_
    refine vv_iand dX4_thief_100 ?_
    refine vv_if_ne (tgt := 167) dX4_thief_101 (by decide) (fun c2 => ?_) (fun c2 => ?_)
    · rw [if_neg c2] at h
      exact v_thief_167 hG hk89 h
    · rw [if_pos c2] at h
      refine vv_aload_n dX4_thief_104 rfl 0 rfl ?_
      refine vv_iload dX4_thief_105 4 rfl ?_
      refine vv_iconst (v := (nI 0)) dX4_thief_107 (by decide) ?_
      obtain ⟨r3, er3, h⟩ := bd_o h
      refine vv_callV ok_X4_grainsOf q2195 (m_grainsOf hG er3 (d + 1)) rfl (by omega) ⟨_, _, _, _, _, tp_o, by rw [hG.1]; rfl⟩ rfl rfl (Nat.le_of_ble_eq_true rfl) dX4_thief_108 ?_
      refine vv_iload_n dX4_thief_111 rfl 1 rfl ?_
      refine vv_icmp_le (tgt := 118) dX4_thief_112 (by decide) (fun c4 => ?_) (fun c4 => ?_)
      · rw [if_pos c4] at h
        refine vv_aload_n dX4_thief_118 rfl 0 rfl ?_
        refine vv_iload dX4_thief_119 4 rfl ?_
        refine vv_iconst (v := (nI 0)) dX4_thief_121 (by decide) ?_
        obtain ⟨r5, er5, h⟩ := bd_o h
        refine vv_callV ok_X4_grainsOf q2195 (m_grainsOf hG er5 (d + 1)) rfl (by omega) ⟨_, _, _, _, _, tp_o, by rw [hG.1]; rfl⟩ rfl rfl (Nat.le_of_ble_eq_true rfl) dX4_thief_122 ?_
        refine vv_aload_n dX4_thief_125 rfl 0 rfl ?_
        refine vv_iload dX4_thief_126 3 rfl ?_
        refine vv_iconst (v := (nI 0)) dX4_thief_128 (by decide) ?_
        obtain ⟨r6, er6, h⟩ := bd_o h
        refine vv_callV ok_X4_grainsOf q2195 (m_grainsOf hG er6 (d + 1)) rfl (by omega) ⟨_, _, _, _, _, tp_o, by rw [hG.1]; rfl⟩ rfl rfl (Nat.le_of_ble_eq_true rfl) dX4_thief_129 ?_
        refine vv_isub dX4_thief_132 ?_
        refine vv_istore (lv' := [(0, .ref o), (2, .int x2), (3, .int x3), (4, .int x4), (5, .int x5), (6, .int (r5.1 - r6.1))]) dX4_thief_133 (by decide) [1, 2, 3, 4, 5, 0] rfl ?_
        refine vv_iload dX4_thief_135 5 rfl ?_
        refine vv_if_gt (tgt := 158) dX4_thief_137 (by decide) (fun c7 => ?_) (fun c7 => ?_)
        · rw [if_pos c7] at h
          refine vv_sub (lv' := [(0, .ref o), (2, .int x2), (3, .int x3), (5, .int x5)]) [0, 1, 2, 4] rfl ?_
          exact v_thief_158 hG hk89 h
        · rw [if_neg c7] at h
          refine vv_iload dX4_thief_140 5 rfl ?_
          refine vv_if_ne (tgt := 163) dX4_thief_142 (by decide) (fun c8 => ?_) (fun c8 => ?_)
          · rw [if_neg c8] at h
            refine vv_sub (lv' := [(0, .ref o), (2, .int x2), (3, .int x3), (4, .int x4), (5, .int x5)]) [0, 1, 2, 3, 4] rfl ?_
            exact v_thief_163 hG hk89 h
          · rw [if_pos c8] at h
            refine vv_iload dX4_thief_145 4 rfl ?_
            obtain ⟨r9, er9, h⟩ := bd_o h
            refine vv_callS ok_X4_bits q1954 (m_bits hG er9 (d + 1)) rfl (by omega) rfl rfl (Nat.le_of_ble_eq_true rfl) dX4_thief_147 ?_
            refine vv_iload dX4_thief_150 3 rfl ?_
            obtain ⟨r10, er10, h⟩ := bd_o h
            refine vv_callS ok_X4_bits q1954 (m_bits hG er10 (d + 1)) rfl (by omega) rfl rfl (Nat.le_of_ble_eq_true rfl) dX4_thief_152 ?_
            refine vv_icmp_ge (tgt := 163) dX4_thief_155 (by decide) (fun c11 => ?_) (fun c11 => ?_)
            · rw [if_pos c11] at h
              refine vv_sub (lv' := [(0, .ref o), (2, .int x2), (3, .int x3), (4, .int x4), (5, .int x5)]) [0, 1, 2, 3, 4] rfl ?_
              exact v_thief_163 hG hk89 h
            · rw [if_neg c11] at h
              refine vv_sub (lv' := [(0, .ref o), (2, .int x2), (3, .int x3), (5, .int x5)]) [0, 1, 2, 4] rfl ?_
              exact v_thief_158 hG hk89 h
      · rw [if_neg c4] at h
        refine vv_goto (tgt := 167) dX4_thief_115 (by decide) ?_
        exact v_thief_167 hG hk89 h
theorem v_thief_89 {l : Launch} {G : vv_G} {d : Nat} {o : Nat} {h0 : Nat → Option vv_E} {nz : Nat × Nat} (hG : vv_gok G) : ∀ (n : Nat) {x2 : Int32} {x3 : Int32} {x4 : Int32} {x5 : Int32} {T : tw_T} {r : Int32 × tw_T}, J_thief_89 n x2 x3 x4 x5 T = some r → vv_V l G MX4_thief (d + 2) 89 [(0, .ref o), (2, .int x2), (3, .int x3), (4, .int x4), (5, .int x5)] [] (tp o h0 T, nz) (.inl (some (.int r.1)), (tp o h0 r.2, nz)) := by
  intro n
  induction n with
  | zero => intro _ _ _ _ _ _ h; cases h
  | succ n ih => intro _ _ _ _ _ _ h; exact vb_thief_89 hG ih h
def J_thief_75 (k41 : Int32 → Int32 → Int32 → tw_T → Option (Int32 × tw_T)) (s0 : Int32) (s1 : Int32) (x2 : Int32) (x4 : Int32) (T : tw_T) : Option (Int32 × tw_T) := k41 x2 (s0 &&& s1) (x4 + (nI 1)) T
theorem v_thief_75 {l : Launch} {G : vv_G} {d : Nat} {o : Nat} {h0 : Nat → Option vv_E} {nz : Nat × Nat} (hG : vv_gok G) {k41 : Int32 → Int32 → Int32 → tw_T → Option (Int32 × tw_T)} (hk41 : ∀ {x2 : Int32} {x3 : Int32} {x4 : Int32} {T : tw_T} {r : Int32 × tw_T}, k41 x2 x3 x4 T = some r → vv_V l G MX4_thief (d + 2) 41 [(0, .ref o), (2, .int x2), (3, .int x3), (4, .int x4)] [] (tp o h0 T, nz) (.inl (some (.int r.1)), (tp o h0 r.2, nz))) {s0 : Int32} {s1 : Int32} {x2 : Int32} {x4 : Int32} {T : tw_T} {r : Int32 × tw_T} (h : J_thief_75 k41 s0 s1 x2 x4 T = some r) : vv_V l G MX4_thief (d + 2) 75 [(0, .ref o), (2, .int x2), (4, .int x4)] [.int s1, .int s0] (tp o h0 T, nz) (.inl (some (.int r.1)), (tp o h0 r.2, nz)) := by
  unfold J_thief_75 at h
  refine vv_iand dX4_thief_75 ?_
  refine vv_istore_n (lv' := [(0, .ref o), (2, .int x2), (3, .int (s0 &&& s1)), (4, .int x4)]) dX4_thief_76 rfl (by decide) [1, 2, 0, 3] rfl ?_
  refine vv_iinc (v := (x4 + (nI 1))) (lv' := [(0, .ref o), (2, .int x2), (3, .int (s0 &&& s1)), (4, .int (x4 + (nI 1)))]) dX4_thief_77 3 rfl rfl (by decide) [1, 2, 3, 0] rfl ?_
  refine vv_goto (tgt := 41) dX4_thief_80 (by decide) ?_
  exact hk41 h
def B_thief_41 (k41 : Int32 → Int32 → Int32 → tw_T → Option (Int32 × tw_T)) (x2 : Int32) (x3 : Int32) (x4 : Int32) (T : tw_T) : Option (Int32 × tw_T) := if (T.1 3) ≤ x4 then (J_thief_89 NN x2 x3 (nI 0) (nI 0) T) else ((rdI 170 (T.2.2 20) ((nI 35) + x4)).bind fun v2 => if v2 = (nI 1) then (J_thief_75 k41 x3 (((nI 1) <<< (x4 &&& 31)) ^^^ (-1)) x2 x4 T) else (J_thief_75 k41 x3 (-1) x2 x4 T))
def J_thief_41 : Nat → Int32 → Int32 → Int32 → tw_T → Option (Int32 × tw_T)
  | 0, _, _, _, _ => none
  | n + 1, x2, x3, x4, T => B_thief_41 (J_thief_41 n) x2 x3 x4 T
theorem vb_thief_41 {l : Launch} {G : vv_G} {d : Nat} {o : Nat} {h0 : Nat → Option vv_E} {nz : Nat × Nat} (hG : vv_gok G) {k41 : Int32 → Int32 → Int32 → tw_T → Option (Int32 × tw_T)} (hk41 : ∀ {x2 : Int32} {x3 : Int32} {x4 : Int32} {T : tw_T} {r : Int32 × tw_T}, k41 x2 x3 x4 T = some r → vv_V l G MX4_thief (d + 2) 41 [(0, .ref o), (2, .int x2), (3, .int x3), (4, .int x4)] [] (tp o h0 T, nz) (.inl (some (.int r.1)), (tp o h0 r.2, nz))) {x2 : Int32} {x3 : Int32} {x4 : Int32} {T : tw_T} {r : Int32 × tw_T} (h : B_thief_41 k41 x2 x3 x4 T = some r) : vv_V l G MX4_thief (d + 2) 41 [(0, .ref o), (2, .int x2), (3, .int x3), (4, .int x4)] [] (tp o h0 T, nz) (.inl (some (.int r.1)), (tp o h0 r.2, nz)) := by
  unfold B_thief_41 at h
  refine vv_iload dX4_thief_41 3 rfl ?_
  refine vv_aload_n dX4_thief_43 rfl 0 rfl ?_
  refine tw_get (fl_X4_287 hG) (k := 3) rfl dX4_thief_44 ?_
  refine vv_icmp_ge (tgt := 83) dX4_thief_47 (by decide) (fun c1 => ?_) (fun c1 => ?_)
  · rw [if_pos c1] at h
    refine vv_iconst (v := (nI 0)) dX4_thief_83 (by decide) ?_
    refine vv_istore (lv' := [(0, .ref o), (2, .int x2), (3, .int x3), (4, .int (nI 0))]) dX4_thief_84 (by decide) [1, 2, 3, 0] rfl ?_
    refine vv_iconst (v := (nI 0)) dX4_thief_86 (by decide) ?_
    refine vv_istore (lv' := [(0, .ref o), (2, .int x2), (3, .int x3), (4, .int (nI 0)), (5, .int (nI 0))]) dX4_thief_87 (by decide) [1, 2, 3, 4, 0] rfl ?_
    exact v_thief_89 hG NN h
  · rw [if_neg c1] at h
    refine vv_iload_n dX4_thief_50 rfl 2 rfl ?_
    refine vv_aload_n dX4_thief_51 rfl 0 rfl ?_
    refine tw_get (fl_X4_75 hG) (k := 42) rfl dX4_thief_52 ?_
    refine vv_bipush (v := (nI 35)) dX4_thief_55 (by decide) ?_
    refine vv_iload dX4_thief_57 3 rfl ?_
    refine vv_iadd dX4_thief_59 ?_
    obtain ⟨v2, iv2, ev2, h⟩ := rd_o h
    refine tw_ald 20 (by decide) rfl iv2 ev2 dX4_thief_60 ?_
    refine vv_iconst (v := (nI 1)) dX4_thief_61 (by decide) ?_
    refine vv_icmp_ne (tgt := 74) dX4_thief_62 (by decide) (fun c3 => ?_) (fun c3 => ?_)
    · rw [if_neg c3] at h
      refine vv_iconst (v := (-1)) dX4_thief_74 (by decide) ?_
      refine vv_sub (lv' := [(0, .ref o), (2, .int x2), (4, .int x4)]) [0, 1, 3] rfl ?_
      exact v_thief_75 hG hk41 h
    · rw [if_pos c3] at h
      refine vv_iconst (v := (nI 1)) dX4_thief_65 (by decide) ?_
      refine vv_iload dX4_thief_66 3 rfl ?_
      refine vv_ishl dX4_thief_68 ?_
      refine vv_iconst (v := (-1)) dX4_thief_69 (by decide) ?_
      refine vv_ixor dX4_thief_70 ?_
      refine vv_goto (tgt := 75) dX4_thief_71 (by decide) ?_
      refine vv_sub (lv' := [(0, .ref o), (2, .int x2), (4, .int x4)]) [0, 1, 3] rfl ?_
      exact v_thief_75 hG hk41 h
theorem v_thief_41 {l : Launch} {G : vv_G} {d : Nat} {o : Nat} {h0 : Nat → Option vv_E} {nz : Nat × Nat} (hG : vv_gok G) : ∀ (n : Nat) {x2 : Int32} {x3 : Int32} {x4 : Int32} {T : tw_T} {r : Int32 × tw_T}, J_thief_41 n x2 x3 x4 T = some r → vv_V l G MX4_thief (d + 2) 41 [(0, .ref o), (2, .int x2), (3, .int x3), (4, .int x4)] [] (tp o h0 T, nz) (.inl (some (.int r.1)), (tp o h0 r.2, nz)) := by
  intro n
  induction n with
  | zero => intro _ _ _ _ _ h; cases h
  | succ n ih => intro _ _ _ _ _ h; exact vb_thief_41 hG ih h
def J_thief (x1 : Int32) (x2 : Int32) (T : tw_T) : Option (Int32 × tw_T) := (some (tw_F T 0 (nI 0))).bind fun T1 => (J_isTown x1 T1).bind fun r2 => if r2.1 = 0 then (J_thief_29 r2.2) else ((J_within x2 (nI 0) (nI 999)).bind fun r4 => (J_right r4 (nI 2) r2.2).bind fun r5 => if r5.1 = 0 then (J_thief_29 r5.2) else ((J_lyingIn (nI 0) x1 r5.2).bind fun r7 => J_thief_41 NN x2 r7.1 (nI 0) r7.2))
theorem v_thief_0 {l : Launch} {G : vv_G} {d : Nat} {o : Nat} {h0 : Nat → Option vv_E} {nz : Nat × Nat} (hG : vv_gok G) {x1 : Int32} {x2 : Int32} {T : tw_T} {r : Int32 × tw_T} (h : J_thief x1 x2 T = some r) : vv_V l G MX4_thief (d + 2) 0 [(0, .ref o), (1, .int x1), (2, .int x2)] [] (tp o h0 T, nz) (.inl (some (.int r.1)), (tp o h0 r.2, nz)) := by
  unfold J_thief at h
  refine vv_aload_n dX4_thief_0 rfl 0 rfl ?_
  refine vv_iconst (v := (nI 0)) dX4_thief_1 (by decide) ?_
  obtain ⟨T1, eT1, h⟩ := bd_s h
  refine tw_put (T1 := T1) (pt_X4_117 hG) hG rfl rfl rfl (by decide) (by rw [eT1]; exact tw_set0 _ _ _) (by rw [eT1]; rfl) dX4_thief_2 ?_
  refine vv_aload_n dX4_thief_5 rfl 0 rfl ?_
  refine vv_iload_n dX4_thief_6 rfl 1 rfl ?_
  obtain ⟨r2, er2, h⟩ := bd_o h
  refine vv_callV ok_X4_isTown q1935 (m_isTown hG er2 (d + 0)) rfl (by omega) ⟨_, _, _, _, _, tp_o, by rw [hG.1]; rfl⟩ rfl rfl (Nat.le_of_ble_eq_true rfl) dX4_thief_7 ?_
  refine vv_if_eq (tgt := 29) dX4_thief_10 (by decide) (fun c3 => ?_) (fun c3 => ?_)
  · rw [if_pos c3] at h
    refine vv_sub (lv' := [(0, .ref o)]) [0] rfl ?_
    exact v_thief_29 hG h
  · rw [if_neg c3] at h
    refine vv_aload_n dX4_thief_13 rfl 0 rfl ?_
    refine vv_iload_n dX4_thief_14 rfl 2 rfl ?_
    refine vv_iconst (v := (nI 0)) dX4_thief_15 (by decide) ?_
    refine vv_sipush (v := (nI 999)) dX4_thief_16 (by decide) ?_
    obtain ⟨r4, er4, h⟩ := bd_o h
    refine vv_callS ok_X4_within q1908 (m_within hG er4 (d + 1)) rfl (by omega) rfl rfl (Nat.le_of_ble_eq_true rfl) dX4_thief_19 ?_
    refine vv_iconst (v := (nI 2)) dX4_thief_22 (by decide) ?_
    obtain ⟨r5, er5, h⟩ := bd_o h
    refine vv_callV ok_X4_right q1773 (m_right hG er5 (d + 1)) rfl (by omega) ⟨_, _, _, _, _, tp_o, by rw [hG.1]; rfl⟩ rfl rfl (Nat.le_of_ble_eq_true rfl) dX4_thief_23 ?_
    refine vv_if_ne (tgt := 31) dX4_thief_26 (by decide) (fun c6 => ?_) (fun c6 => ?_)
    · rw [if_neg c6] at h
      refine vv_aload_n dX4_thief_31 rfl 0 rfl ?_
      refine vv_iconst (v := (nI 0)) dX4_thief_32 (by decide) ?_
      refine vv_iload_n dX4_thief_33 rfl 1 rfl ?_
      obtain ⟨r7, er7, h⟩ := bd_o h
      refine vv_callV ok_X4_lyingIn q1950 (m_lyingIn hG er7 (d + 0)) rfl (by omega) ⟨_, _, _, _, _, tp_o, by rw [hG.1]; rfl⟩ rfl rfl (Nat.le_of_ble_eq_true rfl) dX4_thief_34 ?_
      refine vv_istore_n (lv' := [(0, .ref o), (1, .int x1), (2, .int x2), (3, .int r7.1)]) dX4_thief_37 rfl (by decide) [1, 2, 3, 0] rfl ?_
      refine vv_iconst (v := (nI 0)) dX4_thief_38 (by decide) ?_
      refine vv_istore (lv' := [(0, .ref o), (1, .int x1), (2, .int x2), (3, .int r7.1), (4, .int (nI 0))]) dX4_thief_39 (by decide) [1, 2, 3, 4, 0] rfl ?_
      refine vv_sub (lv' := [(0, .ref o), (2, .int x2), (3, .int r7.1), (4, .int (nI 0))]) [0, 2, 3, 4] rfl ?_
      exact v_thief_41 hG NN h
    · rw [if_pos c6] at h
      refine vv_sub (lv' := [(0, .ref o)]) [0] rfl ?_
      exact v_thief_29 hG h
theorem m_thief {l : Launch} {G : vv_G} {o : Nat} {h0 : Nat → Option vv_E} {nz : Nat × Nat} (hG : vv_gok G) {x1 : Int32} {x2 : Int32} {T : tw_T} {r : Int32 × tw_T} (h : J_thief x1 x2 T = some r) (d : Nat) : vv_Met l G MX4_thief (d + 2) [.ref o, .int x1, .int x2] (tp o h0 T, nz) (.inl (some (.int r.1)), (tp o h0 r.2, nz)) := vv_head (by decide +kernel) rfl (Nat.le_of_ble_eq_true rfl) rfl (v_thief_0 hG h)
/-! offBy -/
def J_offBy_58 (s0 : Int32) (T : tw_T) : Option (Int32 × tw_T) := some (s0, T)
theorem v_offBy_58 {l : Launch} {G : vv_G} {d : Nat} {o : Nat} {h0 : Nat → Option vv_E} {nz : Nat × Nat} (hG : vv_gok G) {s0 : Int32} {T : tw_T} {r : Int32 × tw_T} (h : J_offBy_58 s0 T = some r) : vv_V l G MX4_offBy (d + 1) 58 [(0, .ref o)] [.int s0] (tp o h0 T, nz) (.inl (some (.int r.1)), (tp o h0 r.2, nz)) := by
  unfold J_offBy_58 at h
  cases h
  exact vv_iret rfl dX4_offBy_58
def J_offBy (x1 : Int32) (x2 : Int32) (T : tw_T) : Option (Int32 × tw_T) := (rdI 170 (T.2.2 20) ((nI 1) + x1)).bind fun v1 => (J_grainsOf x2 (nI 0) T).bind fun r2 => (J_kept (v1 + r2.1) (nI 0) (nI 9999)).bind fun r3 => (rdI 170 (r2.2.2.2 20) ((nI 9) + x1)).bind fun v4 => (J_grainsOf x2 (nI 1) r2.2).bind fun r5 => (J_kept (v4 + r5.1) (nI 0) (nI 9999)).bind fun r6 => if 0 ≤ (r3 - r6) then (J_offBy_58 (r3 - r6) r5.2) else (J_offBy_58 ((nI 0) - (r3 - r6)) r5.2)
theorem v_offBy_0 {l : Launch} {G : vv_G} {d : Nat} {o : Nat} {h0 : Nat → Option vv_E} {nz : Nat × Nat} (hG : vv_gok G) {x1 : Int32} {x2 : Int32} {T : tw_T} {r : Int32 × tw_T} (h : J_offBy x1 x2 T = some r) : vv_V l G MX4_offBy (d + 1) 0 [(0, .ref o), (1, .int x1), (2, .int x2)] [] (tp o h0 T, nz) (.inl (some (.int r.1)), (tp o h0 r.2, nz)) := by
  unfold J_offBy at h
  refine vv_aload_n dX4_offBy_0 rfl 0 rfl ?_
  refine tw_get (fl_X4_75 hG) (k := 42) rfl dX4_offBy_1 ?_
  refine vv_iconst (v := (nI 1)) dX4_offBy_4 (by decide) ?_
  refine vv_iload_n dX4_offBy_5 rfl 1 rfl ?_
  refine vv_iadd dX4_offBy_6 ?_
  obtain ⟨v1, iv1, ev1, h⟩ := rd_o h
  refine tw_ald 20 (by decide) rfl iv1 ev1 dX4_offBy_7 ?_
  refine vv_aload_n dX4_offBy_8 rfl 0 rfl ?_
  refine vv_iload_n dX4_offBy_9 rfl 2 rfl ?_
  refine vv_iconst (v := (nI 0)) dX4_offBy_10 (by decide) ?_
  obtain ⟨r2, er2, h⟩ := bd_o h
  refine vv_callV ok_X4_grainsOf q2195 (m_grainsOf hG er2 (d + 0)) rfl (by omega) ⟨_, _, _, _, _, tp_o, by rw [hG.1]; rfl⟩ rfl rfl (Nat.le_of_ble_eq_true rfl) dX4_offBy_11 ?_
  refine vv_iadd dX4_offBy_14 ?_
  refine vv_iconst (v := (nI 0)) dX4_offBy_15 (by decide) ?_
  refine vv_sipush (v := (nI 9999)) dX4_offBy_16 (by decide) ?_
  obtain ⟨r3, er3, h⟩ := bd_o h
  refine vv_callS ok_X4_kept q1947 (m_kept hG er3 (d + 0)) rfl (by omega) rfl rfl (Nat.le_of_ble_eq_true rfl) dX4_offBy_19 ?_
  refine vv_aload_n dX4_offBy_22 rfl 0 rfl ?_
  refine tw_get (fl_X4_75 hG) (k := 42) rfl dX4_offBy_23 ?_
  refine vv_bipush (v := (nI 9)) dX4_offBy_26 (by decide) ?_
  refine vv_iload_n dX4_offBy_28 rfl 1 rfl ?_
  refine vv_iadd dX4_offBy_29 ?_
  obtain ⟨v4, iv4, ev4, h⟩ := rd_o h
  refine tw_ald 20 (by decide) rfl iv4 ev4 dX4_offBy_30 ?_
  refine vv_aload_n dX4_offBy_31 rfl 0 rfl ?_
  refine vv_iload_n dX4_offBy_32 rfl 2 rfl ?_
  refine vv_iconst (v := (nI 1)) dX4_offBy_33 (by decide) ?_
  obtain ⟨r5, er5, h⟩ := bd_o h
  refine vv_callV ok_X4_grainsOf q2195 (m_grainsOf hG er5 (d + 0)) rfl (by omega) ⟨_, _, _, _, _, tp_o, by rw [hG.1]; rfl⟩ rfl rfl (Nat.le_of_ble_eq_true rfl) dX4_offBy_34 ?_
  refine vv_iadd dX4_offBy_37 ?_
  refine vv_iconst (v := (nI 0)) dX4_offBy_38 (by decide) ?_
  refine vv_sipush (v := (nI 9999)) dX4_offBy_39 (by decide) ?_
  obtain ⟨r6, er6, h⟩ := bd_o h
  refine vv_callS ok_X4_kept q1947 (m_kept hG er6 (d + 0)) rfl (by omega) rfl rfl (Nat.le_of_ble_eq_true rfl) dX4_offBy_42 ?_
  refine vv_isub dX4_offBy_45 ?_
  refine vv_istore_n (lv' := [(0, .ref o), (1, .int x1), (2, .int x2), (3, .int (r3 - r6))]) dX4_offBy_46 rfl (by decide) [1, 2, 3, 0] rfl ?_
  refine vv_iload_n dX4_offBy_47 rfl 3 rfl ?_
  refine vv_if_ge (tgt := 57) dX4_offBy_48 (by decide) (fun c7 => ?_) (fun c7 => ?_)
  · rw [if_pos c7] at h
    refine vv_iload_n dX4_offBy_57 rfl 3 rfl ?_
    refine vv_sub (lv' := [(0, .ref o)]) [0] rfl ?_
    exact v_offBy_58 hG h
  · rw [if_neg c7] at h
    refine vv_iconst (v := (nI 0)) dX4_offBy_51 (by decide) ?_
    refine vv_iload_n dX4_offBy_52 rfl 3 rfl ?_
    refine vv_isub dX4_offBy_53 ?_
    refine vv_goto (tgt := 58) dX4_offBy_54 (by decide) ?_
    refine vv_sub (lv' := [(0, .ref o)]) [0] rfl ?_
    exact v_offBy_58 hG h
theorem m_offBy {l : Launch} {G : vv_G} {o : Nat} {h0 : Nat → Option vv_E} {nz : Nat × Nat} (hG : vv_gok G) {x1 : Int32} {x2 : Int32} {T : tw_T} {r : Int32 × tw_T} (h : J_offBy x1 x2 T = some r) (d : Nat) : vv_Met l G MX4_offBy (d + 1) [.ref o, .int x1, .int x2] (tp o h0 T, nz) (.inl (some (.int r.1)), (tp o h0 r.2, nz)) := vv_head (by decide +kernel) rfl (Nat.le_of_ble_eq_true rfl) rfl (v_offBy_0 hG h)
/-! level -/
def J_level_90 (k27 : Int32 → Int32 → Int32 → Int32 → tw_T → Option (Int32 × tw_T)) (x1 : Int32) (x2 : Int32) (x3 : Int32) (x4 : Int32) (T : tw_T) : Option (Int32 × tw_T) := k27 x1 x2 x3 (x4 + (nI 1)) T
theorem v_level_90 {l : Launch} {G : vv_G} {d : Nat} {o : Nat} {h0 : Nat → Option vv_E} {nz : Nat × Nat} (hG : vv_gok G) {k27 : Int32 → Int32 → Int32 → Int32 → tw_T → Option (Int32 × tw_T)} (hk27 : ∀ {x1 : Int32} {x2 : Int32} {x3 : Int32} {x4 : Int32} {T : tw_T} {r : Int32 × tw_T}, k27 x1 x2 x3 x4 T = some r → vv_V l G MX4_level (d + 2) 27 [(0, .ref o), (1, .int x1), (2, .int x2), (3, .int x3), (4, .int x4)] [] (tp o h0 T, nz) (.inl (some (.int r.1)), (tp o h0 r.2, nz))) {x1 : Int32} {x2 : Int32} {x3 : Int32} {x4 : Int32} {T : tw_T} {r : Int32 × tw_T} (h : J_level_90 k27 x1 x2 x3 x4 T = some r) : vv_V l G MX4_level (d + 2) 90 [(0, .ref o), (1, .int x1), (2, .int x2), (3, .int x3), (4, .int x4)] [] (tp o h0 T, nz) (.inl (some (.int r.1)), (tp o h0 r.2, nz)) := by
  unfold J_level_90 at h
  refine vv_iinc (v := (x4 + (nI 1))) (lv' := [(0, .ref o), (1, .int x1), (2, .int x2), (3, .int x3), (4, .int (x4 + (nI 1)))]) dX4_level_90 4 rfl rfl (by decide) [1, 2, 3, 4, 0] rfl ?_
  refine vv_goto (tgt := 27) dX4_level_93 (by decide) ?_
  exact hk27 h
def J_level_89 (k27 : Int32 → Int32 → Int32 → Int32 → tw_T → Option (Int32 × tw_T)) (s0 : Int32) (x1 : Int32) (x2 : Int32) (x4 : Int32) (T : tw_T) : Option (Int32 × tw_T) := J_level_90 k27 x1 x2 s0 x4 T
theorem v_level_89 {l : Launch} {G : vv_G} {d : Nat} {o : Nat} {h0 : Nat → Option vv_E} {nz : Nat × Nat} (hG : vv_gok G) {k27 : Int32 → Int32 → Int32 → Int32 → tw_T → Option (Int32 × tw_T)} (hk27 : ∀ {x1 : Int32} {x2 : Int32} {x3 : Int32} {x4 : Int32} {T : tw_T} {r : Int32 × tw_T}, k27 x1 x2 x3 x4 T = some r → vv_V l G MX4_level (d + 2) 27 [(0, .ref o), (1, .int x1), (2, .int x2), (3, .int x3), (4, .int x4)] [] (tp o h0 T, nz) (.inl (some (.int r.1)), (tp o h0 r.2, nz))) {s0 : Int32} {x1 : Int32} {x2 : Int32} {x4 : Int32} {T : tw_T} {r : Int32 × tw_T} (h : J_level_89 k27 s0 x1 x2 x4 T = some r) : vv_V l G MX4_level (d + 2) 89 [(0, .ref o), (1, .int x1), (2, .int x2), (4, .int x4)] [.int s0] (tp o h0 T, nz) (.inl (some (.int r.1)), (tp o h0 r.2, nz)) := by
  unfold J_level_89 at h
  refine vv_istore_n (lv' := [(0, .ref o), (1, .int x1), (2, .int x2), (3, .int s0), (4, .int x4)]) dX4_level_89 rfl (by decide) [1, 2, 3, 0, 4] rfl ?_
  exact v_level_90 hG hk27 h
def J_level_83 (k27 : Int32 → Int32 → Int32 → Int32 → tw_T → Option (Int32 × tw_T)) (x1 : Int32) (x2 : Int32) (x4 : Int32) (T : tw_T) : Option (Int32 × tw_T) := J_level_89 k27 x4 x1 x2 x4 T
theorem v_level_83 {l : Launch} {G : vv_G} {d : Nat} {o : Nat} {h0 : Nat → Option vv_E} {nz : Nat × Nat} (hG : vv_gok G) {k27 : Int32 → Int32 → Int32 → Int32 → tw_T → Option (Int32 × tw_T)} (hk27 : ∀ {x1 : Int32} {x2 : Int32} {x3 : Int32} {x4 : Int32} {T : tw_T} {r : Int32 × tw_T}, k27 x1 x2 x3 x4 T = some r → vv_V l G MX4_level (d + 2) 27 [(0, .ref o), (1, .int x1), (2, .int x2), (3, .int x3), (4, .int x4)] [] (tp o h0 T, nz) (.inl (some (.int r.1)), (tp o h0 r.2, nz))) {x1 : Int32} {x2 : Int32} {x4 : Int32} {T : tw_T} {r : Int32 × tw_T} (h : J_level_83 k27 x1 x2 x4 T = some r) : vv_V l G MX4_level (d + 2) 83 [(0, .ref o), (1, .int x1), (2, .int x2), (4, .int x4)] [] (tp o h0 T, nz) (.inl (some (.int r.1)), (tp o h0 r.2, nz)) := by
  unfold J_level_83 at h
  refine vv_iload dX4_level_83 3 rfl ?_
  refine vv_goto (tgt := 89) dX4_level_85 (by decide) ?_
  exact v_level_89 hG hk27 h
def J_level_88 (k27 : Int32 → Int32 → Int32 → Int32 → tw_T → Option (Int32 × tw_T)) (x1 : Int32) (x2 : Int32) (x3 : Int32) (x4 : Int32) (T : tw_T) : Option (Int32 × tw_T) := J_level_89 k27 x3 x1 x2 x4 T
theorem v_level_88 {l : Launch} {G : vv_G} {d : Nat} {o : Nat} {h0 : Nat → Option vv_E} {nz : Nat × Nat} (hG : vv_gok G) {k27 : Int32 → Int32 → Int32 → Int32 → tw_T → Option (Int32 × tw_T)} (hk27 : ∀ {x1 : Int32} {x2 : Int32} {x3 : Int32} {x4 : Int32} {T : tw_T} {r : Int32 × tw_T}, k27 x1 x2 x3 x4 T = some r → vv_V l G MX4_level (d + 2) 27 [(0, .ref o), (1, .int x1), (2, .int x2), (3, .int x3), (4, .int x4)] [] (tp o h0 T, nz) (.inl (some (.int r.1)), (tp o h0 r.2, nz))) {x1 : Int32} {x2 : Int32} {x3 : Int32} {x4 : Int32} {T : tw_T} {r : Int32 × tw_T} (h : J_level_88 k27 x1 x2 x3 x4 T = some r) : vv_V l G MX4_level (d + 2) 88 [(0, .ref o), (1, .int x1), (2, .int x2), (3, .int x3), (4, .int x4)] [] (tp o h0 T, nz) (.inl (some (.int r.1)), (tp o h0 r.2, nz)) := by
  unfold J_level_88 at h
  refine vv_iload_n dX4_level_88 rfl 3 rfl ?_
  refine vv_sub (lv' := [(0, .ref o), (1, .int x1), (2, .int x2), (4, .int x4)]) [0, 1, 2, 4] rfl ?_
  exact v_level_89 hG hk27 h
def B_level_27 (k27 : Int32 → Int32 → Int32 → Int32 → tw_T → Option (Int32 × tw_T)) (x1 : Int32) (x2 : Int32) (x3 : Int32) (x4 : Int32) (T : tw_T) : Option (Int32 × tw_T) := if x2 < x4 then (some (x3, T)) else (if (x4 &&& (x2 ^^^ (-1))) = 0 then ((J_offBy x1 x3 T).bind fun r3 => (J_offBy x1 x4 r3.2).bind fun r4 => if 0 < (r3.1 - r4.1) then (J_level_83 k27 x1 x2 x4 r4.2) else (if (r3.1 - r4.1) = 0 then ((J_bits x4).bind fun r7 => (J_bits x3).bind fun r8 => if r8 ≤ r7 then (J_level_88 k27 x1 x2 x3 x4 r4.2) else (J_level_83 k27 x1 x2 x4 r4.2)) else (J_level_88 k27 x1 x2 x3 x4 r4.2))) else (J_level_90 k27 x1 x2 x3 x4 T))
def J_level_27 : Nat → Int32 → Int32 → Int32 → Int32 → tw_T → Option (Int32 × tw_T)
  | 0, _, _, _, _, _ => none
  | n + 1, x1, x2, x3, x4, T => B_level_27 (J_level_27 n) x1 x2 x3 x4 T
theorem vb_level_27 {l : Launch} {G : vv_G} {d : Nat} {o : Nat} {h0 : Nat → Option vv_E} {nz : Nat × Nat} (hG : vv_gok G) {k27 : Int32 → Int32 → Int32 → Int32 → tw_T → Option (Int32 × tw_T)} (hk27 : ∀ {x1 : Int32} {x2 : Int32} {x3 : Int32} {x4 : Int32} {T : tw_T} {r : Int32 × tw_T}, k27 x1 x2 x3 x4 T = some r → vv_V l G MX4_level (d + 2) 27 [(0, .ref o), (1, .int x1), (2, .int x2), (3, .int x3), (4, .int x4)] [] (tp o h0 T, nz) (.inl (some (.int r.1)), (tp o h0 r.2, nz))) {x1 : Int32} {x2 : Int32} {x3 : Int32} {x4 : Int32} {T : tw_T} {r : Int32 × tw_T} (h : B_level_27 k27 x1 x2 x3 x4 T = some r) : vv_V l G MX4_level (d + 2) 27 [(0, .ref o), (1, .int x1), (2, .int x2), (3, .int x3), (4, .int x4)] [] (tp o h0 T, nz) (.inl (some (.int r.1)), (tp o h0 r.2, nz)) := by
  unfold B_level_27 at h
  refine vv_iload dX4_level_27 4 rfl ?_
  refine vv_iload_n dX4_level_29 rfl 2 rfl ?_
  refine vv_icmp_gt (tgt := 96) dX4_level_30 (by decide) (fun c1 => ?_) (fun c1 => ?_)
  · rw [if_pos c1] at h
    refine vv_iload_n dX4_level_96 rfl 3 rfl ?_
    cases h
    exact vv_iret rfl dX4_level_97
  · rw [if_neg c1] at h
    refine vv_iload dX4_level_33 4 rfl ?_
    refine vv_iload_n dX4_level_35 rfl 2 rfl ?_
    refine vv_iconst (v := (-1)) dX4_level_36 (by decide) ?_
    refine vv_ixor dX4_level_37 ?_
    refine vv_iand dX4_level_38 ?_
    refine vv_if_eq (tgt := 45) dX4_level_39 (by decide) (fun c2 => ?_) (fun c2 => ?_)
    · rw [if_pos c2] at h
      refine vv_aload_n dX4_level_45 rfl 0 rfl ?_
      refine vv_iload_n dX4_level_46 rfl 1 rfl ?_
      refine vv_iload_n dX4_level_47 rfl 3 rfl ?_
      obtain ⟨r3, er3, h⟩ := bd_o h
      refine vv_callV ok_X4_offBy q2203 (m_offBy hG er3 (d + 0)) rfl (by omega) ⟨_, _, _, _, _, tp_o, by rw [hG.1]; rfl⟩ rfl rfl (Nat.le_of_ble_eq_true rfl) dX4_level_48 ?_
      refine vv_aload_n dX4_level_51 rfl 0 rfl ?_
      refine vv_iload_n dX4_level_52 rfl 1 rfl ?_
      refine vv_iload dX4_level_53 4 rfl ?_
      obtain ⟨r4, er4, h⟩ := bd_o h
      refine vv_callV ok_X4_offBy q2203 (m_offBy hG er4 (d + 0)) rfl (by omega) ⟨_, _, _, _, _, tp_o, by rw [hG.1]; rfl⟩ rfl rfl (Nat.le_of_ble_eq_true rfl) dX4_level_55 ?_
      refine vv_isub dX4_level_58 ?_
      refine vv_istore (lv' := [(0, .ref o), (1, .int x1), (2, .int x2), (3, .int x3), (4, .int x4), (5, .int (r3.1 - r4.1))]) dX4_level_59 (by decide) [1, 2, 3, 4, 5, 0] rfl ?_
      refine vv_iload dX4_level_61 5 rfl ?_
      refine vv_if_gt (tgt := 83) dX4_level_63 (by decide) (fun c5 => ?_) (fun c5 => ?_)
      · rw [if_pos c5] at h
        refine vv_sub (lv' := [(0, .ref o), (1, .int x1), (2, .int x2), (4, .int x4)]) [0, 1, 2, 4] rfl ?_
        exact v_level_83 hG hk27 h
      · rw [if_neg c5] at h
        refine vv_iload dX4_level_66 5 rfl ?_
        refine vv_if_ne (tgt := 88) dX4_level_68 (by decide) (fun c6 => ?_) (fun c6 => ?_)
        · rw [if_neg c6] at h
          refine vv_sub (lv' := [(0, .ref o), (1, .int x1), (2, .int x2), (3, .int x3), (4, .int x4)]) [0, 1, 2, 3, 4] rfl ?_
          exact v_level_88 hG hk27 h
        · rw [if_pos c6] at h
          refine vv_iload dX4_level_71 4 rfl ?_
          obtain ⟨r7, er7, h⟩ := bd_o h
          refine vv_callS ok_X4_bits q1954 (m_bits hG er7 (d + 1)) rfl (by omega) rfl rfl (Nat.le_of_ble_eq_true rfl) dX4_level_73 ?_
          refine vv_iload_n dX4_level_76 rfl 3 rfl ?_
          obtain ⟨r8, er8, h⟩ := bd_o h
          refine vv_callS ok_X4_bits q1954 (m_bits hG er8 (d + 1)) rfl (by omega) rfl rfl (Nat.le_of_ble_eq_true rfl) dX4_level_77 ?_
          refine vv_icmp_ge (tgt := 88) dX4_level_80 (by decide) (fun c9 => ?_) (fun c9 => ?_)
          · rw [if_pos c9] at h
            refine vv_sub (lv' := [(0, .ref o), (1, .int x1), (2, .int x2), (3, .int x3), (4, .int x4)]) [0, 1, 2, 3, 4] rfl ?_
            exact v_level_88 hG hk27 h
          · rw [if_neg c9] at h
            refine vv_sub (lv' := [(0, .ref o), (1, .int x1), (2, .int x2), (4, .int x4)]) [0, 1, 2, 4] rfl ?_
            exact v_level_83 hG hk27 h
    · rw [if_neg c2] at h
      refine vv_goto (tgt := 90) dX4_level_42 (by decide) ?_
      exact v_level_90 hG hk27 h
theorem v_level_27 {l : Launch} {G : vv_G} {d : Nat} {o : Nat} {h0 : Nat → Option vv_E} {nz : Nat × Nat} (hG : vv_gok G) : ∀ (n : Nat) {x1 : Int32} {x2 : Int32} {x3 : Int32} {x4 : Int32} {T : tw_T} {r : Int32 × tw_T}, J_level_27 n x1 x2 x3 x4 T = some r → vv_V l G MX4_level (d + 2) 27 [(0, .ref o), (1, .int x1), (2, .int x2), (3, .int x3), (4, .int x4)] [] (tp o h0 T, nz) (.inl (some (.int r.1)), (tp o h0 r.2, nz)) := by
  intro n
  induction n with
  | zero => intro _ _ _ _ _ _ h; cases h
  | succ n ih => intro _ _ _ _ _ _ h; exact vb_level_27 hG ih h
def J_level (x1 : Int32) (T : tw_T) : Option (Int32 × tw_T) := (some (tw_F T 0 (nI 0))).bind fun T1 => (J_isTown x1 T1).bind fun r2 => if r2.1 = 0 then (some ((nI 0), r2.2)) else ((J_lyingIn (nI 0) x1 r2.2).bind fun r4 => J_level_27 NN x1 r4.1 (nI 0) (nI 0) r4.2)
theorem v_level_0 {l : Launch} {G : vv_G} {d : Nat} {o : Nat} {h0 : Nat → Option vv_E} {nz : Nat × Nat} (hG : vv_gok G) {x1 : Int32} {T : tw_T} {r : Int32 × tw_T} (h : J_level x1 T = some r) : vv_V l G MX4_level (d + 2) 0 [(0, .ref o), (1, .int x1)] [] (tp o h0 T, nz) (.inl (some (.int r.1)), (tp o h0 r.2, nz)) := by
  unfold J_level at h
  refine vv_aload_n dX4_level_0 rfl 0 rfl ?_
  refine vv_iconst (v := (nI 0)) dX4_level_1 (by decide) ?_
  obtain ⟨T1, eT1, h⟩ := bd_s h
  refine tw_put (T1 := T1) (pt_X4_117 hG) hG rfl rfl rfl (by decide) (by rw [eT1]; exact tw_set0 _ _ _) (by rw [eT1]; rfl) dX4_level_2 ?_
  refine vv_aload_n dX4_level_5 rfl 0 rfl ?_
  refine vv_iload_n dX4_level_6 rfl 1 rfl ?_
  obtain ⟨r2, er2, h⟩ := bd_o h
  refine vv_callV ok_X4_isTown q1935 (m_isTown hG er2 (d + 0)) rfl (by omega) ⟨_, _, _, _, _, tp_o, by rw [hG.1]; rfl⟩ rfl rfl (Nat.le_of_ble_eq_true rfl) dX4_level_7 ?_
  refine vv_if_ne (tgt := 15) dX4_level_10 (by decide) (fun c3 => ?_) (fun c3 => ?_)
  · rw [if_neg c3] at h
    refine vv_aload_n dX4_level_15 rfl 0 rfl ?_
    refine vv_iconst (v := (nI 0)) dX4_level_16 (by decide) ?_
    refine vv_iload_n dX4_level_17 rfl 1 rfl ?_
    obtain ⟨r4, er4, h⟩ := bd_o h
    refine vv_callV ok_X4_lyingIn q1950 (m_lyingIn hG er4 (d + 0)) rfl (by omega) ⟨_, _, _, _, _, tp_o, by rw [hG.1]; rfl⟩ rfl rfl (Nat.le_of_ble_eq_true rfl) dX4_level_18 ?_
    refine vv_istore_n (lv' := [(0, .ref o), (1, .int x1), (2, .int r4.1)]) dX4_level_21 rfl (by decide) [1, 2, 0] rfl ?_
    refine vv_iconst (v := (nI 0)) dX4_level_22 (by decide) ?_
    refine vv_istore_n (lv' := [(0, .ref o), (1, .int x1), (2, .int r4.1), (3, .int (nI 0))]) dX4_level_23 rfl (by decide) [1, 2, 3, 0] rfl ?_
    refine vv_iconst (v := (nI 0)) dX4_level_24 (by decide) ?_
    refine vv_istore (lv' := [(0, .ref o), (1, .int x1), (2, .int r4.1), (3, .int (nI 0)), (4, .int (nI 0))]) dX4_level_25 (by decide) [1, 2, 3, 4, 0] rfl ?_
    exact v_level_27 hG NN h
  · rw [if_pos c3] at h
    refine vv_iconst (v := (nI 0)) dX4_level_13 (by decide) ?_
    cases h
    exact vv_iret rfl dX4_level_14
theorem m_level {l : Launch} {G : vv_G} {o : Nat} {h0 : Nat → Option vv_E} {nz : Nat × Nat} (hG : vv_gok G) {x1 : Int32} {T : tw_T} {r : Int32 × tw_T} (h : J_level x1 T = some r) (d : Nat) : vv_Met l G MX4_level (d + 2) [.ref o, .int x1] (tp o h0 T, nz) (.inl (some (.int r.1)), (tp o h0 r.2, nz)) := vv_head (by decide +kernel) rfl (Nat.le_of_ble_eq_true rfl) rfl (v_level_0 hG h)
/-! lend -/
def J_lend_84 (k36 : Int32 → Int32 → Int32 → tw_T → Option (Int32 × tw_T)) (s0 : Int32) (x1 : Int32) (x3 : Int32) (T : tw_T) : Option (Int32 × tw_T) := k36 x1 s0 (x3 + (nI 1)) T
theorem v_lend_84 {l : Launch} {G : vv_G} {d : Nat} {o : Nat} {h0 : Nat → Option vv_E} {nz : Nat × Nat} (hG : vv_gok G) {k36 : Int32 → Int32 → Int32 → tw_T → Option (Int32 × tw_T)} (hk36 : ∀ {x1 : Int32} {x2 : Int32} {x3 : Int32} {T : tw_T} {r : Int32 × tw_T}, k36 x1 x2 x3 T = some r → vv_V l G MX4_lend (d + 3) 36 [(0, .ref o), (1, .int x1), (2, .int x2), (3, .int x3)] [] (tp o h0 T, nz) (.inl (some (.int r.1)), (tp o h0 r.2, nz))) {s0 : Int32} {x1 : Int32} {x3 : Int32} {T : tw_T} {r : Int32 × tw_T} (h : J_lend_84 k36 s0 x1 x3 T = some r) : vv_V l G MX4_lend (d + 3) 84 [(0, .ref o), (1, .int x1), (3, .int x3)] [.int s0] (tp o h0 T, nz) (.inl (some (.int r.1)), (tp o h0 r.2, nz)) := by
  unfold J_lend_84 at h
  refine vv_istore_n (lv' := [(0, .ref o), (1, .int x1), (2, .int s0), (3, .int x3)]) dX4_lend_84 rfl (by decide) [1, 2, 0, 3] rfl ?_
  refine vv_iinc (v := (x3 + (nI 1))) (lv' := [(0, .ref o), (1, .int x1), (2, .int s0), (3, .int (x3 + (nI 1)))]) dX4_lend_85 3 rfl rfl (by decide) [1, 2, 3, 0] rfl ?_
  refine vv_goto (tgt := 36) dX4_lend_88 (by decide) ?_
  exact hk36 h
def B_lend_36 (k36 : Int32 → Int32 → Int32 → tw_T → Option (Int32 × tw_T)) (x1 : Int32) (x2 : Int32) (x3 : Int32) (T : tw_T) : Option (Int32 × tw_T) := (rdI 170 (T.2.2 20) ((nI 1) + x1)).bind fun v1 => if v1 < x3 then (some (x2, T)) else ((rdI 170 (T.2.2 20) ((nI 1) + x1)).bind fun v3 => (stA T 20 170 ((nI 86) + x1) (v3 - x3)).bind fun T4 => (J_oddsOf (nI 85) x1 T4).bind fun r5 => if r5.1 < (nI 7) then (J_lend_84 k36 x2 x1 x3 r5.2) else (J_lend_84 k36 x3 x1 x3 r5.2))
def J_lend_36 : Nat → Int32 → Int32 → Int32 → tw_T → Option (Int32 × tw_T)
  | 0, _, _, _, _ => none
  | n + 1, x1, x2, x3, T => B_lend_36 (J_lend_36 n) x1 x2 x3 T
theorem vb_lend_36 {l : Launch} {G : vv_G} {d : Nat} {o : Nat} {h0 : Nat → Option vv_E} {nz : Nat × Nat} (hG : vv_gok G) {k36 : Int32 → Int32 → Int32 → tw_T → Option (Int32 × tw_T)} (hk36 : ∀ {x1 : Int32} {x2 : Int32} {x3 : Int32} {T : tw_T} {r : Int32 × tw_T}, k36 x1 x2 x3 T = some r → vv_V l G MX4_lend (d + 3) 36 [(0, .ref o), (1, .int x1), (2, .int x2), (3, .int x3)] [] (tp o h0 T, nz) (.inl (some (.int r.1)), (tp o h0 r.2, nz))) {x1 : Int32} {x2 : Int32} {x3 : Int32} {T : tw_T} {r : Int32 × tw_T} (h : B_lend_36 k36 x1 x2 x3 T = some r) : vv_V l G MX4_lend (d + 3) 36 [(0, .ref o), (1, .int x1), (2, .int x2), (3, .int x3)] [] (tp o h0 T, nz) (.inl (some (.int r.1)), (tp o h0 r.2, nz)) := by
  unfold B_lend_36 at h
  refine vv_iload_n dX4_lend_36 rfl 3 rfl ?_
  refine vv_aload_n dX4_lend_37 rfl 0 rfl ?_
  refine tw_get (fl_X4_75 hG) (k := 42) rfl dX4_lend_38 ?_
  refine vv_iconst (v := (nI 1)) dX4_lend_41 (by decide) ?_
  refine vv_iload_n dX4_lend_42 rfl 1 rfl ?_
  refine vv_iadd dX4_lend_43 ?_
  obtain ⟨v1, iv1, ev1, h⟩ := rd_o h
  refine tw_ald 20 (by decide) rfl iv1 ev1 dX4_lend_44 ?_
  refine vv_icmp_gt (tgt := 91) dX4_lend_45 (by decide) (fun c2 => ?_) (fun c2 => ?_)
  · rw [if_pos c2] at h
    refine vv_iload_n dX4_lend_91 rfl 2 rfl ?_
    cases h
    exact vv_iret rfl dX4_lend_92
  · rw [if_neg c2] at h
    refine vv_aload_n dX4_lend_48 rfl 0 rfl ?_
    refine tw_get (fl_X4_75 hG) (k := 42) rfl dX4_lend_49 ?_
    refine vv_bipush (v := (nI 86)) dX4_lend_52 (by decide) ?_
    refine vv_iload_n dX4_lend_54 rfl 1 rfl ?_
    refine vv_iadd dX4_lend_55 ?_
    refine vv_aload_n dX4_lend_56 rfl 0 rfl ?_
    refine tw_get (fl_X4_75 hG) (k := 42) rfl dX4_lend_57 ?_
    refine vv_iconst (v := (nI 1)) dX4_lend_60 (by decide) ?_
    refine vv_iload_n dX4_lend_61 rfl 1 rfl ?_
    refine vv_iadd dX4_lend_62 ?_
    obtain ⟨v3, iv3, ev3, h⟩ := rd_o h
    refine tw_ald 20 (by decide) rfl iv3 ev3 dX4_lend_63 ?_
    refine vv_iload_n dX4_lend_64 rfl 3 rfl ?_
    refine vv_isub dX4_lend_65 ?_
    obtain ⟨T4, iT4, eT4, h⟩ := st_o h
    refine tw_ast 20 (by decide) rfl iT4 eT4 dX4_lend_66 ?_
    refine vv_aload_n dX4_lend_67 rfl 0 rfl ?_
    refine vv_bipush (v := (nI 85)) dX4_lend_68 (by decide) ?_
    refine vv_iload_n dX4_lend_70 rfl 1 rfl ?_
    obtain ⟨r5, er5, h⟩ := bd_o h
    refine vv_callV ok_X4_oddsOf q1943 (m_oddsOf hG er5 (d + 0)) rfl (by omega) ⟨_, _, _, _, _, tp_o, by rw [hG.1]; rfl⟩ rfl rfl (Nat.le_of_ble_eq_true rfl) dX4_lend_71 ?_
    refine vv_bipush (v := (nI 7)) dX4_lend_74 (by decide) ?_
    refine vv_icmp_lt (tgt := 83) dX4_lend_76 (by decide) (fun c6 => ?_) (fun c6 => ?_)
    · rw [if_pos c6] at h
      refine vv_iload_n dX4_lend_83 rfl 2 rfl ?_
      refine vv_sub (lv' := [(0, .ref o), (1, .int x1), (3, .int x3)]) [0, 1, 3] rfl ?_
      exact v_lend_84 hG hk36 h
    · rw [if_neg c6] at h
      refine vv_iload_n dX4_lend_79 rfl 3 rfl ?_
      refine vv_goto (tgt := 84) dX4_lend_80 (by decide) ?_
      refine vv_sub (lv' := [(0, .ref o), (1, .int x1), (3, .int x3)]) [0, 1, 3] rfl ?_
      exact v_lend_84 hG hk36 h
theorem v_lend_36 {l : Launch} {G : vv_G} {d : Nat} {o : Nat} {h0 : Nat → Option vv_E} {nz : Nat × Nat} (hG : vv_gok G) : ∀ (n : Nat) {x1 : Int32} {x2 : Int32} {x3 : Int32} {T : tw_T} {r : Int32 × tw_T}, J_lend_36 n x1 x2 x3 T = some r → vv_V l G MX4_lend (d + 3) 36 [(0, .ref o), (1, .int x1), (2, .int x2), (3, .int x3)] [] (tp o h0 T, nz) (.inl (some (.int r.1)), (tp o h0 r.2, nz)) := by
  intro n
  induction n with
  | zero => intro _ _ _ _ _ h; cases h
  | succ n ih => intro _ _ _ _ _ h; exact vb_lend_36 hG ih h
def J_lend (x1 : Int32) (T : tw_T) : Option (Int32 × tw_T) := (some (tw_F T 0 (nI 0))).bind fun T1 => (J_isTown x1 T1).bind fun r2 => if r2.1 = 0 then (some ((nI 0), r2.2)) else ((J_oddsOf (nI 0) x1 r2.2).bind fun r4 => if (nI 7) ≤ r4.1 then ((J_tries r4.2).bind fun r6 => J_lend_36 NN x1 (nI 0) (nI 0) r6) else (some ((-1), r4.2)))
theorem v_lend_0 {l : Launch} {G : vv_G} {d : Nat} {o : Nat} {h0 : Nat → Option vv_E} {nz : Nat × Nat} (hG : vv_gok G) {x1 : Int32} {T : tw_T} {r : Int32 × tw_T} (h : J_lend x1 T = some r) : vv_V l G MX4_lend (d + 3) 0 [(0, .ref o), (1, .int x1)] [] (tp o h0 T, nz) (.inl (some (.int r.1)), (tp o h0 r.2, nz)) := by
  unfold J_lend at h
  refine vv_aload_n dX4_lend_0 rfl 0 rfl ?_
  refine vv_iconst (v := (nI 0)) dX4_lend_1 (by decide) ?_
  obtain ⟨T1, eT1, h⟩ := bd_s h
  refine tw_put (T1 := T1) (pt_X4_117 hG) hG rfl rfl rfl (by decide) (by rw [eT1]; exact tw_set0 _ _ _) (by rw [eT1]; rfl) dX4_lend_2 ?_
  refine vv_aload_n dX4_lend_5 rfl 0 rfl ?_
  refine vv_iload_n dX4_lend_6 rfl 1 rfl ?_
  obtain ⟨r2, er2, h⟩ := bd_o h
  refine vv_callV ok_X4_isTown q1935 (m_isTown hG er2 (d + 1)) rfl (by omega) ⟨_, _, _, _, _, tp_o, by rw [hG.1]; rfl⟩ rfl rfl (Nat.le_of_ble_eq_true rfl) dX4_lend_7 ?_
  refine vv_if_ne (tgt := 15) dX4_lend_10 (by decide) (fun c3 => ?_) (fun c3 => ?_)
  · rw [if_neg c3] at h
    refine vv_aload_n dX4_lend_15 rfl 0 rfl ?_
    refine vv_iconst (v := (nI 0)) dX4_lend_16 (by decide) ?_
    refine vv_iload_n dX4_lend_17 rfl 1 rfl ?_
    obtain ⟨r4, er4, h⟩ := bd_o h
    refine vv_callV ok_X4_oddsOf q1943 (m_oddsOf hG er4 (d + 0)) rfl (by omega) ⟨_, _, _, _, _, tp_o, by rw [hG.1]; rfl⟩ rfl rfl (Nat.le_of_ble_eq_true rfl) dX4_lend_18 ?_
    refine vv_bipush (v := (nI 7)) dX4_lend_21 (by decide) ?_
    refine vv_icmp_ge (tgt := 28) dX4_lend_23 (by decide) (fun c5 => ?_) (fun c5 => ?_)
    · rw [if_pos c5] at h
      refine vv_aload_n dX4_lend_28 rfl 0 rfl ?_
      obtain ⟨r6, er6, h⟩ := bd_o h
      refine vv_callV ok_X4_tries q2039 (m_tries hG er6 (d + 2)) rfl (by omega) ⟨_, _, _, _, _, tp_o, by rw [hG.1]; rfl⟩ rfl rfl (Nat.le_of_ble_eq_true rfl) dX4_lend_29 ?_
      refine vv_iconst (v := (nI 0)) dX4_lend_32 (by decide) ?_
      refine vv_istore_n (lv' := [(0, .ref o), (1, .int x1), (2, .int (nI 0))]) dX4_lend_33 rfl (by decide) [1, 2, 0] rfl ?_
      refine vv_iconst (v := (nI 0)) dX4_lend_34 (by decide) ?_
      refine vv_istore_n (lv' := [(0, .ref o), (1, .int x1), (2, .int (nI 0)), (3, .int (nI 0))]) dX4_lend_35 rfl (by decide) [1, 2, 3, 0] rfl ?_
      exact v_lend_36 hG NN h
    · rw [if_neg c5] at h
      refine vv_iconst (v := (-1)) dX4_lend_26 (by decide) ?_
      cases h
      exact vv_iret rfl dX4_lend_27
  · rw [if_pos c3] at h
    refine vv_iconst (v := (nI 0)) dX4_lend_13 (by decide) ?_
    cases h
    exact vv_iret rfl dX4_lend_14
theorem m_lend {l : Launch} {G : vv_G} {o : Nat} {h0 : Nat → Option vv_E} {nz : Nat × Nat} (hG : vv_gok G) {x1 : Int32} {T : tw_T} {r : Int32 × tw_T} (h : J_lend x1 T = some r) (d : Nat) : vv_Met l G MX4_lend (d + 3) [.ref o, .int x1] (tp o h0 T, nz) (.inl (some (.int r.1)), (tp o h0 r.2, nz)) := vv_head (by decide +kernel) rfl (Nat.le_of_ble_eq_true rfl) rfl (v_lend_0 hG h)
/-! image -/
def B_image_28 (k28 : Int32 → tw_T → Option tw_T) (x1 : Int32) (T : tw_T) : Option tw_T := if (nI 85) ≤ x1 then ((J_copies 21 32 T).bind fun r2 => (J_copies 28 33 r2).bind fun r3 => some r3) else ((rdI 170 (T.2.2 20) x1).bind fun v4 => (stA T 31 85 x1 v4).bind fun T5 => k28 (x1 + (nI 1)) T5)
def J_image_28 : Nat → Int32 → tw_T → Option tw_T
  | 0, _, _ => none
  | n + 1, x1, T => B_image_28 (J_image_28 n) x1 T
theorem vb_image_28 {l : Launch} {G : vv_G} {d : Nat} {o : Nat} {h0 : Nat → Option vv_E} {nz : Nat × Nat} (hG : vv_gok G) {k28 : Int32 → tw_T → Option tw_T} (hk28 : ∀ {x1 : Int32} {T : tw_T} {r : tw_T}, k28 x1 T = some r → vv_V l G MX4_image (d + 1) 28 [(0, .ref o), (1, .int x1)] [] (tp o h0 T, nz) (.inl none, (tp o h0 r, nz))) {x1 : Int32} {T : tw_T} {r : tw_T} (h : B_image_28 k28 x1 T = some r) : vv_V l G MX4_image (d + 1) 28 [(0, .ref o), (1, .int x1)] [] (tp o h0 T, nz) (.inl none, (tp o h0 r, nz)) := by
  unfold B_image_28 at h
  refine vv_iload_n dX4_image_28 rfl 1 rfl ?_
  refine vv_bipush (v := (nI 85)) dX4_image_29 (by decide) ?_
  refine vv_icmp_ge (tgt := 52) dX4_image_31 (by decide) (fun c1 => ?_) (fun c1 => ?_)
  · rw [if_pos c1] at h
    refine vv_aload_n dX4_image_52 rfl 0 rfl ?_
    refine vv_aload_n dX4_image_53 rfl 0 rfl ?_
    refine tw_get (fl_X4_78 hG) (k := 43) rfl dX4_image_54 ?_
    refine vv_aload_n dX4_image_57 rfl 0 rfl ?_
    refine tw_get (fl_X4_111 hG) (k := 61) rfl dX4_image_58 ?_
    obtain ⟨r2, er2, h⟩ := bd_o h
    refine vv_callV ok_X4_copies q1892 (m_copies hG (⟨by decide, rfl⟩) (⟨by decide, rfl⟩) er2 (d + 0)) rfl (by omega) ⟨_, _, _, _, _, tp_o, by rw [hG.1]; rfl⟩ rfl rfl (Nat.le_of_ble_eq_true rfl) dX4_image_61 ?_
    refine vv_aload_n dX4_image_64 rfl 0 rfl ?_
    refine vv_aload_n dX4_image_65 rfl 0 rfl ?_
    refine tw_get (fl_X4_99 hG) (k := 53) rfl dX4_image_66 ?_
    refine vv_aload_n dX4_image_69 rfl 0 rfl ?_
    refine tw_get (fl_X4_114 hG) (k := 62) rfl dX4_image_70 ?_
    obtain ⟨r3, er3, h⟩ := bd_o h
    refine vv_callV ok_X4_copies q1892 (m_copies hG (⟨by decide, rfl⟩) (⟨by decide, rfl⟩) er3 (d + 0)) rfl (by omega) ⟨_, _, _, _, _, tp_o, by rw [hG.1]; rfl⟩ rfl rfl (Nat.le_of_ble_eq_true rfl) dX4_image_73 ?_
    cases h
    exact vv_vret rfl dX4_image_76
  · rw [if_neg c1] at h
    refine vv_aload_n dX4_image_34 rfl 0 rfl ?_
    refine tw_get (fl_X4_108 hG) (k := 60) rfl dX4_image_35 ?_
    refine vv_iload_n dX4_image_38 rfl 1 rfl ?_
    refine vv_aload_n dX4_image_39 rfl 0 rfl ?_
    refine tw_get (fl_X4_75 hG) (k := 42) rfl dX4_image_40 ?_
    refine vv_iload_n dX4_image_43 rfl 1 rfl ?_
    obtain ⟨v4, iv4, ev4, h⟩ := rd_o h
    refine tw_ald 20 (by decide) rfl iv4 ev4 dX4_image_44 ?_
    obtain ⟨T5, iT5, eT5, h⟩ := st_o h
    refine tw_ast 31 (by decide) rfl iT5 eT5 dX4_image_45 ?_
    refine vv_iinc (v := (x1 + (nI 1))) (lv' := [(0, .ref o), (1, .int (x1 + (nI 1)))]) dX4_image_46 1 rfl rfl (by decide) [1, 0] rfl ?_
    refine vv_goto (tgt := 28) dX4_image_49 (by decide) ?_
    exact hk28 h
theorem v_image_28 {l : Launch} {G : vv_G} {d : Nat} {o : Nat} {h0 : Nat → Option vv_E} {nz : Nat × Nat} (hG : vv_gok G) : ∀ (n : Nat) {x1 : Int32} {T : tw_T} {r : tw_T}, J_image_28 n x1 T = some r → vv_V l G MX4_image (d + 1) 28 [(0, .ref o), (1, .int x1)] [] (tp o h0 T, nz) (.inl none, (tp o h0 r, nz)) := by
  intro n
  induction n with
  | zero => intro _ _ _ h; cases h
  | succ n ih => intro _ _ _ h; exact vb_image_28 hG ih h
def J_image (T : tw_T) : Option tw_T := (some (tw_F T 0 (nI 0))).bind fun T1 => (some (tw_F T1 57 (nI 1))).bind fun T2 => (some (tw_F T2 58 (T2.1 44))).bind fun T3 => (some (tw_F T3 59 (T3.1 52))).bind fun T4 => J_image_28 NN (nI 0) T4
theorem v_image_0 {l : Launch} {G : vv_G} {d : Nat} {o : Nat} {h0 : Nat → Option vv_E} {nz : Nat × Nat} (hG : vv_gok G) {T : tw_T} {r : tw_T} (h : J_image T = some r) : vv_V l G MX4_image (d + 1) 0 [(0, .ref o)] [] (tp o h0 T, nz) (.inl none, (tp o h0 r, nz)) := by
  unfold J_image at h
  refine vv_aload_n dX4_image_0 rfl 0 rfl ?_
  refine vv_iconst (v := (nI 0)) dX4_image_1 (by decide) ?_
  obtain ⟨T1, eT1, h⟩ := bd_s h
  refine tw_put (T1 := T1) (pt_X4_117 hG) hG rfl rfl rfl (by decide) (by rw [eT1]; exact tw_set0 _ _ _) (by rw [eT1]; rfl) dX4_image_2 ?_
  refine vv_aload_n dX4_image_5 rfl 0 rfl ?_
  refine vv_iconst (v := (nI 1)) dX4_image_6 (by decide) ?_
  obtain ⟨T2, eT2, h⟩ := bd_s h
  refine tw_put (T1 := T2) (pt_X4_300 hG) hG rfl rfl (by decide) (by decide) (by rw [eT2]; exact tw_set57 _ _ _) (by rw [eT2]; rfl) dX4_image_7 ?_
  refine vv_aload_n dX4_image_10 rfl 0 rfl ?_
  refine vv_aload_n dX4_image_11 rfl 0 rfl ?_
  refine tw_get (fl_X4_294 hG) (k := 44) rfl dX4_image_12 ?_
  obtain ⟨T3, eT3, h⟩ := bd_s h
  refine tw_put (T1 := T3) (pt_X4_446 hG) hG rfl rfl rfl (by decide) (by rw [eT3]; exact tw_set58 _ _ _) (by rw [eT3]; rfl) dX4_image_15 ?_
  refine vv_aload_n dX4_image_18 rfl 0 rfl ?_
  refine vv_aload_n dX4_image_19 rfl 0 rfl ?_
  refine tw_get (fl_X4_297 hG) (k := 52) rfl dX4_image_20 ?_
  obtain ⟨T4, eT4, h⟩ := bd_s h
  refine tw_put (T1 := T4) (pt_X4_449 hG) hG rfl rfl rfl (by decide) (by rw [eT4]; exact tw_set59 _ _ _) (by rw [eT4]; rfl) dX4_image_23 ?_
  refine vv_iconst (v := (nI 0)) dX4_image_26 (by decide) ?_
  refine vv_istore_n (lv' := [(0, .ref o), (1, .int (nI 0))]) dX4_image_27 rfl (by decide) [1, 0] rfl ?_
  exact v_image_28 hG NN h
theorem m_image {l : Launch} {G : vv_G} {o : Nat} {h0 : Nat → Option vv_E} {nz : Nat × Nat} (hG : vv_gok G) {T : tw_T} {r : tw_T} (h : J_image T = some r) (d : Nat) : vv_Met l G MX4_image (d + 1) [.ref o] (tp o h0 T, nz) (.inl none, (tp o h0 r, nz)) := vv_head (by decide +kernel) rfl (Nat.le_of_ble_eq_true rfl) rfl (v_image_0 hG h)
/-! restore -/
def B_restore_32 (k32 : Int32 → tw_T → Option (Int32 × tw_T)) (x1 : Int32) (T : tw_T) : Option (Int32 × tw_T) := if (nI 85) ≤ x1 then ((J_copies 32 21 T).bind fun r2 => (J_copies 33 28 r2).bind fun r3 => some ((nI 1), r3)) else ((rdI 85 (T.2.2 31) x1).bind fun v4 => (stA T 20 170 x1 v4).bind fun T5 => k32 (x1 + (nI 1)) T5)
def J_restore_32 : Nat → Int32 → tw_T → Option (Int32 × tw_T)
  | 0, _, _ => none
  | n + 1, x1, T => B_restore_32 (J_restore_32 n) x1 T
theorem vb_restore_32 {l : Launch} {G : vv_G} {d : Nat} {o : Nat} {h0 : Nat → Option vv_E} {nz : Nat × Nat} (hG : vv_gok G) {k32 : Int32 → tw_T → Option (Int32 × tw_T)} (hk32 : ∀ {x1 : Int32} {T : tw_T} {r : Int32 × tw_T}, k32 x1 T = some r → vv_V l G MX4_restore (d + 1) 32 [(0, .ref o), (1, .int x1)] [] (tp o h0 T, nz) (.inl (some (.int r.1)), (tp o h0 r.2, nz))) {x1 : Int32} {T : tw_T} {r : Int32 × tw_T} (h : B_restore_32 k32 x1 T = some r) : vv_V l G MX4_restore (d + 1) 32 [(0, .ref o), (1, .int x1)] [] (tp o h0 T, nz) (.inl (some (.int r.1)), (tp o h0 r.2, nz)) := by
  unfold B_restore_32 at h
  refine vv_iload_n dX4_restore_32 rfl 1 rfl ?_
  refine vv_bipush (v := (nI 85)) dX4_restore_33 (by decide) ?_
  refine vv_icmp_ge (tgt := 56) dX4_restore_35 (by decide) (fun c1 => ?_) (fun c1 => ?_)
  · rw [if_pos c1] at h
    refine vv_aload_n dX4_restore_56 rfl 0 rfl ?_
    refine vv_aload_n dX4_restore_57 rfl 0 rfl ?_
    refine tw_get (fl_X4_111 hG) (k := 61) rfl dX4_restore_58 ?_
    refine vv_aload_n dX4_restore_61 rfl 0 rfl ?_
    refine tw_get (fl_X4_78 hG) (k := 43) rfl dX4_restore_62 ?_
    obtain ⟨r2, er2, h⟩ := bd_o h
    refine vv_callV ok_X4_copies q1892 (m_copies hG (⟨by decide, rfl⟩) (⟨by decide, rfl⟩) er2 (d + 0)) rfl (by omega) ⟨_, _, _, _, _, tp_o, by rw [hG.1]; rfl⟩ rfl rfl (Nat.le_of_ble_eq_true rfl) dX4_restore_65 ?_
    refine vv_aload_n dX4_restore_68 rfl 0 rfl ?_
    refine vv_aload_n dX4_restore_69 rfl 0 rfl ?_
    refine tw_get (fl_X4_114 hG) (k := 62) rfl dX4_restore_70 ?_
    refine vv_aload_n dX4_restore_73 rfl 0 rfl ?_
    refine tw_get (fl_X4_99 hG) (k := 53) rfl dX4_restore_74 ?_
    obtain ⟨r3, er3, h⟩ := bd_o h
    refine vv_callV ok_X4_copies q1892 (m_copies hG (⟨by decide, rfl⟩) (⟨by decide, rfl⟩) er3 (d + 0)) rfl (by omega) ⟨_, _, _, _, _, tp_o, by rw [hG.1]; rfl⟩ rfl rfl (Nat.le_of_ble_eq_true rfl) dX4_restore_77 ?_
    refine vv_iconst (v := (nI 1)) dX4_restore_80 (by decide) ?_
    cases h
    exact vv_zret rfl (by decide) dX4_restore_81
  · rw [if_neg c1] at h
    refine vv_aload_n dX4_restore_38 rfl 0 rfl ?_
    refine tw_get (fl_X4_75 hG) (k := 42) rfl dX4_restore_39 ?_
    refine vv_iload_n dX4_restore_42 rfl 1 rfl ?_
    refine vv_aload_n dX4_restore_43 rfl 0 rfl ?_
    refine tw_get (fl_X4_108 hG) (k := 60) rfl dX4_restore_44 ?_
    refine vv_iload_n dX4_restore_47 rfl 1 rfl ?_
    obtain ⟨v4, iv4, ev4, h⟩ := rd_o h
    refine tw_ald 31 (by decide) rfl iv4 ev4 dX4_restore_48 ?_
    obtain ⟨T5, iT5, eT5, h⟩ := st_o h
    refine tw_ast 20 (by decide) rfl iT5 eT5 dX4_restore_49 ?_
    refine vv_iinc (v := (x1 + (nI 1))) (lv' := [(0, .ref o), (1, .int (x1 + (nI 1)))]) dX4_restore_50 1 rfl rfl (by decide) [1, 0] rfl ?_
    refine vv_goto (tgt := 32) dX4_restore_53 (by decide) ?_
    exact hk32 h
theorem v_restore_32 {l : Launch} {G : vv_G} {d : Nat} {o : Nat} {h0 : Nat → Option vv_E} {nz : Nat × Nat} (hG : vv_gok G) : ∀ (n : Nat) {x1 : Int32} {T : tw_T} {r : Int32 × tw_T}, J_restore_32 n x1 T = some r → vv_V l G MX4_restore (d + 1) 32 [(0, .ref o), (1, .int x1)] [] (tp o h0 T, nz) (.inl (some (.int r.1)), (tp o h0 r.2, nz)) := by
  intro n
  induction n with
  | zero => intro _ _ _ h; cases h
  | succ n ih => intro _ _ _ h; exact vb_restore_32 hG ih h
def J_restore (T : tw_T) : Option (Int32 × tw_T) := (some (tw_F T 0 (nI 0))).bind fun T1 => if (T1.1 57) = 0 then (some ((nI 0), T1)) else ((some (tw_F T1 44 (T1.1 58))).bind fun T3 => (some (tw_F T3 52 (T3.1 59))).bind fun T4 => J_restore_32 NN (nI 0) T4)
theorem v_restore_0 {l : Launch} {G : vv_G} {d : Nat} {o : Nat} {h0 : Nat → Option vv_E} {nz : Nat × Nat} (hG : vv_gok G) {T : tw_T} {r : Int32 × tw_T} (h : J_restore T = some r) : vv_V l G MX4_restore (d + 1) 0 [(0, .ref o)] [] (tp o h0 T, nz) (.inl (some (.int r.1)), (tp o h0 r.2, nz)) := by
  unfold J_restore at h
  refine vv_aload_n dX4_restore_0 rfl 0 rfl ?_
  refine vv_iconst (v := (nI 0)) dX4_restore_1 (by decide) ?_
  obtain ⟨T1, eT1, h⟩ := bd_s h
  refine tw_put (T1 := T1) (pt_X4_117 hG) hG rfl rfl rfl (by decide) (by rw [eT1]; exact tw_set0 _ _ _) (by rw [eT1]; rfl) dX4_restore_2 ?_
  refine vv_aload_n dX4_restore_5 rfl 0 rfl ?_
  refine tw_get (fl_X4_300 hG) (k := 57) rfl dX4_restore_6 ?_
  refine vv_if_ne (tgt := 14) dX4_restore_9 (by decide) (fun c2 => ?_) (fun c2 => ?_)
  · rw [if_neg c2] at h
    refine vv_aload_n dX4_restore_14 rfl 0 rfl ?_
    refine vv_aload_n dX4_restore_15 rfl 0 rfl ?_
    refine tw_get (fl_X4_446 hG) (k := 58) rfl dX4_restore_16 ?_
    obtain ⟨T3, eT3, h⟩ := bd_s h
    refine tw_put (T1 := T3) (pt_X4_294 hG) hG rfl rfl rfl (by decide) (by rw [eT3]; exact tw_set44 _ _ _) (by rw [eT3]; rfl) dX4_restore_19 ?_
    refine vv_aload_n dX4_restore_22 rfl 0 rfl ?_
    refine vv_aload_n dX4_restore_23 rfl 0 rfl ?_
    refine tw_get (fl_X4_449 hG) (k := 59) rfl dX4_restore_24 ?_
    obtain ⟨T4, eT4, h⟩ := bd_s h
    refine tw_put (T1 := T4) (pt_X4_297 hG) hG rfl rfl rfl (by decide) (by rw [eT4]; exact tw_set52 _ _ _) (by rw [eT4]; rfl) dX4_restore_27 ?_
    refine vv_iconst (v := (nI 0)) dX4_restore_30 (by decide) ?_
    refine vv_istore_n (lv' := [(0, .ref o), (1, .int (nI 0))]) dX4_restore_31 rfl (by decide) [1, 0] rfl ?_
    exact v_restore_32 hG NN h
  · rw [if_pos c2] at h
    refine vv_iconst (v := (nI 0)) dX4_restore_12 (by decide) ?_
    cases h
    exact vv_zret rfl (by decide) dX4_restore_13
theorem m_restore {l : Launch} {G : vv_G} {o : Nat} {h0 : Nat → Option vv_E} {nz : Nat × Nat} (hG : vv_gok G) {T : tw_T} {r : Int32 × tw_T} (h : J_restore T = some r) (d : Nat) : vv_Met l G MX4_restore (d + 1) [.ref o] (tp o h0 T, nz) (.inl (some (.int r.1)), (tp o h0 r.2, nz)) := vv_head (by decide +kernel) rfl (Nat.le_of_ble_eq_true rfl) rfl (v_restore_0 hG h)
