set_option maxRecDepth 100000
/-! ('X1', 'harm') -/
def KX1_harm_46 (s0 : Int32) (σ : vv_S) : Option Int32 := some s0
theorem v_KX1_harm_46 {l : Launch} {G : vv_G} {d : Nat} {ad : Nat → Nat} (hG : vv_gok G) (hH : vv_hy l G ad) {s0 : Int32} {σ : vv_S} {r : Int32} (h : KX1_harm_46 s0 σ = some r) : vv_V l G MX1_harm (d + 1) 46 [] [.int s0] σ (.inl (some (.int r)), σ) := by
  unfold KX1_harm_46 at h
  cases h
  exact vv_iret rfl dX1_harm_46
def KX1_harm (x0 : Nat) (x1 : Int32) (x2 : Int32) (σ : vv_S) : Option Int32 := (gR σ x0 0 2).bind fun v1 => (gR σ v1 2 4).bind fun v2 => (aI σ .int v2 x1).bind fun v3 => (gR σ x0 0 2).bind fun v4 => (gR σ v4 2 4).bind fun v5 => (aI σ .int v5 x2).bind fun v6 => if v3 = v6 then (KX1_harm_46 (nI 0) σ) else ((gR σ x0 0 2).bind fun v8 => (gR σ v8 2 3).bind fun v9 => (aI σ .int v9 x1).bind fun v10 => (gR σ x0 0 2).bind fun v11 => (gR σ v11 2 3).bind fun v12 => (aI σ .int v12 x2).bind fun v13 => KX1_harm_46 (mnI v10 v13) σ)
theorem v_KX1_harm_0 {l : Launch} {G : vv_G} {d : Nat} {ad : Nat → Nat} (hG : vv_gok G) (hH : vv_hy l G ad) {x0 : Nat} {x1 : Int32} {x2 : Int32} {σ : vv_S} {r : Int32} (h : KX1_harm x0 x1 x2 σ = some r) : vv_V l G MX1_harm (d + 1) 0 [(0, .ref x0), (1, .int x1), (2, .int x2)] [] σ (.inl (some (.int r)), σ) := by
  unfold KX1_harm at h
  refine vv_aload_n dX1_harm_0 rfl 0 rfl ?_
  replace h := gR_o h; obtain ⟨v1, fv1, sv1, ev1, lv1, h⟩ := h
  refine vv_get (fl_X1_31 hG) ev1 lv1 dX1_harm_1 ?_
  replace h := gR_o h; obtain ⟨v2, fv2, sv2, ev2, lv2, h⟩ := h
  refine vv_getM (fl_X1_173 hH) ev2 lv2 dX1_harm_4 ?_
  refine vv_iload_n dX1_harm_7 rfl 1 rfl ?_
  replace h := aI_o h; obtain ⟨v3, fv3, nv3, qv3, ev3, iv3, wv3, h⟩ := h
  refine vv_iald ev3 iv3 dX1_harm_8 ?_
  rw [wv3]
  refine vv_aload_n dX1_harm_9 rfl 0 rfl ?_
  replace h := gR_o h; obtain ⟨v4, fv4, sv4, ev4, lv4, h⟩ := h
  refine vv_get (fl_X1_31 hG) ev4 lv4 dX1_harm_10 ?_
  replace h := gR_o h; obtain ⟨v5, fv5, sv5, ev5, lv5, h⟩ := h
  refine vv_getM (fl_X1_173 hH) ev5 lv5 dX1_harm_13 ?_
  refine vv_iload_n dX1_harm_16 rfl 2 rfl ?_
  replace h := aI_o h; obtain ⟨v6, fv6, nv6, qv6, ev6, iv6, wv6, h⟩ := h
  refine vv_iald ev6 iv6 dX1_harm_17 ?_
  rw [wv6]
  refine vv_icmp_ne (tgt := 25) dX1_harm_18 (by decide) (fun c7 => ?_) (fun c7 => ?_)
  · rw [if_neg c7] at h
    refine vv_aload_n dX1_harm_25 rfl 0 rfl ?_
    replace h := gR_o h; obtain ⟨v8, fv8, sv8, ev8, lv8, h⟩ := h
    refine vv_get (fl_X1_31 hG) ev8 lv8 dX1_harm_26 ?_
    replace h := gR_o h; obtain ⟨v9, fv9, sv9, ev9, lv9, h⟩ := h
    refine vv_getM (fl_X1_170 hH) ev9 lv9 dX1_harm_29 ?_
    refine vv_iload_n dX1_harm_32 rfl 1 rfl ?_
    replace h := aI_o h; obtain ⟨v10, fv10, nv10, qv10, ev10, iv10, wv10, h⟩ := h
    refine vv_iald ev10 iv10 dX1_harm_33 ?_
    rw [wv10]
    refine vv_aload_n dX1_harm_34 rfl 0 rfl ?_
    replace h := gR_o h; obtain ⟨v11, fv11, sv11, ev11, lv11, h⟩ := h
    refine vv_get (fl_X1_31 hG) ev11 lv11 dX1_harm_35 ?_
    replace h := gR_o h; obtain ⟨v12, fv12, sv12, ev12, lv12, h⟩ := h
    refine vv_getM (fl_X1_170 hH) ev12 lv12 dX1_harm_38 ?_
    refine vv_iload_n dX1_harm_41 rfl 2 rfl ?_
    replace h := aI_o h; obtain ⟨v13, fv13, nv13, qv13, ev13, iv13, wv13, h⟩ := h
    refine vv_iald ev13 iv13 dX1_harm_42 ?_
    rw [wv13]
    refine vv_mmin q1326 (by omega) (Nat.le_of_ble_eq_true rfl) dX1_harm_43 ?_
    refine vv_sub (lv' := []) [] rfl ?_
    exact v_KX1_harm_46 hG hH h
  · rw [if_pos c7] at h
    refine vv_iconst (v := (nI 0)) dX1_harm_21 (by decide) ?_
    refine vv_goto (tgt := 46) dX1_harm_22 (by decide) ?_
    refine vv_sub (lv' := []) [] rfl ?_
    exact v_KX1_harm_46 hG hH h
theorem m_KX1_harm {l : Launch} {G : vv_G} {ad : Nat → Nat} (hG : vv_gok G) (hH : vv_hy l G ad) {x0 : Nat} {x1 : Int32} {x2 : Int32} {σ : vv_S} {r : Int32} (h : KX1_harm x0 x1 x2 σ = some r) (d : Nat) : vv_Met l G MX1_harm (d + 1) [.ref x0, .int x1, .int x2] σ (.inl (some (.int r)), σ) := vv_head (by decide +kernel) rfl (Nat.le_of_ble_eq_true rfl) rfl (v_KX1_harm_0 hG hH h)
/-! ('X1', 'harms') -/
def KX1_harms_154 (k19 : Nat → Int32 → Nat → Int32 → vv_S → Option (Nat × vv_S)) (x0 : Nat) (x1 : Int32) (x2 : Nat) (x3 : Int32) (σ : vv_S) : Option (Nat × vv_S) := k19 x0 x1 x2 (x3 + (nI 1)) σ
theorem v_KX1_harms_154 {l : Launch} {G : vv_G} {d : Nat} {ad : Nat → Nat} (hG : vv_gok G) (hH : vv_hy l G ad) {k19 : Nat → Int32 → Nat → Int32 → vv_S → Option (Nat × vv_S)} (hk19 : ∀ {x0 : Nat} {x1 : Int32} {x2 : Nat} {x3 : Int32} {σ : vv_S} {r : Nat × vv_S}, k19 x0 x1 x2 x3 σ = some r → vv_V l G MX1_harms (d + 2) 19 [(0, .ref x0), (1, .int x1), (2, .ref x2), (3, .int x3)] [] σ (.inl (some (.ref r.1)), r.2)) {x0 : Nat} {x1 : Int32} {x2 : Nat} {x3 : Int32} {σ : vv_S} {r : Nat × vv_S} (h : KX1_harms_154 k19 x0 x1 x2 x3 σ = some r) : vv_V l G MX1_harms (d + 2) 154 [(0, .ref x0), (1, .int x1), (2, .ref x2), (3, .int x3)] [] σ (.inl (some (.ref r.1)), r.2) := by
  unfold KX1_harms_154 at h
  refine vv_iinc (v := (x3 + (nI 1))) (lv' := [(0, .ref x0), (1, .int x1), (2, .ref x2), (3, .int (x3 + (nI 1)))]) dX1_harms_154 3 rfl rfl (by decide) [1, 2, 3, 0] rfl ?_
  refine vv_goto (tgt := 19) dX1_harms_157 (by decide) ?_
  exact hk19 h
def KX1_harms_142 (k19 : Nat → Int32 → Nat → Int32 → vv_S → Option (Nat × vv_S)) (k38 : Nat → Int32 → Nat → Int32 → Int32 → vv_S → Option (Nat × vv_S)) (k61 : Nat → Int32 → Nat → Int32 → Int32 → Int32 → vv_S → Option (Nat × vv_S)) (x0 : Nat) (x1 : Int32) (x2 : Nat) (x3 : Int32) (x4 : Int32) (x5 : Int32) (σ : vv_S) : Option (Nat × vv_S) := k61 x0 x1 x2 x3 x4 (x5 + (nI 1)) σ
theorem v_KX1_harms_142 {l : Launch} {G : vv_G} {d : Nat} {ad : Nat → Nat} (hG : vv_gok G) (hH : vv_hy l G ad) {k19 : Nat → Int32 → Nat → Int32 → vv_S → Option (Nat × vv_S)} (hk19 : ∀ {x0 : Nat} {x1 : Int32} {x2 : Nat} {x3 : Int32} {σ : vv_S} {r : Nat × vv_S}, k19 x0 x1 x2 x3 σ = some r → vv_V l G MX1_harms (d + 2) 19 [(0, .ref x0), (1, .int x1), (2, .ref x2), (3, .int x3)] [] σ (.inl (some (.ref r.1)), r.2)) {k38 : Nat → Int32 → Nat → Int32 → Int32 → vv_S → Option (Nat × vv_S)} (hk38 : ∀ {x0 : Nat} {x1 : Int32} {x2 : Nat} {x3 : Int32} {x4 : Int32} {σ : vv_S} {r : Nat × vv_S}, k38 x0 x1 x2 x3 x4 σ = some r → vv_V l G MX1_harms (d + 2) 38 [(0, .ref x0), (1, .int x1), (2, .ref x2), (3, .int x3), (4, .int x4)] [] σ (.inl (some (.ref r.1)), r.2)) {k61 : Nat → Int32 → Nat → Int32 → Int32 → Int32 → vv_S → Option (Nat × vv_S)} (hk61 : ∀ {x0 : Nat} {x1 : Int32} {x2 : Nat} {x3 : Int32} {x4 : Int32} {x5 : Int32} {σ : vv_S} {r : Nat × vv_S}, k61 x0 x1 x2 x3 x4 x5 σ = some r → vv_V l G MX1_harms (d + 2) 61 [(0, .ref x0), (1, .int x1), (2, .ref x2), (3, .int x3), (4, .int x4), (5, .int x5)] [] σ (.inl (some (.ref r.1)), r.2)) {x0 : Nat} {x1 : Int32} {x2 : Nat} {x3 : Int32} {x4 : Int32} {x5 : Int32} {σ : vv_S} {r : Nat × vv_S} (h : KX1_harms_142 k19 k38 k61 x0 x1 x2 x3 x4 x5 σ = some r) : vv_V l G MX1_harms (d + 2) 142 [(0, .ref x0), (1, .int x1), (2, .ref x2), (3, .int x3), (4, .int x4), (5, .int x5)] [] σ (.inl (some (.ref r.1)), r.2) := by
  unfold KX1_harms_142 at h
  refine vv_iinc (v := (x5 + (nI 1))) (lv' := [(0, .ref x0), (1, .int x1), (2, .ref x2), (3, .int x3), (4, .int x4), (5, .int (x5 + (nI 1)))]) dX1_harms_142 5 rfl rfl (by decide) [1, 2, 3, 4, 5, 0] rfl ?_
  refine vv_goto (tgt := 61) dX1_harms_145 (by decide) ?_
  exact hk61 h
def KX1_harms_122 (k19 : Nat → Int32 → Nat → Int32 → vv_S → Option (Nat × vv_S)) (k38 : Nat → Int32 → Nat → Int32 → Int32 → vv_S → Option (Nat × vv_S)) (k61 : Nat → Int32 → Nat → Int32 → Int32 → Int32 → vv_S → Option (Nat × vv_S)) (s0 : Int32) (s1 : Int32) (x0 : Nat) (x1 : Int32) (x2 : Nat) (x3 : Int32) (x4 : Int32) (x5 : Int32) (σ : vv_S) : Option (Nat × vv_S) := (aQ σ x2 x3).bind fun v1 => (aQ σ x2 x3).bind fun v2 => (aI σ .int v2 x4).bind fun v3 => (sI σ v1 x4 (mnI v3 (s0 + s1))).bind fun σ4 => KX1_harms_142 k19 k38 k61 x0 x1 x2 x3 x4 x5 σ4
theorem v_KX1_harms_122 {l : Launch} {G : vv_G} {d : Nat} {ad : Nat → Nat} (hG : vv_gok G) (hH : vv_hy l G ad) {k19 : Nat → Int32 → Nat → Int32 → vv_S → Option (Nat × vv_S)} (hk19 : ∀ {x0 : Nat} {x1 : Int32} {x2 : Nat} {x3 : Int32} {σ : vv_S} {r : Nat × vv_S}, k19 x0 x1 x2 x3 σ = some r → vv_V l G MX1_harms (d + 2) 19 [(0, .ref x0), (1, .int x1), (2, .ref x2), (3, .int x3)] [] σ (.inl (some (.ref r.1)), r.2)) {k38 : Nat → Int32 → Nat → Int32 → Int32 → vv_S → Option (Nat × vv_S)} (hk38 : ∀ {x0 : Nat} {x1 : Int32} {x2 : Nat} {x3 : Int32} {x4 : Int32} {σ : vv_S} {r : Nat × vv_S}, k38 x0 x1 x2 x3 x4 σ = some r → vv_V l G MX1_harms (d + 2) 38 [(0, .ref x0), (1, .int x1), (2, .ref x2), (3, .int x3), (4, .int x4)] [] σ (.inl (some (.ref r.1)), r.2)) {k61 : Nat → Int32 → Nat → Int32 → Int32 → Int32 → vv_S → Option (Nat × vv_S)} (hk61 : ∀ {x0 : Nat} {x1 : Int32} {x2 : Nat} {x3 : Int32} {x4 : Int32} {x5 : Int32} {σ : vv_S} {r : Nat × vv_S}, k61 x0 x1 x2 x3 x4 x5 σ = some r → vv_V l G MX1_harms (d + 2) 61 [(0, .ref x0), (1, .int x1), (2, .ref x2), (3, .int x3), (4, .int x4), (5, .int x5)] [] σ (.inl (some (.ref r.1)), r.2)) {s0 : Int32} {s1 : Int32} {x0 : Nat} {x1 : Int32} {x2 : Nat} {x3 : Int32} {x4 : Int32} {x5 : Int32} {σ : vv_S} {r : Nat × vv_S} (h : KX1_harms_122 k19 k38 k61 s0 s1 x0 x1 x2 x3 x4 x5 σ = some r) : vv_V l G MX1_harms (d + 2) 122 [(0, .ref x0), (1, .int x1), (2, .ref x2), (3, .int x3), (4, .int x4), (5, .int x5)] [.int s1, .int s0] σ (.inl (some (.ref r.1)), r.2) := by
  unfold KX1_harms_122 at h
  refine vv_iadd dX1_harms_122 ?_
  refine vv_istore (lv' := [(0, .ref x0), (1, .int x1), (2, .ref x2), (3, .int x3), (4, .int x4), (5, .int x5), (6, .int (s0 + s1))]) dX1_harms_123 (by decide) [1, 2, 3, 4, 5, 6, 0] rfl ?_
  refine vv_aload_n dX1_harms_125 rfl 2 rfl ?_
  refine vv_iload_n dX1_harms_126 rfl 3 rfl ?_
  replace h := aQ_o h; obtain ⟨v1, fv1, tv1, nv1, qv1, rv1, ev1, iv1, wv1, h⟩ := h
  refine vv_aald rv1 ev1 iv1 dX1_harms_127 ?_
  rw [wv1]
  refine vv_st (st' := [.ref v1]) rfl ?_
  refine vv_iload dX1_harms_128 4 rfl ?_
  refine vv_aload_n dX1_harms_130 rfl 2 rfl ?_
  refine vv_iload_n dX1_harms_131 rfl 3 rfl ?_
  replace h := aQ_o h; obtain ⟨v2, fv2, tv2, nv2, qv2, rv2, ev2, iv2, wv2, h⟩ := h
  refine vv_aald rv2 ev2 iv2 dX1_harms_132 ?_
  rw [wv2]
  refine vv_st (st' := [.ref v2, .int x4, .ref v1]) rfl ?_
  refine vv_iload dX1_harms_133 4 rfl ?_
  replace h := aI_o h; obtain ⟨v3, fv3, nv3, qv3, ev3, iv3, wv3, h⟩ := h
  refine vv_iald ev3 iv3 dX1_harms_135 ?_
  rw [wv3]
  refine vv_iload dX1_harms_136 6 rfl ?_
  refine vv_mmin q1326 (by omega) (Nat.le_of_ble_eq_true rfl) dX1_harms_138 ?_
  replace h := sI_o h; obtain ⟨σ4, nσ4, qσ4, eσ4, iσ4, uσ4, h⟩ := h
  refine vv_iast eσ4 iσ4 dX1_harms_141 ?_
  refine vv_sg uσ4 ?_
  refine vv_sub (lv' := [(0, .ref x0), (1, .int x1), (2, .ref x2), (3, .int x3), (4, .int x4), (5, .int x5)]) [0, 1, 2, 3, 4, 5] rfl ?_
  exact v_KX1_harms_142 hG hH hk19 hk38 hk61 h
def BKX1_harms_61 (k19 : Nat → Int32 → Nat → Int32 → vv_S → Option (Nat × vv_S)) (k38 : Nat → Int32 → Nat → Int32 → Int32 → vv_S → Option (Nat × vv_S)) (k61 : Nat → Int32 → Nat → Int32 → Int32 → Int32 → vv_S → Option (Nat × vv_S)) (x0 : Nat) (x1 : Int32) (x2 : Nat) (x3 : Int32) (x4 : Int32) (x5 : Int32) (σ : vv_S) : Option (Nat × vv_S) := (gR σ x0 0 1).bind fun v1 => (gI σ v1 1 3).bind fun v2 => if v2 ≤ x5 then (k38 x0 x1 x2 x3 (x4 + (nI 1)) σ) else ((KX1_isOf x3 x5).bind fun r4 => if r4 = 0 then (KX1_harms_142 k19 k38 k61 x0 x1 x2 x3 x4 x5 σ) else ((aQ σ x2 (x3 &&& (((nI 1) <<< (x5 &&& 31)) ^^^ (-1)))).bind fun v6 => (aI σ .int v6 x5).bind fun v7 => (gR σ x0 0 1).bind fun v8 => (gI σ v8 1 3).bind fun v9 => if x4 = v9 then (KX1_harms_122 k19 k38 k61 v7 (nI 0) x0 x1 x2 x3 x4 x5 σ) else ((isO σ x0 0).bind fun _ => (KX1_harm x0 x4 x5 σ).bind fun r11 => KX1_harms_122 k19 k38 k61 v7 r11 x0 x1 x2 x3 x4 x5 σ)))
def KX1_harms_61 (k19 : Nat → Int32 → Nat → Int32 → vv_S → Option (Nat × vv_S)) (k38 : Nat → Int32 → Nat → Int32 → Int32 → vv_S → Option (Nat × vv_S)) : Nat → Nat → Int32 → Nat → Int32 → Int32 → Int32 → vv_S → Option (Nat × vv_S)
  | 0, _, _, _, _, _, _, _ => none
  | n + 1, x0, x1, x2, x3, x4, x5, σ => BKX1_harms_61 k19 k38 (KX1_harms_61 k19 k38 n) x0 x1 x2 x3 x4 x5 σ
theorem vb_KX1_harms_61 {l : Launch} {G : vv_G} {d : Nat} {ad : Nat → Nat} (hG : vv_gok G) (hH : vv_hy l G ad) {k19 : Nat → Int32 → Nat → Int32 → vv_S → Option (Nat × vv_S)} (hk19 : ∀ {x0 : Nat} {x1 : Int32} {x2 : Nat} {x3 : Int32} {σ : vv_S} {r : Nat × vv_S}, k19 x0 x1 x2 x3 σ = some r → vv_V l G MX1_harms (d + 2) 19 [(0, .ref x0), (1, .int x1), (2, .ref x2), (3, .int x3)] [] σ (.inl (some (.ref r.1)), r.2)) {k38 : Nat → Int32 → Nat → Int32 → Int32 → vv_S → Option (Nat × vv_S)} (hk38 : ∀ {x0 : Nat} {x1 : Int32} {x2 : Nat} {x3 : Int32} {x4 : Int32} {σ : vv_S} {r : Nat × vv_S}, k38 x0 x1 x2 x3 x4 σ = some r → vv_V l G MX1_harms (d + 2) 38 [(0, .ref x0), (1, .int x1), (2, .ref x2), (3, .int x3), (4, .int x4)] [] σ (.inl (some (.ref r.1)), r.2)) {k61 : Nat → Int32 → Nat → Int32 → Int32 → Int32 → vv_S → Option (Nat × vv_S)} (hk61 : ∀ {x0 : Nat} {x1 : Int32} {x2 : Nat} {x3 : Int32} {x4 : Int32} {x5 : Int32} {σ : vv_S} {r : Nat × vv_S}, k61 x0 x1 x2 x3 x4 x5 σ = some r → vv_V l G MX1_harms (d + 2) 61 [(0, .ref x0), (1, .int x1), (2, .ref x2), (3, .int x3), (4, .int x4), (5, .int x5)] [] σ (.inl (some (.ref r.1)), r.2)) {x0 : Nat} {x1 : Int32} {x2 : Nat} {x3 : Int32} {x4 : Int32} {x5 : Int32} {σ : vv_S} {r : Nat × vv_S} (h : BKX1_harms_61 k19 k38 k61 x0 x1 x2 x3 x4 x5 σ = some r) : vv_V l G MX1_harms (d + 2) 61 [(0, .ref x0), (1, .int x1), (2, .ref x2), (3, .int x3), (4, .int x4), (5, .int x5)] [] σ (.inl (some (.ref r.1)), r.2) := by
  unfold BKX1_harms_61 at h
  refine vv_iload dX1_harms_61 5 rfl ?_
  refine vv_aload_n dX1_harms_63 rfl 0 rfl ?_
  replace h := gR_o h; obtain ⟨v1, fv1, sv1, ev1, lv1, h⟩ := h
  refine vv_get (fl_X1_22 hG) ev1 lv1 dX1_harms_64 ?_
  replace h := gI_o h; obtain ⟨v2, fv2, sv2, ev2, lv2, h⟩ := h
  refine vv_getM (fl_X1_104 hH) ev2 lv2 dX1_harms_67 ?_
  refine vv_icmp_ge (tgt := 148) dX1_harms_70 (by decide) (fun c3 => ?_) (fun c3 => ?_)
  · rw [if_pos c3] at h
    refine vv_iinc (v := (x4 + (nI 1))) (lv' := [(0, .ref x0), (1, .int x1), (2, .ref x2), (3, .int x3), (4, .int (x4 + (nI 1))), (5, .int x5)]) dX1_harms_148 4 rfl rfl (by decide) [1, 2, 3, 4, 0, 5] rfl ?_
    refine vv_goto (tgt := 38) dX1_harms_151 (by decide) ?_
    refine vv_sub (lv' := [(0, .ref x0), (1, .int x1), (2, .ref x2), (3, .int x3), (4, .int (x4 + (nI 1)))]) [0, 1, 2, 3, 4] rfl ?_
    exact hk38 h
  · rw [if_neg c3] at h
    refine vv_iload_n dX1_harms_73 rfl 3 rfl ?_
    refine vv_iload dX1_harms_74 5 rfl ?_
    replace h := bd_o h; obtain ⟨r4, er4, h⟩ := h
    refine vv_callS ok_X1_isOf q1352 (m_KX1_isOf hG hH er4 d) rfl (by omega) rfl rfl (Nat.le_of_ble_eq_true rfl) dX1_harms_76 ?_
    refine vv_if_ne (tgt := 85) dX1_harms_79 (by decide) (fun c5 => ?_) (fun c5 => ?_)
    · rw [if_neg c5] at h
      refine vv_aload_n dX1_harms_85 rfl 2 rfl ?_
      refine vv_iload_n dX1_harms_86 rfl 3 rfl ?_
      refine vv_iconst (v := (nI 1)) dX1_harms_87 (by decide) ?_
      refine vv_iload dX1_harms_88 5 rfl ?_
      refine vv_ishl dX1_harms_90 ?_
      refine vv_iconst (v := (-1)) dX1_harms_91 (by decide) ?_
      refine vv_ixor dX1_harms_92 ?_
      refine vv_iand dX1_harms_93 ?_
      replace h := aQ_o h; obtain ⟨v6, fv6, tv6, nv6, qv6, rv6, ev6, iv6, wv6, h⟩ := h
      refine vv_aald rv6 ev6 iv6 dX1_harms_94 ?_
      rw [wv6]
      refine vv_st (st' := [.ref v6]) rfl ?_
      refine vv_iload dX1_harms_95 5 rfl ?_
      replace h := aI_o h; obtain ⟨v7, fv7, nv7, qv7, ev7, iv7, wv7, h⟩ := h
      refine vv_iald ev7 iv7 dX1_harms_97 ?_
      rw [wv7]
      refine vv_iload dX1_harms_98 4 rfl ?_
      refine vv_aload_n dX1_harms_100 rfl 0 rfl ?_
      replace h := gR_o h; obtain ⟨v8, fv8, sv8, ev8, lv8, h⟩ := h
      refine vv_get (fl_X1_22 hG) ev8 lv8 dX1_harms_101 ?_
      replace h := gI_o h; obtain ⟨v9, fv9, sv9, ev9, lv9, h⟩ := h
      refine vv_getM (fl_X1_104 hH) ev9 lv9 dX1_harms_104 ?_
      refine vv_icmp_ne (tgt := 114) dX1_harms_107 (by decide) (fun c10 => ?_) (fun c10 => ?_)
      · rw [if_neg c10] at h
        refine vv_aload_n dX1_harms_114 rfl 0 rfl ?_
        refine vv_iload dX1_harms_115 4 rfl ?_
        refine vv_iload dX1_harms_117 5 rfl ?_
        replace h := isO_o h; obtain ⟨fz12, sz12, ez12, h⟩ := h
        replace h := bd_o h; obtain ⟨r11, er11, h⟩ := h
        refine vv_callV ok_X1_harm q1400 (m_KX1_harm hG hH er11 d) rfl (by omega) ⟨_, _, _, _, _, ez12, by rw [hG.1]; rfl⟩ rfl rfl (Nat.le_of_ble_eq_true rfl) dX1_harms_119 ?_
        exact v_KX1_harms_122 hG hH hk19 hk38 hk61 h
      · rw [if_pos c10] at h
        refine vv_iconst (v := (nI 0)) dX1_harms_110 (by decide) ?_
        refine vv_goto (tgt := 122) dX1_harms_111 (by decide) ?_
        exact v_KX1_harms_122 hG hH hk19 hk38 hk61 h
    · rw [if_pos c5] at h
      refine vv_goto (tgt := 142) dX1_harms_82 (by decide) ?_
      exact v_KX1_harms_142 hG hH hk19 hk38 hk61 h
theorem v_KX1_harms_61 {l : Launch} {G : vv_G} {d : Nat} {ad : Nat → Nat} (hG : vv_gok G) (hH : vv_hy l G ad) {k19 : Nat → Int32 → Nat → Int32 → vv_S → Option (Nat × vv_S)} (hk19 : ∀ {x0 : Nat} {x1 : Int32} {x2 : Nat} {x3 : Int32} {σ : vv_S} {r : Nat × vv_S}, k19 x0 x1 x2 x3 σ = some r → vv_V l G MX1_harms (d + 2) 19 [(0, .ref x0), (1, .int x1), (2, .ref x2), (3, .int x3)] [] σ (.inl (some (.ref r.1)), r.2)) {k38 : Nat → Int32 → Nat → Int32 → Int32 → vv_S → Option (Nat × vv_S)} (hk38 : ∀ {x0 : Nat} {x1 : Int32} {x2 : Nat} {x3 : Int32} {x4 : Int32} {σ : vv_S} {r : Nat × vv_S}, k38 x0 x1 x2 x3 x4 σ = some r → vv_V l G MX1_harms (d + 2) 38 [(0, .ref x0), (1, .int x1), (2, .ref x2), (3, .int x3), (4, .int x4)] [] σ (.inl (some (.ref r.1)), r.2)) : ∀ (n : Nat) {x0 : Nat} {x1 : Int32} {x2 : Nat} {x3 : Int32} {x4 : Int32} {x5 : Int32} {σ : vv_S} {r : Nat × vv_S}, KX1_harms_61 k19 k38 n x0 x1 x2 x3 x4 x5 σ = some r → vv_V l G MX1_harms (d + 2) 61 [(0, .ref x0), (1, .int x1), (2, .ref x2), (3, .int x3), (4, .int x4), (5, .int x5)] [] σ (.inl (some (.ref r.1)), r.2) := by
  intro n
  induction n with
  | zero => intro _ _ _ _ _ _ _ _ h; cases h
  | succ n ih => intro _ _ _ _ _ _ _ _ h; exact vb_KX1_harms_61 hG hH hk19 hk38 ih h
def BKX1_harms_38 (k19 : Nat → Int32 → Nat → Int32 → vv_S → Option (Nat × vv_S)) (k38 : Nat → Int32 → Nat → Int32 → Int32 → vv_S → Option (Nat × vv_S)) (x0 : Nat) (x1 : Int32) (x2 : Nat) (x3 : Int32) (x4 : Int32) (σ : vv_S) : Option (Nat × vv_S) := (gR σ x0 0 1).bind fun v1 => (gI σ v1 1 3).bind fun v2 => if v2 < x4 then (KX1_harms_154 k19 x0 x1 x2 x3 σ) else ((aQ σ x2 x3).bind fun v4 => (sI σ v4 x4 (nI 100000)).bind fun σ5 => KX1_harms_61 k19 k38 NN x0 x1 x2 x3 x4 (nI 0) σ5)
def KX1_harms_38 (k19 : Nat → Int32 → Nat → Int32 → vv_S → Option (Nat × vv_S)) : Nat → Nat → Int32 → Nat → Int32 → Int32 → vv_S → Option (Nat × vv_S)
  | 0, _, _, _, _, _, _ => none
  | n + 1, x0, x1, x2, x3, x4, σ => BKX1_harms_38 k19 (KX1_harms_38 k19 n) x0 x1 x2 x3 x4 σ
theorem vb_KX1_harms_38 {l : Launch} {G : vv_G} {d : Nat} {ad : Nat → Nat} (hG : vv_gok G) (hH : vv_hy l G ad) {k19 : Nat → Int32 → Nat → Int32 → vv_S → Option (Nat × vv_S)} (hk19 : ∀ {x0 : Nat} {x1 : Int32} {x2 : Nat} {x3 : Int32} {σ : vv_S} {r : Nat × vv_S}, k19 x0 x1 x2 x3 σ = some r → vv_V l G MX1_harms (d + 2) 19 [(0, .ref x0), (1, .int x1), (2, .ref x2), (3, .int x3)] [] σ (.inl (some (.ref r.1)), r.2)) {k38 : Nat → Int32 → Nat → Int32 → Int32 → vv_S → Option (Nat × vv_S)} (hk38 : ∀ {x0 : Nat} {x1 : Int32} {x2 : Nat} {x3 : Int32} {x4 : Int32} {σ : vv_S} {r : Nat × vv_S}, k38 x0 x1 x2 x3 x4 σ = some r → vv_V l G MX1_harms (d + 2) 38 [(0, .ref x0), (1, .int x1), (2, .ref x2), (3, .int x3), (4, .int x4)] [] σ (.inl (some (.ref r.1)), r.2)) {x0 : Nat} {x1 : Int32} {x2 : Nat} {x3 : Int32} {x4 : Int32} {σ : vv_S} {r : Nat × vv_S} (h : BKX1_harms_38 k19 k38 x0 x1 x2 x3 x4 σ = some r) : vv_V l G MX1_harms (d + 2) 38 [(0, .ref x0), (1, .int x1), (2, .ref x2), (3, .int x3), (4, .int x4)] [] σ (.inl (some (.ref r.1)), r.2) := by
  unfold BKX1_harms_38 at h
  refine vv_iload dX1_harms_38 4 rfl ?_
  refine vv_aload_n dX1_harms_40 rfl 0 rfl ?_
  replace h := gR_o h; obtain ⟨v1, fv1, sv1, ev1, lv1, h⟩ := h
  refine vv_get (fl_X1_22 hG) ev1 lv1 dX1_harms_41 ?_
  replace h := gI_o h; obtain ⟨v2, fv2, sv2, ev2, lv2, h⟩ := h
  refine vv_getM (fl_X1_104 hH) ev2 lv2 dX1_harms_44 ?_
  refine vv_icmp_gt (tgt := 154) dX1_harms_47 (by decide) (fun c3 => ?_) (fun c3 => ?_)
  · rw [if_pos c3] at h
    refine vv_sub (lv' := [(0, .ref x0), (1, .int x1), (2, .ref x2), (3, .int x3)]) [0, 1, 2, 3] rfl ?_
    exact v_KX1_harms_154 hG hH hk19 h
  · rw [if_neg c3] at h
    refine vv_aload_n dX1_harms_50 rfl 2 rfl ?_
    refine vv_iload_n dX1_harms_51 rfl 3 rfl ?_
    replace h := aQ_o h; obtain ⟨v4, fv4, tv4, nv4, qv4, rv4, ev4, iv4, wv4, h⟩ := h
    refine vv_aald rv4 ev4 iv4 dX1_harms_52 ?_
    rw [wv4]
    refine vv_st (st' := [.ref v4]) rfl ?_
    refine vv_iload dX1_harms_53 4 rfl ?_
    refine vv_ldc (v := (nI 100000)) dX1_harms_55 q637 ?_
    replace h := sI_o h; obtain ⟨σ5, nσ5, qσ5, eσ5, iσ5, uσ5, h⟩ := h
    refine vv_iast eσ5 iσ5 dX1_harms_57 ?_
    refine vv_sg uσ5 ?_
    refine vv_iconst (v := (nI 0)) dX1_harms_58 (by decide) ?_
    refine vv_istore (lv' := [(0, .ref x0), (1, .int x1), (2, .ref x2), (3, .int x3), (4, .int x4), (5, .int (nI 0))]) dX1_harms_59 (by decide) [1, 2, 3, 4, 5, 0] rfl ?_
    exact v_KX1_harms_61 hG hH hk19 hk38 NN h
theorem v_KX1_harms_38 {l : Launch} {G : vv_G} {d : Nat} {ad : Nat → Nat} (hG : vv_gok G) (hH : vv_hy l G ad) {k19 : Nat → Int32 → Nat → Int32 → vv_S → Option (Nat × vv_S)} (hk19 : ∀ {x0 : Nat} {x1 : Int32} {x2 : Nat} {x3 : Int32} {σ : vv_S} {r : Nat × vv_S}, k19 x0 x1 x2 x3 σ = some r → vv_V l G MX1_harms (d + 2) 19 [(0, .ref x0), (1, .int x1), (2, .ref x2), (3, .int x3)] [] σ (.inl (some (.ref r.1)), r.2)) : ∀ (n : Nat) {x0 : Nat} {x1 : Int32} {x2 : Nat} {x3 : Int32} {x4 : Int32} {σ : vv_S} {r : Nat × vv_S}, KX1_harms_38 k19 n x0 x1 x2 x3 x4 σ = some r → vv_V l G MX1_harms (d + 2) 38 [(0, .ref x0), (1, .int x1), (2, .ref x2), (3, .int x3), (4, .int x4)] [] σ (.inl (some (.ref r.1)), r.2) := by
  intro n
  induction n with
  | zero => intro _ _ _ _ _ _ _ h; cases h
  | succ n ih => intro _ _ _ _ _ _ _ h; exact vb_KX1_harms_38 hG hH hk19 ih h
def BKX1_harms_19 (k19 : Nat → Int32 → Nat → Int32 → vv_S → Option (Nat × vv_S)) (x0 : Nat) (x1 : Int32) (x2 : Nat) (x3 : Int32) (σ : vv_S) : Option (Nat × vv_S) := if x1 < x3 then (some (x2, σ)) else (if (x3 &&& (x1 ^^^ (-1))) = 0 then (KX1_harms_38 k19 NN x0 x1 x2 x3 (nI 0) σ) else (KX1_harms_154 k19 x0 x1 x2 x3 σ))
def KX1_harms_19 : Nat → Nat → Int32 → Nat → Int32 → vv_S → Option (Nat × vv_S)
  | 0, _, _, _, _, _ => none
  | n + 1, x0, x1, x2, x3, σ => BKX1_harms_19 (KX1_harms_19 n) x0 x1 x2 x3 σ
theorem vb_KX1_harms_19 {l : Launch} {G : vv_G} {d : Nat} {ad : Nat → Nat} (hG : vv_gok G) (hH : vv_hy l G ad) {k19 : Nat → Int32 → Nat → Int32 → vv_S → Option (Nat × vv_S)} (hk19 : ∀ {x0 : Nat} {x1 : Int32} {x2 : Nat} {x3 : Int32} {σ : vv_S} {r : Nat × vv_S}, k19 x0 x1 x2 x3 σ = some r → vv_V l G MX1_harms (d + 2) 19 [(0, .ref x0), (1, .int x1), (2, .ref x2), (3, .int x3)] [] σ (.inl (some (.ref r.1)), r.2)) {x0 : Nat} {x1 : Int32} {x2 : Nat} {x3 : Int32} {σ : vv_S} {r : Nat × vv_S} (h : BKX1_harms_19 k19 x0 x1 x2 x3 σ = some r) : vv_V l G MX1_harms (d + 2) 19 [(0, .ref x0), (1, .int x1), (2, .ref x2), (3, .int x3)] [] σ (.inl (some (.ref r.1)), r.2) := by
  unfold BKX1_harms_19 at h
  refine vv_iload_n dX1_harms_19 rfl 3 rfl ?_
  refine vv_iload_n dX1_harms_20 rfl 1 rfl ?_
  refine vv_icmp_gt (tgt := 160) dX1_harms_21 (by decide) (fun c1 => ?_) (fun c1 => ?_)
  · rw [if_pos c1] at h
    refine vv_aload_n dX1_harms_160 rfl 2 rfl ?_
    cases h
    exact vv_aret rfl (by first | exact Or.inl ⟨_, rfl⟩ | exact Or.inr ⟨_, rfl⟩) (Or.inr ⟨_, rfl⟩) dX1_harms_161
  · rw [if_neg c1] at h
    refine vv_iload_n dX1_harms_24 rfl 3 rfl ?_
    refine vv_iload_n dX1_harms_25 rfl 1 rfl ?_
    refine vv_iconst (v := (-1)) dX1_harms_26 (by decide) ?_
    refine vv_ixor dX1_harms_27 ?_
    refine vv_iand dX1_harms_28 ?_
    refine vv_if_eq (tgt := 35) dX1_harms_29 (by decide) (fun c2 => ?_) (fun c2 => ?_)
    · rw [if_pos c2] at h
      refine vv_iconst (v := (nI 0)) dX1_harms_35 (by decide) ?_
      refine vv_istore (lv' := [(0, .ref x0), (1, .int x1), (2, .ref x2), (3, .int x3), (4, .int (nI 0))]) dX1_harms_36 (by decide) [1, 2, 3, 4, 0] rfl ?_
      exact v_KX1_harms_38 hG hH hk19 NN h
    · rw [if_neg c2] at h
      refine vv_goto (tgt := 154) dX1_harms_32 (by decide) ?_
      exact v_KX1_harms_154 hG hH hk19 h
theorem v_KX1_harms_19 {l : Launch} {G : vv_G} {d : Nat} {ad : Nat → Nat} (hG : vv_gok G) (hH : vv_hy l G ad) : ∀ (n : Nat) {x0 : Nat} {x1 : Int32} {x2 : Nat} {x3 : Int32} {σ : vv_S} {r : Nat × vv_S}, KX1_harms_19 n x0 x1 x2 x3 σ = some r → vv_V l G MX1_harms (d + 2) 19 [(0, .ref x0), (1, .int x1), (2, .ref x2), (3, .int x3)] [] σ (.inl (some (.ref r.1)), r.2) := by
  intro n
  induction n with
  | zero => intro _ _ _ _ _ _ h; cases h
  | succ n ih => intro _ _ _ _ _ _ h; exact vb_KX1_harms_19 hG hH ih h
def KX1_harms (x0 : Nat) (x1 : Int32) (σ : vv_S) : Option (Nat × vv_S) := (gR σ x0 0 1).bind fun v1 => (gI σ v1 1 3).bind fun v2 => (nwM σ (x1 + (nI 1)) (v2 + (nI 1))).bind fun σ3 => KX1_harms_19 NN x0 x1 σ.2.1 (nI 1) σ3
theorem v_KX1_harms_0 {l : Launch} {G : vv_G} {d : Nat} {ad : Nat → Nat} (hG : vv_gok G) (hH : vv_hy l G ad) {x0 : Nat} {x1 : Int32} {σ : vv_S} {r : Nat × vv_S} (h : KX1_harms x0 x1 σ = some r) : vv_V l G MX1_harms (d + 2) 0 [(0, .ref x0), (1, .int x1)] [] σ (.inl (some (.ref r.1)), r.2) := by
  unfold KX1_harms at h
  refine vv_iload_n dX1_harms_0 rfl 1 rfl ?_
  refine vv_iconst (v := (nI 1)) dX1_harms_1 (by decide) ?_
  refine vv_iadd dX1_harms_2 ?_
  refine vv_aload_n dX1_harms_3 rfl 0 rfl ?_
  replace h := gR_o h; obtain ⟨v1, fv1, sv1, ev1, lv1, h⟩ := h
  refine vv_get (fl_X1_22 hG) ev1 lv1 dX1_harms_4 ?_
  replace h := gI_o h; obtain ⟨v2, fv2, sv2, ev2, lv2, h⟩ := h
  refine vv_getM (fl_X1_104 hH) ev2 lv2 dX1_harms_7 ?_
  refine vv_iconst (v := (nI 1)) dX1_harms_10 (by decide) ?_
  refine vv_iadd dX1_harms_11 ?_
  replace h := nM_o h; obtain ⟨σ3, eσ3, h⟩ := h
  refine vv_mna hG hH eσ3 q1398 dX1_harms_12 ?_
  refine vv_astore_n (lv' := [(0, .ref x0), (1, .int x1), (2, .ref σ.2.1)]) dX1_harms_16 rfl (by decide) [1, 2, 0] rfl ?_
  refine vv_iconst (v := (nI 1)) dX1_harms_17 (by decide) ?_
  refine vv_istore_n (lv' := [(0, .ref x0), (1, .int x1), (2, .ref σ.2.1), (3, .int (nI 1))]) dX1_harms_18 rfl (by decide) [1, 2, 3, 0] rfl ?_
  exact v_KX1_harms_19 hG hH NN h
theorem m_KX1_harms {l : Launch} {G : vv_G} {ad : Nat → Nat} (hG : vv_gok G) (hH : vv_hy l G ad) {x0 : Nat} {x1 : Int32} {σ : vv_S} {r : Nat × vv_S} (h : KX1_harms x0 x1 σ = some r) (d : Nat) : vv_Met l G MX1_harms (d + 2) [.ref x0, .int x1] σ (.inl (some (.ref r.1)), r.2) := vv_head (by decide +kernel) rfl (Nat.le_of_ble_eq_true rfl) rfl (v_KX1_harms_0 hG hH h)
/-! ('X1', 'hold') -/
def KX1_hold_153 (k63 : Nat → Int32 → Nat → Int32 → Int32 → Int32 → vv_S → Option (hX (Int32 × vv_S))) (k83 : Nat → Int32 → Nat → Int32 → Int32 → Int32 → Int32 → Int32 → vv_S → Option (hX (Int32 × vv_S))) (x0 : Nat) (x2 : Int32) (x4 : Nat) (x5 : Int32) (x6 : Int32) (x7 : Int32) (x8 : Int32) (x9 : Int32) (σ : vv_S) : Option (hX (Int32 × vv_S)) := k83 x0 x2 x4 x5 x6 x7 x8 (x9 + (-1)) σ
theorem v_KX1_hold_153 {l : Launch} {G : vv_G} {d : Nat} {ad : Nat → Nat} (hG : vv_gok G) (hH : vv_hy l G ad) {k63 : Nat → Int32 → Nat → Int32 → Int32 → Int32 → vv_S → Option (hX (Int32 × vv_S))} (hk63 : ∀ {x0 : Nat} {x2 : Int32} {x4 : Nat} {x5 : Int32} {x6 : Int32} {x7 : Int32} {σ : vv_S} {r : hX (Int32 × vv_S)}, k63 x0 x2 x4 x5 x6 x7 σ = some r → vv_V l G MX1_hold (d + 10) 63 [(0, .ref x0), (2, .int x2), (4, .ref x4), (5, .int x5), (6, .int x6), (7, .int x7)] [] σ (xI r)) {k83 : Nat → Int32 → Nat → Int32 → Int32 → Int32 → Int32 → Int32 → vv_S → Option (hX (Int32 × vv_S))} (hk83 : ∀ {x0 : Nat} {x2 : Int32} {x4 : Nat} {x5 : Int32} {x6 : Int32} {x7 : Int32} {x8 : Int32} {x9 : Int32} {σ : vv_S} {r : hX (Int32 × vv_S)}, k83 x0 x2 x4 x5 x6 x7 x8 x9 σ = some r → vv_V l G MX1_hold (d + 10) 83 [(0, .ref x0), (2, .int x2), (4, .ref x4), (5, .int x5), (6, .int x6), (7, .int x7), (8, .int x8), (9, .int x9)] [] σ (xI r)) {x0 : Nat} {x2 : Int32} {x4 : Nat} {x5 : Int32} {x6 : Int32} {x7 : Int32} {x8 : Int32} {x9 : Int32} {σ : vv_S} {r : hX (Int32 × vv_S)} (h : KX1_hold_153 k63 k83 x0 x2 x4 x5 x6 x7 x8 x9 σ = some r) : vv_V l G MX1_hold (d + 10) 153 [(0, .ref x0), (2, .int x2), (4, .ref x4), (5, .int x5), (6, .int x6), (7, .int x7), (8, .int x8), (9, .int x9)] [] σ (xI r) := by
  unfold KX1_hold_153 at h
  refine vv_iinc (v := (x9 + (-1))) (lv' := [(0, .ref x0), (2, .int x2), (4, .ref x4), (5, .int x5), (6, .int x6), (7, .int x7), (8, .int x8), (9, .int (x9 + (-1)))]) dX1_hold_153 7 rfl rfl (by decide) [1, 2, 3, 4, 5, 6, 7, 0] rfl ?_
  refine vv_goto (tgt := 83) dX1_hold_156 (by decide) ?_
  exact hk83 h
def KX1_hold_137 (k63 : Nat → Int32 → Nat → Int32 → Int32 → Int32 → vv_S → Option (hX (Int32 × vv_S))) (k83 : Nat → Int32 → Nat → Int32 → Int32 → Int32 → Int32 → Int32 → vv_S → Option (hX (Int32 × vv_S))) (s0 : Int32) (s1 : Int32) (x0 : Nat) (x2 : Int32) (x4 : Nat) (x5 : Int32) (x6 : Int32) (x7 : Int32) (x8 : Int32) (x9 : Int32) (σ : vv_S) : Option (hX (Int32 × vv_S)) := (aQ σ x4 x6).bind fun v1 => (aI σ .int v1 x5).bind fun v2 => if (s0 + s1) = v2 then (KX1_hold_153 k63 k83 x0 x2 x4 x5 x6 x7 x9 x9 σ) else (KX1_hold_153 k63 k83 x0 x2 x4 x5 x6 x7 x8 x9 σ)
theorem v_KX1_hold_137 {l : Launch} {G : vv_G} {d : Nat} {ad : Nat → Nat} (hG : vv_gok G) (hH : vv_hy l G ad) {k63 : Nat → Int32 → Nat → Int32 → Int32 → Int32 → vv_S → Option (hX (Int32 × vv_S))} (hk63 : ∀ {x0 : Nat} {x2 : Int32} {x4 : Nat} {x5 : Int32} {x6 : Int32} {x7 : Int32} {σ : vv_S} {r : hX (Int32 × vv_S)}, k63 x0 x2 x4 x5 x6 x7 σ = some r → vv_V l G MX1_hold (d + 10) 63 [(0, .ref x0), (2, .int x2), (4, .ref x4), (5, .int x5), (6, .int x6), (7, .int x7)] [] σ (xI r)) {k83 : Nat → Int32 → Nat → Int32 → Int32 → Int32 → Int32 → Int32 → vv_S → Option (hX (Int32 × vv_S))} (hk83 : ∀ {x0 : Nat} {x2 : Int32} {x4 : Nat} {x5 : Int32} {x6 : Int32} {x7 : Int32} {x8 : Int32} {x9 : Int32} {σ : vv_S} {r : hX (Int32 × vv_S)}, k83 x0 x2 x4 x5 x6 x7 x8 x9 σ = some r → vv_V l G MX1_hold (d + 10) 83 [(0, .ref x0), (2, .int x2), (4, .ref x4), (5, .int x5), (6, .int x6), (7, .int x7), (8, .int x8), (9, .int x9)] [] σ (xI r)) {s0 : Int32} {s1 : Int32} {x0 : Nat} {x2 : Int32} {x4 : Nat} {x5 : Int32} {x6 : Int32} {x7 : Int32} {x8 : Int32} {x9 : Int32} {σ : vv_S} {r : hX (Int32 × vv_S)} (h : KX1_hold_137 k63 k83 s0 s1 x0 x2 x4 x5 x6 x7 x8 x9 σ = some r) : vv_V l G MX1_hold (d + 10) 137 [(0, .ref x0), (2, .int x2), (4, .ref x4), (5, .int x5), (6, .int x6), (7, .int x7), (8, .int x8), (9, .int x9)] [.int s1, .int s0] σ (xI r) := by
  unfold KX1_hold_137 at h
  refine vv_iadd dX1_hold_137 ?_
  refine vv_aload dX1_hold_138 2 rfl ?_
  refine vv_iload dX1_hold_140 4 rfl ?_
  replace h := aQ_o h; obtain ⟨v1, fv1, tv1, nv1, qv1, rv1, ev1, iv1, wv1, h⟩ := h
  refine vv_aald rv1 ev1 iv1 dX1_hold_142 ?_
  rw [wv1]
  refine vv_st (st' := [.ref v1, .int (s0 + s1)]) rfl ?_
  refine vv_iload dX1_hold_143 3 rfl ?_
  replace h := aI_o h; obtain ⟨v2, fv2, nv2, qv2, ev2, iv2, wv2, h⟩ := h
  refine vv_iald ev2 iv2 dX1_hold_145 ?_
  rw [wv2]
  refine vv_icmp_ne (tgt := 153) dX1_hold_146 (by decide) (fun c3 => ?_) (fun c3 => ?_)
  · rw [if_neg c3] at h
    exact v_KX1_hold_153 hG hH hk63 hk83 h
  · rw [if_pos c3] at h
    refine vv_iload dX1_hold_149 7 rfl ?_
    refine vv_istore (lv' := [(0, .ref x0), (2, .int x2), (4, .ref x4), (5, .int x5), (6, .int x6), (7, .int x7), (8, .int x9), (9, .int x9)]) dX1_hold_151 (by decide) [1, 2, 3, 4, 5, 6, 0, 7] rfl ?_
    exact v_KX1_hold_153 hG hH hk63 hk83 h
def BKX1_hold_83 (k63 : Nat → Int32 → Nat → Int32 → Int32 → Int32 → vv_S → Option (hX (Int32 × vv_S))) (k83 : Nat → Int32 → Nat → Int32 → Int32 → Int32 → Int32 → Int32 → vv_S → Option (hX (Int32 × vv_S))) (x0 : Nat) (x2 : Int32) (x4 : Nat) (x5 : Int32) (x6 : Int32) (x7 : Int32) (x8 : Int32) (x9 : Int32) (σ : vv_S) : Option (hX (Int32 × vv_S)) := if x9 < 0 then (k63 x0 x2 x4 x8 (x6 &&& (((nI 1) <<< (x8 &&& 31)) ^^^ (-1))) (x7 + (nI 1)) σ) else ((KX1_isOf x6 x9).bind fun r2 => if r2 = 0 then (KX1_hold_153 k63 k83 x0 x2 x4 x5 x6 x7 x8 x9 σ) else ((aQ σ x4 (x6 &&& (((nI 1) <<< (x9 &&& 31)) ^^^ (-1)))).bind fun v4 => (aI σ .int v4 x9).bind fun v5 => (gR σ x0 0 1).bind fun v6 => (gI σ v6 1 3).bind fun v7 => if x5 = v7 then (KX1_hold_137 k63 k83 v5 (nI 0) x0 x2 x4 x5 x6 x7 x8 x9 σ) else ((isO σ x0 0).bind fun _ => (KX1_harm x0 x5 x9 σ).bind fun r9 => KX1_hold_137 k63 k83 v5 r9 x0 x2 x4 x5 x6 x7 x8 x9 σ)))
def KX1_hold_83 (k63 : Nat → Int32 → Nat → Int32 → Int32 → Int32 → vv_S → Option (hX (Int32 × vv_S))) : Nat → Nat → Int32 → Nat → Int32 → Int32 → Int32 → Int32 → Int32 → vv_S → Option (hX (Int32 × vv_S))
  | 0, _, _, _, _, _, _, _, _, _ => none
  | n + 1, x0, x2, x4, x5, x6, x7, x8, x9, σ => BKX1_hold_83 k63 (KX1_hold_83 k63 n) x0 x2 x4 x5 x6 x7 x8 x9 σ
theorem vb_KX1_hold_83 {l : Launch} {G : vv_G} {d : Nat} {ad : Nat → Nat} (hG : vv_gok G) (hH : vv_hy l G ad) {k63 : Nat → Int32 → Nat → Int32 → Int32 → Int32 → vv_S → Option (hX (Int32 × vv_S))} (hk63 : ∀ {x0 : Nat} {x2 : Int32} {x4 : Nat} {x5 : Int32} {x6 : Int32} {x7 : Int32} {σ : vv_S} {r : hX (Int32 × vv_S)}, k63 x0 x2 x4 x5 x6 x7 σ = some r → vv_V l G MX1_hold (d + 10) 63 [(0, .ref x0), (2, .int x2), (4, .ref x4), (5, .int x5), (6, .int x6), (7, .int x7)] [] σ (xI r)) {k83 : Nat → Int32 → Nat → Int32 → Int32 → Int32 → Int32 → Int32 → vv_S → Option (hX (Int32 × vv_S))} (hk83 : ∀ {x0 : Nat} {x2 : Int32} {x4 : Nat} {x5 : Int32} {x6 : Int32} {x7 : Int32} {x8 : Int32} {x9 : Int32} {σ : vv_S} {r : hX (Int32 × vv_S)}, k83 x0 x2 x4 x5 x6 x7 x8 x9 σ = some r → vv_V l G MX1_hold (d + 10) 83 [(0, .ref x0), (2, .int x2), (4, .ref x4), (5, .int x5), (6, .int x6), (7, .int x7), (8, .int x8), (9, .int x9)] [] σ (xI r)) {x0 : Nat} {x2 : Int32} {x4 : Nat} {x5 : Int32} {x6 : Int32} {x7 : Int32} {x8 : Int32} {x9 : Int32} {σ : vv_S} {r : hX (Int32 × vv_S)} (h : BKX1_hold_83 k63 k83 x0 x2 x4 x5 x6 x7 x8 x9 σ = some r) : vv_V l G MX1_hold (d + 10) 83 [(0, .ref x0), (2, .int x2), (4, .ref x4), (5, .int x5), (6, .int x6), (7, .int x7), (8, .int x8), (9, .int x9)] [] σ (xI r) := by
  unfold BKX1_hold_83 at h
  refine vv_iload dX1_hold_83 7 rfl ?_
  refine vv_if_lt (tgt := 159) dX1_hold_85 (by decide) (fun c1 => ?_) (fun c1 => ?_)
  · rw [if_pos c1] at h
    refine vv_iload dX1_hold_159 6 rfl ?_
    refine vv_istore (lv' := [(0, .ref x0), (2, .int x2), (4, .ref x4), (5, .int x8), (6, .int x6), (7, .int x7), (8, .int x8), (9, .int x9)]) dX1_hold_161 (by decide) [1, 2, 3, 0, 4, 5, 6, 7] rfl ?_
    refine vv_iload dX1_hold_163 4 rfl ?_
    refine vv_iconst (v := (nI 1)) dX1_hold_165 (by decide) ?_
    refine vv_iload dX1_hold_166 6 rfl ?_
    refine vv_ishl dX1_hold_168 ?_
    refine vv_iconst (v := (-1)) dX1_hold_169 (by decide) ?_
    refine vv_ixor dX1_hold_170 ?_
    refine vv_iand dX1_hold_171 ?_
    refine vv_istore (lv' := [(0, .ref x0), (2, .int x2), (4, .ref x4), (5, .int x8), (6, .int (x6 &&& (((nI 1) <<< (x8 &&& 31)) ^^^ (-1)))), (7, .int x7), (8, .int x8), (9, .int x9)]) dX1_hold_172 (by decide) [1, 2, 3, 4, 0, 5, 6, 7] rfl ?_
    refine vv_iinc (v := (x7 + (nI 1))) (lv' := [(0, .ref x0), (2, .int x2), (4, .ref x4), (5, .int x8), (6, .int (x6 &&& (((nI 1) <<< (x8 &&& 31)) ^^^ (-1)))), (7, .int (x7 + (nI 1))), (8, .int x8), (9, .int x9)]) dX1_hold_174 5 rfl rfl (by decide) [1, 2, 3, 4, 5, 0, 6, 7] rfl ?_
    refine vv_goto (tgt := 63) dX1_hold_177 (by decide) ?_
    refine vv_sub (lv' := [(0, .ref x0), (2, .int x2), (4, .ref x4), (5, .int x8), (6, .int (x6 &&& (((nI 1) <<< (x8 &&& 31)) ^^^ (-1)))), (7, .int (x7 + (nI 1)))]) [0, 1, 2, 3, 4, 5] rfl ?_
    exact hk63 h
  · rw [if_neg c1] at h
    refine vv_iload dX1_hold_88 4 rfl ?_
    refine vv_iload dX1_hold_90 7 rfl ?_
    replace h := bd_o h; obtain ⟨r2, er2, h⟩ := h
    refine vv_callS ok_X1_isOf q1352 (m_KX1_isOf hG hH er2 d) rfl (by omega) rfl rfl (Nat.le_of_ble_eq_true rfl) dX1_hold_92 ?_
    refine vv_if_eq (tgt := 153) dX1_hold_95 (by decide) (fun c3 => ?_) (fun c3 => ?_)
    · rw [if_pos c3] at h
      exact v_KX1_hold_153 hG hH hk63 hk83 h
    · rw [if_neg c3] at h
      refine vv_aload dX1_hold_98 2 rfl ?_
      refine vv_iload dX1_hold_100 4 rfl ?_
      refine vv_iconst (v := (nI 1)) dX1_hold_102 (by decide) ?_
      refine vv_iload dX1_hold_103 7 rfl ?_
      refine vv_ishl dX1_hold_105 ?_
      refine vv_iconst (v := (-1)) dX1_hold_106 (by decide) ?_
      refine vv_ixor dX1_hold_107 ?_
      refine vv_iand dX1_hold_108 ?_
      replace h := aQ_o h; obtain ⟨v4, fv4, tv4, nv4, qv4, rv4, ev4, iv4, wv4, h⟩ := h
      refine vv_aald rv4 ev4 iv4 dX1_hold_109 ?_
      rw [wv4]
      refine vv_st (st' := [.ref v4]) rfl ?_
      refine vv_iload dX1_hold_110 7 rfl ?_
      replace h := aI_o h; obtain ⟨v5, fv5, nv5, qv5, ev5, iv5, wv5, h⟩ := h
      refine vv_iald ev5 iv5 dX1_hold_112 ?_
      rw [wv5]
      refine vv_iload dX1_hold_113 3 rfl ?_
      refine vv_aload_n dX1_hold_115 rfl 0 rfl ?_
      replace h := gR_o h; obtain ⟨v6, fv6, sv6, ev6, lv6, h⟩ := h
      refine vv_get (fl_X1_22 hG) ev6 lv6 dX1_hold_116 ?_
      replace h := gI_o h; obtain ⟨v7, fv7, sv7, ev7, lv7, h⟩ := h
      refine vv_getM (fl_X1_104 hH) ev7 lv7 dX1_hold_119 ?_
      refine vv_icmp_ne (tgt := 129) dX1_hold_122 (by decide) (fun c8 => ?_) (fun c8 => ?_)
      · rw [if_neg c8] at h
        refine vv_aload_n dX1_hold_129 rfl 0 rfl ?_
        refine vv_iload dX1_hold_130 3 rfl ?_
        refine vv_iload dX1_hold_132 7 rfl ?_
        replace h := isO_o h; obtain ⟨fz10, sz10, ez10, h⟩ := h
        replace h := bd_o h; obtain ⟨r9, er9, h⟩ := h
        refine vv_callV ok_X1_harm q1400 (m_KX1_harm hG hH er9 d) rfl (by omega) ⟨_, _, _, _, _, ez10, by rw [hG.1]; rfl⟩ rfl rfl (Nat.le_of_ble_eq_true rfl) dX1_hold_134 ?_
        exact v_KX1_hold_137 hG hH hk63 hk83 h
      · rw [if_pos c8] at h
        refine vv_iconst (v := (nI 0)) dX1_hold_125 (by decide) ?_
        refine vv_goto (tgt := 137) dX1_hold_126 (by decide) ?_
        exact v_KX1_hold_137 hG hH hk63 hk83 h
theorem v_KX1_hold_83 {l : Launch} {G : vv_G} {d : Nat} {ad : Nat → Nat} (hG : vv_gok G) (hH : vv_hy l G ad) {k63 : Nat → Int32 → Nat → Int32 → Int32 → Int32 → vv_S → Option (hX (Int32 × vv_S))} (hk63 : ∀ {x0 : Nat} {x2 : Int32} {x4 : Nat} {x5 : Int32} {x6 : Int32} {x7 : Int32} {σ : vv_S} {r : hX (Int32 × vv_S)}, k63 x0 x2 x4 x5 x6 x7 σ = some r → vv_V l G MX1_hold (d + 10) 63 [(0, .ref x0), (2, .int x2), (4, .ref x4), (5, .int x5), (6, .int x6), (7, .int x7)] [] σ (xI r)) : ∀ (n : Nat) {x0 : Nat} {x2 : Int32} {x4 : Nat} {x5 : Int32} {x6 : Int32} {x7 : Int32} {x8 : Int32} {x9 : Int32} {σ : vv_S} {r : hX (Int32 × vv_S)}, KX1_hold_83 k63 n x0 x2 x4 x5 x6 x7 x8 x9 σ = some r → vv_V l G MX1_hold (d + 10) 83 [(0, .ref x0), (2, .int x2), (4, .ref x4), (5, .int x5), (6, .int x6), (7, .int x7), (8, .int x8), (9, .int x9)] [] σ (xI r) := by
  intro n
  induction n with
  | zero => intro _ _ _ _ _ _ _ _ _ _ h; cases h
  | succ n ih => intro _ _ _ _ _ _ _ _ _ _ h; exact vb_KX1_hold_83 hG hH hk63 ih h
def BKX1_hold_63 (k63 : Nat → Int32 → Nat → Int32 → Int32 → Int32 → vv_S → Option (hX (Int32 × vv_S))) (x0 : Nat) (x2 : Int32) (x4 : Nat) (x5 : Int32) (x6 : Int32) (x7 : Int32) (σ : vv_S) : Option (hX (Int32 × vv_S)) := if x2 < x7 then (some (.inl (x5, σ))) else ((gR σ x0 0 1).bind fun v2 => (gI σ v2 1 3).bind fun v3 => KX1_hold_83 k63 NN x0 x2 x4 x5 x6 x7 (-1) (v3 - (nI 1)) σ)
def KX1_hold_63 : Nat → Nat → Int32 → Nat → Int32 → Int32 → Int32 → vv_S → Option (hX (Int32 × vv_S))
  | 0, _, _, _, _, _, _, _ => none
  | n + 1, x0, x2, x4, x5, x6, x7, σ => BKX1_hold_63 (KX1_hold_63 n) x0 x2 x4 x5 x6 x7 σ
theorem vb_KX1_hold_63 {l : Launch} {G : vv_G} {d : Nat} {ad : Nat → Nat} (hG : vv_gok G) (hH : vv_hy l G ad) {k63 : Nat → Int32 → Nat → Int32 → Int32 → Int32 → vv_S → Option (hX (Int32 × vv_S))} (hk63 : ∀ {x0 : Nat} {x2 : Int32} {x4 : Nat} {x5 : Int32} {x6 : Int32} {x7 : Int32} {σ : vv_S} {r : hX (Int32 × vv_S)}, k63 x0 x2 x4 x5 x6 x7 σ = some r → vv_V l G MX1_hold (d + 10) 63 [(0, .ref x0), (2, .int x2), (4, .ref x4), (5, .int x5), (6, .int x6), (7, .int x7)] [] σ (xI r)) {x0 : Nat} {x2 : Int32} {x4 : Nat} {x5 : Int32} {x6 : Int32} {x7 : Int32} {σ : vv_S} {r : hX (Int32 × vv_S)} (h : BKX1_hold_63 k63 x0 x2 x4 x5 x6 x7 σ = some r) : vv_V l G MX1_hold (d + 10) 63 [(0, .ref x0), (2, .int x2), (4, .ref x4), (5, .int x5), (6, .int x6), (7, .int x7)] [] σ (xI r) := by
  unfold BKX1_hold_63 at h
  refine vv_iload dX1_hold_63 5 rfl ?_
  refine vv_iload_n dX1_hold_65 rfl 1 rfl ?_
  refine vv_icmp_gt (tgt := 180) dX1_hold_66 (by decide) (fun c1 => ?_) (fun c1 => ?_)
  · rw [if_pos c1] at h
    refine vv_iload dX1_hold_180 3 rfl ?_
    cases h
    exact vv_iret rfl dX1_hold_182
  · rw [if_neg c1] at h
    refine vv_iconst (v := (-1)) dX1_hold_69 (by decide) ?_
    refine vv_istore (lv' := [(0, .ref x0), (2, .int x2), (4, .ref x4), (5, .int x5), (6, .int x6), (7, .int x7), (8, .int (-1))]) dX1_hold_70 (by decide) [1, 2, 3, 4, 5, 6, 0] rfl ?_
    refine vv_aload_n dX1_hold_72 rfl 0 rfl ?_
    replace h := gR_o h; obtain ⟨v2, fv2, sv2, ev2, lv2, h⟩ := h
    refine vv_get (fl_X1_22 hG) ev2 lv2 dX1_hold_73 ?_
    replace h := gI_o h; obtain ⟨v3, fv3, sv3, ev3, lv3, h⟩ := h
    refine vv_getM (fl_X1_104 hH) ev3 lv3 dX1_hold_76 ?_
    refine vv_iconst (v := (nI 1)) dX1_hold_79 (by decide) ?_
    refine vv_isub dX1_hold_80 ?_
    refine vv_istore (lv' := [(0, .ref x0), (2, .int x2), (4, .ref x4), (5, .int x5), (6, .int x6), (7, .int x7), (8, .int (-1)), (9, .int (v3 - (nI 1)))]) dX1_hold_81 (by decide) [1, 2, 3, 4, 5, 6, 7, 0] rfl ?_
    exact v_KX1_hold_83 hG hH hk63 NN h
theorem v_KX1_hold_63 {l : Launch} {G : vv_G} {d : Nat} {ad : Nat → Nat} (hG : vv_gok G) (hH : vv_hy l G ad) : ∀ (n : Nat) {x0 : Nat} {x2 : Int32} {x4 : Nat} {x5 : Int32} {x6 : Int32} {x7 : Int32} {σ : vv_S} {r : hX (Int32 × vv_S)}, KX1_hold_63 n x0 x2 x4 x5 x6 x7 σ = some r → vv_V l G MX1_hold (d + 10) 63 [(0, .ref x0), (2, .int x2), (4, .ref x4), (5, .int x5), (6, .int x6), (7, .int x7)] [] σ (xI r) := by
  intro n
  induction n with
  | zero => intro _ _ _ _ _ _ _ _ h; cases h
  | succ n ih => intro _ _ _ _ _ _ _ _ h; exact vb_KX1_hold_63 hG hH ih h
def KX1_hold (x0 : Nat) (x1 : Int32) (x2 : Int32) (σ : vv_S) : Option (hX (Int32 × vv_S)) := (isO σ x0 0).bind fun _ => (KX1_aTown x0 x1 σ).bind fun r1 => xb r1 fun r3 => (gR r3 x0 0 2).bind fun v4 => (isO r3 v4 2).bind fun _ => (KX3_lying v4 x1 r3).bind fun r5 => (KJ14_bitCount r5).bind fun r7 => (KX1_in x2 (-1) (r7 - (nI 1))).bind fun r8 => (KX1_found r8 r3).bind fun r9 => xb r9 fun r10 => (isO r10 x0 0).bind fun _ => (KX1_harms x0 r5 r10).bind fun r11 => (gR r11.2 x0 0 1).bind fun v13 => (gI r11.2 v13 1 3).bind fun v14 => if x2 = (-1) then ((aQ r11.2 r11.1 r5).bind fun v16 => (aI r11.2 .int v16 v14).bind fun v17 => some (.inl (v17, r11.2))) else (KX1_hold_63 NN x0 x2 r11.1 v14 r5 (nI 0) r11.2)
theorem v_KX1_hold_0 {l : Launch} {G : vv_G} {d : Nat} {ad : Nat → Nat} (hG : vv_gok G) (hH : vv_hy l G ad) {x0 : Nat} {x1 : Int32} {x2 : Int32} {σ : vv_S} {r : hX (Int32 × vv_S)} (h : KX1_hold x0 x1 x2 σ = some r) : vv_V l G MX1_hold (d + 10) 0 [(0, .ref x0), (1, .int x1), (2, .int x2)] [] σ (xI r) := by
  unfold KX1_hold at h
  refine vv_aload_n dX1_hold_0 rfl 0 rfl ?_
  refine vv_iload_n dX1_hold_1 rfl 1 rfl ?_
  replace h := isO_o h; obtain ⟨fz2, sz2, ez2, h⟩ := h
  replace h := bd_o h; obtain ⟨r1, er1, h⟩ := h
  rcases r1 with r3 | r3x
  · refine vv_callV ok_X1_aTown q1273 (m_KX1_aTown hG hH er1 d) rfl (by omega) ⟨_, _, _, _, _, ez2, by rw [hG.1]; rfl⟩ rfl rfl (Nat.le_of_ble_eq_true rfl) dX1_hold_2 ?_
    replace h := xb_l h
    refine vv_aload_n dX1_hold_5 rfl 0 rfl ?_
    replace h := gR_o h; obtain ⟨v4, fv4, sv4, ev4, lv4, h⟩ := h
    refine vv_get (fl_X1_31 hG) ev4 lv4 dX1_hold_6 ?_
    refine vv_iload_n dX1_hold_9 rfl 1 rfl ?_
    replace h := isO_o h; obtain ⟨fz6, sz6, ez6, h⟩ := h
    replace h := bd_o h; obtain ⟨r5, er5, h⟩ := h
    refine vv_callV ok_X3_lying q1247 (m_KX3_lying hG hH er5 d) rfl (by omega) ⟨_, _, _, _, _, ez6, by rw [hG.1]; rfl⟩ rfl rfl (Nat.le_of_ble_eq_true rfl) dX1_hold_10 ?_
    refine vv_istore_n (lv' := [(0, .ref x0), (1, .int x1), (2, .int x2), (3, .int r5)]) dX1_hold_13 rfl (by decide) [1, 2, 3, 0] rfl ?_
    refine vv_iload_n dX1_hold_14 rfl 2 rfl ?_
    refine vv_iconst (v := (-1)) dX1_hold_15 (by decide) ?_
    refine vv_iload_n dX1_hold_16 rfl 3 rfl ?_
    replace h := bd_o h; obtain ⟨r7, er7, h⟩ := h
    refine vv_callS ok_J14_bitCount q1386 (m_KJ14_bitCount hG hH er7 d) rfl (by omega) rfl rfl (Nat.le_of_ble_eq_true rfl) dX1_hold_17 ?_
    refine vv_iconst (v := (nI 1)) dX1_hold_20 (by decide) ?_
    refine vv_isub dX1_hold_21 ?_
    replace h := bd_o h; obtain ⟨r8, er8, h⟩ := h
    refine vv_callS ok_X1_in q335 (m_KX1_in hG hH er8 d) rfl (by omega) rfl rfl (Nat.le_of_ble_eq_true rfl) dX1_hold_22 ?_
    replace h := bd_o h; obtain ⟨r9, er9, h⟩ := h
    rcases r9 with r10 | r10x
    · refine vv_callS ok_X1_found q1248 (m_KX1_found hG hH er9 d) rfl (by omega) rfl rfl (Nat.le_of_ble_eq_true rfl) dX1_hold_25 ?_
      replace h := xb_l h
      refine vv_aload_n dX1_hold_28 rfl 0 rfl ?_
      refine vv_iload_n dX1_hold_29 rfl 3 rfl ?_
      replace h := isO_o h; obtain ⟨fz12, sz12, ez12, h⟩ := h
      replace h := bd_o h; obtain ⟨r11, er11, h⟩ := h
      refine vv_callV ok_X1_harms q1394 (m_KX1_harms hG hH er11 d) rfl (by omega) ⟨_, _, _, _, _, ez12, by rw [hG.1]; rfl⟩ rfl rfl (Nat.le_of_ble_eq_true rfl) dX1_hold_30 ?_
      refine vv_astore (lv' := [(0, .ref x0), (1, .int x1), (2, .int x2), (3, .int r5), (4, .ref r11.1)]) dX1_hold_33 (by decide) [1, 2, 3, 4, 0] rfl ?_
      refine vv_aload_n dX1_hold_35 rfl 0 rfl ?_
      replace h := gR_o h; obtain ⟨v13, fv13, sv13, ev13, lv13, h⟩ := h
      refine vv_get (fl_X1_22 hG) ev13 lv13 dX1_hold_36 ?_
      replace h := gI_o h; obtain ⟨v14, fv14, sv14, ev14, lv14, h⟩ := h
      refine vv_getM (fl_X1_104 hH) ev14 lv14 dX1_hold_39 ?_
      refine vv_istore (lv' := [(0, .ref x0), (1, .int x1), (2, .int x2), (3, .int r5), (4, .ref r11.1), (5, .int v14)]) dX1_hold_42 (by decide) [1, 2, 3, 4, 5, 0] rfl ?_
      refine vv_iload_n dX1_hold_44 rfl 2 rfl ?_
      refine vv_iconst (v := (-1)) dX1_hold_45 (by decide) ?_
      refine vv_icmp_ne (tgt := 57) dX1_hold_46 (by decide) (fun c15 => ?_) (fun c15 => ?_)
      · rw [if_neg c15] at h
        refine vv_iload_n dX1_hold_57 rfl 3 rfl ?_
        refine vv_istore (lv' := [(0, .ref x0), (1, .int x1), (2, .int x2), (3, .int r5), (4, .ref r11.1), (5, .int v14), (6, .int r5)]) dX1_hold_58 (by decide) [1, 2, 3, 4, 5, 6, 0] rfl ?_
        refine vv_iconst (v := (nI 0)) dX1_hold_60 (by decide) ?_
        refine vv_istore (lv' := [(0, .ref x0), (1, .int x1), (2, .int x2), (3, .int r5), (4, .ref r11.1), (5, .int v14), (6, .int r5), (7, .int (nI 0))]) dX1_hold_61 (by decide) [1, 2, 3, 4, 5, 6, 7, 0] rfl ?_
        refine vv_sub (lv' := [(0, .ref x0), (2, .int x2), (4, .ref r11.1), (5, .int v14), (6, .int r5), (7, .int (nI 0))]) [0, 2, 4, 5, 6, 7] rfl ?_
        exact v_KX1_hold_63 hG hH NN h
      · rw [if_pos c15] at h
        refine vv_aload dX1_hold_49 4 rfl ?_
        refine vv_iload_n dX1_hold_51 rfl 3 rfl ?_
        replace h := aQ_o h; obtain ⟨v16, fv16, tv16, nv16, qv16, rv16, ev16, iv16, wv16, h⟩ := h
        refine vv_aald rv16 ev16 iv16 dX1_hold_52 ?_
        rw [wv16]
        refine vv_st (st' := [.ref v16]) rfl ?_
        refine vv_iload dX1_hold_53 5 rfl ?_
        replace h := aI_o h; obtain ⟨v17, fv17, nv17, qv17, ev17, iv17, wv17, h⟩ := h
        refine vv_iald ev17 iv17 dX1_hold_55 ?_
        rw [wv17]
        cases h
        exact vv_iret rfl dX1_hold_56
    · cases h
      exact vv_callSX ok_X1_found q1248 (m_KX1_found hG hH er9 d) rfl (by omega) rfl rfl (Nat.le_of_ble_eq_true rfl) dX1_hold_25 (vv_Tout (by intro x hx; cases hx))
  · cases h
    exact vv_callVX ok_X1_aTown q1273 (m_KX1_aTown hG hH er1 d) rfl (by omega) ⟨_, _, _, _, _, ez2, by rw [hG.1]; rfl⟩ rfl rfl (Nat.le_of_ble_eq_true rfl) dX1_hold_2 (vv_Tout (by intro x hx; cases hx))
theorem m_KX1_hold {l : Launch} {G : vv_G} {ad : Nat → Nat} (hG : vv_gok G) (hH : vv_hy l G ad) {x0 : Nat} {x1 : Int32} {x2 : Int32} {σ : vv_S} {r : hX (Int32 × vv_S)} (h : KX1_hold x0 x1 x2 σ = some r) (d : Nat) : vv_Met l G MX1_hold (d + 10) [.ref x0, .int x1, .int x2] σ (xI r) := vv_head (by decide +kernel) rfl (Nat.le_of_ble_eq_true rfl) rfl (v_KX1_hold_0 hG hH h)
/-! ('X1', 'power') -/
def BKX1_power_4 (k4 : Int32 → Int32 → Int32 → Option Int32) (x0 : Int32) (x1 : Int32) (x2 : Int32) : Option Int32 := if x0 ≤ x2 then (some x1) else (k4 x0 (x1 * (nI 12)) (x2 + (nI 1)))
def KX1_power_4 : Nat → Int32 → Int32 → Int32 → Option Int32
  | 0, _, _, _ => none
  | n + 1, x0, x1, x2 => BKX1_power_4 (KX1_power_4 n) x0 x1 x2
theorem vb_KX1_power_4 {l : Launch} {G : vv_G} {d : Nat} {ad : Nat → Nat} {σ : vv_S} (hG : vv_gok G) (hH : vv_hy l G ad) {k4 : Int32 → Int32 → Int32 → Option Int32} (hk4 : ∀ {x0 : Int32} {x1 : Int32} {x2 : Int32} {r : Int32}, k4 x0 x1 x2 = some r → vv_V l G MX1_power (d + 0) 4 [(0, .int x0), (1, .int x1), (2, .int x2)] [] σ (.inl (some (.int r)), σ)) {x0 : Int32} {x1 : Int32} {x2 : Int32} {r : Int32} (h : BKX1_power_4 k4 x0 x1 x2 = some r) : vv_V l G MX1_power (d + 0) 4 [(0, .int x0), (1, .int x1), (2, .int x2)] [] σ (.inl (some (.int r)), σ) := by
  unfold BKX1_power_4 at h
  refine vv_iload_n dX1_power_4 rfl 2 rfl ?_
  refine vv_iload_n dX1_power_5 rfl 0 rfl ?_
  refine vv_icmp_ge (tgt := 20) dX1_power_6 (by decide) (fun c1 => ?_) (fun c1 => ?_)
  · rw [if_pos c1] at h
    refine vv_iload_n dX1_power_20 rfl 1 rfl ?_
    cases h
    exact vv_iret rfl dX1_power_21
  · rw [if_neg c1] at h
    refine vv_iload_n dX1_power_9 rfl 1 rfl ?_
    refine vv_bipush (v := (nI 12)) dX1_power_10 (by decide) ?_
    refine vv_imul dX1_power_12 ?_
    refine vv_istore_n (lv' := [(0, .int x0), (1, .int (x1 * (nI 12))), (2, .int x2)]) dX1_power_13 rfl (by decide) [1, 0, 2] rfl ?_
    refine vv_iinc (v := (x2 + (nI 1))) (lv' := [(0, .int x0), (1, .int (x1 * (nI 12))), (2, .int (x2 + (nI 1)))]) dX1_power_14 2 rfl rfl (by decide) [1, 2, 0] rfl ?_
    refine vv_goto (tgt := 4) dX1_power_17 (by decide) ?_
    exact hk4 h
theorem v_KX1_power_4 {l : Launch} {G : vv_G} {d : Nat} {ad : Nat → Nat} {σ : vv_S} (hG : vv_gok G) (hH : vv_hy l G ad) : ∀ (n : Nat) {x0 : Int32} {x1 : Int32} {x2 : Int32} {r : Int32}, KX1_power_4 n x0 x1 x2 = some r → vv_V l G MX1_power (d + 0) 4 [(0, .int x0), (1, .int x1), (2, .int x2)] [] σ (.inl (some (.int r)), σ) := by
  intro n
  induction n with
  | zero => intro _ _ _ _ h; cases h
  | succ n ih => intro _ _ _ _ h; exact vb_KX1_power_4 hG hH ih h
def KX1_power (x0 : Int32) : Option Int32 := KX1_power_4 NN x0 (nI 1) (nI 0)
theorem v_KX1_power_0 {l : Launch} {G : vv_G} {d : Nat} {ad : Nat → Nat} {σ : vv_S} (hG : vv_gok G) (hH : vv_hy l G ad) {x0 : Int32} {r : Int32} (h : KX1_power x0 = some r) : vv_V l G MX1_power (d + 0) 0 [(0, .int x0)] [] σ (.inl (some (.int r)), σ) := by
  unfold KX1_power at h
  refine vv_iconst (v := (nI 1)) dX1_power_0 (by decide) ?_
  refine vv_istore_n (lv' := [(0, .int x0), (1, .int (nI 1))]) dX1_power_1 rfl (by decide) [1, 0] rfl ?_
  refine vv_iconst (v := (nI 0)) dX1_power_2 (by decide) ?_
  refine vv_istore_n (lv' := [(0, .int x0), (1, .int (nI 1)), (2, .int (nI 0))]) dX1_power_3 rfl (by decide) [1, 2, 0] rfl ?_
  exact v_KX1_power_4 hG hH NN h
theorem m_KX1_power {l : Launch} {G : vv_G} {ad : Nat → Nat} {σ : vv_S} (hG : vv_gok G) (hH : vv_hy l G ad) {x0 : Int32} {r : Int32} (h : KX1_power x0 = some r) (d : Nat) : vv_Met l G MX1_power (d + 0) [.int x0] σ (.inl (some (.int r)), σ) := vv_head (by decide +kernel) rfl (Nat.le_of_ble_eq_true rfl) rfl (v_KX1_power_0 hG hH h)
/-! ('X1', 'reaches') -/
def KX1_reaches_18 (rc : Int32 → Int32 → Int32 → Int32 → Option Int32) : Option Int32 := some (nI 0)
theorem v_KX1_reaches_18 {l : Launch} {G : vv_G} {d : Nat} {ad : Nat → Nat} {rc : Int32 → Int32 → Int32 → Int32 → Option Int32} {σ : vv_S} (hG : vv_gok G) (hH : vv_hy l G ad) (hrc : ∀ {x0 x1 x2 x3 r : Int32} {σ : vv_S}, rc x0 x1 x2 x3 = some r → vv_Met l G MX1_reaches d [.int x0, .int x1, .int x2, .int x3] σ (.inl (some (.int r)), σ)) {r : Int32} (h : KX1_reaches_18 rc = some r) : vv_V l G MX1_reaches (d + 1) 18 [] [] σ (.inl (some (.int r)), σ) := by
  unfold KX1_reaches_18 at h
  refine vv_iconst (v := (nI 0)) dX1_reaches_18 (by decide) ?_
  cases h
  exact vv_iret rfl dX1_reaches_19
def KX1_reaches (rc : Int32 → Int32 → Int32 → Int32 → Option Int32) (x0 : Int32) (x1 : Int32) (x2 : Int32) (x3 : Int32) : Option Int32 := if x0 < x2 then (if x0 = 0 then (KX1_reaches_18 rc) else (if x3 = 0 then (KX1_reaches_18 rc) else ((rc (x0 + (nI 1)) x1 x2 (x3 - (nI 1))).bind fun r4 => (rc (x0 - (nI 1)) x1 x2 (x3 - (nI 1))).bind fun r5 => some ((x1 * r4) + (((nI 12) - x1) * r5))))) else ((KX1_power x3).bind fun r6 => some r6)
theorem v_KX1_reaches_0 {l : Launch} {G : vv_G} {d : Nat} {ad : Nat → Nat} {rc : Int32 → Int32 → Int32 → Int32 → Option Int32} {σ : vv_S} (hG : vv_gok G) (hH : vv_hy l G ad) (hrc : ∀ {x0 x1 x2 x3 r : Int32} {σ : vv_S}, rc x0 x1 x2 x3 = some r → vv_Met l G MX1_reaches d [.int x0, .int x1, .int x2, .int x3] σ (.inl (some (.int r)), σ)) {x0 : Int32} {x1 : Int32} {x2 : Int32} {x3 : Int32} {r : Int32} (h : KX1_reaches rc x0 x1 x2 x3 = some r) : vv_V l G MX1_reaches (d + 1) 0 [(0, .int x0), (1, .int x1), (2, .int x2), (3, .int x3)] [] σ (.inl (some (.int r)), σ) := by
  unfold KX1_reaches at h
  refine vv_iload_n dX1_reaches_0 rfl 0 rfl ?_
  refine vv_iload_n dX1_reaches_1 rfl 2 rfl ?_
  refine vv_icmp_lt (tgt := 10) dX1_reaches_2 (by decide) (fun c1 => ?_) (fun c1 => ?_)
  · rw [if_pos c1] at h
    refine vv_iload_n dX1_reaches_10 rfl 0 rfl ?_
    refine vv_if_eq (tgt := 18) dX1_reaches_11 (by decide) (fun c2 => ?_) (fun c2 => ?_)
    · rw [if_pos c2] at h
      refine vv_sub (lv' := []) [] rfl ?_
      exact v_KX1_reaches_18 hG hH hrc h
    · rw [if_neg c2] at h
      refine vv_iload_n dX1_reaches_14 rfl 3 rfl ?_
      refine vv_if_ne (tgt := 20) dX1_reaches_15 (by decide) (fun c3 => ?_) (fun c3 => ?_)
      · rw [if_neg c3] at h
        refine vv_iload_n dX1_reaches_20 rfl 1 rfl ?_
        refine vv_iload_n dX1_reaches_21 rfl 0 rfl ?_
        refine vv_iconst (v := (nI 1)) dX1_reaches_22 (by decide) ?_
        refine vv_iadd dX1_reaches_23 ?_
        refine vv_iload_n dX1_reaches_24 rfl 1 rfl ?_
        refine vv_iload_n dX1_reaches_25 rfl 2 rfl ?_
        refine vv_iload_n dX1_reaches_26 rfl 3 rfl ?_
        refine vv_iconst (v := (nI 1)) dX1_reaches_27 (by decide) ?_
        refine vv_isub dX1_reaches_28 ?_
        replace h := bd_o h; obtain ⟨r4, er4, h⟩ := h
        refine vv_callS ok_X1_reaches q1411 (hrc er4) rfl (by omega) rfl rfl (Nat.le_of_ble_eq_true rfl) dX1_reaches_29 ?_
        refine vv_imul dX1_reaches_32 ?_
        refine vv_bipush (v := (nI 12)) dX1_reaches_33 (by decide) ?_
        refine vv_iload_n dX1_reaches_35 rfl 1 rfl ?_
        refine vv_isub dX1_reaches_36 ?_
        refine vv_iload_n dX1_reaches_37 rfl 0 rfl ?_
        refine vv_iconst (v := (nI 1)) dX1_reaches_38 (by decide) ?_
        refine vv_isub dX1_reaches_39 ?_
        refine vv_iload_n dX1_reaches_40 rfl 1 rfl ?_
        refine vv_iload_n dX1_reaches_41 rfl 2 rfl ?_
        refine vv_iload_n dX1_reaches_42 rfl 3 rfl ?_
        refine vv_iconst (v := (nI 1)) dX1_reaches_43 (by decide) ?_
        refine vv_isub dX1_reaches_44 ?_
        replace h := bd_o h; obtain ⟨r5, er5, h⟩ := h
        refine vv_callS ok_X1_reaches q1411 (hrc er5) rfl (by omega) rfl rfl (Nat.le_of_ble_eq_true rfl) dX1_reaches_45 ?_
        refine vv_imul dX1_reaches_48 ?_
        refine vv_iadd dX1_reaches_49 ?_
        cases h
        exact vv_iret rfl dX1_reaches_50
      · rw [if_pos c3] at h
        refine vv_sub (lv' := []) [] rfl ?_
        exact v_KX1_reaches_18 hG hH hrc h
  · rw [if_neg c1] at h
    refine vv_iload_n dX1_reaches_5 rfl 3 rfl ?_
    replace h := bd_o h; obtain ⟨r6, er6, h⟩ := h
    refine vv_callS ok_X1_power q1414 (m_KX1_power hG hH er6 d) rfl (by omega) rfl rfl (Nat.le_of_ble_eq_true rfl) dX1_reaches_6 ?_
    cases h
    exact vv_iret rfl dX1_reaches_9
theorem m_KX1_reaches {l : Launch} {G : vv_G} {d : Nat} {ad : Nat → Nat} {rc : Int32 → Int32 → Int32 → Int32 → Option Int32} {σ : vv_S} (hG : vv_gok G) (hH : vv_hy l G ad) (hrc : ∀ {x0 x1 x2 x3 r : Int32} {σ : vv_S}, rc x0 x1 x2 x3 = some r → vv_Met l G MX1_reaches d [.int x0, .int x1, .int x2, .int x3] σ (.inl (some (.int r)), σ)) {x0 : Int32} {x1 : Int32} {x2 : Int32} {x3 : Int32} {r : Int32} (h : KX1_reaches rc x0 x1 x2 x3 = some r) (d9 : Nat) (e9 : d9 = d := by rfl) : vv_Met l G MX1_reaches (d9 + 1) [.int x0, .int x1, .int x2, .int x3] σ (.inl (some (.int r)), σ) := by
  subst e9
  exact vv_head (by decide +kernel) rfl (Nat.le_of_ble_eq_true rfl) rfl (v_KX1_reaches_0 hG hH hrc h)

/-! reaches, tied -/
def KX1_reachesN : Nat → Int32 → Int32 → Int32 → Int32 → Option Int32
  | 0 => fun _ _ _ _ => none
  | n + 1 => fun a b c e => KX1_reaches (KX1_reachesN n) a b c e
theorem m_KX1_reachesN {l : Launch} {G : vv_G} {ad : Nat → Nat} (hG : vv_gok G) (hH : vv_hy l G ad) : ∀ (n d : Nat) {x0 x1 x2 x3 r : Int32} {σ : vv_S}, KX1_reachesN n x0 x1 x2 x3 = some r → vv_Met l G MX1_reaches (d + n) [.int x0, .int x1, .int x2, .int x3] σ (.inl (some (.int r)), σ)
  | 0, d, _, _, _, _, _, _, h => by cases h
  | n + 1, d, _, _, _, _, _, _, h => m_KX1_reaches hG hH (fun h9 => m_KX1_reachesN hG hH n d h9) h (d + n)
def KX1_reachesT (x0 x1 x2 x3 : Int32) : Option Int32 := KX1_reachesN 20 x0 x1 x2 x3
theorem m_KX1_reachesT {l : Launch} {G : vv_G} {ad : Nat → Nat} (hG : vv_gok G) (hH : vv_hy l G ad) {x0 x1 x2 x3 r : Int32} {σ : vv_S} (h : KX1_reachesT x0 x1 x2 x3 = some r) (d : Nat) : vv_Met l G MX1_reaches (d + 20) [.int x0, .int x1, .int x2, .int x3] σ (.inl (some (.int r)), σ) := m_KX1_reachesN hG hH 20 d h
/-! ('X1', 'thrower') -/
def KX1_thrower_46 (s0 : Int32) (x1 : Int32) (x2 : Int32) (x3 : Int32) (x4 : Int32) (σ : vv_S) : Option (hX (Int32 × vv_S)) := (KX1_right s0 σ).bind fun r1 => xb r1 fun r2 => (KX1_reachesT x1 x2 x3 x4).bind fun r3 => some (.inl (r3, r2))
theorem v_KX1_thrower_46 {l : Launch} {G : vv_G} {d : Nat} {ad : Nat → Nat} (hG : vv_gok G) (hH : vv_hy l G ad) {s0 : Int32} {x1 : Int32} {x2 : Int32} {x3 : Int32} {x4 : Int32} {σ : vv_S} {r : hX (Int32 × vv_S)} (h : KX1_thrower_46 s0 x1 x2 x3 x4 σ = some r) : vv_V l G MX1_thrower (d + 21) 46 [(1, .int x1), (2, .int x2), (3, .int x3), (4, .int x4)] [.int s0] σ (xI r) := by
  unfold KX1_thrower_46 at h
  replace h := bd_o h; obtain ⟨r1, er1, h⟩ := h
  rcases r1 with r2 | r2x
  · refine vv_callS ok_X1_right q700 (m_KX1_right hG hH er1 d) rfl (by omega) rfl rfl (Nat.le_of_ble_eq_true rfl) dX1_thrower_46 ?_
    replace h := xb_l h
    refine vv_iload_n dX1_thrower_49 rfl 0 rfl ?_
    refine vv_iload_n dX1_thrower_50 rfl 1 rfl ?_
    refine vv_iload_n dX1_thrower_51 rfl 2 rfl ?_
    refine vv_iload dX1_thrower_52 3 rfl ?_
    replace h := bd_o h; obtain ⟨r3, er3, h⟩ := h
    refine vv_callS ok_X1_reaches q1411 (m_KX1_reachesT hG hH er3 d) rfl (by omega) rfl rfl (Nat.le_of_ble_eq_true rfl) dX1_thrower_54 ?_
    cases h
    exact vv_iret rfl dX1_thrower_57
  · cases h
    exact vv_callSX ok_X1_right q700 (m_KX1_right hG hH er1 d) rfl (by omega) rfl rfl (Nat.le_of_ble_eq_true rfl) dX1_thrower_46 (vv_Tout (by intro x hx; cases hx))
def KX1_thrower_45 (x1 : Int32) (x2 : Int32) (x3 : Int32) (x4 : Int32) (σ : vv_S) : Option (hX (Int32 × vv_S)) := KX1_thrower_46 (nI 0) x1 x2 x3 x4 σ
theorem v_KX1_thrower_45 {l : Launch} {G : vv_G} {d : Nat} {ad : Nat → Nat} (hG : vv_gok G) (hH : vv_hy l G ad) {x1 : Int32} {x2 : Int32} {x3 : Int32} {x4 : Int32} {σ : vv_S} {r : hX (Int32 × vv_S)} (h : KX1_thrower_45 x1 x2 x3 x4 σ = some r) : vv_V l G MX1_thrower (d + 21) 45 [(1, .int x1), (2, .int x2), (3, .int x3), (4, .int x4)] [] σ (xI r) := by
  unfold KX1_thrower_45 at h
  refine vv_iconst (v := (nI 0)) dX1_thrower_45 (by decide) ?_
  exact v_KX1_thrower_46 hG hH h
def KX1_thrower (x0 : Nat) (x1 : Int32) (x2 : Int32) (x3 : Int32) (x4 : Int32) (σ : vv_S) : Option (hX (Int32 × vv_S)) := (KX1_in x1 (nI 0) (nI 20)).bind fun r1 => if r1 = 0 then (KX1_thrower_45 x1 x2 x3 x4 σ) else ((KX1_in x2 (nI 0) (nI 12)).bind fun r3 => if r3 = 0 then (KX1_thrower_45 x1 x2 x3 x4 σ) else ((KX1_in x3 (nI 1) (nI 20)).bind fun r5 => if r5 = 0 then (KX1_thrower_45 x1 x2 x3 x4 σ) else ((KX1_in x4 (nI 0) (nI 7)).bind fun r7 => if r7 = 0 then (KX1_thrower_45 x1 x2 x3 x4 σ) else (KX1_thrower_46 (nI 1) x1 x2 x3 x4 σ))))
theorem v_KX1_thrower_0 {l : Launch} {G : vv_G} {d : Nat} {ad : Nat → Nat} (hG : vv_gok G) (hH : vv_hy l G ad) {x0 : Nat} {x1 : Int32} {x2 : Int32} {x3 : Int32} {x4 : Int32} {σ : vv_S} {r : hX (Int32 × vv_S)} (h : KX1_thrower x0 x1 x2 x3 x4 σ = some r) : vv_V l G MX1_thrower (d + 21) 0 [(0, .ref x0), (1, .int x1), (2, .int x2), (3, .int x3), (4, .int x4)] [] σ (xI r) := by
  unfold KX1_thrower at h
  refine vv_iload_n dX1_thrower_0 rfl 1 rfl ?_
  refine vv_iconst (v := (nI 0)) dX1_thrower_1 (by decide) ?_
  refine vv_bipush (v := (nI 20)) dX1_thrower_2 (by decide) ?_
  replace h := bd_o h; obtain ⟨r1, er1, h⟩ := h
  refine vv_callS ok_X1_in q335 (m_KX1_in hG hH er1 d) rfl (by omega) rfl rfl (Nat.le_of_ble_eq_true rfl) dX1_thrower_4 ?_
  refine vv_if_eq (tgt := 45) dX1_thrower_7 (by decide) (fun c2 => ?_) (fun c2 => ?_)
  · rw [if_pos c2] at h
    refine vv_sub (lv' := [(1, .int x1), (2, .int x2), (3, .int x3), (4, .int x4)]) [1, 2, 3, 4] rfl ?_
    exact v_KX1_thrower_45 hG hH h
  · rw [if_neg c2] at h
    refine vv_iload_n dX1_thrower_10 rfl 2 rfl ?_
    refine vv_iconst (v := (nI 0)) dX1_thrower_11 (by decide) ?_
    refine vv_bipush (v := (nI 12)) dX1_thrower_12 (by decide) ?_
    replace h := bd_o h; obtain ⟨r3, er3, h⟩ := h
    refine vv_callS ok_X1_in q335 (m_KX1_in hG hH er3 d) rfl (by omega) rfl rfl (Nat.le_of_ble_eq_true rfl) dX1_thrower_14 ?_
    refine vv_if_eq (tgt := 45) dX1_thrower_17 (by decide) (fun c4 => ?_) (fun c4 => ?_)
    · rw [if_pos c4] at h
      refine vv_sub (lv' := [(1, .int x1), (2, .int x2), (3, .int x3), (4, .int x4)]) [1, 2, 3, 4] rfl ?_
      exact v_KX1_thrower_45 hG hH h
    · rw [if_neg c4] at h
      refine vv_iload_n dX1_thrower_20 rfl 3 rfl ?_
      refine vv_iconst (v := (nI 1)) dX1_thrower_21 (by decide) ?_
      refine vv_bipush (v := (nI 20)) dX1_thrower_22 (by decide) ?_
      replace h := bd_o h; obtain ⟨r5, er5, h⟩ := h
      refine vv_callS ok_X1_in q335 (m_KX1_in hG hH er5 d) rfl (by omega) rfl rfl (Nat.le_of_ble_eq_true rfl) dX1_thrower_24 ?_
      refine vv_if_eq (tgt := 45) dX1_thrower_27 (by decide) (fun c6 => ?_) (fun c6 => ?_)
      · rw [if_pos c6] at h
        refine vv_sub (lv' := [(1, .int x1), (2, .int x2), (3, .int x3), (4, .int x4)]) [1, 2, 3, 4] rfl ?_
        exact v_KX1_thrower_45 hG hH h
      · rw [if_neg c6] at h
        refine vv_iload dX1_thrower_30 4 rfl ?_
        refine vv_iconst (v := (nI 0)) dX1_thrower_32 (by decide) ?_
        refine vv_bipush (v := (nI 7)) dX1_thrower_33 (by decide) ?_
        replace h := bd_o h; obtain ⟨r7, er7, h⟩ := h
        refine vv_callS ok_X1_in q335 (m_KX1_in hG hH er7 d) rfl (by omega) rfl rfl (Nat.le_of_ble_eq_true rfl) dX1_thrower_35 ?_
        refine vv_if_eq (tgt := 45) dX1_thrower_38 (by decide) (fun c8 => ?_) (fun c8 => ?_)
        · rw [if_pos c8] at h
          refine vv_sub (lv' := [(1, .int x1), (2, .int x2), (3, .int x3), (4, .int x4)]) [1, 2, 3, 4] rfl ?_
          exact v_KX1_thrower_45 hG hH h
        · rw [if_neg c8] at h
          refine vv_iconst (v := (nI 1)) dX1_thrower_41 (by decide) ?_
          refine vv_goto (tgt := 46) dX1_thrower_42 (by decide) ?_
          refine vv_sub (lv' := [(1, .int x1), (2, .int x2), (3, .int x3), (4, .int x4)]) [1, 2, 3, 4] rfl ?_
          exact v_KX1_thrower_46 hG hH h
theorem m_KX1_thrower {l : Launch} {G : vv_G} {ad : Nat → Nat} (hG : vv_gok G) (hH : vv_hy l G ad) {x0 : Nat} {x1 : Int32} {x2 : Int32} {x3 : Int32} {x4 : Int32} {σ : vv_S} {r : hX (Int32 × vv_S)} (h : KX1_thrower x0 x1 x2 x3 x4 σ = some r) (d : Nat) : vv_Met l G MX1_thrower (d + 21) [.ref x0, .int x1, .int x2, .int x3, .int x4] σ (xI r) := vv_head (by decide +kernel) rfl (Nat.le_of_ble_eq_true rfl) rfl (v_KX1_thrower_0 hG hH h)
/-! ('X1', 'going') -/
def KX1_going (rc : Int32 → Int32 → Int32 → Option Int32) (x0 : Int32) (x1 : Int32) (x2 : Int32) : Option Int32 := (rc (x0 + (nI 1)) x1 (x2 - (nI 1))).bind fun r1 => (rc (x0 - (nI 1)) x1 (x2 - (nI 1))).bind fun r2 => some ((x1 * r1) + (((nI 12) - x1) * r2))
theorem v_KX1_going_0 {l : Launch} {G : vv_G} {d : Nat} {ad : Nat → Nat} {rc : Int32 → Int32 → Int32 → Option Int32} {σ : vv_S} (hG : vv_gok G) (hH : vv_hy l G ad) (hrc : ∀ {x0 x1 x2 r : Int32} {σ : vv_S}, rc x0 x1 x2 = some r → vv_Met l G MX1_average d [.int x0, .int x1, .int x2] σ (.inl (some (.int r)), σ)) {x0 : Int32} {x1 : Int32} {x2 : Int32} {r : Int32} (h : KX1_going rc x0 x1 x2 = some r) : vv_V l G MX1_going (d + 1) 0 [(0, .int x0), (1, .int x1), (2, .int x2)] [] σ (.inl (some (.int r)), σ) := by
  unfold KX1_going at h
  refine vv_iload_n dX1_going_0 rfl 1 rfl ?_
  refine vv_iload_n dX1_going_1 rfl 0 rfl ?_
  refine vv_iconst (v := (nI 1)) dX1_going_2 (by decide) ?_
  refine vv_iadd dX1_going_3 ?_
  refine vv_iload_n dX1_going_4 rfl 1 rfl ?_
  refine vv_iload_n dX1_going_5 rfl 2 rfl ?_
  refine vv_iconst (v := (nI 1)) dX1_going_6 (by decide) ?_
  refine vv_isub dX1_going_7 ?_
  replace h := bd_o h; obtain ⟨r1, er1, h⟩ := h
  refine vv_callS ok_X1_average q1424 (hrc er1) rfl (by omega) rfl rfl (Nat.le_of_ble_eq_true rfl) dX1_going_8 ?_
  refine vv_imul dX1_going_11 ?_
  refine vv_bipush (v := (nI 12)) dX1_going_12 (by decide) ?_
  refine vv_iload_n dX1_going_14 rfl 1 rfl ?_
  refine vv_isub dX1_going_15 ?_
  refine vv_iload_n dX1_going_16 rfl 0 rfl ?_
  refine vv_iconst (v := (nI 1)) dX1_going_17 (by decide) ?_
  refine vv_isub dX1_going_18 ?_
  refine vv_iload_n dX1_going_19 rfl 1 rfl ?_
  refine vv_iload_n dX1_going_20 rfl 2 rfl ?_
  refine vv_iconst (v := (nI 1)) dX1_going_21 (by decide) ?_
  refine vv_isub dX1_going_22 ?_
  replace h := bd_o h; obtain ⟨r2, er2, h⟩ := h
  refine vv_callS ok_X1_average q1424 (hrc er2) rfl (by omega) rfl rfl (Nat.le_of_ble_eq_true rfl) dX1_going_23 ?_
  refine vv_imul dX1_going_26 ?_
  refine vv_iadd dX1_going_27 ?_
  cases h
  exact vv_iret rfl dX1_going_28
theorem m_KX1_going {l : Launch} {G : vv_G} {d : Nat} {ad : Nat → Nat} {rc : Int32 → Int32 → Int32 → Option Int32} {σ : vv_S} (hG : vv_gok G) (hH : vv_hy l G ad) (hrc : ∀ {x0 x1 x2 r : Int32} {σ : vv_S}, rc x0 x1 x2 = some r → vv_Met l G MX1_average d [.int x0, .int x1, .int x2] σ (.inl (some (.int r)), σ)) {x0 : Int32} {x1 : Int32} {x2 : Int32} {r : Int32} (h : KX1_going rc x0 x1 x2 = some r) (d9 : Nat) (e9 : d9 = d := by rfl) : vv_Met l G MX1_going (d9 + 1) [.int x0, .int x1, .int x2] σ (.inl (some (.int r)), σ) := by
  subst e9
  exact vv_head (by decide +kernel) rfl (Nat.le_of_ble_eq_true rfl) rfl (v_KX1_going_0 hG hH hrc h)
/-! ('X1', 'average') -/
def KX1_average_8 (rc : Int32 → Int32 → Int32 → Option Int32) (x0 : Int32) (x2 : Int32) : Option Int32 := (KX1_power x2).bind fun r1 => some (x0 * r1)
theorem v_KX1_average_8 {l : Launch} {G : vv_G} {d : Nat} {ad : Nat → Nat} {rc : Int32 → Int32 → Int32 → Option Int32} {σ : vv_S} (hG : vv_gok G) (hH : vv_hy l G ad) (hrc : ∀ {x0 x1 x2 r : Int32} {σ : vv_S}, rc x0 x1 x2 = some r → vv_Met l G MX1_average d [.int x0, .int x1, .int x2] σ (.inl (some (.int r)), σ)) {x0 : Int32} {x2 : Int32} {r : Int32} (h : KX1_average_8 rc x0 x2 = some r) : vv_V l G MX1_average (d + 2) 8 [(0, .int x0), (2, .int x2)] [] σ (.inl (some (.int r)), σ) := by
  unfold KX1_average_8 at h
  refine vv_iload_n dX1_average_8 rfl 0 rfl ?_
  refine vv_iload_n dX1_average_9 rfl 1 rfl ?_
  replace h := bd_o h; obtain ⟨r1, er1, h⟩ := h
  refine vv_callS ok_X1_power q1414 (m_KX1_power hG hH er1 d) rfl (by omega) rfl rfl (Nat.le_of_ble_eq_true rfl) dX1_average_10 ?_
  refine vv_imul dX1_average_13 ?_
  cases h
  exact vv_iret rfl dX1_average_14
def KX1_average (rc : Int32 → Int32 → Int32 → Option Int32) (x0 : Int32) (x1 : Int32) (x2 : Int32) : Option Int32 := if x0 = 0 then (KX1_average_8 rc x0 x2) else (if x2 = 0 then (KX1_average_8 rc x0 x2) else ((KX1_power x2).bind fun r3 => (KX1_going rc x0 x1 x2).bind fun r4 => some (mxI (x0 * r3) r4)))
theorem v_KX1_average_0 {l : Launch} {G : vv_G} {d : Nat} {ad : Nat → Nat} {rc : Int32 → Int32 → Int32 → Option Int32} {σ : vv_S} (hG : vv_gok G) (hH : vv_hy l G ad) (hrc : ∀ {x0 x1 x2 r : Int32} {σ : vv_S}, rc x0 x1 x2 = some r → vv_Met l G MX1_average d [.int x0, .int x1, .int x2] σ (.inl (some (.int r)), σ)) {x0 : Int32} {x1 : Int32} {x2 : Int32} {r : Int32} (h : KX1_average rc x0 x1 x2 = some r) : vv_V l G MX1_average (d + 2) 0 [(0, .int x0), (1, .int x1), (2, .int x2)] [] σ (.inl (some (.int r)), σ) := by
  unfold KX1_average at h
  refine vv_iload_n dX1_average_0 rfl 0 rfl ?_
  refine vv_if_eq (tgt := 8) dX1_average_1 (by decide) (fun c1 => ?_) (fun c1 => ?_)
  · rw [if_pos c1] at h
    refine vv_sub (lv' := [(0, .int x0), (2, .int x2)]) [0, 2] rfl ?_
    exact v_KX1_average_8 hG hH hrc h
  · rw [if_neg c1] at h
    refine vv_iload_n dX1_average_4 rfl 2 rfl ?_
    refine vv_if_ne (tgt := 15) dX1_average_5 (by decide) (fun c2 => ?_) (fun c2 => ?_)
    · rw [if_neg c2] at h
      refine vv_iload_n dX1_average_15 rfl 0 rfl ?_
      refine vv_iload_n dX1_average_16 rfl 2 rfl ?_
      replace h := bd_o h; obtain ⟨r3, er3, h⟩ := h
      refine vv_callS ok_X1_power q1414 (m_KX1_power hG hH er3 d) rfl (by omega) rfl rfl (Nat.le_of_ble_eq_true rfl) dX1_average_17 ?_
      refine vv_imul dX1_average_20 ?_
      refine vv_iload_n dX1_average_21 rfl 0 rfl ?_
      refine vv_iload_n dX1_average_22 rfl 1 rfl ?_
      refine vv_iload_n dX1_average_23 rfl 2 rfl ?_
      replace h := bd_o h; obtain ⟨r4, er4, h⟩ := h
      refine vv_callS ok_X1_going q1427 (m_KX1_going hG hH hrc er4 d) rfl (by omega) rfl rfl (Nat.le_of_ble_eq_true rfl) dX1_average_24 ?_
      refine vv_mmax q653 (by omega) (Nat.le_of_ble_eq_true rfl) dX1_average_27 ?_
      cases h
      exact vv_iret rfl dX1_average_30
    · rw [if_pos c2] at h
      refine vv_sub (lv' := [(0, .int x0), (2, .int x2)]) [0, 2] rfl ?_
      exact v_KX1_average_8 hG hH hrc h
theorem m_KX1_average {l : Launch} {G : vv_G} {d : Nat} {ad : Nat → Nat} {rc : Int32 → Int32 → Int32 → Option Int32} {σ : vv_S} (hG : vv_gok G) (hH : vv_hy l G ad) (hrc : ∀ {x0 x1 x2 r : Int32} {σ : vv_S}, rc x0 x1 x2 = some r → vv_Met l G MX1_average d [.int x0, .int x1, .int x2] σ (.inl (some (.int r)), σ)) {x0 : Int32} {x1 : Int32} {x2 : Int32} {r : Int32} (h : KX1_average rc x0 x1 x2 = some r) (d9 : Nat) (e9 : d9 = d := by rfl) : vv_Met l G MX1_average (d9 + 2) [.int x0, .int x1, .int x2] σ (.inl (some (.int r)), σ) := by
  subst e9
  exact vv_head (by decide +kernel) rfl (Nat.le_of_ble_eq_true rfl) rfl (v_KX1_average_0 hG hH hrc h)

/-! average and going, tied -/
def KX1_averageN : Nat → Int32 → Int32 → Int32 → Option Int32
  | 0 => fun _ _ _ => none
  | n + 1 => fun a b c => KX1_average (KX1_averageN n) a b c
theorem m_KX1_averageN {l : Launch} {G : vv_G} {ad : Nat → Nat} (hG : vv_gok G) (hH : vv_hy l G ad) : ∀ (n d : Nat) {x0 x1 x2 r : Int32} {σ : vv_S}, KX1_averageN n x0 x1 x2 = some r → vv_Met l G MX1_average (d + 2 * n) [.int x0, .int x1, .int x2] σ (.inl (some (.int r)), σ)
  | 0, d, _, _, _, _, _, h => by cases h
  | n + 1, d, _, _, _, _, _, h => m_KX1_average hG hH (fun h9 => m_KX1_averageN hG hH n d h9) h (d + 2 * n)
def KX1_averageT (x0 x1 x2 : Int32) : Option Int32 := KX1_averageN 15 x0 x1 x2
theorem m_KX1_averageT {l : Launch} {G : vv_G} {ad : Nat → Nat} (hG : vv_gok G) (hH : vv_hy l G ad) {x0 x1 x2 r : Int32} {σ : vv_S} (h : KX1_averageT x0 x1 x2 = some r) (d : Nat) : vv_Met l G MX1_average (d + 30) [.int x0, .int x1, .int x2] σ (.inl (some (.int r)), σ) := m_KX1_averageN hG hH 15 d h
def KX1_goingT (x0 x1 x2 : Int32) : Option Int32 := KX1_going (KX1_averageN 9) x0 x1 x2
theorem m_KX1_goingT {l : Launch} {G : vv_G} {ad : Nat → Nat} (hG : vv_gok G) (hH : vv_hy l G ad) {x0 x1 x2 r : Int32} {σ : vv_S} (h : KX1_goingT x0 x1 x2 = some r) (d : Nat) : vv_Met l G MX1_going (d + 20) [.int x0, .int x1, .int x2] σ (.inl (some (.int r)), σ) := m_KX1_going (d := d + 19) hG hH (fun h9 => m_KX1_averageN hG hH 9 (d + 1) h9) h (d + 19)
/-! ('X1', 'stop') -/
def KX1_stop_80 (s0 : Int32) (σ : vv_S) : Option (hX (Int32 × vv_S)) := some (.inl (s0, σ))
theorem v_KX1_stop_80 {l : Launch} {G : vv_G} {d : Nat} {ad : Nat → Nat} (hG : vv_gok G) (hH : vv_hy l G ad) {s0 : Int32} {σ : vv_S} {r : hX (Int32 × vv_S)} (h : KX1_stop_80 s0 σ = some r) : vv_V l G MX1_stop (d + 31) 80 [] [.int s0] σ (xI r) := by
  unfold KX1_stop_80 at h
  cases h
  exact vv_iret rfl dX1_stop_80
def KX1_stop_79 (σ : vv_S) : Option (hX (Int32 × vv_S)) := KX1_stop_80 (nI 0) σ
theorem v_KX1_stop_79 {l : Launch} {G : vv_G} {d : Nat} {ad : Nat → Nat} (hG : vv_gok G) (hH : vv_hy l G ad) {σ : vv_S} {r : hX (Int32 × vv_S)} (h : KX1_stop_79 σ = some r) : vv_V l G MX1_stop (d + 31) 79 [] [] σ (xI r) := by
  unfold KX1_stop_79 at h
  refine vv_iconst (v := (nI 0)) dX1_stop_79 (by decide) ?_
  exact v_KX1_stop_80 hG hH h
def KX1_stop_41 (s0 : Int32) (x1 : Int32) (x2 : Int32) (x3 : Int32) (x4 : Int32) (σ : vv_S) : Option (hX (Int32 × vv_S)) := (KX1_right s0 σ).bind fun r1 => xb r1 fun r2 => if x4 = 0 then ((KX1_averageT x1 x2 x3).bind fun r8 => some (.inl (r8, r2))) else (if x1 ≤ 0 then (KX1_stop_79 r2) else ((KX1_goingT x1 x2 x3).bind fun r5 => (KX1_power x3).bind fun r6 => if r5 ≤ (x1 * r6) then (KX1_stop_79 r2) else (KX1_stop_80 (nI 1) r2)))
theorem v_KX1_stop_41 {l : Launch} {G : vv_G} {d : Nat} {ad : Nat → Nat} (hG : vv_gok G) (hH : vv_hy l G ad) {s0 : Int32} {x1 : Int32} {x2 : Int32} {x3 : Int32} {x4 : Int32} {σ : vv_S} {r : hX (Int32 × vv_S)} (h : KX1_stop_41 s0 x1 x2 x3 x4 σ = some r) : vv_V l G MX1_stop (d + 31) 41 [(1, .int x1), (2, .int x2), (3, .int x3), (4, .int x4)] [.int s0] σ (xI r) := by
  unfold KX1_stop_41 at h
  replace h := bd_o h; obtain ⟨r1, er1, h⟩ := h
  rcases r1 with r2 | r2x
  · refine vv_callS ok_X1_right q700 (m_KX1_right hG hH er1 d) rfl (by omega) rfl rfl (Nat.le_of_ble_eq_true rfl) dX1_stop_41 ?_
    replace h := xb_l h
    refine vv_iload dX1_stop_44 3 rfl ?_
    refine vv_if_ne (tgt := 56) dX1_stop_46 (by decide) (fun c3 => ?_) (fun c3 => ?_)
    · rw [if_neg c3] at h
      refine vv_iload_n dX1_stop_56 rfl 0 rfl ?_
      refine vv_if_le (tgt := 79) dX1_stop_57 (by decide) (fun c4 => ?_) (fun c4 => ?_)
      · rw [if_pos c4] at h
        refine vv_sub (lv' := []) [] rfl ?_
        exact v_KX1_stop_79 hG hH h
      · rw [if_neg c4] at h
        refine vv_iload_n dX1_stop_60 rfl 0 rfl ?_
        refine vv_iload_n dX1_stop_61 rfl 1 rfl ?_
        refine vv_iload_n dX1_stop_62 rfl 2 rfl ?_
        replace h := bd_o h; obtain ⟨r5, er5, h⟩ := h
        refine vv_callS ok_X1_going q1427 (m_KX1_goingT hG hH er5 d) rfl (by omega) rfl rfl (Nat.le_of_ble_eq_true rfl) dX1_stop_63 ?_
        refine vv_iload_n dX1_stop_66 rfl 0 rfl ?_
        refine vv_iload_n dX1_stop_67 rfl 2 rfl ?_
        replace h := bd_o h; obtain ⟨r6, er6, h⟩ := h
        refine vv_callS ok_X1_power q1414 (m_KX1_power hG hH er6 d) rfl (by omega) rfl rfl (Nat.le_of_ble_eq_true rfl) dX1_stop_68 ?_
        refine vv_imul dX1_stop_71 ?_
        refine vv_icmp_le (tgt := 79) dX1_stop_72 (by decide) (fun c7 => ?_) (fun c7 => ?_)
        · rw [if_pos c7] at h
          refine vv_sub (lv' := []) [] rfl ?_
          exact v_KX1_stop_79 hG hH h
        · rw [if_neg c7] at h
          refine vv_iconst (v := (nI 1)) dX1_stop_75 (by decide) ?_
          refine vv_goto (tgt := 80) dX1_stop_76 (by decide) ?_
          refine vv_sub (lv' := []) [] rfl ?_
          exact v_KX1_stop_80 hG hH h
    · rw [if_pos c3] at h
      refine vv_iload_n dX1_stop_49 rfl 0 rfl ?_
      refine vv_iload_n dX1_stop_50 rfl 1 rfl ?_
      refine vv_iload_n dX1_stop_51 rfl 2 rfl ?_
      replace h := bd_o h; obtain ⟨r8, er8, h⟩ := h
      refine vv_callS ok_X1_average q1424 (m_KX1_averageT hG hH er8 d) rfl (by omega) rfl rfl (Nat.le_of_ble_eq_true rfl) dX1_stop_52 ?_
      cases h
      exact vv_iret rfl dX1_stop_55
  · cases h
    exact vv_callSX ok_X1_right q700 (m_KX1_right hG hH er1 d) rfl (by omega) rfl rfl (Nat.le_of_ble_eq_true rfl) dX1_stop_41 (vv_Tout (by intro x hx; cases hx))
def KX1_stop_40 (x1 : Int32) (x2 : Int32) (x3 : Int32) (x4 : Int32) (σ : vv_S) : Option (hX (Int32 × vv_S)) := KX1_stop_41 (nI 0) x1 x2 x3 x4 σ
theorem v_KX1_stop_40 {l : Launch} {G : vv_G} {d : Nat} {ad : Nat → Nat} (hG : vv_gok G) (hH : vv_hy l G ad) {x1 : Int32} {x2 : Int32} {x3 : Int32} {x4 : Int32} {σ : vv_S} {r : hX (Int32 × vv_S)} (h : KX1_stop_40 x1 x2 x3 x4 σ = some r) : vv_V l G MX1_stop (d + 31) 40 [(1, .int x1), (2, .int x2), (3, .int x3), (4, .int x4)] [] σ (xI r) := by
  unfold KX1_stop_40 at h
  refine vv_iconst (v := (nI 0)) dX1_stop_40 (by decide) ?_
  exact v_KX1_stop_41 hG hH h
def KX1_stop (x0 : Nat) (x1 : Int32) (x2 : Int32) (x3 : Int32) (x4 : Int32) (σ : vv_S) : Option (hX (Int32 × vv_S)) := (KX1_oneOf x4 (nI 1) σ).bind fun r1 => xb r1 fun r2 => (KX1_in x1 (nI 0) (nI 20)).bind fun r3 => if r3 = 0 then (KX1_stop_40 x1 x2 x3 x4 r2) else ((KX1_in x2 (nI 0) (nI 12)).bind fun r5 => if r5 = 0 then (KX1_stop_40 x1 x2 x3 x4 r2) else ((KX1_in x3 (nI 1) (nI 7)).bind fun r7 => if r7 = 0 then (KX1_stop_40 x1 x2 x3 x4 r2) else (KX1_stop_41 (nI 1) x1 x2 x3 x4 r2)))
theorem v_KX1_stop_0 {l : Launch} {G : vv_G} {d : Nat} {ad : Nat → Nat} (hG : vv_gok G) (hH : vv_hy l G ad) {x0 : Nat} {x1 : Int32} {x2 : Int32} {x3 : Int32} {x4 : Int32} {σ : vv_S} {r : hX (Int32 × vv_S)} (h : KX1_stop x0 x1 x2 x3 x4 σ = some r) : vv_V l G MX1_stop (d + 31) 0 [(0, .ref x0), (1, .int x1), (2, .int x2), (3, .int x3), (4, .int x4)] [] σ (xI r) := by
  unfold KX1_stop at h
  refine vv_iload dX1_stop_0 4 rfl ?_
  refine vv_iconst (v := (nI 1)) dX1_stop_2 (by decide) ?_
  replace h := bd_o h; obtain ⟨r1, er1, h⟩ := h
  rcases r1 with r2 | r2x
  · refine vv_callS ok_X1_oneOf q1293 (m_KX1_oneOf hG hH er1 d) rfl (by omega) rfl rfl (Nat.le_of_ble_eq_true rfl) dX1_stop_3 ?_
    replace h := xb_l h
    refine vv_iload_n dX1_stop_6 rfl 1 rfl ?_
    refine vv_iconst (v := (nI 0)) dX1_stop_7 (by decide) ?_
    refine vv_bipush (v := (nI 20)) dX1_stop_8 (by decide) ?_
    replace h := bd_o h; obtain ⟨r3, er3, h⟩ := h
    refine vv_callS ok_X1_in q335 (m_KX1_in hG hH er3 d) rfl (by omega) rfl rfl (Nat.le_of_ble_eq_true rfl) dX1_stop_10 ?_
    refine vv_if_eq (tgt := 40) dX1_stop_13 (by decide) (fun c4 => ?_) (fun c4 => ?_)
    · rw [if_pos c4] at h
      refine vv_sub (lv' := [(1, .int x1), (2, .int x2), (3, .int x3), (4, .int x4)]) [1, 2, 3, 4] rfl ?_
      exact v_KX1_stop_40 hG hH h
    · rw [if_neg c4] at h
      refine vv_iload_n dX1_stop_16 rfl 2 rfl ?_
      refine vv_iconst (v := (nI 0)) dX1_stop_17 (by decide) ?_
      refine vv_bipush (v := (nI 12)) dX1_stop_18 (by decide) ?_
      replace h := bd_o h; obtain ⟨r5, er5, h⟩ := h
      refine vv_callS ok_X1_in q335 (m_KX1_in hG hH er5 d) rfl (by omega) rfl rfl (Nat.le_of_ble_eq_true rfl) dX1_stop_20 ?_
      refine vv_if_eq (tgt := 40) dX1_stop_23 (by decide) (fun c6 => ?_) (fun c6 => ?_)
      · rw [if_pos c6] at h
        refine vv_sub (lv' := [(1, .int x1), (2, .int x2), (3, .int x3), (4, .int x4)]) [1, 2, 3, 4] rfl ?_
        exact v_KX1_stop_40 hG hH h
      · rw [if_neg c6] at h
        refine vv_iload_n dX1_stop_26 rfl 3 rfl ?_
        refine vv_iconst (v := (nI 1)) dX1_stop_27 (by decide) ?_
        refine vv_bipush (v := (nI 7)) dX1_stop_28 (by decide) ?_
        replace h := bd_o h; obtain ⟨r7, er7, h⟩ := h
        refine vv_callS ok_X1_in q335 (m_KX1_in hG hH er7 d) rfl (by omega) rfl rfl (Nat.le_of_ble_eq_true rfl) dX1_stop_30 ?_
        refine vv_if_eq (tgt := 40) dX1_stop_33 (by decide) (fun c8 => ?_) (fun c8 => ?_)
        · rw [if_pos c8] at h
          refine vv_sub (lv' := [(1, .int x1), (2, .int x2), (3, .int x3), (4, .int x4)]) [1, 2, 3, 4] rfl ?_
          exact v_KX1_stop_40 hG hH h
        · rw [if_neg c8] at h
          refine vv_iconst (v := (nI 1)) dX1_stop_36 (by decide) ?_
          refine vv_goto (tgt := 41) dX1_stop_37 (by decide) ?_
          refine vv_sub (lv' := [(1, .int x1), (2, .int x2), (3, .int x3), (4, .int x4)]) [1, 2, 3, 4] rfl ?_
          exact v_KX1_stop_41 hG hH h
  · cases h
    exact vv_callSX ok_X1_oneOf q1293 (m_KX1_oneOf hG hH er1 d) rfl (by omega) rfl rfl (Nat.le_of_ble_eq_true rfl) dX1_stop_3 (vv_Tout (by intro x hx; cases hx))
theorem m_KX1_stop {l : Launch} {G : vv_G} {ad : Nat → Nat} (hG : vv_gok G) (hH : vv_hy l G ad) {x0 : Nat} {x1 : Int32} {x2 : Int32} {x3 : Int32} {x4 : Int32} {σ : vv_S} {r : hX (Int32 × vv_S)} (h : KX1_stop x0 x1 x2 x3 x4 σ = some r) (d : Nat) : vv_Met l G MX1_stop (d + 31) [.ref x0, .int x1, .int x2, .int x3, .int x4] σ (xI r) := vv_head (by decide +kernel) rfl (Nat.le_of_ble_eq_true rfl) rfl (v_KX1_stop_0 hG hH h)
/-! ('X1', 'see') -/
def KX1_see_40 (ad : Nat → Nat) (x0 : Nat) (σ : vv_S) : Option (hX (Int32 × vv_S)) := (isO σ x0 0).bind fun _ => (KX1_refuse x0 (nI 2) σ).bind fun r1 => some (.inl (r1.1, r1.2))
theorem v_KX1_see_40 {l : Launch} {G : vv_G} {d : Nat} {ad : Nat → Nat} (hG : vv_gok G) (hH : vv_hy l G ad) {x0 : Nat} {σ : vv_S} {r : hX (Int32 × vv_S)} (h : KX1_see_40 ad x0 σ = some r) : vv_V l G MX1_see (d + 10) 40 [(0, .ref x0)] [] σ (xI r) := by
  unfold KX1_see_40 at h
  refine vv_aload_n dX1_see_40 rfl 0 rfl ?_
  refine vv_iconst (v := (nI 2)) dX1_see_41 (by decide) ?_
  replace h := isO_o h; obtain ⟨fz2, sz2, ez2, h⟩ := h
  replace h := bd_o h; obtain ⟨r1, er1, h⟩ := h
  refine vv_callV ok_X1_refuse q338 (m_KX1_refuse hG hH er1 d) rfl (by omega) ⟨_, _, _, _, _, ez2, by rw [hG.1]; rfl⟩ rfl rfl (Nat.le_of_ble_eq_true rfl) dX1_see_42 ?_
  cases h
  exact vv_iret rfl dX1_see_45
def KX1_see (ad : Nat → Nat) (x0 : Nat) (x1 : Int32) (x2 : Int32) (x3 : Int32) (σ : vv_S) : Option (hX (Int32 × vv_S)) := (isO σ x0 0).bind fun _ => (KX1_aTown x0 x1 σ).bind fun r1 => xb r1 fun r3 => (gR r3 x0 0 8).bind fun v4 => (isO r3 v4 11).bind fun _ => (KJ2_size v4 r3).bind fun r5 => if r5 = (nI 8) then (KX1_see_40 ad x0 r3) else ((KX1_in x2 (nI 0) (nI 30)).bind fun r8 => if r8 = 0 then (KX1_see_40 ad x0 r3) else ((KX1_in x3 (nI 0) (nI 9999)).bind fun r10 => if r10 = 0 then (KX1_see_40 ad x0 r3) else ((gR r3 x0 0 8).bind fun v12 => (nwA r3 .int (nI 3)).bind fun σ13 => (sI σ13 r3.2.1 (nI 0) x1).bind fun σ14 => (sI σ14 r3.2.1 (nI 1) x2).bind fun σ15 => (sI σ15 r3.2.1 (nI 2) x3).bind fun σ16 => (isO σ16 v12 11).bind fun _ => (KJ2_add ad v12 r3.2.1 σ16).bind fun r17 => (gR r17.2 x0 0 8).bind fun v19 => (isO r17.2 v19 11).bind fun _ => (KJ2_size v19 r17.2).bind fun r20 => some (.inl (r20, r17.2)))))
theorem v_KX1_see_0 {l : Launch} {G : vv_G} {d : Nat} {ad : Nat → Nat} (hG : vv_gok G) (hH : vv_hy l G ad) {x0 : Nat} {x1 : Int32} {x2 : Int32} {x3 : Int32} {σ : vv_S} {r : hX (Int32 × vv_S)} (h : KX1_see ad x0 x1 x2 x3 σ = some r) : vv_V l G MX1_see (d + 10) 0 [(0, .ref x0), (1, .int x1), (2, .int x2), (3, .int x3)] [] σ (xI r) := by
  unfold KX1_see at h
  refine vv_aload_n dX1_see_0 rfl 0 rfl ?_
  refine vv_iload_n dX1_see_1 rfl 1 rfl ?_
  replace h := isO_o h; obtain ⟨fz2, sz2, ez2, h⟩ := h
  replace h := bd_o h; obtain ⟨r1, er1, h⟩ := h
  rcases r1 with r3 | r3x
  · refine vv_callV ok_X1_aTown q1273 (m_KX1_aTown hG hH er1 d) rfl (by omega) ⟨_, _, _, _, _, ez2, by rw [hG.1]; rfl⟩ rfl rfl (Nat.le_of_ble_eq_true rfl) dX1_see_2 ?_
    replace h := xb_l h
    refine vv_aload_n dX1_see_5 rfl 0 rfl ?_
    replace h := gR_o h; obtain ⟨v4, fv4, sv4, ev4, lv4, h⟩ := h
    refine vv_get (fl_X1_53 hG) ev4 lv4 dX1_see_6 ?_
    replace h := isO_o h; obtain ⟨fz6, sz6, ez6, h⟩ := h
    replace h := bd_o h; obtain ⟨r5, er5, h⟩ := h
    refine vv_callF (xx := ⟨"java/util/List", "size", "()I"⟩) okf_J2_size q426 (m_KJ2_size hG hH er5 d) rfl (by omega) ⟨_, _, _, _, _, ez6, by rw [hG.1]; rfl⟩ q429 (fun U hK => hH.1.2.2.1 U hK _ (List.mem_of_getElem? (i := 1) rfl)) ⟨by decide, by decide, by decide +kernel⟩ rfl rfl (Nat.le_of_ble_eq_true rfl) dX1_see_9 ?_
    refine vv_bipush (v := (nI 8)) dX1_see_14 (by decide) ?_
    refine vv_icmp_eq (tgt := 40) dX1_see_16 (by decide) (fun c7 => ?_) (fun c7 => ?_)
    · rw [if_pos c7] at h
      refine vv_sub (lv' := [(0, .ref x0)]) [0] rfl ?_
      exact v_KX1_see_40 hG hH h
    · rw [if_neg c7] at h
      refine vv_iload_n dX1_see_19 rfl 2 rfl ?_
      refine vv_iconst (v := (nI 0)) dX1_see_20 (by decide) ?_
      refine vv_bipush (v := (nI 30)) dX1_see_21 (by decide) ?_
      replace h := bd_o h; obtain ⟨r8, er8, h⟩ := h
      refine vv_callS ok_X1_in q335 (m_KX1_in hG hH er8 d) rfl (by omega) rfl rfl (Nat.le_of_ble_eq_true rfl) dX1_see_23 ?_
      refine vv_if_eq (tgt := 40) dX1_see_26 (by decide) (fun c9 => ?_) (fun c9 => ?_)
      · rw [if_pos c9] at h
        refine vv_sub (lv' := [(0, .ref x0)]) [0] rfl ?_
        exact v_KX1_see_40 hG hH h
      · rw [if_neg c9] at h
        refine vv_iload_n dX1_see_29 rfl 3 rfl ?_
        refine vv_iconst (v := (nI 0)) dX1_see_30 (by decide) ?_
        refine vv_sipush (v := (nI 9999)) dX1_see_31 (by decide) ?_
        replace h := bd_o h; obtain ⟨r10, er10, h⟩ := h
        refine vv_callS ok_X1_in q335 (m_KX1_in hG hH er10 d) rfl (by omega) rfl rfl (Nat.le_of_ble_eq_true rfl) dX1_see_34 ?_
        refine vv_if_ne (tgt := 46) dX1_see_37 (by decide) (fun c11 => ?_) (fun c11 => ?_)
        · rw [if_neg c11] at h
          refine vv_aload_n dX1_see_46 rfl 0 rfl ?_
          replace h := gR_o h; obtain ⟨v12, fv12, sv12, ev12, lv12, h⟩ := h
          refine vv_get (fl_X1_53 hG) ev12 lv12 dX1_see_47 ?_
          refine vv_iconst (v := (nI 3)) dX1_see_50 (by decide) ?_
          replace h := nA_o h; obtain ⟨σ13, aσ13, bσ13, uσ13, h⟩ := h
          refine vv_newa (atype := .int) (ty := .int) (a0 := (((nI 3)).toNatClampNeg, .inl (fun _ => 0))) rfl rfl (by rw [hG.2]; decide) q183 (fun cA => rfl) aσ13 rfl (Nat.le_trans (Nat.mul_le_mul_right _ bσ13) (Nat.le_of_ble_eq_true rfl)) dX1_see_51 ?_
          refine vv_sg uσ13 ?_
          refine vv_dup dX1_see_53 rfl ?_
          refine vv_iconst (v := (nI 0)) dX1_see_54 (by decide) ?_
          refine vv_iload_n dX1_see_55 rfl 1 rfl ?_
          replace h := sI_o h; obtain ⟨σ14, nσ14, qσ14, eσ14, iσ14, uσ14, h⟩ := h
          refine vv_iast eσ14 iσ14 dX1_see_56 ?_
          refine vv_sg uσ14 ?_
          refine vv_dup dX1_see_57 rfl ?_
          refine vv_iconst (v := (nI 1)) dX1_see_58 (by decide) ?_
          refine vv_iload_n dX1_see_59 rfl 2 rfl ?_
          replace h := sI_o h; obtain ⟨σ15, nσ15, qσ15, eσ15, iσ15, uσ15, h⟩ := h
          refine vv_iast eσ15 iσ15 dX1_see_60 ?_
          refine vv_sg uσ15 ?_
          refine vv_dup dX1_see_61 rfl ?_
          refine vv_iconst (v := (nI 2)) dX1_see_62 (by decide) ?_
          refine vv_iload_n dX1_see_63 rfl 3 rfl ?_
          replace h := sI_o h; obtain ⟨σ16, nσ16, qσ16, eσ16, iσ16, uσ16, h⟩ := h
          refine vv_iast eσ16 iσ16 dX1_see_64 ?_
          refine vv_sg uσ16 ?_
          replace h := isO_o h; obtain ⟨fz18, sz18, ez18, h⟩ := h
          replace h := bd_o h; obtain ⟨r17, er17, h⟩ := h
          refine vv_callF (xx := ⟨"java/util/List", "add", "(Ljava/lang/Object;)Z"⟩) okf_J2_add q357 (m_KJ2_add hG hH er17 d) rfl (by omega) ⟨_, _, _, _, _, ez18, by rw [hG.1]; rfl⟩ q361 (fun U hK => hH.1.2.2.1 U hK _ (List.mem_of_getElem? (i := 0) rfl)) ⟨by decide, by decide, by decide +kernel⟩ rfl rfl (Nat.le_of_ble_eq_true rfl) dX1_see_65 ?_
          refine vv_pop dX1_see_70 rfl ?_
          refine vv_aload_n dX1_see_71 rfl 0 rfl ?_
          replace h := gR_o h; obtain ⟨v19, fv19, sv19, ev19, lv19, h⟩ := h
          refine vv_get (fl_X1_53 hG) ev19 lv19 dX1_see_72 ?_
          replace h := isO_o h; obtain ⟨fz21, sz21, ez21, h⟩ := h
          replace h := bd_o h; obtain ⟨r20, er20, h⟩ := h
          refine vv_callF (xx := ⟨"java/util/List", "size", "()I"⟩) okf_J2_size q426 (m_KJ2_size hG hH er20 d) rfl (by omega) ⟨_, _, _, _, _, ez21, by rw [hG.1]; rfl⟩ q429 (fun U hK => hH.1.2.2.1 U hK _ (List.mem_of_getElem? (i := 1) rfl)) ⟨by decide, by decide, by decide +kernel⟩ rfl rfl (Nat.le_of_ble_eq_true rfl) dX1_see_75 ?_
          cases h
          exact vv_iret rfl dX1_see_80
        · rw [if_pos c11] at h
          refine vv_sub (lv' := [(0, .ref x0)]) [0] rfl ?_
          exact v_KX1_see_40 hG hH h
  · cases h
    exact vv_callVX ok_X1_aTown q1273 (m_KX1_aTown hG hH er1 d) rfl (by omega) ⟨_, _, _, _, _, ez2, by rw [hG.1]; rfl⟩ rfl rfl (Nat.le_of_ble_eq_true rfl) dX1_see_2 (vv_Tout (by intro x hx; cases hx))
theorem m_KX1_see {l : Launch} {G : vv_G} {ad : Nat → Nat} (hG : vv_gok G) (hH : vv_hy l G ad) {x0 : Nat} {x1 : Int32} {x2 : Int32} {x3 : Int32} {σ : vv_S} {r : hX (Int32 × vv_S)} (h : KX1_see ad x0 x1 x2 x3 σ = some r) (d : Nat) : vv_Met l G MX1_see (d + 10) [.ref x0, .int x1, .int x2, .int x3] σ (xI r) := vv_head (by decide +kernel) rfl (Nat.le_of_ble_eq_true rfl) rfl (v_KX1_see_0 hG hH h)
/-! ('X1', 'isSoBy') -/
def BKX1_isSoBy_94 (fo : Nat → Nat → vv_S → Option Int32) (k94 : Nat → Int32 → vv_S → Option (Int32 × vv_S)) (x0 : Nat) (x3 : Int32) (σ : vv_S) : Option (Int32 × vv_S) := (gR σ x0 0 8).bind fun v1 => (isO σ v1 11).bind fun _ => (KJ2_size v1 σ).bind fun r2 => if r2 ≤ x3 then (some ((nI 1), σ)) else ((gR σ x0 0 8).bind fun v5 => (isO σ v5 11).bind fun _ => (KJ2_get v5 x3 σ).bind fun r6 => (isA σ r6 .int).bind fun _ => (gR σ x0 0 13).bind fun v9 => (aI σ .int r6 (nI 1)).bind fun v10 => (aI σ .int r6 (nI 0)).bind fun v11 => (aI σ .int v9 (((nI 8) * v10) + v11)).bind fun v12 => (aI σ .int r6 (nI 2)).bind fun v13 => if v12 = v13 then (k94 x0 (x3 + (nI 1)) σ) else (some ((nI 0), σ)))
def KX1_isSoBy_94 (fo : Nat → Nat → vv_S → Option Int32) : Nat → Nat → Int32 → vv_S → Option (Int32 × vv_S)
  | 0, _, _, _ => none
  | n + 1, x0, x3, σ => BKX1_isSoBy_94 fo (KX1_isSoBy_94 fo n) x0 x3 σ
theorem vb_KX1_isSoBy_94 {l : Launch} {G : vv_G} {d : Nat} {ad : Nat → Nat} {fo : Nat → Nat → vv_S → Option Int32} (hG : vv_gok G) (hH : vv_hy l G ad) (hfo : ∀ {a vs : Nat} {σ : vv_S} {r : Int32}, fo a vs σ = some r → vv_Form l G d a vs σ r) {k94 : Nat → Int32 → vv_S → Option (Int32 × vv_S)} (hk94 : ∀ {x0 : Nat} {x3 : Int32} {σ : vv_S} {r : Int32 × vv_S}, k94 x0 x3 σ = some r → vv_V l G MX1_isSoBy (d + 5) 94 [(0, .ref x0), (3, .int x3)] [] σ (.inl (some (.int r.1)), r.2)) {x0 : Nat} {x3 : Int32} {σ : vv_S} {r : Int32 × vv_S} (h : BKX1_isSoBy_94 fo k94 x0 x3 σ = some r) : vv_V l G MX1_isSoBy (d + 5) 94 [(0, .ref x0), (3, .int x3)] [] σ (.inl (some (.int r.1)), r.2) := by
  unfold BKX1_isSoBy_94 at h
  refine vv_iload_n dX1_isSoBy_94 rfl 1 rfl ?_
  refine vv_aload_n dX1_isSoBy_95 rfl 0 rfl ?_
  replace h := gR_o h; obtain ⟨v1, fv1, sv1, ev1, lv1, h⟩ := h
  refine vv_get (fl_X1_53 hG) ev1 lv1 dX1_isSoBy_96 ?_
  replace h := isO_o h; obtain ⟨fz3, sz3, ez3, h⟩ := h
  replace h := bd_o h; obtain ⟨r2, er2, h⟩ := h
  refine vv_callF (xx := ⟨"java/util/List", "size", "()I"⟩) okf_J2_size q426 (m_KJ2_size hG hH er2 d) rfl (by omega) ⟨_, _, _, _, _, ez3, by rw [hG.1]; rfl⟩ q429 (fun U hK => hH.1.2.2.1 U hK _ (List.mem_of_getElem? (i := 1) rfl)) ⟨by decide, by decide, by decide +kernel⟩ rfl rfl (Nat.le_of_ble_eq_true rfl) dX1_isSoBy_99 ?_
  refine vv_icmp_ge (tgt := 154) dX1_isSoBy_104 (by decide) (fun c4 => ?_) (fun c4 => ?_)
  · rw [if_pos c4] at h
    refine vv_iconst (v := (nI 1)) dX1_isSoBy_154 (by decide) ?_
    cases h
    exact vv_zret rfl (by decide) dX1_isSoBy_155
  · rw [if_neg c4] at h
    refine vv_aload_n dX1_isSoBy_107 rfl 0 rfl ?_
    replace h := gR_o h; obtain ⟨v5, fv5, sv5, ev5, lv5, h⟩ := h
    refine vv_get (fl_X1_53 hG) ev5 lv5 dX1_isSoBy_108 ?_
    refine vv_iload_n dX1_isSoBy_111 rfl 1 rfl ?_
    replace h := isO_o h; obtain ⟨fz7, sz7, ez7, h⟩ := h
    replace h := bd_o h; obtain ⟨r6, er6, h⟩ := h
    refine vv_callF (xx := ⟨"java/util/List", "get", "(I)Ljava/lang/Object;"⟩) okf_J2_get q1278 (m_KJ2_get hG hH er6 d) rfl (by omega) ⟨_, _, _, _, _, ez7, by rw [hG.1]; rfl⟩ q481 (fun U hK => hH.1.2.2.1 U hK _ (List.mem_of_getElem? (i := 3) rfl)) ⟨by decide, by decide, by decide +kernel⟩ rfl rfl (Nat.le_of_ble_eq_true rfl) dX1_isSoBy_112 ?_
    replace h := isA_o h; obtain ⟨fz8, xz8, ez8, kz8, h⟩ := h
    refine vv_cast (C := "[I") ez8 (by show ("[" ++ xz8.1.toString) = "[I"; rw [kz8]; decide) q1449 (Or.inl rfl) dX1_isSoBy_117 ?_
    refine vv_astore (lv' := [(0, .ref x0), (3, .int x3), (4, .ref r6)]) dX1_isSoBy_120 (by decide) [1, 2, 0] rfl ?_
    refine vv_aload_n dX1_isSoBy_122 rfl 0 rfl ?_
    replace h := gR_o h; obtain ⟨v9, fv9, sv9, ev9, lv9, h⟩ := h
    refine vv_get (fl_X1_59 hG) ev9 lv9 dX1_isSoBy_123 ?_
    refine vv_bipush (v := (nI 8)) dX1_isSoBy_126 (by decide) ?_
    refine vv_aload dX1_isSoBy_128 2 rfl ?_
    refine vv_iconst (v := (nI 1)) dX1_isSoBy_130 (by decide) ?_
    replace h := aI_o h; obtain ⟨v10, fv10, nv10, qv10, ev10, iv10, wv10, h⟩ := h
    refine vv_iald ev10 iv10 dX1_isSoBy_131 ?_
    rw [wv10]
    refine vv_imul dX1_isSoBy_132 ?_
    refine vv_aload dX1_isSoBy_133 2 rfl ?_
    refine vv_iconst (v := (nI 0)) dX1_isSoBy_135 (by decide) ?_
    replace h := aI_o h; obtain ⟨v11, fv11, nv11, qv11, ev11, iv11, wv11, h⟩ := h
    refine vv_iald ev11 iv11 dX1_isSoBy_136 ?_
    rw [wv11]
    refine vv_iadd dX1_isSoBy_137 ?_
    replace h := aI_o h; obtain ⟨v12, fv12, nv12, qv12, ev12, iv12, wv12, h⟩ := h
    refine vv_iald ev12 iv12 dX1_isSoBy_138 ?_
    rw [wv12]
    refine vv_aload dX1_isSoBy_139 2 rfl ?_
    refine vv_iconst (v := (nI 2)) dX1_isSoBy_141 (by decide) ?_
    replace h := aI_o h; obtain ⟨v13, fv13, nv13, qv13, ev13, iv13, wv13, h⟩ := h
    refine vv_iald ev13 iv13 dX1_isSoBy_142 ?_
    rw [wv13]
    refine vv_icmp_eq (tgt := 148) dX1_isSoBy_143 (by decide) (fun c14 => ?_) (fun c14 => ?_)
    · rw [if_pos c14] at h
      refine vv_iinc (v := (x3 + (nI 1))) (lv' := [(0, .ref x0), (3, .int (x3 + (nI 1))), (4, .ref r6)]) dX1_isSoBy_148 1 rfl rfl (by decide) [1, 0, 2] rfl ?_
      refine vv_goto (tgt := 94) dX1_isSoBy_151 (by decide) ?_
      refine vv_sub (lv' := [(0, .ref x0), (3, .int (x3 + (nI 1)))]) [0, 1] rfl ?_
      exact hk94 h
    · rw [if_neg c14] at h
      refine vv_iconst (v := (nI 0)) dX1_isSoBy_146 (by decide) ?_
      cases h
      exact vv_zret rfl (by decide) dX1_isSoBy_147
theorem v_KX1_isSoBy_94 {l : Launch} {G : vv_G} {d : Nat} {ad : Nat → Nat} {fo : Nat → Nat → vv_S → Option Int32} (hG : vv_gok G) (hH : vv_hy l G ad) (hfo : ∀ {a vs : Nat} {σ : vv_S} {r : Int32}, fo a vs σ = some r → vv_Form l G d a vs σ r) : ∀ (n : Nat) {x0 : Nat} {x3 : Int32} {σ : vv_S} {r : Int32 × vv_S}, KX1_isSoBy_94 fo n x0 x3 σ = some r → vv_V l G MX1_isSoBy (d + 5) 94 [(0, .ref x0), (3, .int x3)] [] σ (.inl (some (.int r.1)), r.2) := by
  intro n
  induction n with
  | zero => intro _ _ _ _ h; cases h
  | succ n ih => intro _ _ _ _ h; exact vb_KX1_isSoBy_94 hG hH hfo ih h
def BKX1_isSoBy_42 (fo : Nat → Nat → vv_S → Option Int32) (k14 : Nat → Int32 → Int32 → Int32 → vv_S → Option (Int32 × vv_S)) (k42 : Nat → Int32 → Int32 → Int32 → Int32 → vv_S → Option (Int32 × vv_S)) (x0 : Nat) (x1 : Int32) (x2 : Int32) (x3 : Int32) (x4 : Int32) (σ : vv_S) : Option (Int32 × vv_S) := if (nI 8) ≤ x4 then ((gR σ x0 0 12).bind fun v2 => (isO σ v2 2).bind fun _ => (KX3_pass fo v2 (nI 0) σ).bind fun r3 => k14 x0 x1 x2 (x3 + (nI 1)) r3.2) else ((gR σ x0 0 13).bind fun v5 => (gR σ x0 0 12).bind fun v6 => (gR σ v6 2 0).bind fun v7 => (aI σ .int v7 x4).bind fun v8 => (sI σ v5 (((nI 8) * x3) + x4) v8).bind fun σ9 => k42 x0 x1 x2 x3 (x4 + (nI 1)) σ9)
def KX1_isSoBy_42 (fo : Nat → Nat → vv_S → Option Int32) (k14 : Nat → Int32 → Int32 → Int32 → vv_S → Option (Int32 × vv_S)) : Nat → Nat → Int32 → Int32 → Int32 → Int32 → vv_S → Option (Int32 × vv_S)
  | 0, _, _, _, _, _, _ => none
  | n + 1, x0, x1, x2, x3, x4, σ => BKX1_isSoBy_42 fo k14 (KX1_isSoBy_42 fo k14 n) x0 x1 x2 x3 x4 σ
theorem vb_KX1_isSoBy_42 {l : Launch} {G : vv_G} {d : Nat} {ad : Nat → Nat} {fo : Nat → Nat → vv_S → Option Int32} (hG : vv_gok G) (hH : vv_hy l G ad) (hfo : ∀ {a vs : Nat} {σ : vv_S} {r : Int32}, fo a vs σ = some r → vv_Form l G d a vs σ r) {k14 : Nat → Int32 → Int32 → Int32 → vv_S → Option (Int32 × vv_S)} (hk14 : ∀ {x0 : Nat} {x1 : Int32} {x2 : Int32} {x3 : Int32} {σ : vv_S} {r : Int32 × vv_S}, k14 x0 x1 x2 x3 σ = some r → vv_V l G MX1_isSoBy (d + 5) 14 [(0, .ref x0), (1, .int x1), (2, .int x2), (3, .int x3)] [] σ (.inl (some (.int r.1)), r.2)) {k42 : Nat → Int32 → Int32 → Int32 → Int32 → vv_S → Option (Int32 × vv_S)} (hk42 : ∀ {x0 : Nat} {x1 : Int32} {x2 : Int32} {x3 : Int32} {x4 : Int32} {σ : vv_S} {r : Int32 × vv_S}, k42 x0 x1 x2 x3 x4 σ = some r → vv_V l G MX1_isSoBy (d + 5) 42 [(0, .ref x0), (1, .int x1), (2, .int x2), (3, .int x3), (4, .int x4)] [] σ (.inl (some (.int r.1)), r.2)) {x0 : Nat} {x1 : Int32} {x2 : Int32} {x3 : Int32} {x4 : Int32} {σ : vv_S} {r : Int32 × vv_S} (h : BKX1_isSoBy_42 fo k14 k42 x0 x1 x2 x3 x4 σ = some r) : vv_V l G MX1_isSoBy (d + 5) 42 [(0, .ref x0), (1, .int x1), (2, .int x2), (3, .int x3), (4, .int x4)] [] σ (.inl (some (.int r.1)), r.2) := by
  unfold BKX1_isSoBy_42 at h
  refine vv_iload dX1_isSoBy_42 4 rfl ?_
  refine vv_bipush (v := (nI 8)) dX1_isSoBy_44 (by decide) ?_
  refine vv_icmp_ge (tgt := 77) dX1_isSoBy_46 (by decide) (fun c1 => ?_) (fun c1 => ?_)
  · rw [if_pos c1] at h
    refine vv_aload_n dX1_isSoBy_77 rfl 0 rfl ?_
    replace h := gR_o h; obtain ⟨v2, fv2, sv2, ev2, lv2, h⟩ := h
    refine vv_get (fl_X1_56 hG) ev2 lv2 dX1_isSoBy_78 ?_
    refine vv_iconst (v := (nI 0)) dX1_isSoBy_81 (by decide) ?_
    replace h := isO_o h; obtain ⟨fz4, sz4, ez4, h⟩ := h
    replace h := bd_o h; obtain ⟨r3, er3, h⟩ := h
    refine vv_callV ok_X3_pass q1344 (m_KX3_pass hG hH hfo er3 d) rfl (by omega) ⟨_, _, _, _, _, ez4, by rw [hG.1]; rfl⟩ rfl rfl (Nat.le_of_ble_eq_true rfl) dX1_isSoBy_82 ?_
    refine vv_pop dX1_isSoBy_85 rfl ?_
    refine vv_iinc (v := (x3 + (nI 1))) (lv' := [(0, .ref x0), (1, .int x1), (2, .int x2), (3, .int (x3 + (nI 1))), (4, .int x4)]) dX1_isSoBy_86 3 rfl rfl (by decide) [1, 2, 3, 0, 4] rfl ?_
    refine vv_goto (tgt := 14) dX1_isSoBy_89 (by decide) ?_
    refine vv_sub (lv' := [(0, .ref x0), (1, .int x1), (2, .int x2), (3, .int (x3 + (nI 1)))]) [0, 1, 2, 3] rfl ?_
    exact hk14 h
  · rw [if_neg c1] at h
    refine vv_aload_n dX1_isSoBy_49 rfl 0 rfl ?_
    replace h := gR_o h; obtain ⟨v5, fv5, sv5, ev5, lv5, h⟩ := h
    refine vv_get (fl_X1_59 hG) ev5 lv5 dX1_isSoBy_50 ?_
    refine vv_bipush (v := (nI 8)) dX1_isSoBy_53 (by decide) ?_
    refine vv_iload_n dX1_isSoBy_55 rfl 3 rfl ?_
    refine vv_imul dX1_isSoBy_56 ?_
    refine vv_iload dX1_isSoBy_57 4 rfl ?_
    refine vv_iadd dX1_isSoBy_59 ?_
    refine vv_aload_n dX1_isSoBy_60 rfl 0 rfl ?_
    replace h := gR_o h; obtain ⟨v6, fv6, sv6, ev6, lv6, h⟩ := h
    refine vv_get (fl_X1_56 hG) ev6 lv6 dX1_isSoBy_61 ?_
    replace h := gR_o h; obtain ⟨v7, fv7, sv7, ev7, lv7, h⟩ := h
    refine vv_getM (fl_X1_110 hH) ev7 lv7 dX1_isSoBy_64 ?_
    refine vv_iload dX1_isSoBy_67 4 rfl ?_
    replace h := aI_o h; obtain ⟨v8, fv8, nv8, qv8, ev8, iv8, wv8, h⟩ := h
    refine vv_iald ev8 iv8 dX1_isSoBy_69 ?_
    rw [wv8]
    replace h := sI_o h; obtain ⟨σ9, nσ9, qσ9, eσ9, iσ9, uσ9, h⟩ := h
    refine vv_iast eσ9 iσ9 dX1_isSoBy_70 ?_
    refine vv_sg uσ9 ?_
    refine vv_iinc (v := (x4 + (nI 1))) (lv' := [(0, .ref x0), (1, .int x1), (2, .int x2), (3, .int x3), (4, .int (x4 + (nI 1)))]) dX1_isSoBy_71 4 rfl rfl (by decide) [1, 2, 3, 4, 0] rfl ?_
    refine vv_goto (tgt := 42) dX1_isSoBy_74 (by decide) ?_
    exact hk42 h
theorem v_KX1_isSoBy_42 {l : Launch} {G : vv_G} {d : Nat} {ad : Nat → Nat} {fo : Nat → Nat → vv_S → Option Int32} (hG : vv_gok G) (hH : vv_hy l G ad) (hfo : ∀ {a vs : Nat} {σ : vv_S} {r : Int32}, fo a vs σ = some r → vv_Form l G d a vs σ r) {k14 : Nat → Int32 → Int32 → Int32 → vv_S → Option (Int32 × vv_S)} (hk14 : ∀ {x0 : Nat} {x1 : Int32} {x2 : Int32} {x3 : Int32} {σ : vv_S} {r : Int32 × vv_S}, k14 x0 x1 x2 x3 σ = some r → vv_V l G MX1_isSoBy (d + 5) 14 [(0, .ref x0), (1, .int x1), (2, .int x2), (3, .int x3)] [] σ (.inl (some (.int r.1)), r.2)) : ∀ (n : Nat) {x0 : Nat} {x1 : Int32} {x2 : Int32} {x3 : Int32} {x4 : Int32} {σ : vv_S} {r : Int32 × vv_S}, KX1_isSoBy_42 fo k14 n x0 x1 x2 x3 x4 σ = some r → vv_V l G MX1_isSoBy (d + 5) 42 [(0, .ref x0), (1, .int x1), (2, .int x2), (3, .int x3), (4, .int x4)] [] σ (.inl (some (.int r.1)), r.2) := by
  intro n
  induction n with
  | zero => intro _ _ _ _ _ _ _ h; cases h
  | succ n ih => intro _ _ _ _ _ _ _ h; exact vb_KX1_isSoBy_42 hG hH hfo hk14 ih h
def KX1_isSoBy_39 (fo : Nat → Nat → vv_S → Option Int32) (k14 : Nat → Int32 → Int32 → Int32 → vv_S → Option (Int32 × vv_S)) (x0 : Nat) (x1 : Int32) (x2 : Int32) (x3 : Int32) (σ : vv_S) : Option (Int32 × vv_S) := KX1_isSoBy_42 fo k14 NN x0 x1 x2 x3 (nI 0) σ
theorem v_KX1_isSoBy_39 {l : Launch} {G : vv_G} {d : Nat} {ad : Nat → Nat} {fo : Nat → Nat → vv_S → Option Int32} (hG : vv_gok G) (hH : vv_hy l G ad) (hfo : ∀ {a vs : Nat} {σ : vv_S} {r : Int32}, fo a vs σ = some r → vv_Form l G d a vs σ r) {k14 : Nat → Int32 → Int32 → Int32 → vv_S → Option (Int32 × vv_S)} (hk14 : ∀ {x0 : Nat} {x1 : Int32} {x2 : Int32} {x3 : Int32} {σ : vv_S} {r : Int32 × vv_S}, k14 x0 x1 x2 x3 σ = some r → vv_V l G MX1_isSoBy (d + 5) 14 [(0, .ref x0), (1, .int x1), (2, .int x2), (3, .int x3)] [] σ (.inl (some (.int r.1)), r.2)) {x0 : Nat} {x1 : Int32} {x2 : Int32} {x3 : Int32} {σ : vv_S} {r : Int32 × vv_S} (h : KX1_isSoBy_39 fo k14 x0 x1 x2 x3 σ = some r) : vv_V l G MX1_isSoBy (d + 5) 39 [(0, .ref x0), (1, .int x1), (2, .int x2), (3, .int x3)] [] σ (.inl (some (.int r.1)), r.2) := by
  unfold KX1_isSoBy_39 at h
  refine vv_iconst (v := (nI 0)) dX1_isSoBy_39 (by decide) ?_
  refine vv_istore (lv' := [(0, .ref x0), (1, .int x1), (2, .int x2), (3, .int x3), (4, .int (nI 0))]) dX1_isSoBy_40 (by decide) [1, 2, 3, 4, 0] rfl ?_
  exact v_KX1_isSoBy_42 hG hH hfo hk14 NN h
def BKX1_isSoBy_14 (fo : Nat → Nat → vv_S → Option Int32) (k14 : Nat → Int32 → Int32 → Int32 → vv_S → Option (Int32 × vv_S)) (x0 : Nat) (x1 : Int32) (x2 : Int32) (x3 : Int32) (σ : vv_S) : Option (Int32 × vv_S) := if (nI 30) < x3 then (KX1_isSoBy_94 fo NN x0 (nI 0) σ) else (if x1 = (-1) then (KX1_isSoBy_39 fo k14 x0 x1 x2 x3 σ) else (if x3 = x2 then ((gR σ x0 0 12).bind fun v4 => (isO σ v4 2).bind fun _ => (KX3_open v4 x1 σ).bind fun r5 => KX1_isSoBy_39 fo k14 x0 x1 x2 x3 r5.2) else (KX1_isSoBy_39 fo k14 x0 x1 x2 x3 σ)))
def KX1_isSoBy_14 (fo : Nat → Nat → vv_S → Option Int32) : Nat → Nat → Int32 → Int32 → Int32 → vv_S → Option (Int32 × vv_S)
  | 0, _, _, _, _, _ => none
  | n + 1, x0, x1, x2, x3, σ => BKX1_isSoBy_14 fo (KX1_isSoBy_14 fo n) x0 x1 x2 x3 σ
theorem vb_KX1_isSoBy_14 {l : Launch} {G : vv_G} {d : Nat} {ad : Nat → Nat} {fo : Nat → Nat → vv_S → Option Int32} (hG : vv_gok G) (hH : vv_hy l G ad) (hfo : ∀ {a vs : Nat} {σ : vv_S} {r : Int32}, fo a vs σ = some r → vv_Form l G d a vs σ r) {k14 : Nat → Int32 → Int32 → Int32 → vv_S → Option (Int32 × vv_S)} (hk14 : ∀ {x0 : Nat} {x1 : Int32} {x2 : Int32} {x3 : Int32} {σ : vv_S} {r : Int32 × vv_S}, k14 x0 x1 x2 x3 σ = some r → vv_V l G MX1_isSoBy (d + 5) 14 [(0, .ref x0), (1, .int x1), (2, .int x2), (3, .int x3)] [] σ (.inl (some (.int r.1)), r.2)) {x0 : Nat} {x1 : Int32} {x2 : Int32} {x3 : Int32} {σ : vv_S} {r : Int32 × vv_S} (h : BKX1_isSoBy_14 fo k14 x0 x1 x2 x3 σ = some r) : vv_V l G MX1_isSoBy (d + 5) 14 [(0, .ref x0), (1, .int x1), (2, .int x2), (3, .int x3)] [] σ (.inl (some (.int r.1)), r.2) := by
  unfold BKX1_isSoBy_14 at h
  refine vv_iload_n dX1_isSoBy_14 rfl 3 rfl ?_
  refine vv_bipush (v := (nI 30)) dX1_isSoBy_15 (by decide) ?_
  refine vv_icmp_gt (tgt := 92) dX1_isSoBy_17 (by decide) (fun c1 => ?_) (fun c1 => ?_)
  · rw [if_pos c1] at h
    refine vv_iconst (v := (nI 0)) dX1_isSoBy_92 (by decide) ?_
    refine vv_istore_n (lv' := [(0, .ref x0), (1, .int x1), (2, .int x2), (3, .int (nI 0))]) dX1_isSoBy_93 rfl (by decide) [1, 2, 3, 0] rfl ?_
    refine vv_sub (lv' := [(0, .ref x0), (3, .int (nI 0))]) [0, 3] rfl ?_
    exact v_KX1_isSoBy_94 hG hH hfo NN h
  · rw [if_neg c1] at h
    refine vv_iload_n dX1_isSoBy_20 rfl 1 rfl ?_
    refine vv_iconst (v := (-1)) dX1_isSoBy_21 (by decide) ?_
    refine vv_icmp_eq (tgt := 39) dX1_isSoBy_22 (by decide) (fun c2 => ?_) (fun c2 => ?_)
    · rw [if_pos c2] at h
      exact v_KX1_isSoBy_39 hG hH hfo hk14 h
    · rw [if_neg c2] at h
      refine vv_iload_n dX1_isSoBy_25 rfl 3 rfl ?_
      refine vv_iload_n dX1_isSoBy_26 rfl 2 rfl ?_
      refine vv_icmp_ne (tgt := 39) dX1_isSoBy_27 (by decide) (fun c3 => ?_) (fun c3 => ?_)
      · rw [if_neg c3] at h
        exact v_KX1_isSoBy_39 hG hH hfo hk14 h
      · rw [if_pos c3] at h
        refine vv_aload_n dX1_isSoBy_30 rfl 0 rfl ?_
        replace h := gR_o h; obtain ⟨v4, fv4, sv4, ev4, lv4, h⟩ := h
        refine vv_get (fl_X1_56 hG) ev4 lv4 dX1_isSoBy_31 ?_
        refine vv_iload_n dX1_isSoBy_34 rfl 1 rfl ?_
        replace h := isO_o h; obtain ⟨fz6, sz6, ez6, h⟩ := h
        replace h := bd_o h; obtain ⟨r5, er5, h⟩ := h
        refine vv_callV ok_X3_open q616 (m_KX3_open hG hH er5 d) rfl (by omega) ⟨_, _, _, _, _, ez6, by rw [hG.1]; rfl⟩ rfl rfl (Nat.le_of_ble_eq_true rfl) dX1_isSoBy_35 ?_
        refine vv_pop dX1_isSoBy_38 rfl ?_
        exact v_KX1_isSoBy_39 hG hH hfo hk14 h
theorem v_KX1_isSoBy_14 {l : Launch} {G : vv_G} {d : Nat} {ad : Nat → Nat} {fo : Nat → Nat → vv_S → Option Int32} (hG : vv_gok G) (hH : vv_hy l G ad) (hfo : ∀ {a vs : Nat} {σ : vv_S} {r : Int32}, fo a vs σ = some r → vv_Form l G d a vs σ r) : ∀ (n : Nat) {x0 : Nat} {x1 : Int32} {x2 : Int32} {x3 : Int32} {σ : vv_S} {r : Int32 × vv_S}, KX1_isSoBy_14 fo n x0 x1 x2 x3 σ = some r → vv_V l G MX1_isSoBy (d + 5) 14 [(0, .ref x0), (1, .int x1), (2, .int x2), (3, .int x3)] [] σ (.inl (some (.int r.1)), r.2) := by
  intro n
  induction n with
  | zero => intro _ _ _ _ _ _ h; cases h
  | succ n ih => intro _ _ _ _ _ _ h; exact vb_KX1_isSoBy_14 hG hH hfo ih h
def KX1_isSoBy (fo : Nat → Nat → vv_S → Option Int32) (x0 : Nat) (x1 : Int32) (x2 : Int32) (σ : vv_S) : Option (Int32 × vv_S) := (gR σ x0 0 12).bind fun v1 => (gR σ x0 0 2).bind fun v2 => (isO σ v1 2).bind fun _ => (KX3_be v1 v2 σ).bind fun r3 => KX1_isSoBy_14 fo NN x0 x1 x2 (nI 0) r3.2
theorem v_KX1_isSoBy_0 {l : Launch} {G : vv_G} {d : Nat} {ad : Nat → Nat} {fo : Nat → Nat → vv_S → Option Int32} (hG : vv_gok G) (hH : vv_hy l G ad) (hfo : ∀ {a vs : Nat} {σ : vv_S} {r : Int32}, fo a vs σ = some r → vv_Form l G d a vs σ r) {x0 : Nat} {x1 : Int32} {x2 : Int32} {σ : vv_S} {r : Int32 × vv_S} (h : KX1_isSoBy fo x0 x1 x2 σ = some r) : vv_V l G MX1_isSoBy (d + 5) 0 [(0, .ref x0), (1, .int x1), (2, .int x2)] [] σ (.inl (some (.int r.1)), r.2) := by
  unfold KX1_isSoBy at h
  refine vv_aload_n dX1_isSoBy_0 rfl 0 rfl ?_
  replace h := gR_o h; obtain ⟨v1, fv1, sv1, ev1, lv1, h⟩ := h
  refine vv_get (fl_X1_56 hG) ev1 lv1 dX1_isSoBy_1 ?_
  refine vv_aload_n dX1_isSoBy_4 rfl 0 rfl ?_
  replace h := gR_o h; obtain ⟨v2, fv2, sv2, ev2, lv2, h⟩ := h
  refine vv_get (fl_X1_31 hG) ev2 lv2 dX1_isSoBy_5 ?_
  replace h := isO_o h; obtain ⟨fz4, sz4, ez4, h⟩ := h
  replace h := bd_o h; obtain ⟨r3, er3, h⟩ := h
  refine vv_callV ok_X3_be q1448 (m_KX3_be hG hH er3 d) rfl (by omega) ⟨_, _, _, _, _, ez4, by rw [hG.1]; rfl⟩ rfl rfl (Nat.le_of_ble_eq_true rfl) dX1_isSoBy_8 ?_
  refine vv_pop dX1_isSoBy_11 rfl ?_
  refine vv_iconst (v := (nI 0)) dX1_isSoBy_12 (by decide) ?_
  refine vv_istore_n (lv' := [(0, .ref x0), (1, .int x1), (2, .int x2), (3, .int (nI 0))]) dX1_isSoBy_13 rfl (by decide) [1, 2, 3, 0] rfl ?_
  exact v_KX1_isSoBy_14 hG hH hfo NN h
theorem m_KX1_isSoBy {l : Launch} {G : vv_G} {d : Nat} {ad : Nat → Nat} {fo : Nat → Nat → vv_S → Option Int32} (hG : vv_gok G) (hH : vv_hy l G ad) (hfo : ∀ {a vs : Nat} {σ : vv_S} {r : Int32}, fo a vs σ = some r → vv_Form l G d a vs σ r) {x0 : Nat} {x1 : Int32} {x2 : Int32} {σ : vv_S} {r : Int32 × vv_S} (h : KX1_isSoBy fo x0 x1 x2 σ = some r) (d9 : Nat) (e9 : d9 = d := by rfl) : vv_Met l G MX1_isSoBy (d9 + 5) [.ref x0, .int x1, .int x2] σ (.inl (some (.int r.1)), r.2) := by
  subst e9
  exact vv_head (by decide +kernel) rfl (Nat.le_of_ble_eq_true rfl) rfl (v_KX1_isSoBy_0 hG hH hfo h)
/-! ('X1', 'openings') -/
def KX1_openings_65 (fo : Nat → Nat → vv_S → Option Int32) (ad : Nat → Nat) (k10 : Nat → Nat → Int32 → vv_S → Option (Nat × vv_S)) (k23 : Nat → Nat → Int32 → Int32 → vv_S → Option (Nat × vv_S)) (x0 : Nat) (x1 : Nat) (x2 : Int32) (x3 : Int32) (σ : vv_S) : Option (Nat × vv_S) := k23 x0 x1 x2 (x3 + (nI 1)) σ
theorem v_KX1_openings_65 {l : Launch} {G : vv_G} {d : Nat} {ad : Nat → Nat} {fo : Nat → Nat → vv_S → Option Int32} (hG : vv_gok G) (hH : vv_hy l G ad) (hfo : ∀ {a vs : Nat} {σ : vv_S} {r : Int32}, fo a vs σ = some r → vv_Form l G d a vs σ r) {k10 : Nat → Nat → Int32 → vv_S → Option (Nat × vv_S)} (hk10 : ∀ {x0 : Nat} {x1 : Nat} {x2 : Int32} {σ : vv_S} {r : Nat × vv_S}, k10 x0 x1 x2 σ = some r → vv_V l G MX1_openings (d + 7) 10 [(0, .ref x0), (1, .ref x1), (2, .int x2)] [] σ (.inl (some (.ref r.1)), r.2)) {k23 : Nat → Nat → Int32 → Int32 → vv_S → Option (Nat × vv_S)} (hk23 : ∀ {x0 : Nat} {x1 : Nat} {x2 : Int32} {x3 : Int32} {σ : vv_S} {r : Nat × vv_S}, k23 x0 x1 x2 x3 σ = some r → vv_V l G MX1_openings (d + 7) 23 [(0, .ref x0), (1, .ref x1), (2, .int x2), (3, .int x3)] [] σ (.inl (some (.ref r.1)), r.2)) {x0 : Nat} {x1 : Nat} {x2 : Int32} {x3 : Int32} {σ : vv_S} {r : Nat × vv_S} (h : KX1_openings_65 fo ad k10 k23 x0 x1 x2 x3 σ = some r) : vv_V l G MX1_openings (d + 7) 65 [(0, .ref x0), (1, .ref x1), (2, .int x2), (3, .int x3)] [] σ (.inl (some (.ref r.1)), r.2) := by
  unfold KX1_openings_65 at h
  refine vv_iinc (v := (x3 + (nI 1))) (lv' := [(0, .ref x0), (1, .ref x1), (2, .int x2), (3, .int (x3 + (nI 1)))]) dX1_openings_65 3 rfl rfl (by decide) [1, 2, 3, 0] rfl ?_
  refine vv_goto (tgt := 23) dX1_openings_68 (by decide) ?_
  exact hk23 h
def BKX1_openings_23 (fo : Nat → Nat → vv_S → Option Int32) (ad : Nat → Nat) (k10 : Nat → Nat → Int32 → vv_S → Option (Nat × vv_S)) (k23 : Nat → Nat → Int32 → Int32 → vv_S → Option (Nat × vv_S)) (x0 : Nat) (x1 : Nat) (x2 : Int32) (x3 : Int32) (σ : vv_S) : Option (Nat × vv_S) := if (nI 10) ≤ x3 then (k10 x0 x1 (x2 + (nI 1)) σ) else ((gR σ x0 0 2).bind fun v2 => (isO σ v2 2).bind fun _ => (KX3_lies v2 x2 σ).bind fun r3 => if r3 = 0 then (KX1_openings_65 fo ad k10 k23 x0 x1 x2 x3 σ) else ((isO σ x0 0).bind fun _ => (KX1_isSoBy fo x0 x2 x3 σ).bind fun r6 => if r6.1 = 0 then (KX1_openings_65 fo ad k10 k23 x0 x1 x2 x3 r6.2) else ((KJ14_valueOf ad (((nI 10) * x2) + x3) r6.2).bind fun r9 => (isO r6.2 x1 11).bind fun _ => (KJ2_add ad x1 r9 r6.2).bind fun r10 => KX1_openings_65 fo ad k10 k23 x0 x1 x2 x3 r10.2)))
def KX1_openings_23 (fo : Nat → Nat → vv_S → Option Int32) (ad : Nat → Nat) (k10 : Nat → Nat → Int32 → vv_S → Option (Nat × vv_S)) : Nat → Nat → Nat → Int32 → Int32 → vv_S → Option (Nat × vv_S)
  | 0, _, _, _, _, _ => none
  | n + 1, x0, x1, x2, x3, σ => BKX1_openings_23 fo ad k10 (KX1_openings_23 fo ad k10 n) x0 x1 x2 x3 σ
theorem vb_KX1_openings_23 {l : Launch} {G : vv_G} {d : Nat} {ad : Nat → Nat} {fo : Nat → Nat → vv_S → Option Int32} (hG : vv_gok G) (hH : vv_hy l G ad) (hfo : ∀ {a vs : Nat} {σ : vv_S} {r : Int32}, fo a vs σ = some r → vv_Form l G d a vs σ r) {k10 : Nat → Nat → Int32 → vv_S → Option (Nat × vv_S)} (hk10 : ∀ {x0 : Nat} {x1 : Nat} {x2 : Int32} {σ : vv_S} {r : Nat × vv_S}, k10 x0 x1 x2 σ = some r → vv_V l G MX1_openings (d + 7) 10 [(0, .ref x0), (1, .ref x1), (2, .int x2)] [] σ (.inl (some (.ref r.1)), r.2)) {k23 : Nat → Nat → Int32 → Int32 → vv_S → Option (Nat × vv_S)} (hk23 : ∀ {x0 : Nat} {x1 : Nat} {x2 : Int32} {x3 : Int32} {σ : vv_S} {r : Nat × vv_S}, k23 x0 x1 x2 x3 σ = some r → vv_V l G MX1_openings (d + 7) 23 [(0, .ref x0), (1, .ref x1), (2, .int x2), (3, .int x3)] [] σ (.inl (some (.ref r.1)), r.2)) {x0 : Nat} {x1 : Nat} {x2 : Int32} {x3 : Int32} {σ : vv_S} {r : Nat × vv_S} (h : BKX1_openings_23 fo ad k10 k23 x0 x1 x2 x3 σ = some r) : vv_V l G MX1_openings (d + 7) 23 [(0, .ref x0), (1, .ref x1), (2, .int x2), (3, .int x3)] [] σ (.inl (some (.ref r.1)), r.2) := by
  unfold BKX1_openings_23 at h
  refine vv_iload_n dX1_openings_23 rfl 3 rfl ?_
  refine vv_bipush (v := (nI 10)) dX1_openings_24 (by decide) ?_
  refine vv_icmp_ge (tgt := 71) dX1_openings_26 (by decide) (fun c1 => ?_) (fun c1 => ?_)
  · rw [if_pos c1] at h
    refine vv_iinc (v := (x2 + (nI 1))) (lv' := [(0, .ref x0), (1, .ref x1), (2, .int (x2 + (nI 1))), (3, .int x3)]) dX1_openings_71 2 rfl rfl (by decide) [1, 2, 0, 3] rfl ?_
    refine vv_goto (tgt := 10) dX1_openings_74 (by decide) ?_
    refine vv_sub (lv' := [(0, .ref x0), (1, .ref x1), (2, .int (x2 + (nI 1)))]) [0, 1, 2] rfl ?_
    exact hk10 h
  · rw [if_neg c1] at h
    refine vv_aload_n dX1_openings_29 rfl 0 rfl ?_
    replace h := gR_o h; obtain ⟨v2, fv2, sv2, ev2, lv2, h⟩ := h
    refine vv_get (fl_X1_31 hG) ev2 lv2 dX1_openings_30 ?_
    refine vv_iload_n dX1_openings_33 rfl 2 rfl ?_
    replace h := isO_o h; obtain ⟨fz4, sz4, ez4, h⟩ := h
    replace h := bd_o h; obtain ⟨r3, er3, h⟩ := h
    refine vv_callV ok_X3_lies q615 (m_KX3_lies hG hH er3 d) rfl (by omega) ⟨_, _, _, _, _, ez4, by rw [hG.1]; rfl⟩ rfl rfl (Nat.le_of_ble_eq_true rfl) dX1_openings_34 ?_
    refine vv_if_eq (tgt := 65) dX1_openings_37 (by decide) (fun c5 => ?_) (fun c5 => ?_)
    · rw [if_pos c5] at h
      exact v_KX1_openings_65 hG hH hfo hk10 hk23 h
    · rw [if_neg c5] at h
      refine vv_aload_n dX1_openings_40 rfl 0 rfl ?_
      refine vv_iload_n dX1_openings_41 rfl 2 rfl ?_
      refine vv_iload_n dX1_openings_42 rfl 3 rfl ?_
      replace h := isO_o h; obtain ⟨fz7, sz7, ez7, h⟩ := h
      replace h := bd_o h; obtain ⟨r6, er6, h⟩ := h
      refine vv_callV ok_X1_isSoBy q1444 (m_KX1_isSoBy hG hH hfo er6 d) rfl (by omega) ⟨_, _, _, _, _, ez7, by rw [hG.1]; rfl⟩ rfl rfl (Nat.le_of_ble_eq_true rfl) dX1_openings_43 ?_
      refine vv_if_eq (tgt := 65) dX1_openings_46 (by decide) (fun c8 => ?_) (fun c8 => ?_)
      · rw [if_pos c8] at h
        exact v_KX1_openings_65 hG hH hfo hk10 hk23 h
      · rw [if_neg c8] at h
        refine vv_aload_n dX1_openings_49 rfl 1 rfl ?_
        refine vv_bipush (v := (nI 10)) dX1_openings_50 (by decide) ?_
        refine vv_iload_n dX1_openings_52 rfl 2 rfl ?_
        refine vv_imul dX1_openings_53 ?_
        refine vv_iload_n dX1_openings_54 rfl 3 rfl ?_
        refine vv_iadd dX1_openings_55 ?_
        replace h := bd_o h; obtain ⟨r9, er9, h⟩ := h
        refine vv_callS ok_J14_valueOf q1454 (m_KJ14_valueOf hG hH er9 d) rfl (by omega) rfl rfl (Nat.le_of_ble_eq_true rfl) dX1_openings_56 ?_
        replace h := isO_o h; obtain ⟨fz11, sz11, ez11, h⟩ := h
        replace h := bd_o h; obtain ⟨r10, er10, h⟩ := h
        refine vv_callF (xx := ⟨"java/util/List", "add", "(Ljava/lang/Object;)Z"⟩) okf_J2_add q357 (m_KJ2_add hG hH er10 d) rfl (by omega) ⟨_, _, _, _, _, ez11, by rw [hG.1]; rfl⟩ q361 (fun U hK => hH.1.2.2.1 U hK _ (List.mem_of_getElem? (i := 0) rfl)) ⟨by decide, by decide, by decide +kernel⟩ rfl rfl (Nat.le_of_ble_eq_true rfl) dX1_openings_59 ?_
        refine vv_pop dX1_openings_64 rfl ?_
        exact v_KX1_openings_65 hG hH hfo hk10 hk23 h
theorem v_KX1_openings_23 {l : Launch} {G : vv_G} {d : Nat} {ad : Nat → Nat} {fo : Nat → Nat → vv_S → Option Int32} (hG : vv_gok G) (hH : vv_hy l G ad) (hfo : ∀ {a vs : Nat} {σ : vv_S} {r : Int32}, fo a vs σ = some r → vv_Form l G d a vs σ r) {k10 : Nat → Nat → Int32 → vv_S → Option (Nat × vv_S)} (hk10 : ∀ {x0 : Nat} {x1 : Nat} {x2 : Int32} {σ : vv_S} {r : Nat × vv_S}, k10 x0 x1 x2 σ = some r → vv_V l G MX1_openings (d + 7) 10 [(0, .ref x0), (1, .ref x1), (2, .int x2)] [] σ (.inl (some (.ref r.1)), r.2)) : ∀ (n : Nat) {x0 : Nat} {x1 : Nat} {x2 : Int32} {x3 : Int32} {σ : vv_S} {r : Nat × vv_S}, KX1_openings_23 fo ad k10 n x0 x1 x2 x3 σ = some r → vv_V l G MX1_openings (d + 7) 23 [(0, .ref x0), (1, .ref x1), (2, .int x2), (3, .int x3)] [] σ (.inl (some (.ref r.1)), r.2) := by
  intro n
  induction n with
  | zero => intro _ _ _ _ _ _ h; cases h
  | succ n ih => intro _ _ _ _ _ _ h; exact vb_KX1_openings_23 hG hH hfo hk10 ih h
def BKX1_openings_10 (fo : Nat → Nat → vv_S → Option Int32) (ad : Nat → Nat) (k10 : Nat → Nat → Int32 → vv_S → Option (Nat × vv_S)) (x0 : Nat) (x1 : Nat) (x2 : Int32) (σ : vv_S) : Option (Nat × vv_S) := (gR σ x0 0 1).bind fun v1 => (gI σ v1 1 3).bind fun v2 => if v2 ≤ x2 then (some (x1, σ)) else (KX1_openings_23 fo ad k10 NN x0 x1 x2 (nI 0) σ)
def KX1_openings_10 (fo : Nat → Nat → vv_S → Option Int32) (ad : Nat → Nat) : Nat → Nat → Nat → Int32 → vv_S → Option (Nat × vv_S)
  | 0, _, _, _, _ => none
  | n + 1, x0, x1, x2, σ => BKX1_openings_10 fo ad (KX1_openings_10 fo ad n) x0 x1 x2 σ
theorem vb_KX1_openings_10 {l : Launch} {G : vv_G} {d : Nat} {ad : Nat → Nat} {fo : Nat → Nat → vv_S → Option Int32} (hG : vv_gok G) (hH : vv_hy l G ad) (hfo : ∀ {a vs : Nat} {σ : vv_S} {r : Int32}, fo a vs σ = some r → vv_Form l G d a vs σ r) {k10 : Nat → Nat → Int32 → vv_S → Option (Nat × vv_S)} (hk10 : ∀ {x0 : Nat} {x1 : Nat} {x2 : Int32} {σ : vv_S} {r : Nat × vv_S}, k10 x0 x1 x2 σ = some r → vv_V l G MX1_openings (d + 7) 10 [(0, .ref x0), (1, .ref x1), (2, .int x2)] [] σ (.inl (some (.ref r.1)), r.2)) {x0 : Nat} {x1 : Nat} {x2 : Int32} {σ : vv_S} {r : Nat × vv_S} (h : BKX1_openings_10 fo ad k10 x0 x1 x2 σ = some r) : vv_V l G MX1_openings (d + 7) 10 [(0, .ref x0), (1, .ref x1), (2, .int x2)] [] σ (.inl (some (.ref r.1)), r.2) := by
  unfold BKX1_openings_10 at h
  refine vv_iload_n dX1_openings_10 rfl 2 rfl ?_
  refine vv_aload_n dX1_openings_11 rfl 0 rfl ?_
  replace h := gR_o h; obtain ⟨v1, fv1, sv1, ev1, lv1, h⟩ := h
  refine vv_get (fl_X1_22 hG) ev1 lv1 dX1_openings_12 ?_
  replace h := gI_o h; obtain ⟨v2, fv2, sv2, ev2, lv2, h⟩ := h
  refine vv_getM (fl_X1_104 hH) ev2 lv2 dX1_openings_15 ?_
  refine vv_icmp_ge (tgt := 77) dX1_openings_18 (by decide) (fun c3 => ?_) (fun c3 => ?_)
  · rw [if_pos c3] at h
    refine vv_aload_n dX1_openings_77 rfl 1 rfl ?_
    cases h
    exact vv_aret rfl (by first | exact Or.inl ⟨_, rfl⟩ | exact Or.inr ⟨_, rfl⟩) (Or.inr ⟨_, rfl⟩) dX1_openings_78
  · rw [if_neg c3] at h
    refine vv_iconst (v := (nI 0)) dX1_openings_21 (by decide) ?_
    refine vv_istore_n (lv' := [(0, .ref x0), (1, .ref x1), (2, .int x2), (3, .int (nI 0))]) dX1_openings_22 rfl (by decide) [1, 2, 3, 0] rfl ?_
    exact v_KX1_openings_23 hG hH hfo hk10 NN h
theorem v_KX1_openings_10 {l : Launch} {G : vv_G} {d : Nat} {ad : Nat → Nat} {fo : Nat → Nat → vv_S → Option Int32} (hG : vv_gok G) (hH : vv_hy l G ad) (hfo : ∀ {a vs : Nat} {σ : vv_S} {r : Int32}, fo a vs σ = some r → vv_Form l G d a vs σ r) : ∀ (n : Nat) {x0 : Nat} {x1 : Nat} {x2 : Int32} {σ : vv_S} {r : Nat × vv_S}, KX1_openings_10 fo ad n x0 x1 x2 σ = some r → vv_V l G MX1_openings (d + 7) 10 [(0, .ref x0), (1, .ref x1), (2, .int x2)] [] σ (.inl (some (.ref r.1)), r.2) := by
  intro n
  induction n with
  | zero => intro _ _ _ _ _ h; cases h
  | succ n ih => intro _ _ _ _ _ h; exact vb_KX1_openings_10 hG hH hfo ih h
def KX1_openings (fo : Nat → Nat → vv_S → Option Int32) (ad : Nat → Nat) (x0 : Nat) (σ : vv_S) : Option (Nat × vv_S) := (some (nwO σ 11 [.int 0, .null, .int 0] 3)).bind fun σ1 => (KJ2_init ad σ.2.1 σ1).bind fun r2 => KX1_openings_10 fo ad NN x0 σ.2.1 (nI 0) r2
theorem v_KX1_openings_0 {l : Launch} {G : vv_G} {d : Nat} {ad : Nat → Nat} {fo : Nat → Nat → vv_S → Option Int32} (hG : vv_gok G) (hH : vv_hy l G ad) (hfo : ∀ {a vs : Nat} {σ : vv_S} {r : Int32}, fo a vs σ = some r → vv_Form l G d a vs σ r) {x0 : Nat} {σ : vv_S} {r : Nat × vv_S} (h : KX1_openings fo ad x0 σ = some r) : vv_V l G MX1_openings (d + 7) 0 [(0, .ref x0)] [] σ (.inl (some (.ref r.1)), r.2) := by
  unfold KX1_openings at h
  obtain ⟨σ1, uσ1, h⟩ := bd_s h
  refine vv_new (nw_X1_46 hG) dX1_openings_0 ?_
  refine vv_sg uσ1 ?_
  refine vv_dup dX1_openings_3 rfl ?_
  replace h := bd_o h; obtain ⟨r2, er2, h⟩ := h
  refine vv_callI ok_J2_init q272 (m_KJ2_init hG hH er2 d) rfl (by omega) rfl rfl (Nat.le_of_ble_eq_true rfl) dX1_openings_4 ?_
  refine vv_astore_n (lv' := [(0, .ref x0), (1, .ref σ.2.1)]) dX1_openings_7 rfl (by decide) [1, 0] rfl ?_
  refine vv_iconst (v := (nI 0)) dX1_openings_8 (by decide) ?_
  refine vv_istore_n (lv' := [(0, .ref x0), (1, .ref σ.2.1), (2, .int (nI 0))]) dX1_openings_9 rfl (by decide) [1, 2, 0] rfl ?_
  exact v_KX1_openings_10 hG hH hfo NN h
theorem m_KX1_openings {l : Launch} {G : vv_G} {d : Nat} {ad : Nat → Nat} {fo : Nat → Nat → vv_S → Option Int32} (hG : vv_gok G) (hH : vv_hy l G ad) (hfo : ∀ {a vs : Nat} {σ : vv_S} {r : Int32}, fo a vs σ = some r → vv_Form l G d a vs σ r) {x0 : Nat} {σ : vv_S} {r : Nat × vv_S} (h : KX1_openings fo ad x0 σ = some r) (d9 : Nat) (e9 : d9 = d := by rfl) : vv_Met l G MX1_openings (d9 + 7) [.ref x0] σ (.inl (some (.ref r.1)), r.2) := by
  subst e9
  exact vv_head (by decide +kernel) rfl (Nat.le_of_ble_eq_true rfl) rfl (v_KX1_openings_0 hG hH hfo h)
/-! ('X1', 'opened') -/
def KX1_opened_69 (fo : Nat → Nat → vv_S → Option Int32) (ad : Nat → Nat) (s0 : Int32) (σ : vv_S) : Option (hX (Int32 × vv_S)) := some (.inl (s0, σ))
theorem v_KX1_opened_69 {l : Launch} {G : vv_G} {d : Nat} {ad : Nat → Nat} {fo : Nat → Nat → vv_S → Option Int32} (hG : vv_gok G) (hH : vv_hy l G ad) (hfo : ∀ {a vs : Nat} {σ : vv_S} {r : Int32}, fo a vs σ = some r → vv_Form l G d a vs σ r) {s0 : Int32} {σ : vv_S} {r : hX (Int32 × vv_S)} (h : KX1_opened_69 fo ad s0 σ = some r) : vv_V l G MX1_opened (d + 10) 69 [] [.int s0] σ (xI r) := by
  unfold KX1_opened_69 at h
  cases h
  exact vv_iret rfl dX1_opened_69
def KX1_opened_24 (fo : Nat → Nat → vv_S → Option Int32) (ad : Nat → Nat) (s0 : Int32) (σ : vv_S) : Option (hX (Int32 × vv_S)) := some (.inl (s0, σ))
theorem v_KX1_opened_24 {l : Launch} {G : vv_G} {d : Nat} {ad : Nat → Nat} {fo : Nat → Nat → vv_S → Option Int32} (hG : vv_gok G) (hH : vv_hy l G ad) (hfo : ∀ {a vs : Nat} {σ : vv_S} {r : Int32}, fo a vs σ = some r → vv_Form l G d a vs σ r) {s0 : Int32} {σ : vv_S} {r : hX (Int32 × vv_S)} (h : KX1_opened_24 fo ad s0 σ = some r) : vv_V l G MX1_opened (d + 10) 24 [] [.int s0] σ (xI r) := by
  unfold KX1_opened_24 at h
  cases h
  exact vv_iret rfl dX1_opened_24
def KX1_opened (fo : Nat → Nat → vv_S → Option Int32) (ad : Nat → Nat) (x0 : Nat) (x1 : Int32) (σ : vv_S) : Option (hX (Int32 × vv_S)) := (KX1_oneOf x1 (nI 2) σ).bind fun r1 => xb r1 fun r2 => if x1 = (nI 2) then ((isO r2 x0 0).bind fun _ => (KX1_isSoBy fo x0 (-1) (nI 0) r2).bind fun r17 => if r17.1 = 0 then (KX1_opened_24 fo ad (nI 0) r17.2) else (KX1_opened_24 fo ad (nI 1) r17.2)) else ((isO r2 x0 0).bind fun _ => (KX1_openings fo ad x0 r2).bind fun r4 => if x1 = 0 then ((isO r4.2 r4.1 11).bind fun _ => (KJ2_size r4.1 r4.2).bind fun r15 => KX1_opened_69 fo ad r15 r4.2) else ((isO r4.2 r4.1 11).bind fun _ => (KJ2_isEmpty r4.1 r4.2).bind fun r7 => if r7 = 0 then ((isO r4.2 r4.1 11).bind fun _ => (KJ2_get r4.1 (nI 0) r4.2).bind fun r10 => (isO r4.2 r10 12).bind fun _ => (isO r4.2 r10 12).bind fun _ => (KJ14_intValue r10 r4.2).bind fun r13 => KX1_opened_69 fo ad r13 r4.2) else (KX1_opened_69 fo ad (-1) r4.2)))
theorem v_KX1_opened_0 {l : Launch} {G : vv_G} {d : Nat} {ad : Nat → Nat} {fo : Nat → Nat → vv_S → Option Int32} (hG : vv_gok G) (hH : vv_hy l G ad) (hfo : ∀ {a vs : Nat} {σ : vv_S} {r : Int32}, fo a vs σ = some r → vv_Form l G d a vs σ r) {x0 : Nat} {x1 : Int32} {σ : vv_S} {r : hX (Int32 × vv_S)} (h : KX1_opened fo ad x0 x1 σ = some r) : vv_V l G MX1_opened (d + 10) 0 [(0, .ref x0), (1, .int x1)] [] σ (xI r) := by
  unfold KX1_opened at h
  refine vv_iload_n dX1_opened_0 rfl 1 rfl ?_
  refine vv_iconst (v := (nI 2)) dX1_opened_1 (by decide) ?_
  replace h := bd_o h; obtain ⟨r1, er1, h⟩ := h
  rcases r1 with r2 | r2x
  · refine vv_callS ok_X1_oneOf q1293 (m_KX1_oneOf hG hH er1 d) rfl (by omega) rfl rfl (Nat.le_of_ble_eq_true rfl) dX1_opened_2 ?_
    replace h := xb_l h
    refine vv_iload_n dX1_opened_5 rfl 1 rfl ?_
    refine vv_iconst (v := (nI 2)) dX1_opened_6 (by decide) ?_
    refine vv_icmp_ne (tgt := 25) dX1_opened_7 (by decide) (fun c3 => ?_) (fun c3 => ?_)
    · rw [if_neg c3] at h
      refine vv_aload_n dX1_opened_25 rfl 0 rfl ?_
      replace h := isO_o h; obtain ⟨fz5, sz5, ez5, h⟩ := h
      replace h := bd_o h; obtain ⟨r4, er4, h⟩ := h
      refine vv_callV ok_X1_openings q1450 (m_KX1_openings hG hH hfo er4 d) rfl (by omega) ⟨_, _, _, _, _, ez5, by rw [hG.1]; rfl⟩ rfl rfl (Nat.le_of_ble_eq_true rfl) dX1_opened_26 ?_
      refine vv_astore_n (lv' := [(0, .ref x0), (1, .int x1), (2, .ref r4.1)]) dX1_opened_29 rfl (by decide) [1, 2, 0] rfl ?_
      refine vv_iload_n dX1_opened_30 rfl 1 rfl ?_
      refine vv_if_ne (tgt := 43) dX1_opened_31 (by decide) (fun c6 => ?_) (fun c6 => ?_)
      · rw [if_neg c6] at h
        refine vv_aload_n dX1_opened_43 rfl 2 rfl ?_
        replace h := isO_o h; obtain ⟨fz8, sz8, ez8, h⟩ := h
        replace h := bd_o h; obtain ⟨r7, er7, h⟩ := h
        refine vv_callF (xx := ⟨"java/util/List", "isEmpty", "()Z"⟩) okf_J2_isEmpty q599 (m_KJ2_isEmpty hG hH er7 d) rfl (by omega) ⟨_, _, _, _, _, ez8, by rw [hG.1]; rfl⟩ q602 (fun U hK => hH.1.2.2.1 U hK _ (List.mem_of_getElem? (i := 4) rfl)) ⟨by decide, by decide, by decide +kernel⟩ rfl rfl (Nat.le_of_ble_eq_true rfl) dX1_opened_44 ?_
        refine vv_if_eq (tgt := 56) dX1_opened_49 (by decide) (fun c9 => ?_) (fun c9 => ?_)
        · rw [if_pos c9] at h
          refine vv_aload_n dX1_opened_56 rfl 2 rfl ?_
          refine vv_iconst (v := (nI 0)) dX1_opened_57 (by decide) ?_
          replace h := isO_o h; obtain ⟨fz11, sz11, ez11, h⟩ := h
          replace h := bd_o h; obtain ⟨r10, er10, h⟩ := h
          refine vv_callF (xx := ⟨"java/util/List", "get", "(I)Ljava/lang/Object;"⟩) okf_J2_get q1278 (m_KJ2_get hG hH er10 d) rfl (by omega) ⟨_, _, _, _, _, ez11, by rw [hG.1]; rfl⟩ q481 (fun U hK => hH.1.2.2.1 U hK _ (List.mem_of_getElem? (i := 3) rfl)) ⟨by decide, by decide, by decide +kernel⟩ rfl rfl (Nat.le_of_ble_eq_true rfl) dX1_opened_58 ?_
          replace h := isO_o h; obtain ⟨fz12, sz12, ez12, h⟩ := h
          refine vv_cast ez12 ⟨_, _, by rw [hG.1]; rfl⟩ q1279 (Or.inl rfl) dX1_opened_63 ?_
          replace h := isO_o h; obtain ⟨fz14, sz14, ez14, h⟩ := h
          replace h := bd_o h; obtain ⟨r13, er13, h⟩ := h
          refine vv_callV ok_J14_intValue q1280 (m_KJ14_intValue hG hH er13 d) rfl (by omega) ⟨_, _, _, _, _, ez14, by rw [hG.1]; rfl⟩ rfl rfl (Nat.le_of_ble_eq_true rfl) dX1_opened_66 ?_
          refine vv_sub (lv' := []) [] rfl ?_
          exact v_KX1_opened_69 hG hH hfo h
        · rw [if_neg c9] at h
          refine vv_iconst (v := (-1)) dX1_opened_52 (by decide) ?_
          refine vv_goto (tgt := 69) dX1_opened_53 (by decide) ?_
          refine vv_sub (lv' := []) [] rfl ?_
          exact v_KX1_opened_69 hG hH hfo h
      · rw [if_pos c6] at h
        refine vv_aload_n dX1_opened_34 rfl 2 rfl ?_
        replace h := isO_o h; obtain ⟨fz16, sz16, ez16, h⟩ := h
        replace h := bd_o h; obtain ⟨r15, er15, h⟩ := h
        refine vv_callF (xx := ⟨"java/util/List", "size", "()I"⟩) okf_J2_size q426 (m_KJ2_size hG hH er15 d) rfl (by omega) ⟨_, _, _, _, _, ez16, by rw [hG.1]; rfl⟩ q429 (fun U hK => hH.1.2.2.1 U hK _ (List.mem_of_getElem? (i := 1) rfl)) ⟨by decide, by decide, by decide +kernel⟩ rfl rfl (Nat.le_of_ble_eq_true rfl) dX1_opened_35 ?_
        refine vv_goto (tgt := 69) dX1_opened_40 (by decide) ?_
        refine vv_sub (lv' := []) [] rfl ?_
        exact v_KX1_opened_69 hG hH hfo h
    · rw [if_pos c3] at h
      refine vv_aload_n dX1_opened_10 rfl 0 rfl ?_
      refine vv_iconst (v := (-1)) dX1_opened_11 (by decide) ?_
      refine vv_iconst (v := (nI 0)) dX1_opened_12 (by decide) ?_
      replace h := isO_o h; obtain ⟨fz18, sz18, ez18, h⟩ := h
      replace h := bd_o h; obtain ⟨r17, er17, h⟩ := h
      refine vv_callV ok_X1_isSoBy q1444 (m_KX1_isSoBy hG hH hfo er17 d) rfl (by omega) ⟨_, _, _, _, _, ez18, by rw [hG.1]; rfl⟩ rfl rfl (Nat.le_of_ble_eq_true rfl) dX1_opened_13 ?_
      refine vv_if_eq (tgt := 23) dX1_opened_16 (by decide) (fun c19 => ?_) (fun c19 => ?_)
      · rw [if_pos c19] at h
        refine vv_iconst (v := (nI 0)) dX1_opened_23 (by decide) ?_
        refine vv_sub (lv' := []) [] rfl ?_
        exact v_KX1_opened_24 hG hH hfo h
      · rw [if_neg c19] at h
        refine vv_iconst (v := (nI 1)) dX1_opened_19 (by decide) ?_
        refine vv_goto (tgt := 24) dX1_opened_20 (by decide) ?_
        refine vv_sub (lv' := []) [] rfl ?_
        exact v_KX1_opened_24 hG hH hfo h
  · cases h
    exact vv_callSX ok_X1_oneOf q1293 (m_KX1_oneOf hG hH er1 d) rfl (by omega) rfl rfl (Nat.le_of_ble_eq_true rfl) dX1_opened_2 (vv_Tout (by intro x hx; cases hx))
theorem m_KX1_opened {l : Launch} {G : vv_G} {d : Nat} {ad : Nat → Nat} {fo : Nat → Nat → vv_S → Option Int32} (hG : vv_gok G) (hH : vv_hy l G ad) (hfo : ∀ {a vs : Nat} {σ : vv_S} {r : Int32}, fo a vs σ = some r → vv_Form l G d a vs σ r) {x0 : Nat} {x1 : Int32} {σ : vv_S} {r : hX (Int32 × vv_S)} (h : KX1_opened fo ad x0 x1 σ = some r) (d9 : Nat) (e9 : d9 = d := by rfl) : vv_Met l G MX1_opened (d9 + 10) [.ref x0, .int x1] σ (xI r) := by
  subst e9
  exact vv_head (by decide +kernel) rfl (Nat.le_of_ble_eq_true rfl) rfl (v_KX1_opened_0 hG hH hfo h)
/-! ('X1', 'isLike') -/
def BKX1_isLike_5 (k5 : Nat → Nat → Int32 → Int32 → vv_S → Option Int32) (x0 : Nat) (x1 : Nat) (x2 : Int32) (x3 : Int32) (σ : vv_S) : Option Int32 := if ((nI 8) * (x2 + (nI 1))) ≤ x3 then (some (nI 1)) else ((aI σ .int x0 x3).bind fun v2 => (aI σ .int x1 x3).bind fun v3 => if v2 = v3 then (k5 x0 x1 x2 (x3 + (nI 1)) σ) else (some (nI 0)))
def KX1_isLike_5 : Nat → Nat → Nat → Int32 → Int32 → vv_S → Option Int32
  | 0, _, _, _, _, _ => none
  | n + 1, x0, x1, x2, x3, σ => BKX1_isLike_5 (KX1_isLike_5 n) x0 x1 x2 x3 σ
theorem vb_KX1_isLike_5 {l : Launch} {G : vv_G} {d : Nat} {ad : Nat → Nat} (hG : vv_gok G) (hH : vv_hy l G ad) {k5 : Nat → Nat → Int32 → Int32 → vv_S → Option Int32} (hk5 : ∀ {x0 : Nat} {x1 : Nat} {x2 : Int32} {x3 : Int32} {σ : vv_S} {r : Int32}, k5 x0 x1 x2 x3 σ = some r → vv_V l G MX1_isLike (d + 0) 5 [(0, .ref x0), (1, .ref x1), (2, .int x2), (3, .int x3)] [] σ (.inl (some (.int r)), σ)) {x0 : Nat} {x1 : Nat} {x2 : Int32} {x3 : Int32} {σ : vv_S} {r : Int32} (h : BKX1_isLike_5 k5 x0 x1 x2 x3 σ = some r) : vv_V l G MX1_isLike (d + 0) 5 [(0, .ref x0), (1, .ref x1), (2, .int x2), (3, .int x3)] [] σ (.inl (some (.int r)), σ) := by
  unfold BKX1_isLike_5 at h
  refine vv_iload_n dX1_isLike_5 rfl 3 rfl ?_
  refine vv_bipush (v := (nI 8)) dX1_isLike_6 (by decide) ?_
  refine vv_iload_n dX1_isLike_8 rfl 2 rfl ?_
  refine vv_iconst (v := (nI 1)) dX1_isLike_9 (by decide) ?_
  refine vv_iadd dX1_isLike_10 ?_
  refine vv_imul dX1_isLike_11 ?_
  refine vv_icmp_ge (tgt := 32) dX1_isLike_12 (by decide) (fun c1 => ?_) (fun c1 => ?_)
  · rw [if_pos c1] at h
    refine vv_iconst (v := (nI 1)) dX1_isLike_32 (by decide) ?_
    cases h
    exact vv_zret rfl (by decide) dX1_isLike_33
  · rw [if_neg c1] at h
    refine vv_aload_n dX1_isLike_15 rfl 0 rfl ?_
    refine vv_iload_n dX1_isLike_16 rfl 3 rfl ?_
    replace h := aI_o h; obtain ⟨v2, fv2, nv2, qv2, ev2, iv2, wv2, h⟩ := h
    refine vv_iald ev2 iv2 dX1_isLike_17 ?_
    rw [wv2]
    refine vv_aload_n dX1_isLike_18 rfl 1 rfl ?_
    refine vv_iload_n dX1_isLike_19 rfl 3 rfl ?_
    replace h := aI_o h; obtain ⟨v3, fv3, nv3, qv3, ev3, iv3, wv3, h⟩ := h
    refine vv_iald ev3 iv3 dX1_isLike_20 ?_
    rw [wv3]
    refine vv_icmp_eq (tgt := 26) dX1_isLike_21 (by decide) (fun c4 => ?_) (fun c4 => ?_)
    · rw [if_pos c4] at h
      refine vv_iinc (v := (x3 + (nI 1))) (lv' := [(0, .ref x0), (1, .ref x1), (2, .int x2), (3, .int (x3 + (nI 1)))]) dX1_isLike_26 3 rfl rfl (by decide) [1, 2, 3, 0] rfl ?_
      refine vv_goto (tgt := 5) dX1_isLike_29 (by decide) ?_
      exact hk5 h
    · rw [if_neg c4] at h
      refine vv_iconst (v := (nI 0)) dX1_isLike_24 (by decide) ?_
      cases h
      exact vv_zret rfl (by decide) dX1_isLike_25
theorem v_KX1_isLike_5 {l : Launch} {G : vv_G} {d : Nat} {ad : Nat → Nat} (hG : vv_gok G) (hH : vv_hy l G ad) : ∀ (n : Nat) {x0 : Nat} {x1 : Nat} {x2 : Int32} {x3 : Int32} {σ : vv_S} {r : Int32}, KX1_isLike_5 n x0 x1 x2 x3 σ = some r → vv_V l G MX1_isLike (d + 0) 5 [(0, .ref x0), (1, .ref x1), (2, .int x2), (3, .int x3)] [] σ (.inl (some (.int r)), σ) := by
  intro n
  induction n with
  | zero => intro _ _ _ _ _ _ h; cases h
  | succ n ih => intro _ _ _ _ _ _ h; exact vb_KX1_isLike_5 hG hH ih h
def KX1_isLike (x0 : Nat) (x1 : Nat) (x2 : Int32) (σ : vv_S) : Option Int32 := KX1_isLike_5 NN x0 x1 x2 ((nI 8) * x2) σ
theorem v_KX1_isLike_0 {l : Launch} {G : vv_G} {d : Nat} {ad : Nat → Nat} (hG : vv_gok G) (hH : vv_hy l G ad) {x0 : Nat} {x1 : Nat} {x2 : Int32} {σ : vv_S} {r : Int32} (h : KX1_isLike x0 x1 x2 σ = some r) : vv_V l G MX1_isLike (d + 0) 0 [(0, .ref x0), (1, .ref x1), (2, .int x2)] [] σ (.inl (some (.int r)), σ) := by
  unfold KX1_isLike at h
  refine vv_bipush (v := (nI 8)) dX1_isLike_0 (by decide) ?_
  refine vv_iload_n dX1_isLike_2 rfl 2 rfl ?_
  refine vv_imul dX1_isLike_3 ?_
  refine vv_istore_n (lv' := [(0, .ref x0), (1, .ref x1), (2, .int x2), (3, .int ((nI 8) * x2))]) dX1_isLike_4 rfl (by decide) [1, 2, 3, 0] rfl ?_
  exact v_KX1_isLike_5 hG hH NN h
theorem m_KX1_isLike {l : Launch} {G : vv_G} {ad : Nat → Nat} (hG : vv_gok G) (hH : vv_hy l G ad) {x0 : Nat} {x1 : Nat} {x2 : Int32} {σ : vv_S} {r : Int32} (h : KX1_isLike x0 x1 x2 σ = some r) (d : Nat) : vv_Met l G MX1_isLike (d + 0) [.ref x0, .ref x1, .int x2] σ (.inl (some (.int r)), σ) := vv_head (by decide +kernel) rfl (Nat.le_of_ble_eq_true rfl) rfl (v_KX1_isLike_0 hG hH h)
/-! ('X1', 'next') -/
def KX1_next_259 (fo : Nat → Nat → vv_S → Option Int32) (ad : Nat → Nat) (s0 : Int32) (σ : vv_S) : Option (hX (Int32 × vv_S)) := some (.inl (s0, σ))
theorem v_KX1_next_259 {l : Launch} {G : vv_G} {d : Nat} {ad : Nat → Nat} {fo : Nat → Nat → vv_S → Option Int32} (hG : vv_gok G) (hH : vv_hy l G ad) (hfo : ∀ {a vs : Nat} {σ : vv_S} {r : Int32}, fo a vs σ = some r → vv_Form l G d a vs σ r) {s0 : Int32} {σ : vv_S} {r : hX (Int32 × vv_S)} (h : KX1_next_259 fo ad s0 σ = some r) : vv_V l G MX1_next (d + 10) 259 [] [.int s0] σ (xI r) := by
  unfold KX1_next_259 at h
  cases h
  exact vv_iret rfl dX1_next_259
def KX1_next_243 (fo : Nat → Nat → vv_S → Option Int32) (ad : Nat → Nat) (k127 : Int32 → Nat → Int32 → Int32 → Int32 → vv_S → Option (hX (Int32 × vv_S))) (x1 : Int32) (x2 : Nat) (x3 : Int32) (x4 : Int32) (x5 : Int32) (σ : vv_S) : Option (hX (Int32 × vv_S)) := k127 x1 x2 x3 x4 (x5 + (nI 1)) σ
theorem v_KX1_next_243 {l : Launch} {G : vv_G} {d : Nat} {ad : Nat → Nat} {fo : Nat → Nat → vv_S → Option Int32} (hG : vv_gok G) (hH : vv_hy l G ad) (hfo : ∀ {a vs : Nat} {σ : vv_S} {r : Int32}, fo a vs σ = some r → vv_Form l G d a vs σ r) {k127 : Int32 → Nat → Int32 → Int32 → Int32 → vv_S → Option (hX (Int32 × vv_S))} (hk127 : ∀ {x1 : Int32} {x2 : Nat} {x3 : Int32} {x4 : Int32} {x5 : Int32} {σ : vv_S} {r : hX (Int32 × vv_S)}, k127 x1 x2 x3 x4 x5 σ = some r → vv_V l G MX1_next (d + 10) 127 [(1, .int x1), (2, .ref x2), (3, .int x3), (4, .int x4), (5, .int x5)] [] σ (xI r)) {x1 : Int32} {x2 : Nat} {x3 : Int32} {x4 : Int32} {x5 : Int32} {σ : vv_S} {r : hX (Int32 × vv_S)} (h : KX1_next_243 fo ad k127 x1 x2 x3 x4 x5 σ = some r) : vv_V l G MX1_next (d + 10) 243 [(1, .int x1), (2, .ref x2), (3, .int x3), (4, .int x4), (5, .int x5)] [] σ (xI r) := by
  unfold KX1_next_243 at h
  refine vv_iinc (v := (x5 + (nI 1))) (lv' := [(1, .int x1), (2, .ref x2), (3, .int x3), (4, .int x4), (5, .int (x5 + (nI 1)))]) dX1_next_243 4 rfl rfl (by decide) [1, 2, 3, 4, 0] rfl ?_
  refine vv_goto (tgt := 127) dX1_next_246 (by decide) ?_
  exact hk127 h
def KX1_next_220 (fo : Nat → Nat → vv_S → Option Int32) (ad : Nat → Nat) (k127 : Int32 → Nat → Int32 → Int32 → Int32 → vv_S → Option (hX (Int32 × vv_S))) (k140 : Int32 → Nat → Int32 → Int32 → Int32 → Int32 → Int32 → vv_S → Option (hX (Int32 × vv_S))) (x1 : Int32) (x2 : Nat) (x3 : Int32) (x4 : Int32) (x5 : Int32) (x6 : Int32) (x7 : Int32) (σ : vv_S) : Option (hX (Int32 × vv_S)) := k140 x1 x2 x3 x4 x5 x6 (x7 + (nI 1)) σ
theorem v_KX1_next_220 {l : Launch} {G : vv_G} {d : Nat} {ad : Nat → Nat} {fo : Nat → Nat → vv_S → Option Int32} (hG : vv_gok G) (hH : vv_hy l G ad) (hfo : ∀ {a vs : Nat} {σ : vv_S} {r : Int32}, fo a vs σ = some r → vv_Form l G d a vs σ r) {k127 : Int32 → Nat → Int32 → Int32 → Int32 → vv_S → Option (hX (Int32 × vv_S))} (hk127 : ∀ {x1 : Int32} {x2 : Nat} {x3 : Int32} {x4 : Int32} {x5 : Int32} {σ : vv_S} {r : hX (Int32 × vv_S)}, k127 x1 x2 x3 x4 x5 σ = some r → vv_V l G MX1_next (d + 10) 127 [(1, .int x1), (2, .ref x2), (3, .int x3), (4, .int x4), (5, .int x5)] [] σ (xI r)) {k140 : Int32 → Nat → Int32 → Int32 → Int32 → Int32 → Int32 → vv_S → Option (hX (Int32 × vv_S))} (hk140 : ∀ {x1 : Int32} {x2 : Nat} {x3 : Int32} {x4 : Int32} {x5 : Int32} {x6 : Int32} {x7 : Int32} {σ : vv_S} {r : hX (Int32 × vv_S)}, k140 x1 x2 x3 x4 x5 x6 x7 σ = some r → vv_V l G MX1_next (d + 10) 140 [(1, .int x1), (2, .ref x2), (3, .int x3), (4, .int x4), (5, .int x5), (6, .int x6), (7, .int x7)] [] σ (xI r)) {x1 : Int32} {x2 : Nat} {x3 : Int32} {x4 : Int32} {x5 : Int32} {x6 : Int32} {x7 : Int32} {σ : vv_S} {r : hX (Int32 × vv_S)} (h : KX1_next_220 fo ad k127 k140 x1 x2 x3 x4 x5 x6 x7 σ = some r) : vv_V l G MX1_next (d + 10) 220 [(1, .int x1), (2, .ref x2), (3, .int x3), (4, .int x4), (5, .int x5), (6, .int x6), (7, .int x7)] [] σ (xI r) := by
  unfold KX1_next_220 at h
  refine vv_iinc (v := (x7 + (nI 1))) (lv' := [(1, .int x1), (2, .ref x2), (3, .int x3), (4, .int x4), (5, .int x5), (6, .int x6), (7, .int (x7 + (nI 1)))]) dX1_next_220 6 rfl rfl (by decide) [1, 2, 3, 4, 5, 6, 0] rfl ?_
  refine vv_goto (tgt := 140) dX1_next_223 (by decide) ?_
  exact hk140 h
def KX1_next_212 (fo : Nat → Nat → vv_S → Option Int32) (ad : Nat → Nat) (k127 : Int32 → Nat → Int32 → Int32 → Int32 → vv_S → Option (hX (Int32 × vv_S))) (k140 : Int32 → Nat → Int32 → Int32 → Int32 → Int32 → Int32 → vv_S → Option (hX (Int32 × vv_S))) (x1 : Int32) (x2 : Nat) (x3 : Int32) (x4 : Int32) (x5 : Int32) (x6 : Int32) (x7 : Int32) (x8 : Int32) (σ : vv_S) : Option (hX (Int32 × vv_S)) := if x8 = 0 then (KX1_next_220 fo ad k127 k140 x1 x2 x3 x4 x5 x6 x7 σ) else (KX1_next_220 fo ad k127 k140 x1 x2 x3 x4 x5 (x6 + (nI 1)) x7 σ)
theorem v_KX1_next_212 {l : Launch} {G : vv_G} {d : Nat} {ad : Nat → Nat} {fo : Nat → Nat → vv_S → Option Int32} (hG : vv_gok G) (hH : vv_hy l G ad) (hfo : ∀ {a vs : Nat} {σ : vv_S} {r : Int32}, fo a vs σ = some r → vv_Form l G d a vs σ r) {k127 : Int32 → Nat → Int32 → Int32 → Int32 → vv_S → Option (hX (Int32 × vv_S))} (hk127 : ∀ {x1 : Int32} {x2 : Nat} {x3 : Int32} {x4 : Int32} {x5 : Int32} {σ : vv_S} {r : hX (Int32 × vv_S)}, k127 x1 x2 x3 x4 x5 σ = some r → vv_V l G MX1_next (d + 10) 127 [(1, .int x1), (2, .ref x2), (3, .int x3), (4, .int x4), (5, .int x5)] [] σ (xI r)) {k140 : Int32 → Nat → Int32 → Int32 → Int32 → Int32 → Int32 → vv_S → Option (hX (Int32 × vv_S))} (hk140 : ∀ {x1 : Int32} {x2 : Nat} {x3 : Int32} {x4 : Int32} {x5 : Int32} {x6 : Int32} {x7 : Int32} {σ : vv_S} {r : hX (Int32 × vv_S)}, k140 x1 x2 x3 x4 x5 x6 x7 σ = some r → vv_V l G MX1_next (d + 10) 140 [(1, .int x1), (2, .ref x2), (3, .int x3), (4, .int x4), (5, .int x5), (6, .int x6), (7, .int x7)] [] σ (xI r)) {x1 : Int32} {x2 : Nat} {x3 : Int32} {x4 : Int32} {x5 : Int32} {x6 : Int32} {x7 : Int32} {x8 : Int32} {σ : vv_S} {r : hX (Int32 × vv_S)} (h : KX1_next_212 fo ad k127 k140 x1 x2 x3 x4 x5 x6 x7 x8 σ = some r) : vv_V l G MX1_next (d + 10) 212 [(1, .int x1), (2, .ref x2), (3, .int x3), (4, .int x4), (5, .int x5), (6, .int x6), (7, .int x7), (8, .int x8)] [] σ (xI r) := by
  unfold KX1_next_212 at h
  refine vv_iload dX1_next_212 7 rfl ?_
  refine vv_if_eq (tgt := 220) dX1_next_214 (by decide) (fun c1 => ?_) (fun c1 => ?_)
  · rw [if_pos c1] at h
    refine vv_sub (lv' := [(1, .int x1), (2, .ref x2), (3, .int x3), (4, .int x4), (5, .int x5), (6, .int x6), (7, .int x7)]) [0, 1, 2, 3, 4, 5, 6] rfl ?_
    exact v_KX1_next_220 hG hH hfo hk127 hk140 h
  · rw [if_neg c1] at h
    refine vv_iinc (v := (x6 + (nI 1))) (lv' := [(1, .int x1), (2, .ref x2), (3, .int x3), (4, .int x4), (5, .int x5), (6, .int (x6 + (nI 1))), (7, .int x7), (8, .int x8)]) dX1_next_217 5 rfl rfl (by decide) [1, 2, 3, 4, 5, 0, 6, 7] rfl ?_
    refine vv_sub (lv' := [(1, .int x1), (2, .ref x2), (3, .int x3), (4, .int x4), (5, .int x5), (6, .int (x6 + (nI 1))), (7, .int x7)]) [0, 1, 2, 3, 4, 5, 6] rfl ?_
    exact v_KX1_next_220 hG hH hfo hk127 hk140 h
def KX1_next_204 (fo : Nat → Nat → vv_S → Option Int32) (ad : Nat → Nat) (k127 : Int32 → Nat → Int32 → Int32 → Int32 → vv_S → Option (hX (Int32 × vv_S))) (k140 : Int32 → Nat → Int32 → Int32 → Int32 → Int32 → Int32 → vv_S → Option (hX (Int32 × vv_S))) (k157 : Int32 → Nat → Int32 → Int32 → Int32 → Int32 → Int32 → Int32 → Int32 → vv_S → Option (hX (Int32 × vv_S))) (s0 : Int32) (x1 : Int32) (x2 : Nat) (x3 : Int32) (x4 : Int32) (x5 : Int32) (x6 : Int32) (x7 : Int32) (x9 : Int32) (σ : vv_S) : Option (hX (Int32 × vv_S)) := k157 x1 x2 x3 x4 x5 x6 x7 s0 (x9 + (nI 1)) σ
theorem v_KX1_next_204 {l : Launch} {G : vv_G} {d : Nat} {ad : Nat → Nat} {fo : Nat → Nat → vv_S → Option Int32} (hG : vv_gok G) (hH : vv_hy l G ad) (hfo : ∀ {a vs : Nat} {σ : vv_S} {r : Int32}, fo a vs σ = some r → vv_Form l G d a vs σ r) {k127 : Int32 → Nat → Int32 → Int32 → Int32 → vv_S → Option (hX (Int32 × vv_S))} (hk127 : ∀ {x1 : Int32} {x2 : Nat} {x3 : Int32} {x4 : Int32} {x5 : Int32} {σ : vv_S} {r : hX (Int32 × vv_S)}, k127 x1 x2 x3 x4 x5 σ = some r → vv_V l G MX1_next (d + 10) 127 [(1, .int x1), (2, .ref x2), (3, .int x3), (4, .int x4), (5, .int x5)] [] σ (xI r)) {k140 : Int32 → Nat → Int32 → Int32 → Int32 → Int32 → Int32 → vv_S → Option (hX (Int32 × vv_S))} (hk140 : ∀ {x1 : Int32} {x2 : Nat} {x3 : Int32} {x4 : Int32} {x5 : Int32} {x6 : Int32} {x7 : Int32} {σ : vv_S} {r : hX (Int32 × vv_S)}, k140 x1 x2 x3 x4 x5 x6 x7 σ = some r → vv_V l G MX1_next (d + 10) 140 [(1, .int x1), (2, .ref x2), (3, .int x3), (4, .int x4), (5, .int x5), (6, .int x6), (7, .int x7)] [] σ (xI r)) {k157 : Int32 → Nat → Int32 → Int32 → Int32 → Int32 → Int32 → Int32 → Int32 → vv_S → Option (hX (Int32 × vv_S))} (hk157 : ∀ {x1 : Int32} {x2 : Nat} {x3 : Int32} {x4 : Int32} {x5 : Int32} {x6 : Int32} {x7 : Int32} {x8 : Int32} {x9 : Int32} {σ : vv_S} {r : hX (Int32 × vv_S)}, k157 x1 x2 x3 x4 x5 x6 x7 x8 x9 σ = some r → vv_V l G MX1_next (d + 10) 157 [(1, .int x1), (2, .ref x2), (3, .int x3), (4, .int x4), (5, .int x5), (6, .int x6), (7, .int x7), (8, .int x8), (9, .int x9)] [] σ (xI r)) {s0 : Int32} {x1 : Int32} {x2 : Nat} {x3 : Int32} {x4 : Int32} {x5 : Int32} {x6 : Int32} {x7 : Int32} {x9 : Int32} {σ : vv_S} {r : hX (Int32 × vv_S)} (h : KX1_next_204 fo ad k127 k140 k157 s0 x1 x2 x3 x4 x5 x6 x7 x9 σ = some r) : vv_V l G MX1_next (d + 10) 204 [(1, .int x1), (2, .ref x2), (3, .int x3), (4, .int x4), (5, .int x5), (6, .int x6), (7, .int x7), (9, .int x9)] [.int s0] σ (xI r) := by
  unfold KX1_next_204 at h
  refine vv_istore (lv' := [(1, .int x1), (2, .ref x2), (3, .int x3), (4, .int x4), (5, .int x5), (6, .int x6), (7, .int x7), (8, .int s0), (9, .int x9)]) dX1_next_204 (by decide) [1, 2, 3, 4, 5, 6, 7, 0, 8] rfl ?_
  refine vv_iinc (v := (x9 + (nI 1))) (lv' := [(1, .int x1), (2, .ref x2), (3, .int x3), (4, .int x4), (5, .int x5), (6, .int x6), (7, .int x7), (8, .int s0), (9, .int (x9 + (nI 1)))]) dX1_next_206 8 rfl rfl (by decide) [1, 2, 3, 4, 5, 6, 7, 8, 0] rfl ?_
  refine vv_goto (tgt := 157) dX1_next_209 (by decide) ?_
  exact hk157 h
def BKX1_next_157 (fo : Nat → Nat → vv_S → Option Int32) (ad : Nat → Nat) (k127 : Int32 → Nat → Int32 → Int32 → Int32 → vv_S → Option (hX (Int32 × vv_S))) (k140 : Int32 → Nat → Int32 → Int32 → Int32 → Int32 → Int32 → vv_S → Option (hX (Int32 × vv_S))) (k157 : Int32 → Nat → Int32 → Int32 → Int32 → Int32 → Int32 → Int32 → Int32 → vv_S → Option (hX (Int32 × vv_S))) (x1 : Int32) (x2 : Nat) (x3 : Int32) (x4 : Int32) (x5 : Int32) (x6 : Int32) (x7 : Int32) (x8 : Int32) (x9 : Int32) (σ : vv_S) : Option (hX (Int32 × vv_S)) := if x7 ≤ x9 then (KX1_next_212 fo ad k127 k140 x1 x2 x3 x4 x5 x6 x7 x8 σ) else (if x8 = 0 then (KX1_next_212 fo ad k127 k140 x1 x2 x3 x4 x5 x6 x7 x8 σ) else ((isO σ x2 11).bind fun _ => (KJ2_get x2 x9 σ).bind fun r3 => (isA σ r3 .int).bind fun _ => (isO σ x2 11).bind fun _ => (KJ2_get x2 x7 σ).bind fun r6 => (isA σ r6 .int).bind fun _ => (KX1_isLike r3 r6 x5 σ).bind fun r9 => if r9 = 0 then (KX1_next_204 fo ad k127 k140 k157 (nI 1) x1 x2 x3 x4 x5 x6 x7 x9 σ) else (KX1_next_204 fo ad k127 k140 k157 (nI 0) x1 x2 x3 x4 x5 x6 x7 x9 σ)))
def KX1_next_157 (fo : Nat → Nat → vv_S → Option Int32) (ad : Nat → Nat) (k127 : Int32 → Nat → Int32 → Int32 → Int32 → vv_S → Option (hX (Int32 × vv_S))) (k140 : Int32 → Nat → Int32 → Int32 → Int32 → Int32 → Int32 → vv_S → Option (hX (Int32 × vv_S))) : Nat → Int32 → Nat → Int32 → Int32 → Int32 → Int32 → Int32 → Int32 → Int32 → vv_S → Option (hX (Int32 × vv_S))
  | 0, _, _, _, _, _, _, _, _, _, _ => none
  | n + 1, x1, x2, x3, x4, x5, x6, x7, x8, x9, σ => BKX1_next_157 fo ad k127 k140 (KX1_next_157 fo ad k127 k140 n) x1 x2 x3 x4 x5 x6 x7 x8 x9 σ
theorem vb_KX1_next_157 {l : Launch} {G : vv_G} {d : Nat} {ad : Nat → Nat} {fo : Nat → Nat → vv_S → Option Int32} (hG : vv_gok G) (hH : vv_hy l G ad) (hfo : ∀ {a vs : Nat} {σ : vv_S} {r : Int32}, fo a vs σ = some r → vv_Form l G d a vs σ r) {k127 : Int32 → Nat → Int32 → Int32 → Int32 → vv_S → Option (hX (Int32 × vv_S))} (hk127 : ∀ {x1 : Int32} {x2 : Nat} {x3 : Int32} {x4 : Int32} {x5 : Int32} {σ : vv_S} {r : hX (Int32 × vv_S)}, k127 x1 x2 x3 x4 x5 σ = some r → vv_V l G MX1_next (d + 10) 127 [(1, .int x1), (2, .ref x2), (3, .int x3), (4, .int x4), (5, .int x5)] [] σ (xI r)) {k140 : Int32 → Nat → Int32 → Int32 → Int32 → Int32 → Int32 → vv_S → Option (hX (Int32 × vv_S))} (hk140 : ∀ {x1 : Int32} {x2 : Nat} {x3 : Int32} {x4 : Int32} {x5 : Int32} {x6 : Int32} {x7 : Int32} {σ : vv_S} {r : hX (Int32 × vv_S)}, k140 x1 x2 x3 x4 x5 x6 x7 σ = some r → vv_V l G MX1_next (d + 10) 140 [(1, .int x1), (2, .ref x2), (3, .int x3), (4, .int x4), (5, .int x5), (6, .int x6), (7, .int x7)] [] σ (xI r)) {k157 : Int32 → Nat → Int32 → Int32 → Int32 → Int32 → Int32 → Int32 → Int32 → vv_S → Option (hX (Int32 × vv_S))} (hk157 : ∀ {x1 : Int32} {x2 : Nat} {x3 : Int32} {x4 : Int32} {x5 : Int32} {x6 : Int32} {x7 : Int32} {x8 : Int32} {x9 : Int32} {σ : vv_S} {r : hX (Int32 × vv_S)}, k157 x1 x2 x3 x4 x5 x6 x7 x8 x9 σ = some r → vv_V l G MX1_next (d + 10) 157 [(1, .int x1), (2, .ref x2), (3, .int x3), (4, .int x4), (5, .int x5), (6, .int x6), (7, .int x7), (8, .int x8), (9, .int x9)] [] σ (xI r)) {x1 : Int32} {x2 : Nat} {x3 : Int32} {x4 : Int32} {x5 : Int32} {x6 : Int32} {x7 : Int32} {x8 : Int32} {x9 : Int32} {σ : vv_S} {r : hX (Int32 × vv_S)} (h : BKX1_next_157 fo ad k127 k140 k157 x1 x2 x3 x4 x5 x6 x7 x8 x9 σ = some r) : vv_V l G MX1_next (d + 10) 157 [(1, .int x1), (2, .ref x2), (3, .int x3), (4, .int x4), (5, .int x5), (6, .int x6), (7, .int x7), (8, .int x8), (9, .int x9)] [] σ (xI r) := by
  unfold BKX1_next_157 at h
  refine vv_iload dX1_next_157 8 rfl ?_
  refine vv_iload dX1_next_159 6 rfl ?_
  refine vv_icmp_ge (tgt := 212) dX1_next_161 (by decide) (fun c1 => ?_) (fun c1 => ?_)
  · rw [if_pos c1] at h
    refine vv_sub (lv' := [(1, .int x1), (2, .ref x2), (3, .int x3), (4, .int x4), (5, .int x5), (6, .int x6), (7, .int x7), (8, .int x8)]) [0, 1, 2, 3, 4, 5, 6, 7] rfl ?_
    exact v_KX1_next_212 hG hH hfo hk127 hk140 h
  · rw [if_neg c1] at h
    refine vv_iload dX1_next_164 7 rfl ?_
    refine vv_if_eq (tgt := 212) dX1_next_166 (by decide) (fun c2 => ?_) (fun c2 => ?_)
    · rw [if_pos c2] at h
      refine vv_sub (lv' := [(1, .int x1), (2, .ref x2), (3, .int x3), (4, .int x4), (5, .int x5), (6, .int x6), (7, .int x7), (8, .int x8)]) [0, 1, 2, 3, 4, 5, 6, 7] rfl ?_
      exact v_KX1_next_212 hG hH hfo hk127 hk140 h
    · rw [if_neg c2] at h
      refine vv_aload_n dX1_next_169 rfl 1 rfl ?_
      refine vv_iload dX1_next_170 8 rfl ?_
      replace h := isO_o h; obtain ⟨fz4, sz4, ez4, h⟩ := h
      replace h := bd_o h; obtain ⟨r3, er3, h⟩ := h
      refine vv_callF (xx := ⟨"java/util/List", "get", "(I)Ljava/lang/Object;"⟩) okf_J2_get q1278 (m_KJ2_get hG hH er3 d) rfl (by omega) ⟨_, _, _, _, _, ez4, by rw [hG.1]; rfl⟩ q481 (fun U hK => hH.1.2.2.1 U hK _ (List.mem_of_getElem? (i := 3) rfl)) ⟨by decide, by decide, by decide +kernel⟩ rfl rfl (Nat.le_of_ble_eq_true rfl) dX1_next_172 ?_
      replace h := isA_o h; obtain ⟨fz5, xz5, ez5, kz5, h⟩ := h
      refine vv_cast (C := "[I") ez5 (by show ("[" ++ xz5.1.toString) = "[I"; rw [kz5]; decide) q1449 (Or.inl rfl) dX1_next_177 ?_
      refine vv_aload_n dX1_next_180 rfl 1 rfl ?_
      refine vv_iload dX1_next_181 6 rfl ?_
      replace h := isO_o h; obtain ⟨fz7, sz7, ez7, h⟩ := h
      replace h := bd_o h; obtain ⟨r6, er6, h⟩ := h
      refine vv_callF (xx := ⟨"java/util/List", "get", "(I)Ljava/lang/Object;"⟩) okf_J2_get q1278 (m_KJ2_get hG hH er6 d) rfl (by omega) ⟨_, _, _, _, _, ez7, by rw [hG.1]; rfl⟩ q481 (fun U hK => hH.1.2.2.1 U hK _ (List.mem_of_getElem? (i := 3) rfl)) ⟨by decide, by decide, by decide +kernel⟩ rfl rfl (Nat.le_of_ble_eq_true rfl) dX1_next_183 ?_
      replace h := isA_o h; obtain ⟨fz8, xz8, ez8, kz8, h⟩ := h
      refine vv_cast (C := "[I") ez8 (by show ("[" ++ xz8.1.toString) = "[I"; rw [kz8]; decide) q1449 (Or.inl rfl) dX1_next_188 ?_
      refine vv_iload dX1_next_191 4 rfl ?_
      replace h := bd_o h; obtain ⟨r9, er9, h⟩ := h
      refine vv_callS ok_X1_isLike q1462 (m_KX1_isLike hG hH er9 d) rfl (by omega) rfl rfl (Nat.le_of_ble_eq_true rfl) dX1_next_193 ?_
      refine vv_if_ne (tgt := 203) dX1_next_196 (by decide) (fun c10 => ?_) (fun c10 => ?_)
      · rw [if_neg c10] at h
        refine vv_iconst (v := (nI 0)) dX1_next_203 (by decide) ?_
        refine vv_sub (lv' := [(1, .int x1), (2, .ref x2), (3, .int x3), (4, .int x4), (5, .int x5), (6, .int x6), (7, .int x7), (9, .int x9)]) [0, 1, 2, 3, 4, 5, 6, 8] rfl ?_
        exact v_KX1_next_204 hG hH hfo hk127 hk140 hk157 h
      · rw [if_pos c10] at h
        refine vv_iconst (v := (nI 1)) dX1_next_199 (by decide) ?_
        refine vv_goto (tgt := 204) dX1_next_200 (by decide) ?_
        refine vv_sub (lv' := [(1, .int x1), (2, .ref x2), (3, .int x3), (4, .int x4), (5, .int x5), (6, .int x6), (7, .int x7), (9, .int x9)]) [0, 1, 2, 3, 4, 5, 6, 8] rfl ?_
        exact v_KX1_next_204 hG hH hfo hk127 hk140 hk157 h
theorem v_KX1_next_157 {l : Launch} {G : vv_G} {d : Nat} {ad : Nat → Nat} {fo : Nat → Nat → vv_S → Option Int32} (hG : vv_gok G) (hH : vv_hy l G ad) (hfo : ∀ {a vs : Nat} {σ : vv_S} {r : Int32}, fo a vs σ = some r → vv_Form l G d a vs σ r) {k127 : Int32 → Nat → Int32 → Int32 → Int32 → vv_S → Option (hX (Int32 × vv_S))} (hk127 : ∀ {x1 : Int32} {x2 : Nat} {x3 : Int32} {x4 : Int32} {x5 : Int32} {σ : vv_S} {r : hX (Int32 × vv_S)}, k127 x1 x2 x3 x4 x5 σ = some r → vv_V l G MX1_next (d + 10) 127 [(1, .int x1), (2, .ref x2), (3, .int x3), (4, .int x4), (5, .int x5)] [] σ (xI r)) {k140 : Int32 → Nat → Int32 → Int32 → Int32 → Int32 → Int32 → vv_S → Option (hX (Int32 × vv_S))} (hk140 : ∀ {x1 : Int32} {x2 : Nat} {x3 : Int32} {x4 : Int32} {x5 : Int32} {x6 : Int32} {x7 : Int32} {σ : vv_S} {r : hX (Int32 × vv_S)}, k140 x1 x2 x3 x4 x5 x6 x7 σ = some r → vv_V l G MX1_next (d + 10) 140 [(1, .int x1), (2, .ref x2), (3, .int x3), (4, .int x4), (5, .int x5), (6, .int x6), (7, .int x7)] [] σ (xI r)) : ∀ (n : Nat) {x1 : Int32} {x2 : Nat} {x3 : Int32} {x4 : Int32} {x5 : Int32} {x6 : Int32} {x7 : Int32} {x8 : Int32} {x9 : Int32} {σ : vv_S} {r : hX (Int32 × vv_S)}, KX1_next_157 fo ad k127 k140 n x1 x2 x3 x4 x5 x6 x7 x8 x9 σ = some r → vv_V l G MX1_next (d + 10) 157 [(1, .int x1), (2, .ref x2), (3, .int x3), (4, .int x4), (5, .int x5), (6, .int x6), (7, .int x7), (8, .int x8), (9, .int x9)] [] σ (xI r) := by
  intro n
  induction n with
  | zero => intro _ _ _ _ _ _ _ _ _ _ _ h; cases h
  | succ n ih => intro _ _ _ _ _ _ _ _ _ _ _ h; exact vb_KX1_next_157 hG hH hfo hk127 hk140 ih h
def BKX1_next_140 (fo : Nat → Nat → vv_S → Option Int32) (ad : Nat → Nat) (k127 : Int32 → Nat → Int32 → Int32 → Int32 → vv_S → Option (hX (Int32 × vv_S))) (k140 : Int32 → Nat → Int32 → Int32 → Int32 → Int32 → Int32 → vv_S → Option (hX (Int32 × vv_S))) (x1 : Int32) (x2 : Nat) (x3 : Int32) (x4 : Int32) (x5 : Int32) (x6 : Int32) (x7 : Int32) (σ : vv_S) : Option (hX (Int32 × vv_S)) := (isO σ x2 11).bind fun _ => (KJ2_size x2 σ).bind fun r1 => if r1 ≤ x7 then (if x4 < x6 then (KX1_next_243 fo ad k127 x1 x2 x5 x6 x5 σ) else (KX1_next_243 fo ad k127 x1 x2 x3 x4 x5 σ)) else (KX1_next_157 fo ad k127 k140 NN x1 x2 x3 x4 x5 x6 x7 (nI 1) (nI 0) σ)
def KX1_next_140 (fo : Nat → Nat → vv_S → Option Int32) (ad : Nat → Nat) (k127 : Int32 → Nat → Int32 → Int32 → Int32 → vv_S → Option (hX (Int32 × vv_S))) : Nat → Int32 → Nat → Int32 → Int32 → Int32 → Int32 → Int32 → vv_S → Option (hX (Int32 × vv_S))
  | 0, _, _, _, _, _, _, _, _ => none
  | n + 1, x1, x2, x3, x4, x5, x6, x7, σ => BKX1_next_140 fo ad k127 (KX1_next_140 fo ad k127 n) x1 x2 x3 x4 x5 x6 x7 σ
theorem vb_KX1_next_140 {l : Launch} {G : vv_G} {d : Nat} {ad : Nat → Nat} {fo : Nat → Nat → vv_S → Option Int32} (hG : vv_gok G) (hH : vv_hy l G ad) (hfo : ∀ {a vs : Nat} {σ : vv_S} {r : Int32}, fo a vs σ = some r → vv_Form l G d a vs σ r) {k127 : Int32 → Nat → Int32 → Int32 → Int32 → vv_S → Option (hX (Int32 × vv_S))} (hk127 : ∀ {x1 : Int32} {x2 : Nat} {x3 : Int32} {x4 : Int32} {x5 : Int32} {σ : vv_S} {r : hX (Int32 × vv_S)}, k127 x1 x2 x3 x4 x5 σ = some r → vv_V l G MX1_next (d + 10) 127 [(1, .int x1), (2, .ref x2), (3, .int x3), (4, .int x4), (5, .int x5)] [] σ (xI r)) {k140 : Int32 → Nat → Int32 → Int32 → Int32 → Int32 → Int32 → vv_S → Option (hX (Int32 × vv_S))} (hk140 : ∀ {x1 : Int32} {x2 : Nat} {x3 : Int32} {x4 : Int32} {x5 : Int32} {x6 : Int32} {x7 : Int32} {σ : vv_S} {r : hX (Int32 × vv_S)}, k140 x1 x2 x3 x4 x5 x6 x7 σ = some r → vv_V l G MX1_next (d + 10) 140 [(1, .int x1), (2, .ref x2), (3, .int x3), (4, .int x4), (5, .int x5), (6, .int x6), (7, .int x7)] [] σ (xI r)) {x1 : Int32} {x2 : Nat} {x3 : Int32} {x4 : Int32} {x5 : Int32} {x6 : Int32} {x7 : Int32} {σ : vv_S} {r : hX (Int32 × vv_S)} (h : BKX1_next_140 fo ad k127 k140 x1 x2 x3 x4 x5 x6 x7 σ = some r) : vv_V l G MX1_next (d + 10) 140 [(1, .int x1), (2, .ref x2), (3, .int x3), (4, .int x4), (5, .int x5), (6, .int x6), (7, .int x7)] [] σ (xI r) := by
  unfold BKX1_next_140 at h
  refine vv_iload dX1_next_140 6 rfl ?_
  refine vv_aload_n dX1_next_142 rfl 1 rfl ?_
  replace h := isO_o h; obtain ⟨fz2, sz2, ez2, h⟩ := h
  replace h := bd_o h; obtain ⟨r1, er1, h⟩ := h
  refine vv_callF (xx := ⟨"java/util/List", "size", "()I"⟩) okf_J2_size q426 (m_KJ2_size hG hH er1 d) rfl (by omega) ⟨_, _, _, _, _, ez2, by rw [hG.1]; rfl⟩ q429 (fun U hK => hH.1.2.2.1 U hK _ (List.mem_of_getElem? (i := 1) rfl)) ⟨by decide, by decide, by decide +kernel⟩ rfl rfl (Nat.le_of_ble_eq_true rfl) dX1_next_143 ?_
  refine vv_icmp_ge (tgt := 226) dX1_next_148 (by decide) (fun c3 => ?_) (fun c3 => ?_)
  · rw [if_pos c3] at h
    refine vv_iload dX1_next_226 5 rfl ?_
    refine vv_iload dX1_next_228 3 rfl ?_
    refine vv_icmp_gt (tgt := 236) dX1_next_230 (by decide) (fun c4 => ?_) (fun c4 => ?_)
    · rw [if_pos c4] at h
      refine vv_iload dX1_next_236 4 rfl ?_
      refine vv_istore_n (lv' := [(1, .int x1), (2, .ref x2), (3, .int x5), (4, .int x4), (5, .int x5), (6, .int x6), (7, .int x7)]) dX1_next_238 rfl (by decide) [1, 2, 0, 3, 4, 5, 6] rfl ?_
      refine vv_iload dX1_next_239 5 rfl ?_
      refine vv_istore (lv' := [(1, .int x1), (2, .ref x2), (3, .int x5), (4, .int x6), (5, .int x5), (6, .int x6), (7, .int x7)]) dX1_next_241 (by decide) [1, 2, 3, 0, 4, 5, 6] rfl ?_
      refine vv_sub (lv' := [(1, .int x1), (2, .ref x2), (3, .int x5), (4, .int x6), (5, .int x5)]) [0, 1, 2, 3, 4] rfl ?_
      exact v_KX1_next_243 hG hH hfo hk127 h
    · rw [if_neg c4] at h
      refine vv_goto (tgt := 243) dX1_next_233 (by decide) ?_
      refine vv_sub (lv' := [(1, .int x1), (2, .ref x2), (3, .int x3), (4, .int x4), (5, .int x5)]) [0, 1, 2, 3, 4] rfl ?_
      exact v_KX1_next_243 hG hH hfo hk127 h
  · rw [if_neg c3] at h
    refine vv_iconst (v := (nI 1)) dX1_next_151 (by decide) ?_
    refine vv_istore (lv' := [(1, .int x1), (2, .ref x2), (3, .int x3), (4, .int x4), (5, .int x5), (6, .int x6), (7, .int x7), (8, .int (nI 1))]) dX1_next_152 (by decide) [1, 2, 3, 4, 5, 6, 7, 0] rfl ?_
    refine vv_iconst (v := (nI 0)) dX1_next_154 (by decide) ?_
    refine vv_istore (lv' := [(1, .int x1), (2, .ref x2), (3, .int x3), (4, .int x4), (5, .int x5), (6, .int x6), (7, .int x7), (8, .int (nI 1)), (9, .int (nI 0))]) dX1_next_155 (by decide) [1, 2, 3, 4, 5, 6, 7, 8, 0] rfl ?_
    exact v_KX1_next_157 hG hH hfo hk127 hk140 NN h
theorem v_KX1_next_140 {l : Launch} {G : vv_G} {d : Nat} {ad : Nat → Nat} {fo : Nat → Nat → vv_S → Option Int32} (hG : vv_gok G) (hH : vv_hy l G ad) (hfo : ∀ {a vs : Nat} {σ : vv_S} {r : Int32}, fo a vs σ = some r → vv_Form l G d a vs σ r) {k127 : Int32 → Nat → Int32 → Int32 → Int32 → vv_S → Option (hX (Int32 × vv_S))} (hk127 : ∀ {x1 : Int32} {x2 : Nat} {x3 : Int32} {x4 : Int32} {x5 : Int32} {σ : vv_S} {r : hX (Int32 × vv_S)}, k127 x1 x2 x3 x4 x5 σ = some r → vv_V l G MX1_next (d + 10) 127 [(1, .int x1), (2, .ref x2), (3, .int x3), (4, .int x4), (5, .int x5)] [] σ (xI r)) : ∀ (n : Nat) {x1 : Int32} {x2 : Nat} {x3 : Int32} {x4 : Int32} {x5 : Int32} {x6 : Int32} {x7 : Int32} {σ : vv_S} {r : hX (Int32 × vv_S)}, KX1_next_140 fo ad k127 n x1 x2 x3 x4 x5 x6 x7 σ = some r → vv_V l G MX1_next (d + 10) 140 [(1, .int x1), (2, .ref x2), (3, .int x3), (4, .int x4), (5, .int x5), (6, .int x6), (7, .int x7)] [] σ (xI r) := by
  intro n
  induction n with
  | zero => intro _ _ _ _ _ _ _ _ _ h; cases h
  | succ n ih => intro _ _ _ _ _ _ _ _ _ h; exact vb_KX1_next_140 hG hH hfo hk127 ih h
def BKX1_next_127 (fo : Nat → Nat → vv_S → Option Int32) (ad : Nat → Nat) (k127 : Int32 → Nat → Int32 → Int32 → Int32 → vv_S → Option (hX (Int32 × vv_S))) (x1 : Int32) (x2 : Nat) (x3 : Int32) (x4 : Int32) (x5 : Int32) (σ : vv_S) : Option (hX (Int32 × vv_S)) := if (nI 30) < x5 then (if x1 = 0 then (KX1_next_259 fo ad x3 σ) else (KX1_next_259 fo ad x4 σ)) else (KX1_next_140 fo ad k127 NN x1 x2 x3 x4 x5 (nI 0) (nI 0) σ)
def KX1_next_127 (fo : Nat → Nat → vv_S → Option Int32) (ad : Nat → Nat) : Nat → Int32 → Nat → Int32 → Int32 → Int32 → vv_S → Option (hX (Int32 × vv_S))
  | 0, _, _, _, _, _, _ => none
  | n + 1, x1, x2, x3, x4, x5, σ => BKX1_next_127 fo ad (KX1_next_127 fo ad n) x1 x2 x3 x4 x5 σ
theorem vb_KX1_next_127 {l : Launch} {G : vv_G} {d : Nat} {ad : Nat → Nat} {fo : Nat → Nat → vv_S → Option Int32} (hG : vv_gok G) (hH : vv_hy l G ad) (hfo : ∀ {a vs : Nat} {σ : vv_S} {r : Int32}, fo a vs σ = some r → vv_Form l G d a vs σ r) {k127 : Int32 → Nat → Int32 → Int32 → Int32 → vv_S → Option (hX (Int32 × vv_S))} (hk127 : ∀ {x1 : Int32} {x2 : Nat} {x3 : Int32} {x4 : Int32} {x5 : Int32} {σ : vv_S} {r : hX (Int32 × vv_S)}, k127 x1 x2 x3 x4 x5 σ = some r → vv_V l G MX1_next (d + 10) 127 [(1, .int x1), (2, .ref x2), (3, .int x3), (4, .int x4), (5, .int x5)] [] σ (xI r)) {x1 : Int32} {x2 : Nat} {x3 : Int32} {x4 : Int32} {x5 : Int32} {σ : vv_S} {r : hX (Int32 × vv_S)} (h : BKX1_next_127 fo ad k127 x1 x2 x3 x4 x5 σ = some r) : vv_V l G MX1_next (d + 10) 127 [(1, .int x1), (2, .ref x2), (3, .int x3), (4, .int x4), (5, .int x5)] [] σ (xI r) := by
  unfold BKX1_next_127 at h
  refine vv_iload dX1_next_127 4 rfl ?_
  refine vv_bipush (v := (nI 30)) dX1_next_129 (by decide) ?_
  refine vv_icmp_gt (tgt := 249) dX1_next_131 (by decide) (fun c1 => ?_) (fun c1 => ?_)
  · rw [if_pos c1] at h
    refine vv_iload_n dX1_next_249 rfl 0 rfl ?_
    refine vv_if_ne (tgt := 257) dX1_next_250 (by decide) (fun c2 => ?_) (fun c2 => ?_)
    · rw [if_neg c2] at h
      refine vv_iload dX1_next_257 3 rfl ?_
      refine vv_sub (lv' := []) [] rfl ?_
      exact v_KX1_next_259 hG hH hfo h
    · rw [if_pos c2] at h
      refine vv_iload_n dX1_next_253 rfl 2 rfl ?_
      refine vv_goto (tgt := 259) dX1_next_254 (by decide) ?_
      refine vv_sub (lv' := []) [] rfl ?_
      exact v_KX1_next_259 hG hH hfo h
  · rw [if_neg c1] at h
    refine vv_iconst (v := (nI 0)) dX1_next_134 (by decide) ?_
    refine vv_istore (lv' := [(1, .int x1), (2, .ref x2), (3, .int x3), (4, .int x4), (5, .int x5), (6, .int (nI 0))]) dX1_next_135 (by decide) [1, 2, 3, 4, 5, 0] rfl ?_
    refine vv_iconst (v := (nI 0)) dX1_next_137 (by decide) ?_
    refine vv_istore (lv' := [(1, .int x1), (2, .ref x2), (3, .int x3), (4, .int x4), (5, .int x5), (6, .int (nI 0)), (7, .int (nI 0))]) dX1_next_138 (by decide) [1, 2, 3, 4, 5, 6, 0] rfl ?_
    exact v_KX1_next_140 hG hH hfo hk127 NN h
theorem v_KX1_next_127 {l : Launch} {G : vv_G} {d : Nat} {ad : Nat → Nat} {fo : Nat → Nat → vv_S → Option Int32} (hG : vv_gok G) (hH : vv_hy l G ad) (hfo : ∀ {a vs : Nat} {σ : vv_S} {r : Int32}, fo a vs σ = some r → vv_Form l G d a vs σ r) : ∀ (n : Nat) {x1 : Int32} {x2 : Nat} {x3 : Int32} {x4 : Int32} {x5 : Int32} {σ : vv_S} {r : hX (Int32 × vv_S)}, KX1_next_127 fo ad n x1 x2 x3 x4 x5 σ = some r → vv_V l G MX1_next (d + 10) 127 [(1, .int x1), (2, .ref x2), (3, .int x3), (4, .int x4), (5, .int x5)] [] σ (xI r) := by
  intro n
  induction n with
  | zero => intro _ _ _ _ _ _ _ h; cases h
  | succ n ih => intro _ _ _ _ _ _ _ h; exact vb_KX1_next_127 hG hH hfo ih h
def KX1_next_107 (fo : Nat → Nat → vv_S → Option Int32) (ad : Nat → Nat) (k15 : Nat → Int32 → Nat → Int32 → vv_S → Option (hX (Int32 × vv_S))) (k29 : Nat → Int32 → Nat → Int32 → Int32 → vv_S → Option (hX (Int32 × vv_S))) (x0 : Nat) (x1 : Int32) (x2 : Nat) (x3 : Int32) (x4 : Int32) (σ : vv_S) : Option (hX (Int32 × vv_S)) := k29 x0 x1 x2 x3 (x4 + (nI 1)) σ
theorem v_KX1_next_107 {l : Launch} {G : vv_G} {d : Nat} {ad : Nat → Nat} {fo : Nat → Nat → vv_S → Option Int32} (hG : vv_gok G) (hH : vv_hy l G ad) (hfo : ∀ {a vs : Nat} {σ : vv_S} {r : Int32}, fo a vs σ = some r → vv_Form l G d a vs σ r) {k15 : Nat → Int32 → Nat → Int32 → vv_S → Option (hX (Int32 × vv_S))} (hk15 : ∀ {x0 : Nat} {x1 : Int32} {x2 : Nat} {x3 : Int32} {σ : vv_S} {r : hX (Int32 × vv_S)}, k15 x0 x1 x2 x3 σ = some r → vv_V l G MX1_next (d + 10) 15 [(0, .ref x0), (1, .int x1), (2, .ref x2), (3, .int x3)] [] σ (xI r)) {k29 : Nat → Int32 → Nat → Int32 → Int32 → vv_S → Option (hX (Int32 × vv_S))} (hk29 : ∀ {x0 : Nat} {x1 : Int32} {x2 : Nat} {x3 : Int32} {x4 : Int32} {σ : vv_S} {r : hX (Int32 × vv_S)}, k29 x0 x1 x2 x3 x4 σ = some r → vv_V l G MX1_next (d + 10) 29 [(0, .ref x0), (1, .int x1), (2, .ref x2), (3, .int x3), (4, .int x4)] [] σ (xI r)) {x0 : Nat} {x1 : Int32} {x2 : Nat} {x3 : Int32} {x4 : Int32} {σ : vv_S} {r : hX (Int32 × vv_S)} (h : KX1_next_107 fo ad k15 k29 x0 x1 x2 x3 x4 σ = some r) : vv_V l G MX1_next (d + 10) 107 [(0, .ref x0), (1, .int x1), (2, .ref x2), (3, .int x3), (4, .int x4)] [] σ (xI r) := by
  unfold KX1_next_107 at h
  refine vv_iinc (v := (x4 + (nI 1))) (lv' := [(0, .ref x0), (1, .int x1), (2, .ref x2), (3, .int x3), (4, .int (x4 + (nI 1)))]) dX1_next_107 4 rfl rfl (by decide) [1, 2, 3, 4, 0] rfl ?_
  refine vv_goto (tgt := 29) dX1_next_110 (by decide) ?_
  exact hk29 h
def BKX1_next_72 (fo : Nat → Nat → vv_S → Option Int32) (ad : Nat → Nat) (k15 : Nat → Int32 → Nat → Int32 → vv_S → Option (hX (Int32 × vv_S))) (k29 : Nat → Int32 → Nat → Int32 → Int32 → vv_S → Option (hX (Int32 × vv_S))) (k72 : Nat → Int32 → Nat → Int32 → Int32 → Nat → Int32 → vv_S → Option (hX (Int32 × vv_S))) (x0 : Nat) (x1 : Int32) (x2 : Nat) (x3 : Int32) (x4 : Int32) (x5 : Nat) (x6 : Int32) (σ : vv_S) : Option (hX (Int32 × vv_S)) := (aLn σ x5).bind fun v1 => if v1 ≤ x6 then ((isO σ x2 11).bind fun _ => (KJ2_add ad x2 x5 σ).bind fun r3 => KX1_next_107 fo ad k15 k29 x0 x1 x2 x3 x4 r3.2) else ((gR σ x0 0 13).bind fun v5 => (aI σ .int v5 x6).bind fun v6 => (sI σ x5 x6 v6).bind fun σ7 => k72 x0 x1 x2 x3 x4 x5 (x6 + (nI 1)) σ7)
def KX1_next_72 (fo : Nat → Nat → vv_S → Option Int32) (ad : Nat → Nat) (k15 : Nat → Int32 → Nat → Int32 → vv_S → Option (hX (Int32 × vv_S))) (k29 : Nat → Int32 → Nat → Int32 → Int32 → vv_S → Option (hX (Int32 × vv_S))) : Nat → Nat → Int32 → Nat → Int32 → Int32 → Nat → Int32 → vv_S → Option (hX (Int32 × vv_S))
  | 0, _, _, _, _, _, _, _, _ => none
  | n + 1, x0, x1, x2, x3, x4, x5, x6, σ => BKX1_next_72 fo ad k15 k29 (KX1_next_72 fo ad k15 k29 n) x0 x1 x2 x3 x4 x5 x6 σ
theorem vb_KX1_next_72 {l : Launch} {G : vv_G} {d : Nat} {ad : Nat → Nat} {fo : Nat → Nat → vv_S → Option Int32} (hG : vv_gok G) (hH : vv_hy l G ad) (hfo : ∀ {a vs : Nat} {σ : vv_S} {r : Int32}, fo a vs σ = some r → vv_Form l G d a vs σ r) {k15 : Nat → Int32 → Nat → Int32 → vv_S → Option (hX (Int32 × vv_S))} (hk15 : ∀ {x0 : Nat} {x1 : Int32} {x2 : Nat} {x3 : Int32} {σ : vv_S} {r : hX (Int32 × vv_S)}, k15 x0 x1 x2 x3 σ = some r → vv_V l G MX1_next (d + 10) 15 [(0, .ref x0), (1, .int x1), (2, .ref x2), (3, .int x3)] [] σ (xI r)) {k29 : Nat → Int32 → Nat → Int32 → Int32 → vv_S → Option (hX (Int32 × vv_S))} (hk29 : ∀ {x0 : Nat} {x1 : Int32} {x2 : Nat} {x3 : Int32} {x4 : Int32} {σ : vv_S} {r : hX (Int32 × vv_S)}, k29 x0 x1 x2 x3 x4 σ = some r → vv_V l G MX1_next (d + 10) 29 [(0, .ref x0), (1, .int x1), (2, .ref x2), (3, .int x3), (4, .int x4)] [] σ (xI r)) {k72 : Nat → Int32 → Nat → Int32 → Int32 → Nat → Int32 → vv_S → Option (hX (Int32 × vv_S))} (hk72 : ∀ {x0 : Nat} {x1 : Int32} {x2 : Nat} {x3 : Int32} {x4 : Int32} {x5 : Nat} {x6 : Int32} {σ : vv_S} {r : hX (Int32 × vv_S)}, k72 x0 x1 x2 x3 x4 x5 x6 σ = some r → vv_V l G MX1_next (d + 10) 72 [(0, .ref x0), (1, .int x1), (2, .ref x2), (3, .int x3), (4, .int x4), (5, .ref x5), (6, .int x6)] [] σ (xI r)) {x0 : Nat} {x1 : Int32} {x2 : Nat} {x3 : Int32} {x4 : Int32} {x5 : Nat} {x6 : Int32} {σ : vv_S} {r : hX (Int32 × vv_S)} (h : BKX1_next_72 fo ad k15 k29 k72 x0 x1 x2 x3 x4 x5 x6 σ = some r) : vv_V l G MX1_next (d + 10) 72 [(0, .ref x0), (1, .int x1), (2, .ref x2), (3, .int x3), (4, .int x4), (5, .ref x5), (6, .int x6)] [] σ (xI r) := by
  unfold BKX1_next_72 at h
  refine vv_iload dX1_next_72 6 rfl ?_
  refine vv_aload dX1_next_74 5 rfl ?_
  replace h := aL_o h; obtain ⟨v1, fv1, xv1, ev1, wv1, h⟩ := h
  refine vv_alen ev1 wv1 dX1_next_76 ?_
  refine vv_icmp_ge (tgt := 98) dX1_next_77 (by decide) (fun c2 => ?_) (fun c2 => ?_)
  · rw [if_pos c2] at h
    refine vv_aload_n dX1_next_98 rfl 2 rfl ?_
    refine vv_aload dX1_next_99 5 rfl ?_
    replace h := isO_o h; obtain ⟨fz4, sz4, ez4, h⟩ := h
    replace h := bd_o h; obtain ⟨r3, er3, h⟩ := h
    refine vv_callF (xx := ⟨"java/util/List", "add", "(Ljava/lang/Object;)Z"⟩) okf_J2_add q357 (m_KJ2_add hG hH er3 d) rfl (by omega) ⟨_, _, _, _, _, ez4, by rw [hG.1]; rfl⟩ q361 (fun U hK => hH.1.2.2.1 U hK _ (List.mem_of_getElem? (i := 0) rfl)) ⟨by decide, by decide, by decide +kernel⟩ rfl rfl (Nat.le_of_ble_eq_true rfl) dX1_next_101 ?_
    refine vv_pop dX1_next_106 rfl ?_
    refine vv_sub (lv' := [(0, .ref x0), (1, .int x1), (2, .ref x2), (3, .int x3), (4, .int x4)]) [0, 1, 2, 3, 4] rfl ?_
    exact v_KX1_next_107 hG hH hfo hk15 hk29 h
  · rw [if_neg c2] at h
    refine vv_aload dX1_next_80 5 rfl ?_
    refine vv_iload dX1_next_82 6 rfl ?_
    refine vv_aload_n dX1_next_84 rfl 0 rfl ?_
    replace h := gR_o h; obtain ⟨v5, fv5, sv5, ev5, lv5, h⟩ := h
    refine vv_get (fl_X1_59 hG) ev5 lv5 dX1_next_85 ?_
    refine vv_iload dX1_next_88 6 rfl ?_
    replace h := aI_o h; obtain ⟨v6, fv6, nv6, qv6, ev6, iv6, wv6, h⟩ := h
    refine vv_iald ev6 iv6 dX1_next_90 ?_
    rw [wv6]
    replace h := sI_o h; obtain ⟨σ7, nσ7, qσ7, eσ7, iσ7, uσ7, h⟩ := h
    refine vv_iast eσ7 iσ7 dX1_next_91 ?_
    refine vv_sg uσ7 ?_
    refine vv_iinc (v := (x6 + (nI 1))) (lv' := [(0, .ref x0), (1, .int x1), (2, .ref x2), (3, .int x3), (4, .int x4), (5, .ref x5), (6, .int (x6 + (nI 1)))]) dX1_next_92 6 rfl rfl (by decide) [1, 2, 3, 4, 5, 6, 0] rfl ?_
    refine vv_goto (tgt := 72) dX1_next_95 (by decide) ?_
    exact hk72 h
theorem v_KX1_next_72 {l : Launch} {G : vv_G} {d : Nat} {ad : Nat → Nat} {fo : Nat → Nat → vv_S → Option Int32} (hG : vv_gok G) (hH : vv_hy l G ad) (hfo : ∀ {a vs : Nat} {σ : vv_S} {r : Int32}, fo a vs σ = some r → vv_Form l G d a vs σ r) {k15 : Nat → Int32 → Nat → Int32 → vv_S → Option (hX (Int32 × vv_S))} (hk15 : ∀ {x0 : Nat} {x1 : Int32} {x2 : Nat} {x3 : Int32} {σ : vv_S} {r : hX (Int32 × vv_S)}, k15 x0 x1 x2 x3 σ = some r → vv_V l G MX1_next (d + 10) 15 [(0, .ref x0), (1, .int x1), (2, .ref x2), (3, .int x3)] [] σ (xI r)) {k29 : Nat → Int32 → Nat → Int32 → Int32 → vv_S → Option (hX (Int32 × vv_S))} (hk29 : ∀ {x0 : Nat} {x1 : Int32} {x2 : Nat} {x3 : Int32} {x4 : Int32} {σ : vv_S} {r : hX (Int32 × vv_S)}, k29 x0 x1 x2 x3 x4 σ = some r → vv_V l G MX1_next (d + 10) 29 [(0, .ref x0), (1, .int x1), (2, .ref x2), (3, .int x3), (4, .int x4)] [] σ (xI r)) : ∀ (n : Nat) {x0 : Nat} {x1 : Int32} {x2 : Nat} {x3 : Int32} {x4 : Int32} {x5 : Nat} {x6 : Int32} {σ : vv_S} {r : hX (Int32 × vv_S)}, KX1_next_72 fo ad k15 k29 n x0 x1 x2 x3 x4 x5 x6 σ = some r → vv_V l G MX1_next (d + 10) 72 [(0, .ref x0), (1, .int x1), (2, .ref x2), (3, .int x3), (4, .int x4), (5, .ref x5), (6, .int x6)] [] σ (xI r) := by
  intro n
  induction n with
  | zero => intro _ _ _ _ _ _ _ _ _ h; cases h
  | succ n ih => intro _ _ _ _ _ _ _ _ _ h; exact vb_KX1_next_72 hG hH hfo hk15 hk29 ih h
def BKX1_next_29 (fo : Nat → Nat → vv_S → Option Int32) (ad : Nat → Nat) (k15 : Nat → Int32 → Nat → Int32 → vv_S → Option (hX (Int32 × vv_S))) (k29 : Nat → Int32 → Nat → Int32 → Int32 → vv_S → Option (hX (Int32 × vv_S))) (x0 : Nat) (x1 : Int32) (x2 : Nat) (x3 : Int32) (x4 : Int32) (σ : vv_S) : Option (hX (Int32 × vv_S)) := if (nI 10) ≤ x4 then (k15 x0 x1 x2 (x3 + (nI 1)) σ) else ((gR σ x0 0 2).bind fun v2 => (isO σ v2 2).bind fun _ => (KX3_lies v2 x3 σ).bind fun r3 => if r3 = 0 then (KX1_next_107 fo ad k15 k29 x0 x1 x2 x3 x4 σ) else ((isO σ x0 0).bind fun _ => (KX1_isSoBy fo x0 x3 x4 σ).bind fun r6 => if r6.1 = 0 then (KX1_next_107 fo ad k15 k29 x0 x1 x2 x3 x4 r6.2) else ((gR r6.2 x0 0 13).bind fun v9 => (aLn r6.2 v9).bind fun v10 => (nwA r6.2 .int v10).bind fun σ11 => KX1_next_72 fo ad k15 k29 NN x0 x1 x2 x3 x4 r6.2.2.1 (nI 0) σ11)))
def KX1_next_29 (fo : Nat → Nat → vv_S → Option Int32) (ad : Nat → Nat) (k15 : Nat → Int32 → Nat → Int32 → vv_S → Option (hX (Int32 × vv_S))) : Nat → Nat → Int32 → Nat → Int32 → Int32 → vv_S → Option (hX (Int32 × vv_S))
  | 0, _, _, _, _, _, _ => none
  | n + 1, x0, x1, x2, x3, x4, σ => BKX1_next_29 fo ad k15 (KX1_next_29 fo ad k15 n) x0 x1 x2 x3 x4 σ
theorem vb_KX1_next_29 {l : Launch} {G : vv_G} {d : Nat} {ad : Nat → Nat} {fo : Nat → Nat → vv_S → Option Int32} (hG : vv_gok G) (hH : vv_hy l G ad) (hfo : ∀ {a vs : Nat} {σ : vv_S} {r : Int32}, fo a vs σ = some r → vv_Form l G d a vs σ r) {k15 : Nat → Int32 → Nat → Int32 → vv_S → Option (hX (Int32 × vv_S))} (hk15 : ∀ {x0 : Nat} {x1 : Int32} {x2 : Nat} {x3 : Int32} {σ : vv_S} {r : hX (Int32 × vv_S)}, k15 x0 x1 x2 x3 σ = some r → vv_V l G MX1_next (d + 10) 15 [(0, .ref x0), (1, .int x1), (2, .ref x2), (3, .int x3)] [] σ (xI r)) {k29 : Nat → Int32 → Nat → Int32 → Int32 → vv_S → Option (hX (Int32 × vv_S))} (hk29 : ∀ {x0 : Nat} {x1 : Int32} {x2 : Nat} {x3 : Int32} {x4 : Int32} {σ : vv_S} {r : hX (Int32 × vv_S)}, k29 x0 x1 x2 x3 x4 σ = some r → vv_V l G MX1_next (d + 10) 29 [(0, .ref x0), (1, .int x1), (2, .ref x2), (3, .int x3), (4, .int x4)] [] σ (xI r)) {x0 : Nat} {x1 : Int32} {x2 : Nat} {x3 : Int32} {x4 : Int32} {σ : vv_S} {r : hX (Int32 × vv_S)} (h : BKX1_next_29 fo ad k15 k29 x0 x1 x2 x3 x4 σ = some r) : vv_V l G MX1_next (d + 10) 29 [(0, .ref x0), (1, .int x1), (2, .ref x2), (3, .int x3), (4, .int x4)] [] σ (xI r) := by
  unfold BKX1_next_29 at h
  refine vv_iload dX1_next_29 4 rfl ?_
  refine vv_bipush (v := (nI 10)) dX1_next_31 (by decide) ?_
  refine vv_icmp_ge (tgt := 113) dX1_next_33 (by decide) (fun c1 => ?_) (fun c1 => ?_)
  · rw [if_pos c1] at h
    refine vv_iinc (v := (x3 + (nI 1))) (lv' := [(0, .ref x0), (1, .int x1), (2, .ref x2), (3, .int (x3 + (nI 1))), (4, .int x4)]) dX1_next_113 3 rfl rfl (by decide) [1, 2, 3, 0, 4] rfl ?_
    refine vv_goto (tgt := 15) dX1_next_116 (by decide) ?_
    refine vv_sub (lv' := [(0, .ref x0), (1, .int x1), (2, .ref x2), (3, .int (x3 + (nI 1)))]) [0, 1, 2, 3] rfl ?_
    exact hk15 h
  · rw [if_neg c1] at h
    refine vv_aload_n dX1_next_36 rfl 0 rfl ?_
    replace h := gR_o h; obtain ⟨v2, fv2, sv2, ev2, lv2, h⟩ := h
    refine vv_get (fl_X1_31 hG) ev2 lv2 dX1_next_37 ?_
    refine vv_iload_n dX1_next_40 rfl 3 rfl ?_
    replace h := isO_o h; obtain ⟨fz4, sz4, ez4, h⟩ := h
    replace h := bd_o h; obtain ⟨r3, er3, h⟩ := h
    refine vv_callV ok_X3_lies q615 (m_KX3_lies hG hH er3 d) rfl (by omega) ⟨_, _, _, _, _, ez4, by rw [hG.1]; rfl⟩ rfl rfl (Nat.le_of_ble_eq_true rfl) dX1_next_41 ?_
    refine vv_if_eq (tgt := 107) dX1_next_44 (by decide) (fun c5 => ?_) (fun c5 => ?_)
    · rw [if_pos c5] at h
      exact v_KX1_next_107 hG hH hfo hk15 hk29 h
    · rw [if_neg c5] at h
      refine vv_aload_n dX1_next_47 rfl 0 rfl ?_
      refine vv_iload_n dX1_next_48 rfl 3 rfl ?_
      refine vv_iload dX1_next_49 4 rfl ?_
      replace h := isO_o h; obtain ⟨fz7, sz7, ez7, h⟩ := h
      replace h := bd_o h; obtain ⟨r6, er6, h⟩ := h
      refine vv_callV ok_X1_isSoBy q1444 (m_KX1_isSoBy hG hH hfo er6 d) rfl (by omega) ⟨_, _, _, _, _, ez7, by rw [hG.1]; rfl⟩ rfl rfl (Nat.le_of_ble_eq_true rfl) dX1_next_51 ?_
      refine vv_if_ne (tgt := 60) dX1_next_54 (by decide) (fun c8 => ?_) (fun c8 => ?_)
      · rw [if_neg c8] at h
        refine vv_aload_n dX1_next_60 rfl 0 rfl ?_
        replace h := gR_o h; obtain ⟨v9, fv9, sv9, ev9, lv9, h⟩ := h
        refine vv_get (fl_X1_59 hG) ev9 lv9 dX1_next_61 ?_
        replace h := aL_o h; obtain ⟨v10, fv10, xv10, ev10, wv10, h⟩ := h
        refine vv_alen ev10 wv10 dX1_next_64 ?_
        replace h := nA_o h; obtain ⟨σ11, aσ11, bσ11, uσ11, h⟩ := h
        refine vv_newa (atype := .int) (ty := .int) (a0 := ((v10).toNatClampNeg, .inl (fun _ => 0))) rfl rfl (by rw [hG.2]; decide) q183 (fun cA => rfl) aσ11 rfl (Nat.le_trans (Nat.mul_le_mul_right _ bσ11) (Nat.le_of_ble_eq_true rfl)) dX1_next_65 ?_
        refine vv_sg uσ11 ?_
        refine vv_astore (lv' := [(0, .ref x0), (1, .int x1), (2, .ref x2), (3, .int x3), (4, .int x4), (5, .ref r6.2.2.1)]) dX1_next_67 (by decide) [1, 2, 3, 4, 5, 0] rfl ?_
        refine vv_iconst (v := (nI 0)) dX1_next_69 (by decide) ?_
        refine vv_istore (lv' := [(0, .ref x0), (1, .int x1), (2, .ref x2), (3, .int x3), (4, .int x4), (5, .ref r6.2.2.1), (6, .int (nI 0))]) dX1_next_70 (by decide) [1, 2, 3, 4, 5, 6, 0] rfl ?_
        exact v_KX1_next_72 hG hH hfo hk15 hk29 NN h
      · rw [if_pos c8] at h
        refine vv_goto (tgt := 107) dX1_next_57 (by decide) ?_
        exact v_KX1_next_107 hG hH hfo hk15 hk29 h
theorem v_KX1_next_29 {l : Launch} {G : vv_G} {d : Nat} {ad : Nat → Nat} {fo : Nat → Nat → vv_S → Option Int32} (hG : vv_gok G) (hH : vv_hy l G ad) (hfo : ∀ {a vs : Nat} {σ : vv_S} {r : Int32}, fo a vs σ = some r → vv_Form l G d a vs σ r) {k15 : Nat → Int32 → Nat → Int32 → vv_S → Option (hX (Int32 × vv_S))} (hk15 : ∀ {x0 : Nat} {x1 : Int32} {x2 : Nat} {x3 : Int32} {σ : vv_S} {r : hX (Int32 × vv_S)}, k15 x0 x1 x2 x3 σ = some r → vv_V l G MX1_next (d + 10) 15 [(0, .ref x0), (1, .int x1), (2, .ref x2), (3, .int x3)] [] σ (xI r)) : ∀ (n : Nat) {x0 : Nat} {x1 : Int32} {x2 : Nat} {x3 : Int32} {x4 : Int32} {σ : vv_S} {r : hX (Int32 × vv_S)}, KX1_next_29 fo ad k15 n x0 x1 x2 x3 x4 σ = some r → vv_V l G MX1_next (d + 10) 29 [(0, .ref x0), (1, .int x1), (2, .ref x2), (3, .int x3), (4, .int x4)] [] σ (xI r) := by
  intro n
  induction n with
  | zero => intro _ _ _ _ _ _ _ h; cases h
  | succ n ih => intro _ _ _ _ _ _ _ h; exact vb_KX1_next_29 hG hH hfo hk15 ih h
def BKX1_next_15 (fo : Nat → Nat → vv_S → Option Int32) (ad : Nat → Nat) (k15 : Nat → Int32 → Nat → Int32 → vv_S → Option (hX (Int32 × vv_S))) (x0 : Nat) (x1 : Int32) (x2 : Nat) (x3 : Int32) (σ : vv_S) : Option (hX (Int32 × vv_S)) := (gR σ x0 0 1).bind fun v1 => (gI σ v1 1 3).bind fun v2 => if v2 ≤ x3 then (KX1_next_127 fo ad NN x1 x2 (-1) (nI 0) (nI 0) σ) else (KX1_next_29 fo ad k15 NN x0 x1 x2 x3 (nI 0) σ)
def KX1_next_15 (fo : Nat → Nat → vv_S → Option Int32) (ad : Nat → Nat) : Nat → Nat → Int32 → Nat → Int32 → vv_S → Option (hX (Int32 × vv_S))
  | 0, _, _, _, _, _ => none
  | n + 1, x0, x1, x2, x3, σ => BKX1_next_15 fo ad (KX1_next_15 fo ad n) x0 x1 x2 x3 σ
theorem vb_KX1_next_15 {l : Launch} {G : vv_G} {d : Nat} {ad : Nat → Nat} {fo : Nat → Nat → vv_S → Option Int32} (hG : vv_gok G) (hH : vv_hy l G ad) (hfo : ∀ {a vs : Nat} {σ : vv_S} {r : Int32}, fo a vs σ = some r → vv_Form l G d a vs σ r) {k15 : Nat → Int32 → Nat → Int32 → vv_S → Option (hX (Int32 × vv_S))} (hk15 : ∀ {x0 : Nat} {x1 : Int32} {x2 : Nat} {x3 : Int32} {σ : vv_S} {r : hX (Int32 × vv_S)}, k15 x0 x1 x2 x3 σ = some r → vv_V l G MX1_next (d + 10) 15 [(0, .ref x0), (1, .int x1), (2, .ref x2), (3, .int x3)] [] σ (xI r)) {x0 : Nat} {x1 : Int32} {x2 : Nat} {x3 : Int32} {σ : vv_S} {r : hX (Int32 × vv_S)} (h : BKX1_next_15 fo ad k15 x0 x1 x2 x3 σ = some r) : vv_V l G MX1_next (d + 10) 15 [(0, .ref x0), (1, .int x1), (2, .ref x2), (3, .int x3)] [] σ (xI r) := by
  unfold BKX1_next_15 at h
  refine vv_iload_n dX1_next_15 rfl 3 rfl ?_
  refine vv_aload_n dX1_next_16 rfl 0 rfl ?_
  replace h := gR_o h; obtain ⟨v1, fv1, sv1, ev1, lv1, h⟩ := h
  refine vv_get (fl_X1_22 hG) ev1 lv1 dX1_next_17 ?_
  replace h := gI_o h; obtain ⟨v2, fv2, sv2, ev2, lv2, h⟩ := h
  refine vv_getM (fl_X1_104 hH) ev2 lv2 dX1_next_20 ?_
  refine vv_icmp_ge (tgt := 119) dX1_next_23 (by decide) (fun c3 => ?_) (fun c3 => ?_)
  · rw [if_pos c3] at h
    refine vv_iconst (v := (-1)) dX1_next_119 (by decide) ?_
    refine vv_istore_n (lv' := [(0, .ref x0), (1, .int x1), (2, .ref x2), (3, .int (-1))]) dX1_next_120 rfl (by decide) [1, 2, 3, 0] rfl ?_
    refine vv_iconst (v := (nI 0)) dX1_next_121 (by decide) ?_
    refine vv_istore (lv' := [(0, .ref x0), (1, .int x1), (2, .ref x2), (3, .int (-1)), (4, .int (nI 0))]) dX1_next_122 (by decide) [1, 2, 3, 4, 0] rfl ?_
    refine vv_iconst (v := (nI 0)) dX1_next_124 (by decide) ?_
    refine vv_istore (lv' := [(0, .ref x0), (1, .int x1), (2, .ref x2), (3, .int (-1)), (4, .int (nI 0)), (5, .int (nI 0))]) dX1_next_125 (by decide) [1, 2, 3, 4, 5, 0] rfl ?_
    refine vv_sub (lv' := [(1, .int x1), (2, .ref x2), (3, .int (-1)), (4, .int (nI 0)), (5, .int (nI 0))]) [1, 2, 3, 4, 5] rfl ?_
    exact v_KX1_next_127 hG hH hfo NN h
  · rw [if_neg c3] at h
    refine vv_iconst (v := (nI 0)) dX1_next_26 (by decide) ?_
    refine vv_istore (lv' := [(0, .ref x0), (1, .int x1), (2, .ref x2), (3, .int x3), (4, .int (nI 0))]) dX1_next_27 (by decide) [1, 2, 3, 4, 0] rfl ?_
    exact v_KX1_next_29 hG hH hfo hk15 NN h
theorem v_KX1_next_15 {l : Launch} {G : vv_G} {d : Nat} {ad : Nat → Nat} {fo : Nat → Nat → vv_S → Option Int32} (hG : vv_gok G) (hH : vv_hy l G ad) (hfo : ∀ {a vs : Nat} {σ : vv_S} {r : Int32}, fo a vs σ = some r → vv_Form l G d a vs σ r) : ∀ (n : Nat) {x0 : Nat} {x1 : Int32} {x2 : Nat} {x3 : Int32} {σ : vv_S} {r : hX (Int32 × vv_S)}, KX1_next_15 fo ad n x0 x1 x2 x3 σ = some r → vv_V l G MX1_next (d + 10) 15 [(0, .ref x0), (1, .int x1), (2, .ref x2), (3, .int x3)] [] σ (xI r) := by
  intro n
  induction n with
  | zero => intro _ _ _ _ _ _ h; cases h
  | succ n ih => intro _ _ _ _ _ _ h; exact vb_KX1_next_15 hG hH hfo ih h
def KX1_next (fo : Nat → Nat → vv_S → Option Int32) (ad : Nat → Nat) (x0 : Nat) (x1 : Int32) (σ : vv_S) : Option (hX (Int32 × vv_S)) := (KX1_oneOf x1 (nI 1) σ).bind fun r1 => xb r1 fun r2 => (some (nwO r2 11 [.int 0, .null, .int 0] 3)).bind fun σ3 => (KJ2_init ad r2.2.1 σ3).bind fun r4 => KX1_next_15 fo ad NN x0 x1 r2.2.1 (nI 0) r4
theorem v_KX1_next_0 {l : Launch} {G : vv_G} {d : Nat} {ad : Nat → Nat} {fo : Nat → Nat → vv_S → Option Int32} (hG : vv_gok G) (hH : vv_hy l G ad) (hfo : ∀ {a vs : Nat} {σ : vv_S} {r : Int32}, fo a vs σ = some r → vv_Form l G d a vs σ r) {x0 : Nat} {x1 : Int32} {σ : vv_S} {r : hX (Int32 × vv_S)} (h : KX1_next fo ad x0 x1 σ = some r) : vv_V l G MX1_next (d + 10) 0 [(0, .ref x0), (1, .int x1)] [] σ (xI r) := by
  unfold KX1_next at h
  refine vv_iload_n dX1_next_0 rfl 1 rfl ?_
  refine vv_iconst (v := (nI 1)) dX1_next_1 (by decide) ?_
  replace h := bd_o h; obtain ⟨r1, er1, h⟩ := h
  rcases r1 with r2 | r2x
  · refine vv_callS ok_X1_oneOf q1293 (m_KX1_oneOf hG hH er1 d) rfl (by omega) rfl rfl (Nat.le_of_ble_eq_true rfl) dX1_next_2 ?_
    replace h := xb_l h
    obtain ⟨σ3, uσ3, h⟩ := bd_s h
    refine vv_new (nw_X1_46 hG) dX1_next_5 ?_
    refine vv_sg uσ3 ?_
    refine vv_dup dX1_next_8 rfl ?_
    replace h := bd_o h; obtain ⟨r4, er4, h⟩ := h
    refine vv_callI ok_J2_init q272 (m_KJ2_init hG hH er4 d) rfl (by omega) rfl rfl (Nat.le_of_ble_eq_true rfl) dX1_next_9 ?_
    refine vv_astore_n (lv' := [(0, .ref x0), (1, .int x1), (2, .ref r2.2.1)]) dX1_next_12 rfl (by decide) [1, 2, 0] rfl ?_
    refine vv_iconst (v := (nI 0)) dX1_next_13 (by decide) ?_
    refine vv_istore_n (lv' := [(0, .ref x0), (1, .int x1), (2, .ref r2.2.1), (3, .int (nI 0))]) dX1_next_14 rfl (by decide) [1, 2, 3, 0] rfl ?_
    exact v_KX1_next_15 hG hH hfo NN h
  · cases h
    exact vv_callSX ok_X1_oneOf q1293 (m_KX1_oneOf hG hH er1 d) rfl (by omega) rfl rfl (Nat.le_of_ble_eq_true rfl) dX1_next_2 (vv_Tout (by intro x hx; cases hx))
theorem m_KX1_next {l : Launch} {G : vv_G} {d : Nat} {ad : Nat → Nat} {fo : Nat → Nat → vv_S → Option Int32} (hG : vv_gok G) (hH : vv_hy l G ad) (hfo : ∀ {a vs : Nat} {σ : vv_S} {r : Int32}, fo a vs σ = some r → vv_Form l G d a vs σ r) {x0 : Nat} {x1 : Int32} {σ : vv_S} {r : hX (Int32 × vv_S)} (h : KX1_next fo ad x0 x1 σ = some r) (d9 : Nat) (e9 : d9 = d := by rfl) : vv_Met l G MX1_next (d9 + 10) [.ref x0, .int x1] σ (xI r) := by
  subst e9
  exact vv_head (by decide +kernel) rfl (Nat.le_of_ble_eq_true rfl) rfl (v_KX1_next_0 hG hH hfo h)
