set_option maxRecDepth 100000
/-! ('J11', 'checkIndexR') -/
def KJ11_checkIndexR_9 (x0 : Int32) (x1 : Int32) (x2 : Nat) : Option Int32 := none
theorem v_KJ11_checkIndexR_9 {l : Launch} {G : vv_G} {d : Nat} {ad : Nat → Nat} {σ : vv_S} (hG : vv_gok G) (hH : vv_hy l G ad) {x0 : Int32} {x1 : Int32} {x2 : Nat} {r : Int32} (h : KJ11_checkIndexR_9 x0 x1 x2 = some r) : vv_V l G MJ11_checkIndex (d + 0) 9 [(0, .int x0), (1, .int x1), (2, .ref x2)] [] σ (.inl (some (.int r)), σ) := by
  unfold KJ11_checkIndexR_9 at h
  refine vv_aload_n dJ11_checkIndex_9 rfl 2 rfl ?_
  refine vv_iload_n dJ11_checkIndex_10 rfl 0 rfl ?_
  refine vv_iload_n dJ11_checkIndex_11 rfl 1 rfl ?_
  cases h
def KJ11_checkIndexR (x0 : Int32) (x1 : Int32) (x2 : Nat) : Option Int32 := if x0 < 0 then (KJ11_checkIndexR_9 x0 x1 x2) else (if x0 < x1 then (some x0) else (KJ11_checkIndexR_9 x0 x1 x2))
theorem v_KJ11_checkIndexR_0 {l : Launch} {G : vv_G} {d : Nat} {ad : Nat → Nat} {σ : vv_S} (hG : vv_gok G) (hH : vv_hy l G ad) {x0 : Int32} {x1 : Int32} {x2 : Nat} {r : Int32} (h : KJ11_checkIndexR x0 x1 x2 = some r) : vv_V l G MJ11_checkIndex (d + 0) 0 [(0, .int x0), (1, .int x1), (2, .ref x2)] [] σ (.inl (some (.int r)), σ) := by
  unfold KJ11_checkIndexR at h
  refine vv_iload_n dJ11_checkIndex_0 rfl 0 rfl ?_
  refine vv_if_lt (tgt := 9) dJ11_checkIndex_1 (by decide) (fun c1 => ?_) (fun c1 => ?_)
  · rw [if_pos c1] at h
    exact v_KJ11_checkIndexR_9 hG hH h
  · rw [if_neg c1] at h
    refine vv_iload_n dJ11_checkIndex_4 rfl 0 rfl ?_
    refine vv_iload_n dJ11_checkIndex_5 rfl 1 rfl ?_
    refine vv_icmp_lt (tgt := 16) dJ11_checkIndex_6 (by decide) (fun c2 => ?_) (fun c2 => ?_)
    · rw [if_pos c2] at h
      refine vv_iload_n dJ11_checkIndex_16 rfl 0 rfl ?_
      cases h
      exact vv_iret rfl dJ11_checkIndex_17
    · rw [if_neg c2] at h
      exact v_KJ11_checkIndexR_9 hG hH h
theorem m_KJ11_checkIndexR {l : Launch} {G : vv_G} {ad : Nat → Nat} {σ : vv_S} (hG : vv_gok G) (hH : vv_hy l G ad) {x0 : Int32} {x1 : Int32} {x2 : Nat} {r : Int32} (h : KJ11_checkIndexR x0 x1 x2 = some r) (d : Nat) : vv_Met l G MJ11_checkIndex (d + 0) [.int x0, .int x1, .ref x2] σ (.inl (some (.int r)), σ) := vv_head (by decide +kernel) rfl (Nat.le_of_ble_eq_true rfl) rfl (v_KJ11_checkIndexR_0 hG hH h)
/-! ('J0', 'init') -/
def KJ0_init (x0 : Nat) : Option Unit := some ()
theorem v_KJ0_init_0 {l : Launch} {G : vv_G} {d : Nat} {ad : Nat → Nat} {σ : vv_S} (hG : vv_gok G) (hH : vv_hy l G ad) {x0 : Nat} {r : Unit} (h : KJ0_init x0 = some r) : vv_V l G MJ0_init (d + 1) 0 [(0, .ref x0)] [] σ (.inl none, σ) := by
  unfold KJ0_init at h
  refine vv_aload_n dJ0_init_0 rfl 0 rfl ?_
  refine vv_objinit q168 q149 q150 (by omega) (Nat.le_of_ble_eq_true rfl) dJ0_init_1 ?_
  cases h
  exact vv_vret rfl dJ0_init_4
theorem m_KJ0_init {l : Launch} {G : vv_G} {ad : Nat → Nat} {σ : vv_S} (hG : vv_gok G) (hH : vv_hy l G ad) {x0 : Nat} {r : Unit} (h : KJ0_init x0 = some r) (d : Nat) : vv_Met l G MJ0_init (d + 1) [.ref x0] σ (.inl none, σ) := vv_head (by decide +kernel) rfl (Nat.le_of_ble_eq_true rfl) rfl (v_KJ0_init_0 hG hH h)
/-! ('J1', 'init') -/
def KJ1_init (x0 : Nat) (σ : vv_S) : Option vv_S := (KJ0_init x0).bind fun r1 => (pF σ x0 11 0 (.int (nI 0))).bind fun σ2 => some σ2
theorem v_KJ1_init_0 {l : Launch} {G : vv_G} {d : Nat} {ad : Nat → Nat} (hG : vv_gok G) (hH : vv_hy l G ad) {x0 : Nat} {σ : vv_S} {r : vv_S} (h : KJ1_init x0 σ = some r) : vv_V l G MJ1_init (d + 2) 0 [(0, .ref x0)] [] σ (.inl none, r) := by
  unfold KJ1_init at h
  refine vv_aload_n dJ1_init_0 rfl 0 rfl ?_
  replace h := bd_o h; obtain ⟨r1, er1, h⟩ := h
  refine vv_callI ok_J0_init q165 (m_KJ0_init hG hH er1 d) rfl (by omega) rfl rfl (Nat.le_of_ble_eq_true rfl) dJ1_init_1 ?_
  refine vv_aload_n dJ1_init_4 rfl 0 rfl ?_
  refine vv_iconst (v := (nI 0)) dJ1_init_5 (by decide) ?_
  replace h := pF_o h; obtain ⟨σ2, sσ2, eσ2, lσ2, uσ2, h⟩ := h
  refine vv_putf (pt_J1_7 hG) (Or.inr fun C T' N h9 => by rw [hG.1] at h9; cases h9; rfl) eσ2 rfl rfl lσ2 dJ1_init_6 ?_
  rw [← uσ2]
  cases h
  exact vv_vret rfl dJ1_init_9
theorem m_KJ1_init {l : Launch} {G : vv_G} {ad : Nat → Nat} (hG : vv_gok G) (hH : vv_hy l G ad) {x0 : Nat} {σ : vv_S} {r : vv_S} (h : KJ1_init x0 σ = some r) (d : Nat) : vv_Met l G MJ1_init (d + 2) [.ref x0] σ (.inl none, r) := vv_head (by decide +kernel) rfl (Nat.le_of_ble_eq_true rfl) rfl (v_KJ1_init_0 hG hH h)
/-! ('J2', 'init') -/
def KJ2_init (ad : Nat → Nat) (x0 : Nat) (σ : vv_S) : Option vv_S := (KJ1_init x0 σ).bind fun r1 => (pF r1 x0 11 1 (.ref (ad 0))).bind fun σ2 => some σ2
theorem v_KJ2_init_0 {l : Launch} {G : vv_G} {d : Nat} {ad : Nat → Nat} (hG : vv_gok G) (hH : vv_hy l G ad) {x0 : Nat} {σ : vv_S} {r : vv_S} (h : KJ2_init ad x0 σ = some r) : vv_V l G MJ2_init (d + 3) 0 [(0, .ref x0)] [] σ (.inl none, r) := by
  unfold KJ2_init at h
  refine vv_aload_n dJ2_init_0 rfl 0 rfl ?_
  replace h := bd_o h; obtain ⟨r1, er1, h⟩ := h
  refine vv_callI ok_J1_init q162 (m_KJ1_init hG hH er1 d) rfl (by omega) rfl rfl (Nat.le_of_ble_eq_true rfl) dJ2_init_1 ?_
  refine vv_aload_n dJ2_init_4 rfl 0 rfl ?_
  refine vv_gets hH.1.2.2.2.2.2.2.1 q169 dJ2_init_5 ?_
  replace h := pF_o h; obtain ⟨σ2, sσ2, eσ2, lσ2, uσ2, h⟩ := h
  refine vv_putf (pt_J2_9 hG) (Or.inr fun C T' N h9 => by rw [hG.1] at h9; cases h9; rfl) eσ2 rfl rfl lσ2 dJ2_init_8 ?_
  rw [← uσ2]
  cases h
  exact vv_vret rfl dJ2_init_11
theorem m_KJ2_init {l : Launch} {G : vv_G} {ad : Nat → Nat} (hG : vv_gok G) (hH : vv_hy l G ad) {x0 : Nat} {σ : vv_S} {r : vv_S} (h : KJ2_init ad x0 σ = some r) (d : Nat) : vv_Met l G MJ2_init (d + 3) [.ref x0] σ (.inl none, r) := vv_head (by decide +kernel) rfl (Nat.le_of_ble_eq_true rfl) rfl (v_KJ2_init_0 hG hH h)
/-! ('J11', 'checkIndex') -/
def KJ11_checkIndex_9 (x0 : Int32) (x1 : Int32) : Option Int32 := none
theorem v_KJ11_checkIndex_9 {l : Launch} {G : vv_G} {d : Nat} {ad : Nat → Nat} {σ : vv_S} (hG : vv_gok G) (hH : vv_hy l G ad) {x0 : Int32} {x1 : Int32} {r : Int32} (h : KJ11_checkIndex_9 x0 x1 = some r) : vv_V l G MJ11_checkIndex (d + 0) 9 [(0, .int x0), (1, .int x1), (2, .null)] [] σ (.inl (some (.int r)), σ) := by
  unfold KJ11_checkIndex_9 at h
  refine vv_aload_nN dJ11_checkIndex_9 rfl 2 rfl ?_
  refine vv_iload_n dJ11_checkIndex_10 rfl 0 rfl ?_
  refine vv_iload_n dJ11_checkIndex_11 rfl 1 rfl ?_
  cases h
def KJ11_checkIndex (x0 : Int32) (x1 : Int32) : Option Int32 := if x0 < 0 then (KJ11_checkIndex_9 x0 x1) else (if x0 < x1 then (some x0) else (KJ11_checkIndex_9 x0 x1))
theorem v_KJ11_checkIndex_0 {l : Launch} {G : vv_G} {d : Nat} {ad : Nat → Nat} {σ : vv_S} (hG : vv_gok G) (hH : vv_hy l G ad) {x0 : Int32} {x1 : Int32} {r : Int32} (h : KJ11_checkIndex x0 x1 = some r) : vv_V l G MJ11_checkIndex (d + 0) 0 [(0, .int x0), (1, .int x1), (2, .null)] [] σ (.inl (some (.int r)), σ) := by
  unfold KJ11_checkIndex at h
  refine vv_iload_n dJ11_checkIndex_0 rfl 0 rfl ?_
  refine vv_if_lt (tgt := 9) dJ11_checkIndex_1 (by decide) (fun c1 => ?_) (fun c1 => ?_)
  · rw [if_pos c1] at h
    exact v_KJ11_checkIndex_9 hG hH h
  · rw [if_neg c1] at h
    refine vv_iload_n dJ11_checkIndex_4 rfl 0 rfl ?_
    refine vv_iload_n dJ11_checkIndex_5 rfl 1 rfl ?_
    refine vv_icmp_lt (tgt := 16) dJ11_checkIndex_6 (by decide) (fun c2 => ?_) (fun c2 => ?_)
    · rw [if_pos c2] at h
      refine vv_iload_n dJ11_checkIndex_16 rfl 0 rfl ?_
      cases h
      exact vv_iret rfl dJ11_checkIndex_17
    · rw [if_neg c2] at h
      exact v_KJ11_checkIndex_9 hG hH h
theorem m_KJ11_checkIndex {l : Launch} {G : vv_G} {ad : Nat → Nat} {σ : vv_S} (hG : vv_gok G) (hH : vv_hy l G ad) {x0 : Int32} {x1 : Int32} {r : Int32} (h : KJ11_checkIndex x0 x1 = some r) (d : Nat) : vv_Met l G MJ11_checkIndex (d + 0) [.int x0, .int x1, .null] σ (.inl (some (.int r)), σ) := vv_head (by decide +kernel) rfl (Nat.le_of_ble_eq_true rfl) rfl (v_KJ11_checkIndex_0 hG hH h)
/-! ('J17', 'checkIndex') -/
def KJ17_checkIndex (x0 : Int32) (x1 : Int32) : Option Int32 := (KJ11_checkIndex x0 x1).bind fun r1 => some r1
theorem v_KJ17_checkIndex_0 {l : Launch} {G : vv_G} {d : Nat} {ad : Nat → Nat} {σ : vv_S} (hG : vv_gok G) (hH : vv_hy l G ad) {x0 : Int32} {x1 : Int32} {r : Int32} (h : KJ17_checkIndex x0 x1 = some r) : vv_V l G MJ17_checkIndex (d + 1) 0 [(0, .int x0), (1, .int x1)] [] σ (.inl (some (.int r)), σ) := by
  unfold KJ17_checkIndex at h
  refine vv_iload_n dJ17_checkIndex_0 rfl 0 rfl ?_
  refine vv_iload_n dJ17_checkIndex_1 rfl 1 rfl ?_
  refine vv_null dJ17_checkIndex_2 ?_
  replace h := bd_o h; obtain ⟨r1, er1, h⟩ := h
  refine vv_callS ok_J11_checkIndex q446 (m_KJ11_checkIndex hG hH er1 d) rfl (by omega) rfl rfl (Nat.le_of_ble_eq_true rfl) dJ17_checkIndex_3 ?_
  cases h
  exact vv_iret rfl dJ17_checkIndex_6
theorem m_KJ17_checkIndex {l : Launch} {G : vv_G} {ad : Nat → Nat} {σ : vv_S} (hG : vv_gok G) (hH : vv_hy l G ad) {x0 : Int32} {x1 : Int32} {r : Int32} (h : KJ17_checkIndex x0 x1 = some r) (d : Nat) : vv_Met l G MJ17_checkIndex (d + 1) [.int x0, .int x1] σ (.inl (some (.int r)), σ) := vv_head (by decide +kernel) rfl (Nat.le_of_ble_eq_true rfl) rfl (v_KJ17_checkIndex_0 hG hH h)
/-! ('J2', 'fastRemove') -/
def KJ2_fastRemove_34 (x0 : Nat) (x1 : Nat) (x3 : Int32) (σ : vv_S) : Option vv_S := (pF σ x0 11 2 (.int x3)).bind fun σ1 => (sN σ1 x1 x3).bind fun σ2 => some σ2
theorem v_KJ2_fastRemove_34 {l : Launch} {G : vv_G} {d : Nat} {ad : Nat → Nat} (hG : vv_gok G) (hH : vv_hy l G ad) {x0 : Nat} {x1 : Nat} {x3 : Int32} {σ : vv_S} {r : vv_S} (h : KJ2_fastRemove_34 x0 x1 x3 σ = some r) : vv_V l G MJ2_fastRemove (d + 1) 34 [(0, .ref x0), (1, .ref x1), (3, .int x3)] [] σ (.inl none, r) := by
  unfold KJ2_fastRemove_34 at h
  refine vv_aload_n dJ2_fastRemove_34 rfl 1 rfl ?_
  refine vv_aload_n dJ2_fastRemove_35 rfl 0 rfl ?_
  refine vv_iload_n dJ2_fastRemove_36 rfl 2 rfl ?_
  refine vv_dup_x1 dJ2_fastRemove_37 rfl rfl ?_
  replace h := pF_o h; obtain ⟨σ1, sσ1, eσ1, lσ1, uσ1, h⟩ := h
  refine vv_putf (pt_J2_48 hG) (Or.inr fun C T' N h9 => by rw [hG.1] at h9; cases h9; rfl) eσ1 rfl rfl lσ1 dJ2_fastRemove_38 ?_
  rw [← uσ1]
  refine vv_null dJ2_fastRemove_41 ?_
  replace h := sN_o h; obtain ⟨σ2, tσ2, nσ2, qσ2, eσ2, iσ2, uσ2, h⟩ := h
  refine vv_aastN eσ2 iσ2 dJ2_fastRemove_42 ?_
  rw [← uσ2]
  cases h
  exact vv_vret rfl dJ2_fastRemove_43
def KJ2_fastRemove (x0 : Nat) (x1 : Nat) (x2 : Int32) (σ : vv_S) : Option vv_S := (gI σ x0 11 0).bind fun v1 => (pF σ x0 11 0 (.int (v1 + (nI 1)))).bind fun σ2 => (gI σ2 x0 11 2).bind fun v3 => if (v3 - (nI 1)) ≤ x2 then (KJ2_fastRemove_34 x0 x1 (v3 - (nI 1)) σ2) else ((cpQ σ2 x1 (x2 + (nI 1)) x1 x2 ((v3 - (nI 1)) - x2)).bind fun σ5 => KJ2_fastRemove_34 x0 x1 (v3 - (nI 1)) σ5)
theorem v_KJ2_fastRemove_0 {l : Launch} {G : vv_G} {d : Nat} {ad : Nat → Nat} (hG : vv_gok G) (hH : vv_hy l G ad) {x0 : Nat} {x1 : Nat} {x2 : Int32} {σ : vv_S} {r : vv_S} (h : KJ2_fastRemove x0 x1 x2 σ = some r) : vv_V l G MJ2_fastRemove (d + 1) 0 [(0, .ref x0), (1, .ref x1), (2, .int x2)] [] σ (.inl none, r) := by
  unfold KJ2_fastRemove at h
  refine vv_aload_n dJ2_fastRemove_0 rfl 0 rfl ?_
  refine vv_dup dJ2_fastRemove_1 rfl ?_
  replace h := gI_o h; obtain ⟨v1, fv1, sv1, ev1, lv1, h⟩ := h
  refine vv_getH (fl_J2_63 hG) ev1 lv1 dJ2_fastRemove_2 ?_
  refine vv_iconst (v := (nI 1)) dJ2_fastRemove_5 (by decide) ?_
  refine vv_iadd dJ2_fastRemove_6 ?_
  replace h := pF_o h; obtain ⟨σ2, sσ2, eσ2, lσ2, uσ2, h⟩ := h
  refine vv_putH (fl_J2_63 hG) eσ2 rfl rfl lσ2 dJ2_fastRemove_7 ?_
  rw [← uσ2]
  refine vv_aload_n dJ2_fastRemove_10 rfl 0 rfl ?_
  replace h := gI_o h; obtain ⟨v3, fv3, sv3, ev3, lv3, h⟩ := h
  refine vv_get (fl_J2_48 hG) ev3 lv3 dJ2_fastRemove_11 ?_
  refine vv_iconst (v := (nI 1)) dJ2_fastRemove_14 (by decide) ?_
  refine vv_isub dJ2_fastRemove_15 ?_
  refine vv_dup dJ2_fastRemove_16 rfl ?_
  refine vv_istore_n (lv' := [(0, .ref x0), (1, .ref x1), (2, .int x2), (3, .int (v3 - (nI 1)))]) dJ2_fastRemove_17 rfl (by decide) [1, 2, 3, 0] rfl ?_
  refine vv_iload_n dJ2_fastRemove_18 rfl 2 rfl ?_
  refine vv_icmp_le (tgt := 34) dJ2_fastRemove_19 (by decide) (fun c4 => ?_) (fun c4 => ?_)
  · rw [if_pos c4] at h
    refine vv_sub (lv' := [(0, .ref x0), (1, .ref x1), (3, .int (v3 - (nI 1)))]) [0, 1, 3] rfl ?_
    exact v_KJ2_fastRemove_34 hG hH h
  · rw [if_neg c4] at h
    refine vv_aload_n dJ2_fastRemove_22 rfl 1 rfl ?_
    refine vv_iload_n dJ2_fastRemove_23 rfl 2 rfl ?_
    refine vv_iconst (v := (nI 1)) dJ2_fastRemove_24 (by decide) ?_
    refine vv_iadd dJ2_fastRemove_25 ?_
    refine vv_aload_n dJ2_fastRemove_26 rfl 1 rfl ?_
    refine vv_iload_n dJ2_fastRemove_27 rfl 2 rfl ?_
    refine vv_iload_n dJ2_fastRemove_28 rfl 3 rfl ?_
    refine vv_iload_n dJ2_fastRemove_29 rfl 2 rfl ?_
    refine vv_isub dJ2_fastRemove_30 ?_
    replace h := cpQ_o h; obtain ⟨σ5, bσ5, tσ5, wσ5, nσ5, mσ5, fσ5, gσ5, eσ5, kσ5, y1, y2, y3, y4, y5, y6, uσ5, h⟩ := h
    refine vv_copyq ⟨q453, q422, q421, q133⟩ eσ5 kσ5 y1 y2 y3 y4 y5 (fun i hi y hy => (y6 i hi y hy).imp fun ev hev => ⟨hev.1, anyE_any hH.1 hev.2⟩) (by omega) (Nat.le_of_ble_eq_true rfl) dJ2_fastRemove_31 ?_
    rw [← uσ5]
    refine vv_sub (lv' := [(0, .ref x0), (1, .ref x1), (3, .int (v3 - (nI 1)))]) [0, 1, 3] rfl ?_
    exact v_KJ2_fastRemove_34 hG hH h
theorem m_KJ2_fastRemove {l : Launch} {G : vv_G} {ad : Nat → Nat} (hG : vv_gok G) (hH : vv_hy l G ad) {x0 : Nat} {x1 : Nat} {x2 : Int32} {σ : vv_S} {r : vv_S} (h : KJ2_fastRemove x0 x1 x2 σ = some r) (d : Nat) : vv_Met l G MJ2_fastRemove (d + 1) [.ref x0, .ref x1, .int x2] σ (.inl none, r) := vv_head (by decide +kernel) rfl (Nat.le_of_ble_eq_true rfl) rfl (v_KJ2_fastRemove_0 hG hH h)
/-! ('J2', 'remove') -/
def KJ2_remove (x0 : Nat) (x1 : Int32) (σ : vv_S) : Option (Nat × vv_S) := (gI σ x0 11 2).bind fun v1 => (KJ17_checkIndex x1 v1).bind fun r2 => (gR σ x0 11 1).bind fun v3 => (aQ σ v3 x1).bind fun v4 => (isO σ x0 11).bind fun _ => (KJ2_fastRemove x0 v3 x1 σ).bind fun r5 => some (v4, r5)
theorem v_KJ2_remove_0 {l : Launch} {G : vv_G} {d : Nat} {ad : Nat → Nat} (hG : vv_gok G) (hH : vv_hy l G ad) {x0 : Nat} {x1 : Int32} {σ : vv_S} {r : Nat × vv_S} (h : KJ2_remove x0 x1 σ = some r) : vv_V l G MJ2_remove (d + 2) 0 [(0, .ref x0), (1, .int x1)] [] σ (.inl (some (.ref r.1)), r.2) := by
  unfold KJ2_remove at h
  refine vv_iload_n dJ2_remove_0 rfl 1 rfl ?_
  refine vv_aload_n dJ2_remove_1 rfl 0 rfl ?_
  replace h := gI_o h; obtain ⟨v1, fv1, sv1, ev1, lv1, h⟩ := h
  refine vv_get (fl_J2_48 hG) ev1 lv1 dJ2_remove_2 ?_
  replace h := bd_o h; obtain ⟨r2, er2, h⟩ := h
  refine vv_callS ok_J17_checkIndex q443 (m_KJ17_checkIndex hG hH er2 d) rfl (by omega) rfl rfl (Nat.le_of_ble_eq_true rfl) dJ2_remove_5 ?_
  refine vv_pop dJ2_remove_8 rfl ?_
  refine vv_aload_n dJ2_remove_9 rfl 0 rfl ?_
  replace h := gR_o h; obtain ⟨v3, fv3, sv3, ev3, lv3, h⟩ := h
  refine vv_get (fl_J2_9 hG) ev3 lv3 dJ2_remove_10 ?_
  refine vv_astore_n (lv' := [(0, .ref x0), (1, .int x1), (2, .ref v3)]) dJ2_remove_13 rfl (by decide) [1, 2, 0] rfl ?_
  refine vv_aload_n dJ2_remove_14 rfl 2 rfl ?_
  refine vv_iload_n dJ2_remove_15 rfl 1 rfl ?_
  replace h := aQ_o h; obtain ⟨v4, fv4, tv4, nv4, qv4, rv4, ev4, iv4, wv4, h⟩ := h
  refine vv_aald rv4 ev4 iv4 dJ2_remove_16 ?_
  rw [wv4]
  refine vv_st (st' := [.ref v4]) rfl ?_
  refine vv_astore_n (lv' := [(0, .ref x0), (1, .int x1), (2, .ref v3), (3, .ref v4)]) dJ2_remove_17 rfl (by decide) [1, 2, 3, 0] rfl ?_
  refine vv_aload_n dJ2_remove_18 rfl 0 rfl ?_
  refine vv_aload_n dJ2_remove_19 rfl 2 rfl ?_
  refine vv_iload_n dJ2_remove_20 rfl 1 rfl ?_
  replace h := isO_o h; obtain ⟨fz6, sz6, ez6, h⟩ := h
  replace h := bd_o h; obtain ⟨r5, er5, h⟩ := h
  refine vv_callV ok_J2_fastRemove q449 (m_KJ2_fastRemove hG hH er5 d) rfl (by omega) ⟨_, _, _, _, _, ez6, by rw [hG.1]; rfl⟩ rfl rfl (Nat.le_of_ble_eq_true rfl) dJ2_remove_21 ?_
  refine vv_aload_n dJ2_remove_24 rfl 3 rfl ?_
  cases h
  exact vv_aret rfl (by first | exact Or.inl ⟨_, rfl⟩ | exact Or.inr ⟨_, rfl⟩) (Or.inr ⟨_, rfl⟩) dJ2_remove_25
theorem m_KJ2_remove {l : Launch} {G : vv_G} {ad : Nat → Nat} (hG : vv_gok G) (hH : vv_hy l G ad) {x0 : Nat} {x1 : Int32} {σ : vv_S} {r : Nat × vv_S} (h : KJ2_remove x0 x1 σ = some r) (d : Nat) : vv_Met l G MJ2_remove (d + 2) [.ref x0, .int x1] σ (.inl (some (.ref r.1)), r.2) := vv_head (by decide +kernel) rfl (Nat.le_of_ble_eq_true rfl) rfl (v_KJ2_remove_0 hG hH h)
/-! ('J15', 'newLength') -/
def KJ15_newLength_21 (x0 : Int32) (x1 : Int32) : Option Int32 := none
theorem v_KJ15_newLength_21 {l : Launch} {G : vv_G} {d : Nat} {ad : Nat → Nat} {σ : vv_S} (hG : vv_gok G) (hH : vv_hy l G ad) {x0 : Int32} {x1 : Int32} {r : Int32} (h : KJ15_newLength_21 x0 x1 = some r) : vv_V l G MJ15_newLength (d + 1) 21 [(0, .int x0), (1, .int x1)] [] σ (.inl (some (.int r)), σ) := by
  unfold KJ15_newLength_21 at h
  refine vv_iload_n dJ15_newLength_21 rfl 0 rfl ?_
  refine vv_iload_n dJ15_newLength_22 rfl 1 rfl ?_
  cases h
def KJ15_newLength (x0 : Int32) (x1 : Int32) (x2 : Int32) : Option Int32 := if (x0 + (mxI x1 x2)) ≤ (nI 0) then (KJ15_newLength_21 x0 x1) else (if (nI 2147483639) < (x0 + (mxI x1 x2)) then (KJ15_newLength_21 x0 x1) else (some (x0 + (mxI x1 x2))))
theorem v_KJ15_newLength_0 {l : Launch} {G : vv_G} {d : Nat} {ad : Nat → Nat} {σ : vv_S} (hG : vv_gok G) (hH : vv_hy l G ad) {x0 : Int32} {x1 : Int32} {x2 : Int32} {r : Int32} (h : KJ15_newLength x0 x1 x2 = some r) : vv_V l G MJ15_newLength (d + 1) 0 [(0, .int x0), (1, .int x1), (2, .int x2)] [] σ (.inl (some (.int r)), σ) := by
  unfold KJ15_newLength at h
  refine vv_iload_n dJ15_newLength_0 rfl 0 rfl ?_
  refine vv_iload_n dJ15_newLength_1 rfl 1 rfl ?_
  refine vv_iload_n dJ15_newLength_2 rfl 2 rfl ?_
  refine vv_mmax q381 (by omega) (Nat.le_of_ble_eq_true rfl) dJ15_newLength_3 ?_
  refine vv_iadd dJ15_newLength_6 ?_
  refine vv_istore_n (lv' := [(0, .int x0), (1, .int x1), (2, .int x2), (3, .int (x0 + (mxI x1 x2)))]) dJ15_newLength_7 rfl (by decide) [1, 2, 3, 0] rfl ?_
  refine vv_iconst (v := (nI 0)) dJ15_newLength_8 (by decide) ?_
  refine vv_iload_n dJ15_newLength_9 rfl 3 rfl ?_
  refine vv_icmp_ge (tgt := 21) dJ15_newLength_10 (by decide) (fun c1 => ?_) (fun c1 => ?_)
  · rw [if_pos c1] at h
    refine vv_sub (lv' := [(0, .int x0), (1, .int x1)]) [0, 1] rfl ?_
    exact v_KJ15_newLength_21 hG hH h
  · rw [if_neg c1] at h
    refine vv_iload_n dJ15_newLength_13 rfl 3 rfl ?_
    refine vv_ldc (v := (nI 2147483639)) dJ15_newLength_14 q384 ?_
    refine vv_icmp_gt (tgt := 21) dJ15_newLength_16 (by decide) (fun c2 => ?_) (fun c2 => ?_)
    · rw [if_pos c2] at h
      refine vv_sub (lv' := [(0, .int x0), (1, .int x1)]) [0, 1] rfl ?_
      exact v_KJ15_newLength_21 hG hH h
    · rw [if_neg c2] at h
      refine vv_iload_n dJ15_newLength_19 rfl 3 rfl ?_
      cases h
      exact vv_iret rfl dJ15_newLength_20
theorem m_KJ15_newLength {l : Launch} {G : vv_G} {ad : Nat → Nat} {σ : vv_S} (hG : vv_gok G) (hH : vv_hy l G ad) {x0 : Int32} {x1 : Int32} {x2 : Int32} {r : Int32} (h : KJ15_newLength x0 x1 x2 = some r) (d : Nat) : vv_Met l G MJ15_newLength (d + 1) [.int x0, .int x1, .int x2] σ (.inl (some (.int r)), σ) := vv_head (by decide +kernel) rfl (Nat.le_of_ble_eq_true rfl) rfl (v_KJ15_newLength_0 hG hH h)
/-! ('J16', 'copyOf_2') -/
def KJ16_copyOf_2 (ad : Nat → Nat) (x0 : Nat) (x1 : Int32) (x2 : Nat) (σ : vv_S) : Option (Nat × vv_S) := if x2 = (ad 3) then ((nwQ σ "java/lang/Object" x1).bind fun σ2 => (aLn σ2 x0).bind fun v3 => (cpQ σ2 x0 (nI 0) σ.2.1 (nI 0) (mnI v3 x1)).bind fun σ4 => some (σ.2.1, σ4)) else (none)
theorem v_KJ16_copyOf_2_0 {l : Launch} {G : vv_G} {d : Nat} {ad : Nat → Nat} (hG : vv_gok G) (hH : vv_hy l G ad) {x0 : Nat} {x1 : Int32} {x2 : Nat} {σ : vv_S} {r : Nat × vv_S} (h : KJ16_copyOf_2 ad x0 x1 x2 σ = some r) : vv_V l G MJ16_copyOf_2 (d + 1) 0 [(0, .ref x0), (1, .int x1), (2, .ref x2)] [] σ (.inl (some (.ref r.1)), r.2) := by
  unfold KJ16_copyOf_2 at h
  refine vv_aload_n dJ16_copyOf_2_0 rfl 2 rfl ?_
  refine vv_ldm (fun U hK => (hH.1.2.2.2.1 U hK).1) q414 dJ16_copyOf_2_1 ?_
  refine vv_acmpR_ne (tgt := 13) dJ16_copyOf_2_3 (by decide) (fun c1 => ?_) (fun c1 => ?_)
  · rw [if_neg c1] at h
    refine vv_aload_n dJ16_copyOf_2_13 rfl 2 rfl ?_
    cases h
  · rw [if_pos c1] at h
    refine vv_iload_n dJ16_copyOf_2_6 rfl 1 rfl ?_
    replace h := nQ_o h; obtain ⟨σ2, aσ2, bσ2, uσ2, h⟩ := h
    refine vv_newq (by rw [hG.2]; decide) q416 (fun U hK => hH.1.2.1 U hK _ q415 rfl) aσ2 rfl (by omega) dJ16_copyOf_2_7 ?_
    rw [← uσ2]
    refine vv_goto (tgt := 24) dJ16_copyOf_2_10 (by decide) ?_
    refine vv_astore_n (lv' := [(0, .ref x0), (1, .int x1), (2, .ref x2), (3, .ref σ.2.1)]) dJ16_copyOf_2_24 rfl (by decide) [1, 2, 3, 0] rfl ?_
    refine vv_aload_n dJ16_copyOf_2_25 rfl 0 rfl ?_
    refine vv_iconst (v := (nI 0)) dJ16_copyOf_2_26 (by decide) ?_
    refine vv_aload_n dJ16_copyOf_2_27 rfl 3 rfl ?_
    refine vv_iconst (v := (nI 0)) dJ16_copyOf_2_28 (by decide) ?_
    refine vv_aload_n dJ16_copyOf_2_29 rfl 0 rfl ?_
    replace h := aL_o h; obtain ⟨v3, fv3, xv3, ev3, wv3, h⟩ := h
    refine vv_alen ev3 wv3 dJ16_copyOf_2_30 ?_
    refine vv_iload_n dJ16_copyOf_2_31 rfl 1 rfl ?_
    refine vv_mmin q417 (by omega) (Nat.le_of_ble_eq_true rfl) dJ16_copyOf_2_32 ?_
    replace h := cpQ_o h; obtain ⟨σ4, bσ4, tσ4, wσ4, nσ4, mσ4, fσ4, gσ4, eσ4, kσ4, y1, y2, y3, y4, y5, y6, uσ4, h⟩ := h
    refine vv_copyq ⟨q420, q422, q421, q133⟩ eσ4 kσ4 y1 y2 y3 y4 y5 (fun i hi y hy => (y6 i hi y hy).imp fun ev hev => ⟨hev.1, anyE_any hH.1 hev.2⟩) (by omega) (Nat.le_of_ble_eq_true rfl) dJ16_copyOf_2_35 ?_
    rw [← uσ4]
    refine vv_aload_n dJ16_copyOf_2_38 rfl 3 rfl ?_
    cases h
    exact vv_aret rfl (by first | exact Or.inl ⟨_, rfl⟩ | exact Or.inr ⟨_, rfl⟩) (Or.inr ⟨_, rfl⟩) dJ16_copyOf_2_39
theorem m_KJ16_copyOf_2 {l : Launch} {G : vv_G} {ad : Nat → Nat} (hG : vv_gok G) (hH : vv_hy l G ad) {x0 : Nat} {x1 : Int32} {x2 : Nat} {σ : vv_S} {r : Nat × vv_S} (h : KJ16_copyOf_2 ad x0 x1 x2 σ = some r) (d : Nat) : vv_Met l G MJ16_copyOf_2 (d + 1) [.ref x0, .int x1, .ref x2] σ (.inl (some (.ref r.1)), r.2) := vv_head (by decide +kernel) rfl (Nat.le_of_ble_eq_true rfl) rfl (v_KJ16_copyOf_2_0 hG hH h)
/-! ('J16', 'copyOf') -/
def KJ16_copyOf (ad : Nat → Nat) (x0 : Nat) (x1 : Int32) (σ : vv_S) : Option (Nat × vv_S) := (isA σ x0 (.object "java/lang/Object")).bind fun _ => (KJ16_copyOf_2 ad x0 x1 (ad 3) σ).bind fun r2 => some (r2.1, r2.2)
theorem v_KJ16_copyOf_0 {l : Launch} {G : vv_G} {d : Nat} {ad : Nat → Nat} (hG : vv_gok G) (hH : vv_hy l G ad) {x0 : Nat} {x1 : Int32} {σ : vv_S} {r : Nat × vv_S} (h : KJ16_copyOf ad x0 x1 σ = some r) : vv_V l G MJ16_copyOf (d + 2) 0 [(0, .ref x0), (1, .int x1)] [] σ (.inl (some (.ref r.1)), r.2) := by
  unfold KJ16_copyOf at h
  refine vv_aload_n dJ16_copyOf_0 rfl 0 rfl ?_
  refine vv_iload_n dJ16_copyOf_1 rfl 1 rfl ?_
  refine vv_aload_n dJ16_copyOf_2 rfl 0 rfl ?_
  replace h := isA_o h; obtain ⟨fz1, xz1, ez1, kz1, h⟩ := h
  refine vv_getc (C := "[Ljava/lang/Object;") ez1 (by show ("[" ++ xz1.1.toString) = _; rw [kz1]; decide) (fun U hK => ⟨(hH.1.2.2.2.1 U hK).1, (hH.1.2.2.2.1 U hK).2.2⟩) q391 q2246 q392 q410 (by omega) (Nat.le_of_ble_eq_true rfl) dJ16_copyOf_3 ?_
  replace h := bd_o h; obtain ⟨r2, er2, h⟩ := h
  refine vv_callS ok_J16_copyOf_2 q411 (m_KJ16_copyOf_2 hG hH er2 d) rfl (by omega) rfl rfl (Nat.le_of_ble_eq_true rfl) dJ16_copyOf_6 ?_
  cases h
  exact vv_aret rfl (by first | exact Or.inl ⟨_, rfl⟩ | exact Or.inr ⟨_, rfl⟩) (Or.inr ⟨_, rfl⟩) dJ16_copyOf_9
theorem m_KJ16_copyOf {l : Launch} {G : vv_G} {ad : Nat → Nat} (hG : vv_gok G) (hH : vv_hy l G ad) {x0 : Nat} {x1 : Int32} {σ : vv_S} {r : Nat × vv_S} (h : KJ16_copyOf ad x0 x1 σ = some r) (d : Nat) : vv_Met l G MJ16_copyOf (d + 2) [.ref x0, .int x1] σ (.inl (some (.ref r.1)), r.2) := vv_head (by decide +kernel) rfl (Nat.le_of_ble_eq_true rfl) rfl (v_KJ16_copyOf_0 hG hH h)
/-! ('J2', 'grow_2') -/
def KJ2_grow_2_20 (ad : Nat → Nat) (x0 : Nat) (x1 : Int32) (x2 : Int32) (σ : vv_S) : Option (Nat × vv_S) := (KJ15_newLength x2 (x1 - x2) (x2 >>> ((nI 1) &&& 31))).bind fun r1 => (gR σ x0 11 1).bind fun v2 => (KJ16_copyOf ad v2 r1 σ).bind fun r3 => (pF r3.2 x0 11 1 (.ref r3.1)).bind fun σ4 => some (r3.1, σ4)
theorem v_KJ2_grow_2_20 {l : Launch} {G : vv_G} {d : Nat} {ad : Nat → Nat} (hG : vv_gok G) (hH : vv_hy l G ad) {x0 : Nat} {x1 : Int32} {x2 : Int32} {σ : vv_S} {r : Nat × vv_S} (h : KJ2_grow_2_20 ad x0 x1 x2 σ = some r) : vv_V l G MJ2_grow_2 (d + 3) 20 [(0, .ref x0), (1, .int x1), (2, .int x2)] [] σ (.inl (some (.ref r.1)), r.2) := by
  unfold KJ2_grow_2_20 at h
  refine vv_iload_n dJ2_grow_2_20 rfl 2 rfl ?_
  refine vv_iload_n dJ2_grow_2_21 rfl 1 rfl ?_
  refine vv_iload_n dJ2_grow_2_22 rfl 2 rfl ?_
  refine vv_isub dJ2_grow_2_23 ?_
  refine vv_iload_n dJ2_grow_2_24 rfl 2 rfl ?_
  refine vv_iconst (v := (nI 1)) dJ2_grow_2_25 (by decide) ?_
  refine vv_ishr dJ2_grow_2_26 ?_
  replace h := bd_o h; obtain ⟨r1, er1, h⟩ := h
  refine vv_callS ok_J15_newLength q378 (m_KJ15_newLength hG hH er1 d) rfl (by omega) rfl rfl (Nat.le_of_ble_eq_true rfl) dJ2_grow_2_27 ?_
  refine vv_istore_n (lv' := [(0, .ref x0), (1, .int x1), (2, .int x2), (3, .int r1)]) dJ2_grow_2_30 rfl (by decide) [1, 2, 3, 0] rfl ?_
  refine vv_aload_n dJ2_grow_2_31 rfl 0 rfl ?_
  refine vv_aload_n dJ2_grow_2_32 rfl 0 rfl ?_
  replace h := gR_o h; obtain ⟨v2, fv2, sv2, ev2, lv2, h⟩ := h
  refine vv_get (fl_J2_9 hG) ev2 lv2 dJ2_grow_2_33 ?_
  refine vv_iload_n dJ2_grow_2_36 rfl 3 rfl ?_
  replace h := bd_o h; obtain ⟨r3, er3, h⟩ := h
  refine vv_callS ok_J16_copyOf q388 (m_KJ16_copyOf hG hH er3 d) rfl (by omega) rfl rfl (Nat.le_of_ble_eq_true rfl) dJ2_grow_2_37 ?_
  refine vv_dup_x1 dJ2_grow_2_40 rfl rfl ?_
  replace h := pF_o h; obtain ⟨σ4, sσ4, eσ4, lσ4, uσ4, h⟩ := h
  refine vv_putf (pt_J2_9 hG) (Or.inr fun C T' N h9 => by rw [hG.1] at h9; cases h9; rfl) eσ4 rfl rfl lσ4 dJ2_grow_2_41 ?_
  rw [← uσ4]
  cases h
  exact vv_aret rfl (by first | exact Or.inl ⟨_, rfl⟩ | exact Or.inr ⟨_, rfl⟩) (Or.inr ⟨_, rfl⟩) dJ2_grow_2_44
def KJ2_grow_2 (ad : Nat → Nat) (x0 : Nat) (x1 : Int32) (σ : vv_S) : Option (Nat × vv_S) := (gR σ x0 11 1).bind fun v1 => (aLn σ v1).bind fun v2 => if 0 < v2 then (KJ2_grow_2_20 ad x0 x1 v2 σ) else ((gR σ x0 11 1).bind fun v4 => if v4 = (ad 0) then ((nwQ σ "java/lang/Object" (mxI (nI 10) x1)).bind fun σ6 => (pF σ6 x0 11 1 (.ref σ.2.1)).bind fun σ7 => some (σ.2.1, σ7)) else (KJ2_grow_2_20 ad x0 x1 v2 σ))
theorem v_KJ2_grow_2_0 {l : Launch} {G : vv_G} {d : Nat} {ad : Nat → Nat} (hG : vv_gok G) (hH : vv_hy l G ad) {x0 : Nat} {x1 : Int32} {σ : vv_S} {r : Nat × vv_S} (h : KJ2_grow_2 ad x0 x1 σ = some r) : vv_V l G MJ2_grow_2 (d + 3) 0 [(0, .ref x0), (1, .int x1)] [] σ (.inl (some (.ref r.1)), r.2) := by
  unfold KJ2_grow_2 at h
  refine vv_aload_n dJ2_grow_2_0 rfl 0 rfl ?_
  replace h := gR_o h; obtain ⟨v1, fv1, sv1, ev1, lv1, h⟩ := h
  refine vv_get (fl_J2_9 hG) ev1 lv1 dJ2_grow_2_1 ?_
  replace h := aL_o h; obtain ⟨v2, fv2, xv2, ev2, wv2, h⟩ := h
  refine vv_alen ev2 wv2 dJ2_grow_2_4 ?_
  refine vv_istore_n (lv' := [(0, .ref x0), (1, .int x1), (2, .int v2)]) dJ2_grow_2_5 rfl (by decide) [1, 2, 0] rfl ?_
  refine vv_iload_n dJ2_grow_2_6 rfl 2 rfl ?_
  refine vv_if_gt (tgt := 20) dJ2_grow_2_7 (by decide) (fun c3 => ?_) (fun c3 => ?_)
  · rw [if_pos c3] at h
    exact v_KJ2_grow_2_20 hG hH h
  · rw [if_neg c3] at h
    refine vv_aload_n dJ2_grow_2_10 rfl 0 rfl ?_
    replace h := gR_o h; obtain ⟨v4, fv4, sv4, ev4, lv4, h⟩ := h
    refine vv_get (fl_J2_9 hG) ev4 lv4 dJ2_grow_2_11 ?_
    refine vv_gets hH.1.2.2.2.2.2.2.1 q169 dJ2_grow_2_14 ?_
    refine vv_acmpR_eq (tgt := 45) dJ2_grow_2_17 (by decide) (fun c5 => ?_) (fun c5 => ?_)
    · rw [if_pos c5] at h
      refine vv_aload_n dJ2_grow_2_45 rfl 0 rfl ?_
      refine vv_bipush (v := (nI 10)) dJ2_grow_2_46 (by decide) ?_
      refine vv_iload_n dJ2_grow_2_48 rfl 1 rfl ?_
      refine vv_mmax q423 (by omega) (Nat.le_of_ble_eq_true rfl) dJ2_grow_2_49 ?_
      replace h := nQ_o h; obtain ⟨σ6, aσ6, bσ6, uσ6, h⟩ := h
      refine vv_newq (by rw [hG.2]; decide) q424 (fun U hK => hH.1.2.1 U hK _ q415 rfl) aσ6 rfl (by omega) dJ2_grow_2_52 ?_
      rw [← uσ6]
      refine vv_dup_x1 dJ2_grow_2_55 rfl rfl ?_
      replace h := pF_o h; obtain ⟨σ7, sσ7, eσ7, lσ7, uσ7, h⟩ := h
      refine vv_putf (pt_J2_9 hG) (Or.inr fun C T' N h9 => by rw [hG.1] at h9; cases h9; rfl) eσ7 rfl rfl lσ7 dJ2_grow_2_56 ?_
      rw [← uσ7]
      cases h
      exact vv_aret rfl (by first | exact Or.inl ⟨_, rfl⟩ | exact Or.inr ⟨_, rfl⟩) (Or.inr ⟨_, rfl⟩) dJ2_grow_2_59
    · rw [if_neg c5] at h
      exact v_KJ2_grow_2_20 hG hH h
theorem m_KJ2_grow_2 {l : Launch} {G : vv_G} {ad : Nat → Nat} (hG : vv_gok G) (hH : vv_hy l G ad) {x0 : Nat} {x1 : Int32} {σ : vv_S} {r : Nat × vv_S} (h : KJ2_grow_2 ad x0 x1 σ = some r) (d : Nat) : vv_Met l G MJ2_grow_2 (d + 3) [.ref x0, .int x1] σ (.inl (some (.ref r.1)), r.2) := vv_head (by decide +kernel) rfl (Nat.le_of_ble_eq_true rfl) rfl (v_KJ2_grow_2_0 hG hH h)
/-! ('J2', 'grow') -/
def KJ2_grow (ad : Nat → Nat) (x0 : Nat) (σ : vv_S) : Option (Nat × vv_S) := (gI σ x0 11 2).bind fun v1 => (isO σ x0 11).bind fun _ => (KJ2_grow_2 ad x0 (v1 + (nI 1)) σ).bind fun r2 => some (r2.1, r2.2)
theorem v_KJ2_grow_0 {l : Launch} {G : vv_G} {d : Nat} {ad : Nat → Nat} (hG : vv_gok G) (hH : vv_hy l G ad) {x0 : Nat} {σ : vv_S} {r : Nat × vv_S} (h : KJ2_grow ad x0 σ = some r) : vv_V l G MJ2_grow (d + 4) 0 [(0, .ref x0)] [] σ (.inl (some (.ref r.1)), r.2) := by
  unfold KJ2_grow at h
  refine vv_aload_n dJ2_grow_0 rfl 0 rfl ?_
  refine vv_aload_n dJ2_grow_1 rfl 0 rfl ?_
  replace h := gI_o h; obtain ⟨v1, fv1, sv1, ev1, lv1, h⟩ := h
  refine vv_get (fl_J2_48 hG) ev1 lv1 dJ2_grow_2 ?_
  refine vv_iconst (v := (nI 1)) dJ2_grow_5 (by decide) ?_
  refine vv_iadd dJ2_grow_6 ?_
  replace h := isO_o h; obtain ⟨fz3, sz3, ez3, h⟩ := h
  replace h := bd_o h; obtain ⟨r2, er2, h⟩ := h
  refine vv_callV ok_J2_grow_2 q374 (m_KJ2_grow_2 hG hH er2 d) rfl (by omega) ⟨_, _, _, _, _, ez3, by rw [hG.1]; rfl⟩ rfl rfl (Nat.le_of_ble_eq_true rfl) dJ2_grow_7 ?_
  cases h
  exact vv_aret rfl (by first | exact Or.inl ⟨_, rfl⟩ | exact Or.inr ⟨_, rfl⟩) (Or.inr ⟨_, rfl⟩) dJ2_grow_10
theorem m_KJ2_grow {l : Launch} {G : vv_G} {ad : Nat → Nat} (hG : vv_gok G) (hH : vv_hy l G ad) {x0 : Nat} {σ : vv_S} {r : Nat × vv_S} (h : KJ2_grow ad x0 σ = some r) (d : Nat) : vv_Met l G MJ2_grow (d + 4) [.ref x0] σ (.inl (some (.ref r.1)), r.2) := vv_head (by decide +kernel) rfl (Nat.le_of_ble_eq_true rfl) rfl (v_KJ2_grow_0 hG hH h)
/-! ('J2', 'add_2') -/
def KJ2_add_2_11 (ad : Nat → Nat) (x0 : Nat) (x1 : Nat) (x2 : Nat) (x3 : Int32) (σ : vv_S) : Option vv_S := (sQ σ x2 x3 x1).bind fun σ1 => (pF σ1 x0 11 2 (.int (x3 + (nI 1)))).bind fun σ2 => some σ2
theorem v_KJ2_add_2_11 {l : Launch} {G : vv_G} {d : Nat} {ad : Nat → Nat} (hG : vv_gok G) (hH : vv_hy l G ad) {x0 : Nat} {x1 : Nat} {x2 : Nat} {x3 : Int32} {σ : vv_S} {r : vv_S} (h : KJ2_add_2_11 ad x0 x1 x2 x3 σ = some r) : vv_V l G MJ2_add_2 (d + 5) 11 [(0, .ref x0), (1, .ref x1), (2, .ref x2), (3, .int x3)] [] σ (.inl none, r) := by
  unfold KJ2_add_2_11 at h
  refine vv_aload_n dJ2_add_2_11 rfl 2 rfl ?_
  refine vv_iload_n dJ2_add_2_12 rfl 3 rfl ?_
  refine vv_aload_n dJ2_add_2_13 rfl 1 rfl ?_
  replace h := sQ_o h; obtain ⟨σ1, tσ1, nσ1, qσ1, wσ1, eσ1, fσ1, gσ1, iσ1, uσ1, h⟩ := h
  refine vv_aast eσ1 fσ1 (anyE_any hH.1 gσ1) iσ1 dJ2_add_2_14 ?_
  rw [← uσ1]
  refine vv_aload_n dJ2_add_2_15 rfl 0 rfl ?_
  refine vv_iload_n dJ2_add_2_16 rfl 3 rfl ?_
  refine vv_iconst (v := (nI 1)) dJ2_add_2_17 (by decide) ?_
  refine vv_iadd dJ2_add_2_18 ?_
  replace h := pF_o h; obtain ⟨σ2, sσ2, eσ2, lσ2, uσ2, h⟩ := h
  refine vv_putf (pt_J2_48 hG) (Or.inr fun C T' N h9 => by rw [hG.1] at h9; cases h9; rfl) eσ2 rfl rfl lσ2 dJ2_add_2_19 ?_
  rw [← uσ2]
  cases h
  exact vv_vret rfl dJ2_add_2_22
def KJ2_add_2 (ad : Nat → Nat) (x0 : Nat) (x1 : Nat) (x2 : Nat) (x3 : Int32) (σ : vv_S) : Option vv_S := (aLn σ x2).bind fun v1 => if x3 = v1 then ((isO σ x0 11).bind fun _ => (KJ2_grow ad x0 σ).bind fun r3 => KJ2_add_2_11 ad x0 x1 r3.1 x3 r3.2) else (KJ2_add_2_11 ad x0 x1 x2 x3 σ)
theorem v_KJ2_add_2_0 {l : Launch} {G : vv_G} {d : Nat} {ad : Nat → Nat} (hG : vv_gok G) (hH : vv_hy l G ad) {x0 : Nat} {x1 : Nat} {x2 : Nat} {x3 : Int32} {σ : vv_S} {r : vv_S} (h : KJ2_add_2 ad x0 x1 x2 x3 σ = some r) : vv_V l G MJ2_add_2 (d + 5) 0 [(0, .ref x0), (1, .ref x1), (2, .ref x2), (3, .int x3)] [] σ (.inl none, r) := by
  unfold KJ2_add_2 at h
  refine vv_iload_n dJ2_add_2_0 rfl 3 rfl ?_
  refine vv_aload_n dJ2_add_2_1 rfl 2 rfl ?_
  replace h := aL_o h; obtain ⟨v1, fv1, xv1, ev1, wv1, h⟩ := h
  refine vv_alen ev1 wv1 dJ2_add_2_2 ?_
  refine vv_icmp_ne (tgt := 11) dJ2_add_2_3 (by decide) (fun c2 => ?_) (fun c2 => ?_)
  · rw [if_neg c2] at h
    exact v_KJ2_add_2_11 hG hH h
  · rw [if_pos c2] at h
    refine vv_aload_n dJ2_add_2_6 rfl 0 rfl ?_
    replace h := isO_o h; obtain ⟨fz4, sz4, ez4, h⟩ := h
    replace h := bd_o h; obtain ⟨r3, er3, h⟩ := h
    refine vv_callV ok_J2_grow q370 (m_KJ2_grow hG hH er3 d) rfl (by omega) ⟨_, _, _, _, _, ez4, by rw [hG.1]; rfl⟩ rfl rfl (Nat.le_of_ble_eq_true rfl) dJ2_add_2_7 ?_
    refine vv_astore_n (lv' := [(0, .ref x0), (1, .ref x1), (2, .ref r3.1), (3, .int x3)]) dJ2_add_2_10 rfl (by decide) [1, 2, 0, 3] rfl ?_
    exact v_KJ2_add_2_11 hG hH h
theorem m_KJ2_add_2 {l : Launch} {G : vv_G} {ad : Nat → Nat} (hG : vv_gok G) (hH : vv_hy l G ad) {x0 : Nat} {x1 : Nat} {x2 : Nat} {x3 : Int32} {σ : vv_S} {r : vv_S} (h : KJ2_add_2 ad x0 x1 x2 x3 σ = some r) (d : Nat) : vv_Met l G MJ2_add_2 (d + 5) [.ref x0, .ref x1, .ref x2, .int x3] σ (.inl none, r) := vv_head (by decide +kernel) rfl (Nat.le_of_ble_eq_true rfl) rfl (v_KJ2_add_2_0 hG hH h)
/-! ('J2', 'add') -/
def KJ2_add (ad : Nat → Nat) (x0 : Nat) (x1 : Nat) (σ : vv_S) : Option (Int32 × vv_S) := (gI σ x0 11 0).bind fun v1 => (pF σ x0 11 0 (.int (v1 + (nI 1)))).bind fun σ2 => (gR σ2 x0 11 1).bind fun v3 => (gI σ2 x0 11 2).bind fun v4 => (isO σ2 x0 11).bind fun _ => (KJ2_add_2 ad x0 x1 v3 v4 σ2).bind fun r5 => some ((nI 1), r5)
theorem v_KJ2_add_0 {l : Launch} {G : vv_G} {d : Nat} {ad : Nat → Nat} (hG : vv_gok G) (hH : vv_hy l G ad) {x0 : Nat} {x1 : Nat} {σ : vv_S} {r : Int32 × vv_S} (h : KJ2_add ad x0 x1 σ = some r) : vv_V l G MJ2_add (d + 6) 0 [(0, .ref x0), (1, .ref x1)] [] σ (.inl (some (.int r.1)), r.2) := by
  unfold KJ2_add at h
  refine vv_aload_n dJ2_add_0 rfl 0 rfl ?_
  refine vv_dup dJ2_add_1 rfl ?_
  replace h := gI_o h; obtain ⟨v1, fv1, sv1, ev1, lv1, h⟩ := h
  refine vv_getH (fl_J2_63 hG) ev1 lv1 dJ2_add_2 ?_
  refine vv_iconst (v := (nI 1)) dJ2_add_5 (by decide) ?_
  refine vv_iadd dJ2_add_6 ?_
  replace h := pF_o h; obtain ⟨σ2, sσ2, eσ2, lσ2, uσ2, h⟩ := h
  refine vv_putH (fl_J2_63 hG) eσ2 rfl rfl lσ2 dJ2_add_7 ?_
  rw [← uσ2]
  refine vv_aload_n dJ2_add_10 rfl 0 rfl ?_
  refine vv_aload_n dJ2_add_11 rfl 1 rfl ?_
  refine vv_aload_n dJ2_add_12 rfl 0 rfl ?_
  replace h := gR_o h; obtain ⟨v3, fv3, sv3, ev3, lv3, h⟩ := h
  refine vv_get (fl_J2_9 hG) ev3 lv3 dJ2_add_13 ?_
  refine vv_aload_n dJ2_add_16 rfl 0 rfl ?_
  replace h := gI_o h; obtain ⟨v4, fv4, sv4, ev4, lv4, h⟩ := h
  refine vv_get (fl_J2_48 hG) ev4 lv4 dJ2_add_17 ?_
  replace h := isO_o h; obtain ⟨fz6, sz6, ez6, h⟩ := h
  replace h := bd_o h; obtain ⟨r5, er5, h⟩ := h
  refine vv_callV ok_J2_add_2 q366 (m_KJ2_add_2 hG hH er5 d) rfl (by omega) ⟨_, _, _, _, _, ez6, by rw [hG.1]; rfl⟩ rfl rfl (Nat.le_of_ble_eq_true rfl) dJ2_add_20 ?_
  refine vv_iconst (v := (nI 1)) dJ2_add_23 (by decide) ?_
  cases h
  exact vv_zret rfl (by decide) dJ2_add_24
theorem m_KJ2_add {l : Launch} {G : vv_G} {ad : Nat → Nat} (hG : vv_gok G) (hH : vv_hy l G ad) {x0 : Nat} {x1 : Nat} {σ : vv_S} {r : Int32 × vv_S} (h : KJ2_add ad x0 x1 σ = some r) (d : Nat) : vv_Met l G MJ2_add (d + 6) [.ref x0, .ref x1] σ (.inl (some (.int r.1)), r.2) := vv_head (by decide +kernel) rfl (Nat.le_of_ble_eq_true rfl) rfl (v_KJ2_add_0 hG hH h)
/-! ('J2', 'size') -/
def KJ2_size (x0 : Nat) (σ : vv_S) : Option Int32 := (gI σ x0 11 2).bind fun v1 => some v1
theorem v_KJ2_size_0 {l : Launch} {G : vv_G} {d : Nat} {ad : Nat → Nat} (hG : vv_gok G) (hH : vv_hy l G ad) {x0 : Nat} {σ : vv_S} {r : Int32} (h : KJ2_size x0 σ = some r) : vv_V l G MJ2_size (d + 0) 0 [(0, .ref x0)] [] σ (.inl (some (.int r)), σ) := by
  unfold KJ2_size at h
  refine vv_aload_n dJ2_size_0 rfl 0 rfl ?_
  replace h := gI_o h; obtain ⟨v1, fv1, sv1, ev1, lv1, h⟩ := h
  refine vv_get (fl_J2_48 hG) ev1 lv1 dJ2_size_1 ?_
  cases h
  exact vv_iret rfl dJ2_size_4
theorem m_KJ2_size {l : Launch} {G : vv_G} {ad : Nat → Nat} (hG : vv_gok G) (hH : vv_hy l G ad) {x0 : Nat} {σ : vv_S} {r : Int32} (h : KJ2_size x0 σ = some r) (d : Nat) : vv_Met l G MJ2_size (d + 0) [.ref x0] σ (.inl (some (.int r)), σ) := vv_head (by decide +kernel) rfl (Nat.le_of_ble_eq_true rfl) rfl (v_KJ2_size_0 hG hH h)
/-! ('J2', 'elementData') -/
def KJ2_elementData (x0 : Nat) (x1 : Int32) (σ : vv_S) : Option Nat := (gR σ x0 11 1).bind fun v1 => (aQ σ v1 x1).bind fun v2 => some v2
theorem v_KJ2_elementData_0 {l : Launch} {G : vv_G} {d : Nat} {ad : Nat → Nat} (hG : vv_gok G) (hH : vv_hy l G ad) {x0 : Nat} {x1 : Int32} {σ : vv_S} {r : Nat} (h : KJ2_elementData x0 x1 σ = some r) : vv_V l G MJ2_elementData (d + 0) 0 [(0, .ref x0), (1, .int x1)] [] σ (.inl (some (.ref r)), σ) := by
  unfold KJ2_elementData at h
  refine vv_aload_n dJ2_elementData_0 rfl 0 rfl ?_
  replace h := gR_o h; obtain ⟨v1, fv1, sv1, ev1, lv1, h⟩ := h
  refine vv_get (fl_J2_9 hG) ev1 lv1 dJ2_elementData_1 ?_
  refine vv_iload_n dJ2_elementData_4 rfl 1 rfl ?_
  replace h := aQ_o h; obtain ⟨v2, fv2, tv2, nv2, qv2, rv2, ev2, iv2, wv2, h⟩ := h
  refine vv_aald rv2 ev2 iv2 dJ2_elementData_5 ?_
  rw [wv2]
  refine vv_st (st' := [.ref v2]) rfl ?_
  cases h
  exact vv_aret rfl (by first | exact Or.inl ⟨_, rfl⟩ | exact Or.inr ⟨_, rfl⟩) (Or.inr ⟨_, rfl⟩) dJ2_elementData_6
theorem m_KJ2_elementData {l : Launch} {G : vv_G} {ad : Nat → Nat} (hG : vv_gok G) (hH : vv_hy l G ad) {x0 : Nat} {x1 : Int32} {σ : vv_S} {r : Nat} (h : KJ2_elementData x0 x1 σ = some r) (d : Nat) : vv_Met l G MJ2_elementData (d + 0) [.ref x0, .int x1] σ (.inl (some (.ref r)), σ) := vv_head (by decide +kernel) rfl (Nat.le_of_ble_eq_true rfl) rfl (v_KJ2_elementData_0 hG hH h)
/-! ('J2', 'get') -/
def KJ2_get (x0 : Nat) (x1 : Int32) (σ : vv_S) : Option Nat := (gI σ x0 11 2).bind fun v1 => (KJ17_checkIndex x1 v1).bind fun r2 => (isO σ x0 11).bind fun _ => (KJ2_elementData x0 x1 σ).bind fun r3 => some r3
theorem v_KJ2_get_0 {l : Launch} {G : vv_G} {d : Nat} {ad : Nat → Nat} (hG : vv_gok G) (hH : vv_hy l G ad) {x0 : Nat} {x1 : Int32} {σ : vv_S} {r : Nat} (h : KJ2_get x0 x1 σ = some r) : vv_V l G MJ2_get (d + 2) 0 [(0, .ref x0), (1, .int x1)] [] σ (.inl (some (.ref r)), σ) := by
  unfold KJ2_get at h
  refine vv_iload_n dJ2_get_0 rfl 1 rfl ?_
  refine vv_aload_n dJ2_get_1 rfl 0 rfl ?_
  replace h := gI_o h; obtain ⟨v1, fv1, sv1, ev1, lv1, h⟩ := h
  refine vv_get (fl_J2_48 hG) ev1 lv1 dJ2_get_2 ?_
  replace h := bd_o h; obtain ⟨r2, er2, h⟩ := h
  refine vv_callS ok_J17_checkIndex q443 (m_KJ17_checkIndex hG hH er2 d) rfl (by omega) rfl rfl (Nat.le_of_ble_eq_true rfl) dJ2_get_5 ?_
  refine vv_pop dJ2_get_8 rfl ?_
  refine vv_aload_n dJ2_get_9 rfl 0 rfl ?_
  refine vv_iload_n dJ2_get_10 rfl 1 rfl ?_
  replace h := isO_o h; obtain ⟨fz4, sz4, ez4, h⟩ := h
  replace h := bd_o h; obtain ⟨r3, er3, h⟩ := h
  refine vv_callV ok_J2_elementData q486 (m_KJ2_elementData hG hH er3 d) rfl (by omega) ⟨_, _, _, _, _, ez4, by rw [hG.1]; rfl⟩ rfl rfl (Nat.le_of_ble_eq_true rfl) dJ2_get_11 ?_
  cases h
  exact vv_aret rfl (by first | exact Or.inl ⟨_, rfl⟩ | exact Or.inr ⟨_, rfl⟩) (Or.inr ⟨_, rfl⟩) dJ2_get_14
theorem m_KJ2_get {l : Launch} {G : vv_G} {ad : Nat → Nat} (hG : vv_gok G) (hH : vv_hy l G ad) {x0 : Nat} {x1 : Int32} {σ : vv_S} {r : Nat} (h : KJ2_get x0 x1 σ = some r) (d : Nat) : vv_Met l G MJ2_get (d + 2) [.ref x0, .int x1] σ (.inl (some (.ref r)), σ) := vv_head (by decide +kernel) rfl (Nat.le_of_ble_eq_true rfl) rfl (v_KJ2_get_0 hG hH h)
/-! ('J14', 'intValue') -/
def KJ14_intValue (x0 : Nat) (σ : vv_S) : Option Int32 := (gI σ x0 12 0).bind fun v1 => some v1
theorem v_KJ14_intValue_0 {l : Launch} {G : vv_G} {d : Nat} {ad : Nat → Nat} (hG : vv_gok G) (hH : vv_hy l G ad) {x0 : Nat} {σ : vv_S} {r : Int32} (h : KJ14_intValue x0 σ = some r) : vv_V l G MJ14_intValue (d + 0) 0 [(0, .ref x0)] [] σ (.inl (some (.int r)), σ) := by
  unfold KJ14_intValue at h
  refine vv_aload_n dJ14_intValue_0 rfl 0 rfl ?_
  replace h := gI_o h; obtain ⟨v1, fv1, sv1, ev1, lv1, h⟩ := h
  refine vv_get (fl_J14_205 hG) ev1 lv1 dJ14_intValue_1 ?_
  cases h
  exact vv_iret rfl dJ14_intValue_4
theorem m_KJ14_intValue {l : Launch} {G : vv_G} {ad : Nat → Nat} (hG : vv_gok G) (hH : vv_hy l G ad) {x0 : Nat} {σ : vv_S} {r : Int32} (h : KJ14_intValue x0 σ = some r) (d : Nat) : vv_Met l G MJ14_intValue (d + 0) [.ref x0] σ (.inl (some (.int r)), σ) := vv_head (by decide +kernel) rfl (Nat.le_of_ble_eq_true rfl) rfl (v_KJ14_intValue_0 hG hH h)
/-! ('J14', 'bitCount') -/
def KJ14_bitCount (x0 : Int32) : Option Int32 := some ((((((((x0 - ((Int32.toUInt32 x0 >>> (Int32.toUInt32 (nI 1) &&& Int32.toUInt32 31)).toInt32 &&& (nI 1431655765))) &&& (nI 858993459)) + ((Int32.toUInt32 (x0 - ((Int32.toUInt32 x0 >>> (Int32.toUInt32 (nI 1) &&& Int32.toUInt32 31)).toInt32 &&& (nI 1431655765))) >>> (Int32.toUInt32 (nI 2) &&& Int32.toUInt32 31)).toInt32 &&& (nI 858993459))) + (Int32.toUInt32 (((x0 - ((Int32.toUInt32 x0 >>> (Int32.toUInt32 (nI 1) &&& Int32.toUInt32 31)).toInt32 &&& (nI 1431655765))) &&& (nI 858993459)) + ((Int32.toUInt32 (x0 - ((Int32.toUInt32 x0 >>> (Int32.toUInt32 (nI 1) &&& Int32.toUInt32 31)).toInt32 &&& (nI 1431655765))) >>> (Int32.toUInt32 (nI 2) &&& Int32.toUInt32 31)).toInt32 &&& (nI 858993459))) >>> (Int32.toUInt32 (nI 4) &&& Int32.toUInt32 31)).toInt32) &&& (nI 252645135)) + (Int32.toUInt32 (((((x0 - ((Int32.toUInt32 x0 >>> (Int32.toUInt32 (nI 1) &&& Int32.toUInt32 31)).toInt32 &&& (nI 1431655765))) &&& (nI 858993459)) + ((Int32.toUInt32 (x0 - ((Int32.toUInt32 x0 >>> (Int32.toUInt32 (nI 1) &&& Int32.toUInt32 31)).toInt32 &&& (nI 1431655765))) >>> (Int32.toUInt32 (nI 2) &&& Int32.toUInt32 31)).toInt32 &&& (nI 858993459))) + (Int32.toUInt32 (((x0 - ((Int32.toUInt32 x0 >>> (Int32.toUInt32 (nI 1) &&& Int32.toUInt32 31)).toInt32 &&& (nI 1431655765))) &&& (nI 858993459)) + ((Int32.toUInt32 (x0 - ((Int32.toUInt32 x0 >>> (Int32.toUInt32 (nI 1) &&& Int32.toUInt32 31)).toInt32 &&& (nI 1431655765))) >>> (Int32.toUInt32 (nI 2) &&& Int32.toUInt32 31)).toInt32 &&& (nI 858993459))) >>> (Int32.toUInt32 (nI 4) &&& Int32.toUInt32 31)).toInt32) &&& (nI 252645135)) >>> (Int32.toUInt32 (nI 8) &&& Int32.toUInt32 31)).toInt32) + (Int32.toUInt32 ((((((x0 - ((Int32.toUInt32 x0 >>> (Int32.toUInt32 (nI 1) &&& Int32.toUInt32 31)).toInt32 &&& (nI 1431655765))) &&& (nI 858993459)) + ((Int32.toUInt32 (x0 - ((Int32.toUInt32 x0 >>> (Int32.toUInt32 (nI 1) &&& Int32.toUInt32 31)).toInt32 &&& (nI 1431655765))) >>> (Int32.toUInt32 (nI 2) &&& Int32.toUInt32 31)).toInt32 &&& (nI 858993459))) + (Int32.toUInt32 (((x0 - ((Int32.toUInt32 x0 >>> (Int32.toUInt32 (nI 1) &&& Int32.toUInt32 31)).toInt32 &&& (nI 1431655765))) &&& (nI 858993459)) + ((Int32.toUInt32 (x0 - ((Int32.toUInt32 x0 >>> (Int32.toUInt32 (nI 1) &&& Int32.toUInt32 31)).toInt32 &&& (nI 1431655765))) >>> (Int32.toUInt32 (nI 2) &&& Int32.toUInt32 31)).toInt32 &&& (nI 858993459))) >>> (Int32.toUInt32 (nI 4) &&& Int32.toUInt32 31)).toInt32) &&& (nI 252645135)) + (Int32.toUInt32 (((((x0 - ((Int32.toUInt32 x0 >>> (Int32.toUInt32 (nI 1) &&& Int32.toUInt32 31)).toInt32 &&& (nI 1431655765))) &&& (nI 858993459)) + ((Int32.toUInt32 (x0 - ((Int32.toUInt32 x0 >>> (Int32.toUInt32 (nI 1) &&& Int32.toUInt32 31)).toInt32 &&& (nI 1431655765))) >>> (Int32.toUInt32 (nI 2) &&& Int32.toUInt32 31)).toInt32 &&& (nI 858993459))) + (Int32.toUInt32 (((x0 - ((Int32.toUInt32 x0 >>> (Int32.toUInt32 (nI 1) &&& Int32.toUInt32 31)).toInt32 &&& (nI 1431655765))) &&& (nI 858993459)) + ((Int32.toUInt32 (x0 - ((Int32.toUInt32 x0 >>> (Int32.toUInt32 (nI 1) &&& Int32.toUInt32 31)).toInt32 &&& (nI 1431655765))) >>> (Int32.toUInt32 (nI 2) &&& Int32.toUInt32 31)).toInt32 &&& (nI 858993459))) >>> (Int32.toUInt32 (nI 4) &&& Int32.toUInt32 31)).toInt32) &&& (nI 252645135)) >>> (Int32.toUInt32 (nI 8) &&& Int32.toUInt32 31)).toInt32) >>> (Int32.toUInt32 (nI 16) &&& Int32.toUInt32 31)).toInt32) &&& (nI 63))
theorem v_KJ14_bitCount_0 {l : Launch} {G : vv_G} {d : Nat} {ad : Nat → Nat} {σ : vv_S} (hG : vv_gok G) (hH : vv_hy l G ad) {x0 : Int32} {r : Int32} (h : KJ14_bitCount x0 = some r) : vv_V l G MJ14_bitCount (d + 0) 0 [(0, .int x0)] [] σ (.inl (some (.int r)), σ) := by
  unfold KJ14_bitCount at h
  refine vv_iload_n dJ14_bitCount_0 rfl 0 rfl ?_
  refine vv_iload_n dJ14_bitCount_1 rfl 0 rfl ?_
  refine vv_iconst (v := (nI 1)) dJ14_bitCount_2 (by decide) ?_
  refine vv_iushr dJ14_bitCount_3 ?_
  refine vv_ldcw (v := (nI 1431655765)) dJ14_bitCount_4 q520 ?_
  refine vv_iand dJ14_bitCount_7 ?_
  refine vv_isub dJ14_bitCount_8 ?_
  refine vv_istore_n (lv' := [(0, .int (x0 - ((Int32.toUInt32 x0 >>> (Int32.toUInt32 (nI 1) &&& Int32.toUInt32 31)).toInt32 &&& (nI 1431655765))))]) dJ14_bitCount_9 rfl (by decide) [0] rfl ?_
  refine vv_iload_n dJ14_bitCount_10 rfl 0 rfl ?_
  refine vv_ldcw (v := (nI 858993459)) dJ14_bitCount_11 q521 ?_
  refine vv_iand dJ14_bitCount_14 ?_
  refine vv_iload_n dJ14_bitCount_15 rfl 0 rfl ?_
  refine vv_iconst (v := (nI 2)) dJ14_bitCount_16 (by decide) ?_
  refine vv_iushr dJ14_bitCount_17 ?_
  refine vv_ldcw (v := (nI 858993459)) dJ14_bitCount_18 q521 ?_
  refine vv_iand dJ14_bitCount_21 ?_
  refine vv_iadd dJ14_bitCount_22 ?_
  refine vv_istore_n (lv' := [(0, .int (((x0 - ((Int32.toUInt32 x0 >>> (Int32.toUInt32 (nI 1) &&& Int32.toUInt32 31)).toInt32 &&& (nI 1431655765))) &&& (nI 858993459)) + ((Int32.toUInt32 (x0 - ((Int32.toUInt32 x0 >>> (Int32.toUInt32 (nI 1) &&& Int32.toUInt32 31)).toInt32 &&& (nI 1431655765))) >>> (Int32.toUInt32 (nI 2) &&& Int32.toUInt32 31)).toInt32 &&& (nI 858993459))))]) dJ14_bitCount_23 rfl (by decide) [0] rfl ?_
  refine vv_iload_n dJ14_bitCount_24 rfl 0 rfl ?_
  refine vv_iload_n dJ14_bitCount_25 rfl 0 rfl ?_
  refine vv_iconst (v := (nI 4)) dJ14_bitCount_26 (by decide) ?_
  refine vv_iushr dJ14_bitCount_27 ?_
  refine vv_iadd dJ14_bitCount_28 ?_
  refine vv_ldcw (v := (nI 252645135)) dJ14_bitCount_29 q522 ?_
  refine vv_iand dJ14_bitCount_32 ?_
  refine vv_istore_n (lv' := [(0, .int (((((x0 - ((Int32.toUInt32 x0 >>> (Int32.toUInt32 (nI 1) &&& Int32.toUInt32 31)).toInt32 &&& (nI 1431655765))) &&& (nI 858993459)) + ((Int32.toUInt32 (x0 - ((Int32.toUInt32 x0 >>> (Int32.toUInt32 (nI 1) &&& Int32.toUInt32 31)).toInt32 &&& (nI 1431655765))) >>> (Int32.toUInt32 (nI 2) &&& Int32.toUInt32 31)).toInt32 &&& (nI 858993459))) + (Int32.toUInt32 (((x0 - ((Int32.toUInt32 x0 >>> (Int32.toUInt32 (nI 1) &&& Int32.toUInt32 31)).toInt32 &&& (nI 1431655765))) &&& (nI 858993459)) + ((Int32.toUInt32 (x0 - ((Int32.toUInt32 x0 >>> (Int32.toUInt32 (nI 1) &&& Int32.toUInt32 31)).toInt32 &&& (nI 1431655765))) >>> (Int32.toUInt32 (nI 2) &&& Int32.toUInt32 31)).toInt32 &&& (nI 858993459))) >>> (Int32.toUInt32 (nI 4) &&& Int32.toUInt32 31)).toInt32) &&& (nI 252645135)))]) dJ14_bitCount_33 rfl (by decide) [0] rfl ?_
  refine vv_iload_n dJ14_bitCount_34 rfl 0 rfl ?_
  refine vv_iload_n dJ14_bitCount_35 rfl 0 rfl ?_
  refine vv_bipush (v := (nI 8)) dJ14_bitCount_36 (by decide) ?_
  refine vv_iushr dJ14_bitCount_38 ?_
  refine vv_iadd dJ14_bitCount_39 ?_
  refine vv_istore_n (lv' := [(0, .int ((((((x0 - ((Int32.toUInt32 x0 >>> (Int32.toUInt32 (nI 1) &&& Int32.toUInt32 31)).toInt32 &&& (nI 1431655765))) &&& (nI 858993459)) + ((Int32.toUInt32 (x0 - ((Int32.toUInt32 x0 >>> (Int32.toUInt32 (nI 1) &&& Int32.toUInt32 31)).toInt32 &&& (nI 1431655765))) >>> (Int32.toUInt32 (nI 2) &&& Int32.toUInt32 31)).toInt32 &&& (nI 858993459))) + (Int32.toUInt32 (((x0 - ((Int32.toUInt32 x0 >>> (Int32.toUInt32 (nI 1) &&& Int32.toUInt32 31)).toInt32 &&& (nI 1431655765))) &&& (nI 858993459)) + ((Int32.toUInt32 (x0 - ((Int32.toUInt32 x0 >>> (Int32.toUInt32 (nI 1) &&& Int32.toUInt32 31)).toInt32 &&& (nI 1431655765))) >>> (Int32.toUInt32 (nI 2) &&& Int32.toUInt32 31)).toInt32 &&& (nI 858993459))) >>> (Int32.toUInt32 (nI 4) &&& Int32.toUInt32 31)).toInt32) &&& (nI 252645135)) + (Int32.toUInt32 (((((x0 - ((Int32.toUInt32 x0 >>> (Int32.toUInt32 (nI 1) &&& Int32.toUInt32 31)).toInt32 &&& (nI 1431655765))) &&& (nI 858993459)) + ((Int32.toUInt32 (x0 - ((Int32.toUInt32 x0 >>> (Int32.toUInt32 (nI 1) &&& Int32.toUInt32 31)).toInt32 &&& (nI 1431655765))) >>> (Int32.toUInt32 (nI 2) &&& Int32.toUInt32 31)).toInt32 &&& (nI 858993459))) + (Int32.toUInt32 (((x0 - ((Int32.toUInt32 x0 >>> (Int32.toUInt32 (nI 1) &&& Int32.toUInt32 31)).toInt32 &&& (nI 1431655765))) &&& (nI 858993459)) + ((Int32.toUInt32 (x0 - ((Int32.toUInt32 x0 >>> (Int32.toUInt32 (nI 1) &&& Int32.toUInt32 31)).toInt32 &&& (nI 1431655765))) >>> (Int32.toUInt32 (nI 2) &&& Int32.toUInt32 31)).toInt32 &&& (nI 858993459))) >>> (Int32.toUInt32 (nI 4) &&& Int32.toUInt32 31)).toInt32) &&& (nI 252645135)) >>> (Int32.toUInt32 (nI 8) &&& Int32.toUInt32 31)).toInt32))]) dJ14_bitCount_40 rfl (by decide) [0] rfl ?_
  refine vv_iload_n dJ14_bitCount_41 rfl 0 rfl ?_
  refine vv_iload_n dJ14_bitCount_42 rfl 0 rfl ?_
  refine vv_bipush (v := (nI 16)) dJ14_bitCount_43 (by decide) ?_
  refine vv_iushr dJ14_bitCount_45 ?_
  refine vv_iadd dJ14_bitCount_46 ?_
  refine vv_istore_n (lv' := [(0, .int (((((((x0 - ((Int32.toUInt32 x0 >>> (Int32.toUInt32 (nI 1) &&& Int32.toUInt32 31)).toInt32 &&& (nI 1431655765))) &&& (nI 858993459)) + ((Int32.toUInt32 (x0 - ((Int32.toUInt32 x0 >>> (Int32.toUInt32 (nI 1) &&& Int32.toUInt32 31)).toInt32 &&& (nI 1431655765))) >>> (Int32.toUInt32 (nI 2) &&& Int32.toUInt32 31)).toInt32 &&& (nI 858993459))) + (Int32.toUInt32 (((x0 - ((Int32.toUInt32 x0 >>> (Int32.toUInt32 (nI 1) &&& Int32.toUInt32 31)).toInt32 &&& (nI 1431655765))) &&& (nI 858993459)) + ((Int32.toUInt32 (x0 - ((Int32.toUInt32 x0 >>> (Int32.toUInt32 (nI 1) &&& Int32.toUInt32 31)).toInt32 &&& (nI 1431655765))) >>> (Int32.toUInt32 (nI 2) &&& Int32.toUInt32 31)).toInt32 &&& (nI 858993459))) >>> (Int32.toUInt32 (nI 4) &&& Int32.toUInt32 31)).toInt32) &&& (nI 252645135)) + (Int32.toUInt32 (((((x0 - ((Int32.toUInt32 x0 >>> (Int32.toUInt32 (nI 1) &&& Int32.toUInt32 31)).toInt32 &&& (nI 1431655765))) &&& (nI 858993459)) + ((Int32.toUInt32 (x0 - ((Int32.toUInt32 x0 >>> (Int32.toUInt32 (nI 1) &&& Int32.toUInt32 31)).toInt32 &&& (nI 1431655765))) >>> (Int32.toUInt32 (nI 2) &&& Int32.toUInt32 31)).toInt32 &&& (nI 858993459))) + (Int32.toUInt32 (((x0 - ((Int32.toUInt32 x0 >>> (Int32.toUInt32 (nI 1) &&& Int32.toUInt32 31)).toInt32 &&& (nI 1431655765))) &&& (nI 858993459)) + ((Int32.toUInt32 (x0 - ((Int32.toUInt32 x0 >>> (Int32.toUInt32 (nI 1) &&& Int32.toUInt32 31)).toInt32 &&& (nI 1431655765))) >>> (Int32.toUInt32 (nI 2) &&& Int32.toUInt32 31)).toInt32 &&& (nI 858993459))) >>> (Int32.toUInt32 (nI 4) &&& Int32.toUInt32 31)).toInt32) &&& (nI 252645135)) >>> (Int32.toUInt32 (nI 8) &&& Int32.toUInt32 31)).toInt32) + (Int32.toUInt32 ((((((x0 - ((Int32.toUInt32 x0 >>> (Int32.toUInt32 (nI 1) &&& Int32.toUInt32 31)).toInt32 &&& (nI 1431655765))) &&& (nI 858993459)) + ((Int32.toUInt32 (x0 - ((Int32.toUInt32 x0 >>> (Int32.toUInt32 (nI 1) &&& Int32.toUInt32 31)).toInt32 &&& (nI 1431655765))) >>> (Int32.toUInt32 (nI 2) &&& Int32.toUInt32 31)).toInt32 &&& (nI 858993459))) + (Int32.toUInt32 (((x0 - ((Int32.toUInt32 x0 >>> (Int32.toUInt32 (nI 1) &&& Int32.toUInt32 31)).toInt32 &&& (nI 1431655765))) &&& (nI 858993459)) + ((Int32.toUInt32 (x0 - ((Int32.toUInt32 x0 >>> (Int32.toUInt32 (nI 1) &&& Int32.toUInt32 31)).toInt32 &&& (nI 1431655765))) >>> (Int32.toUInt32 (nI 2) &&& Int32.toUInt32 31)).toInt32 &&& (nI 858993459))) >>> (Int32.toUInt32 (nI 4) &&& Int32.toUInt32 31)).toInt32) &&& (nI 252645135)) + (Int32.toUInt32 (((((x0 - ((Int32.toUInt32 x0 >>> (Int32.toUInt32 (nI 1) &&& Int32.toUInt32 31)).toInt32 &&& (nI 1431655765))) &&& (nI 858993459)) + ((Int32.toUInt32 (x0 - ((Int32.toUInt32 x0 >>> (Int32.toUInt32 (nI 1) &&& Int32.toUInt32 31)).toInt32 &&& (nI 1431655765))) >>> (Int32.toUInt32 (nI 2) &&& Int32.toUInt32 31)).toInt32 &&& (nI 858993459))) + (Int32.toUInt32 (((x0 - ((Int32.toUInt32 x0 >>> (Int32.toUInt32 (nI 1) &&& Int32.toUInt32 31)).toInt32 &&& (nI 1431655765))) &&& (nI 858993459)) + ((Int32.toUInt32 (x0 - ((Int32.toUInt32 x0 >>> (Int32.toUInt32 (nI 1) &&& Int32.toUInt32 31)).toInt32 &&& (nI 1431655765))) >>> (Int32.toUInt32 (nI 2) &&& Int32.toUInt32 31)).toInt32 &&& (nI 858993459))) >>> (Int32.toUInt32 (nI 4) &&& Int32.toUInt32 31)).toInt32) &&& (nI 252645135)) >>> (Int32.toUInt32 (nI 8) &&& Int32.toUInt32 31)).toInt32) >>> (Int32.toUInt32 (nI 16) &&& Int32.toUInt32 31)).toInt32))]) dJ14_bitCount_47 rfl (by decide) [0] rfl ?_
  refine vv_iload_n dJ14_bitCount_48 rfl 0 rfl ?_
  refine vv_bipush (v := (nI 63)) dJ14_bitCount_49 (by decide) ?_
  refine vv_iand dJ14_bitCount_51 ?_
  cases h
  exact vv_iret rfl dJ14_bitCount_52
theorem m_KJ14_bitCount {l : Launch} {G : vv_G} {ad : Nat → Nat} {σ : vv_S} (hG : vv_gok G) (hH : vv_hy l G ad) {x0 : Int32} {r : Int32} (h : KJ14_bitCount x0 = some r) (d : Nat) : vv_Met l G MJ14_bitCount (d + 0) [.int x0] σ (.inl (some (.int r)), σ) := vv_head (by decide +kernel) rfl (Nat.le_of_ble_eq_true rfl) rfl (v_KJ14_bitCount_0 hG hH h)
/-! ('J2', 'isEmpty') -/
def KJ2_isEmpty_12 (s0 : Int32) (σ : vv_S) : Option Int32 := (zrI s0).bind fun v1 => some v1
theorem v_KJ2_isEmpty_12 {l : Launch} {G : vv_G} {d : Nat} {ad : Nat → Nat} (hG : vv_gok G) (hH : vv_hy l G ad) {s0 : Int32} {σ : vv_S} {r : Int32} (h : KJ2_isEmpty_12 s0 σ = some r) : vv_V l G MJ2_isEmpty (d + 0) 12 [] [.int s0] σ (.inl (some (.int r)), σ) := by
  unfold KJ2_isEmpty_12 at h
  replace h := zr_o h; obtain ⟨zv1, h⟩ := h
  cases h
  exact vv_zret rfl zv1 dJ2_isEmpty_12
def KJ2_isEmpty (x0 : Nat) (σ : vv_S) : Option Int32 := (gI σ x0 11 2).bind fun v1 => if v1 = 0 then (KJ2_isEmpty_12 (nI 1) σ) else (KJ2_isEmpty_12 (nI 0) σ)
theorem v_KJ2_isEmpty_0 {l : Launch} {G : vv_G} {d : Nat} {ad : Nat → Nat} (hG : vv_gok G) (hH : vv_hy l G ad) {x0 : Nat} {σ : vv_S} {r : Int32} (h : KJ2_isEmpty x0 σ = some r) : vv_V l G MJ2_isEmpty (d + 0) 0 [(0, .ref x0)] [] σ (.inl (some (.int r)), σ) := by
  unfold KJ2_isEmpty at h
  refine vv_aload_n dJ2_isEmpty_0 rfl 0 rfl ?_
  replace h := gI_o h; obtain ⟨v1, fv1, sv1, ev1, lv1, h⟩ := h
  refine vv_get (fl_J2_48 hG) ev1 lv1 dJ2_isEmpty_1 ?_
  refine vv_if_ne (tgt := 11) dJ2_isEmpty_4 (by decide) (fun c2 => ?_) (fun c2 => ?_)
  · rw [if_neg c2] at h
    refine vv_iconst (v := (nI 0)) dJ2_isEmpty_11 (by decide) ?_
    refine vv_sub (lv' := []) [] rfl ?_
    exact v_KJ2_isEmpty_12 hG hH h
  · rw [if_pos c2] at h
    refine vv_iconst (v := (nI 1)) dJ2_isEmpty_7 (by decide) ?_
    refine vv_goto (tgt := 12) dJ2_isEmpty_8 (by decide) ?_
    refine vv_sub (lv' := []) [] rfl ?_
    exact v_KJ2_isEmpty_12 hG hH h
theorem m_KJ2_isEmpty {l : Launch} {G : vv_G} {ad : Nat → Nat} (hG : vv_gok G) (hH : vv_hy l G ad) {x0 : Nat} {σ : vv_S} {r : Int32} (h : KJ2_isEmpty x0 σ = some r) (d : Nat) : vv_Met l G MJ2_isEmpty (d + 0) [.ref x0] σ (.inl (some (.int r)), σ) := vv_head (by decide +kernel) rfl (Nat.le_of_ble_eq_true rfl) rfl (v_KJ2_isEmpty_0 hG hH h)
/-! ('J2', 'toArray') -/
def KJ2_toArray (ad : Nat → Nat) (x0 : Nat) (σ : vv_S) : Option (Nat × vv_S) := (gR σ x0 11 1).bind fun v1 => (gI σ x0 11 2).bind fun v2 => (KJ16_copyOf ad v1 v2 σ).bind fun r3 => some (r3.1, r3.2)
theorem v_KJ2_toArray_0 {l : Launch} {G : vv_G} {d : Nat} {ad : Nat → Nat} (hG : vv_gok G) (hH : vv_hy l G ad) {x0 : Nat} {σ : vv_S} {r : Nat × vv_S} (h : KJ2_toArray ad x0 σ = some r) : vv_V l G MJ2_toArray (d + 3) 0 [(0, .ref x0)] [] σ (.inl (some (.ref r.1)), r.2) := by
  unfold KJ2_toArray at h
  refine vv_aload_n dJ2_toArray_0 rfl 0 rfl ?_
  replace h := gR_o h; obtain ⟨v1, fv1, sv1, ev1, lv1, h⟩ := h
  refine vv_get (fl_J2_9 hG) ev1 lv1 dJ2_toArray_1 ?_
  refine vv_aload_n dJ2_toArray_4 rfl 0 rfl ?_
  replace h := gI_o h; obtain ⟨v2, fv2, sv2, ev2, lv2, h⟩ := h
  refine vv_get (fl_J2_48 hG) ev2 lv2 dJ2_toArray_5 ?_
  replace h := bd_o h; obtain ⟨r3, er3, h⟩ := h
  refine vv_callS ok_J16_copyOf q388 (m_KJ16_copyOf hG hH er3 d) rfl (by omega) rfl rfl (Nat.le_of_ble_eq_true rfl) dJ2_toArray_8 ?_
  cases h
  exact vv_aret rfl (by first | exact Or.inl ⟨_, rfl⟩ | exact Or.inr ⟨_, rfl⟩) (Or.inr ⟨_, rfl⟩) dJ2_toArray_11
theorem m_KJ2_toArray {l : Launch} {G : vv_G} {ad : Nat → Nat} (hG : vv_gok G) (hH : vv_hy l G ad) {x0 : Nat} {σ : vv_S} {r : Nat × vv_S} (h : KJ2_toArray ad x0 σ = some r) (d : Nat) : vv_Met l G MJ2_toArray (d + 3) [.ref x0] σ (.inl (some (.ref r.1)), r.2) := vv_head (by decide +kernel) rfl (Nat.le_of_ble_eq_true rfl) rfl (v_KJ2_toArray_0 hG hH h)
/-! ('J2', 'init_2') -/
def KJ2_init_2_64 (ad : Nat → Nat) (σ : vv_S) : Option vv_S := some σ
theorem v_KJ2_init_2_64 {l : Launch} {G : vv_G} {d : Nat} {ad : Nat → Nat} (hG : vv_gok G) (hH : vv_hy l G ad) {σ : vv_S} {r : vv_S} (h : KJ2_init_2_64 ad σ = some r) : vv_V l G MJ2_init_2 (d + 4) 64 [] [] σ (.inl none, r) := by
  unfold KJ2_init_2_64 at h
  cases h
  exact vv_vret rfl dJ2_init_2_64
def KJ2_init_2 (ad : Nat → Nat) (x0 : Nat) (x1 : Nat) (σ : vv_S) : Option vv_S := (KJ1_init x0 σ).bind fun r1 => (isO r1 x1 11).bind fun _ => (KJ2_toArray ad x1 r1).bind fun r2 => (aLn r2.2 r2.1).bind fun v4 => (pF r2.2 x0 11 2 (.int v4)).bind fun σ5 => if v4 = 0 then ((pF σ5 x0 11 1 (.ref (ad 1))).bind fun σ7 => KJ2_init_2_64 ad σ7) else ((isO σ5 x1 11).bind fun _ => (pF σ5 x0 11 1 (.ref r2.1)).bind fun σ10 => KJ2_init_2_64 ad σ10)
theorem v_KJ2_init_2_0 {l : Launch} {G : vv_G} {d : Nat} {ad : Nat → Nat} (hG : vv_gok G) (hH : vv_hy l G ad) {x0 : Nat} {x1 : Nat} {σ : vv_S} {r : vv_S} (h : KJ2_init_2 ad x0 x1 σ = some r) : vv_V l G MJ2_init_2 (d + 4) 0 [(0, .ref x0), (1, .ref x1)] [] σ (.inl none, r) := by
  unfold KJ2_init_2 at h
  refine vv_aload_n dJ2_init_2_0 rfl 0 rfl ?_
  replace h := bd_o h; obtain ⟨r1, er1, h⟩ := h
  refine vv_callI ok_J1_init q162 (m_KJ1_init hG hH er1 d) rfl (by omega) rfl rfl (Nat.le_of_ble_eq_true rfl) dJ2_init_2_1 ?_
  refine vv_aload_n dJ2_init_2_4 rfl 1 rfl ?_
  replace h := isO_o h; obtain ⟨fz3, sz3, ez3, h⟩ := h
  replace h := bd_o h; obtain ⟨r2, er2, h⟩ := h
  refine vv_callF (xx := ⟨"java/util/Collection", "toArray", "()[Ljava/lang/Object;"⟩) okf_J2_toArray q667 (m_KJ2_toArray hG hH er2 d) rfl (by omega) ⟨_, _, _, _, _, ez3, by rw [hG.1]; rfl⟩ q671 (fun U hK => hH.1.2.2.1 U hK _ (List.mem_of_getElem? (i := 5) rfl)) ⟨by decide, by decide, by decide +kernel⟩ rfl rfl (Nat.le_of_ble_eq_true rfl) dJ2_init_2_5 ?_
  refine vv_astore_n (lv' := [(0, .ref x0), (1, .ref x1), (2, .ref r2.1)]) dJ2_init_2_10 rfl (by decide) [1, 2, 0] rfl ?_
  refine vv_aload_n dJ2_init_2_11 rfl 0 rfl ?_
  refine vv_aload_n dJ2_init_2_12 rfl 2 rfl ?_
  replace h := aL_o h; obtain ⟨v4, fv4, xv4, ev4, wv4, h⟩ := h
  refine vv_alen ev4 wv4 dJ2_init_2_13 ?_
  refine vv_dup_x1 dJ2_init_2_14 rfl rfl ?_
  replace h := pF_o h; obtain ⟨σ5, sσ5, eσ5, lσ5, uσ5, h⟩ := h
  refine vv_putf (pt_J2_48 hG) (Or.inr fun C T' N h9 => by rw [hG.1] at h9; cases h9; rfl) eσ5 rfl rfl lσ5 dJ2_init_2_15 ?_
  rw [← uσ5]
  refine vv_if_eq (tgt := 57) dJ2_init_2_18 (by decide) (fun c6 => ?_) (fun c6 => ?_)
  · rw [if_pos c6] at h
    refine vv_aload_n dJ2_init_2_57 rfl 0 rfl ?_
    refine vv_gets hH.1.2.2.2.2.2.2.2.1 q685 dJ2_init_2_58 ?_
    replace h := pF_o h; obtain ⟨σ7, sσ7, eσ7, lσ7, uσ7, h⟩ := h
    refine vv_putf (pt_J2_9 hG) (Or.inr fun C T' N h9 => by rw [hG.1] at h9; cases h9; rfl) eσ7 rfl rfl lσ7 dJ2_init_2_61 ?_
    rw [← uσ7]
    refine vv_sub (lv' := []) [] rfl ?_
    exact v_KJ2_init_2_64 hG hH h
  · rw [if_neg c6] at h
    refine vv_aload_n dJ2_init_2_21 rfl 1 rfl ?_
    replace h := isO_o h; obtain ⟨fz8, sz8, ez8, h⟩ := h
    refine vv_getcF hG hH ez8 q677 (by omega) (Nat.le_of_ble_eq_true rfl) dJ2_init_2_22 ?_
    refine vv_ldm (fun U hK => (hH.1.2.2.2.1 U hK).2.1) q682 dJ2_init_2_27 ?_
    refine vv_acmpR_ne (tgt := 40) dJ2_init_2_29 (by decide) (fun c9 => absurd rfl c9) (fun _ => ?_)
    refine vv_aload_n dJ2_init_2_32 rfl 0 rfl ?_
    refine vv_aload_n dJ2_init_2_33 rfl 2 rfl ?_
    replace h := pF_o h; obtain ⟨σ10, sσ10, eσ10, lσ10, uσ10, h⟩ := h
    refine vv_putf (pt_J2_9 hG) (Or.inr fun C T' N h9 => by rw [hG.1] at h9; cases h9; rfl) eσ10 rfl rfl lσ10 dJ2_init_2_34 ?_
    rw [← uσ10]
    refine vv_goto (tgt := 64) dJ2_init_2_37 (by decide) ?_
    refine vv_sub (lv' := []) [] rfl ?_
    exact v_KJ2_init_2_64 hG hH h
theorem m_KJ2_init_2 {l : Launch} {G : vv_G} {ad : Nat → Nat} (hG : vv_gok G) (hH : vv_hy l G ad) {x0 : Nat} {x1 : Nat} {σ : vv_S} {r : vv_S} (h : KJ2_init_2 ad x0 x1 σ = some r) (d : Nat) : vv_Met l G MJ2_init_2 (d + 4) [.ref x0, .ref x1] σ (.inl none, r) := vv_head (by decide +kernel) rfl (Nat.le_of_ble_eq_true rfl) rfl (v_KJ2_init_2_0 hG hH h)
/-! ('J14', 'valueOf') -/
def KJ14_valueOf_23 (ad : Nat → Nat) (σ : vv_S) : Option Nat := none
theorem v_KJ14_valueOf_23 {l : Launch} {G : vv_G} {d : Nat} {ad : Nat → Nat} (hG : vv_gok G) (hH : vv_hy l G ad) {σ : vv_S} {r : Nat} (h : KJ14_valueOf_23 ad σ = some r) : vv_V l G MJ14_valueOf (d + 0) 23 [] [] σ (.inl (some (.ref r)), σ) := by
  unfold KJ14_valueOf_23 at h
  cases h
def KJ14_valueOf (ad : Nat → Nat) (x0 : Int32) (σ : vv_S) : Option Nat := if x0 < (-128) then (KJ14_valueOf_23 ad σ) else (if (nI 127) < x0 then (KJ14_valueOf_23 ad σ) else ((aQ σ (ad 2) (x0 + (nI 128))).bind fun v3 => some v3))
theorem v_KJ14_valueOf_0 {l : Launch} {G : vv_G} {d : Nat} {ad : Nat → Nat} (hG : vv_gok G) (hH : vv_hy l G ad) {x0 : Int32} {σ : vv_S} {r : Nat} (h : KJ14_valueOf ad x0 σ = some r) : vv_V l G MJ14_valueOf (d + 0) 0 [(0, .int x0)] [] σ (.inl (some (.ref r)), σ) := by
  unfold KJ14_valueOf at h
  refine vv_iload_n dJ14_valueOf_0 rfl 0 rfl ?_
  refine vv_bipush (v := (-128)) dJ14_valueOf_1 (by decide) ?_
  refine vv_icmp_lt (tgt := 23) dJ14_valueOf_3 (by decide) (fun c1 => ?_) (fun c1 => ?_)
  · rw [if_pos c1] at h
    refine vv_sub (lv' := []) [] rfl ?_
    exact v_KJ14_valueOf_23 hG hH h
  · rw [if_neg c1] at h
    refine vv_iload_n dJ14_valueOf_6 rfl 0 rfl ?_
    refine vv_gets hH.1.2.2.2.2.2.2.2.2.2.1 q980 dJ14_valueOf_7 ?_
    refine vv_st (st' := [.int (nI 127), .int x0]) rfl ?_
    refine vv_icmp_gt (tgt := 23) dJ14_valueOf_10 (by decide) (fun c2 => ?_) (fun c2 => ?_)
    · rw [if_pos c2] at h
      refine vv_sub (lv' := []) [] rfl ?_
      exact v_KJ14_valueOf_23 hG hH h
    · rw [if_neg c2] at h
      refine vv_gets hH.1.2.2.2.2.2.2.2.2.1 q982 dJ14_valueOf_13 ?_
      refine vv_iload_n dJ14_valueOf_16 rfl 0 rfl ?_
      refine vv_sipush (v := (nI 128)) dJ14_valueOf_17 (by decide) ?_
      refine vv_iadd dJ14_valueOf_20 ?_
      replace h := aQ_o h; obtain ⟨v3, fv3, tv3, nv3, qv3, rv3, ev3, iv3, wv3, h⟩ := h
      refine vv_aald rv3 ev3 iv3 dJ14_valueOf_21 ?_
      rw [wv3]
      refine vv_st (st' := [.ref v3]) rfl ?_
      cases h
      exact vv_aret rfl (by first | exact Or.inl ⟨_, rfl⟩ | exact Or.inr ⟨_, rfl⟩) (Or.inr ⟨_, rfl⟩) dJ14_valueOf_22
theorem m_KJ14_valueOf {l : Launch} {G : vv_G} {ad : Nat → Nat} (hG : vv_gok G) (hH : vv_hy l G ad) {x0 : Int32} {σ : vv_S} {r : Nat} (h : KJ14_valueOf ad x0 σ = some r) (d : Nat) : vv_Met l G MJ14_valueOf (d + 0) [.int x0] σ (.inl (some (.ref r)), σ) := vv_head (by decide +kernel) rfl (Nat.le_of_ble_eq_true rfl) rfl (v_KJ14_valueOf_0 hG hH h)
/-! ('J8', 'isLatin1') -/
def KJ8_isLatin1_18 (s0 : Int32) (σ : vv_S) : Option Int32 := (zrI s0).bind fun v1 => some v1
theorem v_KJ8_isLatin1_18 {l : Launch} {G : vv_G} {d : Nat} {ad : Nat → Nat} (hG : vv_gok G) (hH : vv_hy l G ad) {s0 : Int32} {σ : vv_S} {r : Int32} (h : KJ8_isLatin1_18 s0 σ = some r) : vv_V l G MJ8_isLatin1 (d + 0) 18 [] [.int s0] σ (.inl (some (.int r)), σ) := by
  unfold KJ8_isLatin1_18 at h
  replace h := zr_o h; obtain ⟨zv1, h⟩ := h
  cases h
  exact vv_zret rfl zv1 dJ8_isLatin1_18
def KJ8_isLatin1_17 (σ : vv_S) : Option Int32 := KJ8_isLatin1_18 (nI 0) σ
theorem v_KJ8_isLatin1_17 {l : Launch} {G : vv_G} {d : Nat} {ad : Nat → Nat} (hG : vv_gok G) (hH : vv_hy l G ad) {σ : vv_S} {r : Int32} (h : KJ8_isLatin1_17 σ = some r) : vv_V l G MJ8_isLatin1 (d + 0) 17 [] [] σ (.inl (some (.int r)), σ) := by
  unfold KJ8_isLatin1_17 at h
  refine vv_iconst (v := (nI 0)) dJ8_isLatin1_17 (by decide) ?_
  exact v_KJ8_isLatin1_18 hG hH h
def KJ8_isLatin1 (x0 : Nat) (σ : vv_S) : Option Int32 := if (nI 1) = 0 then (KJ8_isLatin1_17 σ) else ((gI σ x0 14 1).bind fun v2 => if v2 = 0 then (KJ8_isLatin1_18 (nI 1) σ) else (KJ8_isLatin1_17 σ))
theorem v_KJ8_isLatin1_0 {l : Launch} {G : vv_G} {d : Nat} {ad : Nat → Nat} (hG : vv_gok G) (hH : vv_hy l G ad) {x0 : Nat} {σ : vv_S} {r : Int32} (h : KJ8_isLatin1 x0 σ = some r) : vv_V l G MJ8_isLatin1 (d + 0) 0 [(0, .ref x0)] [] σ (.inl (some (.int r)), σ) := by
  unfold KJ8_isLatin1 at h
  refine vv_gets hH.1.2.2.2.2.2.2.2.2.2.2 q854 dJ8_isLatin1_0 ?_
  refine vv_st (st' := [.int (nI 1)]) rfl ?_
  refine vv_if_eq (tgt := 17) dJ8_isLatin1_3 (by decide) (fun c1 => ?_) (fun c1 => ?_)
  · rw [if_pos c1] at h
    refine vv_sub (lv' := []) [] rfl ?_
    exact v_KJ8_isLatin1_17 hG hH h
  · rw [if_neg c1] at h
    refine vv_aload_n dJ8_isLatin1_6 rfl 0 rfl ?_
    replace h := gI_o h; obtain ⟨v2, fv2, sv2, ev2, lv2, h⟩ := h
    refine vv_getS (k := 1) hG hH.2.1 (by decide) q2254 ev2 lv2 dJ8_isLatin1_7 ?_
    refine vv_if_ne (tgt := 17) dJ8_isLatin1_10 (by decide) (fun c3 => ?_) (fun c3 => ?_)
    · rw [if_neg c3] at h
      refine vv_sub (lv' := []) [] rfl ?_
      exact v_KJ8_isLatin1_17 hG hH h
    · rw [if_pos c3] at h
      refine vv_iconst (v := (nI 1)) dJ8_isLatin1_13 (by decide) ?_
      refine vv_goto (tgt := 18) dJ8_isLatin1_14 (by decide) ?_
      refine vv_sub (lv' := []) [] rfl ?_
      exact v_KJ8_isLatin1_18 hG hH h
theorem m_KJ8_isLatin1 {l : Launch} {G : vv_G} {ad : Nat → Nat} (hG : vv_gok G) (hH : vv_hy l G ad) {x0 : Nat} {σ : vv_S} {r : Int32} (h : KJ8_isLatin1 x0 σ = some r) (d : Nat) : vv_Met l G MJ8_isLatin1 (d + 0) [.ref x0] σ (.inl (some (.int r)), σ) := vv_head (by decide +kernel) rfl (Nat.le_of_ble_eq_true rfl) rfl (v_KJ8_isLatin1_0 hG hH h)
/-! ('J8', 'coder') -/
def KJ8_coder_14 (s0 : Int32) (σ : vv_S) : Option Int32 := (brI s0).bind fun v1 => some v1
theorem v_KJ8_coder_14 {l : Launch} {G : vv_G} {d : Nat} {ad : Nat → Nat} (hG : vv_gok G) (hH : vv_hy l G ad) {s0 : Int32} {σ : vv_S} {r : Int32} (h : KJ8_coder_14 s0 σ = some r) : vv_V l G MJ8_coder (d + 0) 14 [] [.int s0] σ (.inl (some (.int r)), σ) := by
  unfold KJ8_coder_14 at h
  replace h := br_o h; obtain ⟨zv1, h⟩ := h
  cases h
  exact vv_zret rfl zv1 dJ8_coder_14
def KJ8_coder (x0 : Nat) (σ : vv_S) : Option Int32 := if (nI 1) = 0 then (KJ8_coder_14 (nI 1) σ) else ((gI σ x0 14 1).bind fun v2 => KJ8_coder_14 v2 σ)
theorem v_KJ8_coder_0 {l : Launch} {G : vv_G} {d : Nat} {ad : Nat → Nat} (hG : vv_gok G) (hH : vv_hy l G ad) {x0 : Nat} {σ : vv_S} {r : Int32} (h : KJ8_coder x0 σ = some r) : vv_V l G MJ8_coder (d + 0) 0 [(0, .ref x0)] [] σ (.inl (some (.int r)), σ) := by
  unfold KJ8_coder at h
  refine vv_gets hH.1.2.2.2.2.2.2.2.2.2.2 q854 dJ8_coder_0 ?_
  refine vv_st (st' := [.int (nI 1)]) rfl ?_
  refine vv_if_eq (tgt := 13) dJ8_coder_3 (by decide) (fun c1 => ?_) (fun c1 => ?_)
  · rw [if_pos c1] at h
    refine vv_iconst (v := (nI 1)) dJ8_coder_13 (by decide) ?_
    refine vv_sub (lv' := []) [] rfl ?_
    exact v_KJ8_coder_14 hG hH h
  · rw [if_neg c1] at h
    refine vv_aload_n dJ8_coder_6 rfl 0 rfl ?_
    replace h := gI_o h; obtain ⟨v2, fv2, sv2, ev2, lv2, h⟩ := h
    refine vv_getS (k := 1) hG hH.2.1 (by decide) q2254 ev2 lv2 dJ8_coder_7 ?_
    refine vv_goto (tgt := 14) dJ8_coder_10 (by decide) ?_
    refine vv_sub (lv' := []) [] rfl ?_
    exact v_KJ8_coder_14 hG hH h
theorem m_KJ8_coder {l : Launch} {G : vv_G} {ad : Nat → Nat} (hG : vv_gok G) (hH : vv_hy l G ad) {x0 : Nat} {σ : vv_S} {r : Int32} (h : KJ8_coder x0 σ = some r) (d : Nat) : vv_Met l G MJ8_coder (d + 0) [.ref x0] σ (.inl (some (.int r)), σ) := vv_head (by decide +kernel) rfl (Nat.le_of_ble_eq_true rfl) rfl (v_KJ8_coder_0 hG hH h)
/-! ('J8', 'length') -/
def KJ8_length (x0 : Nat) (σ : vv_S) : Option Int32 := (gR σ x0 14 0).bind fun v1 => (aLn σ v1).bind fun v2 => (isO σ x0 14).bind fun _ => (KJ8_coder x0 σ).bind fun r3 => some (v2 >>> (r3 &&& 31))
theorem v_KJ8_length_0 {l : Launch} {G : vv_G} {d : Nat} {ad : Nat → Nat} (hG : vv_gok G) (hH : vv_hy l G ad) {x0 : Nat} {σ : vv_S} {r : Int32} (h : KJ8_length x0 σ = some r) : vv_V l G MJ8_length (d + 1) 0 [(0, .ref x0)] [] σ (.inl (some (.int r)), σ) := by
  unfold KJ8_length at h
  refine vv_aload_n dJ8_length_0 rfl 0 rfl ?_
  replace h := gR_o h; obtain ⟨v1, fv1, sv1, ev1, lv1, h⟩ := h
  refine vv_getS (k := 0) hG hH.2.1 (by decide) q2255 ev1 lv1 dJ8_length_1 ?_
  replace h := aL_o h; obtain ⟨v2, fv2, xv2, ev2, wv2, h⟩ := h
  refine vv_alen ev2 wv2 dJ8_length_4 ?_
  refine vv_aload_n dJ8_length_5 rfl 0 rfl ?_
  replace h := isO_o h; obtain ⟨fz4, sz4, ez4, h⟩ := h
  replace h := bd_o h; obtain ⟨r3, er3, h⟩ := h
  refine vv_callV ok_J8_coder q860 (m_KJ8_coder hG hH er3 d) rfl (by omega) ⟨_, _, _, _, _, ez4, by rw [hG.1]; rfl⟩ rfl rfl (Nat.le_of_ble_eq_true rfl) dJ8_length_6 ?_
  refine vv_ishr dJ8_length_9 ?_
  cases h
  exact vv_iret rfl dJ8_length_10
theorem m_KJ8_length {l : Launch} {G : vv_G} {ad : Nat → Nat} (hG : vv_gok G) (hH : vv_hy l G ad) {x0 : Nat} {σ : vv_S} {r : Int32} (h : KJ8_length x0 σ = some r) (d : Nat) : vv_Met l G MJ8_length (d + 1) [.ref x0] σ (.inl (some (.int r)), σ) := vv_head (by decide +kernel) rfl (Nat.le_of_ble_eq_true rfl) rfl (v_KJ8_length_0 hG hH h)
/-! ('J9', 'canEncode') -/
def KJ9_canEncode_16 (s0 : Int32) : Option Int32 := (zrI s0).bind fun v1 => some v1
theorem v_KJ9_canEncode_16 {l : Launch} {G : vv_G} {d : Nat} {ad : Nat → Nat} {σ : vv_S} (hG : vv_gok G) (hH : vv_hy l G ad) {s0 : Int32} {r : Int32} (h : KJ9_canEncode_16 s0 = some r) : vv_V l G MJ9_canEncode (d + 0) 16 [] [.int s0] σ (.inl (some (.int r)), σ) := by
  unfold KJ9_canEncode_16 at h
  replace h := zr_o h; obtain ⟨zv1, h⟩ := h
  cases h
  exact vv_zret rfl zv1 dJ9_canEncode_16
def KJ9_canEncode_15 : Option Int32 := KJ9_canEncode_16 (nI 0)
theorem v_KJ9_canEncode_15 {l : Launch} {G : vv_G} {d : Nat} {ad : Nat → Nat} {σ : vv_S} (hG : vv_gok G) (hH : vv_hy l G ad) {r : Int32} (h : KJ9_canEncode_15 = some r) : vv_V l G MJ9_canEncode (d + 0) 15 [] [] σ (.inl (some (.int r)), σ) := by
  unfold KJ9_canEncode_15 at h
  refine vv_iconst (v := (nI 0)) dJ9_canEncode_15 (by decide) ?_
  exact v_KJ9_canEncode_16 hG hH h
def KJ9_canEncode (x0 : Int32) : Option Int32 := if x0 < 0 then (KJ9_canEncode_15) else (if (nI 255) < x0 then (KJ9_canEncode_15) else (KJ9_canEncode_16 (nI 1)))
theorem v_KJ9_canEncode_0 {l : Launch} {G : vv_G} {d : Nat} {ad : Nat → Nat} {σ : vv_S} (hG : vv_gok G) (hH : vv_hy l G ad) {x0 : Int32} {r : Int32} (h : KJ9_canEncode x0 = some r) : vv_V l G MJ9_canEncode (d + 0) 0 [(0, .int x0)] [] σ (.inl (some (.int r)), σ) := by
  unfold KJ9_canEncode at h
  refine vv_iload_n dJ9_canEncode_0 rfl 0 rfl ?_
  refine vv_if_lt (tgt := 15) dJ9_canEncode_1 (by decide) (fun c1 => ?_) (fun c1 => ?_)
  · rw [if_pos c1] at h
    refine vv_sub (lv' := []) [] rfl ?_
    exact v_KJ9_canEncode_15 hG hH h
  · rw [if_neg c1] at h
    refine vv_iload_n dJ9_canEncode_4 rfl 0 rfl ?_
    refine vv_sipush (v := (nI 255)) dJ9_canEncode_5 (by decide) ?_
    refine vv_icmp_gt (tgt := 15) dJ9_canEncode_8 (by decide) (fun c2 => ?_) (fun c2 => ?_)
    · rw [if_pos c2] at h
      refine vv_sub (lv' := []) [] rfl ?_
      exact v_KJ9_canEncode_15 hG hH h
    · rw [if_neg c2] at h
      refine vv_iconst (v := (nI 1)) dJ9_canEncode_11 (by decide) ?_
      refine vv_goto (tgt := 16) dJ9_canEncode_12 (by decide) ?_
      refine vv_sub (lv' := []) [] rfl ?_
      exact v_KJ9_canEncode_16 hG hH h
theorem m_KJ9_canEncode {l : Launch} {G : vv_G} {ad : Nat → Nat} {σ : vv_S} (hG : vv_gok G) (hH : vv_hy l G ad) {x0 : Int32} {r : Int32} (h : KJ9_canEncode x0 = some r) (d : Nat) : vv_Met l G MJ9_canEncode (d + 0) [.int x0] σ (.inl (some (.int r)), σ) := vv_head (by decide +kernel) rfl (Nat.le_of_ble_eq_true rfl) rfl (v_KJ9_canEncode_0 hG hH h)
/-! ('J9', 'indexOfChar') -/
def BKJ9_indexOfChar_7 (k7 : Nat → Int32 → Int32 → Int32 → vv_S → Option Int32) (x0 : Nat) (x3 : Int32) (x4 : Int32) (x5 : Int32) (σ : vv_S) : Option Int32 := if x3 ≤ x5 then (some (-1)) else ((aI σ .byte x0 x5).bind fun v2 => if v2 = x4 then (some x5) else (k7 x0 x3 x4 (x5 + (nI 1)) σ))
def KJ9_indexOfChar_7 : Nat → Nat → Int32 → Int32 → Int32 → vv_S → Option Int32
  | 0, _, _, _, _, _ => none
  | n + 1, x0, x3, x4, x5, σ => BKJ9_indexOfChar_7 (KJ9_indexOfChar_7 n) x0 x3 x4 x5 σ
theorem vb_KJ9_indexOfChar_7 {l : Launch} {G : vv_G} {d : Nat} {ad : Nat → Nat} (hG : vv_gok G) (hH : vv_hy l G ad) {k7 : Nat → Int32 → Int32 → Int32 → vv_S → Option Int32} (hk7 : ∀ {x0 : Nat} {x3 : Int32} {x4 : Int32} {x5 : Int32} {σ : vv_S} {r : Int32}, k7 x0 x3 x4 x5 σ = some r → vv_V l G MJ9_indexOfChar (d + 0) 7 [(0, .ref x0), (3, .int x3), (4, .int x4), (5, .int x5)] [] σ (.inl (some (.int r)), σ)) {x0 : Nat} {x3 : Int32} {x4 : Int32} {x5 : Int32} {σ : vv_S} {r : Int32} (h : BKJ9_indexOfChar_7 k7 x0 x3 x4 x5 σ = some r) : vv_V l G MJ9_indexOfChar (d + 0) 7 [(0, .ref x0), (3, .int x3), (4, .int x4), (5, .int x5)] [] σ (.inl (some (.int r)), σ) := by
  unfold BKJ9_indexOfChar_7 at h
  refine vv_iload dJ9_indexOfChar_7 3 rfl ?_
  refine vv_iload_n dJ9_indexOfChar_9 rfl 1 rfl ?_
  refine vv_icmp_ge (tgt := 31) dJ9_indexOfChar_10 (by decide) (fun c1 => ?_) (fun c1 => ?_)
  · rw [if_pos c1] at h
    refine vv_iconst (v := (-1)) dJ9_indexOfChar_31 (by decide) ?_
    cases h
    exact vv_iret rfl dJ9_indexOfChar_32
  · rw [if_neg c1] at h
    refine vv_aload_n dJ9_indexOfChar_13 rfl 0 rfl ?_
    refine vv_iload dJ9_indexOfChar_14 3 rfl ?_
    replace h := aI_o h; obtain ⟨v2, fv2, nv2, qv2, ev2, iv2, wv2, h⟩ := h
    refine vv_bald ev2 iv2 dJ9_indexOfChar_16 ?_
    rw [wv2]
    refine vv_iload dJ9_indexOfChar_17 2 rfl ?_
    refine vv_icmp_ne (tgt := 25) dJ9_indexOfChar_19 (by decide) (fun c3 => ?_) (fun c3 => ?_)
    · rw [if_neg c3] at h
      refine vv_iinc (v := (x5 + (nI 1))) (lv' := [(0, .ref x0), (3, .int x3), (4, .int x4), (5, .int (x5 + (nI 1)))]) dJ9_indexOfChar_25 3 rfl rfl (by decide) [1, 2, 3, 0] rfl ?_
      refine vv_goto (tgt := 7) dJ9_indexOfChar_28 (by decide) ?_
      exact hk7 h
    · rw [if_pos c3] at h
      refine vv_iload dJ9_indexOfChar_22 3 rfl ?_
      cases h
      exact vv_iret rfl dJ9_indexOfChar_24
theorem v_KJ9_indexOfChar_7 {l : Launch} {G : vv_G} {d : Nat} {ad : Nat → Nat} (hG : vv_gok G) (hH : vv_hy l G ad) : ∀ (n : Nat) {x0 : Nat} {x3 : Int32} {x4 : Int32} {x5 : Int32} {σ : vv_S} {r : Int32}, KJ9_indexOfChar_7 n x0 x3 x4 x5 σ = some r → vv_V l G MJ9_indexOfChar (d + 0) 7 [(0, .ref x0), (3, .int x3), (4, .int x4), (5, .int x5)] [] σ (.inl (some (.int r)), σ) := by
  intro n
  induction n with
  | zero => intro _ _ _ _ _ _ h; cases h
  | succ n ih => intro _ _ _ _ _ _ h; exact vb_KJ9_indexOfChar_7 hG hH ih h
def KJ9_indexOfChar (x0 : Nat) (x1 : Int32) (x2 : Int32) (x3 : Int32) (σ : vv_S) : Option Int32 := KJ9_indexOfChar_7 NN x0 x3 (Int32.toInt8 x1).toInt32 x2 σ
theorem v_KJ9_indexOfChar_0 {l : Launch} {G : vv_G} {d : Nat} {ad : Nat → Nat} (hG : vv_gok G) (hH : vv_hy l G ad) {x0 : Nat} {x1 : Int32} {x2 : Int32} {x3 : Int32} {σ : vv_S} {r : Int32} (h : KJ9_indexOfChar x0 x1 x2 x3 σ = some r) : vv_V l G MJ9_indexOfChar (d + 0) 0 [(0, .ref x0), (1, .int x1), (2, .int x2), (3, .int x3)] [] σ (.inl (some (.int r)), σ) := by
  unfold KJ9_indexOfChar at h
  refine vv_iload_n dJ9_indexOfChar_0 rfl 1 rfl ?_
  refine vv_i2b dJ9_indexOfChar_1 ?_
  refine vv_istore (lv' := [(0, .ref x0), (1, .int x1), (2, .int x2), (3, .int x3), (4, .int (Int32.toInt8 x1).toInt32)]) dJ9_indexOfChar_2 (by decide) [1, 2, 3, 4, 0] rfl ?_
  refine vv_iload_n dJ9_indexOfChar_4 rfl 2 rfl ?_
  refine vv_istore (lv' := [(0, .ref x0), (1, .int x1), (2, .int x2), (3, .int x3), (4, .int (Int32.toInt8 x1).toInt32), (5, .int x2)]) dJ9_indexOfChar_5 (by decide) [1, 2, 3, 4, 5, 0] rfl ?_
  refine vv_sub (lv' := [(0, .ref x0), (3, .int x3), (4, .int (Int32.toInt8 x1).toInt32), (5, .int x2)]) [0, 3, 4, 5] rfl ?_
  exact v_KJ9_indexOfChar_7 hG hH NN h
theorem m_KJ9_indexOfChar {l : Launch} {G : vv_G} {ad : Nat → Nat} (hG : vv_gok G) (hH : vv_hy l G ad) {x0 : Nat} {x1 : Int32} {x2 : Int32} {x3 : Int32} {σ : vv_S} {r : Int32} (h : KJ9_indexOfChar x0 x1 x2 x3 σ = some r) (d : Nat) : vv_Met l G MJ9_indexOfChar (d + 0) [.ref x0, .int x1, .int x2, .int x3] σ (.inl (some (.int r)), σ) := vv_head (by decide +kernel) rfl (Nat.le_of_ble_eq_true rfl) rfl (v_KJ9_indexOfChar_0 hG hH h)
/-! ('J9', 'indexOf') -/
def KJ9_indexOf (x0 : Nat) (x1 : Int32) (x2 : Int32) (x3 : Int32) (σ : vv_S) : Option Int32 := (KJ9_canEncode x1).bind fun r1 => if r1 = 0 then (some (-1)) else ((aLn σ x0).bind fun v3 => if (mxI x2 (nI 0)) < (mnI x3 v3) then ((KJ9_indexOfChar x0 x1 (mxI x2 (nI 0)) (mnI x3 v3) σ).bind fun r5 => some r5) else (some (-1)))
theorem v_KJ9_indexOf_0 {l : Launch} {G : vv_G} {d : Nat} {ad : Nat → Nat} (hG : vv_gok G) (hH : vv_hy l G ad) {x0 : Nat} {x1 : Int32} {x2 : Int32} {x3 : Int32} {σ : vv_S} {r : Int32} (h : KJ9_indexOf x0 x1 x2 x3 σ = some r) : vv_V l G MJ9_indexOf (d + 1) 0 [(0, .ref x0), (1, .int x1), (2, .int x2), (3, .int x3)] [] σ (.inl (some (.int r)), σ) := by
  unfold KJ9_indexOf at h
  refine vv_iload_n dJ9_indexOf_0 rfl 1 rfl ?_
  replace h := bd_o h; obtain ⟨r1, er1, h⟩ := h
  refine vv_callS ok_J9_canEncode q867 (m_KJ9_canEncode hG hH er1 d) rfl (by omega) rfl rfl (Nat.le_of_ble_eq_true rfl) dJ9_indexOf_1 ?_
  refine vv_if_ne (tgt := 9) dJ9_indexOf_4 (by decide) (fun c2 => ?_) (fun c2 => ?_)
  · rw [if_neg c2] at h
    refine vv_iload_n dJ9_indexOf_9 rfl 2 rfl ?_
    refine vv_iconst (v := (nI 0)) dJ9_indexOf_10 (by decide) ?_
    refine vv_mmax q870 (by omega) (Nat.le_of_ble_eq_true rfl) dJ9_indexOf_11 ?_
    refine vv_istore_n (lv' := [(0, .ref x0), (1, .int x1), (2, .int (mxI x2 (nI 0))), (3, .int x3)]) dJ9_indexOf_14 rfl (by decide) [1, 2, 0, 3] rfl ?_
    refine vv_iload_n dJ9_indexOf_15 rfl 3 rfl ?_
    refine vv_aload_n dJ9_indexOf_16 rfl 0 rfl ?_
    replace h := aL_o h; obtain ⟨v3, fv3, xv3, ev3, wv3, h⟩ := h
    refine vv_alen ev3 wv3 dJ9_indexOf_17 ?_
    refine vv_mmin q871 (by omega) (Nat.le_of_ble_eq_true rfl) dJ9_indexOf_18 ?_
    refine vv_istore_n (lv' := [(0, .ref x0), (1, .int x1), (2, .int (mxI x2 (nI 0))), (3, .int (mnI x3 v3))]) dJ9_indexOf_21 rfl (by decide) [1, 2, 3, 0] rfl ?_
    refine vv_iload_n dJ9_indexOf_22 rfl 2 rfl ?_
    refine vv_iload_n dJ9_indexOf_23 rfl 3 rfl ?_
    refine vv_icmp_lt (tgt := 29) dJ9_indexOf_24 (by decide) (fun c4 => ?_) (fun c4 => ?_)
    · rw [if_pos c4] at h
      refine vv_aload_n dJ9_indexOf_29 rfl 0 rfl ?_
      refine vv_iload_n dJ9_indexOf_30 rfl 1 rfl ?_
      refine vv_iload_n dJ9_indexOf_31 rfl 2 rfl ?_
      refine vv_iload_n dJ9_indexOf_32 rfl 3 rfl ?_
      replace h := bd_o h; obtain ⟨r5, er5, h⟩ := h
      refine vv_callS ok_J9_indexOfChar q872 (m_KJ9_indexOfChar hG hH er5 d) rfl (by omega) rfl rfl (Nat.le_of_ble_eq_true rfl) dJ9_indexOf_33 ?_
      cases h
      exact vv_iret rfl dJ9_indexOf_36
    · rw [if_neg c4] at h
      refine vv_iconst (v := (-1)) dJ9_indexOf_27 (by decide) ?_
      cases h
      exact vv_iret rfl dJ9_indexOf_28
  · rw [if_pos c2] at h
    refine vv_iconst (v := (-1)) dJ9_indexOf_7 (by decide) ?_
    cases h
    exact vv_iret rfl dJ9_indexOf_8
theorem m_KJ9_indexOf {l : Launch} {G : vv_G} {ad : Nat → Nat} (hG : vv_gok G) (hH : vv_hy l G ad) {x0 : Nat} {x1 : Int32} {x2 : Int32} {x3 : Int32} {σ : vv_S} {r : Int32} (h : KJ9_indexOf x0 x1 x2 x3 σ = some r) (d : Nat) : vv_Met l G MJ9_indexOf (d + 1) [.ref x0, .int x1, .int x2, .int x3] σ (.inl (some (.int r)), σ) := vv_head (by decide +kernel) rfl (Nat.le_of_ble_eq_true rfl) rfl (v_KJ9_indexOf_0 hG hH h)
/-! ('J8', 'indexOf_2') -/
def KJ8_indexOf_2 (x0 : Nat) (x1 : Int32) (x2 : Int32) (σ : vv_S) : Option Int32 := (isO σ x0 14).bind fun _ => (KJ8_isLatin1 x0 σ).bind fun r1 => if r1 = 0 then ((gR σ x0 14 0).bind fun v4 => (isO σ x0 14).bind fun _ => (KJ8_length x0 σ).bind fun r5 => none) else ((gR σ x0 14 0).bind fun v7 => (isO σ x0 14).bind fun _ => (KJ8_length x0 σ).bind fun r8 => (KJ9_indexOf v7 x1 x2 r8 σ).bind fun r10 => some r10)
theorem v_KJ8_indexOf_2_0 {l : Launch} {G : vv_G} {d : Nat} {ad : Nat → Nat} (hG : vv_gok G) (hH : vv_hy l G ad) {x0 : Nat} {x1 : Int32} {x2 : Int32} {σ : vv_S} {r : Int32} (h : KJ8_indexOf_2 x0 x1 x2 σ = some r) : vv_V l G MJ8_indexOf_2 (d + 2) 0 [(0, .ref x0), (1, .int x1), (2, .int x2)] [] σ (.inl (some (.int r)), σ) := by
  unfold KJ8_indexOf_2 at h
  refine vv_aload_n dJ8_indexOf_2_0 rfl 0 rfl ?_
  replace h := isO_o h; obtain ⟨fz2, sz2, ez2, h⟩ := h
  replace h := bd_o h; obtain ⟨r1, er1, h⟩ := h
  refine vv_callV ok_J8_isLatin1 q850 (m_KJ8_isLatin1 hG hH er1 d) rfl (by omega) ⟨_, _, _, _, _, ez2, by rw [hG.1]; rfl⟩ rfl rfl (Nat.le_of_ble_eq_true rfl) dJ8_indexOf_2_1 ?_
  refine vv_if_eq (tgt := 23) dJ8_indexOf_2_4 (by decide) (fun c3 => ?_) (fun c3 => ?_)
  · rw [if_pos c3] at h
    refine vv_aload_n dJ8_indexOf_2_23 rfl 0 rfl ?_
    replace h := gR_o h; obtain ⟨v4, fv4, sv4, ev4, lv4, h⟩ := h
    refine vv_getS (k := 0) hG hH.2.1 (by decide) q2255 ev4 lv4 dJ8_indexOf_2_24 ?_
    refine vv_iload_n dJ8_indexOf_2_27 rfl 1 rfl ?_
    refine vv_iload_n dJ8_indexOf_2_28 rfl 2 rfl ?_
    refine vv_aload_n dJ8_indexOf_2_29 rfl 0 rfl ?_
    replace h := isO_o h; obtain ⟨fz6, sz6, ez6, h⟩ := h
    replace h := bd_o h; obtain ⟨r5, er5, h⟩ := h
    refine vv_callV ok_J8_length q856 (m_KJ8_length hG hH er5 d) rfl (by omega) ⟨_, _, _, _, _, ez6, by rw [hG.1]; rfl⟩ rfl rfl (Nat.le_of_ble_eq_true rfl) dJ8_indexOf_2_30 ?_
    cases h
  · rw [if_neg c3] at h
    refine vv_aload_n dJ8_indexOf_2_7 rfl 0 rfl ?_
    replace h := gR_o h; obtain ⟨v7, fv7, sv7, ev7, lv7, h⟩ := h
    refine vv_getS (k := 0) hG hH.2.1 (by decide) q2255 ev7 lv7 dJ8_indexOf_2_8 ?_
    refine vv_iload_n dJ8_indexOf_2_11 rfl 1 rfl ?_
    refine vv_iload_n dJ8_indexOf_2_12 rfl 2 rfl ?_
    refine vv_aload_n dJ8_indexOf_2_13 rfl 0 rfl ?_
    replace h := isO_o h; obtain ⟨fz9, sz9, ez9, h⟩ := h
    replace h := bd_o h; obtain ⟨r8, er8, h⟩ := h
    refine vv_callV ok_J8_length q856 (m_KJ8_length hG hH er8 d) rfl (by omega) ⟨_, _, _, _, _, ez9, by rw [hG.1]; rfl⟩ rfl rfl (Nat.le_of_ble_eq_true rfl) dJ8_indexOf_2_14 ?_
    replace h := bd_o h; obtain ⟨r10, er10, h⟩ := h
    refine vv_callS ok_J9_indexOf q864 (m_KJ9_indexOf hG hH er10 d) rfl (by omega) rfl rfl (Nat.le_of_ble_eq_true rfl) dJ8_indexOf_2_17 ?_
    refine vv_goto (tgt := 36) dJ8_indexOf_2_20 (by decide) ?_
    cases h
    exact vv_iret rfl dJ8_indexOf_2_36
theorem m_KJ8_indexOf_2 {l : Launch} {G : vv_G} {ad : Nat → Nat} (hG : vv_gok G) (hH : vv_hy l G ad) {x0 : Nat} {x1 : Int32} {x2 : Int32} {σ : vv_S} {r : Int32} (h : KJ8_indexOf_2 x0 x1 x2 σ = some r) (d : Nat) : vv_Met l G MJ8_indexOf_2 (d + 2) [.ref x0, .int x1, .int x2] σ (.inl (some (.int r)), σ) := vv_head (by decide +kernel) rfl (Nat.le_of_ble_eq_true rfl) rfl (v_KJ8_indexOf_2_0 hG hH h)
/-! ('J8', 'indexOf') -/
def KJ8_indexOf (x0 : Nat) (x1 : Int32) (σ : vv_S) : Option Int32 := (isO σ x0 14).bind fun _ => (KJ8_indexOf_2 x0 x1 (nI 0) σ).bind fun r1 => some r1
theorem v_KJ8_indexOf_0 {l : Launch} {G : vv_G} {d : Nat} {ad : Nat → Nat} (hG : vv_gok G) (hH : vv_hy l G ad) {x0 : Nat} {x1 : Int32} {σ : vv_S} {r : Int32} (h : KJ8_indexOf x0 x1 σ = some r) : vv_V l G MJ8_indexOf (d + 3) 0 [(0, .ref x0), (1, .int x1)] [] σ (.inl (some (.int r)), σ) := by
  unfold KJ8_indexOf at h
  refine vv_aload_n dJ8_indexOf_0 rfl 0 rfl ?_
  refine vv_iload_n dJ8_indexOf_1 rfl 1 rfl ?_
  refine vv_iconst (v := (nI 0)) dJ8_indexOf_2 (by decide) ?_
  replace h := isO_o h; obtain ⟨fz2, sz2, ez2, h⟩ := h
  replace h := bd_o h; obtain ⟨r1, er1, h⟩ := h
  refine vv_callV ok_J8_indexOf_2 q846 (m_KJ8_indexOf_2 hG hH er1 d) rfl (by omega) ⟨_, _, _, _, _, ez2, by rw [hG.1]; rfl⟩ rfl rfl (Nat.le_of_ble_eq_true rfl) dJ8_indexOf_3 ?_
  cases h
  exact vv_iret rfl dJ8_indexOf_6
theorem m_KJ8_indexOf {l : Launch} {G : vv_G} {ad : Nat → Nat} (hG : vv_gok G) (hH : vv_hy l G ad) {x0 : Nat} {x1 : Int32} {σ : vv_S} {r : Int32} (h : KJ8_indexOf x0 x1 σ = some r) (d : Nat) : vv_Met l G MJ8_indexOf (d + 3) [.ref x0, .int x1] σ (.inl (some (.int r)), σ) := vv_head (by decide +kernel) rfl (Nat.le_of_ble_eq_true rfl) rfl (v_KJ8_indexOf_0 hG hH h)
/-! ('J8', 'checkIndex') -/
def KJ8_checkIndex (x0 : Int32) (x1 : Int32) : Option Unit := (KJ11_checkIndex x0 x1).bind fun r1 => some ()
theorem v_KJ8_checkIndex_0 {l : Launch} {G : vv_G} {d : Nat} {ad : Nat → Nat} {σ : vv_S} (hG : vv_gok G) (hH : vv_hy l G ad) {x0 : Int32} {x1 : Int32} {r : Unit} (h : KJ8_checkIndex x0 x1 = some r) : vv_V l G MJ8_checkIndex (d + 1) 0 [(0, .int x0), (1, .int x1)] [] σ (.inl none, σ) := by
  unfold KJ8_checkIndex at h
  refine vv_iload_n dJ8_checkIndex_0 rfl 0 rfl ?_
  refine vv_iload_n dJ8_checkIndex_1 rfl 1 rfl ?_
  obtain ⟨z9, hz9⟩ := hH.2.2.2.1
  refine vv_gets hz9 q572 dJ8_checkIndex_2 ?_
  rcases z9 with _ | z9
  · show vv_V _ _ _ _ _ _ (.null :: _) _ _
    replace h := bd_o h; obtain ⟨r1, er1, h⟩ := h
    refine vv_callS ok_J11_checkIndex q574 (m_KJ11_checkIndex hG hH er1 d) rfl (by omega) rfl rfl (Nat.le_of_ble_eq_true rfl) dJ8_checkIndex_5 ?_
    refine vv_pop dJ8_checkIndex_8 rfl ?_
    cases h
    exact vv_vret rfl dJ8_checkIndex_9
  · show vv_V _ _ _ _ _ _ (.ref z9 :: _) _ _
    replace h := bd_o h; obtain ⟨r2, er2, h⟩ := h
    refine vv_callS ok_J11_checkIndex q574 (m_KJ11_checkIndexR hG hH (x2 := z9) er2 d) rfl (by omega) rfl rfl (Nat.le_of_ble_eq_true rfl) dJ8_checkIndex_5 ?_
    refine vv_pop dJ8_checkIndex_8 rfl ?_
    cases h
    exact vv_vret rfl dJ8_checkIndex_9
theorem m_KJ8_checkIndex {l : Launch} {G : vv_G} {ad : Nat → Nat} {σ : vv_S} (hG : vv_gok G) (hH : vv_hy l G ad) {x0 : Int32} {x1 : Int32} {r : Unit} (h : KJ8_checkIndex x0 x1 = some r) (d : Nat) : vv_Met l G MJ8_checkIndex (d + 1) [.int x0, .int x1] σ (.inl none, σ) := vv_head (by decide +kernel) rfl (Nat.le_of_ble_eq_true rfl) rfl (v_KJ8_checkIndex_0 hG hH h)
/-! ('J9', 'charAt') -/
def KJ9_charAt (x0 : Nat) (x1 : Int32) (σ : vv_S) : Option Int32 := (aLn σ x0).bind fun v1 => (KJ8_checkIndex x1 v1).bind fun r2 => (aI σ .byte x0 x1).bind fun v3 => (crI (Int32.toUInt32 (v3 &&& (nI 255)) % 65536).toInt32).bind fun v4 => some v4
theorem v_KJ9_charAt_0 {l : Launch} {G : vv_G} {d : Nat} {ad : Nat → Nat} (hG : vv_gok G) (hH : vv_hy l G ad) {x0 : Nat} {x1 : Int32} {σ : vv_S} {r : Int32} (h : KJ9_charAt x0 x1 σ = some r) : vv_V l G MJ9_charAt (d + 2) 0 [(0, .ref x0), (1, .int x1)] [] σ (.inl (some (.int r)), σ) := by
  unfold KJ9_charAt at h
  refine vv_iload_n dJ9_charAt_0 rfl 1 rfl ?_
  refine vv_aload_n dJ9_charAt_1 rfl 0 rfl ?_
  replace h := aL_o h; obtain ⟨v1, fv1, xv1, ev1, wv1, h⟩ := h
  refine vv_alen ev1 wv1 dJ9_charAt_2 ?_
  replace h := bd_o h; obtain ⟨r2, er2, h⟩ := h
  refine vv_callS ok_J8_checkIndex q928 (m_KJ8_checkIndex hG hH er2 d) rfl (by omega) rfl rfl (Nat.le_of_ble_eq_true rfl) dJ9_charAt_3 ?_
  refine vv_aload_n dJ9_charAt_6 rfl 0 rfl ?_
  refine vv_iload_n dJ9_charAt_7 rfl 1 rfl ?_
  replace h := aI_o h; obtain ⟨v3, fv3, nv3, qv3, ev3, iv3, wv3, h⟩ := h
  refine vv_bald ev3 iv3 dJ9_charAt_8 ?_
  rw [wv3]
  refine vv_sipush (v := (nI 255)) dJ9_charAt_9 (by decide) ?_
  refine vv_iand dJ9_charAt_12 ?_
  refine vv_i2c dJ9_charAt_13 ?_
  replace h := cr_o h; obtain ⟨zv4, h⟩ := h
  cases h
  exact vv_zret rfl zv4 dJ9_charAt_14
theorem m_KJ9_charAt {l : Launch} {G : vv_G} {ad : Nat → Nat} (hG : vv_gok G) (hH : vv_hy l G ad) {x0 : Nat} {x1 : Int32} {σ : vv_S} {r : Int32} (h : KJ9_charAt x0 x1 σ = some r) (d : Nat) : vv_Met l G MJ9_charAt (d + 2) [.ref x0, .int x1] σ (.inl (some (.int r)), σ) := vv_head (by decide +kernel) rfl (Nat.le_of_ble_eq_true rfl) rfl (v_KJ9_charAt_0 hG hH h)
/-! ('J8', 'charAt') -/
def KJ8_charAt (x0 : Nat) (x1 : Int32) (σ : vv_S) : Option Int32 := (isO σ x0 14).bind fun _ => (KJ8_isLatin1 x0 σ).bind fun r1 => if r1 = 0 then ((gR σ x0 14 0).bind fun v4 => none) else ((gR σ x0 14 0).bind fun v5 => (KJ9_charAt v5 x1 σ).bind fun r6 => (crI r6).bind fun v7 => some v7)
theorem v_KJ8_charAt_0 {l : Launch} {G : vv_G} {d : Nat} {ad : Nat → Nat} (hG : vv_gok G) (hH : vv_hy l G ad) {x0 : Nat} {x1 : Int32} {σ : vv_S} {r : Int32} (h : KJ8_charAt x0 x1 σ = some r) : vv_V l G MJ8_charAt (d + 3) 0 [(0, .ref x0), (1, .int x1)] [] σ (.inl (some (.int r)), σ) := by
  unfold KJ8_charAt at h
  refine vv_aload_n dJ8_charAt_0 rfl 0 rfl ?_
  replace h := isO_o h; obtain ⟨fz2, sz2, ez2, h⟩ := h
  replace h := bd_o h; obtain ⟨r1, er1, h⟩ := h
  refine vv_callV ok_J8_isLatin1 q850 (m_KJ8_isLatin1 hG hH er1 d) rfl (by omega) ⟨_, _, _, _, _, ez2, by rw [hG.1]; rfl⟩ rfl rfl (Nat.le_of_ble_eq_true rfl) dJ8_charAt_1 ?_
  refine vv_if_eq (tgt := 16) dJ8_charAt_4 (by decide) (fun c3 => ?_) (fun c3 => ?_)
  · rw [if_pos c3] at h
    refine vv_aload_n dJ8_charAt_16 rfl 0 rfl ?_
    replace h := gR_o h; obtain ⟨v4, fv4, sv4, ev4, lv4, h⟩ := h
    refine vv_getS (k := 0) hG hH.2.1 (by decide) q2255 ev4 lv4 dJ8_charAt_17 ?_
    refine vv_iload_n dJ8_charAt_20 rfl 1 rfl ?_
    cases h
  · rw [if_neg c3] at h
    refine vv_aload_n dJ8_charAt_7 rfl 0 rfl ?_
    replace h := gR_o h; obtain ⟨v5, fv5, sv5, ev5, lv5, h⟩ := h
    refine vv_getS (k := 0) hG hH.2.1 (by decide) q2255 ev5 lv5 dJ8_charAt_8 ?_
    refine vv_iload_n dJ8_charAt_11 rfl 1 rfl ?_
    replace h := bd_o h; obtain ⟨r6, er6, h⟩ := h
    refine vv_callS ok_J9_charAt q925 (m_KJ9_charAt hG hH er6 d) rfl (by omega) rfl rfl (Nat.le_of_ble_eq_true rfl) dJ8_charAt_12 ?_
    replace h := cr_o h; obtain ⟨zv7, h⟩ := h
    cases h
    exact vv_zret rfl zv7 dJ8_charAt_15
theorem m_KJ8_charAt {l : Launch} {G : vv_G} {ad : Nat → Nat} (hG : vv_gok G) (hH : vv_hy l G ad) {x0 : Nat} {x1 : Int32} {σ : vv_S} {r : Int32} (h : KJ8_charAt x0 x1 σ = some r) (d : Nat) : vv_Met l G MJ8_charAt (d + 3) [.ref x0, .int x1] σ (.inl (some (.int r)), σ) := vv_head (by decide +kernel) rfl (Nat.le_of_ble_eq_true rfl) rfl (v_KJ8_charAt_0 hG hH h)
/-! ('J4', 'init_2') -/
def KJ4_init_2 (x0 : Nat) (x3 : Int32) (x4 : Int32) (σ : vv_S) : Option vv_S := (KJ3_init_2 x0 x3 x4 σ).bind fun r1 => some r1
theorem v_KJ4_init_2_0 {l : Launch} {G : vv_G} {d : Nat} {ad : Nat → Nat} (hG : vv_gok G) (hH : vv_hy l G ad) {x0 : Nat} {x3 : Int32} {x4 : Int32} {σ : vv_S} {r : vv_S} (h : KJ4_init_2 x0 x3 x4 σ = some r) : vv_V l G MJ4_init_2 (d + 3) 0 [(0, .ref x0), (1, .null), (2, .null), (3, .int x3), (4, .int x4)] [] σ (.inl none, r) := by
  unfold KJ4_init_2 at h
  refine vv_aload_n dJ4_init_2_0 rfl 0 rfl ?_
  refine vv_aload_nN dJ4_init_2_1 rfl 1 rfl ?_
  refine vv_aload_nN dJ4_init_2_2 rfl 2 rfl ?_
  refine vv_iload_n dJ4_init_2_3 rfl 3 rfl ?_
  refine vv_iload dJ4_init_2_4 4 rfl ?_
  replace h := bd_o h; obtain ⟨r1, er1, h⟩ := h
  refine vv_callI ok_J3_init_2 q960 (m_KJ3_init_2 hG hH er1 d) rfl (by omega) rfl rfl (Nat.le_of_ble_eq_true rfl) dJ4_init_2_6 ?_
  cases h
  exact vv_vret rfl dJ4_init_2_9
theorem m_KJ4_init_2 {l : Launch} {G : vv_G} {ad : Nat → Nat} (hG : vv_gok G) (hH : vv_hy l G ad) {x0 : Nat} {x3 : Int32} {x4 : Int32} {σ : vv_S} {r : vv_S} (h : KJ4_init_2 x0 x3 x4 σ = some r) (d : Nat) : vv_Met l G MJ4_init_2 (d + 3) [.ref x0, .null, .null, .int x3, .int x4] σ (.inl none, r) := vv_head (by decide +kernel) rfl (Nat.le_of_ble_eq_true rfl) rfl (v_KJ4_init_2_0 hG hH h)
/-! ('J18', 'init') -/
def KJ18_init (x0 : Nat) (x1 : Int32) (σ : vv_S) : Option vv_S := if (nI 1) = 0 then (none) else ((nwA σ .byte x1).bind fun σ2 => (pF σ2 x0 13 0 (.ref σ.2.1)).bind fun σ3 => (pF σ3 x0 13 1 (.int (nI 0))).bind fun σ4 => some σ4)
theorem v_KJ18_init_0 {l : Launch} {G : vv_G} {d : Nat} {ad : Nat → Nat} (hG : vv_gok G) (hH : vv_hy l G ad) {x0 : Nat} {x1 : Int32} {σ : vv_S} {r : vv_S} (h : KJ18_init x0 x1 σ = some r) : vv_V l G MJ18_init (d + 1) 0 [(0, .ref x0), (1, .int x1)] [] σ (.inl none, r) := by
  unfold KJ18_init at h
  refine vv_aload_n dJ18_init_0 rfl 0 rfl ?_
  refine vv_objinit q1126 q149 q150 (by omega) (Nat.le_of_ble_eq_true rfl) dJ18_init_1 ?_
  refine vv_gets hH.1.2.2.2.2.2.2.2.2.2.2 q1127 dJ18_init_4 ?_
  refine vv_st (st' := [.int (nI 1)]) rfl ?_
  refine vv_if_eq (tgt := 25) dJ18_init_7 (by decide) (fun c1 => ?_) (fun c1 => ?_)
  · rw [if_pos c1] at h
    refine vv_aload_n dJ18_init_25 rfl 0 rfl ?_
    refine vv_iload_n dJ18_init_26 rfl 1 rfl ?_
    cases h
  · rw [if_neg c1] at h
    refine vv_aload_n dJ18_init_10 rfl 0 rfl ?_
    refine vv_iload_n dJ18_init_11 rfl 1 rfl ?_
    replace h := nA_o h; obtain ⟨σ2, aσ2, bσ2, uσ2, h⟩ := h
    refine vv_newa (atype := .byte) (ty := .byte) (a0 := ((x1).toNatClampNeg, .inl (fun _ => 0))) rfl rfl (by rw [hG.2]; decide) q322 (fun cA => rfl) aσ2 rfl (Nat.le_trans (Nat.mul_le_mul_right _ bσ2) (Nat.le_of_ble_eq_true rfl)) dJ18_init_12 ?_
    rw [← uσ2]
    replace h := pF_o h; obtain ⟨σ3, sσ3, eσ3, lσ3, uσ3, h⟩ := h
    refine vv_putf (pt_J18_15 hG) (Or.inr fun C T' N h9 => by rw [hG.1] at h9; cases h9; rfl) eσ3 rfl rfl lσ3 dJ18_init_14 ?_
    rw [← uσ3]
    refine vv_aload_n dJ18_init_17 rfl 0 rfl ?_
    refine vv_iconst (v := (nI 0)) dJ18_init_18 (by decide) ?_
    replace h := pF_o h; obtain ⟨σ4, sσ4, eσ4, lσ4, uσ4, h⟩ := h
    refine vv_putf (pt_J18_22 hG) (Or.inr fun C T' N h9 => by rw [hG.1] at h9; cases h9; rfl) eσ4 (by decide) (by decide) lσ4 dJ18_init_19 ?_
    rw [← uσ4]
    refine vv_goto (tgt := 38) dJ18_init_22 (by decide) ?_
    cases h
    exact vv_vret rfl dJ18_init_38
theorem m_KJ18_init {l : Launch} {G : vv_G} {ad : Nat → Nat} (hG : vv_gok G) (hH : vv_hy l G ad) {x0 : Nat} {x1 : Int32} {σ : vv_S} {r : vv_S} (h : KJ18_init x0 x1 σ = some r) (d : Nat) : vv_Met l G MJ18_init (d + 1) [.ref x0, .int x1] σ (.inl none, r) := vv_head (by decide +kernel) rfl (Nat.le_of_ble_eq_true rfl) rfl (v_KJ18_init_0 hG hH h)
/-! ('J19', 'init') -/
def KJ19_init (x0 : Nat) (σ : vv_S) : Option vv_S := (KJ18_init x0 (nI 16) σ).bind fun r1 => some r1
theorem v_KJ19_init_0 {l : Launch} {G : vv_G} {d : Nat} {ad : Nat → Nat} (hG : vv_gok G) (hH : vv_hy l G ad) {x0 : Nat} {σ : vv_S} {r : vv_S} (h : KJ19_init x0 σ = some r) : vv_V l G MJ19_init (d + 2) 0 [(0, .ref x0)] [] σ (.inl none, r) := by
  unfold KJ19_init at h
  refine vv_aload_n dJ19_init_0 rfl 0 rfl ?_
  refine vv_bipush (v := (nI 16)) dJ19_init_1 (by decide) ?_
  replace h := bd_o h; obtain ⟨r1, er1, h⟩ := h
  refine vv_callI ok_J18_init q1123 (m_KJ18_init hG hH er1 d) rfl (by omega) rfl rfl (Nat.le_of_ble_eq_true rfl) dJ19_init_3 ?_
  cases h
  exact vv_vret rfl dJ19_init_6
theorem m_KJ19_init {l : Launch} {G : vv_G} {ad : Nat → Nat} (hG : vv_gok G) (hH : vv_hy l G ad) {x0 : Nat} {σ : vv_S} {r : vv_S} (h : KJ19_init x0 σ = some r) (d : Nat) : vv_Met l G MJ19_init (d + 2) [.ref x0] σ (.inl none, r) := vv_head (by decide +kernel) rfl (Nat.le_of_ble_eq_true rfl) rfl (v_KJ19_init_0 hG hH h)
/-! ('J18', 'newCapacity') -/
def KJ18_newCapacity (x0 : Nat) (x1 : Int32) (σ : vv_S) : Option Int32 := (gR σ x0 13 0).bind fun v1 => (aLn σ v1).bind fun v2 => (gI σ x0 13 1).bind fun v3 => (gI σ x0 13 1).bind fun v4 => (KJ15_newLength v2 ((x1 <<< (v3 &&& 31)) - v2) (v2 + ((nI 2) <<< (v4 &&& 31)))).bind fun r5 => if r5 = (nI 2147483647) then (none) else ((gI σ x0 13 1).bind fun v7 => some (r5 >>> (v7 &&& 31)))
theorem v_KJ18_newCapacity_0 {l : Launch} {G : vv_G} {d : Nat} {ad : Nat → Nat} (hG : vv_gok G) (hH : vv_hy l G ad) {x0 : Nat} {x1 : Int32} {σ : vv_S} {r : Int32} (h : KJ18_newCapacity x0 x1 σ = some r) : vv_V l G MJ18_newCapacity (d + 2) 0 [(0, .ref x0), (1, .int x1)] [] σ (.inl (some (.int r)), σ) := by
  unfold KJ18_newCapacity at h
  refine vv_aload_n dJ18_newCapacity_0 rfl 0 rfl ?_
  replace h := gR_o h; obtain ⟨v1, fv1, sv1, ev1, lv1, h⟩ := h
  refine vv_get (fl_J18_15 hG) ev1 lv1 dJ18_newCapacity_1 ?_
  replace h := aL_o h; obtain ⟨v2, fv2, xv2, ev2, wv2, h⟩ := h
  refine vv_alen ev2 wv2 dJ18_newCapacity_4 ?_
  refine vv_istore_n (lv' := [(0, .ref x0), (1, .int x1), (2, .int v2)]) dJ18_newCapacity_5 rfl (by decide) [1, 2, 0] rfl ?_
  refine vv_iload_n dJ18_newCapacity_6 rfl 1 rfl ?_
  refine vv_aload_n dJ18_newCapacity_7 rfl 0 rfl ?_
  replace h := gI_o h; obtain ⟨v3, fv3, sv3, ev3, lv3, h⟩ := h
  refine vv_get (fl_J18_22 hG) ev3 lv3 dJ18_newCapacity_8 ?_
  refine vv_ishl dJ18_newCapacity_11 ?_
  refine vv_istore_n (lv' := [(0, .ref x0), (1, .int x1), (2, .int v2), (3, .int (x1 <<< (v3 &&& 31)))]) dJ18_newCapacity_12 rfl (by decide) [1, 2, 3, 0] rfl ?_
  refine vv_iload_n dJ18_newCapacity_13 rfl 3 rfl ?_
  refine vv_iload_n dJ18_newCapacity_14 rfl 2 rfl ?_
  refine vv_isub dJ18_newCapacity_15 ?_
  refine vv_istore (lv' := [(0, .ref x0), (1, .int x1), (2, .int v2), (3, .int (x1 <<< (v3 &&& 31))), (4, .int ((x1 <<< (v3 &&& 31)) - v2))]) dJ18_newCapacity_16 (by decide) [1, 2, 3, 4, 0] rfl ?_
  refine vv_iload_n dJ18_newCapacity_18 rfl 2 rfl ?_
  refine vv_iload dJ18_newCapacity_19 4 rfl ?_
  refine vv_iload_n dJ18_newCapacity_21 rfl 2 rfl ?_
  refine vv_iconst (v := (nI 2)) dJ18_newCapacity_22 (by decide) ?_
  refine vv_aload_n dJ18_newCapacity_23 rfl 0 rfl ?_
  replace h := gI_o h; obtain ⟨v4, fv4, sv4, ev4, lv4, h⟩ := h
  refine vv_get (fl_J18_22 hG) ev4 lv4 dJ18_newCapacity_24 ?_
  refine vv_ishl dJ18_newCapacity_27 ?_
  refine vv_iadd dJ18_newCapacity_28 ?_
  replace h := bd_o h; obtain ⟨r5, er5, h⟩ := h
  refine vv_callS ok_J15_newLength q1178 (m_KJ15_newLength hG hH er5 d) rfl (by omega) rfl rfl (Nat.le_of_ble_eq_true rfl) dJ18_newCapacity_29 ?_
  refine vv_istore (lv' := [(0, .ref x0), (1, .int x1), (2, .int v2), (3, .int (x1 <<< (v3 &&& 31))), (4, .int ((x1 <<< (v3 &&& 31)) - v2)), (5, .int r5)]) dJ18_newCapacity_32 (by decide) [1, 2, 3, 4, 5, 0] rfl ?_
  refine vv_iload dJ18_newCapacity_34 5 rfl ?_
  refine vv_ldc (v := (nI 2147483647)) dJ18_newCapacity_36 q1179 ?_
  refine vv_icmp_ne (tgt := 51) dJ18_newCapacity_38 (by decide) (fun c6 => ?_) (fun c6 => ?_)
  · rw [if_neg c6] at h
    refine vv_iload dJ18_newCapacity_51 5 rfl ?_
    refine vv_aload_n dJ18_newCapacity_53 rfl 0 rfl ?_
    replace h := gI_o h; obtain ⟨v7, fv7, sv7, ev7, lv7, h⟩ := h
    refine vv_get (fl_J18_22 hG) ev7 lv7 dJ18_newCapacity_54 ?_
    refine vv_ishr dJ18_newCapacity_57 ?_
    cases h
    exact vv_iret rfl dJ18_newCapacity_58
  · rw [if_pos c6] at h
    cases h
theorem m_KJ18_newCapacity {l : Launch} {G : vv_G} {ad : Nat → Nat} (hG : vv_gok G) (hH : vv_hy l G ad) {x0 : Nat} {x1 : Int32} {σ : vv_S} {r : Int32} (h : KJ18_newCapacity x0 x1 σ = some r) (d : Nat) : vv_Met l G MJ18_newCapacity (d + 2) [.ref x0, .int x1] σ (.inl (some (.int r)), σ) := vv_head (by decide +kernel) rfl (Nat.le_of_ble_eq_true rfl) rfl (v_KJ18_newCapacity_0 hG hH h)
/-! ('J16', 'copyOf_3') -/
def KJ16_copyOf_3 (x0 : Nat) (x1 : Int32) (σ : vv_S) : Option (Nat × vv_S) := (aLn σ x0).bind fun v1 => if x1 = v1 then (none) else ((nwA σ .byte x1).bind fun σ3 => (aLn σ3 x0).bind fun v4 => (cpB σ3 x0 (nI 0) σ.2.1 (nI 0) (mnI v4 x1)).bind fun σ5 => some (σ.2.1, σ5))
theorem v_KJ16_copyOf_3_0 {l : Launch} {G : vv_G} {d : Nat} {ad : Nat → Nat} (hG : vv_gok G) (hH : vv_hy l G ad) {x0 : Nat} {x1 : Int32} {σ : vv_S} {r : Nat × vv_S} (h : KJ16_copyOf_3 x0 x1 σ = some r) : vv_V l G MJ16_copyOf_3 (d + 1) 0 [(0, .ref x0), (1, .int x1)] [] σ (.inl (some (.ref r.1)), r.2) := by
  unfold KJ16_copyOf_3 at h
  refine vv_iload_n dJ16_copyOf_3_0 rfl 1 rfl ?_
  refine vv_aload_n dJ16_copyOf_3_1 rfl 0 rfl ?_
  replace h := aL_o h; obtain ⟨v1, fv1, xv1, ev1, wv1, h⟩ := h
  refine vv_alen ev1 wv1 dJ16_copyOf_3_2 ?_
  refine vv_icmp_ne (tgt := 14) dJ16_copyOf_3_3 (by decide) (fun c2 => ?_) (fun c2 => ?_)
  · rw [if_neg c2] at h
    refine vv_iload_n dJ16_copyOf_3_14 rfl 1 rfl ?_
    replace h := nA_o h; obtain ⟨σ3, aσ3, bσ3, uσ3, h⟩ := h
    refine vv_newa (atype := .byte) (ty := .byte) (a0 := ((x1).toNatClampNeg, .inl (fun _ => 0))) rfl rfl (by rw [hG.2]; decide) q322 (fun cA => rfl) aσ3 rfl (Nat.le_trans (Nat.mul_le_mul_right _ bσ3) (Nat.le_of_ble_eq_true rfl)) dJ16_copyOf_3_15 ?_
    rw [← uσ3]
    refine vv_astore_n (lv' := [(0, .ref x0), (1, .int x1), (2, .ref σ.2.1)]) dJ16_copyOf_3_17 rfl (by decide) [1, 2, 0] rfl ?_
    refine vv_aload_n dJ16_copyOf_3_18 rfl 0 rfl ?_
    refine vv_iconst (v := (nI 0)) dJ16_copyOf_3_19 (by decide) ?_
    refine vv_aload_n dJ16_copyOf_3_20 rfl 2 rfl ?_
    refine vv_iconst (v := (nI 0)) dJ16_copyOf_3_21 (by decide) ?_
    refine vv_aload_n dJ16_copyOf_3_22 rfl 0 rfl ?_
    replace h := aL_o h; obtain ⟨v4, fv4, xv4, ev4, wv4, h⟩ := h
    refine vv_alen ev4 wv4 dJ16_copyOf_3_23 ?_
    refine vv_iload_n dJ16_copyOf_3_24 rfl 1 rfl ?_
    refine vv_mmin q417 (by omega) (Nat.le_of_ble_eq_true rfl) dJ16_copyOf_3_25 ?_
    replace h := cpB_o h; obtain ⟨σ5, bσ5, nσ5, mσ5, fσ5, gσ5, eσ5, kσ5, y1, y2, y3, y4, y5, y6, uσ5, h⟩ := h
    refine vv_copyb ⟨q420, q422, q421, q133⟩ eσ5 kσ5 y1 y2 y3 y4 y5 y6 (by omega) (Nat.le_of_ble_eq_true rfl) dJ16_copyOf_3_28 ?_
    rw [← uσ5]
    refine vv_aload_n dJ16_copyOf_3_31 rfl 2 rfl ?_
    cases h
    exact vv_aret rfl (by first | exact Or.inl ⟨_, rfl⟩ | exact Or.inr ⟨_, rfl⟩) (Or.inr ⟨_, rfl⟩) dJ16_copyOf_3_32
  · rw [if_pos c2] at h
    refine vv_aload_n dJ16_copyOf_3_6 rfl 0 rfl ?_
    cases h
theorem m_KJ16_copyOf_3 {l : Launch} {G : vv_G} {ad : Nat → Nat} (hG : vv_gok G) (hH : vv_hy l G ad) {x0 : Nat} {x1 : Int32} {σ : vv_S} {r : Nat × vv_S} (h : KJ16_copyOf_3 x0 x1 σ = some r) (d : Nat) : vv_Met l G MJ16_copyOf_3 (d + 1) [.ref x0, .int x1] σ (.inl (some (.ref r.1)), r.2) := vv_head (by decide +kernel) rfl (Nat.le_of_ble_eq_true rfl) rfl (v_KJ16_copyOf_3_0 hG hH h)
/-! ('J18', 'ensureCapacityInternal') -/
def KJ18_ensureCapacityInternal_38 (σ : vv_S) : Option vv_S := some σ
theorem v_KJ18_ensureCapacityInternal_38 {l : Launch} {G : vv_G} {d : Nat} {ad : Nat → Nat} (hG : vv_gok G) (hH : vv_hy l G ad) {σ : vv_S} {r : vv_S} (h : KJ18_ensureCapacityInternal_38 σ = some r) : vv_V l G MJ18_ensureCapacityInternal (d + 3) 38 [] [] σ (.inl none, r) := by
  unfold KJ18_ensureCapacityInternal_38 at h
  cases h
  exact vv_vret rfl dJ18_ensureCapacityInternal_38
def KJ18_ensureCapacityInternal (x0 : Nat) (x1 : Int32) (σ : vv_S) : Option vv_S := (gR σ x0 13 0).bind fun v1 => (aLn σ v1).bind fun v2 => (gI σ x0 13 1).bind fun v3 => if (x1 - (v2 >>> (v3 &&& 31))) ≤ 0 then (KJ18_ensureCapacityInternal_38 σ) else ((gR σ x0 13 0).bind fun v5 => (isO σ x0 13).bind fun _ => (KJ18_newCapacity x0 x1 σ).bind fun r6 => (gI σ x0 13 1).bind fun v8 => (KJ16_copyOf_3 v5 (r6 <<< (v8 &&& 31)) σ).bind fun r9 => (pF r9.2 x0 13 0 (.ref r9.1)).bind fun σ10 => KJ18_ensureCapacityInternal_38 σ10)
theorem v_KJ18_ensureCapacityInternal_0 {l : Launch} {G : vv_G} {d : Nat} {ad : Nat → Nat} (hG : vv_gok G) (hH : vv_hy l G ad) {x0 : Nat} {x1 : Int32} {σ : vv_S} {r : vv_S} (h : KJ18_ensureCapacityInternal x0 x1 σ = some r) : vv_V l G MJ18_ensureCapacityInternal (d + 3) 0 [(0, .ref x0), (1, .int x1)] [] σ (.inl none, r) := by
  unfold KJ18_ensureCapacityInternal at h
  refine vv_aload_n dJ18_ensureCapacityInternal_0 rfl 0 rfl ?_
  replace h := gR_o h; obtain ⟨v1, fv1, sv1, ev1, lv1, h⟩ := h
  refine vv_get (fl_J18_15 hG) ev1 lv1 dJ18_ensureCapacityInternal_1 ?_
  replace h := aL_o h; obtain ⟨v2, fv2, xv2, ev2, wv2, h⟩ := h
  refine vv_alen ev2 wv2 dJ18_ensureCapacityInternal_4 ?_
  refine vv_aload_n dJ18_ensureCapacityInternal_5 rfl 0 rfl ?_
  replace h := gI_o h; obtain ⟨v3, fv3, sv3, ev3, lv3, h⟩ := h
  refine vv_get (fl_J18_22 hG) ev3 lv3 dJ18_ensureCapacityInternal_6 ?_
  refine vv_ishr dJ18_ensureCapacityInternal_9 ?_
  refine vv_istore_n (lv' := [(0, .ref x0), (1, .int x1), (2, .int (v2 >>> (v3 &&& 31)))]) dJ18_ensureCapacityInternal_10 rfl (by decide) [1, 2, 0] rfl ?_
  refine vv_iload_n dJ18_ensureCapacityInternal_11 rfl 1 rfl ?_
  refine vv_iload_n dJ18_ensureCapacityInternal_12 rfl 2 rfl ?_
  refine vv_isub dJ18_ensureCapacityInternal_13 ?_
  refine vv_if_le (tgt := 38) dJ18_ensureCapacityInternal_14 (by decide) (fun c4 => ?_) (fun c4 => ?_)
  · rw [if_pos c4] at h
    refine vv_sub (lv' := []) [] rfl ?_
    exact v_KJ18_ensureCapacityInternal_38 hG hH h
  · rw [if_neg c4] at h
    refine vv_aload_n dJ18_ensureCapacityInternal_17 rfl 0 rfl ?_
    refine vv_aload_n dJ18_ensureCapacityInternal_18 rfl 0 rfl ?_
    replace h := gR_o h; obtain ⟨v5, fv5, sv5, ev5, lv5, h⟩ := h
    refine vv_get (fl_J18_15 hG) ev5 lv5 dJ18_ensureCapacityInternal_19 ?_
    refine vv_aload_n dJ18_ensureCapacityInternal_22 rfl 0 rfl ?_
    refine vv_iload_n dJ18_ensureCapacityInternal_23 rfl 1 rfl ?_
    replace h := isO_o h; obtain ⟨fz7, sz7, ez7, h⟩ := h
    replace h := bd_o h; obtain ⟨r6, er6, h⟩ := h
    refine vv_callP (C := "java/lang/StringBuilder") okf_J18_newCapacity okd_J18_newCapacity q1174 q1193 rfl q1175 (fun U hK => hH.2.2.2.2.2.2 _ q1175 rfl U hK) (m_KJ18_newCapacity hG hH er6 d) rfl (by omega) ⟨_, _, _, _, _, ez7, by rw [hG.1]; rfl⟩ rfl rfl (Nat.le_of_ble_eq_true rfl) dJ18_ensureCapacityInternal_24 ?_
    refine vv_aload_n dJ18_ensureCapacityInternal_27 rfl 0 rfl ?_
    replace h := gI_o h; obtain ⟨v8, fv8, sv8, ev8, lv8, h⟩ := h
    refine vv_get (fl_J18_22 hG) ev8 lv8 dJ18_ensureCapacityInternal_28 ?_
    refine vv_ishl dJ18_ensureCapacityInternal_31 ?_
    replace h := bd_o h; obtain ⟨r9, er9, h⟩ := h
    refine vv_callS ok_J16_copyOf_3 q1180 (m_KJ16_copyOf_3 hG hH er9 d) rfl (by omega) rfl rfl (Nat.le_of_ble_eq_true rfl) dJ18_ensureCapacityInternal_32 ?_
    replace h := pF_o h; obtain ⟨σ10, sσ10, eσ10, lσ10, uσ10, h⟩ := h
    refine vv_putf (pt_J18_15 hG) (Or.inr fun C T' N h9 => by rw [hG.1] at h9; cases h9; rfl) eσ10 rfl rfl lσ10 dJ18_ensureCapacityInternal_35 ?_
    rw [← uσ10]
    refine vv_sub (lv' := []) [] rfl ?_
    exact v_KJ18_ensureCapacityInternal_38 hG hH h
theorem m_KJ18_ensureCapacityInternal {l : Launch} {G : vv_G} {ad : Nat → Nat} (hG : vv_gok G) (hH : vv_hy l G ad) {x0 : Nat} {x1 : Int32} {σ : vv_S} {r : vv_S} (h : KJ18_ensureCapacityInternal x0 x1 σ = some r) (d : Nat) : vv_Met l G MJ18_ensureCapacityInternal (d + 3) [.ref x0, .int x1] σ (.inl none, r) := vv_head (by decide +kernel) rfl (Nat.le_of_ble_eq_true rfl) rfl (v_KJ18_ensureCapacityInternal_0 hG hH h)
/-! ('J18', 'isLatin1') -/
def KJ18_isLatin1_18 (s0 : Int32) (σ : vv_S) : Option Int32 := (zrI s0).bind fun v1 => some v1
theorem v_KJ18_isLatin1_18 {l : Launch} {G : vv_G} {d : Nat} {ad : Nat → Nat} (hG : vv_gok G) (hH : vv_hy l G ad) {s0 : Int32} {σ : vv_S} {r : Int32} (h : KJ18_isLatin1_18 s0 σ = some r) : vv_V l G MJ18_isLatin1 (d + 0) 18 [] [.int s0] σ (.inl (some (.int r)), σ) := by
  unfold KJ18_isLatin1_18 at h
  replace h := zr_o h; obtain ⟨zv1, h⟩ := h
  cases h
  exact vv_zret rfl zv1 dJ18_isLatin1_18
def KJ18_isLatin1_17 (σ : vv_S) : Option Int32 := KJ18_isLatin1_18 (nI 0) σ
theorem v_KJ18_isLatin1_17 {l : Launch} {G : vv_G} {d : Nat} {ad : Nat → Nat} (hG : vv_gok G) (hH : vv_hy l G ad) {σ : vv_S} {r : Int32} (h : KJ18_isLatin1_17 σ = some r) : vv_V l G MJ18_isLatin1 (d + 0) 17 [] [] σ (.inl (some (.int r)), σ) := by
  unfold KJ18_isLatin1_17 at h
  refine vv_iconst (v := (nI 0)) dJ18_isLatin1_17 (by decide) ?_
  exact v_KJ18_isLatin1_18 hG hH h
def KJ18_isLatin1 (x0 : Nat) (σ : vv_S) : Option Int32 := if (nI 1) = 0 then (KJ18_isLatin1_17 σ) else ((gI σ x0 13 1).bind fun v2 => if v2 = 0 then (KJ18_isLatin1_18 (nI 1) σ) else (KJ18_isLatin1_17 σ))
theorem v_KJ18_isLatin1_0 {l : Launch} {G : vv_G} {d : Nat} {ad : Nat → Nat} (hG : vv_gok G) (hH : vv_hy l G ad) {x0 : Nat} {σ : vv_S} {r : Int32} (h : KJ18_isLatin1 x0 σ = some r) : vv_V l G MJ18_isLatin1 (d + 0) 0 [(0, .ref x0)] [] σ (.inl (some (.int r)), σ) := by
  unfold KJ18_isLatin1 at h
  refine vv_gets hH.1.2.2.2.2.2.2.2.2.2.2 q1127 dJ18_isLatin1_0 ?_
  refine vv_st (st' := [.int (nI 1)]) rfl ?_
  refine vv_if_eq (tgt := 17) dJ18_isLatin1_3 (by decide) (fun c1 => ?_) (fun c1 => ?_)
  · rw [if_pos c1] at h
    refine vv_sub (lv' := []) [] rfl ?_
    exact v_KJ18_isLatin1_17 hG hH h
  · rw [if_neg c1] at h
    refine vv_aload_n dJ18_isLatin1_6 rfl 0 rfl ?_
    replace h := gI_o h; obtain ⟨v2, fv2, sv2, ev2, lv2, h⟩ := h
    refine vv_get (fl_J18_22 hG) ev2 lv2 dJ18_isLatin1_7 ?_
    refine vv_if_ne (tgt := 17) dJ18_isLatin1_10 (by decide) (fun c3 => ?_) (fun c3 => ?_)
    · rw [if_neg c3] at h
      refine vv_sub (lv' := []) [] rfl ?_
      exact v_KJ18_isLatin1_17 hG hH h
    · rw [if_pos c3] at h
      refine vv_iconst (v := (nI 1)) dJ18_isLatin1_13 (by decide) ?_
      refine vv_goto (tgt := 18) dJ18_isLatin1_14 (by decide) ?_
      refine vv_sub (lv' := []) [] rfl ?_
      exact v_KJ18_isLatin1_18 hG hH h
theorem m_KJ18_isLatin1 {l : Launch} {G : vv_G} {ad : Nat → Nat} (hG : vv_gok G) (hH : vv_hy l G ad) {x0 : Nat} {σ : vv_S} {r : Int32} (h : KJ18_isLatin1 x0 σ = some r) (d : Nat) : vv_Met l G MJ18_isLatin1 (d + 0) [.ref x0] σ (.inl (some (.int r)), σ) := vv_head (by decide +kernel) rfl (Nat.le_of_ble_eq_true rfl) rfl (v_KJ18_isLatin1_0 hG hH h)
/-! ('J9', 'canEncode_2') -/
def KJ9_canEncode_2_12 (s0 : Int32) : Option Int32 := (zrI s0).bind fun v1 => some v1
theorem v_KJ9_canEncode_2_12 {l : Launch} {G : vv_G} {d : Nat} {ad : Nat → Nat} {σ : vv_S} (hG : vv_gok G) (hH : vv_hy l G ad) {s0 : Int32} {r : Int32} (h : KJ9_canEncode_2_12 s0 = some r) : vv_V l G MJ9_canEncode_2 (d + 0) 12 [] [.int s0] σ (.inl (some (.int r)), σ) := by
  unfold KJ9_canEncode_2_12 at h
  replace h := zr_o h; obtain ⟨zv1, h⟩ := h
  cases h
  exact vv_zret rfl zv1 dJ9_canEncode_2_12
def KJ9_canEncode_2 (x0 : Int32) : Option Int32 := if (nI 255) < x0 then (KJ9_canEncode_2_12 (nI 0)) else (KJ9_canEncode_2_12 (nI 1))
theorem v_KJ9_canEncode_2_0 {l : Launch} {G : vv_G} {d : Nat} {ad : Nat → Nat} {σ : vv_S} (hG : vv_gok G) (hH : vv_hy l G ad) {x0 : Int32} {r : Int32} (h : KJ9_canEncode_2 x0 = some r) : vv_V l G MJ9_canEncode_2 (d + 0) 0 [(0, .int x0)] [] σ (.inl (some (.int r)), σ) := by
  unfold KJ9_canEncode_2 at h
  refine vv_iload_n dJ9_canEncode_2_0 rfl 0 rfl ?_
  refine vv_sipush (v := (nI 255)) dJ9_canEncode_2_1 (by decide) ?_
  refine vv_icmp_gt (tgt := 11) dJ9_canEncode_2_4 (by decide) (fun c1 => ?_) (fun c1 => ?_)
  · rw [if_pos c1] at h
    refine vv_iconst (v := (nI 0)) dJ9_canEncode_2_11 (by decide) ?_
    refine vv_sub (lv' := []) [] rfl ?_
    exact v_KJ9_canEncode_2_12 hG hH h
  · rw [if_neg c1] at h
    refine vv_iconst (v := (nI 1)) dJ9_canEncode_2_7 (by decide) ?_
    refine vv_goto (tgt := 12) dJ9_canEncode_2_8 (by decide) ?_
    refine vv_sub (lv' := []) [] rfl ?_
    exact v_KJ9_canEncode_2_12 hG hH h
theorem m_KJ9_canEncode_2 {l : Launch} {G : vv_G} {ad : Nat → Nat} {σ : vv_S} (hG : vv_gok G) (hH : vv_hy l G ad) {x0 : Int32} {r : Int32} (h : KJ9_canEncode_2 x0 = some r) (d : Nat) : vv_Met l G MJ9_canEncode_2 (d + 0) [.int x0] σ (.inl (some (.int r)), σ) := vv_head (by decide +kernel) rfl (Nat.le_of_ble_eq_true rfl) rfl (v_KJ9_canEncode_2_0 hG hH h)
/-! ('J18', 'append') -/
def KJ18_append_45 (x0 : Nat) (x1 : Int32) (σ : vv_S) : Option (Nat × vv_S) := (isO σ x0 13).bind fun _ => (KJ18_isLatin1 x0 σ).bind fun r1 => if r1 = 0 then ((gR σ x0 13 0).bind fun v4 => (gI σ x0 13 3).bind fun v5 => (pF σ x0 13 3 (.int (v5 + (nI 1)))).bind fun σ6 => none) else (none)
theorem v_KJ18_append_45 {l : Launch} {G : vv_G} {d : Nat} {ad : Nat → Nat} (hG : vv_gok G) (hH : vv_hy l G ad) {x0 : Nat} {x1 : Int32} {σ : vv_S} {r : Nat × vv_S} (h : KJ18_append_45 x0 x1 σ = some r) : vv_V l G MJ18_append (d + 4) 45 [(0, .ref x0), (1, .int x1)] [] σ (.inl (some (.ref r.1)), r.2) := by
  unfold KJ18_append_45 at h
  refine vv_aload_n dJ18_append_45 rfl 0 rfl ?_
  replace h := isO_o h; obtain ⟨fz2, sz2, ez2, h⟩ := h
  replace h := bd_o h; obtain ⟨r1, er1, h⟩ := h
  refine vv_callU (C := "java/lang/StringBuilder") okf_J18_isLatin1 okd_J18_isLatin1 q1190 q1193 (m_KJ18_isLatin1 hG hH er1 d) rfl (by omega) ⟨_, _, _, _, _, ez2, by rw [hG.1]; rfl⟩ rfl rfl (Nat.le_of_ble_eq_true rfl) dJ18_append_46 ?_
  refine vv_if_eq (tgt := 56) dJ18_append_49 (by decide) (fun c3 => ?_) (fun c3 => ?_)
  · rw [if_pos c3] at h
    refine vv_aload_n dJ18_append_56 rfl 0 rfl ?_
    replace h := gR_o h; obtain ⟨v4, fv4, sv4, ev4, lv4, h⟩ := h
    refine vv_get (fl_J18_15 hG) ev4 lv4 dJ18_append_57 ?_
    refine vv_aload_n dJ18_append_60 rfl 0 rfl ?_
    refine vv_dup dJ18_append_61 rfl ?_
    replace h := gI_o h; obtain ⟨v5, fv5, sv5, ev5, lv5, h⟩ := h
    refine vv_get (fl_J18_79 hG) ev5 lv5 dJ18_append_62 ?_
    refine vv_dup_x1 dJ18_append_65 rfl rfl ?_
    refine vv_iconst (v := (nI 1)) dJ18_append_66 (by decide) ?_
    refine vv_iadd dJ18_append_67 ?_
    replace h := pF_o h; obtain ⟨σ6, sσ6, eσ6, lσ6, uσ6, h⟩ := h
    refine vv_putf (pt_J18_79 hG) (Or.inr fun C T' N h9 => by rw [hG.1] at h9; cases h9; rfl) eσ6 rfl rfl lσ6 dJ18_append_68 ?_
    rw [← uσ6]
    refine vv_iload_n dJ18_append_71 rfl 1 rfl ?_
    cases h
  · rw [if_neg c3] at h
    refine vv_aload_n dJ18_append_52 rfl 0 rfl ?_
    cases h
def KJ18_append (x0 : Nat) (x1 : Int32) (σ : vv_S) : Option (Nat × vv_S) := (gI σ x0 13 3).bind fun v1 => (isO σ x0 13).bind fun _ => (KJ18_ensureCapacityInternal x0 (v1 + (nI 1)) σ).bind fun r2 => (isO r2 x0 13).bind fun _ => (KJ18_isLatin1 x0 r2).bind fun r4 => if r4 = 0 then (KJ18_append_45 x0 x1 r2) else ((KJ9_canEncode_2 x1).bind fun r7 => if r7 = 0 then (KJ18_append_45 x0 x1 r2) else ((gR r2 x0 13 0).bind fun v9 => (gI r2 x0 13 3).bind fun v10 => (pF r2 x0 13 3 (.int (v10 + (nI 1)))).bind fun σ11 => (sB σ11 v9 v10 (Int32.toInt8 x1).toInt32).bind fun σ12 => some (x0, σ12)))
theorem v_KJ18_append_0 {l : Launch} {G : vv_G} {d : Nat} {ad : Nat → Nat} (hG : vv_gok G) (hH : vv_hy l G ad) {x0 : Nat} {x1 : Int32} {σ : vv_S} {r : Nat × vv_S} (h : KJ18_append x0 x1 σ = some r) : vv_V l G MJ18_append (d + 4) 0 [(0, .ref x0), (1, .int x1)] [] σ (.inl (some (.ref r.1)), r.2) := by
  unfold KJ18_append at h
  refine vv_aload_n dJ18_append_0 rfl 0 rfl ?_
  refine vv_aload_n dJ18_append_1 rfl 0 rfl ?_
  replace h := gI_o h; obtain ⟨v1, fv1, sv1, ev1, lv1, h⟩ := h
  refine vv_get (fl_J18_79 hG) ev1 lv1 dJ18_append_2 ?_
  refine vv_iconst (v := (nI 1)) dJ18_append_5 (by decide) ?_
  refine vv_iadd dJ18_append_6 ?_
  replace h := isO_o h; obtain ⟨fz3, sz3, ez3, h⟩ := h
  replace h := bd_o h; obtain ⟨r2, er2, h⟩ := h
  refine vv_callP (C := "java/lang/StringBuilder") okf_J18_ensureCapacityInternal okd_J18_ensureCapacityInternal q1170 q1193 rfl q1171 (fun U hK => hH.2.2.2.2.2.2 _ q1171 rfl U hK) (m_KJ18_ensureCapacityInternal hG hH er2 d) rfl (by omega) ⟨_, _, _, _, _, ez3, by rw [hG.1]; rfl⟩ rfl rfl (Nat.le_of_ble_eq_true rfl) dJ18_append_7 ?_
  refine vv_aload_n dJ18_append_10 rfl 0 rfl ?_
  replace h := isO_o h; obtain ⟨fz5, sz5, ez5, h⟩ := h
  replace h := bd_o h; obtain ⟨r4, er4, h⟩ := h
  refine vv_callU (C := "java/lang/StringBuilder") okf_J18_isLatin1 okd_J18_isLatin1 q1190 q1193 (m_KJ18_isLatin1 hG hH er4 d) rfl (by omega) ⟨_, _, _, _, _, ez5, by rw [hG.1]; rfl⟩ rfl rfl (Nat.le_of_ble_eq_true rfl) dJ18_append_11 ?_
  refine vv_if_eq (tgt := 45) dJ18_append_14 (by decide) (fun c6 => ?_) (fun c6 => ?_)
  · rw [if_pos c6] at h
    exact v_KJ18_append_45 hG hH h
  · rw [if_neg c6] at h
    refine vv_iload_n dJ18_append_17 rfl 1 rfl ?_
    replace h := bd_o h; obtain ⟨r7, er7, h⟩ := h
    refine vv_callS ok_J9_canEncode_2 q1195 (m_KJ9_canEncode_2 hG hH er7 d) rfl (by omega) rfl rfl (Nat.le_of_ble_eq_true rfl) dJ18_append_18 ?_
    refine vv_if_eq (tgt := 45) dJ18_append_21 (by decide) (fun c8 => ?_) (fun c8 => ?_)
    · rw [if_pos c8] at h
      exact v_KJ18_append_45 hG hH h
    · rw [if_neg c8] at h
      refine vv_aload_n dJ18_append_24 rfl 0 rfl ?_
      replace h := gR_o h; obtain ⟨v9, fv9, sv9, ev9, lv9, h⟩ := h
      refine vv_get (fl_J18_15 hG) ev9 lv9 dJ18_append_25 ?_
      refine vv_aload_n dJ18_append_28 rfl 0 rfl ?_
      refine vv_dup dJ18_append_29 rfl ?_
      replace h := gI_o h; obtain ⟨v10, fv10, sv10, ev10, lv10, h⟩ := h
      refine vv_get (fl_J18_79 hG) ev10 lv10 dJ18_append_30 ?_
      refine vv_dup_x1 dJ18_append_33 rfl rfl ?_
      refine vv_iconst (v := (nI 1)) dJ18_append_34 (by decide) ?_
      refine vv_iadd dJ18_append_35 ?_
      replace h := pF_o h; obtain ⟨σ11, sσ11, eσ11, lσ11, uσ11, h⟩ := h
      refine vv_putf (pt_J18_79 hG) (Or.inr fun C T' N h9 => by rw [hG.1] at h9; cases h9; rfl) eσ11 rfl rfl lσ11 dJ18_append_36 ?_
      rw [← uσ11]
      refine vv_iload_n dJ18_append_39 rfl 1 rfl ?_
      refine vv_i2b dJ18_append_40 ?_
      replace h := sB_o h; obtain ⟨σ12, nσ12, qσ12, eσ12, iσ12, uσ12, h⟩ := h
      refine vv_bast eσ12 iσ12 dJ18_append_41 ?_
      rw [← uσ12]
      refine vv_goto (tgt := 75) dJ18_append_42 (by decide) ?_
      refine vv_aload_n dJ18_append_75 rfl 0 rfl ?_
      cases h
      exact vv_aret rfl (by first | exact Or.inl ⟨_, rfl⟩ | exact Or.inr ⟨_, rfl⟩) (Or.inr ⟨_, rfl⟩) dJ18_append_76
theorem m_KJ18_append {l : Launch} {G : vv_G} {ad : Nat → Nat} (hG : vv_gok G) (hH : vv_hy l G ad) {x0 : Nat} {x1 : Int32} {σ : vv_S} {r : Nat × vv_S} (h : KJ18_append x0 x1 σ = some r) (d : Nat) : vv_Met l G MJ18_append (d + 4) [.ref x0, .int x1] σ (.inl (some (.ref r.1)), r.2) := vv_head (by decide +kernel) rfl (Nat.le_of_ble_eq_true rfl) rfl (v_KJ18_append_0 hG hH h)
/-! ('J19', 'append') -/
def KJ19_append (x0 : Nat) (x1 : Int32) (σ : vv_S) : Option (Nat × vv_S) := (isO σ x0 13).bind fun _ => (KJ18_append x0 x1 σ).bind fun r1 => some (x0, r1.2)
theorem v_KJ19_append_0 {l : Launch} {G : vv_G} {d : Nat} {ad : Nat → Nat} (hG : vv_gok G) (hH : vv_hy l G ad) {x0 : Nat} {x1 : Int32} {σ : vv_S} {r : Nat × vv_S} (h : KJ19_append x0 x1 σ = some r) : vv_V l G MJ19_append (d + 5) 0 [(0, .ref x0), (1, .int x1)] [] σ (.inl (some (.ref r.1)), r.2) := by
  unfold KJ19_append at h
  refine vv_aload_n dJ19_append_0 rfl 0 rfl ?_
  refine vv_iload_n dJ19_append_1 rfl 1 rfl ?_
  replace h := isO_o h; obtain ⟨fz2, sz2, ez2, h⟩ := h
  replace h := bd_o h; obtain ⟨r1, er1, h⟩ := h
  refine vv_callSU (C := "java/lang/StringBuilder") okf_J18_append okd_J18_append q1167 q2222 q565 (by decide) (m_KJ18_append hG hH er1 d) rfl (by omega) ⟨_, _, _, _, _, ez2, by rw [hG.1]; rfl⟩ rfl rfl (Nat.le_of_ble_eq_true rfl) dJ19_append_2 ?_
  refine vv_pop dJ19_append_5 rfl ?_
  refine vv_aload_n dJ19_append_6 rfl 0 rfl ?_
  cases h
  exact vv_aret rfl (by first | exact Or.inl ⟨_, rfl⟩ | exact Or.inr ⟨_, rfl⟩) (Or.inr ⟨_, rfl⟩) dJ19_append_7
theorem m_KJ19_append {l : Launch} {G : vv_G} {ad : Nat → Nat} (hG : vv_gok G) (hH : vv_hy l G ad) {x0 : Nat} {x1 : Int32} {σ : vv_S} {r : Nat × vv_S} (h : KJ19_append x0 x1 σ = some r) (d : Nat) : vv_Met l G MJ19_append (d + 5) [.ref x0, .int x1] σ (.inl (some (.ref r.1)), r.2) := vv_head (by decide +kernel) rfl (Nat.le_of_ble_eq_true rfl) rfl (v_KJ19_append_0 hG hH h)
/-! ('J18', 'charAt') -/
def KJ18_charAt (x0 : Nat) (x1 : Int32) (σ : vv_S) : Option Int32 := (gI σ x0 13 1).bind fun v1 => (gR σ x0 13 0).bind fun v2 => (gI σ x0 13 3).bind fun v3 => (aLn σ v2).bind fun v4 => (KJ8_checkIndex x1 (mnI v3 (v4 >>> (v1 &&& 31)))).bind fun r5 => if v1 = 0 then ((aI σ .byte v2 x1).bind fun v7 => (crI (Int32.toUInt32 (v7 &&& (nI 255)) % 65536).toInt32).bind fun v8 => some v8) else (none)
theorem v_KJ18_charAt_0 {l : Launch} {G : vv_G} {d : Nat} {ad : Nat → Nat} (hG : vv_gok G) (hH : vv_hy l G ad) {x0 : Nat} {x1 : Int32} {σ : vv_S} {r : Int32} (h : KJ18_charAt x0 x1 σ = some r) : vv_V l G MJ18_charAt (d + 2) 0 [(0, .ref x0), (1, .int x1)] [] σ (.inl (some (.int r)), σ) := by
  unfold KJ18_charAt at h
  refine vv_aload_n dJ18_charAt_0 rfl 0 rfl ?_
  replace h := gI_o h; obtain ⟨v1, fv1, sv1, ev1, lv1, h⟩ := h
  refine vv_get (fl_J18_22 hG) ev1 lv1 dJ18_charAt_1 ?_
  refine vv_istore_n (lv' := [(0, .ref x0), (1, .int x1), (2, .int v1)]) dJ18_charAt_4 rfl (by decide) [1, 2, 0] rfl ?_
  refine vv_aload_n dJ18_charAt_5 rfl 0 rfl ?_
  replace h := gR_o h; obtain ⟨v2, fv2, sv2, ev2, lv2, h⟩ := h
  refine vv_get (fl_J18_15 hG) ev2 lv2 dJ18_charAt_6 ?_
  refine vv_astore_n (lv' := [(0, .ref x0), (1, .int x1), (2, .int v1), (3, .ref v2)]) dJ18_charAt_9 rfl (by decide) [1, 2, 3, 0] rfl ?_
  refine vv_aload_n dJ18_charAt_10 rfl 0 rfl ?_
  replace h := gI_o h; obtain ⟨v3, fv3, sv3, ev3, lv3, h⟩ := h
  refine vv_get (fl_J18_79 hG) ev3 lv3 dJ18_charAt_11 ?_
  refine vv_aload_n dJ18_charAt_14 rfl 3 rfl ?_
  replace h := aL_o h; obtain ⟨v4, fv4, xv4, ev4, wv4, h⟩ := h
  refine vv_alen ev4 wv4 dJ18_charAt_15 ?_
  refine vv_iload_n dJ18_charAt_16 rfl 2 rfl ?_
  refine vv_ishr dJ18_charAt_17 ?_
  refine vv_mmin q568 (by omega) (Nat.le_of_ble_eq_true rfl) dJ18_charAt_18 ?_
  refine vv_istore (lv' := [(0, .ref x0), (1, .int x1), (2, .int v1), (3, .ref v2), (4, .int (mnI v3 (v4 >>> (v1 &&& 31))))]) dJ18_charAt_21 (by decide) [1, 2, 3, 4, 0] rfl ?_
  refine vv_iload_n dJ18_charAt_23 rfl 1 rfl ?_
  refine vv_iload dJ18_charAt_24 4 rfl ?_
  replace h := bd_o h; obtain ⟨r5, er5, h⟩ := h
  refine vv_callS ok_J8_checkIndex q569 (m_KJ8_checkIndex hG hH er5 d) rfl (by omega) rfl rfl (Nat.le_of_ble_eq_true rfl) dJ18_charAt_26 ?_
  refine vv_iload_n dJ18_charAt_29 rfl 2 rfl ?_
  refine vv_if_ne (tgt := 42) dJ18_charAt_30 (by decide) (fun c6 => ?_) (fun c6 => ?_)
  · rw [if_neg c6] at h
    refine vv_aload_n dJ18_charAt_42 rfl 3 rfl ?_
    refine vv_iload_n dJ18_charAt_43 rfl 1 rfl ?_
    cases h
  · rw [if_pos c6] at h
    refine vv_aload_n dJ18_charAt_33 rfl 3 rfl ?_
    refine vv_iload_n dJ18_charAt_34 rfl 1 rfl ?_
    replace h := aI_o h; obtain ⟨v7, fv7, nv7, qv7, ev7, iv7, wv7, h⟩ := h
    refine vv_bald ev7 iv7 dJ18_charAt_35 ?_
    rw [wv7]
    refine vv_sipush (v := (nI 255)) dJ18_charAt_36 (by decide) ?_
    refine vv_iand dJ18_charAt_39 ?_
    refine vv_i2c dJ18_charAt_40 ?_
    replace h := cr_o h; obtain ⟨zv8, h⟩ := h
    cases h
    exact vv_zret rfl zv8 dJ18_charAt_41
theorem m_KJ18_charAt {l : Launch} {G : vv_G} {ad : Nat → Nat} (hG : vv_gok G) (hH : vv_hy l G ad) {x0 : Nat} {x1 : Int32} {σ : vv_S} {r : Int32} (h : KJ18_charAt x0 x1 σ = some r) (d : Nat) : vv_Met l G MJ18_charAt (d + 2) [.ref x0, .int x1] σ (.inl (some (.int r)), σ) := vv_head (by decide +kernel) rfl (Nat.le_of_ble_eq_true rfl) rfl (v_KJ18_charAt_0 hG hH h)
/-! ('J19', 'charAt') -/
def KJ19_charAt (x0 : Nat) (x1 : Int32) (σ : vv_S) : Option Int32 := (isO σ x0 13).bind fun _ => (KJ18_charAt x0 x1 σ).bind fun r1 => (crI r1).bind fun v3 => some v3
theorem v_KJ19_charAt_0 {l : Launch} {G : vv_G} {d : Nat} {ad : Nat → Nat} (hG : vv_gok G) (hH : vv_hy l G ad) {x0 : Nat} {x1 : Int32} {σ : vv_S} {r : Int32} (h : KJ19_charAt x0 x1 σ = some r) : vv_V l G MJ19_charAt (d + 3) 0 [(0, .ref x0), (1, .int x1)] [] σ (.inl (some (.int r)), σ) := by
  unfold KJ19_charAt at h
  refine vv_aload_n dJ19_charAt_0 rfl 0 rfl ?_
  refine vv_iload_n dJ19_charAt_1 rfl 1 rfl ?_
  replace h := isO_o h; obtain ⟨fz2, sz2, ez2, h⟩ := h
  replace h := bd_o h; obtain ⟨r1, er1, h⟩ := h
  refine vv_callSU (C := "java/lang/StringBuilder") okf_J18_charAt okd_J18_charAt q564 q2220 q565 (by decide) (m_KJ18_charAt hG hH er1 d) rfl (by omega) ⟨_, _, _, _, _, ez2, by rw [hG.1]; rfl⟩ rfl rfl (Nat.le_of_ble_eq_true rfl) dJ19_charAt_2 ?_
  replace h := cr_o h; obtain ⟨zv3, h⟩ := h
  cases h
  exact vv_zret rfl zv3 dJ19_charAt_5
theorem m_KJ19_charAt {l : Launch} {G : vv_G} {ad : Nat → Nat} (hG : vv_gok G) (hH : vv_hy l G ad) {x0 : Nat} {x1 : Int32} {σ : vv_S} {r : Int32} (h : KJ19_charAt x0 x1 σ = some r) (d : Nat) : vv_Met l G MJ19_charAt (d + 3) [.ref x0, .int x1] σ (.inl (some (.int r)), σ) := vv_head (by decide +kernel) rfl (Nat.le_of_ble_eq_true rfl) rfl (v_KJ19_charAt_0 hG hH h)
