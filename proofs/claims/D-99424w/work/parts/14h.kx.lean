set_option maxRecDepth 100000
/-! ('X5', 'isSign') -/
def KX5_isSign_29 (s0 : Int32) (σ : vv_S) : Option Int32 := (zrI s0).bind fun v1 => some v1
theorem v_KX5_isSign_29 {l : Launch} {G : vv_G} {d : Nat} {ad : Nat → Nat} (hG : vv_gok G) (hH : vv_hy l G ad) {s0 : Int32} {σ : vv_S} {r : Int32} (h : KX5_isSign_29 s0 σ = some r) : vv_V l G MX5_isSign (d + 0) 29 [] [.int s0] σ (.inl (some (.int r)), σ) := by
  unfold KX5_isSign_29 at h
  replace h := zr_o h; obtain ⟨zv1, h⟩ := h
  cases h
  exact vv_zret rfl zv1 dX5_isSign_29
def KX5_isSign_28 (σ : vv_S) : Option Int32 := KX5_isSign_29 (nI 0) σ
theorem v_KX5_isSign_28 {l : Launch} {G : vv_G} {d : Nat} {ad : Nat → Nat} (hG : vv_gok G) (hH : vv_hy l G ad) {σ : vv_S} {r : Int32} (h : KX5_isSign_28 σ = some r) : vv_V l G MX5_isSign (d + 0) 28 [] [] σ (.inl (some (.int r)), σ) := by
  unfold KX5_isSign_28 at h
  refine vv_iconst (v := (nI 0)) dX5_isSign_28 (by decide) ?_
  exact v_KX5_isSign_29 hG hH h
def KX5_isSign (x0 : Nat) (x1 : Int32) (σ : vv_S) : Option Int32 := (gI σ x0 4 5).bind fun v1 => if v1 = (nI 3) then ((gR σ x0 4 9).bind fun v3 => (gR σ v3 0 3).bind fun v4 => (gI σ x0 4 6).bind fun v5 => (aI σ .byte v4 v5).bind fun v6 => if v6 = x1 then (KX5_isSign_29 (nI 1) σ) else (KX5_isSign_28 σ)) else (KX5_isSign_28 σ)
theorem v_KX5_isSign_0 {l : Launch} {G : vv_G} {d : Nat} {ad : Nat → Nat} (hG : vv_gok G) (hH : vv_hy l G ad) {x0 : Nat} {x1 : Int32} {σ : vv_S} {r : Int32} (h : KX5_isSign x0 x1 σ = some r) : vv_V l G MX5_isSign (d + 0) 0 [(0, .ref x0), (1, .int x1)] [] σ (.inl (some (.int r)), σ) := by
  unfold KX5_isSign at h
  refine vv_aload_n dX5_isSign_0 rfl 0 rfl ?_
  replace h := gI_o h; obtain ⟨v1, fv1, sv1, ev1, lv1, h⟩ := h
  refine vv_get (fl_X5_71 hG) ev1 lv1 dX5_isSign_1 ?_
  refine vv_iconst (v := (nI 3)) dX5_isSign_4 (by decide) ?_
  refine vv_icmp_ne (tgt := 28) dX5_isSign_5 (by decide) (fun c2 => ?_) (fun c2 => ?_)
  · rw [if_neg c2] at h
    refine vv_sub (lv' := []) [] rfl ?_
    exact v_KX5_isSign_28 hG hH h
  · rw [if_pos c2] at h
    refine vv_aload_n dX5_isSign_8 rfl 0 rfl ?_
    replace h := gR_o h; obtain ⟨v3, fv3, sv3, ev3, lv3, h⟩ := h
    refine vv_get (fl_X5_3 hG) ev3 lv3 dX5_isSign_9 ?_
    replace h := gR_o h; obtain ⟨v4, fv4, sv4, ev4, lv4, h⟩ := h
    refine vv_getM (fl_X5_56 hH) ev4 lv4 dX5_isSign_12 ?_
    refine vv_aload_n dX5_isSign_15 rfl 0 rfl ?_
    replace h := gI_o h; obtain ⟨v5, fv5, sv5, ev5, lv5, h⟩ := h
    refine vv_get (fl_X5_68 hG) ev5 lv5 dX5_isSign_16 ?_
    replace h := aI_o h; obtain ⟨v6, fv6, nv6, qv6, ev6, iv6, wv6, h⟩ := h
    refine vv_bald ev6 iv6 dX5_isSign_19 ?_
    rw [wv6]
    refine vv_iload_n dX5_isSign_20 rfl 1 rfl ?_
    refine vv_icmp_ne (tgt := 28) dX5_isSign_21 (by decide) (fun c7 => ?_) (fun c7 => ?_)
    · rw [if_neg c7] at h
      refine vv_sub (lv' := []) [] rfl ?_
      exact v_KX5_isSign_28 hG hH h
    · rw [if_pos c7] at h
      refine vv_iconst (v := (nI 1)) dX5_isSign_24 (by decide) ?_
      refine vv_goto (tgt := 29) dX5_isSign_25 (by decide) ?_
      refine vv_sub (lv' := []) [] rfl ?_
      exact v_KX5_isSign_29 hG hH h
theorem m_KX5_isSign {l : Launch} {G : vv_G} {ad : Nat → Nat} (hG : vv_gok G) (hH : vv_hy l G ad) {x0 : Nat} {x1 : Int32} {σ : vv_S} {r : Int32} (h : KX5_isSign x0 x1 σ = some r) (d : Nat) : vv_Met l G MX5_isSign (d + 0) [.ref x0, .int x1] σ (.inl (some (.int r)), σ) := vv_head (by decide +kernel) rfl (Nat.le_of_ble_eq_true rfl) rfl (v_KX5_isSign_0 hG hH h)
/-! ('X9', 'init') -/
def KX9_init (x0 : Nat) (x1 : Int32) (σ : vv_S) : Option vv_S := (pF σ x0 8 0 (.int x1)).bind fun σ1 => some σ1
theorem v_KX9_init_0 {l : Launch} {G : vv_G} {d : Nat} {ad : Nat → Nat} (hG : vv_gok G) (hH : vv_hy l G ad) {x0 : Nat} {x1 : Int32} {σ : vv_S} {r : vv_S} (h : KX9_init x0 x1 σ = some r) : vv_V l G MX9_init (d + 1) 0 [(0, .ref x0), (1, .int x1)] [] σ (.inl none, r) := by
  unfold KX9_init at h
  refine vv_aload_n dX9_init_0 rfl 0 rfl ?_
  refine vv_objinit q1093 q149 q150 (by omega) (Nat.le_of_ble_eq_true rfl) dX9_init_1 ?_
  refine vv_aload_n dX9_init_4 rfl 0 rfl ?_
  refine vv_iload_n dX9_init_5 rfl 1 rfl ?_
  replace h := pF_o h; obtain ⟨σ1, sσ1, eσ1, lσ1, uσ1, h⟩ := h
  refine vv_putf (pt_X9_7 hG) (Or.inl rfl) eσ1 rfl rfl lσ1 dX9_init_6 ?_
  refine vv_sg uσ1 ?_
  cases h
  exact vv_vret rfl dX9_init_9
theorem m_KX9_init {l : Launch} {G : vv_G} {ad : Nat → Nat} (hG : vv_gok G) (hH : vv_hy l G ad) {x0 : Nat} {x1 : Int32} {σ : vv_S} {r : vv_S} (h : KX9_init x0 x1 σ = some r) (d : Nat) : vv_Met l G MX9_init (d + 1) [.ref x0, .int x1] σ (.inl none, r) := vv_head (by decide +kernel) rfl (Nat.le_of_ble_eq_true rfl) rfl (v_KX9_init_0 hG hH h)
/-! ('X5', 'which') -/
def BKX5_which_2 (k2 : Nat → Nat → Int32 → vv_S → Option Int32) (x0 : Nat) (x1 : Nat) (x2 : Int32) (σ : vv_S) : Option Int32 := (aLn σ x1).bind fun v1 => if v1 ≤ x2 then (some (-1)) else ((aQ σ x1 x2).bind fun v3 => (isO σ x0 4).bind fun _ => (KX5_is x0 v3 σ).bind fun r4 => if r4 = 0 then (k2 x0 x1 (x2 + (nI 1)) σ) else (some x2))
def KX5_which_2 : Nat → Nat → Nat → Int32 → vv_S → Option Int32
  | 0, _, _, _, _ => none
  | n + 1, x0, x1, x2, σ => BKX5_which_2 (KX5_which_2 n) x0 x1 x2 σ
theorem vb_KX5_which_2 {l : Launch} {G : vv_G} {d : Nat} {ad : Nat → Nat} (hG : vv_gok G) (hH : vv_hy l G ad) {k2 : Nat → Nat → Int32 → vv_S → Option Int32} (hk2 : ∀ {x0 : Nat} {x1 : Nat} {x2 : Int32} {σ : vv_S} {r : Int32}, k2 x0 x1 x2 σ = some r → vv_V l G MX5_which (d + 5) 2 [(0, .ref x0), (1, .ref x1), (2, .int x2)] [] σ (.inl (some (.int r)), σ)) {x0 : Nat} {x1 : Nat} {x2 : Int32} {σ : vv_S} {r : Int32} (h : BKX5_which_2 k2 x0 x1 x2 σ = some r) : vv_V l G MX5_which (d + 5) 2 [(0, .ref x0), (1, .ref x1), (2, .int x2)] [] σ (.inl (some (.int r)), σ) := by
  unfold BKX5_which_2 at h
  refine vv_iload_n dX5_which_2 rfl 2 rfl ?_
  refine vv_aload_n dX5_which_3 rfl 1 rfl ?_
  replace h := aL_o h; obtain ⟨v1, fv1, xv1, ev1, wv1, h⟩ := h
  refine vv_alen ev1 wv1 dX5_which_4 ?_
  refine vv_icmp_ge (tgt := 26) dX5_which_5 (by decide) (fun c2 => ?_) (fun c2 => ?_)
  · rw [if_pos c2] at h
    refine vv_iconst (v := (-1)) dX5_which_26 (by decide) ?_
    cases h
    exact vv_iret rfl dX5_which_27
  · rw [if_neg c2] at h
    refine vv_aload_n dX5_which_8 rfl 0 rfl ?_
    refine vv_aload_n dX5_which_9 rfl 1 rfl ?_
    refine vv_iload_n dX5_which_10 rfl 2 rfl ?_
    replace h := aQ_o h; obtain ⟨v3, fv3, tv3, nv3, qv3, rv3, ev3, iv3, wv3, h⟩ := h
    refine vv_aald rv3 ev3 iv3 dX5_which_11 ?_
    rw [wv3]
    refine vv_st (st' := [.ref v3, .ref x0]) rfl ?_
    replace h := isO_o h; obtain ⟨fz5, sz5, ez5, h⟩ := h
    replace h := bd_o h; obtain ⟨r4, er4, h⟩ := h
    refine vv_callV ok_X5_is q916 (m_KX5_is hG hH er4 d) rfl (by omega) ⟨_, _, _, _, _, ez5, by rw [hG.1]; rfl⟩ rfl rfl (Nat.le_of_ble_eq_true rfl) dX5_which_12 ?_
    refine vv_if_eq (tgt := 20) dX5_which_15 (by decide) (fun c6 => ?_) (fun c6 => ?_)
    · rw [if_pos c6] at h
      refine vv_iinc (v := (x2 + (nI 1))) (lv' := [(0, .ref x0), (1, .ref x1), (2, .int (x2 + (nI 1)))]) dX5_which_20 2 rfl rfl (by decide) [1, 2, 0] rfl ?_
      refine vv_goto (tgt := 2) dX5_which_23 (by decide) ?_
      exact hk2 h
    · rw [if_neg c6] at h
      refine vv_iload_n dX5_which_18 rfl 2 rfl ?_
      cases h
      exact vv_iret rfl dX5_which_19
theorem v_KX5_which_2 {l : Launch} {G : vv_G} {d : Nat} {ad : Nat → Nat} (hG : vv_gok G) (hH : vv_hy l G ad) : ∀ (n : Nat) {x0 : Nat} {x1 : Nat} {x2 : Int32} {σ : vv_S} {r : Int32}, KX5_which_2 n x0 x1 x2 σ = some r → vv_V l G MX5_which (d + 5) 2 [(0, .ref x0), (1, .ref x1), (2, .int x2)] [] σ (.inl (some (.int r)), σ) := by
  intro n
  induction n with
  | zero => intro _ _ _ _ _ h; cases h
  | succ n ih => intro _ _ _ _ _ h; exact vb_KX5_which_2 hG hH ih h
def KX5_which (x0 : Nat) (x1 : Nat) (σ : vv_S) : Option Int32 := KX5_which_2 NN x0 x1 (nI 0) σ
theorem v_KX5_which_0 {l : Launch} {G : vv_G} {d : Nat} {ad : Nat → Nat} (hG : vv_gok G) (hH : vv_hy l G ad) {x0 : Nat} {x1 : Nat} {σ : vv_S} {r : Int32} (h : KX5_which x0 x1 σ = some r) : vv_V l G MX5_which (d + 5) 0 [(0, .ref x0), (1, .ref x1)] [] σ (.inl (some (.int r)), σ) := by
  unfold KX5_which at h
  refine vv_iconst (v := (nI 0)) dX5_which_0 (by decide) ?_
  refine vv_istore_n (lv' := [(0, .ref x0), (1, .ref x1), (2, .int (nI 0))]) dX5_which_1 rfl (by decide) [1, 2, 0] rfl ?_
  exact v_KX5_which_2 hG hH NN h
theorem m_KX5_which {l : Launch} {G : vv_G} {ad : Nat → Nat} (hG : vv_gok G) (hH : vv_hy l G ad) {x0 : Nat} {x1 : Nat} {σ : vv_S} {r : Int32} (h : KX5_which x0 x1 σ = some r) (d : Nat) : vv_Met l G MX5_which (d + 5) [.ref x0, .ref x1] σ (.inl (some (.int r)), σ) := vv_head (by decide +kernel) rfl (Nat.le_of_ble_eq_true rfl) rfl (v_KX5_which_0 hG hH h)
/-! ('X10', 'init') -/
def KX10_init (x0 : Nat) (x1 : Int32) (σ : vv_S) : Option vv_S := (pF σ x0 9 0 (.int x1)).bind fun σ1 => some σ1
theorem v_KX10_init_0 {l : Launch} {G : vv_G} {d : Nat} {ad : Nat → Nat} (hG : vv_gok G) (hH : vv_hy l G ad) {x0 : Nat} {x1 : Int32} {σ : vv_S} {r : vv_S} (h : KX10_init x0 x1 σ = some r) : vv_V l G MX10_init (d + 1) 0 [(0, .ref x0), (1, .int x1)] [] σ (.inl none, r) := by
  unfold KX10_init at h
  refine vv_aload_n dX10_init_0 rfl 0 rfl ?_
  refine vv_objinit q1107 q149 q150 (by omega) (Nat.le_of_ble_eq_true rfl) dX10_init_1 ?_
  refine vv_aload_n dX10_init_4 rfl 0 rfl ?_
  refine vv_iload_n dX10_init_5 rfl 1 rfl ?_
  replace h := pF_o h; obtain ⟨σ1, sσ1, eσ1, lσ1, uσ1, h⟩ := h
  refine vv_putf (pt_X10_7 hG) (Or.inl rfl) eσ1 rfl rfl lσ1 dX10_init_6 ?_
  refine vv_sg uσ1 ?_
  cases h
  exact vv_vret rfl dX10_init_9
theorem m_KX10_init {l : Launch} {G : vv_G} {ad : Nat → Nat} (hG : vv_gok G) (hH : vv_hy l G ad) {x0 : Nat} {x1 : Int32} {σ : vv_S} {r : vv_S} (h : KX10_init x0 x1 σ = some r) (d : Nat) : vv_Met l G MX10_init (d + 1) [.ref x0, .int x1] σ (.inl none, r) := vv_head (by decide +kernel) rfl (Nat.le_of_ble_eq_true rfl) rfl (v_KX10_init_0 hG hH h)
/-! ('X5', 'part') -/
def KX5_part_100 (ex : Nat → Int32 → vv_S → Option (hX (Nat × vv_S))) (ad : Nat → Nat) (s0 : Nat) (s1 : Int32) (x0 : Nat) (x2 : Int32) (σ : vv_S) : Option (hX (Nat × vv_S)) := (isO σ s0 4).bind fun _ => (KX5_want s0 s1 (nI 3) σ).bind fun r1 => xb r1 fun r3 => (isO r3 x0 4).bind fun _ => (KX5_next ad x0 r3).bind fun r4 => (some (nwO r4 9 [.int 0] 1)).bind fun σ6 => (KX10_init r4.2.1 x2 σ6).bind fun r7 => some (.inl (r4.2.1, r7))
theorem v_KX5_part_100 {l : Launch} {G : vv_G} {d : Nat} {ad : Nat → Nat} {ex : Nat → Int32 → vv_S → Option (hX (Nat × vv_S))} (hG : vv_gok G) (hH : vv_hy l G ad) (hex : ∀ {a : Nat} {n : Int32} {σ : vv_S} {r : hX (Nat × vv_S)}, ex a n σ = some r → vv_Met l G MX5_expression d [.ref a, .int n] σ (xR r)) {s0 : Nat} {s1 : Int32} {x0 : Nat} {x2 : Int32} {σ : vv_S} {r : hX (Nat × vv_S)} (h : KX5_part_100 ex ad s0 s1 x0 x2 σ = some r) : vv_V l G MX5_part (d + 8) 100 [(0, .ref x0), (2, .int x2)] [.int s1, .ref s0] σ (xR r) := by
  unfold KX5_part_100 at h
  refine vv_iconst (v := (nI 3)) dX5_part_100 (by decide) ?_
  replace h := isO_o h; obtain ⟨fz2, sz2, ez2, h⟩ := h
  replace h := bd_o h; obtain ⟨r1, er1, h⟩ := h
  rcases r1 with r3 | r3x
  · refine vv_callV ok_X5_want q941 (m_KX5_want hG hH er1 d) rfl (by omega) ⟨_, _, _, _, _, ez2, by rw [hG.1]; rfl⟩ rfl rfl (Nat.le_of_ble_eq_true rfl) dX5_part_101 ?_
    replace h := xb_l h
    refine vv_aload_n dX5_part_104 rfl 0 rfl ?_
    replace h := isO_o h; obtain ⟨fz5, sz5, ez5, h⟩ := h
    replace h := bd_o h; obtain ⟨r4, er4, h⟩ := h
    refine vv_callV ok_X5_next q822 (m_KX5_next hG hH er4 d) rfl (by omega) ⟨_, _, _, _, _, ez5, by rw [hG.1]; rfl⟩ rfl rfl (Nat.le_of_ble_eq_true rfl) dX5_part_105 ?_
    obtain ⟨σ6, uσ6, h⟩ := bd_s h
    refine vv_new (nw_X5_146 hG) dX5_part_108 ?_
    refine vv_sg uσ6 ?_
    refine vv_dup dX5_part_111 rfl ?_
    refine vv_iload_n dX5_part_112 rfl 1 rfl ?_
    replace h := bd_o h; obtain ⟨r7, er7, h⟩ := h
    refine vv_callI ok_X10_init q1104 (m_KX10_init hG hH er7 d) rfl (by omega) rfl rfl (Nat.le_of_ble_eq_true rfl) dX5_part_113 ?_
    cases h
    exact vv_aret rfl (by first | exact Or.inl ⟨_, rfl⟩ | exact Or.inr ⟨_, rfl⟩) (Or.inr ⟨_, rfl⟩) dX5_part_116
  · cases h
    exact vv_callVX ok_X5_want q941 (m_KX5_want hG hH er1 d) rfl (by omega) ⟨_, _, _, _, _, ez2, by rw [hG.1]; rfl⟩ rfl rfl (Nat.le_of_ble_eq_true rfl) dX5_part_101 (vv_Tout (by intro x hx; cases hx))
def KX5_part_76 (ex : Nat → Int32 → vv_S → Option (hX (Nat × vv_S))) (ad : Nat → Nat) (s0 : Nat) (s1 : Int32) (x0 : Nat) (σ : vv_S) : Option (hX (Nat × vv_S)) := (isO σ s0 4).bind fun _ => (KX5_want s0 s1 (nI 1) σ).bind fun r1 => xb r1 fun r3 => (gR r3 x0 4 3).bind fun v4 => (isO r3 x0 4).bind fun _ => (KX5_which x0 v4 r3).bind fun r5 => if r5 = (-1) then (KX5_part_100 ex ad x0 (nI 0) x0 r5 r3) else (KX5_part_100 ex ad x0 (nI 1) x0 r5 r3)
theorem v_KX5_part_76 {l : Launch} {G : vv_G} {d : Nat} {ad : Nat → Nat} {ex : Nat → Int32 → vv_S → Option (hX (Nat × vv_S))} (hG : vv_gok G) (hH : vv_hy l G ad) (hex : ∀ {a : Nat} {n : Int32} {σ : vv_S} {r : hX (Nat × vv_S)}, ex a n σ = some r → vv_Met l G MX5_expression d [.ref a, .int n] σ (xR r)) {s0 : Nat} {s1 : Int32} {x0 : Nat} {σ : vv_S} {r : hX (Nat × vv_S)} (h : KX5_part_76 ex ad s0 s1 x0 σ = some r) : vv_V l G MX5_part (d + 8) 76 [(0, .ref x0)] [.int s1, .ref s0] σ (xR r) := by
  unfold KX5_part_76 at h
  refine vv_iconst (v := (nI 1)) dX5_part_76 (by decide) ?_
  replace h := isO_o h; obtain ⟨fz2, sz2, ez2, h⟩ := h
  replace h := bd_o h; obtain ⟨r1, er1, h⟩ := h
  rcases r1 with r3 | r3x
  · refine vv_callV ok_X5_want q941 (m_KX5_want hG hH er1 d) rfl (by omega) ⟨_, _, _, _, _, ez2, by rw [hG.1]; rfl⟩ rfl rfl (Nat.le_of_ble_eq_true rfl) dX5_part_77 ?_
    replace h := xb_l h
    refine vv_aload_n dX5_part_80 rfl 0 rfl ?_
    refine vv_aload_n dX5_part_81 rfl 0 rfl ?_
    replace h := gR_o h; obtain ⟨v4, fv4, sv4, ev4, lv4, h⟩ := h
    refine vv_get (fl_X5_45 hG) ev4 lv4 dX5_part_82 ?_
    replace h := isO_o h; obtain ⟨fz6, sz6, ez6, h⟩ := h
    replace h := bd_o h; obtain ⟨r5, er5, h⟩ := h
    refine vv_callV ok_X5_which q1098 (m_KX5_which hG hH er5 d) rfl (by omega) ⟨_, _, _, _, _, ez6, by rw [hG.1]; rfl⟩ rfl rfl (Nat.le_of_ble_eq_true rfl) dX5_part_85 ?_
    refine vv_istore_n (lv' := [(0, .ref x0), (2, .int r5)]) dX5_part_88 rfl (by decide) [1, 0] rfl ?_
    refine vv_aload_n dX5_part_89 rfl 0 rfl ?_
    refine vv_iload_n dX5_part_90 rfl 1 rfl ?_
    refine vv_iconst (v := (-1)) dX5_part_91 (by decide) ?_
    refine vv_icmp_eq (tgt := 99) dX5_part_92 (by decide) (fun c7 => ?_) (fun c7 => ?_)
    · rw [if_pos c7] at h
      refine vv_iconst (v := (nI 0)) dX5_part_99 (by decide) ?_
      exact v_KX5_part_100 hG hH hex h
    · rw [if_neg c7] at h
      refine vv_iconst (v := (nI 1)) dX5_part_95 (by decide) ?_
      refine vv_goto (tgt := 100) dX5_part_96 (by decide) ?_
      exact v_KX5_part_100 hG hH hex h
  · cases h
    exact vv_callVX ok_X5_want q941 (m_KX5_want hG hH er1 d) rfl (by omega) ⟨_, _, _, _, _, ez2, by rw [hG.1]; rfl⟩ rfl rfl (Nat.le_of_ble_eq_true rfl) dX5_part_77 (vv_Tout (by intro x hx; cases hx))
def KX5_part (ex : Nat → Int32 → vv_S → Option (hX (Nat × vv_S))) (ad : Nat → Nat) (x0 : Nat) (x1 : Int32) (σ : vv_S) : Option (hX (Nat × vv_S)) := (gI σ x0 4 5).bind fun v1 => if v1 = (nI 2) then ((some (nwO σ 8 [.int 0] 1)).bind fun σ20 => (isO σ20 x0 4).bind fun _ => (KX5_number ad x0 (nI 0) (nI 9999) σ20).bind fun r21 => xb r21 fun r23 => (KX9_init σ.2.1 r23.1 r23.2).bind fun r24 => some (.inl (σ.2.1, r24))) else ((isO σ x0 4).bind fun _ => (KX5_isSign x0 (nI 40) σ).bind fun r3 => if r3 = 0 then ((gI σ x0 4 5).bind fun v6 => if v6 = (nI 1) then (KX5_part_76 ex ad x0 (nI 1) x0 σ) else (KX5_part_76 ex ad x0 (nI 0) x0 σ)) else ((isO σ x0 4).bind fun _ => (KX5_next ad x0 σ).bind fun r8 => (isO r8 x0 4).bind fun _ => (ex x0 (x1 + (nI 1)) r8).bind fun r10 => xb r10 fun r12 => (isO r12.2 x0 4).bind fun _ => (KX5_isSign x0 (nI 41) r12.2).bind fun r13 => (isO r12.2 x0 4).bind fun _ => (KX5_want x0 r13 (nI 1) r12.2).bind fun r15 => xb r15 fun r17 => (isO r17 x0 4).bind fun _ => (KX5_next ad x0 r17).bind fun r18 => some (.inl (r12.1, r18))))
theorem v_KX5_part_0 {l : Launch} {G : vv_G} {d : Nat} {ad : Nat → Nat} {ex : Nat → Int32 → vv_S → Option (hX (Nat × vv_S))} (hG : vv_gok G) (hH : vv_hy l G ad) (hex : ∀ {a : Nat} {n : Int32} {σ : vv_S} {r : hX (Nat × vv_S)}, ex a n σ = some r → vv_Met l G MX5_expression d [.ref a, .int n] σ (xR r)) {x0 : Nat} {x1 : Int32} {σ : vv_S} {r : hX (Nat × vv_S)} (h : KX5_part ex ad x0 x1 σ = some r) : vv_V l G MX5_part (d + 8) 0 [(0, .ref x0), (1, .int x1)] [] σ (xR r) := by
  unfold KX5_part at h
  refine vv_aload_n dX5_part_0 rfl 0 rfl ?_
  replace h := gI_o h; obtain ⟨v1, fv1, sv1, ev1, lv1, h⟩ := h
  refine vv_get (fl_X5_71 hG) ev1 lv1 dX5_part_1 ?_
  refine vv_iconst (v := (nI 2)) dX5_part_4 (by decide) ?_
  refine vv_icmp_ne (tgt := 24) dX5_part_5 (by decide) (fun c2 => ?_) (fun c2 => ?_)
  · rw [if_neg c2] at h
    refine vv_aload_n dX5_part_24 rfl 0 rfl ?_
    refine vv_bipush (v := (nI 40)) dX5_part_25 (by decide) ?_
    replace h := isO_o h; obtain ⟨fz4, sz4, ez4, h⟩ := h
    replace h := bd_o h; obtain ⟨r3, er3, h⟩ := h
    refine vv_callV ok_X5_isSign q1061 (m_KX5_isSign hG hH er3 d) rfl (by omega) ⟨_, _, _, _, _, ez4, by rw [hG.1]; rfl⟩ rfl rfl (Nat.le_of_ble_eq_true rfl) dX5_part_27 ?_
    refine vv_if_eq (tgt := 62) dX5_part_30 (by decide) (fun c5 => ?_) (fun c5 => ?_)
    · rw [if_pos c5] at h
      refine vv_aload_n dX5_part_62 rfl 0 rfl ?_
      refine vv_aload_n dX5_part_63 rfl 0 rfl ?_
      replace h := gI_o h; obtain ⟨v6, fv6, sv6, ev6, lv6, h⟩ := h
      refine vv_get (fl_X5_71 hG) ev6 lv6 dX5_part_64 ?_
      refine vv_iconst (v := (nI 1)) dX5_part_67 (by decide) ?_
      refine vv_icmp_ne (tgt := 75) dX5_part_68 (by decide) (fun c7 => ?_) (fun c7 => ?_)
      · rw [if_neg c7] at h
        refine vv_iconst (v := (nI 0)) dX5_part_75 (by decide) ?_
        refine vv_sub (lv' := [(0, .ref x0)]) [0] rfl ?_
        exact v_KX5_part_76 hG hH hex h
      · rw [if_pos c7] at h
        refine vv_iconst (v := (nI 1)) dX5_part_71 (by decide) ?_
        refine vv_goto (tgt := 76) dX5_part_72 (by decide) ?_
        refine vv_sub (lv' := [(0, .ref x0)]) [0] rfl ?_
        exact v_KX5_part_76 hG hH hex h
    · rw [if_neg c5] at h
      refine vv_aload_n dX5_part_33 rfl 0 rfl ?_
      replace h := isO_o h; obtain ⟨fz9, sz9, ez9, h⟩ := h
      replace h := bd_o h; obtain ⟨r8, er8, h⟩ := h
      refine vv_callV ok_X5_next q822 (m_KX5_next hG hH er8 d) rfl (by omega) ⟨_, _, _, _, _, ez9, by rw [hG.1]; rfl⟩ rfl rfl (Nat.le_of_ble_eq_true rfl) dX5_part_34 ?_
      refine vv_aload_n dX5_part_37 rfl 0 rfl ?_
      refine vv_iload_n dX5_part_38 rfl 1 rfl ?_
      refine vv_iconst (v := (nI 1)) dX5_part_39 (by decide) ?_
      refine vv_iadd dX5_part_40 ?_
      replace h := isO_o h; obtain ⟨fz11, sz11, ez11, h⟩ := h
      replace h := bd_o h; obtain ⟨r10, er10, h⟩ := h
      rcases r10 with r12 | r12x
      · refine vv_callV ok_X5_expression q1057 (hex er10) rfl (by omega) ⟨_, _, _, _, _, ez11, by rw [hG.1]; rfl⟩ rfl rfl (Nat.le_of_ble_eq_true rfl) dX5_part_41 ?_
        replace h := xb_l h
        refine vv_astore_n (lv' := [(0, .ref x0), (1, .int x1), (2, .ref r12.1)]) dX5_part_44 rfl (by decide) [1, 2, 0] rfl ?_
        refine vv_aload_n dX5_part_45 rfl 0 rfl ?_
        refine vv_aload_n dX5_part_46 rfl 0 rfl ?_
        refine vv_bipush (v := (nI 41)) dX5_part_47 (by decide) ?_
        replace h := isO_o h; obtain ⟨fz14, sz14, ez14, h⟩ := h
        replace h := bd_o h; obtain ⟨r13, er13, h⟩ := h
        refine vv_callV ok_X5_isSign q1061 (m_KX5_isSign hG hH er13 d) rfl (by omega) ⟨_, _, _, _, _, ez14, by rw [hG.1]; rfl⟩ rfl rfl (Nat.le_of_ble_eq_true rfl) dX5_part_49 ?_
        refine vv_iconst (v := (nI 1)) dX5_part_52 (by decide) ?_
        replace h := isO_o h; obtain ⟨fz16, sz16, ez16, h⟩ := h
        replace h := bd_o h; obtain ⟨r15, er15, h⟩ := h
        rcases r15 with r17 | r17x
        · refine vv_callV ok_X5_want q941 (m_KX5_want hG hH er15 d) rfl (by omega) ⟨_, _, _, _, _, ez16, by rw [hG.1]; rfl⟩ rfl rfl (Nat.le_of_ble_eq_true rfl) dX5_part_53 ?_
          replace h := xb_l h
          refine vv_aload_n dX5_part_56 rfl 0 rfl ?_
          replace h := isO_o h; obtain ⟨fz19, sz19, ez19, h⟩ := h
          replace h := bd_o h; obtain ⟨r18, er18, h⟩ := h
          refine vv_callV ok_X5_next q822 (m_KX5_next hG hH er18 d) rfl (by omega) ⟨_, _, _, _, _, ez19, by rw [hG.1]; rfl⟩ rfl rfl (Nat.le_of_ble_eq_true rfl) dX5_part_57 ?_
          refine vv_aload_n dX5_part_60 rfl 2 rfl ?_
          cases h
          exact vv_aret rfl (by first | exact Or.inl ⟨_, rfl⟩ | exact Or.inr ⟨_, rfl⟩) (Or.inr ⟨_, rfl⟩) dX5_part_61
        · cases h
          exact vv_callVX ok_X5_want q941 (m_KX5_want hG hH er15 d) rfl (by omega) ⟨_, _, _, _, _, ez16, by rw [hG.1]; rfl⟩ rfl rfl (Nat.le_of_ble_eq_true rfl) dX5_part_53 (vv_Tout (by intro x hx; cases hx))
      · cases h
        exact vv_callVX ok_X5_expression q1057 (hex er10) rfl (by omega) ⟨_, _, _, _, _, ez11, by rw [hG.1]; rfl⟩ rfl rfl (Nat.le_of_ble_eq_true rfl) dX5_part_41 (vv_Tout (by intro x hx; cases hx))
  · rw [if_pos c2] at h
    obtain ⟨σ20, uσ20, h⟩ := bd_s h
    refine vv_new (nw_X5_129 hG) dX5_part_8 ?_
    refine vv_sg uσ20 ?_
    refine vv_dup dX5_part_11 rfl ?_
    refine vv_aload_n dX5_part_12 rfl 0 rfl ?_
    refine vv_iconst (v := (nI 0)) dX5_part_13 (by decide) ?_
    refine vv_sipush (v := (nI 9999)) dX5_part_14 (by decide) ?_
    replace h := isO_o h; obtain ⟨fz22, sz22, ez22, h⟩ := h
    replace h := bd_o h; obtain ⟨r21, er21, h⟩ := h
    rcases r21 with r23 | r23x
    · refine vv_callV ok_X5_number q969 (m_KX5_number hG hH er21 d) rfl (by omega) ⟨_, _, _, _, _, ez22, by rw [hG.1]; rfl⟩ rfl rfl (Nat.le_of_ble_eq_true rfl) dX5_part_17 ?_
      replace h := xb_l h
      replace h := bd_o h; obtain ⟨r24, er24, h⟩ := h
      refine vv_callI ok_X9_init q1090 (m_KX9_init hG hH er24 d) rfl (by omega) rfl rfl (Nat.le_of_ble_eq_true rfl) dX5_part_20 ?_
      cases h
      exact vv_aret rfl (by first | exact Or.inl ⟨_, rfl⟩ | exact Or.inr ⟨_, rfl⟩) (Or.inr ⟨_, rfl⟩) dX5_part_23
    · cases h
      exact vv_callVX ok_X5_number q969 (m_KX5_number hG hH er21 d) rfl (by omega) ⟨_, _, _, _, _, ez22, by rw [hG.1]; rfl⟩ rfl rfl (Nat.le_of_ble_eq_true rfl) dX5_part_17 (vv_Tout (by intro x hx; cases hx))
theorem m_KX5_part {l : Launch} {G : vv_G} {d : Nat} {ad : Nat → Nat} {ex : Nat → Int32 → vv_S → Option (hX (Nat × vv_S))} (hG : vv_gok G) (hH : vv_hy l G ad) (hex : ∀ {a : Nat} {n : Int32} {σ : vv_S} {r : hX (Nat × vv_S)}, ex a n σ = some r → vv_Met l G MX5_expression d [.ref a, .int n] σ (xR r)) {x0 : Nat} {x1 : Int32} {σ : vv_S} {r : hX (Nat × vv_S)} (h : KX5_part ex ad x0 x1 σ = some r) (d9 : Nat) (e9 : d9 = d := by rfl) : vv_Met l G MX5_part (d9 + 8) [.ref x0, .int x1] σ (xR r) := by
  subst e9
  exact vv_head (by decide +kernel) rfl (Nat.le_of_ble_eq_true rfl) rfl (v_KX5_part_0 hG hH hex h)
/-! ('X8', 'init') -/
def KX8_init (ad : Nat → Nat) (x0 : Nat) (x1 : Nat) (σ : vv_S) : Option vv_S := (some (nwO σ 11 [.int 0, .null, .int 0] 3)).bind fun σ1 => (KJ2_init ad σ.2.1 σ1).bind fun r2 => (pF r2 x0 7 0 (.ref σ.2.1)).bind fun σ3 => (some (nwO σ3 13 [.null, .int 0, .int 0, .int 0] 4)).bind fun σ4 => (KJ19_init σ3.2.1 σ4).bind fun r5 => (pF r5 x0 7 1 (.ref σ3.2.1)).bind fun σ6 => (gR σ6 x0 7 0).bind fun v7 => (isO σ6 v7 11).bind fun _ => (KJ2_add ad v7 x1 σ6).bind fun r8 => some r8.2
theorem v_KX8_init_0 {l : Launch} {G : vv_G} {d : Nat} {ad : Nat → Nat} (hG : vv_gok G) (hH : vv_hy l G ad) {x0 : Nat} {x1 : Nat} {σ : vv_S} {r : vv_S} (h : KX8_init ad x0 x1 σ = some r) : vv_V l G MX8_init (d + 7) 0 [(0, .ref x0), (1, .ref x1)] [] σ (.inl none, r) := by
  unfold KX8_init at h
  refine vv_aload_n dX8_init_0 rfl 0 rfl ?_
  refine vv_objinit q1115 q149 q150 (by omega) (Nat.le_of_ble_eq_true rfl) dX8_init_1 ?_
  refine vv_aload_n dX8_init_4 rfl 0 rfl ?_
  obtain ⟨σ1, uσ1, h⟩ := bd_s h
  refine vv_new (nw_X8_7 hG) dX8_init_5 ?_
  refine vv_sg uσ1 ?_
  refine vv_dup dX8_init_8 rfl ?_
  replace h := bd_o h; obtain ⟨r2, er2, h⟩ := h
  refine vv_callI ok_J2_init q1117 (m_KJ2_init hG hH er2 d) rfl (by omega) rfl rfl (Nat.le_of_ble_eq_true rfl) dX8_init_9 ?_
  replace h := pF_o h; obtain ⟨σ3, sσ3, eσ3, lσ3, uσ3, h⟩ := h
  refine vv_putf (pt_X8_10 hG) (Or.inl rfl) eσ3 rfl rfl lσ3 dX8_init_12 ?_
  refine vv_sg uσ3 ?_
  refine vv_aload_n dX8_init_15 rfl 0 rfl ?_
  obtain ⟨σ4, uσ4, h⟩ := bd_s h
  refine vv_new (nw_X8_16 hG) dX8_init_16 ?_
  refine vv_sg uσ4 ?_
  refine vv_dup dX8_init_19 rfl ?_
  replace h := bd_o h; obtain ⟨r5, er5, h⟩ := h
  refine vv_callI ok_J19_init q1120 (m_KJ19_init hG hH er5 d) rfl (by omega) rfl rfl (Nat.le_of_ble_eq_true rfl) dX8_init_20 ?_
  replace h := pF_o h; obtain ⟨σ6, sσ6, eσ6, lσ6, uσ6, h⟩ := h
  refine vv_putf (pt_X8_19 hG) (Or.inl rfl) eσ6 rfl rfl lσ6 dX8_init_23 ?_
  refine vv_sg uσ6 ?_
  refine vv_aload_n dX8_init_26 rfl 0 rfl ?_
  replace h := gR_o h; obtain ⟨v7, fv7, sv7, ev7, lv7, h⟩ := h
  refine vv_get (fl_X8_10 hG) ev7 lv7 dX8_init_27 ?_
  refine vv_aload_n dX8_init_30 rfl 1 rfl ?_
  replace h := isO_o h; obtain ⟨fz9, sz9, ez9, h⟩ := h
  replace h := bd_o h; obtain ⟨r8, er8, h⟩ := h
  refine vv_callF (xx := ⟨"java/util/List", "add", "(Ljava/lang/Object;)Z"⟩) okf_J2_add q1147 (m_KJ2_add hG hH er8 d) rfl (by omega) ⟨_, _, _, _, _, ez9, by rw [hG.1]; rfl⟩ q361 (fun U hK => hH.1.2.2.1 U hK _ (List.mem_of_getElem? (i := 0) rfl)) ⟨by decide, by decide, by decide +kernel⟩ rfl rfl (Nat.le_of_ble_eq_true rfl) dX8_init_31 ?_
  refine vv_pop dX8_init_36 rfl ?_
  cases h
  exact vv_vret rfl dX8_init_37
theorem m_KX8_init {l : Launch} {G : vv_G} {ad : Nat → Nat} (hG : vv_gok G) (hH : vv_hy l G ad) {x0 : Nat} {x1 : Nat} {σ : vv_S} {r : vv_S} (h : KX8_init ad x0 x1 σ = some r) (d : Nat) : vv_Met l G MX8_init (d + 7) [.ref x0, .ref x1] σ (.inl none, r) := vv_head (by decide +kernel) rfl (Nat.le_of_ble_eq_true rfl) rfl (v_KX8_init_0 hG hH h)
/-! ('X5', 'sign') -/
def KX5_sign (ad : Nat → Nat) (x0 : Nat) (σ : vv_S) : Option (Int32 × vv_S) := (gR σ x0 4 9).bind fun v1 => (gR σ v1 0 3).bind fun v2 => (gI σ x0 4 6).bind fun v3 => (aI σ .byte v2 v3).bind fun v4 => (isO σ x0 4).bind fun _ => (KX5_next ad x0 σ).bind fun r5 => (crI (Int32.toUInt32 v4 % 65536).toInt32).bind fun v7 => some (v7, r5)
theorem v_KX5_sign_0 {l : Launch} {G : vv_G} {d : Nat} {ad : Nat → Nat} (hG : vv_gok G) (hH : vv_hy l G ad) {x0 : Nat} {σ : vv_S} {r : Int32 × vv_S} (h : KX5_sign ad x0 σ = some r) : vv_V l G MX5_sign (d + 5) 0 [(0, .ref x0)] [] σ (.inl (some (.int r.1)), r.2) := by
  unfold KX5_sign at h
  refine vv_aload_n dX5_sign_0 rfl 0 rfl ?_
  replace h := gR_o h; obtain ⟨v1, fv1, sv1, ev1, lv1, h⟩ := h
  refine vv_get (fl_X5_3 hG) ev1 lv1 dX5_sign_1 ?_
  replace h := gR_o h; obtain ⟨v2, fv2, sv2, ev2, lv2, h⟩ := h
  refine vv_getM (fl_X5_56 hH) ev2 lv2 dX5_sign_4 ?_
  refine vv_aload_n dX5_sign_7 rfl 0 rfl ?_
  replace h := gI_o h; obtain ⟨v3, fv3, sv3, ev3, lv3, h⟩ := h
  refine vv_get (fl_X5_68 hG) ev3 lv3 dX5_sign_8 ?_
  replace h := aI_o h; obtain ⟨v4, fv4, nv4, qv4, ev4, iv4, wv4, h⟩ := h
  refine vv_bald ev4 iv4 dX5_sign_11 ?_
  rw [wv4]
  refine vv_i2c dX5_sign_12 ?_
  refine vv_istore_n (lv' := [(0, .ref x0), (1, .int (Int32.toUInt32 v4 % 65536).toInt32)]) dX5_sign_13 rfl (by decide) [1, 0] rfl ?_
  refine vv_aload_n dX5_sign_14 rfl 0 rfl ?_
  replace h := isO_o h; obtain ⟨fz6, sz6, ez6, h⟩ := h
  replace h := bd_o h; obtain ⟨r5, er5, h⟩ := h
  refine vv_callV ok_X5_next q822 (m_KX5_next hG hH er5 d) rfl (by omega) ⟨_, _, _, _, _, ez6, by rw [hG.1]; rfl⟩ rfl rfl (Nat.le_of_ble_eq_true rfl) dX5_sign_15 ?_
  refine vv_iload_n dX5_sign_18 rfl 1 rfl ?_
  replace h := cr_o h; obtain ⟨zv7, h⟩ := h
  cases h
  exact vv_zret rfl zv7 dX5_sign_19
theorem m_KX5_sign {l : Launch} {G : vv_G} {ad : Nat → Nat} (hG : vv_gok G) (hH : vv_hy l G ad) {x0 : Nat} {σ : vv_S} {r : Int32 × vv_S} (h : KX5_sign ad x0 σ = some r) (d : Nat) : vv_Met l G MX5_sign (d + 5) [.ref x0] σ (.inl (some (.int r.1)), r.2) := vv_head (by decide +kernel) rfl (Nat.le_of_ble_eq_true rfl) rfl (v_KX5_sign_0 hG hH h)
/-! ('X8', 'add') -/
def KX8_add (ad : Nat → Nat) (x0 : Nat) (x1 : Int32) (x2 : Nat) (σ : vv_S) : Option vv_S := (gR σ x0 7 1).bind fun v1 => (isO σ v1 13).bind fun _ => (KJ19_append v1 x1 σ).bind fun r2 => (gR r2.2 x0 7 0).bind fun v4 => (isO r2.2 v4 11).bind fun _ => (KJ2_add ad v4 x2 r2.2).bind fun r5 => some r5.2
theorem v_KX8_add_0 {l : Launch} {G : vv_G} {d : Nat} {ad : Nat → Nat} (hG : vv_gok G) (hH : vv_hy l G ad) {x0 : Nat} {x1 : Int32} {x2 : Nat} {σ : vv_S} {r : vv_S} (h : KX8_add ad x0 x1 x2 σ = some r) : vv_V l G MX8_add (d + 7) 0 [(0, .ref x0), (1, .int x1), (2, .ref x2)] [] σ (.inl none, r) := by
  unfold KX8_add at h
  refine vv_aload_n dX8_add_0 rfl 0 rfl ?_
  replace h := gR_o h; obtain ⟨v1, fv1, sv1, ev1, lv1, h⟩ := h
  refine vv_get (fl_X8_19 hG) ev1 lv1 dX8_add_1 ?_
  refine vv_iload_n dX8_add_4 rfl 1 rfl ?_
  replace h := isO_o h; obtain ⟨fz3, sz3, ez3, h⟩ := h
  replace h := bd_o h; obtain ⟨r2, er2, h⟩ := h
  refine vv_callV ok_J19_append q1163 (m_KJ19_append hG hH er2 d) rfl (by omega) ⟨_, _, _, _, _, ez3, by rw [hG.1]; rfl⟩ rfl rfl (Nat.le_of_ble_eq_true rfl) dX8_add_5 ?_
  refine vv_pop dX8_add_8 rfl ?_
  refine vv_aload_n dX8_add_9 rfl 0 rfl ?_
  replace h := gR_o h; obtain ⟨v4, fv4, sv4, ev4, lv4, h⟩ := h
  refine vv_get (fl_X8_10 hG) ev4 lv4 dX8_add_10 ?_
  refine vv_aload_n dX8_add_13 rfl 2 rfl ?_
  replace h := isO_o h; obtain ⟨fz6, sz6, ez6, h⟩ := h
  replace h := bd_o h; obtain ⟨r5, er5, h⟩ := h
  refine vv_callF (xx := ⟨"java/util/List", "add", "(Ljava/lang/Object;)Z"⟩) okf_J2_add q1147 (m_KJ2_add hG hH er5 d) rfl (by omega) ⟨_, _, _, _, _, ez6, by rw [hG.1]; rfl⟩ q361 (fun U hK => hH.1.2.2.1 U hK _ (List.mem_of_getElem? (i := 0) rfl)) ⟨by decide, by decide, by decide +kernel⟩ rfl rfl (Nat.le_of_ble_eq_true rfl) dX8_add_14 ?_
  refine vv_pop dX8_add_19 rfl ?_
  cases h
  exact vv_vret rfl dX8_add_20
theorem m_KX8_add {l : Launch} {G : vv_G} {ad : Nat → Nat} (hG : vv_gok G) (hH : vv_hy l G ad) {x0 : Nat} {x1 : Int32} {x2 : Nat} {σ : vv_S} {r : vv_S} (h : KX8_add ad x0 x1 x2 σ = some r) (d : Nat) : vv_Met l G MX8_add (d + 7) [.ref x0, .int x1, .ref x2] σ (.inl none, r) := vv_head (by decide +kernel) rfl (Nat.le_of_ble_eq_true rfl) rfl (v_KX8_add_0 hG hH h)
/-! ('X8', 'plain') -/
def KX8_plain_30 (s0 : Nat) (σ : vv_S) : Option Nat := some s0
theorem v_KX8_plain_30 {l : Launch} {G : vv_G} {d : Nat} {ad : Nat → Nat} (hG : vv_gok G) (hH : vv_hy l G ad) {s0 : Nat} {σ : vv_S} {r : Nat} (h : KX8_plain_30 s0 σ = some r) : vv_V l G MX8_plain (d + 3) 30 [] [.ref s0] σ (.inl (some (.ref r)), σ) := by
  unfold KX8_plain_30 at h
  cases h
  exact vv_aret rfl (by first | exact Or.inl ⟨_, rfl⟩ | exact Or.inr ⟨_, rfl⟩) (Or.inr ⟨_, rfl⟩) dX8_plain_30
def KX8_plain (x0 : Nat) (σ : vv_S) : Option Nat := (gR σ x0 7 0).bind fun v1 => (isO σ v1 11).bind fun _ => (KJ2_size v1 σ).bind fun r2 => if r2 = (nI 1) then ((gR σ x0 7 0).bind fun v5 => (isO σ v5 11).bind fun _ => (KJ2_get v5 (nI 0) σ).bind fun r6 => (isF σ r6).bind fun _ => KX8_plain_30 r6 σ) else (KX8_plain_30 x0 σ)
theorem v_KX8_plain_0 {l : Launch} {G : vv_G} {d : Nat} {ad : Nat → Nat} (hG : vv_gok G) (hH : vv_hy l G ad) {x0 : Nat} {σ : vv_S} {r : Nat} (h : KX8_plain x0 σ = some r) : vv_V l G MX8_plain (d + 3) 0 [(0, .ref x0)] [] σ (.inl (some (.ref r)), σ) := by
  unfold KX8_plain at h
  refine vv_aload_n dX8_plain_0 rfl 0 rfl ?_
  replace h := gR_o h; obtain ⟨v1, fv1, sv1, ev1, lv1, h⟩ := h
  refine vv_get (fl_X8_10 hG) ev1 lv1 dX8_plain_1 ?_
  replace h := isO_o h; obtain ⟨fz3, sz3, ez3, h⟩ := h
  replace h := bd_o h; obtain ⟨r2, er2, h⟩ := h
  refine vv_callF (xx := ⟨"java/util/List", "size", "()I"⟩) okf_J2_size q559 (m_KJ2_size hG hH er2 d) rfl (by omega) ⟨_, _, _, _, _, ez3, by rw [hG.1]; rfl⟩ q429 (fun U hK => hH.1.2.2.1 U hK _ (List.mem_of_getElem? (i := 1) rfl)) ⟨by decide, by decide, by decide +kernel⟩ rfl rfl (Nat.le_of_ble_eq_true rfl) dX8_plain_4 ?_
  refine vv_iconst (v := (nI 1)) dX8_plain_9 (by decide) ?_
  refine vv_icmp_ne (tgt := 29) dX8_plain_10 (by decide) (fun c4 => ?_) (fun c4 => ?_)
  · rw [if_neg c4] at h
    refine vv_aload_n dX8_plain_29 rfl 0 rfl ?_
    refine vv_sub (lv' := []) [] rfl ?_
    exact v_KX8_plain_30 hG hH h
  · rw [if_pos c4] at h
    refine vv_aload_n dX8_plain_13 rfl 0 rfl ?_
    replace h := gR_o h; obtain ⟨v5, fv5, sv5, ev5, lv5, h⟩ := h
    refine vv_get (fl_X8_10 hG) ev5 lv5 dX8_plain_14 ?_
    refine vv_iconst (v := (nI 0)) dX8_plain_17 (by decide) ?_
    replace h := isO_o h; obtain ⟨fz7, sz7, ez7, h⟩ := h
    replace h := bd_o h; obtain ⟨r6, er6, h⟩ := h
    refine vv_callF (xx := ⟨"java/util/List", "get", "(I)Ljava/lang/Object;"⟩) okf_J2_get q534 (m_KJ2_get hG hH er6 d) rfl (by omega) ⟨_, _, _, _, _, ez7, by rw [hG.1]; rfl⟩ q481 (fun U hK => hH.1.2.2.1 U hK _ (List.mem_of_getElem? (i := 3) rfl)) ⟨by decide, by decide, by decide +kernel⟩ rfl rfl (Nat.le_of_ble_eq_true rfl) dX8_plain_18 ?_
    replace h := isF_o h; obtain ⟨fz8, cz8, sz8, ez8, kz8, h⟩ := h
    obtain ⟨mz8, iz8, jz8⟩ := isF_cast hH.1 kz8
    refine vv_cast ez8 (iz8 _ _) q535 (Or.inr jz8) dX8_plain_23 ?_
    refine vv_goto (tgt := 30) dX8_plain_26 (by decide) ?_
    refine vv_sub (lv' := []) [] rfl ?_
    exact v_KX8_plain_30 hG hH h
theorem m_KX8_plain {l : Launch} {G : vv_G} {ad : Nat → Nat} (hG : vv_gok G) (hH : vv_hy l G ad) {x0 : Nat} {σ : vv_S} {r : Nat} (h : KX8_plain x0 σ = some r) (d : Nat) : vv_Met l G MX8_plain (d + 3) [.ref x0] σ (.inl (some (.ref r)), σ) := vv_head (by decide +kernel) rfl (Nat.le_of_ble_eq_true rfl) rfl (v_KX8_plain_0 hG hH h)
/-! ('X5', 'product') -/
def KX5_product_31 (ex : Nat → Int32 → vv_S → Option (hX (Nat × vv_S))) (ad : Nat → Nat) (k13 : Nat → Int32 → Nat → vv_S → Option (hX (Nat × vv_S))) (x0 : Nat) (x1 : Int32) (x2 : Nat) (σ : vv_S) : Option (hX (Nat × vv_S)) := (isO σ x0 4).bind fun _ => (KX5_sign ad x0 σ).bind fun r1 => (isO r1.2 x0 4).bind fun _ => (KX5_part ex ad x0 x1 r1.2).bind fun r3 => xb r3 fun r5 => (isO r5.2 x2 7).bind fun _ => (KX8_add ad x2 r1.1 r5.1 r5.2).bind fun r6 => k13 x0 x1 x2 r6
theorem v_KX5_product_31 {l : Launch} {G : vv_G} {d : Nat} {ad : Nat → Nat} {ex : Nat → Int32 → vv_S → Option (hX (Nat × vv_S))} (hG : vv_gok G) (hH : vv_hy l G ad) (hex : ∀ {a : Nat} {n : Int32} {σ : vv_S} {r : hX (Nat × vv_S)}, ex a n σ = some r → vv_Met l G MX5_expression d [.ref a, .int n] σ (xR r)) {k13 : Nat → Int32 → Nat → vv_S → Option (hX (Nat × vv_S))} (hk13 : ∀ {x0 : Nat} {x1 : Int32} {x2 : Nat} {σ : vv_S} {r : hX (Nat × vv_S)}, k13 x0 x1 x2 σ = some r → vv_V l G MX5_product (d + 9) 13 [(0, .ref x0), (1, .int x1), (2, .ref x2)] [] σ (xR r)) {x0 : Nat} {x1 : Int32} {x2 : Nat} {σ : vv_S} {r : hX (Nat × vv_S)} (h : KX5_product_31 ex ad k13 x0 x1 x2 σ = some r) : vv_V l G MX5_product (d + 9) 31 [(0, .ref x0), (1, .int x1), (2, .ref x2)] [] σ (xR r) := by
  unfold KX5_product_31 at h
  refine vv_aload_n dX5_product_31 rfl 0 rfl ?_
  replace h := isO_o h; obtain ⟨fz2, sz2, ez2, h⟩ := h
  replace h := bd_o h; obtain ⟨r1, er1, h⟩ := h
  refine vv_callV ok_X5_sign q1155 (m_KX5_sign hG hH er1 d) rfl (by omega) ⟨_, _, _, _, _, ez2, by rw [hG.1]; rfl⟩ rfl rfl (Nat.le_of_ble_eq_true rfl) dX5_product_32 ?_
  refine vv_istore_n (lv' := [(0, .ref x0), (1, .int x1), (2, .ref x2), (3, .int r1.1)]) dX5_product_35 rfl (by decide) [1, 2, 3, 0] rfl ?_
  refine vv_aload_n dX5_product_36 rfl 2 rfl ?_
  refine vv_iload_n dX5_product_37 rfl 3 rfl ?_
  refine vv_aload_n dX5_product_38 rfl 0 rfl ?_
  refine vv_iload_n dX5_product_39 rfl 1 rfl ?_
  replace h := isO_o h; obtain ⟨fz4, sz4, ez4, h⟩ := h
  replace h := bd_o h; obtain ⟨r3, er3, h⟩ := h
  rcases r3 with r5 | r5x
  · refine vv_callV ok_X5_part q1084 (m_KX5_part hG hH hex er3 d) rfl (by omega) ⟨_, _, _, _, _, ez4, by rw [hG.1]; rfl⟩ rfl rfl (Nat.le_of_ble_eq_true rfl) dX5_product_40 ?_
    replace h := xb_l h
    replace h := isO_o h; obtain ⟨fz7, sz7, ez7, h⟩ := h
    replace h := bd_o h; obtain ⟨r6, er6, h⟩ := h
    refine vv_callV ok_X8_add q1159 (m_KX8_add hG hH er6 d) rfl (by omega) ⟨_, _, _, _, _, ez7, by rw [hG.1]; rfl⟩ rfl rfl (Nat.le_of_ble_eq_true rfl) dX5_product_43 ?_
    refine vv_goto (tgt := 13) dX5_product_46 (by decide) ?_
    refine vv_sub (lv' := [(0, .ref x0), (1, .int x1), (2, .ref x2)]) [0, 1, 2] rfl ?_
    exact hk13 h
  · cases h
    exact vv_callVX ok_X5_part q1084 (m_KX5_part hG hH hex er3 d) rfl (by omega) ⟨_, _, _, _, _, ez4, by rw [hG.1]; rfl⟩ rfl rfl (Nat.le_of_ble_eq_true rfl) dX5_product_40 (vv_Tout (by intro x hx; cases hx))
def BKX5_product_13 (ex : Nat → Int32 → vv_S → Option (hX (Nat × vv_S))) (ad : Nat → Nat) (k13 : Nat → Int32 → Nat → vv_S → Option (hX (Nat × vv_S))) (x0 : Nat) (x1 : Int32) (x2 : Nat) (σ : vv_S) : Option (hX (Nat × vv_S)) := (isO σ x0 4).bind fun _ => (KX5_isSign x0 (nI 42) σ).bind fun r1 => if r1 = 0 then ((isO σ x0 4).bind fun _ => (KX5_isSign x0 (nI 47) σ).bind fun r4 => if r4 = 0 then ((isO σ x2 7).bind fun _ => (KX8_plain x2 σ).bind fun r7 => some (.inl (r7, σ))) else (KX5_product_31 ex ad k13 x0 x1 x2 σ)) else (KX5_product_31 ex ad k13 x0 x1 x2 σ)
def KX5_product_13 (ex : Nat → Int32 → vv_S → Option (hX (Nat × vv_S))) (ad : Nat → Nat) : Nat → Nat → Int32 → Nat → vv_S → Option (hX (Nat × vv_S))
  | 0, _, _, _, _ => none
  | n + 1, x0, x1, x2, σ => BKX5_product_13 ex ad (KX5_product_13 ex ad n) x0 x1 x2 σ
theorem vb_KX5_product_13 {l : Launch} {G : vv_G} {d : Nat} {ad : Nat → Nat} {ex : Nat → Int32 → vv_S → Option (hX (Nat × vv_S))} (hG : vv_gok G) (hH : vv_hy l G ad) (hex : ∀ {a : Nat} {n : Int32} {σ : vv_S} {r : hX (Nat × vv_S)}, ex a n σ = some r → vv_Met l G MX5_expression d [.ref a, .int n] σ (xR r)) {k13 : Nat → Int32 → Nat → vv_S → Option (hX (Nat × vv_S))} (hk13 : ∀ {x0 : Nat} {x1 : Int32} {x2 : Nat} {σ : vv_S} {r : hX (Nat × vv_S)}, k13 x0 x1 x2 σ = some r → vv_V l G MX5_product (d + 9) 13 [(0, .ref x0), (1, .int x1), (2, .ref x2)] [] σ (xR r)) {x0 : Nat} {x1 : Int32} {x2 : Nat} {σ : vv_S} {r : hX (Nat × vv_S)} (h : BKX5_product_13 ex ad k13 x0 x1 x2 σ = some r) : vv_V l G MX5_product (d + 9) 13 [(0, .ref x0), (1, .int x1), (2, .ref x2)] [] σ (xR r) := by
  unfold BKX5_product_13 at h
  refine vv_aload_n dX5_product_13 rfl 0 rfl ?_
  refine vv_bipush (v := (nI 42)) dX5_product_14 (by decide) ?_
  replace h := isO_o h; obtain ⟨fz2, sz2, ez2, h⟩ := h
  replace h := bd_o h; obtain ⟨r1, er1, h⟩ := h
  refine vv_callV ok_X5_isSign q1061 (m_KX5_isSign hG hH er1 d) rfl (by omega) ⟨_, _, _, _, _, ez2, by rw [hG.1]; rfl⟩ rfl rfl (Nat.le_of_ble_eq_true rfl) dX5_product_16 ?_
  refine vv_if_ne (tgt := 31) dX5_product_19 (by decide) (fun c3 => ?_) (fun c3 => ?_)
  · rw [if_neg c3] at h
    exact v_KX5_product_31 hG hH hex hk13 h
  · rw [if_pos c3] at h
    refine vv_aload_n dX5_product_22 rfl 0 rfl ?_
    refine vv_bipush (v := (nI 47)) dX5_product_23 (by decide) ?_
    replace h := isO_o h; obtain ⟨fz5, sz5, ez5, h⟩ := h
    replace h := bd_o h; obtain ⟨r4, er4, h⟩ := h
    refine vv_callV ok_X5_isSign q1061 (m_KX5_isSign hG hH er4 d) rfl (by omega) ⟨_, _, _, _, _, ez5, by rw [hG.1]; rfl⟩ rfl rfl (Nat.le_of_ble_eq_true rfl) dX5_product_25 ?_
    refine vv_if_eq (tgt := 49) dX5_product_28 (by decide) (fun c6 => ?_) (fun c6 => ?_)
    · rw [if_pos c6] at h
      refine vv_aload_n dX5_product_49 rfl 2 rfl ?_
      replace h := isO_o h; obtain ⟨fz8, sz8, ez8, h⟩ := h
      replace h := bd_o h; obtain ⟨r7, er7, h⟩ := h
      refine vv_callV ok_X8_plain q1223 (m_KX8_plain hG hH er7 d) rfl (by omega) ⟨_, _, _, _, _, ez8, by rw [hG.1]; rfl⟩ rfl rfl (Nat.le_of_ble_eq_true rfl) dX5_product_50 ?_
      cases h
      exact vv_aret rfl (by first | exact Or.inl ⟨_, rfl⟩ | exact Or.inr ⟨_, rfl⟩) (Or.inr ⟨_, rfl⟩) dX5_product_53
    · rw [if_neg c6] at h
      exact v_KX5_product_31 hG hH hex hk13 h
theorem v_KX5_product_13 {l : Launch} {G : vv_G} {d : Nat} {ad : Nat → Nat} {ex : Nat → Int32 → vv_S → Option (hX (Nat × vv_S))} (hG : vv_gok G) (hH : vv_hy l G ad) (hex : ∀ {a : Nat} {n : Int32} {σ : vv_S} {r : hX (Nat × vv_S)}, ex a n σ = some r → vv_Met l G MX5_expression d [.ref a, .int n] σ (xR r)) : ∀ (n : Nat) {x0 : Nat} {x1 : Int32} {x2 : Nat} {σ : vv_S} {r : hX (Nat × vv_S)}, KX5_product_13 ex ad n x0 x1 x2 σ = some r → vv_V l G MX5_product (d + 9) 13 [(0, .ref x0), (1, .int x1), (2, .ref x2)] [] σ (xR r) := by
  intro n
  induction n with
  | zero => intro _ _ _ _ _ h; cases h
  | succ n ih => intro _ _ _ _ _ h; exact vb_KX5_product_13 hG hH hex ih h
def KX5_product (ex : Nat → Int32 → vv_S → Option (hX (Nat × vv_S))) (ad : Nat → Nat) (x0 : Nat) (x1 : Int32) (σ : vv_S) : Option (hX (Nat × vv_S)) := (some (nwO σ 7 [.null, .null] 2)).bind fun σ1 => (isO σ1 x0 4).bind fun _ => (KX5_part ex ad x0 x1 σ1).bind fun r2 => xb r2 fun r4 => (KX8_init ad σ.2.1 r4.1 r4.2).bind fun r5 => KX5_product_13 ex ad NN x0 x1 σ.2.1 r5
theorem v_KX5_product_0 {l : Launch} {G : vv_G} {d : Nat} {ad : Nat → Nat} {ex : Nat → Int32 → vv_S → Option (hX (Nat × vv_S))} (hG : vv_gok G) (hH : vv_hy l G ad) (hex : ∀ {a : Nat} {n : Int32} {σ : vv_S} {r : hX (Nat × vv_S)}, ex a n σ = some r → vv_Met l G MX5_expression d [.ref a, .int n] σ (xR r)) {x0 : Nat} {x1 : Int32} {σ : vv_S} {r : hX (Nat × vv_S)} (h : KX5_product ex ad x0 x1 σ = some r) : vv_V l G MX5_product (d + 9) 0 [(0, .ref x0), (1, .int x1)] [] σ (xR r) := by
  unfold KX5_product at h
  obtain ⟨σ1, uσ1, h⟩ := bd_s h
  refine vv_new (nw_X5_149 hG) dX5_product_0 ?_
  refine vv_sg uσ1 ?_
  refine vv_dup dX5_product_3 rfl ?_
  refine vv_aload_n dX5_product_4 rfl 0 rfl ?_
  refine vv_iload_n dX5_product_5 rfl 1 rfl ?_
  replace h := isO_o h; obtain ⟨fz3, sz3, ez3, h⟩ := h
  replace h := bd_o h; obtain ⟨r2, er2, h⟩ := h
  rcases r2 with r4 | r4x
  · refine vv_callV ok_X5_part q1084 (m_KX5_part hG hH hex er2 d) rfl (by omega) ⟨_, _, _, _, _, ez3, by rw [hG.1]; rfl⟩ rfl rfl (Nat.le_of_ble_eq_true rfl) dX5_product_6 ?_
    replace h := xb_l h
    replace h := bd_o h; obtain ⟨r5, er5, h⟩ := h
    refine vv_callI ok_X8_init q1112 (m_KX8_init hG hH er5 d) rfl (by omega) rfl rfl (Nat.le_of_ble_eq_true rfl) dX5_product_9 ?_
    refine vv_astore_n (lv' := [(0, .ref x0), (1, .int x1), (2, .ref σ.2.1)]) dX5_product_12 rfl (by decide) [1, 2, 0] rfl ?_
    exact v_KX5_product_13 hG hH hex NN h
  · cases h
    exact vv_callVX ok_X5_part q1084 (m_KX5_part hG hH hex er2 d) rfl (by omega) ⟨_, _, _, _, _, ez3, by rw [hG.1]; rfl⟩ rfl rfl (Nat.le_of_ble_eq_true rfl) dX5_product_6 (vv_Tout (by intro x hx; cases hx))
theorem m_KX5_product {l : Launch} {G : vv_G} {d : Nat} {ad : Nat → Nat} {ex : Nat → Int32 → vv_S → Option (hX (Nat × vv_S))} (hG : vv_gok G) (hH : vv_hy l G ad) (hex : ∀ {a : Nat} {n : Int32} {σ : vv_S} {r : hX (Nat × vv_S)}, ex a n σ = some r → vv_Met l G MX5_expression d [.ref a, .int n] σ (xR r)) {x0 : Nat} {x1 : Int32} {σ : vv_S} {r : hX (Nat × vv_S)} (h : KX5_product ex ad x0 x1 σ = some r) (d9 : Nat) (e9 : d9 = d := by rfl) : vv_Met l G MX5_product (d9 + 9) [.ref x0, .int x1] σ (xR r) := by
  subst e9
  exact vv_head (by decide +kernel) rfl (Nat.le_of_ble_eq_true rfl) rfl (v_KX5_product_0 hG hH hex h)
/-! ('X5', 'sum') -/
def KX5_sum_31 (ex : Nat → Int32 → vv_S → Option (hX (Nat × vv_S))) (ad : Nat → Nat) (k13 : Nat → Int32 → Nat → vv_S → Option (hX (Nat × vv_S))) (x0 : Nat) (x1 : Int32) (x2 : Nat) (σ : vv_S) : Option (hX (Nat × vv_S)) := (isO σ x0 4).bind fun _ => (KX5_sign ad x0 σ).bind fun r1 => (isO r1.2 x0 4).bind fun _ => (KX5_product ex ad x0 x1 r1.2).bind fun r3 => xb r3 fun r5 => (isO r5.2 x2 7).bind fun _ => (KX8_add ad x2 r1.1 r5.1 r5.2).bind fun r6 => k13 x0 x1 x2 r6
theorem v_KX5_sum_31 {l : Launch} {G : vv_G} {d : Nat} {ad : Nat → Nat} {ex : Nat → Int32 → vv_S → Option (hX (Nat × vv_S))} (hG : vv_gok G) (hH : vv_hy l G ad) (hex : ∀ {a : Nat} {n : Int32} {σ : vv_S} {r : hX (Nat × vv_S)}, ex a n σ = some r → vv_Met l G MX5_expression d [.ref a, .int n] σ (xR r)) {k13 : Nat → Int32 → Nat → vv_S → Option (hX (Nat × vv_S))} (hk13 : ∀ {x0 : Nat} {x1 : Int32} {x2 : Nat} {σ : vv_S} {r : hX (Nat × vv_S)}, k13 x0 x1 x2 σ = some r → vv_V l G MX5_sum (d + 10) 13 [(0, .ref x0), (1, .int x1), (2, .ref x2)] [] σ (xR r)) {x0 : Nat} {x1 : Int32} {x2 : Nat} {σ : vv_S} {r : hX (Nat × vv_S)} (h : KX5_sum_31 ex ad k13 x0 x1 x2 σ = some r) : vv_V l G MX5_sum (d + 10) 31 [(0, .ref x0), (1, .int x1), (2, .ref x2)] [] σ (xR r) := by
  unfold KX5_sum_31 at h
  refine vv_aload_n dX5_sum_31 rfl 0 rfl ?_
  replace h := isO_o h; obtain ⟨fz2, sz2, ez2, h⟩ := h
  replace h := bd_o h; obtain ⟨r1, er1, h⟩ := h
  refine vv_callV ok_X5_sign q1155 (m_KX5_sign hG hH er1 d) rfl (by omega) ⟨_, _, _, _, _, ez2, by rw [hG.1]; rfl⟩ rfl rfl (Nat.le_of_ble_eq_true rfl) dX5_sum_32 ?_
  refine vv_istore_n (lv' := [(0, .ref x0), (1, .int x1), (2, .ref x2), (3, .int r1.1)]) dX5_sum_35 rfl (by decide) [1, 2, 3, 0] rfl ?_
  refine vv_aload_n dX5_sum_36 rfl 2 rfl ?_
  refine vv_iload_n dX5_sum_37 rfl 3 rfl ?_
  refine vv_aload_n dX5_sum_38 rfl 0 rfl ?_
  refine vv_iload_n dX5_sum_39 rfl 1 rfl ?_
  replace h := isO_o h; obtain ⟨fz4, sz4, ez4, h⟩ := h
  replace h := bd_o h; obtain ⟨r3, er3, h⟩ := h
  rcases r3 with r5 | r5x
  · refine vv_callV ok_X5_product q1080 (m_KX5_product hG hH hex er3 d) rfl (by omega) ⟨_, _, _, _, _, ez4, by rw [hG.1]; rfl⟩ rfl rfl (Nat.le_of_ble_eq_true rfl) dX5_sum_40 ?_
    replace h := xb_l h
    replace h := isO_o h; obtain ⟨fz7, sz7, ez7, h⟩ := h
    replace h := bd_o h; obtain ⟨r6, er6, h⟩ := h
    refine vv_callV ok_X8_add q1159 (m_KX8_add hG hH er6 d) rfl (by omega) ⟨_, _, _, _, _, ez7, by rw [hG.1]; rfl⟩ rfl rfl (Nat.le_of_ble_eq_true rfl) dX5_sum_43 ?_
    refine vv_goto (tgt := 13) dX5_sum_46 (by decide) ?_
    refine vv_sub (lv' := [(0, .ref x0), (1, .int x1), (2, .ref x2)]) [0, 1, 2] rfl ?_
    exact hk13 h
  · cases h
    exact vv_callVX ok_X5_product q1080 (m_KX5_product hG hH hex er3 d) rfl (by omega) ⟨_, _, _, _, _, ez4, by rw [hG.1]; rfl⟩ rfl rfl (Nat.le_of_ble_eq_true rfl) dX5_sum_40 (vv_Tout (by intro x hx; cases hx))
def BKX5_sum_13 (ex : Nat → Int32 → vv_S → Option (hX (Nat × vv_S))) (ad : Nat → Nat) (k13 : Nat → Int32 → Nat → vv_S → Option (hX (Nat × vv_S))) (x0 : Nat) (x1 : Int32) (x2 : Nat) (σ : vv_S) : Option (hX (Nat × vv_S)) := (isO σ x0 4).bind fun _ => (KX5_isSign x0 (nI 43) σ).bind fun r1 => if r1 = 0 then ((isO σ x0 4).bind fun _ => (KX5_isSign x0 (nI 45) σ).bind fun r4 => if r4 = 0 then ((isO σ x2 7).bind fun _ => (KX8_plain x2 σ).bind fun r7 => some (.inl (r7, σ))) else (KX5_sum_31 ex ad k13 x0 x1 x2 σ)) else (KX5_sum_31 ex ad k13 x0 x1 x2 σ)
def KX5_sum_13 (ex : Nat → Int32 → vv_S → Option (hX (Nat × vv_S))) (ad : Nat → Nat) : Nat → Nat → Int32 → Nat → vv_S → Option (hX (Nat × vv_S))
  | 0, _, _, _, _ => none
  | n + 1, x0, x1, x2, σ => BKX5_sum_13 ex ad (KX5_sum_13 ex ad n) x0 x1 x2 σ
theorem vb_KX5_sum_13 {l : Launch} {G : vv_G} {d : Nat} {ad : Nat → Nat} {ex : Nat → Int32 → vv_S → Option (hX (Nat × vv_S))} (hG : vv_gok G) (hH : vv_hy l G ad) (hex : ∀ {a : Nat} {n : Int32} {σ : vv_S} {r : hX (Nat × vv_S)}, ex a n σ = some r → vv_Met l G MX5_expression d [.ref a, .int n] σ (xR r)) {k13 : Nat → Int32 → Nat → vv_S → Option (hX (Nat × vv_S))} (hk13 : ∀ {x0 : Nat} {x1 : Int32} {x2 : Nat} {σ : vv_S} {r : hX (Nat × vv_S)}, k13 x0 x1 x2 σ = some r → vv_V l G MX5_sum (d + 10) 13 [(0, .ref x0), (1, .int x1), (2, .ref x2)] [] σ (xR r)) {x0 : Nat} {x1 : Int32} {x2 : Nat} {σ : vv_S} {r : hX (Nat × vv_S)} (h : BKX5_sum_13 ex ad k13 x0 x1 x2 σ = some r) : vv_V l G MX5_sum (d + 10) 13 [(0, .ref x0), (1, .int x1), (2, .ref x2)] [] σ (xR r) := by
  unfold BKX5_sum_13 at h
  refine vv_aload_n dX5_sum_13 rfl 0 rfl ?_
  refine vv_bipush (v := (nI 43)) dX5_sum_14 (by decide) ?_
  replace h := isO_o h; obtain ⟨fz2, sz2, ez2, h⟩ := h
  replace h := bd_o h; obtain ⟨r1, er1, h⟩ := h
  refine vv_callV ok_X5_isSign q1061 (m_KX5_isSign hG hH er1 d) rfl (by omega) ⟨_, _, _, _, _, ez2, by rw [hG.1]; rfl⟩ rfl rfl (Nat.le_of_ble_eq_true rfl) dX5_sum_16 ?_
  refine vv_if_ne (tgt := 31) dX5_sum_19 (by decide) (fun c3 => ?_) (fun c3 => ?_)
  · rw [if_neg c3] at h
    exact v_KX5_sum_31 hG hH hex hk13 h
  · rw [if_pos c3] at h
    refine vv_aload_n dX5_sum_22 rfl 0 rfl ?_
    refine vv_bipush (v := (nI 45)) dX5_sum_23 (by decide) ?_
    replace h := isO_o h; obtain ⟨fz5, sz5, ez5, h⟩ := h
    replace h := bd_o h; obtain ⟨r4, er4, h⟩ := h
    refine vv_callV ok_X5_isSign q1061 (m_KX5_isSign hG hH er4 d) rfl (by omega) ⟨_, _, _, _, _, ez5, by rw [hG.1]; rfl⟩ rfl rfl (Nat.le_of_ble_eq_true rfl) dX5_sum_25 ?_
    refine vv_if_eq (tgt := 49) dX5_sum_28 (by decide) (fun c6 => ?_) (fun c6 => ?_)
    · rw [if_pos c6] at h
      refine vv_aload_n dX5_sum_49 rfl 2 rfl ?_
      replace h := isO_o h; obtain ⟨fz8, sz8, ez8, h⟩ := h
      replace h := bd_o h; obtain ⟨r7, er7, h⟩ := h
      refine vv_callV ok_X8_plain q1223 (m_KX8_plain hG hH er7 d) rfl (by omega) ⟨_, _, _, _, _, ez8, by rw [hG.1]; rfl⟩ rfl rfl (Nat.le_of_ble_eq_true rfl) dX5_sum_50 ?_
      cases h
      exact vv_aret rfl (by first | exact Or.inl ⟨_, rfl⟩ | exact Or.inr ⟨_, rfl⟩) (Or.inr ⟨_, rfl⟩) dX5_sum_53
    · rw [if_neg c6] at h
      exact v_KX5_sum_31 hG hH hex hk13 h
theorem v_KX5_sum_13 {l : Launch} {G : vv_G} {d : Nat} {ad : Nat → Nat} {ex : Nat → Int32 → vv_S → Option (hX (Nat × vv_S))} (hG : vv_gok G) (hH : vv_hy l G ad) (hex : ∀ {a : Nat} {n : Int32} {σ : vv_S} {r : hX (Nat × vv_S)}, ex a n σ = some r → vv_Met l G MX5_expression d [.ref a, .int n] σ (xR r)) : ∀ (n : Nat) {x0 : Nat} {x1 : Int32} {x2 : Nat} {σ : vv_S} {r : hX (Nat × vv_S)}, KX5_sum_13 ex ad n x0 x1 x2 σ = some r → vv_V l G MX5_sum (d + 10) 13 [(0, .ref x0), (1, .int x1), (2, .ref x2)] [] σ (xR r) := by
  intro n
  induction n with
  | zero => intro _ _ _ _ _ h; cases h
  | succ n ih => intro _ _ _ _ _ h; exact vb_KX5_sum_13 hG hH hex ih h
def KX5_sum (ex : Nat → Int32 → vv_S → Option (hX (Nat × vv_S))) (ad : Nat → Nat) (x0 : Nat) (x1 : Int32) (σ : vv_S) : Option (hX (Nat × vv_S)) := (some (nwO σ 7 [.null, .null] 2)).bind fun σ1 => (isO σ1 x0 4).bind fun _ => (KX5_product ex ad x0 x1 σ1).bind fun r2 => xb r2 fun r4 => (KX8_init ad σ.2.1 r4.1 r4.2).bind fun r5 => KX5_sum_13 ex ad NN x0 x1 σ.2.1 r5
theorem v_KX5_sum_0 {l : Launch} {G : vv_G} {d : Nat} {ad : Nat → Nat} {ex : Nat → Int32 → vv_S → Option (hX (Nat × vv_S))} (hG : vv_gok G) (hH : vv_hy l G ad) (hex : ∀ {a : Nat} {n : Int32} {σ : vv_S} {r : hX (Nat × vv_S)}, ex a n σ = some r → vv_Met l G MX5_expression d [.ref a, .int n] σ (xR r)) {x0 : Nat} {x1 : Int32} {σ : vv_S} {r : hX (Nat × vv_S)} (h : KX5_sum ex ad x0 x1 σ = some r) : vv_V l G MX5_sum (d + 10) 0 [(0, .ref x0), (1, .int x1)] [] σ (xR r) := by
  unfold KX5_sum at h
  obtain ⟨σ1, uσ1, h⟩ := bd_s h
  refine vv_new (nw_X5_149 hG) dX5_sum_0 ?_
  refine vv_sg uσ1 ?_
  refine vv_dup dX5_sum_3 rfl ?_
  refine vv_aload_n dX5_sum_4 rfl 0 rfl ?_
  refine vv_iload_n dX5_sum_5 rfl 1 rfl ?_
  replace h := isO_o h; obtain ⟨fz3, sz3, ez3, h⟩ := h
  replace h := bd_o h; obtain ⟨r2, er2, h⟩ := h
  rcases r2 with r4 | r4x
  · refine vv_callV ok_X5_product q1080 (m_KX5_product hG hH hex er2 d) rfl (by omega) ⟨_, _, _, _, _, ez3, by rw [hG.1]; rfl⟩ rfl rfl (Nat.le_of_ble_eq_true rfl) dX5_sum_6 ?_
    replace h := xb_l h
    replace h := bd_o h; obtain ⟨r5, er5, h⟩ := h
    refine vv_callI ok_X8_init q1112 (m_KX8_init hG hH er5 d) rfl (by omega) rfl rfl (Nat.le_of_ble_eq_true rfl) dX5_sum_9 ?_
    refine vv_astore_n (lv' := [(0, .ref x0), (1, .int x1), (2, .ref σ.2.1)]) dX5_sum_12 rfl (by decide) [1, 2, 0] rfl ?_
    exact v_KX5_sum_13 hG hH hex NN h
  · cases h
    exact vv_callVX ok_X5_product q1080 (m_KX5_product hG hH hex er2 d) rfl (by omega) ⟨_, _, _, _, _, ez3, by rw [hG.1]; rfl⟩ rfl rfl (Nat.le_of_ble_eq_true rfl) dX5_sum_6 (vv_Tout (by intro x hx; cases hx))
theorem m_KX5_sum {l : Launch} {G : vv_G} {d : Nat} {ad : Nat → Nat} {ex : Nat → Int32 → vv_S → Option (hX (Nat × vv_S))} (hG : vv_gok G) (hH : vv_hy l G ad) (hex : ∀ {a : Nat} {n : Int32} {σ : vv_S} {r : hX (Nat × vv_S)}, ex a n σ = some r → vv_Met l G MX5_expression d [.ref a, .int n] σ (xR r)) {x0 : Nat} {x1 : Int32} {σ : vv_S} {r : hX (Nat × vv_S)} (h : KX5_sum ex ad x0 x1 σ = some r) (d9 : Nat) (e9 : d9 = d := by rfl) : vv_Met l G MX5_sum (d9 + 10) [.ref x0, .int x1] σ (xR r) := by
  subst e9
  exact vv_head (by decide +kernel) rfl (Nat.le_of_ble_eq_true rfl) rfl (v_KX5_sum_0 hG hH hex h)
/-! ('X11', 'init') -/
def KX11_init (x0 : Nat) (x1 : Nat) (σ : vv_S) : Option vv_S := (pF σ x0 10 0 (.ref x1)).bind fun σ1 => some σ1
theorem v_KX11_init_0 {l : Launch} {G : vv_G} {d : Nat} {ad : Nat → Nat} (hG : vv_gok G) (hH : vv_hy l G ad) {x0 : Nat} {x1 : Nat} {σ : vv_S} {r : vv_S} (h : KX11_init x0 x1 σ = some r) : vv_V l G MX11_init (d + 1) 0 [(0, .ref x0), (1, .ref x1)] [] σ (.inl none, r) := by
  unfold KX11_init at h
  refine vv_aload_n dX11_init_0 rfl 0 rfl ?_
  refine vv_objinit q1232 q149 q150 (by omega) (Nat.le_of_ble_eq_true rfl) dX11_init_1 ?_
  refine vv_aload_n dX11_init_4 rfl 0 rfl ?_
  refine vv_aload_n dX11_init_5 rfl 1 rfl ?_
  replace h := pF_o h; obtain ⟨σ1, sσ1, eσ1, lσ1, uσ1, h⟩ := h
  refine vv_putf (pt_X11_7 hG) (Or.inl rfl) eσ1 rfl rfl lσ1 dX11_init_6 ?_
  refine vv_sg uσ1 ?_
  cases h
  exact vv_vret rfl dX11_init_9
theorem m_KX11_init {l : Launch} {G : vv_G} {ad : Nat → Nat} (hG : vv_gok G) (hH : vv_hy l G ad) {x0 : Nat} {x1 : Nat} {σ : vv_S} {r : vv_S} (h : KX11_init x0 x1 σ = some r) (d : Nat) : vv_Met l G MX11_init (d + 1) [.ref x0, .ref x1] σ (.inl none, r) := vv_head (by decide +kernel) rfl (Nat.le_of_ble_eq_true rfl) rfl (v_KX11_init_0 hG hH h)
/-! ('X5', 'not') -/
def BKX5_not_94 (ex : Nat → Int32 → vv_S → Option (hX (Nat × vv_S))) (ad : Nat → Nat) (k94 : Int32 → Nat → Int32 → vv_S → Option (hX (Nat × vv_S))) (x2 : Int32) (x4 : Nat) (x5 : Int32) (σ : vv_S) : Option (hX (Nat × vv_S)) := if x2 ≤ x5 then (some (.inl (x4, σ))) else ((some (nwO σ 10 [.null] 1)).bind fun σ2 => (KX11_init σ.2.1 x4 σ2).bind fun r3 => k94 x2 σ.2.1 (x5 + (nI 1)) r3)
def KX5_not_94 (ex : Nat → Int32 → vv_S → Option (hX (Nat × vv_S))) (ad : Nat → Nat) : Nat → Int32 → Nat → Int32 → vv_S → Option (hX (Nat × vv_S))
  | 0, _, _, _, _ => none
  | n + 1, x2, x4, x5, σ => BKX5_not_94 ex ad (KX5_not_94 ex ad n) x2 x4 x5 σ
theorem vb_KX5_not_94 {l : Launch} {G : vv_G} {d : Nat} {ad : Nat → Nat} {ex : Nat → Int32 → vv_S → Option (hX (Nat × vv_S))} (hG : vv_gok G) (hH : vv_hy l G ad) (hex : ∀ {a : Nat} {n : Int32} {σ : vv_S} {r : hX (Nat × vv_S)}, ex a n σ = some r → vv_Met l G MX5_expression d [.ref a, .int n] σ (xR r)) {k94 : Int32 → Nat → Int32 → vv_S → Option (hX (Nat × vv_S))} (hk94 : ∀ {x2 : Int32} {x4 : Nat} {x5 : Int32} {σ : vv_S} {r : hX (Nat × vv_S)}, k94 x2 x4 x5 σ = some r → vv_V l G MX5_not (d + 11) 94 [(2, .int x2), (4, .ref x4), (5, .int x5)] [] σ (xR r)) {x2 : Int32} {x4 : Nat} {x5 : Int32} {σ : vv_S} {r : hX (Nat × vv_S)} (h : BKX5_not_94 ex ad k94 x2 x4 x5 σ = some r) : vv_V l G MX5_not (d + 11) 94 [(2, .int x2), (4, .ref x4), (5, .int x5)] [] σ (xR r) := by
  unfold BKX5_not_94 at h
  refine vv_iload dX5_not_94 2 rfl ?_
  refine vv_iload_n dX5_not_96 rfl 0 rfl ?_
  refine vv_icmp_ge (tgt := 117) dX5_not_97 (by decide) (fun c1 => ?_) (fun c1 => ?_)
  · rw [if_pos c1] at h
    refine vv_aload dX5_not_117 1 rfl ?_
    cases h
    exact vv_aret rfl (by first | exact Or.inl ⟨_, rfl⟩ | exact Or.inr ⟨_, rfl⟩) (Or.inr ⟨_, rfl⟩) dX5_not_119
  · rw [if_neg c1] at h
    obtain ⟨σ2, uσ2, h⟩ := bd_s h
    refine vv_new (nw_X5_177 hG) dX5_not_100 ?_
    refine vv_sg uσ2 ?_
    refine vv_dup dX5_not_103 rfl ?_
    refine vv_aload dX5_not_104 1 rfl ?_
    replace h := bd_o h; obtain ⟨r3, er3, h⟩ := h
    refine vv_callI ok_X11_init q1229 (m_KX11_init hG hH er3 d) rfl (by omega) rfl rfl (Nat.le_of_ble_eq_true rfl) dX5_not_106 ?_
    refine vv_astore (lv' := [(2, .int x2), (4, .ref σ.2.1), (5, .int x5)]) dX5_not_109 (by decide) [1, 0, 2] rfl ?_
    refine vv_iinc (v := (x5 + (nI 1))) (lv' := [(2, .int x2), (4, .ref σ.2.1), (5, .int (x5 + (nI 1)))]) dX5_not_111 2 rfl rfl (by decide) [1, 2, 0] rfl ?_
    refine vv_goto (tgt := 94) dX5_not_114 (by decide) ?_
    exact hk94 h
theorem v_KX5_not_94 {l : Launch} {G : vv_G} {d : Nat} {ad : Nat → Nat} {ex : Nat → Int32 → vv_S → Option (hX (Nat × vv_S))} (hG : vv_gok G) (hH : vv_hy l G ad) (hex : ∀ {a : Nat} {n : Int32} {σ : vv_S} {r : hX (Nat × vv_S)}, ex a n σ = some r → vv_Met l G MX5_expression d [.ref a, .int n] σ (xR r)) : ∀ (n : Nat) {x2 : Int32} {x4 : Nat} {x5 : Int32} {σ : vv_S} {r : hX (Nat × vv_S)}, KX5_not_94 ex ad n x2 x4 x5 σ = some r → vv_V l G MX5_not (d + 11) 94 [(2, .int x2), (4, .ref x4), (5, .int x5)] [] σ (xR r) := by
  intro n
  induction n with
  | zero => intro _ _ _ _ _ h; cases h
  | succ n ih => intro _ _ _ _ _ h; exact vb_KX5_not_94 hG hH hex ih h
def KX5_not_85 (ex : Nat → Int32 → vv_S → Option (hX (Nat × vv_S))) (ad : Nat → Nat) (x2 : Int32) (x3 : Nat) (σ : vv_S) : Option (hX (Nat × vv_S)) := (isO σ x3 7).bind fun _ => (KX8_plain x3 σ).bind fun r1 => KX5_not_94 ex ad NN x2 r1 (nI 0) σ
theorem v_KX5_not_85 {l : Launch} {G : vv_G} {d : Nat} {ad : Nat → Nat} {ex : Nat → Int32 → vv_S → Option (hX (Nat × vv_S))} (hG : vv_gok G) (hH : vv_hy l G ad) (hex : ∀ {a : Nat} {n : Int32} {σ : vv_S} {r : hX (Nat × vv_S)}, ex a n σ = some r → vv_Met l G MX5_expression d [.ref a, .int n] σ (xR r)) {x2 : Int32} {x3 : Nat} {σ : vv_S} {r : hX (Nat × vv_S)} (h : KX5_not_85 ex ad x2 x3 σ = some r) : vv_V l G MX5_not (d + 11) 85 [(2, .int x2), (3, .ref x3)] [] σ (xR r) := by
  unfold KX5_not_85 at h
  refine vv_aload_n dX5_not_85 rfl 1 rfl ?_
  replace h := isO_o h; obtain ⟨fz2, sz2, ez2, h⟩ := h
  replace h := bd_o h; obtain ⟨r1, er1, h⟩ := h
  refine vv_callV ok_X8_plain q1223 (m_KX8_plain hG hH er1 d) rfl (by omega) ⟨_, _, _, _, _, ez2, by rw [hG.1]; rfl⟩ rfl rfl (Nat.le_of_ble_eq_true rfl) dX5_not_86 ?_
  refine vv_astore (lv' := [(2, .int x2), (3, .ref x3), (4, .ref r1)]) dX5_not_89 (by decide) [1, 2, 0] rfl ?_
  refine vv_iconst (v := (nI 0)) dX5_not_91 (by decide) ?_
  refine vv_istore (lv' := [(2, .int x2), (3, .ref x3), (4, .ref r1), (5, .int (nI 0))]) dX5_not_92 (by decide) [1, 2, 3, 0] rfl ?_
  refine vv_sub (lv' := [(2, .int x2), (4, .ref r1), (5, .int (nI 0))]) [0, 2, 3] rfl ?_
  exact v_KX5_not_94 hG hH hex NN h
def KX5_not_68 (ex : Nat → Int32 → vv_S → Option (hX (Nat × vv_S))) (ad : Nat → Nat) (x0 : Nat) (x1 : Int32) (x2 : Int32) (x3 : Nat) (σ : vv_S) : Option (hX (Nat × vv_S)) := (isO σ x0 4).bind fun _ => (KX5_sign ad x0 σ).bind fun r1 => (isO r1.2 x0 4).bind fun _ => (KX5_sum ex ad x0 x1 r1.2).bind fun r3 => xb r3 fun r5 => (isO r5.2 x3 7).bind fun _ => (KX8_add ad x3 r1.1 r5.1 r5.2).bind fun r6 => KX5_not_85 ex ad x2 x3 r6
theorem v_KX5_not_68 {l : Launch} {G : vv_G} {d : Nat} {ad : Nat → Nat} {ex : Nat → Int32 → vv_S → Option (hX (Nat × vv_S))} (hG : vv_gok G) (hH : vv_hy l G ad) (hex : ∀ {a : Nat} {n : Int32} {σ : vv_S} {r : hX (Nat × vv_S)}, ex a n σ = some r → vv_Met l G MX5_expression d [.ref a, .int n] σ (xR r)) {x0 : Nat} {x1 : Int32} {x2 : Int32} {x3 : Nat} {σ : vv_S} {r : hX (Nat × vv_S)} (h : KX5_not_68 ex ad x0 x1 x2 x3 σ = some r) : vv_V l G MX5_not (d + 11) 68 [(0, .ref x0), (1, .int x1), (2, .int x2), (3, .ref x3)] [] σ (xR r) := by
  unfold KX5_not_68 at h
  refine vv_aload_n dX5_not_68 rfl 0 rfl ?_
  replace h := isO_o h; obtain ⟨fz2, sz2, ez2, h⟩ := h
  replace h := bd_o h; obtain ⟨r1, er1, h⟩ := h
  refine vv_callV ok_X5_sign q1155 (m_KX5_sign hG hH er1 d) rfl (by omega) ⟨_, _, _, _, _, ez2, by rw [hG.1]; rfl⟩ rfl rfl (Nat.le_of_ble_eq_true rfl) dX5_not_69 ?_
  refine vv_istore (lv' := [(0, .ref x0), (1, .int x1), (2, .int x2), (3, .ref x3), (4, .int r1.1)]) dX5_not_72 (by decide) [1, 2, 3, 4, 0] rfl ?_
  refine vv_aload_n dX5_not_74 rfl 3 rfl ?_
  refine vv_iload dX5_not_75 4 rfl ?_
  refine vv_aload_n dX5_not_77 rfl 0 rfl ?_
  refine vv_iload_n dX5_not_78 rfl 1 rfl ?_
  replace h := isO_o h; obtain ⟨fz4, sz4, ez4, h⟩ := h
  replace h := bd_o h; obtain ⟨r3, er3, h⟩ := h
  rcases r3 with r5 | r5x
  · refine vv_callV ok_X5_sum q1076 (m_KX5_sum hG hH hex er3 d) rfl (by omega) ⟨_, _, _, _, _, ez4, by rw [hG.1]; rfl⟩ rfl rfl (Nat.le_of_ble_eq_true rfl) dX5_not_79 ?_
    replace h := xb_l h
    replace h := isO_o h; obtain ⟨fz7, sz7, ez7, h⟩ := h
    replace h := bd_o h; obtain ⟨r6, er6, h⟩ := h
    refine vv_callV ok_X8_add q1159 (m_KX8_add hG hH er6 d) rfl (by omega) ⟨_, _, _, _, _, ez7, by rw [hG.1]; rfl⟩ rfl rfl (Nat.le_of_ble_eq_true rfl) dX5_not_82 ?_
    refine vv_sub (lv' := [(2, .int x2), (3, .ref x3)]) [2, 3] rfl ?_
    exact v_KX5_not_85 hG hH hex h
  · cases h
    exact vv_callVX ok_X5_sum q1076 (m_KX5_sum hG hH hex er3 d) rfl (by omega) ⟨_, _, _, _, _, ez4, by rw [hG.1]; rfl⟩ rfl rfl (Nat.le_of_ble_eq_true rfl) dX5_not_79 (vv_Tout (by intro x hx; cases hx))
def KX5_not_23 (ex : Nat → Int32 → vv_S → Option (hX (Nat × vv_S))) (ad : Nat → Nat) (k2 : Nat → Int32 → Int32 → vv_S → Option (hX (Nat × vv_S))) (s0 : Nat) (s1 : Int32) (x0 : Nat) (x1 : Int32) (x2 : Int32) (σ : vv_S) : Option (hX (Nat × vv_S)) := (isO σ s0 4).bind fun _ => (KX5_want s0 s1 (nI 2) σ).bind fun r1 => xb r1 fun r3 => (isO r3 x0 4).bind fun _ => (KX5_next ad x0 r3).bind fun r4 => k2 x0 x1 (x2 + (nI 1)) r4
theorem v_KX5_not_23 {l : Launch} {G : vv_G} {d : Nat} {ad : Nat → Nat} {ex : Nat → Int32 → vv_S → Option (hX (Nat × vv_S))} (hG : vv_gok G) (hH : vv_hy l G ad) (hex : ∀ {a : Nat} {n : Int32} {σ : vv_S} {r : hX (Nat × vv_S)}, ex a n σ = some r → vv_Met l G MX5_expression d [.ref a, .int n] σ (xR r)) {k2 : Nat → Int32 → Int32 → vv_S → Option (hX (Nat × vv_S))} (hk2 : ∀ {x0 : Nat} {x1 : Int32} {x2 : Int32} {σ : vv_S} {r : hX (Nat × vv_S)}, k2 x0 x1 x2 σ = some r → vv_V l G MX5_not (d + 11) 2 [(0, .ref x0), (1, .int x1), (2, .int x2)] [] σ (xR r)) {s0 : Nat} {s1 : Int32} {x0 : Nat} {x1 : Int32} {x2 : Int32} {σ : vv_S} {r : hX (Nat × vv_S)} (h : KX5_not_23 ex ad k2 s0 s1 x0 x1 x2 σ = some r) : vv_V l G MX5_not (d + 11) 23 [(0, .ref x0), (1, .int x1), (2, .int x2)] [.int s1, .ref s0] σ (xR r) := by
  unfold KX5_not_23 at h
  refine vv_iconst (v := (nI 2)) dX5_not_23 (by decide) ?_
  replace h := isO_o h; obtain ⟨fz2, sz2, ez2, h⟩ := h
  replace h := bd_o h; obtain ⟨r1, er1, h⟩ := h
  rcases r1 with r3 | r3x
  · refine vv_callV ok_X5_want q941 (m_KX5_want hG hH er1 d) rfl (by omega) ⟨_, _, _, _, _, ez2, by rw [hG.1]; rfl⟩ rfl rfl (Nat.le_of_ble_eq_true rfl) dX5_not_24 ?_
    replace h := xb_l h
    refine vv_iinc (v := (x2 + (nI 1))) (lv' := [(0, .ref x0), (1, .int x1), (2, .int (x2 + (nI 1)))]) dX5_not_27 2 rfl rfl (by decide) [1, 2, 0] rfl ?_
    refine vv_aload_n dX5_not_30 rfl 0 rfl ?_
    replace h := isO_o h; obtain ⟨fz5, sz5, ez5, h⟩ := h
    replace h := bd_o h; obtain ⟨r4, er4, h⟩ := h
    refine vv_callV ok_X5_next q822 (m_KX5_next hG hH er4 d) rfl (by omega) ⟨_, _, _, _, _, ez5, by rw [hG.1]; rfl⟩ rfl rfl (Nat.le_of_ble_eq_true rfl) dX5_not_31 ?_
    refine vv_goto (tgt := 2) dX5_not_34 (by decide) ?_
    exact hk2 h
  · cases h
    exact vv_callVX ok_X5_want q941 (m_KX5_want hG hH er1 d) rfl (by omega) ⟨_, _, _, _, _, ez2, by rw [hG.1]; rfl⟩ rfl rfl (Nat.le_of_ble_eq_true rfl) dX5_not_24 (vv_Tout (by intro x hx; cases hx))
def BKX5_not_2 (ex : Nat → Int32 → vv_S → Option (hX (Nat × vv_S))) (ad : Nat → Nat) (k2 : Nat → Int32 → Int32 → vv_S → Option (hX (Nat × vv_S))) (x0 : Nat) (x1 : Int32) (x2 : Int32) (σ : vv_S) : Option (hX (Nat × vv_S)) := (isO σ x0 4).bind fun _ => (KX5_is x0 (ad 23) σ).bind fun r1 => if r1 = 0 then ((some (nwO σ 7 [.null, .null] 2)).bind fun σ4 => (isO σ4 x0 4).bind fun _ => (KX5_sum ex ad x0 x1 σ4).bind fun r5 => xb r5 fun r7 => (KX8_init ad σ.2.1 r7.1 r7.2).bind fun r8 => (isO r8 x0 4).bind fun _ => (KX5_isSign x0 (nI 60) r8).bind fun r9 => if r9 = 0 then ((isO r8 x0 4).bind fun _ => (KX5_isSign x0 (nI 61) r8).bind fun r12 => if r12 = 0 then (KX5_not_85 ex ad x2 σ.2.1 r8) else (KX5_not_68 ex ad x0 x1 x2 σ.2.1 r8)) else (KX5_not_68 ex ad x0 x1 x2 σ.2.1 r8)) else (if (nI 6) ≤ x2 then (KX5_not_23 ex ad k2 x0 (nI 0) x0 x1 x2 σ) else (KX5_not_23 ex ad k2 x0 (nI 1) x0 x1 x2 σ))
def KX5_not_2 (ex : Nat → Int32 → vv_S → Option (hX (Nat × vv_S))) (ad : Nat → Nat) : Nat → Nat → Int32 → Int32 → vv_S → Option (hX (Nat × vv_S))
  | 0, _, _, _, _ => none
  | n + 1, x0, x1, x2, σ => BKX5_not_2 ex ad (KX5_not_2 ex ad n) x0 x1 x2 σ
theorem vb_KX5_not_2 {l : Launch} {G : vv_G} {d : Nat} {ad : Nat → Nat} {ex : Nat → Int32 → vv_S → Option (hX (Nat × vv_S))} (hG : vv_gok G) (hH : vv_hy l G ad) (hex : ∀ {a : Nat} {n : Int32} {σ : vv_S} {r : hX (Nat × vv_S)}, ex a n σ = some r → vv_Met l G MX5_expression d [.ref a, .int n] σ (xR r)) {k2 : Nat → Int32 → Int32 → vv_S → Option (hX (Nat × vv_S))} (hk2 : ∀ {x0 : Nat} {x1 : Int32} {x2 : Int32} {σ : vv_S} {r : hX (Nat × vv_S)}, k2 x0 x1 x2 σ = some r → vv_V l G MX5_not (d + 11) 2 [(0, .ref x0), (1, .int x1), (2, .int x2)] [] σ (xR r)) {x0 : Nat} {x1 : Int32} {x2 : Int32} {σ : vv_S} {r : hX (Nat × vv_S)} (h : BKX5_not_2 ex ad k2 x0 x1 x2 σ = some r) : vv_V l G MX5_not (d + 11) 2 [(0, .ref x0), (1, .int x1), (2, .int x2)] [] σ (xR r) := by
  unfold BKX5_not_2 at h
  refine vv_aload_n dX5_not_2 rfl 0 rfl ?_
  refine vv_lds (st_13 hH) dX5_not_3 ?_
  replace h := isO_o h; obtain ⟨fz2, sz2, ez2, h⟩ := h
  replace h := bd_o h; obtain ⟨r1, er1, h⟩ := h
  refine vv_callV ok_X5_is q916 (m_KX5_is hG hH er1 d) rfl (by omega) ⟨_, _, _, _, _, ez2, by rw [hG.1]; rfl⟩ rfl rfl (Nat.le_of_ble_eq_true rfl) dX5_not_5 ?_
  refine vv_if_eq (tgt := 37) dX5_not_8 (by decide) (fun c3 => ?_) (fun c3 => ?_)
  · rw [if_pos c3] at h
    obtain ⟨σ4, uσ4, h⟩ := bd_s h
    refine vv_new (nw_X5_149 hG) dX5_not_37 ?_
    refine vv_sg uσ4 ?_
    refine vv_dup dX5_not_40 rfl ?_
    refine vv_aload_n dX5_not_41 rfl 0 rfl ?_
    refine vv_iload_n dX5_not_42 rfl 1 rfl ?_
    replace h := isO_o h; obtain ⟨fz6, sz6, ez6, h⟩ := h
    replace h := bd_o h; obtain ⟨r5, er5, h⟩ := h
    rcases r5 with r7 | r7x
    · refine vv_callV ok_X5_sum q1076 (m_KX5_sum hG hH hex er5 d) rfl (by omega) ⟨_, _, _, _, _, ez6, by rw [hG.1]; rfl⟩ rfl rfl (Nat.le_of_ble_eq_true rfl) dX5_not_43 ?_
      replace h := xb_l h
      replace h := bd_o h; obtain ⟨r8, er8, h⟩ := h
      refine vv_callI ok_X8_init q1112 (m_KX8_init hG hH er8 d) rfl (by omega) rfl rfl (Nat.le_of_ble_eq_true rfl) dX5_not_46 ?_
      refine vv_astore_n (lv' := [(0, .ref x0), (1, .int x1), (2, .int x2), (3, .ref σ.2.1)]) dX5_not_49 rfl (by decide) [1, 2, 3, 0] rfl ?_
      refine vv_aload_n dX5_not_50 rfl 0 rfl ?_
      refine vv_bipush (v := (nI 60)) dX5_not_51 (by decide) ?_
      replace h := isO_o h; obtain ⟨fz10, sz10, ez10, h⟩ := h
      replace h := bd_o h; obtain ⟨r9, er9, h⟩ := h
      refine vv_callV ok_X5_isSign q1061 (m_KX5_isSign hG hH er9 d) rfl (by omega) ⟨_, _, _, _, _, ez10, by rw [hG.1]; rfl⟩ rfl rfl (Nat.le_of_ble_eq_true rfl) dX5_not_53 ?_
      refine vv_if_ne (tgt := 68) dX5_not_56 (by decide) (fun c11 => ?_) (fun c11 => ?_)
      · rw [if_neg c11] at h
        exact v_KX5_not_68 hG hH hex h
      · rw [if_pos c11] at h
        refine vv_aload_n dX5_not_59 rfl 0 rfl ?_
        refine vv_bipush (v := (nI 61)) dX5_not_60 (by decide) ?_
        replace h := isO_o h; obtain ⟨fz13, sz13, ez13, h⟩ := h
        replace h := bd_o h; obtain ⟨r12, er12, h⟩ := h
        refine vv_callV ok_X5_isSign q1061 (m_KX5_isSign hG hH er12 d) rfl (by omega) ⟨_, _, _, _, _, ez13, by rw [hG.1]; rfl⟩ rfl rfl (Nat.le_of_ble_eq_true rfl) dX5_not_62 ?_
        refine vv_if_eq (tgt := 85) dX5_not_65 (by decide) (fun c14 => ?_) (fun c14 => ?_)
        · rw [if_pos c14] at h
          refine vv_sub (lv' := [(2, .int x2), (3, .ref σ.2.1)]) [2, 3] rfl ?_
          exact v_KX5_not_85 hG hH hex h
        · rw [if_neg c14] at h
          exact v_KX5_not_68 hG hH hex h
    · cases h
      exact vv_callVX ok_X5_sum q1076 (m_KX5_sum hG hH hex er5 d) rfl (by omega) ⟨_, _, _, _, _, ez6, by rw [hG.1]; rfl⟩ rfl rfl (Nat.le_of_ble_eq_true rfl) dX5_not_43 (vv_Tout (by intro x hx; cases hx))
  · rw [if_neg c3] at h
    refine vv_aload_n dX5_not_11 rfl 0 rfl ?_
    refine vv_iload_n dX5_not_12 rfl 2 rfl ?_
    refine vv_bipush (v := (nI 6)) dX5_not_13 (by decide) ?_
    refine vv_icmp_ge (tgt := 22) dX5_not_15 (by decide) (fun c15 => ?_) (fun c15 => ?_)
    · rw [if_pos c15] at h
      refine vv_iconst (v := (nI 0)) dX5_not_22 (by decide) ?_
      exact v_KX5_not_23 hG hH hex hk2 h
    · rw [if_neg c15] at h
      refine vv_iconst (v := (nI 1)) dX5_not_18 (by decide) ?_
      refine vv_goto (tgt := 23) dX5_not_19 (by decide) ?_
      exact v_KX5_not_23 hG hH hex hk2 h
theorem v_KX5_not_2 {l : Launch} {G : vv_G} {d : Nat} {ad : Nat → Nat} {ex : Nat → Int32 → vv_S → Option (hX (Nat × vv_S))} (hG : vv_gok G) (hH : vv_hy l G ad) (hex : ∀ {a : Nat} {n : Int32} {σ : vv_S} {r : hX (Nat × vv_S)}, ex a n σ = some r → vv_Met l G MX5_expression d [.ref a, .int n] σ (xR r)) : ∀ (n : Nat) {x0 : Nat} {x1 : Int32} {x2 : Int32} {σ : vv_S} {r : hX (Nat × vv_S)}, KX5_not_2 ex ad n x0 x1 x2 σ = some r → vv_V l G MX5_not (d + 11) 2 [(0, .ref x0), (1, .int x1), (2, .int x2)] [] σ (xR r) := by
  intro n
  induction n with
  | zero => intro _ _ _ _ _ h; cases h
  | succ n ih => intro _ _ _ _ _ h; exact vb_KX5_not_2 hG hH hex ih h
def KX5_not (ex : Nat → Int32 → vv_S → Option (hX (Nat × vv_S))) (ad : Nat → Nat) (x0 : Nat) (x1 : Int32) (σ : vv_S) : Option (hX (Nat × vv_S)) := KX5_not_2 ex ad NN x0 x1 (nI 0) σ
theorem v_KX5_not_0 {l : Launch} {G : vv_G} {d : Nat} {ad : Nat → Nat} {ex : Nat → Int32 → vv_S → Option (hX (Nat × vv_S))} (hG : vv_gok G) (hH : vv_hy l G ad) (hex : ∀ {a : Nat} {n : Int32} {σ : vv_S} {r : hX (Nat × vv_S)}, ex a n σ = some r → vv_Met l G MX5_expression d [.ref a, .int n] σ (xR r)) {x0 : Nat} {x1 : Int32} {σ : vv_S} {r : hX (Nat × vv_S)} (h : KX5_not ex ad x0 x1 σ = some r) : vv_V l G MX5_not (d + 11) 0 [(0, .ref x0), (1, .int x1)] [] σ (xR r) := by
  unfold KX5_not at h
  refine vv_iconst (v := (nI 0)) dX5_not_0 (by decide) ?_
  refine vv_istore_n (lv' := [(0, .ref x0), (1, .int x1), (2, .int (nI 0))]) dX5_not_1 rfl (by decide) [1, 2, 0] rfl ?_
  exact v_KX5_not_2 hG hH hex NN h
theorem m_KX5_not {l : Launch} {G : vv_G} {d : Nat} {ad : Nat → Nat} {ex : Nat → Int32 → vv_S → Option (hX (Nat × vv_S))} (hG : vv_gok G) (hH : vv_hy l G ad) (hex : ∀ {a : Nat} {n : Int32} {σ : vv_S} {r : hX (Nat × vv_S)}, ex a n σ = some r → vv_Met l G MX5_expression d [.ref a, .int n] σ (xR r)) {x0 : Nat} {x1 : Int32} {σ : vv_S} {r : hX (Nat × vv_S)} (h : KX5_not ex ad x0 x1 σ = some r) (d9 : Nat) (e9 : d9 = d := by rfl) : vv_Met l G MX5_not (d9 + 11) [.ref x0, .int x1] σ (xR r) := by
  subst e9
  exact vv_head (by decide +kernel) rfl (Nat.le_of_ble_eq_true rfl) rfl (v_KX5_not_0 hG hH hex h)
/-! ('X5', 'and') -/
def BKX5_and_13 (ex : Nat → Int32 → vv_S → Option (hX (Nat × vv_S))) (ad : Nat → Nat) (k13 : Nat → Int32 → Nat → vv_S → Option (hX (Nat × vv_S))) (x0 : Nat) (x1 : Int32) (x2 : Nat) (σ : vv_S) : Option (hX (Nat × vv_S)) := (isO σ x0 4).bind fun _ => (KX5_passes ad x0 (ad 24) σ).bind fun r1 => if r1.1 = 0 then ((isO r1.2 x2 7).bind fun _ => (KX8_plain x2 r1.2).bind fun r4 => some (.inl (r4, r1.2))) else ((isO r1.2 x0 4).bind fun _ => (KX5_not ex ad x0 x1 r1.2).bind fun r6 => xb r6 fun r8 => (isO r8.2 x2 7).bind fun _ => (KX8_add ad x2 (nI 38) r8.1 r8.2).bind fun r9 => k13 x0 x1 x2 r9)
def KX5_and_13 (ex : Nat → Int32 → vv_S → Option (hX (Nat × vv_S))) (ad : Nat → Nat) : Nat → Nat → Int32 → Nat → vv_S → Option (hX (Nat × vv_S))
  | 0, _, _, _, _ => none
  | n + 1, x0, x1, x2, σ => BKX5_and_13 ex ad (KX5_and_13 ex ad n) x0 x1 x2 σ
theorem vb_KX5_and_13 {l : Launch} {G : vv_G} {d : Nat} {ad : Nat → Nat} {ex : Nat → Int32 → vv_S → Option (hX (Nat × vv_S))} (hG : vv_gok G) (hH : vv_hy l G ad) (hex : ∀ {a : Nat} {n : Int32} {σ : vv_S} {r : hX (Nat × vv_S)}, ex a n σ = some r → vv_Met l G MX5_expression d [.ref a, .int n] σ (xR r)) {k13 : Nat → Int32 → Nat → vv_S → Option (hX (Nat × vv_S))} (hk13 : ∀ {x0 : Nat} {x1 : Int32} {x2 : Nat} {σ : vv_S} {r : hX (Nat × vv_S)}, k13 x0 x1 x2 σ = some r → vv_V l G MX5_and (d + 12) 13 [(0, .ref x0), (1, .int x1), (2, .ref x2)] [] σ (xR r)) {x0 : Nat} {x1 : Int32} {x2 : Nat} {σ : vv_S} {r : hX (Nat × vv_S)} (h : BKX5_and_13 ex ad k13 x0 x1 x2 σ = some r) : vv_V l G MX5_and (d + 12) 13 [(0, .ref x0), (1, .int x1), (2, .ref x2)] [] σ (xR r) := by
  unfold BKX5_and_13 at h
  refine vv_aload_n dX5_and_13 rfl 0 rfl ?_
  refine vv_lds (st_14 hH) dX5_and_14 ?_
  replace h := isO_o h; obtain ⟨fz2, sz2, ez2, h⟩ := h
  replace h := bd_o h; obtain ⟨r1, er1, h⟩ := h
  refine vv_callV ok_X5_passes q1052 (m_KX5_passes hG hH er1 d) rfl (by omega) ⟨_, _, _, _, _, ez2, by rw [hG.1]; rfl⟩ rfl rfl (Nat.le_of_ble_eq_true rfl) dX5_and_16 ?_
  refine vv_if_eq (tgt := 36) dX5_and_19 (by decide) (fun c3 => ?_) (fun c3 => ?_)
  · rw [if_pos c3] at h
    refine vv_aload_n dX5_and_36 rfl 2 rfl ?_
    replace h := isO_o h; obtain ⟨fz5, sz5, ez5, h⟩ := h
    replace h := bd_o h; obtain ⟨r4, er4, h⟩ := h
    refine vv_callV ok_X8_plain q1223 (m_KX8_plain hG hH er4 d) rfl (by omega) ⟨_, _, _, _, _, ez5, by rw [hG.1]; rfl⟩ rfl rfl (Nat.le_of_ble_eq_true rfl) dX5_and_37 ?_
    cases h
    exact vv_aret rfl (by first | exact Or.inl ⟨_, rfl⟩ | exact Or.inr ⟨_, rfl⟩) (Or.inr ⟨_, rfl⟩) dX5_and_40
  · rw [if_neg c3] at h
    refine vv_aload_n dX5_and_22 rfl 2 rfl ?_
    refine vv_bipush (v := (nI 38)) dX5_and_23 (by decide) ?_
    refine vv_aload_n dX5_and_25 rfl 0 rfl ?_
    refine vv_iload_n dX5_and_26 rfl 1 rfl ?_
    replace h := isO_o h; obtain ⟨fz7, sz7, ez7, h⟩ := h
    replace h := bd_o h; obtain ⟨r6, er6, h⟩ := h
    rcases r6 with r8 | r8x
    · refine vv_callV ok_X5_not q1071 (m_KX5_not hG hH hex er6 d) rfl (by omega) ⟨_, _, _, _, _, ez7, by rw [hG.1]; rfl⟩ rfl rfl (Nat.le_of_ble_eq_true rfl) dX5_and_27 ?_
      replace h := xb_l h
      replace h := isO_o h; obtain ⟨fz10, sz10, ez10, h⟩ := h
      replace h := bd_o h; obtain ⟨r9, er9, h⟩ := h
      refine vv_callV ok_X8_add q1159 (m_KX8_add hG hH er9 d) rfl (by omega) ⟨_, _, _, _, _, ez10, by rw [hG.1]; rfl⟩ rfl rfl (Nat.le_of_ble_eq_true rfl) dX5_and_30 ?_
      refine vv_goto (tgt := 13) dX5_and_33 (by decide) ?_
      exact hk13 h
    · cases h
      exact vv_callVX ok_X5_not q1071 (m_KX5_not hG hH hex er6 d) rfl (by omega) ⟨_, _, _, _, _, ez7, by rw [hG.1]; rfl⟩ rfl rfl (Nat.le_of_ble_eq_true rfl) dX5_and_27 (vv_Tout (by intro x hx; cases hx))
theorem v_KX5_and_13 {l : Launch} {G : vv_G} {d : Nat} {ad : Nat → Nat} {ex : Nat → Int32 → vv_S → Option (hX (Nat × vv_S))} (hG : vv_gok G) (hH : vv_hy l G ad) (hex : ∀ {a : Nat} {n : Int32} {σ : vv_S} {r : hX (Nat × vv_S)}, ex a n σ = some r → vv_Met l G MX5_expression d [.ref a, .int n] σ (xR r)) : ∀ (n : Nat) {x0 : Nat} {x1 : Int32} {x2 : Nat} {σ : vv_S} {r : hX (Nat × vv_S)}, KX5_and_13 ex ad n x0 x1 x2 σ = some r → vv_V l G MX5_and (d + 12) 13 [(0, .ref x0), (1, .int x1), (2, .ref x2)] [] σ (xR r) := by
  intro n
  induction n with
  | zero => intro _ _ _ _ _ h; cases h
  | succ n ih => intro _ _ _ _ _ h; exact vb_KX5_and_13 hG hH hex ih h
def KX5_and (ex : Nat → Int32 → vv_S → Option (hX (Nat × vv_S))) (ad : Nat → Nat) (x0 : Nat) (x1 : Int32) (σ : vv_S) : Option (hX (Nat × vv_S)) := (some (nwO σ 7 [.null, .null] 2)).bind fun σ1 => (isO σ1 x0 4).bind fun _ => (KX5_not ex ad x0 x1 σ1).bind fun r2 => xb r2 fun r4 => (KX8_init ad σ.2.1 r4.1 r4.2).bind fun r5 => KX5_and_13 ex ad NN x0 x1 σ.2.1 r5
theorem v_KX5_and_0 {l : Launch} {G : vv_G} {d : Nat} {ad : Nat → Nat} {ex : Nat → Int32 → vv_S → Option (hX (Nat × vv_S))} (hG : vv_gok G) (hH : vv_hy l G ad) (hex : ∀ {a : Nat} {n : Int32} {σ : vv_S} {r : hX (Nat × vv_S)}, ex a n σ = some r → vv_Met l G MX5_expression d [.ref a, .int n] σ (xR r)) {x0 : Nat} {x1 : Int32} {σ : vv_S} {r : hX (Nat × vv_S)} (h : KX5_and ex ad x0 x1 σ = some r) : vv_V l G MX5_and (d + 12) 0 [(0, .ref x0), (1, .int x1)] [] σ (xR r) := by
  unfold KX5_and at h
  obtain ⟨σ1, uσ1, h⟩ := bd_s h
  refine vv_new (nw_X5_149 hG) dX5_and_0 ?_
  refine vv_sg uσ1 ?_
  refine vv_dup dX5_and_3 rfl ?_
  refine vv_aload_n dX5_and_4 rfl 0 rfl ?_
  refine vv_iload_n dX5_and_5 rfl 1 rfl ?_
  replace h := isO_o h; obtain ⟨fz3, sz3, ez3, h⟩ := h
  replace h := bd_o h; obtain ⟨r2, er2, h⟩ := h
  rcases r2 with r4 | r4x
  · refine vv_callV ok_X5_not q1071 (m_KX5_not hG hH hex er2 d) rfl (by omega) ⟨_, _, _, _, _, ez3, by rw [hG.1]; rfl⟩ rfl rfl (Nat.le_of_ble_eq_true rfl) dX5_and_6 ?_
    replace h := xb_l h
    replace h := bd_o h; obtain ⟨r5, er5, h⟩ := h
    refine vv_callI ok_X8_init q1112 (m_KX8_init hG hH er5 d) rfl (by omega) rfl rfl (Nat.le_of_ble_eq_true rfl) dX5_and_9 ?_
    refine vv_astore_n (lv' := [(0, .ref x0), (1, .int x1), (2, .ref σ.2.1)]) dX5_and_12 rfl (by decide) [1, 2, 0] rfl ?_
    exact v_KX5_and_13 hG hH hex NN h
  · cases h
    exact vv_callVX ok_X5_not q1071 (m_KX5_not hG hH hex er2 d) rfl (by omega) ⟨_, _, _, _, _, ez3, by rw [hG.1]; rfl⟩ rfl rfl (Nat.le_of_ble_eq_true rfl) dX5_and_6 (vv_Tout (by intro x hx; cases hx))
theorem m_KX5_and {l : Launch} {G : vv_G} {d : Nat} {ad : Nat → Nat} {ex : Nat → Int32 → vv_S → Option (hX (Nat × vv_S))} (hG : vv_gok G) (hH : vv_hy l G ad) (hex : ∀ {a : Nat} {n : Int32} {σ : vv_S} {r : hX (Nat × vv_S)}, ex a n σ = some r → vv_Met l G MX5_expression d [.ref a, .int n] σ (xR r)) {x0 : Nat} {x1 : Int32} {σ : vv_S} {r : hX (Nat × vv_S)} (h : KX5_and ex ad x0 x1 σ = some r) (d9 : Nat) (e9 : d9 = d := by rfl) : vv_Met l G MX5_and (d9 + 12) [.ref x0, .int x1] σ (xR r) := by
  subst e9
  exact vv_head (by decide +kernel) rfl (Nat.le_of_ble_eq_true rfl) rfl (v_KX5_and_0 hG hH hex h)
/-! ('X5', 'expression') -/
def BKX5_expression_64 (ex : Nat → Int32 → vv_S → Option (hX (Nat × vv_S))) (ad : Nat → Nat) (k64 : Nat → Int32 → Nat → vv_S → Option (hX (Nat × vv_S))) (x0 : Nat) (x1 : Int32) (x2 : Nat) (σ : vv_S) : Option (hX (Nat × vv_S)) := (isO σ x0 4).bind fun _ => (KX5_passes ad x0 (ad 25) σ).bind fun r1 => if r1.1 = 0 then ((isO r1.2 x2 7).bind fun _ => (KX8_plain x2 r1.2).bind fun r4 => some (.inl (r4, r1.2))) else ((isO r1.2 x0 4).bind fun _ => (KX5_and ex ad x0 x1 r1.2).bind fun r6 => xb r6 fun r8 => (isO r8.2 x2 7).bind fun _ => (KX8_add ad x2 (nI 124) r8.1 r8.2).bind fun r9 => k64 x0 x1 x2 r9)
def KX5_expression_64 (ex : Nat → Int32 → vv_S → Option (hX (Nat × vv_S))) (ad : Nat → Nat) : Nat → Nat → Int32 → Nat → vv_S → Option (hX (Nat × vv_S))
  | 0, _, _, _, _ => none
  | n + 1, x0, x1, x2, σ => BKX5_expression_64 ex ad (KX5_expression_64 ex ad n) x0 x1 x2 σ
theorem vb_KX5_expression_64 {l : Launch} {G : vv_G} {d : Nat} {ad : Nat → Nat} {ex : Nat → Int32 → vv_S → Option (hX (Nat × vv_S))} (hG : vv_gok G) (hH : vv_hy l G ad) (hex : ∀ {a : Nat} {n : Int32} {σ : vv_S} {r : hX (Nat × vv_S)}, ex a n σ = some r → vv_Met l G MX5_expression d [.ref a, .int n] σ (xR r)) {k64 : Nat → Int32 → Nat → vv_S → Option (hX (Nat × vv_S))} (hk64 : ∀ {x0 : Nat} {x1 : Int32} {x2 : Nat} {σ : vv_S} {r : hX (Nat × vv_S)}, k64 x0 x1 x2 σ = some r → vv_V l G MX5_expression (d + 13) 64 [(0, .ref x0), (1, .int x1), (2, .ref x2)] [] σ (xR r)) {x0 : Nat} {x1 : Int32} {x2 : Nat} {σ : vv_S} {r : hX (Nat × vv_S)} (h : BKX5_expression_64 ex ad k64 x0 x1 x2 σ = some r) : vv_V l G MX5_expression (d + 13) 64 [(0, .ref x0), (1, .int x1), (2, .ref x2)] [] σ (xR r) := by
  unfold BKX5_expression_64 at h
  refine vv_aload_n dX5_expression_64 rfl 0 rfl ?_
  refine vv_lds (st_15 hH) dX5_expression_65 ?_
  replace h := isO_o h; obtain ⟨fz2, sz2, ez2, h⟩ := h
  replace h := bd_o h; obtain ⟨r1, er1, h⟩ := h
  refine vv_callV ok_X5_passes q1052 (m_KX5_passes hG hH er1 d) rfl (by omega) ⟨_, _, _, _, _, ez2, by rw [hG.1]; rfl⟩ rfl rfl (Nat.le_of_ble_eq_true rfl) dX5_expression_67 ?_
  refine vv_if_eq (tgt := 87) dX5_expression_70 (by decide) (fun c3 => ?_) (fun c3 => ?_)
  · rw [if_pos c3] at h
    refine vv_aload_n dX5_expression_87 rfl 2 rfl ?_
    replace h := isO_o h; obtain ⟨fz5, sz5, ez5, h⟩ := h
    replace h := bd_o h; obtain ⟨r4, er4, h⟩ := h
    refine vv_callV ok_X8_plain q1223 (m_KX8_plain hG hH er4 d) rfl (by omega) ⟨_, _, _, _, _, ez5, by rw [hG.1]; rfl⟩ rfl rfl (Nat.le_of_ble_eq_true rfl) dX5_expression_88 ?_
    cases h
    exact vv_aret rfl (by first | exact Or.inl ⟨_, rfl⟩ | exact Or.inr ⟨_, rfl⟩) (Or.inr ⟨_, rfl⟩) dX5_expression_91
  · rw [if_neg c3] at h
    refine vv_aload_n dX5_expression_73 rfl 2 rfl ?_
    refine vv_bipush (v := (nI 124)) dX5_expression_74 (by decide) ?_
    refine vv_aload_n dX5_expression_76 rfl 0 rfl ?_
    refine vv_iload_n dX5_expression_77 rfl 1 rfl ?_
    replace h := isO_o h; obtain ⟨fz7, sz7, ez7, h⟩ := h
    replace h := bd_o h; obtain ⟨r6, er6, h⟩ := h
    rcases r6 with r8 | r8x
    · refine vv_callV ok_X5_and q1067 (m_KX5_and hG hH hex er6 d) rfl (by omega) ⟨_, _, _, _, _, ez7, by rw [hG.1]; rfl⟩ rfl rfl (Nat.le_of_ble_eq_true rfl) dX5_expression_78 ?_
      replace h := xb_l h
      replace h := isO_o h; obtain ⟨fz10, sz10, ez10, h⟩ := h
      replace h := bd_o h; obtain ⟨r9, er9, h⟩ := h
      refine vv_callV ok_X8_add q1159 (m_KX8_add hG hH er9 d) rfl (by omega) ⟨_, _, _, _, _, ez10, by rw [hG.1]; rfl⟩ rfl rfl (Nat.le_of_ble_eq_true rfl) dX5_expression_81 ?_
      refine vv_goto (tgt := 64) dX5_expression_84 (by decide) ?_
      exact hk64 h
    · cases h
      exact vv_callVX ok_X5_and q1067 (m_KX5_and hG hH hex er6 d) rfl (by omega) ⟨_, _, _, _, _, ez7, by rw [hG.1]; rfl⟩ rfl rfl (Nat.le_of_ble_eq_true rfl) dX5_expression_78 (vv_Tout (by intro x hx; cases hx))
theorem v_KX5_expression_64 {l : Launch} {G : vv_G} {d : Nat} {ad : Nat → Nat} {ex : Nat → Int32 → vv_S → Option (hX (Nat × vv_S))} (hG : vv_gok G) (hH : vv_hy l G ad) (hex : ∀ {a : Nat} {n : Int32} {σ : vv_S} {r : hX (Nat × vv_S)}, ex a n σ = some r → vv_Met l G MX5_expression d [.ref a, .int n] σ (xR r)) : ∀ (n : Nat) {x0 : Nat} {x1 : Int32} {x2 : Nat} {σ : vv_S} {r : hX (Nat × vv_S)}, KX5_expression_64 ex ad n x0 x1 x2 σ = some r → vv_V l G MX5_expression (d + 13) 64 [(0, .ref x0), (1, .int x1), (2, .ref x2)] [] σ (xR r) := by
  intro n
  induction n with
  | zero => intro _ _ _ _ _ h; cases h
  | succ n ih => intro _ _ _ _ _ h; exact vb_KX5_expression_64 hG hH hex ih h
def KX5_expression_47 (ex : Nat → Int32 → vv_S → Option (hX (Nat × vv_S))) (ad : Nat → Nat) (s0 : Nat) (s1 : Int32) (x0 : Nat) (x1 : Int32) (σ : vv_S) : Option (hX (Nat × vv_S)) := (isO σ s0 4).bind fun _ => (KX5_want s0 s1 (nI 2) σ).bind fun r1 => xb r1 fun r3 => (some (nwO r3 7 [.null, .null] 2)).bind fun σ4 => (isO σ4 x0 4).bind fun _ => (KX5_and ex ad x0 x1 σ4).bind fun r5 => xb r5 fun r7 => (KX8_init ad r3.2.1 r7.1 r7.2).bind fun r8 => KX5_expression_64 ex ad NN x0 x1 r3.2.1 r8
theorem v_KX5_expression_47 {l : Launch} {G : vv_G} {d : Nat} {ad : Nat → Nat} {ex : Nat → Int32 → vv_S → Option (hX (Nat × vv_S))} (hG : vv_gok G) (hH : vv_hy l G ad) (hex : ∀ {a : Nat} {n : Int32} {σ : vv_S} {r : hX (Nat × vv_S)}, ex a n σ = some r → vv_Met l G MX5_expression d [.ref a, .int n] σ (xR r)) {s0 : Nat} {s1 : Int32} {x0 : Nat} {x1 : Int32} {σ : vv_S} {r : hX (Nat × vv_S)} (h : KX5_expression_47 ex ad s0 s1 x0 x1 σ = some r) : vv_V l G MX5_expression (d + 13) 47 [(0, .ref x0), (1, .int x1)] [.int s1, .ref s0] σ (xR r) := by
  unfold KX5_expression_47 at h
  refine vv_iconst (v := (nI 2)) dX5_expression_47 (by decide) ?_
  replace h := isO_o h; obtain ⟨fz2, sz2, ez2, h⟩ := h
  replace h := bd_o h; obtain ⟨r1, er1, h⟩ := h
  rcases r1 with r3 | r3x
  · refine vv_callV ok_X5_want q941 (m_KX5_want hG hH er1 d) rfl (by omega) ⟨_, _, _, _, _, ez2, by rw [hG.1]; rfl⟩ rfl rfl (Nat.le_of_ble_eq_true rfl) dX5_expression_48 ?_
    replace h := xb_l h
    obtain ⟨σ4, uσ4, h⟩ := bd_s h
    refine vv_new (nw_X5_149 hG) dX5_expression_51 ?_
    refine vv_sg uσ4 ?_
    refine vv_dup dX5_expression_54 rfl ?_
    refine vv_aload_n dX5_expression_55 rfl 0 rfl ?_
    refine vv_iload_n dX5_expression_56 rfl 1 rfl ?_
    replace h := isO_o h; obtain ⟨fz6, sz6, ez6, h⟩ := h
    replace h := bd_o h; obtain ⟨r5, er5, h⟩ := h
    rcases r5 with r7 | r7x
    · refine vv_callV ok_X5_and q1067 (m_KX5_and hG hH hex er5 d) rfl (by omega) ⟨_, _, _, _, _, ez6, by rw [hG.1]; rfl⟩ rfl rfl (Nat.le_of_ble_eq_true rfl) dX5_expression_57 ?_
      replace h := xb_l h
      replace h := bd_o h; obtain ⟨r8, er8, h⟩ := h
      refine vv_callI ok_X8_init q1112 (m_KX8_init hG hH er8 d) rfl (by omega) rfl rfl (Nat.le_of_ble_eq_true rfl) dX5_expression_60 ?_
      refine vv_astore_n (lv' := [(0, .ref x0), (1, .int x1), (2, .ref r3.2.1)]) dX5_expression_63 rfl (by decide) [1, 2, 0] rfl ?_
      exact v_KX5_expression_64 hG hH hex NN h
    · cases h
      exact vv_callVX ok_X5_and q1067 (m_KX5_and hG hH hex er5 d) rfl (by omega) ⟨_, _, _, _, _, ez6, by rw [hG.1]; rfl⟩ rfl rfl (Nat.le_of_ble_eq_true rfl) dX5_expression_57 (vv_Tout (by intro x hx; cases hx))
  · cases h
    exact vv_callVX ok_X5_want q941 (m_KX5_want hG hH er1 d) rfl (by omega) ⟨_, _, _, _, _, ez2, by rw [hG.1]; rfl⟩ rfl rfl (Nat.le_of_ble_eq_true rfl) dX5_expression_48 (vv_Tout (by intro x hx; cases hx))
def KX5_expression_31 (ex : Nat → Int32 → vv_S → Option (hX (Nat × vv_S))) (ad : Nat → Nat) (s0 : Nat) (s1 : Int32) (x0 : Nat) (x1 : Int32) (σ : vv_S) : Option (hX (Nat × vv_S)) := (isO σ s0 4).bind fun _ => (KX5_want s0 s1 (nI 1) σ).bind fun r1 => xb r1 fun r3 => if (nI 6) ≤ x1 then (KX5_expression_47 ex ad x0 (nI 0) x0 x1 r3) else (KX5_expression_47 ex ad x0 (nI 1) x0 x1 r3)
theorem v_KX5_expression_31 {l : Launch} {G : vv_G} {d : Nat} {ad : Nat → Nat} {ex : Nat → Int32 → vv_S → Option (hX (Nat × vv_S))} (hG : vv_gok G) (hH : vv_hy l G ad) (hex : ∀ {a : Nat} {n : Int32} {σ : vv_S} {r : hX (Nat × vv_S)}, ex a n σ = some r → vv_Met l G MX5_expression d [.ref a, .int n] σ (xR r)) {s0 : Nat} {s1 : Int32} {x0 : Nat} {x1 : Int32} {σ : vv_S} {r : hX (Nat × vv_S)} (h : KX5_expression_31 ex ad s0 s1 x0 x1 σ = some r) : vv_V l G MX5_expression (d + 13) 31 [(0, .ref x0), (1, .int x1)] [.int s1, .ref s0] σ (xR r) := by
  unfold KX5_expression_31 at h
  refine vv_iconst (v := (nI 1)) dX5_expression_31 (by decide) ?_
  replace h := isO_o h; obtain ⟨fz2, sz2, ez2, h⟩ := h
  replace h := bd_o h; obtain ⟨r1, er1, h⟩ := h
  rcases r1 with r3 | r3x
  · refine vv_callV ok_X5_want q941 (m_KX5_want hG hH er1 d) rfl (by omega) ⟨_, _, _, _, _, ez2, by rw [hG.1]; rfl⟩ rfl rfl (Nat.le_of_ble_eq_true rfl) dX5_expression_32 ?_
    replace h := xb_l h
    refine vv_aload_n dX5_expression_35 rfl 0 rfl ?_
    refine vv_iload_n dX5_expression_36 rfl 1 rfl ?_
    refine vv_bipush (v := (nI 6)) dX5_expression_37 (by decide) ?_
    refine vv_icmp_ge (tgt := 46) dX5_expression_39 (by decide) (fun c4 => ?_) (fun c4 => ?_)
    · rw [if_pos c4] at h
      refine vv_iconst (v := (nI 0)) dX5_expression_46 (by decide) ?_
      exact v_KX5_expression_47 hG hH hex h
    · rw [if_neg c4] at h
      refine vv_iconst (v := (nI 1)) dX5_expression_42 (by decide) ?_
      refine vv_goto (tgt := 47) dX5_expression_43 (by decide) ?_
      exact v_KX5_expression_47 hG hH hex h
  · cases h
    exact vv_callVX ok_X5_want q941 (m_KX5_want hG hH er1 d) rfl (by omega) ⟨_, _, _, _, _, ez2, by rw [hG.1]; rfl⟩ rfl rfl (Nat.le_of_ble_eq_true rfl) dX5_expression_32 (vv_Tout (by intro x hx; cases hx))
def KX5_expression_26 (ex : Nat → Int32 → vv_S → Option (hX (Nat × vv_S))) (ad : Nat → Nat) (s0 : Nat) (x0 : Nat) (x1 : Int32) (σ : vv_S) : Option (hX (Nat × vv_S)) := KX5_expression_31 ex ad s0 (nI 1) x0 x1 σ
theorem v_KX5_expression_26 {l : Launch} {G : vv_G} {d : Nat} {ad : Nat → Nat} {ex : Nat → Int32 → vv_S → Option (hX (Nat × vv_S))} (hG : vv_gok G) (hH : vv_hy l G ad) (hex : ∀ {a : Nat} {n : Int32} {σ : vv_S} {r : hX (Nat × vv_S)}, ex a n σ = some r → vv_Met l G MX5_expression d [.ref a, .int n] σ (xR r)) {s0 : Nat} {x0 : Nat} {x1 : Int32} {σ : vv_S} {r : hX (Nat × vv_S)} (h : KX5_expression_26 ex ad s0 x0 x1 σ = some r) : vv_V l G MX5_expression (d + 13) 26 [(0, .ref x0), (1, .int x1)] [.ref s0] σ (xR r) := by
  unfold KX5_expression_26 at h
  refine vv_iconst (v := (nI 1)) dX5_expression_26 (by decide) ?_
  refine vv_goto (tgt := 31) dX5_expression_27 (by decide) ?_
  exact v_KX5_expression_31 hG hH hex h
def KX5_expression (ex : Nat → Int32 → vv_S → Option (hX (Nat × vv_S))) (ad : Nat → Nat) (x0 : Nat) (x1 : Int32) (σ : vv_S) : Option (hX (Nat × vv_S)) := (gI σ x0 4 5).bind fun v1 => if v1 = (nI 2) then (KX5_expression_26 ex ad x0 x0 x1 σ) else ((gI σ x0 4 5).bind fun v3 => if v3 = (nI 1) then (KX5_expression_26 ex ad x0 x0 x1 σ) else ((isO σ x0 4).bind fun _ => (KX5_isSign x0 (nI 40) σ).bind fun r5 => if r5 = 0 then (KX5_expression_31 ex ad x0 (nI 0) x0 x1 σ) else (KX5_expression_26 ex ad x0 x0 x1 σ)))
theorem v_KX5_expression_0 {l : Launch} {G : vv_G} {d : Nat} {ad : Nat → Nat} {ex : Nat → Int32 → vv_S → Option (hX (Nat × vv_S))} (hG : vv_gok G) (hH : vv_hy l G ad) (hex : ∀ {a : Nat} {n : Int32} {σ : vv_S} {r : hX (Nat × vv_S)}, ex a n σ = some r → vv_Met l G MX5_expression d [.ref a, .int n] σ (xR r)) {x0 : Nat} {x1 : Int32} {σ : vv_S} {r : hX (Nat × vv_S)} (h : KX5_expression ex ad x0 x1 σ = some r) : vv_V l G MX5_expression (d + 13) 0 [(0, .ref x0), (1, .int x1)] [] σ (xR r) := by
  unfold KX5_expression at h
  refine vv_aload_n dX5_expression_0 rfl 0 rfl ?_
  refine vv_aload_n dX5_expression_1 rfl 0 rfl ?_
  replace h := gI_o h; obtain ⟨v1, fv1, sv1, ev1, lv1, h⟩ := h
  refine vv_get (fl_X5_71 hG) ev1 lv1 dX5_expression_2 ?_
  refine vv_iconst (v := (nI 2)) dX5_expression_5 (by decide) ?_
  refine vv_icmp_eq (tgt := 26) dX5_expression_6 (by decide) (fun c2 => ?_) (fun c2 => ?_)
  · rw [if_pos c2] at h
    exact v_KX5_expression_26 hG hH hex h
  · rw [if_neg c2] at h
    refine vv_aload_n dX5_expression_9 rfl 0 rfl ?_
    replace h := gI_o h; obtain ⟨v3, fv3, sv3, ev3, lv3, h⟩ := h
    refine vv_get (fl_X5_71 hG) ev3 lv3 dX5_expression_10 ?_
    refine vv_iconst (v := (nI 1)) dX5_expression_13 (by decide) ?_
    refine vv_icmp_eq (tgt := 26) dX5_expression_14 (by decide) (fun c4 => ?_) (fun c4 => ?_)
    · rw [if_pos c4] at h
      exact v_KX5_expression_26 hG hH hex h
    · rw [if_neg c4] at h
      refine vv_aload_n dX5_expression_17 rfl 0 rfl ?_
      refine vv_bipush (v := (nI 40)) dX5_expression_18 (by decide) ?_
      replace h := isO_o h; obtain ⟨fz6, sz6, ez6, h⟩ := h
      replace h := bd_o h; obtain ⟨r5, er5, h⟩ := h
      refine vv_callV ok_X5_isSign q1061 (m_KX5_isSign hG hH er5 d) rfl (by omega) ⟨_, _, _, _, _, ez6, by rw [hG.1]; rfl⟩ rfl rfl (Nat.le_of_ble_eq_true rfl) dX5_expression_20 ?_
      refine vv_if_eq (tgt := 30) dX5_expression_23 (by decide) (fun c7 => ?_) (fun c7 => ?_)
      · rw [if_pos c7] at h
        refine vv_iconst (v := (nI 0)) dX5_expression_30 (by decide) ?_
        exact v_KX5_expression_31 hG hH hex h
      · rw [if_neg c7] at h
        exact v_KX5_expression_26 hG hH hex h
theorem m_KX5_expression {l : Launch} {G : vv_G} {d : Nat} {ad : Nat → Nat} {ex : Nat → Int32 → vv_S → Option (hX (Nat × vv_S))} (hG : vv_gok G) (hH : vv_hy l G ad) (hex : ∀ {a : Nat} {n : Int32} {σ : vv_S} {r : hX (Nat × vv_S)}, ex a n σ = some r → vv_Met l G MX5_expression d [.ref a, .int n] σ (xR r)) {x0 : Nat} {x1 : Int32} {σ : vv_S} {r : hX (Nat × vv_S)} (h : KX5_expression ex ad x0 x1 σ = some r) (d9 : Nat) (e9 : d9 = d := by rfl) : vv_Met l G MX5_expression (d9 + 13) [.ref x0, .int x1] σ (xR r) := by
  subst e9
  exact vv_head (by decide +kernel) rfl (Nat.le_of_ble_eq_true rfl) rfl (v_KX5_expression_0 hG hH hex h)

/-! expression, tied -/
def KX5_expN (ad : Nat → Nat) : Nat → Nat → Int32 → vv_S → Option (hX (Nat × vv_S))
  | 0 => fun _ _ _ => none
  | n + 1 => fun a k σ => KX5_expression (KX5_expN ad n) ad a k σ
theorem m_KX5_expN {l : Launch} {G : vv_G} {ad : Nat → Nat} (hG : vv_gok G) (hH : vv_hy l G ad) : ∀ (n d : Nat) {a : Nat} {k : Int32} {σ : vv_S} {r : hX (Nat × vv_S)}, KX5_expN ad n a k σ = some r → vv_Met l G MX5_expression (d + 13 * n) [.ref a, .int k] σ (xR r)
  | 0, d, _, _, _, _, h => by cases h
  | n + 1, d, _, _, _, _, h => m_KX5_expression hG hH (fun h9 => m_KX5_expN hG hH n d h9) h (d + 13 * n)
def KX5_expT (ad : Nat → Nat) (a : Nat) (k : Int32) (σ : vv_S) : Option (hX (Nat × vv_S)) := KX5_expN ad 8 a k σ
theorem m_KX5_expressionT {l : Launch} {G : vv_G} {ad : Nat → Nat} (hG : vv_gok G) (hH : vv_hy l G ad) {a : Nat} {k : Int32} {σ : vv_S} {r : hX (Nat × vv_S)} (h : KX5_expT ad a k σ = some r) (d : Nat) : vv_Met l G MX5_expression (d + 112) [.ref a, .int k] σ (xR r) := m_KX5_expN hG hH 8 (d + 8) h
/-! ('X5', 'line') -/
def KX5_line_111 (ad : Nat → Nat) (x0 : Nat) (σ : vv_S) : Option (hX vv_S) := (isO σ x0 4).bind fun _ => (KX5_isSign x0 (nI 59) σ).bind fun r1 => (isO σ x0 4).bind fun _ => (KX5_want x0 r1 (nI 1) σ).bind fun r3 => xb r3 fun r5 => (isO r5 x0 4).bind fun _ => (KX5_next ad x0 r5).bind fun r6 => some (.inl r6)
theorem v_KX5_line_111 {l : Launch} {G : vv_G} {d : Nat} {ad : Nat → Nat} (hG : vv_gok G) (hH : vv_hy l G ad) {x0 : Nat} {σ : vv_S} {r : hX vv_S} (h : KX5_line_111 ad x0 σ = some r) : vv_V l G MX5_line (d + 113) 111 [(0, .ref x0)] [] σ (xU r) := by
  unfold KX5_line_111 at h
  refine vv_aload_n dX5_line_111 rfl 0 rfl ?_
  refine vv_aload_n dX5_line_112 rfl 0 rfl ?_
  refine vv_bipush (v := (nI 59)) dX5_line_113 (by decide) ?_
  replace h := isO_o h; obtain ⟨fz2, sz2, ez2, h⟩ := h
  replace h := bd_o h; obtain ⟨r1, er1, h⟩ := h
  refine vv_callV ok_X5_isSign q1061 (m_KX5_isSign hG hH er1 d) rfl (by omega) ⟨_, _, _, _, _, ez2, by rw [hG.1]; rfl⟩ rfl rfl (Nat.le_of_ble_eq_true rfl) dX5_line_115 ?_
  refine vv_iconst (v := (nI 1)) dX5_line_118 (by decide) ?_
  replace h := isO_o h; obtain ⟨fz4, sz4, ez4, h⟩ := h
  replace h := bd_o h; obtain ⟨r3, er3, h⟩ := h
  rcases r3 with r5 | r5x
  · refine vv_callV ok_X5_want q941 (m_KX5_want hG hH er3 d) rfl (by omega) ⟨_, _, _, _, _, ez4, by rw [hG.1]; rfl⟩ rfl rfl (Nat.le_of_ble_eq_true rfl) dX5_line_119 ?_
    replace h := xb_l h
    refine vv_aload_n dX5_line_122 rfl 0 rfl ?_
    replace h := isO_o h; obtain ⟨fz7, sz7, ez7, h⟩ := h
    replace h := bd_o h; obtain ⟨r6, er6, h⟩ := h
    refine vv_callV ok_X5_next q822 (m_KX5_next hG hH er6 d) rfl (by omega) ⟨_, _, _, _, _, ez7, by rw [hG.1]; rfl⟩ rfl rfl (Nat.le_of_ble_eq_true rfl) dX5_line_123 ?_
    cases h
    exact vv_vret rfl dX5_line_126
  · cases h
    exact vv_callVX ok_X5_want q941 (m_KX5_want hG hH er3 d) rfl (by omega) ⟨_, _, _, _, _, ez4, by rw [hG.1]; rfl⟩ rfl rfl (Nat.le_of_ble_eq_true rfl) dX5_line_119 (vv_Tout (by intro x hx; cases hx))
def KX5_line_50 (ad : Nat → Nat) (x0 : Nat) (σ : vv_S) : Option (hX vv_S) := (isO σ x0 4).bind fun _ => (KX5_is x0 (ad 20) σ).bind fun r1 => (isO σ x0 4).bind fun _ => (KX5_crate ad x0 r1 σ).bind fun r3 => xb r3 fun r5 => KX5_line_111 ad x0 r5
theorem v_KX5_line_50 {l : Launch} {G : vv_G} {d : Nat} {ad : Nat → Nat} (hG : vv_gok G) (hH : vv_hy l G ad) {x0 : Nat} {σ : vv_S} {r : hX vv_S} (h : KX5_line_50 ad x0 σ = some r) : vv_V l G MX5_line (d + 113) 50 [(0, .ref x0)] [] σ (xU r) := by
  unfold KX5_line_50 at h
  refine vv_aload_n dX5_line_50 rfl 0 rfl ?_
  refine vv_aload_n dX5_line_51 rfl 0 rfl ?_
  refine vv_lds (st_10 hH) dX5_line_52 ?_
  replace h := isO_o h; obtain ⟨fz2, sz2, ez2, h⟩ := h
  replace h := bd_o h; obtain ⟨r1, er1, h⟩ := h
  refine vv_callV ok_X5_is q916 (m_KX5_is hG hH er1 d) rfl (by omega) ⟨_, _, _, _, _, ez2, by rw [hG.1]; rfl⟩ rfl rfl (Nat.le_of_ble_eq_true rfl) dX5_line_54 ?_
  replace h := isO_o h; obtain ⟨fz4, sz4, ez4, h⟩ := h
  replace h := bd_o h; obtain ⟨r3, er3, h⟩ := h
  rcases r3 with r5 | r5x
  · refine vv_callV ok_X5_crate q1047 (m_KX5_crate hG hH er3 d) rfl (by omega) ⟨_, _, _, _, _, ez4, by rw [hG.1]; rfl⟩ rfl rfl (Nat.le_of_ble_eq_true rfl) dX5_line_57 ?_
    replace h := xb_l h
    refine vv_goto (tgt := 111) dX5_line_60 (by decide) ?_
    exact v_KX5_line_111 hG hH h
  · cases h
    exact vv_callVX ok_X5_crate q1047 (m_KX5_crate hG hH er3 d) rfl (by omega) ⟨_, _, _, _, _, ez4, by rw [hG.1]; rfl⟩ rfl rfl (Nat.le_of_ble_eq_true rfl) dX5_line_57 (vv_Tout (by intro x hx; cases hx))
def KX5_line_91 (ad : Nat → Nat) (s0 : Nat) (s1 : Int32) (x0 : Nat) (σ : vv_S) : Option (hX vv_S) := (isO σ s0 4).bind fun _ => (KX5_want s0 s1 (nI 5) σ).bind fun r1 => xb r1 fun r3 => (isO r3 x0 4).bind fun _ => (KX5_next ad x0 r3).bind fun r4 => (gR r4 x0 4 1).bind fun v6 => (isO r4 x0 4).bind fun _ => (KX5_expT ad x0 (nI 0) r4).bind fun r7 => xb r7 fun r9 => (pF r9.2 v6 1 4 (.ref r9.1)).bind fun σ10 => KX5_line_111 ad x0 σ10
theorem v_KX5_line_91 {l : Launch} {G : vv_G} {d : Nat} {ad : Nat → Nat} (hG : vv_gok G) (hH : vv_hy l G ad) {s0 : Nat} {s1 : Int32} {x0 : Nat} {σ : vv_S} {r : hX vv_S} (h : KX5_line_91 ad s0 s1 x0 σ = some r) : vv_V l G MX5_line (d + 113) 91 [(0, .ref x0)] [.int s1, .ref s0] σ (xU r) := by
  unfold KX5_line_91 at h
  refine vv_iconst (v := (nI 5)) dX5_line_91 (by decide) ?_
  replace h := isO_o h; obtain ⟨fz2, sz2, ez2, h⟩ := h
  replace h := bd_o h; obtain ⟨r1, er1, h⟩ := h
  rcases r1 with r3 | r3x
  · refine vv_callV ok_X5_want q941 (m_KX5_want hG hH er1 d) rfl (by omega) ⟨_, _, _, _, _, ez2, by rw [hG.1]; rfl⟩ rfl rfl (Nat.le_of_ble_eq_true rfl) dX5_line_92 ?_
    replace h := xb_l h
    refine vv_aload_n dX5_line_95 rfl 0 rfl ?_
    replace h := isO_o h; obtain ⟨fz5, sz5, ez5, h⟩ := h
    replace h := bd_o h; obtain ⟨r4, er4, h⟩ := h
    refine vv_callV ok_X5_next q822 (m_KX5_next hG hH er4 d) rfl (by omega) ⟨_, _, _, _, _, ez5, by rw [hG.1]; rfl⟩ rfl rfl (Nat.le_of_ble_eq_true rfl) dX5_line_96 ?_
    refine vv_aload_n dX5_line_99 rfl 0 rfl ?_
    replace h := gR_o h; obtain ⟨v6, fv6, sv6, ev6, lv6, h⟩ := h
    refine vv_get (fl_X5_18 hG) ev6 lv6 dX5_line_100 ?_
    refine vv_aload_n dX5_line_103 rfl 0 rfl ?_
    refine vv_iconst (v := (nI 0)) dX5_line_104 (by decide) ?_
    replace h := isO_o h; obtain ⟨fz8, sz8, ez8, h⟩ := h
    replace h := bd_o h; obtain ⟨r7, er7, h⟩ := h
    rcases r7 with r9 | r9x
    · refine vv_callV ok_X5_expression q1057 (m_KX5_expressionT hG hH er7 d) rfl (by omega) ⟨_, _, _, _, _, ez8, by rw [hG.1]; rfl⟩ rfl rfl (Nat.le_of_ble_eq_true rfl) dX5_line_105 ?_
      replace h := xb_l h
      replace h := pF_o h; obtain ⟨σ10, sσ10, eσ10, lσ10, uσ10, h⟩ := h
      refine vv_putM (ty := (.object "LuckCrates$Form")) (fl_X5_261 hH) (fun C T' N h9 => by rw [hG.1] at h9; cases h9; exact ⟨rfl, by decide +kernel⟩) eσ10 rfl rfl lσ10 dX5_line_108 ?_
      refine vv_sg uσ10 ?_
      exact v_KX5_line_111 hG hH h
    · cases h
      exact vv_callVX ok_X5_expression q1057 (m_KX5_expressionT hG hH er7 d) rfl (by omega) ⟨_, _, _, _, _, ez8, by rw [hG.1]; rfl⟩ rfl rfl (Nat.le_of_ble_eq_true rfl) dX5_line_105 (vv_Tout (by intro x hx; cases hx))
  · cases h
    exact vv_callVX ok_X5_want q941 (m_KX5_want hG hH er1 d) rfl (by omega) ⟨_, _, _, _, _, ez2, by rw [hG.1]; rfl⟩ rfl rfl (Nat.le_of_ble_eq_true rfl) dX5_line_92 (vv_Tout (by intro x hx; cases hx))
def KX5_line (ad : Nat → Nat) (x0 : Nat) (σ : vv_S) : Option (hX vv_S) := (isO σ x0 4).bind fun _ => (KX5_is x0 (ad 17) σ).bind fun r1 => if r1 = 0 then ((isO σ x0 4).bind fun _ => (KX5_is x0 (ad 18) σ).bind fun r4 => if r4 = 0 then ((isO σ x0 4).bind fun _ => (KX5_is x0 (ad 19) σ).bind fun r7 => if r7 = 0 then ((isO σ x0 4).bind fun _ => (KX5_is x0 (ad 20) σ).bind fun r10 => if r10 = 0 then ((isO σ x0 4).bind fun _ => (KX5_is x0 (ad 22) σ).bind fun r13 => (isO σ x0 4).bind fun _ => (KX5_want x0 r13 (nI 1) σ).bind fun r15 => xb r15 fun r17 => (gR r17 x0 4 1).bind fun v18 => (gV r17 v18 1 4).bind fun v19 => (nlV v19).bind fun b20 => if b20 = true then (KX5_line_91 ad x0 (nI 1) x0 r17) else (KX5_line_91 ad x0 (nI 0) x0 r17)) else (KX5_line_50 ad x0 σ)) else (KX5_line_50 ad x0 σ)) else ((isO σ x0 4).bind fun _ => (KX5_way ad x0 σ).bind fun r22 => xb r22 fun r24 => KX5_line_111 ad x0 r24)) else ((isO σ x0 4).bind fun _ => (KX5_town ad x0 σ).bind fun r25 => xb r25 fun r27 => KX5_line_111 ad x0 r27)
theorem v_KX5_line_0 {l : Launch} {G : vv_G} {d : Nat} {ad : Nat → Nat} (hG : vv_gok G) (hH : vv_hy l G ad) {x0 : Nat} {σ : vv_S} {r : hX vv_S} (h : KX5_line ad x0 σ = some r) : vv_V l G MX5_line (d + 113) 0 [(0, .ref x0)] [] σ (xU r) := by
  unfold KX5_line at h
  refine vv_aload_n dX5_line_0 rfl 0 rfl ?_
  refine vv_lds (st_7 hH) dX5_line_1 ?_
  replace h := isO_o h; obtain ⟨fz2, sz2, ez2, h⟩ := h
  replace h := bd_o h; obtain ⟨r1, er1, h⟩ := h
  refine vv_callV ok_X5_is q916 (m_KX5_is hG hH er1 d) rfl (by omega) ⟨_, _, _, _, _, ez2, by rw [hG.1]; rfl⟩ rfl rfl (Nat.le_of_ble_eq_true rfl) dX5_line_3 ?_
  refine vv_if_eq (tgt := 16) dX5_line_6 (by decide) (fun c3 => ?_) (fun c3 => ?_)
  · rw [if_pos c3] at h
    refine vv_aload_n dX5_line_16 rfl 0 rfl ?_
    refine vv_lds (st_8 hH) dX5_line_17 ?_
    replace h := isO_o h; obtain ⟨fz5, sz5, ez5, h⟩ := h
    replace h := bd_o h; obtain ⟨r4, er4, h⟩ := h
    refine vv_callV ok_X5_is q916 (m_KX5_is hG hH er4 d) rfl (by omega) ⟨_, _, _, _, _, ez5, by rw [hG.1]; rfl⟩ rfl rfl (Nat.le_of_ble_eq_true rfl) dX5_line_19 ?_
    refine vv_if_eq (tgt := 32) dX5_line_22 (by decide) (fun c6 => ?_) (fun c6 => ?_)
    · rw [if_pos c6] at h
      refine vv_aload_n dX5_line_32 rfl 0 rfl ?_
      refine vv_lds (st_9 hH) dX5_line_33 ?_
      replace h := isO_o h; obtain ⟨fz8, sz8, ez8, h⟩ := h
      replace h := bd_o h; obtain ⟨r7, er7, h⟩ := h
      refine vv_callV ok_X5_is q916 (m_KX5_is hG hH er7 d) rfl (by omega) ⟨_, _, _, _, _, ez8, by rw [hG.1]; rfl⟩ rfl rfl (Nat.le_of_ble_eq_true rfl) dX5_line_35 ?_
      refine vv_if_ne (tgt := 50) dX5_line_38 (by decide) (fun c9 => ?_) (fun c9 => ?_)
      · rw [if_neg c9] at h
        exact v_KX5_line_50 hG hH h
      · rw [if_pos c9] at h
        refine vv_aload_n dX5_line_41 rfl 0 rfl ?_
        refine vv_lds (st_10 hH) dX5_line_42 ?_
        replace h := isO_o h; obtain ⟨fz11, sz11, ez11, h⟩ := h
        replace h := bd_o h; obtain ⟨r10, er10, h⟩ := h
        refine vv_callV ok_X5_is q916 (m_KX5_is hG hH er10 d) rfl (by omega) ⟨_, _, _, _, _, ez11, by rw [hG.1]; rfl⟩ rfl rfl (Nat.le_of_ble_eq_true rfl) dX5_line_44 ?_
        refine vv_if_eq (tgt := 63) dX5_line_47 (by decide) (fun c12 => ?_) (fun c12 => ?_)
        · rw [if_pos c12] at h
          refine vv_aload_n dX5_line_63 rfl 0 rfl ?_
          refine vv_aload_n dX5_line_64 rfl 0 rfl ?_
          refine vv_ldsw (st_12 hH) dX5_line_65 ?_
          replace h := isO_o h; obtain ⟨fz14, sz14, ez14, h⟩ := h
          replace h := bd_o h; obtain ⟨r13, er13, h⟩ := h
          refine vv_callV ok_X5_is q916 (m_KX5_is hG hH er13 d) rfl (by omega) ⟨_, _, _, _, _, ez14, by rw [hG.1]; rfl⟩ rfl rfl (Nat.le_of_ble_eq_true rfl) dX5_line_68 ?_
          refine vv_iconst (v := (nI 1)) dX5_line_71 (by decide) ?_
          replace h := isO_o h; obtain ⟨fz16, sz16, ez16, h⟩ := h
          replace h := bd_o h; obtain ⟨r15, er15, h⟩ := h
          rcases r15 with r17 | r17x
          · refine vv_callV ok_X5_want q941 (m_KX5_want hG hH er15 d) rfl (by omega) ⟨_, _, _, _, _, ez16, by rw [hG.1]; rfl⟩ rfl rfl (Nat.le_of_ble_eq_true rfl) dX5_line_72 ?_
            replace h := xb_l h
            refine vv_aload_n dX5_line_75 rfl 0 rfl ?_
            refine vv_aload_n dX5_line_76 rfl 0 rfl ?_
            replace h := gR_o h; obtain ⟨v18, fv18, sv18, ev18, lv18, h⟩ := h
            refine vv_get (fl_X5_18 hG) ev18 lv18 dX5_line_77 ?_
            replace h := gV_o h; obtain ⟨v19, fv19, sv19, ev19, lv19, h⟩ := h
            refine vv_getM (fl_X5_261 hH) ev19 lv19 dX5_line_80 ?_
            replace h := nl_o h
            rcases h with ⟨nb20, h⟩ | ⟨a21, nb20, h⟩
            · subst nb20
              rw [if_pos rfl] at h
              refine vv_ifnonnullN dX5_line_83 ?_
              refine vv_iconst (v := (nI 1)) dX5_line_86 (by decide) ?_
              refine vv_goto (tgt := 91) dX5_line_87 (by decide) ?_
              exact v_KX5_line_91 hG hH h
            · subst nb20
              rw [if_neg (by decide)] at h
              refine vv_ifnonnull (tgt := 90) dX5_line_83 (by decide) ?_
              refine vv_iconst (v := (nI 0)) dX5_line_90 (by decide) ?_
              exact v_KX5_line_91 hG hH h
          · cases h
            exact vv_callVX ok_X5_want q941 (m_KX5_want hG hH er15 d) rfl (by omega) ⟨_, _, _, _, _, ez16, by rw [hG.1]; rfl⟩ rfl rfl (Nat.le_of_ble_eq_true rfl) dX5_line_72 (vv_Tout (by intro x hx; cases hx))
        · rw [if_neg c12] at h
          exact v_KX5_line_50 hG hH h
    · rw [if_neg c6] at h
      refine vv_aload_n dX5_line_25 rfl 0 rfl ?_
      replace h := isO_o h; obtain ⟨fz23, sz23, ez23, h⟩ := h
      replace h := bd_o h; obtain ⟨r22, er22, h⟩ := h
      rcases r22 with r24 | r24x
      · refine vv_callV ok_X5_way q1000 (m_KX5_way hG hH er22 d) rfl (by omega) ⟨_, _, _, _, _, ez23, by rw [hG.1]; rfl⟩ rfl rfl (Nat.le_of_ble_eq_true rfl) dX5_line_26 ?_
        replace h := xb_l h
        refine vv_goto (tgt := 111) dX5_line_29 (by decide) ?_
        exact v_KX5_line_111 hG hH h
      · cases h
        exact vv_callVX ok_X5_way q1000 (m_KX5_way hG hH er22 d) rfl (by omega) ⟨_, _, _, _, _, ez23, by rw [hG.1]; rfl⟩ rfl rfl (Nat.le_of_ble_eq_true rfl) dX5_line_26 (vv_Tout (by intro x hx; cases hx))
  · rw [if_neg c3] at h
    refine vv_aload_n dX5_line_9 rfl 0 rfl ?_
    replace h := isO_o h; obtain ⟨fz26, sz26, ez26, h⟩ := h
    replace h := bd_o h; obtain ⟨r25, er25, h⟩ := h
    rcases r25 with r27 | r27x
    · refine vv_callV ok_X5_town q936 (m_KX5_town hG hH er25 d) rfl (by omega) ⟨_, _, _, _, _, ez26, by rw [hG.1]; rfl⟩ rfl rfl (Nat.le_of_ble_eq_true rfl) dX5_line_10 ?_
      replace h := xb_l h
      refine vv_goto (tgt := 111) dX5_line_13 (by decide) ?_
      exact v_KX5_line_111 hG hH h
    · cases h
      exact vv_callVX ok_X5_town q936 (m_KX5_town hG hH er25 d) rfl (by omega) ⟨_, _, _, _, _, ez26, by rw [hG.1]; rfl⟩ rfl rfl (Nat.le_of_ble_eq_true rfl) dX5_line_10 (vv_Tout (by intro x hx; cases hx))
theorem m_KX5_line {l : Launch} {G : vv_G} {ad : Nat → Nat} (hG : vv_gok G) (hH : vv_hy l G ad) {x0 : Nat} {σ : vv_S} {r : hX vv_S} (h : KX5_line ad x0 σ = some r) (d : Nat) : vv_Met l G MX5_line (d + 113) [.ref x0] σ (xU r) := vv_head (by decide +kernel) rfl (Nat.le_of_ble_eq_true rfl) rfl (v_KX5_line_0 hG hH h)
/-! ('X5', 'read') -/
def BKX5_read_26 (ad : Nat → Nat) (k26 : Nat → Int32 → vv_S → Option (hX (Nat × vv_S))) (x0 : Nat) (x1 : Int32) (σ : vv_S) : Option (hX (Nat × vv_S)) := if (nI 10) ≤ x1 then ((gR σ x0 4 1).bind fun v2 => some (.inl (v2, σ))) else ((gR σ x0 4 2).bind fun v3 => (gR σ v3 2 6).bind fun v4 => (sI σ v4 x1 (-1)).bind fun σ5 => k26 x0 (x1 + (nI 1)) σ5)
def KX5_read_26 (ad : Nat → Nat) : Nat → Nat → Int32 → vv_S → Option (hX (Nat × vv_S))
  | 0, _, _, _ => none
  | n + 1, x0, x1, σ => BKX5_read_26 ad (KX5_read_26 ad n) x0 x1 σ
theorem vb_KX5_read_26 {l : Launch} {G : vv_G} {d : Nat} {ad : Nat → Nat} (hG : vv_gok G) (hH : vv_hy l G ad) {k26 : Nat → Int32 → vv_S → Option (hX (Nat × vv_S))} (hk26 : ∀ {x0 : Nat} {x1 : Int32} {σ : vv_S} {r : hX (Nat × vv_S)}, k26 x0 x1 σ = some r → vv_V l G MX5_read (d + 114) 26 [(0, .ref x0), (1, .int x1)] [] σ (xR r)) {x0 : Nat} {x1 : Int32} {σ : vv_S} {r : hX (Nat × vv_S)} (h : BKX5_read_26 ad k26 x0 x1 σ = some r) : vv_V l G MX5_read (d + 114) 26 [(0, .ref x0), (1, .int x1)] [] σ (xR r) := by
  unfold BKX5_read_26 at h
  refine vv_iload_n dX5_read_26 rfl 1 rfl ?_
  refine vv_bipush (v := (nI 10)) dX5_read_27 (by decide) ?_
  refine vv_icmp_ge (tgt := 48) dX5_read_29 (by decide) (fun c1 => ?_) (fun c1 => ?_)
  · rw [if_pos c1] at h
    refine vv_aload_n dX5_read_48 rfl 0 rfl ?_
    replace h := gR_o h; obtain ⟨v2, fv2, sv2, ev2, lv2, h⟩ := h
    refine vv_get (fl_X5_18 hG) ev2 lv2 dX5_read_49 ?_
    cases h
    exact vv_aret rfl (by first | exact Or.inl ⟨_, rfl⟩ | exact Or.inr ⟨_, rfl⟩) (Or.inr ⟨_, rfl⟩) dX5_read_52
  · rw [if_neg c1] at h
    refine vv_aload_n dX5_read_32 rfl 0 rfl ?_
    replace h := gR_o h; obtain ⟨v3, fv3, sv3, ev3, lv3, h⟩ := h
    refine vv_get (fl_X5_27 hG) ev3 lv3 dX5_read_33 ?_
    replace h := gR_o h; obtain ⟨v4, fv4, sv4, ev4, lv4, h⟩ := h
    refine vv_getM (fl_X5_238 hH) ev4 lv4 dX5_read_36 ?_
    refine vv_iload_n dX5_read_39 rfl 1 rfl ?_
    refine vv_iconst (v := (-1)) dX5_read_40 (by decide) ?_
    replace h := sI_o h; obtain ⟨σ5, nσ5, qσ5, eσ5, iσ5, uσ5, h⟩ := h
    refine vv_iast eσ5 iσ5 dX5_read_41 ?_
    refine vv_sg uσ5 ?_
    refine vv_iinc (v := (x1 + (nI 1))) (lv' := [(0, .ref x0), (1, .int (x1 + (nI 1)))]) dX5_read_42 1 rfl rfl (by decide) [1, 0] rfl ?_
    refine vv_goto (tgt := 26) dX5_read_45 (by decide) ?_
    exact hk26 h
theorem v_KX5_read_26 {l : Launch} {G : vv_G} {d : Nat} {ad : Nat → Nat} (hG : vv_gok G) (hH : vv_hy l G ad) : ∀ (n : Nat) {x0 : Nat} {x1 : Int32} {σ : vv_S} {r : hX (Nat × vv_S)}, KX5_read_26 ad n x0 x1 σ = some r → vv_V l G MX5_read (d + 114) 26 [(0, .ref x0), (1, .int x1)] [] σ (xR r) := by
  intro n
  induction n with
  | zero => intro _ _ _ _ h; cases h
  | succ n ih => intro _ _ _ _ h; exact vb_KX5_read_26 hG hH ih h
def BKX5_read_4 (ad : Nat → Nat) (k4 : Nat → vv_S → Option (hX (Nat × vv_S))) (x0 : Nat) (σ : vv_S) : Option (hX (Nat × vv_S)) := (gI σ x0 4 5).bind fun v1 => if v1 = 0 then ((gR σ x0 4 1).bind fun v3 => (gI σ v3 1 3).bind fun v4 => KX5_read_26 ad NN x0 v4 σ) else ((isO σ x0 4).bind fun _ => (KX5_line ad x0 σ).bind fun r5 => xb r5 fun r7 => k4 x0 r7)
def KX5_read_4 (ad : Nat → Nat) : Nat → Nat → vv_S → Option (hX (Nat × vv_S))
  | 0, _, _ => none
  | n + 1, x0, σ => BKX5_read_4 ad (KX5_read_4 ad n) x0 σ
theorem vb_KX5_read_4 {l : Launch} {G : vv_G} {d : Nat} {ad : Nat → Nat} (hG : vv_gok G) (hH : vv_hy l G ad) {k4 : Nat → vv_S → Option (hX (Nat × vv_S))} (hk4 : ∀ {x0 : Nat} {σ : vv_S} {r : hX (Nat × vv_S)}, k4 x0 σ = some r → vv_V l G MX5_read (d + 114) 4 [(0, .ref x0)] [] σ (xR r)) {x0 : Nat} {σ : vv_S} {r : hX (Nat × vv_S)} (h : BKX5_read_4 ad k4 x0 σ = some r) : vv_V l G MX5_read (d + 114) 4 [(0, .ref x0)] [] σ (xR r) := by
  unfold BKX5_read_4 at h
  refine vv_aload_n dX5_read_4 rfl 0 rfl ?_
  replace h := gI_o h; obtain ⟨v1, fv1, sv1, ev1, lv1, h⟩ := h
  refine vv_get (fl_X5_71 hG) ev1 lv1 dX5_read_5 ?_
  refine vv_if_eq (tgt := 18) dX5_read_8 (by decide) (fun c2 => ?_) (fun c2 => ?_)
  · rw [if_pos c2] at h
    refine vv_aload_n dX5_read_18 rfl 0 rfl ?_
    replace h := gR_o h; obtain ⟨v3, fv3, sv3, ev3, lv3, h⟩ := h
    refine vv_get (fl_X5_18 hG) ev3 lv3 dX5_read_19 ?_
    replace h := gI_o h; obtain ⟨v4, fv4, sv4, ev4, lv4, h⟩ := h
    refine vv_getM (fl_X5_230 hH) ev4 lv4 dX5_read_22 ?_
    refine vv_istore_n (lv' := [(0, .ref x0), (1, .int v4)]) dX5_read_25 rfl (by decide) [1, 0] rfl ?_
    exact v_KX5_read_26 hG hH NN h
  · rw [if_neg c2] at h
    refine vv_aload_n dX5_read_11 rfl 0 rfl ?_
    replace h := isO_o h; obtain ⟨fz6, sz6, ez6, h⟩ := h
    replace h := bd_o h; obtain ⟨r5, er5, h⟩ := h
    rcases r5 with r7 | r7x
    · refine vv_callV ok_X5_line q911 (m_KX5_line hG hH er5 d) rfl (by omega) ⟨_, _, _, _, _, ez6, by rw [hG.1]; rfl⟩ rfl rfl (Nat.le_of_ble_eq_true rfl) dX5_read_12 ?_
      replace h := xb_l h
      refine vv_goto (tgt := 4) dX5_read_15 (by decide) ?_
      exact hk4 h
    · cases h
      exact vv_callVX ok_X5_line q911 (m_KX5_line hG hH er5 d) rfl (by omega) ⟨_, _, _, _, _, ez6, by rw [hG.1]; rfl⟩ rfl rfl (Nat.le_of_ble_eq_true rfl) dX5_read_12 (vv_Tout (by intro x hx; cases hx))
theorem v_KX5_read_4 {l : Launch} {G : vv_G} {d : Nat} {ad : Nat → Nat} (hG : vv_gok G) (hH : vv_hy l G ad) : ∀ (n : Nat) {x0 : Nat} {σ : vv_S} {r : hX (Nat × vv_S)}, KX5_read_4 ad n x0 σ = some r → vv_V l G MX5_read (d + 114) 4 [(0, .ref x0)] [] σ (xR r) := by
  intro n
  induction n with
  | zero => intro _ _ _ h; cases h
  | succ n ih => intro _ _ _ h; exact vb_KX5_read_4 hG hH ih h
def KX5_read (ad : Nat → Nat) (x0 : Nat) (σ : vv_S) : Option (hX (Nat × vv_S)) := (isO σ x0 4).bind fun _ => (KX5_next ad x0 σ).bind fun r1 => KX5_read_4 ad NN x0 r1
theorem v_KX5_read_0 {l : Launch} {G : vv_G} {d : Nat} {ad : Nat → Nat} (hG : vv_gok G) (hH : vv_hy l G ad) {x0 : Nat} {σ : vv_S} {r : hX (Nat × vv_S)} (h : KX5_read ad x0 σ = some r) : vv_V l G MX5_read (d + 114) 0 [(0, .ref x0)] [] σ (xR r) := by
  unfold KX5_read at h
  refine vv_aload_n dX5_read_0 rfl 0 rfl ?_
  replace h := isO_o h; obtain ⟨fz2, sz2, ez2, h⟩ := h
  replace h := bd_o h; obtain ⟨r1, er1, h⟩ := h
  refine vv_callV ok_X5_next q822 (m_KX5_next hG hH er1 d) rfl (by omega) ⟨_, _, _, _, _, ez2, by rw [hG.1]; rfl⟩ rfl rfl (Nat.le_of_ble_eq_true rfl) dX5_read_1 ?_
  exact v_KX5_read_4 hG hH NN h
theorem m_KX5_read {l : Launch} {G : vv_G} {ad : Nat → Nat} (hG : vv_gok G) (hH : vv_hy l G ad) {x0 : Nat} {σ : vv_S} {r : hX (Nat × vv_S)} (h : KX5_read ad x0 σ = some r) (d : Nat) : vv_Met l G MX5_read (d + 114) [.ref x0] σ (xR r) := vv_head (by decide +kernel) rfl (Nat.le_of_ble_eq_true rfl) rfl (v_KX5_read_0 hG hH h)
/-! ('X8', 'by') -/
def KX8_by_157 (s0 : Int32) : Option Int32 := some s0
theorem v_KX8_by_157 {l : Launch} {G : vv_G} {d : Nat} {ad : Nat → Nat} {σ : vv_S} (hG : vv_gok G) (hH : vv_hy l G ad) {s0 : Int32} {r : Int32} (h : KX8_by_157 s0 = some r) : vv_V l G MX8_by (d + 0) 157 [] [.int s0] σ (.inl (some (.int r)), σ) := by
  unfold KX8_by_157 at h
  cases h
  exact vv_iret rfl dX8_by_157
def KX8_by_146 (s0 : Int32) : Option Int32 := some s0
theorem v_KX8_by_146 {l : Launch} {G : vv_G} {d : Nat} {ad : Nat → Nat} {σ : vv_S} (hG : vv_gok G) (hH : vv_hy l G ad) {s0 : Int32} {r : Int32} (h : KX8_by_146 s0 = some r) : vv_V l G MX8_by (d + 0) 146 [] [.int s0] σ (.inl (some (.int r)), σ) := by
  unfold KX8_by_146 at h
  cases h
  exact vv_iret rfl dX8_by_146
def KX8_by_185 (s0 : Int32) : Option Int32 := some s0
theorem v_KX8_by_185 {l : Launch} {G : vv_G} {d : Nat} {ad : Nat → Nat} {σ : vv_S} (hG : vv_gok G) (hH : vv_hy l G ad) {s0 : Int32} {r : Int32} (h : KX8_by_185 s0 = some r) : vv_V l G MX8_by (d + 0) 185 [] [.int s0] σ (.inl (some (.int r)), σ) := by
  unfold KX8_by_185 at h
  cases h
  exact vv_iret rfl dX8_by_185
def KX8_by_180 : Option Int32 := KX8_by_185 (nI 1)
theorem v_KX8_by_180 {l : Launch} {G : vv_G} {d : Nat} {ad : Nat → Nat} {σ : vv_S} (hG : vv_gok G) (hH : vv_hy l G ad) {r : Int32} (h : KX8_by_180 = some r) : vv_V l G MX8_by (d + 0) 180 [] [] σ (.inl (some (.int r)), σ) := by
  unfold KX8_by_180 at h
  refine vv_iconst (v := (nI 1)) dX8_by_180 (by decide) ?_
  refine vv_goto (tgt := 185) dX8_by_181 (by decide) ?_
  exact v_KX8_by_185 hG hH h
def KX8_by_172 (x1 : Int32) (x2 : Int32) : Option Int32 := if x1 = 0 then (if x2 = 0 then (KX8_by_185 (nI 0)) else (KX8_by_180)) else (KX8_by_180)
theorem v_KX8_by_172 {l : Launch} {G : vv_G} {d : Nat} {ad : Nat → Nat} {σ : vv_S} (hG : vv_gok G) (hH : vv_hy l G ad) {x1 : Int32} {x2 : Int32} {r : Int32} (h : KX8_by_172 x1 x2 = some r) : vv_V l G MX8_by (d + 0) 172 [(1, .int x1), (2, .int x2)] [] σ (.inl (some (.int r)), σ) := by
  unfold KX8_by_172 at h
  refine vv_iload_n dX8_by_172 rfl 0 rfl ?_
  refine vv_if_ne (tgt := 180) dX8_by_173 (by decide) (fun c1 => ?_) (fun c1 => ?_)
  · rw [if_neg c1] at h
    refine vv_sub (lv' := []) [] rfl ?_
    exact v_KX8_by_180 hG hH h
  · rw [if_pos c1] at h
    refine vv_iload_n dX8_by_176 rfl 1 rfl ?_
    refine vv_if_eq (tgt := 184) dX8_by_177 (by decide) (fun c2 => ?_) (fun c2 => ?_)
    · rw [if_pos c2] at h
      refine vv_iconst (v := (nI 0)) dX8_by_184 (by decide) ?_
      refine vv_sub (lv' := []) [] rfl ?_
      exact v_KX8_by_185 hG hH h
    · rw [if_neg c2] at h
      refine vv_sub (lv' := []) [] rfl ?_
      exact v_KX8_by_180 hG hH h
def KX8_by_135 (s0 : Int32) : Option Int32 := some s0
theorem v_KX8_by_135 {l : Launch} {G : vv_G} {d : Nat} {ad : Nat → Nat} {σ : vv_S} (hG : vv_gok G) (hH : vv_hy l G ad) {s0 : Int32} {r : Int32} (h : KX8_by_135 s0 = some r) : vv_V l G MX8_by (d + 0) 135 [] [.int s0] σ (.inl (some (.int r)), σ) := by
  unfold KX8_by_135 at h
  cases h
  exact vv_iret rfl dX8_by_135
def KX8_by_171 (s0 : Int32) : Option Int32 := some s0
theorem v_KX8_by_171 {l : Launch} {G : vv_G} {d : Nat} {ad : Nat → Nat} {σ : vv_S} (hG : vv_gok G) (hH : vv_hy l G ad) {s0 : Int32} {r : Int32} (h : KX8_by_171 s0 = some r) : vv_V l G MX8_by (d + 0) 171 [] [.int s0] σ (.inl (some (.int r)), σ) := by
  unfold KX8_by_171 at h
  cases h
  exact vv_iret rfl dX8_by_171
def KX8_by_170 : Option Int32 := KX8_by_171 (nI 0)
theorem v_KX8_by_170 {l : Launch} {G : vv_G} {d : Nat} {ad : Nat → Nat} {σ : vv_S} (hG : vv_gok G) (hH : vv_hy l G ad) {r : Int32} (h : KX8_by_170 = some r) : vv_V l G MX8_by (d + 0) 170 [] [] σ (.inl (some (.int r)), σ) := by
  unfold KX8_by_170 at h
  refine vv_iconst (v := (nI 0)) dX8_by_170 (by decide) ?_
  exact v_KX8_by_171 hG hH h
def KX8_by (x0 : Int32) (x1 : Int32) (x2 : Int32) : Option Int32 := if x0 = (nI 38) then (if x1 = 0 then (KX8_by_170) else (if x2 = 0 then (KX8_by_170) else (KX8_by_171 (nI 1)))) else if x0 = (nI 39) then (KX8_by_172 x1 x2) else if x0 = (nI 40) then (KX8_by_172 x1 x2) else if x0 = (nI 41) then (KX8_by_172 x1 x2) else if x0 = (nI 42) then (some (x1 * x2)) else if x0 = (nI 43) then (some (x1 + x2)) else if x0 = (nI 44) then (KX8_by_172 x1 x2) else if x0 = (nI 45) then (some (x1 - x2)) else if x0 = (nI 46) then (KX8_by_172 x1 x2) else if x0 = (nI 47) then (if x2 = 0 then (KX8_by_135 (nI 0)) else ((dvI x1 x2).bind fun v14 => KX8_by_135 v14)) else if x0 = (nI 48) then (KX8_by_172 x1 x2) else if x0 = (nI 49) then (KX8_by_172 x1 x2) else if x0 = (nI 50) then (KX8_by_172 x1 x2) else if x0 = (nI 51) then (KX8_by_172 x1 x2) else if x0 = (nI 52) then (KX8_by_172 x1 x2) else if x0 = (nI 53) then (KX8_by_172 x1 x2) else if x0 = (nI 54) then (KX8_by_172 x1 x2) else if x0 = (nI 55) then (KX8_by_172 x1 x2) else if x0 = (nI 56) then (KX8_by_172 x1 x2) else if x0 = (nI 57) then (KX8_by_172 x1 x2) else if x0 = (nI 58) then (KX8_by_172 x1 x2) else if x0 = (nI 59) then (KX8_by_172 x1 x2) else if x0 = (nI 60) then (if x2 ≤ x1 then (KX8_by_146 (nI 0)) else (KX8_by_146 (nI 1))) else if x0 = (nI 61) then (if x1 = x2 then (KX8_by_157 (nI 1)) else (KX8_by_157 (nI 0))) else (KX8_by_172 x1 x2)
theorem v_KX8_by_0 {l : Launch} {G : vv_G} {d : Nat} {ad : Nat → Nat} {σ : vv_S} (hG : vv_gok G) (hH : vv_hy l G ad) {x0 : Int32} {x1 : Int32} {x2 : Int32} {r : Int32} (h : KX8_by x0 x1 x2 = some r) : vv_V l G MX8_by (d + 0) 0 [(0, .int x0), (1, .int x1), (2, .int x2)] [] σ (.inl (some (.int r)), σ) := by
  unfold KX8_by at h
  refine vv_iload_n dX8_by_0 rfl 0 rfl ?_
  by_cases c1 : x0 = (nI 38)
  · rw [if_pos c1] at h
    refine vv_tableIn (tgt := 158) dX8_by_1 (by rw [c1]; decide) (by rw [c1]; decide) (by rw [c1]; rfl) (by decide) ?_
    refine vv_iload_n dX8_by_158 rfl 1 rfl ?_
    refine vv_if_eq (tgt := 170) dX8_by_159 (by decide) (fun c2 => ?_) (fun c2 => ?_)
    · rw [if_pos c2] at h
      refine vv_sub (lv' := []) [] rfl ?_
      exact v_KX8_by_170 hG hH h
    · rw [if_neg c2] at h
      refine vv_iload_n dX8_by_162 rfl 2 rfl ?_
      refine vv_if_eq (tgt := 170) dX8_by_163 (by decide) (fun c3 => ?_) (fun c3 => ?_)
      · rw [if_pos c3] at h
        refine vv_sub (lv' := []) [] rfl ?_
        exact v_KX8_by_170 hG hH h
      · rw [if_neg c3] at h
        refine vv_iconst (v := (nI 1)) dX8_by_166 (by decide) ?_
        refine vv_goto (tgt := 171) dX8_by_167 (by decide) ?_
        refine vv_sub (lv' := []) [] rfl ?_
        exact v_KX8_by_171 hG hH h
  rw [if_neg c1] at h
  by_cases c4 : x0 = (nI 39)
  · rw [if_pos c4] at h
    refine vv_tableIn (tgt := 172) dX8_by_1 (by rw [c4]; decide) (by rw [c4]; decide) (by rw [c4]; rfl) (by decide) ?_
    refine vv_sub (lv' := [(1, .int x1), (2, .int x2)]) [1, 2] rfl ?_
    exact v_KX8_by_172 hG hH h
  rw [if_neg c4] at h
  by_cases c5 : x0 = (nI 40)
  · rw [if_pos c5] at h
    refine vv_tableIn (tgt := 172) dX8_by_1 (by rw [c5]; decide) (by rw [c5]; decide) (by rw [c5]; rfl) (by decide) ?_
    refine vv_sub (lv' := [(1, .int x1), (2, .int x2)]) [1, 2] rfl ?_
    exact v_KX8_by_172 hG hH h
  rw [if_neg c5] at h
  by_cases c6 : x0 = (nI 41)
  · rw [if_pos c6] at h
    refine vv_tableIn (tgt := 172) dX8_by_1 (by rw [c6]; decide) (by rw [c6]; decide) (by rw [c6]; rfl) (by decide) ?_
    refine vv_sub (lv' := [(1, .int x1), (2, .int x2)]) [1, 2] rfl ?_
    exact v_KX8_by_172 hG hH h
  rw [if_neg c6] at h
  by_cases c7 : x0 = (nI 42)
  · rw [if_pos c7] at h
    refine vv_tableIn (tgt := 120) dX8_by_1 (by rw [c7]; decide) (by rw [c7]; decide) (by rw [c7]; rfl) (by decide) ?_
    refine vv_iload_n dX8_by_120 rfl 1 rfl ?_
    refine vv_iload_n dX8_by_121 rfl 2 rfl ?_
    refine vv_imul dX8_by_122 ?_
    cases h
    exact vv_iret rfl dX8_by_123
  rw [if_neg c7] at h
  by_cases c8 : x0 = (nI 43)
  · rw [if_pos c8] at h
    refine vv_tableIn (tgt := 112) dX8_by_1 (by rw [c8]; decide) (by rw [c8]; decide) (by rw [c8]; rfl) (by decide) ?_
    refine vv_iload_n dX8_by_112 rfl 1 rfl ?_
    refine vv_iload_n dX8_by_113 rfl 2 rfl ?_
    refine vv_iadd dX8_by_114 ?_
    cases h
    exact vv_iret rfl dX8_by_115
  rw [if_neg c8] at h
  by_cases c9 : x0 = (nI 44)
  · rw [if_pos c9] at h
    refine vv_tableIn (tgt := 172) dX8_by_1 (by rw [c9]; decide) (by rw [c9]; decide) (by rw [c9]; rfl) (by decide) ?_
    refine vv_sub (lv' := [(1, .int x1), (2, .int x2)]) [1, 2] rfl ?_
    exact v_KX8_by_172 hG hH h
  rw [if_neg c9] at h
  by_cases c10 : x0 = (nI 45)
  · rw [if_pos c10] at h
    refine vv_tableIn (tgt := 116) dX8_by_1 (by rw [c10]; decide) (by rw [c10]; decide) (by rw [c10]; rfl) (by decide) ?_
    refine vv_iload_n dX8_by_116 rfl 1 rfl ?_
    refine vv_iload_n dX8_by_117 rfl 2 rfl ?_
    refine vv_isub dX8_by_118 ?_
    cases h
    exact vv_iret rfl dX8_by_119
  rw [if_neg c10] at h
  by_cases c11 : x0 = (nI 46)
  · rw [if_pos c11] at h
    refine vv_tableIn (tgt := 172) dX8_by_1 (by rw [c11]; decide) (by rw [c11]; decide) (by rw [c11]; rfl) (by decide) ?_
    refine vv_sub (lv' := [(1, .int x1), (2, .int x2)]) [1, 2] rfl ?_
    exact v_KX8_by_172 hG hH h
  rw [if_neg c11] at h
  by_cases c12 : x0 = (nI 47)
  · rw [if_pos c12] at h
    refine vv_tableIn (tgt := 124) dX8_by_1 (by rw [c12]; decide) (by rw [c12]; decide) (by rw [c12]; rfl) (by decide) ?_
    refine vv_iload_n dX8_by_124 rfl 2 rfl ?_
    refine vv_if_ne (tgt := 132) dX8_by_125 (by decide) (fun c13 => ?_) (fun c13 => ?_)
    · rw [if_neg c13] at h
      refine vv_iload_n dX8_by_132 rfl 1 rfl ?_
      refine vv_iload_n dX8_by_133 rfl 2 rfl ?_
      replace h := dv_o h; obtain ⟨hz15, h⟩ := h
      refine vv_idiv dX8_by_134 hz15 ?_
      obtain ⟨v14, ev14⟩ : ∃ z, z = (x1 / x2) := ⟨_, rfl⟩
      rw [← ev14] at h ⊢
      refine vv_sub (lv' := []) [] rfl ?_
      exact v_KX8_by_135 hG hH h
    · rw [if_pos c13] at h
      refine vv_iconst (v := (nI 0)) dX8_by_128 (by decide) ?_
      refine vv_goto (tgt := 135) dX8_by_129 (by decide) ?_
      refine vv_sub (lv' := []) [] rfl ?_
      exact v_KX8_by_135 hG hH h
  rw [if_neg c12] at h
  by_cases c16 : x0 = (nI 48)
  · rw [if_pos c16] at h
    refine vv_tableIn (tgt := 172) dX8_by_1 (by rw [c16]; decide) (by rw [c16]; decide) (by rw [c16]; rfl) (by decide) ?_
    refine vv_sub (lv' := [(1, .int x1), (2, .int x2)]) [1, 2] rfl ?_
    exact v_KX8_by_172 hG hH h
  rw [if_neg c16] at h
  by_cases c17 : x0 = (nI 49)
  · rw [if_pos c17] at h
    refine vv_tableIn (tgt := 172) dX8_by_1 (by rw [c17]; decide) (by rw [c17]; decide) (by rw [c17]; rfl) (by decide) ?_
    refine vv_sub (lv' := [(1, .int x1), (2, .int x2)]) [1, 2] rfl ?_
    exact v_KX8_by_172 hG hH h
  rw [if_neg c17] at h
  by_cases c18 : x0 = (nI 50)
  · rw [if_pos c18] at h
    refine vv_tableIn (tgt := 172) dX8_by_1 (by rw [c18]; decide) (by rw [c18]; decide) (by rw [c18]; rfl) (by decide) ?_
    refine vv_sub (lv' := [(1, .int x1), (2, .int x2)]) [1, 2] rfl ?_
    exact v_KX8_by_172 hG hH h
  rw [if_neg c18] at h
  by_cases c19 : x0 = (nI 51)
  · rw [if_pos c19] at h
    refine vv_tableIn (tgt := 172) dX8_by_1 (by rw [c19]; decide) (by rw [c19]; decide) (by rw [c19]; rfl) (by decide) ?_
    refine vv_sub (lv' := [(1, .int x1), (2, .int x2)]) [1, 2] rfl ?_
    exact v_KX8_by_172 hG hH h
  rw [if_neg c19] at h
  by_cases c20 : x0 = (nI 52)
  · rw [if_pos c20] at h
    refine vv_tableIn (tgt := 172) dX8_by_1 (by rw [c20]; decide) (by rw [c20]; decide) (by rw [c20]; rfl) (by decide) ?_
    refine vv_sub (lv' := [(1, .int x1), (2, .int x2)]) [1, 2] rfl ?_
    exact v_KX8_by_172 hG hH h
  rw [if_neg c20] at h
  by_cases c21 : x0 = (nI 53)
  · rw [if_pos c21] at h
    refine vv_tableIn (tgt := 172) dX8_by_1 (by rw [c21]; decide) (by rw [c21]; decide) (by rw [c21]; rfl) (by decide) ?_
    refine vv_sub (lv' := [(1, .int x1), (2, .int x2)]) [1, 2] rfl ?_
    exact v_KX8_by_172 hG hH h
  rw [if_neg c21] at h
  by_cases c22 : x0 = (nI 54)
  · rw [if_pos c22] at h
    refine vv_tableIn (tgt := 172) dX8_by_1 (by rw [c22]; decide) (by rw [c22]; decide) (by rw [c22]; rfl) (by decide) ?_
    refine vv_sub (lv' := [(1, .int x1), (2, .int x2)]) [1, 2] rfl ?_
    exact v_KX8_by_172 hG hH h
  rw [if_neg c22] at h
  by_cases c23 : x0 = (nI 55)
  · rw [if_pos c23] at h
    refine vv_tableIn (tgt := 172) dX8_by_1 (by rw [c23]; decide) (by rw [c23]; decide) (by rw [c23]; rfl) (by decide) ?_
    refine vv_sub (lv' := [(1, .int x1), (2, .int x2)]) [1, 2] rfl ?_
    exact v_KX8_by_172 hG hH h
  rw [if_neg c23] at h
  by_cases c24 : x0 = (nI 56)
  · rw [if_pos c24] at h
    refine vv_tableIn (tgt := 172) dX8_by_1 (by rw [c24]; decide) (by rw [c24]; decide) (by rw [c24]; rfl) (by decide) ?_
    refine vv_sub (lv' := [(1, .int x1), (2, .int x2)]) [1, 2] rfl ?_
    exact v_KX8_by_172 hG hH h
  rw [if_neg c24] at h
  by_cases c25 : x0 = (nI 57)
  · rw [if_pos c25] at h
    refine vv_tableIn (tgt := 172) dX8_by_1 (by rw [c25]; decide) (by rw [c25]; decide) (by rw [c25]; rfl) (by decide) ?_
    refine vv_sub (lv' := [(1, .int x1), (2, .int x2)]) [1, 2] rfl ?_
    exact v_KX8_by_172 hG hH h
  rw [if_neg c25] at h
  by_cases c26 : x0 = (nI 58)
  · rw [if_pos c26] at h
    refine vv_tableIn (tgt := 172) dX8_by_1 (by rw [c26]; decide) (by rw [c26]; decide) (by rw [c26]; rfl) (by decide) ?_
    refine vv_sub (lv' := [(1, .int x1), (2, .int x2)]) [1, 2] rfl ?_
    exact v_KX8_by_172 hG hH h
  rw [if_neg c26] at h
  by_cases c27 : x0 = (nI 59)
  · rw [if_pos c27] at h
    refine vv_tableIn (tgt := 172) dX8_by_1 (by rw [c27]; decide) (by rw [c27]; decide) (by rw [c27]; rfl) (by decide) ?_
    refine vv_sub (lv' := [(1, .int x1), (2, .int x2)]) [1, 2] rfl ?_
    exact v_KX8_by_172 hG hH h
  rw [if_neg c27] at h
  by_cases c28 : x0 = (nI 60)
  · rw [if_pos c28] at h
    refine vv_tableIn (tgt := 136) dX8_by_1 (by rw [c28]; decide) (by rw [c28]; decide) (by rw [c28]; rfl) (by decide) ?_
    refine vv_iload_n dX8_by_136 rfl 1 rfl ?_
    refine vv_iload_n dX8_by_137 rfl 2 rfl ?_
    refine vv_icmp_ge (tgt := 145) dX8_by_138 (by decide) (fun c29 => ?_) (fun c29 => ?_)
    · rw [if_pos c29] at h
      refine vv_iconst (v := (nI 0)) dX8_by_145 (by decide) ?_
      refine vv_sub (lv' := []) [] rfl ?_
      exact v_KX8_by_146 hG hH h
    · rw [if_neg c29] at h
      refine vv_iconst (v := (nI 1)) dX8_by_141 (by decide) ?_
      refine vv_goto (tgt := 146) dX8_by_142 (by decide) ?_
      refine vv_sub (lv' := []) [] rfl ?_
      exact v_KX8_by_146 hG hH h
  rw [if_neg c28] at h
  by_cases c30 : x0 = (nI 61)
  · rw [if_pos c30] at h
    refine vv_tableIn (tgt := 147) dX8_by_1 (by rw [c30]; decide) (by rw [c30]; decide) (by rw [c30]; rfl) (by decide) ?_
    refine vv_iload_n dX8_by_147 rfl 1 rfl ?_
    refine vv_iload_n dX8_by_148 rfl 2 rfl ?_
    refine vv_icmp_ne (tgt := 156) dX8_by_149 (by decide) (fun c31 => ?_) (fun c31 => ?_)
    · rw [if_neg c31] at h
      refine vv_iconst (v := (nI 0)) dX8_by_156 (by decide) ?_
      refine vv_sub (lv' := []) [] rfl ?_
      exact v_KX8_by_157 hG hH h
    · rw [if_pos c31] at h
      refine vv_iconst (v := (nI 1)) dX8_by_152 (by decide) ?_
      refine vv_goto (tgt := 157) dX8_by_153 (by decide) ?_
      refine vv_sub (lv' := []) [] rfl ?_
      exact v_KX8_by_157 hG hH h
  rw [if_neg c30] at h
  have tc1 : ¬ (x0).toInt = 38 := fun hh => c1 (Int32.toInt_inj.mp (hh.trans (by decide)))
  have tc4 : ¬ (x0).toInt = 39 := fun hh => c4 (Int32.toInt_inj.mp (hh.trans (by decide)))
  have tc5 : ¬ (x0).toInt = 40 := fun hh => c5 (Int32.toInt_inj.mp (hh.trans (by decide)))
  have tc6 : ¬ (x0).toInt = 41 := fun hh => c6 (Int32.toInt_inj.mp (hh.trans (by decide)))
  have tc7 : ¬ (x0).toInt = 42 := fun hh => c7 (Int32.toInt_inj.mp (hh.trans (by decide)))
  have tc8 : ¬ (x0).toInt = 43 := fun hh => c8 (Int32.toInt_inj.mp (hh.trans (by decide)))
  have tc9 : ¬ (x0).toInt = 44 := fun hh => c9 (Int32.toInt_inj.mp (hh.trans (by decide)))
  have tc10 : ¬ (x0).toInt = 45 := fun hh => c10 (Int32.toInt_inj.mp (hh.trans (by decide)))
  have tc11 : ¬ (x0).toInt = 46 := fun hh => c11 (Int32.toInt_inj.mp (hh.trans (by decide)))
  have tc12 : ¬ (x0).toInt = 47 := fun hh => c12 (Int32.toInt_inj.mp (hh.trans (by decide)))
  have tc16 : ¬ (x0).toInt = 48 := fun hh => c16 (Int32.toInt_inj.mp (hh.trans (by decide)))
  have tc17 : ¬ (x0).toInt = 49 := fun hh => c17 (Int32.toInt_inj.mp (hh.trans (by decide)))
  have tc18 : ¬ (x0).toInt = 50 := fun hh => c18 (Int32.toInt_inj.mp (hh.trans (by decide)))
  have tc19 : ¬ (x0).toInt = 51 := fun hh => c19 (Int32.toInt_inj.mp (hh.trans (by decide)))
  have tc20 : ¬ (x0).toInt = 52 := fun hh => c20 (Int32.toInt_inj.mp (hh.trans (by decide)))
  have tc21 : ¬ (x0).toInt = 53 := fun hh => c21 (Int32.toInt_inj.mp (hh.trans (by decide)))
  have tc22 : ¬ (x0).toInt = 54 := fun hh => c22 (Int32.toInt_inj.mp (hh.trans (by decide)))
  have tc23 : ¬ (x0).toInt = 55 := fun hh => c23 (Int32.toInt_inj.mp (hh.trans (by decide)))
  have tc24 : ¬ (x0).toInt = 56 := fun hh => c24 (Int32.toInt_inj.mp (hh.trans (by decide)))
  have tc25 : ¬ (x0).toInt = 57 := fun hh => c25 (Int32.toInt_inj.mp (hh.trans (by decide)))
  have tc26 : ¬ (x0).toInt = 58 := fun hh => c26 (Int32.toInt_inj.mp (hh.trans (by decide)))
  have tc27 : ¬ (x0).toInt = 59 := fun hh => c27 (Int32.toInt_inj.mp (hh.trans (by decide)))
  have tc28 : ¬ (x0).toInt = 60 := fun hh => c28 (Int32.toInt_inj.mp (hh.trans (by decide)))
  have tc30 : ¬ (x0).toInt = 61 := fun hh => c30 (Int32.toInt_inj.mp (hh.trans (by decide)))
  refine vv_tableOut (tgt := 172) dX8_by_1 (by omega) (by decide) ?_
  refine vv_sub (lv' := [(1, .int x1), (2, .int x2)]) [1, 2] rfl ?_
  exact v_KX8_by_172 hG hH h
theorem m_KX8_by {l : Launch} {G : vv_G} {ad : Nat → Nat} {σ : vv_S} (hG : vv_gok G) (hH : vv_hy l G ad) {x0 : Int32} {x1 : Int32} {x2 : Int32} {r : Int32} (h : KX8_by x0 x1 x2 = some r) (d : Nat) : vv_Met l G MX8_by (d + 0) [.int x0, .int x1, .int x2] σ (.inl (some (.int r)), σ) := vv_head (by decide +kernel) rfl (Nat.le_of_ble_eq_true rfl) rfl (v_KX8_by_0 hG hH h)
