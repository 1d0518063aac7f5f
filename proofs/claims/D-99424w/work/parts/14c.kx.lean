set_option maxRecDepth 100000
/-! ('X3', 'after') -/
def BKX3_after_2 (fo : Nat → Nat → vv_S → Option Int32) (k2 : Nat → Int32 → Int32 → vv_S → Option (Nat × vv_S)) (x0 : Nat) (x1 : Int32) (x2 : Int32) (σ : vv_S) : Option (Nat × vv_S) := if x1 ≤ x2 then (some (x0, σ)) else ((isO σ x0 2).bind fun _ => (KX3_pass fo x0 (nI 0) σ).bind fun r2 => k2 x0 x1 (x2 + (nI 1)) r2.2)
def KX3_after_2 (fo : Nat → Nat → vv_S → Option Int32) : Nat → Nat → Int32 → Int32 → vv_S → Option (Nat × vv_S)
  | 0, _, _, _, _ => none
  | n + 1, x0, x1, x2, σ => BKX3_after_2 fo (KX3_after_2 fo n) x0 x1 x2 σ
theorem vb_KX3_after_2 {l : Launch} {G : vv_G} {d : Nat} {ad : Nat → Nat} {fo : Nat → Nat → vv_S → Option Int32} (hG : vv_gok G) (hH : vv_hy l G ad) (hfo : ∀ {a vs : Nat} {σ : vv_S} {r : Int32}, fo a vs σ = some r → vv_Form l G d a vs σ r) {k2 : Nat → Int32 → Int32 → vv_S → Option (Nat × vv_S)} (hk2 : ∀ {x0 : Nat} {x1 : Int32} {x2 : Int32} {σ : vv_S} {r : Nat × vv_S}, k2 x0 x1 x2 σ = some r → vv_V l G MX3_after (d + 5) 2 [(0, .ref x0), (1, .int x1), (2, .int x2)] [] σ (.inl (some (.ref r.1)), r.2)) {x0 : Nat} {x1 : Int32} {x2 : Int32} {σ : vv_S} {r : Nat × vv_S} (h : BKX3_after_2 fo k2 x0 x1 x2 σ = some r) : vv_V l G MX3_after (d + 5) 2 [(0, .ref x0), (1, .int x1), (2, .int x2)] [] σ (.inl (some (.ref r.1)), r.2) := by
  unfold BKX3_after_2 at h
  refine vv_iload_n dX3_after_2 rfl 2 rfl ?_
  refine vv_iload_n dX3_after_3 rfl 1 rfl ?_
  refine vv_icmp_ge (tgt := 19) dX3_after_4 (by decide) (fun c1 => ?_) (fun c1 => ?_)
  · rw [if_pos c1] at h
    refine vv_aload_n dX3_after_19 rfl 0 rfl ?_
    cases h
    exact vv_aret rfl (by first | exact Or.inl ⟨_, rfl⟩ | exact Or.inr ⟨_, rfl⟩) (Or.inr ⟨_, rfl⟩) dX3_after_20
  · rw [if_neg c1] at h
    refine vv_aload_n dX3_after_7 rfl 0 rfl ?_
    refine vv_iconst (v := (nI 0)) dX3_after_8 (by decide) ?_
    replace h := isO_o h; obtain ⟨fz3, sz3, ez3, h⟩ := h
    replace h := bd_o h; obtain ⟨r2, er2, h⟩ := h
    refine vv_callV ok_X3_pass q458 (m_KX3_pass hG hH hfo er2 d) rfl (by omega) ⟨_, _, _, _, _, ez3, by rw [hG.1]; rfl⟩ rfl rfl (Nat.le_of_ble_eq_true rfl) dX3_after_9 ?_
    refine vv_pop dX3_after_12 rfl ?_
    refine vv_iinc (v := (x2 + (nI 1))) (lv' := [(0, .ref x0), (1, .int x1), (2, .int (x2 + (nI 1)))]) dX3_after_13 2 rfl rfl (by decide) [1, 2, 0] rfl ?_
    refine vv_goto (tgt := 2) dX3_after_16 (by decide) ?_
    exact hk2 h
theorem v_KX3_after_2 {l : Launch} {G : vv_G} {d : Nat} {ad : Nat → Nat} {fo : Nat → Nat → vv_S → Option Int32} (hG : vv_gok G) (hH : vv_hy l G ad) (hfo : ∀ {a vs : Nat} {σ : vv_S} {r : Int32}, fo a vs σ = some r → vv_Form l G d a vs σ r) : ∀ (n : Nat) {x0 : Nat} {x1 : Int32} {x2 : Int32} {σ : vv_S} {r : Nat × vv_S}, KX3_after_2 fo n x0 x1 x2 σ = some r → vv_V l G MX3_after (d + 5) 2 [(0, .ref x0), (1, .int x1), (2, .int x2)] [] σ (.inl (some (.ref r.1)), r.2) := by
  intro n
  induction n with
  | zero => intro _ _ _ _ _ h; cases h
  | succ n ih => intro _ _ _ _ _ h; exact vb_KX3_after_2 hG hH hfo ih h
def KX3_after (fo : Nat → Nat → vv_S → Option Int32) (x0 : Nat) (x1 : Int32) (σ : vv_S) : Option (Nat × vv_S) := KX3_after_2 fo NN x0 x1 (nI 0) σ
theorem v_KX3_after_0 {l : Launch} {G : vv_G} {d : Nat} {ad : Nat → Nat} {fo : Nat → Nat → vv_S → Option Int32} (hG : vv_gok G) (hH : vv_hy l G ad) (hfo : ∀ {a vs : Nat} {σ : vv_S} {r : Int32}, fo a vs σ = some r → vv_Form l G d a vs σ r) {x0 : Nat} {x1 : Int32} {σ : vv_S} {r : Nat × vv_S} (h : KX3_after fo x0 x1 σ = some r) : vv_V l G MX3_after (d + 5) 0 [(0, .ref x0), (1, .int x1)] [] σ (.inl (some (.ref r.1)), r.2) := by
  unfold KX3_after at h
  refine vv_iconst (v := (nI 0)) dX3_after_0 (by decide) ?_
  refine vv_istore_n (lv' := [(0, .ref x0), (1, .int x1), (2, .int (nI 0))]) dX3_after_1 rfl (by decide) [1, 2, 0] rfl ?_
  exact v_KX3_after_2 hG hH hfo NN h
theorem m_KX3_after {l : Launch} {G : vv_G} {d : Nat} {ad : Nat → Nat} {fo : Nat → Nat → vv_S → Option Int32} (hG : vv_gok G) (hH : vv_hy l G ad) (hfo : ∀ {a vs : Nat} {σ : vv_S} {r : Int32}, fo a vs σ = some r → vv_Form l G d a vs σ r) {x0 : Nat} {x1 : Int32} {σ : vv_S} {r : Nat × vv_S} (h : KX3_after fo x0 x1 σ = some r) (d9 : Nat) (e9 : d9 = d := by rfl) : vv_Met l G MX3_after (d9 + 5) [.ref x0, .int x1] σ (.inl (some (.ref r.1)), r.2) := by
  subst e9
  exact vv_head (by decide +kernel) rfl (Nat.le_of_ble_eq_true rfl) rfl (v_KX3_after_0 hG hH hfo h)
/-! ('X1', 'days') -/
def KX1_days_25 (fo : Nat → Nat → vv_S → Option Int32) (ad : Nat → Nat) (x0 : Nat) (σ : vv_S) : Option (Int32 × vv_S) := (isO σ x0 0).bind fun _ => (KX1_refuse x0 (nI 1) σ).bind fun r1 => some (r1.1, r1.2)
theorem v_KX1_days_25 {l : Launch} {G : vv_G} {d : Nat} {ad : Nat → Nat} {fo : Nat → Nat → vv_S → Option Int32} (hG : vv_gok G) (hH : vv_hy l G ad) (hfo : ∀ {a vs : Nat} {σ : vv_S} {r : Int32}, fo a vs σ = some r → vv_Form l G d a vs σ r) {x0 : Nat} {σ : vv_S} {r : Int32 × vv_S} (h : KX1_days_25 fo ad x0 σ = some r) : vv_V l G MX1_days (d + 8) 25 [(0, .ref x0)] [] σ (.inl (some (.int r.1)), r.2) := by
  unfold KX1_days_25 at h
  refine vv_aload_n dX1_days_25 rfl 0 rfl ?_
  refine vv_iconst (v := (nI 1)) dX1_days_26 (by decide) ?_
  replace h := isO_o h; obtain ⟨fz2, sz2, ez2, h⟩ := h
  replace h := bd_o h; obtain ⟨r1, er1, h⟩ := h
  refine vv_callV ok_X1_refuse q338 (m_KX1_refuse hG hH er1 d) rfl (by omega) ⟨_, _, _, _, _, ez2, by rw [hG.1]; rfl⟩ rfl rfl (Nat.le_of_ble_eq_true rfl) dX1_days_27 ?_
  cases h
  exact vv_iret rfl dX1_days_30
def KX1_days (fo : Nat → Nat → vv_S → Option Int32) (ad : Nat → Nat) (x0 : Nat) (x1 : Int32) (σ : vv_S) : Option (Int32 × vv_S) := (KX1_in x1 (nI 1) (nI 30)).bind fun r1 => if r1 = 0 then (KX1_days_25 fo ad x0 σ) else ((gR σ x0 0 2).bind fun v3 => (gI σ v3 2 9).bind fun v4 => if (v4 + x1) ≤ (nI 999) then ((isO σ x0 0).bind fun _ => (KX1_keep ad x0 σ).bind fun r6 => (gR r6 x0 0 2).bind fun v8 => (isO r6 v8 2).bind fun _ => (KX3_after fo v8 x1 r6).bind fun r9 => (gI r9.2 r9.1 2 9).bind fun v11 => some (v11, r9.2)) else (KX1_days_25 fo ad x0 σ))
theorem v_KX1_days_0 {l : Launch} {G : vv_G} {d : Nat} {ad : Nat → Nat} {fo : Nat → Nat → vv_S → Option Int32} (hG : vv_gok G) (hH : vv_hy l G ad) (hfo : ∀ {a vs : Nat} {σ : vv_S} {r : Int32}, fo a vs σ = some r → vv_Form l G d a vs σ r) {x0 : Nat} {x1 : Int32} {σ : vv_S} {r : Int32 × vv_S} (h : KX1_days fo ad x0 x1 σ = some r) : vv_V l G MX1_days (d + 8) 0 [(0, .ref x0), (1, .int x1)] [] σ (.inl (some (.int r.1)), r.2) := by
  unfold KX1_days at h
  refine vv_iload_n dX1_days_0 rfl 1 rfl ?_
  refine vv_iconst (v := (nI 1)) dX1_days_1 (by decide) ?_
  refine vv_bipush (v := (nI 30)) dX1_days_2 (by decide) ?_
  replace h := bd_o h; obtain ⟨r1, er1, h⟩ := h
  refine vv_callS ok_X1_in q335 (m_KX1_in hG hH er1 d) rfl (by omega) rfl rfl (Nat.le_of_ble_eq_true rfl) dX1_days_4 ?_
  refine vv_if_eq (tgt := 25) dX1_days_7 (by decide) (fun c2 => ?_) (fun c2 => ?_)
  · rw [if_pos c2] at h
    refine vv_sub (lv' := [(0, .ref x0)]) [0] rfl ?_
    exact v_KX1_days_25 hG hH hfo h
  · rw [if_neg c2] at h
    refine vv_aload_n dX1_days_10 rfl 0 rfl ?_
    replace h := gR_o h; obtain ⟨v3, fv3, sv3, ev3, lv3, h⟩ := h
    refine vv_get (fl_X1_31 hG) ev3 lv3 dX1_days_11 ?_
    replace h := gI_o h; obtain ⟨v4, fv4, sv4, ev4, lv4, h⟩ := h
    refine vv_getM (fl_X1_107 hH) ev4 lv4 dX1_days_14 ?_
    refine vv_iload_n dX1_days_17 rfl 1 rfl ?_
    refine vv_iadd dX1_days_18 ?_
    refine vv_sipush (v := (nI 999)) dX1_days_19 (by decide) ?_
    refine vv_icmp_le (tgt := 31) dX1_days_22 (by decide) (fun c5 => ?_) (fun c5 => ?_)
    · rw [if_pos c5] at h
      refine vv_aload_n dX1_days_31 rfl 0 rfl ?_
      replace h := isO_o h; obtain ⟨fz7, sz7, ez7, h⟩ := h
      replace h := bd_o h; obtain ⟨r6, er6, h⟩ := h
      refine vv_callV ok_X1_keep q342 (m_KX1_keep hG hH er6 d) rfl (by omega) ⟨_, _, _, _, _, ez7, by rw [hG.1]; rfl⟩ rfl rfl (Nat.le_of_ble_eq_true rfl) dX1_days_32 ?_
      refine vv_aload_n dX1_days_35 rfl 0 rfl ?_
      replace h := gR_o h; obtain ⟨v8, fv8, sv8, ev8, lv8, h⟩ := h
      refine vv_get (fl_X1_31 hG) ev8 lv8 dX1_days_36 ?_
      refine vv_iload_n dX1_days_39 rfl 1 rfl ?_
      replace h := isO_o h; obtain ⟨fz10, sz10, ez10, h⟩ := h
      replace h := bd_o h; obtain ⟨r9, er9, h⟩ := h
      refine vv_callV ok_X3_after q454 (m_KX3_after hG hH hfo er9 d) rfl (by omega) ⟨_, _, _, _, _, ez10, by rw [hG.1]; rfl⟩ rfl rfl (Nat.le_of_ble_eq_true rfl) dX1_days_40 ?_
      replace h := gI_o h; obtain ⟨v11, fv11, sv11, ev11, lv11, h⟩ := h
      refine vv_getM (fl_X1_107 hH) ev11 lv11 dX1_days_43 ?_
      cases h
      exact vv_iret rfl dX1_days_46
    · rw [if_neg c5] at h
      refine vv_sub (lv' := [(0, .ref x0)]) [0] rfl ?_
      exact v_KX1_days_25 hG hH hfo h
theorem m_KX1_days {l : Launch} {G : vv_G} {d : Nat} {ad : Nat → Nat} {fo : Nat → Nat → vv_S → Option Int32} (hG : vv_gok G) (hH : vv_hy l G ad) (hfo : ∀ {a vs : Nat} {σ : vv_S} {r : Int32}, fo a vs σ = some r → vv_Form l G d a vs σ r) {x0 : Nat} {x1 : Int32} {σ : vv_S} {r : Int32 × vv_S} (h : KX1_days fo ad x0 x1 σ = some r) (d9 : Nat) (e9 : d9 = d := by rfl) : vv_Met l G MX1_days (d9 + 8) [.ref x0, .int x1] σ (.inl (some (.int r.1)), r.2) := by
  subst e9
  exact vv_head (by decide +kernel) rfl (Nat.le_of_ble_eq_true rfl) rfl (v_KX1_days_0 hG hH hfo h)
/-! ('X1', 'undo') -/
def KX1_undo (x0 : Nat) (σ : vv_S) : Option (Int32 × vv_S) := (gR σ x0 0 7).bind fun v1 => (isO σ v1 11).bind fun _ => (KJ2_isEmpty v1 σ).bind fun r2 => if r2 = 0 then ((gR σ x0 0 7).bind fun v5 => (gR σ x0 0 7).bind fun v6 => (isO σ v6 11).bind fun _ => (KJ2_size v6 σ).bind fun r7 => (isO σ v5 11).bind fun _ => (KJ2_remove v5 (r7 - (nI 1)) σ).bind fun r9 => (isO r9.2 r9.1 2).bind fun _ => (isO r9.2 r9.1 2).bind fun _ => (KX3_copy r9.1 r9.2).bind fun r12 => (pF r12.2 x0 0 2 (.ref r12.1)).bind fun σ14 => (gR σ14 x0 0 7).bind fun v15 => (isO σ14 v15 11).bind fun _ => (KJ2_size v15 σ14).bind fun r16 => some (r16, σ14)) else (some ((-1), σ))
theorem v_KX1_undo_0 {l : Launch} {G : vv_G} {d : Nat} {ad : Nat → Nat} (hG : vv_gok G) (hH : vv_hy l G ad) {x0 : Nat} {σ : vv_S} {r : Int32 × vv_S} (h : KX1_undo x0 σ = some r) : vv_V l G MX1_undo (d + 3) 0 [(0, .ref x0)] [] σ (.inl (some (.int r.1)), r.2) := by
  unfold KX1_undo at h
  refine vv_aload_n dX1_undo_0 rfl 0 rfl ?_
  replace h := gR_o h; obtain ⟨v1, fv1, sv1, ev1, lv1, h⟩ := h
  refine vv_get (fl_X1_49 hG) ev1 lv1 dX1_undo_1 ?_
  replace h := isO_o h; obtain ⟨fz3, sz3, ez3, h⟩ := h
  replace h := bd_o h; obtain ⟨r2, er2, h⟩ := h
  refine vv_callF (xx := ⟨"java/util/List", "isEmpty", "()Z"⟩) okf_J2_isEmpty q599 (m_KJ2_isEmpty hG hH er2 d) rfl (by omega) ⟨_, _, _, _, _, ez3, by rw [hG.1]; rfl⟩ q602 (fun U hK => hH.1.2.2.1 U hK _ (List.mem_of_getElem? (i := 4) rfl)) ⟨by decide, by decide, by decide +kernel⟩ rfl rfl (Nat.le_of_ble_eq_true rfl) dX1_undo_4 ?_
  refine vv_if_eq (tgt := 14) dX1_undo_9 (by decide) (fun c4 => ?_) (fun c4 => ?_)
  · rw [if_pos c4] at h
    refine vv_aload_n dX1_undo_14 rfl 0 rfl ?_
    refine vv_aload_n dX1_undo_15 rfl 0 rfl ?_
    replace h := gR_o h; obtain ⟨v5, fv5, sv5, ev5, lv5, h⟩ := h
    refine vv_get (fl_X1_49 hG) ev5 lv5 dX1_undo_16 ?_
    refine vv_aload_n dX1_undo_19 rfl 0 rfl ?_
    replace h := gR_o h; obtain ⟨v6, fv6, sv6, ev6, lv6, h⟩ := h
    refine vv_get (fl_X1_49 hG) ev6 lv6 dX1_undo_20 ?_
    replace h := isO_o h; obtain ⟨fz8, sz8, ez8, h⟩ := h
    replace h := bd_o h; obtain ⟨r7, er7, h⟩ := h
    refine vv_callF (xx := ⟨"java/util/List", "size", "()I"⟩) okf_J2_size q426 (m_KJ2_size hG hH er7 d) rfl (by omega) ⟨_, _, _, _, _, ez8, by rw [hG.1]; rfl⟩ q429 (fun U hK => hH.1.2.2.1 U hK _ (List.mem_of_getElem? (i := 1) rfl)) ⟨by decide, by decide, by decide +kernel⟩ rfl rfl (Nat.le_of_ble_eq_true rfl) dX1_undo_23 ?_
    refine vv_iconst (v := (nI 1)) dX1_undo_28 (by decide) ?_
    refine vv_isub dX1_undo_29 ?_
    replace h := isO_o h; obtain ⟨fz10, sz10, ez10, h⟩ := h
    replace h := bd_o h; obtain ⟨r9, er9, h⟩ := h
    refine vv_callF (xx := ⟨"java/util/List", "remove", "(I)Ljava/lang/Object;"⟩) okf_J2_remove q435 (m_KJ2_remove hG hH er9 d) rfl (by omega) ⟨_, _, _, _, _, ez10, by rw [hG.1]; rfl⟩ q438 (fun U hK => hH.1.2.2.1 U hK _ (List.mem_of_getElem? (i := 2) rfl)) ⟨by decide, by decide, by decide +kernel⟩ rfl rfl (Nat.le_of_ble_eq_true rfl) dX1_undo_30 ?_
    replace h := isO_o h; obtain ⟨fz11, sz11, ez11, h⟩ := h
    refine vv_cast ez11 ⟨_, _, by rw [hG.1]; rfl⟩ q211 (Or.inl rfl) dX1_undo_35 ?_
    replace h := isO_o h; obtain ⟨fz13, sz13, ez13, h⟩ := h
    replace h := bd_o h; obtain ⟨r12, er12, h⟩ := h
    refine vv_callV ok_X3_copy q346 (m_KX3_copy hG hH er12 d) rfl (by omega) ⟨_, _, _, _, _, ez13, by rw [hG.1]; rfl⟩ rfl rfl (Nat.le_of_ble_eq_true rfl) dX1_undo_38 ?_
    replace h := pF_o h; obtain ⟨σ14, sσ14, eσ14, lσ14, uσ14, h⟩ := h
    refine vv_putf (pt_X1_31 hG) (Or.inr fun C T' N h9 => by rw [hG.1] at h9; cases h9; rfl) eσ14 rfl rfl lσ14 dX1_undo_41 ?_
    rw [← uσ14]
    refine vv_aload_n dX1_undo_44 rfl 0 rfl ?_
    replace h := gR_o h; obtain ⟨v15, fv15, sv15, ev15, lv15, h⟩ := h
    refine vv_get (fl_X1_49 hG) ev15 lv15 dX1_undo_45 ?_
    replace h := isO_o h; obtain ⟨fz17, sz17, ez17, h⟩ := h
    replace h := bd_o h; obtain ⟨r16, er16, h⟩ := h
    refine vv_callF (xx := ⟨"java/util/List", "size", "()I"⟩) okf_J2_size q426 (m_KJ2_size hG hH er16 d) rfl (by omega) ⟨_, _, _, _, _, ez17, by rw [hG.1]; rfl⟩ q429 (fun U hK => hH.1.2.2.1 U hK _ (List.mem_of_getElem? (i := 1) rfl)) ⟨by decide, by decide, by decide +kernel⟩ rfl rfl (Nat.le_of_ble_eq_true rfl) dX1_undo_48 ?_
    cases h
    exact vv_iret rfl dX1_undo_53
  · rw [if_neg c4] at h
    refine vv_iconst (v := (-1)) dX1_undo_12 (by decide) ?_
    cases h
    exact vv_iret rfl dX1_undo_13
theorem m_KX1_undo {l : Launch} {G : vv_G} {ad : Nat → Nat} (hG : vv_gok G) (hH : vv_hy l G ad) {x0 : Nat} {σ : vv_S} {r : Int32 × vv_S} (h : KX1_undo x0 σ = some r) (d : Nat) : vv_Met l G MX1_undo (d + 3) [.ref x0] σ (.inl (some (.int r.1)), r.2) := vv_head (by decide +kernel) rfl (Nat.le_of_ble_eq_true rfl) rfl (v_KX1_undo_0 hG hH h)
/-! ('X1', 'forget') -/
def KX1_forget (ad : Nat → Nat) (x0 : Nat) (σ : vv_S) : Option vv_S := (some (nwO σ 11 [.int 0, .null, .int 0] 3)).bind fun σ1 => (KJ2_init ad σ.2.1 σ1).bind fun r2 => (pF r2 x0 0 8 (.ref σ.2.1)).bind fun σ3 => some σ3
theorem v_KX1_forget_0 {l : Launch} {G : vv_G} {d : Nat} {ad : Nat → Nat} (hG : vv_gok G) (hH : vv_hy l G ad) {x0 : Nat} {σ : vv_S} {r : vv_S} (h : KX1_forget ad x0 σ = some r) : vv_V l G MX1_forget (d + 4) 0 [(0, .ref x0)] [] σ (.inl none, r) := by
  unfold KX1_forget at h
  refine vv_aload_n dX1_forget_0 rfl 0 rfl ?_
  obtain ⟨σ1, uσ1, h⟩ := bd_s h
  refine vv_new (nw_X1_46 hG) dX1_forget_1 ?_
  rw [show (vv_up σ.1 σ.2.1 _, _, _) = σ1 from uσ1.symm]
  refine vv_dup dX1_forget_4 rfl ?_
  replace h := bd_o h; obtain ⟨r2, er2, h⟩ := h
  refine vv_callI ok_J2_init q272 (m_KJ2_init hG hH er2 d) rfl (by omega) rfl rfl (Nat.le_of_ble_eq_true rfl) dX1_forget_5 ?_
  replace h := pF_o h; obtain ⟨σ3, sσ3, eσ3, lσ3, uσ3, h⟩ := h
  refine vv_putf (pt_X1_53 hG) (Or.inr fun C T' N h9 => by rw [hG.1] at h9; cases h9; rfl) eσ3 rfl rfl lσ3 dX1_forget_8 ?_
  rw [← uσ3]
  cases h
  exact vv_vret rfl dX1_forget_11
theorem m_KX1_forget {l : Launch} {G : vv_G} {ad : Nat → Nat} (hG : vv_gok G) (hH : vv_hy l G ad) {x0 : Nat} {σ : vv_S} {r : vv_S} (h : KX1_forget ad x0 σ = some r) (d : Nat) : vv_Met l G MX1_forget (d + 4) [.ref x0] σ (.inl none, r) := vv_head (by decide +kernel) rfl (Nat.le_of_ble_eq_true rfl) rfl (v_KX1_forget_0 hG hH h)
/-! ('X3', 'lose') -/
def KX3_lose (x0 : Nat) (x1 : Int32) (σ : vv_S) : Option vv_S := (gR σ x0 2 3).bind fun v1 => (sI σ v1 x1 (nI 0)).bind fun σ2 => (gR σ2 x0 2 6).bind fun v3 => (sI σ2 v3 x1 (-1)).bind fun σ4 => (gR σ4 x0 2 7).bind fun v5 => (sI σ4 v5 x1 (nI 0)).bind fun σ6 => some σ6
theorem v_KX3_lose_0 {l : Launch} {G : vv_G} {d : Nat} {ad : Nat → Nat} (hG : vv_gok G) (hH : vv_hy l G ad) {x0 : Nat} {x1 : Int32} {σ : vv_S} {r : vv_S} (h : KX3_lose x0 x1 σ = some r) : vv_V l G MX3_lose (d + 0) 0 [(0, .ref x0), (1, .int x1)] [] σ (.inl none, r) := by
  unfold KX3_lose at h
  refine vv_aload_n dX3_lose_0 rfl 0 rfl ?_
  replace h := gR_o h; obtain ⟨v1, fv1, sv1, ev1, lv1, h⟩ := h
  refine vv_get (fl_X3_25 hG) ev1 lv1 dX3_lose_1 ?_
  refine vv_iload_n dX3_lose_4 rfl 1 rfl ?_
  refine vv_iconst (v := (nI 0)) dX3_lose_5 (by decide) ?_
  replace h := sI_o h; obtain ⟨σ2, nσ2, qσ2, eσ2, iσ2, uσ2, h⟩ := h
  refine vv_iast eσ2 iσ2 dX3_lose_6 ?_
  rw [← uσ2]
  refine vv_aload_n dX3_lose_7 rfl 0 rfl ?_
  replace h := gR_o h; obtain ⟨v3, fv3, sv3, ev3, lv3, h⟩ := h
  refine vv_get (fl_X3_34 hG) ev3 lv3 dX3_lose_8 ?_
  refine vv_iload_n dX3_lose_11 rfl 1 rfl ?_
  refine vv_iconst (v := (-1)) dX3_lose_12 (by decide) ?_
  replace h := sI_o h; obtain ⟨σ4, nσ4, qσ4, eσ4, iσ4, uσ4, h⟩ := h
  refine vv_iast eσ4 iσ4 dX3_lose_13 ?_
  rw [← uσ4]
  refine vv_aload_n dX3_lose_14 rfl 0 rfl ?_
  replace h := gR_o h; obtain ⟨v5, fv5, sv5, ev5, lv5, h⟩ := h
  refine vv_get (fl_X3_37 hG) ev5 lv5 dX3_lose_15 ?_
  refine vv_iload_n dX3_lose_18 rfl 1 rfl ?_
  refine vv_iconst (v := (nI 0)) dX3_lose_19 (by decide) ?_
  replace h := sI_o h; obtain ⟨σ6, nσ6, qσ6, eσ6, iσ6, uσ6, h⟩ := h
  refine vv_iast eσ6 iσ6 dX3_lose_20 ?_
  rw [← uσ6]
  cases h
  exact vv_vret rfl dX3_lose_21
theorem m_KX3_lose {l : Launch} {G : vv_G} {ad : Nat → Nat} (hG : vv_gok G) (hH : vv_hy l G ad) {x0 : Nat} {x1 : Int32} {σ : vv_S} {r : vv_S} (h : KX3_lose x0 x1 σ = some r) (d : Nat) : vv_Met l G MX3_lose (d + 0) [.ref x0, .int x1] σ (.inl none, r) := vv_head (by decide +kernel) rfl (Nat.le_of_ble_eq_true rfl) rfl (v_KX3_lose_0 hG hH h)
/-! ('X3', 'open') -/
def KX3_open_60 (x0 : Nat) (x1 : Int32) (x2 : Int32) (σ : vv_S) : Option (Int32 × vv_S) := (isO σ x0 2).bind fun _ => (KX3_lose x0 x1 σ).bind fun r1 => some (x2, r1)
theorem v_KX3_open_60 {l : Launch} {G : vv_G} {d : Nat} {ad : Nat → Nat} (hG : vv_gok G) (hH : vv_hy l G ad) {x0 : Nat} {x1 : Int32} {x2 : Int32} {σ : vv_S} {r : Int32 × vv_S} (h : KX3_open_60 x0 x1 x2 σ = some r) : vv_V l G MX3_open (d + 2) 60 [(0, .ref x0), (1, .int x1), (2, .int x2)] [] σ (.inl (some (.int r.1)), r.2) := by
  unfold KX3_open_60 at h
  refine vv_aload_n dX3_open_60 rfl 0 rfl ?_
  refine vv_iload_n dX3_open_61 rfl 1 rfl ?_
  replace h := isO_o h; obtain ⟨fz2, sz2, ez2, h⟩ := h
  replace h := bd_o h; obtain ⟨r1, er1, h⟩ := h
  refine vv_callV ok_X3_lose q620 (m_KX3_lose hG hH er1 d) rfl (by omega) ⟨_, _, _, _, _, ez2, by rw [hG.1]; rfl⟩ rfl rfl (Nat.le_of_ble_eq_true rfl) dX3_open_62 ?_
  refine vv_iload_n dX3_open_65 rfl 2 rfl ?_
  cases h
  exact vv_iret rfl dX3_open_66
def KX3_open (x0 : Nat) (x1 : Int32) (σ : vv_S) : Option (Int32 × vv_S) := (gR σ x0 2 3).bind fun v1 => (aI σ .int v1 x1).bind fun v2 => (gR σ x0 2 4).bind fun v3 => (aI σ .int v3 x1).bind fun v4 => if v4 = 0 then ((gR σ x0 2 6).bind fun v14 => (aI σ .int v14 x1).bind fun v15 => (isO σ x0 2).bind fun _ => (KX3_give x0 v15 v2 σ).bind fun r16 => KX3_open_60 x0 x1 v2 r16) else ((gR σ x0 2 1).bind fun v6 => (gR σ x0 2 6).bind fun v7 => (aI σ .int v7 x1).bind fun v8 => (gR σ x0 2 1).bind fun v9 => (gR σ x0 2 6).bind fun v10 => (aI σ .int v10 x1).bind fun v11 => (aI σ .int v9 v11).bind fun v12 => (sI σ v6 v8 (mnI (nI 9999) (v12 + v2))).bind fun σ13 => KX3_open_60 x0 x1 v2 σ13)
theorem v_KX3_open_0 {l : Launch} {G : vv_G} {d : Nat} {ad : Nat → Nat} (hG : vv_gok G) (hH : vv_hy l G ad) {x0 : Nat} {x1 : Int32} {σ : vv_S} {r : Int32 × vv_S} (h : KX3_open x0 x1 σ = some r) : vv_V l G MX3_open (d + 2) 0 [(0, .ref x0), (1, .int x1)] [] σ (.inl (some (.int r.1)), r.2) := by
  unfold KX3_open at h
  refine vv_aload_n dX3_open_0 rfl 0 rfl ?_
  replace h := gR_o h; obtain ⟨v1, fv1, sv1, ev1, lv1, h⟩ := h
  refine vv_get (fl_X3_25 hG) ev1 lv1 dX3_open_1 ?_
  refine vv_iload_n dX3_open_4 rfl 1 rfl ?_
  replace h := aI_o h; obtain ⟨v2, fv2, nv2, qv2, ev2, iv2, wv2, h⟩ := h
  refine vv_iald ev2 iv2 dX3_open_5 ?_
  rw [wv2]
  refine vv_istore_n (lv' := [(0, .ref x0), (1, .int x1), (2, .int v2)]) dX3_open_6 rfl (by decide) [1, 2, 0] rfl ?_
  refine vv_aload_n dX3_open_7 rfl 0 rfl ?_
  replace h := gR_o h; obtain ⟨v3, fv3, sv3, ev3, lv3, h⟩ := h
  refine vv_get (fl_X3_28 hG) ev3 lv3 dX3_open_8 ?_
  refine vv_iload_n dX3_open_11 rfl 1 rfl ?_
  replace h := aI_o h; obtain ⟨v4, fv4, nv4, qv4, ev4, iv4, wv4, h⟩ := h
  refine vv_iald ev4 iv4 dX3_open_12 ?_
  rw [wv4]
  refine vv_if_ne (tgt := 30) dX3_open_13 (by decide) (fun c5 => ?_) (fun c5 => ?_)
  · rw [if_neg c5] at h
    refine vv_aload_n dX3_open_30 rfl 0 rfl ?_
    replace h := gR_o h; obtain ⟨v6, fv6, sv6, ev6, lv6, h⟩ := h
    refine vv_get (fl_X3_19 hG) ev6 lv6 dX3_open_31 ?_
    refine vv_aload_n dX3_open_34 rfl 0 rfl ?_
    replace h := gR_o h; obtain ⟨v7, fv7, sv7, ev7, lv7, h⟩ := h
    refine vv_get (fl_X3_34 hG) ev7 lv7 dX3_open_35 ?_
    refine vv_iload_n dX3_open_38 rfl 1 rfl ?_
    replace h := aI_o h; obtain ⟨v8, fv8, nv8, qv8, ev8, iv8, wv8, h⟩ := h
    refine vv_iald ev8 iv8 dX3_open_39 ?_
    rw [wv8]
    refine vv_sipush (v := (nI 9999)) dX3_open_40 (by decide) ?_
    refine vv_aload_n dX3_open_43 rfl 0 rfl ?_
    replace h := gR_o h; obtain ⟨v9, fv9, sv9, ev9, lv9, h⟩ := h
    refine vv_get (fl_X3_19 hG) ev9 lv9 dX3_open_44 ?_
    refine vv_aload_n dX3_open_47 rfl 0 rfl ?_
    replace h := gR_o h; obtain ⟨v10, fv10, sv10, ev10, lv10, h⟩ := h
    refine vv_get (fl_X3_34 hG) ev10 lv10 dX3_open_48 ?_
    refine vv_iload_n dX3_open_51 rfl 1 rfl ?_
    replace h := aI_o h; obtain ⟨v11, fv11, nv11, qv11, ev11, iv11, wv11, h⟩ := h
    refine vv_iald ev11 iv11 dX3_open_52 ?_
    rw [wv11]
    replace h := aI_o h; obtain ⟨v12, fv12, nv12, qv12, ev12, iv12, wv12, h⟩ := h
    refine vv_iald ev12 iv12 dX3_open_53 ?_
    rw [wv12]
    refine vv_iload_n dX3_open_54 rfl 2 rfl ?_
    refine vv_iadd dX3_open_55 ?_
    refine vv_mmin q499 (by omega) (Nat.le_of_ble_eq_true rfl) dX3_open_56 ?_
    replace h := sI_o h; obtain ⟨σ13, nσ13, qσ13, eσ13, iσ13, uσ13, h⟩ := h
    refine vv_iast eσ13 iσ13 dX3_open_59 ?_
    rw [← uσ13]
    exact v_KX3_open_60 hG hH h
  · rw [if_pos c5] at h
    refine vv_aload_n dX3_open_16 rfl 0 rfl ?_
    refine vv_aload_n dX3_open_17 rfl 0 rfl ?_
    replace h := gR_o h; obtain ⟨v14, fv14, sv14, ev14, lv14, h⟩ := h
    refine vv_get (fl_X3_34 hG) ev14 lv14 dX3_open_18 ?_
    refine vv_iload_n dX3_open_21 rfl 1 rfl ?_
    replace h := aI_o h; obtain ⟨v15, fv15, nv15, qv15, ev15, iv15, wv15, h⟩ := h
    refine vv_iald ev15 iv15 dX3_open_22 ?_
    rw [wv15]
    refine vv_iload_n dX3_open_23 rfl 2 rfl ?_
    replace h := isO_o h; obtain ⟨fz17, sz17, ez17, h⟩ := h
    replace h := bd_o h; obtain ⟨r16, er16, h⟩ := h
    refine vv_callV ok_X3_give q495 (m_KX3_give hG hH er16 d) rfl (by omega) ⟨_, _, _, _, _, ez17, by rw [hG.1]; rfl⟩ rfl rfl (Nat.le_of_ble_eq_true rfl) dX3_open_24 ?_
    refine vv_goto (tgt := 60) dX3_open_27 (by decide) ?_
    exact v_KX3_open_60 hG hH h
theorem m_KX3_open {l : Launch} {G : vv_G} {ad : Nat → Nat} (hG : vv_gok G) (hH : vv_hy l G ad) {x0 : Nat} {x1 : Int32} {σ : vv_S} {r : Int32 × vv_S} (h : KX3_open x0 x1 σ = some r) (d : Nat) : vv_Met l G MX3_open (d + 2) [.ref x0, .int x1] σ (.inl (some (.int r.1)), r.2) := vv_head (by decide +kernel) rfl (Nat.le_of_ble_eq_true rfl) rfl (v_KX3_open_0 hG hH h)
/-! ('X3', 'sum') -/
def BKX3_sum_4 (k4 : Nat → Nat → Int32 → Int32 → vv_S → Option Int32) (x0 : Nat) (x1 : Nat) (x2 : Int32) (x3 : Int32) (σ : vv_S) : Option Int32 := (gR σ x0 2 11).bind fun v1 => (gR σ v1 0 1).bind fun v2 => (isO σ v2 1).bind fun _ => (KX2_towns v2 σ).bind fun r3 => if r3 ≤ x3 then (some x2) else ((aI σ .int x1 x3).bind fun v6 => k4 x0 x1 (x2 + v6) (x3 + (nI 1)) σ)
def KX3_sum_4 : Nat → Nat → Nat → Int32 → Int32 → vv_S → Option Int32
  | 0, _, _, _, _, _ => none
  | n + 1, x0, x1, x2, x3, σ => BKX3_sum_4 (KX3_sum_4 n) x0 x1 x2 x3 σ
theorem vb_KX3_sum_4 {l : Launch} {G : vv_G} {d : Nat} {ad : Nat → Nat} (hG : vv_gok G) (hH : vv_hy l G ad) {k4 : Nat → Nat → Int32 → Int32 → vv_S → Option Int32} (hk4 : ∀ {x0 : Nat} {x1 : Nat} {x2 : Int32} {x3 : Int32} {σ : vv_S} {r : Int32}, k4 x0 x1 x2 x3 σ = some r → vv_V l G MX3_sum (d + 2) 4 [(0, .ref x0), (1, .ref x1), (2, .int x2), (3, .int x3)] [] σ (.inl (some (.int r)), σ)) {x0 : Nat} {x1 : Nat} {x2 : Int32} {x3 : Int32} {σ : vv_S} {r : Int32} (h : BKX3_sum_4 k4 x0 x1 x2 x3 σ = some r) : vv_V l G MX3_sum (d + 2) 4 [(0, .ref x0), (1, .ref x1), (2, .int x2), (3, .int x3)] [] σ (.inl (some (.int r)), σ) := by
  unfold BKX3_sum_4 at h
  refine vv_iload_n dX3_sum_4 rfl 3 rfl ?_
  refine vv_aload_n dX3_sum_5 rfl 0 rfl ?_
  replace h := gR_o h; obtain ⟨v1, fv1, sv1, ev1, lv1, h⟩ := h
  refine vv_get (fl_X3_3 hG) ev1 lv1 dX3_sum_6 ?_
  replace h := gR_o h; obtain ⟨v2, fv2, sv2, ev2, lv2, h⟩ := h
  refine vv_getM (fl_X3_54 hH) ev2 lv2 dX3_sum_9 ?_
  replace h := isO_o h; obtain ⟨fz4, sz4, ez4, h⟩ := h
  replace h := bd_o h; obtain ⟨r3, er3, h⟩ := h
  refine vv_callV ok_X2_towns q471 (m_KX2_towns hG hH er3 d) rfl (by omega) ⟨_, _, _, _, _, ez4, by rw [hG.1]; rfl⟩ rfl rfl (Nat.le_of_ble_eq_true rfl) dX3_sum_12 ?_
  refine vv_icmp_ge (tgt := 30) dX3_sum_15 (by decide) (fun c5 => ?_) (fun c5 => ?_)
  · rw [if_pos c5] at h
    refine vv_iload_n dX3_sum_30 rfl 2 rfl ?_
    cases h
    exact vv_iret rfl dX3_sum_31
  · rw [if_neg c5] at h
    refine vv_iload_n dX3_sum_18 rfl 2 rfl ?_
    refine vv_aload_n dX3_sum_19 rfl 1 rfl ?_
    refine vv_iload_n dX3_sum_20 rfl 3 rfl ?_
    replace h := aI_o h; obtain ⟨v6, fv6, nv6, qv6, ev6, iv6, wv6, h⟩ := h
    refine vv_iald ev6 iv6 dX3_sum_21 ?_
    rw [wv6]
    refine vv_iadd dX3_sum_22 ?_
    refine vv_istore_n (lv' := [(0, .ref x0), (1, .ref x1), (2, .int (x2 + v6)), (3, .int x3)]) dX3_sum_23 rfl (by decide) [1, 2, 0, 3] rfl ?_
    refine vv_iinc (v := (x3 + (nI 1))) (lv' := [(0, .ref x0), (1, .ref x1), (2, .int (x2 + v6)), (3, .int (x3 + (nI 1)))]) dX3_sum_24 3 rfl rfl (by decide) [1, 2, 3, 0] rfl ?_
    refine vv_goto (tgt := 4) dX3_sum_27 (by decide) ?_
    exact hk4 h
theorem v_KX3_sum_4 {l : Launch} {G : vv_G} {d : Nat} {ad : Nat → Nat} (hG : vv_gok G) (hH : vv_hy l G ad) : ∀ (n : Nat) {x0 : Nat} {x1 : Nat} {x2 : Int32} {x3 : Int32} {σ : vv_S} {r : Int32}, KX3_sum_4 n x0 x1 x2 x3 σ = some r → vv_V l G MX3_sum (d + 2) 4 [(0, .ref x0), (1, .ref x1), (2, .int x2), (3, .int x3)] [] σ (.inl (some (.int r)), σ) := by
  intro n
  induction n with
  | zero => intro _ _ _ _ _ _ h; cases h
  | succ n ih => intro _ _ _ _ _ _ h; exact vb_KX3_sum_4 hG hH ih h
def KX3_sum (x0 : Nat) (x1 : Nat) (σ : vv_S) : Option Int32 := KX3_sum_4 NN x0 x1 (nI 0) (nI 0) σ
theorem v_KX3_sum_0 {l : Launch} {G : vv_G} {d : Nat} {ad : Nat → Nat} (hG : vv_gok G) (hH : vv_hy l G ad) {x0 : Nat} {x1 : Nat} {σ : vv_S} {r : Int32} (h : KX3_sum x0 x1 σ = some r) : vv_V l G MX3_sum (d + 2) 0 [(0, .ref x0), (1, .ref x1)] [] σ (.inl (some (.int r)), σ) := by
  unfold KX3_sum at h
  refine vv_iconst (v := (nI 0)) dX3_sum_0 (by decide) ?_
  refine vv_istore_n (lv' := [(0, .ref x0), (1, .ref x1), (2, .int (nI 0))]) dX3_sum_1 rfl (by decide) [1, 2, 0] rfl ?_
  refine vv_iconst (v := (nI 0)) dX3_sum_2 (by decide) ?_
  refine vv_istore_n (lv' := [(0, .ref x0), (1, .ref x1), (2, .int (nI 0)), (3, .int (nI 0))]) dX3_sum_3 rfl (by decide) [1, 2, 3, 0] rfl ?_
  exact v_KX3_sum_4 hG hH NN h
theorem m_KX3_sum {l : Launch} {G : vv_G} {ad : Nat → Nat} (hG : vv_gok G) (hH : vv_hy l G ad) {x0 : Nat} {x1 : Nat} {σ : vv_S} {r : Int32} (h : KX3_sum x0 x1 σ = some r) (d : Nat) : vv_Met l G MX3_sum (d + 2) [.ref x0, .ref x1] σ (.inl (some (.int r)), σ) := vv_head (by decide +kernel) rfl (Nat.le_of_ble_eq_true rfl) rfl (v_KX3_sum_0 hG hH h)
/-! ('X1', 'wonIn') -/
def KX1_wonIn (fo : Nat → Nat → vv_S → Option Int32) (x0 : Nat) (x1 : Nat) (x2 : Int32) (σ : vv_S) : Option (Int32 × vv_S) := (isO σ x1 2).bind fun _ => (KX3_after fo x1 x2 σ).bind fun r1 => (gR r1.2 x1 2 2).bind fun v3 => (isO r1.2 x1 2).bind fun _ => (KX3_sum x1 v3 r1.2).bind fun r4 => some (r4, r1.2)
theorem v_KX1_wonIn_0 {l : Launch} {G : vv_G} {d : Nat} {ad : Nat → Nat} {fo : Nat → Nat → vv_S → Option Int32} (hG : vv_gok G) (hH : vv_hy l G ad) (hfo : ∀ {a vs : Nat} {σ : vv_S} {r : Int32}, fo a vs σ = some r → vv_Form l G d a vs σ r) {x0 : Nat} {x1 : Nat} {x2 : Int32} {σ : vv_S} {r : Int32 × vv_S} (h : KX1_wonIn fo x0 x1 x2 σ = some r) : vv_V l G MX1_wonIn (d + 6) 0 [(0, .ref x0), (1, .ref x1), (2, .int x2)] [] σ (.inl (some (.int r.1)), r.2) := by
  unfold KX1_wonIn at h
  refine vv_aload_n dX1_wonIn_0 rfl 1 rfl ?_
  refine vv_iload_n dX1_wonIn_1 rfl 2 rfl ?_
  replace h := isO_o h; obtain ⟨fz2, sz2, ez2, h⟩ := h
  replace h := bd_o h; obtain ⟨r1, er1, h⟩ := h
  refine vv_callV ok_X3_after q454 (m_KX3_after hG hH hfo er1 d) rfl (by omega) ⟨_, _, _, _, _, ez2, by rw [hG.1]; rfl⟩ rfl rfl (Nat.le_of_ble_eq_true rfl) dX1_wonIn_2 ?_
  refine vv_pop dX1_wonIn_5 rfl ?_
  refine vv_aload_n dX1_wonIn_6 rfl 1 rfl ?_
  refine vv_aload_n dX1_wonIn_7 rfl 1 rfl ?_
  replace h := gR_o h; obtain ⟨v3, fv3, sv3, ev3, lv3, h⟩ := h
  refine vv_getM (fl_X1_120 hH) ev3 lv3 dX1_wonIn_8 ?_
  replace h := isO_o h; obtain ⟨fz5, sz5, ez5, h⟩ := h
  replace h := bd_o h; obtain ⟨r4, er4, h⟩ := h
  refine vv_callV ok_X3_sum q629 (m_KX3_sum hG hH er4 d) rfl (by omega) ⟨_, _, _, _, _, ez5, by rw [hG.1]; rfl⟩ rfl rfl (Nat.le_of_ble_eq_true rfl) dX1_wonIn_11 ?_
  cases h
  exact vv_iret rfl dX1_wonIn_14
theorem m_KX1_wonIn {l : Launch} {G : vv_G} {d : Nat} {ad : Nat → Nat} {fo : Nat → Nat → vv_S → Option Int32} (hG : vv_gok G) (hH : vv_hy l G ad) (hfo : ∀ {a vs : Nat} {σ : vv_S} {r : Int32}, fo a vs σ = some r → vv_Form l G d a vs σ r) {x0 : Nat} {x1 : Nat} {x2 : Int32} {σ : vv_S} {r : Int32 × vv_S} (h : KX1_wonIn fo x0 x1 x2 σ = some r) (d9 : Nat) (e9 : d9 = d := by rfl) : vv_Met l G MX1_wonIn (d9 + 6) [.ref x0, .ref x1, .int x2] σ (.inl (some (.int r.1)), r.2) := by
  subst e9
  exact vv_head (by decide +kernel) rfl (Nat.le_of_ble_eq_true rfl) rfl (v_KX1_wonIn_0 hG hH hfo h)
/-! ('X1', 'missed') -/
def KX1_missed_120 (fo : Nat → Nat → vv_S → Option Int32) (k6 : Nat → Int32 → Int32 → Int32 → vv_S → Option (Int32 × vv_S)) (x0 : Nat) (x1 : Int32) (x2 : Int32) (x3 : Int32) (σ : vv_S) : Option (Int32 × vv_S) := k6 x0 x1 x2 (x3 + (nI 1)) σ
theorem v_KX1_missed_120 {l : Launch} {G : vv_G} {d : Nat} {ad : Nat → Nat} {fo : Nat → Nat → vv_S → Option Int32} (hG : vv_gok G) (hH : vv_hy l G ad) (hfo : ∀ {a vs : Nat} {σ : vv_S} {r : Int32}, fo a vs σ = some r → vv_Form l G d a vs σ r) {k6 : Nat → Int32 → Int32 → Int32 → vv_S → Option (Int32 × vv_S)} (hk6 : ∀ {x0 : Nat} {x1 : Int32} {x2 : Int32} {x3 : Int32} {σ : vv_S} {r : Int32 × vv_S}, k6 x0 x1 x2 x3 σ = some r → vv_V l G MX1_missed (d + 7) 6 [(0, .ref x0), (1, .int x1), (2, .int x2), (3, .int x3)] [] σ (.inl (some (.int r.1)), r.2)) {x0 : Nat} {x1 : Int32} {x2 : Int32} {x3 : Int32} {σ : vv_S} {r : Int32 × vv_S} (h : KX1_missed_120 fo k6 x0 x1 x2 x3 σ = some r) : vv_V l G MX1_missed (d + 7) 120 [(0, .ref x0), (1, .int x1), (2, .int x2), (3, .int x3)] [] σ (.inl (some (.int r.1)), r.2) := by
  unfold KX1_missed_120 at h
  refine vv_iinc (v := (x3 + (nI 1))) (lv' := [(0, .ref x0), (1, .int x1), (2, .int x2), (3, .int (x3 + (nI 1)))]) dX1_missed_120 3 rfl rfl (by decide) [1, 2, 3, 0] rfl ?_
  refine vv_goto (tgt := 6) dX1_missed_123 (by decide) ?_
  exact hk6 h
def KX1_missed_115 (fo : Nat → Nat → vv_S → Option Int32) (k6 : Nat → Int32 → Int32 → Int32 → vv_S → Option (Int32 × vv_S)) (x0 : Nat) (x3 : Int32) (x5 : Int32) (σ : vv_S) : Option (Int32 × vv_S) := KX1_missed_120 fo k6 x0 x3 x5 x3 σ
theorem v_KX1_missed_115 {l : Launch} {G : vv_G} {d : Nat} {ad : Nat → Nat} {fo : Nat → Nat → vv_S → Option Int32} (hG : vv_gok G) (hH : vv_hy l G ad) (hfo : ∀ {a vs : Nat} {σ : vv_S} {r : Int32}, fo a vs σ = some r → vv_Form l G d a vs σ r) {k6 : Nat → Int32 → Int32 → Int32 → vv_S → Option (Int32 × vv_S)} (hk6 : ∀ {x0 : Nat} {x1 : Int32} {x2 : Int32} {x3 : Int32} {σ : vv_S} {r : Int32 × vv_S}, k6 x0 x1 x2 x3 σ = some r → vv_V l G MX1_missed (d + 7) 6 [(0, .ref x0), (1, .int x1), (2, .int x2), (3, .int x3)] [] σ (.inl (some (.int r.1)), r.2)) {x0 : Nat} {x3 : Int32} {x5 : Int32} {σ : vv_S} {r : Int32 × vv_S} (h : KX1_missed_115 fo k6 x0 x3 x5 σ = some r) : vv_V l G MX1_missed (d + 7) 115 [(0, .ref x0), (3, .int x3), (5, .int x5)] [] σ (.inl (some (.int r.1)), r.2) := by
  unfold KX1_missed_115 at h
  refine vv_iload_n dX1_missed_115 rfl 1 rfl ?_
  refine vv_istore_n (lv' := [(0, .ref x0), (1, .int x3), (3, .int x3), (5, .int x5)]) dX1_missed_116 rfl (by decide) [1, 0, 2, 3] rfl ?_
  refine vv_iload dX1_missed_117 3 rfl ?_
  refine vv_istore_n (lv' := [(0, .ref x0), (1, .int x3), (2, .int x5), (3, .int x3), (5, .int x5)]) dX1_missed_119 rfl (by decide) [1, 2, 0, 3, 4] rfl ?_
  refine vv_sub (lv' := [(0, .ref x0), (1, .int x3), (2, .int x5), (3, .int x3)]) [0, 1, 2, 3] rfl ?_
  exact v_KX1_missed_120 hG hH hfo hk6 h
def KX1_missed_79 (fo : Nat → Nat → vv_S → Option Int32) (k6 : Nat → Int32 → Int32 → Int32 → vv_S → Option (Int32 × vv_S)) (k43 : Nat → Int32 → Int32 → Int32 → Nat → Int32 → vv_S → Option (Int32 × vv_S)) (x0 : Nat) (x1 : Int32) (x2 : Int32) (x3 : Int32) (x4 : Nat) (x5 : Int32) (σ : vv_S) : Option (Int32 × vv_S) := k43 x0 x1 x2 x3 x4 (x5 + (nI 1)) σ
theorem v_KX1_missed_79 {l : Launch} {G : vv_G} {d : Nat} {ad : Nat → Nat} {fo : Nat → Nat → vv_S → Option Int32} (hG : vv_gok G) (hH : vv_hy l G ad) (hfo : ∀ {a vs : Nat} {σ : vv_S} {r : Int32}, fo a vs σ = some r → vv_Form l G d a vs σ r) {k6 : Nat → Int32 → Int32 → Int32 → vv_S → Option (Int32 × vv_S)} (hk6 : ∀ {x0 : Nat} {x1 : Int32} {x2 : Int32} {x3 : Int32} {σ : vv_S} {r : Int32 × vv_S}, k6 x0 x1 x2 x3 σ = some r → vv_V l G MX1_missed (d + 7) 6 [(0, .ref x0), (1, .int x1), (2, .int x2), (3, .int x3)] [] σ (.inl (some (.int r.1)), r.2)) {k43 : Nat → Int32 → Int32 → Int32 → Nat → Int32 → vv_S → Option (Int32 × vv_S)} (hk43 : ∀ {x0 : Nat} {x1 : Int32} {x2 : Int32} {x3 : Int32} {x4 : Nat} {x5 : Int32} {σ : vv_S} {r : Int32 × vv_S}, k43 x0 x1 x2 x3 x4 x5 σ = some r → vv_V l G MX1_missed (d + 7) 43 [(0, .ref x0), (1, .int x1), (2, .int x2), (3, .int x3), (4, .ref x4), (5, .int x5)] [] σ (.inl (some (.int r.1)), r.2)) {x0 : Nat} {x1 : Int32} {x2 : Int32} {x3 : Int32} {x4 : Nat} {x5 : Int32} {σ : vv_S} {r : Int32 × vv_S} (h : KX1_missed_79 fo k6 k43 x0 x1 x2 x3 x4 x5 σ = some r) : vv_V l G MX1_missed (d + 7) 79 [(0, .ref x0), (1, .int x1), (2, .int x2), (3, .int x3), (4, .ref x4), (5, .int x5)] [] σ (.inl (some (.int r.1)), r.2) := by
  unfold KX1_missed_79 at h
  refine vv_iinc (v := (x5 + (nI 1))) (lv' := [(0, .ref x0), (1, .int x1), (2, .int x2), (3, .int x3), (4, .ref x4), (5, .int (x5 + (nI 1)))]) dX1_missed_79 5 rfl rfl (by decide) [1, 2, 3, 4, 5, 0] rfl ?_
  refine vv_goto (tgt := 43) dX1_missed_82 (by decide) ?_
  exact hk43 h
def BKX1_missed_43 (fo : Nat → Nat → vv_S → Option Int32) (k6 : Nat → Int32 → Int32 → Int32 → vv_S → Option (Int32 × vv_S)) (k43 : Nat → Int32 → Int32 → Int32 → Nat → Int32 → vv_S → Option (Int32 × vv_S)) (x0 : Nat) (x1 : Int32) (x2 : Int32) (x3 : Int32) (x4 : Nat) (x5 : Int32) (σ : vv_S) : Option (Int32 × vv_S) := (gR σ x0 0 1).bind fun v1 => (gI σ v1 1 3).bind fun v2 => if v2 ≤ x5 then ((isO σ x4 2).bind fun _ => (KX3_lose x4 x3 σ).bind fun r4 => (isO r4 x0 0).bind fun _ => (KX1_wonIn fo x0 x4 (nI 30) r4).bind fun r6 => if x1 = (-1) then (KX1_missed_115 fo k6 x0 x3 r6.1 r6.2) else (if r6.1 < x2 then (KX1_missed_115 fo k6 x0 x3 r6.1 r6.2) else (KX1_missed_120 fo k6 x0 x1 x2 x3 r6.2))) else (if x5 = x3 then (KX1_missed_79 fo k6 k43 x0 x1 x2 x3 x4 x5 σ) else ((isO σ x4 2).bind fun _ => (KX3_lies x4 x5 σ).bind fun r11 => if r11 = 0 then (KX1_missed_79 fo k6 k43 x0 x1 x2 x3 x4 x5 σ) else ((isO σ x4 2).bind fun _ => (KX3_open x4 x5 σ).bind fun r14 => KX1_missed_79 fo k6 k43 x0 x1 x2 x3 x4 x5 r14.2)))
def KX1_missed_43 (fo : Nat → Nat → vv_S → Option Int32) (k6 : Nat → Int32 → Int32 → Int32 → vv_S → Option (Int32 × vv_S)) : Nat → Nat → Int32 → Int32 → Int32 → Nat → Int32 → vv_S → Option (Int32 × vv_S)
  | 0, _, _, _, _, _, _, _ => none
  | n + 1, x0, x1, x2, x3, x4, x5, σ => BKX1_missed_43 fo k6 (KX1_missed_43 fo k6 n) x0 x1 x2 x3 x4 x5 σ
theorem vb_KX1_missed_43 {l : Launch} {G : vv_G} {d : Nat} {ad : Nat → Nat} {fo : Nat → Nat → vv_S → Option Int32} (hG : vv_gok G) (hH : vv_hy l G ad) (hfo : ∀ {a vs : Nat} {σ : vv_S} {r : Int32}, fo a vs σ = some r → vv_Form l G d a vs σ r) {k6 : Nat → Int32 → Int32 → Int32 → vv_S → Option (Int32 × vv_S)} (hk6 : ∀ {x0 : Nat} {x1 : Int32} {x2 : Int32} {x3 : Int32} {σ : vv_S} {r : Int32 × vv_S}, k6 x0 x1 x2 x3 σ = some r → vv_V l G MX1_missed (d + 7) 6 [(0, .ref x0), (1, .int x1), (2, .int x2), (3, .int x3)] [] σ (.inl (some (.int r.1)), r.2)) {k43 : Nat → Int32 → Int32 → Int32 → Nat → Int32 → vv_S → Option (Int32 × vv_S)} (hk43 : ∀ {x0 : Nat} {x1 : Int32} {x2 : Int32} {x3 : Int32} {x4 : Nat} {x5 : Int32} {σ : vv_S} {r : Int32 × vv_S}, k43 x0 x1 x2 x3 x4 x5 σ = some r → vv_V l G MX1_missed (d + 7) 43 [(0, .ref x0), (1, .int x1), (2, .int x2), (3, .int x3), (4, .ref x4), (5, .int x5)] [] σ (.inl (some (.int r.1)), r.2)) {x0 : Nat} {x1 : Int32} {x2 : Int32} {x3 : Int32} {x4 : Nat} {x5 : Int32} {σ : vv_S} {r : Int32 × vv_S} (h : BKX1_missed_43 fo k6 k43 x0 x1 x2 x3 x4 x5 σ = some r) : vv_V l G MX1_missed (d + 7) 43 [(0, .ref x0), (1, .int x1), (2, .int x2), (3, .int x3), (4, .ref x4), (5, .int x5)] [] σ (.inl (some (.int r.1)), r.2) := by
  unfold BKX1_missed_43 at h
  refine vv_iload dX1_missed_43 5 rfl ?_
  refine vv_aload_n dX1_missed_45 rfl 0 rfl ?_
  replace h := gR_o h; obtain ⟨v1, fv1, sv1, ev1, lv1, h⟩ := h
  refine vv_get (fl_X1_22 hG) ev1 lv1 dX1_missed_46 ?_
  replace h := gI_o h; obtain ⟨v2, fv2, sv2, ev2, lv2, h⟩ := h
  refine vv_getM (fl_X1_104 hH) ev2 lv2 dX1_missed_49 ?_
  refine vv_icmp_ge (tgt := 85) dX1_missed_52 (by decide) (fun c3 => ?_) (fun c3 => ?_)
  · rw [if_pos c3] at h
    refine vv_aload dX1_missed_85 4 rfl ?_
    refine vv_iload_n dX1_missed_87 rfl 3 rfl ?_
    replace h := isO_o h; obtain ⟨fz5, sz5, ez5, h⟩ := h
    replace h := bd_o h; obtain ⟨r4, er4, h⟩ := h
    refine vv_callV ok_X3_lose q624 (m_KX3_lose hG hH er4 d) rfl (by omega) ⟨_, _, _, _, _, ez5, by rw [hG.1]; rfl⟩ rfl rfl (Nat.le_of_ble_eq_true rfl) dX1_missed_88 ?_
    refine vv_aload_n dX1_missed_91 rfl 0 rfl ?_
    refine vv_aload dX1_missed_92 4 rfl ?_
    refine vv_bipush (v := (nI 30)) dX1_missed_94 (by decide) ?_
    replace h := isO_o h; obtain ⟨fz7, sz7, ez7, h⟩ := h
    replace h := bd_o h; obtain ⟨r6, er6, h⟩ := h
    refine vv_callV ok_X1_wonIn q625 (m_KX1_wonIn hG hH hfo er6 d) rfl (by omega) ⟨_, _, _, _, _, ez7, by rw [hG.1]; rfl⟩ rfl rfl (Nat.le_of_ble_eq_true rfl) dX1_missed_96 ?_
    refine vv_istore (lv' := [(0, .ref x0), (1, .int x1), (2, .int x2), (3, .int x3), (4, .ref x4), (5, .int r6.1)]) dX1_missed_99 (by decide) [1, 2, 3, 4, 5, 0] rfl ?_
    refine vv_iload_n dX1_missed_101 rfl 1 rfl ?_
    refine vv_iconst (v := (-1)) dX1_missed_102 (by decide) ?_
    refine vv_icmp_eq (tgt := 115) dX1_missed_103 (by decide) (fun c8 => ?_) (fun c8 => ?_)
    · rw [if_pos c8] at h
      refine vv_sub (lv' := [(0, .ref x0), (3, .int x3), (5, .int r6.1)]) [0, 3, 5] rfl ?_
      exact v_KX1_missed_115 hG hH hfo hk6 h
    · rw [if_neg c8] at h
      refine vv_iload dX1_missed_106 5 rfl ?_
      refine vv_iload_n dX1_missed_108 rfl 2 rfl ?_
      refine vv_icmp_lt (tgt := 115) dX1_missed_109 (by decide) (fun c9 => ?_) (fun c9 => ?_)
      · rw [if_pos c9] at h
        refine vv_sub (lv' := [(0, .ref x0), (3, .int x3), (5, .int r6.1)]) [0, 3, 5] rfl ?_
        exact v_KX1_missed_115 hG hH hfo hk6 h
      · rw [if_neg c9] at h
        refine vv_goto (tgt := 120) dX1_missed_112 (by decide) ?_
        refine vv_sub (lv' := [(0, .ref x0), (1, .int x1), (2, .int x2), (3, .int x3)]) [0, 1, 2, 3] rfl ?_
        exact v_KX1_missed_120 hG hH hfo hk6 h
  · rw [if_neg c3] at h
    refine vv_iload dX1_missed_55 5 rfl ?_
    refine vv_iload_n dX1_missed_57 rfl 3 rfl ?_
    refine vv_icmp_eq (tgt := 79) dX1_missed_58 (by decide) (fun c10 => ?_) (fun c10 => ?_)
    · rw [if_pos c10] at h
      exact v_KX1_missed_79 hG hH hfo hk6 hk43 h
    · rw [if_neg c10] at h
      refine vv_aload dX1_missed_61 4 rfl ?_
      refine vv_iload dX1_missed_63 5 rfl ?_
      replace h := isO_o h; obtain ⟨fz12, sz12, ez12, h⟩ := h
      replace h := bd_o h; obtain ⟨r11, er11, h⟩ := h
      refine vv_callV ok_X3_lies q615 (m_KX3_lies hG hH er11 d) rfl (by omega) ⟨_, _, _, _, _, ez12, by rw [hG.1]; rfl⟩ rfl rfl (Nat.le_of_ble_eq_true rfl) dX1_missed_65 ?_
      refine vv_if_eq (tgt := 79) dX1_missed_68 (by decide) (fun c13 => ?_) (fun c13 => ?_)
      · rw [if_pos c13] at h
        exact v_KX1_missed_79 hG hH hfo hk6 hk43 h
      · rw [if_neg c13] at h
        refine vv_aload dX1_missed_71 4 rfl ?_
        refine vv_iload dX1_missed_73 5 rfl ?_
        replace h := isO_o h; obtain ⟨fz15, sz15, ez15, h⟩ := h
        replace h := bd_o h; obtain ⟨r14, er14, h⟩ := h
        refine vv_callV ok_X3_open q616 (m_KX3_open hG hH er14 d) rfl (by omega) ⟨_, _, _, _, _, ez15, by rw [hG.1]; rfl⟩ rfl rfl (Nat.le_of_ble_eq_true rfl) dX1_missed_75 ?_
        refine vv_pop dX1_missed_78 rfl ?_
        exact v_KX1_missed_79 hG hH hfo hk6 hk43 h
theorem v_KX1_missed_43 {l : Launch} {G : vv_G} {d : Nat} {ad : Nat → Nat} {fo : Nat → Nat → vv_S → Option Int32} (hG : vv_gok G) (hH : vv_hy l G ad) (hfo : ∀ {a vs : Nat} {σ : vv_S} {r : Int32}, fo a vs σ = some r → vv_Form l G d a vs σ r) {k6 : Nat → Int32 → Int32 → Int32 → vv_S → Option (Int32 × vv_S)} (hk6 : ∀ {x0 : Nat} {x1 : Int32} {x2 : Int32} {x3 : Int32} {σ : vv_S} {r : Int32 × vv_S}, k6 x0 x1 x2 x3 σ = some r → vv_V l G MX1_missed (d + 7) 6 [(0, .ref x0), (1, .int x1), (2, .int x2), (3, .int x3)] [] σ (.inl (some (.int r.1)), r.2)) : ∀ (n : Nat) {x0 : Nat} {x1 : Int32} {x2 : Int32} {x3 : Int32} {x4 : Nat} {x5 : Int32} {σ : vv_S} {r : Int32 × vv_S}, KX1_missed_43 fo k6 n x0 x1 x2 x3 x4 x5 σ = some r → vv_V l G MX1_missed (d + 7) 43 [(0, .ref x0), (1, .int x1), (2, .int x2), (3, .int x3), (4, .ref x4), (5, .int x5)] [] σ (.inl (some (.int r.1)), r.2) := by
  intro n
  induction n with
  | zero => intro _ _ _ _ _ _ _ _ h; cases h
  | succ n ih => intro _ _ _ _ _ _ _ _ h; exact vb_KX1_missed_43 hG hH hfo hk6 ih h
def BKX1_missed_6 (fo : Nat → Nat → vv_S → Option Int32) (k6 : Nat → Int32 → Int32 → Int32 → vv_S → Option (Int32 × vv_S)) (x0 : Nat) (x1 : Int32) (x2 : Int32) (x3 : Int32) (σ : vv_S) : Option (Int32 × vv_S) := (gR σ x0 0 1).bind fun v1 => (gI σ v1 1 3).bind fun v2 => if v2 ≤ x3 then (some (x1, σ)) else ((gR σ x0 0 2).bind fun v4 => (isO σ v4 2).bind fun _ => (KX3_lies v4 x3 σ).bind fun r5 => if r5 = 0 then (KX1_missed_120 fo k6 x0 x1 x2 x3 σ) else ((gR σ x0 0 2).bind fun v8 => (isO σ v8 2).bind fun _ => (KX3_copy v8 σ).bind fun r9 => KX1_missed_43 fo k6 NN x0 x1 x2 x3 r9.1 (nI 0) r9.2))
def KX1_missed_6 (fo : Nat → Nat → vv_S → Option Int32) : Nat → Nat → Int32 → Int32 → Int32 → vv_S → Option (Int32 × vv_S)
  | 0, _, _, _, _, _ => none
  | n + 1, x0, x1, x2, x3, σ => BKX1_missed_6 fo (KX1_missed_6 fo n) x0 x1 x2 x3 σ
theorem vb_KX1_missed_6 {l : Launch} {G : vv_G} {d : Nat} {ad : Nat → Nat} {fo : Nat → Nat → vv_S → Option Int32} (hG : vv_gok G) (hH : vv_hy l G ad) (hfo : ∀ {a vs : Nat} {σ : vv_S} {r : Int32}, fo a vs σ = some r → vv_Form l G d a vs σ r) {k6 : Nat → Int32 → Int32 → Int32 → vv_S → Option (Int32 × vv_S)} (hk6 : ∀ {x0 : Nat} {x1 : Int32} {x2 : Int32} {x3 : Int32} {σ : vv_S} {r : Int32 × vv_S}, k6 x0 x1 x2 x3 σ = some r → vv_V l G MX1_missed (d + 7) 6 [(0, .ref x0), (1, .int x1), (2, .int x2), (3, .int x3)] [] σ (.inl (some (.int r.1)), r.2)) {x0 : Nat} {x1 : Int32} {x2 : Int32} {x3 : Int32} {σ : vv_S} {r : Int32 × vv_S} (h : BKX1_missed_6 fo k6 x0 x1 x2 x3 σ = some r) : vv_V l G MX1_missed (d + 7) 6 [(0, .ref x0), (1, .int x1), (2, .int x2), (3, .int x3)] [] σ (.inl (some (.int r.1)), r.2) := by
  unfold BKX1_missed_6 at h
  refine vv_iload_n dX1_missed_6 rfl 3 rfl ?_
  refine vv_aload_n dX1_missed_7 rfl 0 rfl ?_
  replace h := gR_o h; obtain ⟨v1, fv1, sv1, ev1, lv1, h⟩ := h
  refine vv_get (fl_X1_22 hG) ev1 lv1 dX1_missed_8 ?_
  replace h := gI_o h; obtain ⟨v2, fv2, sv2, ev2, lv2, h⟩ := h
  refine vv_getM (fl_X1_104 hH) ev2 lv2 dX1_missed_11 ?_
  refine vv_icmp_ge (tgt := 126) dX1_missed_14 (by decide) (fun c3 => ?_) (fun c3 => ?_)
  · rw [if_pos c3] at h
    refine vv_iload_n dX1_missed_126 rfl 1 rfl ?_
    cases h
    exact vv_iret rfl dX1_missed_127
  · rw [if_neg c3] at h
    refine vv_aload_n dX1_missed_17 rfl 0 rfl ?_
    replace h := gR_o h; obtain ⟨v4, fv4, sv4, ev4, lv4, h⟩ := h
    refine vv_get (fl_X1_31 hG) ev4 lv4 dX1_missed_18 ?_
    refine vv_iload_n dX1_missed_21 rfl 3 rfl ?_
    replace h := isO_o h; obtain ⟨fz6, sz6, ez6, h⟩ := h
    replace h := bd_o h; obtain ⟨r5, er5, h⟩ := h
    refine vv_callV ok_X3_lies q615 (m_KX3_lies hG hH er5 d) rfl (by omega) ⟨_, _, _, _, _, ez6, by rw [hG.1]; rfl⟩ rfl rfl (Nat.le_of_ble_eq_true rfl) dX1_missed_22 ?_
    refine vv_if_ne (tgt := 31) dX1_missed_25 (by decide) (fun c7 => ?_) (fun c7 => ?_)
    · rw [if_neg c7] at h
      refine vv_aload_n dX1_missed_31 rfl 0 rfl ?_
      replace h := gR_o h; obtain ⟨v8, fv8, sv8, ev8, lv8, h⟩ := h
      refine vv_get (fl_X1_31 hG) ev8 lv8 dX1_missed_32 ?_
      replace h := isO_o h; obtain ⟨fz10, sz10, ez10, h⟩ := h
      replace h := bd_o h; obtain ⟨r9, er9, h⟩ := h
      refine vv_callV ok_X3_copy q346 (m_KX3_copy hG hH er9 d) rfl (by omega) ⟨_, _, _, _, _, ez10, by rw [hG.1]; rfl⟩ rfl rfl (Nat.le_of_ble_eq_true rfl) dX1_missed_35 ?_
      refine vv_astore (lv' := [(0, .ref x0), (1, .int x1), (2, .int x2), (3, .int x3), (4, .ref r9.1)]) dX1_missed_38 (by decide) [1, 2, 3, 4, 0] rfl ?_
      refine vv_iconst (v := (nI 0)) dX1_missed_40 (by decide) ?_
      refine vv_istore (lv' := [(0, .ref x0), (1, .int x1), (2, .int x2), (3, .int x3), (4, .ref r9.1), (5, .int (nI 0))]) dX1_missed_41 (by decide) [1, 2, 3, 4, 5, 0] rfl ?_
      exact v_KX1_missed_43 hG hH hfo hk6 NN h
    · rw [if_pos c7] at h
      refine vv_goto (tgt := 120) dX1_missed_28 (by decide) ?_
      exact v_KX1_missed_120 hG hH hfo hk6 h
theorem v_KX1_missed_6 {l : Launch} {G : vv_G} {d : Nat} {ad : Nat → Nat} {fo : Nat → Nat → vv_S → Option Int32} (hG : vv_gok G) (hH : vv_hy l G ad) (hfo : ∀ {a vs : Nat} {σ : vv_S} {r : Int32}, fo a vs σ = some r → vv_Form l G d a vs σ r) : ∀ (n : Nat) {x0 : Nat} {x1 : Int32} {x2 : Int32} {x3 : Int32} {σ : vv_S} {r : Int32 × vv_S}, KX1_missed_6 fo n x0 x1 x2 x3 σ = some r → vv_V l G MX1_missed (d + 7) 6 [(0, .ref x0), (1, .int x1), (2, .int x2), (3, .int x3)] [] σ (.inl (some (.int r.1)), r.2) := by
  intro n
  induction n with
  | zero => intro _ _ _ _ _ _ h; cases h
  | succ n ih => intro _ _ _ _ _ _ h; exact vb_KX1_missed_6 hG hH hfo ih h
def KX1_missed (fo : Nat → Nat → vv_S → Option Int32) (x0 : Nat) (σ : vv_S) : Option (Int32 × vv_S) := KX1_missed_6 fo NN x0 (-1) (nI 0) (nI 0) σ
theorem v_KX1_missed_0 {l : Launch} {G : vv_G} {d : Nat} {ad : Nat → Nat} {fo : Nat → Nat → vv_S → Option Int32} (hG : vv_gok G) (hH : vv_hy l G ad) (hfo : ∀ {a vs : Nat} {σ : vv_S} {r : Int32}, fo a vs σ = some r → vv_Form l G d a vs σ r) {x0 : Nat} {σ : vv_S} {r : Int32 × vv_S} (h : KX1_missed fo x0 σ = some r) : vv_V l G MX1_missed (d + 7) 0 [(0, .ref x0)] [] σ (.inl (some (.int r.1)), r.2) := by
  unfold KX1_missed at h
  refine vv_iconst (v := (-1)) dX1_missed_0 (by decide) ?_
  refine vv_istore_n (lv' := [(0, .ref x0), (1, .int (-1))]) dX1_missed_1 rfl (by decide) [1, 0] rfl ?_
  refine vv_iconst (v := (nI 0)) dX1_missed_2 (by decide) ?_
  refine vv_istore_n (lv' := [(0, .ref x0), (1, .int (-1)), (2, .int (nI 0))]) dX1_missed_3 rfl (by decide) [1, 2, 0] rfl ?_
  refine vv_iconst (v := (nI 0)) dX1_missed_4 (by decide) ?_
  refine vv_istore_n (lv' := [(0, .ref x0), (1, .int (-1)), (2, .int (nI 0)), (3, .int (nI 0))]) dX1_missed_5 rfl (by decide) [1, 2, 3, 0] rfl ?_
  exact v_KX1_missed_6 hG hH hfo NN h
theorem m_KX1_missed {l : Launch} {G : vv_G} {d : Nat} {ad : Nat → Nat} {fo : Nat → Nat → vv_S → Option Int32} (hG : vv_gok G) (hH : vv_hy l G ad) (hfo : ∀ {a vs : Nat} {σ : vv_S} {r : Int32}, fo a vs σ = some r → vv_Form l G d a vs σ r) {x0 : Nat} {σ : vv_S} {r : Int32 × vv_S} (h : KX1_missed fo x0 σ = some r) (d9 : Nat) (e9 : d9 = d := by rfl) : vv_Met l G MX1_missed (d9 + 7) [.ref x0] σ (.inl (some (.int r.1)), r.2) := by
  subst e9
  exact vv_head (by decide +kernel) rfl (Nat.le_of_ble_eq_true rfl) rfl (v_KX1_missed_0 hG hH hfo h)
/-! ('X2', 'least_2') -/
def KX2_least_2_178 (k42 : Nat → Int32 → Int32 → Nat → Int32 → vv_S → Option (Nat × vv_S)) (k54 : Nat → Int32 → Int32 → Nat → Int32 → Int32 → vv_S → Option (Nat × vv_S)) (x0 : Nat) (x2 : Int32) (x3 : Int32) (x4 : Nat) (x5 : Int32) (x6 : Int32) (σ : vv_S) : Option (Nat × vv_S) := k54 x0 x2 x3 x4 x5 (x6 + (nI 1)) σ
theorem v_KX2_least_2_178 {l : Launch} {G : vv_G} {d : Nat} {ad : Nat → Nat} (hG : vv_gok G) (hH : vv_hy l G ad) {k42 : Nat → Int32 → Int32 → Nat → Int32 → vv_S → Option (Nat × vv_S)} (hk42 : ∀ {x0 : Nat} {x2 : Int32} {x3 : Int32} {x4 : Nat} {x5 : Int32} {σ : vv_S} {r : Nat × vv_S}, k42 x0 x2 x3 x4 x5 σ = some r → vv_V l G MX2_least_2 (d + 3) 42 [(0, .ref x0), (2, .int x2), (3, .int x3), (4, .ref x4), (5, .int x5)] [] σ (.inl (some (.ref r.1)), r.2)) {k54 : Nat → Int32 → Int32 → Nat → Int32 → Int32 → vv_S → Option (Nat × vv_S)} (hk54 : ∀ {x0 : Nat} {x2 : Int32} {x3 : Int32} {x4 : Nat} {x5 : Int32} {x6 : Int32} {σ : vv_S} {r : Nat × vv_S}, k54 x0 x2 x3 x4 x5 x6 σ = some r → vv_V l G MX2_least_2 (d + 3) 54 [(0, .ref x0), (2, .int x2), (3, .int x3), (4, .ref x4), (5, .int x5), (6, .int x6)] [] σ (.inl (some (.ref r.1)), r.2)) {x0 : Nat} {x2 : Int32} {x3 : Int32} {x4 : Nat} {x5 : Int32} {x6 : Int32} {σ : vv_S} {r : Nat × vv_S} (h : KX2_least_2_178 k42 k54 x0 x2 x3 x4 x5 x6 σ = some r) : vv_V l G MX2_least_2 (d + 3) 178 [(0, .ref x0), (2, .int x2), (3, .int x3), (4, .ref x4), (5, .int x5), (6, .int x6)] [] σ (.inl (some (.ref r.1)), r.2) := by
  unfold KX2_least_2_178 at h
  refine vv_iinc (v := (x6 + (nI 1))) (lv' := [(0, .ref x0), (2, .int x2), (3, .int x3), (4, .ref x4), (5, .int x5), (6, .int (x6 + (nI 1)))]) dX2_least_2_178 5 rfl rfl (by decide) [1, 2, 3, 4, 5, 0] rfl ?_
  refine vv_goto (tgt := 54) dX2_least_2_181 (by decide) ?_
  exact hk54 h
def KX2_least_2_116 (k42 : Nat → Int32 → Int32 → Nat → Int32 → vv_S → Option (Nat × vv_S)) (k54 : Nat → Int32 → Int32 → Nat → Int32 → Int32 → vv_S → Option (Nat × vv_S)) (s0 : Int32) (x0 : Nat) (x2 : Int32) (x3 : Int32) (x4 : Nat) (x5 : Int32) (x6 : Int32) (x7 : Nat) (σ : vv_S) : Option (Nat × vv_S) := (gI σ x7 6 1).bind fun v1 => (gI σ x7 6 1).bind fun v2 => (aI σ .int x4 v2).bind fun v3 => (gI σ x7 6 0).bind fun v4 => (aI σ .int x4 v4).bind fun v5 => (sI σ x4 v1 (mnI v3 (v5 + s0))).bind fun σ6 => (gI σ6 x7 6 0).bind fun v7 => (gI σ6 x7 6 0).bind fun v8 => (aI σ6 .int x4 v8).bind fun v9 => (gI σ6 x7 6 1).bind fun v10 => (aI σ6 .int x4 v10).bind fun v11 => (sI σ6 x4 v7 (mnI v9 (v11 + s0))).bind fun σ12 => KX2_least_2_178 k42 k54 x0 x2 x3 x4 x5 x6 σ12
theorem v_KX2_least_2_116 {l : Launch} {G : vv_G} {d : Nat} {ad : Nat → Nat} (hG : vv_gok G) (hH : vv_hy l G ad) {k42 : Nat → Int32 → Int32 → Nat → Int32 → vv_S → Option (Nat × vv_S)} (hk42 : ∀ {x0 : Nat} {x2 : Int32} {x3 : Int32} {x4 : Nat} {x5 : Int32} {σ : vv_S} {r : Nat × vv_S}, k42 x0 x2 x3 x4 x5 σ = some r → vv_V l G MX2_least_2 (d + 3) 42 [(0, .ref x0), (2, .int x2), (3, .int x3), (4, .ref x4), (5, .int x5)] [] σ (.inl (some (.ref r.1)), r.2)) {k54 : Nat → Int32 → Int32 → Nat → Int32 → Int32 → vv_S → Option (Nat × vv_S)} (hk54 : ∀ {x0 : Nat} {x2 : Int32} {x3 : Int32} {x4 : Nat} {x5 : Int32} {x6 : Int32} {σ : vv_S} {r : Nat × vv_S}, k54 x0 x2 x3 x4 x5 x6 σ = some r → vv_V l G MX2_least_2 (d + 3) 54 [(0, .ref x0), (2, .int x2), (3, .int x3), (4, .ref x4), (5, .int x5), (6, .int x6)] [] σ (.inl (some (.ref r.1)), r.2)) {s0 : Int32} {x0 : Nat} {x2 : Int32} {x3 : Int32} {x4 : Nat} {x5 : Int32} {x6 : Int32} {x7 : Nat} {σ : vv_S} {r : Nat × vv_S} (h : KX2_least_2_116 k42 k54 s0 x0 x2 x3 x4 x5 x6 x7 σ = some r) : vv_V l G MX2_least_2 (d + 3) 116 [(0, .ref x0), (2, .int x2), (3, .int x3), (4, .ref x4), (5, .int x5), (6, .int x6), (7, .ref x7)] [.int s0] σ (.inl (some (.ref r.1)), r.2) := by
  unfold KX2_least_2_116 at h
  refine vv_istore (lv' := [(0, .ref x0), (2, .int x2), (3, .int x3), (4, .ref x4), (5, .int x5), (6, .int x6), (7, .ref x7), (8, .int s0)]) dX2_least_2_116 (by decide) [1, 2, 3, 4, 5, 6, 7, 0] rfl ?_
  refine vv_aload dX2_least_2_118 3 rfl ?_
  refine vv_aload dX2_least_2_120 6 rfl ?_
  replace h := gI_o h; obtain ⟨v1, fv1, sv1, ev1, lv1, h⟩ := h
  refine vv_getM (fl_X2_55 hH) ev1 lv1 dX2_least_2_122 ?_
  refine vv_aload dX2_least_2_125 3 rfl ?_
  refine vv_aload dX2_least_2_127 6 rfl ?_
  replace h := gI_o h; obtain ⟨v2, fv2, sv2, ev2, lv2, h⟩ := h
  refine vv_getM (fl_X2_55 hH) ev2 lv2 dX2_least_2_129 ?_
  replace h := aI_o h; obtain ⟨v3, fv3, nv3, qv3, ev3, iv3, wv3, h⟩ := h
  refine vv_iald ev3 iv3 dX2_least_2_132 ?_
  rw [wv3]
  refine vv_aload dX2_least_2_133 3 rfl ?_
  refine vv_aload dX2_least_2_135 6 rfl ?_
  replace h := gI_o h; obtain ⟨v4, fv4, sv4, ev4, lv4, h⟩ := h
  refine vv_getM (fl_X2_58 hH) ev4 lv4 dX2_least_2_137 ?_
  replace h := aI_o h; obtain ⟨v5, fv5, nv5, qv5, ev5, iv5, wv5, h⟩ := h
  refine vv_iald ev5 iv5 dX2_least_2_140 ?_
  rw [wv5]
  refine vv_iload dX2_least_2_141 7 rfl ?_
  refine vv_iadd dX2_least_2_143 ?_
  refine vv_mmin q652 (by omega) (Nat.le_of_ble_eq_true rfl) dX2_least_2_144 ?_
  replace h := sI_o h; obtain ⟨σ6, nσ6, qσ6, eσ6, iσ6, uσ6, h⟩ := h
  refine vv_iast eσ6 iσ6 dX2_least_2_147 ?_
  rw [← uσ6]
  refine vv_aload dX2_least_2_148 3 rfl ?_
  refine vv_aload dX2_least_2_150 6 rfl ?_
  replace h := gI_o h; obtain ⟨v7, fv7, sv7, ev7, lv7, h⟩ := h
  refine vv_getM (fl_X2_58 hH) ev7 lv7 dX2_least_2_152 ?_
  refine vv_aload dX2_least_2_155 3 rfl ?_
  refine vv_aload dX2_least_2_157 6 rfl ?_
  replace h := gI_o h; obtain ⟨v8, fv8, sv8, ev8, lv8, h⟩ := h
  refine vv_getM (fl_X2_58 hH) ev8 lv8 dX2_least_2_159 ?_
  replace h := aI_o h; obtain ⟨v9, fv9, nv9, qv9, ev9, iv9, wv9, h⟩ := h
  refine vv_iald ev9 iv9 dX2_least_2_162 ?_
  rw [wv9]
  refine vv_aload dX2_least_2_163 3 rfl ?_
  refine vv_aload dX2_least_2_165 6 rfl ?_
  replace h := gI_o h; obtain ⟨v10, fv10, sv10, ev10, lv10, h⟩ := h
  refine vv_getM (fl_X2_55 hH) ev10 lv10 dX2_least_2_167 ?_
  replace h := aI_o h; obtain ⟨v11, fv11, nv11, qv11, ev11, iv11, wv11, h⟩ := h
  refine vv_iald ev11 iv11 dX2_least_2_170 ?_
  rw [wv11]
  refine vv_iload dX2_least_2_171 7 rfl ?_
  refine vv_iadd dX2_least_2_173 ?_
  refine vv_mmin q652 (by omega) (Nat.le_of_ble_eq_true rfl) dX2_least_2_174 ?_
  replace h := sI_o h; obtain ⟨σ12, nσ12, qσ12, eσ12, iσ12, uσ12, h⟩ := h
  refine vv_iast eσ12 iσ12 dX2_least_2_177 ?_
  rw [← uσ12]
  refine vv_sub (lv' := [(0, .ref x0), (2, .int x2), (3, .int x3), (4, .ref x4), (5, .int x5), (6, .int x6)]) [0, 1, 2, 3, 4, 5] rfl ?_
  exact v_KX2_least_2_178 hG hH hk42 hk54 h
def BKX2_least_2_54 (k42 : Nat → Int32 → Int32 → Nat → Int32 → vv_S → Option (Nat × vv_S)) (k54 : Nat → Int32 → Int32 → Nat → Int32 → Int32 → vv_S → Option (Nat × vv_S)) (x0 : Nat) (x2 : Int32) (x3 : Int32) (x4 : Nat) (x5 : Int32) (x6 : Int32) (σ : vv_S) : Option (Nat × vv_S) := (gR σ x0 1 2).bind fun v1 => (isO σ v1 11).bind fun _ => (KJ2_size v1 σ).bind fun r2 => if r2 ≤ x6 then (k42 x0 x2 x3 x4 (x5 + (nI 1)) σ) else (if x6 = x3 then (KX2_least_2_178 k42 k54 x0 x2 x3 x4 x5 x6 σ) else ((gR σ x0 1 2).bind fun v6 => (isO σ v6 11).bind fun _ => (KJ2_get v6 x6 σ).bind fun r7 => (isO σ r7 6).bind fun _ => if x2 = 0 then ((gI σ r7 6 2).bind fun v11 => KX2_least_2_116 k42 k54 v11 x0 x2 x3 x4 x5 x6 r7 σ) else ((gI σ r7 6 2).bind fun v12 => (gI σ r7 6 3).bind fun v13 => KX2_least_2_116 k42 k54 (v12 * v13) x0 x2 x3 x4 x5 x6 r7 σ)))
def KX2_least_2_54 (k42 : Nat → Int32 → Int32 → Nat → Int32 → vv_S → Option (Nat × vv_S)) : Nat → Nat → Int32 → Int32 → Nat → Int32 → Int32 → vv_S → Option (Nat × vv_S)
  | 0, _, _, _, _, _, _, _ => none
  | n + 1, x0, x2, x3, x4, x5, x6, σ => BKX2_least_2_54 k42 (KX2_least_2_54 k42 n) x0 x2 x3 x4 x5 x6 σ
theorem vb_KX2_least_2_54 {l : Launch} {G : vv_G} {d : Nat} {ad : Nat → Nat} (hG : vv_gok G) (hH : vv_hy l G ad) {k42 : Nat → Int32 → Int32 → Nat → Int32 → vv_S → Option (Nat × vv_S)} (hk42 : ∀ {x0 : Nat} {x2 : Int32} {x3 : Int32} {x4 : Nat} {x5 : Int32} {σ : vv_S} {r : Nat × vv_S}, k42 x0 x2 x3 x4 x5 σ = some r → vv_V l G MX2_least_2 (d + 3) 42 [(0, .ref x0), (2, .int x2), (3, .int x3), (4, .ref x4), (5, .int x5)] [] σ (.inl (some (.ref r.1)), r.2)) {k54 : Nat → Int32 → Int32 → Nat → Int32 → Int32 → vv_S → Option (Nat × vv_S)} (hk54 : ∀ {x0 : Nat} {x2 : Int32} {x3 : Int32} {x4 : Nat} {x5 : Int32} {x6 : Int32} {σ : vv_S} {r : Nat × vv_S}, k54 x0 x2 x3 x4 x5 x6 σ = some r → vv_V l G MX2_least_2 (d + 3) 54 [(0, .ref x0), (2, .int x2), (3, .int x3), (4, .ref x4), (5, .int x5), (6, .int x6)] [] σ (.inl (some (.ref r.1)), r.2)) {x0 : Nat} {x2 : Int32} {x3 : Int32} {x4 : Nat} {x5 : Int32} {x6 : Int32} {σ : vv_S} {r : Nat × vv_S} (h : BKX2_least_2_54 k42 k54 x0 x2 x3 x4 x5 x6 σ = some r) : vv_V l G MX2_least_2 (d + 3) 54 [(0, .ref x0), (2, .int x2), (3, .int x3), (4, .ref x4), (5, .int x5), (6, .int x6)] [] σ (.inl (some (.ref r.1)), r.2) := by
  unfold BKX2_least_2_54 at h
  refine vv_iload dX2_least_2_54 5 rfl ?_
  refine vv_aload_n dX2_least_2_56 rfl 0 rfl ?_
  replace h := gR_o h; obtain ⟨v1, fv1, sv1, ev1, lv1, h⟩ := h
  refine vv_get (fl_X2_21 hG) ev1 lv1 dX2_least_2_57 ?_
  replace h := isO_o h; obtain ⟨fz3, sz3, ez3, h⟩ := h
  replace h := bd_o h; obtain ⟨r2, er2, h⟩ := h
  refine vv_callF (xx := ⟨"java/util/List", "size", "()I"⟩) okf_J2_size q476 (m_KJ2_size hG hH er2 d) rfl (by omega) ⟨_, _, _, _, _, ez3, by rw [hG.1]; rfl⟩ q429 (fun U hK => hH.1.2.2.1 U hK _ (List.mem_of_getElem? (i := 1) rfl)) ⟨by decide, by decide, by decide +kernel⟩ rfl rfl (Nat.le_of_ble_eq_true rfl) dX2_least_2_60 ?_
  refine vv_icmp_ge (tgt := 184) dX2_least_2_65 (by decide) (fun c4 => ?_) (fun c4 => ?_)
  · rw [if_pos c4] at h
    refine vv_iinc (v := (x5 + (nI 1))) (lv' := [(0, .ref x0), (2, .int x2), (3, .int x3), (4, .ref x4), (5, .int (x5 + (nI 1))), (6, .int x6)]) dX2_least_2_184 4 rfl rfl (by decide) [1, 2, 3, 4, 0, 5] rfl ?_
    refine vv_goto (tgt := 42) dX2_least_2_187 (by decide) ?_
    refine vv_sub (lv' := [(0, .ref x0), (2, .int x2), (3, .int x3), (4, .ref x4), (5, .int (x5 + (nI 1)))]) [0, 1, 2, 3, 4] rfl ?_
    exact hk42 h
  · rw [if_neg c4] at h
    refine vv_iload dX2_least_2_68 5 rfl ?_
    refine vv_iload_n dX2_least_2_70 rfl 2 rfl ?_
    refine vv_icmp_ne (tgt := 77) dX2_least_2_71 (by decide) (fun c5 => ?_) (fun c5 => ?_)
    · rw [if_neg c5] at h
      refine vv_aload_n dX2_least_2_77 rfl 0 rfl ?_
      replace h := gR_o h; obtain ⟨v6, fv6, sv6, ev6, lv6, h⟩ := h
      refine vv_get (fl_X2_21 hG) ev6 lv6 dX2_least_2_78 ?_
      refine vv_iload dX2_least_2_81 5 rfl ?_
      replace h := isO_o h; obtain ⟨fz8, sz8, ez8, h⟩ := h
      replace h := bd_o h; obtain ⟨r7, er7, h⟩ := h
      refine vv_callF (xx := ⟨"java/util/List", "get", "(I)Ljava/lang/Object;"⟩) okf_J2_get q650 (m_KJ2_get hG hH er7 d) rfl (by omega) ⟨_, _, _, _, _, ez8, by rw [hG.1]; rfl⟩ q481 (fun U hK => hH.1.2.2.1 U hK _ (List.mem_of_getElem? (i := 3) rfl)) ⟨by decide, by decide, by decide +kernel⟩ rfl rfl (Nat.le_of_ble_eq_true rfl) dX2_least_2_83 ?_
      replace h := isO_o h; obtain ⟨fz9, sz9, ez9, h⟩ := h
      refine vv_cast ez9 ⟨_, _, by rw [hG.1]; rfl⟩ q651 (Or.inl rfl) dX2_least_2_88 ?_
      refine vv_astore (lv' := [(0, .ref x0), (2, .int x2), (3, .int x3), (4, .ref x4), (5, .int x5), (6, .int x6), (7, .ref r7)]) dX2_least_2_91 (by decide) [1, 2, 3, 4, 5, 6, 0] rfl ?_
      refine vv_iload_n dX2_least_2_93 rfl 1 rfl ?_
      refine vv_if_eq (tgt := 111) dX2_least_2_94 (by decide) (fun c10 => ?_) (fun c10 => ?_)
      · rw [if_pos c10] at h
        refine vv_aload dX2_least_2_111 6 rfl ?_
        replace h := gI_o h; obtain ⟨v11, fv11, sv11, ev11, lv11, h⟩ := h
        refine vv_getM (fl_X2_48 hH) ev11 lv11 dX2_least_2_113 ?_
        exact v_KX2_least_2_116 hG hH hk42 hk54 h
      · rw [if_neg c10] at h
        refine vv_aload dX2_least_2_97 6 rfl ?_
        replace h := gI_o h; obtain ⟨v12, fv12, sv12, ev12, lv12, h⟩ := h
        refine vv_getM (fl_X2_48 hH) ev12 lv12 dX2_least_2_99 ?_
        refine vv_aload dX2_least_2_102 6 rfl ?_
        replace h := gI_o h; obtain ⟨v13, fv13, sv13, ev13, lv13, h⟩ := h
        refine vv_getM (fl_X2_52 hH) ev13 lv13 dX2_least_2_104 ?_
        refine vv_imul dX2_least_2_107 ?_
        refine vv_goto (tgt := 116) dX2_least_2_108 (by decide) ?_
        exact v_KX2_least_2_116 hG hH hk42 hk54 h
    · rw [if_pos c5] at h
      refine vv_goto (tgt := 178) dX2_least_2_74 (by decide) ?_
      exact v_KX2_least_2_178 hG hH hk42 hk54 h
theorem v_KX2_least_2_54 {l : Launch} {G : vv_G} {d : Nat} {ad : Nat → Nat} (hG : vv_gok G) (hH : vv_hy l G ad) {k42 : Nat → Int32 → Int32 → Nat → Int32 → vv_S → Option (Nat × vv_S)} (hk42 : ∀ {x0 : Nat} {x2 : Int32} {x3 : Int32} {x4 : Nat} {x5 : Int32} {σ : vv_S} {r : Nat × vv_S}, k42 x0 x2 x3 x4 x5 σ = some r → vv_V l G MX2_least_2 (d + 3) 42 [(0, .ref x0), (2, .int x2), (3, .int x3), (4, .ref x4), (5, .int x5)] [] σ (.inl (some (.ref r.1)), r.2)) : ∀ (n : Nat) {x0 : Nat} {x2 : Int32} {x3 : Int32} {x4 : Nat} {x5 : Int32} {x6 : Int32} {σ : vv_S} {r : Nat × vv_S}, KX2_least_2_54 k42 n x0 x2 x3 x4 x5 x6 σ = some r → vv_V l G MX2_least_2 (d + 3) 54 [(0, .ref x0), (2, .int x2), (3, .int x3), (4, .ref x4), (5, .int x5), (6, .int x6)] [] σ (.inl (some (.ref r.1)), r.2) := by
  intro n
  induction n with
  | zero => intro _ _ _ _ _ _ _ _ h; cases h
  | succ n ih => intro _ _ _ _ _ _ _ _ h; exact vb_KX2_least_2_54 hG hH hk42 ih h
def BKX2_least_2_42 (k42 : Nat → Int32 → Int32 → Nat → Int32 → vv_S → Option (Nat × vv_S)) (x0 : Nat) (x2 : Int32) (x3 : Int32) (x4 : Nat) (x5 : Int32) (σ : vv_S) : Option (Nat × vv_S) := (isO σ x0 1).bind fun _ => (KX2_towns x0 σ).bind fun r1 => if r1 ≤ x5 then (some (x4, σ)) else (KX2_least_2_54 k42 NN x0 x2 x3 x4 x5 (nI 0) σ)
def KX2_least_2_42 : Nat → Nat → Int32 → Int32 → Nat → Int32 → vv_S → Option (Nat × vv_S)
  | 0, _, _, _, _, _, _ => none
  | n + 1, x0, x2, x3, x4, x5, σ => BKX2_least_2_42 (KX2_least_2_42 n) x0 x2 x3 x4 x5 σ
theorem vb_KX2_least_2_42 {l : Launch} {G : vv_G} {d : Nat} {ad : Nat → Nat} (hG : vv_gok G) (hH : vv_hy l G ad) {k42 : Nat → Int32 → Int32 → Nat → Int32 → vv_S → Option (Nat × vv_S)} (hk42 : ∀ {x0 : Nat} {x2 : Int32} {x3 : Int32} {x4 : Nat} {x5 : Int32} {σ : vv_S} {r : Nat × vv_S}, k42 x0 x2 x3 x4 x5 σ = some r → vv_V l G MX2_least_2 (d + 3) 42 [(0, .ref x0), (2, .int x2), (3, .int x3), (4, .ref x4), (5, .int x5)] [] σ (.inl (some (.ref r.1)), r.2)) {x0 : Nat} {x2 : Int32} {x3 : Int32} {x4 : Nat} {x5 : Int32} {σ : vv_S} {r : Nat × vv_S} (h : BKX2_least_2_42 k42 x0 x2 x3 x4 x5 σ = some r) : vv_V l G MX2_least_2 (d + 3) 42 [(0, .ref x0), (2, .int x2), (3, .int x3), (4, .ref x4), (5, .int x5)] [] σ (.inl (some (.ref r.1)), r.2) := by
  unfold BKX2_least_2_42 at h
  refine vv_iload dX2_least_2_42 4 rfl ?_
  refine vv_aload_n dX2_least_2_44 rfl 0 rfl ?_
  replace h := isO_o h; obtain ⟨fz2, sz2, ez2, h⟩ := h
  replace h := bd_o h; obtain ⟨r1, er1, h⟩ := h
  refine vv_callV ok_X2_towns q648 (m_KX2_towns hG hH er1 d) rfl (by omega) ⟨_, _, _, _, _, ez2, by rw [hG.1]; rfl⟩ rfl rfl (Nat.le_of_ble_eq_true rfl) dX2_least_2_45 ?_
  refine vv_icmp_ge (tgt := 190) dX2_least_2_48 (by decide) (fun c3 => ?_) (fun c3 => ?_)
  · rw [if_pos c3] at h
    refine vv_aload dX2_least_2_190 3 rfl ?_
    cases h
    exact vv_aret rfl (by first | exact Or.inl ⟨_, rfl⟩ | exact Or.inr ⟨_, rfl⟩) (Or.inr ⟨_, rfl⟩) dX2_least_2_192
  · rw [if_neg c3] at h
    refine vv_iconst (v := (nI 0)) dX2_least_2_51 (by decide) ?_
    refine vv_istore (lv' := [(0, .ref x0), (2, .int x2), (3, .int x3), (4, .ref x4), (5, .int x5), (6, .int (nI 0))]) dX2_least_2_52 (by decide) [1, 2, 3, 4, 5, 0] rfl ?_
    exact v_KX2_least_2_54 hG hH hk42 NN h
theorem v_KX2_least_2_42 {l : Launch} {G : vv_G} {d : Nat} {ad : Nat → Nat} (hG : vv_gok G) (hH : vv_hy l G ad) : ∀ (n : Nat) {x0 : Nat} {x2 : Int32} {x3 : Int32} {x4 : Nat} {x5 : Int32} {σ : vv_S} {r : Nat × vv_S}, KX2_least_2_42 n x0 x2 x3 x4 x5 σ = some r → vv_V l G MX2_least_2 (d + 3) 42 [(0, .ref x0), (2, .int x2), (3, .int x3), (4, .ref x4), (5, .int x5)] [] σ (.inl (some (.ref r.1)), r.2) := by
  intro n
  induction n with
  | zero => intro _ _ _ _ _ _ _ h; cases h
  | succ n ih => intro _ _ _ _ _ _ _ h; exact vb_KX2_least_2_42 hG hH ih h
def KX2_least_2_32 (k9 : Nat → Int32 → Int32 → Int32 → Nat → Int32 → vv_S → Option (Nat × vv_S)) (s0 : Nat) (s1 : Int32) (s2 : Int32) (x0 : Nat) (x1 : Int32) (x2 : Int32) (x3 : Int32) (x4 : Nat) (x5 : Int32) (σ : vv_S) : Option (Nat × vv_S) := (sI σ s0 s1 s2).bind fun σ1 => k9 x0 x1 x2 x3 x4 (x5 + (nI 1)) σ1
theorem v_KX2_least_2_32 {l : Launch} {G : vv_G} {d : Nat} {ad : Nat → Nat} (hG : vv_gok G) (hH : vv_hy l G ad) {k9 : Nat → Int32 → Int32 → Int32 → Nat → Int32 → vv_S → Option (Nat × vv_S)} (hk9 : ∀ {x0 : Nat} {x1 : Int32} {x2 : Int32} {x3 : Int32} {x4 : Nat} {x5 : Int32} {σ : vv_S} {r : Nat × vv_S}, k9 x0 x1 x2 x3 x4 x5 σ = some r → vv_V l G MX2_least_2 (d + 3) 9 [(0, .ref x0), (1, .int x1), (2, .int x2), (3, .int x3), (4, .ref x4), (5, .int x5)] [] σ (.inl (some (.ref r.1)), r.2)) {s0 : Nat} {s1 : Int32} {s2 : Int32} {x0 : Nat} {x1 : Int32} {x2 : Int32} {x3 : Int32} {x4 : Nat} {x5 : Int32} {σ : vv_S} {r : Nat × vv_S} (h : KX2_least_2_32 k9 s0 s1 s2 x0 x1 x2 x3 x4 x5 σ = some r) : vv_V l G MX2_least_2 (d + 3) 32 [(0, .ref x0), (1, .int x1), (2, .int x2), (3, .int x3), (4, .ref x4), (5, .int x5)] [.int s2, .int s1, .ref s0] σ (.inl (some (.ref r.1)), r.2) := by
  unfold KX2_least_2_32 at h
  replace h := sI_o h; obtain ⟨σ1, nσ1, qσ1, eσ1, iσ1, uσ1, h⟩ := h
  refine vv_iast eσ1 iσ1 dX2_least_2_32 ?_
  rw [← uσ1]
  refine vv_iinc (v := (x5 + (nI 1))) (lv' := [(0, .ref x0), (1, .int x1), (2, .int x2), (3, .int x3), (4, .ref x4), (5, .int (x5 + (nI 1)))]) dX2_least_2_33 5 rfl rfl (by decide) [1, 2, 3, 4, 5, 0] rfl ?_
  refine vv_goto (tgt := 9) dX2_least_2_36 (by decide) ?_
  exact hk9 h
def BKX2_least_2_9 (k9 : Nat → Int32 → Int32 → Int32 → Nat → Int32 → vv_S → Option (Nat × vv_S)) (x0 : Nat) (x1 : Int32) (x2 : Int32) (x3 : Int32) (x4 : Nat) (x5 : Int32) (σ : vv_S) : Option (Nat × vv_S) := if (nI 8) ≤ x5 then (KX2_least_2_42 NN x0 x2 x3 x4 (nI 0) σ) else (if x5 = x1 then (KX2_least_2_32 k9 x4 x5 (nI 0) x0 x1 x2 x3 x4 x5 σ) else (KX2_least_2_32 k9 x4 x5 (nI 100000) x0 x1 x2 x3 x4 x5 σ))
def KX2_least_2_9 : Nat → Nat → Int32 → Int32 → Int32 → Nat → Int32 → vv_S → Option (Nat × vv_S)
  | 0, _, _, _, _, _, _, _ => none
  | n + 1, x0, x1, x2, x3, x4, x5, σ => BKX2_least_2_9 (KX2_least_2_9 n) x0 x1 x2 x3 x4 x5 σ
theorem vb_KX2_least_2_9 {l : Launch} {G : vv_G} {d : Nat} {ad : Nat → Nat} (hG : vv_gok G) (hH : vv_hy l G ad) {k9 : Nat → Int32 → Int32 → Int32 → Nat → Int32 → vv_S → Option (Nat × vv_S)} (hk9 : ∀ {x0 : Nat} {x1 : Int32} {x2 : Int32} {x3 : Int32} {x4 : Nat} {x5 : Int32} {σ : vv_S} {r : Nat × vv_S}, k9 x0 x1 x2 x3 x4 x5 σ = some r → vv_V l G MX2_least_2 (d + 3) 9 [(0, .ref x0), (1, .int x1), (2, .int x2), (3, .int x3), (4, .ref x4), (5, .int x5)] [] σ (.inl (some (.ref r.1)), r.2)) {x0 : Nat} {x1 : Int32} {x2 : Int32} {x3 : Int32} {x4 : Nat} {x5 : Int32} {σ : vv_S} {r : Nat × vv_S} (h : BKX2_least_2_9 k9 x0 x1 x2 x3 x4 x5 σ = some r) : vv_V l G MX2_least_2 (d + 3) 9 [(0, .ref x0), (1, .int x1), (2, .int x2), (3, .int x3), (4, .ref x4), (5, .int x5)] [] σ (.inl (some (.ref r.1)), r.2) := by
  unfold BKX2_least_2_9 at h
  refine vv_iload dX2_least_2_9 5 rfl ?_
  refine vv_bipush (v := (nI 8)) dX2_least_2_11 (by decide) ?_
  refine vv_icmp_ge (tgt := 39) dX2_least_2_13 (by decide) (fun c1 => ?_) (fun c1 => ?_)
  · rw [if_pos c1] at h
    refine vv_iconst (v := (nI 0)) dX2_least_2_39 (by decide) ?_
    refine vv_istore (lv' := [(0, .ref x0), (1, .int x1), (2, .int x2), (3, .int x3), (4, .ref x4), (5, .int (nI 0))]) dX2_least_2_40 (by decide) [1, 2, 3, 4, 5, 0] rfl ?_
    refine vv_sub (lv' := [(0, .ref x0), (2, .int x2), (3, .int x3), (4, .ref x4), (5, .int (nI 0))]) [0, 2, 3, 4, 5] rfl ?_
    exact v_KX2_least_2_42 hG hH NN h
  · rw [if_neg c1] at h
    refine vv_aload dX2_least_2_16 4 rfl ?_
    refine vv_iload dX2_least_2_18 5 rfl ?_
    refine vv_iload dX2_least_2_20 5 rfl ?_
    refine vv_iload_n dX2_least_2_22 rfl 1 rfl ?_
    refine vv_icmp_ne (tgt := 30) dX2_least_2_23 (by decide) (fun c2 => ?_) (fun c2 => ?_)
    · rw [if_neg c2] at h
      refine vv_ldc (v := (nI 100000)) dX2_least_2_30 q647 ?_
      exact v_KX2_least_2_32 hG hH hk9 h
    · rw [if_pos c2] at h
      refine vv_iconst (v := (nI 0)) dX2_least_2_26 (by decide) ?_
      refine vv_goto (tgt := 32) dX2_least_2_27 (by decide) ?_
      exact v_KX2_least_2_32 hG hH hk9 h
theorem v_KX2_least_2_9 {l : Launch} {G : vv_G} {d : Nat} {ad : Nat → Nat} (hG : vv_gok G) (hH : vv_hy l G ad) : ∀ (n : Nat) {x0 : Nat} {x1 : Int32} {x2 : Int32} {x3 : Int32} {x4 : Nat} {x5 : Int32} {σ : vv_S} {r : Nat × vv_S}, KX2_least_2_9 n x0 x1 x2 x3 x4 x5 σ = some r → vv_V l G MX2_least_2 (d + 3) 9 [(0, .ref x0), (1, .int x1), (2, .int x2), (3, .int x3), (4, .ref x4), (5, .int x5)] [] σ (.inl (some (.ref r.1)), r.2) := by
  intro n
  induction n with
  | zero => intro _ _ _ _ _ _ _ _ h; cases h
  | succ n ih => intro _ _ _ _ _ _ _ _ h; exact vb_KX2_least_2_9 hG hH ih h
def KX2_least_2 (x0 : Nat) (x1 : Int32) (x2 : Int32) (x3 : Int32) (σ : vv_S) : Option (Nat × vv_S) := (nwA σ .int (nI 8)).bind fun σ1 => KX2_least_2_9 NN x0 x1 x2 x3 σ.2.1 (nI 0) σ1
theorem v_KX2_least_2_0 {l : Launch} {G : vv_G} {d : Nat} {ad : Nat → Nat} (hG : vv_gok G) (hH : vv_hy l G ad) {x0 : Nat} {x1 : Int32} {x2 : Int32} {x3 : Int32} {σ : vv_S} {r : Nat × vv_S} (h : KX2_least_2 x0 x1 x2 x3 σ = some r) : vv_V l G MX2_least_2 (d + 3) 0 [(0, .ref x0), (1, .int x1), (2, .int x2), (3, .int x3)] [] σ (.inl (some (.ref r.1)), r.2) := by
  unfold KX2_least_2 at h
  refine vv_bipush (v := (nI 8)) dX2_least_2_0 (by decide) ?_
  replace h := nA_o h; obtain ⟨σ1, aσ1, bσ1, uσ1, h⟩ := h
  refine vv_newa (atype := .int) (ty := .int) (a0 := (((nI 8)).toNatClampNeg, .inl (fun _ => 0))) rfl rfl (by rw [hG.2]; decide) q183 (fun cA => rfl) aσ1 rfl (Nat.le_trans (Nat.mul_le_mul_right _ bσ1) (Nat.le_of_ble_eq_true rfl)) dX2_least_2_2 ?_
  rw [← uσ1]
  refine vv_astore (lv' := [(0, .ref x0), (1, .int x1), (2, .int x2), (3, .int x3), (4, .ref σ.2.1)]) dX2_least_2_4 (by decide) [1, 2, 3, 4, 0] rfl ?_
  refine vv_iconst (v := (nI 0)) dX2_least_2_6 (by decide) ?_
  refine vv_istore (lv' := [(0, .ref x0), (1, .int x1), (2, .int x2), (3, .int x3), (4, .ref σ.2.1), (5, .int (nI 0))]) dX2_least_2_7 (by decide) [1, 2, 3, 4, 5, 0] rfl ?_
  exact v_KX2_least_2_9 hG hH NN h
theorem m_KX2_least_2 {l : Launch} {G : vv_G} {ad : Nat → Nat} (hG : vv_gok G) (hH : vv_hy l G ad) {x0 : Nat} {x1 : Int32} {x2 : Int32} {x3 : Int32} {σ : vv_S} {r : Nat × vv_S} (h : KX2_least_2 x0 x1 x2 x3 σ = some r) (d : Nat) : vv_Met l G MX2_least_2 (d + 3) [.ref x0, .int x1, .int x2, .int x3] σ (.inl (some (.ref r.1)), r.2) := vv_head (by decide +kernel) rfl (Nat.le_of_ble_eq_true rfl) rfl (v_KX2_least_2_0 hG hH h)
/-! ('X2', 'least') -/
def KX2_least (x0 : Nat) (x1 : Int32) (x2 : Int32) (σ : vv_S) : Option (Nat × vv_S) := (isO σ x0 1).bind fun _ => (KX2_least_2 x0 x1 x2 (-1) σ).bind fun r1 => some (r1.1, r1.2)
theorem v_KX2_least_0 {l : Launch} {G : vv_G} {d : Nat} {ad : Nat → Nat} (hG : vv_gok G) (hH : vv_hy l G ad) {x0 : Nat} {x1 : Int32} {x2 : Int32} {σ : vv_S} {r : Nat × vv_S} (h : KX2_least x0 x1 x2 σ = some r) : vv_V l G MX2_least (d + 4) 0 [(0, .ref x0), (1, .int x1), (2, .int x2)] [] σ (.inl (some (.ref r.1)), r.2) := by
  unfold KX2_least at h
  refine vv_aload_n dX2_least_0 rfl 0 rfl ?_
  refine vv_iload_n dX2_least_1 rfl 1 rfl ?_
  refine vv_iload_n dX2_least_2 rfl 2 rfl ?_
  refine vv_iconst (v := (-1)) dX2_least_3 (by decide) ?_
  replace h := isO_o h; obtain ⟨fz2, sz2, ez2, h⟩ := h
  replace h := bd_o h; obtain ⟨r1, er1, h⟩ := h
  refine vv_callV ok_X2_least_2 q643 (m_KX2_least_2 hG hH er1 d) rfl (by omega) ⟨_, _, _, _, _, ez2, by rw [hG.1]; rfl⟩ rfl rfl (Nat.le_of_ble_eq_true rfl) dX2_least_4 ?_
  cases h
  exact vv_aret rfl (by first | exact Or.inl ⟨_, rfl⟩ | exact Or.inr ⟨_, rfl⟩) (Or.inr ⟨_, rfl⟩) dX2_least_7
theorem m_KX2_least {l : Launch} {G : vv_G} {ad : Nat → Nat} (hG : vv_gok G) (hH : vv_hy l G ad) {x0 : Nat} {x1 : Int32} {x2 : Int32} {σ : vv_S} {r : Nat × vv_S} (h : KX2_least x0 x1 x2 σ = some r) (d : Nat) : vv_Met l G MX2_least (d + 4) [.ref x0, .int x1, .int x2] σ (.inl (some (.ref r.1)), r.2) := vv_head (by decide +kernel) rfl (Nat.le_of_ble_eq_true rfl) rfl (v_KX2_least_0 hG hH h)
/-! ('X1', 'hub') -/
def KX1_hub_79 (k7 : Nat → Int32 → Int32 → Int32 → vv_S → Option (Int32 × vv_S)) (x0 : Nat) (x1 : Int32) (x2 : Int32) (x3 : Int32) (σ : vv_S) : Option (Int32 × vv_S) := k7 x0 x1 x2 (x3 + (nI 1)) σ
theorem v_KX1_hub_79 {l : Launch} {G : vv_G} {d : Nat} {ad : Nat → Nat} (hG : vv_gok G) (hH : vv_hy l G ad) {k7 : Nat → Int32 → Int32 → Int32 → vv_S → Option (Int32 × vv_S)} (hk7 : ∀ {x0 : Nat} {x1 : Int32} {x2 : Int32} {x3 : Int32} {σ : vv_S} {r : Int32 × vv_S}, k7 x0 x1 x2 x3 σ = some r → vv_V l G MX1_hub (d + 5) 7 [(0, .ref x0), (1, .int x1), (2, .int x2), (3, .int x3)] [] σ (.inl (some (.int r.1)), r.2)) {x0 : Nat} {x1 : Int32} {x2 : Int32} {x3 : Int32} {σ : vv_S} {r : Int32 × vv_S} (h : KX1_hub_79 k7 x0 x1 x2 x3 σ = some r) : vv_V l G MX1_hub (d + 5) 79 [(0, .ref x0), (1, .int x1), (2, .int x2), (3, .int x3)] [] σ (.inl (some (.int r.1)), r.2) := by
  unfold KX1_hub_79 at h
  refine vv_iinc (v := (x3 + (nI 1))) (lv' := [(0, .ref x0), (1, .int x1), (2, .int x2), (3, .int (x3 + (nI 1)))]) dX1_hub_79 3 rfl rfl (by decide) [1, 2, 3, 0] rfl ?_
  refine vv_goto (tgt := 7) dX1_hub_82 (by decide) ?_
  exact hk7 h
def BKX1_hub_35 (k7 : Nat → Int32 → Int32 → Int32 → vv_S → Option (Int32 × vv_S)) (k35 : Nat → Int32 → Int32 → Int32 → Nat → Int32 → Int32 → vv_S → Option (Int32 × vv_S)) (x0 : Nat) (x1 : Int32) (x2 : Int32) (x3 : Int32) (x4 : Nat) (x5 : Int32) (x6 : Int32) (σ : vv_S) : Option (Int32 × vv_S) := (gR σ x0 0 1).bind fun v1 => (isO σ v1 1).bind fun _ => (KX2_towns v1 σ).bind fun r2 => if r2 ≤ x6 then (if x5 < x2 then (KX1_hub_79 k7 x0 x3 x5 x3 σ) else (KX1_hub_79 k7 x0 x1 x2 x3 σ)) else ((aI σ .int x4 x6).bind fun v6 => k35 x0 x1 x2 x3 x4 (mxI x5 v6) (x6 + (nI 1)) σ)
def KX1_hub_35 (k7 : Nat → Int32 → Int32 → Int32 → vv_S → Option (Int32 × vv_S)) : Nat → Nat → Int32 → Int32 → Int32 → Nat → Int32 → Int32 → vv_S → Option (Int32 × vv_S)
  | 0, _, _, _, _, _, _, _, _ => none
  | n + 1, x0, x1, x2, x3, x4, x5, x6, σ => BKX1_hub_35 k7 (KX1_hub_35 k7 n) x0 x1 x2 x3 x4 x5 x6 σ
theorem vb_KX1_hub_35 {l : Launch} {G : vv_G} {d : Nat} {ad : Nat → Nat} (hG : vv_gok G) (hH : vv_hy l G ad) {k7 : Nat → Int32 → Int32 → Int32 → vv_S → Option (Int32 × vv_S)} (hk7 : ∀ {x0 : Nat} {x1 : Int32} {x2 : Int32} {x3 : Int32} {σ : vv_S} {r : Int32 × vv_S}, k7 x0 x1 x2 x3 σ = some r → vv_V l G MX1_hub (d + 5) 7 [(0, .ref x0), (1, .int x1), (2, .int x2), (3, .int x3)] [] σ (.inl (some (.int r.1)), r.2)) {k35 : Nat → Int32 → Int32 → Int32 → Nat → Int32 → Int32 → vv_S → Option (Int32 × vv_S)} (hk35 : ∀ {x0 : Nat} {x1 : Int32} {x2 : Int32} {x3 : Int32} {x4 : Nat} {x5 : Int32} {x6 : Int32} {σ : vv_S} {r : Int32 × vv_S}, k35 x0 x1 x2 x3 x4 x5 x6 σ = some r → vv_V l G MX1_hub (d + 5) 35 [(0, .ref x0), (1, .int x1), (2, .int x2), (3, .int x3), (4, .ref x4), (5, .int x5), (6, .int x6)] [] σ (.inl (some (.int r.1)), r.2)) {x0 : Nat} {x1 : Int32} {x2 : Int32} {x3 : Int32} {x4 : Nat} {x5 : Int32} {x6 : Int32} {σ : vv_S} {r : Int32 × vv_S} (h : BKX1_hub_35 k7 k35 x0 x1 x2 x3 x4 x5 x6 σ = some r) : vv_V l G MX1_hub (d + 5) 35 [(0, .ref x0), (1, .int x1), (2, .int x2), (3, .int x3), (4, .ref x4), (5, .int x5), (6, .int x6)] [] σ (.inl (some (.int r.1)), r.2) := by
  unfold BKX1_hub_35 at h
  refine vv_iload dX1_hub_35 6 rfl ?_
  refine vv_aload_n dX1_hub_37 rfl 0 rfl ?_
  replace h := gR_o h; obtain ⟨v1, fv1, sv1, ev1, lv1, h⟩ := h
  refine vv_get (fl_X1_22 hG) ev1 lv1 dX1_hub_38 ?_
  replace h := isO_o h; obtain ⟨fz3, sz3, ez3, h⟩ := h
  replace h := bd_o h; obtain ⟨r2, er2, h⟩ := h
  refine vv_callV ok_X2_towns q638 (m_KX2_towns hG hH er2 d) rfl (by omega) ⟨_, _, _, _, _, ez3, by rw [hG.1]; rfl⟩ rfl rfl (Nat.le_of_ble_eq_true rfl) dX1_hub_41 ?_
  refine vv_icmp_ge (tgt := 65) dX1_hub_44 (by decide) (fun c4 => ?_) (fun c4 => ?_)
  · rw [if_pos c4] at h
    refine vv_iload dX1_hub_65 5 rfl ?_
    refine vv_iload_n dX1_hub_67 rfl 2 rfl ?_
    refine vv_icmp_lt (tgt := 74) dX1_hub_68 (by decide) (fun c5 => ?_) (fun c5 => ?_)
    · rw [if_pos c5] at h
      refine vv_iload_n dX1_hub_74 rfl 3 rfl ?_
      refine vv_istore_n (lv' := [(0, .ref x0), (1, .int x3), (2, .int x2), (3, .int x3), (4, .ref x4), (5, .int x5), (6, .int x6)]) dX1_hub_75 rfl (by decide) [1, 0, 2, 3, 4, 5, 6] rfl ?_
      refine vv_iload dX1_hub_76 5 rfl ?_
      refine vv_istore_n (lv' := [(0, .ref x0), (1, .int x3), (2, .int x5), (3, .int x3), (4, .ref x4), (5, .int x5), (6, .int x6)]) dX1_hub_78 rfl (by decide) [1, 2, 0, 3, 4, 5, 6] rfl ?_
      refine vv_sub (lv' := [(0, .ref x0), (1, .int x3), (2, .int x5), (3, .int x3)]) [0, 1, 2, 3] rfl ?_
      exact v_KX1_hub_79 hG hH hk7 h
    · rw [if_neg c5] at h
      refine vv_goto (tgt := 79) dX1_hub_71 (by decide) ?_
      refine vv_sub (lv' := [(0, .ref x0), (1, .int x1), (2, .int x2), (3, .int x3)]) [0, 1, 2, 3] rfl ?_
      exact v_KX1_hub_79 hG hH hk7 h
  · rw [if_neg c4] at h
    refine vv_iload dX1_hub_47 5 rfl ?_
    refine vv_aload dX1_hub_49 4 rfl ?_
    refine vv_iload dX1_hub_51 6 rfl ?_
    replace h := aI_o h; obtain ⟨v6, fv6, nv6, qv6, ev6, iv6, wv6, h⟩ := h
    refine vv_iald ev6 iv6 dX1_hub_53 ?_
    rw [wv6]
    refine vv_mmax q653 (by omega) (Nat.le_of_ble_eq_true rfl) dX1_hub_54 ?_
    refine vv_istore (lv' := [(0, .ref x0), (1, .int x1), (2, .int x2), (3, .int x3), (4, .ref x4), (5, .int (mxI x5 v6)), (6, .int x6)]) dX1_hub_57 (by decide) [1, 2, 3, 4, 5, 0, 6] rfl ?_
    refine vv_iinc (v := (x6 + (nI 1))) (lv' := [(0, .ref x0), (1, .int x1), (2, .int x2), (3, .int x3), (4, .ref x4), (5, .int (mxI x5 v6)), (6, .int (x6 + (nI 1)))]) dX1_hub_59 6 rfl rfl (by decide) [1, 2, 3, 4, 5, 6, 0] rfl ?_
    refine vv_goto (tgt := 35) dX1_hub_62 (by decide) ?_
    exact hk35 h
theorem v_KX1_hub_35 {l : Launch} {G : vv_G} {d : Nat} {ad : Nat → Nat} (hG : vv_gok G) (hH : vv_hy l G ad) {k7 : Nat → Int32 → Int32 → Int32 → vv_S → Option (Int32 × vv_S)} (hk7 : ∀ {x0 : Nat} {x1 : Int32} {x2 : Int32} {x3 : Int32} {σ : vv_S} {r : Int32 × vv_S}, k7 x0 x1 x2 x3 σ = some r → vv_V l G MX1_hub (d + 5) 7 [(0, .ref x0), (1, .int x1), (2, .int x2), (3, .int x3)] [] σ (.inl (some (.int r.1)), r.2)) : ∀ (n : Nat) {x0 : Nat} {x1 : Int32} {x2 : Int32} {x3 : Int32} {x4 : Nat} {x5 : Int32} {x6 : Int32} {σ : vv_S} {r : Int32 × vv_S}, KX1_hub_35 k7 n x0 x1 x2 x3 x4 x5 x6 σ = some r → vv_V l G MX1_hub (d + 5) 35 [(0, .ref x0), (1, .int x1), (2, .int x2), (3, .int x3), (4, .ref x4), (5, .int x5), (6, .int x6)] [] σ (.inl (some (.int r.1)), r.2) := by
  intro n
  induction n with
  | zero => intro _ _ _ _ _ _ _ _ _ h; cases h
  | succ n ih => intro _ _ _ _ _ _ _ _ _ h; exact vb_KX1_hub_35 hG hH hk7 ih h
def BKX1_hub_7 (k7 : Nat → Int32 → Int32 → Int32 → vv_S → Option (Int32 × vv_S)) (x0 : Nat) (x1 : Int32) (x2 : Int32) (x3 : Int32) (σ : vv_S) : Option (Int32 × vv_S) := (gR σ x0 0 1).bind fun v1 => (isO σ v1 1).bind fun _ => (KX2_towns v1 σ).bind fun r2 => if r2 ≤ x3 then (some (x1, σ)) else ((gR σ x0 0 1).bind fun v5 => (isO σ v5 1).bind fun _ => (KX2_least v5 x3 (nI 0) σ).bind fun r6 => KX1_hub_35 k7 NN x0 x1 x2 x3 r6.1 (nI 0) (nI 0) r6.2)
def KX1_hub_7 : Nat → Nat → Int32 → Int32 → Int32 → vv_S → Option (Int32 × vv_S)
  | 0, _, _, _, _, _ => none
  | n + 1, x0, x1, x2, x3, σ => BKX1_hub_7 (KX1_hub_7 n) x0 x1 x2 x3 σ
theorem vb_KX1_hub_7 {l : Launch} {G : vv_G} {d : Nat} {ad : Nat → Nat} (hG : vv_gok G) (hH : vv_hy l G ad) {k7 : Nat → Int32 → Int32 → Int32 → vv_S → Option (Int32 × vv_S)} (hk7 : ∀ {x0 : Nat} {x1 : Int32} {x2 : Int32} {x3 : Int32} {σ : vv_S} {r : Int32 × vv_S}, k7 x0 x1 x2 x3 σ = some r → vv_V l G MX1_hub (d + 5) 7 [(0, .ref x0), (1, .int x1), (2, .int x2), (3, .int x3)] [] σ (.inl (some (.int r.1)), r.2)) {x0 : Nat} {x1 : Int32} {x2 : Int32} {x3 : Int32} {σ : vv_S} {r : Int32 × vv_S} (h : BKX1_hub_7 k7 x0 x1 x2 x3 σ = some r) : vv_V l G MX1_hub (d + 5) 7 [(0, .ref x0), (1, .int x1), (2, .int x2), (3, .int x3)] [] σ (.inl (some (.int r.1)), r.2) := by
  unfold BKX1_hub_7 at h
  refine vv_iload_n dX1_hub_7 rfl 3 rfl ?_
  refine vv_aload_n dX1_hub_8 rfl 0 rfl ?_
  replace h := gR_o h; obtain ⟨v1, fv1, sv1, ev1, lv1, h⟩ := h
  refine vv_get (fl_X1_22 hG) ev1 lv1 dX1_hub_9 ?_
  replace h := isO_o h; obtain ⟨fz3, sz3, ez3, h⟩ := h
  replace h := bd_o h; obtain ⟨r2, er2, h⟩ := h
  refine vv_callV ok_X2_towns q638 (m_KX2_towns hG hH er2 d) rfl (by omega) ⟨_, _, _, _, _, ez3, by rw [hG.1]; rfl⟩ rfl rfl (Nat.le_of_ble_eq_true rfl) dX1_hub_12 ?_
  refine vv_icmp_ge (tgt := 85) dX1_hub_15 (by decide) (fun c4 => ?_) (fun c4 => ?_)
  · rw [if_pos c4] at h
    refine vv_iload_n dX1_hub_85 rfl 1 rfl ?_
    cases h
    exact vv_iret rfl dX1_hub_86
  · rw [if_neg c4] at h
    refine vv_aload_n dX1_hub_18 rfl 0 rfl ?_
    replace h := gR_o h; obtain ⟨v5, fv5, sv5, ev5, lv5, h⟩ := h
    refine vv_get (fl_X1_22 hG) ev5 lv5 dX1_hub_19 ?_
    refine vv_iload_n dX1_hub_22 rfl 3 rfl ?_
    refine vv_iconst (v := (nI 0)) dX1_hub_23 (by decide) ?_
    replace h := isO_o h; obtain ⟨fz7, sz7, ez7, h⟩ := h
    replace h := bd_o h; obtain ⟨r6, er6, h⟩ := h
    refine vv_callV ok_X2_least q639 (m_KX2_least hG hH er6 d) rfl (by omega) ⟨_, _, _, _, _, ez7, by rw [hG.1]; rfl⟩ rfl rfl (Nat.le_of_ble_eq_true rfl) dX1_hub_24 ?_
    refine vv_astore (lv' := [(0, .ref x0), (1, .int x1), (2, .int x2), (3, .int x3), (4, .ref r6.1)]) dX1_hub_27 (by decide) [1, 2, 3, 4, 0] rfl ?_
    refine vv_iconst (v := (nI 0)) dX1_hub_29 (by decide) ?_
    refine vv_istore (lv' := [(0, .ref x0), (1, .int x1), (2, .int x2), (3, .int x3), (4, .ref r6.1), (5, .int (nI 0))]) dX1_hub_30 (by decide) [1, 2, 3, 4, 5, 0] rfl ?_
    refine vv_iconst (v := (nI 0)) dX1_hub_32 (by decide) ?_
    refine vv_istore (lv' := [(0, .ref x0), (1, .int x1), (2, .int x2), (3, .int x3), (4, .ref r6.1), (5, .int (nI 0)), (6, .int (nI 0))]) dX1_hub_33 (by decide) [1, 2, 3, 4, 5, 6, 0] rfl ?_
    exact v_KX1_hub_35 hG hH hk7 NN h
theorem v_KX1_hub_7 {l : Launch} {G : vv_G} {d : Nat} {ad : Nat → Nat} (hG : vv_gok G) (hH : vv_hy l G ad) : ∀ (n : Nat) {x0 : Nat} {x1 : Int32} {x2 : Int32} {x3 : Int32} {σ : vv_S} {r : Int32 × vv_S}, KX1_hub_7 n x0 x1 x2 x3 σ = some r → vv_V l G MX1_hub (d + 5) 7 [(0, .ref x0), (1, .int x1), (2, .int x2), (3, .int x3)] [] σ (.inl (some (.int r.1)), r.2) := by
  intro n
  induction n with
  | zero => intro _ _ _ _ _ _ h; cases h
  | succ n ih => intro _ _ _ _ _ _ h; exact vb_KX1_hub_7 hG hH ih h
def KX1_hub (x0 : Nat) (σ : vv_S) : Option (Int32 × vv_S) := KX1_hub_7 NN x0 (-1) (nI 100000) (nI 0) σ
theorem v_KX1_hub_0 {l : Launch} {G : vv_G} {d : Nat} {ad : Nat → Nat} (hG : vv_gok G) (hH : vv_hy l G ad) {x0 : Nat} {σ : vv_S} {r : Int32 × vv_S} (h : KX1_hub x0 σ = some r) : vv_V l G MX1_hub (d + 5) 0 [(0, .ref x0)] [] σ (.inl (some (.int r.1)), r.2) := by
  unfold KX1_hub at h
  refine vv_iconst (v := (-1)) dX1_hub_0 (by decide) ?_
  refine vv_istore_n (lv' := [(0, .ref x0), (1, .int (-1))]) dX1_hub_1 rfl (by decide) [1, 0] rfl ?_
  refine vv_ldc (v := (nI 100000)) dX1_hub_2 q637 ?_
  refine vv_istore_n (lv' := [(0, .ref x0), (1, .int (-1)), (2, .int (nI 100000))]) dX1_hub_4 rfl (by decide) [1, 2, 0] rfl ?_
  refine vv_iconst (v := (nI 0)) dX1_hub_5 (by decide) ?_
  refine vv_istore_n (lv' := [(0, .ref x0), (1, .int (-1)), (2, .int (nI 100000)), (3, .int (nI 0))]) dX1_hub_6 rfl (by decide) [1, 2, 3, 0] rfl ?_
  exact v_KX1_hub_7 hG hH NN h
theorem m_KX1_hub {l : Launch} {G : vv_G} {ad : Nat → Nat} (hG : vv_gok G) (hH : vv_hy l G ad) {x0 : Nat} {σ : vv_S} {r : Int32 × vv_S} (h : KX1_hub x0 σ = some r) (d : Nat) : vv_Met l G MX1_hub (d + 5) [.ref x0] σ (.inl (some (.int r.1)), r.2) := vv_head (by decide +kernel) rfl (Nat.le_of_ble_eq_true rfl) rfl (v_KX1_hub_0 hG hH h)
/-! ('X1', 'spoilt') -/
def KX1_spoilt_80 (k4 : Nat → Int32 → Int32 → vv_S → Option Int32) (x0 : Nat) (x1 : Int32) (x2 : Int32) (σ : vv_S) : Option Int32 := k4 x0 x1 (x2 + (nI 1)) σ
theorem v_KX1_spoilt_80 {l : Launch} {G : vv_G} {d : Nat} {ad : Nat → Nat} (hG : vv_gok G) (hH : vv_hy l G ad) {k4 : Nat → Int32 → Int32 → vv_S → Option Int32} (hk4 : ∀ {x0 : Nat} {x1 : Int32} {x2 : Int32} {σ : vv_S} {r : Int32}, k4 x0 x1 x2 σ = some r → vv_V l G MX1_spoilt (d + 1) 4 [(0, .ref x0), (1, .int x1), (2, .int x2)] [] σ (.inl (some (.int r)), σ)) {x0 : Nat} {x1 : Int32} {x2 : Int32} {σ : vv_S} {r : Int32} (h : KX1_spoilt_80 k4 x0 x1 x2 σ = some r) : vv_V l G MX1_spoilt (d + 1) 80 [(0, .ref x0), (1, .int x1), (2, .int x2)] [] σ (.inl (some (.int r)), σ) := by
  unfold KX1_spoilt_80 at h
  refine vv_iinc (v := (x2 + (nI 1))) (lv' := [(0, .ref x0), (1, .int x1), (2, .int (x2 + (nI 1)))]) dX1_spoilt_80 2 rfl rfl (by decide) [1, 2, 0] rfl ?_
  refine vv_goto (tgt := 4) dX1_spoilt_83 (by decide) ?_
  exact hk4 h
def KX1_spoilt_71 (k4 : Nat → Int32 → Int32 → vv_S → Option Int32) (s0 : Int32) (s1 : Int32) (x0 : Nat) (x1 : Int32) (x2 : Int32) (σ : vv_S) : Option Int32 := if s1 < s0 then (KX1_spoilt_80 k4 x0 x1 x2 σ) else (KX1_spoilt_80 k4 x0 (x1 ||| ((nI 1) <<< (x2 &&& 31))) x2 σ)
theorem v_KX1_spoilt_71 {l : Launch} {G : vv_G} {d : Nat} {ad : Nat → Nat} (hG : vv_gok G) (hH : vv_hy l G ad) {k4 : Nat → Int32 → Int32 → vv_S → Option Int32} (hk4 : ∀ {x0 : Nat} {x1 : Int32} {x2 : Int32} {σ : vv_S} {r : Int32}, k4 x0 x1 x2 σ = some r → vv_V l G MX1_spoilt (d + 1) 4 [(0, .ref x0), (1, .int x1), (2, .int x2)] [] σ (.inl (some (.int r)), σ)) {s0 : Int32} {s1 : Int32} {x0 : Nat} {x1 : Int32} {x2 : Int32} {σ : vv_S} {r : Int32} (h : KX1_spoilt_71 k4 s0 s1 x0 x1 x2 σ = some r) : vv_V l G MX1_spoilt (d + 1) 71 [(0, .ref x0), (1, .int x1), (2, .int x2)] [.int s1, .int s0] σ (.inl (some (.int r)), σ) := by
  unfold KX1_spoilt_71 at h
  refine vv_icmp_gt (tgt := 80) dX1_spoilt_71 (by decide) (fun c1 => ?_) (fun c1 => ?_)
  · rw [if_pos c1] at h
    exact v_KX1_spoilt_80 hG hH hk4 h
  · rw [if_neg c1] at h
    refine vv_iload_n dX1_spoilt_74 rfl 1 rfl ?_
    refine vv_iconst (v := (nI 1)) dX1_spoilt_75 (by decide) ?_
    refine vv_iload_n dX1_spoilt_76 rfl 2 rfl ?_
    refine vv_ishl dX1_spoilt_77 ?_
    refine vv_ior dX1_spoilt_78 ?_
    refine vv_istore_n (lv' := [(0, .ref x0), (1, .int (x1 ||| ((nI 1) <<< (x2 &&& 31)))), (2, .int x2)]) dX1_spoilt_79 rfl (by decide) [1, 0, 2] rfl ?_
    exact v_KX1_spoilt_80 hG hH hk4 h
def BKX1_spoilt_4 (k4 : Nat → Int32 → Int32 → vv_S → Option Int32) (x0 : Nat) (x1 : Int32) (x2 : Int32) (σ : vv_S) : Option Int32 := (gR σ x0 0 1).bind fun v1 => (gI σ v1 1 3).bind fun v2 => if v2 ≤ x2 then (some x1) else ((gR σ x0 0 2).bind fun v4 => (isO σ v4 2).bind fun _ => (KX3_goes v4 x2 σ).bind fun r5 => if r5 = 0 then (KX1_spoilt_80 k4 x0 x1 x2 σ) else ((gR σ x0 0 2).bind fun v8 => (gR σ v8 2 3).bind fun v9 => (aI σ .int v9 x2).bind fun v10 => (gR σ x0 0 2).bind fun v11 => (gR σ v11 2 5).bind fun v12 => (aI σ .int v12 x2).bind fun v13 => if v13 = (nI 1) then (KX1_spoilt_71 k4 v10 (nI 0) x0 x1 x2 σ) else ((gR σ x0 0 2).bind fun v15 => (gR σ v15 2 7).bind fun v16 => (aI σ .int v16 x2).bind fun v17 => (gR σ x0 0 2).bind fun v18 => (gR σ v18 2 8).bind fun v19 => (aI σ .int v19 x2).bind fun v20 => KX1_spoilt_71 k4 v10 (v17 * v20) x0 x1 x2 σ)))
def KX1_spoilt_4 : Nat → Nat → Int32 → Int32 → vv_S → Option Int32
  | 0, _, _, _, _ => none
  | n + 1, x0, x1, x2, σ => BKX1_spoilt_4 (KX1_spoilt_4 n) x0 x1 x2 σ
theorem vb_KX1_spoilt_4 {l : Launch} {G : vv_G} {d : Nat} {ad : Nat → Nat} (hG : vv_gok G) (hH : vv_hy l G ad) {k4 : Nat → Int32 → Int32 → vv_S → Option Int32} (hk4 : ∀ {x0 : Nat} {x1 : Int32} {x2 : Int32} {σ : vv_S} {r : Int32}, k4 x0 x1 x2 σ = some r → vv_V l G MX1_spoilt (d + 1) 4 [(0, .ref x0), (1, .int x1), (2, .int x2)] [] σ (.inl (some (.int r)), σ)) {x0 : Nat} {x1 : Int32} {x2 : Int32} {σ : vv_S} {r : Int32} (h : BKX1_spoilt_4 k4 x0 x1 x2 σ = some r) : vv_V l G MX1_spoilt (d + 1) 4 [(0, .ref x0), (1, .int x1), (2, .int x2)] [] σ (.inl (some (.int r)), σ) := by
  unfold BKX1_spoilt_4 at h
  refine vv_iload_n dX1_spoilt_4 rfl 2 rfl ?_
  refine vv_aload_n dX1_spoilt_5 rfl 0 rfl ?_
  replace h := gR_o h; obtain ⟨v1, fv1, sv1, ev1, lv1, h⟩ := h
  refine vv_get (fl_X1_22 hG) ev1 lv1 dX1_spoilt_6 ?_
  replace h := gI_o h; obtain ⟨v2, fv2, sv2, ev2, lv2, h⟩ := h
  refine vv_getM (fl_X1_104 hH) ev2 lv2 dX1_spoilt_9 ?_
  refine vv_icmp_ge (tgt := 86) dX1_spoilt_12 (by decide) (fun c3 => ?_) (fun c3 => ?_)
  · rw [if_pos c3] at h
    refine vv_iload_n dX1_spoilt_86 rfl 1 rfl ?_
    cases h
    exact vv_iret rfl dX1_spoilt_87
  · rw [if_neg c3] at h
    refine vv_aload_n dX1_spoilt_15 rfl 0 rfl ?_
    replace h := gR_o h; obtain ⟨v4, fv4, sv4, ev4, lv4, h⟩ := h
    refine vv_get (fl_X1_31 hG) ev4 lv4 dX1_spoilt_16 ?_
    refine vv_iload_n dX1_spoilt_19 rfl 2 rfl ?_
    replace h := isO_o h; obtain ⟨fz6, sz6, ez6, h⟩ := h
    replace h := bd_o h; obtain ⟨r5, er5, h⟩ := h
    refine vv_callV ok_X3_goes q658 (m_KX3_goes hG hH er5 d) rfl (by omega) ⟨_, _, _, _, _, ez6, by rw [hG.1]; rfl⟩ rfl rfl (Nat.le_of_ble_eq_true rfl) dX1_spoilt_20 ?_
    refine vv_if_eq (tgt := 80) dX1_spoilt_23 (by decide) (fun c7 => ?_) (fun c7 => ?_)
    · rw [if_pos c7] at h
      exact v_KX1_spoilt_80 hG hH hk4 h
    · rw [if_neg c7] at h
      refine vv_aload_n dX1_spoilt_26 rfl 0 rfl ?_
      replace h := gR_o h; obtain ⟨v8, fv8, sv8, ev8, lv8, h⟩ := h
      refine vv_get (fl_X1_31 hG) ev8 lv8 dX1_spoilt_27 ?_
      replace h := gR_o h; obtain ⟨v9, fv9, sv9, ev9, lv9, h⟩ := h
      refine vv_getM (fl_X1_170 hH) ev9 lv9 dX1_spoilt_30 ?_
      refine vv_iload_n dX1_spoilt_33 rfl 2 rfl ?_
      replace h := aI_o h; obtain ⟨v10, fv10, nv10, qv10, ev10, iv10, wv10, h⟩ := h
      refine vv_iald ev10 iv10 dX1_spoilt_34 ?_
      rw [wv10]
      refine vv_aload_n dX1_spoilt_35 rfl 0 rfl ?_
      replace h := gR_o h; obtain ⟨v11, fv11, sv11, ev11, lv11, h⟩ := h
      refine vv_get (fl_X1_31 hG) ev11 lv11 dX1_spoilt_36 ?_
      replace h := gR_o h; obtain ⟨v12, fv12, sv12, ev12, lv12, h⟩ := h
      refine vv_getM (fl_X1_176 hH) ev12 lv12 dX1_spoilt_39 ?_
      refine vv_iload_n dX1_spoilt_42 rfl 2 rfl ?_
      replace h := aI_o h; obtain ⟨v13, fv13, nv13, qv13, ev13, iv13, wv13, h⟩ := h
      refine vv_iald ev13 iv13 dX1_spoilt_43 ?_
      rw [wv13]
      refine vv_iconst (v := (nI 1)) dX1_spoilt_44 (by decide) ?_
      refine vv_icmp_ne (tgt := 52) dX1_spoilt_45 (by decide) (fun c14 => ?_) (fun c14 => ?_)
      · rw [if_neg c14] at h
        refine vv_aload_n dX1_spoilt_52 rfl 0 rfl ?_
        replace h := gR_o h; obtain ⟨v15, fv15, sv15, ev15, lv15, h⟩ := h
        refine vv_get (fl_X1_31 hG) ev15 lv15 dX1_spoilt_53 ?_
        replace h := gR_o h; obtain ⟨v16, fv16, sv16, ev16, lv16, h⟩ := h
        refine vv_getM (fl_X1_179 hH) ev16 lv16 dX1_spoilt_56 ?_
        refine vv_iload_n dX1_spoilt_59 rfl 2 rfl ?_
        replace h := aI_o h; obtain ⟨v17, fv17, nv17, qv17, ev17, iv17, wv17, h⟩ := h
        refine vv_iald ev17 iv17 dX1_spoilt_60 ?_
        rw [wv17]
        refine vv_aload_n dX1_spoilt_61 rfl 0 rfl ?_
        replace h := gR_o h; obtain ⟨v18, fv18, sv18, ev18, lv18, h⟩ := h
        refine vv_get (fl_X1_31 hG) ev18 lv18 dX1_spoilt_62 ?_
        replace h := gR_o h; obtain ⟨v19, fv19, sv19, ev19, lv19, h⟩ := h
        refine vv_getM (fl_X1_214 hH) ev19 lv19 dX1_spoilt_65 ?_
        refine vv_iload_n dX1_spoilt_68 rfl 2 rfl ?_
        replace h := aI_o h; obtain ⟨v20, fv20, nv20, qv20, ev20, iv20, wv20, h⟩ := h
        refine vv_iald ev20 iv20 dX1_spoilt_69 ?_
        rw [wv20]
        refine vv_imul dX1_spoilt_70 ?_
        exact v_KX1_spoilt_71 hG hH hk4 h
      · rw [if_pos c14] at h
        refine vv_iconst (v := (nI 0)) dX1_spoilt_48 (by decide) ?_
        refine vv_goto (tgt := 71) dX1_spoilt_49 (by decide) ?_
        exact v_KX1_spoilt_71 hG hH hk4 h
theorem v_KX1_spoilt_4 {l : Launch} {G : vv_G} {d : Nat} {ad : Nat → Nat} (hG : vv_gok G) (hH : vv_hy l G ad) : ∀ (n : Nat) {x0 : Nat} {x1 : Int32} {x2 : Int32} {σ : vv_S} {r : Int32}, KX1_spoilt_4 n x0 x1 x2 σ = some r → vv_V l G MX1_spoilt (d + 1) 4 [(0, .ref x0), (1, .int x1), (2, .int x2)] [] σ (.inl (some (.int r)), σ) := by
  intro n
  induction n with
  | zero => intro _ _ _ _ _ h; cases h
  | succ n ih => intro _ _ _ _ _ h; exact vb_KX1_spoilt_4 hG hH ih h
def KX1_spoilt (x0 : Nat) (σ : vv_S) : Option Int32 := KX1_spoilt_4 NN x0 (nI 0) (nI 0) σ
theorem v_KX1_spoilt_0 {l : Launch} {G : vv_G} {d : Nat} {ad : Nat → Nat} (hG : vv_gok G) (hH : vv_hy l G ad) {x0 : Nat} {σ : vv_S} {r : Int32} (h : KX1_spoilt x0 σ = some r) : vv_V l G MX1_spoilt (d + 1) 0 [(0, .ref x0)] [] σ (.inl (some (.int r)), σ) := by
  unfold KX1_spoilt at h
  refine vv_iconst (v := (nI 0)) dX1_spoilt_0 (by decide) ?_
  refine vv_istore_n (lv' := [(0, .ref x0), (1, .int (nI 0))]) dX1_spoilt_1 rfl (by decide) [1, 0] rfl ?_
  refine vv_iconst (v := (nI 0)) dX1_spoilt_2 (by decide) ?_
  refine vv_istore_n (lv' := [(0, .ref x0), (1, .int (nI 0)), (2, .int (nI 0))]) dX1_spoilt_3 rfl (by decide) [1, 2, 0] rfl ?_
  exact v_KX1_spoilt_4 hG hH NN h
theorem m_KX1_spoilt {l : Launch} {G : vv_G} {ad : Nat → Nat} (hG : vv_gok G) (hH : vv_hy l G ad) {x0 : Nat} {σ : vv_S} {r : Int32} (h : KX1_spoilt x0 σ = some r) (d : Nat) : vv_Met l G MX1_spoilt (d + 1) [.ref x0] σ (.inl (some (.int r)), σ) := vv_head (by decide +kernel) rfl (Nat.le_of_ble_eq_true rfl) rfl (v_KX1_spoilt_0 hG hH h)
/-! ('X1', 'image') -/
def KX1_image (ad : Nat → Nat) (x0 : Nat) (σ : vv_S) : Option vv_S := (gR σ x0 0 2).bind fun v1 => (isO σ v1 2).bind fun _ => (KX3_copy v1 σ).bind fun r2 => (pF r2.2 x0 0 9 (.ref r2.1)).bind fun σ4 => (some (nwO σ4 11 [.int 0, .null, .int 0] 3)).bind fun σ5 => (gR σ5 x0 0 7).bind fun v6 => (KJ2_init_2 ad σ4.2.1 v6 σ5).bind fun r7 => (pF r7 x0 0 10 (.ref σ4.2.1)).bind fun σ8 => (some (nwO σ8 11 [.int 0, .null, .int 0] 3)).bind fun σ9 => (gR σ9 x0 0 8).bind fun v10 => (KJ2_init_2 ad σ8.2.1 v10 σ9).bind fun r11 => (pF r11 x0 0 11 (.ref σ8.2.1)).bind fun σ12 => some σ12
theorem v_KX1_image_0 {l : Launch} {G : vv_G} {d : Nat} {ad : Nat → Nat} (hG : vv_gok G) (hH : vv_hy l G ad) {x0 : Nat} {σ : vv_S} {r : vv_S} (h : KX1_image ad x0 σ = some r) : vv_V l G MX1_image (d + 5) 0 [(0, .ref x0)] [] σ (.inl none, r) := by
  unfold KX1_image at h
  refine vv_aload_n dX1_image_0 rfl 0 rfl ?_
  refine vv_aload_n dX1_image_1 rfl 0 rfl ?_
  replace h := gR_o h; obtain ⟨v1, fv1, sv1, ev1, lv1, h⟩ := h
  refine vv_get (fl_X1_31 hG) ev1 lv1 dX1_image_2 ?_
  replace h := isO_o h; obtain ⟨fz3, sz3, ez3, h⟩ := h
  replace h := bd_o h; obtain ⟨r2, er2, h⟩ := h
  refine vv_callV ok_X3_copy q346 (m_KX3_copy hG hH er2 d) rfl (by omega) ⟨_, _, _, _, _, ez3, by rw [hG.1]; rfl⟩ rfl rfl (Nat.le_of_ble_eq_true rfl) dX1_image_5 ?_
  replace h := pF_o h; obtain ⟨σ4, sσ4, eσ4, lσ4, uσ4, h⟩ := h
  refine vv_putf (pt_X1_89 hG) (Or.inr fun C T' N h9 => by rw [hG.1] at h9; cases h9; rfl) eσ4 rfl rfl lσ4 dX1_image_8 ?_
  rw [← uσ4]
  refine vv_aload_n dX1_image_11 rfl 0 rfl ?_
  obtain ⟨σ5, uσ5, h⟩ := bd_s h
  refine vv_new (nw_X1_46 hG) dX1_image_12 ?_
  rw [show (vv_up σ4.1 σ4.2.1 _, _, _) = σ5 from uσ5.symm]
  refine vv_dup dX1_image_15 rfl ?_
  refine vv_aload_n dX1_image_16 rfl 0 rfl ?_
  replace h := gR_o h; obtain ⟨v6, fv6, sv6, ev6, lv6, h⟩ := h
  refine vv_get (fl_X1_49 hG) ev6 lv6 dX1_image_17 ?_
  replace h := bd_o h; obtain ⟨r7, er7, h⟩ := h
  refine vv_callI ok_J2_init_2 q663 (m_KJ2_init_2 hG hH er7 d) rfl (by omega) rfl rfl (Nat.le_of_ble_eq_true rfl) dX1_image_20 ?_
  replace h := pF_o h; obtain ⟨σ8, sσ8, eσ8, lσ8, uσ8, h⟩ := h
  refine vv_putf (pt_X1_348 hG) (Or.inr fun C T' N h9 => by rw [hG.1] at h9; cases h9; rfl) eσ8 rfl rfl lσ8 dX1_image_23 ?_
  rw [← uσ8]
  refine vv_aload_n dX1_image_26 rfl 0 rfl ?_
  obtain ⟨σ9, uσ9, h⟩ := bd_s h
  refine vv_new (nw_X1_46 hG) dX1_image_27 ?_
  rw [show (vv_up σ8.1 σ8.2.1 _, _, _) = σ9 from uσ9.symm]
  refine vv_dup dX1_image_30 rfl ?_
  refine vv_aload_n dX1_image_31 rfl 0 rfl ?_
  replace h := gR_o h; obtain ⟨v10, fv10, sv10, ev10, lv10, h⟩ := h
  refine vv_get (fl_X1_53 hG) ev10 lv10 dX1_image_32 ?_
  replace h := bd_o h; obtain ⟨r11, er11, h⟩ := h
  refine vv_callI ok_J2_init_2 q663 (m_KJ2_init_2 hG hH er11 d) rfl (by omega) rfl rfl (Nat.le_of_ble_eq_true rfl) dX1_image_35 ?_
  replace h := pF_o h; obtain ⟨σ12, sσ12, eσ12, lσ12, uσ12, h⟩ := h
  refine vv_putf (pt_X1_351 hG) (Or.inr fun C T' N h9 => by rw [hG.1] at h9; cases h9; rfl) eσ12 rfl rfl lσ12 dX1_image_38 ?_
  rw [← uσ12]
  cases h
  exact vv_vret rfl dX1_image_41
theorem m_KX1_image {l : Launch} {G : vv_G} {ad : Nat → Nat} (hG : vv_gok G) (hH : vv_hy l G ad) {x0 : Nat} {σ : vv_S} {r : vv_S} (h : KX1_image ad x0 σ = some r) (d : Nat) : vv_Met l G MX1_image (d + 5) [.ref x0] σ (.inl none, r) := vv_head (by decide +kernel) rfl (Nat.le_of_ble_eq_true rfl) rfl (v_KX1_image_0 hG hH h)
/-! ('X1', 'restore') -/
def KX1_restore (ad : Nat → Nat) (x0 : Nat) (σ : vv_S) : Option (Int32 × vv_S) := (gV σ x0 0 9).bind fun v1 => (nlV v1).bind fun b2 => if b2 = true then (some ((nI 0), σ)) else ((gV σ x0 0 9).bind fun v4 => (asR v4).bind fun a6 => (isO σ a6 2).bind fun _ => (KX3_copy a6 σ).bind fun r5 => (pF r5.2 x0 0 2 (.ref r5.1)).bind fun σ8 => (some (nwO σ8 11 [.int 0, .null, .int 0] 3)).bind fun σ9 => (gR σ9 x0 0 10).bind fun v10 => (KJ2_init_2 ad σ8.2.1 v10 σ9).bind fun r11 => (pF r11 x0 0 7 (.ref σ8.2.1)).bind fun σ12 => (some (nwO σ12 11 [.int 0, .null, .int 0] 3)).bind fun σ13 => (gR σ13 x0 0 11).bind fun v14 => (KJ2_init_2 ad σ12.2.1 v14 σ13).bind fun r15 => (pF r15 x0 0 8 (.ref σ12.2.1)).bind fun σ16 => some ((nI 1), σ16))
theorem v_KX1_restore_0 {l : Launch} {G : vv_G} {d : Nat} {ad : Nat → Nat} (hG : vv_gok G) (hH : vv_hy l G ad) {x0 : Nat} {σ : vv_S} {r : Int32 × vv_S} (h : KX1_restore ad x0 σ = some r) : vv_V l G MX1_restore (d + 5) 0 [(0, .ref x0)] [] σ (.inl (some (.int r.1)), r.2) := by
  unfold KX1_restore at h
  refine vv_aload_n dX1_restore_0 rfl 0 rfl ?_
  replace h := gV_o h; obtain ⟨v1, fv1, sv1, ev1, lv1, h⟩ := h
  refine vv_get (fl_X1_89 hG) ev1 lv1 dX1_restore_1 ?_
  replace h := nl_o h
  rcases h with ⟨nb2, h⟩ | ⟨a3, nb2, h⟩
  · subst nb2
    rw [if_pos rfl] at h
    refine vv_ifnonnullN dX1_restore_4 ?_
    refine vv_iconst (v := (nI 0)) dX1_restore_7 (by decide) ?_
    cases h
    exact vv_zret rfl (by decide) dX1_restore_8
  · subst nb2
    rw [if_neg (by decide)] at h
    refine vv_ifnonnull (tgt := 9) dX1_restore_4 (by decide) ?_
    refine vv_aload_n dX1_restore_9 rfl 0 rfl ?_
    refine vv_aload_n dX1_restore_10 rfl 0 rfl ?_
    replace h := gV_o h; obtain ⟨v4, fv4, sv4, ev4, lv4, h⟩ := h
    refine vv_get (fl_X1_89 hG) ev4 lv4 dX1_restore_11 ?_
    replace h := asR_o h
    obtain ⟨a6, na6, h⟩ := h
    subst na6
    replace h := isO_o h; obtain ⟨fz7, sz7, ez7, h⟩ := h
    replace h := bd_o h; obtain ⟨r5, er5, h⟩ := h
    refine vv_callV ok_X3_copy q346 (m_KX3_copy hG hH er5 d) rfl (by omega) ⟨_, _, _, _, _, ez7, by rw [hG.1]; rfl⟩ rfl rfl (Nat.le_of_ble_eq_true rfl) dX1_restore_14 ?_
    replace h := pF_o h; obtain ⟨σ8, sσ8, eσ8, lσ8, uσ8, h⟩ := h
    refine vv_putf (pt_X1_31 hG) (Or.inr fun C T' N h9 => by rw [hG.1] at h9; cases h9; rfl) eσ8 rfl rfl lσ8 dX1_restore_17 ?_
    rw [← uσ8]
    refine vv_aload_n dX1_restore_20 rfl 0 rfl ?_
    obtain ⟨σ9, uσ9, h⟩ := bd_s h
    refine vv_new (nw_X1_46 hG) dX1_restore_21 ?_
    rw [show (vv_up σ8.1 σ8.2.1 _, _, _) = σ9 from uσ9.symm]
    refine vv_dup dX1_restore_24 rfl ?_
    refine vv_aload_n dX1_restore_25 rfl 0 rfl ?_
    replace h := gR_o h; obtain ⟨v10, fv10, sv10, ev10, lv10, h⟩ := h
    refine vv_get (fl_X1_348 hG) ev10 lv10 dX1_restore_26 ?_
    replace h := bd_o h; obtain ⟨r11, er11, h⟩ := h
    refine vv_callI ok_J2_init_2 q663 (m_KJ2_init_2 hG hH er11 d) rfl (by omega) rfl rfl (Nat.le_of_ble_eq_true rfl) dX1_restore_29 ?_
    replace h := pF_o h; obtain ⟨σ12, sσ12, eσ12, lσ12, uσ12, h⟩ := h
    refine vv_putf (pt_X1_49 hG) (Or.inr fun C T' N h9 => by rw [hG.1] at h9; cases h9; rfl) eσ12 rfl rfl lσ12 dX1_restore_32 ?_
    rw [← uσ12]
    refine vv_aload_n dX1_restore_35 rfl 0 rfl ?_
    obtain ⟨σ13, uσ13, h⟩ := bd_s h
    refine vv_new (nw_X1_46 hG) dX1_restore_36 ?_
    rw [show (vv_up σ12.1 σ12.2.1 _, _, _) = σ13 from uσ13.symm]
    refine vv_dup dX1_restore_39 rfl ?_
    refine vv_aload_n dX1_restore_40 rfl 0 rfl ?_
    replace h := gR_o h; obtain ⟨v14, fv14, sv14, ev14, lv14, h⟩ := h
    refine vv_get (fl_X1_351 hG) ev14 lv14 dX1_restore_41 ?_
    replace h := bd_o h; obtain ⟨r15, er15, h⟩ := h
    refine vv_callI ok_J2_init_2 q663 (m_KJ2_init_2 hG hH er15 d) rfl (by omega) rfl rfl (Nat.le_of_ble_eq_true rfl) dX1_restore_44 ?_
    replace h := pF_o h; obtain ⟨σ16, sσ16, eσ16, lσ16, uσ16, h⟩ := h
    refine vv_putf (pt_X1_53 hG) (Or.inr fun C T' N h9 => by rw [hG.1] at h9; cases h9; rfl) eσ16 rfl rfl lσ16 dX1_restore_47 ?_
    rw [← uσ16]
    refine vv_iconst (v := (nI 1)) dX1_restore_50 (by decide) ?_
    cases h
    exact vv_zret rfl (by decide) dX1_restore_51
theorem m_KX1_restore {l : Launch} {G : vv_G} {ad : Nat → Nat} (hG : vv_gok G) (hH : vv_hy l G ad) {x0 : Nat} {σ : vv_S} {r : Int32 × vv_S} (h : KX1_restore ad x0 σ = some r) (d : Nat) : vv_Met l G MX1_restore (d + 5) [.ref x0] σ (.inl (some (.int r.1)), r.2) := vv_head (by decide +kernel) rfl (Nat.le_of_ble_eq_true rfl) rfl (v_KX1_restore_0 hG hH h)
/-! ('X1', 'count') -/
def KX1_count_229 (k199 : Nat → Int32 → Int32 → vv_S → Option (hX (Int32 × vv_S))) (x0 : Nat) (x2 : Int32) (x3 : Int32) (σ : vv_S) : Option (hX (Int32 × vv_S)) := k199 x0 x2 (x3 + (nI 1)) σ
theorem v_KX1_count_229 {l : Launch} {G : vv_G} {d : Nat} {ad : Nat → Nat} (hG : vv_gok G) (hH : vv_hy l G ad) {k199 : Nat → Int32 → Int32 → vv_S → Option (hX (Int32 × vv_S))} (hk199 : ∀ {x0 : Nat} {x2 : Int32} {x3 : Int32} {σ : vv_S} {r : hX (Int32 × vv_S)}, k199 x0 x2 x3 σ = some r → vv_V l G MX1_count (d + 9) 199 [(0, .ref x0), (2, .int x2), (3, .int x3)] [] σ (xI r)) {x0 : Nat} {x2 : Int32} {x3 : Int32} {σ : vv_S} {r : hX (Int32 × vv_S)} (h : KX1_count_229 k199 x0 x2 x3 σ = some r) : vv_V l G MX1_count (d + 9) 229 [(0, .ref x0), (2, .int x2), (3, .int x3)] [] σ (xI r) := by
  unfold KX1_count_229 at h
  refine vv_iinc (v := (x3 + (nI 1))) (lv' := [(0, .ref x0), (2, .int x2), (3, .int (x3 + (nI 1)))]) dX1_count_229 2 rfl rfl (by decide) [1, 2, 0] rfl ?_
  refine vv_goto (tgt := 199) dX1_count_232 (by decide) ?_
  exact hk199 h
def BKX1_count_199 (k199 : Nat → Int32 → Int32 → vv_S → Option (hX (Int32 × vv_S))) (x0 : Nat) (x2 : Int32) (x3 : Int32) (σ : vv_S) : Option (hX (Int32 × vv_S)) := (gR σ x0 0 1).bind fun v1 => (gI σ v1 1 3).bind fun v2 => if v2 ≤ x3 then (some (.inl (x2, σ))) else ((gR σ x0 0 2).bind fun v4 => (gR σ v4 2 6).bind fun v5 => (aI σ .int v5 x3).bind fun v6 => if v6 = (-1) then (KX1_count_229 k199 x0 (x2 ||| ((nI 1) <<< (x3 &&& 31))) x3 σ) else (KX1_count_229 k199 x0 x2 x3 σ))
def KX1_count_199 : Nat → Nat → Int32 → Int32 → vv_S → Option (hX (Int32 × vv_S))
  | 0, _, _, _, _ => none
  | n + 1, x0, x2, x3, σ => BKX1_count_199 (KX1_count_199 n) x0 x2 x3 σ
theorem vb_KX1_count_199 {l : Launch} {G : vv_G} {d : Nat} {ad : Nat → Nat} (hG : vv_gok G) (hH : vv_hy l G ad) {k199 : Nat → Int32 → Int32 → vv_S → Option (hX (Int32 × vv_S))} (hk199 : ∀ {x0 : Nat} {x2 : Int32} {x3 : Int32} {σ : vv_S} {r : hX (Int32 × vv_S)}, k199 x0 x2 x3 σ = some r → vv_V l G MX1_count (d + 9) 199 [(0, .ref x0), (2, .int x2), (3, .int x3)] [] σ (xI r)) {x0 : Nat} {x2 : Int32} {x3 : Int32} {σ : vv_S} {r : hX (Int32 × vv_S)} (h : BKX1_count_199 k199 x0 x2 x3 σ = some r) : vv_V l G MX1_count (d + 9) 199 [(0, .ref x0), (2, .int x2), (3, .int x3)] [] σ (xI r) := by
  unfold BKX1_count_199 at h
  refine vv_iload_n dX1_count_199 rfl 2 rfl ?_
  refine vv_aload_n dX1_count_200 rfl 0 rfl ?_
  replace h := gR_o h; obtain ⟨v1, fv1, sv1, ev1, lv1, h⟩ := h
  refine vv_get (fl_X1_22 hG) ev1 lv1 dX1_count_201 ?_
  replace h := gI_o h; obtain ⟨v2, fv2, sv2, ev2, lv2, h⟩ := h
  refine vv_getM (fl_X1_104 hH) ev2 lv2 dX1_count_204 ?_
  refine vv_icmp_ge (tgt := 235) dX1_count_207 (by decide) (fun c3 => ?_) (fun c3 => ?_)
  · rw [if_pos c3] at h
    refine vv_iload_n dX1_count_235 rfl 1 rfl ?_
    cases h
    exact vv_iret rfl dX1_count_236
  · rw [if_neg c3] at h
    refine vv_aload_n dX1_count_210 rfl 0 rfl ?_
    replace h := gR_o h; obtain ⟨v4, fv4, sv4, ev4, lv4, h⟩ := h
    refine vv_get (fl_X1_31 hG) ev4 lv4 dX1_count_211 ?_
    replace h := gR_o h; obtain ⟨v5, fv5, sv5, ev5, lv5, h⟩ := h
    refine vv_getM (fl_X1_131 hH) ev5 lv5 dX1_count_214 ?_
    refine vv_iload_n dX1_count_217 rfl 2 rfl ?_
    replace h := aI_o h; obtain ⟨v6, fv6, nv6, qv6, ev6, iv6, wv6, h⟩ := h
    refine vv_iald ev6 iv6 dX1_count_218 ?_
    rw [wv6]
    refine vv_iconst (v := (-1)) dX1_count_219 (by decide) ?_
    refine vv_icmp_ne (tgt := 229) dX1_count_220 (by decide) (fun c7 => ?_) (fun c7 => ?_)
    · rw [if_neg c7] at h
      exact v_KX1_count_229 hG hH hk199 h
    · rw [if_pos c7] at h
      refine vv_iload_n dX1_count_223 rfl 1 rfl ?_
      refine vv_iconst (v := (nI 1)) dX1_count_224 (by decide) ?_
      refine vv_iload_n dX1_count_225 rfl 2 rfl ?_
      refine vv_ishl dX1_count_226 ?_
      refine vv_ior dX1_count_227 ?_
      refine vv_istore_n (lv' := [(0, .ref x0), (2, .int (x2 ||| ((nI 1) <<< (x3 &&& 31)))), (3, .int x3)]) dX1_count_228 rfl (by decide) [1, 0, 2] rfl ?_
      exact v_KX1_count_229 hG hH hk199 h
theorem v_KX1_count_199 {l : Launch} {G : vv_G} {d : Nat} {ad : Nat → Nat} (hG : vv_gok G) (hH : vv_hy l G ad) : ∀ (n : Nat) {x0 : Nat} {x2 : Int32} {x3 : Int32} {σ : vv_S} {r : hX (Int32 × vv_S)}, KX1_count_199 n x0 x2 x3 σ = some r → vv_V l G MX1_count (d + 9) 199 [(0, .ref x0), (2, .int x2), (3, .int x3)] [] σ (xI r) := by
  intro n
  induction n with
  | zero => intro _ _ _ _ _ h; cases h
  | succ n ih => intro _ _ _ _ _ h; exact vb_KX1_count_199 hG hH ih h
def KX1_count_189 (k161 : Nat → Int32 → Int32 → vv_S → Option (hX (Int32 × vv_S))) (x0 : Nat) (x2 : Int32) (x3 : Int32) (σ : vv_S) : Option (hX (Int32 × vv_S)) := k161 x0 x2 (x3 + (nI 1)) σ
theorem v_KX1_count_189 {l : Launch} {G : vv_G} {d : Nat} {ad : Nat → Nat} (hG : vv_gok G) (hH : vv_hy l G ad) {k161 : Nat → Int32 → Int32 → vv_S → Option (hX (Int32 × vv_S))} (hk161 : ∀ {x0 : Nat} {x2 : Int32} {x3 : Int32} {σ : vv_S} {r : hX (Int32 × vv_S)}, k161 x0 x2 x3 σ = some r → vv_V l G MX1_count (d + 9) 161 [(0, .ref x0), (2, .int x2), (3, .int x3)] [] σ (xI r)) {x0 : Nat} {x2 : Int32} {x3 : Int32} {σ : vv_S} {r : hX (Int32 × vv_S)} (h : KX1_count_189 k161 x0 x2 x3 σ = some r) : vv_V l G MX1_count (d + 9) 189 [(0, .ref x0), (2, .int x2), (3, .int x3)] [] σ (xI r) := by
  unfold KX1_count_189 at h
  refine vv_iinc (v := (x3 + (nI 1))) (lv' := [(0, .ref x0), (2, .int x2), (3, .int (x3 + (nI 1)))]) dX1_count_189 2 rfl rfl (by decide) [1, 2, 0] rfl ?_
  refine vv_goto (tgt := 161) dX1_count_192 (by decide) ?_
  exact hk161 h
def BKX1_count_161 (k161 : Nat → Int32 → Int32 → vv_S → Option (hX (Int32 × vv_S))) (x0 : Nat) (x2 : Int32) (x3 : Int32) (σ : vv_S) : Option (hX (Int32 × vv_S)) := (gR σ x0 0 1).bind fun v1 => (gI σ v1 1 3).bind fun v2 => if v2 ≤ x3 then (some (.inl (x2, σ))) else ((gR σ x0 0 2).bind fun v4 => (isO σ v4 2).bind fun _ => (KX3_goes v4 x3 σ).bind fun r5 => if r5 = 0 then (KX1_count_189 k161 x0 x2 x3 σ) else (KX1_count_189 k161 x0 (x2 ||| ((nI 1) <<< (x3 &&& 31))) x3 σ))
def KX1_count_161 : Nat → Nat → Int32 → Int32 → vv_S → Option (hX (Int32 × vv_S))
  | 0, _, _, _, _ => none
  | n + 1, x0, x2, x3, σ => BKX1_count_161 (KX1_count_161 n) x0 x2 x3 σ
theorem vb_KX1_count_161 {l : Launch} {G : vv_G} {d : Nat} {ad : Nat → Nat} (hG : vv_gok G) (hH : vv_hy l G ad) {k161 : Nat → Int32 → Int32 → vv_S → Option (hX (Int32 × vv_S))} (hk161 : ∀ {x0 : Nat} {x2 : Int32} {x3 : Int32} {σ : vv_S} {r : hX (Int32 × vv_S)}, k161 x0 x2 x3 σ = some r → vv_V l G MX1_count (d + 9) 161 [(0, .ref x0), (2, .int x2), (3, .int x3)] [] σ (xI r)) {x0 : Nat} {x2 : Int32} {x3 : Int32} {σ : vv_S} {r : hX (Int32 × vv_S)} (h : BKX1_count_161 k161 x0 x2 x3 σ = some r) : vv_V l G MX1_count (d + 9) 161 [(0, .ref x0), (2, .int x2), (3, .int x3)] [] σ (xI r) := by
  unfold BKX1_count_161 at h
  refine vv_iload_n dX1_count_161 rfl 2 rfl ?_
  refine vv_aload_n dX1_count_162 rfl 0 rfl ?_
  replace h := gR_o h; obtain ⟨v1, fv1, sv1, ev1, lv1, h⟩ := h
  refine vv_get (fl_X1_22 hG) ev1 lv1 dX1_count_163 ?_
  replace h := gI_o h; obtain ⟨v2, fv2, sv2, ev2, lv2, h⟩ := h
  refine vv_getM (fl_X1_104 hH) ev2 lv2 dX1_count_166 ?_
  refine vv_icmp_ge (tgt := 195) dX1_count_169 (by decide) (fun c3 => ?_) (fun c3 => ?_)
  · rw [if_pos c3] at h
    refine vv_iload_n dX1_count_195 rfl 1 rfl ?_
    cases h
    exact vv_iret rfl dX1_count_196
  · rw [if_neg c3] at h
    refine vv_aload_n dX1_count_172 rfl 0 rfl ?_
    replace h := gR_o h; obtain ⟨v4, fv4, sv4, ev4, lv4, h⟩ := h
    refine vv_get (fl_X1_31 hG) ev4 lv4 dX1_count_173 ?_
    refine vv_iload_n dX1_count_176 rfl 2 rfl ?_
    replace h := isO_o h; obtain ⟨fz6, sz6, ez6, h⟩ := h
    replace h := bd_o h; obtain ⟨r5, er5, h⟩ := h
    refine vv_callV ok_X3_goes q658 (m_KX3_goes hG hH er5 d) rfl (by omega) ⟨_, _, _, _, _, ez6, by rw [hG.1]; rfl⟩ rfl rfl (Nat.le_of_ble_eq_true rfl) dX1_count_177 ?_
    refine vv_if_eq (tgt := 189) dX1_count_180 (by decide) (fun c7 => ?_) (fun c7 => ?_)
    · rw [if_pos c7] at h
      exact v_KX1_count_189 hG hH hk161 h
    · rw [if_neg c7] at h
      refine vv_iload_n dX1_count_183 rfl 1 rfl ?_
      refine vv_iconst (v := (nI 1)) dX1_count_184 (by decide) ?_
      refine vv_iload_n dX1_count_185 rfl 2 rfl ?_
      refine vv_ishl dX1_count_186 ?_
      refine vv_ior dX1_count_187 ?_
      refine vv_istore_n (lv' := [(0, .ref x0), (2, .int (x2 ||| ((nI 1) <<< (x3 &&& 31)))), (3, .int x3)]) dX1_count_188 rfl (by decide) [1, 0, 2] rfl ?_
      exact v_KX1_count_189 hG hH hk161 h
theorem v_KX1_count_161 {l : Launch} {G : vv_G} {d : Nat} {ad : Nat → Nat} (hG : vv_gok G) (hH : vv_hy l G ad) : ∀ (n : Nat) {x0 : Nat} {x2 : Int32} {x3 : Int32} {σ : vv_S} {r : hX (Int32 × vv_S)}, KX1_count_161 n x0 x2 x3 σ = some r → vv_V l G MX1_count (d + 9) 161 [(0, .ref x0), (2, .int x2), (3, .int x3)] [] σ (xI r) := by
  intro n
  induction n with
  | zero => intro _ _ _ _ _ h; cases h
  | succ n ih => intro _ _ _ _ _ h; exact vb_KX1_count_161 hG hH ih h
def KX1_count (x0 : Nat) (x1 : Int32) (σ : vv_S) : Option (hX (Int32 × vv_S)) := if x1 = (nI 0) then ((gR σ x0 0 1).bind fun v2 => (isO σ v2 1).bind fun _ => (KX2_towns v2 σ).bind fun r3 => some (.inl (r3, σ))) else if x1 = (nI 1) then ((gR σ x0 0 1).bind fun v6 => (gR σ v6 1 2).bind fun v7 => (isO σ v7 11).bind fun _ => (KJ2_size v7 σ).bind fun r8 => some (.inl (r8, σ))) else if x1 = (nI 2) then ((gR σ x0 0 1).bind fun v11 => (gI σ v11 1 3).bind fun v12 => some (.inl (v12, σ))) else if x1 = (nI 3) then ((gR σ x0 0 2).bind fun v14 => (gI σ v14 2 9).bind fun v15 => some (.inl (v15, σ))) else if x1 = (nI 4) then ((gR σ x0 0 2).bind fun v17 => (gR σ x0 0 2).bind fun v18 => (gR σ v18 2 0).bind fun v19 => (isO σ v17 2).bind fun _ => (KX3_sum v17 v19 σ).bind fun r20 => some (.inl (r20, σ))) else if x1 = (nI 5) then ((gR σ x0 0 2).bind fun v23 => (gR σ x0 0 2).bind fun v24 => (gR σ v24 2 1).bind fun v25 => (isO σ v23 2).bind fun _ => (KX3_sum v23 v25 σ).bind fun r26 => some (.inl (r26, σ))) else if x1 = (nI 6) then ((gR σ x0 0 2).bind fun v29 => (gR σ x0 0 2).bind fun v30 => (gR σ v30 2 2).bind fun v31 => (isO σ v29 2).bind fun _ => (KX3_sum v29 v31 σ).bind fun r32 => some (.inl (r32, σ))) else if x1 = (nI 7) then ((gR σ x0 0 2).bind fun v35 => (isO σ v35 2).bind fun _ => (KX3_lying v35 (-1) σ).bind fun r36 => some (.inl (r36, σ))) else if x1 = (nI 8) then (KX1_count_161 NN x0 (nI 0) (nI 0) σ) else if x1 = (nI 9) then (KX1_count_199 NN x0 (nI 0) (nI 0) σ) else if x1 = (nI 10) then ((gR σ x0 0 7).bind fun v41 => (isO σ v41 11).bind fun _ => (KJ2_size v41 σ).bind fun r42 => some (.inl (r42, σ))) else if x1 = (nI 11) then ((gR σ x0 0 8).bind fun v45 => (isO σ v45 11).bind fun _ => (KJ2_size v45 σ).bind fun r46 => some (.inl (r46, σ))) else if x1 = (nI 12) then ((gI σ x0 0 4).bind fun v49 => some (.inl (v49, σ))) else ((KX1_in x1 (nI 13) (nI 15)).bind fun r50 => (KX1_found r50 σ).bind fun r51 => xb r51 fun r52 => (gR r52 x0 0 6).bind fun v53 => (aI r52 .int v53 (x1 - (nI 13))).bind fun v54 => some (.inl (v54, r52)))
theorem v_KX1_count_0 {l : Launch} {G : vv_G} {d : Nat} {ad : Nat → Nat} (hG : vv_gok G) (hH : vv_hy l G ad) {x0 : Nat} {x1 : Int32} {σ : vv_S} {r : hX (Int32 × vv_S)} (h : KX1_count x0 x1 σ = some r) : vv_V l G MX1_count (d + 9) 0 [(0, .ref x0), (1, .int x1)] [] σ (xI r) := by
  unfold KX1_count at h
  refine vv_iconst (v := (nI 0)) dX1_count_0 (by decide) ?_
  refine vv_istore_n (lv' := [(0, .ref x0), (1, .int x1), (2, .int (nI 0))]) dX1_count_1 rfl (by decide) [1, 2, 0] rfl ?_
  refine vv_iload_n dX1_count_2 rfl 1 rfl ?_
  by_cases c1 : x1 = (nI 0)
  · rw [if_pos c1] at h
    refine vv_tableIn (tgt := 68) dX1_count_3 (by rw [c1]; decide) (by rw [c1]; decide) (by rw [c1]; rfl) (by decide) ?_
    refine vv_aload_n dX1_count_68 rfl 0 rfl ?_
    replace h := gR_o h; obtain ⟨v2, fv2, sv2, ev2, lv2, h⟩ := h
    refine vv_get (fl_X1_22 hG) ev2 lv2 dX1_count_69 ?_
    replace h := isO_o h; obtain ⟨fz4, sz4, ez4, h⟩ := h
    replace h := bd_o h; obtain ⟨r3, er3, h⟩ := h
    refine vv_callV ok_X2_towns q638 (m_KX2_towns hG hH er3 d) rfl (by omega) ⟨_, _, _, _, _, ez4, by rw [hG.1]; rfl⟩ rfl rfl (Nat.le_of_ble_eq_true rfl) dX1_count_72 ?_
    cases h
    exact vv_iret rfl dX1_count_75
  rw [if_neg c1] at h
  by_cases c5 : x1 = (nI 1)
  · rw [if_pos c5] at h
    refine vv_tableIn (tgt := 76) dX1_count_3 (by rw [c5]; decide) (by rw [c5]; decide) (by rw [c5]; rfl) (by decide) ?_
    refine vv_aload_n dX1_count_76 rfl 0 rfl ?_
    replace h := gR_o h; obtain ⟨v6, fv6, sv6, ev6, lv6, h⟩ := h
    refine vv_get (fl_X1_22 hG) ev6 lv6 dX1_count_77 ?_
    replace h := gR_o h; obtain ⟨v7, fv7, sv7, ev7, lv7, h⟩ := h
    refine vv_getM (fl_X1_96 hH) ev7 lv7 dX1_count_80 ?_
    replace h := isO_o h; obtain ⟨fz9, sz9, ez9, h⟩ := h
    replace h := bd_o h; obtain ⟨r8, er8, h⟩ := h
    refine vv_callF (xx := ⟨"java/util/List", "size", "()I"⟩) okf_J2_size q426 (m_KJ2_size hG hH er8 d) rfl (by omega) ⟨_, _, _, _, _, ez9, by rw [hG.1]; rfl⟩ q429 (fun U hK => hH.1.2.2.1 U hK _ (List.mem_of_getElem? (i := 1) rfl)) ⟨by decide, by decide, by decide +kernel⟩ rfl rfl (Nat.le_of_ble_eq_true rfl) dX1_count_83 ?_
    cases h
    exact vv_iret rfl dX1_count_88
  rw [if_neg c5] at h
  by_cases c10 : x1 = (nI 2)
  · rw [if_pos c10] at h
    refine vv_tableIn (tgt := 89) dX1_count_3 (by rw [c10]; decide) (by rw [c10]; decide) (by rw [c10]; rfl) (by decide) ?_
    refine vv_aload_n dX1_count_89 rfl 0 rfl ?_
    replace h := gR_o h; obtain ⟨v11, fv11, sv11, ev11, lv11, h⟩ := h
    refine vv_get (fl_X1_22 hG) ev11 lv11 dX1_count_90 ?_
    replace h := gI_o h; obtain ⟨v12, fv12, sv12, ev12, lv12, h⟩ := h
    refine vv_getM (fl_X1_104 hH) ev12 lv12 dX1_count_93 ?_
    cases h
    exact vv_iret rfl dX1_count_96
  rw [if_neg c10] at h
  by_cases c13 : x1 = (nI 3)
  · rw [if_pos c13] at h
    refine vv_tableIn (tgt := 97) dX1_count_3 (by rw [c13]; decide) (by rw [c13]; decide) (by rw [c13]; rfl) (by decide) ?_
    refine vv_aload_n dX1_count_97 rfl 0 rfl ?_
    replace h := gR_o h; obtain ⟨v14, fv14, sv14, ev14, lv14, h⟩ := h
    refine vv_get (fl_X1_31 hG) ev14 lv14 dX1_count_98 ?_
    replace h := gI_o h; obtain ⟨v15, fv15, sv15, ev15, lv15, h⟩ := h
    refine vv_getM (fl_X1_107 hH) ev15 lv15 dX1_count_101 ?_
    cases h
    exact vv_iret rfl dX1_count_104
  rw [if_neg c13] at h
  by_cases c16 : x1 = (nI 4)
  · rw [if_pos c16] at h
    refine vv_tableIn (tgt := 105) dX1_count_3 (by rw [c16]; decide) (by rw [c16]; decide) (by rw [c16]; rfl) (by decide) ?_
    refine vv_aload_n dX1_count_105 rfl 0 rfl ?_
    replace h := gR_o h; obtain ⟨v17, fv17, sv17, ev17, lv17, h⟩ := h
    refine vv_get (fl_X1_31 hG) ev17 lv17 dX1_count_106 ?_
    refine vv_aload_n dX1_count_109 rfl 0 rfl ?_
    replace h := gR_o h; obtain ⟨v18, fv18, sv18, ev18, lv18, h⟩ := h
    refine vv_get (fl_X1_31 hG) ev18 lv18 dX1_count_110 ?_
    replace h := gR_o h; obtain ⟨v19, fv19, sv19, ev19, lv19, h⟩ := h
    refine vv_getM (fl_X1_110 hH) ev19 lv19 dX1_count_113 ?_
    replace h := isO_o h; obtain ⟨fz21, sz21, ez21, h⟩ := h
    replace h := bd_o h; obtain ⟨r20, er20, h⟩ := h
    refine vv_callV ok_X3_sum q629 (m_KX3_sum hG hH er20 d) rfl (by omega) ⟨_, _, _, _, _, ez21, by rw [hG.1]; rfl⟩ rfl rfl (Nat.le_of_ble_eq_true rfl) dX1_count_116 ?_
    cases h
    exact vv_iret rfl dX1_count_119
  rw [if_neg c16] at h
  by_cases c22 : x1 = (nI 5)
  · rw [if_pos c22] at h
    refine vv_tableIn (tgt := 120) dX1_count_3 (by rw [c22]; decide) (by rw [c22]; decide) (by rw [c22]; rfl) (by decide) ?_
    refine vv_aload_n dX1_count_120 rfl 0 rfl ?_
    replace h := gR_o h; obtain ⟨v23, fv23, sv23, ev23, lv23, h⟩ := h
    refine vv_get (fl_X1_31 hG) ev23 lv23 dX1_count_121 ?_
    refine vv_aload_n dX1_count_124 rfl 0 rfl ?_
    replace h := gR_o h; obtain ⟨v24, fv24, sv24, ev24, lv24, h⟩ := h
    refine vv_get (fl_X1_31 hG) ev24 lv24 dX1_count_125 ?_
    replace h := gR_o h; obtain ⟨v25, fv25, sv25, ev25, lv25, h⟩ := h
    refine vv_getM (fl_X1_117 hH) ev25 lv25 dX1_count_128 ?_
    replace h := isO_o h; obtain ⟨fz27, sz27, ez27, h⟩ := h
    replace h := bd_o h; obtain ⟨r26, er26, h⟩ := h
    refine vv_callV ok_X3_sum q629 (m_KX3_sum hG hH er26 d) rfl (by omega) ⟨_, _, _, _, _, ez27, by rw [hG.1]; rfl⟩ rfl rfl (Nat.le_of_ble_eq_true rfl) dX1_count_131 ?_
    cases h
    exact vv_iret rfl dX1_count_134
  rw [if_neg c22] at h
  by_cases c28 : x1 = (nI 6)
  · rw [if_pos c28] at h
    refine vv_tableIn (tgt := 135) dX1_count_3 (by rw [c28]; decide) (by rw [c28]; decide) (by rw [c28]; rfl) (by decide) ?_
    refine vv_aload_n dX1_count_135 rfl 0 rfl ?_
    replace h := gR_o h; obtain ⟨v29, fv29, sv29, ev29, lv29, h⟩ := h
    refine vv_get (fl_X1_31 hG) ev29 lv29 dX1_count_136 ?_
    refine vv_aload_n dX1_count_139 rfl 0 rfl ?_
    replace h := gR_o h; obtain ⟨v30, fv30, sv30, ev30, lv30, h⟩ := h
    refine vv_get (fl_X1_31 hG) ev30 lv30 dX1_count_140 ?_
    replace h := gR_o h; obtain ⟨v31, fv31, sv31, ev31, lv31, h⟩ := h
    refine vv_getM (fl_X1_120 hH) ev31 lv31 dX1_count_143 ?_
    replace h := isO_o h; obtain ⟨fz33, sz33, ez33, h⟩ := h
    replace h := bd_o h; obtain ⟨r32, er32, h⟩ := h
    refine vv_callV ok_X3_sum q629 (m_KX3_sum hG hH er32 d) rfl (by omega) ⟨_, _, _, _, _, ez33, by rw [hG.1]; rfl⟩ rfl rfl (Nat.le_of_ble_eq_true rfl) dX1_count_146 ?_
    cases h
    exact vv_iret rfl dX1_count_149
  rw [if_neg c28] at h
  by_cases c34 : x1 = (nI 7)
  · rw [if_pos c34] at h
    refine vv_tableIn (tgt := 150) dX1_count_3 (by rw [c34]; decide) (by rw [c34]; decide) (by rw [c34]; rfl) (by decide) ?_
    refine vv_aload_n dX1_count_150 rfl 0 rfl ?_
    replace h := gR_o h; obtain ⟨v35, fv35, sv35, ev35, lv35, h⟩ := h
    refine vv_get (fl_X1_31 hG) ev35 lv35 dX1_count_151 ?_
    refine vv_iconst (v := (-1)) dX1_count_154 (by decide) ?_
    replace h := isO_o h; obtain ⟨fz37, sz37, ez37, h⟩ := h
    replace h := bd_o h; obtain ⟨r36, er36, h⟩ := h
    refine vv_callV ok_X3_lying q1247 (m_KX3_lying hG hH er36 d) rfl (by omega) ⟨_, _, _, _, _, ez37, by rw [hG.1]; rfl⟩ rfl rfl (Nat.le_of_ble_eq_true rfl) dX1_count_155 ?_
    cases h
    exact vv_iret rfl dX1_count_158
  rw [if_neg c34] at h
  by_cases c38 : x1 = (nI 8)
  · rw [if_pos c38] at h
    refine vv_tableIn (tgt := 159) dX1_count_3 (by rw [c38]; decide) (by rw [c38]; decide) (by rw [c38]; rfl) (by decide) ?_
    refine vv_iconst (v := (nI 0)) dX1_count_159 (by decide) ?_
    refine vv_istore_n (lv' := [(0, .ref x0), (1, .int x1), (2, .int (nI 0)), (3, .int (nI 0))]) dX1_count_160 rfl (by decide) [1, 2, 3, 0] rfl ?_
    refine vv_sub (lv' := [(0, .ref x0), (2, .int (nI 0)), (3, .int (nI 0))]) [0, 2, 3] rfl ?_
    exact v_KX1_count_161 hG hH NN h
  rw [if_neg c38] at h
  by_cases c39 : x1 = (nI 9)
  · rw [if_pos c39] at h
    refine vv_tableIn (tgt := 197) dX1_count_3 (by rw [c39]; decide) (by rw [c39]; decide) (by rw [c39]; rfl) (by decide) ?_
    refine vv_iconst (v := (nI 0)) dX1_count_197 (by decide) ?_
    refine vv_istore_n (lv' := [(0, .ref x0), (1, .int x1), (2, .int (nI 0)), (3, .int (nI 0))]) dX1_count_198 rfl (by decide) [1, 2, 3, 0] rfl ?_
    refine vv_sub (lv' := [(0, .ref x0), (2, .int (nI 0)), (3, .int (nI 0))]) [0, 2, 3] rfl ?_
    exact v_KX1_count_199 hG hH NN h
  rw [if_neg c39] at h
  by_cases c40 : x1 = (nI 10)
  · rw [if_pos c40] at h
    refine vv_tableIn (tgt := 237) dX1_count_3 (by rw [c40]; decide) (by rw [c40]; decide) (by rw [c40]; rfl) (by decide) ?_
    refine vv_aload_n dX1_count_237 rfl 0 rfl ?_
    replace h := gR_o h; obtain ⟨v41, fv41, sv41, ev41, lv41, h⟩ := h
    refine vv_get (fl_X1_49 hG) ev41 lv41 dX1_count_238 ?_
    replace h := isO_o h; obtain ⟨fz43, sz43, ez43, h⟩ := h
    replace h := bd_o h; obtain ⟨r42, er42, h⟩ := h
    refine vv_callF (xx := ⟨"java/util/List", "size", "()I"⟩) okf_J2_size q426 (m_KJ2_size hG hH er42 d) rfl (by omega) ⟨_, _, _, _, _, ez43, by rw [hG.1]; rfl⟩ q429 (fun U hK => hH.1.2.2.1 U hK _ (List.mem_of_getElem? (i := 1) rfl)) ⟨by decide, by decide, by decide +kernel⟩ rfl rfl (Nat.le_of_ble_eq_true rfl) dX1_count_241 ?_
    cases h
    exact vv_iret rfl dX1_count_246
  rw [if_neg c40] at h
  by_cases c44 : x1 = (nI 11)
  · rw [if_pos c44] at h
    refine vv_tableIn (tgt := 247) dX1_count_3 (by rw [c44]; decide) (by rw [c44]; decide) (by rw [c44]; rfl) (by decide) ?_
    refine vv_aload_n dX1_count_247 rfl 0 rfl ?_
    replace h := gR_o h; obtain ⟨v45, fv45, sv45, ev45, lv45, h⟩ := h
    refine vv_get (fl_X1_53 hG) ev45 lv45 dX1_count_248 ?_
    replace h := isO_o h; obtain ⟨fz47, sz47, ez47, h⟩ := h
    replace h := bd_o h; obtain ⟨r46, er46, h⟩ := h
    refine vv_callF (xx := ⟨"java/util/List", "size", "()I"⟩) okf_J2_size q426 (m_KJ2_size hG hH er46 d) rfl (by omega) ⟨_, _, _, _, _, ez47, by rw [hG.1]; rfl⟩ q429 (fun U hK => hH.1.2.2.1 U hK _ (List.mem_of_getElem? (i := 1) rfl)) ⟨by decide, by decide, by decide +kernel⟩ rfl rfl (Nat.le_of_ble_eq_true rfl) dX1_count_251 ?_
    cases h
    exact vv_iret rfl dX1_count_256
  rw [if_neg c44] at h
  by_cases c48 : x1 = (nI 12)
  · rw [if_pos c48] at h
    refine vv_tableIn (tgt := 257) dX1_count_3 (by rw [c48]; decide) (by rw [c48]; decide) (by rw [c48]; rfl) (by decide) ?_
    refine vv_aload_n dX1_count_257 rfl 0 rfl ?_
    replace h := gI_o h; obtain ⟨v49, fv49, sv49, ev49, lv49, h⟩ := h
    refine vv_get (fl_X1_62 hG) ev49 lv49 dX1_count_258 ?_
    cases h
    exact vv_iret rfl dX1_count_261
  rw [if_neg c48] at h
  have tc1 : ¬ (x1).toInt = 0 := fun hh => c1 (Int32.toInt_inj.mp (hh.trans (by decide)))
  have tc5 : ¬ (x1).toInt = 1 := fun hh => c5 (Int32.toInt_inj.mp (hh.trans (by decide)))
  have tc10 : ¬ (x1).toInt = 2 := fun hh => c10 (Int32.toInt_inj.mp (hh.trans (by decide)))
  have tc13 : ¬ (x1).toInt = 3 := fun hh => c13 (Int32.toInt_inj.mp (hh.trans (by decide)))
  have tc16 : ¬ (x1).toInt = 4 := fun hh => c16 (Int32.toInt_inj.mp (hh.trans (by decide)))
  have tc22 : ¬ (x1).toInt = 5 := fun hh => c22 (Int32.toInt_inj.mp (hh.trans (by decide)))
  have tc28 : ¬ (x1).toInt = 6 := fun hh => c28 (Int32.toInt_inj.mp (hh.trans (by decide)))
  have tc34 : ¬ (x1).toInt = 7 := fun hh => c34 (Int32.toInt_inj.mp (hh.trans (by decide)))
  have tc38 : ¬ (x1).toInt = 8 := fun hh => c38 (Int32.toInt_inj.mp (hh.trans (by decide)))
  have tc39 : ¬ (x1).toInt = 9 := fun hh => c39 (Int32.toInt_inj.mp (hh.trans (by decide)))
  have tc40 : ¬ (x1).toInt = 10 := fun hh => c40 (Int32.toInt_inj.mp (hh.trans (by decide)))
  have tc44 : ¬ (x1).toInt = 11 := fun hh => c44 (Int32.toInt_inj.mp (hh.trans (by decide)))
  have tc48 : ¬ (x1).toInt = 12 := fun hh => c48 (Int32.toInt_inj.mp (hh.trans (by decide)))
  refine vv_tableOut (tgt := 262) dX1_count_3 (by omega) (by decide) ?_
  refine vv_iload_n dX1_count_262 rfl 1 rfl ?_
  refine vv_bipush (v := (nI 13)) dX1_count_263 (by decide) ?_
  refine vv_bipush (v := (nI 15)) dX1_count_265 (by decide) ?_
  replace h := bd_o h; obtain ⟨r50, er50, h⟩ := h
  refine vv_callS ok_X1_in q335 (m_KX1_in hG hH er50 d) rfl (by omega) rfl rfl (Nat.le_of_ble_eq_true rfl) dX1_count_267 ?_
  replace h := bd_o h; obtain ⟨r51, er51, h⟩ := h
  rcases r51 with r52 | r52x
  · refine vv_callS ok_X1_found q1248 (m_KX1_found hG hH er51 d) rfl (by omega) rfl rfl (Nat.le_of_ble_eq_true rfl) dX1_count_270 ?_
    replace h := xb_l h
    refine vv_aload_n dX1_count_273 rfl 0 rfl ?_
    replace h := gR_o h; obtain ⟨v53, fv53, sv53, ev53, lv53, h⟩ := h
    refine vv_get (fl_X1_43 hG) ev53 lv53 dX1_count_274 ?_
    refine vv_iload_n dX1_count_277 rfl 1 rfl ?_
    refine vv_bipush (v := (nI 13)) dX1_count_278 (by decide) ?_
    refine vv_isub dX1_count_280 ?_
    replace h := aI_o h; obtain ⟨v54, fv54, nv54, qv54, ev54, iv54, wv54, h⟩ := h
    refine vv_iald ev54 iv54 dX1_count_281 ?_
    rw [wv54]
    cases h
    exact vv_iret rfl dX1_count_282
  · cases h
    exact vv_callSX ok_X1_found q1248 (m_KX1_found hG hH er51 d) rfl (by omega) rfl rfl (Nat.le_of_ble_eq_true rfl) dX1_count_270 (vv_Tout (by intro x hx; cases hx))
theorem m_KX1_count {l : Launch} {G : vv_G} {ad : Nat → Nat} (hG : vv_gok G) (hH : vv_hy l G ad) {x0 : Nat} {x1 : Int32} {σ : vv_S} {r : hX (Int32 × vv_S)} (h : KX1_count x0 x1 σ = some r) (d : Nat) : vv_Met l G MX1_count (d + 9) [.ref x0, .int x1] σ (xI r) := vv_head (by decide +kernel) rfl (Nat.le_of_ble_eq_true rfl) rfl (v_KX1_count_0 hG hH h)
/-! ('X1', 'aTown') -/
def KX1_aTown (x0 : Nat) (x1 : Int32) (σ : vv_S) : Option (hX vv_S) := (gR σ x0 0 1).bind fun v1 => (isO σ v1 1).bind fun _ => (KX2_towns v1 σ).bind fun r2 => (KX1_in x1 (nI 0) (r2 - (nI 1))).bind fun r4 => (KX1_found r4 σ).bind fun r5 => xb r5 fun r6 => some (.inl r6)
theorem v_KX1_aTown_0 {l : Launch} {G : vv_G} {d : Nat} {ad : Nat → Nat} (hG : vv_gok G) (hH : vv_hy l G ad) {x0 : Nat} {x1 : Int32} {σ : vv_S} {r : hX vv_S} (h : KX1_aTown x0 x1 σ = some r) : vv_V l G MX1_aTown (d + 9) 0 [(0, .ref x0), (1, .int x1)] [] σ (xU r) := by
  unfold KX1_aTown at h
  refine vv_iload_n dX1_aTown_0 rfl 1 rfl ?_
  refine vv_iconst (v := (nI 0)) dX1_aTown_1 (by decide) ?_
  refine vv_aload_n dX1_aTown_2 rfl 0 rfl ?_
  replace h := gR_o h; obtain ⟨v1, fv1, sv1, ev1, lv1, h⟩ := h
  refine vv_get (fl_X1_22 hG) ev1 lv1 dX1_aTown_3 ?_
  replace h := isO_o h; obtain ⟨fz3, sz3, ez3, h⟩ := h
  replace h := bd_o h; obtain ⟨r2, er2, h⟩ := h
  refine vv_callV ok_X2_towns q638 (m_KX2_towns hG hH er2 d) rfl (by omega) ⟨_, _, _, _, _, ez3, by rw [hG.1]; rfl⟩ rfl rfl (Nat.le_of_ble_eq_true rfl) dX1_aTown_6 ?_
  refine vv_iconst (v := (nI 1)) dX1_aTown_9 (by decide) ?_
  refine vv_isub dX1_aTown_10 ?_
  replace h := bd_o h; obtain ⟨r4, er4, h⟩ := h
  refine vv_callS ok_X1_in q335 (m_KX1_in hG hH er4 d) rfl (by omega) rfl rfl (Nat.le_of_ble_eq_true rfl) dX1_aTown_11 ?_
  replace h := bd_o h; obtain ⟨r5, er5, h⟩ := h
  rcases r5 with r6 | r6x
  · refine vv_callS ok_X1_found q1248 (m_KX1_found hG hH er5 d) rfl (by omega) rfl rfl (Nat.le_of_ble_eq_true rfl) dX1_aTown_14 ?_
    replace h := xb_l h
    cases h
    exact vv_vret rfl dX1_aTown_17
  · cases h
    exact vv_callSX ok_X1_found q1248 (m_KX1_found hG hH er5 d) rfl (by omega) rfl rfl (Nat.le_of_ble_eq_true rfl) dX1_aTown_14 (vv_Tout (by intro x hx; cases hx))
theorem m_KX1_aTown {l : Launch} {G : vv_G} {ad : Nat → Nat} (hG : vv_gok G) (hH : vv_hy l G ad) {x0 : Nat} {x1 : Int32} {σ : vv_S} {r : hX vv_S} (h : KX1_aTown x0 x1 σ = some r) (d : Nat) : vv_Met l G MX1_aTown (d + 9) [.ref x0, .int x1] σ (xU r) := vv_head (by decide +kernel) rfl (Nat.le_of_ble_eq_true rfl) rfl (v_KX1_aTown_0 hG hH h)
/-! ('X1', 'town') -/
def KX1_town_134 (fo : Nat → Nat → vv_S → Option Int32) (s0 : Int32) (x0 : Nat) (x1 : Int32) (σ : vv_S) : Option (hX (Int32 × vv_S)) := (KX1_found s0 σ).bind fun r1 => xb r1 fun r2 => (gR r2 x0 0 2).bind fun v3 => (isO r2 v3 2).bind fun _ => (KX3_lying v3 x1 r2).bind fun r4 => some (.inl (r4, r2))
theorem v_KX1_town_134 {l : Launch} {G : vv_G} {d : Nat} {ad : Nat → Nat} {fo : Nat → Nat → vv_S → Option Int32} (hG : vv_gok G) (hH : vv_hy l G ad) (hfo : ∀ {a vs : Nat} {σ : vv_S} {r : Int32}, fo a vs σ = some r → vv_Form l G d a vs σ r) {s0 : Int32} {x0 : Nat} {x1 : Int32} {σ : vv_S} {r : hX (Int32 × vv_S)} (h : KX1_town_134 fo s0 x0 x1 σ = some r) : vv_V l G MX1_town (d + 10) 134 [(0, .ref x0), (1, .int x1)] [.int s0] σ (xI r) := by
  unfold KX1_town_134 at h
  replace h := bd_o h; obtain ⟨r1, er1, h⟩ := h
  rcases r1 with r2 | r2x
  · refine vv_callS ok_X1_found q1248 (m_KX1_found hG hH er1 d) rfl (by omega) rfl rfl (Nat.le_of_ble_eq_true rfl) dX1_town_134 ?_
    replace h := xb_l h
    refine vv_aload_n dX1_town_137 rfl 0 rfl ?_
    replace h := gR_o h; obtain ⟨v3, fv3, sv3, ev3, lv3, h⟩ := h
    refine vv_get (fl_X1_31 hG) ev3 lv3 dX1_town_138 ?_
    refine vv_iload_n dX1_town_141 rfl 1 rfl ?_
    replace h := isO_o h; obtain ⟨fz5, sz5, ez5, h⟩ := h
    replace h := bd_o h; obtain ⟨r4, er4, h⟩ := h
    refine vv_callV ok_X3_lying q1247 (m_KX3_lying hG hH er4 d) rfl (by omega) ⟨_, _, _, _, _, ez5, by rw [hG.1]; rfl⟩ rfl rfl (Nat.le_of_ble_eq_true rfl) dX1_town_142 ?_
    cases h
    exact vv_iret rfl dX1_town_145
  · cases h
    exact vv_callSX ok_X1_found q1248 (m_KX1_found hG hH er1 d) rfl (by omega) rfl rfl (Nat.le_of_ble_eq_true rfl) dX1_town_134 (vv_Tout (by intro x hx; cases hx))
def KX1_town (fo : Nat → Nat → vv_S → Option Int32) (x0 : Nat) (x1 : Int32) (x2 : Int32) (σ : vv_S) : Option (hX (Int32 × vv_S)) := (isO σ x0 0).bind fun _ => (KX1_aTown x0 x1 σ).bind fun r1 => xb r1 fun r3 => if x2 = (nI 0) then ((gR r3 x0 0 2).bind fun v5 => (gR r3 v5 2 0).bind fun v6 => (aI r3 .int v6 x1).bind fun v7 => some (.inl (v7, r3))) else if x2 = (nI 1) then ((gR r3 x0 0 2).bind fun v9 => (gR r3 v9 2 1).bind fun v10 => (aI r3 .int v10 x1).bind fun v11 => some (.inl (v11, r3))) else if x2 = (nI 2) then ((gR r3 x0 0 1).bind fun v13 => (gR r3 v13 1 0).bind fun v14 => (isO r3 v14 11).bind fun _ => (KJ2_get v14 x1 r3).bind fun r15 => (isO r3 r15 12).bind fun _ => (isO r3 r15 12).bind fun _ => (KJ14_intValue r15 r3).bind fun r18 => some (.inl (r18, r3))) else if x2 = (nI 3) then ((gR r3 x0 0 1).bind fun v21 => (gR r3 v21 1 1).bind fun v22 => (isO r3 v22 11).bind fun _ => (KJ2_get v22 x1 r3).bind fun r23 => (isO r3 r23 12).bind fun _ => (isO r3 r23 12).bind fun _ => (KJ14_intValue r23 r3).bind fun r26 => some (.inl (r26, r3))) else if x2 = (nI 4) then ((gR r3 x0 0 2).bind fun v29 => (gR r3 v29 2 2).bind fun v30 => (aI r3 .int v30 x1).bind fun v31 => some (.inl (v31, r3))) else if x2 = (nI 5) then ((gR r3 x0 0 2).bind fun v33 => (isO r3 v33 2).bind fun _ => (KX3_odds fo v33 x1 r3).bind fun r34 => some (.inl (r34.1, r34.2))) else (if x2 = (nI 6) then (KX1_town_134 fo (nI 1) x0 x1 r3) else (KX1_town_134 fo (nI 0) x0 x1 r3))
theorem v_KX1_town_0 {l : Launch} {G : vv_G} {d : Nat} {ad : Nat → Nat} {fo : Nat → Nat → vv_S → Option Int32} (hG : vv_gok G) (hH : vv_hy l G ad) (hfo : ∀ {a vs : Nat} {σ : vv_S} {r : Int32}, fo a vs σ = some r → vv_Form l G d a vs σ r) {x0 : Nat} {x1 : Int32} {x2 : Int32} {σ : vv_S} {r : hX (Int32 × vv_S)} (h : KX1_town fo x0 x1 x2 σ = some r) : vv_V l G MX1_town (d + 10) 0 [(0, .ref x0), (1, .int x1), (2, .int x2)] [] σ (xI r) := by
  unfold KX1_town at h
  refine vv_aload_n dX1_town_0 rfl 0 rfl ?_
  refine vv_iload_n dX1_town_1 rfl 1 rfl ?_
  replace h := isO_o h; obtain ⟨fz2, sz2, ez2, h⟩ := h
  replace h := bd_o h; obtain ⟨r1, er1, h⟩ := h
  rcases r1 with r3 | r3x
  · refine vv_callV ok_X1_aTown q1273 (m_KX1_aTown hG hH er1 d) rfl (by omega) ⟨_, _, _, _, _, ez2, by rw [hG.1]; rfl⟩ rfl rfl (Nat.le_of_ble_eq_true rfl) dX1_town_2 ?_
    replace h := xb_l h
    refine vv_iload_n dX1_town_5 rfl 2 rfl ?_
    by_cases c4 : x2 = (nI 0)
    · rw [if_pos c4] at h
      refine vv_tableIn (tgt := 44) dX1_town_6 (by rw [c4]; decide) (by rw [c4]; decide) (by rw [c4]; rfl) (by decide) ?_
      refine vv_aload_n dX1_town_44 rfl 0 rfl ?_
      replace h := gR_o h; obtain ⟨v5, fv5, sv5, ev5, lv5, h⟩ := h
      refine vv_get (fl_X1_31 hG) ev5 lv5 dX1_town_45 ?_
      replace h := gR_o h; obtain ⟨v6, fv6, sv6, ev6, lv6, h⟩ := h
      refine vv_getM (fl_X1_110 hH) ev6 lv6 dX1_town_48 ?_
      refine vv_iload_n dX1_town_51 rfl 1 rfl ?_
      replace h := aI_o h; obtain ⟨v7, fv7, nv7, qv7, ev7, iv7, wv7, h⟩ := h
      refine vv_iald ev7 iv7 dX1_town_52 ?_
      rw [wv7]
      cases h
      exact vv_iret rfl dX1_town_53
    rw [if_neg c4] at h
    by_cases c8 : x2 = (nI 1)
    · rw [if_pos c8] at h
      refine vv_tableIn (tgt := 54) dX1_town_6 (by rw [c8]; decide) (by rw [c8]; decide) (by rw [c8]; rfl) (by decide) ?_
      refine vv_aload_n dX1_town_54 rfl 0 rfl ?_
      replace h := gR_o h; obtain ⟨v9, fv9, sv9, ev9, lv9, h⟩ := h
      refine vv_get (fl_X1_31 hG) ev9 lv9 dX1_town_55 ?_
      replace h := gR_o h; obtain ⟨v10, fv10, sv10, ev10, lv10, h⟩ := h
      refine vv_getM (fl_X1_117 hH) ev10 lv10 dX1_town_58 ?_
      refine vv_iload_n dX1_town_61 rfl 1 rfl ?_
      replace h := aI_o h; obtain ⟨v11, fv11, nv11, qv11, ev11, iv11, wv11, h⟩ := h
      refine vv_iald ev11 iv11 dX1_town_62 ?_
      rw [wv11]
      cases h
      exact vv_iret rfl dX1_town_63
    rw [if_neg c8] at h
    by_cases c12 : x2 = (nI 2)
    · rw [if_pos c12] at h
      refine vv_tableIn (tgt := 64) dX1_town_6 (by rw [c12]; decide) (by rw [c12]; decide) (by rw [c12]; rfl) (by decide) ?_
      refine vv_aload_n dX1_town_64 rfl 0 rfl ?_
      replace h := gR_o h; obtain ⟨v13, fv13, sv13, ev13, lv13, h⟩ := h
      refine vv_get (fl_X1_22 hG) ev13 lv13 dX1_town_65 ?_
      replace h := gR_o h; obtain ⟨v14, fv14, sv14, ev14, lv14, h⟩ := h
      refine vv_getM (fl_X1_145 hH) ev14 lv14 dX1_town_68 ?_
      refine vv_iload_n dX1_town_71 rfl 1 rfl ?_
      replace h := isO_o h; obtain ⟨fz16, sz16, ez16, h⟩ := h
      replace h := bd_o h; obtain ⟨r15, er15, h⟩ := h
      refine vv_callF (xx := ⟨"java/util/List", "get", "(I)Ljava/lang/Object;"⟩) okf_J2_get q1278 (m_KJ2_get hG hH er15 d) rfl (by omega) ⟨_, _, _, _, _, ez16, by rw [hG.1]; rfl⟩ q481 (fun U hK => hH.1.2.2.1 U hK _ (List.mem_of_getElem? (i := 3) rfl)) ⟨by decide, by decide, by decide +kernel⟩ rfl rfl (Nat.le_of_ble_eq_true rfl) dX1_town_72 ?_
      replace h := isO_o h; obtain ⟨fz17, sz17, ez17, h⟩ := h
      refine vv_cast ez17 ⟨_, _, by rw [hG.1]; rfl⟩ q1279 (Or.inl rfl) dX1_town_77 ?_
      replace h := isO_o h; obtain ⟨fz19, sz19, ez19, h⟩ := h
      replace h := bd_o h; obtain ⟨r18, er18, h⟩ := h
      refine vv_callV ok_J14_intValue q1280 (m_KJ14_intValue hG hH er18 d) rfl (by omega) ⟨_, _, _, _, _, ez19, by rw [hG.1]; rfl⟩ rfl rfl (Nat.le_of_ble_eq_true rfl) dX1_town_80 ?_
      cases h
      exact vv_iret rfl dX1_town_83
    rw [if_neg c12] at h
    by_cases c20 : x2 = (nI 3)
    · rw [if_pos c20] at h
      refine vv_tableIn (tgt := 84) dX1_town_6 (by rw [c20]; decide) (by rw [c20]; decide) (by rw [c20]; rfl) (by decide) ?_
      refine vv_aload_n dX1_town_84 rfl 0 rfl ?_
      replace h := gR_o h; obtain ⟨v21, fv21, sv21, ev21, lv21, h⟩ := h
      refine vv_get (fl_X1_22 hG) ev21 lv21 dX1_town_85 ?_
      replace h := gR_o h; obtain ⟨v22, fv22, sv22, ev22, lv22, h⟩ := h
      refine vv_getM (fl_X1_157 hH) ev22 lv22 dX1_town_88 ?_
      refine vv_iload_n dX1_town_91 rfl 1 rfl ?_
      replace h := isO_o h; obtain ⟨fz24, sz24, ez24, h⟩ := h
      replace h := bd_o h; obtain ⟨r23, er23, h⟩ := h
      refine vv_callF (xx := ⟨"java/util/List", "get", "(I)Ljava/lang/Object;"⟩) okf_J2_get q1278 (m_KJ2_get hG hH er23 d) rfl (by omega) ⟨_, _, _, _, _, ez24, by rw [hG.1]; rfl⟩ q481 (fun U hK => hH.1.2.2.1 U hK _ (List.mem_of_getElem? (i := 3) rfl)) ⟨by decide, by decide, by decide +kernel⟩ rfl rfl (Nat.le_of_ble_eq_true rfl) dX1_town_92 ?_
      replace h := isO_o h; obtain ⟨fz25, sz25, ez25, h⟩ := h
      refine vv_cast ez25 ⟨_, _, by rw [hG.1]; rfl⟩ q1279 (Or.inl rfl) dX1_town_97 ?_
      replace h := isO_o h; obtain ⟨fz27, sz27, ez27, h⟩ := h
      replace h := bd_o h; obtain ⟨r26, er26, h⟩ := h
      refine vv_callV ok_J14_intValue q1280 (m_KJ14_intValue hG hH er26 d) rfl (by omega) ⟨_, _, _, _, _, ez27, by rw [hG.1]; rfl⟩ rfl rfl (Nat.le_of_ble_eq_true rfl) dX1_town_100 ?_
      cases h
      exact vv_iret rfl dX1_town_103
    rw [if_neg c20] at h
    by_cases c28 : x2 = (nI 4)
    · rw [if_pos c28] at h
      refine vv_tableIn (tgt := 104) dX1_town_6 (by rw [c28]; decide) (by rw [c28]; decide) (by rw [c28]; rfl) (by decide) ?_
      refine vv_aload_n dX1_town_104 rfl 0 rfl ?_
      replace h := gR_o h; obtain ⟨v29, fv29, sv29, ev29, lv29, h⟩ := h
      refine vv_get (fl_X1_31 hG) ev29 lv29 dX1_town_105 ?_
      replace h := gR_o h; obtain ⟨v30, fv30, sv30, ev30, lv30, h⟩ := h
      refine vv_getM (fl_X1_120 hH) ev30 lv30 dX1_town_108 ?_
      refine vv_iload_n dX1_town_111 rfl 1 rfl ?_
      replace h := aI_o h; obtain ⟨v31, fv31, nv31, qv31, ev31, iv31, wv31, h⟩ := h
      refine vv_iald ev31 iv31 dX1_town_112 ?_
      rw [wv31]
      cases h
      exact vv_iret rfl dX1_town_113
    rw [if_neg c28] at h
    by_cases c32 : x2 = (nI 5)
    · rw [if_pos c32] at h
      refine vv_tableIn (tgt := 114) dX1_town_6 (by rw [c32]; decide) (by rw [c32]; decide) (by rw [c32]; rfl) (by decide) ?_
      refine vv_aload_n dX1_town_114 rfl 0 rfl ?_
      replace h := gR_o h; obtain ⟨v33, fv33, sv33, ev33, lv33, h⟩ := h
      refine vv_get (fl_X1_31 hG) ev33 lv33 dX1_town_115 ?_
      refine vv_iload_n dX1_town_118 rfl 1 rfl ?_
      replace h := isO_o h; obtain ⟨fz35, sz35, ez35, h⟩ := h
      replace h := bd_o h; obtain ⟨r34, er34, h⟩ := h
      refine vv_callV ok_X3_odds q1281 (m_KX3_odds hG hH hfo er34 d) rfl (by omega) ⟨_, _, _, _, _, ez35, by rw [hG.1]; rfl⟩ rfl rfl (Nat.le_of_ble_eq_true rfl) dX1_town_119 ?_
      cases h
      exact vv_iret rfl dX1_town_122
    rw [if_neg c32] at h
    have tc4 : ¬ (x2).toInt = 0 := fun hh => c4 (Int32.toInt_inj.mp (hh.trans (by decide)))
    have tc8 : ¬ (x2).toInt = 1 := fun hh => c8 (Int32.toInt_inj.mp (hh.trans (by decide)))
    have tc12 : ¬ (x2).toInt = 2 := fun hh => c12 (Int32.toInt_inj.mp (hh.trans (by decide)))
    have tc20 : ¬ (x2).toInt = 3 := fun hh => c20 (Int32.toInt_inj.mp (hh.trans (by decide)))
    have tc28 : ¬ (x2).toInt = 4 := fun hh => c28 (Int32.toInt_inj.mp (hh.trans (by decide)))
    have tc32 : ¬ (x2).toInt = 5 := fun hh => c32 (Int32.toInt_inj.mp (hh.trans (by decide)))
    refine vv_tableOut (tgt := 123) dX1_town_6 (by omega) (by decide) ?_
    refine vv_iload_n dX1_town_123 rfl 2 rfl ?_
    refine vv_bipush (v := (nI 6)) dX1_town_124 (by decide) ?_
    refine vv_icmp_ne (tgt := 133) dX1_town_126 (by decide) (fun c36 => ?_) (fun c36 => ?_)
    · rw [if_neg c36] at h
      refine vv_iconst (v := (nI 0)) dX1_town_133 (by decide) ?_
      refine vv_sub (lv' := [(0, .ref x0), (1, .int x1)]) [0, 1] rfl ?_
      exact v_KX1_town_134 hG hH hfo h
    · rw [if_pos c36] at h
      refine vv_iconst (v := (nI 1)) dX1_town_129 (by decide) ?_
      refine vv_goto (tgt := 134) dX1_town_130 (by decide) ?_
      refine vv_sub (lv' := [(0, .ref x0), (1, .int x1)]) [0, 1] rfl ?_
      exact v_KX1_town_134 hG hH hfo h
  · cases h
    exact vv_callVX ok_X1_aTown q1273 (m_KX1_aTown hG hH er1 d) rfl (by omega) ⟨_, _, _, _, _, ez2, by rw [hG.1]; rfl⟩ rfl rfl (Nat.le_of_ble_eq_true rfl) dX1_town_2 (vv_Tout (by intro x hx; cases hx))
theorem m_KX1_town {l : Launch} {G : vv_G} {d : Nat} {ad : Nat → Nat} {fo : Nat → Nat → vv_S → Option Int32} (hG : vv_gok G) (hH : vv_hy l G ad) (hfo : ∀ {a vs : Nat} {σ : vv_S} {r : Int32}, fo a vs σ = some r → vv_Form l G d a vs σ r) {x0 : Nat} {x1 : Int32} {x2 : Int32} {σ : vv_S} {r : hX (Int32 × vv_S)} (h : KX1_town fo x0 x1 x2 σ = some r) (d9 : Nat) (e9 : d9 = d := by rfl) : vv_Met l G MX1_town (d9 + 10) [.ref x0, .int x1, .int x2] σ (xI r) := by
  subst e9
  exact vv_head (by decide +kernel) rfl (Nat.le_of_ble_eq_true rfl) rfl (v_KX1_town_0 hG hH hfo h)
