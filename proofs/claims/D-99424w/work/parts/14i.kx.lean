set_option maxRecDepth 100000
/-! ('X8', 'of') -/
def BKX8_of_22 (fo : Nat → Nat → vv_S → Option Int32) (k22 : Nat → Nat → Int32 → Int32 → vv_S → Option Int32) (x0 : Nat) (x1 : Nat) (x2 : Int32) (x3 : Int32) (σ : vv_S) : Option Int32 := (gR σ x0 7 0).bind fun v1 => (isO σ v1 11).bind fun _ => (KJ2_size v1 σ).bind fun r2 => if r2 ≤ x3 then (some x2) else ((gR σ x0 7 1).bind fun v5 => (isO σ v5 13).bind fun _ => (KJ19_charAt v5 (x3 - (nI 1)) σ).bind fun r6 => (gR σ x0 7 0).bind fun v8 => (isO σ v8 11).bind fun _ => (KJ2_get v8 x3 σ).bind fun r9 => (isF σ r9).bind fun _ => (fo r9 x1 σ).bind fun r12 => (KX8_by r6 x2 r12).bind fun r13 => k22 x0 x1 r13 (x3 + (nI 1)) σ)
def KX8_of_22 (fo : Nat → Nat → vv_S → Option Int32) : Nat → Nat → Nat → Int32 → Int32 → vv_S → Option Int32
  | 0, _, _, _, _, _ => none
  | n + 1, x0, x1, x2, x3, σ => BKX8_of_22 fo (KX8_of_22 fo n) x0 x1 x2 x3 σ
theorem vb_KX8_of_22 {l : Launch} {G : vv_G} {d : Nat} {ad : Nat → Nat} {fo : Nat → Nat → vv_S → Option Int32} (hG : vv_gok G) (hH : vv_hy l G ad) (hfo : ∀ {a vs : Nat} {σ : vv_S} {r : Int32}, fo a vs σ = some r → vv_Form l G d a vs σ r) {k22 : Nat → Nat → Int32 → Int32 → vv_S → Option Int32} (hk22 : ∀ {x0 : Nat} {x1 : Nat} {x2 : Int32} {x3 : Int32} {σ : vv_S} {r : Int32}, k22 x0 x1 x2 x3 σ = some r → vv_V l G MX8_of (d + 4) 22 [(0, .ref x0), (1, .ref x1), (2, .int x2), (3, .int x3)] [] σ (.inl (some (.int r)), σ)) {x0 : Nat} {x1 : Nat} {x2 : Int32} {x3 : Int32} {σ : vv_S} {r : Int32} (h : BKX8_of_22 fo k22 x0 x1 x2 x3 σ = some r) : vv_V l G MX8_of (d + 4) 22 [(0, .ref x0), (1, .ref x1), (2, .int x2), (3, .int x3)] [] σ (.inl (some (.int r)), σ) := by
  unfold BKX8_of_22 at h
  refine vv_iload_n dX8_of_22 rfl 3 rfl ?_
  refine vv_aload_n dX8_of_23 rfl 0 rfl ?_
  replace h := gR_o h; obtain ⟨v1, fv1, sv1, ev1, lv1, h⟩ := h
  refine vv_get (fl_X8_10 hG) ev1 lv1 dX8_of_24 ?_
  replace h := isO_o h; obtain ⟨fz3, sz3, ez3, h⟩ := h
  replace h := bd_o h; obtain ⟨r2, er2, h⟩ := h
  refine vv_callF (xx := ⟨"java/util/List", "size", "()I"⟩) okf_J2_size q559 (m_KJ2_size hG hH er2 d) rfl (by omega) ⟨_, _, _, _, _, ez3, by rw [hG.1]; rfl⟩ q429 (fun U hK => hH.1.2.2.1 U hK _ (List.mem_of_getElem? (i := 1) rfl)) ⟨by decide, by decide, by decide +kernel⟩ rfl rfl (Nat.le_of_ble_eq_true rfl) dX8_of_27 ?_
  refine vv_icmp_ge (tgt := 75) dX8_of_32 (by decide) (fun c4 => ?_) (fun c4 => ?_)
  · rw [if_pos c4] at h
    refine vv_iload_n dX8_of_75 rfl 2 rfl ?_
    cases h
    exact vv_iret rfl dX8_of_76
  · rw [if_neg c4] at h
    refine vv_aload_n dX8_of_35 rfl 0 rfl ?_
    replace h := gR_o h; obtain ⟨v5, fv5, sv5, ev5, lv5, h⟩ := h
    refine vv_get (fl_X8_19 hG) ev5 lv5 dX8_of_36 ?_
    refine vv_iload_n dX8_of_39 rfl 3 rfl ?_
    refine vv_iconst (v := (nI 1)) dX8_of_40 (by decide) ?_
    refine vv_isub dX8_of_41 ?_
    replace h := isO_o h; obtain ⟨fz7, sz7, ez7, h⟩ := h
    replace h := bd_o h; obtain ⟨r6, er6, h⟩ := h
    refine vv_callV ok_J19_charAt q560 (m_KJ19_charAt hG hH er6 d) rfl (by omega) ⟨_, _, _, _, _, ez7, by rw [hG.1]; rfl⟩ rfl rfl (Nat.le_of_ble_eq_true rfl) dX8_of_42 ?_
    refine vv_iload_n dX8_of_45 rfl 2 rfl ?_
    refine vv_aload_n dX8_of_46 rfl 0 rfl ?_
    replace h := gR_o h; obtain ⟨v8, fv8, sv8, ev8, lv8, h⟩ := h
    refine vv_get (fl_X8_10 hG) ev8 lv8 dX8_of_47 ?_
    refine vv_iload_n dX8_of_50 rfl 3 rfl ?_
    replace h := isO_o h; obtain ⟨fz10, sz10, ez10, h⟩ := h
    replace h := bd_o h; obtain ⟨r9, er9, h⟩ := h
    refine vv_callF (xx := ⟨"java/util/List", "get", "(I)Ljava/lang/Object;"⟩) okf_J2_get q534 (m_KJ2_get hG hH er9 d) rfl (by omega) ⟨_, _, _, _, _, ez10, by rw [hG.1]; rfl⟩ q481 (fun U hK => hH.1.2.2.1 U hK _ (List.mem_of_getElem? (i := 3) rfl)) ⟨by decide, by decide, by decide +kernel⟩ rfl rfl (Nat.le_of_ble_eq_true rfl) dX8_of_51 ?_
    replace h := isF_o h; obtain ⟨fz11, cz11, sz11, ez11, kz11, h⟩ := h
    obtain ⟨mz11, iz11, jz11⟩ := isF_cast hH.1 kz11
    refine vv_cast ez11 (iz11 _ _) q535 (Or.inr jz11) dX8_of_56 ?_
    refine vv_aload_n dX8_of_59 rfl 1 rfl ?_
    replace h := bd_o h; obtain ⟨r12, er12, h⟩ := h
    refine vv_callform (hfo er12) q537 (by omega) rfl (Nat.le_of_ble_eq_true rfl) dX8_of_60 ?_
    replace h := bd_o h; obtain ⟨r13, er13, h⟩ := h
    refine vv_callS ok_X8_by q587 (m_KX8_by hG hH er13 d) rfl (by omega) rfl rfl (Nat.le_of_ble_eq_true rfl) dX8_of_65 ?_
    refine vv_istore_n (lv' := [(0, .ref x0), (1, .ref x1), (2, .int r13), (3, .int x3)]) dX8_of_68 rfl (by decide) [1, 2, 0, 3] rfl ?_
    refine vv_iinc (v := (x3 + (nI 1))) (lv' := [(0, .ref x0), (1, .ref x1), (2, .int r13), (3, .int (x3 + (nI 1)))]) dX8_of_69 3 rfl rfl (by decide) [1, 2, 3, 0] rfl ?_
    refine vv_goto (tgt := 22) dX8_of_72 (by decide) ?_
    exact hk22 h
theorem v_KX8_of_22 {l : Launch} {G : vv_G} {d : Nat} {ad : Nat → Nat} {fo : Nat → Nat → vv_S → Option Int32} (hG : vv_gok G) (hH : vv_hy l G ad) (hfo : ∀ {a vs : Nat} {σ : vv_S} {r : Int32}, fo a vs σ = some r → vv_Form l G d a vs σ r) : ∀ (n : Nat) {x0 : Nat} {x1 : Nat} {x2 : Int32} {x3 : Int32} {σ : vv_S} {r : Int32}, KX8_of_22 fo n x0 x1 x2 x3 σ = some r → vv_V l G MX8_of (d + 4) 22 [(0, .ref x0), (1, .ref x1), (2, .int x2), (3, .int x3)] [] σ (.inl (some (.int r)), σ) := by
  intro n
  induction n with
  | zero => intro _ _ _ _ _ _ h; cases h
  | succ n ih => intro _ _ _ _ _ _ h; exact vb_KX8_of_22 hG hH hfo ih h
def KX8_of (fo : Nat → Nat → vv_S → Option Int32) (x0 : Nat) (x1 : Nat) (σ : vv_S) : Option Int32 := (gR σ x0 7 0).bind fun v1 => (isO σ v1 11).bind fun _ => (KJ2_get v1 (nI 0) σ).bind fun r2 => (isF σ r2).bind fun _ => (fo r2 x1 σ).bind fun r5 => KX8_of_22 fo NN x0 x1 r5 (nI 1) σ
theorem v_KX8_of_0 {l : Launch} {G : vv_G} {d : Nat} {ad : Nat → Nat} {fo : Nat → Nat → vv_S → Option Int32} (hG : vv_gok G) (hH : vv_hy l G ad) (hfo : ∀ {a vs : Nat} {σ : vv_S} {r : Int32}, fo a vs σ = some r → vv_Form l G d a vs σ r) {x0 : Nat} {x1 : Nat} {σ : vv_S} {r : Int32} (h : KX8_of fo x0 x1 σ = some r) : vv_V l G MX8_of (d + 4) 0 [(0, .ref x0), (1, .ref x1)] [] σ (.inl (some (.int r)), σ) := by
  unfold KX8_of at h
  refine vv_aload_n dX8_of_0 rfl 0 rfl ?_
  replace h := gR_o h; obtain ⟨v1, fv1, sv1, ev1, lv1, h⟩ := h
  refine vv_get (fl_X8_10 hG) ev1 lv1 dX8_of_1 ?_
  refine vv_iconst (v := (nI 0)) dX8_of_4 (by decide) ?_
  replace h := isO_o h; obtain ⟨fz3, sz3, ez3, h⟩ := h
  replace h := bd_o h; obtain ⟨r2, er2, h⟩ := h
  refine vv_callF (xx := ⟨"java/util/List", "get", "(I)Ljava/lang/Object;"⟩) okf_J2_get q534 (m_KJ2_get hG hH er2 d) rfl (by omega) ⟨_, _, _, _, _, ez3, by rw [hG.1]; rfl⟩ q481 (fun U hK => hH.1.2.2.1 U hK _ (List.mem_of_getElem? (i := 3) rfl)) ⟨by decide, by decide, by decide +kernel⟩ rfl rfl (Nat.le_of_ble_eq_true rfl) dX8_of_5 ?_
  replace h := isF_o h; obtain ⟨fz4, cz4, sz4, ez4, kz4, h⟩ := h
  obtain ⟨mz4, iz4, jz4⟩ := isF_cast hH.1 kz4
  refine vv_cast ez4 (iz4 _ _) q535 (Or.inr jz4) dX8_of_10 ?_
  refine vv_aload_n dX8_of_13 rfl 1 rfl ?_
  replace h := bd_o h; obtain ⟨r5, er5, h⟩ := h
  refine vv_callform (hfo er5) q537 (by omega) rfl (Nat.le_of_ble_eq_true rfl) dX8_of_14 ?_
  refine vv_istore_n (lv' := [(0, .ref x0), (1, .ref x1), (2, .int r5)]) dX8_of_19 rfl (by decide) [1, 2, 0] rfl ?_
  refine vv_iconst (v := (nI 1)) dX8_of_20 (by decide) ?_
  refine vv_istore_n (lv' := [(0, .ref x0), (1, .ref x1), (2, .int r5), (3, .int (nI 1))]) dX8_of_21 rfl (by decide) [1, 2, 3, 0] rfl ?_
  exact v_KX8_of_22 hG hH hfo NN h
theorem m_KX8_of {l : Launch} {G : vv_G} {d : Nat} {ad : Nat → Nat} {fo : Nat → Nat → vv_S → Option Int32} (hG : vv_gok G) (hH : vv_hy l G ad) (hfo : ∀ {a vs : Nat} {σ : vv_S} {r : Int32}, fo a vs σ = some r → vv_Form l G d a vs σ r) {x0 : Nat} {x1 : Nat} {σ : vv_S} {r : Int32} (h : KX8_of fo x0 x1 σ = some r) (d9 : Nat) (e9 : d9 = d := by rfl) : vv_Met l G MX8_of (d9 + 4) [.ref x0, .ref x1] σ (.inl (some (.int r)), σ) := by
  subst e9
  exact vv_head (by decide +kernel) rfl (Nat.le_of_ble_eq_true rfl) rfl (v_KX8_of_0 hG hH hfo h)
/-! ('X9', 'of') -/
def KX9_of (x0 : Nat) (x1 : Nat) (σ : vv_S) : Option Int32 := (gI σ x0 8 0).bind fun v1 => some v1
theorem v_KX9_of_0 {l : Launch} {G : vv_G} {d : Nat} {ad : Nat → Nat} (hG : vv_gok G) (hH : vv_hy l G ad) {x0 : Nat} {x1 : Nat} {σ : vv_S} {r : Int32} (h : KX9_of x0 x1 σ = some r) : vv_V l G MX9_of (d + 0) 0 [(0, .ref x0), (1, .ref x1)] [] σ (.inl (some (.int r)), σ) := by
  unfold KX9_of at h
  refine vv_aload_n dX9_of_0 rfl 0 rfl ?_
  replace h := gI_o h; obtain ⟨v1, fv1, sv1, ev1, lv1, h⟩ := h
  refine vv_get (fl_X9_7 hG) ev1 lv1 dX9_of_1 ?_
  cases h
  exact vv_iret rfl dX9_of_4
theorem m_KX9_of {l : Launch} {G : vv_G} {ad : Nat → Nat} (hG : vv_gok G) (hH : vv_hy l G ad) {x0 : Nat} {x1 : Nat} {σ : vv_S} {r : Int32} (h : KX9_of x0 x1 σ = some r) (d : Nat) : vv_Met l G MX9_of (d + 0) [.ref x0, .ref x1] σ (.inl (some (.int r)), σ) := vv_head (by decide +kernel) rfl (Nat.le_of_ble_eq_true rfl) rfl (v_KX9_of_0 hG hH h)
/-! ('X10', 'of') -/
def KX10_of (x0 : Nat) (x1 : Nat) (σ : vv_S) : Option Int32 := (gI σ x0 9 0).bind fun v1 => (aI σ .int x1 v1).bind fun v2 => some v2
theorem v_KX10_of_0 {l : Launch} {G : vv_G} {d : Nat} {ad : Nat → Nat} (hG : vv_gok G) (hH : vv_hy l G ad) {x0 : Nat} {x1 : Nat} {σ : vv_S} {r : Int32} (h : KX10_of x0 x1 σ = some r) : vv_V l G MX10_of (d + 0) 0 [(0, .ref x0), (1, .ref x1)] [] σ (.inl (some (.int r)), σ) := by
  unfold KX10_of at h
  refine vv_aload_n dX10_of_0 rfl 1 rfl ?_
  refine vv_aload_n dX10_of_1 rfl 0 rfl ?_
  replace h := gI_o h; obtain ⟨v1, fv1, sv1, ev1, lv1, h⟩ := h
  refine vv_get (fl_X10_7 hG) ev1 lv1 dX10_of_2 ?_
  replace h := aI_o h; obtain ⟨v2, fv2, nv2, qv2, ev2, iv2, wv2, h⟩ := h
  refine vv_iald ev2 iv2 dX10_of_5 ?_
  rw [wv2]
  cases h
  exact vv_iret rfl dX10_of_6
theorem m_KX10_of {l : Launch} {G : vv_G} {ad : Nat → Nat} (hG : vv_gok G) (hH : vv_hy l G ad) {x0 : Nat} {x1 : Nat} {σ : vv_S} {r : Int32} (h : KX10_of x0 x1 σ = some r) (d : Nat) : vv_Met l G MX10_of (d + 0) [.ref x0, .ref x1] σ (.inl (some (.int r)), σ) := vv_head (by decide +kernel) rfl (Nat.le_of_ble_eq_true rfl) rfl (v_KX10_of_0 hG hH h)
/-! ('X11', 'of') -/
def KX11_of_18 (fo : Nat → Nat → vv_S → Option Int32) (s0 : Int32) (σ : vv_S) : Option Int32 := some s0
theorem v_KX11_of_18 {l : Launch} {G : vv_G} {d : Nat} {ad : Nat → Nat} {fo : Nat → Nat → vv_S → Option Int32} (hG : vv_gok G) (hH : vv_hy l G ad) (hfo : ∀ {a vs : Nat} {σ : vv_S} {r : Int32}, fo a vs σ = some r → vv_Form l G d a vs σ r) {s0 : Int32} {σ : vv_S} {r : Int32} (h : KX11_of_18 fo s0 σ = some r) : vv_V l G MX11_of (d + 1) 18 [] [.int s0] σ (.inl (some (.int r)), σ) := by
  unfold KX11_of_18 at h
  cases h
  exact vv_iret rfl dX11_of_18
def KX11_of (fo : Nat → Nat → vv_S → Option Int32) (x0 : Nat) (x1 : Nat) (σ : vv_S) : Option Int32 := (gR σ x0 10 0).bind fun v1 => (fo v1 x1 σ).bind fun r2 => if r2 = 0 then (KX11_of_18 fo (nI 1) σ) else (KX11_of_18 fo (nI 0) σ)
theorem v_KX11_of_0 {l : Launch} {G : vv_G} {d : Nat} {ad : Nat → Nat} {fo : Nat → Nat → vv_S → Option Int32} (hG : vv_gok G) (hH : vv_hy l G ad) (hfo : ∀ {a vs : Nat} {σ : vv_S} {r : Int32}, fo a vs σ = some r → vv_Form l G d a vs σ r) {x0 : Nat} {x1 : Nat} {σ : vv_S} {r : Int32} (h : KX11_of fo x0 x1 σ = some r) : vv_V l G MX11_of (d + 1) 0 [(0, .ref x0), (1, .ref x1)] [] σ (.inl (some (.int r)), σ) := by
  unfold KX11_of at h
  refine vv_aload_n dX11_of_0 rfl 0 rfl ?_
  replace h := gR_o h; obtain ⟨v1, fv1, sv1, ev1, lv1, h⟩ := h
  refine vv_get (fl_X11_7 hG) ev1 lv1 dX11_of_1 ?_
  refine vv_aload_n dX11_of_4 rfl 1 rfl ?_
  replace h := bd_o h; obtain ⟨r2, er2, h⟩ := h
  refine vv_callform (hfo er2) q545 (by omega) rfl (Nat.le_of_ble_eq_true rfl) dX11_of_5 ?_
  refine vv_if_ne (tgt := 17) dX11_of_10 (by decide) (fun c3 => ?_) (fun c3 => ?_)
  · rw [if_neg c3] at h
    refine vv_iconst (v := (nI 0)) dX11_of_17 (by decide) ?_
    refine vv_sub (lv' := []) [] rfl ?_
    exact v_KX11_of_18 hG hH hfo h
  · rw [if_pos c3] at h
    refine vv_iconst (v := (nI 1)) dX11_of_13 (by decide) ?_
    refine vv_goto (tgt := 18) dX11_of_14 (by decide) ?_
    refine vv_sub (lv' := []) [] rfl ?_
    exact v_KX11_of_18 hG hH hfo h
theorem m_KX11_of {l : Launch} {G : vv_G} {d : Nat} {ad : Nat → Nat} {fo : Nat → Nat → vv_S → Option Int32} (hG : vv_gok G) (hH : vv_hy l G ad) (hfo : ∀ {a vs : Nat} {σ : vv_S} {r : Int32}, fo a vs σ = some r → vv_Form l G d a vs σ r) {x0 : Nat} {x1 : Nat} {σ : vv_S} {r : Int32} (h : KX11_of fo x0 x1 σ = some r) (d9 : Nat) (e9 : d9 = d := by rfl) : vv_Met l G MX11_of (d9 + 1) [.ref x0, .ref x1] σ (.inl (some (.int r)), σ) := by
  subst e9
  exact vv_head (by decide +kernel) rfl (Nat.le_of_ble_eq_true rfl) rfl (v_KX11_of_0 hG hH hfo h)

/-! Form.of, tied -/
def KX_fo : Nat → Nat → Nat → vv_S → Option Int32
  | 0 => fun _ _ _ => none
  | n + 1 => fun a vs σ => match σ.1 a with
    | some (_, .inr (7, _)) => KX8_of (KX_fo n) a vs σ
    | some (_, .inr (8, _)) => KX9_of a vs σ
    | some (_, .inr (9, _)) => KX10_of a vs σ
    | some (_, .inr (10, _)) => KX11_of (KX_fo n) a vs σ
    | _ => none
theorem m_KX_fo {l : Launch} {G : vv_G} {ad : Nat → Nat} (hG : vv_gok G) (hH : vv_hy l G ad) : ∀ (n d : Nat) {a vs : Nat} {σ : vv_S} {r : Int32}, KX_fo n a vs σ = some r → vv_Form l G (d + 5 * n) a vs σ r
  | 0, d, _, _, _, _, h => by cases h
  | n + 1, d, a, vs, σ, r, h => by
    unfold KX_fo at h
    split at h
    · rename_i f0 fs he
      exact ⟨MX8_of, m_KX8_of hG hH (fun h9 => m_KX_fo hG hH n (d + 1) h9) h (d + 1 + 5 * n) |> fun z => by rw [show d + 5 * (n + 1) = d + 1 + 5 * n + 4 by omega]; exact z, ⟨_, _, _, _, _, he, by rw [hG.1]; rfl⟩, okf_X8_of, q528, fun U hU => hH.1.2.2.1 U hU ("LuckCrates$Chain", ⟨"LuckCrates$Form", "of", "([I)I"⟩, ⟨"LuckCrates$Chain", "of", "([I)I"⟩) (List.mem_of_getElem? (i := 6) rfl)⟩
    · rename_i f0 fs he
      exact ⟨MX9_of, m_KX9_of hG hH h (d + 5 * (n + 1)), ⟨_, _, _, _, _, he, by rw [hG.1]; rfl⟩, okf_X9_of, q547, fun U hU => hH.1.2.2.1 U hU ("LuckCrates$Number", ⟨"LuckCrates$Form", "of", "([I)I"⟩, ⟨"LuckCrates$Number", "of", "([I)I"⟩) (List.mem_of_getElem? (i := 8) rfl)⟩
    · rename_i f0 fs he
      exact ⟨MX10_of, m_KX10_of hG hH h (d + 5 * (n + 1)), ⟨_, _, _, _, _, he, by rw [hG.1]; rfl⟩, okf_X10_of, q553, fun U hU => hH.1.2.2.1 U hU ("LuckCrates$Value", ⟨"LuckCrates$Form", "of", "([I)I"⟩, ⟨"LuckCrates$Value", "of", "([I)I"⟩) (List.mem_of_getElem? (i := 9) rfl)⟩
    · rename_i f0 fs he
      exact ⟨MX11_of, m_KX11_of hG hH (fun h9 => m_KX_fo hG hH n (d + 4) h9) h (d + 4 + 5 * n) |> fun z => by rw [show d + 5 * (n + 1) = d + 4 + 5 * n + 1 by omega]; exact z, ⟨_, _, _, _, _, he, by rw [hG.1]; rfl⟩, okf_X11_of, q539, fun U hU => hH.1.2.2.1 U hU ("LuckCrates$Not", ⟨"LuckCrates$Form", "of", "([I)I"⟩, ⟨"LuckCrates$Not", "of", "([I)I"⟩) (List.mem_of_getElem? (i := 7) rfl)⟩
    · cases h
