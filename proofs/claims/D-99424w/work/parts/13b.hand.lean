set_option maxRecDepth 100000
theorem vv_up_up {h : Nat → Option vv_E} {a : Nat} {e1 e2 : vv_E} : vv_up (vv_up h a e1) a e2 = vv_up h a e2 := by
  funext q
  unfold vv_up
  by_cases hq : q = a
  · rw [if_pos hq, if_pos hq]
  · rw [if_neg hq, if_neg hq, if_neg hq]
theorem vv_up_at {h : Nat → Option vv_E} {a : Nat} {e : vv_E} : vv_up h a e a = some e := by unfold vv_up; rw [if_pos rfl]
/-- a static of which only 'a reference or null' is said -/
theorem vv_getsq {l : Launch} {G : vv_G} {M : vv_M} {d pc : Nat} {lv : List (Nat × Value)} {rest : List Value} {σ : vv_S} {E : vv_X} {ix : Nat} {C n dd : String} (hz : ∀ (U : State) (H : Heap), (∀ P ∈ G.2.2.2.2.2.2, P U H) → va_Zq C n dd (vv_A G) U H) (hlk : Cond.fieldLink M.1.cls ix C n dd ∈ lw_all) (dg : decode M.2.1 pc = .ok (.getstatic ix, 3)) (k9 : ∀ z : Option Nat, vv_V l G M d (pc + 3) lv (va_rf z :: rest) σ E) : vv_V l G M d pc lv rest σ E := by
  refine ⟨(k9 none).1, fun p e9 R s m args below meth c H locs ls σ0 C0 h0 hR hS hl => ?_⟩
  have hz0 := C0.2.2.2.2.2.2.2.2.2.2.2
  rcases hz s H hR.2.2.2 with h | ⟨t, h⟩
  · exact va_gets C0.1 C0.2.1 (vv_Zback hz0 hS h) hS C0.2.2.2.2.2.1 (C0.2.2.2.2.2.2.2.1 _ hlk) (fun _ h => h) dg ((k9 none).2 p e9 R s m args below meth c H locs ls σ0 C0 h0 hR hS hl)
  · exact va_gets C0.1 C0.2.1 (vv_Zback hz0 hS h) hS C0.2.2.2.2.2.1 (C0.2.2.2.2.2.2.2.1 _ hlk) (fun _ h => h) dg ((k9 (some t)).2 p e9 R s m args below meth c H locs ls σ0 C0 h0 hR hS hl)
/-- Throwable(null, null, false, false) on a Wrong -/
def KJ3_init_2 (x0 : Nat) (x3 x4 : Int32) (σ : vv_S) : Option vv_S := match σ.1 x0 with
  | some (true, .inr (5, [_, _, _, _, f4, f5, f6])) => if x3 = 0 ∧ x4 = 0 then some (vv_up σ.1 x0 (true, .inr (5, [.null, .null, .null, .null, f4, f5, f6])), σ.2) else none
  | _ => none
theorem m_KJ3_init_2 {l : Launch} {G : vv_G} {ad : Nat → Nat} (hG : vv_gok G) (hH : vv_hy l G ad) {x0 : Nat} {x3 x4 : Int32} {σ : vv_S} {r : vv_S} (h : KJ3_init_2 x0 x3 x4 σ = some r) (d : Nat) : vv_Met l G MJ3_init_2 (d + 2) [.ref x0, .null, .null, .int x3, .int x4] σ (.inl none, r) := by
  unfold KJ3_init_2 at h
  split at h
  · rename_i f0 f1 f2 f3 f4 f5 f6 he
    split at h
    · rename_i hc
      obtain ⟨rfl, rfl⟩ := hc
      cases h
      refine vv_head (by decide +kernel) rfl (Nat.le_of_ble_eq_true rfl) rfl ?_
      refine vv_aload_n dJ3_init_2_0 rfl 0 rfl ?_
      refine vv_objinit q728 q149 q150 (by omega) (Nat.le_of_ble_eq_true rfl) dJ3_init_2_1 ?_
      refine vv_aload_n dJ3_init_2_4 rfl 0 rfl ?_
      refine vv_aload_n dJ3_init_2_5 rfl 0 rfl ?_
      refine vv_putf (pt_J3_7 hG) (Or.inr fun C T N h9 => by rw [hG.1] at h9; cases h9; rfl) he rfl rfl (Nat.le_of_ble_eq_true rfl) dJ3_init_2_6 ?_
      refine vv_aload_n dJ3_init_2_9 rfl 0 rfl ?_
      refine vv_getsq (fun U H hp => (hH.2.2.1 U H hp).1.1) q729 dJ3_init_2_10 (fun z1 => ?_)
      refine vv_putf (pt_J3_17 hG) (Or.inr fun C T N h9 => by rw [hG.1] at h9; cases h9; rfl) vv_up_at rfl (by cases z1 <;> rfl) (Nat.le_of_ble_eq_true rfl) dJ3_init_2_13 ?_
      refine vv_aload_n dJ3_init_2_16 rfl 0 rfl ?_
      refine vv_getsq (fun U H hp => (hH.2.2.1 U H hp).2.1) q731 dJ3_init_2_17 (fun z2 => ?_)
      refine vv_putf (pt_J3_24 hG) (Or.inr fun C T N h9 => by rw [hG.1] at h9; cases h9; rfl) vv_up_at rfl (by cases z2 <;> rfl) (Nat.le_of_ble_eq_true rfl) dJ3_init_2_20 ?_
      refine vv_iload dJ3_init_2_23 4 rfl ?_
      refine vv_if_eq (tgt := 36) dJ3_init_2_25 (by decide) (fun _ => ?_) (fun n => absurd rfl n)
      refine vv_aload_n dJ3_init_2_36 rfl 0 rfl ?_
      refine vv_null dJ3_init_2_37 ?_
      refine vv_putf (pt_J3_17 hG) (Or.inr fun C T N h9 => by rw [hG.1] at h9; cases h9; rfl) vv_up_at rfl rfl (Nat.le_of_ble_eq_true rfl) dJ3_init_2_38 ?_
      refine vv_aload_n dJ3_init_2_41 rfl 0 rfl ?_
      refine vv_aload_nN dJ3_init_2_42 rfl 1 rfl ?_
      refine vv_putf (pt_J3_31 hG) (Or.inr fun C T N h9 => by rw [hG.1] at h9; cases h9; rfl) vv_up_at rfl rfl (Nat.le_of_ble_eq_true rfl) dJ3_init_2_43 ?_
      refine vv_aload_n dJ3_init_2_46 rfl 0 rfl ?_
      refine vv_aload_nN dJ3_init_2_47 rfl 2 rfl ?_
      refine vv_putf (pt_J3_7 hG) (Or.inr fun C T N h9 => by rw [hG.1] at h9; cases h9; rfl) vv_up_at rfl rfl (Nat.le_of_ble_eq_true rfl) dJ3_init_2_48 ?_
      refine vv_iload_n dJ3_init_2_51 rfl 3 rfl ?_
      refine vv_if_ne (tgt := 60) dJ3_init_2_52 (by decide) (fun n => absurd rfl n) (fun _ => ?_)
      refine vv_aload_n dJ3_init_2_55 rfl 0 rfl ?_
      refine vv_null dJ3_init_2_56 ?_
      refine vv_putf (pt_J3_24 hG) (Or.inr fun C T N h9 => by rw [hG.1] at h9; cases h9; rfl) vv_up_at rfl rfl (Nat.le_of_ble_eq_true rfl) dJ3_init_2_57 ?_
      rw [vv_up_up, vv_up_up, vv_up_up, vv_up_up, vv_up_up, vv_up_up]
      exact vv_vret rfl dJ3_init_2_60
    · cases h
  · cases h
theorem q142 : (Jvm.Cond.initialized "java/util/NoSuchElementException") ∈ lw_all := lw_g (lw_at lw_m1 34 rfl) rfl
theorem q119 : (Jvm.Cond.initialized "java/lang/IllegalArgumentException") ∈ lw_all := lw_g (lw_at lw_m1 11 rfl) rfl
theorem at_found : (vx_at0 "LuckCrates" 3 "java/util/NoSuchElementException" ["java/lang/RuntimeException", "java/lang/Exception"]).all (fun w => decide (w ∈ lw_tbl) && (goodWord w || vv_nwk w)) = true := by decide +kernel
theorem ot_found : (Cond.classLink "LuckCrates" 1 "java/util/NoSuchElementException" :: Cond.initialized "java/util/NoSuchElementException" :: vx_at0 "LuckCrates" 3 "java/util/NoSuchElementException" ["java/lang/RuntimeException", "java/lang/Exception"]).all vx_ot = true := by decide +kernel
def KX1_found (x0 : Int32) (σ : vv_S) : Option (hX vv_S) := if x0 = 0 then some (thr0 σ "java/util/NoSuchElementException") else some (.inl σ)
theorem m_KX1_found {l : Launch} {G : vv_G} {ad : Nat → Nat} (hG : vv_gok G) (hH : vv_hy l G ad) {x0 : Int32} {σ : vv_S} {r : hX vv_S} (h : KX1_found x0 σ = some r) (d : Nat) : vv_Met l G MX1_found (d + 8) [.int x0] σ (xU r) := by
  refine vv_head (by decide +kernel) rfl (Nat.le_of_ble_eq_true rfl) rfl ?_
  unfold KX1_found at h
  refine vv_iload_n dX1_found_0 rfl 0 rfl ?_
  refine vv_if_ne (tgt := 12) dX1_found_1 (by decide) (fun c1 => ?_) (fun c1 => ?_)
  · rw [if_neg c1] at h
    cases h
    exact vv_vret rfl dX1_found_12
  · rw [if_pos c1] at h
    cases h
    refine vv_throw0 (names := ["java/lang/RuntimeException", "java/lang/Exception"]) hH.2.2.2.2.1 hH.2.2.1 (by decide +kernel) (by decide +kernel) q1251 q142 (fun s args hK hts w hw => ?_) (fun w hw => List.all_eq_true.mp ot_found w hw) dX1_found_4 dX1_found_7 dX1_found_8 dX1_found_11 rfl (by simp) (Nat.le_of_ble_eq_true rfl) (by simp)
    have h1 := List.all_eq_true.mp at_found w hw
    simp only [Bool.and_eq_true, decide_eq_true_eq, Bool.or_eq_true] at h1
    rcases h1.2 with h2 | h2
    · exact hts w (lw_g h1.1 h2)
    · have h3 := hH.1.2.1 s hK w h1.1 h2
      cases w <;> first
        | (exact va_Nw.use rfl h3)
        | (exact h3)
        | (exact absurd h2 (by simp [vv_nwk]))
theorem at_right : (vx_at0 "LuckCrates" 9 "java/lang/IllegalArgumentException" ["java/lang/RuntimeException", "java/lang/Exception"]).all (fun w => decide (w ∈ lw_tbl) && (goodWord w || vv_nwk w)) = true := by decide +kernel
theorem ot_right : (Cond.classLink "LuckCrates" 7 "java/lang/IllegalArgumentException" :: Cond.initialized "java/lang/IllegalArgumentException" :: vx_at0 "LuckCrates" 9 "java/lang/IllegalArgumentException" ["java/lang/RuntimeException", "java/lang/Exception"]).all vx_ot = true := by decide +kernel
def KX1_right (x0 : Int32) (σ : vv_S) : Option (hX vv_S) := if x0 = 0 then some (thr0 σ "java/lang/IllegalArgumentException") else some (.inl σ)
theorem m_KX1_right {l : Launch} {G : vv_G} {ad : Nat → Nat} (hG : vv_gok G) (hH : vv_hy l G ad) {x0 : Int32} {σ : vv_S} {r : hX vv_S} (h : KX1_right x0 σ = some r) (d : Nat) : vv_Met l G MX1_right (d + 8) [.int x0] σ (xU r) := by
  refine vv_head (by decide +kernel) rfl (Nat.le_of_ble_eq_true rfl) rfl ?_
  unfold KX1_right at h
  refine vv_iload_n dX1_right_0 rfl 0 rfl ?_
  refine vv_if_ne (tgt := 12) dX1_right_1 (by decide) (fun c1 => ?_) (fun c1 => ?_)
  · rw [if_neg c1] at h
    cases h
    exact vv_vret rfl dX1_right_12
  · rw [if_pos c1] at h
    cases h
    refine vv_throw0 (names := ["java/lang/RuntimeException", "java/lang/Exception"]) hH.2.2.2.2.1 hH.2.2.1 (by decide +kernel) (by decide +kernel) q703 q119 (fun s args hK hts w hw => ?_) (fun w hw => List.all_eq_true.mp ot_right w hw) dX1_right_4 dX1_right_7 dX1_right_8 dX1_right_11 rfl (by simp) (Nat.le_of_ble_eq_true rfl) (by simp)
    have h1 := List.all_eq_true.mp at_right w hw
    simp only [Bool.and_eq_true, decide_eq_true_eq, Bool.or_eq_true] at h1
    rcases h1.2 with h2 | h2
    · exact hts w (lw_g h1.1 h2)
    · have h3 := hH.1.2.1 s hK w h1.1 h2
      cases w <;> first
        | (exact va_Nw.use rfl h3)
        | (exact h3)
        | (exact absurd h2 (by simp [vv_nwk]))
