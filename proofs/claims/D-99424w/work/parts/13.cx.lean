set_option maxRecDepth 100000
/-! methods, their words; fields; what is asked of the launch and G -/
def vv_strs : List (String × Nat × String × Nat) := [("LuckCrates$Reader", 33, "luck", 10), ("LuckCrates$Reader", 35, "bad", 11), ("LuckCrates$Reader", 37, "stake", 12), ("LuckCrates$Reader", 39, "makes", 13), ("LuckCrates$Reader", 41, "day", 14), ("LuckCrates$Reader", 43, "crates", 15), ("LuckCrates$Reader", 91, ";()+-*/<=", 16), ("LuckCrates$Reader", 245, "town", 17), ("LuckCrates$Reader", 248, "way", 18), ("LuckCrates$Reader", 252, "crate", 19), ("LuckCrates$Reader", 254, "ballast", 20), ("LuckCrates$Reader", 244, "cat", 21), ("LuckCrates$Reader", 259, "odds", 22), ("LuckCrates$Reader", 172, "not", 23), ("LuckCrates$Reader", 182, "and", 24), ("LuckCrates$Reader", 189, "or", 25)]
def vv_prv : Cond → Bool
  | .privateMethod _ => true
  | .interfaceMethod .. => true
  | .publicMethod .. => true
  | .unhidden .. => true
  | _ => false
def vv_hy (l : Launch) (G : vv_G) (ad : Nat → Nat) : Prop := vv_gX G ad ∧ vv_str G ∧ vv_thr G ∧ (∃ z : Option Nat, vv_stat G "jdk/internal/util/Preconditions" "SIOOBE_FORMATTER" "Ljava/util/function/BiFunction;" (va_rf z)) ∧ l.stackTraces = false ∧ (∀ q ∈ vv_strs, ∀ U, vv_K G U → vk_R q.1 q.2.1 q.2.2.1 (ad q.2.2.2) U) ∧ (∀ w ∈ lw_tbl, vv_prv w = true → ∀ U, vv_K G U → va_Nw w U)
theorem xb_l {α β : Type} {x : α} {f : α → Option (hX β)} {r : Option (hX β)} (h : xb (.inl x) f = r) : f x = r := h
theorem vv_st {l : Launch} {G : vv_G} {M : vv_M} {d pc : Nat} {lv : List (Nat × Value)} {st st' : List Value} {σ : vv_S} {E : vv_X} (h : st = st') (k : vv_V l G M d pc lv st' σ E) : vv_V l G M d pc lv st σ E := by rw [h]; exact k
def brI (v : Int32) : Option Int32 := if v.toInt8.toInt32 = v then some v else none
theorem br_o {β : Type} {v : Int32} {g : Int32 → Option β} {r : β} (h : (brI v).bind g = some r) : narrow .byte (.int v) = .int v ∧ g v = some r := by
  unfold brI at h
  by_cases hc : v.toInt8.toInt32 = v
  · rw [if_pos hc] at h; exact ⟨congrArg Value.int hc, h⟩
  · rw [if_neg hc] at h; cases h
def mxI (x y : Int32) : Int32 := if x < y then y else x
def mnI (x y : Int32) : Int32 := if y < x then y else x
def abI (x : Int32) : Int32 := if 0 ≤ x then x else 0 - x
theorem vv_mmax {l : Launch} {G : vv_G} {M : vv_M} {d pc ix : Nat} {lv : List (Nat × Value)} {rest : List Value} {σ : vv_S} {E : vv_X} {x y : Int32} (hlk1 : Cond.methodLink M.1.cls ix ⟨"java/lang/Math", "max", "(II)I"⟩ ∈ lw_all) (hd : 1 ≤ d) (hr8 : (rest.map fun v => v.category).sum ≤ 8) (dg : decode M.2.1 pc = .ok (.invokestatic ix, 3)) (k9 : vv_V l G M d (pc + 3) lv (.int (mxI x y) :: rest) σ E) : vv_V l G M d pc lv (.int y :: .int x :: rest) σ E := by
  refine ⟨k9.1, fun p e9 R s m args below meth c H locs ls σ0 C0 h0 hR hS hl => ?_⟩
  obtain ⟨hx, hb, hr, hlk, hml, ho, hnme, hts, hK, htab, hRm, hz0⟩ := id C0
  have b1 := k9.1.1
  have b2 := k9.1.2
  exact va_mmax hx hb (hml.trans hl.1.symm) ho (hts _ hlk1) (hts _ q382) (hts _ q121) (hts _ q383) (by rw [hRm]; exact hd) (by rw [hRm]; show _ + 13 ≤ 64 * d; omega) (by rw [hRm]; show _ ≤ E.2.2.1 - σ0.2.1; omega) (by rw [hRm]; show _ ≤ E.2.2.2 - σ0.2.2; omega) dg (k9.2 p e9 R s m args below meth c H locs ls σ0 C0 h0 hR hS hl)
theorem vv_mmin {l : Launch} {G : vv_G} {M : vv_M} {d pc ix : Nat} {lv : List (Nat × Value)} {rest : List Value} {σ : vv_S} {E : vv_X} {x y : Int32} (hlk1 : Cond.methodLink M.1.cls ix ⟨"java/lang/Math", "min", "(II)I"⟩ ∈ lw_all) (hd : 1 ≤ d) (hr8 : (rest.map fun v => v.category).sum ≤ 8) (dg : decode M.2.1 pc = .ok (.invokestatic ix, 3)) (k9 : vv_V l G M d (pc + 3) lv (.int (mnI x y) :: rest) σ E) : vv_V l G M d pc lv (.int y :: .int x :: rest) σ E := by
  refine ⟨k9.1, fun p e9 R s m args below meth c H locs ls σ0 C0 h0 hR hS hl => ?_⟩
  obtain ⟨hx, hb, hr, hlk, hml, ho, hnme, hts, hK, htab, hRm, hz0⟩ := id C0
  have b1 := k9.1.1
  have b2 := k9.1.2
  exact va_mmin hx hb (hml.trans hl.1.symm) ho (hts _ hlk1) (hts _ q418) (hts _ q121) (hts _ q419) (by rw [hRm]; exact hd) (by rw [hRm]; show _ + 13 ≤ 64 * d; omega) (by rw [hRm]; show _ ≤ E.2.2.1 - σ0.2.1; omega) (by rw [hRm]; show _ ≤ E.2.2.2 - σ0.2.2; omega) dg (k9.2 p e9 R s m args below meth c H locs ls σ0 C0 h0 hR hS hl)
theorem vv_mabs {l : Launch} {G : vv_G} {M : vv_M} {d pc ix : Nat} {lv : List (Nat × Value)} {rest : List Value} {σ : vv_S} {E : vv_X} {x : Int32} (hlk1 : Cond.methodLink M.1.cls ix ⟨"java/lang/Math", "abs", "(I)I"⟩ ∈ lw_all) (hd : 1 ≤ d) (hr8 : (rest.map fun v => v.category).sum ≤ 8) (dg : decode M.2.1 pc = .ok (.invokestatic ix, 3)) (k9 : vv_V l G M d (pc + 3) lv (.int (abI x) :: rest) σ E) : vv_V l G M d pc lv (.int x :: rest) σ E := by
  refine ⟨k9.1, fun p e9 R s m args below meth c H locs ls σ0 C0 h0 hR hS hl => ?_⟩
  obtain ⟨hx, hb, hr, hlk, hml, ho, hnme, hts, hK, htab, hRm, hz0⟩ := id C0
  have b1 := k9.1.1
  have b2 := k9.1.2
  exact va_mabs hx hb (hml.trans hl.1.symm) ho (hts _ hlk1) (hts _ q1328) (hts _ q121) (hts _ q1329) (by rw [hRm]; exact hd) (by rw [hRm]; show _ + 13 ≤ 64 * d; omega) (by rw [hRm]; show _ ≤ E.2.2.1 - σ0.2.1; omega) (by rw [hRm]; show _ ≤ E.2.2.2 - σ0.2.2; omega) dg (k9.2 p e9 R s m args below meth c H locs ls σ0 C0 h0 hR hS hl)
def crI (v : Int32) : Option Int32 := if v.toUInt32.toUInt16.toUInt32.toInt32 = v then some v else none
theorem cr_o {β : Type} {v : Int32} {g : Int32 → Option β} {r : β} (h : (crI v).bind g = some r) : narrow .char (.int v) = .int v ∧ g v = some r := by
  unfold crI at h
  by_cases hc : v.toUInt32.toUInt16.toUInt32.toInt32 = v
  · rw [if_pos hc] at h; exact ⟨congrArg Value.int hc, h⟩
  · rw [if_neg hc] at h; cases h
abbrev MX1_init : vv_M := (yX1_init, cX1_init, 1, none, [])
theorem ok_X1_init : vv_okI MX1_init 0 := ⟨rfl, by decide, rfl, rfl, q146, q109, q147, ⟨by decide, by decide, by decide +kernel⟩⟩
abbrev MX1_feed : vv_M := (yX1_feed, cX1_feed, 8, (some .int), [])
theorem ok_X1_feed : vv_okV MX1_feed 5 := ⟨rfl, by decide, q324, q325, q109, q326, ⟨by decide, by decide, by decide +kernel⟩⟩
theorem okf_X1_feed : vv_okF MX1_feed 5 := ⟨rfl, by decide, q324, q109, q326⟩
theorem okd_X1_feed : vv_okd MX1_feed 5 := ⟨by decide, by decide, by decide +kernel⟩
abbrev MX1_fault : vv_M := (yX1_fault, cX1_fault, 1, (some .int), [])
theorem ok_X1_fault : vv_okV MX1_fault 0 := ⟨rfl, by decide, q328, q329, q109, q330, ⟨by decide, by decide, by decide +kernel⟩⟩
theorem okf_X1_fault : vv_okF MX1_fault 0 := ⟨rfl, by decide, q328, q109, q330⟩
theorem okd_X1_fault : vv_okd MX1_fault 0 := ⟨by decide, by decide, by decide +kernel⟩
abbrev MX1_days : vv_M := (yX1_days, cX1_days, 2, (some .int), [])
theorem ok_X1_days : vv_okV MX1_days 1 := ⟨rfl, by decide, q332, q333, q109, q334, ⟨by decide, by decide, by decide +kernel⟩⟩
theorem okf_X1_days : vv_okF MX1_days 1 := ⟨rfl, by decide, q332, q109, q334⟩
theorem okd_X1_days : vv_okd MX1_days 1 := ⟨by decide, by decide, by decide +kernel⟩
abbrev MX1_in : vv_M := (yX1_in, cX1_in, 3, (some .boolean), [])
theorem ok_X1_in : vv_okS MX1_in 3 := ⟨rfl, by decide, q336, q109, q337, ⟨by decide, by decide, by decide +kernel⟩⟩
abbrev MX1_refuse : vv_M := (yX1_refuse, cX1_refuse, 2, (some .int), [])
theorem ok_X1_refuse : vv_okV MX1_refuse 1 := ⟨rfl, by decide, q340, qs0, q109, q341, ⟨by decide, by decide, by decide +kernel⟩⟩
theorem okf_X1_refuse : vv_okF MX1_refuse 1 := ⟨rfl, by decide, q340, q109, q341⟩
theorem okd_X1_refuse : vv_okd MX1_refuse 1 := ⟨by decide, by decide, by decide +kernel⟩
abbrev MX1_keep : vv_M := (yX1_keep, cX1_keep, 1, none, [])
theorem ok_X1_keep : vv_okV MX1_keep 0 := ⟨rfl, by decide, q344, qs1, q109, q345, ⟨by decide, by decide, by decide +kernel⟩⟩
theorem okf_X1_keep : vv_okF MX1_keep 0 := ⟨rfl, by decide, q344, q109, q345⟩
theorem okd_X1_keep : vv_okd MX1_keep 0 := ⟨by decide, by decide, by decide +kernel⟩
abbrev MX1_draw : vv_M := (yX1_draw, cX1_draw, 2, (some .int), [])
theorem ok_X1_draw : vv_okV MX1_draw 1 := ⟨rfl, by decide, q502, qs7, q109, q503, ⟨by decide, by decide, by decide +kernel⟩⟩
theorem okf_X1_draw : vv_okF MX1_draw 1 := ⟨rfl, by decide, q502, q109, q503⟩
theorem okd_X1_draw : vv_okd MX1_draw 1 := ⟨by decide, by decide, by decide +kernel⟩
abbrev MX1_undo : vv_M := (yX1_undo, cX1_undo, 1, (some .int), [])
theorem ok_X1_undo : vv_okV MX1_undo 0 := ⟨rfl, by decide, q595, q596, q109, q597, ⟨by decide, by decide, by decide +kernel⟩⟩
theorem okf_X1_undo : vv_okF MX1_undo 0 := ⟨rfl, by decide, q595, q109, q597⟩
theorem okd_X1_undo : vv_okd MX1_undo 0 := ⟨by decide, by decide, by decide +kernel⟩
abbrev MX1_forget : vv_M := (yX1_forget, cX1_forget, 1, none, [])
theorem ok_X1_forget : vv_okV MX1_forget 0 := ⟨rfl, by decide, q608, q609, q109, q610, ⟨by decide, by decide, by decide +kernel⟩⟩
theorem okf_X1_forget : vv_okF MX1_forget 0 := ⟨rfl, by decide, q608, q109, q610⟩
theorem okd_X1_forget : vv_okd MX1_forget 0 := ⟨by decide, by decide, by decide +kernel⟩
abbrev MX1_missed : vv_M := (yX1_missed, cX1_missed, 6, (some .int), [])
theorem ok_X1_missed : vv_okV MX1_missed 0 := ⟨rfl, by decide, q612, q613, q109, q614, ⟨by decide, by decide, by decide +kernel⟩⟩
theorem okf_X1_missed : vv_okF MX1_missed 0 := ⟨rfl, by decide, q612, q109, q614⟩
theorem okd_X1_missed : vv_okd MX1_missed 0 := ⟨by decide, by decide, by decide +kernel⟩
abbrev MX1_wonIn : vv_M := (yX1_wonIn, cX1_wonIn, 3, (some .int), [])
theorem ok_X1_wonIn : vv_okV MX1_wonIn 2 := ⟨rfl, by decide, q627, qs9, q109, q628, ⟨by decide, by decide, by decide +kernel⟩⟩
theorem okf_X1_wonIn : vv_okF MX1_wonIn 2 := ⟨rfl, by decide, q627, q109, q628⟩
theorem okd_X1_wonIn : vv_okd MX1_wonIn 2 := ⟨by decide, by decide, by decide +kernel⟩
abbrev MX1_hub : vv_M := (yX1_hub, cX1_hub, 7, (some .int), [])
theorem ok_X1_hub : vv_okV MX1_hub 0 := ⟨rfl, by decide, q634, q635, q109, q636, ⟨by decide, by decide, by decide +kernel⟩⟩
theorem okf_X1_hub : vv_okF MX1_hub 0 := ⟨rfl, by decide, q634, q109, q636⟩
theorem okd_X1_hub : vv_okd MX1_hub 0 := ⟨by decide, by decide, by decide +kernel⟩
abbrev MX1_spoilt : vv_M := (yX1_spoilt, cX1_spoilt, 3, (some .int), [])
theorem ok_X1_spoilt : vv_okV MX1_spoilt 0 := ⟨rfl, by decide, q655, q656, q109, q657, ⟨by decide, by decide, by decide +kernel⟩⟩
theorem okf_X1_spoilt : vv_okF MX1_spoilt 0 := ⟨rfl, by decide, q655, q109, q657⟩
theorem okd_X1_spoilt : vv_okd MX1_spoilt 0 := ⟨by decide, by decide, by decide +kernel⟩
abbrev MX1_image : vv_M := (yX1_image, cX1_image, 1, none, [])
theorem ok_X1_image : vv_okV MX1_image 0 := ⟨rfl, by decide, q660, q661, q109, q662, ⟨by decide, by decide, by decide +kernel⟩⟩
theorem okf_X1_image : vv_okF MX1_image 0 := ⟨rfl, by decide, q660, q109, q662⟩
theorem okd_X1_image : vv_okd MX1_image 0 := ⟨by decide, by decide, by decide +kernel⟩
abbrev MX1_restore : vv_M := (yX1_restore, cX1_restore, 1, (some .boolean), [])
theorem ok_X1_restore : vv_okV MX1_restore 0 := ⟨rfl, by decide, q688, q689, q109, q690, ⟨by decide, by decide, by decide +kernel⟩⟩
theorem okf_X1_restore : vv_okF MX1_restore 0 := ⟨rfl, by decide, q688, q109, q690⟩
theorem okd_X1_restore : vv_okd MX1_restore 0 := ⟨by decide, by decide, by decide +kernel⟩
abbrev MX1_right : vv_M := (yX1_right, cX1_right, 1, none, [])
theorem ok_X1_right : vv_okS MX1_right 1 := ⟨rfl, by decide, q701, q109, q702, ⟨by decide, by decide, by decide +kernel⟩⟩
abbrev MX1_count : vv_M := (yX1_count, cX1_count, 4, (some .int), [])
theorem ok_X1_count : vv_okV MX1_count 1 := ⟨rfl, by decide, q1244, q1245, q109, q1246, ⟨by decide, by decide, by decide +kernel⟩⟩
theorem okf_X1_count : vv_okF MX1_count 1 := ⟨rfl, by decide, q1244, q109, q1246⟩
theorem okd_X1_count : vv_okd MX1_count 1 := ⟨by decide, by decide, by decide +kernel⟩
abbrev MX1_found : vv_M := (yX1_found, cX1_found, 1, none, [])
theorem ok_X1_found : vv_okS MX1_found 1 := ⟨rfl, by decide, q1249, q109, q1250, ⟨by decide, by decide, by decide +kernel⟩⟩
abbrev MX1_town : vv_M := (yX1_town, cX1_town, 3, (some .int), [])
theorem ok_X1_town : vv_okV MX1_town 2 := ⟨rfl, by decide, q1270, q1271, q109, q1272, ⟨by decide, by decide, by decide +kernel⟩⟩
theorem okf_X1_town : vv_okF MX1_town 2 := ⟨rfl, by decide, q1270, q109, q1272⟩
theorem okd_X1_town : vv_okd MX1_town 2 := ⟨by decide, by decide, by decide +kernel⟩
abbrev MX1_aTown : vv_M := (yX1_aTown, cX1_aTown, 2, none, [])
theorem ok_X1_aTown : vv_okV MX1_aTown 1 := ⟨rfl, by decide, q1275, qs34, q109, q1276, ⟨by decide, by decide, by decide +kernel⟩⟩
theorem okf_X1_aTown : vv_okF MX1_aTown 1 := ⟨rfl, by decide, q1275, q109, q1276⟩
theorem okd_X1_aTown : vv_okd MX1_aTown 1 := ⟨by decide, by decide, by decide +kernel⟩
abbrev MX1_crate : vv_M := (yX1_crate, cX1_crate, 3, (some .int), [])
theorem ok_X1_crate : vv_okV MX1_crate 2 := ⟨rfl, by decide, q1286, q1287, q109, q1288, ⟨by decide, by decide, by decide +kernel⟩⟩
theorem okf_X1_crate : vv_okF MX1_crate 2 := ⟨rfl, by decide, q1286, q109, q1288⟩
theorem okd_X1_crate : vv_okd MX1_crate 2 := ⟨by decide, by decide, by decide +kernel⟩
abbrev MX1_aCrate : vv_M := (yX1_aCrate, cX1_aCrate, 2, none, [])
theorem ok_X1_aCrate : vv_okV MX1_aCrate 1 := ⟨rfl, by decide, q1291, qs35, q109, q1292, ⟨by decide, by decide, by decide +kernel⟩⟩
theorem okf_X1_aCrate : vv_okF MX1_aCrate 1 := ⟨rfl, by decide, q1291, q109, q1292⟩
theorem okd_X1_aCrate : vv_okd MX1_aCrate 1 := ⟨by decide, by decide, by decide +kernel⟩
abbrev MX1_oneOf : vv_M := (yX1_oneOf, cX1_oneOf, 2, none, [])
theorem ok_X1_oneOf : vv_okS MX1_oneOf 2 := ⟨rfl, by decide, q1294, q109, q1295, ⟨by decide, by decide, by decide +kernel⟩⟩
abbrev MX1_send : vv_M := (yX1_send, cX1_send, 4, (some .int), [])
theorem ok_X1_send : vv_okV MX1_send 2 := ⟨rfl, by decide, q1300, q1301, q109, q1302, ⟨by decide, by decide, by decide +kernel⟩⟩
theorem okf_X1_send : vv_okF MX1_send 2 := ⟨rfl, by decide, q1300, q109, q1302⟩
theorem okd_X1_send : vv_okd MX1_send 2 := ⟨by decide, by decide, by decide +kernel⟩
abbrev MX1_open : vv_M := (yX1_open, cX1_open, 2, (some .int), [])
theorem ok_X1_open : vv_okV MX1_open 1 := ⟨rfl, by decide, q1309, q1310, q109, q1311, ⟨by decide, by decide, by decide +kernel⟩⟩
theorem okf_X1_open : vv_okF MX1_open 1 := ⟨rfl, by decide, q1309, q109, q1311⟩
theorem okd_X1_open : vv_okd MX1_open 1 := ⟨by decide, by decide, by decide +kernel⟩
abbrev MX1_cat : vv_M := (yX1_cat, cX1_cat, 3, (some .boolean), [])
theorem ok_X1_cat : vv_okV MX1_cat 2 := ⟨rfl, by decide, q1316, q1317, q109, q1318, ⟨by decide, by decide, by decide +kernel⟩⟩
theorem okf_X1_cat : vv_okF MX1_cat 2 := ⟨rfl, by decide, q1316, q109, q1318⟩
theorem okd_X1_cat : vv_okd MX1_cat 2 := ⟨by decide, by decide, by decide +kernel⟩
abbrev MX1_mix : vv_M := (yX1_mix, cX1_mix, 5, (some .int), [])
theorem ok_X1_mix : vv_okV MX1_mix 2 := ⟨rfl, by decide, q1323, q1324, q109, q1325, ⟨by decide, by decide, by decide +kernel⟩⟩
theorem okf_X1_mix : vv_okF MX1_mix 2 := ⟨rfl, by decide, q1323, q109, q1325⟩
theorem okd_X1_mix : vv_okd MX1_mix 2 := ⟨by decide, by decide, by decide +kernel⟩
abbrev MX1_then : vv_M := (yX1_then, cX1_then, 5, (some .int), [])
theorem ok_X1_then : vv_okV MX1_then 3 := ⟨rfl, by decide, q1334, q1335, q109, q1336, ⟨by decide, by decide, by decide +kernel⟩⟩
theorem okf_X1_then : vv_okF MX1_then 3 := ⟨rfl, by decide, q1334, q109, q1336⟩
theorem okd_X1_then : vv_okd MX1_then 3 := ⟨by decide, by decide, by decide +kernel⟩
abbrev MX1_even : vv_M := (yX1_even, cX1_even, 4, (some .int), [])
theorem ok_X1_even : vv_okV MX1_even 1 := ⟨rfl, by decide, q1341, q1342, q109, q1343, ⟨by decide, by decide, by decide +kernel⟩⟩
theorem okf_X1_even : vv_okF MX1_even 1 := ⟨rfl, by decide, q1341, q109, q1343⟩
theorem okd_X1_even : vv_okd MX1_even 1 := ⟨by decide, by decide, by decide +kernel⟩
abbrev MX1_out : vv_M := (yX1_out, cX1_out, 4, (some .int), [])
theorem ok_X1_out : vv_okV MX1_out 1 := ⟨rfl, by decide, q1349, q1350, q109, q1351, ⟨by decide, by decide, by decide +kernel⟩⟩
theorem okf_X1_out : vv_okF MX1_out 1 := ⟨rfl, by decide, q1349, q109, q1351⟩
theorem okd_X1_out : vv_okd MX1_out 1 := ⟨by decide, by decide, by decide +kernel⟩
abbrev MX1_isOf : vv_M := (yX1_isOf, cX1_isOf, 2, (some .boolean), [])
theorem ok_X1_isOf : vv_okS MX1_isOf 2 := ⟨rfl, by decide, q1353, q109, q1354, ⟨by decide, by decide, by decide +kernel⟩⟩
abbrev MX1_luckiest : vv_M := (yX1_luckiest, cX1_luckiest, 5, (some .int), [])
theorem ok_X1_luckiest : vv_okV MX1_luckiest 1 := ⟨rfl, by decide, q1359, q1360, q109, q1361, ⟨by decide, by decide, by decide +kernel⟩⟩
theorem okf_X1_luckiest : vv_okF MX1_luckiest 1 := ⟨rfl, by decide, q1359, q109, q1361⟩
theorem okd_X1_luckiest : vv_okd MX1_luckiest 1 := ⟨by decide, by decide, by decide +kernel⟩
abbrev MX1_far : vv_M := (yX1_far, cX1_far, 3, (some .int), [])
theorem ok_X1_far : vv_okV MX1_far 2 := ⟨rfl, by decide, q1366, q1367, q109, q1368, ⟨by decide, by decide, by decide +kernel⟩⟩
theorem okf_X1_far : vv_okF MX1_far 2 := ⟨rfl, by decide, q1366, q109, q1368⟩
theorem okd_X1_far : vv_okd MX1_far 2 := ⟨by decide, by decide, by decide +kernel⟩
abbrev MX1_told : vv_M := (yX1_told, cX1_told, 1, (some .int), [])
theorem ok_X1_told : vv_okS MX1_told 1 := ⟨rfl, by decide, q1370, q109, q1371, ⟨by decide, by decide, by decide +kernel⟩⟩
abbrev MX1_leak : vv_M := (yX1_leak, cX1_leak, 3, (some .int), [])
theorem ok_X1_leak : vv_okV MX1_leak 2 := ⟨rfl, by decide, q1376, q1377, q109, q1378, ⟨by decide, by decide, by decide +kernel⟩⟩
theorem okf_X1_leak : vv_okF MX1_leak 2 := ⟨rfl, by decide, q1376, q109, q1378⟩
theorem okd_X1_leak : vv_okd MX1_leak 2 := ⟨by decide, by decide, by decide +kernel⟩
abbrev MX1_sending : vv_M := (yX1_sending, cX1_sending, 10, (some .int), [])
theorem ok_X1_sending : vv_okV MX1_sending 2 := ⟨rfl, by decide, q1383, q1384, q109, q1385, ⟨by decide, by decide, by decide +kernel⟩⟩
theorem okf_X1_sending : vv_okF MX1_sending 2 := ⟨rfl, by decide, q1383, q109, q1385⟩
theorem okd_X1_sending : vv_okd MX1_sending 2 := ⟨by decide, by decide, by decide +kernel⟩
abbrev MX1_hold : vv_M := (yX1_hold, cX1_hold, 10, (some .int), [])
theorem ok_X1_hold : vv_okV MX1_hold 2 := ⟨rfl, by decide, q1391, q1392, q109, q1393, ⟨by decide, by decide, by decide +kernel⟩⟩
theorem okf_X1_hold : vv_okF MX1_hold 2 := ⟨rfl, by decide, q1391, q109, q1393⟩
theorem okd_X1_hold : vv_okd MX1_hold 2 := ⟨by decide, by decide, by decide +kernel⟩
abbrev MX1_harms : vv_M := (yX1_harms, cX1_harms, 7, (some (.array (.array .int))), [])
theorem ok_X1_harms : vv_okV MX1_harms 1 := ⟨rfl, by decide, q1396, qs36, q109, q1397, ⟨by decide, by decide, by decide +kernel⟩⟩
theorem okf_X1_harms : vv_okF MX1_harms 1 := ⟨rfl, by decide, q1396, q109, q1397⟩
theorem okd_X1_harms : vv_okd MX1_harms 1 := ⟨by decide, by decide, by decide +kernel⟩
abbrev MX1_harm : vv_M := (yX1_harm, cX1_harm, 3, (some .int), [])
theorem ok_X1_harm : vv_okV MX1_harm 2 := ⟨rfl, by decide, q1402, qs37, q109, q1403, ⟨by decide, by decide, by decide +kernel⟩⟩
theorem okf_X1_harm : vv_okF MX1_harm 2 := ⟨rfl, by decide, q1402, q109, q1403⟩
theorem okd_X1_harm : vv_okd MX1_harm 2 := ⟨by decide, by decide, by decide +kernel⟩
abbrev MX1_thrower : vv_M := (yX1_thrower, cX1_thrower, 5, (some .int), [])
theorem ok_X1_thrower : vv_okV MX1_thrower 4 := ⟨rfl, by decide, q1408, q1409, q109, q1410, ⟨by decide, by decide, by decide +kernel⟩⟩
theorem okf_X1_thrower : vv_okF MX1_thrower 4 := ⟨rfl, by decide, q1408, q109, q1410⟩
theorem okd_X1_thrower : vv_okd MX1_thrower 4 := ⟨by decide, by decide, by decide +kernel⟩
abbrev MX1_reaches : vv_M := (yX1_reaches, cX1_reaches, 4, (some .int), [])
theorem ok_X1_reaches : vv_okS MX1_reaches 4 := ⟨rfl, by decide, q1412, q109, q1413, ⟨by decide, by decide, by decide +kernel⟩⟩
abbrev MX1_power : vv_M := (yX1_power, cX1_power, 3, (some .int), [])
theorem ok_X1_power : vv_okS MX1_power 1 := ⟨rfl, by decide, q1415, q109, q1416, ⟨by decide, by decide, by decide +kernel⟩⟩
abbrev MX1_stop : vv_M := (yX1_stop, cX1_stop, 5, (some .int), [])
theorem ok_X1_stop : vv_okV MX1_stop 4 := ⟨rfl, by decide, q1421, q1422, q109, q1423, ⟨by decide, by decide, by decide +kernel⟩⟩
theorem okf_X1_stop : vv_okF MX1_stop 4 := ⟨rfl, by decide, q1421, q109, q1423⟩
theorem okd_X1_stop : vv_okd MX1_stop 4 := ⟨by decide, by decide, by decide +kernel⟩
abbrev MX1_average : vv_M := (yX1_average, cX1_average, 3, (some .int), [])
theorem ok_X1_average : vv_okS MX1_average 3 := ⟨rfl, by decide, q1425, q109, q1426, ⟨by decide, by decide, by decide +kernel⟩⟩
abbrev MX1_going : vv_M := (yX1_going, cX1_going, 3, (some .int), [])
theorem ok_X1_going : vv_okS MX1_going 3 := ⟨rfl, by decide, q1428, q109, q1429, ⟨by decide, by decide, by decide +kernel⟩⟩
abbrev MX1_see : vv_M := (yX1_see, cX1_see, 4, (some .int), [])
theorem ok_X1_see : vv_okV MX1_see 3 := ⟨rfl, by decide, q1434, q1435, q109, q1436, ⟨by decide, by decide, by decide +kernel⟩⟩
theorem okf_X1_see : vv_okF MX1_see 3 := ⟨rfl, by decide, q1434, q109, q1436⟩
theorem okd_X1_see : vv_okd MX1_see 3 := ⟨by decide, by decide, by decide +kernel⟩
abbrev MX1_opened : vv_M := (yX1_opened, cX1_opened, 3, (some .int), [])
theorem ok_X1_opened : vv_okV MX1_opened 1 := ⟨rfl, by decide, q1441, q1442, q109, q1443, ⟨by decide, by decide, by decide +kernel⟩⟩
theorem okf_X1_opened : vv_okF MX1_opened 1 := ⟨rfl, by decide, q1441, q109, q1443⟩
theorem okd_X1_opened : vv_okd MX1_opened 1 := ⟨by decide, by decide, by decide +kernel⟩
abbrev MX1_isSoBy : vv_M := (yX1_isSoBy, cX1_isSoBy, 5, (some .boolean), [])
theorem ok_X1_isSoBy : vv_okV MX1_isSoBy 2 := ⟨rfl, by decide, q1446, qs38, q109, q1447, ⟨by decide, by decide, by decide +kernel⟩⟩
theorem okf_X1_isSoBy : vv_okF MX1_isSoBy 2 := ⟨rfl, by decide, q1446, q109, q1447⟩
theorem okd_X1_isSoBy : vv_okd MX1_isSoBy 2 := ⟨by decide, by decide, by decide +kernel⟩
abbrev MX1_openings : vv_M := (yX1_openings, cX1_openings, 4, (some (.object "java/util/List")), [])
theorem ok_X1_openings : vv_okV MX1_openings 0 := ⟨rfl, by decide, q1452, qs39, q109, q1453, ⟨by decide, by decide, by decide +kernel⟩⟩
theorem okf_X1_openings : vv_okF MX1_openings 0 := ⟨rfl, by decide, q1452, q109, q1453⟩
theorem okd_X1_openings : vv_okd MX1_openings 0 := ⟨by decide, by decide, by decide +kernel⟩
abbrev MX1_next : vv_M := (yX1_next, cX1_next, 10, (some .int), [])
theorem ok_X1_next : vv_okV MX1_next 1 := ⟨rfl, by decide, q1459, q1460, q109, q1461, ⟨by decide, by decide, by decide +kernel⟩⟩
theorem okf_X1_next : vv_okF MX1_next 1 := ⟨rfl, by decide, q1459, q109, q1461⟩
theorem okd_X1_next : vv_okd MX1_next 1 := ⟨by decide, by decide, by decide +kernel⟩
abbrev MX1_isLike : vv_M := (yX1_isLike, cX1_isLike, 4, (some .boolean), [])
theorem ok_X1_isLike : vv_okS MX1_isLike 3 := ⟨rfl, by decide, q1463, q109, q1464, ⟨by decide, by decide, by decide +kernel⟩⟩
abbrev MX1_pooled : vv_M := (yX1_pooled, cX1_pooled, 4, (some .int), [])
theorem ok_X1_pooled : vv_okV MX1_pooled 1 := ⟨rfl, by decide, q1469, q1470, q109, q1471, ⟨by decide, by decide, by decide +kernel⟩⟩
theorem okf_X1_pooled : vv_okF MX1_pooled 1 := ⟨rfl, by decide, q1469, q109, q1471⟩
theorem okd_X1_pooled : vv_okd MX1_pooled 1 := ⟨by decide, by decide, by decide +kernel⟩
abbrev MX1_game : vv_M := (yX1_game, cX1_game, 9, (some .int), [])
theorem ok_X1_game : vv_okV MX1_game 3 := ⟨rfl, by decide, q1476, q1477, q109, q1478, ⟨by decide, by decide, by decide +kernel⟩⟩
theorem okf_X1_game : vv_okF MX1_game 3 := ⟨rfl, by decide, q1476, q109, q1478⟩
theorem okd_X1_game : vv_okd MX1_game 3 := ⟨by decide, by decide, by decide +kernel⟩
abbrev MX1_gains : vv_M := (yX1_gains, cX1_gains, 8, (some (.array .int)), [])
theorem ok_X1_gains : vv_okV MX1_gains 4 := ⟨rfl, by decide, q1481, qs40, q109, q1482, ⟨by decide, by decide, by decide +kernel⟩⟩
theorem okf_X1_gains : vv_okF MX1_gains 4 := ⟨rfl, by decide, q1481, q109, q1482⟩
theorem okd_X1_gains : vv_okd MX1_gains 4 := ⟨by decide, by decide, by decide +kernel⟩
abbrev MX1_years : vv_M := (yX1_years, cX1_years, 7, (some .int), [])
theorem ok_X1_years : vv_okV MX1_years 3 := ⟨rfl, by decide, q1487, q1488, q109, q1489, ⟨by decide, by decide, by decide +kernel⟩⟩
theorem okf_X1_years : vv_okF MX1_years 3 := ⟨rfl, by decide, q1487, q109, q1489⟩
theorem okd_X1_years : vv_okd MX1_years 3 := ⟨by decide, by decide, by decide +kernel⟩
abbrev MX1_thief : vv_M := (yX1_thief, cX1_thief, 7, (some .int), [])
theorem ok_X1_thief : vv_okV MX1_thief 2 := ⟨rfl, by decide, q1495, q1496, q109, q1497, ⟨by decide, by decide, by decide +kernel⟩⟩
theorem okf_X1_thief : vv_okF MX1_thief 2 := ⟨rfl, by decide, q1495, q109, q1497⟩
theorem okd_X1_thief : vv_okd MX1_thief 2 := ⟨by decide, by decide, by decide +kernel⟩
abbrev MX1_grains : vv_M := (yX1_grains, cX1_grains, 5, (some .int), [])
theorem ok_X1_grains : vv_okV MX1_grains 2 := ⟨rfl, by decide, q1500, qs41, q109, q1501, ⟨by decide, by decide, by decide +kernel⟩⟩
theorem okf_X1_grains : vv_okF MX1_grains 2 := ⟨rfl, by decide, q1500, q109, q1501⟩
theorem okd_X1_grains : vv_okd MX1_grains 2 := ⟨by decide, by decide, by decide +kernel⟩
abbrev MX1_hasBallast : vv_M := (yX1_hasBallast, cX1_hasBallast, 3, (some .boolean), [])
theorem ok_X1_hasBallast : vv_okV MX1_hasBallast 1 := ⟨rfl, by decide, q1504, qs42, q109, q1505, ⟨by decide, by decide, by decide +kernel⟩⟩
theorem okf_X1_hasBallast : vv_okF MX1_hasBallast 1 := ⟨rfl, by decide, q1504, q109, q1505⟩
theorem okd_X1_hasBallast : vv_okd MX1_hasBallast 1 := ⟨by decide, by decide, by decide +kernel⟩
abbrev MX1_isFewer : vv_M := (yX1_isFewer, cX1_isFewer, 2, (some .boolean), [])
theorem ok_X1_isFewer : vv_okS MX1_isFewer 2 := ⟨rfl, by decide, q1507, q109, q1508, ⟨by decide, by decide, by decide +kernel⟩⟩
abbrev MX1_row : vv_M := (yX1_row, cX1_row, 7, (some .int), [])
theorem ok_X1_row : vv_okV MX1_row 3 := ⟨rfl, by decide, q1513, q1514, q109, q1515, ⟨by decide, by decide, by decide +kernel⟩⟩
theorem okf_X1_row : vv_okF MX1_row 3 := ⟨rfl, by decide, q1513, q109, q1515⟩
theorem okd_X1_row : vv_okd MX1_row 3 := ⟨by decide, by decide, by decide +kernel⟩
abbrev MX1_nextOf : vv_M := (yX1_nextOf, cX1_nextOf, 7, (some .int), [])
theorem ok_X1_nextOf : vv_okV MX1_nextOf 2 := ⟨rfl, by decide, q1518, qs43, q109, q1519, ⟨by decide, by decide, by decide +kernel⟩⟩
theorem okf_X1_nextOf : vv_okF MX1_nextOf 2 := ⟨rfl, by decide, q1518, q109, q1519⟩
theorem okd_X1_nextOf : vv_okd MX1_nextOf 2 := ⟨by decide, by decide, by decide +kernel⟩
abbrev MX1_bridge : vv_M := (yX1_bridge, cX1_bridge, 3, (some .boolean), [])
theorem ok_X1_bridge : vv_okV MX1_bridge 1 := ⟨rfl, by decide, q1524, q1525, q109, q1526, ⟨by decide, by decide, by decide +kernel⟩⟩
theorem okf_X1_bridge : vv_okF MX1_bridge 1 := ⟨rfl, by decide, q1524, q109, q1526⟩
theorem okd_X1_bridge : vv_okd MX1_bridge 1 := ⟨by decide, by decide, by decide +kernel⟩
abbrev MX1_streak : vv_M := (yX1_streak, cX1_streak, 7, (some .int), [])
theorem ok_X1_streak : vv_okV MX1_streak 2 := ⟨rfl, by decide, q1532, q1533, q109, q1534, ⟨by decide, by decide, by decide +kernel⟩⟩
theorem okf_X1_streak : vv_okF MX1_streak 2 := ⟨rfl, by decide, q1532, q109, q1534⟩
theorem okd_X1_streak : vv_okd MX1_streak 2 := ⟨by decide, by decide, by decide +kernel⟩
abbrev MX1_day : vv_M := (yX1_day, cX1_day, 9, (some .int), [])
theorem ok_X1_day : vv_okV MX1_day 2 := ⟨rfl, by decide, q1539, q1540, q109, q1541, ⟨by decide, by decide, by decide +kernel⟩⟩
theorem okf_X1_day : vv_okF MX1_day 2 := ⟨rfl, by decide, q1539, q109, q1541⟩
theorem okd_X1_day : vv_okd MX1_day 2 := ⟨by decide, by decide, by decide +kernel⟩
abbrev MX1_level : vv_M := (yX1_level, cX1_level, 6, (some .int), [])
theorem ok_X1_level : vv_okV MX1_level 1 := ⟨rfl, by decide, q1546, q1547, q109, q1548, ⟨by decide, by decide, by decide +kernel⟩⟩
theorem okf_X1_level : vv_okF MX1_level 1 := ⟨rfl, by decide, q1546, q109, q1548⟩
theorem okd_X1_level : vv_okd MX1_level 1 := ⟨by decide, by decide, by decide +kernel⟩
abbrev MX1_unlevel : vv_M := (yX1_unlevel, cX1_unlevel, 4, (some .int), [])
theorem ok_X1_unlevel : vv_okV MX1_unlevel 2 := ⟨rfl, by decide, q1551, qs44, q109, q1552, ⟨by decide, by decide, by decide +kernel⟩⟩
theorem okf_X1_unlevel : vv_okF MX1_unlevel 2 := ⟨rfl, by decide, q1551, q109, q1552⟩
theorem okd_X1_unlevel : vv_okd MX1_unlevel 2 := ⟨by decide, by decide, by decide +kernel⟩
abbrev MX1_lend : vv_M := (yX1_lend, cX1_lend, 5, (some .int), [])
theorem ok_X1_lend : vv_okV MX1_lend 1 := ⟨rfl, by decide, q1557, q1558, q109, q1559, ⟨by decide, by decide, by decide +kernel⟩⟩
theorem okf_X1_lend : vv_okF MX1_lend 1 := ⟨rfl, by decide, q1557, q109, q1559⟩
theorem okd_X1_lend : vv_okd MX1_lend 1 := ⟨by decide, by decide, by decide +kernel⟩
abbrev MX2_init : vv_M := (yX2_init, cX2_init, 1, none, [])
theorem ok_X2_init : vv_okI MX2_init 0 := ⟨rfl, by decide, rfl, rfl, q154, q110, q155, ⟨by decide, by decide, by decide +kernel⟩⟩
abbrev MX2_towns : vv_M := (yX2_towns, cX2_towns, 1, (some .int), [])
theorem ok_X2_towns : vv_okV MX2_towns 0 := ⟨rfl, by decide, q472, q473, q110, q474, ⟨by decide, by decide, by decide +kernel⟩⟩
theorem okf_X2_towns : vv_okF MX2_towns 0 := ⟨rfl, by decide, q472, q110, q474⟩
theorem okd_X2_towns : vv_okd MX2_towns 0 := ⟨by decide, by decide, by decide +kernel⟩
abbrev MX2_least : vv_M := (yX2_least, cX2_least, 3, (some (.array .int)), [])
theorem ok_X2_least : vv_okV MX2_least 2 := ⟨rfl, by decide, q640, q641, q110, q642, ⟨by decide, by decide, by decide +kernel⟩⟩
theorem okf_X2_least : vv_okF MX2_least 2 := ⟨rfl, by decide, q640, q110, q642⟩
theorem okd_X2_least : vv_okd MX2_least 2 := ⟨by decide, by decide, by decide +kernel⟩
abbrev MX2_least_2 : vv_M := (yX2_least_2, cX2_least_2, 9, (some (.array .int)), [])
theorem ok_X2_least_2 : vv_okV MX2_least_2 3 := ⟨rfl, by decide, q644, q645, q110, q646, ⟨by decide, by decide, by decide +kernel⟩⟩
theorem okf_X2_least_2 : vv_okF MX2_least_2 3 := ⟨rfl, by decide, q644, q110, q646⟩
theorem okd_X2_least_2 : vv_okd MX2_least_2 3 := ⟨by decide, by decide, by decide +kernel⟩
abbrev MX2_isJoined : vv_M := (yX2_isJoined, cX2_isJoined, 4, (some .boolean), [])
theorem ok_X2_isJoined : vv_okV MX2_isJoined 2 := ⟨rfl, by decide, q1011, q1012, q110, q1013, ⟨by decide, by decide, by decide +kernel⟩⟩
theorem okf_X2_isJoined : vv_okF MX2_isJoined 2 := ⟨rfl, by decide, q1011, q110, q1013⟩
theorem okd_X2_isJoined : vv_okd MX2_isJoined 2 := ⟨by decide, by decide, by decide +kernel⟩
abbrev MX3_init : vv_M := (yX3_init, cX3_init, 2, none, [])
theorem ok_X3_init : vv_okI MX3_init 1 := ⟨rfl, by decide, rfl, rfl, q214, q114, q215, ⟨by decide, by decide, by decide +kernel⟩⟩
abbrev MX3_copy : vv_M := (yX3_copy, cX3_copy, 1, (some (.object "LuckCrates$Coast")), [])
theorem ok_X3_copy : vv_okV MX3_copy 0 := ⟨rfl, by decide, q347, q348, q114, q349, ⟨by decide, by decide, by decide +kernel⟩⟩
theorem okf_X3_copy : vv_okF MX3_copy 0 := ⟨rfl, by decide, q347, q114, q349⟩
theorem okd_X3_copy : vv_okd MX3_copy 0 := ⟨by decide, by decide, by decide +kernel⟩
abbrev MX3_be : vv_M := (yX3_be, cX3_be, 3, (some (.object "LuckCrates$Coast")), [])
theorem ok_X3_be : vv_okV MX3_be 1 := ⟨rfl, by decide, q353, q354, q114, q355, ⟨by decide, by decide, by decide +kernel⟩⟩
theorem okf_X3_be : vv_okF MX3_be 1 := ⟨rfl, by decide, q353, q114, q355⟩
theorem okd_X3_be : vv_okd MX3_be 1 := ⟨by decide, by decide, by decide +kernel⟩
abbrev MX3_after : vv_M := (yX3_after, cX3_after, 3, (some (.object "LuckCrates$Coast")), [])
theorem ok_X3_after : vv_okV MX3_after 1 := ⟨rfl, by decide, q455, q456, q114, q457, ⟨by decide, by decide, by decide +kernel⟩⟩
theorem okf_X3_after : vv_okF MX3_after 1 := ⟨rfl, by decide, q455, q114, q457⟩
theorem okd_X3_after : vv_okd MX3_after 1 := ⟨by decide, by decide, by decide +kernel⟩
abbrev MX3_pass : vv_M := (yX3_pass, cX3_pass, 4, (some (.object "LuckCrates$Coast")), [])
theorem ok_X3_pass : vv_okV MX3_pass 1 := ⟨rfl, by decide, q459, q460, q114, q461, ⟨by decide, by decide, by decide +kernel⟩⟩
theorem okf_X3_pass : vv_okF MX3_pass 1 := ⟨rfl, by decide, q459, q114, q461⟩
theorem okd_X3_pass : vv_okd MX3_pass 1 := ⟨by decide, by decide, by decide +kernel⟩
abbrev MX3_goes : vv_M := (yX3_goes, cX3_goes, 2, (some .boolean), [])
theorem ok_X3_goes : vv_okV MX3_goes 1 := ⟨rfl, by decide, q463, q464, q114, q465, ⟨by decide, by decide, by decide +kernel⟩⟩
theorem okf_X3_goes : vv_okF MX3_goes 1 := ⟨rfl, by decide, q463, q114, q465⟩
theorem okd_X3_goes : vv_okd MX3_goes 1 := ⟨by decide, by decide, by decide +kernel⟩
abbrev MX3_ship : vv_M := (yX3_ship, cX3_ship, 2, none, [])
theorem ok_X3_ship : vv_okV MX3_ship 1 := ⟨rfl, by decide, q468, qs6, q114, q469, ⟨by decide, by decide, by decide +kernel⟩⟩
theorem okf_X3_ship : vv_okF MX3_ship 1 := ⟨rfl, by decide, q468, q114, q469⟩
theorem okd_X3_ship : vv_okd MX3_ship 1 := ⟨by decide, by decide, by decide +kernel⟩
abbrev MX3_give : vv_M := (yX3_give, cX3_give, 3, none, [])
theorem ok_X3_give : vv_okV MX3_give 2 := ⟨rfl, by decide, q496, q497, q114, q498, ⟨by decide, by decide, by decide +kernel⟩⟩
theorem okf_X3_give : vv_okF MX3_give 2 := ⟨rfl, by decide, q496, q114, q498⟩
theorem okd_X3_give : vv_okd MX3_give 2 := ⟨by decide, by decide, by decide +kernel⟩
abbrev MX3_odds : vv_M := (yX3_odds, cX3_odds, 3, (some .int), [])
theorem ok_X3_odds : vv_okV MX3_odds 1 := ⟨rfl, by decide, q506, q507, q114, q508, ⟨by decide, by decide, by decide +kernel⟩⟩
theorem okf_X3_odds : vv_okF MX3_odds 1 := ⟨rfl, by decide, q506, q114, q508⟩
theorem okd_X3_odds : vv_okd MX3_odds 1 := ⟨by decide, by decide, by decide +kernel⟩
abbrev MX3_lying : vv_M := (yX3_lying, cX3_lying, 4, (some .int), [])
theorem ok_X3_lying : vv_okV MX3_lying 1 := ⟨rfl, by decide, q510, q511, q114, q512, ⟨by decide, by decide, by decide +kernel⟩⟩
theorem okf_X3_lying : vv_okF MX3_lying 1 := ⟨rfl, by decide, q510, q114, q512⟩
theorem okd_X3_lying : vv_okd MX3_lying 1 := ⟨by decide, by decide, by decide +kernel⟩
abbrev MX3_lies : vv_M := (yX3_lies, cX3_lies, 2, (some .boolean), [])
theorem ok_X3_lies : vv_okV MX3_lies 1 := ⟨rfl, by decide, q514, q515, q114, q516, ⟨by decide, by decide, by decide +kernel⟩⟩
theorem okf_X3_lies : vv_okF MX3_lies 1 := ⟨rfl, by decide, q514, q114, q516⟩
theorem okd_X3_lies : vv_okd MX3_lies 1 := ⟨by decide, by decide, by decide +kernel⟩
abbrev MX3_fares : vv_M := (yX3_fares, cX3_fares, 5, none, [])
theorem ok_X3_fares : vv_okV MX3_fares 2 := ⟨rfl, by decide, q592, qs8, q114, q593, ⟨by decide, by decide, by decide +kernel⟩⟩
theorem okf_X3_fares : vv_okF MX3_fares 2 := ⟨rfl, by decide, q592, q114, q593⟩
theorem okd_X3_fares : vv_okd MX3_fares 2 := ⟨by decide, by decide, by decide +kernel⟩
abbrev MX3_open : vv_M := (yX3_open, cX3_open, 3, (some .int), [])
theorem ok_X3_open : vv_okV MX3_open 1 := ⟨rfl, by decide, q617, q618, q114, q619, ⟨by decide, by decide, by decide +kernel⟩⟩
theorem okf_X3_open : vv_okF MX3_open 1 := ⟨rfl, by decide, q617, q114, q619⟩
theorem okd_X3_open : vv_okd MX3_open 1 := ⟨by decide, by decide, by decide +kernel⟩
abbrev MX3_lose : vv_M := (yX3_lose, cX3_lose, 2, none, [])
theorem ok_X3_lose : vv_okV MX3_lose 1 := ⟨rfl, by decide, q621, q622, q114, q623, ⟨by decide, by decide, by decide +kernel⟩⟩
theorem okf_X3_lose : vv_okF MX3_lose 1 := ⟨rfl, by decide, q621, q114, q623⟩
theorem okd_X3_lose : vv_okd MX3_lose 1 := ⟨by decide, by decide, by decide +kernel⟩
abbrev MX3_sum : vv_M := (yX3_sum, cX3_sum, 4, (some .int), [])
theorem ok_X3_sum : vv_okV MX3_sum 1 := ⟨rfl, by decide, q630, q631, q114, q632, ⟨by decide, by decide, by decide +kernel⟩⟩
theorem okf_X3_sum : vv_okF MX3_sum 1 := ⟨rfl, by decide, q630, q114, q632⟩
theorem okd_X3_sum : vv_okd MX3_sum 1 := ⟨by decide, by decide, by decide +kernel⟩
abbrev MX5_init : vv_M := (yX5_init, cX5_init, 3, none, [])
theorem ok_X5_init : vv_okI MX5_init 2 := ⟨rfl, by decide, rfl, rfl, q770, q120, q771, ⟨by decide, by decide, by decide +kernel⟩⟩
abbrev MX5_read : vv_M := (yX5_read, cX5_read, 2, (some (.object "LuckCrates$Province")), [])
theorem ok_X5_read : vv_okV MX5_read 0 := ⟨rfl, by decide, q819, q820, q120, q821, ⟨by decide, by decide, by decide +kernel⟩⟩
theorem okf_X5_read : vv_okF MX5_read 0 := ⟨rfl, by decide, q819, q120, q821⟩
theorem okd_X5_read : vv_okd MX5_read 0 := ⟨by decide, by decide, by decide +kernel⟩
abbrev MX5_next : vv_M := (yX5_next, cX5_next, 1, none, [])
theorem ok_X5_next : vv_okV MX5_next 0 := ⟨rfl, by decide, q824, qs11, q120, q825, ⟨by decide, by decide, by decide +kernel⟩⟩
theorem okf_X5_next : vv_okF MX5_next 0 := ⟨rfl, by decide, q824, q120, q825⟩
theorem okd_X5_next : vv_okd MX5_next 0 := ⟨by decide, by decide, by decide +kernel⟩
abbrev MX5_here : vv_M := (yX5_here, cX5_here, 1, (some .int), [])
theorem ok_X5_here : vv_okV MX5_here 0 := ⟨rfl, by decide, q828, qs12, q120, q829, ⟨by decide, by decide, by decide +kernel⟩⟩
theorem okf_X5_here : vv_okF MX5_here 0 := ⟨rfl, by decide, q828, q120, q829⟩
theorem okd_X5_here : vv_okd MX5_here 0 := ⟨by decide, by decide, by decide +kernel⟩
abbrev MX5_isLetter : vv_M := (yX5_isLetter, cX5_isLetter, 1, (some .boolean), [])
theorem ok_X5_isLetter : vv_okV MX5_isLetter 0 := ⟨rfl, by decide, q832, qs13, q120, q833, ⟨by decide, by decide, by decide +kernel⟩⟩
theorem okf_X5_isLetter : vv_okF MX5_isLetter 0 := ⟨rfl, by decide, q832, q120, q833⟩
theorem okd_X5_isLetter : vv_okd MX5_isLetter 0 := ⟨by decide, by decide, by decide +kernel⟩
abbrev MX5_isDigit : vv_M := (yX5_isDigit, cX5_isDigit, 1, (some .boolean), [])
theorem ok_X5_isDigit : vv_okV MX5_isDigit 0 := ⟨rfl, by decide, q837, qs14, q120, q838, ⟨by decide, by decide, by decide +kernel⟩⟩
theorem okf_X5_isDigit : vv_okF MX5_isDigit 0 := ⟨rfl, by decide, q837, q120, q838⟩
theorem okd_X5_isDigit : vv_okd MX5_isDigit 0 := ⟨by decide, by decide, by decide +kernel⟩
abbrev MX5_line : vv_M := (yX5_line, cX5_line, 1, none, [])
theorem ok_X5_line : vv_okV MX5_line 0 := ⟨rfl, by decide, q913, qs15, q120, q914, ⟨by decide, by decide, by decide +kernel⟩⟩
theorem okf_X5_line : vv_okF MX5_line 0 := ⟨rfl, by decide, q913, q120, q914⟩
theorem okd_X5_line : vv_okd MX5_line 0 := ⟨by decide, by decide, by decide +kernel⟩
abbrev MX5_is : vv_M := (yX5_is, cX5_is, 3, (some .boolean), [])
theorem ok_X5_is : vv_okV MX5_is 1 := ⟨rfl, by decide, q918, qs16, q120, q919, ⟨by decide, by decide, by decide +kernel⟩⟩
theorem okf_X5_is : vv_okF MX5_is 1 := ⟨rfl, by decide, q918, q120, q919⟩
theorem okd_X5_is : vv_okd MX5_is 1 := ⟨by decide, by decide, by decide +kernel⟩
abbrev MX5_town : vv_M := (yX5_town, cX5_town, 3, none, [])
theorem ok_X5_town : vv_okV MX5_town 0 := ⟨rfl, by decide, q938, qs17, q120, q939, ⟨by decide, by decide, by decide +kernel⟩⟩
theorem okf_X5_town : vv_okF MX5_town 0 := ⟨rfl, by decide, q938, q120, q939⟩
theorem okd_X5_town : vv_okd MX5_town 0 := ⟨by decide, by decide, by decide +kernel⟩
abbrev MX5_want : vv_M := (yX5_want, cX5_want, 3, none, [])
theorem ok_X5_want : vv_okV MX5_want 2 := ⟨rfl, by decide, q943, qs18, q120, q944, ⟨by decide, by decide, by decide +kernel⟩⟩
theorem okf_X5_want : vv_okF MX5_want 2 := ⟨rfl, by decide, q943, q120, q944⟩
theorem okd_X5_want : vv_okd MX5_want 2 := ⟨by decide, by decide, by decide +kernel⟩
abbrev MX5_number : vv_M := (yX5_number, cX5_number, 4, (some .int), [])
theorem ok_X5_number : vv_okV MX5_number 2 := ⟨rfl, by decide, q971, qs19, q120, q972, ⟨by decide, by decide, by decide +kernel⟩⟩
theorem okf_X5_number : vv_okF MX5_number 2 := ⟨rfl, by decide, q971, q120, q972⟩
theorem okd_X5_number : vv_okd MX5_number 2 := ⟨by decide, by decide, by decide +kernel⟩
abbrev MX5_numberNow : vv_M := (yX5_numberNow, cX5_numberNow, 3, (some .int), [])
theorem ok_X5_numberNow : vv_okV MX5_numberNow 2 := ⟨rfl, by decide, q975, qs20, q120, q976, ⟨by decide, by decide, by decide +kernel⟩⟩
theorem okf_X5_numberNow : vv_okF MX5_numberNow 2 := ⟨rfl, by decide, q975, q120, q976⟩
theorem okd_X5_numberNow : vv_okd MX5_numberNow 2 := ⟨by decide, by decide, by decide +kernel⟩
abbrev MX5_way : vv_M := (yX5_way, cX5_way, 4, none, [])
theorem ok_X5_way : vv_okV MX5_way 0 := ⟨rfl, by decide, q1002, qs21, q120, q1003, ⟨by decide, by decide, by decide +kernel⟩⟩
theorem okf_X5_way : vv_okF MX5_way 0 := ⟨rfl, by decide, q1002, q120, q1003⟩
theorem okd_X5_way : vv_okd MX5_way 0 := ⟨by decide, by decide, by decide +kernel⟩
abbrev MX5_townNow : vv_M := (yX5_townNow, cX5_townNow, 2, (some .int), [])
theorem ok_X5_townNow : vv_okV MX5_townNow 0 := ⟨rfl, by decide, q1008, qs22, q120, q1009, ⟨by decide, by decide, by decide +kernel⟩⟩
theorem okf_X5_townNow : vv_okF MX5_townNow 0 := ⟨rfl, by decide, q1008, q120, q1009⟩
theorem okd_X5_townNow : vv_okd MX5_townNow 0 := ⟨by decide, by decide, by decide +kernel⟩
abbrev MX5_crate : vv_M := (yX5_crate, cX5_crate, 3, none, [])
theorem ok_X5_crate : vv_okV MX5_crate 1 := ⟨rfl, by decide, q1049, qs23, q120, q1050, ⟨by decide, by decide, by decide +kernel⟩⟩
theorem okf_X5_crate : vv_okF MX5_crate 1 := ⟨rfl, by decide, q1049, q120, q1050⟩
theorem okd_X5_crate : vv_okd MX5_crate 1 := ⟨by decide, by decide, by decide +kernel⟩
abbrev MX5_passes : vv_M := (yX5_passes, cX5_passes, 3, (some .boolean), [])
theorem ok_X5_passes : vv_okV MX5_passes 1 := ⟨rfl, by decide, q1054, qs24, q120, q1055, ⟨by decide, by decide, by decide +kernel⟩⟩
theorem okf_X5_passes : vv_okF MX5_passes 1 := ⟨rfl, by decide, q1054, q120, q1055⟩
theorem okd_X5_passes : vv_okd MX5_passes 1 := ⟨by decide, by decide, by decide +kernel⟩
abbrev MX5_expression : vv_M := (yX5_expression, cX5_expression, 3, (some (.object "LuckCrates$Form")), [])
theorem ok_X5_expression : vv_okV MX5_expression 1 := ⟨rfl, by decide, q1059, qs25, q120, q1060, ⟨by decide, by decide, by decide +kernel⟩⟩
theorem okf_X5_expression : vv_okF MX5_expression 1 := ⟨rfl, by decide, q1059, q120, q1060⟩
theorem okd_X5_expression : vv_okd MX5_expression 1 := ⟨by decide, by decide, by decide +kernel⟩
abbrev MX5_isSign : vv_M := (yX5_isSign, cX5_isSign, 2, (some .boolean), [])
theorem ok_X5_isSign : vv_okV MX5_isSign 1 := ⟨rfl, by decide, q1063, qs26, q120, q1064, ⟨by decide, by decide, by decide +kernel⟩⟩
theorem okf_X5_isSign : vv_okF MX5_isSign 1 := ⟨rfl, by decide, q1063, q120, q1064⟩
theorem okd_X5_isSign : vv_okd MX5_isSign 1 := ⟨by decide, by decide, by decide +kernel⟩
abbrev MX5_and : vv_M := (yX5_and, cX5_and, 3, (some (.object "LuckCrates$Form")), [])
theorem ok_X5_and : vv_okV MX5_and 1 := ⟨rfl, by decide, q1069, qs27, q120, q1070, ⟨by decide, by decide, by decide +kernel⟩⟩
theorem okf_X5_and : vv_okF MX5_and 1 := ⟨rfl, by decide, q1069, q120, q1070⟩
theorem okd_X5_and : vv_okd MX5_and 1 := ⟨by decide, by decide, by decide +kernel⟩
abbrev MX5_not : vv_M := (yX5_not, cX5_not, 6, (some (.object "LuckCrates$Form")), [])
theorem ok_X5_not : vv_okV MX5_not 1 := ⟨rfl, by decide, q1073, qs28, q120, q1074, ⟨by decide, by decide, by decide +kernel⟩⟩
theorem okf_X5_not : vv_okF MX5_not 1 := ⟨rfl, by decide, q1073, q120, q1074⟩
theorem okd_X5_not : vv_okd MX5_not 1 := ⟨by decide, by decide, by decide +kernel⟩
abbrev MX5_sum : vv_M := (yX5_sum, cX5_sum, 4, (some (.object "LuckCrates$Form")), [])
theorem ok_X5_sum : vv_okV MX5_sum 1 := ⟨rfl, by decide, q1078, qs29, q120, q1079, ⟨by decide, by decide, by decide +kernel⟩⟩
theorem okf_X5_sum : vv_okF MX5_sum 1 := ⟨rfl, by decide, q1078, q120, q1079⟩
theorem okd_X5_sum : vv_okd MX5_sum 1 := ⟨by decide, by decide, by decide +kernel⟩
abbrev MX5_product : vv_M := (yX5_product, cX5_product, 4, (some (.object "LuckCrates$Form")), [])
theorem ok_X5_product : vv_okV MX5_product 1 := ⟨rfl, by decide, q1082, qs30, q120, q1083, ⟨by decide, by decide, by decide +kernel⟩⟩
theorem okf_X5_product : vv_okF MX5_product 1 := ⟨rfl, by decide, q1082, q120, q1083⟩
theorem okd_X5_product : vv_okd MX5_product 1 := ⟨by decide, by decide, by decide +kernel⟩
abbrev MX5_part : vv_M := (yX5_part, cX5_part, 3, (some (.object "LuckCrates$Form")), [])
theorem ok_X5_part : vv_okV MX5_part 1 := ⟨rfl, by decide, q1086, qs31, q120, q1087, ⟨by decide, by decide, by decide +kernel⟩⟩
theorem okf_X5_part : vv_okF MX5_part 1 := ⟨rfl, by decide, q1086, q120, q1087⟩
theorem okd_X5_part : vv_okd MX5_part 1 := ⟨by decide, by decide, by decide +kernel⟩
abbrev MX5_which : vv_M := (yX5_which, cX5_which, 3, (some .int), [])
theorem ok_X5_which : vv_okV MX5_which 1 := ⟨rfl, by decide, q1100, qs32, q120, q1101, ⟨by decide, by decide, by decide +kernel⟩⟩
theorem okf_X5_which : vv_okF MX5_which 1 := ⟨rfl, by decide, q1100, q120, q1101⟩
theorem okd_X5_which : vv_okd MX5_which 1 := ⟨by decide, by decide, by decide +kernel⟩
abbrev MX5_sign : vv_M := (yX5_sign, cX5_sign, 2, (some .char), [])
theorem ok_X5_sign : vv_okV MX5_sign 0 := ⟨rfl, by decide, q1157, qs33, q120, q1158, ⟨by decide, by decide, by decide +kernel⟩⟩
theorem okf_X5_sign : vv_okF MX5_sign 0 := ⟨rfl, by decide, q1157, q120, q1158⟩
theorem okd_X5_sign : vv_okd MX5_sign 0 := ⟨by decide, by decide, by decide +kernel⟩
abbrev MX6_init : vv_M := (yX6_init, cX6_init, 2, none, [])
theorem ok_X6_init : vv_okI MX6_init 1 := ⟨rfl, by decide, rfl, rfl, q955, q127, q956, ⟨by decide, by decide, by decide +kernel⟩⟩
abbrev MX7_from : vv_M := (yX7_from, cX7_from, 2, (some .int), [])
theorem ok_X7_from : vv_okV MX7_from 1 := ⟨rfl, by decide, q1015, q1016, q135, q1017, ⟨by decide, by decide, by decide +kernel⟩⟩
theorem okf_X7_from : vv_okF MX7_from 1 := ⟨rfl, by decide, q1015, q135, q1017⟩
theorem okd_X7_from : vv_okd MX7_from 1 := ⟨by decide, by decide, by decide +kernel⟩
abbrev MX7_init : vv_M := (yX7_init, cX7_init, 5, none, [])
theorem ok_X7_init : vv_okI MX7_init 4 := ⟨rfl, by decide, rfl, rfl, q1021, q135, q1022, ⟨by decide, by decide, by decide +kernel⟩⟩
abbrev MX8_of : vv_M := (yX8_of, cX8_of, 4, (some .int), [])
theorem okf_X8_of : vv_okF MX8_of 1 := ⟨rfl, by decide, q530, q136, q532⟩
theorem okd_X8_of : vv_okd MX8_of 1 := ⟨by decide, by decide, by decide +kernel⟩
abbrev MX8_by : vv_M := (yX8_by, cX8_by, 3, (some .int), [])
theorem ok_X8_by : vv_okS MX8_by 3 := ⟨rfl, by decide, q588, q136, q589, ⟨by decide, by decide, by decide +kernel⟩⟩
abbrev MX8_init : vv_M := (yX8_init, cX8_init, 2, none, [])
theorem ok_X8_init : vv_okI MX8_init 1 := ⟨rfl, by decide, rfl, rfl, q1113, q136, q1114, ⟨by decide, by decide, by decide +kernel⟩⟩
abbrev MX8_add : vv_M := (yX8_add, cX8_add, 3, none, [])
theorem ok_X8_add : vv_okV MX8_add 2 := ⟨rfl, by decide, q1160, q1161, q136, q1162, ⟨by decide, by decide, by decide +kernel⟩⟩
theorem okf_X8_add : vv_okF MX8_add 2 := ⟨rfl, by decide, q1160, q136, q1162⟩
theorem okd_X8_add : vv_okd MX8_add 2 := ⟨by decide, by decide, by decide +kernel⟩
abbrev MX8_plain : vv_M := (yX8_plain, cX8_plain, 1, (some (.object "LuckCrates$Form")), [])
theorem ok_X8_plain : vv_okV MX8_plain 0 := ⟨rfl, by decide, q1224, q1225, q136, q1226, ⟨by decide, by decide, by decide +kernel⟩⟩
theorem okf_X8_plain : vv_okF MX8_plain 0 := ⟨rfl, by decide, q1224, q136, q1226⟩
theorem okd_X8_plain : vv_okd MX8_plain 0 := ⟨by decide, by decide, by decide +kernel⟩
abbrev MX9_of : vv_M := (yX9_of, cX9_of, 2, (some .int), [])
theorem okf_X9_of : vv_okF MX9_of 1 := ⟨rfl, by decide, q549, q137, q551⟩
theorem okd_X9_of : vv_okd MX9_of 1 := ⟨by decide, by decide, by decide +kernel⟩
abbrev MX9_init : vv_M := (yX9_init, cX9_init, 2, none, [])
theorem ok_X9_init : vv_okI MX9_init 1 := ⟨rfl, by decide, rfl, rfl, q1091, q137, q1092, ⟨by decide, by decide, by decide +kernel⟩⟩
abbrev MX10_of : vv_M := (yX10_of, cX10_of, 2, (some .int), [])
theorem okf_X10_of : vv_okF MX10_of 1 := ⟨rfl, by decide, q555, q138, q557⟩
theorem okd_X10_of : vv_okd MX10_of 1 := ⟨by decide, by decide, by decide +kernel⟩
abbrev MX10_init : vv_M := (yX10_init, cX10_init, 2, none, [])
theorem ok_X10_init : vv_okI MX10_init 1 := ⟨rfl, by decide, rfl, rfl, q1105, q138, q1106, ⟨by decide, by decide, by decide +kernel⟩⟩
abbrev MX11_of : vv_M := (yX11_of, cX11_of, 2, (some .int), [])
theorem okf_X11_of : vv_okF MX11_of 1 := ⟨rfl, by decide, q541, q141, q543⟩
theorem okd_X11_of : vv_okd MX11_of 1 := ⟨by decide, by decide, by decide +kernel⟩
abbrev MX11_init : vv_M := (yX11_init, cX11_init, 2, none, [])
theorem ok_X11_init : vv_okI MX11_init 1 := ⟨rfl, by decide, rfl, rfl, q1230, q141, q1231, ⟨by decide, by decide, by decide +kernel⟩⟩
abbrev MJ0_init : vv_M := (yJ0_init, cJ0_init, 1, none, [])
theorem ok_J0_init : vv_okI MJ0_init 0 := ⟨rfl, by decide, rfl, rfl, q166, q111, q167, ⟨by decide, by decide, by decide +kernel⟩⟩
abbrev MJ1_init : vv_M := (yJ1_init, cJ1_init, 1, none, [])
theorem ok_J1_init : vv_okI MJ1_init 0 := ⟨rfl, by decide, rfl, rfl, q163, q112, q164, ⟨by decide, by decide, by decide +kernel⟩⟩
abbrev MJ2_init : vv_M := (yJ2_init, cJ2_init, 1, none, [])
theorem ok_J2_init : vv_okI MJ2_init 0 := ⟨rfl, by decide, rfl, rfl, q160, q113, q161, ⟨by decide, by decide, by decide +kernel⟩⟩
abbrev MJ2_add : vv_M := (yJ2_add, cJ2_add, 2, (some .boolean), [])
theorem okf_J2_add : vv_okF MJ2_add 1 := ⟨rfl, by decide, q363, q113, q365⟩
theorem okd_J2_add : vv_okd MJ2_add 1 := ⟨by decide, by decide, by decide +kernel⟩
abbrev MJ2_add_2 : vv_M := (yJ2_add_2, cJ2_add_2, 4, none, [])
theorem ok_J2_add_2 : vv_okV MJ2_add_2 3 := ⟨rfl, by decide, q368, qs2, q113, q369, ⟨by decide, by decide, by decide +kernel⟩⟩
theorem okf_J2_add_2 : vv_okF MJ2_add_2 3 := ⟨rfl, by decide, q368, q113, q369⟩
theorem okd_J2_add_2 : vv_okd MJ2_add_2 3 := ⟨by decide, by decide, by decide +kernel⟩
abbrev MJ2_grow : vv_M := (yJ2_grow, cJ2_grow, 1, (some (.array (.object "java/lang/Object"))), [])
theorem ok_J2_grow : vv_okV MJ2_grow 0 := ⟨rfl, by decide, q372, qs3, q113, q373, ⟨by decide, by decide, by decide +kernel⟩⟩
theorem okf_J2_grow : vv_okF MJ2_grow 0 := ⟨rfl, by decide, q372, q113, q373⟩
theorem okd_J2_grow : vv_okd MJ2_grow 0 := ⟨by decide, by decide, by decide +kernel⟩
abbrev MJ2_grow_2 : vv_M := (yJ2_grow_2, cJ2_grow_2, 4, (some (.array (.object "java/lang/Object"))), [])
theorem ok_J2_grow_2 : vv_okV MJ2_grow_2 1 := ⟨rfl, by decide, q376, qs4, q113, q377, ⟨by decide, by decide, by decide +kernel⟩⟩
theorem okf_J2_grow_2 : vv_okF MJ2_grow_2 1 := ⟨rfl, by decide, q376, q113, q377⟩
theorem okd_J2_grow_2 : vv_okd MJ2_grow_2 1 := ⟨by decide, by decide, by decide +kernel⟩
abbrev MJ2_size : vv_M := (yJ2_size, cJ2_size, 1, (some .int), [])
theorem okf_J2_size : vv_okF MJ2_size 0 := ⟨rfl, by decide, q431, q113, q433⟩
theorem okd_J2_size : vv_okd MJ2_size 0 := ⟨by decide, by decide, by decide +kernel⟩
abbrev MJ2_remove : vv_M := (yJ2_remove, cJ2_remove, 4, (some (.object "java/lang/Object")), [])
theorem okf_J2_remove : vv_okF MJ2_remove 1 := ⟨rfl, by decide, q440, q113, q442⟩
theorem okd_J2_remove : vv_okd MJ2_remove 1 := ⟨by decide, by decide, by decide +kernel⟩
abbrev MJ2_fastRemove : vv_M := (yJ2_fastRemove, cJ2_fastRemove, 4, none, [])
theorem ok_J2_fastRemove : vv_okV MJ2_fastRemove 2 := ⟨rfl, by decide, q451, qs5, q113, q452, ⟨by decide, by decide, by decide +kernel⟩⟩
theorem okf_J2_fastRemove : vv_okF MJ2_fastRemove 2 := ⟨rfl, by decide, q451, q113, q452⟩
theorem okd_J2_fastRemove : vv_okd MJ2_fastRemove 2 := ⟨by decide, by decide, by decide +kernel⟩
abbrev MJ2_get : vv_M := (yJ2_get, cJ2_get, 2, (some (.object "java/lang/Object")), [])
theorem okf_J2_get : vv_okF MJ2_get 1 := ⟨rfl, by decide, q483, q113, q485⟩
theorem okd_J2_get : vv_okd MJ2_get 1 := ⟨by decide, by decide, by decide +kernel⟩
abbrev MJ2_elementData : vv_M := (yJ2_elementData, cJ2_elementData, 2, (some (.object "java/lang/Object")), [])
theorem ok_J2_elementData : vv_okV MJ2_elementData 1 := ⟨rfl, by decide, q487, q488, q113, q489, ⟨by decide, by decide, by decide +kernel⟩⟩
theorem okf_J2_elementData : vv_okF MJ2_elementData 1 := ⟨rfl, by decide, q487, q113, q489⟩
theorem okd_J2_elementData : vv_okd MJ2_elementData 1 := ⟨by decide, by decide, by decide +kernel⟩
abbrev MJ2_isEmpty : vv_M := (yJ2_isEmpty, cJ2_isEmpty, 1, (some .boolean), [])
theorem okf_J2_isEmpty : vv_okF MJ2_isEmpty 0 := ⟨rfl, by decide, q604, q113, q606⟩
theorem okd_J2_isEmpty : vv_okd MJ2_isEmpty 0 := ⟨by decide, by decide, by decide +kernel⟩
abbrev MJ2_init_2 : vv_M := (yJ2_init_2, cJ2_init_2, 3, none, [])
theorem ok_J2_init_2 : vv_okI MJ2_init_2 1 := ⟨rfl, by decide, rfl, rfl, q664, q113, q665, ⟨by decide, by decide, by decide +kernel⟩⟩
abbrev MJ2_toArray : vv_M := (yJ2_toArray, cJ2_toArray, 1, (some (.array (.object "java/lang/Object"))), [])
theorem okf_J2_toArray : vv_okF MJ2_toArray 0 := ⟨rfl, by decide, q673, q113, q675⟩
theorem okd_J2_toArray : vv_okd MJ2_toArray 0 := ⟨by decide, by decide, by decide +kernel⟩
abbrev MJ3_init : vv_M := (yJ3_init, cJ3_init, 1, none, [])
theorem ok_J3_init : vv_okI MJ3_init 0 := ⟨rfl, by decide, rfl, rfl, q726, q116, q727, ⟨by decide, by decide, by decide +kernel⟩⟩
abbrev MJ3_init_2 : vv_M := (yJ3_init_2, cJ3_init_2, 5, none, [])
theorem ok_J3_init_2 : vv_okI MJ3_init_2 4 := ⟨rfl, by decide, rfl, rfl, q961, q116, q962, ⟨by decide, by decide, by decide +kernel⟩⟩
abbrev MJ4_init : vv_M := (yJ4_init, cJ4_init, 1, none, [])
theorem ok_J4_init : vv_okI MJ4_init 0 := ⟨rfl, by decide, rfl, rfl, q751, q117, q752, ⟨by decide, by decide, by decide +kernel⟩⟩
abbrev MJ4_init_2 : vv_M := (yJ4_init_2, cJ4_init_2, 5, none, [])
theorem ok_J4_init_2 : vv_okI MJ4_init_2 4 := ⟨rfl, by decide, rfl, rfl, q958, q117, q959, ⟨by decide, by decide, by decide +kernel⟩⟩
abbrev MJ7_max : vv_M := (yJ7_max, cJ7_max, 2, (some .int), [])
theorem ok_J7_max : vv_okS MJ7_max 2 := ⟨rfl, by decide, q382, q121, q383, ⟨by decide, by decide, by decide +kernel⟩⟩
abbrev MJ7_min : vv_M := (yJ7_min, cJ7_min, 2, (some .int), [])
theorem ok_J7_min : vv_okS MJ7_min 2 := ⟨rfl, by decide, q418, q121, q419, ⟨by decide, by decide, by decide +kernel⟩⟩
abbrev MJ7_abs : vv_M := (yJ7_abs, cJ7_abs, 1, (some .int), [])
theorem ok_J7_abs : vv_okS MJ7_abs 1 := ⟨rfl, by decide, q1328, q121, q1329, ⟨by decide, by decide, by decide +kernel⟩⟩
abbrev MJ8_checkIndex : vv_M := (yJ8_checkIndex, cJ8_checkIndex, 2, none, [])
theorem ok_J8_checkIndex : vv_okS MJ8_checkIndex 2 := ⟨rfl, by decide, q570, q122, q571, ⟨by decide, by decide, by decide +kernel⟩⟩
abbrev MJ8_indexOf : vv_M := (yJ8_indexOf, cJ8_indexOf, 2, (some .int), [])
theorem ok_J8_indexOf : vv_okV MJ8_indexOf 1 := ⟨rfl, by decide, q843, q844, q122, q845, ⟨by decide, by decide, by decide +kernel⟩⟩
theorem okf_J8_indexOf : vv_okF MJ8_indexOf 1 := ⟨rfl, by decide, q843, q122, q845⟩
theorem okd_J8_indexOf : vv_okd MJ8_indexOf 1 := ⟨by decide, by decide, by decide +kernel⟩
abbrev MJ8_indexOf_2 : vv_M := (yJ8_indexOf_2, cJ8_indexOf_2, 3, (some .int), [])
theorem ok_J8_indexOf_2 : vv_okV MJ8_indexOf_2 2 := ⟨rfl, by decide, q847, q848, q122, q849, ⟨by decide, by decide, by decide +kernel⟩⟩
theorem okf_J8_indexOf_2 : vv_okF MJ8_indexOf_2 2 := ⟨rfl, by decide, q847, q122, q849⟩
theorem okd_J8_indexOf_2 : vv_okd MJ8_indexOf_2 2 := ⟨by decide, by decide, by decide +kernel⟩
abbrev MJ8_isLatin1 : vv_M := (yJ8_isLatin1, cJ8_isLatin1, 1, (some .boolean), [])
theorem ok_J8_isLatin1 : vv_okV MJ8_isLatin1 0 := ⟨rfl, by decide, q851, q852, q122, q853, ⟨by decide, by decide, by decide +kernel⟩⟩
theorem okf_J8_isLatin1 : vv_okF MJ8_isLatin1 0 := ⟨rfl, by decide, q851, q122, q853⟩
theorem okd_J8_isLatin1 : vv_okd MJ8_isLatin1 0 := ⟨by decide, by decide, by decide +kernel⟩
abbrev MJ8_length : vv_M := (yJ8_length, cJ8_length, 1, (some .int), [])
theorem ok_J8_length : vv_okV MJ8_length 0 := ⟨rfl, by decide, q857, q858, q122, q859, ⟨by decide, by decide, by decide +kernel⟩⟩
theorem okf_J8_length : vv_okF MJ8_length 0 := ⟨rfl, by decide, q857, q122, q859⟩
theorem okd_J8_length : vv_okd MJ8_length 0 := ⟨by decide, by decide, by decide +kernel⟩
abbrev MJ8_coder : vv_M := (yJ8_coder, cJ8_coder, 1, (some .byte), [])
theorem ok_J8_coder : vv_okV MJ8_coder 0 := ⟨rfl, by decide, q861, q862, q122, q863, ⟨by decide, by decide, by decide +kernel⟩⟩
theorem okf_J8_coder : vv_okF MJ8_coder 0 := ⟨rfl, by decide, q861, q122, q863⟩
theorem okd_J8_coder : vv_okd MJ8_coder 0 := ⟨by decide, by decide, by decide +kernel⟩
abbrev MJ8_checkBoundsBeginEnd : vv_M := (yJ8_checkBoundsBeginEnd, cJ8_checkBoundsBeginEnd, 3, none, [])
theorem ok_J8_checkBoundsBeginEnd : vv_okS MJ8_checkBoundsBeginEnd 3 := ⟨rfl, by decide, q888, q122, q889, ⟨by decide, by decide, by decide +kernel⟩⟩
abbrev MJ8_charAt : vv_M := (yJ8_charAt, cJ8_charAt, 2, (some .char), [])
theorem ok_J8_charAt : vv_okV MJ8_charAt 1 := ⟨rfl, by decide, q922, q923, q122, q924, ⟨by decide, by decide, by decide +kernel⟩⟩
theorem okf_J8_charAt : vv_okF MJ8_charAt 1 := ⟨rfl, by decide, q922, q122, q924⟩
theorem okd_J8_charAt : vv_okd MJ8_charAt 1 := ⟨by decide, by decide, by decide +kernel⟩
abbrev MJ8_checkBoundsOffCount : vv_M := (yJ8_checkBoundsOffCount, cJ8_checkBoundsOffCount, 3, (some .int), [])
theorem ok_J8_checkBoundsOffCount : vv_okS MJ8_checkBoundsOffCount 3 := ⟨rfl, by decide, q1212, q122, q1213, ⟨by decide, by decide, by decide +kernel⟩⟩
abbrev MJ9_indexOf : vv_M := (yJ9_indexOf, cJ9_indexOf, 4, (some .int), [])
theorem ok_J9_indexOf : vv_okS MJ9_indexOf 4 := ⟨rfl, by decide, q865, q123, q866, ⟨by decide, by decide, by decide +kernel⟩⟩
abbrev MJ9_canEncode : vv_M := (yJ9_canEncode, cJ9_canEncode, 1, (some .boolean), [])
theorem ok_J9_canEncode : vv_okS MJ9_canEncode 1 := ⟨rfl, by decide, q868, q123, q869, ⟨by decide, by decide, by decide +kernel⟩⟩
abbrev MJ9_indexOfChar : vv_M := (yJ9_indexOfChar, cJ9_indexOfChar, 6, (some .int), [])
theorem ok_J9_indexOfChar : vv_okS MJ9_indexOfChar 4 := ⟨rfl, by decide, q873, q123, q874, ⟨by decide, by decide, by decide +kernel⟩⟩
abbrev MJ9_charAt : vv_M := (yJ9_charAt, cJ9_charAt, 2, (some .char), [])
theorem ok_J9_charAt : vv_okS MJ9_charAt 2 := ⟨rfl, by decide, q926, q123, q927, ⟨by decide, by decide, by decide +kernel⟩⟩
abbrev MJ9_canEncode_2 : vv_M := (yJ9_canEncode_2, cJ9_canEncode_2, 1, (some .boolean), [])
theorem ok_J9_canEncode_2 : vv_okS MJ9_canEncode_2 1 := ⟨rfl, by decide, q1196, q123, q1197, ⟨by decide, by decide, by decide +kernel⟩⟩
abbrev MJ9_inflate : vv_M := (yJ9_inflate, cJ9_inflate, 5, none, [])
theorem ok_J9_inflate : vv_okS MJ9_inflate 5 := ⟨rfl, by decide, q1203, q123, q1204, ⟨by decide, by decide, by decide +kernel⟩⟩
abbrev MJ11_checkIndex : vv_M := (yJ11_checkIndex, cJ11_checkIndex, 3, (some .int), [])
theorem ok_J11_checkIndex : vv_okS MJ11_checkIndex 3 := ⟨rfl, by decide, q447, q125, q448, ⟨by decide, by decide, by decide +kernel⟩⟩
abbrev MJ11_checkFromToIndex : vv_M := (yJ11_checkFromToIndex, cJ11_checkFromToIndex, 4, (some .int), [])
theorem ok_J11_checkFromToIndex : vv_okS MJ11_checkFromToIndex 4 := ⟨rfl, by decide, q891, q125, q892, ⟨by decide, by decide, by decide +kernel⟩⟩
abbrev MJ11_checkFromIndexSize : vv_M := (yJ11_checkFromIndexSize, cJ11_checkFromIndexSize, 4, (some .int), [])
theorem ok_J11_checkFromIndexSize : vv_okS MJ11_checkFromIndexSize 4 := ⟨rfl, by decide, q1215, q125, q1216, ⟨by decide, by decide, by decide +kernel⟩⟩
abbrev MJ14_intValue : vv_M := (yJ14_intValue, cJ14_intValue, 1, (some .int), [])
theorem ok_J14_intValue : vv_okV MJ14_intValue 0 := ⟨rfl, by decide, q492, q493, q129, q494, ⟨by decide, by decide, by decide +kernel⟩⟩
theorem okf_J14_intValue : vv_okF MJ14_intValue 0 := ⟨rfl, by decide, q492, q129, q494⟩
theorem okd_J14_intValue : vv_okd MJ14_intValue 0 := ⟨by decide, by decide, by decide +kernel⟩
abbrev MJ14_bitCount : vv_M := (yJ14_bitCount, cJ14_bitCount, 1, (some .int), [])
theorem ok_J14_bitCount : vv_okS MJ14_bitCount 1 := ⟨rfl, by decide, q518, q129, q519, ⟨by decide, by decide, by decide +kernel⟩⟩
abbrev MJ14_valueOf : vv_M := (yJ14_valueOf, cJ14_valueOf, 1, (some (.object "java/lang/Integer")), [])
theorem ok_J14_valueOf : vv_okS MJ14_valueOf 1 := ⟨rfl, by decide, q978, q129, q979, ⟨by decide, by decide, by decide +kernel⟩⟩
abbrev MJ14_init : vv_M := (yJ14_init, cJ14_init, 2, none, [])
theorem ok_J14_init : vv_okI MJ14_init 1 := ⟨rfl, by decide, rfl, rfl, q987, q129, q988, ⟨by decide, by decide, by decide +kernel⟩⟩
abbrev MJ15_newLength : vv_M := (yJ15_newLength, cJ15_newLength, 4, (some .int), [])
theorem ok_J15_newLength : vv_okS MJ15_newLength 3 := ⟨rfl, by decide, q379, q131, q380, ⟨by decide, by decide, by decide +kernel⟩⟩
abbrev MJ15_hugeLength : vv_M := (yJ15_hugeLength, cJ15_hugeLength, 3, (some .int), [])
theorem ok_J15_hugeLength : vv_okS MJ15_hugeLength 2 := ⟨rfl, by decide, q386, q131, q387, ⟨by decide, by decide, by decide +kernel⟩⟩
abbrev MJ16_copyOf : vv_M := (yJ16_copyOf, cJ16_copyOf, 2, (some (.array (.object "java/lang/Object"))), [])
theorem ok_J16_copyOf : vv_okS MJ16_copyOf 2 := ⟨rfl, by decide, q389, q132, q390, ⟨by decide, by decide, by decide +kernel⟩⟩
abbrev MJ16_copyOf_2 : vv_M := (yJ16_copyOf_2, cJ16_copyOf_2, 4, (some (.array (.object "java/lang/Object"))), [])
theorem ok_J16_copyOf_2 : vv_okS MJ16_copyOf_2 3 := ⟨rfl, by decide, q412, q132, q413, ⟨by decide, by decide, by decide +kernel⟩⟩
abbrev MJ16_copyOf_3 : vv_M := (yJ16_copyOf_3, cJ16_copyOf_3, 3, (some (.array .byte)), [])
theorem ok_J16_copyOf_3 : vv_okS MJ16_copyOf_3 2 := ⟨rfl, by decide, q1181, q132, q1182, ⟨by decide, by decide, by decide +kernel⟩⟩
abbrev MJ17_checkIndex : vv_M := (yJ17_checkIndex, cJ17_checkIndex, 2, (some .int), [])
theorem ok_J17_checkIndex : vv_okS MJ17_checkIndex 2 := ⟨rfl, by decide, q444, q134, q445, ⟨by decide, by decide, by decide +kernel⟩⟩
abbrev MJ18_charAt : vv_M := (yJ18_charAt, cJ18_charAt, 5, (some .char), [])
theorem okf_J18_charAt : vv_okF MJ18_charAt 1 := ⟨rfl, by decide, q566, q139, q567⟩
theorem okd_J18_charAt : vv_okd MJ18_charAt 1 := ⟨by decide, by decide, by decide +kernel⟩
abbrev MJ18_init : vv_M := (yJ18_init, cJ18_init, 2, none, [])
theorem ok_J18_init : vv_okI MJ18_init 1 := ⟨rfl, by decide, rfl, rfl, q1124, q139, q1125, ⟨by decide, by decide, by decide +kernel⟩⟩
abbrev MJ18_append : vv_M := (yJ18_append, cJ18_append, 2, (some (.object "java/lang/AbstractStringBuilder")), [])
theorem okf_J18_append : vv_okF MJ18_append 1 := ⟨rfl, by decide, q1168, q139, q1169⟩
theorem okd_J18_append : vv_okd MJ18_append 1 := ⟨by decide, by decide, by decide +kernel⟩
abbrev MJ18_ensureCapacityInternal : vv_M := (yJ18_ensureCapacityInternal, cJ18_ensureCapacityInternal, 3, none, [])
theorem okf_J18_ensureCapacityInternal : vv_okF MJ18_ensureCapacityInternal 1 := ⟨rfl, by decide, q1172, q139, q1173⟩
theorem okd_J18_ensureCapacityInternal : vv_okd MJ18_ensureCapacityInternal 1 := ⟨by decide, by decide, by decide +kernel⟩
abbrev MJ18_newCapacity : vv_M := (yJ18_newCapacity, cJ18_newCapacity, 6, (some .int), [])
theorem okf_J18_newCapacity : vv_okF MJ18_newCapacity 1 := ⟨rfl, by decide, q1176, q139, q1177⟩
theorem okd_J18_newCapacity : vv_okd MJ18_newCapacity 1 := ⟨by decide, by decide, by decide +kernel⟩
abbrev MJ18_isLatin1 : vv_M := (yJ18_isLatin1, cJ18_isLatin1, 1, (some .boolean), [])
theorem okf_J18_isLatin1 : vv_okF MJ18_isLatin1 0 := ⟨rfl, by decide, q1191, q139, q1194⟩
theorem okd_J18_isLatin1 : vv_okd MJ18_isLatin1 0 := ⟨by decide, by decide, by decide +kernel⟩
abbrev MJ18_inflate : vv_M := (yJ18_inflate, cJ18_inflate, 2, none, [])
theorem okf_J18_inflate : vv_okF MJ18_inflate 0 := ⟨rfl, by decide, q1200, q139, q1201⟩
theorem okd_J18_inflate : vv_okd MJ18_inflate 0 := ⟨by decide, by decide, by decide +kernel⟩
abbrev MJ19_charAt : vv_M := (yJ19_charAt, cJ19_charAt, 2, (some .char), [])
theorem ok_J19_charAt : vv_okV MJ19_charAt 1 := ⟨rfl, by decide, q561, q562, q140, q563, ⟨by decide, by decide, by decide +kernel⟩⟩
theorem okf_J19_charAt : vv_okF MJ19_charAt 1 := ⟨rfl, by decide, q561, q140, q563⟩
theorem okd_J19_charAt : vv_okd MJ19_charAt 1 := ⟨by decide, by decide, by decide +kernel⟩
abbrev MJ19_init : vv_M := (yJ19_init, cJ19_init, 1, none, [])
theorem ok_J19_init : vv_okI MJ19_init 0 := ⟨rfl, by decide, rfl, rfl, q1121, q140, q1122, ⟨by decide, by decide, by decide +kernel⟩⟩
abbrev MJ19_append : vv_M := (yJ19_append, cJ19_append, 2, (some (.object "java/lang/StringBuilder")), [])
theorem ok_J19_append : vv_okV MJ19_append 1 := ⟨rfl, by decide, q1164, q1165, q140, q1166, ⟨by decide, by decide, by decide +kernel⟩⟩
theorem okf_J19_append : vv_okF MJ19_append 1 := ⟨rfl, by decide, q1164, q140, q1166⟩
theorem okd_J19_append : vv_okd MJ19_append 1 := ⟨by decide, by decide, by decide +kernel⟩
theorem fl_X1_13 {G : vv_G} (hG : vv_gok G) : vv_fld G RX1 13 0 0 := ⟨RX1, TX1, 15, by rw [hG.1]; rfl, in_X1, by decide, q273⟩
theorem pt_X1_13 {G : vv_G} (hG : vv_gok G) : vv_put G RX1 13 0 0 (.array .int) none := ⟨RX1, TX1, 15, tyX1, by rw [hG.1]; rfl, in_X1, tyX1_ok, nmX1, by decide, tyX1_ok 0 (by decide), q273, Or.inr ⟨rfl, rfl⟩⟩
theorem fl_X1_22 {G : vv_G} (hG : vv_gok G) : vv_fld G RX1 22 0 1 := ⟨RX1, TX1, 15, by rw [hG.1]; rfl, in_X1, by decide, q275⟩
theorem pt_X1_22 {G : vv_G} (hG : vv_gok G) : vv_put G RX1 22 0 1 (.object "LuckCrates$Province") none := ⟨RX1, TX1, 15, tyX1, by rw [hG.1]; rfl, in_X1, tyX1_ok, nmX1, by decide, tyX1_ok 1 (by decide), q275, Or.inl rfl⟩
theorem fl_X1_31 {G : vv_G} (hG : vv_gok G) : vv_fld G RX1 31 0 2 := ⟨RX1, TX1, 15, by rw [hG.1]; rfl, in_X1, by decide, q277⟩
theorem pt_X1_31 {G : vv_G} (hG : vv_gok G) : vv_put G RX1 31 0 2 (.object "LuckCrates$Coast") none := ⟨RX1, TX1, 15, tyX1, by rw [hG.1]; rfl, in_X1, tyX1_ok, nmX1, by decide, tyX1_ok 2 (by decide), q277, Or.inl rfl⟩
theorem fl_X1_35 {G : vv_G} (hG : vv_gok G) : vv_fld G RX1 35 0 3 := ⟨RX1, TX1, 15, by rw [hG.1]; rfl, in_X1, by decide, q279⟩
theorem pt_X1_35 {G : vv_G} (hG : vv_gok G) : vv_put G RX1 35 0 3 (.array .byte) none := ⟨RX1, TX1, 15, tyX1, by rw [hG.1]; rfl, in_X1, tyX1_ok, nmX1, by decide, tyX1_ok 3 (by decide), q279, Or.inr ⟨rfl, rfl⟩⟩
theorem fl_X1_39 {G : vv_G} (hG : vv_gok G) : vv_fld G RX1 39 0 5 := ⟨RX1, TX1, 15, by rw [hG.1]; rfl, in_X1, by decide, q281⟩
theorem pt_X1_39 {G : vv_G} (hG : vv_gok G) : vv_put G RX1 39 0 5 .int none := ⟨RX1, TX1, 15, tyX1, by rw [hG.1]; rfl, in_X1, tyX1_ok, nmX1, by decide, tyX1_ok 5 (by decide), q281, Or.inl rfl⟩
theorem fl_X1_43 {G : vv_G} (hG : vv_gok G) : vv_fld G RX1 43 0 6 := ⟨RX1, TX1, 15, by rw [hG.1]; rfl, in_X1, by decide, q282⟩
theorem pt_X1_43 {G : vv_G} (hG : vv_gok G) : vv_put G RX1 43 0 6 (.array .int) none := ⟨RX1, TX1, 15, tyX1, by rw [hG.1]; rfl, in_X1, tyX1_ok, nmX1, by decide, tyX1_ok 6 (by decide), q282, Or.inr ⟨rfl, rfl⟩⟩
theorem fl_X1_49 {G : vv_G} (hG : vv_gok G) : vv_fld G RX1 49 0 7 := ⟨RX1, TX1, 15, by rw [hG.1]; rfl, in_X1, by decide, q283⟩
theorem pt_X1_49 {G : vv_G} (hG : vv_gok G) : vv_put G RX1 49 0 7 (.object "java/util/List") none := ⟨RX1, TX1, 15, tyX1, by rw [hG.1]; rfl, in_X1, tyX1_ok, nmX1, by decide, tyX1_ok 7 (by decide), q283, Or.inl rfl⟩
theorem fl_X1_53 {G : vv_G} (hG : vv_gok G) : vv_fld G RX1 53 0 8 := ⟨RX1, TX1, 15, by rw [hG.1]; rfl, in_X1, by decide, q284⟩
theorem pt_X1_53 {G : vv_G} (hG : vv_gok G) : vv_put G RX1 53 0 8 (.object "java/util/List") none := ⟨RX1, TX1, 15, tyX1, by rw [hG.1]; rfl, in_X1, tyX1_ok, nmX1, by decide, tyX1_ok 8 (by decide), q284, Or.inl rfl⟩
theorem fl_X1_56 {G : vv_G} (hG : vv_gok G) : vv_fld G RX1 56 0 12 := ⟨RX1, TX1, 15, by rw [hG.1]; rfl, in_X1, by decide, q288⟩
theorem pt_X1_56 {G : vv_G} (hG : vv_gok G) : vv_put G RX1 56 0 12 (.object "LuckCrates$Coast") none := ⟨RX1, TX1, 15, tyX1, by rw [hG.1]; rfl, in_X1, tyX1_ok, nmX1, by decide, tyX1_ok 12 (by decide), q288, Or.inr ⟨rfl, rfl⟩⟩
theorem fl_X1_59 {G : vv_G} (hG : vv_gok G) : vv_fld G RX1 59 0 13 := ⟨RX1, TX1, 15, by rw [hG.1]; rfl, in_X1, by decide, q289⟩
theorem pt_X1_59 {G : vv_G} (hG : vv_gok G) : vv_put G RX1 59 0 13 (.array .int) none := ⟨RX1, TX1, 15, tyX1, by rw [hG.1]; rfl, in_X1, tyX1_ok, nmX1, by decide, tyX1_ok 13 (by decide), q289, Or.inr ⟨rfl, rfl⟩⟩
theorem fl_X1_62 {G : vv_G} (hG : vv_gok G) : vv_fld G RX1 62 0 4 := ⟨RX1, TX1, 15, by rw [hG.1]; rfl, in_X1, by decide, q280⟩
theorem pt_X1_62 {G : vv_G} (hG : vv_gok G) : vv_put G RX1 62 0 4 .int none := ⟨RX1, TX1, 15, tyX1, by rw [hG.1]; rfl, in_X1, tyX1_ok, nmX1, by decide, tyX1_ok 4 (by decide), q280, Or.inl rfl⟩
theorem fl_X1_80 {l : Launch} {G : vv_G} {ad : Nat → Nat} (hH : vv_hy l G ad) : vv_fldM G RX1 80 4 6 := ⟨RX5, TX5, 10, "LuckCrates", tyX5, by rw [hH.1.1.1]; rfl, in_X5, by decide, tyX5_ok, nmX5, fun U hK => hH.1.2.1 U hK _ q793 rfl⟩
theorem fl_X1_83 {l : Launch} {G : vv_G} {ad : Nat → Nat} (hH : vv_hy l G ad) : vv_fldM G RX1 83 5 6 := ⟨RX6, TX6, 7, "LuckCrates", tyX6, by rw [hH.1.1.1]; rfl, in_X6, by decide, tyX6_ok, nmX6, fun U hK => hH.1.2.1 U hK _ q964 rfl⟩
theorem fl_X1_86 {l : Launch} {G : vv_G} {ad : Nat → Nat} (hH : vv_hy l G ad) : vv_fldM G RX1 86 4 2 := ⟨RX5, TX5, 10, "LuckCrates", tyX5, by rw [hH.1.1.1]; rfl, in_X5, by decide, tyX5_ok, nmX5, fun U hK => hH.1.2.1 U hK _ q788 rfl⟩
theorem fl_X1_89 {G : vv_G} (hG : vv_gok G) : vv_fld G RX1 89 0 9 := ⟨RX1, TX1, 15, by rw [hG.1]; rfl, in_X1, by decide, q285⟩
theorem pt_X1_89 {G : vv_G} (hG : vv_gok G) : vv_put G RX1 89 0 9 (.object "LuckCrates$Coast") none := ⟨RX1, TX1, 15, tyX1, by rw [hG.1]; rfl, in_X1, tyX1_ok, nmX1, by decide, tyX1_ok 9 (by decide), q285, Or.inl rfl⟩
theorem fl_X1_96 {l : Launch} {G : vv_G} {ad : Nat → Nat} (hH : vv_hy l G ad) : vv_fldM G RX1 96 1 2 := ⟨RX2, TX2, 5, "LuckCrates", tyX2, by rw [hH.1.1.1]; rfl, in_X2, by decide, tyX2_ok, nmX2, fun U hK => hH.1.2.1 U hK _ q193 rfl⟩
theorem fl_X1_104 {l : Launch} {G : vv_G} {ad : Nat → Nat} (hH : vv_hy l G ad) : vv_fldM G RX1 104 1 3 := ⟨RX2, TX2, 5, "LuckCrates", tyX2, by rw [hH.1.1.1]; rfl, in_X2, by decide, tyX2_ok, nmX2, fun U hK => hH.1.2.1 U hK _ q196 rfl⟩
theorem fl_X1_107 {l : Launch} {G : vv_G} {ad : Nat → Nat} (hH : vv_hy l G ad) : vv_fldM G RX1 107 2 9 := ⟨RX3, TX3, 12, "LuckCrates", tyX3, by rw [hH.1.1.1]; rfl, in_X3, by decide, tyX3_ok, nmX3, fun U hK => hH.1.2.1 U hK _ q242 rfl⟩
theorem fl_X1_110 {l : Launch} {G : vv_G} {ad : Nat → Nat} (hH : vv_hy l G ad) : vv_fldM G RX1 110 2 0 := ⟨RX3, TX3, 12, "LuckCrates", tyX3, by rw [hH.1.1.1]; rfl, in_X3, by decide, tyX3_ok, nmX3, fun U hK => hH.1.2.1 U hK _ q218 rfl⟩
theorem fl_X1_117 {l : Launch} {G : vv_G} {ad : Nat → Nat} (hH : vv_hy l G ad) : vv_fldM G RX1 117 2 1 := ⟨RX3, TX3, 12, "LuckCrates", tyX3, by rw [hH.1.1.1]; rfl, in_X3, by decide, tyX3_ok, nmX3, fun U hK => hH.1.2.1 U hK _ q221 rfl⟩
theorem fl_X1_120 {l : Launch} {G : vv_G} {ad : Nat → Nat} (hH : vv_hy l G ad) : vv_fldM G RX1 120 2 2 := ⟨RX3, TX3, 12, "LuckCrates", tyX3, by rw [hH.1.1.1]; rfl, in_X3, by decide, tyX3_ok, nmX3, fun U hK => hH.1.2.1 U hK _ q224 rfl⟩
theorem fl_X1_131 {l : Launch} {G : vv_G} {ad : Nat → Nat} (hH : vv_hy l G ad) : vv_fldM G RX1 131 2 6 := ⟨RX3, TX3, 12, "LuckCrates", tyX3, by rw [hH.1.1.1]; rfl, in_X3, by decide, tyX3_ok, nmX3, fun U hK => hH.1.2.1 U hK _ q235 rfl⟩
theorem fl_X1_145 {l : Launch} {G : vv_G} {ad : Nat → Nat} (hH : vv_hy l G ad) : vv_fldM G RX1 145 1 0 := ⟨RX2, TX2, 5, "LuckCrates", tyX2, by rw [hH.1.1.1]; rfl, in_X2, by decide, tyX2_ok, nmX2, fun U hK => hH.1.2.1 U hK _ q186 rfl⟩
theorem fl_X1_157 {l : Launch} {G : vv_G} {ad : Nat → Nat} (hH : vv_hy l G ad) : vv_fldM G RX1 157 1 1 := ⟨RX2, TX2, 5, "LuckCrates", tyX2, by rw [hH.1.1.1]; rfl, in_X2, by decide, tyX2_ok, nmX2, fun U hK => hH.1.2.1 U hK _ q190 rfl⟩
theorem fl_X1_170 {l : Launch} {G : vv_G} {ad : Nat → Nat} (hH : vv_hy l G ad) : vv_fldM G RX1 170 2 3 := ⟨RX3, TX3, 12, "LuckCrates", tyX3, by rw [hH.1.1.1]; rfl, in_X3, by decide, tyX3_ok, nmX3, fun U hK => hH.1.2.1 U hK _ q226 rfl⟩
theorem fl_X1_173 {l : Launch} {G : vv_G} {ad : Nat → Nat} (hH : vv_hy l G ad) : vv_fldM G RX1 173 2 4 := ⟨RX3, TX3, 12, "LuckCrates", tyX3, by rw [hH.1.1.1]; rfl, in_X3, by decide, tyX3_ok, nmX3, fun U hK => hH.1.2.1 U hK _ q229 rfl⟩
theorem fl_X1_176 {l : Launch} {G : vv_G} {ad : Nat → Nat} (hH : vv_hy l G ad) : vv_fldM G RX1 176 2 5 := ⟨RX3, TX3, 12, "LuckCrates", tyX3, by rw [hH.1.1.1]; rfl, in_X3, by decide, tyX3_ok, nmX3, fun U hK => hH.1.2.1 U hK _ q232 rfl⟩
theorem fl_X1_179 {l : Launch} {G : vv_G} {ad : Nat → Nat} (hH : vv_hy l G ad) : vv_fldM G RX1 179 2 7 := ⟨RX3, TX3, 12, "LuckCrates", tyX3, by rw [hH.1.1.1]; rfl, in_X3, by decide, tyX3_ok, nmX3, fun U hK => hH.1.2.1 U hK _ q238 rfl⟩
theorem fl_X1_211 {l : Launch} {G : vv_G} {ad : Nat → Nat} (hH : vv_hy l G ad) : vv_fldM G RX1 211 6 2 := ⟨RX7, TX7, 4, "LuckCrates", tyX7, by rw [hH.1.1.1]; rfl, in_X7, by decide, tyX7_ok, nmX7, fun U hK => hH.1.2.1 U hK _ q1032 rfl⟩
theorem fl_X1_214 {l : Launch} {G : vv_G} {ad : Nat → Nat} (hH : vv_hy l G ad) : vv_fldM G RX1 214 2 8 := ⟨RX3, TX3, 12, "LuckCrates", tyX3, by rw [hH.1.1.1]; rfl, in_X3, by decide, tyX3_ok, nmX3, fun U hK => hH.1.2.1 U hK _ q240 rfl⟩
theorem fl_X1_217 {l : Launch} {G : vv_G} {ad : Nat → Nat} (hH : vv_hy l G ad) : vv_fldM G RX1 217 6 3 := ⟨RX7, TX7, 4, "LuckCrates", tyX7, by rw [hH.1.1.1]; rfl, in_X7, by decide, tyX7_ok, nmX7, fun U hK => hH.1.2.1 U hK _ q1035 rfl⟩
theorem fl_X1_242 {l : Launch} {G : vv_G} {ad : Nat → Nat} (hH : vv_hy l G ad) : vv_fldM G RX1 242 2 10 := ⟨RX3, TX3, 12, "LuckCrates", tyX3, by rw [hH.1.1.1]; rfl, in_X3, by decide, tyX3_ok, nmX3, fun U hK => hH.1.2.1 U hK _ q244 rfl⟩
theorem fl_X1_314 {G : vv_G} (hG : vv_gok G) : vv_fld G RX1 314 0 14 := ⟨RX1, TX1, 15, by rw [hG.1]; rfl, in_X1, by decide, q290⟩
theorem pt_X1_314 {G : vv_G} (hG : vv_gok G) : vv_put G RX1 314 0 14 .int none := ⟨RX1, TX1, 15, tyX1, by rw [hG.1]; rfl, in_X1, tyX1_ok, nmX1, by decide, tyX1_ok 14 (by decide), q290, Or.inl rfl⟩
theorem fl_X1_333 {l : Launch} {G : vv_G} {ad : Nat → Nat} (hH : vv_hy l G ad) : vv_fldM G RX1 333 6 0 := ⟨RX7, TX7, 4, "LuckCrates", tyX7, by rw [hH.1.1.1]; rfl, in_X7, by decide, tyX7_ok, nmX7, fun U hK => hH.1.2.1 U hK _ q1026 rfl⟩
theorem fl_X1_339 {l : Launch} {G : vv_G} {ad : Nat → Nat} (hH : vv_hy l G ad) : vv_fldM G RX1 339 6 1 := ⟨RX7, TX7, 4, "LuckCrates", tyX7, by rw [hH.1.1.1]; rfl, in_X7, by decide, tyX7_ok, nmX7, fun U hK => hH.1.2.1 U hK _ q1029 rfl⟩
theorem fl_X1_348 {G : vv_G} (hG : vv_gok G) : vv_fld G RX1 348 0 10 := ⟨RX1, TX1, 15, by rw [hG.1]; rfl, in_X1, by decide, q286⟩
theorem pt_X1_348 {G : vv_G} (hG : vv_gok G) : vv_put G RX1 348 0 10 (.object "java/util/List") none := ⟨RX1, TX1, 15, tyX1, by rw [hG.1]; rfl, in_X1, tyX1_ok, nmX1, by decide, tyX1_ok 10 (by decide), q286, Or.inl rfl⟩
theorem fl_X1_351 {G : vv_G} (hG : vv_gok G) : vv_fld G RX1 351 0 11 := ⟨RX1, TX1, 15, by rw [hG.1]; rfl, in_X1, by decide, q287⟩
theorem pt_X1_351 {G : vv_G} (hG : vv_gok G) : vv_put G RX1 351 0 11 (.object "java/util/List") none := ⟨RX1, TX1, 15, tyX1, by rw [hG.1]; rfl, in_X1, tyX1_ok, nmX1, by decide, tyX1_ok 11 (by decide), q287, Or.inl rfl⟩
theorem fl_X8_10 {G : vv_G} (hG : vv_gok G) : vv_fld G RX8 10 7 0 := ⟨RX8, TX8, 2, by rw [hG.1]; rfl, in_X8, by decide, q1148⟩
theorem pt_X8_10 {G : vv_G} (hG : vv_gok G) : vv_put G RX8 10 7 0 (.object "java/util/List") none := ⟨RX8, TX8, 2, tyX8, by rw [hG.1]; rfl, in_X8, tyX8_ok, nmX8, by decide, tyX8_ok 0 (by decide), q1148, Or.inr ⟨rfl, rfl⟩⟩
theorem fl_X8_19 {G : vv_G} (hG : vv_gok G) : vv_fld G RX8 19 7 1 := ⟨RX8, TX8, 2, by rw [hG.1]; rfl, in_X8, by decide, q1149⟩
theorem pt_X8_19 {G : vv_G} (hG : vv_gok G) : vv_put G RX8 19 7 1 (.object "java/lang/StringBuilder") none := ⟨RX8, TX8, 2, tyX8, by rw [hG.1]; rfl, in_X8, tyX8_ok, nmX8, by decide, tyX8_ok 1 (by decide), q1149, Or.inr ⟨rfl, rfl⟩⟩
theorem fl_X3_3 {G : vv_G} (hG : vv_gok G) : vv_fld G RX3 3 2 11 := ⟨RX3, TX3, 12, by rw [hG.1]; rfl, in_X3, by decide, q245⟩
theorem pt_X3_3 {G : vv_G} (hG : vv_gok G) : vv_put G RX3 3 2 11 (.object "LuckCrates") none := ⟨RX3, TX3, 12, tyX3, by rw [hG.1]; rfl, in_X3, tyX3_ok, nmX3, by decide, tyX3_ok 11 (by decide), q245, Or.inr ⟨rfl, rfl⟩⟩
theorem fl_X3_15 {G : vv_G} (hG : vv_gok G) : vv_fld G RX3 15 2 0 := ⟨RX3, TX3, 12, by rw [hG.1]; rfl, in_X3, by decide, q217⟩
theorem pt_X3_15 {G : vv_G} (hG : vv_gok G) : vv_put G RX3 15 2 0 (.array .int) none := ⟨RX3, TX3, 12, tyX3, by rw [hG.1]; rfl, in_X3, tyX3_ok, nmX3, by decide, tyX3_ok 0 (by decide), q217, Or.inr ⟨rfl, rfl⟩⟩
theorem fl_X3_19 {G : vv_G} (hG : vv_gok G) : vv_fld G RX3 19 2 1 := ⟨RX3, TX3, 12, by rw [hG.1]; rfl, in_X3, by decide, q220⟩
theorem pt_X3_19 {G : vv_G} (hG : vv_gok G) : vv_put G RX3 19 2 1 (.array .int) none := ⟨RX3, TX3, 12, tyX3, by rw [hG.1]; rfl, in_X3, tyX3_ok, nmX3, by decide, tyX3_ok 1 (by decide), q220, Or.inr ⟨rfl, rfl⟩⟩
theorem fl_X3_22 {G : vv_G} (hG : vv_gok G) : vv_fld G RX3 22 2 2 := ⟨RX3, TX3, 12, by rw [hG.1]; rfl, in_X3, by decide, q223⟩
theorem pt_X3_22 {G : vv_G} (hG : vv_gok G) : vv_put G RX3 22 2 2 (.array .int) none := ⟨RX3, TX3, 12, tyX3, by rw [hG.1]; rfl, in_X3, tyX3_ok, nmX3, by decide, tyX3_ok 2 (by decide), q223, Or.inr ⟨rfl, rfl⟩⟩
theorem fl_X3_25 {G : vv_G} (hG : vv_gok G) : vv_fld G RX3 25 2 3 := ⟨RX3, TX3, 12, by rw [hG.1]; rfl, in_X3, by decide, q225⟩
theorem pt_X3_25 {G : vv_G} (hG : vv_gok G) : vv_put G RX3 25 2 3 (.array .int) none := ⟨RX3, TX3, 12, tyX3, by rw [hG.1]; rfl, in_X3, tyX3_ok, nmX3, by decide, tyX3_ok 3 (by decide), q225, Or.inr ⟨rfl, rfl⟩⟩
theorem fl_X3_28 {G : vv_G} (hG : vv_gok G) : vv_fld G RX3 28 2 4 := ⟨RX3, TX3, 12, by rw [hG.1]; rfl, in_X3, by decide, q228⟩
theorem pt_X3_28 {G : vv_G} (hG : vv_gok G) : vv_put G RX3 28 2 4 (.array .int) none := ⟨RX3, TX3, 12, tyX3, by rw [hG.1]; rfl, in_X3, tyX3_ok, nmX3, by decide, tyX3_ok 4 (by decide), q228, Or.inr ⟨rfl, rfl⟩⟩
theorem fl_X3_31 {G : vv_G} (hG : vv_gok G) : vv_fld G RX3 31 2 5 := ⟨RX3, TX3, 12, by rw [hG.1]; rfl, in_X3, by decide, q231⟩
theorem pt_X3_31 {G : vv_G} (hG : vv_gok G) : vv_put G RX3 31 2 5 (.array .int) none := ⟨RX3, TX3, 12, tyX3, by rw [hG.1]; rfl, in_X3, tyX3_ok, nmX3, by decide, tyX3_ok 5 (by decide), q231, Or.inr ⟨rfl, rfl⟩⟩
theorem fl_X3_34 {G : vv_G} (hG : vv_gok G) : vv_fld G RX3 34 2 6 := ⟨RX3, TX3, 12, by rw [hG.1]; rfl, in_X3, by decide, q234⟩
theorem pt_X3_34 {G : vv_G} (hG : vv_gok G) : vv_put G RX3 34 2 6 (.array .int) none := ⟨RX3, TX3, 12, tyX3, by rw [hG.1]; rfl, in_X3, tyX3_ok, nmX3, by decide, tyX3_ok 6 (by decide), q234, Or.inr ⟨rfl, rfl⟩⟩
theorem fl_X3_37 {G : vv_G} (hG : vv_gok G) : vv_fld G RX3 37 2 7 := ⟨RX3, TX3, 12, by rw [hG.1]; rfl, in_X3, by decide, q237⟩
theorem pt_X3_37 {G : vv_G} (hG : vv_gok G) : vv_put G RX3 37 2 7 (.array .int) none := ⟨RX3, TX3, 12, tyX3, by rw [hG.1]; rfl, in_X3, tyX3_ok, nmX3, by decide, tyX3_ok 7 (by decide), q237, Or.inr ⟨rfl, rfl⟩⟩
theorem fl_X3_40 {G : vv_G} (hG : vv_gok G) : vv_fld G RX3 40 2 8 := ⟨RX3, TX3, 12, by rw [hG.1]; rfl, in_X3, by decide, q239⟩
theorem pt_X3_40 {G : vv_G} (hG : vv_gok G) : vv_put G RX3 40 2 8 (.array .int) none := ⟨RX3, TX3, 12, tyX3, by rw [hG.1]; rfl, in_X3, tyX3_ok, nmX3, by decide, tyX3_ok 8 (by decide), q239, Or.inr ⟨rfl, rfl⟩⟩
theorem fl_X3_43 {G : vv_G} (hG : vv_gok G) : vv_fld G RX3 43 2 9 := ⟨RX3, TX3, 12, by rw [hG.1]; rfl, in_X3, by decide, q241⟩
theorem pt_X3_43 {G : vv_G} (hG : vv_gok G) : vv_put G RX3 43 2 9 .int none := ⟨RX3, TX3, 12, tyX3, by rw [hG.1]; rfl, in_X3, tyX3_ok, nmX3, by decide, tyX3_ok 9 (by decide), q241, Or.inl rfl⟩
theorem fl_X3_54 {l : Launch} {G : vv_G} {ad : Nat → Nat} (hH : vv_hy l G ad) : vv_fldM G RX3 54 0 1 := ⟨RX1, TX1, 15, "LuckCrates", tyX1, by rw [hH.1.1.1]; rfl, in_X1, by decide, tyX1_ok, nmX1, fun U hK => hH.1.2.1 U hK _ q276 rfl⟩
theorem fl_X3_58 {l : Launch} {G : vv_G} {ad : Nat → Nat} (hH : vv_hy l G ad) : vv_fldM G RX3 58 1 3 := ⟨RX2, TX2, 5, "LuckCrates", tyX2, by rw [hH.1.1.1]; rfl, in_X2, by decide, tyX2_ok, nmX2, fun U hK => hH.1.2.1 U hK _ q195 rfl⟩
theorem fl_X3_67 {l : Launch} {G : vv_G} {ad : Nat → Nat} (hH : vv_hy l G ad) : vv_fldM G RX3 67 1 4 := ⟨RX2, TX2, 5, "LuckCrates", tyX2, by rw [hH.1.1.1]; rfl, in_X2, by decide, tyX2_ok, nmX2, fun U hK => hH.1.2.1 U hK _ q198 rfl⟩
theorem fl_X3_71 {l : Launch} {G : vv_G} {ad : Nat → Nat} (hH : vv_hy l G ad) : vv_fldM G RX3 71 0 0 := ⟨RX1, TX1, 15, "LuckCrates", tyX1, by rw [hH.1.1.1]; rfl, in_X1, by decide, tyX1_ok, nmX1, fun U hK => hH.1.2.1 U hK _ q274 rfl⟩
theorem fl_X3_74 {l : Launch} {G : vv_G} {ad : Nat → Nat} (hH : vv_hy l G ad) : vv_fldM G RX3 74 1 1 := ⟨RX2, TX2, 5, "LuckCrates", tyX2, by rw [hH.1.1.1]; rfl, in_X2, by decide, tyX2_ok, nmX2, fun U hK => hH.1.2.1 U hK _ q189 rfl⟩
theorem fl_X3_90 {l : Launch} {G : vv_G} {ad : Nat → Nat} (hH : vv_hy l G ad) : vv_fldM G RX3 90 1 0 := ⟨RX2, TX2, 5, "LuckCrates", tyX2, by rw [hH.1.1.1]; rfl, in_X2, by decide, tyX2_ok, nmX2, fun U hK => hH.1.2.1 U hK _ q185 rfl⟩
theorem fl_X3_126 {G : vv_G} (hG : vv_gok G) : vv_fld G RX3 126 2 10 := ⟨RX3, TX3, 12, by rw [hG.1]; rfl, in_X3, by decide, q243⟩
theorem pt_X3_126 {G : vv_G} (hG : vv_gok G) : vv_put G RX3 126 2 10 .int none := ⟨RX3, TX3, 12, tyX3, by rw [hG.1]; rfl, in_X3, tyX3_ok, nmX3, by decide, tyX3_ok 10 (by decide), q243, Or.inl rfl⟩
theorem fl_X11_7 {G : vv_G} (hG : vv_gok G) : vv_fld G RX11 7 10 0 := ⟨RX11, TX11, 1, by rw [hG.1]; rfl, in_X11, by decide, q1233⟩
theorem pt_X11_7 {G : vv_G} (hG : vv_gok G) : vv_put G RX11 7 10 0 (.object "LuckCrates$Form") none := ⟨RX11, TX11, 1, tyX11, by rw [hG.1]; rfl, in_X11, tyX11_ok, nmX11, by decide, tyX11_ok 0 (by decide), q1233, Or.inr ⟨rfl, rfl⟩⟩
theorem fl_X9_7 {G : vv_G} (hG : vv_gok G) : vv_fld G RX9 7 8 0 := ⟨RX9, TX9, 1, by rw [hG.1]; rfl, in_X9, by decide, q1094⟩
theorem pt_X9_7 {G : vv_G} (hG : vv_gok G) : vv_put G RX9 7 8 0 .int none := ⟨RX9, TX9, 1, tyX9, by rw [hG.1]; rfl, in_X9, tyX9_ok, nmX9, by decide, tyX9_ok 0 (by decide), q1094, Or.inr ⟨rfl, rfl⟩⟩
theorem fl_X2_12 {G : vv_G} (hG : vv_gok G) : vv_fld G RX2 12 1 0 := ⟨RX2, TX2, 5, by rw [hG.1]; rfl, in_X2, by decide, q184⟩
theorem pt_X2_12 {G : vv_G} (hG : vv_gok G) : vv_put G RX2 12 1 0 (.object "java/util/List") none := ⟨RX2, TX2, 5, tyX2, by rw [hG.1]; rfl, in_X2, tyX2_ok, nmX2, by decide, tyX2_ok 0 (by decide), q184, Or.inr ⟨rfl, rfl⟩⟩
theorem fl_X2_18 {G : vv_G} (hG : vv_gok G) : vv_fld G RX2 18 1 1 := ⟨RX2, TX2, 5, by rw [hG.1]; rfl, in_X2, by decide, q188⟩
theorem pt_X2_18 {G : vv_G} (hG : vv_gok G) : vv_put G RX2 18 1 1 (.object "java/util/List") none := ⟨RX2, TX2, 5, tyX2, by rw [hG.1]; rfl, in_X2, tyX2_ok, nmX2, by decide, tyX2_ok 1 (by decide), q188, Or.inr ⟨rfl, rfl⟩⟩
theorem fl_X2_21 {G : vv_G} (hG : vv_gok G) : vv_fld G RX2 21 1 2 := ⟨RX2, TX2, 5, by rw [hG.1]; rfl, in_X2, by decide, q192⟩
theorem pt_X2_21 {G : vv_G} (hG : vv_gok G) : vv_put G RX2 21 1 2 (.object "java/util/List") none := ⟨RX2, TX2, 5, tyX2, by rw [hG.1]; rfl, in_X2, tyX2_ok, nmX2, by decide, tyX2_ok 2 (by decide), q192, Or.inr ⟨rfl, rfl⟩⟩
theorem fl_X2_48 {l : Launch} {G : vv_G} {ad : Nat → Nat} (hH : vv_hy l G ad) : vv_fldM G RX2 48 6 2 := ⟨RX7, TX7, 4, "LuckCrates", tyX7, by rw [hH.1.1.1]; rfl, in_X7, by decide, tyX7_ok, nmX7, fun U hK => hH.1.2.1 U hK _ q1031 rfl⟩
theorem fl_X2_52 {l : Launch} {G : vv_G} {ad : Nat → Nat} (hH : vv_hy l G ad) : vv_fldM G RX2 52 6 3 := ⟨RX7, TX7, 4, "LuckCrates", tyX7, by rw [hH.1.1.1]; rfl, in_X7, by decide, tyX7_ok, nmX7, fun U hK => hH.1.2.1 U hK _ q1034 rfl⟩
theorem fl_X2_55 {l : Launch} {G : vv_G} {ad : Nat → Nat} (hH : vv_hy l G ad) : vv_fldM G RX2 55 6 1 := ⟨RX7, TX7, 4, "LuckCrates", tyX7, by rw [hH.1.1.1]; rfl, in_X7, by decide, tyX7_ok, nmX7, fun U hK => hH.1.2.1 U hK _ q1028 rfl⟩
theorem fl_X2_58 {l : Launch} {G : vv_G} {ad : Nat → Nat} (hH : vv_hy l G ad) : vv_fldM G RX2 58 6 0 := ⟨RX7, TX7, 4, "LuckCrates", tyX7, by rw [hH.1.1.1]; rfl, in_X7, by decide, tyX7_ok, nmX7, fun U hK => hH.1.2.1 U hK _ q1025 rfl⟩
theorem fl_X5_3 {G : vv_G} (hG : vv_gok G) : vv_fld G RX5 3 4 9 := ⟨RX5, TX5, 10, by rw [hG.1]; rfl, in_X5, by decide, q796⟩
theorem pt_X5_3 {G : vv_G} (hG : vv_gok G) : vv_put G RX5 3 4 9 (.object "LuckCrates") none := ⟨RX5, TX5, 10, tyX5, by rw [hG.1]; rfl, in_X5, tyX5_ok, nmX5, by decide, tyX5_ok 9 (by decide), q796, Or.inr ⟨rfl, rfl⟩⟩
theorem fl_X5_18 {G : vv_G} (hG : vv_gok G) : vv_fld G RX5 18 4 1 := ⟨RX5, TX5, 10, by rw [hG.1]; rfl, in_X5, by decide, q786⟩
theorem pt_X5_18 {G : vv_G} (hG : vv_gok G) : vv_put G RX5 18 4 1 (.object "LuckCrates$Province") none := ⟨RX5, TX5, 10, tyX5, by rw [hG.1]; rfl, in_X5, tyX5_ok, nmX5, by decide, tyX5_ok 1 (by decide), q786, Or.inr ⟨rfl, rfl⟩⟩
theorem fl_X5_27 {G : vv_G} (hG : vv_gok G) : vv_fld G RX5 27 4 2 := ⟨RX5, TX5, 10, by rw [hG.1]; rfl, in_X5, by decide, q787⟩
theorem pt_X5_27 {G : vv_G} (hG : vv_gok G) : vv_put G RX5 27 4 2 (.object "LuckCrates$Coast") none := ⟨RX5, TX5, 10, tyX5, by rw [hG.1]; rfl, in_X5, tyX5_ok, nmX5, by decide, tyX5_ok 2 (by decide), q787, Or.inr ⟨rfl, rfl⟩⟩
theorem fl_X5_45 {G : vv_G} (hG : vv_gok G) : vv_fld G RX5 45 4 3 := ⟨RX5, TX5, 10, by rw [hG.1]; rfl, in_X5, by decide, q789⟩
theorem pt_X5_45 {G : vv_G} (hG : vv_gok G) : vv_put G RX5 45 4 3 (.array (.object "java/lang/String")) none := ⟨RX5, TX5, 10, tyX5, by rw [hG.1]; rfl, in_X5, tyX5_ok, nmX5, by decide, tyX5_ok 3 (by decide), q789, Or.inr ⟨rfl, rfl⟩⟩
theorem fl_X5_49 {G : vv_G} (hG : vv_gok G) : vv_fld G RX5 49 4 0 := ⟨RX5, TX5, 10, by rw [hG.1]; rfl, in_X5, by decide, q785⟩
theorem pt_X5_49 {G : vv_G} (hG : vv_gok G) : vv_put G RX5 49 4 0 .int none := ⟨RX5, TX5, 10, tyX5, by rw [hG.1]; rfl, in_X5, tyX5_ok, nmX5, by decide, tyX5_ok 0 (by decide), q785, Or.inr ⟨rfl, rfl⟩⟩
theorem fl_X5_53 {G : vv_G} (hG : vv_gok G) : vv_fld G RX5 53 4 4 := ⟨RX5, TX5, 10, by rw [hG.1]; rfl, in_X5, by decide, q790⟩
theorem pt_X5_53 {G : vv_G} (hG : vv_gok G) : vv_put G RX5 53 4 4 .int none := ⟨RX5, TX5, 10, tyX5, by rw [hG.1]; rfl, in_X5, tyX5_ok, nmX5, by decide, tyX5_ok 4 (by decide), q790, Or.inl rfl⟩
theorem fl_X5_56 {l : Launch} {G : vv_G} {ad : Nat → Nat} (hH : vv_hy l G ad) : vv_fldM G RX5 56 0 3 := ⟨RX1, TX1, 15, "LuckCrates", tyX1, by rw [hH.1.1.1]; rfl, in_X1, by decide, tyX1_ok, nmX1, fun U hK => hH.1.2.1 U hK _ q278 rfl⟩
theorem fl_X5_68 {G : vv_G} (hG : vv_gok G) : vv_fld G RX5 68 4 6 := ⟨RX5, TX5, 10, by rw [hG.1]; rfl, in_X5, by decide, q792⟩
theorem pt_X5_68 {G : vv_G} (hG : vv_gok G) : vv_put G RX5 68 4 6 .int none := ⟨RX5, TX5, 10, tyX5, by rw [hG.1]; rfl, in_X5, tyX5_ok, nmX5, by decide, tyX5_ok 6 (by decide), q792, Or.inl rfl⟩
theorem fl_X5_71 {G : vv_G} (hG : vv_gok G) : vv_fld G RX5 71 4 5 := ⟨RX5, TX5, 10, by rw [hG.1]; rfl, in_X5, by decide, q791⟩
theorem pt_X5_71 {G : vv_G} (hG : vv_gok G) : vv_put G RX5 71 4 5 .int none := ⟨RX5, TX5, 10, tyX5, by rw [hG.1]; rfl, in_X5, tyX5_ok, nmX5, by decide, tyX5_ok 5 (by decide), q791, Or.inl rfl⟩
theorem fl_X5_81 {G : vv_G} (hG : vv_gok G) : vv_fld G RX5 81 4 8 := ⟨RX5, TX5, 10, by rw [hG.1]; rfl, in_X5, by decide, q795⟩
theorem pt_X5_81 {G : vv_G} (hG : vv_gok G) : vv_put G RX5 81 4 8 .int none := ⟨RX5, TX5, 10, tyX5, by rw [hG.1]; rfl, in_X5, tyX5_ok, nmX5, by decide, tyX5_ok 8 (by decide), q795, Or.inl rfl⟩
theorem fl_X5_97 {G : vv_G} (hG : vv_gok G) : vv_fld G RX5 97 4 7 := ⟨RX5, TX5, 10, by rw [hG.1]; rfl, in_X5, by decide, q794⟩
theorem pt_X5_97 {G : vv_G} (hG : vv_gok G) : vv_put G RX5 97 4 7 .int none := ⟨RX5, TX5, 10, tyX5, by rw [hG.1]; rfl, in_X5, tyX5_ok, nmX5, by decide, tyX5_ok 7 (by decide), q794, Or.inl rfl⟩
theorem fl_X5_191 {l : Launch} {G : vv_G} {ad : Nat → Nat} (hH : vv_hy l G ad) : vv_fldM G RX5 191 2 0 := ⟨RX3, TX3, 12, "LuckCrates", tyX3, by rw [hH.1.1.1]; rfl, in_X3, by decide, tyX3_ok, nmX3, fun U hK => hH.1.2.1 U hK _ q219 rfl⟩
theorem fl_X5_194 {l : Launch} {G : vv_G} {ad : Nat → Nat} (hH : vv_hy l G ad) : vv_fldM G RX5 194 2 1 := ⟨RX3, TX3, 12, "LuckCrates", tyX3, by rw [hH.1.1.1]; rfl, in_X3, by decide, tyX3_ok, nmX3, fun U hK => hH.1.2.1 U hK _ q222 rfl⟩
theorem fl_X5_196 {l : Launch} {G : vv_G} {ad : Nat → Nat} (hH : vv_hy l G ad) : vv_fldM G RX5 196 1 1 := ⟨RX2, TX2, 5, "LuckCrates", tyX2, by rw [hH.1.1.1]; rfl, in_X2, by decide, tyX2_ok, nmX2, fun U hK => hH.1.2.1 U hK _ q191 rfl⟩
theorem fl_X5_211 {l : Launch} {G : vv_G} {ad : Nat → Nat} (hH : vv_hy l G ad) : vv_fldM G RX5 211 1 0 := ⟨RX2, TX2, 5, "LuckCrates", tyX2, by rw [hH.1.1.1]; rfl, in_X2, by decide, tyX2_ok, nmX2, fun U hK => hH.1.2.1 U hK _ q187 rfl⟩
theorem fl_X5_213 {l : Launch} {G : vv_G} {ad : Nat → Nat} (hH : vv_hy l G ad) : vv_fldM G RX5 213 1 2 := ⟨RX2, TX2, 5, "LuckCrates", tyX2, by rw [hH.1.1.1]; rfl, in_X2, by decide, tyX2_ok, nmX2, fun U hK => hH.1.2.1 U hK _ q194 rfl⟩
theorem fl_X5_230 {l : Launch} {G : vv_G} {ad : Nat → Nat} (hH : vv_hy l G ad) : vv_fldM G RX5 230 1 3 := ⟨RX2, TX2, 5, "LuckCrates", tyX2, by rw [hH.1.1.1]; rfl, in_X2, by decide, tyX2_ok, nmX2, fun U hK => hH.1.2.1 U hK _ q197 rfl⟩
theorem fl_X5_232 {l : Launch} {G : vv_G} {ad : Nat → Nat} (hH : vv_hy l G ad) : vv_fldM G RX5 232 2 3 := ⟨RX3, TX3, 12, "LuckCrates", tyX3, by rw [hH.1.1.1]; rfl, in_X3, by decide, tyX3_ok, nmX3, fun U hK => hH.1.2.1 U hK _ q227 rfl⟩
theorem fl_X5_235 {l : Launch} {G : vv_G} {ad : Nat → Nat} (hH : vv_hy l G ad) : vv_fldM G RX5 235 2 4 := ⟨RX3, TX3, 12, "LuckCrates", tyX3, by rw [hH.1.1.1]; rfl, in_X3, by decide, tyX3_ok, nmX3, fun U hK => hH.1.2.1 U hK _ q230 rfl⟩
theorem fl_X5_238 {l : Launch} {G : vv_G} {ad : Nat → Nat} (hH : vv_hy l G ad) : vv_fldM G RX5 238 2 6 := ⟨RX3, TX3, 12, "LuckCrates", tyX3, by rw [hH.1.1.1]; rfl, in_X3, by decide, tyX3_ok, nmX3, fun U hK => hH.1.2.1 U hK _ q236 rfl⟩
theorem fl_X5_241 {l : Launch} {G : vv_G} {ad : Nat → Nat} (hH : vv_hy l G ad) : vv_fldM G RX5 241 2 5 := ⟨RX3, TX3, 12, "LuckCrates", tyX3, by rw [hH.1.1.1]; rfl, in_X3, by decide, tyX3_ok, nmX3, fun U hK => hH.1.2.1 U hK _ q233 rfl⟩
theorem fl_X5_261 {l : Launch} {G : vv_G} {ad : Nat → Nat} (hH : vv_hy l G ad) : vv_fldM G RX5 261 1 4 := ⟨RX2, TX2, 5, "LuckCrates", tyX2, by rw [hH.1.1.1]; rfl, in_X2, by decide, tyX2_ok, nmX2, fun U hK => hH.1.2.1 U hK _ q199 rfl⟩
theorem fl_X10_7 {G : vv_G} (hG : vv_gok G) : vv_fld G RX10 7 9 0 := ⟨RX10, TX10, 1, by rw [hG.1]; rfl, in_X10, by decide, q1108⟩
theorem pt_X10_7 {G : vv_G} (hG : vv_gok G) : vv_put G RX10 7 9 0 .int none := ⟨RX10, TX10, 1, tyX10, by rw [hG.1]; rfl, in_X10, tyX10_ok, nmX10, by decide, tyX10_ok 0 (by decide), q1108, Or.inr ⟨rfl, rfl⟩⟩
theorem fl_X7_9 {G : vv_G} (hG : vv_gok G) : vv_fld G RX7 9 6 0 := ⟨RX7, TX7, 4, by rw [hG.1]; rfl, in_X7, by decide, q1024⟩
theorem pt_X7_9 {G : vv_G} (hG : vv_gok G) : vv_put G RX7 9 6 0 .int none := ⟨RX7, TX7, 4, tyX7, by rw [hG.1]; rfl, in_X7, tyX7_ok, nmX7, by decide, tyX7_ok 0 (by decide), q1024, Or.inr ⟨rfl, rfl⟩⟩
theorem fl_X7_15 {G : vv_G} (hG : vv_gok G) : vv_fld G RX7 15 6 1 := ⟨RX7, TX7, 4, by rw [hG.1]; rfl, in_X7, by decide, q1027⟩
theorem pt_X7_15 {G : vv_G} (hG : vv_gok G) : vv_put G RX7 15 6 1 .int none := ⟨RX7, TX7, 4, tyX7, by rw [hG.1]; rfl, in_X7, tyX7_ok, nmX7, by decide, tyX7_ok 1 (by decide), q1027, Or.inr ⟨rfl, rfl⟩⟩
theorem fl_X7_18 {G : vv_G} (hG : vv_gok G) : vv_fld G RX7 18 6 2 := ⟨RX7, TX7, 4, by rw [hG.1]; rfl, in_X7, by decide, q1030⟩
theorem pt_X7_18 {G : vv_G} (hG : vv_gok G) : vv_put G RX7 18 6 2 .int none := ⟨RX7, TX7, 4, tyX7, by rw [hG.1]; rfl, in_X7, tyX7_ok, nmX7, by decide, tyX7_ok 2 (by decide), q1030, Or.inr ⟨rfl, rfl⟩⟩
theorem fl_X7_21 {G : vv_G} (hG : vv_gok G) : vv_fld G RX7 21 6 3 := ⟨RX7, TX7, 4, by rw [hG.1]; rfl, in_X7, by decide, q1033⟩
theorem pt_X7_21 {G : vv_G} (hG : vv_gok G) : vv_put G RX7 21 6 3 .int none := ⟨RX7, TX7, 4, tyX7, by rw [hG.1]; rfl, in_X7, tyX7_ok, nmX7, by decide, tyX7_ok 3 (by decide), q1033, Or.inr ⟨rfl, rfl⟩⟩
theorem fl_X6_7 {G : vv_G} (hG : vv_gok G) : vv_fld G RX6 7 5 6 := ⟨RX6, TX6, 7, by rw [hG.1]; rfl, in_X6, by decide, q963⟩
theorem pt_X6_7 {G : vv_G} (hG : vv_gok G) : vv_put G RX6 7 5 6 .int none := ⟨RX6, TX6, 7, tyX6, by rw [hG.1]; rfl, in_X6, tyX6_ok, nmX6, by decide, tyX6_ok 6 (by decide), q963, Or.inr ⟨rfl, rfl⟩⟩
theorem fl_J18_15 {G : vv_G} (hG : vv_gok G) : vv_fld G RJ18 15 13 0 := ⟨RJ19, TJ19, 4, by rw [hG.1]; rfl, in_J19, by decide, q1135⟩
theorem pt_J18_15 {G : vv_G} (hG : vv_gok G) : vv_put G RJ18 15 13 0 (.array .byte) none := ⟨RJ19, TJ19, 4, tyJ19, by rw [hG.1]; rfl, in_J19, tyJ19_ok, nmJ19, by decide, tyJ19_ok 0 (by decide), q1135, Or.inl rfl⟩
theorem fl_J18_22 {G : vv_G} (hG : vv_gok G) : vv_fld G RJ18 22 13 1 := ⟨RJ19, TJ19, 4, by rw [hG.1]; rfl, in_J19, by decide, q1136⟩
theorem pt_J18_22 {G : vv_G} (hG : vv_gok G) : vv_put G RJ18 22 13 1 .byte none := ⟨RJ19, TJ19, 4, tyJ19, by rw [hG.1]; rfl, in_J19, tyJ19_ok, nmJ19, by decide, tyJ19_ok 1 (by decide), q1136, Or.inl rfl⟩
theorem fl_J18_79 {G : vv_G} (hG : vv_gok G) : vv_fld G RJ18 79 13 3 := ⟨RJ19, TJ19, 4, by rw [hG.1]; rfl, in_J19, by decide, q1137⟩
theorem pt_J18_79 {G : vv_G} (hG : vv_gok G) : vv_put G RJ18 79 13 3 .int none := ⟨RJ19, TJ19, 4, tyJ19, by rw [hG.1]; rfl, in_J19, tyJ19_ok, nmJ19, by decide, tyJ19_ok 3 (by decide), q1137, Or.inl rfl⟩
theorem fl_J14_205 {G : vv_G} (hG : vv_gok G) : vv_fld G RJ14 205 12 0 := ⟨RJ14, TJ14, 1, by rw [hG.1]; rfl, in_J14, by decide, q993⟩
theorem pt_J14_205 {G : vv_G} (hG : vv_gok G) : vv_put G RJ14 205 12 0 .int none := ⟨RJ14, TJ14, 1, tyJ14, by rw [hG.1]; rfl, in_J14, tyJ14_ok, nmJ14, by decide, tyJ14_ok 0 (by decide), q993, Or.inr ⟨rfl, rfl⟩⟩
theorem fl_J3_7 {G : vv_G} (hG : vv_gok G) : vv_fld G RJ3 7 5 0 := ⟨RX6, TX6, 7, by rw [hG.1]; rfl, in_X6, by decide, q756⟩
theorem pt_J3_7 {G : vv_G} (hG : vv_gok G) : vv_put G RJ3 7 5 0 (.object "java/lang/Throwable") none := ⟨RX6, TX6, 7, tyX6, by rw [hG.1]; rfl, in_X6, tyX6_ok, nmX6, by decide, tyX6_ok 0 (by decide), q756, Or.inl rfl⟩
theorem fl_J3_17 {G : vv_G} (hG : vv_gok G) : vv_fld G RJ3 17 5 1 := ⟨RX6, TX6, 7, by rw [hG.1]; rfl, in_X6, by decide, q757⟩
theorem pt_J3_17 {G : vv_G} (hG : vv_gok G) : vv_put G RJ3 17 5 1 (.array (.object "java/lang/StackTraceElement")) none := ⟨RX6, TX6, 7, tyX6, by rw [hG.1]; rfl, in_X6, tyX6_ok, nmX6, by decide, tyX6_ok 1 (by decide), q757, Or.inl rfl⟩
theorem fl_J3_24 {G : vv_G} (hG : vv_gok G) : vv_fld G RJ3 24 5 2 := ⟨RX6, TX6, 7, by rw [hG.1]; rfl, in_X6, by decide, q758⟩
theorem pt_J3_24 {G : vv_G} (hG : vv_gok G) : vv_put G RJ3 24 5 2 (.object "java/util/List") none := ⟨RX6, TX6, 7, tyX6, by rw [hG.1]; rfl, in_X6, tyX6_ok, nmX6, by decide, tyX6_ok 2 (by decide), q758, Or.inl rfl⟩
theorem fl_J3_31 {G : vv_G} (hG : vv_gok G) : vv_fld G RJ3 31 5 3 := ⟨RX6, TX6, 7, by rw [hG.1]; rfl, in_X6, by decide, q755⟩
theorem pt_J3_31 {G : vv_G} (hG : vv_gok G) : vv_put G RJ3 31 5 3 (.object "java/lang/String") none := ⟨RX6, TX6, 7, tyX6, by rw [hG.1]; rfl, in_X6, tyX6_ok, nmX6, by decide, tyX6_ok 3 (by decide), q755, Or.inl rfl⟩
theorem fl_J3_198 {G : vv_G} (hG : vv_gok G) : vv_fld G RJ3 198 5 4 := ⟨RX6, TX6, 7, by rw [hG.1]; rfl, in_X6, by decide, q754⟩
theorem pt_J3_198 {G : vv_G} (hG : vv_gok G) : vv_put G RJ3 198 5 4 (.object "java/lang/Object") none := ⟨RX6, TX6, 7, tyX6, by rw [hG.1]; rfl, in_X6, tyX6_ok, nmX6, by decide, tyX6_ok 4 (by decide), q754, Or.inl rfl⟩
theorem fl_J1_7 {G : vv_G} (hG : vv_gok G) : vv_fld G RJ1 7 11 0 := ⟨RJ2, TJ2, 3, by rw [hG.1]; rfl, in_J2, by decide, q173⟩
theorem pt_J1_7 {G : vv_G} (hG : vv_gok G) : vv_put G RJ1 7 11 0 .int none := ⟨RJ2, TJ2, 3, tyJ2, by rw [hG.1]; rfl, in_J2, tyJ2_ok, nmJ2, by decide, tyJ2_ok 0 (by decide), q173, Or.inl rfl⟩
theorem fl_J2_9 {G : vv_G} (hG : vv_gok G) : vv_fld G RJ2 9 11 1 := ⟨RJ2, TJ2, 3, by rw [hG.1]; rfl, in_J2, by decide, q171⟩
theorem pt_J2_9 {G : vv_G} (hG : vv_gok G) : vv_put G RJ2 9 11 1 (.array (.object "java/lang/Object")) none := ⟨RJ2, TJ2, 3, tyJ2, by rw [hG.1]; rfl, in_J2, tyJ2_ok, nmJ2, by decide, tyJ2_ok 1 (by decide), q171, Or.inl rfl⟩
theorem fl_J2_48 {G : vv_G} (hG : vv_gok G) : vv_fld G RJ2 48 11 2 := ⟨RJ2, TJ2, 3, by rw [hG.1]; rfl, in_J2, by decide, q172⟩
theorem pt_J2_48 {G : vv_G} (hG : vv_gok G) : vv_put G RJ2 48 11 2 .int none := ⟨RJ2, TJ2, 3, tyJ2, by rw [hG.1]; rfl, in_J2, tyJ2_ok, nmJ2, by decide, tyJ2_ok 2 (by decide), q172, Or.inl rfl⟩
theorem fl_J2_63 {G : vv_G} (hG : vv_gok G) : vv_fldH G RJ2 "java/util/ArrayList" 63 11 0 .int := ⟨RJ2, TJ2, 3, tyJ2, by rw [hG.1]; rfl, in_J2, by decide, tyJ2_ok, nmJ2, q174, q175, rfl, tyJ2_ok 0 (by decide)⟩
theorem nw_X1_19 {G : vv_G} (hG : vv_gok G) : vv_cls G RX1 19 1 [.null, .null, .null, .int 0, .null] 5 := ⟨RX2, TX2, 5, tyX2, by rw [hG.1]; rfl, in_X2, tyX2_ok, q151, q152, q110, fun j hj => by rcases (show j = 0 ∨ j = 1 ∨ j = 2 ∨ j = 3 ∨ j = 4 by omega) with rfl | rfl | rfl | rfl | rfl <;> rfl⟩
theorem nw_X1_26 {G : vv_G} (hG : vv_gok G) : vv_cls G RX1 26 2 [.null, .null, .null, .null, .null, .null, .null, .null, .null, .int 0, .int 0, .null] 12 := ⟨RX3, TX3, 12, tyX3, by rw [hG.1]; rfl, in_X3, tyX3_ok, q211, q212, q114, fun j hj => by rcases (show j = 0 ∨ j = 1 ∨ j = 2 ∨ j = 3 ∨ j = 4 ∨ j = 5 ∨ j = 6 ∨ j = 7 ∨ j = 8 ∨ j = 9 ∨ j = 10 ∨ j = 11 by omega) with rfl | rfl | rfl | rfl | rfl | rfl | rfl | rfl | rfl | rfl | rfl | rfl <;> rfl⟩
theorem nw_X1_46 {G : vv_G} (hG : vv_gok G) : vv_cls G RX1 46 11 [.int 0, .null, .int 0] 3 := ⟨RJ2, TJ2, 3, tyJ2, by rw [hG.1]; rfl, in_J2, tyJ2_ok, q271, q158, q113, fun j hj => by rcases (show j = 0 ∨ j = 1 ∨ j = 2 by omega) with rfl | rfl | rfl <;> rfl⟩
theorem nw_X1_69 {G : vv_G} (hG : vv_gok G) : vv_cls G RX1 69 4 [.int 0, .null, .null, .null, .int 0, .int 0, .int 0, .int 0, .int 0, .null] 10 := ⟨RX5, TX5, 10, tyX5, by rw [hG.1]; rfl, in_X5, tyX5_ok, q767, q768, q120, fun j hj => by rcases (show j = 0 ∨ j = 1 ∨ j = 2 ∨ j = 3 ∨ j = 4 ∨ j = 5 ∨ j = 6 ∨ j = 7 ∨ j = 8 ∨ j = 9 by omega) with rfl | rfl | rfl | rfl | rfl | rfl | rfl | rfl | rfl | rfl <;> rfl⟩
theorem nw_X1_78 {G : vv_G} (hG : vv_gok G) : vv_cls G RX1 78 5 [.null, .null, .null, .null, .null, .int 0, .int 0] 7 := ⟨RX6, TX6, 7, tyX6, by rw [hG.1]; rfl, in_X6, tyX6_ok, q699, q946, q127, fun j hj => by rcases (show j = 0 ∨ j = 1 ∨ j = 2 ∨ j = 3 ∨ j = 4 ∨ j = 5 ∨ j = 6 by omega) with rfl | rfl | rfl | rfl | rfl | rfl | rfl <;> rfl⟩
theorem nw_X1_203 {G : vv_G} (hG : vv_gok G) : vv_cls G RX1 203 6 [.int 0, .int 0, .int 0, .int 0] 4 := ⟨RX7, TX7, 4, tyX7, by rw [hG.1]; rfl, in_X7, tyX7_ok, q1303, q1019, q135, fun j hj => by rcases (show j = 0 ∨ j = 1 ∨ j = 2 ∨ j = 3 by omega) with rfl | rfl | rfl | rfl <;> rfl⟩
theorem nw_X8_7 {G : vv_G} (hG : vv_gok G) : vv_cls G RX8 7 11 [.int 0, .null, .int 0] 3 := ⟨RJ2, TJ2, 3, tyJ2, by rw [hG.1]; rfl, in_J2, tyJ2_ok, q1116, q158, q113, fun j hj => by rcases (show j = 0 ∨ j = 1 ∨ j = 2 by omega) with rfl | rfl | rfl <;> rfl⟩
theorem nw_X8_16 {G : vv_G} (hG : vv_gok G) : vv_cls G RX8 16 13 [.null, .int 0, .int 0, .int 0] 4 := ⟨RJ19, TJ19, 4, tyJ19, by rw [hG.1]; rfl, in_J19, tyJ19_ok, q1118, q1119, q140, fun j hj => by rcases (show j = 0 ∨ j = 1 ∨ j = 2 ∨ j = 3 by omega) with rfl | rfl | rfl | rfl <;> rfl⟩
theorem nw_X3_4 {G : vv_G} (hG : vv_gok G) : vv_cls G RX3 4 2 [.null, .null, .null, .null, .null, .null, .null, .null, .null, .int 0, .int 0, .null] 12 := ⟨RX3, TX3, 12, tyX3, by rw [hG.1]; rfl, in_X3, tyX3_ok, q350, q212, q114, fun j hj => by rcases (show j = 0 ∨ j = 1 ∨ j = 2 ∨ j = 3 ∨ j = 4 ∨ j = 5 ∨ j = 6 ∨ j = 7 ∨ j = 8 ∨ j = 9 ∨ j = 10 ∨ j = 11 by omega) with rfl | rfl | rfl | rfl | rfl | rfl | rfl | rfl | rfl | rfl | rfl | rfl <;> rfl⟩
theorem nw_X2_9 {G : vv_G} (hG : vv_gok G) : vv_cls G RX2 9 11 [.int 0, .null, .int 0] 3 := ⟨RJ2, TJ2, 3, tyJ2, by rw [hG.1]; rfl, in_J2, tyJ2_ok, q157, q158, q113, fun j hj => by rcases (show j = 0 ∨ j = 1 ∨ j = 2 by omega) with rfl | rfl | rfl <;> rfl⟩
theorem nw_X2_34 {G : vv_G} (hG : vv_gok G) : vv_cls G RX2 34 6 [.int 0, .int 0, .int 0, .int 0] 4 := ⟨RX7, TX7, 4, tyX7, by rw [hG.1]; rfl, in_X7, tyX7_ok, q651, q1019, q135, fun j hj => by rcases (show j = 0 ∨ j = 1 ∨ j = 2 ∨ j = 3 by omega) with rfl | rfl | rfl | rfl <;> rfl⟩
theorem nw_X5_15 {G : vv_G} (hG : vv_gok G) : vv_cls G RX5 15 1 [.null, .null, .null, .int 0, .null] 5 := ⟨RX2, TX2, 5, tyX2, by rw [hG.1]; rfl, in_X2, tyX2_ok, q773, q152, q110, fun j hj => by rcases (show j = 0 ∨ j = 1 ∨ j = 2 ∨ j = 3 ∨ j = 4 by omega) with rfl | rfl | rfl | rfl | rfl <;> rfl⟩
theorem nw_X5_22 {G : vv_G} (hG : vv_gok G) : vv_cls G RX5 22 2 [.null, .null, .null, .null, .null, .null, .null, .null, .null, .int 0, .int 0, .null] 12 := ⟨RX3, TX3, 12, tyX3, by rw [hG.1]; rfl, in_X3, tyX3_ok, q775, q212, q114, fun j hj => by rcases (show j = 0 ∨ j = 1 ∨ j = 2 ∨ j = 3 ∨ j = 4 ∨ j = 5 ∨ j = 6 ∨ j = 7 ∨ j = 8 ∨ j = 9 ∨ j = 10 ∨ j = 11 by omega) with rfl | rfl | rfl | rfl | rfl | rfl | rfl | rfl | rfl | rfl | rfl | rfl <;> rfl⟩
theorem nw_X5_114 {G : vv_G} (hG : vv_gok G) : vv_cls G RX5 114 5 [.null, .null, .null, .null, .null, .int 0, .int 0] 7 := ⟨RX6, TX6, 7, tyX6, by rw [hG.1]; rfl, in_X6, tyX6_ok, q945, q946, q127, fun j hj => by rcases (show j = 0 ∨ j = 1 ∨ j = 2 ∨ j = 3 ∨ j = 4 ∨ j = 5 ∨ j = 6 by omega) with rfl | rfl | rfl | rfl | rfl | rfl | rfl <;> rfl⟩
theorem nw_X5_129 {G : vv_G} (hG : vv_gok G) : vv_cls G RX5 129 8 [.int 0] 1 := ⟨RX9, TX9, 1, tyX9, by rw [hG.1]; rfl, in_X9, tyX9_ok, q1088, q1089, q137, fun j hj => by rcases (show j = 0 by omega) with rfl <;> rfl⟩
theorem nw_X5_146 {G : vv_G} (hG : vv_gok G) : vv_cls G RX5 146 9 [.int 0] 1 := ⟨RX10, TX10, 1, tyX10, by rw [hG.1]; rfl, in_X10, tyX10_ok, q1102, q1103, q138, fun j hj => by rcases (show j = 0 by omega) with rfl <;> rfl⟩
theorem nw_X5_149 {G : vv_G} (hG : vv_gok G) : vv_cls G RX5 149 7 [.null, .null] 2 := ⟨RX8, TX8, 2, tyX8, by rw [hG.1]; rfl, in_X8, tyX8_ok, q1065, q1066, q136, fun j hj => by rcases (show j = 0 ∨ j = 1 by omega) with rfl | rfl <;> rfl⟩
theorem nw_X5_177 {G : vv_G} (hG : vv_gok G) : vv_cls G RX5 177 10 [.null] 1 := ⟨RX11, TX11, 1, tyX11, by rw [hG.1]; rfl, in_X11, tyX11_ok, q1227, q1228, q141, fun j hj => by rcases (show j = 0 by omega) with rfl <;> rfl⟩
theorem nw_X5_225 {G : vv_G} (hG : vv_gok G) : vv_cls G RX5 225 6 [.int 0, .int 0, .int 0, .int 0] 4 := ⟨RX7, TX7, 4, tyX7, by rw [hG.1]; rfl, in_X7, tyX7_ok, q1018, q1019, q135, fun j hj => by rcases (show j = 0 ∨ j = 1 ∨ j = 2 ∨ j = 3 by omega) with rfl | rfl | rfl | rfl <;> rfl⟩
theorem nw_J2_10 {G : vv_G} (hG : vv_gok G) : vv_cls G RJ2 10 11 [.int 0, .null, .int 0] 3 := ⟨RJ2, TJ2, 3, tyJ2, by rw [hG.1]; rfl, in_J2, tyJ2_ok, q682, q158, q113, fun j hj => by rcases (show j = 0 ∨ j = 1 ∨ j = 2 by omega) with rfl | rfl | rfl <;> rfl⟩
/-- a Form's 'of' -/
def vv_Form (l : Launch) (G : vv_G) (d a vs : Nat) (σ : vv_S) (r : Int32) : Prop := ∃ M1 : vv_M, vv_Met l G M1 d [.ref a, .ref vs] σ (.inl (some (.int r)), σ) ∧ (∃ f fs ci T N, σ.1 a = some (f, .inr (ci, fs)) ∧ G.1[ci]? = some (M1.1.cls, T, N)) ∧ vv_okF M1 1 ∧ Cond.selects M1.1.cls ⟨"LuckCrates$Form", "of", "([I)I"⟩ M1.1 ∈ lw_all ∧ ∀ U, vv_K G U → va_Fw M1.1.cls ⟨"LuckCrates$Form", "of", "([I)I"⟩ M1.1 U
theorem vv_callform {l : Launch} {G : vv_G} {M : vv_M} {d pc : Nat} {lv : List (Nat × Value)} {rest st0 : List Value} {σ : vv_S} {E : vv_X} {ix cnt d1 a vs : Nat} {r : Int32} (hF : vv_Form l G d1 a vs σ r) (hlk1 : Cond.methodLink M.1.cls ix ⟨"LuckCrates$Form", "of", "([I)I"⟩ ∈ lw_all) (hd : d1 + 1 ≤ d) (hst : st0 = .ref vs :: .ref a :: rest) (hr8 : (rest.map fun v => v.category).sum ≤ 8) (dg : decode M.2.1 pc = .ok (.invokeinterface ix cnt, 5)) (k9 : vv_V l G M d (pc + 5) lv (.int r :: rest) σ E) : vv_V l G M d pc lv st0 σ E := by
  obtain ⟨M1, h1, h2, h3, h4, h5⟩ := hF
  exact vv_callF (As := [.ref vs]) h3 hlk1 h1 rfl hd h2 h4 h5 ⟨by decide, by decide, by decide +kernel⟩ hst rfl hr8 dg k9
