set_option maxRecDepth 100000
theorem q1253 : (Jvm.Cond.castable "java/util/NoSuchElementException" "java/util/NoSuchElementException") ∈ lw_tbl := lw_at lw_m5 185 rfl
theorem q705 : (Jvm.Cond.castable "java/lang/IllegalArgumentException" "java/lang/IllegalArgumentException") ∈ lw_tbl := lw_at lw_m3 117 rfl
def xh1 {α β : Type} (q : hX α) (C : String) (f : α → Option β) (g : (String × Nat) × vv_S → Option β) : Option β := match q with
  | .inl r => f r
  | .inr x => if x.1.1 = C then g x else none
theorem xh1_l {α β : Type} {x : α} {C : String} {f : α → Option β} {g : (String × Nat) × vv_S → Option β} {r : Option β} (h : xh1 (.inl x) C f g = r) : f x = r := h
theorem xh1_r {α β : Type} {x : (String × Nat) × vv_S} {C : String} {f : α → Option β} {g : (String × Nat) × vv_S → Option β} {r : β} (h : xh1 (.inr x) C f g = some r) : x.1.1 = C ∧ g x = some r := by
  have h : (if x.1.1 = C then g x else none) = some r := h
  by_cases hc : x.1.1 = C
  · rw [if_pos hc] at h; exact ⟨hc, h⟩
  · rw [if_neg hc] at h; cases h
def xh2 {α β : Type} (q : hX α) (C D : String) (f : α → Option β) (g k : (String × Nat) × vv_S → Option β) : Option β := match q with
  | .inl r => f r
  | .inr x => if x.1.1 = C then g x else if x.1.1 = D then k x else none
theorem xh2_l {α β : Type} {x : α} {C D : String} {f : α → Option β} {g k : (String × Nat) × vv_S → Option β} {r : Option β} (h : xh2 (.inl x) C D f g k = r) : f x = r := h
theorem xh2_r {α β : Type} {x : (String × Nat) × vv_S} {C D : String} {f : α → Option β} {g k : (String × Nat) × vv_S → Option β} {r : β} (h : xh2 (.inr x) C D f g k = some r) : (x.1.1 = C ∧ g x = some r) ∨ (x.1.1 = D ∧ k x = some r) := by
  have h : (if x.1.1 = C then g x else if x.1.1 = D then k x else none) = some r := h
  by_cases hc : x.1.1 = C
  · rw [if_pos hc] at h; exact Or.inl ⟨hc, h⟩
  · rw [if_neg hc] at h
    by_cases hd : x.1.1 = D
    · rw [if_pos hd] at h; exact Or.inr ⟨hd, h⟩
    · rw [if_neg hd] at h; cases h
abbrev MX1_province : vv_M := (yX1_province, cX1_province, 4, (some .int), [(40, 48, 51, 78)])
theorem ok_X1_province : vv_okVH MX1_province 1 := ⟨(by intro h; cases h), by decide, q696, q697, q109, q698, ⟨by decide, by decide, by decide +kernel⟩⟩
abbrev MX0_province : vv_M := (yX0_province, cX0_province, 4, (some .int), [(0, 9, 12, 13)])
theorem ok_X0_province : vv_okSH MX0_province 3 := ⟨(by intro h; cases h), by decide, q692, q108, q693, ⟨by decide, by decide, by decide +kernel⟩⟩
abbrev MX0_count : vv_M := (yX0_count, cX0_count, 4, (some .int), [(0, 9, 12, 18)])
theorem ok_X0_count : vv_okSH MX0_count 3 := ⟨(by intro h; cases h), by decide, q1240, q108, q1241, ⟨by decide, by decide, by decide +kernel⟩⟩
abbrev MX0_town : vv_M := (yX0_town, cX0_town, 5, (some .int), [(0, 10, 13, 18)])
theorem ok_X0_town : vv_okSH MX0_town 4 := ⟨(by intro h; cases h), by decide, q1267, q108, q1268, ⟨by decide, by decide, by decide +kernel⟩⟩
abbrev MX0_crate : vv_M := (yX0_crate, cX0_crate, 5, (some .int), [(0, 10, 13, 18)])
theorem ok_X0_crate : vv_okSH MX0_crate 4 := ⟨(by intro h; cases h), by decide, q1283, q108, q1284, ⟨by decide, by decide, by decide +kernel⟩⟩
abbrev MX0_send : vv_M := (yX0_send, cX0_send, 5, (some .int), [(0, 10, 13, 18)])
theorem ok_X0_send : vv_okSH MX0_send 4 := ⟨(by intro h; cases h), by decide, q1297, q108, q1298, ⟨by decide, by decide, by decide +kernel⟩⟩
abbrev MX0_open : vv_M := (yX0_open, cX0_open, 4, (some .int), [(0, 9, 12, 18)])
theorem ok_X0_open : vv_okSH MX0_open 3 := ⟨(by intro h; cases h), by decide, q1306, q108, q1307, ⟨by decide, by decide, by decide +kernel⟩⟩
abbrev MX0_cat : vv_M := (yX0_cat, cX0_cat, 5, (some .int), [(0, 17, 20, 18)])
theorem ok_X0_cat : vv_okSH MX0_cat 4 := ⟨(by intro h; cases h), by decide, q1313, q108, q1314, ⟨by decide, by decide, by decide +kernel⟩⟩
abbrev MX0_mix : vv_M := (yX0_mix, cX0_mix, 5, (some .int), [(0, 10, 13, 18)])
theorem ok_X0_mix : vv_okSH MX0_mix 4 := ⟨(by intro h; cases h), by decide, q1320, q108, q1321, ⟨by decide, by decide, by decide +kernel⟩⟩
abbrev MX0_then : vv_M := (yX0_then, cX0_then, 6, (some .int), [(0, 12, 15, 18), (0, 12, 19, 13)])
theorem ok_X0_then : vv_okSH MX0_then 5 := ⟨(by intro h; cases h), by decide, q1331, q108, q1332, ⟨by decide, by decide, by decide +kernel⟩⟩
abbrev MX0_even : vv_M := (yX0_even, cX0_even, 4, (some .int), [(0, 9, 12, 18)])
theorem ok_X0_even : vv_okSH MX0_even 3 := ⟨(by intro h; cases h), by decide, q1338, q108, q1339, ⟨by decide, by decide, by decide +kernel⟩⟩
abbrev MX0_out : vv_M := (yX0_out, cX0_out, 4, (some .int), [(0, 9, 12, 18)])
theorem ok_X0_out : vv_okSH MX0_out 3 := ⟨(by intro h; cases h), by decide, q1346, q108, q1347, ⟨by decide, by decide, by decide +kernel⟩⟩
abbrev MX0_luckiest : vv_M := (yX0_luckiest, cX0_luckiest, 4, (some .int), [(0, 9, 12, 13)])
theorem ok_X0_luckiest : vv_okSH MX0_luckiest 3 := ⟨(by intro h; cases h), by decide, q1356, q108, q1357, ⟨by decide, by decide, by decide +kernel⟩⟩
abbrev MX0_far : vv_M := (yX0_far, cX0_far, 5, (some .int), [(0, 10, 13, 18)])
theorem ok_X0_far : vv_okSH MX0_far 4 := ⟨(by intro h; cases h), by decide, q1363, q108, q1364, ⟨by decide, by decide, by decide +kernel⟩⟩
abbrev MX0_leak : vv_M := (yX0_leak, cX0_leak, 5, (some .int), [(0, 10, 13, 18)])
theorem ok_X0_leak : vv_okSH MX0_leak 4 := ⟨(by intro h; cases h), by decide, q1373, q108, q1374, ⟨by decide, by decide, by decide +kernel⟩⟩
abbrev MX0_sending : vv_M := (yX0_sending, cX0_sending, 5, (some .int), [(0, 10, 13, 18), (0, 10, 17, 13)])
theorem ok_X0_sending : vv_okSH MX0_sending 4 := ⟨(by intro h; cases h), by decide, q1380, q108, q1381, ⟨by decide, by decide, by decide +kernel⟩⟩
abbrev MX0_hold : vv_M := (yX0_hold, cX0_hold, 5, (some .int), [(0, 10, 13, 18)])
theorem ok_X0_hold : vv_okSH MX0_hold 4 := ⟨(by intro h; cases h), by decide, q1388, q108, q1389, ⟨by decide, by decide, by decide +kernel⟩⟩
abbrev MX0_thrower : vv_M := (yX0_thrower, cX0_thrower, 7, (some .int), [(0, 14, 17, 13)])
theorem ok_X0_thrower : vv_okSH MX0_thrower 6 := ⟨(by intro h; cases h), by decide, q1405, q108, q1406, ⟨by decide, by decide, by decide +kernel⟩⟩
abbrev MX0_stop : vv_M := (yX0_stop, cX0_stop, 7, (some .int), [(0, 14, 17, 18), (0, 14, 21, 13)])
theorem ok_X0_stop : vv_okSH MX0_stop 6 := ⟨(by intro h; cases h), by decide, q1418, q108, q1419, ⟨by decide, by decide, by decide +kernel⟩⟩
abbrev MX0_see : vv_M := (yX0_see, cX0_see, 6, (some .int), [(0, 12, 15, 18)])
theorem ok_X0_see : vv_okSH MX0_see 5 := ⟨(by intro h; cases h), by decide, q1431, q108, q1432, ⟨by decide, by decide, by decide +kernel⟩⟩
abbrev MX0_opened : vv_M := (yX0_opened, cX0_opened, 4, (some .int), [(0, 9, 12, 18)])
theorem ok_X0_opened : vv_okSH MX0_opened 3 := ⟨(by intro h; cases h), by decide, q1438, q108, q1439, ⟨by decide, by decide, by decide +kernel⟩⟩
abbrev MX0_next : vv_M := (yX0_next, cX0_next, 4, (some .int), [(0, 9, 12, 18)])
theorem ok_X0_next : vv_okSH MX0_next 3 := ⟨(by intro h; cases h), by decide, q1456, q108, q1457, ⟨by decide, by decide, by decide +kernel⟩⟩
abbrev MX0_pooled : vv_M := (yX0_pooled, cX0_pooled, 4, (some .int), [(0, 9, 12, 13)])
theorem ok_X0_pooled : vv_okSH MX0_pooled 3 := ⟨(by intro h; cases h), by decide, q1466, q108, q1467, ⟨by decide, by decide, by decide +kernel⟩⟩
abbrev MX0_game : vv_M := (yX0_game, cX0_game, 6, (some .int), [(0, 12, 15, 18), (0, 12, 19, 13)])
theorem ok_X0_game : vv_okSH MX0_game 5 := ⟨(by intro h; cases h), by decide, q1473, q108, q1474, ⟨by decide, by decide, by decide +kernel⟩⟩
abbrev MX0_years : vv_M := (yX0_years, cX0_years, 6, (some .int), [(0, 12, 15, 18), (0, 12, 19, 13)])
theorem ok_X0_years : vv_okSH MX0_years 5 := ⟨(by intro h; cases h), by decide, q1484, q108, q1485, ⟨by decide, by decide, by decide +kernel⟩⟩
abbrev MX0_thief : vv_M := (yX0_thief, cX0_thief, 5, (some .int), [(0, 10, 13, 18), (0, 10, 17, 13)])
theorem ok_X0_thief : vv_okSH MX0_thief 4 := ⟨(by intro h; cases h), by decide, q1492, q108, q1493, ⟨by decide, by decide, by decide +kernel⟩⟩
abbrev MX0_row : vv_M := (yX0_row, cX0_row, 6, (some .int), [(0, 12, 15, 18)])
theorem ok_X0_row : vv_okSH MX0_row 5 := ⟨(by intro h; cases h), by decide, q1510, q108, q1511, ⟨by decide, by decide, by decide +kernel⟩⟩
abbrev MX0_bridge : vv_M := (yX0_bridge, cX0_bridge, 4, (some .int), [(0, 16, 19, 18)])
theorem ok_X0_bridge : vv_okSH MX0_bridge 3 := ⟨(by intro h; cases h), by decide, q1521, q108, q1522, ⟨by decide, by decide, by decide +kernel⟩⟩
abbrev MX0_streak : vv_M := (yX0_streak, cX0_streak, 5, (some .int), [(0, 10, 13, 18), (0, 10, 17, 13)])
theorem ok_X0_streak : vv_okSH MX0_streak 4 := ⟨(by intro h; cases h), by decide, q1529, q108, q1530, ⟨by decide, by decide, by decide +kernel⟩⟩
abbrev MX0_day : vv_M := (yX0_day, cX0_day, 5, (some .int), [(0, 10, 13, 18), (0, 10, 17, 13)])
theorem ok_X0_day : vv_okSH MX0_day 4 := ⟨(by intro h; cases h), by decide, q1536, q108, q1537, ⟨by decide, by decide, by decide +kernel⟩⟩
abbrev MX0_level : vv_M := (yX0_level, cX0_level, 4, (some .int), [(0, 9, 12, 18)])
theorem ok_X0_level : vv_okSH MX0_level 3 := ⟨(by intro h; cases h), by decide, q1543, q108, q1544, ⟨by decide, by decide, by decide +kernel⟩⟩
abbrev MX0_lend : vv_M := (yX0_lend, cX0_lend, 4, (some .int), [(0, 9, 12, 18)])
theorem ok_X0_lend : vv_okSH MX0_lend 3 := ⟨(by intro h; cases h), by decide, q1554, q108, q1555, ⟨by decide, by decide, by decide +kernel⟩⟩
