set_option maxRecDepth 100000
def RX0 : String := "LuckCratesLaw"
abbrev cX0_province : ByteArray := method_3_code
def yX0_province : MethodName := ⟨RX0, "province", "(LLuckCrates;I[J)I"⟩
def dkwX0_province_0 : List UInt8 := [44, 3, 42, 27, 182, 0, 7, 133, 80, 167, 0, 6, 78, 4, 172, 3, 172]
abbrev dktX0_province_0 : List UInt8 := dkwX0_province_0 ++ []
theorem dksX0_province_0 : cX0_province.data.toList.drop 0 = dktX0_province_0 := by decide +kernel
theorem dX0_province_0 : decode cX0_province 0 = .ok (.aload_n 2, 1) := dk_44 (dk_at dksX0_province_0 0 rfl rfl)
theorem dX0_province_1 : decode cX0_province 1 = .ok (.iconst 0, 1) := dk_3 (dk_at dksX0_province_0 1 rfl rfl)
theorem dX0_province_2 : decode cX0_province 2 = .ok (.aload_n 0, 1) := dk_42 (dk_at dksX0_province_0 2 rfl rfl)
theorem dX0_province_3 : decode cX0_province 3 = .ok (.iload_n 1, 1) := dk_27 (dk_at dksX0_province_0 3 rfl rfl)
theorem dX0_province_4 : decode cX0_province 4 = .ok (.invokevirtual 7, 3) := dk_182 0 7 (dk_at dksX0_province_0 4 rfl rfl)
theorem dX0_province_7 : decode cX0_province 7 = .ok (.i2l, 1) := dk_133 (dk_at dksX0_province_0 7 rfl rfl)
theorem dX0_province_8 : decode cX0_province 8 = .ok (.lastore, 1) := dk_80 (dk_at dksX0_province_0 8 rfl rfl)
theorem dX0_province_9 : decode cX0_province 9 = .ok (.goto 6, 3) := dk_167 0 6 (dk_at dksX0_province_0 9 rfl rfl)
theorem dX0_province_12 : decode cX0_province 12 = .ok (.astore_n 3, 1) := dk_78 (dk_at dksX0_province_0 12 rfl rfl)
theorem dX0_province_13 : decode cX0_province 13 = .ok (.iconst 1, 1) := dk_4 (dk_at dksX0_province_0 13 rfl rfl)
theorem dX0_province_14 : decode cX0_province 14 = .ok (.ireturn, 1) := dk_172 (dk_at dksX0_province_0 14 rfl rfl)
theorem dX0_province_15 : decode cX0_province 15 = .ok (.iconst 0, 1) := dk_3 (dk_at dksX0_province_0 15 rfl rfl)
theorem dX0_province_16 : decode cX0_province 16 = .ok (.ireturn, 1) := dk_172 (dk_at dksX0_province_0 16 rfl rfl)
abbrev cX0_count : ByteArray := method_4_code
def yX0_count : MethodName := ⟨RX0, "count", "(LLuckCrates;I[J)I"⟩
def dkwX0_count_0 : List UInt8 := [44, 3, 42, 27, 182, 0, 15, 133, 80, 167, 0, 6, 78, 4, 172, 3, 172]
abbrev dktX0_count_0 : List UInt8 := dkwX0_count_0 ++ []
theorem dksX0_count_0 : cX0_count.data.toList.drop 0 = dktX0_count_0 := by decide +kernel
theorem dX0_count_0 : decode cX0_count 0 = .ok (.aload_n 2, 1) := dk_44 (dk_at dksX0_count_0 0 rfl rfl)
theorem dX0_count_1 : decode cX0_count 1 = .ok (.iconst 0, 1) := dk_3 (dk_at dksX0_count_0 1 rfl rfl)
theorem dX0_count_2 : decode cX0_count 2 = .ok (.aload_n 0, 1) := dk_42 (dk_at dksX0_count_0 2 rfl rfl)
theorem dX0_count_3 : decode cX0_count 3 = .ok (.iload_n 1, 1) := dk_27 (dk_at dksX0_count_0 3 rfl rfl)
theorem dX0_count_4 : decode cX0_count 4 = .ok (.invokevirtual 15, 3) := dk_182 0 15 (dk_at dksX0_count_0 4 rfl rfl)
theorem dX0_count_7 : decode cX0_count 7 = .ok (.i2l, 1) := dk_133 (dk_at dksX0_count_0 7 rfl rfl)
theorem dX0_count_8 : decode cX0_count 8 = .ok (.lastore, 1) := dk_80 (dk_at dksX0_count_0 8 rfl rfl)
theorem dX0_count_9 : decode cX0_count 9 = .ok (.goto 6, 3) := dk_167 0 6 (dk_at dksX0_count_0 9 rfl rfl)
theorem dX0_count_12 : decode cX0_count 12 = .ok (.astore_n 3, 1) := dk_78 (dk_at dksX0_count_0 12 rfl rfl)
theorem dX0_count_13 : decode cX0_count 13 = .ok (.iconst 1, 1) := dk_4 (dk_at dksX0_count_0 13 rfl rfl)
theorem dX0_count_14 : decode cX0_count 14 = .ok (.ireturn, 1) := dk_172 (dk_at dksX0_count_0 14 rfl rfl)
theorem dX0_count_15 : decode cX0_count 15 = .ok (.iconst 0, 1) := dk_3 (dk_at dksX0_count_0 15 rfl rfl)
theorem dX0_count_16 : decode cX0_count 16 = .ok (.ireturn, 1) := dk_172 (dk_at dksX0_count_0 16 rfl rfl)
abbrev cX0_town : ByteArray := method_5_code
def yX0_town : MethodName := ⟨RX0, "town", "(LLuckCrates;II[J)I"⟩
def dkwX0_town_0 : List UInt8 := [45, 3, 42, 27, 28, 182, 0, 20, 133, 80, 167, 0, 7, 58, 4, 4, 172, 3, 172]
abbrev dktX0_town_0 : List UInt8 := dkwX0_town_0 ++ []
theorem dksX0_town_0 : cX0_town.data.toList.drop 0 = dktX0_town_0 := by decide +kernel
theorem dX0_town_0 : decode cX0_town 0 = .ok (.aload_n 3, 1) := dk_45 (dk_at dksX0_town_0 0 rfl rfl)
theorem dX0_town_1 : decode cX0_town 1 = .ok (.iconst 0, 1) := dk_3 (dk_at dksX0_town_0 1 rfl rfl)
theorem dX0_town_2 : decode cX0_town 2 = .ok (.aload_n 0, 1) := dk_42 (dk_at dksX0_town_0 2 rfl rfl)
theorem dX0_town_3 : decode cX0_town 3 = .ok (.iload_n 1, 1) := dk_27 (dk_at dksX0_town_0 3 rfl rfl)
theorem dX0_town_4 : decode cX0_town 4 = .ok (.iload_n 2, 1) := dk_28 (dk_at dksX0_town_0 4 rfl rfl)
theorem dX0_town_5 : decode cX0_town 5 = .ok (.invokevirtual 20, 3) := dk_182 0 20 (dk_at dksX0_town_0 5 rfl rfl)
theorem dX0_town_8 : decode cX0_town 8 = .ok (.i2l, 1) := dk_133 (dk_at dksX0_town_0 8 rfl rfl)
theorem dX0_town_9 : decode cX0_town 9 = .ok (.lastore, 1) := dk_80 (dk_at dksX0_town_0 9 rfl rfl)
theorem dX0_town_10 : decode cX0_town 10 = .ok (.goto 7, 3) := dk_167 0 7 (dk_at dksX0_town_0 10 rfl rfl)
theorem dX0_town_13 : decode cX0_town 13 = .ok (.astore 4, 2) := dk_58 4 (dk_at dksX0_town_0 13 rfl rfl)
theorem dX0_town_15 : decode cX0_town 15 = .ok (.iconst 1, 1) := dk_4 (dk_at dksX0_town_0 15 rfl rfl)
theorem dX0_town_16 : decode cX0_town 16 = .ok (.ireturn, 1) := dk_172 (dk_at dksX0_town_0 16 rfl rfl)
theorem dX0_town_17 : decode cX0_town 17 = .ok (.iconst 0, 1) := dk_3 (dk_at dksX0_town_0 17 rfl rfl)
theorem dX0_town_18 : decode cX0_town 18 = .ok (.ireturn, 1) := dk_172 (dk_at dksX0_town_0 18 rfl rfl)
abbrev cX0_crate : ByteArray := method_6_code
def yX0_crate : MethodName := ⟨RX0, "crate", "(LLuckCrates;II[J)I"⟩
def dkwX0_crate_0 : List UInt8 := [45, 3, 42, 27, 28, 182, 0, 24, 133, 80, 167, 0, 7, 58, 4, 4, 172, 3, 172]
abbrev dktX0_crate_0 : List UInt8 := dkwX0_crate_0 ++ []
theorem dksX0_crate_0 : cX0_crate.data.toList.drop 0 = dktX0_crate_0 := by decide +kernel
theorem dX0_crate_0 : decode cX0_crate 0 = .ok (.aload_n 3, 1) := dk_45 (dk_at dksX0_crate_0 0 rfl rfl)
theorem dX0_crate_1 : decode cX0_crate 1 = .ok (.iconst 0, 1) := dk_3 (dk_at dksX0_crate_0 1 rfl rfl)
theorem dX0_crate_2 : decode cX0_crate 2 = .ok (.aload_n 0, 1) := dk_42 (dk_at dksX0_crate_0 2 rfl rfl)
theorem dX0_crate_3 : decode cX0_crate 3 = .ok (.iload_n 1, 1) := dk_27 (dk_at dksX0_crate_0 3 rfl rfl)
theorem dX0_crate_4 : decode cX0_crate 4 = .ok (.iload_n 2, 1) := dk_28 (dk_at dksX0_crate_0 4 rfl rfl)
theorem dX0_crate_5 : decode cX0_crate 5 = .ok (.invokevirtual 24, 3) := dk_182 0 24 (dk_at dksX0_crate_0 5 rfl rfl)
theorem dX0_crate_8 : decode cX0_crate 8 = .ok (.i2l, 1) := dk_133 (dk_at dksX0_crate_0 8 rfl rfl)
theorem dX0_crate_9 : decode cX0_crate 9 = .ok (.lastore, 1) := dk_80 (dk_at dksX0_crate_0 9 rfl rfl)
theorem dX0_crate_10 : decode cX0_crate 10 = .ok (.goto 7, 3) := dk_167 0 7 (dk_at dksX0_crate_0 10 rfl rfl)
theorem dX0_crate_13 : decode cX0_crate 13 = .ok (.astore 4, 2) := dk_58 4 (dk_at dksX0_crate_0 13 rfl rfl)
theorem dX0_crate_15 : decode cX0_crate 15 = .ok (.iconst 1, 1) := dk_4 (dk_at dksX0_crate_0 15 rfl rfl)
theorem dX0_crate_16 : decode cX0_crate 16 = .ok (.ireturn, 1) := dk_172 (dk_at dksX0_crate_0 16 rfl rfl)
theorem dX0_crate_17 : decode cX0_crate 17 = .ok (.iconst 0, 1) := dk_3 (dk_at dksX0_crate_0 17 rfl rfl)
theorem dX0_crate_18 : decode cX0_crate 18 = .ok (.ireturn, 1) := dk_172 (dk_at dksX0_crate_0 18 rfl rfl)
abbrev cX0_send : ByteArray := method_7_code
def yX0_send : MethodName := ⟨RX0, "send", "(LLuckCrates;II[J)I"⟩
def dkwX0_send_0 : List UInt8 := [45, 3, 42, 27, 28, 182, 0, 27, 133, 80, 167, 0, 7, 58, 4, 4, 172, 3, 172]
abbrev dktX0_send_0 : List UInt8 := dkwX0_send_0 ++ []
theorem dksX0_send_0 : cX0_send.data.toList.drop 0 = dktX0_send_0 := by decide +kernel
theorem dX0_send_0 : decode cX0_send 0 = .ok (.aload_n 3, 1) := dk_45 (dk_at dksX0_send_0 0 rfl rfl)
theorem dX0_send_1 : decode cX0_send 1 = .ok (.iconst 0, 1) := dk_3 (dk_at dksX0_send_0 1 rfl rfl)
theorem dX0_send_2 : decode cX0_send 2 = .ok (.aload_n 0, 1) := dk_42 (dk_at dksX0_send_0 2 rfl rfl)
theorem dX0_send_3 : decode cX0_send 3 = .ok (.iload_n 1, 1) := dk_27 (dk_at dksX0_send_0 3 rfl rfl)
theorem dX0_send_4 : decode cX0_send 4 = .ok (.iload_n 2, 1) := dk_28 (dk_at dksX0_send_0 4 rfl rfl)
theorem dX0_send_5 : decode cX0_send 5 = .ok (.invokevirtual 27, 3) := dk_182 0 27 (dk_at dksX0_send_0 5 rfl rfl)
theorem dX0_send_8 : decode cX0_send 8 = .ok (.i2l, 1) := dk_133 (dk_at dksX0_send_0 8 rfl rfl)
theorem dX0_send_9 : decode cX0_send 9 = .ok (.lastore, 1) := dk_80 (dk_at dksX0_send_0 9 rfl rfl)
theorem dX0_send_10 : decode cX0_send 10 = .ok (.goto 7, 3) := dk_167 0 7 (dk_at dksX0_send_0 10 rfl rfl)
theorem dX0_send_13 : decode cX0_send 13 = .ok (.astore 4, 2) := dk_58 4 (dk_at dksX0_send_0 13 rfl rfl)
theorem dX0_send_15 : decode cX0_send 15 = .ok (.iconst 1, 1) := dk_4 (dk_at dksX0_send_0 15 rfl rfl)
theorem dX0_send_16 : decode cX0_send 16 = .ok (.ireturn, 1) := dk_172 (dk_at dksX0_send_0 16 rfl rfl)
theorem dX0_send_17 : decode cX0_send 17 = .ok (.iconst 0, 1) := dk_3 (dk_at dksX0_send_0 17 rfl rfl)
theorem dX0_send_18 : decode cX0_send 18 = .ok (.ireturn, 1) := dk_172 (dk_at dksX0_send_0 18 rfl rfl)
abbrev cX0_open : ByteArray := method_8_code
def yX0_open : MethodName := ⟨RX0, "open", "(LLuckCrates;I[J)I"⟩
def dkwX0_open_0 : List UInt8 := [44, 3, 42, 27, 182, 0, 30, 133, 80, 167, 0, 6, 78, 4, 172, 3, 172]
abbrev dktX0_open_0 : List UInt8 := dkwX0_open_0 ++ []
theorem dksX0_open_0 : cX0_open.data.toList.drop 0 = dktX0_open_0 := by decide +kernel
theorem dX0_open_0 : decode cX0_open 0 = .ok (.aload_n 2, 1) := dk_44 (dk_at dksX0_open_0 0 rfl rfl)
theorem dX0_open_1 : decode cX0_open 1 = .ok (.iconst 0, 1) := dk_3 (dk_at dksX0_open_0 1 rfl rfl)
theorem dX0_open_2 : decode cX0_open 2 = .ok (.aload_n 0, 1) := dk_42 (dk_at dksX0_open_0 2 rfl rfl)
theorem dX0_open_3 : decode cX0_open 3 = .ok (.iload_n 1, 1) := dk_27 (dk_at dksX0_open_0 3 rfl rfl)
theorem dX0_open_4 : decode cX0_open 4 = .ok (.invokevirtual 30, 3) := dk_182 0 30 (dk_at dksX0_open_0 4 rfl rfl)
theorem dX0_open_7 : decode cX0_open 7 = .ok (.i2l, 1) := dk_133 (dk_at dksX0_open_0 7 rfl rfl)
theorem dX0_open_8 : decode cX0_open 8 = .ok (.lastore, 1) := dk_80 (dk_at dksX0_open_0 8 rfl rfl)
theorem dX0_open_9 : decode cX0_open 9 = .ok (.goto 6, 3) := dk_167 0 6 (dk_at dksX0_open_0 9 rfl rfl)
theorem dX0_open_12 : decode cX0_open 12 = .ok (.astore_n 3, 1) := dk_78 (dk_at dksX0_open_0 12 rfl rfl)
theorem dX0_open_13 : decode cX0_open 13 = .ok (.iconst 1, 1) := dk_4 (dk_at dksX0_open_0 13 rfl rfl)
theorem dX0_open_14 : decode cX0_open 14 = .ok (.ireturn, 1) := dk_172 (dk_at dksX0_open_0 14 rfl rfl)
theorem dX0_open_15 : decode cX0_open 15 = .ok (.iconst 0, 1) := dk_3 (dk_at dksX0_open_0 15 rfl rfl)
theorem dX0_open_16 : decode cX0_open 16 = .ok (.ireturn, 1) := dk_172 (dk_at dksX0_open_0 16 rfl rfl)
abbrev cX0_cat : ByteArray := method_9_code
def yX0_cat : MethodName := ⟨RX0, "cat", "(LLuckCrates;IZ[J)I"⟩
def dkwX0_cat_1 : List UInt8 := [3, 172]
abbrev dktX0_cat_1 : List UInt8 := dkwX0_cat_1 ++ []
def dkwX0_cat_0 : List UInt8 := [45, 3, 42, 27, 28, 182, 0, 33, 153, 0, 7, 10, 167, 0, 4, 9, 80, 167, 0, 7, 58, 4, 4, 172]
abbrev dktX0_cat_0 : List UInt8 := dkwX0_cat_0 ++ dktX0_cat_1
theorem dksX0_cat_0 : cX0_cat.data.toList.drop 0 = dktX0_cat_0 := by decide +kernel
theorem dksX0_cat_1 : cX0_cat.data.toList.drop 24 = dktX0_cat_1 := dk_seg dksX0_cat_0 24 rfl rfl
theorem dX0_cat_0 : decode cX0_cat 0 = .ok (.aload_n 3, 1) := dk_45 (dk_at dksX0_cat_0 0 rfl rfl)
theorem dX0_cat_1 : decode cX0_cat 1 = .ok (.iconst 0, 1) := dk_3 (dk_at dksX0_cat_0 1 rfl rfl)
theorem dX0_cat_2 : decode cX0_cat 2 = .ok (.aload_n 0, 1) := dk_42 (dk_at dksX0_cat_0 2 rfl rfl)
theorem dX0_cat_3 : decode cX0_cat 3 = .ok (.iload_n 1, 1) := dk_27 (dk_at dksX0_cat_0 3 rfl rfl)
theorem dX0_cat_4 : decode cX0_cat 4 = .ok (.iload_n 2, 1) := dk_28 (dk_at dksX0_cat_0 4 rfl rfl)
theorem dX0_cat_5 : decode cX0_cat 5 = .ok (.invokevirtual 33, 3) := dk_182 0 33 (dk_at dksX0_cat_0 5 rfl rfl)
theorem dX0_cat_8 : decode cX0_cat 8 = .ok (.ifCond .eq 7, 3) := dk_153 0 7 (dk_at dksX0_cat_0 8 rfl rfl)
theorem dX0_cat_11 : decode cX0_cat 11 = .ok (.lconst 1, 1) := dk_10 (dk_at dksX0_cat_0 11 rfl rfl)
theorem dX0_cat_12 : decode cX0_cat 12 = .ok (.goto 4, 3) := dk_167 0 4 (dk_at dksX0_cat_0 12 rfl rfl)
theorem dX0_cat_15 : decode cX0_cat 15 = .ok (.lconst 0, 1) := dk_9 (dk_at dksX0_cat_0 15 rfl rfl)
theorem dX0_cat_16 : decode cX0_cat 16 = .ok (.lastore, 1) := dk_80 (dk_at dksX0_cat_0 16 rfl rfl)
theorem dX0_cat_17 : decode cX0_cat 17 = .ok (.goto 7, 3) := dk_167 0 7 (dk_at dksX0_cat_0 17 rfl rfl)
theorem dX0_cat_20 : decode cX0_cat 20 = .ok (.astore 4, 2) := dk_58 4 (dk_at dksX0_cat_0 20 rfl rfl)
theorem dX0_cat_22 : decode cX0_cat 22 = .ok (.iconst 1, 1) := dk_4 (dk_at dksX0_cat_0 22 rfl rfl)
theorem dX0_cat_23 : decode cX0_cat 23 = .ok (.ireturn, 1) := dk_172 (dk_at dksX0_cat_0 23 rfl rfl)
theorem dX0_cat_24 : decode cX0_cat 24 = .ok (.iconst 0, 1) := dk_3 (dk_at dksX0_cat_1 0 rfl rfl)
theorem dX0_cat_25 : decode cX0_cat 25 = .ok (.ireturn, 1) := dk_172 (dk_at dksX0_cat_1 1 rfl rfl)
abbrev cX0_mix : ByteArray := method_10_code
def yX0_mix : MethodName := ⟨RX0, "mix", "(LLuckCrates;II[J)I"⟩
def dkwX0_mix_0 : List UInt8 := [45, 3, 42, 27, 28, 182, 0, 37, 133, 80, 167, 0, 7, 58, 4, 4, 172, 3, 172]
abbrev dktX0_mix_0 : List UInt8 := dkwX0_mix_0 ++ []
theorem dksX0_mix_0 : cX0_mix.data.toList.drop 0 = dktX0_mix_0 := by decide +kernel
theorem dX0_mix_0 : decode cX0_mix 0 = .ok (.aload_n 3, 1) := dk_45 (dk_at dksX0_mix_0 0 rfl rfl)
theorem dX0_mix_1 : decode cX0_mix 1 = .ok (.iconst 0, 1) := dk_3 (dk_at dksX0_mix_0 1 rfl rfl)
theorem dX0_mix_2 : decode cX0_mix 2 = .ok (.aload_n 0, 1) := dk_42 (dk_at dksX0_mix_0 2 rfl rfl)
theorem dX0_mix_3 : decode cX0_mix 3 = .ok (.iload_n 1, 1) := dk_27 (dk_at dksX0_mix_0 3 rfl rfl)
theorem dX0_mix_4 : decode cX0_mix 4 = .ok (.iload_n 2, 1) := dk_28 (dk_at dksX0_mix_0 4 rfl rfl)
theorem dX0_mix_5 : decode cX0_mix 5 = .ok (.invokevirtual 37, 3) := dk_182 0 37 (dk_at dksX0_mix_0 5 rfl rfl)
theorem dX0_mix_8 : decode cX0_mix 8 = .ok (.i2l, 1) := dk_133 (dk_at dksX0_mix_0 8 rfl rfl)
theorem dX0_mix_9 : decode cX0_mix 9 = .ok (.lastore, 1) := dk_80 (dk_at dksX0_mix_0 9 rfl rfl)
theorem dX0_mix_10 : decode cX0_mix 10 = .ok (.goto 7, 3) := dk_167 0 7 (dk_at dksX0_mix_0 10 rfl rfl)
theorem dX0_mix_13 : decode cX0_mix 13 = .ok (.astore 4, 2) := dk_58 4 (dk_at dksX0_mix_0 13 rfl rfl)
theorem dX0_mix_15 : decode cX0_mix 15 = .ok (.iconst 1, 1) := dk_4 (dk_at dksX0_mix_0 15 rfl rfl)
theorem dX0_mix_16 : decode cX0_mix 16 = .ok (.ireturn, 1) := dk_172 (dk_at dksX0_mix_0 16 rfl rfl)
theorem dX0_mix_17 : decode cX0_mix 17 = .ok (.iconst 0, 1) := dk_3 (dk_at dksX0_mix_0 17 rfl rfl)
theorem dX0_mix_18 : decode cX0_mix 18 = .ok (.ireturn, 1) := dk_172 (dk_at dksX0_mix_0 18 rfl rfl)
abbrev cX0_then : ByteArray := method_11_code
def yX0_then : MethodName := ⟨RX0, "then", "(LLuckCrates;III[J)I"⟩
def dkwX0_then_1 : List UInt8 := [172]
abbrev dktX0_then_1 : List UInt8 := dkwX0_then_1 ++ []
def dkwX0_then_0 : List UInt8 := [25, 4, 3, 42, 27, 28, 29, 182, 0, 40, 133, 80, 167, 0, 11, 58, 5, 4, 172, 58, 5, 5, 172, 3]
abbrev dktX0_then_0 : List UInt8 := dkwX0_then_0 ++ dktX0_then_1
theorem dksX0_then_0 : cX0_then.data.toList.drop 0 = dktX0_then_0 := by decide +kernel
theorem dksX0_then_1 : cX0_then.data.toList.drop 24 = dktX0_then_1 := dk_seg dksX0_then_0 24 rfl rfl
theorem dX0_then_0 : decode cX0_then 0 = .ok (.aload 4, 2) := dk_25 4 (dk_at dksX0_then_0 0 rfl rfl)
theorem dX0_then_2 : decode cX0_then 2 = .ok (.iconst 0, 1) := dk_3 (dk_at dksX0_then_0 2 rfl rfl)
theorem dX0_then_3 : decode cX0_then 3 = .ok (.aload_n 0, 1) := dk_42 (dk_at dksX0_then_0 3 rfl rfl)
theorem dX0_then_4 : decode cX0_then 4 = .ok (.iload_n 1, 1) := dk_27 (dk_at dksX0_then_0 4 rfl rfl)
theorem dX0_then_5 : decode cX0_then 5 = .ok (.iload_n 2, 1) := dk_28 (dk_at dksX0_then_0 5 rfl rfl)
theorem dX0_then_6 : decode cX0_then 6 = .ok (.iload_n 3, 1) := dk_29 (dk_at dksX0_then_0 6 rfl rfl)
theorem dX0_then_7 : decode cX0_then 7 = .ok (.invokevirtual 40, 3) := dk_182 0 40 (dk_at dksX0_then_0 7 rfl rfl)
theorem dX0_then_10 : decode cX0_then 10 = .ok (.i2l, 1) := dk_133 (dk_at dksX0_then_0 10 rfl rfl)
theorem dX0_then_11 : decode cX0_then 11 = .ok (.lastore, 1) := dk_80 (dk_at dksX0_then_0 11 rfl rfl)
theorem dX0_then_12 : decode cX0_then 12 = .ok (.goto 11, 3) := dk_167 0 11 (dk_at dksX0_then_0 12 rfl rfl)
theorem dX0_then_15 : decode cX0_then 15 = .ok (.astore 5, 2) := dk_58 5 (dk_at dksX0_then_0 15 rfl rfl)
theorem dX0_then_17 : decode cX0_then 17 = .ok (.iconst 1, 1) := dk_4 (dk_at dksX0_then_0 17 rfl rfl)
theorem dX0_then_18 : decode cX0_then 18 = .ok (.ireturn, 1) := dk_172 (dk_at dksX0_then_0 18 rfl rfl)
theorem dX0_then_19 : decode cX0_then 19 = .ok (.astore 5, 2) := dk_58 5 (dk_at dksX0_then_0 19 rfl rfl)
theorem dX0_then_21 : decode cX0_then 21 = .ok (.iconst 2, 1) := dk_5 (dk_at dksX0_then_0 21 rfl rfl)
theorem dX0_then_22 : decode cX0_then 22 = .ok (.ireturn, 1) := dk_172 (dk_at dksX0_then_0 22 rfl rfl)
theorem dX0_then_23 : decode cX0_then 23 = .ok (.iconst 0, 1) := dk_3 (dk_at dksX0_then_0 23 rfl rfl)
theorem dX0_then_24 : decode cX0_then 24 = .ok (.ireturn, 1) := dk_172 (dk_at dksX0_then_1 0 rfl rfl)
abbrev cX0_even : ByteArray := method_12_code
def yX0_even : MethodName := ⟨RX0, "even", "(LLuckCrates;I[J)I"⟩
def dkwX0_even_0 : List UInt8 := [44, 3, 42, 27, 182, 0, 44, 133, 80, 167, 0, 6, 78, 4, 172, 3, 172]
abbrev dktX0_even_0 : List UInt8 := dkwX0_even_0 ++ []
theorem dksX0_even_0 : cX0_even.data.toList.drop 0 = dktX0_even_0 := by decide +kernel
theorem dX0_even_0 : decode cX0_even 0 = .ok (.aload_n 2, 1) := dk_44 (dk_at dksX0_even_0 0 rfl rfl)
theorem dX0_even_1 : decode cX0_even 1 = .ok (.iconst 0, 1) := dk_3 (dk_at dksX0_even_0 1 rfl rfl)
theorem dX0_even_2 : decode cX0_even 2 = .ok (.aload_n 0, 1) := dk_42 (dk_at dksX0_even_0 2 rfl rfl)
theorem dX0_even_3 : decode cX0_even 3 = .ok (.iload_n 1, 1) := dk_27 (dk_at dksX0_even_0 3 rfl rfl)
theorem dX0_even_4 : decode cX0_even 4 = .ok (.invokevirtual 44, 3) := dk_182 0 44 (dk_at dksX0_even_0 4 rfl rfl)
theorem dX0_even_7 : decode cX0_even 7 = .ok (.i2l, 1) := dk_133 (dk_at dksX0_even_0 7 rfl rfl)
theorem dX0_even_8 : decode cX0_even 8 = .ok (.lastore, 1) := dk_80 (dk_at dksX0_even_0 8 rfl rfl)
theorem dX0_even_9 : decode cX0_even 9 = .ok (.goto 6, 3) := dk_167 0 6 (dk_at dksX0_even_0 9 rfl rfl)
theorem dX0_even_12 : decode cX0_even 12 = .ok (.astore_n 3, 1) := dk_78 (dk_at dksX0_even_0 12 rfl rfl)
theorem dX0_even_13 : decode cX0_even 13 = .ok (.iconst 1, 1) := dk_4 (dk_at dksX0_even_0 13 rfl rfl)
theorem dX0_even_14 : decode cX0_even 14 = .ok (.ireturn, 1) := dk_172 (dk_at dksX0_even_0 14 rfl rfl)
theorem dX0_even_15 : decode cX0_even 15 = .ok (.iconst 0, 1) := dk_3 (dk_at dksX0_even_0 15 rfl rfl)
theorem dX0_even_16 : decode cX0_even 16 = .ok (.ireturn, 1) := dk_172 (dk_at dksX0_even_0 16 rfl rfl)
abbrev cX0_out : ByteArray := method_13_code
def yX0_out : MethodName := ⟨RX0, "out", "(LLuckCrates;I[J)I"⟩
def dkwX0_out_0 : List UInt8 := [44, 3, 42, 27, 182, 0, 47, 133, 80, 167, 0, 6, 78, 4, 172, 3, 172]
abbrev dktX0_out_0 : List UInt8 := dkwX0_out_0 ++ []
theorem dksX0_out_0 : cX0_out.data.toList.drop 0 = dktX0_out_0 := by decide +kernel
theorem dX0_out_0 : decode cX0_out 0 = .ok (.aload_n 2, 1) := dk_44 (dk_at dksX0_out_0 0 rfl rfl)
theorem dX0_out_1 : decode cX0_out 1 = .ok (.iconst 0, 1) := dk_3 (dk_at dksX0_out_0 1 rfl rfl)
theorem dX0_out_2 : decode cX0_out 2 = .ok (.aload_n 0, 1) := dk_42 (dk_at dksX0_out_0 2 rfl rfl)
theorem dX0_out_3 : decode cX0_out 3 = .ok (.iload_n 1, 1) := dk_27 (dk_at dksX0_out_0 3 rfl rfl)
theorem dX0_out_4 : decode cX0_out 4 = .ok (.invokevirtual 47, 3) := dk_182 0 47 (dk_at dksX0_out_0 4 rfl rfl)
theorem dX0_out_7 : decode cX0_out 7 = .ok (.i2l, 1) := dk_133 (dk_at dksX0_out_0 7 rfl rfl)
theorem dX0_out_8 : decode cX0_out 8 = .ok (.lastore, 1) := dk_80 (dk_at dksX0_out_0 8 rfl rfl)
theorem dX0_out_9 : decode cX0_out 9 = .ok (.goto 6, 3) := dk_167 0 6 (dk_at dksX0_out_0 9 rfl rfl)
theorem dX0_out_12 : decode cX0_out 12 = .ok (.astore_n 3, 1) := dk_78 (dk_at dksX0_out_0 12 rfl rfl)
theorem dX0_out_13 : decode cX0_out 13 = .ok (.iconst 1, 1) := dk_4 (dk_at dksX0_out_0 13 rfl rfl)
theorem dX0_out_14 : decode cX0_out 14 = .ok (.ireturn, 1) := dk_172 (dk_at dksX0_out_0 14 rfl rfl)
theorem dX0_out_15 : decode cX0_out 15 = .ok (.iconst 0, 1) := dk_3 (dk_at dksX0_out_0 15 rfl rfl)
theorem dX0_out_16 : decode cX0_out 16 = .ok (.ireturn, 1) := dk_172 (dk_at dksX0_out_0 16 rfl rfl)
abbrev cX0_luckiest : ByteArray := method_14_code
def yX0_luckiest : MethodName := ⟨RX0, "luckiest", "(LLuckCrates;I[J)I"⟩
def dkwX0_luckiest_0 : List UInt8 := [44, 3, 42, 27, 182, 0, 50, 133, 80, 167, 0, 6, 78, 4, 172, 3, 172]
abbrev dktX0_luckiest_0 : List UInt8 := dkwX0_luckiest_0 ++ []
theorem dksX0_luckiest_0 : cX0_luckiest.data.toList.drop 0 = dktX0_luckiest_0 := by decide +kernel
theorem dX0_luckiest_0 : decode cX0_luckiest 0 = .ok (.aload_n 2, 1) := dk_44 (dk_at dksX0_luckiest_0 0 rfl rfl)
theorem dX0_luckiest_1 : decode cX0_luckiest 1 = .ok (.iconst 0, 1) := dk_3 (dk_at dksX0_luckiest_0 1 rfl rfl)
theorem dX0_luckiest_2 : decode cX0_luckiest 2 = .ok (.aload_n 0, 1) := dk_42 (dk_at dksX0_luckiest_0 2 rfl rfl)
theorem dX0_luckiest_3 : decode cX0_luckiest 3 = .ok (.iload_n 1, 1) := dk_27 (dk_at dksX0_luckiest_0 3 rfl rfl)
theorem dX0_luckiest_4 : decode cX0_luckiest 4 = .ok (.invokevirtual 50, 3) := dk_182 0 50 (dk_at dksX0_luckiest_0 4 rfl rfl)
theorem dX0_luckiest_7 : decode cX0_luckiest 7 = .ok (.i2l, 1) := dk_133 (dk_at dksX0_luckiest_0 7 rfl rfl)
theorem dX0_luckiest_8 : decode cX0_luckiest 8 = .ok (.lastore, 1) := dk_80 (dk_at dksX0_luckiest_0 8 rfl rfl)
theorem dX0_luckiest_9 : decode cX0_luckiest 9 = .ok (.goto 6, 3) := dk_167 0 6 (dk_at dksX0_luckiest_0 9 rfl rfl)
theorem dX0_luckiest_12 : decode cX0_luckiest 12 = .ok (.astore_n 3, 1) := dk_78 (dk_at dksX0_luckiest_0 12 rfl rfl)
theorem dX0_luckiest_13 : decode cX0_luckiest 13 = .ok (.iconst 1, 1) := dk_4 (dk_at dksX0_luckiest_0 13 rfl rfl)
theorem dX0_luckiest_14 : decode cX0_luckiest 14 = .ok (.ireturn, 1) := dk_172 (dk_at dksX0_luckiest_0 14 rfl rfl)
theorem dX0_luckiest_15 : decode cX0_luckiest 15 = .ok (.iconst 0, 1) := dk_3 (dk_at dksX0_luckiest_0 15 rfl rfl)
theorem dX0_luckiest_16 : decode cX0_luckiest 16 = .ok (.ireturn, 1) := dk_172 (dk_at dksX0_luckiest_0 16 rfl rfl)
abbrev cX0_far : ByteArray := method_15_code
def yX0_far : MethodName := ⟨RX0, "far", "(LLuckCrates;II[J)I"⟩
def dkwX0_far_0 : List UInt8 := [45, 3, 42, 27, 28, 182, 0, 53, 133, 80, 167, 0, 7, 58, 4, 4, 172, 3, 172]
abbrev dktX0_far_0 : List UInt8 := dkwX0_far_0 ++ []
theorem dksX0_far_0 : cX0_far.data.toList.drop 0 = dktX0_far_0 := by decide +kernel
theorem dX0_far_0 : decode cX0_far 0 = .ok (.aload_n 3, 1) := dk_45 (dk_at dksX0_far_0 0 rfl rfl)
theorem dX0_far_1 : decode cX0_far 1 = .ok (.iconst 0, 1) := dk_3 (dk_at dksX0_far_0 1 rfl rfl)
theorem dX0_far_2 : decode cX0_far 2 = .ok (.aload_n 0, 1) := dk_42 (dk_at dksX0_far_0 2 rfl rfl)
theorem dX0_far_3 : decode cX0_far 3 = .ok (.iload_n 1, 1) := dk_27 (dk_at dksX0_far_0 3 rfl rfl)
theorem dX0_far_4 : decode cX0_far 4 = .ok (.iload_n 2, 1) := dk_28 (dk_at dksX0_far_0 4 rfl rfl)
theorem dX0_far_5 : decode cX0_far 5 = .ok (.invokevirtual 53, 3) := dk_182 0 53 (dk_at dksX0_far_0 5 rfl rfl)
theorem dX0_far_8 : decode cX0_far 8 = .ok (.i2l, 1) := dk_133 (dk_at dksX0_far_0 8 rfl rfl)
theorem dX0_far_9 : decode cX0_far 9 = .ok (.lastore, 1) := dk_80 (dk_at dksX0_far_0 9 rfl rfl)
theorem dX0_far_10 : decode cX0_far 10 = .ok (.goto 7, 3) := dk_167 0 7 (dk_at dksX0_far_0 10 rfl rfl)
theorem dX0_far_13 : decode cX0_far 13 = .ok (.astore 4, 2) := dk_58 4 (dk_at dksX0_far_0 13 rfl rfl)
theorem dX0_far_15 : decode cX0_far 15 = .ok (.iconst 1, 1) := dk_4 (dk_at dksX0_far_0 15 rfl rfl)
theorem dX0_far_16 : decode cX0_far 16 = .ok (.ireturn, 1) := dk_172 (dk_at dksX0_far_0 16 rfl rfl)
theorem dX0_far_17 : decode cX0_far 17 = .ok (.iconst 0, 1) := dk_3 (dk_at dksX0_far_0 17 rfl rfl)
theorem dX0_far_18 : decode cX0_far 18 = .ok (.ireturn, 1) := dk_172 (dk_at dksX0_far_0 18 rfl rfl)
abbrev cX0_leak : ByteArray := method_16_code
def yX0_leak : MethodName := ⟨RX0, "leak", "(LLuckCrates;II[J)I"⟩
def dkwX0_leak_0 : List UInt8 := [45, 3, 42, 27, 28, 182, 0, 56, 133, 80, 167, 0, 7, 58, 4, 4, 172, 3, 172]
abbrev dktX0_leak_0 : List UInt8 := dkwX0_leak_0 ++ []
theorem dksX0_leak_0 : cX0_leak.data.toList.drop 0 = dktX0_leak_0 := by decide +kernel
theorem dX0_leak_0 : decode cX0_leak 0 = .ok (.aload_n 3, 1) := dk_45 (dk_at dksX0_leak_0 0 rfl rfl)
theorem dX0_leak_1 : decode cX0_leak 1 = .ok (.iconst 0, 1) := dk_3 (dk_at dksX0_leak_0 1 rfl rfl)
theorem dX0_leak_2 : decode cX0_leak 2 = .ok (.aload_n 0, 1) := dk_42 (dk_at dksX0_leak_0 2 rfl rfl)
theorem dX0_leak_3 : decode cX0_leak 3 = .ok (.iload_n 1, 1) := dk_27 (dk_at dksX0_leak_0 3 rfl rfl)
theorem dX0_leak_4 : decode cX0_leak 4 = .ok (.iload_n 2, 1) := dk_28 (dk_at dksX0_leak_0 4 rfl rfl)
theorem dX0_leak_5 : decode cX0_leak 5 = .ok (.invokevirtual 56, 3) := dk_182 0 56 (dk_at dksX0_leak_0 5 rfl rfl)
theorem dX0_leak_8 : decode cX0_leak 8 = .ok (.i2l, 1) := dk_133 (dk_at dksX0_leak_0 8 rfl rfl)
theorem dX0_leak_9 : decode cX0_leak 9 = .ok (.lastore, 1) := dk_80 (dk_at dksX0_leak_0 9 rfl rfl)
theorem dX0_leak_10 : decode cX0_leak 10 = .ok (.goto 7, 3) := dk_167 0 7 (dk_at dksX0_leak_0 10 rfl rfl)
theorem dX0_leak_13 : decode cX0_leak 13 = .ok (.astore 4, 2) := dk_58 4 (dk_at dksX0_leak_0 13 rfl rfl)
theorem dX0_leak_15 : decode cX0_leak 15 = .ok (.iconst 1, 1) := dk_4 (dk_at dksX0_leak_0 15 rfl rfl)
theorem dX0_leak_16 : decode cX0_leak 16 = .ok (.ireturn, 1) := dk_172 (dk_at dksX0_leak_0 16 rfl rfl)
theorem dX0_leak_17 : decode cX0_leak 17 = .ok (.iconst 0, 1) := dk_3 (dk_at dksX0_leak_0 17 rfl rfl)
theorem dX0_leak_18 : decode cX0_leak 18 = .ok (.ireturn, 1) := dk_172 (dk_at dksX0_leak_0 18 rfl rfl)
abbrev cX0_sending : ByteArray := method_17_code
def yX0_sending : MethodName := ⟨RX0, "sending", "(LLuckCrates;II[J)I"⟩
def dkwX0_sending_0 : List UInt8 := [45, 3, 42, 27, 28, 182, 0, 59, 133, 80, 167, 0, 11, 58, 4, 4, 172, 58, 4, 5, 172, 3, 172]
abbrev dktX0_sending_0 : List UInt8 := dkwX0_sending_0 ++ []
theorem dksX0_sending_0 : cX0_sending.data.toList.drop 0 = dktX0_sending_0 := by decide +kernel
theorem dX0_sending_0 : decode cX0_sending 0 = .ok (.aload_n 3, 1) := dk_45 (dk_at dksX0_sending_0 0 rfl rfl)
theorem dX0_sending_1 : decode cX0_sending 1 = .ok (.iconst 0, 1) := dk_3 (dk_at dksX0_sending_0 1 rfl rfl)
theorem dX0_sending_2 : decode cX0_sending 2 = .ok (.aload_n 0, 1) := dk_42 (dk_at dksX0_sending_0 2 rfl rfl)
theorem dX0_sending_3 : decode cX0_sending 3 = .ok (.iload_n 1, 1) := dk_27 (dk_at dksX0_sending_0 3 rfl rfl)
theorem dX0_sending_4 : decode cX0_sending 4 = .ok (.iload_n 2, 1) := dk_28 (dk_at dksX0_sending_0 4 rfl rfl)
theorem dX0_sending_5 : decode cX0_sending 5 = .ok (.invokevirtual 59, 3) := dk_182 0 59 (dk_at dksX0_sending_0 5 rfl rfl)
theorem dX0_sending_8 : decode cX0_sending 8 = .ok (.i2l, 1) := dk_133 (dk_at dksX0_sending_0 8 rfl rfl)
theorem dX0_sending_9 : decode cX0_sending 9 = .ok (.lastore, 1) := dk_80 (dk_at dksX0_sending_0 9 rfl rfl)
theorem dX0_sending_10 : decode cX0_sending 10 = .ok (.goto 11, 3) := dk_167 0 11 (dk_at dksX0_sending_0 10 rfl rfl)
theorem dX0_sending_13 : decode cX0_sending 13 = .ok (.astore 4, 2) := dk_58 4 (dk_at dksX0_sending_0 13 rfl rfl)
theorem dX0_sending_15 : decode cX0_sending 15 = .ok (.iconst 1, 1) := dk_4 (dk_at dksX0_sending_0 15 rfl rfl)
theorem dX0_sending_16 : decode cX0_sending 16 = .ok (.ireturn, 1) := dk_172 (dk_at dksX0_sending_0 16 rfl rfl)
theorem dX0_sending_17 : decode cX0_sending 17 = .ok (.astore 4, 2) := dk_58 4 (dk_at dksX0_sending_0 17 rfl rfl)
theorem dX0_sending_19 : decode cX0_sending 19 = .ok (.iconst 2, 1) := dk_5 (dk_at dksX0_sending_0 19 rfl rfl)
theorem dX0_sending_20 : decode cX0_sending 20 = .ok (.ireturn, 1) := dk_172 (dk_at dksX0_sending_0 20 rfl rfl)
theorem dX0_sending_21 : decode cX0_sending 21 = .ok (.iconst 0, 1) := dk_3 (dk_at dksX0_sending_0 21 rfl rfl)
theorem dX0_sending_22 : decode cX0_sending 22 = .ok (.ireturn, 1) := dk_172 (dk_at dksX0_sending_0 22 rfl rfl)
abbrev cX0_hold : ByteArray := method_18_code
def yX0_hold : MethodName := ⟨RX0, "hold", "(LLuckCrates;II[J)I"⟩
def dkwX0_hold_0 : List UInt8 := [45, 3, 42, 27, 28, 182, 0, 62, 133, 80, 167, 0, 7, 58, 4, 4, 172, 3, 172]
abbrev dktX0_hold_0 : List UInt8 := dkwX0_hold_0 ++ []
theorem dksX0_hold_0 : cX0_hold.data.toList.drop 0 = dktX0_hold_0 := by decide +kernel
theorem dX0_hold_0 : decode cX0_hold 0 = .ok (.aload_n 3, 1) := dk_45 (dk_at dksX0_hold_0 0 rfl rfl)
theorem dX0_hold_1 : decode cX0_hold 1 = .ok (.iconst 0, 1) := dk_3 (dk_at dksX0_hold_0 1 rfl rfl)
theorem dX0_hold_2 : decode cX0_hold 2 = .ok (.aload_n 0, 1) := dk_42 (dk_at dksX0_hold_0 2 rfl rfl)
theorem dX0_hold_3 : decode cX0_hold 3 = .ok (.iload_n 1, 1) := dk_27 (dk_at dksX0_hold_0 3 rfl rfl)
theorem dX0_hold_4 : decode cX0_hold 4 = .ok (.iload_n 2, 1) := dk_28 (dk_at dksX0_hold_0 4 rfl rfl)
theorem dX0_hold_5 : decode cX0_hold 5 = .ok (.invokevirtual 62, 3) := dk_182 0 62 (dk_at dksX0_hold_0 5 rfl rfl)
theorem dX0_hold_8 : decode cX0_hold 8 = .ok (.i2l, 1) := dk_133 (dk_at dksX0_hold_0 8 rfl rfl)
theorem dX0_hold_9 : decode cX0_hold 9 = .ok (.lastore, 1) := dk_80 (dk_at dksX0_hold_0 9 rfl rfl)
theorem dX0_hold_10 : decode cX0_hold 10 = .ok (.goto 7, 3) := dk_167 0 7 (dk_at dksX0_hold_0 10 rfl rfl)
theorem dX0_hold_13 : decode cX0_hold 13 = .ok (.astore 4, 2) := dk_58 4 (dk_at dksX0_hold_0 13 rfl rfl)
theorem dX0_hold_15 : decode cX0_hold 15 = .ok (.iconst 1, 1) := dk_4 (dk_at dksX0_hold_0 15 rfl rfl)
theorem dX0_hold_16 : decode cX0_hold 16 = .ok (.ireturn, 1) := dk_172 (dk_at dksX0_hold_0 16 rfl rfl)
theorem dX0_hold_17 : decode cX0_hold 17 = .ok (.iconst 0, 1) := dk_3 (dk_at dksX0_hold_0 17 rfl rfl)
theorem dX0_hold_18 : decode cX0_hold 18 = .ok (.ireturn, 1) := dk_172 (dk_at dksX0_hold_0 18 rfl rfl)
abbrev cX0_thrower : ByteArray := method_19_code
def yX0_thrower : MethodName := ⟨RX0, "thrower", "(LLuckCrates;IIII[J)I"⟩
def dkwX0_thrower_0 : List UInt8 := [25, 5, 3, 42, 27, 28, 29, 21, 4, 182, 0, 65, 133, 80, 167, 0, 7, 58, 6, 4, 172, 3, 172]
abbrev dktX0_thrower_0 : List UInt8 := dkwX0_thrower_0 ++ []
theorem dksX0_thrower_0 : cX0_thrower.data.toList.drop 0 = dktX0_thrower_0 := by decide +kernel
theorem dX0_thrower_0 : decode cX0_thrower 0 = .ok (.aload 5, 2) := dk_25 5 (dk_at dksX0_thrower_0 0 rfl rfl)
theorem dX0_thrower_2 : decode cX0_thrower 2 = .ok (.iconst 0, 1) := dk_3 (dk_at dksX0_thrower_0 2 rfl rfl)
theorem dX0_thrower_3 : decode cX0_thrower 3 = .ok (.aload_n 0, 1) := dk_42 (dk_at dksX0_thrower_0 3 rfl rfl)
theorem dX0_thrower_4 : decode cX0_thrower 4 = .ok (.iload_n 1, 1) := dk_27 (dk_at dksX0_thrower_0 4 rfl rfl)
theorem dX0_thrower_5 : decode cX0_thrower 5 = .ok (.iload_n 2, 1) := dk_28 (dk_at dksX0_thrower_0 5 rfl rfl)
theorem dX0_thrower_6 : decode cX0_thrower 6 = .ok (.iload_n 3, 1) := dk_29 (dk_at dksX0_thrower_0 6 rfl rfl)
theorem dX0_thrower_7 : decode cX0_thrower 7 = .ok (.iload 4, 2) := dk_21 4 (dk_at dksX0_thrower_0 7 rfl rfl)
theorem dX0_thrower_9 : decode cX0_thrower 9 = .ok (.invokevirtual 65, 3) := dk_182 0 65 (dk_at dksX0_thrower_0 9 rfl rfl)
theorem dX0_thrower_12 : decode cX0_thrower 12 = .ok (.i2l, 1) := dk_133 (dk_at dksX0_thrower_0 12 rfl rfl)
theorem dX0_thrower_13 : decode cX0_thrower 13 = .ok (.lastore, 1) := dk_80 (dk_at dksX0_thrower_0 13 rfl rfl)
theorem dX0_thrower_14 : decode cX0_thrower 14 = .ok (.goto 7, 3) := dk_167 0 7 (dk_at dksX0_thrower_0 14 rfl rfl)
theorem dX0_thrower_17 : decode cX0_thrower 17 = .ok (.astore 6, 2) := dk_58 6 (dk_at dksX0_thrower_0 17 rfl rfl)
theorem dX0_thrower_19 : decode cX0_thrower 19 = .ok (.iconst 1, 1) := dk_4 (dk_at dksX0_thrower_0 19 rfl rfl)
theorem dX0_thrower_20 : decode cX0_thrower 20 = .ok (.ireturn, 1) := dk_172 (dk_at dksX0_thrower_0 20 rfl rfl)
theorem dX0_thrower_21 : decode cX0_thrower 21 = .ok (.iconst 0, 1) := dk_3 (dk_at dksX0_thrower_0 21 rfl rfl)
theorem dX0_thrower_22 : decode cX0_thrower 22 = .ok (.ireturn, 1) := dk_172 (dk_at dksX0_thrower_0 22 rfl rfl)
abbrev cX0_stop : ByteArray := method_20_code
def yX0_stop : MethodName := ⟨RX0, "stop", "(LLuckCrates;IIII[J)I"⟩
def dkwX0_stop_1 : List UInt8 := [172, 3, 172]
abbrev dktX0_stop_1 : List UInt8 := dkwX0_stop_1 ++ []
def dkwX0_stop_0 : List UInt8 := [25, 5, 3, 42, 27, 28, 29, 21, 4, 182, 0, 69, 133, 80, 167, 0, 11, 58, 6, 4, 172, 58, 6, 5]
abbrev dktX0_stop_0 : List UInt8 := dkwX0_stop_0 ++ dktX0_stop_1
theorem dksX0_stop_0 : cX0_stop.data.toList.drop 0 = dktX0_stop_0 := by decide +kernel
theorem dksX0_stop_1 : cX0_stop.data.toList.drop 24 = dktX0_stop_1 := dk_seg dksX0_stop_0 24 rfl rfl
theorem dX0_stop_0 : decode cX0_stop 0 = .ok (.aload 5, 2) := dk_25 5 (dk_at dksX0_stop_0 0 rfl rfl)
theorem dX0_stop_2 : decode cX0_stop 2 = .ok (.iconst 0, 1) := dk_3 (dk_at dksX0_stop_0 2 rfl rfl)
theorem dX0_stop_3 : decode cX0_stop 3 = .ok (.aload_n 0, 1) := dk_42 (dk_at dksX0_stop_0 3 rfl rfl)
theorem dX0_stop_4 : decode cX0_stop 4 = .ok (.iload_n 1, 1) := dk_27 (dk_at dksX0_stop_0 4 rfl rfl)
theorem dX0_stop_5 : decode cX0_stop 5 = .ok (.iload_n 2, 1) := dk_28 (dk_at dksX0_stop_0 5 rfl rfl)
theorem dX0_stop_6 : decode cX0_stop 6 = .ok (.iload_n 3, 1) := dk_29 (dk_at dksX0_stop_0 6 rfl rfl)
theorem dX0_stop_7 : decode cX0_stop 7 = .ok (.iload 4, 2) := dk_21 4 (dk_at dksX0_stop_0 7 rfl rfl)
theorem dX0_stop_9 : decode cX0_stop 9 = .ok (.invokevirtual 69, 3) := dk_182 0 69 (dk_at dksX0_stop_0 9 rfl rfl)
theorem dX0_stop_12 : decode cX0_stop 12 = .ok (.i2l, 1) := dk_133 (dk_at dksX0_stop_0 12 rfl rfl)
theorem dX0_stop_13 : decode cX0_stop 13 = .ok (.lastore, 1) := dk_80 (dk_at dksX0_stop_0 13 rfl rfl)
theorem dX0_stop_14 : decode cX0_stop 14 = .ok (.goto 11, 3) := dk_167 0 11 (dk_at dksX0_stop_0 14 rfl rfl)
theorem dX0_stop_17 : decode cX0_stop 17 = .ok (.astore 6, 2) := dk_58 6 (dk_at dksX0_stop_0 17 rfl rfl)
theorem dX0_stop_19 : decode cX0_stop 19 = .ok (.iconst 1, 1) := dk_4 (dk_at dksX0_stop_0 19 rfl rfl)
theorem dX0_stop_20 : decode cX0_stop 20 = .ok (.ireturn, 1) := dk_172 (dk_at dksX0_stop_0 20 rfl rfl)
theorem dX0_stop_21 : decode cX0_stop 21 = .ok (.astore 6, 2) := dk_58 6 (dk_at dksX0_stop_0 21 rfl rfl)
theorem dX0_stop_23 : decode cX0_stop 23 = .ok (.iconst 2, 1) := dk_5 (dk_at dksX0_stop_0 23 rfl rfl)
theorem dX0_stop_24 : decode cX0_stop 24 = .ok (.ireturn, 1) := dk_172 (dk_at dksX0_stop_1 0 rfl rfl)
theorem dX0_stop_25 : decode cX0_stop 25 = .ok (.iconst 0, 1) := dk_3 (dk_at dksX0_stop_1 1 rfl rfl)
theorem dX0_stop_26 : decode cX0_stop 26 = .ok (.ireturn, 1) := dk_172 (dk_at dksX0_stop_1 2 rfl rfl)
abbrev cX0_see : ByteArray := method_21_code
def yX0_see : MethodName := ⟨RX0, "see", "(LLuckCrates;III[J)I"⟩
def dkwX0_see_0 : List UInt8 := [25, 4, 3, 42, 27, 28, 29, 182, 0, 72, 133, 80, 167, 0, 7, 58, 5, 4, 172, 3, 172]
abbrev dktX0_see_0 : List UInt8 := dkwX0_see_0 ++ []
theorem dksX0_see_0 : cX0_see.data.toList.drop 0 = dktX0_see_0 := by decide +kernel
theorem dX0_see_0 : decode cX0_see 0 = .ok (.aload 4, 2) := dk_25 4 (dk_at dksX0_see_0 0 rfl rfl)
theorem dX0_see_2 : decode cX0_see 2 = .ok (.iconst 0, 1) := dk_3 (dk_at dksX0_see_0 2 rfl rfl)
theorem dX0_see_3 : decode cX0_see 3 = .ok (.aload_n 0, 1) := dk_42 (dk_at dksX0_see_0 3 rfl rfl)
theorem dX0_see_4 : decode cX0_see 4 = .ok (.iload_n 1, 1) := dk_27 (dk_at dksX0_see_0 4 rfl rfl)
theorem dX0_see_5 : decode cX0_see 5 = .ok (.iload_n 2, 1) := dk_28 (dk_at dksX0_see_0 5 rfl rfl)
theorem dX0_see_6 : decode cX0_see 6 = .ok (.iload_n 3, 1) := dk_29 (dk_at dksX0_see_0 6 rfl rfl)
theorem dX0_see_7 : decode cX0_see 7 = .ok (.invokevirtual 72, 3) := dk_182 0 72 (dk_at dksX0_see_0 7 rfl rfl)
theorem dX0_see_10 : decode cX0_see 10 = .ok (.i2l, 1) := dk_133 (dk_at dksX0_see_0 10 rfl rfl)
theorem dX0_see_11 : decode cX0_see 11 = .ok (.lastore, 1) := dk_80 (dk_at dksX0_see_0 11 rfl rfl)
theorem dX0_see_12 : decode cX0_see 12 = .ok (.goto 7, 3) := dk_167 0 7 (dk_at dksX0_see_0 12 rfl rfl)
theorem dX0_see_15 : decode cX0_see 15 = .ok (.astore 5, 2) := dk_58 5 (dk_at dksX0_see_0 15 rfl rfl)
theorem dX0_see_17 : decode cX0_see 17 = .ok (.iconst 1, 1) := dk_4 (dk_at dksX0_see_0 17 rfl rfl)
theorem dX0_see_18 : decode cX0_see 18 = .ok (.ireturn, 1) := dk_172 (dk_at dksX0_see_0 18 rfl rfl)
theorem dX0_see_19 : decode cX0_see 19 = .ok (.iconst 0, 1) := dk_3 (dk_at dksX0_see_0 19 rfl rfl)
theorem dX0_see_20 : decode cX0_see 20 = .ok (.ireturn, 1) := dk_172 (dk_at dksX0_see_0 20 rfl rfl)
abbrev cX0_opened : ByteArray := method_22_code
def yX0_opened : MethodName := ⟨RX0, "opened", "(LLuckCrates;I[J)I"⟩
def dkwX0_opened_0 : List UInt8 := [44, 3, 42, 27, 182, 0, 75, 133, 80, 167, 0, 6, 78, 4, 172, 3, 172]
abbrev dktX0_opened_0 : List UInt8 := dkwX0_opened_0 ++ []
theorem dksX0_opened_0 : cX0_opened.data.toList.drop 0 = dktX0_opened_0 := by decide +kernel
theorem dX0_opened_0 : decode cX0_opened 0 = .ok (.aload_n 2, 1) := dk_44 (dk_at dksX0_opened_0 0 rfl rfl)
theorem dX0_opened_1 : decode cX0_opened 1 = .ok (.iconst 0, 1) := dk_3 (dk_at dksX0_opened_0 1 rfl rfl)
theorem dX0_opened_2 : decode cX0_opened 2 = .ok (.aload_n 0, 1) := dk_42 (dk_at dksX0_opened_0 2 rfl rfl)
theorem dX0_opened_3 : decode cX0_opened 3 = .ok (.iload_n 1, 1) := dk_27 (dk_at dksX0_opened_0 3 rfl rfl)
theorem dX0_opened_4 : decode cX0_opened 4 = .ok (.invokevirtual 75, 3) := dk_182 0 75 (dk_at dksX0_opened_0 4 rfl rfl)
theorem dX0_opened_7 : decode cX0_opened 7 = .ok (.i2l, 1) := dk_133 (dk_at dksX0_opened_0 7 rfl rfl)
theorem dX0_opened_8 : decode cX0_opened 8 = .ok (.lastore, 1) := dk_80 (dk_at dksX0_opened_0 8 rfl rfl)
theorem dX0_opened_9 : decode cX0_opened 9 = .ok (.goto 6, 3) := dk_167 0 6 (dk_at dksX0_opened_0 9 rfl rfl)
theorem dX0_opened_12 : decode cX0_opened 12 = .ok (.astore_n 3, 1) := dk_78 (dk_at dksX0_opened_0 12 rfl rfl)
theorem dX0_opened_13 : decode cX0_opened 13 = .ok (.iconst 1, 1) := dk_4 (dk_at dksX0_opened_0 13 rfl rfl)
theorem dX0_opened_14 : decode cX0_opened 14 = .ok (.ireturn, 1) := dk_172 (dk_at dksX0_opened_0 14 rfl rfl)
theorem dX0_opened_15 : decode cX0_opened 15 = .ok (.iconst 0, 1) := dk_3 (dk_at dksX0_opened_0 15 rfl rfl)
theorem dX0_opened_16 : decode cX0_opened 16 = .ok (.ireturn, 1) := dk_172 (dk_at dksX0_opened_0 16 rfl rfl)
abbrev cX0_next : ByteArray := method_23_code
def yX0_next : MethodName := ⟨RX0, "next", "(LLuckCrates;I[J)I"⟩
def dkwX0_next_0 : List UInt8 := [44, 3, 42, 27, 182, 0, 78, 133, 80, 167, 0, 6, 78, 4, 172, 3, 172]
abbrev dktX0_next_0 : List UInt8 := dkwX0_next_0 ++ []
theorem dksX0_next_0 : cX0_next.data.toList.drop 0 = dktX0_next_0 := by decide +kernel
theorem dX0_next_0 : decode cX0_next 0 = .ok (.aload_n 2, 1) := dk_44 (dk_at dksX0_next_0 0 rfl rfl)
theorem dX0_next_1 : decode cX0_next 1 = .ok (.iconst 0, 1) := dk_3 (dk_at dksX0_next_0 1 rfl rfl)
theorem dX0_next_2 : decode cX0_next 2 = .ok (.aload_n 0, 1) := dk_42 (dk_at dksX0_next_0 2 rfl rfl)
theorem dX0_next_3 : decode cX0_next 3 = .ok (.iload_n 1, 1) := dk_27 (dk_at dksX0_next_0 3 rfl rfl)
theorem dX0_next_4 : decode cX0_next 4 = .ok (.invokevirtual 78, 3) := dk_182 0 78 (dk_at dksX0_next_0 4 rfl rfl)
theorem dX0_next_7 : decode cX0_next 7 = .ok (.i2l, 1) := dk_133 (dk_at dksX0_next_0 7 rfl rfl)
theorem dX0_next_8 : decode cX0_next 8 = .ok (.lastore, 1) := dk_80 (dk_at dksX0_next_0 8 rfl rfl)
theorem dX0_next_9 : decode cX0_next 9 = .ok (.goto 6, 3) := dk_167 0 6 (dk_at dksX0_next_0 9 rfl rfl)
theorem dX0_next_12 : decode cX0_next 12 = .ok (.astore_n 3, 1) := dk_78 (dk_at dksX0_next_0 12 rfl rfl)
theorem dX0_next_13 : decode cX0_next 13 = .ok (.iconst 1, 1) := dk_4 (dk_at dksX0_next_0 13 rfl rfl)
theorem dX0_next_14 : decode cX0_next 14 = .ok (.ireturn, 1) := dk_172 (dk_at dksX0_next_0 14 rfl rfl)
theorem dX0_next_15 : decode cX0_next 15 = .ok (.iconst 0, 1) := dk_3 (dk_at dksX0_next_0 15 rfl rfl)
theorem dX0_next_16 : decode cX0_next 16 = .ok (.ireturn, 1) := dk_172 (dk_at dksX0_next_0 16 rfl rfl)
abbrev cX0_pooled : ByteArray := method_24_code
def yX0_pooled : MethodName := ⟨RX0, "pooled", "(LLuckCrates;I[J)I"⟩
def dkwX0_pooled_0 : List UInt8 := [44, 3, 42, 27, 182, 0, 81, 133, 80, 167, 0, 6, 78, 4, 172, 3, 172]
abbrev dktX0_pooled_0 : List UInt8 := dkwX0_pooled_0 ++ []
theorem dksX0_pooled_0 : cX0_pooled.data.toList.drop 0 = dktX0_pooled_0 := by decide +kernel
theorem dX0_pooled_0 : decode cX0_pooled 0 = .ok (.aload_n 2, 1) := dk_44 (dk_at dksX0_pooled_0 0 rfl rfl)
theorem dX0_pooled_1 : decode cX0_pooled 1 = .ok (.iconst 0, 1) := dk_3 (dk_at dksX0_pooled_0 1 rfl rfl)
theorem dX0_pooled_2 : decode cX0_pooled 2 = .ok (.aload_n 0, 1) := dk_42 (dk_at dksX0_pooled_0 2 rfl rfl)
theorem dX0_pooled_3 : decode cX0_pooled 3 = .ok (.iload_n 1, 1) := dk_27 (dk_at dksX0_pooled_0 3 rfl rfl)
theorem dX0_pooled_4 : decode cX0_pooled 4 = .ok (.invokevirtual 81, 3) := dk_182 0 81 (dk_at dksX0_pooled_0 4 rfl rfl)
theorem dX0_pooled_7 : decode cX0_pooled 7 = .ok (.i2l, 1) := dk_133 (dk_at dksX0_pooled_0 7 rfl rfl)
theorem dX0_pooled_8 : decode cX0_pooled 8 = .ok (.lastore, 1) := dk_80 (dk_at dksX0_pooled_0 8 rfl rfl)
theorem dX0_pooled_9 : decode cX0_pooled 9 = .ok (.goto 6, 3) := dk_167 0 6 (dk_at dksX0_pooled_0 9 rfl rfl)
theorem dX0_pooled_12 : decode cX0_pooled 12 = .ok (.astore_n 3, 1) := dk_78 (dk_at dksX0_pooled_0 12 rfl rfl)
theorem dX0_pooled_13 : decode cX0_pooled 13 = .ok (.iconst 1, 1) := dk_4 (dk_at dksX0_pooled_0 13 rfl rfl)
theorem dX0_pooled_14 : decode cX0_pooled 14 = .ok (.ireturn, 1) := dk_172 (dk_at dksX0_pooled_0 14 rfl rfl)
theorem dX0_pooled_15 : decode cX0_pooled 15 = .ok (.iconst 0, 1) := dk_3 (dk_at dksX0_pooled_0 15 rfl rfl)
theorem dX0_pooled_16 : decode cX0_pooled 16 = .ok (.ireturn, 1) := dk_172 (dk_at dksX0_pooled_0 16 rfl rfl)
abbrev cX0_game : ByteArray := method_25_code
def yX0_game : MethodName := ⟨RX0, "game", "(LLuckCrates;III[J)I"⟩
def dkwX0_game_1 : List UInt8 := [172]
abbrev dktX0_game_1 : List UInt8 := dkwX0_game_1 ++ []
def dkwX0_game_0 : List UInt8 := [25, 4, 3, 42, 27, 28, 29, 182, 0, 84, 133, 80, 167, 0, 11, 58, 5, 4, 172, 58, 5, 5, 172, 3]
abbrev dktX0_game_0 : List UInt8 := dkwX0_game_0 ++ dktX0_game_1
theorem dksX0_game_0 : cX0_game.data.toList.drop 0 = dktX0_game_0 := by decide +kernel
theorem dksX0_game_1 : cX0_game.data.toList.drop 24 = dktX0_game_1 := dk_seg dksX0_game_0 24 rfl rfl
theorem dX0_game_0 : decode cX0_game 0 = .ok (.aload 4, 2) := dk_25 4 (dk_at dksX0_game_0 0 rfl rfl)
theorem dX0_game_2 : decode cX0_game 2 = .ok (.iconst 0, 1) := dk_3 (dk_at dksX0_game_0 2 rfl rfl)
theorem dX0_game_3 : decode cX0_game 3 = .ok (.aload_n 0, 1) := dk_42 (dk_at dksX0_game_0 3 rfl rfl)
theorem dX0_game_4 : decode cX0_game 4 = .ok (.iload_n 1, 1) := dk_27 (dk_at dksX0_game_0 4 rfl rfl)
theorem dX0_game_5 : decode cX0_game 5 = .ok (.iload_n 2, 1) := dk_28 (dk_at dksX0_game_0 5 rfl rfl)
theorem dX0_game_6 : decode cX0_game 6 = .ok (.iload_n 3, 1) := dk_29 (dk_at dksX0_game_0 6 rfl rfl)
theorem dX0_game_7 : decode cX0_game 7 = .ok (.invokevirtual 84, 3) := dk_182 0 84 (dk_at dksX0_game_0 7 rfl rfl)
theorem dX0_game_10 : decode cX0_game 10 = .ok (.i2l, 1) := dk_133 (dk_at dksX0_game_0 10 rfl rfl)
theorem dX0_game_11 : decode cX0_game 11 = .ok (.lastore, 1) := dk_80 (dk_at dksX0_game_0 11 rfl rfl)
theorem dX0_game_12 : decode cX0_game 12 = .ok (.goto 11, 3) := dk_167 0 11 (dk_at dksX0_game_0 12 rfl rfl)
theorem dX0_game_15 : decode cX0_game 15 = .ok (.astore 5, 2) := dk_58 5 (dk_at dksX0_game_0 15 rfl rfl)
theorem dX0_game_17 : decode cX0_game 17 = .ok (.iconst 1, 1) := dk_4 (dk_at dksX0_game_0 17 rfl rfl)
theorem dX0_game_18 : decode cX0_game 18 = .ok (.ireturn, 1) := dk_172 (dk_at dksX0_game_0 18 rfl rfl)
theorem dX0_game_19 : decode cX0_game 19 = .ok (.astore 5, 2) := dk_58 5 (dk_at dksX0_game_0 19 rfl rfl)
theorem dX0_game_21 : decode cX0_game 21 = .ok (.iconst 2, 1) := dk_5 (dk_at dksX0_game_0 21 rfl rfl)
theorem dX0_game_22 : decode cX0_game 22 = .ok (.ireturn, 1) := dk_172 (dk_at dksX0_game_0 22 rfl rfl)
theorem dX0_game_23 : decode cX0_game 23 = .ok (.iconst 0, 1) := dk_3 (dk_at dksX0_game_0 23 rfl rfl)
theorem dX0_game_24 : decode cX0_game 24 = .ok (.ireturn, 1) := dk_172 (dk_at dksX0_game_1 0 rfl rfl)
abbrev cX0_years : ByteArray := method_26_code
def yX0_years : MethodName := ⟨RX0, "years", "(LLuckCrates;III[J)I"⟩
def dkwX0_years_1 : List UInt8 := [172]
abbrev dktX0_years_1 : List UInt8 := dkwX0_years_1 ++ []
def dkwX0_years_0 : List UInt8 := [25, 4, 3, 42, 27, 28, 29, 182, 0, 87, 133, 80, 167, 0, 11, 58, 5, 4, 172, 58, 5, 5, 172, 3]
abbrev dktX0_years_0 : List UInt8 := dkwX0_years_0 ++ dktX0_years_1
theorem dksX0_years_0 : cX0_years.data.toList.drop 0 = dktX0_years_0 := by decide +kernel
theorem dksX0_years_1 : cX0_years.data.toList.drop 24 = dktX0_years_1 := dk_seg dksX0_years_0 24 rfl rfl
theorem dX0_years_0 : decode cX0_years 0 = .ok (.aload 4, 2) := dk_25 4 (dk_at dksX0_years_0 0 rfl rfl)
theorem dX0_years_2 : decode cX0_years 2 = .ok (.iconst 0, 1) := dk_3 (dk_at dksX0_years_0 2 rfl rfl)
theorem dX0_years_3 : decode cX0_years 3 = .ok (.aload_n 0, 1) := dk_42 (dk_at dksX0_years_0 3 rfl rfl)
theorem dX0_years_4 : decode cX0_years 4 = .ok (.iload_n 1, 1) := dk_27 (dk_at dksX0_years_0 4 rfl rfl)
theorem dX0_years_5 : decode cX0_years 5 = .ok (.iload_n 2, 1) := dk_28 (dk_at dksX0_years_0 5 rfl rfl)
theorem dX0_years_6 : decode cX0_years 6 = .ok (.iload_n 3, 1) := dk_29 (dk_at dksX0_years_0 6 rfl rfl)
theorem dX0_years_7 : decode cX0_years 7 = .ok (.invokevirtual 87, 3) := dk_182 0 87 (dk_at dksX0_years_0 7 rfl rfl)
theorem dX0_years_10 : decode cX0_years 10 = .ok (.i2l, 1) := dk_133 (dk_at dksX0_years_0 10 rfl rfl)
theorem dX0_years_11 : decode cX0_years 11 = .ok (.lastore, 1) := dk_80 (dk_at dksX0_years_0 11 rfl rfl)
theorem dX0_years_12 : decode cX0_years 12 = .ok (.goto 11, 3) := dk_167 0 11 (dk_at dksX0_years_0 12 rfl rfl)
theorem dX0_years_15 : decode cX0_years 15 = .ok (.astore 5, 2) := dk_58 5 (dk_at dksX0_years_0 15 rfl rfl)
theorem dX0_years_17 : decode cX0_years 17 = .ok (.iconst 1, 1) := dk_4 (dk_at dksX0_years_0 17 rfl rfl)
theorem dX0_years_18 : decode cX0_years 18 = .ok (.ireturn, 1) := dk_172 (dk_at dksX0_years_0 18 rfl rfl)
theorem dX0_years_19 : decode cX0_years 19 = .ok (.astore 5, 2) := dk_58 5 (dk_at dksX0_years_0 19 rfl rfl)
theorem dX0_years_21 : decode cX0_years 21 = .ok (.iconst 2, 1) := dk_5 (dk_at dksX0_years_0 21 rfl rfl)
theorem dX0_years_22 : decode cX0_years 22 = .ok (.ireturn, 1) := dk_172 (dk_at dksX0_years_0 22 rfl rfl)
theorem dX0_years_23 : decode cX0_years 23 = .ok (.iconst 0, 1) := dk_3 (dk_at dksX0_years_0 23 rfl rfl)
theorem dX0_years_24 : decode cX0_years 24 = .ok (.ireturn, 1) := dk_172 (dk_at dksX0_years_1 0 rfl rfl)
abbrev cX0_thief : ByteArray := method_27_code
def yX0_thief : MethodName := ⟨RX0, "thief", "(LLuckCrates;II[J)I"⟩
def dkwX0_thief_0 : List UInt8 := [45, 3, 42, 27, 28, 182, 0, 90, 133, 80, 167, 0, 11, 58, 4, 4, 172, 58, 4, 5, 172, 3, 172]
abbrev dktX0_thief_0 : List UInt8 := dkwX0_thief_0 ++ []
theorem dksX0_thief_0 : cX0_thief.data.toList.drop 0 = dktX0_thief_0 := by decide +kernel
theorem dX0_thief_0 : decode cX0_thief 0 = .ok (.aload_n 3, 1) := dk_45 (dk_at dksX0_thief_0 0 rfl rfl)
theorem dX0_thief_1 : decode cX0_thief 1 = .ok (.iconst 0, 1) := dk_3 (dk_at dksX0_thief_0 1 rfl rfl)
theorem dX0_thief_2 : decode cX0_thief 2 = .ok (.aload_n 0, 1) := dk_42 (dk_at dksX0_thief_0 2 rfl rfl)
theorem dX0_thief_3 : decode cX0_thief 3 = .ok (.iload_n 1, 1) := dk_27 (dk_at dksX0_thief_0 3 rfl rfl)
theorem dX0_thief_4 : decode cX0_thief 4 = .ok (.iload_n 2, 1) := dk_28 (dk_at dksX0_thief_0 4 rfl rfl)
theorem dX0_thief_5 : decode cX0_thief 5 = .ok (.invokevirtual 90, 3) := dk_182 0 90 (dk_at dksX0_thief_0 5 rfl rfl)
theorem dX0_thief_8 : decode cX0_thief 8 = .ok (.i2l, 1) := dk_133 (dk_at dksX0_thief_0 8 rfl rfl)
theorem dX0_thief_9 : decode cX0_thief 9 = .ok (.lastore, 1) := dk_80 (dk_at dksX0_thief_0 9 rfl rfl)
theorem dX0_thief_10 : decode cX0_thief 10 = .ok (.goto 11, 3) := dk_167 0 11 (dk_at dksX0_thief_0 10 rfl rfl)
theorem dX0_thief_13 : decode cX0_thief 13 = .ok (.astore 4, 2) := dk_58 4 (dk_at dksX0_thief_0 13 rfl rfl)
theorem dX0_thief_15 : decode cX0_thief 15 = .ok (.iconst 1, 1) := dk_4 (dk_at dksX0_thief_0 15 rfl rfl)
theorem dX0_thief_16 : decode cX0_thief 16 = .ok (.ireturn, 1) := dk_172 (dk_at dksX0_thief_0 16 rfl rfl)
theorem dX0_thief_17 : decode cX0_thief 17 = .ok (.astore 4, 2) := dk_58 4 (dk_at dksX0_thief_0 17 rfl rfl)
theorem dX0_thief_19 : decode cX0_thief 19 = .ok (.iconst 2, 1) := dk_5 (dk_at dksX0_thief_0 19 rfl rfl)
theorem dX0_thief_20 : decode cX0_thief 20 = .ok (.ireturn, 1) := dk_172 (dk_at dksX0_thief_0 20 rfl rfl)
theorem dX0_thief_21 : decode cX0_thief 21 = .ok (.iconst 0, 1) := dk_3 (dk_at dksX0_thief_0 21 rfl rfl)
theorem dX0_thief_22 : decode cX0_thief 22 = .ok (.ireturn, 1) := dk_172 (dk_at dksX0_thief_0 22 rfl rfl)
abbrev cX0_row : ByteArray := method_28_code
def yX0_row : MethodName := ⟨RX0, "row", "(LLuckCrates;III[J)I"⟩
def dkwX0_row_0 : List UInt8 := [25, 4, 3, 42, 27, 28, 29, 182, 0, 93, 133, 80, 167, 0, 7, 58, 5, 4, 172, 3, 172]
abbrev dktX0_row_0 : List UInt8 := dkwX0_row_0 ++ []
theorem dksX0_row_0 : cX0_row.data.toList.drop 0 = dktX0_row_0 := by decide +kernel
theorem dX0_row_0 : decode cX0_row 0 = .ok (.aload 4, 2) := dk_25 4 (dk_at dksX0_row_0 0 rfl rfl)
theorem dX0_row_2 : decode cX0_row 2 = .ok (.iconst 0, 1) := dk_3 (dk_at dksX0_row_0 2 rfl rfl)
theorem dX0_row_3 : decode cX0_row 3 = .ok (.aload_n 0, 1) := dk_42 (dk_at dksX0_row_0 3 rfl rfl)
theorem dX0_row_4 : decode cX0_row 4 = .ok (.iload_n 1, 1) := dk_27 (dk_at dksX0_row_0 4 rfl rfl)
theorem dX0_row_5 : decode cX0_row 5 = .ok (.iload_n 2, 1) := dk_28 (dk_at dksX0_row_0 5 rfl rfl)
theorem dX0_row_6 : decode cX0_row 6 = .ok (.iload_n 3, 1) := dk_29 (dk_at dksX0_row_0 6 rfl rfl)
theorem dX0_row_7 : decode cX0_row 7 = .ok (.invokevirtual 93, 3) := dk_182 0 93 (dk_at dksX0_row_0 7 rfl rfl)
theorem dX0_row_10 : decode cX0_row 10 = .ok (.i2l, 1) := dk_133 (dk_at dksX0_row_0 10 rfl rfl)
theorem dX0_row_11 : decode cX0_row 11 = .ok (.lastore, 1) := dk_80 (dk_at dksX0_row_0 11 rfl rfl)
theorem dX0_row_12 : decode cX0_row 12 = .ok (.goto 7, 3) := dk_167 0 7 (dk_at dksX0_row_0 12 rfl rfl)
theorem dX0_row_15 : decode cX0_row 15 = .ok (.astore 5, 2) := dk_58 5 (dk_at dksX0_row_0 15 rfl rfl)
theorem dX0_row_17 : decode cX0_row 17 = .ok (.iconst 1, 1) := dk_4 (dk_at dksX0_row_0 17 rfl rfl)
theorem dX0_row_18 : decode cX0_row 18 = .ok (.ireturn, 1) := dk_172 (dk_at dksX0_row_0 18 rfl rfl)
theorem dX0_row_19 : decode cX0_row 19 = .ok (.iconst 0, 1) := dk_3 (dk_at dksX0_row_0 19 rfl rfl)
theorem dX0_row_20 : decode cX0_row 20 = .ok (.ireturn, 1) := dk_172 (dk_at dksX0_row_0 20 rfl rfl)
abbrev cX0_bridge : ByteArray := method_29_code
def yX0_bridge : MethodName := ⟨RX0, "bridge", "(LLuckCrates;I[J)I"⟩
def dkwX0_bridge_0 : List UInt8 := [44, 3, 42, 27, 182, 0, 96, 153, 0, 7, 10, 167, 0, 4, 9, 80, 167, 0, 6, 78, 4, 172, 3, 172]
abbrev dktX0_bridge_0 : List UInt8 := dkwX0_bridge_0 ++ []
theorem dksX0_bridge_0 : cX0_bridge.data.toList.drop 0 = dktX0_bridge_0 := by decide +kernel
theorem dX0_bridge_0 : decode cX0_bridge 0 = .ok (.aload_n 2, 1) := dk_44 (dk_at dksX0_bridge_0 0 rfl rfl)
theorem dX0_bridge_1 : decode cX0_bridge 1 = .ok (.iconst 0, 1) := dk_3 (dk_at dksX0_bridge_0 1 rfl rfl)
theorem dX0_bridge_2 : decode cX0_bridge 2 = .ok (.aload_n 0, 1) := dk_42 (dk_at dksX0_bridge_0 2 rfl rfl)
theorem dX0_bridge_3 : decode cX0_bridge 3 = .ok (.iload_n 1, 1) := dk_27 (dk_at dksX0_bridge_0 3 rfl rfl)
theorem dX0_bridge_4 : decode cX0_bridge 4 = .ok (.invokevirtual 96, 3) := dk_182 0 96 (dk_at dksX0_bridge_0 4 rfl rfl)
theorem dX0_bridge_7 : decode cX0_bridge 7 = .ok (.ifCond .eq 7, 3) := dk_153 0 7 (dk_at dksX0_bridge_0 7 rfl rfl)
theorem dX0_bridge_10 : decode cX0_bridge 10 = .ok (.lconst 1, 1) := dk_10 (dk_at dksX0_bridge_0 10 rfl rfl)
theorem dX0_bridge_11 : decode cX0_bridge 11 = .ok (.goto 4, 3) := dk_167 0 4 (dk_at dksX0_bridge_0 11 rfl rfl)
theorem dX0_bridge_14 : decode cX0_bridge 14 = .ok (.lconst 0, 1) := dk_9 (dk_at dksX0_bridge_0 14 rfl rfl)
theorem dX0_bridge_15 : decode cX0_bridge 15 = .ok (.lastore, 1) := dk_80 (dk_at dksX0_bridge_0 15 rfl rfl)
theorem dX0_bridge_16 : decode cX0_bridge 16 = .ok (.goto 6, 3) := dk_167 0 6 (dk_at dksX0_bridge_0 16 rfl rfl)
theorem dX0_bridge_19 : decode cX0_bridge 19 = .ok (.astore_n 3, 1) := dk_78 (dk_at dksX0_bridge_0 19 rfl rfl)
theorem dX0_bridge_20 : decode cX0_bridge 20 = .ok (.iconst 1, 1) := dk_4 (dk_at dksX0_bridge_0 20 rfl rfl)
theorem dX0_bridge_21 : decode cX0_bridge 21 = .ok (.ireturn, 1) := dk_172 (dk_at dksX0_bridge_0 21 rfl rfl)
theorem dX0_bridge_22 : decode cX0_bridge 22 = .ok (.iconst 0, 1) := dk_3 (dk_at dksX0_bridge_0 22 rfl rfl)
theorem dX0_bridge_23 : decode cX0_bridge 23 = .ok (.ireturn, 1) := dk_172 (dk_at dksX0_bridge_0 23 rfl rfl)
abbrev cX0_streak : ByteArray := method_30_code
def yX0_streak : MethodName := ⟨RX0, "streak", "(LLuckCrates;II[J)I"⟩
def dkwX0_streak_0 : List UInt8 := [45, 3, 42, 27, 28, 182, 0, 100, 133, 80, 167, 0, 11, 58, 4, 4, 172, 58, 4, 5, 172, 3, 172]
abbrev dktX0_streak_0 : List UInt8 := dkwX0_streak_0 ++ []
theorem dksX0_streak_0 : cX0_streak.data.toList.drop 0 = dktX0_streak_0 := by decide +kernel
theorem dX0_streak_0 : decode cX0_streak 0 = .ok (.aload_n 3, 1) := dk_45 (dk_at dksX0_streak_0 0 rfl rfl)
theorem dX0_streak_1 : decode cX0_streak 1 = .ok (.iconst 0, 1) := dk_3 (dk_at dksX0_streak_0 1 rfl rfl)
theorem dX0_streak_2 : decode cX0_streak 2 = .ok (.aload_n 0, 1) := dk_42 (dk_at dksX0_streak_0 2 rfl rfl)
theorem dX0_streak_3 : decode cX0_streak 3 = .ok (.iload_n 1, 1) := dk_27 (dk_at dksX0_streak_0 3 rfl rfl)
theorem dX0_streak_4 : decode cX0_streak 4 = .ok (.iload_n 2, 1) := dk_28 (dk_at dksX0_streak_0 4 rfl rfl)
theorem dX0_streak_5 : decode cX0_streak 5 = .ok (.invokevirtual 100, 3) := dk_182 0 100 (dk_at dksX0_streak_0 5 rfl rfl)
theorem dX0_streak_8 : decode cX0_streak 8 = .ok (.i2l, 1) := dk_133 (dk_at dksX0_streak_0 8 rfl rfl)
theorem dX0_streak_9 : decode cX0_streak 9 = .ok (.lastore, 1) := dk_80 (dk_at dksX0_streak_0 9 rfl rfl)
theorem dX0_streak_10 : decode cX0_streak 10 = .ok (.goto 11, 3) := dk_167 0 11 (dk_at dksX0_streak_0 10 rfl rfl)
theorem dX0_streak_13 : decode cX0_streak 13 = .ok (.astore 4, 2) := dk_58 4 (dk_at dksX0_streak_0 13 rfl rfl)
theorem dX0_streak_15 : decode cX0_streak 15 = .ok (.iconst 1, 1) := dk_4 (dk_at dksX0_streak_0 15 rfl rfl)
theorem dX0_streak_16 : decode cX0_streak 16 = .ok (.ireturn, 1) := dk_172 (dk_at dksX0_streak_0 16 rfl rfl)
theorem dX0_streak_17 : decode cX0_streak 17 = .ok (.astore 4, 2) := dk_58 4 (dk_at dksX0_streak_0 17 rfl rfl)
theorem dX0_streak_19 : decode cX0_streak 19 = .ok (.iconst 2, 1) := dk_5 (dk_at dksX0_streak_0 19 rfl rfl)
theorem dX0_streak_20 : decode cX0_streak 20 = .ok (.ireturn, 1) := dk_172 (dk_at dksX0_streak_0 20 rfl rfl)
theorem dX0_streak_21 : decode cX0_streak 21 = .ok (.iconst 0, 1) := dk_3 (dk_at dksX0_streak_0 21 rfl rfl)
theorem dX0_streak_22 : decode cX0_streak 22 = .ok (.ireturn, 1) := dk_172 (dk_at dksX0_streak_0 22 rfl rfl)
abbrev cX0_day : ByteArray := method_31_code
def yX0_day : MethodName := ⟨RX0, "day", "(LLuckCrates;II[J)I"⟩
def dkwX0_day_0 : List UInt8 := [45, 3, 42, 27, 28, 182, 0, 103, 133, 80, 167, 0, 11, 58, 4, 4, 172, 58, 4, 5, 172, 3, 172]
abbrev dktX0_day_0 : List UInt8 := dkwX0_day_0 ++ []
theorem dksX0_day_0 : cX0_day.data.toList.drop 0 = dktX0_day_0 := by decide +kernel
theorem dX0_day_0 : decode cX0_day 0 = .ok (.aload_n 3, 1) := dk_45 (dk_at dksX0_day_0 0 rfl rfl)
theorem dX0_day_1 : decode cX0_day 1 = .ok (.iconst 0, 1) := dk_3 (dk_at dksX0_day_0 1 rfl rfl)
theorem dX0_day_2 : decode cX0_day 2 = .ok (.aload_n 0, 1) := dk_42 (dk_at dksX0_day_0 2 rfl rfl)
theorem dX0_day_3 : decode cX0_day 3 = .ok (.iload_n 1, 1) := dk_27 (dk_at dksX0_day_0 3 rfl rfl)
theorem dX0_day_4 : decode cX0_day 4 = .ok (.iload_n 2, 1) := dk_28 (dk_at dksX0_day_0 4 rfl rfl)
theorem dX0_day_5 : decode cX0_day 5 = .ok (.invokevirtual 103, 3) := dk_182 0 103 (dk_at dksX0_day_0 5 rfl rfl)
theorem dX0_day_8 : decode cX0_day 8 = .ok (.i2l, 1) := dk_133 (dk_at dksX0_day_0 8 rfl rfl)
theorem dX0_day_9 : decode cX0_day 9 = .ok (.lastore, 1) := dk_80 (dk_at dksX0_day_0 9 rfl rfl)
theorem dX0_day_10 : decode cX0_day 10 = .ok (.goto 11, 3) := dk_167 0 11 (dk_at dksX0_day_0 10 rfl rfl)
theorem dX0_day_13 : decode cX0_day 13 = .ok (.astore 4, 2) := dk_58 4 (dk_at dksX0_day_0 13 rfl rfl)
theorem dX0_day_15 : decode cX0_day 15 = .ok (.iconst 1, 1) := dk_4 (dk_at dksX0_day_0 15 rfl rfl)
theorem dX0_day_16 : decode cX0_day 16 = .ok (.ireturn, 1) := dk_172 (dk_at dksX0_day_0 16 rfl rfl)
theorem dX0_day_17 : decode cX0_day 17 = .ok (.astore 4, 2) := dk_58 4 (dk_at dksX0_day_0 17 rfl rfl)
theorem dX0_day_19 : decode cX0_day 19 = .ok (.iconst 2, 1) := dk_5 (dk_at dksX0_day_0 19 rfl rfl)
theorem dX0_day_20 : decode cX0_day 20 = .ok (.ireturn, 1) := dk_172 (dk_at dksX0_day_0 20 rfl rfl)
theorem dX0_day_21 : decode cX0_day 21 = .ok (.iconst 0, 1) := dk_3 (dk_at dksX0_day_0 21 rfl rfl)
theorem dX0_day_22 : decode cX0_day 22 = .ok (.ireturn, 1) := dk_172 (dk_at dksX0_day_0 22 rfl rfl)
abbrev cX0_level : ByteArray := method_32_code
def yX0_level : MethodName := ⟨RX0, "level", "(LLuckCrates;I[J)I"⟩
def dkwX0_level_0 : List UInt8 := [44, 3, 42, 27, 182, 0, 106, 133, 80, 167, 0, 6, 78, 4, 172, 3, 172]
abbrev dktX0_level_0 : List UInt8 := dkwX0_level_0 ++ []
theorem dksX0_level_0 : cX0_level.data.toList.drop 0 = dktX0_level_0 := by decide +kernel
theorem dX0_level_0 : decode cX0_level 0 = .ok (.aload_n 2, 1) := dk_44 (dk_at dksX0_level_0 0 rfl rfl)
theorem dX0_level_1 : decode cX0_level 1 = .ok (.iconst 0, 1) := dk_3 (dk_at dksX0_level_0 1 rfl rfl)
theorem dX0_level_2 : decode cX0_level 2 = .ok (.aload_n 0, 1) := dk_42 (dk_at dksX0_level_0 2 rfl rfl)
theorem dX0_level_3 : decode cX0_level 3 = .ok (.iload_n 1, 1) := dk_27 (dk_at dksX0_level_0 3 rfl rfl)
theorem dX0_level_4 : decode cX0_level 4 = .ok (.invokevirtual 106, 3) := dk_182 0 106 (dk_at dksX0_level_0 4 rfl rfl)
theorem dX0_level_7 : decode cX0_level 7 = .ok (.i2l, 1) := dk_133 (dk_at dksX0_level_0 7 rfl rfl)
theorem dX0_level_8 : decode cX0_level 8 = .ok (.lastore, 1) := dk_80 (dk_at dksX0_level_0 8 rfl rfl)
theorem dX0_level_9 : decode cX0_level 9 = .ok (.goto 6, 3) := dk_167 0 6 (dk_at dksX0_level_0 9 rfl rfl)
theorem dX0_level_12 : decode cX0_level 12 = .ok (.astore_n 3, 1) := dk_78 (dk_at dksX0_level_0 12 rfl rfl)
theorem dX0_level_13 : decode cX0_level 13 = .ok (.iconst 1, 1) := dk_4 (dk_at dksX0_level_0 13 rfl rfl)
theorem dX0_level_14 : decode cX0_level 14 = .ok (.ireturn, 1) := dk_172 (dk_at dksX0_level_0 14 rfl rfl)
theorem dX0_level_15 : decode cX0_level 15 = .ok (.iconst 0, 1) := dk_3 (dk_at dksX0_level_0 15 rfl rfl)
theorem dX0_level_16 : decode cX0_level 16 = .ok (.ireturn, 1) := dk_172 (dk_at dksX0_level_0 16 rfl rfl)
abbrev cX0_lend : ByteArray := method_33_code
def yX0_lend : MethodName := ⟨RX0, "lend", "(LLuckCrates;I[J)I"⟩
def dkwX0_lend_0 : List UInt8 := [44, 3, 42, 27, 182, 0, 109, 133, 80, 167, 0, 6, 78, 4, 172, 3, 172]
abbrev dktX0_lend_0 : List UInt8 := dkwX0_lend_0 ++ []
theorem dksX0_lend_0 : cX0_lend.data.toList.drop 0 = dktX0_lend_0 := by decide +kernel
theorem dX0_lend_0 : decode cX0_lend 0 = .ok (.aload_n 2, 1) := dk_44 (dk_at dksX0_lend_0 0 rfl rfl)
theorem dX0_lend_1 : decode cX0_lend 1 = .ok (.iconst 0, 1) := dk_3 (dk_at dksX0_lend_0 1 rfl rfl)
theorem dX0_lend_2 : decode cX0_lend 2 = .ok (.aload_n 0, 1) := dk_42 (dk_at dksX0_lend_0 2 rfl rfl)
theorem dX0_lend_3 : decode cX0_lend 3 = .ok (.iload_n 1, 1) := dk_27 (dk_at dksX0_lend_0 3 rfl rfl)
theorem dX0_lend_4 : decode cX0_lend 4 = .ok (.invokevirtual 109, 3) := dk_182 0 109 (dk_at dksX0_lend_0 4 rfl rfl)
theorem dX0_lend_7 : decode cX0_lend 7 = .ok (.i2l, 1) := dk_133 (dk_at dksX0_lend_0 7 rfl rfl)
theorem dX0_lend_8 : decode cX0_lend 8 = .ok (.lastore, 1) := dk_80 (dk_at dksX0_lend_0 8 rfl rfl)
theorem dX0_lend_9 : decode cX0_lend 9 = .ok (.goto 6, 3) := dk_167 0 6 (dk_at dksX0_lend_0 9 rfl rfl)
theorem dX0_lend_12 : decode cX0_lend 12 = .ok (.astore_n 3, 1) := dk_78 (dk_at dksX0_lend_0 12 rfl rfl)
theorem dX0_lend_13 : decode cX0_lend 13 = .ok (.iconst 1, 1) := dk_4 (dk_at dksX0_lend_0 13 rfl rfl)
theorem dX0_lend_14 : decode cX0_lend 14 = .ok (.ireturn, 1) := dk_172 (dk_at dksX0_lend_0 14 rfl rfl)
theorem dX0_lend_15 : decode cX0_lend 15 = .ok (.iconst 0, 1) := dk_3 (dk_at dksX0_lend_0 15 rfl rfl)
theorem dX0_lend_16 : decode cX0_lend 16 = .ok (.ireturn, 1) := dk_172 (dk_at dksX0_lend_0 16 rfl rfl)
theorem q108 : (Jvm.Cond.initialized "LuckCratesLaw") ∈ lw_all := lw_g (lw_at lw_m1 0 rfl) rfl
theorem q143 : (Jvm.Cond.classLink "LuckCratesLaw" (8 : Nat) "LuckCrates") ∈ lw_all := lw_g (lw_at lw_m1 35 rfl) rfl
theorem q145 : (Jvm.Cond.methodLink "LuckCratesLaw" (112 : Nat) ({ cls := "LuckCrates", name := "<init>", desc := "()V" } : Jvm.MethodName)) ∈ lw_all := lw_g (lw_at lw_m1 37 rfl) rfl
theorem q323 : (Jvm.Cond.methodLink "LuckCratesLaw" (116 : Nat) ({ cls := "LuckCrates", name := "feed", desc := "(IIIII)I" } : Jvm.MethodName)) ∈ lw_all := lw_g (lw_at lw_m1 215 rfl) rfl
theorem q327 : (Jvm.Cond.methodLink "LuckCratesLaw" (131 : Nat) ({ cls := "LuckCrates", name := "fault", desc := "()I" } : Jvm.MethodName)) ∈ lw_all := lw_g (lw_at lw_m1 219 rfl) rfl
theorem q331 : (Jvm.Cond.methodLink "LuckCratesLaw" (145 : Nat) ({ cls := "LuckCrates", name := "days", desc := "(I)I" } : Jvm.MethodName)) ∈ lw_all := lw_g (lw_at lw_m1 223 rfl) rfl
theorem q594 : (Jvm.Cond.methodLink "LuckCratesLaw" (162 : Nat) ({ cls := "LuckCrates", name := "undo", desc := "()I" } : Jvm.MethodName)) ∈ lw_all := lw_g (lw_at lw_m3 6 rfl) rfl
theorem q607 : (Jvm.Cond.methodLink "LuckCratesLaw" (201 : Nat) ({ cls := "LuckCrates", name := "forget", desc := "()V" } : Jvm.MethodName)) ∈ lw_all := lw_g (lw_at lw_m3 19 rfl) rfl
theorem q611 : (Jvm.Cond.methodLink "LuckCratesLaw" (214 : Nat) ({ cls := "LuckCrates", name := "missed", desc := "()I" } : Jvm.MethodName)) ∈ lw_all := lw_g (lw_at lw_m3 23 rfl) rfl
theorem q633 : (Jvm.Cond.methodLink "LuckCratesLaw" (230 : Nat) ({ cls := "LuckCrates", name := "hub", desc := "()I" } : Jvm.MethodName)) ∈ lw_all := lw_g (lw_at lw_m3 45 rfl) rfl
theorem q654 : (Jvm.Cond.methodLink "LuckCratesLaw" (249 : Nat) ({ cls := "LuckCrates", name := "spoilt", desc := "()I" } : Jvm.MethodName)) ∈ lw_all := lw_g (lw_at lw_m3 66 rfl) rfl
theorem q659 : (Jvm.Cond.methodLink "LuckCratesLaw" (253 : Nat) ({ cls := "LuckCrates", name := "image", desc := "()V" } : Jvm.MethodName)) ∈ lw_all := lw_g (lw_at lw_m3 71 rfl) rfl
theorem q687 : (Jvm.Cond.methodLink "LuckCratesLaw" (257 : Nat) ({ cls := "LuckCrates", name := "restore", desc := "()Z" } : Jvm.MethodName)) ∈ lw_all := lw_g (lw_at lw_m3 99 rfl) rfl
theorem q691 : (Jvm.Cond.methodLink "LuckCratesLaw" (121 : Nat) ({ cls := "LuckCratesLaw", name := "province", desc := "(LLuckCrates;I[J)I" } : Jvm.MethodName)) ∈ lw_all := lw_g (lw_at lw_m3 103 rfl) rfl
theorem q692 : (Jvm.Cond.static ({ cls := "LuckCratesLaw", name := "province", desc := "(LLuckCrates;I[J)I" } : Jvm.MethodName)) ∈ lw_all := lw_g (lw_at lw_m3 104 rfl) rfl
theorem q693 : (Jvm.Cond.codeWith ({ cls := "LuckCratesLaw", name := "province", desc := "(LLuckCrates;I[J)I" } : Jvm.MethodName) method_3_code (4 : Nat) (Option.some Jvm.ClassFile.FieldType.int) [((0 : Nat), (9 : Nat), (12 : Nat), (13 : Nat))]) ∈ lw_all := lw_g (lw_at lw_m3 105 rfl) rfl
theorem q694 : (Jvm.Cond.classLink "LuckCratesLaw" (13 : Nat) "java/lang/IllegalArgumentException") ∈ lw_all := lw_g (lw_at lw_m3 106 rfl) rfl
theorem q695 : (Jvm.Cond.methodLink "LuckCratesLaw" (7 : Nat) ({ cls := "LuckCrates", name := "province", desc := "(I)I" } : Jvm.MethodName)) ∈ lw_all := lw_g (lw_at lw_m3 107 rfl) rfl
theorem q1239 : (Jvm.Cond.methodLink "LuckCratesLaw" (135 : Nat) ({ cls := "LuckCratesLaw", name := "count", desc := "(LLuckCrates;I[J)I" } : Jvm.MethodName)) ∈ lw_all := lw_g (lw_at lw_m5 171 rfl) rfl
theorem q1240 : (Jvm.Cond.static ({ cls := "LuckCratesLaw", name := "count", desc := "(LLuckCrates;I[J)I" } : Jvm.MethodName)) ∈ lw_all := lw_g (lw_at lw_m5 172 rfl) rfl
theorem q1241 : (Jvm.Cond.codeWith ({ cls := "LuckCratesLaw", name := "count", desc := "(LLuckCrates;I[J)I" } : Jvm.MethodName) method_4_code (4 : Nat) (Option.some Jvm.ClassFile.FieldType.int) [((0 : Nat), (9 : Nat), (12 : Nat), (18 : Nat))]) ∈ lw_all := lw_g (lw_at lw_m5 173 rfl) rfl
theorem q1242 : (Jvm.Cond.classLink "LuckCratesLaw" (18 : Nat) "java/util/NoSuchElementException") ∈ lw_all := lw_g (lw_at lw_m5 174 rfl) rfl
theorem q1243 : (Jvm.Cond.methodLink "LuckCratesLaw" (15 : Nat) ({ cls := "LuckCrates", name := "count", desc := "(I)I" } : Jvm.MethodName)) ∈ lw_all := lw_g (lw_at lw_m5 175 rfl) rfl
theorem q1266 : (Jvm.Cond.methodLink "LuckCratesLaw" (138 : Nat) ({ cls := "LuckCratesLaw", name := "town", desc := "(LLuckCrates;II[J)I" } : Jvm.MethodName)) ∈ lw_all := lw_g (lw_at lw_m5 198 rfl) rfl
theorem q1267 : (Jvm.Cond.static ({ cls := "LuckCratesLaw", name := "town", desc := "(LLuckCrates;II[J)I" } : Jvm.MethodName)) ∈ lw_all := lw_g (lw_at lw_m5 199 rfl) rfl
theorem q1268 : (Jvm.Cond.codeWith ({ cls := "LuckCratesLaw", name := "town", desc := "(LLuckCrates;II[J)I" } : Jvm.MethodName) method_5_code (5 : Nat) (Option.some Jvm.ClassFile.FieldType.int) [((0 : Nat), (10 : Nat), (13 : Nat), (18 : Nat))]) ∈ lw_all := lw_g (lw_at lw_m5 200 rfl) rfl
theorem q1269 : (Jvm.Cond.methodLink "LuckCratesLaw" (20 : Nat) ({ cls := "LuckCrates", name := "town", desc := "(II)I" } : Jvm.MethodName)) ∈ lw_all := lw_g (lw_at lw_m5 201 rfl) rfl
theorem q1282 : (Jvm.Cond.methodLink "LuckCratesLaw" (142 : Nat) ({ cls := "LuckCratesLaw", name := "crate", desc := "(LLuckCrates;II[J)I" } : Jvm.MethodName)) ∈ lw_all := lw_g (lw_at lw_m5 214 rfl) rfl
theorem q1283 : (Jvm.Cond.static ({ cls := "LuckCratesLaw", name := "crate", desc := "(LLuckCrates;II[J)I" } : Jvm.MethodName)) ∈ lw_all := lw_g (lw_at lw_m5 215 rfl) rfl
theorem q1284 : (Jvm.Cond.codeWith ({ cls := "LuckCratesLaw", name := "crate", desc := "(LLuckCrates;II[J)I" } : Jvm.MethodName) method_6_code (5 : Nat) (Option.some Jvm.ClassFile.FieldType.int) [((0 : Nat), (10 : Nat), (13 : Nat), (18 : Nat))]) ∈ lw_all := lw_g (lw_at lw_m5 216 rfl) rfl
theorem q1285 : (Jvm.Cond.methodLink "LuckCratesLaw" (24 : Nat) ({ cls := "LuckCrates", name := "crate", desc := "(II)I" } : Jvm.MethodName)) ∈ lw_all := lw_g (lw_at lw_m5 217 rfl) rfl
theorem q1296 : (Jvm.Cond.methodLink "LuckCratesLaw" (149 : Nat) ({ cls := "LuckCratesLaw", name := "send", desc := "(LLuckCrates;II[J)I" } : Jvm.MethodName)) ∈ lw_all := lw_g (lw_at lw_m5 228 rfl) rfl
theorem q1297 : (Jvm.Cond.static ({ cls := "LuckCratesLaw", name := "send", desc := "(LLuckCrates;II[J)I" } : Jvm.MethodName)) ∈ lw_all := lw_g (lw_at lw_m5 229 rfl) rfl
theorem q1298 : (Jvm.Cond.codeWith ({ cls := "LuckCratesLaw", name := "send", desc := "(LLuckCrates;II[J)I" } : Jvm.MethodName) method_7_code (5 : Nat) (Option.some Jvm.ClassFile.FieldType.int) [((0 : Nat), (10 : Nat), (13 : Nat), (18 : Nat))]) ∈ lw_all := lw_g (lw_at lw_m5 230 rfl) rfl
theorem q1299 : (Jvm.Cond.methodLink "LuckCratesLaw" (27 : Nat) ({ cls := "LuckCrates", name := "send", desc := "(II)I" } : Jvm.MethodName)) ∈ lw_all := lw_g (lw_at lw_m5 231 rfl) rfl
theorem q1305 : (Jvm.Cond.methodLink "LuckCratesLaw" (152 : Nat) ({ cls := "LuckCratesLaw", name := "open", desc := "(LLuckCrates;I[J)I" } : Jvm.MethodName)) ∈ lw_all := lw_g (lw_at lw_m5 237 rfl) rfl
theorem q1306 : (Jvm.Cond.static ({ cls := "LuckCratesLaw", name := "open", desc := "(LLuckCrates;I[J)I" } : Jvm.MethodName)) ∈ lw_all := lw_g (lw_at lw_m5 238 rfl) rfl
theorem q1307 : (Jvm.Cond.codeWith ({ cls := "LuckCratesLaw", name := "open", desc := "(LLuckCrates;I[J)I" } : Jvm.MethodName) method_8_code (4 : Nat) (Option.some Jvm.ClassFile.FieldType.int) [((0 : Nat), (9 : Nat), (12 : Nat), (18 : Nat))]) ∈ lw_all := lw_g (lw_at lw_m5 239 rfl) rfl
theorem q1308 : (Jvm.Cond.methodLink "LuckCratesLaw" (30 : Nat) ({ cls := "LuckCrates", name := "open", desc := "(I)I" } : Jvm.MethodName)) ∈ lw_all := lw_g (lw_at lw_m6 0 rfl) rfl
theorem q1312 : (Jvm.Cond.methodLink "LuckCratesLaw" (155 : Nat) ({ cls := "LuckCratesLaw", name := "cat", desc := "(LLuckCrates;IZ[J)I" } : Jvm.MethodName)) ∈ lw_all := lw_g (lw_at lw_m6 4 rfl) rfl
theorem q1313 : (Jvm.Cond.static ({ cls := "LuckCratesLaw", name := "cat", desc := "(LLuckCrates;IZ[J)I" } : Jvm.MethodName)) ∈ lw_all := lw_g (lw_at lw_m6 5 rfl) rfl
theorem q1314 : (Jvm.Cond.codeWith ({ cls := "LuckCratesLaw", name := "cat", desc := "(LLuckCrates;IZ[J)I" } : Jvm.MethodName) method_9_code (5 : Nat) (Option.some Jvm.ClassFile.FieldType.int) [((0 : Nat), (17 : Nat), (20 : Nat), (18 : Nat))]) ∈ lw_all := lw_g (lw_at lw_m6 6 rfl) rfl
theorem q1315 : (Jvm.Cond.methodLink "LuckCratesLaw" (33 : Nat) ({ cls := "LuckCrates", name := "cat", desc := "(IZ)Z" } : Jvm.MethodName)) ∈ lw_all := lw_g (lw_at lw_m6 7 rfl) rfl
theorem q1319 : (Jvm.Cond.methodLink "LuckCratesLaw" (159 : Nat) ({ cls := "LuckCratesLaw", name := "mix", desc := "(LLuckCrates;II[J)I" } : Jvm.MethodName)) ∈ lw_all := lw_g (lw_at lw_m6 11 rfl) rfl
theorem q1320 : (Jvm.Cond.static ({ cls := "LuckCratesLaw", name := "mix", desc := "(LLuckCrates;II[J)I" } : Jvm.MethodName)) ∈ lw_all := lw_g (lw_at lw_m6 12 rfl) rfl
theorem q1321 : (Jvm.Cond.codeWith ({ cls := "LuckCratesLaw", name := "mix", desc := "(LLuckCrates;II[J)I" } : Jvm.MethodName) method_10_code (5 : Nat) (Option.some Jvm.ClassFile.FieldType.int) [((0 : Nat), (10 : Nat), (13 : Nat), (18 : Nat))]) ∈ lw_all := lw_g (lw_at lw_m6 13 rfl) rfl
theorem q1322 : (Jvm.Cond.methodLink "LuckCratesLaw" (37 : Nat) ({ cls := "LuckCrates", name := "mix", desc := "(II)I" } : Jvm.MethodName)) ∈ lw_all := lw_g (lw_at lw_m6 14 rfl) rfl
theorem q1330 : (Jvm.Cond.methodLink "LuckCratesLaw" (166 : Nat) ({ cls := "LuckCratesLaw", name := "then", desc := "(LLuckCrates;III[J)I" } : Jvm.MethodName)) ∈ lw_all := lw_g (lw_at lw_m6 22 rfl) rfl
theorem q1331 : (Jvm.Cond.static ({ cls := "LuckCratesLaw", name := "then", desc := "(LLuckCrates;III[J)I" } : Jvm.MethodName)) ∈ lw_all := lw_g (lw_at lw_m6 23 rfl) rfl
theorem q1332 : (Jvm.Cond.codeWith ({ cls := "LuckCratesLaw", name := "then", desc := "(LLuckCrates;III[J)I" } : Jvm.MethodName) method_11_code (6 : Nat) (Option.some Jvm.ClassFile.FieldType.int) [((0 : Nat), (12 : Nat), (15 : Nat), (18 : Nat)), ((0 : Nat), (12 : Nat), (19 : Nat), (13 : Nat))]) ∈ lw_all := lw_g (lw_at lw_m6 24 rfl) rfl
theorem q1333 : (Jvm.Cond.methodLink "LuckCratesLaw" (40 : Nat) ({ cls := "LuckCrates", name := "then", desc := "(III)I" } : Jvm.MethodName)) ∈ lw_all := lw_g (lw_at lw_m6 25 rfl) rfl
theorem q1337 : (Jvm.Cond.methodLink "LuckCratesLaw" (170 : Nat) ({ cls := "LuckCratesLaw", name := "even", desc := "(LLuckCrates;I[J)I" } : Jvm.MethodName)) ∈ lw_all := lw_g (lw_at lw_m6 29 rfl) rfl
theorem q1338 : (Jvm.Cond.static ({ cls := "LuckCratesLaw", name := "even", desc := "(LLuckCrates;I[J)I" } : Jvm.MethodName)) ∈ lw_all := lw_g (lw_at lw_m6 30 rfl) rfl
theorem q1339 : (Jvm.Cond.codeWith ({ cls := "LuckCratesLaw", name := "even", desc := "(LLuckCrates;I[J)I" } : Jvm.MethodName) method_12_code (4 : Nat) (Option.some Jvm.ClassFile.FieldType.int) [((0 : Nat), (9 : Nat), (12 : Nat), (18 : Nat))]) ∈ lw_all := lw_g (lw_at lw_m6 31 rfl) rfl
theorem q1340 : (Jvm.Cond.methodLink "LuckCratesLaw" (44 : Nat) ({ cls := "LuckCrates", name := "even", desc := "(I)I" } : Jvm.MethodName)) ∈ lw_all := lw_g (lw_at lw_m6 32 rfl) rfl
theorem q1345 : (Jvm.Cond.methodLink "LuckCratesLaw" (173 : Nat) ({ cls := "LuckCratesLaw", name := "out", desc := "(LLuckCrates;I[J)I" } : Jvm.MethodName)) ∈ lw_all := lw_g (lw_at lw_m6 37 rfl) rfl
theorem q1346 : (Jvm.Cond.static ({ cls := "LuckCratesLaw", name := "out", desc := "(LLuckCrates;I[J)I" } : Jvm.MethodName)) ∈ lw_all := lw_g (lw_at lw_m6 38 rfl) rfl
theorem q1347 : (Jvm.Cond.codeWith ({ cls := "LuckCratesLaw", name := "out", desc := "(LLuckCrates;I[J)I" } : Jvm.MethodName) method_13_code (4 : Nat) (Option.some Jvm.ClassFile.FieldType.int) [((0 : Nat), (9 : Nat), (12 : Nat), (18 : Nat))]) ∈ lw_all := lw_g (lw_at lw_m6 39 rfl) rfl
theorem q1348 : (Jvm.Cond.methodLink "LuckCratesLaw" (47 : Nat) ({ cls := "LuckCrates", name := "out", desc := "(I)I" } : Jvm.MethodName)) ∈ lw_all := lw_g (lw_at lw_m6 40 rfl) rfl
theorem q1355 : (Jvm.Cond.methodLink "LuckCratesLaw" (176 : Nat) ({ cls := "LuckCratesLaw", name := "luckiest", desc := "(LLuckCrates;I[J)I" } : Jvm.MethodName)) ∈ lw_all := lw_g (lw_at lw_m6 47 rfl) rfl
theorem q1356 : (Jvm.Cond.static ({ cls := "LuckCratesLaw", name := "luckiest", desc := "(LLuckCrates;I[J)I" } : Jvm.MethodName)) ∈ lw_all := lw_g (lw_at lw_m6 48 rfl) rfl
theorem q1357 : (Jvm.Cond.codeWith ({ cls := "LuckCratesLaw", name := "luckiest", desc := "(LLuckCrates;I[J)I" } : Jvm.MethodName) method_14_code (4 : Nat) (Option.some Jvm.ClassFile.FieldType.int) [((0 : Nat), (9 : Nat), (12 : Nat), (13 : Nat))]) ∈ lw_all := lw_g (lw_at lw_m6 49 rfl) rfl
theorem q1358 : (Jvm.Cond.methodLink "LuckCratesLaw" (50 : Nat) ({ cls := "LuckCrates", name := "luckiest", desc := "(I)I" } : Jvm.MethodName)) ∈ lw_all := lw_g (lw_at lw_m6 50 rfl) rfl
theorem q1362 : (Jvm.Cond.methodLink "LuckCratesLaw" (179 : Nat) ({ cls := "LuckCratesLaw", name := "far", desc := "(LLuckCrates;II[J)I" } : Jvm.MethodName)) ∈ lw_all := lw_g (lw_at lw_m6 54 rfl) rfl
theorem q1363 : (Jvm.Cond.static ({ cls := "LuckCratesLaw", name := "far", desc := "(LLuckCrates;II[J)I" } : Jvm.MethodName)) ∈ lw_all := lw_g (lw_at lw_m6 55 rfl) rfl
theorem q1364 : (Jvm.Cond.codeWith ({ cls := "LuckCratesLaw", name := "far", desc := "(LLuckCrates;II[J)I" } : Jvm.MethodName) method_15_code (5 : Nat) (Option.some Jvm.ClassFile.FieldType.int) [((0 : Nat), (10 : Nat), (13 : Nat), (18 : Nat))]) ∈ lw_all := lw_g (lw_at lw_m6 56 rfl) rfl
theorem q1365 : (Jvm.Cond.methodLink "LuckCratesLaw" (53 : Nat) ({ cls := "LuckCrates", name := "far", desc := "(II)I" } : Jvm.MethodName)) ∈ lw_all := lw_g (lw_at lw_m6 57 rfl) rfl
theorem q1372 : (Jvm.Cond.methodLink "LuckCratesLaw" (182 : Nat) ({ cls := "LuckCratesLaw", name := "leak", desc := "(LLuckCrates;II[J)I" } : Jvm.MethodName)) ∈ lw_all := lw_g (lw_at lw_m6 64 rfl) rfl
theorem q1373 : (Jvm.Cond.static ({ cls := "LuckCratesLaw", name := "leak", desc := "(LLuckCrates;II[J)I" } : Jvm.MethodName)) ∈ lw_all := lw_g (lw_at lw_m6 65 rfl) rfl
theorem q1374 : (Jvm.Cond.codeWith ({ cls := "LuckCratesLaw", name := "leak", desc := "(LLuckCrates;II[J)I" } : Jvm.MethodName) method_16_code (5 : Nat) (Option.some Jvm.ClassFile.FieldType.int) [((0 : Nat), (10 : Nat), (13 : Nat), (18 : Nat))]) ∈ lw_all := lw_g (lw_at lw_m6 66 rfl) rfl
theorem q1375 : (Jvm.Cond.methodLink "LuckCratesLaw" (56 : Nat) ({ cls := "LuckCrates", name := "leak", desc := "(II)I" } : Jvm.MethodName)) ∈ lw_all := lw_g (lw_at lw_m6 67 rfl) rfl
theorem q1379 : (Jvm.Cond.methodLink "LuckCratesLaw" (185 : Nat) ({ cls := "LuckCratesLaw", name := "sending", desc := "(LLuckCrates;II[J)I" } : Jvm.MethodName)) ∈ lw_all := lw_g (lw_at lw_m6 71 rfl) rfl
theorem q1380 : (Jvm.Cond.static ({ cls := "LuckCratesLaw", name := "sending", desc := "(LLuckCrates;II[J)I" } : Jvm.MethodName)) ∈ lw_all := lw_g (lw_at lw_m6 72 rfl) rfl
theorem q1381 : (Jvm.Cond.codeWith ({ cls := "LuckCratesLaw", name := "sending", desc := "(LLuckCrates;II[J)I" } : Jvm.MethodName) method_17_code (5 : Nat) (Option.some Jvm.ClassFile.FieldType.int) [((0 : Nat), (10 : Nat), (13 : Nat), (18 : Nat)), ((0 : Nat), (10 : Nat), (17 : Nat), (13 : Nat))]) ∈ lw_all := lw_g (lw_at lw_m6 73 rfl) rfl
theorem q1382 : (Jvm.Cond.methodLink "LuckCratesLaw" (59 : Nat) ({ cls := "LuckCrates", name := "sending", desc := "(II)I" } : Jvm.MethodName)) ∈ lw_all := lw_g (lw_at lw_m6 74 rfl) rfl
theorem q1387 : (Jvm.Cond.methodLink "LuckCratesLaw" (188 : Nat) ({ cls := "LuckCratesLaw", name := "hold", desc := "(LLuckCrates;II[J)I" } : Jvm.MethodName)) ∈ lw_all := lw_g (lw_at lw_m6 79 rfl) rfl
theorem q1388 : (Jvm.Cond.static ({ cls := "LuckCratesLaw", name := "hold", desc := "(LLuckCrates;II[J)I" } : Jvm.MethodName)) ∈ lw_all := lw_g (lw_at lw_m6 80 rfl) rfl
theorem q1389 : (Jvm.Cond.codeWith ({ cls := "LuckCratesLaw", name := "hold", desc := "(LLuckCrates;II[J)I" } : Jvm.MethodName) method_18_code (5 : Nat) (Option.some Jvm.ClassFile.FieldType.int) [((0 : Nat), (10 : Nat), (13 : Nat), (18 : Nat))]) ∈ lw_all := lw_g (lw_at lw_m6 81 rfl) rfl
theorem q1390 : (Jvm.Cond.methodLink "LuckCratesLaw" (62 : Nat) ({ cls := "LuckCrates", name := "hold", desc := "(II)I" } : Jvm.MethodName)) ∈ lw_all := lw_g (lw_at lw_m6 82 rfl) rfl
theorem q1404 : (Jvm.Cond.methodLink "LuckCratesLaw" (191 : Nat) ({ cls := "LuckCratesLaw", name := "thrower", desc := "(LLuckCrates;IIII[J)I" } : Jvm.MethodName)) ∈ lw_all := lw_g (lw_at lw_m6 96 rfl) rfl
theorem q1405 : (Jvm.Cond.static ({ cls := "LuckCratesLaw", name := "thrower", desc := "(LLuckCrates;IIII[J)I" } : Jvm.MethodName)) ∈ lw_all := lw_g (lw_at lw_m6 97 rfl) rfl
theorem q1406 : (Jvm.Cond.codeWith ({ cls := "LuckCratesLaw", name := "thrower", desc := "(LLuckCrates;IIII[J)I" } : Jvm.MethodName) method_19_code (7 : Nat) (Option.some Jvm.ClassFile.FieldType.int) [((0 : Nat), (14 : Nat), (17 : Nat), (13 : Nat))]) ∈ lw_all := lw_g (lw_at lw_m6 98 rfl) rfl
theorem q1407 : (Jvm.Cond.methodLink "LuckCratesLaw" (65 : Nat) ({ cls := "LuckCrates", name := "thrower", desc := "(IIII)I" } : Jvm.MethodName)) ∈ lw_all := lw_g (lw_at lw_m6 99 rfl) rfl
theorem q1417 : (Jvm.Cond.methodLink "LuckCratesLaw" (195 : Nat) ({ cls := "LuckCratesLaw", name := "stop", desc := "(LLuckCrates;IIII[J)I" } : Jvm.MethodName)) ∈ lw_all := lw_g (lw_at lw_m6 109 rfl) rfl
theorem q1418 : (Jvm.Cond.static ({ cls := "LuckCratesLaw", name := "stop", desc := "(LLuckCrates;IIII[J)I" } : Jvm.MethodName)) ∈ lw_all := lw_g (lw_at lw_m6 110 rfl) rfl
theorem q1419 : (Jvm.Cond.codeWith ({ cls := "LuckCratesLaw", name := "stop", desc := "(LLuckCrates;IIII[J)I" } : Jvm.MethodName) method_20_code (7 : Nat) (Option.some Jvm.ClassFile.FieldType.int) [((0 : Nat), (14 : Nat), (17 : Nat), (18 : Nat)), ((0 : Nat), (14 : Nat), (21 : Nat), (13 : Nat))]) ∈ lw_all := lw_g (lw_at lw_m6 111 rfl) rfl
theorem q1420 : (Jvm.Cond.methodLink "LuckCratesLaw" (69 : Nat) ({ cls := "LuckCrates", name := "stop", desc := "(IIII)I" } : Jvm.MethodName)) ∈ lw_all := lw_g (lw_at lw_m6 112 rfl) rfl
theorem q1430 : (Jvm.Cond.methodLink "LuckCratesLaw" (198 : Nat) ({ cls := "LuckCratesLaw", name := "see", desc := "(LLuckCrates;III[J)I" } : Jvm.MethodName)) ∈ lw_all := lw_g (lw_at lw_m6 122 rfl) rfl
theorem q1431 : (Jvm.Cond.static ({ cls := "LuckCratesLaw", name := "see", desc := "(LLuckCrates;III[J)I" } : Jvm.MethodName)) ∈ lw_all := lw_g (lw_at lw_m6 123 rfl) rfl
theorem q1432 : (Jvm.Cond.codeWith ({ cls := "LuckCratesLaw", name := "see", desc := "(LLuckCrates;III[J)I" } : Jvm.MethodName) method_21_code (6 : Nat) (Option.some Jvm.ClassFile.FieldType.int) [((0 : Nat), (12 : Nat), (15 : Nat), (18 : Nat))]) ∈ lw_all := lw_g (lw_at lw_m6 124 rfl) rfl
theorem q1433 : (Jvm.Cond.methodLink "LuckCratesLaw" (72 : Nat) ({ cls := "LuckCrates", name := "see", desc := "(III)I" } : Jvm.MethodName)) ∈ lw_all := lw_g (lw_at lw_m6 125 rfl) rfl
theorem q1437 : (Jvm.Cond.methodLink "LuckCratesLaw" (205 : Nat) ({ cls := "LuckCratesLaw", name := "opened", desc := "(LLuckCrates;I[J)I" } : Jvm.MethodName)) ∈ lw_all := lw_g (lw_at lw_m6 129 rfl) rfl
theorem q1438 : (Jvm.Cond.static ({ cls := "LuckCratesLaw", name := "opened", desc := "(LLuckCrates;I[J)I" } : Jvm.MethodName)) ∈ lw_all := lw_g (lw_at lw_m6 130 rfl) rfl
theorem q1439 : (Jvm.Cond.codeWith ({ cls := "LuckCratesLaw", name := "opened", desc := "(LLuckCrates;I[J)I" } : Jvm.MethodName) method_22_code (4 : Nat) (Option.some Jvm.ClassFile.FieldType.int) [((0 : Nat), (9 : Nat), (12 : Nat), (18 : Nat))]) ∈ lw_all := lw_g (lw_at lw_m6 131 rfl) rfl
theorem q1440 : (Jvm.Cond.methodLink "LuckCratesLaw" (75 : Nat) ({ cls := "LuckCrates", name := "opened", desc := "(I)I" } : Jvm.MethodName)) ∈ lw_all := lw_g (lw_at lw_m6 132 rfl) rfl
theorem q1455 : (Jvm.Cond.methodLink "LuckCratesLaw" (208 : Nat) ({ cls := "LuckCratesLaw", name := "next", desc := "(LLuckCrates;I[J)I" } : Jvm.MethodName)) ∈ lw_all := lw_g (lw_at lw_m6 147 rfl) rfl
theorem q1456 : (Jvm.Cond.static ({ cls := "LuckCratesLaw", name := "next", desc := "(LLuckCrates;I[J)I" } : Jvm.MethodName)) ∈ lw_all := lw_g (lw_at lw_m6 148 rfl) rfl
theorem q1457 : (Jvm.Cond.codeWith ({ cls := "LuckCratesLaw", name := "next", desc := "(LLuckCrates;I[J)I" } : Jvm.MethodName) method_23_code (4 : Nat) (Option.some Jvm.ClassFile.FieldType.int) [((0 : Nat), (9 : Nat), (12 : Nat), (18 : Nat))]) ∈ lw_all := lw_g (lw_at lw_m6 149 rfl) rfl
theorem q1458 : (Jvm.Cond.methodLink "LuckCratesLaw" (78 : Nat) ({ cls := "LuckCrates", name := "next", desc := "(I)I" } : Jvm.MethodName)) ∈ lw_all := lw_g (lw_at lw_m6 150 rfl) rfl
theorem q1465 : (Jvm.Cond.methodLink "LuckCratesLaw" (211 : Nat) ({ cls := "LuckCratesLaw", name := "pooled", desc := "(LLuckCrates;I[J)I" } : Jvm.MethodName)) ∈ lw_all := lw_g (lw_at lw_m6 157 rfl) rfl
theorem q1466 : (Jvm.Cond.static ({ cls := "LuckCratesLaw", name := "pooled", desc := "(LLuckCrates;I[J)I" } : Jvm.MethodName)) ∈ lw_all := lw_g (lw_at lw_m6 158 rfl) rfl
theorem q1467 : (Jvm.Cond.codeWith ({ cls := "LuckCratesLaw", name := "pooled", desc := "(LLuckCrates;I[J)I" } : Jvm.MethodName) method_24_code (4 : Nat) (Option.some Jvm.ClassFile.FieldType.int) [((0 : Nat), (9 : Nat), (12 : Nat), (13 : Nat))]) ∈ lw_all := lw_g (lw_at lw_m6 159 rfl) rfl
theorem q1468 : (Jvm.Cond.methodLink "LuckCratesLaw" (81 : Nat) ({ cls := "LuckCrates", name := "pooled", desc := "(I)I" } : Jvm.MethodName)) ∈ lw_all := lw_g (lw_at lw_m6 160 rfl) rfl
theorem q1472 : (Jvm.Cond.methodLink "LuckCratesLaw" (218 : Nat) ({ cls := "LuckCratesLaw", name := "game", desc := "(LLuckCrates;III[J)I" } : Jvm.MethodName)) ∈ lw_all := lw_g (lw_at lw_m6 164 rfl) rfl
theorem q1473 : (Jvm.Cond.static ({ cls := "LuckCratesLaw", name := "game", desc := "(LLuckCrates;III[J)I" } : Jvm.MethodName)) ∈ lw_all := lw_g (lw_at lw_m6 165 rfl) rfl
theorem q1474 : (Jvm.Cond.codeWith ({ cls := "LuckCratesLaw", name := "game", desc := "(LLuckCrates;III[J)I" } : Jvm.MethodName) method_25_code (6 : Nat) (Option.some Jvm.ClassFile.FieldType.int) [((0 : Nat), (12 : Nat), (15 : Nat), (18 : Nat)), ((0 : Nat), (12 : Nat), (19 : Nat), (13 : Nat))]) ∈ lw_all := lw_g (lw_at lw_m6 166 rfl) rfl
theorem q1475 : (Jvm.Cond.methodLink "LuckCratesLaw" (84 : Nat) ({ cls := "LuckCrates", name := "game", desc := "(III)I" } : Jvm.MethodName)) ∈ lw_all := lw_g (lw_at lw_m6 167 rfl) rfl
theorem q1483 : (Jvm.Cond.methodLink "LuckCratesLaw" (221 : Nat) ({ cls := "LuckCratesLaw", name := "years", desc := "(LLuckCrates;III[J)I" } : Jvm.MethodName)) ∈ lw_all := lw_g (lw_at lw_m6 175 rfl) rfl
theorem q1484 : (Jvm.Cond.static ({ cls := "LuckCratesLaw", name := "years", desc := "(LLuckCrates;III[J)I" } : Jvm.MethodName)) ∈ lw_all := lw_g (lw_at lw_m6 176 rfl) rfl
theorem q1485 : (Jvm.Cond.codeWith ({ cls := "LuckCratesLaw", name := "years", desc := "(LLuckCrates;III[J)I" } : Jvm.MethodName) method_26_code (6 : Nat) (Option.some Jvm.ClassFile.FieldType.int) [((0 : Nat), (12 : Nat), (15 : Nat), (18 : Nat)), ((0 : Nat), (12 : Nat), (19 : Nat), (13 : Nat))]) ∈ lw_all := lw_g (lw_at lw_m6 177 rfl) rfl
theorem q1486 : (Jvm.Cond.methodLink "LuckCratesLaw" (87 : Nat) ({ cls := "LuckCrates", name := "years", desc := "(III)I" } : Jvm.MethodName)) ∈ lw_all := lw_g (lw_at lw_m6 178 rfl) rfl
theorem q1491 : (Jvm.Cond.methodLink "LuckCratesLaw" (224 : Nat) ({ cls := "LuckCratesLaw", name := "thief", desc := "(LLuckCrates;II[J)I" } : Jvm.MethodName)) ∈ lw_all := lw_g (lw_at lw_m6 183 rfl) rfl
theorem q1492 : (Jvm.Cond.static ({ cls := "LuckCratesLaw", name := "thief", desc := "(LLuckCrates;II[J)I" } : Jvm.MethodName)) ∈ lw_all := lw_g (lw_at lw_m6 184 rfl) rfl
theorem q1493 : (Jvm.Cond.codeWith ({ cls := "LuckCratesLaw", name := "thief", desc := "(LLuckCrates;II[J)I" } : Jvm.MethodName) method_27_code (5 : Nat) (Option.some Jvm.ClassFile.FieldType.int) [((0 : Nat), (10 : Nat), (13 : Nat), (18 : Nat)), ((0 : Nat), (10 : Nat), (17 : Nat), (13 : Nat))]) ∈ lw_all := lw_g (lw_at lw_m6 185 rfl) rfl
theorem q1494 : (Jvm.Cond.methodLink "LuckCratesLaw" (90 : Nat) ({ cls := "LuckCrates", name := "thief", desc := "(II)I" } : Jvm.MethodName)) ∈ lw_all := lw_g (lw_at lw_m6 186 rfl) rfl
theorem q1509 : (Jvm.Cond.methodLink "LuckCratesLaw" (227 : Nat) ({ cls := "LuckCratesLaw", name := "row", desc := "(LLuckCrates;III[J)I" } : Jvm.MethodName)) ∈ lw_all := lw_g (lw_at lw_m6 201 rfl) rfl
theorem q1510 : (Jvm.Cond.static ({ cls := "LuckCratesLaw", name := "row", desc := "(LLuckCrates;III[J)I" } : Jvm.MethodName)) ∈ lw_all := lw_g (lw_at lw_m6 202 rfl) rfl
theorem q1511 : (Jvm.Cond.codeWith ({ cls := "LuckCratesLaw", name := "row", desc := "(LLuckCrates;III[J)I" } : Jvm.MethodName) method_28_code (6 : Nat) (Option.some Jvm.ClassFile.FieldType.int) [((0 : Nat), (12 : Nat), (15 : Nat), (18 : Nat))]) ∈ lw_all := lw_g (lw_at lw_m6 203 rfl) rfl
theorem q1512 : (Jvm.Cond.methodLink "LuckCratesLaw" (93 : Nat) ({ cls := "LuckCrates", name := "row", desc := "(III)I" } : Jvm.MethodName)) ∈ lw_all := lw_g (lw_at lw_m6 204 rfl) rfl
theorem q1520 : (Jvm.Cond.methodLink "LuckCratesLaw" (234 : Nat) ({ cls := "LuckCratesLaw", name := "bridge", desc := "(LLuckCrates;I[J)I" } : Jvm.MethodName)) ∈ lw_all := lw_g (lw_at lw_m6 212 rfl) rfl
theorem q1521 : (Jvm.Cond.static ({ cls := "LuckCratesLaw", name := "bridge", desc := "(LLuckCrates;I[J)I" } : Jvm.MethodName)) ∈ lw_all := lw_g (lw_at lw_m6 213 rfl) rfl
theorem q1522 : (Jvm.Cond.codeWith ({ cls := "LuckCratesLaw", name := "bridge", desc := "(LLuckCrates;I[J)I" } : Jvm.MethodName) method_29_code (4 : Nat) (Option.some Jvm.ClassFile.FieldType.int) [((0 : Nat), (16 : Nat), (19 : Nat), (18 : Nat))]) ∈ lw_all := lw_g (lw_at lw_m6 214 rfl) rfl
theorem q1523 : (Jvm.Cond.methodLink "LuckCratesLaw" (96 : Nat) ({ cls := "LuckCrates", name := "bridge", desc := "(I)Z" } : Jvm.MethodName)) ∈ lw_all := lw_g (lw_at lw_m6 215 rfl) rfl
theorem q1528 : (Jvm.Cond.methodLink "LuckCratesLaw" (237 : Nat) ({ cls := "LuckCratesLaw", name := "streak", desc := "(LLuckCrates;II[J)I" } : Jvm.MethodName)) ∈ lw_all := lw_g (lw_at lw_m6 220 rfl) rfl
theorem q1529 : (Jvm.Cond.static ({ cls := "LuckCratesLaw", name := "streak", desc := "(LLuckCrates;II[J)I" } : Jvm.MethodName)) ∈ lw_all := lw_g (lw_at lw_m6 221 rfl) rfl
theorem q1530 : (Jvm.Cond.codeWith ({ cls := "LuckCratesLaw", name := "streak", desc := "(LLuckCrates;II[J)I" } : Jvm.MethodName) method_30_code (5 : Nat) (Option.some Jvm.ClassFile.FieldType.int) [((0 : Nat), (10 : Nat), (13 : Nat), (18 : Nat)), ((0 : Nat), (10 : Nat), (17 : Nat), (13 : Nat))]) ∈ lw_all := lw_g (lw_at lw_m6 222 rfl) rfl
theorem q1531 : (Jvm.Cond.methodLink "LuckCratesLaw" (100 : Nat) ({ cls := "LuckCrates", name := "streak", desc := "(II)I" } : Jvm.MethodName)) ∈ lw_all := lw_g (lw_at lw_m6 223 rfl) rfl
theorem q1535 : (Jvm.Cond.methodLink "LuckCratesLaw" (240 : Nat) ({ cls := "LuckCratesLaw", name := "day", desc := "(LLuckCrates;II[J)I" } : Jvm.MethodName)) ∈ lw_all := lw_g (lw_at lw_m6 227 rfl) rfl
theorem q1536 : (Jvm.Cond.static ({ cls := "LuckCratesLaw", name := "day", desc := "(LLuckCrates;II[J)I" } : Jvm.MethodName)) ∈ lw_all := lw_g (lw_at lw_m6 228 rfl) rfl
theorem q1537 : (Jvm.Cond.codeWith ({ cls := "LuckCratesLaw", name := "day", desc := "(LLuckCrates;II[J)I" } : Jvm.MethodName) method_31_code (5 : Nat) (Option.some Jvm.ClassFile.FieldType.int) [((0 : Nat), (10 : Nat), (13 : Nat), (18 : Nat)), ((0 : Nat), (10 : Nat), (17 : Nat), (13 : Nat))]) ∈ lw_all := lw_g (lw_at lw_m6 229 rfl) rfl
theorem q1538 : (Jvm.Cond.methodLink "LuckCratesLaw" (103 : Nat) ({ cls := "LuckCrates", name := "day", desc := "(II)I" } : Jvm.MethodName)) ∈ lw_all := lw_g (lw_at lw_m6 230 rfl) rfl
theorem q1542 : (Jvm.Cond.methodLink "LuckCratesLaw" (243 : Nat) ({ cls := "LuckCratesLaw", name := "level", desc := "(LLuckCrates;I[J)I" } : Jvm.MethodName)) ∈ lw_all := lw_g (lw_at lw_m6 234 rfl) rfl
theorem q1543 : (Jvm.Cond.static ({ cls := "LuckCratesLaw", name := "level", desc := "(LLuckCrates;I[J)I" } : Jvm.MethodName)) ∈ lw_all := lw_g (lw_at lw_m6 235 rfl) rfl
theorem q1544 : (Jvm.Cond.codeWith ({ cls := "LuckCratesLaw", name := "level", desc := "(LLuckCrates;I[J)I" } : Jvm.MethodName) method_32_code (4 : Nat) (Option.some Jvm.ClassFile.FieldType.int) [((0 : Nat), (9 : Nat), (12 : Nat), (18 : Nat))]) ∈ lw_all := lw_g (lw_at lw_m6 236 rfl) rfl
theorem q1545 : (Jvm.Cond.methodLink "LuckCratesLaw" (106 : Nat) ({ cls := "LuckCrates", name := "level", desc := "(I)I" } : Jvm.MethodName)) ∈ lw_all := lw_g (lw_at lw_m6 237 rfl) rfl
theorem q1553 : (Jvm.Cond.methodLink "LuckCratesLaw" (246 : Nat) ({ cls := "LuckCratesLaw", name := "lend", desc := "(LLuckCrates;I[J)I" } : Jvm.MethodName)) ∈ lw_all := lw_g (lw_at lw_m7 5 rfl) rfl
theorem q1554 : (Jvm.Cond.static ({ cls := "LuckCratesLaw", name := "lend", desc := "(LLuckCrates;I[J)I" } : Jvm.MethodName)) ∈ lw_all := lw_g (lw_at lw_m7 6 rfl) rfl
theorem q1555 : (Jvm.Cond.codeWith ({ cls := "LuckCratesLaw", name := "lend", desc := "(LLuckCrates;I[J)I" } : Jvm.MethodName) method_33_code (4 : Nat) (Option.some Jvm.ClassFile.FieldType.int) [((0 : Nat), (9 : Nat), (12 : Nat), (18 : Nat))]) ∈ lw_all := lw_g (lw_at lw_m7 7 rfl) rfl
theorem q1556 : (Jvm.Cond.methodLink "LuckCratesLaw" (109 : Nat) ({ cls := "LuckCrates", name := "lend", desc := "(I)I" } : Jvm.MethodName)) ∈ lw_all := lw_g (lw_at lw_m7 8 rfl) rfl
theorem q1560 : (Jvm.Cond.classLink "LuckCratesLaw" (113 : Nat) "LuckCratesModel") ∈ lw_all := lw_g (lw_at lw_m7 12 rfl) rfl
theorem q1562 : (Jvm.Cond.methodLink "LuckCratesLaw" (115 : Nat) ({ cls := "LuckCratesModel", name := "<init>", desc := "()V" } : Jvm.MethodName)) ∈ lw_all := lw_g (lw_at lw_m7 14 rfl) rfl
theorem q1757 : (Jvm.Cond.methodLink "LuckCratesLaw" (127 : Nat) ({ cls := "LuckCratesModel", name := "thrown", desc := "()I" } : Jvm.MethodName)) ∈ lw_all := lw_g (lw_at lw_m7 209 rfl) rfl
theorem q1761 : (Jvm.Cond.methodLink "LuckCratesLaw" (120 : Nat) ({ cls := "LuckCratesModel", name := "feed", desc := "(IIIII)I" } : Jvm.MethodName)) ∈ lw_all := lw_g (lw_at lw_m7 213 rfl) rfl
theorem q1769 : (Jvm.Cond.methodLink "LuckCratesLaw" (126 : Nat) ({ cls := "LuckCratesModel", name := "province", desc := "(I)I" } : Jvm.MethodName)) ∈ lw_all := lw_g (lw_at lw_m7 221 rfl) rfl
theorem q1896 : (Jvm.Cond.methodLink "LuckCratesLaw" (134 : Nat) ({ cls := "LuckCratesModel", name := "fault", desc := "()I" } : Jvm.MethodName)) ∈ lw_all := lw_g (lw_at lw_m8 108 rfl) rfl
theorem q1900 : (Jvm.Cond.methodLink "LuckCratesLaw" (165 : Nat) ({ cls := "LuckCratesModel", name := "undo", desc := "()I" } : Jvm.MethodName)) ∈ lw_all := lw_g (lw_at lw_m8 112 rfl) rfl
theorem q1904 : (Jvm.Cond.methodLink "LuckCratesLaw" (137 : Nat) ({ cls := "LuckCratesModel", name := "count", desc := "(I)I" } : Jvm.MethodName)) ∈ lw_all := lw_g (lw_at lw_m8 116 rfl) rfl
theorem q1931 : (Jvm.Cond.methodLink "LuckCratesLaw" (141 : Nat) ({ cls := "LuckCratesModel", name := "town", desc := "(II)I" } : Jvm.MethodName)) ∈ lw_all := lw_g (lw_at lw_m8 143 rfl) rfl
theorem q1964 : (Jvm.Cond.methodLink "LuckCratesLaw" (144 : Nat) ({ cls := "LuckCratesModel", name := "crate", desc := "(II)I" } : Jvm.MethodName)) ∈ lw_all := lw_g (lw_at lw_m8 176 rfl) rfl
theorem q1972 : (Jvm.Cond.methodLink "LuckCratesLaw" (148 : Nat) ({ cls := "LuckCratesModel", name := "days", desc := "(I)I" } : Jvm.MethodName)) ∈ lw_all := lw_g (lw_at lw_m8 184 rfl) rfl
theorem q2003 : (Jvm.Cond.methodLink "LuckCratesLaw" (151 : Nat) ({ cls := "LuckCratesModel", name := "send", desc := "(II)I" } : Jvm.MethodName)) ∈ lw_all := lw_g (lw_at lw_m8 215 rfl) rfl
theorem q2015 : (Jvm.Cond.methodLink "LuckCratesLaw" (154 : Nat) ({ cls := "LuckCratesModel", name := "open", desc := "(I)I" } : Jvm.MethodName)) ∈ lw_all := lw_g (lw_at lw_m8 227 rfl) rfl
theorem q2023 : (Jvm.Cond.methodLink "LuckCratesLaw" (158 : Nat) ({ cls := "LuckCratesModel", name := "cat", desc := "(IZ)Z" } : Jvm.MethodName)) ∈ lw_all := lw_g (lw_at lw_m8 235 rfl) rfl
theorem q2027 : (Jvm.Cond.methodLink "LuckCratesLaw" (161 : Nat) ({ cls := "LuckCratesModel", name := "mix", desc := "(II)I" } : Jvm.MethodName)) ∈ lw_all := lw_g (lw_at lw_m8 239 rfl) rfl
theorem q2031 : (Jvm.Cond.methodLink "LuckCratesLaw" (169 : Nat) ({ cls := "LuckCratesModel", name := "then", desc := "(III)I" } : Jvm.MethodName)) ∈ lw_all := lw_g (lw_at lw_m9 3 rfl) rfl
theorem q2047 : (Jvm.Cond.methodLink "LuckCratesLaw" (172 : Nat) ({ cls := "LuckCratesModel", name := "even", desc := "(I)I" } : Jvm.MethodName)) ∈ lw_all := lw_g (lw_at lw_m9 19 rfl) rfl
theorem q2051 : (Jvm.Cond.methodLink "LuckCratesLaw" (175 : Nat) ({ cls := "LuckCratesModel", name := "out", desc := "(I)I" } : Jvm.MethodName)) ∈ lw_all := lw_g (lw_at lw_m9 23 rfl) rfl
theorem q2055 : (Jvm.Cond.methodLink "LuckCratesLaw" (178 : Nat) ({ cls := "LuckCratesModel", name := "luckiest", desc := "(I)I" } : Jvm.MethodName)) ∈ lw_all := lw_g (lw_at lw_m9 27 rfl) rfl
theorem q2059 : (Jvm.Cond.methodLink "LuckCratesLaw" (239 : Nat) ({ cls := "LuckCratesModel", name := "streak", desc := "(II)I" } : Jvm.MethodName)) ∈ lw_all := lw_g (lw_at lw_m9 31 rfl) rfl
theorem q2063 : (Jvm.Cond.methodLink "LuckCratesLaw" (242 : Nat) ({ cls := "LuckCratesModel", name := "day", desc := "(II)I" } : Jvm.MethodName)) ∈ lw_all := lw_g (lw_at lw_m9 35 rfl) rfl
theorem q2067 : (Jvm.Cond.methodLink "LuckCratesLaw" (181 : Nat) ({ cls := "LuckCratesModel", name := "far", desc := "(II)I" } : Jvm.MethodName)) ∈ lw_all := lw_g (lw_at lw_m9 39 rfl) rfl
theorem q2079 : (Jvm.Cond.methodLink "LuckCratesLaw" (184 : Nat) ({ cls := "LuckCratesModel", name := "leak", desc := "(II)I" } : Jvm.MethodName)) ∈ lw_all := lw_g (lw_at lw_m9 51 rfl) rfl
theorem q2083 : (Jvm.Cond.methodLink "LuckCratesLaw" (187 : Nat) ({ cls := "LuckCratesModel", name := "sending", desc := "(II)I" } : Jvm.MethodName)) ∈ lw_all := lw_g (lw_at lw_m9 55 rfl) rfl
theorem q2091 : (Jvm.Cond.methodLink "LuckCratesLaw" (229 : Nat) ({ cls := "LuckCratesModel", name := "row", desc := "(III)I" } : Jvm.MethodName)) ∈ lw_all := lw_g (lw_at lw_m9 63 rfl) rfl
theorem q2099 : (Jvm.Cond.methodLink "LuckCratesLaw" (233 : Nat) ({ cls := "LuckCratesModel", name := "hub", desc := "()I" } : Jvm.MethodName)) ∈ lw_all := lw_g (lw_at lw_m9 71 rfl) rfl
theorem q2103 : (Jvm.Cond.methodLink "LuckCratesLaw" (236 : Nat) ({ cls := "LuckCratesModel", name := "bridge", desc := "(I)Z" } : Jvm.MethodName)) ∈ lw_all := lw_g (lw_at lw_m9 75 rfl) rfl
theorem q2107 : (Jvm.Cond.methodLink "LuckCratesLaw" (252 : Nat) ({ cls := "LuckCratesModel", name := "spoilt", desc := "()I" } : Jvm.MethodName)) ∈ lw_all := lw_g (lw_at lw_m9 79 rfl) rfl
theorem q2111 : (Jvm.Cond.methodLink "LuckCratesLaw" (190 : Nat) ({ cls := "LuckCratesModel", name := "hold", desc := "(II)I" } : Jvm.MethodName)) ∈ lw_all := lw_g (lw_at lw_m9 83 rfl) rfl
theorem q2123 : (Jvm.Cond.methodLink "LuckCratesLaw" (194 : Nat) ({ cls := "LuckCratesModel", name := "thrower", desc := "(IIII)I" } : Jvm.MethodName)) ∈ lw_all := lw_g (lw_at lw_m9 95 rfl) rfl
theorem q2130 : (Jvm.Cond.methodLink "LuckCratesLaw" (197 : Nat) ({ cls := "LuckCratesModel", name := "stop", desc := "(IIII)I" } : Jvm.MethodName)) ∈ lw_all := lw_g (lw_at lw_m9 102 rfl) rfl
theorem q2134 : (Jvm.Cond.methodLink "LuckCratesLaw" (200 : Nat) ({ cls := "LuckCratesModel", name := "see", desc := "(III)I" } : Jvm.MethodName)) ∈ lw_all := lw_g (lw_at lw_m9 106 rfl) rfl
theorem q2138 : (Jvm.Cond.methodLink "LuckCratesLaw" (204 : Nat) ({ cls := "LuckCratesModel", name := "forget", desc := "()V" } : Jvm.MethodName)) ∈ lw_all := lw_g (lw_at lw_m9 110 rfl) rfl
theorem q2142 : (Jvm.Cond.methodLink "LuckCratesLaw" (207 : Nat) ({ cls := "LuckCratesModel", name := "opened", desc := "(I)I" } : Jvm.MethodName)) ∈ lw_all := lw_g (lw_at lw_m9 114 rfl) rfl
theorem q2154 : (Jvm.Cond.methodLink "LuckCratesLaw" (210 : Nat) ({ cls := "LuckCratesModel", name := "next", desc := "(I)I" } : Jvm.MethodName)) ∈ lw_all := lw_g (lw_at lw_m9 126 rfl) rfl
theorem q2162 : (Jvm.Cond.methodLink "LuckCratesLaw" (213 : Nat) ({ cls := "LuckCratesModel", name := "pooled", desc := "(I)I" } : Jvm.MethodName)) ∈ lw_all := lw_g (lw_at lw_m9 134 rfl) rfl
theorem q2166 : (Jvm.Cond.methodLink "LuckCratesLaw" (217 : Nat) ({ cls := "LuckCratesModel", name := "missed", desc := "()I" } : Jvm.MethodName)) ∈ lw_all := lw_g (lw_at lw_m9 138 rfl) rfl
theorem q2170 : (Jvm.Cond.methodLink "LuckCratesLaw" (220 : Nat) ({ cls := "LuckCratesModel", name := "game", desc := "(III)I" } : Jvm.MethodName)) ∈ lw_all := lw_g (lw_at lw_m9 142 rfl) rfl
theorem q2178 : (Jvm.Cond.methodLink "LuckCratesLaw" (223 : Nat) ({ cls := "LuckCratesModel", name := "years", desc := "(III)I" } : Jvm.MethodName)) ∈ lw_all := lw_g (lw_at lw_m9 150 rfl) rfl
theorem q2191 : (Jvm.Cond.methodLink "LuckCratesLaw" (226 : Nat) ({ cls := "LuckCratesModel", name := "thief", desc := "(II)I" } : Jvm.MethodName)) ∈ lw_all := lw_g (lw_at lw_m9 163 rfl) rfl
theorem q2199 : (Jvm.Cond.methodLink "LuckCratesLaw" (245 : Nat) ({ cls := "LuckCratesModel", name := "level", desc := "(I)I" } : Jvm.MethodName)) ∈ lw_all := lw_g (lw_at lw_m9 171 rfl) rfl
theorem q2207 : (Jvm.Cond.methodLink "LuckCratesLaw" (248 : Nat) ({ cls := "LuckCratesModel", name := "lend", desc := "(I)I" } : Jvm.MethodName)) ∈ lw_all := lw_g (lw_at lw_m9 179 rfl) rfl
theorem q2211 : (Jvm.Cond.methodLink "LuckCratesLaw" (256 : Nat) ({ cls := "LuckCratesModel", name := "image", desc := "()V" } : Jvm.MethodName)) ∈ lw_all := lw_g (lw_at lw_m9 183 rfl) rfl
theorem q2215 : (Jvm.Cond.methodLink "LuckCratesLaw" (261 : Nat) ({ cls := "LuckCratesModel", name := "restore", desc := "()Z" } : Jvm.MethodName)) ∈ lw_all := lw_g (lw_at lw_m9 187 rfl) rfl
