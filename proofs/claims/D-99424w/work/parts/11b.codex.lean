set_option maxRecDepth 100000
/-! X5 LuckCrates$Reader -/
abbrev cX5_init : ByteArray := prog_8_method_1_code
def yX5_init : MethodName := ⟨RX5, "<init>", "(LLuckCrates;I)V"⟩
def dkwX5_init_3 : List UInt8 := [181, 0, 45, 42, 28, 181, 0, 49, 177]
abbrev dktX5_init_3 : List UInt8 := dkwX5_init_3 ++ []
def dkwX5_init_2 : List UInt8 := [18, 35, 83, 89, 5, 18, 37, 83, 89, 6, 18, 39, 83, 89, 7, 18, 41, 83, 89, 8, 18, 43, 83]
abbrev dktX5_init_2 : List UInt8 := dkwX5_init_2 ++ dktX5_init_3
def dkwX5_init_1 : List UInt8 := [89, 42, 180, 0, 3, 183, 0, 24, 181, 0, 27, 42, 16, 6, 189, 0, 31, 89, 3, 18, 33, 83, 89, 4]
abbrev dktX5_init_1 : List UInt8 := dkwX5_init_1 ++ dktX5_init_2
def dkwX5_init_0 : List UInt8 := [42, 43, 181, 0, 3, 42, 183, 0, 9, 42, 187, 0, 15, 89, 183, 0, 17, 181, 0, 18, 42, 187, 0, 22]
abbrev dktX5_init_0 : List UInt8 := dkwX5_init_0 ++ dktX5_init_1
theorem dksX5_init_0 : cX5_init.data.toList.drop 0 = dktX5_init_0 := by decide +kernel
theorem dksX5_init_1 : cX5_init.data.toList.drop 24 = dktX5_init_1 := dk_seg dksX5_init_0 24 rfl rfl
theorem dksX5_init_2 : cX5_init.data.toList.drop 48 = dktX5_init_2 := dk_seg dksX5_init_1 24 rfl rfl
theorem dksX5_init_3 : cX5_init.data.toList.drop 71 = dktX5_init_3 := dk_seg dksX5_init_2 23 rfl rfl
theorem dX5_init_0 : decode cX5_init 0 = .ok (.aload_n 0, 1) := dk_42 (dk_at dksX5_init_0 0 rfl rfl)
theorem dX5_init_1 : decode cX5_init 1 = .ok (.aload_n 1, 1) := dk_43 (dk_at dksX5_init_0 1 rfl rfl)
theorem dX5_init_2 : decode cX5_init 2 = .ok (.putfield 3, 3) := dk_181 0 3 (dk_at dksX5_init_0 2 rfl rfl)
theorem dX5_init_5 : decode cX5_init 5 = .ok (.aload_n 0, 1) := dk_42 (dk_at dksX5_init_0 5 rfl rfl)
theorem dX5_init_6 : decode cX5_init 6 = .ok (.invokespecial 9, 3) := dk_183 0 9 (dk_at dksX5_init_0 6 rfl rfl)
theorem dX5_init_9 : decode cX5_init 9 = .ok (.aload_n 0, 1) := dk_42 (dk_at dksX5_init_0 9 rfl rfl)
theorem dX5_init_10 : decode cX5_init 10 = .ok (.new 15, 3) := dk_187 0 15 (dk_at dksX5_init_0 10 rfl rfl)
theorem dX5_init_13 : decode cX5_init 13 = .ok (.dup, 1) := dk_89 (dk_at dksX5_init_0 13 rfl rfl)
theorem dX5_init_14 : decode cX5_init 14 = .ok (.invokespecial 17, 3) := dk_183 0 17 (dk_at dksX5_init_0 14 rfl rfl)
theorem dX5_init_17 : decode cX5_init 17 = .ok (.putfield 18, 3) := dk_181 0 18 (dk_at dksX5_init_0 17 rfl rfl)
theorem dX5_init_20 : decode cX5_init 20 = .ok (.aload_n 0, 1) := dk_42 (dk_at dksX5_init_0 20 rfl rfl)
theorem dX5_init_21 : decode cX5_init 21 = .ok (.new 22, 3) := dk_187 0 22 (dk_at dksX5_init_0 21 rfl rfl)
theorem dX5_init_24 : decode cX5_init 24 = .ok (.dup, 1) := dk_89 (dk_at dksX5_init_1 0 rfl rfl)
theorem dX5_init_25 : decode cX5_init 25 = .ok (.aload_n 0, 1) := dk_42 (dk_at dksX5_init_1 1 rfl rfl)
theorem dX5_init_26 : decode cX5_init 26 = .ok (.getfield 3, 3) := dk_180 0 3 (dk_at dksX5_init_1 2 rfl rfl)
theorem dX5_init_29 : decode cX5_init 29 = .ok (.invokespecial 24, 3) := dk_183 0 24 (dk_at dksX5_init_1 5 rfl rfl)
theorem dX5_init_32 : decode cX5_init 32 = .ok (.putfield 27, 3) := dk_181 0 27 (dk_at dksX5_init_1 8 rfl rfl)
theorem dX5_init_35 : decode cX5_init 35 = .ok (.aload_n 0, 1) := dk_42 (dk_at dksX5_init_1 11 rfl rfl)
theorem dX5_init_36 : decode cX5_init 36 = .ok (.bipush 6, 2) := dk_16 6 (dk_at dksX5_init_1 12 rfl rfl)
theorem dX5_init_38 : decode cX5_init 38 = .ok (.anewarray 31, 3) := dk_189 0 31 (dk_at dksX5_init_1 14 rfl rfl)
theorem dX5_init_41 : decode cX5_init 41 = .ok (.dup, 1) := dk_89 (dk_at dksX5_init_1 17 rfl rfl)
theorem dX5_init_42 : decode cX5_init 42 = .ok (.iconst 0, 1) := dk_3 (dk_at dksX5_init_1 18 rfl rfl)
theorem dX5_init_43 : decode cX5_init 43 = .ok (.ldc 33, 2) := dk_18 33 (dk_at dksX5_init_1 19 rfl rfl)
theorem dX5_init_45 : decode cX5_init 45 = .ok (.aastore, 1) := dk_83 (dk_at dksX5_init_1 21 rfl rfl)
theorem dX5_init_46 : decode cX5_init 46 = .ok (.dup, 1) := dk_89 (dk_at dksX5_init_1 22 rfl rfl)
theorem dX5_init_47 : decode cX5_init 47 = .ok (.iconst 1, 1) := dk_4 (dk_at dksX5_init_1 23 rfl rfl)
theorem dX5_init_48 : decode cX5_init 48 = .ok (.ldc 35, 2) := dk_18 35 (dk_at dksX5_init_2 0 rfl rfl)
theorem dX5_init_50 : decode cX5_init 50 = .ok (.aastore, 1) := dk_83 (dk_at dksX5_init_2 2 rfl rfl)
theorem dX5_init_51 : decode cX5_init 51 = .ok (.dup, 1) := dk_89 (dk_at dksX5_init_2 3 rfl rfl)
theorem dX5_init_52 : decode cX5_init 52 = .ok (.iconst 2, 1) := dk_5 (dk_at dksX5_init_2 4 rfl rfl)
theorem dX5_init_53 : decode cX5_init 53 = .ok (.ldc 37, 2) := dk_18 37 (dk_at dksX5_init_2 5 rfl rfl)
theorem dX5_init_55 : decode cX5_init 55 = .ok (.aastore, 1) := dk_83 (dk_at dksX5_init_2 7 rfl rfl)
theorem dX5_init_56 : decode cX5_init 56 = .ok (.dup, 1) := dk_89 (dk_at dksX5_init_2 8 rfl rfl)
theorem dX5_init_57 : decode cX5_init 57 = .ok (.iconst 3, 1) := dk_6 (dk_at dksX5_init_2 9 rfl rfl)
theorem dX5_init_58 : decode cX5_init 58 = .ok (.ldc 39, 2) := dk_18 39 (dk_at dksX5_init_2 10 rfl rfl)
theorem dX5_init_60 : decode cX5_init 60 = .ok (.aastore, 1) := dk_83 (dk_at dksX5_init_2 12 rfl rfl)
theorem dX5_init_61 : decode cX5_init 61 = .ok (.dup, 1) := dk_89 (dk_at dksX5_init_2 13 rfl rfl)
theorem dX5_init_62 : decode cX5_init 62 = .ok (.iconst 4, 1) := dk_7 (dk_at dksX5_init_2 14 rfl rfl)
theorem dX5_init_63 : decode cX5_init 63 = .ok (.ldc 41, 2) := dk_18 41 (dk_at dksX5_init_2 15 rfl rfl)
theorem dX5_init_65 : decode cX5_init 65 = .ok (.aastore, 1) := dk_83 (dk_at dksX5_init_2 17 rfl rfl)
theorem dX5_init_66 : decode cX5_init 66 = .ok (.dup, 1) := dk_89 (dk_at dksX5_init_2 18 rfl rfl)
theorem dX5_init_67 : decode cX5_init 67 = .ok (.iconst 5, 1) := dk_8 (dk_at dksX5_init_2 19 rfl rfl)
theorem dX5_init_68 : decode cX5_init 68 = .ok (.ldc 43, 2) := dk_18 43 (dk_at dksX5_init_2 20 rfl rfl)
theorem dX5_init_70 : decode cX5_init 70 = .ok (.aastore, 1) := dk_83 (dk_at dksX5_init_2 22 rfl rfl)
theorem dX5_init_71 : decode cX5_init 71 = .ok (.putfield 45, 3) := dk_181 0 45 (dk_at dksX5_init_3 0 rfl rfl)
theorem dX5_init_74 : decode cX5_init 74 = .ok (.aload_n 0, 1) := dk_42 (dk_at dksX5_init_3 3 rfl rfl)
theorem dX5_init_75 : decode cX5_init 75 = .ok (.iload_n 2, 1) := dk_28 (dk_at dksX5_init_3 4 rfl rfl)
theorem dX5_init_76 : decode cX5_init 76 = .ok (.putfield 49, 3) := dk_181 0 49 (dk_at dksX5_init_3 5 rfl rfl)
theorem dX5_init_79 : decode cX5_init 79 = .ok (.return_, 1) := dk_177 (dk_at dksX5_init_3 8 rfl rfl)
abbrev cX5_read : ByteArray := prog_8_method_25_code
def yX5_read : MethodName := ⟨RX5, "read", "()LLuckCrates$Province;"⟩
def dkwX5_read_2 : List UInt8 := [167, 255, 237, 42, 180, 0, 18, 176]
abbrev dktX5_read_2 : List UInt8 := dkwX5_read_2 ++ []
def dkwX5_read_1 : List UInt8 := [180, 0, 230, 60, 27, 16, 10, 162, 0, 19, 42, 180, 0, 27, 180, 0, 238, 27, 2, 79, 132, 1, 1]
abbrev dktX5_read_1 : List UInt8 := dkwX5_read_1 ++ dktX5_read_2
def dkwX5_read_0 : List UInt8 := [42, 182, 0, 111, 42, 180, 0, 71, 153, 0, 10, 42, 182, 1, 8, 167, 255, 245, 42, 180, 0, 18]
abbrev dktX5_read_0 : List UInt8 := dkwX5_read_0 ++ dktX5_read_1
theorem dksX5_read_0 : cX5_read.data.toList.drop 0 = dktX5_read_0 := by decide +kernel
theorem dksX5_read_1 : cX5_read.data.toList.drop 22 = dktX5_read_1 := dk_seg dksX5_read_0 22 rfl rfl
theorem dksX5_read_2 : cX5_read.data.toList.drop 45 = dktX5_read_2 := dk_seg dksX5_read_1 23 rfl rfl
theorem dX5_read_0 : decode cX5_read 0 = .ok (.aload_n 0, 1) := dk_42 (dk_at dksX5_read_0 0 rfl rfl)
theorem dX5_read_1 : decode cX5_read 1 = .ok (.invokevirtual 111, 3) := dk_182 0 111 (dk_at dksX5_read_0 1 rfl rfl)
theorem dX5_read_4 : decode cX5_read 4 = .ok (.aload_n 0, 1) := dk_42 (dk_at dksX5_read_0 4 rfl rfl)
theorem dX5_read_5 : decode cX5_read 5 = .ok (.getfield 71, 3) := dk_180 0 71 (dk_at dksX5_read_0 5 rfl rfl)
theorem dX5_read_8 : decode cX5_read 8 = .ok (.ifCond .eq 10, 3) := dk_153 0 10 (dk_at dksX5_read_0 8 rfl rfl)
theorem dX5_read_11 : decode cX5_read 11 = .ok (.aload_n 0, 1) := dk_42 (dk_at dksX5_read_0 11 rfl rfl)
theorem dX5_read_12 : decode cX5_read 12 = .ok (.invokevirtual 264, 3) := dk_182 1 8 (dk_at dksX5_read_0 12 rfl rfl)
theorem dX5_read_15 : decode cX5_read 15 = .ok (.goto (-11), 3) := dk_167 255 245 (dk_at dksX5_read_0 15 rfl rfl)
theorem dX5_read_18 : decode cX5_read 18 = .ok (.aload_n 0, 1) := dk_42 (dk_at dksX5_read_0 18 rfl rfl)
theorem dX5_read_19 : decode cX5_read 19 = .ok (.getfield 18, 3) := dk_180 0 18 (dk_at dksX5_read_0 19 rfl rfl)
theorem dX5_read_22 : decode cX5_read 22 = .ok (.getfield 230, 3) := dk_180 0 230 (dk_at dksX5_read_1 0 rfl rfl)
theorem dX5_read_25 : decode cX5_read 25 = .ok (.istore_n 1, 1) := dk_60 (dk_at dksX5_read_1 3 rfl rfl)
theorem dX5_read_26 : decode cX5_read 26 = .ok (.iload_n 1, 1) := dk_27 (dk_at dksX5_read_1 4 rfl rfl)
theorem dX5_read_27 : decode cX5_read 27 = .ok (.bipush 10, 2) := dk_16 10 (dk_at dksX5_read_1 5 rfl rfl)
theorem dX5_read_29 : decode cX5_read 29 = .ok (.if_icmp .ge 19, 3) := dk_162 0 19 (dk_at dksX5_read_1 7 rfl rfl)
theorem dX5_read_32 : decode cX5_read 32 = .ok (.aload_n 0, 1) := dk_42 (dk_at dksX5_read_1 10 rfl rfl)
theorem dX5_read_33 : decode cX5_read 33 = .ok (.getfield 27, 3) := dk_180 0 27 (dk_at dksX5_read_1 11 rfl rfl)
theorem dX5_read_36 : decode cX5_read 36 = .ok (.getfield 238, 3) := dk_180 0 238 (dk_at dksX5_read_1 14 rfl rfl)
theorem dX5_read_39 : decode cX5_read 39 = .ok (.iload_n 1, 1) := dk_27 (dk_at dksX5_read_1 17 rfl rfl)
theorem dX5_read_40 : decode cX5_read 40 = .ok (.iconst (-1), 1) := dk_2 (dk_at dksX5_read_1 18 rfl rfl)
theorem dX5_read_41 : decode cX5_read 41 = .ok (.iastore, 1) := dk_79 (dk_at dksX5_read_1 19 rfl rfl)
theorem dX5_read_42 : decode cX5_read 42 = .ok (.iinc 1 1, 3) := dk_132 1 1 (dk_at dksX5_read_1 20 rfl rfl)
theorem dX5_read_45 : decode cX5_read 45 = .ok (.goto (-19), 3) := dk_167 255 237 (dk_at dksX5_read_2 0 rfl rfl)
theorem dX5_read_48 : decode cX5_read 48 = .ok (.aload_n 0, 1) := dk_42 (dk_at dksX5_read_2 3 rfl rfl)
theorem dX5_read_49 : decode cX5_read 49 = .ok (.getfield 18, 3) := dk_180 0 18 (dk_at dksX5_read_2 4 rfl rfl)
theorem dX5_read_52 : decode cX5_read 52 = .ok (.areturn, 1) := dk_176 (dk_at dksX5_read_2 7 rfl rfl)
abbrev cX5_next : ByteArray := prog_8_method_5_code
def yX5_next : MethodName := ⟨RX5, "next", "()V"⟩
def dkwX5_next_8 : List UInt8 := [180, 0, 53, 181, 0, 97, 177]
abbrev dktX5_next_8 : List UInt8 := dkwX5_next_8 ++ []
def dkwX5_next_7 : List UInt8 := [155, 0, 7, 6, 167, 0, 4, 7, 181, 0, 71, 42, 89, 180, 0, 53, 4, 96, 181, 0, 53, 42, 42]
abbrev dktX5_next_7 : List UInt8 := dkwX5_next_7 ++ dktX5_next_8
def dkwX5_next_6 : List UInt8 := [181, 0, 53, 167, 255, 215, 42, 5, 181, 0, 71, 167, 0, 34, 42, 18, 91, 42, 182, 0, 60, 182, 0, 93]
abbrev dktX5_next_6 : List UInt8 := dkwX5_next_6 ++ dktX5_next_7
def dkwX5_next_5 : List UInt8 := [104, 42, 182, 0, 60, 96, 16, 48, 100, 184, 0, 85, 181, 0, 81, 42, 89, 180, 0, 53, 4, 96]
abbrev dktX5_next_5 : List UInt8 := dkwX5_next_5 ++ dktX5_next_6
def dkwX5_next_4 : List UInt8 := [153, 0, 60, 42, 3, 181, 0, 81, 42, 182, 0, 78, 153, 0, 40, 42, 18, 84, 16, 10, 42, 180, 0, 81]
abbrev dktX5_next_4 : List UInt8 := dkwX5_next_4 ++ dktX5_next_5
def dkwX5_next_3 : List UInt8 := [180, 0, 53, 4, 96, 181, 0, 53, 167, 255, 239, 42, 4, 181, 0, 71, 167, 0, 98, 42, 182, 0, 78]
abbrev dktX5_next_3 : List UInt8 := dkwX5_next_3 ++ dktX5_next_4
def dkwX5_next_2 : List UInt8 := [3, 181, 0, 71, 167, 0, 133, 42, 182, 0, 74, 153, 0, 31, 42, 182, 0, 74, 153, 0, 16, 42, 89]
abbrev dktX5_next_2 : List UInt8 := dkwX5_next_2 ++ dktX5_next_3
def dkwX5_next_1 : List UInt8 := [96, 181, 0, 53, 167, 255, 228, 42, 42, 180, 0, 53, 181, 0, 68, 42, 182, 0, 60, 2, 160, 0, 11, 42]
abbrev dktX5_next_1 : List UInt8 := dkwX5_next_1 ++ dktX5_next_2
def dkwX5_next_0 : List UInt8 := [42, 182, 0, 60, 16, 32, 159, 0, 12, 42, 182, 0, 60, 16, 10, 160, 0, 16, 42, 89, 180, 0, 53, 4]
abbrev dktX5_next_0 : List UInt8 := dkwX5_next_0 ++ dktX5_next_1
theorem dksX5_next_0 : cX5_next.data.toList.drop 0 = dktX5_next_0 := by decide +kernel
theorem dksX5_next_1 : cX5_next.data.toList.drop 24 = dktX5_next_1 := dk_seg dksX5_next_0 24 rfl rfl
theorem dksX5_next_2 : cX5_next.data.toList.drop 48 = dktX5_next_2 := dk_seg dksX5_next_1 24 rfl rfl
theorem dksX5_next_3 : cX5_next.data.toList.drop 71 = dktX5_next_3 := dk_seg dksX5_next_2 23 rfl rfl
theorem dksX5_next_4 : cX5_next.data.toList.drop 94 = dktX5_next_4 := dk_seg dksX5_next_3 23 rfl rfl
theorem dksX5_next_5 : cX5_next.data.toList.drop 118 = dktX5_next_5 := dk_seg dksX5_next_4 24 rfl rfl
theorem dksX5_next_6 : cX5_next.data.toList.drop 140 = dktX5_next_6 := dk_seg dksX5_next_5 22 rfl rfl
theorem dksX5_next_7 : cX5_next.data.toList.drop 164 = dktX5_next_7 := dk_seg dksX5_next_6 24 rfl rfl
theorem dksX5_next_8 : cX5_next.data.toList.drop 187 = dktX5_next_8 := dk_seg dksX5_next_7 23 rfl rfl
theorem dX5_next_0 : decode cX5_next 0 = .ok (.aload_n 0, 1) := dk_42 (dk_at dksX5_next_0 0 rfl rfl)
theorem dX5_next_1 : decode cX5_next 1 = .ok (.invokevirtual 60, 3) := dk_182 0 60 (dk_at dksX5_next_0 1 rfl rfl)
theorem dX5_next_4 : decode cX5_next 4 = .ok (.bipush 32, 2) := dk_16 32 (dk_at dksX5_next_0 4 rfl rfl)
theorem dX5_next_6 : decode cX5_next 6 = .ok (.if_icmp .eq 12, 3) := dk_159 0 12 (dk_at dksX5_next_0 6 rfl rfl)
theorem dX5_next_9 : decode cX5_next 9 = .ok (.aload_n 0, 1) := dk_42 (dk_at dksX5_next_0 9 rfl rfl)
theorem dX5_next_10 : decode cX5_next 10 = .ok (.invokevirtual 60, 3) := dk_182 0 60 (dk_at dksX5_next_0 10 rfl rfl)
theorem dX5_next_13 : decode cX5_next 13 = .ok (.bipush 10, 2) := dk_16 10 (dk_at dksX5_next_0 13 rfl rfl)
theorem dX5_next_15 : decode cX5_next 15 = .ok (.if_icmp .ne 16, 3) := dk_160 0 16 (dk_at dksX5_next_0 15 rfl rfl)
theorem dX5_next_18 : decode cX5_next 18 = .ok (.aload_n 0, 1) := dk_42 (dk_at dksX5_next_0 18 rfl rfl)
theorem dX5_next_19 : decode cX5_next 19 = .ok (.dup, 1) := dk_89 (dk_at dksX5_next_0 19 rfl rfl)
theorem dX5_next_20 : decode cX5_next 20 = .ok (.getfield 53, 3) := dk_180 0 53 (dk_at dksX5_next_0 20 rfl rfl)
theorem dX5_next_23 : decode cX5_next 23 = .ok (.iconst 1, 1) := dk_4 (dk_at dksX5_next_0 23 rfl rfl)
theorem dX5_next_24 : decode cX5_next 24 = .ok (.iadd, 1) := dk_96 (dk_at dksX5_next_1 0 rfl rfl)
theorem dX5_next_25 : decode cX5_next 25 = .ok (.putfield 53, 3) := dk_181 0 53 (dk_at dksX5_next_1 1 rfl rfl)
theorem dX5_next_28 : decode cX5_next 28 = .ok (.goto (-28), 3) := dk_167 255 228 (dk_at dksX5_next_1 4 rfl rfl)
theorem dX5_next_31 : decode cX5_next 31 = .ok (.aload_n 0, 1) := dk_42 (dk_at dksX5_next_1 7 rfl rfl)
theorem dX5_next_32 : decode cX5_next 32 = .ok (.aload_n 0, 1) := dk_42 (dk_at dksX5_next_1 8 rfl rfl)
theorem dX5_next_33 : decode cX5_next 33 = .ok (.getfield 53, 3) := dk_180 0 53 (dk_at dksX5_next_1 9 rfl rfl)
theorem dX5_next_36 : decode cX5_next 36 = .ok (.putfield 68, 3) := dk_181 0 68 (dk_at dksX5_next_1 12 rfl rfl)
theorem dX5_next_39 : decode cX5_next 39 = .ok (.aload_n 0, 1) := dk_42 (dk_at dksX5_next_1 15 rfl rfl)
theorem dX5_next_40 : decode cX5_next 40 = .ok (.invokevirtual 60, 3) := dk_182 0 60 (dk_at dksX5_next_1 16 rfl rfl)
theorem dX5_next_43 : decode cX5_next 43 = .ok (.iconst (-1), 1) := dk_2 (dk_at dksX5_next_1 19 rfl rfl)
theorem dX5_next_44 : decode cX5_next 44 = .ok (.if_icmp .ne 11, 3) := dk_160 0 11 (dk_at dksX5_next_1 20 rfl rfl)
theorem dX5_next_47 : decode cX5_next 47 = .ok (.aload_n 0, 1) := dk_42 (dk_at dksX5_next_1 23 rfl rfl)
theorem dX5_next_48 : decode cX5_next 48 = .ok (.iconst 0, 1) := dk_3 (dk_at dksX5_next_2 0 rfl rfl)
theorem dX5_next_49 : decode cX5_next 49 = .ok (.putfield 71, 3) := dk_181 0 71 (dk_at dksX5_next_2 1 rfl rfl)
theorem dX5_next_52 : decode cX5_next 52 = .ok (.goto 133, 3) := dk_167 0 133 (dk_at dksX5_next_2 4 rfl rfl)
theorem dX5_next_55 : decode cX5_next 55 = .ok (.aload_n 0, 1) := dk_42 (dk_at dksX5_next_2 7 rfl rfl)
theorem dX5_next_56 : decode cX5_next 56 = .ok (.invokevirtual 74, 3) := dk_182 0 74 (dk_at dksX5_next_2 8 rfl rfl)
theorem dX5_next_59 : decode cX5_next 59 = .ok (.ifCond .eq 31, 3) := dk_153 0 31 (dk_at dksX5_next_2 11 rfl rfl)
theorem dX5_next_62 : decode cX5_next 62 = .ok (.aload_n 0, 1) := dk_42 (dk_at dksX5_next_2 14 rfl rfl)
theorem dX5_next_63 : decode cX5_next 63 = .ok (.invokevirtual 74, 3) := dk_182 0 74 (dk_at dksX5_next_2 15 rfl rfl)
theorem dX5_next_66 : decode cX5_next 66 = .ok (.ifCond .eq 16, 3) := dk_153 0 16 (dk_at dksX5_next_2 18 rfl rfl)
theorem dX5_next_69 : decode cX5_next 69 = .ok (.aload_n 0, 1) := dk_42 (dk_at dksX5_next_2 21 rfl rfl)
theorem dX5_next_70 : decode cX5_next 70 = .ok (.dup, 1) := dk_89 (dk_at dksX5_next_2 22 rfl rfl)
theorem dX5_next_71 : decode cX5_next 71 = .ok (.getfield 53, 3) := dk_180 0 53 (dk_at dksX5_next_3 0 rfl rfl)
theorem dX5_next_74 : decode cX5_next 74 = .ok (.iconst 1, 1) := dk_4 (dk_at dksX5_next_3 3 rfl rfl)
theorem dX5_next_75 : decode cX5_next 75 = .ok (.iadd, 1) := dk_96 (dk_at dksX5_next_3 4 rfl rfl)
theorem dX5_next_76 : decode cX5_next 76 = .ok (.putfield 53, 3) := dk_181 0 53 (dk_at dksX5_next_3 5 rfl rfl)
theorem dX5_next_79 : decode cX5_next 79 = .ok (.goto (-17), 3) := dk_167 255 239 (dk_at dksX5_next_3 8 rfl rfl)
theorem dX5_next_82 : decode cX5_next 82 = .ok (.aload_n 0, 1) := dk_42 (dk_at dksX5_next_3 11 rfl rfl)
theorem dX5_next_83 : decode cX5_next 83 = .ok (.iconst 1, 1) := dk_4 (dk_at dksX5_next_3 12 rfl rfl)
theorem dX5_next_84 : decode cX5_next 84 = .ok (.putfield 71, 3) := dk_181 0 71 (dk_at dksX5_next_3 13 rfl rfl)
theorem dX5_next_87 : decode cX5_next 87 = .ok (.goto 98, 3) := dk_167 0 98 (dk_at dksX5_next_3 16 rfl rfl)
theorem dX5_next_90 : decode cX5_next 90 = .ok (.aload_n 0, 1) := dk_42 (dk_at dksX5_next_3 19 rfl rfl)
theorem dX5_next_91 : decode cX5_next 91 = .ok (.invokevirtual 78, 3) := dk_182 0 78 (dk_at dksX5_next_3 20 rfl rfl)
theorem dX5_next_94 : decode cX5_next 94 = .ok (.ifCond .eq 60, 3) := dk_153 0 60 (dk_at dksX5_next_4 0 rfl rfl)
theorem dX5_next_97 : decode cX5_next 97 = .ok (.aload_n 0, 1) := dk_42 (dk_at dksX5_next_4 3 rfl rfl)
theorem dX5_next_98 : decode cX5_next 98 = .ok (.iconst 0, 1) := dk_3 (dk_at dksX5_next_4 4 rfl rfl)
theorem dX5_next_99 : decode cX5_next 99 = .ok (.putfield 81, 3) := dk_181 0 81 (dk_at dksX5_next_4 5 rfl rfl)
theorem dX5_next_102 : decode cX5_next 102 = .ok (.aload_n 0, 1) := dk_42 (dk_at dksX5_next_4 8 rfl rfl)
theorem dX5_next_103 : decode cX5_next 103 = .ok (.invokevirtual 78, 3) := dk_182 0 78 (dk_at dksX5_next_4 9 rfl rfl)
theorem dX5_next_106 : decode cX5_next 106 = .ok (.ifCond .eq 40, 3) := dk_153 0 40 (dk_at dksX5_next_4 12 rfl rfl)
theorem dX5_next_109 : decode cX5_next 109 = .ok (.aload_n 0, 1) := dk_42 (dk_at dksX5_next_4 15 rfl rfl)
theorem dX5_next_110 : decode cX5_next 110 = .ok (.ldc 84, 2) := dk_18 84 (dk_at dksX5_next_4 16 rfl rfl)
theorem dX5_next_112 : decode cX5_next 112 = .ok (.bipush 10, 2) := dk_16 10 (dk_at dksX5_next_4 18 rfl rfl)
theorem dX5_next_114 : decode cX5_next 114 = .ok (.aload_n 0, 1) := dk_42 (dk_at dksX5_next_4 20 rfl rfl)
theorem dX5_next_115 : decode cX5_next 115 = .ok (.getfield 81, 3) := dk_180 0 81 (dk_at dksX5_next_4 21 rfl rfl)
theorem dX5_next_118 : decode cX5_next 118 = .ok (.imul, 1) := dk_104 (dk_at dksX5_next_5 0 rfl rfl)
theorem dX5_next_119 : decode cX5_next 119 = .ok (.aload_n 0, 1) := dk_42 (dk_at dksX5_next_5 1 rfl rfl)
theorem dX5_next_120 : decode cX5_next 120 = .ok (.invokevirtual 60, 3) := dk_182 0 60 (dk_at dksX5_next_5 2 rfl rfl)
theorem dX5_next_123 : decode cX5_next 123 = .ok (.iadd, 1) := dk_96 (dk_at dksX5_next_5 5 rfl rfl)
theorem dX5_next_124 : decode cX5_next 124 = .ok (.bipush 48, 2) := dk_16 48 (dk_at dksX5_next_5 6 rfl rfl)
theorem dX5_next_126 : decode cX5_next 126 = .ok (.isub, 1) := dk_100 (dk_at dksX5_next_5 8 rfl rfl)
theorem dX5_next_127 : decode cX5_next 127 = .ok (.invokestatic 85, 3) := dk_184 0 85 (dk_at dksX5_next_5 9 rfl rfl)
theorem dX5_next_130 : decode cX5_next 130 = .ok (.putfield 81, 3) := dk_181 0 81 (dk_at dksX5_next_5 12 rfl rfl)
theorem dX5_next_133 : decode cX5_next 133 = .ok (.aload_n 0, 1) := dk_42 (dk_at dksX5_next_5 15 rfl rfl)
theorem dX5_next_134 : decode cX5_next 134 = .ok (.dup, 1) := dk_89 (dk_at dksX5_next_5 16 rfl rfl)
theorem dX5_next_135 : decode cX5_next 135 = .ok (.getfield 53, 3) := dk_180 0 53 (dk_at dksX5_next_5 17 rfl rfl)
theorem dX5_next_138 : decode cX5_next 138 = .ok (.iconst 1, 1) := dk_4 (dk_at dksX5_next_5 20 rfl rfl)
theorem dX5_next_139 : decode cX5_next 139 = .ok (.iadd, 1) := dk_96 (dk_at dksX5_next_5 21 rfl rfl)
theorem dX5_next_140 : decode cX5_next 140 = .ok (.putfield 53, 3) := dk_181 0 53 (dk_at dksX5_next_6 0 rfl rfl)
theorem dX5_next_143 : decode cX5_next 143 = .ok (.goto (-41), 3) := dk_167 255 215 (dk_at dksX5_next_6 3 rfl rfl)
theorem dX5_next_146 : decode cX5_next 146 = .ok (.aload_n 0, 1) := dk_42 (dk_at dksX5_next_6 6 rfl rfl)
theorem dX5_next_147 : decode cX5_next 147 = .ok (.iconst 2, 1) := dk_5 (dk_at dksX5_next_6 7 rfl rfl)
theorem dX5_next_148 : decode cX5_next 148 = .ok (.putfield 71, 3) := dk_181 0 71 (dk_at dksX5_next_6 8 rfl rfl)
theorem dX5_next_151 : decode cX5_next 151 = .ok (.goto 34, 3) := dk_167 0 34 (dk_at dksX5_next_6 11 rfl rfl)
theorem dX5_next_154 : decode cX5_next 154 = .ok (.aload_n 0, 1) := dk_42 (dk_at dksX5_next_6 14 rfl rfl)
theorem dX5_next_155 : decode cX5_next 155 = .ok (.ldc 91, 2) := dk_18 91 (dk_at dksX5_next_6 15 rfl rfl)
theorem dX5_next_157 : decode cX5_next 157 = .ok (.aload_n 0, 1) := dk_42 (dk_at dksX5_next_6 17 rfl rfl)
theorem dX5_next_158 : decode cX5_next 158 = .ok (.invokevirtual 60, 3) := dk_182 0 60 (dk_at dksX5_next_6 18 rfl rfl)
theorem dX5_next_161 : decode cX5_next 161 = .ok (.invokevirtual 93, 3) := dk_182 0 93 (dk_at dksX5_next_6 21 rfl rfl)
theorem dX5_next_164 : decode cX5_next 164 = .ok (.ifCond .lt 7, 3) := dk_155 0 7 (dk_at dksX5_next_7 0 rfl rfl)
theorem dX5_next_167 : decode cX5_next 167 = .ok (.iconst 3, 1) := dk_6 (dk_at dksX5_next_7 3 rfl rfl)
theorem dX5_next_168 : decode cX5_next 168 = .ok (.goto 4, 3) := dk_167 0 4 (dk_at dksX5_next_7 4 rfl rfl)
theorem dX5_next_171 : decode cX5_next 171 = .ok (.iconst 4, 1) := dk_7 (dk_at dksX5_next_7 7 rfl rfl)
theorem dX5_next_172 : decode cX5_next 172 = .ok (.putfield 71, 3) := dk_181 0 71 (dk_at dksX5_next_7 8 rfl rfl)
theorem dX5_next_175 : decode cX5_next 175 = .ok (.aload_n 0, 1) := dk_42 (dk_at dksX5_next_7 11 rfl rfl)
theorem dX5_next_176 : decode cX5_next 176 = .ok (.dup, 1) := dk_89 (dk_at dksX5_next_7 12 rfl rfl)
theorem dX5_next_177 : decode cX5_next 177 = .ok (.getfield 53, 3) := dk_180 0 53 (dk_at dksX5_next_7 13 rfl rfl)
theorem dX5_next_180 : decode cX5_next 180 = .ok (.iconst 1, 1) := dk_4 (dk_at dksX5_next_7 16 rfl rfl)
theorem dX5_next_181 : decode cX5_next 181 = .ok (.iadd, 1) := dk_96 (dk_at dksX5_next_7 17 rfl rfl)
theorem dX5_next_182 : decode cX5_next 182 = .ok (.putfield 53, 3) := dk_181 0 53 (dk_at dksX5_next_7 18 rfl rfl)
theorem dX5_next_185 : decode cX5_next 185 = .ok (.aload_n 0, 1) := dk_42 (dk_at dksX5_next_7 21 rfl rfl)
theorem dX5_next_186 : decode cX5_next 186 = .ok (.aload_n 0, 1) := dk_42 (dk_at dksX5_next_7 22 rfl rfl)
theorem dX5_next_187 : decode cX5_next 187 = .ok (.getfield 53, 3) := dk_180 0 53 (dk_at dksX5_next_8 0 rfl rfl)
theorem dX5_next_190 : decode cX5_next 190 = .ok (.putfield 97, 3) := dk_181 0 97 (dk_at dksX5_next_8 3 rfl rfl)
theorem dX5_next_193 : decode cX5_next 193 = .ok (.return_, 1) := dk_177 (dk_at dksX5_next_8 6 rfl rfl)
abbrev cX5_here : ByteArray := prog_8_method_2_code
def yX5_here : MethodName := ⟨RX5, "here", "()I"⟩
def dkwX5_here_1 : List UInt8 := [17, 0, 255, 126, 167, 0, 4, 2, 172]
abbrev dktX5_here_1 : List UInt8 := dkwX5_here_1 ++ []
def dkwX5_here_0 : List UInt8 := [42, 180, 0, 53, 42, 180, 0, 49, 162, 0, 22, 42, 180, 0, 3, 180, 0, 56, 42, 180, 0, 53, 51]
abbrev dktX5_here_0 : List UInt8 := dkwX5_here_0 ++ dktX5_here_1
theorem dksX5_here_0 : cX5_here.data.toList.drop 0 = dktX5_here_0 := by decide +kernel
theorem dksX5_here_1 : cX5_here.data.toList.drop 23 = dktX5_here_1 := dk_seg dksX5_here_0 23 rfl rfl
theorem dX5_here_0 : decode cX5_here 0 = .ok (.aload_n 0, 1) := dk_42 (dk_at dksX5_here_0 0 rfl rfl)
theorem dX5_here_1 : decode cX5_here 1 = .ok (.getfield 53, 3) := dk_180 0 53 (dk_at dksX5_here_0 1 rfl rfl)
theorem dX5_here_4 : decode cX5_here 4 = .ok (.aload_n 0, 1) := dk_42 (dk_at dksX5_here_0 4 rfl rfl)
theorem dX5_here_5 : decode cX5_here 5 = .ok (.getfield 49, 3) := dk_180 0 49 (dk_at dksX5_here_0 5 rfl rfl)
theorem dX5_here_8 : decode cX5_here 8 = .ok (.if_icmp .ge 22, 3) := dk_162 0 22 (dk_at dksX5_here_0 8 rfl rfl)
theorem dX5_here_11 : decode cX5_here 11 = .ok (.aload_n 0, 1) := dk_42 (dk_at dksX5_here_0 11 rfl rfl)
theorem dX5_here_12 : decode cX5_here 12 = .ok (.getfield 3, 3) := dk_180 0 3 (dk_at dksX5_here_0 12 rfl rfl)
theorem dX5_here_15 : decode cX5_here 15 = .ok (.getfield 56, 3) := dk_180 0 56 (dk_at dksX5_here_0 15 rfl rfl)
theorem dX5_here_18 : decode cX5_here 18 = .ok (.aload_n 0, 1) := dk_42 (dk_at dksX5_here_0 18 rfl rfl)
theorem dX5_here_19 : decode cX5_here 19 = .ok (.getfield 53, 3) := dk_180 0 53 (dk_at dksX5_here_0 19 rfl rfl)
theorem dX5_here_22 : decode cX5_here 22 = .ok (.baload, 1) := dk_51 (dk_at dksX5_here_0 22 rfl rfl)
theorem dX5_here_23 : decode cX5_here 23 = .ok (.sipush 255, 3) := dk_17 0 255 (dk_at dksX5_here_1 0 rfl rfl)
theorem dX5_here_26 : decode cX5_here 26 = .ok (.iand, 1) := dk_126 (dk_at dksX5_here_1 3 rfl rfl)
theorem dX5_here_27 : decode cX5_here 27 = .ok (.goto 4, 3) := dk_167 0 4 (dk_at dksX5_here_1 4 rfl rfl)
theorem dX5_here_30 : decode cX5_here 30 = .ok (.iconst (-1), 1) := dk_2 (dk_at dksX5_here_1 7 rfl rfl)
theorem dX5_here_31 : decode cX5_here 31 = .ok (.ireturn, 1) := dk_172 (dk_at dksX5_here_1 8 rfl rfl)
abbrev cX5_isLetter : ByteArray := prog_8_method_3_code
def yX5_isLetter : MethodName := ⟨RX5, "isLetter", "()Z"⟩
def dkwX5_isLetter_0 : List UInt8 := [42, 182, 0, 60, 16, 97, 16, 122, 184, 0, 64, 172]
abbrev dktX5_isLetter_0 : List UInt8 := dkwX5_isLetter_0 ++ []
theorem dksX5_isLetter_0 : cX5_isLetter.data.toList.drop 0 = dktX5_isLetter_0 := by decide +kernel
theorem dX5_isLetter_0 : decode cX5_isLetter 0 = .ok (.aload_n 0, 1) := dk_42 (dk_at dksX5_isLetter_0 0 rfl rfl)
theorem dX5_isLetter_1 : decode cX5_isLetter 1 = .ok (.invokevirtual 60, 3) := dk_182 0 60 (dk_at dksX5_isLetter_0 1 rfl rfl)
theorem dX5_isLetter_4 : decode cX5_isLetter 4 = .ok (.bipush 97, 2) := dk_16 97 (dk_at dksX5_isLetter_0 4 rfl rfl)
theorem dX5_isLetter_6 : decode cX5_isLetter 6 = .ok (.bipush 122, 2) := dk_16 122 (dk_at dksX5_isLetter_0 6 rfl rfl)
theorem dX5_isLetter_8 : decode cX5_isLetter 8 = .ok (.invokestatic 64, 3) := dk_184 0 64 (dk_at dksX5_isLetter_0 8 rfl rfl)
theorem dX5_isLetter_11 : decode cX5_isLetter 11 = .ok (.ireturn, 1) := dk_172 (dk_at dksX5_isLetter_0 11 rfl rfl)
abbrev cX5_isDigit : ByteArray := prog_8_method_4_code
def yX5_isDigit : MethodName := ⟨RX5, "isDigit", "()Z"⟩
def dkwX5_isDigit_0 : List UInt8 := [42, 182, 0, 60, 16, 48, 16, 57, 184, 0, 64, 172]
abbrev dktX5_isDigit_0 : List UInt8 := dkwX5_isDigit_0 ++ []
theorem dksX5_isDigit_0 : cX5_isDigit.data.toList.drop 0 = dktX5_isDigit_0 := by decide +kernel
theorem dX5_isDigit_0 : decode cX5_isDigit 0 = .ok (.aload_n 0, 1) := dk_42 (dk_at dksX5_isDigit_0 0 rfl rfl)
theorem dX5_isDigit_1 : decode cX5_isDigit 1 = .ok (.invokevirtual 60, 3) := dk_182 0 60 (dk_at dksX5_isDigit_0 1 rfl rfl)
theorem dX5_isDigit_4 : decode cX5_isDigit 4 = .ok (.bipush 48, 2) := dk_16 48 (dk_at dksX5_isDigit_0 4 rfl rfl)
theorem dX5_isDigit_6 : decode cX5_isDigit 6 = .ok (.bipush 57, 2) := dk_16 57 (dk_at dksX5_isDigit_0 6 rfl rfl)
theorem dX5_isDigit_8 : decode cX5_isDigit 8 = .ok (.invokestatic 64, 3) := dk_184 0 64 (dk_at dksX5_isDigit_0 8 rfl rfl)
theorem dX5_isDigit_11 : decode cX5_isDigit 11 = .ok (.ireturn, 1) := dk_172 (dk_at dksX5_isDigit_0 11 rfl rfl)
abbrev cX5_line : ByteArray := prog_8_method_24_code
def yX5_line : MethodName := ⟨RX5, "line", "()V"⟩
def dkwX5_line_5 : List UInt8 := [182, 0, 134, 4, 182, 0, 119, 42, 182, 0, 111, 177]
abbrev dktX5_line_5 : List UInt8 := dkwX5_line_5 ++ []
def dkwX5_line_4 : List UInt8 := [182, 0, 119, 42, 182, 0, 111, 42, 180, 0, 18, 42, 3, 182, 0, 138, 181, 1, 5, 42, 42, 16, 59]
abbrev dktX5_line_4 : List UInt8 := dkwX5_line_4 ++ dktX5_line_5
def dkwX5_line_3 : List UInt8 := [182, 0, 107, 4, 182, 0, 119, 42, 42, 180, 0, 18, 180, 1, 5, 199, 0, 7, 4, 167, 0, 4, 3, 8]
abbrev dktX5_line_3 : List UInt8 := dkwX5_line_3 ++ dktX5_line_4
def dkwX5_line_2 : List UInt8 := [182, 0, 107, 153, 0, 16, 42, 42, 18, 254, 182, 0, 107, 182, 1, 0, 167, 0, 51, 42, 42, 19, 1, 3]
abbrev dktX5_line_2 : List UInt8 := dkwX5_line_2 ++ dktX5_line_3
def dkwX5_line_1 : List UInt8 := [153, 0, 10, 42, 182, 0, 250, 167, 0, 82, 42, 18, 252, 182, 0, 107, 154, 0, 12, 42, 18, 254]
abbrev dktX5_line_1 : List UInt8 := dkwX5_line_1 ++ dktX5_line_2
def dkwX5_line_0 : List UInt8 := [42, 18, 245, 182, 0, 107, 153, 0, 10, 42, 182, 0, 246, 167, 0, 98, 42, 18, 248, 182, 0, 107]
abbrev dktX5_line_0 : List UInt8 := dkwX5_line_0 ++ dktX5_line_1
theorem dksX5_line_0 : cX5_line.data.toList.drop 0 = dktX5_line_0 := by decide +kernel
theorem dksX5_line_1 : cX5_line.data.toList.drop 22 = dktX5_line_1 := dk_seg dksX5_line_0 22 rfl rfl
theorem dksX5_line_2 : cX5_line.data.toList.drop 44 = dktX5_line_2 := dk_seg dksX5_line_1 22 rfl rfl
theorem dksX5_line_3 : cX5_line.data.toList.drop 68 = dktX5_line_3 := dk_seg dksX5_line_2 24 rfl rfl
theorem dksX5_line_4 : cX5_line.data.toList.drop 92 = dktX5_line_4 := dk_seg dksX5_line_3 24 rfl rfl
theorem dksX5_line_5 : cX5_line.data.toList.drop 115 = dktX5_line_5 := dk_seg dksX5_line_4 23 rfl rfl
theorem dX5_line_0 : decode cX5_line 0 = .ok (.aload_n 0, 1) := dk_42 (dk_at dksX5_line_0 0 rfl rfl)
theorem dX5_line_1 : decode cX5_line 1 = .ok (.ldc 245, 2) := dk_18 245 (dk_at dksX5_line_0 1 rfl rfl)
theorem dX5_line_3 : decode cX5_line 3 = .ok (.invokevirtual 107, 3) := dk_182 0 107 (dk_at dksX5_line_0 3 rfl rfl)
theorem dX5_line_6 : decode cX5_line 6 = .ok (.ifCond .eq 10, 3) := dk_153 0 10 (dk_at dksX5_line_0 6 rfl rfl)
theorem dX5_line_9 : decode cX5_line 9 = .ok (.aload_n 0, 1) := dk_42 (dk_at dksX5_line_0 9 rfl rfl)
theorem dX5_line_10 : decode cX5_line 10 = .ok (.invokevirtual 246, 3) := dk_182 0 246 (dk_at dksX5_line_0 10 rfl rfl)
theorem dX5_line_13 : decode cX5_line 13 = .ok (.goto 98, 3) := dk_167 0 98 (dk_at dksX5_line_0 13 rfl rfl)
theorem dX5_line_16 : decode cX5_line 16 = .ok (.aload_n 0, 1) := dk_42 (dk_at dksX5_line_0 16 rfl rfl)
theorem dX5_line_17 : decode cX5_line 17 = .ok (.ldc 248, 2) := dk_18 248 (dk_at dksX5_line_0 17 rfl rfl)
theorem dX5_line_19 : decode cX5_line 19 = .ok (.invokevirtual 107, 3) := dk_182 0 107 (dk_at dksX5_line_0 19 rfl rfl)
theorem dX5_line_22 : decode cX5_line 22 = .ok (.ifCond .eq 10, 3) := dk_153 0 10 (dk_at dksX5_line_1 0 rfl rfl)
theorem dX5_line_25 : decode cX5_line 25 = .ok (.aload_n 0, 1) := dk_42 (dk_at dksX5_line_1 3 rfl rfl)
theorem dX5_line_26 : decode cX5_line 26 = .ok (.invokevirtual 250, 3) := dk_182 0 250 (dk_at dksX5_line_1 4 rfl rfl)
theorem dX5_line_29 : decode cX5_line 29 = .ok (.goto 82, 3) := dk_167 0 82 (dk_at dksX5_line_1 7 rfl rfl)
theorem dX5_line_32 : decode cX5_line 32 = .ok (.aload_n 0, 1) := dk_42 (dk_at dksX5_line_1 10 rfl rfl)
theorem dX5_line_33 : decode cX5_line 33 = .ok (.ldc 252, 2) := dk_18 252 (dk_at dksX5_line_1 11 rfl rfl)
theorem dX5_line_35 : decode cX5_line 35 = .ok (.invokevirtual 107, 3) := dk_182 0 107 (dk_at dksX5_line_1 13 rfl rfl)
theorem dX5_line_38 : decode cX5_line 38 = .ok (.ifCond .ne 12, 3) := dk_154 0 12 (dk_at dksX5_line_1 16 rfl rfl)
theorem dX5_line_41 : decode cX5_line 41 = .ok (.aload_n 0, 1) := dk_42 (dk_at dksX5_line_1 19 rfl rfl)
theorem dX5_line_42 : decode cX5_line 42 = .ok (.ldc 254, 2) := dk_18 254 (dk_at dksX5_line_1 20 rfl rfl)
theorem dX5_line_44 : decode cX5_line 44 = .ok (.invokevirtual 107, 3) := dk_182 0 107 (dk_at dksX5_line_2 0 rfl rfl)
theorem dX5_line_47 : decode cX5_line 47 = .ok (.ifCond .eq 16, 3) := dk_153 0 16 (dk_at dksX5_line_2 3 rfl rfl)
theorem dX5_line_50 : decode cX5_line 50 = .ok (.aload_n 0, 1) := dk_42 (dk_at dksX5_line_2 6 rfl rfl)
theorem dX5_line_51 : decode cX5_line 51 = .ok (.aload_n 0, 1) := dk_42 (dk_at dksX5_line_2 7 rfl rfl)
theorem dX5_line_52 : decode cX5_line 52 = .ok (.ldc 254, 2) := dk_18 254 (dk_at dksX5_line_2 8 rfl rfl)
theorem dX5_line_54 : decode cX5_line 54 = .ok (.invokevirtual 107, 3) := dk_182 0 107 (dk_at dksX5_line_2 10 rfl rfl)
theorem dX5_line_57 : decode cX5_line 57 = .ok (.invokevirtual 256, 3) := dk_182 1 0 (dk_at dksX5_line_2 13 rfl rfl)
theorem dX5_line_60 : decode cX5_line 60 = .ok (.goto 51, 3) := dk_167 0 51 (dk_at dksX5_line_2 16 rfl rfl)
theorem dX5_line_63 : decode cX5_line 63 = .ok (.aload_n 0, 1) := dk_42 (dk_at dksX5_line_2 19 rfl rfl)
theorem dX5_line_64 : decode cX5_line 64 = .ok (.aload_n 0, 1) := dk_42 (dk_at dksX5_line_2 20 rfl rfl)
theorem dX5_line_65 : decode cX5_line 65 = .ok (.ldc_w 259, 3) := dk_19 1 3 (dk_at dksX5_line_2 21 rfl rfl)
theorem dX5_line_68 : decode cX5_line 68 = .ok (.invokevirtual 107, 3) := dk_182 0 107 (dk_at dksX5_line_3 0 rfl rfl)
theorem dX5_line_71 : decode cX5_line 71 = .ok (.iconst 1, 1) := dk_4 (dk_at dksX5_line_3 3 rfl rfl)
theorem dX5_line_72 : decode cX5_line 72 = .ok (.invokevirtual 119, 3) := dk_182 0 119 (dk_at dksX5_line_3 4 rfl rfl)
theorem dX5_line_75 : decode cX5_line 75 = .ok (.aload_n 0, 1) := dk_42 (dk_at dksX5_line_3 7 rfl rfl)
theorem dX5_line_76 : decode cX5_line 76 = .ok (.aload_n 0, 1) := dk_42 (dk_at dksX5_line_3 8 rfl rfl)
theorem dX5_line_77 : decode cX5_line 77 = .ok (.getfield 18, 3) := dk_180 0 18 (dk_at dksX5_line_3 9 rfl rfl)
theorem dX5_line_80 : decode cX5_line 80 = .ok (.getfield 261, 3) := dk_180 1 5 (dk_at dksX5_line_3 12 rfl rfl)
theorem dX5_line_83 : decode cX5_line 83 = .ok (.ifnonnull 7, 3) := dk_199 0 7 (dk_at dksX5_line_3 15 rfl rfl)
theorem dX5_line_86 : decode cX5_line 86 = .ok (.iconst 1, 1) := dk_4 (dk_at dksX5_line_3 18 rfl rfl)
theorem dX5_line_87 : decode cX5_line 87 = .ok (.goto 4, 3) := dk_167 0 4 (dk_at dksX5_line_3 19 rfl rfl)
theorem dX5_line_90 : decode cX5_line 90 = .ok (.iconst 0, 1) := dk_3 (dk_at dksX5_line_3 22 rfl rfl)
theorem dX5_line_91 : decode cX5_line 91 = .ok (.iconst 5, 1) := dk_8 (dk_at dksX5_line_3 23 rfl rfl)
theorem dX5_line_92 : decode cX5_line 92 = .ok (.invokevirtual 119, 3) := dk_182 0 119 (dk_at dksX5_line_4 0 rfl rfl)
theorem dX5_line_95 : decode cX5_line 95 = .ok (.aload_n 0, 1) := dk_42 (dk_at dksX5_line_4 3 rfl rfl)
theorem dX5_line_96 : decode cX5_line 96 = .ok (.invokevirtual 111, 3) := dk_182 0 111 (dk_at dksX5_line_4 4 rfl rfl)
theorem dX5_line_99 : decode cX5_line 99 = .ok (.aload_n 0, 1) := dk_42 (dk_at dksX5_line_4 7 rfl rfl)
theorem dX5_line_100 : decode cX5_line 100 = .ok (.getfield 18, 3) := dk_180 0 18 (dk_at dksX5_line_4 8 rfl rfl)
theorem dX5_line_103 : decode cX5_line 103 = .ok (.aload_n 0, 1) := dk_42 (dk_at dksX5_line_4 11 rfl rfl)
theorem dX5_line_104 : decode cX5_line 104 = .ok (.iconst 0, 1) := dk_3 (dk_at dksX5_line_4 12 rfl rfl)
theorem dX5_line_105 : decode cX5_line 105 = .ok (.invokevirtual 138, 3) := dk_182 0 138 (dk_at dksX5_line_4 13 rfl rfl)
theorem dX5_line_108 : decode cX5_line 108 = .ok (.putfield 261, 3) := dk_181 1 5 (dk_at dksX5_line_4 16 rfl rfl)
theorem dX5_line_111 : decode cX5_line 111 = .ok (.aload_n 0, 1) := dk_42 (dk_at dksX5_line_4 19 rfl rfl)
theorem dX5_line_112 : decode cX5_line 112 = .ok (.aload_n 0, 1) := dk_42 (dk_at dksX5_line_4 20 rfl rfl)
theorem dX5_line_113 : decode cX5_line 113 = .ok (.bipush 59, 2) := dk_16 59 (dk_at dksX5_line_4 21 rfl rfl)
theorem dX5_line_115 : decode cX5_line 115 = .ok (.invokevirtual 134, 3) := dk_182 0 134 (dk_at dksX5_line_5 0 rfl rfl)
theorem dX5_line_118 : decode cX5_line 118 = .ok (.iconst 1, 1) := dk_4 (dk_at dksX5_line_5 3 rfl rfl)
theorem dX5_line_119 : decode cX5_line 119 = .ok (.invokevirtual 119, 3) := dk_182 0 119 (dk_at dksX5_line_5 4 rfl rfl)
theorem dX5_line_122 : decode cX5_line 122 = .ok (.aload_n 0, 1) := dk_42 (dk_at dksX5_line_5 7 rfl rfl)
theorem dX5_line_123 : decode cX5_line 123 = .ok (.invokevirtual 111, 3) := dk_182 0 111 (dk_at dksX5_line_5 8 rfl rfl)
theorem dX5_line_126 : decode cX5_line 126 = .ok (.return_, 1) := dk_177 (dk_at dksX5_line_5 11 rfl rfl)
abbrev cX5_is : ByteArray := prog_8_method_6_code
def yX5_is : MethodName := ⟨RX5, "is", "(Ljava/lang/String;)Z"⟩
def dkwX5_is_2 : List UInt8 := [42, 180, 0, 68, 28, 96, 51, 17, 0, 255, 126, 159, 0, 5, 3, 172, 132, 2, 1, 167, 255, 217, 4, 172]
abbrev dktX5_is_2 : List UInt8 := dkwX5_is_2 ++ []
def dkwX5_is_1 : List UInt8 := [3, 172, 3, 61, 28, 43, 182, 0, 100, 162, 0, 37, 43, 28, 182, 0, 103, 42, 180, 0, 3, 180, 0, 56]
abbrev dktX5_is_1 : List UInt8 := dkwX5_is_1 ++ dktX5_is_2
def dkwX5_is_0 : List UInt8 := [42, 180, 0, 71, 4, 160, 0, 19, 43, 182, 0, 100, 42, 180, 0, 97, 42, 180, 0, 68, 100, 159, 0, 5]
abbrev dktX5_is_0 : List UInt8 := dkwX5_is_0 ++ dktX5_is_1
theorem dksX5_is_0 : cX5_is.data.toList.drop 0 = dktX5_is_0 := by decide +kernel
theorem dksX5_is_1 : cX5_is.data.toList.drop 24 = dktX5_is_1 := dk_seg dksX5_is_0 24 rfl rfl
theorem dksX5_is_2 : cX5_is.data.toList.drop 48 = dktX5_is_2 := dk_seg dksX5_is_1 24 rfl rfl
theorem dX5_is_0 : decode cX5_is 0 = .ok (.aload_n 0, 1) := dk_42 (dk_at dksX5_is_0 0 rfl rfl)
theorem dX5_is_1 : decode cX5_is 1 = .ok (.getfield 71, 3) := dk_180 0 71 (dk_at dksX5_is_0 1 rfl rfl)
theorem dX5_is_4 : decode cX5_is 4 = .ok (.iconst 1, 1) := dk_4 (dk_at dksX5_is_0 4 rfl rfl)
theorem dX5_is_5 : decode cX5_is 5 = .ok (.if_icmp .ne 19, 3) := dk_160 0 19 (dk_at dksX5_is_0 5 rfl rfl)
theorem dX5_is_8 : decode cX5_is 8 = .ok (.aload_n 1, 1) := dk_43 (dk_at dksX5_is_0 8 rfl rfl)
theorem dX5_is_9 : decode cX5_is 9 = .ok (.invokevirtual 100, 3) := dk_182 0 100 (dk_at dksX5_is_0 9 rfl rfl)
theorem dX5_is_12 : decode cX5_is 12 = .ok (.aload_n 0, 1) := dk_42 (dk_at dksX5_is_0 12 rfl rfl)
theorem dX5_is_13 : decode cX5_is 13 = .ok (.getfield 97, 3) := dk_180 0 97 (dk_at dksX5_is_0 13 rfl rfl)
theorem dX5_is_16 : decode cX5_is 16 = .ok (.aload_n 0, 1) := dk_42 (dk_at dksX5_is_0 16 rfl rfl)
theorem dX5_is_17 : decode cX5_is 17 = .ok (.getfield 68, 3) := dk_180 0 68 (dk_at dksX5_is_0 17 rfl rfl)
theorem dX5_is_20 : decode cX5_is 20 = .ok (.isub, 1) := dk_100 (dk_at dksX5_is_0 20 rfl rfl)
theorem dX5_is_21 : decode cX5_is 21 = .ok (.if_icmp .eq 5, 3) := dk_159 0 5 (dk_at dksX5_is_0 21 rfl rfl)
theorem dX5_is_24 : decode cX5_is 24 = .ok (.iconst 0, 1) := dk_3 (dk_at dksX5_is_1 0 rfl rfl)
theorem dX5_is_25 : decode cX5_is 25 = .ok (.ireturn, 1) := dk_172 (dk_at dksX5_is_1 1 rfl rfl)
theorem dX5_is_26 : decode cX5_is 26 = .ok (.iconst 0, 1) := dk_3 (dk_at dksX5_is_1 2 rfl rfl)
theorem dX5_is_27 : decode cX5_is 27 = .ok (.istore_n 2, 1) := dk_61 (dk_at dksX5_is_1 3 rfl rfl)
theorem dX5_is_28 : decode cX5_is 28 = .ok (.iload_n 2, 1) := dk_28 (dk_at dksX5_is_1 4 rfl rfl)
theorem dX5_is_29 : decode cX5_is 29 = .ok (.aload_n 1, 1) := dk_43 (dk_at dksX5_is_1 5 rfl rfl)
theorem dX5_is_30 : decode cX5_is 30 = .ok (.invokevirtual 100, 3) := dk_182 0 100 (dk_at dksX5_is_1 6 rfl rfl)
theorem dX5_is_33 : decode cX5_is 33 = .ok (.if_icmp .ge 37, 3) := dk_162 0 37 (dk_at dksX5_is_1 9 rfl rfl)
theorem dX5_is_36 : decode cX5_is 36 = .ok (.aload_n 1, 1) := dk_43 (dk_at dksX5_is_1 12 rfl rfl)
theorem dX5_is_37 : decode cX5_is 37 = .ok (.iload_n 2, 1) := dk_28 (dk_at dksX5_is_1 13 rfl rfl)
theorem dX5_is_38 : decode cX5_is 38 = .ok (.invokevirtual 103, 3) := dk_182 0 103 (dk_at dksX5_is_1 14 rfl rfl)
theorem dX5_is_41 : decode cX5_is 41 = .ok (.aload_n 0, 1) := dk_42 (dk_at dksX5_is_1 17 rfl rfl)
theorem dX5_is_42 : decode cX5_is 42 = .ok (.getfield 3, 3) := dk_180 0 3 (dk_at dksX5_is_1 18 rfl rfl)
theorem dX5_is_45 : decode cX5_is 45 = .ok (.getfield 56, 3) := dk_180 0 56 (dk_at dksX5_is_1 21 rfl rfl)
theorem dX5_is_48 : decode cX5_is 48 = .ok (.aload_n 0, 1) := dk_42 (dk_at dksX5_is_2 0 rfl rfl)
theorem dX5_is_49 : decode cX5_is 49 = .ok (.getfield 68, 3) := dk_180 0 68 (dk_at dksX5_is_2 1 rfl rfl)
theorem dX5_is_52 : decode cX5_is 52 = .ok (.iload_n 2, 1) := dk_28 (dk_at dksX5_is_2 4 rfl rfl)
theorem dX5_is_53 : decode cX5_is 53 = .ok (.iadd, 1) := dk_96 (dk_at dksX5_is_2 5 rfl rfl)
theorem dX5_is_54 : decode cX5_is 54 = .ok (.baload, 1) := dk_51 (dk_at dksX5_is_2 6 rfl rfl)
theorem dX5_is_55 : decode cX5_is 55 = .ok (.sipush 255, 3) := dk_17 0 255 (dk_at dksX5_is_2 7 rfl rfl)
theorem dX5_is_58 : decode cX5_is 58 = .ok (.iand, 1) := dk_126 (dk_at dksX5_is_2 10 rfl rfl)
theorem dX5_is_59 : decode cX5_is 59 = .ok (.if_icmp .eq 5, 3) := dk_159 0 5 (dk_at dksX5_is_2 11 rfl rfl)
theorem dX5_is_62 : decode cX5_is 62 = .ok (.iconst 0, 1) := dk_3 (dk_at dksX5_is_2 14 rfl rfl)
theorem dX5_is_63 : decode cX5_is 63 = .ok (.ireturn, 1) := dk_172 (dk_at dksX5_is_2 15 rfl rfl)
theorem dX5_is_64 : decode cX5_is 64 = .ok (.iinc 2 1, 3) := dk_132 2 1 (dk_at dksX5_is_2 16 rfl rfl)
theorem dX5_is_67 : decode cX5_is 67 = .ok (.goto (-39), 3) := dk_167 255 217 (dk_at dksX5_is_2 19 rfl rfl)
theorem dX5_is_70 : decode cX5_is 70 = .ok (.iconst 1, 1) := dk_4 (dk_at dksX5_is_2 22 rfl rfl)
theorem dX5_is_71 : decode cX5_is 71 = .ok (.ireturn, 1) := dk_172 (dk_at dksX5_is_2 23 rfl rfl)
abbrev cX5_town : ByteArray := prog_8_method_21_code
def yX5_town : MethodName := ⟨RX5, "town", "()V"⟩
def dkwX5_town_4 : List UInt8 := [180, 0, 18, 180, 0, 211, 28, 184, 0, 200, 185, 0, 206, 2, 0, 87, 177]
abbrev dktX5_town_4 : List UInt8 := dkwX5_town_4 ++ []
def dkwX5_town_3 : List UInt8 := [42, 180, 0, 18, 180, 0, 196, 42, 3, 16, 20, 182, 0, 131, 184, 0, 200, 185, 0, 206, 2, 0, 87, 42]
abbrev dktX5_town_3 : List UInt8 := dkwX5_town_3 ++ dktX5_town_4
def dkwX5_town_2 : List UInt8 := [180, 0, 27, 180, 0, 194, 27, 42, 3, 17, 3, 231, 182, 0, 131, 79, 42, 3, 16, 20, 182, 0, 131, 61]
abbrev dktX5_town_2 : List UInt8 := dkwX5_town_2 ++ dktX5_town_3
def dkwX5_town_1 : List UInt8 := [42, 182, 0, 111, 42, 180, 0, 27, 180, 0, 191, 27, 42, 3, 17, 3, 231, 182, 0, 131, 79, 42]
abbrev dktX5_town_1 : List UInt8 := dkwX5_town_1 ++ dktX5_town_2
def dkwX5_town_0 : List UInt8 := [42, 180, 0, 18, 182, 0, 126, 60, 42, 27, 16, 8, 162, 0, 7, 4, 167, 0, 4, 3, 5, 182, 0, 119]
abbrev dktX5_town_0 : List UInt8 := dkwX5_town_0 ++ dktX5_town_1
theorem dksX5_town_0 : cX5_town.data.toList.drop 0 = dktX5_town_0 := by decide +kernel
theorem dksX5_town_1 : cX5_town.data.toList.drop 24 = dktX5_town_1 := dk_seg dksX5_town_0 24 rfl rfl
theorem dksX5_town_2 : cX5_town.data.toList.drop 46 = dktX5_town_2 := dk_seg dksX5_town_1 22 rfl rfl
theorem dksX5_town_3 : cX5_town.data.toList.drop 70 = dktX5_town_3 := dk_seg dksX5_town_2 24 rfl rfl
theorem dksX5_town_4 : cX5_town.data.toList.drop 94 = dktX5_town_4 := dk_seg dksX5_town_3 24 rfl rfl
theorem dX5_town_0 : decode cX5_town 0 = .ok (.aload_n 0, 1) := dk_42 (dk_at dksX5_town_0 0 rfl rfl)
theorem dX5_town_1 : decode cX5_town 1 = .ok (.getfield 18, 3) := dk_180 0 18 (dk_at dksX5_town_0 1 rfl rfl)
theorem dX5_town_4 : decode cX5_town 4 = .ok (.invokevirtual 126, 3) := dk_182 0 126 (dk_at dksX5_town_0 4 rfl rfl)
theorem dX5_town_7 : decode cX5_town 7 = .ok (.istore_n 1, 1) := dk_60 (dk_at dksX5_town_0 7 rfl rfl)
theorem dX5_town_8 : decode cX5_town 8 = .ok (.aload_n 0, 1) := dk_42 (dk_at dksX5_town_0 8 rfl rfl)
theorem dX5_town_9 : decode cX5_town 9 = .ok (.iload_n 1, 1) := dk_27 (dk_at dksX5_town_0 9 rfl rfl)
theorem dX5_town_10 : decode cX5_town 10 = .ok (.bipush 8, 2) := dk_16 8 (dk_at dksX5_town_0 10 rfl rfl)
theorem dX5_town_12 : decode cX5_town 12 = .ok (.if_icmp .ge 7, 3) := dk_162 0 7 (dk_at dksX5_town_0 12 rfl rfl)
theorem dX5_town_15 : decode cX5_town 15 = .ok (.iconst 1, 1) := dk_4 (dk_at dksX5_town_0 15 rfl rfl)
theorem dX5_town_16 : decode cX5_town 16 = .ok (.goto 4, 3) := dk_167 0 4 (dk_at dksX5_town_0 16 rfl rfl)
theorem dX5_town_19 : decode cX5_town 19 = .ok (.iconst 0, 1) := dk_3 (dk_at dksX5_town_0 19 rfl rfl)
theorem dX5_town_20 : decode cX5_town 20 = .ok (.iconst 2, 1) := dk_5 (dk_at dksX5_town_0 20 rfl rfl)
theorem dX5_town_21 : decode cX5_town 21 = .ok (.invokevirtual 119, 3) := dk_182 0 119 (dk_at dksX5_town_0 21 rfl rfl)
theorem dX5_town_24 : decode cX5_town 24 = .ok (.aload_n 0, 1) := dk_42 (dk_at dksX5_town_1 0 rfl rfl)
theorem dX5_town_25 : decode cX5_town 25 = .ok (.invokevirtual 111, 3) := dk_182 0 111 (dk_at dksX5_town_1 1 rfl rfl)
theorem dX5_town_28 : decode cX5_town 28 = .ok (.aload_n 0, 1) := dk_42 (dk_at dksX5_town_1 4 rfl rfl)
theorem dX5_town_29 : decode cX5_town 29 = .ok (.getfield 27, 3) := dk_180 0 27 (dk_at dksX5_town_1 5 rfl rfl)
theorem dX5_town_32 : decode cX5_town 32 = .ok (.getfield 191, 3) := dk_180 0 191 (dk_at dksX5_town_1 8 rfl rfl)
theorem dX5_town_35 : decode cX5_town 35 = .ok (.iload_n 1, 1) := dk_27 (dk_at dksX5_town_1 11 rfl rfl)
theorem dX5_town_36 : decode cX5_town 36 = .ok (.aload_n 0, 1) := dk_42 (dk_at dksX5_town_1 12 rfl rfl)
theorem dX5_town_37 : decode cX5_town 37 = .ok (.iconst 0, 1) := dk_3 (dk_at dksX5_town_1 13 rfl rfl)
theorem dX5_town_38 : decode cX5_town 38 = .ok (.sipush 999, 3) := dk_17 3 231 (dk_at dksX5_town_1 14 rfl rfl)
theorem dX5_town_41 : decode cX5_town 41 = .ok (.invokevirtual 131, 3) := dk_182 0 131 (dk_at dksX5_town_1 17 rfl rfl)
theorem dX5_town_44 : decode cX5_town 44 = .ok (.iastore, 1) := dk_79 (dk_at dksX5_town_1 20 rfl rfl)
theorem dX5_town_45 : decode cX5_town 45 = .ok (.aload_n 0, 1) := dk_42 (dk_at dksX5_town_1 21 rfl rfl)
theorem dX5_town_46 : decode cX5_town 46 = .ok (.getfield 27, 3) := dk_180 0 27 (dk_at dksX5_town_2 0 rfl rfl)
theorem dX5_town_49 : decode cX5_town 49 = .ok (.getfield 194, 3) := dk_180 0 194 (dk_at dksX5_town_2 3 rfl rfl)
theorem dX5_town_52 : decode cX5_town 52 = .ok (.iload_n 1, 1) := dk_27 (dk_at dksX5_town_2 6 rfl rfl)
theorem dX5_town_53 : decode cX5_town 53 = .ok (.aload_n 0, 1) := dk_42 (dk_at dksX5_town_2 7 rfl rfl)
theorem dX5_town_54 : decode cX5_town 54 = .ok (.iconst 0, 1) := dk_3 (dk_at dksX5_town_2 8 rfl rfl)
theorem dX5_town_55 : decode cX5_town 55 = .ok (.sipush 999, 3) := dk_17 3 231 (dk_at dksX5_town_2 9 rfl rfl)
theorem dX5_town_58 : decode cX5_town 58 = .ok (.invokevirtual 131, 3) := dk_182 0 131 (dk_at dksX5_town_2 12 rfl rfl)
theorem dX5_town_61 : decode cX5_town 61 = .ok (.iastore, 1) := dk_79 (dk_at dksX5_town_2 15 rfl rfl)
theorem dX5_town_62 : decode cX5_town 62 = .ok (.aload_n 0, 1) := dk_42 (dk_at dksX5_town_2 16 rfl rfl)
theorem dX5_town_63 : decode cX5_town 63 = .ok (.iconst 0, 1) := dk_3 (dk_at dksX5_town_2 17 rfl rfl)
theorem dX5_town_64 : decode cX5_town 64 = .ok (.bipush 20, 2) := dk_16 20 (dk_at dksX5_town_2 18 rfl rfl)
theorem dX5_town_66 : decode cX5_town 66 = .ok (.invokevirtual 131, 3) := dk_182 0 131 (dk_at dksX5_town_2 20 rfl rfl)
theorem dX5_town_69 : decode cX5_town 69 = .ok (.istore_n 2, 1) := dk_61 (dk_at dksX5_town_2 23 rfl rfl)
theorem dX5_town_70 : decode cX5_town 70 = .ok (.aload_n 0, 1) := dk_42 (dk_at dksX5_town_3 0 rfl rfl)
theorem dX5_town_71 : decode cX5_town 71 = .ok (.getfield 18, 3) := dk_180 0 18 (dk_at dksX5_town_3 1 rfl rfl)
theorem dX5_town_74 : decode cX5_town 74 = .ok (.getfield 196, 3) := dk_180 0 196 (dk_at dksX5_town_3 4 rfl rfl)
theorem dX5_town_77 : decode cX5_town 77 = .ok (.aload_n 0, 1) := dk_42 (dk_at dksX5_town_3 7 rfl rfl)
theorem dX5_town_78 : decode cX5_town 78 = .ok (.iconst 0, 1) := dk_3 (dk_at dksX5_town_3 8 rfl rfl)
theorem dX5_town_79 : decode cX5_town 79 = .ok (.bipush 20, 2) := dk_16 20 (dk_at dksX5_town_3 9 rfl rfl)
theorem dX5_town_81 : decode cX5_town 81 = .ok (.invokevirtual 131, 3) := dk_182 0 131 (dk_at dksX5_town_3 11 rfl rfl)
theorem dX5_town_84 : decode cX5_town 84 = .ok (.invokestatic 200, 3) := dk_184 0 200 (dk_at dksX5_town_3 14 rfl rfl)
theorem dX5_town_87 : decode cX5_town 87 = .ok (.invokeinterface 206 2, 5) := by decide +kernel
theorem dX5_town_92 : decode cX5_town 92 = .ok (.pop, 1) := dk_87 (dk_at dksX5_town_3 22 rfl rfl)
theorem dX5_town_93 : decode cX5_town 93 = .ok (.aload_n 0, 1) := dk_42 (dk_at dksX5_town_3 23 rfl rfl)
theorem dX5_town_94 : decode cX5_town 94 = .ok (.getfield 18, 3) := dk_180 0 18 (dk_at dksX5_town_4 0 rfl rfl)
theorem dX5_town_97 : decode cX5_town 97 = .ok (.getfield 211, 3) := dk_180 0 211 (dk_at dksX5_town_4 3 rfl rfl)
theorem dX5_town_100 : decode cX5_town 100 = .ok (.iload_n 2, 1) := dk_28 (dk_at dksX5_town_4 6 rfl rfl)
theorem dX5_town_101 : decode cX5_town 101 = .ok (.invokestatic 200, 3) := dk_184 0 200 (dk_at dksX5_town_4 7 rfl rfl)
theorem dX5_town_104 : decode cX5_town 104 = .ok (.invokeinterface 206 2, 5) := by decide +kernel
theorem dX5_town_109 : decode cX5_town 109 = .ok (.pop, 1) := dk_87 (dk_at dksX5_town_4 15 rfl rfl)
theorem dX5_town_110 : decode cX5_town 110 = .ok (.return_, 1) := dk_177 (dk_at dksX5_town_4 16 rfl rfl)
abbrev cX5_want : ByteArray := prog_8_method_10_code
def yX5_want : MethodName := ⟨RX5, "want", "(ZI)V"⟩
def dkwX5_want_0 : List UInt8 := [27, 154, 0, 12, 187, 0, 114, 89, 28, 183, 0, 116, 191, 177]
abbrev dktX5_want_0 : List UInt8 := dkwX5_want_0 ++ []
theorem dksX5_want_0 : cX5_want.data.toList.drop 0 = dktX5_want_0 := by decide +kernel
theorem dX5_want_0 : decode cX5_want 0 = .ok (.iload_n 1, 1) := dk_27 (dk_at dksX5_want_0 0 rfl rfl)
theorem dX5_want_1 : decode cX5_want 1 = .ok (.ifCond .ne 12, 3) := dk_154 0 12 (dk_at dksX5_want_0 1 rfl rfl)
theorem dX5_want_4 : decode cX5_want 4 = .ok (.new 114, 3) := dk_187 0 114 (dk_at dksX5_want_0 4 rfl rfl)
theorem dX5_want_7 : decode cX5_want 7 = .ok (.dup, 1) := dk_89 (dk_at dksX5_want_0 7 rfl rfl)
theorem dX5_want_8 : decode cX5_want 8 = .ok (.iload_n 2, 1) := dk_28 (dk_at dksX5_want_0 8 rfl rfl)
theorem dX5_want_9 : decode cX5_want 9 = .ok (.invokespecial 116, 3) := dk_183 0 116 (dk_at dksX5_want_0 9 rfl rfl)
theorem dX5_want_12 : decode cX5_want 12 = .ok (.athrow, 1) := dk_191 (dk_at dksX5_want_0 12 rfl rfl)
theorem dX5_want_13 : decode cX5_want 13 = .ok (.return_, 1) := dk_177 (dk_at dksX5_want_0 13 rfl rfl)
abbrev cX5_number : ByteArray := prog_8_method_12_code
def yX5_number : MethodName := ⟨RX5, "number", "(II)I"⟩
def dkwX5_number_0 : List UInt8 := [42, 27, 28, 182, 0, 123, 62, 42, 182, 0, 111, 29, 172]
abbrev dktX5_number_0 : List UInt8 := dkwX5_number_0 ++ []
theorem dksX5_number_0 : cX5_number.data.toList.drop 0 = dktX5_number_0 := by decide +kernel
theorem dX5_number_0 : decode cX5_number 0 = .ok (.aload_n 0, 1) := dk_42 (dk_at dksX5_number_0 0 rfl rfl)
theorem dX5_number_1 : decode cX5_number 1 = .ok (.iload_n 1, 1) := dk_27 (dk_at dksX5_number_0 1 rfl rfl)
theorem dX5_number_2 : decode cX5_number 2 = .ok (.iload_n 2, 1) := dk_28 (dk_at dksX5_number_0 2 rfl rfl)
theorem dX5_number_3 : decode cX5_number 3 = .ok (.invokevirtual 123, 3) := dk_182 0 123 (dk_at dksX5_number_0 3 rfl rfl)
theorem dX5_number_6 : decode cX5_number 6 = .ok (.istore_n 3, 1) := dk_62 (dk_at dksX5_number_0 6 rfl rfl)
theorem dX5_number_7 : decode cX5_number 7 = .ok (.aload_n 0, 1) := dk_42 (dk_at dksX5_number_0 7 rfl rfl)
theorem dX5_number_8 : decode cX5_number 8 = .ok (.invokevirtual 111, 3) := dk_182 0 111 (dk_at dksX5_number_0 8 rfl rfl)
theorem dX5_number_11 : decode cX5_number 11 = .ok (.iload_n 3, 1) := dk_29 (dk_at dksX5_number_0 11 rfl rfl)
theorem dX5_number_12 : decode cX5_number 12 = .ok (.ireturn, 1) := dk_172 (dk_at dksX5_number_0 12 rfl rfl)
abbrev cX5_numberNow : ByteArray := prog_8_method_11_code
def yX5_numberNow : MethodName := ⟨RX5, "numberNow", "(II)I"⟩
def dkwX5_numberNow_2 : List UInt8 := [4, 167, 0, 4, 3, 5, 182, 0, 119, 42, 180, 0, 81, 172]
abbrev dktX5_numberNow_2 : List UInt8 := dkwX5_numberNow_2 ++ []
def dkwX5_numberNow_1 : List UInt8 := [180, 0, 68, 100, 7, 163, 0, 23, 42, 180, 0, 81, 27, 161, 0, 15, 42, 180, 0, 81, 28, 163, 0, 7]
abbrev dktX5_numberNow_1 : List UInt8 := dkwX5_numberNow_1 ++ dktX5_numberNow_2
def dkwX5_numberNow_0 : List UInt8 := [42, 42, 180, 0, 71, 5, 160, 0, 7, 4, 167, 0, 4, 3, 4, 182, 0, 119, 42, 42, 180, 0, 97, 42]
abbrev dktX5_numberNow_0 : List UInt8 := dkwX5_numberNow_0 ++ dktX5_numberNow_1
theorem dksX5_numberNow_0 : cX5_numberNow.data.toList.drop 0 = dktX5_numberNow_0 := by decide +kernel
theorem dksX5_numberNow_1 : cX5_numberNow.data.toList.drop 24 = dktX5_numberNow_1 := dk_seg dksX5_numberNow_0 24 rfl rfl
theorem dksX5_numberNow_2 : cX5_numberNow.data.toList.drop 48 = dktX5_numberNow_2 := dk_seg dksX5_numberNow_1 24 rfl rfl
theorem dX5_numberNow_0 : decode cX5_numberNow 0 = .ok (.aload_n 0, 1) := dk_42 (dk_at dksX5_numberNow_0 0 rfl rfl)
theorem dX5_numberNow_1 : decode cX5_numberNow 1 = .ok (.aload_n 0, 1) := dk_42 (dk_at dksX5_numberNow_0 1 rfl rfl)
theorem dX5_numberNow_2 : decode cX5_numberNow 2 = .ok (.getfield 71, 3) := dk_180 0 71 (dk_at dksX5_numberNow_0 2 rfl rfl)
theorem dX5_numberNow_5 : decode cX5_numberNow 5 = .ok (.iconst 2, 1) := dk_5 (dk_at dksX5_numberNow_0 5 rfl rfl)
theorem dX5_numberNow_6 : decode cX5_numberNow 6 = .ok (.if_icmp .ne 7, 3) := dk_160 0 7 (dk_at dksX5_numberNow_0 6 rfl rfl)
theorem dX5_numberNow_9 : decode cX5_numberNow 9 = .ok (.iconst 1, 1) := dk_4 (dk_at dksX5_numberNow_0 9 rfl rfl)
theorem dX5_numberNow_10 : decode cX5_numberNow 10 = .ok (.goto 4, 3) := dk_167 0 4 (dk_at dksX5_numberNow_0 10 rfl rfl)
theorem dX5_numberNow_13 : decode cX5_numberNow 13 = .ok (.iconst 0, 1) := dk_3 (dk_at dksX5_numberNow_0 13 rfl rfl)
theorem dX5_numberNow_14 : decode cX5_numberNow 14 = .ok (.iconst 1, 1) := dk_4 (dk_at dksX5_numberNow_0 14 rfl rfl)
theorem dX5_numberNow_15 : decode cX5_numberNow 15 = .ok (.invokevirtual 119, 3) := dk_182 0 119 (dk_at dksX5_numberNow_0 15 rfl rfl)
theorem dX5_numberNow_18 : decode cX5_numberNow 18 = .ok (.aload_n 0, 1) := dk_42 (dk_at dksX5_numberNow_0 18 rfl rfl)
theorem dX5_numberNow_19 : decode cX5_numberNow 19 = .ok (.aload_n 0, 1) := dk_42 (dk_at dksX5_numberNow_0 19 rfl rfl)
theorem dX5_numberNow_20 : decode cX5_numberNow 20 = .ok (.getfield 97, 3) := dk_180 0 97 (dk_at dksX5_numberNow_0 20 rfl rfl)
theorem dX5_numberNow_23 : decode cX5_numberNow 23 = .ok (.aload_n 0, 1) := dk_42 (dk_at dksX5_numberNow_0 23 rfl rfl)
theorem dX5_numberNow_24 : decode cX5_numberNow 24 = .ok (.getfield 68, 3) := dk_180 0 68 (dk_at dksX5_numberNow_1 0 rfl rfl)
theorem dX5_numberNow_27 : decode cX5_numberNow 27 = .ok (.isub, 1) := dk_100 (dk_at dksX5_numberNow_1 3 rfl rfl)
theorem dX5_numberNow_28 : decode cX5_numberNow 28 = .ok (.iconst 4, 1) := dk_7 (dk_at dksX5_numberNow_1 4 rfl rfl)
theorem dX5_numberNow_29 : decode cX5_numberNow 29 = .ok (.if_icmp .gt 23, 3) := dk_163 0 23 (dk_at dksX5_numberNow_1 5 rfl rfl)
theorem dX5_numberNow_32 : decode cX5_numberNow 32 = .ok (.aload_n 0, 1) := dk_42 (dk_at dksX5_numberNow_1 8 rfl rfl)
theorem dX5_numberNow_33 : decode cX5_numberNow 33 = .ok (.getfield 81, 3) := dk_180 0 81 (dk_at dksX5_numberNow_1 9 rfl rfl)
theorem dX5_numberNow_36 : decode cX5_numberNow 36 = .ok (.iload_n 1, 1) := dk_27 (dk_at dksX5_numberNow_1 12 rfl rfl)
theorem dX5_numberNow_37 : decode cX5_numberNow 37 = .ok (.if_icmp .lt 15, 3) := dk_161 0 15 (dk_at dksX5_numberNow_1 13 rfl rfl)
theorem dX5_numberNow_40 : decode cX5_numberNow 40 = .ok (.aload_n 0, 1) := dk_42 (dk_at dksX5_numberNow_1 16 rfl rfl)
theorem dX5_numberNow_41 : decode cX5_numberNow 41 = .ok (.getfield 81, 3) := dk_180 0 81 (dk_at dksX5_numberNow_1 17 rfl rfl)
theorem dX5_numberNow_44 : decode cX5_numberNow 44 = .ok (.iload_n 2, 1) := dk_28 (dk_at dksX5_numberNow_1 20 rfl rfl)
theorem dX5_numberNow_45 : decode cX5_numberNow 45 = .ok (.if_icmp .gt 7, 3) := dk_163 0 7 (dk_at dksX5_numberNow_1 21 rfl rfl)
theorem dX5_numberNow_48 : decode cX5_numberNow 48 = .ok (.iconst 1, 1) := dk_4 (dk_at dksX5_numberNow_2 0 rfl rfl)
theorem dX5_numberNow_49 : decode cX5_numberNow 49 = .ok (.goto 4, 3) := dk_167 0 4 (dk_at dksX5_numberNow_2 1 rfl rfl)
theorem dX5_numberNow_52 : decode cX5_numberNow 52 = .ok (.iconst 0, 1) := dk_3 (dk_at dksX5_numberNow_2 4 rfl rfl)
theorem dX5_numberNow_53 : decode cX5_numberNow 53 = .ok (.iconst 2, 1) := dk_5 (dk_at dksX5_numberNow_2 5 rfl rfl)
theorem dX5_numberNow_54 : decode cX5_numberNow 54 = .ok (.invokevirtual 119, 3) := dk_182 0 119 (dk_at dksX5_numberNow_2 6 rfl rfl)
theorem dX5_numberNow_57 : decode cX5_numberNow 57 = .ok (.aload_n 0, 1) := dk_42 (dk_at dksX5_numberNow_2 9 rfl rfl)
theorem dX5_numberNow_58 : decode cX5_numberNow 58 = .ok (.getfield 81, 3) := dk_180 0 81 (dk_at dksX5_numberNow_2 10 rfl rfl)
theorem dX5_numberNow_61 : decode cX5_numberNow 61 = .ok (.ireturn, 1) := dk_172 (dk_at dksX5_numberNow_2 13 rfl rfl)
abbrev cX5_way : ByteArray := prog_8_method_22_code
def yX5_way : MethodName := ⟨RX5, "way", "()V"⟩
def dkwX5_way_4 : List UInt8 := [28, 29, 42, 3, 16, 9, 182, 0, 131, 183, 0, 227, 185, 0, 206, 2, 0, 87, 177]
abbrev dktX5_way_4 : List UInt8 := dkwX5_way_4 ++ []
def dkwX5_way_3 : List UInt8 := [42, 182, 0, 111, 42, 4, 16, 9, 182, 0, 131, 62, 42, 180, 0, 18, 180, 0, 213, 187, 0, 225, 89, 27]
abbrev dktX5_way_3 : List UInt8 := dkwX5_way_3 ++ dktX5_way_4
def dkwX5_way_2 : List UInt8 := [159, 0, 19, 42, 180, 0, 18, 27, 28, 182, 0, 221, 154, 0, 7, 4, 167, 0, 4, 3, 7, 182, 0, 119]
abbrev dktX5_way_2 : List UInt8 := dkwX5_way_2 ++ dktX5_way_3
def dkwX5_way_1 : List UInt8 := [182, 0, 119, 42, 182, 0, 111, 42, 182, 0, 218, 60, 42, 182, 0, 111, 42, 182, 0, 218, 61, 42, 27, 28]
abbrev dktX5_way_1 : List UInt8 := dkwX5_way_1 ++ dktX5_way_2
def dkwX5_way_0 : List UInt8 := [42, 42, 180, 0, 18, 180, 0, 213, 185, 0, 216, 1, 0, 16, 12, 162, 0, 7, 4, 167, 0, 4, 3, 5]
abbrev dktX5_way_0 : List UInt8 := dkwX5_way_0 ++ dktX5_way_1
theorem dksX5_way_0 : cX5_way.data.toList.drop 0 = dktX5_way_0 := by decide +kernel
theorem dksX5_way_1 : cX5_way.data.toList.drop 24 = dktX5_way_1 := dk_seg dksX5_way_0 24 rfl rfl
theorem dksX5_way_2 : cX5_way.data.toList.drop 48 = dktX5_way_2 := dk_seg dksX5_way_1 24 rfl rfl
theorem dksX5_way_3 : cX5_way.data.toList.drop 72 = dktX5_way_3 := dk_seg dksX5_way_2 24 rfl rfl
theorem dksX5_way_4 : cX5_way.data.toList.drop 96 = dktX5_way_4 := dk_seg dksX5_way_3 24 rfl rfl
theorem dX5_way_0 : decode cX5_way 0 = .ok (.aload_n 0, 1) := dk_42 (dk_at dksX5_way_0 0 rfl rfl)
theorem dX5_way_1 : decode cX5_way 1 = .ok (.aload_n 0, 1) := dk_42 (dk_at dksX5_way_0 1 rfl rfl)
theorem dX5_way_2 : decode cX5_way 2 = .ok (.getfield 18, 3) := dk_180 0 18 (dk_at dksX5_way_0 2 rfl rfl)
theorem dX5_way_5 : decode cX5_way 5 = .ok (.getfield 213, 3) := dk_180 0 213 (dk_at dksX5_way_0 5 rfl rfl)
theorem dX5_way_8 : decode cX5_way 8 = .ok (.invokeinterface 216 1, 5) := by decide +kernel
theorem dX5_way_13 : decode cX5_way 13 = .ok (.bipush 12, 2) := dk_16 12 (dk_at dksX5_way_0 13 rfl rfl)
theorem dX5_way_15 : decode cX5_way 15 = .ok (.if_icmp .ge 7, 3) := dk_162 0 7 (dk_at dksX5_way_0 15 rfl rfl)
theorem dX5_way_18 : decode cX5_way 18 = .ok (.iconst 1, 1) := dk_4 (dk_at dksX5_way_0 18 rfl rfl)
theorem dX5_way_19 : decode cX5_way 19 = .ok (.goto 4, 3) := dk_167 0 4 (dk_at dksX5_way_0 19 rfl rfl)
theorem dX5_way_22 : decode cX5_way 22 = .ok (.iconst 0, 1) := dk_3 (dk_at dksX5_way_0 22 rfl rfl)
theorem dX5_way_23 : decode cX5_way 23 = .ok (.iconst 2, 1) := dk_5 (dk_at dksX5_way_0 23 rfl rfl)
theorem dX5_way_24 : decode cX5_way 24 = .ok (.invokevirtual 119, 3) := dk_182 0 119 (dk_at dksX5_way_1 0 rfl rfl)
theorem dX5_way_27 : decode cX5_way 27 = .ok (.aload_n 0, 1) := dk_42 (dk_at dksX5_way_1 3 rfl rfl)
theorem dX5_way_28 : decode cX5_way 28 = .ok (.invokevirtual 111, 3) := dk_182 0 111 (dk_at dksX5_way_1 4 rfl rfl)
theorem dX5_way_31 : decode cX5_way 31 = .ok (.aload_n 0, 1) := dk_42 (dk_at dksX5_way_1 7 rfl rfl)
theorem dX5_way_32 : decode cX5_way 32 = .ok (.invokevirtual 218, 3) := dk_182 0 218 (dk_at dksX5_way_1 8 rfl rfl)
theorem dX5_way_35 : decode cX5_way 35 = .ok (.istore_n 1, 1) := dk_60 (dk_at dksX5_way_1 11 rfl rfl)
theorem dX5_way_36 : decode cX5_way 36 = .ok (.aload_n 0, 1) := dk_42 (dk_at dksX5_way_1 12 rfl rfl)
theorem dX5_way_37 : decode cX5_way 37 = .ok (.invokevirtual 111, 3) := dk_182 0 111 (dk_at dksX5_way_1 13 rfl rfl)
theorem dX5_way_40 : decode cX5_way 40 = .ok (.aload_n 0, 1) := dk_42 (dk_at dksX5_way_1 16 rfl rfl)
theorem dX5_way_41 : decode cX5_way 41 = .ok (.invokevirtual 218, 3) := dk_182 0 218 (dk_at dksX5_way_1 17 rfl rfl)
theorem dX5_way_44 : decode cX5_way 44 = .ok (.istore_n 2, 1) := dk_61 (dk_at dksX5_way_1 20 rfl rfl)
theorem dX5_way_45 : decode cX5_way 45 = .ok (.aload_n 0, 1) := dk_42 (dk_at dksX5_way_1 21 rfl rfl)
theorem dX5_way_46 : decode cX5_way 46 = .ok (.iload_n 1, 1) := dk_27 (dk_at dksX5_way_1 22 rfl rfl)
theorem dX5_way_47 : decode cX5_way 47 = .ok (.iload_n 2, 1) := dk_28 (dk_at dksX5_way_1 23 rfl rfl)
theorem dX5_way_48 : decode cX5_way 48 = .ok (.if_icmp .eq 19, 3) := dk_159 0 19 (dk_at dksX5_way_2 0 rfl rfl)
theorem dX5_way_51 : decode cX5_way 51 = .ok (.aload_n 0, 1) := dk_42 (dk_at dksX5_way_2 3 rfl rfl)
theorem dX5_way_52 : decode cX5_way 52 = .ok (.getfield 18, 3) := dk_180 0 18 (dk_at dksX5_way_2 4 rfl rfl)
theorem dX5_way_55 : decode cX5_way 55 = .ok (.iload_n 1, 1) := dk_27 (dk_at dksX5_way_2 7 rfl rfl)
theorem dX5_way_56 : decode cX5_way 56 = .ok (.iload_n 2, 1) := dk_28 (dk_at dksX5_way_2 8 rfl rfl)
theorem dX5_way_57 : decode cX5_way 57 = .ok (.invokevirtual 221, 3) := dk_182 0 221 (dk_at dksX5_way_2 9 rfl rfl)
theorem dX5_way_60 : decode cX5_way 60 = .ok (.ifCond .ne 7, 3) := dk_154 0 7 (dk_at dksX5_way_2 12 rfl rfl)
theorem dX5_way_63 : decode cX5_way 63 = .ok (.iconst 1, 1) := dk_4 (dk_at dksX5_way_2 15 rfl rfl)
theorem dX5_way_64 : decode cX5_way 64 = .ok (.goto 4, 3) := dk_167 0 4 (dk_at dksX5_way_2 16 rfl rfl)
theorem dX5_way_67 : decode cX5_way 67 = .ok (.iconst 0, 1) := dk_3 (dk_at dksX5_way_2 19 rfl rfl)
theorem dX5_way_68 : decode cX5_way 68 = .ok (.iconst 4, 1) := dk_7 (dk_at dksX5_way_2 20 rfl rfl)
theorem dX5_way_69 : decode cX5_way 69 = .ok (.invokevirtual 119, 3) := dk_182 0 119 (dk_at dksX5_way_2 21 rfl rfl)
theorem dX5_way_72 : decode cX5_way 72 = .ok (.aload_n 0, 1) := dk_42 (dk_at dksX5_way_3 0 rfl rfl)
theorem dX5_way_73 : decode cX5_way 73 = .ok (.invokevirtual 111, 3) := dk_182 0 111 (dk_at dksX5_way_3 1 rfl rfl)
theorem dX5_way_76 : decode cX5_way 76 = .ok (.aload_n 0, 1) := dk_42 (dk_at dksX5_way_3 4 rfl rfl)
theorem dX5_way_77 : decode cX5_way 77 = .ok (.iconst 1, 1) := dk_4 (dk_at dksX5_way_3 5 rfl rfl)
theorem dX5_way_78 : decode cX5_way 78 = .ok (.bipush 9, 2) := dk_16 9 (dk_at dksX5_way_3 6 rfl rfl)
theorem dX5_way_80 : decode cX5_way 80 = .ok (.invokevirtual 131, 3) := dk_182 0 131 (dk_at dksX5_way_3 8 rfl rfl)
theorem dX5_way_83 : decode cX5_way 83 = .ok (.istore_n 3, 1) := dk_62 (dk_at dksX5_way_3 11 rfl rfl)
theorem dX5_way_84 : decode cX5_way 84 = .ok (.aload_n 0, 1) := dk_42 (dk_at dksX5_way_3 12 rfl rfl)
theorem dX5_way_85 : decode cX5_way 85 = .ok (.getfield 18, 3) := dk_180 0 18 (dk_at dksX5_way_3 13 rfl rfl)
theorem dX5_way_88 : decode cX5_way 88 = .ok (.getfield 213, 3) := dk_180 0 213 (dk_at dksX5_way_3 16 rfl rfl)
theorem dX5_way_91 : decode cX5_way 91 = .ok (.new 225, 3) := dk_187 0 225 (dk_at dksX5_way_3 19 rfl rfl)
theorem dX5_way_94 : decode cX5_way 94 = .ok (.dup, 1) := dk_89 (dk_at dksX5_way_3 22 rfl rfl)
theorem dX5_way_95 : decode cX5_way 95 = .ok (.iload_n 1, 1) := dk_27 (dk_at dksX5_way_3 23 rfl rfl)
theorem dX5_way_96 : decode cX5_way 96 = .ok (.iload_n 2, 1) := dk_28 (dk_at dksX5_way_4 0 rfl rfl)
theorem dX5_way_97 : decode cX5_way 97 = .ok (.iload_n 3, 1) := dk_29 (dk_at dksX5_way_4 1 rfl rfl)
theorem dX5_way_98 : decode cX5_way 98 = .ok (.aload_n 0, 1) := dk_42 (dk_at dksX5_way_4 2 rfl rfl)
theorem dX5_way_99 : decode cX5_way 99 = .ok (.iconst 0, 1) := dk_3 (dk_at dksX5_way_4 3 rfl rfl)
theorem dX5_way_100 : decode cX5_way 100 = .ok (.bipush 9, 2) := dk_16 9 (dk_at dksX5_way_4 4 rfl rfl)
theorem dX5_way_102 : decode cX5_way 102 = .ok (.invokevirtual 131, 3) := dk_182 0 131 (dk_at dksX5_way_4 6 rfl rfl)
theorem dX5_way_105 : decode cX5_way 105 = .ok (.invokespecial 227, 3) := dk_183 0 227 (dk_at dksX5_way_4 9 rfl rfl)
theorem dX5_way_108 : decode cX5_way 108 = .ok (.invokeinterface 206 2, 5) := by decide +kernel
theorem dX5_way_113 : decode cX5_way 113 = .ok (.pop, 1) := dk_87 (dk_at dksX5_way_4 17 rfl rfl)
theorem dX5_way_114 : decode cX5_way 114 = .ok (.return_, 1) := dk_177 (dk_at dksX5_way_4 18 rfl rfl)
abbrev cX5_townNow : ByteArray := prog_8_method_13_code
def yX5_townNow : MethodName := ⟨RX5, "townNow", "()I"⟩
def dkwX5_townNow_1 : List UInt8 := [167, 0, 4, 3, 6, 182, 0, 119, 27, 172]
abbrev dktX5_townNow_1 : List UInt8 := dkwX5_townNow_1 ++ []
def dkwX5_townNow_0 : List UInt8 := [42, 3, 17, 39, 15, 182, 0, 123, 60, 42, 27, 42, 180, 0, 18, 182, 0, 126, 162, 0, 7, 4]
abbrev dktX5_townNow_0 : List UInt8 := dkwX5_townNow_0 ++ dktX5_townNow_1
theorem dksX5_townNow_0 : cX5_townNow.data.toList.drop 0 = dktX5_townNow_0 := by decide +kernel
theorem dksX5_townNow_1 : cX5_townNow.data.toList.drop 22 = dktX5_townNow_1 := dk_seg dksX5_townNow_0 22 rfl rfl
theorem dX5_townNow_0 : decode cX5_townNow 0 = .ok (.aload_n 0, 1) := dk_42 (dk_at dksX5_townNow_0 0 rfl rfl)
theorem dX5_townNow_1 : decode cX5_townNow 1 = .ok (.iconst 0, 1) := dk_3 (dk_at dksX5_townNow_0 1 rfl rfl)
theorem dX5_townNow_2 : decode cX5_townNow 2 = .ok (.sipush 9999, 3) := dk_17 39 15 (dk_at dksX5_townNow_0 2 rfl rfl)
theorem dX5_townNow_5 : decode cX5_townNow 5 = .ok (.invokevirtual 123, 3) := dk_182 0 123 (dk_at dksX5_townNow_0 5 rfl rfl)
theorem dX5_townNow_8 : decode cX5_townNow 8 = .ok (.istore_n 1, 1) := dk_60 (dk_at dksX5_townNow_0 8 rfl rfl)
theorem dX5_townNow_9 : decode cX5_townNow 9 = .ok (.aload_n 0, 1) := dk_42 (dk_at dksX5_townNow_0 9 rfl rfl)
theorem dX5_townNow_10 : decode cX5_townNow 10 = .ok (.iload_n 1, 1) := dk_27 (dk_at dksX5_townNow_0 10 rfl rfl)
theorem dX5_townNow_11 : decode cX5_townNow 11 = .ok (.aload_n 0, 1) := dk_42 (dk_at dksX5_townNow_0 11 rfl rfl)
theorem dX5_townNow_12 : decode cX5_townNow 12 = .ok (.getfield 18, 3) := dk_180 0 18 (dk_at dksX5_townNow_0 12 rfl rfl)
theorem dX5_townNow_15 : decode cX5_townNow 15 = .ok (.invokevirtual 126, 3) := dk_182 0 126 (dk_at dksX5_townNow_0 15 rfl rfl)
theorem dX5_townNow_18 : decode cX5_townNow 18 = .ok (.if_icmp .ge 7, 3) := dk_162 0 7 (dk_at dksX5_townNow_0 18 rfl rfl)
theorem dX5_townNow_21 : decode cX5_townNow 21 = .ok (.iconst 1, 1) := dk_4 (dk_at dksX5_townNow_0 21 rfl rfl)
theorem dX5_townNow_22 : decode cX5_townNow 22 = .ok (.goto 4, 3) := dk_167 0 4 (dk_at dksX5_townNow_1 0 rfl rfl)
theorem dX5_townNow_25 : decode cX5_townNow 25 = .ok (.iconst 0, 1) := dk_3 (dk_at dksX5_townNow_1 3 rfl rfl)
theorem dX5_townNow_26 : decode cX5_townNow 26 = .ok (.iconst 3, 1) := dk_6 (dk_at dksX5_townNow_1 4 rfl rfl)
theorem dX5_townNow_27 : decode cX5_townNow 27 = .ok (.invokevirtual 119, 3) := dk_182 0 119 (dk_at dksX5_townNow_1 5 rfl rfl)
theorem dX5_townNow_30 : decode cX5_townNow 30 = .ok (.iload_n 1, 1) := dk_27 (dk_at dksX5_townNow_1 8 rfl rfl)
theorem dX5_townNow_31 : decode cX5_townNow 31 = .ok (.ireturn, 1) := dk_172 (dk_at dksX5_townNow_1 9 rfl rfl)
abbrev cX5_crate : ByteArray := prog_8_method_23_code
def yX5_crate : MethodName := ⟨RX5, "crate", "(Z)V"⟩
def dkwX5_crate_4 : List UInt8 := [153, 0, 7, 4, 167, 0, 4, 3, 79, 42, 180, 0, 18, 89, 180, 0, 230, 4, 96, 181, 0, 230, 177]
abbrev dktX5_crate_4 : List UInt8 := dkwX5_crate_4 ++ []
def dkwX5_crate_3 : List UInt8 := [182, 0, 218, 79, 42, 182, 0, 111, 42, 180, 0, 27, 180, 0, 241, 28, 42, 18, 244, 182, 0, 184]
abbrev dktX5_crate_3 : List UInt8 := dkwX5_crate_3 ++ dktX5_crate_4
def dkwX5_crate_2 : List UInt8 := [180, 0, 235, 28, 27, 153, 0, 7, 4, 167, 0, 4, 3, 79, 42, 180, 0, 27, 180, 0, 238, 28, 42]
abbrev dktX5_crate_2 : List UInt8 := dkwX5_crate_2 ++ dktX5_crate_3
def dkwX5_crate_1 : List UInt8 := [42, 182, 0, 111, 42, 180, 0, 27, 180, 0, 232, 28, 42, 3, 16, 99, 182, 0, 131, 79, 42, 180, 0, 27]
abbrev dktX5_crate_1 : List UInt8 := dkwX5_crate_1 ++ dktX5_crate_2
def dkwX5_crate_0 : List UInt8 := [42, 180, 0, 18, 180, 0, 230, 61, 42, 28, 16, 10, 162, 0, 7, 4, 167, 0, 4, 3, 5, 182, 0, 119]
abbrev dktX5_crate_0 : List UInt8 := dkwX5_crate_0 ++ dktX5_crate_1
theorem dksX5_crate_0 : cX5_crate.data.toList.drop 0 = dktX5_crate_0 := by decide +kernel
theorem dksX5_crate_1 : cX5_crate.data.toList.drop 24 = dktX5_crate_1 := dk_seg dksX5_crate_0 24 rfl rfl
theorem dksX5_crate_2 : cX5_crate.data.toList.drop 48 = dktX5_crate_2 := dk_seg dksX5_crate_1 24 rfl rfl
theorem dksX5_crate_3 : cX5_crate.data.toList.drop 71 = dktX5_crate_3 := dk_seg dksX5_crate_2 23 rfl rfl
theorem dksX5_crate_4 : cX5_crate.data.toList.drop 93 = dktX5_crate_4 := dk_seg dksX5_crate_3 22 rfl rfl
theorem dX5_crate_0 : decode cX5_crate 0 = .ok (.aload_n 0, 1) := dk_42 (dk_at dksX5_crate_0 0 rfl rfl)
theorem dX5_crate_1 : decode cX5_crate 1 = .ok (.getfield 18, 3) := dk_180 0 18 (dk_at dksX5_crate_0 1 rfl rfl)
theorem dX5_crate_4 : decode cX5_crate 4 = .ok (.getfield 230, 3) := dk_180 0 230 (dk_at dksX5_crate_0 4 rfl rfl)
theorem dX5_crate_7 : decode cX5_crate 7 = .ok (.istore_n 2, 1) := dk_61 (dk_at dksX5_crate_0 7 rfl rfl)
theorem dX5_crate_8 : decode cX5_crate 8 = .ok (.aload_n 0, 1) := dk_42 (dk_at dksX5_crate_0 8 rfl rfl)
theorem dX5_crate_9 : decode cX5_crate 9 = .ok (.iload_n 2, 1) := dk_28 (dk_at dksX5_crate_0 9 rfl rfl)
theorem dX5_crate_10 : decode cX5_crate 10 = .ok (.bipush 10, 2) := dk_16 10 (dk_at dksX5_crate_0 10 rfl rfl)
theorem dX5_crate_12 : decode cX5_crate 12 = .ok (.if_icmp .ge 7, 3) := dk_162 0 7 (dk_at dksX5_crate_0 12 rfl rfl)
theorem dX5_crate_15 : decode cX5_crate 15 = .ok (.iconst 1, 1) := dk_4 (dk_at dksX5_crate_0 15 rfl rfl)
theorem dX5_crate_16 : decode cX5_crate 16 = .ok (.goto 4, 3) := dk_167 0 4 (dk_at dksX5_crate_0 16 rfl rfl)
theorem dX5_crate_19 : decode cX5_crate 19 = .ok (.iconst 0, 1) := dk_3 (dk_at dksX5_crate_0 19 rfl rfl)
theorem dX5_crate_20 : decode cX5_crate 20 = .ok (.iconst 2, 1) := dk_5 (dk_at dksX5_crate_0 20 rfl rfl)
theorem dX5_crate_21 : decode cX5_crate 21 = .ok (.invokevirtual 119, 3) := dk_182 0 119 (dk_at dksX5_crate_0 21 rfl rfl)
theorem dX5_crate_24 : decode cX5_crate 24 = .ok (.aload_n 0, 1) := dk_42 (dk_at dksX5_crate_1 0 rfl rfl)
theorem dX5_crate_25 : decode cX5_crate 25 = .ok (.invokevirtual 111, 3) := dk_182 0 111 (dk_at dksX5_crate_1 1 rfl rfl)
theorem dX5_crate_28 : decode cX5_crate 28 = .ok (.aload_n 0, 1) := dk_42 (dk_at dksX5_crate_1 4 rfl rfl)
theorem dX5_crate_29 : decode cX5_crate 29 = .ok (.getfield 27, 3) := dk_180 0 27 (dk_at dksX5_crate_1 5 rfl rfl)
theorem dX5_crate_32 : decode cX5_crate 32 = .ok (.getfield 232, 3) := dk_180 0 232 (dk_at dksX5_crate_1 8 rfl rfl)
theorem dX5_crate_35 : decode cX5_crate 35 = .ok (.iload_n 2, 1) := dk_28 (dk_at dksX5_crate_1 11 rfl rfl)
theorem dX5_crate_36 : decode cX5_crate 36 = .ok (.aload_n 0, 1) := dk_42 (dk_at dksX5_crate_1 12 rfl rfl)
theorem dX5_crate_37 : decode cX5_crate 37 = .ok (.iconst 0, 1) := dk_3 (dk_at dksX5_crate_1 13 rfl rfl)
theorem dX5_crate_38 : decode cX5_crate 38 = .ok (.bipush 99, 2) := dk_16 99 (dk_at dksX5_crate_1 14 rfl rfl)
theorem dX5_crate_40 : decode cX5_crate 40 = .ok (.invokevirtual 131, 3) := dk_182 0 131 (dk_at dksX5_crate_1 16 rfl rfl)
theorem dX5_crate_43 : decode cX5_crate 43 = .ok (.iastore, 1) := dk_79 (dk_at dksX5_crate_1 19 rfl rfl)
theorem dX5_crate_44 : decode cX5_crate 44 = .ok (.aload_n 0, 1) := dk_42 (dk_at dksX5_crate_1 20 rfl rfl)
theorem dX5_crate_45 : decode cX5_crate 45 = .ok (.getfield 27, 3) := dk_180 0 27 (dk_at dksX5_crate_1 21 rfl rfl)
theorem dX5_crate_48 : decode cX5_crate 48 = .ok (.getfield 235, 3) := dk_180 0 235 (dk_at dksX5_crate_2 0 rfl rfl)
theorem dX5_crate_51 : decode cX5_crate 51 = .ok (.iload_n 2, 1) := dk_28 (dk_at dksX5_crate_2 3 rfl rfl)
theorem dX5_crate_52 : decode cX5_crate 52 = .ok (.iload_n 1, 1) := dk_27 (dk_at dksX5_crate_2 4 rfl rfl)
theorem dX5_crate_53 : decode cX5_crate 53 = .ok (.ifCond .eq 7, 3) := dk_153 0 7 (dk_at dksX5_crate_2 5 rfl rfl)
theorem dX5_crate_56 : decode cX5_crate 56 = .ok (.iconst 1, 1) := dk_4 (dk_at dksX5_crate_2 8 rfl rfl)
theorem dX5_crate_57 : decode cX5_crate 57 = .ok (.goto 4, 3) := dk_167 0 4 (dk_at dksX5_crate_2 9 rfl rfl)
theorem dX5_crate_60 : decode cX5_crate 60 = .ok (.iconst 0, 1) := dk_3 (dk_at dksX5_crate_2 12 rfl rfl)
theorem dX5_crate_61 : decode cX5_crate 61 = .ok (.iastore, 1) := dk_79 (dk_at dksX5_crate_2 13 rfl rfl)
theorem dX5_crate_62 : decode cX5_crate 62 = .ok (.aload_n 0, 1) := dk_42 (dk_at dksX5_crate_2 14 rfl rfl)
theorem dX5_crate_63 : decode cX5_crate 63 = .ok (.getfield 27, 3) := dk_180 0 27 (dk_at dksX5_crate_2 15 rfl rfl)
theorem dX5_crate_66 : decode cX5_crate 66 = .ok (.getfield 238, 3) := dk_180 0 238 (dk_at dksX5_crate_2 18 rfl rfl)
theorem dX5_crate_69 : decode cX5_crate 69 = .ok (.iload_n 2, 1) := dk_28 (dk_at dksX5_crate_2 21 rfl rfl)
theorem dX5_crate_70 : decode cX5_crate 70 = .ok (.aload_n 0, 1) := dk_42 (dk_at dksX5_crate_2 22 rfl rfl)
theorem dX5_crate_71 : decode cX5_crate 71 = .ok (.invokevirtual 218, 3) := dk_182 0 218 (dk_at dksX5_crate_3 0 rfl rfl)
theorem dX5_crate_74 : decode cX5_crate 74 = .ok (.iastore, 1) := dk_79 (dk_at dksX5_crate_3 3 rfl rfl)
theorem dX5_crate_75 : decode cX5_crate 75 = .ok (.aload_n 0, 1) := dk_42 (dk_at dksX5_crate_3 4 rfl rfl)
theorem dX5_crate_76 : decode cX5_crate 76 = .ok (.invokevirtual 111, 3) := dk_182 0 111 (dk_at dksX5_crate_3 5 rfl rfl)
theorem dX5_crate_79 : decode cX5_crate 79 = .ok (.aload_n 0, 1) := dk_42 (dk_at dksX5_crate_3 8 rfl rfl)
theorem dX5_crate_80 : decode cX5_crate 80 = .ok (.getfield 27, 3) := dk_180 0 27 (dk_at dksX5_crate_3 9 rfl rfl)
theorem dX5_crate_83 : decode cX5_crate 83 = .ok (.getfield 241, 3) := dk_180 0 241 (dk_at dksX5_crate_3 12 rfl rfl)
theorem dX5_crate_86 : decode cX5_crate 86 = .ok (.iload_n 2, 1) := dk_28 (dk_at dksX5_crate_3 15 rfl rfl)
theorem dX5_crate_87 : decode cX5_crate 87 = .ok (.aload_n 0, 1) := dk_42 (dk_at dksX5_crate_3 16 rfl rfl)
theorem dX5_crate_88 : decode cX5_crate 88 = .ok (.ldc 244, 2) := dk_18 244 (dk_at dksX5_crate_3 17 rfl rfl)
theorem dX5_crate_90 : decode cX5_crate 90 = .ok (.invokevirtual 184, 3) := dk_182 0 184 (dk_at dksX5_crate_3 19 rfl rfl)
theorem dX5_crate_93 : decode cX5_crate 93 = .ok (.ifCond .eq 7, 3) := dk_153 0 7 (dk_at dksX5_crate_4 0 rfl rfl)
theorem dX5_crate_96 : decode cX5_crate 96 = .ok (.iconst 1, 1) := dk_4 (dk_at dksX5_crate_4 3 rfl rfl)
theorem dX5_crate_97 : decode cX5_crate 97 = .ok (.goto 4, 3) := dk_167 0 4 (dk_at dksX5_crate_4 4 rfl rfl)
theorem dX5_crate_100 : decode cX5_crate 100 = .ok (.iconst 0, 1) := dk_3 (dk_at dksX5_crate_4 7 rfl rfl)
theorem dX5_crate_101 : decode cX5_crate 101 = .ok (.iastore, 1) := dk_79 (dk_at dksX5_crate_4 8 rfl rfl)
theorem dX5_crate_102 : decode cX5_crate 102 = .ok (.aload_n 0, 1) := dk_42 (dk_at dksX5_crate_4 9 rfl rfl)
theorem dX5_crate_103 : decode cX5_crate 103 = .ok (.getfield 18, 3) := dk_180 0 18 (dk_at dksX5_crate_4 10 rfl rfl)
theorem dX5_crate_106 : decode cX5_crate 106 = .ok (.dup, 1) := dk_89 (dk_at dksX5_crate_4 13 rfl rfl)
theorem dX5_crate_107 : decode cX5_crate 107 = .ok (.getfield 230, 3) := dk_180 0 230 (dk_at dksX5_crate_4 14 rfl rfl)
theorem dX5_crate_110 : decode cX5_crate 110 = .ok (.iconst 1, 1) := dk_4 (dk_at dksX5_crate_4 17 rfl rfl)
theorem dX5_crate_111 : decode cX5_crate 111 = .ok (.iadd, 1) := dk_96 (dk_at dksX5_crate_4 18 rfl rfl)
theorem dX5_crate_112 : decode cX5_crate 112 = .ok (.putfield 230, 3) := dk_181 0 230 (dk_at dksX5_crate_4 19 rfl rfl)
theorem dX5_crate_115 : decode cX5_crate 115 = .ok (.return_, 1) := dk_177 (dk_at dksX5_crate_4 22 rfl rfl)
abbrev cX5_passes : ByteArray := prog_8_method_9_code
def yX5_passes : MethodName := ⟨RX5, "passes", "(Ljava/lang/String;)Z"⟩
def dkwX5_passes_0 : List UInt8 := [42, 43, 182, 0, 107, 61, 28, 153, 0, 7, 42, 182, 0, 111, 28, 172]
abbrev dktX5_passes_0 : List UInt8 := dkwX5_passes_0 ++ []
theorem dksX5_passes_0 : cX5_passes.data.toList.drop 0 = dktX5_passes_0 := by decide +kernel
theorem dX5_passes_0 : decode cX5_passes 0 = .ok (.aload_n 0, 1) := dk_42 (dk_at dksX5_passes_0 0 rfl rfl)
theorem dX5_passes_1 : decode cX5_passes 1 = .ok (.aload_n 1, 1) := dk_43 (dk_at dksX5_passes_0 1 rfl rfl)
theorem dX5_passes_2 : decode cX5_passes 2 = .ok (.invokevirtual 107, 3) := dk_182 0 107 (dk_at dksX5_passes_0 2 rfl rfl)
theorem dX5_passes_5 : decode cX5_passes 5 = .ok (.istore_n 2, 1) := dk_61 (dk_at dksX5_passes_0 5 rfl rfl)
theorem dX5_passes_6 : decode cX5_passes 6 = .ok (.iload_n 2, 1) := dk_28 (dk_at dksX5_passes_0 6 rfl rfl)
theorem dX5_passes_7 : decode cX5_passes 7 = .ok (.ifCond .eq 7, 3) := dk_153 0 7 (dk_at dksX5_passes_0 7 rfl rfl)
theorem dX5_passes_10 : decode cX5_passes 10 = .ok (.aload_n 0, 1) := dk_42 (dk_at dksX5_passes_0 10 rfl rfl)
theorem dX5_passes_11 : decode cX5_passes 11 = .ok (.invokevirtual 111, 3) := dk_182 0 111 (dk_at dksX5_passes_0 11 rfl rfl)
theorem dX5_passes_14 : decode cX5_passes 14 = .ok (.iload_n 2, 1) := dk_28 (dk_at dksX5_passes_0 14 rfl rfl)
theorem dX5_passes_15 : decode cX5_passes 15 = .ok (.ireturn, 1) := dk_172 (dk_at dksX5_passes_0 15 rfl rfl)
abbrev cX5_expression : ByteArray := prog_8_method_20_code
def yX5_expression : MethodName := ⟨RX5, "expression", "(I)LLuckCrates$Form;"⟩
def dkwX5_expression_3 : List UInt8 := [153, 0, 17, 44, 16, 124, 42, 27, 182, 0, 187, 182, 0, 161, 167, 255, 236, 44, 182, 0, 165, 176]
abbrev dktX5_expression_3 : List UInt8 := dkwX5_expression_3 ++ []
def dkwX5_expression_2 : List UInt8 := [5, 182, 0, 119, 187, 0, 149, 89, 42, 27, 182, 0, 187, 183, 0, 154, 77, 42, 18, 189, 182, 0, 184]
abbrev dktX5_expression_2 : List UInt8 := dkwX5_expression_2 ++ dktX5_expression_3
def dkwX5_expression_1 : List UInt8 := [153, 0, 7, 4, 167, 0, 4, 3, 4, 182, 0, 119, 42, 27, 16, 6, 162, 0, 7, 4, 167, 0, 4, 3]
abbrev dktX5_expression_1 : List UInt8 := dkwX5_expression_1 ++ dktX5_expression_2
def dkwX5_expression_0 : List UInt8 := [42, 42, 180, 0, 71, 5, 159, 0, 20, 42, 180, 0, 71, 4, 159, 0, 12, 42, 16, 40, 182, 0, 134]
abbrev dktX5_expression_0 : List UInt8 := dkwX5_expression_0 ++ dktX5_expression_1
theorem dksX5_expression_0 : cX5_expression.data.toList.drop 0 = dktX5_expression_0 := by decide +kernel
theorem dksX5_expression_1 : cX5_expression.data.toList.drop 23 = dktX5_expression_1 := dk_seg dksX5_expression_0 23 rfl rfl
theorem dksX5_expression_2 : cX5_expression.data.toList.drop 47 = dktX5_expression_2 := dk_seg dksX5_expression_1 24 rfl rfl
theorem dksX5_expression_3 : cX5_expression.data.toList.drop 70 = dktX5_expression_3 := dk_seg dksX5_expression_2 23 rfl rfl
theorem dX5_expression_0 : decode cX5_expression 0 = .ok (.aload_n 0, 1) := dk_42 (dk_at dksX5_expression_0 0 rfl rfl)
theorem dX5_expression_1 : decode cX5_expression 1 = .ok (.aload_n 0, 1) := dk_42 (dk_at dksX5_expression_0 1 rfl rfl)
theorem dX5_expression_2 : decode cX5_expression 2 = .ok (.getfield 71, 3) := dk_180 0 71 (dk_at dksX5_expression_0 2 rfl rfl)
theorem dX5_expression_5 : decode cX5_expression 5 = .ok (.iconst 2, 1) := dk_5 (dk_at dksX5_expression_0 5 rfl rfl)
theorem dX5_expression_6 : decode cX5_expression 6 = .ok (.if_icmp .eq 20, 3) := dk_159 0 20 (dk_at dksX5_expression_0 6 rfl rfl)
theorem dX5_expression_9 : decode cX5_expression 9 = .ok (.aload_n 0, 1) := dk_42 (dk_at dksX5_expression_0 9 rfl rfl)
theorem dX5_expression_10 : decode cX5_expression 10 = .ok (.getfield 71, 3) := dk_180 0 71 (dk_at dksX5_expression_0 10 rfl rfl)
theorem dX5_expression_13 : decode cX5_expression 13 = .ok (.iconst 1, 1) := dk_4 (dk_at dksX5_expression_0 13 rfl rfl)
theorem dX5_expression_14 : decode cX5_expression 14 = .ok (.if_icmp .eq 12, 3) := dk_159 0 12 (dk_at dksX5_expression_0 14 rfl rfl)
theorem dX5_expression_17 : decode cX5_expression 17 = .ok (.aload_n 0, 1) := dk_42 (dk_at dksX5_expression_0 17 rfl rfl)
theorem dX5_expression_18 : decode cX5_expression 18 = .ok (.bipush 40, 2) := dk_16 40 (dk_at dksX5_expression_0 18 rfl rfl)
theorem dX5_expression_20 : decode cX5_expression 20 = .ok (.invokevirtual 134, 3) := dk_182 0 134 (dk_at dksX5_expression_0 20 rfl rfl)
theorem dX5_expression_23 : decode cX5_expression 23 = .ok (.ifCond .eq 7, 3) := dk_153 0 7 (dk_at dksX5_expression_1 0 rfl rfl)
theorem dX5_expression_26 : decode cX5_expression 26 = .ok (.iconst 1, 1) := dk_4 (dk_at dksX5_expression_1 3 rfl rfl)
theorem dX5_expression_27 : decode cX5_expression 27 = .ok (.goto 4, 3) := dk_167 0 4 (dk_at dksX5_expression_1 4 rfl rfl)
theorem dX5_expression_30 : decode cX5_expression 30 = .ok (.iconst 0, 1) := dk_3 (dk_at dksX5_expression_1 7 rfl rfl)
theorem dX5_expression_31 : decode cX5_expression 31 = .ok (.iconst 1, 1) := dk_4 (dk_at dksX5_expression_1 8 rfl rfl)
theorem dX5_expression_32 : decode cX5_expression 32 = .ok (.invokevirtual 119, 3) := dk_182 0 119 (dk_at dksX5_expression_1 9 rfl rfl)
theorem dX5_expression_35 : decode cX5_expression 35 = .ok (.aload_n 0, 1) := dk_42 (dk_at dksX5_expression_1 12 rfl rfl)
theorem dX5_expression_36 : decode cX5_expression 36 = .ok (.iload_n 1, 1) := dk_27 (dk_at dksX5_expression_1 13 rfl rfl)
theorem dX5_expression_37 : decode cX5_expression 37 = .ok (.bipush 6, 2) := dk_16 6 (dk_at dksX5_expression_1 14 rfl rfl)
theorem dX5_expression_39 : decode cX5_expression 39 = .ok (.if_icmp .ge 7, 3) := dk_162 0 7 (dk_at dksX5_expression_1 16 rfl rfl)
theorem dX5_expression_42 : decode cX5_expression 42 = .ok (.iconst 1, 1) := dk_4 (dk_at dksX5_expression_1 19 rfl rfl)
theorem dX5_expression_43 : decode cX5_expression 43 = .ok (.goto 4, 3) := dk_167 0 4 (dk_at dksX5_expression_1 20 rfl rfl)
theorem dX5_expression_46 : decode cX5_expression 46 = .ok (.iconst 0, 1) := dk_3 (dk_at dksX5_expression_1 23 rfl rfl)
theorem dX5_expression_47 : decode cX5_expression 47 = .ok (.iconst 2, 1) := dk_5 (dk_at dksX5_expression_2 0 rfl rfl)
theorem dX5_expression_48 : decode cX5_expression 48 = .ok (.invokevirtual 119, 3) := dk_182 0 119 (dk_at dksX5_expression_2 1 rfl rfl)
theorem dX5_expression_51 : decode cX5_expression 51 = .ok (.new 149, 3) := dk_187 0 149 (dk_at dksX5_expression_2 4 rfl rfl)
theorem dX5_expression_54 : decode cX5_expression 54 = .ok (.dup, 1) := dk_89 (dk_at dksX5_expression_2 7 rfl rfl)
theorem dX5_expression_55 : decode cX5_expression 55 = .ok (.aload_n 0, 1) := dk_42 (dk_at dksX5_expression_2 8 rfl rfl)
theorem dX5_expression_56 : decode cX5_expression 56 = .ok (.iload_n 1, 1) := dk_27 (dk_at dksX5_expression_2 9 rfl rfl)
theorem dX5_expression_57 : decode cX5_expression 57 = .ok (.invokevirtual 187, 3) := dk_182 0 187 (dk_at dksX5_expression_2 10 rfl rfl)
theorem dX5_expression_60 : decode cX5_expression 60 = .ok (.invokespecial 154, 3) := dk_183 0 154 (dk_at dksX5_expression_2 13 rfl rfl)
theorem dX5_expression_63 : decode cX5_expression 63 = .ok (.astore_n 2, 1) := dk_77 (dk_at dksX5_expression_2 16 rfl rfl)
theorem dX5_expression_64 : decode cX5_expression 64 = .ok (.aload_n 0, 1) := dk_42 (dk_at dksX5_expression_2 17 rfl rfl)
theorem dX5_expression_65 : decode cX5_expression 65 = .ok (.ldc 189, 2) := dk_18 189 (dk_at dksX5_expression_2 18 rfl rfl)
theorem dX5_expression_67 : decode cX5_expression 67 = .ok (.invokevirtual 184, 3) := dk_182 0 184 (dk_at dksX5_expression_2 20 rfl rfl)
theorem dX5_expression_70 : decode cX5_expression 70 = .ok (.ifCond .eq 17, 3) := dk_153 0 17 (dk_at dksX5_expression_3 0 rfl rfl)
theorem dX5_expression_73 : decode cX5_expression 73 = .ok (.aload_n 2, 1) := dk_44 (dk_at dksX5_expression_3 3 rfl rfl)
theorem dX5_expression_74 : decode cX5_expression 74 = .ok (.bipush 124, 2) := dk_16 124 (dk_at dksX5_expression_3 4 rfl rfl)
theorem dX5_expression_76 : decode cX5_expression 76 = .ok (.aload_n 0, 1) := dk_42 (dk_at dksX5_expression_3 6 rfl rfl)
theorem dX5_expression_77 : decode cX5_expression 77 = .ok (.iload_n 1, 1) := dk_27 (dk_at dksX5_expression_3 7 rfl rfl)
theorem dX5_expression_78 : decode cX5_expression 78 = .ok (.invokevirtual 187, 3) := dk_182 0 187 (dk_at dksX5_expression_3 8 rfl rfl)
theorem dX5_expression_81 : decode cX5_expression 81 = .ok (.invokevirtual 161, 3) := dk_182 0 161 (dk_at dksX5_expression_3 11 rfl rfl)
theorem dX5_expression_84 : decode cX5_expression 84 = .ok (.goto (-20), 3) := dk_167 255 236 (dk_at dksX5_expression_3 14 rfl rfl)
theorem dX5_expression_87 : decode cX5_expression 87 = .ok (.aload_n 2, 1) := dk_44 (dk_at dksX5_expression_3 17 rfl rfl)
theorem dX5_expression_88 : decode cX5_expression 88 = .ok (.invokevirtual 165, 3) := dk_182 0 165 (dk_at dksX5_expression_3 18 rfl rfl)
theorem dX5_expression_91 : decode cX5_expression 91 = .ok (.areturn, 1) := dk_176 (dk_at dksX5_expression_3 21 rfl rfl)
abbrev cX5_isSign : ByteArray := prog_8_method_8_code
def yX5_isSign : MethodName := ⟨RX5, "isSign", "(C)Z"⟩
def dkwX5_isSign_1 : List UInt8 := [4, 167, 0, 4, 3, 172]
abbrev dktX5_isSign_1 : List UInt8 := dkwX5_isSign_1 ++ []
def dkwX5_isSign_0 : List UInt8 := [42, 180, 0, 71, 6, 160, 0, 23, 42, 180, 0, 3, 180, 0, 56, 42, 180, 0, 68, 51, 27, 160, 0, 7]
abbrev dktX5_isSign_0 : List UInt8 := dkwX5_isSign_0 ++ dktX5_isSign_1
theorem dksX5_isSign_0 : cX5_isSign.data.toList.drop 0 = dktX5_isSign_0 := by decide +kernel
theorem dksX5_isSign_1 : cX5_isSign.data.toList.drop 24 = dktX5_isSign_1 := dk_seg dksX5_isSign_0 24 rfl rfl
theorem dX5_isSign_0 : decode cX5_isSign 0 = .ok (.aload_n 0, 1) := dk_42 (dk_at dksX5_isSign_0 0 rfl rfl)
theorem dX5_isSign_1 : decode cX5_isSign 1 = .ok (.getfield 71, 3) := dk_180 0 71 (dk_at dksX5_isSign_0 1 rfl rfl)
theorem dX5_isSign_4 : decode cX5_isSign 4 = .ok (.iconst 3, 1) := dk_6 (dk_at dksX5_isSign_0 4 rfl rfl)
theorem dX5_isSign_5 : decode cX5_isSign 5 = .ok (.if_icmp .ne 23, 3) := dk_160 0 23 (dk_at dksX5_isSign_0 5 rfl rfl)
theorem dX5_isSign_8 : decode cX5_isSign 8 = .ok (.aload_n 0, 1) := dk_42 (dk_at dksX5_isSign_0 8 rfl rfl)
theorem dX5_isSign_9 : decode cX5_isSign 9 = .ok (.getfield 3, 3) := dk_180 0 3 (dk_at dksX5_isSign_0 9 rfl rfl)
theorem dX5_isSign_12 : decode cX5_isSign 12 = .ok (.getfield 56, 3) := dk_180 0 56 (dk_at dksX5_isSign_0 12 rfl rfl)
theorem dX5_isSign_15 : decode cX5_isSign 15 = .ok (.aload_n 0, 1) := dk_42 (dk_at dksX5_isSign_0 15 rfl rfl)
theorem dX5_isSign_16 : decode cX5_isSign 16 = .ok (.getfield 68, 3) := dk_180 0 68 (dk_at dksX5_isSign_0 16 rfl rfl)
theorem dX5_isSign_19 : decode cX5_isSign 19 = .ok (.baload, 1) := dk_51 (dk_at dksX5_isSign_0 19 rfl rfl)
theorem dX5_isSign_20 : decode cX5_isSign 20 = .ok (.iload_n 1, 1) := dk_27 (dk_at dksX5_isSign_0 20 rfl rfl)
theorem dX5_isSign_21 : decode cX5_isSign 21 = .ok (.if_icmp .ne 7, 3) := dk_160 0 7 (dk_at dksX5_isSign_0 21 rfl rfl)
theorem dX5_isSign_24 : decode cX5_isSign 24 = .ok (.iconst 1, 1) := dk_4 (dk_at dksX5_isSign_1 0 rfl rfl)
theorem dX5_isSign_25 : decode cX5_isSign 25 = .ok (.goto 4, 3) := dk_167 0 4 (dk_at dksX5_isSign_1 1 rfl rfl)
theorem dX5_isSign_28 : decode cX5_isSign 28 = .ok (.iconst 0, 1) := dk_3 (dk_at dksX5_isSign_1 4 rfl rfl)
theorem dX5_isSign_29 : decode cX5_isSign 29 = .ok (.ireturn, 1) := dk_172 (dk_at dksX5_isSign_1 5 rfl rfl)
abbrev cX5_and : ByteArray := prog_8_method_19_code
def yX5_and : MethodName := ⟨RX5, "and", "(I)LLuckCrates$Form;"⟩
def dkwX5_and_1 : List UInt8 := [16, 38, 42, 27, 182, 0, 180, 182, 0, 161, 167, 255, 236, 44, 182, 0, 165, 176]
abbrev dktX5_and_1 : List UInt8 := dkwX5_and_1 ++ []
def dkwX5_and_0 : List UInt8 := [187, 0, 149, 89, 42, 27, 182, 0, 180, 183, 0, 154, 77, 42, 18, 182, 182, 0, 184, 153, 0, 17, 44]
abbrev dktX5_and_0 : List UInt8 := dkwX5_and_0 ++ dktX5_and_1
theorem dksX5_and_0 : cX5_and.data.toList.drop 0 = dktX5_and_0 := by decide +kernel
theorem dksX5_and_1 : cX5_and.data.toList.drop 23 = dktX5_and_1 := dk_seg dksX5_and_0 23 rfl rfl
theorem dX5_and_0 : decode cX5_and 0 = .ok (.new 149, 3) := dk_187 0 149 (dk_at dksX5_and_0 0 rfl rfl)
theorem dX5_and_3 : decode cX5_and 3 = .ok (.dup, 1) := dk_89 (dk_at dksX5_and_0 3 rfl rfl)
theorem dX5_and_4 : decode cX5_and 4 = .ok (.aload_n 0, 1) := dk_42 (dk_at dksX5_and_0 4 rfl rfl)
theorem dX5_and_5 : decode cX5_and 5 = .ok (.iload_n 1, 1) := dk_27 (dk_at dksX5_and_0 5 rfl rfl)
theorem dX5_and_6 : decode cX5_and 6 = .ok (.invokevirtual 180, 3) := dk_182 0 180 (dk_at dksX5_and_0 6 rfl rfl)
theorem dX5_and_9 : decode cX5_and 9 = .ok (.invokespecial 154, 3) := dk_183 0 154 (dk_at dksX5_and_0 9 rfl rfl)
theorem dX5_and_12 : decode cX5_and 12 = .ok (.astore_n 2, 1) := dk_77 (dk_at dksX5_and_0 12 rfl rfl)
theorem dX5_and_13 : decode cX5_and 13 = .ok (.aload_n 0, 1) := dk_42 (dk_at dksX5_and_0 13 rfl rfl)
theorem dX5_and_14 : decode cX5_and 14 = .ok (.ldc 182, 2) := dk_18 182 (dk_at dksX5_and_0 14 rfl rfl)
theorem dX5_and_16 : decode cX5_and 16 = .ok (.invokevirtual 184, 3) := dk_182 0 184 (dk_at dksX5_and_0 16 rfl rfl)
theorem dX5_and_19 : decode cX5_and 19 = .ok (.ifCond .eq 17, 3) := dk_153 0 17 (dk_at dksX5_and_0 19 rfl rfl)
theorem dX5_and_22 : decode cX5_and 22 = .ok (.aload_n 2, 1) := dk_44 (dk_at dksX5_and_0 22 rfl rfl)
theorem dX5_and_23 : decode cX5_and 23 = .ok (.bipush 38, 2) := dk_16 38 (dk_at dksX5_and_1 0 rfl rfl)
theorem dX5_and_25 : decode cX5_and 25 = .ok (.aload_n 0, 1) := dk_42 (dk_at dksX5_and_1 2 rfl rfl)
theorem dX5_and_26 : decode cX5_and 26 = .ok (.iload_n 1, 1) := dk_27 (dk_at dksX5_and_1 3 rfl rfl)
theorem dX5_and_27 : decode cX5_and 27 = .ok (.invokevirtual 180, 3) := dk_182 0 180 (dk_at dksX5_and_1 4 rfl rfl)
theorem dX5_and_30 : decode cX5_and 30 = .ok (.invokevirtual 161, 3) := dk_182 0 161 (dk_at dksX5_and_1 7 rfl rfl)
theorem dX5_and_33 : decode cX5_and 33 = .ok (.goto (-20), 3) := dk_167 255 236 (dk_at dksX5_and_1 10 rfl rfl)
theorem dX5_and_36 : decode cX5_and 36 = .ok (.aload_n 2, 1) := dk_44 (dk_at dksX5_and_1 13 rfl rfl)
theorem dX5_and_37 : decode cX5_and 37 = .ok (.invokevirtual 165, 3) := dk_182 0 165 (dk_at dksX5_and_1 14 rfl rfl)
theorem dX5_and_40 : decode cX5_and 40 = .ok (.areturn, 1) := dk_176 (dk_at dksX5_and_1 17 rfl rfl)
abbrev cX5_not : ByteArray := prog_8_method_18_code
def yX5_not : MethodName := ⟨RX5, "not", "(I)LLuckCrates$Form;"⟩
def dkwX5_not_5 : List UInt8 := [167, 255, 236, 25, 4, 176]
abbrev dktX5_not_5 : List UInt8 := dkwX5_not_5 ++ []
def dkwX5_not_4 : List UInt8 := [54, 5, 21, 5, 28, 162, 0, 20, 187, 0, 177, 89, 25, 4, 183, 0, 179, 58, 4, 132, 5, 1]
abbrev dktX5_not_4 : List UInt8 := dkwX5_not_4 ++ dktX5_not_5
def dkwX5_not_3 : List UInt8 := [182, 0, 157, 54, 4, 45, 21, 4, 42, 27, 182, 0, 174, 182, 0, 161, 45, 182, 0, 165, 58, 4, 3]
abbrev dktX5_not_3 : List UInt8 := dkwX5_not_3 ++ dktX5_not_4
def dkwX5_not_2 : List UInt8 := [183, 0, 154, 78, 42, 16, 60, 182, 0, 134, 154, 0, 12, 42, 16, 61, 182, 0, 134, 153, 0, 20, 42]
abbrev dktX5_not_2 : List UInt8 := dkwX5_not_2 ++ dktX5_not_3
def dkwX5_not_1 : List UInt8 := [182, 0, 119, 132, 2, 1, 42, 182, 0, 111, 167, 255, 224, 187, 0, 149, 89, 42, 27, 182, 0, 174]
abbrev dktX5_not_1 : List UInt8 := dkwX5_not_1 ++ dktX5_not_2
def dkwX5_not_0 : List UInt8 := [3, 61, 42, 18, 172, 182, 0, 107, 153, 0, 29, 42, 28, 16, 6, 162, 0, 7, 4, 167, 0, 4, 3, 5]
abbrev dktX5_not_0 : List UInt8 := dkwX5_not_0 ++ dktX5_not_1
theorem dksX5_not_0 : cX5_not.data.toList.drop 0 = dktX5_not_0 := by decide +kernel
theorem dksX5_not_1 : cX5_not.data.toList.drop 24 = dktX5_not_1 := dk_seg dksX5_not_0 24 rfl rfl
theorem dksX5_not_2 : cX5_not.data.toList.drop 46 = dktX5_not_2 := dk_seg dksX5_not_1 22 rfl rfl
theorem dksX5_not_3 : cX5_not.data.toList.drop 69 = dktX5_not_3 := dk_seg dksX5_not_2 23 rfl rfl
theorem dksX5_not_4 : cX5_not.data.toList.drop 92 = dktX5_not_4 := dk_seg dksX5_not_3 23 rfl rfl
theorem dksX5_not_5 : cX5_not.data.toList.drop 114 = dktX5_not_5 := dk_seg dksX5_not_4 22 rfl rfl
theorem dX5_not_0 : decode cX5_not 0 = .ok (.iconst 0, 1) := dk_3 (dk_at dksX5_not_0 0 rfl rfl)
theorem dX5_not_1 : decode cX5_not 1 = .ok (.istore_n 2, 1) := dk_61 (dk_at dksX5_not_0 1 rfl rfl)
theorem dX5_not_2 : decode cX5_not 2 = .ok (.aload_n 0, 1) := dk_42 (dk_at dksX5_not_0 2 rfl rfl)
theorem dX5_not_3 : decode cX5_not 3 = .ok (.ldc 172, 2) := dk_18 172 (dk_at dksX5_not_0 3 rfl rfl)
theorem dX5_not_5 : decode cX5_not 5 = .ok (.invokevirtual 107, 3) := dk_182 0 107 (dk_at dksX5_not_0 5 rfl rfl)
theorem dX5_not_8 : decode cX5_not 8 = .ok (.ifCond .eq 29, 3) := dk_153 0 29 (dk_at dksX5_not_0 8 rfl rfl)
theorem dX5_not_11 : decode cX5_not 11 = .ok (.aload_n 0, 1) := dk_42 (dk_at dksX5_not_0 11 rfl rfl)
theorem dX5_not_12 : decode cX5_not 12 = .ok (.iload_n 2, 1) := dk_28 (dk_at dksX5_not_0 12 rfl rfl)
theorem dX5_not_13 : decode cX5_not 13 = .ok (.bipush 6, 2) := dk_16 6 (dk_at dksX5_not_0 13 rfl rfl)
theorem dX5_not_15 : decode cX5_not 15 = .ok (.if_icmp .ge 7, 3) := dk_162 0 7 (dk_at dksX5_not_0 15 rfl rfl)
theorem dX5_not_18 : decode cX5_not 18 = .ok (.iconst 1, 1) := dk_4 (dk_at dksX5_not_0 18 rfl rfl)
theorem dX5_not_19 : decode cX5_not 19 = .ok (.goto 4, 3) := dk_167 0 4 (dk_at dksX5_not_0 19 rfl rfl)
theorem dX5_not_22 : decode cX5_not 22 = .ok (.iconst 0, 1) := dk_3 (dk_at dksX5_not_0 22 rfl rfl)
theorem dX5_not_23 : decode cX5_not 23 = .ok (.iconst 2, 1) := dk_5 (dk_at dksX5_not_0 23 rfl rfl)
theorem dX5_not_24 : decode cX5_not 24 = .ok (.invokevirtual 119, 3) := dk_182 0 119 (dk_at dksX5_not_1 0 rfl rfl)
theorem dX5_not_27 : decode cX5_not 27 = .ok (.iinc 2 1, 3) := dk_132 2 1 (dk_at dksX5_not_1 3 rfl rfl)
theorem dX5_not_30 : decode cX5_not 30 = .ok (.aload_n 0, 1) := dk_42 (dk_at dksX5_not_1 6 rfl rfl)
theorem dX5_not_31 : decode cX5_not 31 = .ok (.invokevirtual 111, 3) := dk_182 0 111 (dk_at dksX5_not_1 7 rfl rfl)
theorem dX5_not_34 : decode cX5_not 34 = .ok (.goto (-32), 3) := dk_167 255 224 (dk_at dksX5_not_1 10 rfl rfl)
theorem dX5_not_37 : decode cX5_not 37 = .ok (.new 149, 3) := dk_187 0 149 (dk_at dksX5_not_1 13 rfl rfl)
theorem dX5_not_40 : decode cX5_not 40 = .ok (.dup, 1) := dk_89 (dk_at dksX5_not_1 16 rfl rfl)
theorem dX5_not_41 : decode cX5_not 41 = .ok (.aload_n 0, 1) := dk_42 (dk_at dksX5_not_1 17 rfl rfl)
theorem dX5_not_42 : decode cX5_not 42 = .ok (.iload_n 1, 1) := dk_27 (dk_at dksX5_not_1 18 rfl rfl)
theorem dX5_not_43 : decode cX5_not 43 = .ok (.invokevirtual 174, 3) := dk_182 0 174 (dk_at dksX5_not_1 19 rfl rfl)
theorem dX5_not_46 : decode cX5_not 46 = .ok (.invokespecial 154, 3) := dk_183 0 154 (dk_at dksX5_not_2 0 rfl rfl)
theorem dX5_not_49 : decode cX5_not 49 = .ok (.astore_n 3, 1) := dk_78 (dk_at dksX5_not_2 3 rfl rfl)
theorem dX5_not_50 : decode cX5_not 50 = .ok (.aload_n 0, 1) := dk_42 (dk_at dksX5_not_2 4 rfl rfl)
theorem dX5_not_51 : decode cX5_not 51 = .ok (.bipush 60, 2) := dk_16 60 (dk_at dksX5_not_2 5 rfl rfl)
theorem dX5_not_53 : decode cX5_not 53 = .ok (.invokevirtual 134, 3) := dk_182 0 134 (dk_at dksX5_not_2 7 rfl rfl)
theorem dX5_not_56 : decode cX5_not 56 = .ok (.ifCond .ne 12, 3) := dk_154 0 12 (dk_at dksX5_not_2 10 rfl rfl)
theorem dX5_not_59 : decode cX5_not 59 = .ok (.aload_n 0, 1) := dk_42 (dk_at dksX5_not_2 13 rfl rfl)
theorem dX5_not_60 : decode cX5_not 60 = .ok (.bipush 61, 2) := dk_16 61 (dk_at dksX5_not_2 14 rfl rfl)
theorem dX5_not_62 : decode cX5_not 62 = .ok (.invokevirtual 134, 3) := dk_182 0 134 (dk_at dksX5_not_2 16 rfl rfl)
theorem dX5_not_65 : decode cX5_not 65 = .ok (.ifCond .eq 20, 3) := dk_153 0 20 (dk_at dksX5_not_2 19 rfl rfl)
theorem dX5_not_68 : decode cX5_not 68 = .ok (.aload_n 0, 1) := dk_42 (dk_at dksX5_not_2 22 rfl rfl)
theorem dX5_not_69 : decode cX5_not 69 = .ok (.invokevirtual 157, 3) := dk_182 0 157 (dk_at dksX5_not_3 0 rfl rfl)
theorem dX5_not_72 : decode cX5_not 72 = .ok (.istore 4, 2) := dk_54 4 (dk_at dksX5_not_3 3 rfl rfl)
theorem dX5_not_74 : decode cX5_not 74 = .ok (.aload_n 3, 1) := dk_45 (dk_at dksX5_not_3 5 rfl rfl)
theorem dX5_not_75 : decode cX5_not 75 = .ok (.iload 4, 2) := dk_21 4 (dk_at dksX5_not_3 6 rfl rfl)
theorem dX5_not_77 : decode cX5_not 77 = .ok (.aload_n 0, 1) := dk_42 (dk_at dksX5_not_3 8 rfl rfl)
theorem dX5_not_78 : decode cX5_not 78 = .ok (.iload_n 1, 1) := dk_27 (dk_at dksX5_not_3 9 rfl rfl)
theorem dX5_not_79 : decode cX5_not 79 = .ok (.invokevirtual 174, 3) := dk_182 0 174 (dk_at dksX5_not_3 10 rfl rfl)
theorem dX5_not_82 : decode cX5_not 82 = .ok (.invokevirtual 161, 3) := dk_182 0 161 (dk_at dksX5_not_3 13 rfl rfl)
theorem dX5_not_85 : decode cX5_not 85 = .ok (.aload_n 3, 1) := dk_45 (dk_at dksX5_not_3 16 rfl rfl)
theorem dX5_not_86 : decode cX5_not 86 = .ok (.invokevirtual 165, 3) := dk_182 0 165 (dk_at dksX5_not_3 17 rfl rfl)
theorem dX5_not_89 : decode cX5_not 89 = .ok (.astore 4, 2) := dk_58 4 (dk_at dksX5_not_3 20 rfl rfl)
theorem dX5_not_91 : decode cX5_not 91 = .ok (.iconst 0, 1) := dk_3 (dk_at dksX5_not_3 22 rfl rfl)
theorem dX5_not_92 : decode cX5_not 92 = .ok (.istore 5, 2) := dk_54 5 (dk_at dksX5_not_4 0 rfl rfl)
theorem dX5_not_94 : decode cX5_not 94 = .ok (.iload 5, 2) := dk_21 5 (dk_at dksX5_not_4 2 rfl rfl)
theorem dX5_not_96 : decode cX5_not 96 = .ok (.iload_n 2, 1) := dk_28 (dk_at dksX5_not_4 4 rfl rfl)
theorem dX5_not_97 : decode cX5_not 97 = .ok (.if_icmp .ge 20, 3) := dk_162 0 20 (dk_at dksX5_not_4 5 rfl rfl)
theorem dX5_not_100 : decode cX5_not 100 = .ok (.new 177, 3) := dk_187 0 177 (dk_at dksX5_not_4 8 rfl rfl)
theorem dX5_not_103 : decode cX5_not 103 = .ok (.dup, 1) := dk_89 (dk_at dksX5_not_4 11 rfl rfl)
theorem dX5_not_104 : decode cX5_not 104 = .ok (.aload 4, 2) := dk_25 4 (dk_at dksX5_not_4 12 rfl rfl)
theorem dX5_not_106 : decode cX5_not 106 = .ok (.invokespecial 179, 3) := dk_183 0 179 (dk_at dksX5_not_4 14 rfl rfl)
theorem dX5_not_109 : decode cX5_not 109 = .ok (.astore 4, 2) := dk_58 4 (dk_at dksX5_not_4 17 rfl rfl)
theorem dX5_not_111 : decode cX5_not 111 = .ok (.iinc 5 1, 3) := dk_132 5 1 (dk_at dksX5_not_4 19 rfl rfl)
theorem dX5_not_114 : decode cX5_not 114 = .ok (.goto (-20), 3) := dk_167 255 236 (dk_at dksX5_not_5 0 rfl rfl)
theorem dX5_not_117 : decode cX5_not 117 = .ok (.aload 4, 2) := dk_25 4 (dk_at dksX5_not_5 3 rfl rfl)
theorem dX5_not_119 : decode cX5_not 119 = .ok (.areturn, 1) := dk_176 (dk_at dksX5_not_5 5 rfl rfl)
abbrev cX5_sum : ByteArray := prog_8_method_17_code
def yX5_sum : MethodName := ⟨RX5, "sum", "(I)LLuckCrates$Form;"⟩
def dkwX5_sum_2 : List UInt8 := [167, 255, 223, 44, 182, 0, 165, 176]
abbrev dktX5_sum_2 : List UInt8 := dkwX5_sum_2 ++ []
def dkwX5_sum_1 : List UInt8 := [16, 45, 182, 0, 134, 153, 0, 21, 42, 182, 0, 157, 62, 44, 29, 42, 27, 182, 0, 169, 182, 0, 161]
abbrev dktX5_sum_1 : List UInt8 := dkwX5_sum_1 ++ dktX5_sum_2
def dkwX5_sum_0 : List UInt8 := [187, 0, 149, 89, 42, 27, 182, 0, 169, 183, 0, 154, 77, 42, 16, 43, 182, 0, 134, 154, 0, 12, 42]
abbrev dktX5_sum_0 : List UInt8 := dkwX5_sum_0 ++ dktX5_sum_1
theorem dksX5_sum_0 : cX5_sum.data.toList.drop 0 = dktX5_sum_0 := by decide +kernel
theorem dksX5_sum_1 : cX5_sum.data.toList.drop 23 = dktX5_sum_1 := dk_seg dksX5_sum_0 23 rfl rfl
theorem dksX5_sum_2 : cX5_sum.data.toList.drop 46 = dktX5_sum_2 := dk_seg dksX5_sum_1 23 rfl rfl
theorem dX5_sum_0 : decode cX5_sum 0 = .ok (.new 149, 3) := dk_187 0 149 (dk_at dksX5_sum_0 0 rfl rfl)
theorem dX5_sum_3 : decode cX5_sum 3 = .ok (.dup, 1) := dk_89 (dk_at dksX5_sum_0 3 rfl rfl)
theorem dX5_sum_4 : decode cX5_sum 4 = .ok (.aload_n 0, 1) := dk_42 (dk_at dksX5_sum_0 4 rfl rfl)
theorem dX5_sum_5 : decode cX5_sum 5 = .ok (.iload_n 1, 1) := dk_27 (dk_at dksX5_sum_0 5 rfl rfl)
theorem dX5_sum_6 : decode cX5_sum 6 = .ok (.invokevirtual 169, 3) := dk_182 0 169 (dk_at dksX5_sum_0 6 rfl rfl)
theorem dX5_sum_9 : decode cX5_sum 9 = .ok (.invokespecial 154, 3) := dk_183 0 154 (dk_at dksX5_sum_0 9 rfl rfl)
theorem dX5_sum_12 : decode cX5_sum 12 = .ok (.astore_n 2, 1) := dk_77 (dk_at dksX5_sum_0 12 rfl rfl)
theorem dX5_sum_13 : decode cX5_sum 13 = .ok (.aload_n 0, 1) := dk_42 (dk_at dksX5_sum_0 13 rfl rfl)
theorem dX5_sum_14 : decode cX5_sum 14 = .ok (.bipush 43, 2) := dk_16 43 (dk_at dksX5_sum_0 14 rfl rfl)
theorem dX5_sum_16 : decode cX5_sum 16 = .ok (.invokevirtual 134, 3) := dk_182 0 134 (dk_at dksX5_sum_0 16 rfl rfl)
theorem dX5_sum_19 : decode cX5_sum 19 = .ok (.ifCond .ne 12, 3) := dk_154 0 12 (dk_at dksX5_sum_0 19 rfl rfl)
theorem dX5_sum_22 : decode cX5_sum 22 = .ok (.aload_n 0, 1) := dk_42 (dk_at dksX5_sum_0 22 rfl rfl)
theorem dX5_sum_23 : decode cX5_sum 23 = .ok (.bipush 45, 2) := dk_16 45 (dk_at dksX5_sum_1 0 rfl rfl)
theorem dX5_sum_25 : decode cX5_sum 25 = .ok (.invokevirtual 134, 3) := dk_182 0 134 (dk_at dksX5_sum_1 2 rfl rfl)
theorem dX5_sum_28 : decode cX5_sum 28 = .ok (.ifCond .eq 21, 3) := dk_153 0 21 (dk_at dksX5_sum_1 5 rfl rfl)
theorem dX5_sum_31 : decode cX5_sum 31 = .ok (.aload_n 0, 1) := dk_42 (dk_at dksX5_sum_1 8 rfl rfl)
theorem dX5_sum_32 : decode cX5_sum 32 = .ok (.invokevirtual 157, 3) := dk_182 0 157 (dk_at dksX5_sum_1 9 rfl rfl)
theorem dX5_sum_35 : decode cX5_sum 35 = .ok (.istore_n 3, 1) := dk_62 (dk_at dksX5_sum_1 12 rfl rfl)
theorem dX5_sum_36 : decode cX5_sum 36 = .ok (.aload_n 2, 1) := dk_44 (dk_at dksX5_sum_1 13 rfl rfl)
theorem dX5_sum_37 : decode cX5_sum 37 = .ok (.iload_n 3, 1) := dk_29 (dk_at dksX5_sum_1 14 rfl rfl)
theorem dX5_sum_38 : decode cX5_sum 38 = .ok (.aload_n 0, 1) := dk_42 (dk_at dksX5_sum_1 15 rfl rfl)
theorem dX5_sum_39 : decode cX5_sum 39 = .ok (.iload_n 1, 1) := dk_27 (dk_at dksX5_sum_1 16 rfl rfl)
theorem dX5_sum_40 : decode cX5_sum 40 = .ok (.invokevirtual 169, 3) := dk_182 0 169 (dk_at dksX5_sum_1 17 rfl rfl)
theorem dX5_sum_43 : decode cX5_sum 43 = .ok (.invokevirtual 161, 3) := dk_182 0 161 (dk_at dksX5_sum_1 20 rfl rfl)
theorem dX5_sum_46 : decode cX5_sum 46 = .ok (.goto (-33), 3) := dk_167 255 223 (dk_at dksX5_sum_2 0 rfl rfl)
theorem dX5_sum_49 : decode cX5_sum 49 = .ok (.aload_n 2, 1) := dk_44 (dk_at dksX5_sum_2 3 rfl rfl)
theorem dX5_sum_50 : decode cX5_sum 50 = .ok (.invokevirtual 165, 3) := dk_182 0 165 (dk_at dksX5_sum_2 4 rfl rfl)
theorem dX5_sum_53 : decode cX5_sum 53 = .ok (.areturn, 1) := dk_176 (dk_at dksX5_sum_2 7 rfl rfl)
abbrev cX5_product : ByteArray := prog_8_method_16_code
def yX5_product : MethodName := ⟨RX5, "product", "(I)LLuckCrates$Form;"⟩
def dkwX5_product_2 : List UInt8 := [167, 255, 223, 44, 182, 0, 165, 176]
abbrev dktX5_product_2 : List UInt8 := dkwX5_product_2 ++ []
def dkwX5_product_1 : List UInt8 := [16, 47, 182, 0, 134, 153, 0, 21, 42, 182, 0, 157, 62, 44, 29, 42, 27, 182, 0, 151, 182, 0, 161]
abbrev dktX5_product_1 : List UInt8 := dkwX5_product_1 ++ dktX5_product_2
def dkwX5_product_0 : List UInt8 := [187, 0, 149, 89, 42, 27, 182, 0, 151, 183, 0, 154, 77, 42, 16, 42, 182, 0, 134, 154, 0, 12, 42]
abbrev dktX5_product_0 : List UInt8 := dkwX5_product_0 ++ dktX5_product_1
theorem dksX5_product_0 : cX5_product.data.toList.drop 0 = dktX5_product_0 := by decide +kernel
theorem dksX5_product_1 : cX5_product.data.toList.drop 23 = dktX5_product_1 := dk_seg dksX5_product_0 23 rfl rfl
theorem dksX5_product_2 : cX5_product.data.toList.drop 46 = dktX5_product_2 := dk_seg dksX5_product_1 23 rfl rfl
theorem dX5_product_0 : decode cX5_product 0 = .ok (.new 149, 3) := dk_187 0 149 (dk_at dksX5_product_0 0 rfl rfl)
theorem dX5_product_3 : decode cX5_product 3 = .ok (.dup, 1) := dk_89 (dk_at dksX5_product_0 3 rfl rfl)
theorem dX5_product_4 : decode cX5_product 4 = .ok (.aload_n 0, 1) := dk_42 (dk_at dksX5_product_0 4 rfl rfl)
theorem dX5_product_5 : decode cX5_product 5 = .ok (.iload_n 1, 1) := dk_27 (dk_at dksX5_product_0 5 rfl rfl)
theorem dX5_product_6 : decode cX5_product 6 = .ok (.invokevirtual 151, 3) := dk_182 0 151 (dk_at dksX5_product_0 6 rfl rfl)
theorem dX5_product_9 : decode cX5_product 9 = .ok (.invokespecial 154, 3) := dk_183 0 154 (dk_at dksX5_product_0 9 rfl rfl)
theorem dX5_product_12 : decode cX5_product 12 = .ok (.astore_n 2, 1) := dk_77 (dk_at dksX5_product_0 12 rfl rfl)
theorem dX5_product_13 : decode cX5_product 13 = .ok (.aload_n 0, 1) := dk_42 (dk_at dksX5_product_0 13 rfl rfl)
theorem dX5_product_14 : decode cX5_product 14 = .ok (.bipush 42, 2) := dk_16 42 (dk_at dksX5_product_0 14 rfl rfl)
theorem dX5_product_16 : decode cX5_product 16 = .ok (.invokevirtual 134, 3) := dk_182 0 134 (dk_at dksX5_product_0 16 rfl rfl)
theorem dX5_product_19 : decode cX5_product 19 = .ok (.ifCond .ne 12, 3) := dk_154 0 12 (dk_at dksX5_product_0 19 rfl rfl)
theorem dX5_product_22 : decode cX5_product 22 = .ok (.aload_n 0, 1) := dk_42 (dk_at dksX5_product_0 22 rfl rfl)
theorem dX5_product_23 : decode cX5_product 23 = .ok (.bipush 47, 2) := dk_16 47 (dk_at dksX5_product_1 0 rfl rfl)
theorem dX5_product_25 : decode cX5_product 25 = .ok (.invokevirtual 134, 3) := dk_182 0 134 (dk_at dksX5_product_1 2 rfl rfl)
theorem dX5_product_28 : decode cX5_product 28 = .ok (.ifCond .eq 21, 3) := dk_153 0 21 (dk_at dksX5_product_1 5 rfl rfl)
theorem dX5_product_31 : decode cX5_product 31 = .ok (.aload_n 0, 1) := dk_42 (dk_at dksX5_product_1 8 rfl rfl)
theorem dX5_product_32 : decode cX5_product 32 = .ok (.invokevirtual 157, 3) := dk_182 0 157 (dk_at dksX5_product_1 9 rfl rfl)
theorem dX5_product_35 : decode cX5_product 35 = .ok (.istore_n 3, 1) := dk_62 (dk_at dksX5_product_1 12 rfl rfl)
theorem dX5_product_36 : decode cX5_product 36 = .ok (.aload_n 2, 1) := dk_44 (dk_at dksX5_product_1 13 rfl rfl)
theorem dX5_product_37 : decode cX5_product 37 = .ok (.iload_n 3, 1) := dk_29 (dk_at dksX5_product_1 14 rfl rfl)
theorem dX5_product_38 : decode cX5_product 38 = .ok (.aload_n 0, 1) := dk_42 (dk_at dksX5_product_1 15 rfl rfl)
theorem dX5_product_39 : decode cX5_product 39 = .ok (.iload_n 1, 1) := dk_27 (dk_at dksX5_product_1 16 rfl rfl)
theorem dX5_product_40 : decode cX5_product 40 = .ok (.invokevirtual 151, 3) := dk_182 0 151 (dk_at dksX5_product_1 17 rfl rfl)
theorem dX5_product_43 : decode cX5_product 43 = .ok (.invokevirtual 161, 3) := dk_182 0 161 (dk_at dksX5_product_1 20 rfl rfl)
theorem dX5_product_46 : decode cX5_product 46 = .ok (.goto (-33), 3) := dk_167 255 223 (dk_at dksX5_product_2 0 rfl rfl)
theorem dX5_product_49 : decode cX5_product 49 = .ok (.aload_n 2, 1) := dk_44 (dk_at dksX5_product_2 3 rfl rfl)
theorem dX5_product_50 : decode cX5_product 50 = .ok (.invokevirtual 165, 3) := dk_182 0 165 (dk_at dksX5_product_2 4 rfl rfl)
theorem dX5_product_53 : decode cX5_product 53 = .ok (.areturn, 1) := dk_176 (dk_at dksX5_product_2 7 rfl rfl)
abbrev cX5_part : ByteArray := prog_8_method_14_code
def yX5_part : MethodName := ⟨RX5, "part", "(I)LLuckCrates$Form;"⟩
def dkwX5_part_4 : List UInt8 := [4, 167, 0, 4, 3, 6, 182, 0, 119, 42, 182, 0, 111, 187, 0, 146, 89, 28, 183, 0, 148, 176]
abbrev dktX5_part_4 : List UInt8 := dkwX5_part_4 ++ []
def dkwX5_part_3 : List UInt8 := [4, 167, 0, 4, 3, 4, 182, 0, 119, 42, 42, 180, 0, 45, 182, 0, 142, 61, 42, 28, 2, 159, 0, 7]
abbrev dktX5_part_3 : List UInt8 := dkwX5_part_3 ++ dktX5_part_4
def dkwX5_part_2 : List UInt8 := [16, 41, 182, 0, 134, 4, 182, 0, 119, 42, 182, 0, 111, 44, 176, 42, 42, 180, 0, 71, 4, 160, 0, 7]
abbrev dktX5_part_2 : List UInt8 := dkwX5_part_2 ++ dktX5_part_3
def dkwX5_part_1 : List UInt8 := [42, 16, 40, 182, 0, 134, 153, 0, 32, 42, 182, 0, 111, 42, 27, 4, 96, 182, 0, 138, 77, 42, 42]
abbrev dktX5_part_1 : List UInt8 := dkwX5_part_1 ++ dktX5_part_2
def dkwX5_part_0 : List UInt8 := [42, 180, 0, 71, 5, 160, 0, 19, 187, 0, 129, 89, 42, 3, 17, 39, 15, 182, 0, 131, 183, 0, 133, 176]
abbrev dktX5_part_0 : List UInt8 := dkwX5_part_0 ++ dktX5_part_1
theorem dksX5_part_0 : cX5_part.data.toList.drop 0 = dktX5_part_0 := by decide +kernel
theorem dksX5_part_1 : cX5_part.data.toList.drop 24 = dktX5_part_1 := dk_seg dksX5_part_0 24 rfl rfl
theorem dksX5_part_2 : cX5_part.data.toList.drop 47 = dktX5_part_2 := dk_seg dksX5_part_1 23 rfl rfl
theorem dksX5_part_3 : cX5_part.data.toList.drop 71 = dktX5_part_3 := dk_seg dksX5_part_2 24 rfl rfl
theorem dksX5_part_4 : cX5_part.data.toList.drop 95 = dktX5_part_4 := dk_seg dksX5_part_3 24 rfl rfl
theorem dX5_part_0 : decode cX5_part 0 = .ok (.aload_n 0, 1) := dk_42 (dk_at dksX5_part_0 0 rfl rfl)
theorem dX5_part_1 : decode cX5_part 1 = .ok (.getfield 71, 3) := dk_180 0 71 (dk_at dksX5_part_0 1 rfl rfl)
theorem dX5_part_4 : decode cX5_part 4 = .ok (.iconst 2, 1) := dk_5 (dk_at dksX5_part_0 4 rfl rfl)
theorem dX5_part_5 : decode cX5_part 5 = .ok (.if_icmp .ne 19, 3) := dk_160 0 19 (dk_at dksX5_part_0 5 rfl rfl)
theorem dX5_part_8 : decode cX5_part 8 = .ok (.new 129, 3) := dk_187 0 129 (dk_at dksX5_part_0 8 rfl rfl)
theorem dX5_part_11 : decode cX5_part 11 = .ok (.dup, 1) := dk_89 (dk_at dksX5_part_0 11 rfl rfl)
theorem dX5_part_12 : decode cX5_part 12 = .ok (.aload_n 0, 1) := dk_42 (dk_at dksX5_part_0 12 rfl rfl)
theorem dX5_part_13 : decode cX5_part 13 = .ok (.iconst 0, 1) := dk_3 (dk_at dksX5_part_0 13 rfl rfl)
theorem dX5_part_14 : decode cX5_part 14 = .ok (.sipush 9999, 3) := dk_17 39 15 (dk_at dksX5_part_0 14 rfl rfl)
theorem dX5_part_17 : decode cX5_part 17 = .ok (.invokevirtual 131, 3) := dk_182 0 131 (dk_at dksX5_part_0 17 rfl rfl)
theorem dX5_part_20 : decode cX5_part 20 = .ok (.invokespecial 133, 3) := dk_183 0 133 (dk_at dksX5_part_0 20 rfl rfl)
theorem dX5_part_23 : decode cX5_part 23 = .ok (.areturn, 1) := dk_176 (dk_at dksX5_part_0 23 rfl rfl)
theorem dX5_part_24 : decode cX5_part 24 = .ok (.aload_n 0, 1) := dk_42 (dk_at dksX5_part_1 0 rfl rfl)
theorem dX5_part_25 : decode cX5_part 25 = .ok (.bipush 40, 2) := dk_16 40 (dk_at dksX5_part_1 1 rfl rfl)
theorem dX5_part_27 : decode cX5_part 27 = .ok (.invokevirtual 134, 3) := dk_182 0 134 (dk_at dksX5_part_1 3 rfl rfl)
theorem dX5_part_30 : decode cX5_part 30 = .ok (.ifCond .eq 32, 3) := dk_153 0 32 (dk_at dksX5_part_1 6 rfl rfl)
theorem dX5_part_33 : decode cX5_part 33 = .ok (.aload_n 0, 1) := dk_42 (dk_at dksX5_part_1 9 rfl rfl)
theorem dX5_part_34 : decode cX5_part 34 = .ok (.invokevirtual 111, 3) := dk_182 0 111 (dk_at dksX5_part_1 10 rfl rfl)
theorem dX5_part_37 : decode cX5_part 37 = .ok (.aload_n 0, 1) := dk_42 (dk_at dksX5_part_1 13 rfl rfl)
theorem dX5_part_38 : decode cX5_part 38 = .ok (.iload_n 1, 1) := dk_27 (dk_at dksX5_part_1 14 rfl rfl)
theorem dX5_part_39 : decode cX5_part 39 = .ok (.iconst 1, 1) := dk_4 (dk_at dksX5_part_1 15 rfl rfl)
theorem dX5_part_40 : decode cX5_part 40 = .ok (.iadd, 1) := dk_96 (dk_at dksX5_part_1 16 rfl rfl)
theorem dX5_part_41 : decode cX5_part 41 = .ok (.invokevirtual 138, 3) := dk_182 0 138 (dk_at dksX5_part_1 17 rfl rfl)
theorem dX5_part_44 : decode cX5_part 44 = .ok (.astore_n 2, 1) := dk_77 (dk_at dksX5_part_1 20 rfl rfl)
theorem dX5_part_45 : decode cX5_part 45 = .ok (.aload_n 0, 1) := dk_42 (dk_at dksX5_part_1 21 rfl rfl)
theorem dX5_part_46 : decode cX5_part 46 = .ok (.aload_n 0, 1) := dk_42 (dk_at dksX5_part_1 22 rfl rfl)
theorem dX5_part_47 : decode cX5_part 47 = .ok (.bipush 41, 2) := dk_16 41 (dk_at dksX5_part_2 0 rfl rfl)
theorem dX5_part_49 : decode cX5_part 49 = .ok (.invokevirtual 134, 3) := dk_182 0 134 (dk_at dksX5_part_2 2 rfl rfl)
theorem dX5_part_52 : decode cX5_part 52 = .ok (.iconst 1, 1) := dk_4 (dk_at dksX5_part_2 5 rfl rfl)
theorem dX5_part_53 : decode cX5_part 53 = .ok (.invokevirtual 119, 3) := dk_182 0 119 (dk_at dksX5_part_2 6 rfl rfl)
theorem dX5_part_56 : decode cX5_part 56 = .ok (.aload_n 0, 1) := dk_42 (dk_at dksX5_part_2 9 rfl rfl)
theorem dX5_part_57 : decode cX5_part 57 = .ok (.invokevirtual 111, 3) := dk_182 0 111 (dk_at dksX5_part_2 10 rfl rfl)
theorem dX5_part_60 : decode cX5_part 60 = .ok (.aload_n 2, 1) := dk_44 (dk_at dksX5_part_2 13 rfl rfl)
theorem dX5_part_61 : decode cX5_part 61 = .ok (.areturn, 1) := dk_176 (dk_at dksX5_part_2 14 rfl rfl)
theorem dX5_part_62 : decode cX5_part 62 = .ok (.aload_n 0, 1) := dk_42 (dk_at dksX5_part_2 15 rfl rfl)
theorem dX5_part_63 : decode cX5_part 63 = .ok (.aload_n 0, 1) := dk_42 (dk_at dksX5_part_2 16 rfl rfl)
theorem dX5_part_64 : decode cX5_part 64 = .ok (.getfield 71, 3) := dk_180 0 71 (dk_at dksX5_part_2 17 rfl rfl)
theorem dX5_part_67 : decode cX5_part 67 = .ok (.iconst 1, 1) := dk_4 (dk_at dksX5_part_2 20 rfl rfl)
theorem dX5_part_68 : decode cX5_part 68 = .ok (.if_icmp .ne 7, 3) := dk_160 0 7 (dk_at dksX5_part_2 21 rfl rfl)
theorem dX5_part_71 : decode cX5_part 71 = .ok (.iconst 1, 1) := dk_4 (dk_at dksX5_part_3 0 rfl rfl)
theorem dX5_part_72 : decode cX5_part 72 = .ok (.goto 4, 3) := dk_167 0 4 (dk_at dksX5_part_3 1 rfl rfl)
theorem dX5_part_75 : decode cX5_part 75 = .ok (.iconst 0, 1) := dk_3 (dk_at dksX5_part_3 4 rfl rfl)
theorem dX5_part_76 : decode cX5_part 76 = .ok (.iconst 1, 1) := dk_4 (dk_at dksX5_part_3 5 rfl rfl)
theorem dX5_part_77 : decode cX5_part 77 = .ok (.invokevirtual 119, 3) := dk_182 0 119 (dk_at dksX5_part_3 6 rfl rfl)
theorem dX5_part_80 : decode cX5_part 80 = .ok (.aload_n 0, 1) := dk_42 (dk_at dksX5_part_3 9 rfl rfl)
theorem dX5_part_81 : decode cX5_part 81 = .ok (.aload_n 0, 1) := dk_42 (dk_at dksX5_part_3 10 rfl rfl)
theorem dX5_part_82 : decode cX5_part 82 = .ok (.getfield 45, 3) := dk_180 0 45 (dk_at dksX5_part_3 11 rfl rfl)
theorem dX5_part_85 : decode cX5_part 85 = .ok (.invokevirtual 142, 3) := dk_182 0 142 (dk_at dksX5_part_3 14 rfl rfl)
theorem dX5_part_88 : decode cX5_part 88 = .ok (.istore_n 2, 1) := dk_61 (dk_at dksX5_part_3 17 rfl rfl)
theorem dX5_part_89 : decode cX5_part 89 = .ok (.aload_n 0, 1) := dk_42 (dk_at dksX5_part_3 18 rfl rfl)
theorem dX5_part_90 : decode cX5_part 90 = .ok (.iload_n 2, 1) := dk_28 (dk_at dksX5_part_3 19 rfl rfl)
theorem dX5_part_91 : decode cX5_part 91 = .ok (.iconst (-1), 1) := dk_2 (dk_at dksX5_part_3 20 rfl rfl)
theorem dX5_part_92 : decode cX5_part 92 = .ok (.if_icmp .eq 7, 3) := dk_159 0 7 (dk_at dksX5_part_3 21 rfl rfl)
theorem dX5_part_95 : decode cX5_part 95 = .ok (.iconst 1, 1) := dk_4 (dk_at dksX5_part_4 0 rfl rfl)
theorem dX5_part_96 : decode cX5_part 96 = .ok (.goto 4, 3) := dk_167 0 4 (dk_at dksX5_part_4 1 rfl rfl)
theorem dX5_part_99 : decode cX5_part 99 = .ok (.iconst 0, 1) := dk_3 (dk_at dksX5_part_4 4 rfl rfl)
theorem dX5_part_100 : decode cX5_part 100 = .ok (.iconst 3, 1) := dk_6 (dk_at dksX5_part_4 5 rfl rfl)
theorem dX5_part_101 : decode cX5_part 101 = .ok (.invokevirtual 119, 3) := dk_182 0 119 (dk_at dksX5_part_4 6 rfl rfl)
theorem dX5_part_104 : decode cX5_part 104 = .ok (.aload_n 0, 1) := dk_42 (dk_at dksX5_part_4 9 rfl rfl)
theorem dX5_part_105 : decode cX5_part 105 = .ok (.invokevirtual 111, 3) := dk_182 0 111 (dk_at dksX5_part_4 10 rfl rfl)
theorem dX5_part_108 : decode cX5_part 108 = .ok (.new 146, 3) := dk_187 0 146 (dk_at dksX5_part_4 13 rfl rfl)
theorem dX5_part_111 : decode cX5_part 111 = .ok (.dup, 1) := dk_89 (dk_at dksX5_part_4 16 rfl rfl)
theorem dX5_part_112 : decode cX5_part 112 = .ok (.iload_n 2, 1) := dk_28 (dk_at dksX5_part_4 17 rfl rfl)
theorem dX5_part_113 : decode cX5_part 113 = .ok (.invokespecial 148, 3) := dk_183 0 148 (dk_at dksX5_part_4 18 rfl rfl)
theorem dX5_part_116 : decode cX5_part 116 = .ok (.areturn, 1) := dk_176 (dk_at dksX5_part_4 21 rfl rfl)
abbrev cX5_which : ByteArray := prog_8_method_7_code
def yX5_which : MethodName := ⟨RX5, "which", "([Ljava/lang/String;)I"⟩
def dkwX5_which_1 : List UInt8 := [167, 255, 235, 2, 172]
abbrev dktX5_which_1 : List UInt8 := dkwX5_which_1 ++ []
def dkwX5_which_0 : List UInt8 := [3, 61, 28, 43, 190, 162, 0, 21, 42, 43, 28, 50, 182, 0, 107, 153, 0, 5, 28, 172, 132, 2, 1]
abbrev dktX5_which_0 : List UInt8 := dkwX5_which_0 ++ dktX5_which_1
theorem dksX5_which_0 : cX5_which.data.toList.drop 0 = dktX5_which_0 := by decide +kernel
theorem dksX5_which_1 : cX5_which.data.toList.drop 23 = dktX5_which_1 := dk_seg dksX5_which_0 23 rfl rfl
theorem dX5_which_0 : decode cX5_which 0 = .ok (.iconst 0, 1) := dk_3 (dk_at dksX5_which_0 0 rfl rfl)
theorem dX5_which_1 : decode cX5_which 1 = .ok (.istore_n 2, 1) := dk_61 (dk_at dksX5_which_0 1 rfl rfl)
theorem dX5_which_2 : decode cX5_which 2 = .ok (.iload_n 2, 1) := dk_28 (dk_at dksX5_which_0 2 rfl rfl)
theorem dX5_which_3 : decode cX5_which 3 = .ok (.aload_n 1, 1) := dk_43 (dk_at dksX5_which_0 3 rfl rfl)
theorem dX5_which_4 : decode cX5_which 4 = .ok (.arraylength, 1) := dk_190 (dk_at dksX5_which_0 4 rfl rfl)
theorem dX5_which_5 : decode cX5_which 5 = .ok (.if_icmp .ge 21, 3) := dk_162 0 21 (dk_at dksX5_which_0 5 rfl rfl)
theorem dX5_which_8 : decode cX5_which 8 = .ok (.aload_n 0, 1) := dk_42 (dk_at dksX5_which_0 8 rfl rfl)
theorem dX5_which_9 : decode cX5_which 9 = .ok (.aload_n 1, 1) := dk_43 (dk_at dksX5_which_0 9 rfl rfl)
theorem dX5_which_10 : decode cX5_which 10 = .ok (.iload_n 2, 1) := dk_28 (dk_at dksX5_which_0 10 rfl rfl)
theorem dX5_which_11 : decode cX5_which 11 = .ok (.aaload, 1) := dk_50 (dk_at dksX5_which_0 11 rfl rfl)
theorem dX5_which_12 : decode cX5_which 12 = .ok (.invokevirtual 107, 3) := dk_182 0 107 (dk_at dksX5_which_0 12 rfl rfl)
theorem dX5_which_15 : decode cX5_which 15 = .ok (.ifCond .eq 5, 3) := dk_153 0 5 (dk_at dksX5_which_0 15 rfl rfl)
theorem dX5_which_18 : decode cX5_which 18 = .ok (.iload_n 2, 1) := dk_28 (dk_at dksX5_which_0 18 rfl rfl)
theorem dX5_which_19 : decode cX5_which 19 = .ok (.ireturn, 1) := dk_172 (dk_at dksX5_which_0 19 rfl rfl)
theorem dX5_which_20 : decode cX5_which 20 = .ok (.iinc 2 1, 3) := dk_132 2 1 (dk_at dksX5_which_0 20 rfl rfl)
theorem dX5_which_23 : decode cX5_which 23 = .ok (.goto (-21), 3) := dk_167 255 235 (dk_at dksX5_which_1 0 rfl rfl)
theorem dX5_which_26 : decode cX5_which 26 = .ok (.iconst (-1), 1) := dk_2 (dk_at dksX5_which_1 3 rfl rfl)
theorem dX5_which_27 : decode cX5_which 27 = .ok (.ireturn, 1) := dk_172 (dk_at dksX5_which_1 4 rfl rfl)
abbrev cX5_sign : ByteArray := prog_8_method_15_code
def yX5_sign : MethodName := ⟨RX5, "sign", "()C"⟩
def dkwX5_sign_0 : List UInt8 := [42, 180, 0, 3, 180, 0, 56, 42, 180, 0, 68, 51, 146, 60, 42, 182, 0, 111, 27, 172]
abbrev dktX5_sign_0 : List UInt8 := dkwX5_sign_0 ++ []
theorem dksX5_sign_0 : cX5_sign.data.toList.drop 0 = dktX5_sign_0 := by decide +kernel
theorem dX5_sign_0 : decode cX5_sign 0 = .ok (.aload_n 0, 1) := dk_42 (dk_at dksX5_sign_0 0 rfl rfl)
theorem dX5_sign_1 : decode cX5_sign 1 = .ok (.getfield 3, 3) := dk_180 0 3 (dk_at dksX5_sign_0 1 rfl rfl)
theorem dX5_sign_4 : decode cX5_sign 4 = .ok (.getfield 56, 3) := dk_180 0 56 (dk_at dksX5_sign_0 4 rfl rfl)
theorem dX5_sign_7 : decode cX5_sign 7 = .ok (.aload_n 0, 1) := dk_42 (dk_at dksX5_sign_0 7 rfl rfl)
theorem dX5_sign_8 : decode cX5_sign 8 = .ok (.getfield 68, 3) := dk_180 0 68 (dk_at dksX5_sign_0 8 rfl rfl)
theorem dX5_sign_11 : decode cX5_sign 11 = .ok (.baload, 1) := dk_51 (dk_at dksX5_sign_0 11 rfl rfl)
theorem dX5_sign_12 : decode cX5_sign 12 = .ok (.i2c, 1) := dk_146 (dk_at dksX5_sign_0 12 rfl rfl)
theorem dX5_sign_13 : decode cX5_sign 13 = .ok (.istore_n 1, 1) := dk_60 (dk_at dksX5_sign_0 13 rfl rfl)
theorem dX5_sign_14 : decode cX5_sign 14 = .ok (.aload_n 0, 1) := dk_42 (dk_at dksX5_sign_0 14 rfl rfl)
theorem dX5_sign_15 : decode cX5_sign 15 = .ok (.invokevirtual 111, 3) := dk_182 0 111 (dk_at dksX5_sign_0 15 rfl rfl)
theorem dX5_sign_18 : decode cX5_sign 18 = .ok (.iload_n 1, 1) := dk_27 (dk_at dksX5_sign_0 18 rfl rfl)
theorem dX5_sign_19 : decode cX5_sign 19 = .ok (.ireturn, 1) := dk_172 (dk_at dksX5_sign_0 19 rfl rfl)
theorem q120 : (Jvm.Cond.initialized "LuckCrates$Reader") ∈ lw_all := lw_g (lw_at lw_m1 12 rfl) rfl
theorem q187 : (Jvm.Cond.fieldLinkNest "LuckCrates$Reader" (211 : Nat) "LuckCrates$Province" "makes" "Ljava/util/List;" "LuckCrates") ∈ lw_tbl := lw_at lw_m1 79 rfl
theorem q191 : (Jvm.Cond.fieldLinkNest "LuckCrates$Reader" (196 : Nat) "LuckCrates$Province" "stakes" "Ljava/util/List;" "LuckCrates") ∈ lw_tbl := lw_at lw_m1 83 rfl
theorem q194 : (Jvm.Cond.fieldLinkNest "LuckCrates$Reader" (213 : Nat) "LuckCrates$Province" "ways" "Ljava/util/List;" "LuckCrates") ∈ lw_tbl := lw_at lw_m1 86 rfl
theorem q197 : (Jvm.Cond.fieldLinkNest "LuckCrates$Reader" (230 : Nat) "LuckCrates$Province" "crates" "I" "LuckCrates") ∈ lw_tbl := lw_at lw_m1 89 rfl
theorem q199 : (Jvm.Cond.fieldLinkNest "LuckCrates$Reader" (261 : Nat) "LuckCrates$Province" "odds" "LLuckCrates$Form;" "LuckCrates") ∈ lw_tbl := lw_at lw_m1 91 rfl
theorem q219 : (Jvm.Cond.fieldLinkNest "LuckCrates$Reader" (191 : Nat) "LuckCrates$Coast" "luck" "[I" "LuckCrates") ∈ lw_tbl := lw_at lw_m1 111 rfl
theorem q222 : (Jvm.Cond.fieldLinkNest "LuckCrates$Reader" (194 : Nat) "LuckCrates$Coast" "bad" "[I" "LuckCrates") ∈ lw_tbl := lw_at lw_m1 114 rfl
theorem q227 : (Jvm.Cond.fieldLinkNest "LuckCrates$Reader" (232 : Nat) "LuckCrates$Coast" "grains" "[I" "LuckCrates") ∈ lw_tbl := lw_at lw_m1 119 rfl
theorem q230 : (Jvm.Cond.fieldLinkNest "LuckCrates$Reader" (235 : Nat) "LuckCrates$Coast" "sort" "[I" "LuckCrates") ∈ lw_tbl := lw_at lw_m1 122 rfl
theorem q233 : (Jvm.Cond.fieldLinkNest "LuckCrates$Reader" (241 : Nat) "LuckCrates$Coast" "cat" "[I" "LuckCrates") ∈ lw_tbl := lw_at lw_m1 125 rfl
theorem q236 : (Jvm.Cond.fieldLinkNest "LuckCrates$Reader" (238 : Nat) "LuckCrates$Coast" "town" "[I" "LuckCrates") ∈ lw_tbl := lw_at lw_m1 128 rfl
theorem q278 : (Jvm.Cond.fieldLinkNest "LuckCrates$Reader" (56 : Nat) "LuckCrates" "tape" "[B" "LuckCrates") ∈ lw_tbl := lw_at lw_m1 170 rfl
theorem q400 : (Jvm.Cond.selects "LuckCrates$Reader" ({ cls := "java/lang/Object", name := "getClass", desc := "()Ljava/lang/Class;" } : Jvm.MethodName) ({ cls := "java/lang/Object", name := "getClass", desc := "()Ljava/lang/Class;" } : Jvm.MethodName)) ∈ lw_all := lw_g (lw_at lw_m2 52 rfl) rfl
theorem q768 : (Jvm.Cond.instantiable "LuckCrates$Reader" (10 : Nat)) ∈ lw_all := lw_g (lw_at lw_m3 180 rfl) rfl
theorem q770 : (Jvm.Cond.instanceMethod ({ cls := "LuckCrates$Reader", name := "<init>", desc := "(LLuckCrates;I)V" } : Jvm.MethodName)) ∈ lw_all := lw_g (lw_at lw_m3 182 rfl) rfl
theorem q771 : (Jvm.Cond.code ({ cls := "LuckCrates$Reader", name := "<init>", desc := "(LLuckCrates;I)V" } : Jvm.MethodName) prog_8_method_1_code (3 : Nat) (Option.none : Option Jvm.ClassFile.FieldType)) ∈ lw_all := lw_g (lw_at lw_m3 183 rfl) rfl
theorem q772 : (Jvm.Cond.methodLink "LuckCrates$Reader" (9 : Nat) ({ cls := "java/lang/Object", name := "<init>", desc := "()V" } : Jvm.MethodName)) ∈ lw_all := lw_g (lw_at lw_m3 184 rfl) rfl
theorem q773 : (Jvm.Cond.classLink "LuckCrates$Reader" (15 : Nat) "LuckCrates$Province") ∈ lw_all := lw_g (lw_at lw_m3 185 rfl) rfl
theorem q774 : (Jvm.Cond.methodLinkNest "LuckCrates$Reader" (17 : Nat) ({ cls := "LuckCrates$Province", name := "<init>", desc := "()V" } : Jvm.MethodName) "LuckCrates") ∈ lw_tbl := lw_at lw_m3 186 rfl
theorem q775 : (Jvm.Cond.classLink "LuckCrates$Reader" (22 : Nat) "LuckCrates$Coast") ∈ lw_all := lw_g (lw_at lw_m3 187 rfl) rfl
theorem q776 : (Jvm.Cond.methodLinkNest "LuckCrates$Reader" (24 : Nat) ({ cls := "LuckCrates$Coast", name := "<init>", desc := "(LLuckCrates;)V" } : Jvm.MethodName) "LuckCrates") ∈ lw_tbl := lw_at lw_m3 188 rfl
theorem q777 : (Jvm.Cond.classLink "LuckCrates$Reader" (31 : Nat) "java/lang/String") ∈ lw_all := lw_g (lw_at lw_m3 189 rfl) rfl
theorem q779 : (Jvm.Cond.stringRef "LuckCrates$Reader" (33 : Nat) "luck") ∈ lw_tbl := lw_at lw_m3 191 rfl
theorem q780 : (Jvm.Cond.stringRef "LuckCrates$Reader" (35 : Nat) "bad") ∈ lw_tbl := lw_at lw_m3 192 rfl
theorem q781 : (Jvm.Cond.stringRef "LuckCrates$Reader" (37 : Nat) "stake") ∈ lw_tbl := lw_at lw_m3 193 rfl
theorem q782 : (Jvm.Cond.stringRef "LuckCrates$Reader" (39 : Nat) "makes") ∈ lw_tbl := lw_at lw_m3 194 rfl
theorem q783 : (Jvm.Cond.stringRef "LuckCrates$Reader" (41 : Nat) "day") ∈ lw_tbl := lw_at lw_m3 195 rfl
theorem q784 : (Jvm.Cond.stringRef "LuckCrates$Reader" (43 : Nat) "crates") ∈ lw_tbl := lw_at lw_m3 196 rfl
theorem q785 : (Jvm.Cond.fieldLink "LuckCrates$Reader" (49 : Nat) "LuckCrates$Reader" "size" "I") ∈ lw_all := lw_g (lw_at lw_m3 197 rfl) rfl
theorem q786 : (Jvm.Cond.fieldLink "LuckCrates$Reader" (18 : Nat) "LuckCrates$Reader" "made" "LLuckCrates$Province;") ∈ lw_all := lw_g (lw_at lw_m3 198 rfl) rfl
theorem q787 : (Jvm.Cond.fieldLink "LuckCrates$Reader" (27 : Nat) "LuckCrates$Reader" "begun" "LLuckCrates$Coast;") ∈ lw_all := lw_g (lw_at lw_m3 199 rfl) rfl
theorem q789 : (Jvm.Cond.fieldLink "LuckCrates$Reader" (45 : Nat) "LuckCrates$Reader" "names" "[Ljava/lang/String;") ∈ lw_all := lw_g (lw_at lw_m3 201 rfl) rfl
theorem q790 : (Jvm.Cond.fieldLink "LuckCrates$Reader" (53 : Nat) "LuckCrates$Reader" "at" "I") ∈ lw_all := lw_g (lw_at lw_m3 202 rfl) rfl
theorem q791 : (Jvm.Cond.fieldLink "LuckCrates$Reader" (71 : Nat) "LuckCrates$Reader" "token" "I") ∈ lw_all := lw_g (lw_at lw_m3 203 rfl) rfl
theorem q792 : (Jvm.Cond.fieldLink "LuckCrates$Reader" (68 : Nat) "LuckCrates$Reader" "begins" "I") ∈ lw_all := lw_g (lw_at lw_m3 204 rfl) rfl
theorem q794 : (Jvm.Cond.fieldLink "LuckCrates$Reader" (97 : Nat) "LuckCrates$Reader" "ends" "I") ∈ lw_all := lw_g (lw_at lw_m3 206 rfl) rfl
theorem q795 : (Jvm.Cond.fieldLink "LuckCrates$Reader" (81 : Nat) "LuckCrates$Reader" "number" "I") ∈ lw_all := lw_g (lw_at lw_m3 207 rfl) rfl
theorem q796 : (Jvm.Cond.fieldLink "LuckCrates$Reader" (3 : Nat) "LuckCrates$Reader" "this$0" "LLuckCrates;") ∈ lw_all := lw_g (lw_at lw_m3 208 rfl) rfl
theorem q797 : (Jvm.Cond.laysFinal "LuckCrates$Reader" "LuckCrates$Reader" "size" "I") ∈ lw_all := lw_g (lw_at lw_m3 209 rfl) rfl
theorem q798 : (Jvm.Cond.soleField "LuckCrates$Reader" "size") ∈ lw_all := lw_g (lw_at lw_m3 210 rfl) rfl
theorem q799 : (Jvm.Cond.laysFinal "LuckCrates$Reader" "LuckCrates$Reader" "made" "LLuckCrates$Province;") ∈ lw_all := lw_g (lw_at lw_m3 211 rfl) rfl
theorem q800 : (Jvm.Cond.soleField "LuckCrates$Reader" "made") ∈ lw_all := lw_g (lw_at lw_m3 212 rfl) rfl
theorem q801 : (Jvm.Cond.laysFinal "LuckCrates$Reader" "LuckCrates$Reader" "begun" "LLuckCrates$Coast;") ∈ lw_all := lw_g (lw_at lw_m3 213 rfl) rfl
theorem q802 : (Jvm.Cond.soleField "LuckCrates$Reader" "begun") ∈ lw_all := lw_g (lw_at lw_m3 214 rfl) rfl
theorem q803 : (Jvm.Cond.laysFinal "LuckCrates$Reader" "LuckCrates$Reader" "names" "[Ljava/lang/String;") ∈ lw_all := lw_g (lw_at lw_m3 215 rfl) rfl
theorem q804 : (Jvm.Cond.soleField "LuckCrates$Reader" "names") ∈ lw_all := lw_g (lw_at lw_m3 216 rfl) rfl
theorem q805 : (Jvm.Cond.lays "LuckCrates$Reader" "LuckCrates$Reader" "at" "I") ∈ lw_all := lw_g (lw_at lw_m3 217 rfl) rfl
theorem q806 : (Jvm.Cond.soleField "LuckCrates$Reader" "at") ∈ lw_all := lw_g (lw_at lw_m3 218 rfl) rfl
theorem q807 : (Jvm.Cond.lays "LuckCrates$Reader" "LuckCrates$Reader" "token" "I") ∈ lw_all := lw_g (lw_at lw_m3 219 rfl) rfl
theorem q808 : (Jvm.Cond.soleField "LuckCrates$Reader" "token") ∈ lw_all := lw_g (lw_at lw_m3 220 rfl) rfl
theorem q809 : (Jvm.Cond.lays "LuckCrates$Reader" "LuckCrates$Reader" "begins" "I") ∈ lw_all := lw_g (lw_at lw_m3 221 rfl) rfl
theorem q810 : (Jvm.Cond.soleField "LuckCrates$Reader" "begins") ∈ lw_all := lw_g (lw_at lw_m3 222 rfl) rfl
theorem q811 : (Jvm.Cond.lays "LuckCrates$Reader" "LuckCrates$Reader" "ends" "I") ∈ lw_all := lw_g (lw_at lw_m3 223 rfl) rfl
theorem q812 : (Jvm.Cond.soleField "LuckCrates$Reader" "ends") ∈ lw_all := lw_g (lw_at lw_m3 224 rfl) rfl
theorem q813 : (Jvm.Cond.lays "LuckCrates$Reader" "LuckCrates$Reader" "number" "I") ∈ lw_all := lw_g (lw_at lw_m3 225 rfl) rfl
theorem q814 : (Jvm.Cond.soleField "LuckCrates$Reader" "number") ∈ lw_all := lw_g (lw_at lw_m3 226 rfl) rfl
theorem q815 : (Jvm.Cond.laysFinal "LuckCrates$Reader" "LuckCrates$Reader" "this$0" "LLuckCrates;") ∈ lw_all := lw_g (lw_at lw_m3 227 rfl) rfl
theorem q816 : (Jvm.Cond.soleField "LuckCrates$Reader" "this$0") ∈ lw_all := lw_g (lw_at lw_m3 228 rfl) rfl
theorem q817 : (Jvm.Cond.superclass "LuckCrates$Reader" "java/lang/Object") ∈ lw_all := lw_g (lw_at lw_m3 229 rfl) rfl
theorem q819 : (Jvm.Cond.instanceMethod ({ cls := "LuckCrates$Reader", name := "read", desc := "()LLuckCrates$Province;" } : Jvm.MethodName)) ∈ lw_all := lw_g (lw_at lw_m3 231 rfl) rfl
theorem q820 : (Jvm.Cond.selects "LuckCrates$Reader" ({ cls := "LuckCrates$Reader", name := "read", desc := "()LLuckCrates$Province;" } : Jvm.MethodName) ({ cls := "LuckCrates$Reader", name := "read", desc := "()LLuckCrates$Province;" } : Jvm.MethodName)) ∈ lw_all := lw_g (lw_at lw_m3 232 rfl) rfl
theorem q821 : (Jvm.Cond.code ({ cls := "LuckCrates$Reader", name := "read", desc := "()LLuckCrates$Province;" } : Jvm.MethodName) prog_8_method_25_code (2 : Nat) (Option.some (Jvm.ClassFile.FieldType.object "LuckCrates$Province"))) ∈ lw_all := lw_g (lw_at lw_m3 233 rfl) rfl
theorem q822 : (Jvm.Cond.methodLink "LuckCrates$Reader" (111 : Nat) ({ cls := "LuckCrates$Reader", name := "next", desc := "()V" } : Jvm.MethodName)) ∈ lw_all := lw_g (lw_at lw_m3 234 rfl) rfl
theorem q823 : (Jvm.Cond.privateMethod ({ cls := "LuckCrates$Reader", name := "next", desc := "()V" } : Jvm.MethodName)) ∈ lw_tbl := lw_at lw_m3 235 rfl
theorem q824 : (Jvm.Cond.instanceMethod ({ cls := "LuckCrates$Reader", name := "next", desc := "()V" } : Jvm.MethodName)) ∈ lw_all := lw_g (lw_at lw_m3 236 rfl) rfl
theorem q825 : (Jvm.Cond.code ({ cls := "LuckCrates$Reader", name := "next", desc := "()V" } : Jvm.MethodName) prog_8_method_5_code (1 : Nat) (Option.none : Option Jvm.ClassFile.FieldType)) ∈ lw_all := lw_g (lw_at lw_m3 237 rfl) rfl
theorem q826 : (Jvm.Cond.methodLink "LuckCrates$Reader" (60 : Nat) ({ cls := "LuckCrates$Reader", name := "here", desc := "()I" } : Jvm.MethodName)) ∈ lw_all := lw_g (lw_at lw_m3 238 rfl) rfl
theorem q827 : (Jvm.Cond.privateMethod ({ cls := "LuckCrates$Reader", name := "here", desc := "()I" } : Jvm.MethodName)) ∈ lw_tbl := lw_at lw_m3 239 rfl
theorem q828 : (Jvm.Cond.instanceMethod ({ cls := "LuckCrates$Reader", name := "here", desc := "()I" } : Jvm.MethodName)) ∈ lw_all := lw_g (lw_at lw_m4 0 rfl) rfl
theorem q829 : (Jvm.Cond.code ({ cls := "LuckCrates$Reader", name := "here", desc := "()I" } : Jvm.MethodName) prog_8_method_2_code (1 : Nat) (Option.some Jvm.ClassFile.FieldType.int)) ∈ lw_all := lw_g (lw_at lw_m4 1 rfl) rfl
theorem q830 : (Jvm.Cond.methodLink "LuckCrates$Reader" (74 : Nat) ({ cls := "LuckCrates$Reader", name := "isLetter", desc := "()Z" } : Jvm.MethodName)) ∈ lw_all := lw_g (lw_at lw_m4 2 rfl) rfl
theorem q831 : (Jvm.Cond.privateMethod ({ cls := "LuckCrates$Reader", name := "isLetter", desc := "()Z" } : Jvm.MethodName)) ∈ lw_tbl := lw_at lw_m4 3 rfl
theorem q832 : (Jvm.Cond.instanceMethod ({ cls := "LuckCrates$Reader", name := "isLetter", desc := "()Z" } : Jvm.MethodName)) ∈ lw_all := lw_g (lw_at lw_m4 4 rfl) rfl
theorem q833 : (Jvm.Cond.code ({ cls := "LuckCrates$Reader", name := "isLetter", desc := "()Z" } : Jvm.MethodName) prog_8_method_3_code (1 : Nat) (Option.some Jvm.ClassFile.FieldType.boolean)) ∈ lw_all := lw_g (lw_at lw_m4 5 rfl) rfl
theorem q834 : (Jvm.Cond.methodLinkNest "LuckCrates$Reader" (64 : Nat) ({ cls := "LuckCrates", name := "in", desc := "(III)Z" } : Jvm.MethodName) "LuckCrates") ∈ lw_tbl := lw_at lw_m4 6 rfl
theorem q835 : (Jvm.Cond.methodLink "LuckCrates$Reader" (78 : Nat) ({ cls := "LuckCrates$Reader", name := "isDigit", desc := "()Z" } : Jvm.MethodName)) ∈ lw_all := lw_g (lw_at lw_m4 7 rfl) rfl
theorem q836 : (Jvm.Cond.privateMethod ({ cls := "LuckCrates$Reader", name := "isDigit", desc := "()Z" } : Jvm.MethodName)) ∈ lw_tbl := lw_at lw_m4 8 rfl
theorem q837 : (Jvm.Cond.instanceMethod ({ cls := "LuckCrates$Reader", name := "isDigit", desc := "()Z" } : Jvm.MethodName)) ∈ lw_all := lw_g (lw_at lw_m4 9 rfl) rfl
theorem q838 : (Jvm.Cond.code ({ cls := "LuckCrates$Reader", name := "isDigit", desc := "()Z" } : Jvm.MethodName) prog_8_method_4_code (1 : Nat) (Option.some Jvm.ClassFile.FieldType.boolean)) ∈ lw_all := lw_g (lw_at lw_m4 10 rfl) rfl
theorem q839 : (Jvm.Cond.constant "LuckCrates$Reader" (84 : Nat) (100000 : Int32)) ∈ lw_all := lw_g (lw_at lw_m4 11 rfl) rfl
theorem q840 : (Jvm.Cond.methodLink "LuckCrates$Reader" (85 : Nat) ({ cls := "java/lang/Math", name := "min", desc := "(II)I" } : Jvm.MethodName)) ∈ lw_all := lw_g (lw_at lw_m4 12 rfl) rfl
theorem q841 : (Jvm.Cond.stringRef "LuckCrates$Reader" (91 : Nat) ";()+-*/<=") ∈ lw_tbl := lw_at lw_m4 13 rfl
theorem q842 : (Jvm.Cond.methodLink "LuckCrates$Reader" (93 : Nat) ({ cls := "java/lang/String", name := "indexOf", desc := "(I)I" } : Jvm.MethodName)) ∈ lw_all := lw_g (lw_at lw_m4 14 rfl) rfl
theorem q911 : (Jvm.Cond.methodLink "LuckCrates$Reader" (264 : Nat) ({ cls := "LuckCrates$Reader", name := "line", desc := "()V" } : Jvm.MethodName)) ∈ lw_all := lw_g (lw_at lw_m4 83 rfl) rfl
theorem q912 : (Jvm.Cond.privateMethod ({ cls := "LuckCrates$Reader", name := "line", desc := "()V" } : Jvm.MethodName)) ∈ lw_tbl := lw_at lw_m4 84 rfl
theorem q913 : (Jvm.Cond.instanceMethod ({ cls := "LuckCrates$Reader", name := "line", desc := "()V" } : Jvm.MethodName)) ∈ lw_all := lw_g (lw_at lw_m4 85 rfl) rfl
theorem q914 : (Jvm.Cond.code ({ cls := "LuckCrates$Reader", name := "line", desc := "()V" } : Jvm.MethodName) prog_8_method_24_code (1 : Nat) (Option.none : Option Jvm.ClassFile.FieldType)) ∈ lw_all := lw_g (lw_at lw_m4 86 rfl) rfl
theorem q915 : (Jvm.Cond.stringRef "LuckCrates$Reader" (245 : Nat) "town") ∈ lw_tbl := lw_at lw_m4 87 rfl
theorem q916 : (Jvm.Cond.methodLink "LuckCrates$Reader" (107 : Nat) ({ cls := "LuckCrates$Reader", name := "is", desc := "(Ljava/lang/String;)Z" } : Jvm.MethodName)) ∈ lw_all := lw_g (lw_at lw_m4 88 rfl) rfl
theorem q917 : (Jvm.Cond.privateMethod ({ cls := "LuckCrates$Reader", name := "is", desc := "(Ljava/lang/String;)Z" } : Jvm.MethodName)) ∈ lw_tbl := lw_at lw_m4 89 rfl
theorem q918 : (Jvm.Cond.instanceMethod ({ cls := "LuckCrates$Reader", name := "is", desc := "(Ljava/lang/String;)Z" } : Jvm.MethodName)) ∈ lw_all := lw_g (lw_at lw_m4 90 rfl) rfl
theorem q919 : (Jvm.Cond.code ({ cls := "LuckCrates$Reader", name := "is", desc := "(Ljava/lang/String;)Z" } : Jvm.MethodName) prog_8_method_6_code (3 : Nat) (Option.some Jvm.ClassFile.FieldType.boolean)) ∈ lw_all := lw_g (lw_at lw_m4 91 rfl) rfl
theorem q920 : (Jvm.Cond.methodLink "LuckCrates$Reader" (100 : Nat) ({ cls := "java/lang/String", name := "length", desc := "()I" } : Jvm.MethodName)) ∈ lw_all := lw_g (lw_at lw_m4 92 rfl) rfl
theorem q921 : (Jvm.Cond.methodLink "LuckCrates$Reader" (103 : Nat) ({ cls := "java/lang/String", name := "charAt", desc := "(I)C" } : Jvm.MethodName)) ∈ lw_all := lw_g (lw_at lw_m4 93 rfl) rfl
theorem q936 : (Jvm.Cond.methodLink "LuckCrates$Reader" (246 : Nat) ({ cls := "LuckCrates$Reader", name := "town", desc := "()V" } : Jvm.MethodName)) ∈ lw_all := lw_g (lw_at lw_m4 108 rfl) rfl
theorem q937 : (Jvm.Cond.privateMethod ({ cls := "LuckCrates$Reader", name := "town", desc := "()V" } : Jvm.MethodName)) ∈ lw_tbl := lw_at lw_m4 109 rfl
theorem q938 : (Jvm.Cond.instanceMethod ({ cls := "LuckCrates$Reader", name := "town", desc := "()V" } : Jvm.MethodName)) ∈ lw_all := lw_g (lw_at lw_m4 110 rfl) rfl
theorem q939 : (Jvm.Cond.code ({ cls := "LuckCrates$Reader", name := "town", desc := "()V" } : Jvm.MethodName) prog_8_method_21_code (3 : Nat) (Option.none : Option Jvm.ClassFile.FieldType)) ∈ lw_all := lw_g (lw_at lw_m4 111 rfl) rfl
theorem q940 : (Jvm.Cond.methodLink "LuckCrates$Reader" (126 : Nat) ({ cls := "LuckCrates$Province", name := "towns", desc := "()I" } : Jvm.MethodName)) ∈ lw_all := lw_g (lw_at lw_m4 112 rfl) rfl
theorem q941 : (Jvm.Cond.methodLink "LuckCrates$Reader" (119 : Nat) ({ cls := "LuckCrates$Reader", name := "want", desc := "(ZI)V" } : Jvm.MethodName)) ∈ lw_all := lw_g (lw_at lw_m4 113 rfl) rfl
theorem q942 : (Jvm.Cond.privateMethod ({ cls := "LuckCrates$Reader", name := "want", desc := "(ZI)V" } : Jvm.MethodName)) ∈ lw_tbl := lw_at lw_m4 114 rfl
theorem q943 : (Jvm.Cond.instanceMethod ({ cls := "LuckCrates$Reader", name := "want", desc := "(ZI)V" } : Jvm.MethodName)) ∈ lw_all := lw_g (lw_at lw_m4 115 rfl) rfl
theorem q944 : (Jvm.Cond.code ({ cls := "LuckCrates$Reader", name := "want", desc := "(ZI)V" } : Jvm.MethodName) prog_8_method_10_code (3 : Nat) (Option.none : Option Jvm.ClassFile.FieldType)) ∈ lw_all := lw_g (lw_at lw_m4 116 rfl) rfl
theorem q945 : (Jvm.Cond.classLink "LuckCrates$Reader" (114 : Nat) "LuckCrates$Wrong") ∈ lw_all := lw_g (lw_at lw_m4 117 rfl) rfl
theorem q954 : (Jvm.Cond.methodLink "LuckCrates$Reader" (116 : Nat) ({ cls := "LuckCrates$Wrong", name := "<init>", desc := "(I)V" } : Jvm.MethodName)) ∈ lw_all := lw_g (lw_at lw_m4 126 rfl) rfl
theorem q969 : (Jvm.Cond.methodLink "LuckCrates$Reader" (131 : Nat) ({ cls := "LuckCrates$Reader", name := "number", desc := "(II)I" } : Jvm.MethodName)) ∈ lw_all := lw_g (lw_at lw_m4 141 rfl) rfl
theorem q970 : (Jvm.Cond.privateMethod ({ cls := "LuckCrates$Reader", name := "number", desc := "(II)I" } : Jvm.MethodName)) ∈ lw_tbl := lw_at lw_m4 142 rfl
theorem q971 : (Jvm.Cond.instanceMethod ({ cls := "LuckCrates$Reader", name := "number", desc := "(II)I" } : Jvm.MethodName)) ∈ lw_all := lw_g (lw_at lw_m4 143 rfl) rfl
theorem q972 : (Jvm.Cond.code ({ cls := "LuckCrates$Reader", name := "number", desc := "(II)I" } : Jvm.MethodName) prog_8_method_12_code (4 : Nat) (Option.some Jvm.ClassFile.FieldType.int)) ∈ lw_all := lw_g (lw_at lw_m4 144 rfl) rfl
theorem q973 : (Jvm.Cond.methodLink "LuckCrates$Reader" (123 : Nat) ({ cls := "LuckCrates$Reader", name := "numberNow", desc := "(II)I" } : Jvm.MethodName)) ∈ lw_all := lw_g (lw_at lw_m4 145 rfl) rfl
theorem q974 : (Jvm.Cond.privateMethod ({ cls := "LuckCrates$Reader", name := "numberNow", desc := "(II)I" } : Jvm.MethodName)) ∈ lw_tbl := lw_at lw_m4 146 rfl
theorem q975 : (Jvm.Cond.instanceMethod ({ cls := "LuckCrates$Reader", name := "numberNow", desc := "(II)I" } : Jvm.MethodName)) ∈ lw_all := lw_g (lw_at lw_m4 147 rfl) rfl
theorem q976 : (Jvm.Cond.code ({ cls := "LuckCrates$Reader", name := "numberNow", desc := "(II)I" } : Jvm.MethodName) prog_8_method_11_code (3 : Nat) (Option.some Jvm.ClassFile.FieldType.int)) ∈ lw_all := lw_g (lw_at lw_m4 148 rfl) rfl
theorem q977 : (Jvm.Cond.methodLink "LuckCrates$Reader" (200 : Nat) ({ cls := "java/lang/Integer", name := "valueOf", desc := "(I)Ljava/lang/Integer;" } : Jvm.MethodName)) ∈ lw_all := lw_g (lw_at lw_m4 149 rfl) rfl
theorem q997 : (Jvm.Cond.interfaceEntry "LuckCrates$Reader" (206 : Nat)) ∈ lw_tbl := lw_at lw_m4 169 rfl
theorem q998 : (Jvm.Cond.methodLink "LuckCrates$Reader" (206 : Nat) ({ cls := "java/util/List", name := "add", desc := "(Ljava/lang/Object;)Z" } : Jvm.MethodName)) ∈ lw_all := lw_g (lw_at lw_m4 170 rfl) rfl
theorem q999 : (Jvm.Cond.stringRef "LuckCrates$Reader" (248 : Nat) "way") ∈ lw_tbl := lw_at lw_m4 171 rfl
theorem q1000 : (Jvm.Cond.methodLink "LuckCrates$Reader" (250 : Nat) ({ cls := "LuckCrates$Reader", name := "way", desc := "()V" } : Jvm.MethodName)) ∈ lw_all := lw_g (lw_at lw_m4 172 rfl) rfl
theorem q1001 : (Jvm.Cond.privateMethod ({ cls := "LuckCrates$Reader", name := "way", desc := "()V" } : Jvm.MethodName)) ∈ lw_tbl := lw_at lw_m4 173 rfl
theorem q1002 : (Jvm.Cond.instanceMethod ({ cls := "LuckCrates$Reader", name := "way", desc := "()V" } : Jvm.MethodName)) ∈ lw_all := lw_g (lw_at lw_m4 174 rfl) rfl
theorem q1003 : (Jvm.Cond.code ({ cls := "LuckCrates$Reader", name := "way", desc := "()V" } : Jvm.MethodName) prog_8_method_22_code (4 : Nat) (Option.none : Option Jvm.ClassFile.FieldType)) ∈ lw_all := lw_g (lw_at lw_m4 175 rfl) rfl
theorem q1004 : (Jvm.Cond.interfaceEntry "LuckCrates$Reader" (216 : Nat)) ∈ lw_tbl := lw_at lw_m4 176 rfl
theorem q1005 : (Jvm.Cond.methodLink "LuckCrates$Reader" (216 : Nat) ({ cls := "java/util/List", name := "size", desc := "()I" } : Jvm.MethodName)) ∈ lw_all := lw_g (lw_at lw_m4 177 rfl) rfl
theorem q1006 : (Jvm.Cond.methodLink "LuckCrates$Reader" (218 : Nat) ({ cls := "LuckCrates$Reader", name := "townNow", desc := "()I" } : Jvm.MethodName)) ∈ lw_all := lw_g (lw_at lw_m4 178 rfl) rfl
theorem q1007 : (Jvm.Cond.privateMethod ({ cls := "LuckCrates$Reader", name := "townNow", desc := "()I" } : Jvm.MethodName)) ∈ lw_tbl := lw_at lw_m4 179 rfl
theorem q1008 : (Jvm.Cond.instanceMethod ({ cls := "LuckCrates$Reader", name := "townNow", desc := "()I" } : Jvm.MethodName)) ∈ lw_all := lw_g (lw_at lw_m4 180 rfl) rfl
theorem q1009 : (Jvm.Cond.code ({ cls := "LuckCrates$Reader", name := "townNow", desc := "()I" } : Jvm.MethodName) prog_8_method_13_code (2 : Nat) (Option.some Jvm.ClassFile.FieldType.int)) ∈ lw_all := lw_g (lw_at lw_m4 181 rfl) rfl
theorem q1010 : (Jvm.Cond.methodLink "LuckCrates$Reader" (221 : Nat) ({ cls := "LuckCrates$Province", name := "isJoined", desc := "(II)Z" } : Jvm.MethodName)) ∈ lw_all := lw_g (lw_at lw_m4 182 rfl) rfl
theorem q1018 : (Jvm.Cond.classLink "LuckCrates$Reader" (225 : Nat) "LuckCrates$Way") ∈ lw_all := lw_g (lw_at lw_m4 190 rfl) rfl
theorem q1020 : (Jvm.Cond.methodLink "LuckCrates$Reader" (227 : Nat) ({ cls := "LuckCrates$Way", name := "<init>", desc := "(IIII)V" } : Jvm.MethodName)) ∈ lw_all := lw_g (lw_at lw_m4 192 rfl) rfl
theorem q1045 : (Jvm.Cond.stringRef "LuckCrates$Reader" (252 : Nat) "crate") ∈ lw_tbl := lw_at lw_m4 217 rfl
theorem q1046 : (Jvm.Cond.stringRef "LuckCrates$Reader" (254 : Nat) "ballast") ∈ lw_tbl := lw_at lw_m4 218 rfl
theorem q1047 : (Jvm.Cond.methodLink "LuckCrates$Reader" (256 : Nat) ({ cls := "LuckCrates$Reader", name := "crate", desc := "(Z)V" } : Jvm.MethodName)) ∈ lw_all := lw_g (lw_at lw_m4 219 rfl) rfl
theorem q1048 : (Jvm.Cond.privateMethod ({ cls := "LuckCrates$Reader", name := "crate", desc := "(Z)V" } : Jvm.MethodName)) ∈ lw_tbl := lw_at lw_m4 220 rfl
theorem q1049 : (Jvm.Cond.instanceMethod ({ cls := "LuckCrates$Reader", name := "crate", desc := "(Z)V" } : Jvm.MethodName)) ∈ lw_all := lw_g (lw_at lw_m4 221 rfl) rfl
theorem q1050 : (Jvm.Cond.code ({ cls := "LuckCrates$Reader", name := "crate", desc := "(Z)V" } : Jvm.MethodName) prog_8_method_23_code (3 : Nat) (Option.none : Option Jvm.ClassFile.FieldType)) ∈ lw_all := lw_g (lw_at lw_m4 222 rfl) rfl
theorem q1051 : (Jvm.Cond.stringRef "LuckCrates$Reader" (244 : Nat) "cat") ∈ lw_tbl := lw_at lw_m4 223 rfl
theorem q1052 : (Jvm.Cond.methodLink "LuckCrates$Reader" (184 : Nat) ({ cls := "LuckCrates$Reader", name := "passes", desc := "(Ljava/lang/String;)Z" } : Jvm.MethodName)) ∈ lw_all := lw_g (lw_at lw_m4 224 rfl) rfl
theorem q1053 : (Jvm.Cond.privateMethod ({ cls := "LuckCrates$Reader", name := "passes", desc := "(Ljava/lang/String;)Z" } : Jvm.MethodName)) ∈ lw_tbl := lw_at lw_m4 225 rfl
theorem q1054 : (Jvm.Cond.instanceMethod ({ cls := "LuckCrates$Reader", name := "passes", desc := "(Ljava/lang/String;)Z" } : Jvm.MethodName)) ∈ lw_all := lw_g (lw_at lw_m4 226 rfl) rfl
theorem q1055 : (Jvm.Cond.code ({ cls := "LuckCrates$Reader", name := "passes", desc := "(Ljava/lang/String;)Z" } : Jvm.MethodName) prog_8_method_9_code (3 : Nat) (Option.some Jvm.ClassFile.FieldType.boolean)) ∈ lw_all := lw_g (lw_at lw_m4 227 rfl) rfl
theorem q1056 : (Jvm.Cond.stringRef "LuckCrates$Reader" (259 : Nat) "odds") ∈ lw_tbl := lw_at lw_m4 228 rfl
theorem q1057 : (Jvm.Cond.methodLink "LuckCrates$Reader" (138 : Nat) ({ cls := "LuckCrates$Reader", name := "expression", desc := "(I)LLuckCrates$Form;" } : Jvm.MethodName)) ∈ lw_all := lw_g (lw_at lw_m4 229 rfl) rfl
theorem q1058 : (Jvm.Cond.privateMethod ({ cls := "LuckCrates$Reader", name := "expression", desc := "(I)LLuckCrates$Form;" } : Jvm.MethodName)) ∈ lw_tbl := lw_at lw_m4 230 rfl
theorem q1059 : (Jvm.Cond.instanceMethod ({ cls := "LuckCrates$Reader", name := "expression", desc := "(I)LLuckCrates$Form;" } : Jvm.MethodName)) ∈ lw_all := lw_g (lw_at lw_m4 231 rfl) rfl
theorem q1060 : (Jvm.Cond.code ({ cls := "LuckCrates$Reader", name := "expression", desc := "(I)LLuckCrates$Form;" } : Jvm.MethodName) prog_8_method_20_code (3 : Nat) (Option.some (Jvm.ClassFile.FieldType.object "LuckCrates$Form"))) ∈ lw_all := lw_g (lw_at lw_m4 232 rfl) rfl
theorem q1061 : (Jvm.Cond.methodLink "LuckCrates$Reader" (134 : Nat) ({ cls := "LuckCrates$Reader", name := "isSign", desc := "(C)Z" } : Jvm.MethodName)) ∈ lw_all := lw_g (lw_at lw_m4 233 rfl) rfl
theorem q1062 : (Jvm.Cond.privateMethod ({ cls := "LuckCrates$Reader", name := "isSign", desc := "(C)Z" } : Jvm.MethodName)) ∈ lw_tbl := lw_at lw_m4 234 rfl
theorem q1063 : (Jvm.Cond.instanceMethod ({ cls := "LuckCrates$Reader", name := "isSign", desc := "(C)Z" } : Jvm.MethodName)) ∈ lw_all := lw_g (lw_at lw_m4 235 rfl) rfl
theorem q1064 : (Jvm.Cond.code ({ cls := "LuckCrates$Reader", name := "isSign", desc := "(C)Z" } : Jvm.MethodName) prog_8_method_8_code (2 : Nat) (Option.some Jvm.ClassFile.FieldType.boolean)) ∈ lw_all := lw_g (lw_at lw_m4 236 rfl) rfl
theorem q1065 : (Jvm.Cond.classLink "LuckCrates$Reader" (149 : Nat) "LuckCrates$Chain") ∈ lw_all := lw_g (lw_at lw_m4 237 rfl) rfl
theorem q1067 : (Jvm.Cond.methodLink "LuckCrates$Reader" (187 : Nat) ({ cls := "LuckCrates$Reader", name := "and", desc := "(I)LLuckCrates$Form;" } : Jvm.MethodName)) ∈ lw_all := lw_g (lw_at lw_m4 239 rfl) rfl
theorem q1068 : (Jvm.Cond.privateMethod ({ cls := "LuckCrates$Reader", name := "and", desc := "(I)LLuckCrates$Form;" } : Jvm.MethodName)) ∈ lw_tbl := lw_at lw_m5 0 rfl
theorem q1069 : (Jvm.Cond.instanceMethod ({ cls := "LuckCrates$Reader", name := "and", desc := "(I)LLuckCrates$Form;" } : Jvm.MethodName)) ∈ lw_all := lw_g (lw_at lw_m5 1 rfl) rfl
theorem q1070 : (Jvm.Cond.code ({ cls := "LuckCrates$Reader", name := "and", desc := "(I)LLuckCrates$Form;" } : Jvm.MethodName) prog_8_method_19_code (3 : Nat) (Option.some (Jvm.ClassFile.FieldType.object "LuckCrates$Form"))) ∈ lw_all := lw_g (lw_at lw_m5 2 rfl) rfl
theorem q1071 : (Jvm.Cond.methodLink "LuckCrates$Reader" (180 : Nat) ({ cls := "LuckCrates$Reader", name := "not", desc := "(I)LLuckCrates$Form;" } : Jvm.MethodName)) ∈ lw_all := lw_g (lw_at lw_m5 3 rfl) rfl
theorem q1072 : (Jvm.Cond.privateMethod ({ cls := "LuckCrates$Reader", name := "not", desc := "(I)LLuckCrates$Form;" } : Jvm.MethodName)) ∈ lw_tbl := lw_at lw_m5 4 rfl
theorem q1073 : (Jvm.Cond.instanceMethod ({ cls := "LuckCrates$Reader", name := "not", desc := "(I)LLuckCrates$Form;" } : Jvm.MethodName)) ∈ lw_all := lw_g (lw_at lw_m5 5 rfl) rfl
theorem q1074 : (Jvm.Cond.code ({ cls := "LuckCrates$Reader", name := "not", desc := "(I)LLuckCrates$Form;" } : Jvm.MethodName) prog_8_method_18_code (6 : Nat) (Option.some (Jvm.ClassFile.FieldType.object "LuckCrates$Form"))) ∈ lw_all := lw_g (lw_at lw_m5 6 rfl) rfl
theorem q1075 : (Jvm.Cond.stringRef "LuckCrates$Reader" (172 : Nat) "not") ∈ lw_tbl := lw_at lw_m5 7 rfl
theorem q1076 : (Jvm.Cond.methodLink "LuckCrates$Reader" (174 : Nat) ({ cls := "LuckCrates$Reader", name := "sum", desc := "(I)LLuckCrates$Form;" } : Jvm.MethodName)) ∈ lw_all := lw_g (lw_at lw_m5 8 rfl) rfl
theorem q1077 : (Jvm.Cond.privateMethod ({ cls := "LuckCrates$Reader", name := "sum", desc := "(I)LLuckCrates$Form;" } : Jvm.MethodName)) ∈ lw_tbl := lw_at lw_m5 9 rfl
theorem q1078 : (Jvm.Cond.instanceMethod ({ cls := "LuckCrates$Reader", name := "sum", desc := "(I)LLuckCrates$Form;" } : Jvm.MethodName)) ∈ lw_all := lw_g (lw_at lw_m5 10 rfl) rfl
theorem q1079 : (Jvm.Cond.code ({ cls := "LuckCrates$Reader", name := "sum", desc := "(I)LLuckCrates$Form;" } : Jvm.MethodName) prog_8_method_17_code (4 : Nat) (Option.some (Jvm.ClassFile.FieldType.object "LuckCrates$Form"))) ∈ lw_all := lw_g (lw_at lw_m5 11 rfl) rfl
theorem q1080 : (Jvm.Cond.methodLink "LuckCrates$Reader" (169 : Nat) ({ cls := "LuckCrates$Reader", name := "product", desc := "(I)LLuckCrates$Form;" } : Jvm.MethodName)) ∈ lw_all := lw_g (lw_at lw_m5 12 rfl) rfl
theorem q1081 : (Jvm.Cond.privateMethod ({ cls := "LuckCrates$Reader", name := "product", desc := "(I)LLuckCrates$Form;" } : Jvm.MethodName)) ∈ lw_tbl := lw_at lw_m5 13 rfl
theorem q1082 : (Jvm.Cond.instanceMethod ({ cls := "LuckCrates$Reader", name := "product", desc := "(I)LLuckCrates$Form;" } : Jvm.MethodName)) ∈ lw_all := lw_g (lw_at lw_m5 14 rfl) rfl
theorem q1083 : (Jvm.Cond.code ({ cls := "LuckCrates$Reader", name := "product", desc := "(I)LLuckCrates$Form;" } : Jvm.MethodName) prog_8_method_16_code (4 : Nat) (Option.some (Jvm.ClassFile.FieldType.object "LuckCrates$Form"))) ∈ lw_all := lw_g (lw_at lw_m5 15 rfl) rfl
theorem q1084 : (Jvm.Cond.methodLink "LuckCrates$Reader" (151 : Nat) ({ cls := "LuckCrates$Reader", name := "part", desc := "(I)LLuckCrates$Form;" } : Jvm.MethodName)) ∈ lw_all := lw_g (lw_at lw_m5 16 rfl) rfl
theorem q1085 : (Jvm.Cond.privateMethod ({ cls := "LuckCrates$Reader", name := "part", desc := "(I)LLuckCrates$Form;" } : Jvm.MethodName)) ∈ lw_tbl := lw_at lw_m5 17 rfl
theorem q1086 : (Jvm.Cond.instanceMethod ({ cls := "LuckCrates$Reader", name := "part", desc := "(I)LLuckCrates$Form;" } : Jvm.MethodName)) ∈ lw_all := lw_g (lw_at lw_m5 18 rfl) rfl
theorem q1087 : (Jvm.Cond.code ({ cls := "LuckCrates$Reader", name := "part", desc := "(I)LLuckCrates$Form;" } : Jvm.MethodName) prog_8_method_14_code (3 : Nat) (Option.some (Jvm.ClassFile.FieldType.object "LuckCrates$Form"))) ∈ lw_all := lw_g (lw_at lw_m5 19 rfl) rfl
theorem q1088 : (Jvm.Cond.classLink "LuckCrates$Reader" (129 : Nat) "LuckCrates$Number") ∈ lw_all := lw_g (lw_at lw_m5 20 rfl) rfl
theorem q1090 : (Jvm.Cond.methodLink "LuckCrates$Reader" (133 : Nat) ({ cls := "LuckCrates$Number", name := "<init>", desc := "(I)V" } : Jvm.MethodName)) ∈ lw_all := lw_g (lw_at lw_m5 22 rfl) rfl
theorem q1098 : (Jvm.Cond.methodLink "LuckCrates$Reader" (142 : Nat) ({ cls := "LuckCrates$Reader", name := "which", desc := "([Ljava/lang/String;)I" } : Jvm.MethodName)) ∈ lw_all := lw_g (lw_at lw_m5 30 rfl) rfl
theorem q1099 : (Jvm.Cond.privateMethod ({ cls := "LuckCrates$Reader", name := "which", desc := "([Ljava/lang/String;)I" } : Jvm.MethodName)) ∈ lw_tbl := lw_at lw_m5 31 rfl
theorem q1100 : (Jvm.Cond.instanceMethod ({ cls := "LuckCrates$Reader", name := "which", desc := "([Ljava/lang/String;)I" } : Jvm.MethodName)) ∈ lw_all := lw_g (lw_at lw_m5 32 rfl) rfl
theorem q1101 : (Jvm.Cond.code ({ cls := "LuckCrates$Reader", name := "which", desc := "([Ljava/lang/String;)I" } : Jvm.MethodName) prog_8_method_7_code (3 : Nat) (Option.some Jvm.ClassFile.FieldType.int)) ∈ lw_all := lw_g (lw_at lw_m5 33 rfl) rfl
theorem q1102 : (Jvm.Cond.classLink "LuckCrates$Reader" (146 : Nat) "LuckCrates$Value") ∈ lw_all := lw_g (lw_at lw_m5 34 rfl) rfl
theorem q1104 : (Jvm.Cond.methodLink "LuckCrates$Reader" (148 : Nat) ({ cls := "LuckCrates$Value", name := "<init>", desc := "(I)V" } : Jvm.MethodName)) ∈ lw_all := lw_g (lw_at lw_m5 36 rfl) rfl
theorem q1112 : (Jvm.Cond.methodLink "LuckCrates$Reader" (154 : Nat) ({ cls := "LuckCrates$Chain", name := "<init>", desc := "(LLuckCrates$Form;)V" } : Jvm.MethodName)) ∈ lw_all := lw_g (lw_at lw_m5 44 rfl) rfl
theorem q1155 : (Jvm.Cond.methodLink "LuckCrates$Reader" (157 : Nat) ({ cls := "LuckCrates$Reader", name := "sign", desc := "()C" } : Jvm.MethodName)) ∈ lw_all := lw_g (lw_at lw_m5 87 rfl) rfl
theorem q1156 : (Jvm.Cond.privateMethod ({ cls := "LuckCrates$Reader", name := "sign", desc := "()C" } : Jvm.MethodName)) ∈ lw_tbl := lw_at lw_m5 88 rfl
theorem q1157 : (Jvm.Cond.instanceMethod ({ cls := "LuckCrates$Reader", name := "sign", desc := "()C" } : Jvm.MethodName)) ∈ lw_all := lw_g (lw_at lw_m5 89 rfl) rfl
theorem q1158 : (Jvm.Cond.code ({ cls := "LuckCrates$Reader", name := "sign", desc := "()C" } : Jvm.MethodName) prog_8_method_15_code (2 : Nat) (Option.some Jvm.ClassFile.FieldType.char)) ∈ lw_all := lw_g (lw_at lw_m5 90 rfl) rfl
theorem q1159 : (Jvm.Cond.methodLink "LuckCrates$Reader" (161 : Nat) ({ cls := "LuckCrates$Chain", name := "add", desc := "(CLLuckCrates$Form;)V" } : Jvm.MethodName)) ∈ lw_all := lw_g (lw_at lw_m5 91 rfl) rfl
theorem q1223 : (Jvm.Cond.methodLink "LuckCrates$Reader" (165 : Nat) ({ cls := "LuckCrates$Chain", name := "plain", desc := "()LLuckCrates$Form;" } : Jvm.MethodName)) ∈ lw_all := lw_g (lw_at lw_m5 155 rfl) rfl
theorem q1227 : (Jvm.Cond.classLink "LuckCrates$Reader" (177 : Nat) "LuckCrates$Not") ∈ lw_all := lw_g (lw_at lw_m5 159 rfl) rfl
theorem q1229 : (Jvm.Cond.methodLink "LuckCrates$Reader" (179 : Nat) ({ cls := "LuckCrates$Not", name := "<init>", desc := "(LLuckCrates$Form;)V" } : Jvm.MethodName)) ∈ lw_all := lw_g (lw_at lw_m5 161 rfl) rfl
theorem q1237 : (Jvm.Cond.stringRef "LuckCrates$Reader" (182 : Nat) "and") ∈ lw_tbl := lw_at lw_m5 169 rfl
theorem q1238 : (Jvm.Cond.stringRef "LuckCrates$Reader" (189 : Nat) "or") ∈ lw_tbl := lw_at lw_m5 170 rfl
theorem q2234 : (Jvm.Cond.castable "LuckCrates$Reader" "java/lang/Object") ∈ lw_tbl := lw_at lw_m9 206 rfl
theorem in_X5 : ∀ w ∈ wsX50, w ∈ lw_all := lw_in wsX50 [797, 799, 801, 803, 805, 807, 809, 811, 813, 815] (by decide +kernel) (by decide +kernel)
/-! X6 LuckCrates$Wrong -/
abbrev cX6_init : ByteArray := prog_11_method_1_code
def yX6_init : MethodName := ⟨RX6, "<init>", "(I)V"⟩
def dkwX6_init_0 : List UInt8 := [42, 1, 1, 3, 3, 183, 0, 1, 42, 27, 181, 0, 7, 177]
abbrev dktX6_init_0 : List UInt8 := dkwX6_init_0 ++ []
theorem dksX6_init_0 : cX6_init.data.toList.drop 0 = dktX6_init_0 := by decide +kernel
theorem dX6_init_0 : decode cX6_init 0 = .ok (.aload_n 0, 1) := dk_42 (dk_at dksX6_init_0 0 rfl rfl)
theorem dX6_init_1 : decode cX6_init 1 = .ok (.aconst_null, 1) := dk_1 (dk_at dksX6_init_0 1 rfl rfl)
theorem dX6_init_2 : decode cX6_init 2 = .ok (.aconst_null, 1) := dk_1 (dk_at dksX6_init_0 2 rfl rfl)
theorem dX6_init_3 : decode cX6_init 3 = .ok (.iconst 0, 1) := dk_3 (dk_at dksX6_init_0 3 rfl rfl)
theorem dX6_init_4 : decode cX6_init 4 = .ok (.iconst 0, 1) := dk_3 (dk_at dksX6_init_0 4 rfl rfl)
theorem dX6_init_5 : decode cX6_init 5 = .ok (.invokespecial 1, 3) := dk_183 0 1 (dk_at dksX6_init_0 5 rfl rfl)
theorem dX6_init_8 : decode cX6_init 8 = .ok (.aload_n 0, 1) := dk_42 (dk_at dksX6_init_0 8 rfl rfl)
theorem dX6_init_9 : decode cX6_init 9 = .ok (.iload_n 1, 1) := dk_27 (dk_at dksX6_init_0 9 rfl rfl)
theorem dX6_init_10 : decode cX6_init 10 = .ok (.putfield 7, 3) := dk_181 0 7 (dk_at dksX6_init_0 10 rfl rfl)
theorem dX6_init_13 : decode cX6_init 13 = .ok (.return_, 1) := dk_177 (dk_at dksX6_init_0 13 rfl rfl)
theorem q127 : (Jvm.Cond.initialized "LuckCrates$Wrong") ∈ lw_all := lw_g (lw_at lw_m1 19 rfl) rfl
theorem q403 : (Jvm.Cond.selects "LuckCrates$Wrong" ({ cls := "java/lang/Object", name := "getClass", desc := "()Ljava/lang/Class;" } : Jvm.MethodName) ({ cls := "java/lang/Object", name := "getClass", desc := "()Ljava/lang/Class;" } : Jvm.MethodName)) ∈ lw_all := lw_g (lw_at lw_m2 55 rfl) rfl
theorem q736 : (Jvm.Cond.selects "LuckCrates$Wrong" ({ cls := "java/lang/Throwable", name := "fillInStackTrace", desc := "()Ljava/lang/Throwable;" } : Jvm.MethodName) ({ cls := "java/lang/Throwable", name := "fillInStackTrace", desc := "()Ljava/lang/Throwable;" } : Jvm.MethodName)) ∈ lw_all := lw_g (lw_at lw_m3 148 rfl) rfl
theorem q946 : (Jvm.Cond.instantiable "LuckCrates$Wrong" (7 : Nat)) ∈ lw_all := lw_g (lw_at lw_m4 118 rfl) rfl
theorem q947 : (Jvm.Cond.castable "LuckCrates$Wrong" "LuckCrates$Wrong") ∈ lw_tbl := lw_at lw_m4 119 rfl
theorem q948 : (Jvm.Cond.selects "LuckCrates$Wrong" ({ cls := "java/lang/Throwable", name := "fillInStackTrace", desc := "(I)Ljava/lang/Throwable;" } : Jvm.MethodName) ({ cls := "java/lang/Throwable", name := "fillInStackTrace", desc := "(I)Ljava/lang/Throwable;" } : Jvm.MethodName)) ∈ lw_all := lw_g (lw_at lw_m4 120 rfl) rfl
theorem q949 : (Jvm.Cond.lays "LuckCrates$Wrong" "java/lang/Throwable" "cause" "Ljava/lang/Throwable;") ∈ lw_all := lw_g (lw_at lw_m4 121 rfl) rfl
theorem q950 : (Jvm.Cond.lays "LuckCrates$Wrong" "java/lang/Throwable" "stackTrace" "[Ljava/lang/StackTraceElement;") ∈ lw_all := lw_g (lw_at lw_m4 122 rfl) rfl
theorem q951 : (Jvm.Cond.lays "LuckCrates$Wrong" "java/lang/Throwable" "suppressedExceptions" "Ljava/util/List;") ∈ lw_all := lw_g (lw_at lw_m4 123 rfl) rfl
theorem q952 : (Jvm.Cond.lays "LuckCrates$Wrong" "java/lang/Throwable" "detailMessage" "Ljava/lang/String;") ∈ lw_all := lw_g (lw_at lw_m4 124 rfl) rfl
theorem q953 : (Jvm.Cond.lays "LuckCrates$Wrong" "java/lang/Throwable" "backtrace" "Ljava/lang/Object;") ∈ lw_all := lw_g (lw_at lw_m4 125 rfl) rfl
theorem q955 : (Jvm.Cond.instanceMethod ({ cls := "LuckCrates$Wrong", name := "<init>", desc := "(I)V" } : Jvm.MethodName)) ∈ lw_all := lw_g (lw_at lw_m4 127 rfl) rfl
theorem q956 : (Jvm.Cond.code ({ cls := "LuckCrates$Wrong", name := "<init>", desc := "(I)V" } : Jvm.MethodName) prog_11_method_1_code (2 : Nat) (Option.none : Option Jvm.ClassFile.FieldType)) ∈ lw_all := lw_g (lw_at lw_m4 128 rfl) rfl
theorem q957 : (Jvm.Cond.methodLink "LuckCrates$Wrong" (1 : Nat) ({ cls := "java/lang/Exception", name := "<init>", desc := "(Ljava/lang/String;Ljava/lang/Throwable;ZZ)V" } : Jvm.MethodName)) ∈ lw_all := lw_g (lw_at lw_m4 129 rfl) rfl
theorem q963 : (Jvm.Cond.fieldLink "LuckCrates$Wrong" (7 : Nat) "LuckCrates$Wrong" "kind" "I") ∈ lw_all := lw_g (lw_at lw_m4 135 rfl) rfl
theorem q965 : (Jvm.Cond.laysFinal "LuckCrates$Wrong" "LuckCrates$Wrong" "kind" "I") ∈ lw_all := lw_g (lw_at lw_m4 137 rfl) rfl
theorem q966 : (Jvm.Cond.soleField "LuckCrates$Wrong" "kind") ∈ lw_all := lw_g (lw_at lw_m4 138 rfl) rfl
theorem q967 : (Jvm.Cond.lays "LuckCrates$Wrong" "java/lang/Throwable" "depth" "I") ∈ lw_all := lw_g (lw_at lw_m4 139 rfl) rfl
theorem q968 : (Jvm.Cond.superclass "LuckCrates$Wrong" "java/lang/Exception") ∈ lw_all := lw_g (lw_at lw_m4 140 rfl) rfl
theorem q2235 : (Jvm.Cond.castable "LuckCrates$Wrong" "java/lang/Object") ∈ lw_tbl := lw_at lw_m9 207 rfl
theorem in_X6 : ∀ w ∈ wsX60, w ∈ lw_all := lw_in wsX60 [949, 950, 951, 952, 953, 967, 965] (by decide +kernel) (by decide +kernel)
/-! X7 LuckCrates$Way -/
abbrev cX7_from : ByteArray := prog_10_method_2_code
def yX7_from : MethodName := ⟨RX7, "from", "(I)I"⟩
def dkwX7_from_1 : List UInt8 := [180, 0, 9, 167, 0, 4, 2, 172]
abbrev dktX7_from_1 : List UInt8 := dkwX7_from_1 ++ []
def dkwX7_from_0 : List UInt8 := [27, 42, 180, 0, 9, 160, 0, 10, 42, 180, 0, 15, 167, 0, 19, 27, 42, 180, 0, 15, 160, 0, 10, 42]
abbrev dktX7_from_0 : List UInt8 := dkwX7_from_0 ++ dktX7_from_1
theorem dksX7_from_0 : cX7_from.data.toList.drop 0 = dktX7_from_0 := by decide +kernel
theorem dksX7_from_1 : cX7_from.data.toList.drop 24 = dktX7_from_1 := dk_seg dksX7_from_0 24 rfl rfl
theorem dX7_from_0 : decode cX7_from 0 = .ok (.iload_n 1, 1) := dk_27 (dk_at dksX7_from_0 0 rfl rfl)
theorem dX7_from_1 : decode cX7_from 1 = .ok (.aload_n 0, 1) := dk_42 (dk_at dksX7_from_0 1 rfl rfl)
theorem dX7_from_2 : decode cX7_from 2 = .ok (.getfield 9, 3) := dk_180 0 9 (dk_at dksX7_from_0 2 rfl rfl)
theorem dX7_from_5 : decode cX7_from 5 = .ok (.if_icmp .ne 10, 3) := dk_160 0 10 (dk_at dksX7_from_0 5 rfl rfl)
theorem dX7_from_8 : decode cX7_from 8 = .ok (.aload_n 0, 1) := dk_42 (dk_at dksX7_from_0 8 rfl rfl)
theorem dX7_from_9 : decode cX7_from 9 = .ok (.getfield 15, 3) := dk_180 0 15 (dk_at dksX7_from_0 9 rfl rfl)
theorem dX7_from_12 : decode cX7_from 12 = .ok (.goto 19, 3) := dk_167 0 19 (dk_at dksX7_from_0 12 rfl rfl)
theorem dX7_from_15 : decode cX7_from 15 = .ok (.iload_n 1, 1) := dk_27 (dk_at dksX7_from_0 15 rfl rfl)
theorem dX7_from_16 : decode cX7_from 16 = .ok (.aload_n 0, 1) := dk_42 (dk_at dksX7_from_0 16 rfl rfl)
theorem dX7_from_17 : decode cX7_from 17 = .ok (.getfield 15, 3) := dk_180 0 15 (dk_at dksX7_from_0 17 rfl rfl)
theorem dX7_from_20 : decode cX7_from 20 = .ok (.if_icmp .ne 10, 3) := dk_160 0 10 (dk_at dksX7_from_0 20 rfl rfl)
theorem dX7_from_23 : decode cX7_from 23 = .ok (.aload_n 0, 1) := dk_42 (dk_at dksX7_from_0 23 rfl rfl)
theorem dX7_from_24 : decode cX7_from 24 = .ok (.getfield 9, 3) := dk_180 0 9 (dk_at dksX7_from_1 0 rfl rfl)
theorem dX7_from_27 : decode cX7_from 27 = .ok (.goto 4, 3) := dk_167 0 4 (dk_at dksX7_from_1 3 rfl rfl)
theorem dX7_from_30 : decode cX7_from 30 = .ok (.iconst (-1), 1) := dk_2 (dk_at dksX7_from_1 6 rfl rfl)
theorem dX7_from_31 : decode cX7_from 31 = .ok (.ireturn, 1) := dk_172 (dk_at dksX7_from_1 7 rfl rfl)
abbrev cX7_init : ByteArray := prog_10_method_1_code
def yX7_init : MethodName := ⟨RX7, "<init>", "(IIII)V"⟩
def dkwX7_init_1 : List UInt8 := [181, 0, 21, 177]
abbrev dktX7_init_1 : List UInt8 := dkwX7_init_1 ++ []
def dkwX7_init_0 : List UInt8 := [42, 183, 0, 3, 42, 27, 181, 0, 9, 42, 28, 181, 0, 15, 42, 29, 181, 0, 18, 42, 21, 4]
abbrev dktX7_init_0 : List UInt8 := dkwX7_init_0 ++ dktX7_init_1
theorem dksX7_init_0 : cX7_init.data.toList.drop 0 = dktX7_init_0 := by decide +kernel
theorem dksX7_init_1 : cX7_init.data.toList.drop 22 = dktX7_init_1 := dk_seg dksX7_init_0 22 rfl rfl
theorem dX7_init_0 : decode cX7_init 0 = .ok (.aload_n 0, 1) := dk_42 (dk_at dksX7_init_0 0 rfl rfl)
theorem dX7_init_1 : decode cX7_init 1 = .ok (.invokespecial 3, 3) := dk_183 0 3 (dk_at dksX7_init_0 1 rfl rfl)
theorem dX7_init_4 : decode cX7_init 4 = .ok (.aload_n 0, 1) := dk_42 (dk_at dksX7_init_0 4 rfl rfl)
theorem dX7_init_5 : decode cX7_init 5 = .ok (.iload_n 1, 1) := dk_27 (dk_at dksX7_init_0 5 rfl rfl)
theorem dX7_init_6 : decode cX7_init 6 = .ok (.putfield 9, 3) := dk_181 0 9 (dk_at dksX7_init_0 6 rfl rfl)
theorem dX7_init_9 : decode cX7_init 9 = .ok (.aload_n 0, 1) := dk_42 (dk_at dksX7_init_0 9 rfl rfl)
theorem dX7_init_10 : decode cX7_init 10 = .ok (.iload_n 2, 1) := dk_28 (dk_at dksX7_init_0 10 rfl rfl)
theorem dX7_init_11 : decode cX7_init 11 = .ok (.putfield 15, 3) := dk_181 0 15 (dk_at dksX7_init_0 11 rfl rfl)
theorem dX7_init_14 : decode cX7_init 14 = .ok (.aload_n 0, 1) := dk_42 (dk_at dksX7_init_0 14 rfl rfl)
theorem dX7_init_15 : decode cX7_init 15 = .ok (.iload_n 3, 1) := dk_29 (dk_at dksX7_init_0 15 rfl rfl)
theorem dX7_init_16 : decode cX7_init 16 = .ok (.putfield 18, 3) := dk_181 0 18 (dk_at dksX7_init_0 16 rfl rfl)
theorem dX7_init_19 : decode cX7_init 19 = .ok (.aload_n 0, 1) := dk_42 (dk_at dksX7_init_0 19 rfl rfl)
theorem dX7_init_20 : decode cX7_init 20 = .ok (.iload 4, 2) := dk_21 4 (dk_at dksX7_init_0 20 rfl rfl)
theorem dX7_init_22 : decode cX7_init 22 = .ok (.putfield 21, 3) := dk_181 0 21 (dk_at dksX7_init_1 0 rfl rfl)
theorem dX7_init_25 : decode cX7_init 25 = .ok (.return_, 1) := dk_177 (dk_at dksX7_init_1 3 rfl rfl)
theorem q135 : (Jvm.Cond.initialized "LuckCrates$Way") ∈ lw_all := lw_g (lw_at lw_m1 27 rfl) rfl
theorem q402 : (Jvm.Cond.selects "LuckCrates$Way" ({ cls := "java/lang/Object", name := "getClass", desc := "()Ljava/lang/Class;" } : Jvm.MethodName) ({ cls := "java/lang/Object", name := "getClass", desc := "()Ljava/lang/Class;" } : Jvm.MethodName)) ∈ lw_all := lw_g (lw_at lw_m2 54 rfl) rfl
theorem q1015 : (Jvm.Cond.instanceMethod ({ cls := "LuckCrates$Way", name := "from", desc := "(I)I" } : Jvm.MethodName)) ∈ lw_all := lw_g (lw_at lw_m4 187 rfl) rfl
theorem q1016 : (Jvm.Cond.selects "LuckCrates$Way" ({ cls := "LuckCrates$Way", name := "from", desc := "(I)I" } : Jvm.MethodName) ({ cls := "LuckCrates$Way", name := "from", desc := "(I)I" } : Jvm.MethodName)) ∈ lw_all := lw_g (lw_at lw_m4 188 rfl) rfl
theorem q1017 : (Jvm.Cond.code ({ cls := "LuckCrates$Way", name := "from", desc := "(I)I" } : Jvm.MethodName) prog_10_method_2_code (2 : Nat) (Option.some Jvm.ClassFile.FieldType.int)) ∈ lw_all := lw_g (lw_at lw_m4 189 rfl) rfl
theorem q1019 : (Jvm.Cond.instantiable "LuckCrates$Way" (4 : Nat)) ∈ lw_all := lw_g (lw_at lw_m4 191 rfl) rfl
theorem q1021 : (Jvm.Cond.instanceMethod ({ cls := "LuckCrates$Way", name := "<init>", desc := "(IIII)V" } : Jvm.MethodName)) ∈ lw_all := lw_g (lw_at lw_m4 193 rfl) rfl
theorem q1022 : (Jvm.Cond.code ({ cls := "LuckCrates$Way", name := "<init>", desc := "(IIII)V" } : Jvm.MethodName) prog_10_method_1_code (5 : Nat) (Option.none : Option Jvm.ClassFile.FieldType)) ∈ lw_all := lw_g (lw_at lw_m4 194 rfl) rfl
theorem q1023 : (Jvm.Cond.methodLink "LuckCrates$Way" (3 : Nat) ({ cls := "java/lang/Object", name := "<init>", desc := "()V" } : Jvm.MethodName)) ∈ lw_all := lw_g (lw_at lw_m4 195 rfl) rfl
theorem q1024 : (Jvm.Cond.fieldLink "LuckCrates$Way" (9 : Nat) "LuckCrates$Way" "a" "I") ∈ lw_all := lw_g (lw_at lw_m4 196 rfl) rfl
theorem q1027 : (Jvm.Cond.fieldLink "LuckCrates$Way" (15 : Nat) "LuckCrates$Way" "b" "I") ∈ lw_all := lw_g (lw_at lw_m4 199 rfl) rfl
theorem q1030 : (Jvm.Cond.fieldLink "LuckCrates$Way" (18 : Nat) "LuckCrates$Way" "days" "I") ∈ lw_all := lw_g (lw_at lw_m4 202 rfl) rfl
theorem q1033 : (Jvm.Cond.fieldLink "LuckCrates$Way" (21 : Nat) "LuckCrates$Way" "leak" "I") ∈ lw_all := lw_g (lw_at lw_m4 205 rfl) rfl
theorem q1036 : (Jvm.Cond.laysFinal "LuckCrates$Way" "LuckCrates$Way" "a" "I") ∈ lw_all := lw_g (lw_at lw_m4 208 rfl) rfl
theorem q1037 : (Jvm.Cond.soleField "LuckCrates$Way" "a") ∈ lw_all := lw_g (lw_at lw_m4 209 rfl) rfl
theorem q1038 : (Jvm.Cond.laysFinal "LuckCrates$Way" "LuckCrates$Way" "b" "I") ∈ lw_all := lw_g (lw_at lw_m4 210 rfl) rfl
theorem q1039 : (Jvm.Cond.soleField "LuckCrates$Way" "b") ∈ lw_all := lw_g (lw_at lw_m4 211 rfl) rfl
theorem q1040 : (Jvm.Cond.laysFinal "LuckCrates$Way" "LuckCrates$Way" "days" "I") ∈ lw_all := lw_g (lw_at lw_m4 212 rfl) rfl
theorem q1041 : (Jvm.Cond.soleField "LuckCrates$Way" "days") ∈ lw_all := lw_g (lw_at lw_m4 213 rfl) rfl
theorem q1042 : (Jvm.Cond.laysFinal "LuckCrates$Way" "LuckCrates$Way" "leak" "I") ∈ lw_all := lw_g (lw_at lw_m4 214 rfl) rfl
theorem q1043 : (Jvm.Cond.soleField "LuckCrates$Way" "leak") ∈ lw_all := lw_g (lw_at lw_m4 215 rfl) rfl
theorem q1044 : (Jvm.Cond.superclass "LuckCrates$Way" "java/lang/Object") ∈ lw_all := lw_g (lw_at lw_m4 216 rfl) rfl
theorem q2237 : (Jvm.Cond.castable "LuckCrates$Way" "java/lang/Object") ∈ lw_tbl := lw_at lw_m9 209 rfl
theorem in_X7 : ∀ w ∈ wsX70, w ∈ lw_all := lw_in wsX70 [1036, 1038, 1040, 1042] (by decide +kernel) (by decide +kernel)
/-! X8 LuckCrates$Chain -/
abbrev cX8_of : ByteArray := prog_2_method_4_code
def yX8_of : MethodName := ⟨RX8, "of", "([I)I"⟩
def dkwX8_of_3 : List UInt8 := [132, 3, 1, 167, 255, 206, 28, 172]
abbrev dktX8_of_3 : List UInt8 := dkwX8_of_3 ++ []
def dkwX8_of_2 : List UInt8 := [180, 0, 10, 29, 185, 0, 37, 2, 0, 192, 0, 41, 43, 185, 0, 43, 2, 0, 184, 0, 51, 61]
abbrev dktX8_of_2 : List UInt8 := dkwX8_of_2 ++ dktX8_of_3
def dkwX8_of_1 : List UInt8 := [180, 0, 10, 185, 0, 33, 1, 0, 162, 0, 43, 42, 180, 0, 19, 29, 4, 100, 182, 0, 47, 28, 42]
abbrev dktX8_of_1 : List UInt8 := dkwX8_of_1 ++ dktX8_of_2
def dkwX8_of_0 : List UInt8 := [42, 180, 0, 10, 3, 185, 0, 37, 2, 0, 192, 0, 41, 43, 185, 0, 43, 2, 0, 61, 4, 62, 29, 42]
abbrev dktX8_of_0 : List UInt8 := dkwX8_of_0 ++ dktX8_of_1
theorem dksX8_of_0 : cX8_of.data.toList.drop 0 = dktX8_of_0 := by decide +kernel
theorem dksX8_of_1 : cX8_of.data.toList.drop 24 = dktX8_of_1 := dk_seg dksX8_of_0 24 rfl rfl
theorem dksX8_of_2 : cX8_of.data.toList.drop 47 = dktX8_of_2 := dk_seg dksX8_of_1 23 rfl rfl
theorem dksX8_of_3 : cX8_of.data.toList.drop 69 = dktX8_of_3 := dk_seg dksX8_of_2 22 rfl rfl
theorem dX8_of_0 : decode cX8_of 0 = .ok (.aload_n 0, 1) := dk_42 (dk_at dksX8_of_0 0 rfl rfl)
theorem dX8_of_1 : decode cX8_of 1 = .ok (.getfield 10, 3) := dk_180 0 10 (dk_at dksX8_of_0 1 rfl rfl)
theorem dX8_of_4 : decode cX8_of 4 = .ok (.iconst 0, 1) := dk_3 (dk_at dksX8_of_0 4 rfl rfl)
theorem dX8_of_5 : decode cX8_of 5 = .ok (.invokeinterface 37 2, 5) := by decide +kernel
theorem dX8_of_10 : decode cX8_of 10 = .ok (.checkcast 41, 3) := dk_192 0 41 (dk_at dksX8_of_0 10 rfl rfl)
theorem dX8_of_13 : decode cX8_of 13 = .ok (.aload_n 1, 1) := dk_43 (dk_at dksX8_of_0 13 rfl rfl)
theorem dX8_of_14 : decode cX8_of 14 = .ok (.invokeinterface 43 2, 5) := by decide +kernel
theorem dX8_of_19 : decode cX8_of 19 = .ok (.istore_n 2, 1) := dk_61 (dk_at dksX8_of_0 19 rfl rfl)
theorem dX8_of_20 : decode cX8_of 20 = .ok (.iconst 1, 1) := dk_4 (dk_at dksX8_of_0 20 rfl rfl)
theorem dX8_of_21 : decode cX8_of 21 = .ok (.istore_n 3, 1) := dk_62 (dk_at dksX8_of_0 21 rfl rfl)
theorem dX8_of_22 : decode cX8_of 22 = .ok (.iload_n 3, 1) := dk_29 (dk_at dksX8_of_0 22 rfl rfl)
theorem dX8_of_23 : decode cX8_of 23 = .ok (.aload_n 0, 1) := dk_42 (dk_at dksX8_of_0 23 rfl rfl)
theorem dX8_of_24 : decode cX8_of 24 = .ok (.getfield 10, 3) := dk_180 0 10 (dk_at dksX8_of_1 0 rfl rfl)
theorem dX8_of_27 : decode cX8_of 27 = .ok (.invokeinterface 33 1, 5) := by decide +kernel
theorem dX8_of_32 : decode cX8_of 32 = .ok (.if_icmp .ge 43, 3) := dk_162 0 43 (dk_at dksX8_of_1 8 rfl rfl)
theorem dX8_of_35 : decode cX8_of 35 = .ok (.aload_n 0, 1) := dk_42 (dk_at dksX8_of_1 11 rfl rfl)
theorem dX8_of_36 : decode cX8_of 36 = .ok (.getfield 19, 3) := dk_180 0 19 (dk_at dksX8_of_1 12 rfl rfl)
theorem dX8_of_39 : decode cX8_of 39 = .ok (.iload_n 3, 1) := dk_29 (dk_at dksX8_of_1 15 rfl rfl)
theorem dX8_of_40 : decode cX8_of 40 = .ok (.iconst 1, 1) := dk_4 (dk_at dksX8_of_1 16 rfl rfl)
theorem dX8_of_41 : decode cX8_of 41 = .ok (.isub, 1) := dk_100 (dk_at dksX8_of_1 17 rfl rfl)
theorem dX8_of_42 : decode cX8_of 42 = .ok (.invokevirtual 47, 3) := dk_182 0 47 (dk_at dksX8_of_1 18 rfl rfl)
theorem dX8_of_45 : decode cX8_of 45 = .ok (.iload_n 2, 1) := dk_28 (dk_at dksX8_of_1 21 rfl rfl)
theorem dX8_of_46 : decode cX8_of 46 = .ok (.aload_n 0, 1) := dk_42 (dk_at dksX8_of_1 22 rfl rfl)
theorem dX8_of_47 : decode cX8_of 47 = .ok (.getfield 10, 3) := dk_180 0 10 (dk_at dksX8_of_2 0 rfl rfl)
theorem dX8_of_50 : decode cX8_of 50 = .ok (.iload_n 3, 1) := dk_29 (dk_at dksX8_of_2 3 rfl rfl)
theorem dX8_of_51 : decode cX8_of 51 = .ok (.invokeinterface 37 2, 5) := by decide +kernel
theorem dX8_of_56 : decode cX8_of 56 = .ok (.checkcast 41, 3) := dk_192 0 41 (dk_at dksX8_of_2 9 rfl rfl)
theorem dX8_of_59 : decode cX8_of 59 = .ok (.aload_n 1, 1) := dk_43 (dk_at dksX8_of_2 12 rfl rfl)
theorem dX8_of_60 : decode cX8_of 60 = .ok (.invokeinterface 43 2, 5) := by decide +kernel
theorem dX8_of_65 : decode cX8_of 65 = .ok (.invokestatic 51, 3) := dk_184 0 51 (dk_at dksX8_of_2 18 rfl rfl)
theorem dX8_of_68 : decode cX8_of 68 = .ok (.istore_n 2, 1) := dk_61 (dk_at dksX8_of_2 21 rfl rfl)
theorem dX8_of_69 : decode cX8_of 69 = .ok (.iinc 3 1, 3) := dk_132 3 1 (dk_at dksX8_of_3 0 rfl rfl)
theorem dX8_of_72 : decode cX8_of 72 = .ok (.goto (-50), 3) := dk_167 255 206 (dk_at dksX8_of_3 3 rfl rfl)
theorem dX8_of_75 : decode cX8_of 75 = .ok (.iload_n 2, 1) := dk_28 (dk_at dksX8_of_3 6 rfl rfl)
theorem dX8_of_76 : decode cX8_of 76 = .ok (.ireturn, 1) := dk_172 (dk_at dksX8_of_3 7 rfl rfl)
abbrev cX8_by : ByteArray := prog_2_method_5_code
def yX8_by : MethodName := ⟨RX8, "by", "(CII)I"⟩
def dkwX8_by_5 : List UInt8 := [167, 0, 4, 3, 172]
abbrev dktX8_by_5 : List UInt8 := dkwX8_by_5 ++ []
def dkwX8_by_4 : List UInt8 := [153, 0, 11, 28, 153, 0, 7, 4, 167, 0, 4, 3, 172, 27, 154, 0, 7, 28, 153, 0, 7, 4]
abbrev dktX8_by_4 : List UInt8 := dkwX8_by_4 ++ dktX8_by_5
def dkwX8_by_3 : List UInt8 := [27, 28, 162, 0, 7, 4, 167, 0, 4, 3, 172, 27, 28, 160, 0, 7, 4, 167, 0, 4, 3, 172, 27]
abbrev dktX8_by_3 : List UInt8 := dkwX8_by_3 ++ dktX8_by_4
def dkwX8_by_2 : List UInt8 := [27, 28, 96, 172, 27, 28, 100, 172, 27, 28, 104, 172, 28, 154, 0, 7, 3, 167, 0, 6, 27, 28, 108, 172]
abbrev dktX8_by_2 : List UInt8 := dkwX8_by_2 ++ dktX8_by_3
def dkwX8_by_1 : List UInt8 := [170, 0, 0, 0, 0, 0, 171, 0, 0, 0, 38, 0, 0, 0, 61, 0, 0, 0, 157, 0, 0, 0, 171, 0, 0, 0, 171, 0, 0, 0, 171, 0, 0, 0, 119, 0, 0, 0, 111, 0, 0, 0, 171, 0, 0, 0, 115, 0, 0, 0, 171, 0, 0, 0, 123, 0, 0, 0, 171, 0, 0, 0, 171, 0, 0, 0, 171, 0, 0, 0, 171, 0, 0, 0, 171, 0, 0, 0, 171, 0, 0, 0, 171, 0, 0, 0, 171, 0, 0, 0, 171, 0, 0, 0, 171, 0, 0, 0, 171, 0, 0, 0, 171, 0, 0, 0, 135, 0, 0, 0, 146]
abbrev dktX8_by_1 : List UInt8 := dkwX8_by_1 ++ dktX8_by_2
def dkwX8_by_0 : List UInt8 := [26]
abbrev dktX8_by_0 : List UInt8 := dkwX8_by_0 ++ dktX8_by_1
theorem dksX8_by_0 : cX8_by.data.toList.drop 0 = dktX8_by_0 := by decide +kernel
theorem dksX8_by_1 : cX8_by.data.toList.drop 1 = dktX8_by_1 := dk_seg dksX8_by_0 1 rfl rfl
theorem dksX8_by_2 : cX8_by.data.toList.drop 112 = dktX8_by_2 := dk_seg dksX8_by_1 111 rfl rfl
theorem dksX8_by_3 : cX8_by.data.toList.drop 136 = dktX8_by_3 := dk_seg dksX8_by_2 24 rfl rfl
theorem dksX8_by_4 : cX8_by.data.toList.drop 159 = dktX8_by_4 := dk_seg dksX8_by_3 23 rfl rfl
theorem dksX8_by_5 : cX8_by.data.toList.drop 181 = dktX8_by_5 := dk_seg dksX8_by_4 22 rfl rfl
theorem dX8_by_0 : decode cX8_by 0 = .ok (.iload_n 0, 1) := dk_26 (dk_at dksX8_by_0 0 rfl rfl)
theorem dX8_by_1 : decode cX8_by 1 = .ok (.tableswitch 171 38 61 #[157, 171, 171, 171, 119, 111, 171, 115, 171, 123, 171, 171, 171, 171, 171, 171, 171, 171, 171, 171, 171, 171, 135, 146], 111) := by decide +kernel
theorem dX8_by_112 : decode cX8_by 112 = .ok (.iload_n 1, 1) := dk_27 (dk_at dksX8_by_2 0 rfl rfl)
theorem dX8_by_113 : decode cX8_by 113 = .ok (.iload_n 2, 1) := dk_28 (dk_at dksX8_by_2 1 rfl rfl)
theorem dX8_by_114 : decode cX8_by 114 = .ok (.iadd, 1) := dk_96 (dk_at dksX8_by_2 2 rfl rfl)
theorem dX8_by_115 : decode cX8_by 115 = .ok (.ireturn, 1) := dk_172 (dk_at dksX8_by_2 3 rfl rfl)
theorem dX8_by_116 : decode cX8_by 116 = .ok (.iload_n 1, 1) := dk_27 (dk_at dksX8_by_2 4 rfl rfl)
theorem dX8_by_117 : decode cX8_by 117 = .ok (.iload_n 2, 1) := dk_28 (dk_at dksX8_by_2 5 rfl rfl)
theorem dX8_by_118 : decode cX8_by 118 = .ok (.isub, 1) := dk_100 (dk_at dksX8_by_2 6 rfl rfl)
theorem dX8_by_119 : decode cX8_by 119 = .ok (.ireturn, 1) := dk_172 (dk_at dksX8_by_2 7 rfl rfl)
theorem dX8_by_120 : decode cX8_by 120 = .ok (.iload_n 1, 1) := dk_27 (dk_at dksX8_by_2 8 rfl rfl)
theorem dX8_by_121 : decode cX8_by 121 = .ok (.iload_n 2, 1) := dk_28 (dk_at dksX8_by_2 9 rfl rfl)
theorem dX8_by_122 : decode cX8_by 122 = .ok (.imul, 1) := dk_104 (dk_at dksX8_by_2 10 rfl rfl)
theorem dX8_by_123 : decode cX8_by 123 = .ok (.ireturn, 1) := dk_172 (dk_at dksX8_by_2 11 rfl rfl)
theorem dX8_by_124 : decode cX8_by 124 = .ok (.iload_n 2, 1) := dk_28 (dk_at dksX8_by_2 12 rfl rfl)
theorem dX8_by_125 : decode cX8_by 125 = .ok (.ifCond .ne 7, 3) := dk_154 0 7 (dk_at dksX8_by_2 13 rfl rfl)
theorem dX8_by_128 : decode cX8_by 128 = .ok (.iconst 0, 1) := dk_3 (dk_at dksX8_by_2 16 rfl rfl)
theorem dX8_by_129 : decode cX8_by 129 = .ok (.goto 6, 3) := dk_167 0 6 (dk_at dksX8_by_2 17 rfl rfl)
theorem dX8_by_132 : decode cX8_by 132 = .ok (.iload_n 1, 1) := dk_27 (dk_at dksX8_by_2 20 rfl rfl)
theorem dX8_by_133 : decode cX8_by 133 = .ok (.iload_n 2, 1) := dk_28 (dk_at dksX8_by_2 21 rfl rfl)
theorem dX8_by_134 : decode cX8_by 134 = .ok (.idiv, 1) := dk_108 (dk_at dksX8_by_2 22 rfl rfl)
theorem dX8_by_135 : decode cX8_by 135 = .ok (.ireturn, 1) := dk_172 (dk_at dksX8_by_2 23 rfl rfl)
theorem dX8_by_136 : decode cX8_by 136 = .ok (.iload_n 1, 1) := dk_27 (dk_at dksX8_by_3 0 rfl rfl)
theorem dX8_by_137 : decode cX8_by 137 = .ok (.iload_n 2, 1) := dk_28 (dk_at dksX8_by_3 1 rfl rfl)
theorem dX8_by_138 : decode cX8_by 138 = .ok (.if_icmp .ge 7, 3) := dk_162 0 7 (dk_at dksX8_by_3 2 rfl rfl)
theorem dX8_by_141 : decode cX8_by 141 = .ok (.iconst 1, 1) := dk_4 (dk_at dksX8_by_3 5 rfl rfl)
theorem dX8_by_142 : decode cX8_by 142 = .ok (.goto 4, 3) := dk_167 0 4 (dk_at dksX8_by_3 6 rfl rfl)
theorem dX8_by_145 : decode cX8_by 145 = .ok (.iconst 0, 1) := dk_3 (dk_at dksX8_by_3 9 rfl rfl)
theorem dX8_by_146 : decode cX8_by 146 = .ok (.ireturn, 1) := dk_172 (dk_at dksX8_by_3 10 rfl rfl)
theorem dX8_by_147 : decode cX8_by 147 = .ok (.iload_n 1, 1) := dk_27 (dk_at dksX8_by_3 11 rfl rfl)
theorem dX8_by_148 : decode cX8_by 148 = .ok (.iload_n 2, 1) := dk_28 (dk_at dksX8_by_3 12 rfl rfl)
theorem dX8_by_149 : decode cX8_by 149 = .ok (.if_icmp .ne 7, 3) := dk_160 0 7 (dk_at dksX8_by_3 13 rfl rfl)
theorem dX8_by_152 : decode cX8_by 152 = .ok (.iconst 1, 1) := dk_4 (dk_at dksX8_by_3 16 rfl rfl)
theorem dX8_by_153 : decode cX8_by 153 = .ok (.goto 4, 3) := dk_167 0 4 (dk_at dksX8_by_3 17 rfl rfl)
theorem dX8_by_156 : decode cX8_by 156 = .ok (.iconst 0, 1) := dk_3 (dk_at dksX8_by_3 20 rfl rfl)
theorem dX8_by_157 : decode cX8_by 157 = .ok (.ireturn, 1) := dk_172 (dk_at dksX8_by_3 21 rfl rfl)
theorem dX8_by_158 : decode cX8_by 158 = .ok (.iload_n 1, 1) := dk_27 (dk_at dksX8_by_3 22 rfl rfl)
theorem dX8_by_159 : decode cX8_by 159 = .ok (.ifCond .eq 11, 3) := dk_153 0 11 (dk_at dksX8_by_4 0 rfl rfl)
theorem dX8_by_162 : decode cX8_by 162 = .ok (.iload_n 2, 1) := dk_28 (dk_at dksX8_by_4 3 rfl rfl)
theorem dX8_by_163 : decode cX8_by 163 = .ok (.ifCond .eq 7, 3) := dk_153 0 7 (dk_at dksX8_by_4 4 rfl rfl)
theorem dX8_by_166 : decode cX8_by 166 = .ok (.iconst 1, 1) := dk_4 (dk_at dksX8_by_4 7 rfl rfl)
theorem dX8_by_167 : decode cX8_by 167 = .ok (.goto 4, 3) := dk_167 0 4 (dk_at dksX8_by_4 8 rfl rfl)
theorem dX8_by_170 : decode cX8_by 170 = .ok (.iconst 0, 1) := dk_3 (dk_at dksX8_by_4 11 rfl rfl)
theorem dX8_by_171 : decode cX8_by 171 = .ok (.ireturn, 1) := dk_172 (dk_at dksX8_by_4 12 rfl rfl)
theorem dX8_by_172 : decode cX8_by 172 = .ok (.iload_n 1, 1) := dk_27 (dk_at dksX8_by_4 13 rfl rfl)
theorem dX8_by_173 : decode cX8_by 173 = .ok (.ifCond .ne 7, 3) := dk_154 0 7 (dk_at dksX8_by_4 14 rfl rfl)
theorem dX8_by_176 : decode cX8_by 176 = .ok (.iload_n 2, 1) := dk_28 (dk_at dksX8_by_4 17 rfl rfl)
theorem dX8_by_177 : decode cX8_by 177 = .ok (.ifCond .eq 7, 3) := dk_153 0 7 (dk_at dksX8_by_4 18 rfl rfl)
theorem dX8_by_180 : decode cX8_by 180 = .ok (.iconst 1, 1) := dk_4 (dk_at dksX8_by_4 21 rfl rfl)
theorem dX8_by_181 : decode cX8_by 181 = .ok (.goto 4, 3) := dk_167 0 4 (dk_at dksX8_by_5 0 rfl rfl)
theorem dX8_by_184 : decode cX8_by 184 = .ok (.iconst 0, 1) := dk_3 (dk_at dksX8_by_5 3 rfl rfl)
theorem dX8_by_185 : decode cX8_by 185 = .ok (.ireturn, 1) := dk_172 (dk_at dksX8_by_5 4 rfl rfl)
abbrev cX8_init : ByteArray := prog_2_method_1_code
def yX8_init : MethodName := ⟨RX8, "<init>", "(LLuckCrates$Form;)V"⟩
def dkwX8_init_1 : List UInt8 := [181, 0, 19, 42, 180, 0, 10, 43, 185, 0, 23, 2, 0, 87, 177]
abbrev dktX8_init_1 : List UInt8 := dkwX8_init_1 ++ []
def dkwX8_init_0 : List UInt8 := [42, 183, 0, 1, 42, 187, 0, 7, 89, 183, 0, 9, 181, 0, 10, 42, 187, 0, 16, 89, 183, 0, 18]
abbrev dktX8_init_0 : List UInt8 := dkwX8_init_0 ++ dktX8_init_1
theorem dksX8_init_0 : cX8_init.data.toList.drop 0 = dktX8_init_0 := by decide +kernel
theorem dksX8_init_1 : cX8_init.data.toList.drop 23 = dktX8_init_1 := dk_seg dksX8_init_0 23 rfl rfl
theorem dX8_init_0 : decode cX8_init 0 = .ok (.aload_n 0, 1) := dk_42 (dk_at dksX8_init_0 0 rfl rfl)
theorem dX8_init_1 : decode cX8_init 1 = .ok (.invokespecial 1, 3) := dk_183 0 1 (dk_at dksX8_init_0 1 rfl rfl)
theorem dX8_init_4 : decode cX8_init 4 = .ok (.aload_n 0, 1) := dk_42 (dk_at dksX8_init_0 4 rfl rfl)
theorem dX8_init_5 : decode cX8_init 5 = .ok (.new 7, 3) := dk_187 0 7 (dk_at dksX8_init_0 5 rfl rfl)
theorem dX8_init_8 : decode cX8_init 8 = .ok (.dup, 1) := dk_89 (dk_at dksX8_init_0 8 rfl rfl)
theorem dX8_init_9 : decode cX8_init 9 = .ok (.invokespecial 9, 3) := dk_183 0 9 (dk_at dksX8_init_0 9 rfl rfl)
theorem dX8_init_12 : decode cX8_init 12 = .ok (.putfield 10, 3) := dk_181 0 10 (dk_at dksX8_init_0 12 rfl rfl)
theorem dX8_init_15 : decode cX8_init 15 = .ok (.aload_n 0, 1) := dk_42 (dk_at dksX8_init_0 15 rfl rfl)
theorem dX8_init_16 : decode cX8_init 16 = .ok (.new 16, 3) := dk_187 0 16 (dk_at dksX8_init_0 16 rfl rfl)
theorem dX8_init_19 : decode cX8_init 19 = .ok (.dup, 1) := dk_89 (dk_at dksX8_init_0 19 rfl rfl)
theorem dX8_init_20 : decode cX8_init 20 = .ok (.invokespecial 18, 3) := dk_183 0 18 (dk_at dksX8_init_0 20 rfl rfl)
theorem dX8_init_23 : decode cX8_init 23 = .ok (.putfield 19, 3) := dk_181 0 19 (dk_at dksX8_init_1 0 rfl rfl)
theorem dX8_init_26 : decode cX8_init 26 = .ok (.aload_n 0, 1) := dk_42 (dk_at dksX8_init_1 3 rfl rfl)
theorem dX8_init_27 : decode cX8_init 27 = .ok (.getfield 10, 3) := dk_180 0 10 (dk_at dksX8_init_1 4 rfl rfl)
theorem dX8_init_30 : decode cX8_init 30 = .ok (.aload_n 1, 1) := dk_43 (dk_at dksX8_init_1 7 rfl rfl)
theorem dX8_init_31 : decode cX8_init 31 = .ok (.invokeinterface 23 2, 5) := by decide +kernel
theorem dX8_init_36 : decode cX8_init 36 = .ok (.pop, 1) := dk_87 (dk_at dksX8_init_1 13 rfl rfl)
theorem dX8_init_37 : decode cX8_init 37 = .ok (.return_, 1) := dk_177 (dk_at dksX8_init_1 14 rfl rfl)
abbrev cX8_add : ByteArray := prog_2_method_2_code
def yX8_add : MethodName := ⟨RX8, "add", "(CLLuckCrates$Form;)V"⟩
def dkwX8_add_0 : List UInt8 := [42, 180, 0, 19, 27, 182, 0, 29, 87, 42, 180, 0, 10, 44, 185, 0, 23, 2, 0, 87, 177]
abbrev dktX8_add_0 : List UInt8 := dkwX8_add_0 ++ []
theorem dksX8_add_0 : cX8_add.data.toList.drop 0 = dktX8_add_0 := by decide +kernel
theorem dX8_add_0 : decode cX8_add 0 = .ok (.aload_n 0, 1) := dk_42 (dk_at dksX8_add_0 0 rfl rfl)
theorem dX8_add_1 : decode cX8_add 1 = .ok (.getfield 19, 3) := dk_180 0 19 (dk_at dksX8_add_0 1 rfl rfl)
theorem dX8_add_4 : decode cX8_add 4 = .ok (.iload_n 1, 1) := dk_27 (dk_at dksX8_add_0 4 rfl rfl)
theorem dX8_add_5 : decode cX8_add 5 = .ok (.invokevirtual 29, 3) := dk_182 0 29 (dk_at dksX8_add_0 5 rfl rfl)
theorem dX8_add_8 : decode cX8_add 8 = .ok (.pop, 1) := dk_87 (dk_at dksX8_add_0 8 rfl rfl)
theorem dX8_add_9 : decode cX8_add 9 = .ok (.aload_n 0, 1) := dk_42 (dk_at dksX8_add_0 9 rfl rfl)
theorem dX8_add_10 : decode cX8_add 10 = .ok (.getfield 10, 3) := dk_180 0 10 (dk_at dksX8_add_0 10 rfl rfl)
theorem dX8_add_13 : decode cX8_add 13 = .ok (.aload_n 2, 1) := dk_44 (dk_at dksX8_add_0 13 rfl rfl)
theorem dX8_add_14 : decode cX8_add 14 = .ok (.invokeinterface 23 2, 5) := by decide +kernel
theorem dX8_add_19 : decode cX8_add 19 = .ok (.pop, 1) := dk_87 (dk_at dksX8_add_0 19 rfl rfl)
theorem dX8_add_20 : decode cX8_add 20 = .ok (.return_, 1) := dk_177 (dk_at dksX8_add_0 20 rfl rfl)
abbrev cX8_plain : ByteArray := prog_2_method_3_code
def yX8_plain : MethodName := ⟨RX8, "plain", "()LLuckCrates$Form;"⟩
def dkwX8_plain_1 : List UInt8 := [192, 0, 41, 167, 0, 4, 42, 176]
abbrev dktX8_plain_1 : List UInt8 := dkwX8_plain_1 ++ []
def dkwX8_plain_0 : List UInt8 := [42, 180, 0, 10, 185, 0, 33, 1, 0, 4, 160, 0, 19, 42, 180, 0, 10, 3, 185, 0, 37, 2, 0]
abbrev dktX8_plain_0 : List UInt8 := dkwX8_plain_0 ++ dktX8_plain_1
theorem dksX8_plain_0 : cX8_plain.data.toList.drop 0 = dktX8_plain_0 := by decide +kernel
theorem dksX8_plain_1 : cX8_plain.data.toList.drop 23 = dktX8_plain_1 := dk_seg dksX8_plain_0 23 rfl rfl
theorem dX8_plain_0 : decode cX8_plain 0 = .ok (.aload_n 0, 1) := dk_42 (dk_at dksX8_plain_0 0 rfl rfl)
theorem dX8_plain_1 : decode cX8_plain 1 = .ok (.getfield 10, 3) := dk_180 0 10 (dk_at dksX8_plain_0 1 rfl rfl)
theorem dX8_plain_4 : decode cX8_plain 4 = .ok (.invokeinterface 33 1, 5) := by decide +kernel
theorem dX8_plain_9 : decode cX8_plain 9 = .ok (.iconst 1, 1) := dk_4 (dk_at dksX8_plain_0 9 rfl rfl)
theorem dX8_plain_10 : decode cX8_plain 10 = .ok (.if_icmp .ne 19, 3) := dk_160 0 19 (dk_at dksX8_plain_0 10 rfl rfl)
theorem dX8_plain_13 : decode cX8_plain 13 = .ok (.aload_n 0, 1) := dk_42 (dk_at dksX8_plain_0 13 rfl rfl)
theorem dX8_plain_14 : decode cX8_plain 14 = .ok (.getfield 10, 3) := dk_180 0 10 (dk_at dksX8_plain_0 14 rfl rfl)
theorem dX8_plain_17 : decode cX8_plain 17 = .ok (.iconst 0, 1) := dk_3 (dk_at dksX8_plain_0 17 rfl rfl)
theorem dX8_plain_18 : decode cX8_plain 18 = .ok (.invokeinterface 37 2, 5) := by decide +kernel
theorem dX8_plain_23 : decode cX8_plain 23 = .ok (.checkcast 41, 3) := dk_192 0 41 (dk_at dksX8_plain_1 0 rfl rfl)
theorem dX8_plain_26 : decode cX8_plain 26 = .ok (.goto 4, 3) := dk_167 0 4 (dk_at dksX8_plain_1 3 rfl rfl)
theorem dX8_plain_29 : decode cX8_plain 29 = .ok (.aload_n 0, 1) := dk_42 (dk_at dksX8_plain_1 6 rfl rfl)
theorem dX8_plain_30 : decode cX8_plain 30 = .ok (.areturn, 1) := dk_176 (dk_at dksX8_plain_1 7 rfl rfl)
theorem q136 : (Jvm.Cond.initialized "LuckCrates$Chain") ∈ lw_all := lw_g (lw_at lw_m1 28 rfl) rfl
theorem q395 : (Jvm.Cond.selects "LuckCrates$Chain" ({ cls := "java/lang/Object", name := "getClass", desc := "()Ljava/lang/Class;" } : Jvm.MethodName) ({ cls := "java/lang/Object", name := "getClass", desc := "()Ljava/lang/Class;" } : Jvm.MethodName)) ∈ lw_all := lw_g (lw_at lw_m2 47 rfl) rfl
theorem q527 : (Jvm.Cond.castable "LuckCrates$Chain" "LuckCrates$Form") ∈ lw_tbl := lw_at lw_m2 179 rfl
theorem q528 : (Jvm.Cond.selects "LuckCrates$Chain" ({ cls := "LuckCrates$Form", name := "of", desc := "([I)I" } : Jvm.MethodName) ({ cls := "LuckCrates$Chain", name := "of", desc := "([I)I" } : Jvm.MethodName)) ∈ lw_all := lw_g (lw_at lw_m2 180 rfl) rfl
theorem q529 : (Jvm.Cond.unhidden "LuckCrates$Chain" "of" "([I)I") ∈ lw_tbl := lw_at lw_m2 181 rfl
theorem q530 : (Jvm.Cond.instanceMethod ({ cls := "LuckCrates$Chain", name := "of", desc := "([I)I" } : Jvm.MethodName)) ∈ lw_all := lw_g (lw_at lw_m2 182 rfl) rfl
theorem q531 : (Jvm.Cond.publicMethod ({ cls := "LuckCrates$Chain", name := "of", desc := "([I)I" } : Jvm.MethodName)) ∈ lw_tbl := lw_at lw_m2 183 rfl
theorem q532 : (Jvm.Cond.code ({ cls := "LuckCrates$Chain", name := "of", desc := "([I)I" } : Jvm.MethodName) prog_2_method_4_code (4 : Nat) (Option.some Jvm.ClassFile.FieldType.int)) ∈ lw_all := lw_g (lw_at lw_m2 184 rfl) rfl
theorem q533 : (Jvm.Cond.interfaceEntry "LuckCrates$Chain" (37 : Nat)) ∈ lw_tbl := lw_at lw_m2 185 rfl
theorem q534 : (Jvm.Cond.methodLink "LuckCrates$Chain" (37 : Nat) ({ cls := "java/util/List", name := "get", desc := "(I)Ljava/lang/Object;" } : Jvm.MethodName)) ∈ lw_all := lw_g (lw_at lw_m2 186 rfl) rfl
theorem q535 : (Jvm.Cond.classLink "LuckCrates$Chain" (41 : Nat) "LuckCrates$Form") ∈ lw_all := lw_g (lw_at lw_m2 187 rfl) rfl
theorem q536 : (Jvm.Cond.interfaceEntry "LuckCrates$Chain" (43 : Nat)) ∈ lw_tbl := lw_at lw_m2 188 rfl
theorem q537 : (Jvm.Cond.methodLink "LuckCrates$Chain" (43 : Nat) ({ cls := "LuckCrates$Form", name := "of", desc := "([I)I" } : Jvm.MethodName)) ∈ lw_all := lw_g (lw_at lw_m2 189 rfl) rfl
theorem q558 : (Jvm.Cond.interfaceEntry "LuckCrates$Chain" (33 : Nat)) ∈ lw_tbl := lw_at lw_m2 210 rfl
theorem q559 : (Jvm.Cond.methodLink "LuckCrates$Chain" (33 : Nat) ({ cls := "java/util/List", name := "size", desc := "()I" } : Jvm.MethodName)) ∈ lw_all := lw_g (lw_at lw_m2 211 rfl) rfl
theorem q560 : (Jvm.Cond.methodLink "LuckCrates$Chain" (47 : Nat) ({ cls := "java/lang/StringBuilder", name := "charAt", desc := "(I)C" } : Jvm.MethodName)) ∈ lw_all := lw_g (lw_at lw_m2 212 rfl) rfl
theorem q587 : (Jvm.Cond.methodLink "LuckCrates$Chain" (51 : Nat) ({ cls := "LuckCrates$Chain", name := "by", desc := "(CII)I" } : Jvm.MethodName)) ∈ lw_all := lw_g (lw_at lw_m2 239 rfl) rfl
theorem q588 : (Jvm.Cond.static ({ cls := "LuckCrates$Chain", name := "by", desc := "(CII)I" } : Jvm.MethodName)) ∈ lw_all := lw_g (lw_at lw_m3 0 rfl) rfl
theorem q589 : (Jvm.Cond.code ({ cls := "LuckCrates$Chain", name := "by", desc := "(CII)I" } : Jvm.MethodName) prog_2_method_5_code (3 : Nat) (Option.some Jvm.ClassFile.FieldType.int)) ∈ lw_all := lw_g (lw_at lw_m3 1 rfl) rfl
theorem q1066 : (Jvm.Cond.instantiable "LuckCrates$Chain" (2 : Nat)) ∈ lw_all := lw_g (lw_at lw_m4 238 rfl) rfl
theorem q1113 : (Jvm.Cond.instanceMethod ({ cls := "LuckCrates$Chain", name := "<init>", desc := "(LLuckCrates$Form;)V" } : Jvm.MethodName)) ∈ lw_all := lw_g (lw_at lw_m5 45 rfl) rfl
theorem q1114 : (Jvm.Cond.code ({ cls := "LuckCrates$Chain", name := "<init>", desc := "(LLuckCrates$Form;)V" } : Jvm.MethodName) prog_2_method_1_code (2 : Nat) (Option.none : Option Jvm.ClassFile.FieldType)) ∈ lw_all := lw_g (lw_at lw_m5 46 rfl) rfl
theorem q1115 : (Jvm.Cond.methodLink "LuckCrates$Chain" (1 : Nat) ({ cls := "java/lang/Object", name := "<init>", desc := "()V" } : Jvm.MethodName)) ∈ lw_all := lw_g (lw_at lw_m5 47 rfl) rfl
theorem q1116 : (Jvm.Cond.classLink "LuckCrates$Chain" (7 : Nat) "java/util/ArrayList") ∈ lw_all := lw_g (lw_at lw_m5 48 rfl) rfl
theorem q1117 : (Jvm.Cond.methodLink "LuckCrates$Chain" (9 : Nat) ({ cls := "java/util/ArrayList", name := "<init>", desc := "()V" } : Jvm.MethodName)) ∈ lw_all := lw_g (lw_at lw_m5 49 rfl) rfl
theorem q1118 : (Jvm.Cond.classLink "LuckCrates$Chain" (16 : Nat) "java/lang/StringBuilder") ∈ lw_all := lw_g (lw_at lw_m5 50 rfl) rfl
theorem q1120 : (Jvm.Cond.methodLink "LuckCrates$Chain" (18 : Nat) ({ cls := "java/lang/StringBuilder", name := "<init>", desc := "()V" } : Jvm.MethodName)) ∈ lw_all := lw_g (lw_at lw_m5 52 rfl) rfl
theorem q1146 : (Jvm.Cond.interfaceEntry "LuckCrates$Chain" (23 : Nat)) ∈ lw_tbl := lw_at lw_m5 78 rfl
theorem q1147 : (Jvm.Cond.methodLink "LuckCrates$Chain" (23 : Nat) ({ cls := "java/util/List", name := "add", desc := "(Ljava/lang/Object;)Z" } : Jvm.MethodName)) ∈ lw_all := lw_g (lw_at lw_m5 79 rfl) rfl
theorem q1148 : (Jvm.Cond.fieldLink "LuckCrates$Chain" (10 : Nat) "LuckCrates$Chain" "forms" "Ljava/util/List;") ∈ lw_all := lw_g (lw_at lw_m5 80 rfl) rfl
theorem q1149 : (Jvm.Cond.fieldLink "LuckCrates$Chain" (19 : Nat) "LuckCrates$Chain" "signs" "Ljava/lang/StringBuilder;") ∈ lw_all := lw_g (lw_at lw_m5 81 rfl) rfl
theorem q1150 : (Jvm.Cond.laysFinal "LuckCrates$Chain" "LuckCrates$Chain" "forms" "Ljava/util/List;") ∈ lw_all := lw_g (lw_at lw_m5 82 rfl) rfl
theorem q1151 : (Jvm.Cond.soleField "LuckCrates$Chain" "forms") ∈ lw_all := lw_g (lw_at lw_m5 83 rfl) rfl
theorem q1152 : (Jvm.Cond.laysFinal "LuckCrates$Chain" "LuckCrates$Chain" "signs" "Ljava/lang/StringBuilder;") ∈ lw_all := lw_g (lw_at lw_m5 84 rfl) rfl
theorem q1153 : (Jvm.Cond.soleField "LuckCrates$Chain" "signs") ∈ lw_all := lw_g (lw_at lw_m5 85 rfl) rfl
theorem q1154 : (Jvm.Cond.superclass "LuckCrates$Chain" "java/lang/Object") ∈ lw_all := lw_g (lw_at lw_m5 86 rfl) rfl
theorem q1160 : (Jvm.Cond.instanceMethod ({ cls := "LuckCrates$Chain", name := "add", desc := "(CLLuckCrates$Form;)V" } : Jvm.MethodName)) ∈ lw_all := lw_g (lw_at lw_m5 92 rfl) rfl
theorem q1161 : (Jvm.Cond.selects "LuckCrates$Chain" ({ cls := "LuckCrates$Chain", name := "add", desc := "(CLLuckCrates$Form;)V" } : Jvm.MethodName) ({ cls := "LuckCrates$Chain", name := "add", desc := "(CLLuckCrates$Form;)V" } : Jvm.MethodName)) ∈ lw_all := lw_g (lw_at lw_m5 93 rfl) rfl
theorem q1162 : (Jvm.Cond.code ({ cls := "LuckCrates$Chain", name := "add", desc := "(CLLuckCrates$Form;)V" } : Jvm.MethodName) prog_2_method_2_code (3 : Nat) (Option.none : Option Jvm.ClassFile.FieldType)) ∈ lw_all := lw_g (lw_at lw_m5 94 rfl) rfl
theorem q1163 : (Jvm.Cond.methodLink "LuckCrates$Chain" (29 : Nat) ({ cls := "java/lang/StringBuilder", name := "append", desc := "(C)Ljava/lang/StringBuilder;" } : Jvm.MethodName)) ∈ lw_all := lw_g (lw_at lw_m5 95 rfl) rfl
theorem q1224 : (Jvm.Cond.instanceMethod ({ cls := "LuckCrates$Chain", name := "plain", desc := "()LLuckCrates$Form;" } : Jvm.MethodName)) ∈ lw_all := lw_g (lw_at lw_m5 156 rfl) rfl
theorem q1225 : (Jvm.Cond.selects "LuckCrates$Chain" ({ cls := "LuckCrates$Chain", name := "plain", desc := "()LLuckCrates$Form;" } : Jvm.MethodName) ({ cls := "LuckCrates$Chain", name := "plain", desc := "()LLuckCrates$Form;" } : Jvm.MethodName)) ∈ lw_all := lw_g (lw_at lw_m5 157 rfl) rfl
theorem q1226 : (Jvm.Cond.code ({ cls := "LuckCrates$Chain", name := "plain", desc := "()LLuckCrates$Form;" } : Jvm.MethodName) prog_2_method_3_code (1 : Nat) (Option.some (Jvm.ClassFile.FieldType.object "LuckCrates$Form"))) ∈ lw_all := lw_g (lw_at lw_m5 158 rfl) rfl
theorem q2238 : (Jvm.Cond.castable "LuckCrates$Chain" "java/lang/Object") ∈ lw_tbl := lw_at lw_m9 210 rfl
theorem in_X8 : ∀ w ∈ wsX80, w ∈ lw_all := lw_in wsX80 [1150, 1152] (by decide +kernel) (by decide +kernel)
/-! X9 LuckCrates$Number -/
abbrev cX9_of : ByteArray := prog_6_method_2_code
def yX9_of : MethodName := ⟨RX9, "of", "([I)I"⟩
theorem dX9_of_0 : decode cX9_of 0 = .ok (.aload_n 0, 1) := by decide +kernel
theorem dX9_of_1 : decode cX9_of 1 = .ok (.getfield 7, 3) := by decide +kernel
theorem dX9_of_4 : decode cX9_of 4 = .ok (.ireturn, 1) := by decide +kernel
abbrev cX9_init : ByteArray := prog_6_method_1_code
def yX9_init : MethodName := ⟨RX9, "<init>", "(I)V"⟩
def dkwX9_init_0 : List UInt8 := [42, 183, 0, 1, 42, 27, 181, 0, 7, 177]
abbrev dktX9_init_0 : List UInt8 := dkwX9_init_0 ++ []
theorem dksX9_init_0 : cX9_init.data.toList.drop 0 = dktX9_init_0 := by decide +kernel
theorem dX9_init_0 : decode cX9_init 0 = .ok (.aload_n 0, 1) := dk_42 (dk_at dksX9_init_0 0 rfl rfl)
theorem dX9_init_1 : decode cX9_init 1 = .ok (.invokespecial 1, 3) := dk_183 0 1 (dk_at dksX9_init_0 1 rfl rfl)
theorem dX9_init_4 : decode cX9_init 4 = .ok (.aload_n 0, 1) := dk_42 (dk_at dksX9_init_0 4 rfl rfl)
theorem dX9_init_5 : decode cX9_init 5 = .ok (.iload_n 1, 1) := dk_27 (dk_at dksX9_init_0 5 rfl rfl)
theorem dX9_init_6 : decode cX9_init 6 = .ok (.putfield 7, 3) := dk_181 0 7 (dk_at dksX9_init_0 6 rfl rfl)
theorem dX9_init_9 : decode cX9_init 9 = .ok (.return_, 1) := dk_177 (dk_at dksX9_init_0 9 rfl rfl)
theorem q137 : (Jvm.Cond.initialized "LuckCrates$Number") ∈ lw_all := lw_g (lw_at lw_m1 29 rfl) rfl
theorem q398 : (Jvm.Cond.selects "LuckCrates$Number" ({ cls := "java/lang/Object", name := "getClass", desc := "()Ljava/lang/Class;" } : Jvm.MethodName) ({ cls := "java/lang/Object", name := "getClass", desc := "()Ljava/lang/Class;" } : Jvm.MethodName)) ∈ lw_all := lw_g (lw_at lw_m2 50 rfl) rfl
theorem q546 : (Jvm.Cond.castable "LuckCrates$Number" "LuckCrates$Form") ∈ lw_tbl := lw_at lw_m2 198 rfl
theorem q547 : (Jvm.Cond.selects "LuckCrates$Number" ({ cls := "LuckCrates$Form", name := "of", desc := "([I)I" } : Jvm.MethodName) ({ cls := "LuckCrates$Number", name := "of", desc := "([I)I" } : Jvm.MethodName)) ∈ lw_all := lw_g (lw_at lw_m2 199 rfl) rfl
theorem q548 : (Jvm.Cond.unhidden "LuckCrates$Number" "of" "([I)I") ∈ lw_tbl := lw_at lw_m2 200 rfl
theorem q549 : (Jvm.Cond.instanceMethod ({ cls := "LuckCrates$Number", name := "of", desc := "([I)I" } : Jvm.MethodName)) ∈ lw_all := lw_g (lw_at lw_m2 201 rfl) rfl
theorem q550 : (Jvm.Cond.publicMethod ({ cls := "LuckCrates$Number", name := "of", desc := "([I)I" } : Jvm.MethodName)) ∈ lw_tbl := lw_at lw_m2 202 rfl
theorem q551 : (Jvm.Cond.code ({ cls := "LuckCrates$Number", name := "of", desc := "([I)I" } : Jvm.MethodName) prog_6_method_2_code (2 : Nat) (Option.some Jvm.ClassFile.FieldType.int)) ∈ lw_all := lw_g (lw_at lw_m2 203 rfl) rfl
theorem q1089 : (Jvm.Cond.instantiable "LuckCrates$Number" (1 : Nat)) ∈ lw_all := lw_g (lw_at lw_m5 21 rfl) rfl
theorem q1091 : (Jvm.Cond.instanceMethod ({ cls := "LuckCrates$Number", name := "<init>", desc := "(I)V" } : Jvm.MethodName)) ∈ lw_all := lw_g (lw_at lw_m5 23 rfl) rfl
theorem q1092 : (Jvm.Cond.code ({ cls := "LuckCrates$Number", name := "<init>", desc := "(I)V" } : Jvm.MethodName) prog_6_method_1_code (2 : Nat) (Option.none : Option Jvm.ClassFile.FieldType)) ∈ lw_all := lw_g (lw_at lw_m5 24 rfl) rfl
theorem q1093 : (Jvm.Cond.methodLink "LuckCrates$Number" (1 : Nat) ({ cls := "java/lang/Object", name := "<init>", desc := "()V" } : Jvm.MethodName)) ∈ lw_all := lw_g (lw_at lw_m5 25 rfl) rfl
theorem q1094 : (Jvm.Cond.fieldLink "LuckCrates$Number" (7 : Nat) "LuckCrates$Number" "value" "I") ∈ lw_all := lw_g (lw_at lw_m5 26 rfl) rfl
theorem q1095 : (Jvm.Cond.laysFinal "LuckCrates$Number" "LuckCrates$Number" "value" "I") ∈ lw_all := lw_g (lw_at lw_m5 27 rfl) rfl
theorem q1096 : (Jvm.Cond.soleField "LuckCrates$Number" "value") ∈ lw_all := lw_g (lw_at lw_m5 28 rfl) rfl
theorem q1097 : (Jvm.Cond.superclass "LuckCrates$Number" "java/lang/Object") ∈ lw_all := lw_g (lw_at lw_m5 29 rfl) rfl
theorem q2239 : (Jvm.Cond.castable "LuckCrates$Number" "java/lang/Object") ∈ lw_tbl := lw_at lw_m9 211 rfl
theorem in_X9 : ∀ w ∈ wsX90, w ∈ lw_all := lw_in wsX90 [1095] (by decide +kernel) (by decide +kernel)
/-! X10 LuckCrates$Value -/
abbrev cX10_of : ByteArray := prog_9_method_2_code
def yX10_of : MethodName := ⟨RX10, "of", "([I)I"⟩
def dkwX10_of_0 : List UInt8 := [43, 42, 180, 0, 7, 46, 172]
abbrev dktX10_of_0 : List UInt8 := dkwX10_of_0 ++ []
theorem dksX10_of_0 : cX10_of.data.toList.drop 0 = dktX10_of_0 := by decide +kernel
theorem dX10_of_0 : decode cX10_of 0 = .ok (.aload_n 1, 1) := dk_43 (dk_at dksX10_of_0 0 rfl rfl)
theorem dX10_of_1 : decode cX10_of 1 = .ok (.aload_n 0, 1) := dk_42 (dk_at dksX10_of_0 1 rfl rfl)
theorem dX10_of_2 : decode cX10_of 2 = .ok (.getfield 7, 3) := dk_180 0 7 (dk_at dksX10_of_0 2 rfl rfl)
theorem dX10_of_5 : decode cX10_of 5 = .ok (.iaload, 1) := dk_46 (dk_at dksX10_of_0 5 rfl rfl)
theorem dX10_of_6 : decode cX10_of 6 = .ok (.ireturn, 1) := dk_172 (dk_at dksX10_of_0 6 rfl rfl)
abbrev cX10_init : ByteArray := prog_9_method_1_code
def yX10_init : MethodName := ⟨RX10, "<init>", "(I)V"⟩
def dkwX10_init_0 : List UInt8 := [42, 183, 0, 1, 42, 27, 181, 0, 7, 177]
abbrev dktX10_init_0 : List UInt8 := dkwX10_init_0 ++ []
theorem dksX10_init_0 : cX10_init.data.toList.drop 0 = dktX10_init_0 := by decide +kernel
theorem dX10_init_0 : decode cX10_init 0 = .ok (.aload_n 0, 1) := dk_42 (dk_at dksX10_init_0 0 rfl rfl)
theorem dX10_init_1 : decode cX10_init 1 = .ok (.invokespecial 1, 3) := dk_183 0 1 (dk_at dksX10_init_0 1 rfl rfl)
theorem dX10_init_4 : decode cX10_init 4 = .ok (.aload_n 0, 1) := dk_42 (dk_at dksX10_init_0 4 rfl rfl)
theorem dX10_init_5 : decode cX10_init 5 = .ok (.iload_n 1, 1) := dk_27 (dk_at dksX10_init_0 5 rfl rfl)
theorem dX10_init_6 : decode cX10_init 6 = .ok (.putfield 7, 3) := dk_181 0 7 (dk_at dksX10_init_0 6 rfl rfl)
theorem dX10_init_9 : decode cX10_init 9 = .ok (.return_, 1) := dk_177 (dk_at dksX10_init_0 9 rfl rfl)
theorem q138 : (Jvm.Cond.initialized "LuckCrates$Value") ∈ lw_all := lw_g (lw_at lw_m1 30 rfl) rfl
theorem q401 : (Jvm.Cond.selects "LuckCrates$Value" ({ cls := "java/lang/Object", name := "getClass", desc := "()Ljava/lang/Class;" } : Jvm.MethodName) ({ cls := "java/lang/Object", name := "getClass", desc := "()Ljava/lang/Class;" } : Jvm.MethodName)) ∈ lw_all := lw_g (lw_at lw_m2 53 rfl) rfl
theorem q552 : (Jvm.Cond.castable "LuckCrates$Value" "LuckCrates$Form") ∈ lw_tbl := lw_at lw_m2 204 rfl
theorem q553 : (Jvm.Cond.selects "LuckCrates$Value" ({ cls := "LuckCrates$Form", name := "of", desc := "([I)I" } : Jvm.MethodName) ({ cls := "LuckCrates$Value", name := "of", desc := "([I)I" } : Jvm.MethodName)) ∈ lw_all := lw_g (lw_at lw_m2 205 rfl) rfl
theorem q554 : (Jvm.Cond.unhidden "LuckCrates$Value" "of" "([I)I") ∈ lw_tbl := lw_at lw_m2 206 rfl
theorem q555 : (Jvm.Cond.instanceMethod ({ cls := "LuckCrates$Value", name := "of", desc := "([I)I" } : Jvm.MethodName)) ∈ lw_all := lw_g (lw_at lw_m2 207 rfl) rfl
theorem q556 : (Jvm.Cond.publicMethod ({ cls := "LuckCrates$Value", name := "of", desc := "([I)I" } : Jvm.MethodName)) ∈ lw_tbl := lw_at lw_m2 208 rfl
theorem q557 : (Jvm.Cond.code ({ cls := "LuckCrates$Value", name := "of", desc := "([I)I" } : Jvm.MethodName) prog_9_method_2_code (2 : Nat) (Option.some Jvm.ClassFile.FieldType.int)) ∈ lw_all := lw_g (lw_at lw_m2 209 rfl) rfl
theorem q1103 : (Jvm.Cond.instantiable "LuckCrates$Value" (1 : Nat)) ∈ lw_all := lw_g (lw_at lw_m5 35 rfl) rfl
theorem q1105 : (Jvm.Cond.instanceMethod ({ cls := "LuckCrates$Value", name := "<init>", desc := "(I)V" } : Jvm.MethodName)) ∈ lw_all := lw_g (lw_at lw_m5 37 rfl) rfl
theorem q1106 : (Jvm.Cond.code ({ cls := "LuckCrates$Value", name := "<init>", desc := "(I)V" } : Jvm.MethodName) prog_9_method_1_code (2 : Nat) (Option.none : Option Jvm.ClassFile.FieldType)) ∈ lw_all := lw_g (lw_at lw_m5 38 rfl) rfl
theorem q1107 : (Jvm.Cond.methodLink "LuckCrates$Value" (1 : Nat) ({ cls := "java/lang/Object", name := "<init>", desc := "()V" } : Jvm.MethodName)) ∈ lw_all := lw_g (lw_at lw_m5 39 rfl) rfl
theorem q1108 : (Jvm.Cond.fieldLink "LuckCrates$Value" (7 : Nat) "LuckCrates$Value" "which" "I") ∈ lw_all := lw_g (lw_at lw_m5 40 rfl) rfl
theorem q1109 : (Jvm.Cond.laysFinal "LuckCrates$Value" "LuckCrates$Value" "which" "I") ∈ lw_all := lw_g (lw_at lw_m5 41 rfl) rfl
theorem q1110 : (Jvm.Cond.soleField "LuckCrates$Value" "which") ∈ lw_all := lw_g (lw_at lw_m5 42 rfl) rfl
theorem q1111 : (Jvm.Cond.superclass "LuckCrates$Value" "java/lang/Object") ∈ lw_all := lw_g (lw_at lw_m5 43 rfl) rfl
theorem q2240 : (Jvm.Cond.castable "LuckCrates$Value" "java/lang/Object") ∈ lw_tbl := lw_at lw_m9 212 rfl
theorem in_X10 : ∀ w ∈ wsX100, w ∈ lw_all := lw_in wsX100 [1109] (by decide +kernel) (by decide +kernel)
/-! X11 LuckCrates$Not -/
abbrev cX11_of : ByteArray := prog_5_method_2_code
def yX11_of : MethodName := ⟨RX11, "of", "([I)I"⟩
def dkwX11_of_0 : List UInt8 := [42, 180, 0, 7, 43, 185, 0, 13, 2, 0, 154, 0, 7, 4, 167, 0, 4, 3, 172]
abbrev dktX11_of_0 : List UInt8 := dkwX11_of_0 ++ []
theorem dksX11_of_0 : cX11_of.data.toList.drop 0 = dktX11_of_0 := by decide +kernel
theorem dX11_of_0 : decode cX11_of 0 = .ok (.aload_n 0, 1) := dk_42 (dk_at dksX11_of_0 0 rfl rfl)
theorem dX11_of_1 : decode cX11_of 1 = .ok (.getfield 7, 3) := dk_180 0 7 (dk_at dksX11_of_0 1 rfl rfl)
theorem dX11_of_4 : decode cX11_of 4 = .ok (.aload_n 1, 1) := dk_43 (dk_at dksX11_of_0 4 rfl rfl)
theorem dX11_of_5 : decode cX11_of 5 = .ok (.invokeinterface 13 2, 5) := by decide +kernel
theorem dX11_of_10 : decode cX11_of 10 = .ok (.ifCond .ne 7, 3) := dk_154 0 7 (dk_at dksX11_of_0 10 rfl rfl)
theorem dX11_of_13 : decode cX11_of 13 = .ok (.iconst 1, 1) := dk_4 (dk_at dksX11_of_0 13 rfl rfl)
theorem dX11_of_14 : decode cX11_of 14 = .ok (.goto 4, 3) := dk_167 0 4 (dk_at dksX11_of_0 14 rfl rfl)
theorem dX11_of_17 : decode cX11_of 17 = .ok (.iconst 0, 1) := dk_3 (dk_at dksX11_of_0 17 rfl rfl)
theorem dX11_of_18 : decode cX11_of 18 = .ok (.ireturn, 1) := dk_172 (dk_at dksX11_of_0 18 rfl rfl)
abbrev cX11_init : ByteArray := prog_5_method_1_code
def yX11_init : MethodName := ⟨RX11, "<init>", "(LLuckCrates$Form;)V"⟩
def dkwX11_init_0 : List UInt8 := [42, 183, 0, 1, 42, 43, 181, 0, 7, 177]
abbrev dktX11_init_0 : List UInt8 := dkwX11_init_0 ++ []
theorem dksX11_init_0 : cX11_init.data.toList.drop 0 = dktX11_init_0 := by decide +kernel
theorem dX11_init_0 : decode cX11_init 0 = .ok (.aload_n 0, 1) := dk_42 (dk_at dksX11_init_0 0 rfl rfl)
theorem dX11_init_1 : decode cX11_init 1 = .ok (.invokespecial 1, 3) := dk_183 0 1 (dk_at dksX11_init_0 1 rfl rfl)
theorem dX11_init_4 : decode cX11_init 4 = .ok (.aload_n 0, 1) := dk_42 (dk_at dksX11_init_0 4 rfl rfl)
theorem dX11_init_5 : decode cX11_init 5 = .ok (.aload_n 1, 1) := dk_43 (dk_at dksX11_init_0 5 rfl rfl)
theorem dX11_init_6 : decode cX11_init 6 = .ok (.putfield 7, 3) := dk_181 0 7 (dk_at dksX11_init_0 6 rfl rfl)
theorem dX11_init_9 : decode cX11_init 9 = .ok (.return_, 1) := dk_177 (dk_at dksX11_init_0 9 rfl rfl)
theorem q141 : (Jvm.Cond.initialized "LuckCrates$Not") ∈ lw_all := lw_g (lw_at lw_m1 33 rfl) rfl
theorem q397 : (Jvm.Cond.selects "LuckCrates$Not" ({ cls := "java/lang/Object", name := "getClass", desc := "()Ljava/lang/Class;" } : Jvm.MethodName) ({ cls := "java/lang/Object", name := "getClass", desc := "()Ljava/lang/Class;" } : Jvm.MethodName)) ∈ lw_all := lw_g (lw_at lw_m2 49 rfl) rfl
theorem q538 : (Jvm.Cond.castable "LuckCrates$Not" "LuckCrates$Form") ∈ lw_tbl := lw_at lw_m2 190 rfl
theorem q539 : (Jvm.Cond.selects "LuckCrates$Not" ({ cls := "LuckCrates$Form", name := "of", desc := "([I)I" } : Jvm.MethodName) ({ cls := "LuckCrates$Not", name := "of", desc := "([I)I" } : Jvm.MethodName)) ∈ lw_all := lw_g (lw_at lw_m2 191 rfl) rfl
theorem q540 : (Jvm.Cond.unhidden "LuckCrates$Not" "of" "([I)I") ∈ lw_tbl := lw_at lw_m2 192 rfl
theorem q541 : (Jvm.Cond.instanceMethod ({ cls := "LuckCrates$Not", name := "of", desc := "([I)I" } : Jvm.MethodName)) ∈ lw_all := lw_g (lw_at lw_m2 193 rfl) rfl
theorem q542 : (Jvm.Cond.publicMethod ({ cls := "LuckCrates$Not", name := "of", desc := "([I)I" } : Jvm.MethodName)) ∈ lw_tbl := lw_at lw_m2 194 rfl
theorem q543 : (Jvm.Cond.code ({ cls := "LuckCrates$Not", name := "of", desc := "([I)I" } : Jvm.MethodName) prog_5_method_2_code (2 : Nat) (Option.some Jvm.ClassFile.FieldType.int)) ∈ lw_all := lw_g (lw_at lw_m2 195 rfl) rfl
theorem q544 : (Jvm.Cond.interfaceEntry "LuckCrates$Not" (13 : Nat)) ∈ lw_tbl := lw_at lw_m2 196 rfl
theorem q545 : (Jvm.Cond.methodLink "LuckCrates$Not" (13 : Nat) ({ cls := "LuckCrates$Form", name := "of", desc := "([I)I" } : Jvm.MethodName)) ∈ lw_all := lw_g (lw_at lw_m2 197 rfl) rfl
theorem q1228 : (Jvm.Cond.instantiable "LuckCrates$Not" (1 : Nat)) ∈ lw_all := lw_g (lw_at lw_m5 160 rfl) rfl
theorem q1230 : (Jvm.Cond.instanceMethod ({ cls := "LuckCrates$Not", name := "<init>", desc := "(LLuckCrates$Form;)V" } : Jvm.MethodName)) ∈ lw_all := lw_g (lw_at lw_m5 162 rfl) rfl
theorem q1231 : (Jvm.Cond.code ({ cls := "LuckCrates$Not", name := "<init>", desc := "(LLuckCrates$Form;)V" } : Jvm.MethodName) prog_5_method_1_code (2 : Nat) (Option.none : Option Jvm.ClassFile.FieldType)) ∈ lw_all := lw_g (lw_at lw_m5 163 rfl) rfl
theorem q1232 : (Jvm.Cond.methodLink "LuckCrates$Not" (1 : Nat) ({ cls := "java/lang/Object", name := "<init>", desc := "()V" } : Jvm.MethodName)) ∈ lw_all := lw_g (lw_at lw_m5 164 rfl) rfl
theorem q1233 : (Jvm.Cond.fieldLink "LuckCrates$Not" (7 : Nat) "LuckCrates$Not" "form" "LLuckCrates$Form;") ∈ lw_all := lw_g (lw_at lw_m5 165 rfl) rfl
theorem q1234 : (Jvm.Cond.laysFinal "LuckCrates$Not" "LuckCrates$Not" "form" "LLuckCrates$Form;") ∈ lw_all := lw_g (lw_at lw_m5 166 rfl) rfl
theorem q1235 : (Jvm.Cond.soleField "LuckCrates$Not" "form") ∈ lw_all := lw_g (lw_at lw_m5 167 rfl) rfl
theorem q1236 : (Jvm.Cond.superclass "LuckCrates$Not" "java/lang/Object") ∈ lw_all := lw_g (lw_at lw_m5 168 rfl) rfl
theorem q2242 : (Jvm.Cond.castable "LuckCrates$Not" "java/lang/Object") ∈ lw_tbl := lw_at lw_m9 214 rfl
theorem in_X11 : ∀ w ∈ wsX110, w ∈ lw_all := lw_in wsX110 [1234] (by decide +kernel) (by decide +kernel)
