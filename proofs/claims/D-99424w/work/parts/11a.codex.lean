set_option maxRecDepth 100000
/-! X1 LuckCrates -/
abbrev cX1_init : ByteArray := prog_1_method_5_code
def yX1_init : MethodName := ⟨RX1, "<init>", "()V"⟩
def dkwX1_init_4 : List UInt8 := [17, 0, 248, 188, 10, 181, 0, 59, 177]
abbrev dktX1_init_4 : List UInt8 := dkwX1_init_4 ++ []
def dkwX1_init_3 : List UInt8 := [187, 0, 46, 89, 183, 0, 48, 181, 0, 53, 42, 187, 0, 26, 89, 42, 183, 0, 28, 181, 0, 56, 42]
abbrev dktX1_init_3 : List UInt8 := dkwX1_init_3 ++ dktX1_init_4
def dkwX1_init_2 : List UInt8 := [181, 0, 39, 42, 6, 188, 10, 181, 0, 43, 42, 187, 0, 46, 89, 183, 0, 48, 181, 0, 49, 42]
abbrev dktX1_init_2 : List UInt8 := dkwX1_init_2 ++ dktX1_init_3
def dkwX1_init_1 : List UInt8 := [187, 0, 26, 89, 42, 183, 0, 28, 181, 0, 31, 42, 17, 2, 188, 188, 8, 181, 0, 35, 42, 2]
abbrev dktX1_init_1 : List UInt8 := dkwX1_init_1 ++ dktX1_init_2
def dkwX1_init_0 : List UInt8 := [42, 183, 0, 10, 42, 16, 6, 188, 10, 181, 0, 13, 42, 187, 0, 19, 89, 183, 0, 21, 181, 0, 22, 42]
abbrev dktX1_init_0 : List UInt8 := dkwX1_init_0 ++ dktX1_init_1
theorem dksX1_init_0 : cX1_init.data.toList.drop 0 = dktX1_init_0 := by decide +kernel
theorem dksX1_init_1 : cX1_init.data.toList.drop 24 = dktX1_init_1 := dk_seg dksX1_init_0 24 rfl rfl
theorem dksX1_init_2 : cX1_init.data.toList.drop 46 = dktX1_init_2 := dk_seg dksX1_init_1 22 rfl rfl
theorem dksX1_init_3 : cX1_init.data.toList.drop 68 = dktX1_init_3 := dk_seg dksX1_init_2 22 rfl rfl
theorem dksX1_init_4 : cX1_init.data.toList.drop 91 = dktX1_init_4 := dk_seg dksX1_init_3 23 rfl rfl
theorem dX1_init_0 : decode cX1_init 0 = .ok (.aload_n 0, 1) := dk_42 (dk_at dksX1_init_0 0 rfl rfl)
theorem dX1_init_1 : decode cX1_init 1 = .ok (.invokespecial 10, 3) := dk_183 0 10 (dk_at dksX1_init_0 1 rfl rfl)
theorem dX1_init_4 : decode cX1_init 4 = .ok (.aload_n 0, 1) := dk_42 (dk_at dksX1_init_0 4 rfl rfl)
theorem dX1_init_5 : decode cX1_init 5 = .ok (.bipush 6, 2) := dk_16 6 (dk_at dksX1_init_0 5 rfl rfl)
theorem dX1_init_7 : decode cX1_init 7 = .ok (.newarray .int, 2) := dk_188_10 (dk_at dksX1_init_0 7 rfl rfl)
theorem dX1_init_9 : decode cX1_init 9 = .ok (.putfield 13, 3) := dk_181 0 13 (dk_at dksX1_init_0 9 rfl rfl)
theorem dX1_init_12 : decode cX1_init 12 = .ok (.aload_n 0, 1) := dk_42 (dk_at dksX1_init_0 12 rfl rfl)
theorem dX1_init_13 : decode cX1_init 13 = .ok (.new 19, 3) := dk_187 0 19 (dk_at dksX1_init_0 13 rfl rfl)
theorem dX1_init_16 : decode cX1_init 16 = .ok (.dup, 1) := dk_89 (dk_at dksX1_init_0 16 rfl rfl)
theorem dX1_init_17 : decode cX1_init 17 = .ok (.invokespecial 21, 3) := dk_183 0 21 (dk_at dksX1_init_0 17 rfl rfl)
theorem dX1_init_20 : decode cX1_init 20 = .ok (.putfield 22, 3) := dk_181 0 22 (dk_at dksX1_init_0 20 rfl rfl)
theorem dX1_init_23 : decode cX1_init 23 = .ok (.aload_n 0, 1) := dk_42 (dk_at dksX1_init_0 23 rfl rfl)
theorem dX1_init_24 : decode cX1_init 24 = .ok (.new 26, 3) := dk_187 0 26 (dk_at dksX1_init_1 0 rfl rfl)
theorem dX1_init_27 : decode cX1_init 27 = .ok (.dup, 1) := dk_89 (dk_at dksX1_init_1 3 rfl rfl)
theorem dX1_init_28 : decode cX1_init 28 = .ok (.aload_n 0, 1) := dk_42 (dk_at dksX1_init_1 4 rfl rfl)
theorem dX1_init_29 : decode cX1_init 29 = .ok (.invokespecial 28, 3) := dk_183 0 28 (dk_at dksX1_init_1 5 rfl rfl)
theorem dX1_init_32 : decode cX1_init 32 = .ok (.putfield 31, 3) := dk_181 0 31 (dk_at dksX1_init_1 8 rfl rfl)
theorem dX1_init_35 : decode cX1_init 35 = .ok (.aload_n 0, 1) := dk_42 (dk_at dksX1_init_1 11 rfl rfl)
theorem dX1_init_36 : decode cX1_init 36 = .ok (.sipush 700, 3) := dk_17 2 188 (dk_at dksX1_init_1 12 rfl rfl)
theorem dX1_init_39 : decode cX1_init 39 = .ok (.newarray .byte, 2) := dk_188_8 (dk_at dksX1_init_1 15 rfl rfl)
theorem dX1_init_41 : decode cX1_init 41 = .ok (.putfield 35, 3) := dk_181 0 35 (dk_at dksX1_init_1 17 rfl rfl)
theorem dX1_init_44 : decode cX1_init 44 = .ok (.aload_n 0, 1) := dk_42 (dk_at dksX1_init_1 20 rfl rfl)
theorem dX1_init_45 : decode cX1_init 45 = .ok (.iconst (-1), 1) := dk_2 (dk_at dksX1_init_1 21 rfl rfl)
theorem dX1_init_46 : decode cX1_init 46 = .ok (.putfield 39, 3) := dk_181 0 39 (dk_at dksX1_init_2 0 rfl rfl)
theorem dX1_init_49 : decode cX1_init 49 = .ok (.aload_n 0, 1) := dk_42 (dk_at dksX1_init_2 3 rfl rfl)
theorem dX1_init_50 : decode cX1_init 50 = .ok (.iconst 3, 1) := dk_6 (dk_at dksX1_init_2 4 rfl rfl)
theorem dX1_init_51 : decode cX1_init 51 = .ok (.newarray .int, 2) := dk_188_10 (dk_at dksX1_init_2 5 rfl rfl)
theorem dX1_init_53 : decode cX1_init 53 = .ok (.putfield 43, 3) := dk_181 0 43 (dk_at dksX1_init_2 7 rfl rfl)
theorem dX1_init_56 : decode cX1_init 56 = .ok (.aload_n 0, 1) := dk_42 (dk_at dksX1_init_2 10 rfl rfl)
theorem dX1_init_57 : decode cX1_init 57 = .ok (.new 46, 3) := dk_187 0 46 (dk_at dksX1_init_2 11 rfl rfl)
theorem dX1_init_60 : decode cX1_init 60 = .ok (.dup, 1) := dk_89 (dk_at dksX1_init_2 14 rfl rfl)
theorem dX1_init_61 : decode cX1_init 61 = .ok (.invokespecial 48, 3) := dk_183 0 48 (dk_at dksX1_init_2 15 rfl rfl)
theorem dX1_init_64 : decode cX1_init 64 = .ok (.putfield 49, 3) := dk_181 0 49 (dk_at dksX1_init_2 18 rfl rfl)
theorem dX1_init_67 : decode cX1_init 67 = .ok (.aload_n 0, 1) := dk_42 (dk_at dksX1_init_2 21 rfl rfl)
theorem dX1_init_68 : decode cX1_init 68 = .ok (.new 46, 3) := dk_187 0 46 (dk_at dksX1_init_3 0 rfl rfl)
theorem dX1_init_71 : decode cX1_init 71 = .ok (.dup, 1) := dk_89 (dk_at dksX1_init_3 3 rfl rfl)
theorem dX1_init_72 : decode cX1_init 72 = .ok (.invokespecial 48, 3) := dk_183 0 48 (dk_at dksX1_init_3 4 rfl rfl)
theorem dX1_init_75 : decode cX1_init 75 = .ok (.putfield 53, 3) := dk_181 0 53 (dk_at dksX1_init_3 7 rfl rfl)
theorem dX1_init_78 : decode cX1_init 78 = .ok (.aload_n 0, 1) := dk_42 (dk_at dksX1_init_3 10 rfl rfl)
theorem dX1_init_79 : decode cX1_init 79 = .ok (.new 26, 3) := dk_187 0 26 (dk_at dksX1_init_3 11 rfl rfl)
theorem dX1_init_82 : decode cX1_init 82 = .ok (.dup, 1) := dk_89 (dk_at dksX1_init_3 14 rfl rfl)
theorem dX1_init_83 : decode cX1_init 83 = .ok (.aload_n 0, 1) := dk_42 (dk_at dksX1_init_3 15 rfl rfl)
theorem dX1_init_84 : decode cX1_init 84 = .ok (.invokespecial 28, 3) := dk_183 0 28 (dk_at dksX1_init_3 16 rfl rfl)
theorem dX1_init_87 : decode cX1_init 87 = .ok (.putfield 56, 3) := dk_181 0 56 (dk_at dksX1_init_3 19 rfl rfl)
theorem dX1_init_90 : decode cX1_init 90 = .ok (.aload_n 0, 1) := dk_42 (dk_at dksX1_init_3 22 rfl rfl)
theorem dX1_init_91 : decode cX1_init 91 = .ok (.sipush 248, 3) := dk_17 0 248 (dk_at dksX1_init_4 0 rfl rfl)
theorem dX1_init_94 : decode cX1_init 94 = .ok (.newarray .int, 2) := dk_188_10 (dk_at dksX1_init_4 3 rfl rfl)
theorem dX1_init_96 : decode cX1_init 96 = .ok (.putfield 59, 3) := dk_181 0 59 (dk_at dksX1_init_4 5 rfl rfl)
theorem dX1_init_99 : decode cX1_init 99 = .ok (.return_, 1) := dk_177 (dk_at dksX1_init_4 8 rfl rfl)
abbrev cX1_feed : ByteArray := prog_1_method_6_code
def yX1_feed : MethodName := ⟨RX1, "feed", "(IIIII)I"⟩
def dkwX1_feed_5 : List UInt8 := [180, 0, 62, 172]
abbrev dktX1_feed_5 : List UInt8 := dkwX1_feed_5 ++ []
def dkwX1_feed_4 : List UInt8 := [112, 104, 100, 122, 145, 84, 132, 6, 1, 167, 255, 172, 42, 89, 180, 0, 62, 16, 20, 96, 181, 0, 62, 42]
abbrev dktX1_feed_4 : List UInt8 := dkwX1_feed_4 ++ dktX1_feed_5
def dkwX1_feed_3 : List UInt8 := [21, 5, 54, 7, 42, 180, 0, 35, 42, 180, 0, 62, 21, 6, 96, 21, 7, 16, 24, 16, 8, 21, 6, 7]
abbrev dktX1_feed_3 : List UInt8 := dkwX1_feed_3 ++ dktX1_feed_4
def dkwX1_feed_2 : List UInt8 := [21, 6, 16, 12, 162, 0, 7, 29, 167, 0, 17, 21, 6, 16, 16, 162, 0, 8, 21, 4, 167, 0, 5]
abbrev dktX1_feed_2 : List UInt8 := dkwX1_feed_2 ++ dktX1_feed_3
def dkwX1_feed_1 : List UInt8 := [162, 0, 83, 21, 6, 7, 162, 0, 7, 27, 167, 0, 39, 21, 6, 16, 8, 162, 0, 7, 28, 167, 0, 28]
abbrev dktX1_feed_1 : List UInt8 := dkwX1_feed_1 ++ dktX1_feed_2
def dkwX1_feed_0 : List UInt8 := [42, 180, 0, 62, 16, 20, 96, 17, 2, 188, 164, 0, 5, 2, 172, 3, 54, 6, 21, 6, 16, 20]
abbrev dktX1_feed_0 : List UInt8 := dkwX1_feed_0 ++ dktX1_feed_1
theorem dksX1_feed_0 : cX1_feed.data.toList.drop 0 = dktX1_feed_0 := by decide +kernel
theorem dksX1_feed_1 : cX1_feed.data.toList.drop 22 = dktX1_feed_1 := dk_seg dksX1_feed_0 22 rfl rfl
theorem dksX1_feed_2 : cX1_feed.data.toList.drop 46 = dktX1_feed_2 := dk_seg dksX1_feed_1 24 rfl rfl
theorem dksX1_feed_3 : cX1_feed.data.toList.drop 69 = dktX1_feed_3 := dk_seg dksX1_feed_2 23 rfl rfl
theorem dksX1_feed_4 : cX1_feed.data.toList.drop 93 = dktX1_feed_4 := dk_seg dksX1_feed_3 24 rfl rfl
theorem dksX1_feed_5 : cX1_feed.data.toList.drop 117 = dktX1_feed_5 := dk_seg dksX1_feed_4 24 rfl rfl
theorem dX1_feed_0 : decode cX1_feed 0 = .ok (.aload_n 0, 1) := dk_42 (dk_at dksX1_feed_0 0 rfl rfl)
theorem dX1_feed_1 : decode cX1_feed 1 = .ok (.getfield 62, 3) := dk_180 0 62 (dk_at dksX1_feed_0 1 rfl rfl)
theorem dX1_feed_4 : decode cX1_feed 4 = .ok (.bipush 20, 2) := dk_16 20 (dk_at dksX1_feed_0 4 rfl rfl)
theorem dX1_feed_6 : decode cX1_feed 6 = .ok (.iadd, 1) := dk_96 (dk_at dksX1_feed_0 6 rfl rfl)
theorem dX1_feed_7 : decode cX1_feed 7 = .ok (.sipush 700, 3) := dk_17 2 188 (dk_at dksX1_feed_0 7 rfl rfl)
theorem dX1_feed_10 : decode cX1_feed 10 = .ok (.if_icmp .le 5, 3) := dk_164 0 5 (dk_at dksX1_feed_0 10 rfl rfl)
theorem dX1_feed_13 : decode cX1_feed 13 = .ok (.iconst (-1), 1) := dk_2 (dk_at dksX1_feed_0 13 rfl rfl)
theorem dX1_feed_14 : decode cX1_feed 14 = .ok (.ireturn, 1) := dk_172 (dk_at dksX1_feed_0 14 rfl rfl)
theorem dX1_feed_15 : decode cX1_feed 15 = .ok (.iconst 0, 1) := dk_3 (dk_at dksX1_feed_0 15 rfl rfl)
theorem dX1_feed_16 : decode cX1_feed 16 = .ok (.istore 6, 2) := dk_54 6 (dk_at dksX1_feed_0 16 rfl rfl)
theorem dX1_feed_18 : decode cX1_feed 18 = .ok (.iload 6, 2) := dk_21 6 (dk_at dksX1_feed_0 18 rfl rfl)
theorem dX1_feed_20 : decode cX1_feed 20 = .ok (.bipush 20, 2) := dk_16 20 (dk_at dksX1_feed_0 20 rfl rfl)
theorem dX1_feed_22 : decode cX1_feed 22 = .ok (.if_icmp .ge 83, 3) := dk_162 0 83 (dk_at dksX1_feed_1 0 rfl rfl)
theorem dX1_feed_25 : decode cX1_feed 25 = .ok (.iload 6, 2) := dk_21 6 (dk_at dksX1_feed_1 3 rfl rfl)
theorem dX1_feed_27 : decode cX1_feed 27 = .ok (.iconst 4, 1) := dk_7 (dk_at dksX1_feed_1 5 rfl rfl)
theorem dX1_feed_28 : decode cX1_feed 28 = .ok (.if_icmp .ge 7, 3) := dk_162 0 7 (dk_at dksX1_feed_1 6 rfl rfl)
theorem dX1_feed_31 : decode cX1_feed 31 = .ok (.iload_n 1, 1) := dk_27 (dk_at dksX1_feed_1 9 rfl rfl)
theorem dX1_feed_32 : decode cX1_feed 32 = .ok (.goto 39, 3) := dk_167 0 39 (dk_at dksX1_feed_1 10 rfl rfl)
theorem dX1_feed_35 : decode cX1_feed 35 = .ok (.iload 6, 2) := dk_21 6 (dk_at dksX1_feed_1 13 rfl rfl)
theorem dX1_feed_37 : decode cX1_feed 37 = .ok (.bipush 8, 2) := dk_16 8 (dk_at dksX1_feed_1 15 rfl rfl)
theorem dX1_feed_39 : decode cX1_feed 39 = .ok (.if_icmp .ge 7, 3) := dk_162 0 7 (dk_at dksX1_feed_1 17 rfl rfl)
theorem dX1_feed_42 : decode cX1_feed 42 = .ok (.iload_n 2, 1) := dk_28 (dk_at dksX1_feed_1 20 rfl rfl)
theorem dX1_feed_43 : decode cX1_feed 43 = .ok (.goto 28, 3) := dk_167 0 28 (dk_at dksX1_feed_1 21 rfl rfl)
theorem dX1_feed_46 : decode cX1_feed 46 = .ok (.iload 6, 2) := dk_21 6 (dk_at dksX1_feed_2 0 rfl rfl)
theorem dX1_feed_48 : decode cX1_feed 48 = .ok (.bipush 12, 2) := dk_16 12 (dk_at dksX1_feed_2 2 rfl rfl)
theorem dX1_feed_50 : decode cX1_feed 50 = .ok (.if_icmp .ge 7, 3) := dk_162 0 7 (dk_at dksX1_feed_2 4 rfl rfl)
theorem dX1_feed_53 : decode cX1_feed 53 = .ok (.iload_n 3, 1) := dk_29 (dk_at dksX1_feed_2 7 rfl rfl)
theorem dX1_feed_54 : decode cX1_feed 54 = .ok (.goto 17, 3) := dk_167 0 17 (dk_at dksX1_feed_2 8 rfl rfl)
theorem dX1_feed_57 : decode cX1_feed 57 = .ok (.iload 6, 2) := dk_21 6 (dk_at dksX1_feed_2 11 rfl rfl)
theorem dX1_feed_59 : decode cX1_feed 59 = .ok (.bipush 16, 2) := dk_16 16 (dk_at dksX1_feed_2 13 rfl rfl)
theorem dX1_feed_61 : decode cX1_feed 61 = .ok (.if_icmp .ge 8, 3) := dk_162 0 8 (dk_at dksX1_feed_2 15 rfl rfl)
theorem dX1_feed_64 : decode cX1_feed 64 = .ok (.iload 4, 2) := dk_21 4 (dk_at dksX1_feed_2 18 rfl rfl)
theorem dX1_feed_66 : decode cX1_feed 66 = .ok (.goto 5, 3) := dk_167 0 5 (dk_at dksX1_feed_2 20 rfl rfl)
theorem dX1_feed_69 : decode cX1_feed 69 = .ok (.iload 5, 2) := dk_21 5 (dk_at dksX1_feed_3 0 rfl rfl)
theorem dX1_feed_71 : decode cX1_feed 71 = .ok (.istore 7, 2) := dk_54 7 (dk_at dksX1_feed_3 2 rfl rfl)
theorem dX1_feed_73 : decode cX1_feed 73 = .ok (.aload_n 0, 1) := dk_42 (dk_at dksX1_feed_3 4 rfl rfl)
theorem dX1_feed_74 : decode cX1_feed 74 = .ok (.getfield 35, 3) := dk_180 0 35 (dk_at dksX1_feed_3 5 rfl rfl)
theorem dX1_feed_77 : decode cX1_feed 77 = .ok (.aload_n 0, 1) := dk_42 (dk_at dksX1_feed_3 8 rfl rfl)
theorem dX1_feed_78 : decode cX1_feed 78 = .ok (.getfield 62, 3) := dk_180 0 62 (dk_at dksX1_feed_3 9 rfl rfl)
theorem dX1_feed_81 : decode cX1_feed 81 = .ok (.iload 6, 2) := dk_21 6 (dk_at dksX1_feed_3 12 rfl rfl)
theorem dX1_feed_83 : decode cX1_feed 83 = .ok (.iadd, 1) := dk_96 (dk_at dksX1_feed_3 14 rfl rfl)
theorem dX1_feed_84 : decode cX1_feed 84 = .ok (.iload 7, 2) := dk_21 7 (dk_at dksX1_feed_3 15 rfl rfl)
theorem dX1_feed_86 : decode cX1_feed 86 = .ok (.bipush 24, 2) := dk_16 24 (dk_at dksX1_feed_3 17 rfl rfl)
theorem dX1_feed_88 : decode cX1_feed 88 = .ok (.bipush 8, 2) := dk_16 8 (dk_at dksX1_feed_3 19 rfl rfl)
theorem dX1_feed_90 : decode cX1_feed 90 = .ok (.iload 6, 2) := dk_21 6 (dk_at dksX1_feed_3 21 rfl rfl)
theorem dX1_feed_92 : decode cX1_feed 92 = .ok (.iconst 4, 1) := dk_7 (dk_at dksX1_feed_3 23 rfl rfl)
theorem dX1_feed_93 : decode cX1_feed 93 = .ok (.irem, 1) := dk_112 (dk_at dksX1_feed_4 0 rfl rfl)
theorem dX1_feed_94 : decode cX1_feed 94 = .ok (.imul, 1) := dk_104 (dk_at dksX1_feed_4 1 rfl rfl)
theorem dX1_feed_95 : decode cX1_feed 95 = .ok (.isub, 1) := dk_100 (dk_at dksX1_feed_4 2 rfl rfl)
theorem dX1_feed_96 : decode cX1_feed 96 = .ok (.ishr, 1) := dk_122 (dk_at dksX1_feed_4 3 rfl rfl)
theorem dX1_feed_97 : decode cX1_feed 97 = .ok (.i2b, 1) := dk_145 (dk_at dksX1_feed_4 4 rfl rfl)
theorem dX1_feed_98 : decode cX1_feed 98 = .ok (.bastore, 1) := dk_84 (dk_at dksX1_feed_4 5 rfl rfl)
theorem dX1_feed_99 : decode cX1_feed 99 = .ok (.iinc 6 1, 3) := dk_132 6 1 (dk_at dksX1_feed_4 6 rfl rfl)
theorem dX1_feed_102 : decode cX1_feed 102 = .ok (.goto (-84), 3) := dk_167 255 172 (dk_at dksX1_feed_4 9 rfl rfl)
theorem dX1_feed_105 : decode cX1_feed 105 = .ok (.aload_n 0, 1) := dk_42 (dk_at dksX1_feed_4 12 rfl rfl)
theorem dX1_feed_106 : decode cX1_feed 106 = .ok (.dup, 1) := dk_89 (dk_at dksX1_feed_4 13 rfl rfl)
theorem dX1_feed_107 : decode cX1_feed 107 = .ok (.getfield 62, 3) := dk_180 0 62 (dk_at dksX1_feed_4 14 rfl rfl)
theorem dX1_feed_110 : decode cX1_feed 110 = .ok (.bipush 20, 2) := dk_16 20 (dk_at dksX1_feed_4 17 rfl rfl)
theorem dX1_feed_112 : decode cX1_feed 112 = .ok (.iadd, 1) := dk_96 (dk_at dksX1_feed_4 19 rfl rfl)
theorem dX1_feed_113 : decode cX1_feed 113 = .ok (.putfield 62, 3) := dk_181 0 62 (dk_at dksX1_feed_4 20 rfl rfl)
theorem dX1_feed_116 : decode cX1_feed 116 = .ok (.aload_n 0, 1) := dk_42 (dk_at dksX1_feed_4 23 rfl rfl)
theorem dX1_feed_117 : decode cX1_feed 117 = .ok (.getfield 62, 3) := dk_180 0 62 (dk_at dksX1_feed_5 0 rfl rfl)
theorem dX1_feed_120 : decode cX1_feed 120 = .ok (.ireturn, 1) := dk_172 (dk_at dksX1_feed_5 3 rfl rfl)
abbrev cX1_fault : ByteArray := prog_1_method_8_code
def yX1_fault : MethodName := ⟨RX1, "fault", "()I"⟩
theorem dX1_fault_0 : decode cX1_fault 0 = .ok (.aload_n 0, 1) := by decide +kernel
theorem dX1_fault_1 : decode cX1_fault 1 = .ok (.getfield 39, 3) := by decide +kernel
theorem dX1_fault_4 : decode cX1_fault 4 = .ok (.ireturn, 1) := by decide +kernel
abbrev cX1_days : ByteArray := prog_1_method_17_code
def yX1_days : MethodName := ⟨RX1, "days", "(I)I"⟩
def dkwX1_days_2 : List UInt8 := [172]
abbrev dktX1_days_2 : List UInt8 := dkwX1_days_2 ++ []
def dkwX1_days_1 : List UInt8 := [164, 0, 9, 42, 4, 182, 0, 193, 172, 42, 182, 0, 196, 42, 180, 0, 31, 27, 182, 0, 199, 180, 0, 107]
abbrev dktX1_days_1 : List UInt8 := dkwX1_days_1 ++ dktX1_days_2
def dkwX1_days_0 : List UInt8 := [27, 4, 16, 30, 184, 0, 134, 153, 0, 18, 42, 180, 0, 31, 180, 0, 107, 27, 96, 17, 3, 231]
abbrev dktX1_days_0 : List UInt8 := dkwX1_days_0 ++ dktX1_days_1
theorem dksX1_days_0 : cX1_days.data.toList.drop 0 = dktX1_days_0 := by decide +kernel
theorem dksX1_days_1 : cX1_days.data.toList.drop 22 = dktX1_days_1 := dk_seg dksX1_days_0 22 rfl rfl
theorem dksX1_days_2 : cX1_days.data.toList.drop 46 = dktX1_days_2 := dk_seg dksX1_days_1 24 rfl rfl
theorem dX1_days_0 : decode cX1_days 0 = .ok (.iload_n 1, 1) := dk_27 (dk_at dksX1_days_0 0 rfl rfl)
theorem dX1_days_1 : decode cX1_days 1 = .ok (.iconst 1, 1) := dk_4 (dk_at dksX1_days_0 1 rfl rfl)
theorem dX1_days_2 : decode cX1_days 2 = .ok (.bipush 30, 2) := dk_16 30 (dk_at dksX1_days_0 2 rfl rfl)
theorem dX1_days_4 : decode cX1_days 4 = .ok (.invokestatic 134, 3) := dk_184 0 134 (dk_at dksX1_days_0 4 rfl rfl)
theorem dX1_days_7 : decode cX1_days 7 = .ok (.ifCond .eq 18, 3) := dk_153 0 18 (dk_at dksX1_days_0 7 rfl rfl)
theorem dX1_days_10 : decode cX1_days 10 = .ok (.aload_n 0, 1) := dk_42 (dk_at dksX1_days_0 10 rfl rfl)
theorem dX1_days_11 : decode cX1_days 11 = .ok (.getfield 31, 3) := dk_180 0 31 (dk_at dksX1_days_0 11 rfl rfl)
theorem dX1_days_14 : decode cX1_days 14 = .ok (.getfield 107, 3) := dk_180 0 107 (dk_at dksX1_days_0 14 rfl rfl)
theorem dX1_days_17 : decode cX1_days 17 = .ok (.iload_n 1, 1) := dk_27 (dk_at dksX1_days_0 17 rfl rfl)
theorem dX1_days_18 : decode cX1_days 18 = .ok (.iadd, 1) := dk_96 (dk_at dksX1_days_0 18 rfl rfl)
theorem dX1_days_19 : decode cX1_days 19 = .ok (.sipush 999, 3) := dk_17 3 231 (dk_at dksX1_days_0 19 rfl rfl)
theorem dX1_days_22 : decode cX1_days 22 = .ok (.if_icmp .le 9, 3) := dk_164 0 9 (dk_at dksX1_days_1 0 rfl rfl)
theorem dX1_days_25 : decode cX1_days 25 = .ok (.aload_n 0, 1) := dk_42 (dk_at dksX1_days_1 3 rfl rfl)
theorem dX1_days_26 : decode cX1_days 26 = .ok (.iconst 1, 1) := dk_4 (dk_at dksX1_days_1 4 rfl rfl)
theorem dX1_days_27 : decode cX1_days 27 = .ok (.invokevirtual 193, 3) := dk_182 0 193 (dk_at dksX1_days_1 5 rfl rfl)
theorem dX1_days_30 : decode cX1_days 30 = .ok (.ireturn, 1) := dk_172 (dk_at dksX1_days_1 8 rfl rfl)
theorem dX1_days_31 : decode cX1_days 31 = .ok (.aload_n 0, 1) := dk_42 (dk_at dksX1_days_1 9 rfl rfl)
theorem dX1_days_32 : decode cX1_days 32 = .ok (.invokevirtual 196, 3) := dk_182 0 196 (dk_at dksX1_days_1 10 rfl rfl)
theorem dX1_days_35 : decode cX1_days 35 = .ok (.aload_n 0, 1) := dk_42 (dk_at dksX1_days_1 13 rfl rfl)
theorem dX1_days_36 : decode cX1_days 36 = .ok (.getfield 31, 3) := dk_180 0 31 (dk_at dksX1_days_1 14 rfl rfl)
theorem dX1_days_39 : decode cX1_days 39 = .ok (.iload_n 1, 1) := dk_27 (dk_at dksX1_days_1 17 rfl rfl)
theorem dX1_days_40 : decode cX1_days 40 = .ok (.invokevirtual 199, 3) := dk_182 0 199 (dk_at dksX1_days_1 18 rfl rfl)
theorem dX1_days_43 : decode cX1_days 43 = .ok (.getfield 107, 3) := dk_180 0 107 (dk_at dksX1_days_1 21 rfl rfl)
theorem dX1_days_46 : decode cX1_days 46 = .ok (.ireturn, 1) := dk_172 (dk_at dksX1_days_2 0 rfl rfl)
abbrev cX1_in : ByteArray := prog_1_method_1_code
def yX1_in : MethodName := ⟨RX1, "in", "(III)Z"⟩
def dkwX1_in_0 : List UInt8 := [26, 27, 161, 0, 12, 26, 28, 163, 0, 7, 4, 167, 0, 4, 3, 172]
abbrev dktX1_in_0 : List UInt8 := dkwX1_in_0 ++ []
theorem dksX1_in_0 : cX1_in.data.toList.drop 0 = dktX1_in_0 := by decide +kernel
theorem dX1_in_0 : decode cX1_in 0 = .ok (.iload_n 0, 1) := dk_26 (dk_at dksX1_in_0 0 rfl rfl)
theorem dX1_in_1 : decode cX1_in 1 = .ok (.iload_n 1, 1) := dk_27 (dk_at dksX1_in_0 1 rfl rfl)
theorem dX1_in_2 : decode cX1_in 2 = .ok (.if_icmp .lt 12, 3) := dk_161 0 12 (dk_at dksX1_in_0 2 rfl rfl)
theorem dX1_in_5 : decode cX1_in 5 = .ok (.iload_n 0, 1) := dk_26 (dk_at dksX1_in_0 5 rfl rfl)
theorem dX1_in_6 : decode cX1_in 6 = .ok (.iload_n 2, 1) := dk_28 (dk_at dksX1_in_0 6 rfl rfl)
theorem dX1_in_7 : decode cX1_in 7 = .ok (.if_icmp .gt 7, 3) := dk_163 0 7 (dk_at dksX1_in_0 7 rfl rfl)
theorem dX1_in_10 : decode cX1_in 10 = .ok (.iconst 1, 1) := dk_4 (dk_at dksX1_in_0 10 rfl rfl)
theorem dX1_in_11 : decode cX1_in 11 = .ok (.goto 4, 3) := dk_167 0 4 (dk_at dksX1_in_0 11 rfl rfl)
theorem dX1_in_14 : decode cX1_in 14 = .ok (.iconst 0, 1) := dk_3 (dk_at dksX1_in_0 14 rfl rfl)
theorem dX1_in_15 : decode cX1_in 15 = .ok (.ireturn, 1) := dk_172 (dk_at dksX1_in_0 15 rfl rfl)
abbrev cX1_refuse : ByteArray := prog_1_method_16_code
def yX1_refuse : MethodName := ⟨RX1, "refuse", "(I)I"⟩
def dkwX1_refuse_0 : List UInt8 := [42, 180, 0, 43, 27, 92, 46, 4, 96, 79, 2, 172]
abbrev dktX1_refuse_0 : List UInt8 := dkwX1_refuse_0 ++ []
theorem dksX1_refuse_0 : cX1_refuse.data.toList.drop 0 = dktX1_refuse_0 := by decide +kernel
theorem dX1_refuse_0 : decode cX1_refuse 0 = .ok (.aload_n 0, 1) := dk_42 (dk_at dksX1_refuse_0 0 rfl rfl)
theorem dX1_refuse_1 : decode cX1_refuse 1 = .ok (.getfield 43, 3) := dk_180 0 43 (dk_at dksX1_refuse_0 1 rfl rfl)
theorem dX1_refuse_4 : decode cX1_refuse 4 = .ok (.iload_n 1, 1) := dk_27 (dk_at dksX1_refuse_0 4 rfl rfl)
theorem dX1_refuse_5 : decode cX1_refuse 5 = .ok (.dup2, 1) := dk_92 (dk_at dksX1_refuse_0 5 rfl rfl)
theorem dX1_refuse_6 : decode cX1_refuse 6 = .ok (.iaload, 1) := dk_46 (dk_at dksX1_refuse_0 6 rfl rfl)
theorem dX1_refuse_7 : decode cX1_refuse 7 = .ok (.iconst 1, 1) := dk_4 (dk_at dksX1_refuse_0 7 rfl rfl)
theorem dX1_refuse_8 : decode cX1_refuse 8 = .ok (.iadd, 1) := dk_96 (dk_at dksX1_refuse_0 8 rfl rfl)
theorem dX1_refuse_9 : decode cX1_refuse 9 = .ok (.iastore, 1) := dk_79 (dk_at dksX1_refuse_0 9 rfl rfl)
theorem dX1_refuse_10 : decode cX1_refuse 10 = .ok (.iconst (-1), 1) := dk_2 (dk_at dksX1_refuse_0 10 rfl rfl)
theorem dX1_refuse_11 : decode cX1_refuse 11 = .ok (.ireturn, 1) := dk_172 (dk_at dksX1_refuse_0 11 rfl rfl)
abbrev cX1_keep : ByteArray := prog_1_method_15_code
def yX1_keep : MethodName := ⟨RX1, "keep", "()V"⟩
def dkwX1_keep_1 : List UInt8 := [185, 0, 99, 1, 0, 16, 40, 164, 0, 14, 42, 180, 0, 49, 3, 185, 0, 190, 2, 0, 87, 177]
abbrev dktX1_keep_1 : List UInt8 := dkwX1_keep_1 ++ []
def dkwX1_keep_0 : List UInt8 := [42, 180, 0, 49, 42, 180, 0, 31, 182, 0, 182, 185, 0, 186, 2, 0, 87, 42, 180, 0, 49]
abbrev dktX1_keep_0 : List UInt8 := dkwX1_keep_0 ++ dktX1_keep_1
theorem dksX1_keep_0 : cX1_keep.data.toList.drop 0 = dktX1_keep_0 := by decide +kernel
theorem dksX1_keep_1 : cX1_keep.data.toList.drop 21 = dktX1_keep_1 := dk_seg dksX1_keep_0 21 rfl rfl
theorem dX1_keep_0 : decode cX1_keep 0 = .ok (.aload_n 0, 1) := dk_42 (dk_at dksX1_keep_0 0 rfl rfl)
theorem dX1_keep_1 : decode cX1_keep 1 = .ok (.getfield 49, 3) := dk_180 0 49 (dk_at dksX1_keep_0 1 rfl rfl)
theorem dX1_keep_4 : decode cX1_keep 4 = .ok (.aload_n 0, 1) := dk_42 (dk_at dksX1_keep_0 4 rfl rfl)
theorem dX1_keep_5 : decode cX1_keep 5 = .ok (.getfield 31, 3) := dk_180 0 31 (dk_at dksX1_keep_0 5 rfl rfl)
theorem dX1_keep_8 : decode cX1_keep 8 = .ok (.invokevirtual 182, 3) := dk_182 0 182 (dk_at dksX1_keep_0 8 rfl rfl)
theorem dX1_keep_11 : decode cX1_keep 11 = .ok (.invokeinterface 186 2, 5) := by decide +kernel
theorem dX1_keep_16 : decode cX1_keep 16 = .ok (.pop, 1) := dk_87 (dk_at dksX1_keep_0 16 rfl rfl)
theorem dX1_keep_17 : decode cX1_keep 17 = .ok (.aload_n 0, 1) := dk_42 (dk_at dksX1_keep_0 17 rfl rfl)
theorem dX1_keep_18 : decode cX1_keep 18 = .ok (.getfield 49, 3) := dk_180 0 49 (dk_at dksX1_keep_0 18 rfl rfl)
theorem dX1_keep_21 : decode cX1_keep 21 = .ok (.invokeinterface 99 1, 5) := by decide +kernel
theorem dX1_keep_26 : decode cX1_keep 26 = .ok (.bipush 40, 2) := dk_16 40 (dk_at dksX1_keep_1 5 rfl rfl)
theorem dX1_keep_28 : decode cX1_keep 28 = .ok (.if_icmp .le 14, 3) := dk_164 0 14 (dk_at dksX1_keep_1 7 rfl rfl)
theorem dX1_keep_31 : decode cX1_keep 31 = .ok (.aload_n 0, 1) := dk_42 (dk_at dksX1_keep_1 10 rfl rfl)
theorem dX1_keep_32 : decode cX1_keep 32 = .ok (.getfield 49, 3) := dk_180 0 49 (dk_at dksX1_keep_1 11 rfl rfl)
theorem dX1_keep_35 : decode cX1_keep 35 = .ok (.iconst 0, 1) := dk_3 (dk_at dksX1_keep_1 14 rfl rfl)
theorem dX1_keep_36 : decode cX1_keep 36 = .ok (.invokeinterface 190 2, 5) := by decide +kernel
theorem dX1_keep_41 : decode cX1_keep 41 = .ok (.pop, 1) := dk_87 (dk_at dksX1_keep_1 20 rfl rfl)
theorem dX1_keep_42 : decode cX1_keep 42 = .ok (.return_, 1) := dk_177 (dk_at dksX1_keep_1 21 rfl rfl)
abbrev cX1_draw : ByteArray := prog_1_method_52_code
def yX1_draw : MethodName := ⟨RX1, "draw", "(I)I"⟩
def dkwX1_draw_1 : List UInt8 := [17, 127, 255, 126, 27, 112, 172]
abbrev dktX1_draw_1 : List UInt8 := dkwX1_draw_1 ++ []
def dkwX1_draw_0 : List UInt8 := [42, 42, 180, 1, 58, 19, 1, 61, 104, 17, 48, 57, 96, 181, 1, 58, 42, 180, 1, 58, 16, 16, 122]
abbrev dktX1_draw_0 : List UInt8 := dkwX1_draw_0 ++ dktX1_draw_1
theorem dksX1_draw_0 : cX1_draw.data.toList.drop 0 = dktX1_draw_0 := by decide +kernel
theorem dksX1_draw_1 : cX1_draw.data.toList.drop 23 = dktX1_draw_1 := dk_seg dksX1_draw_0 23 rfl rfl
theorem dX1_draw_0 : decode cX1_draw 0 = .ok (.aload_n 0, 1) := dk_42 (dk_at dksX1_draw_0 0 rfl rfl)
theorem dX1_draw_1 : decode cX1_draw 1 = .ok (.aload_n 0, 1) := dk_42 (dk_at dksX1_draw_0 1 rfl rfl)
theorem dX1_draw_2 : decode cX1_draw 2 = .ok (.getfield 314, 3) := dk_180 1 58 (dk_at dksX1_draw_0 2 rfl rfl)
theorem dX1_draw_5 : decode cX1_draw 5 = .ok (.ldc_w 317, 3) := dk_19 1 61 (dk_at dksX1_draw_0 5 rfl rfl)
theorem dX1_draw_8 : decode cX1_draw 8 = .ok (.imul, 1) := dk_104 (dk_at dksX1_draw_0 8 rfl rfl)
theorem dX1_draw_9 : decode cX1_draw 9 = .ok (.sipush 12345, 3) := dk_17 48 57 (dk_at dksX1_draw_0 9 rfl rfl)
theorem dX1_draw_12 : decode cX1_draw 12 = .ok (.iadd, 1) := dk_96 (dk_at dksX1_draw_0 12 rfl rfl)
theorem dX1_draw_13 : decode cX1_draw 13 = .ok (.putfield 314, 3) := dk_181 1 58 (dk_at dksX1_draw_0 13 rfl rfl)
theorem dX1_draw_16 : decode cX1_draw 16 = .ok (.aload_n 0, 1) := dk_42 (dk_at dksX1_draw_0 16 rfl rfl)
theorem dX1_draw_17 : decode cX1_draw 17 = .ok (.getfield 314, 3) := dk_180 1 58 (dk_at dksX1_draw_0 17 rfl rfl)
theorem dX1_draw_20 : decode cX1_draw 20 = .ok (.bipush 16, 2) := dk_16 16 (dk_at dksX1_draw_0 20 rfl rfl)
theorem dX1_draw_22 : decode cX1_draw 22 = .ok (.ishr, 1) := dk_122 (dk_at dksX1_draw_0 22 rfl rfl)
theorem dX1_draw_23 : decode cX1_draw 23 = .ok (.sipush 32767, 3) := dk_17 127 255 (dk_at dksX1_draw_1 0 rfl rfl)
theorem dX1_draw_26 : decode cX1_draw 26 = .ok (.iand, 1) := dk_126 (dk_at dksX1_draw_1 3 rfl rfl)
theorem dX1_draw_27 : decode cX1_draw 27 = .ok (.iload_n 1, 1) := dk_27 (dk_at dksX1_draw_1 4 rfl rfl)
theorem dX1_draw_28 : decode cX1_draw 28 = .ok (.irem, 1) := dk_112 (dk_at dksX1_draw_1 5 rfl rfl)
theorem dX1_draw_29 : decode cX1_draw 29 = .ok (.ireturn, 1) := dk_172 (dk_at dksX1_draw_1 6 rfl rfl)
abbrev cX1_undo : ByteArray := prog_1_method_22_code
def yX1_undo : MethodName := ⟨RX1, "undo", "()I"⟩
def dkwX1_undo_2 : List UInt8 := [180, 0, 49, 185, 0, 99, 1, 0, 172]
abbrev dktX1_undo_2 : List UInt8 := dkwX1_undo_2 ++ []
def dkwX1_undo_1 : List UInt8 := [185, 0, 99, 1, 0, 4, 100, 185, 0, 190, 2, 0, 192, 0, 26, 182, 0, 182, 181, 0, 31, 42]
abbrev dktX1_undo_1 : List UInt8 := dkwX1_undo_1 ++ dktX1_undo_2
def dkwX1_undo_0 : List UInt8 := [42, 180, 0, 49, 185, 0, 234, 1, 0, 153, 0, 5, 2, 172, 42, 42, 180, 0, 49, 42, 180, 0, 49]
abbrev dktX1_undo_0 : List UInt8 := dkwX1_undo_0 ++ dktX1_undo_1
theorem dksX1_undo_0 : cX1_undo.data.toList.drop 0 = dktX1_undo_0 := by decide +kernel
theorem dksX1_undo_1 : cX1_undo.data.toList.drop 23 = dktX1_undo_1 := dk_seg dksX1_undo_0 23 rfl rfl
theorem dksX1_undo_2 : cX1_undo.data.toList.drop 45 = dktX1_undo_2 := dk_seg dksX1_undo_1 22 rfl rfl
theorem dX1_undo_0 : decode cX1_undo 0 = .ok (.aload_n 0, 1) := dk_42 (dk_at dksX1_undo_0 0 rfl rfl)
theorem dX1_undo_1 : decode cX1_undo 1 = .ok (.getfield 49, 3) := dk_180 0 49 (dk_at dksX1_undo_0 1 rfl rfl)
theorem dX1_undo_4 : decode cX1_undo 4 = .ok (.invokeinterface 234 1, 5) := by decide +kernel
theorem dX1_undo_9 : decode cX1_undo 9 = .ok (.ifCond .eq 5, 3) := dk_153 0 5 (dk_at dksX1_undo_0 9 rfl rfl)
theorem dX1_undo_12 : decode cX1_undo 12 = .ok (.iconst (-1), 1) := dk_2 (dk_at dksX1_undo_0 12 rfl rfl)
theorem dX1_undo_13 : decode cX1_undo 13 = .ok (.ireturn, 1) := dk_172 (dk_at dksX1_undo_0 13 rfl rfl)
theorem dX1_undo_14 : decode cX1_undo 14 = .ok (.aload_n 0, 1) := dk_42 (dk_at dksX1_undo_0 14 rfl rfl)
theorem dX1_undo_15 : decode cX1_undo 15 = .ok (.aload_n 0, 1) := dk_42 (dk_at dksX1_undo_0 15 rfl rfl)
theorem dX1_undo_16 : decode cX1_undo 16 = .ok (.getfield 49, 3) := dk_180 0 49 (dk_at dksX1_undo_0 16 rfl rfl)
theorem dX1_undo_19 : decode cX1_undo 19 = .ok (.aload_n 0, 1) := dk_42 (dk_at dksX1_undo_0 19 rfl rfl)
theorem dX1_undo_20 : decode cX1_undo 20 = .ok (.getfield 49, 3) := dk_180 0 49 (dk_at dksX1_undo_0 20 rfl rfl)
theorem dX1_undo_23 : decode cX1_undo 23 = .ok (.invokeinterface 99 1, 5) := by decide +kernel
theorem dX1_undo_28 : decode cX1_undo 28 = .ok (.iconst 1, 1) := dk_4 (dk_at dksX1_undo_1 5 rfl rfl)
theorem dX1_undo_29 : decode cX1_undo 29 = .ok (.isub, 1) := dk_100 (dk_at dksX1_undo_1 6 rfl rfl)
theorem dX1_undo_30 : decode cX1_undo 30 = .ok (.invokeinterface 190 2, 5) := by decide +kernel
theorem dX1_undo_35 : decode cX1_undo 35 = .ok (.checkcast 26, 3) := dk_192 0 26 (dk_at dksX1_undo_1 12 rfl rfl)
theorem dX1_undo_38 : decode cX1_undo 38 = .ok (.invokevirtual 182, 3) := dk_182 0 182 (dk_at dksX1_undo_1 15 rfl rfl)
theorem dX1_undo_41 : decode cX1_undo 41 = .ok (.putfield 31, 3) := dk_181 0 31 (dk_at dksX1_undo_1 18 rfl rfl)
theorem dX1_undo_44 : decode cX1_undo 44 = .ok (.aload_n 0, 1) := dk_42 (dk_at dksX1_undo_1 21 rfl rfl)
theorem dX1_undo_45 : decode cX1_undo 45 = .ok (.getfield 49, 3) := dk_180 0 49 (dk_at dksX1_undo_2 0 rfl rfl)
theorem dX1_undo_48 : decode cX1_undo 48 = .ok (.invokeinterface 99 1, 5) := by decide +kernel
theorem dX1_undo_53 : decode cX1_undo 53 = .ok (.ireturn, 1) := dk_172 (dk_at dksX1_undo_2 8 rfl rfl)
abbrev cX1_forget : ByteArray := prog_1_method_41_code
def yX1_forget : MethodName := ⟨RX1, "forget", "()V"⟩
def dkwX1_forget_0 : List UInt8 := [42, 187, 0, 46, 89, 183, 0, 48, 181, 0, 53, 177]
abbrev dktX1_forget_0 : List UInt8 := dkwX1_forget_0 ++ []
theorem dksX1_forget_0 : cX1_forget.data.toList.drop 0 = dktX1_forget_0 := by decide +kernel
theorem dX1_forget_0 : decode cX1_forget 0 = .ok (.aload_n 0, 1) := dk_42 (dk_at dksX1_forget_0 0 rfl rfl)
theorem dX1_forget_1 : decode cX1_forget 1 = .ok (.new 46, 3) := dk_187 0 46 (dk_at dksX1_forget_0 1 rfl rfl)
theorem dX1_forget_4 : decode cX1_forget 4 = .ok (.dup, 1) := dk_89 (dk_at dksX1_forget_0 4 rfl rfl)
theorem dX1_forget_5 : decode cX1_forget 5 = .ok (.invokespecial 48, 3) := dk_183 0 48 (dk_at dksX1_forget_0 5 rfl rfl)
theorem dX1_forget_8 : decode cX1_forget 8 = .ok (.putfield 53, 3) := dk_181 0 53 (dk_at dksX1_forget_0 8 rfl rfl)
theorem dX1_forget_11 : decode cX1_forget 11 = .ok (.return_, 1) := dk_177 (dk_at dksX1_forget_0 11 rfl rfl)
abbrev cX1_missed : ByteArray := prog_1_method_49_code
def yX1_missed : MethodName := ⟨RX1, "missed", "()I"⟩
def dkwX1_missed_5 : List UInt8 := [60, 21, 5, 61, 132, 3, 1, 167, 255, 139, 27, 172]
abbrev dktX1_missed_5 : List UInt8 := dkwX1_missed_5 ++ []
def dkwX1_missed_4 : List UInt8 := [25, 4, 16, 30, 182, 1, 50, 54, 5, 27, 2, 159, 0, 12, 21, 5, 28, 161, 0, 6, 167, 0, 8, 29]
abbrev dktX1_missed_4 : List UInt8 := dkwX1_missed_4 ++ dktX1_missed_5
def dkwX1_missed_3 : List UInt8 := [153, 0, 11, 25, 4, 21, 5, 182, 0, 219, 87, 132, 5, 1, 167, 255, 217, 25, 4, 29, 182, 0, 231, 42]
abbrev dktX1_missed_3 : List UInt8 := dkwX1_missed_3 ++ dktX1_missed_4
def dkwX1_missed_2 : List UInt8 := [180, 0, 22, 180, 0, 104, 162, 0, 33, 21, 5, 29, 159, 0, 21, 25, 4, 21, 5, 182, 0, 205]
abbrev dktX1_missed_2 : List UInt8 := dkwX1_missed_2 ++ dktX1_missed_3
def dkwX1_missed_1 : List UInt8 := [182, 0, 205, 154, 0, 6, 167, 0, 92, 42, 180, 0, 31, 182, 0, 182, 58, 4, 3, 54, 5, 21, 5, 42]
abbrev dktX1_missed_1 : List UInt8 := dkwX1_missed_1 ++ dktX1_missed_2
def dkwX1_missed_0 : List UInt8 := [2, 60, 3, 61, 3, 62, 29, 42, 180, 0, 22, 180, 0, 104, 162, 0, 112, 42, 180, 0, 31, 29]
abbrev dktX1_missed_0 : List UInt8 := dkwX1_missed_0 ++ dktX1_missed_1
theorem dksX1_missed_0 : cX1_missed.data.toList.drop 0 = dktX1_missed_0 := by decide +kernel
theorem dksX1_missed_1 : cX1_missed.data.toList.drop 22 = dktX1_missed_1 := dk_seg dksX1_missed_0 22 rfl rfl
theorem dksX1_missed_2 : cX1_missed.data.toList.drop 46 = dktX1_missed_2 := dk_seg dksX1_missed_1 24 rfl rfl
theorem dksX1_missed_3 : cX1_missed.data.toList.drop 68 = dktX1_missed_3 := dk_seg dksX1_missed_2 22 rfl rfl
theorem dksX1_missed_4 : cX1_missed.data.toList.drop 92 = dktX1_missed_4 := dk_seg dksX1_missed_3 24 rfl rfl
theorem dksX1_missed_5 : cX1_missed.data.toList.drop 116 = dktX1_missed_5 := dk_seg dksX1_missed_4 24 rfl rfl
theorem dX1_missed_0 : decode cX1_missed 0 = .ok (.iconst (-1), 1) := dk_2 (dk_at dksX1_missed_0 0 rfl rfl)
theorem dX1_missed_1 : decode cX1_missed 1 = .ok (.istore_n 1, 1) := dk_60 (dk_at dksX1_missed_0 1 rfl rfl)
theorem dX1_missed_2 : decode cX1_missed 2 = .ok (.iconst 0, 1) := dk_3 (dk_at dksX1_missed_0 2 rfl rfl)
theorem dX1_missed_3 : decode cX1_missed 3 = .ok (.istore_n 2, 1) := dk_61 (dk_at dksX1_missed_0 3 rfl rfl)
theorem dX1_missed_4 : decode cX1_missed 4 = .ok (.iconst 0, 1) := dk_3 (dk_at dksX1_missed_0 4 rfl rfl)
theorem dX1_missed_5 : decode cX1_missed 5 = .ok (.istore_n 3, 1) := dk_62 (dk_at dksX1_missed_0 5 rfl rfl)
theorem dX1_missed_6 : decode cX1_missed 6 = .ok (.iload_n 3, 1) := dk_29 (dk_at dksX1_missed_0 6 rfl rfl)
theorem dX1_missed_7 : decode cX1_missed 7 = .ok (.aload_n 0, 1) := dk_42 (dk_at dksX1_missed_0 7 rfl rfl)
theorem dX1_missed_8 : decode cX1_missed 8 = .ok (.getfield 22, 3) := dk_180 0 22 (dk_at dksX1_missed_0 8 rfl rfl)
theorem dX1_missed_11 : decode cX1_missed 11 = .ok (.getfield 104, 3) := dk_180 0 104 (dk_at dksX1_missed_0 11 rfl rfl)
theorem dX1_missed_14 : decode cX1_missed 14 = .ok (.if_icmp .ge 112, 3) := dk_162 0 112 (dk_at dksX1_missed_0 14 rfl rfl)
theorem dX1_missed_17 : decode cX1_missed 17 = .ok (.aload_n 0, 1) := dk_42 (dk_at dksX1_missed_0 17 rfl rfl)
theorem dX1_missed_18 : decode cX1_missed 18 = .ok (.getfield 31, 3) := dk_180 0 31 (dk_at dksX1_missed_0 18 rfl rfl)
theorem dX1_missed_21 : decode cX1_missed 21 = .ok (.iload_n 3, 1) := dk_29 (dk_at dksX1_missed_0 21 rfl rfl)
theorem dX1_missed_22 : decode cX1_missed 22 = .ok (.invokevirtual 205, 3) := dk_182 0 205 (dk_at dksX1_missed_1 0 rfl rfl)
theorem dX1_missed_25 : decode cX1_missed 25 = .ok (.ifCond .ne 6, 3) := dk_154 0 6 (dk_at dksX1_missed_1 3 rfl rfl)
theorem dX1_missed_28 : decode cX1_missed 28 = .ok (.goto 92, 3) := dk_167 0 92 (dk_at dksX1_missed_1 6 rfl rfl)
theorem dX1_missed_31 : decode cX1_missed 31 = .ok (.aload_n 0, 1) := dk_42 (dk_at dksX1_missed_1 9 rfl rfl)
theorem dX1_missed_32 : decode cX1_missed 32 = .ok (.getfield 31, 3) := dk_180 0 31 (dk_at dksX1_missed_1 10 rfl rfl)
theorem dX1_missed_35 : decode cX1_missed 35 = .ok (.invokevirtual 182, 3) := dk_182 0 182 (dk_at dksX1_missed_1 13 rfl rfl)
theorem dX1_missed_38 : decode cX1_missed 38 = .ok (.astore 4, 2) := dk_58 4 (dk_at dksX1_missed_1 16 rfl rfl)
theorem dX1_missed_40 : decode cX1_missed 40 = .ok (.iconst 0, 1) := dk_3 (dk_at dksX1_missed_1 18 rfl rfl)
theorem dX1_missed_41 : decode cX1_missed 41 = .ok (.istore 5, 2) := dk_54 5 (dk_at dksX1_missed_1 19 rfl rfl)
theorem dX1_missed_43 : decode cX1_missed 43 = .ok (.iload 5, 2) := dk_21 5 (dk_at dksX1_missed_1 21 rfl rfl)
theorem dX1_missed_45 : decode cX1_missed 45 = .ok (.aload_n 0, 1) := dk_42 (dk_at dksX1_missed_1 23 rfl rfl)
theorem dX1_missed_46 : decode cX1_missed 46 = .ok (.getfield 22, 3) := dk_180 0 22 (dk_at dksX1_missed_2 0 rfl rfl)
theorem dX1_missed_49 : decode cX1_missed 49 = .ok (.getfield 104, 3) := dk_180 0 104 (dk_at dksX1_missed_2 3 rfl rfl)
theorem dX1_missed_52 : decode cX1_missed 52 = .ok (.if_icmp .ge 33, 3) := dk_162 0 33 (dk_at dksX1_missed_2 6 rfl rfl)
theorem dX1_missed_55 : decode cX1_missed 55 = .ok (.iload 5, 2) := dk_21 5 (dk_at dksX1_missed_2 9 rfl rfl)
theorem dX1_missed_57 : decode cX1_missed 57 = .ok (.iload_n 3, 1) := dk_29 (dk_at dksX1_missed_2 11 rfl rfl)
theorem dX1_missed_58 : decode cX1_missed 58 = .ok (.if_icmp .eq 21, 3) := dk_159 0 21 (dk_at dksX1_missed_2 12 rfl rfl)
theorem dX1_missed_61 : decode cX1_missed 61 = .ok (.aload 4, 2) := dk_25 4 (dk_at dksX1_missed_2 15 rfl rfl)
theorem dX1_missed_63 : decode cX1_missed 63 = .ok (.iload 5, 2) := dk_21 5 (dk_at dksX1_missed_2 17 rfl rfl)
theorem dX1_missed_65 : decode cX1_missed 65 = .ok (.invokevirtual 205, 3) := dk_182 0 205 (dk_at dksX1_missed_2 19 rfl rfl)
theorem dX1_missed_68 : decode cX1_missed 68 = .ok (.ifCond .eq 11, 3) := dk_153 0 11 (dk_at dksX1_missed_3 0 rfl rfl)
theorem dX1_missed_71 : decode cX1_missed 71 = .ok (.aload 4, 2) := dk_25 4 (dk_at dksX1_missed_3 3 rfl rfl)
theorem dX1_missed_73 : decode cX1_missed 73 = .ok (.iload 5, 2) := dk_21 5 (dk_at dksX1_missed_3 5 rfl rfl)
theorem dX1_missed_75 : decode cX1_missed 75 = .ok (.invokevirtual 219, 3) := dk_182 0 219 (dk_at dksX1_missed_3 7 rfl rfl)
theorem dX1_missed_78 : decode cX1_missed 78 = .ok (.pop, 1) := dk_87 (dk_at dksX1_missed_3 10 rfl rfl)
theorem dX1_missed_79 : decode cX1_missed 79 = .ok (.iinc 5 1, 3) := dk_132 5 1 (dk_at dksX1_missed_3 11 rfl rfl)
theorem dX1_missed_82 : decode cX1_missed 82 = .ok (.goto (-39), 3) := dk_167 255 217 (dk_at dksX1_missed_3 14 rfl rfl)
theorem dX1_missed_85 : decode cX1_missed 85 = .ok (.aload 4, 2) := dk_25 4 (dk_at dksX1_missed_3 17 rfl rfl)
theorem dX1_missed_87 : decode cX1_missed 87 = .ok (.iload_n 3, 1) := dk_29 (dk_at dksX1_missed_3 19 rfl rfl)
theorem dX1_missed_88 : decode cX1_missed 88 = .ok (.invokevirtual 231, 3) := dk_182 0 231 (dk_at dksX1_missed_3 20 rfl rfl)
theorem dX1_missed_91 : decode cX1_missed 91 = .ok (.aload_n 0, 1) := dk_42 (dk_at dksX1_missed_3 23 rfl rfl)
theorem dX1_missed_92 : decode cX1_missed 92 = .ok (.aload 4, 2) := dk_25 4 (dk_at dksX1_missed_4 0 rfl rfl)
theorem dX1_missed_94 : decode cX1_missed 94 = .ok (.bipush 30, 2) := dk_16 30 (dk_at dksX1_missed_4 2 rfl rfl)
theorem dX1_missed_96 : decode cX1_missed 96 = .ok (.invokevirtual 306, 3) := dk_182 1 50 (dk_at dksX1_missed_4 4 rfl rfl)
theorem dX1_missed_99 : decode cX1_missed 99 = .ok (.istore 5, 2) := dk_54 5 (dk_at dksX1_missed_4 7 rfl rfl)
theorem dX1_missed_101 : decode cX1_missed 101 = .ok (.iload_n 1, 1) := dk_27 (dk_at dksX1_missed_4 9 rfl rfl)
theorem dX1_missed_102 : decode cX1_missed 102 = .ok (.iconst (-1), 1) := dk_2 (dk_at dksX1_missed_4 10 rfl rfl)
theorem dX1_missed_103 : decode cX1_missed 103 = .ok (.if_icmp .eq 12, 3) := dk_159 0 12 (dk_at dksX1_missed_4 11 rfl rfl)
theorem dX1_missed_106 : decode cX1_missed 106 = .ok (.iload 5, 2) := dk_21 5 (dk_at dksX1_missed_4 14 rfl rfl)
theorem dX1_missed_108 : decode cX1_missed 108 = .ok (.iload_n 2, 1) := dk_28 (dk_at dksX1_missed_4 16 rfl rfl)
theorem dX1_missed_109 : decode cX1_missed 109 = .ok (.if_icmp .lt 6, 3) := dk_161 0 6 (dk_at dksX1_missed_4 17 rfl rfl)
theorem dX1_missed_112 : decode cX1_missed 112 = .ok (.goto 8, 3) := dk_167 0 8 (dk_at dksX1_missed_4 20 rfl rfl)
theorem dX1_missed_115 : decode cX1_missed 115 = .ok (.iload_n 3, 1) := dk_29 (dk_at dksX1_missed_4 23 rfl rfl)
theorem dX1_missed_116 : decode cX1_missed 116 = .ok (.istore_n 1, 1) := dk_60 (dk_at dksX1_missed_5 0 rfl rfl)
theorem dX1_missed_117 : decode cX1_missed 117 = .ok (.iload 5, 2) := dk_21 5 (dk_at dksX1_missed_5 1 rfl rfl)
theorem dX1_missed_119 : decode cX1_missed 119 = .ok (.istore_n 2, 1) := dk_61 (dk_at dksX1_missed_5 3 rfl rfl)
theorem dX1_missed_120 : decode cX1_missed 120 = .ok (.iinc 3 1, 3) := dk_132 3 1 (dk_at dksX1_missed_5 4 rfl rfl)
theorem dX1_missed_123 : decode cX1_missed 123 = .ok (.goto (-117), 3) := dk_167 255 139 (dk_at dksX1_missed_5 7 rfl rfl)
theorem dX1_missed_126 : decode cX1_missed 126 = .ok (.iload_n 1, 1) := dk_27 (dk_at dksX1_missed_5 10 rfl rfl)
theorem dX1_missed_127 : decode cX1_missed 127 = .ok (.ireturn, 1) := dk_172 (dk_at dksX1_missed_5 11 rfl rfl)
abbrev cX1_wonIn : ByteArray := prog_1_method_47_code
def yX1_wonIn : MethodName := ⟨RX1, "wonIn", "(LLuckCrates$Coast;I)I"⟩
def dkwX1_wonIn_0 : List UInt8 := [43, 28, 182, 0, 199, 87, 43, 43, 180, 0, 120, 182, 0, 113, 172]
abbrev dktX1_wonIn_0 : List UInt8 := dkwX1_wonIn_0 ++ []
theorem dksX1_wonIn_0 : cX1_wonIn.data.toList.drop 0 = dktX1_wonIn_0 := by decide +kernel
theorem dX1_wonIn_0 : decode cX1_wonIn 0 = .ok (.aload_n 1, 1) := dk_43 (dk_at dksX1_wonIn_0 0 rfl rfl)
theorem dX1_wonIn_1 : decode cX1_wonIn 1 = .ok (.iload_n 2, 1) := dk_28 (dk_at dksX1_wonIn_0 1 rfl rfl)
theorem dX1_wonIn_2 : decode cX1_wonIn 2 = .ok (.invokevirtual 199, 3) := dk_182 0 199 (dk_at dksX1_wonIn_0 2 rfl rfl)
theorem dX1_wonIn_5 : decode cX1_wonIn 5 = .ok (.pop, 1) := dk_87 (dk_at dksX1_wonIn_0 5 rfl rfl)
theorem dX1_wonIn_6 : decode cX1_wonIn 6 = .ok (.aload_n 1, 1) := dk_43 (dk_at dksX1_wonIn_0 6 rfl rfl)
theorem dX1_wonIn_7 : decode cX1_wonIn 7 = .ok (.aload_n 1, 1) := dk_43 (dk_at dksX1_wonIn_0 7 rfl rfl)
theorem dX1_wonIn_8 : decode cX1_wonIn 8 = .ok (.getfield 120, 3) := dk_180 0 120 (dk_at dksX1_wonIn_0 8 rfl rfl)
theorem dX1_wonIn_11 : decode cX1_wonIn 11 = .ok (.invokevirtual 113, 3) := dk_182 0 113 (dk_at dksX1_wonIn_0 11 rfl rfl)
theorem dX1_wonIn_14 : decode cX1_wonIn 14 = .ok (.ireturn, 1) := dk_172 (dk_at dksX1_wonIn_0 14 rfl rfl)
abbrev cX1_hub : ByteArray := prog_1_method_60_code
def yX1_hub : MethodName := ⟨RX1, "hub", "()I"⟩
def dkwX1_hub_3 : List UInt8 := [167, 0, 8, 29, 60, 21, 5, 61, 132, 3, 1, 167, 255, 181, 27, 172]
abbrev dktX1_hub_3 : List UInt8 := dkwX1_hub_3 ++ []
def dkwX1_hub_2 : List UInt8 := [21, 5, 25, 4, 21, 6, 46, 184, 1, 1, 54, 5, 132, 6, 1, 167, 255, 229, 21, 5, 28, 161, 0, 6]
abbrev dktX1_hub_2 : List UInt8 := dkwX1_hub_2 ++ dktX1_hub_3
def dkwX1_hub_1 : List UInt8 := [182, 0, 250, 58, 4, 3, 54, 5, 3, 54, 6, 21, 6, 42, 180, 0, 22, 182, 0, 92, 162, 0, 21]
abbrev dktX1_hub_1 : List UInt8 := dkwX1_hub_1 ++ dktX1_hub_2
def dkwX1_hub_0 : List UInt8 := [2, 60, 18, 249, 61, 3, 62, 29, 42, 180, 0, 22, 182, 0, 92, 162, 0, 70, 42, 180, 0, 22, 29, 3]
abbrev dktX1_hub_0 : List UInt8 := dkwX1_hub_0 ++ dktX1_hub_1
theorem dksX1_hub_0 : cX1_hub.data.toList.drop 0 = dktX1_hub_0 := by decide +kernel
theorem dksX1_hub_1 : cX1_hub.data.toList.drop 24 = dktX1_hub_1 := dk_seg dksX1_hub_0 24 rfl rfl
theorem dksX1_hub_2 : cX1_hub.data.toList.drop 47 = dktX1_hub_2 := dk_seg dksX1_hub_1 23 rfl rfl
theorem dksX1_hub_3 : cX1_hub.data.toList.drop 71 = dktX1_hub_3 := dk_seg dksX1_hub_2 24 rfl rfl
theorem dX1_hub_0 : decode cX1_hub 0 = .ok (.iconst (-1), 1) := dk_2 (dk_at dksX1_hub_0 0 rfl rfl)
theorem dX1_hub_1 : decode cX1_hub 1 = .ok (.istore_n 1, 1) := dk_60 (dk_at dksX1_hub_0 1 rfl rfl)
theorem dX1_hub_2 : decode cX1_hub 2 = .ok (.ldc 249, 2) := dk_18 249 (dk_at dksX1_hub_0 2 rfl rfl)
theorem dX1_hub_4 : decode cX1_hub 4 = .ok (.istore_n 2, 1) := dk_61 (dk_at dksX1_hub_0 4 rfl rfl)
theorem dX1_hub_5 : decode cX1_hub 5 = .ok (.iconst 0, 1) := dk_3 (dk_at dksX1_hub_0 5 rfl rfl)
theorem dX1_hub_6 : decode cX1_hub 6 = .ok (.istore_n 3, 1) := dk_62 (dk_at dksX1_hub_0 6 rfl rfl)
theorem dX1_hub_7 : decode cX1_hub 7 = .ok (.iload_n 3, 1) := dk_29 (dk_at dksX1_hub_0 7 rfl rfl)
theorem dX1_hub_8 : decode cX1_hub 8 = .ok (.aload_n 0, 1) := dk_42 (dk_at dksX1_hub_0 8 rfl rfl)
theorem dX1_hub_9 : decode cX1_hub 9 = .ok (.getfield 22, 3) := dk_180 0 22 (dk_at dksX1_hub_0 9 rfl rfl)
theorem dX1_hub_12 : decode cX1_hub 12 = .ok (.invokevirtual 92, 3) := dk_182 0 92 (dk_at dksX1_hub_0 12 rfl rfl)
theorem dX1_hub_15 : decode cX1_hub 15 = .ok (.if_icmp .ge 70, 3) := dk_162 0 70 (dk_at dksX1_hub_0 15 rfl rfl)
theorem dX1_hub_18 : decode cX1_hub 18 = .ok (.aload_n 0, 1) := dk_42 (dk_at dksX1_hub_0 18 rfl rfl)
theorem dX1_hub_19 : decode cX1_hub 19 = .ok (.getfield 22, 3) := dk_180 0 22 (dk_at dksX1_hub_0 19 rfl rfl)
theorem dX1_hub_22 : decode cX1_hub 22 = .ok (.iload_n 3, 1) := dk_29 (dk_at dksX1_hub_0 22 rfl rfl)
theorem dX1_hub_23 : decode cX1_hub 23 = .ok (.iconst 0, 1) := dk_3 (dk_at dksX1_hub_0 23 rfl rfl)
theorem dX1_hub_24 : decode cX1_hub 24 = .ok (.invokevirtual 250, 3) := dk_182 0 250 (dk_at dksX1_hub_1 0 rfl rfl)
theorem dX1_hub_27 : decode cX1_hub 27 = .ok (.astore 4, 2) := dk_58 4 (dk_at dksX1_hub_1 3 rfl rfl)
theorem dX1_hub_29 : decode cX1_hub 29 = .ok (.iconst 0, 1) := dk_3 (dk_at dksX1_hub_1 5 rfl rfl)
theorem dX1_hub_30 : decode cX1_hub 30 = .ok (.istore 5, 2) := dk_54 5 (dk_at dksX1_hub_1 6 rfl rfl)
theorem dX1_hub_32 : decode cX1_hub 32 = .ok (.iconst 0, 1) := dk_3 (dk_at dksX1_hub_1 8 rfl rfl)
theorem dX1_hub_33 : decode cX1_hub 33 = .ok (.istore 6, 2) := dk_54 6 (dk_at dksX1_hub_1 9 rfl rfl)
theorem dX1_hub_35 : decode cX1_hub 35 = .ok (.iload 6, 2) := dk_21 6 (dk_at dksX1_hub_1 11 rfl rfl)
theorem dX1_hub_37 : decode cX1_hub 37 = .ok (.aload_n 0, 1) := dk_42 (dk_at dksX1_hub_1 13 rfl rfl)
theorem dX1_hub_38 : decode cX1_hub 38 = .ok (.getfield 22, 3) := dk_180 0 22 (dk_at dksX1_hub_1 14 rfl rfl)
theorem dX1_hub_41 : decode cX1_hub 41 = .ok (.invokevirtual 92, 3) := dk_182 0 92 (dk_at dksX1_hub_1 17 rfl rfl)
theorem dX1_hub_44 : decode cX1_hub 44 = .ok (.if_icmp .ge 21, 3) := dk_162 0 21 (dk_at dksX1_hub_1 20 rfl rfl)
theorem dX1_hub_47 : decode cX1_hub 47 = .ok (.iload 5, 2) := dk_21 5 (dk_at dksX1_hub_2 0 rfl rfl)
theorem dX1_hub_49 : decode cX1_hub 49 = .ok (.aload 4, 2) := dk_25 4 (dk_at dksX1_hub_2 2 rfl rfl)
theorem dX1_hub_51 : decode cX1_hub 51 = .ok (.iload 6, 2) := dk_21 6 (dk_at dksX1_hub_2 4 rfl rfl)
theorem dX1_hub_53 : decode cX1_hub 53 = .ok (.iaload, 1) := dk_46 (dk_at dksX1_hub_2 6 rfl rfl)
theorem dX1_hub_54 : decode cX1_hub 54 = .ok (.invokestatic 257, 3) := dk_184 1 1 (dk_at dksX1_hub_2 7 rfl rfl)
theorem dX1_hub_57 : decode cX1_hub 57 = .ok (.istore 5, 2) := dk_54 5 (dk_at dksX1_hub_2 10 rfl rfl)
theorem dX1_hub_59 : decode cX1_hub 59 = .ok (.iinc 6 1, 3) := dk_132 6 1 (dk_at dksX1_hub_2 12 rfl rfl)
theorem dX1_hub_62 : decode cX1_hub 62 = .ok (.goto (-27), 3) := dk_167 255 229 (dk_at dksX1_hub_2 15 rfl rfl)
theorem dX1_hub_65 : decode cX1_hub 65 = .ok (.iload 5, 2) := dk_21 5 (dk_at dksX1_hub_2 18 rfl rfl)
theorem dX1_hub_67 : decode cX1_hub 67 = .ok (.iload_n 2, 1) := dk_28 (dk_at dksX1_hub_2 20 rfl rfl)
theorem dX1_hub_68 : decode cX1_hub 68 = .ok (.if_icmp .lt 6, 3) := dk_161 0 6 (dk_at dksX1_hub_2 21 rfl rfl)
theorem dX1_hub_71 : decode cX1_hub 71 = .ok (.goto 8, 3) := dk_167 0 8 (dk_at dksX1_hub_3 0 rfl rfl)
theorem dX1_hub_74 : decode cX1_hub 74 = .ok (.iload_n 3, 1) := dk_29 (dk_at dksX1_hub_3 3 rfl rfl)
theorem dX1_hub_75 : decode cX1_hub 75 = .ok (.istore_n 1, 1) := dk_60 (dk_at dksX1_hub_3 4 rfl rfl)
theorem dX1_hub_76 : decode cX1_hub 76 = .ok (.iload 5, 2) := dk_21 5 (dk_at dksX1_hub_3 5 rfl rfl)
theorem dX1_hub_78 : decode cX1_hub 78 = .ok (.istore_n 2, 1) := dk_61 (dk_at dksX1_hub_3 7 rfl rfl)
theorem dX1_hub_79 : decode cX1_hub 79 = .ok (.iinc 3 1, 3) := dk_132 3 1 (dk_at dksX1_hub_3 8 rfl rfl)
theorem dX1_hub_82 : decode cX1_hub 82 = .ok (.goto (-75), 3) := dk_167 255 181 (dk_at dksX1_hub_3 11 rfl rfl)
theorem dX1_hub_85 : decode cX1_hub 85 = .ok (.iload_n 1, 1) := dk_27 (dk_at dksX1_hub_3 14 rfl rfl)
theorem dX1_hub_86 : decode cX1_hub 86 = .ok (.ireturn, 1) := dk_172 (dk_at dksX1_hub_3 15 rfl rfl)
abbrev cX1_spoilt : ByteArray := prog_1_method_67_code
def yX1_spoilt : MethodName := ⟨RX1, "spoilt", "()I"⟩
def dkwX1_spoilt_3 : List UInt8 := [46, 104, 163, 0, 9, 27, 4, 28, 120, 128, 60, 132, 2, 1, 167, 255, 177, 27, 172]
abbrev dktX1_spoilt_3 : List UInt8 := dkwX1_spoilt_3 ++ []
def dkwX1_spoilt_2 : List UInt8 := [160, 0, 7, 3, 167, 0, 22, 42, 180, 0, 31, 180, 0, 179, 28, 46, 42, 180, 0, 31, 180, 0, 214, 28]
abbrev dktX1_spoilt_2 : List UInt8 := dkwX1_spoilt_2 ++ dktX1_spoilt_3
def dkwX1_spoilt_1 : List UInt8 := [153, 0, 57, 42, 180, 0, 31, 180, 0, 170, 28, 46, 42, 180, 0, 31, 180, 0, 176, 28, 46, 4]
abbrev dktX1_spoilt_1 : List UInt8 := dkwX1_spoilt_1 ++ dktX1_spoilt_2
def dkwX1_spoilt_0 : List UInt8 := [3, 60, 3, 61, 28, 42, 180, 0, 22, 180, 0, 104, 162, 0, 74, 42, 180, 0, 31, 28, 182, 0, 127]
abbrev dktX1_spoilt_0 : List UInt8 := dkwX1_spoilt_0 ++ dktX1_spoilt_1
theorem dksX1_spoilt_0 : cX1_spoilt.data.toList.drop 0 = dktX1_spoilt_0 := by decide +kernel
theorem dksX1_spoilt_1 : cX1_spoilt.data.toList.drop 23 = dktX1_spoilt_1 := dk_seg dksX1_spoilt_0 23 rfl rfl
theorem dksX1_spoilt_2 : cX1_spoilt.data.toList.drop 45 = dktX1_spoilt_2 := dk_seg dksX1_spoilt_1 22 rfl rfl
theorem dksX1_spoilt_3 : cX1_spoilt.data.toList.drop 69 = dktX1_spoilt_3 := dk_seg dksX1_spoilt_2 24 rfl rfl
theorem dX1_spoilt_0 : decode cX1_spoilt 0 = .ok (.iconst 0, 1) := dk_3 (dk_at dksX1_spoilt_0 0 rfl rfl)
theorem dX1_spoilt_1 : decode cX1_spoilt 1 = .ok (.istore_n 1, 1) := dk_60 (dk_at dksX1_spoilt_0 1 rfl rfl)
theorem dX1_spoilt_2 : decode cX1_spoilt 2 = .ok (.iconst 0, 1) := dk_3 (dk_at dksX1_spoilt_0 2 rfl rfl)
theorem dX1_spoilt_3 : decode cX1_spoilt 3 = .ok (.istore_n 2, 1) := dk_61 (dk_at dksX1_spoilt_0 3 rfl rfl)
theorem dX1_spoilt_4 : decode cX1_spoilt 4 = .ok (.iload_n 2, 1) := dk_28 (dk_at dksX1_spoilt_0 4 rfl rfl)
theorem dX1_spoilt_5 : decode cX1_spoilt 5 = .ok (.aload_n 0, 1) := dk_42 (dk_at dksX1_spoilt_0 5 rfl rfl)
theorem dX1_spoilt_6 : decode cX1_spoilt 6 = .ok (.getfield 22, 3) := dk_180 0 22 (dk_at dksX1_spoilt_0 6 rfl rfl)
theorem dX1_spoilt_9 : decode cX1_spoilt 9 = .ok (.getfield 104, 3) := dk_180 0 104 (dk_at dksX1_spoilt_0 9 rfl rfl)
theorem dX1_spoilt_12 : decode cX1_spoilt 12 = .ok (.if_icmp .ge 74, 3) := dk_162 0 74 (dk_at dksX1_spoilt_0 12 rfl rfl)
theorem dX1_spoilt_15 : decode cX1_spoilt 15 = .ok (.aload_n 0, 1) := dk_42 (dk_at dksX1_spoilt_0 15 rfl rfl)
theorem dX1_spoilt_16 : decode cX1_spoilt 16 = .ok (.getfield 31, 3) := dk_180 0 31 (dk_at dksX1_spoilt_0 16 rfl rfl)
theorem dX1_spoilt_19 : decode cX1_spoilt 19 = .ok (.iload_n 2, 1) := dk_28 (dk_at dksX1_spoilt_0 19 rfl rfl)
theorem dX1_spoilt_20 : decode cX1_spoilt 20 = .ok (.invokevirtual 127, 3) := dk_182 0 127 (dk_at dksX1_spoilt_0 20 rfl rfl)
theorem dX1_spoilt_23 : decode cX1_spoilt 23 = .ok (.ifCond .eq 57, 3) := dk_153 0 57 (dk_at dksX1_spoilt_1 0 rfl rfl)
theorem dX1_spoilt_26 : decode cX1_spoilt 26 = .ok (.aload_n 0, 1) := dk_42 (dk_at dksX1_spoilt_1 3 rfl rfl)
theorem dX1_spoilt_27 : decode cX1_spoilt 27 = .ok (.getfield 31, 3) := dk_180 0 31 (dk_at dksX1_spoilt_1 4 rfl rfl)
theorem dX1_spoilt_30 : decode cX1_spoilt 30 = .ok (.getfield 170, 3) := dk_180 0 170 (dk_at dksX1_spoilt_1 7 rfl rfl)
theorem dX1_spoilt_33 : decode cX1_spoilt 33 = .ok (.iload_n 2, 1) := dk_28 (dk_at dksX1_spoilt_1 10 rfl rfl)
theorem dX1_spoilt_34 : decode cX1_spoilt 34 = .ok (.iaload, 1) := dk_46 (dk_at dksX1_spoilt_1 11 rfl rfl)
theorem dX1_spoilt_35 : decode cX1_spoilt 35 = .ok (.aload_n 0, 1) := dk_42 (dk_at dksX1_spoilt_1 12 rfl rfl)
theorem dX1_spoilt_36 : decode cX1_spoilt 36 = .ok (.getfield 31, 3) := dk_180 0 31 (dk_at dksX1_spoilt_1 13 rfl rfl)
theorem dX1_spoilt_39 : decode cX1_spoilt 39 = .ok (.getfield 176, 3) := dk_180 0 176 (dk_at dksX1_spoilt_1 16 rfl rfl)
theorem dX1_spoilt_42 : decode cX1_spoilt 42 = .ok (.iload_n 2, 1) := dk_28 (dk_at dksX1_spoilt_1 19 rfl rfl)
theorem dX1_spoilt_43 : decode cX1_spoilt 43 = .ok (.iaload, 1) := dk_46 (dk_at dksX1_spoilt_1 20 rfl rfl)
theorem dX1_spoilt_44 : decode cX1_spoilt 44 = .ok (.iconst 1, 1) := dk_4 (dk_at dksX1_spoilt_1 21 rfl rfl)
theorem dX1_spoilt_45 : decode cX1_spoilt 45 = .ok (.if_icmp .ne 7, 3) := dk_160 0 7 (dk_at dksX1_spoilt_2 0 rfl rfl)
theorem dX1_spoilt_48 : decode cX1_spoilt 48 = .ok (.iconst 0, 1) := dk_3 (dk_at dksX1_spoilt_2 3 rfl rfl)
theorem dX1_spoilt_49 : decode cX1_spoilt 49 = .ok (.goto 22, 3) := dk_167 0 22 (dk_at dksX1_spoilt_2 4 rfl rfl)
theorem dX1_spoilt_52 : decode cX1_spoilt 52 = .ok (.aload_n 0, 1) := dk_42 (dk_at dksX1_spoilt_2 7 rfl rfl)
theorem dX1_spoilt_53 : decode cX1_spoilt 53 = .ok (.getfield 31, 3) := dk_180 0 31 (dk_at dksX1_spoilt_2 8 rfl rfl)
theorem dX1_spoilt_56 : decode cX1_spoilt 56 = .ok (.getfield 179, 3) := dk_180 0 179 (dk_at dksX1_spoilt_2 11 rfl rfl)
theorem dX1_spoilt_59 : decode cX1_spoilt 59 = .ok (.iload_n 2, 1) := dk_28 (dk_at dksX1_spoilt_2 14 rfl rfl)
theorem dX1_spoilt_60 : decode cX1_spoilt 60 = .ok (.iaload, 1) := dk_46 (dk_at dksX1_spoilt_2 15 rfl rfl)
theorem dX1_spoilt_61 : decode cX1_spoilt 61 = .ok (.aload_n 0, 1) := dk_42 (dk_at dksX1_spoilt_2 16 rfl rfl)
theorem dX1_spoilt_62 : decode cX1_spoilt 62 = .ok (.getfield 31, 3) := dk_180 0 31 (dk_at dksX1_spoilt_2 17 rfl rfl)
theorem dX1_spoilt_65 : decode cX1_spoilt 65 = .ok (.getfield 214, 3) := dk_180 0 214 (dk_at dksX1_spoilt_2 20 rfl rfl)
theorem dX1_spoilt_68 : decode cX1_spoilt 68 = .ok (.iload_n 2, 1) := dk_28 (dk_at dksX1_spoilt_2 23 rfl rfl)
theorem dX1_spoilt_69 : decode cX1_spoilt 69 = .ok (.iaload, 1) := dk_46 (dk_at dksX1_spoilt_3 0 rfl rfl)
theorem dX1_spoilt_70 : decode cX1_spoilt 70 = .ok (.imul, 1) := dk_104 (dk_at dksX1_spoilt_3 1 rfl rfl)
theorem dX1_spoilt_71 : decode cX1_spoilt 71 = .ok (.if_icmp .gt 9, 3) := dk_163 0 9 (dk_at dksX1_spoilt_3 2 rfl rfl)
theorem dX1_spoilt_74 : decode cX1_spoilt 74 = .ok (.iload_n 1, 1) := dk_27 (dk_at dksX1_spoilt_3 5 rfl rfl)
theorem dX1_spoilt_75 : decode cX1_spoilt 75 = .ok (.iconst 1, 1) := dk_4 (dk_at dksX1_spoilt_3 6 rfl rfl)
theorem dX1_spoilt_76 : decode cX1_spoilt 76 = .ok (.iload_n 2, 1) := dk_28 (dk_at dksX1_spoilt_3 7 rfl rfl)
theorem dX1_spoilt_77 : decode cX1_spoilt 77 = .ok (.ishl, 1) := dk_120 (dk_at dksX1_spoilt_3 8 rfl rfl)
theorem dX1_spoilt_78 : decode cX1_spoilt 78 = .ok (.ior, 1) := dk_128 (dk_at dksX1_spoilt_3 9 rfl rfl)
theorem dX1_spoilt_79 : decode cX1_spoilt 79 = .ok (.istore_n 1, 1) := dk_60 (dk_at dksX1_spoilt_3 10 rfl rfl)
theorem dX1_spoilt_80 : decode cX1_spoilt 80 = .ok (.iinc 2 1, 3) := dk_132 2 1 (dk_at dksX1_spoilt_3 11 rfl rfl)
theorem dX1_spoilt_83 : decode cX1_spoilt 83 = .ok (.goto (-79), 3) := dk_167 255 177 (dk_at dksX1_spoilt_3 14 rfl rfl)
theorem dX1_spoilt_86 : decode cX1_spoilt 86 = .ok (.iload_n 1, 1) := dk_27 (dk_at dksX1_spoilt_3 17 rfl rfl)
theorem dX1_spoilt_87 : decode cX1_spoilt 87 = .ok (.ireturn, 1) := dk_172 (dk_at dksX1_spoilt_3 18 rfl rfl)
abbrev cX1_image : ByteArray := prog_1_method_68_code
def yX1_image : MethodName := ⟨RX1, "image", "()V"⟩
def dkwX1_image_1 : List UInt8 := [181, 1, 92, 42, 187, 0, 46, 89, 42, 180, 0, 53, 183, 1, 89, 181, 1, 95, 177]
abbrev dktX1_image_1 : List UInt8 := dkwX1_image_1 ++ []
def dkwX1_image_0 : List UInt8 := [42, 42, 180, 0, 31, 182, 0, 182, 181, 0, 89, 42, 187, 0, 46, 89, 42, 180, 0, 49, 183, 1, 89]
abbrev dktX1_image_0 : List UInt8 := dkwX1_image_0 ++ dktX1_image_1
theorem dksX1_image_0 : cX1_image.data.toList.drop 0 = dktX1_image_0 := by decide +kernel
theorem dksX1_image_1 : cX1_image.data.toList.drop 23 = dktX1_image_1 := dk_seg dksX1_image_0 23 rfl rfl
theorem dX1_image_0 : decode cX1_image 0 = .ok (.aload_n 0, 1) := dk_42 (dk_at dksX1_image_0 0 rfl rfl)
theorem dX1_image_1 : decode cX1_image 1 = .ok (.aload_n 0, 1) := dk_42 (dk_at dksX1_image_0 1 rfl rfl)
theorem dX1_image_2 : decode cX1_image 2 = .ok (.getfield 31, 3) := dk_180 0 31 (dk_at dksX1_image_0 2 rfl rfl)
theorem dX1_image_5 : decode cX1_image 5 = .ok (.invokevirtual 182, 3) := dk_182 0 182 (dk_at dksX1_image_0 5 rfl rfl)
theorem dX1_image_8 : decode cX1_image 8 = .ok (.putfield 89, 3) := dk_181 0 89 (dk_at dksX1_image_0 8 rfl rfl)
theorem dX1_image_11 : decode cX1_image 11 = .ok (.aload_n 0, 1) := dk_42 (dk_at dksX1_image_0 11 rfl rfl)
theorem dX1_image_12 : decode cX1_image 12 = .ok (.new 46, 3) := dk_187 0 46 (dk_at dksX1_image_0 12 rfl rfl)
theorem dX1_image_15 : decode cX1_image 15 = .ok (.dup, 1) := dk_89 (dk_at dksX1_image_0 15 rfl rfl)
theorem dX1_image_16 : decode cX1_image 16 = .ok (.aload_n 0, 1) := dk_42 (dk_at dksX1_image_0 16 rfl rfl)
theorem dX1_image_17 : decode cX1_image 17 = .ok (.getfield 49, 3) := dk_180 0 49 (dk_at dksX1_image_0 17 rfl rfl)
theorem dX1_image_20 : decode cX1_image 20 = .ok (.invokespecial 345, 3) := dk_183 1 89 (dk_at dksX1_image_0 20 rfl rfl)
theorem dX1_image_23 : decode cX1_image 23 = .ok (.putfield 348, 3) := dk_181 1 92 (dk_at dksX1_image_1 0 rfl rfl)
theorem dX1_image_26 : decode cX1_image 26 = .ok (.aload_n 0, 1) := dk_42 (dk_at dksX1_image_1 3 rfl rfl)
theorem dX1_image_27 : decode cX1_image 27 = .ok (.new 46, 3) := dk_187 0 46 (dk_at dksX1_image_1 4 rfl rfl)
theorem dX1_image_30 : decode cX1_image 30 = .ok (.dup, 1) := dk_89 (dk_at dksX1_image_1 7 rfl rfl)
theorem dX1_image_31 : decode cX1_image 31 = .ok (.aload_n 0, 1) := dk_42 (dk_at dksX1_image_1 8 rfl rfl)
theorem dX1_image_32 : decode cX1_image 32 = .ok (.getfield 53, 3) := dk_180 0 53 (dk_at dksX1_image_1 9 rfl rfl)
theorem dX1_image_35 : decode cX1_image 35 = .ok (.invokespecial 345, 3) := dk_183 1 89 (dk_at dksX1_image_1 12 rfl rfl)
theorem dX1_image_38 : decode cX1_image 38 = .ok (.putfield 351, 3) := dk_181 1 95 (dk_at dksX1_image_1 15 rfl rfl)
theorem dX1_image_41 : decode cX1_image 41 = .ok (.return_, 1) := dk_177 (dk_at dksX1_image_1 18 rfl rfl)
abbrev cX1_restore : ByteArray := prog_1_method_69_code
def yX1_restore : MethodName := ⟨RX1, "restore", "()Z"⟩
def dkwX1_restore_2 : List UInt8 := [181, 0, 53, 4, 172]
abbrev dktX1_restore_2 : List UInt8 := dkwX1_restore_2 ++ []
def dkwX1_restore_1 : List UInt8 := [89, 42, 180, 1, 92, 183, 1, 89, 181, 0, 49, 42, 187, 0, 46, 89, 42, 180, 1, 95, 183, 1, 89]
abbrev dktX1_restore_1 : List UInt8 := dkwX1_restore_1 ++ dktX1_restore_2
def dkwX1_restore_0 : List UInt8 := [42, 180, 0, 89, 199, 0, 5, 3, 172, 42, 42, 180, 0, 89, 182, 0, 182, 181, 0, 31, 42, 187, 0, 46]
abbrev dktX1_restore_0 : List UInt8 := dkwX1_restore_0 ++ dktX1_restore_1
theorem dksX1_restore_0 : cX1_restore.data.toList.drop 0 = dktX1_restore_0 := by decide +kernel
theorem dksX1_restore_1 : cX1_restore.data.toList.drop 24 = dktX1_restore_1 := dk_seg dksX1_restore_0 24 rfl rfl
theorem dksX1_restore_2 : cX1_restore.data.toList.drop 47 = dktX1_restore_2 := dk_seg dksX1_restore_1 23 rfl rfl
theorem dX1_restore_0 : decode cX1_restore 0 = .ok (.aload_n 0, 1) := dk_42 (dk_at dksX1_restore_0 0 rfl rfl)
theorem dX1_restore_1 : decode cX1_restore 1 = .ok (.getfield 89, 3) := dk_180 0 89 (dk_at dksX1_restore_0 1 rfl rfl)
theorem dX1_restore_4 : decode cX1_restore 4 = .ok (.ifnonnull 5, 3) := dk_199 0 5 (dk_at dksX1_restore_0 4 rfl rfl)
theorem dX1_restore_7 : decode cX1_restore 7 = .ok (.iconst 0, 1) := dk_3 (dk_at dksX1_restore_0 7 rfl rfl)
theorem dX1_restore_8 : decode cX1_restore 8 = .ok (.ireturn, 1) := dk_172 (dk_at dksX1_restore_0 8 rfl rfl)
theorem dX1_restore_9 : decode cX1_restore 9 = .ok (.aload_n 0, 1) := dk_42 (dk_at dksX1_restore_0 9 rfl rfl)
theorem dX1_restore_10 : decode cX1_restore 10 = .ok (.aload_n 0, 1) := dk_42 (dk_at dksX1_restore_0 10 rfl rfl)
theorem dX1_restore_11 : decode cX1_restore 11 = .ok (.getfield 89, 3) := dk_180 0 89 (dk_at dksX1_restore_0 11 rfl rfl)
theorem dX1_restore_14 : decode cX1_restore 14 = .ok (.invokevirtual 182, 3) := dk_182 0 182 (dk_at dksX1_restore_0 14 rfl rfl)
theorem dX1_restore_17 : decode cX1_restore 17 = .ok (.putfield 31, 3) := dk_181 0 31 (dk_at dksX1_restore_0 17 rfl rfl)
theorem dX1_restore_20 : decode cX1_restore 20 = .ok (.aload_n 0, 1) := dk_42 (dk_at dksX1_restore_0 20 rfl rfl)
theorem dX1_restore_21 : decode cX1_restore 21 = .ok (.new 46, 3) := dk_187 0 46 (dk_at dksX1_restore_0 21 rfl rfl)
theorem dX1_restore_24 : decode cX1_restore 24 = .ok (.dup, 1) := dk_89 (dk_at dksX1_restore_1 0 rfl rfl)
theorem dX1_restore_25 : decode cX1_restore 25 = .ok (.aload_n 0, 1) := dk_42 (dk_at dksX1_restore_1 1 rfl rfl)
theorem dX1_restore_26 : decode cX1_restore 26 = .ok (.getfield 348, 3) := dk_180 1 92 (dk_at dksX1_restore_1 2 rfl rfl)
theorem dX1_restore_29 : decode cX1_restore 29 = .ok (.invokespecial 345, 3) := dk_183 1 89 (dk_at dksX1_restore_1 5 rfl rfl)
theorem dX1_restore_32 : decode cX1_restore 32 = .ok (.putfield 49, 3) := dk_181 0 49 (dk_at dksX1_restore_1 8 rfl rfl)
theorem dX1_restore_35 : decode cX1_restore 35 = .ok (.aload_n 0, 1) := dk_42 (dk_at dksX1_restore_1 11 rfl rfl)
theorem dX1_restore_36 : decode cX1_restore 36 = .ok (.new 46, 3) := dk_187 0 46 (dk_at dksX1_restore_1 12 rfl rfl)
theorem dX1_restore_39 : decode cX1_restore 39 = .ok (.dup, 1) := dk_89 (dk_at dksX1_restore_1 15 rfl rfl)
theorem dX1_restore_40 : decode cX1_restore 40 = .ok (.aload_n 0, 1) := dk_42 (dk_at dksX1_restore_1 16 rfl rfl)
theorem dX1_restore_41 : decode cX1_restore 41 = .ok (.getfield 351, 3) := dk_180 1 95 (dk_at dksX1_restore_1 17 rfl rfl)
theorem dX1_restore_44 : decode cX1_restore 44 = .ok (.invokespecial 345, 3) := dk_183 1 89 (dk_at dksX1_restore_1 20 rfl rfl)
theorem dX1_restore_47 : decode cX1_restore 47 = .ok (.putfield 53, 3) := dk_181 0 53 (dk_at dksX1_restore_2 0 rfl rfl)
theorem dX1_restore_50 : decode cX1_restore 50 = .ok (.iconst 1, 1) := dk_4 (dk_at dksX1_restore_2 3 rfl rfl)
theorem dX1_restore_51 : decode cX1_restore 51 = .ok (.ireturn, 1) := dk_172 (dk_at dksX1_restore_2 4 rfl rfl)
abbrev cX1_province : ByteArray := prog_1_method_7_code
def yX1_province : MethodName := ⟨RX1, "province", "(I)I"⟩
def dkwX1_province_4 : List UInt8 := [181, 0, 49, 42, 187, 0, 46, 89, 183, 0, 48, 181, 0, 53, 42, 1, 181, 0, 89, 3, 172]
abbrev dktX1_province_4 : List UInt8 := dkwX1_province_4 ++ []
def dkwX1_province_3 : List UInt8 := [79, 45, 180, 0, 83, 172, 42, 44, 180, 0, 86, 181, 0, 31, 42, 187, 0, 46, 89, 183, 0, 48]
abbrev dktX1_province_3 : List UInt8 := dkwX1_province_3 ++ dktX1_province_4
def dkwX1_province_2 : List UInt8 := [181, 0, 22, 167, 0, 27, 78, 42, 44, 180, 0, 80, 181, 0, 39, 42, 180, 0, 43, 3, 92, 46, 4, 96]
abbrev dktX1_province_2 : List UInt8 := dkwX1_province_2 ++ dktX1_province_3
def dkwX1_province_1 : List UInt8 := [181, 0, 62, 42, 2, 181, 0, 39, 187, 0, 69, 89, 42, 27, 183, 0, 71, 77, 42, 44, 182, 0, 74]
abbrev dktX1_province_1 : List UInt8 := dkwX1_province_1 ++ dktX1_province_2
def dkwX1_province_0 : List UInt8 := [27, 155, 0, 15, 27, 42, 180, 0, 62, 163, 0, 7, 4, 167, 0, 4, 3, 184, 0, 65, 42, 3]
abbrev dktX1_province_0 : List UInt8 := dkwX1_province_0 ++ dktX1_province_1
theorem dksX1_province_0 : cX1_province.data.toList.drop 0 = dktX1_province_0 := by decide +kernel
theorem dksX1_province_1 : cX1_province.data.toList.drop 22 = dktX1_province_1 := dk_seg dksX1_province_0 22 rfl rfl
theorem dksX1_province_2 : cX1_province.data.toList.drop 45 = dktX1_province_2 := dk_seg dksX1_province_1 23 rfl rfl
theorem dksX1_province_3 : cX1_province.data.toList.drop 69 = dktX1_province_3 := dk_seg dksX1_province_2 24 rfl rfl
theorem dksX1_province_4 : cX1_province.data.toList.drop 91 = dktX1_province_4 := dk_seg dksX1_province_3 22 rfl rfl
theorem dX1_province_0 : decode cX1_province 0 = .ok (.iload_n 1, 1) := dk_27 (dk_at dksX1_province_0 0 rfl rfl)
theorem dX1_province_1 : decode cX1_province 1 = .ok (.ifCond .lt 15, 3) := dk_155 0 15 (dk_at dksX1_province_0 1 rfl rfl)
theorem dX1_province_4 : decode cX1_province 4 = .ok (.iload_n 1, 1) := dk_27 (dk_at dksX1_province_0 4 rfl rfl)
theorem dX1_province_5 : decode cX1_province 5 = .ok (.aload_n 0, 1) := dk_42 (dk_at dksX1_province_0 5 rfl rfl)
theorem dX1_province_6 : decode cX1_province 6 = .ok (.getfield 62, 3) := dk_180 0 62 (dk_at dksX1_province_0 6 rfl rfl)
theorem dX1_province_9 : decode cX1_province 9 = .ok (.if_icmp .gt 7, 3) := dk_163 0 7 (dk_at dksX1_province_0 9 rfl rfl)
theorem dX1_province_12 : decode cX1_province 12 = .ok (.iconst 1, 1) := dk_4 (dk_at dksX1_province_0 12 rfl rfl)
theorem dX1_province_13 : decode cX1_province 13 = .ok (.goto 4, 3) := dk_167 0 4 (dk_at dksX1_province_0 13 rfl rfl)
theorem dX1_province_16 : decode cX1_province 16 = .ok (.iconst 0, 1) := dk_3 (dk_at dksX1_province_0 16 rfl rfl)
theorem dX1_province_17 : decode cX1_province 17 = .ok (.invokestatic 65, 3) := dk_184 0 65 (dk_at dksX1_province_0 17 rfl rfl)
theorem dX1_province_20 : decode cX1_province 20 = .ok (.aload_n 0, 1) := dk_42 (dk_at dksX1_province_0 20 rfl rfl)
theorem dX1_province_21 : decode cX1_province 21 = .ok (.iconst 0, 1) := dk_3 (dk_at dksX1_province_0 21 rfl rfl)
theorem dX1_province_22 : decode cX1_province 22 = .ok (.putfield 62, 3) := dk_181 0 62 (dk_at dksX1_province_1 0 rfl rfl)
theorem dX1_province_25 : decode cX1_province 25 = .ok (.aload_n 0, 1) := dk_42 (dk_at dksX1_province_1 3 rfl rfl)
theorem dX1_province_26 : decode cX1_province 26 = .ok (.iconst (-1), 1) := dk_2 (dk_at dksX1_province_1 4 rfl rfl)
theorem dX1_province_27 : decode cX1_province 27 = .ok (.putfield 39, 3) := dk_181 0 39 (dk_at dksX1_province_1 5 rfl rfl)
theorem dX1_province_30 : decode cX1_province 30 = .ok (.new 69, 3) := dk_187 0 69 (dk_at dksX1_province_1 8 rfl rfl)
theorem dX1_province_33 : decode cX1_province 33 = .ok (.dup, 1) := dk_89 (dk_at dksX1_province_1 11 rfl rfl)
theorem dX1_province_34 : decode cX1_province 34 = .ok (.aload_n 0, 1) := dk_42 (dk_at dksX1_province_1 12 rfl rfl)
theorem dX1_province_35 : decode cX1_province 35 = .ok (.iload_n 1, 1) := dk_27 (dk_at dksX1_province_1 13 rfl rfl)
theorem dX1_province_36 : decode cX1_province 36 = .ok (.invokespecial 71, 3) := dk_183 0 71 (dk_at dksX1_province_1 14 rfl rfl)
theorem dX1_province_39 : decode cX1_province 39 = .ok (.astore_n 2, 1) := dk_77 (dk_at dksX1_province_1 17 rfl rfl)
theorem dX1_province_40 : decode cX1_province 40 = .ok (.aload_n 0, 1) := dk_42 (dk_at dksX1_province_1 18 rfl rfl)
theorem dX1_province_41 : decode cX1_province 41 = .ok (.aload_n 2, 1) := dk_44 (dk_at dksX1_province_1 19 rfl rfl)
theorem dX1_province_42 : decode cX1_province 42 = .ok (.invokevirtual 74, 3) := dk_182 0 74 (dk_at dksX1_province_1 20 rfl rfl)
theorem dX1_province_45 : decode cX1_province 45 = .ok (.putfield 22, 3) := dk_181 0 22 (dk_at dksX1_province_2 0 rfl rfl)
theorem dX1_province_48 : decode cX1_province 48 = .ok (.goto 27, 3) := dk_167 0 27 (dk_at dksX1_province_2 3 rfl rfl)
theorem dX1_province_51 : decode cX1_province 51 = .ok (.astore_n 3, 1) := dk_78 (dk_at dksX1_province_2 6 rfl rfl)
theorem dX1_province_52 : decode cX1_province 52 = .ok (.aload_n 0, 1) := dk_42 (dk_at dksX1_province_2 7 rfl rfl)
theorem dX1_province_53 : decode cX1_province 53 = .ok (.aload_n 2, 1) := dk_44 (dk_at dksX1_province_2 8 rfl rfl)
theorem dX1_province_54 : decode cX1_province 54 = .ok (.getfield 80, 3) := dk_180 0 80 (dk_at dksX1_province_2 9 rfl rfl)
theorem dX1_province_57 : decode cX1_province 57 = .ok (.putfield 39, 3) := dk_181 0 39 (dk_at dksX1_province_2 12 rfl rfl)
theorem dX1_province_60 : decode cX1_province 60 = .ok (.aload_n 0, 1) := dk_42 (dk_at dksX1_province_2 15 rfl rfl)
theorem dX1_province_61 : decode cX1_province 61 = .ok (.getfield 43, 3) := dk_180 0 43 (dk_at dksX1_province_2 16 rfl rfl)
theorem dX1_province_64 : decode cX1_province 64 = .ok (.iconst 0, 1) := dk_3 (dk_at dksX1_province_2 19 rfl rfl)
theorem dX1_province_65 : decode cX1_province 65 = .ok (.dup2, 1) := dk_92 (dk_at dksX1_province_2 20 rfl rfl)
theorem dX1_province_66 : decode cX1_province 66 = .ok (.iaload, 1) := dk_46 (dk_at dksX1_province_2 21 rfl rfl)
theorem dX1_province_67 : decode cX1_province 67 = .ok (.iconst 1, 1) := dk_4 (dk_at dksX1_province_2 22 rfl rfl)
theorem dX1_province_68 : decode cX1_province 68 = .ok (.iadd, 1) := dk_96 (dk_at dksX1_province_2 23 rfl rfl)
theorem dX1_province_69 : decode cX1_province 69 = .ok (.iastore, 1) := dk_79 (dk_at dksX1_province_3 0 rfl rfl)
theorem dX1_province_70 : decode cX1_province 70 = .ok (.aload_n 3, 1) := dk_45 (dk_at dksX1_province_3 1 rfl rfl)
theorem dX1_province_71 : decode cX1_province 71 = .ok (.getfield 83, 3) := dk_180 0 83 (dk_at dksX1_province_3 2 rfl rfl)
theorem dX1_province_74 : decode cX1_province 74 = .ok (.ireturn, 1) := dk_172 (dk_at dksX1_province_3 5 rfl rfl)
theorem dX1_province_75 : decode cX1_province 75 = .ok (.aload_n 0, 1) := dk_42 (dk_at dksX1_province_3 6 rfl rfl)
theorem dX1_province_76 : decode cX1_province 76 = .ok (.aload_n 2, 1) := dk_44 (dk_at dksX1_province_3 7 rfl rfl)
theorem dX1_province_77 : decode cX1_province 77 = .ok (.getfield 86, 3) := dk_180 0 86 (dk_at dksX1_province_3 8 rfl rfl)
theorem dX1_province_80 : decode cX1_province 80 = .ok (.putfield 31, 3) := dk_181 0 31 (dk_at dksX1_province_3 11 rfl rfl)
theorem dX1_province_83 : decode cX1_province 83 = .ok (.aload_n 0, 1) := dk_42 (dk_at dksX1_province_3 14 rfl rfl)
theorem dX1_province_84 : decode cX1_province 84 = .ok (.new 46, 3) := dk_187 0 46 (dk_at dksX1_province_3 15 rfl rfl)
theorem dX1_province_87 : decode cX1_province 87 = .ok (.dup, 1) := dk_89 (dk_at dksX1_province_3 18 rfl rfl)
theorem dX1_province_88 : decode cX1_province 88 = .ok (.invokespecial 48, 3) := dk_183 0 48 (dk_at dksX1_province_3 19 rfl rfl)
theorem dX1_province_91 : decode cX1_province 91 = .ok (.putfield 49, 3) := dk_181 0 49 (dk_at dksX1_province_4 0 rfl rfl)
theorem dX1_province_94 : decode cX1_province 94 = .ok (.aload_n 0, 1) := dk_42 (dk_at dksX1_province_4 3 rfl rfl)
theorem dX1_province_95 : decode cX1_province 95 = .ok (.new 46, 3) := dk_187 0 46 (dk_at dksX1_province_4 4 rfl rfl)
theorem dX1_province_98 : decode cX1_province 98 = .ok (.dup, 1) := dk_89 (dk_at dksX1_province_4 7 rfl rfl)
theorem dX1_province_99 : decode cX1_province 99 = .ok (.invokespecial 48, 3) := dk_183 0 48 (dk_at dksX1_province_4 8 rfl rfl)
theorem dX1_province_102 : decode cX1_province 102 = .ok (.putfield 53, 3) := dk_181 0 53 (dk_at dksX1_province_4 11 rfl rfl)
theorem dX1_province_105 : decode cX1_province 105 = .ok (.aload_n 0, 1) := dk_42 (dk_at dksX1_province_4 14 rfl rfl)
theorem dX1_province_106 : decode cX1_province 106 = .ok (.aconst_null, 1) := dk_1 (dk_at dksX1_province_4 15 rfl rfl)
theorem dX1_province_107 : decode cX1_province 107 = .ok (.putfield 89, 3) := dk_181 0 89 (dk_at dksX1_province_4 16 rfl rfl)
theorem dX1_province_110 : decode cX1_province 110 = .ok (.iconst 0, 1) := dk_3 (dk_at dksX1_province_4 19 rfl rfl)
theorem dX1_province_111 : decode cX1_province 111 = .ok (.ireturn, 1) := dk_172 (dk_at dksX1_province_4 20 rfl rfl)
abbrev cX1_right : ByteArray := prog_1_method_3_code
def yX1_right : MethodName := ⟨RX1, "right", "(Z)V"⟩
def dkwX1_right_0 : List UInt8 := [26, 154, 0, 11, 187, 0, 7, 89, 183, 0, 9, 191, 177]
abbrev dktX1_right_0 : List UInt8 := dkwX1_right_0 ++ []
theorem dksX1_right_0 : cX1_right.data.toList.drop 0 = dktX1_right_0 := by decide +kernel
theorem dX1_right_0 : decode cX1_right 0 = .ok (.iload_n 0, 1) := dk_26 (dk_at dksX1_right_0 0 rfl rfl)
theorem dX1_right_1 : decode cX1_right 1 = .ok (.ifCond .ne 11, 3) := dk_154 0 11 (dk_at dksX1_right_0 1 rfl rfl)
theorem dX1_right_4 : decode cX1_right 4 = .ok (.new 7, 3) := dk_187 0 7 (dk_at dksX1_right_0 4 rfl rfl)
theorem dX1_right_7 : decode cX1_right 7 = .ok (.dup, 1) := dk_89 (dk_at dksX1_right_0 7 rfl rfl)
theorem dX1_right_8 : decode cX1_right 8 = .ok (.invokespecial 9, 3) := dk_183 0 9 (dk_at dksX1_right_0 8 rfl rfl)
theorem dX1_right_11 : decode cX1_right 11 = .ok (.athrow, 1) := dk_191 (dk_at dksX1_right_0 11 rfl rfl)
theorem dX1_right_12 : decode cX1_right 12 = .ok (.return_, 1) := dk_177 (dk_at dksX1_right_0 12 rfl rfl)
abbrev cX1_count : ByteArray := prog_1_method_9_code
def yX1_count : MethodName := ⟨RX1, "count", "(I)I"⟩
def dkwX1_count_11 : List UInt8 := [180, 0, 43, 27, 16, 13, 100, 46, 172]
abbrev dktX1_count_11 : List UInt8 := dkwX1_count_11 ++ []
def dkwX1_count_10 : List UInt8 := [185, 0, 99, 1, 0, 172, 42, 180, 0, 62, 172, 27, 16, 13, 16, 15, 184, 0, 134, 184, 0, 138, 42]
abbrev dktX1_count_10 : List UInt8 := dkwX1_count_10 ++ dktX1_count_11
def dkwX1_count_9 : List UInt8 := [132, 3, 1, 167, 255, 223, 28, 172, 42, 180, 0, 49, 185, 0, 99, 1, 0, 172, 42, 180, 0, 53]
abbrev dktX1_count_9 : List UInt8 := dkwX1_count_9 ++ dktX1_count_10
def dkwX1_count_8 : List UInt8 := [162, 0, 28, 42, 180, 0, 31, 180, 0, 131, 29, 46, 2, 160, 0, 9, 28, 4, 29, 120, 128, 61]
abbrev dktX1_count_8 : List UInt8 := dkwX1_count_8 ++ dktX1_count_9
def dkwX1_count_7 : List UInt8 := [4, 29, 120, 128, 61, 132, 3, 1, 167, 255, 225, 28, 172, 3, 62, 29, 42, 180, 0, 22, 180, 0, 104]
abbrev dktX1_count_7 : List UInt8 := dkwX1_count_7 ++ dktX1_count_8
def dkwX1_count_6 : List UInt8 := [62, 29, 42, 180, 0, 22, 180, 0, 104, 162, 0, 26, 42, 180, 0, 31, 29, 182, 0, 127, 153, 0, 9, 28]
abbrev dktX1_count_6 : List UInt8 := dkwX1_count_6 ++ dktX1_count_7
def dkwX1_count_5 : List UInt8 := [180, 0, 31, 42, 180, 0, 31, 180, 0, 120, 182, 0, 113, 172, 42, 180, 0, 31, 2, 182, 0, 123, 172, 3]
abbrev dktX1_count_5 : List UInt8 := dkwX1_count_5 ++ dktX1_count_6
def dkwX1_count_4 : List UInt8 := [180, 0, 110, 182, 0, 113, 172, 42, 180, 0, 31, 42, 180, 0, 31, 180, 0, 117, 182, 0, 113, 172, 42]
abbrev dktX1_count_4 : List UInt8 := dkwX1_count_4 ++ dktX1_count_5
def dkwX1_count_3 : List UInt8 := [180, 0, 22, 180, 0, 104, 172, 42, 180, 0, 31, 180, 0, 107, 172, 42, 180, 0, 31, 42, 180, 0, 31]
abbrev dktX1_count_3 : List UInt8 := dkwX1_count_3 ++ dktX1_count_4
def dkwX1_count_2 : List UInt8 := [42, 180, 0, 22, 182, 0, 92, 172, 42, 180, 0, 22, 180, 0, 96, 185, 0, 99, 1, 0, 172, 42]
abbrev dktX1_count_2 : List UInt8 := dkwX1_count_2 ++ dktX1_count_3
def dkwX1_count_1 : List UInt8 := [170, 0, 0, 1, 3, 0, 0, 0, 0, 0, 0, 0, 12, 0, 0, 0, 65, 0, 0, 0, 73, 0, 0, 0, 86, 0, 0, 0, 94, 0, 0, 0, 102, 0, 0, 0, 117, 0, 0, 0, 132, 0, 0, 0, 147, 0, 0, 0, 156, 0, 0, 0, 194, 0, 0, 0, 234, 0, 0, 0, 244, 0, 0, 0, 254]
abbrev dktX1_count_1 : List UInt8 := dkwX1_count_1 ++ dktX1_count_2
def dkwX1_count_0 : List UInt8 := [3, 61, 27]
abbrev dktX1_count_0 : List UInt8 := dkwX1_count_0 ++ dktX1_count_1
theorem dksX1_count_0 : cX1_count.data.toList.drop 0 = dktX1_count_0 := by decide +kernel
theorem dksX1_count_1 : cX1_count.data.toList.drop 3 = dktX1_count_1 := dk_seg dksX1_count_0 3 rfl rfl
theorem dksX1_count_2 : cX1_count.data.toList.drop 68 = dktX1_count_2 := dk_seg dksX1_count_1 65 rfl rfl
theorem dksX1_count_3 : cX1_count.data.toList.drop 90 = dktX1_count_3 := dk_seg dksX1_count_2 22 rfl rfl
theorem dksX1_count_4 : cX1_count.data.toList.drop 113 = dktX1_count_4 := dk_seg dksX1_count_3 23 rfl rfl
theorem dksX1_count_5 : cX1_count.data.toList.drop 136 = dktX1_count_5 := dk_seg dksX1_count_4 23 rfl rfl
theorem dksX1_count_6 : cX1_count.data.toList.drop 160 = dktX1_count_6 := dk_seg dksX1_count_5 24 rfl rfl
theorem dksX1_count_7 : cX1_count.data.toList.drop 184 = dktX1_count_7 := dk_seg dksX1_count_6 24 rfl rfl
theorem dksX1_count_8 : cX1_count.data.toList.drop 207 = dktX1_count_8 := dk_seg dksX1_count_7 23 rfl rfl
theorem dksX1_count_9 : cX1_count.data.toList.drop 229 = dktX1_count_9 := dk_seg dksX1_count_8 22 rfl rfl
theorem dksX1_count_10 : cX1_count.data.toList.drop 251 = dktX1_count_10 := dk_seg dksX1_count_9 22 rfl rfl
theorem dksX1_count_11 : cX1_count.data.toList.drop 274 = dktX1_count_11 := dk_seg dksX1_count_10 23 rfl rfl
theorem dX1_count_0 : decode cX1_count 0 = .ok (.iconst 0, 1) := dk_3 (dk_at dksX1_count_0 0 rfl rfl)
theorem dX1_count_1 : decode cX1_count 1 = .ok (.istore_n 2, 1) := dk_61 (dk_at dksX1_count_0 1 rfl rfl)
theorem dX1_count_2 : decode cX1_count 2 = .ok (.iload_n 1, 1) := dk_27 (dk_at dksX1_count_0 2 rfl rfl)
theorem dX1_count_3 : decode cX1_count 3 = .ok (.tableswitch 259 0 12 #[65, 73, 86, 94, 102, 117, 132, 147, 156, 194, 234, 244, 254], 65) := by decide +kernel
theorem dX1_count_68 : decode cX1_count 68 = .ok (.aload_n 0, 1) := dk_42 (dk_at dksX1_count_2 0 rfl rfl)
theorem dX1_count_69 : decode cX1_count 69 = .ok (.getfield 22, 3) := dk_180 0 22 (dk_at dksX1_count_2 1 rfl rfl)
theorem dX1_count_72 : decode cX1_count 72 = .ok (.invokevirtual 92, 3) := dk_182 0 92 (dk_at dksX1_count_2 4 rfl rfl)
theorem dX1_count_75 : decode cX1_count 75 = .ok (.ireturn, 1) := dk_172 (dk_at dksX1_count_2 7 rfl rfl)
theorem dX1_count_76 : decode cX1_count 76 = .ok (.aload_n 0, 1) := dk_42 (dk_at dksX1_count_2 8 rfl rfl)
theorem dX1_count_77 : decode cX1_count 77 = .ok (.getfield 22, 3) := dk_180 0 22 (dk_at dksX1_count_2 9 rfl rfl)
theorem dX1_count_80 : decode cX1_count 80 = .ok (.getfield 96, 3) := dk_180 0 96 (dk_at dksX1_count_2 12 rfl rfl)
theorem dX1_count_83 : decode cX1_count 83 = .ok (.invokeinterface 99 1, 5) := by decide +kernel
theorem dX1_count_88 : decode cX1_count 88 = .ok (.ireturn, 1) := dk_172 (dk_at dksX1_count_2 20 rfl rfl)
theorem dX1_count_89 : decode cX1_count 89 = .ok (.aload_n 0, 1) := dk_42 (dk_at dksX1_count_2 21 rfl rfl)
theorem dX1_count_90 : decode cX1_count 90 = .ok (.getfield 22, 3) := dk_180 0 22 (dk_at dksX1_count_3 0 rfl rfl)
theorem dX1_count_93 : decode cX1_count 93 = .ok (.getfield 104, 3) := dk_180 0 104 (dk_at dksX1_count_3 3 rfl rfl)
theorem dX1_count_96 : decode cX1_count 96 = .ok (.ireturn, 1) := dk_172 (dk_at dksX1_count_3 6 rfl rfl)
theorem dX1_count_97 : decode cX1_count 97 = .ok (.aload_n 0, 1) := dk_42 (dk_at dksX1_count_3 7 rfl rfl)
theorem dX1_count_98 : decode cX1_count 98 = .ok (.getfield 31, 3) := dk_180 0 31 (dk_at dksX1_count_3 8 rfl rfl)
theorem dX1_count_101 : decode cX1_count 101 = .ok (.getfield 107, 3) := dk_180 0 107 (dk_at dksX1_count_3 11 rfl rfl)
theorem dX1_count_104 : decode cX1_count 104 = .ok (.ireturn, 1) := dk_172 (dk_at dksX1_count_3 14 rfl rfl)
theorem dX1_count_105 : decode cX1_count 105 = .ok (.aload_n 0, 1) := dk_42 (dk_at dksX1_count_3 15 rfl rfl)
theorem dX1_count_106 : decode cX1_count 106 = .ok (.getfield 31, 3) := dk_180 0 31 (dk_at dksX1_count_3 16 rfl rfl)
theorem dX1_count_109 : decode cX1_count 109 = .ok (.aload_n 0, 1) := dk_42 (dk_at dksX1_count_3 19 rfl rfl)
theorem dX1_count_110 : decode cX1_count 110 = .ok (.getfield 31, 3) := dk_180 0 31 (dk_at dksX1_count_3 20 rfl rfl)
theorem dX1_count_113 : decode cX1_count 113 = .ok (.getfield 110, 3) := dk_180 0 110 (dk_at dksX1_count_4 0 rfl rfl)
theorem dX1_count_116 : decode cX1_count 116 = .ok (.invokevirtual 113, 3) := dk_182 0 113 (dk_at dksX1_count_4 3 rfl rfl)
theorem dX1_count_119 : decode cX1_count 119 = .ok (.ireturn, 1) := dk_172 (dk_at dksX1_count_4 6 rfl rfl)
theorem dX1_count_120 : decode cX1_count 120 = .ok (.aload_n 0, 1) := dk_42 (dk_at dksX1_count_4 7 rfl rfl)
theorem dX1_count_121 : decode cX1_count 121 = .ok (.getfield 31, 3) := dk_180 0 31 (dk_at dksX1_count_4 8 rfl rfl)
theorem dX1_count_124 : decode cX1_count 124 = .ok (.aload_n 0, 1) := dk_42 (dk_at dksX1_count_4 11 rfl rfl)
theorem dX1_count_125 : decode cX1_count 125 = .ok (.getfield 31, 3) := dk_180 0 31 (dk_at dksX1_count_4 12 rfl rfl)
theorem dX1_count_128 : decode cX1_count 128 = .ok (.getfield 117, 3) := dk_180 0 117 (dk_at dksX1_count_4 15 rfl rfl)
theorem dX1_count_131 : decode cX1_count 131 = .ok (.invokevirtual 113, 3) := dk_182 0 113 (dk_at dksX1_count_4 18 rfl rfl)
theorem dX1_count_134 : decode cX1_count 134 = .ok (.ireturn, 1) := dk_172 (dk_at dksX1_count_4 21 rfl rfl)
theorem dX1_count_135 : decode cX1_count 135 = .ok (.aload_n 0, 1) := dk_42 (dk_at dksX1_count_4 22 rfl rfl)
theorem dX1_count_136 : decode cX1_count 136 = .ok (.getfield 31, 3) := dk_180 0 31 (dk_at dksX1_count_5 0 rfl rfl)
theorem dX1_count_139 : decode cX1_count 139 = .ok (.aload_n 0, 1) := dk_42 (dk_at dksX1_count_5 3 rfl rfl)
theorem dX1_count_140 : decode cX1_count 140 = .ok (.getfield 31, 3) := dk_180 0 31 (dk_at dksX1_count_5 4 rfl rfl)
theorem dX1_count_143 : decode cX1_count 143 = .ok (.getfield 120, 3) := dk_180 0 120 (dk_at dksX1_count_5 7 rfl rfl)
theorem dX1_count_146 : decode cX1_count 146 = .ok (.invokevirtual 113, 3) := dk_182 0 113 (dk_at dksX1_count_5 10 rfl rfl)
theorem dX1_count_149 : decode cX1_count 149 = .ok (.ireturn, 1) := dk_172 (dk_at dksX1_count_5 13 rfl rfl)
theorem dX1_count_150 : decode cX1_count 150 = .ok (.aload_n 0, 1) := dk_42 (dk_at dksX1_count_5 14 rfl rfl)
theorem dX1_count_151 : decode cX1_count 151 = .ok (.getfield 31, 3) := dk_180 0 31 (dk_at dksX1_count_5 15 rfl rfl)
theorem dX1_count_154 : decode cX1_count 154 = .ok (.iconst (-1), 1) := dk_2 (dk_at dksX1_count_5 18 rfl rfl)
theorem dX1_count_155 : decode cX1_count 155 = .ok (.invokevirtual 123, 3) := dk_182 0 123 (dk_at dksX1_count_5 19 rfl rfl)
theorem dX1_count_158 : decode cX1_count 158 = .ok (.ireturn, 1) := dk_172 (dk_at dksX1_count_5 22 rfl rfl)
theorem dX1_count_159 : decode cX1_count 159 = .ok (.iconst 0, 1) := dk_3 (dk_at dksX1_count_5 23 rfl rfl)
theorem dX1_count_160 : decode cX1_count 160 = .ok (.istore_n 3, 1) := dk_62 (dk_at dksX1_count_6 0 rfl rfl)
theorem dX1_count_161 : decode cX1_count 161 = .ok (.iload_n 3, 1) := dk_29 (dk_at dksX1_count_6 1 rfl rfl)
theorem dX1_count_162 : decode cX1_count 162 = .ok (.aload_n 0, 1) := dk_42 (dk_at dksX1_count_6 2 rfl rfl)
theorem dX1_count_163 : decode cX1_count 163 = .ok (.getfield 22, 3) := dk_180 0 22 (dk_at dksX1_count_6 3 rfl rfl)
theorem dX1_count_166 : decode cX1_count 166 = .ok (.getfield 104, 3) := dk_180 0 104 (dk_at dksX1_count_6 6 rfl rfl)
theorem dX1_count_169 : decode cX1_count 169 = .ok (.if_icmp .ge 26, 3) := dk_162 0 26 (dk_at dksX1_count_6 9 rfl rfl)
theorem dX1_count_172 : decode cX1_count 172 = .ok (.aload_n 0, 1) := dk_42 (dk_at dksX1_count_6 12 rfl rfl)
theorem dX1_count_173 : decode cX1_count 173 = .ok (.getfield 31, 3) := dk_180 0 31 (dk_at dksX1_count_6 13 rfl rfl)
theorem dX1_count_176 : decode cX1_count 176 = .ok (.iload_n 3, 1) := dk_29 (dk_at dksX1_count_6 16 rfl rfl)
theorem dX1_count_177 : decode cX1_count 177 = .ok (.invokevirtual 127, 3) := dk_182 0 127 (dk_at dksX1_count_6 17 rfl rfl)
theorem dX1_count_180 : decode cX1_count 180 = .ok (.ifCond .eq 9, 3) := dk_153 0 9 (dk_at dksX1_count_6 20 rfl rfl)
theorem dX1_count_183 : decode cX1_count 183 = .ok (.iload_n 2, 1) := dk_28 (dk_at dksX1_count_6 23 rfl rfl)
theorem dX1_count_184 : decode cX1_count 184 = .ok (.iconst 1, 1) := dk_4 (dk_at dksX1_count_7 0 rfl rfl)
theorem dX1_count_185 : decode cX1_count 185 = .ok (.iload_n 3, 1) := dk_29 (dk_at dksX1_count_7 1 rfl rfl)
theorem dX1_count_186 : decode cX1_count 186 = .ok (.ishl, 1) := dk_120 (dk_at dksX1_count_7 2 rfl rfl)
theorem dX1_count_187 : decode cX1_count 187 = .ok (.ior, 1) := dk_128 (dk_at dksX1_count_7 3 rfl rfl)
theorem dX1_count_188 : decode cX1_count 188 = .ok (.istore_n 2, 1) := dk_61 (dk_at dksX1_count_7 4 rfl rfl)
theorem dX1_count_189 : decode cX1_count 189 = .ok (.iinc 3 1, 3) := dk_132 3 1 (dk_at dksX1_count_7 5 rfl rfl)
theorem dX1_count_192 : decode cX1_count 192 = .ok (.goto (-31), 3) := dk_167 255 225 (dk_at dksX1_count_7 8 rfl rfl)
theorem dX1_count_195 : decode cX1_count 195 = .ok (.iload_n 2, 1) := dk_28 (dk_at dksX1_count_7 11 rfl rfl)
theorem dX1_count_196 : decode cX1_count 196 = .ok (.ireturn, 1) := dk_172 (dk_at dksX1_count_7 12 rfl rfl)
theorem dX1_count_197 : decode cX1_count 197 = .ok (.iconst 0, 1) := dk_3 (dk_at dksX1_count_7 13 rfl rfl)
theorem dX1_count_198 : decode cX1_count 198 = .ok (.istore_n 3, 1) := dk_62 (dk_at dksX1_count_7 14 rfl rfl)
theorem dX1_count_199 : decode cX1_count 199 = .ok (.iload_n 3, 1) := dk_29 (dk_at dksX1_count_7 15 rfl rfl)
theorem dX1_count_200 : decode cX1_count 200 = .ok (.aload_n 0, 1) := dk_42 (dk_at dksX1_count_7 16 rfl rfl)
theorem dX1_count_201 : decode cX1_count 201 = .ok (.getfield 22, 3) := dk_180 0 22 (dk_at dksX1_count_7 17 rfl rfl)
theorem dX1_count_204 : decode cX1_count 204 = .ok (.getfield 104, 3) := dk_180 0 104 (dk_at dksX1_count_7 20 rfl rfl)
theorem dX1_count_207 : decode cX1_count 207 = .ok (.if_icmp .ge 28, 3) := dk_162 0 28 (dk_at dksX1_count_8 0 rfl rfl)
theorem dX1_count_210 : decode cX1_count 210 = .ok (.aload_n 0, 1) := dk_42 (dk_at dksX1_count_8 3 rfl rfl)
theorem dX1_count_211 : decode cX1_count 211 = .ok (.getfield 31, 3) := dk_180 0 31 (dk_at dksX1_count_8 4 rfl rfl)
theorem dX1_count_214 : decode cX1_count 214 = .ok (.getfield 131, 3) := dk_180 0 131 (dk_at dksX1_count_8 7 rfl rfl)
theorem dX1_count_217 : decode cX1_count 217 = .ok (.iload_n 3, 1) := dk_29 (dk_at dksX1_count_8 10 rfl rfl)
theorem dX1_count_218 : decode cX1_count 218 = .ok (.iaload, 1) := dk_46 (dk_at dksX1_count_8 11 rfl rfl)
theorem dX1_count_219 : decode cX1_count 219 = .ok (.iconst (-1), 1) := dk_2 (dk_at dksX1_count_8 12 rfl rfl)
theorem dX1_count_220 : decode cX1_count 220 = .ok (.if_icmp .ne 9, 3) := dk_160 0 9 (dk_at dksX1_count_8 13 rfl rfl)
theorem dX1_count_223 : decode cX1_count 223 = .ok (.iload_n 2, 1) := dk_28 (dk_at dksX1_count_8 16 rfl rfl)
theorem dX1_count_224 : decode cX1_count 224 = .ok (.iconst 1, 1) := dk_4 (dk_at dksX1_count_8 17 rfl rfl)
theorem dX1_count_225 : decode cX1_count 225 = .ok (.iload_n 3, 1) := dk_29 (dk_at dksX1_count_8 18 rfl rfl)
theorem dX1_count_226 : decode cX1_count 226 = .ok (.ishl, 1) := dk_120 (dk_at dksX1_count_8 19 rfl rfl)
theorem dX1_count_227 : decode cX1_count 227 = .ok (.ior, 1) := dk_128 (dk_at dksX1_count_8 20 rfl rfl)
theorem dX1_count_228 : decode cX1_count 228 = .ok (.istore_n 2, 1) := dk_61 (dk_at dksX1_count_8 21 rfl rfl)
theorem dX1_count_229 : decode cX1_count 229 = .ok (.iinc 3 1, 3) := dk_132 3 1 (dk_at dksX1_count_9 0 rfl rfl)
theorem dX1_count_232 : decode cX1_count 232 = .ok (.goto (-33), 3) := dk_167 255 223 (dk_at dksX1_count_9 3 rfl rfl)
theorem dX1_count_235 : decode cX1_count 235 = .ok (.iload_n 2, 1) := dk_28 (dk_at dksX1_count_9 6 rfl rfl)
theorem dX1_count_236 : decode cX1_count 236 = .ok (.ireturn, 1) := dk_172 (dk_at dksX1_count_9 7 rfl rfl)
theorem dX1_count_237 : decode cX1_count 237 = .ok (.aload_n 0, 1) := dk_42 (dk_at dksX1_count_9 8 rfl rfl)
theorem dX1_count_238 : decode cX1_count 238 = .ok (.getfield 49, 3) := dk_180 0 49 (dk_at dksX1_count_9 9 rfl rfl)
theorem dX1_count_241 : decode cX1_count 241 = .ok (.invokeinterface 99 1, 5) := by decide +kernel
theorem dX1_count_246 : decode cX1_count 246 = .ok (.ireturn, 1) := dk_172 (dk_at dksX1_count_9 17 rfl rfl)
theorem dX1_count_247 : decode cX1_count 247 = .ok (.aload_n 0, 1) := dk_42 (dk_at dksX1_count_9 18 rfl rfl)
theorem dX1_count_248 : decode cX1_count 248 = .ok (.getfield 53, 3) := dk_180 0 53 (dk_at dksX1_count_9 19 rfl rfl)
theorem dX1_count_251 : decode cX1_count 251 = .ok (.invokeinterface 99 1, 5) := by decide +kernel
theorem dX1_count_256 : decode cX1_count 256 = .ok (.ireturn, 1) := dk_172 (dk_at dksX1_count_10 5 rfl rfl)
theorem dX1_count_257 : decode cX1_count 257 = .ok (.aload_n 0, 1) := dk_42 (dk_at dksX1_count_10 6 rfl rfl)
theorem dX1_count_258 : decode cX1_count 258 = .ok (.getfield 62, 3) := dk_180 0 62 (dk_at dksX1_count_10 7 rfl rfl)
theorem dX1_count_261 : decode cX1_count 261 = .ok (.ireturn, 1) := dk_172 (dk_at dksX1_count_10 10 rfl rfl)
theorem dX1_count_262 : decode cX1_count 262 = .ok (.iload_n 1, 1) := dk_27 (dk_at dksX1_count_10 11 rfl rfl)
theorem dX1_count_263 : decode cX1_count 263 = .ok (.bipush 13, 2) := dk_16 13 (dk_at dksX1_count_10 12 rfl rfl)
theorem dX1_count_265 : decode cX1_count 265 = .ok (.bipush 15, 2) := dk_16 15 (dk_at dksX1_count_10 14 rfl rfl)
theorem dX1_count_267 : decode cX1_count 267 = .ok (.invokestatic 134, 3) := dk_184 0 134 (dk_at dksX1_count_10 16 rfl rfl)
theorem dX1_count_270 : decode cX1_count 270 = .ok (.invokestatic 138, 3) := dk_184 0 138 (dk_at dksX1_count_10 19 rfl rfl)
theorem dX1_count_273 : decode cX1_count 273 = .ok (.aload_n 0, 1) := dk_42 (dk_at dksX1_count_10 22 rfl rfl)
theorem dX1_count_274 : decode cX1_count 274 = .ok (.getfield 43, 3) := dk_180 0 43 (dk_at dksX1_count_11 0 rfl rfl)
theorem dX1_count_277 : decode cX1_count 277 = .ok (.iload_n 1, 1) := dk_27 (dk_at dksX1_count_11 3 rfl rfl)
theorem dX1_count_278 : decode cX1_count 278 = .ok (.bipush 13, 2) := dk_16 13 (dk_at dksX1_count_11 4 rfl rfl)
theorem dX1_count_280 : decode cX1_count 280 = .ok (.isub, 1) := dk_100 (dk_at dksX1_count_11 6 rfl rfl)
theorem dX1_count_281 : decode cX1_count 281 = .ok (.iaload, 1) := dk_46 (dk_at dksX1_count_11 7 rfl rfl)
theorem dX1_count_282 : decode cX1_count 282 = .ok (.ireturn, 1) := dk_172 (dk_at dksX1_count_11 8 rfl rfl)
abbrev cX1_found : ByteArray := prog_1_method_2_code
def yX1_found : MethodName := ⟨RX1, "found", "(Z)V"⟩
def dkwX1_found_0 : List UInt8 := [26, 154, 0, 11, 187, 0, 1, 89, 183, 0, 3, 191, 177]
abbrev dktX1_found_0 : List UInt8 := dkwX1_found_0 ++ []
theorem dksX1_found_0 : cX1_found.data.toList.drop 0 = dktX1_found_0 := by decide +kernel
theorem dX1_found_0 : decode cX1_found 0 = .ok (.iload_n 0, 1) := dk_26 (dk_at dksX1_found_0 0 rfl rfl)
theorem dX1_found_1 : decode cX1_found 1 = .ok (.ifCond .ne 11, 3) := dk_154 0 11 (dk_at dksX1_found_0 1 rfl rfl)
theorem dX1_found_4 : decode cX1_found 4 = .ok (.new 1, 3) := dk_187 0 1 (dk_at dksX1_found_0 4 rfl rfl)
theorem dX1_found_7 : decode cX1_found 7 = .ok (.dup, 1) := dk_89 (dk_at dksX1_found_0 7 rfl rfl)
theorem dX1_found_8 : decode cX1_found 8 = .ok (.invokespecial 3, 3) := dk_183 0 3 (dk_at dksX1_found_0 8 rfl rfl)
theorem dX1_found_11 : decode cX1_found 11 = .ok (.athrow, 1) := dk_191 (dk_at dksX1_found_0 11 rfl rfl)
theorem dX1_found_12 : decode cX1_found 12 = .ok (.return_, 1) := dk_177 (dk_at dksX1_found_0 12 rfl rfl)
abbrev cX1_town : ByteArray := prog_1_method_13_code
def yX1_town : MethodName := ⟨RX1, "town", "(II)I"⟩
def dkwX1_town_6 : List UInt8 := [180, 0, 31, 27, 182, 0, 123, 172]
abbrev dktX1_town_6 : List UInt8 := dkwX1_town_6 ++ []
def dkwX1_town_5 : List UInt8 := [180, 0, 31, 27, 182, 0, 160, 172, 28, 16, 6, 160, 0, 7, 4, 167, 0, 4, 3, 184, 0, 138, 42]
abbrev dktX1_town_5 : List UInt8 := dkwX1_town_5 ++ dktX1_town_6
def dkwX1_town_4 : List UInt8 := [185, 0, 148, 2, 0, 192, 0, 152, 182, 0, 154, 172, 42, 180, 0, 31, 180, 0, 120, 27, 46, 172, 42]
abbrev dktX1_town_4 : List UInt8 := dkwX1_town_4 ++ dktX1_town_5
def dkwX1_town_3 : List UInt8 := [180, 0, 145, 27, 185, 0, 148, 2, 0, 192, 0, 152, 182, 0, 154, 172, 42, 180, 0, 22, 180, 0, 157, 27]
abbrev dktX1_town_3 : List UInt8 := dkwX1_town_3 ++ dktX1_town_4
def dkwX1_town_2 : List UInt8 := [42, 180, 0, 31, 180, 0, 110, 27, 46, 172, 42, 180, 0, 31, 180, 0, 117, 27, 46, 172, 42, 180, 0, 22]
abbrev dktX1_town_2 : List UInt8 := dkwX1_town_2 ++ dktX1_town_3
def dkwX1_town_1 : List UInt8 := [170, 0, 0, 0, 0, 117, 0, 0, 0, 0, 0, 0, 0, 5, 0, 0, 0, 38, 0, 0, 0, 48, 0, 0, 0, 58, 0, 0, 0, 78, 0, 0, 0, 98, 0, 0, 0, 108]
abbrev dktX1_town_1 : List UInt8 := dkwX1_town_1 ++ dktX1_town_2
def dkwX1_town_0 : List UInt8 := [42, 27, 182, 0, 141, 28]
abbrev dktX1_town_0 : List UInt8 := dkwX1_town_0 ++ dktX1_town_1
theorem dksX1_town_0 : cX1_town.data.toList.drop 0 = dktX1_town_0 := by decide +kernel
theorem dksX1_town_1 : cX1_town.data.toList.drop 6 = dktX1_town_1 := dk_seg dksX1_town_0 6 rfl rfl
theorem dksX1_town_2 : cX1_town.data.toList.drop 44 = dktX1_town_2 := dk_seg dksX1_town_1 38 rfl rfl
theorem dksX1_town_3 : cX1_town.data.toList.drop 68 = dktX1_town_3 := dk_seg dksX1_town_2 24 rfl rfl
theorem dksX1_town_4 : cX1_town.data.toList.drop 92 = dktX1_town_4 := dk_seg dksX1_town_3 24 rfl rfl
theorem dksX1_town_5 : cX1_town.data.toList.drop 115 = dktX1_town_5 := dk_seg dksX1_town_4 23 rfl rfl
theorem dksX1_town_6 : cX1_town.data.toList.drop 138 = dktX1_town_6 := dk_seg dksX1_town_5 23 rfl rfl
theorem dX1_town_0 : decode cX1_town 0 = .ok (.aload_n 0, 1) := dk_42 (dk_at dksX1_town_0 0 rfl rfl)
theorem dX1_town_1 : decode cX1_town 1 = .ok (.iload_n 1, 1) := dk_27 (dk_at dksX1_town_0 1 rfl rfl)
theorem dX1_town_2 : decode cX1_town 2 = .ok (.invokevirtual 141, 3) := dk_182 0 141 (dk_at dksX1_town_0 2 rfl rfl)
theorem dX1_town_5 : decode cX1_town 5 = .ok (.iload_n 2, 1) := dk_28 (dk_at dksX1_town_0 5 rfl rfl)
theorem dX1_town_6 : decode cX1_town 6 = .ok (.tableswitch 117 0 5 #[38, 48, 58, 78, 98, 108], 38) := by decide +kernel
theorem dX1_town_44 : decode cX1_town 44 = .ok (.aload_n 0, 1) := dk_42 (dk_at dksX1_town_2 0 rfl rfl)
theorem dX1_town_45 : decode cX1_town 45 = .ok (.getfield 31, 3) := dk_180 0 31 (dk_at dksX1_town_2 1 rfl rfl)
theorem dX1_town_48 : decode cX1_town 48 = .ok (.getfield 110, 3) := dk_180 0 110 (dk_at dksX1_town_2 4 rfl rfl)
theorem dX1_town_51 : decode cX1_town 51 = .ok (.iload_n 1, 1) := dk_27 (dk_at dksX1_town_2 7 rfl rfl)
theorem dX1_town_52 : decode cX1_town 52 = .ok (.iaload, 1) := dk_46 (dk_at dksX1_town_2 8 rfl rfl)
theorem dX1_town_53 : decode cX1_town 53 = .ok (.ireturn, 1) := dk_172 (dk_at dksX1_town_2 9 rfl rfl)
theorem dX1_town_54 : decode cX1_town 54 = .ok (.aload_n 0, 1) := dk_42 (dk_at dksX1_town_2 10 rfl rfl)
theorem dX1_town_55 : decode cX1_town 55 = .ok (.getfield 31, 3) := dk_180 0 31 (dk_at dksX1_town_2 11 rfl rfl)
theorem dX1_town_58 : decode cX1_town 58 = .ok (.getfield 117, 3) := dk_180 0 117 (dk_at dksX1_town_2 14 rfl rfl)
theorem dX1_town_61 : decode cX1_town 61 = .ok (.iload_n 1, 1) := dk_27 (dk_at dksX1_town_2 17 rfl rfl)
theorem dX1_town_62 : decode cX1_town 62 = .ok (.iaload, 1) := dk_46 (dk_at dksX1_town_2 18 rfl rfl)
theorem dX1_town_63 : decode cX1_town 63 = .ok (.ireturn, 1) := dk_172 (dk_at dksX1_town_2 19 rfl rfl)
theorem dX1_town_64 : decode cX1_town 64 = .ok (.aload_n 0, 1) := dk_42 (dk_at dksX1_town_2 20 rfl rfl)
theorem dX1_town_65 : decode cX1_town 65 = .ok (.getfield 22, 3) := dk_180 0 22 (dk_at dksX1_town_2 21 rfl rfl)
theorem dX1_town_68 : decode cX1_town 68 = .ok (.getfield 145, 3) := dk_180 0 145 (dk_at dksX1_town_3 0 rfl rfl)
theorem dX1_town_71 : decode cX1_town 71 = .ok (.iload_n 1, 1) := dk_27 (dk_at dksX1_town_3 3 rfl rfl)
theorem dX1_town_72 : decode cX1_town 72 = .ok (.invokeinterface 148 2, 5) := by decide +kernel
theorem dX1_town_77 : decode cX1_town 77 = .ok (.checkcast 152, 3) := dk_192 0 152 (dk_at dksX1_town_3 9 rfl rfl)
theorem dX1_town_80 : decode cX1_town 80 = .ok (.invokevirtual 154, 3) := dk_182 0 154 (dk_at dksX1_town_3 12 rfl rfl)
theorem dX1_town_83 : decode cX1_town 83 = .ok (.ireturn, 1) := dk_172 (dk_at dksX1_town_3 15 rfl rfl)
theorem dX1_town_84 : decode cX1_town 84 = .ok (.aload_n 0, 1) := dk_42 (dk_at dksX1_town_3 16 rfl rfl)
theorem dX1_town_85 : decode cX1_town 85 = .ok (.getfield 22, 3) := dk_180 0 22 (dk_at dksX1_town_3 17 rfl rfl)
theorem dX1_town_88 : decode cX1_town 88 = .ok (.getfield 157, 3) := dk_180 0 157 (dk_at dksX1_town_3 20 rfl rfl)
theorem dX1_town_91 : decode cX1_town 91 = .ok (.iload_n 1, 1) := dk_27 (dk_at dksX1_town_3 23 rfl rfl)
theorem dX1_town_92 : decode cX1_town 92 = .ok (.invokeinterface 148 2, 5) := by decide +kernel
theorem dX1_town_97 : decode cX1_town 97 = .ok (.checkcast 152, 3) := dk_192 0 152 (dk_at dksX1_town_4 5 rfl rfl)
theorem dX1_town_100 : decode cX1_town 100 = .ok (.invokevirtual 154, 3) := dk_182 0 154 (dk_at dksX1_town_4 8 rfl rfl)
theorem dX1_town_103 : decode cX1_town 103 = .ok (.ireturn, 1) := dk_172 (dk_at dksX1_town_4 11 rfl rfl)
theorem dX1_town_104 : decode cX1_town 104 = .ok (.aload_n 0, 1) := dk_42 (dk_at dksX1_town_4 12 rfl rfl)
theorem dX1_town_105 : decode cX1_town 105 = .ok (.getfield 31, 3) := dk_180 0 31 (dk_at dksX1_town_4 13 rfl rfl)
theorem dX1_town_108 : decode cX1_town 108 = .ok (.getfield 120, 3) := dk_180 0 120 (dk_at dksX1_town_4 16 rfl rfl)
theorem dX1_town_111 : decode cX1_town 111 = .ok (.iload_n 1, 1) := dk_27 (dk_at dksX1_town_4 19 rfl rfl)
theorem dX1_town_112 : decode cX1_town 112 = .ok (.iaload, 1) := dk_46 (dk_at dksX1_town_4 20 rfl rfl)
theorem dX1_town_113 : decode cX1_town 113 = .ok (.ireturn, 1) := dk_172 (dk_at dksX1_town_4 21 rfl rfl)
theorem dX1_town_114 : decode cX1_town 114 = .ok (.aload_n 0, 1) := dk_42 (dk_at dksX1_town_4 22 rfl rfl)
theorem dX1_town_115 : decode cX1_town 115 = .ok (.getfield 31, 3) := dk_180 0 31 (dk_at dksX1_town_5 0 rfl rfl)
theorem dX1_town_118 : decode cX1_town 118 = .ok (.iload_n 1, 1) := dk_27 (dk_at dksX1_town_5 3 rfl rfl)
theorem dX1_town_119 : decode cX1_town 119 = .ok (.invokevirtual 160, 3) := dk_182 0 160 (dk_at dksX1_town_5 4 rfl rfl)
theorem dX1_town_122 : decode cX1_town 122 = .ok (.ireturn, 1) := dk_172 (dk_at dksX1_town_5 7 rfl rfl)
theorem dX1_town_123 : decode cX1_town 123 = .ok (.iload_n 2, 1) := dk_28 (dk_at dksX1_town_5 8 rfl rfl)
theorem dX1_town_124 : decode cX1_town 124 = .ok (.bipush 6, 2) := dk_16 6 (dk_at dksX1_town_5 9 rfl rfl)
theorem dX1_town_126 : decode cX1_town 126 = .ok (.if_icmp .ne 7, 3) := dk_160 0 7 (dk_at dksX1_town_5 11 rfl rfl)
theorem dX1_town_129 : decode cX1_town 129 = .ok (.iconst 1, 1) := dk_4 (dk_at dksX1_town_5 14 rfl rfl)
theorem dX1_town_130 : decode cX1_town 130 = .ok (.goto 4, 3) := dk_167 0 4 (dk_at dksX1_town_5 15 rfl rfl)
theorem dX1_town_133 : decode cX1_town 133 = .ok (.iconst 0, 1) := dk_3 (dk_at dksX1_town_5 18 rfl rfl)
theorem dX1_town_134 : decode cX1_town 134 = .ok (.invokestatic 138, 3) := dk_184 0 138 (dk_at dksX1_town_5 19 rfl rfl)
theorem dX1_town_137 : decode cX1_town 137 = .ok (.aload_n 0, 1) := dk_42 (dk_at dksX1_town_5 22 rfl rfl)
theorem dX1_town_138 : decode cX1_town 138 = .ok (.getfield 31, 3) := dk_180 0 31 (dk_at dksX1_town_6 0 rfl rfl)
theorem dX1_town_141 : decode cX1_town 141 = .ok (.iload_n 1, 1) := dk_27 (dk_at dksX1_town_6 3 rfl rfl)
theorem dX1_town_142 : decode cX1_town 142 = .ok (.invokevirtual 123, 3) := dk_182 0 123 (dk_at dksX1_town_6 4 rfl rfl)
theorem dX1_town_145 : decode cX1_town 145 = .ok (.ireturn, 1) := dk_172 (dk_at dksX1_town_6 7 rfl rfl)
abbrev cX1_aTown : ByteArray := prog_1_method_10_code
def yX1_aTown : MethodName := ⟨RX1, "aTown", "(I)V"⟩
def dkwX1_aTown_0 : List UInt8 := [27, 3, 42, 180, 0, 22, 182, 0, 92, 4, 100, 184, 0, 134, 184, 0, 138, 177]
abbrev dktX1_aTown_0 : List UInt8 := dkwX1_aTown_0 ++ []
theorem dksX1_aTown_0 : cX1_aTown.data.toList.drop 0 = dktX1_aTown_0 := by decide +kernel
theorem dX1_aTown_0 : decode cX1_aTown 0 = .ok (.iload_n 1, 1) := dk_27 (dk_at dksX1_aTown_0 0 rfl rfl)
theorem dX1_aTown_1 : decode cX1_aTown 1 = .ok (.iconst 0, 1) := dk_3 (dk_at dksX1_aTown_0 1 rfl rfl)
theorem dX1_aTown_2 : decode cX1_aTown 2 = .ok (.aload_n 0, 1) := dk_42 (dk_at dksX1_aTown_0 2 rfl rfl)
theorem dX1_aTown_3 : decode cX1_aTown 3 = .ok (.getfield 22, 3) := dk_180 0 22 (dk_at dksX1_aTown_0 3 rfl rfl)
theorem dX1_aTown_6 : decode cX1_aTown 6 = .ok (.invokevirtual 92, 3) := dk_182 0 92 (dk_at dksX1_aTown_0 6 rfl rfl)
theorem dX1_aTown_9 : decode cX1_aTown 9 = .ok (.iconst 1, 1) := dk_4 (dk_at dksX1_aTown_0 9 rfl rfl)
theorem dX1_aTown_10 : decode cX1_aTown 10 = .ok (.isub, 1) := dk_100 (dk_at dksX1_aTown_0 10 rfl rfl)
theorem dX1_aTown_11 : decode cX1_aTown 11 = .ok (.invokestatic 134, 3) := dk_184 0 134 (dk_at dksX1_aTown_0 11 rfl rfl)
theorem dX1_aTown_14 : decode cX1_aTown 14 = .ok (.invokestatic 138, 3) := dk_184 0 138 (dk_at dksX1_aTown_0 14 rfl rfl)
theorem dX1_aTown_17 : decode cX1_aTown 17 = .ok (.return_, 1) := dk_177 (dk_at dksX1_aTown_0 17 rfl rfl)
abbrev cX1_crate : ByteArray := prog_1_method_14_code
def yX1_crate : MethodName := ⟨RX1, "crate", "(II)I"⟩
def dkwX1_crate_3 : List UInt8 := [180, 0, 131, 27, 46, 167, 0, 12, 42, 180, 0, 31, 180, 0, 179, 27, 46, 172]
abbrev dktX1_crate_3 : List UInt8 := dkwX1_crate_3 ++ []
def dkwX1_crate_2 : List UInt8 := [160, 0, 15, 42, 180, 0, 31, 180, 0, 176, 27, 46, 167, 0, 29, 28, 6, 160, 0, 15, 42, 180, 0, 31]
abbrev dktX1_crate_2 : List UInt8 := dkwX1_crate_2 ++ dktX1_crate_3
def dkwX1_crate_1 : List UInt8 := [167, 0, 63, 28, 4, 160, 0, 15, 42, 180, 0, 31, 180, 0, 173, 27, 46, 167, 0, 46, 28, 5]
abbrev dktX1_crate_1 : List UInt8 := dkwX1_crate_1 ++ dktX1_crate_2
def dkwX1_crate_0 : List UInt8 := [42, 27, 182, 0, 163, 28, 7, 184, 0, 166, 28, 154, 0, 15, 42, 180, 0, 31, 180, 0, 170, 27, 46]
abbrev dktX1_crate_0 : List UInt8 := dkwX1_crate_0 ++ dktX1_crate_1
theorem dksX1_crate_0 : cX1_crate.data.toList.drop 0 = dktX1_crate_0 := by decide +kernel
theorem dksX1_crate_1 : cX1_crate.data.toList.drop 23 = dktX1_crate_1 := dk_seg dksX1_crate_0 23 rfl rfl
theorem dksX1_crate_2 : cX1_crate.data.toList.drop 45 = dktX1_crate_2 := dk_seg dksX1_crate_1 22 rfl rfl
theorem dksX1_crate_3 : cX1_crate.data.toList.drop 69 = dktX1_crate_3 := dk_seg dksX1_crate_2 24 rfl rfl
theorem dX1_crate_0 : decode cX1_crate 0 = .ok (.aload_n 0, 1) := dk_42 (dk_at dksX1_crate_0 0 rfl rfl)
theorem dX1_crate_1 : decode cX1_crate 1 = .ok (.iload_n 1, 1) := dk_27 (dk_at dksX1_crate_0 1 rfl rfl)
theorem dX1_crate_2 : decode cX1_crate 2 = .ok (.invokevirtual 163, 3) := dk_182 0 163 (dk_at dksX1_crate_0 2 rfl rfl)
theorem dX1_crate_5 : decode cX1_crate 5 = .ok (.iload_n 2, 1) := dk_28 (dk_at dksX1_crate_0 5 rfl rfl)
theorem dX1_crate_6 : decode cX1_crate 6 = .ok (.iconst 4, 1) := dk_7 (dk_at dksX1_crate_0 6 rfl rfl)
theorem dX1_crate_7 : decode cX1_crate 7 = .ok (.invokestatic 166, 3) := dk_184 0 166 (dk_at dksX1_crate_0 7 rfl rfl)
theorem dX1_crate_10 : decode cX1_crate 10 = .ok (.iload_n 2, 1) := dk_28 (dk_at dksX1_crate_0 10 rfl rfl)
theorem dX1_crate_11 : decode cX1_crate 11 = .ok (.ifCond .ne 15, 3) := dk_154 0 15 (dk_at dksX1_crate_0 11 rfl rfl)
theorem dX1_crate_14 : decode cX1_crate 14 = .ok (.aload_n 0, 1) := dk_42 (dk_at dksX1_crate_0 14 rfl rfl)
theorem dX1_crate_15 : decode cX1_crate 15 = .ok (.getfield 31, 3) := dk_180 0 31 (dk_at dksX1_crate_0 15 rfl rfl)
theorem dX1_crate_18 : decode cX1_crate 18 = .ok (.getfield 170, 3) := dk_180 0 170 (dk_at dksX1_crate_0 18 rfl rfl)
theorem dX1_crate_21 : decode cX1_crate 21 = .ok (.iload_n 1, 1) := dk_27 (dk_at dksX1_crate_0 21 rfl rfl)
theorem dX1_crate_22 : decode cX1_crate 22 = .ok (.iaload, 1) := dk_46 (dk_at dksX1_crate_0 22 rfl rfl)
theorem dX1_crate_23 : decode cX1_crate 23 = .ok (.goto 63, 3) := dk_167 0 63 (dk_at dksX1_crate_1 0 rfl rfl)
theorem dX1_crate_26 : decode cX1_crate 26 = .ok (.iload_n 2, 1) := dk_28 (dk_at dksX1_crate_1 3 rfl rfl)
theorem dX1_crate_27 : decode cX1_crate 27 = .ok (.iconst 1, 1) := dk_4 (dk_at dksX1_crate_1 4 rfl rfl)
theorem dX1_crate_28 : decode cX1_crate 28 = .ok (.if_icmp .ne 15, 3) := dk_160 0 15 (dk_at dksX1_crate_1 5 rfl rfl)
theorem dX1_crate_31 : decode cX1_crate 31 = .ok (.aload_n 0, 1) := dk_42 (dk_at dksX1_crate_1 8 rfl rfl)
theorem dX1_crate_32 : decode cX1_crate 32 = .ok (.getfield 31, 3) := dk_180 0 31 (dk_at dksX1_crate_1 9 rfl rfl)
theorem dX1_crate_35 : decode cX1_crate 35 = .ok (.getfield 173, 3) := dk_180 0 173 (dk_at dksX1_crate_1 12 rfl rfl)
theorem dX1_crate_38 : decode cX1_crate 38 = .ok (.iload_n 1, 1) := dk_27 (dk_at dksX1_crate_1 15 rfl rfl)
theorem dX1_crate_39 : decode cX1_crate 39 = .ok (.iaload, 1) := dk_46 (dk_at dksX1_crate_1 16 rfl rfl)
theorem dX1_crate_40 : decode cX1_crate 40 = .ok (.goto 46, 3) := dk_167 0 46 (dk_at dksX1_crate_1 17 rfl rfl)
theorem dX1_crate_43 : decode cX1_crate 43 = .ok (.iload_n 2, 1) := dk_28 (dk_at dksX1_crate_1 20 rfl rfl)
theorem dX1_crate_44 : decode cX1_crate 44 = .ok (.iconst 2, 1) := dk_5 (dk_at dksX1_crate_1 21 rfl rfl)
theorem dX1_crate_45 : decode cX1_crate 45 = .ok (.if_icmp .ne 15, 3) := dk_160 0 15 (dk_at dksX1_crate_2 0 rfl rfl)
theorem dX1_crate_48 : decode cX1_crate 48 = .ok (.aload_n 0, 1) := dk_42 (dk_at dksX1_crate_2 3 rfl rfl)
theorem dX1_crate_49 : decode cX1_crate 49 = .ok (.getfield 31, 3) := dk_180 0 31 (dk_at dksX1_crate_2 4 rfl rfl)
theorem dX1_crate_52 : decode cX1_crate 52 = .ok (.getfield 176, 3) := dk_180 0 176 (dk_at dksX1_crate_2 7 rfl rfl)
theorem dX1_crate_55 : decode cX1_crate 55 = .ok (.iload_n 1, 1) := dk_27 (dk_at dksX1_crate_2 10 rfl rfl)
theorem dX1_crate_56 : decode cX1_crate 56 = .ok (.iaload, 1) := dk_46 (dk_at dksX1_crate_2 11 rfl rfl)
theorem dX1_crate_57 : decode cX1_crate 57 = .ok (.goto 29, 3) := dk_167 0 29 (dk_at dksX1_crate_2 12 rfl rfl)
theorem dX1_crate_60 : decode cX1_crate 60 = .ok (.iload_n 2, 1) := dk_28 (dk_at dksX1_crate_2 15 rfl rfl)
theorem dX1_crate_61 : decode cX1_crate 61 = .ok (.iconst 3, 1) := dk_6 (dk_at dksX1_crate_2 16 rfl rfl)
theorem dX1_crate_62 : decode cX1_crate 62 = .ok (.if_icmp .ne 15, 3) := dk_160 0 15 (dk_at dksX1_crate_2 17 rfl rfl)
theorem dX1_crate_65 : decode cX1_crate 65 = .ok (.aload_n 0, 1) := dk_42 (dk_at dksX1_crate_2 20 rfl rfl)
theorem dX1_crate_66 : decode cX1_crate 66 = .ok (.getfield 31, 3) := dk_180 0 31 (dk_at dksX1_crate_2 21 rfl rfl)
theorem dX1_crate_69 : decode cX1_crate 69 = .ok (.getfield 131, 3) := dk_180 0 131 (dk_at dksX1_crate_3 0 rfl rfl)
theorem dX1_crate_72 : decode cX1_crate 72 = .ok (.iload_n 1, 1) := dk_27 (dk_at dksX1_crate_3 3 rfl rfl)
theorem dX1_crate_73 : decode cX1_crate 73 = .ok (.iaload, 1) := dk_46 (dk_at dksX1_crate_3 4 rfl rfl)
theorem dX1_crate_74 : decode cX1_crate 74 = .ok (.goto 12, 3) := dk_167 0 12 (dk_at dksX1_crate_3 5 rfl rfl)
theorem dX1_crate_77 : decode cX1_crate 77 = .ok (.aload_n 0, 1) := dk_42 (dk_at dksX1_crate_3 8 rfl rfl)
theorem dX1_crate_78 : decode cX1_crate 78 = .ok (.getfield 31, 3) := dk_180 0 31 (dk_at dksX1_crate_3 9 rfl rfl)
theorem dX1_crate_81 : decode cX1_crate 81 = .ok (.getfield 179, 3) := dk_180 0 179 (dk_at dksX1_crate_3 12 rfl rfl)
theorem dX1_crate_84 : decode cX1_crate 84 = .ok (.iload_n 1, 1) := dk_27 (dk_at dksX1_crate_3 15 rfl rfl)
theorem dX1_crate_85 : decode cX1_crate 85 = .ok (.iaload, 1) := dk_46 (dk_at dksX1_crate_3 16 rfl rfl)
theorem dX1_crate_86 : decode cX1_crate 86 = .ok (.ireturn, 1) := dk_172 (dk_at dksX1_crate_3 17 rfl rfl)
abbrev cX1_aCrate : ByteArray := prog_1_method_11_code
def yX1_aCrate : MethodName := ⟨RX1, "aCrate", "(I)V"⟩
def dkwX1_aCrate_0 : List UInt8 := [27, 3, 42, 180, 0, 22, 180, 0, 104, 4, 100, 184, 0, 134, 184, 0, 138, 177]
abbrev dktX1_aCrate_0 : List UInt8 := dkwX1_aCrate_0 ++ []
theorem dksX1_aCrate_0 : cX1_aCrate.data.toList.drop 0 = dktX1_aCrate_0 := by decide +kernel
theorem dX1_aCrate_0 : decode cX1_aCrate 0 = .ok (.iload_n 1, 1) := dk_27 (dk_at dksX1_aCrate_0 0 rfl rfl)
theorem dX1_aCrate_1 : decode cX1_aCrate 1 = .ok (.iconst 0, 1) := dk_3 (dk_at dksX1_aCrate_0 1 rfl rfl)
theorem dX1_aCrate_2 : decode cX1_aCrate 2 = .ok (.aload_n 0, 1) := dk_42 (dk_at dksX1_aCrate_0 2 rfl rfl)
theorem dX1_aCrate_3 : decode cX1_aCrate 3 = .ok (.getfield 22, 3) := dk_180 0 22 (dk_at dksX1_aCrate_0 3 rfl rfl)
theorem dX1_aCrate_6 : decode cX1_aCrate 6 = .ok (.getfield 104, 3) := dk_180 0 104 (dk_at dksX1_aCrate_0 6 rfl rfl)
theorem dX1_aCrate_9 : decode cX1_aCrate 9 = .ok (.iconst 1, 1) := dk_4 (dk_at dksX1_aCrate_0 9 rfl rfl)
theorem dX1_aCrate_10 : decode cX1_aCrate 10 = .ok (.isub, 1) := dk_100 (dk_at dksX1_aCrate_0 10 rfl rfl)
theorem dX1_aCrate_11 : decode cX1_aCrate 11 = .ok (.invokestatic 134, 3) := dk_184 0 134 (dk_at dksX1_aCrate_0 11 rfl rfl)
theorem dX1_aCrate_14 : decode cX1_aCrate 14 = .ok (.invokestatic 138, 3) := dk_184 0 138 (dk_at dksX1_aCrate_0 14 rfl rfl)
theorem dX1_aCrate_17 : decode cX1_aCrate 17 = .ok (.return_, 1) := dk_177 (dk_at dksX1_aCrate_0 17 rfl rfl)
abbrev cX1_oneOf : ByteArray := prog_1_method_12_code
def yX1_oneOf : MethodName := ⟨RX1, "oneOf", "(II)V"⟩
def dkwX1_oneOf_0 : List UInt8 := [26, 3, 27, 184, 0, 134, 184, 0, 138, 177]
abbrev dktX1_oneOf_0 : List UInt8 := dkwX1_oneOf_0 ++ []
theorem dksX1_oneOf_0 : cX1_oneOf.data.toList.drop 0 = dktX1_oneOf_0 := by decide +kernel
theorem dX1_oneOf_0 : decode cX1_oneOf 0 = .ok (.iload_n 0, 1) := dk_26 (dk_at dksX1_oneOf_0 0 rfl rfl)
theorem dX1_oneOf_1 : decode cX1_oneOf 1 = .ok (.iconst 0, 1) := dk_3 (dk_at dksX1_oneOf_0 1 rfl rfl)
theorem dX1_oneOf_2 : decode cX1_oneOf 2 = .ok (.iload_n 1, 1) := dk_27 (dk_at dksX1_oneOf_0 2 rfl rfl)
theorem dX1_oneOf_3 : decode cX1_oneOf 3 = .ok (.invokestatic 134, 3) := dk_184 0 134 (dk_at dksX1_oneOf_0 3 rfl rfl)
theorem dX1_oneOf_6 : decode cX1_oneOf 6 = .ok (.invokestatic 138, 3) := dk_184 0 138 (dk_at dksX1_oneOf_0 6 rfl rfl)
theorem dX1_oneOf_9 : decode cX1_oneOf 9 = .ok (.return_, 1) := dk_177 (dk_at dksX1_oneOf_0 9 rfl rfl)
abbrev cX1_send : ByteArray := prog_1_method_18_code
def yX1_send : MethodName := ⟨RX1, "send", "(II)I"⟩
def dkwX1_send_5 : List UInt8 := [180, 0, 214, 27, 45, 180, 0, 217, 79, 42, 180, 0, 31, 180, 0, 131, 27, 46, 172]
abbrev dktX1_send_5 : List UInt8 := dkwX1_send_5 ++ []
def dkwX1_send_4 : List UInt8 := [27, 46, 182, 0, 208, 79, 42, 180, 0, 31, 180, 0, 179, 27, 45, 180, 0, 211, 79, 42, 180, 0, 31]
abbrev dktX1_send_4 : List UInt8 := dkwX1_send_4 ++ dktX1_send_5
def dkwX1_send_3 : List UInt8 := [182, 0, 193, 172, 42, 182, 0, 196, 42, 180, 0, 31, 180, 0, 131, 27, 45, 42, 180, 0, 31, 180, 0, 131]
abbrev dktX1_send_3 : List UInt8 := dkwX1_send_3 ++ dktX1_send_4
def dkwX1_send_2 : List UInt8 := [153, 0, 20, 45, 42, 180, 0, 31, 180, 0, 131, 27, 46, 182, 0, 208, 2, 160, 0, 9, 42, 4]
abbrev dktX1_send_2 : List UInt8 := dkwX1_send_2 ++ dktX1_send_3
def dkwX1_send_1 : List UInt8 := [180, 0, 22, 180, 0, 96, 28, 185, 0, 148, 2, 0, 192, 0, 203, 78, 42, 180, 0, 31, 27, 182, 0, 205]
abbrev dktX1_send_1 : List UInt8 := dkwX1_send_1 ++ dktX1_send_2
def dkwX1_send_0 : List UInt8 := [42, 27, 182, 0, 163, 28, 42, 180, 0, 22, 180, 0, 96, 185, 0, 99, 1, 0, 4, 100, 184, 0, 166, 42]
abbrev dktX1_send_0 : List UInt8 := dkwX1_send_0 ++ dktX1_send_1
theorem dksX1_send_0 : cX1_send.data.toList.drop 0 = dktX1_send_0 := by decide +kernel
theorem dksX1_send_1 : cX1_send.data.toList.drop 24 = dktX1_send_1 := dk_seg dksX1_send_0 24 rfl rfl
theorem dksX1_send_2 : cX1_send.data.toList.drop 48 = dktX1_send_2 := dk_seg dksX1_send_1 24 rfl rfl
theorem dksX1_send_3 : cX1_send.data.toList.drop 70 = dktX1_send_3 := dk_seg dksX1_send_2 22 rfl rfl
theorem dksX1_send_4 : cX1_send.data.toList.drop 94 = dktX1_send_4 := dk_seg dksX1_send_3 24 rfl rfl
theorem dksX1_send_5 : cX1_send.data.toList.drop 117 = dktX1_send_5 := dk_seg dksX1_send_4 23 rfl rfl
theorem dX1_send_0 : decode cX1_send 0 = .ok (.aload_n 0, 1) := dk_42 (dk_at dksX1_send_0 0 rfl rfl)
theorem dX1_send_1 : decode cX1_send 1 = .ok (.iload_n 1, 1) := dk_27 (dk_at dksX1_send_0 1 rfl rfl)
theorem dX1_send_2 : decode cX1_send 2 = .ok (.invokevirtual 163, 3) := dk_182 0 163 (dk_at dksX1_send_0 2 rfl rfl)
theorem dX1_send_5 : decode cX1_send 5 = .ok (.iload_n 2, 1) := dk_28 (dk_at dksX1_send_0 5 rfl rfl)
theorem dX1_send_6 : decode cX1_send 6 = .ok (.aload_n 0, 1) := dk_42 (dk_at dksX1_send_0 6 rfl rfl)
theorem dX1_send_7 : decode cX1_send 7 = .ok (.getfield 22, 3) := dk_180 0 22 (dk_at dksX1_send_0 7 rfl rfl)
theorem dX1_send_10 : decode cX1_send 10 = .ok (.getfield 96, 3) := dk_180 0 96 (dk_at dksX1_send_0 10 rfl rfl)
theorem dX1_send_13 : decode cX1_send 13 = .ok (.invokeinterface 99 1, 5) := by decide +kernel
theorem dX1_send_18 : decode cX1_send 18 = .ok (.iconst 1, 1) := dk_4 (dk_at dksX1_send_0 18 rfl rfl)
theorem dX1_send_19 : decode cX1_send 19 = .ok (.isub, 1) := dk_100 (dk_at dksX1_send_0 19 rfl rfl)
theorem dX1_send_20 : decode cX1_send 20 = .ok (.invokestatic 166, 3) := dk_184 0 166 (dk_at dksX1_send_0 20 rfl rfl)
theorem dX1_send_23 : decode cX1_send 23 = .ok (.aload_n 0, 1) := dk_42 (dk_at dksX1_send_0 23 rfl rfl)
theorem dX1_send_24 : decode cX1_send 24 = .ok (.getfield 22, 3) := dk_180 0 22 (dk_at dksX1_send_1 0 rfl rfl)
theorem dX1_send_27 : decode cX1_send 27 = .ok (.getfield 96, 3) := dk_180 0 96 (dk_at dksX1_send_1 3 rfl rfl)
theorem dX1_send_30 : decode cX1_send 30 = .ok (.iload_n 2, 1) := dk_28 (dk_at dksX1_send_1 6 rfl rfl)
theorem dX1_send_31 : decode cX1_send 31 = .ok (.invokeinterface 148 2, 5) := by decide +kernel
theorem dX1_send_36 : decode cX1_send 36 = .ok (.checkcast 203, 3) := dk_192 0 203 (dk_at dksX1_send_1 12 rfl rfl)
theorem dX1_send_39 : decode cX1_send 39 = .ok (.astore_n 3, 1) := dk_78 (dk_at dksX1_send_1 15 rfl rfl)
theorem dX1_send_40 : decode cX1_send 40 = .ok (.aload_n 0, 1) := dk_42 (dk_at dksX1_send_1 16 rfl rfl)
theorem dX1_send_41 : decode cX1_send 41 = .ok (.getfield 31, 3) := dk_180 0 31 (dk_at dksX1_send_1 17 rfl rfl)
theorem dX1_send_44 : decode cX1_send 44 = .ok (.iload_n 1, 1) := dk_27 (dk_at dksX1_send_1 20 rfl rfl)
theorem dX1_send_45 : decode cX1_send 45 = .ok (.invokevirtual 205, 3) := dk_182 0 205 (dk_at dksX1_send_1 21 rfl rfl)
theorem dX1_send_48 : decode cX1_send 48 = .ok (.ifCond .eq 20, 3) := dk_153 0 20 (dk_at dksX1_send_2 0 rfl rfl)
theorem dX1_send_51 : decode cX1_send 51 = .ok (.aload_n 3, 1) := dk_45 (dk_at dksX1_send_2 3 rfl rfl)
theorem dX1_send_52 : decode cX1_send 52 = .ok (.aload_n 0, 1) := dk_42 (dk_at dksX1_send_2 4 rfl rfl)
theorem dX1_send_53 : decode cX1_send 53 = .ok (.getfield 31, 3) := dk_180 0 31 (dk_at dksX1_send_2 5 rfl rfl)
theorem dX1_send_56 : decode cX1_send 56 = .ok (.getfield 131, 3) := dk_180 0 131 (dk_at dksX1_send_2 8 rfl rfl)
theorem dX1_send_59 : decode cX1_send 59 = .ok (.iload_n 1, 1) := dk_27 (dk_at dksX1_send_2 11 rfl rfl)
theorem dX1_send_60 : decode cX1_send 60 = .ok (.iaload, 1) := dk_46 (dk_at dksX1_send_2 12 rfl rfl)
theorem dX1_send_61 : decode cX1_send 61 = .ok (.invokevirtual 208, 3) := dk_182 0 208 (dk_at dksX1_send_2 13 rfl rfl)
theorem dX1_send_64 : decode cX1_send 64 = .ok (.iconst (-1), 1) := dk_2 (dk_at dksX1_send_2 16 rfl rfl)
theorem dX1_send_65 : decode cX1_send 65 = .ok (.if_icmp .ne 9, 3) := dk_160 0 9 (dk_at dksX1_send_2 17 rfl rfl)
theorem dX1_send_68 : decode cX1_send 68 = .ok (.aload_n 0, 1) := dk_42 (dk_at dksX1_send_2 20 rfl rfl)
theorem dX1_send_69 : decode cX1_send 69 = .ok (.iconst 1, 1) := dk_4 (dk_at dksX1_send_2 21 rfl rfl)
theorem dX1_send_70 : decode cX1_send 70 = .ok (.invokevirtual 193, 3) := dk_182 0 193 (dk_at dksX1_send_3 0 rfl rfl)
theorem dX1_send_73 : decode cX1_send 73 = .ok (.ireturn, 1) := dk_172 (dk_at dksX1_send_3 3 rfl rfl)
theorem dX1_send_74 : decode cX1_send 74 = .ok (.aload_n 0, 1) := dk_42 (dk_at dksX1_send_3 4 rfl rfl)
theorem dX1_send_75 : decode cX1_send 75 = .ok (.invokevirtual 196, 3) := dk_182 0 196 (dk_at dksX1_send_3 5 rfl rfl)
theorem dX1_send_78 : decode cX1_send 78 = .ok (.aload_n 0, 1) := dk_42 (dk_at dksX1_send_3 8 rfl rfl)
theorem dX1_send_79 : decode cX1_send 79 = .ok (.getfield 31, 3) := dk_180 0 31 (dk_at dksX1_send_3 9 rfl rfl)
theorem dX1_send_82 : decode cX1_send 82 = .ok (.getfield 131, 3) := dk_180 0 131 (dk_at dksX1_send_3 12 rfl rfl)
theorem dX1_send_85 : decode cX1_send 85 = .ok (.iload_n 1, 1) := dk_27 (dk_at dksX1_send_3 15 rfl rfl)
theorem dX1_send_86 : decode cX1_send 86 = .ok (.aload_n 3, 1) := dk_45 (dk_at dksX1_send_3 16 rfl rfl)
theorem dX1_send_87 : decode cX1_send 87 = .ok (.aload_n 0, 1) := dk_42 (dk_at dksX1_send_3 17 rfl rfl)
theorem dX1_send_88 : decode cX1_send 88 = .ok (.getfield 31, 3) := dk_180 0 31 (dk_at dksX1_send_3 18 rfl rfl)
theorem dX1_send_91 : decode cX1_send 91 = .ok (.getfield 131, 3) := dk_180 0 131 (dk_at dksX1_send_3 21 rfl rfl)
theorem dX1_send_94 : decode cX1_send 94 = .ok (.iload_n 1, 1) := dk_27 (dk_at dksX1_send_4 0 rfl rfl)
theorem dX1_send_95 : decode cX1_send 95 = .ok (.iaload, 1) := dk_46 (dk_at dksX1_send_4 1 rfl rfl)
theorem dX1_send_96 : decode cX1_send 96 = .ok (.invokevirtual 208, 3) := dk_182 0 208 (dk_at dksX1_send_4 2 rfl rfl)
theorem dX1_send_99 : decode cX1_send 99 = .ok (.iastore, 1) := dk_79 (dk_at dksX1_send_4 5 rfl rfl)
theorem dX1_send_100 : decode cX1_send 100 = .ok (.aload_n 0, 1) := dk_42 (dk_at dksX1_send_4 6 rfl rfl)
theorem dX1_send_101 : decode cX1_send 101 = .ok (.getfield 31, 3) := dk_180 0 31 (dk_at dksX1_send_4 7 rfl rfl)
theorem dX1_send_104 : decode cX1_send 104 = .ok (.getfield 179, 3) := dk_180 0 179 (dk_at dksX1_send_4 10 rfl rfl)
theorem dX1_send_107 : decode cX1_send 107 = .ok (.iload_n 1, 1) := dk_27 (dk_at dksX1_send_4 13 rfl rfl)
theorem dX1_send_108 : decode cX1_send 108 = .ok (.aload_n 3, 1) := dk_45 (dk_at dksX1_send_4 14 rfl rfl)
theorem dX1_send_109 : decode cX1_send 109 = .ok (.getfield 211, 3) := dk_180 0 211 (dk_at dksX1_send_4 15 rfl rfl)
theorem dX1_send_112 : decode cX1_send 112 = .ok (.iastore, 1) := dk_79 (dk_at dksX1_send_4 18 rfl rfl)
theorem dX1_send_113 : decode cX1_send 113 = .ok (.aload_n 0, 1) := dk_42 (dk_at dksX1_send_4 19 rfl rfl)
theorem dX1_send_114 : decode cX1_send 114 = .ok (.getfield 31, 3) := dk_180 0 31 (dk_at dksX1_send_4 20 rfl rfl)
theorem dX1_send_117 : decode cX1_send 117 = .ok (.getfield 214, 3) := dk_180 0 214 (dk_at dksX1_send_5 0 rfl rfl)
theorem dX1_send_120 : decode cX1_send 120 = .ok (.iload_n 1, 1) := dk_27 (dk_at dksX1_send_5 3 rfl rfl)
theorem dX1_send_121 : decode cX1_send 121 = .ok (.aload_n 3, 1) := dk_45 (dk_at dksX1_send_5 4 rfl rfl)
theorem dX1_send_122 : decode cX1_send 122 = .ok (.getfield 217, 3) := dk_180 0 217 (dk_at dksX1_send_5 5 rfl rfl)
theorem dX1_send_125 : decode cX1_send 125 = .ok (.iastore, 1) := dk_79 (dk_at dksX1_send_5 8 rfl rfl)
theorem dX1_send_126 : decode cX1_send 126 = .ok (.aload_n 0, 1) := dk_42 (dk_at dksX1_send_5 9 rfl rfl)
theorem dX1_send_127 : decode cX1_send 127 = .ok (.getfield 31, 3) := dk_180 0 31 (dk_at dksX1_send_5 10 rfl rfl)
theorem dX1_send_130 : decode cX1_send 130 = .ok (.getfield 131, 3) := dk_180 0 131 (dk_at dksX1_send_5 13 rfl rfl)
theorem dX1_send_133 : decode cX1_send 133 = .ok (.iload_n 1, 1) := dk_27 (dk_at dksX1_send_5 16 rfl rfl)
theorem dX1_send_134 : decode cX1_send 134 = .ok (.iaload, 1) := dk_46 (dk_at dksX1_send_5 17 rfl rfl)
theorem dX1_send_135 : decode cX1_send 135 = .ok (.ireturn, 1) := dk_172 (dk_at dksX1_send_5 18 rfl rfl)
abbrev cX1_open : ByteArray := prog_1_method_19_code
def yX1_open : MethodName := ⟨RX1, "open", "(I)I"⟩
def dkwX1_open_1 : List UInt8 := [182, 0, 196, 42, 180, 0, 31, 27, 182, 0, 219, 172]
abbrev dktX1_open_1 : List UInt8 := dkwX1_open_1 ++ []
def dkwX1_open_0 : List UInt8 := [42, 27, 182, 0, 163, 42, 180, 0, 31, 27, 182, 0, 205, 154, 0, 9, 42, 4, 182, 0, 193, 172, 42]
abbrev dktX1_open_0 : List UInt8 := dkwX1_open_0 ++ dktX1_open_1
theorem dksX1_open_0 : cX1_open.data.toList.drop 0 = dktX1_open_0 := by decide +kernel
theorem dksX1_open_1 : cX1_open.data.toList.drop 23 = dktX1_open_1 := dk_seg dksX1_open_0 23 rfl rfl
theorem dX1_open_0 : decode cX1_open 0 = .ok (.aload_n 0, 1) := dk_42 (dk_at dksX1_open_0 0 rfl rfl)
theorem dX1_open_1 : decode cX1_open 1 = .ok (.iload_n 1, 1) := dk_27 (dk_at dksX1_open_0 1 rfl rfl)
theorem dX1_open_2 : decode cX1_open 2 = .ok (.invokevirtual 163, 3) := dk_182 0 163 (dk_at dksX1_open_0 2 rfl rfl)
theorem dX1_open_5 : decode cX1_open 5 = .ok (.aload_n 0, 1) := dk_42 (dk_at dksX1_open_0 5 rfl rfl)
theorem dX1_open_6 : decode cX1_open 6 = .ok (.getfield 31, 3) := dk_180 0 31 (dk_at dksX1_open_0 6 rfl rfl)
theorem dX1_open_9 : decode cX1_open 9 = .ok (.iload_n 1, 1) := dk_27 (dk_at dksX1_open_0 9 rfl rfl)
theorem dX1_open_10 : decode cX1_open 10 = .ok (.invokevirtual 205, 3) := dk_182 0 205 (dk_at dksX1_open_0 10 rfl rfl)
theorem dX1_open_13 : decode cX1_open 13 = .ok (.ifCond .ne 9, 3) := dk_154 0 9 (dk_at dksX1_open_0 13 rfl rfl)
theorem dX1_open_16 : decode cX1_open 16 = .ok (.aload_n 0, 1) := dk_42 (dk_at dksX1_open_0 16 rfl rfl)
theorem dX1_open_17 : decode cX1_open 17 = .ok (.iconst 1, 1) := dk_4 (dk_at dksX1_open_0 17 rfl rfl)
theorem dX1_open_18 : decode cX1_open 18 = .ok (.invokevirtual 193, 3) := dk_182 0 193 (dk_at dksX1_open_0 18 rfl rfl)
theorem dX1_open_21 : decode cX1_open 21 = .ok (.ireturn, 1) := dk_172 (dk_at dksX1_open_0 21 rfl rfl)
theorem dX1_open_22 : decode cX1_open 22 = .ok (.aload_n 0, 1) := dk_42 (dk_at dksX1_open_0 22 rfl rfl)
theorem dX1_open_23 : decode cX1_open 23 = .ok (.invokevirtual 196, 3) := dk_182 0 196 (dk_at dksX1_open_1 0 rfl rfl)
theorem dX1_open_26 : decode cX1_open 26 = .ok (.aload_n 0, 1) := dk_42 (dk_at dksX1_open_1 3 rfl rfl)
theorem dX1_open_27 : decode cX1_open 27 = .ok (.getfield 31, 3) := dk_180 0 31 (dk_at dksX1_open_1 4 rfl rfl)
theorem dX1_open_30 : decode cX1_open 30 = .ok (.iload_n 1, 1) := dk_27 (dk_at dksX1_open_1 7 rfl rfl)
theorem dX1_open_31 : decode cX1_open 31 = .ok (.invokevirtual 219, 3) := dk_182 0 219 (dk_at dksX1_open_1 8 rfl rfl)
theorem dX1_open_34 : decode cX1_open 34 = .ok (.ireturn, 1) := dk_172 (dk_at dksX1_open_1 11 rfl rfl)
abbrev cX1_cat : ByteArray := prog_1_method_20_code
def yX1_cat : MethodName := ⟨RX1, "cat", "(IZ)Z"⟩
def dkwX1_cat_3 : List UInt8 := [167, 0, 4, 3, 79, 4, 172]
abbrev dktX1_cat_3 : List UInt8 := dkwX1_cat_3 ++ []
def dkwX1_cat_2 : List UInt8 := [46, 4, 96, 79, 3, 172, 42, 182, 0, 196, 42, 180, 0, 31, 180, 0, 176, 27, 28, 153, 0, 7, 4]
abbrev dktX1_cat_2 : List UInt8 := dkwX1_cat_2 ++ dktX1_cat_3
def dkwX1_cat_1 : List UInt8 := [180, 0, 176, 27, 46, 4, 160, 0, 7, 4, 167, 0, 4, 3, 28, 160, 0, 15, 42, 180, 0, 43, 4, 92]
abbrev dktX1_cat_1 : List UInt8 := dkwX1_cat_1 ++ dktX1_cat_2
def dkwX1_cat_0 : List UInt8 := [42, 27, 182, 0, 163, 42, 180, 0, 31, 180, 0, 131, 27, 46, 2, 159, 0, 25, 42, 180, 0, 31]
abbrev dktX1_cat_0 : List UInt8 := dkwX1_cat_0 ++ dktX1_cat_1
theorem dksX1_cat_0 : cX1_cat.data.toList.drop 0 = dktX1_cat_0 := by decide +kernel
theorem dksX1_cat_1 : cX1_cat.data.toList.drop 22 = dktX1_cat_1 := dk_seg dksX1_cat_0 22 rfl rfl
theorem dksX1_cat_2 : cX1_cat.data.toList.drop 46 = dktX1_cat_2 := dk_seg dksX1_cat_1 24 rfl rfl
theorem dksX1_cat_3 : cX1_cat.data.toList.drop 69 = dktX1_cat_3 := dk_seg dksX1_cat_2 23 rfl rfl
theorem dX1_cat_0 : decode cX1_cat 0 = .ok (.aload_n 0, 1) := dk_42 (dk_at dksX1_cat_0 0 rfl rfl)
theorem dX1_cat_1 : decode cX1_cat 1 = .ok (.iload_n 1, 1) := dk_27 (dk_at dksX1_cat_0 1 rfl rfl)
theorem dX1_cat_2 : decode cX1_cat 2 = .ok (.invokevirtual 163, 3) := dk_182 0 163 (dk_at dksX1_cat_0 2 rfl rfl)
theorem dX1_cat_5 : decode cX1_cat 5 = .ok (.aload_n 0, 1) := dk_42 (dk_at dksX1_cat_0 5 rfl rfl)
theorem dX1_cat_6 : decode cX1_cat 6 = .ok (.getfield 31, 3) := dk_180 0 31 (dk_at dksX1_cat_0 6 rfl rfl)
theorem dX1_cat_9 : decode cX1_cat 9 = .ok (.getfield 131, 3) := dk_180 0 131 (dk_at dksX1_cat_0 9 rfl rfl)
theorem dX1_cat_12 : decode cX1_cat 12 = .ok (.iload_n 1, 1) := dk_27 (dk_at dksX1_cat_0 12 rfl rfl)
theorem dX1_cat_13 : decode cX1_cat 13 = .ok (.iaload, 1) := dk_46 (dk_at dksX1_cat_0 13 rfl rfl)
theorem dX1_cat_14 : decode cX1_cat 14 = .ok (.iconst (-1), 1) := dk_2 (dk_at dksX1_cat_0 14 rfl rfl)
theorem dX1_cat_15 : decode cX1_cat 15 = .ok (.if_icmp .eq 25, 3) := dk_159 0 25 (dk_at dksX1_cat_0 15 rfl rfl)
theorem dX1_cat_18 : decode cX1_cat 18 = .ok (.aload_n 0, 1) := dk_42 (dk_at dksX1_cat_0 18 rfl rfl)
theorem dX1_cat_19 : decode cX1_cat 19 = .ok (.getfield 31, 3) := dk_180 0 31 (dk_at dksX1_cat_0 19 rfl rfl)
theorem dX1_cat_22 : decode cX1_cat 22 = .ok (.getfield 176, 3) := dk_180 0 176 (dk_at dksX1_cat_1 0 rfl rfl)
theorem dX1_cat_25 : decode cX1_cat 25 = .ok (.iload_n 1, 1) := dk_27 (dk_at dksX1_cat_1 3 rfl rfl)
theorem dX1_cat_26 : decode cX1_cat 26 = .ok (.iaload, 1) := dk_46 (dk_at dksX1_cat_1 4 rfl rfl)
theorem dX1_cat_27 : decode cX1_cat 27 = .ok (.iconst 1, 1) := dk_4 (dk_at dksX1_cat_1 5 rfl rfl)
theorem dX1_cat_28 : decode cX1_cat 28 = .ok (.if_icmp .ne 7, 3) := dk_160 0 7 (dk_at dksX1_cat_1 6 rfl rfl)
theorem dX1_cat_31 : decode cX1_cat 31 = .ok (.iconst 1, 1) := dk_4 (dk_at dksX1_cat_1 9 rfl rfl)
theorem dX1_cat_32 : decode cX1_cat 32 = .ok (.goto 4, 3) := dk_167 0 4 (dk_at dksX1_cat_1 10 rfl rfl)
theorem dX1_cat_35 : decode cX1_cat 35 = .ok (.iconst 0, 1) := dk_3 (dk_at dksX1_cat_1 13 rfl rfl)
theorem dX1_cat_36 : decode cX1_cat 36 = .ok (.iload_n 2, 1) := dk_28 (dk_at dksX1_cat_1 14 rfl rfl)
theorem dX1_cat_37 : decode cX1_cat 37 = .ok (.if_icmp .ne 15, 3) := dk_160 0 15 (dk_at dksX1_cat_1 15 rfl rfl)
theorem dX1_cat_40 : decode cX1_cat 40 = .ok (.aload_n 0, 1) := dk_42 (dk_at dksX1_cat_1 18 rfl rfl)
theorem dX1_cat_41 : decode cX1_cat 41 = .ok (.getfield 43, 3) := dk_180 0 43 (dk_at dksX1_cat_1 19 rfl rfl)
theorem dX1_cat_44 : decode cX1_cat 44 = .ok (.iconst 1, 1) := dk_4 (dk_at dksX1_cat_1 22 rfl rfl)
theorem dX1_cat_45 : decode cX1_cat 45 = .ok (.dup2, 1) := dk_92 (dk_at dksX1_cat_1 23 rfl rfl)
theorem dX1_cat_46 : decode cX1_cat 46 = .ok (.iaload, 1) := dk_46 (dk_at dksX1_cat_2 0 rfl rfl)
theorem dX1_cat_47 : decode cX1_cat 47 = .ok (.iconst 1, 1) := dk_4 (dk_at dksX1_cat_2 1 rfl rfl)
theorem dX1_cat_48 : decode cX1_cat 48 = .ok (.iadd, 1) := dk_96 (dk_at dksX1_cat_2 2 rfl rfl)
theorem dX1_cat_49 : decode cX1_cat 49 = .ok (.iastore, 1) := dk_79 (dk_at dksX1_cat_2 3 rfl rfl)
theorem dX1_cat_50 : decode cX1_cat 50 = .ok (.iconst 0, 1) := dk_3 (dk_at dksX1_cat_2 4 rfl rfl)
theorem dX1_cat_51 : decode cX1_cat 51 = .ok (.ireturn, 1) := dk_172 (dk_at dksX1_cat_2 5 rfl rfl)
theorem dX1_cat_52 : decode cX1_cat 52 = .ok (.aload_n 0, 1) := dk_42 (dk_at dksX1_cat_2 6 rfl rfl)
theorem dX1_cat_53 : decode cX1_cat 53 = .ok (.invokevirtual 196, 3) := dk_182 0 196 (dk_at dksX1_cat_2 7 rfl rfl)
theorem dX1_cat_56 : decode cX1_cat 56 = .ok (.aload_n 0, 1) := dk_42 (dk_at dksX1_cat_2 10 rfl rfl)
theorem dX1_cat_57 : decode cX1_cat 57 = .ok (.getfield 31, 3) := dk_180 0 31 (dk_at dksX1_cat_2 11 rfl rfl)
theorem dX1_cat_60 : decode cX1_cat 60 = .ok (.getfield 176, 3) := dk_180 0 176 (dk_at dksX1_cat_2 14 rfl rfl)
theorem dX1_cat_63 : decode cX1_cat 63 = .ok (.iload_n 1, 1) := dk_27 (dk_at dksX1_cat_2 17 rfl rfl)
theorem dX1_cat_64 : decode cX1_cat 64 = .ok (.iload_n 2, 1) := dk_28 (dk_at dksX1_cat_2 18 rfl rfl)
theorem dX1_cat_65 : decode cX1_cat 65 = .ok (.ifCond .eq 7, 3) := dk_153 0 7 (dk_at dksX1_cat_2 19 rfl rfl)
theorem dX1_cat_68 : decode cX1_cat 68 = .ok (.iconst 1, 1) := dk_4 (dk_at dksX1_cat_2 22 rfl rfl)
theorem dX1_cat_69 : decode cX1_cat 69 = .ok (.goto 4, 3) := dk_167 0 4 (dk_at dksX1_cat_3 0 rfl rfl)
theorem dX1_cat_72 : decode cX1_cat 72 = .ok (.iconst 0, 1) := dk_3 (dk_at dksX1_cat_3 3 rfl rfl)
theorem dX1_cat_73 : decode cX1_cat 73 = .ok (.iastore, 1) := dk_79 (dk_at dksX1_cat_3 4 rfl rfl)
theorem dX1_cat_74 : decode cX1_cat 74 = .ok (.iconst 1, 1) := dk_4 (dk_at dksX1_cat_3 5 rfl rfl)
theorem dX1_cat_75 : decode cX1_cat 75 = .ok (.ireturn, 1) := dk_172 (dk_at dksX1_cat_3 6 rfl rfl)
abbrev cX1_mix : ByteArray := prog_1_method_21_code
def yX1_mix : MethodName := ⟨RX1, "mix", "(II)I"⟩
def dkwX1_mix_8 : List UInt8 := [172]
abbrev dktX1_mix_8 : List UInt8 := dkwX1_mix_8 ++ []
def dkwX1_mix_7 : List UInt8 := [21, 4, 100, 184, 0, 228, 79, 42, 180, 0, 31, 28, 182, 0, 231, 42, 180, 0, 31, 180, 0, 170, 27, 46]
abbrev dktX1_mix_7 : List UInt8 := dkwX1_mix_7 ++ dktX1_mix_8
def dkwX1_mix_6 : List UInt8 := [180, 0, 173, 27, 42, 180, 0, 31, 180, 0, 173, 28, 46, 79, 42, 180, 0, 31, 180, 0, 170, 27, 29]
abbrev dktX1_mix_6 : List UInt8 := dkwX1_mix_6 ++ dktX1_mix_7
def dkwX1_mix_5 : List UInt8 := [27, 16, 99, 29, 21, 4, 96, 184, 0, 222, 79, 167, 0, 43, 21, 4, 29, 164, 0, 21, 42, 180, 0, 31]
abbrev dktX1_mix_5 : List UInt8 := dkwX1_mix_5 ++ dktX1_mix_6
def dkwX1_mix_4 : List UInt8 := [180, 0, 173, 27, 46, 42, 180, 0, 31, 180, 0, 173, 28, 46, 160, 0, 24, 42, 180, 0, 31, 180, 0, 170]
abbrev dktX1_mix_4 : List UInt8 := dkwX1_mix_4 ++ dktX1_mix_5
def dkwX1_mix_3 : List UInt8 := [180, 0, 31, 180, 0, 170, 27, 46, 62, 42, 180, 0, 31, 180, 0, 170, 28, 46, 54, 4, 42, 180, 0, 31]
abbrev dktX1_mix_3 : List UInt8 := dkwX1_mix_3 ++ dktX1_mix_4
def dkwX1_mix_2 : List UInt8 := [180, 0, 31, 180, 0, 131, 28, 46, 159, 0, 9, 42, 4, 182, 0, 193, 172, 42, 182, 0, 196, 42]
abbrev dktX1_mix_2 : List UInt8 := dkwX1_mix_2 ++ dktX1_mix_3
def dkwX1_mix_1 : List UInt8 := [153, 0, 35, 42, 180, 0, 31, 28, 182, 0, 205, 153, 0, 24, 42, 180, 0, 31, 180, 0, 131, 27, 46, 42]
abbrev dktX1_mix_1 : List UInt8 := dkwX1_mix_1 ++ dktX1_mix_2
def dkwX1_mix_0 : List UInt8 := [42, 27, 182, 0, 163, 42, 28, 182, 0, 163, 27, 28, 159, 0, 46, 42, 180, 0, 31, 27, 182, 0, 205]
abbrev dktX1_mix_0 : List UInt8 := dkwX1_mix_0 ++ dktX1_mix_1
theorem dksX1_mix_0 : cX1_mix.data.toList.drop 0 = dktX1_mix_0 := by decide +kernel
theorem dksX1_mix_1 : cX1_mix.data.toList.drop 23 = dktX1_mix_1 := dk_seg dksX1_mix_0 23 rfl rfl
theorem dksX1_mix_2 : cX1_mix.data.toList.drop 47 = dktX1_mix_2 := dk_seg dksX1_mix_1 24 rfl rfl
theorem dksX1_mix_3 : cX1_mix.data.toList.drop 69 = dktX1_mix_3 := dk_seg dksX1_mix_2 22 rfl rfl
theorem dksX1_mix_4 : cX1_mix.data.toList.drop 93 = dktX1_mix_4 := dk_seg dksX1_mix_3 24 rfl rfl
theorem dksX1_mix_5 : cX1_mix.data.toList.drop 117 = dktX1_mix_5 := dk_seg dksX1_mix_4 24 rfl rfl
theorem dksX1_mix_6 : cX1_mix.data.toList.drop 141 = dktX1_mix_6 := dk_seg dksX1_mix_5 24 rfl rfl
theorem dksX1_mix_7 : cX1_mix.data.toList.drop 164 = dktX1_mix_7 := dk_seg dksX1_mix_6 23 rfl rfl
theorem dksX1_mix_8 : cX1_mix.data.toList.drop 188 = dktX1_mix_8 := dk_seg dksX1_mix_7 24 rfl rfl
theorem dX1_mix_0 : decode cX1_mix 0 = .ok (.aload_n 0, 1) := dk_42 (dk_at dksX1_mix_0 0 rfl rfl)
theorem dX1_mix_1 : decode cX1_mix 1 = .ok (.iload_n 1, 1) := dk_27 (dk_at dksX1_mix_0 1 rfl rfl)
theorem dX1_mix_2 : decode cX1_mix 2 = .ok (.invokevirtual 163, 3) := dk_182 0 163 (dk_at dksX1_mix_0 2 rfl rfl)
theorem dX1_mix_5 : decode cX1_mix 5 = .ok (.aload_n 0, 1) := dk_42 (dk_at dksX1_mix_0 5 rfl rfl)
theorem dX1_mix_6 : decode cX1_mix 6 = .ok (.iload_n 2, 1) := dk_28 (dk_at dksX1_mix_0 6 rfl rfl)
theorem dX1_mix_7 : decode cX1_mix 7 = .ok (.invokevirtual 163, 3) := dk_182 0 163 (dk_at dksX1_mix_0 7 rfl rfl)
theorem dX1_mix_10 : decode cX1_mix 10 = .ok (.iload_n 1, 1) := dk_27 (dk_at dksX1_mix_0 10 rfl rfl)
theorem dX1_mix_11 : decode cX1_mix 11 = .ok (.iload_n 2, 1) := dk_28 (dk_at dksX1_mix_0 11 rfl rfl)
theorem dX1_mix_12 : decode cX1_mix 12 = .ok (.if_icmp .eq 46, 3) := dk_159 0 46 (dk_at dksX1_mix_0 12 rfl rfl)
theorem dX1_mix_15 : decode cX1_mix 15 = .ok (.aload_n 0, 1) := dk_42 (dk_at dksX1_mix_0 15 rfl rfl)
theorem dX1_mix_16 : decode cX1_mix 16 = .ok (.getfield 31, 3) := dk_180 0 31 (dk_at dksX1_mix_0 16 rfl rfl)
theorem dX1_mix_19 : decode cX1_mix 19 = .ok (.iload_n 1, 1) := dk_27 (dk_at dksX1_mix_0 19 rfl rfl)
theorem dX1_mix_20 : decode cX1_mix 20 = .ok (.invokevirtual 205, 3) := dk_182 0 205 (dk_at dksX1_mix_0 20 rfl rfl)
theorem dX1_mix_23 : decode cX1_mix 23 = .ok (.ifCond .eq 35, 3) := dk_153 0 35 (dk_at dksX1_mix_1 0 rfl rfl)
theorem dX1_mix_26 : decode cX1_mix 26 = .ok (.aload_n 0, 1) := dk_42 (dk_at dksX1_mix_1 3 rfl rfl)
theorem dX1_mix_27 : decode cX1_mix 27 = .ok (.getfield 31, 3) := dk_180 0 31 (dk_at dksX1_mix_1 4 rfl rfl)
theorem dX1_mix_30 : decode cX1_mix 30 = .ok (.iload_n 2, 1) := dk_28 (dk_at dksX1_mix_1 7 rfl rfl)
theorem dX1_mix_31 : decode cX1_mix 31 = .ok (.invokevirtual 205, 3) := dk_182 0 205 (dk_at dksX1_mix_1 8 rfl rfl)
theorem dX1_mix_34 : decode cX1_mix 34 = .ok (.ifCond .eq 24, 3) := dk_153 0 24 (dk_at dksX1_mix_1 11 rfl rfl)
theorem dX1_mix_37 : decode cX1_mix 37 = .ok (.aload_n 0, 1) := dk_42 (dk_at dksX1_mix_1 14 rfl rfl)
theorem dX1_mix_38 : decode cX1_mix 38 = .ok (.getfield 31, 3) := dk_180 0 31 (dk_at dksX1_mix_1 15 rfl rfl)
theorem dX1_mix_41 : decode cX1_mix 41 = .ok (.getfield 131, 3) := dk_180 0 131 (dk_at dksX1_mix_1 18 rfl rfl)
theorem dX1_mix_44 : decode cX1_mix 44 = .ok (.iload_n 1, 1) := dk_27 (dk_at dksX1_mix_1 21 rfl rfl)
theorem dX1_mix_45 : decode cX1_mix 45 = .ok (.iaload, 1) := dk_46 (dk_at dksX1_mix_1 22 rfl rfl)
theorem dX1_mix_46 : decode cX1_mix 46 = .ok (.aload_n 0, 1) := dk_42 (dk_at dksX1_mix_1 23 rfl rfl)
theorem dX1_mix_47 : decode cX1_mix 47 = .ok (.getfield 31, 3) := dk_180 0 31 (dk_at dksX1_mix_2 0 rfl rfl)
theorem dX1_mix_50 : decode cX1_mix 50 = .ok (.getfield 131, 3) := dk_180 0 131 (dk_at dksX1_mix_2 3 rfl rfl)
theorem dX1_mix_53 : decode cX1_mix 53 = .ok (.iload_n 2, 1) := dk_28 (dk_at dksX1_mix_2 6 rfl rfl)
theorem dX1_mix_54 : decode cX1_mix 54 = .ok (.iaload, 1) := dk_46 (dk_at dksX1_mix_2 7 rfl rfl)
theorem dX1_mix_55 : decode cX1_mix 55 = .ok (.if_icmp .eq 9, 3) := dk_159 0 9 (dk_at dksX1_mix_2 8 rfl rfl)
theorem dX1_mix_58 : decode cX1_mix 58 = .ok (.aload_n 0, 1) := dk_42 (dk_at dksX1_mix_2 11 rfl rfl)
theorem dX1_mix_59 : decode cX1_mix 59 = .ok (.iconst 1, 1) := dk_4 (dk_at dksX1_mix_2 12 rfl rfl)
theorem dX1_mix_60 : decode cX1_mix 60 = .ok (.invokevirtual 193, 3) := dk_182 0 193 (dk_at dksX1_mix_2 13 rfl rfl)
theorem dX1_mix_63 : decode cX1_mix 63 = .ok (.ireturn, 1) := dk_172 (dk_at dksX1_mix_2 16 rfl rfl)
theorem dX1_mix_64 : decode cX1_mix 64 = .ok (.aload_n 0, 1) := dk_42 (dk_at dksX1_mix_2 17 rfl rfl)
theorem dX1_mix_65 : decode cX1_mix 65 = .ok (.invokevirtual 196, 3) := dk_182 0 196 (dk_at dksX1_mix_2 18 rfl rfl)
theorem dX1_mix_68 : decode cX1_mix 68 = .ok (.aload_n 0, 1) := dk_42 (dk_at dksX1_mix_2 21 rfl rfl)
theorem dX1_mix_69 : decode cX1_mix 69 = .ok (.getfield 31, 3) := dk_180 0 31 (dk_at dksX1_mix_3 0 rfl rfl)
theorem dX1_mix_72 : decode cX1_mix 72 = .ok (.getfield 170, 3) := dk_180 0 170 (dk_at dksX1_mix_3 3 rfl rfl)
theorem dX1_mix_75 : decode cX1_mix 75 = .ok (.iload_n 1, 1) := dk_27 (dk_at dksX1_mix_3 6 rfl rfl)
theorem dX1_mix_76 : decode cX1_mix 76 = .ok (.iaload, 1) := dk_46 (dk_at dksX1_mix_3 7 rfl rfl)
theorem dX1_mix_77 : decode cX1_mix 77 = .ok (.istore_n 3, 1) := dk_62 (dk_at dksX1_mix_3 8 rfl rfl)
theorem dX1_mix_78 : decode cX1_mix 78 = .ok (.aload_n 0, 1) := dk_42 (dk_at dksX1_mix_3 9 rfl rfl)
theorem dX1_mix_79 : decode cX1_mix 79 = .ok (.getfield 31, 3) := dk_180 0 31 (dk_at dksX1_mix_3 10 rfl rfl)
theorem dX1_mix_82 : decode cX1_mix 82 = .ok (.getfield 170, 3) := dk_180 0 170 (dk_at dksX1_mix_3 13 rfl rfl)
theorem dX1_mix_85 : decode cX1_mix 85 = .ok (.iload_n 2, 1) := dk_28 (dk_at dksX1_mix_3 16 rfl rfl)
theorem dX1_mix_86 : decode cX1_mix 86 = .ok (.iaload, 1) := dk_46 (dk_at dksX1_mix_3 17 rfl rfl)
theorem dX1_mix_87 : decode cX1_mix 87 = .ok (.istore 4, 2) := dk_54 4 (dk_at dksX1_mix_3 18 rfl rfl)
theorem dX1_mix_89 : decode cX1_mix 89 = .ok (.aload_n 0, 1) := dk_42 (dk_at dksX1_mix_3 20 rfl rfl)
theorem dX1_mix_90 : decode cX1_mix 90 = .ok (.getfield 31, 3) := dk_180 0 31 (dk_at dksX1_mix_3 21 rfl rfl)
theorem dX1_mix_93 : decode cX1_mix 93 = .ok (.getfield 173, 3) := dk_180 0 173 (dk_at dksX1_mix_4 0 rfl rfl)
theorem dX1_mix_96 : decode cX1_mix 96 = .ok (.iload_n 1, 1) := dk_27 (dk_at dksX1_mix_4 3 rfl rfl)
theorem dX1_mix_97 : decode cX1_mix 97 = .ok (.iaload, 1) := dk_46 (dk_at dksX1_mix_4 4 rfl rfl)
theorem dX1_mix_98 : decode cX1_mix 98 = .ok (.aload_n 0, 1) := dk_42 (dk_at dksX1_mix_4 5 rfl rfl)
theorem dX1_mix_99 : decode cX1_mix 99 = .ok (.getfield 31, 3) := dk_180 0 31 (dk_at dksX1_mix_4 6 rfl rfl)
theorem dX1_mix_102 : decode cX1_mix 102 = .ok (.getfield 173, 3) := dk_180 0 173 (dk_at dksX1_mix_4 9 rfl rfl)
theorem dX1_mix_105 : decode cX1_mix 105 = .ok (.iload_n 2, 1) := dk_28 (dk_at dksX1_mix_4 12 rfl rfl)
theorem dX1_mix_106 : decode cX1_mix 106 = .ok (.iaload, 1) := dk_46 (dk_at dksX1_mix_4 13 rfl rfl)
theorem dX1_mix_107 : decode cX1_mix 107 = .ok (.if_icmp .ne 24, 3) := dk_160 0 24 (dk_at dksX1_mix_4 14 rfl rfl)
theorem dX1_mix_110 : decode cX1_mix 110 = .ok (.aload_n 0, 1) := dk_42 (dk_at dksX1_mix_4 17 rfl rfl)
theorem dX1_mix_111 : decode cX1_mix 111 = .ok (.getfield 31, 3) := dk_180 0 31 (dk_at dksX1_mix_4 18 rfl rfl)
theorem dX1_mix_114 : decode cX1_mix 114 = .ok (.getfield 170, 3) := dk_180 0 170 (dk_at dksX1_mix_4 21 rfl rfl)
theorem dX1_mix_117 : decode cX1_mix 117 = .ok (.iload_n 1, 1) := dk_27 (dk_at dksX1_mix_5 0 rfl rfl)
theorem dX1_mix_118 : decode cX1_mix 118 = .ok (.bipush 99, 2) := dk_16 99 (dk_at dksX1_mix_5 1 rfl rfl)
theorem dX1_mix_120 : decode cX1_mix 120 = .ok (.iload_n 3, 1) := dk_29 (dk_at dksX1_mix_5 3 rfl rfl)
theorem dX1_mix_121 : decode cX1_mix 121 = .ok (.iload 4, 2) := dk_21 4 (dk_at dksX1_mix_5 4 rfl rfl)
theorem dX1_mix_123 : decode cX1_mix 123 = .ok (.iadd, 1) := dk_96 (dk_at dksX1_mix_5 6 rfl rfl)
theorem dX1_mix_124 : decode cX1_mix 124 = .ok (.invokestatic 222, 3) := dk_184 0 222 (dk_at dksX1_mix_5 7 rfl rfl)
theorem dX1_mix_127 : decode cX1_mix 127 = .ok (.iastore, 1) := dk_79 (dk_at dksX1_mix_5 10 rfl rfl)
theorem dX1_mix_128 : decode cX1_mix 128 = .ok (.goto 43, 3) := dk_167 0 43 (dk_at dksX1_mix_5 11 rfl rfl)
theorem dX1_mix_131 : decode cX1_mix 131 = .ok (.iload 4, 2) := dk_21 4 (dk_at dksX1_mix_5 14 rfl rfl)
theorem dX1_mix_133 : decode cX1_mix 133 = .ok (.iload_n 3, 1) := dk_29 (dk_at dksX1_mix_5 16 rfl rfl)
theorem dX1_mix_134 : decode cX1_mix 134 = .ok (.if_icmp .le 21, 3) := dk_164 0 21 (dk_at dksX1_mix_5 17 rfl rfl)
theorem dX1_mix_137 : decode cX1_mix 137 = .ok (.aload_n 0, 1) := dk_42 (dk_at dksX1_mix_5 20 rfl rfl)
theorem dX1_mix_138 : decode cX1_mix 138 = .ok (.getfield 31, 3) := dk_180 0 31 (dk_at dksX1_mix_5 21 rfl rfl)
theorem dX1_mix_141 : decode cX1_mix 141 = .ok (.getfield 173, 3) := dk_180 0 173 (dk_at dksX1_mix_6 0 rfl rfl)
theorem dX1_mix_144 : decode cX1_mix 144 = .ok (.iload_n 1, 1) := dk_27 (dk_at dksX1_mix_6 3 rfl rfl)
theorem dX1_mix_145 : decode cX1_mix 145 = .ok (.aload_n 0, 1) := dk_42 (dk_at dksX1_mix_6 4 rfl rfl)
theorem dX1_mix_146 : decode cX1_mix 146 = .ok (.getfield 31, 3) := dk_180 0 31 (dk_at dksX1_mix_6 5 rfl rfl)
theorem dX1_mix_149 : decode cX1_mix 149 = .ok (.getfield 173, 3) := dk_180 0 173 (dk_at dksX1_mix_6 8 rfl rfl)
theorem dX1_mix_152 : decode cX1_mix 152 = .ok (.iload_n 2, 1) := dk_28 (dk_at dksX1_mix_6 11 rfl rfl)
theorem dX1_mix_153 : decode cX1_mix 153 = .ok (.iaload, 1) := dk_46 (dk_at dksX1_mix_6 12 rfl rfl)
theorem dX1_mix_154 : decode cX1_mix 154 = .ok (.iastore, 1) := dk_79 (dk_at dksX1_mix_6 13 rfl rfl)
theorem dX1_mix_155 : decode cX1_mix 155 = .ok (.aload_n 0, 1) := dk_42 (dk_at dksX1_mix_6 14 rfl rfl)
theorem dX1_mix_156 : decode cX1_mix 156 = .ok (.getfield 31, 3) := dk_180 0 31 (dk_at dksX1_mix_6 15 rfl rfl)
theorem dX1_mix_159 : decode cX1_mix 159 = .ok (.getfield 170, 3) := dk_180 0 170 (dk_at dksX1_mix_6 18 rfl rfl)
theorem dX1_mix_162 : decode cX1_mix 162 = .ok (.iload_n 1, 1) := dk_27 (dk_at dksX1_mix_6 21 rfl rfl)
theorem dX1_mix_163 : decode cX1_mix 163 = .ok (.iload_n 3, 1) := dk_29 (dk_at dksX1_mix_6 22 rfl rfl)
theorem dX1_mix_164 : decode cX1_mix 164 = .ok (.iload 4, 2) := dk_21 4 (dk_at dksX1_mix_7 0 rfl rfl)
theorem dX1_mix_166 : decode cX1_mix 166 = .ok (.isub, 1) := dk_100 (dk_at dksX1_mix_7 2 rfl rfl)
theorem dX1_mix_167 : decode cX1_mix 167 = .ok (.invokestatic 228, 3) := dk_184 0 228 (dk_at dksX1_mix_7 3 rfl rfl)
theorem dX1_mix_170 : decode cX1_mix 170 = .ok (.iastore, 1) := dk_79 (dk_at dksX1_mix_7 6 rfl rfl)
theorem dX1_mix_171 : decode cX1_mix 171 = .ok (.aload_n 0, 1) := dk_42 (dk_at dksX1_mix_7 7 rfl rfl)
theorem dX1_mix_172 : decode cX1_mix 172 = .ok (.getfield 31, 3) := dk_180 0 31 (dk_at dksX1_mix_7 8 rfl rfl)
theorem dX1_mix_175 : decode cX1_mix 175 = .ok (.iload_n 2, 1) := dk_28 (dk_at dksX1_mix_7 11 rfl rfl)
theorem dX1_mix_176 : decode cX1_mix 176 = .ok (.invokevirtual 231, 3) := dk_182 0 231 (dk_at dksX1_mix_7 12 rfl rfl)
theorem dX1_mix_179 : decode cX1_mix 179 = .ok (.aload_n 0, 1) := dk_42 (dk_at dksX1_mix_7 15 rfl rfl)
theorem dX1_mix_180 : decode cX1_mix 180 = .ok (.getfield 31, 3) := dk_180 0 31 (dk_at dksX1_mix_7 16 rfl rfl)
theorem dX1_mix_183 : decode cX1_mix 183 = .ok (.getfield 170, 3) := dk_180 0 170 (dk_at dksX1_mix_7 19 rfl rfl)
theorem dX1_mix_186 : decode cX1_mix 186 = .ok (.iload_n 1, 1) := dk_27 (dk_at dksX1_mix_7 22 rfl rfl)
theorem dX1_mix_187 : decode cX1_mix 187 = .ok (.iaload, 1) := dk_46 (dk_at dksX1_mix_7 23 rfl rfl)
theorem dX1_mix_188 : decode cX1_mix 188 = .ok (.ireturn, 1) := dk_172 (dk_at dksX1_mix_8 0 rfl rfl)
abbrev cX1_then : ByteArray := prog_1_method_23_code
def yX1_then : MethodName := ⟨RX1, "then", "(III)I"⟩
def dkwX1_then_3 : List UInt8 := [27, 46, 167, 0, 9, 25, 4, 27, 182, 0, 160, 172]
abbrev dktX1_then_3 : List UInt8 := dkwX1_then_3 ++ []
def dkwX1_then_2 : List UInt8 := [4, 160, 0, 13, 25, 4, 180, 0, 117, 27, 46, 167, 0, 24, 29, 5, 160, 0, 13, 25, 4, 180, 0, 120]
abbrev dktX1_then_2 : List UInt8 := dkwX1_then_2 ++ dktX1_then_3
def dkwX1_then_1 : List UInt8 := [182, 0, 182, 28, 182, 0, 199, 58, 4, 29, 154, 0, 13, 25, 4, 180, 0, 110, 27, 46, 167, 0, 39, 29]
abbrev dktX1_then_1 : List UInt8 := dkwX1_then_1 ++ dktX1_then_2
def dkwX1_then_0 : List UInt8 := [42, 27, 182, 0, 141, 29, 6, 184, 0, 166, 28, 3, 16, 60, 184, 0, 134, 184, 0, 65, 42, 180, 0, 31]
abbrev dktX1_then_0 : List UInt8 := dkwX1_then_0 ++ dktX1_then_1
theorem dksX1_then_0 : cX1_then.data.toList.drop 0 = dktX1_then_0 := by decide +kernel
theorem dksX1_then_1 : cX1_then.data.toList.drop 24 = dktX1_then_1 := dk_seg dksX1_then_0 24 rfl rfl
theorem dksX1_then_2 : cX1_then.data.toList.drop 48 = dktX1_then_2 := dk_seg dksX1_then_1 24 rfl rfl
theorem dksX1_then_3 : cX1_then.data.toList.drop 72 = dktX1_then_3 := dk_seg dksX1_then_2 24 rfl rfl
theorem dX1_then_0 : decode cX1_then 0 = .ok (.aload_n 0, 1) := dk_42 (dk_at dksX1_then_0 0 rfl rfl)
theorem dX1_then_1 : decode cX1_then 1 = .ok (.iload_n 1, 1) := dk_27 (dk_at dksX1_then_0 1 rfl rfl)
theorem dX1_then_2 : decode cX1_then 2 = .ok (.invokevirtual 141, 3) := dk_182 0 141 (dk_at dksX1_then_0 2 rfl rfl)
theorem dX1_then_5 : decode cX1_then 5 = .ok (.iload_n 3, 1) := dk_29 (dk_at dksX1_then_0 5 rfl rfl)
theorem dX1_then_6 : decode cX1_then 6 = .ok (.iconst 3, 1) := dk_6 (dk_at dksX1_then_0 6 rfl rfl)
theorem dX1_then_7 : decode cX1_then 7 = .ok (.invokestatic 166, 3) := dk_184 0 166 (dk_at dksX1_then_0 7 rfl rfl)
theorem dX1_then_10 : decode cX1_then 10 = .ok (.iload_n 2, 1) := dk_28 (dk_at dksX1_then_0 10 rfl rfl)
theorem dX1_then_11 : decode cX1_then 11 = .ok (.iconst 0, 1) := dk_3 (dk_at dksX1_then_0 11 rfl rfl)
theorem dX1_then_12 : decode cX1_then 12 = .ok (.bipush 60, 2) := dk_16 60 (dk_at dksX1_then_0 12 rfl rfl)
theorem dX1_then_14 : decode cX1_then 14 = .ok (.invokestatic 134, 3) := dk_184 0 134 (dk_at dksX1_then_0 14 rfl rfl)
theorem dX1_then_17 : decode cX1_then 17 = .ok (.invokestatic 65, 3) := dk_184 0 65 (dk_at dksX1_then_0 17 rfl rfl)
theorem dX1_then_20 : decode cX1_then 20 = .ok (.aload_n 0, 1) := dk_42 (dk_at dksX1_then_0 20 rfl rfl)
theorem dX1_then_21 : decode cX1_then 21 = .ok (.getfield 31, 3) := dk_180 0 31 (dk_at dksX1_then_0 21 rfl rfl)
theorem dX1_then_24 : decode cX1_then 24 = .ok (.invokevirtual 182, 3) := dk_182 0 182 (dk_at dksX1_then_1 0 rfl rfl)
theorem dX1_then_27 : decode cX1_then 27 = .ok (.iload_n 2, 1) := dk_28 (dk_at dksX1_then_1 3 rfl rfl)
theorem dX1_then_28 : decode cX1_then 28 = .ok (.invokevirtual 199, 3) := dk_182 0 199 (dk_at dksX1_then_1 4 rfl rfl)
theorem dX1_then_31 : decode cX1_then 31 = .ok (.astore 4, 2) := dk_58 4 (dk_at dksX1_then_1 7 rfl rfl)
theorem dX1_then_33 : decode cX1_then 33 = .ok (.iload_n 3, 1) := dk_29 (dk_at dksX1_then_1 9 rfl rfl)
theorem dX1_then_34 : decode cX1_then 34 = .ok (.ifCond .ne 13, 3) := dk_154 0 13 (dk_at dksX1_then_1 10 rfl rfl)
theorem dX1_then_37 : decode cX1_then 37 = .ok (.aload 4, 2) := dk_25 4 (dk_at dksX1_then_1 13 rfl rfl)
theorem dX1_then_39 : decode cX1_then 39 = .ok (.getfield 110, 3) := dk_180 0 110 (dk_at dksX1_then_1 15 rfl rfl)
theorem dX1_then_42 : decode cX1_then 42 = .ok (.iload_n 1, 1) := dk_27 (dk_at dksX1_then_1 18 rfl rfl)
theorem dX1_then_43 : decode cX1_then 43 = .ok (.iaload, 1) := dk_46 (dk_at dksX1_then_1 19 rfl rfl)
theorem dX1_then_44 : decode cX1_then 44 = .ok (.goto 39, 3) := dk_167 0 39 (dk_at dksX1_then_1 20 rfl rfl)
theorem dX1_then_47 : decode cX1_then 47 = .ok (.iload_n 3, 1) := dk_29 (dk_at dksX1_then_1 23 rfl rfl)
theorem dX1_then_48 : decode cX1_then 48 = .ok (.iconst 1, 1) := dk_4 (dk_at dksX1_then_2 0 rfl rfl)
theorem dX1_then_49 : decode cX1_then 49 = .ok (.if_icmp .ne 13, 3) := dk_160 0 13 (dk_at dksX1_then_2 1 rfl rfl)
theorem dX1_then_52 : decode cX1_then 52 = .ok (.aload 4, 2) := dk_25 4 (dk_at dksX1_then_2 4 rfl rfl)
theorem dX1_then_54 : decode cX1_then 54 = .ok (.getfield 117, 3) := dk_180 0 117 (dk_at dksX1_then_2 6 rfl rfl)
theorem dX1_then_57 : decode cX1_then 57 = .ok (.iload_n 1, 1) := dk_27 (dk_at dksX1_then_2 9 rfl rfl)
theorem dX1_then_58 : decode cX1_then 58 = .ok (.iaload, 1) := dk_46 (dk_at dksX1_then_2 10 rfl rfl)
theorem dX1_then_59 : decode cX1_then 59 = .ok (.goto 24, 3) := dk_167 0 24 (dk_at dksX1_then_2 11 rfl rfl)
theorem dX1_then_62 : decode cX1_then 62 = .ok (.iload_n 3, 1) := dk_29 (dk_at dksX1_then_2 14 rfl rfl)
theorem dX1_then_63 : decode cX1_then 63 = .ok (.iconst 2, 1) := dk_5 (dk_at dksX1_then_2 15 rfl rfl)
theorem dX1_then_64 : decode cX1_then 64 = .ok (.if_icmp .ne 13, 3) := dk_160 0 13 (dk_at dksX1_then_2 16 rfl rfl)
theorem dX1_then_67 : decode cX1_then 67 = .ok (.aload 4, 2) := dk_25 4 (dk_at dksX1_then_2 19 rfl rfl)
theorem dX1_then_69 : decode cX1_then 69 = .ok (.getfield 120, 3) := dk_180 0 120 (dk_at dksX1_then_2 21 rfl rfl)
theorem dX1_then_72 : decode cX1_then 72 = .ok (.iload_n 1, 1) := dk_27 (dk_at dksX1_then_3 0 rfl rfl)
theorem dX1_then_73 : decode cX1_then 73 = .ok (.iaload, 1) := dk_46 (dk_at dksX1_then_3 1 rfl rfl)
theorem dX1_then_74 : decode cX1_then 74 = .ok (.goto 9, 3) := dk_167 0 9 (dk_at dksX1_then_3 2 rfl rfl)
theorem dX1_then_77 : decode cX1_then 77 = .ok (.aload 4, 2) := dk_25 4 (dk_at dksX1_then_3 5 rfl rfl)
theorem dX1_then_79 : decode cX1_then 79 = .ok (.iload_n 1, 1) := dk_27 (dk_at dksX1_then_3 7 rfl rfl)
theorem dX1_then_80 : decode cX1_then 80 = .ok (.invokevirtual 160, 3) := dk_182 0 160 (dk_at dksX1_then_3 8 rfl rfl)
theorem dX1_then_83 : decode cX1_then 83 = .ok (.ireturn, 1) := dk_172 (dk_at dksX1_then_3 11 rfl rfl)
abbrev cX1_even : ByteArray := prog_1_method_24_code
def yX1_even : MethodName := ⟨RX1, "even", "(I)I"⟩
def dkwX1_even_2 : List UInt8 := [132, 3, 1, 167, 255, 224, 2, 172]
abbrev dktX1_even_2 : List UInt8 := dkwX1_even_2 ++ []
def dkwX1_even_1 : List UInt8 := [180, 0, 110, 27, 46, 44, 180, 0, 117, 27, 46, 160, 0, 5, 29, 172, 44, 3, 182, 0, 238, 87]
abbrev dktX1_even_1 : List UInt8 := dkwX1_even_1 ++ dktX1_even_2
def dkwX1_even_0 : List UInt8 := [42, 27, 182, 0, 141, 42, 180, 0, 31, 182, 0, 182, 77, 3, 62, 29, 16, 60, 163, 0, 32, 44]
abbrev dktX1_even_0 : List UInt8 := dkwX1_even_0 ++ dktX1_even_1
theorem dksX1_even_0 : cX1_even.data.toList.drop 0 = dktX1_even_0 := by decide +kernel
theorem dksX1_even_1 : cX1_even.data.toList.drop 22 = dktX1_even_1 := dk_seg dksX1_even_0 22 rfl rfl
theorem dksX1_even_2 : cX1_even.data.toList.drop 44 = dktX1_even_2 := dk_seg dksX1_even_1 22 rfl rfl
theorem dX1_even_0 : decode cX1_even 0 = .ok (.aload_n 0, 1) := dk_42 (dk_at dksX1_even_0 0 rfl rfl)
theorem dX1_even_1 : decode cX1_even 1 = .ok (.iload_n 1, 1) := dk_27 (dk_at dksX1_even_0 1 rfl rfl)
theorem dX1_even_2 : decode cX1_even 2 = .ok (.invokevirtual 141, 3) := dk_182 0 141 (dk_at dksX1_even_0 2 rfl rfl)
theorem dX1_even_5 : decode cX1_even 5 = .ok (.aload_n 0, 1) := dk_42 (dk_at dksX1_even_0 5 rfl rfl)
theorem dX1_even_6 : decode cX1_even 6 = .ok (.getfield 31, 3) := dk_180 0 31 (dk_at dksX1_even_0 6 rfl rfl)
theorem dX1_even_9 : decode cX1_even 9 = .ok (.invokevirtual 182, 3) := dk_182 0 182 (dk_at dksX1_even_0 9 rfl rfl)
theorem dX1_even_12 : decode cX1_even 12 = .ok (.astore_n 2, 1) := dk_77 (dk_at dksX1_even_0 12 rfl rfl)
theorem dX1_even_13 : decode cX1_even 13 = .ok (.iconst 0, 1) := dk_3 (dk_at dksX1_even_0 13 rfl rfl)
theorem dX1_even_14 : decode cX1_even 14 = .ok (.istore_n 3, 1) := dk_62 (dk_at dksX1_even_0 14 rfl rfl)
theorem dX1_even_15 : decode cX1_even 15 = .ok (.iload_n 3, 1) := dk_29 (dk_at dksX1_even_0 15 rfl rfl)
theorem dX1_even_16 : decode cX1_even 16 = .ok (.bipush 60, 2) := dk_16 60 (dk_at dksX1_even_0 16 rfl rfl)
theorem dX1_even_18 : decode cX1_even 18 = .ok (.if_icmp .gt 32, 3) := dk_163 0 32 (dk_at dksX1_even_0 18 rfl rfl)
theorem dX1_even_21 : decode cX1_even 21 = .ok (.aload_n 2, 1) := dk_44 (dk_at dksX1_even_0 21 rfl rfl)
theorem dX1_even_22 : decode cX1_even 22 = .ok (.getfield 110, 3) := dk_180 0 110 (dk_at dksX1_even_1 0 rfl rfl)
theorem dX1_even_25 : decode cX1_even 25 = .ok (.iload_n 1, 1) := dk_27 (dk_at dksX1_even_1 3 rfl rfl)
theorem dX1_even_26 : decode cX1_even 26 = .ok (.iaload, 1) := dk_46 (dk_at dksX1_even_1 4 rfl rfl)
theorem dX1_even_27 : decode cX1_even 27 = .ok (.aload_n 2, 1) := dk_44 (dk_at dksX1_even_1 5 rfl rfl)
theorem dX1_even_28 : decode cX1_even 28 = .ok (.getfield 117, 3) := dk_180 0 117 (dk_at dksX1_even_1 6 rfl rfl)
theorem dX1_even_31 : decode cX1_even 31 = .ok (.iload_n 1, 1) := dk_27 (dk_at dksX1_even_1 9 rfl rfl)
theorem dX1_even_32 : decode cX1_even 32 = .ok (.iaload, 1) := dk_46 (dk_at dksX1_even_1 10 rfl rfl)
theorem dX1_even_33 : decode cX1_even 33 = .ok (.if_icmp .ne 5, 3) := dk_160 0 5 (dk_at dksX1_even_1 11 rfl rfl)
theorem dX1_even_36 : decode cX1_even 36 = .ok (.iload_n 3, 1) := dk_29 (dk_at dksX1_even_1 14 rfl rfl)
theorem dX1_even_37 : decode cX1_even 37 = .ok (.ireturn, 1) := dk_172 (dk_at dksX1_even_1 15 rfl rfl)
theorem dX1_even_38 : decode cX1_even 38 = .ok (.aload_n 2, 1) := dk_44 (dk_at dksX1_even_1 16 rfl rfl)
theorem dX1_even_39 : decode cX1_even 39 = .ok (.iconst 0, 1) := dk_3 (dk_at dksX1_even_1 17 rfl rfl)
theorem dX1_even_40 : decode cX1_even 40 = .ok (.invokevirtual 238, 3) := dk_182 0 238 (dk_at dksX1_even_1 18 rfl rfl)
theorem dX1_even_43 : decode cX1_even 43 = .ok (.pop, 1) := dk_87 (dk_at dksX1_even_1 21 rfl rfl)
theorem dX1_even_44 : decode cX1_even 44 = .ok (.iinc 3 1, 3) := dk_132 3 1 (dk_at dksX1_even_2 0 rfl rfl)
theorem dX1_even_47 : decode cX1_even 47 = .ok (.goto (-32), 3) := dk_167 255 224 (dk_at dksX1_even_2 3 rfl rfl)
theorem dX1_even_50 : decode cX1_even 50 = .ok (.iconst (-1), 1) := dk_2 (dk_at dksX1_even_2 6 rfl rfl)
theorem dX1_even_51 : decode cX1_even 51 = .ok (.ireturn, 1) := dk_172 (dk_at dksX1_even_2 7 rfl rfl)
abbrev cX1_out : ByteArray := prog_1_method_25_code
def yX1_out : MethodName := ⟨RX1, "out", "(I)I"⟩
def dkwX1_out_1 : List UInt8 := [182, 0, 238, 180, 0, 242, 27, 184, 0, 245, 153, 0, 5, 29, 172, 132, 3, 1, 167, 255, 230, 2, 172]
abbrev dktX1_out_1 : List UInt8 := dkwX1_out_1 ++ []
def dkwX1_out_0 : List UInt8 := [42, 27, 182, 0, 141, 42, 180, 0, 31, 182, 0, 182, 77, 4, 62, 29, 16, 60, 163, 0, 26, 44, 3]
abbrev dktX1_out_0 : List UInt8 := dkwX1_out_0 ++ dktX1_out_1
theorem dksX1_out_0 : cX1_out.data.toList.drop 0 = dktX1_out_0 := by decide +kernel
theorem dksX1_out_1 : cX1_out.data.toList.drop 23 = dktX1_out_1 := dk_seg dksX1_out_0 23 rfl rfl
theorem dX1_out_0 : decode cX1_out 0 = .ok (.aload_n 0, 1) := dk_42 (dk_at dksX1_out_0 0 rfl rfl)
theorem dX1_out_1 : decode cX1_out 1 = .ok (.iload_n 1, 1) := dk_27 (dk_at dksX1_out_0 1 rfl rfl)
theorem dX1_out_2 : decode cX1_out 2 = .ok (.invokevirtual 141, 3) := dk_182 0 141 (dk_at dksX1_out_0 2 rfl rfl)
theorem dX1_out_5 : decode cX1_out 5 = .ok (.aload_n 0, 1) := dk_42 (dk_at dksX1_out_0 5 rfl rfl)
theorem dX1_out_6 : decode cX1_out 6 = .ok (.getfield 31, 3) := dk_180 0 31 (dk_at dksX1_out_0 6 rfl rfl)
theorem dX1_out_9 : decode cX1_out 9 = .ok (.invokevirtual 182, 3) := dk_182 0 182 (dk_at dksX1_out_0 9 rfl rfl)
theorem dX1_out_12 : decode cX1_out 12 = .ok (.astore_n 2, 1) := dk_77 (dk_at dksX1_out_0 12 rfl rfl)
theorem dX1_out_13 : decode cX1_out 13 = .ok (.iconst 1, 1) := dk_4 (dk_at dksX1_out_0 13 rfl rfl)
theorem dX1_out_14 : decode cX1_out 14 = .ok (.istore_n 3, 1) := dk_62 (dk_at dksX1_out_0 14 rfl rfl)
theorem dX1_out_15 : decode cX1_out 15 = .ok (.iload_n 3, 1) := dk_29 (dk_at dksX1_out_0 15 rfl rfl)
theorem dX1_out_16 : decode cX1_out 16 = .ok (.bipush 60, 2) := dk_16 60 (dk_at dksX1_out_0 16 rfl rfl)
theorem dX1_out_18 : decode cX1_out 18 = .ok (.if_icmp .gt 26, 3) := dk_163 0 26 (dk_at dksX1_out_0 18 rfl rfl)
theorem dX1_out_21 : decode cX1_out 21 = .ok (.aload_n 2, 1) := dk_44 (dk_at dksX1_out_0 21 rfl rfl)
theorem dX1_out_22 : decode cX1_out 22 = .ok (.iconst 0, 1) := dk_3 (dk_at dksX1_out_0 22 rfl rfl)
theorem dX1_out_23 : decode cX1_out 23 = .ok (.invokevirtual 238, 3) := dk_182 0 238 (dk_at dksX1_out_1 0 rfl rfl)
theorem dX1_out_26 : decode cX1_out 26 = .ok (.getfield 242, 3) := dk_180 0 242 (dk_at dksX1_out_1 3 rfl rfl)
theorem dX1_out_29 : decode cX1_out 29 = .ok (.iload_n 1, 1) := dk_27 (dk_at dksX1_out_1 6 rfl rfl)
theorem dX1_out_30 : decode cX1_out 30 = .ok (.invokestatic 245, 3) := dk_184 0 245 (dk_at dksX1_out_1 7 rfl rfl)
theorem dX1_out_33 : decode cX1_out 33 = .ok (.ifCond .eq 5, 3) := dk_153 0 5 (dk_at dksX1_out_1 10 rfl rfl)
theorem dX1_out_36 : decode cX1_out 36 = .ok (.iload_n 3, 1) := dk_29 (dk_at dksX1_out_1 13 rfl rfl)
theorem dX1_out_37 : decode cX1_out 37 = .ok (.ireturn, 1) := dk_172 (dk_at dksX1_out_1 14 rfl rfl)
theorem dX1_out_38 : decode cX1_out 38 = .ok (.iinc 3 1, 3) := dk_132 3 1 (dk_at dksX1_out_1 15 rfl rfl)
theorem dX1_out_41 : decode cX1_out 41 = .ok (.goto (-26), 3) := dk_167 255 230 (dk_at dksX1_out_1 18 rfl rfl)
theorem dX1_out_44 : decode cX1_out 44 = .ok (.iconst (-1), 1) := dk_2 (dk_at dksX1_out_1 21 rfl rfl)
theorem dX1_out_45 : decode cX1_out 45 = .ok (.ireturn, 1) := dk_172 (dk_at dksX1_out_1 22 rfl rfl)
abbrev cX1_isOf : ByteArray := prog_1_method_4_code
def yX1_isOf : MethodName := ⟨RX1, "isOf", "(II)Z"⟩
def dkwX1_isOf_0 : List UInt8 := [26, 27, 122, 4, 126, 4, 160, 0, 7, 4, 167, 0, 4, 3, 172]
abbrev dktX1_isOf_0 : List UInt8 := dkwX1_isOf_0 ++ []
theorem dksX1_isOf_0 : cX1_isOf.data.toList.drop 0 = dktX1_isOf_0 := by decide +kernel
theorem dX1_isOf_0 : decode cX1_isOf 0 = .ok (.iload_n 0, 1) := dk_26 (dk_at dksX1_isOf_0 0 rfl rfl)
theorem dX1_isOf_1 : decode cX1_isOf 1 = .ok (.iload_n 1, 1) := dk_27 (dk_at dksX1_isOf_0 1 rfl rfl)
theorem dX1_isOf_2 : decode cX1_isOf 2 = .ok (.ishr, 1) := dk_122 (dk_at dksX1_isOf_0 2 rfl rfl)
theorem dX1_isOf_3 : decode cX1_isOf 3 = .ok (.iconst 1, 1) := dk_4 (dk_at dksX1_isOf_0 3 rfl rfl)
theorem dX1_isOf_4 : decode cX1_isOf 4 = .ok (.iand, 1) := dk_126 (dk_at dksX1_isOf_0 4 rfl rfl)
theorem dX1_isOf_5 : decode cX1_isOf 5 = .ok (.iconst 1, 1) := dk_4 (dk_at dksX1_isOf_0 5 rfl rfl)
theorem dX1_isOf_6 : decode cX1_isOf 6 = .ok (.if_icmp .ne 7, 3) := dk_160 0 7 (dk_at dksX1_isOf_0 6 rfl rfl)
theorem dX1_isOf_9 : decode cX1_isOf 9 = .ok (.iconst 1, 1) := dk_4 (dk_at dksX1_isOf_0 9 rfl rfl)
theorem dX1_isOf_10 : decode cX1_isOf 10 = .ok (.goto 4, 3) := dk_167 0 4 (dk_at dksX1_isOf_0 10 rfl rfl)
theorem dX1_isOf_13 : decode cX1_isOf 13 = .ok (.iconst 0, 1) := dk_3 (dk_at dksX1_isOf_0 13 rfl rfl)
theorem dX1_isOf_14 : decode cX1_isOf 14 = .ok (.ireturn, 1) := dk_172 (dk_at dksX1_isOf_0 14 rfl rfl)
abbrev cX1_luckiest : ByteArray := prog_1_method_26_code
def yX1_luckiest : MethodName := ⟨RX1, "luckiest", "(I)I"⟩
def dkwX1_luckiest_2 : List UInt8 := [21, 4, 46, 44, 180, 0, 120, 29, 46, 164, 0, 6, 21, 4, 62, 132, 4, 1, 167, 255, 217, 29, 172]
abbrev dktX1_luckiest_2 : List UInt8 := dkwX1_luckiest_2 ++ []
def dkwX1_luckiest_1 : List UInt8 := [3, 54, 4, 21, 4, 42, 180, 0, 22, 182, 0, 92, 162, 0, 33, 29, 2, 159, 0, 19, 44, 180, 0, 120]
abbrev dktX1_luckiest_1 : List UInt8 := dkwX1_luckiest_1 ++ dktX1_luckiest_2
def dkwX1_luckiest_0 : List UInt8 := [27, 3, 16, 60, 184, 0, 134, 184, 0, 65, 42, 180, 0, 31, 182, 0, 182, 27, 182, 0, 199, 77, 2, 62]
abbrev dktX1_luckiest_0 : List UInt8 := dkwX1_luckiest_0 ++ dktX1_luckiest_1
theorem dksX1_luckiest_0 : cX1_luckiest.data.toList.drop 0 = dktX1_luckiest_0 := by decide +kernel
theorem dksX1_luckiest_1 : cX1_luckiest.data.toList.drop 24 = dktX1_luckiest_1 := dk_seg dksX1_luckiest_0 24 rfl rfl
theorem dksX1_luckiest_2 : cX1_luckiest.data.toList.drop 48 = dktX1_luckiest_2 := dk_seg dksX1_luckiest_1 24 rfl rfl
theorem dX1_luckiest_0 : decode cX1_luckiest 0 = .ok (.iload_n 1, 1) := dk_27 (dk_at dksX1_luckiest_0 0 rfl rfl)
theorem dX1_luckiest_1 : decode cX1_luckiest 1 = .ok (.iconst 0, 1) := dk_3 (dk_at dksX1_luckiest_0 1 rfl rfl)
theorem dX1_luckiest_2 : decode cX1_luckiest 2 = .ok (.bipush 60, 2) := dk_16 60 (dk_at dksX1_luckiest_0 2 rfl rfl)
theorem dX1_luckiest_4 : decode cX1_luckiest 4 = .ok (.invokestatic 134, 3) := dk_184 0 134 (dk_at dksX1_luckiest_0 4 rfl rfl)
theorem dX1_luckiest_7 : decode cX1_luckiest 7 = .ok (.invokestatic 65, 3) := dk_184 0 65 (dk_at dksX1_luckiest_0 7 rfl rfl)
theorem dX1_luckiest_10 : decode cX1_luckiest 10 = .ok (.aload_n 0, 1) := dk_42 (dk_at dksX1_luckiest_0 10 rfl rfl)
theorem dX1_luckiest_11 : decode cX1_luckiest 11 = .ok (.getfield 31, 3) := dk_180 0 31 (dk_at dksX1_luckiest_0 11 rfl rfl)
theorem dX1_luckiest_14 : decode cX1_luckiest 14 = .ok (.invokevirtual 182, 3) := dk_182 0 182 (dk_at dksX1_luckiest_0 14 rfl rfl)
theorem dX1_luckiest_17 : decode cX1_luckiest 17 = .ok (.iload_n 1, 1) := dk_27 (dk_at dksX1_luckiest_0 17 rfl rfl)
theorem dX1_luckiest_18 : decode cX1_luckiest 18 = .ok (.invokevirtual 199, 3) := dk_182 0 199 (dk_at dksX1_luckiest_0 18 rfl rfl)
theorem dX1_luckiest_21 : decode cX1_luckiest 21 = .ok (.astore_n 2, 1) := dk_77 (dk_at dksX1_luckiest_0 21 rfl rfl)
theorem dX1_luckiest_22 : decode cX1_luckiest 22 = .ok (.iconst (-1), 1) := dk_2 (dk_at dksX1_luckiest_0 22 rfl rfl)
theorem dX1_luckiest_23 : decode cX1_luckiest 23 = .ok (.istore_n 3, 1) := dk_62 (dk_at dksX1_luckiest_0 23 rfl rfl)
theorem dX1_luckiest_24 : decode cX1_luckiest 24 = .ok (.iconst 0, 1) := dk_3 (dk_at dksX1_luckiest_1 0 rfl rfl)
theorem dX1_luckiest_25 : decode cX1_luckiest 25 = .ok (.istore 4, 2) := dk_54 4 (dk_at dksX1_luckiest_1 1 rfl rfl)
theorem dX1_luckiest_27 : decode cX1_luckiest 27 = .ok (.iload 4, 2) := dk_21 4 (dk_at dksX1_luckiest_1 3 rfl rfl)
theorem dX1_luckiest_29 : decode cX1_luckiest 29 = .ok (.aload_n 0, 1) := dk_42 (dk_at dksX1_luckiest_1 5 rfl rfl)
theorem dX1_luckiest_30 : decode cX1_luckiest 30 = .ok (.getfield 22, 3) := dk_180 0 22 (dk_at dksX1_luckiest_1 6 rfl rfl)
theorem dX1_luckiest_33 : decode cX1_luckiest 33 = .ok (.invokevirtual 92, 3) := dk_182 0 92 (dk_at dksX1_luckiest_1 9 rfl rfl)
theorem dX1_luckiest_36 : decode cX1_luckiest 36 = .ok (.if_icmp .ge 33, 3) := dk_162 0 33 (dk_at dksX1_luckiest_1 12 rfl rfl)
theorem dX1_luckiest_39 : decode cX1_luckiest 39 = .ok (.iload_n 3, 1) := dk_29 (dk_at dksX1_luckiest_1 15 rfl rfl)
theorem dX1_luckiest_40 : decode cX1_luckiest 40 = .ok (.iconst (-1), 1) := dk_2 (dk_at dksX1_luckiest_1 16 rfl rfl)
theorem dX1_luckiest_41 : decode cX1_luckiest 41 = .ok (.if_icmp .eq 19, 3) := dk_159 0 19 (dk_at dksX1_luckiest_1 17 rfl rfl)
theorem dX1_luckiest_44 : decode cX1_luckiest 44 = .ok (.aload_n 2, 1) := dk_44 (dk_at dksX1_luckiest_1 20 rfl rfl)
theorem dX1_luckiest_45 : decode cX1_luckiest 45 = .ok (.getfield 120, 3) := dk_180 0 120 (dk_at dksX1_luckiest_1 21 rfl rfl)
theorem dX1_luckiest_48 : decode cX1_luckiest 48 = .ok (.iload 4, 2) := dk_21 4 (dk_at dksX1_luckiest_2 0 rfl rfl)
theorem dX1_luckiest_50 : decode cX1_luckiest 50 = .ok (.iaload, 1) := dk_46 (dk_at dksX1_luckiest_2 2 rfl rfl)
theorem dX1_luckiest_51 : decode cX1_luckiest 51 = .ok (.aload_n 2, 1) := dk_44 (dk_at dksX1_luckiest_2 3 rfl rfl)
theorem dX1_luckiest_52 : decode cX1_luckiest 52 = .ok (.getfield 120, 3) := dk_180 0 120 (dk_at dksX1_luckiest_2 4 rfl rfl)
theorem dX1_luckiest_55 : decode cX1_luckiest 55 = .ok (.iload_n 3, 1) := dk_29 (dk_at dksX1_luckiest_2 7 rfl rfl)
theorem dX1_luckiest_56 : decode cX1_luckiest 56 = .ok (.iaload, 1) := dk_46 (dk_at dksX1_luckiest_2 8 rfl rfl)
theorem dX1_luckiest_57 : decode cX1_luckiest 57 = .ok (.if_icmp .le 6, 3) := dk_164 0 6 (dk_at dksX1_luckiest_2 9 rfl rfl)
theorem dX1_luckiest_60 : decode cX1_luckiest 60 = .ok (.iload 4, 2) := dk_21 4 (dk_at dksX1_luckiest_2 12 rfl rfl)
theorem dX1_luckiest_62 : decode cX1_luckiest 62 = .ok (.istore_n 3, 1) := dk_62 (dk_at dksX1_luckiest_2 14 rfl rfl)
theorem dX1_luckiest_63 : decode cX1_luckiest 63 = .ok (.iinc 4 1, 3) := dk_132 4 1 (dk_at dksX1_luckiest_2 15 rfl rfl)
theorem dX1_luckiest_66 : decode cX1_luckiest 66 = .ok (.goto (-39), 3) := dk_167 255 217 (dk_at dksX1_luckiest_2 18 rfl rfl)
theorem dX1_luckiest_69 : decode cX1_luckiest 69 = .ok (.iload_n 3, 1) := dk_29 (dk_at dksX1_luckiest_2 21 rfl rfl)
theorem dX1_luckiest_70 : decode cX1_luckiest 70 = .ok (.ireturn, 1) := dk_172 (dk_at dksX1_luckiest_2 22 rfl rfl)
abbrev cX1_far : ByteArray := prog_1_method_28_code
def yX1_far : MethodName := ⟨RX1, "far", "(II)I"⟩
def dkwX1_far_1 : List UInt8 := [172]
abbrev dktX1_far_1 : List UInt8 := dkwX1_far_1 ++ []
def dkwX1_far_0 : List UInt8 := [42, 27, 182, 0, 141, 42, 28, 182, 0, 141, 42, 180, 0, 22, 27, 3, 182, 0, 250, 28, 46, 184, 0, 254]
abbrev dktX1_far_0 : List UInt8 := dkwX1_far_0 ++ dktX1_far_1
theorem dksX1_far_0 : cX1_far.data.toList.drop 0 = dktX1_far_0 := by decide +kernel
theorem dksX1_far_1 : cX1_far.data.toList.drop 24 = dktX1_far_1 := dk_seg dksX1_far_0 24 rfl rfl
theorem dX1_far_0 : decode cX1_far 0 = .ok (.aload_n 0, 1) := dk_42 (dk_at dksX1_far_0 0 rfl rfl)
theorem dX1_far_1 : decode cX1_far 1 = .ok (.iload_n 1, 1) := dk_27 (dk_at dksX1_far_0 1 rfl rfl)
theorem dX1_far_2 : decode cX1_far 2 = .ok (.invokevirtual 141, 3) := dk_182 0 141 (dk_at dksX1_far_0 2 rfl rfl)
theorem dX1_far_5 : decode cX1_far 5 = .ok (.aload_n 0, 1) := dk_42 (dk_at dksX1_far_0 5 rfl rfl)
theorem dX1_far_6 : decode cX1_far 6 = .ok (.iload_n 2, 1) := dk_28 (dk_at dksX1_far_0 6 rfl rfl)
theorem dX1_far_7 : decode cX1_far 7 = .ok (.invokevirtual 141, 3) := dk_182 0 141 (dk_at dksX1_far_0 7 rfl rfl)
theorem dX1_far_10 : decode cX1_far 10 = .ok (.aload_n 0, 1) := dk_42 (dk_at dksX1_far_0 10 rfl rfl)
theorem dX1_far_11 : decode cX1_far 11 = .ok (.getfield 22, 3) := dk_180 0 22 (dk_at dksX1_far_0 11 rfl rfl)
theorem dX1_far_14 : decode cX1_far 14 = .ok (.iload_n 1, 1) := dk_27 (dk_at dksX1_far_0 14 rfl rfl)
theorem dX1_far_15 : decode cX1_far 15 = .ok (.iconst 0, 1) := dk_3 (dk_at dksX1_far_0 15 rfl rfl)
theorem dX1_far_16 : decode cX1_far 16 = .ok (.invokevirtual 250, 3) := dk_182 0 250 (dk_at dksX1_far_0 16 rfl rfl)
theorem dX1_far_19 : decode cX1_far 19 = .ok (.iload_n 2, 1) := dk_28 (dk_at dksX1_far_0 19 rfl rfl)
theorem dX1_far_20 : decode cX1_far 20 = .ok (.iaload, 1) := dk_46 (dk_at dksX1_far_0 20 rfl rfl)
theorem dX1_far_21 : decode cX1_far 21 = .ok (.invokestatic 254, 3) := dk_184 0 254 (dk_at dksX1_far_0 21 rfl rfl)
theorem dX1_far_24 : decode cX1_far 24 = .ok (.ireturn, 1) := dk_172 (dk_at dksX1_far_1 0 rfl rfl)
abbrev cX1_told : ByteArray := prog_1_method_27_code
def yX1_told : MethodName := ⟨RX1, "told", "(I)I"⟩
def dkwX1_told_0 : List UInt8 := [26, 18, 249, 161, 0, 7, 2, 167, 0, 4, 26, 172]
abbrev dktX1_told_0 : List UInt8 := dkwX1_told_0 ++ []
theorem dksX1_told_0 : cX1_told.data.toList.drop 0 = dktX1_told_0 := by decide +kernel
theorem dX1_told_0 : decode cX1_told 0 = .ok (.iload_n 0, 1) := dk_26 (dk_at dksX1_told_0 0 rfl rfl)
theorem dX1_told_1 : decode cX1_told 1 = .ok (.ldc 249, 2) := dk_18 249 (dk_at dksX1_told_0 1 rfl rfl)
theorem dX1_told_3 : decode cX1_told 3 = .ok (.if_icmp .lt 7, 3) := dk_161 0 7 (dk_at dksX1_told_0 3 rfl rfl)
theorem dX1_told_6 : decode cX1_told 6 = .ok (.iconst (-1), 1) := dk_2 (dk_at dksX1_told_0 6 rfl rfl)
theorem dX1_told_7 : decode cX1_told 7 = .ok (.goto 4, 3) := dk_167 0 4 (dk_at dksX1_told_0 7 rfl rfl)
theorem dX1_told_10 : decode cX1_told 10 = .ok (.iload_n 0, 1) := dk_26 (dk_at dksX1_told_0 10 rfl rfl)
theorem dX1_told_11 : decode cX1_told 11 = .ok (.ireturn, 1) := dk_172 (dk_at dksX1_told_0 11 rfl rfl)
abbrev cX1_leak : ByteArray := prog_1_method_29_code
def yX1_leak : MethodName := ⟨RX1, "leak", "(II)I"⟩
def dkwX1_leak_1 : List UInt8 := [172]
abbrev dktX1_leak_1 : List UInt8 := dkwX1_leak_1 ++ []
def dkwX1_leak_0 : List UInt8 := [42, 27, 182, 0, 141, 42, 28, 182, 0, 141, 42, 180, 0, 22, 27, 4, 182, 0, 250, 28, 46, 184, 0, 254]
abbrev dktX1_leak_0 : List UInt8 := dkwX1_leak_0 ++ dktX1_leak_1
theorem dksX1_leak_0 : cX1_leak.data.toList.drop 0 = dktX1_leak_0 := by decide +kernel
theorem dksX1_leak_1 : cX1_leak.data.toList.drop 24 = dktX1_leak_1 := dk_seg dksX1_leak_0 24 rfl rfl
theorem dX1_leak_0 : decode cX1_leak 0 = .ok (.aload_n 0, 1) := dk_42 (dk_at dksX1_leak_0 0 rfl rfl)
theorem dX1_leak_1 : decode cX1_leak 1 = .ok (.iload_n 1, 1) := dk_27 (dk_at dksX1_leak_0 1 rfl rfl)
theorem dX1_leak_2 : decode cX1_leak 2 = .ok (.invokevirtual 141, 3) := dk_182 0 141 (dk_at dksX1_leak_0 2 rfl rfl)
theorem dX1_leak_5 : decode cX1_leak 5 = .ok (.aload_n 0, 1) := dk_42 (dk_at dksX1_leak_0 5 rfl rfl)
theorem dX1_leak_6 : decode cX1_leak 6 = .ok (.iload_n 2, 1) := dk_28 (dk_at dksX1_leak_0 6 rfl rfl)
theorem dX1_leak_7 : decode cX1_leak 7 = .ok (.invokevirtual 141, 3) := dk_182 0 141 (dk_at dksX1_leak_0 7 rfl rfl)
theorem dX1_leak_10 : decode cX1_leak 10 = .ok (.aload_n 0, 1) := dk_42 (dk_at dksX1_leak_0 10 rfl rfl)
theorem dX1_leak_11 : decode cX1_leak 11 = .ok (.getfield 22, 3) := dk_180 0 22 (dk_at dksX1_leak_0 11 rfl rfl)
theorem dX1_leak_14 : decode cX1_leak 14 = .ok (.iload_n 1, 1) := dk_27 (dk_at dksX1_leak_0 14 rfl rfl)
theorem dX1_leak_15 : decode cX1_leak 15 = .ok (.iconst 1, 1) := dk_4 (dk_at dksX1_leak_0 15 rfl rfl)
theorem dX1_leak_16 : decode cX1_leak 16 = .ok (.invokevirtual 250, 3) := dk_182 0 250 (dk_at dksX1_leak_0 16 rfl rfl)
theorem dX1_leak_19 : decode cX1_leak 19 = .ok (.iload_n 2, 1) := dk_28 (dk_at dksX1_leak_0 19 rfl rfl)
theorem dX1_leak_20 : decode cX1_leak 20 = .ok (.iaload, 1) := dk_46 (dk_at dksX1_leak_0 20 rfl rfl)
theorem dX1_leak_21 : decode cX1_leak 21 = .ok (.invokestatic 254, 3) := dk_184 0 254 (dk_at dksX1_leak_0 21 rfl rfl)
theorem dX1_leak_24 : decode cX1_leak 24 = .ok (.ireturn, 1) := dk_172 (dk_at dksX1_leak_1 0 rfl rfl)
abbrev cX1_sending : ByteArray := prog_1_method_30_code
def yX1_sending : MethodName := ⟨RX1, "sending", "(II)I"⟩
def dkwX1_sending_12 : List UInt8 := [167, 255, 137, 21, 5, 172]
abbrev dktX1_sending_12 : List UInt8 := dkwX1_sending_12 ++ []
def dkwX1_sending_11 : List UInt8 := [159, 0, 16, 21, 6, 184, 1, 4, 21, 5, 184, 1, 4, 162, 0, 7, 21, 6, 54, 5, 132, 6, 1]
abbrev dktX1_sending_11 : List UInt8 := dkwX1_sending_11 ++ dktX1_sending_12
def dkwX1_sending_10 : List UInt8 := [54, 8, 132, 9, 1, 167, 255, 200, 21, 8, 153, 0, 32, 21, 7, 28, 161, 0, 26, 21, 5, 2]
abbrev dktX1_sending_10 : List UInt8 := dkwX1_sending_10 ++ dktX1_sending_11
def dkwX1_sending_9 : List UInt8 := [25, 4, 21, 9, 46, 96, 54, 7, 21, 8, 25, 4, 21, 9, 46, 158, 0, 7, 4, 167, 0, 4, 3, 126]
abbrev dktX1_sending_9 : List UInt8 := dkwX1_sending_9 ++ dktX1_sending_10
def dkwX1_sending_8 : List UInt8 := [180, 0, 22, 180, 0, 104, 162, 0, 50, 21, 6, 21, 9, 184, 0, 245, 154, 0, 6, 167, 0, 31, 21, 7]
abbrev dktX1_sending_8 : List UInt8 := dkwX1_sending_8 ++ dktX1_sending_9
def dkwX1_sending_7 : List UInt8 := [180, 0, 22, 180, 0, 104, 120, 162, 0, 111, 3, 54, 7, 4, 54, 8, 3, 54, 9, 21, 9, 42]
abbrev dktX1_sending_7 : List UInt8 := dkwX1_sending_7 ++ dktX1_sending_8
def dkwX1_sending_6 : List UInt8 := [46, 46, 100, 184, 1, 1, 79, 132, 5, 1, 167, 255, 145, 2, 54, 5, 3, 54, 6, 21, 6, 4, 42]
abbrev dktX1_sending_6 : List UInt8 := dkwX1_sending_6 ++ dktX1_sending_7
def dkwX1_sending_5 : List UInt8 := [180, 0, 176, 21, 5, 46, 4, 160, 0, 7, 3, 167, 0, 15, 45, 42, 180, 0, 31, 180, 0, 131, 21, 5]
abbrev dktX1_sending_5 : List UInt8 := dkwX1_sending_5 ++ dktX1_sending_6
def dkwX1_sending_4 : List UInt8 := [167, 0, 53, 25, 4, 21, 5, 3, 42, 180, 0, 31, 180, 0, 170, 21, 5, 46, 42, 180, 0, 31]
abbrev dktX1_sending_4 : List UInt8 := dkwX1_sending_4 ++ dktX1_sending_5
def dkwX1_sending_3 : List UInt8 := [46, 4, 159, 0, 73, 45, 42, 180, 0, 31, 180, 0, 131, 21, 5, 46, 46, 18, 249, 161, 0, 6]
abbrev dktX1_sending_3 : List UInt8 := dkwX1_sending_3 ++ dktX1_sending_4
def dkwX1_sending_2 : List UInt8 := [162, 0, 105, 42, 180, 0, 31, 21, 5, 182, 0, 205, 153, 0, 87, 42, 180, 0, 31, 180, 0, 173, 21, 5]
abbrev dktX1_sending_2 : List UInt8 := dkwX1_sending_2 ++ dktX1_sending_3
def dkwX1_sending_1 : List UInt8 := [182, 0, 250, 78, 16, 10, 188, 10, 58, 4, 3, 54, 5, 21, 5, 42, 180, 0, 22, 180, 0, 104]
abbrev dktX1_sending_1 : List UInt8 := dkwX1_sending_1 ++ dktX1_sending_2
def dkwX1_sending_0 : List UInt8 := [42, 27, 182, 0, 141, 28, 4, 17, 3, 231, 184, 0, 134, 184, 0, 65, 42, 180, 0, 22, 27, 4]
abbrev dktX1_sending_0 : List UInt8 := dkwX1_sending_0 ++ dktX1_sending_1
theorem dksX1_sending_0 : cX1_sending.data.toList.drop 0 = dktX1_sending_0 := by decide +kernel
theorem dksX1_sending_1 : cX1_sending.data.toList.drop 22 = dktX1_sending_1 := dk_seg dksX1_sending_0 22 rfl rfl
theorem dksX1_sending_2 : cX1_sending.data.toList.drop 44 = dktX1_sending_2 := dk_seg dksX1_sending_1 22 rfl rfl
theorem dksX1_sending_3 : cX1_sending.data.toList.drop 68 = dktX1_sending_3 := dk_seg dksX1_sending_2 24 rfl rfl
theorem dksX1_sending_4 : cX1_sending.data.toList.drop 90 = dktX1_sending_4 := dk_seg dksX1_sending_3 22 rfl rfl
theorem dksX1_sending_5 : cX1_sending.data.toList.drop 112 = dktX1_sending_5 := dk_seg dksX1_sending_4 22 rfl rfl
theorem dksX1_sending_6 : cX1_sending.data.toList.drop 136 = dktX1_sending_6 := dk_seg dksX1_sending_5 24 rfl rfl
theorem dksX1_sending_7 : cX1_sending.data.toList.drop 159 = dktX1_sending_7 := dk_seg dksX1_sending_6 23 rfl rfl
theorem dksX1_sending_8 : cX1_sending.data.toList.drop 181 = dktX1_sending_8 := dk_seg dksX1_sending_7 22 rfl rfl
theorem dksX1_sending_9 : cX1_sending.data.toList.drop 205 = dktX1_sending_9 := dk_seg dksX1_sending_8 24 rfl rfl
theorem dksX1_sending_10 : cX1_sending.data.toList.drop 229 = dktX1_sending_10 := dk_seg dksX1_sending_9 24 rfl rfl
theorem dksX1_sending_11 : cX1_sending.data.toList.drop 251 = dktX1_sending_11 := dk_seg dksX1_sending_10 22 rfl rfl
theorem dksX1_sending_12 : cX1_sending.data.toList.drop 274 = dktX1_sending_12 := dk_seg dksX1_sending_11 23 rfl rfl
theorem dX1_sending_0 : decode cX1_sending 0 = .ok (.aload_n 0, 1) := dk_42 (dk_at dksX1_sending_0 0 rfl rfl)
theorem dX1_sending_1 : decode cX1_sending 1 = .ok (.iload_n 1, 1) := dk_27 (dk_at dksX1_sending_0 1 rfl rfl)
theorem dX1_sending_2 : decode cX1_sending 2 = .ok (.invokevirtual 141, 3) := dk_182 0 141 (dk_at dksX1_sending_0 2 rfl rfl)
theorem dX1_sending_5 : decode cX1_sending 5 = .ok (.iload_n 2, 1) := dk_28 (dk_at dksX1_sending_0 5 rfl rfl)
theorem dX1_sending_6 : decode cX1_sending 6 = .ok (.iconst 1, 1) := dk_4 (dk_at dksX1_sending_0 6 rfl rfl)
theorem dX1_sending_7 : decode cX1_sending 7 = .ok (.sipush 999, 3) := dk_17 3 231 (dk_at dksX1_sending_0 7 rfl rfl)
theorem dX1_sending_10 : decode cX1_sending 10 = .ok (.invokestatic 134, 3) := dk_184 0 134 (dk_at dksX1_sending_0 10 rfl rfl)
theorem dX1_sending_13 : decode cX1_sending 13 = .ok (.invokestatic 65, 3) := dk_184 0 65 (dk_at dksX1_sending_0 13 rfl rfl)
theorem dX1_sending_16 : decode cX1_sending 16 = .ok (.aload_n 0, 1) := dk_42 (dk_at dksX1_sending_0 16 rfl rfl)
theorem dX1_sending_17 : decode cX1_sending 17 = .ok (.getfield 22, 3) := dk_180 0 22 (dk_at dksX1_sending_0 17 rfl rfl)
theorem dX1_sending_20 : decode cX1_sending 20 = .ok (.iload_n 1, 1) := dk_27 (dk_at dksX1_sending_0 20 rfl rfl)
theorem dX1_sending_21 : decode cX1_sending 21 = .ok (.iconst 1, 1) := dk_4 (dk_at dksX1_sending_0 21 rfl rfl)
theorem dX1_sending_22 : decode cX1_sending 22 = .ok (.invokevirtual 250, 3) := dk_182 0 250 (dk_at dksX1_sending_1 0 rfl rfl)
theorem dX1_sending_25 : decode cX1_sending 25 = .ok (.astore_n 3, 1) := dk_78 (dk_at dksX1_sending_1 3 rfl rfl)
theorem dX1_sending_26 : decode cX1_sending 26 = .ok (.bipush 10, 2) := dk_16 10 (dk_at dksX1_sending_1 4 rfl rfl)
theorem dX1_sending_28 : decode cX1_sending 28 = .ok (.newarray .int, 2) := dk_188_10 (dk_at dksX1_sending_1 6 rfl rfl)
theorem dX1_sending_30 : decode cX1_sending 30 = .ok (.astore 4, 2) := dk_58 4 (dk_at dksX1_sending_1 8 rfl rfl)
theorem dX1_sending_32 : decode cX1_sending 32 = .ok (.iconst 0, 1) := dk_3 (dk_at dksX1_sending_1 10 rfl rfl)
theorem dX1_sending_33 : decode cX1_sending 33 = .ok (.istore 5, 2) := dk_54 5 (dk_at dksX1_sending_1 11 rfl rfl)
theorem dX1_sending_35 : decode cX1_sending 35 = .ok (.iload 5, 2) := dk_21 5 (dk_at dksX1_sending_1 13 rfl rfl)
theorem dX1_sending_37 : decode cX1_sending 37 = .ok (.aload_n 0, 1) := dk_42 (dk_at dksX1_sending_1 15 rfl rfl)
theorem dX1_sending_38 : decode cX1_sending 38 = .ok (.getfield 22, 3) := dk_180 0 22 (dk_at dksX1_sending_1 16 rfl rfl)
theorem dX1_sending_41 : decode cX1_sending 41 = .ok (.getfield 104, 3) := dk_180 0 104 (dk_at dksX1_sending_1 19 rfl rfl)
theorem dX1_sending_44 : decode cX1_sending 44 = .ok (.if_icmp .ge 105, 3) := dk_162 0 105 (dk_at dksX1_sending_2 0 rfl rfl)
theorem dX1_sending_47 : decode cX1_sending 47 = .ok (.aload_n 0, 1) := dk_42 (dk_at dksX1_sending_2 3 rfl rfl)
theorem dX1_sending_48 : decode cX1_sending 48 = .ok (.getfield 31, 3) := dk_180 0 31 (dk_at dksX1_sending_2 4 rfl rfl)
theorem dX1_sending_51 : decode cX1_sending 51 = .ok (.iload 5, 2) := dk_21 5 (dk_at dksX1_sending_2 7 rfl rfl)
theorem dX1_sending_53 : decode cX1_sending 53 = .ok (.invokevirtual 205, 3) := dk_182 0 205 (dk_at dksX1_sending_2 9 rfl rfl)
theorem dX1_sending_56 : decode cX1_sending 56 = .ok (.ifCond .eq 87, 3) := dk_153 0 87 (dk_at dksX1_sending_2 12 rfl rfl)
theorem dX1_sending_59 : decode cX1_sending 59 = .ok (.aload_n 0, 1) := dk_42 (dk_at dksX1_sending_2 15 rfl rfl)
theorem dX1_sending_60 : decode cX1_sending 60 = .ok (.getfield 31, 3) := dk_180 0 31 (dk_at dksX1_sending_2 16 rfl rfl)
theorem dX1_sending_63 : decode cX1_sending 63 = .ok (.getfield 173, 3) := dk_180 0 173 (dk_at dksX1_sending_2 19 rfl rfl)
theorem dX1_sending_66 : decode cX1_sending 66 = .ok (.iload 5, 2) := dk_21 5 (dk_at dksX1_sending_2 22 rfl rfl)
theorem dX1_sending_68 : decode cX1_sending 68 = .ok (.iaload, 1) := dk_46 (dk_at dksX1_sending_3 0 rfl rfl)
theorem dX1_sending_69 : decode cX1_sending 69 = .ok (.iconst 1, 1) := dk_4 (dk_at dksX1_sending_3 1 rfl rfl)
theorem dX1_sending_70 : decode cX1_sending 70 = .ok (.if_icmp .eq 73, 3) := dk_159 0 73 (dk_at dksX1_sending_3 2 rfl rfl)
theorem dX1_sending_73 : decode cX1_sending 73 = .ok (.aload_n 3, 1) := dk_45 (dk_at dksX1_sending_3 5 rfl rfl)
theorem dX1_sending_74 : decode cX1_sending 74 = .ok (.aload_n 0, 1) := dk_42 (dk_at dksX1_sending_3 6 rfl rfl)
theorem dX1_sending_75 : decode cX1_sending 75 = .ok (.getfield 31, 3) := dk_180 0 31 (dk_at dksX1_sending_3 7 rfl rfl)
theorem dX1_sending_78 : decode cX1_sending 78 = .ok (.getfield 131, 3) := dk_180 0 131 (dk_at dksX1_sending_3 10 rfl rfl)
theorem dX1_sending_81 : decode cX1_sending 81 = .ok (.iload 5, 2) := dk_21 5 (dk_at dksX1_sending_3 13 rfl rfl)
theorem dX1_sending_83 : decode cX1_sending 83 = .ok (.iaload, 1) := dk_46 (dk_at dksX1_sending_3 15 rfl rfl)
theorem dX1_sending_84 : decode cX1_sending 84 = .ok (.iaload, 1) := dk_46 (dk_at dksX1_sending_3 16 rfl rfl)
theorem dX1_sending_85 : decode cX1_sending 85 = .ok (.ldc 249, 2) := dk_18 249 (dk_at dksX1_sending_3 17 rfl rfl)
theorem dX1_sending_87 : decode cX1_sending 87 = .ok (.if_icmp .lt 6, 3) := dk_161 0 6 (dk_at dksX1_sending_3 19 rfl rfl)
theorem dX1_sending_90 : decode cX1_sending 90 = .ok (.goto 53, 3) := dk_167 0 53 (dk_at dksX1_sending_4 0 rfl rfl)
theorem dX1_sending_93 : decode cX1_sending 93 = .ok (.aload 4, 2) := dk_25 4 (dk_at dksX1_sending_4 3 rfl rfl)
theorem dX1_sending_95 : decode cX1_sending 95 = .ok (.iload 5, 2) := dk_21 5 (dk_at dksX1_sending_4 5 rfl rfl)
theorem dX1_sending_97 : decode cX1_sending 97 = .ok (.iconst 0, 1) := dk_3 (dk_at dksX1_sending_4 7 rfl rfl)
theorem dX1_sending_98 : decode cX1_sending 98 = .ok (.aload_n 0, 1) := dk_42 (dk_at dksX1_sending_4 8 rfl rfl)
theorem dX1_sending_99 : decode cX1_sending 99 = .ok (.getfield 31, 3) := dk_180 0 31 (dk_at dksX1_sending_4 9 rfl rfl)
theorem dX1_sending_102 : decode cX1_sending 102 = .ok (.getfield 170, 3) := dk_180 0 170 (dk_at dksX1_sending_4 12 rfl rfl)
theorem dX1_sending_105 : decode cX1_sending 105 = .ok (.iload 5, 2) := dk_21 5 (dk_at dksX1_sending_4 15 rfl rfl)
theorem dX1_sending_107 : decode cX1_sending 107 = .ok (.iaload, 1) := dk_46 (dk_at dksX1_sending_4 17 rfl rfl)
theorem dX1_sending_108 : decode cX1_sending 108 = .ok (.aload_n 0, 1) := dk_42 (dk_at dksX1_sending_4 18 rfl rfl)
theorem dX1_sending_109 : decode cX1_sending 109 = .ok (.getfield 31, 3) := dk_180 0 31 (dk_at dksX1_sending_4 19 rfl rfl)
theorem dX1_sending_112 : decode cX1_sending 112 = .ok (.getfield 176, 3) := dk_180 0 176 (dk_at dksX1_sending_5 0 rfl rfl)
theorem dX1_sending_115 : decode cX1_sending 115 = .ok (.iload 5, 2) := dk_21 5 (dk_at dksX1_sending_5 3 rfl rfl)
theorem dX1_sending_117 : decode cX1_sending 117 = .ok (.iaload, 1) := dk_46 (dk_at dksX1_sending_5 5 rfl rfl)
theorem dX1_sending_118 : decode cX1_sending 118 = .ok (.iconst 1, 1) := dk_4 (dk_at dksX1_sending_5 6 rfl rfl)
theorem dX1_sending_119 : decode cX1_sending 119 = .ok (.if_icmp .ne 7, 3) := dk_160 0 7 (dk_at dksX1_sending_5 7 rfl rfl)
theorem dX1_sending_122 : decode cX1_sending 122 = .ok (.iconst 0, 1) := dk_3 (dk_at dksX1_sending_5 10 rfl rfl)
theorem dX1_sending_123 : decode cX1_sending 123 = .ok (.goto 15, 3) := dk_167 0 15 (dk_at dksX1_sending_5 11 rfl rfl)
theorem dX1_sending_126 : decode cX1_sending 126 = .ok (.aload_n 3, 1) := dk_45 (dk_at dksX1_sending_5 14 rfl rfl)
theorem dX1_sending_127 : decode cX1_sending 127 = .ok (.aload_n 0, 1) := dk_42 (dk_at dksX1_sending_5 15 rfl rfl)
theorem dX1_sending_128 : decode cX1_sending 128 = .ok (.getfield 31, 3) := dk_180 0 31 (dk_at dksX1_sending_5 16 rfl rfl)
theorem dX1_sending_131 : decode cX1_sending 131 = .ok (.getfield 131, 3) := dk_180 0 131 (dk_at dksX1_sending_5 19 rfl rfl)
theorem dX1_sending_134 : decode cX1_sending 134 = .ok (.iload 5, 2) := dk_21 5 (dk_at dksX1_sending_5 22 rfl rfl)
theorem dX1_sending_136 : decode cX1_sending 136 = .ok (.iaload, 1) := dk_46 (dk_at dksX1_sending_6 0 rfl rfl)
theorem dX1_sending_137 : decode cX1_sending 137 = .ok (.iaload, 1) := dk_46 (dk_at dksX1_sending_6 1 rfl rfl)
theorem dX1_sending_138 : decode cX1_sending 138 = .ok (.isub, 1) := dk_100 (dk_at dksX1_sending_6 2 rfl rfl)
theorem dX1_sending_139 : decode cX1_sending 139 = .ok (.invokestatic 257, 3) := dk_184 1 1 (dk_at dksX1_sending_6 3 rfl rfl)
theorem dX1_sending_142 : decode cX1_sending 142 = .ok (.iastore, 1) := dk_79 (dk_at dksX1_sending_6 6 rfl rfl)
theorem dX1_sending_143 : decode cX1_sending 143 = .ok (.iinc 5 1, 3) := dk_132 5 1 (dk_at dksX1_sending_6 7 rfl rfl)
theorem dX1_sending_146 : decode cX1_sending 146 = .ok (.goto (-111), 3) := dk_167 255 145 (dk_at dksX1_sending_6 10 rfl rfl)
theorem dX1_sending_149 : decode cX1_sending 149 = .ok (.iconst (-1), 1) := dk_2 (dk_at dksX1_sending_6 13 rfl rfl)
theorem dX1_sending_150 : decode cX1_sending 150 = .ok (.istore 5, 2) := dk_54 5 (dk_at dksX1_sending_6 14 rfl rfl)
theorem dX1_sending_152 : decode cX1_sending 152 = .ok (.iconst 0, 1) := dk_3 (dk_at dksX1_sending_6 16 rfl rfl)
theorem dX1_sending_153 : decode cX1_sending 153 = .ok (.istore 6, 2) := dk_54 6 (dk_at dksX1_sending_6 17 rfl rfl)
theorem dX1_sending_155 : decode cX1_sending 155 = .ok (.iload 6, 2) := dk_21 6 (dk_at dksX1_sending_6 19 rfl rfl)
theorem dX1_sending_157 : decode cX1_sending 157 = .ok (.iconst 1, 1) := dk_4 (dk_at dksX1_sending_6 21 rfl rfl)
theorem dX1_sending_158 : decode cX1_sending 158 = .ok (.aload_n 0, 1) := dk_42 (dk_at dksX1_sending_6 22 rfl rfl)
theorem dX1_sending_159 : decode cX1_sending 159 = .ok (.getfield 22, 3) := dk_180 0 22 (dk_at dksX1_sending_7 0 rfl rfl)
theorem dX1_sending_162 : decode cX1_sending 162 = .ok (.getfield 104, 3) := dk_180 0 104 (dk_at dksX1_sending_7 3 rfl rfl)
theorem dX1_sending_165 : decode cX1_sending 165 = .ok (.ishl, 1) := dk_120 (dk_at dksX1_sending_7 6 rfl rfl)
theorem dX1_sending_166 : decode cX1_sending 166 = .ok (.if_icmp .ge 111, 3) := dk_162 0 111 (dk_at dksX1_sending_7 7 rfl rfl)
theorem dX1_sending_169 : decode cX1_sending 169 = .ok (.iconst 0, 1) := dk_3 (dk_at dksX1_sending_7 10 rfl rfl)
theorem dX1_sending_170 : decode cX1_sending 170 = .ok (.istore 7, 2) := dk_54 7 (dk_at dksX1_sending_7 11 rfl rfl)
theorem dX1_sending_172 : decode cX1_sending 172 = .ok (.iconst 1, 1) := dk_4 (dk_at dksX1_sending_7 13 rfl rfl)
theorem dX1_sending_173 : decode cX1_sending 173 = .ok (.istore 8, 2) := dk_54 8 (dk_at dksX1_sending_7 14 rfl rfl)
theorem dX1_sending_175 : decode cX1_sending 175 = .ok (.iconst 0, 1) := dk_3 (dk_at dksX1_sending_7 16 rfl rfl)
theorem dX1_sending_176 : decode cX1_sending 176 = .ok (.istore 9, 2) := dk_54 9 (dk_at dksX1_sending_7 17 rfl rfl)
theorem dX1_sending_178 : decode cX1_sending 178 = .ok (.iload 9, 2) := dk_21 9 (dk_at dksX1_sending_7 19 rfl rfl)
theorem dX1_sending_180 : decode cX1_sending 180 = .ok (.aload_n 0, 1) := dk_42 (dk_at dksX1_sending_7 21 rfl rfl)
theorem dX1_sending_181 : decode cX1_sending 181 = .ok (.getfield 22, 3) := dk_180 0 22 (dk_at dksX1_sending_8 0 rfl rfl)
theorem dX1_sending_184 : decode cX1_sending 184 = .ok (.getfield 104, 3) := dk_180 0 104 (dk_at dksX1_sending_8 3 rfl rfl)
theorem dX1_sending_187 : decode cX1_sending 187 = .ok (.if_icmp .ge 50, 3) := dk_162 0 50 (dk_at dksX1_sending_8 6 rfl rfl)
theorem dX1_sending_190 : decode cX1_sending 190 = .ok (.iload 6, 2) := dk_21 6 (dk_at dksX1_sending_8 9 rfl rfl)
theorem dX1_sending_192 : decode cX1_sending 192 = .ok (.iload 9, 2) := dk_21 9 (dk_at dksX1_sending_8 11 rfl rfl)
theorem dX1_sending_194 : decode cX1_sending 194 = .ok (.invokestatic 245, 3) := dk_184 0 245 (dk_at dksX1_sending_8 13 rfl rfl)
theorem dX1_sending_197 : decode cX1_sending 197 = .ok (.ifCond .ne 6, 3) := dk_154 0 6 (dk_at dksX1_sending_8 16 rfl rfl)
theorem dX1_sending_200 : decode cX1_sending 200 = .ok (.goto 31, 3) := dk_167 0 31 (dk_at dksX1_sending_8 19 rfl rfl)
theorem dX1_sending_203 : decode cX1_sending 203 = .ok (.iload 7, 2) := dk_21 7 (dk_at dksX1_sending_8 22 rfl rfl)
theorem dX1_sending_205 : decode cX1_sending 205 = .ok (.aload 4, 2) := dk_25 4 (dk_at dksX1_sending_9 0 rfl rfl)
theorem dX1_sending_207 : decode cX1_sending 207 = .ok (.iload 9, 2) := dk_21 9 (dk_at dksX1_sending_9 2 rfl rfl)
theorem dX1_sending_209 : decode cX1_sending 209 = .ok (.iaload, 1) := dk_46 (dk_at dksX1_sending_9 4 rfl rfl)
theorem dX1_sending_210 : decode cX1_sending 210 = .ok (.iadd, 1) := dk_96 (dk_at dksX1_sending_9 5 rfl rfl)
theorem dX1_sending_211 : decode cX1_sending 211 = .ok (.istore 7, 2) := dk_54 7 (dk_at dksX1_sending_9 6 rfl rfl)
theorem dX1_sending_213 : decode cX1_sending 213 = .ok (.iload 8, 2) := dk_21 8 (dk_at dksX1_sending_9 8 rfl rfl)
theorem dX1_sending_215 : decode cX1_sending 215 = .ok (.aload 4, 2) := dk_25 4 (dk_at dksX1_sending_9 10 rfl rfl)
theorem dX1_sending_217 : decode cX1_sending 217 = .ok (.iload 9, 2) := dk_21 9 (dk_at dksX1_sending_9 12 rfl rfl)
theorem dX1_sending_219 : decode cX1_sending 219 = .ok (.iaload, 1) := dk_46 (dk_at dksX1_sending_9 14 rfl rfl)
theorem dX1_sending_220 : decode cX1_sending 220 = .ok (.ifCond .le 7, 3) := dk_158 0 7 (dk_at dksX1_sending_9 15 rfl rfl)
theorem dX1_sending_223 : decode cX1_sending 223 = .ok (.iconst 1, 1) := dk_4 (dk_at dksX1_sending_9 18 rfl rfl)
theorem dX1_sending_224 : decode cX1_sending 224 = .ok (.goto 4, 3) := dk_167 0 4 (dk_at dksX1_sending_9 19 rfl rfl)
theorem dX1_sending_227 : decode cX1_sending 227 = .ok (.iconst 0, 1) := dk_3 (dk_at dksX1_sending_9 22 rfl rfl)
theorem dX1_sending_228 : decode cX1_sending 228 = .ok (.iand, 1) := dk_126 (dk_at dksX1_sending_9 23 rfl rfl)
theorem dX1_sending_229 : decode cX1_sending 229 = .ok (.istore 8, 2) := dk_54 8 (dk_at dksX1_sending_10 0 rfl rfl)
theorem dX1_sending_231 : decode cX1_sending 231 = .ok (.iinc 9 1, 3) := dk_132 9 1 (dk_at dksX1_sending_10 2 rfl rfl)
theorem dX1_sending_234 : decode cX1_sending 234 = .ok (.goto (-56), 3) := dk_167 255 200 (dk_at dksX1_sending_10 5 rfl rfl)
theorem dX1_sending_237 : decode cX1_sending 237 = .ok (.iload 8, 2) := dk_21 8 (dk_at dksX1_sending_10 8 rfl rfl)
theorem dX1_sending_239 : decode cX1_sending 239 = .ok (.ifCond .eq 32, 3) := dk_153 0 32 (dk_at dksX1_sending_10 10 rfl rfl)
theorem dX1_sending_242 : decode cX1_sending 242 = .ok (.iload 7, 2) := dk_21 7 (dk_at dksX1_sending_10 13 rfl rfl)
theorem dX1_sending_244 : decode cX1_sending 244 = .ok (.iload_n 2, 1) := dk_28 (dk_at dksX1_sending_10 15 rfl rfl)
theorem dX1_sending_245 : decode cX1_sending 245 = .ok (.if_icmp .lt 26, 3) := dk_161 0 26 (dk_at dksX1_sending_10 16 rfl rfl)
theorem dX1_sending_248 : decode cX1_sending 248 = .ok (.iload 5, 2) := dk_21 5 (dk_at dksX1_sending_10 19 rfl rfl)
theorem dX1_sending_250 : decode cX1_sending 250 = .ok (.iconst (-1), 1) := dk_2 (dk_at dksX1_sending_10 21 rfl rfl)
theorem dX1_sending_251 : decode cX1_sending 251 = .ok (.if_icmp .eq 16, 3) := dk_159 0 16 (dk_at dksX1_sending_11 0 rfl rfl)
theorem dX1_sending_254 : decode cX1_sending 254 = .ok (.iload 6, 2) := dk_21 6 (dk_at dksX1_sending_11 3 rfl rfl)
theorem dX1_sending_256 : decode cX1_sending 256 = .ok (.invokestatic 260, 3) := dk_184 1 4 (dk_at dksX1_sending_11 5 rfl rfl)
theorem dX1_sending_259 : decode cX1_sending 259 = .ok (.iload 5, 2) := dk_21 5 (dk_at dksX1_sending_11 8 rfl rfl)
theorem dX1_sending_261 : decode cX1_sending 261 = .ok (.invokestatic 260, 3) := dk_184 1 4 (dk_at dksX1_sending_11 10 rfl rfl)
theorem dX1_sending_264 : decode cX1_sending 264 = .ok (.if_icmp .ge 7, 3) := dk_162 0 7 (dk_at dksX1_sending_11 13 rfl rfl)
theorem dX1_sending_267 : decode cX1_sending 267 = .ok (.iload 6, 2) := dk_21 6 (dk_at dksX1_sending_11 16 rfl rfl)
theorem dX1_sending_269 : decode cX1_sending 269 = .ok (.istore 5, 2) := dk_54 5 (dk_at dksX1_sending_11 18 rfl rfl)
theorem dX1_sending_271 : decode cX1_sending 271 = .ok (.iinc 6 1, 3) := dk_132 6 1 (dk_at dksX1_sending_11 20 rfl rfl)
theorem dX1_sending_274 : decode cX1_sending 274 = .ok (.goto (-119), 3) := dk_167 255 137 (dk_at dksX1_sending_12 0 rfl rfl)
theorem dX1_sending_277 : decode cX1_sending 277 = .ok (.iload 5, 2) := dk_21 5 (dk_at dksX1_sending_12 3 rfl rfl)
theorem dX1_sending_279 : decode cX1_sending 279 = .ok (.ireturn, 1) := dk_172 (dk_at dksX1_sending_12 5 rfl rfl)
abbrev cX1_hold : ByteArray := prog_1_method_33_code
def yX1_hold : MethodName := ⟨RX1, "hold", "(II)I"⟩
def dkwX1_hold_7 : List UInt8 := [21, 6, 4, 21, 8, 120, 2, 130, 126, 54, 6, 132, 7, 1, 167, 255, 142, 21, 5, 172]
abbrev dktX1_hold_7 : List UInt8 := dkwX1_hold_7 ++ []
def dkwX1_hold_6 : List UInt8 := [21, 6, 50, 21, 5, 46, 160, 0, 7, 21, 9, 54, 8, 132, 9, 255, 167, 255, 183, 21, 8, 54, 5]
abbrev dktX1_hold_6 : List UInt8 := dkwX1_hold_6 ++ dktX1_hold_7
def dkwX1_hold_5 : List UInt8 := [180, 0, 22, 180, 0, 104, 160, 0, 7, 3, 167, 0, 11, 42, 21, 5, 21, 9, 182, 1, 9, 96, 25, 4]
abbrev dktX1_hold_5 : List UInt8 := dkwX1_hold_5 ++ dktX1_hold_6
def dkwX1_hold_4 : List UInt8 := [184, 0, 245, 153, 0, 58, 25, 4, 21, 6, 4, 21, 9, 120, 2, 130, 126, 50, 21, 9, 46, 21, 5, 42]
abbrev dktX1_hold_4 : List UInt8 := dkwX1_hold_4 ++ dktX1_hold_5
def dkwX1_hold_3 : List UInt8 := [54, 8, 42, 180, 0, 22, 180, 0, 104, 4, 100, 54, 9, 21, 9, 155, 0, 74, 21, 6, 21, 9]
abbrev dktX1_hold_3 : List UInt8 := dkwX1_hold_3 ++ dktX1_hold_4
def dkwX1_hold_2 : List UInt8 := [160, 0, 11, 25, 4, 29, 50, 21, 5, 46, 172, 29, 54, 6, 3, 54, 7, 21, 7, 28, 163, 0, 114, 2]
abbrev dktX1_hold_2 : List UInt8 := dkwX1_hold_2 ++ dktX1_hold_3
def dkwX1_hold_1 : List UInt8 := [184, 0, 134, 184, 0, 138, 42, 29, 182, 1, 12, 58, 4, 42, 180, 0, 22, 180, 0, 104, 54, 5, 28, 2]
abbrev dktX1_hold_1 : List UInt8 := dkwX1_hold_1 ++ dktX1_hold_2
def dkwX1_hold_0 : List UInt8 := [42, 27, 182, 0, 141, 42, 180, 0, 31, 27, 182, 0, 123, 62, 28, 2, 29, 184, 1, 4, 4, 100]
abbrev dktX1_hold_0 : List UInt8 := dkwX1_hold_0 ++ dktX1_hold_1
theorem dksX1_hold_0 : cX1_hold.data.toList.drop 0 = dktX1_hold_0 := by decide +kernel
theorem dksX1_hold_1 : cX1_hold.data.toList.drop 22 = dktX1_hold_1 := dk_seg dksX1_hold_0 22 rfl rfl
theorem dksX1_hold_2 : cX1_hold.data.toList.drop 46 = dktX1_hold_2 := dk_seg dksX1_hold_1 24 rfl rfl
theorem dksX1_hold_3 : cX1_hold.data.toList.drop 70 = dktX1_hold_3 := dk_seg dksX1_hold_2 24 rfl rfl
theorem dksX1_hold_4 : cX1_hold.data.toList.drop 92 = dktX1_hold_4 := dk_seg dksX1_hold_3 22 rfl rfl
theorem dksX1_hold_5 : cX1_hold.data.toList.drop 116 = dktX1_hold_5 := dk_seg dksX1_hold_4 24 rfl rfl
theorem dksX1_hold_6 : cX1_hold.data.toList.drop 140 = dktX1_hold_6 := dk_seg dksX1_hold_5 24 rfl rfl
theorem dksX1_hold_7 : cX1_hold.data.toList.drop 163 = dktX1_hold_7 := dk_seg dksX1_hold_6 23 rfl rfl
theorem dX1_hold_0 : decode cX1_hold 0 = .ok (.aload_n 0, 1) := dk_42 (dk_at dksX1_hold_0 0 rfl rfl)
theorem dX1_hold_1 : decode cX1_hold 1 = .ok (.iload_n 1, 1) := dk_27 (dk_at dksX1_hold_0 1 rfl rfl)
theorem dX1_hold_2 : decode cX1_hold 2 = .ok (.invokevirtual 141, 3) := dk_182 0 141 (dk_at dksX1_hold_0 2 rfl rfl)
theorem dX1_hold_5 : decode cX1_hold 5 = .ok (.aload_n 0, 1) := dk_42 (dk_at dksX1_hold_0 5 rfl rfl)
theorem dX1_hold_6 : decode cX1_hold 6 = .ok (.getfield 31, 3) := dk_180 0 31 (dk_at dksX1_hold_0 6 rfl rfl)
theorem dX1_hold_9 : decode cX1_hold 9 = .ok (.iload_n 1, 1) := dk_27 (dk_at dksX1_hold_0 9 rfl rfl)
theorem dX1_hold_10 : decode cX1_hold 10 = .ok (.invokevirtual 123, 3) := dk_182 0 123 (dk_at dksX1_hold_0 10 rfl rfl)
theorem dX1_hold_13 : decode cX1_hold 13 = .ok (.istore_n 3, 1) := dk_62 (dk_at dksX1_hold_0 13 rfl rfl)
theorem dX1_hold_14 : decode cX1_hold 14 = .ok (.iload_n 2, 1) := dk_28 (dk_at dksX1_hold_0 14 rfl rfl)
theorem dX1_hold_15 : decode cX1_hold 15 = .ok (.iconst (-1), 1) := dk_2 (dk_at dksX1_hold_0 15 rfl rfl)
theorem dX1_hold_16 : decode cX1_hold 16 = .ok (.iload_n 3, 1) := dk_29 (dk_at dksX1_hold_0 16 rfl rfl)
theorem dX1_hold_17 : decode cX1_hold 17 = .ok (.invokestatic 260, 3) := dk_184 1 4 (dk_at dksX1_hold_0 17 rfl rfl)
theorem dX1_hold_20 : decode cX1_hold 20 = .ok (.iconst 1, 1) := dk_4 (dk_at dksX1_hold_0 20 rfl rfl)
theorem dX1_hold_21 : decode cX1_hold 21 = .ok (.isub, 1) := dk_100 (dk_at dksX1_hold_0 21 rfl rfl)
theorem dX1_hold_22 : decode cX1_hold 22 = .ok (.invokestatic 134, 3) := dk_184 0 134 (dk_at dksX1_hold_1 0 rfl rfl)
theorem dX1_hold_25 : decode cX1_hold 25 = .ok (.invokestatic 138, 3) := dk_184 0 138 (dk_at dksX1_hold_1 3 rfl rfl)
theorem dX1_hold_28 : decode cX1_hold 28 = .ok (.aload_n 0, 1) := dk_42 (dk_at dksX1_hold_1 6 rfl rfl)
theorem dX1_hold_29 : decode cX1_hold 29 = .ok (.iload_n 3, 1) := dk_29 (dk_at dksX1_hold_1 7 rfl rfl)
theorem dX1_hold_30 : decode cX1_hold 30 = .ok (.invokevirtual 268, 3) := dk_182 1 12 (dk_at dksX1_hold_1 8 rfl rfl)
theorem dX1_hold_33 : decode cX1_hold 33 = .ok (.astore 4, 2) := dk_58 4 (dk_at dksX1_hold_1 11 rfl rfl)
theorem dX1_hold_35 : decode cX1_hold 35 = .ok (.aload_n 0, 1) := dk_42 (dk_at dksX1_hold_1 13 rfl rfl)
theorem dX1_hold_36 : decode cX1_hold 36 = .ok (.getfield 22, 3) := dk_180 0 22 (dk_at dksX1_hold_1 14 rfl rfl)
theorem dX1_hold_39 : decode cX1_hold 39 = .ok (.getfield 104, 3) := dk_180 0 104 (dk_at dksX1_hold_1 17 rfl rfl)
theorem dX1_hold_42 : decode cX1_hold 42 = .ok (.istore 5, 2) := dk_54 5 (dk_at dksX1_hold_1 20 rfl rfl)
theorem dX1_hold_44 : decode cX1_hold 44 = .ok (.iload_n 2, 1) := dk_28 (dk_at dksX1_hold_1 22 rfl rfl)
theorem dX1_hold_45 : decode cX1_hold 45 = .ok (.iconst (-1), 1) := dk_2 (dk_at dksX1_hold_1 23 rfl rfl)
theorem dX1_hold_46 : decode cX1_hold 46 = .ok (.if_icmp .ne 11, 3) := dk_160 0 11 (dk_at dksX1_hold_2 0 rfl rfl)
theorem dX1_hold_49 : decode cX1_hold 49 = .ok (.aload 4, 2) := dk_25 4 (dk_at dksX1_hold_2 3 rfl rfl)
theorem dX1_hold_51 : decode cX1_hold 51 = .ok (.iload_n 3, 1) := dk_29 (dk_at dksX1_hold_2 5 rfl rfl)
theorem dX1_hold_52 : decode cX1_hold 52 = .ok (.aaload, 1) := dk_50 (dk_at dksX1_hold_2 6 rfl rfl)
theorem dX1_hold_53 : decode cX1_hold 53 = .ok (.iload 5, 2) := dk_21 5 (dk_at dksX1_hold_2 7 rfl rfl)
theorem dX1_hold_55 : decode cX1_hold 55 = .ok (.iaload, 1) := dk_46 (dk_at dksX1_hold_2 9 rfl rfl)
theorem dX1_hold_56 : decode cX1_hold 56 = .ok (.ireturn, 1) := dk_172 (dk_at dksX1_hold_2 10 rfl rfl)
theorem dX1_hold_57 : decode cX1_hold 57 = .ok (.iload_n 3, 1) := dk_29 (dk_at dksX1_hold_2 11 rfl rfl)
theorem dX1_hold_58 : decode cX1_hold 58 = .ok (.istore 6, 2) := dk_54 6 (dk_at dksX1_hold_2 12 rfl rfl)
theorem dX1_hold_60 : decode cX1_hold 60 = .ok (.iconst 0, 1) := dk_3 (dk_at dksX1_hold_2 14 rfl rfl)
theorem dX1_hold_61 : decode cX1_hold 61 = .ok (.istore 7, 2) := dk_54 7 (dk_at dksX1_hold_2 15 rfl rfl)
theorem dX1_hold_63 : decode cX1_hold 63 = .ok (.iload 7, 2) := dk_21 7 (dk_at dksX1_hold_2 17 rfl rfl)
theorem dX1_hold_65 : decode cX1_hold 65 = .ok (.iload_n 2, 1) := dk_28 (dk_at dksX1_hold_2 19 rfl rfl)
theorem dX1_hold_66 : decode cX1_hold 66 = .ok (.if_icmp .gt 114, 3) := dk_163 0 114 (dk_at dksX1_hold_2 20 rfl rfl)
theorem dX1_hold_69 : decode cX1_hold 69 = .ok (.iconst (-1), 1) := dk_2 (dk_at dksX1_hold_2 23 rfl rfl)
theorem dX1_hold_70 : decode cX1_hold 70 = .ok (.istore 8, 2) := dk_54 8 (dk_at dksX1_hold_3 0 rfl rfl)
theorem dX1_hold_72 : decode cX1_hold 72 = .ok (.aload_n 0, 1) := dk_42 (dk_at dksX1_hold_3 2 rfl rfl)
theorem dX1_hold_73 : decode cX1_hold 73 = .ok (.getfield 22, 3) := dk_180 0 22 (dk_at dksX1_hold_3 3 rfl rfl)
theorem dX1_hold_76 : decode cX1_hold 76 = .ok (.getfield 104, 3) := dk_180 0 104 (dk_at dksX1_hold_3 6 rfl rfl)
theorem dX1_hold_79 : decode cX1_hold 79 = .ok (.iconst 1, 1) := dk_4 (dk_at dksX1_hold_3 9 rfl rfl)
theorem dX1_hold_80 : decode cX1_hold 80 = .ok (.isub, 1) := dk_100 (dk_at dksX1_hold_3 10 rfl rfl)
theorem dX1_hold_81 : decode cX1_hold 81 = .ok (.istore 9, 2) := dk_54 9 (dk_at dksX1_hold_3 11 rfl rfl)
theorem dX1_hold_83 : decode cX1_hold 83 = .ok (.iload 9, 2) := dk_21 9 (dk_at dksX1_hold_3 13 rfl rfl)
theorem dX1_hold_85 : decode cX1_hold 85 = .ok (.ifCond .lt 74, 3) := dk_155 0 74 (dk_at dksX1_hold_3 15 rfl rfl)
theorem dX1_hold_88 : decode cX1_hold 88 = .ok (.iload 6, 2) := dk_21 6 (dk_at dksX1_hold_3 18 rfl rfl)
theorem dX1_hold_90 : decode cX1_hold 90 = .ok (.iload 9, 2) := dk_21 9 (dk_at dksX1_hold_3 20 rfl rfl)
theorem dX1_hold_92 : decode cX1_hold 92 = .ok (.invokestatic 245, 3) := dk_184 0 245 (dk_at dksX1_hold_4 0 rfl rfl)
theorem dX1_hold_95 : decode cX1_hold 95 = .ok (.ifCond .eq 58, 3) := dk_153 0 58 (dk_at dksX1_hold_4 3 rfl rfl)
theorem dX1_hold_98 : decode cX1_hold 98 = .ok (.aload 4, 2) := dk_25 4 (dk_at dksX1_hold_4 6 rfl rfl)
theorem dX1_hold_100 : decode cX1_hold 100 = .ok (.iload 6, 2) := dk_21 6 (dk_at dksX1_hold_4 8 rfl rfl)
theorem dX1_hold_102 : decode cX1_hold 102 = .ok (.iconst 1, 1) := dk_4 (dk_at dksX1_hold_4 10 rfl rfl)
theorem dX1_hold_103 : decode cX1_hold 103 = .ok (.iload 9, 2) := dk_21 9 (dk_at dksX1_hold_4 11 rfl rfl)
theorem dX1_hold_105 : decode cX1_hold 105 = .ok (.ishl, 1) := dk_120 (dk_at dksX1_hold_4 13 rfl rfl)
theorem dX1_hold_106 : decode cX1_hold 106 = .ok (.iconst (-1), 1) := dk_2 (dk_at dksX1_hold_4 14 rfl rfl)
theorem dX1_hold_107 : decode cX1_hold 107 = .ok (.ixor, 1) := dk_130 (dk_at dksX1_hold_4 15 rfl rfl)
theorem dX1_hold_108 : decode cX1_hold 108 = .ok (.iand, 1) := dk_126 (dk_at dksX1_hold_4 16 rfl rfl)
theorem dX1_hold_109 : decode cX1_hold 109 = .ok (.aaload, 1) := dk_50 (dk_at dksX1_hold_4 17 rfl rfl)
theorem dX1_hold_110 : decode cX1_hold 110 = .ok (.iload 9, 2) := dk_21 9 (dk_at dksX1_hold_4 18 rfl rfl)
theorem dX1_hold_112 : decode cX1_hold 112 = .ok (.iaload, 1) := dk_46 (dk_at dksX1_hold_4 20 rfl rfl)
theorem dX1_hold_113 : decode cX1_hold 113 = .ok (.iload 5, 2) := dk_21 5 (dk_at dksX1_hold_4 21 rfl rfl)
theorem dX1_hold_115 : decode cX1_hold 115 = .ok (.aload_n 0, 1) := dk_42 (dk_at dksX1_hold_4 23 rfl rfl)
theorem dX1_hold_116 : decode cX1_hold 116 = .ok (.getfield 22, 3) := dk_180 0 22 (dk_at dksX1_hold_5 0 rfl rfl)
theorem dX1_hold_119 : decode cX1_hold 119 = .ok (.getfield 104, 3) := dk_180 0 104 (dk_at dksX1_hold_5 3 rfl rfl)
theorem dX1_hold_122 : decode cX1_hold 122 = .ok (.if_icmp .ne 7, 3) := dk_160 0 7 (dk_at dksX1_hold_5 6 rfl rfl)
theorem dX1_hold_125 : decode cX1_hold 125 = .ok (.iconst 0, 1) := dk_3 (dk_at dksX1_hold_5 9 rfl rfl)
theorem dX1_hold_126 : decode cX1_hold 126 = .ok (.goto 11, 3) := dk_167 0 11 (dk_at dksX1_hold_5 10 rfl rfl)
theorem dX1_hold_129 : decode cX1_hold 129 = .ok (.aload_n 0, 1) := dk_42 (dk_at dksX1_hold_5 13 rfl rfl)
theorem dX1_hold_130 : decode cX1_hold 130 = .ok (.iload 5, 2) := dk_21 5 (dk_at dksX1_hold_5 14 rfl rfl)
theorem dX1_hold_132 : decode cX1_hold 132 = .ok (.iload 9, 2) := dk_21 9 (dk_at dksX1_hold_5 16 rfl rfl)
theorem dX1_hold_134 : decode cX1_hold 134 = .ok (.invokevirtual 265, 3) := dk_182 1 9 (dk_at dksX1_hold_5 18 rfl rfl)
theorem dX1_hold_137 : decode cX1_hold 137 = .ok (.iadd, 1) := dk_96 (dk_at dksX1_hold_5 21 rfl rfl)
theorem dX1_hold_138 : decode cX1_hold 138 = .ok (.aload 4, 2) := dk_25 4 (dk_at dksX1_hold_5 22 rfl rfl)
theorem dX1_hold_140 : decode cX1_hold 140 = .ok (.iload 6, 2) := dk_21 6 (dk_at dksX1_hold_6 0 rfl rfl)
theorem dX1_hold_142 : decode cX1_hold 142 = .ok (.aaload, 1) := dk_50 (dk_at dksX1_hold_6 2 rfl rfl)
theorem dX1_hold_143 : decode cX1_hold 143 = .ok (.iload 5, 2) := dk_21 5 (dk_at dksX1_hold_6 3 rfl rfl)
theorem dX1_hold_145 : decode cX1_hold 145 = .ok (.iaload, 1) := dk_46 (dk_at dksX1_hold_6 5 rfl rfl)
theorem dX1_hold_146 : decode cX1_hold 146 = .ok (.if_icmp .ne 7, 3) := dk_160 0 7 (dk_at dksX1_hold_6 6 rfl rfl)
theorem dX1_hold_149 : decode cX1_hold 149 = .ok (.iload 9, 2) := dk_21 9 (dk_at dksX1_hold_6 9 rfl rfl)
theorem dX1_hold_151 : decode cX1_hold 151 = .ok (.istore 8, 2) := dk_54 8 (dk_at dksX1_hold_6 11 rfl rfl)
theorem dX1_hold_153 : decode cX1_hold 153 = .ok (.iinc 9 (-1), 3) := dk_132 9 255 (dk_at dksX1_hold_6 13 rfl rfl)
theorem dX1_hold_156 : decode cX1_hold 156 = .ok (.goto (-73), 3) := dk_167 255 183 (dk_at dksX1_hold_6 16 rfl rfl)
theorem dX1_hold_159 : decode cX1_hold 159 = .ok (.iload 8, 2) := dk_21 8 (dk_at dksX1_hold_6 19 rfl rfl)
theorem dX1_hold_161 : decode cX1_hold 161 = .ok (.istore 5, 2) := dk_54 5 (dk_at dksX1_hold_6 21 rfl rfl)
theorem dX1_hold_163 : decode cX1_hold 163 = .ok (.iload 6, 2) := dk_21 6 (dk_at dksX1_hold_7 0 rfl rfl)
theorem dX1_hold_165 : decode cX1_hold 165 = .ok (.iconst 1, 1) := dk_4 (dk_at dksX1_hold_7 2 rfl rfl)
theorem dX1_hold_166 : decode cX1_hold 166 = .ok (.iload 8, 2) := dk_21 8 (dk_at dksX1_hold_7 3 rfl rfl)
theorem dX1_hold_168 : decode cX1_hold 168 = .ok (.ishl, 1) := dk_120 (dk_at dksX1_hold_7 5 rfl rfl)
theorem dX1_hold_169 : decode cX1_hold 169 = .ok (.iconst (-1), 1) := dk_2 (dk_at dksX1_hold_7 6 rfl rfl)
theorem dX1_hold_170 : decode cX1_hold 170 = .ok (.ixor, 1) := dk_130 (dk_at dksX1_hold_7 7 rfl rfl)
theorem dX1_hold_171 : decode cX1_hold 171 = .ok (.iand, 1) := dk_126 (dk_at dksX1_hold_7 8 rfl rfl)
theorem dX1_hold_172 : decode cX1_hold 172 = .ok (.istore 6, 2) := dk_54 6 (dk_at dksX1_hold_7 9 rfl rfl)
theorem dX1_hold_174 : decode cX1_hold 174 = .ok (.iinc 7 1, 3) := dk_132 7 1 (dk_at dksX1_hold_7 11 rfl rfl)
theorem dX1_hold_177 : decode cX1_hold 177 = .ok (.goto (-114), 3) := dk_167 255 142 (dk_at dksX1_hold_7 14 rfl rfl)
theorem dX1_hold_180 : decode cX1_hold 180 = .ok (.iload 5, 2) := dk_21 5 (dk_at dksX1_hold_7 17 rfl rfl)
theorem dX1_hold_182 : decode cX1_hold 182 = .ok (.ireturn, 1) := dk_172 (dk_at dksX1_hold_7 19 rfl rfl)
abbrev cX1_harms : ByteArray := prog_1_method_32_code
def yX1_harms : MethodName := ⟨RX1, "harms", "(I)[[I"⟩
def dkwX1_harms_6 : List UInt8 := [79, 132, 5, 1, 167, 255, 172, 132, 4, 1, 167, 255, 143, 132, 3, 1, 167, 255, 118, 44, 176]
abbrev dktX1_harms_6 : List UInt8 := dkwX1_harms_6 ++ []
def dkwX1_harms_5 : List UInt8 := [21, 5, 182, 1, 9, 96, 54, 6, 44, 29, 50, 21, 4, 44, 29, 50, 21, 4, 46, 21, 6, 184, 0, 222]
abbrev dktX1_harms_5 : List UInt8 := dkwX1_harms_5 ++ dktX1_harms_6
def dkwX1_harms_4 : List UInt8 := [50, 21, 5, 46, 21, 4, 42, 180, 0, 22, 180, 0, 104, 160, 0, 7, 3, 167, 0, 11, 42, 21, 4]
abbrev dktX1_harms_4 : List UInt8 := dkwX1_harms_4 ++ dktX1_harms_5
def dkwX1_harms_3 : List UInt8 := [162, 0, 78, 29, 21, 5, 184, 0, 245, 154, 0, 6, 167, 0, 60, 44, 29, 4, 21, 5, 120, 2, 130, 126]
abbrev dktX1_harms_3 : List UInt8 := dkwX1_harms_3 ++ dktX1_harms_4
def dkwX1_harms_2 : List UInt8 := [163, 0, 107, 44, 29, 50, 21, 4, 18, 249, 79, 3, 54, 5, 21, 5, 42, 180, 0, 22, 180, 0, 104]
abbrev dktX1_harms_2 : List UInt8 := dkwX1_harms_2 ++ dktX1_harms_3
def dkwX1_harms_1 : List UInt8 := [29, 27, 2, 130, 126, 153, 0, 6, 167, 0, 122, 3, 54, 4, 21, 4, 42, 180, 0, 22, 180, 0, 104]
abbrev dktX1_harms_1 : List UInt8 := dkwX1_harms_1 ++ dktX1_harms_2
def dkwX1_harms_0 : List UInt8 := [27, 4, 96, 42, 180, 0, 22, 180, 0, 104, 4, 96, 197, 1, 7, 2, 77, 4, 62, 29, 27, 163, 0, 139]
abbrev dktX1_harms_0 : List UInt8 := dkwX1_harms_0 ++ dktX1_harms_1
theorem dksX1_harms_0 : cX1_harms.data.toList.drop 0 = dktX1_harms_0 := by decide +kernel
theorem dksX1_harms_1 : cX1_harms.data.toList.drop 24 = dktX1_harms_1 := dk_seg dksX1_harms_0 24 rfl rfl
theorem dksX1_harms_2 : cX1_harms.data.toList.drop 47 = dktX1_harms_2 := dk_seg dksX1_harms_1 23 rfl rfl
theorem dksX1_harms_3 : cX1_harms.data.toList.drop 70 = dktX1_harms_3 := dk_seg dksX1_harms_2 23 rfl rfl
theorem dksX1_harms_4 : cX1_harms.data.toList.drop 94 = dktX1_harms_4 := dk_seg dksX1_harms_3 24 rfl rfl
theorem dksX1_harms_5 : cX1_harms.data.toList.drop 117 = dktX1_harms_5 := dk_seg dksX1_harms_4 23 rfl rfl
theorem dksX1_harms_6 : cX1_harms.data.toList.drop 141 = dktX1_harms_6 := dk_seg dksX1_harms_5 24 rfl rfl
theorem dX1_harms_0 : decode cX1_harms 0 = .ok (.iload_n 1, 1) := dk_27 (dk_at dksX1_harms_0 0 rfl rfl)
theorem dX1_harms_1 : decode cX1_harms 1 = .ok (.iconst 1, 1) := dk_4 (dk_at dksX1_harms_0 1 rfl rfl)
theorem dX1_harms_2 : decode cX1_harms 2 = .ok (.iadd, 1) := dk_96 (dk_at dksX1_harms_0 2 rfl rfl)
theorem dX1_harms_3 : decode cX1_harms 3 = .ok (.aload_n 0, 1) := dk_42 (dk_at dksX1_harms_0 3 rfl rfl)
theorem dX1_harms_4 : decode cX1_harms 4 = .ok (.getfield 22, 3) := dk_180 0 22 (dk_at dksX1_harms_0 4 rfl rfl)
theorem dX1_harms_7 : decode cX1_harms 7 = .ok (.getfield 104, 3) := dk_180 0 104 (dk_at dksX1_harms_0 7 rfl rfl)
theorem dX1_harms_10 : decode cX1_harms 10 = .ok (.iconst 1, 1) := dk_4 (dk_at dksX1_harms_0 10 rfl rfl)
theorem dX1_harms_11 : decode cX1_harms 11 = .ok (.iadd, 1) := dk_96 (dk_at dksX1_harms_0 11 rfl rfl)
theorem dX1_harms_12 : decode cX1_harms 12 = .ok (.multianewarray 263 2, 4) := by decide +kernel
theorem dX1_harms_16 : decode cX1_harms 16 = .ok (.astore_n 2, 1) := dk_77 (dk_at dksX1_harms_0 16 rfl rfl)
theorem dX1_harms_17 : decode cX1_harms 17 = .ok (.iconst 1, 1) := dk_4 (dk_at dksX1_harms_0 17 rfl rfl)
theorem dX1_harms_18 : decode cX1_harms 18 = .ok (.istore_n 3, 1) := dk_62 (dk_at dksX1_harms_0 18 rfl rfl)
theorem dX1_harms_19 : decode cX1_harms 19 = .ok (.iload_n 3, 1) := dk_29 (dk_at dksX1_harms_0 19 rfl rfl)
theorem dX1_harms_20 : decode cX1_harms 20 = .ok (.iload_n 1, 1) := dk_27 (dk_at dksX1_harms_0 20 rfl rfl)
theorem dX1_harms_21 : decode cX1_harms 21 = .ok (.if_icmp .gt 139, 3) := dk_163 0 139 (dk_at dksX1_harms_0 21 rfl rfl)
theorem dX1_harms_24 : decode cX1_harms 24 = .ok (.iload_n 3, 1) := dk_29 (dk_at dksX1_harms_1 0 rfl rfl)
theorem dX1_harms_25 : decode cX1_harms 25 = .ok (.iload_n 1, 1) := dk_27 (dk_at dksX1_harms_1 1 rfl rfl)
theorem dX1_harms_26 : decode cX1_harms 26 = .ok (.iconst (-1), 1) := dk_2 (dk_at dksX1_harms_1 2 rfl rfl)
theorem dX1_harms_27 : decode cX1_harms 27 = .ok (.ixor, 1) := dk_130 (dk_at dksX1_harms_1 3 rfl rfl)
theorem dX1_harms_28 : decode cX1_harms 28 = .ok (.iand, 1) := dk_126 (dk_at dksX1_harms_1 4 rfl rfl)
theorem dX1_harms_29 : decode cX1_harms 29 = .ok (.ifCond .eq 6, 3) := dk_153 0 6 (dk_at dksX1_harms_1 5 rfl rfl)
theorem dX1_harms_32 : decode cX1_harms 32 = .ok (.goto 122, 3) := dk_167 0 122 (dk_at dksX1_harms_1 8 rfl rfl)
theorem dX1_harms_35 : decode cX1_harms 35 = .ok (.iconst 0, 1) := dk_3 (dk_at dksX1_harms_1 11 rfl rfl)
theorem dX1_harms_36 : decode cX1_harms 36 = .ok (.istore 4, 2) := dk_54 4 (dk_at dksX1_harms_1 12 rfl rfl)
theorem dX1_harms_38 : decode cX1_harms 38 = .ok (.iload 4, 2) := dk_21 4 (dk_at dksX1_harms_1 14 rfl rfl)
theorem dX1_harms_40 : decode cX1_harms 40 = .ok (.aload_n 0, 1) := dk_42 (dk_at dksX1_harms_1 16 rfl rfl)
theorem dX1_harms_41 : decode cX1_harms 41 = .ok (.getfield 22, 3) := dk_180 0 22 (dk_at dksX1_harms_1 17 rfl rfl)
theorem dX1_harms_44 : decode cX1_harms 44 = .ok (.getfield 104, 3) := dk_180 0 104 (dk_at dksX1_harms_1 20 rfl rfl)
theorem dX1_harms_47 : decode cX1_harms 47 = .ok (.if_icmp .gt 107, 3) := dk_163 0 107 (dk_at dksX1_harms_2 0 rfl rfl)
theorem dX1_harms_50 : decode cX1_harms 50 = .ok (.aload_n 2, 1) := dk_44 (dk_at dksX1_harms_2 3 rfl rfl)
theorem dX1_harms_51 : decode cX1_harms 51 = .ok (.iload_n 3, 1) := dk_29 (dk_at dksX1_harms_2 4 rfl rfl)
theorem dX1_harms_52 : decode cX1_harms 52 = .ok (.aaload, 1) := dk_50 (dk_at dksX1_harms_2 5 rfl rfl)
theorem dX1_harms_53 : decode cX1_harms 53 = .ok (.iload 4, 2) := dk_21 4 (dk_at dksX1_harms_2 6 rfl rfl)
theorem dX1_harms_55 : decode cX1_harms 55 = .ok (.ldc 249, 2) := dk_18 249 (dk_at dksX1_harms_2 8 rfl rfl)
theorem dX1_harms_57 : decode cX1_harms 57 = .ok (.iastore, 1) := dk_79 (dk_at dksX1_harms_2 10 rfl rfl)
theorem dX1_harms_58 : decode cX1_harms 58 = .ok (.iconst 0, 1) := dk_3 (dk_at dksX1_harms_2 11 rfl rfl)
theorem dX1_harms_59 : decode cX1_harms 59 = .ok (.istore 5, 2) := dk_54 5 (dk_at dksX1_harms_2 12 rfl rfl)
theorem dX1_harms_61 : decode cX1_harms 61 = .ok (.iload 5, 2) := dk_21 5 (dk_at dksX1_harms_2 14 rfl rfl)
theorem dX1_harms_63 : decode cX1_harms 63 = .ok (.aload_n 0, 1) := dk_42 (dk_at dksX1_harms_2 16 rfl rfl)
theorem dX1_harms_64 : decode cX1_harms 64 = .ok (.getfield 22, 3) := dk_180 0 22 (dk_at dksX1_harms_2 17 rfl rfl)
theorem dX1_harms_67 : decode cX1_harms 67 = .ok (.getfield 104, 3) := dk_180 0 104 (dk_at dksX1_harms_2 20 rfl rfl)
theorem dX1_harms_70 : decode cX1_harms 70 = .ok (.if_icmp .ge 78, 3) := dk_162 0 78 (dk_at dksX1_harms_3 0 rfl rfl)
theorem dX1_harms_73 : decode cX1_harms 73 = .ok (.iload_n 3, 1) := dk_29 (dk_at dksX1_harms_3 3 rfl rfl)
theorem dX1_harms_74 : decode cX1_harms 74 = .ok (.iload 5, 2) := dk_21 5 (dk_at dksX1_harms_3 4 rfl rfl)
theorem dX1_harms_76 : decode cX1_harms 76 = .ok (.invokestatic 245, 3) := dk_184 0 245 (dk_at dksX1_harms_3 6 rfl rfl)
theorem dX1_harms_79 : decode cX1_harms 79 = .ok (.ifCond .ne 6, 3) := dk_154 0 6 (dk_at dksX1_harms_3 9 rfl rfl)
theorem dX1_harms_82 : decode cX1_harms 82 = .ok (.goto 60, 3) := dk_167 0 60 (dk_at dksX1_harms_3 12 rfl rfl)
theorem dX1_harms_85 : decode cX1_harms 85 = .ok (.aload_n 2, 1) := dk_44 (dk_at dksX1_harms_3 15 rfl rfl)
theorem dX1_harms_86 : decode cX1_harms 86 = .ok (.iload_n 3, 1) := dk_29 (dk_at dksX1_harms_3 16 rfl rfl)
theorem dX1_harms_87 : decode cX1_harms 87 = .ok (.iconst 1, 1) := dk_4 (dk_at dksX1_harms_3 17 rfl rfl)
theorem dX1_harms_88 : decode cX1_harms 88 = .ok (.iload 5, 2) := dk_21 5 (dk_at dksX1_harms_3 18 rfl rfl)
theorem dX1_harms_90 : decode cX1_harms 90 = .ok (.ishl, 1) := dk_120 (dk_at dksX1_harms_3 20 rfl rfl)
theorem dX1_harms_91 : decode cX1_harms 91 = .ok (.iconst (-1), 1) := dk_2 (dk_at dksX1_harms_3 21 rfl rfl)
theorem dX1_harms_92 : decode cX1_harms 92 = .ok (.ixor, 1) := dk_130 (dk_at dksX1_harms_3 22 rfl rfl)
theorem dX1_harms_93 : decode cX1_harms 93 = .ok (.iand, 1) := dk_126 (dk_at dksX1_harms_3 23 rfl rfl)
theorem dX1_harms_94 : decode cX1_harms 94 = .ok (.aaload, 1) := dk_50 (dk_at dksX1_harms_4 0 rfl rfl)
theorem dX1_harms_95 : decode cX1_harms 95 = .ok (.iload 5, 2) := dk_21 5 (dk_at dksX1_harms_4 1 rfl rfl)
theorem dX1_harms_97 : decode cX1_harms 97 = .ok (.iaload, 1) := dk_46 (dk_at dksX1_harms_4 3 rfl rfl)
theorem dX1_harms_98 : decode cX1_harms 98 = .ok (.iload 4, 2) := dk_21 4 (dk_at dksX1_harms_4 4 rfl rfl)
theorem dX1_harms_100 : decode cX1_harms 100 = .ok (.aload_n 0, 1) := dk_42 (dk_at dksX1_harms_4 6 rfl rfl)
theorem dX1_harms_101 : decode cX1_harms 101 = .ok (.getfield 22, 3) := dk_180 0 22 (dk_at dksX1_harms_4 7 rfl rfl)
theorem dX1_harms_104 : decode cX1_harms 104 = .ok (.getfield 104, 3) := dk_180 0 104 (dk_at dksX1_harms_4 10 rfl rfl)
theorem dX1_harms_107 : decode cX1_harms 107 = .ok (.if_icmp .ne 7, 3) := dk_160 0 7 (dk_at dksX1_harms_4 13 rfl rfl)
theorem dX1_harms_110 : decode cX1_harms 110 = .ok (.iconst 0, 1) := dk_3 (dk_at dksX1_harms_4 16 rfl rfl)
theorem dX1_harms_111 : decode cX1_harms 111 = .ok (.goto 11, 3) := dk_167 0 11 (dk_at dksX1_harms_4 17 rfl rfl)
theorem dX1_harms_114 : decode cX1_harms 114 = .ok (.aload_n 0, 1) := dk_42 (dk_at dksX1_harms_4 20 rfl rfl)
theorem dX1_harms_115 : decode cX1_harms 115 = .ok (.iload 4, 2) := dk_21 4 (dk_at dksX1_harms_4 21 rfl rfl)
theorem dX1_harms_117 : decode cX1_harms 117 = .ok (.iload 5, 2) := dk_21 5 (dk_at dksX1_harms_5 0 rfl rfl)
theorem dX1_harms_119 : decode cX1_harms 119 = .ok (.invokevirtual 265, 3) := dk_182 1 9 (dk_at dksX1_harms_5 2 rfl rfl)
theorem dX1_harms_122 : decode cX1_harms 122 = .ok (.iadd, 1) := dk_96 (dk_at dksX1_harms_5 5 rfl rfl)
theorem dX1_harms_123 : decode cX1_harms 123 = .ok (.istore 6, 2) := dk_54 6 (dk_at dksX1_harms_5 6 rfl rfl)
theorem dX1_harms_125 : decode cX1_harms 125 = .ok (.aload_n 2, 1) := dk_44 (dk_at dksX1_harms_5 8 rfl rfl)
theorem dX1_harms_126 : decode cX1_harms 126 = .ok (.iload_n 3, 1) := dk_29 (dk_at dksX1_harms_5 9 rfl rfl)
theorem dX1_harms_127 : decode cX1_harms 127 = .ok (.aaload, 1) := dk_50 (dk_at dksX1_harms_5 10 rfl rfl)
theorem dX1_harms_128 : decode cX1_harms 128 = .ok (.iload 4, 2) := dk_21 4 (dk_at dksX1_harms_5 11 rfl rfl)
theorem dX1_harms_130 : decode cX1_harms 130 = .ok (.aload_n 2, 1) := dk_44 (dk_at dksX1_harms_5 13 rfl rfl)
theorem dX1_harms_131 : decode cX1_harms 131 = .ok (.iload_n 3, 1) := dk_29 (dk_at dksX1_harms_5 14 rfl rfl)
theorem dX1_harms_132 : decode cX1_harms 132 = .ok (.aaload, 1) := dk_50 (dk_at dksX1_harms_5 15 rfl rfl)
theorem dX1_harms_133 : decode cX1_harms 133 = .ok (.iload 4, 2) := dk_21 4 (dk_at dksX1_harms_5 16 rfl rfl)
theorem dX1_harms_135 : decode cX1_harms 135 = .ok (.iaload, 1) := dk_46 (dk_at dksX1_harms_5 18 rfl rfl)
theorem dX1_harms_136 : decode cX1_harms 136 = .ok (.iload 6, 2) := dk_21 6 (dk_at dksX1_harms_5 19 rfl rfl)
theorem dX1_harms_138 : decode cX1_harms 138 = .ok (.invokestatic 222, 3) := dk_184 0 222 (dk_at dksX1_harms_5 21 rfl rfl)
theorem dX1_harms_141 : decode cX1_harms 141 = .ok (.iastore, 1) := dk_79 (dk_at dksX1_harms_6 0 rfl rfl)
theorem dX1_harms_142 : decode cX1_harms 142 = .ok (.iinc 5 1, 3) := dk_132 5 1 (dk_at dksX1_harms_6 1 rfl rfl)
theorem dX1_harms_145 : decode cX1_harms 145 = .ok (.goto (-84), 3) := dk_167 255 172 (dk_at dksX1_harms_6 4 rfl rfl)
theorem dX1_harms_148 : decode cX1_harms 148 = .ok (.iinc 4 1, 3) := dk_132 4 1 (dk_at dksX1_harms_6 7 rfl rfl)
theorem dX1_harms_151 : decode cX1_harms 151 = .ok (.goto (-113), 3) := dk_167 255 143 (dk_at dksX1_harms_6 10 rfl rfl)
theorem dX1_harms_154 : decode cX1_harms 154 = .ok (.iinc 3 1, 3) := dk_132 3 1 (dk_at dksX1_harms_6 13 rfl rfl)
theorem dX1_harms_157 : decode cX1_harms 157 = .ok (.goto (-138), 3) := dk_167 255 118 (dk_at dksX1_harms_6 16 rfl rfl)
theorem dX1_harms_160 : decode cX1_harms 160 = .ok (.aload_n 2, 1) := dk_44 (dk_at dksX1_harms_6 19 rfl rfl)
theorem dX1_harms_161 : decode cX1_harms 161 = .ok (.areturn, 1) := dk_176 (dk_at dksX1_harms_6 20 rfl rfl)
abbrev cX1_harm : ByteArray := prog_1_method_31_code
def yX1_harm : MethodName := ⟨RX1, "harm", "(II)I"⟩
def dkwX1_harm_2 : List UInt8 := [172]
abbrev dktX1_harm_2 : List UInt8 := dkwX1_harm_2 ++ []
def dkwX1_harm_1 : List UInt8 := [167, 0, 24, 42, 180, 0, 31, 180, 0, 170, 27, 46, 42, 180, 0, 31, 180, 0, 170, 28, 46, 184, 0, 222]
abbrev dktX1_harm_1 : List UInt8 := dkwX1_harm_1 ++ dktX1_harm_2
def dkwX1_harm_0 : List UInt8 := [42, 180, 0, 31, 180, 0, 173, 27, 46, 42, 180, 0, 31, 180, 0, 173, 28, 46, 160, 0, 7, 3]
abbrev dktX1_harm_0 : List UInt8 := dkwX1_harm_0 ++ dktX1_harm_1
theorem dksX1_harm_0 : cX1_harm.data.toList.drop 0 = dktX1_harm_0 := by decide +kernel
theorem dksX1_harm_1 : cX1_harm.data.toList.drop 22 = dktX1_harm_1 := dk_seg dksX1_harm_0 22 rfl rfl
theorem dksX1_harm_2 : cX1_harm.data.toList.drop 46 = dktX1_harm_2 := dk_seg dksX1_harm_1 24 rfl rfl
theorem dX1_harm_0 : decode cX1_harm 0 = .ok (.aload_n 0, 1) := dk_42 (dk_at dksX1_harm_0 0 rfl rfl)
theorem dX1_harm_1 : decode cX1_harm 1 = .ok (.getfield 31, 3) := dk_180 0 31 (dk_at dksX1_harm_0 1 rfl rfl)
theorem dX1_harm_4 : decode cX1_harm 4 = .ok (.getfield 173, 3) := dk_180 0 173 (dk_at dksX1_harm_0 4 rfl rfl)
theorem dX1_harm_7 : decode cX1_harm 7 = .ok (.iload_n 1, 1) := dk_27 (dk_at dksX1_harm_0 7 rfl rfl)
theorem dX1_harm_8 : decode cX1_harm 8 = .ok (.iaload, 1) := dk_46 (dk_at dksX1_harm_0 8 rfl rfl)
theorem dX1_harm_9 : decode cX1_harm 9 = .ok (.aload_n 0, 1) := dk_42 (dk_at dksX1_harm_0 9 rfl rfl)
theorem dX1_harm_10 : decode cX1_harm 10 = .ok (.getfield 31, 3) := dk_180 0 31 (dk_at dksX1_harm_0 10 rfl rfl)
theorem dX1_harm_13 : decode cX1_harm 13 = .ok (.getfield 173, 3) := dk_180 0 173 (dk_at dksX1_harm_0 13 rfl rfl)
theorem dX1_harm_16 : decode cX1_harm 16 = .ok (.iload_n 2, 1) := dk_28 (dk_at dksX1_harm_0 16 rfl rfl)
theorem dX1_harm_17 : decode cX1_harm 17 = .ok (.iaload, 1) := dk_46 (dk_at dksX1_harm_0 17 rfl rfl)
theorem dX1_harm_18 : decode cX1_harm 18 = .ok (.if_icmp .ne 7, 3) := dk_160 0 7 (dk_at dksX1_harm_0 18 rfl rfl)
theorem dX1_harm_21 : decode cX1_harm 21 = .ok (.iconst 0, 1) := dk_3 (dk_at dksX1_harm_0 21 rfl rfl)
theorem dX1_harm_22 : decode cX1_harm 22 = .ok (.goto 24, 3) := dk_167 0 24 (dk_at dksX1_harm_1 0 rfl rfl)
theorem dX1_harm_25 : decode cX1_harm 25 = .ok (.aload_n 0, 1) := dk_42 (dk_at dksX1_harm_1 3 rfl rfl)
theorem dX1_harm_26 : decode cX1_harm 26 = .ok (.getfield 31, 3) := dk_180 0 31 (dk_at dksX1_harm_1 4 rfl rfl)
theorem dX1_harm_29 : decode cX1_harm 29 = .ok (.getfield 170, 3) := dk_180 0 170 (dk_at dksX1_harm_1 7 rfl rfl)
theorem dX1_harm_32 : decode cX1_harm 32 = .ok (.iload_n 1, 1) := dk_27 (dk_at dksX1_harm_1 10 rfl rfl)
theorem dX1_harm_33 : decode cX1_harm 33 = .ok (.iaload, 1) := dk_46 (dk_at dksX1_harm_1 11 rfl rfl)
theorem dX1_harm_34 : decode cX1_harm 34 = .ok (.aload_n 0, 1) := dk_42 (dk_at dksX1_harm_1 12 rfl rfl)
theorem dX1_harm_35 : decode cX1_harm 35 = .ok (.getfield 31, 3) := dk_180 0 31 (dk_at dksX1_harm_1 13 rfl rfl)
theorem dX1_harm_38 : decode cX1_harm 38 = .ok (.getfield 170, 3) := dk_180 0 170 (dk_at dksX1_harm_1 16 rfl rfl)
theorem dX1_harm_41 : decode cX1_harm 41 = .ok (.iload_n 2, 1) := dk_28 (dk_at dksX1_harm_1 19 rfl rfl)
theorem dX1_harm_42 : decode cX1_harm 42 = .ok (.iaload, 1) := dk_46 (dk_at dksX1_harm_1 20 rfl rfl)
theorem dX1_harm_43 : decode cX1_harm 43 = .ok (.invokestatic 222, 3) := dk_184 0 222 (dk_at dksX1_harm_1 21 rfl rfl)
theorem dX1_harm_46 : decode cX1_harm 46 = .ok (.ireturn, 1) := dk_172 (dk_at dksX1_harm_2 0 rfl rfl)
abbrev cX1_thrower : ByteArray := prog_1_method_36_code
def yX1_thrower : MethodName := ⟨RX1, "thrower", "(IIII)I"⟩
def dkwX1_thrower_2 : List UInt8 := [184, 0, 65, 27, 28, 29, 21, 4, 184, 1, 19, 172]
abbrev dktX1_thrower_2 : List UInt8 := dkwX1_thrower_2 ++ []
def dkwX1_thrower_1 : List UInt8 := [184, 0, 134, 153, 0, 18, 21, 4, 3, 16, 7, 184, 0, 134, 153, 0, 7, 4, 167, 0, 4, 3]
abbrev dktX1_thrower_1 : List UInt8 := dkwX1_thrower_1 ++ dktX1_thrower_2
def dkwX1_thrower_0 : List UInt8 := [27, 3, 16, 20, 184, 0, 134, 153, 0, 38, 28, 3, 16, 12, 184, 0, 134, 153, 0, 28, 29, 4, 16, 20]
abbrev dktX1_thrower_0 : List UInt8 := dkwX1_thrower_0 ++ dktX1_thrower_1
theorem dksX1_thrower_0 : cX1_thrower.data.toList.drop 0 = dktX1_thrower_0 := by decide +kernel
theorem dksX1_thrower_1 : cX1_thrower.data.toList.drop 24 = dktX1_thrower_1 := dk_seg dksX1_thrower_0 24 rfl rfl
theorem dksX1_thrower_2 : cX1_thrower.data.toList.drop 46 = dktX1_thrower_2 := dk_seg dksX1_thrower_1 22 rfl rfl
theorem dX1_thrower_0 : decode cX1_thrower 0 = .ok (.iload_n 1, 1) := dk_27 (dk_at dksX1_thrower_0 0 rfl rfl)
theorem dX1_thrower_1 : decode cX1_thrower 1 = .ok (.iconst 0, 1) := dk_3 (dk_at dksX1_thrower_0 1 rfl rfl)
theorem dX1_thrower_2 : decode cX1_thrower 2 = .ok (.bipush 20, 2) := dk_16 20 (dk_at dksX1_thrower_0 2 rfl rfl)
theorem dX1_thrower_4 : decode cX1_thrower 4 = .ok (.invokestatic 134, 3) := dk_184 0 134 (dk_at dksX1_thrower_0 4 rfl rfl)
theorem dX1_thrower_7 : decode cX1_thrower 7 = .ok (.ifCond .eq 38, 3) := dk_153 0 38 (dk_at dksX1_thrower_0 7 rfl rfl)
theorem dX1_thrower_10 : decode cX1_thrower 10 = .ok (.iload_n 2, 1) := dk_28 (dk_at dksX1_thrower_0 10 rfl rfl)
theorem dX1_thrower_11 : decode cX1_thrower 11 = .ok (.iconst 0, 1) := dk_3 (dk_at dksX1_thrower_0 11 rfl rfl)
theorem dX1_thrower_12 : decode cX1_thrower 12 = .ok (.bipush 12, 2) := dk_16 12 (dk_at dksX1_thrower_0 12 rfl rfl)
theorem dX1_thrower_14 : decode cX1_thrower 14 = .ok (.invokestatic 134, 3) := dk_184 0 134 (dk_at dksX1_thrower_0 14 rfl rfl)
theorem dX1_thrower_17 : decode cX1_thrower 17 = .ok (.ifCond .eq 28, 3) := dk_153 0 28 (dk_at dksX1_thrower_0 17 rfl rfl)
theorem dX1_thrower_20 : decode cX1_thrower 20 = .ok (.iload_n 3, 1) := dk_29 (dk_at dksX1_thrower_0 20 rfl rfl)
theorem dX1_thrower_21 : decode cX1_thrower 21 = .ok (.iconst 1, 1) := dk_4 (dk_at dksX1_thrower_0 21 rfl rfl)
theorem dX1_thrower_22 : decode cX1_thrower 22 = .ok (.bipush 20, 2) := dk_16 20 (dk_at dksX1_thrower_0 22 rfl rfl)
theorem dX1_thrower_24 : decode cX1_thrower 24 = .ok (.invokestatic 134, 3) := dk_184 0 134 (dk_at dksX1_thrower_1 0 rfl rfl)
theorem dX1_thrower_27 : decode cX1_thrower 27 = .ok (.ifCond .eq 18, 3) := dk_153 0 18 (dk_at dksX1_thrower_1 3 rfl rfl)
theorem dX1_thrower_30 : decode cX1_thrower 30 = .ok (.iload 4, 2) := dk_21 4 (dk_at dksX1_thrower_1 6 rfl rfl)
theorem dX1_thrower_32 : decode cX1_thrower 32 = .ok (.iconst 0, 1) := dk_3 (dk_at dksX1_thrower_1 8 rfl rfl)
theorem dX1_thrower_33 : decode cX1_thrower 33 = .ok (.bipush 7, 2) := dk_16 7 (dk_at dksX1_thrower_1 9 rfl rfl)
theorem dX1_thrower_35 : decode cX1_thrower 35 = .ok (.invokestatic 134, 3) := dk_184 0 134 (dk_at dksX1_thrower_1 11 rfl rfl)
theorem dX1_thrower_38 : decode cX1_thrower 38 = .ok (.ifCond .eq 7, 3) := dk_153 0 7 (dk_at dksX1_thrower_1 14 rfl rfl)
theorem dX1_thrower_41 : decode cX1_thrower 41 = .ok (.iconst 1, 1) := dk_4 (dk_at dksX1_thrower_1 17 rfl rfl)
theorem dX1_thrower_42 : decode cX1_thrower 42 = .ok (.goto 4, 3) := dk_167 0 4 (dk_at dksX1_thrower_1 18 rfl rfl)
theorem dX1_thrower_45 : decode cX1_thrower 45 = .ok (.iconst 0, 1) := dk_3 (dk_at dksX1_thrower_1 21 rfl rfl)
theorem dX1_thrower_46 : decode cX1_thrower 46 = .ok (.invokestatic 65, 3) := dk_184 0 65 (dk_at dksX1_thrower_2 0 rfl rfl)
theorem dX1_thrower_49 : decode cX1_thrower 49 = .ok (.iload_n 1, 1) := dk_27 (dk_at dksX1_thrower_2 3 rfl rfl)
theorem dX1_thrower_50 : decode cX1_thrower 50 = .ok (.iload_n 2, 1) := dk_28 (dk_at dksX1_thrower_2 4 rfl rfl)
theorem dX1_thrower_51 : decode cX1_thrower 51 = .ok (.iload_n 3, 1) := dk_29 (dk_at dksX1_thrower_2 5 rfl rfl)
theorem dX1_thrower_52 : decode cX1_thrower 52 = .ok (.iload 4, 2) := dk_21 4 (dk_at dksX1_thrower_2 6 rfl rfl)
theorem dX1_thrower_54 : decode cX1_thrower 54 = .ok (.invokestatic 275, 3) := dk_184 1 19 (dk_at dksX1_thrower_2 8 rfl rfl)
theorem dX1_thrower_57 : decode cX1_thrower 57 = .ok (.ireturn, 1) := dk_172 (dk_at dksX1_thrower_2 11 rfl rfl)
abbrev cX1_reaches : ByteArray := prog_1_method_35_code
def yX1_reaches : MethodName := ⟨RX1, "reaches", "(IIII)I"⟩
def dkwX1_reaches_2 : List UInt8 := [104, 96, 172]
abbrev dktX1_reaches_2 : List UInt8 := dkwX1_reaches_2 ++ []
def dkwX1_reaches_1 : List UInt8 := [27, 28, 29, 4, 100, 184, 1, 19, 104, 16, 12, 27, 100, 26, 4, 100, 27, 28, 29, 4, 100, 184, 1, 19]
abbrev dktX1_reaches_1 : List UInt8 := dkwX1_reaches_1 ++ dktX1_reaches_2
def dkwX1_reaches_0 : List UInt8 := [26, 28, 161, 0, 8, 29, 184, 1, 16, 172, 26, 153, 0, 7, 29, 154, 0, 5, 3, 172, 27, 26, 4, 96]
abbrev dktX1_reaches_0 : List UInt8 := dkwX1_reaches_0 ++ dktX1_reaches_1
theorem dksX1_reaches_0 : cX1_reaches.data.toList.drop 0 = dktX1_reaches_0 := by decide +kernel
theorem dksX1_reaches_1 : cX1_reaches.data.toList.drop 24 = dktX1_reaches_1 := dk_seg dksX1_reaches_0 24 rfl rfl
theorem dksX1_reaches_2 : cX1_reaches.data.toList.drop 48 = dktX1_reaches_2 := dk_seg dksX1_reaches_1 24 rfl rfl
theorem dX1_reaches_0 : decode cX1_reaches 0 = .ok (.iload_n 0, 1) := dk_26 (dk_at dksX1_reaches_0 0 rfl rfl)
theorem dX1_reaches_1 : decode cX1_reaches 1 = .ok (.iload_n 2, 1) := dk_28 (dk_at dksX1_reaches_0 1 rfl rfl)
theorem dX1_reaches_2 : decode cX1_reaches 2 = .ok (.if_icmp .lt 8, 3) := dk_161 0 8 (dk_at dksX1_reaches_0 2 rfl rfl)
theorem dX1_reaches_5 : decode cX1_reaches 5 = .ok (.iload_n 3, 1) := dk_29 (dk_at dksX1_reaches_0 5 rfl rfl)
theorem dX1_reaches_6 : decode cX1_reaches 6 = .ok (.invokestatic 272, 3) := dk_184 1 16 (dk_at dksX1_reaches_0 6 rfl rfl)
theorem dX1_reaches_9 : decode cX1_reaches 9 = .ok (.ireturn, 1) := dk_172 (dk_at dksX1_reaches_0 9 rfl rfl)
theorem dX1_reaches_10 : decode cX1_reaches 10 = .ok (.iload_n 0, 1) := dk_26 (dk_at dksX1_reaches_0 10 rfl rfl)
theorem dX1_reaches_11 : decode cX1_reaches 11 = .ok (.ifCond .eq 7, 3) := dk_153 0 7 (dk_at dksX1_reaches_0 11 rfl rfl)
theorem dX1_reaches_14 : decode cX1_reaches 14 = .ok (.iload_n 3, 1) := dk_29 (dk_at dksX1_reaches_0 14 rfl rfl)
theorem dX1_reaches_15 : decode cX1_reaches 15 = .ok (.ifCond .ne 5, 3) := dk_154 0 5 (dk_at dksX1_reaches_0 15 rfl rfl)
theorem dX1_reaches_18 : decode cX1_reaches 18 = .ok (.iconst 0, 1) := dk_3 (dk_at dksX1_reaches_0 18 rfl rfl)
theorem dX1_reaches_19 : decode cX1_reaches 19 = .ok (.ireturn, 1) := dk_172 (dk_at dksX1_reaches_0 19 rfl rfl)
theorem dX1_reaches_20 : decode cX1_reaches 20 = .ok (.iload_n 1, 1) := dk_27 (dk_at dksX1_reaches_0 20 rfl rfl)
theorem dX1_reaches_21 : decode cX1_reaches 21 = .ok (.iload_n 0, 1) := dk_26 (dk_at dksX1_reaches_0 21 rfl rfl)
theorem dX1_reaches_22 : decode cX1_reaches 22 = .ok (.iconst 1, 1) := dk_4 (dk_at dksX1_reaches_0 22 rfl rfl)
theorem dX1_reaches_23 : decode cX1_reaches 23 = .ok (.iadd, 1) := dk_96 (dk_at dksX1_reaches_0 23 rfl rfl)
theorem dX1_reaches_24 : decode cX1_reaches 24 = .ok (.iload_n 1, 1) := dk_27 (dk_at dksX1_reaches_1 0 rfl rfl)
theorem dX1_reaches_25 : decode cX1_reaches 25 = .ok (.iload_n 2, 1) := dk_28 (dk_at dksX1_reaches_1 1 rfl rfl)
theorem dX1_reaches_26 : decode cX1_reaches 26 = .ok (.iload_n 3, 1) := dk_29 (dk_at dksX1_reaches_1 2 rfl rfl)
theorem dX1_reaches_27 : decode cX1_reaches 27 = .ok (.iconst 1, 1) := dk_4 (dk_at dksX1_reaches_1 3 rfl rfl)
theorem dX1_reaches_28 : decode cX1_reaches 28 = .ok (.isub, 1) := dk_100 (dk_at dksX1_reaches_1 4 rfl rfl)
theorem dX1_reaches_29 : decode cX1_reaches 29 = .ok (.invokestatic 275, 3) := dk_184 1 19 (dk_at dksX1_reaches_1 5 rfl rfl)
theorem dX1_reaches_32 : decode cX1_reaches 32 = .ok (.imul, 1) := dk_104 (dk_at dksX1_reaches_1 8 rfl rfl)
theorem dX1_reaches_33 : decode cX1_reaches 33 = .ok (.bipush 12, 2) := dk_16 12 (dk_at dksX1_reaches_1 9 rfl rfl)
theorem dX1_reaches_35 : decode cX1_reaches 35 = .ok (.iload_n 1, 1) := dk_27 (dk_at dksX1_reaches_1 11 rfl rfl)
theorem dX1_reaches_36 : decode cX1_reaches 36 = .ok (.isub, 1) := dk_100 (dk_at dksX1_reaches_1 12 rfl rfl)
theorem dX1_reaches_37 : decode cX1_reaches 37 = .ok (.iload_n 0, 1) := dk_26 (dk_at dksX1_reaches_1 13 rfl rfl)
theorem dX1_reaches_38 : decode cX1_reaches 38 = .ok (.iconst 1, 1) := dk_4 (dk_at dksX1_reaches_1 14 rfl rfl)
theorem dX1_reaches_39 : decode cX1_reaches 39 = .ok (.isub, 1) := dk_100 (dk_at dksX1_reaches_1 15 rfl rfl)
theorem dX1_reaches_40 : decode cX1_reaches 40 = .ok (.iload_n 1, 1) := dk_27 (dk_at dksX1_reaches_1 16 rfl rfl)
theorem dX1_reaches_41 : decode cX1_reaches 41 = .ok (.iload_n 2, 1) := dk_28 (dk_at dksX1_reaches_1 17 rfl rfl)
theorem dX1_reaches_42 : decode cX1_reaches 42 = .ok (.iload_n 3, 1) := dk_29 (dk_at dksX1_reaches_1 18 rfl rfl)
theorem dX1_reaches_43 : decode cX1_reaches 43 = .ok (.iconst 1, 1) := dk_4 (dk_at dksX1_reaches_1 19 rfl rfl)
theorem dX1_reaches_44 : decode cX1_reaches 44 = .ok (.isub, 1) := dk_100 (dk_at dksX1_reaches_1 20 rfl rfl)
theorem dX1_reaches_45 : decode cX1_reaches 45 = .ok (.invokestatic 275, 3) := dk_184 1 19 (dk_at dksX1_reaches_1 21 rfl rfl)
theorem dX1_reaches_48 : decode cX1_reaches 48 = .ok (.imul, 1) := dk_104 (dk_at dksX1_reaches_2 0 rfl rfl)
theorem dX1_reaches_49 : decode cX1_reaches 49 = .ok (.iadd, 1) := dk_96 (dk_at dksX1_reaches_2 1 rfl rfl)
theorem dX1_reaches_50 : decode cX1_reaches 50 = .ok (.ireturn, 1) := dk_172 (dk_at dksX1_reaches_2 2 rfl rfl)
abbrev cX1_power : ByteArray := prog_1_method_34_code
def yX1_power : MethodName := ⟨RX1, "power", "(I)I"⟩
def dkwX1_power_0 : List UInt8 := [4, 60, 3, 61, 28, 26, 162, 0, 14, 27, 16, 12, 104, 60, 132, 2, 1, 167, 255, 243, 27, 172]
abbrev dktX1_power_0 : List UInt8 := dkwX1_power_0 ++ []
theorem dksX1_power_0 : cX1_power.data.toList.drop 0 = dktX1_power_0 := by decide +kernel
theorem dX1_power_0 : decode cX1_power 0 = .ok (.iconst 1, 1) := dk_4 (dk_at dksX1_power_0 0 rfl rfl)
theorem dX1_power_1 : decode cX1_power 1 = .ok (.istore_n 1, 1) := dk_60 (dk_at dksX1_power_0 1 rfl rfl)
theorem dX1_power_2 : decode cX1_power 2 = .ok (.iconst 0, 1) := dk_3 (dk_at dksX1_power_0 2 rfl rfl)
theorem dX1_power_3 : decode cX1_power 3 = .ok (.istore_n 2, 1) := dk_61 (dk_at dksX1_power_0 3 rfl rfl)
theorem dX1_power_4 : decode cX1_power 4 = .ok (.iload_n 2, 1) := dk_28 (dk_at dksX1_power_0 4 rfl rfl)
theorem dX1_power_5 : decode cX1_power 5 = .ok (.iload_n 0, 1) := dk_26 (dk_at dksX1_power_0 5 rfl rfl)
theorem dX1_power_6 : decode cX1_power 6 = .ok (.if_icmp .ge 14, 3) := dk_162 0 14 (dk_at dksX1_power_0 6 rfl rfl)
theorem dX1_power_9 : decode cX1_power 9 = .ok (.iload_n 1, 1) := dk_27 (dk_at dksX1_power_0 9 rfl rfl)
theorem dX1_power_10 : decode cX1_power 10 = .ok (.bipush 12, 2) := dk_16 12 (dk_at dksX1_power_0 10 rfl rfl)
theorem dX1_power_12 : decode cX1_power 12 = .ok (.imul, 1) := dk_104 (dk_at dksX1_power_0 12 rfl rfl)
theorem dX1_power_13 : decode cX1_power 13 = .ok (.istore_n 1, 1) := dk_60 (dk_at dksX1_power_0 13 rfl rfl)
theorem dX1_power_14 : decode cX1_power 14 = .ok (.iinc 2 1, 3) := dk_132 2 1 (dk_at dksX1_power_0 14 rfl rfl)
theorem dX1_power_17 : decode cX1_power 17 = .ok (.goto (-13), 3) := dk_167 255 243 (dk_at dksX1_power_0 17 rfl rfl)
theorem dX1_power_20 : decode cX1_power 20 = .ok (.iload_n 1, 1) := dk_27 (dk_at dksX1_power_0 20 rfl rfl)
theorem dX1_power_21 : decode cX1_power 21 = .ok (.ireturn, 1) := dk_172 (dk_at dksX1_power_0 21 rfl rfl)
abbrev cX1_stop : ByteArray := prog_1_method_39_code
def yX1_stop : MethodName := ⟨RX1, "stop", "(IIII)I"⟩
def dkwX1_stop_3 : List UInt8 := [184, 1, 16, 104, 164, 0, 7, 4, 167, 0, 4, 3, 172]
abbrev dktX1_stop_3 : List UInt8 := dkwX1_stop_3 ++ []
def dkwX1_stop_2 : List UInt8 := [154, 0, 10, 27, 28, 29, 184, 1, 27, 172, 27, 158, 0, 22, 27, 28, 29, 184, 1, 23, 27, 29]
abbrev dktX1_stop_2 : List UInt8 := dkwX1_stop_2 ++ dktX1_stop_3
def dkwX1_stop_1 : List UInt8 := [153, 0, 17, 29, 4, 16, 7, 184, 0, 134, 153, 0, 7, 4, 167, 0, 4, 3, 184, 0, 65, 21, 4]
abbrev dktX1_stop_1 : List UInt8 := dkwX1_stop_1 ++ dktX1_stop_2
def dkwX1_stop_0 : List UInt8 := [21, 4, 4, 184, 0, 166, 27, 3, 16, 20, 184, 0, 134, 153, 0, 27, 28, 3, 16, 12, 184, 0, 134]
abbrev dktX1_stop_0 : List UInt8 := dkwX1_stop_0 ++ dktX1_stop_1
theorem dksX1_stop_0 : cX1_stop.data.toList.drop 0 = dktX1_stop_0 := by decide +kernel
theorem dksX1_stop_1 : cX1_stop.data.toList.drop 23 = dktX1_stop_1 := dk_seg dksX1_stop_0 23 rfl rfl
theorem dksX1_stop_2 : cX1_stop.data.toList.drop 46 = dktX1_stop_2 := dk_seg dksX1_stop_1 23 rfl rfl
theorem dksX1_stop_3 : cX1_stop.data.toList.drop 68 = dktX1_stop_3 := dk_seg dksX1_stop_2 22 rfl rfl
theorem dX1_stop_0 : decode cX1_stop 0 = .ok (.iload 4, 2) := dk_21 4 (dk_at dksX1_stop_0 0 rfl rfl)
theorem dX1_stop_2 : decode cX1_stop 2 = .ok (.iconst 1, 1) := dk_4 (dk_at dksX1_stop_0 2 rfl rfl)
theorem dX1_stop_3 : decode cX1_stop 3 = .ok (.invokestatic 166, 3) := dk_184 0 166 (dk_at dksX1_stop_0 3 rfl rfl)
theorem dX1_stop_6 : decode cX1_stop 6 = .ok (.iload_n 1, 1) := dk_27 (dk_at dksX1_stop_0 6 rfl rfl)
theorem dX1_stop_7 : decode cX1_stop 7 = .ok (.iconst 0, 1) := dk_3 (dk_at dksX1_stop_0 7 rfl rfl)
theorem dX1_stop_8 : decode cX1_stop 8 = .ok (.bipush 20, 2) := dk_16 20 (dk_at dksX1_stop_0 8 rfl rfl)
theorem dX1_stop_10 : decode cX1_stop 10 = .ok (.invokestatic 134, 3) := dk_184 0 134 (dk_at dksX1_stop_0 10 rfl rfl)
theorem dX1_stop_13 : decode cX1_stop 13 = .ok (.ifCond .eq 27, 3) := dk_153 0 27 (dk_at dksX1_stop_0 13 rfl rfl)
theorem dX1_stop_16 : decode cX1_stop 16 = .ok (.iload_n 2, 1) := dk_28 (dk_at dksX1_stop_0 16 rfl rfl)
theorem dX1_stop_17 : decode cX1_stop 17 = .ok (.iconst 0, 1) := dk_3 (dk_at dksX1_stop_0 17 rfl rfl)
theorem dX1_stop_18 : decode cX1_stop 18 = .ok (.bipush 12, 2) := dk_16 12 (dk_at dksX1_stop_0 18 rfl rfl)
theorem dX1_stop_20 : decode cX1_stop 20 = .ok (.invokestatic 134, 3) := dk_184 0 134 (dk_at dksX1_stop_0 20 rfl rfl)
theorem dX1_stop_23 : decode cX1_stop 23 = .ok (.ifCond .eq 17, 3) := dk_153 0 17 (dk_at dksX1_stop_1 0 rfl rfl)
theorem dX1_stop_26 : decode cX1_stop 26 = .ok (.iload_n 3, 1) := dk_29 (dk_at dksX1_stop_1 3 rfl rfl)
theorem dX1_stop_27 : decode cX1_stop 27 = .ok (.iconst 1, 1) := dk_4 (dk_at dksX1_stop_1 4 rfl rfl)
theorem dX1_stop_28 : decode cX1_stop 28 = .ok (.bipush 7, 2) := dk_16 7 (dk_at dksX1_stop_1 5 rfl rfl)
theorem dX1_stop_30 : decode cX1_stop 30 = .ok (.invokestatic 134, 3) := dk_184 0 134 (dk_at dksX1_stop_1 7 rfl rfl)
theorem dX1_stop_33 : decode cX1_stop 33 = .ok (.ifCond .eq 7, 3) := dk_153 0 7 (dk_at dksX1_stop_1 10 rfl rfl)
theorem dX1_stop_36 : decode cX1_stop 36 = .ok (.iconst 1, 1) := dk_4 (dk_at dksX1_stop_1 13 rfl rfl)
theorem dX1_stop_37 : decode cX1_stop 37 = .ok (.goto 4, 3) := dk_167 0 4 (dk_at dksX1_stop_1 14 rfl rfl)
theorem dX1_stop_40 : decode cX1_stop 40 = .ok (.iconst 0, 1) := dk_3 (dk_at dksX1_stop_1 17 rfl rfl)
theorem dX1_stop_41 : decode cX1_stop 41 = .ok (.invokestatic 65, 3) := dk_184 0 65 (dk_at dksX1_stop_1 18 rfl rfl)
theorem dX1_stop_44 : decode cX1_stop 44 = .ok (.iload 4, 2) := dk_21 4 (dk_at dksX1_stop_1 21 rfl rfl)
theorem dX1_stop_46 : decode cX1_stop 46 = .ok (.ifCond .ne 10, 3) := dk_154 0 10 (dk_at dksX1_stop_2 0 rfl rfl)
theorem dX1_stop_49 : decode cX1_stop 49 = .ok (.iload_n 1, 1) := dk_27 (dk_at dksX1_stop_2 3 rfl rfl)
theorem dX1_stop_50 : decode cX1_stop 50 = .ok (.iload_n 2, 1) := dk_28 (dk_at dksX1_stop_2 4 rfl rfl)
theorem dX1_stop_51 : decode cX1_stop 51 = .ok (.iload_n 3, 1) := dk_29 (dk_at dksX1_stop_2 5 rfl rfl)
theorem dX1_stop_52 : decode cX1_stop 52 = .ok (.invokestatic 283, 3) := dk_184 1 27 (dk_at dksX1_stop_2 6 rfl rfl)
theorem dX1_stop_55 : decode cX1_stop 55 = .ok (.ireturn, 1) := dk_172 (dk_at dksX1_stop_2 9 rfl rfl)
theorem dX1_stop_56 : decode cX1_stop 56 = .ok (.iload_n 1, 1) := dk_27 (dk_at dksX1_stop_2 10 rfl rfl)
theorem dX1_stop_57 : decode cX1_stop 57 = .ok (.ifCond .le 22, 3) := dk_158 0 22 (dk_at dksX1_stop_2 11 rfl rfl)
theorem dX1_stop_60 : decode cX1_stop 60 = .ok (.iload_n 1, 1) := dk_27 (dk_at dksX1_stop_2 14 rfl rfl)
theorem dX1_stop_61 : decode cX1_stop 61 = .ok (.iload_n 2, 1) := dk_28 (dk_at dksX1_stop_2 15 rfl rfl)
theorem dX1_stop_62 : decode cX1_stop 62 = .ok (.iload_n 3, 1) := dk_29 (dk_at dksX1_stop_2 16 rfl rfl)
theorem dX1_stop_63 : decode cX1_stop 63 = .ok (.invokestatic 279, 3) := dk_184 1 23 (dk_at dksX1_stop_2 17 rfl rfl)
theorem dX1_stop_66 : decode cX1_stop 66 = .ok (.iload_n 1, 1) := dk_27 (dk_at dksX1_stop_2 20 rfl rfl)
theorem dX1_stop_67 : decode cX1_stop 67 = .ok (.iload_n 3, 1) := dk_29 (dk_at dksX1_stop_2 21 rfl rfl)
theorem dX1_stop_68 : decode cX1_stop 68 = .ok (.invokestatic 272, 3) := dk_184 1 16 (dk_at dksX1_stop_3 0 rfl rfl)
theorem dX1_stop_71 : decode cX1_stop 71 = .ok (.imul, 1) := dk_104 (dk_at dksX1_stop_3 3 rfl rfl)
theorem dX1_stop_72 : decode cX1_stop 72 = .ok (.if_icmp .le 7, 3) := dk_164 0 7 (dk_at dksX1_stop_3 4 rfl rfl)
theorem dX1_stop_75 : decode cX1_stop 75 = .ok (.iconst 1, 1) := dk_4 (dk_at dksX1_stop_3 7 rfl rfl)
theorem dX1_stop_76 : decode cX1_stop 76 = .ok (.goto 4, 3) := dk_167 0 4 (dk_at dksX1_stop_3 8 rfl rfl)
theorem dX1_stop_79 : decode cX1_stop 79 = .ok (.iconst 0, 1) := dk_3 (dk_at dksX1_stop_3 11 rfl rfl)
theorem dX1_stop_80 : decode cX1_stop 80 = .ok (.ireturn, 1) := dk_172 (dk_at dksX1_stop_3 12 rfl rfl)
abbrev cX1_average : ByteArray := prog_1_method_37_code
def yX1_average : MethodName := ⟨RX1, "average", "(III)I"⟩
def dkwX1_average_1 : List UInt8 := [184, 1, 23, 184, 1, 1, 172]
abbrev dktX1_average_1 : List UInt8 := dkwX1_average_1 ++ []
def dkwX1_average_0 : List UInt8 := [26, 153, 0, 7, 28, 154, 0, 10, 26, 28, 184, 1, 16, 104, 172, 26, 28, 184, 1, 16, 104, 26, 27, 28]
abbrev dktX1_average_0 : List UInt8 := dkwX1_average_0 ++ dktX1_average_1
theorem dksX1_average_0 : cX1_average.data.toList.drop 0 = dktX1_average_0 := by decide +kernel
theorem dksX1_average_1 : cX1_average.data.toList.drop 24 = dktX1_average_1 := dk_seg dksX1_average_0 24 rfl rfl
theorem dX1_average_0 : decode cX1_average 0 = .ok (.iload_n 0, 1) := dk_26 (dk_at dksX1_average_0 0 rfl rfl)
theorem dX1_average_1 : decode cX1_average 1 = .ok (.ifCond .eq 7, 3) := dk_153 0 7 (dk_at dksX1_average_0 1 rfl rfl)
theorem dX1_average_4 : decode cX1_average 4 = .ok (.iload_n 2, 1) := dk_28 (dk_at dksX1_average_0 4 rfl rfl)
theorem dX1_average_5 : decode cX1_average 5 = .ok (.ifCond .ne 10, 3) := dk_154 0 10 (dk_at dksX1_average_0 5 rfl rfl)
theorem dX1_average_8 : decode cX1_average 8 = .ok (.iload_n 0, 1) := dk_26 (dk_at dksX1_average_0 8 rfl rfl)
theorem dX1_average_9 : decode cX1_average 9 = .ok (.iload_n 2, 1) := dk_28 (dk_at dksX1_average_0 9 rfl rfl)
theorem dX1_average_10 : decode cX1_average 10 = .ok (.invokestatic 272, 3) := dk_184 1 16 (dk_at dksX1_average_0 10 rfl rfl)
theorem dX1_average_13 : decode cX1_average 13 = .ok (.imul, 1) := dk_104 (dk_at dksX1_average_0 13 rfl rfl)
theorem dX1_average_14 : decode cX1_average 14 = .ok (.ireturn, 1) := dk_172 (dk_at dksX1_average_0 14 rfl rfl)
theorem dX1_average_15 : decode cX1_average 15 = .ok (.iload_n 0, 1) := dk_26 (dk_at dksX1_average_0 15 rfl rfl)
theorem dX1_average_16 : decode cX1_average 16 = .ok (.iload_n 2, 1) := dk_28 (dk_at dksX1_average_0 16 rfl rfl)
theorem dX1_average_17 : decode cX1_average 17 = .ok (.invokestatic 272, 3) := dk_184 1 16 (dk_at dksX1_average_0 17 rfl rfl)
theorem dX1_average_20 : decode cX1_average 20 = .ok (.imul, 1) := dk_104 (dk_at dksX1_average_0 20 rfl rfl)
theorem dX1_average_21 : decode cX1_average 21 = .ok (.iload_n 0, 1) := dk_26 (dk_at dksX1_average_0 21 rfl rfl)
theorem dX1_average_22 : decode cX1_average 22 = .ok (.iload_n 1, 1) := dk_27 (dk_at dksX1_average_0 22 rfl rfl)
theorem dX1_average_23 : decode cX1_average 23 = .ok (.iload_n 2, 1) := dk_28 (dk_at dksX1_average_0 23 rfl rfl)
theorem dX1_average_24 : decode cX1_average 24 = .ok (.invokestatic 279, 3) := dk_184 1 23 (dk_at dksX1_average_1 0 rfl rfl)
theorem dX1_average_27 : decode cX1_average 27 = .ok (.invokestatic 257, 3) := dk_184 1 1 (dk_at dksX1_average_1 3 rfl rfl)
theorem dX1_average_30 : decode cX1_average 30 = .ok (.ireturn, 1) := dk_172 (dk_at dksX1_average_1 6 rfl rfl)
abbrev cX1_going : ByteArray := prog_1_method_38_code
def yX1_going : MethodName := ⟨RX1, "going", "(III)I"⟩
def dkwX1_going_1 : List UInt8 := [184, 1, 27, 104, 96, 172]
abbrev dktX1_going_1 : List UInt8 := dkwX1_going_1 ++ []
def dkwX1_going_0 : List UInt8 := [27, 26, 4, 96, 27, 28, 4, 100, 184, 1, 27, 104, 16, 12, 27, 100, 26, 4, 100, 27, 28, 4, 100]
abbrev dktX1_going_0 : List UInt8 := dkwX1_going_0 ++ dktX1_going_1
theorem dksX1_going_0 : cX1_going.data.toList.drop 0 = dktX1_going_0 := by decide +kernel
theorem dksX1_going_1 : cX1_going.data.toList.drop 23 = dktX1_going_1 := dk_seg dksX1_going_0 23 rfl rfl
theorem dX1_going_0 : decode cX1_going 0 = .ok (.iload_n 1, 1) := dk_27 (dk_at dksX1_going_0 0 rfl rfl)
theorem dX1_going_1 : decode cX1_going 1 = .ok (.iload_n 0, 1) := dk_26 (dk_at dksX1_going_0 1 rfl rfl)
theorem dX1_going_2 : decode cX1_going 2 = .ok (.iconst 1, 1) := dk_4 (dk_at dksX1_going_0 2 rfl rfl)
theorem dX1_going_3 : decode cX1_going 3 = .ok (.iadd, 1) := dk_96 (dk_at dksX1_going_0 3 rfl rfl)
theorem dX1_going_4 : decode cX1_going 4 = .ok (.iload_n 1, 1) := dk_27 (dk_at dksX1_going_0 4 rfl rfl)
theorem dX1_going_5 : decode cX1_going 5 = .ok (.iload_n 2, 1) := dk_28 (dk_at dksX1_going_0 5 rfl rfl)
theorem dX1_going_6 : decode cX1_going 6 = .ok (.iconst 1, 1) := dk_4 (dk_at dksX1_going_0 6 rfl rfl)
theorem dX1_going_7 : decode cX1_going 7 = .ok (.isub, 1) := dk_100 (dk_at dksX1_going_0 7 rfl rfl)
theorem dX1_going_8 : decode cX1_going 8 = .ok (.invokestatic 283, 3) := dk_184 1 27 (dk_at dksX1_going_0 8 rfl rfl)
theorem dX1_going_11 : decode cX1_going 11 = .ok (.imul, 1) := dk_104 (dk_at dksX1_going_0 11 rfl rfl)
theorem dX1_going_12 : decode cX1_going 12 = .ok (.bipush 12, 2) := dk_16 12 (dk_at dksX1_going_0 12 rfl rfl)
theorem dX1_going_14 : decode cX1_going 14 = .ok (.iload_n 1, 1) := dk_27 (dk_at dksX1_going_0 14 rfl rfl)
theorem dX1_going_15 : decode cX1_going 15 = .ok (.isub, 1) := dk_100 (dk_at dksX1_going_0 15 rfl rfl)
theorem dX1_going_16 : decode cX1_going 16 = .ok (.iload_n 0, 1) := dk_26 (dk_at dksX1_going_0 16 rfl rfl)
theorem dX1_going_17 : decode cX1_going 17 = .ok (.iconst 1, 1) := dk_4 (dk_at dksX1_going_0 17 rfl rfl)
theorem dX1_going_18 : decode cX1_going 18 = .ok (.isub, 1) := dk_100 (dk_at dksX1_going_0 18 rfl rfl)
theorem dX1_going_19 : decode cX1_going 19 = .ok (.iload_n 1, 1) := dk_27 (dk_at dksX1_going_0 19 rfl rfl)
theorem dX1_going_20 : decode cX1_going 20 = .ok (.iload_n 2, 1) := dk_28 (dk_at dksX1_going_0 20 rfl rfl)
theorem dX1_going_21 : decode cX1_going 21 = .ok (.iconst 1, 1) := dk_4 (dk_at dksX1_going_0 21 rfl rfl)
theorem dX1_going_22 : decode cX1_going 22 = .ok (.isub, 1) := dk_100 (dk_at dksX1_going_0 22 rfl rfl)
theorem dX1_going_23 : decode cX1_going 23 = .ok (.invokestatic 283, 3) := dk_184 1 27 (dk_at dksX1_going_1 0 rfl rfl)
theorem dX1_going_26 : decode cX1_going 26 = .ok (.imul, 1) := dk_104 (dk_at dksX1_going_1 3 rfl rfl)
theorem dX1_going_27 : decode cX1_going 27 = .ok (.iadd, 1) := dk_96 (dk_at dksX1_going_1 4 rfl rfl)
theorem dX1_going_28 : decode cX1_going 28 = .ok (.ireturn, 1) := dk_172 (dk_at dksX1_going_1 5 rfl rfl)
abbrev cX1_see : ByteArray := prog_1_method_40_code
def yX1_see : MethodName := ⟨RX1, "see", "(III)I"⟩
def dkwX1_see_3 : List UInt8 := [42, 180, 0, 53, 185, 0, 99, 1, 0, 172]
abbrev dktX1_see_3 : List UInt8 := dkwX1_see_3 ++ []
def dkwX1_see_2 : List UInt8 := [180, 0, 53, 6, 188, 10, 89, 3, 27, 79, 89, 4, 28, 79, 89, 5, 29, 79, 185, 0, 186, 2, 0, 87]
abbrev dktX1_see_2 : List UInt8 := dkwX1_see_2 ++ dktX1_see_3
def dkwX1_see_1 : List UInt8 := [184, 0, 134, 153, 0, 14, 29, 3, 17, 39, 15, 184, 0, 134, 154, 0, 9, 42, 5, 182, 0, 193, 172, 42]
abbrev dktX1_see_1 : List UInt8 := dkwX1_see_1 ++ dktX1_see_2
def dkwX1_see_0 : List UInt8 := [42, 27, 182, 0, 141, 42, 180, 0, 53, 185, 0, 99, 1, 0, 16, 8, 159, 0, 24, 28, 3, 16, 30]
abbrev dktX1_see_0 : List UInt8 := dkwX1_see_0 ++ dktX1_see_1
theorem dksX1_see_0 : cX1_see.data.toList.drop 0 = dktX1_see_0 := by decide +kernel
theorem dksX1_see_1 : cX1_see.data.toList.drop 23 = dktX1_see_1 := dk_seg dksX1_see_0 23 rfl rfl
theorem dksX1_see_2 : cX1_see.data.toList.drop 47 = dktX1_see_2 := dk_seg dksX1_see_1 24 rfl rfl
theorem dksX1_see_3 : cX1_see.data.toList.drop 71 = dktX1_see_3 := dk_seg dksX1_see_2 24 rfl rfl
theorem dX1_see_0 : decode cX1_see 0 = .ok (.aload_n 0, 1) := dk_42 (dk_at dksX1_see_0 0 rfl rfl)
theorem dX1_see_1 : decode cX1_see 1 = .ok (.iload_n 1, 1) := dk_27 (dk_at dksX1_see_0 1 rfl rfl)
theorem dX1_see_2 : decode cX1_see 2 = .ok (.invokevirtual 141, 3) := dk_182 0 141 (dk_at dksX1_see_0 2 rfl rfl)
theorem dX1_see_5 : decode cX1_see 5 = .ok (.aload_n 0, 1) := dk_42 (dk_at dksX1_see_0 5 rfl rfl)
theorem dX1_see_6 : decode cX1_see 6 = .ok (.getfield 53, 3) := dk_180 0 53 (dk_at dksX1_see_0 6 rfl rfl)
theorem dX1_see_9 : decode cX1_see 9 = .ok (.invokeinterface 99 1, 5) := by decide +kernel
theorem dX1_see_14 : decode cX1_see 14 = .ok (.bipush 8, 2) := dk_16 8 (dk_at dksX1_see_0 14 rfl rfl)
theorem dX1_see_16 : decode cX1_see 16 = .ok (.if_icmp .eq 24, 3) := dk_159 0 24 (dk_at dksX1_see_0 16 rfl rfl)
theorem dX1_see_19 : decode cX1_see 19 = .ok (.iload_n 2, 1) := dk_28 (dk_at dksX1_see_0 19 rfl rfl)
theorem dX1_see_20 : decode cX1_see 20 = .ok (.iconst 0, 1) := dk_3 (dk_at dksX1_see_0 20 rfl rfl)
theorem dX1_see_21 : decode cX1_see 21 = .ok (.bipush 30, 2) := dk_16 30 (dk_at dksX1_see_0 21 rfl rfl)
theorem dX1_see_23 : decode cX1_see 23 = .ok (.invokestatic 134, 3) := dk_184 0 134 (dk_at dksX1_see_1 0 rfl rfl)
theorem dX1_see_26 : decode cX1_see 26 = .ok (.ifCond .eq 14, 3) := dk_153 0 14 (dk_at dksX1_see_1 3 rfl rfl)
theorem dX1_see_29 : decode cX1_see 29 = .ok (.iload_n 3, 1) := dk_29 (dk_at dksX1_see_1 6 rfl rfl)
theorem dX1_see_30 : decode cX1_see 30 = .ok (.iconst 0, 1) := dk_3 (dk_at dksX1_see_1 7 rfl rfl)
theorem dX1_see_31 : decode cX1_see 31 = .ok (.sipush 9999, 3) := dk_17 39 15 (dk_at dksX1_see_1 8 rfl rfl)
theorem dX1_see_34 : decode cX1_see 34 = .ok (.invokestatic 134, 3) := dk_184 0 134 (dk_at dksX1_see_1 11 rfl rfl)
theorem dX1_see_37 : decode cX1_see 37 = .ok (.ifCond .ne 9, 3) := dk_154 0 9 (dk_at dksX1_see_1 14 rfl rfl)
theorem dX1_see_40 : decode cX1_see 40 = .ok (.aload_n 0, 1) := dk_42 (dk_at dksX1_see_1 17 rfl rfl)
theorem dX1_see_41 : decode cX1_see 41 = .ok (.iconst 2, 1) := dk_5 (dk_at dksX1_see_1 18 rfl rfl)
theorem dX1_see_42 : decode cX1_see 42 = .ok (.invokevirtual 193, 3) := dk_182 0 193 (dk_at dksX1_see_1 19 rfl rfl)
theorem dX1_see_45 : decode cX1_see 45 = .ok (.ireturn, 1) := dk_172 (dk_at dksX1_see_1 22 rfl rfl)
theorem dX1_see_46 : decode cX1_see 46 = .ok (.aload_n 0, 1) := dk_42 (dk_at dksX1_see_1 23 rfl rfl)
theorem dX1_see_47 : decode cX1_see 47 = .ok (.getfield 53, 3) := dk_180 0 53 (dk_at dksX1_see_2 0 rfl rfl)
theorem dX1_see_50 : decode cX1_see 50 = .ok (.iconst 3, 1) := dk_6 (dk_at dksX1_see_2 3 rfl rfl)
theorem dX1_see_51 : decode cX1_see 51 = .ok (.newarray .int, 2) := dk_188_10 (dk_at dksX1_see_2 4 rfl rfl)
theorem dX1_see_53 : decode cX1_see 53 = .ok (.dup, 1) := dk_89 (dk_at dksX1_see_2 6 rfl rfl)
theorem dX1_see_54 : decode cX1_see 54 = .ok (.iconst 0, 1) := dk_3 (dk_at dksX1_see_2 7 rfl rfl)
theorem dX1_see_55 : decode cX1_see 55 = .ok (.iload_n 1, 1) := dk_27 (dk_at dksX1_see_2 8 rfl rfl)
theorem dX1_see_56 : decode cX1_see 56 = .ok (.iastore, 1) := dk_79 (dk_at dksX1_see_2 9 rfl rfl)
theorem dX1_see_57 : decode cX1_see 57 = .ok (.dup, 1) := dk_89 (dk_at dksX1_see_2 10 rfl rfl)
theorem dX1_see_58 : decode cX1_see 58 = .ok (.iconst 1, 1) := dk_4 (dk_at dksX1_see_2 11 rfl rfl)
theorem dX1_see_59 : decode cX1_see 59 = .ok (.iload_n 2, 1) := dk_28 (dk_at dksX1_see_2 12 rfl rfl)
theorem dX1_see_60 : decode cX1_see 60 = .ok (.iastore, 1) := dk_79 (dk_at dksX1_see_2 13 rfl rfl)
theorem dX1_see_61 : decode cX1_see 61 = .ok (.dup, 1) := dk_89 (dk_at dksX1_see_2 14 rfl rfl)
theorem dX1_see_62 : decode cX1_see 62 = .ok (.iconst 2, 1) := dk_5 (dk_at dksX1_see_2 15 rfl rfl)
theorem dX1_see_63 : decode cX1_see 63 = .ok (.iload_n 3, 1) := dk_29 (dk_at dksX1_see_2 16 rfl rfl)
theorem dX1_see_64 : decode cX1_see 64 = .ok (.iastore, 1) := dk_79 (dk_at dksX1_see_2 17 rfl rfl)
theorem dX1_see_65 : decode cX1_see 65 = .ok (.invokeinterface 186 2, 5) := by decide +kernel
theorem dX1_see_70 : decode cX1_see 70 = .ok (.pop, 1) := dk_87 (dk_at dksX1_see_2 23 rfl rfl)
theorem dX1_see_71 : decode cX1_see 71 = .ok (.aload_n 0, 1) := dk_42 (dk_at dksX1_see_3 0 rfl rfl)
theorem dX1_see_72 : decode cX1_see 72 = .ok (.getfield 53, 3) := dk_180 0 53 (dk_at dksX1_see_3 1 rfl rfl)
theorem dX1_see_75 : decode cX1_see 75 = .ok (.invokeinterface 99 1, 5) := by decide +kernel
theorem dX1_see_80 : decode cX1_see 80 = .ok (.ireturn, 1) := dk_172 (dk_at dksX1_see_3 9 rfl rfl)
abbrev cX1_opened : ByteArray := prog_1_method_44_code
def yX1_opened : MethodName := ⟨RX1, "opened", "(I)I"⟩
def dkwX1_opened_3 : List UInt8 := [182, 0, 154, 172]
abbrev dktX1_opened_3 : List UInt8 := dkwX1_opened_3 ++ []
def dkwX1_opened_2 : List UInt8 := [185, 0, 234, 1, 0, 153, 0, 7, 2, 167, 0, 16, 44, 3, 185, 0, 148, 2, 0, 192, 0, 152]
abbrev dktX1_opened_2 : List UInt8 := dkwX1_opened_2 ++ dktX1_opened_3
def dkwX1_opened_1 : List UInt8 := [172, 42, 182, 1, 42, 77, 27, 154, 0, 12, 44, 185, 0, 99, 1, 0, 167, 0, 29, 44]
abbrev dktX1_opened_1 : List UInt8 := dkwX1_opened_1 ++ dktX1_opened_2
def dkwX1_opened_0 : List UInt8 := [27, 5, 184, 0, 166, 27, 5, 160, 0, 18, 42, 2, 3, 182, 1, 35, 153, 0, 7, 4, 167, 0, 4, 3]
abbrev dktX1_opened_0 : List UInt8 := dkwX1_opened_0 ++ dktX1_opened_1
theorem dksX1_opened_0 : cX1_opened.data.toList.drop 0 = dktX1_opened_0 := by decide +kernel
theorem dksX1_opened_1 : cX1_opened.data.toList.drop 24 = dktX1_opened_1 := dk_seg dksX1_opened_0 24 rfl rfl
theorem dksX1_opened_2 : cX1_opened.data.toList.drop 44 = dktX1_opened_2 := dk_seg dksX1_opened_1 20 rfl rfl
theorem dksX1_opened_3 : cX1_opened.data.toList.drop 66 = dktX1_opened_3 := dk_seg dksX1_opened_2 22 rfl rfl
theorem dX1_opened_0 : decode cX1_opened 0 = .ok (.iload_n 1, 1) := dk_27 (dk_at dksX1_opened_0 0 rfl rfl)
theorem dX1_opened_1 : decode cX1_opened 1 = .ok (.iconst 2, 1) := dk_5 (dk_at dksX1_opened_0 1 rfl rfl)
theorem dX1_opened_2 : decode cX1_opened 2 = .ok (.invokestatic 166, 3) := dk_184 0 166 (dk_at dksX1_opened_0 2 rfl rfl)
theorem dX1_opened_5 : decode cX1_opened 5 = .ok (.iload_n 1, 1) := dk_27 (dk_at dksX1_opened_0 5 rfl rfl)
theorem dX1_opened_6 : decode cX1_opened 6 = .ok (.iconst 2, 1) := dk_5 (dk_at dksX1_opened_0 6 rfl rfl)
theorem dX1_opened_7 : decode cX1_opened 7 = .ok (.if_icmp .ne 18, 3) := dk_160 0 18 (dk_at dksX1_opened_0 7 rfl rfl)
theorem dX1_opened_10 : decode cX1_opened 10 = .ok (.aload_n 0, 1) := dk_42 (dk_at dksX1_opened_0 10 rfl rfl)
theorem dX1_opened_11 : decode cX1_opened 11 = .ok (.iconst (-1), 1) := dk_2 (dk_at dksX1_opened_0 11 rfl rfl)
theorem dX1_opened_12 : decode cX1_opened 12 = .ok (.iconst 0, 1) := dk_3 (dk_at dksX1_opened_0 12 rfl rfl)
theorem dX1_opened_13 : decode cX1_opened 13 = .ok (.invokevirtual 291, 3) := dk_182 1 35 (dk_at dksX1_opened_0 13 rfl rfl)
theorem dX1_opened_16 : decode cX1_opened 16 = .ok (.ifCond .eq 7, 3) := dk_153 0 7 (dk_at dksX1_opened_0 16 rfl rfl)
theorem dX1_opened_19 : decode cX1_opened 19 = .ok (.iconst 1, 1) := dk_4 (dk_at dksX1_opened_0 19 rfl rfl)
theorem dX1_opened_20 : decode cX1_opened 20 = .ok (.goto 4, 3) := dk_167 0 4 (dk_at dksX1_opened_0 20 rfl rfl)
theorem dX1_opened_23 : decode cX1_opened 23 = .ok (.iconst 0, 1) := dk_3 (dk_at dksX1_opened_0 23 rfl rfl)
theorem dX1_opened_24 : decode cX1_opened 24 = .ok (.ireturn, 1) := dk_172 (dk_at dksX1_opened_1 0 rfl rfl)
theorem dX1_opened_25 : decode cX1_opened 25 = .ok (.aload_n 0, 1) := dk_42 (dk_at dksX1_opened_1 1 rfl rfl)
theorem dX1_opened_26 : decode cX1_opened 26 = .ok (.invokevirtual 298, 3) := dk_182 1 42 (dk_at dksX1_opened_1 2 rfl rfl)
theorem dX1_opened_29 : decode cX1_opened 29 = .ok (.astore_n 2, 1) := dk_77 (dk_at dksX1_opened_1 5 rfl rfl)
theorem dX1_opened_30 : decode cX1_opened 30 = .ok (.iload_n 1, 1) := dk_27 (dk_at dksX1_opened_1 6 rfl rfl)
theorem dX1_opened_31 : decode cX1_opened 31 = .ok (.ifCond .ne 12, 3) := dk_154 0 12 (dk_at dksX1_opened_1 7 rfl rfl)
theorem dX1_opened_34 : decode cX1_opened 34 = .ok (.aload_n 2, 1) := dk_44 (dk_at dksX1_opened_1 10 rfl rfl)
theorem dX1_opened_35 : decode cX1_opened 35 = .ok (.invokeinterface 99 1, 5) := by decide +kernel
theorem dX1_opened_40 : decode cX1_opened 40 = .ok (.goto 29, 3) := dk_167 0 29 (dk_at dksX1_opened_1 16 rfl rfl)
theorem dX1_opened_43 : decode cX1_opened 43 = .ok (.aload_n 2, 1) := dk_44 (dk_at dksX1_opened_1 19 rfl rfl)
theorem dX1_opened_44 : decode cX1_opened 44 = .ok (.invokeinterface 234 1, 5) := by decide +kernel
theorem dX1_opened_49 : decode cX1_opened 49 = .ok (.ifCond .eq 7, 3) := dk_153 0 7 (dk_at dksX1_opened_2 5 rfl rfl)
theorem dX1_opened_52 : decode cX1_opened 52 = .ok (.iconst (-1), 1) := dk_2 (dk_at dksX1_opened_2 8 rfl rfl)
theorem dX1_opened_53 : decode cX1_opened 53 = .ok (.goto 16, 3) := dk_167 0 16 (dk_at dksX1_opened_2 9 rfl rfl)
theorem dX1_opened_56 : decode cX1_opened 56 = .ok (.aload_n 2, 1) := dk_44 (dk_at dksX1_opened_2 12 rfl rfl)
theorem dX1_opened_57 : decode cX1_opened 57 = .ok (.iconst 0, 1) := dk_3 (dk_at dksX1_opened_2 13 rfl rfl)
theorem dX1_opened_58 : decode cX1_opened 58 = .ok (.invokeinterface 148 2, 5) := by decide +kernel
theorem dX1_opened_63 : decode cX1_opened 63 = .ok (.checkcast 152, 3) := dk_192 0 152 (dk_at dksX1_opened_2 19 rfl rfl)
theorem dX1_opened_66 : decode cX1_opened 66 = .ok (.invokevirtual 154, 3) := dk_182 0 154 (dk_at dksX1_opened_3 0 rfl rfl)
theorem dX1_opened_69 : decode cX1_opened 69 = .ok (.ireturn, 1) := dk_172 (dk_at dksX1_opened_3 3 rfl rfl)
abbrev cX1_isSoBy : ByteArray := prog_1_method_42_code
def yX1_isSoBy : MethodName := ⟨RX1, "isSoBy", "(II)Z"⟩
def dkwX1_isSoBy_6 : List UInt8 := [5, 46, 159, 0, 5, 3, 172, 132, 3, 1, 167, 255, 199, 4, 172]
abbrev dktX1_isSoBy_6 : List UInt8 := dkwX1_isSoBy_6 ++ []
def dkwX1_isSoBy_5 : List UInt8 := [192, 1, 34, 58, 4, 42, 180, 0, 59, 16, 8, 25, 4, 4, 46, 104, 25, 4, 3, 46, 96, 46, 25, 4]
abbrev dktX1_isSoBy_5 : List UInt8 := dkwX1_isSoBy_5 ++ dktX1_isSoBy_6
def dkwX1_isSoBy_4 : List UInt8 := [29, 42, 180, 0, 53, 185, 0, 99, 1, 0, 162, 0, 50, 42, 180, 0, 53, 29, 185, 0, 148, 2, 0]
abbrev dktX1_isSoBy_4 : List UInt8 := dkwX1_isSoBy_4 ++ dktX1_isSoBy_5
def dkwX1_isSoBy_3 : List UInt8 := [79, 132, 4, 1, 167, 255, 224, 42, 180, 0, 56, 3, 182, 0, 238, 87, 132, 3, 1, 167, 255, 181, 3, 62]
abbrev dktX1_isSoBy_3 : List UInt8 := dkwX1_isSoBy_3 ++ dktX1_isSoBy_4
def dkwX1_isSoBy_2 : List UInt8 := [162, 0, 31, 42, 180, 0, 59, 16, 8, 29, 104, 21, 4, 96, 42, 180, 0, 56, 180, 0, 110, 21, 4, 46]
abbrev dktX1_isSoBy_2 : List UInt8 := dkwX1_isSoBy_2 ++ dktX1_isSoBy_3
def dkwX1_isSoBy_1 : List UInt8 := [159, 0, 17, 29, 28, 160, 0, 12, 42, 180, 0, 56, 27, 182, 0, 219, 87, 3, 54, 4, 21, 4, 16, 8]
abbrev dktX1_isSoBy_1 : List UInt8 := dkwX1_isSoBy_1 ++ dktX1_isSoBy_2
def dkwX1_isSoBy_0 : List UInt8 := [42, 180, 0, 56, 42, 180, 0, 31, 182, 1, 30, 87, 3, 62, 29, 16, 30, 163, 0, 75, 27, 2]
abbrev dktX1_isSoBy_0 : List UInt8 := dkwX1_isSoBy_0 ++ dktX1_isSoBy_1
theorem dksX1_isSoBy_0 : cX1_isSoBy.data.toList.drop 0 = dktX1_isSoBy_0 := by decide +kernel
theorem dksX1_isSoBy_1 : cX1_isSoBy.data.toList.drop 22 = dktX1_isSoBy_1 := dk_seg dksX1_isSoBy_0 22 rfl rfl
theorem dksX1_isSoBy_2 : cX1_isSoBy.data.toList.drop 46 = dktX1_isSoBy_2 := dk_seg dksX1_isSoBy_1 24 rfl rfl
theorem dksX1_isSoBy_3 : cX1_isSoBy.data.toList.drop 70 = dktX1_isSoBy_3 := dk_seg dksX1_isSoBy_2 24 rfl rfl
theorem dksX1_isSoBy_4 : cX1_isSoBy.data.toList.drop 94 = dktX1_isSoBy_4 := dk_seg dksX1_isSoBy_3 24 rfl rfl
theorem dksX1_isSoBy_5 : cX1_isSoBy.data.toList.drop 117 = dktX1_isSoBy_5 := dk_seg dksX1_isSoBy_4 23 rfl rfl
theorem dksX1_isSoBy_6 : cX1_isSoBy.data.toList.drop 141 = dktX1_isSoBy_6 := dk_seg dksX1_isSoBy_5 24 rfl rfl
theorem dX1_isSoBy_0 : decode cX1_isSoBy 0 = .ok (.aload_n 0, 1) := dk_42 (dk_at dksX1_isSoBy_0 0 rfl rfl)
theorem dX1_isSoBy_1 : decode cX1_isSoBy 1 = .ok (.getfield 56, 3) := dk_180 0 56 (dk_at dksX1_isSoBy_0 1 rfl rfl)
theorem dX1_isSoBy_4 : decode cX1_isSoBy 4 = .ok (.aload_n 0, 1) := dk_42 (dk_at dksX1_isSoBy_0 4 rfl rfl)
theorem dX1_isSoBy_5 : decode cX1_isSoBy 5 = .ok (.getfield 31, 3) := dk_180 0 31 (dk_at dksX1_isSoBy_0 5 rfl rfl)
theorem dX1_isSoBy_8 : decode cX1_isSoBy 8 = .ok (.invokevirtual 286, 3) := dk_182 1 30 (dk_at dksX1_isSoBy_0 8 rfl rfl)
theorem dX1_isSoBy_11 : decode cX1_isSoBy 11 = .ok (.pop, 1) := dk_87 (dk_at dksX1_isSoBy_0 11 rfl rfl)
theorem dX1_isSoBy_12 : decode cX1_isSoBy 12 = .ok (.iconst 0, 1) := dk_3 (dk_at dksX1_isSoBy_0 12 rfl rfl)
theorem dX1_isSoBy_13 : decode cX1_isSoBy 13 = .ok (.istore_n 3, 1) := dk_62 (dk_at dksX1_isSoBy_0 13 rfl rfl)
theorem dX1_isSoBy_14 : decode cX1_isSoBy 14 = .ok (.iload_n 3, 1) := dk_29 (dk_at dksX1_isSoBy_0 14 rfl rfl)
theorem dX1_isSoBy_15 : decode cX1_isSoBy 15 = .ok (.bipush 30, 2) := dk_16 30 (dk_at dksX1_isSoBy_0 15 rfl rfl)
theorem dX1_isSoBy_17 : decode cX1_isSoBy 17 = .ok (.if_icmp .gt 75, 3) := dk_163 0 75 (dk_at dksX1_isSoBy_0 17 rfl rfl)
theorem dX1_isSoBy_20 : decode cX1_isSoBy 20 = .ok (.iload_n 1, 1) := dk_27 (dk_at dksX1_isSoBy_0 20 rfl rfl)
theorem dX1_isSoBy_21 : decode cX1_isSoBy 21 = .ok (.iconst (-1), 1) := dk_2 (dk_at dksX1_isSoBy_0 21 rfl rfl)
theorem dX1_isSoBy_22 : decode cX1_isSoBy 22 = .ok (.if_icmp .eq 17, 3) := dk_159 0 17 (dk_at dksX1_isSoBy_1 0 rfl rfl)
theorem dX1_isSoBy_25 : decode cX1_isSoBy 25 = .ok (.iload_n 3, 1) := dk_29 (dk_at dksX1_isSoBy_1 3 rfl rfl)
theorem dX1_isSoBy_26 : decode cX1_isSoBy 26 = .ok (.iload_n 2, 1) := dk_28 (dk_at dksX1_isSoBy_1 4 rfl rfl)
theorem dX1_isSoBy_27 : decode cX1_isSoBy 27 = .ok (.if_icmp .ne 12, 3) := dk_160 0 12 (dk_at dksX1_isSoBy_1 5 rfl rfl)
theorem dX1_isSoBy_30 : decode cX1_isSoBy 30 = .ok (.aload_n 0, 1) := dk_42 (dk_at dksX1_isSoBy_1 8 rfl rfl)
theorem dX1_isSoBy_31 : decode cX1_isSoBy 31 = .ok (.getfield 56, 3) := dk_180 0 56 (dk_at dksX1_isSoBy_1 9 rfl rfl)
theorem dX1_isSoBy_34 : decode cX1_isSoBy 34 = .ok (.iload_n 1, 1) := dk_27 (dk_at dksX1_isSoBy_1 12 rfl rfl)
theorem dX1_isSoBy_35 : decode cX1_isSoBy 35 = .ok (.invokevirtual 219, 3) := dk_182 0 219 (dk_at dksX1_isSoBy_1 13 rfl rfl)
theorem dX1_isSoBy_38 : decode cX1_isSoBy 38 = .ok (.pop, 1) := dk_87 (dk_at dksX1_isSoBy_1 16 rfl rfl)
theorem dX1_isSoBy_39 : decode cX1_isSoBy 39 = .ok (.iconst 0, 1) := dk_3 (dk_at dksX1_isSoBy_1 17 rfl rfl)
theorem dX1_isSoBy_40 : decode cX1_isSoBy 40 = .ok (.istore 4, 2) := dk_54 4 (dk_at dksX1_isSoBy_1 18 rfl rfl)
theorem dX1_isSoBy_42 : decode cX1_isSoBy 42 = .ok (.iload 4, 2) := dk_21 4 (dk_at dksX1_isSoBy_1 20 rfl rfl)
theorem dX1_isSoBy_44 : decode cX1_isSoBy 44 = .ok (.bipush 8, 2) := dk_16 8 (dk_at dksX1_isSoBy_1 22 rfl rfl)
theorem dX1_isSoBy_46 : decode cX1_isSoBy 46 = .ok (.if_icmp .ge 31, 3) := dk_162 0 31 (dk_at dksX1_isSoBy_2 0 rfl rfl)
theorem dX1_isSoBy_49 : decode cX1_isSoBy 49 = .ok (.aload_n 0, 1) := dk_42 (dk_at dksX1_isSoBy_2 3 rfl rfl)
theorem dX1_isSoBy_50 : decode cX1_isSoBy 50 = .ok (.getfield 59, 3) := dk_180 0 59 (dk_at dksX1_isSoBy_2 4 rfl rfl)
theorem dX1_isSoBy_53 : decode cX1_isSoBy 53 = .ok (.bipush 8, 2) := dk_16 8 (dk_at dksX1_isSoBy_2 7 rfl rfl)
theorem dX1_isSoBy_55 : decode cX1_isSoBy 55 = .ok (.iload_n 3, 1) := dk_29 (dk_at dksX1_isSoBy_2 9 rfl rfl)
theorem dX1_isSoBy_56 : decode cX1_isSoBy 56 = .ok (.imul, 1) := dk_104 (dk_at dksX1_isSoBy_2 10 rfl rfl)
theorem dX1_isSoBy_57 : decode cX1_isSoBy 57 = .ok (.iload 4, 2) := dk_21 4 (dk_at dksX1_isSoBy_2 11 rfl rfl)
theorem dX1_isSoBy_59 : decode cX1_isSoBy 59 = .ok (.iadd, 1) := dk_96 (dk_at dksX1_isSoBy_2 13 rfl rfl)
theorem dX1_isSoBy_60 : decode cX1_isSoBy 60 = .ok (.aload_n 0, 1) := dk_42 (dk_at dksX1_isSoBy_2 14 rfl rfl)
theorem dX1_isSoBy_61 : decode cX1_isSoBy 61 = .ok (.getfield 56, 3) := dk_180 0 56 (dk_at dksX1_isSoBy_2 15 rfl rfl)
theorem dX1_isSoBy_64 : decode cX1_isSoBy 64 = .ok (.getfield 110, 3) := dk_180 0 110 (dk_at dksX1_isSoBy_2 18 rfl rfl)
theorem dX1_isSoBy_67 : decode cX1_isSoBy 67 = .ok (.iload 4, 2) := dk_21 4 (dk_at dksX1_isSoBy_2 21 rfl rfl)
theorem dX1_isSoBy_69 : decode cX1_isSoBy 69 = .ok (.iaload, 1) := dk_46 (dk_at dksX1_isSoBy_2 23 rfl rfl)
theorem dX1_isSoBy_70 : decode cX1_isSoBy 70 = .ok (.iastore, 1) := dk_79 (dk_at dksX1_isSoBy_3 0 rfl rfl)
theorem dX1_isSoBy_71 : decode cX1_isSoBy 71 = .ok (.iinc 4 1, 3) := dk_132 4 1 (dk_at dksX1_isSoBy_3 1 rfl rfl)
theorem dX1_isSoBy_74 : decode cX1_isSoBy 74 = .ok (.goto (-32), 3) := dk_167 255 224 (dk_at dksX1_isSoBy_3 4 rfl rfl)
theorem dX1_isSoBy_77 : decode cX1_isSoBy 77 = .ok (.aload_n 0, 1) := dk_42 (dk_at dksX1_isSoBy_3 7 rfl rfl)
theorem dX1_isSoBy_78 : decode cX1_isSoBy 78 = .ok (.getfield 56, 3) := dk_180 0 56 (dk_at dksX1_isSoBy_3 8 rfl rfl)
theorem dX1_isSoBy_81 : decode cX1_isSoBy 81 = .ok (.iconst 0, 1) := dk_3 (dk_at dksX1_isSoBy_3 11 rfl rfl)
theorem dX1_isSoBy_82 : decode cX1_isSoBy 82 = .ok (.invokevirtual 238, 3) := dk_182 0 238 (dk_at dksX1_isSoBy_3 12 rfl rfl)
theorem dX1_isSoBy_85 : decode cX1_isSoBy 85 = .ok (.pop, 1) := dk_87 (dk_at dksX1_isSoBy_3 15 rfl rfl)
theorem dX1_isSoBy_86 : decode cX1_isSoBy 86 = .ok (.iinc 3 1, 3) := dk_132 3 1 (dk_at dksX1_isSoBy_3 16 rfl rfl)
theorem dX1_isSoBy_89 : decode cX1_isSoBy 89 = .ok (.goto (-75), 3) := dk_167 255 181 (dk_at dksX1_isSoBy_3 19 rfl rfl)
theorem dX1_isSoBy_92 : decode cX1_isSoBy 92 = .ok (.iconst 0, 1) := dk_3 (dk_at dksX1_isSoBy_3 22 rfl rfl)
theorem dX1_isSoBy_93 : decode cX1_isSoBy 93 = .ok (.istore_n 3, 1) := dk_62 (dk_at dksX1_isSoBy_3 23 rfl rfl)
theorem dX1_isSoBy_94 : decode cX1_isSoBy 94 = .ok (.iload_n 3, 1) := dk_29 (dk_at dksX1_isSoBy_4 0 rfl rfl)
theorem dX1_isSoBy_95 : decode cX1_isSoBy 95 = .ok (.aload_n 0, 1) := dk_42 (dk_at dksX1_isSoBy_4 1 rfl rfl)
theorem dX1_isSoBy_96 : decode cX1_isSoBy 96 = .ok (.getfield 53, 3) := dk_180 0 53 (dk_at dksX1_isSoBy_4 2 rfl rfl)
theorem dX1_isSoBy_99 : decode cX1_isSoBy 99 = .ok (.invokeinterface 99 1, 5) := by decide +kernel
theorem dX1_isSoBy_104 : decode cX1_isSoBy 104 = .ok (.if_icmp .ge 50, 3) := dk_162 0 50 (dk_at dksX1_isSoBy_4 10 rfl rfl)
theorem dX1_isSoBy_107 : decode cX1_isSoBy 107 = .ok (.aload_n 0, 1) := dk_42 (dk_at dksX1_isSoBy_4 13 rfl rfl)
theorem dX1_isSoBy_108 : decode cX1_isSoBy 108 = .ok (.getfield 53, 3) := dk_180 0 53 (dk_at dksX1_isSoBy_4 14 rfl rfl)
theorem dX1_isSoBy_111 : decode cX1_isSoBy 111 = .ok (.iload_n 3, 1) := dk_29 (dk_at dksX1_isSoBy_4 17 rfl rfl)
theorem dX1_isSoBy_112 : decode cX1_isSoBy 112 = .ok (.invokeinterface 148 2, 5) := by decide +kernel
theorem dX1_isSoBy_117 : decode cX1_isSoBy 117 = .ok (.checkcast 290, 3) := dk_192 1 34 (dk_at dksX1_isSoBy_5 0 rfl rfl)
theorem dX1_isSoBy_120 : decode cX1_isSoBy 120 = .ok (.astore 4, 2) := dk_58 4 (dk_at dksX1_isSoBy_5 3 rfl rfl)
theorem dX1_isSoBy_122 : decode cX1_isSoBy 122 = .ok (.aload_n 0, 1) := dk_42 (dk_at dksX1_isSoBy_5 5 rfl rfl)
theorem dX1_isSoBy_123 : decode cX1_isSoBy 123 = .ok (.getfield 59, 3) := dk_180 0 59 (dk_at dksX1_isSoBy_5 6 rfl rfl)
theorem dX1_isSoBy_126 : decode cX1_isSoBy 126 = .ok (.bipush 8, 2) := dk_16 8 (dk_at dksX1_isSoBy_5 9 rfl rfl)
theorem dX1_isSoBy_128 : decode cX1_isSoBy 128 = .ok (.aload 4, 2) := dk_25 4 (dk_at dksX1_isSoBy_5 11 rfl rfl)
theorem dX1_isSoBy_130 : decode cX1_isSoBy 130 = .ok (.iconst 1, 1) := dk_4 (dk_at dksX1_isSoBy_5 13 rfl rfl)
theorem dX1_isSoBy_131 : decode cX1_isSoBy 131 = .ok (.iaload, 1) := dk_46 (dk_at dksX1_isSoBy_5 14 rfl rfl)
theorem dX1_isSoBy_132 : decode cX1_isSoBy 132 = .ok (.imul, 1) := dk_104 (dk_at dksX1_isSoBy_5 15 rfl rfl)
theorem dX1_isSoBy_133 : decode cX1_isSoBy 133 = .ok (.aload 4, 2) := dk_25 4 (dk_at dksX1_isSoBy_5 16 rfl rfl)
theorem dX1_isSoBy_135 : decode cX1_isSoBy 135 = .ok (.iconst 0, 1) := dk_3 (dk_at dksX1_isSoBy_5 18 rfl rfl)
theorem dX1_isSoBy_136 : decode cX1_isSoBy 136 = .ok (.iaload, 1) := dk_46 (dk_at dksX1_isSoBy_5 19 rfl rfl)
theorem dX1_isSoBy_137 : decode cX1_isSoBy 137 = .ok (.iadd, 1) := dk_96 (dk_at dksX1_isSoBy_5 20 rfl rfl)
theorem dX1_isSoBy_138 : decode cX1_isSoBy 138 = .ok (.iaload, 1) := dk_46 (dk_at dksX1_isSoBy_5 21 rfl rfl)
theorem dX1_isSoBy_139 : decode cX1_isSoBy 139 = .ok (.aload 4, 2) := dk_25 4 (dk_at dksX1_isSoBy_5 22 rfl rfl)
theorem dX1_isSoBy_141 : decode cX1_isSoBy 141 = .ok (.iconst 2, 1) := dk_5 (dk_at dksX1_isSoBy_6 0 rfl rfl)
theorem dX1_isSoBy_142 : decode cX1_isSoBy 142 = .ok (.iaload, 1) := dk_46 (dk_at dksX1_isSoBy_6 1 rfl rfl)
theorem dX1_isSoBy_143 : decode cX1_isSoBy 143 = .ok (.if_icmp .eq 5, 3) := dk_159 0 5 (dk_at dksX1_isSoBy_6 2 rfl rfl)
theorem dX1_isSoBy_146 : decode cX1_isSoBy 146 = .ok (.iconst 0, 1) := dk_3 (dk_at dksX1_isSoBy_6 5 rfl rfl)
theorem dX1_isSoBy_147 : decode cX1_isSoBy 147 = .ok (.ireturn, 1) := dk_172 (dk_at dksX1_isSoBy_6 6 rfl rfl)
theorem dX1_isSoBy_148 : decode cX1_isSoBy 148 = .ok (.iinc 3 1, 3) := dk_132 3 1 (dk_at dksX1_isSoBy_6 7 rfl rfl)
theorem dX1_isSoBy_151 : decode cX1_isSoBy 151 = .ok (.goto (-57), 3) := dk_167 255 199 (dk_at dksX1_isSoBy_6 10 rfl rfl)
theorem dX1_isSoBy_154 : decode cX1_isSoBy 154 = .ok (.iconst 1, 1) := dk_4 (dk_at dksX1_isSoBy_6 13 rfl rfl)
theorem dX1_isSoBy_155 : decode cX1_isSoBy 155 = .ok (.ireturn, 1) := dk_172 (dk_at dksX1_isSoBy_6 14 rfl rfl)
abbrev cX1_openings : ByteArray := prog_1_method_43_code
def yX1_openings : MethodName := ⟨RX1, "openings", "()Ljava/util/List;"⟩
def dkwX1_openings_3 : List UInt8 := [167, 255, 211, 132, 2, 1, 167, 255, 192, 43, 176]
abbrev dktX1_openings_3 : List UInt8 := dkwX1_openings_3 ++ []
def dkwX1_openings_2 : List UInt8 := [153, 0, 19, 43, 16, 10, 28, 104, 29, 96, 184, 1, 38, 185, 0, 186, 2, 0, 87, 132, 3, 1]
abbrev dktX1_openings_2 : List UInt8 := dkwX1_openings_2 ++ dktX1_openings_3
def dkwX1_openings_1 : List UInt8 := [16, 10, 162, 0, 45, 42, 180, 0, 31, 28, 182, 0, 205, 153, 0, 28, 42, 28, 29, 182, 1, 35]
abbrev dktX1_openings_1 : List UInt8 := dkwX1_openings_1 ++ dktX1_openings_2
def dkwX1_openings_0 : List UInt8 := [187, 0, 46, 89, 183, 0, 48, 76, 3, 61, 28, 42, 180, 0, 22, 180, 0, 104, 162, 0, 59, 3, 62, 29]
abbrev dktX1_openings_0 : List UInt8 := dkwX1_openings_0 ++ dktX1_openings_1
theorem dksX1_openings_0 : cX1_openings.data.toList.drop 0 = dktX1_openings_0 := by decide +kernel
theorem dksX1_openings_1 : cX1_openings.data.toList.drop 24 = dktX1_openings_1 := dk_seg dksX1_openings_0 24 rfl rfl
theorem dksX1_openings_2 : cX1_openings.data.toList.drop 46 = dktX1_openings_2 := dk_seg dksX1_openings_1 22 rfl rfl
theorem dksX1_openings_3 : cX1_openings.data.toList.drop 68 = dktX1_openings_3 := dk_seg dksX1_openings_2 22 rfl rfl
theorem dX1_openings_0 : decode cX1_openings 0 = .ok (.new 46, 3) := dk_187 0 46 (dk_at dksX1_openings_0 0 rfl rfl)
theorem dX1_openings_3 : decode cX1_openings 3 = .ok (.dup, 1) := dk_89 (dk_at dksX1_openings_0 3 rfl rfl)
theorem dX1_openings_4 : decode cX1_openings 4 = .ok (.invokespecial 48, 3) := dk_183 0 48 (dk_at dksX1_openings_0 4 rfl rfl)
theorem dX1_openings_7 : decode cX1_openings 7 = .ok (.astore_n 1, 1) := dk_76 (dk_at dksX1_openings_0 7 rfl rfl)
theorem dX1_openings_8 : decode cX1_openings 8 = .ok (.iconst 0, 1) := dk_3 (dk_at dksX1_openings_0 8 rfl rfl)
theorem dX1_openings_9 : decode cX1_openings 9 = .ok (.istore_n 2, 1) := dk_61 (dk_at dksX1_openings_0 9 rfl rfl)
theorem dX1_openings_10 : decode cX1_openings 10 = .ok (.iload_n 2, 1) := dk_28 (dk_at dksX1_openings_0 10 rfl rfl)
theorem dX1_openings_11 : decode cX1_openings 11 = .ok (.aload_n 0, 1) := dk_42 (dk_at dksX1_openings_0 11 rfl rfl)
theorem dX1_openings_12 : decode cX1_openings 12 = .ok (.getfield 22, 3) := dk_180 0 22 (dk_at dksX1_openings_0 12 rfl rfl)
theorem dX1_openings_15 : decode cX1_openings 15 = .ok (.getfield 104, 3) := dk_180 0 104 (dk_at dksX1_openings_0 15 rfl rfl)
theorem dX1_openings_18 : decode cX1_openings 18 = .ok (.if_icmp .ge 59, 3) := dk_162 0 59 (dk_at dksX1_openings_0 18 rfl rfl)
theorem dX1_openings_21 : decode cX1_openings 21 = .ok (.iconst 0, 1) := dk_3 (dk_at dksX1_openings_0 21 rfl rfl)
theorem dX1_openings_22 : decode cX1_openings 22 = .ok (.istore_n 3, 1) := dk_62 (dk_at dksX1_openings_0 22 rfl rfl)
theorem dX1_openings_23 : decode cX1_openings 23 = .ok (.iload_n 3, 1) := dk_29 (dk_at dksX1_openings_0 23 rfl rfl)
theorem dX1_openings_24 : decode cX1_openings 24 = .ok (.bipush 10, 2) := dk_16 10 (dk_at dksX1_openings_1 0 rfl rfl)
theorem dX1_openings_26 : decode cX1_openings 26 = .ok (.if_icmp .ge 45, 3) := dk_162 0 45 (dk_at dksX1_openings_1 2 rfl rfl)
theorem dX1_openings_29 : decode cX1_openings 29 = .ok (.aload_n 0, 1) := dk_42 (dk_at dksX1_openings_1 5 rfl rfl)
theorem dX1_openings_30 : decode cX1_openings 30 = .ok (.getfield 31, 3) := dk_180 0 31 (dk_at dksX1_openings_1 6 rfl rfl)
theorem dX1_openings_33 : decode cX1_openings 33 = .ok (.iload_n 2, 1) := dk_28 (dk_at dksX1_openings_1 9 rfl rfl)
theorem dX1_openings_34 : decode cX1_openings 34 = .ok (.invokevirtual 205, 3) := dk_182 0 205 (dk_at dksX1_openings_1 10 rfl rfl)
theorem dX1_openings_37 : decode cX1_openings 37 = .ok (.ifCond .eq 28, 3) := dk_153 0 28 (dk_at dksX1_openings_1 13 rfl rfl)
theorem dX1_openings_40 : decode cX1_openings 40 = .ok (.aload_n 0, 1) := dk_42 (dk_at dksX1_openings_1 16 rfl rfl)
theorem dX1_openings_41 : decode cX1_openings 41 = .ok (.iload_n 2, 1) := dk_28 (dk_at dksX1_openings_1 17 rfl rfl)
theorem dX1_openings_42 : decode cX1_openings 42 = .ok (.iload_n 3, 1) := dk_29 (dk_at dksX1_openings_1 18 rfl rfl)
theorem dX1_openings_43 : decode cX1_openings 43 = .ok (.invokevirtual 291, 3) := dk_182 1 35 (dk_at dksX1_openings_1 19 rfl rfl)
theorem dX1_openings_46 : decode cX1_openings 46 = .ok (.ifCond .eq 19, 3) := dk_153 0 19 (dk_at dksX1_openings_2 0 rfl rfl)
theorem dX1_openings_49 : decode cX1_openings 49 = .ok (.aload_n 1, 1) := dk_43 (dk_at dksX1_openings_2 3 rfl rfl)
theorem dX1_openings_50 : decode cX1_openings 50 = .ok (.bipush 10, 2) := dk_16 10 (dk_at dksX1_openings_2 4 rfl rfl)
theorem dX1_openings_52 : decode cX1_openings 52 = .ok (.iload_n 2, 1) := dk_28 (dk_at dksX1_openings_2 6 rfl rfl)
theorem dX1_openings_53 : decode cX1_openings 53 = .ok (.imul, 1) := dk_104 (dk_at dksX1_openings_2 7 rfl rfl)
theorem dX1_openings_54 : decode cX1_openings 54 = .ok (.iload_n 3, 1) := dk_29 (dk_at dksX1_openings_2 8 rfl rfl)
theorem dX1_openings_55 : decode cX1_openings 55 = .ok (.iadd, 1) := dk_96 (dk_at dksX1_openings_2 9 rfl rfl)
theorem dX1_openings_56 : decode cX1_openings 56 = .ok (.invokestatic 294, 3) := dk_184 1 38 (dk_at dksX1_openings_2 10 rfl rfl)
theorem dX1_openings_59 : decode cX1_openings 59 = .ok (.invokeinterface 186 2, 5) := by decide +kernel
theorem dX1_openings_64 : decode cX1_openings 64 = .ok (.pop, 1) := dk_87 (dk_at dksX1_openings_2 18 rfl rfl)
theorem dX1_openings_65 : decode cX1_openings 65 = .ok (.iinc 3 1, 3) := dk_132 3 1 (dk_at dksX1_openings_2 19 rfl rfl)
theorem dX1_openings_68 : decode cX1_openings 68 = .ok (.goto (-45), 3) := dk_167 255 211 (dk_at dksX1_openings_3 0 rfl rfl)
theorem dX1_openings_71 : decode cX1_openings 71 = .ok (.iinc 2 1, 3) := dk_132 2 1 (dk_at dksX1_openings_3 3 rfl rfl)
theorem dX1_openings_74 : decode cX1_openings 74 = .ok (.goto (-64), 3) := dk_167 255 192 (dk_at dksX1_openings_3 6 rfl rfl)
theorem dX1_openings_77 : decode cX1_openings 77 = .ok (.aload_n 1, 1) := dk_43 (dk_at dksX1_openings_3 9 rfl rfl)
theorem dX1_openings_78 : decode cX1_openings 78 = .ok (.areturn, 1) := dk_176 (dk_at dksX1_openings_3 10 rfl rfl)
abbrev cX1_next : ByteArray := prog_1_method_46_code
def yX1_next : MethodName := ⟨RX1, "next", "(I)I"⟩
def dkwX1_next_10 : List UInt8 := [21, 5, 62, 21, 6, 54, 4, 132, 5, 1, 167, 255, 137, 27, 154, 0, 7, 29, 167, 0, 5, 21, 4, 172]
abbrev dktX1_next_10 : List UInt8 := dkwX1_next_10 ++ []
def dkwX1_next_9 : List UInt8 := [21, 8, 153, 0, 6, 132, 6, 1, 132, 7, 1, 167, 255, 173, 21, 6, 21, 4, 163, 0, 6, 167, 0, 10]
abbrev dktX1_next_9 : List UInt8 := dkwX1_next_9 ++ dktX1_next_10
def dkwX1_next_8 : List UInt8 := [192, 1, 34, 21, 5, 184, 1, 46, 154, 0, 7, 4, 167, 0, 4, 3, 54, 8, 132, 9, 1, 167, 255, 204]
abbrev dktX1_next_8 : List UInt8 := dkwX1_next_8 ++ dktX1_next_9
def dkwX1_next_7 : List UInt8 := [21, 8, 153, 0, 46, 44, 21, 9, 185, 0, 148, 2, 0, 192, 1, 34, 44, 21, 7, 185, 0, 148, 2, 0]
abbrev dktX1_next_7 : List UInt8 := dkwX1_next_7 ++ dktX1_next_8
def dkwX1_next_6 : List UInt8 := [21, 7, 44, 185, 0, 99, 1, 0, 162, 0, 78, 4, 54, 8, 3, 54, 9, 21, 9, 21, 7, 162, 0, 51]
abbrev dktX1_next_6 : List UInt8 := dkwX1_next_6 ++ dktX1_next_7
def dkwX1_next_5 : List UInt8 := [167, 255, 155, 2, 62, 3, 54, 4, 3, 54, 5, 21, 5, 16, 30, 163, 0, 118, 3, 54, 6, 3, 54, 7]
abbrev dktX1_next_5 : List UInt8 := dkwX1_next_5 ++ dktX1_next_6
def dkwX1_next_4 : List UInt8 := [132, 6, 1, 167, 255, 233, 44, 25, 5, 185, 0, 186, 2, 0, 87, 132, 4, 1, 167, 255, 175, 132, 3, 1]
abbrev dktX1_next_4 : List UInt8 := dkwX1_next_4 ++ dktX1_next_5
def dkwX1_next_3 : List UInt8 := [54, 6, 21, 6, 25, 5, 190, 162, 0, 21, 25, 5, 21, 6, 42, 180, 0, 59, 21, 6, 46, 79]
abbrev dktX1_next_3 : List UInt8 := dkwX1_next_3 ++ dktX1_next_4
def dkwX1_next_2 : List UInt8 := [42, 29, 21, 4, 182, 1, 35, 154, 0, 6, 167, 0, 50, 42, 180, 0, 59, 190, 188, 10, 58, 5, 3]
abbrev dktX1_next_2 : List UInt8 := dkwX1_next_2 ++ dktX1_next_3
def dkwX1_next_1 : List UInt8 := [162, 0, 96, 3, 54, 4, 21, 4, 16, 10, 162, 0, 80, 42, 180, 0, 31, 29, 182, 0, 205, 153, 0, 63]
abbrev dktX1_next_1 : List UInt8 := dkwX1_next_1 ++ dktX1_next_2
def dkwX1_next_0 : List UInt8 := [27, 4, 184, 0, 166, 187, 0, 46, 89, 183, 0, 48, 77, 3, 62, 29, 42, 180, 0, 22, 180, 0, 104]
abbrev dktX1_next_0 : List UInt8 := dkwX1_next_0 ++ dktX1_next_1
theorem dksX1_next_0 : cX1_next.data.toList.drop 0 = dktX1_next_0 := by decide +kernel
theorem dksX1_next_1 : cX1_next.data.toList.drop 23 = dktX1_next_1 := dk_seg dksX1_next_0 23 rfl rfl
theorem dksX1_next_2 : cX1_next.data.toList.drop 47 = dktX1_next_2 := dk_seg dksX1_next_1 24 rfl rfl
theorem dksX1_next_3 : cX1_next.data.toList.drop 70 = dktX1_next_3 := dk_seg dksX1_next_2 23 rfl rfl
theorem dksX1_next_4 : cX1_next.data.toList.drop 92 = dktX1_next_4 := dk_seg dksX1_next_3 22 rfl rfl
theorem dksX1_next_5 : cX1_next.data.toList.drop 116 = dktX1_next_5 := dk_seg dksX1_next_4 24 rfl rfl
theorem dksX1_next_6 : cX1_next.data.toList.drop 140 = dktX1_next_6 := dk_seg dksX1_next_5 24 rfl rfl
theorem dksX1_next_7 : cX1_next.data.toList.drop 164 = dktX1_next_7 := dk_seg dksX1_next_6 24 rfl rfl
theorem dksX1_next_8 : cX1_next.data.toList.drop 188 = dktX1_next_8 := dk_seg dksX1_next_7 24 rfl rfl
theorem dksX1_next_9 : cX1_next.data.toList.drop 212 = dktX1_next_9 := dk_seg dksX1_next_8 24 rfl rfl
theorem dksX1_next_10 : cX1_next.data.toList.drop 236 = dktX1_next_10 := dk_seg dksX1_next_9 24 rfl rfl
theorem dX1_next_0 : decode cX1_next 0 = .ok (.iload_n 1, 1) := dk_27 (dk_at dksX1_next_0 0 rfl rfl)
theorem dX1_next_1 : decode cX1_next 1 = .ok (.iconst 1, 1) := dk_4 (dk_at dksX1_next_0 1 rfl rfl)
theorem dX1_next_2 : decode cX1_next 2 = .ok (.invokestatic 166, 3) := dk_184 0 166 (dk_at dksX1_next_0 2 rfl rfl)
theorem dX1_next_5 : decode cX1_next 5 = .ok (.new 46, 3) := dk_187 0 46 (dk_at dksX1_next_0 5 rfl rfl)
theorem dX1_next_8 : decode cX1_next 8 = .ok (.dup, 1) := dk_89 (dk_at dksX1_next_0 8 rfl rfl)
theorem dX1_next_9 : decode cX1_next 9 = .ok (.invokespecial 48, 3) := dk_183 0 48 (dk_at dksX1_next_0 9 rfl rfl)
theorem dX1_next_12 : decode cX1_next 12 = .ok (.astore_n 2, 1) := dk_77 (dk_at dksX1_next_0 12 rfl rfl)
theorem dX1_next_13 : decode cX1_next 13 = .ok (.iconst 0, 1) := dk_3 (dk_at dksX1_next_0 13 rfl rfl)
theorem dX1_next_14 : decode cX1_next 14 = .ok (.istore_n 3, 1) := dk_62 (dk_at dksX1_next_0 14 rfl rfl)
theorem dX1_next_15 : decode cX1_next 15 = .ok (.iload_n 3, 1) := dk_29 (dk_at dksX1_next_0 15 rfl rfl)
theorem dX1_next_16 : decode cX1_next 16 = .ok (.aload_n 0, 1) := dk_42 (dk_at dksX1_next_0 16 rfl rfl)
theorem dX1_next_17 : decode cX1_next 17 = .ok (.getfield 22, 3) := dk_180 0 22 (dk_at dksX1_next_0 17 rfl rfl)
theorem dX1_next_20 : decode cX1_next 20 = .ok (.getfield 104, 3) := dk_180 0 104 (dk_at dksX1_next_0 20 rfl rfl)
theorem dX1_next_23 : decode cX1_next 23 = .ok (.if_icmp .ge 96, 3) := dk_162 0 96 (dk_at dksX1_next_1 0 rfl rfl)
theorem dX1_next_26 : decode cX1_next 26 = .ok (.iconst 0, 1) := dk_3 (dk_at dksX1_next_1 3 rfl rfl)
theorem dX1_next_27 : decode cX1_next 27 = .ok (.istore 4, 2) := dk_54 4 (dk_at dksX1_next_1 4 rfl rfl)
theorem dX1_next_29 : decode cX1_next 29 = .ok (.iload 4, 2) := dk_21 4 (dk_at dksX1_next_1 6 rfl rfl)
theorem dX1_next_31 : decode cX1_next 31 = .ok (.bipush 10, 2) := dk_16 10 (dk_at dksX1_next_1 8 rfl rfl)
theorem dX1_next_33 : decode cX1_next 33 = .ok (.if_icmp .ge 80, 3) := dk_162 0 80 (dk_at dksX1_next_1 10 rfl rfl)
theorem dX1_next_36 : decode cX1_next 36 = .ok (.aload_n 0, 1) := dk_42 (dk_at dksX1_next_1 13 rfl rfl)
theorem dX1_next_37 : decode cX1_next 37 = .ok (.getfield 31, 3) := dk_180 0 31 (dk_at dksX1_next_1 14 rfl rfl)
theorem dX1_next_40 : decode cX1_next 40 = .ok (.iload_n 3, 1) := dk_29 (dk_at dksX1_next_1 17 rfl rfl)
theorem dX1_next_41 : decode cX1_next 41 = .ok (.invokevirtual 205, 3) := dk_182 0 205 (dk_at dksX1_next_1 18 rfl rfl)
theorem dX1_next_44 : decode cX1_next 44 = .ok (.ifCond .eq 63, 3) := dk_153 0 63 (dk_at dksX1_next_1 21 rfl rfl)
theorem dX1_next_47 : decode cX1_next 47 = .ok (.aload_n 0, 1) := dk_42 (dk_at dksX1_next_2 0 rfl rfl)
theorem dX1_next_48 : decode cX1_next 48 = .ok (.iload_n 3, 1) := dk_29 (dk_at dksX1_next_2 1 rfl rfl)
theorem dX1_next_49 : decode cX1_next 49 = .ok (.iload 4, 2) := dk_21 4 (dk_at dksX1_next_2 2 rfl rfl)
theorem dX1_next_51 : decode cX1_next 51 = .ok (.invokevirtual 291, 3) := dk_182 1 35 (dk_at dksX1_next_2 4 rfl rfl)
theorem dX1_next_54 : decode cX1_next 54 = .ok (.ifCond .ne 6, 3) := dk_154 0 6 (dk_at dksX1_next_2 7 rfl rfl)
theorem dX1_next_57 : decode cX1_next 57 = .ok (.goto 50, 3) := dk_167 0 50 (dk_at dksX1_next_2 10 rfl rfl)
theorem dX1_next_60 : decode cX1_next 60 = .ok (.aload_n 0, 1) := dk_42 (dk_at dksX1_next_2 13 rfl rfl)
theorem dX1_next_61 : decode cX1_next 61 = .ok (.getfield 59, 3) := dk_180 0 59 (dk_at dksX1_next_2 14 rfl rfl)
theorem dX1_next_64 : decode cX1_next 64 = .ok (.arraylength, 1) := dk_190 (dk_at dksX1_next_2 17 rfl rfl)
theorem dX1_next_65 : decode cX1_next 65 = .ok (.newarray .int, 2) := dk_188_10 (dk_at dksX1_next_2 18 rfl rfl)
theorem dX1_next_67 : decode cX1_next 67 = .ok (.astore 5, 2) := dk_58 5 (dk_at dksX1_next_2 20 rfl rfl)
theorem dX1_next_69 : decode cX1_next 69 = .ok (.iconst 0, 1) := dk_3 (dk_at dksX1_next_2 22 rfl rfl)
theorem dX1_next_70 : decode cX1_next 70 = .ok (.istore 6, 2) := dk_54 6 (dk_at dksX1_next_3 0 rfl rfl)
theorem dX1_next_72 : decode cX1_next 72 = .ok (.iload 6, 2) := dk_21 6 (dk_at dksX1_next_3 2 rfl rfl)
theorem dX1_next_74 : decode cX1_next 74 = .ok (.aload 5, 2) := dk_25 5 (dk_at dksX1_next_3 4 rfl rfl)
theorem dX1_next_76 : decode cX1_next 76 = .ok (.arraylength, 1) := dk_190 (dk_at dksX1_next_3 6 rfl rfl)
theorem dX1_next_77 : decode cX1_next 77 = .ok (.if_icmp .ge 21, 3) := dk_162 0 21 (dk_at dksX1_next_3 7 rfl rfl)
theorem dX1_next_80 : decode cX1_next 80 = .ok (.aload 5, 2) := dk_25 5 (dk_at dksX1_next_3 10 rfl rfl)
theorem dX1_next_82 : decode cX1_next 82 = .ok (.iload 6, 2) := dk_21 6 (dk_at dksX1_next_3 12 rfl rfl)
theorem dX1_next_84 : decode cX1_next 84 = .ok (.aload_n 0, 1) := dk_42 (dk_at dksX1_next_3 14 rfl rfl)
theorem dX1_next_85 : decode cX1_next 85 = .ok (.getfield 59, 3) := dk_180 0 59 (dk_at dksX1_next_3 15 rfl rfl)
theorem dX1_next_88 : decode cX1_next 88 = .ok (.iload 6, 2) := dk_21 6 (dk_at dksX1_next_3 18 rfl rfl)
theorem dX1_next_90 : decode cX1_next 90 = .ok (.iaload, 1) := dk_46 (dk_at dksX1_next_3 20 rfl rfl)
theorem dX1_next_91 : decode cX1_next 91 = .ok (.iastore, 1) := dk_79 (dk_at dksX1_next_3 21 rfl rfl)
theorem dX1_next_92 : decode cX1_next 92 = .ok (.iinc 6 1, 3) := dk_132 6 1 (dk_at dksX1_next_4 0 rfl rfl)
theorem dX1_next_95 : decode cX1_next 95 = .ok (.goto (-23), 3) := dk_167 255 233 (dk_at dksX1_next_4 3 rfl rfl)
theorem dX1_next_98 : decode cX1_next 98 = .ok (.aload_n 2, 1) := dk_44 (dk_at dksX1_next_4 6 rfl rfl)
theorem dX1_next_99 : decode cX1_next 99 = .ok (.aload 5, 2) := dk_25 5 (dk_at dksX1_next_4 7 rfl rfl)
theorem dX1_next_101 : decode cX1_next 101 = .ok (.invokeinterface 186 2, 5) := by decide +kernel
theorem dX1_next_106 : decode cX1_next 106 = .ok (.pop, 1) := dk_87 (dk_at dksX1_next_4 14 rfl rfl)
theorem dX1_next_107 : decode cX1_next 107 = .ok (.iinc 4 1, 3) := dk_132 4 1 (dk_at dksX1_next_4 15 rfl rfl)
theorem dX1_next_110 : decode cX1_next 110 = .ok (.goto (-81), 3) := dk_167 255 175 (dk_at dksX1_next_4 18 rfl rfl)
theorem dX1_next_113 : decode cX1_next 113 = .ok (.iinc 3 1, 3) := dk_132 3 1 (dk_at dksX1_next_4 21 rfl rfl)
theorem dX1_next_116 : decode cX1_next 116 = .ok (.goto (-101), 3) := dk_167 255 155 (dk_at dksX1_next_5 0 rfl rfl)
theorem dX1_next_119 : decode cX1_next 119 = .ok (.iconst (-1), 1) := dk_2 (dk_at dksX1_next_5 3 rfl rfl)
theorem dX1_next_120 : decode cX1_next 120 = .ok (.istore_n 3, 1) := dk_62 (dk_at dksX1_next_5 4 rfl rfl)
theorem dX1_next_121 : decode cX1_next 121 = .ok (.iconst 0, 1) := dk_3 (dk_at dksX1_next_5 5 rfl rfl)
theorem dX1_next_122 : decode cX1_next 122 = .ok (.istore 4, 2) := dk_54 4 (dk_at dksX1_next_5 6 rfl rfl)
theorem dX1_next_124 : decode cX1_next 124 = .ok (.iconst 0, 1) := dk_3 (dk_at dksX1_next_5 8 rfl rfl)
theorem dX1_next_125 : decode cX1_next 125 = .ok (.istore 5, 2) := dk_54 5 (dk_at dksX1_next_5 9 rfl rfl)
theorem dX1_next_127 : decode cX1_next 127 = .ok (.iload 5, 2) := dk_21 5 (dk_at dksX1_next_5 11 rfl rfl)
theorem dX1_next_129 : decode cX1_next 129 = .ok (.bipush 30, 2) := dk_16 30 (dk_at dksX1_next_5 13 rfl rfl)
theorem dX1_next_131 : decode cX1_next 131 = .ok (.if_icmp .gt 118, 3) := dk_163 0 118 (dk_at dksX1_next_5 15 rfl rfl)
theorem dX1_next_134 : decode cX1_next 134 = .ok (.iconst 0, 1) := dk_3 (dk_at dksX1_next_5 18 rfl rfl)
theorem dX1_next_135 : decode cX1_next 135 = .ok (.istore 6, 2) := dk_54 6 (dk_at dksX1_next_5 19 rfl rfl)
theorem dX1_next_137 : decode cX1_next 137 = .ok (.iconst 0, 1) := dk_3 (dk_at dksX1_next_5 21 rfl rfl)
theorem dX1_next_138 : decode cX1_next 138 = .ok (.istore 7, 2) := dk_54 7 (dk_at dksX1_next_5 22 rfl rfl)
theorem dX1_next_140 : decode cX1_next 140 = .ok (.iload 7, 2) := dk_21 7 (dk_at dksX1_next_6 0 rfl rfl)
theorem dX1_next_142 : decode cX1_next 142 = .ok (.aload_n 2, 1) := dk_44 (dk_at dksX1_next_6 2 rfl rfl)
theorem dX1_next_143 : decode cX1_next 143 = .ok (.invokeinterface 99 1, 5) := by decide +kernel
theorem dX1_next_148 : decode cX1_next 148 = .ok (.if_icmp .ge 78, 3) := dk_162 0 78 (dk_at dksX1_next_6 8 rfl rfl)
theorem dX1_next_151 : decode cX1_next 151 = .ok (.iconst 1, 1) := dk_4 (dk_at dksX1_next_6 11 rfl rfl)
theorem dX1_next_152 : decode cX1_next 152 = .ok (.istore 8, 2) := dk_54 8 (dk_at dksX1_next_6 12 rfl rfl)
theorem dX1_next_154 : decode cX1_next 154 = .ok (.iconst 0, 1) := dk_3 (dk_at dksX1_next_6 14 rfl rfl)
theorem dX1_next_155 : decode cX1_next 155 = .ok (.istore 9, 2) := dk_54 9 (dk_at dksX1_next_6 15 rfl rfl)
theorem dX1_next_157 : decode cX1_next 157 = .ok (.iload 9, 2) := dk_21 9 (dk_at dksX1_next_6 17 rfl rfl)
theorem dX1_next_159 : decode cX1_next 159 = .ok (.iload 7, 2) := dk_21 7 (dk_at dksX1_next_6 19 rfl rfl)
theorem dX1_next_161 : decode cX1_next 161 = .ok (.if_icmp .ge 51, 3) := dk_162 0 51 (dk_at dksX1_next_6 21 rfl rfl)
theorem dX1_next_164 : decode cX1_next 164 = .ok (.iload 8, 2) := dk_21 8 (dk_at dksX1_next_7 0 rfl rfl)
theorem dX1_next_166 : decode cX1_next 166 = .ok (.ifCond .eq 46, 3) := dk_153 0 46 (dk_at dksX1_next_7 2 rfl rfl)
theorem dX1_next_169 : decode cX1_next 169 = .ok (.aload_n 2, 1) := dk_44 (dk_at dksX1_next_7 5 rfl rfl)
theorem dX1_next_170 : decode cX1_next 170 = .ok (.iload 9, 2) := dk_21 9 (dk_at dksX1_next_7 6 rfl rfl)
theorem dX1_next_172 : decode cX1_next 172 = .ok (.invokeinterface 148 2, 5) := by decide +kernel
theorem dX1_next_177 : decode cX1_next 177 = .ok (.checkcast 290, 3) := dk_192 1 34 (dk_at dksX1_next_7 13 rfl rfl)
theorem dX1_next_180 : decode cX1_next 180 = .ok (.aload_n 2, 1) := dk_44 (dk_at dksX1_next_7 16 rfl rfl)
theorem dX1_next_181 : decode cX1_next 181 = .ok (.iload 7, 2) := dk_21 7 (dk_at dksX1_next_7 17 rfl rfl)
theorem dX1_next_183 : decode cX1_next 183 = .ok (.invokeinterface 148 2, 5) := by decide +kernel
theorem dX1_next_188 : decode cX1_next 188 = .ok (.checkcast 290, 3) := dk_192 1 34 (dk_at dksX1_next_8 0 rfl rfl)
theorem dX1_next_191 : decode cX1_next 191 = .ok (.iload 5, 2) := dk_21 5 (dk_at dksX1_next_8 3 rfl rfl)
theorem dX1_next_193 : decode cX1_next 193 = .ok (.invokestatic 302, 3) := dk_184 1 46 (dk_at dksX1_next_8 5 rfl rfl)
theorem dX1_next_196 : decode cX1_next 196 = .ok (.ifCond .ne 7, 3) := dk_154 0 7 (dk_at dksX1_next_8 8 rfl rfl)
theorem dX1_next_199 : decode cX1_next 199 = .ok (.iconst 1, 1) := dk_4 (dk_at dksX1_next_8 11 rfl rfl)
theorem dX1_next_200 : decode cX1_next 200 = .ok (.goto 4, 3) := dk_167 0 4 (dk_at dksX1_next_8 12 rfl rfl)
theorem dX1_next_203 : decode cX1_next 203 = .ok (.iconst 0, 1) := dk_3 (dk_at dksX1_next_8 15 rfl rfl)
theorem dX1_next_204 : decode cX1_next 204 = .ok (.istore 8, 2) := dk_54 8 (dk_at dksX1_next_8 16 rfl rfl)
theorem dX1_next_206 : decode cX1_next 206 = .ok (.iinc 9 1, 3) := dk_132 9 1 (dk_at dksX1_next_8 18 rfl rfl)
theorem dX1_next_209 : decode cX1_next 209 = .ok (.goto (-52), 3) := dk_167 255 204 (dk_at dksX1_next_8 21 rfl rfl)
theorem dX1_next_212 : decode cX1_next 212 = .ok (.iload 8, 2) := dk_21 8 (dk_at dksX1_next_9 0 rfl rfl)
theorem dX1_next_214 : decode cX1_next 214 = .ok (.ifCond .eq 6, 3) := dk_153 0 6 (dk_at dksX1_next_9 2 rfl rfl)
theorem dX1_next_217 : decode cX1_next 217 = .ok (.iinc 6 1, 3) := dk_132 6 1 (dk_at dksX1_next_9 5 rfl rfl)
theorem dX1_next_220 : decode cX1_next 220 = .ok (.iinc 7 1, 3) := dk_132 7 1 (dk_at dksX1_next_9 8 rfl rfl)
theorem dX1_next_223 : decode cX1_next 223 = .ok (.goto (-83), 3) := dk_167 255 173 (dk_at dksX1_next_9 11 rfl rfl)
theorem dX1_next_226 : decode cX1_next 226 = .ok (.iload 6, 2) := dk_21 6 (dk_at dksX1_next_9 14 rfl rfl)
theorem dX1_next_228 : decode cX1_next 228 = .ok (.iload 4, 2) := dk_21 4 (dk_at dksX1_next_9 16 rfl rfl)
theorem dX1_next_230 : decode cX1_next 230 = .ok (.if_icmp .gt 6, 3) := dk_163 0 6 (dk_at dksX1_next_9 18 rfl rfl)
theorem dX1_next_233 : decode cX1_next 233 = .ok (.goto 10, 3) := dk_167 0 10 (dk_at dksX1_next_9 21 rfl rfl)
theorem dX1_next_236 : decode cX1_next 236 = .ok (.iload 5, 2) := dk_21 5 (dk_at dksX1_next_10 0 rfl rfl)
theorem dX1_next_238 : decode cX1_next 238 = .ok (.istore_n 3, 1) := dk_62 (dk_at dksX1_next_10 2 rfl rfl)
theorem dX1_next_239 : decode cX1_next 239 = .ok (.iload 6, 2) := dk_21 6 (dk_at dksX1_next_10 3 rfl rfl)
theorem dX1_next_241 : decode cX1_next 241 = .ok (.istore 4, 2) := dk_54 4 (dk_at dksX1_next_10 5 rfl rfl)
theorem dX1_next_243 : decode cX1_next 243 = .ok (.iinc 5 1, 3) := dk_132 5 1 (dk_at dksX1_next_10 7 rfl rfl)
theorem dX1_next_246 : decode cX1_next 246 = .ok (.goto (-119), 3) := dk_167 255 137 (dk_at dksX1_next_10 10 rfl rfl)
theorem dX1_next_249 : decode cX1_next 249 = .ok (.iload_n 1, 1) := dk_27 (dk_at dksX1_next_10 13 rfl rfl)
theorem dX1_next_250 : decode cX1_next 250 = .ok (.ifCond .ne 7, 3) := dk_154 0 7 (dk_at dksX1_next_10 14 rfl rfl)
theorem dX1_next_253 : decode cX1_next 253 = .ok (.iload_n 3, 1) := dk_29 (dk_at dksX1_next_10 17 rfl rfl)
theorem dX1_next_254 : decode cX1_next 254 = .ok (.goto 5, 3) := dk_167 0 5 (dk_at dksX1_next_10 18 rfl rfl)
theorem dX1_next_257 : decode cX1_next 257 = .ok (.iload 4, 2) := dk_21 4 (dk_at dksX1_next_10 21 rfl rfl)
theorem dX1_next_259 : decode cX1_next 259 = .ok (.ireturn, 1) := dk_172 (dk_at dksX1_next_10 23 rfl rfl)
abbrev cX1_isLike : ByteArray := prog_1_method_45_code
def yX1_isLike : MethodName := ⟨RX1, "isLike", "([I[II)Z"⟩
def dkwX1_isLike_1 : List UInt8 := [3, 172, 132, 3, 1, 167, 255, 232, 4, 172]
abbrev dktX1_isLike_1 : List UInt8 := dkwX1_isLike_1 ++ []
def dkwX1_isLike_0 : List UInt8 := [16, 8, 28, 104, 62, 29, 16, 8, 28, 4, 96, 104, 162, 0, 20, 42, 29, 46, 43, 29, 46, 159, 0, 5]
abbrev dktX1_isLike_0 : List UInt8 := dkwX1_isLike_0 ++ dktX1_isLike_1
theorem dksX1_isLike_0 : cX1_isLike.data.toList.drop 0 = dktX1_isLike_0 := by decide +kernel
theorem dksX1_isLike_1 : cX1_isLike.data.toList.drop 24 = dktX1_isLike_1 := dk_seg dksX1_isLike_0 24 rfl rfl
theorem dX1_isLike_0 : decode cX1_isLike 0 = .ok (.bipush 8, 2) := dk_16 8 (dk_at dksX1_isLike_0 0 rfl rfl)
theorem dX1_isLike_2 : decode cX1_isLike 2 = .ok (.iload_n 2, 1) := dk_28 (dk_at dksX1_isLike_0 2 rfl rfl)
theorem dX1_isLike_3 : decode cX1_isLike 3 = .ok (.imul, 1) := dk_104 (dk_at dksX1_isLike_0 3 rfl rfl)
theorem dX1_isLike_4 : decode cX1_isLike 4 = .ok (.istore_n 3, 1) := dk_62 (dk_at dksX1_isLike_0 4 rfl rfl)
theorem dX1_isLike_5 : decode cX1_isLike 5 = .ok (.iload_n 3, 1) := dk_29 (dk_at dksX1_isLike_0 5 rfl rfl)
theorem dX1_isLike_6 : decode cX1_isLike 6 = .ok (.bipush 8, 2) := dk_16 8 (dk_at dksX1_isLike_0 6 rfl rfl)
theorem dX1_isLike_8 : decode cX1_isLike 8 = .ok (.iload_n 2, 1) := dk_28 (dk_at dksX1_isLike_0 8 rfl rfl)
theorem dX1_isLike_9 : decode cX1_isLike 9 = .ok (.iconst 1, 1) := dk_4 (dk_at dksX1_isLike_0 9 rfl rfl)
theorem dX1_isLike_10 : decode cX1_isLike 10 = .ok (.iadd, 1) := dk_96 (dk_at dksX1_isLike_0 10 rfl rfl)
theorem dX1_isLike_11 : decode cX1_isLike 11 = .ok (.imul, 1) := dk_104 (dk_at dksX1_isLike_0 11 rfl rfl)
theorem dX1_isLike_12 : decode cX1_isLike 12 = .ok (.if_icmp .ge 20, 3) := dk_162 0 20 (dk_at dksX1_isLike_0 12 rfl rfl)
theorem dX1_isLike_15 : decode cX1_isLike 15 = .ok (.aload_n 0, 1) := dk_42 (dk_at dksX1_isLike_0 15 rfl rfl)
theorem dX1_isLike_16 : decode cX1_isLike 16 = .ok (.iload_n 3, 1) := dk_29 (dk_at dksX1_isLike_0 16 rfl rfl)
theorem dX1_isLike_17 : decode cX1_isLike 17 = .ok (.iaload, 1) := dk_46 (dk_at dksX1_isLike_0 17 rfl rfl)
theorem dX1_isLike_18 : decode cX1_isLike 18 = .ok (.aload_n 1, 1) := dk_43 (dk_at dksX1_isLike_0 18 rfl rfl)
theorem dX1_isLike_19 : decode cX1_isLike 19 = .ok (.iload_n 3, 1) := dk_29 (dk_at dksX1_isLike_0 19 rfl rfl)
theorem dX1_isLike_20 : decode cX1_isLike 20 = .ok (.iaload, 1) := dk_46 (dk_at dksX1_isLike_0 20 rfl rfl)
theorem dX1_isLike_21 : decode cX1_isLike 21 = .ok (.if_icmp .eq 5, 3) := dk_159 0 5 (dk_at dksX1_isLike_0 21 rfl rfl)
theorem dX1_isLike_24 : decode cX1_isLike 24 = .ok (.iconst 0, 1) := dk_3 (dk_at dksX1_isLike_1 0 rfl rfl)
theorem dX1_isLike_25 : decode cX1_isLike 25 = .ok (.ireturn, 1) := dk_172 (dk_at dksX1_isLike_1 1 rfl rfl)
theorem dX1_isLike_26 : decode cX1_isLike 26 = .ok (.iinc 3 1, 3) := dk_132 3 1 (dk_at dksX1_isLike_1 2 rfl rfl)
theorem dX1_isLike_29 : decode cX1_isLike 29 = .ok (.goto (-24), 3) := dk_167 255 232 (dk_at dksX1_isLike_1 5 rfl rfl)
theorem dX1_isLike_32 : decode cX1_isLike 32 = .ok (.iconst 1, 1) := dk_4 (dk_at dksX1_isLike_1 8 rfl rfl)
theorem dX1_isLike_33 : decode cX1_isLike 33 = .ok (.ireturn, 1) := dk_172 (dk_at dksX1_isLike_1 9 rfl rfl)
abbrev cX1_pooled : ByteArray := prog_1_method_48_code
def yX1_pooled : MethodName := ⟨RX1, "pooled", "(I)I"⟩
def dkwX1_pooled_4 : List UInt8 := [167, 255, 186, 42, 44, 27, 182, 1, 50, 42, 42, 180, 0, 31, 182, 0, 182, 27, 182, 1, 50, 100, 172]
abbrev dktX1_pooled_4 : List UInt8 := dkwX1_pooled_4 ++ []
def dkwX1_pooled_3 : List UInt8 := [42, 180, 0, 31, 180, 0, 117, 182, 0, 113, 42, 180, 0, 22, 182, 0, 92, 108, 79, 132, 3, 1]
abbrev dktX1_pooled_3 : List UInt8 := dkwX1_pooled_3 ++ dktX1_pooled_4
def dkwX1_pooled_2 : List UInt8 := [180, 0, 110, 182, 0, 113, 42, 180, 0, 22, 182, 0, 92, 108, 79, 44, 180, 0, 117, 29, 42, 180, 0, 31]
abbrev dktX1_pooled_2 : List UInt8 := dkwX1_pooled_2 ++ dktX1_pooled_3
def dkwX1_pooled_1 : List UInt8 := [180, 0, 22, 182, 0, 92, 162, 0, 65, 44, 180, 0, 110, 29, 42, 180, 0, 31, 42, 180, 0, 31]
abbrev dktX1_pooled_1 : List UInt8 := dkwX1_pooled_1 ++ dktX1_pooled_2
def dkwX1_pooled_0 : List UInt8 := [27, 4, 16, 60, 184, 0, 134, 184, 0, 65, 42, 180, 0, 31, 182, 0, 182, 77, 3, 62, 29, 42]
abbrev dktX1_pooled_0 : List UInt8 := dkwX1_pooled_0 ++ dktX1_pooled_1
theorem dksX1_pooled_0 : cX1_pooled.data.toList.drop 0 = dktX1_pooled_0 := by decide +kernel
theorem dksX1_pooled_1 : cX1_pooled.data.toList.drop 22 = dktX1_pooled_1 := dk_seg dksX1_pooled_0 22 rfl rfl
theorem dksX1_pooled_2 : cX1_pooled.data.toList.drop 44 = dktX1_pooled_2 := dk_seg dksX1_pooled_1 22 rfl rfl
theorem dksX1_pooled_3 : cX1_pooled.data.toList.drop 68 = dktX1_pooled_3 := dk_seg dksX1_pooled_2 24 rfl rfl
theorem dksX1_pooled_4 : cX1_pooled.data.toList.drop 90 = dktX1_pooled_4 := dk_seg dksX1_pooled_3 22 rfl rfl
theorem dX1_pooled_0 : decode cX1_pooled 0 = .ok (.iload_n 1, 1) := dk_27 (dk_at dksX1_pooled_0 0 rfl rfl)
theorem dX1_pooled_1 : decode cX1_pooled 1 = .ok (.iconst 1, 1) := dk_4 (dk_at dksX1_pooled_0 1 rfl rfl)
theorem dX1_pooled_2 : decode cX1_pooled 2 = .ok (.bipush 60, 2) := dk_16 60 (dk_at dksX1_pooled_0 2 rfl rfl)
theorem dX1_pooled_4 : decode cX1_pooled 4 = .ok (.invokestatic 134, 3) := dk_184 0 134 (dk_at dksX1_pooled_0 4 rfl rfl)
theorem dX1_pooled_7 : decode cX1_pooled 7 = .ok (.invokestatic 65, 3) := dk_184 0 65 (dk_at dksX1_pooled_0 7 rfl rfl)
theorem dX1_pooled_10 : decode cX1_pooled 10 = .ok (.aload_n 0, 1) := dk_42 (dk_at dksX1_pooled_0 10 rfl rfl)
theorem dX1_pooled_11 : decode cX1_pooled 11 = .ok (.getfield 31, 3) := dk_180 0 31 (dk_at dksX1_pooled_0 11 rfl rfl)
theorem dX1_pooled_14 : decode cX1_pooled 14 = .ok (.invokevirtual 182, 3) := dk_182 0 182 (dk_at dksX1_pooled_0 14 rfl rfl)
theorem dX1_pooled_17 : decode cX1_pooled 17 = .ok (.astore_n 2, 1) := dk_77 (dk_at dksX1_pooled_0 17 rfl rfl)
theorem dX1_pooled_18 : decode cX1_pooled 18 = .ok (.iconst 0, 1) := dk_3 (dk_at dksX1_pooled_0 18 rfl rfl)
theorem dX1_pooled_19 : decode cX1_pooled 19 = .ok (.istore_n 3, 1) := dk_62 (dk_at dksX1_pooled_0 19 rfl rfl)
theorem dX1_pooled_20 : decode cX1_pooled 20 = .ok (.iload_n 3, 1) := dk_29 (dk_at dksX1_pooled_0 20 rfl rfl)
theorem dX1_pooled_21 : decode cX1_pooled 21 = .ok (.aload_n 0, 1) := dk_42 (dk_at dksX1_pooled_0 21 rfl rfl)
theorem dX1_pooled_22 : decode cX1_pooled 22 = .ok (.getfield 22, 3) := dk_180 0 22 (dk_at dksX1_pooled_1 0 rfl rfl)
theorem dX1_pooled_25 : decode cX1_pooled 25 = .ok (.invokevirtual 92, 3) := dk_182 0 92 (dk_at dksX1_pooled_1 3 rfl rfl)
theorem dX1_pooled_28 : decode cX1_pooled 28 = .ok (.if_icmp .ge 65, 3) := dk_162 0 65 (dk_at dksX1_pooled_1 6 rfl rfl)
theorem dX1_pooled_31 : decode cX1_pooled 31 = .ok (.aload_n 2, 1) := dk_44 (dk_at dksX1_pooled_1 9 rfl rfl)
theorem dX1_pooled_32 : decode cX1_pooled 32 = .ok (.getfield 110, 3) := dk_180 0 110 (dk_at dksX1_pooled_1 10 rfl rfl)
theorem dX1_pooled_35 : decode cX1_pooled 35 = .ok (.iload_n 3, 1) := dk_29 (dk_at dksX1_pooled_1 13 rfl rfl)
theorem dX1_pooled_36 : decode cX1_pooled 36 = .ok (.aload_n 0, 1) := dk_42 (dk_at dksX1_pooled_1 14 rfl rfl)
theorem dX1_pooled_37 : decode cX1_pooled 37 = .ok (.getfield 31, 3) := dk_180 0 31 (dk_at dksX1_pooled_1 15 rfl rfl)
theorem dX1_pooled_40 : decode cX1_pooled 40 = .ok (.aload_n 0, 1) := dk_42 (dk_at dksX1_pooled_1 18 rfl rfl)
theorem dX1_pooled_41 : decode cX1_pooled 41 = .ok (.getfield 31, 3) := dk_180 0 31 (dk_at dksX1_pooled_1 19 rfl rfl)
theorem dX1_pooled_44 : decode cX1_pooled 44 = .ok (.getfield 110, 3) := dk_180 0 110 (dk_at dksX1_pooled_2 0 rfl rfl)
theorem dX1_pooled_47 : decode cX1_pooled 47 = .ok (.invokevirtual 113, 3) := dk_182 0 113 (dk_at dksX1_pooled_2 3 rfl rfl)
theorem dX1_pooled_50 : decode cX1_pooled 50 = .ok (.aload_n 0, 1) := dk_42 (dk_at dksX1_pooled_2 6 rfl rfl)
theorem dX1_pooled_51 : decode cX1_pooled 51 = .ok (.getfield 22, 3) := dk_180 0 22 (dk_at dksX1_pooled_2 7 rfl rfl)
theorem dX1_pooled_54 : decode cX1_pooled 54 = .ok (.invokevirtual 92, 3) := dk_182 0 92 (dk_at dksX1_pooled_2 10 rfl rfl)
theorem dX1_pooled_57 : decode cX1_pooled 57 = .ok (.idiv, 1) := dk_108 (dk_at dksX1_pooled_2 13 rfl rfl)
theorem dX1_pooled_58 : decode cX1_pooled 58 = .ok (.iastore, 1) := dk_79 (dk_at dksX1_pooled_2 14 rfl rfl)
theorem dX1_pooled_59 : decode cX1_pooled 59 = .ok (.aload_n 2, 1) := dk_44 (dk_at dksX1_pooled_2 15 rfl rfl)
theorem dX1_pooled_60 : decode cX1_pooled 60 = .ok (.getfield 117, 3) := dk_180 0 117 (dk_at dksX1_pooled_2 16 rfl rfl)
theorem dX1_pooled_63 : decode cX1_pooled 63 = .ok (.iload_n 3, 1) := dk_29 (dk_at dksX1_pooled_2 19 rfl rfl)
theorem dX1_pooled_64 : decode cX1_pooled 64 = .ok (.aload_n 0, 1) := dk_42 (dk_at dksX1_pooled_2 20 rfl rfl)
theorem dX1_pooled_65 : decode cX1_pooled 65 = .ok (.getfield 31, 3) := dk_180 0 31 (dk_at dksX1_pooled_2 21 rfl rfl)
theorem dX1_pooled_68 : decode cX1_pooled 68 = .ok (.aload_n 0, 1) := dk_42 (dk_at dksX1_pooled_3 0 rfl rfl)
theorem dX1_pooled_69 : decode cX1_pooled 69 = .ok (.getfield 31, 3) := dk_180 0 31 (dk_at dksX1_pooled_3 1 rfl rfl)
theorem dX1_pooled_72 : decode cX1_pooled 72 = .ok (.getfield 117, 3) := dk_180 0 117 (dk_at dksX1_pooled_3 4 rfl rfl)
theorem dX1_pooled_75 : decode cX1_pooled 75 = .ok (.invokevirtual 113, 3) := dk_182 0 113 (dk_at dksX1_pooled_3 7 rfl rfl)
theorem dX1_pooled_78 : decode cX1_pooled 78 = .ok (.aload_n 0, 1) := dk_42 (dk_at dksX1_pooled_3 10 rfl rfl)
theorem dX1_pooled_79 : decode cX1_pooled 79 = .ok (.getfield 22, 3) := dk_180 0 22 (dk_at dksX1_pooled_3 11 rfl rfl)
theorem dX1_pooled_82 : decode cX1_pooled 82 = .ok (.invokevirtual 92, 3) := dk_182 0 92 (dk_at dksX1_pooled_3 14 rfl rfl)
theorem dX1_pooled_85 : decode cX1_pooled 85 = .ok (.idiv, 1) := dk_108 (dk_at dksX1_pooled_3 17 rfl rfl)
theorem dX1_pooled_86 : decode cX1_pooled 86 = .ok (.iastore, 1) := dk_79 (dk_at dksX1_pooled_3 18 rfl rfl)
theorem dX1_pooled_87 : decode cX1_pooled 87 = .ok (.iinc 3 1, 3) := dk_132 3 1 (dk_at dksX1_pooled_3 19 rfl rfl)
theorem dX1_pooled_90 : decode cX1_pooled 90 = .ok (.goto (-70), 3) := dk_167 255 186 (dk_at dksX1_pooled_4 0 rfl rfl)
theorem dX1_pooled_93 : decode cX1_pooled 93 = .ok (.aload_n 0, 1) := dk_42 (dk_at dksX1_pooled_4 3 rfl rfl)
theorem dX1_pooled_94 : decode cX1_pooled 94 = .ok (.aload_n 2, 1) := dk_44 (dk_at dksX1_pooled_4 4 rfl rfl)
theorem dX1_pooled_95 : decode cX1_pooled 95 = .ok (.iload_n 1, 1) := dk_27 (dk_at dksX1_pooled_4 5 rfl rfl)
theorem dX1_pooled_96 : decode cX1_pooled 96 = .ok (.invokevirtual 306, 3) := dk_182 1 50 (dk_at dksX1_pooled_4 6 rfl rfl)
theorem dX1_pooled_99 : decode cX1_pooled 99 = .ok (.aload_n 0, 1) := dk_42 (dk_at dksX1_pooled_4 9 rfl rfl)
theorem dX1_pooled_100 : decode cX1_pooled 100 = .ok (.aload_n 0, 1) := dk_42 (dk_at dksX1_pooled_4 10 rfl rfl)
theorem dX1_pooled_101 : decode cX1_pooled 101 = .ok (.getfield 31, 3) := dk_180 0 31 (dk_at dksX1_pooled_4 11 rfl rfl)
theorem dX1_pooled_104 : decode cX1_pooled 104 = .ok (.invokevirtual 182, 3) := dk_182 0 182 (dk_at dksX1_pooled_4 14 rfl rfl)
theorem dX1_pooled_107 : decode cX1_pooled 107 = .ok (.iload_n 1, 1) := dk_27 (dk_at dksX1_pooled_4 17 rfl rfl)
theorem dX1_pooled_108 : decode cX1_pooled 108 = .ok (.invokevirtual 306, 3) := dk_182 1 50 (dk_at dksX1_pooled_4 18 rfl rfl)
theorem dX1_pooled_111 : decode cX1_pooled 111 = .ok (.isub, 1) := dk_100 (dk_at dksX1_pooled_4 21 rfl rfl)
theorem dX1_pooled_112 : decode cX1_pooled 112 = .ok (.ireturn, 1) := dk_172 (dk_at dksX1_pooled_4 22 rfl rfl)
abbrev cX1_game : ByteArray := prog_1_method_51_code
def yX1_game : MethodName := ⟨RX1, "game", "(III)I"⟩
def dkwX1_game_6 : List UInt8 := [154, 0, 8, 21, 4, 167, 0, 5, 21, 5, 172]
abbrev dktX1_game_6 : List UInt8 := dkwX1_game_6 ++ []
def dkwX1_game_5 : List UInt8 := [104, 21, 7, 96, 54, 5, 132, 4, 1, 132, 7, 1, 167, 255, 172, 132, 6, 1, 167, 255, 157, 29]
abbrev dktX1_game_5 : List UInt8 := dkwX1_game_5 ++ dktX1_game_6
def dkwX1_game_4 : List UInt8 := [182, 1, 54, 4, 46, 25, 8, 4, 46, 164, 0, 6, 167, 0, 21, 21, 4, 154, 0, 13, 16, 10, 21, 6]
abbrev dktX1_game_4 : List UInt8 := dkwX1_game_4 ++ dktX1_game_5
def dkwX1_game_3 : List UInt8 := [21, 7, 182, 1, 54, 3, 46, 25, 8, 3, 46, 163, 0, 45, 42, 27, 28, 21, 6, 4, 21, 7, 100]
abbrev dktX1_game_3 : List UInt8 := dkwX1_game_3 ++ dktX1_game_4
def dkwX1_game_2 : List UInt8 := [5, 162, 0, 84, 42, 27, 28, 21, 6, 21, 7, 182, 1, 54, 58, 8, 42, 27, 28, 4, 21, 6, 100]
abbrev dktX1_game_2 : List UInt8 := dkwX1_game_2 ++ dktX1_game_3
def dkwX1_game_1 : List UInt8 := [3, 184, 0, 65, 3, 54, 4, 2, 54, 5, 3, 54, 6, 21, 6, 5, 162, 0, 99, 3, 54, 7, 21, 7]
abbrev dktX1_game_1 : List UInt8 := dkwX1_game_1 ++ dktX1_game_2
def dkwX1_game_0 : List UInt8 := [42, 27, 182, 0, 141, 42, 28, 182, 0, 141, 29, 4, 184, 0, 166, 27, 28, 159, 0, 7, 4, 167, 0, 4]
abbrev dktX1_game_0 : List UInt8 := dkwX1_game_0 ++ dktX1_game_1
theorem dksX1_game_0 : cX1_game.data.toList.drop 0 = dktX1_game_0 := by decide +kernel
theorem dksX1_game_1 : cX1_game.data.toList.drop 24 = dktX1_game_1 := dk_seg dksX1_game_0 24 rfl rfl
theorem dksX1_game_2 : cX1_game.data.toList.drop 48 = dktX1_game_2 := dk_seg dksX1_game_1 24 rfl rfl
theorem dksX1_game_3 : cX1_game.data.toList.drop 71 = dktX1_game_3 := dk_seg dksX1_game_2 23 rfl rfl
theorem dksX1_game_4 : cX1_game.data.toList.drop 94 = dktX1_game_4 := dk_seg dksX1_game_3 23 rfl rfl
theorem dksX1_game_5 : cX1_game.data.toList.drop 118 = dktX1_game_5 := dk_seg dksX1_game_4 24 rfl rfl
theorem dksX1_game_6 : cX1_game.data.toList.drop 140 = dktX1_game_6 := dk_seg dksX1_game_5 22 rfl rfl
theorem dX1_game_0 : decode cX1_game 0 = .ok (.aload_n 0, 1) := dk_42 (dk_at dksX1_game_0 0 rfl rfl)
theorem dX1_game_1 : decode cX1_game 1 = .ok (.iload_n 1, 1) := dk_27 (dk_at dksX1_game_0 1 rfl rfl)
theorem dX1_game_2 : decode cX1_game 2 = .ok (.invokevirtual 141, 3) := dk_182 0 141 (dk_at dksX1_game_0 2 rfl rfl)
theorem dX1_game_5 : decode cX1_game 5 = .ok (.aload_n 0, 1) := dk_42 (dk_at dksX1_game_0 5 rfl rfl)
theorem dX1_game_6 : decode cX1_game 6 = .ok (.iload_n 2, 1) := dk_28 (dk_at dksX1_game_0 6 rfl rfl)
theorem dX1_game_7 : decode cX1_game 7 = .ok (.invokevirtual 141, 3) := dk_182 0 141 (dk_at dksX1_game_0 7 rfl rfl)
theorem dX1_game_10 : decode cX1_game 10 = .ok (.iload_n 3, 1) := dk_29 (dk_at dksX1_game_0 10 rfl rfl)
theorem dX1_game_11 : decode cX1_game 11 = .ok (.iconst 1, 1) := dk_4 (dk_at dksX1_game_0 11 rfl rfl)
theorem dX1_game_12 : decode cX1_game 12 = .ok (.invokestatic 166, 3) := dk_184 0 166 (dk_at dksX1_game_0 12 rfl rfl)
theorem dX1_game_15 : decode cX1_game 15 = .ok (.iload_n 1, 1) := dk_27 (dk_at dksX1_game_0 15 rfl rfl)
theorem dX1_game_16 : decode cX1_game 16 = .ok (.iload_n 2, 1) := dk_28 (dk_at dksX1_game_0 16 rfl rfl)
theorem dX1_game_17 : decode cX1_game 17 = .ok (.if_icmp .eq 7, 3) := dk_159 0 7 (dk_at dksX1_game_0 17 rfl rfl)
theorem dX1_game_20 : decode cX1_game 20 = .ok (.iconst 1, 1) := dk_4 (dk_at dksX1_game_0 20 rfl rfl)
theorem dX1_game_21 : decode cX1_game 21 = .ok (.goto 4, 3) := dk_167 0 4 (dk_at dksX1_game_0 21 rfl rfl)
theorem dX1_game_24 : decode cX1_game 24 = .ok (.iconst 0, 1) := dk_3 (dk_at dksX1_game_1 0 rfl rfl)
theorem dX1_game_25 : decode cX1_game 25 = .ok (.invokestatic 65, 3) := dk_184 0 65 (dk_at dksX1_game_1 1 rfl rfl)
theorem dX1_game_28 : decode cX1_game 28 = .ok (.iconst 0, 1) := dk_3 (dk_at dksX1_game_1 4 rfl rfl)
theorem dX1_game_29 : decode cX1_game 29 = .ok (.istore 4, 2) := dk_54 4 (dk_at dksX1_game_1 5 rfl rfl)
theorem dX1_game_31 : decode cX1_game 31 = .ok (.iconst (-1), 1) := dk_2 (dk_at dksX1_game_1 7 rfl rfl)
theorem dX1_game_32 : decode cX1_game 32 = .ok (.istore 5, 2) := dk_54 5 (dk_at dksX1_game_1 8 rfl rfl)
theorem dX1_game_34 : decode cX1_game 34 = .ok (.iconst 0, 1) := dk_3 (dk_at dksX1_game_1 10 rfl rfl)
theorem dX1_game_35 : decode cX1_game 35 = .ok (.istore 6, 2) := dk_54 6 (dk_at dksX1_game_1 11 rfl rfl)
theorem dX1_game_37 : decode cX1_game 37 = .ok (.iload 6, 2) := dk_21 6 (dk_at dksX1_game_1 13 rfl rfl)
theorem dX1_game_39 : decode cX1_game 39 = .ok (.iconst 2, 1) := dk_5 (dk_at dksX1_game_1 15 rfl rfl)
theorem dX1_game_40 : decode cX1_game 40 = .ok (.if_icmp .ge 99, 3) := dk_162 0 99 (dk_at dksX1_game_1 16 rfl rfl)
theorem dX1_game_43 : decode cX1_game 43 = .ok (.iconst 0, 1) := dk_3 (dk_at dksX1_game_1 19 rfl rfl)
theorem dX1_game_44 : decode cX1_game 44 = .ok (.istore 7, 2) := dk_54 7 (dk_at dksX1_game_1 20 rfl rfl)
theorem dX1_game_46 : decode cX1_game 46 = .ok (.iload 7, 2) := dk_21 7 (dk_at dksX1_game_1 22 rfl rfl)
theorem dX1_game_48 : decode cX1_game 48 = .ok (.iconst 2, 1) := dk_5 (dk_at dksX1_game_2 0 rfl rfl)
theorem dX1_game_49 : decode cX1_game 49 = .ok (.if_icmp .ge 84, 3) := dk_162 0 84 (dk_at dksX1_game_2 1 rfl rfl)
theorem dX1_game_52 : decode cX1_game 52 = .ok (.aload_n 0, 1) := dk_42 (dk_at dksX1_game_2 4 rfl rfl)
theorem dX1_game_53 : decode cX1_game 53 = .ok (.iload_n 1, 1) := dk_27 (dk_at dksX1_game_2 5 rfl rfl)
theorem dX1_game_54 : decode cX1_game 54 = .ok (.iload_n 2, 1) := dk_28 (dk_at dksX1_game_2 6 rfl rfl)
theorem dX1_game_55 : decode cX1_game 55 = .ok (.iload 6, 2) := dk_21 6 (dk_at dksX1_game_2 7 rfl rfl)
theorem dX1_game_57 : decode cX1_game 57 = .ok (.iload 7, 2) := dk_21 7 (dk_at dksX1_game_2 9 rfl rfl)
theorem dX1_game_59 : decode cX1_game 59 = .ok (.invokevirtual 310, 3) := dk_182 1 54 (dk_at dksX1_game_2 11 rfl rfl)
theorem dX1_game_62 : decode cX1_game 62 = .ok (.astore 8, 2) := dk_58 8 (dk_at dksX1_game_2 14 rfl rfl)
theorem dX1_game_64 : decode cX1_game 64 = .ok (.aload_n 0, 1) := dk_42 (dk_at dksX1_game_2 16 rfl rfl)
theorem dX1_game_65 : decode cX1_game 65 = .ok (.iload_n 1, 1) := dk_27 (dk_at dksX1_game_2 17 rfl rfl)
theorem dX1_game_66 : decode cX1_game 66 = .ok (.iload_n 2, 1) := dk_28 (dk_at dksX1_game_2 18 rfl rfl)
theorem dX1_game_67 : decode cX1_game 67 = .ok (.iconst 1, 1) := dk_4 (dk_at dksX1_game_2 19 rfl rfl)
theorem dX1_game_68 : decode cX1_game 68 = .ok (.iload 6, 2) := dk_21 6 (dk_at dksX1_game_2 20 rfl rfl)
theorem dX1_game_70 : decode cX1_game 70 = .ok (.isub, 1) := dk_100 (dk_at dksX1_game_2 22 rfl rfl)
theorem dX1_game_71 : decode cX1_game 71 = .ok (.iload 7, 2) := dk_21 7 (dk_at dksX1_game_3 0 rfl rfl)
theorem dX1_game_73 : decode cX1_game 73 = .ok (.invokevirtual 310, 3) := dk_182 1 54 (dk_at dksX1_game_3 2 rfl rfl)
theorem dX1_game_76 : decode cX1_game 76 = .ok (.iconst 0, 1) := dk_3 (dk_at dksX1_game_3 5 rfl rfl)
theorem dX1_game_77 : decode cX1_game 77 = .ok (.iaload, 1) := dk_46 (dk_at dksX1_game_3 6 rfl rfl)
theorem dX1_game_78 : decode cX1_game 78 = .ok (.aload 8, 2) := dk_25 8 (dk_at dksX1_game_3 7 rfl rfl)
theorem dX1_game_80 : decode cX1_game 80 = .ok (.iconst 0, 1) := dk_3 (dk_at dksX1_game_3 9 rfl rfl)
theorem dX1_game_81 : decode cX1_game 81 = .ok (.iaload, 1) := dk_46 (dk_at dksX1_game_3 10 rfl rfl)
theorem dX1_game_82 : decode cX1_game 82 = .ok (.if_icmp .gt 45, 3) := dk_163 0 45 (dk_at dksX1_game_3 11 rfl rfl)
theorem dX1_game_85 : decode cX1_game 85 = .ok (.aload_n 0, 1) := dk_42 (dk_at dksX1_game_3 14 rfl rfl)
theorem dX1_game_86 : decode cX1_game 86 = .ok (.iload_n 1, 1) := dk_27 (dk_at dksX1_game_3 15 rfl rfl)
theorem dX1_game_87 : decode cX1_game 87 = .ok (.iload_n 2, 1) := dk_28 (dk_at dksX1_game_3 16 rfl rfl)
theorem dX1_game_88 : decode cX1_game 88 = .ok (.iload 6, 2) := dk_21 6 (dk_at dksX1_game_3 17 rfl rfl)
theorem dX1_game_90 : decode cX1_game 90 = .ok (.iconst 1, 1) := dk_4 (dk_at dksX1_game_3 19 rfl rfl)
theorem dX1_game_91 : decode cX1_game 91 = .ok (.iload 7, 2) := dk_21 7 (dk_at dksX1_game_3 20 rfl rfl)
theorem dX1_game_93 : decode cX1_game 93 = .ok (.isub, 1) := dk_100 (dk_at dksX1_game_3 22 rfl rfl)
theorem dX1_game_94 : decode cX1_game 94 = .ok (.invokevirtual 310, 3) := dk_182 1 54 (dk_at dksX1_game_4 0 rfl rfl)
theorem dX1_game_97 : decode cX1_game 97 = .ok (.iconst 1, 1) := dk_4 (dk_at dksX1_game_4 3 rfl rfl)
theorem dX1_game_98 : decode cX1_game 98 = .ok (.iaload, 1) := dk_46 (dk_at dksX1_game_4 4 rfl rfl)
theorem dX1_game_99 : decode cX1_game 99 = .ok (.aload 8, 2) := dk_25 8 (dk_at dksX1_game_4 5 rfl rfl)
theorem dX1_game_101 : decode cX1_game 101 = .ok (.iconst 1, 1) := dk_4 (dk_at dksX1_game_4 7 rfl rfl)
theorem dX1_game_102 : decode cX1_game 102 = .ok (.iaload, 1) := dk_46 (dk_at dksX1_game_4 8 rfl rfl)
theorem dX1_game_103 : decode cX1_game 103 = .ok (.if_icmp .le 6, 3) := dk_164 0 6 (dk_at dksX1_game_4 9 rfl rfl)
theorem dX1_game_106 : decode cX1_game 106 = .ok (.goto 21, 3) := dk_167 0 21 (dk_at dksX1_game_4 12 rfl rfl)
theorem dX1_game_109 : decode cX1_game 109 = .ok (.iload 4, 2) := dk_21 4 (dk_at dksX1_game_4 15 rfl rfl)
theorem dX1_game_111 : decode cX1_game 111 = .ok (.ifCond .ne 13, 3) := dk_154 0 13 (dk_at dksX1_game_4 17 rfl rfl)
theorem dX1_game_114 : decode cX1_game 114 = .ok (.bipush 10, 2) := dk_16 10 (dk_at dksX1_game_4 20 rfl rfl)
theorem dX1_game_116 : decode cX1_game 116 = .ok (.iload 6, 2) := dk_21 6 (dk_at dksX1_game_4 22 rfl rfl)
theorem dX1_game_118 : decode cX1_game 118 = .ok (.imul, 1) := dk_104 (dk_at dksX1_game_5 0 rfl rfl)
theorem dX1_game_119 : decode cX1_game 119 = .ok (.iload 7, 2) := dk_21 7 (dk_at dksX1_game_5 1 rfl rfl)
theorem dX1_game_121 : decode cX1_game 121 = .ok (.iadd, 1) := dk_96 (dk_at dksX1_game_5 3 rfl rfl)
theorem dX1_game_122 : decode cX1_game 122 = .ok (.istore 5, 2) := dk_54 5 (dk_at dksX1_game_5 4 rfl rfl)
theorem dX1_game_124 : decode cX1_game 124 = .ok (.iinc 4 1, 3) := dk_132 4 1 (dk_at dksX1_game_5 6 rfl rfl)
theorem dX1_game_127 : decode cX1_game 127 = .ok (.iinc 7 1, 3) := dk_132 7 1 (dk_at dksX1_game_5 9 rfl rfl)
theorem dX1_game_130 : decode cX1_game 130 = .ok (.goto (-84), 3) := dk_167 255 172 (dk_at dksX1_game_5 12 rfl rfl)
theorem dX1_game_133 : decode cX1_game 133 = .ok (.iinc 6 1, 3) := dk_132 6 1 (dk_at dksX1_game_5 15 rfl rfl)
theorem dX1_game_136 : decode cX1_game 136 = .ok (.goto (-99), 3) := dk_167 255 157 (dk_at dksX1_game_5 18 rfl rfl)
theorem dX1_game_139 : decode cX1_game 139 = .ok (.iload_n 3, 1) := dk_29 (dk_at dksX1_game_5 21 rfl rfl)
theorem dX1_game_140 : decode cX1_game 140 = .ok (.ifCond .ne 8, 3) := dk_154 0 8 (dk_at dksX1_game_6 0 rfl rfl)
theorem dX1_game_143 : decode cX1_game 143 = .ok (.iload 4, 2) := dk_21 4 (dk_at dksX1_game_6 3 rfl rfl)
theorem dX1_game_145 : decode cX1_game 145 = .ok (.goto 5, 3) := dk_167 0 5 (dk_at dksX1_game_6 5 rfl rfl)
theorem dX1_game_148 : decode cX1_game 148 = .ok (.iload 5, 2) := dk_21 5 (dk_at dksX1_game_6 8 rfl rfl)
theorem dX1_game_150 : decode cX1_game 150 = .ok (.ireturn, 1) := dk_172 (dk_at dksX1_game_6 10 rfl rfl)
abbrev cX1_gains : ByteArray := prog_1_method_50_code
def yX1_gains : MethodName := ⟨RX1, "gains", "(IIII)[I"⟩
def dkwX1_gains_6 : List UInt8 := [180, 0, 120, 28, 46, 100, 79, 176]
abbrev dktX1_gains_6 : List UInt8 := dkwX1_gains_6 ++ []
def dkwX1_gains_5 : List UInt8 := [42, 180, 0, 31, 180, 0, 120, 27, 46, 100, 79, 89, 4, 25, 5, 180, 0, 120, 28, 46, 42, 180, 0, 31]
abbrev dktX1_gains_5 : List UInt8 := dkwX1_gains_5 ++ dktX1_gains_6
def dkwX1_gains_4 : List UInt8 := [184, 0, 222, 79, 25, 5, 16, 10, 182, 0, 199, 87, 5, 188, 10, 89, 3, 25, 5, 180, 0, 120, 27, 46]
abbrev dktX1_gains_4 : List UInt8 := dkwX1_gains_4 ++ dktX1_gains_5
def dkwX1_gains_3 : List UInt8 := [25, 5, 180, 0, 110, 28, 17, 39, 15, 42, 180, 0, 31, 180, 0, 110, 28, 46, 21, 7, 100, 21, 6, 96]
abbrev dktX1_gains_3 : List UInt8 := dkwX1_gains_3 ++ dktX1_gains_4
def dkwX1_gains_2 : List UInt8 := [27, 17, 39, 15, 42, 180, 0, 31, 180, 0, 110, 27, 46, 21, 6, 100, 21, 7, 96, 184, 0, 222, 79]
abbrev dktX1_gains_2 : List UInt8 := dkwX1_gains_2 ++ dktX1_gains_3
def dkwX1_gains_1 : List UInt8 := [54, 6, 21, 4, 42, 180, 0, 31, 180, 0, 110, 28, 46, 16, 10, 108, 104, 54, 7, 25, 5, 180, 0, 110]
abbrev dktX1_gains_1 : List UInt8 := dkwX1_gains_1 ++ dktX1_gains_2
def dkwX1_gains_0 : List UInt8 := [42, 180, 0, 31, 182, 0, 182, 58, 5, 29, 42, 180, 0, 31, 180, 0, 110, 27, 46, 16, 10, 108, 104]
abbrev dktX1_gains_0 : List UInt8 := dkwX1_gains_0 ++ dktX1_gains_1
theorem dksX1_gains_0 : cX1_gains.data.toList.drop 0 = dktX1_gains_0 := by decide +kernel
theorem dksX1_gains_1 : cX1_gains.data.toList.drop 23 = dktX1_gains_1 := dk_seg dksX1_gains_0 23 rfl rfl
theorem dksX1_gains_2 : cX1_gains.data.toList.drop 47 = dktX1_gains_2 := dk_seg dksX1_gains_1 24 rfl rfl
theorem dksX1_gains_3 : cX1_gains.data.toList.drop 70 = dktX1_gains_3 := dk_seg dksX1_gains_2 23 rfl rfl
theorem dksX1_gains_4 : cX1_gains.data.toList.drop 94 = dktX1_gains_4 := dk_seg dksX1_gains_3 24 rfl rfl
theorem dksX1_gains_5 : cX1_gains.data.toList.drop 118 = dktX1_gains_5 := dk_seg dksX1_gains_4 24 rfl rfl
theorem dksX1_gains_6 : cX1_gains.data.toList.drop 142 = dktX1_gains_6 := dk_seg dksX1_gains_5 24 rfl rfl
theorem dX1_gains_0 : decode cX1_gains 0 = .ok (.aload_n 0, 1) := dk_42 (dk_at dksX1_gains_0 0 rfl rfl)
theorem dX1_gains_1 : decode cX1_gains 1 = .ok (.getfield 31, 3) := dk_180 0 31 (dk_at dksX1_gains_0 1 rfl rfl)
theorem dX1_gains_4 : decode cX1_gains 4 = .ok (.invokevirtual 182, 3) := dk_182 0 182 (dk_at dksX1_gains_0 4 rfl rfl)
theorem dX1_gains_7 : decode cX1_gains 7 = .ok (.astore 5, 2) := dk_58 5 (dk_at dksX1_gains_0 7 rfl rfl)
theorem dX1_gains_9 : decode cX1_gains 9 = .ok (.iload_n 3, 1) := dk_29 (dk_at dksX1_gains_0 9 rfl rfl)
theorem dX1_gains_10 : decode cX1_gains 10 = .ok (.aload_n 0, 1) := dk_42 (dk_at dksX1_gains_0 10 rfl rfl)
theorem dX1_gains_11 : decode cX1_gains 11 = .ok (.getfield 31, 3) := dk_180 0 31 (dk_at dksX1_gains_0 11 rfl rfl)
theorem dX1_gains_14 : decode cX1_gains 14 = .ok (.getfield 110, 3) := dk_180 0 110 (dk_at dksX1_gains_0 14 rfl rfl)
theorem dX1_gains_17 : decode cX1_gains 17 = .ok (.iload_n 1, 1) := dk_27 (dk_at dksX1_gains_0 17 rfl rfl)
theorem dX1_gains_18 : decode cX1_gains 18 = .ok (.iaload, 1) := dk_46 (dk_at dksX1_gains_0 18 rfl rfl)
theorem dX1_gains_19 : decode cX1_gains 19 = .ok (.bipush 10, 2) := dk_16 10 (dk_at dksX1_gains_0 19 rfl rfl)
theorem dX1_gains_21 : decode cX1_gains 21 = .ok (.idiv, 1) := dk_108 (dk_at dksX1_gains_0 21 rfl rfl)
theorem dX1_gains_22 : decode cX1_gains 22 = .ok (.imul, 1) := dk_104 (dk_at dksX1_gains_0 22 rfl rfl)
theorem dX1_gains_23 : decode cX1_gains 23 = .ok (.istore 6, 2) := dk_54 6 (dk_at dksX1_gains_1 0 rfl rfl)
theorem dX1_gains_25 : decode cX1_gains 25 = .ok (.iload 4, 2) := dk_21 4 (dk_at dksX1_gains_1 2 rfl rfl)
theorem dX1_gains_27 : decode cX1_gains 27 = .ok (.aload_n 0, 1) := dk_42 (dk_at dksX1_gains_1 4 rfl rfl)
theorem dX1_gains_28 : decode cX1_gains 28 = .ok (.getfield 31, 3) := dk_180 0 31 (dk_at dksX1_gains_1 5 rfl rfl)
theorem dX1_gains_31 : decode cX1_gains 31 = .ok (.getfield 110, 3) := dk_180 0 110 (dk_at dksX1_gains_1 8 rfl rfl)
theorem dX1_gains_34 : decode cX1_gains 34 = .ok (.iload_n 2, 1) := dk_28 (dk_at dksX1_gains_1 11 rfl rfl)
theorem dX1_gains_35 : decode cX1_gains 35 = .ok (.iaload, 1) := dk_46 (dk_at dksX1_gains_1 12 rfl rfl)
theorem dX1_gains_36 : decode cX1_gains 36 = .ok (.bipush 10, 2) := dk_16 10 (dk_at dksX1_gains_1 13 rfl rfl)
theorem dX1_gains_38 : decode cX1_gains 38 = .ok (.idiv, 1) := dk_108 (dk_at dksX1_gains_1 15 rfl rfl)
theorem dX1_gains_39 : decode cX1_gains 39 = .ok (.imul, 1) := dk_104 (dk_at dksX1_gains_1 16 rfl rfl)
theorem dX1_gains_40 : decode cX1_gains 40 = .ok (.istore 7, 2) := dk_54 7 (dk_at dksX1_gains_1 17 rfl rfl)
theorem dX1_gains_42 : decode cX1_gains 42 = .ok (.aload 5, 2) := dk_25 5 (dk_at dksX1_gains_1 19 rfl rfl)
theorem dX1_gains_44 : decode cX1_gains 44 = .ok (.getfield 110, 3) := dk_180 0 110 (dk_at dksX1_gains_1 21 rfl rfl)
theorem dX1_gains_47 : decode cX1_gains 47 = .ok (.iload_n 1, 1) := dk_27 (dk_at dksX1_gains_2 0 rfl rfl)
theorem dX1_gains_48 : decode cX1_gains 48 = .ok (.sipush 9999, 3) := dk_17 39 15 (dk_at dksX1_gains_2 1 rfl rfl)
theorem dX1_gains_51 : decode cX1_gains 51 = .ok (.aload_n 0, 1) := dk_42 (dk_at dksX1_gains_2 4 rfl rfl)
theorem dX1_gains_52 : decode cX1_gains 52 = .ok (.getfield 31, 3) := dk_180 0 31 (dk_at dksX1_gains_2 5 rfl rfl)
theorem dX1_gains_55 : decode cX1_gains 55 = .ok (.getfield 110, 3) := dk_180 0 110 (dk_at dksX1_gains_2 8 rfl rfl)
theorem dX1_gains_58 : decode cX1_gains 58 = .ok (.iload_n 1, 1) := dk_27 (dk_at dksX1_gains_2 11 rfl rfl)
theorem dX1_gains_59 : decode cX1_gains 59 = .ok (.iaload, 1) := dk_46 (dk_at dksX1_gains_2 12 rfl rfl)
theorem dX1_gains_60 : decode cX1_gains 60 = .ok (.iload 6, 2) := dk_21 6 (dk_at dksX1_gains_2 13 rfl rfl)
theorem dX1_gains_62 : decode cX1_gains 62 = .ok (.isub, 1) := dk_100 (dk_at dksX1_gains_2 15 rfl rfl)
theorem dX1_gains_63 : decode cX1_gains 63 = .ok (.iload 7, 2) := dk_21 7 (dk_at dksX1_gains_2 16 rfl rfl)
theorem dX1_gains_65 : decode cX1_gains 65 = .ok (.iadd, 1) := dk_96 (dk_at dksX1_gains_2 18 rfl rfl)
theorem dX1_gains_66 : decode cX1_gains 66 = .ok (.invokestatic 222, 3) := dk_184 0 222 (dk_at dksX1_gains_2 19 rfl rfl)
theorem dX1_gains_69 : decode cX1_gains 69 = .ok (.iastore, 1) := dk_79 (dk_at dksX1_gains_2 22 rfl rfl)
theorem dX1_gains_70 : decode cX1_gains 70 = .ok (.aload 5, 2) := dk_25 5 (dk_at dksX1_gains_3 0 rfl rfl)
theorem dX1_gains_72 : decode cX1_gains 72 = .ok (.getfield 110, 3) := dk_180 0 110 (dk_at dksX1_gains_3 2 rfl rfl)
theorem dX1_gains_75 : decode cX1_gains 75 = .ok (.iload_n 2, 1) := dk_28 (dk_at dksX1_gains_3 5 rfl rfl)
theorem dX1_gains_76 : decode cX1_gains 76 = .ok (.sipush 9999, 3) := dk_17 39 15 (dk_at dksX1_gains_3 6 rfl rfl)
theorem dX1_gains_79 : decode cX1_gains 79 = .ok (.aload_n 0, 1) := dk_42 (dk_at dksX1_gains_3 9 rfl rfl)
theorem dX1_gains_80 : decode cX1_gains 80 = .ok (.getfield 31, 3) := dk_180 0 31 (dk_at dksX1_gains_3 10 rfl rfl)
theorem dX1_gains_83 : decode cX1_gains 83 = .ok (.getfield 110, 3) := dk_180 0 110 (dk_at dksX1_gains_3 13 rfl rfl)
theorem dX1_gains_86 : decode cX1_gains 86 = .ok (.iload_n 2, 1) := dk_28 (dk_at dksX1_gains_3 16 rfl rfl)
theorem dX1_gains_87 : decode cX1_gains 87 = .ok (.iaload, 1) := dk_46 (dk_at dksX1_gains_3 17 rfl rfl)
theorem dX1_gains_88 : decode cX1_gains 88 = .ok (.iload 7, 2) := dk_21 7 (dk_at dksX1_gains_3 18 rfl rfl)
theorem dX1_gains_90 : decode cX1_gains 90 = .ok (.isub, 1) := dk_100 (dk_at dksX1_gains_3 20 rfl rfl)
theorem dX1_gains_91 : decode cX1_gains 91 = .ok (.iload 6, 2) := dk_21 6 (dk_at dksX1_gains_3 21 rfl rfl)
theorem dX1_gains_93 : decode cX1_gains 93 = .ok (.iadd, 1) := dk_96 (dk_at dksX1_gains_3 23 rfl rfl)
theorem dX1_gains_94 : decode cX1_gains 94 = .ok (.invokestatic 222, 3) := dk_184 0 222 (dk_at dksX1_gains_4 0 rfl rfl)
theorem dX1_gains_97 : decode cX1_gains 97 = .ok (.iastore, 1) := dk_79 (dk_at dksX1_gains_4 3 rfl rfl)
theorem dX1_gains_98 : decode cX1_gains 98 = .ok (.aload 5, 2) := dk_25 5 (dk_at dksX1_gains_4 4 rfl rfl)
theorem dX1_gains_100 : decode cX1_gains 100 = .ok (.bipush 10, 2) := dk_16 10 (dk_at dksX1_gains_4 6 rfl rfl)
theorem dX1_gains_102 : decode cX1_gains 102 = .ok (.invokevirtual 199, 3) := dk_182 0 199 (dk_at dksX1_gains_4 8 rfl rfl)
theorem dX1_gains_105 : decode cX1_gains 105 = .ok (.pop, 1) := dk_87 (dk_at dksX1_gains_4 11 rfl rfl)
theorem dX1_gains_106 : decode cX1_gains 106 = .ok (.iconst 2, 1) := dk_5 (dk_at dksX1_gains_4 12 rfl rfl)
theorem dX1_gains_107 : decode cX1_gains 107 = .ok (.newarray .int, 2) := dk_188_10 (dk_at dksX1_gains_4 13 rfl rfl)
theorem dX1_gains_109 : decode cX1_gains 109 = .ok (.dup, 1) := dk_89 (dk_at dksX1_gains_4 15 rfl rfl)
theorem dX1_gains_110 : decode cX1_gains 110 = .ok (.iconst 0, 1) := dk_3 (dk_at dksX1_gains_4 16 rfl rfl)
theorem dX1_gains_111 : decode cX1_gains 111 = .ok (.aload 5, 2) := dk_25 5 (dk_at dksX1_gains_4 17 rfl rfl)
theorem dX1_gains_113 : decode cX1_gains 113 = .ok (.getfield 120, 3) := dk_180 0 120 (dk_at dksX1_gains_4 19 rfl rfl)
theorem dX1_gains_116 : decode cX1_gains 116 = .ok (.iload_n 1, 1) := dk_27 (dk_at dksX1_gains_4 22 rfl rfl)
theorem dX1_gains_117 : decode cX1_gains 117 = .ok (.iaload, 1) := dk_46 (dk_at dksX1_gains_4 23 rfl rfl)
theorem dX1_gains_118 : decode cX1_gains 118 = .ok (.aload_n 0, 1) := dk_42 (dk_at dksX1_gains_5 0 rfl rfl)
theorem dX1_gains_119 : decode cX1_gains 119 = .ok (.getfield 31, 3) := dk_180 0 31 (dk_at dksX1_gains_5 1 rfl rfl)
theorem dX1_gains_122 : decode cX1_gains 122 = .ok (.getfield 120, 3) := dk_180 0 120 (dk_at dksX1_gains_5 4 rfl rfl)
theorem dX1_gains_125 : decode cX1_gains 125 = .ok (.iload_n 1, 1) := dk_27 (dk_at dksX1_gains_5 7 rfl rfl)
theorem dX1_gains_126 : decode cX1_gains 126 = .ok (.iaload, 1) := dk_46 (dk_at dksX1_gains_5 8 rfl rfl)
theorem dX1_gains_127 : decode cX1_gains 127 = .ok (.isub, 1) := dk_100 (dk_at dksX1_gains_5 9 rfl rfl)
theorem dX1_gains_128 : decode cX1_gains 128 = .ok (.iastore, 1) := dk_79 (dk_at dksX1_gains_5 10 rfl rfl)
theorem dX1_gains_129 : decode cX1_gains 129 = .ok (.dup, 1) := dk_89 (dk_at dksX1_gains_5 11 rfl rfl)
theorem dX1_gains_130 : decode cX1_gains 130 = .ok (.iconst 1, 1) := dk_4 (dk_at dksX1_gains_5 12 rfl rfl)
theorem dX1_gains_131 : decode cX1_gains 131 = .ok (.aload 5, 2) := dk_25 5 (dk_at dksX1_gains_5 13 rfl rfl)
theorem dX1_gains_133 : decode cX1_gains 133 = .ok (.getfield 120, 3) := dk_180 0 120 (dk_at dksX1_gains_5 15 rfl rfl)
theorem dX1_gains_136 : decode cX1_gains 136 = .ok (.iload_n 2, 1) := dk_28 (dk_at dksX1_gains_5 18 rfl rfl)
theorem dX1_gains_137 : decode cX1_gains 137 = .ok (.iaload, 1) := dk_46 (dk_at dksX1_gains_5 19 rfl rfl)
theorem dX1_gains_138 : decode cX1_gains 138 = .ok (.aload_n 0, 1) := dk_42 (dk_at dksX1_gains_5 20 rfl rfl)
theorem dX1_gains_139 : decode cX1_gains 139 = .ok (.getfield 31, 3) := dk_180 0 31 (dk_at dksX1_gains_5 21 rfl rfl)
theorem dX1_gains_142 : decode cX1_gains 142 = .ok (.getfield 120, 3) := dk_180 0 120 (dk_at dksX1_gains_6 0 rfl rfl)
theorem dX1_gains_145 : decode cX1_gains 145 = .ok (.iload_n 2, 1) := dk_28 (dk_at dksX1_gains_6 3 rfl rfl)
theorem dX1_gains_146 : decode cX1_gains 146 = .ok (.iaload, 1) := dk_46 (dk_at dksX1_gains_6 4 rfl rfl)
theorem dX1_gains_147 : decode cX1_gains 147 = .ok (.isub, 1) := dk_100 (dk_at dksX1_gains_6 5 rfl rfl)
theorem dX1_gains_148 : decode cX1_gains 148 = .ok (.iastore, 1) := dk_79 (dk_at dksX1_gains_6 6 rfl rfl)
theorem dX1_gains_149 : decode cX1_gains 149 = .ok (.areturn, 1) := dk_176 (dk_at dksX1_gains_6 7 rfl rfl)
abbrev cX1_years : ByteArray := prog_1_method_53_code
def yX1_years : MethodName := ⟨RX1, "years", "(III)I"⟩
def dkwX1_years_7 : List UInt8 := [132, 5, 1, 132, 6, 1, 167, 255, 226, 21, 5, 172]
abbrev dktX1_years_7 : List UInt8 := dkwX1_years_7 ++ []
def dkwX1_years_6 : List UInt8 := [21, 6, 42, 180, 0, 22, 180, 0, 104, 162, 0, 24, 25, 4, 180, 0, 131, 21, 6, 46, 2, 160, 0, 6]
abbrev dktX1_years_6 : List UInt8 := dkwX1_years_6 ++ dktX1_years_7
def dkwX1_years_5 : List UInt8 := [182, 0, 113, 167, 0, 13, 25, 4, 25, 4, 180, 0, 110, 182, 0, 113, 172, 3, 54, 5, 3, 54, 6]
abbrev dktX1_years_5 : List UInt8 := dkwX1_years_5 ++ dktX1_years_6
def dkwX1_years_4 : List UInt8 := [132, 5, 1, 167, 255, 191, 29, 5, 162, 0, 31, 29, 154, 0, 16, 25, 4, 25, 4, 180, 0, 120]
abbrev dktX1_years_4 : List UInt8 := dkwX1_years_4 ++ dktX1_years_5
def dkwX1_years_3 : List UInt8 := [21, 6, 182, 0, 205, 153, 0, 10, 25, 4, 21, 6, 182, 0, 231, 25, 4, 4, 182, 0, 238, 87]
abbrev dktX1_years_3 : List UInt8 := dkwX1_years_3 ++ dktX1_years_4
def dkwX1_years_2 : List UInt8 := [180, 0, 22, 180, 0, 104, 158, 0, 33, 42, 42, 180, 0, 22, 180, 0, 104, 182, 1, 62, 54, 6, 25, 4]
abbrev dktX1_years_2 : List UInt8 := dkwX1_years_2 ++ dktX1_years_3
def dkwX1_years_1 : List UInt8 := [182, 0, 182, 58, 4, 3, 54, 5, 21, 5, 28, 162, 0, 65, 42, 16, 9, 182, 1, 62, 154, 0, 43, 42]
abbrev dktX1_years_1 : List UInt8 := dkwX1_years_1 ++ dktX1_years_2
def dkwX1_years_0 : List UInt8 := [29, 5, 184, 0, 166, 28, 3, 16, 60, 184, 0, 134, 184, 0, 65, 42, 27, 181, 1, 58, 42, 180, 0, 31]
abbrev dktX1_years_0 : List UInt8 := dkwX1_years_0 ++ dktX1_years_1
theorem dksX1_years_0 : cX1_years.data.toList.drop 0 = dktX1_years_0 := by decide +kernel
theorem dksX1_years_1 : cX1_years.data.toList.drop 24 = dktX1_years_1 := dk_seg dksX1_years_0 24 rfl rfl
theorem dksX1_years_2 : cX1_years.data.toList.drop 48 = dktX1_years_2 := dk_seg dksX1_years_1 24 rfl rfl
theorem dksX1_years_3 : cX1_years.data.toList.drop 72 = dktX1_years_3 := dk_seg dksX1_years_2 24 rfl rfl
theorem dksX1_years_4 : cX1_years.data.toList.drop 94 = dktX1_years_4 := dk_seg dksX1_years_3 22 rfl rfl
theorem dksX1_years_5 : cX1_years.data.toList.drop 116 = dktX1_years_5 := dk_seg dksX1_years_4 22 rfl rfl
theorem dksX1_years_6 : cX1_years.data.toList.drop 139 = dktX1_years_6 := dk_seg dksX1_years_5 23 rfl rfl
theorem dksX1_years_7 : cX1_years.data.toList.drop 163 = dktX1_years_7 := dk_seg dksX1_years_6 24 rfl rfl
theorem dX1_years_0 : decode cX1_years 0 = .ok (.iload_n 3, 1) := dk_29 (dk_at dksX1_years_0 0 rfl rfl)
theorem dX1_years_1 : decode cX1_years 1 = .ok (.iconst 2, 1) := dk_5 (dk_at dksX1_years_0 1 rfl rfl)
theorem dX1_years_2 : decode cX1_years 2 = .ok (.invokestatic 166, 3) := dk_184 0 166 (dk_at dksX1_years_0 2 rfl rfl)
theorem dX1_years_5 : decode cX1_years 5 = .ok (.iload_n 2, 1) := dk_28 (dk_at dksX1_years_0 5 rfl rfl)
theorem dX1_years_6 : decode cX1_years 6 = .ok (.iconst 0, 1) := dk_3 (dk_at dksX1_years_0 6 rfl rfl)
theorem dX1_years_7 : decode cX1_years 7 = .ok (.bipush 60, 2) := dk_16 60 (dk_at dksX1_years_0 7 rfl rfl)
theorem dX1_years_9 : decode cX1_years 9 = .ok (.invokestatic 134, 3) := dk_184 0 134 (dk_at dksX1_years_0 9 rfl rfl)
theorem dX1_years_12 : decode cX1_years 12 = .ok (.invokestatic 65, 3) := dk_184 0 65 (dk_at dksX1_years_0 12 rfl rfl)
theorem dX1_years_15 : decode cX1_years 15 = .ok (.aload_n 0, 1) := dk_42 (dk_at dksX1_years_0 15 rfl rfl)
theorem dX1_years_16 : decode cX1_years 16 = .ok (.iload_n 1, 1) := dk_27 (dk_at dksX1_years_0 16 rfl rfl)
theorem dX1_years_17 : decode cX1_years 17 = .ok (.putfield 314, 3) := dk_181 1 58 (dk_at dksX1_years_0 17 rfl rfl)
theorem dX1_years_20 : decode cX1_years 20 = .ok (.aload_n 0, 1) := dk_42 (dk_at dksX1_years_0 20 rfl rfl)
theorem dX1_years_21 : decode cX1_years 21 = .ok (.getfield 31, 3) := dk_180 0 31 (dk_at dksX1_years_0 21 rfl rfl)
theorem dX1_years_24 : decode cX1_years 24 = .ok (.invokevirtual 182, 3) := dk_182 0 182 (dk_at dksX1_years_1 0 rfl rfl)
theorem dX1_years_27 : decode cX1_years 27 = .ok (.astore 4, 2) := dk_58 4 (dk_at dksX1_years_1 3 rfl rfl)
theorem dX1_years_29 : decode cX1_years 29 = .ok (.iconst 0, 1) := dk_3 (dk_at dksX1_years_1 5 rfl rfl)
theorem dX1_years_30 : decode cX1_years 30 = .ok (.istore 5, 2) := dk_54 5 (dk_at dksX1_years_1 6 rfl rfl)
theorem dX1_years_32 : decode cX1_years 32 = .ok (.iload 5, 2) := dk_21 5 (dk_at dksX1_years_1 8 rfl rfl)
theorem dX1_years_34 : decode cX1_years 34 = .ok (.iload_n 2, 1) := dk_28 (dk_at dksX1_years_1 10 rfl rfl)
theorem dX1_years_35 : decode cX1_years 35 = .ok (.if_icmp .ge 65, 3) := dk_162 0 65 (dk_at dksX1_years_1 11 rfl rfl)
theorem dX1_years_38 : decode cX1_years 38 = .ok (.aload_n 0, 1) := dk_42 (dk_at dksX1_years_1 14 rfl rfl)
theorem dX1_years_39 : decode cX1_years 39 = .ok (.bipush 9, 2) := dk_16 9 (dk_at dksX1_years_1 15 rfl rfl)
theorem dX1_years_41 : decode cX1_years 41 = .ok (.invokevirtual 318, 3) := dk_182 1 62 (dk_at dksX1_years_1 17 rfl rfl)
theorem dX1_years_44 : decode cX1_years 44 = .ok (.ifCond .ne 43, 3) := dk_154 0 43 (dk_at dksX1_years_1 20 rfl rfl)
theorem dX1_years_47 : decode cX1_years 47 = .ok (.aload_n 0, 1) := dk_42 (dk_at dksX1_years_1 23 rfl rfl)
theorem dX1_years_48 : decode cX1_years 48 = .ok (.getfield 22, 3) := dk_180 0 22 (dk_at dksX1_years_2 0 rfl rfl)
theorem dX1_years_51 : decode cX1_years 51 = .ok (.getfield 104, 3) := dk_180 0 104 (dk_at dksX1_years_2 3 rfl rfl)
theorem dX1_years_54 : decode cX1_years 54 = .ok (.ifCond .le 33, 3) := dk_158 0 33 (dk_at dksX1_years_2 6 rfl rfl)
theorem dX1_years_57 : decode cX1_years 57 = .ok (.aload_n 0, 1) := dk_42 (dk_at dksX1_years_2 9 rfl rfl)
theorem dX1_years_58 : decode cX1_years 58 = .ok (.aload_n 0, 1) := dk_42 (dk_at dksX1_years_2 10 rfl rfl)
theorem dX1_years_59 : decode cX1_years 59 = .ok (.getfield 22, 3) := dk_180 0 22 (dk_at dksX1_years_2 11 rfl rfl)
theorem dX1_years_62 : decode cX1_years 62 = .ok (.getfield 104, 3) := dk_180 0 104 (dk_at dksX1_years_2 14 rfl rfl)
theorem dX1_years_65 : decode cX1_years 65 = .ok (.invokevirtual 318, 3) := dk_182 1 62 (dk_at dksX1_years_2 17 rfl rfl)
theorem dX1_years_68 : decode cX1_years 68 = .ok (.istore 6, 2) := dk_54 6 (dk_at dksX1_years_2 20 rfl rfl)
theorem dX1_years_70 : decode cX1_years 70 = .ok (.aload 4, 2) := dk_25 4 (dk_at dksX1_years_2 22 rfl rfl)
theorem dX1_years_72 : decode cX1_years 72 = .ok (.iload 6, 2) := dk_21 6 (dk_at dksX1_years_3 0 rfl rfl)
theorem dX1_years_74 : decode cX1_years 74 = .ok (.invokevirtual 205, 3) := dk_182 0 205 (dk_at dksX1_years_3 2 rfl rfl)
theorem dX1_years_77 : decode cX1_years 77 = .ok (.ifCond .eq 10, 3) := dk_153 0 10 (dk_at dksX1_years_3 5 rfl rfl)
theorem dX1_years_80 : decode cX1_years 80 = .ok (.aload 4, 2) := dk_25 4 (dk_at dksX1_years_3 8 rfl rfl)
theorem dX1_years_82 : decode cX1_years 82 = .ok (.iload 6, 2) := dk_21 6 (dk_at dksX1_years_3 10 rfl rfl)
theorem dX1_years_84 : decode cX1_years 84 = .ok (.invokevirtual 231, 3) := dk_182 0 231 (dk_at dksX1_years_3 12 rfl rfl)
theorem dX1_years_87 : decode cX1_years 87 = .ok (.aload 4, 2) := dk_25 4 (dk_at dksX1_years_3 15 rfl rfl)
theorem dX1_years_89 : decode cX1_years 89 = .ok (.iconst 1, 1) := dk_4 (dk_at dksX1_years_3 17 rfl rfl)
theorem dX1_years_90 : decode cX1_years 90 = .ok (.invokevirtual 238, 3) := dk_182 0 238 (dk_at dksX1_years_3 18 rfl rfl)
theorem dX1_years_93 : decode cX1_years 93 = .ok (.pop, 1) := dk_87 (dk_at dksX1_years_3 21 rfl rfl)
theorem dX1_years_94 : decode cX1_years 94 = .ok (.iinc 5 1, 3) := dk_132 5 1 (dk_at dksX1_years_4 0 rfl rfl)
theorem dX1_years_97 : decode cX1_years 97 = .ok (.goto (-65), 3) := dk_167 255 191 (dk_at dksX1_years_4 3 rfl rfl)
theorem dX1_years_100 : decode cX1_years 100 = .ok (.iload_n 3, 1) := dk_29 (dk_at dksX1_years_4 6 rfl rfl)
theorem dX1_years_101 : decode cX1_years 101 = .ok (.iconst 2, 1) := dk_5 (dk_at dksX1_years_4 7 rfl rfl)
theorem dX1_years_102 : decode cX1_years 102 = .ok (.if_icmp .ge 31, 3) := dk_162 0 31 (dk_at dksX1_years_4 8 rfl rfl)
theorem dX1_years_105 : decode cX1_years 105 = .ok (.iload_n 3, 1) := dk_29 (dk_at dksX1_years_4 11 rfl rfl)
theorem dX1_years_106 : decode cX1_years 106 = .ok (.ifCond .ne 16, 3) := dk_154 0 16 (dk_at dksX1_years_4 12 rfl rfl)
theorem dX1_years_109 : decode cX1_years 109 = .ok (.aload 4, 2) := dk_25 4 (dk_at dksX1_years_4 15 rfl rfl)
theorem dX1_years_111 : decode cX1_years 111 = .ok (.aload 4, 2) := dk_25 4 (dk_at dksX1_years_4 17 rfl rfl)
theorem dX1_years_113 : decode cX1_years 113 = .ok (.getfield 120, 3) := dk_180 0 120 (dk_at dksX1_years_4 19 rfl rfl)
theorem dX1_years_116 : decode cX1_years 116 = .ok (.invokevirtual 113, 3) := dk_182 0 113 (dk_at dksX1_years_5 0 rfl rfl)
theorem dX1_years_119 : decode cX1_years 119 = .ok (.goto 13, 3) := dk_167 0 13 (dk_at dksX1_years_5 3 rfl rfl)
theorem dX1_years_122 : decode cX1_years 122 = .ok (.aload 4, 2) := dk_25 4 (dk_at dksX1_years_5 6 rfl rfl)
theorem dX1_years_124 : decode cX1_years 124 = .ok (.aload 4, 2) := dk_25 4 (dk_at dksX1_years_5 8 rfl rfl)
theorem dX1_years_126 : decode cX1_years 126 = .ok (.getfield 110, 3) := dk_180 0 110 (dk_at dksX1_years_5 10 rfl rfl)
theorem dX1_years_129 : decode cX1_years 129 = .ok (.invokevirtual 113, 3) := dk_182 0 113 (dk_at dksX1_years_5 13 rfl rfl)
theorem dX1_years_132 : decode cX1_years 132 = .ok (.ireturn, 1) := dk_172 (dk_at dksX1_years_5 16 rfl rfl)
theorem dX1_years_133 : decode cX1_years 133 = .ok (.iconst 0, 1) := dk_3 (dk_at dksX1_years_5 17 rfl rfl)
theorem dX1_years_134 : decode cX1_years 134 = .ok (.istore 5, 2) := dk_54 5 (dk_at dksX1_years_5 18 rfl rfl)
theorem dX1_years_136 : decode cX1_years 136 = .ok (.iconst 0, 1) := dk_3 (dk_at dksX1_years_5 20 rfl rfl)
theorem dX1_years_137 : decode cX1_years 137 = .ok (.istore 6, 2) := dk_54 6 (dk_at dksX1_years_5 21 rfl rfl)
theorem dX1_years_139 : decode cX1_years 139 = .ok (.iload 6, 2) := dk_21 6 (dk_at dksX1_years_6 0 rfl rfl)
theorem dX1_years_141 : decode cX1_years 141 = .ok (.aload_n 0, 1) := dk_42 (dk_at dksX1_years_6 2 rfl rfl)
theorem dX1_years_142 : decode cX1_years 142 = .ok (.getfield 22, 3) := dk_180 0 22 (dk_at dksX1_years_6 3 rfl rfl)
theorem dX1_years_145 : decode cX1_years 145 = .ok (.getfield 104, 3) := dk_180 0 104 (dk_at dksX1_years_6 6 rfl rfl)
theorem dX1_years_148 : decode cX1_years 148 = .ok (.if_icmp .ge 24, 3) := dk_162 0 24 (dk_at dksX1_years_6 9 rfl rfl)
theorem dX1_years_151 : decode cX1_years 151 = .ok (.aload 4, 2) := dk_25 4 (dk_at dksX1_years_6 12 rfl rfl)
theorem dX1_years_153 : decode cX1_years 153 = .ok (.getfield 131, 3) := dk_180 0 131 (dk_at dksX1_years_6 14 rfl rfl)
theorem dX1_years_156 : decode cX1_years 156 = .ok (.iload 6, 2) := dk_21 6 (dk_at dksX1_years_6 17 rfl rfl)
theorem dX1_years_158 : decode cX1_years 158 = .ok (.iaload, 1) := dk_46 (dk_at dksX1_years_6 19 rfl rfl)
theorem dX1_years_159 : decode cX1_years 159 = .ok (.iconst (-1), 1) := dk_2 (dk_at dksX1_years_6 20 rfl rfl)
theorem dX1_years_160 : decode cX1_years 160 = .ok (.if_icmp .ne 6, 3) := dk_160 0 6 (dk_at dksX1_years_6 21 rfl rfl)
theorem dX1_years_163 : decode cX1_years 163 = .ok (.iinc 5 1, 3) := dk_132 5 1 (dk_at dksX1_years_7 0 rfl rfl)
theorem dX1_years_166 : decode cX1_years 166 = .ok (.iinc 6 1, 3) := dk_132 6 1 (dk_at dksX1_years_7 3 rfl rfl)
theorem dX1_years_169 : decode cX1_years 169 = .ok (.goto (-30), 3) := dk_167 255 226 (dk_at dksX1_years_7 6 rfl rfl)
theorem dX1_years_172 : decode cX1_years 172 = .ok (.iload 5, 2) := dk_21 5 (dk_at dksX1_years_7 9 rfl rfl)
theorem dX1_years_174 : decode cX1_years 174 = .ok (.ireturn, 1) := dk_172 (dk_at dksX1_years_7 11 rfl rfl)
abbrev cX1_thief : ByteArray := prog_1_method_56_code
def yX1_thief : MethodName := ⟨RX1, "thief", "(II)I"⟩
def dkwX1_thief_5 : List UInt8 := [21, 4, 172]
abbrev dktX1_thief_5 : List UInt8 := dkwX1_thief_5 ++ []
def dkwX1_thief_4 : List UInt8 := [163, 0, 13, 21, 5, 21, 4, 184, 1, 70, 153, 0, 7, 21, 5, 54, 4, 132, 5, 1, 167, 255, 173]
abbrev dktX1_thief_4 : List UInt8 := dkwX1_thief_4 ++ dktX1_thief_5
def dkwX1_thief_3 : List UInt8 := [42, 21, 4, 3, 182, 1, 65, 162, 0, 6, 167, 0, 29, 21, 6, 42, 21, 4, 3, 182, 1, 65]
abbrev dktX1_thief_3 : List UInt8 := dkwX1_thief_3 ++ dktX1_thief_4
def dkwX1_thief_2 : List UInt8 := [29, 2, 130, 126, 154, 0, 59, 42, 21, 5, 182, 1, 67, 154, 0, 50, 21, 6, 28, 163, 0, 44, 21, 6]
abbrev dktX1_thief_2 : List UInt8 := dkwX1_thief_2 ++ dktX1_thief_3
def dkwX1_thief_1 : List UInt8 := [62, 3, 54, 4, 4, 54, 5, 21, 5, 29, 163, 0, 83, 42, 21, 5, 3, 182, 1, 65, 54, 6, 21, 5]
abbrev dktX1_thief_1 : List UInt8 := dkwX1_thief_1 ++ dktX1_thief_2
def dkwX1_thief_0 : List UInt8 := [42, 27, 182, 0, 141, 28, 3, 17, 3, 231, 184, 0, 134, 184, 0, 65, 42, 180, 0, 31, 27, 182, 0, 123]
abbrev dktX1_thief_0 : List UInt8 := dkwX1_thief_0 ++ dktX1_thief_1
theorem dksX1_thief_0 : cX1_thief.data.toList.drop 0 = dktX1_thief_0 := by decide +kernel
theorem dksX1_thief_1 : cX1_thief.data.toList.drop 24 = dktX1_thief_1 := dk_seg dksX1_thief_0 24 rfl rfl
theorem dksX1_thief_2 : cX1_thief.data.toList.drop 48 = dktX1_thief_2 := dk_seg dksX1_thief_1 24 rfl rfl
theorem dksX1_thief_3 : cX1_thief.data.toList.drop 72 = dktX1_thief_3 := dk_seg dksX1_thief_2 24 rfl rfl
theorem dksX1_thief_4 : cX1_thief.data.toList.drop 94 = dktX1_thief_4 := dk_seg dksX1_thief_3 22 rfl rfl
theorem dksX1_thief_5 : cX1_thief.data.toList.drop 117 = dktX1_thief_5 := dk_seg dksX1_thief_4 23 rfl rfl
theorem dX1_thief_0 : decode cX1_thief 0 = .ok (.aload_n 0, 1) := dk_42 (dk_at dksX1_thief_0 0 rfl rfl)
theorem dX1_thief_1 : decode cX1_thief 1 = .ok (.iload_n 1, 1) := dk_27 (dk_at dksX1_thief_0 1 rfl rfl)
theorem dX1_thief_2 : decode cX1_thief 2 = .ok (.invokevirtual 141, 3) := dk_182 0 141 (dk_at dksX1_thief_0 2 rfl rfl)
theorem dX1_thief_5 : decode cX1_thief 5 = .ok (.iload_n 2, 1) := dk_28 (dk_at dksX1_thief_0 5 rfl rfl)
theorem dX1_thief_6 : decode cX1_thief 6 = .ok (.iconst 0, 1) := dk_3 (dk_at dksX1_thief_0 6 rfl rfl)
theorem dX1_thief_7 : decode cX1_thief 7 = .ok (.sipush 999, 3) := dk_17 3 231 (dk_at dksX1_thief_0 7 rfl rfl)
theorem dX1_thief_10 : decode cX1_thief 10 = .ok (.invokestatic 134, 3) := dk_184 0 134 (dk_at dksX1_thief_0 10 rfl rfl)
theorem dX1_thief_13 : decode cX1_thief 13 = .ok (.invokestatic 65, 3) := dk_184 0 65 (dk_at dksX1_thief_0 13 rfl rfl)
theorem dX1_thief_16 : decode cX1_thief 16 = .ok (.aload_n 0, 1) := dk_42 (dk_at dksX1_thief_0 16 rfl rfl)
theorem dX1_thief_17 : decode cX1_thief 17 = .ok (.getfield 31, 3) := dk_180 0 31 (dk_at dksX1_thief_0 17 rfl rfl)
theorem dX1_thief_20 : decode cX1_thief 20 = .ok (.iload_n 1, 1) := dk_27 (dk_at dksX1_thief_0 20 rfl rfl)
theorem dX1_thief_21 : decode cX1_thief 21 = .ok (.invokevirtual 123, 3) := dk_182 0 123 (dk_at dksX1_thief_0 21 rfl rfl)
theorem dX1_thief_24 : decode cX1_thief 24 = .ok (.istore_n 3, 1) := dk_62 (dk_at dksX1_thief_1 0 rfl rfl)
theorem dX1_thief_25 : decode cX1_thief 25 = .ok (.iconst 0, 1) := dk_3 (dk_at dksX1_thief_1 1 rfl rfl)
theorem dX1_thief_26 : decode cX1_thief 26 = .ok (.istore 4, 2) := dk_54 4 (dk_at dksX1_thief_1 2 rfl rfl)
theorem dX1_thief_28 : decode cX1_thief 28 = .ok (.iconst 1, 1) := dk_4 (dk_at dksX1_thief_1 4 rfl rfl)
theorem dX1_thief_29 : decode cX1_thief 29 = .ok (.istore 5, 2) := dk_54 5 (dk_at dksX1_thief_1 5 rfl rfl)
theorem dX1_thief_31 : decode cX1_thief 31 = .ok (.iload 5, 2) := dk_21 5 (dk_at dksX1_thief_1 7 rfl rfl)
theorem dX1_thief_33 : decode cX1_thief 33 = .ok (.iload_n 3, 1) := dk_29 (dk_at dksX1_thief_1 9 rfl rfl)
theorem dX1_thief_34 : decode cX1_thief 34 = .ok (.if_icmp .gt 83, 3) := dk_163 0 83 (dk_at dksX1_thief_1 10 rfl rfl)
theorem dX1_thief_37 : decode cX1_thief 37 = .ok (.aload_n 0, 1) := dk_42 (dk_at dksX1_thief_1 13 rfl rfl)
theorem dX1_thief_38 : decode cX1_thief 38 = .ok (.iload 5, 2) := dk_21 5 (dk_at dksX1_thief_1 14 rfl rfl)
theorem dX1_thief_40 : decode cX1_thief 40 = .ok (.iconst 0, 1) := dk_3 (dk_at dksX1_thief_1 16 rfl rfl)
theorem dX1_thief_41 : decode cX1_thief 41 = .ok (.invokevirtual 321, 3) := dk_182 1 65 (dk_at dksX1_thief_1 17 rfl rfl)
theorem dX1_thief_44 : decode cX1_thief 44 = .ok (.istore 6, 2) := dk_54 6 (dk_at dksX1_thief_1 20 rfl rfl)
theorem dX1_thief_46 : decode cX1_thief 46 = .ok (.iload 5, 2) := dk_21 5 (dk_at dksX1_thief_1 22 rfl rfl)
theorem dX1_thief_48 : decode cX1_thief 48 = .ok (.iload_n 3, 1) := dk_29 (dk_at dksX1_thief_2 0 rfl rfl)
theorem dX1_thief_49 : decode cX1_thief 49 = .ok (.iconst (-1), 1) := dk_2 (dk_at dksX1_thief_2 1 rfl rfl)
theorem dX1_thief_50 : decode cX1_thief 50 = .ok (.ixor, 1) := dk_130 (dk_at dksX1_thief_2 2 rfl rfl)
theorem dX1_thief_51 : decode cX1_thief 51 = .ok (.iand, 1) := dk_126 (dk_at dksX1_thief_2 3 rfl rfl)
theorem dX1_thief_52 : decode cX1_thief 52 = .ok (.ifCond .ne 59, 3) := dk_154 0 59 (dk_at dksX1_thief_2 4 rfl rfl)
theorem dX1_thief_55 : decode cX1_thief 55 = .ok (.aload_n 0, 1) := dk_42 (dk_at dksX1_thief_2 7 rfl rfl)
theorem dX1_thief_56 : decode cX1_thief 56 = .ok (.iload 5, 2) := dk_21 5 (dk_at dksX1_thief_2 8 rfl rfl)
theorem dX1_thief_58 : decode cX1_thief 58 = .ok (.invokevirtual 323, 3) := dk_182 1 67 (dk_at dksX1_thief_2 10 rfl rfl)
theorem dX1_thief_61 : decode cX1_thief 61 = .ok (.ifCond .ne 50, 3) := dk_154 0 50 (dk_at dksX1_thief_2 13 rfl rfl)
theorem dX1_thief_64 : decode cX1_thief 64 = .ok (.iload 6, 2) := dk_21 6 (dk_at dksX1_thief_2 16 rfl rfl)
theorem dX1_thief_66 : decode cX1_thief 66 = .ok (.iload_n 2, 1) := dk_28 (dk_at dksX1_thief_2 18 rfl rfl)
theorem dX1_thief_67 : decode cX1_thief 67 = .ok (.if_icmp .gt 44, 3) := dk_163 0 44 (dk_at dksX1_thief_2 19 rfl rfl)
theorem dX1_thief_70 : decode cX1_thief 70 = .ok (.iload 6, 2) := dk_21 6 (dk_at dksX1_thief_2 22 rfl rfl)
theorem dX1_thief_72 : decode cX1_thief 72 = .ok (.aload_n 0, 1) := dk_42 (dk_at dksX1_thief_3 0 rfl rfl)
theorem dX1_thief_73 : decode cX1_thief 73 = .ok (.iload 4, 2) := dk_21 4 (dk_at dksX1_thief_3 1 rfl rfl)
theorem dX1_thief_75 : decode cX1_thief 75 = .ok (.iconst 0, 1) := dk_3 (dk_at dksX1_thief_3 3 rfl rfl)
theorem dX1_thief_76 : decode cX1_thief 76 = .ok (.invokevirtual 321, 3) := dk_182 1 65 (dk_at dksX1_thief_3 4 rfl rfl)
theorem dX1_thief_79 : decode cX1_thief 79 = .ok (.if_icmp .ge 6, 3) := dk_162 0 6 (dk_at dksX1_thief_3 7 rfl rfl)
theorem dX1_thief_82 : decode cX1_thief 82 = .ok (.goto 29, 3) := dk_167 0 29 (dk_at dksX1_thief_3 10 rfl rfl)
theorem dX1_thief_85 : decode cX1_thief 85 = .ok (.iload 6, 2) := dk_21 6 (dk_at dksX1_thief_3 13 rfl rfl)
theorem dX1_thief_87 : decode cX1_thief 87 = .ok (.aload_n 0, 1) := dk_42 (dk_at dksX1_thief_3 15 rfl rfl)
theorem dX1_thief_88 : decode cX1_thief 88 = .ok (.iload 4, 2) := dk_21 4 (dk_at dksX1_thief_3 16 rfl rfl)
theorem dX1_thief_90 : decode cX1_thief 90 = .ok (.iconst 0, 1) := dk_3 (dk_at dksX1_thief_3 18 rfl rfl)
theorem dX1_thief_91 : decode cX1_thief 91 = .ok (.invokevirtual 321, 3) := dk_182 1 65 (dk_at dksX1_thief_3 19 rfl rfl)
theorem dX1_thief_94 : decode cX1_thief 94 = .ok (.if_icmp .gt 13, 3) := dk_163 0 13 (dk_at dksX1_thief_4 0 rfl rfl)
theorem dX1_thief_97 : decode cX1_thief 97 = .ok (.iload 5, 2) := dk_21 5 (dk_at dksX1_thief_4 3 rfl rfl)
theorem dX1_thief_99 : decode cX1_thief 99 = .ok (.iload 4, 2) := dk_21 4 (dk_at dksX1_thief_4 5 rfl rfl)
theorem dX1_thief_101 : decode cX1_thief 101 = .ok (.invokestatic 326, 3) := dk_184 1 70 (dk_at dksX1_thief_4 7 rfl rfl)
theorem dX1_thief_104 : decode cX1_thief 104 = .ok (.ifCond .eq 7, 3) := dk_153 0 7 (dk_at dksX1_thief_4 10 rfl rfl)
theorem dX1_thief_107 : decode cX1_thief 107 = .ok (.iload 5, 2) := dk_21 5 (dk_at dksX1_thief_4 13 rfl rfl)
theorem dX1_thief_109 : decode cX1_thief 109 = .ok (.istore 4, 2) := dk_54 4 (dk_at dksX1_thief_4 15 rfl rfl)
theorem dX1_thief_111 : decode cX1_thief 111 = .ok (.iinc 5 1, 3) := dk_132 5 1 (dk_at dksX1_thief_4 17 rfl rfl)
theorem dX1_thief_114 : decode cX1_thief 114 = .ok (.goto (-83), 3) := dk_167 255 173 (dk_at dksX1_thief_4 20 rfl rfl)
theorem dX1_thief_117 : decode cX1_thief 117 = .ok (.iload 4, 2) := dk_21 4 (dk_at dksX1_thief_5 0 rfl rfl)
theorem dX1_thief_119 : decode cX1_thief 119 = .ok (.ireturn, 1) := dk_172 (dk_at dksX1_thief_5 2 rfl rfl)
abbrev cX1_grains : ByteArray := prog_1_method_54_code
def yX1_grains : MethodName := ⟨RX1, "grains", "(II)I"⟩
def dkwX1_grains_2 : List UInt8 := [180, 0, 170, 21, 4, 46, 96, 62, 132, 4, 1, 167, 255, 205, 29, 172]
abbrev dktX1_grains_2 : List UInt8 := dkwX1_grains_2 ++ []
def dkwX1_grains_1 : List UInt8 := [153, 0, 30, 42, 180, 0, 31, 180, 0, 173, 21, 4, 46, 28, 160, 0, 16, 29, 42, 180, 0, 31]
abbrev dktX1_grains_1 : List UInt8 := dkwX1_grains_1 ++ dktX1_grains_2
def dkwX1_grains_0 : List UInt8 := [3, 62, 3, 54, 4, 21, 4, 42, 180, 0, 22, 180, 0, 104, 162, 0, 45, 27, 21, 4, 184, 0, 245]
abbrev dktX1_grains_0 : List UInt8 := dkwX1_grains_0 ++ dktX1_grains_1
theorem dksX1_grains_0 : cX1_grains.data.toList.drop 0 = dktX1_grains_0 := by decide +kernel
theorem dksX1_grains_1 : cX1_grains.data.toList.drop 23 = dktX1_grains_1 := dk_seg dksX1_grains_0 23 rfl rfl
theorem dksX1_grains_2 : cX1_grains.data.toList.drop 45 = dktX1_grains_2 := dk_seg dksX1_grains_1 22 rfl rfl
theorem dX1_grains_0 : decode cX1_grains 0 = .ok (.iconst 0, 1) := dk_3 (dk_at dksX1_grains_0 0 rfl rfl)
theorem dX1_grains_1 : decode cX1_grains 1 = .ok (.istore_n 3, 1) := dk_62 (dk_at dksX1_grains_0 1 rfl rfl)
theorem dX1_grains_2 : decode cX1_grains 2 = .ok (.iconst 0, 1) := dk_3 (dk_at dksX1_grains_0 2 rfl rfl)
theorem dX1_grains_3 : decode cX1_grains 3 = .ok (.istore 4, 2) := dk_54 4 (dk_at dksX1_grains_0 3 rfl rfl)
theorem dX1_grains_5 : decode cX1_grains 5 = .ok (.iload 4, 2) := dk_21 4 (dk_at dksX1_grains_0 5 rfl rfl)
theorem dX1_grains_7 : decode cX1_grains 7 = .ok (.aload_n 0, 1) := dk_42 (dk_at dksX1_grains_0 7 rfl rfl)
theorem dX1_grains_8 : decode cX1_grains 8 = .ok (.getfield 22, 3) := dk_180 0 22 (dk_at dksX1_grains_0 8 rfl rfl)
theorem dX1_grains_11 : decode cX1_grains 11 = .ok (.getfield 104, 3) := dk_180 0 104 (dk_at dksX1_grains_0 11 rfl rfl)
theorem dX1_grains_14 : decode cX1_grains 14 = .ok (.if_icmp .ge 45, 3) := dk_162 0 45 (dk_at dksX1_grains_0 14 rfl rfl)
theorem dX1_grains_17 : decode cX1_grains 17 = .ok (.iload_n 1, 1) := dk_27 (dk_at dksX1_grains_0 17 rfl rfl)
theorem dX1_grains_18 : decode cX1_grains 18 = .ok (.iload 4, 2) := dk_21 4 (dk_at dksX1_grains_0 18 rfl rfl)
theorem dX1_grains_20 : decode cX1_grains 20 = .ok (.invokestatic 245, 3) := dk_184 0 245 (dk_at dksX1_grains_0 20 rfl rfl)
theorem dX1_grains_23 : decode cX1_grains 23 = .ok (.ifCond .eq 30, 3) := dk_153 0 30 (dk_at dksX1_grains_1 0 rfl rfl)
theorem dX1_grains_26 : decode cX1_grains 26 = .ok (.aload_n 0, 1) := dk_42 (dk_at dksX1_grains_1 3 rfl rfl)
theorem dX1_grains_27 : decode cX1_grains 27 = .ok (.getfield 31, 3) := dk_180 0 31 (dk_at dksX1_grains_1 4 rfl rfl)
theorem dX1_grains_30 : decode cX1_grains 30 = .ok (.getfield 173, 3) := dk_180 0 173 (dk_at dksX1_grains_1 7 rfl rfl)
theorem dX1_grains_33 : decode cX1_grains 33 = .ok (.iload 4, 2) := dk_21 4 (dk_at dksX1_grains_1 10 rfl rfl)
theorem dX1_grains_35 : decode cX1_grains 35 = .ok (.iaload, 1) := dk_46 (dk_at dksX1_grains_1 12 rfl rfl)
theorem dX1_grains_36 : decode cX1_grains 36 = .ok (.iload_n 2, 1) := dk_28 (dk_at dksX1_grains_1 13 rfl rfl)
theorem dX1_grains_37 : decode cX1_grains 37 = .ok (.if_icmp .ne 16, 3) := dk_160 0 16 (dk_at dksX1_grains_1 14 rfl rfl)
theorem dX1_grains_40 : decode cX1_grains 40 = .ok (.iload_n 3, 1) := dk_29 (dk_at dksX1_grains_1 17 rfl rfl)
theorem dX1_grains_41 : decode cX1_grains 41 = .ok (.aload_n 0, 1) := dk_42 (dk_at dksX1_grains_1 18 rfl rfl)
theorem dX1_grains_42 : decode cX1_grains 42 = .ok (.getfield 31, 3) := dk_180 0 31 (dk_at dksX1_grains_1 19 rfl rfl)
theorem dX1_grains_45 : decode cX1_grains 45 = .ok (.getfield 170, 3) := dk_180 0 170 (dk_at dksX1_grains_2 0 rfl rfl)
theorem dX1_grains_48 : decode cX1_grains 48 = .ok (.iload 4, 2) := dk_21 4 (dk_at dksX1_grains_2 3 rfl rfl)
theorem dX1_grains_50 : decode cX1_grains 50 = .ok (.iaload, 1) := dk_46 (dk_at dksX1_grains_2 5 rfl rfl)
theorem dX1_grains_51 : decode cX1_grains 51 = .ok (.iadd, 1) := dk_96 (dk_at dksX1_grains_2 6 rfl rfl)
theorem dX1_grains_52 : decode cX1_grains 52 = .ok (.istore_n 3, 1) := dk_62 (dk_at dksX1_grains_2 7 rfl rfl)
theorem dX1_grains_53 : decode cX1_grains 53 = .ok (.iinc 4 1, 3) := dk_132 4 1 (dk_at dksX1_grains_2 8 rfl rfl)
theorem dX1_grains_56 : decode cX1_grains 56 = .ok (.goto (-51), 3) := dk_167 255 205 (dk_at dksX1_grains_2 11 rfl rfl)
theorem dX1_grains_59 : decode cX1_grains 59 = .ok (.iload_n 3, 1) := dk_29 (dk_at dksX1_grains_2 14 rfl rfl)
theorem dX1_grains_60 : decode cX1_grains 60 = .ok (.ireturn, 1) := dk_172 (dk_at dksX1_grains_2 15 rfl rfl)
abbrev cX1_hasBallast : ByteArray := prog_1_method_57_code
def yX1_hasBallast : MethodName := ⟨RX1, "hasBallast", "(I)Z"⟩
def dkwX1_hasBallast_1 : List UInt8 := [180, 0, 31, 180, 0, 173, 28, 46, 4, 160, 0, 5, 4, 172, 132, 2, 1, 167, 255, 219, 3, 172]
abbrev dktX1_hasBallast_1 : List UInt8 := dkwX1_hasBallast_1 ++ []
def dkwX1_hasBallast_0 : List UInt8 := [3, 61, 28, 42, 180, 0, 22, 180, 0, 104, 162, 0, 32, 27, 28, 184, 0, 245, 153, 0, 18, 42]
abbrev dktX1_hasBallast_0 : List UInt8 := dkwX1_hasBallast_0 ++ dktX1_hasBallast_1
theorem dksX1_hasBallast_0 : cX1_hasBallast.data.toList.drop 0 = dktX1_hasBallast_0 := by decide +kernel
theorem dksX1_hasBallast_1 : cX1_hasBallast.data.toList.drop 22 = dktX1_hasBallast_1 := dk_seg dksX1_hasBallast_0 22 rfl rfl
theorem dX1_hasBallast_0 : decode cX1_hasBallast 0 = .ok (.iconst 0, 1) := dk_3 (dk_at dksX1_hasBallast_0 0 rfl rfl)
theorem dX1_hasBallast_1 : decode cX1_hasBallast 1 = .ok (.istore_n 2, 1) := dk_61 (dk_at dksX1_hasBallast_0 1 rfl rfl)
theorem dX1_hasBallast_2 : decode cX1_hasBallast 2 = .ok (.iload_n 2, 1) := dk_28 (dk_at dksX1_hasBallast_0 2 rfl rfl)
theorem dX1_hasBallast_3 : decode cX1_hasBallast 3 = .ok (.aload_n 0, 1) := dk_42 (dk_at dksX1_hasBallast_0 3 rfl rfl)
theorem dX1_hasBallast_4 : decode cX1_hasBallast 4 = .ok (.getfield 22, 3) := dk_180 0 22 (dk_at dksX1_hasBallast_0 4 rfl rfl)
theorem dX1_hasBallast_7 : decode cX1_hasBallast 7 = .ok (.getfield 104, 3) := dk_180 0 104 (dk_at dksX1_hasBallast_0 7 rfl rfl)
theorem dX1_hasBallast_10 : decode cX1_hasBallast 10 = .ok (.if_icmp .ge 32, 3) := dk_162 0 32 (dk_at dksX1_hasBallast_0 10 rfl rfl)
theorem dX1_hasBallast_13 : decode cX1_hasBallast 13 = .ok (.iload_n 1, 1) := dk_27 (dk_at dksX1_hasBallast_0 13 rfl rfl)
theorem dX1_hasBallast_14 : decode cX1_hasBallast 14 = .ok (.iload_n 2, 1) := dk_28 (dk_at dksX1_hasBallast_0 14 rfl rfl)
theorem dX1_hasBallast_15 : decode cX1_hasBallast 15 = .ok (.invokestatic 245, 3) := dk_184 0 245 (dk_at dksX1_hasBallast_0 15 rfl rfl)
theorem dX1_hasBallast_18 : decode cX1_hasBallast 18 = .ok (.ifCond .eq 18, 3) := dk_153 0 18 (dk_at dksX1_hasBallast_0 18 rfl rfl)
theorem dX1_hasBallast_21 : decode cX1_hasBallast 21 = .ok (.aload_n 0, 1) := dk_42 (dk_at dksX1_hasBallast_0 21 rfl rfl)
theorem dX1_hasBallast_22 : decode cX1_hasBallast 22 = .ok (.getfield 31, 3) := dk_180 0 31 (dk_at dksX1_hasBallast_1 0 rfl rfl)
theorem dX1_hasBallast_25 : decode cX1_hasBallast 25 = .ok (.getfield 173, 3) := dk_180 0 173 (dk_at dksX1_hasBallast_1 3 rfl rfl)
theorem dX1_hasBallast_28 : decode cX1_hasBallast 28 = .ok (.iload_n 2, 1) := dk_28 (dk_at dksX1_hasBallast_1 6 rfl rfl)
theorem dX1_hasBallast_29 : decode cX1_hasBallast 29 = .ok (.iaload, 1) := dk_46 (dk_at dksX1_hasBallast_1 7 rfl rfl)
theorem dX1_hasBallast_30 : decode cX1_hasBallast 30 = .ok (.iconst 1, 1) := dk_4 (dk_at dksX1_hasBallast_1 8 rfl rfl)
theorem dX1_hasBallast_31 : decode cX1_hasBallast 31 = .ok (.if_icmp .ne 5, 3) := dk_160 0 5 (dk_at dksX1_hasBallast_1 9 rfl rfl)
theorem dX1_hasBallast_34 : decode cX1_hasBallast 34 = .ok (.iconst 1, 1) := dk_4 (dk_at dksX1_hasBallast_1 12 rfl rfl)
theorem dX1_hasBallast_35 : decode cX1_hasBallast 35 = .ok (.ireturn, 1) := dk_172 (dk_at dksX1_hasBallast_1 13 rfl rfl)
theorem dX1_hasBallast_36 : decode cX1_hasBallast 36 = .ok (.iinc 2 1, 3) := dk_132 2 1 (dk_at dksX1_hasBallast_1 14 rfl rfl)
theorem dX1_hasBallast_39 : decode cX1_hasBallast 39 = .ok (.goto (-37), 3) := dk_167 255 219 (dk_at dksX1_hasBallast_1 17 rfl rfl)
theorem dX1_hasBallast_42 : decode cX1_hasBallast 42 = .ok (.iconst 0, 1) := dk_3 (dk_at dksX1_hasBallast_1 20 rfl rfl)
theorem dX1_hasBallast_43 : decode cX1_hasBallast 43 = .ok (.ireturn, 1) := dk_172 (dk_at dksX1_hasBallast_1 21 rfl rfl)
abbrev cX1_isFewer : ByteArray := prog_1_method_55_code
def yX1_isFewer : MethodName := ⟨RX1, "isFewer", "(II)Z"⟩
def dkwX1_isFewer_0 : List UInt8 := [26, 184, 1, 4, 27, 184, 1, 4, 162, 0, 7, 4, 167, 0, 4, 3, 172]
abbrev dktX1_isFewer_0 : List UInt8 := dkwX1_isFewer_0 ++ []
theorem dksX1_isFewer_0 : cX1_isFewer.data.toList.drop 0 = dktX1_isFewer_0 := by decide +kernel
theorem dX1_isFewer_0 : decode cX1_isFewer 0 = .ok (.iload_n 0, 1) := dk_26 (dk_at dksX1_isFewer_0 0 rfl rfl)
theorem dX1_isFewer_1 : decode cX1_isFewer 1 = .ok (.invokestatic 260, 3) := dk_184 1 4 (dk_at dksX1_isFewer_0 1 rfl rfl)
theorem dX1_isFewer_4 : decode cX1_isFewer 4 = .ok (.iload_n 1, 1) := dk_27 (dk_at dksX1_isFewer_0 4 rfl rfl)
theorem dX1_isFewer_5 : decode cX1_isFewer 5 = .ok (.invokestatic 260, 3) := dk_184 1 4 (dk_at dksX1_isFewer_0 5 rfl rfl)
theorem dX1_isFewer_8 : decode cX1_isFewer 8 = .ok (.if_icmp .ge 7, 3) := dk_162 0 7 (dk_at dksX1_isFewer_0 8 rfl rfl)
theorem dX1_isFewer_11 : decode cX1_isFewer 11 = .ok (.iconst 1, 1) := dk_4 (dk_at dksX1_isFewer_0 11 rfl rfl)
theorem dX1_isFewer_12 : decode cX1_isFewer 12 = .ok (.goto 4, 3) := dk_167 0 4 (dk_at dksX1_isFewer_0 12 rfl rfl)
theorem dX1_isFewer_15 : decode cX1_isFewer 15 = .ok (.iconst 0, 1) := dk_3 (dk_at dksX1_isFewer_0 15 rfl rfl)
theorem dX1_isFewer_16 : decode cX1_isFewer 16 = .ok (.ireturn, 1) := dk_172 (dk_at dksX1_isFewer_0 16 rfl rfl)
abbrev cX1_row : ByteArray := prog_1_method_58_code
def yX1_row : MethodName := ⟨RX1, "row", "(III)I"⟩
def dkwX1_row_3 : List UInt8 := [25, 4, 182, 1, 73, 54, 5, 132, 6, 1, 167, 255, 223, 21, 5, 172]
abbrev dktX1_row_3 : List UInt8 := dkwX1_row_3 ++ []
def dkwX1_row_2 : List UInt8 := [21, 6, 29, 162, 0, 33, 21, 5, 28, 159, 0, 7, 4, 167, 0, 4, 3, 184, 0, 138, 42, 21, 5]
abbrev dktX1_row_2 : List UInt8 := dkwX1_row_2 ++ dktX1_row_3
def dkwX1_row_1 : List UInt8 := [46, 18, 249, 162, 0, 11, 29, 155, 0, 7, 4, 167, 0, 4, 3, 184, 0, 138, 27, 54, 5, 3, 54, 6]
abbrev dktX1_row_1 : List UInt8 := dkwX1_row_1 ++ dktX1_row_2
def dkwX1_row_0 : List UInt8 := [42, 27, 182, 0, 141, 42, 28, 182, 0, 141, 42, 180, 0, 22, 28, 3, 182, 0, 250, 58, 4, 25, 4, 27]
abbrev dktX1_row_0 : List UInt8 := dkwX1_row_0 ++ dktX1_row_1
theorem dksX1_row_0 : cX1_row.data.toList.drop 0 = dktX1_row_0 := by decide +kernel
theorem dksX1_row_1 : cX1_row.data.toList.drop 24 = dktX1_row_1 := dk_seg dksX1_row_0 24 rfl rfl
theorem dksX1_row_2 : cX1_row.data.toList.drop 48 = dktX1_row_2 := dk_seg dksX1_row_1 24 rfl rfl
theorem dksX1_row_3 : cX1_row.data.toList.drop 71 = dktX1_row_3 := dk_seg dksX1_row_2 23 rfl rfl
theorem dX1_row_0 : decode cX1_row 0 = .ok (.aload_n 0, 1) := dk_42 (dk_at dksX1_row_0 0 rfl rfl)
theorem dX1_row_1 : decode cX1_row 1 = .ok (.iload_n 1, 1) := dk_27 (dk_at dksX1_row_0 1 rfl rfl)
theorem dX1_row_2 : decode cX1_row 2 = .ok (.invokevirtual 141, 3) := dk_182 0 141 (dk_at dksX1_row_0 2 rfl rfl)
theorem dX1_row_5 : decode cX1_row 5 = .ok (.aload_n 0, 1) := dk_42 (dk_at dksX1_row_0 5 rfl rfl)
theorem dX1_row_6 : decode cX1_row 6 = .ok (.iload_n 2, 1) := dk_28 (dk_at dksX1_row_0 6 rfl rfl)
theorem dX1_row_7 : decode cX1_row 7 = .ok (.invokevirtual 141, 3) := dk_182 0 141 (dk_at dksX1_row_0 7 rfl rfl)
theorem dX1_row_10 : decode cX1_row 10 = .ok (.aload_n 0, 1) := dk_42 (dk_at dksX1_row_0 10 rfl rfl)
theorem dX1_row_11 : decode cX1_row 11 = .ok (.getfield 22, 3) := dk_180 0 22 (dk_at dksX1_row_0 11 rfl rfl)
theorem dX1_row_14 : decode cX1_row 14 = .ok (.iload_n 2, 1) := dk_28 (dk_at dksX1_row_0 14 rfl rfl)
theorem dX1_row_15 : decode cX1_row 15 = .ok (.iconst 0, 1) := dk_3 (dk_at dksX1_row_0 15 rfl rfl)
theorem dX1_row_16 : decode cX1_row 16 = .ok (.invokevirtual 250, 3) := dk_182 0 250 (dk_at dksX1_row_0 16 rfl rfl)
theorem dX1_row_19 : decode cX1_row 19 = .ok (.astore 4, 2) := dk_58 4 (dk_at dksX1_row_0 19 rfl rfl)
theorem dX1_row_21 : decode cX1_row 21 = .ok (.aload 4, 2) := dk_25 4 (dk_at dksX1_row_0 21 rfl rfl)
theorem dX1_row_23 : decode cX1_row 23 = .ok (.iload_n 1, 1) := dk_27 (dk_at dksX1_row_0 23 rfl rfl)
theorem dX1_row_24 : decode cX1_row 24 = .ok (.iaload, 1) := dk_46 (dk_at dksX1_row_1 0 rfl rfl)
theorem dX1_row_25 : decode cX1_row 25 = .ok (.ldc 249, 2) := dk_18 249 (dk_at dksX1_row_1 1 rfl rfl)
theorem dX1_row_27 : decode cX1_row 27 = .ok (.if_icmp .ge 11, 3) := dk_162 0 11 (dk_at dksX1_row_1 3 rfl rfl)
theorem dX1_row_30 : decode cX1_row 30 = .ok (.iload_n 3, 1) := dk_29 (dk_at dksX1_row_1 6 rfl rfl)
theorem dX1_row_31 : decode cX1_row 31 = .ok (.ifCond .lt 7, 3) := dk_155 0 7 (dk_at dksX1_row_1 7 rfl rfl)
theorem dX1_row_34 : decode cX1_row 34 = .ok (.iconst 1, 1) := dk_4 (dk_at dksX1_row_1 10 rfl rfl)
theorem dX1_row_35 : decode cX1_row 35 = .ok (.goto 4, 3) := dk_167 0 4 (dk_at dksX1_row_1 11 rfl rfl)
theorem dX1_row_38 : decode cX1_row 38 = .ok (.iconst 0, 1) := dk_3 (dk_at dksX1_row_1 14 rfl rfl)
theorem dX1_row_39 : decode cX1_row 39 = .ok (.invokestatic 138, 3) := dk_184 0 138 (dk_at dksX1_row_1 15 rfl rfl)
theorem dX1_row_42 : decode cX1_row 42 = .ok (.iload_n 1, 1) := dk_27 (dk_at dksX1_row_1 18 rfl rfl)
theorem dX1_row_43 : decode cX1_row 43 = .ok (.istore 5, 2) := dk_54 5 (dk_at dksX1_row_1 19 rfl rfl)
theorem dX1_row_45 : decode cX1_row 45 = .ok (.iconst 0, 1) := dk_3 (dk_at dksX1_row_1 21 rfl rfl)
theorem dX1_row_46 : decode cX1_row 46 = .ok (.istore 6, 2) := dk_54 6 (dk_at dksX1_row_1 22 rfl rfl)
theorem dX1_row_48 : decode cX1_row 48 = .ok (.iload 6, 2) := dk_21 6 (dk_at dksX1_row_2 0 rfl rfl)
theorem dX1_row_50 : decode cX1_row 50 = .ok (.iload_n 3, 1) := dk_29 (dk_at dksX1_row_2 2 rfl rfl)
theorem dX1_row_51 : decode cX1_row 51 = .ok (.if_icmp .ge 33, 3) := dk_162 0 33 (dk_at dksX1_row_2 3 rfl rfl)
theorem dX1_row_54 : decode cX1_row 54 = .ok (.iload 5, 2) := dk_21 5 (dk_at dksX1_row_2 6 rfl rfl)
theorem dX1_row_56 : decode cX1_row 56 = .ok (.iload_n 2, 1) := dk_28 (dk_at dksX1_row_2 8 rfl rfl)
theorem dX1_row_57 : decode cX1_row 57 = .ok (.if_icmp .eq 7, 3) := dk_159 0 7 (dk_at dksX1_row_2 9 rfl rfl)
theorem dX1_row_60 : decode cX1_row 60 = .ok (.iconst 1, 1) := dk_4 (dk_at dksX1_row_2 12 rfl rfl)
theorem dX1_row_61 : decode cX1_row 61 = .ok (.goto 4, 3) := dk_167 0 4 (dk_at dksX1_row_2 13 rfl rfl)
theorem dX1_row_64 : decode cX1_row 64 = .ok (.iconst 0, 1) := dk_3 (dk_at dksX1_row_2 16 rfl rfl)
theorem dX1_row_65 : decode cX1_row 65 = .ok (.invokestatic 138, 3) := dk_184 0 138 (dk_at dksX1_row_2 17 rfl rfl)
theorem dX1_row_68 : decode cX1_row 68 = .ok (.aload_n 0, 1) := dk_42 (dk_at dksX1_row_2 20 rfl rfl)
theorem dX1_row_69 : decode cX1_row 69 = .ok (.iload 5, 2) := dk_21 5 (dk_at dksX1_row_2 21 rfl rfl)
theorem dX1_row_71 : decode cX1_row 71 = .ok (.aload 4, 2) := dk_25 4 (dk_at dksX1_row_3 0 rfl rfl)
theorem dX1_row_73 : decode cX1_row 73 = .ok (.invokevirtual 329, 3) := dk_182 1 73 (dk_at dksX1_row_3 2 rfl rfl)
theorem dX1_row_76 : decode cX1_row 76 = .ok (.istore 5, 2) := dk_54 5 (dk_at dksX1_row_3 5 rfl rfl)
theorem dX1_row_78 : decode cX1_row 78 = .ok (.iinc 6 1, 3) := dk_132 6 1 (dk_at dksX1_row_3 7 rfl rfl)
theorem dX1_row_81 : decode cX1_row 81 = .ok (.goto (-33), 3) := dk_167 255 223 (dk_at dksX1_row_3 10 rfl rfl)
theorem dX1_row_84 : decode cX1_row 84 = .ok (.iload 5, 2) := dk_21 5 (dk_at dksX1_row_3 13 rfl rfl)
theorem dX1_row_86 : decode cX1_row 86 = .ok (.ireturn, 1) := dk_172 (dk_at dksX1_row_3 15 rfl rfl)
abbrev cX1_nextOf : ByteArray := prog_1_method_59_code
def yX1_nextOf : MethodName := ⟨RX1, "nextOf", "(I[I)I"⟩
def dkwX1_nextOf_3 : List UInt8 := [29, 2, 159, 0, 9, 21, 6, 29, 162, 0, 6, 21, 6, 62, 132, 4, 1, 167, 255, 173, 29, 172]
abbrev dktX1_nextOf_3 : List UInt8 := dkwX1_nextOf_3 ++ []
def dkwX1_nextOf_2 : List UInt8 := [54, 6, 21, 6, 2, 159, 0, 33, 44, 21, 6, 46, 25, 5, 180, 0, 211, 96, 44, 27, 46, 160, 0, 17]
abbrev dktX1_nextOf_2 : List UInt8 := dkwX1_nextOf_2 ++ dktX1_nextOf_3
def dkwX1_nextOf_1 : List UInt8 := [180, 0, 22, 180, 0, 96, 21, 4, 185, 0, 148, 2, 0, 192, 0, 203, 58, 5, 25, 5, 27, 182, 0, 208]
abbrev dktX1_nextOf_1 : List UInt8 := dkwX1_nextOf_1 ++ dktX1_nextOf_2
def dkwX1_nextOf_0 : List UInt8 := [2, 62, 3, 54, 4, 21, 4, 42, 180, 0, 22, 180, 0, 96, 185, 0, 99, 1, 0, 162, 0, 72, 42]
abbrev dktX1_nextOf_0 : List UInt8 := dkwX1_nextOf_0 ++ dktX1_nextOf_1
theorem dksX1_nextOf_0 : cX1_nextOf.data.toList.drop 0 = dktX1_nextOf_0 := by decide +kernel
theorem dksX1_nextOf_1 : cX1_nextOf.data.toList.drop 23 = dktX1_nextOf_1 := dk_seg dksX1_nextOf_0 23 rfl rfl
theorem dksX1_nextOf_2 : cX1_nextOf.data.toList.drop 47 = dktX1_nextOf_2 := dk_seg dksX1_nextOf_1 24 rfl rfl
theorem dksX1_nextOf_3 : cX1_nextOf.data.toList.drop 71 = dktX1_nextOf_3 := dk_seg dksX1_nextOf_2 24 rfl rfl
theorem dX1_nextOf_0 : decode cX1_nextOf 0 = .ok (.iconst (-1), 1) := dk_2 (dk_at dksX1_nextOf_0 0 rfl rfl)
theorem dX1_nextOf_1 : decode cX1_nextOf 1 = .ok (.istore_n 3, 1) := dk_62 (dk_at dksX1_nextOf_0 1 rfl rfl)
theorem dX1_nextOf_2 : decode cX1_nextOf 2 = .ok (.iconst 0, 1) := dk_3 (dk_at dksX1_nextOf_0 2 rfl rfl)
theorem dX1_nextOf_3 : decode cX1_nextOf 3 = .ok (.istore 4, 2) := dk_54 4 (dk_at dksX1_nextOf_0 3 rfl rfl)
theorem dX1_nextOf_5 : decode cX1_nextOf 5 = .ok (.iload 4, 2) := dk_21 4 (dk_at dksX1_nextOf_0 5 rfl rfl)
theorem dX1_nextOf_7 : decode cX1_nextOf 7 = .ok (.aload_n 0, 1) := dk_42 (dk_at dksX1_nextOf_0 7 rfl rfl)
theorem dX1_nextOf_8 : decode cX1_nextOf 8 = .ok (.getfield 22, 3) := dk_180 0 22 (dk_at dksX1_nextOf_0 8 rfl rfl)
theorem dX1_nextOf_11 : decode cX1_nextOf 11 = .ok (.getfield 96, 3) := dk_180 0 96 (dk_at dksX1_nextOf_0 11 rfl rfl)
theorem dX1_nextOf_14 : decode cX1_nextOf 14 = .ok (.invokeinterface 99 1, 5) := by decide +kernel
theorem dX1_nextOf_19 : decode cX1_nextOf 19 = .ok (.if_icmp .ge 72, 3) := dk_162 0 72 (dk_at dksX1_nextOf_0 19 rfl rfl)
theorem dX1_nextOf_22 : decode cX1_nextOf 22 = .ok (.aload_n 0, 1) := dk_42 (dk_at dksX1_nextOf_0 22 rfl rfl)
theorem dX1_nextOf_23 : decode cX1_nextOf 23 = .ok (.getfield 22, 3) := dk_180 0 22 (dk_at dksX1_nextOf_1 0 rfl rfl)
theorem dX1_nextOf_26 : decode cX1_nextOf 26 = .ok (.getfield 96, 3) := dk_180 0 96 (dk_at dksX1_nextOf_1 3 rfl rfl)
theorem dX1_nextOf_29 : decode cX1_nextOf 29 = .ok (.iload 4, 2) := dk_21 4 (dk_at dksX1_nextOf_1 6 rfl rfl)
theorem dX1_nextOf_31 : decode cX1_nextOf 31 = .ok (.invokeinterface 148 2, 5) := by decide +kernel
theorem dX1_nextOf_36 : decode cX1_nextOf 36 = .ok (.checkcast 203, 3) := dk_192 0 203 (dk_at dksX1_nextOf_1 13 rfl rfl)
theorem dX1_nextOf_39 : decode cX1_nextOf 39 = .ok (.astore 5, 2) := dk_58 5 (dk_at dksX1_nextOf_1 16 rfl rfl)
theorem dX1_nextOf_41 : decode cX1_nextOf 41 = .ok (.aload 5, 2) := dk_25 5 (dk_at dksX1_nextOf_1 18 rfl rfl)
theorem dX1_nextOf_43 : decode cX1_nextOf 43 = .ok (.iload_n 1, 1) := dk_27 (dk_at dksX1_nextOf_1 20 rfl rfl)
theorem dX1_nextOf_44 : decode cX1_nextOf 44 = .ok (.invokevirtual 208, 3) := dk_182 0 208 (dk_at dksX1_nextOf_1 21 rfl rfl)
theorem dX1_nextOf_47 : decode cX1_nextOf 47 = .ok (.istore 6, 2) := dk_54 6 (dk_at dksX1_nextOf_2 0 rfl rfl)
theorem dX1_nextOf_49 : decode cX1_nextOf 49 = .ok (.iload 6, 2) := dk_21 6 (dk_at dksX1_nextOf_2 2 rfl rfl)
theorem dX1_nextOf_51 : decode cX1_nextOf 51 = .ok (.iconst (-1), 1) := dk_2 (dk_at dksX1_nextOf_2 4 rfl rfl)
theorem dX1_nextOf_52 : decode cX1_nextOf 52 = .ok (.if_icmp .eq 33, 3) := dk_159 0 33 (dk_at dksX1_nextOf_2 5 rfl rfl)
theorem dX1_nextOf_55 : decode cX1_nextOf 55 = .ok (.aload_n 2, 1) := dk_44 (dk_at dksX1_nextOf_2 8 rfl rfl)
theorem dX1_nextOf_56 : decode cX1_nextOf 56 = .ok (.iload 6, 2) := dk_21 6 (dk_at dksX1_nextOf_2 9 rfl rfl)
theorem dX1_nextOf_58 : decode cX1_nextOf 58 = .ok (.iaload, 1) := dk_46 (dk_at dksX1_nextOf_2 11 rfl rfl)
theorem dX1_nextOf_59 : decode cX1_nextOf 59 = .ok (.aload 5, 2) := dk_25 5 (dk_at dksX1_nextOf_2 12 rfl rfl)
theorem dX1_nextOf_61 : decode cX1_nextOf 61 = .ok (.getfield 211, 3) := dk_180 0 211 (dk_at dksX1_nextOf_2 14 rfl rfl)
theorem dX1_nextOf_64 : decode cX1_nextOf 64 = .ok (.iadd, 1) := dk_96 (dk_at dksX1_nextOf_2 17 rfl rfl)
theorem dX1_nextOf_65 : decode cX1_nextOf 65 = .ok (.aload_n 2, 1) := dk_44 (dk_at dksX1_nextOf_2 18 rfl rfl)
theorem dX1_nextOf_66 : decode cX1_nextOf 66 = .ok (.iload_n 1, 1) := dk_27 (dk_at dksX1_nextOf_2 19 rfl rfl)
theorem dX1_nextOf_67 : decode cX1_nextOf 67 = .ok (.iaload, 1) := dk_46 (dk_at dksX1_nextOf_2 20 rfl rfl)
theorem dX1_nextOf_68 : decode cX1_nextOf 68 = .ok (.if_icmp .ne 17, 3) := dk_160 0 17 (dk_at dksX1_nextOf_2 21 rfl rfl)
theorem dX1_nextOf_71 : decode cX1_nextOf 71 = .ok (.iload_n 3, 1) := dk_29 (dk_at dksX1_nextOf_3 0 rfl rfl)
theorem dX1_nextOf_72 : decode cX1_nextOf 72 = .ok (.iconst (-1), 1) := dk_2 (dk_at dksX1_nextOf_3 1 rfl rfl)
theorem dX1_nextOf_73 : decode cX1_nextOf 73 = .ok (.if_icmp .eq 9, 3) := dk_159 0 9 (dk_at dksX1_nextOf_3 2 rfl rfl)
theorem dX1_nextOf_76 : decode cX1_nextOf 76 = .ok (.iload 6, 2) := dk_21 6 (dk_at dksX1_nextOf_3 5 rfl rfl)
theorem dX1_nextOf_78 : decode cX1_nextOf 78 = .ok (.iload_n 3, 1) := dk_29 (dk_at dksX1_nextOf_3 7 rfl rfl)
theorem dX1_nextOf_79 : decode cX1_nextOf 79 = .ok (.if_icmp .ge 6, 3) := dk_162 0 6 (dk_at dksX1_nextOf_3 8 rfl rfl)
theorem dX1_nextOf_82 : decode cX1_nextOf 82 = .ok (.iload 6, 2) := dk_21 6 (dk_at dksX1_nextOf_3 11 rfl rfl)
theorem dX1_nextOf_84 : decode cX1_nextOf 84 = .ok (.istore_n 3, 1) := dk_62 (dk_at dksX1_nextOf_3 13 rfl rfl)
theorem dX1_nextOf_85 : decode cX1_nextOf 85 = .ok (.iinc 4 1, 3) := dk_132 4 1 (dk_at dksX1_nextOf_3 14 rfl rfl)
theorem dX1_nextOf_88 : decode cX1_nextOf 88 = .ok (.goto (-83), 3) := dk_167 255 173 (dk_at dksX1_nextOf_3 17 rfl rfl)
theorem dX1_nextOf_91 : decode cX1_nextOf 91 = .ok (.iload_n 3, 1) := dk_29 (dk_at dksX1_nextOf_3 20 rfl rfl)
theorem dX1_nextOf_92 : decode cX1_nextOf 92 = .ok (.ireturn, 1) := dk_172 (dk_at dksX1_nextOf_3 21 rfl rfl)
abbrev cX1_bridge : ByteArray := prog_1_method_61_code
def yX1_bridge : MethodName := ⟨RX1, "bridge", "(I)Z"⟩
def dkwX1_bridge_2 : List UInt8 := [182, 1, 80, 44, 180, 1, 83, 46, 18, 249, 161, 0, 7, 4, 167, 0, 4, 3, 172]
abbrev dktX1_bridge_2 : List UInt8 := dkwX1_bridge_2 ++ []
def dkwX1_bridge_1 : List UInt8 := [180, 0, 96, 27, 185, 0, 148, 2, 0, 192, 0, 203, 77, 42, 180, 0, 22, 44, 180, 1, 77, 3, 27]
abbrev dktX1_bridge_1 : List UInt8 := dkwX1_bridge_1 ++ dktX1_bridge_2
def dkwX1_bridge_0 : List UInt8 := [27, 42, 180, 0, 22, 180, 0, 96, 185, 0, 99, 1, 0, 4, 100, 184, 0, 166, 42, 180, 0, 22]
abbrev dktX1_bridge_0 : List UInt8 := dkwX1_bridge_0 ++ dktX1_bridge_1
theorem dksX1_bridge_0 : cX1_bridge.data.toList.drop 0 = dktX1_bridge_0 := by decide +kernel
theorem dksX1_bridge_1 : cX1_bridge.data.toList.drop 22 = dktX1_bridge_1 := dk_seg dksX1_bridge_0 22 rfl rfl
theorem dksX1_bridge_2 : cX1_bridge.data.toList.drop 45 = dktX1_bridge_2 := dk_seg dksX1_bridge_1 23 rfl rfl
theorem dX1_bridge_0 : decode cX1_bridge 0 = .ok (.iload_n 1, 1) := dk_27 (dk_at dksX1_bridge_0 0 rfl rfl)
theorem dX1_bridge_1 : decode cX1_bridge 1 = .ok (.aload_n 0, 1) := dk_42 (dk_at dksX1_bridge_0 1 rfl rfl)
theorem dX1_bridge_2 : decode cX1_bridge 2 = .ok (.getfield 22, 3) := dk_180 0 22 (dk_at dksX1_bridge_0 2 rfl rfl)
theorem dX1_bridge_5 : decode cX1_bridge 5 = .ok (.getfield 96, 3) := dk_180 0 96 (dk_at dksX1_bridge_0 5 rfl rfl)
theorem dX1_bridge_8 : decode cX1_bridge 8 = .ok (.invokeinterface 99 1, 5) := by decide +kernel
theorem dX1_bridge_13 : decode cX1_bridge 13 = .ok (.iconst 1, 1) := dk_4 (dk_at dksX1_bridge_0 13 rfl rfl)
theorem dX1_bridge_14 : decode cX1_bridge 14 = .ok (.isub, 1) := dk_100 (dk_at dksX1_bridge_0 14 rfl rfl)
theorem dX1_bridge_15 : decode cX1_bridge 15 = .ok (.invokestatic 166, 3) := dk_184 0 166 (dk_at dksX1_bridge_0 15 rfl rfl)
theorem dX1_bridge_18 : decode cX1_bridge 18 = .ok (.aload_n 0, 1) := dk_42 (dk_at dksX1_bridge_0 18 rfl rfl)
theorem dX1_bridge_19 : decode cX1_bridge 19 = .ok (.getfield 22, 3) := dk_180 0 22 (dk_at dksX1_bridge_0 19 rfl rfl)
theorem dX1_bridge_22 : decode cX1_bridge 22 = .ok (.getfield 96, 3) := dk_180 0 96 (dk_at dksX1_bridge_1 0 rfl rfl)
theorem dX1_bridge_25 : decode cX1_bridge 25 = .ok (.iload_n 1, 1) := dk_27 (dk_at dksX1_bridge_1 3 rfl rfl)
theorem dX1_bridge_26 : decode cX1_bridge 26 = .ok (.invokeinterface 148 2, 5) := by decide +kernel
theorem dX1_bridge_31 : decode cX1_bridge 31 = .ok (.checkcast 203, 3) := dk_192 0 203 (dk_at dksX1_bridge_1 9 rfl rfl)
theorem dX1_bridge_34 : decode cX1_bridge 34 = .ok (.astore_n 2, 1) := dk_77 (dk_at dksX1_bridge_1 12 rfl rfl)
theorem dX1_bridge_35 : decode cX1_bridge 35 = .ok (.aload_n 0, 1) := dk_42 (dk_at dksX1_bridge_1 13 rfl rfl)
theorem dX1_bridge_36 : decode cX1_bridge 36 = .ok (.getfield 22, 3) := dk_180 0 22 (dk_at dksX1_bridge_1 14 rfl rfl)
theorem dX1_bridge_39 : decode cX1_bridge 39 = .ok (.aload_n 2, 1) := dk_44 (dk_at dksX1_bridge_1 17 rfl rfl)
theorem dX1_bridge_40 : decode cX1_bridge 40 = .ok (.getfield 333, 3) := dk_180 1 77 (dk_at dksX1_bridge_1 18 rfl rfl)
theorem dX1_bridge_43 : decode cX1_bridge 43 = .ok (.iconst 0, 1) := dk_3 (dk_at dksX1_bridge_1 21 rfl rfl)
theorem dX1_bridge_44 : decode cX1_bridge 44 = .ok (.iload_n 1, 1) := dk_27 (dk_at dksX1_bridge_1 22 rfl rfl)
theorem dX1_bridge_45 : decode cX1_bridge 45 = .ok (.invokevirtual 336, 3) := dk_182 1 80 (dk_at dksX1_bridge_2 0 rfl rfl)
theorem dX1_bridge_48 : decode cX1_bridge 48 = .ok (.aload_n 2, 1) := dk_44 (dk_at dksX1_bridge_2 3 rfl rfl)
theorem dX1_bridge_49 : decode cX1_bridge 49 = .ok (.getfield 339, 3) := dk_180 1 83 (dk_at dksX1_bridge_2 4 rfl rfl)
theorem dX1_bridge_52 : decode cX1_bridge 52 = .ok (.iaload, 1) := dk_46 (dk_at dksX1_bridge_2 7 rfl rfl)
theorem dX1_bridge_53 : decode cX1_bridge 53 = .ok (.ldc 249, 2) := dk_18 249 (dk_at dksX1_bridge_2 8 rfl rfl)
theorem dX1_bridge_55 : decode cX1_bridge 55 = .ok (.if_icmp .lt 7, 3) := dk_161 0 7 (dk_at dksX1_bridge_2 10 rfl rfl)
theorem dX1_bridge_58 : decode cX1_bridge 58 = .ok (.iconst 1, 1) := dk_4 (dk_at dksX1_bridge_2 13 rfl rfl)
theorem dX1_bridge_59 : decode cX1_bridge 59 = .ok (.goto 4, 3) := dk_167 0 4 (dk_at dksX1_bridge_2 14 rfl rfl)
theorem dX1_bridge_62 : decode cX1_bridge 62 = .ok (.iconst 0, 1) := dk_3 (dk_at dksX1_bridge_2 17 rfl rfl)
theorem dX1_bridge_63 : decode cX1_bridge 63 = .ok (.ireturn, 1) := dk_172 (dk_at dksX1_bridge_2 18 rfl rfl)
abbrev cX1_streak : ByteArray := prog_1_method_62_code
def yX1_streak : MethodName := ⟨RX1, "streak", "(II)I"⟩
def dkwX1_streak_3 : List UInt8 := [54, 5, 132, 6, 1, 167, 255, 213, 21, 5, 172]
abbrev dktX1_streak_3 : List UInt8 := dkwX1_streak_3 ++ []
def dkwX1_streak_2 : List UInt8 := [184, 0, 245, 153, 0, 7, 3, 167, 0, 7, 21, 4, 4, 96, 54, 4, 21, 5, 21, 4, 184, 1, 1]
abbrev dktX1_streak_2 : List UInt8 := dkwX1_streak_2 ++ dktX1_streak_3
def dkwX1_streak_1 : List UInt8 := [54, 4, 3, 54, 5, 3, 54, 6, 21, 6, 28, 162, 0, 43, 45, 3, 182, 0, 238, 180, 0, 242, 27]
abbrev dktX1_streak_1 : List UInt8 := dkwX1_streak_1 ++ dktX1_streak_2
def dkwX1_streak_0 : List UInt8 := [42, 27, 182, 0, 141, 28, 3, 16, 60, 184, 0, 134, 184, 0, 65, 42, 180, 0, 31, 182, 0, 182, 78, 3]
abbrev dktX1_streak_0 : List UInt8 := dkwX1_streak_0 ++ dktX1_streak_1
theorem dksX1_streak_0 : cX1_streak.data.toList.drop 0 = dktX1_streak_0 := by decide +kernel
theorem dksX1_streak_1 : cX1_streak.data.toList.drop 24 = dktX1_streak_1 := dk_seg dksX1_streak_0 24 rfl rfl
theorem dksX1_streak_2 : cX1_streak.data.toList.drop 47 = dktX1_streak_2 := dk_seg dksX1_streak_1 23 rfl rfl
theorem dksX1_streak_3 : cX1_streak.data.toList.drop 70 = dktX1_streak_3 := dk_seg dksX1_streak_2 23 rfl rfl
theorem dX1_streak_0 : decode cX1_streak 0 = .ok (.aload_n 0, 1) := dk_42 (dk_at dksX1_streak_0 0 rfl rfl)
theorem dX1_streak_1 : decode cX1_streak 1 = .ok (.iload_n 1, 1) := dk_27 (dk_at dksX1_streak_0 1 rfl rfl)
theorem dX1_streak_2 : decode cX1_streak 2 = .ok (.invokevirtual 141, 3) := dk_182 0 141 (dk_at dksX1_streak_0 2 rfl rfl)
theorem dX1_streak_5 : decode cX1_streak 5 = .ok (.iload_n 2, 1) := dk_28 (dk_at dksX1_streak_0 5 rfl rfl)
theorem dX1_streak_6 : decode cX1_streak 6 = .ok (.iconst 0, 1) := dk_3 (dk_at dksX1_streak_0 6 rfl rfl)
theorem dX1_streak_7 : decode cX1_streak 7 = .ok (.bipush 60, 2) := dk_16 60 (dk_at dksX1_streak_0 7 rfl rfl)
theorem dX1_streak_9 : decode cX1_streak 9 = .ok (.invokestatic 134, 3) := dk_184 0 134 (dk_at dksX1_streak_0 9 rfl rfl)
theorem dX1_streak_12 : decode cX1_streak 12 = .ok (.invokestatic 65, 3) := dk_184 0 65 (dk_at dksX1_streak_0 12 rfl rfl)
theorem dX1_streak_15 : decode cX1_streak 15 = .ok (.aload_n 0, 1) := dk_42 (dk_at dksX1_streak_0 15 rfl rfl)
theorem dX1_streak_16 : decode cX1_streak 16 = .ok (.getfield 31, 3) := dk_180 0 31 (dk_at dksX1_streak_0 16 rfl rfl)
theorem dX1_streak_19 : decode cX1_streak 19 = .ok (.invokevirtual 182, 3) := dk_182 0 182 (dk_at dksX1_streak_0 19 rfl rfl)
theorem dX1_streak_22 : decode cX1_streak 22 = .ok (.astore_n 3, 1) := dk_78 (dk_at dksX1_streak_0 22 rfl rfl)
theorem dX1_streak_23 : decode cX1_streak 23 = .ok (.iconst 0, 1) := dk_3 (dk_at dksX1_streak_0 23 rfl rfl)
theorem dX1_streak_24 : decode cX1_streak 24 = .ok (.istore 4, 2) := dk_54 4 (dk_at dksX1_streak_1 0 rfl rfl)
theorem dX1_streak_26 : decode cX1_streak 26 = .ok (.iconst 0, 1) := dk_3 (dk_at dksX1_streak_1 2 rfl rfl)
theorem dX1_streak_27 : decode cX1_streak 27 = .ok (.istore 5, 2) := dk_54 5 (dk_at dksX1_streak_1 3 rfl rfl)
theorem dX1_streak_29 : decode cX1_streak 29 = .ok (.iconst 0, 1) := dk_3 (dk_at dksX1_streak_1 5 rfl rfl)
theorem dX1_streak_30 : decode cX1_streak 30 = .ok (.istore 6, 2) := dk_54 6 (dk_at dksX1_streak_1 6 rfl rfl)
theorem dX1_streak_32 : decode cX1_streak 32 = .ok (.iload 6, 2) := dk_21 6 (dk_at dksX1_streak_1 8 rfl rfl)
theorem dX1_streak_34 : decode cX1_streak 34 = .ok (.iload_n 2, 1) := dk_28 (dk_at dksX1_streak_1 10 rfl rfl)
theorem dX1_streak_35 : decode cX1_streak 35 = .ok (.if_icmp .ge 43, 3) := dk_162 0 43 (dk_at dksX1_streak_1 11 rfl rfl)
theorem dX1_streak_38 : decode cX1_streak 38 = .ok (.aload_n 3, 1) := dk_45 (dk_at dksX1_streak_1 14 rfl rfl)
theorem dX1_streak_39 : decode cX1_streak 39 = .ok (.iconst 0, 1) := dk_3 (dk_at dksX1_streak_1 15 rfl rfl)
theorem dX1_streak_40 : decode cX1_streak 40 = .ok (.invokevirtual 238, 3) := dk_182 0 238 (dk_at dksX1_streak_1 16 rfl rfl)
theorem dX1_streak_43 : decode cX1_streak 43 = .ok (.getfield 242, 3) := dk_180 0 242 (dk_at dksX1_streak_1 19 rfl rfl)
theorem dX1_streak_46 : decode cX1_streak 46 = .ok (.iload_n 1, 1) := dk_27 (dk_at dksX1_streak_1 22 rfl rfl)
theorem dX1_streak_47 : decode cX1_streak 47 = .ok (.invokestatic 245, 3) := dk_184 0 245 (dk_at dksX1_streak_2 0 rfl rfl)
theorem dX1_streak_50 : decode cX1_streak 50 = .ok (.ifCond .eq 7, 3) := dk_153 0 7 (dk_at dksX1_streak_2 3 rfl rfl)
theorem dX1_streak_53 : decode cX1_streak 53 = .ok (.iconst 0, 1) := dk_3 (dk_at dksX1_streak_2 6 rfl rfl)
theorem dX1_streak_54 : decode cX1_streak 54 = .ok (.goto 7, 3) := dk_167 0 7 (dk_at dksX1_streak_2 7 rfl rfl)
theorem dX1_streak_57 : decode cX1_streak 57 = .ok (.iload 4, 2) := dk_21 4 (dk_at dksX1_streak_2 10 rfl rfl)
theorem dX1_streak_59 : decode cX1_streak 59 = .ok (.iconst 1, 1) := dk_4 (dk_at dksX1_streak_2 12 rfl rfl)
theorem dX1_streak_60 : decode cX1_streak 60 = .ok (.iadd, 1) := dk_96 (dk_at dksX1_streak_2 13 rfl rfl)
theorem dX1_streak_61 : decode cX1_streak 61 = .ok (.istore 4, 2) := dk_54 4 (dk_at dksX1_streak_2 14 rfl rfl)
theorem dX1_streak_63 : decode cX1_streak 63 = .ok (.iload 5, 2) := dk_21 5 (dk_at dksX1_streak_2 16 rfl rfl)
theorem dX1_streak_65 : decode cX1_streak 65 = .ok (.iload 4, 2) := dk_21 4 (dk_at dksX1_streak_2 18 rfl rfl)
theorem dX1_streak_67 : decode cX1_streak 67 = .ok (.invokestatic 257, 3) := dk_184 1 1 (dk_at dksX1_streak_2 20 rfl rfl)
theorem dX1_streak_70 : decode cX1_streak 70 = .ok (.istore 5, 2) := dk_54 5 (dk_at dksX1_streak_3 0 rfl rfl)
theorem dX1_streak_72 : decode cX1_streak 72 = .ok (.iinc 6 1, 3) := dk_132 6 1 (dk_at dksX1_streak_3 2 rfl rfl)
theorem dX1_streak_75 : decode cX1_streak 75 = .ok (.goto (-43), 3) := dk_167 255 213 (dk_at dksX1_streak_3 5 rfl rfl)
theorem dX1_streak_78 : decode cX1_streak 78 = .ok (.iload 5, 2) := dk_21 5 (dk_at dksX1_streak_3 8 rfl rfl)
theorem dX1_streak_80 : decode cX1_streak 80 = .ok (.ireturn, 1) := dk_172 (dk_at dksX1_streak_3 10 rfl rfl)
abbrev cX1_day : ByteArray := prog_1_method_63_code
def yX1_day : MethodName := ⟨RX1, "day", "(II)I"⟩
def dkwX1_day_4 : List UInt8 := [167, 255, 194, 28, 154, 0, 8, 21, 4, 167, 0, 5, 21, 5, 172]
abbrev dktX1_day_4 : List UInt8 := dkwX1_day_4 ++ []
def dkwX1_day_3 : List UInt8 := [159, 0, 13, 21, 8, 21, 5, 163, 0, 6, 167, 0, 11, 21, 6, 54, 4, 21, 8, 54, 5, 132, 6, 1]
abbrev dktX1_day_3 : List UInt8 := dkwX1_day_3 ++ dktX1_day_4
def dkwX1_day_2 : List UInt8 := [45, 3, 182, 0, 238, 87, 45, 45, 180, 0, 120, 182, 0, 113, 21, 7, 100, 54, 8, 21, 4, 2]
abbrev dktX1_day_2 : List UInt8 := dkwX1_day_2 ++ dktX1_day_3
def dkwX1_day_1 : List UInt8 := [54, 4, 3, 54, 5, 4, 54, 6, 21, 6, 27, 163, 0, 62, 45, 45, 180, 0, 120, 182, 0, 113, 54, 7]
abbrev dktX1_day_1 : List UInt8 := dkwX1_day_1 ++ dktX1_day_2
def dkwX1_day_0 : List UInt8 := [28, 4, 184, 0, 166, 27, 4, 16, 60, 184, 0, 134, 184, 0, 65, 42, 180, 0, 31, 182, 0, 182, 78, 2]
abbrev dktX1_day_0 : List UInt8 := dkwX1_day_0 ++ dktX1_day_1
theorem dksX1_day_0 : cX1_day.data.toList.drop 0 = dktX1_day_0 := by decide +kernel
theorem dksX1_day_1 : cX1_day.data.toList.drop 24 = dktX1_day_1 := dk_seg dksX1_day_0 24 rfl rfl
theorem dksX1_day_2 : cX1_day.data.toList.drop 48 = dktX1_day_2 := dk_seg dksX1_day_1 24 rfl rfl
theorem dksX1_day_3 : cX1_day.data.toList.drop 70 = dktX1_day_3 := dk_seg dksX1_day_2 22 rfl rfl
theorem dksX1_day_4 : cX1_day.data.toList.drop 94 = dktX1_day_4 := dk_seg dksX1_day_3 24 rfl rfl
theorem dX1_day_0 : decode cX1_day 0 = .ok (.iload_n 2, 1) := dk_28 (dk_at dksX1_day_0 0 rfl rfl)
theorem dX1_day_1 : decode cX1_day 1 = .ok (.iconst 1, 1) := dk_4 (dk_at dksX1_day_0 1 rfl rfl)
theorem dX1_day_2 : decode cX1_day 2 = .ok (.invokestatic 166, 3) := dk_184 0 166 (dk_at dksX1_day_0 2 rfl rfl)
theorem dX1_day_5 : decode cX1_day 5 = .ok (.iload_n 1, 1) := dk_27 (dk_at dksX1_day_0 5 rfl rfl)
theorem dX1_day_6 : decode cX1_day 6 = .ok (.iconst 1, 1) := dk_4 (dk_at dksX1_day_0 6 rfl rfl)
theorem dX1_day_7 : decode cX1_day 7 = .ok (.bipush 60, 2) := dk_16 60 (dk_at dksX1_day_0 7 rfl rfl)
theorem dX1_day_9 : decode cX1_day 9 = .ok (.invokestatic 134, 3) := dk_184 0 134 (dk_at dksX1_day_0 9 rfl rfl)
theorem dX1_day_12 : decode cX1_day 12 = .ok (.invokestatic 65, 3) := dk_184 0 65 (dk_at dksX1_day_0 12 rfl rfl)
theorem dX1_day_15 : decode cX1_day 15 = .ok (.aload_n 0, 1) := dk_42 (dk_at dksX1_day_0 15 rfl rfl)
theorem dX1_day_16 : decode cX1_day 16 = .ok (.getfield 31, 3) := dk_180 0 31 (dk_at dksX1_day_0 16 rfl rfl)
theorem dX1_day_19 : decode cX1_day 19 = .ok (.invokevirtual 182, 3) := dk_182 0 182 (dk_at dksX1_day_0 19 rfl rfl)
theorem dX1_day_22 : decode cX1_day 22 = .ok (.astore_n 3, 1) := dk_78 (dk_at dksX1_day_0 22 rfl rfl)
theorem dX1_day_23 : decode cX1_day 23 = .ok (.iconst (-1), 1) := dk_2 (dk_at dksX1_day_0 23 rfl rfl)
theorem dX1_day_24 : decode cX1_day 24 = .ok (.istore 4, 2) := dk_54 4 (dk_at dksX1_day_1 0 rfl rfl)
theorem dX1_day_26 : decode cX1_day 26 = .ok (.iconst 0, 1) := dk_3 (dk_at dksX1_day_1 2 rfl rfl)
theorem dX1_day_27 : decode cX1_day 27 = .ok (.istore 5, 2) := dk_54 5 (dk_at dksX1_day_1 3 rfl rfl)
theorem dX1_day_29 : decode cX1_day 29 = .ok (.iconst 1, 1) := dk_4 (dk_at dksX1_day_1 5 rfl rfl)
theorem dX1_day_30 : decode cX1_day 30 = .ok (.istore 6, 2) := dk_54 6 (dk_at dksX1_day_1 6 rfl rfl)
theorem dX1_day_32 : decode cX1_day 32 = .ok (.iload 6, 2) := dk_21 6 (dk_at dksX1_day_1 8 rfl rfl)
theorem dX1_day_34 : decode cX1_day 34 = .ok (.iload_n 1, 1) := dk_27 (dk_at dksX1_day_1 10 rfl rfl)
theorem dX1_day_35 : decode cX1_day 35 = .ok (.if_icmp .gt 62, 3) := dk_163 0 62 (dk_at dksX1_day_1 11 rfl rfl)
theorem dX1_day_38 : decode cX1_day 38 = .ok (.aload_n 3, 1) := dk_45 (dk_at dksX1_day_1 14 rfl rfl)
theorem dX1_day_39 : decode cX1_day 39 = .ok (.aload_n 3, 1) := dk_45 (dk_at dksX1_day_1 15 rfl rfl)
theorem dX1_day_40 : decode cX1_day 40 = .ok (.getfield 120, 3) := dk_180 0 120 (dk_at dksX1_day_1 16 rfl rfl)
theorem dX1_day_43 : decode cX1_day 43 = .ok (.invokevirtual 113, 3) := dk_182 0 113 (dk_at dksX1_day_1 19 rfl rfl)
theorem dX1_day_46 : decode cX1_day 46 = .ok (.istore 7, 2) := dk_54 7 (dk_at dksX1_day_1 22 rfl rfl)
theorem dX1_day_48 : decode cX1_day 48 = .ok (.aload_n 3, 1) := dk_45 (dk_at dksX1_day_2 0 rfl rfl)
theorem dX1_day_49 : decode cX1_day 49 = .ok (.iconst 0, 1) := dk_3 (dk_at dksX1_day_2 1 rfl rfl)
theorem dX1_day_50 : decode cX1_day 50 = .ok (.invokevirtual 238, 3) := dk_182 0 238 (dk_at dksX1_day_2 2 rfl rfl)
theorem dX1_day_53 : decode cX1_day 53 = .ok (.pop, 1) := dk_87 (dk_at dksX1_day_2 5 rfl rfl)
theorem dX1_day_54 : decode cX1_day 54 = .ok (.aload_n 3, 1) := dk_45 (dk_at dksX1_day_2 6 rfl rfl)
theorem dX1_day_55 : decode cX1_day 55 = .ok (.aload_n 3, 1) := dk_45 (dk_at dksX1_day_2 7 rfl rfl)
theorem dX1_day_56 : decode cX1_day 56 = .ok (.getfield 120, 3) := dk_180 0 120 (dk_at dksX1_day_2 8 rfl rfl)
theorem dX1_day_59 : decode cX1_day 59 = .ok (.invokevirtual 113, 3) := dk_182 0 113 (dk_at dksX1_day_2 11 rfl rfl)
theorem dX1_day_62 : decode cX1_day 62 = .ok (.iload 7, 2) := dk_21 7 (dk_at dksX1_day_2 14 rfl rfl)
theorem dX1_day_64 : decode cX1_day 64 = .ok (.isub, 1) := dk_100 (dk_at dksX1_day_2 16 rfl rfl)
theorem dX1_day_65 : decode cX1_day 65 = .ok (.istore 8, 2) := dk_54 8 (dk_at dksX1_day_2 17 rfl rfl)
theorem dX1_day_67 : decode cX1_day 67 = .ok (.iload 4, 2) := dk_21 4 (dk_at dksX1_day_2 19 rfl rfl)
theorem dX1_day_69 : decode cX1_day 69 = .ok (.iconst (-1), 1) := dk_2 (dk_at dksX1_day_2 21 rfl rfl)
theorem dX1_day_70 : decode cX1_day 70 = .ok (.if_icmp .eq 13, 3) := dk_159 0 13 (dk_at dksX1_day_3 0 rfl rfl)
theorem dX1_day_73 : decode cX1_day 73 = .ok (.iload 8, 2) := dk_21 8 (dk_at dksX1_day_3 3 rfl rfl)
theorem dX1_day_75 : decode cX1_day 75 = .ok (.iload 5, 2) := dk_21 5 (dk_at dksX1_day_3 5 rfl rfl)
theorem dX1_day_77 : decode cX1_day 77 = .ok (.if_icmp .gt 6, 3) := dk_163 0 6 (dk_at dksX1_day_3 7 rfl rfl)
theorem dX1_day_80 : decode cX1_day 80 = .ok (.goto 11, 3) := dk_167 0 11 (dk_at dksX1_day_3 10 rfl rfl)
theorem dX1_day_83 : decode cX1_day 83 = .ok (.iload 6, 2) := dk_21 6 (dk_at dksX1_day_3 13 rfl rfl)
theorem dX1_day_85 : decode cX1_day 85 = .ok (.istore 4, 2) := dk_54 4 (dk_at dksX1_day_3 15 rfl rfl)
theorem dX1_day_87 : decode cX1_day 87 = .ok (.iload 8, 2) := dk_21 8 (dk_at dksX1_day_3 17 rfl rfl)
theorem dX1_day_89 : decode cX1_day 89 = .ok (.istore 5, 2) := dk_54 5 (dk_at dksX1_day_3 19 rfl rfl)
theorem dX1_day_91 : decode cX1_day 91 = .ok (.iinc 6 1, 3) := dk_132 6 1 (dk_at dksX1_day_3 21 rfl rfl)
theorem dX1_day_94 : decode cX1_day 94 = .ok (.goto (-62), 3) := dk_167 255 194 (dk_at dksX1_day_4 0 rfl rfl)
theorem dX1_day_97 : decode cX1_day 97 = .ok (.iload_n 2, 1) := dk_28 (dk_at dksX1_day_4 3 rfl rfl)
theorem dX1_day_98 : decode cX1_day 98 = .ok (.ifCond .ne 8, 3) := dk_154 0 8 (dk_at dksX1_day_4 4 rfl rfl)
theorem dX1_day_101 : decode cX1_day 101 = .ok (.iload 4, 2) := dk_21 4 (dk_at dksX1_day_4 7 rfl rfl)
theorem dX1_day_103 : decode cX1_day 103 = .ok (.goto 5, 3) := dk_167 0 5 (dk_at dksX1_day_4 9 rfl rfl)
theorem dX1_day_106 : decode cX1_day 106 = .ok (.iload 5, 2) := dk_21 5 (dk_at dksX1_day_4 12 rfl rfl)
theorem dX1_day_108 : decode cX1_day 108 = .ok (.ireturn, 1) := dk_172 (dk_at dksX1_day_4 14 rfl rfl)
abbrev cX1_level : ByteArray := prog_1_method_65_code
def yX1_level : MethodName := ⟨RX1, "level", "(I)I"⟩
def dkwX1_level_3 : List UInt8 := [153, 0, 6, 21, 4, 62, 132, 4, 1, 167, 255, 197, 29, 172]
abbrev dktX1_level_3 : List UInt8 := dkwX1_level_3 ++ []
def dkwX1_level_2 : List UInt8 := [21, 4, 182, 1, 86, 100, 54, 5, 21, 5, 157, 0, 17, 21, 5, 154, 0, 15, 21, 4, 29, 184, 1, 70]
abbrev dktX1_level_2 : List UInt8 := dkwX1_level_2 ++ dktX1_level_3
def dkwX1_level_1 : List UInt8 := [163, 0, 59, 21, 4, 28, 2, 130, 126, 153, 0, 6, 167, 0, 41, 42, 27, 29, 182, 1, 86, 42, 27]
abbrev dktX1_level_1 : List UInt8 := dkwX1_level_1 ++ dktX1_level_2
def dkwX1_level_0 : List UInt8 := [42, 27, 182, 0, 141, 42, 180, 0, 31, 27, 182, 0, 123, 61, 3, 62, 4, 54, 4, 21, 4, 28]
abbrev dktX1_level_0 : List UInt8 := dkwX1_level_0 ++ dktX1_level_1
theorem dksX1_level_0 : cX1_level.data.toList.drop 0 = dktX1_level_0 := by decide +kernel
theorem dksX1_level_1 : cX1_level.data.toList.drop 22 = dktX1_level_1 := dk_seg dksX1_level_0 22 rfl rfl
theorem dksX1_level_2 : cX1_level.data.toList.drop 45 = dktX1_level_2 := dk_seg dksX1_level_1 23 rfl rfl
theorem dksX1_level_3 : cX1_level.data.toList.drop 69 = dktX1_level_3 := dk_seg dksX1_level_2 24 rfl rfl
theorem dX1_level_0 : decode cX1_level 0 = .ok (.aload_n 0, 1) := dk_42 (dk_at dksX1_level_0 0 rfl rfl)
theorem dX1_level_1 : decode cX1_level 1 = .ok (.iload_n 1, 1) := dk_27 (dk_at dksX1_level_0 1 rfl rfl)
theorem dX1_level_2 : decode cX1_level 2 = .ok (.invokevirtual 141, 3) := dk_182 0 141 (dk_at dksX1_level_0 2 rfl rfl)
theorem dX1_level_5 : decode cX1_level 5 = .ok (.aload_n 0, 1) := dk_42 (dk_at dksX1_level_0 5 rfl rfl)
theorem dX1_level_6 : decode cX1_level 6 = .ok (.getfield 31, 3) := dk_180 0 31 (dk_at dksX1_level_0 6 rfl rfl)
theorem dX1_level_9 : decode cX1_level 9 = .ok (.iload_n 1, 1) := dk_27 (dk_at dksX1_level_0 9 rfl rfl)
theorem dX1_level_10 : decode cX1_level 10 = .ok (.invokevirtual 123, 3) := dk_182 0 123 (dk_at dksX1_level_0 10 rfl rfl)
theorem dX1_level_13 : decode cX1_level 13 = .ok (.istore_n 2, 1) := dk_61 (dk_at dksX1_level_0 13 rfl rfl)
theorem dX1_level_14 : decode cX1_level 14 = .ok (.iconst 0, 1) := dk_3 (dk_at dksX1_level_0 14 rfl rfl)
theorem dX1_level_15 : decode cX1_level 15 = .ok (.istore_n 3, 1) := dk_62 (dk_at dksX1_level_0 15 rfl rfl)
theorem dX1_level_16 : decode cX1_level 16 = .ok (.iconst 1, 1) := dk_4 (dk_at dksX1_level_0 16 rfl rfl)
theorem dX1_level_17 : decode cX1_level 17 = .ok (.istore 4, 2) := dk_54 4 (dk_at dksX1_level_0 17 rfl rfl)
theorem dX1_level_19 : decode cX1_level 19 = .ok (.iload 4, 2) := dk_21 4 (dk_at dksX1_level_0 19 rfl rfl)
theorem dX1_level_21 : decode cX1_level 21 = .ok (.iload_n 2, 1) := dk_28 (dk_at dksX1_level_0 21 rfl rfl)
theorem dX1_level_22 : decode cX1_level 22 = .ok (.if_icmp .gt 59, 3) := dk_163 0 59 (dk_at dksX1_level_1 0 rfl rfl)
theorem dX1_level_25 : decode cX1_level 25 = .ok (.iload 4, 2) := dk_21 4 (dk_at dksX1_level_1 3 rfl rfl)
theorem dX1_level_27 : decode cX1_level 27 = .ok (.iload_n 2, 1) := dk_28 (dk_at dksX1_level_1 5 rfl rfl)
theorem dX1_level_28 : decode cX1_level 28 = .ok (.iconst (-1), 1) := dk_2 (dk_at dksX1_level_1 6 rfl rfl)
theorem dX1_level_29 : decode cX1_level 29 = .ok (.ixor, 1) := dk_130 (dk_at dksX1_level_1 7 rfl rfl)
theorem dX1_level_30 : decode cX1_level 30 = .ok (.iand, 1) := dk_126 (dk_at dksX1_level_1 8 rfl rfl)
theorem dX1_level_31 : decode cX1_level 31 = .ok (.ifCond .eq 6, 3) := dk_153 0 6 (dk_at dksX1_level_1 9 rfl rfl)
theorem dX1_level_34 : decode cX1_level 34 = .ok (.goto 41, 3) := dk_167 0 41 (dk_at dksX1_level_1 12 rfl rfl)
theorem dX1_level_37 : decode cX1_level 37 = .ok (.aload_n 0, 1) := dk_42 (dk_at dksX1_level_1 15 rfl rfl)
theorem dX1_level_38 : decode cX1_level 38 = .ok (.iload_n 1, 1) := dk_27 (dk_at dksX1_level_1 16 rfl rfl)
theorem dX1_level_39 : decode cX1_level 39 = .ok (.iload_n 3, 1) := dk_29 (dk_at dksX1_level_1 17 rfl rfl)
theorem dX1_level_40 : decode cX1_level 40 = .ok (.invokevirtual 342, 3) := dk_182 1 86 (dk_at dksX1_level_1 18 rfl rfl)
theorem dX1_level_43 : decode cX1_level 43 = .ok (.aload_n 0, 1) := dk_42 (dk_at dksX1_level_1 21 rfl rfl)
theorem dX1_level_44 : decode cX1_level 44 = .ok (.iload_n 1, 1) := dk_27 (dk_at dksX1_level_1 22 rfl rfl)
theorem dX1_level_45 : decode cX1_level 45 = .ok (.iload 4, 2) := dk_21 4 (dk_at dksX1_level_2 0 rfl rfl)
theorem dX1_level_47 : decode cX1_level 47 = .ok (.invokevirtual 342, 3) := dk_182 1 86 (dk_at dksX1_level_2 2 rfl rfl)
theorem dX1_level_50 : decode cX1_level 50 = .ok (.isub, 1) := dk_100 (dk_at dksX1_level_2 5 rfl rfl)
theorem dX1_level_51 : decode cX1_level 51 = .ok (.istore 5, 2) := dk_54 5 (dk_at dksX1_level_2 6 rfl rfl)
theorem dX1_level_53 : decode cX1_level 53 = .ok (.iload 5, 2) := dk_21 5 (dk_at dksX1_level_2 8 rfl rfl)
theorem dX1_level_55 : decode cX1_level 55 = .ok (.ifCond .gt 17, 3) := dk_157 0 17 (dk_at dksX1_level_2 10 rfl rfl)
theorem dX1_level_58 : decode cX1_level 58 = .ok (.iload 5, 2) := dk_21 5 (dk_at dksX1_level_2 13 rfl rfl)
theorem dX1_level_60 : decode cX1_level 60 = .ok (.ifCond .ne 15, 3) := dk_154 0 15 (dk_at dksX1_level_2 15 rfl rfl)
theorem dX1_level_63 : decode cX1_level 63 = .ok (.iload 4, 2) := dk_21 4 (dk_at dksX1_level_2 18 rfl rfl)
theorem dX1_level_65 : decode cX1_level 65 = .ok (.iload_n 3, 1) := dk_29 (dk_at dksX1_level_2 20 rfl rfl)
theorem dX1_level_66 : decode cX1_level 66 = .ok (.invokestatic 326, 3) := dk_184 1 70 (dk_at dksX1_level_2 21 rfl rfl)
theorem dX1_level_69 : decode cX1_level 69 = .ok (.ifCond .eq 6, 3) := dk_153 0 6 (dk_at dksX1_level_3 0 rfl rfl)
theorem dX1_level_72 : decode cX1_level 72 = .ok (.iload 4, 2) := dk_21 4 (dk_at dksX1_level_3 3 rfl rfl)
theorem dX1_level_74 : decode cX1_level 74 = .ok (.istore_n 3, 1) := dk_62 (dk_at dksX1_level_3 5 rfl rfl)
theorem dX1_level_75 : decode cX1_level 75 = .ok (.iinc 4 1, 3) := dk_132 4 1 (dk_at dksX1_level_3 6 rfl rfl)
theorem dX1_level_78 : decode cX1_level 78 = .ok (.goto (-59), 3) := dk_167 255 197 (dk_at dksX1_level_3 9 rfl rfl)
theorem dX1_level_81 : decode cX1_level 81 = .ok (.iload_n 3, 1) := dk_29 (dk_at dksX1_level_3 12 rfl rfl)
theorem dX1_level_82 : decode cX1_level 82 = .ok (.ireturn, 1) := dk_172 (dk_at dksX1_level_3 13 rfl rfl)
abbrev cX1_unlevel : ByteArray := prog_1_method_64_code
def yX1_unlevel : MethodName := ⟨RX1, "unlevel", "(II)I"⟩
def dkwX1_unlevel_2 : List UInt8 := [184, 0, 228, 172]
abbrev dktX1_unlevel_2 : List UInt8 := dkwX1_unlevel_2 ++ []
def dkwX1_unlevel_1 : List UInt8 := [17, 39, 15, 42, 180, 0, 31, 180, 0, 117, 27, 46, 42, 28, 4, 182, 1, 65, 96, 184, 0, 222, 100]
abbrev dktX1_unlevel_1 : List UInt8 := dkwX1_unlevel_1 ++ dktX1_unlevel_2
def dkwX1_unlevel_0 : List UInt8 := [17, 39, 15, 42, 180, 0, 31, 180, 0, 110, 27, 46, 42, 28, 3, 182, 1, 65, 96, 184, 0, 222, 62, 29]
abbrev dktX1_unlevel_0 : List UInt8 := dkwX1_unlevel_0 ++ dktX1_unlevel_1
theorem dksX1_unlevel_0 : cX1_unlevel.data.toList.drop 0 = dktX1_unlevel_0 := by decide +kernel
theorem dksX1_unlevel_1 : cX1_unlevel.data.toList.drop 24 = dktX1_unlevel_1 := dk_seg dksX1_unlevel_0 24 rfl rfl
theorem dksX1_unlevel_2 : cX1_unlevel.data.toList.drop 47 = dktX1_unlevel_2 := dk_seg dksX1_unlevel_1 23 rfl rfl
theorem dX1_unlevel_0 : decode cX1_unlevel 0 = .ok (.sipush 9999, 3) := dk_17 39 15 (dk_at dksX1_unlevel_0 0 rfl rfl)
theorem dX1_unlevel_3 : decode cX1_unlevel 3 = .ok (.aload_n 0, 1) := dk_42 (dk_at dksX1_unlevel_0 3 rfl rfl)
theorem dX1_unlevel_4 : decode cX1_unlevel 4 = .ok (.getfield 31, 3) := dk_180 0 31 (dk_at dksX1_unlevel_0 4 rfl rfl)
theorem dX1_unlevel_7 : decode cX1_unlevel 7 = .ok (.getfield 110, 3) := dk_180 0 110 (dk_at dksX1_unlevel_0 7 rfl rfl)
theorem dX1_unlevel_10 : decode cX1_unlevel 10 = .ok (.iload_n 1, 1) := dk_27 (dk_at dksX1_unlevel_0 10 rfl rfl)
theorem dX1_unlevel_11 : decode cX1_unlevel 11 = .ok (.iaload, 1) := dk_46 (dk_at dksX1_unlevel_0 11 rfl rfl)
theorem dX1_unlevel_12 : decode cX1_unlevel 12 = .ok (.aload_n 0, 1) := dk_42 (dk_at dksX1_unlevel_0 12 rfl rfl)
theorem dX1_unlevel_13 : decode cX1_unlevel 13 = .ok (.iload_n 2, 1) := dk_28 (dk_at dksX1_unlevel_0 13 rfl rfl)
theorem dX1_unlevel_14 : decode cX1_unlevel 14 = .ok (.iconst 0, 1) := dk_3 (dk_at dksX1_unlevel_0 14 rfl rfl)
theorem dX1_unlevel_15 : decode cX1_unlevel 15 = .ok (.invokevirtual 321, 3) := dk_182 1 65 (dk_at dksX1_unlevel_0 15 rfl rfl)
theorem dX1_unlevel_18 : decode cX1_unlevel 18 = .ok (.iadd, 1) := dk_96 (dk_at dksX1_unlevel_0 18 rfl rfl)
theorem dX1_unlevel_19 : decode cX1_unlevel 19 = .ok (.invokestatic 222, 3) := dk_184 0 222 (dk_at dksX1_unlevel_0 19 rfl rfl)
theorem dX1_unlevel_22 : decode cX1_unlevel 22 = .ok (.istore_n 3, 1) := dk_62 (dk_at dksX1_unlevel_0 22 rfl rfl)
theorem dX1_unlevel_23 : decode cX1_unlevel 23 = .ok (.iload_n 3, 1) := dk_29 (dk_at dksX1_unlevel_0 23 rfl rfl)
theorem dX1_unlevel_24 : decode cX1_unlevel 24 = .ok (.sipush 9999, 3) := dk_17 39 15 (dk_at dksX1_unlevel_1 0 rfl rfl)
theorem dX1_unlevel_27 : decode cX1_unlevel 27 = .ok (.aload_n 0, 1) := dk_42 (dk_at dksX1_unlevel_1 3 rfl rfl)
theorem dX1_unlevel_28 : decode cX1_unlevel 28 = .ok (.getfield 31, 3) := dk_180 0 31 (dk_at dksX1_unlevel_1 4 rfl rfl)
theorem dX1_unlevel_31 : decode cX1_unlevel 31 = .ok (.getfield 117, 3) := dk_180 0 117 (dk_at dksX1_unlevel_1 7 rfl rfl)
theorem dX1_unlevel_34 : decode cX1_unlevel 34 = .ok (.iload_n 1, 1) := dk_27 (dk_at dksX1_unlevel_1 10 rfl rfl)
theorem dX1_unlevel_35 : decode cX1_unlevel 35 = .ok (.iaload, 1) := dk_46 (dk_at dksX1_unlevel_1 11 rfl rfl)
theorem dX1_unlevel_36 : decode cX1_unlevel 36 = .ok (.aload_n 0, 1) := dk_42 (dk_at dksX1_unlevel_1 12 rfl rfl)
theorem dX1_unlevel_37 : decode cX1_unlevel 37 = .ok (.iload_n 2, 1) := dk_28 (dk_at dksX1_unlevel_1 13 rfl rfl)
theorem dX1_unlevel_38 : decode cX1_unlevel 38 = .ok (.iconst 1, 1) := dk_4 (dk_at dksX1_unlevel_1 14 rfl rfl)
theorem dX1_unlevel_39 : decode cX1_unlevel 39 = .ok (.invokevirtual 321, 3) := dk_182 1 65 (dk_at dksX1_unlevel_1 15 rfl rfl)
theorem dX1_unlevel_42 : decode cX1_unlevel 42 = .ok (.iadd, 1) := dk_96 (dk_at dksX1_unlevel_1 18 rfl rfl)
theorem dX1_unlevel_43 : decode cX1_unlevel 43 = .ok (.invokestatic 222, 3) := dk_184 0 222 (dk_at dksX1_unlevel_1 19 rfl rfl)
theorem dX1_unlevel_46 : decode cX1_unlevel 46 = .ok (.isub, 1) := dk_100 (dk_at dksX1_unlevel_1 22 rfl rfl)
theorem dX1_unlevel_47 : decode cX1_unlevel 47 = .ok (.invokestatic 228, 3) := dk_184 0 228 (dk_at dksX1_unlevel_2 0 rfl rfl)
theorem dX1_unlevel_50 : decode cX1_unlevel 50 = .ok (.ireturn, 1) := dk_172 (dk_at dksX1_unlevel_2 3 rfl rfl)
abbrev cX1_lend : ByteArray := prog_1_method_66_code
def yX1_lend : MethodName := ⟨RX1, "lend", "(I)I"⟩
def dkwX1_lend_3 : List UInt8 := [161, 0, 6, 21, 4, 62, 132, 4, 1, 167, 255, 208, 29, 172]
abbrev dktX1_lend_3 : List UInt8 := dkwX1_lend_3 ++ []
def dkwX1_lend_2 : List UInt8 := [180, 0, 110, 27, 42, 180, 0, 31, 180, 0, 110, 27, 46, 21, 4, 100, 79, 44, 27, 182, 0, 160, 16, 7]
abbrev dktX1_lend_2 : List UInt8 := dkwX1_lend_2 ++ dktX1_lend_3
def dkwX1_lend_1 : List UInt8 := [182, 0, 182, 77, 3, 62, 3, 54, 4, 21, 4, 42, 180, 0, 31, 180, 0, 110, 27, 46, 163, 0, 40, 44]
abbrev dktX1_lend_1 : List UInt8 := dkwX1_lend_1 ++ dktX1_lend_2
def dkwX1_lend_0 : List UInt8 := [42, 27, 182, 0, 141, 42, 180, 0, 31, 27, 182, 0, 160, 16, 7, 162, 0, 5, 2, 172, 42, 180, 0, 31]
abbrev dktX1_lend_0 : List UInt8 := dkwX1_lend_0 ++ dktX1_lend_1
theorem dksX1_lend_0 : cX1_lend.data.toList.drop 0 = dktX1_lend_0 := by decide +kernel
theorem dksX1_lend_1 : cX1_lend.data.toList.drop 24 = dktX1_lend_1 := dk_seg dksX1_lend_0 24 rfl rfl
theorem dksX1_lend_2 : cX1_lend.data.toList.drop 48 = dktX1_lend_2 := dk_seg dksX1_lend_1 24 rfl rfl
theorem dksX1_lend_3 : cX1_lend.data.toList.drop 72 = dktX1_lend_3 := dk_seg dksX1_lend_2 24 rfl rfl
theorem dX1_lend_0 : decode cX1_lend 0 = .ok (.aload_n 0, 1) := dk_42 (dk_at dksX1_lend_0 0 rfl rfl)
theorem dX1_lend_1 : decode cX1_lend 1 = .ok (.iload_n 1, 1) := dk_27 (dk_at dksX1_lend_0 1 rfl rfl)
theorem dX1_lend_2 : decode cX1_lend 2 = .ok (.invokevirtual 141, 3) := dk_182 0 141 (dk_at dksX1_lend_0 2 rfl rfl)
theorem dX1_lend_5 : decode cX1_lend 5 = .ok (.aload_n 0, 1) := dk_42 (dk_at dksX1_lend_0 5 rfl rfl)
theorem dX1_lend_6 : decode cX1_lend 6 = .ok (.getfield 31, 3) := dk_180 0 31 (dk_at dksX1_lend_0 6 rfl rfl)
theorem dX1_lend_9 : decode cX1_lend 9 = .ok (.iload_n 1, 1) := dk_27 (dk_at dksX1_lend_0 9 rfl rfl)
theorem dX1_lend_10 : decode cX1_lend 10 = .ok (.invokevirtual 160, 3) := dk_182 0 160 (dk_at dksX1_lend_0 10 rfl rfl)
theorem dX1_lend_13 : decode cX1_lend 13 = .ok (.bipush 7, 2) := dk_16 7 (dk_at dksX1_lend_0 13 rfl rfl)
theorem dX1_lend_15 : decode cX1_lend 15 = .ok (.if_icmp .ge 5, 3) := dk_162 0 5 (dk_at dksX1_lend_0 15 rfl rfl)
theorem dX1_lend_18 : decode cX1_lend 18 = .ok (.iconst (-1), 1) := dk_2 (dk_at dksX1_lend_0 18 rfl rfl)
theorem dX1_lend_19 : decode cX1_lend 19 = .ok (.ireturn, 1) := dk_172 (dk_at dksX1_lend_0 19 rfl rfl)
theorem dX1_lend_20 : decode cX1_lend 20 = .ok (.aload_n 0, 1) := dk_42 (dk_at dksX1_lend_0 20 rfl rfl)
theorem dX1_lend_21 : decode cX1_lend 21 = .ok (.getfield 31, 3) := dk_180 0 31 (dk_at dksX1_lend_0 21 rfl rfl)
theorem dX1_lend_24 : decode cX1_lend 24 = .ok (.invokevirtual 182, 3) := dk_182 0 182 (dk_at dksX1_lend_1 0 rfl rfl)
theorem dX1_lend_27 : decode cX1_lend 27 = .ok (.astore_n 2, 1) := dk_77 (dk_at dksX1_lend_1 3 rfl rfl)
theorem dX1_lend_28 : decode cX1_lend 28 = .ok (.iconst 0, 1) := dk_3 (dk_at dksX1_lend_1 4 rfl rfl)
theorem dX1_lend_29 : decode cX1_lend 29 = .ok (.istore_n 3, 1) := dk_62 (dk_at dksX1_lend_1 5 rfl rfl)
theorem dX1_lend_30 : decode cX1_lend 30 = .ok (.iconst 0, 1) := dk_3 (dk_at dksX1_lend_1 6 rfl rfl)
theorem dX1_lend_31 : decode cX1_lend 31 = .ok (.istore 4, 2) := dk_54 4 (dk_at dksX1_lend_1 7 rfl rfl)
theorem dX1_lend_33 : decode cX1_lend 33 = .ok (.iload 4, 2) := dk_21 4 (dk_at dksX1_lend_1 9 rfl rfl)
theorem dX1_lend_35 : decode cX1_lend 35 = .ok (.aload_n 0, 1) := dk_42 (dk_at dksX1_lend_1 11 rfl rfl)
theorem dX1_lend_36 : decode cX1_lend 36 = .ok (.getfield 31, 3) := dk_180 0 31 (dk_at dksX1_lend_1 12 rfl rfl)
theorem dX1_lend_39 : decode cX1_lend 39 = .ok (.getfield 110, 3) := dk_180 0 110 (dk_at dksX1_lend_1 15 rfl rfl)
theorem dX1_lend_42 : decode cX1_lend 42 = .ok (.iload_n 1, 1) := dk_27 (dk_at dksX1_lend_1 18 rfl rfl)
theorem dX1_lend_43 : decode cX1_lend 43 = .ok (.iaload, 1) := dk_46 (dk_at dksX1_lend_1 19 rfl rfl)
theorem dX1_lend_44 : decode cX1_lend 44 = .ok (.if_icmp .gt 40, 3) := dk_163 0 40 (dk_at dksX1_lend_1 20 rfl rfl)
theorem dX1_lend_47 : decode cX1_lend 47 = .ok (.aload_n 2, 1) := dk_44 (dk_at dksX1_lend_1 23 rfl rfl)
theorem dX1_lend_48 : decode cX1_lend 48 = .ok (.getfield 110, 3) := dk_180 0 110 (dk_at dksX1_lend_2 0 rfl rfl)
theorem dX1_lend_51 : decode cX1_lend 51 = .ok (.iload_n 1, 1) := dk_27 (dk_at dksX1_lend_2 3 rfl rfl)
theorem dX1_lend_52 : decode cX1_lend 52 = .ok (.aload_n 0, 1) := dk_42 (dk_at dksX1_lend_2 4 rfl rfl)
theorem dX1_lend_53 : decode cX1_lend 53 = .ok (.getfield 31, 3) := dk_180 0 31 (dk_at dksX1_lend_2 5 rfl rfl)
theorem dX1_lend_56 : decode cX1_lend 56 = .ok (.getfield 110, 3) := dk_180 0 110 (dk_at dksX1_lend_2 8 rfl rfl)
theorem dX1_lend_59 : decode cX1_lend 59 = .ok (.iload_n 1, 1) := dk_27 (dk_at dksX1_lend_2 11 rfl rfl)
theorem dX1_lend_60 : decode cX1_lend 60 = .ok (.iaload, 1) := dk_46 (dk_at dksX1_lend_2 12 rfl rfl)
theorem dX1_lend_61 : decode cX1_lend 61 = .ok (.iload 4, 2) := dk_21 4 (dk_at dksX1_lend_2 13 rfl rfl)
theorem dX1_lend_63 : decode cX1_lend 63 = .ok (.isub, 1) := dk_100 (dk_at dksX1_lend_2 15 rfl rfl)
theorem dX1_lend_64 : decode cX1_lend 64 = .ok (.iastore, 1) := dk_79 (dk_at dksX1_lend_2 16 rfl rfl)
theorem dX1_lend_65 : decode cX1_lend 65 = .ok (.aload_n 2, 1) := dk_44 (dk_at dksX1_lend_2 17 rfl rfl)
theorem dX1_lend_66 : decode cX1_lend 66 = .ok (.iload_n 1, 1) := dk_27 (dk_at dksX1_lend_2 18 rfl rfl)
theorem dX1_lend_67 : decode cX1_lend 67 = .ok (.invokevirtual 160, 3) := dk_182 0 160 (dk_at dksX1_lend_2 19 rfl rfl)
theorem dX1_lend_70 : decode cX1_lend 70 = .ok (.bipush 7, 2) := dk_16 7 (dk_at dksX1_lend_2 22 rfl rfl)
theorem dX1_lend_72 : decode cX1_lend 72 = .ok (.if_icmp .lt 6, 3) := dk_161 0 6 (dk_at dksX1_lend_3 0 rfl rfl)
theorem dX1_lend_75 : decode cX1_lend 75 = .ok (.iload 4, 2) := dk_21 4 (dk_at dksX1_lend_3 3 rfl rfl)
theorem dX1_lend_77 : decode cX1_lend 77 = .ok (.istore_n 3, 1) := dk_62 (dk_at dksX1_lend_3 5 rfl rfl)
theorem dX1_lend_78 : decode cX1_lend 78 = .ok (.iinc 4 1, 3) := dk_132 4 1 (dk_at dksX1_lend_3 6 rfl rfl)
theorem dX1_lend_81 : decode cX1_lend 81 = .ok (.goto (-48), 3) := dk_167 255 208 (dk_at dksX1_lend_3 9 rfl rfl)
theorem dX1_lend_84 : decode cX1_lend 84 = .ok (.iload_n 3, 1) := dk_29 (dk_at dksX1_lend_3 12 rfl rfl)
theorem dX1_lend_85 : decode cX1_lend 85 = .ok (.ireturn, 1) := dk_172 (dk_at dksX1_lend_3 13 rfl rfl)
theorem q109 : (Jvm.Cond.initialized "LuckCrates") ∈ lw_all := lw_g (lw_at lw_m1 1 rfl) rfl
theorem q144 : (Jvm.Cond.instantiable "LuckCrates" (15 : Nat)) ∈ lw_all := lw_g (lw_at lw_m1 36 rfl) rfl
theorem q146 : (Jvm.Cond.instanceMethod ({ cls := "LuckCrates", name := "<init>", desc := "()V" } : Jvm.MethodName)) ∈ lw_all := lw_g (lw_at lw_m1 38 rfl) rfl
theorem q147 : (Jvm.Cond.code ({ cls := "LuckCrates", name := "<init>", desc := "()V" } : Jvm.MethodName) prog_1_method_5_code (1 : Nat) (Option.none : Option Jvm.ClassFile.FieldType)) ∈ lw_all := lw_g (lw_at lw_m1 39 rfl) rfl
theorem q148 : (Jvm.Cond.methodLink "LuckCrates" (10 : Nat) ({ cls := "java/lang/Object", name := "<init>", desc := "()V" } : Jvm.MethodName)) ∈ lw_all := lw_g (lw_at lw_m1 40 rfl) rfl
theorem q151 : (Jvm.Cond.classLink "LuckCrates" (19 : Nat) "LuckCrates$Province") ∈ lw_all := lw_g (lw_at lw_m1 43 rfl) rfl
theorem q153 : (Jvm.Cond.methodLinkNest "LuckCrates" (21 : Nat) ({ cls := "LuckCrates$Province", name := "<init>", desc := "()V" } : Jvm.MethodName) "LuckCrates") ∈ lw_tbl := lw_at lw_m1 45 rfl
theorem q186 : (Jvm.Cond.fieldLinkNest "LuckCrates" (145 : Nat) "LuckCrates$Province" "makes" "Ljava/util/List;" "LuckCrates") ∈ lw_tbl := lw_at lw_m1 78 rfl
theorem q190 : (Jvm.Cond.fieldLinkNest "LuckCrates" (157 : Nat) "LuckCrates$Province" "stakes" "Ljava/util/List;" "LuckCrates") ∈ lw_tbl := lw_at lw_m1 82 rfl
theorem q193 : (Jvm.Cond.fieldLinkNest "LuckCrates" (96 : Nat) "LuckCrates$Province" "ways" "Ljava/util/List;" "LuckCrates") ∈ lw_tbl := lw_at lw_m1 85 rfl
theorem q196 : (Jvm.Cond.fieldLinkNest "LuckCrates" (104 : Nat) "LuckCrates$Province" "crates" "I" "LuckCrates") ∈ lw_tbl := lw_at lw_m1 88 rfl
theorem q211 : (Jvm.Cond.classLink "LuckCrates" (26 : Nat) "LuckCrates$Coast") ∈ lw_all := lw_g (lw_at lw_m1 103 rfl) rfl
theorem q213 : (Jvm.Cond.methodLinkNest "LuckCrates" (28 : Nat) ({ cls := "LuckCrates$Coast", name := "<init>", desc := "(LLuckCrates;)V" } : Jvm.MethodName) "LuckCrates") ∈ lw_tbl := lw_at lw_m1 105 rfl
theorem q218 : (Jvm.Cond.fieldLinkNest "LuckCrates" (110 : Nat) "LuckCrates$Coast" "luck" "[I" "LuckCrates") ∈ lw_tbl := lw_at lw_m1 110 rfl
theorem q221 : (Jvm.Cond.fieldLinkNest "LuckCrates" (117 : Nat) "LuckCrates$Coast" "bad" "[I" "LuckCrates") ∈ lw_tbl := lw_at lw_m1 113 rfl
theorem q224 : (Jvm.Cond.fieldLinkNest "LuckCrates" (120 : Nat) "LuckCrates$Coast" "won" "[I" "LuckCrates") ∈ lw_tbl := lw_at lw_m1 116 rfl
theorem q226 : (Jvm.Cond.fieldLinkNest "LuckCrates" (170 : Nat) "LuckCrates$Coast" "grains" "[I" "LuckCrates") ∈ lw_tbl := lw_at lw_m1 118 rfl
theorem q229 : (Jvm.Cond.fieldLinkNest "LuckCrates" (173 : Nat) "LuckCrates$Coast" "sort" "[I" "LuckCrates") ∈ lw_tbl := lw_at lw_m1 121 rfl
theorem q232 : (Jvm.Cond.fieldLinkNest "LuckCrates" (176 : Nat) "LuckCrates$Coast" "cat" "[I" "LuckCrates") ∈ lw_tbl := lw_at lw_m1 124 rfl
theorem q235 : (Jvm.Cond.fieldLinkNest "LuckCrates" (131 : Nat) "LuckCrates$Coast" "town" "[I" "LuckCrates") ∈ lw_tbl := lw_at lw_m1 127 rfl
theorem q238 : (Jvm.Cond.fieldLinkNest "LuckCrates" (179 : Nat) "LuckCrates$Coast" "toGo" "[I" "LuckCrates") ∈ lw_tbl := lw_at lw_m1 130 rfl
theorem q240 : (Jvm.Cond.fieldLinkNest "LuckCrates" (214 : Nat) "LuckCrates$Coast" "leak" "[I" "LuckCrates") ∈ lw_tbl := lw_at lw_m1 132 rfl
theorem q242 : (Jvm.Cond.fieldLinkNest "LuckCrates" (107 : Nat) "LuckCrates$Coast" "day" "I" "LuckCrates") ∈ lw_tbl := lw_at lw_m1 134 rfl
theorem q244 : (Jvm.Cond.fieldLinkNest "LuckCrates" (242 : Nat) "LuckCrates$Coast" "losers" "I" "LuckCrates") ∈ lw_tbl := lw_at lw_m1 136 rfl
theorem q271 : (Jvm.Cond.classLink "LuckCrates" (46 : Nat) "java/util/ArrayList") ∈ lw_all := lw_g (lw_at lw_m1 163 rfl) rfl
theorem q272 : (Jvm.Cond.methodLink "LuckCrates" (48 : Nat) ({ cls := "java/util/ArrayList", name := "<init>", desc := "()V" } : Jvm.MethodName)) ∈ lw_all := lw_g (lw_at lw_m1 164 rfl) rfl
theorem q273 : (Jvm.Cond.fieldLink "LuckCrates" (13 : Nat) "LuckCrates" "values" "[I") ∈ lw_all := lw_g (lw_at lw_m1 165 rfl) rfl
theorem q275 : (Jvm.Cond.fieldLink "LuckCrates" (22 : Nat) "LuckCrates" "province" "LLuckCrates$Province;") ∈ lw_all := lw_g (lw_at lw_m1 167 rfl) rfl
theorem q277 : (Jvm.Cond.fieldLink "LuckCrates" (31 : Nat) "LuckCrates" "coast" "LLuckCrates$Coast;") ∈ lw_all := lw_g (lw_at lw_m1 169 rfl) rfl
theorem q279 : (Jvm.Cond.fieldLink "LuckCrates" (35 : Nat) "LuckCrates" "tape" "[B") ∈ lw_all := lw_g (lw_at lw_m1 171 rfl) rfl
theorem q280 : (Jvm.Cond.fieldLink "LuckCrates" (62 : Nat) "LuckCrates" "taped" "I") ∈ lw_all := lw_g (lw_at lw_m1 172 rfl) rfl
theorem q281 : (Jvm.Cond.fieldLink "LuckCrates" (39 : Nat) "LuckCrates" "faultPlace" "I") ∈ lw_all := lw_g (lw_at lw_m1 173 rfl) rfl
theorem q282 : (Jvm.Cond.fieldLink "LuckCrates" (43 : Nat) "LuckCrates" "refused" "[I") ∈ lw_all := lw_g (lw_at lw_m1 174 rfl) rfl
theorem q283 : (Jvm.Cond.fieldLink "LuckCrates" (49 : Nat) "LuckCrates" "acts" "Ljava/util/List;") ∈ lw_all := lw_g (lw_at lw_m1 175 rfl) rfl
theorem q284 : (Jvm.Cond.fieldLink "LuckCrates" (53 : Nat) "LuckCrates" "seen" "Ljava/util/List;") ∈ lw_all := lw_g (lw_at lw_m1 176 rfl) rfl
theorem q285 : (Jvm.Cond.fieldLink "LuckCrates" (89 : Nat) "LuckCrates" "coastThen" "LLuckCrates$Coast;") ∈ lw_all := lw_g (lw_at lw_m1 177 rfl) rfl
theorem q286 : (Jvm.Cond.fieldLink "LuckCrates" (348 : Nat) "LuckCrates" "actsThen" "Ljava/util/List;") ∈ lw_all := lw_g (lw_at lw_m1 178 rfl) rfl
theorem q287 : (Jvm.Cond.fieldLink "LuckCrates" (351 : Nat) "LuckCrates" "seenThen" "Ljava/util/List;") ∈ lw_all := lw_g (lw_at lw_m1 179 rfl) rfl
theorem q288 : (Jvm.Cond.fieldLink "LuckCrates" (56 : Nat) "LuckCrates" "tried" "LLuckCrates$Coast;") ∈ lw_all := lw_g (lw_at lw_m1 180 rfl) rfl
theorem q289 : (Jvm.Cond.fieldLink "LuckCrates" (59 : Nat) "LuckCrates" "lucks" "[I") ∈ lw_all := lw_g (lw_at lw_m1 181 rfl) rfl
theorem q290 : (Jvm.Cond.fieldLink "LuckCrates" (314 : Nat) "LuckCrates" "seed" "I") ∈ lw_all := lw_g (lw_at lw_m1 182 rfl) rfl
theorem q291 : (Jvm.Cond.laysFinal "LuckCrates" "LuckCrates" "values" "[I") ∈ lw_all := lw_g (lw_at lw_m1 183 rfl) rfl
theorem q292 : (Jvm.Cond.soleField "LuckCrates" "values") ∈ lw_all := lw_g (lw_at lw_m1 184 rfl) rfl
theorem q293 : (Jvm.Cond.lays "LuckCrates" "LuckCrates" "province" "LLuckCrates$Province;") ∈ lw_all := lw_g (lw_at lw_m1 185 rfl) rfl
theorem q294 : (Jvm.Cond.soleField "LuckCrates" "province") ∈ lw_all := lw_g (lw_at lw_m1 186 rfl) rfl
theorem q295 : (Jvm.Cond.lays "LuckCrates" "LuckCrates" "coast" "LLuckCrates$Coast;") ∈ lw_all := lw_g (lw_at lw_m1 187 rfl) rfl
theorem q296 : (Jvm.Cond.soleField "LuckCrates" "coast") ∈ lw_all := lw_g (lw_at lw_m1 188 rfl) rfl
theorem q297 : (Jvm.Cond.laysFinal "LuckCrates" "LuckCrates" "tape" "[B") ∈ lw_all := lw_g (lw_at lw_m1 189 rfl) rfl
theorem q298 : (Jvm.Cond.soleField "LuckCrates" "tape") ∈ lw_all := lw_g (lw_at lw_m1 190 rfl) rfl
theorem q299 : (Jvm.Cond.lays "LuckCrates" "LuckCrates" "taped" "I") ∈ lw_all := lw_g (lw_at lw_m1 191 rfl) rfl
theorem q300 : (Jvm.Cond.soleField "LuckCrates" "taped") ∈ lw_all := lw_g (lw_at lw_m1 192 rfl) rfl
theorem q301 : (Jvm.Cond.lays "LuckCrates" "LuckCrates" "faultPlace" "I") ∈ lw_all := lw_g (lw_at lw_m1 193 rfl) rfl
theorem q302 : (Jvm.Cond.soleField "LuckCrates" "faultPlace") ∈ lw_all := lw_g (lw_at lw_m1 194 rfl) rfl
theorem q303 : (Jvm.Cond.laysFinal "LuckCrates" "LuckCrates" "refused" "[I") ∈ lw_all := lw_g (lw_at lw_m1 195 rfl) rfl
theorem q304 : (Jvm.Cond.soleField "LuckCrates" "refused") ∈ lw_all := lw_g (lw_at lw_m1 196 rfl) rfl
theorem q305 : (Jvm.Cond.lays "LuckCrates" "LuckCrates" "acts" "Ljava/util/List;") ∈ lw_all := lw_g (lw_at lw_m1 197 rfl) rfl
theorem q306 : (Jvm.Cond.soleField "LuckCrates" "acts") ∈ lw_all := lw_g (lw_at lw_m1 198 rfl) rfl
theorem q307 : (Jvm.Cond.lays "LuckCrates" "LuckCrates" "seen" "Ljava/util/List;") ∈ lw_all := lw_g (lw_at lw_m1 199 rfl) rfl
theorem q308 : (Jvm.Cond.soleField "LuckCrates" "seen") ∈ lw_all := lw_g (lw_at lw_m1 200 rfl) rfl
theorem q309 : (Jvm.Cond.lays "LuckCrates" "LuckCrates" "coastThen" "LLuckCrates$Coast;") ∈ lw_all := lw_g (lw_at lw_m1 201 rfl) rfl
theorem q310 : (Jvm.Cond.soleField "LuckCrates" "coastThen") ∈ lw_all := lw_g (lw_at lw_m1 202 rfl) rfl
theorem q311 : (Jvm.Cond.lays "LuckCrates" "LuckCrates" "actsThen" "Ljava/util/List;") ∈ lw_all := lw_g (lw_at lw_m1 203 rfl) rfl
theorem q312 : (Jvm.Cond.soleField "LuckCrates" "actsThen") ∈ lw_all := lw_g (lw_at lw_m1 204 rfl) rfl
theorem q313 : (Jvm.Cond.lays "LuckCrates" "LuckCrates" "seenThen" "Ljava/util/List;") ∈ lw_all := lw_g (lw_at lw_m1 205 rfl) rfl
theorem q314 : (Jvm.Cond.soleField "LuckCrates" "seenThen") ∈ lw_all := lw_g (lw_at lw_m1 206 rfl) rfl
theorem q315 : (Jvm.Cond.laysFinal "LuckCrates" "LuckCrates" "tried" "LLuckCrates$Coast;") ∈ lw_all := lw_g (lw_at lw_m1 207 rfl) rfl
theorem q316 : (Jvm.Cond.soleField "LuckCrates" "tried") ∈ lw_all := lw_g (lw_at lw_m1 208 rfl) rfl
theorem q317 : (Jvm.Cond.laysFinal "LuckCrates" "LuckCrates" "lucks" "[I") ∈ lw_all := lw_g (lw_at lw_m1 209 rfl) rfl
theorem q318 : (Jvm.Cond.soleField "LuckCrates" "lucks") ∈ lw_all := lw_g (lw_at lw_m1 210 rfl) rfl
theorem q319 : (Jvm.Cond.lays "LuckCrates" "LuckCrates" "seed" "I") ∈ lw_all := lw_g (lw_at lw_m1 211 rfl) rfl
theorem q320 : (Jvm.Cond.soleField "LuckCrates" "seed") ∈ lw_all := lw_g (lw_at lw_m1 212 rfl) rfl
theorem q321 : (Jvm.Cond.superclass "LuckCrates" "java/lang/Object") ∈ lw_all := lw_g (lw_at lw_m1 213 rfl) rfl
theorem q324 : (Jvm.Cond.instanceMethod ({ cls := "LuckCrates", name := "feed", desc := "(IIIII)I" } : Jvm.MethodName)) ∈ lw_all := lw_g (lw_at lw_m1 216 rfl) rfl
theorem q325 : (Jvm.Cond.selects "LuckCrates" ({ cls := "LuckCrates", name := "feed", desc := "(IIIII)I" } : Jvm.MethodName) ({ cls := "LuckCrates", name := "feed", desc := "(IIIII)I" } : Jvm.MethodName)) ∈ lw_all := lw_g (lw_at lw_m1 217 rfl) rfl
theorem q326 : (Jvm.Cond.code ({ cls := "LuckCrates", name := "feed", desc := "(IIIII)I" } : Jvm.MethodName) prog_1_method_6_code (8 : Nat) (Option.some Jvm.ClassFile.FieldType.int)) ∈ lw_all := lw_g (lw_at lw_m1 218 rfl) rfl
theorem q328 : (Jvm.Cond.instanceMethod ({ cls := "LuckCrates", name := "fault", desc := "()I" } : Jvm.MethodName)) ∈ lw_all := lw_g (lw_at lw_m1 220 rfl) rfl
theorem q329 : (Jvm.Cond.selects "LuckCrates" ({ cls := "LuckCrates", name := "fault", desc := "()I" } : Jvm.MethodName) ({ cls := "LuckCrates", name := "fault", desc := "()I" } : Jvm.MethodName)) ∈ lw_all := lw_g (lw_at lw_m1 221 rfl) rfl
theorem q330 : (Jvm.Cond.code ({ cls := "LuckCrates", name := "fault", desc := "()I" } : Jvm.MethodName) prog_1_method_8_code (1 : Nat) (Option.some Jvm.ClassFile.FieldType.int)) ∈ lw_all := lw_g (lw_at lw_m1 222 rfl) rfl
theorem q332 : (Jvm.Cond.instanceMethod ({ cls := "LuckCrates", name := "days", desc := "(I)I" } : Jvm.MethodName)) ∈ lw_all := lw_g (lw_at lw_m1 224 rfl) rfl
theorem q333 : (Jvm.Cond.selects "LuckCrates" ({ cls := "LuckCrates", name := "days", desc := "(I)I" } : Jvm.MethodName) ({ cls := "LuckCrates", name := "days", desc := "(I)I" } : Jvm.MethodName)) ∈ lw_all := lw_g (lw_at lw_m1 225 rfl) rfl
theorem q334 : (Jvm.Cond.code ({ cls := "LuckCrates", name := "days", desc := "(I)I" } : Jvm.MethodName) prog_1_method_17_code (2 : Nat) (Option.some Jvm.ClassFile.FieldType.int)) ∈ lw_all := lw_g (lw_at lw_m1 226 rfl) rfl
theorem q335 : (Jvm.Cond.methodLink "LuckCrates" (134 : Nat) ({ cls := "LuckCrates", name := "in", desc := "(III)Z" } : Jvm.MethodName)) ∈ lw_all := lw_g (lw_at lw_m1 227 rfl) rfl
theorem q336 : (Jvm.Cond.static ({ cls := "LuckCrates", name := "in", desc := "(III)Z" } : Jvm.MethodName)) ∈ lw_all := lw_g (lw_at lw_m1 228 rfl) rfl
theorem q337 : (Jvm.Cond.code ({ cls := "LuckCrates", name := "in", desc := "(III)Z" } : Jvm.MethodName) prog_1_method_1_code (3 : Nat) (Option.some Jvm.ClassFile.FieldType.boolean)) ∈ lw_all := lw_g (lw_at lw_m1 229 rfl) rfl
theorem q338 : (Jvm.Cond.methodLink "LuckCrates" (193 : Nat) ({ cls := "LuckCrates", name := "refuse", desc := "(I)I" } : Jvm.MethodName)) ∈ lw_all := lw_g (lw_at lw_m1 230 rfl) rfl
theorem q339 : (Jvm.Cond.privateMethod ({ cls := "LuckCrates", name := "refuse", desc := "(I)I" } : Jvm.MethodName)) ∈ lw_tbl := lw_at lw_m1 231 rfl
theorem q340 : (Jvm.Cond.instanceMethod ({ cls := "LuckCrates", name := "refuse", desc := "(I)I" } : Jvm.MethodName)) ∈ lw_all := lw_g (lw_at lw_m1 232 rfl) rfl
theorem q341 : (Jvm.Cond.code ({ cls := "LuckCrates", name := "refuse", desc := "(I)I" } : Jvm.MethodName) prog_1_method_16_code (2 : Nat) (Option.some Jvm.ClassFile.FieldType.int)) ∈ lw_all := lw_g (lw_at lw_m1 233 rfl) rfl
theorem q342 : (Jvm.Cond.methodLink "LuckCrates" (196 : Nat) ({ cls := "LuckCrates", name := "keep", desc := "()V" } : Jvm.MethodName)) ∈ lw_all := lw_g (lw_at lw_m1 234 rfl) rfl
theorem q343 : (Jvm.Cond.privateMethod ({ cls := "LuckCrates", name := "keep", desc := "()V" } : Jvm.MethodName)) ∈ lw_tbl := lw_at lw_m1 235 rfl
theorem q344 : (Jvm.Cond.instanceMethod ({ cls := "LuckCrates", name := "keep", desc := "()V" } : Jvm.MethodName)) ∈ lw_all := lw_g (lw_at lw_m1 236 rfl) rfl
theorem q345 : (Jvm.Cond.code ({ cls := "LuckCrates", name := "keep", desc := "()V" } : Jvm.MethodName) prog_1_method_15_code (1 : Nat) (Option.none : Option Jvm.ClassFile.FieldType)) ∈ lw_all := lw_g (lw_at lw_m1 237 rfl) rfl
theorem q346 : (Jvm.Cond.methodLink "LuckCrates" (182 : Nat) ({ cls := "LuckCrates$Coast", name := "copy", desc := "()LLuckCrates$Coast;" } : Jvm.MethodName)) ∈ lw_all := lw_g (lw_at lw_m1 238 rfl) rfl
theorem q356 : (Jvm.Cond.interfaceEntry "LuckCrates" (186 : Nat)) ∈ lw_tbl := lw_at lw_m2 8 rfl
theorem q357 : (Jvm.Cond.methodLink "LuckCrates" (186 : Nat) ({ cls := "java/util/List", name := "add", desc := "(Ljava/lang/Object;)Z" } : Jvm.MethodName)) ∈ lw_all := lw_g (lw_at lw_m2 9 rfl) rfl
theorem q394 : (Jvm.Cond.selects "LuckCrates" ({ cls := "java/lang/Object", name := "getClass", desc := "()Ljava/lang/Class;" } : Jvm.MethodName) ({ cls := "java/lang/Object", name := "getClass", desc := "()Ljava/lang/Class;" } : Jvm.MethodName)) ∈ lw_all := lw_g (lw_at lw_m2 46 rfl) rfl
theorem q425 : (Jvm.Cond.interfaceEntry "LuckCrates" (99 : Nat)) ∈ lw_tbl := lw_at lw_m2 77 rfl
theorem q426 : (Jvm.Cond.methodLink "LuckCrates" (99 : Nat) ({ cls := "java/util/List", name := "size", desc := "()I" } : Jvm.MethodName)) ∈ lw_all := lw_g (lw_at lw_m2 78 rfl) rfl
theorem q434 : (Jvm.Cond.interfaceEntry "LuckCrates" (190 : Nat)) ∈ lw_tbl := lw_at lw_m2 86 rfl
theorem q435 : (Jvm.Cond.methodLink "LuckCrates" (190 : Nat) ({ cls := "java/util/List", name := "remove", desc := "(I)Ljava/lang/Object;" } : Jvm.MethodName)) ∈ lw_all := lw_g (lw_at lw_m2 87 rfl) rfl
theorem q454 : (Jvm.Cond.methodLink "LuckCrates" (199 : Nat) ({ cls := "LuckCrates$Coast", name := "after", desc := "(I)LLuckCrates$Coast;" } : Jvm.MethodName)) ∈ lw_all := lw_g (lw_at lw_m2 106 rfl) rfl
theorem q501 : (Jvm.Cond.privateMethod ({ cls := "LuckCrates", name := "draw", desc := "(I)I" } : Jvm.MethodName)) ∈ lw_tbl := lw_at lw_m2 153 rfl
theorem q502 : (Jvm.Cond.instanceMethod ({ cls := "LuckCrates", name := "draw", desc := "(I)I" } : Jvm.MethodName)) ∈ lw_all := lw_g (lw_at lw_m2 154 rfl) rfl
theorem q503 : (Jvm.Cond.code ({ cls := "LuckCrates", name := "draw", desc := "(I)I" } : Jvm.MethodName) prog_1_method_52_code (2 : Nat) (Option.some Jvm.ClassFile.FieldType.int)) ∈ lw_all := lw_g (lw_at lw_m2 155 rfl) rfl
theorem q504 : (Jvm.Cond.constant "LuckCrates" (317 : Nat) (1103515245 : Int32)) ∈ lw_all := lw_g (lw_at lw_m2 156 rfl) rfl
theorem q595 : (Jvm.Cond.instanceMethod ({ cls := "LuckCrates", name := "undo", desc := "()I" } : Jvm.MethodName)) ∈ lw_all := lw_g (lw_at lw_m3 7 rfl) rfl
theorem q596 : (Jvm.Cond.selects "LuckCrates" ({ cls := "LuckCrates", name := "undo", desc := "()I" } : Jvm.MethodName) ({ cls := "LuckCrates", name := "undo", desc := "()I" } : Jvm.MethodName)) ∈ lw_all := lw_g (lw_at lw_m3 8 rfl) rfl
theorem q597 : (Jvm.Cond.code ({ cls := "LuckCrates", name := "undo", desc := "()I" } : Jvm.MethodName) prog_1_method_22_code (1 : Nat) (Option.some Jvm.ClassFile.FieldType.int)) ∈ lw_all := lw_g (lw_at lw_m3 9 rfl) rfl
theorem q598 : (Jvm.Cond.interfaceEntry "LuckCrates" (234 : Nat)) ∈ lw_tbl := lw_at lw_m3 10 rfl
theorem q599 : (Jvm.Cond.methodLink "LuckCrates" (234 : Nat) ({ cls := "java/util/List", name := "isEmpty", desc := "()Z" } : Jvm.MethodName)) ∈ lw_all := lw_g (lw_at lw_m3 11 rfl) rfl
theorem q608 : (Jvm.Cond.instanceMethod ({ cls := "LuckCrates", name := "forget", desc := "()V" } : Jvm.MethodName)) ∈ lw_all := lw_g (lw_at lw_m3 20 rfl) rfl
theorem q609 : (Jvm.Cond.selects "LuckCrates" ({ cls := "LuckCrates", name := "forget", desc := "()V" } : Jvm.MethodName) ({ cls := "LuckCrates", name := "forget", desc := "()V" } : Jvm.MethodName)) ∈ lw_all := lw_g (lw_at lw_m3 21 rfl) rfl
theorem q610 : (Jvm.Cond.code ({ cls := "LuckCrates", name := "forget", desc := "()V" } : Jvm.MethodName) prog_1_method_41_code (1 : Nat) (Option.none : Option Jvm.ClassFile.FieldType)) ∈ lw_all := lw_g (lw_at lw_m3 22 rfl) rfl
theorem q612 : (Jvm.Cond.instanceMethod ({ cls := "LuckCrates", name := "missed", desc := "()I" } : Jvm.MethodName)) ∈ lw_all := lw_g (lw_at lw_m3 24 rfl) rfl
theorem q613 : (Jvm.Cond.selects "LuckCrates" ({ cls := "LuckCrates", name := "missed", desc := "()I" } : Jvm.MethodName) ({ cls := "LuckCrates", name := "missed", desc := "()I" } : Jvm.MethodName)) ∈ lw_all := lw_g (lw_at lw_m3 25 rfl) rfl
theorem q614 : (Jvm.Cond.code ({ cls := "LuckCrates", name := "missed", desc := "()I" } : Jvm.MethodName) prog_1_method_49_code (6 : Nat) (Option.some Jvm.ClassFile.FieldType.int)) ∈ lw_all := lw_g (lw_at lw_m3 26 rfl) rfl
theorem q615 : (Jvm.Cond.methodLink "LuckCrates" (205 : Nat) ({ cls := "LuckCrates$Coast", name := "lies", desc := "(I)Z" } : Jvm.MethodName)) ∈ lw_all := lw_g (lw_at lw_m3 27 rfl) rfl
theorem q616 : (Jvm.Cond.methodLink "LuckCrates" (219 : Nat) ({ cls := "LuckCrates$Coast", name := "open", desc := "(I)I" } : Jvm.MethodName)) ∈ lw_all := lw_g (lw_at lw_m3 28 rfl) rfl
theorem q624 : (Jvm.Cond.methodLink "LuckCrates" (231 : Nat) ({ cls := "LuckCrates$Coast", name := "lose", desc := "(I)V" } : Jvm.MethodName)) ∈ lw_all := lw_g (lw_at lw_m3 36 rfl) rfl
theorem q625 : (Jvm.Cond.methodLink "LuckCrates" (306 : Nat) ({ cls := "LuckCrates", name := "wonIn", desc := "(LLuckCrates$Coast;I)I" } : Jvm.MethodName)) ∈ lw_all := lw_g (lw_at lw_m3 37 rfl) rfl
theorem q626 : (Jvm.Cond.privateMethod ({ cls := "LuckCrates", name := "wonIn", desc := "(LLuckCrates$Coast;I)I" } : Jvm.MethodName)) ∈ lw_tbl := lw_at lw_m3 38 rfl
theorem q627 : (Jvm.Cond.instanceMethod ({ cls := "LuckCrates", name := "wonIn", desc := "(LLuckCrates$Coast;I)I" } : Jvm.MethodName)) ∈ lw_all := lw_g (lw_at lw_m3 39 rfl) rfl
theorem q628 : (Jvm.Cond.code ({ cls := "LuckCrates", name := "wonIn", desc := "(LLuckCrates$Coast;I)I" } : Jvm.MethodName) prog_1_method_47_code (3 : Nat) (Option.some Jvm.ClassFile.FieldType.int)) ∈ lw_all := lw_g (lw_at lw_m3 40 rfl) rfl
theorem q629 : (Jvm.Cond.methodLink "LuckCrates" (113 : Nat) ({ cls := "LuckCrates$Coast", name := "sum", desc := "([I)I" } : Jvm.MethodName)) ∈ lw_all := lw_g (lw_at lw_m3 41 rfl) rfl
theorem q634 : (Jvm.Cond.instanceMethod ({ cls := "LuckCrates", name := "hub", desc := "()I" } : Jvm.MethodName)) ∈ lw_all := lw_g (lw_at lw_m3 46 rfl) rfl
theorem q635 : (Jvm.Cond.selects "LuckCrates" ({ cls := "LuckCrates", name := "hub", desc := "()I" } : Jvm.MethodName) ({ cls := "LuckCrates", name := "hub", desc := "()I" } : Jvm.MethodName)) ∈ lw_all := lw_g (lw_at lw_m3 47 rfl) rfl
theorem q636 : (Jvm.Cond.code ({ cls := "LuckCrates", name := "hub", desc := "()I" } : Jvm.MethodName) prog_1_method_60_code (7 : Nat) (Option.some Jvm.ClassFile.FieldType.int)) ∈ lw_all := lw_g (lw_at lw_m3 48 rfl) rfl
theorem q637 : (Jvm.Cond.constant "LuckCrates" (249 : Nat) (100000 : Int32)) ∈ lw_all := lw_g (lw_at lw_m3 49 rfl) rfl
theorem q638 : (Jvm.Cond.methodLink "LuckCrates" (92 : Nat) ({ cls := "LuckCrates$Province", name := "towns", desc := "()I" } : Jvm.MethodName)) ∈ lw_all := lw_g (lw_at lw_m3 50 rfl) rfl
theorem q639 : (Jvm.Cond.methodLink "LuckCrates" (250 : Nat) ({ cls := "LuckCrates$Province", name := "least", desc := "(IZ)[I" } : Jvm.MethodName)) ∈ lw_all := lw_g (lw_at lw_m3 51 rfl) rfl
theorem q653 : (Jvm.Cond.methodLink "LuckCrates" (257 : Nat) ({ cls := "java/lang/Math", name := "max", desc := "(II)I" } : Jvm.MethodName)) ∈ lw_all := lw_g (lw_at lw_m3 65 rfl) rfl
theorem q655 : (Jvm.Cond.instanceMethod ({ cls := "LuckCrates", name := "spoilt", desc := "()I" } : Jvm.MethodName)) ∈ lw_all := lw_g (lw_at lw_m3 67 rfl) rfl
theorem q656 : (Jvm.Cond.selects "LuckCrates" ({ cls := "LuckCrates", name := "spoilt", desc := "()I" } : Jvm.MethodName) ({ cls := "LuckCrates", name := "spoilt", desc := "()I" } : Jvm.MethodName)) ∈ lw_all := lw_g (lw_at lw_m3 68 rfl) rfl
theorem q657 : (Jvm.Cond.code ({ cls := "LuckCrates", name := "spoilt", desc := "()I" } : Jvm.MethodName) prog_1_method_67_code (3 : Nat) (Option.some Jvm.ClassFile.FieldType.int)) ∈ lw_all := lw_g (lw_at lw_m3 69 rfl) rfl
theorem q658 : (Jvm.Cond.methodLink "LuckCrates" (127 : Nat) ({ cls := "LuckCrates$Coast", name := "goes", desc := "(I)Z" } : Jvm.MethodName)) ∈ lw_all := lw_g (lw_at lw_m3 70 rfl) rfl
theorem q660 : (Jvm.Cond.instanceMethod ({ cls := "LuckCrates", name := "image", desc := "()V" } : Jvm.MethodName)) ∈ lw_all := lw_g (lw_at lw_m3 72 rfl) rfl
theorem q661 : (Jvm.Cond.selects "LuckCrates" ({ cls := "LuckCrates", name := "image", desc := "()V" } : Jvm.MethodName) ({ cls := "LuckCrates", name := "image", desc := "()V" } : Jvm.MethodName)) ∈ lw_all := lw_g (lw_at lw_m3 73 rfl) rfl
theorem q662 : (Jvm.Cond.code ({ cls := "LuckCrates", name := "image", desc := "()V" } : Jvm.MethodName) prog_1_method_68_code (1 : Nat) (Option.none : Option Jvm.ClassFile.FieldType)) ∈ lw_all := lw_g (lw_at lw_m3 74 rfl) rfl
theorem q663 : (Jvm.Cond.methodLink "LuckCrates" (345 : Nat) ({ cls := "java/util/ArrayList", name := "<init>", desc := "(Ljava/util/Collection;)V" } : Jvm.MethodName)) ∈ lw_all := lw_g (lw_at lw_m3 75 rfl) rfl
theorem q688 : (Jvm.Cond.instanceMethod ({ cls := "LuckCrates", name := "restore", desc := "()Z" } : Jvm.MethodName)) ∈ lw_all := lw_g (lw_at lw_m3 100 rfl) rfl
theorem q689 : (Jvm.Cond.selects "LuckCrates" ({ cls := "LuckCrates", name := "restore", desc := "()Z" } : Jvm.MethodName) ({ cls := "LuckCrates", name := "restore", desc := "()Z" } : Jvm.MethodName)) ∈ lw_all := lw_g (lw_at lw_m3 101 rfl) rfl
theorem q690 : (Jvm.Cond.code ({ cls := "LuckCrates", name := "restore", desc := "()Z" } : Jvm.MethodName) prog_1_method_69_code (1 : Nat) (Option.some Jvm.ClassFile.FieldType.boolean)) ∈ lw_all := lw_g (lw_at lw_m3 102 rfl) rfl
theorem q696 : (Jvm.Cond.instanceMethod ({ cls := "LuckCrates", name := "province", desc := "(I)I" } : Jvm.MethodName)) ∈ lw_all := lw_g (lw_at lw_m3 108 rfl) rfl
theorem q697 : (Jvm.Cond.selects "LuckCrates" ({ cls := "LuckCrates", name := "province", desc := "(I)I" } : Jvm.MethodName) ({ cls := "LuckCrates", name := "province", desc := "(I)I" } : Jvm.MethodName)) ∈ lw_all := lw_g (lw_at lw_m3 109 rfl) rfl
theorem q698 : (Jvm.Cond.codeWith ({ cls := "LuckCrates", name := "province", desc := "(I)I" } : Jvm.MethodName) prog_1_method_7_code (4 : Nat) (Option.some Jvm.ClassFile.FieldType.int) [((40 : Nat), (48 : Nat), (51 : Nat), (78 : Nat))]) ∈ lw_all := lw_g (lw_at lw_m3 110 rfl) rfl
theorem q699 : (Jvm.Cond.classLink "LuckCrates" (78 : Nat) "LuckCrates$Wrong") ∈ lw_all := lw_g (lw_at lw_m3 111 rfl) rfl
theorem q700 : (Jvm.Cond.methodLink "LuckCrates" (65 : Nat) ({ cls := "LuckCrates", name := "right", desc := "(Z)V" } : Jvm.MethodName)) ∈ lw_all := lw_g (lw_at lw_m3 112 rfl) rfl
theorem q701 : (Jvm.Cond.static ({ cls := "LuckCrates", name := "right", desc := "(Z)V" } : Jvm.MethodName)) ∈ lw_all := lw_g (lw_at lw_m3 113 rfl) rfl
theorem q702 : (Jvm.Cond.code ({ cls := "LuckCrates", name := "right", desc := "(Z)V" } : Jvm.MethodName) prog_1_method_3_code (1 : Nat) (Option.none : Option Jvm.ClassFile.FieldType)) ∈ lw_all := lw_g (lw_at lw_m3 114 rfl) rfl
theorem q703 : (Jvm.Cond.classLink "LuckCrates" (7 : Nat) "java/lang/IllegalArgumentException") ∈ lw_all := lw_g (lw_at lw_m3 115 rfl) rfl
theorem q744 : (Jvm.Cond.methodLink "LuckCrates" (9 : Nat) ({ cls := "java/lang/IllegalArgumentException", name := "<init>", desc := "()V" } : Jvm.MethodName)) ∈ lw_all := lw_g (lw_at lw_m3 156 rfl) rfl
theorem q767 : (Jvm.Cond.classLink "LuckCrates" (69 : Nat) "LuckCrates$Reader") ∈ lw_all := lw_g (lw_at lw_m3 179 rfl) rfl
theorem q769 : (Jvm.Cond.methodLink "LuckCrates" (71 : Nat) ({ cls := "LuckCrates$Reader", name := "<init>", desc := "(LLuckCrates;I)V" } : Jvm.MethodName)) ∈ lw_all := lw_g (lw_at lw_m3 181 rfl) rfl
theorem q788 : (Jvm.Cond.fieldLinkNest "LuckCrates" (86 : Nat) "LuckCrates$Reader" "begun" "LLuckCrates$Coast;" "LuckCrates") ∈ lw_tbl := lw_at lw_m3 200 rfl
theorem q793 : (Jvm.Cond.fieldLinkNest "LuckCrates" (80 : Nat) "LuckCrates$Reader" "begins" "I" "LuckCrates") ∈ lw_tbl := lw_at lw_m3 205 rfl
theorem q818 : (Jvm.Cond.methodLink "LuckCrates" (74 : Nat) ({ cls := "LuckCrates$Reader", name := "read", desc := "()LLuckCrates$Province;" } : Jvm.MethodName)) ∈ lw_all := lw_g (lw_at lw_m3 230 rfl) rfl
theorem q964 : (Jvm.Cond.fieldLinkNest "LuckCrates" (83 : Nat) "LuckCrates$Wrong" "kind" "I" "LuckCrates") ∈ lw_tbl := lw_at lw_m4 136 rfl
theorem q1026 : (Jvm.Cond.fieldLinkNest "LuckCrates" (333 : Nat) "LuckCrates$Way" "a" "I" "LuckCrates") ∈ lw_tbl := lw_at lw_m4 198 rfl
theorem q1029 : (Jvm.Cond.fieldLinkNest "LuckCrates" (339 : Nat) "LuckCrates$Way" "b" "I" "LuckCrates") ∈ lw_tbl := lw_at lw_m4 201 rfl
theorem q1032 : (Jvm.Cond.fieldLinkNest "LuckCrates" (211 : Nat) "LuckCrates$Way" "days" "I" "LuckCrates") ∈ lw_tbl := lw_at lw_m4 204 rfl
theorem q1035 : (Jvm.Cond.fieldLinkNest "LuckCrates" (217 : Nat) "LuckCrates$Way" "leak" "I" "LuckCrates") ∈ lw_tbl := lw_at lw_m4 207 rfl
theorem q1244 : (Jvm.Cond.instanceMethod ({ cls := "LuckCrates", name := "count", desc := "(I)I" } : Jvm.MethodName)) ∈ lw_all := lw_g (lw_at lw_m5 176 rfl) rfl
theorem q1245 : (Jvm.Cond.selects "LuckCrates" ({ cls := "LuckCrates", name := "count", desc := "(I)I" } : Jvm.MethodName) ({ cls := "LuckCrates", name := "count", desc := "(I)I" } : Jvm.MethodName)) ∈ lw_all := lw_g (lw_at lw_m5 177 rfl) rfl
theorem q1246 : (Jvm.Cond.code ({ cls := "LuckCrates", name := "count", desc := "(I)I" } : Jvm.MethodName) prog_1_method_9_code (4 : Nat) (Option.some Jvm.ClassFile.FieldType.int)) ∈ lw_all := lw_g (lw_at lw_m5 178 rfl) rfl
theorem q1247 : (Jvm.Cond.methodLink "LuckCrates" (123 : Nat) ({ cls := "LuckCrates$Coast", name := "lying", desc := "(I)I" } : Jvm.MethodName)) ∈ lw_all := lw_g (lw_at lw_m5 179 rfl) rfl
theorem q1248 : (Jvm.Cond.methodLink "LuckCrates" (138 : Nat) ({ cls := "LuckCrates", name := "found", desc := "(Z)V" } : Jvm.MethodName)) ∈ lw_all := lw_g (lw_at lw_m5 180 rfl) rfl
theorem q1249 : (Jvm.Cond.static ({ cls := "LuckCrates", name := "found", desc := "(Z)V" } : Jvm.MethodName)) ∈ lw_all := lw_g (lw_at lw_m5 181 rfl) rfl
theorem q1250 : (Jvm.Cond.code ({ cls := "LuckCrates", name := "found", desc := "(Z)V" } : Jvm.MethodName) prog_1_method_2_code (1 : Nat) (Option.none : Option Jvm.ClassFile.FieldType)) ∈ lw_all := lw_g (lw_at lw_m5 182 rfl) rfl
theorem q1251 : (Jvm.Cond.classLink "LuckCrates" (1 : Nat) "java/util/NoSuchElementException") ∈ lw_all := lw_g (lw_at lw_m5 183 rfl) rfl
theorem q1260 : (Jvm.Cond.methodLink "LuckCrates" (3 : Nat) ({ cls := "java/util/NoSuchElementException", name := "<init>", desc := "()V" } : Jvm.MethodName)) ∈ lw_all := lw_g (lw_at lw_m5 192 rfl) rfl
theorem q1270 : (Jvm.Cond.instanceMethod ({ cls := "LuckCrates", name := "town", desc := "(II)I" } : Jvm.MethodName)) ∈ lw_all := lw_g (lw_at lw_m5 202 rfl) rfl
theorem q1271 : (Jvm.Cond.selects "LuckCrates" ({ cls := "LuckCrates", name := "town", desc := "(II)I" } : Jvm.MethodName) ({ cls := "LuckCrates", name := "town", desc := "(II)I" } : Jvm.MethodName)) ∈ lw_all := lw_g (lw_at lw_m5 203 rfl) rfl
theorem q1272 : (Jvm.Cond.code ({ cls := "LuckCrates", name := "town", desc := "(II)I" } : Jvm.MethodName) prog_1_method_13_code (3 : Nat) (Option.some Jvm.ClassFile.FieldType.int)) ∈ lw_all := lw_g (lw_at lw_m5 204 rfl) rfl
theorem q1273 : (Jvm.Cond.methodLink "LuckCrates" (141 : Nat) ({ cls := "LuckCrates", name := "aTown", desc := "(I)V" } : Jvm.MethodName)) ∈ lw_all := lw_g (lw_at lw_m5 205 rfl) rfl
theorem q1274 : (Jvm.Cond.privateMethod ({ cls := "LuckCrates", name := "aTown", desc := "(I)V" } : Jvm.MethodName)) ∈ lw_tbl := lw_at lw_m5 206 rfl
theorem q1275 : (Jvm.Cond.instanceMethod ({ cls := "LuckCrates", name := "aTown", desc := "(I)V" } : Jvm.MethodName)) ∈ lw_all := lw_g (lw_at lw_m5 207 rfl) rfl
theorem q1276 : (Jvm.Cond.code ({ cls := "LuckCrates", name := "aTown", desc := "(I)V" } : Jvm.MethodName) prog_1_method_10_code (2 : Nat) (Option.none : Option Jvm.ClassFile.FieldType)) ∈ lw_all := lw_g (lw_at lw_m5 208 rfl) rfl
theorem q1277 : (Jvm.Cond.interfaceEntry "LuckCrates" (148 : Nat)) ∈ lw_tbl := lw_at lw_m5 209 rfl
theorem q1278 : (Jvm.Cond.methodLink "LuckCrates" (148 : Nat) ({ cls := "java/util/List", name := "get", desc := "(I)Ljava/lang/Object;" } : Jvm.MethodName)) ∈ lw_all := lw_g (lw_at lw_m5 210 rfl) rfl
theorem q1279 : (Jvm.Cond.classLink "LuckCrates" (152 : Nat) "java/lang/Integer") ∈ lw_all := lw_g (lw_at lw_m5 211 rfl) rfl
theorem q1280 : (Jvm.Cond.methodLink "LuckCrates" (154 : Nat) ({ cls := "java/lang/Integer", name := "intValue", desc := "()I" } : Jvm.MethodName)) ∈ lw_all := lw_g (lw_at lw_m5 212 rfl) rfl
theorem q1281 : (Jvm.Cond.methodLink "LuckCrates" (160 : Nat) ({ cls := "LuckCrates$Coast", name := "odds", desc := "(I)I" } : Jvm.MethodName)) ∈ lw_all := lw_g (lw_at lw_m5 213 rfl) rfl
theorem q1286 : (Jvm.Cond.instanceMethod ({ cls := "LuckCrates", name := "crate", desc := "(II)I" } : Jvm.MethodName)) ∈ lw_all := lw_g (lw_at lw_m5 218 rfl) rfl
theorem q1287 : (Jvm.Cond.selects "LuckCrates" ({ cls := "LuckCrates", name := "crate", desc := "(II)I" } : Jvm.MethodName) ({ cls := "LuckCrates", name := "crate", desc := "(II)I" } : Jvm.MethodName)) ∈ lw_all := lw_g (lw_at lw_m5 219 rfl) rfl
theorem q1288 : (Jvm.Cond.code ({ cls := "LuckCrates", name := "crate", desc := "(II)I" } : Jvm.MethodName) prog_1_method_14_code (3 : Nat) (Option.some Jvm.ClassFile.FieldType.int)) ∈ lw_all := lw_g (lw_at lw_m5 220 rfl) rfl
theorem q1289 : (Jvm.Cond.methodLink "LuckCrates" (163 : Nat) ({ cls := "LuckCrates", name := "aCrate", desc := "(I)V" } : Jvm.MethodName)) ∈ lw_all := lw_g (lw_at lw_m5 221 rfl) rfl
theorem q1290 : (Jvm.Cond.privateMethod ({ cls := "LuckCrates", name := "aCrate", desc := "(I)V" } : Jvm.MethodName)) ∈ lw_tbl := lw_at lw_m5 222 rfl
theorem q1291 : (Jvm.Cond.instanceMethod ({ cls := "LuckCrates", name := "aCrate", desc := "(I)V" } : Jvm.MethodName)) ∈ lw_all := lw_g (lw_at lw_m5 223 rfl) rfl
theorem q1292 : (Jvm.Cond.code ({ cls := "LuckCrates", name := "aCrate", desc := "(I)V" } : Jvm.MethodName) prog_1_method_11_code (2 : Nat) (Option.none : Option Jvm.ClassFile.FieldType)) ∈ lw_all := lw_g (lw_at lw_m5 224 rfl) rfl
theorem q1293 : (Jvm.Cond.methodLink "LuckCrates" (166 : Nat) ({ cls := "LuckCrates", name := "oneOf", desc := "(II)V" } : Jvm.MethodName)) ∈ lw_all := lw_g (lw_at lw_m5 225 rfl) rfl
theorem q1294 : (Jvm.Cond.static ({ cls := "LuckCrates", name := "oneOf", desc := "(II)V" } : Jvm.MethodName)) ∈ lw_all := lw_g (lw_at lw_m5 226 rfl) rfl
theorem q1295 : (Jvm.Cond.code ({ cls := "LuckCrates", name := "oneOf", desc := "(II)V" } : Jvm.MethodName) prog_1_method_12_code (2 : Nat) (Option.none : Option Jvm.ClassFile.FieldType)) ∈ lw_all := lw_g (lw_at lw_m5 227 rfl) rfl
theorem q1300 : (Jvm.Cond.instanceMethod ({ cls := "LuckCrates", name := "send", desc := "(II)I" } : Jvm.MethodName)) ∈ lw_all := lw_g (lw_at lw_m5 232 rfl) rfl
theorem q1301 : (Jvm.Cond.selects "LuckCrates" ({ cls := "LuckCrates", name := "send", desc := "(II)I" } : Jvm.MethodName) ({ cls := "LuckCrates", name := "send", desc := "(II)I" } : Jvm.MethodName)) ∈ lw_all := lw_g (lw_at lw_m5 233 rfl) rfl
theorem q1302 : (Jvm.Cond.code ({ cls := "LuckCrates", name := "send", desc := "(II)I" } : Jvm.MethodName) prog_1_method_18_code (4 : Nat) (Option.some Jvm.ClassFile.FieldType.int)) ∈ lw_all := lw_g (lw_at lw_m5 234 rfl) rfl
theorem q1303 : (Jvm.Cond.classLink "LuckCrates" (203 : Nat) "LuckCrates$Way") ∈ lw_all := lw_g (lw_at lw_m5 235 rfl) rfl
theorem q1304 : (Jvm.Cond.methodLink "LuckCrates" (208 : Nat) ({ cls := "LuckCrates$Way", name := "from", desc := "(I)I" } : Jvm.MethodName)) ∈ lw_all := lw_g (lw_at lw_m5 236 rfl) rfl
theorem q1309 : (Jvm.Cond.instanceMethod ({ cls := "LuckCrates", name := "open", desc := "(I)I" } : Jvm.MethodName)) ∈ lw_all := lw_g (lw_at lw_m6 1 rfl) rfl
theorem q1310 : (Jvm.Cond.selects "LuckCrates" ({ cls := "LuckCrates", name := "open", desc := "(I)I" } : Jvm.MethodName) ({ cls := "LuckCrates", name := "open", desc := "(I)I" } : Jvm.MethodName)) ∈ lw_all := lw_g (lw_at lw_m6 2 rfl) rfl
theorem q1311 : (Jvm.Cond.code ({ cls := "LuckCrates", name := "open", desc := "(I)I" } : Jvm.MethodName) prog_1_method_19_code (2 : Nat) (Option.some Jvm.ClassFile.FieldType.int)) ∈ lw_all := lw_g (lw_at lw_m6 3 rfl) rfl
theorem q1316 : (Jvm.Cond.instanceMethod ({ cls := "LuckCrates", name := "cat", desc := "(IZ)Z" } : Jvm.MethodName)) ∈ lw_all := lw_g (lw_at lw_m6 8 rfl) rfl
theorem q1317 : (Jvm.Cond.selects "LuckCrates" ({ cls := "LuckCrates", name := "cat", desc := "(IZ)Z" } : Jvm.MethodName) ({ cls := "LuckCrates", name := "cat", desc := "(IZ)Z" } : Jvm.MethodName)) ∈ lw_all := lw_g (lw_at lw_m6 9 rfl) rfl
theorem q1318 : (Jvm.Cond.code ({ cls := "LuckCrates", name := "cat", desc := "(IZ)Z" } : Jvm.MethodName) prog_1_method_20_code (3 : Nat) (Option.some Jvm.ClassFile.FieldType.boolean)) ∈ lw_all := lw_g (lw_at lw_m6 10 rfl) rfl
theorem q1323 : (Jvm.Cond.instanceMethod ({ cls := "LuckCrates", name := "mix", desc := "(II)I" } : Jvm.MethodName)) ∈ lw_all := lw_g (lw_at lw_m6 15 rfl) rfl
theorem q1324 : (Jvm.Cond.selects "LuckCrates" ({ cls := "LuckCrates", name := "mix", desc := "(II)I" } : Jvm.MethodName) ({ cls := "LuckCrates", name := "mix", desc := "(II)I" } : Jvm.MethodName)) ∈ lw_all := lw_g (lw_at lw_m6 16 rfl) rfl
theorem q1325 : (Jvm.Cond.code ({ cls := "LuckCrates", name := "mix", desc := "(II)I" } : Jvm.MethodName) prog_1_method_21_code (5 : Nat) (Option.some Jvm.ClassFile.FieldType.int)) ∈ lw_all := lw_g (lw_at lw_m6 17 rfl) rfl
theorem q1326 : (Jvm.Cond.methodLink "LuckCrates" (222 : Nat) ({ cls := "java/lang/Math", name := "min", desc := "(II)I" } : Jvm.MethodName)) ∈ lw_all := lw_g (lw_at lw_m6 18 rfl) rfl
theorem q1327 : (Jvm.Cond.methodLink "LuckCrates" (228 : Nat) ({ cls := "java/lang/Math", name := "abs", desc := "(I)I" } : Jvm.MethodName)) ∈ lw_all := lw_g (lw_at lw_m6 19 rfl) rfl
theorem q1334 : (Jvm.Cond.instanceMethod ({ cls := "LuckCrates", name := "then", desc := "(III)I" } : Jvm.MethodName)) ∈ lw_all := lw_g (lw_at lw_m6 26 rfl) rfl
theorem q1335 : (Jvm.Cond.selects "LuckCrates" ({ cls := "LuckCrates", name := "then", desc := "(III)I" } : Jvm.MethodName) ({ cls := "LuckCrates", name := "then", desc := "(III)I" } : Jvm.MethodName)) ∈ lw_all := lw_g (lw_at lw_m6 27 rfl) rfl
theorem q1336 : (Jvm.Cond.code ({ cls := "LuckCrates", name := "then", desc := "(III)I" } : Jvm.MethodName) prog_1_method_23_code (5 : Nat) (Option.some Jvm.ClassFile.FieldType.int)) ∈ lw_all := lw_g (lw_at lw_m6 28 rfl) rfl
theorem q1341 : (Jvm.Cond.instanceMethod ({ cls := "LuckCrates", name := "even", desc := "(I)I" } : Jvm.MethodName)) ∈ lw_all := lw_g (lw_at lw_m6 33 rfl) rfl
theorem q1342 : (Jvm.Cond.selects "LuckCrates" ({ cls := "LuckCrates", name := "even", desc := "(I)I" } : Jvm.MethodName) ({ cls := "LuckCrates", name := "even", desc := "(I)I" } : Jvm.MethodName)) ∈ lw_all := lw_g (lw_at lw_m6 34 rfl) rfl
theorem q1343 : (Jvm.Cond.code ({ cls := "LuckCrates", name := "even", desc := "(I)I" } : Jvm.MethodName) prog_1_method_24_code (4 : Nat) (Option.some Jvm.ClassFile.FieldType.int)) ∈ lw_all := lw_g (lw_at lw_m6 35 rfl) rfl
theorem q1344 : (Jvm.Cond.methodLink "LuckCrates" (238 : Nat) ({ cls := "LuckCrates$Coast", name := "pass", desc := "(Z)LLuckCrates$Coast;" } : Jvm.MethodName)) ∈ lw_all := lw_g (lw_at lw_m6 36 rfl) rfl
theorem q1349 : (Jvm.Cond.instanceMethod ({ cls := "LuckCrates", name := "out", desc := "(I)I" } : Jvm.MethodName)) ∈ lw_all := lw_g (lw_at lw_m6 41 rfl) rfl
theorem q1350 : (Jvm.Cond.selects "LuckCrates" ({ cls := "LuckCrates", name := "out", desc := "(I)I" } : Jvm.MethodName) ({ cls := "LuckCrates", name := "out", desc := "(I)I" } : Jvm.MethodName)) ∈ lw_all := lw_g (lw_at lw_m6 42 rfl) rfl
theorem q1351 : (Jvm.Cond.code ({ cls := "LuckCrates", name := "out", desc := "(I)I" } : Jvm.MethodName) prog_1_method_25_code (4 : Nat) (Option.some Jvm.ClassFile.FieldType.int)) ∈ lw_all := lw_g (lw_at lw_m6 43 rfl) rfl
theorem q1352 : (Jvm.Cond.methodLink "LuckCrates" (245 : Nat) ({ cls := "LuckCrates", name := "isOf", desc := "(II)Z" } : Jvm.MethodName)) ∈ lw_all := lw_g (lw_at lw_m6 44 rfl) rfl
theorem q1353 : (Jvm.Cond.static ({ cls := "LuckCrates", name := "isOf", desc := "(II)Z" } : Jvm.MethodName)) ∈ lw_all := lw_g (lw_at lw_m6 45 rfl) rfl
theorem q1354 : (Jvm.Cond.code ({ cls := "LuckCrates", name := "isOf", desc := "(II)Z" } : Jvm.MethodName) prog_1_method_4_code (2 : Nat) (Option.some Jvm.ClassFile.FieldType.boolean)) ∈ lw_all := lw_g (lw_at lw_m6 46 rfl) rfl
theorem q1359 : (Jvm.Cond.instanceMethod ({ cls := "LuckCrates", name := "luckiest", desc := "(I)I" } : Jvm.MethodName)) ∈ lw_all := lw_g (lw_at lw_m6 51 rfl) rfl
theorem q1360 : (Jvm.Cond.selects "LuckCrates" ({ cls := "LuckCrates", name := "luckiest", desc := "(I)I" } : Jvm.MethodName) ({ cls := "LuckCrates", name := "luckiest", desc := "(I)I" } : Jvm.MethodName)) ∈ lw_all := lw_g (lw_at lw_m6 52 rfl) rfl
theorem q1361 : (Jvm.Cond.code ({ cls := "LuckCrates", name := "luckiest", desc := "(I)I" } : Jvm.MethodName) prog_1_method_26_code (5 : Nat) (Option.some Jvm.ClassFile.FieldType.int)) ∈ lw_all := lw_g (lw_at lw_m6 53 rfl) rfl
theorem q1366 : (Jvm.Cond.instanceMethod ({ cls := "LuckCrates", name := "far", desc := "(II)I" } : Jvm.MethodName)) ∈ lw_all := lw_g (lw_at lw_m6 58 rfl) rfl
theorem q1367 : (Jvm.Cond.selects "LuckCrates" ({ cls := "LuckCrates", name := "far", desc := "(II)I" } : Jvm.MethodName) ({ cls := "LuckCrates", name := "far", desc := "(II)I" } : Jvm.MethodName)) ∈ lw_all := lw_g (lw_at lw_m6 59 rfl) rfl
theorem q1368 : (Jvm.Cond.code ({ cls := "LuckCrates", name := "far", desc := "(II)I" } : Jvm.MethodName) prog_1_method_28_code (3 : Nat) (Option.some Jvm.ClassFile.FieldType.int)) ∈ lw_all := lw_g (lw_at lw_m6 60 rfl) rfl
theorem q1369 : (Jvm.Cond.methodLink "LuckCrates" (254 : Nat) ({ cls := "LuckCrates", name := "told", desc := "(I)I" } : Jvm.MethodName)) ∈ lw_all := lw_g (lw_at lw_m6 61 rfl) rfl
theorem q1370 : (Jvm.Cond.static ({ cls := "LuckCrates", name := "told", desc := "(I)I" } : Jvm.MethodName)) ∈ lw_all := lw_g (lw_at lw_m6 62 rfl) rfl
theorem q1371 : (Jvm.Cond.code ({ cls := "LuckCrates", name := "told", desc := "(I)I" } : Jvm.MethodName) prog_1_method_27_code (1 : Nat) (Option.some Jvm.ClassFile.FieldType.int)) ∈ lw_all := lw_g (lw_at lw_m6 63 rfl) rfl
theorem q1376 : (Jvm.Cond.instanceMethod ({ cls := "LuckCrates", name := "leak", desc := "(II)I" } : Jvm.MethodName)) ∈ lw_all := lw_g (lw_at lw_m6 68 rfl) rfl
theorem q1377 : (Jvm.Cond.selects "LuckCrates" ({ cls := "LuckCrates", name := "leak", desc := "(II)I" } : Jvm.MethodName) ({ cls := "LuckCrates", name := "leak", desc := "(II)I" } : Jvm.MethodName)) ∈ lw_all := lw_g (lw_at lw_m6 69 rfl) rfl
theorem q1378 : (Jvm.Cond.code ({ cls := "LuckCrates", name := "leak", desc := "(II)I" } : Jvm.MethodName) prog_1_method_29_code (3 : Nat) (Option.some Jvm.ClassFile.FieldType.int)) ∈ lw_all := lw_g (lw_at lw_m6 70 rfl) rfl
theorem q1383 : (Jvm.Cond.instanceMethod ({ cls := "LuckCrates", name := "sending", desc := "(II)I" } : Jvm.MethodName)) ∈ lw_all := lw_g (lw_at lw_m6 75 rfl) rfl
theorem q1384 : (Jvm.Cond.selects "LuckCrates" ({ cls := "LuckCrates", name := "sending", desc := "(II)I" } : Jvm.MethodName) ({ cls := "LuckCrates", name := "sending", desc := "(II)I" } : Jvm.MethodName)) ∈ lw_all := lw_g (lw_at lw_m6 76 rfl) rfl
theorem q1385 : (Jvm.Cond.code ({ cls := "LuckCrates", name := "sending", desc := "(II)I" } : Jvm.MethodName) prog_1_method_30_code (10 : Nat) (Option.some Jvm.ClassFile.FieldType.int)) ∈ lw_all := lw_g (lw_at lw_m6 77 rfl) rfl
theorem q1386 : (Jvm.Cond.methodLink "LuckCrates" (260 : Nat) ({ cls := "java/lang/Integer", name := "bitCount", desc := "(I)I" } : Jvm.MethodName)) ∈ lw_all := lw_g (lw_at lw_m6 78 rfl) rfl
theorem q1391 : (Jvm.Cond.instanceMethod ({ cls := "LuckCrates", name := "hold", desc := "(II)I" } : Jvm.MethodName)) ∈ lw_all := lw_g (lw_at lw_m6 83 rfl) rfl
theorem q1392 : (Jvm.Cond.selects "LuckCrates" ({ cls := "LuckCrates", name := "hold", desc := "(II)I" } : Jvm.MethodName) ({ cls := "LuckCrates", name := "hold", desc := "(II)I" } : Jvm.MethodName)) ∈ lw_all := lw_g (lw_at lw_m6 84 rfl) rfl
theorem q1393 : (Jvm.Cond.code ({ cls := "LuckCrates", name := "hold", desc := "(II)I" } : Jvm.MethodName) prog_1_method_33_code (10 : Nat) (Option.some Jvm.ClassFile.FieldType.int)) ∈ lw_all := lw_g (lw_at lw_m6 85 rfl) rfl
theorem q1394 : (Jvm.Cond.methodLink "LuckCrates" (268 : Nat) ({ cls := "LuckCrates", name := "harms", desc := "(I)[[I" } : Jvm.MethodName)) ∈ lw_all := lw_g (lw_at lw_m6 86 rfl) rfl
theorem q1395 : (Jvm.Cond.privateMethod ({ cls := "LuckCrates", name := "harms", desc := "(I)[[I" } : Jvm.MethodName)) ∈ lw_tbl := lw_at lw_m6 87 rfl
theorem q1396 : (Jvm.Cond.instanceMethod ({ cls := "LuckCrates", name := "harms", desc := "(I)[[I" } : Jvm.MethodName)) ∈ lw_all := lw_g (lw_at lw_m6 88 rfl) rfl
theorem q1397 : (Jvm.Cond.code ({ cls := "LuckCrates", name := "harms", desc := "(I)[[I" } : Jvm.MethodName) prog_1_method_32_code (7 : Nat) (Option.some (Jvm.ClassFile.FieldType.array (Jvm.ClassFile.FieldType.array Jvm.ClassFile.FieldType.int)))) ∈ lw_all := lw_g (lw_at lw_m6 89 rfl) rfl
theorem q1398 : (Jvm.Cond.classLink "LuckCrates" (263 : Nat) "[[I") ∈ lw_all := lw_g (lw_at lw_m6 90 rfl) rfl
theorem q1400 : (Jvm.Cond.methodLink "LuckCrates" (265 : Nat) ({ cls := "LuckCrates", name := "harm", desc := "(II)I" } : Jvm.MethodName)) ∈ lw_all := lw_g (lw_at lw_m6 92 rfl) rfl
theorem q1401 : (Jvm.Cond.privateMethod ({ cls := "LuckCrates", name := "harm", desc := "(II)I" } : Jvm.MethodName)) ∈ lw_tbl := lw_at lw_m6 93 rfl
theorem q1402 : (Jvm.Cond.instanceMethod ({ cls := "LuckCrates", name := "harm", desc := "(II)I" } : Jvm.MethodName)) ∈ lw_all := lw_g (lw_at lw_m6 94 rfl) rfl
theorem q1403 : (Jvm.Cond.code ({ cls := "LuckCrates", name := "harm", desc := "(II)I" } : Jvm.MethodName) prog_1_method_31_code (3 : Nat) (Option.some Jvm.ClassFile.FieldType.int)) ∈ lw_all := lw_g (lw_at lw_m6 95 rfl) rfl
theorem q1408 : (Jvm.Cond.instanceMethod ({ cls := "LuckCrates", name := "thrower", desc := "(IIII)I" } : Jvm.MethodName)) ∈ lw_all := lw_g (lw_at lw_m6 100 rfl) rfl
theorem q1409 : (Jvm.Cond.selects "LuckCrates" ({ cls := "LuckCrates", name := "thrower", desc := "(IIII)I" } : Jvm.MethodName) ({ cls := "LuckCrates", name := "thrower", desc := "(IIII)I" } : Jvm.MethodName)) ∈ lw_all := lw_g (lw_at lw_m6 101 rfl) rfl
theorem q1410 : (Jvm.Cond.code ({ cls := "LuckCrates", name := "thrower", desc := "(IIII)I" } : Jvm.MethodName) prog_1_method_36_code (5 : Nat) (Option.some Jvm.ClassFile.FieldType.int)) ∈ lw_all := lw_g (lw_at lw_m6 102 rfl) rfl
theorem q1411 : (Jvm.Cond.methodLink "LuckCrates" (275 : Nat) ({ cls := "LuckCrates", name := "reaches", desc := "(IIII)I" } : Jvm.MethodName)) ∈ lw_all := lw_g (lw_at lw_m6 103 rfl) rfl
theorem q1412 : (Jvm.Cond.static ({ cls := "LuckCrates", name := "reaches", desc := "(IIII)I" } : Jvm.MethodName)) ∈ lw_all := lw_g (lw_at lw_m6 104 rfl) rfl
theorem q1413 : (Jvm.Cond.code ({ cls := "LuckCrates", name := "reaches", desc := "(IIII)I" } : Jvm.MethodName) prog_1_method_35_code (4 : Nat) (Option.some Jvm.ClassFile.FieldType.int)) ∈ lw_all := lw_g (lw_at lw_m6 105 rfl) rfl
theorem q1414 : (Jvm.Cond.methodLink "LuckCrates" (272 : Nat) ({ cls := "LuckCrates", name := "power", desc := "(I)I" } : Jvm.MethodName)) ∈ lw_all := lw_g (lw_at lw_m6 106 rfl) rfl
theorem q1415 : (Jvm.Cond.static ({ cls := "LuckCrates", name := "power", desc := "(I)I" } : Jvm.MethodName)) ∈ lw_all := lw_g (lw_at lw_m6 107 rfl) rfl
theorem q1416 : (Jvm.Cond.code ({ cls := "LuckCrates", name := "power", desc := "(I)I" } : Jvm.MethodName) prog_1_method_34_code (3 : Nat) (Option.some Jvm.ClassFile.FieldType.int)) ∈ lw_all := lw_g (lw_at lw_m6 108 rfl) rfl
theorem q1421 : (Jvm.Cond.instanceMethod ({ cls := "LuckCrates", name := "stop", desc := "(IIII)I" } : Jvm.MethodName)) ∈ lw_all := lw_g (lw_at lw_m6 113 rfl) rfl
theorem q1422 : (Jvm.Cond.selects "LuckCrates" ({ cls := "LuckCrates", name := "stop", desc := "(IIII)I" } : Jvm.MethodName) ({ cls := "LuckCrates", name := "stop", desc := "(IIII)I" } : Jvm.MethodName)) ∈ lw_all := lw_g (lw_at lw_m6 114 rfl) rfl
theorem q1423 : (Jvm.Cond.code ({ cls := "LuckCrates", name := "stop", desc := "(IIII)I" } : Jvm.MethodName) prog_1_method_39_code (5 : Nat) (Option.some Jvm.ClassFile.FieldType.int)) ∈ lw_all := lw_g (lw_at lw_m6 115 rfl) rfl
theorem q1424 : (Jvm.Cond.methodLink "LuckCrates" (283 : Nat) ({ cls := "LuckCrates", name := "average", desc := "(III)I" } : Jvm.MethodName)) ∈ lw_all := lw_g (lw_at lw_m6 116 rfl) rfl
theorem q1425 : (Jvm.Cond.static ({ cls := "LuckCrates", name := "average", desc := "(III)I" } : Jvm.MethodName)) ∈ lw_all := lw_g (lw_at lw_m6 117 rfl) rfl
theorem q1426 : (Jvm.Cond.code ({ cls := "LuckCrates", name := "average", desc := "(III)I" } : Jvm.MethodName) prog_1_method_37_code (3 : Nat) (Option.some Jvm.ClassFile.FieldType.int)) ∈ lw_all := lw_g (lw_at lw_m6 118 rfl) rfl
theorem q1427 : (Jvm.Cond.methodLink "LuckCrates" (279 : Nat) ({ cls := "LuckCrates", name := "going", desc := "(III)I" } : Jvm.MethodName)) ∈ lw_all := lw_g (lw_at lw_m6 119 rfl) rfl
theorem q1428 : (Jvm.Cond.static ({ cls := "LuckCrates", name := "going", desc := "(III)I" } : Jvm.MethodName)) ∈ lw_all := lw_g (lw_at lw_m6 120 rfl) rfl
theorem q1429 : (Jvm.Cond.code ({ cls := "LuckCrates", name := "going", desc := "(III)I" } : Jvm.MethodName) prog_1_method_38_code (3 : Nat) (Option.some Jvm.ClassFile.FieldType.int)) ∈ lw_all := lw_g (lw_at lw_m6 121 rfl) rfl
theorem q1434 : (Jvm.Cond.instanceMethod ({ cls := "LuckCrates", name := "see", desc := "(III)I" } : Jvm.MethodName)) ∈ lw_all := lw_g (lw_at lw_m6 126 rfl) rfl
theorem q1435 : (Jvm.Cond.selects "LuckCrates" ({ cls := "LuckCrates", name := "see", desc := "(III)I" } : Jvm.MethodName) ({ cls := "LuckCrates", name := "see", desc := "(III)I" } : Jvm.MethodName)) ∈ lw_all := lw_g (lw_at lw_m6 127 rfl) rfl
theorem q1436 : (Jvm.Cond.code ({ cls := "LuckCrates", name := "see", desc := "(III)I" } : Jvm.MethodName) prog_1_method_40_code (4 : Nat) (Option.some Jvm.ClassFile.FieldType.int)) ∈ lw_all := lw_g (lw_at lw_m6 128 rfl) rfl
theorem q1441 : (Jvm.Cond.instanceMethod ({ cls := "LuckCrates", name := "opened", desc := "(I)I" } : Jvm.MethodName)) ∈ lw_all := lw_g (lw_at lw_m6 133 rfl) rfl
theorem q1442 : (Jvm.Cond.selects "LuckCrates" ({ cls := "LuckCrates", name := "opened", desc := "(I)I" } : Jvm.MethodName) ({ cls := "LuckCrates", name := "opened", desc := "(I)I" } : Jvm.MethodName)) ∈ lw_all := lw_g (lw_at lw_m6 134 rfl) rfl
theorem q1443 : (Jvm.Cond.code ({ cls := "LuckCrates", name := "opened", desc := "(I)I" } : Jvm.MethodName) prog_1_method_44_code (3 : Nat) (Option.some Jvm.ClassFile.FieldType.int)) ∈ lw_all := lw_g (lw_at lw_m6 135 rfl) rfl
theorem q1444 : (Jvm.Cond.methodLink "LuckCrates" (291 : Nat) ({ cls := "LuckCrates", name := "isSoBy", desc := "(II)Z" } : Jvm.MethodName)) ∈ lw_all := lw_g (lw_at lw_m6 136 rfl) rfl
theorem q1445 : (Jvm.Cond.privateMethod ({ cls := "LuckCrates", name := "isSoBy", desc := "(II)Z" } : Jvm.MethodName)) ∈ lw_tbl := lw_at lw_m6 137 rfl
theorem q1446 : (Jvm.Cond.instanceMethod ({ cls := "LuckCrates", name := "isSoBy", desc := "(II)Z" } : Jvm.MethodName)) ∈ lw_all := lw_g (lw_at lw_m6 138 rfl) rfl
theorem q1447 : (Jvm.Cond.code ({ cls := "LuckCrates", name := "isSoBy", desc := "(II)Z" } : Jvm.MethodName) prog_1_method_42_code (5 : Nat) (Option.some Jvm.ClassFile.FieldType.boolean)) ∈ lw_all := lw_g (lw_at lw_m6 139 rfl) rfl
theorem q1448 : (Jvm.Cond.methodLink "LuckCrates" (286 : Nat) ({ cls := "LuckCrates$Coast", name := "be", desc := "(LLuckCrates$Coast;)LLuckCrates$Coast;" } : Jvm.MethodName)) ∈ lw_all := lw_g (lw_at lw_m6 140 rfl) rfl
theorem q1449 : (Jvm.Cond.classLink "LuckCrates" (290 : Nat) "[I") ∈ lw_all := lw_g (lw_at lw_m6 141 rfl) rfl
theorem q1450 : (Jvm.Cond.methodLink "LuckCrates" (298 : Nat) ({ cls := "LuckCrates", name := "openings", desc := "()Ljava/util/List;" } : Jvm.MethodName)) ∈ lw_all := lw_g (lw_at lw_m6 142 rfl) rfl
theorem q1451 : (Jvm.Cond.privateMethod ({ cls := "LuckCrates", name := "openings", desc := "()Ljava/util/List;" } : Jvm.MethodName)) ∈ lw_tbl := lw_at lw_m6 143 rfl
theorem q1452 : (Jvm.Cond.instanceMethod ({ cls := "LuckCrates", name := "openings", desc := "()Ljava/util/List;" } : Jvm.MethodName)) ∈ lw_all := lw_g (lw_at lw_m6 144 rfl) rfl
theorem q1453 : (Jvm.Cond.code ({ cls := "LuckCrates", name := "openings", desc := "()Ljava/util/List;" } : Jvm.MethodName) prog_1_method_43_code (4 : Nat) (Option.some (Jvm.ClassFile.FieldType.object "java/util/List"))) ∈ lw_all := lw_g (lw_at lw_m6 145 rfl) rfl
theorem q1454 : (Jvm.Cond.methodLink "LuckCrates" (294 : Nat) ({ cls := "java/lang/Integer", name := "valueOf", desc := "(I)Ljava/lang/Integer;" } : Jvm.MethodName)) ∈ lw_all := lw_g (lw_at lw_m6 146 rfl) rfl
theorem q1459 : (Jvm.Cond.instanceMethod ({ cls := "LuckCrates", name := "next", desc := "(I)I" } : Jvm.MethodName)) ∈ lw_all := lw_g (lw_at lw_m6 151 rfl) rfl
theorem q1460 : (Jvm.Cond.selects "LuckCrates" ({ cls := "LuckCrates", name := "next", desc := "(I)I" } : Jvm.MethodName) ({ cls := "LuckCrates", name := "next", desc := "(I)I" } : Jvm.MethodName)) ∈ lw_all := lw_g (lw_at lw_m6 152 rfl) rfl
theorem q1461 : (Jvm.Cond.code ({ cls := "LuckCrates", name := "next", desc := "(I)I" } : Jvm.MethodName) prog_1_method_46_code (10 : Nat) (Option.some Jvm.ClassFile.FieldType.int)) ∈ lw_all := lw_g (lw_at lw_m6 153 rfl) rfl
theorem q1462 : (Jvm.Cond.methodLink "LuckCrates" (302 : Nat) ({ cls := "LuckCrates", name := "isLike", desc := "([I[II)Z" } : Jvm.MethodName)) ∈ lw_all := lw_g (lw_at lw_m6 154 rfl) rfl
theorem q1463 : (Jvm.Cond.static ({ cls := "LuckCrates", name := "isLike", desc := "([I[II)Z" } : Jvm.MethodName)) ∈ lw_all := lw_g (lw_at lw_m6 155 rfl) rfl
theorem q1464 : (Jvm.Cond.code ({ cls := "LuckCrates", name := "isLike", desc := "([I[II)Z" } : Jvm.MethodName) prog_1_method_45_code (4 : Nat) (Option.some Jvm.ClassFile.FieldType.boolean)) ∈ lw_all := lw_g (lw_at lw_m6 156 rfl) rfl
theorem q1469 : (Jvm.Cond.instanceMethod ({ cls := "LuckCrates", name := "pooled", desc := "(I)I" } : Jvm.MethodName)) ∈ lw_all := lw_g (lw_at lw_m6 161 rfl) rfl
theorem q1470 : (Jvm.Cond.selects "LuckCrates" ({ cls := "LuckCrates", name := "pooled", desc := "(I)I" } : Jvm.MethodName) ({ cls := "LuckCrates", name := "pooled", desc := "(I)I" } : Jvm.MethodName)) ∈ lw_all := lw_g (lw_at lw_m6 162 rfl) rfl
theorem q1471 : (Jvm.Cond.code ({ cls := "LuckCrates", name := "pooled", desc := "(I)I" } : Jvm.MethodName) prog_1_method_48_code (4 : Nat) (Option.some Jvm.ClassFile.FieldType.int)) ∈ lw_all := lw_g (lw_at lw_m6 163 rfl) rfl
theorem q1476 : (Jvm.Cond.instanceMethod ({ cls := "LuckCrates", name := "game", desc := "(III)I" } : Jvm.MethodName)) ∈ lw_all := lw_g (lw_at lw_m6 168 rfl) rfl
theorem q1477 : (Jvm.Cond.selects "LuckCrates" ({ cls := "LuckCrates", name := "game", desc := "(III)I" } : Jvm.MethodName) ({ cls := "LuckCrates", name := "game", desc := "(III)I" } : Jvm.MethodName)) ∈ lw_all := lw_g (lw_at lw_m6 169 rfl) rfl
theorem q1478 : (Jvm.Cond.code ({ cls := "LuckCrates", name := "game", desc := "(III)I" } : Jvm.MethodName) prog_1_method_51_code (9 : Nat) (Option.some Jvm.ClassFile.FieldType.int)) ∈ lw_all := lw_g (lw_at lw_m6 170 rfl) rfl
theorem q1479 : (Jvm.Cond.methodLink "LuckCrates" (310 : Nat) ({ cls := "LuckCrates", name := "gains", desc := "(IIII)[I" } : Jvm.MethodName)) ∈ lw_all := lw_g (lw_at lw_m6 171 rfl) rfl
theorem q1480 : (Jvm.Cond.privateMethod ({ cls := "LuckCrates", name := "gains", desc := "(IIII)[I" } : Jvm.MethodName)) ∈ lw_tbl := lw_at lw_m6 172 rfl
theorem q1481 : (Jvm.Cond.instanceMethod ({ cls := "LuckCrates", name := "gains", desc := "(IIII)[I" } : Jvm.MethodName)) ∈ lw_all := lw_g (lw_at lw_m6 173 rfl) rfl
theorem q1482 : (Jvm.Cond.code ({ cls := "LuckCrates", name := "gains", desc := "(IIII)[I" } : Jvm.MethodName) prog_1_method_50_code (8 : Nat) (Option.some (Jvm.ClassFile.FieldType.array Jvm.ClassFile.FieldType.int))) ∈ lw_all := lw_g (lw_at lw_m6 174 rfl) rfl
theorem q1487 : (Jvm.Cond.instanceMethod ({ cls := "LuckCrates", name := "years", desc := "(III)I" } : Jvm.MethodName)) ∈ lw_all := lw_g (lw_at lw_m6 179 rfl) rfl
theorem q1488 : (Jvm.Cond.selects "LuckCrates" ({ cls := "LuckCrates", name := "years", desc := "(III)I" } : Jvm.MethodName) ({ cls := "LuckCrates", name := "years", desc := "(III)I" } : Jvm.MethodName)) ∈ lw_all := lw_g (lw_at lw_m6 180 rfl) rfl
theorem q1489 : (Jvm.Cond.code ({ cls := "LuckCrates", name := "years", desc := "(III)I" } : Jvm.MethodName) prog_1_method_53_code (7 : Nat) (Option.some Jvm.ClassFile.FieldType.int)) ∈ lw_all := lw_g (lw_at lw_m6 181 rfl) rfl
theorem q1490 : (Jvm.Cond.methodLink "LuckCrates" (318 : Nat) ({ cls := "LuckCrates", name := "draw", desc := "(I)I" } : Jvm.MethodName)) ∈ lw_all := lw_g (lw_at lw_m6 182 rfl) rfl
theorem q1495 : (Jvm.Cond.instanceMethod ({ cls := "LuckCrates", name := "thief", desc := "(II)I" } : Jvm.MethodName)) ∈ lw_all := lw_g (lw_at lw_m6 187 rfl) rfl
theorem q1496 : (Jvm.Cond.selects "LuckCrates" ({ cls := "LuckCrates", name := "thief", desc := "(II)I" } : Jvm.MethodName) ({ cls := "LuckCrates", name := "thief", desc := "(II)I" } : Jvm.MethodName)) ∈ lw_all := lw_g (lw_at lw_m6 188 rfl) rfl
theorem q1497 : (Jvm.Cond.code ({ cls := "LuckCrates", name := "thief", desc := "(II)I" } : Jvm.MethodName) prog_1_method_56_code (7 : Nat) (Option.some Jvm.ClassFile.FieldType.int)) ∈ lw_all := lw_g (lw_at lw_m6 189 rfl) rfl
theorem q1498 : (Jvm.Cond.methodLink "LuckCrates" (321 : Nat) ({ cls := "LuckCrates", name := "grains", desc := "(II)I" } : Jvm.MethodName)) ∈ lw_all := lw_g (lw_at lw_m6 190 rfl) rfl
theorem q1499 : (Jvm.Cond.privateMethod ({ cls := "LuckCrates", name := "grains", desc := "(II)I" } : Jvm.MethodName)) ∈ lw_tbl := lw_at lw_m6 191 rfl
theorem q1500 : (Jvm.Cond.instanceMethod ({ cls := "LuckCrates", name := "grains", desc := "(II)I" } : Jvm.MethodName)) ∈ lw_all := lw_g (lw_at lw_m6 192 rfl) rfl
theorem q1501 : (Jvm.Cond.code ({ cls := "LuckCrates", name := "grains", desc := "(II)I" } : Jvm.MethodName) prog_1_method_54_code (5 : Nat) (Option.some Jvm.ClassFile.FieldType.int)) ∈ lw_all := lw_g (lw_at lw_m6 193 rfl) rfl
theorem q1502 : (Jvm.Cond.methodLink "LuckCrates" (323 : Nat) ({ cls := "LuckCrates", name := "hasBallast", desc := "(I)Z" } : Jvm.MethodName)) ∈ lw_all := lw_g (lw_at lw_m6 194 rfl) rfl
theorem q1503 : (Jvm.Cond.privateMethod ({ cls := "LuckCrates", name := "hasBallast", desc := "(I)Z" } : Jvm.MethodName)) ∈ lw_tbl := lw_at lw_m6 195 rfl
theorem q1504 : (Jvm.Cond.instanceMethod ({ cls := "LuckCrates", name := "hasBallast", desc := "(I)Z" } : Jvm.MethodName)) ∈ lw_all := lw_g (lw_at lw_m6 196 rfl) rfl
theorem q1505 : (Jvm.Cond.code ({ cls := "LuckCrates", name := "hasBallast", desc := "(I)Z" } : Jvm.MethodName) prog_1_method_57_code (3 : Nat) (Option.some Jvm.ClassFile.FieldType.boolean)) ∈ lw_all := lw_g (lw_at lw_m6 197 rfl) rfl
theorem q1506 : (Jvm.Cond.methodLink "LuckCrates" (326 : Nat) ({ cls := "LuckCrates", name := "isFewer", desc := "(II)Z" } : Jvm.MethodName)) ∈ lw_all := lw_g (lw_at lw_m6 198 rfl) rfl
theorem q1507 : (Jvm.Cond.static ({ cls := "LuckCrates", name := "isFewer", desc := "(II)Z" } : Jvm.MethodName)) ∈ lw_all := lw_g (lw_at lw_m6 199 rfl) rfl
theorem q1508 : (Jvm.Cond.code ({ cls := "LuckCrates", name := "isFewer", desc := "(II)Z" } : Jvm.MethodName) prog_1_method_55_code (2 : Nat) (Option.some Jvm.ClassFile.FieldType.boolean)) ∈ lw_all := lw_g (lw_at lw_m6 200 rfl) rfl
theorem q1513 : (Jvm.Cond.instanceMethod ({ cls := "LuckCrates", name := "row", desc := "(III)I" } : Jvm.MethodName)) ∈ lw_all := lw_g (lw_at lw_m6 205 rfl) rfl
theorem q1514 : (Jvm.Cond.selects "LuckCrates" ({ cls := "LuckCrates", name := "row", desc := "(III)I" } : Jvm.MethodName) ({ cls := "LuckCrates", name := "row", desc := "(III)I" } : Jvm.MethodName)) ∈ lw_all := lw_g (lw_at lw_m6 206 rfl) rfl
theorem q1515 : (Jvm.Cond.code ({ cls := "LuckCrates", name := "row", desc := "(III)I" } : Jvm.MethodName) prog_1_method_58_code (7 : Nat) (Option.some Jvm.ClassFile.FieldType.int)) ∈ lw_all := lw_g (lw_at lw_m6 207 rfl) rfl
theorem q1516 : (Jvm.Cond.methodLink "LuckCrates" (329 : Nat) ({ cls := "LuckCrates", name := "nextOf", desc := "(I[I)I" } : Jvm.MethodName)) ∈ lw_all := lw_g (lw_at lw_m6 208 rfl) rfl
theorem q1517 : (Jvm.Cond.privateMethod ({ cls := "LuckCrates", name := "nextOf", desc := "(I[I)I" } : Jvm.MethodName)) ∈ lw_tbl := lw_at lw_m6 209 rfl
theorem q1518 : (Jvm.Cond.instanceMethod ({ cls := "LuckCrates", name := "nextOf", desc := "(I[I)I" } : Jvm.MethodName)) ∈ lw_all := lw_g (lw_at lw_m6 210 rfl) rfl
theorem q1519 : (Jvm.Cond.code ({ cls := "LuckCrates", name := "nextOf", desc := "(I[I)I" } : Jvm.MethodName) prog_1_method_59_code (7 : Nat) (Option.some Jvm.ClassFile.FieldType.int)) ∈ lw_all := lw_g (lw_at lw_m6 211 rfl) rfl
theorem q1524 : (Jvm.Cond.instanceMethod ({ cls := "LuckCrates", name := "bridge", desc := "(I)Z" } : Jvm.MethodName)) ∈ lw_all := lw_g (lw_at lw_m6 216 rfl) rfl
theorem q1525 : (Jvm.Cond.selects "LuckCrates" ({ cls := "LuckCrates", name := "bridge", desc := "(I)Z" } : Jvm.MethodName) ({ cls := "LuckCrates", name := "bridge", desc := "(I)Z" } : Jvm.MethodName)) ∈ lw_all := lw_g (lw_at lw_m6 217 rfl) rfl
theorem q1526 : (Jvm.Cond.code ({ cls := "LuckCrates", name := "bridge", desc := "(I)Z" } : Jvm.MethodName) prog_1_method_61_code (3 : Nat) (Option.some Jvm.ClassFile.FieldType.boolean)) ∈ lw_all := lw_g (lw_at lw_m6 218 rfl) rfl
theorem q1527 : (Jvm.Cond.methodLink "LuckCrates" (336 : Nat) ({ cls := "LuckCrates$Province", name := "least", desc := "(IZI)[I" } : Jvm.MethodName)) ∈ lw_all := lw_g (lw_at lw_m6 219 rfl) rfl
theorem q1532 : (Jvm.Cond.instanceMethod ({ cls := "LuckCrates", name := "streak", desc := "(II)I" } : Jvm.MethodName)) ∈ lw_all := lw_g (lw_at lw_m6 224 rfl) rfl
theorem q1533 : (Jvm.Cond.selects "LuckCrates" ({ cls := "LuckCrates", name := "streak", desc := "(II)I" } : Jvm.MethodName) ({ cls := "LuckCrates", name := "streak", desc := "(II)I" } : Jvm.MethodName)) ∈ lw_all := lw_g (lw_at lw_m6 225 rfl) rfl
theorem q1534 : (Jvm.Cond.code ({ cls := "LuckCrates", name := "streak", desc := "(II)I" } : Jvm.MethodName) prog_1_method_62_code (7 : Nat) (Option.some Jvm.ClassFile.FieldType.int)) ∈ lw_all := lw_g (lw_at lw_m6 226 rfl) rfl
theorem q1539 : (Jvm.Cond.instanceMethod ({ cls := "LuckCrates", name := "day", desc := "(II)I" } : Jvm.MethodName)) ∈ lw_all := lw_g (lw_at lw_m6 231 rfl) rfl
theorem q1540 : (Jvm.Cond.selects "LuckCrates" ({ cls := "LuckCrates", name := "day", desc := "(II)I" } : Jvm.MethodName) ({ cls := "LuckCrates", name := "day", desc := "(II)I" } : Jvm.MethodName)) ∈ lw_all := lw_g (lw_at lw_m6 232 rfl) rfl
theorem q1541 : (Jvm.Cond.code ({ cls := "LuckCrates", name := "day", desc := "(II)I" } : Jvm.MethodName) prog_1_method_63_code (9 : Nat) (Option.some Jvm.ClassFile.FieldType.int)) ∈ lw_all := lw_g (lw_at lw_m6 233 rfl) rfl
theorem q1546 : (Jvm.Cond.instanceMethod ({ cls := "LuckCrates", name := "level", desc := "(I)I" } : Jvm.MethodName)) ∈ lw_all := lw_g (lw_at lw_m6 238 rfl) rfl
theorem q1547 : (Jvm.Cond.selects "LuckCrates" ({ cls := "LuckCrates", name := "level", desc := "(I)I" } : Jvm.MethodName) ({ cls := "LuckCrates", name := "level", desc := "(I)I" } : Jvm.MethodName)) ∈ lw_all := lw_g (lw_at lw_m6 239 rfl) rfl
theorem q1548 : (Jvm.Cond.code ({ cls := "LuckCrates", name := "level", desc := "(I)I" } : Jvm.MethodName) prog_1_method_65_code (6 : Nat) (Option.some Jvm.ClassFile.FieldType.int)) ∈ lw_all := lw_g (lw_at lw_m7 0 rfl) rfl
theorem q1549 : (Jvm.Cond.methodLink "LuckCrates" (342 : Nat) ({ cls := "LuckCrates", name := "unlevel", desc := "(II)I" } : Jvm.MethodName)) ∈ lw_all := lw_g (lw_at lw_m7 1 rfl) rfl
theorem q1550 : (Jvm.Cond.privateMethod ({ cls := "LuckCrates", name := "unlevel", desc := "(II)I" } : Jvm.MethodName)) ∈ lw_tbl := lw_at lw_m7 2 rfl
theorem q1551 : (Jvm.Cond.instanceMethod ({ cls := "LuckCrates", name := "unlevel", desc := "(II)I" } : Jvm.MethodName)) ∈ lw_all := lw_g (lw_at lw_m7 3 rfl) rfl
theorem q1552 : (Jvm.Cond.code ({ cls := "LuckCrates", name := "unlevel", desc := "(II)I" } : Jvm.MethodName) prog_1_method_64_code (4 : Nat) (Option.some Jvm.ClassFile.FieldType.int)) ∈ lw_all := lw_g (lw_at lw_m7 4 rfl) rfl
theorem q1557 : (Jvm.Cond.instanceMethod ({ cls := "LuckCrates", name := "lend", desc := "(I)I" } : Jvm.MethodName)) ∈ lw_all := lw_g (lw_at lw_m7 9 rfl) rfl
theorem q1558 : (Jvm.Cond.selects "LuckCrates" ({ cls := "LuckCrates", name := "lend", desc := "(I)I" } : Jvm.MethodName) ({ cls := "LuckCrates", name := "lend", desc := "(I)I" } : Jvm.MethodName)) ∈ lw_all := lw_g (lw_at lw_m7 10 rfl) rfl
theorem q1559 : (Jvm.Cond.code ({ cls := "LuckCrates", name := "lend", desc := "(I)I" } : Jvm.MethodName) prog_1_method_66_code (5 : Nat) (Option.some Jvm.ClassFile.FieldType.int)) ∈ lw_all := lw_g (lw_at lw_m7 11 rfl) rfl
theorem q2228 : (Jvm.Cond.castable "LuckCrates" "java/lang/Object") ∈ lw_tbl := lw_at lw_m9 200 rfl
theorem in_X1 : ∀ w ∈ wsX10, w ∈ lw_all := lw_in wsX10 [291, 293, 295, 297, 299, 301, 303, 305, 307, 309, 311, 313, 315, 317, 319] (by decide +kernel) (by decide +kernel)
/-! X2 LuckCrates$Province -/
abbrev cX2_init : ByteArray := prog_7_method_1_code
def yX2_init : MethodName := ⟨RX2, "<init>", "()V"⟩
def dkwX2_init_1 : List UInt8 := [181, 0, 18, 42, 187, 0, 9, 89, 183, 0, 11, 181, 0, 21, 177]
abbrev dktX2_init_1 : List UInt8 := dkwX2_init_1 ++ []
def dkwX2_init_0 : List UInt8 := [42, 183, 0, 3, 42, 187, 0, 9, 89, 183, 0, 11, 181, 0, 12, 42, 187, 0, 9, 89, 183, 0, 11]
abbrev dktX2_init_0 : List UInt8 := dkwX2_init_0 ++ dktX2_init_1
theorem dksX2_init_0 : cX2_init.data.toList.drop 0 = dktX2_init_0 := by decide +kernel
theorem dksX2_init_1 : cX2_init.data.toList.drop 23 = dktX2_init_1 := dk_seg dksX2_init_0 23 rfl rfl
theorem dX2_init_0 : decode cX2_init 0 = .ok (.aload_n 0, 1) := dk_42 (dk_at dksX2_init_0 0 rfl rfl)
theorem dX2_init_1 : decode cX2_init 1 = .ok (.invokespecial 3, 3) := dk_183 0 3 (dk_at dksX2_init_0 1 rfl rfl)
theorem dX2_init_4 : decode cX2_init 4 = .ok (.aload_n 0, 1) := dk_42 (dk_at dksX2_init_0 4 rfl rfl)
theorem dX2_init_5 : decode cX2_init 5 = .ok (.new 9, 3) := dk_187 0 9 (dk_at dksX2_init_0 5 rfl rfl)
theorem dX2_init_8 : decode cX2_init 8 = .ok (.dup, 1) := dk_89 (dk_at dksX2_init_0 8 rfl rfl)
theorem dX2_init_9 : decode cX2_init 9 = .ok (.invokespecial 11, 3) := dk_183 0 11 (dk_at dksX2_init_0 9 rfl rfl)
theorem dX2_init_12 : decode cX2_init 12 = .ok (.putfield 12, 3) := dk_181 0 12 (dk_at dksX2_init_0 12 rfl rfl)
theorem dX2_init_15 : decode cX2_init 15 = .ok (.aload_n 0, 1) := dk_42 (dk_at dksX2_init_0 15 rfl rfl)
theorem dX2_init_16 : decode cX2_init 16 = .ok (.new 9, 3) := dk_187 0 9 (dk_at dksX2_init_0 16 rfl rfl)
theorem dX2_init_19 : decode cX2_init 19 = .ok (.dup, 1) := dk_89 (dk_at dksX2_init_0 19 rfl rfl)
theorem dX2_init_20 : decode cX2_init 20 = .ok (.invokespecial 11, 3) := dk_183 0 11 (dk_at dksX2_init_0 20 rfl rfl)
theorem dX2_init_23 : decode cX2_init 23 = .ok (.putfield 18, 3) := dk_181 0 18 (dk_at dksX2_init_1 0 rfl rfl)
theorem dX2_init_26 : decode cX2_init 26 = .ok (.aload_n 0, 1) := dk_42 (dk_at dksX2_init_1 3 rfl rfl)
theorem dX2_init_27 : decode cX2_init 27 = .ok (.new 9, 3) := dk_187 0 9 (dk_at dksX2_init_1 4 rfl rfl)
theorem dX2_init_30 : decode cX2_init 30 = .ok (.dup, 1) := dk_89 (dk_at dksX2_init_1 7 rfl rfl)
theorem dX2_init_31 : decode cX2_init 31 = .ok (.invokespecial 11, 3) := dk_183 0 11 (dk_at dksX2_init_1 8 rfl rfl)
theorem dX2_init_34 : decode cX2_init 34 = .ok (.putfield 21, 3) := dk_181 0 21 (dk_at dksX2_init_1 11 rfl rfl)
theorem dX2_init_37 : decode cX2_init 37 = .ok (.return_, 1) := dk_177 (dk_at dksX2_init_1 14 rfl rfl)
abbrev cX2_towns : ByteArray := prog_7_method_2_code
def yX2_towns : MethodName := ⟨RX2, "towns", "()I"⟩
def dkwX2_towns_0 : List UInt8 := [42, 180, 0, 12, 185, 0, 24, 1, 0, 172]
abbrev dktX2_towns_0 : List UInt8 := dkwX2_towns_0 ++ []
theorem dksX2_towns_0 : cX2_towns.data.toList.drop 0 = dktX2_towns_0 := by decide +kernel
theorem dX2_towns_0 : decode cX2_towns 0 = .ok (.aload_n 0, 1) := dk_42 (dk_at dksX2_towns_0 0 rfl rfl)
theorem dX2_towns_1 : decode cX2_towns 1 = .ok (.getfield 12, 3) := dk_180 0 12 (dk_at dksX2_towns_0 1 rfl rfl)
theorem dX2_towns_4 : decode cX2_towns 4 = .ok (.invokeinterface 24 1, 5) := by decide +kernel
theorem dX2_towns_9 : decode cX2_towns 9 = .ok (.ireturn, 1) := dk_172 (dk_at dksX2_towns_0 9 rfl rfl)
abbrev cX2_least : ByteArray := prog_7_method_4_code
def yX2_least : MethodName := ⟨RX2, "least", "(IZ)[I"⟩
def dkwX2_least_0 : List UInt8 := [42, 27, 28, 2, 182, 0, 40, 176]
abbrev dktX2_least_0 : List UInt8 := dkwX2_least_0 ++ []
theorem dksX2_least_0 : cX2_least.data.toList.drop 0 = dktX2_least_0 := by decide +kernel
theorem dX2_least_0 : decode cX2_least 0 = .ok (.aload_n 0, 1) := dk_42 (dk_at dksX2_least_0 0 rfl rfl)
theorem dX2_least_1 : decode cX2_least 1 = .ok (.iload_n 1, 1) := dk_27 (dk_at dksX2_least_0 1 rfl rfl)
theorem dX2_least_2 : decode cX2_least 2 = .ok (.iload_n 2, 1) := dk_28 (dk_at dksX2_least_0 2 rfl rfl)
theorem dX2_least_3 : decode cX2_least 3 = .ok (.iconst (-1), 1) := dk_2 (dk_at dksX2_least_0 3 rfl rfl)
theorem dX2_least_4 : decode cX2_least 4 = .ok (.invokevirtual 40, 3) := dk_182 0 40 (dk_at dksX2_least_0 4 rfl rfl)
theorem dX2_least_7 : decode cX2_least 7 = .ok (.areturn, 1) := dk_176 (dk_at dksX2_least_0 7 rfl rfl)
abbrev cX2_least_2 : ByteArray := prog_7_method_5_code
def yX2_least_2 : MethodName := ⟨RX2, "least", "(IZI)[I"⟩
def dkwX2_least_2_8 : List UInt8 := [167, 255, 129, 132, 5, 1, 167, 255, 111, 25, 4, 176]
abbrev dktX2_least_2_8 : List UInt8 := dkwX2_least_2_8 ++ []
def dkwX2_least_2_7 : List UInt8 := [180, 0, 58, 46, 25, 4, 25, 7, 180, 0, 55, 46, 21, 8, 96, 184, 0, 61, 79, 132, 6, 1]
abbrev dktX2_least_2_7 : List UInt8 := dkwX2_least_2_7 ++ dktX2_least_2_8
def dkwX2_least_2_6 : List UInt8 := [180, 0, 58, 46, 21, 8, 96, 184, 0, 61, 79, 25, 4, 25, 7, 180, 0, 58, 25, 4, 25, 7]
abbrev dktX2_least_2_6 : List UInt8 := dkwX2_least_2_6 ++ dktX2_least_2_7
def dkwX2_least_2_5 : List UInt8 := [180, 0, 48, 54, 8, 25, 4, 25, 7, 180, 0, 55, 25, 4, 25, 7, 180, 0, 55, 46, 25, 4, 25, 7]
abbrev dktX2_least_2_5 : List UInt8 := dkwX2_least_2_5 ++ dktX2_least_2_6
def dkwX2_least_2_4 : List UInt8 := [58, 7, 28, 153, 0, 17, 25, 7, 180, 0, 48, 25, 7, 180, 0, 52, 104, 167, 0, 8, 25, 7]
abbrev dktX2_least_2_4 : List UInt8 := dkwX2_least_2_4 ++ dktX2_least_2_5
def dkwX2_least_2_3 : List UInt8 := [21, 6, 29, 160, 0, 6, 167, 0, 104, 42, 180, 0, 21, 21, 6, 185, 0, 30, 2, 0, 192, 0, 34]
abbrev dktX2_least_2_3 : List UInt8 := dkwX2_least_2_3 ++ dktX2_least_2_4
def dkwX2_least_2_2 : List UInt8 := [182, 0, 45, 162, 0, 142, 3, 54, 6, 21, 6, 42, 180, 0, 21, 185, 0, 24, 1, 0, 162, 0, 119]
abbrev dktX2_least_2_2 : List UInt8 := dkwX2_least_2_2 ++ dktX2_least_2_3
def dkwX2_least_2_1 : List UInt8 := [160, 0, 7, 3, 167, 0, 5, 18, 44, 79, 132, 5, 1, 167, 255, 229, 3, 54, 5, 21, 5, 42]
abbrev dktX2_least_2_1 : List UInt8 := dkwX2_least_2_1 ++ dktX2_least_2_2
def dkwX2_least_2_0 : List UInt8 := [16, 8, 188, 10, 58, 4, 3, 54, 5, 21, 5, 16, 8, 162, 0, 26, 25, 4, 21, 5, 21, 5, 27]
abbrev dktX2_least_2_0 : List UInt8 := dkwX2_least_2_0 ++ dktX2_least_2_1
theorem dksX2_least_2_0 : cX2_least_2.data.toList.drop 0 = dktX2_least_2_0 := by decide +kernel
theorem dksX2_least_2_1 : cX2_least_2.data.toList.drop 23 = dktX2_least_2_1 := dk_seg dksX2_least_2_0 23 rfl rfl
theorem dksX2_least_2_2 : cX2_least_2.data.toList.drop 45 = dktX2_least_2_2 := dk_seg dksX2_least_2_1 22 rfl rfl
theorem dksX2_least_2_3 : cX2_least_2.data.toList.drop 68 = dktX2_least_2_3 := dk_seg dksX2_least_2_2 23 rfl rfl
theorem dksX2_least_2_4 : cX2_least_2.data.toList.drop 91 = dktX2_least_2_4 := dk_seg dksX2_least_2_3 23 rfl rfl
theorem dksX2_least_2_5 : cX2_least_2.data.toList.drop 113 = dktX2_least_2_5 := dk_seg dksX2_least_2_4 22 rfl rfl
theorem dksX2_least_2_6 : cX2_least_2.data.toList.drop 137 = dktX2_least_2_6 := dk_seg dksX2_least_2_5 24 rfl rfl
theorem dksX2_least_2_7 : cX2_least_2.data.toList.drop 159 = dktX2_least_2_7 := dk_seg dksX2_least_2_6 22 rfl rfl
theorem dksX2_least_2_8 : cX2_least_2.data.toList.drop 181 = dktX2_least_2_8 := dk_seg dksX2_least_2_7 22 rfl rfl
theorem dX2_least_2_0 : decode cX2_least_2 0 = .ok (.bipush 8, 2) := dk_16 8 (dk_at dksX2_least_2_0 0 rfl rfl)
theorem dX2_least_2_2 : decode cX2_least_2 2 = .ok (.newarray .int, 2) := dk_188_10 (dk_at dksX2_least_2_0 2 rfl rfl)
theorem dX2_least_2_4 : decode cX2_least_2 4 = .ok (.astore 4, 2) := dk_58 4 (dk_at dksX2_least_2_0 4 rfl rfl)
theorem dX2_least_2_6 : decode cX2_least_2 6 = .ok (.iconst 0, 1) := dk_3 (dk_at dksX2_least_2_0 6 rfl rfl)
theorem dX2_least_2_7 : decode cX2_least_2 7 = .ok (.istore 5, 2) := dk_54 5 (dk_at dksX2_least_2_0 7 rfl rfl)
theorem dX2_least_2_9 : decode cX2_least_2 9 = .ok (.iload 5, 2) := dk_21 5 (dk_at dksX2_least_2_0 9 rfl rfl)
theorem dX2_least_2_11 : decode cX2_least_2 11 = .ok (.bipush 8, 2) := dk_16 8 (dk_at dksX2_least_2_0 11 rfl rfl)
theorem dX2_least_2_13 : decode cX2_least_2 13 = .ok (.if_icmp .ge 26, 3) := dk_162 0 26 (dk_at dksX2_least_2_0 13 rfl rfl)
theorem dX2_least_2_16 : decode cX2_least_2 16 = .ok (.aload 4, 2) := dk_25 4 (dk_at dksX2_least_2_0 16 rfl rfl)
theorem dX2_least_2_18 : decode cX2_least_2 18 = .ok (.iload 5, 2) := dk_21 5 (dk_at dksX2_least_2_0 18 rfl rfl)
theorem dX2_least_2_20 : decode cX2_least_2 20 = .ok (.iload 5, 2) := dk_21 5 (dk_at dksX2_least_2_0 20 rfl rfl)
theorem dX2_least_2_22 : decode cX2_least_2 22 = .ok (.iload_n 1, 1) := dk_27 (dk_at dksX2_least_2_0 22 rfl rfl)
theorem dX2_least_2_23 : decode cX2_least_2 23 = .ok (.if_icmp .ne 7, 3) := dk_160 0 7 (dk_at dksX2_least_2_1 0 rfl rfl)
theorem dX2_least_2_26 : decode cX2_least_2 26 = .ok (.iconst 0, 1) := dk_3 (dk_at dksX2_least_2_1 3 rfl rfl)
theorem dX2_least_2_27 : decode cX2_least_2 27 = .ok (.goto 5, 3) := dk_167 0 5 (dk_at dksX2_least_2_1 4 rfl rfl)
theorem dX2_least_2_30 : decode cX2_least_2 30 = .ok (.ldc 44, 2) := dk_18 44 (dk_at dksX2_least_2_1 7 rfl rfl)
theorem dX2_least_2_32 : decode cX2_least_2 32 = .ok (.iastore, 1) := dk_79 (dk_at dksX2_least_2_1 9 rfl rfl)
theorem dX2_least_2_33 : decode cX2_least_2 33 = .ok (.iinc 5 1, 3) := dk_132 5 1 (dk_at dksX2_least_2_1 10 rfl rfl)
theorem dX2_least_2_36 : decode cX2_least_2 36 = .ok (.goto (-27), 3) := dk_167 255 229 (dk_at dksX2_least_2_1 13 rfl rfl)
theorem dX2_least_2_39 : decode cX2_least_2 39 = .ok (.iconst 0, 1) := dk_3 (dk_at dksX2_least_2_1 16 rfl rfl)
theorem dX2_least_2_40 : decode cX2_least_2 40 = .ok (.istore 5, 2) := dk_54 5 (dk_at dksX2_least_2_1 17 rfl rfl)
theorem dX2_least_2_42 : decode cX2_least_2 42 = .ok (.iload 5, 2) := dk_21 5 (dk_at dksX2_least_2_1 19 rfl rfl)
theorem dX2_least_2_44 : decode cX2_least_2 44 = .ok (.aload_n 0, 1) := dk_42 (dk_at dksX2_least_2_1 21 rfl rfl)
theorem dX2_least_2_45 : decode cX2_least_2 45 = .ok (.invokevirtual 45, 3) := dk_182 0 45 (dk_at dksX2_least_2_2 0 rfl rfl)
theorem dX2_least_2_48 : decode cX2_least_2 48 = .ok (.if_icmp .ge 142, 3) := dk_162 0 142 (dk_at dksX2_least_2_2 3 rfl rfl)
theorem dX2_least_2_51 : decode cX2_least_2 51 = .ok (.iconst 0, 1) := dk_3 (dk_at dksX2_least_2_2 6 rfl rfl)
theorem dX2_least_2_52 : decode cX2_least_2 52 = .ok (.istore 6, 2) := dk_54 6 (dk_at dksX2_least_2_2 7 rfl rfl)
theorem dX2_least_2_54 : decode cX2_least_2 54 = .ok (.iload 6, 2) := dk_21 6 (dk_at dksX2_least_2_2 9 rfl rfl)
theorem dX2_least_2_56 : decode cX2_least_2 56 = .ok (.aload_n 0, 1) := dk_42 (dk_at dksX2_least_2_2 11 rfl rfl)
theorem dX2_least_2_57 : decode cX2_least_2 57 = .ok (.getfield 21, 3) := dk_180 0 21 (dk_at dksX2_least_2_2 12 rfl rfl)
theorem dX2_least_2_60 : decode cX2_least_2 60 = .ok (.invokeinterface 24 1, 5) := by decide +kernel
theorem dX2_least_2_65 : decode cX2_least_2 65 = .ok (.if_icmp .ge 119, 3) := dk_162 0 119 (dk_at dksX2_least_2_2 20 rfl rfl)
theorem dX2_least_2_68 : decode cX2_least_2 68 = .ok (.iload 6, 2) := dk_21 6 (dk_at dksX2_least_2_3 0 rfl rfl)
theorem dX2_least_2_70 : decode cX2_least_2 70 = .ok (.iload_n 3, 1) := dk_29 (dk_at dksX2_least_2_3 2 rfl rfl)
theorem dX2_least_2_71 : decode cX2_least_2 71 = .ok (.if_icmp .ne 6, 3) := dk_160 0 6 (dk_at dksX2_least_2_3 3 rfl rfl)
theorem dX2_least_2_74 : decode cX2_least_2 74 = .ok (.goto 104, 3) := dk_167 0 104 (dk_at dksX2_least_2_3 6 rfl rfl)
theorem dX2_least_2_77 : decode cX2_least_2 77 = .ok (.aload_n 0, 1) := dk_42 (dk_at dksX2_least_2_3 9 rfl rfl)
theorem dX2_least_2_78 : decode cX2_least_2 78 = .ok (.getfield 21, 3) := dk_180 0 21 (dk_at dksX2_least_2_3 10 rfl rfl)
theorem dX2_least_2_81 : decode cX2_least_2 81 = .ok (.iload 6, 2) := dk_21 6 (dk_at dksX2_least_2_3 13 rfl rfl)
theorem dX2_least_2_83 : decode cX2_least_2 83 = .ok (.invokeinterface 30 2, 5) := by decide +kernel
theorem dX2_least_2_88 : decode cX2_least_2 88 = .ok (.checkcast 34, 3) := dk_192 0 34 (dk_at dksX2_least_2_3 20 rfl rfl)
theorem dX2_least_2_91 : decode cX2_least_2 91 = .ok (.astore 7, 2) := dk_58 7 (dk_at dksX2_least_2_4 0 rfl rfl)
theorem dX2_least_2_93 : decode cX2_least_2 93 = .ok (.iload_n 2, 1) := dk_28 (dk_at dksX2_least_2_4 2 rfl rfl)
theorem dX2_least_2_94 : decode cX2_least_2 94 = .ok (.ifCond .eq 17, 3) := dk_153 0 17 (dk_at dksX2_least_2_4 3 rfl rfl)
theorem dX2_least_2_97 : decode cX2_least_2 97 = .ok (.aload 7, 2) := dk_25 7 (dk_at dksX2_least_2_4 6 rfl rfl)
theorem dX2_least_2_99 : decode cX2_least_2 99 = .ok (.getfield 48, 3) := dk_180 0 48 (dk_at dksX2_least_2_4 8 rfl rfl)
theorem dX2_least_2_102 : decode cX2_least_2 102 = .ok (.aload 7, 2) := dk_25 7 (dk_at dksX2_least_2_4 11 rfl rfl)
theorem dX2_least_2_104 : decode cX2_least_2 104 = .ok (.getfield 52, 3) := dk_180 0 52 (dk_at dksX2_least_2_4 13 rfl rfl)
theorem dX2_least_2_107 : decode cX2_least_2 107 = .ok (.imul, 1) := dk_104 (dk_at dksX2_least_2_4 16 rfl rfl)
theorem dX2_least_2_108 : decode cX2_least_2 108 = .ok (.goto 8, 3) := dk_167 0 8 (dk_at dksX2_least_2_4 17 rfl rfl)
theorem dX2_least_2_111 : decode cX2_least_2 111 = .ok (.aload 7, 2) := dk_25 7 (dk_at dksX2_least_2_4 20 rfl rfl)
theorem dX2_least_2_113 : decode cX2_least_2 113 = .ok (.getfield 48, 3) := dk_180 0 48 (dk_at dksX2_least_2_5 0 rfl rfl)
theorem dX2_least_2_116 : decode cX2_least_2 116 = .ok (.istore 8, 2) := dk_54 8 (dk_at dksX2_least_2_5 3 rfl rfl)
theorem dX2_least_2_118 : decode cX2_least_2 118 = .ok (.aload 4, 2) := dk_25 4 (dk_at dksX2_least_2_5 5 rfl rfl)
theorem dX2_least_2_120 : decode cX2_least_2 120 = .ok (.aload 7, 2) := dk_25 7 (dk_at dksX2_least_2_5 7 rfl rfl)
theorem dX2_least_2_122 : decode cX2_least_2 122 = .ok (.getfield 55, 3) := dk_180 0 55 (dk_at dksX2_least_2_5 9 rfl rfl)
theorem dX2_least_2_125 : decode cX2_least_2 125 = .ok (.aload 4, 2) := dk_25 4 (dk_at dksX2_least_2_5 12 rfl rfl)
theorem dX2_least_2_127 : decode cX2_least_2 127 = .ok (.aload 7, 2) := dk_25 7 (dk_at dksX2_least_2_5 14 rfl rfl)
theorem dX2_least_2_129 : decode cX2_least_2 129 = .ok (.getfield 55, 3) := dk_180 0 55 (dk_at dksX2_least_2_5 16 rfl rfl)
theorem dX2_least_2_132 : decode cX2_least_2 132 = .ok (.iaload, 1) := dk_46 (dk_at dksX2_least_2_5 19 rfl rfl)
theorem dX2_least_2_133 : decode cX2_least_2 133 = .ok (.aload 4, 2) := dk_25 4 (dk_at dksX2_least_2_5 20 rfl rfl)
theorem dX2_least_2_135 : decode cX2_least_2 135 = .ok (.aload 7, 2) := dk_25 7 (dk_at dksX2_least_2_5 22 rfl rfl)
theorem dX2_least_2_137 : decode cX2_least_2 137 = .ok (.getfield 58, 3) := dk_180 0 58 (dk_at dksX2_least_2_6 0 rfl rfl)
theorem dX2_least_2_140 : decode cX2_least_2 140 = .ok (.iaload, 1) := dk_46 (dk_at dksX2_least_2_6 3 rfl rfl)
theorem dX2_least_2_141 : decode cX2_least_2 141 = .ok (.iload 8, 2) := dk_21 8 (dk_at dksX2_least_2_6 4 rfl rfl)
theorem dX2_least_2_143 : decode cX2_least_2 143 = .ok (.iadd, 1) := dk_96 (dk_at dksX2_least_2_6 6 rfl rfl)
theorem dX2_least_2_144 : decode cX2_least_2 144 = .ok (.invokestatic 61, 3) := dk_184 0 61 (dk_at dksX2_least_2_6 7 rfl rfl)
theorem dX2_least_2_147 : decode cX2_least_2 147 = .ok (.iastore, 1) := dk_79 (dk_at dksX2_least_2_6 10 rfl rfl)
theorem dX2_least_2_148 : decode cX2_least_2 148 = .ok (.aload 4, 2) := dk_25 4 (dk_at dksX2_least_2_6 11 rfl rfl)
theorem dX2_least_2_150 : decode cX2_least_2 150 = .ok (.aload 7, 2) := dk_25 7 (dk_at dksX2_least_2_6 13 rfl rfl)
theorem dX2_least_2_152 : decode cX2_least_2 152 = .ok (.getfield 58, 3) := dk_180 0 58 (dk_at dksX2_least_2_6 15 rfl rfl)
theorem dX2_least_2_155 : decode cX2_least_2 155 = .ok (.aload 4, 2) := dk_25 4 (dk_at dksX2_least_2_6 18 rfl rfl)
theorem dX2_least_2_157 : decode cX2_least_2 157 = .ok (.aload 7, 2) := dk_25 7 (dk_at dksX2_least_2_6 20 rfl rfl)
theorem dX2_least_2_159 : decode cX2_least_2 159 = .ok (.getfield 58, 3) := dk_180 0 58 (dk_at dksX2_least_2_7 0 rfl rfl)
theorem dX2_least_2_162 : decode cX2_least_2 162 = .ok (.iaload, 1) := dk_46 (dk_at dksX2_least_2_7 3 rfl rfl)
theorem dX2_least_2_163 : decode cX2_least_2 163 = .ok (.aload 4, 2) := dk_25 4 (dk_at dksX2_least_2_7 4 rfl rfl)
theorem dX2_least_2_165 : decode cX2_least_2 165 = .ok (.aload 7, 2) := dk_25 7 (dk_at dksX2_least_2_7 6 rfl rfl)
theorem dX2_least_2_167 : decode cX2_least_2 167 = .ok (.getfield 55, 3) := dk_180 0 55 (dk_at dksX2_least_2_7 8 rfl rfl)
theorem dX2_least_2_170 : decode cX2_least_2 170 = .ok (.iaload, 1) := dk_46 (dk_at dksX2_least_2_7 11 rfl rfl)
theorem dX2_least_2_171 : decode cX2_least_2 171 = .ok (.iload 8, 2) := dk_21 8 (dk_at dksX2_least_2_7 12 rfl rfl)
theorem dX2_least_2_173 : decode cX2_least_2 173 = .ok (.iadd, 1) := dk_96 (dk_at dksX2_least_2_7 14 rfl rfl)
theorem dX2_least_2_174 : decode cX2_least_2 174 = .ok (.invokestatic 61, 3) := dk_184 0 61 (dk_at dksX2_least_2_7 15 rfl rfl)
theorem dX2_least_2_177 : decode cX2_least_2 177 = .ok (.iastore, 1) := dk_79 (dk_at dksX2_least_2_7 18 rfl rfl)
theorem dX2_least_2_178 : decode cX2_least_2 178 = .ok (.iinc 6 1, 3) := dk_132 6 1 (dk_at dksX2_least_2_7 19 rfl rfl)
theorem dX2_least_2_181 : decode cX2_least_2 181 = .ok (.goto (-127), 3) := dk_167 255 129 (dk_at dksX2_least_2_8 0 rfl rfl)
theorem dX2_least_2_184 : decode cX2_least_2 184 = .ok (.iinc 5 1, 3) := dk_132 5 1 (dk_at dksX2_least_2_8 3 rfl rfl)
theorem dX2_least_2_187 : decode cX2_least_2 187 = .ok (.goto (-145), 3) := dk_167 255 111 (dk_at dksX2_least_2_8 6 rfl rfl)
theorem dX2_least_2_190 : decode cX2_least_2 190 = .ok (.aload 4, 2) := dk_25 4 (dk_at dksX2_least_2_8 9 rfl rfl)
theorem dX2_least_2_192 : decode cX2_least_2 192 = .ok (.areturn, 1) := dk_176 (dk_at dksX2_least_2_8 11 rfl rfl)
abbrev cX2_isJoined : ByteArray := prog_7_method_3_code
def yX2_isJoined : MethodName := ⟨RX2, "isJoined", "(II)Z"⟩
def dkwX2_isJoined_2 : List UInt8 := [3, 172]
abbrev dktX2_isJoined_2 : List UInt8 := dkwX2_isJoined_2 ++ []
def dkwX2_isJoined_1 : List UInt8 := [185, 0, 30, 2, 0, 192, 0, 34, 27, 182, 0, 36, 28, 160, 0, 5, 4, 172, 132, 3, 1, 167, 255, 217]
abbrev dktX2_isJoined_1 : List UInt8 := dkwX2_isJoined_1 ++ dktX2_isJoined_2
def dkwX2_isJoined_0 : List UInt8 := [3, 62, 29, 42, 180, 0, 21, 185, 0, 24, 1, 0, 162, 0, 32, 42, 180, 0, 21, 29]
abbrev dktX2_isJoined_0 : List UInt8 := dkwX2_isJoined_0 ++ dktX2_isJoined_1
theorem dksX2_isJoined_0 : cX2_isJoined.data.toList.drop 0 = dktX2_isJoined_0 := by decide +kernel
theorem dksX2_isJoined_1 : cX2_isJoined.data.toList.drop 20 = dktX2_isJoined_1 := dk_seg dksX2_isJoined_0 20 rfl rfl
theorem dksX2_isJoined_2 : cX2_isJoined.data.toList.drop 44 = dktX2_isJoined_2 := dk_seg dksX2_isJoined_1 24 rfl rfl
theorem dX2_isJoined_0 : decode cX2_isJoined 0 = .ok (.iconst 0, 1) := dk_3 (dk_at dksX2_isJoined_0 0 rfl rfl)
theorem dX2_isJoined_1 : decode cX2_isJoined 1 = .ok (.istore_n 3, 1) := dk_62 (dk_at dksX2_isJoined_0 1 rfl rfl)
theorem dX2_isJoined_2 : decode cX2_isJoined 2 = .ok (.iload_n 3, 1) := dk_29 (dk_at dksX2_isJoined_0 2 rfl rfl)
theorem dX2_isJoined_3 : decode cX2_isJoined 3 = .ok (.aload_n 0, 1) := dk_42 (dk_at dksX2_isJoined_0 3 rfl rfl)
theorem dX2_isJoined_4 : decode cX2_isJoined 4 = .ok (.getfield 21, 3) := dk_180 0 21 (dk_at dksX2_isJoined_0 4 rfl rfl)
theorem dX2_isJoined_7 : decode cX2_isJoined 7 = .ok (.invokeinterface 24 1, 5) := by decide +kernel
theorem dX2_isJoined_12 : decode cX2_isJoined 12 = .ok (.if_icmp .ge 32, 3) := dk_162 0 32 (dk_at dksX2_isJoined_0 12 rfl rfl)
theorem dX2_isJoined_15 : decode cX2_isJoined 15 = .ok (.aload_n 0, 1) := dk_42 (dk_at dksX2_isJoined_0 15 rfl rfl)
theorem dX2_isJoined_16 : decode cX2_isJoined 16 = .ok (.getfield 21, 3) := dk_180 0 21 (dk_at dksX2_isJoined_0 16 rfl rfl)
theorem dX2_isJoined_19 : decode cX2_isJoined 19 = .ok (.iload_n 3, 1) := dk_29 (dk_at dksX2_isJoined_0 19 rfl rfl)
theorem dX2_isJoined_20 : decode cX2_isJoined 20 = .ok (.invokeinterface 30 2, 5) := by decide +kernel
theorem dX2_isJoined_25 : decode cX2_isJoined 25 = .ok (.checkcast 34, 3) := dk_192 0 34 (dk_at dksX2_isJoined_1 5 rfl rfl)
theorem dX2_isJoined_28 : decode cX2_isJoined 28 = .ok (.iload_n 1, 1) := dk_27 (dk_at dksX2_isJoined_1 8 rfl rfl)
theorem dX2_isJoined_29 : decode cX2_isJoined 29 = .ok (.invokevirtual 36, 3) := dk_182 0 36 (dk_at dksX2_isJoined_1 9 rfl rfl)
theorem dX2_isJoined_32 : decode cX2_isJoined 32 = .ok (.iload_n 2, 1) := dk_28 (dk_at dksX2_isJoined_1 12 rfl rfl)
theorem dX2_isJoined_33 : decode cX2_isJoined 33 = .ok (.if_icmp .ne 5, 3) := dk_160 0 5 (dk_at dksX2_isJoined_1 13 rfl rfl)
theorem dX2_isJoined_36 : decode cX2_isJoined 36 = .ok (.iconst 1, 1) := dk_4 (dk_at dksX2_isJoined_1 16 rfl rfl)
theorem dX2_isJoined_37 : decode cX2_isJoined 37 = .ok (.ireturn, 1) := dk_172 (dk_at dksX2_isJoined_1 17 rfl rfl)
theorem dX2_isJoined_38 : decode cX2_isJoined 38 = .ok (.iinc 3 1, 3) := dk_132 3 1 (dk_at dksX2_isJoined_1 18 rfl rfl)
theorem dX2_isJoined_41 : decode cX2_isJoined 41 = .ok (.goto (-39), 3) := dk_167 255 217 (dk_at dksX2_isJoined_1 21 rfl rfl)
theorem dX2_isJoined_44 : decode cX2_isJoined 44 = .ok (.iconst 0, 1) := dk_3 (dk_at dksX2_isJoined_2 0 rfl rfl)
theorem dX2_isJoined_45 : decode cX2_isJoined 45 = .ok (.ireturn, 1) := dk_172 (dk_at dksX2_isJoined_2 1 rfl rfl)
theorem q110 : (Jvm.Cond.initialized "LuckCrates$Province") ∈ lw_all := lw_g (lw_at lw_m1 2 rfl) rfl
theorem q152 : (Jvm.Cond.instantiable "LuckCrates$Province" (5 : Nat)) ∈ lw_all := lw_g (lw_at lw_m1 44 rfl) rfl
theorem q154 : (Jvm.Cond.instanceMethod ({ cls := "LuckCrates$Province", name := "<init>", desc := "()V" } : Jvm.MethodName)) ∈ lw_all := lw_g (lw_at lw_m1 46 rfl) rfl
theorem q155 : (Jvm.Cond.code ({ cls := "LuckCrates$Province", name := "<init>", desc := "()V" } : Jvm.MethodName) prog_7_method_1_code (1 : Nat) (Option.none : Option Jvm.ClassFile.FieldType)) ∈ lw_all := lw_g (lw_at lw_m1 47 rfl) rfl
theorem q156 : (Jvm.Cond.methodLink "LuckCrates$Province" (3 : Nat) ({ cls := "java/lang/Object", name := "<init>", desc := "()V" } : Jvm.MethodName)) ∈ lw_all := lw_g (lw_at lw_m1 48 rfl) rfl
theorem q157 : (Jvm.Cond.classLink "LuckCrates$Province" (9 : Nat) "java/util/ArrayList") ∈ lw_all := lw_g (lw_at lw_m1 49 rfl) rfl
theorem q159 : (Jvm.Cond.methodLink "LuckCrates$Province" (11 : Nat) ({ cls := "java/util/ArrayList", name := "<init>", desc := "()V" } : Jvm.MethodName)) ∈ lw_all := lw_g (lw_at lw_m1 51 rfl) rfl
theorem q184 : (Jvm.Cond.fieldLink "LuckCrates$Province" (12 : Nat) "LuckCrates$Province" "makes" "Ljava/util/List;") ∈ lw_all := lw_g (lw_at lw_m1 76 rfl) rfl
theorem q188 : (Jvm.Cond.fieldLink "LuckCrates$Province" (18 : Nat) "LuckCrates$Province" "stakes" "Ljava/util/List;") ∈ lw_all := lw_g (lw_at lw_m1 80 rfl) rfl
theorem q192 : (Jvm.Cond.fieldLink "LuckCrates$Province" (21 : Nat) "LuckCrates$Province" "ways" "Ljava/util/List;") ∈ lw_all := lw_g (lw_at lw_m1 84 rfl) rfl
theorem q200 : (Jvm.Cond.laysFinal "LuckCrates$Province" "LuckCrates$Province" "makes" "Ljava/util/List;") ∈ lw_all := lw_g (lw_at lw_m1 92 rfl) rfl
theorem q201 : (Jvm.Cond.soleField "LuckCrates$Province" "makes") ∈ lw_all := lw_g (lw_at lw_m1 93 rfl) rfl
theorem q202 : (Jvm.Cond.laysFinal "LuckCrates$Province" "LuckCrates$Province" "stakes" "Ljava/util/List;") ∈ lw_all := lw_g (lw_at lw_m1 94 rfl) rfl
theorem q203 : (Jvm.Cond.soleField "LuckCrates$Province" "stakes") ∈ lw_all := lw_g (lw_at lw_m1 95 rfl) rfl
theorem q204 : (Jvm.Cond.laysFinal "LuckCrates$Province" "LuckCrates$Province" "ways" "Ljava/util/List;") ∈ lw_all := lw_g (lw_at lw_m1 96 rfl) rfl
theorem q205 : (Jvm.Cond.soleField "LuckCrates$Province" "ways") ∈ lw_all := lw_g (lw_at lw_m1 97 rfl) rfl
theorem q206 : (Jvm.Cond.lays "LuckCrates$Province" "LuckCrates$Province" "crates" "I") ∈ lw_all := lw_g (lw_at lw_m1 98 rfl) rfl
theorem q207 : (Jvm.Cond.soleField "LuckCrates$Province" "crates") ∈ lw_all := lw_g (lw_at lw_m1 99 rfl) rfl
theorem q208 : (Jvm.Cond.lays "LuckCrates$Province" "LuckCrates$Province" "odds" "LLuckCrates$Form;") ∈ lw_all := lw_g (lw_at lw_m1 100 rfl) rfl
theorem q209 : (Jvm.Cond.soleField "LuckCrates$Province" "odds") ∈ lw_all := lw_g (lw_at lw_m1 101 rfl) rfl
theorem q210 : (Jvm.Cond.superclass "LuckCrates$Province" "java/lang/Object") ∈ lw_all := lw_g (lw_at lw_m1 102 rfl) rfl
theorem q399 : (Jvm.Cond.selects "LuckCrates$Province" ({ cls := "java/lang/Object", name := "getClass", desc := "()Ljava/lang/Class;" } : Jvm.MethodName) ({ cls := "java/lang/Object", name := "getClass", desc := "()Ljava/lang/Class;" } : Jvm.MethodName)) ∈ lw_all := lw_g (lw_at lw_m2 51 rfl) rfl
theorem q472 : (Jvm.Cond.instanceMethod ({ cls := "LuckCrates$Province", name := "towns", desc := "()I" } : Jvm.MethodName)) ∈ lw_all := lw_g (lw_at lw_m2 124 rfl) rfl
theorem q473 : (Jvm.Cond.selects "LuckCrates$Province" ({ cls := "LuckCrates$Province", name := "towns", desc := "()I" } : Jvm.MethodName) ({ cls := "LuckCrates$Province", name := "towns", desc := "()I" } : Jvm.MethodName)) ∈ lw_all := lw_g (lw_at lw_m2 125 rfl) rfl
theorem q474 : (Jvm.Cond.code ({ cls := "LuckCrates$Province", name := "towns", desc := "()I" } : Jvm.MethodName) prog_7_method_2_code (1 : Nat) (Option.some Jvm.ClassFile.FieldType.int)) ∈ lw_all := lw_g (lw_at lw_m2 126 rfl) rfl
theorem q475 : (Jvm.Cond.interfaceEntry "LuckCrates$Province" (24 : Nat)) ∈ lw_tbl := lw_at lw_m2 127 rfl
theorem q476 : (Jvm.Cond.methodLink "LuckCrates$Province" (24 : Nat) ({ cls := "java/util/List", name := "size", desc := "()I" } : Jvm.MethodName)) ∈ lw_all := lw_g (lw_at lw_m2 128 rfl) rfl
theorem q640 : (Jvm.Cond.instanceMethod ({ cls := "LuckCrates$Province", name := "least", desc := "(IZ)[I" } : Jvm.MethodName)) ∈ lw_all := lw_g (lw_at lw_m3 52 rfl) rfl
theorem q641 : (Jvm.Cond.selects "LuckCrates$Province" ({ cls := "LuckCrates$Province", name := "least", desc := "(IZ)[I" } : Jvm.MethodName) ({ cls := "LuckCrates$Province", name := "least", desc := "(IZ)[I" } : Jvm.MethodName)) ∈ lw_all := lw_g (lw_at lw_m3 53 rfl) rfl
theorem q642 : (Jvm.Cond.code ({ cls := "LuckCrates$Province", name := "least", desc := "(IZ)[I" } : Jvm.MethodName) prog_7_method_4_code (3 : Nat) (Option.some (Jvm.ClassFile.FieldType.array Jvm.ClassFile.FieldType.int))) ∈ lw_all := lw_g (lw_at lw_m3 54 rfl) rfl
theorem q643 : (Jvm.Cond.methodLink "LuckCrates$Province" (40 : Nat) ({ cls := "LuckCrates$Province", name := "least", desc := "(IZI)[I" } : Jvm.MethodName)) ∈ lw_all := lw_g (lw_at lw_m3 55 rfl) rfl
theorem q644 : (Jvm.Cond.instanceMethod ({ cls := "LuckCrates$Province", name := "least", desc := "(IZI)[I" } : Jvm.MethodName)) ∈ lw_all := lw_g (lw_at lw_m3 56 rfl) rfl
theorem q645 : (Jvm.Cond.selects "LuckCrates$Province" ({ cls := "LuckCrates$Province", name := "least", desc := "(IZI)[I" } : Jvm.MethodName) ({ cls := "LuckCrates$Province", name := "least", desc := "(IZI)[I" } : Jvm.MethodName)) ∈ lw_all := lw_g (lw_at lw_m3 57 rfl) rfl
theorem q646 : (Jvm.Cond.code ({ cls := "LuckCrates$Province", name := "least", desc := "(IZI)[I" } : Jvm.MethodName) prog_7_method_5_code (9 : Nat) (Option.some (Jvm.ClassFile.FieldType.array Jvm.ClassFile.FieldType.int))) ∈ lw_all := lw_g (lw_at lw_m3 58 rfl) rfl
theorem q647 : (Jvm.Cond.constant "LuckCrates$Province" (44 : Nat) (100000 : Int32)) ∈ lw_all := lw_g (lw_at lw_m3 59 rfl) rfl
theorem q648 : (Jvm.Cond.methodLink "LuckCrates$Province" (45 : Nat) ({ cls := "LuckCrates$Province", name := "towns", desc := "()I" } : Jvm.MethodName)) ∈ lw_all := lw_g (lw_at lw_m3 60 rfl) rfl
theorem q649 : (Jvm.Cond.interfaceEntry "LuckCrates$Province" (30 : Nat)) ∈ lw_tbl := lw_at lw_m3 61 rfl
theorem q650 : (Jvm.Cond.methodLink "LuckCrates$Province" (30 : Nat) ({ cls := "java/util/List", name := "get", desc := "(I)Ljava/lang/Object;" } : Jvm.MethodName)) ∈ lw_all := lw_g (lw_at lw_m3 62 rfl) rfl
theorem q651 : (Jvm.Cond.classLink "LuckCrates$Province" (34 : Nat) "LuckCrates$Way") ∈ lw_all := lw_g (lw_at lw_m3 63 rfl) rfl
theorem q652 : (Jvm.Cond.methodLink "LuckCrates$Province" (61 : Nat) ({ cls := "java/lang/Math", name := "min", desc := "(II)I" } : Jvm.MethodName)) ∈ lw_all := lw_g (lw_at lw_m3 64 rfl) rfl
theorem q1011 : (Jvm.Cond.instanceMethod ({ cls := "LuckCrates$Province", name := "isJoined", desc := "(II)Z" } : Jvm.MethodName)) ∈ lw_all := lw_g (lw_at lw_m4 183 rfl) rfl
theorem q1012 : (Jvm.Cond.selects "LuckCrates$Province" ({ cls := "LuckCrates$Province", name := "isJoined", desc := "(II)Z" } : Jvm.MethodName) ({ cls := "LuckCrates$Province", name := "isJoined", desc := "(II)Z" } : Jvm.MethodName)) ∈ lw_all := lw_g (lw_at lw_m4 184 rfl) rfl
theorem q1013 : (Jvm.Cond.code ({ cls := "LuckCrates$Province", name := "isJoined", desc := "(II)Z" } : Jvm.MethodName) prog_7_method_3_code (4 : Nat) (Option.some Jvm.ClassFile.FieldType.boolean)) ∈ lw_all := lw_g (lw_at lw_m4 185 rfl) rfl
theorem q1014 : (Jvm.Cond.methodLink "LuckCrates$Province" (36 : Nat) ({ cls := "LuckCrates$Way", name := "from", desc := "(I)I" } : Jvm.MethodName)) ∈ lw_all := lw_g (lw_at lw_m4 186 rfl) rfl
theorem q1025 : (Jvm.Cond.fieldLinkNest "LuckCrates$Province" (58 : Nat) "LuckCrates$Way" "a" "I" "LuckCrates") ∈ lw_tbl := lw_at lw_m4 197 rfl
theorem q1028 : (Jvm.Cond.fieldLinkNest "LuckCrates$Province" (55 : Nat) "LuckCrates$Way" "b" "I" "LuckCrates") ∈ lw_tbl := lw_at lw_m4 200 rfl
theorem q1031 : (Jvm.Cond.fieldLinkNest "LuckCrates$Province" (48 : Nat) "LuckCrates$Way" "days" "I" "LuckCrates") ∈ lw_tbl := lw_at lw_m4 203 rfl
theorem q1034 : (Jvm.Cond.fieldLinkNest "LuckCrates$Province" (52 : Nat) "LuckCrates$Way" "leak" "I" "LuckCrates") ∈ lw_tbl := lw_at lw_m4 206 rfl
theorem q2229 : (Jvm.Cond.castable "LuckCrates$Province" "java/lang/Object") ∈ lw_tbl := lw_at lw_m9 201 rfl
theorem in_X2 : ∀ w ∈ wsX20, w ∈ lw_all := lw_in wsX20 [200, 202, 204, 206, 208] (by decide +kernel) (by decide +kernel)
/-! X3 LuckCrates$Coast -/
abbrev cX3_init : ByteArray := prog_3_method_1_code
def yX3_init : MethodName := ⟨RX3, "<init>", "(LLuckCrates;)V"⟩
def dkwX3_init_3 : List UInt8 := [181, 0, 37, 42, 16, 10, 188, 10, 181, 0, 40, 177]
abbrev dktX3_init_3 : List UInt8 := dkwX3_init_3 ++ []
def dkwX3_init_2 : List UInt8 := [181, 0, 28, 42, 16, 10, 188, 10, 181, 0, 31, 42, 16, 10, 188, 10, 181, 0, 34, 42, 16, 10, 188, 10]
abbrev dktX3_init_2 : List UInt8 := dkwX3_init_2 ++ dktX3_init_3
def dkwX3_init_1 : List UInt8 := [181, 0, 19, 42, 16, 8, 188, 10, 181, 0, 22, 42, 16, 10, 188, 10, 181, 0, 25, 42, 16, 10, 188, 10]
abbrev dktX3_init_1 : List UInt8 := dkwX3_init_1 ++ dktX3_init_2
def dkwX3_init_0 : List UInt8 := [42, 43, 181, 0, 3, 42, 183, 0, 9, 42, 16, 8, 188, 10, 181, 0, 15, 42, 16, 8, 188, 10]
abbrev dktX3_init_0 : List UInt8 := dkwX3_init_0 ++ dktX3_init_1
theorem dksX3_init_0 : cX3_init.data.toList.drop 0 = dktX3_init_0 := by decide +kernel
theorem dksX3_init_1 : cX3_init.data.toList.drop 22 = dktX3_init_1 := dk_seg dksX3_init_0 22 rfl rfl
theorem dksX3_init_2 : cX3_init.data.toList.drop 46 = dktX3_init_2 := dk_seg dksX3_init_1 24 rfl rfl
theorem dksX3_init_3 : cX3_init.data.toList.drop 70 = dktX3_init_3 := dk_seg dksX3_init_2 24 rfl rfl
theorem dX3_init_0 : decode cX3_init 0 = .ok (.aload_n 0, 1) := dk_42 (dk_at dksX3_init_0 0 rfl rfl)
theorem dX3_init_1 : decode cX3_init 1 = .ok (.aload_n 1, 1) := dk_43 (dk_at dksX3_init_0 1 rfl rfl)
theorem dX3_init_2 : decode cX3_init 2 = .ok (.putfield 3, 3) := dk_181 0 3 (dk_at dksX3_init_0 2 rfl rfl)
theorem dX3_init_5 : decode cX3_init 5 = .ok (.aload_n 0, 1) := dk_42 (dk_at dksX3_init_0 5 rfl rfl)
theorem dX3_init_6 : decode cX3_init 6 = .ok (.invokespecial 9, 3) := dk_183 0 9 (dk_at dksX3_init_0 6 rfl rfl)
theorem dX3_init_9 : decode cX3_init 9 = .ok (.aload_n 0, 1) := dk_42 (dk_at dksX3_init_0 9 rfl rfl)
theorem dX3_init_10 : decode cX3_init 10 = .ok (.bipush 8, 2) := dk_16 8 (dk_at dksX3_init_0 10 rfl rfl)
theorem dX3_init_12 : decode cX3_init 12 = .ok (.newarray .int, 2) := dk_188_10 (dk_at dksX3_init_0 12 rfl rfl)
theorem dX3_init_14 : decode cX3_init 14 = .ok (.putfield 15, 3) := dk_181 0 15 (dk_at dksX3_init_0 14 rfl rfl)
theorem dX3_init_17 : decode cX3_init 17 = .ok (.aload_n 0, 1) := dk_42 (dk_at dksX3_init_0 17 rfl rfl)
theorem dX3_init_18 : decode cX3_init 18 = .ok (.bipush 8, 2) := dk_16 8 (dk_at dksX3_init_0 18 rfl rfl)
theorem dX3_init_20 : decode cX3_init 20 = .ok (.newarray .int, 2) := dk_188_10 (dk_at dksX3_init_0 20 rfl rfl)
theorem dX3_init_22 : decode cX3_init 22 = .ok (.putfield 19, 3) := dk_181 0 19 (dk_at dksX3_init_1 0 rfl rfl)
theorem dX3_init_25 : decode cX3_init 25 = .ok (.aload_n 0, 1) := dk_42 (dk_at dksX3_init_1 3 rfl rfl)
theorem dX3_init_26 : decode cX3_init 26 = .ok (.bipush 8, 2) := dk_16 8 (dk_at dksX3_init_1 4 rfl rfl)
theorem dX3_init_28 : decode cX3_init 28 = .ok (.newarray .int, 2) := dk_188_10 (dk_at dksX3_init_1 6 rfl rfl)
theorem dX3_init_30 : decode cX3_init 30 = .ok (.putfield 22, 3) := dk_181 0 22 (dk_at dksX3_init_1 8 rfl rfl)
theorem dX3_init_33 : decode cX3_init 33 = .ok (.aload_n 0, 1) := dk_42 (dk_at dksX3_init_1 11 rfl rfl)
theorem dX3_init_34 : decode cX3_init 34 = .ok (.bipush 10, 2) := dk_16 10 (dk_at dksX3_init_1 12 rfl rfl)
theorem dX3_init_36 : decode cX3_init 36 = .ok (.newarray .int, 2) := dk_188_10 (dk_at dksX3_init_1 14 rfl rfl)
theorem dX3_init_38 : decode cX3_init 38 = .ok (.putfield 25, 3) := dk_181 0 25 (dk_at dksX3_init_1 16 rfl rfl)
theorem dX3_init_41 : decode cX3_init 41 = .ok (.aload_n 0, 1) := dk_42 (dk_at dksX3_init_1 19 rfl rfl)
theorem dX3_init_42 : decode cX3_init 42 = .ok (.bipush 10, 2) := dk_16 10 (dk_at dksX3_init_1 20 rfl rfl)
theorem dX3_init_44 : decode cX3_init 44 = .ok (.newarray .int, 2) := dk_188_10 (dk_at dksX3_init_1 22 rfl rfl)
theorem dX3_init_46 : decode cX3_init 46 = .ok (.putfield 28, 3) := dk_181 0 28 (dk_at dksX3_init_2 0 rfl rfl)
theorem dX3_init_49 : decode cX3_init 49 = .ok (.aload_n 0, 1) := dk_42 (dk_at dksX3_init_2 3 rfl rfl)
theorem dX3_init_50 : decode cX3_init 50 = .ok (.bipush 10, 2) := dk_16 10 (dk_at dksX3_init_2 4 rfl rfl)
theorem dX3_init_52 : decode cX3_init 52 = .ok (.newarray .int, 2) := dk_188_10 (dk_at dksX3_init_2 6 rfl rfl)
theorem dX3_init_54 : decode cX3_init 54 = .ok (.putfield 31, 3) := dk_181 0 31 (dk_at dksX3_init_2 8 rfl rfl)
theorem dX3_init_57 : decode cX3_init 57 = .ok (.aload_n 0, 1) := dk_42 (dk_at dksX3_init_2 11 rfl rfl)
theorem dX3_init_58 : decode cX3_init 58 = .ok (.bipush 10, 2) := dk_16 10 (dk_at dksX3_init_2 12 rfl rfl)
theorem dX3_init_60 : decode cX3_init 60 = .ok (.newarray .int, 2) := dk_188_10 (dk_at dksX3_init_2 14 rfl rfl)
theorem dX3_init_62 : decode cX3_init 62 = .ok (.putfield 34, 3) := dk_181 0 34 (dk_at dksX3_init_2 16 rfl rfl)
theorem dX3_init_65 : decode cX3_init 65 = .ok (.aload_n 0, 1) := dk_42 (dk_at dksX3_init_2 19 rfl rfl)
theorem dX3_init_66 : decode cX3_init 66 = .ok (.bipush 10, 2) := dk_16 10 (dk_at dksX3_init_2 20 rfl rfl)
theorem dX3_init_68 : decode cX3_init 68 = .ok (.newarray .int, 2) := dk_188_10 (dk_at dksX3_init_2 22 rfl rfl)
theorem dX3_init_70 : decode cX3_init 70 = .ok (.putfield 37, 3) := dk_181 0 37 (dk_at dksX3_init_3 0 rfl rfl)
theorem dX3_init_73 : decode cX3_init 73 = .ok (.aload_n 0, 1) := dk_42 (dk_at dksX3_init_3 3 rfl rfl)
theorem dX3_init_74 : decode cX3_init 74 = .ok (.bipush 10, 2) := dk_16 10 (dk_at dksX3_init_3 4 rfl rfl)
theorem dX3_init_76 : decode cX3_init 76 = .ok (.newarray .int, 2) := dk_188_10 (dk_at dksX3_init_3 6 rfl rfl)
theorem dX3_init_78 : decode cX3_init 78 = .ok (.putfield 40, 3) := dk_181 0 40 (dk_at dksX3_init_3 8 rfl rfl)
theorem dX3_init_81 : decode cX3_init 81 = .ok (.return_, 1) := dk_177 (dk_at dksX3_init_3 11 rfl rfl)
abbrev cX3_copy : ByteArray := prog_3_method_3_code
def yX3_copy : MethodName := ⟨RX3, "copy", "()LLuckCrates$Coast;"⟩
def dkwX3_copy_0 : List UInt8 := [187, 0, 4, 89, 42, 180, 0, 3, 183, 0, 47, 42, 182, 0, 50, 176]
abbrev dktX3_copy_0 : List UInt8 := dkwX3_copy_0 ++ []
theorem dksX3_copy_0 : cX3_copy.data.toList.drop 0 = dktX3_copy_0 := by decide +kernel
theorem dX3_copy_0 : decode cX3_copy 0 = .ok (.new 4, 3) := dk_187 0 4 (dk_at dksX3_copy_0 0 rfl rfl)
theorem dX3_copy_3 : decode cX3_copy 3 = .ok (.dup, 1) := dk_89 (dk_at dksX3_copy_0 3 rfl rfl)
theorem dX3_copy_4 : decode cX3_copy 4 = .ok (.aload_n 0, 1) := dk_42 (dk_at dksX3_copy_0 4 rfl rfl)
theorem dX3_copy_5 : decode cX3_copy 5 = .ok (.getfield 3, 3) := dk_180 0 3 (dk_at dksX3_copy_0 5 rfl rfl)
theorem dX3_copy_8 : decode cX3_copy 8 = .ok (.invokespecial 47, 3) := dk_183 0 47 (dk_at dksX3_copy_0 8 rfl rfl)
theorem dX3_copy_11 : decode cX3_copy 11 = .ok (.aload_n 0, 1) := dk_42 (dk_at dksX3_copy_0 11 rfl rfl)
theorem dX3_copy_12 : decode cX3_copy 12 = .ok (.invokevirtual 50, 3) := dk_182 0 50 (dk_at dksX3_copy_0 12 rfl rfl)
theorem dX3_copy_15 : decode cX3_copy 15 = .ok (.areturn, 1) := dk_176 (dk_at dksX3_copy_0 15 rfl rfl)
abbrev cX3_be : ByteArray := prog_3_method_2_code
def yX3_be : MethodName := ⟨RX3, "be", "(LLuckCrates$Coast;)LLuckCrates$Coast;"⟩
def dkwX3_be_6 : List UInt8 := [181, 0, 43, 42, 176]
abbrev dktX3_be_6 : List UInt8 := dkwX3_be_6 ++ []
def dkwX3_be_5 : List UInt8 := [180, 0, 40, 28, 43, 180, 0, 40, 28, 46, 79, 132, 2, 1, 167, 255, 175, 42, 43, 180, 0, 43]
abbrev dktX3_be_5 : List UInt8 := dkwX3_be_5 ++ dktX3_be_6
def dkwX3_be_4 : List UInt8 := [180, 0, 34, 28, 43, 180, 0, 34, 28, 46, 79, 42, 180, 0, 37, 28, 43, 180, 0, 37, 28, 46, 79, 42]
abbrev dktX3_be_4 : List UInt8 := dkwX3_be_4 ++ dktX3_be_5
def dkwX3_be_3 : List UInt8 := [180, 0, 28, 28, 43, 180, 0, 28, 28, 46, 79, 42, 180, 0, 31, 28, 43, 180, 0, 31, 28, 46, 79, 42]
abbrev dktX3_be_3 : List UInt8 := dkwX3_be_3 ++ dktX3_be_4
def dkwX3_be_2 : List UInt8 := [167, 255, 211, 3, 61, 28, 16, 10, 162, 0, 81, 42, 180, 0, 25, 28, 43, 180, 0, 25, 28, 46, 79, 42]
abbrev dktX3_be_2 : List UInt8 := dkwX3_be_2 ++ dktX3_be_3
def dkwX3_be_1 : List UInt8 := [28, 43, 180, 0, 19, 28, 46, 79, 42, 180, 0, 22, 28, 43, 180, 0, 22, 28, 46, 79, 132, 2, 1]
abbrev dktX3_be_1 : List UInt8 := dkwX3_be_1 ++ dktX3_be_2
def dkwX3_be_0 : List UInt8 := [3, 61, 28, 16, 8, 162, 0, 45, 42, 180, 0, 15, 28, 43, 180, 0, 15, 28, 46, 79, 42, 180, 0, 19]
abbrev dktX3_be_0 : List UInt8 := dkwX3_be_0 ++ dktX3_be_1
theorem dksX3_be_0 : cX3_be.data.toList.drop 0 = dktX3_be_0 := by decide +kernel
theorem dksX3_be_1 : cX3_be.data.toList.drop 24 = dktX3_be_1 := dk_seg dksX3_be_0 24 rfl rfl
theorem dksX3_be_2 : cX3_be.data.toList.drop 47 = dktX3_be_2 := dk_seg dksX3_be_1 23 rfl rfl
theorem dksX3_be_3 : cX3_be.data.toList.drop 71 = dktX3_be_3 := dk_seg dksX3_be_2 24 rfl rfl
theorem dksX3_be_4 : cX3_be.data.toList.drop 95 = dktX3_be_4 := dk_seg dksX3_be_3 24 rfl rfl
theorem dksX3_be_5 : cX3_be.data.toList.drop 119 = dktX3_be_5 := dk_seg dksX3_be_4 24 rfl rfl
theorem dksX3_be_6 : cX3_be.data.toList.drop 141 = dktX3_be_6 := dk_seg dksX3_be_5 22 rfl rfl
theorem dX3_be_0 : decode cX3_be 0 = .ok (.iconst 0, 1) := dk_3 (dk_at dksX3_be_0 0 rfl rfl)
theorem dX3_be_1 : decode cX3_be 1 = .ok (.istore_n 2, 1) := dk_61 (dk_at dksX3_be_0 1 rfl rfl)
theorem dX3_be_2 : decode cX3_be 2 = .ok (.iload_n 2, 1) := dk_28 (dk_at dksX3_be_0 2 rfl rfl)
theorem dX3_be_3 : decode cX3_be 3 = .ok (.bipush 8, 2) := dk_16 8 (dk_at dksX3_be_0 3 rfl rfl)
theorem dX3_be_5 : decode cX3_be 5 = .ok (.if_icmp .ge 45, 3) := dk_162 0 45 (dk_at dksX3_be_0 5 rfl rfl)
theorem dX3_be_8 : decode cX3_be 8 = .ok (.aload_n 0, 1) := dk_42 (dk_at dksX3_be_0 8 rfl rfl)
theorem dX3_be_9 : decode cX3_be 9 = .ok (.getfield 15, 3) := dk_180 0 15 (dk_at dksX3_be_0 9 rfl rfl)
theorem dX3_be_12 : decode cX3_be 12 = .ok (.iload_n 2, 1) := dk_28 (dk_at dksX3_be_0 12 rfl rfl)
theorem dX3_be_13 : decode cX3_be 13 = .ok (.aload_n 1, 1) := dk_43 (dk_at dksX3_be_0 13 rfl rfl)
theorem dX3_be_14 : decode cX3_be 14 = .ok (.getfield 15, 3) := dk_180 0 15 (dk_at dksX3_be_0 14 rfl rfl)
theorem dX3_be_17 : decode cX3_be 17 = .ok (.iload_n 2, 1) := dk_28 (dk_at dksX3_be_0 17 rfl rfl)
theorem dX3_be_18 : decode cX3_be 18 = .ok (.iaload, 1) := dk_46 (dk_at dksX3_be_0 18 rfl rfl)
theorem dX3_be_19 : decode cX3_be 19 = .ok (.iastore, 1) := dk_79 (dk_at dksX3_be_0 19 rfl rfl)
theorem dX3_be_20 : decode cX3_be 20 = .ok (.aload_n 0, 1) := dk_42 (dk_at dksX3_be_0 20 rfl rfl)
theorem dX3_be_21 : decode cX3_be 21 = .ok (.getfield 19, 3) := dk_180 0 19 (dk_at dksX3_be_0 21 rfl rfl)
theorem dX3_be_24 : decode cX3_be 24 = .ok (.iload_n 2, 1) := dk_28 (dk_at dksX3_be_1 0 rfl rfl)
theorem dX3_be_25 : decode cX3_be 25 = .ok (.aload_n 1, 1) := dk_43 (dk_at dksX3_be_1 1 rfl rfl)
theorem dX3_be_26 : decode cX3_be 26 = .ok (.getfield 19, 3) := dk_180 0 19 (dk_at dksX3_be_1 2 rfl rfl)
theorem dX3_be_29 : decode cX3_be 29 = .ok (.iload_n 2, 1) := dk_28 (dk_at dksX3_be_1 5 rfl rfl)
theorem dX3_be_30 : decode cX3_be 30 = .ok (.iaload, 1) := dk_46 (dk_at dksX3_be_1 6 rfl rfl)
theorem dX3_be_31 : decode cX3_be 31 = .ok (.iastore, 1) := dk_79 (dk_at dksX3_be_1 7 rfl rfl)
theorem dX3_be_32 : decode cX3_be 32 = .ok (.aload_n 0, 1) := dk_42 (dk_at dksX3_be_1 8 rfl rfl)
theorem dX3_be_33 : decode cX3_be 33 = .ok (.getfield 22, 3) := dk_180 0 22 (dk_at dksX3_be_1 9 rfl rfl)
theorem dX3_be_36 : decode cX3_be 36 = .ok (.iload_n 2, 1) := dk_28 (dk_at dksX3_be_1 12 rfl rfl)
theorem dX3_be_37 : decode cX3_be 37 = .ok (.aload_n 1, 1) := dk_43 (dk_at dksX3_be_1 13 rfl rfl)
theorem dX3_be_38 : decode cX3_be 38 = .ok (.getfield 22, 3) := dk_180 0 22 (dk_at dksX3_be_1 14 rfl rfl)
theorem dX3_be_41 : decode cX3_be 41 = .ok (.iload_n 2, 1) := dk_28 (dk_at dksX3_be_1 17 rfl rfl)
theorem dX3_be_42 : decode cX3_be 42 = .ok (.iaload, 1) := dk_46 (dk_at dksX3_be_1 18 rfl rfl)
theorem dX3_be_43 : decode cX3_be 43 = .ok (.iastore, 1) := dk_79 (dk_at dksX3_be_1 19 rfl rfl)
theorem dX3_be_44 : decode cX3_be 44 = .ok (.iinc 2 1, 3) := dk_132 2 1 (dk_at dksX3_be_1 20 rfl rfl)
theorem dX3_be_47 : decode cX3_be 47 = .ok (.goto (-45), 3) := dk_167 255 211 (dk_at dksX3_be_2 0 rfl rfl)
theorem dX3_be_50 : decode cX3_be 50 = .ok (.iconst 0, 1) := dk_3 (dk_at dksX3_be_2 3 rfl rfl)
theorem dX3_be_51 : decode cX3_be 51 = .ok (.istore_n 2, 1) := dk_61 (dk_at dksX3_be_2 4 rfl rfl)
theorem dX3_be_52 : decode cX3_be 52 = .ok (.iload_n 2, 1) := dk_28 (dk_at dksX3_be_2 5 rfl rfl)
theorem dX3_be_53 : decode cX3_be 53 = .ok (.bipush 10, 2) := dk_16 10 (dk_at dksX3_be_2 6 rfl rfl)
theorem dX3_be_55 : decode cX3_be 55 = .ok (.if_icmp .ge 81, 3) := dk_162 0 81 (dk_at dksX3_be_2 8 rfl rfl)
theorem dX3_be_58 : decode cX3_be 58 = .ok (.aload_n 0, 1) := dk_42 (dk_at dksX3_be_2 11 rfl rfl)
theorem dX3_be_59 : decode cX3_be 59 = .ok (.getfield 25, 3) := dk_180 0 25 (dk_at dksX3_be_2 12 rfl rfl)
theorem dX3_be_62 : decode cX3_be 62 = .ok (.iload_n 2, 1) := dk_28 (dk_at dksX3_be_2 15 rfl rfl)
theorem dX3_be_63 : decode cX3_be 63 = .ok (.aload_n 1, 1) := dk_43 (dk_at dksX3_be_2 16 rfl rfl)
theorem dX3_be_64 : decode cX3_be 64 = .ok (.getfield 25, 3) := dk_180 0 25 (dk_at dksX3_be_2 17 rfl rfl)
theorem dX3_be_67 : decode cX3_be 67 = .ok (.iload_n 2, 1) := dk_28 (dk_at dksX3_be_2 20 rfl rfl)
theorem dX3_be_68 : decode cX3_be 68 = .ok (.iaload, 1) := dk_46 (dk_at dksX3_be_2 21 rfl rfl)
theorem dX3_be_69 : decode cX3_be 69 = .ok (.iastore, 1) := dk_79 (dk_at dksX3_be_2 22 rfl rfl)
theorem dX3_be_70 : decode cX3_be 70 = .ok (.aload_n 0, 1) := dk_42 (dk_at dksX3_be_2 23 rfl rfl)
theorem dX3_be_71 : decode cX3_be 71 = .ok (.getfield 28, 3) := dk_180 0 28 (dk_at dksX3_be_3 0 rfl rfl)
theorem dX3_be_74 : decode cX3_be 74 = .ok (.iload_n 2, 1) := dk_28 (dk_at dksX3_be_3 3 rfl rfl)
theorem dX3_be_75 : decode cX3_be 75 = .ok (.aload_n 1, 1) := dk_43 (dk_at dksX3_be_3 4 rfl rfl)
theorem dX3_be_76 : decode cX3_be 76 = .ok (.getfield 28, 3) := dk_180 0 28 (dk_at dksX3_be_3 5 rfl rfl)
theorem dX3_be_79 : decode cX3_be 79 = .ok (.iload_n 2, 1) := dk_28 (dk_at dksX3_be_3 8 rfl rfl)
theorem dX3_be_80 : decode cX3_be 80 = .ok (.iaload, 1) := dk_46 (dk_at dksX3_be_3 9 rfl rfl)
theorem dX3_be_81 : decode cX3_be 81 = .ok (.iastore, 1) := dk_79 (dk_at dksX3_be_3 10 rfl rfl)
theorem dX3_be_82 : decode cX3_be 82 = .ok (.aload_n 0, 1) := dk_42 (dk_at dksX3_be_3 11 rfl rfl)
theorem dX3_be_83 : decode cX3_be 83 = .ok (.getfield 31, 3) := dk_180 0 31 (dk_at dksX3_be_3 12 rfl rfl)
theorem dX3_be_86 : decode cX3_be 86 = .ok (.iload_n 2, 1) := dk_28 (dk_at dksX3_be_3 15 rfl rfl)
theorem dX3_be_87 : decode cX3_be 87 = .ok (.aload_n 1, 1) := dk_43 (dk_at dksX3_be_3 16 rfl rfl)
theorem dX3_be_88 : decode cX3_be 88 = .ok (.getfield 31, 3) := dk_180 0 31 (dk_at dksX3_be_3 17 rfl rfl)
theorem dX3_be_91 : decode cX3_be 91 = .ok (.iload_n 2, 1) := dk_28 (dk_at dksX3_be_3 20 rfl rfl)
theorem dX3_be_92 : decode cX3_be 92 = .ok (.iaload, 1) := dk_46 (dk_at dksX3_be_3 21 rfl rfl)
theorem dX3_be_93 : decode cX3_be 93 = .ok (.iastore, 1) := dk_79 (dk_at dksX3_be_3 22 rfl rfl)
theorem dX3_be_94 : decode cX3_be 94 = .ok (.aload_n 0, 1) := dk_42 (dk_at dksX3_be_3 23 rfl rfl)
theorem dX3_be_95 : decode cX3_be 95 = .ok (.getfield 34, 3) := dk_180 0 34 (dk_at dksX3_be_4 0 rfl rfl)
theorem dX3_be_98 : decode cX3_be 98 = .ok (.iload_n 2, 1) := dk_28 (dk_at dksX3_be_4 3 rfl rfl)
theorem dX3_be_99 : decode cX3_be 99 = .ok (.aload_n 1, 1) := dk_43 (dk_at dksX3_be_4 4 rfl rfl)
theorem dX3_be_100 : decode cX3_be 100 = .ok (.getfield 34, 3) := dk_180 0 34 (dk_at dksX3_be_4 5 rfl rfl)
theorem dX3_be_103 : decode cX3_be 103 = .ok (.iload_n 2, 1) := dk_28 (dk_at dksX3_be_4 8 rfl rfl)
theorem dX3_be_104 : decode cX3_be 104 = .ok (.iaload, 1) := dk_46 (dk_at dksX3_be_4 9 rfl rfl)
theorem dX3_be_105 : decode cX3_be 105 = .ok (.iastore, 1) := dk_79 (dk_at dksX3_be_4 10 rfl rfl)
theorem dX3_be_106 : decode cX3_be 106 = .ok (.aload_n 0, 1) := dk_42 (dk_at dksX3_be_4 11 rfl rfl)
theorem dX3_be_107 : decode cX3_be 107 = .ok (.getfield 37, 3) := dk_180 0 37 (dk_at dksX3_be_4 12 rfl rfl)
theorem dX3_be_110 : decode cX3_be 110 = .ok (.iload_n 2, 1) := dk_28 (dk_at dksX3_be_4 15 rfl rfl)
theorem dX3_be_111 : decode cX3_be 111 = .ok (.aload_n 1, 1) := dk_43 (dk_at dksX3_be_4 16 rfl rfl)
theorem dX3_be_112 : decode cX3_be 112 = .ok (.getfield 37, 3) := dk_180 0 37 (dk_at dksX3_be_4 17 rfl rfl)
theorem dX3_be_115 : decode cX3_be 115 = .ok (.iload_n 2, 1) := dk_28 (dk_at dksX3_be_4 20 rfl rfl)
theorem dX3_be_116 : decode cX3_be 116 = .ok (.iaload, 1) := dk_46 (dk_at dksX3_be_4 21 rfl rfl)
theorem dX3_be_117 : decode cX3_be 117 = .ok (.iastore, 1) := dk_79 (dk_at dksX3_be_4 22 rfl rfl)
theorem dX3_be_118 : decode cX3_be 118 = .ok (.aload_n 0, 1) := dk_42 (dk_at dksX3_be_4 23 rfl rfl)
theorem dX3_be_119 : decode cX3_be 119 = .ok (.getfield 40, 3) := dk_180 0 40 (dk_at dksX3_be_5 0 rfl rfl)
theorem dX3_be_122 : decode cX3_be 122 = .ok (.iload_n 2, 1) := dk_28 (dk_at dksX3_be_5 3 rfl rfl)
theorem dX3_be_123 : decode cX3_be 123 = .ok (.aload_n 1, 1) := dk_43 (dk_at dksX3_be_5 4 rfl rfl)
theorem dX3_be_124 : decode cX3_be 124 = .ok (.getfield 40, 3) := dk_180 0 40 (dk_at dksX3_be_5 5 rfl rfl)
theorem dX3_be_127 : decode cX3_be 127 = .ok (.iload_n 2, 1) := dk_28 (dk_at dksX3_be_5 8 rfl rfl)
theorem dX3_be_128 : decode cX3_be 128 = .ok (.iaload, 1) := dk_46 (dk_at dksX3_be_5 9 rfl rfl)
theorem dX3_be_129 : decode cX3_be 129 = .ok (.iastore, 1) := dk_79 (dk_at dksX3_be_5 10 rfl rfl)
theorem dX3_be_130 : decode cX3_be 130 = .ok (.iinc 2 1, 3) := dk_132 2 1 (dk_at dksX3_be_5 11 rfl rfl)
theorem dX3_be_133 : decode cX3_be 133 = .ok (.goto (-81), 3) := dk_167 255 175 (dk_at dksX3_be_5 14 rfl rfl)
theorem dX3_be_136 : decode cX3_be 136 = .ok (.aload_n 0, 1) := dk_42 (dk_at dksX3_be_5 17 rfl rfl)
theorem dX3_be_137 : decode cX3_be 137 = .ok (.aload_n 1, 1) := dk_43 (dk_at dksX3_be_5 18 rfl rfl)
theorem dX3_be_138 : decode cX3_be 138 = .ok (.getfield 43, 3) := dk_180 0 43 (dk_at dksX3_be_5 19 rfl rfl)
theorem dX3_be_141 : decode cX3_be 141 = .ok (.putfield 43, 3) := dk_181 0 43 (dk_at dksX3_be_6 0 rfl rfl)
theorem dX3_be_144 : decode cX3_be 144 = .ok (.aload_n 0, 1) := dk_42 (dk_at dksX3_be_6 3 rfl rfl)
theorem dX3_be_145 : decode cX3_be 145 = .ok (.areturn, 1) := dk_176 (dk_at dksX3_be_6 4 rfl rfl)
abbrev cX3_after : ByteArray := prog_3_method_12_code
def yX3_after : MethodName := ⟨RX3, "after", "(I)LLuckCrates$Coast;"⟩
def dkwX3_after_0 : List UInt8 := [3, 61, 28, 27, 162, 0, 15, 42, 3, 182, 0, 141, 87, 132, 2, 1, 167, 255, 242, 42, 176]
abbrev dktX3_after_0 : List UInt8 := dkwX3_after_0 ++ []
theorem dksX3_after_0 : cX3_after.data.toList.drop 0 = dktX3_after_0 := by decide +kernel
theorem dX3_after_0 : decode cX3_after 0 = .ok (.iconst 0, 1) := dk_3 (dk_at dksX3_after_0 0 rfl rfl)
theorem dX3_after_1 : decode cX3_after 1 = .ok (.istore_n 2, 1) := dk_61 (dk_at dksX3_after_0 1 rfl rfl)
theorem dX3_after_2 : decode cX3_after 2 = .ok (.iload_n 2, 1) := dk_28 (dk_at dksX3_after_0 2 rfl rfl)
theorem dX3_after_3 : decode cX3_after 3 = .ok (.iload_n 1, 1) := dk_27 (dk_at dksX3_after_0 3 rfl rfl)
theorem dX3_after_4 : decode cX3_after 4 = .ok (.if_icmp .ge 15, 3) := dk_162 0 15 (dk_at dksX3_after_0 4 rfl rfl)
theorem dX3_after_7 : decode cX3_after 7 = .ok (.aload_n 0, 1) := dk_42 (dk_at dksX3_after_0 7 rfl rfl)
theorem dX3_after_8 : decode cX3_after 8 = .ok (.iconst 0, 1) := dk_3 (dk_at dksX3_after_0 8 rfl rfl)
theorem dX3_after_9 : decode cX3_after 9 = .ok (.invokevirtual 141, 3) := dk_182 0 141 (dk_at dksX3_after_0 9 rfl rfl)
theorem dX3_after_12 : decode cX3_after 12 = .ok (.pop, 1) := dk_87 (dk_at dksX3_after_0 12 rfl rfl)
theorem dX3_after_13 : decode cX3_after 13 = .ok (.iinc 2 1, 3) := dk_132 2 1 (dk_at dksX3_after_0 13 rfl rfl)
theorem dX3_after_16 : decode cX3_after 16 = .ok (.goto (-14), 3) := dk_167 255 242 (dk_at dksX3_after_0 16 rfl rfl)
theorem dX3_after_19 : decode cX3_after 19 = .ok (.aload_n 0, 1) := dk_42 (dk_at dksX3_after_0 19 rfl rfl)
theorem dX3_after_20 : decode cX3_after 20 = .ok (.areturn, 1) := dk_176 (dk_at dksX3_after_0 20 rfl rfl)
abbrev cX3_pass : ByteArray := prog_3_method_11_code
def yX3_pass : MethodName := ⟨RX3, "pass", "(Z)LLuckCrates$Coast;"⟩
def dkwX3_pass_7 : List UInt8 := [181, 0, 43, 42, 176]
abbrev dktX3_pass_7 : List UInt8 := dkwX3_pass_7 ++ []
def dkwX3_pass_6 : List UInt8 := [181, 0, 126, 42, 28, 29, 182, 0, 137, 132, 2, 1, 167, 255, 145, 42, 89, 180, 0, 43, 4, 96]
abbrev dktX3_pass_6 : List UInt8 := dkwX3_pass_6 ++ dktX3_pass_7
def dkwX3_pass_5 : List UInt8 := [16, 7, 161, 0, 7, 4, 167, 0, 4, 3, 62, 29, 154, 0, 15, 42, 89, 180, 0, 126, 4, 28, 120, 128]
abbrev dktX3_pass_5 : List UInt8 := dkwX3_pass_5 ++ dktX3_pass_6
def dkwX3_pass_4 : List UInt8 := [182, 0, 132, 42, 28, 182, 0, 135, 162, 0, 7, 4, 167, 0, 22, 3, 167, 0, 18, 42, 28, 182, 0, 135]
abbrev dktX3_pass_4 : List UInt8 := dkwX3_pass_4 ++ dktX3_pass_5
def dkwX3_pass_3 : List UInt8 := [185, 0, 78, 2, 0, 192, 0, 84, 182, 0, 86, 182, 0, 115, 27, 153, 0, 28, 42, 180, 0, 3, 16, 12]
abbrev dktX3_pass_3 : List UInt8 := dkwX3_pass_3 ++ dktX3_pass_4
def dkwX3_pass_2 : List UInt8 := [180, 0, 54, 182, 0, 129, 162, 0, 103, 42, 28, 42, 180, 0, 3, 180, 0, 54, 180, 0, 90, 28]
abbrev dktX3_pass_2 : List UInt8 := dkwX3_pass_2 ++ dktX3_pass_3
def dkwX3_pass_1 : List UInt8 := [42, 28, 182, 0, 122, 132, 2, 1, 167, 255, 226, 42, 3, 181, 0, 126, 3, 61, 28, 42, 180, 0, 3]
abbrev dktX3_pass_1 : List UInt8 := dkwX3_pass_1 ++ dktX3_pass_2
def dkwX3_pass_0 : List UInt8 := [3, 61, 28, 42, 180, 0, 3, 180, 0, 54, 180, 0, 58, 162, 0, 22, 42, 28, 182, 0, 119, 153, 0, 8]
abbrev dktX3_pass_0 : List UInt8 := dkwX3_pass_0 ++ dktX3_pass_1
theorem dksX3_pass_0 : cX3_pass.data.toList.drop 0 = dktX3_pass_0 := by decide +kernel
theorem dksX3_pass_1 : cX3_pass.data.toList.drop 24 = dktX3_pass_1 := dk_seg dksX3_pass_0 24 rfl rfl
theorem dksX3_pass_2 : cX3_pass.data.toList.drop 47 = dktX3_pass_2 := dk_seg dksX3_pass_1 23 rfl rfl
theorem dksX3_pass_3 : cX3_pass.data.toList.drop 69 = dktX3_pass_3 := dk_seg dksX3_pass_2 22 rfl rfl
theorem dksX3_pass_4 : cX3_pass.data.toList.drop 93 = dktX3_pass_4 := dk_seg dksX3_pass_3 24 rfl rfl
theorem dksX3_pass_5 : cX3_pass.data.toList.drop 117 = dktX3_pass_5 := dk_seg dksX3_pass_4 24 rfl rfl
theorem dksX3_pass_6 : cX3_pass.data.toList.drop 141 = dktX3_pass_6 := dk_seg dksX3_pass_5 24 rfl rfl
theorem dksX3_pass_7 : cX3_pass.data.toList.drop 163 = dktX3_pass_7 := dk_seg dksX3_pass_6 22 rfl rfl
theorem dX3_pass_0 : decode cX3_pass 0 = .ok (.iconst 0, 1) := dk_3 (dk_at dksX3_pass_0 0 rfl rfl)
theorem dX3_pass_1 : decode cX3_pass 1 = .ok (.istore_n 2, 1) := dk_61 (dk_at dksX3_pass_0 1 rfl rfl)
theorem dX3_pass_2 : decode cX3_pass 2 = .ok (.iload_n 2, 1) := dk_28 (dk_at dksX3_pass_0 2 rfl rfl)
theorem dX3_pass_3 : decode cX3_pass 3 = .ok (.aload_n 0, 1) := dk_42 (dk_at dksX3_pass_0 3 rfl rfl)
theorem dX3_pass_4 : decode cX3_pass 4 = .ok (.getfield 3, 3) := dk_180 0 3 (dk_at dksX3_pass_0 4 rfl rfl)
theorem dX3_pass_7 : decode cX3_pass 7 = .ok (.getfield 54, 3) := dk_180 0 54 (dk_at dksX3_pass_0 7 rfl rfl)
theorem dX3_pass_10 : decode cX3_pass 10 = .ok (.getfield 58, 3) := dk_180 0 58 (dk_at dksX3_pass_0 10 rfl rfl)
theorem dX3_pass_13 : decode cX3_pass 13 = .ok (.if_icmp .ge 22, 3) := dk_162 0 22 (dk_at dksX3_pass_0 13 rfl rfl)
theorem dX3_pass_16 : decode cX3_pass 16 = .ok (.aload_n 0, 1) := dk_42 (dk_at dksX3_pass_0 16 rfl rfl)
theorem dX3_pass_17 : decode cX3_pass 17 = .ok (.iload_n 2, 1) := dk_28 (dk_at dksX3_pass_0 17 rfl rfl)
theorem dX3_pass_18 : decode cX3_pass 18 = .ok (.invokevirtual 119, 3) := dk_182 0 119 (dk_at dksX3_pass_0 18 rfl rfl)
theorem dX3_pass_21 : decode cX3_pass 21 = .ok (.ifCond .eq 8, 3) := dk_153 0 8 (dk_at dksX3_pass_0 21 rfl rfl)
theorem dX3_pass_24 : decode cX3_pass 24 = .ok (.aload_n 0, 1) := dk_42 (dk_at dksX3_pass_1 0 rfl rfl)
theorem dX3_pass_25 : decode cX3_pass 25 = .ok (.iload_n 2, 1) := dk_28 (dk_at dksX3_pass_1 1 rfl rfl)
theorem dX3_pass_26 : decode cX3_pass 26 = .ok (.invokevirtual 122, 3) := dk_182 0 122 (dk_at dksX3_pass_1 2 rfl rfl)
theorem dX3_pass_29 : decode cX3_pass 29 = .ok (.iinc 2 1, 3) := dk_132 2 1 (dk_at dksX3_pass_1 5 rfl rfl)
theorem dX3_pass_32 : decode cX3_pass 32 = .ok (.goto (-30), 3) := dk_167 255 226 (dk_at dksX3_pass_1 8 rfl rfl)
theorem dX3_pass_35 : decode cX3_pass 35 = .ok (.aload_n 0, 1) := dk_42 (dk_at dksX3_pass_1 11 rfl rfl)
theorem dX3_pass_36 : decode cX3_pass 36 = .ok (.iconst 0, 1) := dk_3 (dk_at dksX3_pass_1 12 rfl rfl)
theorem dX3_pass_37 : decode cX3_pass 37 = .ok (.putfield 126, 3) := dk_181 0 126 (dk_at dksX3_pass_1 13 rfl rfl)
theorem dX3_pass_40 : decode cX3_pass 40 = .ok (.iconst 0, 1) := dk_3 (dk_at dksX3_pass_1 16 rfl rfl)
theorem dX3_pass_41 : decode cX3_pass 41 = .ok (.istore_n 2, 1) := dk_61 (dk_at dksX3_pass_1 17 rfl rfl)
theorem dX3_pass_42 : decode cX3_pass 42 = .ok (.iload_n 2, 1) := dk_28 (dk_at dksX3_pass_1 18 rfl rfl)
theorem dX3_pass_43 : decode cX3_pass 43 = .ok (.aload_n 0, 1) := dk_42 (dk_at dksX3_pass_1 19 rfl rfl)
theorem dX3_pass_44 : decode cX3_pass 44 = .ok (.getfield 3, 3) := dk_180 0 3 (dk_at dksX3_pass_1 20 rfl rfl)
theorem dX3_pass_47 : decode cX3_pass 47 = .ok (.getfield 54, 3) := dk_180 0 54 (dk_at dksX3_pass_2 0 rfl rfl)
theorem dX3_pass_50 : decode cX3_pass 50 = .ok (.invokevirtual 129, 3) := dk_182 0 129 (dk_at dksX3_pass_2 3 rfl rfl)
theorem dX3_pass_53 : decode cX3_pass 53 = .ok (.if_icmp .ge 103, 3) := dk_162 0 103 (dk_at dksX3_pass_2 6 rfl rfl)
theorem dX3_pass_56 : decode cX3_pass 56 = .ok (.aload_n 0, 1) := dk_42 (dk_at dksX3_pass_2 9 rfl rfl)
theorem dX3_pass_57 : decode cX3_pass 57 = .ok (.iload_n 2, 1) := dk_28 (dk_at dksX3_pass_2 10 rfl rfl)
theorem dX3_pass_58 : decode cX3_pass 58 = .ok (.aload_n 0, 1) := dk_42 (dk_at dksX3_pass_2 11 rfl rfl)
theorem dX3_pass_59 : decode cX3_pass 59 = .ok (.getfield 3, 3) := dk_180 0 3 (dk_at dksX3_pass_2 12 rfl rfl)
theorem dX3_pass_62 : decode cX3_pass 62 = .ok (.getfield 54, 3) := dk_180 0 54 (dk_at dksX3_pass_2 15 rfl rfl)
theorem dX3_pass_65 : decode cX3_pass 65 = .ok (.getfield 90, 3) := dk_180 0 90 (dk_at dksX3_pass_2 18 rfl rfl)
theorem dX3_pass_68 : decode cX3_pass 68 = .ok (.iload_n 2, 1) := dk_28 (dk_at dksX3_pass_2 21 rfl rfl)
theorem dX3_pass_69 : decode cX3_pass 69 = .ok (.invokeinterface 78 2, 5) := by decide +kernel
theorem dX3_pass_74 : decode cX3_pass 74 = .ok (.checkcast 84, 3) := dk_192 0 84 (dk_at dksX3_pass_3 5 rfl rfl)
theorem dX3_pass_77 : decode cX3_pass 77 = .ok (.invokevirtual 86, 3) := dk_182 0 86 (dk_at dksX3_pass_3 8 rfl rfl)
theorem dX3_pass_80 : decode cX3_pass 80 = .ok (.invokevirtual 115, 3) := dk_182 0 115 (dk_at dksX3_pass_3 11 rfl rfl)
theorem dX3_pass_83 : decode cX3_pass 83 = .ok (.iload_n 1, 1) := dk_27 (dk_at dksX3_pass_3 14 rfl rfl)
theorem dX3_pass_84 : decode cX3_pass 84 = .ok (.ifCond .eq 28, 3) := dk_153 0 28 (dk_at dksX3_pass_3 15 rfl rfl)
theorem dX3_pass_87 : decode cX3_pass 87 = .ok (.aload_n 0, 1) := dk_42 (dk_at dksX3_pass_3 18 rfl rfl)
theorem dX3_pass_88 : decode cX3_pass 88 = .ok (.getfield 3, 3) := dk_180 0 3 (dk_at dksX3_pass_3 19 rfl rfl)
theorem dX3_pass_91 : decode cX3_pass 91 = .ok (.bipush 12, 2) := dk_16 12 (dk_at dksX3_pass_3 22 rfl rfl)
theorem dX3_pass_93 : decode cX3_pass 93 = .ok (.invokevirtual 132, 3) := dk_182 0 132 (dk_at dksX3_pass_4 0 rfl rfl)
theorem dX3_pass_96 : decode cX3_pass 96 = .ok (.aload_n 0, 1) := dk_42 (dk_at dksX3_pass_4 3 rfl rfl)
theorem dX3_pass_97 : decode cX3_pass 97 = .ok (.iload_n 2, 1) := dk_28 (dk_at dksX3_pass_4 4 rfl rfl)
theorem dX3_pass_98 : decode cX3_pass 98 = .ok (.invokevirtual 135, 3) := dk_182 0 135 (dk_at dksX3_pass_4 5 rfl rfl)
theorem dX3_pass_101 : decode cX3_pass 101 = .ok (.if_icmp .ge 7, 3) := dk_162 0 7 (dk_at dksX3_pass_4 8 rfl rfl)
theorem dX3_pass_104 : decode cX3_pass 104 = .ok (.iconst 1, 1) := dk_4 (dk_at dksX3_pass_4 11 rfl rfl)
theorem dX3_pass_105 : decode cX3_pass 105 = .ok (.goto 22, 3) := dk_167 0 22 (dk_at dksX3_pass_4 12 rfl rfl)
theorem dX3_pass_108 : decode cX3_pass 108 = .ok (.iconst 0, 1) := dk_3 (dk_at dksX3_pass_4 15 rfl rfl)
theorem dX3_pass_109 : decode cX3_pass 109 = .ok (.goto 18, 3) := dk_167 0 18 (dk_at dksX3_pass_4 16 rfl rfl)
theorem dX3_pass_112 : decode cX3_pass 112 = .ok (.aload_n 0, 1) := dk_42 (dk_at dksX3_pass_4 19 rfl rfl)
theorem dX3_pass_113 : decode cX3_pass 113 = .ok (.iload_n 2, 1) := dk_28 (dk_at dksX3_pass_4 20 rfl rfl)
theorem dX3_pass_114 : decode cX3_pass 114 = .ok (.invokevirtual 135, 3) := dk_182 0 135 (dk_at dksX3_pass_4 21 rfl rfl)
theorem dX3_pass_117 : decode cX3_pass 117 = .ok (.bipush 7, 2) := dk_16 7 (dk_at dksX3_pass_5 0 rfl rfl)
theorem dX3_pass_119 : decode cX3_pass 119 = .ok (.if_icmp .lt 7, 3) := dk_161 0 7 (dk_at dksX3_pass_5 2 rfl rfl)
theorem dX3_pass_122 : decode cX3_pass 122 = .ok (.iconst 1, 1) := dk_4 (dk_at dksX3_pass_5 5 rfl rfl)
theorem dX3_pass_123 : decode cX3_pass 123 = .ok (.goto 4, 3) := dk_167 0 4 (dk_at dksX3_pass_5 6 rfl rfl)
theorem dX3_pass_126 : decode cX3_pass 126 = .ok (.iconst 0, 1) := dk_3 (dk_at dksX3_pass_5 9 rfl rfl)
theorem dX3_pass_127 : decode cX3_pass 127 = .ok (.istore_n 3, 1) := dk_62 (dk_at dksX3_pass_5 10 rfl rfl)
theorem dX3_pass_128 : decode cX3_pass 128 = .ok (.iload_n 3, 1) := dk_29 (dk_at dksX3_pass_5 11 rfl rfl)
theorem dX3_pass_129 : decode cX3_pass 129 = .ok (.ifCond .ne 15, 3) := dk_154 0 15 (dk_at dksX3_pass_5 12 rfl rfl)
theorem dX3_pass_132 : decode cX3_pass 132 = .ok (.aload_n 0, 1) := dk_42 (dk_at dksX3_pass_5 15 rfl rfl)
theorem dX3_pass_133 : decode cX3_pass 133 = .ok (.dup, 1) := dk_89 (dk_at dksX3_pass_5 16 rfl rfl)
theorem dX3_pass_134 : decode cX3_pass 134 = .ok (.getfield 126, 3) := dk_180 0 126 (dk_at dksX3_pass_5 17 rfl rfl)
theorem dX3_pass_137 : decode cX3_pass 137 = .ok (.iconst 1, 1) := dk_4 (dk_at dksX3_pass_5 20 rfl rfl)
theorem dX3_pass_138 : decode cX3_pass 138 = .ok (.iload_n 2, 1) := dk_28 (dk_at dksX3_pass_5 21 rfl rfl)
theorem dX3_pass_139 : decode cX3_pass 139 = .ok (.ishl, 1) := dk_120 (dk_at dksX3_pass_5 22 rfl rfl)
theorem dX3_pass_140 : decode cX3_pass 140 = .ok (.ior, 1) := dk_128 (dk_at dksX3_pass_5 23 rfl rfl)
theorem dX3_pass_141 : decode cX3_pass 141 = .ok (.putfield 126, 3) := dk_181 0 126 (dk_at dksX3_pass_6 0 rfl rfl)
theorem dX3_pass_144 : decode cX3_pass 144 = .ok (.aload_n 0, 1) := dk_42 (dk_at dksX3_pass_6 3 rfl rfl)
theorem dX3_pass_145 : decode cX3_pass 145 = .ok (.iload_n 2, 1) := dk_28 (dk_at dksX3_pass_6 4 rfl rfl)
theorem dX3_pass_146 : decode cX3_pass 146 = .ok (.iload_n 3, 1) := dk_29 (dk_at dksX3_pass_6 5 rfl rfl)
theorem dX3_pass_147 : decode cX3_pass 147 = .ok (.invokevirtual 137, 3) := dk_182 0 137 (dk_at dksX3_pass_6 6 rfl rfl)
theorem dX3_pass_150 : decode cX3_pass 150 = .ok (.iinc 2 1, 3) := dk_132 2 1 (dk_at dksX3_pass_6 9 rfl rfl)
theorem dX3_pass_153 : decode cX3_pass 153 = .ok (.goto (-111), 3) := dk_167 255 145 (dk_at dksX3_pass_6 12 rfl rfl)
theorem dX3_pass_156 : decode cX3_pass 156 = .ok (.aload_n 0, 1) := dk_42 (dk_at dksX3_pass_6 15 rfl rfl)
theorem dX3_pass_157 : decode cX3_pass 157 = .ok (.dup, 1) := dk_89 (dk_at dksX3_pass_6 16 rfl rfl)
theorem dX3_pass_158 : decode cX3_pass 158 = .ok (.getfield 43, 3) := dk_180 0 43 (dk_at dksX3_pass_6 17 rfl rfl)
theorem dX3_pass_161 : decode cX3_pass 161 = .ok (.iconst 1, 1) := dk_4 (dk_at dksX3_pass_6 20 rfl rfl)
theorem dX3_pass_162 : decode cX3_pass 162 = .ok (.iadd, 1) := dk_96 (dk_at dksX3_pass_6 21 rfl rfl)
theorem dX3_pass_163 : decode cX3_pass 163 = .ok (.putfield 43, 3) := dk_181 0 43 (dk_at dksX3_pass_7 0 rfl rfl)
theorem dX3_pass_166 : decode cX3_pass 166 = .ok (.aload_n 0, 1) := dk_42 (dk_at dksX3_pass_7 3 rfl rfl)
theorem dX3_pass_167 : decode cX3_pass 167 = .ok (.areturn, 1) := dk_176 (dk_at dksX3_pass_7 4 rfl rfl)
abbrev cX3_goes : ByteArray := prog_3_method_5_code
def yX3_goes : MethodName := ⟨RX3, "goes", "(I)Z"⟩
def dkwX3_goes_0 : List UInt8 := [42, 180, 0, 37, 27, 46, 158, 0, 7, 4, 167, 0, 4, 3, 172]
abbrev dktX3_goes_0 : List UInt8 := dkwX3_goes_0 ++ []
theorem dksX3_goes_0 : cX3_goes.data.toList.drop 0 = dktX3_goes_0 := by decide +kernel
theorem dX3_goes_0 : decode cX3_goes 0 = .ok (.aload_n 0, 1) := dk_42 (dk_at dksX3_goes_0 0 rfl rfl)
theorem dX3_goes_1 : decode cX3_goes 1 = .ok (.getfield 37, 3) := dk_180 0 37 (dk_at dksX3_goes_0 1 rfl rfl)
theorem dX3_goes_4 : decode cX3_goes 4 = .ok (.iload_n 1, 1) := dk_27 (dk_at dksX3_goes_0 4 rfl rfl)
theorem dX3_goes_5 : decode cX3_goes 5 = .ok (.iaload, 1) := dk_46 (dk_at dksX3_goes_0 5 rfl rfl)
theorem dX3_goes_6 : decode cX3_goes 6 = .ok (.ifCond .le 7, 3) := dk_158 0 7 (dk_at dksX3_goes_0 6 rfl rfl)
theorem dX3_goes_9 : decode cX3_goes 9 = .ok (.iconst 1, 1) := dk_4 (dk_at dksX3_goes_0 9 rfl rfl)
theorem dX3_goes_10 : decode cX3_goes 10 = .ok (.goto 4, 3) := dk_167 0 4 (dk_at dksX3_goes_0 10 rfl rfl)
theorem dX3_goes_13 : decode cX3_goes 13 = .ok (.iconst 0, 1) := dk_3 (dk_at dksX3_goes_0 13 rfl rfl)
theorem dX3_goes_14 : decode cX3_goes 14 = .ok (.ireturn, 1) := dk_172 (dk_at dksX3_goes_0 14 rfl rfl)
abbrev cX3_ship : ByteArray := prog_3_method_8_code
def yX3_ship : MethodName := ⟨RX3, "ship", "(I)V"⟩
def dkwX3_ship_1 : List UInt8 := [180, 0, 40, 27, 46, 100, 184, 0, 112, 79, 42, 180, 0, 37, 27, 92, 46, 4, 100, 79, 177]
abbrev dktX3_ship_1 : List UInt8 := dkwX3_ship_1 ++ []
def dkwX3_ship_0 : List UInt8 := [42, 180, 0, 31, 27, 46, 154, 0, 26, 42, 180, 0, 25, 27, 3, 42, 180, 0, 25, 27, 46, 42]
abbrev dktX3_ship_0 : List UInt8 := dkwX3_ship_0 ++ dktX3_ship_1
theorem dksX3_ship_0 : cX3_ship.data.toList.drop 0 = dktX3_ship_0 := by decide +kernel
theorem dksX3_ship_1 : cX3_ship.data.toList.drop 22 = dktX3_ship_1 := dk_seg dksX3_ship_0 22 rfl rfl
theorem dX3_ship_0 : decode cX3_ship 0 = .ok (.aload_n 0, 1) := dk_42 (dk_at dksX3_ship_0 0 rfl rfl)
theorem dX3_ship_1 : decode cX3_ship 1 = .ok (.getfield 31, 3) := dk_180 0 31 (dk_at dksX3_ship_0 1 rfl rfl)
theorem dX3_ship_4 : decode cX3_ship 4 = .ok (.iload_n 1, 1) := dk_27 (dk_at dksX3_ship_0 4 rfl rfl)
theorem dX3_ship_5 : decode cX3_ship 5 = .ok (.iaload, 1) := dk_46 (dk_at dksX3_ship_0 5 rfl rfl)
theorem dX3_ship_6 : decode cX3_ship 6 = .ok (.ifCond .ne 26, 3) := dk_154 0 26 (dk_at dksX3_ship_0 6 rfl rfl)
theorem dX3_ship_9 : decode cX3_ship 9 = .ok (.aload_n 0, 1) := dk_42 (dk_at dksX3_ship_0 9 rfl rfl)
theorem dX3_ship_10 : decode cX3_ship 10 = .ok (.getfield 25, 3) := dk_180 0 25 (dk_at dksX3_ship_0 10 rfl rfl)
theorem dX3_ship_13 : decode cX3_ship 13 = .ok (.iload_n 1, 1) := dk_27 (dk_at dksX3_ship_0 13 rfl rfl)
theorem dX3_ship_14 : decode cX3_ship 14 = .ok (.iconst 0, 1) := dk_3 (dk_at dksX3_ship_0 14 rfl rfl)
theorem dX3_ship_15 : decode cX3_ship 15 = .ok (.aload_n 0, 1) := dk_42 (dk_at dksX3_ship_0 15 rfl rfl)
theorem dX3_ship_16 : decode cX3_ship 16 = .ok (.getfield 25, 3) := dk_180 0 25 (dk_at dksX3_ship_0 16 rfl rfl)
theorem dX3_ship_19 : decode cX3_ship 19 = .ok (.iload_n 1, 1) := dk_27 (dk_at dksX3_ship_0 19 rfl rfl)
theorem dX3_ship_20 : decode cX3_ship 20 = .ok (.iaload, 1) := dk_46 (dk_at dksX3_ship_0 20 rfl rfl)
theorem dX3_ship_21 : decode cX3_ship 21 = .ok (.aload_n 0, 1) := dk_42 (dk_at dksX3_ship_0 21 rfl rfl)
theorem dX3_ship_22 : decode cX3_ship 22 = .ok (.getfield 40, 3) := dk_180 0 40 (dk_at dksX3_ship_1 0 rfl rfl)
theorem dX3_ship_25 : decode cX3_ship 25 = .ok (.iload_n 1, 1) := dk_27 (dk_at dksX3_ship_1 3 rfl rfl)
theorem dX3_ship_26 : decode cX3_ship 26 = .ok (.iaload, 1) := dk_46 (dk_at dksX3_ship_1 4 rfl rfl)
theorem dX3_ship_27 : decode cX3_ship 27 = .ok (.isub, 1) := dk_100 (dk_at dksX3_ship_1 5 rfl rfl)
theorem dX3_ship_28 : decode cX3_ship 28 = .ok (.invokestatic 112, 3) := dk_184 0 112 (dk_at dksX3_ship_1 6 rfl rfl)
theorem dX3_ship_31 : decode cX3_ship 31 = .ok (.iastore, 1) := dk_79 (dk_at dksX3_ship_1 9 rfl rfl)
theorem dX3_ship_32 : decode cX3_ship 32 = .ok (.aload_n 0, 1) := dk_42 (dk_at dksX3_ship_1 10 rfl rfl)
theorem dX3_ship_33 : decode cX3_ship 33 = .ok (.getfield 37, 3) := dk_180 0 37 (dk_at dksX3_ship_1 11 rfl rfl)
theorem dX3_ship_36 : decode cX3_ship 36 = .ok (.iload_n 1, 1) := dk_27 (dk_at dksX3_ship_1 14 rfl rfl)
theorem dX3_ship_37 : decode cX3_ship 37 = .ok (.dup2, 1) := dk_92 (dk_at dksX3_ship_1 15 rfl rfl)
theorem dX3_ship_38 : decode cX3_ship 38 = .ok (.iaload, 1) := dk_46 (dk_at dksX3_ship_1 16 rfl rfl)
theorem dX3_ship_39 : decode cX3_ship 39 = .ok (.iconst 1, 1) := dk_4 (dk_at dksX3_ship_1 17 rfl rfl)
theorem dX3_ship_40 : decode cX3_ship 40 = .ok (.isub, 1) := dk_100 (dk_at dksX3_ship_1 18 rfl rfl)
theorem dX3_ship_41 : decode cX3_ship 41 = .ok (.iastore, 1) := dk_79 (dk_at dksX3_ship_1 19 rfl rfl)
theorem dX3_ship_42 : decode cX3_ship 42 = .ok (.return_, 1) := dk_177 (dk_at dksX3_ship_1 20 rfl rfl)
abbrev cX3_give : ByteArray := prog_3_method_9_code
def yX3_give : MethodName := ⟨RX3, "give", "(II)V"⟩
def dkwX3_give_0 : List UInt8 := [42, 180, 0, 15, 27, 17, 39, 15, 42, 180, 0, 15, 27, 46, 28, 96, 184, 0, 106, 79, 177]
abbrev dktX3_give_0 : List UInt8 := dkwX3_give_0 ++ []
theorem dksX3_give_0 : cX3_give.data.toList.drop 0 = dktX3_give_0 := by decide +kernel
theorem dX3_give_0 : decode cX3_give 0 = .ok (.aload_n 0, 1) := dk_42 (dk_at dksX3_give_0 0 rfl rfl)
theorem dX3_give_1 : decode cX3_give 1 = .ok (.getfield 15, 3) := dk_180 0 15 (dk_at dksX3_give_0 1 rfl rfl)
theorem dX3_give_4 : decode cX3_give 4 = .ok (.iload_n 1, 1) := dk_27 (dk_at dksX3_give_0 4 rfl rfl)
theorem dX3_give_5 : decode cX3_give 5 = .ok (.sipush 9999, 3) := dk_17 39 15 (dk_at dksX3_give_0 5 rfl rfl)
theorem dX3_give_8 : decode cX3_give 8 = .ok (.aload_n 0, 1) := dk_42 (dk_at dksX3_give_0 8 rfl rfl)
theorem dX3_give_9 : decode cX3_give 9 = .ok (.getfield 15, 3) := dk_180 0 15 (dk_at dksX3_give_0 9 rfl rfl)
theorem dX3_give_12 : decode cX3_give 12 = .ok (.iload_n 1, 1) := dk_27 (dk_at dksX3_give_0 12 rfl rfl)
theorem dX3_give_13 : decode cX3_give 13 = .ok (.iaload, 1) := dk_46 (dk_at dksX3_give_0 13 rfl rfl)
theorem dX3_give_14 : decode cX3_give 14 = .ok (.iload_n 2, 1) := dk_28 (dk_at dksX3_give_0 14 rfl rfl)
theorem dX3_give_15 : decode cX3_give 15 = .ok (.iadd, 1) := dk_96 (dk_at dksX3_give_0 15 rfl rfl)
theorem dX3_give_16 : decode cX3_give 16 = .ok (.invokestatic 106, 3) := dk_184 0 106 (dk_at dksX3_give_0 16 rfl rfl)
theorem dX3_give_19 : decode cX3_give 19 = .ok (.iastore, 1) := dk_79 (dk_at dksX3_give_0 19 rfl rfl)
theorem dX3_give_20 : decode cX3_give 20 = .ok (.return_, 1) := dk_177 (dk_at dksX3_give_0 20 rfl rfl)
abbrev cX3_odds : ByteArray := prog_3_method_7_code
def yX3_odds : MethodName := ⟨RX3, "odds", "(I)I"⟩
def dkwX3_odds_8 : List UInt8 := [184, 0, 106, 184, 0, 112, 172]
abbrev dktX3_odds_8 : List UInt8 := dkwX3_odds_8 ++ []
def dkwX3_odds_7 : List UInt8 := [180, 0, 54, 180, 0, 67, 42, 180, 0, 3, 180, 0, 71, 185, 0, 100, 2, 0, 61, 3, 16, 12, 28]
abbrev dktX3_odds_7 : List UInt8 := dkwX3_odds_7 ++ dktX3_odds_8
def dkwX3_odds_6 : List UInt8 := [79, 42, 180, 0, 3, 180, 0, 71, 8, 42, 27, 182, 0, 93, 184, 0, 97, 79, 42, 180, 0, 3]
abbrev dktX3_odds_6 : List UInt8 := dkwX3_odds_6 ++ dktX3_odds_7
def dkwX3_odds_5 : List UInt8 := [185, 0, 78, 2, 0, 192, 0, 84, 182, 0, 86, 79, 42, 180, 0, 3, 180, 0, 71, 7, 42, 180, 0, 43]
abbrev dktX3_odds_5 : List UInt8 := dkwX3_odds_5 ++ dktX3_odds_6
def dkwX3_odds_4 : List UInt8 := [182, 0, 86, 79, 42, 180, 0, 3, 180, 0, 71, 6, 42, 180, 0, 3, 180, 0, 54, 180, 0, 90, 27]
abbrev dktX3_odds_4 : List UInt8 := dkwX3_odds_4 ++ dktX3_odds_5
def dkwX3_odds_3 : List UInt8 := [180, 0, 71, 5, 42, 180, 0, 3, 180, 0, 54, 180, 0, 74, 27, 185, 0, 78, 2, 0, 192, 0, 84]
abbrev dktX3_odds_3 : List UInt8 := dkwX3_odds_3 ++ dktX3_odds_4
def dkwX3_odds_2 : List UInt8 := [27, 46, 79, 42, 180, 0, 3, 180, 0, 71, 4, 42, 180, 0, 19, 27, 46, 79, 42, 180, 0, 3]
abbrev dktX3_odds_2 : List UInt8 := dkwX3_odds_2 ++ dktX3_odds_3
def dkwX3_odds_1 : List UInt8 := [180, 0, 3, 180, 0, 54, 180, 0, 67, 198, 0, 148, 42, 180, 0, 3, 180, 0, 71, 3, 42, 180, 0, 15]
abbrev dktX3_odds_1 : List UInt8 := dkwX3_odds_1 ++ dktX3_odds_2
def dkwX3_odds_0 : List UInt8 := [16, 6, 42, 180, 0, 15, 27, 46, 16, 10, 108, 96, 42, 180, 0, 19, 27, 46, 16, 10, 108, 100, 61, 42]
abbrev dktX3_odds_0 : List UInt8 := dkwX3_odds_0 ++ dktX3_odds_1
theorem dksX3_odds_0 : cX3_odds.data.toList.drop 0 = dktX3_odds_0 := by decide +kernel
theorem dksX3_odds_1 : cX3_odds.data.toList.drop 24 = dktX3_odds_1 := dk_seg dksX3_odds_0 24 rfl rfl
theorem dksX3_odds_2 : cX3_odds.data.toList.drop 48 = dktX3_odds_2 := dk_seg dksX3_odds_1 24 rfl rfl
theorem dksX3_odds_3 : cX3_odds.data.toList.drop 70 = dktX3_odds_3 := dk_seg dksX3_odds_2 22 rfl rfl
theorem dksX3_odds_4 : cX3_odds.data.toList.drop 93 = dktX3_odds_4 := dk_seg dksX3_odds_3 23 rfl rfl
theorem dksX3_odds_5 : cX3_odds.data.toList.drop 116 = dktX3_odds_5 := dk_seg dksX3_odds_4 23 rfl rfl
theorem dksX3_odds_6 : cX3_odds.data.toList.drop 140 = dktX3_odds_6 := dk_seg dksX3_odds_5 24 rfl rfl
theorem dksX3_odds_7 : cX3_odds.data.toList.drop 162 = dktX3_odds_7 := dk_seg dksX3_odds_6 22 rfl rfl
theorem dksX3_odds_8 : cX3_odds.data.toList.drop 185 = dktX3_odds_8 := dk_seg dksX3_odds_7 23 rfl rfl
theorem dX3_odds_0 : decode cX3_odds 0 = .ok (.bipush 6, 2) := dk_16 6 (dk_at dksX3_odds_0 0 rfl rfl)
theorem dX3_odds_2 : decode cX3_odds 2 = .ok (.aload_n 0, 1) := dk_42 (dk_at dksX3_odds_0 2 rfl rfl)
theorem dX3_odds_3 : decode cX3_odds 3 = .ok (.getfield 15, 3) := dk_180 0 15 (dk_at dksX3_odds_0 3 rfl rfl)
theorem dX3_odds_6 : decode cX3_odds 6 = .ok (.iload_n 1, 1) := dk_27 (dk_at dksX3_odds_0 6 rfl rfl)
theorem dX3_odds_7 : decode cX3_odds 7 = .ok (.iaload, 1) := dk_46 (dk_at dksX3_odds_0 7 rfl rfl)
theorem dX3_odds_8 : decode cX3_odds 8 = .ok (.bipush 10, 2) := dk_16 10 (dk_at dksX3_odds_0 8 rfl rfl)
theorem dX3_odds_10 : decode cX3_odds 10 = .ok (.idiv, 1) := dk_108 (dk_at dksX3_odds_0 10 rfl rfl)
theorem dX3_odds_11 : decode cX3_odds 11 = .ok (.iadd, 1) := dk_96 (dk_at dksX3_odds_0 11 rfl rfl)
theorem dX3_odds_12 : decode cX3_odds 12 = .ok (.aload_n 0, 1) := dk_42 (dk_at dksX3_odds_0 12 rfl rfl)
theorem dX3_odds_13 : decode cX3_odds 13 = .ok (.getfield 19, 3) := dk_180 0 19 (dk_at dksX3_odds_0 13 rfl rfl)
theorem dX3_odds_16 : decode cX3_odds 16 = .ok (.iload_n 1, 1) := dk_27 (dk_at dksX3_odds_0 16 rfl rfl)
theorem dX3_odds_17 : decode cX3_odds 17 = .ok (.iaload, 1) := dk_46 (dk_at dksX3_odds_0 17 rfl rfl)
theorem dX3_odds_18 : decode cX3_odds 18 = .ok (.bipush 10, 2) := dk_16 10 (dk_at dksX3_odds_0 18 rfl rfl)
theorem dX3_odds_20 : decode cX3_odds 20 = .ok (.idiv, 1) := dk_108 (dk_at dksX3_odds_0 20 rfl rfl)
theorem dX3_odds_21 : decode cX3_odds 21 = .ok (.isub, 1) := dk_100 (dk_at dksX3_odds_0 21 rfl rfl)
theorem dX3_odds_22 : decode cX3_odds 22 = .ok (.istore_n 2, 1) := dk_61 (dk_at dksX3_odds_0 22 rfl rfl)
theorem dX3_odds_23 : decode cX3_odds 23 = .ok (.aload_n 0, 1) := dk_42 (dk_at dksX3_odds_0 23 rfl rfl)
theorem dX3_odds_24 : decode cX3_odds 24 = .ok (.getfield 3, 3) := dk_180 0 3 (dk_at dksX3_odds_1 0 rfl rfl)
theorem dX3_odds_27 : decode cX3_odds 27 = .ok (.getfield 54, 3) := dk_180 0 54 (dk_at dksX3_odds_1 3 rfl rfl)
theorem dX3_odds_30 : decode cX3_odds 30 = .ok (.getfield 67, 3) := dk_180 0 67 (dk_at dksX3_odds_1 6 rfl rfl)
theorem dX3_odds_33 : decode cX3_odds 33 = .ok (.ifnull 148, 3) := dk_198 0 148 (dk_at dksX3_odds_1 9 rfl rfl)
theorem dX3_odds_36 : decode cX3_odds 36 = .ok (.aload_n 0, 1) := dk_42 (dk_at dksX3_odds_1 12 rfl rfl)
theorem dX3_odds_37 : decode cX3_odds 37 = .ok (.getfield 3, 3) := dk_180 0 3 (dk_at dksX3_odds_1 13 rfl rfl)
theorem dX3_odds_40 : decode cX3_odds 40 = .ok (.getfield 71, 3) := dk_180 0 71 (dk_at dksX3_odds_1 16 rfl rfl)
theorem dX3_odds_43 : decode cX3_odds 43 = .ok (.iconst 0, 1) := dk_3 (dk_at dksX3_odds_1 19 rfl rfl)
theorem dX3_odds_44 : decode cX3_odds 44 = .ok (.aload_n 0, 1) := dk_42 (dk_at dksX3_odds_1 20 rfl rfl)
theorem dX3_odds_45 : decode cX3_odds 45 = .ok (.getfield 15, 3) := dk_180 0 15 (dk_at dksX3_odds_1 21 rfl rfl)
theorem dX3_odds_48 : decode cX3_odds 48 = .ok (.iload_n 1, 1) := dk_27 (dk_at dksX3_odds_2 0 rfl rfl)
theorem dX3_odds_49 : decode cX3_odds 49 = .ok (.iaload, 1) := dk_46 (dk_at dksX3_odds_2 1 rfl rfl)
theorem dX3_odds_50 : decode cX3_odds 50 = .ok (.iastore, 1) := dk_79 (dk_at dksX3_odds_2 2 rfl rfl)
theorem dX3_odds_51 : decode cX3_odds 51 = .ok (.aload_n 0, 1) := dk_42 (dk_at dksX3_odds_2 3 rfl rfl)
theorem dX3_odds_52 : decode cX3_odds 52 = .ok (.getfield 3, 3) := dk_180 0 3 (dk_at dksX3_odds_2 4 rfl rfl)
theorem dX3_odds_55 : decode cX3_odds 55 = .ok (.getfield 71, 3) := dk_180 0 71 (dk_at dksX3_odds_2 7 rfl rfl)
theorem dX3_odds_58 : decode cX3_odds 58 = .ok (.iconst 1, 1) := dk_4 (dk_at dksX3_odds_2 10 rfl rfl)
theorem dX3_odds_59 : decode cX3_odds 59 = .ok (.aload_n 0, 1) := dk_42 (dk_at dksX3_odds_2 11 rfl rfl)
theorem dX3_odds_60 : decode cX3_odds 60 = .ok (.getfield 19, 3) := dk_180 0 19 (dk_at dksX3_odds_2 12 rfl rfl)
theorem dX3_odds_63 : decode cX3_odds 63 = .ok (.iload_n 1, 1) := dk_27 (dk_at dksX3_odds_2 15 rfl rfl)
theorem dX3_odds_64 : decode cX3_odds 64 = .ok (.iaload, 1) := dk_46 (dk_at dksX3_odds_2 16 rfl rfl)
theorem dX3_odds_65 : decode cX3_odds 65 = .ok (.iastore, 1) := dk_79 (dk_at dksX3_odds_2 17 rfl rfl)
theorem dX3_odds_66 : decode cX3_odds 66 = .ok (.aload_n 0, 1) := dk_42 (dk_at dksX3_odds_2 18 rfl rfl)
theorem dX3_odds_67 : decode cX3_odds 67 = .ok (.getfield 3, 3) := dk_180 0 3 (dk_at dksX3_odds_2 19 rfl rfl)
theorem dX3_odds_70 : decode cX3_odds 70 = .ok (.getfield 71, 3) := dk_180 0 71 (dk_at dksX3_odds_3 0 rfl rfl)
theorem dX3_odds_73 : decode cX3_odds 73 = .ok (.iconst 2, 1) := dk_5 (dk_at dksX3_odds_3 3 rfl rfl)
theorem dX3_odds_74 : decode cX3_odds 74 = .ok (.aload_n 0, 1) := dk_42 (dk_at dksX3_odds_3 4 rfl rfl)
theorem dX3_odds_75 : decode cX3_odds 75 = .ok (.getfield 3, 3) := dk_180 0 3 (dk_at dksX3_odds_3 5 rfl rfl)
theorem dX3_odds_78 : decode cX3_odds 78 = .ok (.getfield 54, 3) := dk_180 0 54 (dk_at dksX3_odds_3 8 rfl rfl)
theorem dX3_odds_81 : decode cX3_odds 81 = .ok (.getfield 74, 3) := dk_180 0 74 (dk_at dksX3_odds_3 11 rfl rfl)
theorem dX3_odds_84 : decode cX3_odds 84 = .ok (.iload_n 1, 1) := dk_27 (dk_at dksX3_odds_3 14 rfl rfl)
theorem dX3_odds_85 : decode cX3_odds 85 = .ok (.invokeinterface 78 2, 5) := by decide +kernel
theorem dX3_odds_90 : decode cX3_odds 90 = .ok (.checkcast 84, 3) := dk_192 0 84 (dk_at dksX3_odds_3 20 rfl rfl)
theorem dX3_odds_93 : decode cX3_odds 93 = .ok (.invokevirtual 86, 3) := dk_182 0 86 (dk_at dksX3_odds_4 0 rfl rfl)
theorem dX3_odds_96 : decode cX3_odds 96 = .ok (.iastore, 1) := dk_79 (dk_at dksX3_odds_4 3 rfl rfl)
theorem dX3_odds_97 : decode cX3_odds 97 = .ok (.aload_n 0, 1) := dk_42 (dk_at dksX3_odds_4 4 rfl rfl)
theorem dX3_odds_98 : decode cX3_odds 98 = .ok (.getfield 3, 3) := dk_180 0 3 (dk_at dksX3_odds_4 5 rfl rfl)
theorem dX3_odds_101 : decode cX3_odds 101 = .ok (.getfield 71, 3) := dk_180 0 71 (dk_at dksX3_odds_4 8 rfl rfl)
theorem dX3_odds_104 : decode cX3_odds 104 = .ok (.iconst 3, 1) := dk_6 (dk_at dksX3_odds_4 11 rfl rfl)
theorem dX3_odds_105 : decode cX3_odds 105 = .ok (.aload_n 0, 1) := dk_42 (dk_at dksX3_odds_4 12 rfl rfl)
theorem dX3_odds_106 : decode cX3_odds 106 = .ok (.getfield 3, 3) := dk_180 0 3 (dk_at dksX3_odds_4 13 rfl rfl)
theorem dX3_odds_109 : decode cX3_odds 109 = .ok (.getfield 54, 3) := dk_180 0 54 (dk_at dksX3_odds_4 16 rfl rfl)
theorem dX3_odds_112 : decode cX3_odds 112 = .ok (.getfield 90, 3) := dk_180 0 90 (dk_at dksX3_odds_4 19 rfl rfl)
theorem dX3_odds_115 : decode cX3_odds 115 = .ok (.iload_n 1, 1) := dk_27 (dk_at dksX3_odds_4 22 rfl rfl)
theorem dX3_odds_116 : decode cX3_odds 116 = .ok (.invokeinterface 78 2, 5) := by decide +kernel
theorem dX3_odds_121 : decode cX3_odds 121 = .ok (.checkcast 84, 3) := dk_192 0 84 (dk_at dksX3_odds_5 5 rfl rfl)
theorem dX3_odds_124 : decode cX3_odds 124 = .ok (.invokevirtual 86, 3) := dk_182 0 86 (dk_at dksX3_odds_5 8 rfl rfl)
theorem dX3_odds_127 : decode cX3_odds 127 = .ok (.iastore, 1) := dk_79 (dk_at dksX3_odds_5 11 rfl rfl)
theorem dX3_odds_128 : decode cX3_odds 128 = .ok (.aload_n 0, 1) := dk_42 (dk_at dksX3_odds_5 12 rfl rfl)
theorem dX3_odds_129 : decode cX3_odds 129 = .ok (.getfield 3, 3) := dk_180 0 3 (dk_at dksX3_odds_5 13 rfl rfl)
theorem dX3_odds_132 : decode cX3_odds 132 = .ok (.getfield 71, 3) := dk_180 0 71 (dk_at dksX3_odds_5 16 rfl rfl)
theorem dX3_odds_135 : decode cX3_odds 135 = .ok (.iconst 4, 1) := dk_7 (dk_at dksX3_odds_5 19 rfl rfl)
theorem dX3_odds_136 : decode cX3_odds 136 = .ok (.aload_n 0, 1) := dk_42 (dk_at dksX3_odds_5 20 rfl rfl)
theorem dX3_odds_137 : decode cX3_odds 137 = .ok (.getfield 43, 3) := dk_180 0 43 (dk_at dksX3_odds_5 21 rfl rfl)
theorem dX3_odds_140 : decode cX3_odds 140 = .ok (.iastore, 1) := dk_79 (dk_at dksX3_odds_6 0 rfl rfl)
theorem dX3_odds_141 : decode cX3_odds 141 = .ok (.aload_n 0, 1) := dk_42 (dk_at dksX3_odds_6 1 rfl rfl)
theorem dX3_odds_142 : decode cX3_odds 142 = .ok (.getfield 3, 3) := dk_180 0 3 (dk_at dksX3_odds_6 2 rfl rfl)
theorem dX3_odds_145 : decode cX3_odds 145 = .ok (.getfield 71, 3) := dk_180 0 71 (dk_at dksX3_odds_6 5 rfl rfl)
theorem dX3_odds_148 : decode cX3_odds 148 = .ok (.iconst 5, 1) := dk_8 (dk_at dksX3_odds_6 8 rfl rfl)
theorem dX3_odds_149 : decode cX3_odds 149 = .ok (.aload_n 0, 1) := dk_42 (dk_at dksX3_odds_6 9 rfl rfl)
theorem dX3_odds_150 : decode cX3_odds 150 = .ok (.iload_n 1, 1) := dk_27 (dk_at dksX3_odds_6 10 rfl rfl)
theorem dX3_odds_151 : decode cX3_odds 151 = .ok (.invokevirtual 93, 3) := dk_182 0 93 (dk_at dksX3_odds_6 11 rfl rfl)
theorem dX3_odds_154 : decode cX3_odds 154 = .ok (.invokestatic 97, 3) := dk_184 0 97 (dk_at dksX3_odds_6 14 rfl rfl)
theorem dX3_odds_157 : decode cX3_odds 157 = .ok (.iastore, 1) := dk_79 (dk_at dksX3_odds_6 17 rfl rfl)
theorem dX3_odds_158 : decode cX3_odds 158 = .ok (.aload_n 0, 1) := dk_42 (dk_at dksX3_odds_6 18 rfl rfl)
theorem dX3_odds_159 : decode cX3_odds 159 = .ok (.getfield 3, 3) := dk_180 0 3 (dk_at dksX3_odds_6 19 rfl rfl)
theorem dX3_odds_162 : decode cX3_odds 162 = .ok (.getfield 54, 3) := dk_180 0 54 (dk_at dksX3_odds_7 0 rfl rfl)
theorem dX3_odds_165 : decode cX3_odds 165 = .ok (.getfield 67, 3) := dk_180 0 67 (dk_at dksX3_odds_7 3 rfl rfl)
theorem dX3_odds_168 : decode cX3_odds 168 = .ok (.aload_n 0, 1) := dk_42 (dk_at dksX3_odds_7 6 rfl rfl)
theorem dX3_odds_169 : decode cX3_odds 169 = .ok (.getfield 3, 3) := dk_180 0 3 (dk_at dksX3_odds_7 7 rfl rfl)
theorem dX3_odds_172 : decode cX3_odds 172 = .ok (.getfield 71, 3) := dk_180 0 71 (dk_at dksX3_odds_7 10 rfl rfl)
theorem dX3_odds_175 : decode cX3_odds 175 = .ok (.invokeinterface 100 2, 5) := by decide +kernel
theorem dX3_odds_180 : decode cX3_odds 180 = .ok (.istore_n 2, 1) := dk_61 (dk_at dksX3_odds_7 18 rfl rfl)
theorem dX3_odds_181 : decode cX3_odds 181 = .ok (.iconst 0, 1) := dk_3 (dk_at dksX3_odds_7 19 rfl rfl)
theorem dX3_odds_182 : decode cX3_odds 182 = .ok (.bipush 12, 2) := dk_16 12 (dk_at dksX3_odds_7 20 rfl rfl)
theorem dX3_odds_184 : decode cX3_odds 184 = .ok (.iload_n 2, 1) := dk_28 (dk_at dksX3_odds_7 22 rfl rfl)
theorem dX3_odds_185 : decode cX3_odds 185 = .ok (.invokestatic 106, 3) := dk_184 0 106 (dk_at dksX3_odds_8 0 rfl rfl)
theorem dX3_odds_188 : decode cX3_odds 188 = .ok (.invokestatic 112, 3) := dk_184 0 112 (dk_at dksX3_odds_8 3 rfl rfl)
theorem dX3_odds_191 : decode cX3_odds 191 = .ok (.ireturn, 1) := dk_172 (dk_at dksX3_odds_8 6 rfl rfl)
abbrev cX3_lying : ByteArray := prog_3_method_6_code
def yX3_lying : MethodName := ⟨RX3, "lying", "(I)I"⟩
def dkwX3_lying_2 : List UInt8 := [132, 3, 1, 167, 255, 210, 28, 172]
abbrev dktX3_lying_2 : List UInt8 := dkwX3_lying_2 ++ []
def dkwX3_lying_1 : List UInt8 := [153, 0, 24, 27, 2, 159, 0, 13, 42, 180, 0, 34, 29, 46, 27, 160, 0, 9, 28, 4, 29, 120, 128, 61]
abbrev dktX3_lying_1 : List UInt8 := dkwX3_lying_1 ++ dktX3_lying_2
def dkwX3_lying_0 : List UInt8 := [3, 61, 3, 62, 29, 42, 180, 0, 3, 180, 0, 54, 180, 0, 58, 162, 0, 38, 42, 29, 182, 0, 63]
abbrev dktX3_lying_0 : List UInt8 := dkwX3_lying_0 ++ dktX3_lying_1
theorem dksX3_lying_0 : cX3_lying.data.toList.drop 0 = dktX3_lying_0 := by decide +kernel
theorem dksX3_lying_1 : cX3_lying.data.toList.drop 23 = dktX3_lying_1 := dk_seg dksX3_lying_0 23 rfl rfl
theorem dksX3_lying_2 : cX3_lying.data.toList.drop 47 = dktX3_lying_2 := dk_seg dksX3_lying_1 24 rfl rfl
theorem dX3_lying_0 : decode cX3_lying 0 = .ok (.iconst 0, 1) := dk_3 (dk_at dksX3_lying_0 0 rfl rfl)
theorem dX3_lying_1 : decode cX3_lying 1 = .ok (.istore_n 2, 1) := dk_61 (dk_at dksX3_lying_0 1 rfl rfl)
theorem dX3_lying_2 : decode cX3_lying 2 = .ok (.iconst 0, 1) := dk_3 (dk_at dksX3_lying_0 2 rfl rfl)
theorem dX3_lying_3 : decode cX3_lying 3 = .ok (.istore_n 3, 1) := dk_62 (dk_at dksX3_lying_0 3 rfl rfl)
theorem dX3_lying_4 : decode cX3_lying 4 = .ok (.iload_n 3, 1) := dk_29 (dk_at dksX3_lying_0 4 rfl rfl)
theorem dX3_lying_5 : decode cX3_lying 5 = .ok (.aload_n 0, 1) := dk_42 (dk_at dksX3_lying_0 5 rfl rfl)
theorem dX3_lying_6 : decode cX3_lying 6 = .ok (.getfield 3, 3) := dk_180 0 3 (dk_at dksX3_lying_0 6 rfl rfl)
theorem dX3_lying_9 : decode cX3_lying 9 = .ok (.getfield 54, 3) := dk_180 0 54 (dk_at dksX3_lying_0 9 rfl rfl)
theorem dX3_lying_12 : decode cX3_lying 12 = .ok (.getfield 58, 3) := dk_180 0 58 (dk_at dksX3_lying_0 12 rfl rfl)
theorem dX3_lying_15 : decode cX3_lying 15 = .ok (.if_icmp .ge 38, 3) := dk_162 0 38 (dk_at dksX3_lying_0 15 rfl rfl)
theorem dX3_lying_18 : decode cX3_lying 18 = .ok (.aload_n 0, 1) := dk_42 (dk_at dksX3_lying_0 18 rfl rfl)
theorem dX3_lying_19 : decode cX3_lying 19 = .ok (.iload_n 3, 1) := dk_29 (dk_at dksX3_lying_0 19 rfl rfl)
theorem dX3_lying_20 : decode cX3_lying 20 = .ok (.invokevirtual 63, 3) := dk_182 0 63 (dk_at dksX3_lying_0 20 rfl rfl)
theorem dX3_lying_23 : decode cX3_lying 23 = .ok (.ifCond .eq 24, 3) := dk_153 0 24 (dk_at dksX3_lying_1 0 rfl rfl)
theorem dX3_lying_26 : decode cX3_lying 26 = .ok (.iload_n 1, 1) := dk_27 (dk_at dksX3_lying_1 3 rfl rfl)
theorem dX3_lying_27 : decode cX3_lying 27 = .ok (.iconst (-1), 1) := dk_2 (dk_at dksX3_lying_1 4 rfl rfl)
theorem dX3_lying_28 : decode cX3_lying 28 = .ok (.if_icmp .eq 13, 3) := dk_159 0 13 (dk_at dksX3_lying_1 5 rfl rfl)
theorem dX3_lying_31 : decode cX3_lying 31 = .ok (.aload_n 0, 1) := dk_42 (dk_at dksX3_lying_1 8 rfl rfl)
theorem dX3_lying_32 : decode cX3_lying 32 = .ok (.getfield 34, 3) := dk_180 0 34 (dk_at dksX3_lying_1 9 rfl rfl)
theorem dX3_lying_35 : decode cX3_lying 35 = .ok (.iload_n 3, 1) := dk_29 (dk_at dksX3_lying_1 12 rfl rfl)
theorem dX3_lying_36 : decode cX3_lying 36 = .ok (.iaload, 1) := dk_46 (dk_at dksX3_lying_1 13 rfl rfl)
theorem dX3_lying_37 : decode cX3_lying 37 = .ok (.iload_n 1, 1) := dk_27 (dk_at dksX3_lying_1 14 rfl rfl)
theorem dX3_lying_38 : decode cX3_lying 38 = .ok (.if_icmp .ne 9, 3) := dk_160 0 9 (dk_at dksX3_lying_1 15 rfl rfl)
theorem dX3_lying_41 : decode cX3_lying 41 = .ok (.iload_n 2, 1) := dk_28 (dk_at dksX3_lying_1 18 rfl rfl)
theorem dX3_lying_42 : decode cX3_lying 42 = .ok (.iconst 1, 1) := dk_4 (dk_at dksX3_lying_1 19 rfl rfl)
theorem dX3_lying_43 : decode cX3_lying 43 = .ok (.iload_n 3, 1) := dk_29 (dk_at dksX3_lying_1 20 rfl rfl)
theorem dX3_lying_44 : decode cX3_lying 44 = .ok (.ishl, 1) := dk_120 (dk_at dksX3_lying_1 21 rfl rfl)
theorem dX3_lying_45 : decode cX3_lying 45 = .ok (.ior, 1) := dk_128 (dk_at dksX3_lying_1 22 rfl rfl)
theorem dX3_lying_46 : decode cX3_lying 46 = .ok (.istore_n 2, 1) := dk_61 (dk_at dksX3_lying_1 23 rfl rfl)
theorem dX3_lying_47 : decode cX3_lying 47 = .ok (.iinc 3 1, 3) := dk_132 3 1 (dk_at dksX3_lying_2 0 rfl rfl)
theorem dX3_lying_50 : decode cX3_lying 50 = .ok (.goto (-46), 3) := dk_167 255 210 (dk_at dksX3_lying_2 3 rfl rfl)
theorem dX3_lying_53 : decode cX3_lying 53 = .ok (.iload_n 2, 1) := dk_28 (dk_at dksX3_lying_2 6 rfl rfl)
theorem dX3_lying_54 : decode cX3_lying 54 = .ok (.ireturn, 1) := dk_172 (dk_at dksX3_lying_2 7 rfl rfl)
abbrev cX3_lies : ByteArray := prog_3_method_4_code
def yX3_lies : MethodName := ⟨RX3, "lies", "(I)Z"⟩
def dkwX3_lies_1 : List UInt8 := [172]
abbrev dktX3_lies_1 : List UInt8 := dkwX3_lies_1 ++ []
def dkwX3_lies_0 : List UInt8 := [42, 180, 0, 34, 27, 46, 2, 159, 0, 16, 42, 180, 0, 37, 27, 46, 154, 0, 7, 4, 167, 0, 4, 3]
abbrev dktX3_lies_0 : List UInt8 := dkwX3_lies_0 ++ dktX3_lies_1
theorem dksX3_lies_0 : cX3_lies.data.toList.drop 0 = dktX3_lies_0 := by decide +kernel
theorem dksX3_lies_1 : cX3_lies.data.toList.drop 24 = dktX3_lies_1 := dk_seg dksX3_lies_0 24 rfl rfl
theorem dX3_lies_0 : decode cX3_lies 0 = .ok (.aload_n 0, 1) := dk_42 (dk_at dksX3_lies_0 0 rfl rfl)
theorem dX3_lies_1 : decode cX3_lies 1 = .ok (.getfield 34, 3) := dk_180 0 34 (dk_at dksX3_lies_0 1 rfl rfl)
theorem dX3_lies_4 : decode cX3_lies 4 = .ok (.iload_n 1, 1) := dk_27 (dk_at dksX3_lies_0 4 rfl rfl)
theorem dX3_lies_5 : decode cX3_lies 5 = .ok (.iaload, 1) := dk_46 (dk_at dksX3_lies_0 5 rfl rfl)
theorem dX3_lies_6 : decode cX3_lies 6 = .ok (.iconst (-1), 1) := dk_2 (dk_at dksX3_lies_0 6 rfl rfl)
theorem dX3_lies_7 : decode cX3_lies 7 = .ok (.if_icmp .eq 16, 3) := dk_159 0 16 (dk_at dksX3_lies_0 7 rfl rfl)
theorem dX3_lies_10 : decode cX3_lies 10 = .ok (.aload_n 0, 1) := dk_42 (dk_at dksX3_lies_0 10 rfl rfl)
theorem dX3_lies_11 : decode cX3_lies 11 = .ok (.getfield 37, 3) := dk_180 0 37 (dk_at dksX3_lies_0 11 rfl rfl)
theorem dX3_lies_14 : decode cX3_lies 14 = .ok (.iload_n 1, 1) := dk_27 (dk_at dksX3_lies_0 14 rfl rfl)
theorem dX3_lies_15 : decode cX3_lies 15 = .ok (.iaload, 1) := dk_46 (dk_at dksX3_lies_0 15 rfl rfl)
theorem dX3_lies_16 : decode cX3_lies 16 = .ok (.ifCond .ne 7, 3) := dk_154 0 7 (dk_at dksX3_lies_0 16 rfl rfl)
theorem dX3_lies_19 : decode cX3_lies 19 = .ok (.iconst 1, 1) := dk_4 (dk_at dksX3_lies_0 19 rfl rfl)
theorem dX3_lies_20 : decode cX3_lies 20 = .ok (.goto 4, 3) := dk_167 0 4 (dk_at dksX3_lies_0 20 rfl rfl)
theorem dX3_lies_23 : decode cX3_lies 23 = .ok (.iconst 0, 1) := dk_3 (dk_at dksX3_lies_0 23 rfl rfl)
theorem dX3_lies_24 : decode cX3_lies 24 = .ok (.ireturn, 1) := dk_172 (dk_at dksX3_lies_1 0 rfl rfl)
abbrev cX3_fares : ByteArray := prog_3_method_10_code
def yX3_fares : MethodName := ⟨RX3, "fares", "(IZ)V"⟩
def dkwX3_fares_4 : List UInt8 := [180, 0, 15, 27, 92, 46, 21, 4, 100, 79, 42, 180, 0, 19, 27, 92, 46, 21, 4, 100, 79, 177]
abbrev dktX3_fares_4 : List UInt8 := dkwX3_fares_4 ++ []
def dkwX3_fares_3 : List UInt8 := [108, 182, 0, 115, 42, 180, 0, 15, 27, 46, 42, 180, 0, 19, 27, 46, 184, 0, 106, 54, 4, 42]
abbrev dktX3_fares_3 : List UInt8 := dkwX3_fares_3 ++ dktX3_fares_4
def dkwX3_fares_2 : List UInt8 := [180, 0, 15, 27, 3, 42, 180, 0, 15, 27, 46, 29, 100, 184, 0, 112, 79, 167, 0, 11, 42, 27, 29, 5]
abbrev dktX3_fares_2 : List UInt8 := dkwX3_fares_2 ++ dktX3_fares_3
def dkwX3_fares_1 : List UInt8 := [180, 0, 22, 27, 92, 46, 28, 153, 0, 7, 29, 167, 0, 5, 29, 116, 96, 79, 28, 153, 0, 24, 42]
abbrev dktX3_fares_1 : List UInt8 := dkwX3_fares_1 ++ dktX3_fares_2
def dkwX3_fares_0 : List UInt8 := [42, 180, 0, 3, 180, 0, 54, 180, 0, 74, 27, 185, 0, 78, 2, 0, 192, 0, 84, 182, 0, 86, 62, 42]
abbrev dktX3_fares_0 : List UInt8 := dkwX3_fares_0 ++ dktX3_fares_1
theorem dksX3_fares_0 : cX3_fares.data.toList.drop 0 = dktX3_fares_0 := by decide +kernel
theorem dksX3_fares_1 : cX3_fares.data.toList.drop 24 = dktX3_fares_1 := dk_seg dksX3_fares_0 24 rfl rfl
theorem dksX3_fares_2 : cX3_fares.data.toList.drop 47 = dktX3_fares_2 := dk_seg dksX3_fares_1 23 rfl rfl
theorem dksX3_fares_3 : cX3_fares.data.toList.drop 71 = dktX3_fares_3 := dk_seg dksX3_fares_2 24 rfl rfl
theorem dksX3_fares_4 : cX3_fares.data.toList.drop 93 = dktX3_fares_4 := dk_seg dksX3_fares_3 22 rfl rfl
theorem dX3_fares_0 : decode cX3_fares 0 = .ok (.aload_n 0, 1) := dk_42 (dk_at dksX3_fares_0 0 rfl rfl)
theorem dX3_fares_1 : decode cX3_fares 1 = .ok (.getfield 3, 3) := dk_180 0 3 (dk_at dksX3_fares_0 1 rfl rfl)
theorem dX3_fares_4 : decode cX3_fares 4 = .ok (.getfield 54, 3) := dk_180 0 54 (dk_at dksX3_fares_0 4 rfl rfl)
theorem dX3_fares_7 : decode cX3_fares 7 = .ok (.getfield 74, 3) := dk_180 0 74 (dk_at dksX3_fares_0 7 rfl rfl)
theorem dX3_fares_10 : decode cX3_fares 10 = .ok (.iload_n 1, 1) := dk_27 (dk_at dksX3_fares_0 10 rfl rfl)
theorem dX3_fares_11 : decode cX3_fares 11 = .ok (.invokeinterface 78 2, 5) := by decide +kernel
theorem dX3_fares_16 : decode cX3_fares 16 = .ok (.checkcast 84, 3) := dk_192 0 84 (dk_at dksX3_fares_0 16 rfl rfl)
theorem dX3_fares_19 : decode cX3_fares 19 = .ok (.invokevirtual 86, 3) := dk_182 0 86 (dk_at dksX3_fares_0 19 rfl rfl)
theorem dX3_fares_22 : decode cX3_fares 22 = .ok (.istore_n 3, 1) := dk_62 (dk_at dksX3_fares_0 22 rfl rfl)
theorem dX3_fares_23 : decode cX3_fares 23 = .ok (.aload_n 0, 1) := dk_42 (dk_at dksX3_fares_0 23 rfl rfl)
theorem dX3_fares_24 : decode cX3_fares 24 = .ok (.getfield 22, 3) := dk_180 0 22 (dk_at dksX3_fares_1 0 rfl rfl)
theorem dX3_fares_27 : decode cX3_fares 27 = .ok (.iload_n 1, 1) := dk_27 (dk_at dksX3_fares_1 3 rfl rfl)
theorem dX3_fares_28 : decode cX3_fares 28 = .ok (.dup2, 1) := dk_92 (dk_at dksX3_fares_1 4 rfl rfl)
theorem dX3_fares_29 : decode cX3_fares 29 = .ok (.iaload, 1) := dk_46 (dk_at dksX3_fares_1 5 rfl rfl)
theorem dX3_fares_30 : decode cX3_fares 30 = .ok (.iload_n 2, 1) := dk_28 (dk_at dksX3_fares_1 6 rfl rfl)
theorem dX3_fares_31 : decode cX3_fares 31 = .ok (.ifCond .eq 7, 3) := dk_153 0 7 (dk_at dksX3_fares_1 7 rfl rfl)
theorem dX3_fares_34 : decode cX3_fares 34 = .ok (.iload_n 3, 1) := dk_29 (dk_at dksX3_fares_1 10 rfl rfl)
theorem dX3_fares_35 : decode cX3_fares 35 = .ok (.goto 5, 3) := dk_167 0 5 (dk_at dksX3_fares_1 11 rfl rfl)
theorem dX3_fares_38 : decode cX3_fares 38 = .ok (.iload_n 3, 1) := dk_29 (dk_at dksX3_fares_1 14 rfl rfl)
theorem dX3_fares_39 : decode cX3_fares 39 = .ok (.ineg, 1) := dk_116 (dk_at dksX3_fares_1 15 rfl rfl)
theorem dX3_fares_40 : decode cX3_fares 40 = .ok (.iadd, 1) := dk_96 (dk_at dksX3_fares_1 16 rfl rfl)
theorem dX3_fares_41 : decode cX3_fares 41 = .ok (.iastore, 1) := dk_79 (dk_at dksX3_fares_1 17 rfl rfl)
theorem dX3_fares_42 : decode cX3_fares 42 = .ok (.iload_n 2, 1) := dk_28 (dk_at dksX3_fares_1 18 rfl rfl)
theorem dX3_fares_43 : decode cX3_fares 43 = .ok (.ifCond .eq 24, 3) := dk_153 0 24 (dk_at dksX3_fares_1 19 rfl rfl)
theorem dX3_fares_46 : decode cX3_fares 46 = .ok (.aload_n 0, 1) := dk_42 (dk_at dksX3_fares_1 22 rfl rfl)
theorem dX3_fares_47 : decode cX3_fares 47 = .ok (.getfield 15, 3) := dk_180 0 15 (dk_at dksX3_fares_2 0 rfl rfl)
theorem dX3_fares_50 : decode cX3_fares 50 = .ok (.iload_n 1, 1) := dk_27 (dk_at dksX3_fares_2 3 rfl rfl)
theorem dX3_fares_51 : decode cX3_fares 51 = .ok (.iconst 0, 1) := dk_3 (dk_at dksX3_fares_2 4 rfl rfl)
theorem dX3_fares_52 : decode cX3_fares 52 = .ok (.aload_n 0, 1) := dk_42 (dk_at dksX3_fares_2 5 rfl rfl)
theorem dX3_fares_53 : decode cX3_fares 53 = .ok (.getfield 15, 3) := dk_180 0 15 (dk_at dksX3_fares_2 6 rfl rfl)
theorem dX3_fares_56 : decode cX3_fares 56 = .ok (.iload_n 1, 1) := dk_27 (dk_at dksX3_fares_2 9 rfl rfl)
theorem dX3_fares_57 : decode cX3_fares 57 = .ok (.iaload, 1) := dk_46 (dk_at dksX3_fares_2 10 rfl rfl)
theorem dX3_fares_58 : decode cX3_fares 58 = .ok (.iload_n 3, 1) := dk_29 (dk_at dksX3_fares_2 11 rfl rfl)
theorem dX3_fares_59 : decode cX3_fares 59 = .ok (.isub, 1) := dk_100 (dk_at dksX3_fares_2 12 rfl rfl)
theorem dX3_fares_60 : decode cX3_fares 60 = .ok (.invokestatic 112, 3) := dk_184 0 112 (dk_at dksX3_fares_2 13 rfl rfl)
theorem dX3_fares_63 : decode cX3_fares 63 = .ok (.iastore, 1) := dk_79 (dk_at dksX3_fares_2 16 rfl rfl)
theorem dX3_fares_64 : decode cX3_fares 64 = .ok (.goto 11, 3) := dk_167 0 11 (dk_at dksX3_fares_2 17 rfl rfl)
theorem dX3_fares_67 : decode cX3_fares 67 = .ok (.aload_n 0, 1) := dk_42 (dk_at dksX3_fares_2 20 rfl rfl)
theorem dX3_fares_68 : decode cX3_fares 68 = .ok (.iload_n 1, 1) := dk_27 (dk_at dksX3_fares_2 21 rfl rfl)
theorem dX3_fares_69 : decode cX3_fares 69 = .ok (.iload_n 3, 1) := dk_29 (dk_at dksX3_fares_2 22 rfl rfl)
theorem dX3_fares_70 : decode cX3_fares 70 = .ok (.iconst 2, 1) := dk_5 (dk_at dksX3_fares_2 23 rfl rfl)
theorem dX3_fares_71 : decode cX3_fares 71 = .ok (.idiv, 1) := dk_108 (dk_at dksX3_fares_3 0 rfl rfl)
theorem dX3_fares_72 : decode cX3_fares 72 = .ok (.invokevirtual 115, 3) := dk_182 0 115 (dk_at dksX3_fares_3 1 rfl rfl)
theorem dX3_fares_75 : decode cX3_fares 75 = .ok (.aload_n 0, 1) := dk_42 (dk_at dksX3_fares_3 4 rfl rfl)
theorem dX3_fares_76 : decode cX3_fares 76 = .ok (.getfield 15, 3) := dk_180 0 15 (dk_at dksX3_fares_3 5 rfl rfl)
theorem dX3_fares_79 : decode cX3_fares 79 = .ok (.iload_n 1, 1) := dk_27 (dk_at dksX3_fares_3 8 rfl rfl)
theorem dX3_fares_80 : decode cX3_fares 80 = .ok (.iaload, 1) := dk_46 (dk_at dksX3_fares_3 9 rfl rfl)
theorem dX3_fares_81 : decode cX3_fares 81 = .ok (.aload_n 0, 1) := dk_42 (dk_at dksX3_fares_3 10 rfl rfl)
theorem dX3_fares_82 : decode cX3_fares 82 = .ok (.getfield 19, 3) := dk_180 0 19 (dk_at dksX3_fares_3 11 rfl rfl)
theorem dX3_fares_85 : decode cX3_fares 85 = .ok (.iload_n 1, 1) := dk_27 (dk_at dksX3_fares_3 14 rfl rfl)
theorem dX3_fares_86 : decode cX3_fares 86 = .ok (.iaload, 1) := dk_46 (dk_at dksX3_fares_3 15 rfl rfl)
theorem dX3_fares_87 : decode cX3_fares 87 = .ok (.invokestatic 106, 3) := dk_184 0 106 (dk_at dksX3_fares_3 16 rfl rfl)
theorem dX3_fares_90 : decode cX3_fares 90 = .ok (.istore 4, 2) := dk_54 4 (dk_at dksX3_fares_3 19 rfl rfl)
theorem dX3_fares_92 : decode cX3_fares 92 = .ok (.aload_n 0, 1) := dk_42 (dk_at dksX3_fares_3 21 rfl rfl)
theorem dX3_fares_93 : decode cX3_fares 93 = .ok (.getfield 15, 3) := dk_180 0 15 (dk_at dksX3_fares_4 0 rfl rfl)
theorem dX3_fares_96 : decode cX3_fares 96 = .ok (.iload_n 1, 1) := dk_27 (dk_at dksX3_fares_4 3 rfl rfl)
theorem dX3_fares_97 : decode cX3_fares 97 = .ok (.dup2, 1) := dk_92 (dk_at dksX3_fares_4 4 rfl rfl)
theorem dX3_fares_98 : decode cX3_fares 98 = .ok (.iaload, 1) := dk_46 (dk_at dksX3_fares_4 5 rfl rfl)
theorem dX3_fares_99 : decode cX3_fares 99 = .ok (.iload 4, 2) := dk_21 4 (dk_at dksX3_fares_4 6 rfl rfl)
theorem dX3_fares_101 : decode cX3_fares 101 = .ok (.isub, 1) := dk_100 (dk_at dksX3_fares_4 8 rfl rfl)
theorem dX3_fares_102 : decode cX3_fares 102 = .ok (.iastore, 1) := dk_79 (dk_at dksX3_fares_4 9 rfl rfl)
theorem dX3_fares_103 : decode cX3_fares 103 = .ok (.aload_n 0, 1) := dk_42 (dk_at dksX3_fares_4 10 rfl rfl)
theorem dX3_fares_104 : decode cX3_fares 104 = .ok (.getfield 19, 3) := dk_180 0 19 (dk_at dksX3_fares_4 11 rfl rfl)
theorem dX3_fares_107 : decode cX3_fares 107 = .ok (.iload_n 1, 1) := dk_27 (dk_at dksX3_fares_4 14 rfl rfl)
theorem dX3_fares_108 : decode cX3_fares 108 = .ok (.dup2, 1) := dk_92 (dk_at dksX3_fares_4 15 rfl rfl)
theorem dX3_fares_109 : decode cX3_fares 109 = .ok (.iaload, 1) := dk_46 (dk_at dksX3_fares_4 16 rfl rfl)
theorem dX3_fares_110 : decode cX3_fares 110 = .ok (.iload 4, 2) := dk_21 4 (dk_at dksX3_fares_4 17 rfl rfl)
theorem dX3_fares_112 : decode cX3_fares 112 = .ok (.isub, 1) := dk_100 (dk_at dksX3_fares_4 19 rfl rfl)
theorem dX3_fares_113 : decode cX3_fares 113 = .ok (.iastore, 1) := dk_79 (dk_at dksX3_fares_4 20 rfl rfl)
theorem dX3_fares_114 : decode cX3_fares 114 = .ok (.return_, 1) := dk_177 (dk_at dksX3_fares_4 21 rfl rfl)
abbrev cX3_open : ByteArray := prog_3_method_13_code
def yX3_open : MethodName := ⟨RX3, "open", "(I)I"⟩
def dkwX3_open_2 : List UInt8 := [180, 0, 34, 27, 46, 46, 28, 96, 184, 0, 106, 79, 42, 27, 182, 0, 145, 28, 172]
abbrev dktX3_open_2 : List UInt8 := dkwX3_open_2 ++ []
def dkwX3_open_1 : List UInt8 := [182, 0, 115, 167, 0, 33, 42, 180, 0, 19, 42, 180, 0, 34, 27, 46, 17, 39, 15, 42, 180, 0, 19, 42]
abbrev dktX3_open_1 : List UInt8 := dkwX3_open_1 ++ dktX3_open_2
def dkwX3_open_0 : List UInt8 := [42, 180, 0, 25, 27, 46, 61, 42, 180, 0, 28, 27, 46, 154, 0, 17, 42, 42, 180, 0, 34, 27, 46, 28]
abbrev dktX3_open_0 : List UInt8 := dkwX3_open_0 ++ dktX3_open_1
theorem dksX3_open_0 : cX3_open.data.toList.drop 0 = dktX3_open_0 := by decide +kernel
theorem dksX3_open_1 : cX3_open.data.toList.drop 24 = dktX3_open_1 := dk_seg dksX3_open_0 24 rfl rfl
theorem dksX3_open_2 : cX3_open.data.toList.drop 48 = dktX3_open_2 := dk_seg dksX3_open_1 24 rfl rfl
theorem dX3_open_0 : decode cX3_open 0 = .ok (.aload_n 0, 1) := dk_42 (dk_at dksX3_open_0 0 rfl rfl)
theorem dX3_open_1 : decode cX3_open 1 = .ok (.getfield 25, 3) := dk_180 0 25 (dk_at dksX3_open_0 1 rfl rfl)
theorem dX3_open_4 : decode cX3_open 4 = .ok (.iload_n 1, 1) := dk_27 (dk_at dksX3_open_0 4 rfl rfl)
theorem dX3_open_5 : decode cX3_open 5 = .ok (.iaload, 1) := dk_46 (dk_at dksX3_open_0 5 rfl rfl)
theorem dX3_open_6 : decode cX3_open 6 = .ok (.istore_n 2, 1) := dk_61 (dk_at dksX3_open_0 6 rfl rfl)
theorem dX3_open_7 : decode cX3_open 7 = .ok (.aload_n 0, 1) := dk_42 (dk_at dksX3_open_0 7 rfl rfl)
theorem dX3_open_8 : decode cX3_open 8 = .ok (.getfield 28, 3) := dk_180 0 28 (dk_at dksX3_open_0 8 rfl rfl)
theorem dX3_open_11 : decode cX3_open 11 = .ok (.iload_n 1, 1) := dk_27 (dk_at dksX3_open_0 11 rfl rfl)
theorem dX3_open_12 : decode cX3_open 12 = .ok (.iaload, 1) := dk_46 (dk_at dksX3_open_0 12 rfl rfl)
theorem dX3_open_13 : decode cX3_open 13 = .ok (.ifCond .ne 17, 3) := dk_154 0 17 (dk_at dksX3_open_0 13 rfl rfl)
theorem dX3_open_16 : decode cX3_open 16 = .ok (.aload_n 0, 1) := dk_42 (dk_at dksX3_open_0 16 rfl rfl)
theorem dX3_open_17 : decode cX3_open 17 = .ok (.aload_n 0, 1) := dk_42 (dk_at dksX3_open_0 17 rfl rfl)
theorem dX3_open_18 : decode cX3_open 18 = .ok (.getfield 34, 3) := dk_180 0 34 (dk_at dksX3_open_0 18 rfl rfl)
theorem dX3_open_21 : decode cX3_open 21 = .ok (.iload_n 1, 1) := dk_27 (dk_at dksX3_open_0 21 rfl rfl)
theorem dX3_open_22 : decode cX3_open 22 = .ok (.iaload, 1) := dk_46 (dk_at dksX3_open_0 22 rfl rfl)
theorem dX3_open_23 : decode cX3_open 23 = .ok (.iload_n 2, 1) := dk_28 (dk_at dksX3_open_0 23 rfl rfl)
theorem dX3_open_24 : decode cX3_open 24 = .ok (.invokevirtual 115, 3) := dk_182 0 115 (dk_at dksX3_open_1 0 rfl rfl)
theorem dX3_open_27 : decode cX3_open 27 = .ok (.goto 33, 3) := dk_167 0 33 (dk_at dksX3_open_1 3 rfl rfl)
theorem dX3_open_30 : decode cX3_open 30 = .ok (.aload_n 0, 1) := dk_42 (dk_at dksX3_open_1 6 rfl rfl)
theorem dX3_open_31 : decode cX3_open 31 = .ok (.getfield 19, 3) := dk_180 0 19 (dk_at dksX3_open_1 7 rfl rfl)
theorem dX3_open_34 : decode cX3_open 34 = .ok (.aload_n 0, 1) := dk_42 (dk_at dksX3_open_1 10 rfl rfl)
theorem dX3_open_35 : decode cX3_open 35 = .ok (.getfield 34, 3) := dk_180 0 34 (dk_at dksX3_open_1 11 rfl rfl)
theorem dX3_open_38 : decode cX3_open 38 = .ok (.iload_n 1, 1) := dk_27 (dk_at dksX3_open_1 14 rfl rfl)
theorem dX3_open_39 : decode cX3_open 39 = .ok (.iaload, 1) := dk_46 (dk_at dksX3_open_1 15 rfl rfl)
theorem dX3_open_40 : decode cX3_open 40 = .ok (.sipush 9999, 3) := dk_17 39 15 (dk_at dksX3_open_1 16 rfl rfl)
theorem dX3_open_43 : decode cX3_open 43 = .ok (.aload_n 0, 1) := dk_42 (dk_at dksX3_open_1 19 rfl rfl)
theorem dX3_open_44 : decode cX3_open 44 = .ok (.getfield 19, 3) := dk_180 0 19 (dk_at dksX3_open_1 20 rfl rfl)
theorem dX3_open_47 : decode cX3_open 47 = .ok (.aload_n 0, 1) := dk_42 (dk_at dksX3_open_1 23 rfl rfl)
theorem dX3_open_48 : decode cX3_open 48 = .ok (.getfield 34, 3) := dk_180 0 34 (dk_at dksX3_open_2 0 rfl rfl)
theorem dX3_open_51 : decode cX3_open 51 = .ok (.iload_n 1, 1) := dk_27 (dk_at dksX3_open_2 3 rfl rfl)
theorem dX3_open_52 : decode cX3_open 52 = .ok (.iaload, 1) := dk_46 (dk_at dksX3_open_2 4 rfl rfl)
theorem dX3_open_53 : decode cX3_open 53 = .ok (.iaload, 1) := dk_46 (dk_at dksX3_open_2 5 rfl rfl)
theorem dX3_open_54 : decode cX3_open 54 = .ok (.iload_n 2, 1) := dk_28 (dk_at dksX3_open_2 6 rfl rfl)
theorem dX3_open_55 : decode cX3_open 55 = .ok (.iadd, 1) := dk_96 (dk_at dksX3_open_2 7 rfl rfl)
theorem dX3_open_56 : decode cX3_open 56 = .ok (.invokestatic 106, 3) := dk_184 0 106 (dk_at dksX3_open_2 8 rfl rfl)
theorem dX3_open_59 : decode cX3_open 59 = .ok (.iastore, 1) := dk_79 (dk_at dksX3_open_2 11 rfl rfl)
theorem dX3_open_60 : decode cX3_open 60 = .ok (.aload_n 0, 1) := dk_42 (dk_at dksX3_open_2 12 rfl rfl)
theorem dX3_open_61 : decode cX3_open 61 = .ok (.iload_n 1, 1) := dk_27 (dk_at dksX3_open_2 13 rfl rfl)
theorem dX3_open_62 : decode cX3_open 62 = .ok (.invokevirtual 145, 3) := dk_182 0 145 (dk_at dksX3_open_2 14 rfl rfl)
theorem dX3_open_65 : decode cX3_open 65 = .ok (.iload_n 2, 1) := dk_28 (dk_at dksX3_open_2 17 rfl rfl)
theorem dX3_open_66 : decode cX3_open 66 = .ok (.ireturn, 1) := dk_172 (dk_at dksX3_open_2 18 rfl rfl)
abbrev cX3_lose : ByteArray := prog_3_method_14_code
def yX3_lose : MethodName := ⟨RX3, "lose", "(I)V"⟩
def dkwX3_lose_0 : List UInt8 := [42, 180, 0, 25, 27, 3, 79, 42, 180, 0, 34, 27, 2, 79, 42, 180, 0, 37, 27, 3, 79, 177]
abbrev dktX3_lose_0 : List UInt8 := dkwX3_lose_0 ++ []
theorem dksX3_lose_0 : cX3_lose.data.toList.drop 0 = dktX3_lose_0 := by decide +kernel
theorem dX3_lose_0 : decode cX3_lose 0 = .ok (.aload_n 0, 1) := dk_42 (dk_at dksX3_lose_0 0 rfl rfl)
theorem dX3_lose_1 : decode cX3_lose 1 = .ok (.getfield 25, 3) := dk_180 0 25 (dk_at dksX3_lose_0 1 rfl rfl)
theorem dX3_lose_4 : decode cX3_lose 4 = .ok (.iload_n 1, 1) := dk_27 (dk_at dksX3_lose_0 4 rfl rfl)
theorem dX3_lose_5 : decode cX3_lose 5 = .ok (.iconst 0, 1) := dk_3 (dk_at dksX3_lose_0 5 rfl rfl)
theorem dX3_lose_6 : decode cX3_lose 6 = .ok (.iastore, 1) := dk_79 (dk_at dksX3_lose_0 6 rfl rfl)
theorem dX3_lose_7 : decode cX3_lose 7 = .ok (.aload_n 0, 1) := dk_42 (dk_at dksX3_lose_0 7 rfl rfl)
theorem dX3_lose_8 : decode cX3_lose 8 = .ok (.getfield 34, 3) := dk_180 0 34 (dk_at dksX3_lose_0 8 rfl rfl)
theorem dX3_lose_11 : decode cX3_lose 11 = .ok (.iload_n 1, 1) := dk_27 (dk_at dksX3_lose_0 11 rfl rfl)
theorem dX3_lose_12 : decode cX3_lose 12 = .ok (.iconst (-1), 1) := dk_2 (dk_at dksX3_lose_0 12 rfl rfl)
theorem dX3_lose_13 : decode cX3_lose 13 = .ok (.iastore, 1) := dk_79 (dk_at dksX3_lose_0 13 rfl rfl)
theorem dX3_lose_14 : decode cX3_lose 14 = .ok (.aload_n 0, 1) := dk_42 (dk_at dksX3_lose_0 14 rfl rfl)
theorem dX3_lose_15 : decode cX3_lose 15 = .ok (.getfield 37, 3) := dk_180 0 37 (dk_at dksX3_lose_0 15 rfl rfl)
theorem dX3_lose_18 : decode cX3_lose 18 = .ok (.iload_n 1, 1) := dk_27 (dk_at dksX3_lose_0 18 rfl rfl)
theorem dX3_lose_19 : decode cX3_lose 19 = .ok (.iconst 0, 1) := dk_3 (dk_at dksX3_lose_0 19 rfl rfl)
theorem dX3_lose_20 : decode cX3_lose 20 = .ok (.iastore, 1) := dk_79 (dk_at dksX3_lose_0 20 rfl rfl)
theorem dX3_lose_21 : decode cX3_lose 21 = .ok (.return_, 1) := dk_177 (dk_at dksX3_lose_0 21 rfl rfl)
abbrev cX3_sum : ByteArray := prog_3_method_15_code
def yX3_sum : MethodName := ⟨RX3, "sum", "([I)I"⟩
def dkwX3_sum_1 : List UInt8 := [132, 3, 1, 167, 255, 233, 28, 172]
abbrev dktX3_sum_1 : List UInt8 := dkwX3_sum_1 ++ []
def dkwX3_sum_0 : List UInt8 := [3, 61, 3, 62, 29, 42, 180, 0, 3, 180, 0, 54, 182, 0, 129, 162, 0, 15, 28, 43, 29, 46, 96, 61]
abbrev dktX3_sum_0 : List UInt8 := dkwX3_sum_0 ++ dktX3_sum_1
theorem dksX3_sum_0 : cX3_sum.data.toList.drop 0 = dktX3_sum_0 := by decide +kernel
theorem dksX3_sum_1 : cX3_sum.data.toList.drop 24 = dktX3_sum_1 := dk_seg dksX3_sum_0 24 rfl rfl
theorem dX3_sum_0 : decode cX3_sum 0 = .ok (.iconst 0, 1) := dk_3 (dk_at dksX3_sum_0 0 rfl rfl)
theorem dX3_sum_1 : decode cX3_sum 1 = .ok (.istore_n 2, 1) := dk_61 (dk_at dksX3_sum_0 1 rfl rfl)
theorem dX3_sum_2 : decode cX3_sum 2 = .ok (.iconst 0, 1) := dk_3 (dk_at dksX3_sum_0 2 rfl rfl)
theorem dX3_sum_3 : decode cX3_sum 3 = .ok (.istore_n 3, 1) := dk_62 (dk_at dksX3_sum_0 3 rfl rfl)
theorem dX3_sum_4 : decode cX3_sum 4 = .ok (.iload_n 3, 1) := dk_29 (dk_at dksX3_sum_0 4 rfl rfl)
theorem dX3_sum_5 : decode cX3_sum 5 = .ok (.aload_n 0, 1) := dk_42 (dk_at dksX3_sum_0 5 rfl rfl)
theorem dX3_sum_6 : decode cX3_sum 6 = .ok (.getfield 3, 3) := dk_180 0 3 (dk_at dksX3_sum_0 6 rfl rfl)
theorem dX3_sum_9 : decode cX3_sum 9 = .ok (.getfield 54, 3) := dk_180 0 54 (dk_at dksX3_sum_0 9 rfl rfl)
theorem dX3_sum_12 : decode cX3_sum 12 = .ok (.invokevirtual 129, 3) := dk_182 0 129 (dk_at dksX3_sum_0 12 rfl rfl)
theorem dX3_sum_15 : decode cX3_sum 15 = .ok (.if_icmp .ge 15, 3) := dk_162 0 15 (dk_at dksX3_sum_0 15 rfl rfl)
theorem dX3_sum_18 : decode cX3_sum 18 = .ok (.iload_n 2, 1) := dk_28 (dk_at dksX3_sum_0 18 rfl rfl)
theorem dX3_sum_19 : decode cX3_sum 19 = .ok (.aload_n 1, 1) := dk_43 (dk_at dksX3_sum_0 19 rfl rfl)
theorem dX3_sum_20 : decode cX3_sum 20 = .ok (.iload_n 3, 1) := dk_29 (dk_at dksX3_sum_0 20 rfl rfl)
theorem dX3_sum_21 : decode cX3_sum 21 = .ok (.iaload, 1) := dk_46 (dk_at dksX3_sum_0 21 rfl rfl)
theorem dX3_sum_22 : decode cX3_sum 22 = .ok (.iadd, 1) := dk_96 (dk_at dksX3_sum_0 22 rfl rfl)
theorem dX3_sum_23 : decode cX3_sum 23 = .ok (.istore_n 2, 1) := dk_61 (dk_at dksX3_sum_0 23 rfl rfl)
theorem dX3_sum_24 : decode cX3_sum 24 = .ok (.iinc 3 1, 3) := dk_132 3 1 (dk_at dksX3_sum_1 0 rfl rfl)
theorem dX3_sum_27 : decode cX3_sum 27 = .ok (.goto (-23), 3) := dk_167 255 233 (dk_at dksX3_sum_1 3 rfl rfl)
theorem dX3_sum_30 : decode cX3_sum 30 = .ok (.iload_n 2, 1) := dk_28 (dk_at dksX3_sum_1 6 rfl rfl)
theorem dX3_sum_31 : decode cX3_sum 31 = .ok (.ireturn, 1) := dk_172 (dk_at dksX3_sum_1 7 rfl rfl)
theorem q114 : (Jvm.Cond.initialized "LuckCrates$Coast") ∈ lw_all := lw_g (lw_at lw_m1 6 rfl) rfl
theorem q185 : (Jvm.Cond.fieldLinkNest "LuckCrates$Coast" (90 : Nat) "LuckCrates$Province" "makes" "Ljava/util/List;" "LuckCrates") ∈ lw_tbl := lw_at lw_m1 77 rfl
theorem q189 : (Jvm.Cond.fieldLinkNest "LuckCrates$Coast" (74 : Nat) "LuckCrates$Province" "stakes" "Ljava/util/List;" "LuckCrates") ∈ lw_tbl := lw_at lw_m1 81 rfl
theorem q195 : (Jvm.Cond.fieldLinkNest "LuckCrates$Coast" (58 : Nat) "LuckCrates$Province" "crates" "I" "LuckCrates") ∈ lw_tbl := lw_at lw_m1 87 rfl
theorem q198 : (Jvm.Cond.fieldLinkNest "LuckCrates$Coast" (67 : Nat) "LuckCrates$Province" "odds" "LLuckCrates$Form;" "LuckCrates") ∈ lw_tbl := lw_at lw_m1 90 rfl
theorem q212 : (Jvm.Cond.instantiable "LuckCrates$Coast" (12 : Nat)) ∈ lw_all := lw_g (lw_at lw_m1 104 rfl) rfl
theorem q214 : (Jvm.Cond.instanceMethod ({ cls := "LuckCrates$Coast", name := "<init>", desc := "(LLuckCrates;)V" } : Jvm.MethodName)) ∈ lw_all := lw_g (lw_at lw_m1 106 rfl) rfl
theorem q215 : (Jvm.Cond.code ({ cls := "LuckCrates$Coast", name := "<init>", desc := "(LLuckCrates;)V" } : Jvm.MethodName) prog_3_method_1_code (2 : Nat) (Option.none : Option Jvm.ClassFile.FieldType)) ∈ lw_all := lw_g (lw_at lw_m1 107 rfl) rfl
theorem q216 : (Jvm.Cond.methodLink "LuckCrates$Coast" (9 : Nat) ({ cls := "java/lang/Object", name := "<init>", desc := "()V" } : Jvm.MethodName)) ∈ lw_all := lw_g (lw_at lw_m1 108 rfl) rfl
theorem q217 : (Jvm.Cond.fieldLink "LuckCrates$Coast" (15 : Nat) "LuckCrates$Coast" "luck" "[I") ∈ lw_all := lw_g (lw_at lw_m1 109 rfl) rfl
theorem q220 : (Jvm.Cond.fieldLink "LuckCrates$Coast" (19 : Nat) "LuckCrates$Coast" "bad" "[I") ∈ lw_all := lw_g (lw_at lw_m1 112 rfl) rfl
theorem q223 : (Jvm.Cond.fieldLink "LuckCrates$Coast" (22 : Nat) "LuckCrates$Coast" "won" "[I") ∈ lw_all := lw_g (lw_at lw_m1 115 rfl) rfl
theorem q225 : (Jvm.Cond.fieldLink "LuckCrates$Coast" (25 : Nat) "LuckCrates$Coast" "grains" "[I") ∈ lw_all := lw_g (lw_at lw_m1 117 rfl) rfl
theorem q228 : (Jvm.Cond.fieldLink "LuckCrates$Coast" (28 : Nat) "LuckCrates$Coast" "sort" "[I") ∈ lw_all := lw_g (lw_at lw_m1 120 rfl) rfl
theorem q231 : (Jvm.Cond.fieldLink "LuckCrates$Coast" (31 : Nat) "LuckCrates$Coast" "cat" "[I") ∈ lw_all := lw_g (lw_at lw_m1 123 rfl) rfl
theorem q234 : (Jvm.Cond.fieldLink "LuckCrates$Coast" (34 : Nat) "LuckCrates$Coast" "town" "[I") ∈ lw_all := lw_g (lw_at lw_m1 126 rfl) rfl
theorem q237 : (Jvm.Cond.fieldLink "LuckCrates$Coast" (37 : Nat) "LuckCrates$Coast" "toGo" "[I") ∈ lw_all := lw_g (lw_at lw_m1 129 rfl) rfl
theorem q239 : (Jvm.Cond.fieldLink "LuckCrates$Coast" (40 : Nat) "LuckCrates$Coast" "leak" "[I") ∈ lw_all := lw_g (lw_at lw_m1 131 rfl) rfl
theorem q241 : (Jvm.Cond.fieldLink "LuckCrates$Coast" (43 : Nat) "LuckCrates$Coast" "day" "I") ∈ lw_all := lw_g (lw_at lw_m1 133 rfl) rfl
theorem q243 : (Jvm.Cond.fieldLink "LuckCrates$Coast" (126 : Nat) "LuckCrates$Coast" "losers" "I") ∈ lw_all := lw_g (lw_at lw_m1 135 rfl) rfl
theorem q245 : (Jvm.Cond.fieldLink "LuckCrates$Coast" (3 : Nat) "LuckCrates$Coast" "this$0" "LLuckCrates;") ∈ lw_all := lw_g (lw_at lw_m1 137 rfl) rfl
theorem q246 : (Jvm.Cond.laysFinal "LuckCrates$Coast" "LuckCrates$Coast" "luck" "[I") ∈ lw_all := lw_g (lw_at lw_m1 138 rfl) rfl
theorem q247 : (Jvm.Cond.soleField "LuckCrates$Coast" "luck") ∈ lw_all := lw_g (lw_at lw_m1 139 rfl) rfl
theorem q248 : (Jvm.Cond.laysFinal "LuckCrates$Coast" "LuckCrates$Coast" "bad" "[I") ∈ lw_all := lw_g (lw_at lw_m1 140 rfl) rfl
theorem q249 : (Jvm.Cond.soleField "LuckCrates$Coast" "bad") ∈ lw_all := lw_g (lw_at lw_m1 141 rfl) rfl
theorem q250 : (Jvm.Cond.laysFinal "LuckCrates$Coast" "LuckCrates$Coast" "won" "[I") ∈ lw_all := lw_g (lw_at lw_m1 142 rfl) rfl
theorem q251 : (Jvm.Cond.soleField "LuckCrates$Coast" "won") ∈ lw_all := lw_g (lw_at lw_m1 143 rfl) rfl
theorem q252 : (Jvm.Cond.laysFinal "LuckCrates$Coast" "LuckCrates$Coast" "grains" "[I") ∈ lw_all := lw_g (lw_at lw_m1 144 rfl) rfl
theorem q253 : (Jvm.Cond.soleField "LuckCrates$Coast" "grains") ∈ lw_all := lw_g (lw_at lw_m1 145 rfl) rfl
theorem q254 : (Jvm.Cond.laysFinal "LuckCrates$Coast" "LuckCrates$Coast" "sort" "[I") ∈ lw_all := lw_g (lw_at lw_m1 146 rfl) rfl
theorem q255 : (Jvm.Cond.soleField "LuckCrates$Coast" "sort") ∈ lw_all := lw_g (lw_at lw_m1 147 rfl) rfl
theorem q256 : (Jvm.Cond.laysFinal "LuckCrates$Coast" "LuckCrates$Coast" "cat" "[I") ∈ lw_all := lw_g (lw_at lw_m1 148 rfl) rfl
theorem q257 : (Jvm.Cond.soleField "LuckCrates$Coast" "cat") ∈ lw_all := lw_g (lw_at lw_m1 149 rfl) rfl
theorem q258 : (Jvm.Cond.laysFinal "LuckCrates$Coast" "LuckCrates$Coast" "town" "[I") ∈ lw_all := lw_g (lw_at lw_m1 150 rfl) rfl
theorem q259 : (Jvm.Cond.soleField "LuckCrates$Coast" "town") ∈ lw_all := lw_g (lw_at lw_m1 151 rfl) rfl
theorem q260 : (Jvm.Cond.laysFinal "LuckCrates$Coast" "LuckCrates$Coast" "toGo" "[I") ∈ lw_all := lw_g (lw_at lw_m1 152 rfl) rfl
theorem q261 : (Jvm.Cond.soleField "LuckCrates$Coast" "toGo") ∈ lw_all := lw_g (lw_at lw_m1 153 rfl) rfl
theorem q262 : (Jvm.Cond.laysFinal "LuckCrates$Coast" "LuckCrates$Coast" "leak" "[I") ∈ lw_all := lw_g (lw_at lw_m1 154 rfl) rfl
theorem q263 : (Jvm.Cond.soleField "LuckCrates$Coast" "leak") ∈ lw_all := lw_g (lw_at lw_m1 155 rfl) rfl
theorem q264 : (Jvm.Cond.lays "LuckCrates$Coast" "LuckCrates$Coast" "day" "I") ∈ lw_all := lw_g (lw_at lw_m1 156 rfl) rfl
theorem q265 : (Jvm.Cond.soleField "LuckCrates$Coast" "day") ∈ lw_all := lw_g (lw_at lw_m1 157 rfl) rfl
theorem q266 : (Jvm.Cond.lays "LuckCrates$Coast" "LuckCrates$Coast" "losers" "I") ∈ lw_all := lw_g (lw_at lw_m1 158 rfl) rfl
theorem q267 : (Jvm.Cond.soleField "LuckCrates$Coast" "losers") ∈ lw_all := lw_g (lw_at lw_m1 159 rfl) rfl
theorem q268 : (Jvm.Cond.laysFinal "LuckCrates$Coast" "LuckCrates$Coast" "this$0" "LLuckCrates;") ∈ lw_all := lw_g (lw_at lw_m1 160 rfl) rfl
theorem q269 : (Jvm.Cond.soleField "LuckCrates$Coast" "this$0") ∈ lw_all := lw_g (lw_at lw_m1 161 rfl) rfl
theorem q270 : (Jvm.Cond.superclass "LuckCrates$Coast" "java/lang/Object") ∈ lw_all := lw_g (lw_at lw_m1 162 rfl) rfl
theorem q274 : (Jvm.Cond.fieldLinkNest "LuckCrates$Coast" (71 : Nat) "LuckCrates" "values" "[I" "LuckCrates") ∈ lw_tbl := lw_at lw_m1 166 rfl
theorem q276 : (Jvm.Cond.fieldLinkNest "LuckCrates$Coast" (54 : Nat) "LuckCrates" "province" "LLuckCrates$Province;" "LuckCrates") ∈ lw_tbl := lw_at lw_m1 168 rfl
theorem q347 : (Jvm.Cond.instanceMethod ({ cls := "LuckCrates$Coast", name := "copy", desc := "()LLuckCrates$Coast;" } : Jvm.MethodName)) ∈ lw_all := lw_g (lw_at lw_m1 239 rfl) rfl
theorem q348 : (Jvm.Cond.selects "LuckCrates$Coast" ({ cls := "LuckCrates$Coast", name := "copy", desc := "()LLuckCrates$Coast;" } : Jvm.MethodName) ({ cls := "LuckCrates$Coast", name := "copy", desc := "()LLuckCrates$Coast;" } : Jvm.MethodName)) ∈ lw_all := lw_g (lw_at lw_m2 0 rfl) rfl
theorem q349 : (Jvm.Cond.code ({ cls := "LuckCrates$Coast", name := "copy", desc := "()LLuckCrates$Coast;" } : Jvm.MethodName) prog_3_method_3_code (1 : Nat) (Option.some (Jvm.ClassFile.FieldType.object "LuckCrates$Coast"))) ∈ lw_all := lw_g (lw_at lw_m2 1 rfl) rfl
theorem q350 : (Jvm.Cond.classLink "LuckCrates$Coast" (4 : Nat) "LuckCrates$Coast") ∈ lw_all := lw_g (lw_at lw_m2 2 rfl) rfl
theorem q351 : (Jvm.Cond.methodLink "LuckCrates$Coast" (47 : Nat) ({ cls := "LuckCrates$Coast", name := "<init>", desc := "(LLuckCrates;)V" } : Jvm.MethodName)) ∈ lw_all := lw_g (lw_at lw_m2 3 rfl) rfl
theorem q352 : (Jvm.Cond.methodLink "LuckCrates$Coast" (50 : Nat) ({ cls := "LuckCrates$Coast", name := "be", desc := "(LLuckCrates$Coast;)LLuckCrates$Coast;" } : Jvm.MethodName)) ∈ lw_all := lw_g (lw_at lw_m2 4 rfl) rfl
theorem q353 : (Jvm.Cond.instanceMethod ({ cls := "LuckCrates$Coast", name := "be", desc := "(LLuckCrates$Coast;)LLuckCrates$Coast;" } : Jvm.MethodName)) ∈ lw_all := lw_g (lw_at lw_m2 5 rfl) rfl
theorem q354 : (Jvm.Cond.selects "LuckCrates$Coast" ({ cls := "LuckCrates$Coast", name := "be", desc := "(LLuckCrates$Coast;)LLuckCrates$Coast;" } : Jvm.MethodName) ({ cls := "LuckCrates$Coast", name := "be", desc := "(LLuckCrates$Coast;)LLuckCrates$Coast;" } : Jvm.MethodName)) ∈ lw_all := lw_g (lw_at lw_m2 6 rfl) rfl
theorem q355 : (Jvm.Cond.code ({ cls := "LuckCrates$Coast", name := "be", desc := "(LLuckCrates$Coast;)LLuckCrates$Coast;" } : Jvm.MethodName) prog_3_method_2_code (3 : Nat) (Option.some (Jvm.ClassFile.FieldType.object "LuckCrates$Coast"))) ∈ lw_all := lw_g (lw_at lw_m2 7 rfl) rfl
theorem q396 : (Jvm.Cond.selects "LuckCrates$Coast" ({ cls := "java/lang/Object", name := "getClass", desc := "()Ljava/lang/Class;" } : Jvm.MethodName) ({ cls := "java/lang/Object", name := "getClass", desc := "()Ljava/lang/Class;" } : Jvm.MethodName)) ∈ lw_all := lw_g (lw_at lw_m2 48 rfl) rfl
theorem q455 : (Jvm.Cond.instanceMethod ({ cls := "LuckCrates$Coast", name := "after", desc := "(I)LLuckCrates$Coast;" } : Jvm.MethodName)) ∈ lw_all := lw_g (lw_at lw_m2 107 rfl) rfl
theorem q456 : (Jvm.Cond.selects "LuckCrates$Coast" ({ cls := "LuckCrates$Coast", name := "after", desc := "(I)LLuckCrates$Coast;" } : Jvm.MethodName) ({ cls := "LuckCrates$Coast", name := "after", desc := "(I)LLuckCrates$Coast;" } : Jvm.MethodName)) ∈ lw_all := lw_g (lw_at lw_m2 108 rfl) rfl
theorem q457 : (Jvm.Cond.code ({ cls := "LuckCrates$Coast", name := "after", desc := "(I)LLuckCrates$Coast;" } : Jvm.MethodName) prog_3_method_12_code (3 : Nat) (Option.some (Jvm.ClassFile.FieldType.object "LuckCrates$Coast"))) ∈ lw_all := lw_g (lw_at lw_m2 109 rfl) rfl
theorem q458 : (Jvm.Cond.methodLink "LuckCrates$Coast" (141 : Nat) ({ cls := "LuckCrates$Coast", name := "pass", desc := "(Z)LLuckCrates$Coast;" } : Jvm.MethodName)) ∈ lw_all := lw_g (lw_at lw_m2 110 rfl) rfl
theorem q459 : (Jvm.Cond.instanceMethod ({ cls := "LuckCrates$Coast", name := "pass", desc := "(Z)LLuckCrates$Coast;" } : Jvm.MethodName)) ∈ lw_all := lw_g (lw_at lw_m2 111 rfl) rfl
theorem q460 : (Jvm.Cond.selects "LuckCrates$Coast" ({ cls := "LuckCrates$Coast", name := "pass", desc := "(Z)LLuckCrates$Coast;" } : Jvm.MethodName) ({ cls := "LuckCrates$Coast", name := "pass", desc := "(Z)LLuckCrates$Coast;" } : Jvm.MethodName)) ∈ lw_all := lw_g (lw_at lw_m2 112 rfl) rfl
theorem q461 : (Jvm.Cond.code ({ cls := "LuckCrates$Coast", name := "pass", desc := "(Z)LLuckCrates$Coast;" } : Jvm.MethodName) prog_3_method_11_code (4 : Nat) (Option.some (Jvm.ClassFile.FieldType.object "LuckCrates$Coast"))) ∈ lw_all := lw_g (lw_at lw_m2 113 rfl) rfl
theorem q462 : (Jvm.Cond.methodLink "LuckCrates$Coast" (119 : Nat) ({ cls := "LuckCrates$Coast", name := "goes", desc := "(I)Z" } : Jvm.MethodName)) ∈ lw_all := lw_g (lw_at lw_m2 114 rfl) rfl
theorem q463 : (Jvm.Cond.instanceMethod ({ cls := "LuckCrates$Coast", name := "goes", desc := "(I)Z" } : Jvm.MethodName)) ∈ lw_all := lw_g (lw_at lw_m2 115 rfl) rfl
theorem q464 : (Jvm.Cond.selects "LuckCrates$Coast" ({ cls := "LuckCrates$Coast", name := "goes", desc := "(I)Z" } : Jvm.MethodName) ({ cls := "LuckCrates$Coast", name := "goes", desc := "(I)Z" } : Jvm.MethodName)) ∈ lw_all := lw_g (lw_at lw_m2 116 rfl) rfl
theorem q465 : (Jvm.Cond.code ({ cls := "LuckCrates$Coast", name := "goes", desc := "(I)Z" } : Jvm.MethodName) prog_3_method_5_code (2 : Nat) (Option.some Jvm.ClassFile.FieldType.boolean)) ∈ lw_all := lw_g (lw_at lw_m2 117 rfl) rfl
theorem q466 : (Jvm.Cond.methodLink "LuckCrates$Coast" (122 : Nat) ({ cls := "LuckCrates$Coast", name := "ship", desc := "(I)V" } : Jvm.MethodName)) ∈ lw_all := lw_g (lw_at lw_m2 118 rfl) rfl
theorem q467 : (Jvm.Cond.privateMethod ({ cls := "LuckCrates$Coast", name := "ship", desc := "(I)V" } : Jvm.MethodName)) ∈ lw_tbl := lw_at lw_m2 119 rfl
theorem q468 : (Jvm.Cond.instanceMethod ({ cls := "LuckCrates$Coast", name := "ship", desc := "(I)V" } : Jvm.MethodName)) ∈ lw_all := lw_g (lw_at lw_m2 120 rfl) rfl
theorem q469 : (Jvm.Cond.code ({ cls := "LuckCrates$Coast", name := "ship", desc := "(I)V" } : Jvm.MethodName) prog_3_method_8_code (2 : Nat) (Option.none : Option Jvm.ClassFile.FieldType)) ∈ lw_all := lw_g (lw_at lw_m2 121 rfl) rfl
theorem q470 : (Jvm.Cond.methodLink "LuckCrates$Coast" (112 : Nat) ({ cls := "java/lang/Math", name := "max", desc := "(II)I" } : Jvm.MethodName)) ∈ lw_all := lw_g (lw_at lw_m2 122 rfl) rfl
theorem q471 : (Jvm.Cond.methodLink "LuckCrates$Coast" (129 : Nat) ({ cls := "LuckCrates$Province", name := "towns", desc := "()I" } : Jvm.MethodName)) ∈ lw_all := lw_g (lw_at lw_m2 123 rfl) rfl
theorem q477 : (Jvm.Cond.interfaceEntry "LuckCrates$Coast" (78 : Nat)) ∈ lw_tbl := lw_at lw_m2 129 rfl
theorem q478 : (Jvm.Cond.methodLink "LuckCrates$Coast" (78 : Nat) ({ cls := "java/util/List", name := "get", desc := "(I)Ljava/lang/Object;" } : Jvm.MethodName)) ∈ lw_all := lw_g (lw_at lw_m2 130 rfl) rfl
theorem q490 : (Jvm.Cond.classLink "LuckCrates$Coast" (84 : Nat) "java/lang/Integer") ∈ lw_all := lw_g (lw_at lw_m2 142 rfl) rfl
theorem q491 : (Jvm.Cond.methodLink "LuckCrates$Coast" (86 : Nat) ({ cls := "java/lang/Integer", name := "intValue", desc := "()I" } : Jvm.MethodName)) ∈ lw_all := lw_g (lw_at lw_m2 143 rfl) rfl
theorem q495 : (Jvm.Cond.methodLink "LuckCrates$Coast" (115 : Nat) ({ cls := "LuckCrates$Coast", name := "give", desc := "(II)V" } : Jvm.MethodName)) ∈ lw_all := lw_g (lw_at lw_m2 147 rfl) rfl
theorem q496 : (Jvm.Cond.instanceMethod ({ cls := "LuckCrates$Coast", name := "give", desc := "(II)V" } : Jvm.MethodName)) ∈ lw_all := lw_g (lw_at lw_m2 148 rfl) rfl
theorem q497 : (Jvm.Cond.selects "LuckCrates$Coast" ({ cls := "LuckCrates$Coast", name := "give", desc := "(II)V" } : Jvm.MethodName) ({ cls := "LuckCrates$Coast", name := "give", desc := "(II)V" } : Jvm.MethodName)) ∈ lw_all := lw_g (lw_at lw_m2 149 rfl) rfl
theorem q498 : (Jvm.Cond.code ({ cls := "LuckCrates$Coast", name := "give", desc := "(II)V" } : Jvm.MethodName) prog_3_method_9_code (3 : Nat) (Option.none : Option Jvm.ClassFile.FieldType)) ∈ lw_all := lw_g (lw_at lw_m2 150 rfl) rfl
theorem q499 : (Jvm.Cond.methodLink "LuckCrates$Coast" (106 : Nat) ({ cls := "java/lang/Math", name := "min", desc := "(II)I" } : Jvm.MethodName)) ∈ lw_all := lw_g (lw_at lw_m2 151 rfl) rfl
theorem q500 : (Jvm.Cond.methodLinkNest "LuckCrates$Coast" (132 : Nat) ({ cls := "LuckCrates", name := "draw", desc := "(I)I" } : Jvm.MethodName) "LuckCrates") ∈ lw_tbl := lw_at lw_m2 152 rfl
theorem q505 : (Jvm.Cond.methodLink "LuckCrates$Coast" (135 : Nat) ({ cls := "LuckCrates$Coast", name := "odds", desc := "(I)I" } : Jvm.MethodName)) ∈ lw_all := lw_g (lw_at lw_m2 157 rfl) rfl
theorem q506 : (Jvm.Cond.instanceMethod ({ cls := "LuckCrates$Coast", name := "odds", desc := "(I)I" } : Jvm.MethodName)) ∈ lw_all := lw_g (lw_at lw_m2 158 rfl) rfl
theorem q507 : (Jvm.Cond.selects "LuckCrates$Coast" ({ cls := "LuckCrates$Coast", name := "odds", desc := "(I)I" } : Jvm.MethodName) ({ cls := "LuckCrates$Coast", name := "odds", desc := "(I)I" } : Jvm.MethodName)) ∈ lw_all := lw_g (lw_at lw_m2 159 rfl) rfl
theorem q508 : (Jvm.Cond.code ({ cls := "LuckCrates$Coast", name := "odds", desc := "(I)I" } : Jvm.MethodName) prog_3_method_7_code (3 : Nat) (Option.some Jvm.ClassFile.FieldType.int)) ∈ lw_all := lw_g (lw_at lw_m2 160 rfl) rfl
theorem q509 : (Jvm.Cond.methodLink "LuckCrates$Coast" (93 : Nat) ({ cls := "LuckCrates$Coast", name := "lying", desc := "(I)I" } : Jvm.MethodName)) ∈ lw_all := lw_g (lw_at lw_m2 161 rfl) rfl
theorem q510 : (Jvm.Cond.instanceMethod ({ cls := "LuckCrates$Coast", name := "lying", desc := "(I)I" } : Jvm.MethodName)) ∈ lw_all := lw_g (lw_at lw_m2 162 rfl) rfl
theorem q511 : (Jvm.Cond.selects "LuckCrates$Coast" ({ cls := "LuckCrates$Coast", name := "lying", desc := "(I)I" } : Jvm.MethodName) ({ cls := "LuckCrates$Coast", name := "lying", desc := "(I)I" } : Jvm.MethodName)) ∈ lw_all := lw_g (lw_at lw_m2 163 rfl) rfl
theorem q512 : (Jvm.Cond.code ({ cls := "LuckCrates$Coast", name := "lying", desc := "(I)I" } : Jvm.MethodName) prog_3_method_6_code (4 : Nat) (Option.some Jvm.ClassFile.FieldType.int)) ∈ lw_all := lw_g (lw_at lw_m2 164 rfl) rfl
theorem q513 : (Jvm.Cond.methodLink "LuckCrates$Coast" (63 : Nat) ({ cls := "LuckCrates$Coast", name := "lies", desc := "(I)Z" } : Jvm.MethodName)) ∈ lw_all := lw_g (lw_at lw_m2 165 rfl) rfl
theorem q514 : (Jvm.Cond.instanceMethod ({ cls := "LuckCrates$Coast", name := "lies", desc := "(I)Z" } : Jvm.MethodName)) ∈ lw_all := lw_g (lw_at lw_m2 166 rfl) rfl
theorem q515 : (Jvm.Cond.selects "LuckCrates$Coast" ({ cls := "LuckCrates$Coast", name := "lies", desc := "(I)Z" } : Jvm.MethodName) ({ cls := "LuckCrates$Coast", name := "lies", desc := "(I)Z" } : Jvm.MethodName)) ∈ lw_all := lw_g (lw_at lw_m2 167 rfl) rfl
theorem q516 : (Jvm.Cond.code ({ cls := "LuckCrates$Coast", name := "lies", desc := "(I)Z" } : Jvm.MethodName) prog_3_method_4_code (2 : Nat) (Option.some Jvm.ClassFile.FieldType.boolean)) ∈ lw_all := lw_g (lw_at lw_m2 168 rfl) rfl
theorem q517 : (Jvm.Cond.methodLink "LuckCrates$Coast" (97 : Nat) ({ cls := "java/lang/Integer", name := "bitCount", desc := "(I)I" } : Jvm.MethodName)) ∈ lw_all := lw_g (lw_at lw_m2 169 rfl) rfl
theorem q523 : (Jvm.Cond.interfaceEntry "LuckCrates$Coast" (100 : Nat)) ∈ lw_tbl := lw_at lw_m2 175 rfl
theorem q524 : (Jvm.Cond.methodLink "LuckCrates$Coast" (100 : Nat) ({ cls := "LuckCrates$Form", name := "of", desc := "([I)I" } : Jvm.MethodName)) ∈ lw_all := lw_g (lw_at lw_m2 176 rfl) rfl
theorem q590 : (Jvm.Cond.methodLink "LuckCrates$Coast" (137 : Nat) ({ cls := "LuckCrates$Coast", name := "fares", desc := "(IZ)V" } : Jvm.MethodName)) ∈ lw_all := lw_g (lw_at lw_m3 2 rfl) rfl
theorem q591 : (Jvm.Cond.privateMethod ({ cls := "LuckCrates$Coast", name := "fares", desc := "(IZ)V" } : Jvm.MethodName)) ∈ lw_tbl := lw_at lw_m3 3 rfl
theorem q592 : (Jvm.Cond.instanceMethod ({ cls := "LuckCrates$Coast", name := "fares", desc := "(IZ)V" } : Jvm.MethodName)) ∈ lw_all := lw_g (lw_at lw_m3 4 rfl) rfl
theorem q593 : (Jvm.Cond.code ({ cls := "LuckCrates$Coast", name := "fares", desc := "(IZ)V" } : Jvm.MethodName) prog_3_method_10_code (5 : Nat) (Option.none : Option Jvm.ClassFile.FieldType)) ∈ lw_all := lw_g (lw_at lw_m3 5 rfl) rfl
theorem q617 : (Jvm.Cond.instanceMethod ({ cls := "LuckCrates$Coast", name := "open", desc := "(I)I" } : Jvm.MethodName)) ∈ lw_all := lw_g (lw_at lw_m3 29 rfl) rfl
theorem q618 : (Jvm.Cond.selects "LuckCrates$Coast" ({ cls := "LuckCrates$Coast", name := "open", desc := "(I)I" } : Jvm.MethodName) ({ cls := "LuckCrates$Coast", name := "open", desc := "(I)I" } : Jvm.MethodName)) ∈ lw_all := lw_g (lw_at lw_m3 30 rfl) rfl
theorem q619 : (Jvm.Cond.code ({ cls := "LuckCrates$Coast", name := "open", desc := "(I)I" } : Jvm.MethodName) prog_3_method_13_code (3 : Nat) (Option.some Jvm.ClassFile.FieldType.int)) ∈ lw_all := lw_g (lw_at lw_m3 31 rfl) rfl
theorem q620 : (Jvm.Cond.methodLink "LuckCrates$Coast" (145 : Nat) ({ cls := "LuckCrates$Coast", name := "lose", desc := "(I)V" } : Jvm.MethodName)) ∈ lw_all := lw_g (lw_at lw_m3 32 rfl) rfl
theorem q621 : (Jvm.Cond.instanceMethod ({ cls := "LuckCrates$Coast", name := "lose", desc := "(I)V" } : Jvm.MethodName)) ∈ lw_all := lw_g (lw_at lw_m3 33 rfl) rfl
theorem q622 : (Jvm.Cond.selects "LuckCrates$Coast" ({ cls := "LuckCrates$Coast", name := "lose", desc := "(I)V" } : Jvm.MethodName) ({ cls := "LuckCrates$Coast", name := "lose", desc := "(I)V" } : Jvm.MethodName)) ∈ lw_all := lw_g (lw_at lw_m3 34 rfl) rfl
theorem q623 : (Jvm.Cond.code ({ cls := "LuckCrates$Coast", name := "lose", desc := "(I)V" } : Jvm.MethodName) prog_3_method_14_code (2 : Nat) (Option.none : Option Jvm.ClassFile.FieldType)) ∈ lw_all := lw_g (lw_at lw_m3 35 rfl) rfl
theorem q630 : (Jvm.Cond.instanceMethod ({ cls := "LuckCrates$Coast", name := "sum", desc := "([I)I" } : Jvm.MethodName)) ∈ lw_all := lw_g (lw_at lw_m3 42 rfl) rfl
theorem q631 : (Jvm.Cond.selects "LuckCrates$Coast" ({ cls := "LuckCrates$Coast", name := "sum", desc := "([I)I" } : Jvm.MethodName) ({ cls := "LuckCrates$Coast", name := "sum", desc := "([I)I" } : Jvm.MethodName)) ∈ lw_all := lw_g (lw_at lw_m3 43 rfl) rfl
theorem q632 : (Jvm.Cond.code ({ cls := "LuckCrates$Coast", name := "sum", desc := "([I)I" } : Jvm.MethodName) prog_3_method_15_code (4 : Nat) (Option.some Jvm.ClassFile.FieldType.int)) ∈ lw_all := lw_g (lw_at lw_m3 44 rfl) rfl
theorem q2231 : (Jvm.Cond.castable "LuckCrates$Coast" "java/lang/Object") ∈ lw_tbl := lw_at lw_m9 203 rfl
theorem in_X3 : ∀ w ∈ wsX30, w ∈ lw_all := lw_in wsX30 [246, 248, 250, 252, 254, 256, 258, 260, 262, 264, 266, 268] (by decide +kernel) (by decide +kernel)
