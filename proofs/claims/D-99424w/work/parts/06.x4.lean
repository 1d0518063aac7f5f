set_option maxRecDepth 100000
abbrev cX4_init : ByteArray := prog_13_method_1_code
def yX4_init : MethodName := ⟨RX4, "<init>", "()V"⟩
def dkwX4_init_12 : List UInt8 := [16, 24, 188, 10, 181, 0, 114, 177]
abbrev dktX4_init_12 : List UInt8 := dkwX4_init_12 ++ []
def dkwX4_init_11 : List UInt8 := [188, 10, 181, 0, 105, 42, 16, 85, 188, 10, 181, 0, 108, 42, 17, 13, 72, 188, 10, 181, 0, 111, 42]
abbrev dktX4_init_11 : List UInt8 := dkwX4_init_11 ++ dktX4_init_12
def dkwX4_init_10 : List UInt8 := [181, 0, 96, 42, 16, 24, 188, 10, 181, 0, 99, 42, 17, 0, 248, 188, 10, 181, 0, 102, 42, 17, 96, 224]
abbrev dktX4_init_10 : List UInt8 := dkwX4_init_10 ++ dktX4_init_11
def dkwX4_init_9 : List UInt8 := [42, 16, 64, 188, 10, 181, 0, 90, 42, 17, 40, 0, 188, 10, 181, 0, 93, 42, 17, 0, 240, 188, 10]
abbrev dktX4_init_9 : List UInt8 := dkwX4_init_9 ++ dktX4_init_10
def dkwX4_init_8 : List UInt8 := [16, 6, 188, 10, 181, 0, 81, 42, 17, 3, 182, 188, 10, 181, 0, 84, 42, 16, 64, 188, 10, 181, 0, 87]
abbrev dktX4_init_8 : List UInt8 := dkwX4_init_8 ++ dktX4_init_9
def dkwX4_init_7 : List UInt8 := [188, 4, 181, 0, 71, 42, 17, 0, 170, 188, 10, 181, 0, 75, 42, 17, 13, 72, 188, 10, 181, 0, 78, 42]
abbrev dktX4_init_7 : List UInt8 := dkwX4_init_7 ++ dktX4_init_8
def dkwX4_init_6 : List UInt8 := [181, 0, 62, 42, 17, 5, 120, 188, 10, 181, 0, 65, 42, 17, 3, 182, 188, 10, 181, 0, 68, 42, 16, 9]
abbrev dktX4_init_6 : List UInt8 := dkwX4_init_6 ++ dktX4_init_7
def dkwX4_init_5 : List UInt8 := [181, 0, 53, 42, 16, 12, 188, 10, 181, 0, 56, 42, 16, 12, 188, 10, 181, 0, 59, 42, 16, 85, 188, 10]
abbrev dktX4_init_5 : List UInt8 := dkwX4_init_5 ++ dktX4_init_6
def dkwX4_init_4 : List UInt8 := [181, 0, 44, 42, 16, 8, 188, 10, 181, 0, 47, 42, 16, 12, 188, 10, 181, 0, 50, 42, 16, 12, 188, 10]
abbrev dktX4_init_4 : List UInt8 := dkwX4_init_4 ++ dktX4_init_5
def dkwX4_init_3 : List UInt8 := [188, 10, 181, 0, 35, 42, 2, 181, 0, 38, 42, 6, 188, 10, 181, 0, 41, 42, 16, 8, 188, 10]
abbrev dktX4_init_3 : List UInt8 := dkwX4_init_3 ++ dktX4_init_4
def dkwX4_init_2 : List UInt8 := [181, 0, 26, 42, 16, 12, 188, 10, 181, 0, 29, 42, 17, 5, 120, 188, 10, 181, 0, 32, 42, 17, 2, 188]
abbrev dktX4_init_2 : List UInt8 := dkwX4_init_2 ++ dktX4_init_3
def dkwX4_init_1 : List UInt8 := [181, 0, 17, 42, 16, 12, 188, 10, 181, 0, 20, 42, 16, 12, 188, 10, 181, 0, 23, 42, 16, 12, 188, 10]
abbrev dktX4_init_1 : List UInt8 := dkwX4_init_1 ++ dktX4_init_2
def dkwX4_init_0 : List UInt8 := [42, 183, 0, 1, 42, 2, 181, 0, 9, 42, 16, 8, 188, 10, 181, 0, 13, 42, 16, 8, 188, 10]
abbrev dktX4_init_0 : List UInt8 := dkwX4_init_0 ++ dktX4_init_1
theorem dksX4_init_0 : cX4_init.data.toList.drop 0 = dktX4_init_0 := by decide +kernel
theorem dksX4_init_1 : cX4_init.data.toList.drop 22 = dktX4_init_1 := dk_seg dksX4_init_0 22 rfl rfl
theorem dksX4_init_2 : cX4_init.data.toList.drop 46 = dktX4_init_2 := dk_seg dksX4_init_1 24 rfl rfl
theorem dksX4_init_3 : cX4_init.data.toList.drop 70 = dktX4_init_3 := dk_seg dksX4_init_2 24 rfl rfl
theorem dksX4_init_4 : cX4_init.data.toList.drop 92 = dktX4_init_4 := dk_seg dksX4_init_3 22 rfl rfl
theorem dksX4_init_5 : cX4_init.data.toList.drop 116 = dktX4_init_5 := dk_seg dksX4_init_4 24 rfl rfl
theorem dksX4_init_6 : cX4_init.data.toList.drop 140 = dktX4_init_6 := dk_seg dksX4_init_5 24 rfl rfl
theorem dksX4_init_7 : cX4_init.data.toList.drop 164 = dktX4_init_7 := dk_seg dksX4_init_6 24 rfl rfl
theorem dksX4_init_8 : cX4_init.data.toList.drop 188 = dktX4_init_8 := dk_seg dksX4_init_7 24 rfl rfl
theorem dksX4_init_9 : cX4_init.data.toList.drop 212 = dktX4_init_9 := dk_seg dksX4_init_8 24 rfl rfl
theorem dksX4_init_10 : cX4_init.data.toList.drop 235 = dktX4_init_10 := dk_seg dksX4_init_9 23 rfl rfl
theorem dksX4_init_11 : cX4_init.data.toList.drop 259 = dktX4_init_11 := dk_seg dksX4_init_10 24 rfl rfl
theorem dksX4_init_12 : cX4_init.data.toList.drop 282 = dktX4_init_12 := dk_seg dksX4_init_11 23 rfl rfl
theorem dX4_init_0 : decode cX4_init 0 = .ok (.aload_n 0, 1) := dk_42 (dk_at dksX4_init_0 0 rfl rfl)
theorem dX4_init_1 : decode cX4_init 1 = .ok (.invokespecial 1, 3) := dk_183 0 1 (dk_at dksX4_init_0 1 rfl rfl)
theorem dX4_init_4 : decode cX4_init 4 = .ok (.aload_n 0, 1) := dk_42 (dk_at dksX4_init_0 4 rfl rfl)
theorem dX4_init_5 : decode cX4_init 5 = .ok (.iconst (-1), 1) := dk_2 (dk_at dksX4_init_0 5 rfl rfl)
theorem dX4_init_6 : decode cX4_init 6 = .ok (.putfield 9, 3) := dk_181 0 9 (dk_at dksX4_init_0 6 rfl rfl)
theorem dX4_init_9 : decode cX4_init 9 = .ok (.aload_n 0, 1) := dk_42 (dk_at dksX4_init_0 9 rfl rfl)
theorem dX4_init_10 : decode cX4_init 10 = .ok (.bipush 8, 2) := dk_16 8 (dk_at dksX4_init_0 10 rfl rfl)
theorem dX4_init_12 : decode cX4_init 12 = .ok (.newarray .int, 2) := dk_188_10 (dk_at dksX4_init_0 12 rfl rfl)
theorem dX4_init_14 : decode cX4_init 14 = .ok (.putfield 13, 3) := dk_181 0 13 (dk_at dksX4_init_0 14 rfl rfl)
theorem dX4_init_17 : decode cX4_init 17 = .ok (.aload_n 0, 1) := dk_42 (dk_at dksX4_init_0 17 rfl rfl)
theorem dX4_init_18 : decode cX4_init 18 = .ok (.bipush 8, 2) := dk_16 8 (dk_at dksX4_init_0 18 rfl rfl)
theorem dX4_init_20 : decode cX4_init 20 = .ok (.newarray .int, 2) := dk_188_10 (dk_at dksX4_init_0 20 rfl rfl)
theorem dX4_init_22 : decode cX4_init 22 = .ok (.putfield 17, 3) := dk_181 0 17 (dk_at dksX4_init_1 0 rfl rfl)
theorem dX4_init_25 : decode cX4_init 25 = .ok (.aload_n 0, 1) := dk_42 (dk_at dksX4_init_1 3 rfl rfl)
theorem dX4_init_26 : decode cX4_init 26 = .ok (.bipush 12, 2) := dk_16 12 (dk_at dksX4_init_1 4 rfl rfl)
theorem dX4_init_28 : decode cX4_init 28 = .ok (.newarray .int, 2) := dk_188_10 (dk_at dksX4_init_1 6 rfl rfl)
theorem dX4_init_30 : decode cX4_init 30 = .ok (.putfield 20, 3) := dk_181 0 20 (dk_at dksX4_init_1 8 rfl rfl)
theorem dX4_init_33 : decode cX4_init 33 = .ok (.aload_n 0, 1) := dk_42 (dk_at dksX4_init_1 11 rfl rfl)
theorem dX4_init_34 : decode cX4_init 34 = .ok (.bipush 12, 2) := dk_16 12 (dk_at dksX4_init_1 12 rfl rfl)
theorem dX4_init_36 : decode cX4_init 36 = .ok (.newarray .int, 2) := dk_188_10 (dk_at dksX4_init_1 14 rfl rfl)
theorem dX4_init_38 : decode cX4_init 38 = .ok (.putfield 23, 3) := dk_181 0 23 (dk_at dksX4_init_1 16 rfl rfl)
theorem dX4_init_41 : decode cX4_init 41 = .ok (.aload_n 0, 1) := dk_42 (dk_at dksX4_init_1 19 rfl rfl)
theorem dX4_init_42 : decode cX4_init 42 = .ok (.bipush 12, 2) := dk_16 12 (dk_at dksX4_init_1 20 rfl rfl)
theorem dX4_init_44 : decode cX4_init 44 = .ok (.newarray .int, 2) := dk_188_10 (dk_at dksX4_init_1 22 rfl rfl)
theorem dX4_init_46 : decode cX4_init 46 = .ok (.putfield 26, 3) := dk_181 0 26 (dk_at dksX4_init_2 0 rfl rfl)
theorem dX4_init_49 : decode cX4_init 49 = .ok (.aload_n 0, 1) := dk_42 (dk_at dksX4_init_2 3 rfl rfl)
theorem dX4_init_50 : decode cX4_init 50 = .ok (.bipush 12, 2) := dk_16 12 (dk_at dksX4_init_2 4 rfl rfl)
theorem dX4_init_52 : decode cX4_init 52 = .ok (.newarray .int, 2) := dk_188_10 (dk_at dksX4_init_2 6 rfl rfl)
theorem dX4_init_54 : decode cX4_init 54 = .ok (.putfield 29, 3) := dk_181 0 29 (dk_at dksX4_init_2 8 rfl rfl)
theorem dX4_init_57 : decode cX4_init 57 = .ok (.aload_n 0, 1) := dk_42 (dk_at dksX4_init_2 11 rfl rfl)
theorem dX4_init_58 : decode cX4_init 58 = .ok (.sipush 1400, 3) := dk_17 5 120 (dk_at dksX4_init_2 12 rfl rfl)
theorem dX4_init_61 : decode cX4_init 61 = .ok (.newarray .int, 2) := dk_188_10 (dk_at dksX4_init_2 15 rfl rfl)
theorem dX4_init_63 : decode cX4_init 63 = .ok (.putfield 32, 3) := dk_181 0 32 (dk_at dksX4_init_2 17 rfl rfl)
theorem dX4_init_66 : decode cX4_init 66 = .ok (.aload_n 0, 1) := dk_42 (dk_at dksX4_init_2 20 rfl rfl)
theorem dX4_init_67 : decode cX4_init 67 = .ok (.sipush 700, 3) := dk_17 2 188 (dk_at dksX4_init_2 21 rfl rfl)
theorem dX4_init_70 : decode cX4_init 70 = .ok (.newarray .int, 2) := dk_188_10 (dk_at dksX4_init_3 0 rfl rfl)
theorem dX4_init_72 : decode cX4_init 72 = .ok (.putfield 35, 3) := dk_181 0 35 (dk_at dksX4_init_3 2 rfl rfl)
theorem dX4_init_75 : decode cX4_init 75 = .ok (.aload_n 0, 1) := dk_42 (dk_at dksX4_init_3 5 rfl rfl)
theorem dX4_init_76 : decode cX4_init 76 = .ok (.iconst (-1), 1) := dk_2 (dk_at dksX4_init_3 6 rfl rfl)
theorem dX4_init_77 : decode cX4_init 77 = .ok (.putfield 38, 3) := dk_181 0 38 (dk_at dksX4_init_3 7 rfl rfl)
theorem dX4_init_80 : decode cX4_init 80 = .ok (.aload_n 0, 1) := dk_42 (dk_at dksX4_init_3 10 rfl rfl)
theorem dX4_init_81 : decode cX4_init 81 = .ok (.iconst 3, 1) := dk_6 (dk_at dksX4_init_3 11 rfl rfl)
theorem dX4_init_82 : decode cX4_init 82 = .ok (.newarray .int, 2) := dk_188_10 (dk_at dksX4_init_3 12 rfl rfl)
theorem dX4_init_84 : decode cX4_init 84 = .ok (.putfield 41, 3) := dk_181 0 41 (dk_at dksX4_init_3 14 rfl rfl)
theorem dX4_init_87 : decode cX4_init 87 = .ok (.aload_n 0, 1) := dk_42 (dk_at dksX4_init_3 17 rfl rfl)
theorem dX4_init_88 : decode cX4_init 88 = .ok (.bipush 8, 2) := dk_16 8 (dk_at dksX4_init_3 18 rfl rfl)
theorem dX4_init_90 : decode cX4_init 90 = .ok (.newarray .int, 2) := dk_188_10 (dk_at dksX4_init_3 20 rfl rfl)
theorem dX4_init_92 : decode cX4_init 92 = .ok (.putfield 44, 3) := dk_181 0 44 (dk_at dksX4_init_4 0 rfl rfl)
theorem dX4_init_95 : decode cX4_init 95 = .ok (.aload_n 0, 1) := dk_42 (dk_at dksX4_init_4 3 rfl rfl)
theorem dX4_init_96 : decode cX4_init 96 = .ok (.bipush 8, 2) := dk_16 8 (dk_at dksX4_init_4 4 rfl rfl)
theorem dX4_init_98 : decode cX4_init 98 = .ok (.newarray .int, 2) := dk_188_10 (dk_at dksX4_init_4 6 rfl rfl)
theorem dX4_init_100 : decode cX4_init 100 = .ok (.putfield 47, 3) := dk_181 0 47 (dk_at dksX4_init_4 8 rfl rfl)
theorem dX4_init_103 : decode cX4_init 103 = .ok (.aload_n 0, 1) := dk_42 (dk_at dksX4_init_4 11 rfl rfl)
theorem dX4_init_104 : decode cX4_init 104 = .ok (.bipush 12, 2) := dk_16 12 (dk_at dksX4_init_4 12 rfl rfl)
theorem dX4_init_106 : decode cX4_init 106 = .ok (.newarray .int, 2) := dk_188_10 (dk_at dksX4_init_4 14 rfl rfl)
theorem dX4_init_108 : decode cX4_init 108 = .ok (.putfield 50, 3) := dk_181 0 50 (dk_at dksX4_init_4 16 rfl rfl)
theorem dX4_init_111 : decode cX4_init 111 = .ok (.aload_n 0, 1) := dk_42 (dk_at dksX4_init_4 19 rfl rfl)
theorem dX4_init_112 : decode cX4_init 112 = .ok (.bipush 12, 2) := dk_16 12 (dk_at dksX4_init_4 20 rfl rfl)
theorem dX4_init_114 : decode cX4_init 114 = .ok (.newarray .int, 2) := dk_188_10 (dk_at dksX4_init_4 22 rfl rfl)
theorem dX4_init_116 : decode cX4_init 116 = .ok (.putfield 53, 3) := dk_181 0 53 (dk_at dksX4_init_5 0 rfl rfl)
theorem dX4_init_119 : decode cX4_init 119 = .ok (.aload_n 0, 1) := dk_42 (dk_at dksX4_init_5 3 rfl rfl)
theorem dX4_init_120 : decode cX4_init 120 = .ok (.bipush 12, 2) := dk_16 12 (dk_at dksX4_init_5 4 rfl rfl)
theorem dX4_init_122 : decode cX4_init 122 = .ok (.newarray .int, 2) := dk_188_10 (dk_at dksX4_init_5 6 rfl rfl)
theorem dX4_init_124 : decode cX4_init 124 = .ok (.putfield 56, 3) := dk_181 0 56 (dk_at dksX4_init_5 8 rfl rfl)
theorem dX4_init_127 : decode cX4_init 127 = .ok (.aload_n 0, 1) := dk_42 (dk_at dksX4_init_5 11 rfl rfl)
theorem dX4_init_128 : decode cX4_init 128 = .ok (.bipush 12, 2) := dk_16 12 (dk_at dksX4_init_5 12 rfl rfl)
theorem dX4_init_130 : decode cX4_init 130 = .ok (.newarray .int, 2) := dk_188_10 (dk_at dksX4_init_5 14 rfl rfl)
theorem dX4_init_132 : decode cX4_init 132 = .ok (.putfield 59, 3) := dk_181 0 59 (dk_at dksX4_init_5 16 rfl rfl)
theorem dX4_init_135 : decode cX4_init 135 = .ok (.aload_n 0, 1) := dk_42 (dk_at dksX4_init_5 19 rfl rfl)
theorem dX4_init_136 : decode cX4_init 136 = .ok (.bipush 85, 2) := dk_16 85 (dk_at dksX4_init_5 20 rfl rfl)
theorem dX4_init_138 : decode cX4_init 138 = .ok (.newarray .int, 2) := dk_188_10 (dk_at dksX4_init_5 22 rfl rfl)
theorem dX4_init_140 : decode cX4_init 140 = .ok (.putfield 62, 3) := dk_181 0 62 (dk_at dksX4_init_6 0 rfl rfl)
theorem dX4_init_143 : decode cX4_init 143 = .ok (.aload_n 0, 1) := dk_42 (dk_at dksX4_init_6 3 rfl rfl)
theorem dX4_init_144 : decode cX4_init 144 = .ok (.sipush 1400, 3) := dk_17 5 120 (dk_at dksX4_init_6 4 rfl rfl)
theorem dX4_init_147 : decode cX4_init 147 = .ok (.newarray .int, 2) := dk_188_10 (dk_at dksX4_init_6 7 rfl rfl)
theorem dX4_init_149 : decode cX4_init 149 = .ok (.putfield 65, 3) := dk_181 0 65 (dk_at dksX4_init_6 9 rfl rfl)
theorem dX4_init_152 : decode cX4_init 152 = .ok (.aload_n 0, 1) := dk_42 (dk_at dksX4_init_6 12 rfl rfl)
theorem dX4_init_153 : decode cX4_init 153 = .ok (.sipush 950, 3) := dk_17 3 182 (dk_at dksX4_init_6 13 rfl rfl)
theorem dX4_init_156 : decode cX4_init 156 = .ok (.newarray .int, 2) := dk_188_10 (dk_at dksX4_init_6 16 rfl rfl)
theorem dX4_init_158 : decode cX4_init 158 = .ok (.putfield 68, 3) := dk_181 0 68 (dk_at dksX4_init_6 18 rfl rfl)
theorem dX4_init_161 : decode cX4_init 161 = .ok (.aload_n 0, 1) := dk_42 (dk_at dksX4_init_6 21 rfl rfl)
theorem dX4_init_162 : decode cX4_init 162 = .ok (.bipush 9, 2) := dk_16 9 (dk_at dksX4_init_6 22 rfl rfl)
theorem dX4_init_164 : decode cX4_init 164 = .ok (.newarray .boolean, 2) := dk_188_4 (dk_at dksX4_init_7 0 rfl rfl)
theorem dX4_init_166 : decode cX4_init 166 = .ok (.putfield 71, 3) := dk_181 0 71 (dk_at dksX4_init_7 2 rfl rfl)
theorem dX4_init_169 : decode cX4_init 169 = .ok (.aload_n 0, 1) := dk_42 (dk_at dksX4_init_7 5 rfl rfl)
theorem dX4_init_170 : decode cX4_init 170 = .ok (.sipush 170, 3) := dk_17 0 170 (dk_at dksX4_init_7 6 rfl rfl)
theorem dX4_init_173 : decode cX4_init 173 = .ok (.newarray .int, 2) := dk_188_10 (dk_at dksX4_init_7 9 rfl rfl)
theorem dX4_init_175 : decode cX4_init 175 = .ok (.putfield 75, 3) := dk_181 0 75 (dk_at dksX4_init_7 11 rfl rfl)
theorem dX4_init_178 : decode cX4_init 178 = .ok (.aload_n 0, 1) := dk_42 (dk_at dksX4_init_7 14 rfl rfl)
theorem dX4_init_179 : decode cX4_init 179 = .ok (.sipush 3400, 3) := dk_17 13 72 (dk_at dksX4_init_7 15 rfl rfl)
theorem dX4_init_182 : decode cX4_init 182 = .ok (.newarray .int, 2) := dk_188_10 (dk_at dksX4_init_7 18 rfl rfl)
theorem dX4_init_184 : decode cX4_init 184 = .ok (.putfield 78, 3) := dk_181 0 78 (dk_at dksX4_init_7 20 rfl rfl)
theorem dX4_init_187 : decode cX4_init 187 = .ok (.aload_n 0, 1) := dk_42 (dk_at dksX4_init_7 23 rfl rfl)
theorem dX4_init_188 : decode cX4_init 188 = .ok (.bipush 6, 2) := dk_16 6 (dk_at dksX4_init_8 0 rfl rfl)
theorem dX4_init_190 : decode cX4_init 190 = .ok (.newarray .int, 2) := dk_188_10 (dk_at dksX4_init_8 2 rfl rfl)
theorem dX4_init_192 : decode cX4_init 192 = .ok (.putfield 81, 3) := dk_181 0 81 (dk_at dksX4_init_8 4 rfl rfl)
theorem dX4_init_195 : decode cX4_init 195 = .ok (.aload_n 0, 1) := dk_42 (dk_at dksX4_init_8 7 rfl rfl)
theorem dX4_init_196 : decode cX4_init 196 = .ok (.sipush 950, 3) := dk_17 3 182 (dk_at dksX4_init_8 8 rfl rfl)
theorem dX4_init_199 : decode cX4_init 199 = .ok (.newarray .int, 2) := dk_188_10 (dk_at dksX4_init_8 11 rfl rfl)
theorem dX4_init_201 : decode cX4_init 201 = .ok (.putfield 84, 3) := dk_181 0 84 (dk_at dksX4_init_8 13 rfl rfl)
theorem dX4_init_204 : decode cX4_init 204 = .ok (.aload_n 0, 1) := dk_42 (dk_at dksX4_init_8 16 rfl rfl)
theorem dX4_init_205 : decode cX4_init 205 = .ok (.bipush 64, 2) := dk_16 64 (dk_at dksX4_init_8 17 rfl rfl)
theorem dX4_init_207 : decode cX4_init 207 = .ok (.newarray .int, 2) := dk_188_10 (dk_at dksX4_init_8 19 rfl rfl)
theorem dX4_init_209 : decode cX4_init 209 = .ok (.putfield 87, 3) := dk_181 0 87 (dk_at dksX4_init_8 21 rfl rfl)
theorem dX4_init_212 : decode cX4_init 212 = .ok (.aload_n 0, 1) := dk_42 (dk_at dksX4_init_9 0 rfl rfl)
theorem dX4_init_213 : decode cX4_init 213 = .ok (.bipush 64, 2) := dk_16 64 (dk_at dksX4_init_9 1 rfl rfl)
theorem dX4_init_215 : decode cX4_init 215 = .ok (.newarray .int, 2) := dk_188_10 (dk_at dksX4_init_9 3 rfl rfl)
theorem dX4_init_217 : decode cX4_init 217 = .ok (.putfield 90, 3) := dk_181 0 90 (dk_at dksX4_init_9 5 rfl rfl)
theorem dX4_init_220 : decode cX4_init 220 = .ok (.aload_n 0, 1) := dk_42 (dk_at dksX4_init_9 8 rfl rfl)
theorem dX4_init_221 : decode cX4_init 221 = .ok (.sipush 10240, 3) := dk_17 40 0 (dk_at dksX4_init_9 9 rfl rfl)
theorem dX4_init_224 : decode cX4_init 224 = .ok (.newarray .int, 2) := dk_188_10 (dk_at dksX4_init_9 12 rfl rfl)
theorem dX4_init_226 : decode cX4_init 226 = .ok (.putfield 93, 3) := dk_181 0 93 (dk_at dksX4_init_9 14 rfl rfl)
theorem dX4_init_229 : decode cX4_init 229 = .ok (.aload_n 0, 1) := dk_42 (dk_at dksX4_init_9 17 rfl rfl)
theorem dX4_init_230 : decode cX4_init 230 = .ok (.sipush 240, 3) := dk_17 0 240 (dk_at dksX4_init_9 18 rfl rfl)
theorem dX4_init_233 : decode cX4_init 233 = .ok (.newarray .int, 2) := dk_188_10 (dk_at dksX4_init_9 21 rfl rfl)
theorem dX4_init_235 : decode cX4_init 235 = .ok (.putfield 96, 3) := dk_181 0 96 (dk_at dksX4_init_10 0 rfl rfl)
theorem dX4_init_238 : decode cX4_init 238 = .ok (.aload_n 0, 1) := dk_42 (dk_at dksX4_init_10 3 rfl rfl)
theorem dX4_init_239 : decode cX4_init 239 = .ok (.bipush 24, 2) := dk_16 24 (dk_at dksX4_init_10 4 rfl rfl)
theorem dX4_init_241 : decode cX4_init 241 = .ok (.newarray .int, 2) := dk_188_10 (dk_at dksX4_init_10 6 rfl rfl)
theorem dX4_init_243 : decode cX4_init 243 = .ok (.putfield 99, 3) := dk_181 0 99 (dk_at dksX4_init_10 8 rfl rfl)
theorem dX4_init_246 : decode cX4_init 246 = .ok (.aload_n 0, 1) := dk_42 (dk_at dksX4_init_10 11 rfl rfl)
theorem dX4_init_247 : decode cX4_init 247 = .ok (.sipush 248, 3) := dk_17 0 248 (dk_at dksX4_init_10 12 rfl rfl)
theorem dX4_init_250 : decode cX4_init 250 = .ok (.newarray .int, 2) := dk_188_10 (dk_at dksX4_init_10 15 rfl rfl)
theorem dX4_init_252 : decode cX4_init 252 = .ok (.putfield 102, 3) := dk_181 0 102 (dk_at dksX4_init_10 17 rfl rfl)
theorem dX4_init_255 : decode cX4_init 255 = .ok (.aload_n 0, 1) := dk_42 (dk_at dksX4_init_10 20 rfl rfl)
theorem dX4_init_256 : decode cX4_init 256 = .ok (.sipush 24800, 3) := dk_17 96 224 (dk_at dksX4_init_10 21 rfl rfl)
theorem dX4_init_259 : decode cX4_init 259 = .ok (.newarray .int, 2) := dk_188_10 (dk_at dksX4_init_11 0 rfl rfl)
theorem dX4_init_261 : decode cX4_init 261 = .ok (.putfield 105, 3) := dk_181 0 105 (dk_at dksX4_init_11 2 rfl rfl)
theorem dX4_init_264 : decode cX4_init 264 = .ok (.aload_n 0, 1) := dk_42 (dk_at dksX4_init_11 5 rfl rfl)
theorem dX4_init_265 : decode cX4_init 265 = .ok (.bipush 85, 2) := dk_16 85 (dk_at dksX4_init_11 6 rfl rfl)
theorem dX4_init_267 : decode cX4_init 267 = .ok (.newarray .int, 2) := dk_188_10 (dk_at dksX4_init_11 8 rfl rfl)
theorem dX4_init_269 : decode cX4_init 269 = .ok (.putfield 108, 3) := dk_181 0 108 (dk_at dksX4_init_11 10 rfl rfl)
theorem dX4_init_272 : decode cX4_init 272 = .ok (.aload_n 0, 1) := dk_42 (dk_at dksX4_init_11 13 rfl rfl)
theorem dX4_init_273 : decode cX4_init 273 = .ok (.sipush 3400, 3) := dk_17 13 72 (dk_at dksX4_init_11 14 rfl rfl)
theorem dX4_init_276 : decode cX4_init 276 = .ok (.newarray .int, 2) := dk_188_10 (dk_at dksX4_init_11 17 rfl rfl)
theorem dX4_init_278 : decode cX4_init 278 = .ok (.putfield 111, 3) := dk_181 0 111 (dk_at dksX4_init_11 19 rfl rfl)
theorem dX4_init_281 : decode cX4_init 281 = .ok (.aload_n 0, 1) := dk_42 (dk_at dksX4_init_11 22 rfl rfl)
theorem dX4_init_282 : decode cX4_init 282 = .ok (.bipush 24, 2) := dk_16 24 (dk_at dksX4_init_12 0 rfl rfl)
theorem dX4_init_284 : decode cX4_init 284 = .ok (.newarray .int, 2) := dk_188_10 (dk_at dksX4_init_12 2 rfl rfl)
theorem dX4_init_286 : decode cX4_init 286 = .ok (.putfield 114, 3) := dk_181 0 114 (dk_at dksX4_init_12 4 rfl rfl)
theorem dX4_init_289 : decode cX4_init 289 = .ok (.return_, 1) := dk_177 (dk_at dksX4_init_12 7 rfl rfl)
abbrev cX4_thrown : ByteArray := prog_13_method_2_code
def yX4_thrown : MethodName := ⟨RX4, "thrown", "()I"⟩
theorem dX4_thrown_0 : decode cX4_thrown 0 = .ok (.aload_n 0, 1) := by decide +kernel
theorem dX4_thrown_1 : decode cX4_thrown 1 = .ok (.getfield 117, 3) := by decide +kernel
theorem dX4_thrown_4 : decode cX4_thrown 4 = .ok (.ireturn, 1) := by decide +kernel
abbrev cX4_feed : ByteArray := prog_13_method_9_code
def yX4_feed : MethodName := ⟨RX4, "feed", "(IIIII)I"⟩
def dkwX4_feed_2 : List UInt8 := [182, 0, 123, 42, 180, 0, 120, 172]
abbrev dktX4_feed_2 : List UInt8 := dkwX4_feed_2 ++ []
def dkwX4_feed_1 : List UInt8 := [182, 0, 123, 42, 28, 182, 0, 123, 42, 29, 182, 0, 123, 42, 21, 4, 182, 0, 123, 42, 21, 5]
abbrev dktX4_feed_1 : List UInt8 := dkwX4_feed_1 ++ dktX4_feed_2
def dkwX4_feed_0 : List UInt8 := [42, 3, 181, 0, 117, 42, 180, 0, 120, 16, 20, 96, 17, 2, 188, 164, 0, 5, 2, 172, 42, 27]
abbrev dktX4_feed_0 : List UInt8 := dkwX4_feed_0 ++ dktX4_feed_1
theorem dksX4_feed_0 : cX4_feed.data.toList.drop 0 = dktX4_feed_0 := by decide +kernel
theorem dksX4_feed_1 : cX4_feed.data.toList.drop 22 = dktX4_feed_1 := dk_seg dksX4_feed_0 22 rfl rfl
theorem dksX4_feed_2 : cX4_feed.data.toList.drop 44 = dktX4_feed_2 := dk_seg dksX4_feed_1 22 rfl rfl
theorem dX4_feed_0 : decode cX4_feed 0 = .ok (.aload_n 0, 1) := dk_42 (dk_at dksX4_feed_0 0 rfl rfl)
theorem dX4_feed_1 : decode cX4_feed 1 = .ok (.iconst 0, 1) := dk_3 (dk_at dksX4_feed_0 1 rfl rfl)
theorem dX4_feed_2 : decode cX4_feed 2 = .ok (.putfield 117, 3) := dk_181 0 117 (dk_at dksX4_feed_0 2 rfl rfl)
theorem dX4_feed_5 : decode cX4_feed 5 = .ok (.aload_n 0, 1) := dk_42 (dk_at dksX4_feed_0 5 rfl rfl)
theorem dX4_feed_6 : decode cX4_feed 6 = .ok (.getfield 120, 3) := dk_180 0 120 (dk_at dksX4_feed_0 6 rfl rfl)
theorem dX4_feed_9 : decode cX4_feed 9 = .ok (.bipush 20, 2) := dk_16 20 (dk_at dksX4_feed_0 9 rfl rfl)
theorem dX4_feed_11 : decode cX4_feed 11 = .ok (.iadd, 1) := dk_96 (dk_at dksX4_feed_0 11 rfl rfl)
theorem dX4_feed_12 : decode cX4_feed 12 = .ok (.sipush 700, 3) := dk_17 2 188 (dk_at dksX4_feed_0 12 rfl rfl)
theorem dX4_feed_15 : decode cX4_feed 15 = .ok (.if_icmp .le 5, 3) := dk_164 0 5 (dk_at dksX4_feed_0 15 rfl rfl)
theorem dX4_feed_18 : decode cX4_feed 18 = .ok (.iconst (-1), 1) := dk_2 (dk_at dksX4_feed_0 18 rfl rfl)
theorem dX4_feed_19 : decode cX4_feed 19 = .ok (.ireturn, 1) := dk_172 (dk_at dksX4_feed_0 19 rfl rfl)
theorem dX4_feed_20 : decode cX4_feed 20 = .ok (.aload_n 0, 1) := dk_42 (dk_at dksX4_feed_0 20 rfl rfl)
theorem dX4_feed_21 : decode cX4_feed 21 = .ok (.iload_n 1, 1) := dk_27 (dk_at dksX4_feed_0 21 rfl rfl)
theorem dX4_feed_22 : decode cX4_feed 22 = .ok (.invokevirtual 123, 3) := dk_182 0 123 (dk_at dksX4_feed_1 0 rfl rfl)
theorem dX4_feed_25 : decode cX4_feed 25 = .ok (.aload_n 0, 1) := dk_42 (dk_at dksX4_feed_1 3 rfl rfl)
theorem dX4_feed_26 : decode cX4_feed 26 = .ok (.iload_n 2, 1) := dk_28 (dk_at dksX4_feed_1 4 rfl rfl)
theorem dX4_feed_27 : decode cX4_feed 27 = .ok (.invokevirtual 123, 3) := dk_182 0 123 (dk_at dksX4_feed_1 5 rfl rfl)
theorem dX4_feed_30 : decode cX4_feed 30 = .ok (.aload_n 0, 1) := dk_42 (dk_at dksX4_feed_1 8 rfl rfl)
theorem dX4_feed_31 : decode cX4_feed 31 = .ok (.iload_n 3, 1) := dk_29 (dk_at dksX4_feed_1 9 rfl rfl)
theorem dX4_feed_32 : decode cX4_feed 32 = .ok (.invokevirtual 123, 3) := dk_182 0 123 (dk_at dksX4_feed_1 10 rfl rfl)
theorem dX4_feed_35 : decode cX4_feed 35 = .ok (.aload_n 0, 1) := dk_42 (dk_at dksX4_feed_1 13 rfl rfl)
theorem dX4_feed_36 : decode cX4_feed 36 = .ok (.iload 4, 2) := dk_21 4 (dk_at dksX4_feed_1 14 rfl rfl)
theorem dX4_feed_38 : decode cX4_feed 38 = .ok (.invokevirtual 123, 3) := dk_182 0 123 (dk_at dksX4_feed_1 16 rfl rfl)
theorem dX4_feed_41 : decode cX4_feed 41 = .ok (.aload_n 0, 1) := dk_42 (dk_at dksX4_feed_1 19 rfl rfl)
theorem dX4_feed_42 : decode cX4_feed 42 = .ok (.iload 5, 2) := dk_21 5 (dk_at dksX4_feed_1 20 rfl rfl)
theorem dX4_feed_44 : decode cX4_feed 44 = .ok (.invokevirtual 123, 3) := dk_182 0 123 (dk_at dksX4_feed_2 0 rfl rfl)
theorem dX4_feed_47 : decode cX4_feed 47 = .ok (.aload_n 0, 1) := dk_42 (dk_at dksX4_feed_2 3 rfl rfl)
theorem dX4_feed_48 : decode cX4_feed 48 = .ok (.getfield 120, 3) := dk_180 0 120 (dk_at dksX4_feed_2 4 rfl rfl)
theorem dX4_feed_51 : decode cX4_feed 51 = .ok (.ireturn, 1) := dk_172 (dk_at dksX4_feed_2 7 rfl rfl)
abbrev cX4_lays : ByteArray := prog_13_method_10_code
def yX4_lays : MethodName := ⟨RX4, "lays", "(I)V"⟩
def dkwX4_lays_1 : List UInt8 := [89, 180, 0, 120, 4, 96, 181, 0, 120, 132, 2, 248, 167, 255, 223, 177]
abbrev dktX4_lays_1 : List UInt8 := dkwX4_lays_1 ++ []
def dkwX4_lays_0 : List UInt8 := [16, 24, 61, 28, 155, 0, 35, 42, 180, 0, 35, 42, 180, 0, 120, 27, 28, 122, 17, 0, 255, 126, 79, 42]
abbrev dktX4_lays_0 : List UInt8 := dkwX4_lays_0 ++ dktX4_lays_1
theorem dksX4_lays_0 : cX4_lays.data.toList.drop 0 = dktX4_lays_0 := by decide +kernel
theorem dksX4_lays_1 : cX4_lays.data.toList.drop 24 = dktX4_lays_1 := dk_seg dksX4_lays_0 24 rfl rfl
theorem dX4_lays_0 : decode cX4_lays 0 = .ok (.bipush 24, 2) := dk_16 24 (dk_at dksX4_lays_0 0 rfl rfl)
theorem dX4_lays_2 : decode cX4_lays 2 = .ok (.istore_n 2, 1) := dk_61 (dk_at dksX4_lays_0 2 rfl rfl)
theorem dX4_lays_3 : decode cX4_lays 3 = .ok (.iload_n 2, 1) := dk_28 (dk_at dksX4_lays_0 3 rfl rfl)
theorem dX4_lays_4 : decode cX4_lays 4 = .ok (.ifCond .lt 35, 3) := dk_155 0 35 (dk_at dksX4_lays_0 4 rfl rfl)
theorem dX4_lays_7 : decode cX4_lays 7 = .ok (.aload_n 0, 1) := dk_42 (dk_at dksX4_lays_0 7 rfl rfl)
theorem dX4_lays_8 : decode cX4_lays 8 = .ok (.getfield 35, 3) := dk_180 0 35 (dk_at dksX4_lays_0 8 rfl rfl)
theorem dX4_lays_11 : decode cX4_lays 11 = .ok (.aload_n 0, 1) := dk_42 (dk_at dksX4_lays_0 11 rfl rfl)
theorem dX4_lays_12 : decode cX4_lays 12 = .ok (.getfield 120, 3) := dk_180 0 120 (dk_at dksX4_lays_0 12 rfl rfl)
theorem dX4_lays_15 : decode cX4_lays 15 = .ok (.iload_n 1, 1) := dk_27 (dk_at dksX4_lays_0 15 rfl rfl)
theorem dX4_lays_16 : decode cX4_lays 16 = .ok (.iload_n 2, 1) := dk_28 (dk_at dksX4_lays_0 16 rfl rfl)
theorem dX4_lays_17 : decode cX4_lays 17 = .ok (.ishr, 1) := dk_122 (dk_at dksX4_lays_0 17 rfl rfl)
theorem dX4_lays_18 : decode cX4_lays 18 = .ok (.sipush 255, 3) := dk_17 0 255 (dk_at dksX4_lays_0 18 rfl rfl)
theorem dX4_lays_21 : decode cX4_lays 21 = .ok (.iand, 1) := dk_126 (dk_at dksX4_lays_0 21 rfl rfl)
theorem dX4_lays_22 : decode cX4_lays 22 = .ok (.iastore, 1) := dk_79 (dk_at dksX4_lays_0 22 rfl rfl)
theorem dX4_lays_23 : decode cX4_lays 23 = .ok (.aload_n 0, 1) := dk_42 (dk_at dksX4_lays_0 23 rfl rfl)
theorem dX4_lays_24 : decode cX4_lays 24 = .ok (.dup, 1) := dk_89 (dk_at dksX4_lays_1 0 rfl rfl)
theorem dX4_lays_25 : decode cX4_lays 25 = .ok (.getfield 120, 3) := dk_180 0 120 (dk_at dksX4_lays_1 1 rfl rfl)
theorem dX4_lays_28 : decode cX4_lays 28 = .ok (.iconst 1, 1) := dk_4 (dk_at dksX4_lays_1 4 rfl rfl)
theorem dX4_lays_29 : decode cX4_lays 29 = .ok (.iadd, 1) := dk_96 (dk_at dksX4_lays_1 5 rfl rfl)
theorem dX4_lays_30 : decode cX4_lays 30 = .ok (.putfield 120, 3) := dk_181 0 120 (dk_at dksX4_lays_1 6 rfl rfl)
theorem dX4_lays_33 : decode cX4_lays 33 = .ok (.iinc 2 (-8), 3) := dk_132 2 248 (dk_at dksX4_lays_1 9 rfl rfl)
theorem dX4_lays_36 : decode cX4_lays 36 = .ok (.goto (-33), 3) := dk_167 255 223 (dk_at dksX4_lays_1 12 rfl rfl)
theorem dX4_lays_39 : decode cX4_lays 39 = .ok (.return_, 1) := dk_177 (dk_at dksX4_lays_1 15 rfl rfl)
abbrev cX4_province : ByteArray := prog_13_method_41_code
def yX4_province : MethodName := ⟨RX4, "province", "(I)I"⟩
def dkwX4_province_12 : List UInt8 := [181, 1, 41, 42, 3, 181, 1, 44, 3, 172]
abbrev dktX4_province_12 : List UInt8 := dkwX4_province_12 ++ []
def dkwX4_province_11 : List UInt8 := [180, 0, 75, 28, 42, 180, 0, 62, 28, 46, 79, 132, 2, 1, 167, 255, 235, 42, 3, 181, 1, 38, 42, 3]
abbrev dktX4_province_11 : List UInt8 := dkwX4_province_11 ++ dktX4_province_12
def dkwX4_province_10 : List UInt8 := [182, 1, 34, 42, 42, 180, 0, 65, 42, 180, 0, 32, 182, 1, 34, 3, 61, 28, 16, 85, 162, 0, 21, 42]
abbrev dktX4_province_10 : List UInt8 := dkwX4_province_10 ++ dktX4_province_11
def dkwX4_province_9 : List UInt8 := [182, 1, 34, 42, 42, 180, 0, 56, 42, 180, 0, 26, 182, 1, 34, 42, 42, 180, 0, 59, 42, 180, 0, 29]
abbrev dktX4_province_9 : List UInt8 := dkwX4_province_9 ++ dktX4_province_10
def dkwX4_province_8 : List UInt8 := [182, 1, 34, 42, 42, 180, 0, 50, 42, 180, 0, 20, 182, 1, 34, 42, 42, 180, 0, 53, 42, 180, 0, 23]
abbrev dktX4_province_8 : List UInt8 := dkwX4_province_8 ++ dktX4_province_9
def dkwX4_province_7 : List UInt8 := [181, 0, 9, 42, 42, 180, 0, 44, 42, 180, 0, 13, 182, 1, 34, 42, 42, 180, 0, 47, 42, 180, 0, 17]
abbrev dktX4_province_7 : List UInt8 := dkwX4_province_7 ++ dktX4_province_8
def dkwX4_province_6 : List UInt8 := [181, 1, 25, 42, 42, 180, 0, 243, 181, 1, 28, 42, 42, 180, 0, 253, 181, 1, 31, 42, 42, 180, 1, 9]
abbrev dktX4_province_6 : List UInt8 := dkwX4_province_6 ++ dktX4_province_7
def dkwX4_province_5 : List UInt8 := [154, 0, 18, 42, 180, 0, 41, 3, 92, 46, 4, 96, 79, 42, 180, 0, 173, 172, 42, 42, 180, 0, 236]
abbrev dktX4_province_5 : List UInt8 := dkwX4_province_5 ++ dktX4_province_6
def dkwX4_province_4 : List UInt8 := [182, 0, 176, 153, 0, 17, 42, 180, 0, 150, 153, 0, 10, 42, 182, 1, 22, 167, 255, 238, 42, 182, 0, 176]
abbrev dktX4_province_4 : List UInt8 := dkwX4_province_4 ++ dktX4_province_5
def dkwX4_province_3 : List UInt8 := [42, 2, 181, 1, 9, 42, 180, 0, 62, 3, 3, 79, 42, 3, 181, 0, 189, 42, 182, 0, 180, 42]
abbrev dktX4_province_3 : List UInt8 := dkwX4_province_3 ++ dktX4_province_4
def dkwX4_province_2 : List UInt8 := [27, 181, 0, 127, 42, 3, 181, 0, 130, 42, 3, 181, 0, 236, 42, 3, 181, 0, 243, 42, 3, 181, 0, 253]
abbrev dktX4_province_2 : List UInt8 := dkwX4_province_2 ++ dktX4_province_3
def dkwX4_province_1 : List UInt8 := [182, 1, 18, 154, 0, 5, 3, 172, 42, 3, 181, 0, 120, 42, 2, 181, 0, 38, 42, 3, 181, 0, 173, 42]
abbrev dktX4_province_1 : List UInt8 := dkwX4_province_1 ++ dktX4_province_2
def dkwX4_province_0 : List UInt8 := [42, 3, 181, 0, 117, 42, 27, 155, 0, 15, 27, 42, 180, 0, 120, 163, 0, 7, 4, 167, 0, 4, 3, 4]
abbrev dktX4_province_0 : List UInt8 := dkwX4_province_0 ++ dktX4_province_1
theorem dksX4_province_0 : cX4_province.data.toList.drop 0 = dktX4_province_0 := by decide +kernel
theorem dksX4_province_1 : cX4_province.data.toList.drop 24 = dktX4_province_1 := dk_seg dksX4_province_0 24 rfl rfl
theorem dksX4_province_2 : cX4_province.data.toList.drop 48 = dktX4_province_2 := dk_seg dksX4_province_1 24 rfl rfl
theorem dksX4_province_3 : cX4_province.data.toList.drop 72 = dktX4_province_3 := dk_seg dksX4_province_2 24 rfl rfl
theorem dksX4_province_4 : cX4_province.data.toList.drop 94 = dktX4_province_4 := dk_seg dksX4_province_3 22 rfl rfl
theorem dksX4_province_5 : cX4_province.data.toList.drop 118 = dktX4_province_5 := dk_seg dksX4_province_4 24 rfl rfl
theorem dksX4_province_6 : cX4_province.data.toList.drop 141 = dktX4_province_6 := dk_seg dksX4_province_5 23 rfl rfl
theorem dksX4_province_7 : cX4_province.data.toList.drop 165 = dktX4_province_7 := dk_seg dksX4_province_6 24 rfl rfl
theorem dksX4_province_8 : cX4_province.data.toList.drop 189 = dktX4_province_8 := dk_seg dksX4_province_7 24 rfl rfl
theorem dksX4_province_9 : cX4_province.data.toList.drop 213 = dktX4_province_9 := dk_seg dksX4_province_8 24 rfl rfl
theorem dksX4_province_10 : cX4_province.data.toList.drop 237 = dktX4_province_10 := dk_seg dksX4_province_9 24 rfl rfl
theorem dksX4_province_11 : cX4_province.data.toList.drop 261 = dktX4_province_11 := dk_seg dksX4_province_10 24 rfl rfl
theorem dksX4_province_12 : cX4_province.data.toList.drop 285 = dktX4_province_12 := dk_seg dksX4_province_11 24 rfl rfl
theorem dX4_province_0 : decode cX4_province 0 = .ok (.aload_n 0, 1) := dk_42 (dk_at dksX4_province_0 0 rfl rfl)
theorem dX4_province_1 : decode cX4_province 1 = .ok (.iconst 0, 1) := dk_3 (dk_at dksX4_province_0 1 rfl rfl)
theorem dX4_province_2 : decode cX4_province 2 = .ok (.putfield 117, 3) := dk_181 0 117 (dk_at dksX4_province_0 2 rfl rfl)
theorem dX4_province_5 : decode cX4_province 5 = .ok (.aload_n 0, 1) := dk_42 (dk_at dksX4_province_0 5 rfl rfl)
theorem dX4_province_6 : decode cX4_province 6 = .ok (.iload_n 1, 1) := dk_27 (dk_at dksX4_province_0 6 rfl rfl)
theorem dX4_province_7 : decode cX4_province 7 = .ok (.ifCond .lt 15, 3) := dk_155 0 15 (dk_at dksX4_province_0 7 rfl rfl)
theorem dX4_province_10 : decode cX4_province 10 = .ok (.iload_n 1, 1) := dk_27 (dk_at dksX4_province_0 10 rfl rfl)
theorem dX4_province_11 : decode cX4_province 11 = .ok (.aload_n 0, 1) := dk_42 (dk_at dksX4_province_0 11 rfl rfl)
theorem dX4_province_12 : decode cX4_province 12 = .ok (.getfield 120, 3) := dk_180 0 120 (dk_at dksX4_province_0 12 rfl rfl)
theorem dX4_province_15 : decode cX4_province 15 = .ok (.if_icmp .gt 7, 3) := dk_163 0 7 (dk_at dksX4_province_0 15 rfl rfl)
theorem dX4_province_18 : decode cX4_province 18 = .ok (.iconst 1, 1) := dk_4 (dk_at dksX4_province_0 18 rfl rfl)
theorem dX4_province_19 : decode cX4_province 19 = .ok (.goto 4, 3) := dk_167 0 4 (dk_at dksX4_province_0 19 rfl rfl)
theorem dX4_province_22 : decode cX4_province 22 = .ok (.iconst 0, 1) := dk_3 (dk_at dksX4_province_0 22 rfl rfl)
theorem dX4_province_23 : decode cX4_province 23 = .ok (.iconst 1, 1) := dk_4 (dk_at dksX4_province_0 23 rfl rfl)
theorem dX4_province_24 : decode cX4_province 24 = .ok (.invokevirtual 274, 3) := dk_182 1 18 (dk_at dksX4_province_1 0 rfl rfl)
theorem dX4_province_27 : decode cX4_province 27 = .ok (.ifCond .ne 5, 3) := dk_154 0 5 (dk_at dksX4_province_1 3 rfl rfl)
theorem dX4_province_30 : decode cX4_province 30 = .ok (.iconst 0, 1) := dk_3 (dk_at dksX4_province_1 6 rfl rfl)
theorem dX4_province_31 : decode cX4_province 31 = .ok (.ireturn, 1) := dk_172 (dk_at dksX4_province_1 7 rfl rfl)
theorem dX4_province_32 : decode cX4_province 32 = .ok (.aload_n 0, 1) := dk_42 (dk_at dksX4_province_1 8 rfl rfl)
theorem dX4_province_33 : decode cX4_province 33 = .ok (.iconst 0, 1) := dk_3 (dk_at dksX4_province_1 9 rfl rfl)
theorem dX4_province_34 : decode cX4_province 34 = .ok (.putfield 120, 3) := dk_181 0 120 (dk_at dksX4_province_1 10 rfl rfl)
theorem dX4_province_37 : decode cX4_province 37 = .ok (.aload_n 0, 1) := dk_42 (dk_at dksX4_province_1 13 rfl rfl)
theorem dX4_province_38 : decode cX4_province 38 = .ok (.iconst (-1), 1) := dk_2 (dk_at dksX4_province_1 14 rfl rfl)
theorem dX4_province_39 : decode cX4_province 39 = .ok (.putfield 38, 3) := dk_181 0 38 (dk_at dksX4_province_1 15 rfl rfl)
theorem dX4_province_42 : decode cX4_province 42 = .ok (.aload_n 0, 1) := dk_42 (dk_at dksX4_province_1 18 rfl rfl)
theorem dX4_province_43 : decode cX4_province 43 = .ok (.iconst 0, 1) := dk_3 (dk_at dksX4_province_1 19 rfl rfl)
theorem dX4_province_44 : decode cX4_province 44 = .ok (.putfield 173, 3) := dk_181 0 173 (dk_at dksX4_province_1 20 rfl rfl)
theorem dX4_province_47 : decode cX4_province 47 = .ok (.aload_n 0, 1) := dk_42 (dk_at dksX4_province_1 23 rfl rfl)
theorem dX4_province_48 : decode cX4_province 48 = .ok (.iload_n 1, 1) := dk_27 (dk_at dksX4_province_2 0 rfl rfl)
theorem dX4_province_49 : decode cX4_province 49 = .ok (.putfield 127, 3) := dk_181 0 127 (dk_at dksX4_province_2 1 rfl rfl)
theorem dX4_province_52 : decode cX4_province 52 = .ok (.aload_n 0, 1) := dk_42 (dk_at dksX4_province_2 4 rfl rfl)
theorem dX4_province_53 : decode cX4_province 53 = .ok (.iconst 0, 1) := dk_3 (dk_at dksX4_province_2 5 rfl rfl)
theorem dX4_province_54 : decode cX4_province 54 = .ok (.putfield 130, 3) := dk_181 0 130 (dk_at dksX4_province_2 6 rfl rfl)
theorem dX4_province_57 : decode cX4_province 57 = .ok (.aload_n 0, 1) := dk_42 (dk_at dksX4_province_2 9 rfl rfl)
theorem dX4_province_58 : decode cX4_province 58 = .ok (.iconst 0, 1) := dk_3 (dk_at dksX4_province_2 10 rfl rfl)
theorem dX4_province_59 : decode cX4_province 59 = .ok (.putfield 236, 3) := dk_181 0 236 (dk_at dksX4_province_2 11 rfl rfl)
theorem dX4_province_62 : decode cX4_province 62 = .ok (.aload_n 0, 1) := dk_42 (dk_at dksX4_province_2 14 rfl rfl)
theorem dX4_province_63 : decode cX4_province 63 = .ok (.iconst 0, 1) := dk_3 (dk_at dksX4_province_2 15 rfl rfl)
theorem dX4_province_64 : decode cX4_province 64 = .ok (.putfield 243, 3) := dk_181 0 243 (dk_at dksX4_province_2 16 rfl rfl)
theorem dX4_province_67 : decode cX4_province 67 = .ok (.aload_n 0, 1) := dk_42 (dk_at dksX4_province_2 19 rfl rfl)
theorem dX4_province_68 : decode cX4_province 68 = .ok (.iconst 0, 1) := dk_3 (dk_at dksX4_province_2 20 rfl rfl)
theorem dX4_province_69 : decode cX4_province 69 = .ok (.putfield 253, 3) := dk_181 0 253 (dk_at dksX4_province_2 21 rfl rfl)
theorem dX4_province_72 : decode cX4_province 72 = .ok (.aload_n 0, 1) := dk_42 (dk_at dksX4_province_3 0 rfl rfl)
theorem dX4_province_73 : decode cX4_province 73 = .ok (.iconst (-1), 1) := dk_2 (dk_at dksX4_province_3 1 rfl rfl)
theorem dX4_province_74 : decode cX4_province 74 = .ok (.putfield 265, 3) := dk_181 1 9 (dk_at dksX4_province_3 2 rfl rfl)
theorem dX4_province_77 : decode cX4_province 77 = .ok (.aload_n 0, 1) := dk_42 (dk_at dksX4_province_3 5 rfl rfl)
theorem dX4_province_78 : decode cX4_province 78 = .ok (.getfield 62, 3) := dk_180 0 62 (dk_at dksX4_province_3 6 rfl rfl)
theorem dX4_province_81 : decode cX4_province 81 = .ok (.iconst 0, 1) := dk_3 (dk_at dksX4_province_3 9 rfl rfl)
theorem dX4_province_82 : decode cX4_province 82 = .ok (.iconst 0, 1) := dk_3 (dk_at dksX4_province_3 10 rfl rfl)
theorem dX4_province_83 : decode cX4_province 83 = .ok (.iastore, 1) := dk_79 (dk_at dksX4_province_3 11 rfl rfl)
theorem dX4_province_84 : decode cX4_province 84 = .ok (.aload_n 0, 1) := dk_42 (dk_at dksX4_province_3 12 rfl rfl)
theorem dX4_province_85 : decode cX4_province 85 = .ok (.iconst 0, 1) := dk_3 (dk_at dksX4_province_3 13 rfl rfl)
theorem dX4_province_86 : decode cX4_province 86 = .ok (.putfield 189, 3) := dk_181 0 189 (dk_at dksX4_province_3 14 rfl rfl)
theorem dX4_province_89 : decode cX4_province 89 = .ok (.aload_n 0, 1) := dk_42 (dk_at dksX4_province_3 17 rfl rfl)
theorem dX4_province_90 : decode cX4_province 90 = .ok (.invokevirtual 180, 3) := dk_182 0 180 (dk_at dksX4_province_3 18 rfl rfl)
theorem dX4_province_93 : decode cX4_province 93 = .ok (.aload_n 0, 1) := dk_42 (dk_at dksX4_province_3 21 rfl rfl)
theorem dX4_province_94 : decode cX4_province 94 = .ok (.invokevirtual 176, 3) := dk_182 0 176 (dk_at dksX4_province_4 0 rfl rfl)
theorem dX4_province_97 : decode cX4_province 97 = .ok (.ifCond .eq 17, 3) := dk_153 0 17 (dk_at dksX4_province_4 3 rfl rfl)
theorem dX4_province_100 : decode cX4_province 100 = .ok (.aload_n 0, 1) := dk_42 (dk_at dksX4_province_4 6 rfl rfl)
theorem dX4_province_101 : decode cX4_province 101 = .ok (.getfield 150, 3) := dk_180 0 150 (dk_at dksX4_province_4 7 rfl rfl)
theorem dX4_province_104 : decode cX4_province 104 = .ok (.ifCond .eq 10, 3) := dk_153 0 10 (dk_at dksX4_province_4 10 rfl rfl)
theorem dX4_province_107 : decode cX4_province 107 = .ok (.aload_n 0, 1) := dk_42 (dk_at dksX4_province_4 13 rfl rfl)
theorem dX4_province_108 : decode cX4_province 108 = .ok (.invokevirtual 278, 3) := dk_182 1 22 (dk_at dksX4_province_4 14 rfl rfl)
theorem dX4_province_111 : decode cX4_province 111 = .ok (.goto (-18), 3) := dk_167 255 238 (dk_at dksX4_province_4 17 rfl rfl)
theorem dX4_province_114 : decode cX4_province 114 = .ok (.aload_n 0, 1) := dk_42 (dk_at dksX4_province_4 20 rfl rfl)
theorem dX4_province_115 : decode cX4_province 115 = .ok (.invokevirtual 176, 3) := dk_182 0 176 (dk_at dksX4_province_4 21 rfl rfl)
theorem dX4_province_118 : decode cX4_province 118 = .ok (.ifCond .ne 18, 3) := dk_154 0 18 (dk_at dksX4_province_5 0 rfl rfl)
theorem dX4_province_121 : decode cX4_province 121 = .ok (.aload_n 0, 1) := dk_42 (dk_at dksX4_province_5 3 rfl rfl)
theorem dX4_province_122 : decode cX4_province 122 = .ok (.getfield 41, 3) := dk_180 0 41 (dk_at dksX4_province_5 4 rfl rfl)
theorem dX4_province_125 : decode cX4_province 125 = .ok (.iconst 0, 1) := dk_3 (dk_at dksX4_province_5 7 rfl rfl)
theorem dX4_province_126 : decode cX4_province 126 = .ok (.dup2, 1) := dk_92 (dk_at dksX4_province_5 8 rfl rfl)
theorem dX4_province_127 : decode cX4_province 127 = .ok (.iaload, 1) := dk_46 (dk_at dksX4_province_5 9 rfl rfl)
theorem dX4_province_128 : decode cX4_province 128 = .ok (.iconst 1, 1) := dk_4 (dk_at dksX4_province_5 10 rfl rfl)
theorem dX4_province_129 : decode cX4_province 129 = .ok (.iadd, 1) := dk_96 (dk_at dksX4_province_5 11 rfl rfl)
theorem dX4_province_130 : decode cX4_province 130 = .ok (.iastore, 1) := dk_79 (dk_at dksX4_province_5 12 rfl rfl)
theorem dX4_province_131 : decode cX4_province 131 = .ok (.aload_n 0, 1) := dk_42 (dk_at dksX4_province_5 13 rfl rfl)
theorem dX4_province_132 : decode cX4_province 132 = .ok (.getfield 173, 3) := dk_180 0 173 (dk_at dksX4_province_5 14 rfl rfl)
theorem dX4_province_135 : decode cX4_province 135 = .ok (.ireturn, 1) := dk_172 (dk_at dksX4_province_5 17 rfl rfl)
theorem dX4_province_136 : decode cX4_province 136 = .ok (.aload_n 0, 1) := dk_42 (dk_at dksX4_province_5 18 rfl rfl)
theorem dX4_province_137 : decode cX4_province 137 = .ok (.aload_n 0, 1) := dk_42 (dk_at dksX4_province_5 19 rfl rfl)
theorem dX4_province_138 : decode cX4_province 138 = .ok (.getfield 236, 3) := dk_180 0 236 (dk_at dksX4_province_5 20 rfl rfl)
theorem dX4_province_141 : decode cX4_province 141 = .ok (.putfield 281, 3) := dk_181 1 25 (dk_at dksX4_province_6 0 rfl rfl)
theorem dX4_province_144 : decode cX4_province 144 = .ok (.aload_n 0, 1) := dk_42 (dk_at dksX4_province_6 3 rfl rfl)
theorem dX4_province_145 : decode cX4_province 145 = .ok (.aload_n 0, 1) := dk_42 (dk_at dksX4_province_6 4 rfl rfl)
theorem dX4_province_146 : decode cX4_province 146 = .ok (.getfield 243, 3) := dk_180 0 243 (dk_at dksX4_province_6 5 rfl rfl)
theorem dX4_province_149 : decode cX4_province 149 = .ok (.putfield 284, 3) := dk_181 1 28 (dk_at dksX4_province_6 8 rfl rfl)
theorem dX4_province_152 : decode cX4_province 152 = .ok (.aload_n 0, 1) := dk_42 (dk_at dksX4_province_6 11 rfl rfl)
theorem dX4_province_153 : decode cX4_province 153 = .ok (.aload_n 0, 1) := dk_42 (dk_at dksX4_province_6 12 rfl rfl)
theorem dX4_province_154 : decode cX4_province 154 = .ok (.getfield 253, 3) := dk_180 0 253 (dk_at dksX4_province_6 13 rfl rfl)
theorem dX4_province_157 : decode cX4_province 157 = .ok (.putfield 287, 3) := dk_181 1 31 (dk_at dksX4_province_6 16 rfl rfl)
theorem dX4_province_160 : decode cX4_province 160 = .ok (.aload_n 0, 1) := dk_42 (dk_at dksX4_province_6 19 rfl rfl)
theorem dX4_province_161 : decode cX4_province 161 = .ok (.aload_n 0, 1) := dk_42 (dk_at dksX4_province_6 20 rfl rfl)
theorem dX4_province_162 : decode cX4_province 162 = .ok (.getfield 265, 3) := dk_180 1 9 (dk_at dksX4_province_6 21 rfl rfl)
theorem dX4_province_165 : decode cX4_province 165 = .ok (.putfield 9, 3) := dk_181 0 9 (dk_at dksX4_province_7 0 rfl rfl)
theorem dX4_province_168 : decode cX4_province 168 = .ok (.aload_n 0, 1) := dk_42 (dk_at dksX4_province_7 3 rfl rfl)
theorem dX4_province_169 : decode cX4_province 169 = .ok (.aload_n 0, 1) := dk_42 (dk_at dksX4_province_7 4 rfl rfl)
theorem dX4_province_170 : decode cX4_province 170 = .ok (.getfield 44, 3) := dk_180 0 44 (dk_at dksX4_province_7 5 rfl rfl)
theorem dX4_province_173 : decode cX4_province 173 = .ok (.aload_n 0, 1) := dk_42 (dk_at dksX4_province_7 8 rfl rfl)
theorem dX4_province_174 : decode cX4_province 174 = .ok (.getfield 13, 3) := dk_180 0 13 (dk_at dksX4_province_7 9 rfl rfl)
theorem dX4_province_177 : decode cX4_province 177 = .ok (.invokevirtual 290, 3) := dk_182 1 34 (dk_at dksX4_province_7 12 rfl rfl)
theorem dX4_province_180 : decode cX4_province 180 = .ok (.aload_n 0, 1) := dk_42 (dk_at dksX4_province_7 15 rfl rfl)
theorem dX4_province_181 : decode cX4_province 181 = .ok (.aload_n 0, 1) := dk_42 (dk_at dksX4_province_7 16 rfl rfl)
theorem dX4_province_182 : decode cX4_province 182 = .ok (.getfield 47, 3) := dk_180 0 47 (dk_at dksX4_province_7 17 rfl rfl)
theorem dX4_province_185 : decode cX4_province 185 = .ok (.aload_n 0, 1) := dk_42 (dk_at dksX4_province_7 20 rfl rfl)
theorem dX4_province_186 : decode cX4_province 186 = .ok (.getfield 17, 3) := dk_180 0 17 (dk_at dksX4_province_7 21 rfl rfl)
theorem dX4_province_189 : decode cX4_province 189 = .ok (.invokevirtual 290, 3) := dk_182 1 34 (dk_at dksX4_province_8 0 rfl rfl)
theorem dX4_province_192 : decode cX4_province 192 = .ok (.aload_n 0, 1) := dk_42 (dk_at dksX4_province_8 3 rfl rfl)
theorem dX4_province_193 : decode cX4_province 193 = .ok (.aload_n 0, 1) := dk_42 (dk_at dksX4_province_8 4 rfl rfl)
theorem dX4_province_194 : decode cX4_province 194 = .ok (.getfield 50, 3) := dk_180 0 50 (dk_at dksX4_province_8 5 rfl rfl)
theorem dX4_province_197 : decode cX4_province 197 = .ok (.aload_n 0, 1) := dk_42 (dk_at dksX4_province_8 8 rfl rfl)
theorem dX4_province_198 : decode cX4_province 198 = .ok (.getfield 20, 3) := dk_180 0 20 (dk_at dksX4_province_8 9 rfl rfl)
theorem dX4_province_201 : decode cX4_province 201 = .ok (.invokevirtual 290, 3) := dk_182 1 34 (dk_at dksX4_province_8 12 rfl rfl)
theorem dX4_province_204 : decode cX4_province 204 = .ok (.aload_n 0, 1) := dk_42 (dk_at dksX4_province_8 15 rfl rfl)
theorem dX4_province_205 : decode cX4_province 205 = .ok (.aload_n 0, 1) := dk_42 (dk_at dksX4_province_8 16 rfl rfl)
theorem dX4_province_206 : decode cX4_province 206 = .ok (.getfield 53, 3) := dk_180 0 53 (dk_at dksX4_province_8 17 rfl rfl)
theorem dX4_province_209 : decode cX4_province 209 = .ok (.aload_n 0, 1) := dk_42 (dk_at dksX4_province_8 20 rfl rfl)
theorem dX4_province_210 : decode cX4_province 210 = .ok (.getfield 23, 3) := dk_180 0 23 (dk_at dksX4_province_8 21 rfl rfl)
theorem dX4_province_213 : decode cX4_province 213 = .ok (.invokevirtual 290, 3) := dk_182 1 34 (dk_at dksX4_province_9 0 rfl rfl)
theorem dX4_province_216 : decode cX4_province 216 = .ok (.aload_n 0, 1) := dk_42 (dk_at dksX4_province_9 3 rfl rfl)
theorem dX4_province_217 : decode cX4_province 217 = .ok (.aload_n 0, 1) := dk_42 (dk_at dksX4_province_9 4 rfl rfl)
theorem dX4_province_218 : decode cX4_province 218 = .ok (.getfield 56, 3) := dk_180 0 56 (dk_at dksX4_province_9 5 rfl rfl)
theorem dX4_province_221 : decode cX4_province 221 = .ok (.aload_n 0, 1) := dk_42 (dk_at dksX4_province_9 8 rfl rfl)
theorem dX4_province_222 : decode cX4_province 222 = .ok (.getfield 26, 3) := dk_180 0 26 (dk_at dksX4_province_9 9 rfl rfl)
theorem dX4_province_225 : decode cX4_province 225 = .ok (.invokevirtual 290, 3) := dk_182 1 34 (dk_at dksX4_province_9 12 rfl rfl)
theorem dX4_province_228 : decode cX4_province 228 = .ok (.aload_n 0, 1) := dk_42 (dk_at dksX4_province_9 15 rfl rfl)
theorem dX4_province_229 : decode cX4_province 229 = .ok (.aload_n 0, 1) := dk_42 (dk_at dksX4_province_9 16 rfl rfl)
theorem dX4_province_230 : decode cX4_province 230 = .ok (.getfield 59, 3) := dk_180 0 59 (dk_at dksX4_province_9 17 rfl rfl)
theorem dX4_province_233 : decode cX4_province 233 = .ok (.aload_n 0, 1) := dk_42 (dk_at dksX4_province_9 20 rfl rfl)
theorem dX4_province_234 : decode cX4_province 234 = .ok (.getfield 29, 3) := dk_180 0 29 (dk_at dksX4_province_9 21 rfl rfl)
theorem dX4_province_237 : decode cX4_province 237 = .ok (.invokevirtual 290, 3) := dk_182 1 34 (dk_at dksX4_province_10 0 rfl rfl)
theorem dX4_province_240 : decode cX4_province 240 = .ok (.aload_n 0, 1) := dk_42 (dk_at dksX4_province_10 3 rfl rfl)
theorem dX4_province_241 : decode cX4_province 241 = .ok (.aload_n 0, 1) := dk_42 (dk_at dksX4_province_10 4 rfl rfl)
theorem dX4_province_242 : decode cX4_province 242 = .ok (.getfield 65, 3) := dk_180 0 65 (dk_at dksX4_province_10 5 rfl rfl)
theorem dX4_province_245 : decode cX4_province 245 = .ok (.aload_n 0, 1) := dk_42 (dk_at dksX4_province_10 8 rfl rfl)
theorem dX4_province_246 : decode cX4_province 246 = .ok (.getfield 32, 3) := dk_180 0 32 (dk_at dksX4_province_10 9 rfl rfl)
theorem dX4_province_249 : decode cX4_province 249 = .ok (.invokevirtual 290, 3) := dk_182 1 34 (dk_at dksX4_province_10 12 rfl rfl)
theorem dX4_province_252 : decode cX4_province 252 = .ok (.iconst 0, 1) := dk_3 (dk_at dksX4_province_10 15 rfl rfl)
theorem dX4_province_253 : decode cX4_province 253 = .ok (.istore_n 2, 1) := dk_61 (dk_at dksX4_province_10 16 rfl rfl)
theorem dX4_province_254 : decode cX4_province 254 = .ok (.iload_n 2, 1) := dk_28 (dk_at dksX4_province_10 17 rfl rfl)
theorem dX4_province_255 : decode cX4_province 255 = .ok (.bipush 85, 2) := dk_16 85 (dk_at dksX4_province_10 18 rfl rfl)
theorem dX4_province_257 : decode cX4_province 257 = .ok (.if_icmp .ge 21, 3) := dk_162 0 21 (dk_at dksX4_province_10 20 rfl rfl)
theorem dX4_province_260 : decode cX4_province 260 = .ok (.aload_n 0, 1) := dk_42 (dk_at dksX4_province_10 23 rfl rfl)
theorem dX4_province_261 : decode cX4_province 261 = .ok (.getfield 75, 3) := dk_180 0 75 (dk_at dksX4_province_11 0 rfl rfl)
theorem dX4_province_264 : decode cX4_province 264 = .ok (.iload_n 2, 1) := dk_28 (dk_at dksX4_province_11 3 rfl rfl)
theorem dX4_province_265 : decode cX4_province 265 = .ok (.aload_n 0, 1) := dk_42 (dk_at dksX4_province_11 4 rfl rfl)
theorem dX4_province_266 : decode cX4_province 266 = .ok (.getfield 62, 3) := dk_180 0 62 (dk_at dksX4_province_11 5 rfl rfl)
theorem dX4_province_269 : decode cX4_province 269 = .ok (.iload_n 2, 1) := dk_28 (dk_at dksX4_province_11 8 rfl rfl)
theorem dX4_province_270 : decode cX4_province 270 = .ok (.iaload, 1) := dk_46 (dk_at dksX4_province_11 9 rfl rfl)
theorem dX4_province_271 : decode cX4_province 271 = .ok (.iastore, 1) := dk_79 (dk_at dksX4_province_11 10 rfl rfl)
theorem dX4_province_272 : decode cX4_province 272 = .ok (.iinc 2 1, 3) := dk_132 2 1 (dk_at dksX4_province_11 11 rfl rfl)
theorem dX4_province_275 : decode cX4_province 275 = .ok (.goto (-21), 3) := dk_167 255 235 (dk_at dksX4_province_11 14 rfl rfl)
theorem dX4_province_278 : decode cX4_province 278 = .ok (.aload_n 0, 1) := dk_42 (dk_at dksX4_province_11 17 rfl rfl)
theorem dX4_province_279 : decode cX4_province 279 = .ok (.iconst 0, 1) := dk_3 (dk_at dksX4_province_11 18 rfl rfl)
theorem dX4_province_280 : decode cX4_province 280 = .ok (.putfield 294, 3) := dk_181 1 38 (dk_at dksX4_province_11 19 rfl rfl)
theorem dX4_province_283 : decode cX4_province 283 = .ok (.aload_n 0, 1) := dk_42 (dk_at dksX4_province_11 22 rfl rfl)
theorem dX4_province_284 : decode cX4_province 284 = .ok (.iconst 0, 1) := dk_3 (dk_at dksX4_province_11 23 rfl rfl)
theorem dX4_province_285 : decode cX4_province 285 = .ok (.putfield 297, 3) := dk_181 1 41 (dk_at dksX4_province_12 0 rfl rfl)
theorem dX4_province_288 : decode cX4_province 288 = .ok (.aload_n 0, 1) := dk_42 (dk_at dksX4_province_12 3 rfl rfl)
theorem dX4_province_289 : decode cX4_province 289 = .ok (.iconst 0, 1) := dk_3 (dk_at dksX4_province_12 4 rfl rfl)
theorem dX4_province_290 : decode cX4_province 290 = .ok (.putfield 300, 3) := dk_181 1 44 (dk_at dksX4_province_12 5 rfl rfl)
theorem dX4_province_293 : decode cX4_province 293 = .ok (.iconst 0, 1) := dk_3 (dk_at dksX4_province_12 8 rfl rfl)
theorem dX4_province_294 : decode cX4_province 294 = .ok (.ireturn, 1) := dk_172 (dk_at dksX4_province_12 9 rfl rfl)
abbrev cX4_right : ByteArray := prog_13_method_3_code
def yX4_right : MethodName := ⟨RX4, "right", "(ZI)Z"⟩
def dkwX4_right_1 : List UInt8 := [167, 0, 4, 3, 172]
abbrev dktX4_right_1 : List UInt8 := dkwX4_right_1 ++ []
def dkwX4_right_0 : List UInt8 := [42, 180, 0, 117, 154, 0, 12, 27, 154, 0, 8, 42, 28, 181, 0, 117, 42, 180, 0, 117, 154, 0, 7, 4]
abbrev dktX4_right_0 : List UInt8 := dkwX4_right_0 ++ dktX4_right_1
theorem dksX4_right_0 : cX4_right.data.toList.drop 0 = dktX4_right_0 := by decide +kernel
theorem dksX4_right_1 : cX4_right.data.toList.drop 24 = dktX4_right_1 := dk_seg dksX4_right_0 24 rfl rfl
theorem dX4_right_0 : decode cX4_right 0 = .ok (.aload_n 0, 1) := dk_42 (dk_at dksX4_right_0 0 rfl rfl)
theorem dX4_right_1 : decode cX4_right 1 = .ok (.getfield 117, 3) := dk_180 0 117 (dk_at dksX4_right_0 1 rfl rfl)
theorem dX4_right_4 : decode cX4_right 4 = .ok (.ifCond .ne 12, 3) := dk_154 0 12 (dk_at dksX4_right_0 4 rfl rfl)
theorem dX4_right_7 : decode cX4_right 7 = .ok (.iload_n 1, 1) := dk_27 (dk_at dksX4_right_0 7 rfl rfl)
theorem dX4_right_8 : decode cX4_right 8 = .ok (.ifCond .ne 8, 3) := dk_154 0 8 (dk_at dksX4_right_0 8 rfl rfl)
theorem dX4_right_11 : decode cX4_right 11 = .ok (.aload_n 0, 1) := dk_42 (dk_at dksX4_right_0 11 rfl rfl)
theorem dX4_right_12 : decode cX4_right 12 = .ok (.iload_n 2, 1) := dk_28 (dk_at dksX4_right_0 12 rfl rfl)
theorem dX4_right_13 : decode cX4_right 13 = .ok (.putfield 117, 3) := dk_181 0 117 (dk_at dksX4_right_0 13 rfl rfl)
theorem dX4_right_16 : decode cX4_right 16 = .ok (.aload_n 0, 1) := dk_42 (dk_at dksX4_right_0 16 rfl rfl)
theorem dX4_right_17 : decode cX4_right 17 = .ok (.getfield 117, 3) := dk_180 0 117 (dk_at dksX4_right_0 17 rfl rfl)
theorem dX4_right_20 : decode cX4_right 20 = .ok (.ifCond .ne 7, 3) := dk_154 0 7 (dk_at dksX4_right_0 20 rfl rfl)
theorem dX4_right_23 : decode cX4_right 23 = .ok (.iconst 1, 1) := dk_4 (dk_at dksX4_right_0 23 rfl rfl)
theorem dX4_right_24 : decode cX4_right 24 = .ok (.goto 4, 3) := dk_167 0 4 (dk_at dksX4_right_1 0 rfl rfl)
theorem dX4_right_27 : decode cX4_right 27 = .ok (.iconst 0, 1) := dk_3 (dk_at dksX4_right_1 3 rfl rfl)
theorem dX4_right_28 : decode cX4_right 28 = .ok (.ireturn, 1) := dk_172 (dk_at dksX4_right_1 4 rfl rfl)
abbrev cX4_goes : ByteArray := prog_13_method_14_code
def yX4_goes : MethodName := ⟨RX4, "goes", "()V"⟩
def dkwX4_goes_14 : List UInt8 := [167, 0, 4, 7, 181, 0, 150, 42, 42, 180, 0, 130, 42, 180, 0, 137, 100, 181, 0, 160, 177]
abbrev dktX4_goes_14 : List UInt8 := dkwX4_goes_14 ++ []
def dkwX4_goes_13 : List UInt8 := [16, 42, 159, 0, 21, 27, 16, 47, 159, 0, 15, 27, 16, 60, 159, 0, 9, 27, 16, 61, 160, 0, 7, 6]
abbrev dktX4_goes_13 : List UInt8 := dkwX4_goes_13 ++ dktX4_goes_14
def dkwX4_goes_12 : List UInt8 := [16, 40, 159, 0, 45, 27, 16, 41, 159, 0, 39, 27, 16, 43, 159, 0, 33, 27, 16, 45, 159, 0, 27, 27]
abbrev dktX4_goes_12 : List UInt8 := dkwX4_goes_12 ++ dktX4_goes_13
def dkwX4_goes_11 : List UInt8 := [181, 0, 150, 167, 0, 76, 42, 89, 180, 0, 130, 4, 96, 181, 0, 130, 42, 27, 16, 59, 159, 0, 51, 27]
abbrev dktX4_goes_11 : List UInt8 := dkwX4_goes_11 ++ dktX4_goes_12
def dkwX4_goes_10 : List UInt8 := [96, 16, 48, 100, 181, 0, 144, 42, 89, 180, 0, 130, 4, 96, 181, 0, 130, 167, 255, 196, 42, 5]
abbrev dktX4_goes_10 : List UInt8 := dkwX4_goes_10 ++ dktX4_goes_11
def dkwX4_goes_9 : List UInt8 := [180, 0, 137, 100, 7, 162, 0, 26, 42, 16, 10, 42, 180, 0, 144, 104, 42, 42, 180, 0, 130, 182, 0, 133]
abbrev dktX4_goes_9 : List UInt8 := dkwX4_goes_9 ++ dktX4_goes_10
def dkwX4_goes_8 : List UInt8 := [153, 0, 74, 42, 42, 180, 0, 130, 182, 0, 133, 184, 0, 157, 153, 0, 52, 42, 180, 0, 130, 42]
abbrev dktX4_goes_8 : List UInt8 := dkwX4_goes_8 ++ dktX4_goes_9
def dkwX4_goes_7 : List UInt8 := [180, 0, 130, 4, 96, 181, 0, 130, 167, 255, 195, 42, 4, 181, 0, 150, 167, 0, 154, 27, 184, 0, 157]
abbrev dktX4_goes_7 : List UInt8 := dkwX4_goes_7 ++ dktX4_goes_8
def dkwX4_goes_6 : List UInt8 := [180, 0, 140, 8, 121, 42, 42, 180, 0, 130, 182, 0, 133, 16, 96, 100, 133, 129, 181, 0, 140, 42, 89]
abbrev dktX4_goes_6 : List UInt8 := dkwX4_goes_6 ++ dktX4_goes_7
def dkwX4_goes_5 : List UInt8 := [184, 0, 153, 153, 0, 53, 42, 180, 0, 130, 42, 180, 0, 137, 100, 16, 7, 162, 0, 26, 42, 42]
abbrev dktX4_goes_5 : List UInt8 := dkwX4_goes_5 ++ dktX4_goes_6
def dkwX4_goes_4 : List UInt8 := [3, 181, 0, 150, 167, 0, 233, 27, 184, 0, 153, 153, 0, 75, 42, 42, 180, 0, 130, 182, 0, 133]
abbrev dktX4_goes_4 : List UInt8 := dkwX4_goes_4 ++ dktX4_goes_5
def dkwX4_goes_3 : List UInt8 := [180, 0, 130, 182, 0, 133, 60, 42, 27, 181, 0, 147, 42, 180, 0, 130, 42, 180, 0, 127, 161, 0, 11, 42]
abbrev dktX4_goes_3 : List UInt8 := dkwX4_goes_3 ++ dktX4_goes_4
def dkwX4_goes_2 : List UInt8 := [167, 255, 209, 42, 42, 180, 0, 130, 181, 0, 137, 42, 9, 181, 0, 140, 42, 3, 181, 0, 144, 42, 42]
abbrev dktX4_goes_2 : List UInt8 := dkwX4_goes_2 ++ dktX4_goes_3
def dkwX4_goes_1 : List UInt8 := [42, 42, 180, 0, 130, 182, 0, 133, 16, 10, 160, 0, 16, 42, 89, 180, 0, 130, 4, 96, 181, 0, 130]
abbrev dktX4_goes_1 : List UInt8 := dkwX4_goes_1 ++ dktX4_goes_2
def dkwX4_goes_0 : List UInt8 := [42, 180, 0, 130, 42, 180, 0, 127, 162, 0, 42, 42, 42, 180, 0, 130, 182, 0, 133, 16, 32, 159, 0, 16]
abbrev dktX4_goes_0 : List UInt8 := dkwX4_goes_0 ++ dktX4_goes_1
theorem dksX4_goes_0 : cX4_goes.data.toList.drop 0 = dktX4_goes_0 := by decide +kernel
theorem dksX4_goes_1 : cX4_goes.data.toList.drop 24 = dktX4_goes_1 := dk_seg dksX4_goes_0 24 rfl rfl
theorem dksX4_goes_2 : cX4_goes.data.toList.drop 47 = dktX4_goes_2 := dk_seg dksX4_goes_1 23 rfl rfl
theorem dksX4_goes_3 : cX4_goes.data.toList.drop 70 = dktX4_goes_3 := dk_seg dksX4_goes_2 23 rfl rfl
theorem dksX4_goes_4 : cX4_goes.data.toList.drop 94 = dktX4_goes_4 := dk_seg dksX4_goes_3 24 rfl rfl
theorem dksX4_goes_5 : cX4_goes.data.toList.drop 116 = dktX4_goes_5 := dk_seg dksX4_goes_4 22 rfl rfl
theorem dksX4_goes_6 : cX4_goes.data.toList.drop 138 = dktX4_goes_6 := dk_seg dksX4_goes_5 22 rfl rfl
theorem dksX4_goes_7 : cX4_goes.data.toList.drop 161 = dktX4_goes_7 := dk_seg dksX4_goes_6 23 rfl rfl
theorem dksX4_goes_8 : cX4_goes.data.toList.drop 184 = dktX4_goes_8 := dk_seg dksX4_goes_7 23 rfl rfl
theorem dksX4_goes_9 : cX4_goes.data.toList.drop 206 = dktX4_goes_9 := dk_seg dksX4_goes_8 22 rfl rfl
theorem dksX4_goes_10 : cX4_goes.data.toList.drop 230 = dktX4_goes_10 := dk_seg dksX4_goes_9 24 rfl rfl
theorem dksX4_goes_11 : cX4_goes.data.toList.drop 252 = dktX4_goes_11 := dk_seg dksX4_goes_10 22 rfl rfl
theorem dksX4_goes_12 : cX4_goes.data.toList.drop 276 = dktX4_goes_12 := dk_seg dksX4_goes_11 24 rfl rfl
theorem dksX4_goes_13 : cX4_goes.data.toList.drop 300 = dktX4_goes_13 := dk_seg dksX4_goes_12 24 rfl rfl
theorem dksX4_goes_14 : cX4_goes.data.toList.drop 324 = dktX4_goes_14 := dk_seg dksX4_goes_13 24 rfl rfl
theorem dX4_goes_0 : decode cX4_goes 0 = .ok (.aload_n 0, 1) := dk_42 (dk_at dksX4_goes_0 0 rfl rfl)
theorem dX4_goes_1 : decode cX4_goes 1 = .ok (.getfield 130, 3) := dk_180 0 130 (dk_at dksX4_goes_0 1 rfl rfl)
theorem dX4_goes_4 : decode cX4_goes 4 = .ok (.aload_n 0, 1) := dk_42 (dk_at dksX4_goes_0 4 rfl rfl)
theorem dX4_goes_5 : decode cX4_goes 5 = .ok (.getfield 127, 3) := dk_180 0 127 (dk_at dksX4_goes_0 5 rfl rfl)
theorem dX4_goes_8 : decode cX4_goes 8 = .ok (.if_icmp .ge 42, 3) := dk_162 0 42 (dk_at dksX4_goes_0 8 rfl rfl)
theorem dX4_goes_11 : decode cX4_goes 11 = .ok (.aload_n 0, 1) := dk_42 (dk_at dksX4_goes_0 11 rfl rfl)
theorem dX4_goes_12 : decode cX4_goes 12 = .ok (.aload_n 0, 1) := dk_42 (dk_at dksX4_goes_0 12 rfl rfl)
theorem dX4_goes_13 : decode cX4_goes 13 = .ok (.getfield 130, 3) := dk_180 0 130 (dk_at dksX4_goes_0 13 rfl rfl)
theorem dX4_goes_16 : decode cX4_goes 16 = .ok (.invokevirtual 133, 3) := dk_182 0 133 (dk_at dksX4_goes_0 16 rfl rfl)
theorem dX4_goes_19 : decode cX4_goes 19 = .ok (.bipush 32, 2) := dk_16 32 (dk_at dksX4_goes_0 19 rfl rfl)
theorem dX4_goes_21 : decode cX4_goes 21 = .ok (.if_icmp .eq 16, 3) := dk_159 0 16 (dk_at dksX4_goes_0 21 rfl rfl)
theorem dX4_goes_24 : decode cX4_goes 24 = .ok (.aload_n 0, 1) := dk_42 (dk_at dksX4_goes_1 0 rfl rfl)
theorem dX4_goes_25 : decode cX4_goes 25 = .ok (.aload_n 0, 1) := dk_42 (dk_at dksX4_goes_1 1 rfl rfl)
theorem dX4_goes_26 : decode cX4_goes 26 = .ok (.getfield 130, 3) := dk_180 0 130 (dk_at dksX4_goes_1 2 rfl rfl)
theorem dX4_goes_29 : decode cX4_goes 29 = .ok (.invokevirtual 133, 3) := dk_182 0 133 (dk_at dksX4_goes_1 5 rfl rfl)
theorem dX4_goes_32 : decode cX4_goes 32 = .ok (.bipush 10, 2) := dk_16 10 (dk_at dksX4_goes_1 8 rfl rfl)
theorem dX4_goes_34 : decode cX4_goes 34 = .ok (.if_icmp .ne 16, 3) := dk_160 0 16 (dk_at dksX4_goes_1 10 rfl rfl)
theorem dX4_goes_37 : decode cX4_goes 37 = .ok (.aload_n 0, 1) := dk_42 (dk_at dksX4_goes_1 13 rfl rfl)
theorem dX4_goes_38 : decode cX4_goes 38 = .ok (.dup, 1) := dk_89 (dk_at dksX4_goes_1 14 rfl rfl)
theorem dX4_goes_39 : decode cX4_goes 39 = .ok (.getfield 130, 3) := dk_180 0 130 (dk_at dksX4_goes_1 15 rfl rfl)
theorem dX4_goes_42 : decode cX4_goes 42 = .ok (.iconst 1, 1) := dk_4 (dk_at dksX4_goes_1 18 rfl rfl)
theorem dX4_goes_43 : decode cX4_goes 43 = .ok (.iadd, 1) := dk_96 (dk_at dksX4_goes_1 19 rfl rfl)
theorem dX4_goes_44 : decode cX4_goes 44 = .ok (.putfield 130, 3) := dk_181 0 130 (dk_at dksX4_goes_1 20 rfl rfl)
theorem dX4_goes_47 : decode cX4_goes 47 = .ok (.goto (-47), 3) := dk_167 255 209 (dk_at dksX4_goes_2 0 rfl rfl)
theorem dX4_goes_50 : decode cX4_goes 50 = .ok (.aload_n 0, 1) := dk_42 (dk_at dksX4_goes_2 3 rfl rfl)
theorem dX4_goes_51 : decode cX4_goes 51 = .ok (.aload_n 0, 1) := dk_42 (dk_at dksX4_goes_2 4 rfl rfl)
theorem dX4_goes_52 : decode cX4_goes 52 = .ok (.getfield 130, 3) := dk_180 0 130 (dk_at dksX4_goes_2 5 rfl rfl)
theorem dX4_goes_55 : decode cX4_goes 55 = .ok (.putfield 137, 3) := dk_181 0 137 (dk_at dksX4_goes_2 8 rfl rfl)
theorem dX4_goes_58 : decode cX4_goes 58 = .ok (.aload_n 0, 1) := dk_42 (dk_at dksX4_goes_2 11 rfl rfl)
theorem dX4_goes_59 : decode cX4_goes 59 = .ok (.lconst 0, 1) := dk_9 (dk_at dksX4_goes_2 12 rfl rfl)
theorem dX4_goes_60 : decode cX4_goes 60 = .ok (.putfield 140, 3) := dk_181 0 140 (dk_at dksX4_goes_2 13 rfl rfl)
theorem dX4_goes_63 : decode cX4_goes 63 = .ok (.aload_n 0, 1) := dk_42 (dk_at dksX4_goes_2 16 rfl rfl)
theorem dX4_goes_64 : decode cX4_goes 64 = .ok (.iconst 0, 1) := dk_3 (dk_at dksX4_goes_2 17 rfl rfl)
theorem dX4_goes_65 : decode cX4_goes 65 = .ok (.putfield 144, 3) := dk_181 0 144 (dk_at dksX4_goes_2 18 rfl rfl)
theorem dX4_goes_68 : decode cX4_goes 68 = .ok (.aload_n 0, 1) := dk_42 (dk_at dksX4_goes_2 21 rfl rfl)
theorem dX4_goes_69 : decode cX4_goes 69 = .ok (.aload_n 0, 1) := dk_42 (dk_at dksX4_goes_2 22 rfl rfl)
theorem dX4_goes_70 : decode cX4_goes 70 = .ok (.getfield 130, 3) := dk_180 0 130 (dk_at dksX4_goes_3 0 rfl rfl)
theorem dX4_goes_73 : decode cX4_goes 73 = .ok (.invokevirtual 133, 3) := dk_182 0 133 (dk_at dksX4_goes_3 3 rfl rfl)
theorem dX4_goes_76 : decode cX4_goes 76 = .ok (.istore_n 1, 1) := dk_60 (dk_at dksX4_goes_3 6 rfl rfl)
theorem dX4_goes_77 : decode cX4_goes 77 = .ok (.aload_n 0, 1) := dk_42 (dk_at dksX4_goes_3 7 rfl rfl)
theorem dX4_goes_78 : decode cX4_goes 78 = .ok (.iload_n 1, 1) := dk_27 (dk_at dksX4_goes_3 8 rfl rfl)
theorem dX4_goes_79 : decode cX4_goes 79 = .ok (.putfield 147, 3) := dk_181 0 147 (dk_at dksX4_goes_3 9 rfl rfl)
theorem dX4_goes_82 : decode cX4_goes 82 = .ok (.aload_n 0, 1) := dk_42 (dk_at dksX4_goes_3 12 rfl rfl)
theorem dX4_goes_83 : decode cX4_goes 83 = .ok (.getfield 130, 3) := dk_180 0 130 (dk_at dksX4_goes_3 13 rfl rfl)
theorem dX4_goes_86 : decode cX4_goes 86 = .ok (.aload_n 0, 1) := dk_42 (dk_at dksX4_goes_3 16 rfl rfl)
theorem dX4_goes_87 : decode cX4_goes 87 = .ok (.getfield 127, 3) := dk_180 0 127 (dk_at dksX4_goes_3 17 rfl rfl)
theorem dX4_goes_90 : decode cX4_goes 90 = .ok (.if_icmp .lt 11, 3) := dk_161 0 11 (dk_at dksX4_goes_3 20 rfl rfl)
theorem dX4_goes_93 : decode cX4_goes 93 = .ok (.aload_n 0, 1) := dk_42 (dk_at dksX4_goes_3 23 rfl rfl)
theorem dX4_goes_94 : decode cX4_goes 94 = .ok (.iconst 0, 1) := dk_3 (dk_at dksX4_goes_4 0 rfl rfl)
theorem dX4_goes_95 : decode cX4_goes 95 = .ok (.putfield 150, 3) := dk_181 0 150 (dk_at dksX4_goes_4 1 rfl rfl)
theorem dX4_goes_98 : decode cX4_goes 98 = .ok (.goto 233, 3) := dk_167 0 233 (dk_at dksX4_goes_4 4 rfl rfl)
theorem dX4_goes_101 : decode cX4_goes 101 = .ok (.iload_n 1, 1) := dk_27 (dk_at dksX4_goes_4 7 rfl rfl)
theorem dX4_goes_102 : decode cX4_goes 102 = .ok (.invokestatic 153, 3) := dk_184 0 153 (dk_at dksX4_goes_4 8 rfl rfl)
theorem dX4_goes_105 : decode cX4_goes 105 = .ok (.ifCond .eq 75, 3) := dk_153 0 75 (dk_at dksX4_goes_4 11 rfl rfl)
theorem dX4_goes_108 : decode cX4_goes 108 = .ok (.aload_n 0, 1) := dk_42 (dk_at dksX4_goes_4 14 rfl rfl)
theorem dX4_goes_109 : decode cX4_goes 109 = .ok (.aload_n 0, 1) := dk_42 (dk_at dksX4_goes_4 15 rfl rfl)
theorem dX4_goes_110 : decode cX4_goes 110 = .ok (.getfield 130, 3) := dk_180 0 130 (dk_at dksX4_goes_4 16 rfl rfl)
theorem dX4_goes_113 : decode cX4_goes 113 = .ok (.invokevirtual 133, 3) := dk_182 0 133 (dk_at dksX4_goes_4 19 rfl rfl)
theorem dX4_goes_116 : decode cX4_goes 116 = .ok (.invokestatic 153, 3) := dk_184 0 153 (dk_at dksX4_goes_5 0 rfl rfl)
theorem dX4_goes_119 : decode cX4_goes 119 = .ok (.ifCond .eq 53, 3) := dk_153 0 53 (dk_at dksX4_goes_5 3 rfl rfl)
theorem dX4_goes_122 : decode cX4_goes 122 = .ok (.aload_n 0, 1) := dk_42 (dk_at dksX4_goes_5 6 rfl rfl)
theorem dX4_goes_123 : decode cX4_goes 123 = .ok (.getfield 130, 3) := dk_180 0 130 (dk_at dksX4_goes_5 7 rfl rfl)
theorem dX4_goes_126 : decode cX4_goes 126 = .ok (.aload_n 0, 1) := dk_42 (dk_at dksX4_goes_5 10 rfl rfl)
theorem dX4_goes_127 : decode cX4_goes 127 = .ok (.getfield 137, 3) := dk_180 0 137 (dk_at dksX4_goes_5 11 rfl rfl)
theorem dX4_goes_130 : decode cX4_goes 130 = .ok (.isub, 1) := dk_100 (dk_at dksX4_goes_5 14 rfl rfl)
theorem dX4_goes_131 : decode cX4_goes 131 = .ok (.bipush 7, 2) := dk_16 7 (dk_at dksX4_goes_5 15 rfl rfl)
theorem dX4_goes_133 : decode cX4_goes 133 = .ok (.if_icmp .ge 26, 3) := dk_162 0 26 (dk_at dksX4_goes_5 17 rfl rfl)
theorem dX4_goes_136 : decode cX4_goes 136 = .ok (.aload_n 0, 1) := dk_42 (dk_at dksX4_goes_5 20 rfl rfl)
theorem dX4_goes_137 : decode cX4_goes 137 = .ok (.aload_n 0, 1) := dk_42 (dk_at dksX4_goes_5 21 rfl rfl)
theorem dX4_goes_138 : decode cX4_goes 138 = .ok (.getfield 140, 3) := dk_180 0 140 (dk_at dksX4_goes_6 0 rfl rfl)
theorem dX4_goes_141 : decode cX4_goes 141 = .ok (.iconst 5, 1) := dk_8 (dk_at dksX4_goes_6 3 rfl rfl)
theorem dX4_goes_142 : decode cX4_goes 142 = .ok (.lshl, 1) := dk_121 (dk_at dksX4_goes_6 4 rfl rfl)
theorem dX4_goes_143 : decode cX4_goes 143 = .ok (.aload_n 0, 1) := dk_42 (dk_at dksX4_goes_6 5 rfl rfl)
theorem dX4_goes_144 : decode cX4_goes 144 = .ok (.aload_n 0, 1) := dk_42 (dk_at dksX4_goes_6 6 rfl rfl)
theorem dX4_goes_145 : decode cX4_goes 145 = .ok (.getfield 130, 3) := dk_180 0 130 (dk_at dksX4_goes_6 7 rfl rfl)
theorem dX4_goes_148 : decode cX4_goes 148 = .ok (.invokevirtual 133, 3) := dk_182 0 133 (dk_at dksX4_goes_6 10 rfl rfl)
theorem dX4_goes_151 : decode cX4_goes 151 = .ok (.bipush 96, 2) := dk_16 96 (dk_at dksX4_goes_6 13 rfl rfl)
theorem dX4_goes_153 : decode cX4_goes 153 = .ok (.isub, 1) := dk_100 (dk_at dksX4_goes_6 15 rfl rfl)
theorem dX4_goes_154 : decode cX4_goes 154 = .ok (.i2l, 1) := dk_133 (dk_at dksX4_goes_6 16 rfl rfl)
theorem dX4_goes_155 : decode cX4_goes 155 = .ok (.lor, 1) := dk_129 (dk_at dksX4_goes_6 17 rfl rfl)
theorem dX4_goes_156 : decode cX4_goes 156 = .ok (.putfield 140, 3) := dk_181 0 140 (dk_at dksX4_goes_6 18 rfl rfl)
theorem dX4_goes_159 : decode cX4_goes 159 = .ok (.aload_n 0, 1) := dk_42 (dk_at dksX4_goes_6 21 rfl rfl)
theorem dX4_goes_160 : decode cX4_goes 160 = .ok (.dup, 1) := dk_89 (dk_at dksX4_goes_6 22 rfl rfl)
theorem dX4_goes_161 : decode cX4_goes 161 = .ok (.getfield 130, 3) := dk_180 0 130 (dk_at dksX4_goes_7 0 rfl rfl)
theorem dX4_goes_164 : decode cX4_goes 164 = .ok (.iconst 1, 1) := dk_4 (dk_at dksX4_goes_7 3 rfl rfl)
theorem dX4_goes_165 : decode cX4_goes 165 = .ok (.iadd, 1) := dk_96 (dk_at dksX4_goes_7 4 rfl rfl)
theorem dX4_goes_166 : decode cX4_goes 166 = .ok (.putfield 130, 3) := dk_181 0 130 (dk_at dksX4_goes_7 5 rfl rfl)
theorem dX4_goes_169 : decode cX4_goes 169 = .ok (.goto (-61), 3) := dk_167 255 195 (dk_at dksX4_goes_7 8 rfl rfl)
theorem dX4_goes_172 : decode cX4_goes 172 = .ok (.aload_n 0, 1) := dk_42 (dk_at dksX4_goes_7 11 rfl rfl)
theorem dX4_goes_173 : decode cX4_goes 173 = .ok (.iconst 1, 1) := dk_4 (dk_at dksX4_goes_7 12 rfl rfl)
theorem dX4_goes_174 : decode cX4_goes 174 = .ok (.putfield 150, 3) := dk_181 0 150 (dk_at dksX4_goes_7 13 rfl rfl)
theorem dX4_goes_177 : decode cX4_goes 177 = .ok (.goto 154, 3) := dk_167 0 154 (dk_at dksX4_goes_7 16 rfl rfl)
theorem dX4_goes_180 : decode cX4_goes 180 = .ok (.iload_n 1, 1) := dk_27 (dk_at dksX4_goes_7 19 rfl rfl)
theorem dX4_goes_181 : decode cX4_goes 181 = .ok (.invokestatic 157, 3) := dk_184 0 157 (dk_at dksX4_goes_7 20 rfl rfl)
theorem dX4_goes_184 : decode cX4_goes 184 = .ok (.ifCond .eq 74, 3) := dk_153 0 74 (dk_at dksX4_goes_8 0 rfl rfl)
theorem dX4_goes_187 : decode cX4_goes 187 = .ok (.aload_n 0, 1) := dk_42 (dk_at dksX4_goes_8 3 rfl rfl)
theorem dX4_goes_188 : decode cX4_goes 188 = .ok (.aload_n 0, 1) := dk_42 (dk_at dksX4_goes_8 4 rfl rfl)
theorem dX4_goes_189 : decode cX4_goes 189 = .ok (.getfield 130, 3) := dk_180 0 130 (dk_at dksX4_goes_8 5 rfl rfl)
theorem dX4_goes_192 : decode cX4_goes 192 = .ok (.invokevirtual 133, 3) := dk_182 0 133 (dk_at dksX4_goes_8 8 rfl rfl)
theorem dX4_goes_195 : decode cX4_goes 195 = .ok (.invokestatic 157, 3) := dk_184 0 157 (dk_at dksX4_goes_8 11 rfl rfl)
theorem dX4_goes_198 : decode cX4_goes 198 = .ok (.ifCond .eq 52, 3) := dk_153 0 52 (dk_at dksX4_goes_8 14 rfl rfl)
theorem dX4_goes_201 : decode cX4_goes 201 = .ok (.aload_n 0, 1) := dk_42 (dk_at dksX4_goes_8 17 rfl rfl)
theorem dX4_goes_202 : decode cX4_goes 202 = .ok (.getfield 130, 3) := dk_180 0 130 (dk_at dksX4_goes_8 18 rfl rfl)
theorem dX4_goes_205 : decode cX4_goes 205 = .ok (.aload_n 0, 1) := dk_42 (dk_at dksX4_goes_8 21 rfl rfl)
theorem dX4_goes_206 : decode cX4_goes 206 = .ok (.getfield 137, 3) := dk_180 0 137 (dk_at dksX4_goes_9 0 rfl rfl)
theorem dX4_goes_209 : decode cX4_goes 209 = .ok (.isub, 1) := dk_100 (dk_at dksX4_goes_9 3 rfl rfl)
theorem dX4_goes_210 : decode cX4_goes 210 = .ok (.iconst 4, 1) := dk_7 (dk_at dksX4_goes_9 4 rfl rfl)
theorem dX4_goes_211 : decode cX4_goes 211 = .ok (.if_icmp .ge 26, 3) := dk_162 0 26 (dk_at dksX4_goes_9 5 rfl rfl)
theorem dX4_goes_214 : decode cX4_goes 214 = .ok (.aload_n 0, 1) := dk_42 (dk_at dksX4_goes_9 8 rfl rfl)
theorem dX4_goes_215 : decode cX4_goes 215 = .ok (.bipush 10, 2) := dk_16 10 (dk_at dksX4_goes_9 9 rfl rfl)
theorem dX4_goes_217 : decode cX4_goes 217 = .ok (.aload_n 0, 1) := dk_42 (dk_at dksX4_goes_9 11 rfl rfl)
theorem dX4_goes_218 : decode cX4_goes 218 = .ok (.getfield 144, 3) := dk_180 0 144 (dk_at dksX4_goes_9 12 rfl rfl)
theorem dX4_goes_221 : decode cX4_goes 221 = .ok (.imul, 1) := dk_104 (dk_at dksX4_goes_9 15 rfl rfl)
theorem dX4_goes_222 : decode cX4_goes 222 = .ok (.aload_n 0, 1) := dk_42 (dk_at dksX4_goes_9 16 rfl rfl)
theorem dX4_goes_223 : decode cX4_goes 223 = .ok (.aload_n 0, 1) := dk_42 (dk_at dksX4_goes_9 17 rfl rfl)
theorem dX4_goes_224 : decode cX4_goes 224 = .ok (.getfield 130, 3) := dk_180 0 130 (dk_at dksX4_goes_9 18 rfl rfl)
theorem dX4_goes_227 : decode cX4_goes 227 = .ok (.invokevirtual 133, 3) := dk_182 0 133 (dk_at dksX4_goes_9 21 rfl rfl)
theorem dX4_goes_230 : decode cX4_goes 230 = .ok (.iadd, 1) := dk_96 (dk_at dksX4_goes_10 0 rfl rfl)
theorem dX4_goes_231 : decode cX4_goes 231 = .ok (.bipush 48, 2) := dk_16 48 (dk_at dksX4_goes_10 1 rfl rfl)
theorem dX4_goes_233 : decode cX4_goes 233 = .ok (.isub, 1) := dk_100 (dk_at dksX4_goes_10 3 rfl rfl)
theorem dX4_goes_234 : decode cX4_goes 234 = .ok (.putfield 144, 3) := dk_181 0 144 (dk_at dksX4_goes_10 4 rfl rfl)
theorem dX4_goes_237 : decode cX4_goes 237 = .ok (.aload_n 0, 1) := dk_42 (dk_at dksX4_goes_10 7 rfl rfl)
theorem dX4_goes_238 : decode cX4_goes 238 = .ok (.dup, 1) := dk_89 (dk_at dksX4_goes_10 8 rfl rfl)
theorem dX4_goes_239 : decode cX4_goes 239 = .ok (.getfield 130, 3) := dk_180 0 130 (dk_at dksX4_goes_10 9 rfl rfl)
theorem dX4_goes_242 : decode cX4_goes 242 = .ok (.iconst 1, 1) := dk_4 (dk_at dksX4_goes_10 12 rfl rfl)
theorem dX4_goes_243 : decode cX4_goes 243 = .ok (.iadd, 1) := dk_96 (dk_at dksX4_goes_10 13 rfl rfl)
theorem dX4_goes_244 : decode cX4_goes 244 = .ok (.putfield 130, 3) := dk_181 0 130 (dk_at dksX4_goes_10 14 rfl rfl)
theorem dX4_goes_247 : decode cX4_goes 247 = .ok (.goto (-60), 3) := dk_167 255 196 (dk_at dksX4_goes_10 17 rfl rfl)
theorem dX4_goes_250 : decode cX4_goes 250 = .ok (.aload_n 0, 1) := dk_42 (dk_at dksX4_goes_10 20 rfl rfl)
theorem dX4_goes_251 : decode cX4_goes 251 = .ok (.iconst 2, 1) := dk_5 (dk_at dksX4_goes_10 21 rfl rfl)
theorem dX4_goes_252 : decode cX4_goes 252 = .ok (.putfield 150, 3) := dk_181 0 150 (dk_at dksX4_goes_11 0 rfl rfl)
theorem dX4_goes_255 : decode cX4_goes 255 = .ok (.goto 76, 3) := dk_167 0 76 (dk_at dksX4_goes_11 3 rfl rfl)
theorem dX4_goes_258 : decode cX4_goes 258 = .ok (.aload_n 0, 1) := dk_42 (dk_at dksX4_goes_11 6 rfl rfl)
theorem dX4_goes_259 : decode cX4_goes 259 = .ok (.dup, 1) := dk_89 (dk_at dksX4_goes_11 7 rfl rfl)
theorem dX4_goes_260 : decode cX4_goes 260 = .ok (.getfield 130, 3) := dk_180 0 130 (dk_at dksX4_goes_11 8 rfl rfl)
theorem dX4_goes_263 : decode cX4_goes 263 = .ok (.iconst 1, 1) := dk_4 (dk_at dksX4_goes_11 11 rfl rfl)
theorem dX4_goes_264 : decode cX4_goes 264 = .ok (.iadd, 1) := dk_96 (dk_at dksX4_goes_11 12 rfl rfl)
theorem dX4_goes_265 : decode cX4_goes 265 = .ok (.putfield 130, 3) := dk_181 0 130 (dk_at dksX4_goes_11 13 rfl rfl)
theorem dX4_goes_268 : decode cX4_goes 268 = .ok (.aload_n 0, 1) := dk_42 (dk_at dksX4_goes_11 16 rfl rfl)
theorem dX4_goes_269 : decode cX4_goes 269 = .ok (.iload_n 1, 1) := dk_27 (dk_at dksX4_goes_11 17 rfl rfl)
theorem dX4_goes_270 : decode cX4_goes 270 = .ok (.bipush 59, 2) := dk_16 59 (dk_at dksX4_goes_11 18 rfl rfl)
theorem dX4_goes_272 : decode cX4_goes 272 = .ok (.if_icmp .eq 51, 3) := dk_159 0 51 (dk_at dksX4_goes_11 20 rfl rfl)
theorem dX4_goes_275 : decode cX4_goes 275 = .ok (.iload_n 1, 1) := dk_27 (dk_at dksX4_goes_11 23 rfl rfl)
theorem dX4_goes_276 : decode cX4_goes 276 = .ok (.bipush 40, 2) := dk_16 40 (dk_at dksX4_goes_12 0 rfl rfl)
theorem dX4_goes_278 : decode cX4_goes 278 = .ok (.if_icmp .eq 45, 3) := dk_159 0 45 (dk_at dksX4_goes_12 2 rfl rfl)
theorem dX4_goes_281 : decode cX4_goes 281 = .ok (.iload_n 1, 1) := dk_27 (dk_at dksX4_goes_12 5 rfl rfl)
theorem dX4_goes_282 : decode cX4_goes 282 = .ok (.bipush 41, 2) := dk_16 41 (dk_at dksX4_goes_12 6 rfl rfl)
theorem dX4_goes_284 : decode cX4_goes 284 = .ok (.if_icmp .eq 39, 3) := dk_159 0 39 (dk_at dksX4_goes_12 8 rfl rfl)
theorem dX4_goes_287 : decode cX4_goes 287 = .ok (.iload_n 1, 1) := dk_27 (dk_at dksX4_goes_12 11 rfl rfl)
theorem dX4_goes_288 : decode cX4_goes 288 = .ok (.bipush 43, 2) := dk_16 43 (dk_at dksX4_goes_12 12 rfl rfl)
theorem dX4_goes_290 : decode cX4_goes 290 = .ok (.if_icmp .eq 33, 3) := dk_159 0 33 (dk_at dksX4_goes_12 14 rfl rfl)
theorem dX4_goes_293 : decode cX4_goes 293 = .ok (.iload_n 1, 1) := dk_27 (dk_at dksX4_goes_12 17 rfl rfl)
theorem dX4_goes_294 : decode cX4_goes 294 = .ok (.bipush 45, 2) := dk_16 45 (dk_at dksX4_goes_12 18 rfl rfl)
theorem dX4_goes_296 : decode cX4_goes 296 = .ok (.if_icmp .eq 27, 3) := dk_159 0 27 (dk_at dksX4_goes_12 20 rfl rfl)
theorem dX4_goes_299 : decode cX4_goes 299 = .ok (.iload_n 1, 1) := dk_27 (dk_at dksX4_goes_12 23 rfl rfl)
theorem dX4_goes_300 : decode cX4_goes 300 = .ok (.bipush 42, 2) := dk_16 42 (dk_at dksX4_goes_13 0 rfl rfl)
theorem dX4_goes_302 : decode cX4_goes 302 = .ok (.if_icmp .eq 21, 3) := dk_159 0 21 (dk_at dksX4_goes_13 2 rfl rfl)
theorem dX4_goes_305 : decode cX4_goes 305 = .ok (.iload_n 1, 1) := dk_27 (dk_at dksX4_goes_13 5 rfl rfl)
theorem dX4_goes_306 : decode cX4_goes 306 = .ok (.bipush 47, 2) := dk_16 47 (dk_at dksX4_goes_13 6 rfl rfl)
theorem dX4_goes_308 : decode cX4_goes 308 = .ok (.if_icmp .eq 15, 3) := dk_159 0 15 (dk_at dksX4_goes_13 8 rfl rfl)
theorem dX4_goes_311 : decode cX4_goes 311 = .ok (.iload_n 1, 1) := dk_27 (dk_at dksX4_goes_13 11 rfl rfl)
theorem dX4_goes_312 : decode cX4_goes 312 = .ok (.bipush 60, 2) := dk_16 60 (dk_at dksX4_goes_13 12 rfl rfl)
theorem dX4_goes_314 : decode cX4_goes 314 = .ok (.if_icmp .eq 9, 3) := dk_159 0 9 (dk_at dksX4_goes_13 14 rfl rfl)
theorem dX4_goes_317 : decode cX4_goes 317 = .ok (.iload_n 1, 1) := dk_27 (dk_at dksX4_goes_13 17 rfl rfl)
theorem dX4_goes_318 : decode cX4_goes 318 = .ok (.bipush 61, 2) := dk_16 61 (dk_at dksX4_goes_13 18 rfl rfl)
theorem dX4_goes_320 : decode cX4_goes 320 = .ok (.if_icmp .ne 7, 3) := dk_160 0 7 (dk_at dksX4_goes_13 20 rfl rfl)
theorem dX4_goes_323 : decode cX4_goes 323 = .ok (.iconst 3, 1) := dk_6 (dk_at dksX4_goes_13 23 rfl rfl)
theorem dX4_goes_324 : decode cX4_goes 324 = .ok (.goto 4, 3) := dk_167 0 4 (dk_at dksX4_goes_14 0 rfl rfl)
theorem dX4_goes_327 : decode cX4_goes 327 = .ok (.iconst 4, 1) := dk_7 (dk_at dksX4_goes_14 3 rfl rfl)
theorem dX4_goes_328 : decode cX4_goes 328 = .ok (.putfield 150, 3) := dk_181 0 150 (dk_at dksX4_goes_14 4 rfl rfl)
theorem dX4_goes_331 : decode cX4_goes 331 = .ok (.aload_n 0, 1) := dk_42 (dk_at dksX4_goes_14 7 rfl rfl)
theorem dX4_goes_332 : decode cX4_goes 332 = .ok (.aload_n 0, 1) := dk_42 (dk_at dksX4_goes_14 8 rfl rfl)
theorem dX4_goes_333 : decode cX4_goes 333 = .ok (.getfield 130, 3) := dk_180 0 130 (dk_at dksX4_goes_14 9 rfl rfl)
theorem dX4_goes_336 : decode cX4_goes 336 = .ok (.aload_n 0, 1) := dk_42 (dk_at dksX4_goes_14 12 rfl rfl)
theorem dX4_goes_337 : decode cX4_goes 337 = .ok (.getfield 137, 3) := dk_180 0 137 (dk_at dksX4_goes_14 13 rfl rfl)
theorem dX4_goes_340 : decode cX4_goes 340 = .ok (.isub, 1) := dk_100 (dk_at dksX4_goes_14 16 rfl rfl)
theorem dX4_goes_341 : decode cX4_goes 341 = .ok (.putfield 160, 3) := dk_181 0 160 (dk_at dksX4_goes_14 17 rfl rfl)
theorem dX4_goes_344 : decode cX4_goes 344 = .ok (.return_, 1) := dk_177 (dk_at dksX4_goes_14 20 rfl rfl)
abbrev cX4_byteAt : ByteArray := prog_13_method_11_code
def yX4_byteAt : MethodName := ⟨RX4, "byteAt", "(I)I"⟩
def dkwX4_byteAt_0 : List UInt8 := [27, 42, 180, 0, 127, 162, 0, 12, 42, 180, 0, 35, 27, 46, 167, 0, 4, 3, 172]
abbrev dktX4_byteAt_0 : List UInt8 := dkwX4_byteAt_0 ++ []
theorem dksX4_byteAt_0 : cX4_byteAt.data.toList.drop 0 = dktX4_byteAt_0 := by decide +kernel
theorem dX4_byteAt_0 : decode cX4_byteAt 0 = .ok (.iload_n 1, 1) := dk_27 (dk_at dksX4_byteAt_0 0 rfl rfl)
theorem dX4_byteAt_1 : decode cX4_byteAt 1 = .ok (.aload_n 0, 1) := dk_42 (dk_at dksX4_byteAt_0 1 rfl rfl)
theorem dX4_byteAt_2 : decode cX4_byteAt 2 = .ok (.getfield 127, 3) := dk_180 0 127 (dk_at dksX4_byteAt_0 2 rfl rfl)
theorem dX4_byteAt_5 : decode cX4_byteAt 5 = .ok (.if_icmp .ge 12, 3) := dk_162 0 12 (dk_at dksX4_byteAt_0 5 rfl rfl)
theorem dX4_byteAt_8 : decode cX4_byteAt 8 = .ok (.aload_n 0, 1) := dk_42 (dk_at dksX4_byteAt_0 8 rfl rfl)
theorem dX4_byteAt_9 : decode cX4_byteAt 9 = .ok (.getfield 35, 3) := dk_180 0 35 (dk_at dksX4_byteAt_0 9 rfl rfl)
theorem dX4_byteAt_12 : decode cX4_byteAt 12 = .ok (.iload_n 1, 1) := dk_27 (dk_at dksX4_byteAt_0 12 rfl rfl)
theorem dX4_byteAt_13 : decode cX4_byteAt 13 = .ok (.iaload, 1) := dk_46 (dk_at dksX4_byteAt_0 13 rfl rfl)
theorem dX4_byteAt_14 : decode cX4_byteAt 14 = .ok (.goto 4, 3) := dk_167 0 4 (dk_at dksX4_byteAt_0 14 rfl rfl)
theorem dX4_byteAt_17 : decode cX4_byteAt 17 = .ok (.iconst 0, 1) := dk_3 (dk_at dksX4_byteAt_0 17 rfl rfl)
theorem dX4_byteAt_18 : decode cX4_byteAt 18 = .ok (.ireturn, 1) := dk_172 (dk_at dksX4_byteAt_0 18 rfl rfl)
abbrev cX4_isLetter : ByteArray := prog_13_method_12_code
def yX4_isLetter : MethodName := ⟨RX4, "isLetter", "(I)Z"⟩
def dkwX4_isLetter_0 : List UInt8 := [26, 16, 97, 161, 0, 13, 26, 16, 122, 163, 0, 7, 4, 167, 0, 4, 3, 172]
abbrev dktX4_isLetter_0 : List UInt8 := dkwX4_isLetter_0 ++ []
theorem dksX4_isLetter_0 : cX4_isLetter.data.toList.drop 0 = dktX4_isLetter_0 := by decide +kernel
theorem dX4_isLetter_0 : decode cX4_isLetter 0 = .ok (.iload_n 0, 1) := dk_26 (dk_at dksX4_isLetter_0 0 rfl rfl)
theorem dX4_isLetter_1 : decode cX4_isLetter 1 = .ok (.bipush 97, 2) := dk_16 97 (dk_at dksX4_isLetter_0 1 rfl rfl)
theorem dX4_isLetter_3 : decode cX4_isLetter 3 = .ok (.if_icmp .lt 13, 3) := dk_161 0 13 (dk_at dksX4_isLetter_0 3 rfl rfl)
theorem dX4_isLetter_6 : decode cX4_isLetter 6 = .ok (.iload_n 0, 1) := dk_26 (dk_at dksX4_isLetter_0 6 rfl rfl)
theorem dX4_isLetter_7 : decode cX4_isLetter 7 = .ok (.bipush 122, 2) := dk_16 122 (dk_at dksX4_isLetter_0 7 rfl rfl)
theorem dX4_isLetter_9 : decode cX4_isLetter 9 = .ok (.if_icmp .gt 7, 3) := dk_163 0 7 (dk_at dksX4_isLetter_0 9 rfl rfl)
theorem dX4_isLetter_12 : decode cX4_isLetter 12 = .ok (.iconst 1, 1) := dk_4 (dk_at dksX4_isLetter_0 12 rfl rfl)
theorem dX4_isLetter_13 : decode cX4_isLetter 13 = .ok (.goto 4, 3) := dk_167 0 4 (dk_at dksX4_isLetter_0 13 rfl rfl)
theorem dX4_isLetter_16 : decode cX4_isLetter 16 = .ok (.iconst 0, 1) := dk_3 (dk_at dksX4_isLetter_0 16 rfl rfl)
theorem dX4_isLetter_17 : decode cX4_isLetter 17 = .ok (.ireturn, 1) := dk_172 (dk_at dksX4_isLetter_0 17 rfl rfl)
abbrev cX4_isDigit : ByteArray := prog_13_method_13_code
def yX4_isDigit : MethodName := ⟨RX4, "isDigit", "(I)Z"⟩
def dkwX4_isDigit_0 : List UInt8 := [26, 16, 48, 161, 0, 13, 26, 16, 57, 163, 0, 7, 4, 167, 0, 4, 3, 172]
abbrev dktX4_isDigit_0 : List UInt8 := dkwX4_isDigit_0 ++ []
theorem dksX4_isDigit_0 : cX4_isDigit.data.toList.drop 0 = dktX4_isDigit_0 := by decide +kernel
theorem dX4_isDigit_0 : decode cX4_isDigit 0 = .ok (.iload_n 0, 1) := dk_26 (dk_at dksX4_isDigit_0 0 rfl rfl)
theorem dX4_isDigit_1 : decode cX4_isDigit 1 = .ok (.bipush 48, 2) := dk_16 48 (dk_at dksX4_isDigit_0 1 rfl rfl)
theorem dX4_isDigit_3 : decode cX4_isDigit 3 = .ok (.if_icmp .lt 13, 3) := dk_161 0 13 (dk_at dksX4_isDigit_0 3 rfl rfl)
theorem dX4_isDigit_6 : decode cX4_isDigit 6 = .ok (.iload_n 0, 1) := dk_26 (dk_at dksX4_isDigit_0 6 rfl rfl)
theorem dX4_isDigit_7 : decode cX4_isDigit 7 = .ok (.bipush 57, 2) := dk_16 57 (dk_at dksX4_isDigit_0 7 rfl rfl)
theorem dX4_isDigit_9 : decode cX4_isDigit 9 = .ok (.if_icmp .gt 7, 3) := dk_163 0 7 (dk_at dksX4_isDigit_0 9 rfl rfl)
theorem dX4_isDigit_12 : decode cX4_isDigit 12 = .ok (.iconst 1, 1) := dk_4 (dk_at dksX4_isDigit_0 12 rfl rfl)
theorem dX4_isDigit_13 : decode cX4_isDigit 13 = .ok (.goto 4, 3) := dk_167 0 4 (dk_at dksX4_isDigit_0 13 rfl rfl)
theorem dX4_isDigit_16 : decode cX4_isDigit 16 = .ok (.iconst 0, 1) := dk_3 (dk_at dksX4_isDigit_0 16 rfl rfl)
theorem dX4_isDigit_17 : decode cX4_isDigit 17 = .ok (.ireturn, 1) := dk_172 (dk_at dksX4_isDigit_0 17 rfl rfl)
abbrev cX4_isGood : ByteArray := prog_13_method_19_code
def yX4_isGood : MethodName := ⟨RX4, "isGood", "()Z"⟩
def dkwX4_isGood_0 : List UInt8 := [42, 180, 0, 173, 154, 0, 7, 4, 167, 0, 4, 3, 172]
abbrev dktX4_isGood_0 : List UInt8 := dkwX4_isGood_0 ++ []
theorem dksX4_isGood_0 : cX4_isGood.data.toList.drop 0 = dktX4_isGood_0 := by decide +kernel
theorem dX4_isGood_0 : decode cX4_isGood 0 = .ok (.aload_n 0, 1) := dk_42 (dk_at dksX4_isGood_0 0 rfl rfl)
theorem dX4_isGood_1 : decode cX4_isGood 1 = .ok (.getfield 173, 3) := dk_180 0 173 (dk_at dksX4_isGood_0 1 rfl rfl)
theorem dX4_isGood_4 : decode cX4_isGood 4 = .ok (.ifCond .ne 7, 3) := dk_154 0 7 (dk_at dksX4_isGood_0 4 rfl rfl)
theorem dX4_isGood_7 : decode cX4_isGood 7 = .ok (.iconst 1, 1) := dk_4 (dk_at dksX4_isGood_0 7 rfl rfl)
theorem dX4_isGood_8 : decode cX4_isGood 8 = .ok (.goto 4, 3) := dk_167 0 4 (dk_at dksX4_isGood_0 8 rfl rfl)
theorem dX4_isGood_11 : decode cX4_isGood 11 = .ok (.iconst 0, 1) := dk_3 (dk_at dksX4_isGood_0 11 rfl rfl)
theorem dX4_isGood_12 : decode cX4_isGood 12 = .ok (.ireturn, 1) := dk_172 (dk_at dksX4_isGood_0 12 rfl rfl)
abbrev cX4_line : ByteArray := prog_13_method_40_code
def yX4_line : MethodName := ⟨RX4, "line", "()V"⟩
def dkwX4_line_5 : List UInt8 := [182, 0, 211, 182, 1, 15, 177]
abbrev dktX4_line_5 : List UInt8 := dkwX4_line_5 ++ []
def dkwX4_line_4 : List UInt8 := [180, 0, 189, 181, 1, 9, 42, 182, 1, 12, 167, 0, 8, 42, 4, 182, 0, 183, 42, 42, 16, 59]
abbrev dktX4_line_4 : List UInt8 := dkwX4_line_4 ++ dktX4_line_5
def dkwX4_line_3 : List UInt8 := [2, 159, 0, 8, 42, 8, 182, 0, 183, 42, 182, 0, 176, 154, 0, 4, 177, 42, 182, 0, 180, 42, 42]
abbrev dktX4_line_3 : List UInt8 := dkwX4_line_3 ++ dktX4_line_4
def dkwX4_line_2 : List UInt8 := [160, 0, 7, 4, 167, 0, 4, 3, 182, 1, 6, 167, 0, 54, 27, 16, 11, 160, 0, 43, 42, 180, 1, 9]
abbrev dktX4_line_2 : List UInt8 := dkwX4_line_2 ++ dktX4_line_3
def dkwX4_line_1 : List UInt8 := [42, 182, 1, 3, 167, 0, 84, 27, 16, 8, 159, 0, 9, 27, 16, 9, 160, 0, 21, 42, 27, 16, 9]
abbrev dktX4_line_1 : List UInt8 := dkwX4_line_1 ++ dktX4_line_2
def dkwX4_line_0 : List UInt8 := [42, 182, 0, 204, 60, 27, 16, 6, 160, 0, 10, 42, 182, 1, 0, 167, 0, 97, 27, 16, 7, 160, 0, 10]
abbrev dktX4_line_0 : List UInt8 := dkwX4_line_0 ++ dktX4_line_1
theorem dksX4_line_0 : cX4_line.data.toList.drop 0 = dktX4_line_0 := by decide +kernel
theorem dksX4_line_1 : cX4_line.data.toList.drop 24 = dktX4_line_1 := dk_seg dksX4_line_0 24 rfl rfl
theorem dksX4_line_2 : cX4_line.data.toList.drop 47 = dktX4_line_2 := dk_seg dksX4_line_1 23 rfl rfl
theorem dksX4_line_3 : cX4_line.data.toList.drop 71 = dktX4_line_3 := dk_seg dksX4_line_2 24 rfl rfl
theorem dksX4_line_4 : cX4_line.data.toList.drop 94 = dktX4_line_4 := dk_seg dksX4_line_3 23 rfl rfl
theorem dksX4_line_5 : cX4_line.data.toList.drop 116 = dktX4_line_5 := dk_seg dksX4_line_4 22 rfl rfl
theorem dX4_line_0 : decode cX4_line 0 = .ok (.aload_n 0, 1) := dk_42 (dk_at dksX4_line_0 0 rfl rfl)
theorem dX4_line_1 : decode cX4_line 1 = .ok (.invokevirtual 204, 3) := dk_182 0 204 (dk_at dksX4_line_0 1 rfl rfl)
theorem dX4_line_4 : decode cX4_line 4 = .ok (.istore_n 1, 1) := dk_60 (dk_at dksX4_line_0 4 rfl rfl)
theorem dX4_line_5 : decode cX4_line 5 = .ok (.iload_n 1, 1) := dk_27 (dk_at dksX4_line_0 5 rfl rfl)
theorem dX4_line_6 : decode cX4_line 6 = .ok (.bipush 6, 2) := dk_16 6 (dk_at dksX4_line_0 6 rfl rfl)
theorem dX4_line_8 : decode cX4_line 8 = .ok (.if_icmp .ne 10, 3) := dk_160 0 10 (dk_at dksX4_line_0 8 rfl rfl)
theorem dX4_line_11 : decode cX4_line 11 = .ok (.aload_n 0, 1) := dk_42 (dk_at dksX4_line_0 11 rfl rfl)
theorem dX4_line_12 : decode cX4_line 12 = .ok (.invokevirtual 256, 3) := dk_182 1 0 (dk_at dksX4_line_0 12 rfl rfl)
theorem dX4_line_15 : decode cX4_line 15 = .ok (.goto 97, 3) := dk_167 0 97 (dk_at dksX4_line_0 15 rfl rfl)
theorem dX4_line_18 : decode cX4_line 18 = .ok (.iload_n 1, 1) := dk_27 (dk_at dksX4_line_0 18 rfl rfl)
theorem dX4_line_19 : decode cX4_line 19 = .ok (.bipush 7, 2) := dk_16 7 (dk_at dksX4_line_0 19 rfl rfl)
theorem dX4_line_21 : decode cX4_line 21 = .ok (.if_icmp .ne 10, 3) := dk_160 0 10 (dk_at dksX4_line_0 21 rfl rfl)
theorem dX4_line_24 : decode cX4_line 24 = .ok (.aload_n 0, 1) := dk_42 (dk_at dksX4_line_1 0 rfl rfl)
theorem dX4_line_25 : decode cX4_line 25 = .ok (.invokevirtual 259, 3) := dk_182 1 3 (dk_at dksX4_line_1 1 rfl rfl)
theorem dX4_line_28 : decode cX4_line 28 = .ok (.goto 84, 3) := dk_167 0 84 (dk_at dksX4_line_1 4 rfl rfl)
theorem dX4_line_31 : decode cX4_line 31 = .ok (.iload_n 1, 1) := dk_27 (dk_at dksX4_line_1 7 rfl rfl)
theorem dX4_line_32 : decode cX4_line 32 = .ok (.bipush 8, 2) := dk_16 8 (dk_at dksX4_line_1 8 rfl rfl)
theorem dX4_line_34 : decode cX4_line 34 = .ok (.if_icmp .eq 9, 3) := dk_159 0 9 (dk_at dksX4_line_1 10 rfl rfl)
theorem dX4_line_37 : decode cX4_line 37 = .ok (.iload_n 1, 1) := dk_27 (dk_at dksX4_line_1 13 rfl rfl)
theorem dX4_line_38 : decode cX4_line 38 = .ok (.bipush 9, 2) := dk_16 9 (dk_at dksX4_line_1 14 rfl rfl)
theorem dX4_line_40 : decode cX4_line 40 = .ok (.if_icmp .ne 21, 3) := dk_160 0 21 (dk_at dksX4_line_1 16 rfl rfl)
theorem dX4_line_43 : decode cX4_line 43 = .ok (.aload_n 0, 1) := dk_42 (dk_at dksX4_line_1 19 rfl rfl)
theorem dX4_line_44 : decode cX4_line 44 = .ok (.iload_n 1, 1) := dk_27 (dk_at dksX4_line_1 20 rfl rfl)
theorem dX4_line_45 : decode cX4_line 45 = .ok (.bipush 9, 2) := dk_16 9 (dk_at dksX4_line_1 21 rfl rfl)
theorem dX4_line_47 : decode cX4_line 47 = .ok (.if_icmp .ne 7, 3) := dk_160 0 7 (dk_at dksX4_line_2 0 rfl rfl)
theorem dX4_line_50 : decode cX4_line 50 = .ok (.iconst 1, 1) := dk_4 (dk_at dksX4_line_2 3 rfl rfl)
theorem dX4_line_51 : decode cX4_line 51 = .ok (.goto 4, 3) := dk_167 0 4 (dk_at dksX4_line_2 4 rfl rfl)
theorem dX4_line_54 : decode cX4_line 54 = .ok (.iconst 0, 1) := dk_3 (dk_at dksX4_line_2 7 rfl rfl)
theorem dX4_line_55 : decode cX4_line 55 = .ok (.invokevirtual 262, 3) := dk_182 1 6 (dk_at dksX4_line_2 8 rfl rfl)
theorem dX4_line_58 : decode cX4_line 58 = .ok (.goto 54, 3) := dk_167 0 54 (dk_at dksX4_line_2 11 rfl rfl)
theorem dX4_line_61 : decode cX4_line 61 = .ok (.iload_n 1, 1) := dk_27 (dk_at dksX4_line_2 14 rfl rfl)
theorem dX4_line_62 : decode cX4_line 62 = .ok (.bipush 11, 2) := dk_16 11 (dk_at dksX4_line_2 15 rfl rfl)
theorem dX4_line_64 : decode cX4_line 64 = .ok (.if_icmp .ne 43, 3) := dk_160 0 43 (dk_at dksX4_line_2 17 rfl rfl)
theorem dX4_line_67 : decode cX4_line 67 = .ok (.aload_n 0, 1) := dk_42 (dk_at dksX4_line_2 20 rfl rfl)
theorem dX4_line_68 : decode cX4_line 68 = .ok (.getfield 265, 3) := dk_180 1 9 (dk_at dksX4_line_2 21 rfl rfl)
theorem dX4_line_71 : decode cX4_line 71 = .ok (.iconst (-1), 1) := dk_2 (dk_at dksX4_line_3 0 rfl rfl)
theorem dX4_line_72 : decode cX4_line 72 = .ok (.if_icmp .eq 8, 3) := dk_159 0 8 (dk_at dksX4_line_3 1 rfl rfl)
theorem dX4_line_75 : decode cX4_line 75 = .ok (.aload_n 0, 1) := dk_42 (dk_at dksX4_line_3 4 rfl rfl)
theorem dX4_line_76 : decode cX4_line 76 = .ok (.iconst 5, 1) := dk_8 (dk_at dksX4_line_3 5 rfl rfl)
theorem dX4_line_77 : decode cX4_line 77 = .ok (.invokevirtual 183, 3) := dk_182 0 183 (dk_at dksX4_line_3 6 rfl rfl)
theorem dX4_line_80 : decode cX4_line 80 = .ok (.aload_n 0, 1) := dk_42 (dk_at dksX4_line_3 9 rfl rfl)
theorem dX4_line_81 : decode cX4_line 81 = .ok (.invokevirtual 176, 3) := dk_182 0 176 (dk_at dksX4_line_3 10 rfl rfl)
theorem dX4_line_84 : decode cX4_line 84 = .ok (.ifCond .ne 4, 3) := dk_154 0 4 (dk_at dksX4_line_3 13 rfl rfl)
theorem dX4_line_87 : decode cX4_line 87 = .ok (.return_, 1) := dk_177 (dk_at dksX4_line_3 16 rfl rfl)
theorem dX4_line_88 : decode cX4_line 88 = .ok (.aload_n 0, 1) := dk_42 (dk_at dksX4_line_3 17 rfl rfl)
theorem dX4_line_89 : decode cX4_line 89 = .ok (.invokevirtual 180, 3) := dk_182 0 180 (dk_at dksX4_line_3 18 rfl rfl)
theorem dX4_line_92 : decode cX4_line 92 = .ok (.aload_n 0, 1) := dk_42 (dk_at dksX4_line_3 21 rfl rfl)
theorem dX4_line_93 : decode cX4_line 93 = .ok (.aload_n 0, 1) := dk_42 (dk_at dksX4_line_3 22 rfl rfl)
theorem dX4_line_94 : decode cX4_line 94 = .ok (.getfield 189, 3) := dk_180 0 189 (dk_at dksX4_line_4 0 rfl rfl)
theorem dX4_line_97 : decode cX4_line 97 = .ok (.putfield 265, 3) := dk_181 1 9 (dk_at dksX4_line_4 3 rfl rfl)
theorem dX4_line_100 : decode cX4_line 100 = .ok (.aload_n 0, 1) := dk_42 (dk_at dksX4_line_4 6 rfl rfl)
theorem dX4_line_101 : decode cX4_line 101 = .ok (.invokevirtual 268, 3) := dk_182 1 12 (dk_at dksX4_line_4 7 rfl rfl)
theorem dX4_line_104 : decode cX4_line 104 = .ok (.goto 8, 3) := dk_167 0 8 (dk_at dksX4_line_4 10 rfl rfl)
theorem dX4_line_107 : decode cX4_line 107 = .ok (.aload_n 0, 1) := dk_42 (dk_at dksX4_line_4 13 rfl rfl)
theorem dX4_line_108 : decode cX4_line 108 = .ok (.iconst 1, 1) := dk_4 (dk_at dksX4_line_4 14 rfl rfl)
theorem dX4_line_109 : decode cX4_line 109 = .ok (.invokevirtual 183, 3) := dk_182 0 183 (dk_at dksX4_line_4 15 rfl rfl)
theorem dX4_line_112 : decode cX4_line 112 = .ok (.aload_n 0, 1) := dk_42 (dk_at dksX4_line_4 18 rfl rfl)
theorem dX4_line_113 : decode cX4_line 113 = .ok (.aload_n 0, 1) := dk_42 (dk_at dksX4_line_4 19 rfl rfl)
theorem dX4_line_114 : decode cX4_line 114 = .ok (.bipush 59, 2) := dk_16 59 (dk_at dksX4_line_4 20 rfl rfl)
theorem dX4_line_116 : decode cX4_line 116 = .ok (.invokevirtual 211, 3) := dk_182 0 211 (dk_at dksX4_line_5 0 rfl rfl)
theorem dX4_line_119 : decode cX4_line 119 = .ok (.invokevirtual 271, 3) := dk_182 1 15 (dk_at dksX4_line_5 3 rfl rfl)
theorem dX4_line_122 : decode cX4_line 122 = .ok (.return_, 1) := dk_177 (dk_at dksX4_line_5 6 rfl rfl)
abbrev cX4_knownWord : ByteArray := prog_13_method_17_code
def yX4_knownWord : MethodName := ⟨RX4, "knownWord", "()I"⟩
def dkwX4_knownWord_2 : List UInt8 := [172]
abbrev dktX4_knownWord_2 : List UInt8 := dkwX4_knownWord_2 ++ []
def dkwX4_knownWord_1 : List UInt8 := [162, 0, 23, 27, 184, 0, 169, 42, 180, 0, 140, 148, 154, 0, 5, 27, 172, 132, 1, 1, 167, 255, 233, 2]
abbrev dktX4_knownWord_1 : List UInt8 := dkwX4_knownWord_1 ++ dktX4_knownWord_2
def dkwX4_knownWord_0 : List UInt8 := [42, 180, 0, 150, 4, 160, 0, 12, 42, 180, 0, 160, 16, 7, 164, 0, 5, 2, 172, 3, 60, 27, 16, 15]
abbrev dktX4_knownWord_0 : List UInt8 := dkwX4_knownWord_0 ++ dktX4_knownWord_1
theorem dksX4_knownWord_0 : cX4_knownWord.data.toList.drop 0 = dktX4_knownWord_0 := by decide +kernel
theorem dksX4_knownWord_1 : cX4_knownWord.data.toList.drop 24 = dktX4_knownWord_1 := dk_seg dksX4_knownWord_0 24 rfl rfl
theorem dksX4_knownWord_2 : cX4_knownWord.data.toList.drop 48 = dktX4_knownWord_2 := dk_seg dksX4_knownWord_1 24 rfl rfl
theorem dX4_knownWord_0 : decode cX4_knownWord 0 = .ok (.aload_n 0, 1) := dk_42 (dk_at dksX4_knownWord_0 0 rfl rfl)
theorem dX4_knownWord_1 : decode cX4_knownWord 1 = .ok (.getfield 150, 3) := dk_180 0 150 (dk_at dksX4_knownWord_0 1 rfl rfl)
theorem dX4_knownWord_4 : decode cX4_knownWord 4 = .ok (.iconst 1, 1) := dk_4 (dk_at dksX4_knownWord_0 4 rfl rfl)
theorem dX4_knownWord_5 : decode cX4_knownWord 5 = .ok (.if_icmp .ne 12, 3) := dk_160 0 12 (dk_at dksX4_knownWord_0 5 rfl rfl)
theorem dX4_knownWord_8 : decode cX4_knownWord 8 = .ok (.aload_n 0, 1) := dk_42 (dk_at dksX4_knownWord_0 8 rfl rfl)
theorem dX4_knownWord_9 : decode cX4_knownWord 9 = .ok (.getfield 160, 3) := dk_180 0 160 (dk_at dksX4_knownWord_0 9 rfl rfl)
theorem dX4_knownWord_12 : decode cX4_knownWord 12 = .ok (.bipush 7, 2) := dk_16 7 (dk_at dksX4_knownWord_0 12 rfl rfl)
theorem dX4_knownWord_14 : decode cX4_knownWord 14 = .ok (.if_icmp .le 5, 3) := dk_164 0 5 (dk_at dksX4_knownWord_0 14 rfl rfl)
theorem dX4_knownWord_17 : decode cX4_knownWord 17 = .ok (.iconst (-1), 1) := dk_2 (dk_at dksX4_knownWord_0 17 rfl rfl)
theorem dX4_knownWord_18 : decode cX4_knownWord 18 = .ok (.ireturn, 1) := dk_172 (dk_at dksX4_knownWord_0 18 rfl rfl)
theorem dX4_knownWord_19 : decode cX4_knownWord 19 = .ok (.iconst 0, 1) := dk_3 (dk_at dksX4_knownWord_0 19 rfl rfl)
theorem dX4_knownWord_20 : decode cX4_knownWord 20 = .ok (.istore_n 1, 1) := dk_60 (dk_at dksX4_knownWord_0 20 rfl rfl)
theorem dX4_knownWord_21 : decode cX4_knownWord 21 = .ok (.iload_n 1, 1) := dk_27 (dk_at dksX4_knownWord_0 21 rfl rfl)
theorem dX4_knownWord_22 : decode cX4_knownWord 22 = .ok (.bipush 15, 2) := dk_16 15 (dk_at dksX4_knownWord_0 22 rfl rfl)
theorem dX4_knownWord_24 : decode cX4_knownWord 24 = .ok (.if_icmp .ge 23, 3) := dk_162 0 23 (dk_at dksX4_knownWord_1 0 rfl rfl)
theorem dX4_knownWord_27 : decode cX4_knownWord 27 = .ok (.iload_n 1, 1) := dk_27 (dk_at dksX4_knownWord_1 3 rfl rfl)
theorem dX4_knownWord_28 : decode cX4_knownWord 28 = .ok (.invokestatic 169, 3) := dk_184 0 169 (dk_at dksX4_knownWord_1 4 rfl rfl)
theorem dX4_knownWord_31 : decode cX4_knownWord 31 = .ok (.aload_n 0, 1) := dk_42 (dk_at dksX4_knownWord_1 7 rfl rfl)
theorem dX4_knownWord_32 : decode cX4_knownWord 32 = .ok (.getfield 140, 3) := dk_180 0 140 (dk_at dksX4_knownWord_1 8 rfl rfl)
theorem dX4_knownWord_35 : decode cX4_knownWord 35 = .ok (.lcmp, 1) := dk_148 (dk_at dksX4_knownWord_1 11 rfl rfl)
theorem dX4_knownWord_36 : decode cX4_knownWord 36 = .ok (.ifCond .ne 5, 3) := dk_154 0 5 (dk_at dksX4_knownWord_1 12 rfl rfl)
theorem dX4_knownWord_39 : decode cX4_knownWord 39 = .ok (.iload_n 1, 1) := dk_27 (dk_at dksX4_knownWord_1 15 rfl rfl)
theorem dX4_knownWord_40 : decode cX4_knownWord 40 = .ok (.ireturn, 1) := dk_172 (dk_at dksX4_knownWord_1 16 rfl rfl)
theorem dX4_knownWord_41 : decode cX4_knownWord 41 = .ok (.iinc 1 1, 3) := dk_132 1 1 (dk_at dksX4_knownWord_1 17 rfl rfl)
theorem dX4_knownWord_44 : decode cX4_knownWord 44 = .ok (.goto (-23), 3) := dk_167 255 233 (dk_at dksX4_knownWord_1 20 rfl rfl)
theorem dX4_knownWord_47 : decode cX4_knownWord 47 = .ok (.iconst (-1), 1) := dk_2 (dk_at dksX4_knownWord_1 23 rfl rfl)
theorem dX4_knownWord_48 : decode cX4_knownWord 48 = .ok (.ireturn, 1) := dk_172 (dk_at dksX4_knownWord_2 0 rfl rfl)
abbrev cX4_letters : ByteArray := prog_13_method_16_code
def yX4_letters : MethodName := ⟨RX4, "letters", "(I)J"⟩
def dkwX4_letters_11 : List UInt8 := [16, 110, 16, 111, 16, 116, 3, 3, 3, 3, 184, 0, 165, 173]
abbrev dktX4_letters_11 : List UInt8 := dkwX4_letters_11 ++ []
def dkwX4_letters_10 : List UInt8 := [16, 100, 3, 3, 3, 3, 184, 0, 165, 173, 16, 111, 16, 114, 3, 3, 3, 3, 3, 184, 0, 165, 173]
abbrev dktX4_letters_10 : List UInt8 := dkwX4_letters_10 ++ dktX4_letters_11
def dkwX4_letters_9 : List UInt8 := [184, 0, 165, 173, 16, 111, 16, 100, 16, 100, 16, 115, 3, 3, 3, 184, 0, 165, 173, 16, 97, 16, 110]
abbrev dktX4_letters_9 : List UInt8 := dkwX4_letters_9 ++ dktX4_letters_10
def dkwX4_letters_8 : List UInt8 := [16, 108, 16, 108, 16, 97, 16, 115, 16, 116, 184, 0, 165, 173, 16, 99, 16, 97, 16, 116, 3, 3, 3, 3]
abbrev dktX4_letters_8 : List UInt8 := dkwX4_letters_8 ++ dktX4_letters_9
def dkwX4_letters_7 : List UInt8 := [184, 0, 165, 173, 16, 99, 16, 114, 16, 97, 16, 116, 16, 101, 3, 3, 184, 0, 165, 173, 16, 98, 16, 97]
abbrev dktX4_letters_7 : List UInt8 := dkwX4_letters_7 ++ dktX4_letters_8
def dkwX4_letters_6 : List UInt8 := [16, 111, 16, 119, 16, 110, 3, 3, 3, 184, 0, 165, 173, 16, 119, 16, 97, 16, 121, 3, 3, 3, 3]
abbrev dktX4_letters_6 : List UInt8 := dkwX4_letters_6 ++ dktX4_letters_7
def dkwX4_letters_5 : List UInt8 := [184, 0, 165, 173, 16, 99, 16, 114, 16, 97, 16, 116, 16, 101, 16, 115, 3, 184, 0, 165, 173, 16, 116]
abbrev dktX4_letters_5 : List UInt8 := dkwX4_letters_5 ++ dktX4_letters_6
def dkwX4_letters_4 : List UInt8 := [16, 97, 16, 107, 16, 101, 16, 115, 3, 3, 184, 0, 165, 173, 16, 100, 16, 97, 16, 121, 3, 3, 3, 3]
abbrev dktX4_letters_4 : List UInt8 := dkwX4_letters_4 ++ dktX4_letters_5
def dkwX4_letters_3 : List UInt8 := [3, 184, 0, 165, 173, 16, 115, 16, 116, 16, 97, 16, 107, 16, 101, 3, 3, 184, 0, 165, 173, 16, 109]
abbrev dktX4_letters_3 : List UInt8 := dkwX4_letters_3 ++ dktX4_letters_4
def dkwX4_letters_2 : List UInt8 := [16, 108, 16, 117, 16, 99, 16, 107, 3, 3, 3, 184, 0, 165, 173, 16, 98, 16, 97, 16, 100, 3, 3, 3]
abbrev dktX4_letters_2 : List UInt8 := dkwX4_letters_2 ++ dktX4_letters_3
def dkwX4_letters_1 : List UInt8 := [170, 0, 0, 0, 0, 1, 26, 0, 0, 0, 0, 0, 0, 0, 13, 0, 0, 0, 71, 0, 0, 0, 86, 0, 0, 0, 100, 0, 0, 0, 116, 0, 0, 0, 132, 0, 0, 0, 146, 0, 0, 0, 163, 0, 0, 0, 178, 0, 0, 0, 192, 0, 0, 0, 208, 0, 0, 0, 226, 0, 0, 0, 240, 0, 0, 0, 255, 0, 0, 1, 13]
abbrev dktX4_letters_1 : List UInt8 := dkwX4_letters_1 ++ dktX4_letters_2
def dkwX4_letters_0 : List UInt8 := [26]
abbrev dktX4_letters_0 : List UInt8 := dkwX4_letters_0 ++ dktX4_letters_1
theorem dksX4_letters_0 : cX4_letters.data.toList.drop 0 = dktX4_letters_0 := by decide +kernel
theorem dksX4_letters_1 : cX4_letters.data.toList.drop 1 = dktX4_letters_1 := dk_seg dksX4_letters_0 1 rfl rfl
theorem dksX4_letters_2 : cX4_letters.data.toList.drop 72 = dktX4_letters_2 := dk_seg dksX4_letters_1 71 rfl rfl
theorem dksX4_letters_3 : cX4_letters.data.toList.drop 96 = dktX4_letters_3 := dk_seg dksX4_letters_2 24 rfl rfl
theorem dksX4_letters_4 : cX4_letters.data.toList.drop 119 = dktX4_letters_4 := dk_seg dksX4_letters_3 23 rfl rfl
theorem dksX4_letters_5 : cX4_letters.data.toList.drop 143 = dktX4_letters_5 := dk_seg dksX4_letters_4 24 rfl rfl
theorem dksX4_letters_6 : cX4_letters.data.toList.drop 166 = dktX4_letters_6 := dk_seg dksX4_letters_5 23 rfl rfl
theorem dksX4_letters_7 : cX4_letters.data.toList.drop 189 = dktX4_letters_7 := dk_seg dksX4_letters_6 23 rfl rfl
theorem dksX4_letters_8 : cX4_letters.data.toList.drop 213 = dktX4_letters_8 := dk_seg dksX4_letters_7 24 rfl rfl
theorem dksX4_letters_9 : cX4_letters.data.toList.drop 237 = dktX4_letters_9 := dk_seg dksX4_letters_8 24 rfl rfl
theorem dksX4_letters_10 : cX4_letters.data.toList.drop 260 = dktX4_letters_10 := dk_seg dksX4_letters_9 23 rfl rfl
theorem dksX4_letters_11 : cX4_letters.data.toList.drop 283 = dktX4_letters_11 := dk_seg dksX4_letters_10 23 rfl rfl
theorem dX4_letters_0 : decode cX4_letters 0 = .ok (.iload_n 0, 1) := dk_26 (dk_at dksX4_letters_0 0 rfl rfl)
theorem dX4_letters_1 : decode cX4_letters 1 = .ok (.tableswitch 282 0 13 #[71, 86, 100, 116, 132, 146, 163, 178, 192, 208, 226, 240, 255, 269], 71) := by decide +kernel
theorem dX4_letters_72 : decode cX4_letters 72 = .ok (.bipush 108, 2) := dk_16 108 (dk_at dksX4_letters_2 0 rfl rfl)
theorem dX4_letters_74 : decode cX4_letters 74 = .ok (.bipush 117, 2) := dk_16 117 (dk_at dksX4_letters_2 2 rfl rfl)
theorem dX4_letters_76 : decode cX4_letters 76 = .ok (.bipush 99, 2) := dk_16 99 (dk_at dksX4_letters_2 4 rfl rfl)
theorem dX4_letters_78 : decode cX4_letters 78 = .ok (.bipush 107, 2) := dk_16 107 (dk_at dksX4_letters_2 6 rfl rfl)
theorem dX4_letters_80 : decode cX4_letters 80 = .ok (.iconst 0, 1) := dk_3 (dk_at dksX4_letters_2 8 rfl rfl)
theorem dX4_letters_81 : decode cX4_letters 81 = .ok (.iconst 0, 1) := dk_3 (dk_at dksX4_letters_2 9 rfl rfl)
theorem dX4_letters_82 : decode cX4_letters 82 = .ok (.iconst 0, 1) := dk_3 (dk_at dksX4_letters_2 10 rfl rfl)
theorem dX4_letters_83 : decode cX4_letters 83 = .ok (.invokestatic 165, 3) := dk_184 0 165 (dk_at dksX4_letters_2 11 rfl rfl)
theorem dX4_letters_86 : decode cX4_letters 86 = .ok (.lreturn, 1) := dk_173 (dk_at dksX4_letters_2 14 rfl rfl)
theorem dX4_letters_87 : decode cX4_letters 87 = .ok (.bipush 98, 2) := dk_16 98 (dk_at dksX4_letters_2 15 rfl rfl)
theorem dX4_letters_89 : decode cX4_letters 89 = .ok (.bipush 97, 2) := dk_16 97 (dk_at dksX4_letters_2 17 rfl rfl)
theorem dX4_letters_91 : decode cX4_letters 91 = .ok (.bipush 100, 2) := dk_16 100 (dk_at dksX4_letters_2 19 rfl rfl)
theorem dX4_letters_93 : decode cX4_letters 93 = .ok (.iconst 0, 1) := dk_3 (dk_at dksX4_letters_2 21 rfl rfl)
theorem dX4_letters_94 : decode cX4_letters 94 = .ok (.iconst 0, 1) := dk_3 (dk_at dksX4_letters_2 22 rfl rfl)
theorem dX4_letters_95 : decode cX4_letters 95 = .ok (.iconst 0, 1) := dk_3 (dk_at dksX4_letters_2 23 rfl rfl)
theorem dX4_letters_96 : decode cX4_letters 96 = .ok (.iconst 0, 1) := dk_3 (dk_at dksX4_letters_3 0 rfl rfl)
theorem dX4_letters_97 : decode cX4_letters 97 = .ok (.invokestatic 165, 3) := dk_184 0 165 (dk_at dksX4_letters_3 1 rfl rfl)
theorem dX4_letters_100 : decode cX4_letters 100 = .ok (.lreturn, 1) := dk_173 (dk_at dksX4_letters_3 4 rfl rfl)
theorem dX4_letters_101 : decode cX4_letters 101 = .ok (.bipush 115, 2) := dk_16 115 (dk_at dksX4_letters_3 5 rfl rfl)
theorem dX4_letters_103 : decode cX4_letters 103 = .ok (.bipush 116, 2) := dk_16 116 (dk_at dksX4_letters_3 7 rfl rfl)
theorem dX4_letters_105 : decode cX4_letters 105 = .ok (.bipush 97, 2) := dk_16 97 (dk_at dksX4_letters_3 9 rfl rfl)
theorem dX4_letters_107 : decode cX4_letters 107 = .ok (.bipush 107, 2) := dk_16 107 (dk_at dksX4_letters_3 11 rfl rfl)
theorem dX4_letters_109 : decode cX4_letters 109 = .ok (.bipush 101, 2) := dk_16 101 (dk_at dksX4_letters_3 13 rfl rfl)
theorem dX4_letters_111 : decode cX4_letters 111 = .ok (.iconst 0, 1) := dk_3 (dk_at dksX4_letters_3 15 rfl rfl)
theorem dX4_letters_112 : decode cX4_letters 112 = .ok (.iconst 0, 1) := dk_3 (dk_at dksX4_letters_3 16 rfl rfl)
theorem dX4_letters_113 : decode cX4_letters 113 = .ok (.invokestatic 165, 3) := dk_184 0 165 (dk_at dksX4_letters_3 17 rfl rfl)
theorem dX4_letters_116 : decode cX4_letters 116 = .ok (.lreturn, 1) := dk_173 (dk_at dksX4_letters_3 20 rfl rfl)
theorem dX4_letters_117 : decode cX4_letters 117 = .ok (.bipush 109, 2) := dk_16 109 (dk_at dksX4_letters_3 21 rfl rfl)
theorem dX4_letters_119 : decode cX4_letters 119 = .ok (.bipush 97, 2) := dk_16 97 (dk_at dksX4_letters_4 0 rfl rfl)
theorem dX4_letters_121 : decode cX4_letters 121 = .ok (.bipush 107, 2) := dk_16 107 (dk_at dksX4_letters_4 2 rfl rfl)
theorem dX4_letters_123 : decode cX4_letters 123 = .ok (.bipush 101, 2) := dk_16 101 (dk_at dksX4_letters_4 4 rfl rfl)
theorem dX4_letters_125 : decode cX4_letters 125 = .ok (.bipush 115, 2) := dk_16 115 (dk_at dksX4_letters_4 6 rfl rfl)
theorem dX4_letters_127 : decode cX4_letters 127 = .ok (.iconst 0, 1) := dk_3 (dk_at dksX4_letters_4 8 rfl rfl)
theorem dX4_letters_128 : decode cX4_letters 128 = .ok (.iconst 0, 1) := dk_3 (dk_at dksX4_letters_4 9 rfl rfl)
theorem dX4_letters_129 : decode cX4_letters 129 = .ok (.invokestatic 165, 3) := dk_184 0 165 (dk_at dksX4_letters_4 10 rfl rfl)
theorem dX4_letters_132 : decode cX4_letters 132 = .ok (.lreturn, 1) := dk_173 (dk_at dksX4_letters_4 13 rfl rfl)
theorem dX4_letters_133 : decode cX4_letters 133 = .ok (.bipush 100, 2) := dk_16 100 (dk_at dksX4_letters_4 14 rfl rfl)
theorem dX4_letters_135 : decode cX4_letters 135 = .ok (.bipush 97, 2) := dk_16 97 (dk_at dksX4_letters_4 16 rfl rfl)
theorem dX4_letters_137 : decode cX4_letters 137 = .ok (.bipush 121, 2) := dk_16 121 (dk_at dksX4_letters_4 18 rfl rfl)
theorem dX4_letters_139 : decode cX4_letters 139 = .ok (.iconst 0, 1) := dk_3 (dk_at dksX4_letters_4 20 rfl rfl)
theorem dX4_letters_140 : decode cX4_letters 140 = .ok (.iconst 0, 1) := dk_3 (dk_at dksX4_letters_4 21 rfl rfl)
theorem dX4_letters_141 : decode cX4_letters 141 = .ok (.iconst 0, 1) := dk_3 (dk_at dksX4_letters_4 22 rfl rfl)
theorem dX4_letters_142 : decode cX4_letters 142 = .ok (.iconst 0, 1) := dk_3 (dk_at dksX4_letters_4 23 rfl rfl)
theorem dX4_letters_143 : decode cX4_letters 143 = .ok (.invokestatic 165, 3) := dk_184 0 165 (dk_at dksX4_letters_5 0 rfl rfl)
theorem dX4_letters_146 : decode cX4_letters 146 = .ok (.lreturn, 1) := dk_173 (dk_at dksX4_letters_5 3 rfl rfl)
theorem dX4_letters_147 : decode cX4_letters 147 = .ok (.bipush 99, 2) := dk_16 99 (dk_at dksX4_letters_5 4 rfl rfl)
theorem dX4_letters_149 : decode cX4_letters 149 = .ok (.bipush 114, 2) := dk_16 114 (dk_at dksX4_letters_5 6 rfl rfl)
theorem dX4_letters_151 : decode cX4_letters 151 = .ok (.bipush 97, 2) := dk_16 97 (dk_at dksX4_letters_5 8 rfl rfl)
theorem dX4_letters_153 : decode cX4_letters 153 = .ok (.bipush 116, 2) := dk_16 116 (dk_at dksX4_letters_5 10 rfl rfl)
theorem dX4_letters_155 : decode cX4_letters 155 = .ok (.bipush 101, 2) := dk_16 101 (dk_at dksX4_letters_5 12 rfl rfl)
theorem dX4_letters_157 : decode cX4_letters 157 = .ok (.bipush 115, 2) := dk_16 115 (dk_at dksX4_letters_5 14 rfl rfl)
theorem dX4_letters_159 : decode cX4_letters 159 = .ok (.iconst 0, 1) := dk_3 (dk_at dksX4_letters_5 16 rfl rfl)
theorem dX4_letters_160 : decode cX4_letters 160 = .ok (.invokestatic 165, 3) := dk_184 0 165 (dk_at dksX4_letters_5 17 rfl rfl)
theorem dX4_letters_163 : decode cX4_letters 163 = .ok (.lreturn, 1) := dk_173 (dk_at dksX4_letters_5 20 rfl rfl)
theorem dX4_letters_164 : decode cX4_letters 164 = .ok (.bipush 116, 2) := dk_16 116 (dk_at dksX4_letters_5 21 rfl rfl)
theorem dX4_letters_166 : decode cX4_letters 166 = .ok (.bipush 111, 2) := dk_16 111 (dk_at dksX4_letters_6 0 rfl rfl)
theorem dX4_letters_168 : decode cX4_letters 168 = .ok (.bipush 119, 2) := dk_16 119 (dk_at dksX4_letters_6 2 rfl rfl)
theorem dX4_letters_170 : decode cX4_letters 170 = .ok (.bipush 110, 2) := dk_16 110 (dk_at dksX4_letters_6 4 rfl rfl)
theorem dX4_letters_172 : decode cX4_letters 172 = .ok (.iconst 0, 1) := dk_3 (dk_at dksX4_letters_6 6 rfl rfl)
theorem dX4_letters_173 : decode cX4_letters 173 = .ok (.iconst 0, 1) := dk_3 (dk_at dksX4_letters_6 7 rfl rfl)
theorem dX4_letters_174 : decode cX4_letters 174 = .ok (.iconst 0, 1) := dk_3 (dk_at dksX4_letters_6 8 rfl rfl)
theorem dX4_letters_175 : decode cX4_letters 175 = .ok (.invokestatic 165, 3) := dk_184 0 165 (dk_at dksX4_letters_6 9 rfl rfl)
theorem dX4_letters_178 : decode cX4_letters 178 = .ok (.lreturn, 1) := dk_173 (dk_at dksX4_letters_6 12 rfl rfl)
theorem dX4_letters_179 : decode cX4_letters 179 = .ok (.bipush 119, 2) := dk_16 119 (dk_at dksX4_letters_6 13 rfl rfl)
theorem dX4_letters_181 : decode cX4_letters 181 = .ok (.bipush 97, 2) := dk_16 97 (dk_at dksX4_letters_6 15 rfl rfl)
theorem dX4_letters_183 : decode cX4_letters 183 = .ok (.bipush 121, 2) := dk_16 121 (dk_at dksX4_letters_6 17 rfl rfl)
theorem dX4_letters_185 : decode cX4_letters 185 = .ok (.iconst 0, 1) := dk_3 (dk_at dksX4_letters_6 19 rfl rfl)
theorem dX4_letters_186 : decode cX4_letters 186 = .ok (.iconst 0, 1) := dk_3 (dk_at dksX4_letters_6 20 rfl rfl)
theorem dX4_letters_187 : decode cX4_letters 187 = .ok (.iconst 0, 1) := dk_3 (dk_at dksX4_letters_6 21 rfl rfl)
theorem dX4_letters_188 : decode cX4_letters 188 = .ok (.iconst 0, 1) := dk_3 (dk_at dksX4_letters_6 22 rfl rfl)
theorem dX4_letters_189 : decode cX4_letters 189 = .ok (.invokestatic 165, 3) := dk_184 0 165 (dk_at dksX4_letters_7 0 rfl rfl)
theorem dX4_letters_192 : decode cX4_letters 192 = .ok (.lreturn, 1) := dk_173 (dk_at dksX4_letters_7 3 rfl rfl)
theorem dX4_letters_193 : decode cX4_letters 193 = .ok (.bipush 99, 2) := dk_16 99 (dk_at dksX4_letters_7 4 rfl rfl)
theorem dX4_letters_195 : decode cX4_letters 195 = .ok (.bipush 114, 2) := dk_16 114 (dk_at dksX4_letters_7 6 rfl rfl)
theorem dX4_letters_197 : decode cX4_letters 197 = .ok (.bipush 97, 2) := dk_16 97 (dk_at dksX4_letters_7 8 rfl rfl)
theorem dX4_letters_199 : decode cX4_letters 199 = .ok (.bipush 116, 2) := dk_16 116 (dk_at dksX4_letters_7 10 rfl rfl)
theorem dX4_letters_201 : decode cX4_letters 201 = .ok (.bipush 101, 2) := dk_16 101 (dk_at dksX4_letters_7 12 rfl rfl)
theorem dX4_letters_203 : decode cX4_letters 203 = .ok (.iconst 0, 1) := dk_3 (dk_at dksX4_letters_7 14 rfl rfl)
theorem dX4_letters_204 : decode cX4_letters 204 = .ok (.iconst 0, 1) := dk_3 (dk_at dksX4_letters_7 15 rfl rfl)
theorem dX4_letters_205 : decode cX4_letters 205 = .ok (.invokestatic 165, 3) := dk_184 0 165 (dk_at dksX4_letters_7 16 rfl rfl)
theorem dX4_letters_208 : decode cX4_letters 208 = .ok (.lreturn, 1) := dk_173 (dk_at dksX4_letters_7 19 rfl rfl)
theorem dX4_letters_209 : decode cX4_letters 209 = .ok (.bipush 98, 2) := dk_16 98 (dk_at dksX4_letters_7 20 rfl rfl)
theorem dX4_letters_211 : decode cX4_letters 211 = .ok (.bipush 97, 2) := dk_16 97 (dk_at dksX4_letters_7 22 rfl rfl)
theorem dX4_letters_213 : decode cX4_letters 213 = .ok (.bipush 108, 2) := dk_16 108 (dk_at dksX4_letters_8 0 rfl rfl)
theorem dX4_letters_215 : decode cX4_letters 215 = .ok (.bipush 108, 2) := dk_16 108 (dk_at dksX4_letters_8 2 rfl rfl)
theorem dX4_letters_217 : decode cX4_letters 217 = .ok (.bipush 97, 2) := dk_16 97 (dk_at dksX4_letters_8 4 rfl rfl)
theorem dX4_letters_219 : decode cX4_letters 219 = .ok (.bipush 115, 2) := dk_16 115 (dk_at dksX4_letters_8 6 rfl rfl)
theorem dX4_letters_221 : decode cX4_letters 221 = .ok (.bipush 116, 2) := dk_16 116 (dk_at dksX4_letters_8 8 rfl rfl)
theorem dX4_letters_223 : decode cX4_letters 223 = .ok (.invokestatic 165, 3) := dk_184 0 165 (dk_at dksX4_letters_8 10 rfl rfl)
theorem dX4_letters_226 : decode cX4_letters 226 = .ok (.lreturn, 1) := dk_173 (dk_at dksX4_letters_8 13 rfl rfl)
theorem dX4_letters_227 : decode cX4_letters 227 = .ok (.bipush 99, 2) := dk_16 99 (dk_at dksX4_letters_8 14 rfl rfl)
theorem dX4_letters_229 : decode cX4_letters 229 = .ok (.bipush 97, 2) := dk_16 97 (dk_at dksX4_letters_8 16 rfl rfl)
theorem dX4_letters_231 : decode cX4_letters 231 = .ok (.bipush 116, 2) := dk_16 116 (dk_at dksX4_letters_8 18 rfl rfl)
theorem dX4_letters_233 : decode cX4_letters 233 = .ok (.iconst 0, 1) := dk_3 (dk_at dksX4_letters_8 20 rfl rfl)
theorem dX4_letters_234 : decode cX4_letters 234 = .ok (.iconst 0, 1) := dk_3 (dk_at dksX4_letters_8 21 rfl rfl)
theorem dX4_letters_235 : decode cX4_letters 235 = .ok (.iconst 0, 1) := dk_3 (dk_at dksX4_letters_8 22 rfl rfl)
theorem dX4_letters_236 : decode cX4_letters 236 = .ok (.iconst 0, 1) := dk_3 (dk_at dksX4_letters_8 23 rfl rfl)
theorem dX4_letters_237 : decode cX4_letters 237 = .ok (.invokestatic 165, 3) := dk_184 0 165 (dk_at dksX4_letters_9 0 rfl rfl)
theorem dX4_letters_240 : decode cX4_letters 240 = .ok (.lreturn, 1) := dk_173 (dk_at dksX4_letters_9 3 rfl rfl)
theorem dX4_letters_241 : decode cX4_letters 241 = .ok (.bipush 111, 2) := dk_16 111 (dk_at dksX4_letters_9 4 rfl rfl)
theorem dX4_letters_243 : decode cX4_letters 243 = .ok (.bipush 100, 2) := dk_16 100 (dk_at dksX4_letters_9 6 rfl rfl)
theorem dX4_letters_245 : decode cX4_letters 245 = .ok (.bipush 100, 2) := dk_16 100 (dk_at dksX4_letters_9 8 rfl rfl)
theorem dX4_letters_247 : decode cX4_letters 247 = .ok (.bipush 115, 2) := dk_16 115 (dk_at dksX4_letters_9 10 rfl rfl)
theorem dX4_letters_249 : decode cX4_letters 249 = .ok (.iconst 0, 1) := dk_3 (dk_at dksX4_letters_9 12 rfl rfl)
theorem dX4_letters_250 : decode cX4_letters 250 = .ok (.iconst 0, 1) := dk_3 (dk_at dksX4_letters_9 13 rfl rfl)
theorem dX4_letters_251 : decode cX4_letters 251 = .ok (.iconst 0, 1) := dk_3 (dk_at dksX4_letters_9 14 rfl rfl)
theorem dX4_letters_252 : decode cX4_letters 252 = .ok (.invokestatic 165, 3) := dk_184 0 165 (dk_at dksX4_letters_9 15 rfl rfl)
theorem dX4_letters_255 : decode cX4_letters 255 = .ok (.lreturn, 1) := dk_173 (dk_at dksX4_letters_9 18 rfl rfl)
theorem dX4_letters_256 : decode cX4_letters 256 = .ok (.bipush 97, 2) := dk_16 97 (dk_at dksX4_letters_9 19 rfl rfl)
theorem dX4_letters_258 : decode cX4_letters 258 = .ok (.bipush 110, 2) := dk_16 110 (dk_at dksX4_letters_9 21 rfl rfl)
theorem dX4_letters_260 : decode cX4_letters 260 = .ok (.bipush 100, 2) := dk_16 100 (dk_at dksX4_letters_10 0 rfl rfl)
theorem dX4_letters_262 : decode cX4_letters 262 = .ok (.iconst 0, 1) := dk_3 (dk_at dksX4_letters_10 2 rfl rfl)
theorem dX4_letters_263 : decode cX4_letters 263 = .ok (.iconst 0, 1) := dk_3 (dk_at dksX4_letters_10 3 rfl rfl)
theorem dX4_letters_264 : decode cX4_letters 264 = .ok (.iconst 0, 1) := dk_3 (dk_at dksX4_letters_10 4 rfl rfl)
theorem dX4_letters_265 : decode cX4_letters 265 = .ok (.iconst 0, 1) := dk_3 (dk_at dksX4_letters_10 5 rfl rfl)
theorem dX4_letters_266 : decode cX4_letters 266 = .ok (.invokestatic 165, 3) := dk_184 0 165 (dk_at dksX4_letters_10 6 rfl rfl)
theorem dX4_letters_269 : decode cX4_letters 269 = .ok (.lreturn, 1) := dk_173 (dk_at dksX4_letters_10 9 rfl rfl)
theorem dX4_letters_270 : decode cX4_letters 270 = .ok (.bipush 111, 2) := dk_16 111 (dk_at dksX4_letters_10 10 rfl rfl)
theorem dX4_letters_272 : decode cX4_letters 272 = .ok (.bipush 114, 2) := dk_16 114 (dk_at dksX4_letters_10 12 rfl rfl)
theorem dX4_letters_274 : decode cX4_letters 274 = .ok (.iconst 0, 1) := dk_3 (dk_at dksX4_letters_10 14 rfl rfl)
theorem dX4_letters_275 : decode cX4_letters 275 = .ok (.iconst 0, 1) := dk_3 (dk_at dksX4_letters_10 15 rfl rfl)
theorem dX4_letters_276 : decode cX4_letters 276 = .ok (.iconst 0, 1) := dk_3 (dk_at dksX4_letters_10 16 rfl rfl)
theorem dX4_letters_277 : decode cX4_letters 277 = .ok (.iconst 0, 1) := dk_3 (dk_at dksX4_letters_10 17 rfl rfl)
theorem dX4_letters_278 : decode cX4_letters 278 = .ok (.iconst 0, 1) := dk_3 (dk_at dksX4_letters_10 18 rfl rfl)
theorem dX4_letters_279 : decode cX4_letters 279 = .ok (.invokestatic 165, 3) := dk_184 0 165 (dk_at dksX4_letters_10 19 rfl rfl)
theorem dX4_letters_282 : decode cX4_letters 282 = .ok (.lreturn, 1) := dk_173 (dk_at dksX4_letters_10 22 rfl rfl)
theorem dX4_letters_283 : decode cX4_letters 283 = .ok (.bipush 110, 2) := dk_16 110 (dk_at dksX4_letters_11 0 rfl rfl)
theorem dX4_letters_285 : decode cX4_letters 285 = .ok (.bipush 111, 2) := dk_16 111 (dk_at dksX4_letters_11 2 rfl rfl)
theorem dX4_letters_287 : decode cX4_letters 287 = .ok (.bipush 116, 2) := dk_16 116 (dk_at dksX4_letters_11 4 rfl rfl)
theorem dX4_letters_289 : decode cX4_letters 289 = .ok (.iconst 0, 1) := dk_3 (dk_at dksX4_letters_11 6 rfl rfl)
theorem dX4_letters_290 : decode cX4_letters 290 = .ok (.iconst 0, 1) := dk_3 (dk_at dksX4_letters_11 7 rfl rfl)
theorem dX4_letters_291 : decode cX4_letters 291 = .ok (.iconst 0, 1) := dk_3 (dk_at dksX4_letters_11 8 rfl rfl)
theorem dX4_letters_292 : decode cX4_letters 292 = .ok (.iconst 0, 1) := dk_3 (dk_at dksX4_letters_11 9 rfl rfl)
theorem dX4_letters_293 : decode cX4_letters 293 = .ok (.invokestatic 165, 3) := dk_184 0 165 (dk_at dksX4_letters_11 10 rfl rfl)
theorem dX4_letters_296 : decode cX4_letters 296 = .ok (.lreturn, 1) := dk_173 (dk_at dksX4_letters_11 13 rfl rfl)
abbrev cX4_spelled : ByteArray := prog_13_method_15_code
def yX4_spelled : MethodName := ⟨RX4, "spelled", "(IIIIIII)J"⟩
def dkwX4_spelled_4 : List UInt8 := [16, 96, 100, 133, 129, 55, 7, 22, 7, 173]
abbrev dktX4_spelled_4 : List UInt8 := dkwX4_spelled_4 ++ []
def dkwX4_spelled_3 : List UInt8 := [22, 7, 8, 121, 21, 5, 16, 96, 100, 133, 129, 55, 7, 21, 6, 153, 0, 16, 22, 7, 8, 121, 21, 6]
abbrev dktX4_spelled_3 : List UInt8 := dkwX4_spelled_3 ++ dktX4_spelled_4
def dkwX4_spelled_2 : List UInt8 := [21, 4, 153, 0, 16, 22, 7, 8, 121, 21, 4, 16, 96, 100, 133, 129, 55, 7, 21, 5, 153, 0, 16]
abbrev dktX4_spelled_2 : List UInt8 := dkwX4_spelled_2 ++ dktX4_spelled_3
def dkwX4_spelled_1 : List UInt8 := [28, 16, 96, 100, 133, 129, 55, 7, 29, 153, 0, 15, 22, 7, 8, 121, 29, 16, 96, 100, 133, 129, 55, 7]
abbrev dktX4_spelled_1 : List UInt8 := dkwX4_spelled_1 ++ dktX4_spelled_2
def dkwX4_spelled_0 : List UInt8 := [26, 133, 20, 0, 163, 101, 8, 121, 27, 16, 96, 100, 133, 129, 55, 7, 28, 153, 0, 15, 22, 7, 8, 121]
abbrev dktX4_spelled_0 : List UInt8 := dkwX4_spelled_0 ++ dktX4_spelled_1
theorem dksX4_spelled_0 : cX4_spelled.data.toList.drop 0 = dktX4_spelled_0 := by decide +kernel
theorem dksX4_spelled_1 : cX4_spelled.data.toList.drop 24 = dktX4_spelled_1 := dk_seg dksX4_spelled_0 24 rfl rfl
theorem dksX4_spelled_2 : cX4_spelled.data.toList.drop 48 = dktX4_spelled_2 := dk_seg dksX4_spelled_1 24 rfl rfl
theorem dksX4_spelled_3 : cX4_spelled.data.toList.drop 71 = dktX4_spelled_3 := dk_seg dksX4_spelled_2 23 rfl rfl
theorem dksX4_spelled_4 : cX4_spelled.data.toList.drop 95 = dktX4_spelled_4 := dk_seg dksX4_spelled_3 24 rfl rfl
theorem dX4_spelled_0 : decode cX4_spelled 0 = .ok (.iload_n 0, 1) := dk_26 (dk_at dksX4_spelled_0 0 rfl rfl)
theorem dX4_spelled_1 : decode cX4_spelled 1 = .ok (.i2l, 1) := dk_133 (dk_at dksX4_spelled_0 1 rfl rfl)
theorem dX4_spelled_2 : decode cX4_spelled 2 = .ok (.ldc2_w 163, 3) := dk_20 0 163 (dk_at dksX4_spelled_0 2 rfl rfl)
theorem dX4_spelled_5 : decode cX4_spelled 5 = .ok (.lsub, 1) := dk_101 (dk_at dksX4_spelled_0 5 rfl rfl)
theorem dX4_spelled_6 : decode cX4_spelled 6 = .ok (.iconst 5, 1) := dk_8 (dk_at dksX4_spelled_0 6 rfl rfl)
theorem dX4_spelled_7 : decode cX4_spelled 7 = .ok (.lshl, 1) := dk_121 (dk_at dksX4_spelled_0 7 rfl rfl)
theorem dX4_spelled_8 : decode cX4_spelled 8 = .ok (.iload_n 1, 1) := dk_27 (dk_at dksX4_spelled_0 8 rfl rfl)
theorem dX4_spelled_9 : decode cX4_spelled 9 = .ok (.bipush 96, 2) := dk_16 96 (dk_at dksX4_spelled_0 9 rfl rfl)
theorem dX4_spelled_11 : decode cX4_spelled 11 = .ok (.isub, 1) := dk_100 (dk_at dksX4_spelled_0 11 rfl rfl)
theorem dX4_spelled_12 : decode cX4_spelled 12 = .ok (.i2l, 1) := dk_133 (dk_at dksX4_spelled_0 12 rfl rfl)
theorem dX4_spelled_13 : decode cX4_spelled 13 = .ok (.lor, 1) := dk_129 (dk_at dksX4_spelled_0 13 rfl rfl)
theorem dX4_spelled_14 : decode cX4_spelled 14 = .ok (.lstore 7, 2) := dk_55 7 (dk_at dksX4_spelled_0 14 rfl rfl)
theorem dX4_spelled_16 : decode cX4_spelled 16 = .ok (.iload_n 2, 1) := dk_28 (dk_at dksX4_spelled_0 16 rfl rfl)
theorem dX4_spelled_17 : decode cX4_spelled 17 = .ok (.ifCond .eq 15, 3) := dk_153 0 15 (dk_at dksX4_spelled_0 17 rfl rfl)
theorem dX4_spelled_20 : decode cX4_spelled 20 = .ok (.lload 7, 2) := dk_22 7 (dk_at dksX4_spelled_0 20 rfl rfl)
theorem dX4_spelled_22 : decode cX4_spelled 22 = .ok (.iconst 5, 1) := dk_8 (dk_at dksX4_spelled_0 22 rfl rfl)
theorem dX4_spelled_23 : decode cX4_spelled 23 = .ok (.lshl, 1) := dk_121 (dk_at dksX4_spelled_0 23 rfl rfl)
theorem dX4_spelled_24 : decode cX4_spelled 24 = .ok (.iload_n 2, 1) := dk_28 (dk_at dksX4_spelled_1 0 rfl rfl)
theorem dX4_spelled_25 : decode cX4_spelled 25 = .ok (.bipush 96, 2) := dk_16 96 (dk_at dksX4_spelled_1 1 rfl rfl)
theorem dX4_spelled_27 : decode cX4_spelled 27 = .ok (.isub, 1) := dk_100 (dk_at dksX4_spelled_1 3 rfl rfl)
theorem dX4_spelled_28 : decode cX4_spelled 28 = .ok (.i2l, 1) := dk_133 (dk_at dksX4_spelled_1 4 rfl rfl)
theorem dX4_spelled_29 : decode cX4_spelled 29 = .ok (.lor, 1) := dk_129 (dk_at dksX4_spelled_1 5 rfl rfl)
theorem dX4_spelled_30 : decode cX4_spelled 30 = .ok (.lstore 7, 2) := dk_55 7 (dk_at dksX4_spelled_1 6 rfl rfl)
theorem dX4_spelled_32 : decode cX4_spelled 32 = .ok (.iload_n 3, 1) := dk_29 (dk_at dksX4_spelled_1 8 rfl rfl)
theorem dX4_spelled_33 : decode cX4_spelled 33 = .ok (.ifCond .eq 15, 3) := dk_153 0 15 (dk_at dksX4_spelled_1 9 rfl rfl)
theorem dX4_spelled_36 : decode cX4_spelled 36 = .ok (.lload 7, 2) := dk_22 7 (dk_at dksX4_spelled_1 12 rfl rfl)
theorem dX4_spelled_38 : decode cX4_spelled 38 = .ok (.iconst 5, 1) := dk_8 (dk_at dksX4_spelled_1 14 rfl rfl)
theorem dX4_spelled_39 : decode cX4_spelled 39 = .ok (.lshl, 1) := dk_121 (dk_at dksX4_spelled_1 15 rfl rfl)
theorem dX4_spelled_40 : decode cX4_spelled 40 = .ok (.iload_n 3, 1) := dk_29 (dk_at dksX4_spelled_1 16 rfl rfl)
theorem dX4_spelled_41 : decode cX4_spelled 41 = .ok (.bipush 96, 2) := dk_16 96 (dk_at dksX4_spelled_1 17 rfl rfl)
theorem dX4_spelled_43 : decode cX4_spelled 43 = .ok (.isub, 1) := dk_100 (dk_at dksX4_spelled_1 19 rfl rfl)
theorem dX4_spelled_44 : decode cX4_spelled 44 = .ok (.i2l, 1) := dk_133 (dk_at dksX4_spelled_1 20 rfl rfl)
theorem dX4_spelled_45 : decode cX4_spelled 45 = .ok (.lor, 1) := dk_129 (dk_at dksX4_spelled_1 21 rfl rfl)
theorem dX4_spelled_46 : decode cX4_spelled 46 = .ok (.lstore 7, 2) := dk_55 7 (dk_at dksX4_spelled_1 22 rfl rfl)
theorem dX4_spelled_48 : decode cX4_spelled 48 = .ok (.iload 4, 2) := dk_21 4 (dk_at dksX4_spelled_2 0 rfl rfl)
theorem dX4_spelled_50 : decode cX4_spelled 50 = .ok (.ifCond .eq 16, 3) := dk_153 0 16 (dk_at dksX4_spelled_2 2 rfl rfl)
theorem dX4_spelled_53 : decode cX4_spelled 53 = .ok (.lload 7, 2) := dk_22 7 (dk_at dksX4_spelled_2 5 rfl rfl)
theorem dX4_spelled_55 : decode cX4_spelled 55 = .ok (.iconst 5, 1) := dk_8 (dk_at dksX4_spelled_2 7 rfl rfl)
theorem dX4_spelled_56 : decode cX4_spelled 56 = .ok (.lshl, 1) := dk_121 (dk_at dksX4_spelled_2 8 rfl rfl)
theorem dX4_spelled_57 : decode cX4_spelled 57 = .ok (.iload 4, 2) := dk_21 4 (dk_at dksX4_spelled_2 9 rfl rfl)
theorem dX4_spelled_59 : decode cX4_spelled 59 = .ok (.bipush 96, 2) := dk_16 96 (dk_at dksX4_spelled_2 11 rfl rfl)
theorem dX4_spelled_61 : decode cX4_spelled 61 = .ok (.isub, 1) := dk_100 (dk_at dksX4_spelled_2 13 rfl rfl)
theorem dX4_spelled_62 : decode cX4_spelled 62 = .ok (.i2l, 1) := dk_133 (dk_at dksX4_spelled_2 14 rfl rfl)
theorem dX4_spelled_63 : decode cX4_spelled 63 = .ok (.lor, 1) := dk_129 (dk_at dksX4_spelled_2 15 rfl rfl)
theorem dX4_spelled_64 : decode cX4_spelled 64 = .ok (.lstore 7, 2) := dk_55 7 (dk_at dksX4_spelled_2 16 rfl rfl)
theorem dX4_spelled_66 : decode cX4_spelled 66 = .ok (.iload 5, 2) := dk_21 5 (dk_at dksX4_spelled_2 18 rfl rfl)
theorem dX4_spelled_68 : decode cX4_spelled 68 = .ok (.ifCond .eq 16, 3) := dk_153 0 16 (dk_at dksX4_spelled_2 20 rfl rfl)
theorem dX4_spelled_71 : decode cX4_spelled 71 = .ok (.lload 7, 2) := dk_22 7 (dk_at dksX4_spelled_3 0 rfl rfl)
theorem dX4_spelled_73 : decode cX4_spelled 73 = .ok (.iconst 5, 1) := dk_8 (dk_at dksX4_spelled_3 2 rfl rfl)
theorem dX4_spelled_74 : decode cX4_spelled 74 = .ok (.lshl, 1) := dk_121 (dk_at dksX4_spelled_3 3 rfl rfl)
theorem dX4_spelled_75 : decode cX4_spelled 75 = .ok (.iload 5, 2) := dk_21 5 (dk_at dksX4_spelled_3 4 rfl rfl)
theorem dX4_spelled_77 : decode cX4_spelled 77 = .ok (.bipush 96, 2) := dk_16 96 (dk_at dksX4_spelled_3 6 rfl rfl)
theorem dX4_spelled_79 : decode cX4_spelled 79 = .ok (.isub, 1) := dk_100 (dk_at dksX4_spelled_3 8 rfl rfl)
theorem dX4_spelled_80 : decode cX4_spelled 80 = .ok (.i2l, 1) := dk_133 (dk_at dksX4_spelled_3 9 rfl rfl)
theorem dX4_spelled_81 : decode cX4_spelled 81 = .ok (.lor, 1) := dk_129 (dk_at dksX4_spelled_3 10 rfl rfl)
theorem dX4_spelled_82 : decode cX4_spelled 82 = .ok (.lstore 7, 2) := dk_55 7 (dk_at dksX4_spelled_3 11 rfl rfl)
theorem dX4_spelled_84 : decode cX4_spelled 84 = .ok (.iload 6, 2) := dk_21 6 (dk_at dksX4_spelled_3 13 rfl rfl)
theorem dX4_spelled_86 : decode cX4_spelled 86 = .ok (.ifCond .eq 16, 3) := dk_153 0 16 (dk_at dksX4_spelled_3 15 rfl rfl)
theorem dX4_spelled_89 : decode cX4_spelled 89 = .ok (.lload 7, 2) := dk_22 7 (dk_at dksX4_spelled_3 18 rfl rfl)
theorem dX4_spelled_91 : decode cX4_spelled 91 = .ok (.iconst 5, 1) := dk_8 (dk_at dksX4_spelled_3 20 rfl rfl)
theorem dX4_spelled_92 : decode cX4_spelled 92 = .ok (.lshl, 1) := dk_121 (dk_at dksX4_spelled_3 21 rfl rfl)
theorem dX4_spelled_93 : decode cX4_spelled 93 = .ok (.iload 6, 2) := dk_21 6 (dk_at dksX4_spelled_3 22 rfl rfl)
theorem dX4_spelled_95 : decode cX4_spelled 95 = .ok (.bipush 96, 2) := dk_16 96 (dk_at dksX4_spelled_4 0 rfl rfl)
theorem dX4_spelled_97 : decode cX4_spelled 97 = .ok (.isub, 1) := dk_100 (dk_at dksX4_spelled_4 2 rfl rfl)
theorem dX4_spelled_98 : decode cX4_spelled 98 = .ok (.i2l, 1) := dk_133 (dk_at dksX4_spelled_4 3 rfl rfl)
theorem dX4_spelled_99 : decode cX4_spelled 99 = .ok (.lor, 1) := dk_129 (dk_at dksX4_spelled_4 4 rfl rfl)
theorem dX4_spelled_100 : decode cX4_spelled 100 = .ok (.lstore 7, 2) := dk_55 7 (dk_at dksX4_spelled_4 5 rfl rfl)
theorem dX4_spelled_102 : decode cX4_spelled 102 = .ok (.lload 7, 2) := dk_22 7 (dk_at dksX4_spelled_4 7 rfl rfl)
theorem dX4_spelled_104 : decode cX4_spelled 104 = .ok (.lreturn, 1) := dk_173 (dk_at dksX4_spelled_4 9 rfl rfl)
abbrev cX4_readsTown : ByteArray := prog_13_method_36_code
def yX4_readsTown : MethodName := ⟨RX4, "readsTown", "()V"⟩
def dkwX4_readsTown_4 : List UInt8 := [16, 20, 182, 0, 239, 79, 42, 182, 0, 176, 153, 0, 13, 42, 89, 180, 0, 236, 4, 96, 181, 0, 236, 177]
abbrev dktX4_readsTown_4 : List UInt8 := dkwX4_readsTown_4 ++ []
def dkwX4_readsTown_3 : List UInt8 := [96, 3, 79, 42, 180, 0, 44, 27, 42, 3, 16, 20, 182, 0, 239, 79, 42, 180, 0, 47, 27, 42, 3]
abbrev dktX4_readsTown_3 : List UInt8 := dkwX4_readsTown_3 ++ dktX4_readsTown_4
def dkwX4_readsTown_2 : List UInt8 := [42, 180, 0, 62, 16, 9, 27, 96, 42, 3, 17, 3, 231, 182, 0, 239, 79, 42, 180, 0, 62, 16, 17, 27]
abbrev dktX4_readsTown_2 : List UInt8 := dkwX4_readsTown_2 ++ dktX4_readsTown_3
def dkwX4_readsTown_1 : List UInt8 := [182, 0, 180, 42, 180, 0, 236, 60, 42, 180, 0, 62, 4, 27, 96, 42, 3, 17, 3, 231, 182, 0, 239, 79]
abbrev dktX4_readsTown_1 : List UInt8 := dkwX4_readsTown_1 ++ dktX4_readsTown_2
def dkwX4_readsTown_0 : List UInt8 := [42, 180, 0, 236, 16, 8, 160, 0, 8, 42, 5, 182, 0, 183, 42, 182, 0, 176, 154, 0, 4, 177, 42]
abbrev dktX4_readsTown_0 : List UInt8 := dkwX4_readsTown_0 ++ dktX4_readsTown_1
theorem dksX4_readsTown_0 : cX4_readsTown.data.toList.drop 0 = dktX4_readsTown_0 := by decide +kernel
theorem dksX4_readsTown_1 : cX4_readsTown.data.toList.drop 23 = dktX4_readsTown_1 := dk_seg dksX4_readsTown_0 23 rfl rfl
theorem dksX4_readsTown_2 : cX4_readsTown.data.toList.drop 47 = dktX4_readsTown_2 := dk_seg dksX4_readsTown_1 24 rfl rfl
theorem dksX4_readsTown_3 : cX4_readsTown.data.toList.drop 71 = dktX4_readsTown_3 := dk_seg dksX4_readsTown_2 24 rfl rfl
theorem dksX4_readsTown_4 : cX4_readsTown.data.toList.drop 94 = dktX4_readsTown_4 := dk_seg dksX4_readsTown_3 23 rfl rfl
theorem dX4_readsTown_0 : decode cX4_readsTown 0 = .ok (.aload_n 0, 1) := dk_42 (dk_at dksX4_readsTown_0 0 rfl rfl)
theorem dX4_readsTown_1 : decode cX4_readsTown 1 = .ok (.getfield 236, 3) := dk_180 0 236 (dk_at dksX4_readsTown_0 1 rfl rfl)
theorem dX4_readsTown_4 : decode cX4_readsTown 4 = .ok (.bipush 8, 2) := dk_16 8 (dk_at dksX4_readsTown_0 4 rfl rfl)
theorem dX4_readsTown_6 : decode cX4_readsTown 6 = .ok (.if_icmp .ne 8, 3) := dk_160 0 8 (dk_at dksX4_readsTown_0 6 rfl rfl)
theorem dX4_readsTown_9 : decode cX4_readsTown 9 = .ok (.aload_n 0, 1) := dk_42 (dk_at dksX4_readsTown_0 9 rfl rfl)
theorem dX4_readsTown_10 : decode cX4_readsTown 10 = .ok (.iconst 2, 1) := dk_5 (dk_at dksX4_readsTown_0 10 rfl rfl)
theorem dX4_readsTown_11 : decode cX4_readsTown 11 = .ok (.invokevirtual 183, 3) := dk_182 0 183 (dk_at dksX4_readsTown_0 11 rfl rfl)
theorem dX4_readsTown_14 : decode cX4_readsTown 14 = .ok (.aload_n 0, 1) := dk_42 (dk_at dksX4_readsTown_0 14 rfl rfl)
theorem dX4_readsTown_15 : decode cX4_readsTown 15 = .ok (.invokevirtual 176, 3) := dk_182 0 176 (dk_at dksX4_readsTown_0 15 rfl rfl)
theorem dX4_readsTown_18 : decode cX4_readsTown 18 = .ok (.ifCond .ne 4, 3) := dk_154 0 4 (dk_at dksX4_readsTown_0 18 rfl rfl)
theorem dX4_readsTown_21 : decode cX4_readsTown 21 = .ok (.return_, 1) := dk_177 (dk_at dksX4_readsTown_0 21 rfl rfl)
theorem dX4_readsTown_22 : decode cX4_readsTown 22 = .ok (.aload_n 0, 1) := dk_42 (dk_at dksX4_readsTown_0 22 rfl rfl)
theorem dX4_readsTown_23 : decode cX4_readsTown 23 = .ok (.invokevirtual 180, 3) := dk_182 0 180 (dk_at dksX4_readsTown_1 0 rfl rfl)
theorem dX4_readsTown_26 : decode cX4_readsTown 26 = .ok (.aload_n 0, 1) := dk_42 (dk_at dksX4_readsTown_1 3 rfl rfl)
theorem dX4_readsTown_27 : decode cX4_readsTown 27 = .ok (.getfield 236, 3) := dk_180 0 236 (dk_at dksX4_readsTown_1 4 rfl rfl)
theorem dX4_readsTown_30 : decode cX4_readsTown 30 = .ok (.istore_n 1, 1) := dk_60 (dk_at dksX4_readsTown_1 7 rfl rfl)
theorem dX4_readsTown_31 : decode cX4_readsTown 31 = .ok (.aload_n 0, 1) := dk_42 (dk_at dksX4_readsTown_1 8 rfl rfl)
theorem dX4_readsTown_32 : decode cX4_readsTown 32 = .ok (.getfield 62, 3) := dk_180 0 62 (dk_at dksX4_readsTown_1 9 rfl rfl)
theorem dX4_readsTown_35 : decode cX4_readsTown 35 = .ok (.iconst 1, 1) := dk_4 (dk_at dksX4_readsTown_1 12 rfl rfl)
theorem dX4_readsTown_36 : decode cX4_readsTown 36 = .ok (.iload_n 1, 1) := dk_27 (dk_at dksX4_readsTown_1 13 rfl rfl)
theorem dX4_readsTown_37 : decode cX4_readsTown 37 = .ok (.iadd, 1) := dk_96 (dk_at dksX4_readsTown_1 14 rfl rfl)
theorem dX4_readsTown_38 : decode cX4_readsTown 38 = .ok (.aload_n 0, 1) := dk_42 (dk_at dksX4_readsTown_1 15 rfl rfl)
theorem dX4_readsTown_39 : decode cX4_readsTown 39 = .ok (.iconst 0, 1) := dk_3 (dk_at dksX4_readsTown_1 16 rfl rfl)
theorem dX4_readsTown_40 : decode cX4_readsTown 40 = .ok (.sipush 999, 3) := dk_17 3 231 (dk_at dksX4_readsTown_1 17 rfl rfl)
theorem dX4_readsTown_43 : decode cX4_readsTown 43 = .ok (.invokevirtual 239, 3) := dk_182 0 239 (dk_at dksX4_readsTown_1 20 rfl rfl)
theorem dX4_readsTown_46 : decode cX4_readsTown 46 = .ok (.iastore, 1) := dk_79 (dk_at dksX4_readsTown_1 23 rfl rfl)
theorem dX4_readsTown_47 : decode cX4_readsTown 47 = .ok (.aload_n 0, 1) := dk_42 (dk_at dksX4_readsTown_2 0 rfl rfl)
theorem dX4_readsTown_48 : decode cX4_readsTown 48 = .ok (.getfield 62, 3) := dk_180 0 62 (dk_at dksX4_readsTown_2 1 rfl rfl)
theorem dX4_readsTown_51 : decode cX4_readsTown 51 = .ok (.bipush 9, 2) := dk_16 9 (dk_at dksX4_readsTown_2 4 rfl rfl)
theorem dX4_readsTown_53 : decode cX4_readsTown 53 = .ok (.iload_n 1, 1) := dk_27 (dk_at dksX4_readsTown_2 6 rfl rfl)
theorem dX4_readsTown_54 : decode cX4_readsTown 54 = .ok (.iadd, 1) := dk_96 (dk_at dksX4_readsTown_2 7 rfl rfl)
theorem dX4_readsTown_55 : decode cX4_readsTown 55 = .ok (.aload_n 0, 1) := dk_42 (dk_at dksX4_readsTown_2 8 rfl rfl)
theorem dX4_readsTown_56 : decode cX4_readsTown 56 = .ok (.iconst 0, 1) := dk_3 (dk_at dksX4_readsTown_2 9 rfl rfl)
theorem dX4_readsTown_57 : decode cX4_readsTown 57 = .ok (.sipush 999, 3) := dk_17 3 231 (dk_at dksX4_readsTown_2 10 rfl rfl)
theorem dX4_readsTown_60 : decode cX4_readsTown 60 = .ok (.invokevirtual 239, 3) := dk_182 0 239 (dk_at dksX4_readsTown_2 13 rfl rfl)
theorem dX4_readsTown_63 : decode cX4_readsTown 63 = .ok (.iastore, 1) := dk_79 (dk_at dksX4_readsTown_2 16 rfl rfl)
theorem dX4_readsTown_64 : decode cX4_readsTown 64 = .ok (.aload_n 0, 1) := dk_42 (dk_at dksX4_readsTown_2 17 rfl rfl)
theorem dX4_readsTown_65 : decode cX4_readsTown 65 = .ok (.getfield 62, 3) := dk_180 0 62 (dk_at dksX4_readsTown_2 18 rfl rfl)
theorem dX4_readsTown_68 : decode cX4_readsTown 68 = .ok (.bipush 17, 2) := dk_16 17 (dk_at dksX4_readsTown_2 21 rfl rfl)
theorem dX4_readsTown_70 : decode cX4_readsTown 70 = .ok (.iload_n 1, 1) := dk_27 (dk_at dksX4_readsTown_2 23 rfl rfl)
theorem dX4_readsTown_71 : decode cX4_readsTown 71 = .ok (.iadd, 1) := dk_96 (dk_at dksX4_readsTown_3 0 rfl rfl)
theorem dX4_readsTown_72 : decode cX4_readsTown 72 = .ok (.iconst 0, 1) := dk_3 (dk_at dksX4_readsTown_3 1 rfl rfl)
theorem dX4_readsTown_73 : decode cX4_readsTown 73 = .ok (.iastore, 1) := dk_79 (dk_at dksX4_readsTown_3 2 rfl rfl)
theorem dX4_readsTown_74 : decode cX4_readsTown 74 = .ok (.aload_n 0, 1) := dk_42 (dk_at dksX4_readsTown_3 3 rfl rfl)
theorem dX4_readsTown_75 : decode cX4_readsTown 75 = .ok (.getfield 44, 3) := dk_180 0 44 (dk_at dksX4_readsTown_3 4 rfl rfl)
theorem dX4_readsTown_78 : decode cX4_readsTown 78 = .ok (.iload_n 1, 1) := dk_27 (dk_at dksX4_readsTown_3 7 rfl rfl)
theorem dX4_readsTown_79 : decode cX4_readsTown 79 = .ok (.aload_n 0, 1) := dk_42 (dk_at dksX4_readsTown_3 8 rfl rfl)
theorem dX4_readsTown_80 : decode cX4_readsTown 80 = .ok (.iconst 0, 1) := dk_3 (dk_at dksX4_readsTown_3 9 rfl rfl)
theorem dX4_readsTown_81 : decode cX4_readsTown 81 = .ok (.bipush 20, 2) := dk_16 20 (dk_at dksX4_readsTown_3 10 rfl rfl)
theorem dX4_readsTown_83 : decode cX4_readsTown 83 = .ok (.invokevirtual 239, 3) := dk_182 0 239 (dk_at dksX4_readsTown_3 12 rfl rfl)
theorem dX4_readsTown_86 : decode cX4_readsTown 86 = .ok (.iastore, 1) := dk_79 (dk_at dksX4_readsTown_3 15 rfl rfl)
theorem dX4_readsTown_87 : decode cX4_readsTown 87 = .ok (.aload_n 0, 1) := dk_42 (dk_at dksX4_readsTown_3 16 rfl rfl)
theorem dX4_readsTown_88 : decode cX4_readsTown 88 = .ok (.getfield 47, 3) := dk_180 0 47 (dk_at dksX4_readsTown_3 17 rfl rfl)
theorem dX4_readsTown_91 : decode cX4_readsTown 91 = .ok (.iload_n 1, 1) := dk_27 (dk_at dksX4_readsTown_3 20 rfl rfl)
theorem dX4_readsTown_92 : decode cX4_readsTown 92 = .ok (.aload_n 0, 1) := dk_42 (dk_at dksX4_readsTown_3 21 rfl rfl)
theorem dX4_readsTown_93 : decode cX4_readsTown 93 = .ok (.iconst 0, 1) := dk_3 (dk_at dksX4_readsTown_3 22 rfl rfl)
theorem dX4_readsTown_94 : decode cX4_readsTown 94 = .ok (.bipush 20, 2) := dk_16 20 (dk_at dksX4_readsTown_4 0 rfl rfl)
theorem dX4_readsTown_96 : decode cX4_readsTown 96 = .ok (.invokevirtual 239, 3) := dk_182 0 239 (dk_at dksX4_readsTown_4 2 rfl rfl)
theorem dX4_readsTown_99 : decode cX4_readsTown 99 = .ok (.iastore, 1) := dk_79 (dk_at dksX4_readsTown_4 5 rfl rfl)
theorem dX4_readsTown_100 : decode cX4_readsTown 100 = .ok (.aload_n 0, 1) := dk_42 (dk_at dksX4_readsTown_4 6 rfl rfl)
theorem dX4_readsTown_101 : decode cX4_readsTown 101 = .ok (.invokevirtual 176, 3) := dk_182 0 176 (dk_at dksX4_readsTown_4 7 rfl rfl)
theorem dX4_readsTown_104 : decode cX4_readsTown 104 = .ok (.ifCond .eq 13, 3) := dk_153 0 13 (dk_at dksX4_readsTown_4 10 rfl rfl)
theorem dX4_readsTown_107 : decode cX4_readsTown 107 = .ok (.aload_n 0, 1) := dk_42 (dk_at dksX4_readsTown_4 13 rfl rfl)
theorem dX4_readsTown_108 : decode cX4_readsTown 108 = .ok (.dup, 1) := dk_89 (dk_at dksX4_readsTown_4 14 rfl rfl)
theorem dX4_readsTown_109 : decode cX4_readsTown 109 = .ok (.getfield 236, 3) := dk_180 0 236 (dk_at dksX4_readsTown_4 15 rfl rfl)
theorem dX4_readsTown_112 : decode cX4_readsTown 112 = .ok (.iconst 1, 1) := dk_4 (dk_at dksX4_readsTown_4 18 rfl rfl)
theorem dX4_readsTown_113 : decode cX4_readsTown 113 = .ok (.iadd, 1) := dk_96 (dk_at dksX4_readsTown_4 19 rfl rfl)
theorem dX4_readsTown_114 : decode cX4_readsTown 114 = .ok (.putfield 236, 3) := dk_181 0 236 (dk_at dksX4_readsTown_4 20 rfl rfl)
theorem dX4_readsTown_117 : decode cX4_readsTown 117 = .ok (.return_, 1) := dk_177 (dk_at dksX4_readsTown_4 23 rfl rfl)
abbrev cX4_wrong : ByteArray := prog_13_method_18_code
def yX4_wrong : MethodName := ⟨RX4, "wrong", "(I)V"⟩
def dkwX4_wrong_0 : List UInt8 := [42, 180, 0, 173, 153, 0, 4, 177, 42, 27, 181, 0, 173, 42, 42, 180, 0, 137, 181, 0, 38, 177]
abbrev dktX4_wrong_0 : List UInt8 := dkwX4_wrong_0 ++ []
theorem dksX4_wrong_0 : cX4_wrong.data.toList.drop 0 = dktX4_wrong_0 := by decide +kernel
theorem dX4_wrong_0 : decode cX4_wrong 0 = .ok (.aload_n 0, 1) := dk_42 (dk_at dksX4_wrong_0 0 rfl rfl)
theorem dX4_wrong_1 : decode cX4_wrong 1 = .ok (.getfield 173, 3) := dk_180 0 173 (dk_at dksX4_wrong_0 1 rfl rfl)
theorem dX4_wrong_4 : decode cX4_wrong 4 = .ok (.ifCond .eq 4, 3) := dk_153 0 4 (dk_at dksX4_wrong_0 4 rfl rfl)
theorem dX4_wrong_7 : decode cX4_wrong 7 = .ok (.return_, 1) := dk_177 (dk_at dksX4_wrong_0 7 rfl rfl)
theorem dX4_wrong_8 : decode cX4_wrong 8 = .ok (.aload_n 0, 1) := dk_42 (dk_at dksX4_wrong_0 8 rfl rfl)
theorem dX4_wrong_9 : decode cX4_wrong 9 = .ok (.iload_n 1, 1) := dk_27 (dk_at dksX4_wrong_0 9 rfl rfl)
theorem dX4_wrong_10 : decode cX4_wrong 10 = .ok (.putfield 173, 3) := dk_181 0 173 (dk_at dksX4_wrong_0 10 rfl rfl)
theorem dX4_wrong_13 : decode cX4_wrong 13 = .ok (.aload_n 0, 1) := dk_42 (dk_at dksX4_wrong_0 13 rfl rfl)
theorem dX4_wrong_14 : decode cX4_wrong 14 = .ok (.aload_n 0, 1) := dk_42 (dk_at dksX4_wrong_0 14 rfl rfl)
theorem dX4_wrong_15 : decode cX4_wrong 15 = .ok (.getfield 137, 3) := dk_180 0 137 (dk_at dksX4_wrong_0 15 rfl rfl)
theorem dX4_wrong_18 : decode cX4_wrong 18 = .ok (.putfield 38, 3) := dk_181 0 38 (dk_at dksX4_wrong_0 18 rfl rfl)
theorem dX4_wrong_21 : decode cX4_wrong 21 = .ok (.return_, 1) := dk_177 (dk_at dksX4_wrong_0 21 rfl rfl)
abbrev cX4_number : ByteArray := prog_13_method_22_code
def yX4_number : MethodName := ⟨RX4, "number", "(II)I"⟩
def dkwX4_number_3 : List UInt8 := [29, 172]
abbrev dktX4_number_3 : List UInt8 := dkwX4_number_3 ++ []
def dkwX4_number_2 : List UInt8 := [164, 0, 8, 42, 5, 182, 0, 183, 42, 180, 0, 144, 62, 42, 182, 0, 176, 153, 0, 7, 42, 182, 0, 180]
abbrev dktX4_number_2 : List UInt8 := dkwX4_number_2 ++ dktX4_number_3
def dkwX4_number_1 : List UInt8 := [167, 0, 32, 42, 180, 0, 160, 7, 163, 0, 19, 42, 180, 0, 144, 27, 161, 0, 11, 42, 180, 0, 144, 28]
abbrev dktX4_number_1 : List UInt8 := dkwX4_number_1 ++ dktX4_number_2
def dkwX4_number_0 : List UInt8 := [42, 182, 0, 176, 154, 0, 5, 3, 172, 42, 180, 0, 150, 5, 159, 0, 11, 42, 4, 182, 0, 183]
abbrev dktX4_number_0 : List UInt8 := dkwX4_number_0 ++ dktX4_number_1
theorem dksX4_number_0 : cX4_number.data.toList.drop 0 = dktX4_number_0 := by decide +kernel
theorem dksX4_number_1 : cX4_number.data.toList.drop 22 = dktX4_number_1 := dk_seg dksX4_number_0 22 rfl rfl
theorem dksX4_number_2 : cX4_number.data.toList.drop 46 = dktX4_number_2 := dk_seg dksX4_number_1 24 rfl rfl
theorem dksX4_number_3 : cX4_number.data.toList.drop 70 = dktX4_number_3 := dk_seg dksX4_number_2 24 rfl rfl
theorem dX4_number_0 : decode cX4_number 0 = .ok (.aload_n 0, 1) := dk_42 (dk_at dksX4_number_0 0 rfl rfl)
theorem dX4_number_1 : decode cX4_number 1 = .ok (.invokevirtual 176, 3) := dk_182 0 176 (dk_at dksX4_number_0 1 rfl rfl)
theorem dX4_number_4 : decode cX4_number 4 = .ok (.ifCond .ne 5, 3) := dk_154 0 5 (dk_at dksX4_number_0 4 rfl rfl)
theorem dX4_number_7 : decode cX4_number 7 = .ok (.iconst 0, 1) := dk_3 (dk_at dksX4_number_0 7 rfl rfl)
theorem dX4_number_8 : decode cX4_number 8 = .ok (.ireturn, 1) := dk_172 (dk_at dksX4_number_0 8 rfl rfl)
theorem dX4_number_9 : decode cX4_number 9 = .ok (.aload_n 0, 1) := dk_42 (dk_at dksX4_number_0 9 rfl rfl)
theorem dX4_number_10 : decode cX4_number 10 = .ok (.getfield 150, 3) := dk_180 0 150 (dk_at dksX4_number_0 10 rfl rfl)
theorem dX4_number_13 : decode cX4_number 13 = .ok (.iconst 2, 1) := dk_5 (dk_at dksX4_number_0 13 rfl rfl)
theorem dX4_number_14 : decode cX4_number 14 = .ok (.if_icmp .eq 11, 3) := dk_159 0 11 (dk_at dksX4_number_0 14 rfl rfl)
theorem dX4_number_17 : decode cX4_number 17 = .ok (.aload_n 0, 1) := dk_42 (dk_at dksX4_number_0 17 rfl rfl)
theorem dX4_number_18 : decode cX4_number 18 = .ok (.iconst 1, 1) := dk_4 (dk_at dksX4_number_0 18 rfl rfl)
theorem dX4_number_19 : decode cX4_number 19 = .ok (.invokevirtual 183, 3) := dk_182 0 183 (dk_at dksX4_number_0 19 rfl rfl)
theorem dX4_number_22 : decode cX4_number 22 = .ok (.goto 32, 3) := dk_167 0 32 (dk_at dksX4_number_1 0 rfl rfl)
theorem dX4_number_25 : decode cX4_number 25 = .ok (.aload_n 0, 1) := dk_42 (dk_at dksX4_number_1 3 rfl rfl)
theorem dX4_number_26 : decode cX4_number 26 = .ok (.getfield 160, 3) := dk_180 0 160 (dk_at dksX4_number_1 4 rfl rfl)
theorem dX4_number_29 : decode cX4_number 29 = .ok (.iconst 4, 1) := dk_7 (dk_at dksX4_number_1 7 rfl rfl)
theorem dX4_number_30 : decode cX4_number 30 = .ok (.if_icmp .gt 19, 3) := dk_163 0 19 (dk_at dksX4_number_1 8 rfl rfl)
theorem dX4_number_33 : decode cX4_number 33 = .ok (.aload_n 0, 1) := dk_42 (dk_at dksX4_number_1 11 rfl rfl)
theorem dX4_number_34 : decode cX4_number 34 = .ok (.getfield 144, 3) := dk_180 0 144 (dk_at dksX4_number_1 12 rfl rfl)
theorem dX4_number_37 : decode cX4_number 37 = .ok (.iload_n 1, 1) := dk_27 (dk_at dksX4_number_1 15 rfl rfl)
theorem dX4_number_38 : decode cX4_number 38 = .ok (.if_icmp .lt 11, 3) := dk_161 0 11 (dk_at dksX4_number_1 16 rfl rfl)
theorem dX4_number_41 : decode cX4_number 41 = .ok (.aload_n 0, 1) := dk_42 (dk_at dksX4_number_1 19 rfl rfl)
theorem dX4_number_42 : decode cX4_number 42 = .ok (.getfield 144, 3) := dk_180 0 144 (dk_at dksX4_number_1 20 rfl rfl)
theorem dX4_number_45 : decode cX4_number 45 = .ok (.iload_n 2, 1) := dk_28 (dk_at dksX4_number_1 23 rfl rfl)
theorem dX4_number_46 : decode cX4_number 46 = .ok (.if_icmp .le 8, 3) := dk_164 0 8 (dk_at dksX4_number_2 0 rfl rfl)
theorem dX4_number_49 : decode cX4_number 49 = .ok (.aload_n 0, 1) := dk_42 (dk_at dksX4_number_2 3 rfl rfl)
theorem dX4_number_50 : decode cX4_number 50 = .ok (.iconst 2, 1) := dk_5 (dk_at dksX4_number_2 4 rfl rfl)
theorem dX4_number_51 : decode cX4_number 51 = .ok (.invokevirtual 183, 3) := dk_182 0 183 (dk_at dksX4_number_2 5 rfl rfl)
theorem dX4_number_54 : decode cX4_number 54 = .ok (.aload_n 0, 1) := dk_42 (dk_at dksX4_number_2 8 rfl rfl)
theorem dX4_number_55 : decode cX4_number 55 = .ok (.getfield 144, 3) := dk_180 0 144 (dk_at dksX4_number_2 9 rfl rfl)
theorem dX4_number_58 : decode cX4_number 58 = .ok (.istore_n 3, 1) := dk_62 (dk_at dksX4_number_2 12 rfl rfl)
theorem dX4_number_59 : decode cX4_number 59 = .ok (.aload_n 0, 1) := dk_42 (dk_at dksX4_number_2 13 rfl rfl)
theorem dX4_number_60 : decode cX4_number 60 = .ok (.invokevirtual 176, 3) := dk_182 0 176 (dk_at dksX4_number_2 14 rfl rfl)
theorem dX4_number_63 : decode cX4_number 63 = .ok (.ifCond .eq 7, 3) := dk_153 0 7 (dk_at dksX4_number_2 17 rfl rfl)
theorem dX4_number_66 : decode cX4_number 66 = .ok (.aload_n 0, 1) := dk_42 (dk_at dksX4_number_2 20 rfl rfl)
theorem dX4_number_67 : decode cX4_number 67 = .ok (.invokevirtual 180, 3) := dk_182 0 180 (dk_at dksX4_number_2 21 rfl rfl)
theorem dX4_number_70 : decode cX4_number 70 = .ok (.iload_n 3, 1) := dk_29 (dk_at dksX4_number_3 0 rfl rfl)
theorem dX4_number_71 : decode cX4_number 71 = .ok (.ireturn, 1) := dk_172 (dk_at dksX4_number_3 1 rfl rfl)
abbrev cX4_readsWay : ByteArray := prog_13_method_38_code
def yX4_readsWay : MethodName := ⟨RX4, "readsWay", "()V"⟩
def dkwX4_readsWay_6 : List UInt8 := [42, 182, 0, 176, 153, 0, 13, 42, 89, 180, 0, 243, 4, 96, 181, 0, 243, 177]
abbrev dktX4_readsWay_6 : List UInt8 := dkwX4_readsWay_6 ++ []
def dkwX4_readsWay_5 : List UInt8 := [42, 4, 16, 9, 182, 0, 239, 79, 42, 180, 0, 59, 42, 180, 0, 243, 42, 3, 16, 9, 182, 0, 239, 79]
abbrev dktX4_readsWay_5 : List UInt8 := dkwX4_readsWay_5 ++ dktX4_readsWay_6
def dkwX4_readsWay_4 : List UInt8 := [180, 0, 53, 42, 180, 0, 243, 42, 180, 0, 144, 79, 42, 182, 0, 180, 42, 180, 0, 56, 42, 180, 0, 243]
abbrev dktX4_readsWay_4 : List UInt8 := dkwX4_readsWay_4 ++ dktX4_readsWay_5
def dkwX4_readsWay_3 : List UInt8 := [182, 0, 183, 42, 182, 0, 176, 154, 0, 4, 177, 42, 180, 0, 50, 42, 180, 0, 243, 27, 79, 42]
abbrev dktX4_readsWay_3 : List UInt8 := dkwX4_readsWay_3 ++ dktX4_readsWay_4
def dkwX4_readsWay_2 : List UInt8 := [42, 180, 0, 144, 27, 159, 0, 15, 42, 27, 42, 180, 0, 144, 182, 0, 249, 153, 0, 8, 42, 7]
abbrev dktX4_readsWay_2 : List UInt8 := dkwX4_readsWay_2 ++ dktX4_readsWay_3
def dkwX4_readsWay_1 : List UInt8 := [182, 0, 180, 42, 42, 180, 0, 236, 182, 0, 246, 60, 42, 42, 180, 0, 236, 182, 0, 186, 154, 0, 4, 177]
abbrev dktX4_readsWay_1 : List UInt8 := dkwX4_readsWay_1 ++ dktX4_readsWay_2
def dkwX4_readsWay_0 : List UInt8 := [42, 180, 0, 243, 16, 12, 160, 0, 8, 42, 5, 182, 0, 183, 42, 182, 0, 176, 154, 0, 4, 177, 42]
abbrev dktX4_readsWay_0 : List UInt8 := dkwX4_readsWay_0 ++ dktX4_readsWay_1
theorem dksX4_readsWay_0 : cX4_readsWay.data.toList.drop 0 = dktX4_readsWay_0 := by decide +kernel
theorem dksX4_readsWay_1 : cX4_readsWay.data.toList.drop 23 = dktX4_readsWay_1 := dk_seg dksX4_readsWay_0 23 rfl rfl
theorem dksX4_readsWay_2 : cX4_readsWay.data.toList.drop 47 = dktX4_readsWay_2 := dk_seg dksX4_readsWay_1 24 rfl rfl
theorem dksX4_readsWay_3 : cX4_readsWay.data.toList.drop 69 = dktX4_readsWay_3 := dk_seg dksX4_readsWay_2 22 rfl rfl
theorem dksX4_readsWay_4 : cX4_readsWay.data.toList.drop 91 = dktX4_readsWay_4 := dk_seg dksX4_readsWay_3 22 rfl rfl
theorem dksX4_readsWay_5 : cX4_readsWay.data.toList.drop 115 = dktX4_readsWay_5 := dk_seg dksX4_readsWay_4 24 rfl rfl
theorem dksX4_readsWay_6 : cX4_readsWay.data.toList.drop 139 = dktX4_readsWay_6 := dk_seg dksX4_readsWay_5 24 rfl rfl
theorem dX4_readsWay_0 : decode cX4_readsWay 0 = .ok (.aload_n 0, 1) := dk_42 (dk_at dksX4_readsWay_0 0 rfl rfl)
theorem dX4_readsWay_1 : decode cX4_readsWay 1 = .ok (.getfield 243, 3) := dk_180 0 243 (dk_at dksX4_readsWay_0 1 rfl rfl)
theorem dX4_readsWay_4 : decode cX4_readsWay 4 = .ok (.bipush 12, 2) := dk_16 12 (dk_at dksX4_readsWay_0 4 rfl rfl)
theorem dX4_readsWay_6 : decode cX4_readsWay 6 = .ok (.if_icmp .ne 8, 3) := dk_160 0 8 (dk_at dksX4_readsWay_0 6 rfl rfl)
theorem dX4_readsWay_9 : decode cX4_readsWay 9 = .ok (.aload_n 0, 1) := dk_42 (dk_at dksX4_readsWay_0 9 rfl rfl)
theorem dX4_readsWay_10 : decode cX4_readsWay 10 = .ok (.iconst 2, 1) := dk_5 (dk_at dksX4_readsWay_0 10 rfl rfl)
theorem dX4_readsWay_11 : decode cX4_readsWay 11 = .ok (.invokevirtual 183, 3) := dk_182 0 183 (dk_at dksX4_readsWay_0 11 rfl rfl)
theorem dX4_readsWay_14 : decode cX4_readsWay 14 = .ok (.aload_n 0, 1) := dk_42 (dk_at dksX4_readsWay_0 14 rfl rfl)
theorem dX4_readsWay_15 : decode cX4_readsWay 15 = .ok (.invokevirtual 176, 3) := dk_182 0 176 (dk_at dksX4_readsWay_0 15 rfl rfl)
theorem dX4_readsWay_18 : decode cX4_readsWay 18 = .ok (.ifCond .ne 4, 3) := dk_154 0 4 (dk_at dksX4_readsWay_0 18 rfl rfl)
theorem dX4_readsWay_21 : decode cX4_readsWay 21 = .ok (.return_, 1) := dk_177 (dk_at dksX4_readsWay_0 21 rfl rfl)
theorem dX4_readsWay_22 : decode cX4_readsWay 22 = .ok (.aload_n 0, 1) := dk_42 (dk_at dksX4_readsWay_0 22 rfl rfl)
theorem dX4_readsWay_23 : decode cX4_readsWay 23 = .ok (.invokevirtual 180, 3) := dk_182 0 180 (dk_at dksX4_readsWay_1 0 rfl rfl)
theorem dX4_readsWay_26 : decode cX4_readsWay 26 = .ok (.aload_n 0, 1) := dk_42 (dk_at dksX4_readsWay_1 3 rfl rfl)
theorem dX4_readsWay_27 : decode cX4_readsWay 27 = .ok (.aload_n 0, 1) := dk_42 (dk_at dksX4_readsWay_1 4 rfl rfl)
theorem dX4_readsWay_28 : decode cX4_readsWay 28 = .ok (.getfield 236, 3) := dk_180 0 236 (dk_at dksX4_readsWay_1 5 rfl rfl)
theorem dX4_readsWay_31 : decode cX4_readsWay 31 = .ok (.invokevirtual 246, 3) := dk_182 0 246 (dk_at dksX4_readsWay_1 8 rfl rfl)
theorem dX4_readsWay_34 : decode cX4_readsWay 34 = .ok (.istore_n 1, 1) := dk_60 (dk_at dksX4_readsWay_1 11 rfl rfl)
theorem dX4_readsWay_35 : decode cX4_readsWay 35 = .ok (.aload_n 0, 1) := dk_42 (dk_at dksX4_readsWay_1 12 rfl rfl)
theorem dX4_readsWay_36 : decode cX4_readsWay 36 = .ok (.aload_n 0, 1) := dk_42 (dk_at dksX4_readsWay_1 13 rfl rfl)
theorem dX4_readsWay_37 : decode cX4_readsWay 37 = .ok (.getfield 236, 3) := dk_180 0 236 (dk_at dksX4_readsWay_1 14 rfl rfl)
theorem dX4_readsWay_40 : decode cX4_readsWay 40 = .ok (.invokevirtual 186, 3) := dk_182 0 186 (dk_at dksX4_readsWay_1 17 rfl rfl)
theorem dX4_readsWay_43 : decode cX4_readsWay 43 = .ok (.ifCond .ne 4, 3) := dk_154 0 4 (dk_at dksX4_readsWay_1 20 rfl rfl)
theorem dX4_readsWay_46 : decode cX4_readsWay 46 = .ok (.return_, 1) := dk_177 (dk_at dksX4_readsWay_1 23 rfl rfl)
theorem dX4_readsWay_47 : decode cX4_readsWay 47 = .ok (.aload_n 0, 1) := dk_42 (dk_at dksX4_readsWay_2 0 rfl rfl)
theorem dX4_readsWay_48 : decode cX4_readsWay 48 = .ok (.getfield 144, 3) := dk_180 0 144 (dk_at dksX4_readsWay_2 1 rfl rfl)
theorem dX4_readsWay_51 : decode cX4_readsWay 51 = .ok (.iload_n 1, 1) := dk_27 (dk_at dksX4_readsWay_2 4 rfl rfl)
theorem dX4_readsWay_52 : decode cX4_readsWay 52 = .ok (.if_icmp .eq 15, 3) := dk_159 0 15 (dk_at dksX4_readsWay_2 5 rfl rfl)
theorem dX4_readsWay_55 : decode cX4_readsWay 55 = .ok (.aload_n 0, 1) := dk_42 (dk_at dksX4_readsWay_2 8 rfl rfl)
theorem dX4_readsWay_56 : decode cX4_readsWay 56 = .ok (.iload_n 1, 1) := dk_27 (dk_at dksX4_readsWay_2 9 rfl rfl)
theorem dX4_readsWay_57 : decode cX4_readsWay 57 = .ok (.aload_n 0, 1) := dk_42 (dk_at dksX4_readsWay_2 10 rfl rfl)
theorem dX4_readsWay_58 : decode cX4_readsWay 58 = .ok (.getfield 144, 3) := dk_180 0 144 (dk_at dksX4_readsWay_2 11 rfl rfl)
theorem dX4_readsWay_61 : decode cX4_readsWay 61 = .ok (.invokevirtual 249, 3) := dk_182 0 249 (dk_at dksX4_readsWay_2 14 rfl rfl)
theorem dX4_readsWay_64 : decode cX4_readsWay 64 = .ok (.ifCond .eq 8, 3) := dk_153 0 8 (dk_at dksX4_readsWay_2 17 rfl rfl)
theorem dX4_readsWay_67 : decode cX4_readsWay 67 = .ok (.aload_n 0, 1) := dk_42 (dk_at dksX4_readsWay_2 20 rfl rfl)
theorem dX4_readsWay_68 : decode cX4_readsWay 68 = .ok (.iconst 4, 1) := dk_7 (dk_at dksX4_readsWay_2 21 rfl rfl)
theorem dX4_readsWay_69 : decode cX4_readsWay 69 = .ok (.invokevirtual 183, 3) := dk_182 0 183 (dk_at dksX4_readsWay_3 0 rfl rfl)
theorem dX4_readsWay_72 : decode cX4_readsWay 72 = .ok (.aload_n 0, 1) := dk_42 (dk_at dksX4_readsWay_3 3 rfl rfl)
theorem dX4_readsWay_73 : decode cX4_readsWay 73 = .ok (.invokevirtual 176, 3) := dk_182 0 176 (dk_at dksX4_readsWay_3 4 rfl rfl)
theorem dX4_readsWay_76 : decode cX4_readsWay 76 = .ok (.ifCond .ne 4, 3) := dk_154 0 4 (dk_at dksX4_readsWay_3 7 rfl rfl)
theorem dX4_readsWay_79 : decode cX4_readsWay 79 = .ok (.return_, 1) := dk_177 (dk_at dksX4_readsWay_3 10 rfl rfl)
theorem dX4_readsWay_80 : decode cX4_readsWay 80 = .ok (.aload_n 0, 1) := dk_42 (dk_at dksX4_readsWay_3 11 rfl rfl)
theorem dX4_readsWay_81 : decode cX4_readsWay 81 = .ok (.getfield 50, 3) := dk_180 0 50 (dk_at dksX4_readsWay_3 12 rfl rfl)
theorem dX4_readsWay_84 : decode cX4_readsWay 84 = .ok (.aload_n 0, 1) := dk_42 (dk_at dksX4_readsWay_3 15 rfl rfl)
theorem dX4_readsWay_85 : decode cX4_readsWay 85 = .ok (.getfield 243, 3) := dk_180 0 243 (dk_at dksX4_readsWay_3 16 rfl rfl)
theorem dX4_readsWay_88 : decode cX4_readsWay 88 = .ok (.iload_n 1, 1) := dk_27 (dk_at dksX4_readsWay_3 19 rfl rfl)
theorem dX4_readsWay_89 : decode cX4_readsWay 89 = .ok (.iastore, 1) := dk_79 (dk_at dksX4_readsWay_3 20 rfl rfl)
theorem dX4_readsWay_90 : decode cX4_readsWay 90 = .ok (.aload_n 0, 1) := dk_42 (dk_at dksX4_readsWay_3 21 rfl rfl)
theorem dX4_readsWay_91 : decode cX4_readsWay 91 = .ok (.getfield 53, 3) := dk_180 0 53 (dk_at dksX4_readsWay_4 0 rfl rfl)
theorem dX4_readsWay_94 : decode cX4_readsWay 94 = .ok (.aload_n 0, 1) := dk_42 (dk_at dksX4_readsWay_4 3 rfl rfl)
theorem dX4_readsWay_95 : decode cX4_readsWay 95 = .ok (.getfield 243, 3) := dk_180 0 243 (dk_at dksX4_readsWay_4 4 rfl rfl)
theorem dX4_readsWay_98 : decode cX4_readsWay 98 = .ok (.aload_n 0, 1) := dk_42 (dk_at dksX4_readsWay_4 7 rfl rfl)
theorem dX4_readsWay_99 : decode cX4_readsWay 99 = .ok (.getfield 144, 3) := dk_180 0 144 (dk_at dksX4_readsWay_4 8 rfl rfl)
theorem dX4_readsWay_102 : decode cX4_readsWay 102 = .ok (.iastore, 1) := dk_79 (dk_at dksX4_readsWay_4 11 rfl rfl)
theorem dX4_readsWay_103 : decode cX4_readsWay 103 = .ok (.aload_n 0, 1) := dk_42 (dk_at dksX4_readsWay_4 12 rfl rfl)
theorem dX4_readsWay_104 : decode cX4_readsWay 104 = .ok (.invokevirtual 180, 3) := dk_182 0 180 (dk_at dksX4_readsWay_4 13 rfl rfl)
theorem dX4_readsWay_107 : decode cX4_readsWay 107 = .ok (.aload_n 0, 1) := dk_42 (dk_at dksX4_readsWay_4 16 rfl rfl)
theorem dX4_readsWay_108 : decode cX4_readsWay 108 = .ok (.getfield 56, 3) := dk_180 0 56 (dk_at dksX4_readsWay_4 17 rfl rfl)
theorem dX4_readsWay_111 : decode cX4_readsWay 111 = .ok (.aload_n 0, 1) := dk_42 (dk_at dksX4_readsWay_4 20 rfl rfl)
theorem dX4_readsWay_112 : decode cX4_readsWay 112 = .ok (.getfield 243, 3) := dk_180 0 243 (dk_at dksX4_readsWay_4 21 rfl rfl)
theorem dX4_readsWay_115 : decode cX4_readsWay 115 = .ok (.aload_n 0, 1) := dk_42 (dk_at dksX4_readsWay_5 0 rfl rfl)
theorem dX4_readsWay_116 : decode cX4_readsWay 116 = .ok (.iconst 1, 1) := dk_4 (dk_at dksX4_readsWay_5 1 rfl rfl)
theorem dX4_readsWay_117 : decode cX4_readsWay 117 = .ok (.bipush 9, 2) := dk_16 9 (dk_at dksX4_readsWay_5 2 rfl rfl)
theorem dX4_readsWay_119 : decode cX4_readsWay 119 = .ok (.invokevirtual 239, 3) := dk_182 0 239 (dk_at dksX4_readsWay_5 4 rfl rfl)
theorem dX4_readsWay_122 : decode cX4_readsWay 122 = .ok (.iastore, 1) := dk_79 (dk_at dksX4_readsWay_5 7 rfl rfl)
theorem dX4_readsWay_123 : decode cX4_readsWay 123 = .ok (.aload_n 0, 1) := dk_42 (dk_at dksX4_readsWay_5 8 rfl rfl)
theorem dX4_readsWay_124 : decode cX4_readsWay 124 = .ok (.getfield 59, 3) := dk_180 0 59 (dk_at dksX4_readsWay_5 9 rfl rfl)
theorem dX4_readsWay_127 : decode cX4_readsWay 127 = .ok (.aload_n 0, 1) := dk_42 (dk_at dksX4_readsWay_5 12 rfl rfl)
theorem dX4_readsWay_128 : decode cX4_readsWay 128 = .ok (.getfield 243, 3) := dk_180 0 243 (dk_at dksX4_readsWay_5 13 rfl rfl)
theorem dX4_readsWay_131 : decode cX4_readsWay 131 = .ok (.aload_n 0, 1) := dk_42 (dk_at dksX4_readsWay_5 16 rfl rfl)
theorem dX4_readsWay_132 : decode cX4_readsWay 132 = .ok (.iconst 0, 1) := dk_3 (dk_at dksX4_readsWay_5 17 rfl rfl)
theorem dX4_readsWay_133 : decode cX4_readsWay 133 = .ok (.bipush 9, 2) := dk_16 9 (dk_at dksX4_readsWay_5 18 rfl rfl)
theorem dX4_readsWay_135 : decode cX4_readsWay 135 = .ok (.invokevirtual 239, 3) := dk_182 0 239 (dk_at dksX4_readsWay_5 20 rfl rfl)
theorem dX4_readsWay_138 : decode cX4_readsWay 138 = .ok (.iastore, 1) := dk_79 (dk_at dksX4_readsWay_5 23 rfl rfl)
theorem dX4_readsWay_139 : decode cX4_readsWay 139 = .ok (.aload_n 0, 1) := dk_42 (dk_at dksX4_readsWay_6 0 rfl rfl)
theorem dX4_readsWay_140 : decode cX4_readsWay 140 = .ok (.invokevirtual 176, 3) := dk_182 0 176 (dk_at dksX4_readsWay_6 1 rfl rfl)
theorem dX4_readsWay_143 : decode cX4_readsWay 143 = .ok (.ifCond .eq 13, 3) := dk_153 0 13 (dk_at dksX4_readsWay_6 4 rfl rfl)
theorem dX4_readsWay_146 : decode cX4_readsWay 146 = .ok (.aload_n 0, 1) := dk_42 (dk_at dksX4_readsWay_6 7 rfl rfl)
theorem dX4_readsWay_147 : decode cX4_readsWay 147 = .ok (.dup, 1) := dk_89 (dk_at dksX4_readsWay_6 8 rfl rfl)
theorem dX4_readsWay_148 : decode cX4_readsWay 148 = .ok (.getfield 243, 3) := dk_180 0 243 (dk_at dksX4_readsWay_6 9 rfl rfl)
theorem dX4_readsWay_151 : decode cX4_readsWay 151 = .ok (.iconst 1, 1) := dk_4 (dk_at dksX4_readsWay_6 12 rfl rfl)
theorem dX4_readsWay_152 : decode cX4_readsWay 152 = .ok (.iadd, 1) := dk_96 (dk_at dksX4_readsWay_6 13 rfl rfl)
theorem dX4_readsWay_153 : decode cX4_readsWay 153 = .ok (.putfield 243, 3) := dk_181 0 243 (dk_at dksX4_readsWay_6 14 rfl rfl)
theorem dX4_readsWay_156 : decode cX4_readsWay 156 = .ok (.return_, 1) := dk_177 (dk_at dksX4_readsWay_6 17 rfl rfl)
abbrev cX4_among : ByteArray := prog_13_method_24_code
def yX4_among : MethodName := ⟨RX4, "among", "(I)I"⟩
def dkwX4_among_1 : List UInt8 := [42, 182, 0, 180, 28, 172]
abbrev dktX4_among_1 : List UInt8 := dkwX4_among_1 ++ []
def dkwX4_among_0 : List UInt8 := [42, 27, 182, 0, 186, 153, 0, 10, 42, 180, 0, 144, 167, 0, 4, 3, 61, 42, 182, 0, 176, 153, 0, 7]
abbrev dktX4_among_0 : List UInt8 := dkwX4_among_0 ++ dktX4_among_1
theorem dksX4_among_0 : cX4_among.data.toList.drop 0 = dktX4_among_0 := by decide +kernel
theorem dksX4_among_1 : cX4_among.data.toList.drop 24 = dktX4_among_1 := dk_seg dksX4_among_0 24 rfl rfl
theorem dX4_among_0 : decode cX4_among 0 = .ok (.aload_n 0, 1) := dk_42 (dk_at dksX4_among_0 0 rfl rfl)
theorem dX4_among_1 : decode cX4_among 1 = .ok (.iload_n 1, 1) := dk_27 (dk_at dksX4_among_0 1 rfl rfl)
theorem dX4_among_2 : decode cX4_among 2 = .ok (.invokevirtual 186, 3) := dk_182 0 186 (dk_at dksX4_among_0 2 rfl rfl)
theorem dX4_among_5 : decode cX4_among 5 = .ok (.ifCond .eq 10, 3) := dk_153 0 10 (dk_at dksX4_among_0 5 rfl rfl)
theorem dX4_among_8 : decode cX4_among 8 = .ok (.aload_n 0, 1) := dk_42 (dk_at dksX4_among_0 8 rfl rfl)
theorem dX4_among_9 : decode cX4_among 9 = .ok (.getfield 144, 3) := dk_180 0 144 (dk_at dksX4_among_0 9 rfl rfl)
theorem dX4_among_12 : decode cX4_among 12 = .ok (.goto 4, 3) := dk_167 0 4 (dk_at dksX4_among_0 12 rfl rfl)
theorem dX4_among_15 : decode cX4_among 15 = .ok (.iconst 0, 1) := dk_3 (dk_at dksX4_among_0 15 rfl rfl)
theorem dX4_among_16 : decode cX4_among 16 = .ok (.istore_n 2, 1) := dk_61 (dk_at dksX4_among_0 16 rfl rfl)
theorem dX4_among_17 : decode cX4_among 17 = .ok (.aload_n 0, 1) := dk_42 (dk_at dksX4_among_0 17 rfl rfl)
theorem dX4_among_18 : decode cX4_among 18 = .ok (.invokevirtual 176, 3) := dk_182 0 176 (dk_at dksX4_among_0 18 rfl rfl)
theorem dX4_among_21 : decode cX4_among 21 = .ok (.ifCond .eq 7, 3) := dk_153 0 7 (dk_at dksX4_among_0 21 rfl rfl)
theorem dX4_among_24 : decode cX4_among 24 = .ok (.aload_n 0, 1) := dk_42 (dk_at dksX4_among_1 0 rfl rfl)
theorem dX4_among_25 : decode cX4_among 25 = .ok (.invokevirtual 180, 3) := dk_182 0 180 (dk_at dksX4_among_1 1 rfl rfl)
theorem dX4_among_28 : decode cX4_among 28 = .ok (.iload_n 2, 1) := dk_28 (dk_at dksX4_among_1 4 rfl rfl)
theorem dX4_among_29 : decode cX4_among 29 = .ok (.ireturn, 1) := dk_172 (dk_at dksX4_among_1 5 rfl rfl)
abbrev cX4_amongHere : ByteArray := prog_13_method_23_code
def yX4_amongHere : MethodName := ⟨RX4, "amongHere", "(I)Z"⟩
def dkwX4_amongHere_2 : List UInt8 := [161, 0, 8, 42, 6, 182, 0, 183, 42, 182, 0, 176, 172]
abbrev dktX4_amongHere_2 : List UInt8 := dkwX4_amongHere_2 ++ []
def dkwX4_amongHere_1 : List UInt8 := [167, 0, 32, 42, 180, 0, 160, 7, 164, 0, 11, 42, 5, 182, 0, 183, 167, 0, 16, 42, 180, 0, 144, 27]
abbrev dktX4_amongHere_1 : List UInt8 := dkwX4_amongHere_1 ++ dktX4_amongHere_2
def dkwX4_amongHere_0 : List UInt8 := [42, 182, 0, 176, 154, 0, 5, 3, 172, 42, 180, 0, 150, 5, 159, 0, 11, 42, 4, 182, 0, 183]
abbrev dktX4_amongHere_0 : List UInt8 := dkwX4_amongHere_0 ++ dktX4_amongHere_1
theorem dksX4_amongHere_0 : cX4_amongHere.data.toList.drop 0 = dktX4_amongHere_0 := by decide +kernel
theorem dksX4_amongHere_1 : cX4_amongHere.data.toList.drop 22 = dktX4_amongHere_1 := dk_seg dksX4_amongHere_0 22 rfl rfl
theorem dksX4_amongHere_2 : cX4_amongHere.data.toList.drop 46 = dktX4_amongHere_2 := dk_seg dksX4_amongHere_1 24 rfl rfl
theorem dX4_amongHere_0 : decode cX4_amongHere 0 = .ok (.aload_n 0, 1) := dk_42 (dk_at dksX4_amongHere_0 0 rfl rfl)
theorem dX4_amongHere_1 : decode cX4_amongHere 1 = .ok (.invokevirtual 176, 3) := dk_182 0 176 (dk_at dksX4_amongHere_0 1 rfl rfl)
theorem dX4_amongHere_4 : decode cX4_amongHere 4 = .ok (.ifCond .ne 5, 3) := dk_154 0 5 (dk_at dksX4_amongHere_0 4 rfl rfl)
theorem dX4_amongHere_7 : decode cX4_amongHere 7 = .ok (.iconst 0, 1) := dk_3 (dk_at dksX4_amongHere_0 7 rfl rfl)
theorem dX4_amongHere_8 : decode cX4_amongHere 8 = .ok (.ireturn, 1) := dk_172 (dk_at dksX4_amongHere_0 8 rfl rfl)
theorem dX4_amongHere_9 : decode cX4_amongHere 9 = .ok (.aload_n 0, 1) := dk_42 (dk_at dksX4_amongHere_0 9 rfl rfl)
theorem dX4_amongHere_10 : decode cX4_amongHere 10 = .ok (.getfield 150, 3) := dk_180 0 150 (dk_at dksX4_amongHere_0 10 rfl rfl)
theorem dX4_amongHere_13 : decode cX4_amongHere 13 = .ok (.iconst 2, 1) := dk_5 (dk_at dksX4_amongHere_0 13 rfl rfl)
theorem dX4_amongHere_14 : decode cX4_amongHere 14 = .ok (.if_icmp .eq 11, 3) := dk_159 0 11 (dk_at dksX4_amongHere_0 14 rfl rfl)
theorem dX4_amongHere_17 : decode cX4_amongHere 17 = .ok (.aload_n 0, 1) := dk_42 (dk_at dksX4_amongHere_0 17 rfl rfl)
theorem dX4_amongHere_18 : decode cX4_amongHere 18 = .ok (.iconst 1, 1) := dk_4 (dk_at dksX4_amongHere_0 18 rfl rfl)
theorem dX4_amongHere_19 : decode cX4_amongHere 19 = .ok (.invokevirtual 183, 3) := dk_182 0 183 (dk_at dksX4_amongHere_0 19 rfl rfl)
theorem dX4_amongHere_22 : decode cX4_amongHere 22 = .ok (.goto 32, 3) := dk_167 0 32 (dk_at dksX4_amongHere_1 0 rfl rfl)
theorem dX4_amongHere_25 : decode cX4_amongHere 25 = .ok (.aload_n 0, 1) := dk_42 (dk_at dksX4_amongHere_1 3 rfl rfl)
theorem dX4_amongHere_26 : decode cX4_amongHere 26 = .ok (.getfield 160, 3) := dk_180 0 160 (dk_at dksX4_amongHere_1 4 rfl rfl)
theorem dX4_amongHere_29 : decode cX4_amongHere 29 = .ok (.iconst 4, 1) := dk_7 (dk_at dksX4_amongHere_1 7 rfl rfl)
theorem dX4_amongHere_30 : decode cX4_amongHere 30 = .ok (.if_icmp .le 11, 3) := dk_164 0 11 (dk_at dksX4_amongHere_1 8 rfl rfl)
theorem dX4_amongHere_33 : decode cX4_amongHere 33 = .ok (.aload_n 0, 1) := dk_42 (dk_at dksX4_amongHere_1 11 rfl rfl)
theorem dX4_amongHere_34 : decode cX4_amongHere 34 = .ok (.iconst 2, 1) := dk_5 (dk_at dksX4_amongHere_1 12 rfl rfl)
theorem dX4_amongHere_35 : decode cX4_amongHere 35 = .ok (.invokevirtual 183, 3) := dk_182 0 183 (dk_at dksX4_amongHere_1 13 rfl rfl)
theorem dX4_amongHere_38 : decode cX4_amongHere 38 = .ok (.goto 16, 3) := dk_167 0 16 (dk_at dksX4_amongHere_1 16 rfl rfl)
theorem dX4_amongHere_41 : decode cX4_amongHere 41 = .ok (.aload_n 0, 1) := dk_42 (dk_at dksX4_amongHere_1 19 rfl rfl)
theorem dX4_amongHere_42 : decode cX4_amongHere 42 = .ok (.getfield 144, 3) := dk_180 0 144 (dk_at dksX4_amongHere_1 20 rfl rfl)
theorem dX4_amongHere_45 : decode cX4_amongHere 45 = .ok (.iload_n 1, 1) := dk_27 (dk_at dksX4_amongHere_1 23 rfl rfl)
theorem dX4_amongHere_46 : decode cX4_amongHere 46 = .ok (.if_icmp .lt 8, 3) := dk_161 0 8 (dk_at dksX4_amongHere_2 0 rfl rfl)
theorem dX4_amongHere_49 : decode cX4_amongHere 49 = .ok (.aload_n 0, 1) := dk_42 (dk_at dksX4_amongHere_2 3 rfl rfl)
theorem dX4_amongHere_50 : decode cX4_amongHere 50 = .ok (.iconst 3, 1) := dk_6 (dk_at dksX4_amongHere_2 4 rfl rfl)
theorem dX4_amongHere_51 : decode cX4_amongHere 51 = .ok (.invokevirtual 183, 3) := dk_182 0 183 (dk_at dksX4_amongHere_2 5 rfl rfl)
theorem dX4_amongHere_54 : decode cX4_amongHere 54 = .ok (.aload_n 0, 1) := dk_42 (dk_at dksX4_amongHere_2 8 rfl rfl)
theorem dX4_amongHere_55 : decode cX4_amongHere 55 = .ok (.invokevirtual 176, 3) := dk_182 0 176 (dk_at dksX4_amongHere_2 9 rfl rfl)
theorem dX4_amongHere_58 : decode cX4_amongHere 58 = .ok (.ireturn, 1) := dk_172 (dk_at dksX4_amongHere_2 12 rfl rfl)
abbrev cX4_hasWay : ByteArray := prog_13_method_37_code
def yX4_hasWay : MethodName := ⟨RX4, "hasWay", "(II)Z"⟩
def dkwX4_hasWay_2 : List UInt8 := [160, 0, 5, 4, 172, 132, 3, 1, 167, 255, 203, 3, 172]
abbrev dktX4_hasWay_2 : List UInt8 := dkwX4_hasWay_2 ++ []
def dkwX4_hasWay_1 : List UInt8 := [29, 46, 28, 159, 0, 23, 42, 180, 0, 50, 29, 46, 28, 160, 0, 15, 42, 180, 0, 53, 29, 46, 27]
abbrev dktX4_hasWay_1 : List UInt8 := dkwX4_hasWay_1 ++ dktX4_hasWay_2
def dkwX4_hasWay_0 : List UInt8 := [3, 62, 29, 42, 180, 0, 243, 162, 0, 51, 42, 180, 0, 50, 29, 46, 27, 160, 0, 13, 42, 180, 0, 53]
abbrev dktX4_hasWay_0 : List UInt8 := dkwX4_hasWay_0 ++ dktX4_hasWay_1
theorem dksX4_hasWay_0 : cX4_hasWay.data.toList.drop 0 = dktX4_hasWay_0 := by decide +kernel
theorem dksX4_hasWay_1 : cX4_hasWay.data.toList.drop 24 = dktX4_hasWay_1 := dk_seg dksX4_hasWay_0 24 rfl rfl
theorem dksX4_hasWay_2 : cX4_hasWay.data.toList.drop 47 = dktX4_hasWay_2 := dk_seg dksX4_hasWay_1 23 rfl rfl
theorem dX4_hasWay_0 : decode cX4_hasWay 0 = .ok (.iconst 0, 1) := dk_3 (dk_at dksX4_hasWay_0 0 rfl rfl)
theorem dX4_hasWay_1 : decode cX4_hasWay 1 = .ok (.istore_n 3, 1) := dk_62 (dk_at dksX4_hasWay_0 1 rfl rfl)
theorem dX4_hasWay_2 : decode cX4_hasWay 2 = .ok (.iload_n 3, 1) := dk_29 (dk_at dksX4_hasWay_0 2 rfl rfl)
theorem dX4_hasWay_3 : decode cX4_hasWay 3 = .ok (.aload_n 0, 1) := dk_42 (dk_at dksX4_hasWay_0 3 rfl rfl)
theorem dX4_hasWay_4 : decode cX4_hasWay 4 = .ok (.getfield 243, 3) := dk_180 0 243 (dk_at dksX4_hasWay_0 4 rfl rfl)
theorem dX4_hasWay_7 : decode cX4_hasWay 7 = .ok (.if_icmp .ge 51, 3) := dk_162 0 51 (dk_at dksX4_hasWay_0 7 rfl rfl)
theorem dX4_hasWay_10 : decode cX4_hasWay 10 = .ok (.aload_n 0, 1) := dk_42 (dk_at dksX4_hasWay_0 10 rfl rfl)
theorem dX4_hasWay_11 : decode cX4_hasWay 11 = .ok (.getfield 50, 3) := dk_180 0 50 (dk_at dksX4_hasWay_0 11 rfl rfl)
theorem dX4_hasWay_14 : decode cX4_hasWay 14 = .ok (.iload_n 3, 1) := dk_29 (dk_at dksX4_hasWay_0 14 rfl rfl)
theorem dX4_hasWay_15 : decode cX4_hasWay 15 = .ok (.iaload, 1) := dk_46 (dk_at dksX4_hasWay_0 15 rfl rfl)
theorem dX4_hasWay_16 : decode cX4_hasWay 16 = .ok (.iload_n 1, 1) := dk_27 (dk_at dksX4_hasWay_0 16 rfl rfl)
theorem dX4_hasWay_17 : decode cX4_hasWay 17 = .ok (.if_icmp .ne 13, 3) := dk_160 0 13 (dk_at dksX4_hasWay_0 17 rfl rfl)
theorem dX4_hasWay_20 : decode cX4_hasWay 20 = .ok (.aload_n 0, 1) := dk_42 (dk_at dksX4_hasWay_0 20 rfl rfl)
theorem dX4_hasWay_21 : decode cX4_hasWay 21 = .ok (.getfield 53, 3) := dk_180 0 53 (dk_at dksX4_hasWay_0 21 rfl rfl)
theorem dX4_hasWay_24 : decode cX4_hasWay 24 = .ok (.iload_n 3, 1) := dk_29 (dk_at dksX4_hasWay_1 0 rfl rfl)
theorem dX4_hasWay_25 : decode cX4_hasWay 25 = .ok (.iaload, 1) := dk_46 (dk_at dksX4_hasWay_1 1 rfl rfl)
theorem dX4_hasWay_26 : decode cX4_hasWay 26 = .ok (.iload_n 2, 1) := dk_28 (dk_at dksX4_hasWay_1 2 rfl rfl)
theorem dX4_hasWay_27 : decode cX4_hasWay 27 = .ok (.if_icmp .eq 23, 3) := dk_159 0 23 (dk_at dksX4_hasWay_1 3 rfl rfl)
theorem dX4_hasWay_30 : decode cX4_hasWay 30 = .ok (.aload_n 0, 1) := dk_42 (dk_at dksX4_hasWay_1 6 rfl rfl)
theorem dX4_hasWay_31 : decode cX4_hasWay 31 = .ok (.getfield 50, 3) := dk_180 0 50 (dk_at dksX4_hasWay_1 7 rfl rfl)
theorem dX4_hasWay_34 : decode cX4_hasWay 34 = .ok (.iload_n 3, 1) := dk_29 (dk_at dksX4_hasWay_1 10 rfl rfl)
theorem dX4_hasWay_35 : decode cX4_hasWay 35 = .ok (.iaload, 1) := dk_46 (dk_at dksX4_hasWay_1 11 rfl rfl)
theorem dX4_hasWay_36 : decode cX4_hasWay 36 = .ok (.iload_n 2, 1) := dk_28 (dk_at dksX4_hasWay_1 12 rfl rfl)
theorem dX4_hasWay_37 : decode cX4_hasWay 37 = .ok (.if_icmp .ne 15, 3) := dk_160 0 15 (dk_at dksX4_hasWay_1 13 rfl rfl)
theorem dX4_hasWay_40 : decode cX4_hasWay 40 = .ok (.aload_n 0, 1) := dk_42 (dk_at dksX4_hasWay_1 16 rfl rfl)
theorem dX4_hasWay_41 : decode cX4_hasWay 41 = .ok (.getfield 53, 3) := dk_180 0 53 (dk_at dksX4_hasWay_1 17 rfl rfl)
theorem dX4_hasWay_44 : decode cX4_hasWay 44 = .ok (.iload_n 3, 1) := dk_29 (dk_at dksX4_hasWay_1 20 rfl rfl)
theorem dX4_hasWay_45 : decode cX4_hasWay 45 = .ok (.iaload, 1) := dk_46 (dk_at dksX4_hasWay_1 21 rfl rfl)
theorem dX4_hasWay_46 : decode cX4_hasWay 46 = .ok (.iload_n 1, 1) := dk_27 (dk_at dksX4_hasWay_1 22 rfl rfl)
theorem dX4_hasWay_47 : decode cX4_hasWay 47 = .ok (.if_icmp .ne 5, 3) := dk_160 0 5 (dk_at dksX4_hasWay_2 0 rfl rfl)
theorem dX4_hasWay_50 : decode cX4_hasWay 50 = .ok (.iconst 1, 1) := dk_4 (dk_at dksX4_hasWay_2 3 rfl rfl)
theorem dX4_hasWay_51 : decode cX4_hasWay 51 = .ok (.ireturn, 1) := dk_172 (dk_at dksX4_hasWay_2 4 rfl rfl)
theorem dX4_hasWay_52 : decode cX4_hasWay 52 = .ok (.iinc 3 1, 3) := dk_132 3 1 (dk_at dksX4_hasWay_2 5 rfl rfl)
theorem dX4_hasWay_55 : decode cX4_hasWay 55 = .ok (.goto (-53), 3) := dk_167 255 203 (dk_at dksX4_hasWay_2 8 rfl rfl)
theorem dX4_hasWay_58 : decode cX4_hasWay 58 = .ok (.iconst 0, 1) := dk_3 (dk_at dksX4_hasWay_2 11 rfl rfl)
theorem dX4_hasWay_59 : decode cX4_hasWay 59 = .ok (.ireturn, 1) := dk_172 (dk_at dksX4_hasWay_2 12 rfl rfl)
abbrev cX4_readsCrate : ByteArray := prog_13_method_39_code
def yX4_readsCrate : MethodName := ⟨RX4, "readsCrate", "(I)V"⟩
def dkwX4_readsCrate_6 : List UInt8 := [42, 89, 180, 0, 253, 4, 96, 181, 0, 253, 177]
abbrev dktX4_readsCrate_6 : List UInt8 := dkwX4_readsCrate_6 ++ []
def dkwX4_readsCrate_5 : List UInt8 := [160, 0, 17, 42, 180, 0, 62, 16, 45, 28, 96, 4, 79, 42, 182, 0, 180, 42, 182, 0, 176, 153, 0, 13]
abbrev dktX4_readsCrate_5 : List UInt8 := dkwX4_readsCrate_5 ++ dktX4_readsCrate_6
def dkwX4_readsCrate_4 : List UInt8 := [42, 180, 0, 62, 16, 45, 28, 96, 3, 79, 42, 182, 0, 176, 153, 0, 26, 42, 182, 0, 204, 16, 10]
abbrev dktX4_readsCrate_4 : List UInt8 := dkwX4_readsCrate_4 ++ dktX4_readsCrate_5
def dkwX4_readsCrate_3 : List UInt8 := [182, 0, 246, 79, 42, 180, 0, 62, 16, 65, 28, 96, 3, 79, 42, 180, 0, 62, 16, 75, 28, 96, 3, 79]
abbrev dktX4_readsCrate_3 : List UInt8 := dkwX4_readsCrate_3 ++ dktX4_readsCrate_4
def dkwX4_readsCrate_2 : List UInt8 := [42, 180, 0, 62, 16, 35, 28, 96, 27, 79, 42, 180, 0, 62, 16, 55, 28, 96, 42, 42, 180, 0, 236]
abbrev dktX4_readsCrate_2 : List UInt8 := dkwX4_readsCrate_2 ++ dktX4_readsCrate_3
def dkwX4_readsCrate_1 : List UInt8 := [182, 0, 180, 42, 180, 0, 253, 61, 42, 180, 0, 62, 16, 25, 28, 96, 42, 3, 16, 99, 182, 0, 239, 79]
abbrev dktX4_readsCrate_1 : List UInt8 := dkwX4_readsCrate_1 ++ dktX4_readsCrate_2
def dkwX4_readsCrate_0 : List UInt8 := [42, 180, 0, 253, 16, 10, 160, 0, 8, 42, 5, 182, 0, 183, 42, 182, 0, 176, 154, 0, 4, 177, 42]
abbrev dktX4_readsCrate_0 : List UInt8 := dkwX4_readsCrate_0 ++ dktX4_readsCrate_1
theorem dksX4_readsCrate_0 : cX4_readsCrate.data.toList.drop 0 = dktX4_readsCrate_0 := by decide +kernel
theorem dksX4_readsCrate_1 : cX4_readsCrate.data.toList.drop 23 = dktX4_readsCrate_1 := dk_seg dksX4_readsCrate_0 23 rfl rfl
theorem dksX4_readsCrate_2 : cX4_readsCrate.data.toList.drop 47 = dktX4_readsCrate_2 := dk_seg dksX4_readsCrate_1 24 rfl rfl
theorem dksX4_readsCrate_3 : cX4_readsCrate.data.toList.drop 70 = dktX4_readsCrate_3 := dk_seg dksX4_readsCrate_2 23 rfl rfl
theorem dksX4_readsCrate_4 : cX4_readsCrate.data.toList.drop 94 = dktX4_readsCrate_4 := dk_seg dksX4_readsCrate_3 24 rfl rfl
theorem dksX4_readsCrate_5 : cX4_readsCrate.data.toList.drop 117 = dktX4_readsCrate_5 := dk_seg dksX4_readsCrate_4 23 rfl rfl
theorem dksX4_readsCrate_6 : cX4_readsCrate.data.toList.drop 141 = dktX4_readsCrate_6 := dk_seg dksX4_readsCrate_5 24 rfl rfl
theorem dX4_readsCrate_0 : decode cX4_readsCrate 0 = .ok (.aload_n 0, 1) := dk_42 (dk_at dksX4_readsCrate_0 0 rfl rfl)
theorem dX4_readsCrate_1 : decode cX4_readsCrate 1 = .ok (.getfield 253, 3) := dk_180 0 253 (dk_at dksX4_readsCrate_0 1 rfl rfl)
theorem dX4_readsCrate_4 : decode cX4_readsCrate 4 = .ok (.bipush 10, 2) := dk_16 10 (dk_at dksX4_readsCrate_0 4 rfl rfl)
theorem dX4_readsCrate_6 : decode cX4_readsCrate 6 = .ok (.if_icmp .ne 8, 3) := dk_160 0 8 (dk_at dksX4_readsCrate_0 6 rfl rfl)
theorem dX4_readsCrate_9 : decode cX4_readsCrate 9 = .ok (.aload_n 0, 1) := dk_42 (dk_at dksX4_readsCrate_0 9 rfl rfl)
theorem dX4_readsCrate_10 : decode cX4_readsCrate 10 = .ok (.iconst 2, 1) := dk_5 (dk_at dksX4_readsCrate_0 10 rfl rfl)
theorem dX4_readsCrate_11 : decode cX4_readsCrate 11 = .ok (.invokevirtual 183, 3) := dk_182 0 183 (dk_at dksX4_readsCrate_0 11 rfl rfl)
theorem dX4_readsCrate_14 : decode cX4_readsCrate 14 = .ok (.aload_n 0, 1) := dk_42 (dk_at dksX4_readsCrate_0 14 rfl rfl)
theorem dX4_readsCrate_15 : decode cX4_readsCrate 15 = .ok (.invokevirtual 176, 3) := dk_182 0 176 (dk_at dksX4_readsCrate_0 15 rfl rfl)
theorem dX4_readsCrate_18 : decode cX4_readsCrate 18 = .ok (.ifCond .ne 4, 3) := dk_154 0 4 (dk_at dksX4_readsCrate_0 18 rfl rfl)
theorem dX4_readsCrate_21 : decode cX4_readsCrate 21 = .ok (.return_, 1) := dk_177 (dk_at dksX4_readsCrate_0 21 rfl rfl)
theorem dX4_readsCrate_22 : decode cX4_readsCrate 22 = .ok (.aload_n 0, 1) := dk_42 (dk_at dksX4_readsCrate_0 22 rfl rfl)
theorem dX4_readsCrate_23 : decode cX4_readsCrate 23 = .ok (.invokevirtual 180, 3) := dk_182 0 180 (dk_at dksX4_readsCrate_1 0 rfl rfl)
theorem dX4_readsCrate_26 : decode cX4_readsCrate 26 = .ok (.aload_n 0, 1) := dk_42 (dk_at dksX4_readsCrate_1 3 rfl rfl)
theorem dX4_readsCrate_27 : decode cX4_readsCrate 27 = .ok (.getfield 253, 3) := dk_180 0 253 (dk_at dksX4_readsCrate_1 4 rfl rfl)
theorem dX4_readsCrate_30 : decode cX4_readsCrate 30 = .ok (.istore_n 2, 1) := dk_61 (dk_at dksX4_readsCrate_1 7 rfl rfl)
theorem dX4_readsCrate_31 : decode cX4_readsCrate 31 = .ok (.aload_n 0, 1) := dk_42 (dk_at dksX4_readsCrate_1 8 rfl rfl)
theorem dX4_readsCrate_32 : decode cX4_readsCrate 32 = .ok (.getfield 62, 3) := dk_180 0 62 (dk_at dksX4_readsCrate_1 9 rfl rfl)
theorem dX4_readsCrate_35 : decode cX4_readsCrate 35 = .ok (.bipush 25, 2) := dk_16 25 (dk_at dksX4_readsCrate_1 12 rfl rfl)
theorem dX4_readsCrate_37 : decode cX4_readsCrate 37 = .ok (.iload_n 2, 1) := dk_28 (dk_at dksX4_readsCrate_1 14 rfl rfl)
theorem dX4_readsCrate_38 : decode cX4_readsCrate 38 = .ok (.iadd, 1) := dk_96 (dk_at dksX4_readsCrate_1 15 rfl rfl)
theorem dX4_readsCrate_39 : decode cX4_readsCrate 39 = .ok (.aload_n 0, 1) := dk_42 (dk_at dksX4_readsCrate_1 16 rfl rfl)
theorem dX4_readsCrate_40 : decode cX4_readsCrate 40 = .ok (.iconst 0, 1) := dk_3 (dk_at dksX4_readsCrate_1 17 rfl rfl)
theorem dX4_readsCrate_41 : decode cX4_readsCrate 41 = .ok (.bipush 99, 2) := dk_16 99 (dk_at dksX4_readsCrate_1 18 rfl rfl)
theorem dX4_readsCrate_43 : decode cX4_readsCrate 43 = .ok (.invokevirtual 239, 3) := dk_182 0 239 (dk_at dksX4_readsCrate_1 20 rfl rfl)
theorem dX4_readsCrate_46 : decode cX4_readsCrate 46 = .ok (.iastore, 1) := dk_79 (dk_at dksX4_readsCrate_1 23 rfl rfl)
theorem dX4_readsCrate_47 : decode cX4_readsCrate 47 = .ok (.aload_n 0, 1) := dk_42 (dk_at dksX4_readsCrate_2 0 rfl rfl)
theorem dX4_readsCrate_48 : decode cX4_readsCrate 48 = .ok (.getfield 62, 3) := dk_180 0 62 (dk_at dksX4_readsCrate_2 1 rfl rfl)
theorem dX4_readsCrate_51 : decode cX4_readsCrate 51 = .ok (.bipush 35, 2) := dk_16 35 (dk_at dksX4_readsCrate_2 4 rfl rfl)
theorem dX4_readsCrate_53 : decode cX4_readsCrate 53 = .ok (.iload_n 2, 1) := dk_28 (dk_at dksX4_readsCrate_2 6 rfl rfl)
theorem dX4_readsCrate_54 : decode cX4_readsCrate 54 = .ok (.iadd, 1) := dk_96 (dk_at dksX4_readsCrate_2 7 rfl rfl)
theorem dX4_readsCrate_55 : decode cX4_readsCrate 55 = .ok (.iload_n 1, 1) := dk_27 (dk_at dksX4_readsCrate_2 8 rfl rfl)
theorem dX4_readsCrate_56 : decode cX4_readsCrate 56 = .ok (.iastore, 1) := dk_79 (dk_at dksX4_readsCrate_2 9 rfl rfl)
theorem dX4_readsCrate_57 : decode cX4_readsCrate 57 = .ok (.aload_n 0, 1) := dk_42 (dk_at dksX4_readsCrate_2 10 rfl rfl)
theorem dX4_readsCrate_58 : decode cX4_readsCrate 58 = .ok (.getfield 62, 3) := dk_180 0 62 (dk_at dksX4_readsCrate_2 11 rfl rfl)
theorem dX4_readsCrate_61 : decode cX4_readsCrate 61 = .ok (.bipush 55, 2) := dk_16 55 (dk_at dksX4_readsCrate_2 14 rfl rfl)
theorem dX4_readsCrate_63 : decode cX4_readsCrate 63 = .ok (.iload_n 2, 1) := dk_28 (dk_at dksX4_readsCrate_2 16 rfl rfl)
theorem dX4_readsCrate_64 : decode cX4_readsCrate 64 = .ok (.iadd, 1) := dk_96 (dk_at dksX4_readsCrate_2 17 rfl rfl)
theorem dX4_readsCrate_65 : decode cX4_readsCrate 65 = .ok (.aload_n 0, 1) := dk_42 (dk_at dksX4_readsCrate_2 18 rfl rfl)
theorem dX4_readsCrate_66 : decode cX4_readsCrate 66 = .ok (.aload_n 0, 1) := dk_42 (dk_at dksX4_readsCrate_2 19 rfl rfl)
theorem dX4_readsCrate_67 : decode cX4_readsCrate 67 = .ok (.getfield 236, 3) := dk_180 0 236 (dk_at dksX4_readsCrate_2 20 rfl rfl)
theorem dX4_readsCrate_70 : decode cX4_readsCrate 70 = .ok (.invokevirtual 246, 3) := dk_182 0 246 (dk_at dksX4_readsCrate_3 0 rfl rfl)
theorem dX4_readsCrate_73 : decode cX4_readsCrate 73 = .ok (.iastore, 1) := dk_79 (dk_at dksX4_readsCrate_3 3 rfl rfl)
theorem dX4_readsCrate_74 : decode cX4_readsCrate 74 = .ok (.aload_n 0, 1) := dk_42 (dk_at dksX4_readsCrate_3 4 rfl rfl)
theorem dX4_readsCrate_75 : decode cX4_readsCrate 75 = .ok (.getfield 62, 3) := dk_180 0 62 (dk_at dksX4_readsCrate_3 5 rfl rfl)
theorem dX4_readsCrate_78 : decode cX4_readsCrate 78 = .ok (.bipush 65, 2) := dk_16 65 (dk_at dksX4_readsCrate_3 8 rfl rfl)
theorem dX4_readsCrate_80 : decode cX4_readsCrate 80 = .ok (.iload_n 2, 1) := dk_28 (dk_at dksX4_readsCrate_3 10 rfl rfl)
theorem dX4_readsCrate_81 : decode cX4_readsCrate 81 = .ok (.iadd, 1) := dk_96 (dk_at dksX4_readsCrate_3 11 rfl rfl)
theorem dX4_readsCrate_82 : decode cX4_readsCrate 82 = .ok (.iconst 0, 1) := dk_3 (dk_at dksX4_readsCrate_3 12 rfl rfl)
theorem dX4_readsCrate_83 : decode cX4_readsCrate 83 = .ok (.iastore, 1) := dk_79 (dk_at dksX4_readsCrate_3 13 rfl rfl)
theorem dX4_readsCrate_84 : decode cX4_readsCrate 84 = .ok (.aload_n 0, 1) := dk_42 (dk_at dksX4_readsCrate_3 14 rfl rfl)
theorem dX4_readsCrate_85 : decode cX4_readsCrate 85 = .ok (.getfield 62, 3) := dk_180 0 62 (dk_at dksX4_readsCrate_3 15 rfl rfl)
theorem dX4_readsCrate_88 : decode cX4_readsCrate 88 = .ok (.bipush 75, 2) := dk_16 75 (dk_at dksX4_readsCrate_3 18 rfl rfl)
theorem dX4_readsCrate_90 : decode cX4_readsCrate 90 = .ok (.iload_n 2, 1) := dk_28 (dk_at dksX4_readsCrate_3 20 rfl rfl)
theorem dX4_readsCrate_91 : decode cX4_readsCrate 91 = .ok (.iadd, 1) := dk_96 (dk_at dksX4_readsCrate_3 21 rfl rfl)
theorem dX4_readsCrate_92 : decode cX4_readsCrate 92 = .ok (.iconst 0, 1) := dk_3 (dk_at dksX4_readsCrate_3 22 rfl rfl)
theorem dX4_readsCrate_93 : decode cX4_readsCrate 93 = .ok (.iastore, 1) := dk_79 (dk_at dksX4_readsCrate_3 23 rfl rfl)
theorem dX4_readsCrate_94 : decode cX4_readsCrate 94 = .ok (.aload_n 0, 1) := dk_42 (dk_at dksX4_readsCrate_4 0 rfl rfl)
theorem dX4_readsCrate_95 : decode cX4_readsCrate 95 = .ok (.getfield 62, 3) := dk_180 0 62 (dk_at dksX4_readsCrate_4 1 rfl rfl)
theorem dX4_readsCrate_98 : decode cX4_readsCrate 98 = .ok (.bipush 45, 2) := dk_16 45 (dk_at dksX4_readsCrate_4 4 rfl rfl)
theorem dX4_readsCrate_100 : decode cX4_readsCrate 100 = .ok (.iload_n 2, 1) := dk_28 (dk_at dksX4_readsCrate_4 6 rfl rfl)
theorem dX4_readsCrate_101 : decode cX4_readsCrate 101 = .ok (.iadd, 1) := dk_96 (dk_at dksX4_readsCrate_4 7 rfl rfl)
theorem dX4_readsCrate_102 : decode cX4_readsCrate 102 = .ok (.iconst 0, 1) := dk_3 (dk_at dksX4_readsCrate_4 8 rfl rfl)
theorem dX4_readsCrate_103 : decode cX4_readsCrate 103 = .ok (.iastore, 1) := dk_79 (dk_at dksX4_readsCrate_4 9 rfl rfl)
theorem dX4_readsCrate_104 : decode cX4_readsCrate 104 = .ok (.aload_n 0, 1) := dk_42 (dk_at dksX4_readsCrate_4 10 rfl rfl)
theorem dX4_readsCrate_105 : decode cX4_readsCrate 105 = .ok (.invokevirtual 176, 3) := dk_182 0 176 (dk_at dksX4_readsCrate_4 11 rfl rfl)
theorem dX4_readsCrate_108 : decode cX4_readsCrate 108 = .ok (.ifCond .eq 26, 3) := dk_153 0 26 (dk_at dksX4_readsCrate_4 14 rfl rfl)
theorem dX4_readsCrate_111 : decode cX4_readsCrate 111 = .ok (.aload_n 0, 1) := dk_42 (dk_at dksX4_readsCrate_4 17 rfl rfl)
theorem dX4_readsCrate_112 : decode cX4_readsCrate 112 = .ok (.invokevirtual 204, 3) := dk_182 0 204 (dk_at dksX4_readsCrate_4 18 rfl rfl)
theorem dX4_readsCrate_115 : decode cX4_readsCrate 115 = .ok (.bipush 10, 2) := dk_16 10 (dk_at dksX4_readsCrate_4 21 rfl rfl)
theorem dX4_readsCrate_117 : decode cX4_readsCrate 117 = .ok (.if_icmp .ne 17, 3) := dk_160 0 17 (dk_at dksX4_readsCrate_5 0 rfl rfl)
theorem dX4_readsCrate_120 : decode cX4_readsCrate 120 = .ok (.aload_n 0, 1) := dk_42 (dk_at dksX4_readsCrate_5 3 rfl rfl)
theorem dX4_readsCrate_121 : decode cX4_readsCrate 121 = .ok (.getfield 62, 3) := dk_180 0 62 (dk_at dksX4_readsCrate_5 4 rfl rfl)
theorem dX4_readsCrate_124 : decode cX4_readsCrate 124 = .ok (.bipush 45, 2) := dk_16 45 (dk_at dksX4_readsCrate_5 7 rfl rfl)
theorem dX4_readsCrate_126 : decode cX4_readsCrate 126 = .ok (.iload_n 2, 1) := dk_28 (dk_at dksX4_readsCrate_5 9 rfl rfl)
theorem dX4_readsCrate_127 : decode cX4_readsCrate 127 = .ok (.iadd, 1) := dk_96 (dk_at dksX4_readsCrate_5 10 rfl rfl)
theorem dX4_readsCrate_128 : decode cX4_readsCrate 128 = .ok (.iconst 1, 1) := dk_4 (dk_at dksX4_readsCrate_5 11 rfl rfl)
theorem dX4_readsCrate_129 : decode cX4_readsCrate 129 = .ok (.iastore, 1) := dk_79 (dk_at dksX4_readsCrate_5 12 rfl rfl)
theorem dX4_readsCrate_130 : decode cX4_readsCrate 130 = .ok (.aload_n 0, 1) := dk_42 (dk_at dksX4_readsCrate_5 13 rfl rfl)
theorem dX4_readsCrate_131 : decode cX4_readsCrate 131 = .ok (.invokevirtual 180, 3) := dk_182 0 180 (dk_at dksX4_readsCrate_5 14 rfl rfl)
theorem dX4_readsCrate_134 : decode cX4_readsCrate 134 = .ok (.aload_n 0, 1) := dk_42 (dk_at dksX4_readsCrate_5 17 rfl rfl)
theorem dX4_readsCrate_135 : decode cX4_readsCrate 135 = .ok (.invokevirtual 176, 3) := dk_182 0 176 (dk_at dksX4_readsCrate_5 18 rfl rfl)
theorem dX4_readsCrate_138 : decode cX4_readsCrate 138 = .ok (.ifCond .eq 13, 3) := dk_153 0 13 (dk_at dksX4_readsCrate_5 21 rfl rfl)
theorem dX4_readsCrate_141 : decode cX4_readsCrate 141 = .ok (.aload_n 0, 1) := dk_42 (dk_at dksX4_readsCrate_6 0 rfl rfl)
theorem dX4_readsCrate_142 : decode cX4_readsCrate 142 = .ok (.dup, 1) := dk_89 (dk_at dksX4_readsCrate_6 1 rfl rfl)
theorem dX4_readsCrate_143 : decode cX4_readsCrate 143 = .ok (.getfield 253, 3) := dk_180 0 253 (dk_at dksX4_readsCrate_6 2 rfl rfl)
theorem dX4_readsCrate_146 : decode cX4_readsCrate 146 = .ok (.iconst 1, 1) := dk_4 (dk_at dksX4_readsCrate_6 5 rfl rfl)
theorem dX4_readsCrate_147 : decode cX4_readsCrate 147 = .ok (.iadd, 1) := dk_96 (dk_at dksX4_readsCrate_6 6 rfl rfl)
theorem dX4_readsCrate_148 : decode cX4_readsCrate 148 = .ok (.putfield 253, 3) := dk_181 0 253 (dk_at dksX4_readsCrate_6 7 rfl rfl)
theorem dX4_readsCrate_151 : decode cX4_readsCrate 151 = .ok (.return_, 1) := dk_177 (dk_at dksX4_readsCrate_6 10 rfl rfl)
abbrev cX4_expression : ByteArray := prog_13_method_35_code
def yX4_expression : MethodName := ⟨RX4, "expression", "()V"⟩
def dkwX4_expression_15 : List UInt8 := [182, 0, 201, 177]
abbrev dktX4_expression_15 : List UInt8 := dkwX4_expression_15 ++ []
def dkwX4_expression_14 : List UInt8 := [153, 0, 16, 42, 180, 0, 208, 4, 164, 0, 8, 42, 4, 182, 0, 183, 42, 3, 182, 0, 223, 42, 3]
abbrev dktX4_expression_14 : List UInt8 := dkwX4_expression_14 ++ dktX4_expression_15
def dkwX4_expression_13 : List UInt8 := [42, 182, 0, 230, 153, 0, 10, 42, 182, 0, 233, 167, 0, 5, 3, 60, 167, 254, 219, 42, 182, 0, 176]
abbrev dktX4_expression_13 : List UInt8 := dkwX4_expression_13 ++ dktX4_expression_14
def dkwX4_expression_12 : List UInt8 := [182, 0, 214, 42, 182, 0, 180, 42, 3, 182, 0, 226, 167, 0, 28, 42, 16, 41, 182, 0, 211, 153, 0, 17]
abbrev dktX4_expression_12 : List UInt8 := dkwX4_expression_12 ++ dktX4_expression_13
def dkwX4_expression_11 : List UInt8 := [42, 16, 6, 182, 0, 223, 42, 42, 16, 42, 182, 0, 211, 153, 0, 8, 16, 10, 167, 0, 5, 16, 11]
abbrev dktX4_expression_11 : List UInt8 := dkwX4_expression_11 ++ dktX4_expression_12
def dkwX4_expression_10 : List UInt8 := [182, 0, 226, 167, 0, 84, 42, 16, 42, 182, 0, 211, 154, 0, 12, 42, 16, 47, 182, 0, 211, 153, 0, 41]
abbrev dktX4_expression_10 : List UInt8 := dkwX4_expression_10 ++ dktX4_expression_11
def dkwX4_expression_9 : List UInt8 := [182, 0, 211, 153, 0, 8, 16, 8, 167, 0, 5, 16, 9, 182, 0, 214, 42, 182, 0, 180, 42, 3]
abbrev dktX4_expression_9 : List UInt8 := dkwX4_expression_9 ++ dktX4_expression_10
def dkwX4_expression_8 : List UInt8 := [182, 0, 211, 154, 0, 12, 42, 16, 45, 182, 0, 211, 153, 0, 40, 42, 8, 182, 0, 223, 42, 42, 16, 43]
abbrev dktX4_expression_8 : List UInt8 := dkwX4_expression_8 ++ dktX4_expression_9
def dkwX4_expression_7 : List UInt8 := [180, 0, 71, 42, 180, 0, 208, 4, 84, 42, 182, 0, 180, 42, 3, 182, 0, 226, 167, 0, 139, 42, 16, 43]
abbrev dktX4_expression_7 : List UInt8 := dkwX4_expression_7 ++ dktX4_expression_8
def dkwX4_expression_6 : List UInt8 := [182, 0, 223, 42, 42, 16, 60, 182, 0, 211, 153, 0, 8, 16, 6, 167, 0, 5, 16, 7, 182, 0, 214, 42]
abbrev dktX4_expression_6 : List UInt8 := dkwX4_expression_6 ++ dktX4_expression_7
def dkwX4_expression_5 : List UInt8 := [16, 61, 182, 0, 211, 153, 0, 62, 42, 180, 0, 71, 42, 180, 0, 208, 51, 154, 0, 50, 42, 7]
abbrev dktX4_expression_5 : List UInt8 := dkwX4_expression_5 ++ dktX4_expression_6
def dkwX4_expression_4 : List UInt8 := [84, 42, 182, 0, 180, 42, 4, 182, 0, 226, 167, 0, 216, 42, 16, 60, 182, 0, 211, 154, 0, 12, 42]
abbrev dktX4_expression_4 : List UInt8 := dkwX4_expression_4 ++ dktX4_expression_5
def dkwX4_expression_3 : List UInt8 := [42, 28, 16, 12, 160, 0, 7, 7, 167, 0, 4, 8, 182, 0, 214, 42, 180, 0, 71, 42, 180, 0, 208, 3]
abbrev dktX4_expression_3 : List UInt8 := dkwX4_expression_3 ++ dktX4_expression_4
def dkwX4_expression_2 : List UInt8 := [159, 0, 9, 28, 16, 13, 160, 0, 55, 42, 28, 16, 12, 160, 0, 7, 5, 167, 0, 4, 4, 182, 0, 223]
abbrev dktX4_expression_2 : List UInt8 := dkwX4_expression_2 ++ dktX4_expression_3
def dkwX4_expression_1 : List UInt8 := [182, 0, 226, 4, 60, 27, 153, 1, 39, 42, 182, 0, 176, 153, 1, 32, 42, 182, 0, 204, 61, 28, 16, 12]
abbrev dktX4_expression_1 : List UInt8 := dkwX4_expression_1 ++ dktX4_expression_2
def dkwX4_expression_0 : List UInt8 := [42, 182, 0, 176, 154, 0, 4, 177, 42, 3, 181, 0, 192, 42, 3, 181, 0, 208, 42, 182, 0, 217, 42, 4]
abbrev dktX4_expression_0 : List UInt8 := dkwX4_expression_0 ++ dktX4_expression_1
theorem dksX4_expression_0 : cX4_expression.data.toList.drop 0 = dktX4_expression_0 := by decide +kernel
theorem dksX4_expression_1 : cX4_expression.data.toList.drop 24 = dktX4_expression_1 := dk_seg dksX4_expression_0 24 rfl rfl
theorem dksX4_expression_2 : cX4_expression.data.toList.drop 48 = dktX4_expression_2 := dk_seg dksX4_expression_1 24 rfl rfl
theorem dksX4_expression_3 : cX4_expression.data.toList.drop 72 = dktX4_expression_3 := dk_seg dksX4_expression_2 24 rfl rfl
theorem dksX4_expression_4 : cX4_expression.data.toList.drop 96 = dktX4_expression_4 := dk_seg dksX4_expression_3 24 rfl rfl
theorem dksX4_expression_5 : cX4_expression.data.toList.drop 119 = dktX4_expression_5 := dk_seg dksX4_expression_4 23 rfl rfl
theorem dksX4_expression_6 : cX4_expression.data.toList.drop 141 = dktX4_expression_6 := dk_seg dksX4_expression_5 22 rfl rfl
theorem dksX4_expression_7 : cX4_expression.data.toList.drop 165 = dktX4_expression_7 := dk_seg dksX4_expression_6 24 rfl rfl
theorem dksX4_expression_8 : cX4_expression.data.toList.drop 189 = dktX4_expression_8 := dk_seg dksX4_expression_7 24 rfl rfl
theorem dksX4_expression_9 : cX4_expression.data.toList.drop 213 = dktX4_expression_9 := dk_seg dksX4_expression_8 24 rfl rfl
theorem dksX4_expression_10 : cX4_expression.data.toList.drop 235 = dktX4_expression_10 := dk_seg dksX4_expression_9 22 rfl rfl
theorem dksX4_expression_11 : cX4_expression.data.toList.drop 259 = dktX4_expression_11 := dk_seg dksX4_expression_10 24 rfl rfl
theorem dksX4_expression_12 : cX4_expression.data.toList.drop 282 = dktX4_expression_12 := dk_seg dksX4_expression_11 23 rfl rfl
theorem dksX4_expression_13 : cX4_expression.data.toList.drop 306 = dktX4_expression_13 := dk_seg dksX4_expression_12 24 rfl rfl
theorem dksX4_expression_14 : cX4_expression.data.toList.drop 329 = dktX4_expression_14 := dk_seg dksX4_expression_13 23 rfl rfl
theorem dksX4_expression_15 : cX4_expression.data.toList.drop 352 = dktX4_expression_15 := dk_seg dksX4_expression_14 23 rfl rfl
theorem dX4_expression_0 : decode cX4_expression 0 = .ok (.aload_n 0, 1) := dk_42 (dk_at dksX4_expression_0 0 rfl rfl)
theorem dX4_expression_1 : decode cX4_expression 1 = .ok (.invokevirtual 176, 3) := dk_182 0 176 (dk_at dksX4_expression_0 1 rfl rfl)
theorem dX4_expression_4 : decode cX4_expression 4 = .ok (.ifCond .ne 4, 3) := dk_154 0 4 (dk_at dksX4_expression_0 4 rfl rfl)
theorem dX4_expression_7 : decode cX4_expression 7 = .ok (.return_, 1) := dk_177 (dk_at dksX4_expression_0 7 rfl rfl)
theorem dX4_expression_8 : decode cX4_expression 8 = .ok (.aload_n 0, 1) := dk_42 (dk_at dksX4_expression_0 8 rfl rfl)
theorem dX4_expression_9 : decode cX4_expression 9 = .ok (.iconst 0, 1) := dk_3 (dk_at dksX4_expression_0 9 rfl rfl)
theorem dX4_expression_10 : decode cX4_expression 10 = .ok (.putfield 192, 3) := dk_181 0 192 (dk_at dksX4_expression_0 10 rfl rfl)
theorem dX4_expression_13 : decode cX4_expression 13 = .ok (.aload_n 0, 1) := dk_42 (dk_at dksX4_expression_0 13 rfl rfl)
theorem dX4_expression_14 : decode cX4_expression 14 = .ok (.iconst 0, 1) := dk_3 (dk_at dksX4_expression_0 14 rfl rfl)
theorem dX4_expression_15 : decode cX4_expression 15 = .ok (.putfield 208, 3) := dk_181 0 208 (dk_at dksX4_expression_0 15 rfl rfl)
theorem dX4_expression_18 : decode cX4_expression 18 = .ok (.aload_n 0, 1) := dk_42 (dk_at dksX4_expression_0 18 rfl rfl)
theorem dX4_expression_19 : decode cX4_expression 19 = .ok (.invokevirtual 217, 3) := dk_182 0 217 (dk_at dksX4_expression_0 19 rfl rfl)
theorem dX4_expression_22 : decode cX4_expression 22 = .ok (.aload_n 0, 1) := dk_42 (dk_at dksX4_expression_0 22 rfl rfl)
theorem dX4_expression_23 : decode cX4_expression 23 = .ok (.iconst 1, 1) := dk_4 (dk_at dksX4_expression_0 23 rfl rfl)
theorem dX4_expression_24 : decode cX4_expression 24 = .ok (.invokevirtual 226, 3) := dk_182 0 226 (dk_at dksX4_expression_1 0 rfl rfl)
theorem dX4_expression_27 : decode cX4_expression 27 = .ok (.iconst 1, 1) := dk_4 (dk_at dksX4_expression_1 3 rfl rfl)
theorem dX4_expression_28 : decode cX4_expression 28 = .ok (.istore_n 1, 1) := dk_60 (dk_at dksX4_expression_1 4 rfl rfl)
theorem dX4_expression_29 : decode cX4_expression 29 = .ok (.iload_n 1, 1) := dk_27 (dk_at dksX4_expression_1 5 rfl rfl)
theorem dX4_expression_30 : decode cX4_expression 30 = .ok (.ifCond .eq 295, 3) := dk_153 1 39 (dk_at dksX4_expression_1 6 rfl rfl)
theorem dX4_expression_33 : decode cX4_expression 33 = .ok (.aload_n 0, 1) := dk_42 (dk_at dksX4_expression_1 9 rfl rfl)
theorem dX4_expression_34 : decode cX4_expression 34 = .ok (.invokevirtual 176, 3) := dk_182 0 176 (dk_at dksX4_expression_1 10 rfl rfl)
theorem dX4_expression_37 : decode cX4_expression 37 = .ok (.ifCond .eq 288, 3) := dk_153 1 32 (dk_at dksX4_expression_1 13 rfl rfl)
theorem dX4_expression_40 : decode cX4_expression 40 = .ok (.aload_n 0, 1) := dk_42 (dk_at dksX4_expression_1 16 rfl rfl)
theorem dX4_expression_41 : decode cX4_expression 41 = .ok (.invokevirtual 204, 3) := dk_182 0 204 (dk_at dksX4_expression_1 17 rfl rfl)
theorem dX4_expression_44 : decode cX4_expression 44 = .ok (.istore_n 2, 1) := dk_61 (dk_at dksX4_expression_1 20 rfl rfl)
theorem dX4_expression_45 : decode cX4_expression 45 = .ok (.iload_n 2, 1) := dk_28 (dk_at dksX4_expression_1 21 rfl rfl)
theorem dX4_expression_46 : decode cX4_expression 46 = .ok (.bipush 12, 2) := dk_16 12 (dk_at dksX4_expression_1 22 rfl rfl)
theorem dX4_expression_48 : decode cX4_expression 48 = .ok (.if_icmp .eq 9, 3) := dk_159 0 9 (dk_at dksX4_expression_2 0 rfl rfl)
theorem dX4_expression_51 : decode cX4_expression 51 = .ok (.iload_n 2, 1) := dk_28 (dk_at dksX4_expression_2 3 rfl rfl)
theorem dX4_expression_52 : decode cX4_expression 52 = .ok (.bipush 13, 2) := dk_16 13 (dk_at dksX4_expression_2 4 rfl rfl)
theorem dX4_expression_54 : decode cX4_expression 54 = .ok (.if_icmp .ne 55, 3) := dk_160 0 55 (dk_at dksX4_expression_2 6 rfl rfl)
theorem dX4_expression_57 : decode cX4_expression 57 = .ok (.aload_n 0, 1) := dk_42 (dk_at dksX4_expression_2 9 rfl rfl)
theorem dX4_expression_58 : decode cX4_expression 58 = .ok (.iload_n 2, 1) := dk_28 (dk_at dksX4_expression_2 10 rfl rfl)
theorem dX4_expression_59 : decode cX4_expression 59 = .ok (.bipush 12, 2) := dk_16 12 (dk_at dksX4_expression_2 11 rfl rfl)
theorem dX4_expression_61 : decode cX4_expression 61 = .ok (.if_icmp .ne 7, 3) := dk_160 0 7 (dk_at dksX4_expression_2 13 rfl rfl)
theorem dX4_expression_64 : decode cX4_expression 64 = .ok (.iconst 2, 1) := dk_5 (dk_at dksX4_expression_2 16 rfl rfl)
theorem dX4_expression_65 : decode cX4_expression 65 = .ok (.goto 4, 3) := dk_167 0 4 (dk_at dksX4_expression_2 17 rfl rfl)
theorem dX4_expression_68 : decode cX4_expression 68 = .ok (.iconst 1, 1) := dk_4 (dk_at dksX4_expression_2 20 rfl rfl)
theorem dX4_expression_69 : decode cX4_expression 69 = .ok (.invokevirtual 223, 3) := dk_182 0 223 (dk_at dksX4_expression_2 21 rfl rfl)
theorem dX4_expression_72 : decode cX4_expression 72 = .ok (.aload_n 0, 1) := dk_42 (dk_at dksX4_expression_3 0 rfl rfl)
theorem dX4_expression_73 : decode cX4_expression 73 = .ok (.iload_n 2, 1) := dk_28 (dk_at dksX4_expression_3 1 rfl rfl)
theorem dX4_expression_74 : decode cX4_expression 74 = .ok (.bipush 12, 2) := dk_16 12 (dk_at dksX4_expression_3 2 rfl rfl)
theorem dX4_expression_76 : decode cX4_expression 76 = .ok (.if_icmp .ne 7, 3) := dk_160 0 7 (dk_at dksX4_expression_3 4 rfl rfl)
theorem dX4_expression_79 : decode cX4_expression 79 = .ok (.iconst 4, 1) := dk_7 (dk_at dksX4_expression_3 7 rfl rfl)
theorem dX4_expression_80 : decode cX4_expression 80 = .ok (.goto 4, 3) := dk_167 0 4 (dk_at dksX4_expression_3 8 rfl rfl)
theorem dX4_expression_83 : decode cX4_expression 83 = .ok (.iconst 5, 1) := dk_8 (dk_at dksX4_expression_3 11 rfl rfl)
theorem dX4_expression_84 : decode cX4_expression 84 = .ok (.invokevirtual 214, 3) := dk_182 0 214 (dk_at dksX4_expression_3 12 rfl rfl)
theorem dX4_expression_87 : decode cX4_expression 87 = .ok (.aload_n 0, 1) := dk_42 (dk_at dksX4_expression_3 15 rfl rfl)
theorem dX4_expression_88 : decode cX4_expression 88 = .ok (.getfield 71, 3) := dk_180 0 71 (dk_at dksX4_expression_3 16 rfl rfl)
theorem dX4_expression_91 : decode cX4_expression 91 = .ok (.aload_n 0, 1) := dk_42 (dk_at dksX4_expression_3 19 rfl rfl)
theorem dX4_expression_92 : decode cX4_expression 92 = .ok (.getfield 208, 3) := dk_180 0 208 (dk_at dksX4_expression_3 20 rfl rfl)
theorem dX4_expression_95 : decode cX4_expression 95 = .ok (.iconst 0, 1) := dk_3 (dk_at dksX4_expression_3 23 rfl rfl)
theorem dX4_expression_96 : decode cX4_expression 96 = .ok (.bastore, 1) := dk_84 (dk_at dksX4_expression_4 0 rfl rfl)
theorem dX4_expression_97 : decode cX4_expression 97 = .ok (.aload_n 0, 1) := dk_42 (dk_at dksX4_expression_4 1 rfl rfl)
theorem dX4_expression_98 : decode cX4_expression 98 = .ok (.invokevirtual 180, 3) := dk_182 0 180 (dk_at dksX4_expression_4 2 rfl rfl)
theorem dX4_expression_101 : decode cX4_expression 101 = .ok (.aload_n 0, 1) := dk_42 (dk_at dksX4_expression_4 5 rfl rfl)
theorem dX4_expression_102 : decode cX4_expression 102 = .ok (.iconst 1, 1) := dk_4 (dk_at dksX4_expression_4 6 rfl rfl)
theorem dX4_expression_103 : decode cX4_expression 103 = .ok (.invokevirtual 226, 3) := dk_182 0 226 (dk_at dksX4_expression_4 7 rfl rfl)
theorem dX4_expression_106 : decode cX4_expression 106 = .ok (.goto 216, 3) := dk_167 0 216 (dk_at dksX4_expression_4 10 rfl rfl)
theorem dX4_expression_109 : decode cX4_expression 109 = .ok (.aload_n 0, 1) := dk_42 (dk_at dksX4_expression_4 13 rfl rfl)
theorem dX4_expression_110 : decode cX4_expression 110 = .ok (.bipush 60, 2) := dk_16 60 (dk_at dksX4_expression_4 14 rfl rfl)
theorem dX4_expression_112 : decode cX4_expression 112 = .ok (.invokevirtual 211, 3) := dk_182 0 211 (dk_at dksX4_expression_4 16 rfl rfl)
theorem dX4_expression_115 : decode cX4_expression 115 = .ok (.ifCond .ne 12, 3) := dk_154 0 12 (dk_at dksX4_expression_4 19 rfl rfl)
theorem dX4_expression_118 : decode cX4_expression 118 = .ok (.aload_n 0, 1) := dk_42 (dk_at dksX4_expression_4 22 rfl rfl)
theorem dX4_expression_119 : decode cX4_expression 119 = .ok (.bipush 61, 2) := dk_16 61 (dk_at dksX4_expression_5 0 rfl rfl)
theorem dX4_expression_121 : decode cX4_expression 121 = .ok (.invokevirtual 211, 3) := dk_182 0 211 (dk_at dksX4_expression_5 2 rfl rfl)
theorem dX4_expression_124 : decode cX4_expression 124 = .ok (.ifCond .eq 62, 3) := dk_153 0 62 (dk_at dksX4_expression_5 5 rfl rfl)
theorem dX4_expression_127 : decode cX4_expression 127 = .ok (.aload_n 0, 1) := dk_42 (dk_at dksX4_expression_5 8 rfl rfl)
theorem dX4_expression_128 : decode cX4_expression 128 = .ok (.getfield 71, 3) := dk_180 0 71 (dk_at dksX4_expression_5 9 rfl rfl)
theorem dX4_expression_131 : decode cX4_expression 131 = .ok (.aload_n 0, 1) := dk_42 (dk_at dksX4_expression_5 12 rfl rfl)
theorem dX4_expression_132 : decode cX4_expression 132 = .ok (.getfield 208, 3) := dk_180 0 208 (dk_at dksX4_expression_5 13 rfl rfl)
theorem dX4_expression_135 : decode cX4_expression 135 = .ok (.baload, 1) := dk_51 (dk_at dksX4_expression_5 16 rfl rfl)
theorem dX4_expression_136 : decode cX4_expression 136 = .ok (.ifCond .ne 50, 3) := dk_154 0 50 (dk_at dksX4_expression_5 17 rfl rfl)
theorem dX4_expression_139 : decode cX4_expression 139 = .ok (.aload_n 0, 1) := dk_42 (dk_at dksX4_expression_5 20 rfl rfl)
theorem dX4_expression_140 : decode cX4_expression 140 = .ok (.iconst 4, 1) := dk_7 (dk_at dksX4_expression_5 21 rfl rfl)
theorem dX4_expression_141 : decode cX4_expression 141 = .ok (.invokevirtual 223, 3) := dk_182 0 223 (dk_at dksX4_expression_6 0 rfl rfl)
theorem dX4_expression_144 : decode cX4_expression 144 = .ok (.aload_n 0, 1) := dk_42 (dk_at dksX4_expression_6 3 rfl rfl)
theorem dX4_expression_145 : decode cX4_expression 145 = .ok (.aload_n 0, 1) := dk_42 (dk_at dksX4_expression_6 4 rfl rfl)
theorem dX4_expression_146 : decode cX4_expression 146 = .ok (.bipush 60, 2) := dk_16 60 (dk_at dksX4_expression_6 5 rfl rfl)
theorem dX4_expression_148 : decode cX4_expression 148 = .ok (.invokevirtual 211, 3) := dk_182 0 211 (dk_at dksX4_expression_6 7 rfl rfl)
theorem dX4_expression_151 : decode cX4_expression 151 = .ok (.ifCond .eq 8, 3) := dk_153 0 8 (dk_at dksX4_expression_6 10 rfl rfl)
theorem dX4_expression_154 : decode cX4_expression 154 = .ok (.bipush 6, 2) := dk_16 6 (dk_at dksX4_expression_6 13 rfl rfl)
theorem dX4_expression_156 : decode cX4_expression 156 = .ok (.goto 5, 3) := dk_167 0 5 (dk_at dksX4_expression_6 15 rfl rfl)
theorem dX4_expression_159 : decode cX4_expression 159 = .ok (.bipush 7, 2) := dk_16 7 (dk_at dksX4_expression_6 18 rfl rfl)
theorem dX4_expression_161 : decode cX4_expression 161 = .ok (.invokevirtual 214, 3) := dk_182 0 214 (dk_at dksX4_expression_6 20 rfl rfl)
theorem dX4_expression_164 : decode cX4_expression 164 = .ok (.aload_n 0, 1) := dk_42 (dk_at dksX4_expression_6 23 rfl rfl)
theorem dX4_expression_165 : decode cX4_expression 165 = .ok (.getfield 71, 3) := dk_180 0 71 (dk_at dksX4_expression_7 0 rfl rfl)
theorem dX4_expression_168 : decode cX4_expression 168 = .ok (.aload_n 0, 1) := dk_42 (dk_at dksX4_expression_7 3 rfl rfl)
theorem dX4_expression_169 : decode cX4_expression 169 = .ok (.getfield 208, 3) := dk_180 0 208 (dk_at dksX4_expression_7 4 rfl rfl)
theorem dX4_expression_172 : decode cX4_expression 172 = .ok (.iconst 1, 1) := dk_4 (dk_at dksX4_expression_7 7 rfl rfl)
theorem dX4_expression_173 : decode cX4_expression 173 = .ok (.bastore, 1) := dk_84 (dk_at dksX4_expression_7 8 rfl rfl)
theorem dX4_expression_174 : decode cX4_expression 174 = .ok (.aload_n 0, 1) := dk_42 (dk_at dksX4_expression_7 9 rfl rfl)
theorem dX4_expression_175 : decode cX4_expression 175 = .ok (.invokevirtual 180, 3) := dk_182 0 180 (dk_at dksX4_expression_7 10 rfl rfl)
theorem dX4_expression_178 : decode cX4_expression 178 = .ok (.aload_n 0, 1) := dk_42 (dk_at dksX4_expression_7 13 rfl rfl)
theorem dX4_expression_179 : decode cX4_expression 179 = .ok (.iconst 0, 1) := dk_3 (dk_at dksX4_expression_7 14 rfl rfl)
theorem dX4_expression_180 : decode cX4_expression 180 = .ok (.invokevirtual 226, 3) := dk_182 0 226 (dk_at dksX4_expression_7 15 rfl rfl)
theorem dX4_expression_183 : decode cX4_expression 183 = .ok (.goto 139, 3) := dk_167 0 139 (dk_at dksX4_expression_7 18 rfl rfl)
theorem dX4_expression_186 : decode cX4_expression 186 = .ok (.aload_n 0, 1) := dk_42 (dk_at dksX4_expression_7 21 rfl rfl)
theorem dX4_expression_187 : decode cX4_expression 187 = .ok (.bipush 43, 2) := dk_16 43 (dk_at dksX4_expression_7 22 rfl rfl)
theorem dX4_expression_189 : decode cX4_expression 189 = .ok (.invokevirtual 211, 3) := dk_182 0 211 (dk_at dksX4_expression_8 0 rfl rfl)
theorem dX4_expression_192 : decode cX4_expression 192 = .ok (.ifCond .ne 12, 3) := dk_154 0 12 (dk_at dksX4_expression_8 3 rfl rfl)
theorem dX4_expression_195 : decode cX4_expression 195 = .ok (.aload_n 0, 1) := dk_42 (dk_at dksX4_expression_8 6 rfl rfl)
theorem dX4_expression_196 : decode cX4_expression 196 = .ok (.bipush 45, 2) := dk_16 45 (dk_at dksX4_expression_8 7 rfl rfl)
theorem dX4_expression_198 : decode cX4_expression 198 = .ok (.invokevirtual 211, 3) := dk_182 0 211 (dk_at dksX4_expression_8 9 rfl rfl)
theorem dX4_expression_201 : decode cX4_expression 201 = .ok (.ifCond .eq 40, 3) := dk_153 0 40 (dk_at dksX4_expression_8 12 rfl rfl)
theorem dX4_expression_204 : decode cX4_expression 204 = .ok (.aload_n 0, 1) := dk_42 (dk_at dksX4_expression_8 15 rfl rfl)
theorem dX4_expression_205 : decode cX4_expression 205 = .ok (.iconst 5, 1) := dk_8 (dk_at dksX4_expression_8 16 rfl rfl)
theorem dX4_expression_206 : decode cX4_expression 206 = .ok (.invokevirtual 223, 3) := dk_182 0 223 (dk_at dksX4_expression_8 17 rfl rfl)
theorem dX4_expression_209 : decode cX4_expression 209 = .ok (.aload_n 0, 1) := dk_42 (dk_at dksX4_expression_8 20 rfl rfl)
theorem dX4_expression_210 : decode cX4_expression 210 = .ok (.aload_n 0, 1) := dk_42 (dk_at dksX4_expression_8 21 rfl rfl)
theorem dX4_expression_211 : decode cX4_expression 211 = .ok (.bipush 43, 2) := dk_16 43 (dk_at dksX4_expression_8 22 rfl rfl)
theorem dX4_expression_213 : decode cX4_expression 213 = .ok (.invokevirtual 211, 3) := dk_182 0 211 (dk_at dksX4_expression_9 0 rfl rfl)
theorem dX4_expression_216 : decode cX4_expression 216 = .ok (.ifCond .eq 8, 3) := dk_153 0 8 (dk_at dksX4_expression_9 3 rfl rfl)
theorem dX4_expression_219 : decode cX4_expression 219 = .ok (.bipush 8, 2) := dk_16 8 (dk_at dksX4_expression_9 6 rfl rfl)
theorem dX4_expression_221 : decode cX4_expression 221 = .ok (.goto 5, 3) := dk_167 0 5 (dk_at dksX4_expression_9 8 rfl rfl)
theorem dX4_expression_224 : decode cX4_expression 224 = .ok (.bipush 9, 2) := dk_16 9 (dk_at dksX4_expression_9 11 rfl rfl)
theorem dX4_expression_226 : decode cX4_expression 226 = .ok (.invokevirtual 214, 3) := dk_182 0 214 (dk_at dksX4_expression_9 13 rfl rfl)
theorem dX4_expression_229 : decode cX4_expression 229 = .ok (.aload_n 0, 1) := dk_42 (dk_at dksX4_expression_9 16 rfl rfl)
theorem dX4_expression_230 : decode cX4_expression 230 = .ok (.invokevirtual 180, 3) := dk_182 0 180 (dk_at dksX4_expression_9 17 rfl rfl)
theorem dX4_expression_233 : decode cX4_expression 233 = .ok (.aload_n 0, 1) := dk_42 (dk_at dksX4_expression_9 20 rfl rfl)
theorem dX4_expression_234 : decode cX4_expression 234 = .ok (.iconst 0, 1) := dk_3 (dk_at dksX4_expression_9 21 rfl rfl)
theorem dX4_expression_235 : decode cX4_expression 235 = .ok (.invokevirtual 226, 3) := dk_182 0 226 (dk_at dksX4_expression_10 0 rfl rfl)
theorem dX4_expression_238 : decode cX4_expression 238 = .ok (.goto 84, 3) := dk_167 0 84 (dk_at dksX4_expression_10 3 rfl rfl)
theorem dX4_expression_241 : decode cX4_expression 241 = .ok (.aload_n 0, 1) := dk_42 (dk_at dksX4_expression_10 6 rfl rfl)
theorem dX4_expression_242 : decode cX4_expression 242 = .ok (.bipush 42, 2) := dk_16 42 (dk_at dksX4_expression_10 7 rfl rfl)
theorem dX4_expression_244 : decode cX4_expression 244 = .ok (.invokevirtual 211, 3) := dk_182 0 211 (dk_at dksX4_expression_10 9 rfl rfl)
theorem dX4_expression_247 : decode cX4_expression 247 = .ok (.ifCond .ne 12, 3) := dk_154 0 12 (dk_at dksX4_expression_10 12 rfl rfl)
theorem dX4_expression_250 : decode cX4_expression 250 = .ok (.aload_n 0, 1) := dk_42 (dk_at dksX4_expression_10 15 rfl rfl)
theorem dX4_expression_251 : decode cX4_expression 251 = .ok (.bipush 47, 2) := dk_16 47 (dk_at dksX4_expression_10 16 rfl rfl)
theorem dX4_expression_253 : decode cX4_expression 253 = .ok (.invokevirtual 211, 3) := dk_182 0 211 (dk_at dksX4_expression_10 18 rfl rfl)
theorem dX4_expression_256 : decode cX4_expression 256 = .ok (.ifCond .eq 41, 3) := dk_153 0 41 (dk_at dksX4_expression_10 21 rfl rfl)
theorem dX4_expression_259 : decode cX4_expression 259 = .ok (.aload_n 0, 1) := dk_42 (dk_at dksX4_expression_11 0 rfl rfl)
theorem dX4_expression_260 : decode cX4_expression 260 = .ok (.bipush 6, 2) := dk_16 6 (dk_at dksX4_expression_11 1 rfl rfl)
theorem dX4_expression_262 : decode cX4_expression 262 = .ok (.invokevirtual 223, 3) := dk_182 0 223 (dk_at dksX4_expression_11 3 rfl rfl)
theorem dX4_expression_265 : decode cX4_expression 265 = .ok (.aload_n 0, 1) := dk_42 (dk_at dksX4_expression_11 6 rfl rfl)
theorem dX4_expression_266 : decode cX4_expression 266 = .ok (.aload_n 0, 1) := dk_42 (dk_at dksX4_expression_11 7 rfl rfl)
theorem dX4_expression_267 : decode cX4_expression 267 = .ok (.bipush 42, 2) := dk_16 42 (dk_at dksX4_expression_11 8 rfl rfl)
theorem dX4_expression_269 : decode cX4_expression 269 = .ok (.invokevirtual 211, 3) := dk_182 0 211 (dk_at dksX4_expression_11 10 rfl rfl)
theorem dX4_expression_272 : decode cX4_expression 272 = .ok (.ifCond .eq 8, 3) := dk_153 0 8 (dk_at dksX4_expression_11 13 rfl rfl)
theorem dX4_expression_275 : decode cX4_expression 275 = .ok (.bipush 10, 2) := dk_16 10 (dk_at dksX4_expression_11 16 rfl rfl)
theorem dX4_expression_277 : decode cX4_expression 277 = .ok (.goto 5, 3) := dk_167 0 5 (dk_at dksX4_expression_11 18 rfl rfl)
theorem dX4_expression_280 : decode cX4_expression 280 = .ok (.bipush 11, 2) := dk_16 11 (dk_at dksX4_expression_11 21 rfl rfl)
theorem dX4_expression_282 : decode cX4_expression 282 = .ok (.invokevirtual 214, 3) := dk_182 0 214 (dk_at dksX4_expression_12 0 rfl rfl)
theorem dX4_expression_285 : decode cX4_expression 285 = .ok (.aload_n 0, 1) := dk_42 (dk_at dksX4_expression_12 3 rfl rfl)
theorem dX4_expression_286 : decode cX4_expression 286 = .ok (.invokevirtual 180, 3) := dk_182 0 180 (dk_at dksX4_expression_12 4 rfl rfl)
theorem dX4_expression_289 : decode cX4_expression 289 = .ok (.aload_n 0, 1) := dk_42 (dk_at dksX4_expression_12 7 rfl rfl)
theorem dX4_expression_290 : decode cX4_expression 290 = .ok (.iconst 0, 1) := dk_3 (dk_at dksX4_expression_12 8 rfl rfl)
theorem dX4_expression_291 : decode cX4_expression 291 = .ok (.invokevirtual 226, 3) := dk_182 0 226 (dk_at dksX4_expression_12 9 rfl rfl)
theorem dX4_expression_294 : decode cX4_expression 294 = .ok (.goto 28, 3) := dk_167 0 28 (dk_at dksX4_expression_12 12 rfl rfl)
theorem dX4_expression_297 : decode cX4_expression 297 = .ok (.aload_n 0, 1) := dk_42 (dk_at dksX4_expression_12 15 rfl rfl)
theorem dX4_expression_298 : decode cX4_expression 298 = .ok (.bipush 41, 2) := dk_16 41 (dk_at dksX4_expression_12 16 rfl rfl)
theorem dX4_expression_300 : decode cX4_expression 300 = .ok (.invokevirtual 211, 3) := dk_182 0 211 (dk_at dksX4_expression_12 18 rfl rfl)
theorem dX4_expression_303 : decode cX4_expression 303 = .ok (.ifCond .eq 17, 3) := dk_153 0 17 (dk_at dksX4_expression_12 21 rfl rfl)
theorem dX4_expression_306 : decode cX4_expression 306 = .ok (.aload_n 0, 1) := dk_42 (dk_at dksX4_expression_13 0 rfl rfl)
theorem dX4_expression_307 : decode cX4_expression 307 = .ok (.invokevirtual 230, 3) := dk_182 0 230 (dk_at dksX4_expression_13 1 rfl rfl)
theorem dX4_expression_310 : decode cX4_expression 310 = .ok (.ifCond .eq 10, 3) := dk_153 0 10 (dk_at dksX4_expression_13 4 rfl rfl)
theorem dX4_expression_313 : decode cX4_expression 313 = .ok (.aload_n 0, 1) := dk_42 (dk_at dksX4_expression_13 7 rfl rfl)
theorem dX4_expression_314 : decode cX4_expression 314 = .ok (.invokevirtual 233, 3) := dk_182 0 233 (dk_at dksX4_expression_13 8 rfl rfl)
theorem dX4_expression_317 : decode cX4_expression 317 = .ok (.goto 5, 3) := dk_167 0 5 (dk_at dksX4_expression_13 11 rfl rfl)
theorem dX4_expression_320 : decode cX4_expression 320 = .ok (.iconst 0, 1) := dk_3 (dk_at dksX4_expression_13 14 rfl rfl)
theorem dX4_expression_321 : decode cX4_expression 321 = .ok (.istore_n 1, 1) := dk_60 (dk_at dksX4_expression_13 15 rfl rfl)
theorem dX4_expression_322 : decode cX4_expression 322 = .ok (.goto (-293), 3) := dk_167 254 219 (dk_at dksX4_expression_13 16 rfl rfl)
theorem dX4_expression_325 : decode cX4_expression 325 = .ok (.aload_n 0, 1) := dk_42 (dk_at dksX4_expression_13 19 rfl rfl)
theorem dX4_expression_326 : decode cX4_expression 326 = .ok (.invokevirtual 176, 3) := dk_182 0 176 (dk_at dksX4_expression_13 20 rfl rfl)
theorem dX4_expression_329 : decode cX4_expression 329 = .ok (.ifCond .eq 16, 3) := dk_153 0 16 (dk_at dksX4_expression_14 0 rfl rfl)
theorem dX4_expression_332 : decode cX4_expression 332 = .ok (.aload_n 0, 1) := dk_42 (dk_at dksX4_expression_14 3 rfl rfl)
theorem dX4_expression_333 : decode cX4_expression 333 = .ok (.getfield 208, 3) := dk_180 0 208 (dk_at dksX4_expression_14 4 rfl rfl)
theorem dX4_expression_336 : decode cX4_expression 336 = .ok (.iconst 1, 1) := dk_4 (dk_at dksX4_expression_14 7 rfl rfl)
theorem dX4_expression_337 : decode cX4_expression 337 = .ok (.if_icmp .le 8, 3) := dk_164 0 8 (dk_at dksX4_expression_14 8 rfl rfl)
theorem dX4_expression_340 : decode cX4_expression 340 = .ok (.aload_n 0, 1) := dk_42 (dk_at dksX4_expression_14 11 rfl rfl)
theorem dX4_expression_341 : decode cX4_expression 341 = .ok (.iconst 1, 1) := dk_4 (dk_at dksX4_expression_14 12 rfl rfl)
theorem dX4_expression_342 : decode cX4_expression 342 = .ok (.invokevirtual 183, 3) := dk_182 0 183 (dk_at dksX4_expression_14 13 rfl rfl)
theorem dX4_expression_345 : decode cX4_expression 345 = .ok (.aload_n 0, 1) := dk_42 (dk_at dksX4_expression_14 16 rfl rfl)
theorem dX4_expression_346 : decode cX4_expression 346 = .ok (.iconst 0, 1) := dk_3 (dk_at dksX4_expression_14 17 rfl rfl)
theorem dX4_expression_347 : decode cX4_expression 347 = .ok (.invokevirtual 223, 3) := dk_182 0 223 (dk_at dksX4_expression_14 18 rfl rfl)
theorem dX4_expression_350 : decode cX4_expression 350 = .ok (.aload_n 0, 1) := dk_42 (dk_at dksX4_expression_14 21 rfl rfl)
theorem dX4_expression_351 : decode cX4_expression 351 = .ok (.iconst 0, 1) := dk_3 (dk_at dksX4_expression_14 22 rfl rfl)
theorem dX4_expression_352 : decode cX4_expression 352 = .ok (.invokevirtual 201, 3) := dk_182 0 201 (dk_at dksX4_expression_15 0 rfl rfl)
theorem dX4_expression_355 : decode cX4_expression 355 = .ok (.return_, 1) := dk_177 (dk_at dksX4_expression_15 3 rfl rfl)
abbrev cX4_deeper : ByteArray := prog_13_method_31_code
def yX4_deeper : MethodName := ⟨RX4, "deeper", "()V"⟩
def dkwX4_deeper_2 : List UInt8 := [16, 40, 182, 0, 211, 153, 0, 7, 5, 167, 0, 4, 4, 182, 0, 183, 177]
abbrev dktX4_deeper_2 : List UInt8 := dkwX4_deeper_2 ++ []
def dkwX4_deeper_1 : List UInt8 := [180, 0, 208, 3, 84, 177, 42, 42, 180, 0, 150, 5, 159, 0, 20, 42, 180, 0, 150, 4, 159, 0, 12, 42]
abbrev dktX4_deeper_1 : List UInt8 := dkwX4_deeper_1 ++ dktX4_deeper_2
def dkwX4_deeper_0 : List UInt8 := [42, 180, 0, 208, 16, 6, 162, 0, 24, 42, 89, 180, 0, 208, 4, 96, 181, 0, 208, 42, 180, 0, 71, 42]
abbrev dktX4_deeper_0 : List UInt8 := dkwX4_deeper_0 ++ dktX4_deeper_1
theorem dksX4_deeper_0 : cX4_deeper.data.toList.drop 0 = dktX4_deeper_0 := by decide +kernel
theorem dksX4_deeper_1 : cX4_deeper.data.toList.drop 24 = dktX4_deeper_1 := dk_seg dksX4_deeper_0 24 rfl rfl
theorem dksX4_deeper_2 : cX4_deeper.data.toList.drop 48 = dktX4_deeper_2 := dk_seg dksX4_deeper_1 24 rfl rfl
theorem dX4_deeper_0 : decode cX4_deeper 0 = .ok (.aload_n 0, 1) := dk_42 (dk_at dksX4_deeper_0 0 rfl rfl)
theorem dX4_deeper_1 : decode cX4_deeper 1 = .ok (.getfield 208, 3) := dk_180 0 208 (dk_at dksX4_deeper_0 1 rfl rfl)
theorem dX4_deeper_4 : decode cX4_deeper 4 = .ok (.bipush 6, 2) := dk_16 6 (dk_at dksX4_deeper_0 4 rfl rfl)
theorem dX4_deeper_6 : decode cX4_deeper 6 = .ok (.if_icmp .ge 24, 3) := dk_162 0 24 (dk_at dksX4_deeper_0 6 rfl rfl)
theorem dX4_deeper_9 : decode cX4_deeper 9 = .ok (.aload_n 0, 1) := dk_42 (dk_at dksX4_deeper_0 9 rfl rfl)
theorem dX4_deeper_10 : decode cX4_deeper 10 = .ok (.dup, 1) := dk_89 (dk_at dksX4_deeper_0 10 rfl rfl)
theorem dX4_deeper_11 : decode cX4_deeper 11 = .ok (.getfield 208, 3) := dk_180 0 208 (dk_at dksX4_deeper_0 11 rfl rfl)
theorem dX4_deeper_14 : decode cX4_deeper 14 = .ok (.iconst 1, 1) := dk_4 (dk_at dksX4_deeper_0 14 rfl rfl)
theorem dX4_deeper_15 : decode cX4_deeper 15 = .ok (.iadd, 1) := dk_96 (dk_at dksX4_deeper_0 15 rfl rfl)
theorem dX4_deeper_16 : decode cX4_deeper 16 = .ok (.putfield 208, 3) := dk_181 0 208 (dk_at dksX4_deeper_0 16 rfl rfl)
theorem dX4_deeper_19 : decode cX4_deeper 19 = .ok (.aload_n 0, 1) := dk_42 (dk_at dksX4_deeper_0 19 rfl rfl)
theorem dX4_deeper_20 : decode cX4_deeper 20 = .ok (.getfield 71, 3) := dk_180 0 71 (dk_at dksX4_deeper_0 20 rfl rfl)
theorem dX4_deeper_23 : decode cX4_deeper 23 = .ok (.aload_n 0, 1) := dk_42 (dk_at dksX4_deeper_0 23 rfl rfl)
theorem dX4_deeper_24 : decode cX4_deeper 24 = .ok (.getfield 208, 3) := dk_180 0 208 (dk_at dksX4_deeper_1 0 rfl rfl)
theorem dX4_deeper_27 : decode cX4_deeper 27 = .ok (.iconst 0, 1) := dk_3 (dk_at dksX4_deeper_1 3 rfl rfl)
theorem dX4_deeper_28 : decode cX4_deeper 28 = .ok (.bastore, 1) := dk_84 (dk_at dksX4_deeper_1 4 rfl rfl)
theorem dX4_deeper_29 : decode cX4_deeper 29 = .ok (.return_, 1) := dk_177 (dk_at dksX4_deeper_1 5 rfl rfl)
theorem dX4_deeper_30 : decode cX4_deeper 30 = .ok (.aload_n 0, 1) := dk_42 (dk_at dksX4_deeper_1 6 rfl rfl)
theorem dX4_deeper_31 : decode cX4_deeper 31 = .ok (.aload_n 0, 1) := dk_42 (dk_at dksX4_deeper_1 7 rfl rfl)
theorem dX4_deeper_32 : decode cX4_deeper 32 = .ok (.getfield 150, 3) := dk_180 0 150 (dk_at dksX4_deeper_1 8 rfl rfl)
theorem dX4_deeper_35 : decode cX4_deeper 35 = .ok (.iconst 2, 1) := dk_5 (dk_at dksX4_deeper_1 11 rfl rfl)
theorem dX4_deeper_36 : decode cX4_deeper 36 = .ok (.if_icmp .eq 20, 3) := dk_159 0 20 (dk_at dksX4_deeper_1 12 rfl rfl)
theorem dX4_deeper_39 : decode cX4_deeper 39 = .ok (.aload_n 0, 1) := dk_42 (dk_at dksX4_deeper_1 15 rfl rfl)
theorem dX4_deeper_40 : decode cX4_deeper 40 = .ok (.getfield 150, 3) := dk_180 0 150 (dk_at dksX4_deeper_1 16 rfl rfl)
theorem dX4_deeper_43 : decode cX4_deeper 43 = .ok (.iconst 1, 1) := dk_4 (dk_at dksX4_deeper_1 19 rfl rfl)
theorem dX4_deeper_44 : decode cX4_deeper 44 = .ok (.if_icmp .eq 12, 3) := dk_159 0 12 (dk_at dksX4_deeper_1 20 rfl rfl)
theorem dX4_deeper_47 : decode cX4_deeper 47 = .ok (.aload_n 0, 1) := dk_42 (dk_at dksX4_deeper_1 23 rfl rfl)
theorem dX4_deeper_48 : decode cX4_deeper 48 = .ok (.bipush 40, 2) := dk_16 40 (dk_at dksX4_deeper_2 0 rfl rfl)
theorem dX4_deeper_50 : decode cX4_deeper 50 = .ok (.invokevirtual 211, 3) := dk_182 0 211 (dk_at dksX4_deeper_2 2 rfl rfl)
theorem dX4_deeper_53 : decode cX4_deeper 53 = .ok (.ifCond .eq 7, 3) := dk_153 0 7 (dk_at dksX4_deeper_2 5 rfl rfl)
theorem dX4_deeper_56 : decode cX4_deeper 56 = .ok (.iconst 2, 1) := dk_5 (dk_at dksX4_deeper_2 8 rfl rfl)
theorem dX4_deeper_57 : decode cX4_deeper 57 = .ok (.goto 4, 3) := dk_167 0 4 (dk_at dksX4_deeper_2 9 rfl rfl)
theorem dX4_deeper_60 : decode cX4_deeper 60 = .ok (.iconst 1, 1) := dk_4 (dk_at dksX4_deeper_2 12 rfl rfl)
theorem dX4_deeper_61 : decode cX4_deeper 61 = .ok (.invokevirtual 183, 3) := dk_182 0 183 (dk_at dksX4_deeper_2 13 rfl rfl)
theorem dX4_deeper_64 : decode cX4_deeper 64 = .ok (.return_, 1) := dk_177 (dk_at dksX4_deeper_2 16 rfl rfl)
abbrev cX4_isSign : ByteArray := prog_13_method_20_code
def yX4_isSign : MethodName := ⟨RX4, "isSign", "(I)Z"⟩
def dkwX4_isSign_0 : List UInt8 := [42, 180, 0, 150, 6, 160, 0, 15, 42, 180, 0, 147, 27, 160, 0, 7, 4, 167, 0, 4, 3, 172]
abbrev dktX4_isSign_0 : List UInt8 := dkwX4_isSign_0 ++ []
theorem dksX4_isSign_0 : cX4_isSign.data.toList.drop 0 = dktX4_isSign_0 := by decide +kernel
theorem dX4_isSign_0 : decode cX4_isSign 0 = .ok (.aload_n 0, 1) := dk_42 (dk_at dksX4_isSign_0 0 rfl rfl)
theorem dX4_isSign_1 : decode cX4_isSign 1 = .ok (.getfield 150, 3) := dk_180 0 150 (dk_at dksX4_isSign_0 1 rfl rfl)
theorem dX4_isSign_4 : decode cX4_isSign 4 = .ok (.iconst 3, 1) := dk_6 (dk_at dksX4_isSign_0 4 rfl rfl)
theorem dX4_isSign_5 : decode cX4_isSign 5 = .ok (.if_icmp .ne 15, 3) := dk_160 0 15 (dk_at dksX4_isSign_0 5 rfl rfl)
theorem dX4_isSign_8 : decode cX4_isSign 8 = .ok (.aload_n 0, 1) := dk_42 (dk_at dksX4_isSign_0 8 rfl rfl)
theorem dX4_isSign_9 : decode cX4_isSign 9 = .ok (.getfield 147, 3) := dk_180 0 147 (dk_at dksX4_isSign_0 9 rfl rfl)
theorem dX4_isSign_12 : decode cX4_isSign 12 = .ok (.iload_n 1, 1) := dk_27 (dk_at dksX4_isSign_0 12 rfl rfl)
theorem dX4_isSign_13 : decode cX4_isSign 13 = .ok (.if_icmp .ne 7, 3) := dk_160 0 7 (dk_at dksX4_isSign_0 13 rfl rfl)
theorem dX4_isSign_16 : decode cX4_isSign 16 = .ok (.iconst 1, 1) := dk_4 (dk_at dksX4_isSign_0 16 rfl rfl)
theorem dX4_isSign_17 : decode cX4_isSign 17 = .ok (.goto 4, 3) := dk_167 0 4 (dk_at dksX4_isSign_0 17 rfl rfl)
theorem dX4_isSign_20 : decode cX4_isSign 20 = .ok (.iconst 0, 1) := dk_3 (dk_at dksX4_isSign_0 20 rfl rfl)
theorem dX4_isSign_21 : decode cX4_isSign 21 = .ok (.ireturn, 1) := dk_172 (dk_at dksX4_isSign_0 21 rfl rfl)
abbrev cX4_operand : ByteArray := prog_13_method_32_code
def yX4_operand : MethodName := ⟨RX4, "operand", "(Z)V"⟩
def dkwX4_operand_5 : List UInt8 := [61, 167, 255, 143, 42, 182, 0, 220, 177]
abbrev dktX4_operand_5 : List UInt8 := dkwX4_operand_5 ++ []
def dkwX4_operand_4 : List UInt8 := [167, 0, 4, 3, 62, 29, 153, 0, 19, 42, 16, 14, 182, 0, 214, 42, 182, 0, 180, 42, 182, 0, 217, 4]
abbrev dktX4_operand_4 : List UInt8 := dkwX4_operand_4 ++ dktX4_operand_5
def dkwX4_operand_3 : List UInt8 := [182, 0, 180, 167, 255, 202, 42, 182, 0, 176, 153, 0, 16, 42, 16, 40, 182, 0, 211, 153, 0, 7, 4]
abbrev dktX4_operand_3 : List UInt8 := dkwX4_operand_3 ++ dktX4_operand_4
def dkwX4_operand_2 : List UInt8 := [5, 182, 0, 183, 132, 4, 1, 42, 182, 0, 176, 154, 0, 6, 167, 255, 214, 42, 6, 182, 0, 214, 42]
abbrev dktX4_operand_2 : List UInt8 := dkwX4_operand_2 ++ dktX4_operand_3
def dkwX4_operand_1 : List UInt8 := [153, 0, 53, 28, 153, 0, 49, 42, 182, 0, 204, 16, 14, 160, 0, 40, 21, 4, 16, 6, 160, 0, 8, 42]
abbrev dktX4_operand_1 : List UInt8 := dkwX4_operand_1 ++ dktX4_operand_2
def dkwX4_operand_0 : List UInt8 := [27, 61, 4, 62, 29, 153, 0, 115, 42, 182, 0, 176, 153, 0, 108, 3, 54, 4, 42, 182, 0, 176]
abbrev dktX4_operand_0 : List UInt8 := dkwX4_operand_0 ++ dktX4_operand_1
theorem dksX4_operand_0 : cX4_operand.data.toList.drop 0 = dktX4_operand_0 := by decide +kernel
theorem dksX4_operand_1 : cX4_operand.data.toList.drop 22 = dktX4_operand_1 := dk_seg dksX4_operand_0 22 rfl rfl
theorem dksX4_operand_2 : cX4_operand.data.toList.drop 46 = dktX4_operand_2 := dk_seg dksX4_operand_1 24 rfl rfl
theorem dksX4_operand_3 : cX4_operand.data.toList.drop 69 = dktX4_operand_3 := dk_seg dksX4_operand_2 23 rfl rfl
theorem dksX4_operand_4 : cX4_operand.data.toList.drop 92 = dktX4_operand_4 := dk_seg dksX4_operand_3 23 rfl rfl
theorem dksX4_operand_5 : cX4_operand.data.toList.drop 116 = dktX4_operand_5 := dk_seg dksX4_operand_4 24 rfl rfl
theorem dX4_operand_0 : decode cX4_operand 0 = .ok (.iload_n 1, 1) := dk_27 (dk_at dksX4_operand_0 0 rfl rfl)
theorem dX4_operand_1 : decode cX4_operand 1 = .ok (.istore_n 2, 1) := dk_61 (dk_at dksX4_operand_0 1 rfl rfl)
theorem dX4_operand_2 : decode cX4_operand 2 = .ok (.iconst 1, 1) := dk_4 (dk_at dksX4_operand_0 2 rfl rfl)
theorem dX4_operand_3 : decode cX4_operand 3 = .ok (.istore_n 3, 1) := dk_62 (dk_at dksX4_operand_0 3 rfl rfl)
theorem dX4_operand_4 : decode cX4_operand 4 = .ok (.iload_n 3, 1) := dk_29 (dk_at dksX4_operand_0 4 rfl rfl)
theorem dX4_operand_5 : decode cX4_operand 5 = .ok (.ifCond .eq 115, 3) := dk_153 0 115 (dk_at dksX4_operand_0 5 rfl rfl)
theorem dX4_operand_8 : decode cX4_operand 8 = .ok (.aload_n 0, 1) := dk_42 (dk_at dksX4_operand_0 8 rfl rfl)
theorem dX4_operand_9 : decode cX4_operand 9 = .ok (.invokevirtual 176, 3) := dk_182 0 176 (dk_at dksX4_operand_0 9 rfl rfl)
theorem dX4_operand_12 : decode cX4_operand 12 = .ok (.ifCond .eq 108, 3) := dk_153 0 108 (dk_at dksX4_operand_0 12 rfl rfl)
theorem dX4_operand_15 : decode cX4_operand 15 = .ok (.iconst 0, 1) := dk_3 (dk_at dksX4_operand_0 15 rfl rfl)
theorem dX4_operand_16 : decode cX4_operand 16 = .ok (.istore 4, 2) := dk_54 4 (dk_at dksX4_operand_0 16 rfl rfl)
theorem dX4_operand_18 : decode cX4_operand 18 = .ok (.aload_n 0, 1) := dk_42 (dk_at dksX4_operand_0 18 rfl rfl)
theorem dX4_operand_19 : decode cX4_operand 19 = .ok (.invokevirtual 176, 3) := dk_182 0 176 (dk_at dksX4_operand_0 19 rfl rfl)
theorem dX4_operand_22 : decode cX4_operand 22 = .ok (.ifCond .eq 53, 3) := dk_153 0 53 (dk_at dksX4_operand_1 0 rfl rfl)
theorem dX4_operand_25 : decode cX4_operand 25 = .ok (.iload_n 2, 1) := dk_28 (dk_at dksX4_operand_1 3 rfl rfl)
theorem dX4_operand_26 : decode cX4_operand 26 = .ok (.ifCond .eq 49, 3) := dk_153 0 49 (dk_at dksX4_operand_1 4 rfl rfl)
theorem dX4_operand_29 : decode cX4_operand 29 = .ok (.aload_n 0, 1) := dk_42 (dk_at dksX4_operand_1 7 rfl rfl)
theorem dX4_operand_30 : decode cX4_operand 30 = .ok (.invokevirtual 204, 3) := dk_182 0 204 (dk_at dksX4_operand_1 8 rfl rfl)
theorem dX4_operand_33 : decode cX4_operand 33 = .ok (.bipush 14, 2) := dk_16 14 (dk_at dksX4_operand_1 11 rfl rfl)
theorem dX4_operand_35 : decode cX4_operand 35 = .ok (.if_icmp .ne 40, 3) := dk_160 0 40 (dk_at dksX4_operand_1 13 rfl rfl)
theorem dX4_operand_38 : decode cX4_operand 38 = .ok (.iload 4, 2) := dk_21 4 (dk_at dksX4_operand_1 16 rfl rfl)
theorem dX4_operand_40 : decode cX4_operand 40 = .ok (.bipush 6, 2) := dk_16 6 (dk_at dksX4_operand_1 18 rfl rfl)
theorem dX4_operand_42 : decode cX4_operand 42 = .ok (.if_icmp .ne 8, 3) := dk_160 0 8 (dk_at dksX4_operand_1 20 rfl rfl)
theorem dX4_operand_45 : decode cX4_operand 45 = .ok (.aload_n 0, 1) := dk_42 (dk_at dksX4_operand_1 23 rfl rfl)
theorem dX4_operand_46 : decode cX4_operand 46 = .ok (.iconst 2, 1) := dk_5 (dk_at dksX4_operand_2 0 rfl rfl)
theorem dX4_operand_47 : decode cX4_operand 47 = .ok (.invokevirtual 183, 3) := dk_182 0 183 (dk_at dksX4_operand_2 1 rfl rfl)
theorem dX4_operand_50 : decode cX4_operand 50 = .ok (.iinc 4 1, 3) := dk_132 4 1 (dk_at dksX4_operand_2 4 rfl rfl)
theorem dX4_operand_53 : decode cX4_operand 53 = .ok (.aload_n 0, 1) := dk_42 (dk_at dksX4_operand_2 7 rfl rfl)
theorem dX4_operand_54 : decode cX4_operand 54 = .ok (.invokevirtual 176, 3) := dk_182 0 176 (dk_at dksX4_operand_2 8 rfl rfl)
theorem dX4_operand_57 : decode cX4_operand 57 = .ok (.ifCond .ne 6, 3) := dk_154 0 6 (dk_at dksX4_operand_2 11 rfl rfl)
theorem dX4_operand_60 : decode cX4_operand 60 = .ok (.goto (-42), 3) := dk_167 255 214 (dk_at dksX4_operand_2 14 rfl rfl)
theorem dX4_operand_63 : decode cX4_operand 63 = .ok (.aload_n 0, 1) := dk_42 (dk_at dksX4_operand_2 17 rfl rfl)
theorem dX4_operand_64 : decode cX4_operand 64 = .ok (.iconst 3, 1) := dk_6 (dk_at dksX4_operand_2 18 rfl rfl)
theorem dX4_operand_65 : decode cX4_operand 65 = .ok (.invokevirtual 214, 3) := dk_182 0 214 (dk_at dksX4_operand_2 19 rfl rfl)
theorem dX4_operand_68 : decode cX4_operand 68 = .ok (.aload_n 0, 1) := dk_42 (dk_at dksX4_operand_2 22 rfl rfl)
theorem dX4_operand_69 : decode cX4_operand 69 = .ok (.invokevirtual 180, 3) := dk_182 0 180 (dk_at dksX4_operand_3 0 rfl rfl)
theorem dX4_operand_72 : decode cX4_operand 72 = .ok (.goto (-54), 3) := dk_167 255 202 (dk_at dksX4_operand_3 3 rfl rfl)
theorem dX4_operand_75 : decode cX4_operand 75 = .ok (.aload_n 0, 1) := dk_42 (dk_at dksX4_operand_3 6 rfl rfl)
theorem dX4_operand_76 : decode cX4_operand 76 = .ok (.invokevirtual 176, 3) := dk_182 0 176 (dk_at dksX4_operand_3 7 rfl rfl)
theorem dX4_operand_79 : decode cX4_operand 79 = .ok (.ifCond .eq 16, 3) := dk_153 0 16 (dk_at dksX4_operand_3 10 rfl rfl)
theorem dX4_operand_82 : decode cX4_operand 82 = .ok (.aload_n 0, 1) := dk_42 (dk_at dksX4_operand_3 13 rfl rfl)
theorem dX4_operand_83 : decode cX4_operand 83 = .ok (.bipush 40, 2) := dk_16 40 (dk_at dksX4_operand_3 14 rfl rfl)
theorem dX4_operand_85 : decode cX4_operand 85 = .ok (.invokevirtual 211, 3) := dk_182 0 211 (dk_at dksX4_operand_3 16 rfl rfl)
theorem dX4_operand_88 : decode cX4_operand 88 = .ok (.ifCond .eq 7, 3) := dk_153 0 7 (dk_at dksX4_operand_3 19 rfl rfl)
theorem dX4_operand_91 : decode cX4_operand 91 = .ok (.iconst 1, 1) := dk_4 (dk_at dksX4_operand_3 22 rfl rfl)
theorem dX4_operand_92 : decode cX4_operand 92 = .ok (.goto 4, 3) := dk_167 0 4 (dk_at dksX4_operand_4 0 rfl rfl)
theorem dX4_operand_95 : decode cX4_operand 95 = .ok (.iconst 0, 1) := dk_3 (dk_at dksX4_operand_4 3 rfl rfl)
theorem dX4_operand_96 : decode cX4_operand 96 = .ok (.istore_n 3, 1) := dk_62 (dk_at dksX4_operand_4 4 rfl rfl)
theorem dX4_operand_97 : decode cX4_operand 97 = .ok (.iload_n 3, 1) := dk_29 (dk_at dksX4_operand_4 5 rfl rfl)
theorem dX4_operand_98 : decode cX4_operand 98 = .ok (.ifCond .eq 19, 3) := dk_153 0 19 (dk_at dksX4_operand_4 6 rfl rfl)
theorem dX4_operand_101 : decode cX4_operand 101 = .ok (.aload_n 0, 1) := dk_42 (dk_at dksX4_operand_4 9 rfl rfl)
theorem dX4_operand_102 : decode cX4_operand 102 = .ok (.bipush 14, 2) := dk_16 14 (dk_at dksX4_operand_4 10 rfl rfl)
theorem dX4_operand_104 : decode cX4_operand 104 = .ok (.invokevirtual 214, 3) := dk_182 0 214 (dk_at dksX4_operand_4 12 rfl rfl)
theorem dX4_operand_107 : decode cX4_operand 107 = .ok (.aload_n 0, 1) := dk_42 (dk_at dksX4_operand_4 15 rfl rfl)
theorem dX4_operand_108 : decode cX4_operand 108 = .ok (.invokevirtual 180, 3) := dk_182 0 180 (dk_at dksX4_operand_4 16 rfl rfl)
theorem dX4_operand_111 : decode cX4_operand 111 = .ok (.aload_n 0, 1) := dk_42 (dk_at dksX4_operand_4 19 rfl rfl)
theorem dX4_operand_112 : decode cX4_operand 112 = .ok (.invokevirtual 217, 3) := dk_182 0 217 (dk_at dksX4_operand_4 20 rfl rfl)
theorem dX4_operand_115 : decode cX4_operand 115 = .ok (.iconst 1, 1) := dk_4 (dk_at dksX4_operand_4 23 rfl rfl)
theorem dX4_operand_116 : decode cX4_operand 116 = .ok (.istore_n 2, 1) := dk_61 (dk_at dksX4_operand_5 0 rfl rfl)
theorem dX4_operand_117 : decode cX4_operand 117 = .ok (.goto (-113), 3) := dk_167 255 143 (dk_at dksX4_operand_5 1 rfl rfl)
theorem dX4_operand_120 : decode cX4_operand 120 = .ok (.aload_n 0, 1) := dk_42 (dk_at dksX4_operand_5 4 rfl rfl)
theorem dX4_operand_121 : decode cX4_operand 121 = .ok (.invokevirtual 220, 3) := dk_182 0 220 (dk_at dksX4_operand_5 5 rfl rfl)
theorem dX4_operand_124 : decode cX4_operand 124 = .ok (.return_, 1) := dk_177 (dk_at dksX4_operand_5 8 rfl rfl)
abbrev cX4_waitsFor : ByteArray := prog_13_method_29_code
def yX4_waitsFor : MethodName := ⟨RX4, "waitsFor", "(I)V"⟩
def dkwX4_waitsFor_0 : List UInt8 := [42, 180, 0, 68, 42, 180, 0, 192, 27, 79, 42, 89, 180, 0, 192, 4, 96, 181, 0, 192, 177]
abbrev dktX4_waitsFor_0 : List UInt8 := dkwX4_waitsFor_0 ++ []
theorem dksX4_waitsFor_0 : cX4_waitsFor.data.toList.drop 0 = dktX4_waitsFor_0 := by decide +kernel
theorem dX4_waitsFor_0 : decode cX4_waitsFor 0 = .ok (.aload_n 0, 1) := dk_42 (dk_at dksX4_waitsFor_0 0 rfl rfl)
theorem dX4_waitsFor_1 : decode cX4_waitsFor 1 = .ok (.getfield 68, 3) := dk_180 0 68 (dk_at dksX4_waitsFor_0 1 rfl rfl)
theorem dX4_waitsFor_4 : decode cX4_waitsFor 4 = .ok (.aload_n 0, 1) := dk_42 (dk_at dksX4_waitsFor_0 4 rfl rfl)
theorem dX4_waitsFor_5 : decode cX4_waitsFor 5 = .ok (.getfield 192, 3) := dk_180 0 192 (dk_at dksX4_waitsFor_0 5 rfl rfl)
theorem dX4_waitsFor_8 : decode cX4_waitsFor 8 = .ok (.iload_n 1, 1) := dk_27 (dk_at dksX4_waitsFor_0 8 rfl rfl)
theorem dX4_waitsFor_9 : decode cX4_waitsFor 9 = .ok (.iastore, 1) := dk_79 (dk_at dksX4_waitsFor_0 9 rfl rfl)
theorem dX4_waitsFor_10 : decode cX4_waitsFor 10 = .ok (.aload_n 0, 1) := dk_42 (dk_at dksX4_waitsFor_0 10 rfl rfl)
theorem dX4_waitsFor_11 : decode cX4_waitsFor 11 = .ok (.dup, 1) := dk_89 (dk_at dksX4_waitsFor_0 11 rfl rfl)
theorem dX4_waitsFor_12 : decode cX4_waitsFor 12 = .ok (.getfield 192, 3) := dk_180 0 192 (dk_at dksX4_waitsFor_0 12 rfl rfl)
theorem dX4_waitsFor_15 : decode cX4_waitsFor 15 = .ok (.iconst 1, 1) := dk_4 (dk_at dksX4_waitsFor_0 15 rfl rfl)
theorem dX4_waitsFor_16 : decode cX4_waitsFor 16 = .ok (.iadd, 1) := dk_96 (dk_at dksX4_waitsFor_0 16 rfl rfl)
theorem dX4_waitsFor_17 : decode cX4_waitsFor 17 = .ok (.putfield 192, 3) := dk_181 0 192 (dk_at dksX4_waitsFor_0 17 rfl rfl)
theorem dX4_waitsFor_20 : decode cX4_waitsFor 20 = .ok (.return_, 1) := dk_177 (dk_at dksX4_waitsFor_0 20 rfl rfl)
abbrev cX4_part : ByteArray := prog_13_method_30_code
def yX4_part : MethodName := ⟨RX4, "part", "()V"⟩
def dkwX4_part_4 : List UInt8 := [182, 0, 176, 153, 0, 7, 42, 182, 0, 180, 177]
abbrev dktX4_part_4 : List UInt8 := dkwX4_part_4 ++ []
def dkwX4_part_3 : List UInt8 := [182, 0, 183, 42, 5, 182, 0, 201, 42, 27, 182, 0, 201, 167, 0, 8, 42, 4, 182, 0, 183, 42]
abbrev dktX4_part_3 : List UInt8 := dkwX4_part_3 ++ dktX4_part_4
def dkwX4_part_2 : List UInt8 := [180, 0, 150, 4, 160, 0, 35, 42, 182, 0, 204, 60, 27, 155, 0, 8, 27, 8, 164, 0, 8, 42, 6]
abbrev dktX4_part_2 : List UInt8 := dkwX4_part_2 ++ dktX4_part_3
def dkwX4_part_1 : List UInt8 := [42, 5, 182, 0, 183, 42, 4, 182, 0, 201, 42, 42, 180, 0, 144, 182, 0, 201, 167, 0, 48, 42]
abbrev dktX4_part_1 : List UInt8 := dkwX4_part_1 ++ dktX4_part_2
def dkwX4_part_0 : List UInt8 := [42, 182, 0, 176, 154, 0, 4, 177, 42, 180, 0, 150, 5, 160, 0, 32, 42, 180, 0, 160, 7, 164, 0, 8]
abbrev dktX4_part_0 : List UInt8 := dkwX4_part_0 ++ dktX4_part_1
theorem dksX4_part_0 : cX4_part.data.toList.drop 0 = dktX4_part_0 := by decide +kernel
theorem dksX4_part_1 : cX4_part.data.toList.drop 24 = dktX4_part_1 := dk_seg dksX4_part_0 24 rfl rfl
theorem dksX4_part_2 : cX4_part.data.toList.drop 46 = dktX4_part_2 := dk_seg dksX4_part_1 22 rfl rfl
theorem dksX4_part_3 : cX4_part.data.toList.drop 69 = dktX4_part_3 := dk_seg dksX4_part_2 23 rfl rfl
theorem dksX4_part_4 : cX4_part.data.toList.drop 91 = dktX4_part_4 := dk_seg dksX4_part_3 22 rfl rfl
theorem dX4_part_0 : decode cX4_part 0 = .ok (.aload_n 0, 1) := dk_42 (dk_at dksX4_part_0 0 rfl rfl)
theorem dX4_part_1 : decode cX4_part 1 = .ok (.invokevirtual 176, 3) := dk_182 0 176 (dk_at dksX4_part_0 1 rfl rfl)
theorem dX4_part_4 : decode cX4_part 4 = .ok (.ifCond .ne 4, 3) := dk_154 0 4 (dk_at dksX4_part_0 4 rfl rfl)
theorem dX4_part_7 : decode cX4_part 7 = .ok (.return_, 1) := dk_177 (dk_at dksX4_part_0 7 rfl rfl)
theorem dX4_part_8 : decode cX4_part 8 = .ok (.aload_n 0, 1) := dk_42 (dk_at dksX4_part_0 8 rfl rfl)
theorem dX4_part_9 : decode cX4_part 9 = .ok (.getfield 150, 3) := dk_180 0 150 (dk_at dksX4_part_0 9 rfl rfl)
theorem dX4_part_12 : decode cX4_part 12 = .ok (.iconst 2, 1) := dk_5 (dk_at dksX4_part_0 12 rfl rfl)
theorem dX4_part_13 : decode cX4_part 13 = .ok (.if_icmp .ne 32, 3) := dk_160 0 32 (dk_at dksX4_part_0 13 rfl rfl)
theorem dX4_part_16 : decode cX4_part 16 = .ok (.aload_n 0, 1) := dk_42 (dk_at dksX4_part_0 16 rfl rfl)
theorem dX4_part_17 : decode cX4_part 17 = .ok (.getfield 160, 3) := dk_180 0 160 (dk_at dksX4_part_0 17 rfl rfl)
theorem dX4_part_20 : decode cX4_part 20 = .ok (.iconst 4, 1) := dk_7 (dk_at dksX4_part_0 20 rfl rfl)
theorem dX4_part_21 : decode cX4_part 21 = .ok (.if_icmp .le 8, 3) := dk_164 0 8 (dk_at dksX4_part_0 21 rfl rfl)
theorem dX4_part_24 : decode cX4_part 24 = .ok (.aload_n 0, 1) := dk_42 (dk_at dksX4_part_1 0 rfl rfl)
theorem dX4_part_25 : decode cX4_part 25 = .ok (.iconst 2, 1) := dk_5 (dk_at dksX4_part_1 1 rfl rfl)
theorem dX4_part_26 : decode cX4_part 26 = .ok (.invokevirtual 183, 3) := dk_182 0 183 (dk_at dksX4_part_1 2 rfl rfl)
theorem dX4_part_29 : decode cX4_part 29 = .ok (.aload_n 0, 1) := dk_42 (dk_at dksX4_part_1 5 rfl rfl)
theorem dX4_part_30 : decode cX4_part 30 = .ok (.iconst 1, 1) := dk_4 (dk_at dksX4_part_1 6 rfl rfl)
theorem dX4_part_31 : decode cX4_part 31 = .ok (.invokevirtual 201, 3) := dk_182 0 201 (dk_at dksX4_part_1 7 rfl rfl)
theorem dX4_part_34 : decode cX4_part 34 = .ok (.aload_n 0, 1) := dk_42 (dk_at dksX4_part_1 10 rfl rfl)
theorem dX4_part_35 : decode cX4_part 35 = .ok (.aload_n 0, 1) := dk_42 (dk_at dksX4_part_1 11 rfl rfl)
theorem dX4_part_36 : decode cX4_part 36 = .ok (.getfield 144, 3) := dk_180 0 144 (dk_at dksX4_part_1 12 rfl rfl)
theorem dX4_part_39 : decode cX4_part 39 = .ok (.invokevirtual 201, 3) := dk_182 0 201 (dk_at dksX4_part_1 15 rfl rfl)
theorem dX4_part_42 : decode cX4_part 42 = .ok (.goto 48, 3) := dk_167 0 48 (dk_at dksX4_part_1 18 rfl rfl)
theorem dX4_part_45 : decode cX4_part 45 = .ok (.aload_n 0, 1) := dk_42 (dk_at dksX4_part_1 21 rfl rfl)
theorem dX4_part_46 : decode cX4_part 46 = .ok (.getfield 150, 3) := dk_180 0 150 (dk_at dksX4_part_2 0 rfl rfl)
theorem dX4_part_49 : decode cX4_part 49 = .ok (.iconst 1, 1) := dk_4 (dk_at dksX4_part_2 3 rfl rfl)
theorem dX4_part_50 : decode cX4_part 50 = .ok (.if_icmp .ne 35, 3) := dk_160 0 35 (dk_at dksX4_part_2 4 rfl rfl)
theorem dX4_part_53 : decode cX4_part 53 = .ok (.aload_n 0, 1) := dk_42 (dk_at dksX4_part_2 7 rfl rfl)
theorem dX4_part_54 : decode cX4_part 54 = .ok (.invokevirtual 204, 3) := dk_182 0 204 (dk_at dksX4_part_2 8 rfl rfl)
theorem dX4_part_57 : decode cX4_part 57 = .ok (.istore_n 1, 1) := dk_60 (dk_at dksX4_part_2 11 rfl rfl)
theorem dX4_part_58 : decode cX4_part 58 = .ok (.iload_n 1, 1) := dk_27 (dk_at dksX4_part_2 12 rfl rfl)
theorem dX4_part_59 : decode cX4_part 59 = .ok (.ifCond .lt 8, 3) := dk_155 0 8 (dk_at dksX4_part_2 13 rfl rfl)
theorem dX4_part_62 : decode cX4_part 62 = .ok (.iload_n 1, 1) := dk_27 (dk_at dksX4_part_2 16 rfl rfl)
theorem dX4_part_63 : decode cX4_part 63 = .ok (.iconst 5, 1) := dk_8 (dk_at dksX4_part_2 17 rfl rfl)
theorem dX4_part_64 : decode cX4_part 64 = .ok (.if_icmp .le 8, 3) := dk_164 0 8 (dk_at dksX4_part_2 18 rfl rfl)
theorem dX4_part_67 : decode cX4_part 67 = .ok (.aload_n 0, 1) := dk_42 (dk_at dksX4_part_2 21 rfl rfl)
theorem dX4_part_68 : decode cX4_part 68 = .ok (.iconst 3, 1) := dk_6 (dk_at dksX4_part_2 22 rfl rfl)
theorem dX4_part_69 : decode cX4_part 69 = .ok (.invokevirtual 183, 3) := dk_182 0 183 (dk_at dksX4_part_3 0 rfl rfl)
theorem dX4_part_72 : decode cX4_part 72 = .ok (.aload_n 0, 1) := dk_42 (dk_at dksX4_part_3 3 rfl rfl)
theorem dX4_part_73 : decode cX4_part 73 = .ok (.iconst 2, 1) := dk_5 (dk_at dksX4_part_3 4 rfl rfl)
theorem dX4_part_74 : decode cX4_part 74 = .ok (.invokevirtual 201, 3) := dk_182 0 201 (dk_at dksX4_part_3 5 rfl rfl)
theorem dX4_part_77 : decode cX4_part 77 = .ok (.aload_n 0, 1) := dk_42 (dk_at dksX4_part_3 8 rfl rfl)
theorem dX4_part_78 : decode cX4_part 78 = .ok (.iload_n 1, 1) := dk_27 (dk_at dksX4_part_3 9 rfl rfl)
theorem dX4_part_79 : decode cX4_part 79 = .ok (.invokevirtual 201, 3) := dk_182 0 201 (dk_at dksX4_part_3 10 rfl rfl)
theorem dX4_part_82 : decode cX4_part 82 = .ok (.goto 8, 3) := dk_167 0 8 (dk_at dksX4_part_3 13 rfl rfl)
theorem dX4_part_85 : decode cX4_part 85 = .ok (.aload_n 0, 1) := dk_42 (dk_at dksX4_part_3 16 rfl rfl)
theorem dX4_part_86 : decode cX4_part 86 = .ok (.iconst 1, 1) := dk_4 (dk_at dksX4_part_3 17 rfl rfl)
theorem dX4_part_87 : decode cX4_part 87 = .ok (.invokevirtual 183, 3) := dk_182 0 183 (dk_at dksX4_part_3 18 rfl rfl)
theorem dX4_part_90 : decode cX4_part 90 = .ok (.aload_n 0, 1) := dk_42 (dk_at dksX4_part_3 21 rfl rfl)
theorem dX4_part_91 : decode cX4_part 91 = .ok (.invokevirtual 176, 3) := dk_182 0 176 (dk_at dksX4_part_4 0 rfl rfl)
theorem dX4_part_94 : decode cX4_part 94 = .ok (.ifCond .eq 7, 3) := dk_153 0 7 (dk_at dksX4_part_4 3 rfl rfl)
theorem dX4_part_97 : decode cX4_part 97 = .ok (.aload_n 0, 1) := dk_42 (dk_at dksX4_part_4 6 rfl rfl)
theorem dX4_part_98 : decode cX4_part 98 = .ok (.invokevirtual 180, 3) := dk_182 0 180 (dk_at dksX4_part_4 7 rfl rfl)
theorem dX4_part_101 : decode cX4_part 101 = .ok (.return_, 1) := dk_177 (dk_at dksX4_part_4 10 rfl rfl)
abbrev cX4_puts : ByteArray := prog_13_method_25_code
def yX4_puts : MethodName := ⟨RX4, "puts", "(I)V"⟩
def dkwX4_puts_0 : List UInt8 := [42, 180, 0, 65, 42, 180, 0, 189, 27, 79, 42, 89, 180, 0, 189, 4, 96, 181, 0, 189, 177]
abbrev dktX4_puts_0 : List UInt8 := dkwX4_puts_0 ++ []
theorem dksX4_puts_0 : cX4_puts.data.toList.drop 0 = dktX4_puts_0 := by decide +kernel
theorem dX4_puts_0 : decode cX4_puts 0 = .ok (.aload_n 0, 1) := dk_42 (dk_at dksX4_puts_0 0 rfl rfl)
theorem dX4_puts_1 : decode cX4_puts 1 = .ok (.getfield 65, 3) := dk_180 0 65 (dk_at dksX4_puts_0 1 rfl rfl)
theorem dX4_puts_4 : decode cX4_puts 4 = .ok (.aload_n 0, 1) := dk_42 (dk_at dksX4_puts_0 4 rfl rfl)
theorem dX4_puts_5 : decode cX4_puts 5 = .ok (.getfield 189, 3) := dk_180 0 189 (dk_at dksX4_puts_0 5 rfl rfl)
theorem dX4_puts_8 : decode cX4_puts 8 = .ok (.iload_n 1, 1) := dk_27 (dk_at dksX4_puts_0 8 rfl rfl)
theorem dX4_puts_9 : decode cX4_puts 9 = .ok (.iastore, 1) := dk_79 (dk_at dksX4_puts_0 9 rfl rfl)
theorem dX4_puts_10 : decode cX4_puts 10 = .ok (.aload_n 0, 1) := dk_42 (dk_at dksX4_puts_0 10 rfl rfl)
theorem dX4_puts_11 : decode cX4_puts 11 = .ok (.dup, 1) := dk_89 (dk_at dksX4_puts_0 11 rfl rfl)
theorem dX4_puts_12 : decode cX4_puts 12 = .ok (.getfield 189, 3) := dk_180 0 189 (dk_at dksX4_puts_0 12 rfl rfl)
theorem dX4_puts_15 : decode cX4_puts 15 = .ok (.iconst 1, 1) := dk_4 (dk_at dksX4_puts_0 15 rfl rfl)
theorem dX4_puts_16 : decode cX4_puts 16 = .ok (.iadd, 1) := dk_96 (dk_at dksX4_puts_0 16 rfl rfl)
theorem dX4_puts_17 : decode cX4_puts 17 = .ok (.putfield 189, 3) := dk_181 0 189 (dk_at dksX4_puts_0 17 rfl rfl)
theorem dX4_puts_20 : decode cX4_puts 20 = .ok (.return_, 1) := dk_177 (dk_at dksX4_puts_0 20 rfl rfl)
abbrev cX4_drops : ByteArray := prog_13_method_28_code
def yX4_drops : MethodName := ⟨RX4, "drops", "(I)V"⟩
def dkwX4_drops_2 : List UInt8 := [100, 181, 0, 192, 42, 42, 180, 0, 68, 42, 180, 0, 192, 46, 182, 0, 201, 167, 255, 191, 177]
abbrev dktX4_drops_2 : List UInt8 := dkwX4_drops_2 ++ []
def dkwX4_drops_1 : List UInt8 := [42, 180, 0, 68, 42, 180, 0, 192, 4, 100, 46, 184, 0, 198, 27, 161, 0, 29, 42, 89, 180, 0, 192, 4]
abbrev dktX4_drops_1 : List UInt8 := dkwX4_drops_1 ++ dktX4_drops_2
def dkwX4_drops_0 : List UInt8 := [42, 180, 0, 192, 158, 0, 64, 42, 180, 0, 68, 42, 180, 0, 192, 4, 100, 46, 184, 0, 195, 154, 0, 47]
abbrev dktX4_drops_0 : List UInt8 := dkwX4_drops_0 ++ dktX4_drops_1
theorem dksX4_drops_0 : cX4_drops.data.toList.drop 0 = dktX4_drops_0 := by decide +kernel
theorem dksX4_drops_1 : cX4_drops.data.toList.drop 24 = dktX4_drops_1 := dk_seg dksX4_drops_0 24 rfl rfl
theorem dksX4_drops_2 : cX4_drops.data.toList.drop 48 = dktX4_drops_2 := dk_seg dksX4_drops_1 24 rfl rfl
theorem dX4_drops_0 : decode cX4_drops 0 = .ok (.aload_n 0, 1) := dk_42 (dk_at dksX4_drops_0 0 rfl rfl)
theorem dX4_drops_1 : decode cX4_drops 1 = .ok (.getfield 192, 3) := dk_180 0 192 (dk_at dksX4_drops_0 1 rfl rfl)
theorem dX4_drops_4 : decode cX4_drops 4 = .ok (.ifCond .le 64, 3) := dk_158 0 64 (dk_at dksX4_drops_0 4 rfl rfl)
theorem dX4_drops_7 : decode cX4_drops 7 = .ok (.aload_n 0, 1) := dk_42 (dk_at dksX4_drops_0 7 rfl rfl)
theorem dX4_drops_8 : decode cX4_drops 8 = .ok (.getfield 68, 3) := dk_180 0 68 (dk_at dksX4_drops_0 8 rfl rfl)
theorem dX4_drops_11 : decode cX4_drops 11 = .ok (.aload_n 0, 1) := dk_42 (dk_at dksX4_drops_0 11 rfl rfl)
theorem dX4_drops_12 : decode cX4_drops 12 = .ok (.getfield 192, 3) := dk_180 0 192 (dk_at dksX4_drops_0 12 rfl rfl)
theorem dX4_drops_15 : decode cX4_drops 15 = .ok (.iconst 1, 1) := dk_4 (dk_at dksX4_drops_0 15 rfl rfl)
theorem dX4_drops_16 : decode cX4_drops 16 = .ok (.isub, 1) := dk_100 (dk_at dksX4_drops_0 16 rfl rfl)
theorem dX4_drops_17 : decode cX4_drops 17 = .ok (.iaload, 1) := dk_46 (dk_at dksX4_drops_0 17 rfl rfl)
theorem dX4_drops_18 : decode cX4_drops 18 = .ok (.invokestatic 195, 3) := dk_184 0 195 (dk_at dksX4_drops_0 18 rfl rfl)
theorem dX4_drops_21 : decode cX4_drops 21 = .ok (.ifCond .ne 47, 3) := dk_154 0 47 (dk_at dksX4_drops_0 21 rfl rfl)
theorem dX4_drops_24 : decode cX4_drops 24 = .ok (.aload_n 0, 1) := dk_42 (dk_at dksX4_drops_1 0 rfl rfl)
theorem dX4_drops_25 : decode cX4_drops 25 = .ok (.getfield 68, 3) := dk_180 0 68 (dk_at dksX4_drops_1 1 rfl rfl)
theorem dX4_drops_28 : decode cX4_drops 28 = .ok (.aload_n 0, 1) := dk_42 (dk_at dksX4_drops_1 4 rfl rfl)
theorem dX4_drops_29 : decode cX4_drops 29 = .ok (.getfield 192, 3) := dk_180 0 192 (dk_at dksX4_drops_1 5 rfl rfl)
theorem dX4_drops_32 : decode cX4_drops 32 = .ok (.iconst 1, 1) := dk_4 (dk_at dksX4_drops_1 8 rfl rfl)
theorem dX4_drops_33 : decode cX4_drops 33 = .ok (.isub, 1) := dk_100 (dk_at dksX4_drops_1 9 rfl rfl)
theorem dX4_drops_34 : decode cX4_drops 34 = .ok (.iaload, 1) := dk_46 (dk_at dksX4_drops_1 10 rfl rfl)
theorem dX4_drops_35 : decode cX4_drops 35 = .ok (.invokestatic 198, 3) := dk_184 0 198 (dk_at dksX4_drops_1 11 rfl rfl)
theorem dX4_drops_38 : decode cX4_drops 38 = .ok (.iload_n 1, 1) := dk_27 (dk_at dksX4_drops_1 14 rfl rfl)
theorem dX4_drops_39 : decode cX4_drops 39 = .ok (.if_icmp .lt 29, 3) := dk_161 0 29 (dk_at dksX4_drops_1 15 rfl rfl)
theorem dX4_drops_42 : decode cX4_drops 42 = .ok (.aload_n 0, 1) := dk_42 (dk_at dksX4_drops_1 18 rfl rfl)
theorem dX4_drops_43 : decode cX4_drops 43 = .ok (.dup, 1) := dk_89 (dk_at dksX4_drops_1 19 rfl rfl)
theorem dX4_drops_44 : decode cX4_drops 44 = .ok (.getfield 192, 3) := dk_180 0 192 (dk_at dksX4_drops_1 20 rfl rfl)
theorem dX4_drops_47 : decode cX4_drops 47 = .ok (.iconst 1, 1) := dk_4 (dk_at dksX4_drops_1 23 rfl rfl)
theorem dX4_drops_48 : decode cX4_drops 48 = .ok (.isub, 1) := dk_100 (dk_at dksX4_drops_2 0 rfl rfl)
theorem dX4_drops_49 : decode cX4_drops 49 = .ok (.putfield 192, 3) := dk_181 0 192 (dk_at dksX4_drops_2 1 rfl rfl)
theorem dX4_drops_52 : decode cX4_drops 52 = .ok (.aload_n 0, 1) := dk_42 (dk_at dksX4_drops_2 4 rfl rfl)
theorem dX4_drops_53 : decode cX4_drops 53 = .ok (.aload_n 0, 1) := dk_42 (dk_at dksX4_drops_2 5 rfl rfl)
theorem dX4_drops_54 : decode cX4_drops 54 = .ok (.getfield 68, 3) := dk_180 0 68 (dk_at dksX4_drops_2 6 rfl rfl)
theorem dX4_drops_57 : decode cX4_drops 57 = .ok (.aload_n 0, 1) := dk_42 (dk_at dksX4_drops_2 9 rfl rfl)
theorem dX4_drops_58 : decode cX4_drops 58 = .ok (.getfield 192, 3) := dk_180 0 192 (dk_at dksX4_drops_2 10 rfl rfl)
theorem dX4_drops_61 : decode cX4_drops 61 = .ok (.iaload, 1) := dk_46 (dk_at dksX4_drops_2 13 rfl rfl)
theorem dX4_drops_62 : decode cX4_drops 62 = .ok (.invokevirtual 201, 3) := dk_182 0 201 (dk_at dksX4_drops_2 14 rfl rfl)
theorem dX4_drops_65 : decode cX4_drops 65 = .ok (.goto (-65), 3) := dk_167 255 191 (dk_at dksX4_drops_2 17 rfl rfl)
theorem dX4_drops_68 : decode cX4_drops 68 = .ok (.return_, 1) := dk_177 (dk_at dksX4_drops_2 20 rfl rfl)
abbrev cX4_isOpen : ByteArray := prog_13_method_26_code
def yX4_isOpen : MethodName := ⟨RX4, "isOpen", "(I)Z"⟩
def dkwX4_isOpen_0 : List UInt8 := [26, 16, 14, 161, 0, 7, 4, 167, 0, 4, 3, 172]
abbrev dktX4_isOpen_0 : List UInt8 := dkwX4_isOpen_0 ++ []
theorem dksX4_isOpen_0 : cX4_isOpen.data.toList.drop 0 = dktX4_isOpen_0 := by decide +kernel
theorem dX4_isOpen_0 : decode cX4_isOpen 0 = .ok (.iload_n 0, 1) := dk_26 (dk_at dksX4_isOpen_0 0 rfl rfl)
theorem dX4_isOpen_1 : decode cX4_isOpen 1 = .ok (.bipush 14, 2) := dk_16 14 (dk_at dksX4_isOpen_0 1 rfl rfl)
theorem dX4_isOpen_3 : decode cX4_isOpen 3 = .ok (.if_icmp .lt 7, 3) := dk_161 0 7 (dk_at dksX4_isOpen_0 3 rfl rfl)
theorem dX4_isOpen_6 : decode cX4_isOpen 6 = .ok (.iconst 1, 1) := dk_4 (dk_at dksX4_isOpen_0 6 rfl rfl)
theorem dX4_isOpen_7 : decode cX4_isOpen 7 = .ok (.goto 4, 3) := dk_167 0 4 (dk_at dksX4_isOpen_0 7 rfl rfl)
theorem dX4_isOpen_10 : decode cX4_isOpen 10 = .ok (.iconst 0, 1) := dk_3 (dk_at dksX4_isOpen_0 10 rfl rfl)
theorem dX4_isOpen_11 : decode cX4_isOpen 11 = .ok (.ireturn, 1) := dk_172 (dk_at dksX4_isOpen_0 11 rfl rfl)
abbrev cX4_strength : ByteArray := prog_13_method_27_code
def yX4_strength : MethodName := ⟨RX4, "strength", "(I)I"⟩
def dkwX4_strength_2 : List UInt8 := [159, 0, 9, 26, 16, 9, 160, 0, 7, 8, 167, 0, 5, 16, 6, 172]
abbrev dktX4_strength_2 : List UInt8 := dkwX4_strength_2 ++ []
def dkwX4_strength_1 : List UInt8 := [167, 0, 37, 26, 16, 6, 159, 0, 9, 26, 16, 7, 160, 0, 7, 7, 167, 0, 21, 26, 16, 8]
abbrev dktX4_strength_1 : List UInt8 := dkwX4_strength_1 ++ dktX4_strength_2
def dkwX4_strength_0 : List UInt8 := [26, 8, 160, 0, 7, 4, 167, 0, 55, 26, 7, 160, 0, 7, 5, 167, 0, 46, 26, 6, 160, 0, 7, 6]
abbrev dktX4_strength_0 : List UInt8 := dkwX4_strength_0 ++ dktX4_strength_1
theorem dksX4_strength_0 : cX4_strength.data.toList.drop 0 = dktX4_strength_0 := by decide +kernel
theorem dksX4_strength_1 : cX4_strength.data.toList.drop 24 = dktX4_strength_1 := dk_seg dksX4_strength_0 24 rfl rfl
theorem dksX4_strength_2 : cX4_strength.data.toList.drop 46 = dktX4_strength_2 := dk_seg dksX4_strength_1 22 rfl rfl
theorem dX4_strength_0 : decode cX4_strength 0 = .ok (.iload_n 0, 1) := dk_26 (dk_at dksX4_strength_0 0 rfl rfl)
theorem dX4_strength_1 : decode cX4_strength 1 = .ok (.iconst 5, 1) := dk_8 (dk_at dksX4_strength_0 1 rfl rfl)
theorem dX4_strength_2 : decode cX4_strength 2 = .ok (.if_icmp .ne 7, 3) := dk_160 0 7 (dk_at dksX4_strength_0 2 rfl rfl)
theorem dX4_strength_5 : decode cX4_strength 5 = .ok (.iconst 1, 1) := dk_4 (dk_at dksX4_strength_0 5 rfl rfl)
theorem dX4_strength_6 : decode cX4_strength 6 = .ok (.goto 55, 3) := dk_167 0 55 (dk_at dksX4_strength_0 6 rfl rfl)
theorem dX4_strength_9 : decode cX4_strength 9 = .ok (.iload_n 0, 1) := dk_26 (dk_at dksX4_strength_0 9 rfl rfl)
theorem dX4_strength_10 : decode cX4_strength 10 = .ok (.iconst 4, 1) := dk_7 (dk_at dksX4_strength_0 10 rfl rfl)
theorem dX4_strength_11 : decode cX4_strength 11 = .ok (.if_icmp .ne 7, 3) := dk_160 0 7 (dk_at dksX4_strength_0 11 rfl rfl)
theorem dX4_strength_14 : decode cX4_strength 14 = .ok (.iconst 2, 1) := dk_5 (dk_at dksX4_strength_0 14 rfl rfl)
theorem dX4_strength_15 : decode cX4_strength 15 = .ok (.goto 46, 3) := dk_167 0 46 (dk_at dksX4_strength_0 15 rfl rfl)
theorem dX4_strength_18 : decode cX4_strength 18 = .ok (.iload_n 0, 1) := dk_26 (dk_at dksX4_strength_0 18 rfl rfl)
theorem dX4_strength_19 : decode cX4_strength 19 = .ok (.iconst 3, 1) := dk_6 (dk_at dksX4_strength_0 19 rfl rfl)
theorem dX4_strength_20 : decode cX4_strength 20 = .ok (.if_icmp .ne 7, 3) := dk_160 0 7 (dk_at dksX4_strength_0 20 rfl rfl)
theorem dX4_strength_23 : decode cX4_strength 23 = .ok (.iconst 3, 1) := dk_6 (dk_at dksX4_strength_0 23 rfl rfl)
theorem dX4_strength_24 : decode cX4_strength 24 = .ok (.goto 37, 3) := dk_167 0 37 (dk_at dksX4_strength_1 0 rfl rfl)
theorem dX4_strength_27 : decode cX4_strength 27 = .ok (.iload_n 0, 1) := dk_26 (dk_at dksX4_strength_1 3 rfl rfl)
theorem dX4_strength_28 : decode cX4_strength 28 = .ok (.bipush 6, 2) := dk_16 6 (dk_at dksX4_strength_1 4 rfl rfl)
theorem dX4_strength_30 : decode cX4_strength 30 = .ok (.if_icmp .eq 9, 3) := dk_159 0 9 (dk_at dksX4_strength_1 6 rfl rfl)
theorem dX4_strength_33 : decode cX4_strength 33 = .ok (.iload_n 0, 1) := dk_26 (dk_at dksX4_strength_1 9 rfl rfl)
theorem dX4_strength_34 : decode cX4_strength 34 = .ok (.bipush 7, 2) := dk_16 7 (dk_at dksX4_strength_1 10 rfl rfl)
theorem dX4_strength_36 : decode cX4_strength 36 = .ok (.if_icmp .ne 7, 3) := dk_160 0 7 (dk_at dksX4_strength_1 12 rfl rfl)
theorem dX4_strength_39 : decode cX4_strength 39 = .ok (.iconst 4, 1) := dk_7 (dk_at dksX4_strength_1 15 rfl rfl)
theorem dX4_strength_40 : decode cX4_strength 40 = .ok (.goto 21, 3) := dk_167 0 21 (dk_at dksX4_strength_1 16 rfl rfl)
theorem dX4_strength_43 : decode cX4_strength 43 = .ok (.iload_n 0, 1) := dk_26 (dk_at dksX4_strength_1 19 rfl rfl)
theorem dX4_strength_44 : decode cX4_strength 44 = .ok (.bipush 8, 2) := dk_16 8 (dk_at dksX4_strength_1 20 rfl rfl)
theorem dX4_strength_46 : decode cX4_strength 46 = .ok (.if_icmp .eq 9, 3) := dk_159 0 9 (dk_at dksX4_strength_2 0 rfl rfl)
theorem dX4_strength_49 : decode cX4_strength 49 = .ok (.iload_n 0, 1) := dk_26 (dk_at dksX4_strength_2 3 rfl rfl)
theorem dX4_strength_50 : decode cX4_strength 50 = .ok (.bipush 9, 2) := dk_16 9 (dk_at dksX4_strength_2 4 rfl rfl)
theorem dX4_strength_52 : decode cX4_strength 52 = .ok (.if_icmp .ne 7, 3) := dk_160 0 7 (dk_at dksX4_strength_2 6 rfl rfl)
theorem dX4_strength_55 : decode cX4_strength 55 = .ok (.iconst 5, 1) := dk_8 (dk_at dksX4_strength_2 9 rfl rfl)
theorem dX4_strength_56 : decode cX4_strength 56 = .ok (.goto 5, 3) := dk_167 0 5 (dk_at dksX4_strength_2 10 rfl rfl)
theorem dX4_strength_59 : decode cX4_strength 59 = .ok (.bipush 6, 2) := dk_16 6 (dk_at dksX4_strength_2 13 rfl rfl)
theorem dX4_strength_61 : decode cX4_strength 61 = .ok (.ireturn, 1) := dk_172 (dk_at dksX4_strength_2 15 rfl rfl)
abbrev cX4_isOpened : ByteArray := prog_13_method_33_code
def yX4_isOpened : MethodName := ⟨RX4, "isOpened", "()Z"⟩
def dkwX4_isOpened_1 : List UInt8 := [132, 1, 255, 167, 255, 237, 27, 155, 0, 7, 4, 167, 0, 4, 3, 172]
abbrev dktX4_isOpened_1 : List UInt8 := dkwX4_isOpened_1 ++ []
def dkwX4_isOpened_0 : List UInt8 := [42, 180, 0, 192, 4, 100, 60, 27, 155, 0, 21, 42, 180, 0, 68, 27, 46, 184, 0, 195, 154, 0, 9]
abbrev dktX4_isOpened_0 : List UInt8 := dkwX4_isOpened_0 ++ dktX4_isOpened_1
theorem dksX4_isOpened_0 : cX4_isOpened.data.toList.drop 0 = dktX4_isOpened_0 := by decide +kernel
theorem dksX4_isOpened_1 : cX4_isOpened.data.toList.drop 23 = dktX4_isOpened_1 := dk_seg dksX4_isOpened_0 23 rfl rfl
theorem dX4_isOpened_0 : decode cX4_isOpened 0 = .ok (.aload_n 0, 1) := dk_42 (dk_at dksX4_isOpened_0 0 rfl rfl)
theorem dX4_isOpened_1 : decode cX4_isOpened 1 = .ok (.getfield 192, 3) := dk_180 0 192 (dk_at dksX4_isOpened_0 1 rfl rfl)
theorem dX4_isOpened_4 : decode cX4_isOpened 4 = .ok (.iconst 1, 1) := dk_4 (dk_at dksX4_isOpened_0 4 rfl rfl)
theorem dX4_isOpened_5 : decode cX4_isOpened 5 = .ok (.isub, 1) := dk_100 (dk_at dksX4_isOpened_0 5 rfl rfl)
theorem dX4_isOpened_6 : decode cX4_isOpened 6 = .ok (.istore_n 1, 1) := dk_60 (dk_at dksX4_isOpened_0 6 rfl rfl)
theorem dX4_isOpened_7 : decode cX4_isOpened 7 = .ok (.iload_n 1, 1) := dk_27 (dk_at dksX4_isOpened_0 7 rfl rfl)
theorem dX4_isOpened_8 : decode cX4_isOpened 8 = .ok (.ifCond .lt 21, 3) := dk_155 0 21 (dk_at dksX4_isOpened_0 8 rfl rfl)
theorem dX4_isOpened_11 : decode cX4_isOpened 11 = .ok (.aload_n 0, 1) := dk_42 (dk_at dksX4_isOpened_0 11 rfl rfl)
theorem dX4_isOpened_12 : decode cX4_isOpened 12 = .ok (.getfield 68, 3) := dk_180 0 68 (dk_at dksX4_isOpened_0 12 rfl rfl)
theorem dX4_isOpened_15 : decode cX4_isOpened 15 = .ok (.iload_n 1, 1) := dk_27 (dk_at dksX4_isOpened_0 15 rfl rfl)
theorem dX4_isOpened_16 : decode cX4_isOpened 16 = .ok (.iaload, 1) := dk_46 (dk_at dksX4_isOpened_0 16 rfl rfl)
theorem dX4_isOpened_17 : decode cX4_isOpened 17 = .ok (.invokestatic 195, 3) := dk_184 0 195 (dk_at dksX4_isOpened_0 17 rfl rfl)
theorem dX4_isOpened_20 : decode cX4_isOpened 20 = .ok (.ifCond .ne 9, 3) := dk_154 0 9 (dk_at dksX4_isOpened_0 20 rfl rfl)
theorem dX4_isOpened_23 : decode cX4_isOpened 23 = .ok (.iinc 1 (-1), 3) := dk_132 1 255 (dk_at dksX4_isOpened_1 0 rfl rfl)
theorem dX4_isOpened_26 : decode cX4_isOpened 26 = .ok (.goto (-19), 3) := dk_167 255 237 (dk_at dksX4_isOpened_1 3 rfl rfl)
theorem dX4_isOpened_29 : decode cX4_isOpened 29 = .ok (.iload_n 1, 1) := dk_27 (dk_at dksX4_isOpened_1 6 rfl rfl)
theorem dX4_isOpened_30 : decode cX4_isOpened 30 = .ok (.ifCond .lt 7, 3) := dk_155 0 7 (dk_at dksX4_isOpened_1 7 rfl rfl)
theorem dX4_isOpened_33 : decode cX4_isOpened 33 = .ok (.iconst 1, 1) := dk_4 (dk_at dksX4_isOpened_1 10 rfl rfl)
theorem dX4_isOpened_34 : decode cX4_isOpened 34 = .ok (.goto 4, 3) := dk_167 0 4 (dk_at dksX4_isOpened_1 11 rfl rfl)
theorem dX4_isOpened_37 : decode cX4_isOpened 37 = .ok (.iconst 0, 1) := dk_3 (dk_at dksX4_isOpened_1 14 rfl rfl)
theorem dX4_isOpened_38 : decode cX4_isOpened 38 = .ok (.ireturn, 1) := dk_172 (dk_at dksX4_isOpened_1 15 rfl rfl)
abbrev cX4_closes : ByteArray := prog_13_method_34_code
def yX4_closes : MethodName := ⟨RX4, "closes", "()V"⟩
def dkwX4_closes_1 : List UInt8 := [181, 0, 208, 42, 182, 0, 180, 177]
abbrev dktX4_closes_1 : List UInt8 := dkwX4_closes_1 ++ []
def dkwX4_closes_0 : List UInt8 := [42, 3, 182, 0, 223, 42, 89, 180, 0, 192, 4, 100, 181, 0, 192, 42, 89, 180, 0, 208, 4, 100]
abbrev dktX4_closes_0 : List UInt8 := dkwX4_closes_0 ++ dktX4_closes_1
theorem dksX4_closes_0 : cX4_closes.data.toList.drop 0 = dktX4_closes_0 := by decide +kernel
theorem dksX4_closes_1 : cX4_closes.data.toList.drop 22 = dktX4_closes_1 := dk_seg dksX4_closes_0 22 rfl rfl
theorem dX4_closes_0 : decode cX4_closes 0 = .ok (.aload_n 0, 1) := dk_42 (dk_at dksX4_closes_0 0 rfl rfl)
theorem dX4_closes_1 : decode cX4_closes 1 = .ok (.iconst 0, 1) := dk_3 (dk_at dksX4_closes_0 1 rfl rfl)
theorem dX4_closes_2 : decode cX4_closes 2 = .ok (.invokevirtual 223, 3) := dk_182 0 223 (dk_at dksX4_closes_0 2 rfl rfl)
theorem dX4_closes_5 : decode cX4_closes 5 = .ok (.aload_n 0, 1) := dk_42 (dk_at dksX4_closes_0 5 rfl rfl)
theorem dX4_closes_6 : decode cX4_closes 6 = .ok (.dup, 1) := dk_89 (dk_at dksX4_closes_0 6 rfl rfl)
theorem dX4_closes_7 : decode cX4_closes 7 = .ok (.getfield 192, 3) := dk_180 0 192 (dk_at dksX4_closes_0 7 rfl rfl)
theorem dX4_closes_10 : decode cX4_closes 10 = .ok (.iconst 1, 1) := dk_4 (dk_at dksX4_closes_0 10 rfl rfl)
theorem dX4_closes_11 : decode cX4_closes 11 = .ok (.isub, 1) := dk_100 (dk_at dksX4_closes_0 11 rfl rfl)
theorem dX4_closes_12 : decode cX4_closes 12 = .ok (.putfield 192, 3) := dk_181 0 192 (dk_at dksX4_closes_0 12 rfl rfl)
theorem dX4_closes_15 : decode cX4_closes 15 = .ok (.aload_n 0, 1) := dk_42 (dk_at dksX4_closes_0 15 rfl rfl)
theorem dX4_closes_16 : decode cX4_closes 16 = .ok (.dup, 1) := dk_89 (dk_at dksX4_closes_0 16 rfl rfl)
theorem dX4_closes_17 : decode cX4_closes 17 = .ok (.getfield 208, 3) := dk_180 0 208 (dk_at dksX4_closes_0 17 rfl rfl)
theorem dX4_closes_20 : decode cX4_closes 20 = .ok (.iconst 1, 1) := dk_4 (dk_at dksX4_closes_0 20 rfl rfl)
theorem dX4_closes_21 : decode cX4_closes 21 = .ok (.isub, 1) := dk_100 (dk_at dksX4_closes_0 21 rfl rfl)
theorem dX4_closes_22 : decode cX4_closes 22 = .ok (.putfield 208, 3) := dk_181 0 208 (dk_at dksX4_closes_1 0 rfl rfl)
theorem dX4_closes_25 : decode cX4_closes 25 = .ok (.aload_n 0, 1) := dk_42 (dk_at dksX4_closes_1 3 rfl rfl)
theorem dX4_closes_26 : decode cX4_closes 26 = .ok (.invokevirtual 180, 3) := dk_182 0 180 (dk_at dksX4_closes_1 4 rfl rfl)
theorem dX4_closes_29 : decode cX4_closes 29 = .ok (.return_, 1) := dk_177 (dk_at dksX4_closes_1 7 rfl rfl)
abbrev cX4_need : ByteArray := prog_13_method_21_code
def yX4_need : MethodName := ⟨RX4, "need", "(Z)V"⟩
def dkwX4_need_1 : List UInt8 := [177]
abbrev dktX4_need_1 : List UInt8 := dkwX4_need_1 ++ []
def dkwX4_need_0 : List UInt8 := [42, 182, 0, 176, 154, 0, 4, 177, 27, 153, 0, 10, 42, 182, 0, 180, 167, 0, 8, 42, 4, 182, 0, 183]
abbrev dktX4_need_0 : List UInt8 := dkwX4_need_0 ++ dktX4_need_1
theorem dksX4_need_0 : cX4_need.data.toList.drop 0 = dktX4_need_0 := by decide +kernel
theorem dksX4_need_1 : cX4_need.data.toList.drop 24 = dktX4_need_1 := dk_seg dksX4_need_0 24 rfl rfl
theorem dX4_need_0 : decode cX4_need 0 = .ok (.aload_n 0, 1) := dk_42 (dk_at dksX4_need_0 0 rfl rfl)
theorem dX4_need_1 : decode cX4_need 1 = .ok (.invokevirtual 176, 3) := dk_182 0 176 (dk_at dksX4_need_0 1 rfl rfl)
theorem dX4_need_4 : decode cX4_need 4 = .ok (.ifCond .ne 4, 3) := dk_154 0 4 (dk_at dksX4_need_0 4 rfl rfl)
theorem dX4_need_7 : decode cX4_need 7 = .ok (.return_, 1) := dk_177 (dk_at dksX4_need_0 7 rfl rfl)
theorem dX4_need_8 : decode cX4_need 8 = .ok (.iload_n 1, 1) := dk_27 (dk_at dksX4_need_0 8 rfl rfl)
theorem dX4_need_9 : decode cX4_need 9 = .ok (.ifCond .eq 10, 3) := dk_153 0 10 (dk_at dksX4_need_0 9 rfl rfl)
theorem dX4_need_12 : decode cX4_need 12 = .ok (.aload_n 0, 1) := dk_42 (dk_at dksX4_need_0 12 rfl rfl)
theorem dX4_need_13 : decode cX4_need 13 = .ok (.invokevirtual 180, 3) := dk_182 0 180 (dk_at dksX4_need_0 13 rfl rfl)
theorem dX4_need_16 : decode cX4_need 16 = .ok (.goto 8, 3) := dk_167 0 8 (dk_at dksX4_need_0 16 rfl rfl)
theorem dX4_need_19 : decode cX4_need 19 = .ok (.aload_n 0, 1) := dk_42 (dk_at dksX4_need_0 19 rfl rfl)
theorem dX4_need_20 : decode cX4_need 20 = .ok (.iconst 1, 1) := dk_4 (dk_at dksX4_need_0 20 rfl rfl)
theorem dX4_need_21 : decode cX4_need 21 = .ok (.invokevirtual 183, 3) := dk_182 0 183 (dk_at dksX4_need_0 21 rfl rfl)
theorem dX4_need_24 : decode cX4_need 24 = .ok (.return_, 1) := dk_177 (dk_at dksX4_need_1 0 rfl rfl)
abbrev cX4_copies : ByteArray := prog_13_method_7_code
def yX4_copies : MethodName := ⟨RX4, "copies", "([I[I)V"⟩
def dkwX4_copies_0 : List UInt8 := [3, 62, 29, 43, 190, 162, 0, 15, 44, 29, 43, 29, 46, 79, 132, 3, 1, 167, 255, 241, 177]
abbrev dktX4_copies_0 : List UInt8 := dkwX4_copies_0 ++ []
theorem dksX4_copies_0 : cX4_copies.data.toList.drop 0 = dktX4_copies_0 := by decide +kernel
theorem dX4_copies_0 : decode cX4_copies 0 = .ok (.iconst 0, 1) := dk_3 (dk_at dksX4_copies_0 0 rfl rfl)
theorem dX4_copies_1 : decode cX4_copies 1 = .ok (.istore_n 3, 1) := dk_62 (dk_at dksX4_copies_0 1 rfl rfl)
theorem dX4_copies_2 : decode cX4_copies 2 = .ok (.iload_n 3, 1) := dk_29 (dk_at dksX4_copies_0 2 rfl rfl)
theorem dX4_copies_3 : decode cX4_copies 3 = .ok (.aload_n 1, 1) := dk_43 (dk_at dksX4_copies_0 3 rfl rfl)
theorem dX4_copies_4 : decode cX4_copies 4 = .ok (.arraylength, 1) := dk_190 (dk_at dksX4_copies_0 4 rfl rfl)
theorem dX4_copies_5 : decode cX4_copies 5 = .ok (.if_icmp .ge 15, 3) := dk_162 0 15 (dk_at dksX4_copies_0 5 rfl rfl)
theorem dX4_copies_8 : decode cX4_copies 8 = .ok (.aload_n 2, 1) := dk_44 (dk_at dksX4_copies_0 8 rfl rfl)
theorem dX4_copies_9 : decode cX4_copies 9 = .ok (.iload_n 3, 1) := dk_29 (dk_at dksX4_copies_0 9 rfl rfl)
theorem dX4_copies_10 : decode cX4_copies 10 = .ok (.aload_n 1, 1) := dk_43 (dk_at dksX4_copies_0 10 rfl rfl)
theorem dX4_copies_11 : decode cX4_copies 11 = .ok (.iload_n 3, 1) := dk_29 (dk_at dksX4_copies_0 11 rfl rfl)
theorem dX4_copies_12 : decode cX4_copies 12 = .ok (.iaload, 1) := dk_46 (dk_at dksX4_copies_0 12 rfl rfl)
theorem dX4_copies_13 : decode cX4_copies 13 = .ok (.iastore, 1) := dk_79 (dk_at dksX4_copies_0 13 rfl rfl)
theorem dX4_copies_14 : decode cX4_copies 14 = .ok (.iinc 3 1, 3) := dk_132 3 1 (dk_at dksX4_copies_0 14 rfl rfl)
theorem dX4_copies_17 : decode cX4_copies 17 = .ok (.goto (-15), 3) := dk_167 255 241 (dk_at dksX4_copies_0 17 rfl rfl)
theorem dX4_copies_20 : decode cX4_copies 20 = .ok (.return_, 1) := dk_177 (dk_at dksX4_copies_0 20 rfl rfl)
abbrev cX4_fault : ByteArray := prog_13_method_42_code
def yX4_fault : MethodName := ⟨RX4, "fault", "()I"⟩
def dkwX4_fault_0 : List UInt8 := [42, 3, 181, 0, 117, 42, 180, 0, 38, 172]
abbrev dktX4_fault_0 : List UInt8 := dkwX4_fault_0 ++ []
theorem dksX4_fault_0 : cX4_fault.data.toList.drop 0 = dktX4_fault_0 := by decide +kernel
theorem dX4_fault_0 : decode cX4_fault 0 = .ok (.aload_n 0, 1) := dk_42 (dk_at dksX4_fault_0 0 rfl rfl)
theorem dX4_fault_1 : decode cX4_fault 1 = .ok (.iconst 0, 1) := dk_3 (dk_at dksX4_fault_0 1 rfl rfl)
theorem dX4_fault_2 : decode cX4_fault 2 = .ok (.putfield 117, 3) := dk_181 0 117 (dk_at dksX4_fault_0 2 rfl rfl)
theorem dX4_fault_5 : decode cX4_fault 5 = .ok (.aload_n 0, 1) := dk_42 (dk_at dksX4_fault_0 5 rfl rfl)
theorem dX4_fault_6 : decode cX4_fault 6 = .ok (.getfield 38, 3) := dk_180 0 38 (dk_at dksX4_fault_0 6 rfl rfl)
theorem dX4_fault_9 : decode cX4_fault 9 = .ok (.ireturn, 1) := dk_172 (dk_at dksX4_fault_0 9 rfl rfl)
abbrev cX4_undo : ByteArray := prog_13_method_45_code
def yX4_undo : MethodName := ⟨RX4, "undo", "()I"⟩
def dkwX4_undo_2 : List UInt8 := [27, 96, 46, 79, 132, 1, 1, 167, 255, 227, 42, 180, 1, 38, 172]
abbrev dktX4_undo_2 : List UInt8 := dkwX4_undo_2 ++ []
def dkwX4_undo_1 : List UInt8 := [3, 60, 27, 16, 85, 162, 0, 29, 42, 180, 0, 75, 27, 42, 180, 0, 78, 16, 85, 42, 180, 1, 38, 104]
abbrev dktX4_undo_1 : List UInt8 := dkwX4_undo_1 ++ dktX4_undo_2
def dkwX4_undo_0 : List UInt8 := [42, 3, 181, 0, 117, 42, 180, 1, 38, 154, 0, 5, 2, 172, 42, 89, 180, 1, 38, 4, 100, 181, 1, 38]
abbrev dktX4_undo_0 : List UInt8 := dkwX4_undo_0 ++ dktX4_undo_1
theorem dksX4_undo_0 : cX4_undo.data.toList.drop 0 = dktX4_undo_0 := by decide +kernel
theorem dksX4_undo_1 : cX4_undo.data.toList.drop 24 = dktX4_undo_1 := dk_seg dksX4_undo_0 24 rfl rfl
theorem dksX4_undo_2 : cX4_undo.data.toList.drop 48 = dktX4_undo_2 := dk_seg dksX4_undo_1 24 rfl rfl
theorem dX4_undo_0 : decode cX4_undo 0 = .ok (.aload_n 0, 1) := dk_42 (dk_at dksX4_undo_0 0 rfl rfl)
theorem dX4_undo_1 : decode cX4_undo 1 = .ok (.iconst 0, 1) := dk_3 (dk_at dksX4_undo_0 1 rfl rfl)
theorem dX4_undo_2 : decode cX4_undo 2 = .ok (.putfield 117, 3) := dk_181 0 117 (dk_at dksX4_undo_0 2 rfl rfl)
theorem dX4_undo_5 : decode cX4_undo 5 = .ok (.aload_n 0, 1) := dk_42 (dk_at dksX4_undo_0 5 rfl rfl)
theorem dX4_undo_6 : decode cX4_undo 6 = .ok (.getfield 294, 3) := dk_180 1 38 (dk_at dksX4_undo_0 6 rfl rfl)
theorem dX4_undo_9 : decode cX4_undo 9 = .ok (.ifCond .ne 5, 3) := dk_154 0 5 (dk_at dksX4_undo_0 9 rfl rfl)
theorem dX4_undo_12 : decode cX4_undo 12 = .ok (.iconst (-1), 1) := dk_2 (dk_at dksX4_undo_0 12 rfl rfl)
theorem dX4_undo_13 : decode cX4_undo 13 = .ok (.ireturn, 1) := dk_172 (dk_at dksX4_undo_0 13 rfl rfl)
theorem dX4_undo_14 : decode cX4_undo 14 = .ok (.aload_n 0, 1) := dk_42 (dk_at dksX4_undo_0 14 rfl rfl)
theorem dX4_undo_15 : decode cX4_undo 15 = .ok (.dup, 1) := dk_89 (dk_at dksX4_undo_0 15 rfl rfl)
theorem dX4_undo_16 : decode cX4_undo 16 = .ok (.getfield 294, 3) := dk_180 1 38 (dk_at dksX4_undo_0 16 rfl rfl)
theorem dX4_undo_19 : decode cX4_undo 19 = .ok (.iconst 1, 1) := dk_4 (dk_at dksX4_undo_0 19 rfl rfl)
theorem dX4_undo_20 : decode cX4_undo 20 = .ok (.isub, 1) := dk_100 (dk_at dksX4_undo_0 20 rfl rfl)
theorem dX4_undo_21 : decode cX4_undo 21 = .ok (.putfield 294, 3) := dk_181 1 38 (dk_at dksX4_undo_0 21 rfl rfl)
theorem dX4_undo_24 : decode cX4_undo 24 = .ok (.iconst 0, 1) := dk_3 (dk_at dksX4_undo_1 0 rfl rfl)
theorem dX4_undo_25 : decode cX4_undo 25 = .ok (.istore_n 1, 1) := dk_60 (dk_at dksX4_undo_1 1 rfl rfl)
theorem dX4_undo_26 : decode cX4_undo 26 = .ok (.iload_n 1, 1) := dk_27 (dk_at dksX4_undo_1 2 rfl rfl)
theorem dX4_undo_27 : decode cX4_undo 27 = .ok (.bipush 85, 2) := dk_16 85 (dk_at dksX4_undo_1 3 rfl rfl)
theorem dX4_undo_29 : decode cX4_undo 29 = .ok (.if_icmp .ge 29, 3) := dk_162 0 29 (dk_at dksX4_undo_1 5 rfl rfl)
theorem dX4_undo_32 : decode cX4_undo 32 = .ok (.aload_n 0, 1) := dk_42 (dk_at dksX4_undo_1 8 rfl rfl)
theorem dX4_undo_33 : decode cX4_undo 33 = .ok (.getfield 75, 3) := dk_180 0 75 (dk_at dksX4_undo_1 9 rfl rfl)
theorem dX4_undo_36 : decode cX4_undo 36 = .ok (.iload_n 1, 1) := dk_27 (dk_at dksX4_undo_1 12 rfl rfl)
theorem dX4_undo_37 : decode cX4_undo 37 = .ok (.aload_n 0, 1) := dk_42 (dk_at dksX4_undo_1 13 rfl rfl)
theorem dX4_undo_38 : decode cX4_undo 38 = .ok (.getfield 78, 3) := dk_180 0 78 (dk_at dksX4_undo_1 14 rfl rfl)
theorem dX4_undo_41 : decode cX4_undo 41 = .ok (.bipush 85, 2) := dk_16 85 (dk_at dksX4_undo_1 17 rfl rfl)
theorem dX4_undo_43 : decode cX4_undo 43 = .ok (.aload_n 0, 1) := dk_42 (dk_at dksX4_undo_1 19 rfl rfl)
theorem dX4_undo_44 : decode cX4_undo 44 = .ok (.getfield 294, 3) := dk_180 1 38 (dk_at dksX4_undo_1 20 rfl rfl)
theorem dX4_undo_47 : decode cX4_undo 47 = .ok (.imul, 1) := dk_104 (dk_at dksX4_undo_1 23 rfl rfl)
theorem dX4_undo_48 : decode cX4_undo 48 = .ok (.iload_n 1, 1) := dk_27 (dk_at dksX4_undo_2 0 rfl rfl)
theorem dX4_undo_49 : decode cX4_undo 49 = .ok (.iadd, 1) := dk_96 (dk_at dksX4_undo_2 1 rfl rfl)
theorem dX4_undo_50 : decode cX4_undo 50 = .ok (.iaload, 1) := dk_46 (dk_at dksX4_undo_2 2 rfl rfl)
theorem dX4_undo_51 : decode cX4_undo 51 = .ok (.iastore, 1) := dk_79 (dk_at dksX4_undo_2 3 rfl rfl)
theorem dX4_undo_52 : decode cX4_undo 52 = .ok (.iinc 1 1, 3) := dk_132 1 1 (dk_at dksX4_undo_2 4 rfl rfl)
theorem dX4_undo_55 : decode cX4_undo 55 = .ok (.goto (-29), 3) := dk_167 255 227 (dk_at dksX4_undo_2 7 rfl rfl)
theorem dX4_undo_58 : decode cX4_undo 58 = .ok (.aload_n 0, 1) := dk_42 (dk_at dksX4_undo_2 10 rfl rfl)
theorem dX4_undo_59 : decode cX4_undo 59 = .ok (.getfield 294, 3) := dk_180 1 38 (dk_at dksX4_undo_2 11 rfl rfl)
theorem dX4_undo_62 : decode cX4_undo 62 = .ok (.ireturn, 1) := dk_172 (dk_at dksX4_undo_2 14 rfl rfl)
abbrev cX4_count : ByteArray := prog_13_method_61_code
def yX4_count : MethodName := ⟨RX4, "count", "(I)I"⟩
def dkwX4_count_5 : List UInt8 := [172, 42, 180, 0, 41, 27, 16, 13, 100, 46, 172]
abbrev dktX4_count_5 : List UInt8 := dkwX4_count_5 ++ []
def dkwX4_count_4 : List UInt8 := [182, 1, 100, 172, 42, 3, 182, 1, 103, 172, 42, 180, 1, 38, 172, 42, 180, 1, 41, 172, 42, 180, 0, 120]
abbrev dktX4_count_4 : List UInt8 := dkwX4_count_4 ++ dktX4_count_5
def dkwX4_count_3 : List UInt8 := [182, 1, 94, 172, 42, 16, 9, 182, 1, 94, 172, 42, 16, 17, 182, 1, 94, 172, 42, 182, 1, 97, 172, 42]
abbrev dktX4_count_3 : List UInt8 := dkwX4_count_3 ++ dktX4_count_4
def dkwX4_count_2 : List UInt8 := [42, 180, 1, 25, 172, 42, 180, 1, 28, 172, 42, 180, 1, 31, 172, 42, 180, 0, 75, 3, 46, 172, 42, 4]
abbrev dktX4_count_2 : List UInt8 := dkwX4_count_2 ++ dktX4_count_3
def dkwX4_count_1 : List UInt8 := [170, 0, 0, 0, 138, 0, 0, 0, 0, 0, 0, 0, 12, 0, 0, 0, 65, 0, 0, 0, 70, 0, 0, 0, 75, 0, 0, 0, 80, 0, 0, 0, 87, 0, 0, 0, 93, 0, 0, 0, 100, 0, 0, 0, 107, 0, 0, 0, 112, 0, 0, 0, 117, 0, 0, 0, 123, 0, 0, 0, 128, 0, 0, 0, 133]
abbrev dktX4_count_1 : List UInt8 := dkwX4_count_1 ++ dktX4_count_2
def dkwX4_count_0 : List UInt8 := [42, 3, 181, 0, 117, 42, 27, 3, 16, 15, 184, 1, 90, 4, 182, 1, 18, 154, 0, 5, 3, 172, 27]
abbrev dktX4_count_0 : List UInt8 := dkwX4_count_0 ++ dktX4_count_1
theorem dksX4_count_0 : cX4_count.data.toList.drop 0 = dktX4_count_0 := by decide +kernel
theorem dksX4_count_1 : cX4_count.data.toList.drop 23 = dktX4_count_1 := dk_seg dksX4_count_0 23 rfl rfl
theorem dksX4_count_2 : cX4_count.data.toList.drop 88 = dktX4_count_2 := dk_seg dksX4_count_1 65 rfl rfl
theorem dksX4_count_3 : cX4_count.data.toList.drop 112 = dktX4_count_3 := dk_seg dksX4_count_2 24 rfl rfl
theorem dksX4_count_4 : cX4_count.data.toList.drop 136 = dktX4_count_4 := dk_seg dksX4_count_3 24 rfl rfl
theorem dksX4_count_5 : cX4_count.data.toList.drop 160 = dktX4_count_5 := dk_seg dksX4_count_4 24 rfl rfl
theorem dX4_count_0 : decode cX4_count 0 = .ok (.aload_n 0, 1) := dk_42 (dk_at dksX4_count_0 0 rfl rfl)
theorem dX4_count_1 : decode cX4_count 1 = .ok (.iconst 0, 1) := dk_3 (dk_at dksX4_count_0 1 rfl rfl)
theorem dX4_count_2 : decode cX4_count 2 = .ok (.putfield 117, 3) := dk_181 0 117 (dk_at dksX4_count_0 2 rfl rfl)
theorem dX4_count_5 : decode cX4_count 5 = .ok (.aload_n 0, 1) := dk_42 (dk_at dksX4_count_0 5 rfl rfl)
theorem dX4_count_6 : decode cX4_count 6 = .ok (.iload_n 1, 1) := dk_27 (dk_at dksX4_count_0 6 rfl rfl)
theorem dX4_count_7 : decode cX4_count 7 = .ok (.iconst 0, 1) := dk_3 (dk_at dksX4_count_0 7 rfl rfl)
theorem dX4_count_8 : decode cX4_count 8 = .ok (.bipush 15, 2) := dk_16 15 (dk_at dksX4_count_0 8 rfl rfl)
theorem dX4_count_10 : decode cX4_count 10 = .ok (.invokestatic 346, 3) := dk_184 1 90 (dk_at dksX4_count_0 10 rfl rfl)
theorem dX4_count_13 : decode cX4_count 13 = .ok (.iconst 1, 1) := dk_4 (dk_at dksX4_count_0 13 rfl rfl)
theorem dX4_count_14 : decode cX4_count 14 = .ok (.invokevirtual 274, 3) := dk_182 1 18 (dk_at dksX4_count_0 14 rfl rfl)
theorem dX4_count_17 : decode cX4_count 17 = .ok (.ifCond .ne 5, 3) := dk_154 0 5 (dk_at dksX4_count_0 17 rfl rfl)
theorem dX4_count_20 : decode cX4_count 20 = .ok (.iconst 0, 1) := dk_3 (dk_at dksX4_count_0 20 rfl rfl)
theorem dX4_count_21 : decode cX4_count 21 = .ok (.ireturn, 1) := dk_172 (dk_at dksX4_count_0 21 rfl rfl)
theorem dX4_count_22 : decode cX4_count 22 = .ok (.iload_n 1, 1) := dk_27 (dk_at dksX4_count_0 22 rfl rfl)
theorem dX4_count_23 : decode cX4_count 23 = .ok (.tableswitch 138 0 12 #[65, 70, 75, 80, 87, 93, 100, 107, 112, 117, 123, 128, 133], 65) := by decide +kernel
theorem dX4_count_88 : decode cX4_count 88 = .ok (.aload_n 0, 1) := dk_42 (dk_at dksX4_count_2 0 rfl rfl)
theorem dX4_count_89 : decode cX4_count 89 = .ok (.getfield 281, 3) := dk_180 1 25 (dk_at dksX4_count_2 1 rfl rfl)
theorem dX4_count_92 : decode cX4_count 92 = .ok (.ireturn, 1) := dk_172 (dk_at dksX4_count_2 4 rfl rfl)
theorem dX4_count_93 : decode cX4_count 93 = .ok (.aload_n 0, 1) := dk_42 (dk_at dksX4_count_2 5 rfl rfl)
theorem dX4_count_94 : decode cX4_count 94 = .ok (.getfield 284, 3) := dk_180 1 28 (dk_at dksX4_count_2 6 rfl rfl)
theorem dX4_count_97 : decode cX4_count 97 = .ok (.ireturn, 1) := dk_172 (dk_at dksX4_count_2 9 rfl rfl)
theorem dX4_count_98 : decode cX4_count 98 = .ok (.aload_n 0, 1) := dk_42 (dk_at dksX4_count_2 10 rfl rfl)
theorem dX4_count_99 : decode cX4_count 99 = .ok (.getfield 287, 3) := dk_180 1 31 (dk_at dksX4_count_2 11 rfl rfl)
theorem dX4_count_102 : decode cX4_count 102 = .ok (.ireturn, 1) := dk_172 (dk_at dksX4_count_2 14 rfl rfl)
theorem dX4_count_103 : decode cX4_count 103 = .ok (.aload_n 0, 1) := dk_42 (dk_at dksX4_count_2 15 rfl rfl)
theorem dX4_count_104 : decode cX4_count 104 = .ok (.getfield 75, 3) := dk_180 0 75 (dk_at dksX4_count_2 16 rfl rfl)
theorem dX4_count_107 : decode cX4_count 107 = .ok (.iconst 0, 1) := dk_3 (dk_at dksX4_count_2 19 rfl rfl)
theorem dX4_count_108 : decode cX4_count 108 = .ok (.iaload, 1) := dk_46 (dk_at dksX4_count_2 20 rfl rfl)
theorem dX4_count_109 : decode cX4_count 109 = .ok (.ireturn, 1) := dk_172 (dk_at dksX4_count_2 21 rfl rfl)
theorem dX4_count_110 : decode cX4_count 110 = .ok (.aload_n 0, 1) := dk_42 (dk_at dksX4_count_2 22 rfl rfl)
theorem dX4_count_111 : decode cX4_count 111 = .ok (.iconst 1, 1) := dk_4 (dk_at dksX4_count_2 23 rfl rfl)
theorem dX4_count_112 : decode cX4_count 112 = .ok (.invokevirtual 350, 3) := dk_182 1 94 (dk_at dksX4_count_3 0 rfl rfl)
theorem dX4_count_115 : decode cX4_count 115 = .ok (.ireturn, 1) := dk_172 (dk_at dksX4_count_3 3 rfl rfl)
theorem dX4_count_116 : decode cX4_count 116 = .ok (.aload_n 0, 1) := dk_42 (dk_at dksX4_count_3 4 rfl rfl)
theorem dX4_count_117 : decode cX4_count 117 = .ok (.bipush 9, 2) := dk_16 9 (dk_at dksX4_count_3 5 rfl rfl)
theorem dX4_count_119 : decode cX4_count 119 = .ok (.invokevirtual 350, 3) := dk_182 1 94 (dk_at dksX4_count_3 7 rfl rfl)
theorem dX4_count_122 : decode cX4_count 122 = .ok (.ireturn, 1) := dk_172 (dk_at dksX4_count_3 10 rfl rfl)
theorem dX4_count_123 : decode cX4_count 123 = .ok (.aload_n 0, 1) := dk_42 (dk_at dksX4_count_3 11 rfl rfl)
theorem dX4_count_124 : decode cX4_count 124 = .ok (.bipush 17, 2) := dk_16 17 (dk_at dksX4_count_3 12 rfl rfl)
theorem dX4_count_126 : decode cX4_count 126 = .ok (.invokevirtual 350, 3) := dk_182 1 94 (dk_at dksX4_count_3 14 rfl rfl)
theorem dX4_count_129 : decode cX4_count 129 = .ok (.ireturn, 1) := dk_172 (dk_at dksX4_count_3 17 rfl rfl)
theorem dX4_count_130 : decode cX4_count 130 = .ok (.aload_n 0, 1) := dk_42 (dk_at dksX4_count_3 18 rfl rfl)
theorem dX4_count_131 : decode cX4_count 131 = .ok (.invokevirtual 353, 3) := dk_182 1 97 (dk_at dksX4_count_3 19 rfl rfl)
theorem dX4_count_134 : decode cX4_count 134 = .ok (.ireturn, 1) := dk_172 (dk_at dksX4_count_3 22 rfl rfl)
theorem dX4_count_135 : decode cX4_count 135 = .ok (.aload_n 0, 1) := dk_42 (dk_at dksX4_count_3 23 rfl rfl)
theorem dX4_count_136 : decode cX4_count 136 = .ok (.invokevirtual 356, 3) := dk_182 1 100 (dk_at dksX4_count_4 0 rfl rfl)
theorem dX4_count_139 : decode cX4_count 139 = .ok (.ireturn, 1) := dk_172 (dk_at dksX4_count_4 3 rfl rfl)
theorem dX4_count_140 : decode cX4_count 140 = .ok (.aload_n 0, 1) := dk_42 (dk_at dksX4_count_4 4 rfl rfl)
theorem dX4_count_141 : decode cX4_count 141 = .ok (.iconst 0, 1) := dk_3 (dk_at dksX4_count_4 5 rfl rfl)
theorem dX4_count_142 : decode cX4_count 142 = .ok (.invokevirtual 359, 3) := dk_182 1 103 (dk_at dksX4_count_4 6 rfl rfl)
theorem dX4_count_145 : decode cX4_count 145 = .ok (.ireturn, 1) := dk_172 (dk_at dksX4_count_4 9 rfl rfl)
theorem dX4_count_146 : decode cX4_count 146 = .ok (.aload_n 0, 1) := dk_42 (dk_at dksX4_count_4 10 rfl rfl)
theorem dX4_count_147 : decode cX4_count 147 = .ok (.getfield 294, 3) := dk_180 1 38 (dk_at dksX4_count_4 11 rfl rfl)
theorem dX4_count_150 : decode cX4_count 150 = .ok (.ireturn, 1) := dk_172 (dk_at dksX4_count_4 14 rfl rfl)
theorem dX4_count_151 : decode cX4_count 151 = .ok (.aload_n 0, 1) := dk_42 (dk_at dksX4_count_4 15 rfl rfl)
theorem dX4_count_152 : decode cX4_count 152 = .ok (.getfield 297, 3) := dk_180 1 41 (dk_at dksX4_count_4 16 rfl rfl)
theorem dX4_count_155 : decode cX4_count 155 = .ok (.ireturn, 1) := dk_172 (dk_at dksX4_count_4 19 rfl rfl)
theorem dX4_count_156 : decode cX4_count 156 = .ok (.aload_n 0, 1) := dk_42 (dk_at dksX4_count_4 20 rfl rfl)
theorem dX4_count_157 : decode cX4_count 157 = .ok (.getfield 120, 3) := dk_180 0 120 (dk_at dksX4_count_4 21 rfl rfl)
theorem dX4_count_160 : decode cX4_count 160 = .ok (.ireturn, 1) := dk_172 (dk_at dksX4_count_5 0 rfl rfl)
theorem dX4_count_161 : decode cX4_count 161 = .ok (.aload_n 0, 1) := dk_42 (dk_at dksX4_count_5 1 rfl rfl)
theorem dX4_count_162 : decode cX4_count 162 = .ok (.getfield 41, 3) := dk_180 0 41 (dk_at dksX4_count_5 2 rfl rfl)
theorem dX4_count_165 : decode cX4_count 165 = .ok (.iload_n 1, 1) := dk_27 (dk_at dksX4_count_5 5 rfl rfl)
theorem dX4_count_166 : decode cX4_count 166 = .ok (.bipush 13, 2) := dk_16 13 (dk_at dksX4_count_5 6 rfl rfl)
theorem dX4_count_168 : decode cX4_count 168 = .ok (.isub, 1) := dk_100 (dk_at dksX4_count_5 8 rfl rfl)
theorem dX4_count_169 : decode cX4_count 169 = .ok (.iaload, 1) := dk_46 (dk_at dksX4_count_5 9 rfl rfl)
theorem dX4_count_170 : decode cX4_count 170 = .ok (.ireturn, 1) := dk_172 (dk_at dksX4_count_5 10 rfl rfl)
abbrev cX4_within : ByteArray := prog_13_method_4_code
def yX4_within : MethodName := ⟨RX4, "within", "(III)Z"⟩
def dkwX4_within_0 : List UInt8 := [26, 27, 161, 0, 12, 26, 28, 163, 0, 7, 4, 167, 0, 4, 3, 172]
abbrev dktX4_within_0 : List UInt8 := dkwX4_within_0 ++ []
theorem dksX4_within_0 : cX4_within.data.toList.drop 0 = dktX4_within_0 := by decide +kernel
theorem dX4_within_0 : decode cX4_within 0 = .ok (.iload_n 0, 1) := dk_26 (dk_at dksX4_within_0 0 rfl rfl)
theorem dX4_within_1 : decode cX4_within 1 = .ok (.iload_n 1, 1) := dk_27 (dk_at dksX4_within_0 1 rfl rfl)
theorem dX4_within_2 : decode cX4_within 2 = .ok (.if_icmp .lt 12, 3) := dk_161 0 12 (dk_at dksX4_within_0 2 rfl rfl)
theorem dX4_within_5 : decode cX4_within 5 = .ok (.iload_n 0, 1) := dk_26 (dk_at dksX4_within_0 5 rfl rfl)
theorem dX4_within_6 : decode cX4_within 6 = .ok (.iload_n 2, 1) := dk_28 (dk_at dksX4_within_0 6 rfl rfl)
theorem dX4_within_7 : decode cX4_within 7 = .ok (.if_icmp .gt 7, 3) := dk_163 0 7 (dk_at dksX4_within_0 7 rfl rfl)
theorem dX4_within_10 : decode cX4_within 10 = .ok (.iconst 1, 1) := dk_4 (dk_at dksX4_within_0 10 rfl rfl)
theorem dX4_within_11 : decode cX4_within 11 = .ok (.goto 4, 3) := dk_167 0 4 (dk_at dksX4_within_0 11 rfl rfl)
theorem dX4_within_14 : decode cX4_within 14 = .ok (.iconst 0, 1) := dk_3 (dk_at dksX4_within_0 14 rfl rfl)
theorem dX4_within_15 : decode cX4_within 15 = .ok (.ireturn, 1) := dk_172 (dk_at dksX4_within_0 15 rfl rfl)
abbrev cX4_allOf : ByteArray := prog_13_method_57_code
def yX4_allOf : MethodName := ⟨RX4, "allOf", "(I)I"⟩
def dkwX4_allOf_1 : List UInt8 := [132, 3, 1, 167, 255, 234, 28, 172]
abbrev dktX4_allOf_1 : List UInt8 := dkwX4_allOf_1 ++ []
def dkwX4_allOf_0 : List UInt8 := [3, 61, 3, 62, 29, 42, 180, 1, 25, 162, 0, 20, 28, 42, 180, 0, 75, 27, 29, 96, 46, 96, 61]
abbrev dktX4_allOf_0 : List UInt8 := dkwX4_allOf_0 ++ dktX4_allOf_1
theorem dksX4_allOf_0 : cX4_allOf.data.toList.drop 0 = dktX4_allOf_0 := by decide +kernel
theorem dksX4_allOf_1 : cX4_allOf.data.toList.drop 23 = dktX4_allOf_1 := dk_seg dksX4_allOf_0 23 rfl rfl
theorem dX4_allOf_0 : decode cX4_allOf 0 = .ok (.iconst 0, 1) := dk_3 (dk_at dksX4_allOf_0 0 rfl rfl)
theorem dX4_allOf_1 : decode cX4_allOf 1 = .ok (.istore_n 2, 1) := dk_61 (dk_at dksX4_allOf_0 1 rfl rfl)
theorem dX4_allOf_2 : decode cX4_allOf 2 = .ok (.iconst 0, 1) := dk_3 (dk_at dksX4_allOf_0 2 rfl rfl)
theorem dX4_allOf_3 : decode cX4_allOf 3 = .ok (.istore_n 3, 1) := dk_62 (dk_at dksX4_allOf_0 3 rfl rfl)
theorem dX4_allOf_4 : decode cX4_allOf 4 = .ok (.iload_n 3, 1) := dk_29 (dk_at dksX4_allOf_0 4 rfl rfl)
theorem dX4_allOf_5 : decode cX4_allOf 5 = .ok (.aload_n 0, 1) := dk_42 (dk_at dksX4_allOf_0 5 rfl rfl)
theorem dX4_allOf_6 : decode cX4_allOf 6 = .ok (.getfield 281, 3) := dk_180 1 25 (dk_at dksX4_allOf_0 6 rfl rfl)
theorem dX4_allOf_9 : decode cX4_allOf 9 = .ok (.if_icmp .ge 20, 3) := dk_162 0 20 (dk_at dksX4_allOf_0 9 rfl rfl)
theorem dX4_allOf_12 : decode cX4_allOf 12 = .ok (.iload_n 2, 1) := dk_28 (dk_at dksX4_allOf_0 12 rfl rfl)
theorem dX4_allOf_13 : decode cX4_allOf 13 = .ok (.aload_n 0, 1) := dk_42 (dk_at dksX4_allOf_0 13 rfl rfl)
theorem dX4_allOf_14 : decode cX4_allOf 14 = .ok (.getfield 75, 3) := dk_180 0 75 (dk_at dksX4_allOf_0 14 rfl rfl)
theorem dX4_allOf_17 : decode cX4_allOf 17 = .ok (.iload_n 1, 1) := dk_27 (dk_at dksX4_allOf_0 17 rfl rfl)
theorem dX4_allOf_18 : decode cX4_allOf 18 = .ok (.iload_n 3, 1) := dk_29 (dk_at dksX4_allOf_0 18 rfl rfl)
theorem dX4_allOf_19 : decode cX4_allOf 19 = .ok (.iadd, 1) := dk_96 (dk_at dksX4_allOf_0 19 rfl rfl)
theorem dX4_allOf_20 : decode cX4_allOf 20 = .ok (.iaload, 1) := dk_46 (dk_at dksX4_allOf_0 20 rfl rfl)
theorem dX4_allOf_21 : decode cX4_allOf 21 = .ok (.iadd, 1) := dk_96 (dk_at dksX4_allOf_0 21 rfl rfl)
theorem dX4_allOf_22 : decode cX4_allOf 22 = .ok (.istore_n 2, 1) := dk_61 (dk_at dksX4_allOf_0 22 rfl rfl)
theorem dX4_allOf_23 : decode cX4_allOf 23 = .ok (.iinc 3 1, 3) := dk_132 3 1 (dk_at dksX4_allOf_1 0 rfl rfl)
theorem dX4_allOf_26 : decode cX4_allOf 26 = .ok (.goto (-22), 3) := dk_167 255 234 (dk_at dksX4_allOf_1 3 rfl rfl)
theorem dX4_allOf_29 : decode cX4_allOf 29 = .ok (.iload_n 2, 1) := dk_28 (dk_at dksX4_allOf_1 6 rfl rfl)
theorem dX4_allOf_30 : decode cX4_allOf 30 = .ok (.ireturn, 1) := dk_172 (dk_at dksX4_allOf_1 7 rfl rfl)
abbrev cX4_lyingAll : ByteArray := prog_13_method_58_code
def yX4_lyingAll : MethodName := ⟨RX4, "lyingAll", "()I"⟩
def dkwX4_lyingAll_1 : List UInt8 := [120, 167, 0, 4, 3, 128, 60, 132, 2, 1, 167, 255, 226, 27, 172]
abbrev dktX4_lyingAll_1 : List UInt8 := dkwX4_lyingAll_1 ++ []
def dkwX4_lyingAll_0 : List UInt8 := [3, 60, 3, 61, 28, 42, 180, 1, 31, 162, 0, 28, 27, 42, 3, 28, 182, 1, 52, 153, 0, 9, 4, 28]
abbrev dktX4_lyingAll_0 : List UInt8 := dkwX4_lyingAll_0 ++ dktX4_lyingAll_1
theorem dksX4_lyingAll_0 : cX4_lyingAll.data.toList.drop 0 = dktX4_lyingAll_0 := by decide +kernel
theorem dksX4_lyingAll_1 : cX4_lyingAll.data.toList.drop 24 = dktX4_lyingAll_1 := dk_seg dksX4_lyingAll_0 24 rfl rfl
theorem dX4_lyingAll_0 : decode cX4_lyingAll 0 = .ok (.iconst 0, 1) := dk_3 (dk_at dksX4_lyingAll_0 0 rfl rfl)
theorem dX4_lyingAll_1 : decode cX4_lyingAll 1 = .ok (.istore_n 1, 1) := dk_60 (dk_at dksX4_lyingAll_0 1 rfl rfl)
theorem dX4_lyingAll_2 : decode cX4_lyingAll 2 = .ok (.iconst 0, 1) := dk_3 (dk_at dksX4_lyingAll_0 2 rfl rfl)
theorem dX4_lyingAll_3 : decode cX4_lyingAll 3 = .ok (.istore_n 2, 1) := dk_61 (dk_at dksX4_lyingAll_0 3 rfl rfl)
theorem dX4_lyingAll_4 : decode cX4_lyingAll 4 = .ok (.iload_n 2, 1) := dk_28 (dk_at dksX4_lyingAll_0 4 rfl rfl)
theorem dX4_lyingAll_5 : decode cX4_lyingAll 5 = .ok (.aload_n 0, 1) := dk_42 (dk_at dksX4_lyingAll_0 5 rfl rfl)
theorem dX4_lyingAll_6 : decode cX4_lyingAll 6 = .ok (.getfield 287, 3) := dk_180 1 31 (dk_at dksX4_lyingAll_0 6 rfl rfl)
theorem dX4_lyingAll_9 : decode cX4_lyingAll 9 = .ok (.if_icmp .ge 28, 3) := dk_162 0 28 (dk_at dksX4_lyingAll_0 9 rfl rfl)
theorem dX4_lyingAll_12 : decode cX4_lyingAll 12 = .ok (.iload_n 1, 1) := dk_27 (dk_at dksX4_lyingAll_0 12 rfl rfl)
theorem dX4_lyingAll_13 : decode cX4_lyingAll 13 = .ok (.aload_n 0, 1) := dk_42 (dk_at dksX4_lyingAll_0 13 rfl rfl)
theorem dX4_lyingAll_14 : decode cX4_lyingAll 14 = .ok (.iconst 0, 1) := dk_3 (dk_at dksX4_lyingAll_0 14 rfl rfl)
theorem dX4_lyingAll_15 : decode cX4_lyingAll 15 = .ok (.iload_n 2, 1) := dk_28 (dk_at dksX4_lyingAll_0 15 rfl rfl)
theorem dX4_lyingAll_16 : decode cX4_lyingAll 16 = .ok (.invokevirtual 308, 3) := dk_182 1 52 (dk_at dksX4_lyingAll_0 16 rfl rfl)
theorem dX4_lyingAll_19 : decode cX4_lyingAll 19 = .ok (.ifCond .eq 9, 3) := dk_153 0 9 (dk_at dksX4_lyingAll_0 19 rfl rfl)
theorem dX4_lyingAll_22 : decode cX4_lyingAll 22 = .ok (.iconst 1, 1) := dk_4 (dk_at dksX4_lyingAll_0 22 rfl rfl)
theorem dX4_lyingAll_23 : decode cX4_lyingAll 23 = .ok (.iload_n 2, 1) := dk_28 (dk_at dksX4_lyingAll_0 23 rfl rfl)
theorem dX4_lyingAll_24 : decode cX4_lyingAll 24 = .ok (.ishl, 1) := dk_120 (dk_at dksX4_lyingAll_1 0 rfl rfl)
theorem dX4_lyingAll_25 : decode cX4_lyingAll 25 = .ok (.goto 4, 3) := dk_167 0 4 (dk_at dksX4_lyingAll_1 1 rfl rfl)
theorem dX4_lyingAll_28 : decode cX4_lyingAll 28 = .ok (.iconst 0, 1) := dk_3 (dk_at dksX4_lyingAll_1 4 rfl rfl)
theorem dX4_lyingAll_29 : decode cX4_lyingAll 29 = .ok (.ior, 1) := dk_128 (dk_at dksX4_lyingAll_1 5 rfl rfl)
theorem dX4_lyingAll_30 : decode cX4_lyingAll 30 = .ok (.istore_n 1, 1) := dk_60 (dk_at dksX4_lyingAll_1 6 rfl rfl)
theorem dX4_lyingAll_31 : decode cX4_lyingAll 31 = .ok (.iinc 2 1, 3) := dk_132 2 1 (dk_at dksX4_lyingAll_1 7 rfl rfl)
theorem dX4_lyingAll_34 : decode cX4_lyingAll 34 = .ok (.goto (-30), 3) := dk_167 255 226 (dk_at dksX4_lyingAll_1 10 rfl rfl)
theorem dX4_lyingAll_37 : decode cX4_lyingAll 37 = .ok (.iload_n 1, 1) := dk_27 (dk_at dksX4_lyingAll_1 13 rfl rfl)
theorem dX4_lyingAll_38 : decode cX4_lyingAll 38 = .ok (.ireturn, 1) := dk_172 (dk_at dksX4_lyingAll_1 14 rfl rfl)
abbrev cX4_lies : ByteArray := prog_13_method_49_code
def yX4_lies : MethodName := ⟨RX4, "lies", "(II)Z"⟩
def dkwX4_lies_1 : List UInt8 := [96, 46, 154, 0, 7, 4, 167, 0, 4, 3, 172]
abbrev dktX4_lies_1 : List UInt8 := dkwX4_lies_1 ++ []
def dkwX4_lies_0 : List UInt8 := [42, 180, 0, 75, 27, 16, 55, 96, 28, 96, 46, 2, 159, 0, 21, 42, 180, 0, 75, 27, 16, 65, 96, 28]
abbrev dktX4_lies_0 : List UInt8 := dkwX4_lies_0 ++ dktX4_lies_1
theorem dksX4_lies_0 : cX4_lies.data.toList.drop 0 = dktX4_lies_0 := by decide +kernel
theorem dksX4_lies_1 : cX4_lies.data.toList.drop 24 = dktX4_lies_1 := dk_seg dksX4_lies_0 24 rfl rfl
theorem dX4_lies_0 : decode cX4_lies 0 = .ok (.aload_n 0, 1) := dk_42 (dk_at dksX4_lies_0 0 rfl rfl)
theorem dX4_lies_1 : decode cX4_lies 1 = .ok (.getfield 75, 3) := dk_180 0 75 (dk_at dksX4_lies_0 1 rfl rfl)
theorem dX4_lies_4 : decode cX4_lies 4 = .ok (.iload_n 1, 1) := dk_27 (dk_at dksX4_lies_0 4 rfl rfl)
theorem dX4_lies_5 : decode cX4_lies 5 = .ok (.bipush 55, 2) := dk_16 55 (dk_at dksX4_lies_0 5 rfl rfl)
theorem dX4_lies_7 : decode cX4_lies 7 = .ok (.iadd, 1) := dk_96 (dk_at dksX4_lies_0 7 rfl rfl)
theorem dX4_lies_8 : decode cX4_lies 8 = .ok (.iload_n 2, 1) := dk_28 (dk_at dksX4_lies_0 8 rfl rfl)
theorem dX4_lies_9 : decode cX4_lies 9 = .ok (.iadd, 1) := dk_96 (dk_at dksX4_lies_0 9 rfl rfl)
theorem dX4_lies_10 : decode cX4_lies 10 = .ok (.iaload, 1) := dk_46 (dk_at dksX4_lies_0 10 rfl rfl)
theorem dX4_lies_11 : decode cX4_lies 11 = .ok (.iconst (-1), 1) := dk_2 (dk_at dksX4_lies_0 11 rfl rfl)
theorem dX4_lies_12 : decode cX4_lies 12 = .ok (.if_icmp .eq 21, 3) := dk_159 0 21 (dk_at dksX4_lies_0 12 rfl rfl)
theorem dX4_lies_15 : decode cX4_lies 15 = .ok (.aload_n 0, 1) := dk_42 (dk_at dksX4_lies_0 15 rfl rfl)
theorem dX4_lies_16 : decode cX4_lies 16 = .ok (.getfield 75, 3) := dk_180 0 75 (dk_at dksX4_lies_0 16 rfl rfl)
theorem dX4_lies_19 : decode cX4_lies 19 = .ok (.iload_n 1, 1) := dk_27 (dk_at dksX4_lies_0 19 rfl rfl)
theorem dX4_lies_20 : decode cX4_lies 20 = .ok (.bipush 65, 2) := dk_16 65 (dk_at dksX4_lies_0 20 rfl rfl)
theorem dX4_lies_22 : decode cX4_lies 22 = .ok (.iadd, 1) := dk_96 (dk_at dksX4_lies_0 22 rfl rfl)
theorem dX4_lies_23 : decode cX4_lies 23 = .ok (.iload_n 2, 1) := dk_28 (dk_at dksX4_lies_0 23 rfl rfl)
theorem dX4_lies_24 : decode cX4_lies 24 = .ok (.iadd, 1) := dk_96 (dk_at dksX4_lies_1 0 rfl rfl)
theorem dX4_lies_25 : decode cX4_lies 25 = .ok (.iaload, 1) := dk_46 (dk_at dksX4_lies_1 1 rfl rfl)
theorem dX4_lies_26 : decode cX4_lies 26 = .ok (.ifCond .ne 7, 3) := dk_154 0 7 (dk_at dksX4_lies_1 2 rfl rfl)
theorem dX4_lies_29 : decode cX4_lies 29 = .ok (.iconst 1, 1) := dk_4 (dk_at dksX4_lies_1 5 rfl rfl)
theorem dX4_lies_30 : decode cX4_lies 30 = .ok (.goto 4, 3) := dk_167 0 4 (dk_at dksX4_lies_1 6 rfl rfl)
theorem dX4_lies_33 : decode cX4_lies 33 = .ok (.iconst 0, 1) := dk_3 (dk_at dksX4_lies_1 9 rfl rfl)
theorem dX4_lies_34 : decode cX4_lies 34 = .ok (.ireturn, 1) := dk_172 (dk_at dksX4_lies_1 10 rfl rfl)
abbrev cX4_goingAll : ByteArray := prog_13_method_59_code
def yX4_goingAll : MethodName := ⟨RX4, "goingAll", "()I"⟩
def dkwX4_goingAll_1 : List UInt8 := [158, 0, 9, 4, 28, 120, 167, 0, 4, 3, 128, 60, 132, 2, 1, 167, 255, 223, 27, 172]
abbrev dktX4_goingAll_1 : List UInt8 := dkwX4_goingAll_1 ++ []
def dkwX4_goingAll_0 : List UInt8 := [3, 60, 3, 61, 28, 42, 180, 1, 31, 162, 0, 31, 27, 42, 180, 0, 75, 16, 65, 28, 96, 46]
abbrev dktX4_goingAll_0 : List UInt8 := dkwX4_goingAll_0 ++ dktX4_goingAll_1
theorem dksX4_goingAll_0 : cX4_goingAll.data.toList.drop 0 = dktX4_goingAll_0 := by decide +kernel
theorem dksX4_goingAll_1 : cX4_goingAll.data.toList.drop 22 = dktX4_goingAll_1 := dk_seg dksX4_goingAll_0 22 rfl rfl
theorem dX4_goingAll_0 : decode cX4_goingAll 0 = .ok (.iconst 0, 1) := dk_3 (dk_at dksX4_goingAll_0 0 rfl rfl)
theorem dX4_goingAll_1 : decode cX4_goingAll 1 = .ok (.istore_n 1, 1) := dk_60 (dk_at dksX4_goingAll_0 1 rfl rfl)
theorem dX4_goingAll_2 : decode cX4_goingAll 2 = .ok (.iconst 0, 1) := dk_3 (dk_at dksX4_goingAll_0 2 rfl rfl)
theorem dX4_goingAll_3 : decode cX4_goingAll 3 = .ok (.istore_n 2, 1) := dk_61 (dk_at dksX4_goingAll_0 3 rfl rfl)
theorem dX4_goingAll_4 : decode cX4_goingAll 4 = .ok (.iload_n 2, 1) := dk_28 (dk_at dksX4_goingAll_0 4 rfl rfl)
theorem dX4_goingAll_5 : decode cX4_goingAll 5 = .ok (.aload_n 0, 1) := dk_42 (dk_at dksX4_goingAll_0 5 rfl rfl)
theorem dX4_goingAll_6 : decode cX4_goingAll 6 = .ok (.getfield 287, 3) := dk_180 1 31 (dk_at dksX4_goingAll_0 6 rfl rfl)
theorem dX4_goingAll_9 : decode cX4_goingAll 9 = .ok (.if_icmp .ge 31, 3) := dk_162 0 31 (dk_at dksX4_goingAll_0 9 rfl rfl)
theorem dX4_goingAll_12 : decode cX4_goingAll 12 = .ok (.iload_n 1, 1) := dk_27 (dk_at dksX4_goingAll_0 12 rfl rfl)
theorem dX4_goingAll_13 : decode cX4_goingAll 13 = .ok (.aload_n 0, 1) := dk_42 (dk_at dksX4_goingAll_0 13 rfl rfl)
theorem dX4_goingAll_14 : decode cX4_goingAll 14 = .ok (.getfield 75, 3) := dk_180 0 75 (dk_at dksX4_goingAll_0 14 rfl rfl)
theorem dX4_goingAll_17 : decode cX4_goingAll 17 = .ok (.bipush 65, 2) := dk_16 65 (dk_at dksX4_goingAll_0 17 rfl rfl)
theorem dX4_goingAll_19 : decode cX4_goingAll 19 = .ok (.iload_n 2, 1) := dk_28 (dk_at dksX4_goingAll_0 19 rfl rfl)
theorem dX4_goingAll_20 : decode cX4_goingAll 20 = .ok (.iadd, 1) := dk_96 (dk_at dksX4_goingAll_0 20 rfl rfl)
theorem dX4_goingAll_21 : decode cX4_goingAll 21 = .ok (.iaload, 1) := dk_46 (dk_at dksX4_goingAll_0 21 rfl rfl)
theorem dX4_goingAll_22 : decode cX4_goingAll 22 = .ok (.ifCond .le 9, 3) := dk_158 0 9 (dk_at dksX4_goingAll_1 0 rfl rfl)
theorem dX4_goingAll_25 : decode cX4_goingAll 25 = .ok (.iconst 1, 1) := dk_4 (dk_at dksX4_goingAll_1 3 rfl rfl)
theorem dX4_goingAll_26 : decode cX4_goingAll 26 = .ok (.iload_n 2, 1) := dk_28 (dk_at dksX4_goingAll_1 4 rfl rfl)
theorem dX4_goingAll_27 : decode cX4_goingAll 27 = .ok (.ishl, 1) := dk_120 (dk_at dksX4_goingAll_1 5 rfl rfl)
theorem dX4_goingAll_28 : decode cX4_goingAll 28 = .ok (.goto 4, 3) := dk_167 0 4 (dk_at dksX4_goingAll_1 6 rfl rfl)
theorem dX4_goingAll_31 : decode cX4_goingAll 31 = .ok (.iconst 0, 1) := dk_3 (dk_at dksX4_goingAll_1 9 rfl rfl)
theorem dX4_goingAll_32 : decode cX4_goingAll 32 = .ok (.ior, 1) := dk_128 (dk_at dksX4_goingAll_1 10 rfl rfl)
theorem dX4_goingAll_33 : decode cX4_goingAll 33 = .ok (.istore_n 1, 1) := dk_60 (dk_at dksX4_goingAll_1 11 rfl rfl)
theorem dX4_goingAll_34 : decode cX4_goingAll 34 = .ok (.iinc 2 1, 3) := dk_132 2 1 (dk_at dksX4_goingAll_1 12 rfl rfl)
theorem dX4_goingAll_37 : decode cX4_goingAll 37 = .ok (.goto (-33), 3) := dk_167 255 223 (dk_at dksX4_goingAll_1 15 rfl rfl)
theorem dX4_goingAll_40 : decode cX4_goingAll 40 = .ok (.iload_n 1, 1) := dk_27 (dk_at dksX4_goingAll_1 18 rfl rfl)
theorem dX4_goingAll_41 : decode cX4_goingAll 41 = .ok (.ireturn, 1) := dk_172 (dk_at dksX4_goingAll_1 19 rfl rfl)
abbrev cX4_goneIn : ByteArray := prog_13_method_60_code
def yX4_goneIn : MethodName := ⟨RX4, "goneIn", "(I)I"⟩
def dkwX4_goneIn_1 : List UInt8 := [2, 160, 0, 9, 4, 29, 120, 167, 0, 4, 3, 128, 61, 132, 3, 1, 167, 255, 220, 28, 172]
abbrev dktX4_goneIn_1 : List UInt8 := dkwX4_goneIn_1 ++ []
def dkwX4_goneIn_0 : List UInt8 := [3, 61, 3, 62, 29, 42, 180, 1, 31, 162, 0, 34, 28, 42, 180, 0, 75, 27, 16, 55, 96, 29, 96, 46]
abbrev dktX4_goneIn_0 : List UInt8 := dkwX4_goneIn_0 ++ dktX4_goneIn_1
theorem dksX4_goneIn_0 : cX4_goneIn.data.toList.drop 0 = dktX4_goneIn_0 := by decide +kernel
theorem dksX4_goneIn_1 : cX4_goneIn.data.toList.drop 24 = dktX4_goneIn_1 := dk_seg dksX4_goneIn_0 24 rfl rfl
theorem dX4_goneIn_0 : decode cX4_goneIn 0 = .ok (.iconst 0, 1) := dk_3 (dk_at dksX4_goneIn_0 0 rfl rfl)
theorem dX4_goneIn_1 : decode cX4_goneIn 1 = .ok (.istore_n 2, 1) := dk_61 (dk_at dksX4_goneIn_0 1 rfl rfl)
theorem dX4_goneIn_2 : decode cX4_goneIn 2 = .ok (.iconst 0, 1) := dk_3 (dk_at dksX4_goneIn_0 2 rfl rfl)
theorem dX4_goneIn_3 : decode cX4_goneIn 3 = .ok (.istore_n 3, 1) := dk_62 (dk_at dksX4_goneIn_0 3 rfl rfl)
theorem dX4_goneIn_4 : decode cX4_goneIn 4 = .ok (.iload_n 3, 1) := dk_29 (dk_at dksX4_goneIn_0 4 rfl rfl)
theorem dX4_goneIn_5 : decode cX4_goneIn 5 = .ok (.aload_n 0, 1) := dk_42 (dk_at dksX4_goneIn_0 5 rfl rfl)
theorem dX4_goneIn_6 : decode cX4_goneIn 6 = .ok (.getfield 287, 3) := dk_180 1 31 (dk_at dksX4_goneIn_0 6 rfl rfl)
theorem dX4_goneIn_9 : decode cX4_goneIn 9 = .ok (.if_icmp .ge 34, 3) := dk_162 0 34 (dk_at dksX4_goneIn_0 9 rfl rfl)
theorem dX4_goneIn_12 : decode cX4_goneIn 12 = .ok (.iload_n 2, 1) := dk_28 (dk_at dksX4_goneIn_0 12 rfl rfl)
theorem dX4_goneIn_13 : decode cX4_goneIn 13 = .ok (.aload_n 0, 1) := dk_42 (dk_at dksX4_goneIn_0 13 rfl rfl)
theorem dX4_goneIn_14 : decode cX4_goneIn 14 = .ok (.getfield 75, 3) := dk_180 0 75 (dk_at dksX4_goneIn_0 14 rfl rfl)
theorem dX4_goneIn_17 : decode cX4_goneIn 17 = .ok (.iload_n 1, 1) := dk_27 (dk_at dksX4_goneIn_0 17 rfl rfl)
theorem dX4_goneIn_18 : decode cX4_goneIn 18 = .ok (.bipush 55, 2) := dk_16 55 (dk_at dksX4_goneIn_0 18 rfl rfl)
theorem dX4_goneIn_20 : decode cX4_goneIn 20 = .ok (.iadd, 1) := dk_96 (dk_at dksX4_goneIn_0 20 rfl rfl)
theorem dX4_goneIn_21 : decode cX4_goneIn 21 = .ok (.iload_n 3, 1) := dk_29 (dk_at dksX4_goneIn_0 21 rfl rfl)
theorem dX4_goneIn_22 : decode cX4_goneIn 22 = .ok (.iadd, 1) := dk_96 (dk_at dksX4_goneIn_0 22 rfl rfl)
theorem dX4_goneIn_23 : decode cX4_goneIn 23 = .ok (.iaload, 1) := dk_46 (dk_at dksX4_goneIn_0 23 rfl rfl)
theorem dX4_goneIn_24 : decode cX4_goneIn 24 = .ok (.iconst (-1), 1) := dk_2 (dk_at dksX4_goneIn_1 0 rfl rfl)
theorem dX4_goneIn_25 : decode cX4_goneIn 25 = .ok (.if_icmp .ne 9, 3) := dk_160 0 9 (dk_at dksX4_goneIn_1 1 rfl rfl)
theorem dX4_goneIn_28 : decode cX4_goneIn 28 = .ok (.iconst 1, 1) := dk_4 (dk_at dksX4_goneIn_1 4 rfl rfl)
theorem dX4_goneIn_29 : decode cX4_goneIn 29 = .ok (.iload_n 3, 1) := dk_29 (dk_at dksX4_goneIn_1 5 rfl rfl)
theorem dX4_goneIn_30 : decode cX4_goneIn 30 = .ok (.ishl, 1) := dk_120 (dk_at dksX4_goneIn_1 6 rfl rfl)
theorem dX4_goneIn_31 : decode cX4_goneIn 31 = .ok (.goto 4, 3) := dk_167 0 4 (dk_at dksX4_goneIn_1 7 rfl rfl)
theorem dX4_goneIn_34 : decode cX4_goneIn 34 = .ok (.iconst 0, 1) := dk_3 (dk_at dksX4_goneIn_1 10 rfl rfl)
theorem dX4_goneIn_35 : decode cX4_goneIn 35 = .ok (.ior, 1) := dk_128 (dk_at dksX4_goneIn_1 11 rfl rfl)
theorem dX4_goneIn_36 : decode cX4_goneIn 36 = .ok (.istore_n 2, 1) := dk_61 (dk_at dksX4_goneIn_1 12 rfl rfl)
theorem dX4_goneIn_37 : decode cX4_goneIn 37 = .ok (.iinc 3 1, 3) := dk_132 3 1 (dk_at dksX4_goneIn_1 13 rfl rfl)
theorem dX4_goneIn_40 : decode cX4_goneIn 40 = .ok (.goto (-36), 3) := dk_167 255 220 (dk_at dksX4_goneIn_1 16 rfl rfl)
theorem dX4_goneIn_43 : decode cX4_goneIn 43 = .ok (.iload_n 2, 1) := dk_28 (dk_at dksX4_goneIn_1 19 rfl rfl)
theorem dX4_goneIn_44 : decode cX4_goneIn 44 = .ok (.ireturn, 1) := dk_172 (dk_at dksX4_goneIn_1 20 rfl rfl)
abbrev cX4_town : ByteArray := prog_13_method_66_code
def yX4_town : MethodName := ⟨RX4, "town", "(II)I"⟩
def dkwX4_town_5 : List UInt8 := [182, 1, 80, 172, 42, 3, 27, 182, 1, 58, 172]
abbrev dktX4_town_5 : List UInt8 := dkwX4_town_5 ++ []
def dkwX4_town_4 : List UInt8 := [46, 172, 42, 180, 0, 17, 27, 46, 172, 42, 180, 0, 75, 16, 17, 27, 96, 46, 172, 42, 3, 27]
abbrev dktX4_town_4 : List UInt8 := dkwX4_town_4 ++ dktX4_town_5
def dkwX4_town_3 : List UInt8 := [42, 180, 0, 75, 4, 27, 96, 46, 172, 42, 180, 0, 75, 16, 9, 27, 96, 46, 172, 42, 180, 0, 13, 27]
abbrev dktX4_town_3 : List UInt8 := dkwX4_town_3 ++ dktX4_town_4
def dkwX4_town_2 : List UInt8 := [170, 0, 0, 0, 0, 88, 0, 0, 0, 0, 0, 0, 0, 5, 0, 0, 0, 38, 0, 0, 0, 47, 0, 0, 0, 57, 0, 0, 0, 64, 0, 0, 0, 71, 0, 0, 0, 81]
abbrev dktX4_town_2 : List UInt8 := dkwX4_town_2 ++ dktX4_town_3
def dkwX4_town_1 : List UInt8 := [172, 28]
abbrev dktX4_town_1 : List UInt8 := dkwX4_town_1 ++ dktX4_town_2
def dkwX4_town_0 : List UInt8 := [42, 3, 181, 0, 117, 42, 27, 182, 1, 106, 153, 0, 13, 42, 28, 16, 6, 182, 1, 109, 154, 0, 5, 3]
abbrev dktX4_town_0 : List UInt8 := dkwX4_town_0 ++ dktX4_town_1
theorem dksX4_town_0 : cX4_town.data.toList.drop 0 = dktX4_town_0 := by decide +kernel
theorem dksX4_town_1 : cX4_town.data.toList.drop 24 = dktX4_town_1 := dk_seg dksX4_town_0 24 rfl rfl
theorem dksX4_town_2 : cX4_town.data.toList.drop 26 = dktX4_town_2 := dk_seg dksX4_town_1 2 rfl rfl
theorem dksX4_town_3 : cX4_town.data.toList.drop 64 = dktX4_town_3 := dk_seg dksX4_town_2 38 rfl rfl
theorem dksX4_town_4 : cX4_town.data.toList.drop 88 = dktX4_town_4 := dk_seg dksX4_town_3 24 rfl rfl
theorem dksX4_town_5 : cX4_town.data.toList.drop 110 = dktX4_town_5 := dk_seg dksX4_town_4 22 rfl rfl
theorem dX4_town_0 : decode cX4_town 0 = .ok (.aload_n 0, 1) := dk_42 (dk_at dksX4_town_0 0 rfl rfl)
theorem dX4_town_1 : decode cX4_town 1 = .ok (.iconst 0, 1) := dk_3 (dk_at dksX4_town_0 1 rfl rfl)
theorem dX4_town_2 : decode cX4_town 2 = .ok (.putfield 117, 3) := dk_181 0 117 (dk_at dksX4_town_0 2 rfl rfl)
theorem dX4_town_5 : decode cX4_town 5 = .ok (.aload_n 0, 1) := dk_42 (dk_at dksX4_town_0 5 rfl rfl)
theorem dX4_town_6 : decode cX4_town 6 = .ok (.iload_n 1, 1) := dk_27 (dk_at dksX4_town_0 6 rfl rfl)
theorem dX4_town_7 : decode cX4_town 7 = .ok (.invokevirtual 362, 3) := dk_182 1 106 (dk_at dksX4_town_0 7 rfl rfl)
theorem dX4_town_10 : decode cX4_town 10 = .ok (.ifCond .eq 13, 3) := dk_153 0 13 (dk_at dksX4_town_0 10 rfl rfl)
theorem dX4_town_13 : decode cX4_town 13 = .ok (.aload_n 0, 1) := dk_42 (dk_at dksX4_town_0 13 rfl rfl)
theorem dX4_town_14 : decode cX4_town 14 = .ok (.iload_n 2, 1) := dk_28 (dk_at dksX4_town_0 14 rfl rfl)
theorem dX4_town_15 : decode cX4_town 15 = .ok (.bipush 6, 2) := dk_16 6 (dk_at dksX4_town_0 15 rfl rfl)
theorem dX4_town_17 : decode cX4_town 17 = .ok (.invokevirtual 365, 3) := dk_182 1 109 (dk_at dksX4_town_0 17 rfl rfl)
theorem dX4_town_20 : decode cX4_town 20 = .ok (.ifCond .ne 5, 3) := dk_154 0 5 (dk_at dksX4_town_0 20 rfl rfl)
theorem dX4_town_23 : decode cX4_town 23 = .ok (.iconst 0, 1) := dk_3 (dk_at dksX4_town_0 23 rfl rfl)
theorem dX4_town_24 : decode cX4_town 24 = .ok (.ireturn, 1) := dk_172 (dk_at dksX4_town_1 0 rfl rfl)
theorem dX4_town_25 : decode cX4_town 25 = .ok (.iload_n 2, 1) := dk_28 (dk_at dksX4_town_1 1 rfl rfl)
theorem dX4_town_26 : decode cX4_town 26 = .ok (.tableswitch 88 0 5 #[38, 47, 57, 64, 71, 81], 38) := by decide +kernel
theorem dX4_town_64 : decode cX4_town 64 = .ok (.aload_n 0, 1) := dk_42 (dk_at dksX4_town_3 0 rfl rfl)
theorem dX4_town_65 : decode cX4_town 65 = .ok (.getfield 75, 3) := dk_180 0 75 (dk_at dksX4_town_3 1 rfl rfl)
theorem dX4_town_68 : decode cX4_town 68 = .ok (.iconst 1, 1) := dk_4 (dk_at dksX4_town_3 4 rfl rfl)
theorem dX4_town_69 : decode cX4_town 69 = .ok (.iload_n 1, 1) := dk_27 (dk_at dksX4_town_3 5 rfl rfl)
theorem dX4_town_70 : decode cX4_town 70 = .ok (.iadd, 1) := dk_96 (dk_at dksX4_town_3 6 rfl rfl)
theorem dX4_town_71 : decode cX4_town 71 = .ok (.iaload, 1) := dk_46 (dk_at dksX4_town_3 7 rfl rfl)
theorem dX4_town_72 : decode cX4_town 72 = .ok (.ireturn, 1) := dk_172 (dk_at dksX4_town_3 8 rfl rfl)
theorem dX4_town_73 : decode cX4_town 73 = .ok (.aload_n 0, 1) := dk_42 (dk_at dksX4_town_3 9 rfl rfl)
theorem dX4_town_74 : decode cX4_town 74 = .ok (.getfield 75, 3) := dk_180 0 75 (dk_at dksX4_town_3 10 rfl rfl)
theorem dX4_town_77 : decode cX4_town 77 = .ok (.bipush 9, 2) := dk_16 9 (dk_at dksX4_town_3 13 rfl rfl)
theorem dX4_town_79 : decode cX4_town 79 = .ok (.iload_n 1, 1) := dk_27 (dk_at dksX4_town_3 15 rfl rfl)
theorem dX4_town_80 : decode cX4_town 80 = .ok (.iadd, 1) := dk_96 (dk_at dksX4_town_3 16 rfl rfl)
theorem dX4_town_81 : decode cX4_town 81 = .ok (.iaload, 1) := dk_46 (dk_at dksX4_town_3 17 rfl rfl)
theorem dX4_town_82 : decode cX4_town 82 = .ok (.ireturn, 1) := dk_172 (dk_at dksX4_town_3 18 rfl rfl)
theorem dX4_town_83 : decode cX4_town 83 = .ok (.aload_n 0, 1) := dk_42 (dk_at dksX4_town_3 19 rfl rfl)
theorem dX4_town_84 : decode cX4_town 84 = .ok (.getfield 13, 3) := dk_180 0 13 (dk_at dksX4_town_3 20 rfl rfl)
theorem dX4_town_87 : decode cX4_town 87 = .ok (.iload_n 1, 1) := dk_27 (dk_at dksX4_town_3 23 rfl rfl)
theorem dX4_town_88 : decode cX4_town 88 = .ok (.iaload, 1) := dk_46 (dk_at dksX4_town_4 0 rfl rfl)
theorem dX4_town_89 : decode cX4_town 89 = .ok (.ireturn, 1) := dk_172 (dk_at dksX4_town_4 1 rfl rfl)
theorem dX4_town_90 : decode cX4_town 90 = .ok (.aload_n 0, 1) := dk_42 (dk_at dksX4_town_4 2 rfl rfl)
theorem dX4_town_91 : decode cX4_town 91 = .ok (.getfield 17, 3) := dk_180 0 17 (dk_at dksX4_town_4 3 rfl rfl)
theorem dX4_town_94 : decode cX4_town 94 = .ok (.iload_n 1, 1) := dk_27 (dk_at dksX4_town_4 6 rfl rfl)
theorem dX4_town_95 : decode cX4_town 95 = .ok (.iaload, 1) := dk_46 (dk_at dksX4_town_4 7 rfl rfl)
theorem dX4_town_96 : decode cX4_town 96 = .ok (.ireturn, 1) := dk_172 (dk_at dksX4_town_4 8 rfl rfl)
theorem dX4_town_97 : decode cX4_town 97 = .ok (.aload_n 0, 1) := dk_42 (dk_at dksX4_town_4 9 rfl rfl)
theorem dX4_town_98 : decode cX4_town 98 = .ok (.getfield 75, 3) := dk_180 0 75 (dk_at dksX4_town_4 10 rfl rfl)
theorem dX4_town_101 : decode cX4_town 101 = .ok (.bipush 17, 2) := dk_16 17 (dk_at dksX4_town_4 13 rfl rfl)
theorem dX4_town_103 : decode cX4_town 103 = .ok (.iload_n 1, 1) := dk_27 (dk_at dksX4_town_4 15 rfl rfl)
theorem dX4_town_104 : decode cX4_town 104 = .ok (.iadd, 1) := dk_96 (dk_at dksX4_town_4 16 rfl rfl)
theorem dX4_town_105 : decode cX4_town 105 = .ok (.iaload, 1) := dk_46 (dk_at dksX4_town_4 17 rfl rfl)
theorem dX4_town_106 : decode cX4_town 106 = .ok (.ireturn, 1) := dk_172 (dk_at dksX4_town_4 18 rfl rfl)
theorem dX4_town_107 : decode cX4_town 107 = .ok (.aload_n 0, 1) := dk_42 (dk_at dksX4_town_4 19 rfl rfl)
theorem dX4_town_108 : decode cX4_town 108 = .ok (.iconst 0, 1) := dk_3 (dk_at dksX4_town_4 20 rfl rfl)
theorem dX4_town_109 : decode cX4_town 109 = .ok (.iload_n 1, 1) := dk_27 (dk_at dksX4_town_4 21 rfl rfl)
theorem dX4_town_110 : decode cX4_town 110 = .ok (.invokevirtual 336, 3) := dk_182 1 80 (dk_at dksX4_town_5 0 rfl rfl)
theorem dX4_town_113 : decode cX4_town 113 = .ok (.ireturn, 1) := dk_172 (dk_at dksX4_town_5 3 rfl rfl)
theorem dX4_town_114 : decode cX4_town 114 = .ok (.aload_n 0, 1) := dk_42 (dk_at dksX4_town_5 4 rfl rfl)
theorem dX4_town_115 : decode cX4_town 115 = .ok (.iconst 0, 1) := dk_3 (dk_at dksX4_town_5 5 rfl rfl)
theorem dX4_town_116 : decode cX4_town 116 = .ok (.iload_n 1, 1) := dk_27 (dk_at dksX4_town_5 6 rfl rfl)
theorem dX4_town_117 : decode cX4_town 117 = .ok (.invokevirtual 314, 3) := dk_182 1 58 (dk_at dksX4_town_5 7 rfl rfl)
theorem dX4_town_120 : decode cX4_town 120 = .ok (.ireturn, 1) := dk_172 (dk_at dksX4_town_5 10 rfl rfl)
abbrev cX4_isTown : ByteArray := prog_13_method_62_code
def yX4_isTown : MethodName := ⟨RX4, "isTown", "(I)Z"⟩
def dkwX4_isTown_0 : List UInt8 := [42, 27, 155, 0, 15, 27, 42, 180, 1, 25, 162, 0, 7, 4, 167, 0, 4, 3, 4, 182, 1, 18, 172]
abbrev dktX4_isTown_0 : List UInt8 := dkwX4_isTown_0 ++ []
theorem dksX4_isTown_0 : cX4_isTown.data.toList.drop 0 = dktX4_isTown_0 := by decide +kernel
theorem dX4_isTown_0 : decode cX4_isTown 0 = .ok (.aload_n 0, 1) := dk_42 (dk_at dksX4_isTown_0 0 rfl rfl)
theorem dX4_isTown_1 : decode cX4_isTown 1 = .ok (.iload_n 1, 1) := dk_27 (dk_at dksX4_isTown_0 1 rfl rfl)
theorem dX4_isTown_2 : decode cX4_isTown 2 = .ok (.ifCond .lt 15, 3) := dk_155 0 15 (dk_at dksX4_isTown_0 2 rfl rfl)
theorem dX4_isTown_5 : decode cX4_isTown 5 = .ok (.iload_n 1, 1) := dk_27 (dk_at dksX4_isTown_0 5 rfl rfl)
theorem dX4_isTown_6 : decode cX4_isTown 6 = .ok (.aload_n 0, 1) := dk_42 (dk_at dksX4_isTown_0 6 rfl rfl)
theorem dX4_isTown_7 : decode cX4_isTown 7 = .ok (.getfield 281, 3) := dk_180 1 25 (dk_at dksX4_isTown_0 7 rfl rfl)
theorem dX4_isTown_10 : decode cX4_isTown 10 = .ok (.if_icmp .ge 7, 3) := dk_162 0 7 (dk_at dksX4_isTown_0 10 rfl rfl)
theorem dX4_isTown_13 : decode cX4_isTown 13 = .ok (.iconst 1, 1) := dk_4 (dk_at dksX4_isTown_0 13 rfl rfl)
theorem dX4_isTown_14 : decode cX4_isTown 14 = .ok (.goto 4, 3) := dk_167 0 4 (dk_at dksX4_isTown_0 14 rfl rfl)
theorem dX4_isTown_17 : decode cX4_isTown 17 = .ok (.iconst 0, 1) := dk_3 (dk_at dksX4_isTown_0 17 rfl rfl)
theorem dX4_isTown_18 : decode cX4_isTown 18 = .ok (.iconst 1, 1) := dk_4 (dk_at dksX4_isTown_0 18 rfl rfl)
theorem dX4_isTown_19 : decode cX4_isTown 19 = .ok (.invokevirtual 274, 3) := dk_182 1 18 (dk_at dksX4_isTown_0 19 rfl rfl)
theorem dX4_isTown_22 : decode cX4_isTown 22 = .ok (.ireturn, 1) := dk_172 (dk_at dksX4_isTown_0 22 rfl rfl)
abbrev cX4_isWhat : ByteArray := prog_13_method_65_code
def yX4_isWhat : MethodName := ⟨RX4, "isWhat", "(II)Z"⟩
def dkwX4_isWhat_0 : List UInt8 := [42, 27, 3, 28, 184, 1, 90, 4, 182, 1, 18, 172]
abbrev dktX4_isWhat_0 : List UInt8 := dkwX4_isWhat_0 ++ []
theorem dksX4_isWhat_0 : cX4_isWhat.data.toList.drop 0 = dktX4_isWhat_0 := by decide +kernel
theorem dX4_isWhat_0 : decode cX4_isWhat 0 = .ok (.aload_n 0, 1) := dk_42 (dk_at dksX4_isWhat_0 0 rfl rfl)
theorem dX4_isWhat_1 : decode cX4_isWhat 1 = .ok (.iload_n 1, 1) := dk_27 (dk_at dksX4_isWhat_0 1 rfl rfl)
theorem dX4_isWhat_2 : decode cX4_isWhat 2 = .ok (.iconst 0, 1) := dk_3 (dk_at dksX4_isWhat_0 2 rfl rfl)
theorem dX4_isWhat_3 : decode cX4_isWhat 3 = .ok (.iload_n 2, 1) := dk_28 (dk_at dksX4_isWhat_0 3 rfl rfl)
theorem dX4_isWhat_4 : decode cX4_isWhat 4 = .ok (.invokestatic 346, 3) := dk_184 1 90 (dk_at dksX4_isWhat_0 4 rfl rfl)
theorem dX4_isWhat_7 : decode cX4_isWhat 7 = .ok (.iconst 1, 1) := dk_4 (dk_at dksX4_isWhat_0 7 rfl rfl)
theorem dX4_isWhat_8 : decode cX4_isWhat 8 = .ok (.invokevirtual 274, 3) := dk_182 1 18 (dk_at dksX4_isWhat_0 8 rfl rfl)
theorem dX4_isWhat_11 : decode cX4_isWhat 11 = .ok (.ireturn, 1) := dk_172 (dk_at dksX4_isWhat_0 11 rfl rfl)
abbrev cX4_oddsOf : ByteArray := prog_13_method_51_code
def yX4_oddsOf : MethodName := ⟨RX4, "oddsOf", "(II)I"⟩
def dkwX4_oddsOf_5 : List UInt8 := [42, 42, 180, 0, 9, 182, 1, 64, 3, 16, 12, 184, 1, 55, 172]
abbrev dktX4_oddsOf_5 : List UInt8 := dkwX4_oddsOf_5 ++ []
def dkwX4_oddsOf_4 : List UInt8 := [42, 180, 0, 75, 27, 3, 96, 46, 79, 42, 180, 0, 81, 8, 42, 27, 28, 182, 1, 58, 184, 1, 61, 79]
abbrev dktX4_oddsOf_4 : List UInt8 := dkwX4_oddsOf_4 ++ dktX4_oddsOf_5
def dkwX4_oddsOf_3 : List UInt8 := [42, 180, 0, 17, 28, 46, 79, 42, 180, 0, 81, 6, 42, 180, 0, 13, 28, 46, 79, 42, 180, 0, 81, 7]
abbrev dktX4_oddsOf_3 : List UInt8 := dkwX4_oddsOf_3 ++ dktX4_oddsOf_4
def dkwX4_oddsOf_2 : List UInt8 := [184, 1, 55, 172, 42, 180, 0, 81, 3, 29, 79, 42, 180, 0, 81, 4, 21, 4, 79, 42, 180, 0, 81, 5]
abbrev dktX4_oddsOf_2 : List UInt8 := dkwX4_oddsOf_2 ++ dktX4_oddsOf_3
def dkwX4_oddsOf_1 : List UInt8 := [42, 180, 0, 9, 2, 160, 0, 23, 16, 6, 29, 16, 10, 108, 96, 21, 4, 16, 10, 108, 100, 3, 16, 12]
abbrev dktX4_oddsOf_1 : List UInt8 := dkwX4_oddsOf_1 ++ dktX4_oddsOf_2
def dkwX4_oddsOf_0 : List UInt8 := [42, 180, 0, 75, 27, 4, 96, 28, 96, 46, 62, 42, 180, 0, 75, 27, 16, 9, 96, 28, 96, 46, 54, 4]
abbrev dktX4_oddsOf_0 : List UInt8 := dkwX4_oddsOf_0 ++ dktX4_oddsOf_1
theorem dksX4_oddsOf_0 : cX4_oddsOf.data.toList.drop 0 = dktX4_oddsOf_0 := by decide +kernel
theorem dksX4_oddsOf_1 : cX4_oddsOf.data.toList.drop 24 = dktX4_oddsOf_1 := dk_seg dksX4_oddsOf_0 24 rfl rfl
theorem dksX4_oddsOf_2 : cX4_oddsOf.data.toList.drop 48 = dktX4_oddsOf_2 := dk_seg dksX4_oddsOf_1 24 rfl rfl
theorem dksX4_oddsOf_3 : cX4_oddsOf.data.toList.drop 72 = dktX4_oddsOf_3 := dk_seg dksX4_oddsOf_2 24 rfl rfl
theorem dksX4_oddsOf_4 : cX4_oddsOf.data.toList.drop 96 = dktX4_oddsOf_4 := dk_seg dksX4_oddsOf_3 24 rfl rfl
theorem dksX4_oddsOf_5 : cX4_oddsOf.data.toList.drop 120 = dktX4_oddsOf_5 := dk_seg dksX4_oddsOf_4 24 rfl rfl
theorem dX4_oddsOf_0 : decode cX4_oddsOf 0 = .ok (.aload_n 0, 1) := dk_42 (dk_at dksX4_oddsOf_0 0 rfl rfl)
theorem dX4_oddsOf_1 : decode cX4_oddsOf 1 = .ok (.getfield 75, 3) := dk_180 0 75 (dk_at dksX4_oddsOf_0 1 rfl rfl)
theorem dX4_oddsOf_4 : decode cX4_oddsOf 4 = .ok (.iload_n 1, 1) := dk_27 (dk_at dksX4_oddsOf_0 4 rfl rfl)
theorem dX4_oddsOf_5 : decode cX4_oddsOf 5 = .ok (.iconst 1, 1) := dk_4 (dk_at dksX4_oddsOf_0 5 rfl rfl)
theorem dX4_oddsOf_6 : decode cX4_oddsOf 6 = .ok (.iadd, 1) := dk_96 (dk_at dksX4_oddsOf_0 6 rfl rfl)
theorem dX4_oddsOf_7 : decode cX4_oddsOf 7 = .ok (.iload_n 2, 1) := dk_28 (dk_at dksX4_oddsOf_0 7 rfl rfl)
theorem dX4_oddsOf_8 : decode cX4_oddsOf 8 = .ok (.iadd, 1) := dk_96 (dk_at dksX4_oddsOf_0 8 rfl rfl)
theorem dX4_oddsOf_9 : decode cX4_oddsOf 9 = .ok (.iaload, 1) := dk_46 (dk_at dksX4_oddsOf_0 9 rfl rfl)
theorem dX4_oddsOf_10 : decode cX4_oddsOf 10 = .ok (.istore_n 3, 1) := dk_62 (dk_at dksX4_oddsOf_0 10 rfl rfl)
theorem dX4_oddsOf_11 : decode cX4_oddsOf 11 = .ok (.aload_n 0, 1) := dk_42 (dk_at dksX4_oddsOf_0 11 rfl rfl)
theorem dX4_oddsOf_12 : decode cX4_oddsOf 12 = .ok (.getfield 75, 3) := dk_180 0 75 (dk_at dksX4_oddsOf_0 12 rfl rfl)
theorem dX4_oddsOf_15 : decode cX4_oddsOf 15 = .ok (.iload_n 1, 1) := dk_27 (dk_at dksX4_oddsOf_0 15 rfl rfl)
theorem dX4_oddsOf_16 : decode cX4_oddsOf 16 = .ok (.bipush 9, 2) := dk_16 9 (dk_at dksX4_oddsOf_0 16 rfl rfl)
theorem dX4_oddsOf_18 : decode cX4_oddsOf 18 = .ok (.iadd, 1) := dk_96 (dk_at dksX4_oddsOf_0 18 rfl rfl)
theorem dX4_oddsOf_19 : decode cX4_oddsOf 19 = .ok (.iload_n 2, 1) := dk_28 (dk_at dksX4_oddsOf_0 19 rfl rfl)
theorem dX4_oddsOf_20 : decode cX4_oddsOf 20 = .ok (.iadd, 1) := dk_96 (dk_at dksX4_oddsOf_0 20 rfl rfl)
theorem dX4_oddsOf_21 : decode cX4_oddsOf 21 = .ok (.iaload, 1) := dk_46 (dk_at dksX4_oddsOf_0 21 rfl rfl)
theorem dX4_oddsOf_22 : decode cX4_oddsOf 22 = .ok (.istore 4, 2) := dk_54 4 (dk_at dksX4_oddsOf_0 22 rfl rfl)
theorem dX4_oddsOf_24 : decode cX4_oddsOf 24 = .ok (.aload_n 0, 1) := dk_42 (dk_at dksX4_oddsOf_1 0 rfl rfl)
theorem dX4_oddsOf_25 : decode cX4_oddsOf 25 = .ok (.getfield 9, 3) := dk_180 0 9 (dk_at dksX4_oddsOf_1 1 rfl rfl)
theorem dX4_oddsOf_28 : decode cX4_oddsOf 28 = .ok (.iconst (-1), 1) := dk_2 (dk_at dksX4_oddsOf_1 4 rfl rfl)
theorem dX4_oddsOf_29 : decode cX4_oddsOf 29 = .ok (.if_icmp .ne 23, 3) := dk_160 0 23 (dk_at dksX4_oddsOf_1 5 rfl rfl)
theorem dX4_oddsOf_32 : decode cX4_oddsOf 32 = .ok (.bipush 6, 2) := dk_16 6 (dk_at dksX4_oddsOf_1 8 rfl rfl)
theorem dX4_oddsOf_34 : decode cX4_oddsOf 34 = .ok (.iload_n 3, 1) := dk_29 (dk_at dksX4_oddsOf_1 10 rfl rfl)
theorem dX4_oddsOf_35 : decode cX4_oddsOf 35 = .ok (.bipush 10, 2) := dk_16 10 (dk_at dksX4_oddsOf_1 11 rfl rfl)
theorem dX4_oddsOf_37 : decode cX4_oddsOf 37 = .ok (.idiv, 1) := dk_108 (dk_at dksX4_oddsOf_1 13 rfl rfl)
theorem dX4_oddsOf_38 : decode cX4_oddsOf 38 = .ok (.iadd, 1) := dk_96 (dk_at dksX4_oddsOf_1 14 rfl rfl)
theorem dX4_oddsOf_39 : decode cX4_oddsOf 39 = .ok (.iload 4, 2) := dk_21 4 (dk_at dksX4_oddsOf_1 15 rfl rfl)
theorem dX4_oddsOf_41 : decode cX4_oddsOf 41 = .ok (.bipush 10, 2) := dk_16 10 (dk_at dksX4_oddsOf_1 17 rfl rfl)
theorem dX4_oddsOf_43 : decode cX4_oddsOf 43 = .ok (.idiv, 1) := dk_108 (dk_at dksX4_oddsOf_1 19 rfl rfl)
theorem dX4_oddsOf_44 : decode cX4_oddsOf 44 = .ok (.isub, 1) := dk_100 (dk_at dksX4_oddsOf_1 20 rfl rfl)
theorem dX4_oddsOf_45 : decode cX4_oddsOf 45 = .ok (.iconst 0, 1) := dk_3 (dk_at dksX4_oddsOf_1 21 rfl rfl)
theorem dX4_oddsOf_46 : decode cX4_oddsOf 46 = .ok (.bipush 12, 2) := dk_16 12 (dk_at dksX4_oddsOf_1 22 rfl rfl)
theorem dX4_oddsOf_48 : decode cX4_oddsOf 48 = .ok (.invokestatic 311, 3) := dk_184 1 55 (dk_at dksX4_oddsOf_2 0 rfl rfl)
theorem dX4_oddsOf_51 : decode cX4_oddsOf 51 = .ok (.ireturn, 1) := dk_172 (dk_at dksX4_oddsOf_2 3 rfl rfl)
theorem dX4_oddsOf_52 : decode cX4_oddsOf 52 = .ok (.aload_n 0, 1) := dk_42 (dk_at dksX4_oddsOf_2 4 rfl rfl)
theorem dX4_oddsOf_53 : decode cX4_oddsOf 53 = .ok (.getfield 81, 3) := dk_180 0 81 (dk_at dksX4_oddsOf_2 5 rfl rfl)
theorem dX4_oddsOf_56 : decode cX4_oddsOf 56 = .ok (.iconst 0, 1) := dk_3 (dk_at dksX4_oddsOf_2 8 rfl rfl)
theorem dX4_oddsOf_57 : decode cX4_oddsOf 57 = .ok (.iload_n 3, 1) := dk_29 (dk_at dksX4_oddsOf_2 9 rfl rfl)
theorem dX4_oddsOf_58 : decode cX4_oddsOf 58 = .ok (.iastore, 1) := dk_79 (dk_at dksX4_oddsOf_2 10 rfl rfl)
theorem dX4_oddsOf_59 : decode cX4_oddsOf 59 = .ok (.aload_n 0, 1) := dk_42 (dk_at dksX4_oddsOf_2 11 rfl rfl)
theorem dX4_oddsOf_60 : decode cX4_oddsOf 60 = .ok (.getfield 81, 3) := dk_180 0 81 (dk_at dksX4_oddsOf_2 12 rfl rfl)
theorem dX4_oddsOf_63 : decode cX4_oddsOf 63 = .ok (.iconst 1, 1) := dk_4 (dk_at dksX4_oddsOf_2 15 rfl rfl)
theorem dX4_oddsOf_64 : decode cX4_oddsOf 64 = .ok (.iload 4, 2) := dk_21 4 (dk_at dksX4_oddsOf_2 16 rfl rfl)
theorem dX4_oddsOf_66 : decode cX4_oddsOf 66 = .ok (.iastore, 1) := dk_79 (dk_at dksX4_oddsOf_2 18 rfl rfl)
theorem dX4_oddsOf_67 : decode cX4_oddsOf 67 = .ok (.aload_n 0, 1) := dk_42 (dk_at dksX4_oddsOf_2 19 rfl rfl)
theorem dX4_oddsOf_68 : decode cX4_oddsOf 68 = .ok (.getfield 81, 3) := dk_180 0 81 (dk_at dksX4_oddsOf_2 20 rfl rfl)
theorem dX4_oddsOf_71 : decode cX4_oddsOf 71 = .ok (.iconst 2, 1) := dk_5 (dk_at dksX4_oddsOf_2 23 rfl rfl)
theorem dX4_oddsOf_72 : decode cX4_oddsOf 72 = .ok (.aload_n 0, 1) := dk_42 (dk_at dksX4_oddsOf_3 0 rfl rfl)
theorem dX4_oddsOf_73 : decode cX4_oddsOf 73 = .ok (.getfield 17, 3) := dk_180 0 17 (dk_at dksX4_oddsOf_3 1 rfl rfl)
theorem dX4_oddsOf_76 : decode cX4_oddsOf 76 = .ok (.iload_n 2, 1) := dk_28 (dk_at dksX4_oddsOf_3 4 rfl rfl)
theorem dX4_oddsOf_77 : decode cX4_oddsOf 77 = .ok (.iaload, 1) := dk_46 (dk_at dksX4_oddsOf_3 5 rfl rfl)
theorem dX4_oddsOf_78 : decode cX4_oddsOf 78 = .ok (.iastore, 1) := dk_79 (dk_at dksX4_oddsOf_3 6 rfl rfl)
theorem dX4_oddsOf_79 : decode cX4_oddsOf 79 = .ok (.aload_n 0, 1) := dk_42 (dk_at dksX4_oddsOf_3 7 rfl rfl)
theorem dX4_oddsOf_80 : decode cX4_oddsOf 80 = .ok (.getfield 81, 3) := dk_180 0 81 (dk_at dksX4_oddsOf_3 8 rfl rfl)
theorem dX4_oddsOf_83 : decode cX4_oddsOf 83 = .ok (.iconst 3, 1) := dk_6 (dk_at dksX4_oddsOf_3 11 rfl rfl)
theorem dX4_oddsOf_84 : decode cX4_oddsOf 84 = .ok (.aload_n 0, 1) := dk_42 (dk_at dksX4_oddsOf_3 12 rfl rfl)
theorem dX4_oddsOf_85 : decode cX4_oddsOf 85 = .ok (.getfield 13, 3) := dk_180 0 13 (dk_at dksX4_oddsOf_3 13 rfl rfl)
theorem dX4_oddsOf_88 : decode cX4_oddsOf 88 = .ok (.iload_n 2, 1) := dk_28 (dk_at dksX4_oddsOf_3 16 rfl rfl)
theorem dX4_oddsOf_89 : decode cX4_oddsOf 89 = .ok (.iaload, 1) := dk_46 (dk_at dksX4_oddsOf_3 17 rfl rfl)
theorem dX4_oddsOf_90 : decode cX4_oddsOf 90 = .ok (.iastore, 1) := dk_79 (dk_at dksX4_oddsOf_3 18 rfl rfl)
theorem dX4_oddsOf_91 : decode cX4_oddsOf 91 = .ok (.aload_n 0, 1) := dk_42 (dk_at dksX4_oddsOf_3 19 rfl rfl)
theorem dX4_oddsOf_92 : decode cX4_oddsOf 92 = .ok (.getfield 81, 3) := dk_180 0 81 (dk_at dksX4_oddsOf_3 20 rfl rfl)
theorem dX4_oddsOf_95 : decode cX4_oddsOf 95 = .ok (.iconst 4, 1) := dk_7 (dk_at dksX4_oddsOf_3 23 rfl rfl)
theorem dX4_oddsOf_96 : decode cX4_oddsOf 96 = .ok (.aload_n 0, 1) := dk_42 (dk_at dksX4_oddsOf_4 0 rfl rfl)
theorem dX4_oddsOf_97 : decode cX4_oddsOf 97 = .ok (.getfield 75, 3) := dk_180 0 75 (dk_at dksX4_oddsOf_4 1 rfl rfl)
theorem dX4_oddsOf_100 : decode cX4_oddsOf 100 = .ok (.iload_n 1, 1) := dk_27 (dk_at dksX4_oddsOf_4 4 rfl rfl)
theorem dX4_oddsOf_101 : decode cX4_oddsOf 101 = .ok (.iconst 0, 1) := dk_3 (dk_at dksX4_oddsOf_4 5 rfl rfl)
theorem dX4_oddsOf_102 : decode cX4_oddsOf 102 = .ok (.iadd, 1) := dk_96 (dk_at dksX4_oddsOf_4 6 rfl rfl)
theorem dX4_oddsOf_103 : decode cX4_oddsOf 103 = .ok (.iaload, 1) := dk_46 (dk_at dksX4_oddsOf_4 7 rfl rfl)
theorem dX4_oddsOf_104 : decode cX4_oddsOf 104 = .ok (.iastore, 1) := dk_79 (dk_at dksX4_oddsOf_4 8 rfl rfl)
theorem dX4_oddsOf_105 : decode cX4_oddsOf 105 = .ok (.aload_n 0, 1) := dk_42 (dk_at dksX4_oddsOf_4 9 rfl rfl)
theorem dX4_oddsOf_106 : decode cX4_oddsOf 106 = .ok (.getfield 81, 3) := dk_180 0 81 (dk_at dksX4_oddsOf_4 10 rfl rfl)
theorem dX4_oddsOf_109 : decode cX4_oddsOf 109 = .ok (.iconst 5, 1) := dk_8 (dk_at dksX4_oddsOf_4 13 rfl rfl)
theorem dX4_oddsOf_110 : decode cX4_oddsOf 110 = .ok (.aload_n 0, 1) := dk_42 (dk_at dksX4_oddsOf_4 14 rfl rfl)
theorem dX4_oddsOf_111 : decode cX4_oddsOf 111 = .ok (.iload_n 1, 1) := dk_27 (dk_at dksX4_oddsOf_4 15 rfl rfl)
theorem dX4_oddsOf_112 : decode cX4_oddsOf 112 = .ok (.iload_n 2, 1) := dk_28 (dk_at dksX4_oddsOf_4 16 rfl rfl)
theorem dX4_oddsOf_113 : decode cX4_oddsOf 113 = .ok (.invokevirtual 314, 3) := dk_182 1 58 (dk_at dksX4_oddsOf_4 17 rfl rfl)
theorem dX4_oddsOf_116 : decode cX4_oddsOf 116 = .ok (.invokestatic 317, 3) := dk_184 1 61 (dk_at dksX4_oddsOf_4 20 rfl rfl)
theorem dX4_oddsOf_119 : decode cX4_oddsOf 119 = .ok (.iastore, 1) := dk_79 (dk_at dksX4_oddsOf_4 23 rfl rfl)
theorem dX4_oddsOf_120 : decode cX4_oddsOf 120 = .ok (.aload_n 0, 1) := dk_42 (dk_at dksX4_oddsOf_5 0 rfl rfl)
theorem dX4_oddsOf_121 : decode cX4_oddsOf 121 = .ok (.aload_n 0, 1) := dk_42 (dk_at dksX4_oddsOf_5 1 rfl rfl)
theorem dX4_oddsOf_122 : decode cX4_oddsOf 122 = .ok (.getfield 9, 3) := dk_180 0 9 (dk_at dksX4_oddsOf_5 2 rfl rfl)
theorem dX4_oddsOf_125 : decode cX4_oddsOf 125 = .ok (.invokevirtual 320, 3) := dk_182 1 64 (dk_at dksX4_oddsOf_5 5 rfl rfl)
theorem dX4_oddsOf_128 : decode cX4_oddsOf 128 = .ok (.iconst 0, 1) := dk_3 (dk_at dksX4_oddsOf_5 8 rfl rfl)
theorem dX4_oddsOf_129 : decode cX4_oddsOf 129 = .ok (.bipush 12, 2) := dk_16 12 (dk_at dksX4_oddsOf_5 9 rfl rfl)
theorem dX4_oddsOf_131 : decode cX4_oddsOf 131 = .ok (.invokestatic 311, 3) := dk_184 1 55 (dk_at dksX4_oddsOf_5 11 rfl rfl)
theorem dX4_oddsOf_134 : decode cX4_oddsOf 134 = .ok (.ireturn, 1) := dk_172 (dk_at dksX4_oddsOf_5 14 rfl rfl)
abbrev cX4_kept : ByteArray := prog_13_method_5_code
def yX4_kept : MethodName := ⟨RX4, "kept", "(III)I"⟩
def dkwX4_kept_0 : List UInt8 := [26, 27, 162, 0, 7, 27, 167, 0, 13, 26, 28, 164, 0, 7, 28, 167, 0, 4, 26, 172]
abbrev dktX4_kept_0 : List UInt8 := dkwX4_kept_0 ++ []
theorem dksX4_kept_0 : cX4_kept.data.toList.drop 0 = dktX4_kept_0 := by decide +kernel
theorem dX4_kept_0 : decode cX4_kept 0 = .ok (.iload_n 0, 1) := dk_26 (dk_at dksX4_kept_0 0 rfl rfl)
theorem dX4_kept_1 : decode cX4_kept 1 = .ok (.iload_n 1, 1) := dk_27 (dk_at dksX4_kept_0 1 rfl rfl)
theorem dX4_kept_2 : decode cX4_kept 2 = .ok (.if_icmp .ge 7, 3) := dk_162 0 7 (dk_at dksX4_kept_0 2 rfl rfl)
theorem dX4_kept_5 : decode cX4_kept 5 = .ok (.iload_n 1, 1) := dk_27 (dk_at dksX4_kept_0 5 rfl rfl)
theorem dX4_kept_6 : decode cX4_kept 6 = .ok (.goto 13, 3) := dk_167 0 13 (dk_at dksX4_kept_0 6 rfl rfl)
theorem dX4_kept_9 : decode cX4_kept 9 = .ok (.iload_n 0, 1) := dk_26 (dk_at dksX4_kept_0 9 rfl rfl)
theorem dX4_kept_10 : decode cX4_kept 10 = .ok (.iload_n 2, 1) := dk_28 (dk_at dksX4_kept_0 10 rfl rfl)
theorem dX4_kept_11 : decode cX4_kept 11 = .ok (.if_icmp .le 7, 3) := dk_164 0 7 (dk_at dksX4_kept_0 11 rfl rfl)
theorem dX4_kept_14 : decode cX4_kept 14 = .ok (.iload_n 2, 1) := dk_28 (dk_at dksX4_kept_0 14 rfl rfl)
theorem dX4_kept_15 : decode cX4_kept 15 = .ok (.goto 4, 3) := dk_167 0 4 (dk_at dksX4_kept_0 15 rfl rfl)
theorem dX4_kept_18 : decode cX4_kept 18 = .ok (.iload_n 0, 1) := dk_26 (dk_at dksX4_kept_0 18 rfl rfl)
theorem dX4_kept_19 : decode cX4_kept 19 = .ok (.ireturn, 1) := dk_172 (dk_at dksX4_kept_0 19 rfl rfl)
abbrev cX4_lyingIn : ByteArray := prog_13_method_50_code
def yX4_lyingIn : MethodName := ⟨RX4, "lyingIn", "(II)I"⟩
def dkwX4_lyingIn_2 : List UInt8 := [167, 0, 4, 3, 128, 62, 132, 4, 1, 167, 255, 207, 29, 172]
abbrev dktX4_lyingIn_2 : List UInt8 := dkwX4_lyingIn_2 ++ []
def dkwX4_lyingIn_1 : List UInt8 := [153, 0, 26, 42, 180, 0, 75, 27, 16, 55, 96, 21, 4, 96, 46, 28, 160, 0, 10, 4, 21, 4, 120]
abbrev dktX4_lyingIn_1 : List UInt8 := dkwX4_lyingIn_1 ++ dktX4_lyingIn_2
def dkwX4_lyingIn_0 : List UInt8 := [3, 62, 3, 54, 4, 21, 4, 42, 180, 1, 31, 162, 0, 46, 29, 42, 27, 21, 4, 182, 1, 52]
abbrev dktX4_lyingIn_0 : List UInt8 := dkwX4_lyingIn_0 ++ dktX4_lyingIn_1
theorem dksX4_lyingIn_0 : cX4_lyingIn.data.toList.drop 0 = dktX4_lyingIn_0 := by decide +kernel
theorem dksX4_lyingIn_1 : cX4_lyingIn.data.toList.drop 22 = dktX4_lyingIn_1 := dk_seg dksX4_lyingIn_0 22 rfl rfl
theorem dksX4_lyingIn_2 : cX4_lyingIn.data.toList.drop 45 = dktX4_lyingIn_2 := dk_seg dksX4_lyingIn_1 23 rfl rfl
theorem dX4_lyingIn_0 : decode cX4_lyingIn 0 = .ok (.iconst 0, 1) := dk_3 (dk_at dksX4_lyingIn_0 0 rfl rfl)
theorem dX4_lyingIn_1 : decode cX4_lyingIn 1 = .ok (.istore_n 3, 1) := dk_62 (dk_at dksX4_lyingIn_0 1 rfl rfl)
theorem dX4_lyingIn_2 : decode cX4_lyingIn 2 = .ok (.iconst 0, 1) := dk_3 (dk_at dksX4_lyingIn_0 2 rfl rfl)
theorem dX4_lyingIn_3 : decode cX4_lyingIn 3 = .ok (.istore 4, 2) := dk_54 4 (dk_at dksX4_lyingIn_0 3 rfl rfl)
theorem dX4_lyingIn_5 : decode cX4_lyingIn 5 = .ok (.iload 4, 2) := dk_21 4 (dk_at dksX4_lyingIn_0 5 rfl rfl)
theorem dX4_lyingIn_7 : decode cX4_lyingIn 7 = .ok (.aload_n 0, 1) := dk_42 (dk_at dksX4_lyingIn_0 7 rfl rfl)
theorem dX4_lyingIn_8 : decode cX4_lyingIn 8 = .ok (.getfield 287, 3) := dk_180 1 31 (dk_at dksX4_lyingIn_0 8 rfl rfl)
theorem dX4_lyingIn_11 : decode cX4_lyingIn 11 = .ok (.if_icmp .ge 46, 3) := dk_162 0 46 (dk_at dksX4_lyingIn_0 11 rfl rfl)
theorem dX4_lyingIn_14 : decode cX4_lyingIn 14 = .ok (.iload_n 3, 1) := dk_29 (dk_at dksX4_lyingIn_0 14 rfl rfl)
theorem dX4_lyingIn_15 : decode cX4_lyingIn 15 = .ok (.aload_n 0, 1) := dk_42 (dk_at dksX4_lyingIn_0 15 rfl rfl)
theorem dX4_lyingIn_16 : decode cX4_lyingIn 16 = .ok (.iload_n 1, 1) := dk_27 (dk_at dksX4_lyingIn_0 16 rfl rfl)
theorem dX4_lyingIn_17 : decode cX4_lyingIn 17 = .ok (.iload 4, 2) := dk_21 4 (dk_at dksX4_lyingIn_0 17 rfl rfl)
theorem dX4_lyingIn_19 : decode cX4_lyingIn 19 = .ok (.invokevirtual 308, 3) := dk_182 1 52 (dk_at dksX4_lyingIn_0 19 rfl rfl)
theorem dX4_lyingIn_22 : decode cX4_lyingIn 22 = .ok (.ifCond .eq 26, 3) := dk_153 0 26 (dk_at dksX4_lyingIn_1 0 rfl rfl)
theorem dX4_lyingIn_25 : decode cX4_lyingIn 25 = .ok (.aload_n 0, 1) := dk_42 (dk_at dksX4_lyingIn_1 3 rfl rfl)
theorem dX4_lyingIn_26 : decode cX4_lyingIn 26 = .ok (.getfield 75, 3) := dk_180 0 75 (dk_at dksX4_lyingIn_1 4 rfl rfl)
theorem dX4_lyingIn_29 : decode cX4_lyingIn 29 = .ok (.iload_n 1, 1) := dk_27 (dk_at dksX4_lyingIn_1 7 rfl rfl)
theorem dX4_lyingIn_30 : decode cX4_lyingIn 30 = .ok (.bipush 55, 2) := dk_16 55 (dk_at dksX4_lyingIn_1 8 rfl rfl)
theorem dX4_lyingIn_32 : decode cX4_lyingIn 32 = .ok (.iadd, 1) := dk_96 (dk_at dksX4_lyingIn_1 10 rfl rfl)
theorem dX4_lyingIn_33 : decode cX4_lyingIn 33 = .ok (.iload 4, 2) := dk_21 4 (dk_at dksX4_lyingIn_1 11 rfl rfl)
theorem dX4_lyingIn_35 : decode cX4_lyingIn 35 = .ok (.iadd, 1) := dk_96 (dk_at dksX4_lyingIn_1 13 rfl rfl)
theorem dX4_lyingIn_36 : decode cX4_lyingIn 36 = .ok (.iaload, 1) := dk_46 (dk_at dksX4_lyingIn_1 14 rfl rfl)
theorem dX4_lyingIn_37 : decode cX4_lyingIn 37 = .ok (.iload_n 2, 1) := dk_28 (dk_at dksX4_lyingIn_1 15 rfl rfl)
theorem dX4_lyingIn_38 : decode cX4_lyingIn 38 = .ok (.if_icmp .ne 10, 3) := dk_160 0 10 (dk_at dksX4_lyingIn_1 16 rfl rfl)
theorem dX4_lyingIn_41 : decode cX4_lyingIn 41 = .ok (.iconst 1, 1) := dk_4 (dk_at dksX4_lyingIn_1 19 rfl rfl)
theorem dX4_lyingIn_42 : decode cX4_lyingIn 42 = .ok (.iload 4, 2) := dk_21 4 (dk_at dksX4_lyingIn_1 20 rfl rfl)
theorem dX4_lyingIn_44 : decode cX4_lyingIn 44 = .ok (.ishl, 1) := dk_120 (dk_at dksX4_lyingIn_1 22 rfl rfl)
theorem dX4_lyingIn_45 : decode cX4_lyingIn 45 = .ok (.goto 4, 3) := dk_167 0 4 (dk_at dksX4_lyingIn_2 0 rfl rfl)
theorem dX4_lyingIn_48 : decode cX4_lyingIn 48 = .ok (.iconst 0, 1) := dk_3 (dk_at dksX4_lyingIn_2 3 rfl rfl)
theorem dX4_lyingIn_49 : decode cX4_lyingIn 49 = .ok (.ior, 1) := dk_128 (dk_at dksX4_lyingIn_2 4 rfl rfl)
theorem dX4_lyingIn_50 : decode cX4_lyingIn 50 = .ok (.istore_n 3, 1) := dk_62 (dk_at dksX4_lyingIn_2 5 rfl rfl)
theorem dX4_lyingIn_51 : decode cX4_lyingIn 51 = .ok (.iinc 4 1, 3) := dk_132 4 1 (dk_at dksX4_lyingIn_2 6 rfl rfl)
theorem dX4_lyingIn_54 : decode cX4_lyingIn 54 = .ok (.goto (-49), 3) := dk_167 255 207 (dk_at dksX4_lyingIn_2 9 rfl rfl)
theorem dX4_lyingIn_57 : decode cX4_lyingIn 57 = .ok (.iload_n 3, 1) := dk_29 (dk_at dksX4_lyingIn_2 12 rfl rfl)
theorem dX4_lyingIn_58 : decode cX4_lyingIn 58 = .ok (.ireturn, 1) := dk_172 (dk_at dksX4_lyingIn_2 13 rfl rfl)
abbrev cX4_bits : ByteArray := prog_13_method_8_code
def yX4_bits : MethodName := ⟨RX4, "bits", "(I)I"⟩
def dkwX4_bits_1 : List UInt8 := [27, 172]
abbrev dktX4_bits_1 : List UInt8 := dkwX4_bits_1 ++ []
def dkwX4_bits_0 : List UInt8 := [3, 60, 3, 61, 28, 16, 10, 162, 0, 17, 27, 26, 28, 122, 4, 126, 96, 60, 132, 2, 1, 167, 255, 239]
abbrev dktX4_bits_0 : List UInt8 := dkwX4_bits_0 ++ dktX4_bits_1
theorem dksX4_bits_0 : cX4_bits.data.toList.drop 0 = dktX4_bits_0 := by decide +kernel
theorem dksX4_bits_1 : cX4_bits.data.toList.drop 24 = dktX4_bits_1 := dk_seg dksX4_bits_0 24 rfl rfl
theorem dX4_bits_0 : decode cX4_bits 0 = .ok (.iconst 0, 1) := dk_3 (dk_at dksX4_bits_0 0 rfl rfl)
theorem dX4_bits_1 : decode cX4_bits 1 = .ok (.istore_n 1, 1) := dk_60 (dk_at dksX4_bits_0 1 rfl rfl)
theorem dX4_bits_2 : decode cX4_bits 2 = .ok (.iconst 0, 1) := dk_3 (dk_at dksX4_bits_0 2 rfl rfl)
theorem dX4_bits_3 : decode cX4_bits 3 = .ok (.istore_n 2, 1) := dk_61 (dk_at dksX4_bits_0 3 rfl rfl)
theorem dX4_bits_4 : decode cX4_bits 4 = .ok (.iload_n 2, 1) := dk_28 (dk_at dksX4_bits_0 4 rfl rfl)
theorem dX4_bits_5 : decode cX4_bits 5 = .ok (.bipush 10, 2) := dk_16 10 (dk_at dksX4_bits_0 5 rfl rfl)
theorem dX4_bits_7 : decode cX4_bits 7 = .ok (.if_icmp .ge 17, 3) := dk_162 0 17 (dk_at dksX4_bits_0 7 rfl rfl)
theorem dX4_bits_10 : decode cX4_bits 10 = .ok (.iload_n 1, 1) := dk_27 (dk_at dksX4_bits_0 10 rfl rfl)
theorem dX4_bits_11 : decode cX4_bits 11 = .ok (.iload_n 0, 1) := dk_26 (dk_at dksX4_bits_0 11 rfl rfl)
theorem dX4_bits_12 : decode cX4_bits 12 = .ok (.iload_n 2, 1) := dk_28 (dk_at dksX4_bits_0 12 rfl rfl)
theorem dX4_bits_13 : decode cX4_bits 13 = .ok (.ishr, 1) := dk_122 (dk_at dksX4_bits_0 13 rfl rfl)
theorem dX4_bits_14 : decode cX4_bits 14 = .ok (.iconst 1, 1) := dk_4 (dk_at dksX4_bits_0 14 rfl rfl)
theorem dX4_bits_15 : decode cX4_bits 15 = .ok (.iand, 1) := dk_126 (dk_at dksX4_bits_0 15 rfl rfl)
theorem dX4_bits_16 : decode cX4_bits 16 = .ok (.iadd, 1) := dk_96 (dk_at dksX4_bits_0 16 rfl rfl)
theorem dX4_bits_17 : decode cX4_bits 17 = .ok (.istore_n 1, 1) := dk_60 (dk_at dksX4_bits_0 17 rfl rfl)
theorem dX4_bits_18 : decode cX4_bits 18 = .ok (.iinc 2 1, 3) := dk_132 2 1 (dk_at dksX4_bits_0 18 rfl rfl)
theorem dX4_bits_21 : decode cX4_bits 21 = .ok (.goto (-17), 3) := dk_167 255 239 (dk_at dksX4_bits_0 21 rfl rfl)
theorem dX4_bits_24 : decode cX4_bits 24 = .ok (.iload_n 1, 1) := dk_27 (dk_at dksX4_bits_1 0 rfl rfl)
theorem dX4_bits_25 : decode cX4_bits 25 = .ok (.ireturn, 1) := dk_172 (dk_at dksX4_bits_1 1 rfl rfl)
abbrev cX4_reckons : ByteArray := prog_13_method_48_code
def yX4_reckons : MethodName := ⟨RX4, "reckons", "(I)I"⟩
def dkwX4_reckons_6 : List UInt8 := [42, 180, 0, 84, 3, 46, 172]
abbrev dktX4_reckons_6 : List UInt8 := dkwX4_reckons_6 ++ []
def dkwX4_reckons_5 : List UInt8 := [100, 21, 4, 42, 180, 0, 84, 28, 4, 100, 46, 42, 180, 0, 84, 28, 46, 184, 1, 48, 79, 167, 255, 120]
abbrev dktX4_reckons_5 : List UInt8 := dkwX4_reckons_5 ++ dktX4_reckons_6
def dkwX4_reckons_4 : List UInt8 := [4, 100, 46, 154, 0, 7, 4, 167, 0, 4, 3, 79, 167, 0, 33, 132, 2, 255, 42, 180, 0, 84, 28, 4]
abbrev dktX4_reckons_4 : List UInt8 := dkwX4_reckons_4 ++ dktX4_reckons_5
def dkwX4_reckons_3 : List UInt8 := [132, 2, 1, 167, 0, 66, 21, 4, 6, 160, 0, 30, 42, 180, 0, 84, 28, 4, 100, 42, 180, 0, 84, 28]
abbrev dktX4_reckons_3 : List UInt8 := dkwX4_reckons_3 ++ dktX4_reckons_4
def dkwX4_reckons_2 : List UInt8 := [180, 0, 32, 29, 46, 167, 0, 14, 42, 180, 0, 81, 42, 180, 0, 32, 29, 46, 46, 79, 132, 3, 1]
abbrev dktX4_reckons_2 : List UInt8 := dkwX4_reckons_2 ++ dktX4_reckons_3
def dkwX4_reckons_1 : List UInt8 := [21, 4, 4, 159, 0, 9, 21, 4, 5, 160, 0, 44, 42, 180, 0, 84, 28, 21, 4, 4, 160, 0, 12, 42]
abbrev dktX4_reckons_1 : List UInt8 := dkwX4_reckons_1 ++ dktX4_reckons_2
def dkwX4_reckons_0 : List UInt8 := [3, 61, 27, 62, 42, 180, 0, 32, 29, 46, 153, 0, 133, 42, 180, 0, 32, 29, 46, 54, 4, 132, 3, 1]
abbrev dktX4_reckons_0 : List UInt8 := dkwX4_reckons_0 ++ dktX4_reckons_1
theorem dksX4_reckons_0 : cX4_reckons.data.toList.drop 0 = dktX4_reckons_0 := by decide +kernel
theorem dksX4_reckons_1 : cX4_reckons.data.toList.drop 24 = dktX4_reckons_1 := dk_seg dksX4_reckons_0 24 rfl rfl
theorem dksX4_reckons_2 : cX4_reckons.data.toList.drop 48 = dktX4_reckons_2 := dk_seg dksX4_reckons_1 24 rfl rfl
theorem dksX4_reckons_3 : cX4_reckons.data.toList.drop 71 = dktX4_reckons_3 := dk_seg dksX4_reckons_2 23 rfl rfl
theorem dksX4_reckons_4 : cX4_reckons.data.toList.drop 95 = dktX4_reckons_4 := dk_seg dksX4_reckons_3 24 rfl rfl
theorem dksX4_reckons_5 : cX4_reckons.data.toList.drop 119 = dktX4_reckons_5 := dk_seg dksX4_reckons_4 24 rfl rfl
theorem dksX4_reckons_6 : cX4_reckons.data.toList.drop 143 = dktX4_reckons_6 := dk_seg dksX4_reckons_5 24 rfl rfl
theorem dX4_reckons_0 : decode cX4_reckons 0 = .ok (.iconst 0, 1) := dk_3 (dk_at dksX4_reckons_0 0 rfl rfl)
theorem dX4_reckons_1 : decode cX4_reckons 1 = .ok (.istore_n 2, 1) := dk_61 (dk_at dksX4_reckons_0 1 rfl rfl)
theorem dX4_reckons_2 : decode cX4_reckons 2 = .ok (.iload_n 1, 1) := dk_27 (dk_at dksX4_reckons_0 2 rfl rfl)
theorem dX4_reckons_3 : decode cX4_reckons 3 = .ok (.istore_n 3, 1) := dk_62 (dk_at dksX4_reckons_0 3 rfl rfl)
theorem dX4_reckons_4 : decode cX4_reckons 4 = .ok (.aload_n 0, 1) := dk_42 (dk_at dksX4_reckons_0 4 rfl rfl)
theorem dX4_reckons_5 : decode cX4_reckons 5 = .ok (.getfield 32, 3) := dk_180 0 32 (dk_at dksX4_reckons_0 5 rfl rfl)
theorem dX4_reckons_8 : decode cX4_reckons 8 = .ok (.iload_n 3, 1) := dk_29 (dk_at dksX4_reckons_0 8 rfl rfl)
theorem dX4_reckons_9 : decode cX4_reckons 9 = .ok (.iaload, 1) := dk_46 (dk_at dksX4_reckons_0 9 rfl rfl)
theorem dX4_reckons_10 : decode cX4_reckons 10 = .ok (.ifCond .eq 133, 3) := dk_153 0 133 (dk_at dksX4_reckons_0 10 rfl rfl)
theorem dX4_reckons_13 : decode cX4_reckons 13 = .ok (.aload_n 0, 1) := dk_42 (dk_at dksX4_reckons_0 13 rfl rfl)
theorem dX4_reckons_14 : decode cX4_reckons 14 = .ok (.getfield 32, 3) := dk_180 0 32 (dk_at dksX4_reckons_0 14 rfl rfl)
theorem dX4_reckons_17 : decode cX4_reckons 17 = .ok (.iload_n 3, 1) := dk_29 (dk_at dksX4_reckons_0 17 rfl rfl)
theorem dX4_reckons_18 : decode cX4_reckons 18 = .ok (.iaload, 1) := dk_46 (dk_at dksX4_reckons_0 18 rfl rfl)
theorem dX4_reckons_19 : decode cX4_reckons 19 = .ok (.istore 4, 2) := dk_54 4 (dk_at dksX4_reckons_0 19 rfl rfl)
theorem dX4_reckons_21 : decode cX4_reckons 21 = .ok (.iinc 3 1, 3) := dk_132 3 1 (dk_at dksX4_reckons_0 21 rfl rfl)
theorem dX4_reckons_24 : decode cX4_reckons 24 = .ok (.iload 4, 2) := dk_21 4 (dk_at dksX4_reckons_1 0 rfl rfl)
theorem dX4_reckons_26 : decode cX4_reckons 26 = .ok (.iconst 1, 1) := dk_4 (dk_at dksX4_reckons_1 2 rfl rfl)
theorem dX4_reckons_27 : decode cX4_reckons 27 = .ok (.if_icmp .eq 9, 3) := dk_159 0 9 (dk_at dksX4_reckons_1 3 rfl rfl)
theorem dX4_reckons_30 : decode cX4_reckons 30 = .ok (.iload 4, 2) := dk_21 4 (dk_at dksX4_reckons_1 6 rfl rfl)
theorem dX4_reckons_32 : decode cX4_reckons 32 = .ok (.iconst 2, 1) := dk_5 (dk_at dksX4_reckons_1 8 rfl rfl)
theorem dX4_reckons_33 : decode cX4_reckons 33 = .ok (.if_icmp .ne 44, 3) := dk_160 0 44 (dk_at dksX4_reckons_1 9 rfl rfl)
theorem dX4_reckons_36 : decode cX4_reckons 36 = .ok (.aload_n 0, 1) := dk_42 (dk_at dksX4_reckons_1 12 rfl rfl)
theorem dX4_reckons_37 : decode cX4_reckons 37 = .ok (.getfield 84, 3) := dk_180 0 84 (dk_at dksX4_reckons_1 13 rfl rfl)
theorem dX4_reckons_40 : decode cX4_reckons 40 = .ok (.iload_n 2, 1) := dk_28 (dk_at dksX4_reckons_1 16 rfl rfl)
theorem dX4_reckons_41 : decode cX4_reckons 41 = .ok (.iload 4, 2) := dk_21 4 (dk_at dksX4_reckons_1 17 rfl rfl)
theorem dX4_reckons_43 : decode cX4_reckons 43 = .ok (.iconst 1, 1) := dk_4 (dk_at dksX4_reckons_1 19 rfl rfl)
theorem dX4_reckons_44 : decode cX4_reckons 44 = .ok (.if_icmp .ne 12, 3) := dk_160 0 12 (dk_at dksX4_reckons_1 20 rfl rfl)
theorem dX4_reckons_47 : decode cX4_reckons 47 = .ok (.aload_n 0, 1) := dk_42 (dk_at dksX4_reckons_1 23 rfl rfl)
theorem dX4_reckons_48 : decode cX4_reckons 48 = .ok (.getfield 32, 3) := dk_180 0 32 (dk_at dksX4_reckons_2 0 rfl rfl)
theorem dX4_reckons_51 : decode cX4_reckons 51 = .ok (.iload_n 3, 1) := dk_29 (dk_at dksX4_reckons_2 3 rfl rfl)
theorem dX4_reckons_52 : decode cX4_reckons 52 = .ok (.iaload, 1) := dk_46 (dk_at dksX4_reckons_2 4 rfl rfl)
theorem dX4_reckons_53 : decode cX4_reckons 53 = .ok (.goto 14, 3) := dk_167 0 14 (dk_at dksX4_reckons_2 5 rfl rfl)
theorem dX4_reckons_56 : decode cX4_reckons 56 = .ok (.aload_n 0, 1) := dk_42 (dk_at dksX4_reckons_2 8 rfl rfl)
theorem dX4_reckons_57 : decode cX4_reckons 57 = .ok (.getfield 81, 3) := dk_180 0 81 (dk_at dksX4_reckons_2 9 rfl rfl)
theorem dX4_reckons_60 : decode cX4_reckons 60 = .ok (.aload_n 0, 1) := dk_42 (dk_at dksX4_reckons_2 12 rfl rfl)
theorem dX4_reckons_61 : decode cX4_reckons 61 = .ok (.getfield 32, 3) := dk_180 0 32 (dk_at dksX4_reckons_2 13 rfl rfl)
theorem dX4_reckons_64 : decode cX4_reckons 64 = .ok (.iload_n 3, 1) := dk_29 (dk_at dksX4_reckons_2 16 rfl rfl)
theorem dX4_reckons_65 : decode cX4_reckons 65 = .ok (.iaload, 1) := dk_46 (dk_at dksX4_reckons_2 17 rfl rfl)
theorem dX4_reckons_66 : decode cX4_reckons 66 = .ok (.iaload, 1) := dk_46 (dk_at dksX4_reckons_2 18 rfl rfl)
theorem dX4_reckons_67 : decode cX4_reckons 67 = .ok (.iastore, 1) := dk_79 (dk_at dksX4_reckons_2 19 rfl rfl)
theorem dX4_reckons_68 : decode cX4_reckons 68 = .ok (.iinc 3 1, 3) := dk_132 3 1 (dk_at dksX4_reckons_2 20 rfl rfl)
theorem dX4_reckons_71 : decode cX4_reckons 71 = .ok (.iinc 2 1, 3) := dk_132 2 1 (dk_at dksX4_reckons_3 0 rfl rfl)
theorem dX4_reckons_74 : decode cX4_reckons 74 = .ok (.goto 66, 3) := dk_167 0 66 (dk_at dksX4_reckons_3 3 rfl rfl)
theorem dX4_reckons_77 : decode cX4_reckons 77 = .ok (.iload 4, 2) := dk_21 4 (dk_at dksX4_reckons_3 6 rfl rfl)
theorem dX4_reckons_79 : decode cX4_reckons 79 = .ok (.iconst 3, 1) := dk_6 (dk_at dksX4_reckons_3 8 rfl rfl)
theorem dX4_reckons_80 : decode cX4_reckons 80 = .ok (.if_icmp .ne 30, 3) := dk_160 0 30 (dk_at dksX4_reckons_3 9 rfl rfl)
theorem dX4_reckons_83 : decode cX4_reckons 83 = .ok (.aload_n 0, 1) := dk_42 (dk_at dksX4_reckons_3 12 rfl rfl)
theorem dX4_reckons_84 : decode cX4_reckons 84 = .ok (.getfield 84, 3) := dk_180 0 84 (dk_at dksX4_reckons_3 13 rfl rfl)
theorem dX4_reckons_87 : decode cX4_reckons 87 = .ok (.iload_n 2, 1) := dk_28 (dk_at dksX4_reckons_3 16 rfl rfl)
theorem dX4_reckons_88 : decode cX4_reckons 88 = .ok (.iconst 1, 1) := dk_4 (dk_at dksX4_reckons_3 17 rfl rfl)
theorem dX4_reckons_89 : decode cX4_reckons 89 = .ok (.isub, 1) := dk_100 (dk_at dksX4_reckons_3 18 rfl rfl)
theorem dX4_reckons_90 : decode cX4_reckons 90 = .ok (.aload_n 0, 1) := dk_42 (dk_at dksX4_reckons_3 19 rfl rfl)
theorem dX4_reckons_91 : decode cX4_reckons 91 = .ok (.getfield 84, 3) := dk_180 0 84 (dk_at dksX4_reckons_3 20 rfl rfl)
theorem dX4_reckons_94 : decode cX4_reckons 94 = .ok (.iload_n 2, 1) := dk_28 (dk_at dksX4_reckons_3 23 rfl rfl)
theorem dX4_reckons_95 : decode cX4_reckons 95 = .ok (.iconst 1, 1) := dk_4 (dk_at dksX4_reckons_4 0 rfl rfl)
theorem dX4_reckons_96 : decode cX4_reckons 96 = .ok (.isub, 1) := dk_100 (dk_at dksX4_reckons_4 1 rfl rfl)
theorem dX4_reckons_97 : decode cX4_reckons 97 = .ok (.iaload, 1) := dk_46 (dk_at dksX4_reckons_4 2 rfl rfl)
theorem dX4_reckons_98 : decode cX4_reckons 98 = .ok (.ifCond .ne 7, 3) := dk_154 0 7 (dk_at dksX4_reckons_4 3 rfl rfl)
theorem dX4_reckons_101 : decode cX4_reckons 101 = .ok (.iconst 1, 1) := dk_4 (dk_at dksX4_reckons_4 6 rfl rfl)
theorem dX4_reckons_102 : decode cX4_reckons 102 = .ok (.goto 4, 3) := dk_167 0 4 (dk_at dksX4_reckons_4 7 rfl rfl)
theorem dX4_reckons_105 : decode cX4_reckons 105 = .ok (.iconst 0, 1) := dk_3 (dk_at dksX4_reckons_4 10 rfl rfl)
theorem dX4_reckons_106 : decode cX4_reckons 106 = .ok (.iastore, 1) := dk_79 (dk_at dksX4_reckons_4 11 rfl rfl)
theorem dX4_reckons_107 : decode cX4_reckons 107 = .ok (.goto 33, 3) := dk_167 0 33 (dk_at dksX4_reckons_4 12 rfl rfl)
theorem dX4_reckons_110 : decode cX4_reckons 110 = .ok (.iinc 2 (-1), 3) := dk_132 2 255 (dk_at dksX4_reckons_4 15 rfl rfl)
theorem dX4_reckons_113 : decode cX4_reckons 113 = .ok (.aload_n 0, 1) := dk_42 (dk_at dksX4_reckons_4 18 rfl rfl)
theorem dX4_reckons_114 : decode cX4_reckons 114 = .ok (.getfield 84, 3) := dk_180 0 84 (dk_at dksX4_reckons_4 19 rfl rfl)
theorem dX4_reckons_117 : decode cX4_reckons 117 = .ok (.iload_n 2, 1) := dk_28 (dk_at dksX4_reckons_4 22 rfl rfl)
theorem dX4_reckons_118 : decode cX4_reckons 118 = .ok (.iconst 1, 1) := dk_4 (dk_at dksX4_reckons_4 23 rfl rfl)
theorem dX4_reckons_119 : decode cX4_reckons 119 = .ok (.isub, 1) := dk_100 (dk_at dksX4_reckons_5 0 rfl rfl)
theorem dX4_reckons_120 : decode cX4_reckons 120 = .ok (.iload 4, 2) := dk_21 4 (dk_at dksX4_reckons_5 1 rfl rfl)
theorem dX4_reckons_122 : decode cX4_reckons 122 = .ok (.aload_n 0, 1) := dk_42 (dk_at dksX4_reckons_5 3 rfl rfl)
theorem dX4_reckons_123 : decode cX4_reckons 123 = .ok (.getfield 84, 3) := dk_180 0 84 (dk_at dksX4_reckons_5 4 rfl rfl)
theorem dX4_reckons_126 : decode cX4_reckons 126 = .ok (.iload_n 2, 1) := dk_28 (dk_at dksX4_reckons_5 7 rfl rfl)
theorem dX4_reckons_127 : decode cX4_reckons 127 = .ok (.iconst 1, 1) := dk_4 (dk_at dksX4_reckons_5 8 rfl rfl)
theorem dX4_reckons_128 : decode cX4_reckons 128 = .ok (.isub, 1) := dk_100 (dk_at dksX4_reckons_5 9 rfl rfl)
theorem dX4_reckons_129 : decode cX4_reckons 129 = .ok (.iaload, 1) := dk_46 (dk_at dksX4_reckons_5 10 rfl rfl)
theorem dX4_reckons_130 : decode cX4_reckons 130 = .ok (.aload_n 0, 1) := dk_42 (dk_at dksX4_reckons_5 11 rfl rfl)
theorem dX4_reckons_131 : decode cX4_reckons 131 = .ok (.getfield 84, 3) := dk_180 0 84 (dk_at dksX4_reckons_5 12 rfl rfl)
theorem dX4_reckons_134 : decode cX4_reckons 134 = .ok (.iload_n 2, 1) := dk_28 (dk_at dksX4_reckons_5 15 rfl rfl)
theorem dX4_reckons_135 : decode cX4_reckons 135 = .ok (.iaload, 1) := dk_46 (dk_at dksX4_reckons_5 16 rfl rfl)
theorem dX4_reckons_136 : decode cX4_reckons 136 = .ok (.invokestatic 304, 3) := dk_184 1 48 (dk_at dksX4_reckons_5 17 rfl rfl)
theorem dX4_reckons_139 : decode cX4_reckons 139 = .ok (.iastore, 1) := dk_79 (dk_at dksX4_reckons_5 20 rfl rfl)
theorem dX4_reckons_140 : decode cX4_reckons 140 = .ok (.goto (-136), 3) := dk_167 255 120 (dk_at dksX4_reckons_5 21 rfl rfl)
theorem dX4_reckons_143 : decode cX4_reckons 143 = .ok (.aload_n 0, 1) := dk_42 (dk_at dksX4_reckons_6 0 rfl rfl)
theorem dX4_reckons_144 : decode cX4_reckons 144 = .ok (.getfield 84, 3) := dk_180 0 84 (dk_at dksX4_reckons_6 1 rfl rfl)
theorem dX4_reckons_147 : decode cX4_reckons 147 = .ok (.iconst 0, 1) := dk_3 (dk_at dksX4_reckons_6 4 rfl rfl)
theorem dX4_reckons_148 : decode cX4_reckons 148 = .ok (.iaload, 1) := dk_46 (dk_at dksX4_reckons_6 5 rfl rfl)
theorem dX4_reckons_149 : decode cX4_reckons 149 = .ok (.ireturn, 1) := dk_172 (dk_at dksX4_reckons_6 6 rfl rfl)
abbrev cX4_works : ByteArray := prog_13_method_47_code
def yX4_works : MethodName := ⟨RX4, "works", "(III)I"⟩
def dkwX4_works_5 : List UInt8 := [167, 0, 6, 27, 28, 108, 172]
abbrev dktX4_works_5 : List UInt8 := dkwX4_works_5 ++ []
def dkwX4_works_4 : List UInt8 := [167, 0, 4, 3, 172, 27, 28, 96, 172, 27, 28, 100, 172, 27, 28, 104, 172, 28, 154, 0, 7, 3]
abbrev dktX4_works_4 : List UInt8 := dkwX4_works_4 ++ dktX4_works_5
def dkwX4_works_3 : List UInt8 := [167, 0, 4, 3, 172, 27, 28, 162, 0, 7, 4, 167, 0, 4, 3, 172, 27, 28, 160, 0, 7, 4]
abbrev dktX4_works_3 : List UInt8 := dkwX4_works_3 ++ dktX4_works_4
def dkwX4_works_2 : List UInt8 := [27, 153, 0, 11, 28, 153, 0, 7, 4, 167, 0, 4, 3, 172, 27, 154, 0, 7, 28, 153, 0, 7, 4]
abbrev dktX4_works_2 : List UInt8 := dkwX4_works_2 ++ dktX4_works_3
def dkwX4_works_1 : List UInt8 := [170, 0, 0, 0, 0, 0, 105, 0, 0, 0, 4, 0, 0, 0, 10, 0, 0, 0, 43, 0, 0, 0, 57, 0, 0, 0, 71, 0, 0, 0, 82, 0, 0, 0, 93, 0, 0, 0, 97, 0, 0, 0, 101]
abbrev dktX4_works_1 : List UInt8 := dkwX4_works_1 ++ dktX4_works_2
def dkwX4_works_0 : List UInt8 := [26]
abbrev dktX4_works_0 : List UInt8 := dkwX4_works_0 ++ dktX4_works_1
theorem dksX4_works_0 : cX4_works.data.toList.drop 0 = dktX4_works_0 := by decide +kernel
theorem dksX4_works_1 : cX4_works.data.toList.drop 1 = dktX4_works_1 := dk_seg dksX4_works_0 1 rfl rfl
theorem dksX4_works_2 : cX4_works.data.toList.drop 44 = dktX4_works_2 := dk_seg dksX4_works_1 43 rfl rfl
theorem dksX4_works_3 : cX4_works.data.toList.drop 67 = dktX4_works_3 := dk_seg dksX4_works_2 23 rfl rfl
theorem dksX4_works_4 : cX4_works.data.toList.drop 89 = dktX4_works_4 := dk_seg dksX4_works_3 22 rfl rfl
theorem dksX4_works_5 : cX4_works.data.toList.drop 111 = dktX4_works_5 := dk_seg dksX4_works_4 22 rfl rfl
theorem dX4_works_0 : decode cX4_works 0 = .ok (.iload_n 0, 1) := dk_26 (dk_at dksX4_works_0 0 rfl rfl)
theorem dX4_works_1 : decode cX4_works 1 = .ok (.tableswitch 105 4 10 #[43, 57, 71, 82, 93, 97, 101], 43) := by decide +kernel
theorem dX4_works_44 : decode cX4_works 44 = .ok (.iload_n 1, 1) := dk_27 (dk_at dksX4_works_2 0 rfl rfl)
theorem dX4_works_45 : decode cX4_works 45 = .ok (.ifCond .eq 11, 3) := dk_153 0 11 (dk_at dksX4_works_2 1 rfl rfl)
theorem dX4_works_48 : decode cX4_works 48 = .ok (.iload_n 2, 1) := dk_28 (dk_at dksX4_works_2 4 rfl rfl)
theorem dX4_works_49 : decode cX4_works 49 = .ok (.ifCond .eq 7, 3) := dk_153 0 7 (dk_at dksX4_works_2 5 rfl rfl)
theorem dX4_works_52 : decode cX4_works 52 = .ok (.iconst 1, 1) := dk_4 (dk_at dksX4_works_2 8 rfl rfl)
theorem dX4_works_53 : decode cX4_works 53 = .ok (.goto 4, 3) := dk_167 0 4 (dk_at dksX4_works_2 9 rfl rfl)
theorem dX4_works_56 : decode cX4_works 56 = .ok (.iconst 0, 1) := dk_3 (dk_at dksX4_works_2 12 rfl rfl)
theorem dX4_works_57 : decode cX4_works 57 = .ok (.ireturn, 1) := dk_172 (dk_at dksX4_works_2 13 rfl rfl)
theorem dX4_works_58 : decode cX4_works 58 = .ok (.iload_n 1, 1) := dk_27 (dk_at dksX4_works_2 14 rfl rfl)
theorem dX4_works_59 : decode cX4_works 59 = .ok (.ifCond .ne 7, 3) := dk_154 0 7 (dk_at dksX4_works_2 15 rfl rfl)
theorem dX4_works_62 : decode cX4_works 62 = .ok (.iload_n 2, 1) := dk_28 (dk_at dksX4_works_2 18 rfl rfl)
theorem dX4_works_63 : decode cX4_works 63 = .ok (.ifCond .eq 7, 3) := dk_153 0 7 (dk_at dksX4_works_2 19 rfl rfl)
theorem dX4_works_66 : decode cX4_works 66 = .ok (.iconst 1, 1) := dk_4 (dk_at dksX4_works_2 22 rfl rfl)
theorem dX4_works_67 : decode cX4_works 67 = .ok (.goto 4, 3) := dk_167 0 4 (dk_at dksX4_works_3 0 rfl rfl)
theorem dX4_works_70 : decode cX4_works 70 = .ok (.iconst 0, 1) := dk_3 (dk_at dksX4_works_3 3 rfl rfl)
theorem dX4_works_71 : decode cX4_works 71 = .ok (.ireturn, 1) := dk_172 (dk_at dksX4_works_3 4 rfl rfl)
theorem dX4_works_72 : decode cX4_works 72 = .ok (.iload_n 1, 1) := dk_27 (dk_at dksX4_works_3 5 rfl rfl)
theorem dX4_works_73 : decode cX4_works 73 = .ok (.iload_n 2, 1) := dk_28 (dk_at dksX4_works_3 6 rfl rfl)
theorem dX4_works_74 : decode cX4_works 74 = .ok (.if_icmp .ge 7, 3) := dk_162 0 7 (dk_at dksX4_works_3 7 rfl rfl)
theorem dX4_works_77 : decode cX4_works 77 = .ok (.iconst 1, 1) := dk_4 (dk_at dksX4_works_3 10 rfl rfl)
theorem dX4_works_78 : decode cX4_works 78 = .ok (.goto 4, 3) := dk_167 0 4 (dk_at dksX4_works_3 11 rfl rfl)
theorem dX4_works_81 : decode cX4_works 81 = .ok (.iconst 0, 1) := dk_3 (dk_at dksX4_works_3 14 rfl rfl)
theorem dX4_works_82 : decode cX4_works 82 = .ok (.ireturn, 1) := dk_172 (dk_at dksX4_works_3 15 rfl rfl)
theorem dX4_works_83 : decode cX4_works 83 = .ok (.iload_n 1, 1) := dk_27 (dk_at dksX4_works_3 16 rfl rfl)
theorem dX4_works_84 : decode cX4_works 84 = .ok (.iload_n 2, 1) := dk_28 (dk_at dksX4_works_3 17 rfl rfl)
theorem dX4_works_85 : decode cX4_works 85 = .ok (.if_icmp .ne 7, 3) := dk_160 0 7 (dk_at dksX4_works_3 18 rfl rfl)
theorem dX4_works_88 : decode cX4_works 88 = .ok (.iconst 1, 1) := dk_4 (dk_at dksX4_works_3 21 rfl rfl)
theorem dX4_works_89 : decode cX4_works 89 = .ok (.goto 4, 3) := dk_167 0 4 (dk_at dksX4_works_4 0 rfl rfl)
theorem dX4_works_92 : decode cX4_works 92 = .ok (.iconst 0, 1) := dk_3 (dk_at dksX4_works_4 3 rfl rfl)
theorem dX4_works_93 : decode cX4_works 93 = .ok (.ireturn, 1) := dk_172 (dk_at dksX4_works_4 4 rfl rfl)
theorem dX4_works_94 : decode cX4_works 94 = .ok (.iload_n 1, 1) := dk_27 (dk_at dksX4_works_4 5 rfl rfl)
theorem dX4_works_95 : decode cX4_works 95 = .ok (.iload_n 2, 1) := dk_28 (dk_at dksX4_works_4 6 rfl rfl)
theorem dX4_works_96 : decode cX4_works 96 = .ok (.iadd, 1) := dk_96 (dk_at dksX4_works_4 7 rfl rfl)
theorem dX4_works_97 : decode cX4_works 97 = .ok (.ireturn, 1) := dk_172 (dk_at dksX4_works_4 8 rfl rfl)
theorem dX4_works_98 : decode cX4_works 98 = .ok (.iload_n 1, 1) := dk_27 (dk_at dksX4_works_4 9 rfl rfl)
theorem dX4_works_99 : decode cX4_works 99 = .ok (.iload_n 2, 1) := dk_28 (dk_at dksX4_works_4 10 rfl rfl)
theorem dX4_works_100 : decode cX4_works 100 = .ok (.isub, 1) := dk_100 (dk_at dksX4_works_4 11 rfl rfl)
theorem dX4_works_101 : decode cX4_works 101 = .ok (.ireturn, 1) := dk_172 (dk_at dksX4_works_4 12 rfl rfl)
theorem dX4_works_102 : decode cX4_works 102 = .ok (.iload_n 1, 1) := dk_27 (dk_at dksX4_works_4 13 rfl rfl)
theorem dX4_works_103 : decode cX4_works 103 = .ok (.iload_n 2, 1) := dk_28 (dk_at dksX4_works_4 14 rfl rfl)
theorem dX4_works_104 : decode cX4_works 104 = .ok (.imul, 1) := dk_104 (dk_at dksX4_works_4 15 rfl rfl)
theorem dX4_works_105 : decode cX4_works 105 = .ok (.ireturn, 1) := dk_172 (dk_at dksX4_works_4 16 rfl rfl)
theorem dX4_works_106 : decode cX4_works 106 = .ok (.iload_n 2, 1) := dk_28 (dk_at dksX4_works_4 17 rfl rfl)
theorem dX4_works_107 : decode cX4_works 107 = .ok (.ifCond .ne 7, 3) := dk_154 0 7 (dk_at dksX4_works_4 18 rfl rfl)
theorem dX4_works_110 : decode cX4_works 110 = .ok (.iconst 0, 1) := dk_3 (dk_at dksX4_works_4 21 rfl rfl)
theorem dX4_works_111 : decode cX4_works 111 = .ok (.goto 6, 3) := dk_167 0 6 (dk_at dksX4_works_5 0 rfl rfl)
theorem dX4_works_114 : decode cX4_works 114 = .ok (.iload_n 1, 1) := dk_27 (dk_at dksX4_works_5 3 rfl rfl)
theorem dX4_works_115 : decode cX4_works 115 = .ok (.iload_n 2, 1) := dk_28 (dk_at dksX4_works_5 4 rfl rfl)
theorem dX4_works_116 : decode cX4_works 116 = .ok (.idiv, 1) := dk_108 (dk_at dksX4_works_5 5 rfl rfl)
theorem dX4_works_117 : decode cX4_works 117 = .ok (.ireturn, 1) := dk_172 (dk_at dksX4_works_5 6 rfl rfl)
abbrev cX4_crate : ByteArray := prog_13_method_67_code
def yX4_crate : MethodName := ⟨RX4, "crate", "(II)I"⟩
def dkwX4_crate_5 : List UInt8 := [46, 172]
abbrev dktX4_crate_5 : List UInt8 := dkwX4_crate_5 ++ []
def dkwX4_crate_4 : List UInt8 := [16, 45, 27, 96, 46, 172, 42, 180, 0, 75, 16, 55, 27, 96, 46, 172, 42, 180, 0, 75, 16, 65, 27, 96]
abbrev dktX4_crate_4 : List UInt8 := dkwX4_crate_4 ++ dktX4_crate_5
def dkwX4_crate_3 : List UInt8 := [42, 180, 0, 75, 16, 25, 27, 96, 46, 172, 42, 180, 0, 75, 16, 35, 27, 96, 46, 172, 42, 180, 0, 75]
abbrev dktX4_crate_3 : List UInt8 := dkwX4_crate_3 ++ dktX4_crate_4
def dkwX4_crate_2 : List UInt8 := [170, 0, 0, 0, 0, 0, 71, 0, 0, 0, 0, 0, 0, 0, 3, 0, 0, 0, 31, 0, 0, 0, 41, 0, 0, 0, 51, 0, 0, 0, 61]
abbrev dktX4_crate_2 : List UInt8 := dkwX4_crate_2 ++ dktX4_crate_3
def dkwX4_crate_1 : List UInt8 := [28]
abbrev dktX4_crate_1 : List UInt8 := dkwX4_crate_1 ++ dktX4_crate_2
def dkwX4_crate_0 : List UInt8 := [42, 3, 181, 0, 117, 42, 27, 182, 1, 112, 153, 0, 12, 42, 28, 7, 182, 1, 109, 154, 0, 5, 3, 172]
abbrev dktX4_crate_0 : List UInt8 := dkwX4_crate_0 ++ dktX4_crate_1
theorem dksX4_crate_0 : cX4_crate.data.toList.drop 0 = dktX4_crate_0 := by decide +kernel
theorem dksX4_crate_1 : cX4_crate.data.toList.drop 24 = dktX4_crate_1 := dk_seg dksX4_crate_0 24 rfl rfl
theorem dksX4_crate_2 : cX4_crate.data.toList.drop 25 = dktX4_crate_2 := dk_seg dksX4_crate_1 1 rfl rfl
theorem dksX4_crate_3 : cX4_crate.data.toList.drop 56 = dktX4_crate_3 := dk_seg dksX4_crate_2 31 rfl rfl
theorem dksX4_crate_4 : cX4_crate.data.toList.drop 80 = dktX4_crate_4 := dk_seg dksX4_crate_3 24 rfl rfl
theorem dksX4_crate_5 : cX4_crate.data.toList.drop 104 = dktX4_crate_5 := dk_seg dksX4_crate_4 24 rfl rfl
theorem dX4_crate_0 : decode cX4_crate 0 = .ok (.aload_n 0, 1) := dk_42 (dk_at dksX4_crate_0 0 rfl rfl)
theorem dX4_crate_1 : decode cX4_crate 1 = .ok (.iconst 0, 1) := dk_3 (dk_at dksX4_crate_0 1 rfl rfl)
theorem dX4_crate_2 : decode cX4_crate 2 = .ok (.putfield 117, 3) := dk_181 0 117 (dk_at dksX4_crate_0 2 rfl rfl)
theorem dX4_crate_5 : decode cX4_crate 5 = .ok (.aload_n 0, 1) := dk_42 (dk_at dksX4_crate_0 5 rfl rfl)
theorem dX4_crate_6 : decode cX4_crate 6 = .ok (.iload_n 1, 1) := dk_27 (dk_at dksX4_crate_0 6 rfl rfl)
theorem dX4_crate_7 : decode cX4_crate 7 = .ok (.invokevirtual 368, 3) := dk_182 1 112 (dk_at dksX4_crate_0 7 rfl rfl)
theorem dX4_crate_10 : decode cX4_crate 10 = .ok (.ifCond .eq 12, 3) := dk_153 0 12 (dk_at dksX4_crate_0 10 rfl rfl)
theorem dX4_crate_13 : decode cX4_crate 13 = .ok (.aload_n 0, 1) := dk_42 (dk_at dksX4_crate_0 13 rfl rfl)
theorem dX4_crate_14 : decode cX4_crate 14 = .ok (.iload_n 2, 1) := dk_28 (dk_at dksX4_crate_0 14 rfl rfl)
theorem dX4_crate_15 : decode cX4_crate 15 = .ok (.iconst 4, 1) := dk_7 (dk_at dksX4_crate_0 15 rfl rfl)
theorem dX4_crate_16 : decode cX4_crate 16 = .ok (.invokevirtual 365, 3) := dk_182 1 109 (dk_at dksX4_crate_0 16 rfl rfl)
theorem dX4_crate_19 : decode cX4_crate 19 = .ok (.ifCond .ne 5, 3) := dk_154 0 5 (dk_at dksX4_crate_0 19 rfl rfl)
theorem dX4_crate_22 : decode cX4_crate 22 = .ok (.iconst 0, 1) := dk_3 (dk_at dksX4_crate_0 22 rfl rfl)
theorem dX4_crate_23 : decode cX4_crate 23 = .ok (.ireturn, 1) := dk_172 (dk_at dksX4_crate_0 23 rfl rfl)
theorem dX4_crate_24 : decode cX4_crate 24 = .ok (.iload_n 2, 1) := dk_28 (dk_at dksX4_crate_1 0 rfl rfl)
theorem dX4_crate_25 : decode cX4_crate 25 = .ok (.tableswitch 71 0 3 #[31, 41, 51, 61], 31) := by decide +kernel
theorem dX4_crate_56 : decode cX4_crate 56 = .ok (.aload_n 0, 1) := dk_42 (dk_at dksX4_crate_3 0 rfl rfl)
theorem dX4_crate_57 : decode cX4_crate 57 = .ok (.getfield 75, 3) := dk_180 0 75 (dk_at dksX4_crate_3 1 rfl rfl)
theorem dX4_crate_60 : decode cX4_crate 60 = .ok (.bipush 25, 2) := dk_16 25 (dk_at dksX4_crate_3 4 rfl rfl)
theorem dX4_crate_62 : decode cX4_crate 62 = .ok (.iload_n 1, 1) := dk_27 (dk_at dksX4_crate_3 6 rfl rfl)
theorem dX4_crate_63 : decode cX4_crate 63 = .ok (.iadd, 1) := dk_96 (dk_at dksX4_crate_3 7 rfl rfl)
theorem dX4_crate_64 : decode cX4_crate 64 = .ok (.iaload, 1) := dk_46 (dk_at dksX4_crate_3 8 rfl rfl)
theorem dX4_crate_65 : decode cX4_crate 65 = .ok (.ireturn, 1) := dk_172 (dk_at dksX4_crate_3 9 rfl rfl)
theorem dX4_crate_66 : decode cX4_crate 66 = .ok (.aload_n 0, 1) := dk_42 (dk_at dksX4_crate_3 10 rfl rfl)
theorem dX4_crate_67 : decode cX4_crate 67 = .ok (.getfield 75, 3) := dk_180 0 75 (dk_at dksX4_crate_3 11 rfl rfl)
theorem dX4_crate_70 : decode cX4_crate 70 = .ok (.bipush 35, 2) := dk_16 35 (dk_at dksX4_crate_3 14 rfl rfl)
theorem dX4_crate_72 : decode cX4_crate 72 = .ok (.iload_n 1, 1) := dk_27 (dk_at dksX4_crate_3 16 rfl rfl)
theorem dX4_crate_73 : decode cX4_crate 73 = .ok (.iadd, 1) := dk_96 (dk_at dksX4_crate_3 17 rfl rfl)
theorem dX4_crate_74 : decode cX4_crate 74 = .ok (.iaload, 1) := dk_46 (dk_at dksX4_crate_3 18 rfl rfl)
theorem dX4_crate_75 : decode cX4_crate 75 = .ok (.ireturn, 1) := dk_172 (dk_at dksX4_crate_3 19 rfl rfl)
theorem dX4_crate_76 : decode cX4_crate 76 = .ok (.aload_n 0, 1) := dk_42 (dk_at dksX4_crate_3 20 rfl rfl)
theorem dX4_crate_77 : decode cX4_crate 77 = .ok (.getfield 75, 3) := dk_180 0 75 (dk_at dksX4_crate_3 21 rfl rfl)
theorem dX4_crate_80 : decode cX4_crate 80 = .ok (.bipush 45, 2) := dk_16 45 (dk_at dksX4_crate_4 0 rfl rfl)
theorem dX4_crate_82 : decode cX4_crate 82 = .ok (.iload_n 1, 1) := dk_27 (dk_at dksX4_crate_4 2 rfl rfl)
theorem dX4_crate_83 : decode cX4_crate 83 = .ok (.iadd, 1) := dk_96 (dk_at dksX4_crate_4 3 rfl rfl)
theorem dX4_crate_84 : decode cX4_crate 84 = .ok (.iaload, 1) := dk_46 (dk_at dksX4_crate_4 4 rfl rfl)
theorem dX4_crate_85 : decode cX4_crate 85 = .ok (.ireturn, 1) := dk_172 (dk_at dksX4_crate_4 5 rfl rfl)
theorem dX4_crate_86 : decode cX4_crate 86 = .ok (.aload_n 0, 1) := dk_42 (dk_at dksX4_crate_4 6 rfl rfl)
theorem dX4_crate_87 : decode cX4_crate 87 = .ok (.getfield 75, 3) := dk_180 0 75 (dk_at dksX4_crate_4 7 rfl rfl)
theorem dX4_crate_90 : decode cX4_crate 90 = .ok (.bipush 55, 2) := dk_16 55 (dk_at dksX4_crate_4 10 rfl rfl)
theorem dX4_crate_92 : decode cX4_crate 92 = .ok (.iload_n 1, 1) := dk_27 (dk_at dksX4_crate_4 12 rfl rfl)
theorem dX4_crate_93 : decode cX4_crate 93 = .ok (.iadd, 1) := dk_96 (dk_at dksX4_crate_4 13 rfl rfl)
theorem dX4_crate_94 : decode cX4_crate 94 = .ok (.iaload, 1) := dk_46 (dk_at dksX4_crate_4 14 rfl rfl)
theorem dX4_crate_95 : decode cX4_crate 95 = .ok (.ireturn, 1) := dk_172 (dk_at dksX4_crate_4 15 rfl rfl)
theorem dX4_crate_96 : decode cX4_crate 96 = .ok (.aload_n 0, 1) := dk_42 (dk_at dksX4_crate_4 16 rfl rfl)
theorem dX4_crate_97 : decode cX4_crate 97 = .ok (.getfield 75, 3) := dk_180 0 75 (dk_at dksX4_crate_4 17 rfl rfl)
theorem dX4_crate_100 : decode cX4_crate 100 = .ok (.bipush 65, 2) := dk_16 65 (dk_at dksX4_crate_4 20 rfl rfl)
theorem dX4_crate_102 : decode cX4_crate 102 = .ok (.iload_n 1, 1) := dk_27 (dk_at dksX4_crate_4 22 rfl rfl)
theorem dX4_crate_103 : decode cX4_crate 103 = .ok (.iadd, 1) := dk_96 (dk_at dksX4_crate_4 23 rfl rfl)
theorem dX4_crate_104 : decode cX4_crate 104 = .ok (.iaload, 1) := dk_46 (dk_at dksX4_crate_5 0 rfl rfl)
theorem dX4_crate_105 : decode cX4_crate 105 = .ok (.ireturn, 1) := dk_172 (dk_at dksX4_crate_5 1 rfl rfl)
abbrev cX4_isCrate : ByteArray := prog_13_method_63_code
def yX4_isCrate : MethodName := ⟨RX4, "isCrate", "(I)Z"⟩
def dkwX4_isCrate_0 : List UInt8 := [42, 27, 155, 0, 15, 27, 42, 180, 1, 31, 162, 0, 7, 4, 167, 0, 4, 3, 4, 182, 1, 18, 172]
abbrev dktX4_isCrate_0 : List UInt8 := dkwX4_isCrate_0 ++ []
theorem dksX4_isCrate_0 : cX4_isCrate.data.toList.drop 0 = dktX4_isCrate_0 := by decide +kernel
theorem dX4_isCrate_0 : decode cX4_isCrate 0 = .ok (.aload_n 0, 1) := dk_42 (dk_at dksX4_isCrate_0 0 rfl rfl)
theorem dX4_isCrate_1 : decode cX4_isCrate 1 = .ok (.iload_n 1, 1) := dk_27 (dk_at dksX4_isCrate_0 1 rfl rfl)
theorem dX4_isCrate_2 : decode cX4_isCrate 2 = .ok (.ifCond .lt 15, 3) := dk_155 0 15 (dk_at dksX4_isCrate_0 2 rfl rfl)
theorem dX4_isCrate_5 : decode cX4_isCrate 5 = .ok (.iload_n 1, 1) := dk_27 (dk_at dksX4_isCrate_0 5 rfl rfl)
theorem dX4_isCrate_6 : decode cX4_isCrate 6 = .ok (.aload_n 0, 1) := dk_42 (dk_at dksX4_isCrate_0 6 rfl rfl)
theorem dX4_isCrate_7 : decode cX4_isCrate 7 = .ok (.getfield 287, 3) := dk_180 1 31 (dk_at dksX4_isCrate_0 7 rfl rfl)
theorem dX4_isCrate_10 : decode cX4_isCrate 10 = .ok (.if_icmp .ge 7, 3) := dk_162 0 7 (dk_at dksX4_isCrate_0 10 rfl rfl)
theorem dX4_isCrate_13 : decode cX4_isCrate 13 = .ok (.iconst 1, 1) := dk_4 (dk_at dksX4_isCrate_0 13 rfl rfl)
theorem dX4_isCrate_14 : decode cX4_isCrate 14 = .ok (.goto 4, 3) := dk_167 0 4 (dk_at dksX4_isCrate_0 14 rfl rfl)
theorem dX4_isCrate_17 : decode cX4_isCrate 17 = .ok (.iconst 0, 1) := dk_3 (dk_at dksX4_isCrate_0 17 rfl rfl)
theorem dX4_isCrate_18 : decode cX4_isCrate 18 = .ok (.iconst 1, 1) := dk_4 (dk_at dksX4_isCrate_0 18 rfl rfl)
theorem dX4_isCrate_19 : decode cX4_isCrate 19 = .ok (.invokevirtual 274, 3) := dk_182 1 18 (dk_at dksX4_isCrate_0 19 rfl rfl)
theorem dX4_isCrate_22 : decode cX4_isCrate 22 = .ok (.ireturn, 1) := dk_172 (dk_at dksX4_isCrate_0 22 rfl rfl)
abbrev cX4_days : ByteArray := prog_13_method_68_code
def yX4_days : MethodName := ⟨RX4, "days", "(I)I"⟩
def dkwX4_days_2 : List UInt8 := [3, 182, 1, 87, 132, 2, 1, 167, 255, 243, 42, 180, 0, 75, 3, 46, 172]
abbrev dktX4_days_2 : List UInt8 := dkwX4_days_2 ++ []
def dkwX4_days_1 : List UInt8 := [17, 3, 231, 164, 0, 9, 42, 4, 182, 1, 115, 172, 42, 182, 1, 118, 3, 61, 28, 27, 162, 0, 14, 42]
abbrev dktX4_days_1 : List UInt8 := dkwX4_days_1 ++ dktX4_days_2
def dkwX4_days_0 : List UInt8 := [42, 3, 181, 0, 117, 27, 4, 16, 30, 184, 1, 90, 153, 0, 17, 42, 180, 0, 75, 3, 46, 27, 96]
abbrev dktX4_days_0 : List UInt8 := dkwX4_days_0 ++ dktX4_days_1
theorem dksX4_days_0 : cX4_days.data.toList.drop 0 = dktX4_days_0 := by decide +kernel
theorem dksX4_days_1 : cX4_days.data.toList.drop 23 = dktX4_days_1 := dk_seg dksX4_days_0 23 rfl rfl
theorem dksX4_days_2 : cX4_days.data.toList.drop 47 = dktX4_days_2 := dk_seg dksX4_days_1 24 rfl rfl
theorem dX4_days_0 : decode cX4_days 0 = .ok (.aload_n 0, 1) := dk_42 (dk_at dksX4_days_0 0 rfl rfl)
theorem dX4_days_1 : decode cX4_days 1 = .ok (.iconst 0, 1) := dk_3 (dk_at dksX4_days_0 1 rfl rfl)
theorem dX4_days_2 : decode cX4_days 2 = .ok (.putfield 117, 3) := dk_181 0 117 (dk_at dksX4_days_0 2 rfl rfl)
theorem dX4_days_5 : decode cX4_days 5 = .ok (.iload_n 1, 1) := dk_27 (dk_at dksX4_days_0 5 rfl rfl)
theorem dX4_days_6 : decode cX4_days 6 = .ok (.iconst 1, 1) := dk_4 (dk_at dksX4_days_0 6 rfl rfl)
theorem dX4_days_7 : decode cX4_days 7 = .ok (.bipush 30, 2) := dk_16 30 (dk_at dksX4_days_0 7 rfl rfl)
theorem dX4_days_9 : decode cX4_days 9 = .ok (.invokestatic 346, 3) := dk_184 1 90 (dk_at dksX4_days_0 9 rfl rfl)
theorem dX4_days_12 : decode cX4_days 12 = .ok (.ifCond .eq 17, 3) := dk_153 0 17 (dk_at dksX4_days_0 12 rfl rfl)
theorem dX4_days_15 : decode cX4_days 15 = .ok (.aload_n 0, 1) := dk_42 (dk_at dksX4_days_0 15 rfl rfl)
theorem dX4_days_16 : decode cX4_days 16 = .ok (.getfield 75, 3) := dk_180 0 75 (dk_at dksX4_days_0 16 rfl rfl)
theorem dX4_days_19 : decode cX4_days 19 = .ok (.iconst 0, 1) := dk_3 (dk_at dksX4_days_0 19 rfl rfl)
theorem dX4_days_20 : decode cX4_days 20 = .ok (.iaload, 1) := dk_46 (dk_at dksX4_days_0 20 rfl rfl)
theorem dX4_days_21 : decode cX4_days 21 = .ok (.iload_n 1, 1) := dk_27 (dk_at dksX4_days_0 21 rfl rfl)
theorem dX4_days_22 : decode cX4_days 22 = .ok (.iadd, 1) := dk_96 (dk_at dksX4_days_0 22 rfl rfl)
theorem dX4_days_23 : decode cX4_days 23 = .ok (.sipush 999, 3) := dk_17 3 231 (dk_at dksX4_days_1 0 rfl rfl)
theorem dX4_days_26 : decode cX4_days 26 = .ok (.if_icmp .le 9, 3) := dk_164 0 9 (dk_at dksX4_days_1 3 rfl rfl)
theorem dX4_days_29 : decode cX4_days 29 = .ok (.aload_n 0, 1) := dk_42 (dk_at dksX4_days_1 6 rfl rfl)
theorem dX4_days_30 : decode cX4_days 30 = .ok (.iconst 1, 1) := dk_4 (dk_at dksX4_days_1 7 rfl rfl)
theorem dX4_days_31 : decode cX4_days 31 = .ok (.invokevirtual 371, 3) := dk_182 1 115 (dk_at dksX4_days_1 8 rfl rfl)
theorem dX4_days_34 : decode cX4_days 34 = .ok (.ireturn, 1) := dk_172 (dk_at dksX4_days_1 11 rfl rfl)
theorem dX4_days_35 : decode cX4_days 35 = .ok (.aload_n 0, 1) := dk_42 (dk_at dksX4_days_1 12 rfl rfl)
theorem dX4_days_36 : decode cX4_days 36 = .ok (.invokevirtual 374, 3) := dk_182 1 118 (dk_at dksX4_days_1 13 rfl rfl)
theorem dX4_days_39 : decode cX4_days 39 = .ok (.iconst 0, 1) := dk_3 (dk_at dksX4_days_1 16 rfl rfl)
theorem dX4_days_40 : decode cX4_days 40 = .ok (.istore_n 2, 1) := dk_61 (dk_at dksX4_days_1 17 rfl rfl)
theorem dX4_days_41 : decode cX4_days 41 = .ok (.iload_n 2, 1) := dk_28 (dk_at dksX4_days_1 18 rfl rfl)
theorem dX4_days_42 : decode cX4_days 42 = .ok (.iload_n 1, 1) := dk_27 (dk_at dksX4_days_1 19 rfl rfl)
theorem dX4_days_43 : decode cX4_days 43 = .ok (.if_icmp .ge 14, 3) := dk_162 0 14 (dk_at dksX4_days_1 20 rfl rfl)
theorem dX4_days_46 : decode cX4_days 46 = .ok (.aload_n 0, 1) := dk_42 (dk_at dksX4_days_1 23 rfl rfl)
theorem dX4_days_47 : decode cX4_days 47 = .ok (.iconst 0, 1) := dk_3 (dk_at dksX4_days_2 0 rfl rfl)
theorem dX4_days_48 : decode cX4_days 48 = .ok (.invokevirtual 343, 3) := dk_182 1 87 (dk_at dksX4_days_2 1 rfl rfl)
theorem dX4_days_51 : decode cX4_days 51 = .ok (.iinc 2 1, 3) := dk_132 2 1 (dk_at dksX4_days_2 4 rfl rfl)
theorem dX4_days_54 : decode cX4_days 54 = .ok (.goto (-13), 3) := dk_167 255 243 (dk_at dksX4_days_2 7 rfl rfl)
theorem dX4_days_57 : decode cX4_days 57 = .ok (.aload_n 0, 1) := dk_42 (dk_at dksX4_days_2 10 rfl rfl)
theorem dX4_days_58 : decode cX4_days 58 = .ok (.getfield 75, 3) := dk_180 0 75 (dk_at dksX4_days_2 11 rfl rfl)
theorem dX4_days_61 : decode cX4_days 61 = .ok (.iconst 0, 1) := dk_3 (dk_at dksX4_days_2 14 rfl rfl)
theorem dX4_days_62 : decode cX4_days 62 = .ok (.iaload, 1) := dk_46 (dk_at dksX4_days_2 15 rfl rfl)
theorem dX4_days_63 : decode cX4_days 63 = .ok (.ireturn, 1) := dk_172 (dk_at dksX4_days_2 16 rfl rfl)
abbrev cX4_refuses : ByteArray := prog_13_method_44_code
def yX4_refuses : MethodName := ⟨RX4, "refuses", "(I)I"⟩
def dkwX4_refuses_0 : List UInt8 := [42, 180, 0, 41, 27, 92, 46, 4, 96, 79, 2, 172]
abbrev dktX4_refuses_0 : List UInt8 := dkwX4_refuses_0 ++ []
theorem dksX4_refuses_0 : cX4_refuses.data.toList.drop 0 = dktX4_refuses_0 := by decide +kernel
theorem dX4_refuses_0 : decode cX4_refuses 0 = .ok (.aload_n 0, 1) := dk_42 (dk_at dksX4_refuses_0 0 rfl rfl)
theorem dX4_refuses_1 : decode cX4_refuses 1 = .ok (.getfield 41, 3) := dk_180 0 41 (dk_at dksX4_refuses_0 1 rfl rfl)
theorem dX4_refuses_4 : decode cX4_refuses 4 = .ok (.iload_n 1, 1) := dk_27 (dk_at dksX4_refuses_0 4 rfl rfl)
theorem dX4_refuses_5 : decode cX4_refuses 5 = .ok (.dup2, 1) := dk_92 (dk_at dksX4_refuses_0 5 rfl rfl)
theorem dX4_refuses_6 : decode cX4_refuses 6 = .ok (.iaload, 1) := dk_46 (dk_at dksX4_refuses_0 6 rfl rfl)
theorem dX4_refuses_7 : decode cX4_refuses 7 = .ok (.iconst 1, 1) := dk_4 (dk_at dksX4_refuses_0 7 rfl rfl)
theorem dX4_refuses_8 : decode cX4_refuses 8 = .ok (.iadd, 1) := dk_96 (dk_at dksX4_refuses_0 8 rfl rfl)
theorem dX4_refuses_9 : decode cX4_refuses 9 = .ok (.iastore, 1) := dk_79 (dk_at dksX4_refuses_0 9 rfl rfl)
theorem dX4_refuses_10 : decode cX4_refuses 10 = .ok (.iconst (-1), 1) := dk_2 (dk_at dksX4_refuses_0 10 rfl rfl)
theorem dX4_refuses_11 : decode cX4_refuses 11 = .ok (.ireturn, 1) := dk_172 (dk_at dksX4_refuses_0 11 rfl rfl)
abbrev cX4_keeps : ByteArray := prog_13_method_43_code
def yX4_keeps : MethodName := ⟨RX4, "keeps", "()V"⟩
def dkwX4_keeps_3 : List UInt8 := [42, 180, 0, 75, 27, 46, 79, 132, 1, 1, 167, 255, 227, 42, 89, 180, 1, 38, 4, 96, 181, 1, 38, 177]
abbrev dktX4_keeps_3 : List UInt8 := dkwX4_keeps_3 ++ []
def dkwX4_keeps_2 : List UInt8 := [181, 1, 38, 3, 60, 27, 16, 85, 162, 0, 29, 42, 180, 0, 78, 16, 85, 42, 180, 1, 38, 104, 27, 96]
abbrev dktX4_keeps_2 : List UInt8 := dkwX4_keeps_2 ++ dktX4_keeps_3
def dkwX4_keeps_1 : List UInt8 := [16, 85, 100, 42, 180, 0, 78, 27, 46, 79, 132, 1, 1, 167, 255, 231, 42, 89, 180, 1, 38, 4, 100]
abbrev dktX4_keeps_1 : List UInt8 := dkwX4_keeps_1 ++ dktX4_keeps_2
def dkwX4_keeps_0 : List UInt8 := [42, 180, 1, 38, 16, 40, 160, 0, 44, 16, 85, 60, 27, 17, 13, 72, 162, 0, 24, 42, 180, 0, 78, 27]
abbrev dktX4_keeps_0 : List UInt8 := dkwX4_keeps_0 ++ dktX4_keeps_1
theorem dksX4_keeps_0 : cX4_keeps.data.toList.drop 0 = dktX4_keeps_0 := by decide +kernel
theorem dksX4_keeps_1 : cX4_keeps.data.toList.drop 24 = dktX4_keeps_1 := dk_seg dksX4_keeps_0 24 rfl rfl
theorem dksX4_keeps_2 : cX4_keeps.data.toList.drop 47 = dktX4_keeps_2 := dk_seg dksX4_keeps_1 23 rfl rfl
theorem dksX4_keeps_3 : cX4_keeps.data.toList.drop 71 = dktX4_keeps_3 := dk_seg dksX4_keeps_2 24 rfl rfl
theorem dX4_keeps_0 : decode cX4_keeps 0 = .ok (.aload_n 0, 1) := dk_42 (dk_at dksX4_keeps_0 0 rfl rfl)
theorem dX4_keeps_1 : decode cX4_keeps 1 = .ok (.getfield 294, 3) := dk_180 1 38 (dk_at dksX4_keeps_0 1 rfl rfl)
theorem dX4_keeps_4 : decode cX4_keeps 4 = .ok (.bipush 40, 2) := dk_16 40 (dk_at dksX4_keeps_0 4 rfl rfl)
theorem dX4_keeps_6 : decode cX4_keeps 6 = .ok (.if_icmp .ne 44, 3) := dk_160 0 44 (dk_at dksX4_keeps_0 6 rfl rfl)
theorem dX4_keeps_9 : decode cX4_keeps 9 = .ok (.bipush 85, 2) := dk_16 85 (dk_at dksX4_keeps_0 9 rfl rfl)
theorem dX4_keeps_11 : decode cX4_keeps 11 = .ok (.istore_n 1, 1) := dk_60 (dk_at dksX4_keeps_0 11 rfl rfl)
theorem dX4_keeps_12 : decode cX4_keeps 12 = .ok (.iload_n 1, 1) := dk_27 (dk_at dksX4_keeps_0 12 rfl rfl)
theorem dX4_keeps_13 : decode cX4_keeps 13 = .ok (.sipush 3400, 3) := dk_17 13 72 (dk_at dksX4_keeps_0 13 rfl rfl)
theorem dX4_keeps_16 : decode cX4_keeps 16 = .ok (.if_icmp .ge 24, 3) := dk_162 0 24 (dk_at dksX4_keeps_0 16 rfl rfl)
theorem dX4_keeps_19 : decode cX4_keeps 19 = .ok (.aload_n 0, 1) := dk_42 (dk_at dksX4_keeps_0 19 rfl rfl)
theorem dX4_keeps_20 : decode cX4_keeps 20 = .ok (.getfield 78, 3) := dk_180 0 78 (dk_at dksX4_keeps_0 20 rfl rfl)
theorem dX4_keeps_23 : decode cX4_keeps 23 = .ok (.iload_n 1, 1) := dk_27 (dk_at dksX4_keeps_0 23 rfl rfl)
theorem dX4_keeps_24 : decode cX4_keeps 24 = .ok (.bipush 85, 2) := dk_16 85 (dk_at dksX4_keeps_1 0 rfl rfl)
theorem dX4_keeps_26 : decode cX4_keeps 26 = .ok (.isub, 1) := dk_100 (dk_at dksX4_keeps_1 2 rfl rfl)
theorem dX4_keeps_27 : decode cX4_keeps 27 = .ok (.aload_n 0, 1) := dk_42 (dk_at dksX4_keeps_1 3 rfl rfl)
theorem dX4_keeps_28 : decode cX4_keeps 28 = .ok (.getfield 78, 3) := dk_180 0 78 (dk_at dksX4_keeps_1 4 rfl rfl)
theorem dX4_keeps_31 : decode cX4_keeps 31 = .ok (.iload_n 1, 1) := dk_27 (dk_at dksX4_keeps_1 7 rfl rfl)
theorem dX4_keeps_32 : decode cX4_keeps 32 = .ok (.iaload, 1) := dk_46 (dk_at dksX4_keeps_1 8 rfl rfl)
theorem dX4_keeps_33 : decode cX4_keeps 33 = .ok (.iastore, 1) := dk_79 (dk_at dksX4_keeps_1 9 rfl rfl)
theorem dX4_keeps_34 : decode cX4_keeps 34 = .ok (.iinc 1 1, 3) := dk_132 1 1 (dk_at dksX4_keeps_1 10 rfl rfl)
theorem dX4_keeps_37 : decode cX4_keeps 37 = .ok (.goto (-25), 3) := dk_167 255 231 (dk_at dksX4_keeps_1 13 rfl rfl)
theorem dX4_keeps_40 : decode cX4_keeps 40 = .ok (.aload_n 0, 1) := dk_42 (dk_at dksX4_keeps_1 16 rfl rfl)
theorem dX4_keeps_41 : decode cX4_keeps 41 = .ok (.dup, 1) := dk_89 (dk_at dksX4_keeps_1 17 rfl rfl)
theorem dX4_keeps_42 : decode cX4_keeps 42 = .ok (.getfield 294, 3) := dk_180 1 38 (dk_at dksX4_keeps_1 18 rfl rfl)
theorem dX4_keeps_45 : decode cX4_keeps 45 = .ok (.iconst 1, 1) := dk_4 (dk_at dksX4_keeps_1 21 rfl rfl)
theorem dX4_keeps_46 : decode cX4_keeps 46 = .ok (.isub, 1) := dk_100 (dk_at dksX4_keeps_1 22 rfl rfl)
theorem dX4_keeps_47 : decode cX4_keeps 47 = .ok (.putfield 294, 3) := dk_181 1 38 (dk_at dksX4_keeps_2 0 rfl rfl)
theorem dX4_keeps_50 : decode cX4_keeps 50 = .ok (.iconst 0, 1) := dk_3 (dk_at dksX4_keeps_2 3 rfl rfl)
theorem dX4_keeps_51 : decode cX4_keeps 51 = .ok (.istore_n 1, 1) := dk_60 (dk_at dksX4_keeps_2 4 rfl rfl)
theorem dX4_keeps_52 : decode cX4_keeps 52 = .ok (.iload_n 1, 1) := dk_27 (dk_at dksX4_keeps_2 5 rfl rfl)
theorem dX4_keeps_53 : decode cX4_keeps 53 = .ok (.bipush 85, 2) := dk_16 85 (dk_at dksX4_keeps_2 6 rfl rfl)
theorem dX4_keeps_55 : decode cX4_keeps 55 = .ok (.if_icmp .ge 29, 3) := dk_162 0 29 (dk_at dksX4_keeps_2 8 rfl rfl)
theorem dX4_keeps_58 : decode cX4_keeps 58 = .ok (.aload_n 0, 1) := dk_42 (dk_at dksX4_keeps_2 11 rfl rfl)
theorem dX4_keeps_59 : decode cX4_keeps 59 = .ok (.getfield 78, 3) := dk_180 0 78 (dk_at dksX4_keeps_2 12 rfl rfl)
theorem dX4_keeps_62 : decode cX4_keeps 62 = .ok (.bipush 85, 2) := dk_16 85 (dk_at dksX4_keeps_2 15 rfl rfl)
theorem dX4_keeps_64 : decode cX4_keeps 64 = .ok (.aload_n 0, 1) := dk_42 (dk_at dksX4_keeps_2 17 rfl rfl)
theorem dX4_keeps_65 : decode cX4_keeps 65 = .ok (.getfield 294, 3) := dk_180 1 38 (dk_at dksX4_keeps_2 18 rfl rfl)
theorem dX4_keeps_68 : decode cX4_keeps 68 = .ok (.imul, 1) := dk_104 (dk_at dksX4_keeps_2 21 rfl rfl)
theorem dX4_keeps_69 : decode cX4_keeps 69 = .ok (.iload_n 1, 1) := dk_27 (dk_at dksX4_keeps_2 22 rfl rfl)
theorem dX4_keeps_70 : decode cX4_keeps 70 = .ok (.iadd, 1) := dk_96 (dk_at dksX4_keeps_2 23 rfl rfl)
theorem dX4_keeps_71 : decode cX4_keeps 71 = .ok (.aload_n 0, 1) := dk_42 (dk_at dksX4_keeps_3 0 rfl rfl)
theorem dX4_keeps_72 : decode cX4_keeps 72 = .ok (.getfield 75, 3) := dk_180 0 75 (dk_at dksX4_keeps_3 1 rfl rfl)
theorem dX4_keeps_75 : decode cX4_keeps 75 = .ok (.iload_n 1, 1) := dk_27 (dk_at dksX4_keeps_3 4 rfl rfl)
theorem dX4_keeps_76 : decode cX4_keeps 76 = .ok (.iaload, 1) := dk_46 (dk_at dksX4_keeps_3 5 rfl rfl)
theorem dX4_keeps_77 : decode cX4_keeps 77 = .ok (.iastore, 1) := dk_79 (dk_at dksX4_keeps_3 6 rfl rfl)
theorem dX4_keeps_78 : decode cX4_keeps 78 = .ok (.iinc 1 1, 3) := dk_132 1 1 (dk_at dksX4_keeps_3 7 rfl rfl)
theorem dX4_keeps_81 : decode cX4_keeps 81 = .ok (.goto (-29), 3) := dk_167 255 227 (dk_at dksX4_keeps_3 10 rfl rfl)
theorem dX4_keeps_84 : decode cX4_keeps 84 = .ok (.aload_n 0, 1) := dk_42 (dk_at dksX4_keeps_3 13 rfl rfl)
theorem dX4_keeps_85 : decode cX4_keeps 85 = .ok (.dup, 1) := dk_89 (dk_at dksX4_keeps_3 14 rfl rfl)
theorem dX4_keeps_86 : decode cX4_keeps 86 = .ok (.getfield 294, 3) := dk_180 1 38 (dk_at dksX4_keeps_3 15 rfl rfl)
theorem dX4_keeps_89 : decode cX4_keeps 89 = .ok (.iconst 1, 1) := dk_4 (dk_at dksX4_keeps_3 18 rfl rfl)
theorem dX4_keeps_90 : decode cX4_keeps 90 = .ok (.iadd, 1) := dk_96 (dk_at dksX4_keeps_3 19 rfl rfl)
theorem dX4_keeps_91 : decode cX4_keeps 91 = .ok (.putfield 294, 3) := dk_181 1 38 (dk_at dksX4_keeps_3 20 rfl rfl)
theorem dX4_keeps_94 : decode cX4_keeps 94 = .ok (.return_, 1) := dk_177 (dk_at dksX4_keeps_3 23 rfl rfl)
abbrev cX4_dayGoes : ByteArray := prog_13_method_55_code
def yX4_dayGoes : MethodName := ⟨RX4, "dayGoes", "(I)V"⟩
def dkwX4_dayGoes_3 : List UInt8 := [182, 1, 83, 132, 2, 1, 167, 255, 195, 42, 180, 0, 75, 27, 3, 96, 92, 46, 4, 96, 79, 177]
abbrev dktX4_dayGoes_3 : List UInt8 := dkwX4_dayGoes_3 ++ []
def dkwX4_dayGoes_2 : List UInt8 := [180, 1, 73, 29, 153, 0, 9, 4, 28, 120, 167, 0, 4, 3, 128, 181, 1, 73, 42, 27, 28, 29]
abbrev dktX4_dayGoes_2 : List UInt8 := dkwX4_dayGoes_2 ++ dktX4_dayGoes_3
def dkwX4_dayGoes_1 : List UInt8 := [182, 1, 76, 42, 27, 28, 182, 1, 80, 16, 7, 161, 0, 7, 4, 167, 0, 4, 3, 62, 42, 89]
abbrev dktX4_dayGoes_1 : List UInt8 := dkwX4_dayGoes_1 ++ dktX4_dayGoes_2
def dkwX4_dayGoes_0 : List UInt8 := [42, 27, 182, 1, 70, 42, 3, 181, 1, 73, 3, 61, 28, 42, 180, 1, 25, 162, 0, 59, 42, 27, 28]
abbrev dktX4_dayGoes_0 : List UInt8 := dkwX4_dayGoes_0 ++ dktX4_dayGoes_1
theorem dksX4_dayGoes_0 : cX4_dayGoes.data.toList.drop 0 = dktX4_dayGoes_0 := by decide +kernel
theorem dksX4_dayGoes_1 : cX4_dayGoes.data.toList.drop 23 = dktX4_dayGoes_1 := dk_seg dksX4_dayGoes_0 23 rfl rfl
theorem dksX4_dayGoes_2 : cX4_dayGoes.data.toList.drop 45 = dktX4_dayGoes_2 := dk_seg dksX4_dayGoes_1 22 rfl rfl
theorem dksX4_dayGoes_3 : cX4_dayGoes.data.toList.drop 67 = dktX4_dayGoes_3 := dk_seg dksX4_dayGoes_2 22 rfl rfl
theorem dX4_dayGoes_0 : decode cX4_dayGoes 0 = .ok (.aload_n 0, 1) := dk_42 (dk_at dksX4_dayGoes_0 0 rfl rfl)
theorem dX4_dayGoes_1 : decode cX4_dayGoes 1 = .ok (.iload_n 1, 1) := dk_27 (dk_at dksX4_dayGoes_0 1 rfl rfl)
theorem dX4_dayGoes_2 : decode cX4_dayGoes 2 = .ok (.invokevirtual 326, 3) := dk_182 1 70 (dk_at dksX4_dayGoes_0 2 rfl rfl)
theorem dX4_dayGoes_5 : decode cX4_dayGoes 5 = .ok (.aload_n 0, 1) := dk_42 (dk_at dksX4_dayGoes_0 5 rfl rfl)
theorem dX4_dayGoes_6 : decode cX4_dayGoes 6 = .ok (.iconst 0, 1) := dk_3 (dk_at dksX4_dayGoes_0 6 rfl rfl)
theorem dX4_dayGoes_7 : decode cX4_dayGoes 7 = .ok (.putfield 329, 3) := dk_181 1 73 (dk_at dksX4_dayGoes_0 7 rfl rfl)
theorem dX4_dayGoes_10 : decode cX4_dayGoes 10 = .ok (.iconst 0, 1) := dk_3 (dk_at dksX4_dayGoes_0 10 rfl rfl)
theorem dX4_dayGoes_11 : decode cX4_dayGoes 11 = .ok (.istore_n 2, 1) := dk_61 (dk_at dksX4_dayGoes_0 11 rfl rfl)
theorem dX4_dayGoes_12 : decode cX4_dayGoes 12 = .ok (.iload_n 2, 1) := dk_28 (dk_at dksX4_dayGoes_0 12 rfl rfl)
theorem dX4_dayGoes_13 : decode cX4_dayGoes 13 = .ok (.aload_n 0, 1) := dk_42 (dk_at dksX4_dayGoes_0 13 rfl rfl)
theorem dX4_dayGoes_14 : decode cX4_dayGoes 14 = .ok (.getfield 281, 3) := dk_180 1 25 (dk_at dksX4_dayGoes_0 14 rfl rfl)
theorem dX4_dayGoes_17 : decode cX4_dayGoes 17 = .ok (.if_icmp .ge 59, 3) := dk_162 0 59 (dk_at dksX4_dayGoes_0 17 rfl rfl)
theorem dX4_dayGoes_20 : decode cX4_dayGoes 20 = .ok (.aload_n 0, 1) := dk_42 (dk_at dksX4_dayGoes_0 20 rfl rfl)
theorem dX4_dayGoes_21 : decode cX4_dayGoes 21 = .ok (.iload_n 1, 1) := dk_27 (dk_at dksX4_dayGoes_0 21 rfl rfl)
theorem dX4_dayGoes_22 : decode cX4_dayGoes 22 = .ok (.iload_n 2, 1) := dk_28 (dk_at dksX4_dayGoes_0 22 rfl rfl)
theorem dX4_dayGoes_23 : decode cX4_dayGoes 23 = .ok (.invokevirtual 332, 3) := dk_182 1 76 (dk_at dksX4_dayGoes_1 0 rfl rfl)
theorem dX4_dayGoes_26 : decode cX4_dayGoes 26 = .ok (.aload_n 0, 1) := dk_42 (dk_at dksX4_dayGoes_1 3 rfl rfl)
theorem dX4_dayGoes_27 : decode cX4_dayGoes 27 = .ok (.iload_n 1, 1) := dk_27 (dk_at dksX4_dayGoes_1 4 rfl rfl)
theorem dX4_dayGoes_28 : decode cX4_dayGoes 28 = .ok (.iload_n 2, 1) := dk_28 (dk_at dksX4_dayGoes_1 5 rfl rfl)
theorem dX4_dayGoes_29 : decode cX4_dayGoes 29 = .ok (.invokevirtual 336, 3) := dk_182 1 80 (dk_at dksX4_dayGoes_1 6 rfl rfl)
theorem dX4_dayGoes_32 : decode cX4_dayGoes 32 = .ok (.bipush 7, 2) := dk_16 7 (dk_at dksX4_dayGoes_1 9 rfl rfl)
theorem dX4_dayGoes_34 : decode cX4_dayGoes 34 = .ok (.if_icmp .lt 7, 3) := dk_161 0 7 (dk_at dksX4_dayGoes_1 11 rfl rfl)
theorem dX4_dayGoes_37 : decode cX4_dayGoes 37 = .ok (.iconst 1, 1) := dk_4 (dk_at dksX4_dayGoes_1 14 rfl rfl)
theorem dX4_dayGoes_38 : decode cX4_dayGoes 38 = .ok (.goto 4, 3) := dk_167 0 4 (dk_at dksX4_dayGoes_1 15 rfl rfl)
theorem dX4_dayGoes_41 : decode cX4_dayGoes 41 = .ok (.iconst 0, 1) := dk_3 (dk_at dksX4_dayGoes_1 18 rfl rfl)
theorem dX4_dayGoes_42 : decode cX4_dayGoes 42 = .ok (.istore_n 3, 1) := dk_62 (dk_at dksX4_dayGoes_1 19 rfl rfl)
theorem dX4_dayGoes_43 : decode cX4_dayGoes 43 = .ok (.aload_n 0, 1) := dk_42 (dk_at dksX4_dayGoes_1 20 rfl rfl)
theorem dX4_dayGoes_44 : decode cX4_dayGoes 44 = .ok (.dup, 1) := dk_89 (dk_at dksX4_dayGoes_1 21 rfl rfl)
theorem dX4_dayGoes_45 : decode cX4_dayGoes 45 = .ok (.getfield 329, 3) := dk_180 1 73 (dk_at dksX4_dayGoes_2 0 rfl rfl)
theorem dX4_dayGoes_48 : decode cX4_dayGoes 48 = .ok (.iload_n 3, 1) := dk_29 (dk_at dksX4_dayGoes_2 3 rfl rfl)
theorem dX4_dayGoes_49 : decode cX4_dayGoes 49 = .ok (.ifCond .eq 9, 3) := dk_153 0 9 (dk_at dksX4_dayGoes_2 4 rfl rfl)
theorem dX4_dayGoes_52 : decode cX4_dayGoes 52 = .ok (.iconst 1, 1) := dk_4 (dk_at dksX4_dayGoes_2 7 rfl rfl)
theorem dX4_dayGoes_53 : decode cX4_dayGoes 53 = .ok (.iload_n 2, 1) := dk_28 (dk_at dksX4_dayGoes_2 8 rfl rfl)
theorem dX4_dayGoes_54 : decode cX4_dayGoes 54 = .ok (.ishl, 1) := dk_120 (dk_at dksX4_dayGoes_2 9 rfl rfl)
theorem dX4_dayGoes_55 : decode cX4_dayGoes 55 = .ok (.goto 4, 3) := dk_167 0 4 (dk_at dksX4_dayGoes_2 10 rfl rfl)
theorem dX4_dayGoes_58 : decode cX4_dayGoes 58 = .ok (.iconst 0, 1) := dk_3 (dk_at dksX4_dayGoes_2 13 rfl rfl)
theorem dX4_dayGoes_59 : decode cX4_dayGoes 59 = .ok (.ior, 1) := dk_128 (dk_at dksX4_dayGoes_2 14 rfl rfl)
theorem dX4_dayGoes_60 : decode cX4_dayGoes 60 = .ok (.putfield 329, 3) := dk_181 1 73 (dk_at dksX4_dayGoes_2 15 rfl rfl)
theorem dX4_dayGoes_63 : decode cX4_dayGoes 63 = .ok (.aload_n 0, 1) := dk_42 (dk_at dksX4_dayGoes_2 18 rfl rfl)
theorem dX4_dayGoes_64 : decode cX4_dayGoes 64 = .ok (.iload_n 1, 1) := dk_27 (dk_at dksX4_dayGoes_2 19 rfl rfl)
theorem dX4_dayGoes_65 : decode cX4_dayGoes 65 = .ok (.iload_n 2, 1) := dk_28 (dk_at dksX4_dayGoes_2 20 rfl rfl)
theorem dX4_dayGoes_66 : decode cX4_dayGoes 66 = .ok (.iload_n 3, 1) := dk_29 (dk_at dksX4_dayGoes_2 21 rfl rfl)
theorem dX4_dayGoes_67 : decode cX4_dayGoes 67 = .ok (.invokevirtual 339, 3) := dk_182 1 83 (dk_at dksX4_dayGoes_3 0 rfl rfl)
theorem dX4_dayGoes_70 : decode cX4_dayGoes 70 = .ok (.iinc 2 1, 3) := dk_132 2 1 (dk_at dksX4_dayGoes_3 3 rfl rfl)
theorem dX4_dayGoes_73 : decode cX4_dayGoes 73 = .ok (.goto (-61), 3) := dk_167 255 195 (dk_at dksX4_dayGoes_3 6 rfl rfl)
theorem dX4_dayGoes_76 : decode cX4_dayGoes 76 = .ok (.aload_n 0, 1) := dk_42 (dk_at dksX4_dayGoes_3 9 rfl rfl)
theorem dX4_dayGoes_77 : decode cX4_dayGoes 77 = .ok (.getfield 75, 3) := dk_180 0 75 (dk_at dksX4_dayGoes_3 10 rfl rfl)
theorem dX4_dayGoes_80 : decode cX4_dayGoes 80 = .ok (.iload_n 1, 1) := dk_27 (dk_at dksX4_dayGoes_3 13 rfl rfl)
theorem dX4_dayGoes_81 : decode cX4_dayGoes 81 = .ok (.iconst 0, 1) := dk_3 (dk_at dksX4_dayGoes_3 14 rfl rfl)
theorem dX4_dayGoes_82 : decode cX4_dayGoes 82 = .ok (.iadd, 1) := dk_96 (dk_at dksX4_dayGoes_3 15 rfl rfl)
theorem dX4_dayGoes_83 : decode cX4_dayGoes 83 = .ok (.dup2, 1) := dk_92 (dk_at dksX4_dayGoes_3 16 rfl rfl)
theorem dX4_dayGoes_84 : decode cX4_dayGoes 84 = .ok (.iaload, 1) := dk_46 (dk_at dksX4_dayGoes_3 17 rfl rfl)
theorem dX4_dayGoes_85 : decode cX4_dayGoes 85 = .ok (.iconst 1, 1) := dk_4 (dk_at dksX4_dayGoes_3 18 rfl rfl)
theorem dX4_dayGoes_86 : decode cX4_dayGoes 86 = .ok (.iadd, 1) := dk_96 (dk_at dksX4_dayGoes_3 19 rfl rfl)
theorem dX4_dayGoes_87 : decode cX4_dayGoes 87 = .ok (.iastore, 1) := dk_79 (dk_at dksX4_dayGoes_3 20 rfl rfl)
theorem dX4_dayGoes_88 : decode cX4_dayGoes 88 = .ok (.return_, 1) := dk_177 (dk_at dksX4_dayGoes_3 21 rfl rfl)
abbrev cX4_cratesGo : ByteArray := prog_13_method_52_code
def yX4_cratesGo : MethodName := ⟨RX4, "cratesGo", "(I)V"⟩
def dkwX4_cratesGo_4 : List UInt8 := [132, 2, 1, 167, 255, 159, 177]
abbrev dktX4_cratesGo_4 : List UInt8 := dkwX4_cratesGo_4 ++ []
def dkwX4_cratesGo_3 : List UInt8 := [46, 100, 3, 16, 99, 184, 1, 55, 79, 42, 180, 0, 75, 27, 16, 65, 96, 28, 96, 92, 46, 4, 100, 79]
abbrev dktX4_cratesGo_3 : List UInt8 := dkwX4_cratesGo_3 ++ dktX4_cratesGo_4
def dkwX4_cratesGo_2 : List UInt8 := [96, 28, 96, 42, 180, 0, 75, 27, 16, 25, 96, 28, 96, 46, 42, 180, 0, 75, 27, 16, 75, 96, 28, 96]
abbrev dktX4_cratesGo_2 : List UInt8 := dkwX4_cratesGo_2 ++ dktX4_cratesGo_3
def dkwX4_cratesGo_1 : List UInt8 := [167, 0, 72, 42, 180, 0, 75, 27, 16, 45, 96, 28, 96, 46, 154, 0, 43, 42, 180, 0, 75, 27, 16, 25]
abbrev dktX4_cratesGo_1 : List UInt8 := dkwX4_cratesGo_1 ++ dktX4_cratesGo_2
def dkwX4_cratesGo_0 : List UInt8 := [3, 61, 28, 42, 180, 1, 31, 162, 0, 95, 42, 180, 0, 75, 27, 16, 65, 96, 28, 96, 46, 154, 0, 6]
abbrev dktX4_cratesGo_0 : List UInt8 := dkwX4_cratesGo_0 ++ dktX4_cratesGo_1
theorem dksX4_cratesGo_0 : cX4_cratesGo.data.toList.drop 0 = dktX4_cratesGo_0 := by decide +kernel
theorem dksX4_cratesGo_1 : cX4_cratesGo.data.toList.drop 24 = dktX4_cratesGo_1 := dk_seg dksX4_cratesGo_0 24 rfl rfl
theorem dksX4_cratesGo_2 : cX4_cratesGo.data.toList.drop 48 = dktX4_cratesGo_2 := dk_seg dksX4_cratesGo_1 24 rfl rfl
theorem dksX4_cratesGo_3 : cX4_cratesGo.data.toList.drop 72 = dktX4_cratesGo_3 := dk_seg dksX4_cratesGo_2 24 rfl rfl
theorem dksX4_cratesGo_4 : cX4_cratesGo.data.toList.drop 96 = dktX4_cratesGo_4 := dk_seg dksX4_cratesGo_3 24 rfl rfl
theorem dX4_cratesGo_0 : decode cX4_cratesGo 0 = .ok (.iconst 0, 1) := dk_3 (dk_at dksX4_cratesGo_0 0 rfl rfl)
theorem dX4_cratesGo_1 : decode cX4_cratesGo 1 = .ok (.istore_n 2, 1) := dk_61 (dk_at dksX4_cratesGo_0 1 rfl rfl)
theorem dX4_cratesGo_2 : decode cX4_cratesGo 2 = .ok (.iload_n 2, 1) := dk_28 (dk_at dksX4_cratesGo_0 2 rfl rfl)
theorem dX4_cratesGo_3 : decode cX4_cratesGo 3 = .ok (.aload_n 0, 1) := dk_42 (dk_at dksX4_cratesGo_0 3 rfl rfl)
theorem dX4_cratesGo_4 : decode cX4_cratesGo 4 = .ok (.getfield 287, 3) := dk_180 1 31 (dk_at dksX4_cratesGo_0 4 rfl rfl)
theorem dX4_cratesGo_7 : decode cX4_cratesGo 7 = .ok (.if_icmp .ge 95, 3) := dk_162 0 95 (dk_at dksX4_cratesGo_0 7 rfl rfl)
theorem dX4_cratesGo_10 : decode cX4_cratesGo 10 = .ok (.aload_n 0, 1) := dk_42 (dk_at dksX4_cratesGo_0 10 rfl rfl)
theorem dX4_cratesGo_11 : decode cX4_cratesGo 11 = .ok (.getfield 75, 3) := dk_180 0 75 (dk_at dksX4_cratesGo_0 11 rfl rfl)
theorem dX4_cratesGo_14 : decode cX4_cratesGo 14 = .ok (.iload_n 1, 1) := dk_27 (dk_at dksX4_cratesGo_0 14 rfl rfl)
theorem dX4_cratesGo_15 : decode cX4_cratesGo 15 = .ok (.bipush 65, 2) := dk_16 65 (dk_at dksX4_cratesGo_0 15 rfl rfl)
theorem dX4_cratesGo_17 : decode cX4_cratesGo 17 = .ok (.iadd, 1) := dk_96 (dk_at dksX4_cratesGo_0 17 rfl rfl)
theorem dX4_cratesGo_18 : decode cX4_cratesGo 18 = .ok (.iload_n 2, 1) := dk_28 (dk_at dksX4_cratesGo_0 18 rfl rfl)
theorem dX4_cratesGo_19 : decode cX4_cratesGo 19 = .ok (.iadd, 1) := dk_96 (dk_at dksX4_cratesGo_0 19 rfl rfl)
theorem dX4_cratesGo_20 : decode cX4_cratesGo 20 = .ok (.iaload, 1) := dk_46 (dk_at dksX4_cratesGo_0 20 rfl rfl)
theorem dX4_cratesGo_21 : decode cX4_cratesGo 21 = .ok (.ifCond .ne 6, 3) := dk_154 0 6 (dk_at dksX4_cratesGo_0 21 rfl rfl)
theorem dX4_cratesGo_24 : decode cX4_cratesGo 24 = .ok (.goto 72, 3) := dk_167 0 72 (dk_at dksX4_cratesGo_1 0 rfl rfl)
theorem dX4_cratesGo_27 : decode cX4_cratesGo 27 = .ok (.aload_n 0, 1) := dk_42 (dk_at dksX4_cratesGo_1 3 rfl rfl)
theorem dX4_cratesGo_28 : decode cX4_cratesGo 28 = .ok (.getfield 75, 3) := dk_180 0 75 (dk_at dksX4_cratesGo_1 4 rfl rfl)
theorem dX4_cratesGo_31 : decode cX4_cratesGo 31 = .ok (.iload_n 1, 1) := dk_27 (dk_at dksX4_cratesGo_1 7 rfl rfl)
theorem dX4_cratesGo_32 : decode cX4_cratesGo 32 = .ok (.bipush 45, 2) := dk_16 45 (dk_at dksX4_cratesGo_1 8 rfl rfl)
theorem dX4_cratesGo_34 : decode cX4_cratesGo 34 = .ok (.iadd, 1) := dk_96 (dk_at dksX4_cratesGo_1 10 rfl rfl)
theorem dX4_cratesGo_35 : decode cX4_cratesGo 35 = .ok (.iload_n 2, 1) := dk_28 (dk_at dksX4_cratesGo_1 11 rfl rfl)
theorem dX4_cratesGo_36 : decode cX4_cratesGo 36 = .ok (.iadd, 1) := dk_96 (dk_at dksX4_cratesGo_1 12 rfl rfl)
theorem dX4_cratesGo_37 : decode cX4_cratesGo 37 = .ok (.iaload, 1) := dk_46 (dk_at dksX4_cratesGo_1 13 rfl rfl)
theorem dX4_cratesGo_38 : decode cX4_cratesGo 38 = .ok (.ifCond .ne 43, 3) := dk_154 0 43 (dk_at dksX4_cratesGo_1 14 rfl rfl)
theorem dX4_cratesGo_41 : decode cX4_cratesGo 41 = .ok (.aload_n 0, 1) := dk_42 (dk_at dksX4_cratesGo_1 17 rfl rfl)
theorem dX4_cratesGo_42 : decode cX4_cratesGo 42 = .ok (.getfield 75, 3) := dk_180 0 75 (dk_at dksX4_cratesGo_1 18 rfl rfl)
theorem dX4_cratesGo_45 : decode cX4_cratesGo 45 = .ok (.iload_n 1, 1) := dk_27 (dk_at dksX4_cratesGo_1 21 rfl rfl)
theorem dX4_cratesGo_46 : decode cX4_cratesGo 46 = .ok (.bipush 25, 2) := dk_16 25 (dk_at dksX4_cratesGo_1 22 rfl rfl)
theorem dX4_cratesGo_48 : decode cX4_cratesGo 48 = .ok (.iadd, 1) := dk_96 (dk_at dksX4_cratesGo_2 0 rfl rfl)
theorem dX4_cratesGo_49 : decode cX4_cratesGo 49 = .ok (.iload_n 2, 1) := dk_28 (dk_at dksX4_cratesGo_2 1 rfl rfl)
theorem dX4_cratesGo_50 : decode cX4_cratesGo 50 = .ok (.iadd, 1) := dk_96 (dk_at dksX4_cratesGo_2 2 rfl rfl)
theorem dX4_cratesGo_51 : decode cX4_cratesGo 51 = .ok (.aload_n 0, 1) := dk_42 (dk_at dksX4_cratesGo_2 3 rfl rfl)
theorem dX4_cratesGo_52 : decode cX4_cratesGo 52 = .ok (.getfield 75, 3) := dk_180 0 75 (dk_at dksX4_cratesGo_2 4 rfl rfl)
theorem dX4_cratesGo_55 : decode cX4_cratesGo 55 = .ok (.iload_n 1, 1) := dk_27 (dk_at dksX4_cratesGo_2 7 rfl rfl)
theorem dX4_cratesGo_56 : decode cX4_cratesGo 56 = .ok (.bipush 25, 2) := dk_16 25 (dk_at dksX4_cratesGo_2 8 rfl rfl)
theorem dX4_cratesGo_58 : decode cX4_cratesGo 58 = .ok (.iadd, 1) := dk_96 (dk_at dksX4_cratesGo_2 10 rfl rfl)
theorem dX4_cratesGo_59 : decode cX4_cratesGo 59 = .ok (.iload_n 2, 1) := dk_28 (dk_at dksX4_cratesGo_2 11 rfl rfl)
theorem dX4_cratesGo_60 : decode cX4_cratesGo 60 = .ok (.iadd, 1) := dk_96 (dk_at dksX4_cratesGo_2 12 rfl rfl)
theorem dX4_cratesGo_61 : decode cX4_cratesGo 61 = .ok (.iaload, 1) := dk_46 (dk_at dksX4_cratesGo_2 13 rfl rfl)
theorem dX4_cratesGo_62 : decode cX4_cratesGo 62 = .ok (.aload_n 0, 1) := dk_42 (dk_at dksX4_cratesGo_2 14 rfl rfl)
theorem dX4_cratesGo_63 : decode cX4_cratesGo 63 = .ok (.getfield 75, 3) := dk_180 0 75 (dk_at dksX4_cratesGo_2 15 rfl rfl)
theorem dX4_cratesGo_66 : decode cX4_cratesGo 66 = .ok (.iload_n 1, 1) := dk_27 (dk_at dksX4_cratesGo_2 18 rfl rfl)
theorem dX4_cratesGo_67 : decode cX4_cratesGo 67 = .ok (.bipush 75, 2) := dk_16 75 (dk_at dksX4_cratesGo_2 19 rfl rfl)
theorem dX4_cratesGo_69 : decode cX4_cratesGo 69 = .ok (.iadd, 1) := dk_96 (dk_at dksX4_cratesGo_2 21 rfl rfl)
theorem dX4_cratesGo_70 : decode cX4_cratesGo 70 = .ok (.iload_n 2, 1) := dk_28 (dk_at dksX4_cratesGo_2 22 rfl rfl)
theorem dX4_cratesGo_71 : decode cX4_cratesGo 71 = .ok (.iadd, 1) := dk_96 (dk_at dksX4_cratesGo_2 23 rfl rfl)
theorem dX4_cratesGo_72 : decode cX4_cratesGo 72 = .ok (.iaload, 1) := dk_46 (dk_at dksX4_cratesGo_3 0 rfl rfl)
theorem dX4_cratesGo_73 : decode cX4_cratesGo 73 = .ok (.isub, 1) := dk_100 (dk_at dksX4_cratesGo_3 1 rfl rfl)
theorem dX4_cratesGo_74 : decode cX4_cratesGo 74 = .ok (.iconst 0, 1) := dk_3 (dk_at dksX4_cratesGo_3 2 rfl rfl)
theorem dX4_cratesGo_75 : decode cX4_cratesGo 75 = .ok (.bipush 99, 2) := dk_16 99 (dk_at dksX4_cratesGo_3 3 rfl rfl)
theorem dX4_cratesGo_77 : decode cX4_cratesGo 77 = .ok (.invokestatic 311, 3) := dk_184 1 55 (dk_at dksX4_cratesGo_3 5 rfl rfl)
theorem dX4_cratesGo_80 : decode cX4_cratesGo 80 = .ok (.iastore, 1) := dk_79 (dk_at dksX4_cratesGo_3 8 rfl rfl)
theorem dX4_cratesGo_81 : decode cX4_cratesGo 81 = .ok (.aload_n 0, 1) := dk_42 (dk_at dksX4_cratesGo_3 9 rfl rfl)
theorem dX4_cratesGo_82 : decode cX4_cratesGo 82 = .ok (.getfield 75, 3) := dk_180 0 75 (dk_at dksX4_cratesGo_3 10 rfl rfl)
theorem dX4_cratesGo_85 : decode cX4_cratesGo 85 = .ok (.iload_n 1, 1) := dk_27 (dk_at dksX4_cratesGo_3 13 rfl rfl)
theorem dX4_cratesGo_86 : decode cX4_cratesGo 86 = .ok (.bipush 65, 2) := dk_16 65 (dk_at dksX4_cratesGo_3 14 rfl rfl)
theorem dX4_cratesGo_88 : decode cX4_cratesGo 88 = .ok (.iadd, 1) := dk_96 (dk_at dksX4_cratesGo_3 16 rfl rfl)
theorem dX4_cratesGo_89 : decode cX4_cratesGo 89 = .ok (.iload_n 2, 1) := dk_28 (dk_at dksX4_cratesGo_3 17 rfl rfl)
theorem dX4_cratesGo_90 : decode cX4_cratesGo 90 = .ok (.iadd, 1) := dk_96 (dk_at dksX4_cratesGo_3 18 rfl rfl)
theorem dX4_cratesGo_91 : decode cX4_cratesGo 91 = .ok (.dup2, 1) := dk_92 (dk_at dksX4_cratesGo_3 19 rfl rfl)
theorem dX4_cratesGo_92 : decode cX4_cratesGo 92 = .ok (.iaload, 1) := dk_46 (dk_at dksX4_cratesGo_3 20 rfl rfl)
theorem dX4_cratesGo_93 : decode cX4_cratesGo 93 = .ok (.iconst 1, 1) := dk_4 (dk_at dksX4_cratesGo_3 21 rfl rfl)
theorem dX4_cratesGo_94 : decode cX4_cratesGo 94 = .ok (.isub, 1) := dk_100 (dk_at dksX4_cratesGo_3 22 rfl rfl)
theorem dX4_cratesGo_95 : decode cX4_cratesGo 95 = .ok (.iastore, 1) := dk_79 (dk_at dksX4_cratesGo_3 23 rfl rfl)
theorem dX4_cratesGo_96 : decode cX4_cratesGo 96 = .ok (.iinc 2 1, 3) := dk_132 2 1 (dk_at dksX4_cratesGo_4 0 rfl rfl)
theorem dX4_cratesGo_99 : decode cX4_cratesGo 99 = .ok (.goto (-97), 3) := dk_167 255 159 (dk_at dksX4_cratesGo_4 3 rfl rfl)
theorem dX4_cratesGo_102 : decode cX4_cratesGo 102 = .ok (.return_, 1) := dk_177 (dk_at dksX4_cratesGo_4 6 rfl rfl)
abbrev cX4_makesLuck : ByteArray := prog_13_method_53_code
def yX4_makesLuck : MethodName := ⟨RX4, "makesLuck", "(II)V"⟩
def dkwX4_makesLuck_1 : List UInt8 := [46, 96, 3, 17, 39, 15, 184, 1, 55, 79, 177]
abbrev dktX4_makesLuck_1 : List UInt8 := dkwX4_makesLuck_1 ++ []
def dkwX4_makesLuck_0 : List UInt8 := [42, 180, 0, 75, 27, 4, 96, 28, 96, 42, 180, 0, 75, 27, 4, 96, 28, 96, 46, 42, 180, 0, 13, 28]
abbrev dktX4_makesLuck_0 : List UInt8 := dkwX4_makesLuck_0 ++ dktX4_makesLuck_1
theorem dksX4_makesLuck_0 : cX4_makesLuck.data.toList.drop 0 = dktX4_makesLuck_0 := by decide +kernel
theorem dksX4_makesLuck_1 : cX4_makesLuck.data.toList.drop 24 = dktX4_makesLuck_1 := dk_seg dksX4_makesLuck_0 24 rfl rfl
theorem dX4_makesLuck_0 : decode cX4_makesLuck 0 = .ok (.aload_n 0, 1) := dk_42 (dk_at dksX4_makesLuck_0 0 rfl rfl)
theorem dX4_makesLuck_1 : decode cX4_makesLuck 1 = .ok (.getfield 75, 3) := dk_180 0 75 (dk_at dksX4_makesLuck_0 1 rfl rfl)
theorem dX4_makesLuck_4 : decode cX4_makesLuck 4 = .ok (.iload_n 1, 1) := dk_27 (dk_at dksX4_makesLuck_0 4 rfl rfl)
theorem dX4_makesLuck_5 : decode cX4_makesLuck 5 = .ok (.iconst 1, 1) := dk_4 (dk_at dksX4_makesLuck_0 5 rfl rfl)
theorem dX4_makesLuck_6 : decode cX4_makesLuck 6 = .ok (.iadd, 1) := dk_96 (dk_at dksX4_makesLuck_0 6 rfl rfl)
theorem dX4_makesLuck_7 : decode cX4_makesLuck 7 = .ok (.iload_n 2, 1) := dk_28 (dk_at dksX4_makesLuck_0 7 rfl rfl)
theorem dX4_makesLuck_8 : decode cX4_makesLuck 8 = .ok (.iadd, 1) := dk_96 (dk_at dksX4_makesLuck_0 8 rfl rfl)
theorem dX4_makesLuck_9 : decode cX4_makesLuck 9 = .ok (.aload_n 0, 1) := dk_42 (dk_at dksX4_makesLuck_0 9 rfl rfl)
theorem dX4_makesLuck_10 : decode cX4_makesLuck 10 = .ok (.getfield 75, 3) := dk_180 0 75 (dk_at dksX4_makesLuck_0 10 rfl rfl)
theorem dX4_makesLuck_13 : decode cX4_makesLuck 13 = .ok (.iload_n 1, 1) := dk_27 (dk_at dksX4_makesLuck_0 13 rfl rfl)
theorem dX4_makesLuck_14 : decode cX4_makesLuck 14 = .ok (.iconst 1, 1) := dk_4 (dk_at dksX4_makesLuck_0 14 rfl rfl)
theorem dX4_makesLuck_15 : decode cX4_makesLuck 15 = .ok (.iadd, 1) := dk_96 (dk_at dksX4_makesLuck_0 15 rfl rfl)
theorem dX4_makesLuck_16 : decode cX4_makesLuck 16 = .ok (.iload_n 2, 1) := dk_28 (dk_at dksX4_makesLuck_0 16 rfl rfl)
theorem dX4_makesLuck_17 : decode cX4_makesLuck 17 = .ok (.iadd, 1) := dk_96 (dk_at dksX4_makesLuck_0 17 rfl rfl)
theorem dX4_makesLuck_18 : decode cX4_makesLuck 18 = .ok (.iaload, 1) := dk_46 (dk_at dksX4_makesLuck_0 18 rfl rfl)
theorem dX4_makesLuck_19 : decode cX4_makesLuck 19 = .ok (.aload_n 0, 1) := dk_42 (dk_at dksX4_makesLuck_0 19 rfl rfl)
theorem dX4_makesLuck_20 : decode cX4_makesLuck 20 = .ok (.getfield 13, 3) := dk_180 0 13 (dk_at dksX4_makesLuck_0 20 rfl rfl)
theorem dX4_makesLuck_23 : decode cX4_makesLuck 23 = .ok (.iload_n 2, 1) := dk_28 (dk_at dksX4_makesLuck_0 23 rfl rfl)
theorem dX4_makesLuck_24 : decode cX4_makesLuck 24 = .ok (.iaload, 1) := dk_46 (dk_at dksX4_makesLuck_1 0 rfl rfl)
theorem dX4_makesLuck_25 : decode cX4_makesLuck 25 = .ok (.iadd, 1) := dk_96 (dk_at dksX4_makesLuck_1 1 rfl rfl)
theorem dX4_makesLuck_26 : decode cX4_makesLuck 26 = .ok (.iconst 0, 1) := dk_3 (dk_at dksX4_makesLuck_1 2 rfl rfl)
theorem dX4_makesLuck_27 : decode cX4_makesLuck 27 = .ok (.sipush 9999, 3) := dk_17 39 15 (dk_at dksX4_makesLuck_1 3 rfl rfl)
theorem dX4_makesLuck_30 : decode cX4_makesLuck 30 = .ok (.invokestatic 311, 3) := dk_184 1 55 (dk_at dksX4_makesLuck_1 6 rfl rfl)
theorem dX4_makesLuck_33 : decode cX4_makesLuck 33 = .ok (.iastore, 1) := dk_79 (dk_at dksX4_makesLuck_1 9 rfl rfl)
theorem dX4_makesLuck_34 : decode cX4_makesLuck 34 = .ok (.return_, 1) := dk_177 (dk_at dksX4_makesLuck_1 10 rfl rfl)
abbrev cX4_stakes : ByteArray := prog_13_method_54_code
def yX4_stakes : MethodName := ⟨RX4, "stakes", "(IIZ)V"⟩
def dkwX4_stakes_6 : List UInt8 := [100, 79, 177]
abbrev dktX4_stakes_6 : List UInt8 := dkwX4_stakes_6 ++ []
def dkwX4_stakes_5 : List UInt8 := [4, 96, 28, 96, 92, 46, 21, 4, 100, 79, 42, 180, 0, 75, 27, 16, 9, 96, 28, 96, 92, 46, 21, 4]
abbrev dktX4_stakes_5 : List UInt8 := dkwX4_stakes_5 ++ dktX4_stakes_6
def dkwX4_stakes_4 : List UInt8 := [28, 96, 46, 42, 180, 0, 75, 27, 16, 9, 96, 28, 96, 46, 184, 1, 67, 54, 4, 42, 180, 0, 75, 27]
abbrev dktX4_stakes_4 : List UInt8 := dkwX4_stakes_4 ++ dktX4_stakes_5
def dkwX4_stakes_3 : List UInt8 := [42, 180, 0, 17, 28, 46, 5, 108, 96, 3, 17, 39, 15, 184, 1, 55, 79, 42, 180, 0, 75, 27, 4, 96]
abbrev dktX4_stakes_3 : List UInt8 := dkwX4_stakes_3 ++ dktX4_stakes_4
def dkwX4_stakes_2 : List UInt8 := [180, 0, 75, 27, 4, 96, 28, 96, 46, 29, 153, 0, 14, 3, 42, 180, 0, 17, 28, 46, 100, 167, 0, 11]
abbrev dktX4_stakes_2 : List UInt8 := dkwX4_stakes_2 ++ dktX4_stakes_3
def dkwX4_stakes_1 : List UInt8 := [167, 0, 11, 3, 42, 180, 0, 17, 28, 46, 100, 96, 79, 42, 180, 0, 75, 27, 4, 96, 28, 96, 42]
abbrev dktX4_stakes_1 : List UInt8 := dkwX4_stakes_1 ++ dktX4_stakes_2
def dkwX4_stakes_0 : List UInt8 := [42, 180, 0, 75, 27, 16, 17, 96, 28, 96, 92, 46, 29, 153, 0, 12, 42, 180, 0, 17, 28, 46]
abbrev dktX4_stakes_0 : List UInt8 := dkwX4_stakes_0 ++ dktX4_stakes_1
theorem dksX4_stakes_0 : cX4_stakes.data.toList.drop 0 = dktX4_stakes_0 := by decide +kernel
theorem dksX4_stakes_1 : cX4_stakes.data.toList.drop 22 = dktX4_stakes_1 := dk_seg dksX4_stakes_0 22 rfl rfl
theorem dksX4_stakes_2 : cX4_stakes.data.toList.drop 45 = dktX4_stakes_2 := dk_seg dksX4_stakes_1 23 rfl rfl
theorem dksX4_stakes_3 : cX4_stakes.data.toList.drop 69 = dktX4_stakes_3 := dk_seg dksX4_stakes_2 24 rfl rfl
theorem dksX4_stakes_4 : cX4_stakes.data.toList.drop 93 = dktX4_stakes_4 := dk_seg dksX4_stakes_3 24 rfl rfl
theorem dksX4_stakes_5 : cX4_stakes.data.toList.drop 117 = dktX4_stakes_5 := dk_seg dksX4_stakes_4 24 rfl rfl
theorem dksX4_stakes_6 : cX4_stakes.data.toList.drop 141 = dktX4_stakes_6 := dk_seg dksX4_stakes_5 24 rfl rfl
theorem dX4_stakes_0 : decode cX4_stakes 0 = .ok (.aload_n 0, 1) := dk_42 (dk_at dksX4_stakes_0 0 rfl rfl)
theorem dX4_stakes_1 : decode cX4_stakes 1 = .ok (.getfield 75, 3) := dk_180 0 75 (dk_at dksX4_stakes_0 1 rfl rfl)
theorem dX4_stakes_4 : decode cX4_stakes 4 = .ok (.iload_n 1, 1) := dk_27 (dk_at dksX4_stakes_0 4 rfl rfl)
theorem dX4_stakes_5 : decode cX4_stakes 5 = .ok (.bipush 17, 2) := dk_16 17 (dk_at dksX4_stakes_0 5 rfl rfl)
theorem dX4_stakes_7 : decode cX4_stakes 7 = .ok (.iadd, 1) := dk_96 (dk_at dksX4_stakes_0 7 rfl rfl)
theorem dX4_stakes_8 : decode cX4_stakes 8 = .ok (.iload_n 2, 1) := dk_28 (dk_at dksX4_stakes_0 8 rfl rfl)
theorem dX4_stakes_9 : decode cX4_stakes 9 = .ok (.iadd, 1) := dk_96 (dk_at dksX4_stakes_0 9 rfl rfl)
theorem dX4_stakes_10 : decode cX4_stakes 10 = .ok (.dup2, 1) := dk_92 (dk_at dksX4_stakes_0 10 rfl rfl)
theorem dX4_stakes_11 : decode cX4_stakes 11 = .ok (.iaload, 1) := dk_46 (dk_at dksX4_stakes_0 11 rfl rfl)
theorem dX4_stakes_12 : decode cX4_stakes 12 = .ok (.iload_n 3, 1) := dk_29 (dk_at dksX4_stakes_0 12 rfl rfl)
theorem dX4_stakes_13 : decode cX4_stakes 13 = .ok (.ifCond .eq 12, 3) := dk_153 0 12 (dk_at dksX4_stakes_0 13 rfl rfl)
theorem dX4_stakes_16 : decode cX4_stakes 16 = .ok (.aload_n 0, 1) := dk_42 (dk_at dksX4_stakes_0 16 rfl rfl)
theorem dX4_stakes_17 : decode cX4_stakes 17 = .ok (.getfield 17, 3) := dk_180 0 17 (dk_at dksX4_stakes_0 17 rfl rfl)
theorem dX4_stakes_20 : decode cX4_stakes 20 = .ok (.iload_n 2, 1) := dk_28 (dk_at dksX4_stakes_0 20 rfl rfl)
theorem dX4_stakes_21 : decode cX4_stakes 21 = .ok (.iaload, 1) := dk_46 (dk_at dksX4_stakes_0 21 rfl rfl)
theorem dX4_stakes_22 : decode cX4_stakes 22 = .ok (.goto 11, 3) := dk_167 0 11 (dk_at dksX4_stakes_1 0 rfl rfl)
theorem dX4_stakes_25 : decode cX4_stakes 25 = .ok (.iconst 0, 1) := dk_3 (dk_at dksX4_stakes_1 3 rfl rfl)
theorem dX4_stakes_26 : decode cX4_stakes 26 = .ok (.aload_n 0, 1) := dk_42 (dk_at dksX4_stakes_1 4 rfl rfl)
theorem dX4_stakes_27 : decode cX4_stakes 27 = .ok (.getfield 17, 3) := dk_180 0 17 (dk_at dksX4_stakes_1 5 rfl rfl)
theorem dX4_stakes_30 : decode cX4_stakes 30 = .ok (.iload_n 2, 1) := dk_28 (dk_at dksX4_stakes_1 8 rfl rfl)
theorem dX4_stakes_31 : decode cX4_stakes 31 = .ok (.iaload, 1) := dk_46 (dk_at dksX4_stakes_1 9 rfl rfl)
theorem dX4_stakes_32 : decode cX4_stakes 32 = .ok (.isub, 1) := dk_100 (dk_at dksX4_stakes_1 10 rfl rfl)
theorem dX4_stakes_33 : decode cX4_stakes 33 = .ok (.iadd, 1) := dk_96 (dk_at dksX4_stakes_1 11 rfl rfl)
theorem dX4_stakes_34 : decode cX4_stakes 34 = .ok (.iastore, 1) := dk_79 (dk_at dksX4_stakes_1 12 rfl rfl)
theorem dX4_stakes_35 : decode cX4_stakes 35 = .ok (.aload_n 0, 1) := dk_42 (dk_at dksX4_stakes_1 13 rfl rfl)
theorem dX4_stakes_36 : decode cX4_stakes 36 = .ok (.getfield 75, 3) := dk_180 0 75 (dk_at dksX4_stakes_1 14 rfl rfl)
theorem dX4_stakes_39 : decode cX4_stakes 39 = .ok (.iload_n 1, 1) := dk_27 (dk_at dksX4_stakes_1 17 rfl rfl)
theorem dX4_stakes_40 : decode cX4_stakes 40 = .ok (.iconst 1, 1) := dk_4 (dk_at dksX4_stakes_1 18 rfl rfl)
theorem dX4_stakes_41 : decode cX4_stakes 41 = .ok (.iadd, 1) := dk_96 (dk_at dksX4_stakes_1 19 rfl rfl)
theorem dX4_stakes_42 : decode cX4_stakes 42 = .ok (.iload_n 2, 1) := dk_28 (dk_at dksX4_stakes_1 20 rfl rfl)
theorem dX4_stakes_43 : decode cX4_stakes 43 = .ok (.iadd, 1) := dk_96 (dk_at dksX4_stakes_1 21 rfl rfl)
theorem dX4_stakes_44 : decode cX4_stakes 44 = .ok (.aload_n 0, 1) := dk_42 (dk_at dksX4_stakes_1 22 rfl rfl)
theorem dX4_stakes_45 : decode cX4_stakes 45 = .ok (.getfield 75, 3) := dk_180 0 75 (dk_at dksX4_stakes_2 0 rfl rfl)
theorem dX4_stakes_48 : decode cX4_stakes 48 = .ok (.iload_n 1, 1) := dk_27 (dk_at dksX4_stakes_2 3 rfl rfl)
theorem dX4_stakes_49 : decode cX4_stakes 49 = .ok (.iconst 1, 1) := dk_4 (dk_at dksX4_stakes_2 4 rfl rfl)
theorem dX4_stakes_50 : decode cX4_stakes 50 = .ok (.iadd, 1) := dk_96 (dk_at dksX4_stakes_2 5 rfl rfl)
theorem dX4_stakes_51 : decode cX4_stakes 51 = .ok (.iload_n 2, 1) := dk_28 (dk_at dksX4_stakes_2 6 rfl rfl)
theorem dX4_stakes_52 : decode cX4_stakes 52 = .ok (.iadd, 1) := dk_96 (dk_at dksX4_stakes_2 7 rfl rfl)
theorem dX4_stakes_53 : decode cX4_stakes 53 = .ok (.iaload, 1) := dk_46 (dk_at dksX4_stakes_2 8 rfl rfl)
theorem dX4_stakes_54 : decode cX4_stakes 54 = .ok (.iload_n 3, 1) := dk_29 (dk_at dksX4_stakes_2 9 rfl rfl)
theorem dX4_stakes_55 : decode cX4_stakes 55 = .ok (.ifCond .eq 14, 3) := dk_153 0 14 (dk_at dksX4_stakes_2 10 rfl rfl)
theorem dX4_stakes_58 : decode cX4_stakes 58 = .ok (.iconst 0, 1) := dk_3 (dk_at dksX4_stakes_2 13 rfl rfl)
theorem dX4_stakes_59 : decode cX4_stakes 59 = .ok (.aload_n 0, 1) := dk_42 (dk_at dksX4_stakes_2 14 rfl rfl)
theorem dX4_stakes_60 : decode cX4_stakes 60 = .ok (.getfield 17, 3) := dk_180 0 17 (dk_at dksX4_stakes_2 15 rfl rfl)
theorem dX4_stakes_63 : decode cX4_stakes 63 = .ok (.iload_n 2, 1) := dk_28 (dk_at dksX4_stakes_2 18 rfl rfl)
theorem dX4_stakes_64 : decode cX4_stakes 64 = .ok (.iaload, 1) := dk_46 (dk_at dksX4_stakes_2 19 rfl rfl)
theorem dX4_stakes_65 : decode cX4_stakes 65 = .ok (.isub, 1) := dk_100 (dk_at dksX4_stakes_2 20 rfl rfl)
theorem dX4_stakes_66 : decode cX4_stakes 66 = .ok (.goto 11, 3) := dk_167 0 11 (dk_at dksX4_stakes_2 21 rfl rfl)
theorem dX4_stakes_69 : decode cX4_stakes 69 = .ok (.aload_n 0, 1) := dk_42 (dk_at dksX4_stakes_3 0 rfl rfl)
theorem dX4_stakes_70 : decode cX4_stakes 70 = .ok (.getfield 17, 3) := dk_180 0 17 (dk_at dksX4_stakes_3 1 rfl rfl)
theorem dX4_stakes_73 : decode cX4_stakes 73 = .ok (.iload_n 2, 1) := dk_28 (dk_at dksX4_stakes_3 4 rfl rfl)
theorem dX4_stakes_74 : decode cX4_stakes 74 = .ok (.iaload, 1) := dk_46 (dk_at dksX4_stakes_3 5 rfl rfl)
theorem dX4_stakes_75 : decode cX4_stakes 75 = .ok (.iconst 2, 1) := dk_5 (dk_at dksX4_stakes_3 6 rfl rfl)
theorem dX4_stakes_76 : decode cX4_stakes 76 = .ok (.idiv, 1) := dk_108 (dk_at dksX4_stakes_3 7 rfl rfl)
theorem dX4_stakes_77 : decode cX4_stakes 77 = .ok (.iadd, 1) := dk_96 (dk_at dksX4_stakes_3 8 rfl rfl)
theorem dX4_stakes_78 : decode cX4_stakes 78 = .ok (.iconst 0, 1) := dk_3 (dk_at dksX4_stakes_3 9 rfl rfl)
theorem dX4_stakes_79 : decode cX4_stakes 79 = .ok (.sipush 9999, 3) := dk_17 39 15 (dk_at dksX4_stakes_3 10 rfl rfl)
theorem dX4_stakes_82 : decode cX4_stakes 82 = .ok (.invokestatic 311, 3) := dk_184 1 55 (dk_at dksX4_stakes_3 13 rfl rfl)
theorem dX4_stakes_85 : decode cX4_stakes 85 = .ok (.iastore, 1) := dk_79 (dk_at dksX4_stakes_3 16 rfl rfl)
theorem dX4_stakes_86 : decode cX4_stakes 86 = .ok (.aload_n 0, 1) := dk_42 (dk_at dksX4_stakes_3 17 rfl rfl)
theorem dX4_stakes_87 : decode cX4_stakes 87 = .ok (.getfield 75, 3) := dk_180 0 75 (dk_at dksX4_stakes_3 18 rfl rfl)
theorem dX4_stakes_90 : decode cX4_stakes 90 = .ok (.iload_n 1, 1) := dk_27 (dk_at dksX4_stakes_3 21 rfl rfl)
theorem dX4_stakes_91 : decode cX4_stakes 91 = .ok (.iconst 1, 1) := dk_4 (dk_at dksX4_stakes_3 22 rfl rfl)
theorem dX4_stakes_92 : decode cX4_stakes 92 = .ok (.iadd, 1) := dk_96 (dk_at dksX4_stakes_3 23 rfl rfl)
theorem dX4_stakes_93 : decode cX4_stakes 93 = .ok (.iload_n 2, 1) := dk_28 (dk_at dksX4_stakes_4 0 rfl rfl)
theorem dX4_stakes_94 : decode cX4_stakes 94 = .ok (.iadd, 1) := dk_96 (dk_at dksX4_stakes_4 1 rfl rfl)
theorem dX4_stakes_95 : decode cX4_stakes 95 = .ok (.iaload, 1) := dk_46 (dk_at dksX4_stakes_4 2 rfl rfl)
theorem dX4_stakes_96 : decode cX4_stakes 96 = .ok (.aload_n 0, 1) := dk_42 (dk_at dksX4_stakes_4 3 rfl rfl)
theorem dX4_stakes_97 : decode cX4_stakes 97 = .ok (.getfield 75, 3) := dk_180 0 75 (dk_at dksX4_stakes_4 4 rfl rfl)
theorem dX4_stakes_100 : decode cX4_stakes 100 = .ok (.iload_n 1, 1) := dk_27 (dk_at dksX4_stakes_4 7 rfl rfl)
theorem dX4_stakes_101 : decode cX4_stakes 101 = .ok (.bipush 9, 2) := dk_16 9 (dk_at dksX4_stakes_4 8 rfl rfl)
theorem dX4_stakes_103 : decode cX4_stakes 103 = .ok (.iadd, 1) := dk_96 (dk_at dksX4_stakes_4 10 rfl rfl)
theorem dX4_stakes_104 : decode cX4_stakes 104 = .ok (.iload_n 2, 1) := dk_28 (dk_at dksX4_stakes_4 11 rfl rfl)
theorem dX4_stakes_105 : decode cX4_stakes 105 = .ok (.iadd, 1) := dk_96 (dk_at dksX4_stakes_4 12 rfl rfl)
theorem dX4_stakes_106 : decode cX4_stakes 106 = .ok (.iaload, 1) := dk_46 (dk_at dksX4_stakes_4 13 rfl rfl)
theorem dX4_stakes_107 : decode cX4_stakes 107 = .ok (.invokestatic 323, 3) := dk_184 1 67 (dk_at dksX4_stakes_4 14 rfl rfl)
theorem dX4_stakes_110 : decode cX4_stakes 110 = .ok (.istore 4, 2) := dk_54 4 (dk_at dksX4_stakes_4 17 rfl rfl)
theorem dX4_stakes_112 : decode cX4_stakes 112 = .ok (.aload_n 0, 1) := dk_42 (dk_at dksX4_stakes_4 19 rfl rfl)
theorem dX4_stakes_113 : decode cX4_stakes 113 = .ok (.getfield 75, 3) := dk_180 0 75 (dk_at dksX4_stakes_4 20 rfl rfl)
theorem dX4_stakes_116 : decode cX4_stakes 116 = .ok (.iload_n 1, 1) := dk_27 (dk_at dksX4_stakes_4 23 rfl rfl)
theorem dX4_stakes_117 : decode cX4_stakes 117 = .ok (.iconst 1, 1) := dk_4 (dk_at dksX4_stakes_5 0 rfl rfl)
theorem dX4_stakes_118 : decode cX4_stakes 118 = .ok (.iadd, 1) := dk_96 (dk_at dksX4_stakes_5 1 rfl rfl)
theorem dX4_stakes_119 : decode cX4_stakes 119 = .ok (.iload_n 2, 1) := dk_28 (dk_at dksX4_stakes_5 2 rfl rfl)
theorem dX4_stakes_120 : decode cX4_stakes 120 = .ok (.iadd, 1) := dk_96 (dk_at dksX4_stakes_5 3 rfl rfl)
theorem dX4_stakes_121 : decode cX4_stakes 121 = .ok (.dup2, 1) := dk_92 (dk_at dksX4_stakes_5 4 rfl rfl)
theorem dX4_stakes_122 : decode cX4_stakes 122 = .ok (.iaload, 1) := dk_46 (dk_at dksX4_stakes_5 5 rfl rfl)
theorem dX4_stakes_123 : decode cX4_stakes 123 = .ok (.iload 4, 2) := dk_21 4 (dk_at dksX4_stakes_5 6 rfl rfl)
theorem dX4_stakes_125 : decode cX4_stakes 125 = .ok (.isub, 1) := dk_100 (dk_at dksX4_stakes_5 8 rfl rfl)
theorem dX4_stakes_126 : decode cX4_stakes 126 = .ok (.iastore, 1) := dk_79 (dk_at dksX4_stakes_5 9 rfl rfl)
theorem dX4_stakes_127 : decode cX4_stakes 127 = .ok (.aload_n 0, 1) := dk_42 (dk_at dksX4_stakes_5 10 rfl rfl)
theorem dX4_stakes_128 : decode cX4_stakes 128 = .ok (.getfield 75, 3) := dk_180 0 75 (dk_at dksX4_stakes_5 11 rfl rfl)
theorem dX4_stakes_131 : decode cX4_stakes 131 = .ok (.iload_n 1, 1) := dk_27 (dk_at dksX4_stakes_5 14 rfl rfl)
theorem dX4_stakes_132 : decode cX4_stakes 132 = .ok (.bipush 9, 2) := dk_16 9 (dk_at dksX4_stakes_5 15 rfl rfl)
theorem dX4_stakes_134 : decode cX4_stakes 134 = .ok (.iadd, 1) := dk_96 (dk_at dksX4_stakes_5 17 rfl rfl)
theorem dX4_stakes_135 : decode cX4_stakes 135 = .ok (.iload_n 2, 1) := dk_28 (dk_at dksX4_stakes_5 18 rfl rfl)
theorem dX4_stakes_136 : decode cX4_stakes 136 = .ok (.iadd, 1) := dk_96 (dk_at dksX4_stakes_5 19 rfl rfl)
theorem dX4_stakes_137 : decode cX4_stakes 137 = .ok (.dup2, 1) := dk_92 (dk_at dksX4_stakes_5 20 rfl rfl)
theorem dX4_stakes_138 : decode cX4_stakes 138 = .ok (.iaload, 1) := dk_46 (dk_at dksX4_stakes_5 21 rfl rfl)
theorem dX4_stakes_139 : decode cX4_stakes 139 = .ok (.iload 4, 2) := dk_21 4 (dk_at dksX4_stakes_5 22 rfl rfl)
theorem dX4_stakes_141 : decode cX4_stakes 141 = .ok (.isub, 1) := dk_100 (dk_at dksX4_stakes_6 0 rfl rfl)
theorem dX4_stakes_142 : decode cX4_stakes 142 = .ok (.iastore, 1) := dk_79 (dk_at dksX4_stakes_6 1 rfl rfl)
theorem dX4_stakes_143 : decode cX4_stakes 143 = .ok (.return_, 1) := dk_177 (dk_at dksX4_stakes_6 2 rfl rfl)
abbrev cX4_lesser : ByteArray := prog_13_method_6_code
def yX4_lesser : MethodName := ⟨RX4, "lesser", "(II)I"⟩
def dkwX4_lesser_0 : List UInt8 := [26, 27, 162, 0, 7, 26, 167, 0, 4, 27, 172]
abbrev dktX4_lesser_0 : List UInt8 := dkwX4_lesser_0 ++ []
theorem dksX4_lesser_0 : cX4_lesser.data.toList.drop 0 = dktX4_lesser_0 := by decide +kernel
theorem dX4_lesser_0 : decode cX4_lesser 0 = .ok (.iload_n 0, 1) := dk_26 (dk_at dksX4_lesser_0 0 rfl rfl)
theorem dX4_lesser_1 : decode cX4_lesser 1 = .ok (.iload_n 1, 1) := dk_27 (dk_at dksX4_lesser_0 1 rfl rfl)
theorem dX4_lesser_2 : decode cX4_lesser 2 = .ok (.if_icmp .ge 7, 3) := dk_162 0 7 (dk_at dksX4_lesser_0 2 rfl rfl)
theorem dX4_lesser_5 : decode cX4_lesser 5 = .ok (.iload_n 0, 1) := dk_26 (dk_at dksX4_lesser_0 5 rfl rfl)
theorem dX4_lesser_6 : decode cX4_lesser 6 = .ok (.goto 4, 3) := dk_167 0 4 (dk_at dksX4_lesser_0 6 rfl rfl)
theorem dX4_lesser_9 : decode cX4_lesser 9 = .ok (.iload_n 1, 1) := dk_27 (dk_at dksX4_lesser_0 9 rfl rfl)
theorem dX4_lesser_10 : decode cX4_lesser 10 = .ok (.ireturn, 1) := dk_172 (dk_at dksX4_lesser_0 10 rfl rfl)
abbrev cX4_send : ByteArray := prog_13_method_70_code
def yX4_send : MethodName := ⟨RX4, "send", "(II)I"⟩
def dkwX4_send_5 : List UInt8 := [27, 96, 46, 172]
abbrev dktX4_send_5 : List UInt8 := dkwX4_send_5 ++ []
def dkwX4_send_4 : List UInt8 := [28, 46, 79, 42, 180, 0, 75, 16, 75, 27, 96, 42, 180, 0, 29, 28, 46, 79, 42, 180, 0, 75, 16, 55]
abbrev dktX4_send_4 : List UInt8 := dkwX4_send_4 ++ dktX4_send_5
def dkwX4_send_3 : List UInt8 := [180, 0, 75, 16, 55, 27, 96, 46, 182, 1, 124, 79, 42, 180, 0, 75, 16, 65, 27, 96, 42, 180, 0, 26]
abbrev dktX4_send_3 : List UInt8 := dkwX4_send_3 ++ dktX4_send_4
def dkwX4_send_2 : List UInt8 := [160, 0, 9, 42, 4, 182, 1, 115, 172, 42, 182, 1, 118, 42, 180, 0, 75, 16, 55, 27, 96, 42, 28, 42]
abbrev dktX4_send_2 : List UInt8 := dkwX4_send_2 ++ dktX4_send_3
def dkwX4_send_1 : List UInt8 := [3, 27, 182, 1, 52, 153, 0, 21, 42, 28, 42, 180, 0, 75, 16, 55, 27, 96, 46, 182, 1, 124, 2]
abbrev dktX4_send_1 : List UInt8 := dkwX4_send_1 ++ dktX4_send_2
def dkwX4_send_0 : List UInt8 := [42, 3, 181, 0, 117, 42, 27, 182, 1, 112, 153, 0, 11, 42, 28, 182, 1, 121, 154, 0, 5, 3, 172, 42]
abbrev dktX4_send_0 : List UInt8 := dkwX4_send_0 ++ dktX4_send_1
theorem dksX4_send_0 : cX4_send.data.toList.drop 0 = dktX4_send_0 := by decide +kernel
theorem dksX4_send_1 : cX4_send.data.toList.drop 24 = dktX4_send_1 := dk_seg dksX4_send_0 24 rfl rfl
theorem dksX4_send_2 : cX4_send.data.toList.drop 47 = dktX4_send_2 := dk_seg dksX4_send_1 23 rfl rfl
theorem dksX4_send_3 : cX4_send.data.toList.drop 71 = dktX4_send_3 := dk_seg dksX4_send_2 24 rfl rfl
theorem dksX4_send_4 : cX4_send.data.toList.drop 95 = dktX4_send_4 := dk_seg dksX4_send_3 24 rfl rfl
theorem dksX4_send_5 : cX4_send.data.toList.drop 119 = dktX4_send_5 := dk_seg dksX4_send_4 24 rfl rfl
theorem dX4_send_0 : decode cX4_send 0 = .ok (.aload_n 0, 1) := dk_42 (dk_at dksX4_send_0 0 rfl rfl)
theorem dX4_send_1 : decode cX4_send 1 = .ok (.iconst 0, 1) := dk_3 (dk_at dksX4_send_0 1 rfl rfl)
theorem dX4_send_2 : decode cX4_send 2 = .ok (.putfield 117, 3) := dk_181 0 117 (dk_at dksX4_send_0 2 rfl rfl)
theorem dX4_send_5 : decode cX4_send 5 = .ok (.aload_n 0, 1) := dk_42 (dk_at dksX4_send_0 5 rfl rfl)
theorem dX4_send_6 : decode cX4_send 6 = .ok (.iload_n 1, 1) := dk_27 (dk_at dksX4_send_0 6 rfl rfl)
theorem dX4_send_7 : decode cX4_send 7 = .ok (.invokevirtual 368, 3) := dk_182 1 112 (dk_at dksX4_send_0 7 rfl rfl)
theorem dX4_send_10 : decode cX4_send 10 = .ok (.ifCond .eq 11, 3) := dk_153 0 11 (dk_at dksX4_send_0 10 rfl rfl)
theorem dX4_send_13 : decode cX4_send 13 = .ok (.aload_n 0, 1) := dk_42 (dk_at dksX4_send_0 13 rfl rfl)
theorem dX4_send_14 : decode cX4_send 14 = .ok (.iload_n 2, 1) := dk_28 (dk_at dksX4_send_0 14 rfl rfl)
theorem dX4_send_15 : decode cX4_send 15 = .ok (.invokevirtual 377, 3) := dk_182 1 121 (dk_at dksX4_send_0 15 rfl rfl)
theorem dX4_send_18 : decode cX4_send 18 = .ok (.ifCond .ne 5, 3) := dk_154 0 5 (dk_at dksX4_send_0 18 rfl rfl)
theorem dX4_send_21 : decode cX4_send 21 = .ok (.iconst 0, 1) := dk_3 (dk_at dksX4_send_0 21 rfl rfl)
theorem dX4_send_22 : decode cX4_send 22 = .ok (.ireturn, 1) := dk_172 (dk_at dksX4_send_0 22 rfl rfl)
theorem dX4_send_23 : decode cX4_send 23 = .ok (.aload_n 0, 1) := dk_42 (dk_at dksX4_send_0 23 rfl rfl)
theorem dX4_send_24 : decode cX4_send 24 = .ok (.iconst 0, 1) := dk_3 (dk_at dksX4_send_1 0 rfl rfl)
theorem dX4_send_25 : decode cX4_send 25 = .ok (.iload_n 1, 1) := dk_27 (dk_at dksX4_send_1 1 rfl rfl)
theorem dX4_send_26 : decode cX4_send 26 = .ok (.invokevirtual 308, 3) := dk_182 1 52 (dk_at dksX4_send_1 2 rfl rfl)
theorem dX4_send_29 : decode cX4_send 29 = .ok (.ifCond .eq 21, 3) := dk_153 0 21 (dk_at dksX4_send_1 5 rfl rfl)
theorem dX4_send_32 : decode cX4_send 32 = .ok (.aload_n 0, 1) := dk_42 (dk_at dksX4_send_1 8 rfl rfl)
theorem dX4_send_33 : decode cX4_send 33 = .ok (.iload_n 2, 1) := dk_28 (dk_at dksX4_send_1 9 rfl rfl)
theorem dX4_send_34 : decode cX4_send 34 = .ok (.aload_n 0, 1) := dk_42 (dk_at dksX4_send_1 10 rfl rfl)
theorem dX4_send_35 : decode cX4_send 35 = .ok (.getfield 75, 3) := dk_180 0 75 (dk_at dksX4_send_1 11 rfl rfl)
theorem dX4_send_38 : decode cX4_send 38 = .ok (.bipush 55, 2) := dk_16 55 (dk_at dksX4_send_1 14 rfl rfl)
theorem dX4_send_40 : decode cX4_send 40 = .ok (.iload_n 1, 1) := dk_27 (dk_at dksX4_send_1 16 rfl rfl)
theorem dX4_send_41 : decode cX4_send 41 = .ok (.iadd, 1) := dk_96 (dk_at dksX4_send_1 17 rfl rfl)
theorem dX4_send_42 : decode cX4_send 42 = .ok (.iaload, 1) := dk_46 (dk_at dksX4_send_1 18 rfl rfl)
theorem dX4_send_43 : decode cX4_send 43 = .ok (.invokevirtual 380, 3) := dk_182 1 124 (dk_at dksX4_send_1 19 rfl rfl)
theorem dX4_send_46 : decode cX4_send 46 = .ok (.iconst (-1), 1) := dk_2 (dk_at dksX4_send_1 22 rfl rfl)
theorem dX4_send_47 : decode cX4_send 47 = .ok (.if_icmp .ne 9, 3) := dk_160 0 9 (dk_at dksX4_send_2 0 rfl rfl)
theorem dX4_send_50 : decode cX4_send 50 = .ok (.aload_n 0, 1) := dk_42 (dk_at dksX4_send_2 3 rfl rfl)
theorem dX4_send_51 : decode cX4_send 51 = .ok (.iconst 1, 1) := dk_4 (dk_at dksX4_send_2 4 rfl rfl)
theorem dX4_send_52 : decode cX4_send 52 = .ok (.invokevirtual 371, 3) := dk_182 1 115 (dk_at dksX4_send_2 5 rfl rfl)
theorem dX4_send_55 : decode cX4_send 55 = .ok (.ireturn, 1) := dk_172 (dk_at dksX4_send_2 8 rfl rfl)
theorem dX4_send_56 : decode cX4_send 56 = .ok (.aload_n 0, 1) := dk_42 (dk_at dksX4_send_2 9 rfl rfl)
theorem dX4_send_57 : decode cX4_send 57 = .ok (.invokevirtual 374, 3) := dk_182 1 118 (dk_at dksX4_send_2 10 rfl rfl)
theorem dX4_send_60 : decode cX4_send 60 = .ok (.aload_n 0, 1) := dk_42 (dk_at dksX4_send_2 13 rfl rfl)
theorem dX4_send_61 : decode cX4_send 61 = .ok (.getfield 75, 3) := dk_180 0 75 (dk_at dksX4_send_2 14 rfl rfl)
theorem dX4_send_64 : decode cX4_send 64 = .ok (.bipush 55, 2) := dk_16 55 (dk_at dksX4_send_2 17 rfl rfl)
theorem dX4_send_66 : decode cX4_send 66 = .ok (.iload_n 1, 1) := dk_27 (dk_at dksX4_send_2 19 rfl rfl)
theorem dX4_send_67 : decode cX4_send 67 = .ok (.iadd, 1) := dk_96 (dk_at dksX4_send_2 20 rfl rfl)
theorem dX4_send_68 : decode cX4_send 68 = .ok (.aload_n 0, 1) := dk_42 (dk_at dksX4_send_2 21 rfl rfl)
theorem dX4_send_69 : decode cX4_send 69 = .ok (.iload_n 2, 1) := dk_28 (dk_at dksX4_send_2 22 rfl rfl)
theorem dX4_send_70 : decode cX4_send 70 = .ok (.aload_n 0, 1) := dk_42 (dk_at dksX4_send_2 23 rfl rfl)
theorem dX4_send_71 : decode cX4_send 71 = .ok (.getfield 75, 3) := dk_180 0 75 (dk_at dksX4_send_3 0 rfl rfl)
theorem dX4_send_74 : decode cX4_send 74 = .ok (.bipush 55, 2) := dk_16 55 (dk_at dksX4_send_3 3 rfl rfl)
theorem dX4_send_76 : decode cX4_send 76 = .ok (.iload_n 1, 1) := dk_27 (dk_at dksX4_send_3 5 rfl rfl)
theorem dX4_send_77 : decode cX4_send 77 = .ok (.iadd, 1) := dk_96 (dk_at dksX4_send_3 6 rfl rfl)
theorem dX4_send_78 : decode cX4_send 78 = .ok (.iaload, 1) := dk_46 (dk_at dksX4_send_3 7 rfl rfl)
theorem dX4_send_79 : decode cX4_send 79 = .ok (.invokevirtual 380, 3) := dk_182 1 124 (dk_at dksX4_send_3 8 rfl rfl)
theorem dX4_send_82 : decode cX4_send 82 = .ok (.iastore, 1) := dk_79 (dk_at dksX4_send_3 11 rfl rfl)
theorem dX4_send_83 : decode cX4_send 83 = .ok (.aload_n 0, 1) := dk_42 (dk_at dksX4_send_3 12 rfl rfl)
theorem dX4_send_84 : decode cX4_send 84 = .ok (.getfield 75, 3) := dk_180 0 75 (dk_at dksX4_send_3 13 rfl rfl)
theorem dX4_send_87 : decode cX4_send 87 = .ok (.bipush 65, 2) := dk_16 65 (dk_at dksX4_send_3 16 rfl rfl)
theorem dX4_send_89 : decode cX4_send 89 = .ok (.iload_n 1, 1) := dk_27 (dk_at dksX4_send_3 18 rfl rfl)
theorem dX4_send_90 : decode cX4_send 90 = .ok (.iadd, 1) := dk_96 (dk_at dksX4_send_3 19 rfl rfl)
theorem dX4_send_91 : decode cX4_send 91 = .ok (.aload_n 0, 1) := dk_42 (dk_at dksX4_send_3 20 rfl rfl)
theorem dX4_send_92 : decode cX4_send 92 = .ok (.getfield 26, 3) := dk_180 0 26 (dk_at dksX4_send_3 21 rfl rfl)
theorem dX4_send_95 : decode cX4_send 95 = .ok (.iload_n 2, 1) := dk_28 (dk_at dksX4_send_4 0 rfl rfl)
theorem dX4_send_96 : decode cX4_send 96 = .ok (.iaload, 1) := dk_46 (dk_at dksX4_send_4 1 rfl rfl)
theorem dX4_send_97 : decode cX4_send 97 = .ok (.iastore, 1) := dk_79 (dk_at dksX4_send_4 2 rfl rfl)
theorem dX4_send_98 : decode cX4_send 98 = .ok (.aload_n 0, 1) := dk_42 (dk_at dksX4_send_4 3 rfl rfl)
theorem dX4_send_99 : decode cX4_send 99 = .ok (.getfield 75, 3) := dk_180 0 75 (dk_at dksX4_send_4 4 rfl rfl)
theorem dX4_send_102 : decode cX4_send 102 = .ok (.bipush 75, 2) := dk_16 75 (dk_at dksX4_send_4 7 rfl rfl)
theorem dX4_send_104 : decode cX4_send 104 = .ok (.iload_n 1, 1) := dk_27 (dk_at dksX4_send_4 9 rfl rfl)
theorem dX4_send_105 : decode cX4_send 105 = .ok (.iadd, 1) := dk_96 (dk_at dksX4_send_4 10 rfl rfl)
theorem dX4_send_106 : decode cX4_send 106 = .ok (.aload_n 0, 1) := dk_42 (dk_at dksX4_send_4 11 rfl rfl)
theorem dX4_send_107 : decode cX4_send 107 = .ok (.getfield 29, 3) := dk_180 0 29 (dk_at dksX4_send_4 12 rfl rfl)
theorem dX4_send_110 : decode cX4_send 110 = .ok (.iload_n 2, 1) := dk_28 (dk_at dksX4_send_4 15 rfl rfl)
theorem dX4_send_111 : decode cX4_send 111 = .ok (.iaload, 1) := dk_46 (dk_at dksX4_send_4 16 rfl rfl)
theorem dX4_send_112 : decode cX4_send 112 = .ok (.iastore, 1) := dk_79 (dk_at dksX4_send_4 17 rfl rfl)
theorem dX4_send_113 : decode cX4_send 113 = .ok (.aload_n 0, 1) := dk_42 (dk_at dksX4_send_4 18 rfl rfl)
theorem dX4_send_114 : decode cX4_send 114 = .ok (.getfield 75, 3) := dk_180 0 75 (dk_at dksX4_send_4 19 rfl rfl)
theorem dX4_send_117 : decode cX4_send 117 = .ok (.bipush 55, 2) := dk_16 55 (dk_at dksX4_send_4 22 rfl rfl)
theorem dX4_send_119 : decode cX4_send 119 = .ok (.iload_n 1, 1) := dk_27 (dk_at dksX4_send_5 0 rfl rfl)
theorem dX4_send_120 : decode cX4_send 120 = .ok (.iadd, 1) := dk_96 (dk_at dksX4_send_5 1 rfl rfl)
theorem dX4_send_121 : decode cX4_send 121 = .ok (.iaload, 1) := dk_46 (dk_at dksX4_send_5 2 rfl rfl)
theorem dX4_send_122 : decode cX4_send 122 = .ok (.ireturn, 1) := dk_172 (dk_at dksX4_send_5 3 rfl rfl)
abbrev cX4_isWay : ByteArray := prog_13_method_64_code
def yX4_isWay : MethodName := ⟨RX4, "isWay", "(I)Z"⟩
def dkwX4_isWay_0 : List UInt8 := [42, 27, 155, 0, 15, 27, 42, 180, 1, 28, 162, 0, 7, 4, 167, 0, 4, 3, 4, 182, 1, 18, 172]
abbrev dktX4_isWay_0 : List UInt8 := dkwX4_isWay_0 ++ []
theorem dksX4_isWay_0 : cX4_isWay.data.toList.drop 0 = dktX4_isWay_0 := by decide +kernel
theorem dX4_isWay_0 : decode cX4_isWay 0 = .ok (.aload_n 0, 1) := dk_42 (dk_at dksX4_isWay_0 0 rfl rfl)
theorem dX4_isWay_1 : decode cX4_isWay 1 = .ok (.iload_n 1, 1) := dk_27 (dk_at dksX4_isWay_0 1 rfl rfl)
theorem dX4_isWay_2 : decode cX4_isWay 2 = .ok (.ifCond .lt 15, 3) := dk_155 0 15 (dk_at dksX4_isWay_0 2 rfl rfl)
theorem dX4_isWay_5 : decode cX4_isWay 5 = .ok (.iload_n 1, 1) := dk_27 (dk_at dksX4_isWay_0 5 rfl rfl)
theorem dX4_isWay_6 : decode cX4_isWay 6 = .ok (.aload_n 0, 1) := dk_42 (dk_at dksX4_isWay_0 6 rfl rfl)
theorem dX4_isWay_7 : decode cX4_isWay 7 = .ok (.getfield 284, 3) := dk_180 1 28 (dk_at dksX4_isWay_0 7 rfl rfl)
theorem dX4_isWay_10 : decode cX4_isWay 10 = .ok (.if_icmp .ge 7, 3) := dk_162 0 7 (dk_at dksX4_isWay_0 10 rfl rfl)
theorem dX4_isWay_13 : decode cX4_isWay 13 = .ok (.iconst 1, 1) := dk_4 (dk_at dksX4_isWay_0 13 rfl rfl)
theorem dX4_isWay_14 : decode cX4_isWay 14 = .ok (.goto 4, 3) := dk_167 0 4 (dk_at dksX4_isWay_0 14 rfl rfl)
theorem dX4_isWay_17 : decode cX4_isWay 17 = .ok (.iconst 0, 1) := dk_3 (dk_at dksX4_isWay_0 17 rfl rfl)
theorem dX4_isWay_18 : decode cX4_isWay 18 = .ok (.iconst 1, 1) := dk_4 (dk_at dksX4_isWay_0 18 rfl rfl)
theorem dX4_isWay_19 : decode cX4_isWay 19 = .ok (.invokevirtual 274, 3) := dk_182 1 18 (dk_at dksX4_isWay_0 19 rfl rfl)
theorem dX4_isWay_22 : decode cX4_isWay 22 = .ok (.ireturn, 1) := dk_172 (dk_at dksX4_isWay_0 22 rfl rfl)
abbrev cX4_leads : ByteArray := prog_13_method_69_code
def yX4_leads : MethodName := ⟨RX4, "leads", "(II)I"⟩
def dkwX4_leads_1 : List UInt8 := [46, 28, 160, 0, 12, 42, 180, 0, 20, 27, 46, 167, 0, 4, 2, 172]
abbrev dktX4_leads_1 : List UInt8 := dkwX4_leads_1 ++ []
def dkwX4_leads_0 : List UInt8 := [42, 180, 0, 20, 27, 46, 28, 160, 0, 12, 42, 180, 0, 23, 27, 46, 167, 0, 23, 42, 180, 0, 23, 27]
abbrev dktX4_leads_0 : List UInt8 := dkwX4_leads_0 ++ dktX4_leads_1
theorem dksX4_leads_0 : cX4_leads.data.toList.drop 0 = dktX4_leads_0 := by decide +kernel
theorem dksX4_leads_1 : cX4_leads.data.toList.drop 24 = dktX4_leads_1 := dk_seg dksX4_leads_0 24 rfl rfl
theorem dX4_leads_0 : decode cX4_leads 0 = .ok (.aload_n 0, 1) := dk_42 (dk_at dksX4_leads_0 0 rfl rfl)
theorem dX4_leads_1 : decode cX4_leads 1 = .ok (.getfield 20, 3) := dk_180 0 20 (dk_at dksX4_leads_0 1 rfl rfl)
theorem dX4_leads_4 : decode cX4_leads 4 = .ok (.iload_n 1, 1) := dk_27 (dk_at dksX4_leads_0 4 rfl rfl)
theorem dX4_leads_5 : decode cX4_leads 5 = .ok (.iaload, 1) := dk_46 (dk_at dksX4_leads_0 5 rfl rfl)
theorem dX4_leads_6 : decode cX4_leads 6 = .ok (.iload_n 2, 1) := dk_28 (dk_at dksX4_leads_0 6 rfl rfl)
theorem dX4_leads_7 : decode cX4_leads 7 = .ok (.if_icmp .ne 12, 3) := dk_160 0 12 (dk_at dksX4_leads_0 7 rfl rfl)
theorem dX4_leads_10 : decode cX4_leads 10 = .ok (.aload_n 0, 1) := dk_42 (dk_at dksX4_leads_0 10 rfl rfl)
theorem dX4_leads_11 : decode cX4_leads 11 = .ok (.getfield 23, 3) := dk_180 0 23 (dk_at dksX4_leads_0 11 rfl rfl)
theorem dX4_leads_14 : decode cX4_leads 14 = .ok (.iload_n 1, 1) := dk_27 (dk_at dksX4_leads_0 14 rfl rfl)
theorem dX4_leads_15 : decode cX4_leads 15 = .ok (.iaload, 1) := dk_46 (dk_at dksX4_leads_0 15 rfl rfl)
theorem dX4_leads_16 : decode cX4_leads 16 = .ok (.goto 23, 3) := dk_167 0 23 (dk_at dksX4_leads_0 16 rfl rfl)
theorem dX4_leads_19 : decode cX4_leads 19 = .ok (.aload_n 0, 1) := dk_42 (dk_at dksX4_leads_0 19 rfl rfl)
theorem dX4_leads_20 : decode cX4_leads 20 = .ok (.getfield 23, 3) := dk_180 0 23 (dk_at dksX4_leads_0 20 rfl rfl)
theorem dX4_leads_23 : decode cX4_leads 23 = .ok (.iload_n 1, 1) := dk_27 (dk_at dksX4_leads_0 23 rfl rfl)
theorem dX4_leads_24 : decode cX4_leads 24 = .ok (.iaload, 1) := dk_46 (dk_at dksX4_leads_1 0 rfl rfl)
theorem dX4_leads_25 : decode cX4_leads 25 = .ok (.iload_n 2, 1) := dk_28 (dk_at dksX4_leads_1 1 rfl rfl)
theorem dX4_leads_26 : decode cX4_leads 26 = .ok (.if_icmp .ne 12, 3) := dk_160 0 12 (dk_at dksX4_leads_1 2 rfl rfl)
theorem dX4_leads_29 : decode cX4_leads 29 = .ok (.aload_n 0, 1) := dk_42 (dk_at dksX4_leads_1 5 rfl rfl)
theorem dX4_leads_30 : decode cX4_leads 30 = .ok (.getfield 20, 3) := dk_180 0 20 (dk_at dksX4_leads_1 6 rfl rfl)
theorem dX4_leads_33 : decode cX4_leads 33 = .ok (.iload_n 1, 1) := dk_27 (dk_at dksX4_leads_1 9 rfl rfl)
theorem dX4_leads_34 : decode cX4_leads 34 = .ok (.iaload, 1) := dk_46 (dk_at dksX4_leads_1 10 rfl rfl)
theorem dX4_leads_35 : decode cX4_leads 35 = .ok (.goto 4, 3) := dk_167 0 4 (dk_at dksX4_leads_1 11 rfl rfl)
theorem dX4_leads_38 : decode cX4_leads 38 = .ok (.iconst (-1), 1) := dk_2 (dk_at dksX4_leads_1 14 rfl rfl)
theorem dX4_leads_39 : decode cX4_leads 39 = .ok (.ireturn, 1) := dk_172 (dk_at dksX4_leads_1 15 rfl rfl)
abbrev cX4_open : ByteArray := prog_13_method_72_code
def yX4_open : MethodName := ⟨RX4, "open", "(I)I"⟩
def dkwX4_open_2 : List UInt8 := [182, 1, 127, 28, 172]
abbrev dktX4_open_2 : List UInt8 := dkwX4_open_2 ++ []
def dkwX4_open_1 : List UInt8 := [42, 4, 182, 1, 115, 172, 42, 182, 1, 118, 42, 180, 0, 75, 16, 25, 27, 96, 46, 61, 42, 3, 27]
abbrev dktX4_open_1 : List UInt8 := dkwX4_open_1 ++ dktX4_open_2
def dkwX4_open_0 : List UInt8 := [42, 3, 181, 0, 117, 42, 27, 182, 1, 112, 154, 0, 5, 3, 172, 42, 3, 27, 182, 1, 52, 154, 0, 9]
abbrev dktX4_open_0 : List UInt8 := dkwX4_open_0 ++ dktX4_open_1
theorem dksX4_open_0 : cX4_open.data.toList.drop 0 = dktX4_open_0 := by decide +kernel
theorem dksX4_open_1 : cX4_open.data.toList.drop 24 = dktX4_open_1 := dk_seg dksX4_open_0 24 rfl rfl
theorem dksX4_open_2 : cX4_open.data.toList.drop 47 = dktX4_open_2 := dk_seg dksX4_open_1 23 rfl rfl
theorem dX4_open_0 : decode cX4_open 0 = .ok (.aload_n 0, 1) := dk_42 (dk_at dksX4_open_0 0 rfl rfl)
theorem dX4_open_1 : decode cX4_open 1 = .ok (.iconst 0, 1) := dk_3 (dk_at dksX4_open_0 1 rfl rfl)
theorem dX4_open_2 : decode cX4_open 2 = .ok (.putfield 117, 3) := dk_181 0 117 (dk_at dksX4_open_0 2 rfl rfl)
theorem dX4_open_5 : decode cX4_open 5 = .ok (.aload_n 0, 1) := dk_42 (dk_at dksX4_open_0 5 rfl rfl)
theorem dX4_open_6 : decode cX4_open 6 = .ok (.iload_n 1, 1) := dk_27 (dk_at dksX4_open_0 6 rfl rfl)
theorem dX4_open_7 : decode cX4_open 7 = .ok (.invokevirtual 368, 3) := dk_182 1 112 (dk_at dksX4_open_0 7 rfl rfl)
theorem dX4_open_10 : decode cX4_open 10 = .ok (.ifCond .ne 5, 3) := dk_154 0 5 (dk_at dksX4_open_0 10 rfl rfl)
theorem dX4_open_13 : decode cX4_open 13 = .ok (.iconst 0, 1) := dk_3 (dk_at dksX4_open_0 13 rfl rfl)
theorem dX4_open_14 : decode cX4_open 14 = .ok (.ireturn, 1) := dk_172 (dk_at dksX4_open_0 14 rfl rfl)
theorem dX4_open_15 : decode cX4_open 15 = .ok (.aload_n 0, 1) := dk_42 (dk_at dksX4_open_0 15 rfl rfl)
theorem dX4_open_16 : decode cX4_open 16 = .ok (.iconst 0, 1) := dk_3 (dk_at dksX4_open_0 16 rfl rfl)
theorem dX4_open_17 : decode cX4_open 17 = .ok (.iload_n 1, 1) := dk_27 (dk_at dksX4_open_0 17 rfl rfl)
theorem dX4_open_18 : decode cX4_open 18 = .ok (.invokevirtual 308, 3) := dk_182 1 52 (dk_at dksX4_open_0 18 rfl rfl)
theorem dX4_open_21 : decode cX4_open 21 = .ok (.ifCond .ne 9, 3) := dk_154 0 9 (dk_at dksX4_open_0 21 rfl rfl)
theorem dX4_open_24 : decode cX4_open 24 = .ok (.aload_n 0, 1) := dk_42 (dk_at dksX4_open_1 0 rfl rfl)
theorem dX4_open_25 : decode cX4_open 25 = .ok (.iconst 1, 1) := dk_4 (dk_at dksX4_open_1 1 rfl rfl)
theorem dX4_open_26 : decode cX4_open 26 = .ok (.invokevirtual 371, 3) := dk_182 1 115 (dk_at dksX4_open_1 2 rfl rfl)
theorem dX4_open_29 : decode cX4_open 29 = .ok (.ireturn, 1) := dk_172 (dk_at dksX4_open_1 5 rfl rfl)
theorem dX4_open_30 : decode cX4_open 30 = .ok (.aload_n 0, 1) := dk_42 (dk_at dksX4_open_1 6 rfl rfl)
theorem dX4_open_31 : decode cX4_open 31 = .ok (.invokevirtual 374, 3) := dk_182 1 118 (dk_at dksX4_open_1 7 rfl rfl)
theorem dX4_open_34 : decode cX4_open 34 = .ok (.aload_n 0, 1) := dk_42 (dk_at dksX4_open_1 10 rfl rfl)
theorem dX4_open_35 : decode cX4_open 35 = .ok (.getfield 75, 3) := dk_180 0 75 (dk_at dksX4_open_1 11 rfl rfl)
theorem dX4_open_38 : decode cX4_open 38 = .ok (.bipush 25, 2) := dk_16 25 (dk_at dksX4_open_1 14 rfl rfl)
theorem dX4_open_40 : decode cX4_open 40 = .ok (.iload_n 1, 1) := dk_27 (dk_at dksX4_open_1 16 rfl rfl)
theorem dX4_open_41 : decode cX4_open 41 = .ok (.iadd, 1) := dk_96 (dk_at dksX4_open_1 17 rfl rfl)
theorem dX4_open_42 : decode cX4_open 42 = .ok (.iaload, 1) := dk_46 (dk_at dksX4_open_1 18 rfl rfl)
theorem dX4_open_43 : decode cX4_open 43 = .ok (.istore_n 2, 1) := dk_61 (dk_at dksX4_open_1 19 rfl rfl)
theorem dX4_open_44 : decode cX4_open 44 = .ok (.aload_n 0, 1) := dk_42 (dk_at dksX4_open_1 20 rfl rfl)
theorem dX4_open_45 : decode cX4_open 45 = .ok (.iconst 0, 1) := dk_3 (dk_at dksX4_open_1 21 rfl rfl)
theorem dX4_open_46 : decode cX4_open 46 = .ok (.iload_n 1, 1) := dk_27 (dk_at dksX4_open_1 22 rfl rfl)
theorem dX4_open_47 : decode cX4_open 47 = .ok (.invokevirtual 383, 3) := dk_182 1 127 (dk_at dksX4_open_2 0 rfl rfl)
theorem dX4_open_50 : decode cX4_open 50 = .ok (.iload_n 2, 1) := dk_28 (dk_at dksX4_open_2 3 rfl rfl)
theorem dX4_open_51 : decode cX4_open 51 = .ok (.ireturn, 1) := dk_172 (dk_at dksX4_open_2 4 rfl rfl)
abbrev cX4_opens : ByteArray := prog_13_method_71_code
def yX4_opens : MethodName := ⟨RX4, "opens", "(II)V"⟩
def dkwX4_opens_3 : List UInt8 := [16, 25, 96, 28, 96, 3, 79, 42, 180, 0, 75, 27, 16, 55, 96, 28, 96, 2, 79, 177]
abbrev dktX4_opens_3 : List UInt8 := dkwX4_opens_3 ++ []
def dkwX4_opens_2 : List UInt8 := [180, 0, 75, 27, 16, 25, 96, 28, 96, 46, 96, 3, 17, 39, 15, 184, 1, 55, 79, 42, 180, 0, 75, 27]
abbrev dktX4_opens_2 : List UInt8 := dkwX4_opens_2 ++ dktX4_opens_3
def dkwX4_opens_1 : List UInt8 := [180, 0, 75, 27, 16, 55, 96, 28, 96, 46, 96, 62, 42, 180, 0, 75, 29, 42, 180, 0, 75, 29, 46, 42]
abbrev dktX4_opens_1 : List UInt8 := dkwX4_opens_1 ++ dktX4_opens_2
def dkwX4_opens_0 : List UInt8 := [27, 42, 180, 0, 75, 27, 16, 35, 96, 28, 96, 46, 4, 160, 0, 8, 16, 9, 167, 0, 4, 4, 96, 42]
abbrev dktX4_opens_0 : List UInt8 := dkwX4_opens_0 ++ dktX4_opens_1
theorem dksX4_opens_0 : cX4_opens.data.toList.drop 0 = dktX4_opens_0 := by decide +kernel
theorem dksX4_opens_1 : cX4_opens.data.toList.drop 24 = dktX4_opens_1 := dk_seg dksX4_opens_0 24 rfl rfl
theorem dksX4_opens_2 : cX4_opens.data.toList.drop 48 = dktX4_opens_2 := dk_seg dksX4_opens_1 24 rfl rfl
theorem dksX4_opens_3 : cX4_opens.data.toList.drop 72 = dktX4_opens_3 := dk_seg dksX4_opens_2 24 rfl rfl
theorem dX4_opens_0 : decode cX4_opens 0 = .ok (.iload_n 1, 1) := dk_27 (dk_at dksX4_opens_0 0 rfl rfl)
theorem dX4_opens_1 : decode cX4_opens 1 = .ok (.aload_n 0, 1) := dk_42 (dk_at dksX4_opens_0 1 rfl rfl)
theorem dX4_opens_2 : decode cX4_opens 2 = .ok (.getfield 75, 3) := dk_180 0 75 (dk_at dksX4_opens_0 2 rfl rfl)
theorem dX4_opens_5 : decode cX4_opens 5 = .ok (.iload_n 1, 1) := dk_27 (dk_at dksX4_opens_0 5 rfl rfl)
theorem dX4_opens_6 : decode cX4_opens 6 = .ok (.bipush 35, 2) := dk_16 35 (dk_at dksX4_opens_0 6 rfl rfl)
theorem dX4_opens_8 : decode cX4_opens 8 = .ok (.iadd, 1) := dk_96 (dk_at dksX4_opens_0 8 rfl rfl)
theorem dX4_opens_9 : decode cX4_opens 9 = .ok (.iload_n 2, 1) := dk_28 (dk_at dksX4_opens_0 9 rfl rfl)
theorem dX4_opens_10 : decode cX4_opens 10 = .ok (.iadd, 1) := dk_96 (dk_at dksX4_opens_0 10 rfl rfl)
theorem dX4_opens_11 : decode cX4_opens 11 = .ok (.iaload, 1) := dk_46 (dk_at dksX4_opens_0 11 rfl rfl)
theorem dX4_opens_12 : decode cX4_opens 12 = .ok (.iconst 1, 1) := dk_4 (dk_at dksX4_opens_0 12 rfl rfl)
theorem dX4_opens_13 : decode cX4_opens 13 = .ok (.if_icmp .ne 8, 3) := dk_160 0 8 (dk_at dksX4_opens_0 13 rfl rfl)
theorem dX4_opens_16 : decode cX4_opens 16 = .ok (.bipush 9, 2) := dk_16 9 (dk_at dksX4_opens_0 16 rfl rfl)
theorem dX4_opens_18 : decode cX4_opens 18 = .ok (.goto 4, 3) := dk_167 0 4 (dk_at dksX4_opens_0 18 rfl rfl)
theorem dX4_opens_21 : decode cX4_opens 21 = .ok (.iconst 1, 1) := dk_4 (dk_at dksX4_opens_0 21 rfl rfl)
theorem dX4_opens_22 : decode cX4_opens 22 = .ok (.iadd, 1) := dk_96 (dk_at dksX4_opens_0 22 rfl rfl)
theorem dX4_opens_23 : decode cX4_opens 23 = .ok (.aload_n 0, 1) := dk_42 (dk_at dksX4_opens_0 23 rfl rfl)
theorem dX4_opens_24 : decode cX4_opens 24 = .ok (.getfield 75, 3) := dk_180 0 75 (dk_at dksX4_opens_1 0 rfl rfl)
theorem dX4_opens_27 : decode cX4_opens 27 = .ok (.iload_n 1, 1) := dk_27 (dk_at dksX4_opens_1 3 rfl rfl)
theorem dX4_opens_28 : decode cX4_opens 28 = .ok (.bipush 55, 2) := dk_16 55 (dk_at dksX4_opens_1 4 rfl rfl)
theorem dX4_opens_30 : decode cX4_opens 30 = .ok (.iadd, 1) := dk_96 (dk_at dksX4_opens_1 6 rfl rfl)
theorem dX4_opens_31 : decode cX4_opens 31 = .ok (.iload_n 2, 1) := dk_28 (dk_at dksX4_opens_1 7 rfl rfl)
theorem dX4_opens_32 : decode cX4_opens 32 = .ok (.iadd, 1) := dk_96 (dk_at dksX4_opens_1 8 rfl rfl)
theorem dX4_opens_33 : decode cX4_opens 33 = .ok (.iaload, 1) := dk_46 (dk_at dksX4_opens_1 9 rfl rfl)
theorem dX4_opens_34 : decode cX4_opens 34 = .ok (.iadd, 1) := dk_96 (dk_at dksX4_opens_1 10 rfl rfl)
theorem dX4_opens_35 : decode cX4_opens 35 = .ok (.istore_n 3, 1) := dk_62 (dk_at dksX4_opens_1 11 rfl rfl)
theorem dX4_opens_36 : decode cX4_opens 36 = .ok (.aload_n 0, 1) := dk_42 (dk_at dksX4_opens_1 12 rfl rfl)
theorem dX4_opens_37 : decode cX4_opens 37 = .ok (.getfield 75, 3) := dk_180 0 75 (dk_at dksX4_opens_1 13 rfl rfl)
theorem dX4_opens_40 : decode cX4_opens 40 = .ok (.iload_n 3, 1) := dk_29 (dk_at dksX4_opens_1 16 rfl rfl)
theorem dX4_opens_41 : decode cX4_opens 41 = .ok (.aload_n 0, 1) := dk_42 (dk_at dksX4_opens_1 17 rfl rfl)
theorem dX4_opens_42 : decode cX4_opens 42 = .ok (.getfield 75, 3) := dk_180 0 75 (dk_at dksX4_opens_1 18 rfl rfl)
theorem dX4_opens_45 : decode cX4_opens 45 = .ok (.iload_n 3, 1) := dk_29 (dk_at dksX4_opens_1 21 rfl rfl)
theorem dX4_opens_46 : decode cX4_opens 46 = .ok (.iaload, 1) := dk_46 (dk_at dksX4_opens_1 22 rfl rfl)
theorem dX4_opens_47 : decode cX4_opens 47 = .ok (.aload_n 0, 1) := dk_42 (dk_at dksX4_opens_1 23 rfl rfl)
theorem dX4_opens_48 : decode cX4_opens 48 = .ok (.getfield 75, 3) := dk_180 0 75 (dk_at dksX4_opens_2 0 rfl rfl)
theorem dX4_opens_51 : decode cX4_opens 51 = .ok (.iload_n 1, 1) := dk_27 (dk_at dksX4_opens_2 3 rfl rfl)
theorem dX4_opens_52 : decode cX4_opens 52 = .ok (.bipush 25, 2) := dk_16 25 (dk_at dksX4_opens_2 4 rfl rfl)
theorem dX4_opens_54 : decode cX4_opens 54 = .ok (.iadd, 1) := dk_96 (dk_at dksX4_opens_2 6 rfl rfl)
theorem dX4_opens_55 : decode cX4_opens 55 = .ok (.iload_n 2, 1) := dk_28 (dk_at dksX4_opens_2 7 rfl rfl)
theorem dX4_opens_56 : decode cX4_opens 56 = .ok (.iadd, 1) := dk_96 (dk_at dksX4_opens_2 8 rfl rfl)
theorem dX4_opens_57 : decode cX4_opens 57 = .ok (.iaload, 1) := dk_46 (dk_at dksX4_opens_2 9 rfl rfl)
theorem dX4_opens_58 : decode cX4_opens 58 = .ok (.iadd, 1) := dk_96 (dk_at dksX4_opens_2 10 rfl rfl)
theorem dX4_opens_59 : decode cX4_opens 59 = .ok (.iconst 0, 1) := dk_3 (dk_at dksX4_opens_2 11 rfl rfl)
theorem dX4_opens_60 : decode cX4_opens 60 = .ok (.sipush 9999, 3) := dk_17 39 15 (dk_at dksX4_opens_2 12 rfl rfl)
theorem dX4_opens_63 : decode cX4_opens 63 = .ok (.invokestatic 311, 3) := dk_184 1 55 (dk_at dksX4_opens_2 15 rfl rfl)
theorem dX4_opens_66 : decode cX4_opens 66 = .ok (.iastore, 1) := dk_79 (dk_at dksX4_opens_2 18 rfl rfl)
theorem dX4_opens_67 : decode cX4_opens 67 = .ok (.aload_n 0, 1) := dk_42 (dk_at dksX4_opens_2 19 rfl rfl)
theorem dX4_opens_68 : decode cX4_opens 68 = .ok (.getfield 75, 3) := dk_180 0 75 (dk_at dksX4_opens_2 20 rfl rfl)
theorem dX4_opens_71 : decode cX4_opens 71 = .ok (.iload_n 1, 1) := dk_27 (dk_at dksX4_opens_2 23 rfl rfl)
theorem dX4_opens_72 : decode cX4_opens 72 = .ok (.bipush 25, 2) := dk_16 25 (dk_at dksX4_opens_3 0 rfl rfl)
theorem dX4_opens_74 : decode cX4_opens 74 = .ok (.iadd, 1) := dk_96 (dk_at dksX4_opens_3 2 rfl rfl)
theorem dX4_opens_75 : decode cX4_opens 75 = .ok (.iload_n 2, 1) := dk_28 (dk_at dksX4_opens_3 3 rfl rfl)
theorem dX4_opens_76 : decode cX4_opens 76 = .ok (.iadd, 1) := dk_96 (dk_at dksX4_opens_3 4 rfl rfl)
theorem dX4_opens_77 : decode cX4_opens 77 = .ok (.iconst 0, 1) := dk_3 (dk_at dksX4_opens_3 5 rfl rfl)
theorem dX4_opens_78 : decode cX4_opens 78 = .ok (.iastore, 1) := dk_79 (dk_at dksX4_opens_3 6 rfl rfl)
theorem dX4_opens_79 : decode cX4_opens 79 = .ok (.aload_n 0, 1) := dk_42 (dk_at dksX4_opens_3 7 rfl rfl)
theorem dX4_opens_80 : decode cX4_opens 80 = .ok (.getfield 75, 3) := dk_180 0 75 (dk_at dksX4_opens_3 8 rfl rfl)
theorem dX4_opens_83 : decode cX4_opens 83 = .ok (.iload_n 1, 1) := dk_27 (dk_at dksX4_opens_3 11 rfl rfl)
theorem dX4_opens_84 : decode cX4_opens 84 = .ok (.bipush 55, 2) := dk_16 55 (dk_at dksX4_opens_3 12 rfl rfl)
theorem dX4_opens_86 : decode cX4_opens 86 = .ok (.iadd, 1) := dk_96 (dk_at dksX4_opens_3 14 rfl rfl)
theorem dX4_opens_87 : decode cX4_opens 87 = .ok (.iload_n 2, 1) := dk_28 (dk_at dksX4_opens_3 15 rfl rfl)
theorem dX4_opens_88 : decode cX4_opens 88 = .ok (.iadd, 1) := dk_96 (dk_at dksX4_opens_3 16 rfl rfl)
theorem dX4_opens_89 : decode cX4_opens 89 = .ok (.iconst (-1), 1) := dk_2 (dk_at dksX4_opens_3 17 rfl rfl)
theorem dX4_opens_90 : decode cX4_opens 90 = .ok (.iastore, 1) := dk_79 (dk_at dksX4_opens_3 18 rfl rfl)
theorem dX4_opens_91 : decode cX4_opens 91 = .ok (.return_, 1) := dk_177 (dk_at dksX4_opens_3 19 rfl rfl)
abbrev cX4_cat : ByteArray := prog_13_method_73_code
def yX4_cat : MethodName := ⟨RX4, "cat", "(IZ)Z"⟩
def dkwX4_cat_3 : List UInt8 := [180, 0, 75, 16, 45, 27, 96, 29, 79, 4, 172]
abbrev dktX4_cat_3 : List UInt8 := dkwX4_cat_3 ++ []
def dkwX4_cat_2 : List UInt8 := [160, 0, 17, 42, 4, 182, 1, 115, 158, 0, 7, 4, 167, 0, 4, 3, 172, 42, 182, 1, 118, 42]
abbrev dktX4_cat_2 : List UInt8 := dkwX4_cat_2 ++ dktX4_cat_3
def dkwX4_cat_1 : List UInt8 := [62, 42, 180, 0, 75, 16, 55, 27, 96, 46, 2, 159, 0, 16, 42, 180, 0, 75, 16, 45, 27, 96, 46, 29]
abbrev dktX4_cat_1 : List UInt8 := dkwX4_cat_1 ++ dktX4_cat_2
def dkwX4_cat_0 : List UInt8 := [42, 3, 181, 0, 117, 42, 27, 182, 1, 112, 154, 0, 5, 3, 172, 28, 153, 0, 7, 4, 167, 0, 4, 3]
abbrev dktX4_cat_0 : List UInt8 := dkwX4_cat_0 ++ dktX4_cat_1
theorem dksX4_cat_0 : cX4_cat.data.toList.drop 0 = dktX4_cat_0 := by decide +kernel
theorem dksX4_cat_1 : cX4_cat.data.toList.drop 24 = dktX4_cat_1 := dk_seg dksX4_cat_0 24 rfl rfl
theorem dksX4_cat_2 : cX4_cat.data.toList.drop 48 = dktX4_cat_2 := dk_seg dksX4_cat_1 24 rfl rfl
theorem dksX4_cat_3 : cX4_cat.data.toList.drop 70 = dktX4_cat_3 := dk_seg dksX4_cat_2 22 rfl rfl
theorem dX4_cat_0 : decode cX4_cat 0 = .ok (.aload_n 0, 1) := dk_42 (dk_at dksX4_cat_0 0 rfl rfl)
theorem dX4_cat_1 : decode cX4_cat 1 = .ok (.iconst 0, 1) := dk_3 (dk_at dksX4_cat_0 1 rfl rfl)
theorem dX4_cat_2 : decode cX4_cat 2 = .ok (.putfield 117, 3) := dk_181 0 117 (dk_at dksX4_cat_0 2 rfl rfl)
theorem dX4_cat_5 : decode cX4_cat 5 = .ok (.aload_n 0, 1) := dk_42 (dk_at dksX4_cat_0 5 rfl rfl)
theorem dX4_cat_6 : decode cX4_cat 6 = .ok (.iload_n 1, 1) := dk_27 (dk_at dksX4_cat_0 6 rfl rfl)
theorem dX4_cat_7 : decode cX4_cat 7 = .ok (.invokevirtual 368, 3) := dk_182 1 112 (dk_at dksX4_cat_0 7 rfl rfl)
theorem dX4_cat_10 : decode cX4_cat 10 = .ok (.ifCond .ne 5, 3) := dk_154 0 5 (dk_at dksX4_cat_0 10 rfl rfl)
theorem dX4_cat_13 : decode cX4_cat 13 = .ok (.iconst 0, 1) := dk_3 (dk_at dksX4_cat_0 13 rfl rfl)
theorem dX4_cat_14 : decode cX4_cat 14 = .ok (.ireturn, 1) := dk_172 (dk_at dksX4_cat_0 14 rfl rfl)
theorem dX4_cat_15 : decode cX4_cat 15 = .ok (.iload_n 2, 1) := dk_28 (dk_at dksX4_cat_0 15 rfl rfl)
theorem dX4_cat_16 : decode cX4_cat 16 = .ok (.ifCond .eq 7, 3) := dk_153 0 7 (dk_at dksX4_cat_0 16 rfl rfl)
theorem dX4_cat_19 : decode cX4_cat 19 = .ok (.iconst 1, 1) := dk_4 (dk_at dksX4_cat_0 19 rfl rfl)
theorem dX4_cat_20 : decode cX4_cat 20 = .ok (.goto 4, 3) := dk_167 0 4 (dk_at dksX4_cat_0 20 rfl rfl)
theorem dX4_cat_23 : decode cX4_cat 23 = .ok (.iconst 0, 1) := dk_3 (dk_at dksX4_cat_0 23 rfl rfl)
theorem dX4_cat_24 : decode cX4_cat 24 = .ok (.istore_n 3, 1) := dk_62 (dk_at dksX4_cat_1 0 rfl rfl)
theorem dX4_cat_25 : decode cX4_cat 25 = .ok (.aload_n 0, 1) := dk_42 (dk_at dksX4_cat_1 1 rfl rfl)
theorem dX4_cat_26 : decode cX4_cat 26 = .ok (.getfield 75, 3) := dk_180 0 75 (dk_at dksX4_cat_1 2 rfl rfl)
theorem dX4_cat_29 : decode cX4_cat 29 = .ok (.bipush 55, 2) := dk_16 55 (dk_at dksX4_cat_1 5 rfl rfl)
theorem dX4_cat_31 : decode cX4_cat 31 = .ok (.iload_n 1, 1) := dk_27 (dk_at dksX4_cat_1 7 rfl rfl)
theorem dX4_cat_32 : decode cX4_cat 32 = .ok (.iadd, 1) := dk_96 (dk_at dksX4_cat_1 8 rfl rfl)
theorem dX4_cat_33 : decode cX4_cat 33 = .ok (.iaload, 1) := dk_46 (dk_at dksX4_cat_1 9 rfl rfl)
theorem dX4_cat_34 : decode cX4_cat 34 = .ok (.iconst (-1), 1) := dk_2 (dk_at dksX4_cat_1 10 rfl rfl)
theorem dX4_cat_35 : decode cX4_cat 35 = .ok (.if_icmp .eq 16, 3) := dk_159 0 16 (dk_at dksX4_cat_1 11 rfl rfl)
theorem dX4_cat_38 : decode cX4_cat 38 = .ok (.aload_n 0, 1) := dk_42 (dk_at dksX4_cat_1 14 rfl rfl)
theorem dX4_cat_39 : decode cX4_cat 39 = .ok (.getfield 75, 3) := dk_180 0 75 (dk_at dksX4_cat_1 15 rfl rfl)
theorem dX4_cat_42 : decode cX4_cat 42 = .ok (.bipush 45, 2) := dk_16 45 (dk_at dksX4_cat_1 18 rfl rfl)
theorem dX4_cat_44 : decode cX4_cat 44 = .ok (.iload_n 1, 1) := dk_27 (dk_at dksX4_cat_1 20 rfl rfl)
theorem dX4_cat_45 : decode cX4_cat 45 = .ok (.iadd, 1) := dk_96 (dk_at dksX4_cat_1 21 rfl rfl)
theorem dX4_cat_46 : decode cX4_cat 46 = .ok (.iaload, 1) := dk_46 (dk_at dksX4_cat_1 22 rfl rfl)
theorem dX4_cat_47 : decode cX4_cat 47 = .ok (.iload_n 3, 1) := dk_29 (dk_at dksX4_cat_1 23 rfl rfl)
theorem dX4_cat_48 : decode cX4_cat 48 = .ok (.if_icmp .ne 17, 3) := dk_160 0 17 (dk_at dksX4_cat_2 0 rfl rfl)
theorem dX4_cat_51 : decode cX4_cat 51 = .ok (.aload_n 0, 1) := dk_42 (dk_at dksX4_cat_2 3 rfl rfl)
theorem dX4_cat_52 : decode cX4_cat 52 = .ok (.iconst 1, 1) := dk_4 (dk_at dksX4_cat_2 4 rfl rfl)
theorem dX4_cat_53 : decode cX4_cat 53 = .ok (.invokevirtual 371, 3) := dk_182 1 115 (dk_at dksX4_cat_2 5 rfl rfl)
theorem dX4_cat_56 : decode cX4_cat 56 = .ok (.ifCond .le 7, 3) := dk_158 0 7 (dk_at dksX4_cat_2 8 rfl rfl)
theorem dX4_cat_59 : decode cX4_cat 59 = .ok (.iconst 1, 1) := dk_4 (dk_at dksX4_cat_2 11 rfl rfl)
theorem dX4_cat_60 : decode cX4_cat 60 = .ok (.goto 4, 3) := dk_167 0 4 (dk_at dksX4_cat_2 12 rfl rfl)
theorem dX4_cat_63 : decode cX4_cat 63 = .ok (.iconst 0, 1) := dk_3 (dk_at dksX4_cat_2 15 rfl rfl)
theorem dX4_cat_64 : decode cX4_cat 64 = .ok (.ireturn, 1) := dk_172 (dk_at dksX4_cat_2 16 rfl rfl)
theorem dX4_cat_65 : decode cX4_cat 65 = .ok (.aload_n 0, 1) := dk_42 (dk_at dksX4_cat_2 17 rfl rfl)
theorem dX4_cat_66 : decode cX4_cat 66 = .ok (.invokevirtual 374, 3) := dk_182 1 118 (dk_at dksX4_cat_2 18 rfl rfl)
theorem dX4_cat_69 : decode cX4_cat 69 = .ok (.aload_n 0, 1) := dk_42 (dk_at dksX4_cat_2 21 rfl rfl)
theorem dX4_cat_70 : decode cX4_cat 70 = .ok (.getfield 75, 3) := dk_180 0 75 (dk_at dksX4_cat_3 0 rfl rfl)
theorem dX4_cat_73 : decode cX4_cat 73 = .ok (.bipush 45, 2) := dk_16 45 (dk_at dksX4_cat_3 3 rfl rfl)
theorem dX4_cat_75 : decode cX4_cat 75 = .ok (.iload_n 1, 1) := dk_27 (dk_at dksX4_cat_3 5 rfl rfl)
theorem dX4_cat_76 : decode cX4_cat 76 = .ok (.iadd, 1) := dk_96 (dk_at dksX4_cat_3 6 rfl rfl)
theorem dX4_cat_77 : decode cX4_cat 77 = .ok (.iload_n 3, 1) := dk_29 (dk_at dksX4_cat_3 7 rfl rfl)
theorem dX4_cat_78 : decode cX4_cat 78 = .ok (.iastore, 1) := dk_79 (dk_at dksX4_cat_3 8 rfl rfl)
theorem dX4_cat_79 : decode cX4_cat 79 = .ok (.iconst 1, 1) := dk_4 (dk_at dksX4_cat_3 9 rfl rfl)
theorem dX4_cat_80 : decode cX4_cat 80 = .ok (.ireturn, 1) := dk_172 (dk_at dksX4_cat_3 10 rfl rfl)
abbrev cX4_mix : ByteArray := prog_13_method_74_code
def yX4_mix : MethodName := ⟨RX4, "mix", "(II)I"⟩
def dkwX4_mix_9 : List UInt8 := [79, 42, 180, 0, 75, 16, 55, 28, 96, 2, 79, 42, 180, 0, 75, 16, 25, 27, 96, 46, 172]
abbrev dktX4_mix_9 : List UInt8 := dkwX4_mix_9 ++ []
def dkwX4_mix_8 : List UInt8 := [164, 0, 10, 29, 21, 4, 100, 167, 0, 7, 21, 4, 29, 100, 79, 42, 180, 0, 75, 16, 25, 28, 96, 3]
abbrev dktX4_mix_8 : List UInt8 := dkwX4_mix_8 ++ dktX4_mix_9
def dkwX4_mix_7 : List UInt8 := [96, 21, 5, 153, 0, 16, 29, 21, 4, 96, 3, 16, 99, 184, 1, 55, 167, 0, 20, 29, 21, 4]
abbrev dktX4_mix_7 : List UInt8 := dkwX4_mix_7 ++ dktX4_mix_8
def dkwX4_mix_6 : List UInt8 := [180, 0, 75, 16, 35, 27, 96, 42, 180, 0, 75, 16, 35, 28, 96, 46, 79, 42, 180, 0, 75, 16, 25, 27]
abbrev dktX4_mix_6 : List UInt8 := dkwX4_mix_6 ++ dktX4_mix_7
def dkwX4_mix_5 : List UInt8 := [160, 0, 7, 4, 167, 0, 4, 3, 54, 5, 21, 5, 154, 0, 27, 21, 4, 29, 164, 0, 21, 42]
abbrev dktX4_mix_5 : List UInt8 := dkwX4_mix_5 ++ dktX4_mix_6
def dkwX4_mix_4 : List UInt8 := [28, 96, 46, 54, 4, 42, 180, 0, 75, 16, 35, 27, 96, 46, 42, 180, 0, 75, 16, 35, 28, 96, 46]
abbrev dktX4_mix_4 : List UInt8 := dkwX4_mix_4 ++ dktX4_mix_5
def dkwX4_mix_3 : List UInt8 := [182, 1, 115, 172, 42, 182, 1, 118, 42, 180, 0, 75, 16, 25, 27, 96, 46, 62, 42, 180, 0, 75, 16, 25]
abbrev dktX4_mix_3 : List UInt8 := dkwX4_mix_3 ++ dktX4_mix_4
def dkwX4_mix_2 : List UInt8 := [180, 0, 75, 16, 55, 27, 96, 46, 42, 180, 0, 75, 16, 55, 28, 96, 46, 159, 0, 9, 42, 4]
abbrev dktX4_mix_2 : List UInt8 := dkwX4_mix_2 ++ dktX4_mix_3
def dkwX4_mix_1 : List UInt8 := [28, 159, 0, 42, 42, 3, 27, 182, 1, 52, 153, 0, 33, 42, 3, 28, 182, 1, 52, 153, 0, 24, 42]
abbrev dktX4_mix_1 : List UInt8 := dkwX4_mix_1 ++ dktX4_mix_2
def dkwX4_mix_0 : List UInt8 := [42, 3, 181, 0, 117, 42, 27, 182, 1, 112, 153, 0, 11, 42, 28, 182, 1, 112, 154, 0, 5, 3, 172, 27]
abbrev dktX4_mix_0 : List UInt8 := dkwX4_mix_0 ++ dktX4_mix_1
theorem dksX4_mix_0 : cX4_mix.data.toList.drop 0 = dktX4_mix_0 := by decide +kernel
theorem dksX4_mix_1 : cX4_mix.data.toList.drop 24 = dktX4_mix_1 := dk_seg dksX4_mix_0 24 rfl rfl
theorem dksX4_mix_2 : cX4_mix.data.toList.drop 47 = dktX4_mix_2 := dk_seg dksX4_mix_1 23 rfl rfl
theorem dksX4_mix_3 : cX4_mix.data.toList.drop 69 = dktX4_mix_3 := dk_seg dksX4_mix_2 22 rfl rfl
theorem dksX4_mix_4 : cX4_mix.data.toList.drop 93 = dktX4_mix_4 := dk_seg dksX4_mix_3 24 rfl rfl
theorem dksX4_mix_5 : cX4_mix.data.toList.drop 116 = dktX4_mix_5 := dk_seg dksX4_mix_4 23 rfl rfl
theorem dksX4_mix_6 : cX4_mix.data.toList.drop 138 = dktX4_mix_6 := dk_seg dksX4_mix_5 22 rfl rfl
theorem dksX4_mix_7 : cX4_mix.data.toList.drop 162 = dktX4_mix_7 := dk_seg dksX4_mix_6 24 rfl rfl
theorem dksX4_mix_8 : cX4_mix.data.toList.drop 184 = dktX4_mix_8 := dk_seg dksX4_mix_7 22 rfl rfl
theorem dksX4_mix_9 : cX4_mix.data.toList.drop 208 = dktX4_mix_9 := dk_seg dksX4_mix_8 24 rfl rfl
theorem dX4_mix_0 : decode cX4_mix 0 = .ok (.aload_n 0, 1) := dk_42 (dk_at dksX4_mix_0 0 rfl rfl)
theorem dX4_mix_1 : decode cX4_mix 1 = .ok (.iconst 0, 1) := dk_3 (dk_at dksX4_mix_0 1 rfl rfl)
theorem dX4_mix_2 : decode cX4_mix 2 = .ok (.putfield 117, 3) := dk_181 0 117 (dk_at dksX4_mix_0 2 rfl rfl)
theorem dX4_mix_5 : decode cX4_mix 5 = .ok (.aload_n 0, 1) := dk_42 (dk_at dksX4_mix_0 5 rfl rfl)
theorem dX4_mix_6 : decode cX4_mix 6 = .ok (.iload_n 1, 1) := dk_27 (dk_at dksX4_mix_0 6 rfl rfl)
theorem dX4_mix_7 : decode cX4_mix 7 = .ok (.invokevirtual 368, 3) := dk_182 1 112 (dk_at dksX4_mix_0 7 rfl rfl)
theorem dX4_mix_10 : decode cX4_mix 10 = .ok (.ifCond .eq 11, 3) := dk_153 0 11 (dk_at dksX4_mix_0 10 rfl rfl)
theorem dX4_mix_13 : decode cX4_mix 13 = .ok (.aload_n 0, 1) := dk_42 (dk_at dksX4_mix_0 13 rfl rfl)
theorem dX4_mix_14 : decode cX4_mix 14 = .ok (.iload_n 2, 1) := dk_28 (dk_at dksX4_mix_0 14 rfl rfl)
theorem dX4_mix_15 : decode cX4_mix 15 = .ok (.invokevirtual 368, 3) := dk_182 1 112 (dk_at dksX4_mix_0 15 rfl rfl)
theorem dX4_mix_18 : decode cX4_mix 18 = .ok (.ifCond .ne 5, 3) := dk_154 0 5 (dk_at dksX4_mix_0 18 rfl rfl)
theorem dX4_mix_21 : decode cX4_mix 21 = .ok (.iconst 0, 1) := dk_3 (dk_at dksX4_mix_0 21 rfl rfl)
theorem dX4_mix_22 : decode cX4_mix 22 = .ok (.ireturn, 1) := dk_172 (dk_at dksX4_mix_0 22 rfl rfl)
theorem dX4_mix_23 : decode cX4_mix 23 = .ok (.iload_n 1, 1) := dk_27 (dk_at dksX4_mix_0 23 rfl rfl)
theorem dX4_mix_24 : decode cX4_mix 24 = .ok (.iload_n 2, 1) := dk_28 (dk_at dksX4_mix_1 0 rfl rfl)
theorem dX4_mix_25 : decode cX4_mix 25 = .ok (.if_icmp .eq 42, 3) := dk_159 0 42 (dk_at dksX4_mix_1 1 rfl rfl)
theorem dX4_mix_28 : decode cX4_mix 28 = .ok (.aload_n 0, 1) := dk_42 (dk_at dksX4_mix_1 4 rfl rfl)
theorem dX4_mix_29 : decode cX4_mix 29 = .ok (.iconst 0, 1) := dk_3 (dk_at dksX4_mix_1 5 rfl rfl)
theorem dX4_mix_30 : decode cX4_mix 30 = .ok (.iload_n 1, 1) := dk_27 (dk_at dksX4_mix_1 6 rfl rfl)
theorem dX4_mix_31 : decode cX4_mix 31 = .ok (.invokevirtual 308, 3) := dk_182 1 52 (dk_at dksX4_mix_1 7 rfl rfl)
theorem dX4_mix_34 : decode cX4_mix 34 = .ok (.ifCond .eq 33, 3) := dk_153 0 33 (dk_at dksX4_mix_1 10 rfl rfl)
theorem dX4_mix_37 : decode cX4_mix 37 = .ok (.aload_n 0, 1) := dk_42 (dk_at dksX4_mix_1 13 rfl rfl)
theorem dX4_mix_38 : decode cX4_mix 38 = .ok (.iconst 0, 1) := dk_3 (dk_at dksX4_mix_1 14 rfl rfl)
theorem dX4_mix_39 : decode cX4_mix 39 = .ok (.iload_n 2, 1) := dk_28 (dk_at dksX4_mix_1 15 rfl rfl)
theorem dX4_mix_40 : decode cX4_mix 40 = .ok (.invokevirtual 308, 3) := dk_182 1 52 (dk_at dksX4_mix_1 16 rfl rfl)
theorem dX4_mix_43 : decode cX4_mix 43 = .ok (.ifCond .eq 24, 3) := dk_153 0 24 (dk_at dksX4_mix_1 19 rfl rfl)
theorem dX4_mix_46 : decode cX4_mix 46 = .ok (.aload_n 0, 1) := dk_42 (dk_at dksX4_mix_1 22 rfl rfl)
theorem dX4_mix_47 : decode cX4_mix 47 = .ok (.getfield 75, 3) := dk_180 0 75 (dk_at dksX4_mix_2 0 rfl rfl)
theorem dX4_mix_50 : decode cX4_mix 50 = .ok (.bipush 55, 2) := dk_16 55 (dk_at dksX4_mix_2 3 rfl rfl)
theorem dX4_mix_52 : decode cX4_mix 52 = .ok (.iload_n 1, 1) := dk_27 (dk_at dksX4_mix_2 5 rfl rfl)
theorem dX4_mix_53 : decode cX4_mix 53 = .ok (.iadd, 1) := dk_96 (dk_at dksX4_mix_2 6 rfl rfl)
theorem dX4_mix_54 : decode cX4_mix 54 = .ok (.iaload, 1) := dk_46 (dk_at dksX4_mix_2 7 rfl rfl)
theorem dX4_mix_55 : decode cX4_mix 55 = .ok (.aload_n 0, 1) := dk_42 (dk_at dksX4_mix_2 8 rfl rfl)
theorem dX4_mix_56 : decode cX4_mix 56 = .ok (.getfield 75, 3) := dk_180 0 75 (dk_at dksX4_mix_2 9 rfl rfl)
theorem dX4_mix_59 : decode cX4_mix 59 = .ok (.bipush 55, 2) := dk_16 55 (dk_at dksX4_mix_2 12 rfl rfl)
theorem dX4_mix_61 : decode cX4_mix 61 = .ok (.iload_n 2, 1) := dk_28 (dk_at dksX4_mix_2 14 rfl rfl)
theorem dX4_mix_62 : decode cX4_mix 62 = .ok (.iadd, 1) := dk_96 (dk_at dksX4_mix_2 15 rfl rfl)
theorem dX4_mix_63 : decode cX4_mix 63 = .ok (.iaload, 1) := dk_46 (dk_at dksX4_mix_2 16 rfl rfl)
theorem dX4_mix_64 : decode cX4_mix 64 = .ok (.if_icmp .eq 9, 3) := dk_159 0 9 (dk_at dksX4_mix_2 17 rfl rfl)
theorem dX4_mix_67 : decode cX4_mix 67 = .ok (.aload_n 0, 1) := dk_42 (dk_at dksX4_mix_2 20 rfl rfl)
theorem dX4_mix_68 : decode cX4_mix 68 = .ok (.iconst 1, 1) := dk_4 (dk_at dksX4_mix_2 21 rfl rfl)
theorem dX4_mix_69 : decode cX4_mix 69 = .ok (.invokevirtual 371, 3) := dk_182 1 115 (dk_at dksX4_mix_3 0 rfl rfl)
theorem dX4_mix_72 : decode cX4_mix 72 = .ok (.ireturn, 1) := dk_172 (dk_at dksX4_mix_3 3 rfl rfl)
theorem dX4_mix_73 : decode cX4_mix 73 = .ok (.aload_n 0, 1) := dk_42 (dk_at dksX4_mix_3 4 rfl rfl)
theorem dX4_mix_74 : decode cX4_mix 74 = .ok (.invokevirtual 374, 3) := dk_182 1 118 (dk_at dksX4_mix_3 5 rfl rfl)
theorem dX4_mix_77 : decode cX4_mix 77 = .ok (.aload_n 0, 1) := dk_42 (dk_at dksX4_mix_3 8 rfl rfl)
theorem dX4_mix_78 : decode cX4_mix 78 = .ok (.getfield 75, 3) := dk_180 0 75 (dk_at dksX4_mix_3 9 rfl rfl)
theorem dX4_mix_81 : decode cX4_mix 81 = .ok (.bipush 25, 2) := dk_16 25 (dk_at dksX4_mix_3 12 rfl rfl)
theorem dX4_mix_83 : decode cX4_mix 83 = .ok (.iload_n 1, 1) := dk_27 (dk_at dksX4_mix_3 14 rfl rfl)
theorem dX4_mix_84 : decode cX4_mix 84 = .ok (.iadd, 1) := dk_96 (dk_at dksX4_mix_3 15 rfl rfl)
theorem dX4_mix_85 : decode cX4_mix 85 = .ok (.iaload, 1) := dk_46 (dk_at dksX4_mix_3 16 rfl rfl)
theorem dX4_mix_86 : decode cX4_mix 86 = .ok (.istore_n 3, 1) := dk_62 (dk_at dksX4_mix_3 17 rfl rfl)
theorem dX4_mix_87 : decode cX4_mix 87 = .ok (.aload_n 0, 1) := dk_42 (dk_at dksX4_mix_3 18 rfl rfl)
theorem dX4_mix_88 : decode cX4_mix 88 = .ok (.getfield 75, 3) := dk_180 0 75 (dk_at dksX4_mix_3 19 rfl rfl)
theorem dX4_mix_91 : decode cX4_mix 91 = .ok (.bipush 25, 2) := dk_16 25 (dk_at dksX4_mix_3 22 rfl rfl)
theorem dX4_mix_93 : decode cX4_mix 93 = .ok (.iload_n 2, 1) := dk_28 (dk_at dksX4_mix_4 0 rfl rfl)
theorem dX4_mix_94 : decode cX4_mix 94 = .ok (.iadd, 1) := dk_96 (dk_at dksX4_mix_4 1 rfl rfl)
theorem dX4_mix_95 : decode cX4_mix 95 = .ok (.iaload, 1) := dk_46 (dk_at dksX4_mix_4 2 rfl rfl)
theorem dX4_mix_96 : decode cX4_mix 96 = .ok (.istore 4, 2) := dk_54 4 (dk_at dksX4_mix_4 3 rfl rfl)
theorem dX4_mix_98 : decode cX4_mix 98 = .ok (.aload_n 0, 1) := dk_42 (dk_at dksX4_mix_4 5 rfl rfl)
theorem dX4_mix_99 : decode cX4_mix 99 = .ok (.getfield 75, 3) := dk_180 0 75 (dk_at dksX4_mix_4 6 rfl rfl)
theorem dX4_mix_102 : decode cX4_mix 102 = .ok (.bipush 35, 2) := dk_16 35 (dk_at dksX4_mix_4 9 rfl rfl)
theorem dX4_mix_104 : decode cX4_mix 104 = .ok (.iload_n 1, 1) := dk_27 (dk_at dksX4_mix_4 11 rfl rfl)
theorem dX4_mix_105 : decode cX4_mix 105 = .ok (.iadd, 1) := dk_96 (dk_at dksX4_mix_4 12 rfl rfl)
theorem dX4_mix_106 : decode cX4_mix 106 = .ok (.iaload, 1) := dk_46 (dk_at dksX4_mix_4 13 rfl rfl)
theorem dX4_mix_107 : decode cX4_mix 107 = .ok (.aload_n 0, 1) := dk_42 (dk_at dksX4_mix_4 14 rfl rfl)
theorem dX4_mix_108 : decode cX4_mix 108 = .ok (.getfield 75, 3) := dk_180 0 75 (dk_at dksX4_mix_4 15 rfl rfl)
theorem dX4_mix_111 : decode cX4_mix 111 = .ok (.bipush 35, 2) := dk_16 35 (dk_at dksX4_mix_4 18 rfl rfl)
theorem dX4_mix_113 : decode cX4_mix 113 = .ok (.iload_n 2, 1) := dk_28 (dk_at dksX4_mix_4 20 rfl rfl)
theorem dX4_mix_114 : decode cX4_mix 114 = .ok (.iadd, 1) := dk_96 (dk_at dksX4_mix_4 21 rfl rfl)
theorem dX4_mix_115 : decode cX4_mix 115 = .ok (.iaload, 1) := dk_46 (dk_at dksX4_mix_4 22 rfl rfl)
theorem dX4_mix_116 : decode cX4_mix 116 = .ok (.if_icmp .ne 7, 3) := dk_160 0 7 (dk_at dksX4_mix_5 0 rfl rfl)
theorem dX4_mix_119 : decode cX4_mix 119 = .ok (.iconst 1, 1) := dk_4 (dk_at dksX4_mix_5 3 rfl rfl)
theorem dX4_mix_120 : decode cX4_mix 120 = .ok (.goto 4, 3) := dk_167 0 4 (dk_at dksX4_mix_5 4 rfl rfl)
theorem dX4_mix_123 : decode cX4_mix 123 = .ok (.iconst 0, 1) := dk_3 (dk_at dksX4_mix_5 7 rfl rfl)
theorem dX4_mix_124 : decode cX4_mix 124 = .ok (.istore 5, 2) := dk_54 5 (dk_at dksX4_mix_5 8 rfl rfl)
theorem dX4_mix_126 : decode cX4_mix 126 = .ok (.iload 5, 2) := dk_21 5 (dk_at dksX4_mix_5 10 rfl rfl)
theorem dX4_mix_128 : decode cX4_mix 128 = .ok (.ifCond .ne 27, 3) := dk_154 0 27 (dk_at dksX4_mix_5 12 rfl rfl)
theorem dX4_mix_131 : decode cX4_mix 131 = .ok (.iload 4, 2) := dk_21 4 (dk_at dksX4_mix_5 15 rfl rfl)
theorem dX4_mix_133 : decode cX4_mix 133 = .ok (.iload_n 3, 1) := dk_29 (dk_at dksX4_mix_5 17 rfl rfl)
theorem dX4_mix_134 : decode cX4_mix 134 = .ok (.if_icmp .le 21, 3) := dk_164 0 21 (dk_at dksX4_mix_5 18 rfl rfl)
theorem dX4_mix_137 : decode cX4_mix 137 = .ok (.aload_n 0, 1) := dk_42 (dk_at dksX4_mix_5 21 rfl rfl)
theorem dX4_mix_138 : decode cX4_mix 138 = .ok (.getfield 75, 3) := dk_180 0 75 (dk_at dksX4_mix_6 0 rfl rfl)
theorem dX4_mix_141 : decode cX4_mix 141 = .ok (.bipush 35, 2) := dk_16 35 (dk_at dksX4_mix_6 3 rfl rfl)
theorem dX4_mix_143 : decode cX4_mix 143 = .ok (.iload_n 1, 1) := dk_27 (dk_at dksX4_mix_6 5 rfl rfl)
theorem dX4_mix_144 : decode cX4_mix 144 = .ok (.iadd, 1) := dk_96 (dk_at dksX4_mix_6 6 rfl rfl)
theorem dX4_mix_145 : decode cX4_mix 145 = .ok (.aload_n 0, 1) := dk_42 (dk_at dksX4_mix_6 7 rfl rfl)
theorem dX4_mix_146 : decode cX4_mix 146 = .ok (.getfield 75, 3) := dk_180 0 75 (dk_at dksX4_mix_6 8 rfl rfl)
theorem dX4_mix_149 : decode cX4_mix 149 = .ok (.bipush 35, 2) := dk_16 35 (dk_at dksX4_mix_6 11 rfl rfl)
theorem dX4_mix_151 : decode cX4_mix 151 = .ok (.iload_n 2, 1) := dk_28 (dk_at dksX4_mix_6 13 rfl rfl)
theorem dX4_mix_152 : decode cX4_mix 152 = .ok (.iadd, 1) := dk_96 (dk_at dksX4_mix_6 14 rfl rfl)
theorem dX4_mix_153 : decode cX4_mix 153 = .ok (.iaload, 1) := dk_46 (dk_at dksX4_mix_6 15 rfl rfl)
theorem dX4_mix_154 : decode cX4_mix 154 = .ok (.iastore, 1) := dk_79 (dk_at dksX4_mix_6 16 rfl rfl)
theorem dX4_mix_155 : decode cX4_mix 155 = .ok (.aload_n 0, 1) := dk_42 (dk_at dksX4_mix_6 17 rfl rfl)
theorem dX4_mix_156 : decode cX4_mix 156 = .ok (.getfield 75, 3) := dk_180 0 75 (dk_at dksX4_mix_6 18 rfl rfl)
theorem dX4_mix_159 : decode cX4_mix 159 = .ok (.bipush 25, 2) := dk_16 25 (dk_at dksX4_mix_6 21 rfl rfl)
theorem dX4_mix_161 : decode cX4_mix 161 = .ok (.iload_n 1, 1) := dk_27 (dk_at dksX4_mix_6 23 rfl rfl)
theorem dX4_mix_162 : decode cX4_mix 162 = .ok (.iadd, 1) := dk_96 (dk_at dksX4_mix_7 0 rfl rfl)
theorem dX4_mix_163 : decode cX4_mix 163 = .ok (.iload 5, 2) := dk_21 5 (dk_at dksX4_mix_7 1 rfl rfl)
theorem dX4_mix_165 : decode cX4_mix 165 = .ok (.ifCond .eq 16, 3) := dk_153 0 16 (dk_at dksX4_mix_7 3 rfl rfl)
theorem dX4_mix_168 : decode cX4_mix 168 = .ok (.iload_n 3, 1) := dk_29 (dk_at dksX4_mix_7 6 rfl rfl)
theorem dX4_mix_169 : decode cX4_mix 169 = .ok (.iload 4, 2) := dk_21 4 (dk_at dksX4_mix_7 7 rfl rfl)
theorem dX4_mix_171 : decode cX4_mix 171 = .ok (.iadd, 1) := dk_96 (dk_at dksX4_mix_7 9 rfl rfl)
theorem dX4_mix_172 : decode cX4_mix 172 = .ok (.iconst 0, 1) := dk_3 (dk_at dksX4_mix_7 10 rfl rfl)
theorem dX4_mix_173 : decode cX4_mix 173 = .ok (.bipush 99, 2) := dk_16 99 (dk_at dksX4_mix_7 11 rfl rfl)
theorem dX4_mix_175 : decode cX4_mix 175 = .ok (.invokestatic 311, 3) := dk_184 1 55 (dk_at dksX4_mix_7 13 rfl rfl)
theorem dX4_mix_178 : decode cX4_mix 178 = .ok (.goto 20, 3) := dk_167 0 20 (dk_at dksX4_mix_7 16 rfl rfl)
theorem dX4_mix_181 : decode cX4_mix 181 = .ok (.iload_n 3, 1) := dk_29 (dk_at dksX4_mix_7 19 rfl rfl)
theorem dX4_mix_182 : decode cX4_mix 182 = .ok (.iload 4, 2) := dk_21 4 (dk_at dksX4_mix_7 20 rfl rfl)
theorem dX4_mix_184 : decode cX4_mix 184 = .ok (.if_icmp .le 10, 3) := dk_164 0 10 (dk_at dksX4_mix_8 0 rfl rfl)
theorem dX4_mix_187 : decode cX4_mix 187 = .ok (.iload_n 3, 1) := dk_29 (dk_at dksX4_mix_8 3 rfl rfl)
theorem dX4_mix_188 : decode cX4_mix 188 = .ok (.iload 4, 2) := dk_21 4 (dk_at dksX4_mix_8 4 rfl rfl)
theorem dX4_mix_190 : decode cX4_mix 190 = .ok (.isub, 1) := dk_100 (dk_at dksX4_mix_8 6 rfl rfl)
theorem dX4_mix_191 : decode cX4_mix 191 = .ok (.goto 7, 3) := dk_167 0 7 (dk_at dksX4_mix_8 7 rfl rfl)
theorem dX4_mix_194 : decode cX4_mix 194 = .ok (.iload 4, 2) := dk_21 4 (dk_at dksX4_mix_8 10 rfl rfl)
theorem dX4_mix_196 : decode cX4_mix 196 = .ok (.iload_n 3, 1) := dk_29 (dk_at dksX4_mix_8 12 rfl rfl)
theorem dX4_mix_197 : decode cX4_mix 197 = .ok (.isub, 1) := dk_100 (dk_at dksX4_mix_8 13 rfl rfl)
theorem dX4_mix_198 : decode cX4_mix 198 = .ok (.iastore, 1) := dk_79 (dk_at dksX4_mix_8 14 rfl rfl)
theorem dX4_mix_199 : decode cX4_mix 199 = .ok (.aload_n 0, 1) := dk_42 (dk_at dksX4_mix_8 15 rfl rfl)
theorem dX4_mix_200 : decode cX4_mix 200 = .ok (.getfield 75, 3) := dk_180 0 75 (dk_at dksX4_mix_8 16 rfl rfl)
theorem dX4_mix_203 : decode cX4_mix 203 = .ok (.bipush 25, 2) := dk_16 25 (dk_at dksX4_mix_8 19 rfl rfl)
theorem dX4_mix_205 : decode cX4_mix 205 = .ok (.iload_n 2, 1) := dk_28 (dk_at dksX4_mix_8 21 rfl rfl)
theorem dX4_mix_206 : decode cX4_mix 206 = .ok (.iadd, 1) := dk_96 (dk_at dksX4_mix_8 22 rfl rfl)
theorem dX4_mix_207 : decode cX4_mix 207 = .ok (.iconst 0, 1) := dk_3 (dk_at dksX4_mix_8 23 rfl rfl)
theorem dX4_mix_208 : decode cX4_mix 208 = .ok (.iastore, 1) := dk_79 (dk_at dksX4_mix_9 0 rfl rfl)
theorem dX4_mix_209 : decode cX4_mix 209 = .ok (.aload_n 0, 1) := dk_42 (dk_at dksX4_mix_9 1 rfl rfl)
theorem dX4_mix_210 : decode cX4_mix 210 = .ok (.getfield 75, 3) := dk_180 0 75 (dk_at dksX4_mix_9 2 rfl rfl)
theorem dX4_mix_213 : decode cX4_mix 213 = .ok (.bipush 55, 2) := dk_16 55 (dk_at dksX4_mix_9 5 rfl rfl)
theorem dX4_mix_215 : decode cX4_mix 215 = .ok (.iload_n 2, 1) := dk_28 (dk_at dksX4_mix_9 7 rfl rfl)
theorem dX4_mix_216 : decode cX4_mix 216 = .ok (.iadd, 1) := dk_96 (dk_at dksX4_mix_9 8 rfl rfl)
theorem dX4_mix_217 : decode cX4_mix 217 = .ok (.iconst (-1), 1) := dk_2 (dk_at dksX4_mix_9 9 rfl rfl)
theorem dX4_mix_218 : decode cX4_mix 218 = .ok (.iastore, 1) := dk_79 (dk_at dksX4_mix_9 10 rfl rfl)
theorem dX4_mix_219 : decode cX4_mix 219 = .ok (.aload_n 0, 1) := dk_42 (dk_at dksX4_mix_9 11 rfl rfl)
theorem dX4_mix_220 : decode cX4_mix 220 = .ok (.getfield 75, 3) := dk_180 0 75 (dk_at dksX4_mix_9 12 rfl rfl)
theorem dX4_mix_223 : decode cX4_mix 223 = .ok (.bipush 25, 2) := dk_16 25 (dk_at dksX4_mix_9 15 rfl rfl)
theorem dX4_mix_225 : decode cX4_mix 225 = .ok (.iload_n 1, 1) := dk_27 (dk_at dksX4_mix_9 17 rfl rfl)
theorem dX4_mix_226 : decode cX4_mix 226 = .ok (.iadd, 1) := dk_96 (dk_at dksX4_mix_9 18 rfl rfl)
theorem dX4_mix_227 : decode cX4_mix 227 = .ok (.iaload, 1) := dk_46 (dk_at dksX4_mix_9 19 rfl rfl)
theorem dX4_mix_228 : decode cX4_mix 228 = .ok (.ireturn, 1) := dk_172 (dk_at dksX4_mix_9 20 rfl rfl)
abbrev cX4_then : ByteArray := prog_13_method_76_code
def yX4_then : MethodName := ⟨RX4, "then", "(III)I"⟩
def dkwX4_then_4 : List UInt8 := [27, 182, 1, 80, 172]
abbrev dktX4_then_4 : List UInt8 := dkwX4_then_4 ++ []
def dkwX4_then_3 : List UInt8 := [46, 167, 0, 27, 29, 5, 160, 0, 15, 42, 180, 0, 75, 16, 102, 27, 96, 46, 167, 0, 10, 42, 16, 85]
abbrev dktX4_then_3 : List UInt8 := dkwX4_then_3 ++ dktX4_then_4
def dkwX4_then_2 : List UInt8 := [180, 0, 75, 16, 86, 27, 96, 46, 167, 0, 44, 29, 4, 160, 0, 15, 42, 180, 0, 75, 16, 94, 27, 96]
abbrev dktX4_then_2 : List UInt8 := dkwX4_then_2 ++ dktX4_then_3
def dkwX4_then_1 : List UInt8 := [3, 5, 182, 1, 130, 154, 0, 5, 3, 172, 42, 182, 1, 133, 42, 28, 182, 1, 136, 29, 154, 0, 15, 42]
abbrev dktX4_then_1 : List UInt8 := dkwX4_then_1 ++ dktX4_then_2
def dkwX4_then_0 : List UInt8 := [42, 3, 181, 0, 117, 42, 27, 182, 1, 106, 153, 0, 22, 42, 29, 6, 182, 1, 109, 153, 0, 13, 42, 28]
abbrev dktX4_then_0 : List UInt8 := dkwX4_then_0 ++ dktX4_then_1
theorem dksX4_then_0 : cX4_then.data.toList.drop 0 = dktX4_then_0 := by decide +kernel
theorem dksX4_then_1 : cX4_then.data.toList.drop 24 = dktX4_then_1 := dk_seg dksX4_then_0 24 rfl rfl
theorem dksX4_then_2 : cX4_then.data.toList.drop 48 = dktX4_then_2 := dk_seg dksX4_then_1 24 rfl rfl
theorem dksX4_then_3 : cX4_then.data.toList.drop 72 = dktX4_then_3 := dk_seg dksX4_then_2 24 rfl rfl
theorem dksX4_then_4 : cX4_then.data.toList.drop 96 = dktX4_then_4 := dk_seg dksX4_then_3 24 rfl rfl
theorem dX4_then_0 : decode cX4_then 0 = .ok (.aload_n 0, 1) := dk_42 (dk_at dksX4_then_0 0 rfl rfl)
theorem dX4_then_1 : decode cX4_then 1 = .ok (.iconst 0, 1) := dk_3 (dk_at dksX4_then_0 1 rfl rfl)
theorem dX4_then_2 : decode cX4_then 2 = .ok (.putfield 117, 3) := dk_181 0 117 (dk_at dksX4_then_0 2 rfl rfl)
theorem dX4_then_5 : decode cX4_then 5 = .ok (.aload_n 0, 1) := dk_42 (dk_at dksX4_then_0 5 rfl rfl)
theorem dX4_then_6 : decode cX4_then 6 = .ok (.iload_n 1, 1) := dk_27 (dk_at dksX4_then_0 6 rfl rfl)
theorem dX4_then_7 : decode cX4_then 7 = .ok (.invokevirtual 362, 3) := dk_182 1 106 (dk_at dksX4_then_0 7 rfl rfl)
theorem dX4_then_10 : decode cX4_then 10 = .ok (.ifCond .eq 22, 3) := dk_153 0 22 (dk_at dksX4_then_0 10 rfl rfl)
theorem dX4_then_13 : decode cX4_then 13 = .ok (.aload_n 0, 1) := dk_42 (dk_at dksX4_then_0 13 rfl rfl)
theorem dX4_then_14 : decode cX4_then 14 = .ok (.iload_n 3, 1) := dk_29 (dk_at dksX4_then_0 14 rfl rfl)
theorem dX4_then_15 : decode cX4_then 15 = .ok (.iconst 3, 1) := dk_6 (dk_at dksX4_then_0 15 rfl rfl)
theorem dX4_then_16 : decode cX4_then 16 = .ok (.invokevirtual 365, 3) := dk_182 1 109 (dk_at dksX4_then_0 16 rfl rfl)
theorem dX4_then_19 : decode cX4_then 19 = .ok (.ifCond .eq 13, 3) := dk_153 0 13 (dk_at dksX4_then_0 19 rfl rfl)
theorem dX4_then_22 : decode cX4_then 22 = .ok (.aload_n 0, 1) := dk_42 (dk_at dksX4_then_0 22 rfl rfl)
theorem dX4_then_23 : decode cX4_then 23 = .ok (.iload_n 2, 1) := dk_28 (dk_at dksX4_then_0 23 rfl rfl)
theorem dX4_then_24 : decode cX4_then 24 = .ok (.iconst 0, 1) := dk_3 (dk_at dksX4_then_1 0 rfl rfl)
theorem dX4_then_25 : decode cX4_then 25 = .ok (.iconst 2, 1) := dk_5 (dk_at dksX4_then_1 1 rfl rfl)
theorem dX4_then_26 : decode cX4_then 26 = .ok (.invokevirtual 386, 3) := dk_182 1 130 (dk_at dksX4_then_1 2 rfl rfl)
theorem dX4_then_29 : decode cX4_then 29 = .ok (.ifCond .ne 5, 3) := dk_154 0 5 (dk_at dksX4_then_1 5 rfl rfl)
theorem dX4_then_32 : decode cX4_then 32 = .ok (.iconst 0, 1) := dk_3 (dk_at dksX4_then_1 8 rfl rfl)
theorem dX4_then_33 : decode cX4_then 33 = .ok (.ireturn, 1) := dk_172 (dk_at dksX4_then_1 9 rfl rfl)
theorem dX4_then_34 : decode cX4_then 34 = .ok (.aload_n 0, 1) := dk_42 (dk_at dksX4_then_1 10 rfl rfl)
theorem dX4_then_35 : decode cX4_then 35 = .ok (.invokevirtual 389, 3) := dk_182 1 133 (dk_at dksX4_then_1 11 rfl rfl)
theorem dX4_then_38 : decode cX4_then 38 = .ok (.aload_n 0, 1) := dk_42 (dk_at dksX4_then_1 14 rfl rfl)
theorem dX4_then_39 : decode cX4_then 39 = .ok (.iload_n 2, 1) := dk_28 (dk_at dksX4_then_1 15 rfl rfl)
theorem dX4_then_40 : decode cX4_then 40 = .ok (.invokevirtual 392, 3) := dk_182 1 136 (dk_at dksX4_then_1 16 rfl rfl)
theorem dX4_then_43 : decode cX4_then 43 = .ok (.iload_n 3, 1) := dk_29 (dk_at dksX4_then_1 19 rfl rfl)
theorem dX4_then_44 : decode cX4_then 44 = .ok (.ifCond .ne 15, 3) := dk_154 0 15 (dk_at dksX4_then_1 20 rfl rfl)
theorem dX4_then_47 : decode cX4_then 47 = .ok (.aload_n 0, 1) := dk_42 (dk_at dksX4_then_1 23 rfl rfl)
theorem dX4_then_48 : decode cX4_then 48 = .ok (.getfield 75, 3) := dk_180 0 75 (dk_at dksX4_then_2 0 rfl rfl)
theorem dX4_then_51 : decode cX4_then 51 = .ok (.bipush 86, 2) := dk_16 86 (dk_at dksX4_then_2 3 rfl rfl)
theorem dX4_then_53 : decode cX4_then 53 = .ok (.iload_n 1, 1) := dk_27 (dk_at dksX4_then_2 5 rfl rfl)
theorem dX4_then_54 : decode cX4_then 54 = .ok (.iadd, 1) := dk_96 (dk_at dksX4_then_2 6 rfl rfl)
theorem dX4_then_55 : decode cX4_then 55 = .ok (.iaload, 1) := dk_46 (dk_at dksX4_then_2 7 rfl rfl)
theorem dX4_then_56 : decode cX4_then 56 = .ok (.goto 44, 3) := dk_167 0 44 (dk_at dksX4_then_2 8 rfl rfl)
theorem dX4_then_59 : decode cX4_then 59 = .ok (.iload_n 3, 1) := dk_29 (dk_at dksX4_then_2 11 rfl rfl)
theorem dX4_then_60 : decode cX4_then 60 = .ok (.iconst 1, 1) := dk_4 (dk_at dksX4_then_2 12 rfl rfl)
theorem dX4_then_61 : decode cX4_then 61 = .ok (.if_icmp .ne 15, 3) := dk_160 0 15 (dk_at dksX4_then_2 13 rfl rfl)
theorem dX4_then_64 : decode cX4_then 64 = .ok (.aload_n 0, 1) := dk_42 (dk_at dksX4_then_2 16 rfl rfl)
theorem dX4_then_65 : decode cX4_then 65 = .ok (.getfield 75, 3) := dk_180 0 75 (dk_at dksX4_then_2 17 rfl rfl)
theorem dX4_then_68 : decode cX4_then 68 = .ok (.bipush 94, 2) := dk_16 94 (dk_at dksX4_then_2 20 rfl rfl)
theorem dX4_then_70 : decode cX4_then 70 = .ok (.iload_n 1, 1) := dk_27 (dk_at dksX4_then_2 22 rfl rfl)
theorem dX4_then_71 : decode cX4_then 71 = .ok (.iadd, 1) := dk_96 (dk_at dksX4_then_2 23 rfl rfl)
theorem dX4_then_72 : decode cX4_then 72 = .ok (.iaload, 1) := dk_46 (dk_at dksX4_then_3 0 rfl rfl)
theorem dX4_then_73 : decode cX4_then 73 = .ok (.goto 27, 3) := dk_167 0 27 (dk_at dksX4_then_3 1 rfl rfl)
theorem dX4_then_76 : decode cX4_then 76 = .ok (.iload_n 3, 1) := dk_29 (dk_at dksX4_then_3 4 rfl rfl)
theorem dX4_then_77 : decode cX4_then 77 = .ok (.iconst 2, 1) := dk_5 (dk_at dksX4_then_3 5 rfl rfl)
theorem dX4_then_78 : decode cX4_then 78 = .ok (.if_icmp .ne 15, 3) := dk_160 0 15 (dk_at dksX4_then_3 6 rfl rfl)
theorem dX4_then_81 : decode cX4_then 81 = .ok (.aload_n 0, 1) := dk_42 (dk_at dksX4_then_3 9 rfl rfl)
theorem dX4_then_82 : decode cX4_then 82 = .ok (.getfield 75, 3) := dk_180 0 75 (dk_at dksX4_then_3 10 rfl rfl)
theorem dX4_then_85 : decode cX4_then 85 = .ok (.bipush 102, 2) := dk_16 102 (dk_at dksX4_then_3 13 rfl rfl)
theorem dX4_then_87 : decode cX4_then 87 = .ok (.iload_n 1, 1) := dk_27 (dk_at dksX4_then_3 15 rfl rfl)
theorem dX4_then_88 : decode cX4_then 88 = .ok (.iadd, 1) := dk_96 (dk_at dksX4_then_3 16 rfl rfl)
theorem dX4_then_89 : decode cX4_then 89 = .ok (.iaload, 1) := dk_46 (dk_at dksX4_then_3 17 rfl rfl)
theorem dX4_then_90 : decode cX4_then 90 = .ok (.goto 10, 3) := dk_167 0 10 (dk_at dksX4_then_3 18 rfl rfl)
theorem dX4_then_93 : decode cX4_then 93 = .ok (.aload_n 0, 1) := dk_42 (dk_at dksX4_then_3 21 rfl rfl)
theorem dX4_then_94 : decode cX4_then 94 = .ok (.bipush 85, 2) := dk_16 85 (dk_at dksX4_then_3 22 rfl rfl)
theorem dX4_then_96 : decode cX4_then 96 = .ok (.iload_n 1, 1) := dk_27 (dk_at dksX4_then_4 0 rfl rfl)
theorem dX4_then_97 : decode cX4_then 97 = .ok (.invokevirtual 336, 3) := dk_182 1 80 (dk_at dksX4_then_4 1 rfl rfl)
theorem dX4_then_100 : decode cX4_then 100 = .ok (.ireturn, 1) := dk_172 (dk_at dksX4_then_4 4 rfl rfl)
abbrev cX4_isDays : ByteArray := prog_13_method_75_code
def yX4_isDays : MethodName := ⟨RX4, "isDays", "(III)Z"⟩
def dkwX4_isDays_0 : List UInt8 := [42, 27, 28, 16, 60, 184, 1, 90, 29, 182, 1, 18, 172]
abbrev dktX4_isDays_0 : List UInt8 := dkwX4_isDays_0 ++ []
theorem dksX4_isDays_0 : cX4_isDays.data.toList.drop 0 = dktX4_isDays_0 := by decide +kernel
theorem dX4_isDays_0 : decode cX4_isDays 0 = .ok (.aload_n 0, 1) := dk_42 (dk_at dksX4_isDays_0 0 rfl rfl)
theorem dX4_isDays_1 : decode cX4_isDays 1 = .ok (.iload_n 1, 1) := dk_27 (dk_at dksX4_isDays_0 1 rfl rfl)
theorem dX4_isDays_2 : decode cX4_isDays 2 = .ok (.iload_n 2, 1) := dk_28 (dk_at dksX4_isDays_0 2 rfl rfl)
theorem dX4_isDays_3 : decode cX4_isDays 3 = .ok (.bipush 60, 2) := dk_16 60 (dk_at dksX4_isDays_0 3 rfl rfl)
theorem dX4_isDays_5 : decode cX4_isDays 5 = .ok (.invokestatic 346, 3) := dk_184 1 90 (dk_at dksX4_isDays_0 5 rfl rfl)
theorem dX4_isDays_8 : decode cX4_isDays 8 = .ok (.iload_n 3, 1) := dk_29 (dk_at dksX4_isDays_0 8 rfl rfl)
theorem dX4_isDays_9 : decode cX4_isDays 9 = .ok (.invokevirtual 274, 3) := dk_182 1 18 (dk_at dksX4_isDays_0 9 rfl rfl)
theorem dX4_isDays_12 : decode cX4_isDays 12 = .ok (.ireturn, 1) := dk_172 (dk_at dksX4_isDays_0 12 rfl rfl)
abbrev cX4_tries : ByteArray := prog_13_method_46_code
def yX4_tries : MethodName := ⟨RX4, "tries", "()V"⟩
def dkwX4_tries_1 : List UInt8 := [132, 1, 1, 167, 255, 232, 177]
abbrev dktX4_tries_1 : List UInt8 := dkwX4_tries_1 ++ []
def dkwX4_tries_0 : List UInt8 := [3, 60, 27, 16, 85, 162, 0, 24, 42, 180, 0, 75, 16, 85, 27, 96, 42, 180, 0, 75, 27, 46, 79]
abbrev dktX4_tries_0 : List UInt8 := dkwX4_tries_0 ++ dktX4_tries_1
theorem dksX4_tries_0 : cX4_tries.data.toList.drop 0 = dktX4_tries_0 := by decide +kernel
theorem dksX4_tries_1 : cX4_tries.data.toList.drop 23 = dktX4_tries_1 := dk_seg dksX4_tries_0 23 rfl rfl
theorem dX4_tries_0 : decode cX4_tries 0 = .ok (.iconst 0, 1) := dk_3 (dk_at dksX4_tries_0 0 rfl rfl)
theorem dX4_tries_1 : decode cX4_tries 1 = .ok (.istore_n 1, 1) := dk_60 (dk_at dksX4_tries_0 1 rfl rfl)
theorem dX4_tries_2 : decode cX4_tries 2 = .ok (.iload_n 1, 1) := dk_27 (dk_at dksX4_tries_0 2 rfl rfl)
theorem dX4_tries_3 : decode cX4_tries 3 = .ok (.bipush 85, 2) := dk_16 85 (dk_at dksX4_tries_0 3 rfl rfl)
theorem dX4_tries_5 : decode cX4_tries 5 = .ok (.if_icmp .ge 24, 3) := dk_162 0 24 (dk_at dksX4_tries_0 5 rfl rfl)
theorem dX4_tries_8 : decode cX4_tries 8 = .ok (.aload_n 0, 1) := dk_42 (dk_at dksX4_tries_0 8 rfl rfl)
theorem dX4_tries_9 : decode cX4_tries 9 = .ok (.getfield 75, 3) := dk_180 0 75 (dk_at dksX4_tries_0 9 rfl rfl)
theorem dX4_tries_12 : decode cX4_tries 12 = .ok (.bipush 85, 2) := dk_16 85 (dk_at dksX4_tries_0 12 rfl rfl)
theorem dX4_tries_14 : decode cX4_tries 14 = .ok (.iload_n 1, 1) := dk_27 (dk_at dksX4_tries_0 14 rfl rfl)
theorem dX4_tries_15 : decode cX4_tries 15 = .ok (.iadd, 1) := dk_96 (dk_at dksX4_tries_0 15 rfl rfl)
theorem dX4_tries_16 : decode cX4_tries 16 = .ok (.aload_n 0, 1) := dk_42 (dk_at dksX4_tries_0 16 rfl rfl)
theorem dX4_tries_17 : decode cX4_tries 17 = .ok (.getfield 75, 3) := dk_180 0 75 (dk_at dksX4_tries_0 17 rfl rfl)
theorem dX4_tries_20 : decode cX4_tries 20 = .ok (.iload_n 1, 1) := dk_27 (dk_at dksX4_tries_0 20 rfl rfl)
theorem dX4_tries_21 : decode cX4_tries 21 = .ok (.iaload, 1) := dk_46 (dk_at dksX4_tries_0 21 rfl rfl)
theorem dX4_tries_22 : decode cX4_tries 22 = .ok (.iastore, 1) := dk_79 (dk_at dksX4_tries_0 22 rfl rfl)
theorem dX4_tries_23 : decode cX4_tries 23 = .ok (.iinc 1 1, 3) := dk_132 1 1 (dk_at dksX4_tries_1 0 rfl rfl)
theorem dX4_tries_26 : decode cX4_tries 26 = .ok (.goto (-24), 3) := dk_167 255 232 (dk_at dksX4_tries_1 3 rfl rfl)
theorem dX4_tries_29 : decode cX4_tries 29 = .ok (.return_, 1) := dk_177 (dk_at dksX4_tries_1 6 rfl rfl)
abbrev cX4_daysGo : ByteArray := prog_13_method_56_code
def yX4_daysGo : MethodName := ⟨RX4, "daysGo", "(I)V"⟩
def dkwX4_daysGo_0 : List UInt8 := [3, 61, 28, 27, 162, 0, 15, 42, 16, 85, 182, 1, 87, 132, 2, 1, 167, 255, 242, 177]
abbrev dktX4_daysGo_0 : List UInt8 := dkwX4_daysGo_0 ++ []
theorem dksX4_daysGo_0 : cX4_daysGo.data.toList.drop 0 = dktX4_daysGo_0 := by decide +kernel
theorem dX4_daysGo_0 : decode cX4_daysGo 0 = .ok (.iconst 0, 1) := dk_3 (dk_at dksX4_daysGo_0 0 rfl rfl)
theorem dX4_daysGo_1 : decode cX4_daysGo 1 = .ok (.istore_n 2, 1) := dk_61 (dk_at dksX4_daysGo_0 1 rfl rfl)
theorem dX4_daysGo_2 : decode cX4_daysGo 2 = .ok (.iload_n 2, 1) := dk_28 (dk_at dksX4_daysGo_0 2 rfl rfl)
theorem dX4_daysGo_3 : decode cX4_daysGo 3 = .ok (.iload_n 1, 1) := dk_27 (dk_at dksX4_daysGo_0 3 rfl rfl)
theorem dX4_daysGo_4 : decode cX4_daysGo 4 = .ok (.if_icmp .ge 15, 3) := dk_162 0 15 (dk_at dksX4_daysGo_0 4 rfl rfl)
theorem dX4_daysGo_7 : decode cX4_daysGo 7 = .ok (.aload_n 0, 1) := dk_42 (dk_at dksX4_daysGo_0 7 rfl rfl)
theorem dX4_daysGo_8 : decode cX4_daysGo 8 = .ok (.bipush 85, 2) := dk_16 85 (dk_at dksX4_daysGo_0 8 rfl rfl)
theorem dX4_daysGo_10 : decode cX4_daysGo 10 = .ok (.invokevirtual 343, 3) := dk_182 1 87 (dk_at dksX4_daysGo_0 10 rfl rfl)
theorem dX4_daysGo_13 : decode cX4_daysGo 13 = .ok (.iinc 2 1, 3) := dk_132 2 1 (dk_at dksX4_daysGo_0 13 rfl rfl)
theorem dX4_daysGo_16 : decode cX4_daysGo 16 = .ok (.goto (-14), 3) := dk_167 255 242 (dk_at dksX4_daysGo_0 16 rfl rfl)
theorem dX4_daysGo_19 : decode cX4_daysGo 19 = .ok (.return_, 1) := dk_177 (dk_at dksX4_daysGo_0 19 rfl rfl)
abbrev cX4_even : ByteArray := prog_13_method_77_code
def yX4_even : MethodName := ⟨RX4, "even", "(I)I"⟩
def dkwX4_even_2 : List UInt8 := [28, 172, 42, 16, 85, 182, 1, 87, 132, 2, 1, 167, 255, 218, 2, 172]
abbrev dktX4_even_2 : List UInt8 := dkwX4_even_2 ++ []
def dkwX4_even_1 : List UInt8 := [163, 0, 38, 42, 180, 0, 75, 16, 86, 27, 96, 46, 42, 180, 0, 75, 16, 94, 27, 96, 46, 160, 0, 5]
abbrev dktX4_even_1 : List UInt8 := dkwX4_even_1 ++ dktX4_even_2
def dkwX4_even_0 : List UInt8 := [42, 3, 181, 0, 117, 42, 27, 182, 1, 106, 154, 0, 5, 3, 172, 42, 182, 1, 133, 3, 61, 28, 16, 60]
abbrev dktX4_even_0 : List UInt8 := dkwX4_even_0 ++ dktX4_even_1
theorem dksX4_even_0 : cX4_even.data.toList.drop 0 = dktX4_even_0 := by decide +kernel
theorem dksX4_even_1 : cX4_even.data.toList.drop 24 = dktX4_even_1 := dk_seg dksX4_even_0 24 rfl rfl
theorem dksX4_even_2 : cX4_even.data.toList.drop 48 = dktX4_even_2 := dk_seg dksX4_even_1 24 rfl rfl
theorem dX4_even_0 : decode cX4_even 0 = .ok (.aload_n 0, 1) := dk_42 (dk_at dksX4_even_0 0 rfl rfl)
theorem dX4_even_1 : decode cX4_even 1 = .ok (.iconst 0, 1) := dk_3 (dk_at dksX4_even_0 1 rfl rfl)
theorem dX4_even_2 : decode cX4_even 2 = .ok (.putfield 117, 3) := dk_181 0 117 (dk_at dksX4_even_0 2 rfl rfl)
theorem dX4_even_5 : decode cX4_even 5 = .ok (.aload_n 0, 1) := dk_42 (dk_at dksX4_even_0 5 rfl rfl)
theorem dX4_even_6 : decode cX4_even 6 = .ok (.iload_n 1, 1) := dk_27 (dk_at dksX4_even_0 6 rfl rfl)
theorem dX4_even_7 : decode cX4_even 7 = .ok (.invokevirtual 362, 3) := dk_182 1 106 (dk_at dksX4_even_0 7 rfl rfl)
theorem dX4_even_10 : decode cX4_even 10 = .ok (.ifCond .ne 5, 3) := dk_154 0 5 (dk_at dksX4_even_0 10 rfl rfl)
theorem dX4_even_13 : decode cX4_even 13 = .ok (.iconst 0, 1) := dk_3 (dk_at dksX4_even_0 13 rfl rfl)
theorem dX4_even_14 : decode cX4_even 14 = .ok (.ireturn, 1) := dk_172 (dk_at dksX4_even_0 14 rfl rfl)
theorem dX4_even_15 : decode cX4_even 15 = .ok (.aload_n 0, 1) := dk_42 (dk_at dksX4_even_0 15 rfl rfl)
theorem dX4_even_16 : decode cX4_even 16 = .ok (.invokevirtual 389, 3) := dk_182 1 133 (dk_at dksX4_even_0 16 rfl rfl)
theorem dX4_even_19 : decode cX4_even 19 = .ok (.iconst 0, 1) := dk_3 (dk_at dksX4_even_0 19 rfl rfl)
theorem dX4_even_20 : decode cX4_even 20 = .ok (.istore_n 2, 1) := dk_61 (dk_at dksX4_even_0 20 rfl rfl)
theorem dX4_even_21 : decode cX4_even 21 = .ok (.iload_n 2, 1) := dk_28 (dk_at dksX4_even_0 21 rfl rfl)
theorem dX4_even_22 : decode cX4_even 22 = .ok (.bipush 60, 2) := dk_16 60 (dk_at dksX4_even_0 22 rfl rfl)
theorem dX4_even_24 : decode cX4_even 24 = .ok (.if_icmp .gt 38, 3) := dk_163 0 38 (dk_at dksX4_even_1 0 rfl rfl)
theorem dX4_even_27 : decode cX4_even 27 = .ok (.aload_n 0, 1) := dk_42 (dk_at dksX4_even_1 3 rfl rfl)
theorem dX4_even_28 : decode cX4_even 28 = .ok (.getfield 75, 3) := dk_180 0 75 (dk_at dksX4_even_1 4 rfl rfl)
theorem dX4_even_31 : decode cX4_even 31 = .ok (.bipush 86, 2) := dk_16 86 (dk_at dksX4_even_1 7 rfl rfl)
theorem dX4_even_33 : decode cX4_even 33 = .ok (.iload_n 1, 1) := dk_27 (dk_at dksX4_even_1 9 rfl rfl)
theorem dX4_even_34 : decode cX4_even 34 = .ok (.iadd, 1) := dk_96 (dk_at dksX4_even_1 10 rfl rfl)
theorem dX4_even_35 : decode cX4_even 35 = .ok (.iaload, 1) := dk_46 (dk_at dksX4_even_1 11 rfl rfl)
theorem dX4_even_36 : decode cX4_even 36 = .ok (.aload_n 0, 1) := dk_42 (dk_at dksX4_even_1 12 rfl rfl)
theorem dX4_even_37 : decode cX4_even 37 = .ok (.getfield 75, 3) := dk_180 0 75 (dk_at dksX4_even_1 13 rfl rfl)
theorem dX4_even_40 : decode cX4_even 40 = .ok (.bipush 94, 2) := dk_16 94 (dk_at dksX4_even_1 16 rfl rfl)
theorem dX4_even_42 : decode cX4_even 42 = .ok (.iload_n 1, 1) := dk_27 (dk_at dksX4_even_1 18 rfl rfl)
theorem dX4_even_43 : decode cX4_even 43 = .ok (.iadd, 1) := dk_96 (dk_at dksX4_even_1 19 rfl rfl)
theorem dX4_even_44 : decode cX4_even 44 = .ok (.iaload, 1) := dk_46 (dk_at dksX4_even_1 20 rfl rfl)
theorem dX4_even_45 : decode cX4_even 45 = .ok (.if_icmp .ne 5, 3) := dk_160 0 5 (dk_at dksX4_even_1 21 rfl rfl)
theorem dX4_even_48 : decode cX4_even 48 = .ok (.iload_n 2, 1) := dk_28 (dk_at dksX4_even_2 0 rfl rfl)
theorem dX4_even_49 : decode cX4_even 49 = .ok (.ireturn, 1) := dk_172 (dk_at dksX4_even_2 1 rfl rfl)
theorem dX4_even_50 : decode cX4_even 50 = .ok (.aload_n 0, 1) := dk_42 (dk_at dksX4_even_2 2 rfl rfl)
theorem dX4_even_51 : decode cX4_even 51 = .ok (.bipush 85, 2) := dk_16 85 (dk_at dksX4_even_2 3 rfl rfl)
theorem dX4_even_53 : decode cX4_even 53 = .ok (.invokevirtual 343, 3) := dk_182 1 87 (dk_at dksX4_even_2 5 rfl rfl)
theorem dX4_even_56 : decode cX4_even 56 = .ok (.iinc 2 1, 3) := dk_132 2 1 (dk_at dksX4_even_2 8 rfl rfl)
theorem dX4_even_59 : decode cX4_even 59 = .ok (.goto (-38), 3) := dk_167 255 218 (dk_at dksX4_even_2 11 rfl rfl)
theorem dX4_even_62 : decode cX4_even 62 = .ok (.iconst (-1), 1) := dk_2 (dk_at dksX4_even_2 14 rfl rfl)
theorem dX4_even_63 : decode cX4_even 63 = .ok (.ireturn, 1) := dk_172 (dk_at dksX4_even_2 15 rfl rfl)
abbrev cX4_out : ByteArray := prog_13_method_78_code
def yX4_out : MethodName := ⟨RX4, "out", "(I)I"⟩
def dkwX4_out_2 : List UInt8 := [132, 2, 1, 167, 255, 228, 2, 172]
abbrev dktX4_out_2 : List UInt8 := dkwX4_out_2 ++ []
def dkwX4_out_1 : List UInt8 := [163, 0, 28, 42, 16, 85, 182, 1, 87, 42, 180, 1, 73, 27, 122, 4, 126, 154, 0, 5, 28, 172]
abbrev dktX4_out_1 : List UInt8 := dkwX4_out_1 ++ dktX4_out_2
def dkwX4_out_0 : List UInt8 := [42, 3, 181, 0, 117, 42, 27, 182, 1, 106, 154, 0, 5, 3, 172, 42, 182, 1, 133, 4, 61, 28, 16, 60]
abbrev dktX4_out_0 : List UInt8 := dkwX4_out_0 ++ dktX4_out_1
theorem dksX4_out_0 : cX4_out.data.toList.drop 0 = dktX4_out_0 := by decide +kernel
theorem dksX4_out_1 : cX4_out.data.toList.drop 24 = dktX4_out_1 := dk_seg dksX4_out_0 24 rfl rfl
theorem dksX4_out_2 : cX4_out.data.toList.drop 46 = dktX4_out_2 := dk_seg dksX4_out_1 22 rfl rfl
theorem dX4_out_0 : decode cX4_out 0 = .ok (.aload_n 0, 1) := dk_42 (dk_at dksX4_out_0 0 rfl rfl)
theorem dX4_out_1 : decode cX4_out 1 = .ok (.iconst 0, 1) := dk_3 (dk_at dksX4_out_0 1 rfl rfl)
theorem dX4_out_2 : decode cX4_out 2 = .ok (.putfield 117, 3) := dk_181 0 117 (dk_at dksX4_out_0 2 rfl rfl)
theorem dX4_out_5 : decode cX4_out 5 = .ok (.aload_n 0, 1) := dk_42 (dk_at dksX4_out_0 5 rfl rfl)
theorem dX4_out_6 : decode cX4_out 6 = .ok (.iload_n 1, 1) := dk_27 (dk_at dksX4_out_0 6 rfl rfl)
theorem dX4_out_7 : decode cX4_out 7 = .ok (.invokevirtual 362, 3) := dk_182 1 106 (dk_at dksX4_out_0 7 rfl rfl)
theorem dX4_out_10 : decode cX4_out 10 = .ok (.ifCond .ne 5, 3) := dk_154 0 5 (dk_at dksX4_out_0 10 rfl rfl)
theorem dX4_out_13 : decode cX4_out 13 = .ok (.iconst 0, 1) := dk_3 (dk_at dksX4_out_0 13 rfl rfl)
theorem dX4_out_14 : decode cX4_out 14 = .ok (.ireturn, 1) := dk_172 (dk_at dksX4_out_0 14 rfl rfl)
theorem dX4_out_15 : decode cX4_out 15 = .ok (.aload_n 0, 1) := dk_42 (dk_at dksX4_out_0 15 rfl rfl)
theorem dX4_out_16 : decode cX4_out 16 = .ok (.invokevirtual 389, 3) := dk_182 1 133 (dk_at dksX4_out_0 16 rfl rfl)
theorem dX4_out_19 : decode cX4_out 19 = .ok (.iconst 1, 1) := dk_4 (dk_at dksX4_out_0 19 rfl rfl)
theorem dX4_out_20 : decode cX4_out 20 = .ok (.istore_n 2, 1) := dk_61 (dk_at dksX4_out_0 20 rfl rfl)
theorem dX4_out_21 : decode cX4_out 21 = .ok (.iload_n 2, 1) := dk_28 (dk_at dksX4_out_0 21 rfl rfl)
theorem dX4_out_22 : decode cX4_out 22 = .ok (.bipush 60, 2) := dk_16 60 (dk_at dksX4_out_0 22 rfl rfl)
theorem dX4_out_24 : decode cX4_out 24 = .ok (.if_icmp .gt 28, 3) := dk_163 0 28 (dk_at dksX4_out_1 0 rfl rfl)
theorem dX4_out_27 : decode cX4_out 27 = .ok (.aload_n 0, 1) := dk_42 (dk_at dksX4_out_1 3 rfl rfl)
theorem dX4_out_28 : decode cX4_out 28 = .ok (.bipush 85, 2) := dk_16 85 (dk_at dksX4_out_1 4 rfl rfl)
theorem dX4_out_30 : decode cX4_out 30 = .ok (.invokevirtual 343, 3) := dk_182 1 87 (dk_at dksX4_out_1 6 rfl rfl)
theorem dX4_out_33 : decode cX4_out 33 = .ok (.aload_n 0, 1) := dk_42 (dk_at dksX4_out_1 9 rfl rfl)
theorem dX4_out_34 : decode cX4_out 34 = .ok (.getfield 329, 3) := dk_180 1 73 (dk_at dksX4_out_1 10 rfl rfl)
theorem dX4_out_37 : decode cX4_out 37 = .ok (.iload_n 1, 1) := dk_27 (dk_at dksX4_out_1 13 rfl rfl)
theorem dX4_out_38 : decode cX4_out 38 = .ok (.ishr, 1) := dk_122 (dk_at dksX4_out_1 14 rfl rfl)
theorem dX4_out_39 : decode cX4_out 39 = .ok (.iconst 1, 1) := dk_4 (dk_at dksX4_out_1 15 rfl rfl)
theorem dX4_out_40 : decode cX4_out 40 = .ok (.iand, 1) := dk_126 (dk_at dksX4_out_1 16 rfl rfl)
theorem dX4_out_41 : decode cX4_out 41 = .ok (.ifCond .ne 5, 3) := dk_154 0 5 (dk_at dksX4_out_1 17 rfl rfl)
theorem dX4_out_44 : decode cX4_out 44 = .ok (.iload_n 2, 1) := dk_28 (dk_at dksX4_out_1 20 rfl rfl)
theorem dX4_out_45 : decode cX4_out 45 = .ok (.ireturn, 1) := dk_172 (dk_at dksX4_out_1 21 rfl rfl)
theorem dX4_out_46 : decode cX4_out 46 = .ok (.iinc 2 1, 3) := dk_132 2 1 (dk_at dksX4_out_2 0 rfl rfl)
theorem dX4_out_49 : decode cX4_out 49 = .ok (.goto (-28), 3) := dk_167 255 228 (dk_at dksX4_out_2 3 rfl rfl)
theorem dX4_out_52 : decode cX4_out 52 = .ok (.iconst (-1), 1) := dk_2 (dk_at dksX4_out_2 6 rfl rfl)
theorem dX4_out_53 : decode cX4_out 53 = .ok (.ireturn, 1) := dk_172 (dk_at dksX4_out_2 7 rfl rfl)
abbrev cX4_luckiest : ByteArray := prog_13_method_79_code
def yX4_luckiest : MethodName := ⟨RX4, "luckiest", "(I)I"⟩
def dkwX4_luckiest_3 : List UInt8 := [167, 255, 217, 28, 172]
abbrev dktX4_luckiest_3 : List UInt8 := dkwX4_luckiest_3 ++ []
def dkwX4_luckiest_2 : List UInt8 := [16, 102, 29, 96, 46, 42, 180, 0, 75, 16, 102, 28, 96, 46, 164, 0, 5, 29, 61, 132, 3, 1]
abbrev dktX4_luckiest_2 : List UInt8 := dkwX4_luckiest_2 ++ dktX4_luckiest_3
def dkwX4_luckiest_1 : List UInt8 := [182, 1, 136, 2, 61, 3, 62, 29, 42, 180, 1, 25, 162, 0, 37, 28, 2, 159, 0, 24, 42, 180, 0, 75]
abbrev dktX4_luckiest_1 : List UInt8 := dkwX4_luckiest_1 ++ dktX4_luckiest_2
def dkwX4_luckiest_0 : List UInt8 := [42, 3, 181, 0, 117, 42, 27, 3, 4, 182, 1, 130, 154, 0, 5, 3, 172, 42, 182, 1, 133, 42, 27]
abbrev dktX4_luckiest_0 : List UInt8 := dkwX4_luckiest_0 ++ dktX4_luckiest_1
theorem dksX4_luckiest_0 : cX4_luckiest.data.toList.drop 0 = dktX4_luckiest_0 := by decide +kernel
theorem dksX4_luckiest_1 : cX4_luckiest.data.toList.drop 23 = dktX4_luckiest_1 := dk_seg dksX4_luckiest_0 23 rfl rfl
theorem dksX4_luckiest_2 : cX4_luckiest.data.toList.drop 47 = dktX4_luckiest_2 := dk_seg dksX4_luckiest_1 24 rfl rfl
theorem dksX4_luckiest_3 : cX4_luckiest.data.toList.drop 69 = dktX4_luckiest_3 := dk_seg dksX4_luckiest_2 22 rfl rfl
theorem dX4_luckiest_0 : decode cX4_luckiest 0 = .ok (.aload_n 0, 1) := dk_42 (dk_at dksX4_luckiest_0 0 rfl rfl)
theorem dX4_luckiest_1 : decode cX4_luckiest 1 = .ok (.iconst 0, 1) := dk_3 (dk_at dksX4_luckiest_0 1 rfl rfl)
theorem dX4_luckiest_2 : decode cX4_luckiest 2 = .ok (.putfield 117, 3) := dk_181 0 117 (dk_at dksX4_luckiest_0 2 rfl rfl)
theorem dX4_luckiest_5 : decode cX4_luckiest 5 = .ok (.aload_n 0, 1) := dk_42 (dk_at dksX4_luckiest_0 5 rfl rfl)
theorem dX4_luckiest_6 : decode cX4_luckiest 6 = .ok (.iload_n 1, 1) := dk_27 (dk_at dksX4_luckiest_0 6 rfl rfl)
theorem dX4_luckiest_7 : decode cX4_luckiest 7 = .ok (.iconst 0, 1) := dk_3 (dk_at dksX4_luckiest_0 7 rfl rfl)
theorem dX4_luckiest_8 : decode cX4_luckiest 8 = .ok (.iconst 1, 1) := dk_4 (dk_at dksX4_luckiest_0 8 rfl rfl)
theorem dX4_luckiest_9 : decode cX4_luckiest 9 = .ok (.invokevirtual 386, 3) := dk_182 1 130 (dk_at dksX4_luckiest_0 9 rfl rfl)
theorem dX4_luckiest_12 : decode cX4_luckiest 12 = .ok (.ifCond .ne 5, 3) := dk_154 0 5 (dk_at dksX4_luckiest_0 12 rfl rfl)
theorem dX4_luckiest_15 : decode cX4_luckiest 15 = .ok (.iconst 0, 1) := dk_3 (dk_at dksX4_luckiest_0 15 rfl rfl)
theorem dX4_luckiest_16 : decode cX4_luckiest 16 = .ok (.ireturn, 1) := dk_172 (dk_at dksX4_luckiest_0 16 rfl rfl)
theorem dX4_luckiest_17 : decode cX4_luckiest 17 = .ok (.aload_n 0, 1) := dk_42 (dk_at dksX4_luckiest_0 17 rfl rfl)
theorem dX4_luckiest_18 : decode cX4_luckiest 18 = .ok (.invokevirtual 389, 3) := dk_182 1 133 (dk_at dksX4_luckiest_0 18 rfl rfl)
theorem dX4_luckiest_21 : decode cX4_luckiest 21 = .ok (.aload_n 0, 1) := dk_42 (dk_at dksX4_luckiest_0 21 rfl rfl)
theorem dX4_luckiest_22 : decode cX4_luckiest 22 = .ok (.iload_n 1, 1) := dk_27 (dk_at dksX4_luckiest_0 22 rfl rfl)
theorem dX4_luckiest_23 : decode cX4_luckiest 23 = .ok (.invokevirtual 392, 3) := dk_182 1 136 (dk_at dksX4_luckiest_1 0 rfl rfl)
theorem dX4_luckiest_26 : decode cX4_luckiest 26 = .ok (.iconst (-1), 1) := dk_2 (dk_at dksX4_luckiest_1 3 rfl rfl)
theorem dX4_luckiest_27 : decode cX4_luckiest 27 = .ok (.istore_n 2, 1) := dk_61 (dk_at dksX4_luckiest_1 4 rfl rfl)
theorem dX4_luckiest_28 : decode cX4_luckiest 28 = .ok (.iconst 0, 1) := dk_3 (dk_at dksX4_luckiest_1 5 rfl rfl)
theorem dX4_luckiest_29 : decode cX4_luckiest 29 = .ok (.istore_n 3, 1) := dk_62 (dk_at dksX4_luckiest_1 6 rfl rfl)
theorem dX4_luckiest_30 : decode cX4_luckiest 30 = .ok (.iload_n 3, 1) := dk_29 (dk_at dksX4_luckiest_1 7 rfl rfl)
theorem dX4_luckiest_31 : decode cX4_luckiest 31 = .ok (.aload_n 0, 1) := dk_42 (dk_at dksX4_luckiest_1 8 rfl rfl)
theorem dX4_luckiest_32 : decode cX4_luckiest 32 = .ok (.getfield 281, 3) := dk_180 1 25 (dk_at dksX4_luckiest_1 9 rfl rfl)
theorem dX4_luckiest_35 : decode cX4_luckiest 35 = .ok (.if_icmp .ge 37, 3) := dk_162 0 37 (dk_at dksX4_luckiest_1 12 rfl rfl)
theorem dX4_luckiest_38 : decode cX4_luckiest 38 = .ok (.iload_n 2, 1) := dk_28 (dk_at dksX4_luckiest_1 15 rfl rfl)
theorem dX4_luckiest_39 : decode cX4_luckiest 39 = .ok (.iconst (-1), 1) := dk_2 (dk_at dksX4_luckiest_1 16 rfl rfl)
theorem dX4_luckiest_40 : decode cX4_luckiest 40 = .ok (.if_icmp .eq 24, 3) := dk_159 0 24 (dk_at dksX4_luckiest_1 17 rfl rfl)
theorem dX4_luckiest_43 : decode cX4_luckiest 43 = .ok (.aload_n 0, 1) := dk_42 (dk_at dksX4_luckiest_1 20 rfl rfl)
theorem dX4_luckiest_44 : decode cX4_luckiest 44 = .ok (.getfield 75, 3) := dk_180 0 75 (dk_at dksX4_luckiest_1 21 rfl rfl)
theorem dX4_luckiest_47 : decode cX4_luckiest 47 = .ok (.bipush 102, 2) := dk_16 102 (dk_at dksX4_luckiest_2 0 rfl rfl)
theorem dX4_luckiest_49 : decode cX4_luckiest 49 = .ok (.iload_n 3, 1) := dk_29 (dk_at dksX4_luckiest_2 2 rfl rfl)
theorem dX4_luckiest_50 : decode cX4_luckiest 50 = .ok (.iadd, 1) := dk_96 (dk_at dksX4_luckiest_2 3 rfl rfl)
theorem dX4_luckiest_51 : decode cX4_luckiest 51 = .ok (.iaload, 1) := dk_46 (dk_at dksX4_luckiest_2 4 rfl rfl)
theorem dX4_luckiest_52 : decode cX4_luckiest 52 = .ok (.aload_n 0, 1) := dk_42 (dk_at dksX4_luckiest_2 5 rfl rfl)
theorem dX4_luckiest_53 : decode cX4_luckiest 53 = .ok (.getfield 75, 3) := dk_180 0 75 (dk_at dksX4_luckiest_2 6 rfl rfl)
theorem dX4_luckiest_56 : decode cX4_luckiest 56 = .ok (.bipush 102, 2) := dk_16 102 (dk_at dksX4_luckiest_2 9 rfl rfl)
theorem dX4_luckiest_58 : decode cX4_luckiest 58 = .ok (.iload_n 2, 1) := dk_28 (dk_at dksX4_luckiest_2 11 rfl rfl)
theorem dX4_luckiest_59 : decode cX4_luckiest 59 = .ok (.iadd, 1) := dk_96 (dk_at dksX4_luckiest_2 12 rfl rfl)
theorem dX4_luckiest_60 : decode cX4_luckiest 60 = .ok (.iaload, 1) := dk_46 (dk_at dksX4_luckiest_2 13 rfl rfl)
theorem dX4_luckiest_61 : decode cX4_luckiest 61 = .ok (.if_icmp .le 5, 3) := dk_164 0 5 (dk_at dksX4_luckiest_2 14 rfl rfl)
theorem dX4_luckiest_64 : decode cX4_luckiest 64 = .ok (.iload_n 3, 1) := dk_29 (dk_at dksX4_luckiest_2 17 rfl rfl)
theorem dX4_luckiest_65 : decode cX4_luckiest 65 = .ok (.istore_n 2, 1) := dk_61 (dk_at dksX4_luckiest_2 18 rfl rfl)
theorem dX4_luckiest_66 : decode cX4_luckiest 66 = .ok (.iinc 3 1, 3) := dk_132 3 1 (dk_at dksX4_luckiest_2 19 rfl rfl)
theorem dX4_luckiest_69 : decode cX4_luckiest 69 = .ok (.goto (-39), 3) := dk_167 255 217 (dk_at dksX4_luckiest_3 0 rfl rfl)
theorem dX4_luckiest_72 : decode cX4_luckiest 72 = .ok (.iload_n 2, 1) := dk_28 (dk_at dksX4_luckiest_3 3 rfl rfl)
theorem dX4_luckiest_73 : decode cX4_luckiest 73 = .ok (.ireturn, 1) := dk_172 (dk_at dksX4_luckiest_3 4 rfl rfl)
abbrev cX4_streak : ByteArray := prog_13_method_80_code
def yX4_streak : MethodName := ⟨RX4, "streak", "(II)I"⟩
def dkwX4_streak_3 : List UInt8 := [54, 4, 21, 4, 29, 164, 0, 8, 21, 4, 167, 0, 4, 29, 62, 132, 5, 1, 167, 255, 206, 29, 172]
abbrev dktX4_streak_3 : List UInt8 := dkwX4_streak_3 ++ []
def dkwX4_streak_2 : List UInt8 := [182, 1, 87, 42, 180, 1, 73, 27, 122, 4, 126, 4, 160, 0, 10, 21, 4, 4, 96, 167, 0, 4, 3]
abbrev dktX4_streak_2 : List UInt8 := dkwX4_streak_2 ++ dktX4_streak_3
def dkwX4_streak_1 : List UInt8 := [172, 42, 182, 1, 133, 3, 62, 3, 54, 4, 3, 54, 5, 21, 5, 28, 162, 0, 50, 42, 16, 85]
abbrev dktX4_streak_1 : List UInt8 := dkwX4_streak_1 ++ dktX4_streak_2
def dkwX4_streak_0 : List UInt8 := [42, 3, 181, 0, 117, 42, 27, 182, 1, 106, 153, 0, 13, 42, 28, 3, 5, 182, 1, 130, 154, 0, 5, 3]
abbrev dktX4_streak_0 : List UInt8 := dkwX4_streak_0 ++ dktX4_streak_1
theorem dksX4_streak_0 : cX4_streak.data.toList.drop 0 = dktX4_streak_0 := by decide +kernel
theorem dksX4_streak_1 : cX4_streak.data.toList.drop 24 = dktX4_streak_1 := dk_seg dksX4_streak_0 24 rfl rfl
theorem dksX4_streak_2 : cX4_streak.data.toList.drop 46 = dktX4_streak_2 := dk_seg dksX4_streak_1 22 rfl rfl
theorem dksX4_streak_3 : cX4_streak.data.toList.drop 69 = dktX4_streak_3 := dk_seg dksX4_streak_2 23 rfl rfl
theorem dX4_streak_0 : decode cX4_streak 0 = .ok (.aload_n 0, 1) := dk_42 (dk_at dksX4_streak_0 0 rfl rfl)
theorem dX4_streak_1 : decode cX4_streak 1 = .ok (.iconst 0, 1) := dk_3 (dk_at dksX4_streak_0 1 rfl rfl)
theorem dX4_streak_2 : decode cX4_streak 2 = .ok (.putfield 117, 3) := dk_181 0 117 (dk_at dksX4_streak_0 2 rfl rfl)
theorem dX4_streak_5 : decode cX4_streak 5 = .ok (.aload_n 0, 1) := dk_42 (dk_at dksX4_streak_0 5 rfl rfl)
theorem dX4_streak_6 : decode cX4_streak 6 = .ok (.iload_n 1, 1) := dk_27 (dk_at dksX4_streak_0 6 rfl rfl)
theorem dX4_streak_7 : decode cX4_streak 7 = .ok (.invokevirtual 362, 3) := dk_182 1 106 (dk_at dksX4_streak_0 7 rfl rfl)
theorem dX4_streak_10 : decode cX4_streak 10 = .ok (.ifCond .eq 13, 3) := dk_153 0 13 (dk_at dksX4_streak_0 10 rfl rfl)
theorem dX4_streak_13 : decode cX4_streak 13 = .ok (.aload_n 0, 1) := dk_42 (dk_at dksX4_streak_0 13 rfl rfl)
theorem dX4_streak_14 : decode cX4_streak 14 = .ok (.iload_n 2, 1) := dk_28 (dk_at dksX4_streak_0 14 rfl rfl)
theorem dX4_streak_15 : decode cX4_streak 15 = .ok (.iconst 0, 1) := dk_3 (dk_at dksX4_streak_0 15 rfl rfl)
theorem dX4_streak_16 : decode cX4_streak 16 = .ok (.iconst 2, 1) := dk_5 (dk_at dksX4_streak_0 16 rfl rfl)
theorem dX4_streak_17 : decode cX4_streak 17 = .ok (.invokevirtual 386, 3) := dk_182 1 130 (dk_at dksX4_streak_0 17 rfl rfl)
theorem dX4_streak_20 : decode cX4_streak 20 = .ok (.ifCond .ne 5, 3) := dk_154 0 5 (dk_at dksX4_streak_0 20 rfl rfl)
theorem dX4_streak_23 : decode cX4_streak 23 = .ok (.iconst 0, 1) := dk_3 (dk_at dksX4_streak_0 23 rfl rfl)
theorem dX4_streak_24 : decode cX4_streak 24 = .ok (.ireturn, 1) := dk_172 (dk_at dksX4_streak_1 0 rfl rfl)
theorem dX4_streak_25 : decode cX4_streak 25 = .ok (.aload_n 0, 1) := dk_42 (dk_at dksX4_streak_1 1 rfl rfl)
theorem dX4_streak_26 : decode cX4_streak 26 = .ok (.invokevirtual 389, 3) := dk_182 1 133 (dk_at dksX4_streak_1 2 rfl rfl)
theorem dX4_streak_29 : decode cX4_streak 29 = .ok (.iconst 0, 1) := dk_3 (dk_at dksX4_streak_1 5 rfl rfl)
theorem dX4_streak_30 : decode cX4_streak 30 = .ok (.istore_n 3, 1) := dk_62 (dk_at dksX4_streak_1 6 rfl rfl)
theorem dX4_streak_31 : decode cX4_streak 31 = .ok (.iconst 0, 1) := dk_3 (dk_at dksX4_streak_1 7 rfl rfl)
theorem dX4_streak_32 : decode cX4_streak 32 = .ok (.istore 4, 2) := dk_54 4 (dk_at dksX4_streak_1 8 rfl rfl)
theorem dX4_streak_34 : decode cX4_streak 34 = .ok (.iconst 0, 1) := dk_3 (dk_at dksX4_streak_1 10 rfl rfl)
theorem dX4_streak_35 : decode cX4_streak 35 = .ok (.istore 5, 2) := dk_54 5 (dk_at dksX4_streak_1 11 rfl rfl)
theorem dX4_streak_37 : decode cX4_streak 37 = .ok (.iload 5, 2) := dk_21 5 (dk_at dksX4_streak_1 13 rfl rfl)
theorem dX4_streak_39 : decode cX4_streak 39 = .ok (.iload_n 2, 1) := dk_28 (dk_at dksX4_streak_1 15 rfl rfl)
theorem dX4_streak_40 : decode cX4_streak 40 = .ok (.if_icmp .ge 50, 3) := dk_162 0 50 (dk_at dksX4_streak_1 16 rfl rfl)
theorem dX4_streak_43 : decode cX4_streak 43 = .ok (.aload_n 0, 1) := dk_42 (dk_at dksX4_streak_1 19 rfl rfl)
theorem dX4_streak_44 : decode cX4_streak 44 = .ok (.bipush 85, 2) := dk_16 85 (dk_at dksX4_streak_1 20 rfl rfl)
theorem dX4_streak_46 : decode cX4_streak 46 = .ok (.invokevirtual 343, 3) := dk_182 1 87 (dk_at dksX4_streak_2 0 rfl rfl)
theorem dX4_streak_49 : decode cX4_streak 49 = .ok (.aload_n 0, 1) := dk_42 (dk_at dksX4_streak_2 3 rfl rfl)
theorem dX4_streak_50 : decode cX4_streak 50 = .ok (.getfield 329, 3) := dk_180 1 73 (dk_at dksX4_streak_2 4 rfl rfl)
theorem dX4_streak_53 : decode cX4_streak 53 = .ok (.iload_n 1, 1) := dk_27 (dk_at dksX4_streak_2 7 rfl rfl)
theorem dX4_streak_54 : decode cX4_streak 54 = .ok (.ishr, 1) := dk_122 (dk_at dksX4_streak_2 8 rfl rfl)
theorem dX4_streak_55 : decode cX4_streak 55 = .ok (.iconst 1, 1) := dk_4 (dk_at dksX4_streak_2 9 rfl rfl)
theorem dX4_streak_56 : decode cX4_streak 56 = .ok (.iand, 1) := dk_126 (dk_at dksX4_streak_2 10 rfl rfl)
theorem dX4_streak_57 : decode cX4_streak 57 = .ok (.iconst 1, 1) := dk_4 (dk_at dksX4_streak_2 11 rfl rfl)
theorem dX4_streak_58 : decode cX4_streak 58 = .ok (.if_icmp .ne 10, 3) := dk_160 0 10 (dk_at dksX4_streak_2 12 rfl rfl)
theorem dX4_streak_61 : decode cX4_streak 61 = .ok (.iload 4, 2) := dk_21 4 (dk_at dksX4_streak_2 15 rfl rfl)
theorem dX4_streak_63 : decode cX4_streak 63 = .ok (.iconst 1, 1) := dk_4 (dk_at dksX4_streak_2 17 rfl rfl)
theorem dX4_streak_64 : decode cX4_streak 64 = .ok (.iadd, 1) := dk_96 (dk_at dksX4_streak_2 18 rfl rfl)
theorem dX4_streak_65 : decode cX4_streak 65 = .ok (.goto 4, 3) := dk_167 0 4 (dk_at dksX4_streak_2 19 rfl rfl)
theorem dX4_streak_68 : decode cX4_streak 68 = .ok (.iconst 0, 1) := dk_3 (dk_at dksX4_streak_2 22 rfl rfl)
theorem dX4_streak_69 : decode cX4_streak 69 = .ok (.istore 4, 2) := dk_54 4 (dk_at dksX4_streak_3 0 rfl rfl)
theorem dX4_streak_71 : decode cX4_streak 71 = .ok (.iload 4, 2) := dk_21 4 (dk_at dksX4_streak_3 2 rfl rfl)
theorem dX4_streak_73 : decode cX4_streak 73 = .ok (.iload_n 3, 1) := dk_29 (dk_at dksX4_streak_3 4 rfl rfl)
theorem dX4_streak_74 : decode cX4_streak 74 = .ok (.if_icmp .le 8, 3) := dk_164 0 8 (dk_at dksX4_streak_3 5 rfl rfl)
theorem dX4_streak_77 : decode cX4_streak 77 = .ok (.iload 4, 2) := dk_21 4 (dk_at dksX4_streak_3 8 rfl rfl)
theorem dX4_streak_79 : decode cX4_streak 79 = .ok (.goto 4, 3) := dk_167 0 4 (dk_at dksX4_streak_3 10 rfl rfl)
theorem dX4_streak_82 : decode cX4_streak 82 = .ok (.iload_n 3, 1) := dk_29 (dk_at dksX4_streak_3 13 rfl rfl)
theorem dX4_streak_83 : decode cX4_streak 83 = .ok (.istore_n 3, 1) := dk_62 (dk_at dksX4_streak_3 14 rfl rfl)
theorem dX4_streak_84 : decode cX4_streak 84 = .ok (.iinc 5 1, 3) := dk_132 5 1 (dk_at dksX4_streak_3 15 rfl rfl)
theorem dX4_streak_87 : decode cX4_streak 87 = .ok (.goto (-50), 3) := dk_167 255 206 (dk_at dksX4_streak_3 18 rfl rfl)
theorem dX4_streak_90 : decode cX4_streak 90 = .ok (.iload_n 3, 1) := dk_29 (dk_at dksX4_streak_3 21 rfl rfl)
theorem dX4_streak_91 : decode cX4_streak 91 = .ok (.ireturn, 1) := dk_172 (dk_at dksX4_streak_3 22 rfl rfl)
abbrev cX4_day : ByteArray := prog_13_method_81_code
def yX4_day : MethodName := ⟨RX4, "day", "(II)I"⟩
def dkwX4_day_4 : List UInt8 := [167, 255, 200, 28, 154, 0, 7, 29, 167, 0, 5, 21, 4, 172]
abbrev dktX4_day_4 : List UInt8 := dkwX4_day_4 ++ []
def dkwX4_day_3 : List UInt8 := [159, 0, 13, 21, 7, 21, 4, 163, 0, 6, 167, 0, 10, 21, 5, 62, 21, 7, 54, 4, 132, 5, 1]
abbrev dktX4_day_3 : List UInt8 := dkwX4_day_3 ++ dktX4_day_4
def dkwX4_day_2 : List UInt8 := [182, 1, 94, 54, 6, 42, 16, 85, 182, 1, 87, 42, 16, 102, 182, 1, 94, 21, 6, 100, 54, 7, 29, 2]
abbrev dktX4_day_2 : List UInt8 := dkwX4_day_2 ++ dktX4_day_3
def dkwX4_day_1 : List UInt8 := [3, 172, 42, 182, 1, 133, 2, 62, 3, 54, 4, 4, 54, 5, 21, 5, 27, 163, 0, 56, 42, 16, 102]
abbrev dktX4_day_1 : List UInt8 := dkwX4_day_1 ++ dktX4_day_2
def dkwX4_day_0 : List UInt8 := [42, 3, 181, 0, 117, 42, 28, 4, 182, 1, 109, 153, 0, 13, 42, 27, 4, 5, 182, 1, 130, 154, 0, 5]
abbrev dktX4_day_0 : List UInt8 := dkwX4_day_0 ++ dktX4_day_1
theorem dksX4_day_0 : cX4_day.data.toList.drop 0 = dktX4_day_0 := by decide +kernel
theorem dksX4_day_1 : cX4_day.data.toList.drop 24 = dktX4_day_1 := dk_seg dksX4_day_0 24 rfl rfl
theorem dksX4_day_2 : cX4_day.data.toList.drop 47 = dktX4_day_2 := dk_seg dksX4_day_1 23 rfl rfl
theorem dksX4_day_3 : cX4_day.data.toList.drop 71 = dktX4_day_3 := dk_seg dksX4_day_2 24 rfl rfl
theorem dksX4_day_4 : cX4_day.data.toList.drop 94 = dktX4_day_4 := dk_seg dksX4_day_3 23 rfl rfl
theorem dX4_day_0 : decode cX4_day 0 = .ok (.aload_n 0, 1) := dk_42 (dk_at dksX4_day_0 0 rfl rfl)
theorem dX4_day_1 : decode cX4_day 1 = .ok (.iconst 0, 1) := dk_3 (dk_at dksX4_day_0 1 rfl rfl)
theorem dX4_day_2 : decode cX4_day 2 = .ok (.putfield 117, 3) := dk_181 0 117 (dk_at dksX4_day_0 2 rfl rfl)
theorem dX4_day_5 : decode cX4_day 5 = .ok (.aload_n 0, 1) := dk_42 (dk_at dksX4_day_0 5 rfl rfl)
theorem dX4_day_6 : decode cX4_day 6 = .ok (.iload_n 2, 1) := dk_28 (dk_at dksX4_day_0 6 rfl rfl)
theorem dX4_day_7 : decode cX4_day 7 = .ok (.iconst 1, 1) := dk_4 (dk_at dksX4_day_0 7 rfl rfl)
theorem dX4_day_8 : decode cX4_day 8 = .ok (.invokevirtual 365, 3) := dk_182 1 109 (dk_at dksX4_day_0 8 rfl rfl)
theorem dX4_day_11 : decode cX4_day 11 = .ok (.ifCond .eq 13, 3) := dk_153 0 13 (dk_at dksX4_day_0 11 rfl rfl)
theorem dX4_day_14 : decode cX4_day 14 = .ok (.aload_n 0, 1) := dk_42 (dk_at dksX4_day_0 14 rfl rfl)
theorem dX4_day_15 : decode cX4_day 15 = .ok (.iload_n 1, 1) := dk_27 (dk_at dksX4_day_0 15 rfl rfl)
theorem dX4_day_16 : decode cX4_day 16 = .ok (.iconst 1, 1) := dk_4 (dk_at dksX4_day_0 16 rfl rfl)
theorem dX4_day_17 : decode cX4_day 17 = .ok (.iconst 2, 1) := dk_5 (dk_at dksX4_day_0 17 rfl rfl)
theorem dX4_day_18 : decode cX4_day 18 = .ok (.invokevirtual 386, 3) := dk_182 1 130 (dk_at dksX4_day_0 18 rfl rfl)
theorem dX4_day_21 : decode cX4_day 21 = .ok (.ifCond .ne 5, 3) := dk_154 0 5 (dk_at dksX4_day_0 21 rfl rfl)
theorem dX4_day_24 : decode cX4_day 24 = .ok (.iconst 0, 1) := dk_3 (dk_at dksX4_day_1 0 rfl rfl)
theorem dX4_day_25 : decode cX4_day 25 = .ok (.ireturn, 1) := dk_172 (dk_at dksX4_day_1 1 rfl rfl)
theorem dX4_day_26 : decode cX4_day 26 = .ok (.aload_n 0, 1) := dk_42 (dk_at dksX4_day_1 2 rfl rfl)
theorem dX4_day_27 : decode cX4_day 27 = .ok (.invokevirtual 389, 3) := dk_182 1 133 (dk_at dksX4_day_1 3 rfl rfl)
theorem dX4_day_30 : decode cX4_day 30 = .ok (.iconst (-1), 1) := dk_2 (dk_at dksX4_day_1 6 rfl rfl)
theorem dX4_day_31 : decode cX4_day 31 = .ok (.istore_n 3, 1) := dk_62 (dk_at dksX4_day_1 7 rfl rfl)
theorem dX4_day_32 : decode cX4_day 32 = .ok (.iconst 0, 1) := dk_3 (dk_at dksX4_day_1 8 rfl rfl)
theorem dX4_day_33 : decode cX4_day 33 = .ok (.istore 4, 2) := dk_54 4 (dk_at dksX4_day_1 9 rfl rfl)
theorem dX4_day_35 : decode cX4_day 35 = .ok (.iconst 1, 1) := dk_4 (dk_at dksX4_day_1 11 rfl rfl)
theorem dX4_day_36 : decode cX4_day 36 = .ok (.istore 5, 2) := dk_54 5 (dk_at dksX4_day_1 12 rfl rfl)
theorem dX4_day_38 : decode cX4_day 38 = .ok (.iload 5, 2) := dk_21 5 (dk_at dksX4_day_1 14 rfl rfl)
theorem dX4_day_40 : decode cX4_day 40 = .ok (.iload_n 1, 1) := dk_27 (dk_at dksX4_day_1 16 rfl rfl)
theorem dX4_day_41 : decode cX4_day 41 = .ok (.if_icmp .gt 56, 3) := dk_163 0 56 (dk_at dksX4_day_1 17 rfl rfl)
theorem dX4_day_44 : decode cX4_day 44 = .ok (.aload_n 0, 1) := dk_42 (dk_at dksX4_day_1 20 rfl rfl)
theorem dX4_day_45 : decode cX4_day 45 = .ok (.bipush 102, 2) := dk_16 102 (dk_at dksX4_day_1 21 rfl rfl)
theorem dX4_day_47 : decode cX4_day 47 = .ok (.invokevirtual 350, 3) := dk_182 1 94 (dk_at dksX4_day_2 0 rfl rfl)
theorem dX4_day_50 : decode cX4_day 50 = .ok (.istore 6, 2) := dk_54 6 (dk_at dksX4_day_2 3 rfl rfl)
theorem dX4_day_52 : decode cX4_day 52 = .ok (.aload_n 0, 1) := dk_42 (dk_at dksX4_day_2 5 rfl rfl)
theorem dX4_day_53 : decode cX4_day 53 = .ok (.bipush 85, 2) := dk_16 85 (dk_at dksX4_day_2 6 rfl rfl)
theorem dX4_day_55 : decode cX4_day 55 = .ok (.invokevirtual 343, 3) := dk_182 1 87 (dk_at dksX4_day_2 8 rfl rfl)
theorem dX4_day_58 : decode cX4_day 58 = .ok (.aload_n 0, 1) := dk_42 (dk_at dksX4_day_2 11 rfl rfl)
theorem dX4_day_59 : decode cX4_day 59 = .ok (.bipush 102, 2) := dk_16 102 (dk_at dksX4_day_2 12 rfl rfl)
theorem dX4_day_61 : decode cX4_day 61 = .ok (.invokevirtual 350, 3) := dk_182 1 94 (dk_at dksX4_day_2 14 rfl rfl)
theorem dX4_day_64 : decode cX4_day 64 = .ok (.iload 6, 2) := dk_21 6 (dk_at dksX4_day_2 17 rfl rfl)
theorem dX4_day_66 : decode cX4_day 66 = .ok (.isub, 1) := dk_100 (dk_at dksX4_day_2 19 rfl rfl)
theorem dX4_day_67 : decode cX4_day 67 = .ok (.istore 7, 2) := dk_54 7 (dk_at dksX4_day_2 20 rfl rfl)
theorem dX4_day_69 : decode cX4_day 69 = .ok (.iload_n 3, 1) := dk_29 (dk_at dksX4_day_2 22 rfl rfl)
theorem dX4_day_70 : decode cX4_day 70 = .ok (.iconst (-1), 1) := dk_2 (dk_at dksX4_day_2 23 rfl rfl)
theorem dX4_day_71 : decode cX4_day 71 = .ok (.if_icmp .eq 13, 3) := dk_159 0 13 (dk_at dksX4_day_3 0 rfl rfl)
theorem dX4_day_74 : decode cX4_day 74 = .ok (.iload 7, 2) := dk_21 7 (dk_at dksX4_day_3 3 rfl rfl)
theorem dX4_day_76 : decode cX4_day 76 = .ok (.iload 4, 2) := dk_21 4 (dk_at dksX4_day_3 5 rfl rfl)
theorem dX4_day_78 : decode cX4_day 78 = .ok (.if_icmp .gt 6, 3) := dk_163 0 6 (dk_at dksX4_day_3 7 rfl rfl)
theorem dX4_day_81 : decode cX4_day 81 = .ok (.goto 10, 3) := dk_167 0 10 (dk_at dksX4_day_3 10 rfl rfl)
theorem dX4_day_84 : decode cX4_day 84 = .ok (.iload 5, 2) := dk_21 5 (dk_at dksX4_day_3 13 rfl rfl)
theorem dX4_day_86 : decode cX4_day 86 = .ok (.istore_n 3, 1) := dk_62 (dk_at dksX4_day_3 15 rfl rfl)
theorem dX4_day_87 : decode cX4_day 87 = .ok (.iload 7, 2) := dk_21 7 (dk_at dksX4_day_3 16 rfl rfl)
theorem dX4_day_89 : decode cX4_day 89 = .ok (.istore 4, 2) := dk_54 4 (dk_at dksX4_day_3 18 rfl rfl)
theorem dX4_day_91 : decode cX4_day 91 = .ok (.iinc 5 1, 3) := dk_132 5 1 (dk_at dksX4_day_3 20 rfl rfl)
theorem dX4_day_94 : decode cX4_day 94 = .ok (.goto (-56), 3) := dk_167 255 200 (dk_at dksX4_day_4 0 rfl rfl)
theorem dX4_day_97 : decode cX4_day 97 = .ok (.iload_n 2, 1) := dk_28 (dk_at dksX4_day_4 3 rfl rfl)
theorem dX4_day_98 : decode cX4_day 98 = .ok (.ifCond .ne 7, 3) := dk_154 0 7 (dk_at dksX4_day_4 4 rfl rfl)
theorem dX4_day_101 : decode cX4_day 101 = .ok (.iload_n 3, 1) := dk_29 (dk_at dksX4_day_4 7 rfl rfl)
theorem dX4_day_102 : decode cX4_day 102 = .ok (.goto 5, 3) := dk_167 0 5 (dk_at dksX4_day_4 8 rfl rfl)
theorem dX4_day_105 : decode cX4_day 105 = .ok (.iload 4, 2) := dk_21 4 (dk_at dksX4_day_4 11 rfl rfl)
theorem dX4_day_107 : decode cX4_day 107 = .ok (.ireturn, 1) := dk_172 (dk_at dksX4_day_4 13 rfl rfl)
abbrev cX4_far : ByteArray := prog_13_method_84_code
def yX4_far : MethodName := ⟨RX4, "far", "(II)I"⟩
def dkwX4_far_1 : List UInt8 := [2, 182, 1, 140, 42, 180, 0, 87, 16, 8, 27, 104, 28, 96, 46, 184, 1, 143, 172]
abbrev dktX4_far_1 : List UInt8 := dkwX4_far_1 ++ []
def dkwX4_far_0 : List UInt8 := [42, 3, 181, 0, 117, 42, 27, 182, 1, 106, 153, 0, 11, 42, 28, 182, 1, 106, 154, 0, 5, 3, 172, 42]
abbrev dktX4_far_0 : List UInt8 := dkwX4_far_0 ++ dktX4_far_1
theorem dksX4_far_0 : cX4_far.data.toList.drop 0 = dktX4_far_0 := by decide +kernel
theorem dksX4_far_1 : cX4_far.data.toList.drop 24 = dktX4_far_1 := dk_seg dksX4_far_0 24 rfl rfl
theorem dX4_far_0 : decode cX4_far 0 = .ok (.aload_n 0, 1) := dk_42 (dk_at dksX4_far_0 0 rfl rfl)
theorem dX4_far_1 : decode cX4_far 1 = .ok (.iconst 0, 1) := dk_3 (dk_at dksX4_far_0 1 rfl rfl)
theorem dX4_far_2 : decode cX4_far 2 = .ok (.putfield 117, 3) := dk_181 0 117 (dk_at dksX4_far_0 2 rfl rfl)
theorem dX4_far_5 : decode cX4_far 5 = .ok (.aload_n 0, 1) := dk_42 (dk_at dksX4_far_0 5 rfl rfl)
theorem dX4_far_6 : decode cX4_far 6 = .ok (.iload_n 1, 1) := dk_27 (dk_at dksX4_far_0 6 rfl rfl)
theorem dX4_far_7 : decode cX4_far 7 = .ok (.invokevirtual 362, 3) := dk_182 1 106 (dk_at dksX4_far_0 7 rfl rfl)
theorem dX4_far_10 : decode cX4_far 10 = .ok (.ifCond .eq 11, 3) := dk_153 0 11 (dk_at dksX4_far_0 10 rfl rfl)
theorem dX4_far_13 : decode cX4_far 13 = .ok (.aload_n 0, 1) := dk_42 (dk_at dksX4_far_0 13 rfl rfl)
theorem dX4_far_14 : decode cX4_far 14 = .ok (.iload_n 2, 1) := dk_28 (dk_at dksX4_far_0 14 rfl rfl)
theorem dX4_far_15 : decode cX4_far 15 = .ok (.invokevirtual 362, 3) := dk_182 1 106 (dk_at dksX4_far_0 15 rfl rfl)
theorem dX4_far_18 : decode cX4_far 18 = .ok (.ifCond .ne 5, 3) := dk_154 0 5 (dk_at dksX4_far_0 18 rfl rfl)
theorem dX4_far_21 : decode cX4_far 21 = .ok (.iconst 0, 1) := dk_3 (dk_at dksX4_far_0 21 rfl rfl)
theorem dX4_far_22 : decode cX4_far 22 = .ok (.ireturn, 1) := dk_172 (dk_at dksX4_far_0 22 rfl rfl)
theorem dX4_far_23 : decode cX4_far 23 = .ok (.aload_n 0, 1) := dk_42 (dk_at dksX4_far_0 23 rfl rfl)
theorem dX4_far_24 : decode cX4_far 24 = .ok (.iconst (-1), 1) := dk_2 (dk_at dksX4_far_1 0 rfl rfl)
theorem dX4_far_25 : decode cX4_far 25 = .ok (.invokevirtual 396, 3) := dk_182 1 140 (dk_at dksX4_far_1 1 rfl rfl)
theorem dX4_far_28 : decode cX4_far 28 = .ok (.aload_n 0, 1) := dk_42 (dk_at dksX4_far_1 4 rfl rfl)
theorem dX4_far_29 : decode cX4_far 29 = .ok (.getfield 87, 3) := dk_180 0 87 (dk_at dksX4_far_1 5 rfl rfl)
theorem dX4_far_32 : decode cX4_far 32 = .ok (.bipush 8, 2) := dk_16 8 (dk_at dksX4_far_1 8 rfl rfl)
theorem dX4_far_34 : decode cX4_far 34 = .ok (.iload_n 1, 1) := dk_27 (dk_at dksX4_far_1 10 rfl rfl)
theorem dX4_far_35 : decode cX4_far 35 = .ok (.imul, 1) := dk_104 (dk_at dksX4_far_1 11 rfl rfl)
theorem dX4_far_36 : decode cX4_far 36 = .ok (.iload_n 2, 1) := dk_28 (dk_at dksX4_far_1 12 rfl rfl)
theorem dX4_far_37 : decode cX4_far 37 = .ok (.iadd, 1) := dk_96 (dk_at dksX4_far_1 13 rfl rfl)
theorem dX4_far_38 : decode cX4_far 38 = .ok (.iaload, 1) := dk_46 (dk_at dksX4_far_1 14 rfl rfl)
theorem dX4_far_39 : decode cX4_far 39 = .ok (.invokestatic 399, 3) := dk_184 1 143 (dk_at dksX4_far_1 15 rfl rfl)
theorem dX4_far_42 : decode cX4_far 42 = .ok (.ireturn, 1) := dk_172 (dk_at dksX4_far_1 18 rfl rfl)
abbrev cX4_measures : ByteArray := prog_13_method_82_code
def yX4_measures : MethodName := ⟨RX4, "measures", "(I)V"⟩
def dkwX4_measures_13 : List UInt8 := [132, 3, 1, 167, 255, 125, 132, 2, 1, 167, 255, 109, 177]
abbrev dktX4_measures_13 : List UInt8 := dkwX4_measures_13 ++ []
def dkwX4_measures_12 : List UInt8 := [180, 0, 90, 16, 8, 28, 104, 21, 4, 96, 46, 96, 184, 1, 67, 79, 132, 4, 1, 167, 255, 142]
abbrev dktX4_measures_12 : List UInt8 := dkwX4_measures_12 ++ dktX4_measures_13
def dkwX4_measures_11 : List UInt8 := [180, 0, 90, 16, 8, 29, 104, 21, 4, 96, 46, 42, 180, 0, 90, 16, 8, 29, 104, 28, 96, 46, 42]
abbrev dktX4_measures_11 : List UInt8 := dkwX4_measures_11 ++ dktX4_measures_12
def dkwX4_measures_10 : List UInt8 := [104, 21, 4, 96, 46, 96, 184, 1, 67, 79, 42, 180, 0, 90, 16, 8, 29, 104, 21, 4, 96, 42]
abbrev dktX4_measures_10 : List UInt8 := dkwX4_measures_10 ++ dktX4_measures_11
def dkwX4_measures_9 : List UInt8 := [29, 104, 21, 4, 96, 46, 42, 180, 0, 87, 16, 8, 29, 104, 28, 96, 46, 42, 180, 0, 87, 16, 8, 28]
abbrev dktX4_measures_9 : List UInt8 := dkwX4_measures_9 ++ dktX4_measures_10
def dkwX4_measures_8 : List UInt8 := [42, 180, 1, 25, 162, 0, 111, 42, 180, 0, 87, 16, 8, 29, 104, 21, 4, 96, 42, 180, 0, 87, 16, 8]
abbrev dktX4_measures_8 : List UInt8 := dkwX4_measures_8 ++ dktX4_measures_9
def dkwX4_measures_7 : List UInt8 := [61, 28, 42, 180, 1, 25, 162, 0, 145, 3, 62, 29, 42, 180, 1, 25, 162, 0, 129, 3, 54, 4, 21, 4]
abbrev dktX4_measures_7 : List UInt8 := dkwX4_measures_7 ++ dktX4_measures_8
def dkwX4_measures_6 : List UInt8 := [28, 46, 104, 79, 42, 180, 0, 90, 21, 4, 42, 180, 0, 90, 29, 46, 79, 132, 2, 1, 167, 255, 145, 3]
abbrev dktX4_measures_6 : List UInt8 := dkwX4_measures_6 ++ dktX4_measures_7
def dkwX4_measures_5 : List UInt8 := [21, 4, 42, 180, 0, 26, 28, 46, 79, 42, 180, 0, 90, 29, 42, 180, 0, 26, 28, 46, 42, 180, 0, 29]
abbrev dktX4_measures_5 : List UInt8 := dkwX4_measures_5 ++ dktX4_measures_6
def dkwX4_measures_4 : List UInt8 := [180, 0, 20, 28, 46, 96, 54, 4, 42, 180, 0, 87, 29, 42, 180, 0, 26, 28, 46, 79, 42, 180, 0, 87]
abbrev dktX4_measures_4 : List UInt8 := dkwX4_measures_4 ++ dktX4_measures_5
def dkwX4_measures_3 : List UInt8 := [180, 0, 20, 28, 46, 104, 42, 180, 0, 23, 28, 46, 96, 62, 16, 8, 42, 180, 0, 23, 28, 46, 104, 42]
abbrev dktX4_measures_3 : List UInt8 := dkwX4_measures_3 ++ dktX4_measures_4
def dkwX4_measures_2 : List UInt8 := [167, 255, 211, 3, 61, 28, 42, 180, 1, 28, 162, 0, 109, 28, 27, 160, 0, 6, 167, 0, 95, 16, 8, 42]
abbrev dktX4_measures_2 : List UInt8 := dkwX4_measures_2 ++ dktX4_measures_3
def dkwX4_measures_1 : List UInt8 := [3, 167, 0, 6, 19, 1, 139, 79, 42, 180, 0, 90, 28, 42, 180, 0, 87, 28, 46, 79, 132, 2, 1]
abbrev dktX4_measures_1 : List UInt8 := dkwX4_measures_1 ++ dktX4_measures_2
def dkwX4_measures_0 : List UInt8 := [3, 61, 28, 16, 64, 162, 0, 45, 42, 180, 0, 87, 28, 28, 16, 8, 108, 28, 16, 8, 112, 160, 0, 7]
abbrev dktX4_measures_0 : List UInt8 := dkwX4_measures_0 ++ dktX4_measures_1
theorem dksX4_measures_0 : cX4_measures.data.toList.drop 0 = dktX4_measures_0 := by decide +kernel
theorem dksX4_measures_1 : cX4_measures.data.toList.drop 24 = dktX4_measures_1 := dk_seg dksX4_measures_0 24 rfl rfl
theorem dksX4_measures_2 : cX4_measures.data.toList.drop 47 = dktX4_measures_2 := dk_seg dksX4_measures_1 23 rfl rfl
theorem dksX4_measures_3 : cX4_measures.data.toList.drop 71 = dktX4_measures_3 := dk_seg dksX4_measures_2 24 rfl rfl
theorem dksX4_measures_4 : cX4_measures.data.toList.drop 95 = dktX4_measures_4 := dk_seg dksX4_measures_3 24 rfl rfl
theorem dksX4_measures_5 : cX4_measures.data.toList.drop 119 = dktX4_measures_5 := dk_seg dksX4_measures_4 24 rfl rfl
theorem dksX4_measures_6 : cX4_measures.data.toList.drop 143 = dktX4_measures_6 := dk_seg dksX4_measures_5 24 rfl rfl
theorem dksX4_measures_7 : cX4_measures.data.toList.drop 167 = dktX4_measures_7 := dk_seg dksX4_measures_6 24 rfl rfl
theorem dksX4_measures_8 : cX4_measures.data.toList.drop 191 = dktX4_measures_8 := dk_seg dksX4_measures_7 24 rfl rfl
theorem dksX4_measures_9 : cX4_measures.data.toList.drop 215 = dktX4_measures_9 := dk_seg dksX4_measures_8 24 rfl rfl
theorem dksX4_measures_10 : cX4_measures.data.toList.drop 239 = dktX4_measures_10 := dk_seg dksX4_measures_9 24 rfl rfl
theorem dksX4_measures_11 : cX4_measures.data.toList.drop 261 = dktX4_measures_11 := dk_seg dksX4_measures_10 22 rfl rfl
theorem dksX4_measures_12 : cX4_measures.data.toList.drop 284 = dktX4_measures_12 := dk_seg dksX4_measures_11 23 rfl rfl
theorem dksX4_measures_13 : cX4_measures.data.toList.drop 306 = dktX4_measures_13 := dk_seg dksX4_measures_12 22 rfl rfl
theorem dX4_measures_0 : decode cX4_measures 0 = .ok (.iconst 0, 1) := dk_3 (dk_at dksX4_measures_0 0 rfl rfl)
theorem dX4_measures_1 : decode cX4_measures 1 = .ok (.istore_n 2, 1) := dk_61 (dk_at dksX4_measures_0 1 rfl rfl)
theorem dX4_measures_2 : decode cX4_measures 2 = .ok (.iload_n 2, 1) := dk_28 (dk_at dksX4_measures_0 2 rfl rfl)
theorem dX4_measures_3 : decode cX4_measures 3 = .ok (.bipush 64, 2) := dk_16 64 (dk_at dksX4_measures_0 3 rfl rfl)
theorem dX4_measures_5 : decode cX4_measures 5 = .ok (.if_icmp .ge 45, 3) := dk_162 0 45 (dk_at dksX4_measures_0 5 rfl rfl)
theorem dX4_measures_8 : decode cX4_measures 8 = .ok (.aload_n 0, 1) := dk_42 (dk_at dksX4_measures_0 8 rfl rfl)
theorem dX4_measures_9 : decode cX4_measures 9 = .ok (.getfield 87, 3) := dk_180 0 87 (dk_at dksX4_measures_0 9 rfl rfl)
theorem dX4_measures_12 : decode cX4_measures 12 = .ok (.iload_n 2, 1) := dk_28 (dk_at dksX4_measures_0 12 rfl rfl)
theorem dX4_measures_13 : decode cX4_measures 13 = .ok (.iload_n 2, 1) := dk_28 (dk_at dksX4_measures_0 13 rfl rfl)
theorem dX4_measures_14 : decode cX4_measures 14 = .ok (.bipush 8, 2) := dk_16 8 (dk_at dksX4_measures_0 14 rfl rfl)
theorem dX4_measures_16 : decode cX4_measures 16 = .ok (.idiv, 1) := dk_108 (dk_at dksX4_measures_0 16 rfl rfl)
theorem dX4_measures_17 : decode cX4_measures 17 = .ok (.iload_n 2, 1) := dk_28 (dk_at dksX4_measures_0 17 rfl rfl)
theorem dX4_measures_18 : decode cX4_measures 18 = .ok (.bipush 8, 2) := dk_16 8 (dk_at dksX4_measures_0 18 rfl rfl)
theorem dX4_measures_20 : decode cX4_measures 20 = .ok (.irem, 1) := dk_112 (dk_at dksX4_measures_0 20 rfl rfl)
theorem dX4_measures_21 : decode cX4_measures 21 = .ok (.if_icmp .ne 7, 3) := dk_160 0 7 (dk_at dksX4_measures_0 21 rfl rfl)
theorem dX4_measures_24 : decode cX4_measures 24 = .ok (.iconst 0, 1) := dk_3 (dk_at dksX4_measures_1 0 rfl rfl)
theorem dX4_measures_25 : decode cX4_measures 25 = .ok (.goto 6, 3) := dk_167 0 6 (dk_at dksX4_measures_1 1 rfl rfl)
theorem dX4_measures_28 : decode cX4_measures 28 = .ok (.ldc_w 395, 3) := dk_19 1 139 (dk_at dksX4_measures_1 4 rfl rfl)
theorem dX4_measures_31 : decode cX4_measures 31 = .ok (.iastore, 1) := dk_79 (dk_at dksX4_measures_1 7 rfl rfl)
theorem dX4_measures_32 : decode cX4_measures 32 = .ok (.aload_n 0, 1) := dk_42 (dk_at dksX4_measures_1 8 rfl rfl)
theorem dX4_measures_33 : decode cX4_measures 33 = .ok (.getfield 90, 3) := dk_180 0 90 (dk_at dksX4_measures_1 9 rfl rfl)
theorem dX4_measures_36 : decode cX4_measures 36 = .ok (.iload_n 2, 1) := dk_28 (dk_at dksX4_measures_1 12 rfl rfl)
theorem dX4_measures_37 : decode cX4_measures 37 = .ok (.aload_n 0, 1) := dk_42 (dk_at dksX4_measures_1 13 rfl rfl)
theorem dX4_measures_38 : decode cX4_measures 38 = .ok (.getfield 87, 3) := dk_180 0 87 (dk_at dksX4_measures_1 14 rfl rfl)
theorem dX4_measures_41 : decode cX4_measures 41 = .ok (.iload_n 2, 1) := dk_28 (dk_at dksX4_measures_1 17 rfl rfl)
theorem dX4_measures_42 : decode cX4_measures 42 = .ok (.iaload, 1) := dk_46 (dk_at dksX4_measures_1 18 rfl rfl)
theorem dX4_measures_43 : decode cX4_measures 43 = .ok (.iastore, 1) := dk_79 (dk_at dksX4_measures_1 19 rfl rfl)
theorem dX4_measures_44 : decode cX4_measures 44 = .ok (.iinc 2 1, 3) := dk_132 2 1 (dk_at dksX4_measures_1 20 rfl rfl)
theorem dX4_measures_47 : decode cX4_measures 47 = .ok (.goto (-45), 3) := dk_167 255 211 (dk_at dksX4_measures_2 0 rfl rfl)
theorem dX4_measures_50 : decode cX4_measures 50 = .ok (.iconst 0, 1) := dk_3 (dk_at dksX4_measures_2 3 rfl rfl)
theorem dX4_measures_51 : decode cX4_measures 51 = .ok (.istore_n 2, 1) := dk_61 (dk_at dksX4_measures_2 4 rfl rfl)
theorem dX4_measures_52 : decode cX4_measures 52 = .ok (.iload_n 2, 1) := dk_28 (dk_at dksX4_measures_2 5 rfl rfl)
theorem dX4_measures_53 : decode cX4_measures 53 = .ok (.aload_n 0, 1) := dk_42 (dk_at dksX4_measures_2 6 rfl rfl)
theorem dX4_measures_54 : decode cX4_measures 54 = .ok (.getfield 284, 3) := dk_180 1 28 (dk_at dksX4_measures_2 7 rfl rfl)
theorem dX4_measures_57 : decode cX4_measures 57 = .ok (.if_icmp .ge 109, 3) := dk_162 0 109 (dk_at dksX4_measures_2 10 rfl rfl)
theorem dX4_measures_60 : decode cX4_measures 60 = .ok (.iload_n 2, 1) := dk_28 (dk_at dksX4_measures_2 13 rfl rfl)
theorem dX4_measures_61 : decode cX4_measures 61 = .ok (.iload_n 1, 1) := dk_27 (dk_at dksX4_measures_2 14 rfl rfl)
theorem dX4_measures_62 : decode cX4_measures 62 = .ok (.if_icmp .ne 6, 3) := dk_160 0 6 (dk_at dksX4_measures_2 15 rfl rfl)
theorem dX4_measures_65 : decode cX4_measures 65 = .ok (.goto 95, 3) := dk_167 0 95 (dk_at dksX4_measures_2 18 rfl rfl)
theorem dX4_measures_68 : decode cX4_measures 68 = .ok (.bipush 8, 2) := dk_16 8 (dk_at dksX4_measures_2 21 rfl rfl)
theorem dX4_measures_70 : decode cX4_measures 70 = .ok (.aload_n 0, 1) := dk_42 (dk_at dksX4_measures_2 23 rfl rfl)
theorem dX4_measures_71 : decode cX4_measures 71 = .ok (.getfield 20, 3) := dk_180 0 20 (dk_at dksX4_measures_3 0 rfl rfl)
theorem dX4_measures_74 : decode cX4_measures 74 = .ok (.iload_n 2, 1) := dk_28 (dk_at dksX4_measures_3 3 rfl rfl)
theorem dX4_measures_75 : decode cX4_measures 75 = .ok (.iaload, 1) := dk_46 (dk_at dksX4_measures_3 4 rfl rfl)
theorem dX4_measures_76 : decode cX4_measures 76 = .ok (.imul, 1) := dk_104 (dk_at dksX4_measures_3 5 rfl rfl)
theorem dX4_measures_77 : decode cX4_measures 77 = .ok (.aload_n 0, 1) := dk_42 (dk_at dksX4_measures_3 6 rfl rfl)
theorem dX4_measures_78 : decode cX4_measures 78 = .ok (.getfield 23, 3) := dk_180 0 23 (dk_at dksX4_measures_3 7 rfl rfl)
theorem dX4_measures_81 : decode cX4_measures 81 = .ok (.iload_n 2, 1) := dk_28 (dk_at dksX4_measures_3 10 rfl rfl)
theorem dX4_measures_82 : decode cX4_measures 82 = .ok (.iaload, 1) := dk_46 (dk_at dksX4_measures_3 11 rfl rfl)
theorem dX4_measures_83 : decode cX4_measures 83 = .ok (.iadd, 1) := dk_96 (dk_at dksX4_measures_3 12 rfl rfl)
theorem dX4_measures_84 : decode cX4_measures 84 = .ok (.istore_n 3, 1) := dk_62 (dk_at dksX4_measures_3 13 rfl rfl)
theorem dX4_measures_85 : decode cX4_measures 85 = .ok (.bipush 8, 2) := dk_16 8 (dk_at dksX4_measures_3 14 rfl rfl)
theorem dX4_measures_87 : decode cX4_measures 87 = .ok (.aload_n 0, 1) := dk_42 (dk_at dksX4_measures_3 16 rfl rfl)
theorem dX4_measures_88 : decode cX4_measures 88 = .ok (.getfield 23, 3) := dk_180 0 23 (dk_at dksX4_measures_3 17 rfl rfl)
theorem dX4_measures_91 : decode cX4_measures 91 = .ok (.iload_n 2, 1) := dk_28 (dk_at dksX4_measures_3 20 rfl rfl)
theorem dX4_measures_92 : decode cX4_measures 92 = .ok (.iaload, 1) := dk_46 (dk_at dksX4_measures_3 21 rfl rfl)
theorem dX4_measures_93 : decode cX4_measures 93 = .ok (.imul, 1) := dk_104 (dk_at dksX4_measures_3 22 rfl rfl)
theorem dX4_measures_94 : decode cX4_measures 94 = .ok (.aload_n 0, 1) := dk_42 (dk_at dksX4_measures_3 23 rfl rfl)
theorem dX4_measures_95 : decode cX4_measures 95 = .ok (.getfield 20, 3) := dk_180 0 20 (dk_at dksX4_measures_4 0 rfl rfl)
theorem dX4_measures_98 : decode cX4_measures 98 = .ok (.iload_n 2, 1) := dk_28 (dk_at dksX4_measures_4 3 rfl rfl)
theorem dX4_measures_99 : decode cX4_measures 99 = .ok (.iaload, 1) := dk_46 (dk_at dksX4_measures_4 4 rfl rfl)
theorem dX4_measures_100 : decode cX4_measures 100 = .ok (.iadd, 1) := dk_96 (dk_at dksX4_measures_4 5 rfl rfl)
theorem dX4_measures_101 : decode cX4_measures 101 = .ok (.istore 4, 2) := dk_54 4 (dk_at dksX4_measures_4 6 rfl rfl)
theorem dX4_measures_103 : decode cX4_measures 103 = .ok (.aload_n 0, 1) := dk_42 (dk_at dksX4_measures_4 8 rfl rfl)
theorem dX4_measures_104 : decode cX4_measures 104 = .ok (.getfield 87, 3) := dk_180 0 87 (dk_at dksX4_measures_4 9 rfl rfl)
theorem dX4_measures_107 : decode cX4_measures 107 = .ok (.iload_n 3, 1) := dk_29 (dk_at dksX4_measures_4 12 rfl rfl)
theorem dX4_measures_108 : decode cX4_measures 108 = .ok (.aload_n 0, 1) := dk_42 (dk_at dksX4_measures_4 13 rfl rfl)
theorem dX4_measures_109 : decode cX4_measures 109 = .ok (.getfield 26, 3) := dk_180 0 26 (dk_at dksX4_measures_4 14 rfl rfl)
theorem dX4_measures_112 : decode cX4_measures 112 = .ok (.iload_n 2, 1) := dk_28 (dk_at dksX4_measures_4 17 rfl rfl)
theorem dX4_measures_113 : decode cX4_measures 113 = .ok (.iaload, 1) := dk_46 (dk_at dksX4_measures_4 18 rfl rfl)
theorem dX4_measures_114 : decode cX4_measures 114 = .ok (.iastore, 1) := dk_79 (dk_at dksX4_measures_4 19 rfl rfl)
theorem dX4_measures_115 : decode cX4_measures 115 = .ok (.aload_n 0, 1) := dk_42 (dk_at dksX4_measures_4 20 rfl rfl)
theorem dX4_measures_116 : decode cX4_measures 116 = .ok (.getfield 87, 3) := dk_180 0 87 (dk_at dksX4_measures_4 21 rfl rfl)
theorem dX4_measures_119 : decode cX4_measures 119 = .ok (.iload 4, 2) := dk_21 4 (dk_at dksX4_measures_5 0 rfl rfl)
theorem dX4_measures_121 : decode cX4_measures 121 = .ok (.aload_n 0, 1) := dk_42 (dk_at dksX4_measures_5 2 rfl rfl)
theorem dX4_measures_122 : decode cX4_measures 122 = .ok (.getfield 26, 3) := dk_180 0 26 (dk_at dksX4_measures_5 3 rfl rfl)
theorem dX4_measures_125 : decode cX4_measures 125 = .ok (.iload_n 2, 1) := dk_28 (dk_at dksX4_measures_5 6 rfl rfl)
theorem dX4_measures_126 : decode cX4_measures 126 = .ok (.iaload, 1) := dk_46 (dk_at dksX4_measures_5 7 rfl rfl)
theorem dX4_measures_127 : decode cX4_measures 127 = .ok (.iastore, 1) := dk_79 (dk_at dksX4_measures_5 8 rfl rfl)
theorem dX4_measures_128 : decode cX4_measures 128 = .ok (.aload_n 0, 1) := dk_42 (dk_at dksX4_measures_5 9 rfl rfl)
theorem dX4_measures_129 : decode cX4_measures 129 = .ok (.getfield 90, 3) := dk_180 0 90 (dk_at dksX4_measures_5 10 rfl rfl)
theorem dX4_measures_132 : decode cX4_measures 132 = .ok (.iload_n 3, 1) := dk_29 (dk_at dksX4_measures_5 13 rfl rfl)
theorem dX4_measures_133 : decode cX4_measures 133 = .ok (.aload_n 0, 1) := dk_42 (dk_at dksX4_measures_5 14 rfl rfl)
theorem dX4_measures_134 : decode cX4_measures 134 = .ok (.getfield 26, 3) := dk_180 0 26 (dk_at dksX4_measures_5 15 rfl rfl)
theorem dX4_measures_137 : decode cX4_measures 137 = .ok (.iload_n 2, 1) := dk_28 (dk_at dksX4_measures_5 18 rfl rfl)
theorem dX4_measures_138 : decode cX4_measures 138 = .ok (.iaload, 1) := dk_46 (dk_at dksX4_measures_5 19 rfl rfl)
theorem dX4_measures_139 : decode cX4_measures 139 = .ok (.aload_n 0, 1) := dk_42 (dk_at dksX4_measures_5 20 rfl rfl)
theorem dX4_measures_140 : decode cX4_measures 140 = .ok (.getfield 29, 3) := dk_180 0 29 (dk_at dksX4_measures_5 21 rfl rfl)
theorem dX4_measures_143 : decode cX4_measures 143 = .ok (.iload_n 2, 1) := dk_28 (dk_at dksX4_measures_6 0 rfl rfl)
theorem dX4_measures_144 : decode cX4_measures 144 = .ok (.iaload, 1) := dk_46 (dk_at dksX4_measures_6 1 rfl rfl)
theorem dX4_measures_145 : decode cX4_measures 145 = .ok (.imul, 1) := dk_104 (dk_at dksX4_measures_6 2 rfl rfl)
theorem dX4_measures_146 : decode cX4_measures 146 = .ok (.iastore, 1) := dk_79 (dk_at dksX4_measures_6 3 rfl rfl)
theorem dX4_measures_147 : decode cX4_measures 147 = .ok (.aload_n 0, 1) := dk_42 (dk_at dksX4_measures_6 4 rfl rfl)
theorem dX4_measures_148 : decode cX4_measures 148 = .ok (.getfield 90, 3) := dk_180 0 90 (dk_at dksX4_measures_6 5 rfl rfl)
theorem dX4_measures_151 : decode cX4_measures 151 = .ok (.iload 4, 2) := dk_21 4 (dk_at dksX4_measures_6 8 rfl rfl)
theorem dX4_measures_153 : decode cX4_measures 153 = .ok (.aload_n 0, 1) := dk_42 (dk_at dksX4_measures_6 10 rfl rfl)
theorem dX4_measures_154 : decode cX4_measures 154 = .ok (.getfield 90, 3) := dk_180 0 90 (dk_at dksX4_measures_6 11 rfl rfl)
theorem dX4_measures_157 : decode cX4_measures 157 = .ok (.iload_n 3, 1) := dk_29 (dk_at dksX4_measures_6 14 rfl rfl)
theorem dX4_measures_158 : decode cX4_measures 158 = .ok (.iaload, 1) := dk_46 (dk_at dksX4_measures_6 15 rfl rfl)
theorem dX4_measures_159 : decode cX4_measures 159 = .ok (.iastore, 1) := dk_79 (dk_at dksX4_measures_6 16 rfl rfl)
theorem dX4_measures_160 : decode cX4_measures 160 = .ok (.iinc 2 1, 3) := dk_132 2 1 (dk_at dksX4_measures_6 17 rfl rfl)
theorem dX4_measures_163 : decode cX4_measures 163 = .ok (.goto (-111), 3) := dk_167 255 145 (dk_at dksX4_measures_6 20 rfl rfl)
theorem dX4_measures_166 : decode cX4_measures 166 = .ok (.iconst 0, 1) := dk_3 (dk_at dksX4_measures_6 23 rfl rfl)
theorem dX4_measures_167 : decode cX4_measures 167 = .ok (.istore_n 2, 1) := dk_61 (dk_at dksX4_measures_7 0 rfl rfl)
theorem dX4_measures_168 : decode cX4_measures 168 = .ok (.iload_n 2, 1) := dk_28 (dk_at dksX4_measures_7 1 rfl rfl)
theorem dX4_measures_169 : decode cX4_measures 169 = .ok (.aload_n 0, 1) := dk_42 (dk_at dksX4_measures_7 2 rfl rfl)
theorem dX4_measures_170 : decode cX4_measures 170 = .ok (.getfield 281, 3) := dk_180 1 25 (dk_at dksX4_measures_7 3 rfl rfl)
theorem dX4_measures_173 : decode cX4_measures 173 = .ok (.if_icmp .ge 145, 3) := dk_162 0 145 (dk_at dksX4_measures_7 6 rfl rfl)
theorem dX4_measures_176 : decode cX4_measures 176 = .ok (.iconst 0, 1) := dk_3 (dk_at dksX4_measures_7 9 rfl rfl)
theorem dX4_measures_177 : decode cX4_measures 177 = .ok (.istore_n 3, 1) := dk_62 (dk_at dksX4_measures_7 10 rfl rfl)
theorem dX4_measures_178 : decode cX4_measures 178 = .ok (.iload_n 3, 1) := dk_29 (dk_at dksX4_measures_7 11 rfl rfl)
theorem dX4_measures_179 : decode cX4_measures 179 = .ok (.aload_n 0, 1) := dk_42 (dk_at dksX4_measures_7 12 rfl rfl)
theorem dX4_measures_180 : decode cX4_measures 180 = .ok (.getfield 281, 3) := dk_180 1 25 (dk_at dksX4_measures_7 13 rfl rfl)
theorem dX4_measures_183 : decode cX4_measures 183 = .ok (.if_icmp .ge 129, 3) := dk_162 0 129 (dk_at dksX4_measures_7 16 rfl rfl)
theorem dX4_measures_186 : decode cX4_measures 186 = .ok (.iconst 0, 1) := dk_3 (dk_at dksX4_measures_7 19 rfl rfl)
theorem dX4_measures_187 : decode cX4_measures 187 = .ok (.istore 4, 2) := dk_54 4 (dk_at dksX4_measures_7 20 rfl rfl)
theorem dX4_measures_189 : decode cX4_measures 189 = .ok (.iload 4, 2) := dk_21 4 (dk_at dksX4_measures_7 22 rfl rfl)
theorem dX4_measures_191 : decode cX4_measures 191 = .ok (.aload_n 0, 1) := dk_42 (dk_at dksX4_measures_8 0 rfl rfl)
theorem dX4_measures_192 : decode cX4_measures 192 = .ok (.getfield 281, 3) := dk_180 1 25 (dk_at dksX4_measures_8 1 rfl rfl)
theorem dX4_measures_195 : decode cX4_measures 195 = .ok (.if_icmp .ge 111, 3) := dk_162 0 111 (dk_at dksX4_measures_8 4 rfl rfl)
theorem dX4_measures_198 : decode cX4_measures 198 = .ok (.aload_n 0, 1) := dk_42 (dk_at dksX4_measures_8 7 rfl rfl)
theorem dX4_measures_199 : decode cX4_measures 199 = .ok (.getfield 87, 3) := dk_180 0 87 (dk_at dksX4_measures_8 8 rfl rfl)
theorem dX4_measures_202 : decode cX4_measures 202 = .ok (.bipush 8, 2) := dk_16 8 (dk_at dksX4_measures_8 11 rfl rfl)
theorem dX4_measures_204 : decode cX4_measures 204 = .ok (.iload_n 3, 1) := dk_29 (dk_at dksX4_measures_8 13 rfl rfl)
theorem dX4_measures_205 : decode cX4_measures 205 = .ok (.imul, 1) := dk_104 (dk_at dksX4_measures_8 14 rfl rfl)
theorem dX4_measures_206 : decode cX4_measures 206 = .ok (.iload 4, 2) := dk_21 4 (dk_at dksX4_measures_8 15 rfl rfl)
theorem dX4_measures_208 : decode cX4_measures 208 = .ok (.iadd, 1) := dk_96 (dk_at dksX4_measures_8 17 rfl rfl)
theorem dX4_measures_209 : decode cX4_measures 209 = .ok (.aload_n 0, 1) := dk_42 (dk_at dksX4_measures_8 18 rfl rfl)
theorem dX4_measures_210 : decode cX4_measures 210 = .ok (.getfield 87, 3) := dk_180 0 87 (dk_at dksX4_measures_8 19 rfl rfl)
theorem dX4_measures_213 : decode cX4_measures 213 = .ok (.bipush 8, 2) := dk_16 8 (dk_at dksX4_measures_8 22 rfl rfl)
theorem dX4_measures_215 : decode cX4_measures 215 = .ok (.iload_n 3, 1) := dk_29 (dk_at dksX4_measures_9 0 rfl rfl)
theorem dX4_measures_216 : decode cX4_measures 216 = .ok (.imul, 1) := dk_104 (dk_at dksX4_measures_9 1 rfl rfl)
theorem dX4_measures_217 : decode cX4_measures 217 = .ok (.iload 4, 2) := dk_21 4 (dk_at dksX4_measures_9 2 rfl rfl)
theorem dX4_measures_219 : decode cX4_measures 219 = .ok (.iadd, 1) := dk_96 (dk_at dksX4_measures_9 4 rfl rfl)
theorem dX4_measures_220 : decode cX4_measures 220 = .ok (.iaload, 1) := dk_46 (dk_at dksX4_measures_9 5 rfl rfl)
theorem dX4_measures_221 : decode cX4_measures 221 = .ok (.aload_n 0, 1) := dk_42 (dk_at dksX4_measures_9 6 rfl rfl)
theorem dX4_measures_222 : decode cX4_measures 222 = .ok (.getfield 87, 3) := dk_180 0 87 (dk_at dksX4_measures_9 7 rfl rfl)
theorem dX4_measures_225 : decode cX4_measures 225 = .ok (.bipush 8, 2) := dk_16 8 (dk_at dksX4_measures_9 10 rfl rfl)
theorem dX4_measures_227 : decode cX4_measures 227 = .ok (.iload_n 3, 1) := dk_29 (dk_at dksX4_measures_9 12 rfl rfl)
theorem dX4_measures_228 : decode cX4_measures 228 = .ok (.imul, 1) := dk_104 (dk_at dksX4_measures_9 13 rfl rfl)
theorem dX4_measures_229 : decode cX4_measures 229 = .ok (.iload_n 2, 1) := dk_28 (dk_at dksX4_measures_9 14 rfl rfl)
theorem dX4_measures_230 : decode cX4_measures 230 = .ok (.iadd, 1) := dk_96 (dk_at dksX4_measures_9 15 rfl rfl)
theorem dX4_measures_231 : decode cX4_measures 231 = .ok (.iaload, 1) := dk_46 (dk_at dksX4_measures_9 16 rfl rfl)
theorem dX4_measures_232 : decode cX4_measures 232 = .ok (.aload_n 0, 1) := dk_42 (dk_at dksX4_measures_9 17 rfl rfl)
theorem dX4_measures_233 : decode cX4_measures 233 = .ok (.getfield 87, 3) := dk_180 0 87 (dk_at dksX4_measures_9 18 rfl rfl)
theorem dX4_measures_236 : decode cX4_measures 236 = .ok (.bipush 8, 2) := dk_16 8 (dk_at dksX4_measures_9 21 rfl rfl)
theorem dX4_measures_238 : decode cX4_measures 238 = .ok (.iload_n 2, 1) := dk_28 (dk_at dksX4_measures_9 23 rfl rfl)
theorem dX4_measures_239 : decode cX4_measures 239 = .ok (.imul, 1) := dk_104 (dk_at dksX4_measures_10 0 rfl rfl)
theorem dX4_measures_240 : decode cX4_measures 240 = .ok (.iload 4, 2) := dk_21 4 (dk_at dksX4_measures_10 1 rfl rfl)
theorem dX4_measures_242 : decode cX4_measures 242 = .ok (.iadd, 1) := dk_96 (dk_at dksX4_measures_10 3 rfl rfl)
theorem dX4_measures_243 : decode cX4_measures 243 = .ok (.iaload, 1) := dk_46 (dk_at dksX4_measures_10 4 rfl rfl)
theorem dX4_measures_244 : decode cX4_measures 244 = .ok (.iadd, 1) := dk_96 (dk_at dksX4_measures_10 5 rfl rfl)
theorem dX4_measures_245 : decode cX4_measures 245 = .ok (.invokestatic 323, 3) := dk_184 1 67 (dk_at dksX4_measures_10 6 rfl rfl)
theorem dX4_measures_248 : decode cX4_measures 248 = .ok (.iastore, 1) := dk_79 (dk_at dksX4_measures_10 9 rfl rfl)
theorem dX4_measures_249 : decode cX4_measures 249 = .ok (.aload_n 0, 1) := dk_42 (dk_at dksX4_measures_10 10 rfl rfl)
theorem dX4_measures_250 : decode cX4_measures 250 = .ok (.getfield 90, 3) := dk_180 0 90 (dk_at dksX4_measures_10 11 rfl rfl)
theorem dX4_measures_253 : decode cX4_measures 253 = .ok (.bipush 8, 2) := dk_16 8 (dk_at dksX4_measures_10 14 rfl rfl)
theorem dX4_measures_255 : decode cX4_measures 255 = .ok (.iload_n 3, 1) := dk_29 (dk_at dksX4_measures_10 16 rfl rfl)
theorem dX4_measures_256 : decode cX4_measures 256 = .ok (.imul, 1) := dk_104 (dk_at dksX4_measures_10 17 rfl rfl)
theorem dX4_measures_257 : decode cX4_measures 257 = .ok (.iload 4, 2) := dk_21 4 (dk_at dksX4_measures_10 18 rfl rfl)
theorem dX4_measures_259 : decode cX4_measures 259 = .ok (.iadd, 1) := dk_96 (dk_at dksX4_measures_10 20 rfl rfl)
theorem dX4_measures_260 : decode cX4_measures 260 = .ok (.aload_n 0, 1) := dk_42 (dk_at dksX4_measures_10 21 rfl rfl)
theorem dX4_measures_261 : decode cX4_measures 261 = .ok (.getfield 90, 3) := dk_180 0 90 (dk_at dksX4_measures_11 0 rfl rfl)
theorem dX4_measures_264 : decode cX4_measures 264 = .ok (.bipush 8, 2) := dk_16 8 (dk_at dksX4_measures_11 3 rfl rfl)
theorem dX4_measures_266 : decode cX4_measures 266 = .ok (.iload_n 3, 1) := dk_29 (dk_at dksX4_measures_11 5 rfl rfl)
theorem dX4_measures_267 : decode cX4_measures 267 = .ok (.imul, 1) := dk_104 (dk_at dksX4_measures_11 6 rfl rfl)
theorem dX4_measures_268 : decode cX4_measures 268 = .ok (.iload 4, 2) := dk_21 4 (dk_at dksX4_measures_11 7 rfl rfl)
theorem dX4_measures_270 : decode cX4_measures 270 = .ok (.iadd, 1) := dk_96 (dk_at dksX4_measures_11 9 rfl rfl)
theorem dX4_measures_271 : decode cX4_measures 271 = .ok (.iaload, 1) := dk_46 (dk_at dksX4_measures_11 10 rfl rfl)
theorem dX4_measures_272 : decode cX4_measures 272 = .ok (.aload_n 0, 1) := dk_42 (dk_at dksX4_measures_11 11 rfl rfl)
theorem dX4_measures_273 : decode cX4_measures 273 = .ok (.getfield 90, 3) := dk_180 0 90 (dk_at dksX4_measures_11 12 rfl rfl)
theorem dX4_measures_276 : decode cX4_measures 276 = .ok (.bipush 8, 2) := dk_16 8 (dk_at dksX4_measures_11 15 rfl rfl)
theorem dX4_measures_278 : decode cX4_measures 278 = .ok (.iload_n 3, 1) := dk_29 (dk_at dksX4_measures_11 17 rfl rfl)
theorem dX4_measures_279 : decode cX4_measures 279 = .ok (.imul, 1) := dk_104 (dk_at dksX4_measures_11 18 rfl rfl)
theorem dX4_measures_280 : decode cX4_measures 280 = .ok (.iload_n 2, 1) := dk_28 (dk_at dksX4_measures_11 19 rfl rfl)
theorem dX4_measures_281 : decode cX4_measures 281 = .ok (.iadd, 1) := dk_96 (dk_at dksX4_measures_11 20 rfl rfl)
theorem dX4_measures_282 : decode cX4_measures 282 = .ok (.iaload, 1) := dk_46 (dk_at dksX4_measures_11 21 rfl rfl)
theorem dX4_measures_283 : decode cX4_measures 283 = .ok (.aload_n 0, 1) := dk_42 (dk_at dksX4_measures_11 22 rfl rfl)
theorem dX4_measures_284 : decode cX4_measures 284 = .ok (.getfield 90, 3) := dk_180 0 90 (dk_at dksX4_measures_12 0 rfl rfl)
theorem dX4_measures_287 : decode cX4_measures 287 = .ok (.bipush 8, 2) := dk_16 8 (dk_at dksX4_measures_12 3 rfl rfl)
theorem dX4_measures_289 : decode cX4_measures 289 = .ok (.iload_n 2, 1) := dk_28 (dk_at dksX4_measures_12 5 rfl rfl)
theorem dX4_measures_290 : decode cX4_measures 290 = .ok (.imul, 1) := dk_104 (dk_at dksX4_measures_12 6 rfl rfl)
theorem dX4_measures_291 : decode cX4_measures 291 = .ok (.iload 4, 2) := dk_21 4 (dk_at dksX4_measures_12 7 rfl rfl)
theorem dX4_measures_293 : decode cX4_measures 293 = .ok (.iadd, 1) := dk_96 (dk_at dksX4_measures_12 9 rfl rfl)
theorem dX4_measures_294 : decode cX4_measures 294 = .ok (.iaload, 1) := dk_46 (dk_at dksX4_measures_12 10 rfl rfl)
theorem dX4_measures_295 : decode cX4_measures 295 = .ok (.iadd, 1) := dk_96 (dk_at dksX4_measures_12 11 rfl rfl)
theorem dX4_measures_296 : decode cX4_measures 296 = .ok (.invokestatic 323, 3) := dk_184 1 67 (dk_at dksX4_measures_12 12 rfl rfl)
theorem dX4_measures_299 : decode cX4_measures 299 = .ok (.iastore, 1) := dk_79 (dk_at dksX4_measures_12 15 rfl rfl)
theorem dX4_measures_300 : decode cX4_measures 300 = .ok (.iinc 4 1, 3) := dk_132 4 1 (dk_at dksX4_measures_12 16 rfl rfl)
theorem dX4_measures_303 : decode cX4_measures 303 = .ok (.goto (-114), 3) := dk_167 255 142 (dk_at dksX4_measures_12 19 rfl rfl)
theorem dX4_measures_306 : decode cX4_measures 306 = .ok (.iinc 3 1, 3) := dk_132 3 1 (dk_at dksX4_measures_13 0 rfl rfl)
theorem dX4_measures_309 : decode cX4_measures 309 = .ok (.goto (-131), 3) := dk_167 255 125 (dk_at dksX4_measures_13 3 rfl rfl)
theorem dX4_measures_312 : decode cX4_measures 312 = .ok (.iinc 2 1, 3) := dk_132 2 1 (dk_at dksX4_measures_13 6 rfl rfl)
theorem dX4_measures_315 : decode cX4_measures 315 = .ok (.goto (-147), 3) := dk_167 255 109 (dk_at dksX4_measures_13 9 rfl rfl)
theorem dX4_measures_318 : decode cX4_measures 318 = .ok (.return_, 1) := dk_177 (dk_at dksX4_measures_13 12 rfl rfl)
abbrev cX4_orNone : ByteArray := prog_13_method_83_code
def yX4_orNone : MethodName := ⟨RX4, "orNone", "(I)I"⟩
def dkwX4_orNone_0 : List UInt8 := [26, 19, 1, 139, 161, 0, 7, 2, 167, 0, 4, 26, 172]
abbrev dktX4_orNone_0 : List UInt8 := dkwX4_orNone_0 ++ []
theorem dksX4_orNone_0 : cX4_orNone.data.toList.drop 0 = dktX4_orNone_0 := by decide +kernel
theorem dX4_orNone_0 : decode cX4_orNone 0 = .ok (.iload_n 0, 1) := dk_26 (dk_at dksX4_orNone_0 0 rfl rfl)
theorem dX4_orNone_1 : decode cX4_orNone 1 = .ok (.ldc_w 395, 3) := dk_19 1 139 (dk_at dksX4_orNone_0 1 rfl rfl)
theorem dX4_orNone_4 : decode cX4_orNone 4 = .ok (.if_icmp .lt 7, 3) := dk_161 0 7 (dk_at dksX4_orNone_0 4 rfl rfl)
theorem dX4_orNone_7 : decode cX4_orNone 7 = .ok (.iconst (-1), 1) := dk_2 (dk_at dksX4_orNone_0 7 rfl rfl)
theorem dX4_orNone_8 : decode cX4_orNone 8 = .ok (.goto 4, 3) := dk_167 0 4 (dk_at dksX4_orNone_0 8 rfl rfl)
theorem dX4_orNone_11 : decode cX4_orNone 11 = .ok (.iload_n 0, 1) := dk_26 (dk_at dksX4_orNone_0 11 rfl rfl)
theorem dX4_orNone_12 : decode cX4_orNone 12 = .ok (.ireturn, 1) := dk_172 (dk_at dksX4_orNone_0 12 rfl rfl)
abbrev cX4_leak : ByteArray := prog_13_method_85_code
def yX4_leak : MethodName := ⟨RX4, "leak", "(II)I"⟩
def dkwX4_leak_1 : List UInt8 := [2, 182, 1, 140, 42, 180, 0, 90, 16, 8, 27, 104, 28, 96, 46, 184, 1, 143, 172]
abbrev dktX4_leak_1 : List UInt8 := dkwX4_leak_1 ++ []
def dkwX4_leak_0 : List UInt8 := [42, 3, 181, 0, 117, 42, 27, 182, 1, 106, 153, 0, 11, 42, 28, 182, 1, 106, 154, 0, 5, 3, 172, 42]
abbrev dktX4_leak_0 : List UInt8 := dkwX4_leak_0 ++ dktX4_leak_1
theorem dksX4_leak_0 : cX4_leak.data.toList.drop 0 = dktX4_leak_0 := by decide +kernel
theorem dksX4_leak_1 : cX4_leak.data.toList.drop 24 = dktX4_leak_1 := dk_seg dksX4_leak_0 24 rfl rfl
theorem dX4_leak_0 : decode cX4_leak 0 = .ok (.aload_n 0, 1) := dk_42 (dk_at dksX4_leak_0 0 rfl rfl)
theorem dX4_leak_1 : decode cX4_leak 1 = .ok (.iconst 0, 1) := dk_3 (dk_at dksX4_leak_0 1 rfl rfl)
theorem dX4_leak_2 : decode cX4_leak 2 = .ok (.putfield 117, 3) := dk_181 0 117 (dk_at dksX4_leak_0 2 rfl rfl)
theorem dX4_leak_5 : decode cX4_leak 5 = .ok (.aload_n 0, 1) := dk_42 (dk_at dksX4_leak_0 5 rfl rfl)
theorem dX4_leak_6 : decode cX4_leak 6 = .ok (.iload_n 1, 1) := dk_27 (dk_at dksX4_leak_0 6 rfl rfl)
theorem dX4_leak_7 : decode cX4_leak 7 = .ok (.invokevirtual 362, 3) := dk_182 1 106 (dk_at dksX4_leak_0 7 rfl rfl)
theorem dX4_leak_10 : decode cX4_leak 10 = .ok (.ifCond .eq 11, 3) := dk_153 0 11 (dk_at dksX4_leak_0 10 rfl rfl)
theorem dX4_leak_13 : decode cX4_leak 13 = .ok (.aload_n 0, 1) := dk_42 (dk_at dksX4_leak_0 13 rfl rfl)
theorem dX4_leak_14 : decode cX4_leak 14 = .ok (.iload_n 2, 1) := dk_28 (dk_at dksX4_leak_0 14 rfl rfl)
theorem dX4_leak_15 : decode cX4_leak 15 = .ok (.invokevirtual 362, 3) := dk_182 1 106 (dk_at dksX4_leak_0 15 rfl rfl)
theorem dX4_leak_18 : decode cX4_leak 18 = .ok (.ifCond .ne 5, 3) := dk_154 0 5 (dk_at dksX4_leak_0 18 rfl rfl)
theorem dX4_leak_21 : decode cX4_leak 21 = .ok (.iconst 0, 1) := dk_3 (dk_at dksX4_leak_0 21 rfl rfl)
theorem dX4_leak_22 : decode cX4_leak 22 = .ok (.ireturn, 1) := dk_172 (dk_at dksX4_leak_0 22 rfl rfl)
theorem dX4_leak_23 : decode cX4_leak 23 = .ok (.aload_n 0, 1) := dk_42 (dk_at dksX4_leak_0 23 rfl rfl)
theorem dX4_leak_24 : decode cX4_leak 24 = .ok (.iconst (-1), 1) := dk_2 (dk_at dksX4_leak_1 0 rfl rfl)
theorem dX4_leak_25 : decode cX4_leak 25 = .ok (.invokevirtual 396, 3) := dk_182 1 140 (dk_at dksX4_leak_1 1 rfl rfl)
theorem dX4_leak_28 : decode cX4_leak 28 = .ok (.aload_n 0, 1) := dk_42 (dk_at dksX4_leak_1 4 rfl rfl)
theorem dX4_leak_29 : decode cX4_leak 29 = .ok (.getfield 90, 3) := dk_180 0 90 (dk_at dksX4_leak_1 5 rfl rfl)
theorem dX4_leak_32 : decode cX4_leak 32 = .ok (.bipush 8, 2) := dk_16 8 (dk_at dksX4_leak_1 8 rfl rfl)
theorem dX4_leak_34 : decode cX4_leak 34 = .ok (.iload_n 1, 1) := dk_27 (dk_at dksX4_leak_1 10 rfl rfl)
theorem dX4_leak_35 : decode cX4_leak 35 = .ok (.imul, 1) := dk_104 (dk_at dksX4_leak_1 11 rfl rfl)
theorem dX4_leak_36 : decode cX4_leak 36 = .ok (.iload_n 2, 1) := dk_28 (dk_at dksX4_leak_1 12 rfl rfl)
theorem dX4_leak_37 : decode cX4_leak 37 = .ok (.iadd, 1) := dk_96 (dk_at dksX4_leak_1 13 rfl rfl)
theorem dX4_leak_38 : decode cX4_leak 38 = .ok (.iaload, 1) := dk_46 (dk_at dksX4_leak_1 14 rfl rfl)
theorem dX4_leak_39 : decode cX4_leak 39 = .ok (.invokestatic 399, 3) := dk_184 1 143 (dk_at dksX4_leak_1 15 rfl rfl)
theorem dX4_leak_42 : decode cX4_leak 42 = .ok (.ireturn, 1) := dk_172 (dk_at dksX4_leak_1 18 rfl rfl)
abbrev cX4_sending : ByteArray := prog_13_method_87_code
def yX4_sending : MethodName := ⟨RX4, "sending", "(II)I"⟩
def dkwX4_sending_9 : List UInt8 := [161, 0, 8, 21, 5, 167, 0, 5, 21, 4, 54, 4, 132, 5, 1, 167, 255, 153, 21, 4, 172]
abbrev dktX4_sending_9 : List UInt8 := dkwX4_sending_9 ++ []
def dkwX4_sending_8 : List UInt8 := [42, 21, 7, 27, 182, 1, 146, 167, 0, 4, 3, 96, 54, 6, 132, 7, 1, 167, 255, 217, 21, 6, 28]
abbrev dktX4_sending_8 : List UInt8 := dkwX4_sending_8 ++ dktX4_sending_9
def dkwX4_sending_7 : List UInt8 := [54, 7, 21, 7, 42, 180, 1, 31, 162, 0, 36, 21, 6, 21, 5, 21, 7, 122, 4, 126, 4, 160, 0, 13]
abbrev dktX4_sending_7 : List UInt8 := dkwX4_sending_7 ++ dktX4_sending_8
def dkwX4_sending_6 : List UInt8 := [159, 0, 19, 21, 5, 184, 1, 61, 21, 4, 184, 1, 61, 161, 0, 6, 167, 0, 66, 3, 54, 6, 3]
abbrev dktX4_sending_6 : List UInt8 := dkwX4_sending_6 ++ dktX4_sending_7
def dkwX4_sending_5 : List UInt8 := [54, 4, 3, 54, 5, 21, 5, 29, 163, 0, 103, 21, 5, 29, 2, 130, 126, 154, 0, 88, 21, 4, 2]
abbrev dktX4_sending_5 : List UInt8 := dkwX4_sending_5 ++ dktX4_sending_6
def dkwX4_sending_4 : List UInt8 := [19, 1, 139, 162, 0, 10, 4, 21, 4, 120, 167, 0, 4, 3, 128, 62, 132, 4, 1, 167, 255, 184, 2]
abbrev dktX4_sending_4 : List UInt8 := dkwX4_sending_4 ++ dktX4_sending_5
def dkwX4_sending_3 : List UInt8 := [154, 0, 36, 42, 180, 0, 90, 16, 8, 42, 180, 0, 75, 16, 55, 21, 4, 96, 46, 104, 27, 96, 46]
abbrev dktX4_sending_3 : List UInt8 := dkwX4_sending_3 ++ dktX4_sending_4
def dkwX4_sending_2 : List UInt8 := [162, 0, 69, 29, 42, 3, 21, 4, 182, 1, 52, 153, 0, 49, 42, 180, 0, 75, 16, 35, 21, 4, 96, 46]
abbrev dktX4_sending_2 : List UInt8 := dkwX4_sending_2 ++ dktX4_sending_3
def dkwX4_sending_1 : List UInt8 := [182, 1, 18, 154, 0, 5, 3, 172, 42, 2, 182, 1, 140, 3, 62, 3, 54, 4, 21, 4, 42, 180, 1, 31]
abbrev dktX4_sending_1 : List UInt8 := dkwX4_sending_1 ++ dktX4_sending_2
def dkwX4_sending_0 : List UInt8 := [42, 3, 181, 0, 117, 42, 27, 182, 1, 106, 153, 0, 19, 42, 28, 4, 17, 3, 231, 184, 1, 90, 5]
abbrev dktX4_sending_0 : List UInt8 := dkwX4_sending_0 ++ dktX4_sending_1
theorem dksX4_sending_0 : cX4_sending.data.toList.drop 0 = dktX4_sending_0 := by decide +kernel
theorem dksX4_sending_1 : cX4_sending.data.toList.drop 23 = dktX4_sending_1 := dk_seg dksX4_sending_0 23 rfl rfl
theorem dksX4_sending_2 : cX4_sending.data.toList.drop 47 = dktX4_sending_2 := dk_seg dksX4_sending_1 24 rfl rfl
theorem dksX4_sending_3 : cX4_sending.data.toList.drop 71 = dktX4_sending_3 := dk_seg dksX4_sending_2 24 rfl rfl
theorem dksX4_sending_4 : cX4_sending.data.toList.drop 94 = dktX4_sending_4 := dk_seg dksX4_sending_3 23 rfl rfl
theorem dksX4_sending_5 : cX4_sending.data.toList.drop 117 = dktX4_sending_5 := dk_seg dksX4_sending_4 23 rfl rfl
theorem dksX4_sending_6 : cX4_sending.data.toList.drop 140 = dktX4_sending_6 := dk_seg dksX4_sending_5 23 rfl rfl
theorem dksX4_sending_7 : cX4_sending.data.toList.drop 163 = dktX4_sending_7 := dk_seg dksX4_sending_6 23 rfl rfl
theorem dksX4_sending_8 : cX4_sending.data.toList.drop 187 = dktX4_sending_8 := dk_seg dksX4_sending_7 24 rfl rfl
theorem dksX4_sending_9 : cX4_sending.data.toList.drop 210 = dktX4_sending_9 := dk_seg dksX4_sending_8 23 rfl rfl
theorem dX4_sending_0 : decode cX4_sending 0 = .ok (.aload_n 0, 1) := dk_42 (dk_at dksX4_sending_0 0 rfl rfl)
theorem dX4_sending_1 : decode cX4_sending 1 = .ok (.iconst 0, 1) := dk_3 (dk_at dksX4_sending_0 1 rfl rfl)
theorem dX4_sending_2 : decode cX4_sending 2 = .ok (.putfield 117, 3) := dk_181 0 117 (dk_at dksX4_sending_0 2 rfl rfl)
theorem dX4_sending_5 : decode cX4_sending 5 = .ok (.aload_n 0, 1) := dk_42 (dk_at dksX4_sending_0 5 rfl rfl)
theorem dX4_sending_6 : decode cX4_sending 6 = .ok (.iload_n 1, 1) := dk_27 (dk_at dksX4_sending_0 6 rfl rfl)
theorem dX4_sending_7 : decode cX4_sending 7 = .ok (.invokevirtual 362, 3) := dk_182 1 106 (dk_at dksX4_sending_0 7 rfl rfl)
theorem dX4_sending_10 : decode cX4_sending 10 = .ok (.ifCond .eq 19, 3) := dk_153 0 19 (dk_at dksX4_sending_0 10 rfl rfl)
theorem dX4_sending_13 : decode cX4_sending 13 = .ok (.aload_n 0, 1) := dk_42 (dk_at dksX4_sending_0 13 rfl rfl)
theorem dX4_sending_14 : decode cX4_sending 14 = .ok (.iload_n 2, 1) := dk_28 (dk_at dksX4_sending_0 14 rfl rfl)
theorem dX4_sending_15 : decode cX4_sending 15 = .ok (.iconst 1, 1) := dk_4 (dk_at dksX4_sending_0 15 rfl rfl)
theorem dX4_sending_16 : decode cX4_sending 16 = .ok (.sipush 999, 3) := dk_17 3 231 (dk_at dksX4_sending_0 16 rfl rfl)
theorem dX4_sending_19 : decode cX4_sending 19 = .ok (.invokestatic 346, 3) := dk_184 1 90 (dk_at dksX4_sending_0 19 rfl rfl)
theorem dX4_sending_22 : decode cX4_sending 22 = .ok (.iconst 2, 1) := dk_5 (dk_at dksX4_sending_0 22 rfl rfl)
theorem dX4_sending_23 : decode cX4_sending 23 = .ok (.invokevirtual 274, 3) := dk_182 1 18 (dk_at dksX4_sending_1 0 rfl rfl)
theorem dX4_sending_26 : decode cX4_sending 26 = .ok (.ifCond .ne 5, 3) := dk_154 0 5 (dk_at dksX4_sending_1 3 rfl rfl)
theorem dX4_sending_29 : decode cX4_sending 29 = .ok (.iconst 0, 1) := dk_3 (dk_at dksX4_sending_1 6 rfl rfl)
theorem dX4_sending_30 : decode cX4_sending 30 = .ok (.ireturn, 1) := dk_172 (dk_at dksX4_sending_1 7 rfl rfl)
theorem dX4_sending_31 : decode cX4_sending 31 = .ok (.aload_n 0, 1) := dk_42 (dk_at dksX4_sending_1 8 rfl rfl)
theorem dX4_sending_32 : decode cX4_sending 32 = .ok (.iconst (-1), 1) := dk_2 (dk_at dksX4_sending_1 9 rfl rfl)
theorem dX4_sending_33 : decode cX4_sending 33 = .ok (.invokevirtual 396, 3) := dk_182 1 140 (dk_at dksX4_sending_1 10 rfl rfl)
theorem dX4_sending_36 : decode cX4_sending 36 = .ok (.iconst 0, 1) := dk_3 (dk_at dksX4_sending_1 13 rfl rfl)
theorem dX4_sending_37 : decode cX4_sending 37 = .ok (.istore_n 3, 1) := dk_62 (dk_at dksX4_sending_1 14 rfl rfl)
theorem dX4_sending_38 : decode cX4_sending 38 = .ok (.iconst 0, 1) := dk_3 (dk_at dksX4_sending_1 15 rfl rfl)
theorem dX4_sending_39 : decode cX4_sending 39 = .ok (.istore 4, 2) := dk_54 4 (dk_at dksX4_sending_1 16 rfl rfl)
theorem dX4_sending_41 : decode cX4_sending 41 = .ok (.iload 4, 2) := dk_21 4 (dk_at dksX4_sending_1 18 rfl rfl)
theorem dX4_sending_43 : decode cX4_sending 43 = .ok (.aload_n 0, 1) := dk_42 (dk_at dksX4_sending_1 20 rfl rfl)
theorem dX4_sending_44 : decode cX4_sending 44 = .ok (.getfield 287, 3) := dk_180 1 31 (dk_at dksX4_sending_1 21 rfl rfl)
theorem dX4_sending_47 : decode cX4_sending 47 = .ok (.if_icmp .ge 69, 3) := dk_162 0 69 (dk_at dksX4_sending_2 0 rfl rfl)
theorem dX4_sending_50 : decode cX4_sending 50 = .ok (.iload_n 3, 1) := dk_29 (dk_at dksX4_sending_2 3 rfl rfl)
theorem dX4_sending_51 : decode cX4_sending 51 = .ok (.aload_n 0, 1) := dk_42 (dk_at dksX4_sending_2 4 rfl rfl)
theorem dX4_sending_52 : decode cX4_sending 52 = .ok (.iconst 0, 1) := dk_3 (dk_at dksX4_sending_2 5 rfl rfl)
theorem dX4_sending_53 : decode cX4_sending 53 = .ok (.iload 4, 2) := dk_21 4 (dk_at dksX4_sending_2 6 rfl rfl)
theorem dX4_sending_55 : decode cX4_sending 55 = .ok (.invokevirtual 308, 3) := dk_182 1 52 (dk_at dksX4_sending_2 8 rfl rfl)
theorem dX4_sending_58 : decode cX4_sending 58 = .ok (.ifCond .eq 49, 3) := dk_153 0 49 (dk_at dksX4_sending_2 11 rfl rfl)
theorem dX4_sending_61 : decode cX4_sending 61 = .ok (.aload_n 0, 1) := dk_42 (dk_at dksX4_sending_2 14 rfl rfl)
theorem dX4_sending_62 : decode cX4_sending 62 = .ok (.getfield 75, 3) := dk_180 0 75 (dk_at dksX4_sending_2 15 rfl rfl)
theorem dX4_sending_65 : decode cX4_sending 65 = .ok (.bipush 35, 2) := dk_16 35 (dk_at dksX4_sending_2 18 rfl rfl)
theorem dX4_sending_67 : decode cX4_sending 67 = .ok (.iload 4, 2) := dk_21 4 (dk_at dksX4_sending_2 20 rfl rfl)
theorem dX4_sending_69 : decode cX4_sending 69 = .ok (.iadd, 1) := dk_96 (dk_at dksX4_sending_2 22 rfl rfl)
theorem dX4_sending_70 : decode cX4_sending 70 = .ok (.iaload, 1) := dk_46 (dk_at dksX4_sending_2 23 rfl rfl)
theorem dX4_sending_71 : decode cX4_sending 71 = .ok (.ifCond .ne 36, 3) := dk_154 0 36 (dk_at dksX4_sending_3 0 rfl rfl)
theorem dX4_sending_74 : decode cX4_sending 74 = .ok (.aload_n 0, 1) := dk_42 (dk_at dksX4_sending_3 3 rfl rfl)
theorem dX4_sending_75 : decode cX4_sending 75 = .ok (.getfield 90, 3) := dk_180 0 90 (dk_at dksX4_sending_3 4 rfl rfl)
theorem dX4_sending_78 : decode cX4_sending 78 = .ok (.bipush 8, 2) := dk_16 8 (dk_at dksX4_sending_3 7 rfl rfl)
theorem dX4_sending_80 : decode cX4_sending 80 = .ok (.aload_n 0, 1) := dk_42 (dk_at dksX4_sending_3 9 rfl rfl)
theorem dX4_sending_81 : decode cX4_sending 81 = .ok (.getfield 75, 3) := dk_180 0 75 (dk_at dksX4_sending_3 10 rfl rfl)
theorem dX4_sending_84 : decode cX4_sending 84 = .ok (.bipush 55, 2) := dk_16 55 (dk_at dksX4_sending_3 13 rfl rfl)
theorem dX4_sending_86 : decode cX4_sending 86 = .ok (.iload 4, 2) := dk_21 4 (dk_at dksX4_sending_3 15 rfl rfl)
theorem dX4_sending_88 : decode cX4_sending 88 = .ok (.iadd, 1) := dk_96 (dk_at dksX4_sending_3 17 rfl rfl)
theorem dX4_sending_89 : decode cX4_sending 89 = .ok (.iaload, 1) := dk_46 (dk_at dksX4_sending_3 18 rfl rfl)
theorem dX4_sending_90 : decode cX4_sending 90 = .ok (.imul, 1) := dk_104 (dk_at dksX4_sending_3 19 rfl rfl)
theorem dX4_sending_91 : decode cX4_sending 91 = .ok (.iload_n 1, 1) := dk_27 (dk_at dksX4_sending_3 20 rfl rfl)
theorem dX4_sending_92 : decode cX4_sending 92 = .ok (.iadd, 1) := dk_96 (dk_at dksX4_sending_3 21 rfl rfl)
theorem dX4_sending_93 : decode cX4_sending 93 = .ok (.iaload, 1) := dk_46 (dk_at dksX4_sending_3 22 rfl rfl)
theorem dX4_sending_94 : decode cX4_sending 94 = .ok (.ldc_w 395, 3) := dk_19 1 139 (dk_at dksX4_sending_4 0 rfl rfl)
theorem dX4_sending_97 : decode cX4_sending 97 = .ok (.if_icmp .ge 10, 3) := dk_162 0 10 (dk_at dksX4_sending_4 3 rfl rfl)
theorem dX4_sending_100 : decode cX4_sending 100 = .ok (.iconst 1, 1) := dk_4 (dk_at dksX4_sending_4 6 rfl rfl)
theorem dX4_sending_101 : decode cX4_sending 101 = .ok (.iload 4, 2) := dk_21 4 (dk_at dksX4_sending_4 7 rfl rfl)
theorem dX4_sending_103 : decode cX4_sending 103 = .ok (.ishl, 1) := dk_120 (dk_at dksX4_sending_4 9 rfl rfl)
theorem dX4_sending_104 : decode cX4_sending 104 = .ok (.goto 4, 3) := dk_167 0 4 (dk_at dksX4_sending_4 10 rfl rfl)
theorem dX4_sending_107 : decode cX4_sending 107 = .ok (.iconst 0, 1) := dk_3 (dk_at dksX4_sending_4 13 rfl rfl)
theorem dX4_sending_108 : decode cX4_sending 108 = .ok (.ior, 1) := dk_128 (dk_at dksX4_sending_4 14 rfl rfl)
theorem dX4_sending_109 : decode cX4_sending 109 = .ok (.istore_n 3, 1) := dk_62 (dk_at dksX4_sending_4 15 rfl rfl)
theorem dX4_sending_110 : decode cX4_sending 110 = .ok (.iinc 4 1, 3) := dk_132 4 1 (dk_at dksX4_sending_4 16 rfl rfl)
theorem dX4_sending_113 : decode cX4_sending 113 = .ok (.goto (-72), 3) := dk_167 255 184 (dk_at dksX4_sending_4 19 rfl rfl)
theorem dX4_sending_116 : decode cX4_sending 116 = .ok (.iconst (-1), 1) := dk_2 (dk_at dksX4_sending_4 22 rfl rfl)
theorem dX4_sending_117 : decode cX4_sending 117 = .ok (.istore 4, 2) := dk_54 4 (dk_at dksX4_sending_5 0 rfl rfl)
theorem dX4_sending_119 : decode cX4_sending 119 = .ok (.iconst 0, 1) := dk_3 (dk_at dksX4_sending_5 2 rfl rfl)
theorem dX4_sending_120 : decode cX4_sending 120 = .ok (.istore 5, 2) := dk_54 5 (dk_at dksX4_sending_5 3 rfl rfl)
theorem dX4_sending_122 : decode cX4_sending 122 = .ok (.iload 5, 2) := dk_21 5 (dk_at dksX4_sending_5 5 rfl rfl)
theorem dX4_sending_124 : decode cX4_sending 124 = .ok (.iload_n 3, 1) := dk_29 (dk_at dksX4_sending_5 7 rfl rfl)
theorem dX4_sending_125 : decode cX4_sending 125 = .ok (.if_icmp .gt 103, 3) := dk_163 0 103 (dk_at dksX4_sending_5 8 rfl rfl)
theorem dX4_sending_128 : decode cX4_sending 128 = .ok (.iload 5, 2) := dk_21 5 (dk_at dksX4_sending_5 11 rfl rfl)
theorem dX4_sending_130 : decode cX4_sending 130 = .ok (.iload_n 3, 1) := dk_29 (dk_at dksX4_sending_5 13 rfl rfl)
theorem dX4_sending_131 : decode cX4_sending 131 = .ok (.iconst (-1), 1) := dk_2 (dk_at dksX4_sending_5 14 rfl rfl)
theorem dX4_sending_132 : decode cX4_sending 132 = .ok (.ixor, 1) := dk_130 (dk_at dksX4_sending_5 15 rfl rfl)
theorem dX4_sending_133 : decode cX4_sending 133 = .ok (.iand, 1) := dk_126 (dk_at dksX4_sending_5 16 rfl rfl)
theorem dX4_sending_134 : decode cX4_sending 134 = .ok (.ifCond .ne 88, 3) := dk_154 0 88 (dk_at dksX4_sending_5 17 rfl rfl)
theorem dX4_sending_137 : decode cX4_sending 137 = .ok (.iload 4, 2) := dk_21 4 (dk_at dksX4_sending_5 20 rfl rfl)
theorem dX4_sending_139 : decode cX4_sending 139 = .ok (.iconst (-1), 1) := dk_2 (dk_at dksX4_sending_5 22 rfl rfl)
theorem dX4_sending_140 : decode cX4_sending 140 = .ok (.if_icmp .eq 19, 3) := dk_159 0 19 (dk_at dksX4_sending_6 0 rfl rfl)
theorem dX4_sending_143 : decode cX4_sending 143 = .ok (.iload 5, 2) := dk_21 5 (dk_at dksX4_sending_6 3 rfl rfl)
theorem dX4_sending_145 : decode cX4_sending 145 = .ok (.invokestatic 317, 3) := dk_184 1 61 (dk_at dksX4_sending_6 5 rfl rfl)
theorem dX4_sending_148 : decode cX4_sending 148 = .ok (.iload 4, 2) := dk_21 4 (dk_at dksX4_sending_6 8 rfl rfl)
theorem dX4_sending_150 : decode cX4_sending 150 = .ok (.invokestatic 317, 3) := dk_184 1 61 (dk_at dksX4_sending_6 10 rfl rfl)
theorem dX4_sending_153 : decode cX4_sending 153 = .ok (.if_icmp .lt 6, 3) := dk_161 0 6 (dk_at dksX4_sending_6 13 rfl rfl)
theorem dX4_sending_156 : decode cX4_sending 156 = .ok (.goto 66, 3) := dk_167 0 66 (dk_at dksX4_sending_6 16 rfl rfl)
theorem dX4_sending_159 : decode cX4_sending 159 = .ok (.iconst 0, 1) := dk_3 (dk_at dksX4_sending_6 19 rfl rfl)
theorem dX4_sending_160 : decode cX4_sending 160 = .ok (.istore 6, 2) := dk_54 6 (dk_at dksX4_sending_6 20 rfl rfl)
theorem dX4_sending_162 : decode cX4_sending 162 = .ok (.iconst 0, 1) := dk_3 (dk_at dksX4_sending_6 22 rfl rfl)
theorem dX4_sending_163 : decode cX4_sending 163 = .ok (.istore 7, 2) := dk_54 7 (dk_at dksX4_sending_7 0 rfl rfl)
theorem dX4_sending_165 : decode cX4_sending 165 = .ok (.iload 7, 2) := dk_21 7 (dk_at dksX4_sending_7 2 rfl rfl)
theorem dX4_sending_167 : decode cX4_sending 167 = .ok (.aload_n 0, 1) := dk_42 (dk_at dksX4_sending_7 4 rfl rfl)
theorem dX4_sending_168 : decode cX4_sending 168 = .ok (.getfield 287, 3) := dk_180 1 31 (dk_at dksX4_sending_7 5 rfl rfl)
theorem dX4_sending_171 : decode cX4_sending 171 = .ok (.if_icmp .ge 36, 3) := dk_162 0 36 (dk_at dksX4_sending_7 8 rfl rfl)
theorem dX4_sending_174 : decode cX4_sending 174 = .ok (.iload 6, 2) := dk_21 6 (dk_at dksX4_sending_7 11 rfl rfl)
theorem dX4_sending_176 : decode cX4_sending 176 = .ok (.iload 5, 2) := dk_21 5 (dk_at dksX4_sending_7 13 rfl rfl)
theorem dX4_sending_178 : decode cX4_sending 178 = .ok (.iload 7, 2) := dk_21 7 (dk_at dksX4_sending_7 15 rfl rfl)
theorem dX4_sending_180 : decode cX4_sending 180 = .ok (.ishr, 1) := dk_122 (dk_at dksX4_sending_7 17 rfl rfl)
theorem dX4_sending_181 : decode cX4_sending 181 = .ok (.iconst 1, 1) := dk_4 (dk_at dksX4_sending_7 18 rfl rfl)
theorem dX4_sending_182 : decode cX4_sending 182 = .ok (.iand, 1) := dk_126 (dk_at dksX4_sending_7 19 rfl rfl)
theorem dX4_sending_183 : decode cX4_sending 183 = .ok (.iconst 1, 1) := dk_4 (dk_at dksX4_sending_7 20 rfl rfl)
theorem dX4_sending_184 : decode cX4_sending 184 = .ok (.if_icmp .ne 13, 3) := dk_160 0 13 (dk_at dksX4_sending_7 21 rfl rfl)
theorem dX4_sending_187 : decode cX4_sending 187 = .ok (.aload_n 0, 1) := dk_42 (dk_at dksX4_sending_8 0 rfl rfl)
theorem dX4_sending_188 : decode cX4_sending 188 = .ok (.iload 7, 2) := dk_21 7 (dk_at dksX4_sending_8 1 rfl rfl)
theorem dX4_sending_190 : decode cX4_sending 190 = .ok (.iload_n 1, 1) := dk_27 (dk_at dksX4_sending_8 3 rfl rfl)
theorem dX4_sending_191 : decode cX4_sending 191 = .ok (.invokevirtual 402, 3) := dk_182 1 146 (dk_at dksX4_sending_8 4 rfl rfl)
theorem dX4_sending_194 : decode cX4_sending 194 = .ok (.goto 4, 3) := dk_167 0 4 (dk_at dksX4_sending_8 7 rfl rfl)
theorem dX4_sending_197 : decode cX4_sending 197 = .ok (.iconst 0, 1) := dk_3 (dk_at dksX4_sending_8 10 rfl rfl)
theorem dX4_sending_198 : decode cX4_sending 198 = .ok (.iadd, 1) := dk_96 (dk_at dksX4_sending_8 11 rfl rfl)
theorem dX4_sending_199 : decode cX4_sending 199 = .ok (.istore 6, 2) := dk_54 6 (dk_at dksX4_sending_8 12 rfl rfl)
theorem dX4_sending_201 : decode cX4_sending 201 = .ok (.iinc 7 1, 3) := dk_132 7 1 (dk_at dksX4_sending_8 14 rfl rfl)
theorem dX4_sending_204 : decode cX4_sending 204 = .ok (.goto (-39), 3) := dk_167 255 217 (dk_at dksX4_sending_8 17 rfl rfl)
theorem dX4_sending_207 : decode cX4_sending 207 = .ok (.iload 6, 2) := dk_21 6 (dk_at dksX4_sending_8 20 rfl rfl)
theorem dX4_sending_209 : decode cX4_sending 209 = .ok (.iload_n 2, 1) := dk_28 (dk_at dksX4_sending_8 22 rfl rfl)
theorem dX4_sending_210 : decode cX4_sending 210 = .ok (.if_icmp .lt 8, 3) := dk_161 0 8 (dk_at dksX4_sending_9 0 rfl rfl)
theorem dX4_sending_213 : decode cX4_sending 213 = .ok (.iload 5, 2) := dk_21 5 (dk_at dksX4_sending_9 3 rfl rfl)
theorem dX4_sending_215 : decode cX4_sending 215 = .ok (.goto 5, 3) := dk_167 0 5 (dk_at dksX4_sending_9 5 rfl rfl)
theorem dX4_sending_218 : decode cX4_sending 218 = .ok (.iload 4, 2) := dk_21 4 (dk_at dksX4_sending_9 8 rfl rfl)
theorem dX4_sending_220 : decode cX4_sending 220 = .ok (.istore 4, 2) := dk_54 4 (dk_at dksX4_sending_9 10 rfl rfl)
theorem dX4_sending_222 : decode cX4_sending 222 = .ok (.iinc 5 1, 3) := dk_132 5 1 (dk_at dksX4_sending_9 12 rfl rfl)
theorem dX4_sending_225 : decode cX4_sending 225 = .ok (.goto (-103), 3) := dk_167 255 153 (dk_at dksX4_sending_9 15 rfl rfl)
theorem dX4_sending_228 : decode cX4_sending 228 = .ok (.iload 4, 2) := dk_21 4 (dk_at dksX4_sending_9 18 rfl rfl)
theorem dX4_sending_230 : decode cX4_sending 230 = .ok (.ireturn, 1) := dk_172 (dk_at dksX4_sending_9 20 rfl rfl)
abbrev cX4_comesTo : ByteArray := prog_13_method_86_code
def yX4_comesTo : MethodName := ⟨RX4, "comesTo", "(II)I"⟩
def dkwX4_comesTo_2 : List UInt8 := [160, 0, 7, 3, 167, 0, 4, 29, 100, 54, 4, 21, 4, 156, 0, 7, 3, 167, 0, 5, 21, 4, 172]
abbrev dktX4_comesTo_2 : List UInt8 := dkwX4_comesTo_2 ++ []
def dkwX4_comesTo_1 : List UInt8 := [161, 0, 5, 3, 172, 42, 180, 0, 75, 16, 25, 27, 96, 46, 42, 180, 0, 75, 16, 45, 27, 96, 46, 4]
abbrev dktX4_comesTo_1 : List UInt8 := dkwX4_comesTo_1 ++ dktX4_comesTo_2
def dkwX4_comesTo_0 : List UInt8 := [42, 180, 0, 90, 16, 8, 42, 180, 0, 75, 16, 55, 27, 96, 46, 104, 28, 96, 46, 62, 29, 19, 1, 139]
abbrev dktX4_comesTo_0 : List UInt8 := dkwX4_comesTo_0 ++ dktX4_comesTo_1
theorem dksX4_comesTo_0 : cX4_comesTo.data.toList.drop 0 = dktX4_comesTo_0 := by decide +kernel
theorem dksX4_comesTo_1 : cX4_comesTo.data.toList.drop 24 = dktX4_comesTo_1 := dk_seg dksX4_comesTo_0 24 rfl rfl
theorem dksX4_comesTo_2 : cX4_comesTo.data.toList.drop 48 = dktX4_comesTo_2 := dk_seg dksX4_comesTo_1 24 rfl rfl
theorem dX4_comesTo_0 : decode cX4_comesTo 0 = .ok (.aload_n 0, 1) := dk_42 (dk_at dksX4_comesTo_0 0 rfl rfl)
theorem dX4_comesTo_1 : decode cX4_comesTo 1 = .ok (.getfield 90, 3) := dk_180 0 90 (dk_at dksX4_comesTo_0 1 rfl rfl)
theorem dX4_comesTo_4 : decode cX4_comesTo 4 = .ok (.bipush 8, 2) := dk_16 8 (dk_at dksX4_comesTo_0 4 rfl rfl)
theorem dX4_comesTo_6 : decode cX4_comesTo 6 = .ok (.aload_n 0, 1) := dk_42 (dk_at dksX4_comesTo_0 6 rfl rfl)
theorem dX4_comesTo_7 : decode cX4_comesTo 7 = .ok (.getfield 75, 3) := dk_180 0 75 (dk_at dksX4_comesTo_0 7 rfl rfl)
theorem dX4_comesTo_10 : decode cX4_comesTo 10 = .ok (.bipush 55, 2) := dk_16 55 (dk_at dksX4_comesTo_0 10 rfl rfl)
theorem dX4_comesTo_12 : decode cX4_comesTo 12 = .ok (.iload_n 1, 1) := dk_27 (dk_at dksX4_comesTo_0 12 rfl rfl)
theorem dX4_comesTo_13 : decode cX4_comesTo 13 = .ok (.iadd, 1) := dk_96 (dk_at dksX4_comesTo_0 13 rfl rfl)
theorem dX4_comesTo_14 : decode cX4_comesTo 14 = .ok (.iaload, 1) := dk_46 (dk_at dksX4_comesTo_0 14 rfl rfl)
theorem dX4_comesTo_15 : decode cX4_comesTo 15 = .ok (.imul, 1) := dk_104 (dk_at dksX4_comesTo_0 15 rfl rfl)
theorem dX4_comesTo_16 : decode cX4_comesTo 16 = .ok (.iload_n 2, 1) := dk_28 (dk_at dksX4_comesTo_0 16 rfl rfl)
theorem dX4_comesTo_17 : decode cX4_comesTo 17 = .ok (.iadd, 1) := dk_96 (dk_at dksX4_comesTo_0 17 rfl rfl)
theorem dX4_comesTo_18 : decode cX4_comesTo 18 = .ok (.iaload, 1) := dk_46 (dk_at dksX4_comesTo_0 18 rfl rfl)
theorem dX4_comesTo_19 : decode cX4_comesTo 19 = .ok (.istore_n 3, 1) := dk_62 (dk_at dksX4_comesTo_0 19 rfl rfl)
theorem dX4_comesTo_20 : decode cX4_comesTo 20 = .ok (.iload_n 3, 1) := dk_29 (dk_at dksX4_comesTo_0 20 rfl rfl)
theorem dX4_comesTo_21 : decode cX4_comesTo 21 = .ok (.ldc_w 395, 3) := dk_19 1 139 (dk_at dksX4_comesTo_0 21 rfl rfl)
theorem dX4_comesTo_24 : decode cX4_comesTo 24 = .ok (.if_icmp .lt 5, 3) := dk_161 0 5 (dk_at dksX4_comesTo_1 0 rfl rfl)
theorem dX4_comesTo_27 : decode cX4_comesTo 27 = .ok (.iconst 0, 1) := dk_3 (dk_at dksX4_comesTo_1 3 rfl rfl)
theorem dX4_comesTo_28 : decode cX4_comesTo 28 = .ok (.ireturn, 1) := dk_172 (dk_at dksX4_comesTo_1 4 rfl rfl)
theorem dX4_comesTo_29 : decode cX4_comesTo 29 = .ok (.aload_n 0, 1) := dk_42 (dk_at dksX4_comesTo_1 5 rfl rfl)
theorem dX4_comesTo_30 : decode cX4_comesTo 30 = .ok (.getfield 75, 3) := dk_180 0 75 (dk_at dksX4_comesTo_1 6 rfl rfl)
theorem dX4_comesTo_33 : decode cX4_comesTo 33 = .ok (.bipush 25, 2) := dk_16 25 (dk_at dksX4_comesTo_1 9 rfl rfl)
theorem dX4_comesTo_35 : decode cX4_comesTo 35 = .ok (.iload_n 1, 1) := dk_27 (dk_at dksX4_comesTo_1 11 rfl rfl)
theorem dX4_comesTo_36 : decode cX4_comesTo 36 = .ok (.iadd, 1) := dk_96 (dk_at dksX4_comesTo_1 12 rfl rfl)
theorem dX4_comesTo_37 : decode cX4_comesTo 37 = .ok (.iaload, 1) := dk_46 (dk_at dksX4_comesTo_1 13 rfl rfl)
theorem dX4_comesTo_38 : decode cX4_comesTo 38 = .ok (.aload_n 0, 1) := dk_42 (dk_at dksX4_comesTo_1 14 rfl rfl)
theorem dX4_comesTo_39 : decode cX4_comesTo 39 = .ok (.getfield 75, 3) := dk_180 0 75 (dk_at dksX4_comesTo_1 15 rfl rfl)
theorem dX4_comesTo_42 : decode cX4_comesTo 42 = .ok (.bipush 45, 2) := dk_16 45 (dk_at dksX4_comesTo_1 18 rfl rfl)
theorem dX4_comesTo_44 : decode cX4_comesTo 44 = .ok (.iload_n 1, 1) := dk_27 (dk_at dksX4_comesTo_1 20 rfl rfl)
theorem dX4_comesTo_45 : decode cX4_comesTo 45 = .ok (.iadd, 1) := dk_96 (dk_at dksX4_comesTo_1 21 rfl rfl)
theorem dX4_comesTo_46 : decode cX4_comesTo 46 = .ok (.iaload, 1) := dk_46 (dk_at dksX4_comesTo_1 22 rfl rfl)
theorem dX4_comesTo_47 : decode cX4_comesTo 47 = .ok (.iconst 1, 1) := dk_4 (dk_at dksX4_comesTo_1 23 rfl rfl)
theorem dX4_comesTo_48 : decode cX4_comesTo 48 = .ok (.if_icmp .ne 7, 3) := dk_160 0 7 (dk_at dksX4_comesTo_2 0 rfl rfl)
theorem dX4_comesTo_51 : decode cX4_comesTo 51 = .ok (.iconst 0, 1) := dk_3 (dk_at dksX4_comesTo_2 3 rfl rfl)
theorem dX4_comesTo_52 : decode cX4_comesTo 52 = .ok (.goto 4, 3) := dk_167 0 4 (dk_at dksX4_comesTo_2 4 rfl rfl)
theorem dX4_comesTo_55 : decode cX4_comesTo 55 = .ok (.iload_n 3, 1) := dk_29 (dk_at dksX4_comesTo_2 7 rfl rfl)
theorem dX4_comesTo_56 : decode cX4_comesTo 56 = .ok (.isub, 1) := dk_100 (dk_at dksX4_comesTo_2 8 rfl rfl)
theorem dX4_comesTo_57 : decode cX4_comesTo 57 = .ok (.istore 4, 2) := dk_54 4 (dk_at dksX4_comesTo_2 9 rfl rfl)
theorem dX4_comesTo_59 : decode cX4_comesTo 59 = .ok (.iload 4, 2) := dk_21 4 (dk_at dksX4_comesTo_2 11 rfl rfl)
theorem dX4_comesTo_61 : decode cX4_comesTo 61 = .ok (.ifCond .ge 7, 3) := dk_156 0 7 (dk_at dksX4_comesTo_2 13 rfl rfl)
theorem dX4_comesTo_64 : decode cX4_comesTo 64 = .ok (.iconst 0, 1) := dk_3 (dk_at dksX4_comesTo_2 16 rfl rfl)
theorem dX4_comesTo_65 : decode cX4_comesTo 65 = .ok (.goto 5, 3) := dk_167 0 5 (dk_at dksX4_comesTo_2 17 rfl rfl)
theorem dX4_comesTo_68 : decode cX4_comesTo 68 = .ok (.iload 4, 2) := dk_21 4 (dk_at dksX4_comesTo_2 20 rfl rfl)
theorem dX4_comesTo_70 : decode cX4_comesTo 70 = .ok (.ireturn, 1) := dk_172 (dk_at dksX4_comesTo_2 22 rfl rfl)
abbrev cX4_row : ByteArray := prog_13_method_89_code
def yX4_row : MethodName := ⟨RX4, "row", "(III)I"⟩
def dkwX4_row_5 : List UInt8 := [167, 0, 4, 3, 172]
abbrev dktX4_row_5 : List UInt8 := dkwX4_row_5 ++ []
def dkwX4_row_4 : List UInt8 := [167, 255, 232, 42, 21, 5, 29, 160, 0, 7, 4, 167, 0, 4, 3, 4, 182, 1, 18, 153, 0, 8, 21, 4]
abbrev dktX4_row_4 : List UInt8 := dkwX4_row_4 ++ dktX4_row_5
def dkwX4_row_3 : List UInt8 := [21, 5, 29, 162, 0, 24, 21, 4, 28, 159, 0, 18, 42, 21, 4, 28, 182, 1, 149, 54, 4, 132, 5, 1]
abbrev dktX4_row_3 : List UInt8 := dkwX4_row_3 ++ dktX4_row_4
def dkwX4_row_2 : List UInt8 := [162, 0, 7, 4, 167, 0, 4, 3, 4, 182, 1, 18, 154, 0, 5, 3, 172, 27, 54, 4, 3, 54, 5]
abbrev dktX4_row_2 : List UInt8 := dkwX4_row_2 ++ dktX4_row_3
def dkwX4_row_1 : List UInt8 := [2, 182, 1, 140, 42, 29, 155, 0, 24, 42, 180, 0, 87, 16, 8, 27, 104, 28, 96, 46, 19, 1, 139]
abbrev dktX4_row_1 : List UInt8 := dkwX4_row_1 ++ dktX4_row_2
def dkwX4_row_0 : List UInt8 := [42, 3, 181, 0, 117, 42, 27, 182, 1, 106, 153, 0, 11, 42, 28, 182, 1, 106, 154, 0, 5, 3, 172, 42]
abbrev dktX4_row_0 : List UInt8 := dkwX4_row_0 ++ dktX4_row_1
theorem dksX4_row_0 : cX4_row.data.toList.drop 0 = dktX4_row_0 := by decide +kernel
theorem dksX4_row_1 : cX4_row.data.toList.drop 24 = dktX4_row_1 := dk_seg dksX4_row_0 24 rfl rfl
theorem dksX4_row_2 : cX4_row.data.toList.drop 47 = dktX4_row_2 := dk_seg dksX4_row_1 23 rfl rfl
theorem dksX4_row_3 : cX4_row.data.toList.drop 70 = dktX4_row_3 := dk_seg dksX4_row_2 23 rfl rfl
theorem dksX4_row_4 : cX4_row.data.toList.drop 94 = dktX4_row_4 := dk_seg dksX4_row_3 24 rfl rfl
theorem dksX4_row_5 : cX4_row.data.toList.drop 118 = dktX4_row_5 := dk_seg dksX4_row_4 24 rfl rfl
theorem dX4_row_0 : decode cX4_row 0 = .ok (.aload_n 0, 1) := dk_42 (dk_at dksX4_row_0 0 rfl rfl)
theorem dX4_row_1 : decode cX4_row 1 = .ok (.iconst 0, 1) := dk_3 (dk_at dksX4_row_0 1 rfl rfl)
theorem dX4_row_2 : decode cX4_row 2 = .ok (.putfield 117, 3) := dk_181 0 117 (dk_at dksX4_row_0 2 rfl rfl)
theorem dX4_row_5 : decode cX4_row 5 = .ok (.aload_n 0, 1) := dk_42 (dk_at dksX4_row_0 5 rfl rfl)
theorem dX4_row_6 : decode cX4_row 6 = .ok (.iload_n 1, 1) := dk_27 (dk_at dksX4_row_0 6 rfl rfl)
theorem dX4_row_7 : decode cX4_row 7 = .ok (.invokevirtual 362, 3) := dk_182 1 106 (dk_at dksX4_row_0 7 rfl rfl)
theorem dX4_row_10 : decode cX4_row 10 = .ok (.ifCond .eq 11, 3) := dk_153 0 11 (dk_at dksX4_row_0 10 rfl rfl)
theorem dX4_row_13 : decode cX4_row 13 = .ok (.aload_n 0, 1) := dk_42 (dk_at dksX4_row_0 13 rfl rfl)
theorem dX4_row_14 : decode cX4_row 14 = .ok (.iload_n 2, 1) := dk_28 (dk_at dksX4_row_0 14 rfl rfl)
theorem dX4_row_15 : decode cX4_row 15 = .ok (.invokevirtual 362, 3) := dk_182 1 106 (dk_at dksX4_row_0 15 rfl rfl)
theorem dX4_row_18 : decode cX4_row 18 = .ok (.ifCond .ne 5, 3) := dk_154 0 5 (dk_at dksX4_row_0 18 rfl rfl)
theorem dX4_row_21 : decode cX4_row 21 = .ok (.iconst 0, 1) := dk_3 (dk_at dksX4_row_0 21 rfl rfl)
theorem dX4_row_22 : decode cX4_row 22 = .ok (.ireturn, 1) := dk_172 (dk_at dksX4_row_0 22 rfl rfl)
theorem dX4_row_23 : decode cX4_row 23 = .ok (.aload_n 0, 1) := dk_42 (dk_at dksX4_row_0 23 rfl rfl)
theorem dX4_row_24 : decode cX4_row 24 = .ok (.iconst (-1), 1) := dk_2 (dk_at dksX4_row_1 0 rfl rfl)
theorem dX4_row_25 : decode cX4_row 25 = .ok (.invokevirtual 396, 3) := dk_182 1 140 (dk_at dksX4_row_1 1 rfl rfl)
theorem dX4_row_28 : decode cX4_row 28 = .ok (.aload_n 0, 1) := dk_42 (dk_at dksX4_row_1 4 rfl rfl)
theorem dX4_row_29 : decode cX4_row 29 = .ok (.iload_n 3, 1) := dk_29 (dk_at dksX4_row_1 5 rfl rfl)
theorem dX4_row_30 : decode cX4_row 30 = .ok (.ifCond .lt 24, 3) := dk_155 0 24 (dk_at dksX4_row_1 6 rfl rfl)
theorem dX4_row_33 : decode cX4_row 33 = .ok (.aload_n 0, 1) := dk_42 (dk_at dksX4_row_1 9 rfl rfl)
theorem dX4_row_34 : decode cX4_row 34 = .ok (.getfield 87, 3) := dk_180 0 87 (dk_at dksX4_row_1 10 rfl rfl)
theorem dX4_row_37 : decode cX4_row 37 = .ok (.bipush 8, 2) := dk_16 8 (dk_at dksX4_row_1 13 rfl rfl)
theorem dX4_row_39 : decode cX4_row 39 = .ok (.iload_n 1, 1) := dk_27 (dk_at dksX4_row_1 15 rfl rfl)
theorem dX4_row_40 : decode cX4_row 40 = .ok (.imul, 1) := dk_104 (dk_at dksX4_row_1 16 rfl rfl)
theorem dX4_row_41 : decode cX4_row 41 = .ok (.iload_n 2, 1) := dk_28 (dk_at dksX4_row_1 17 rfl rfl)
theorem dX4_row_42 : decode cX4_row 42 = .ok (.iadd, 1) := dk_96 (dk_at dksX4_row_1 18 rfl rfl)
theorem dX4_row_43 : decode cX4_row 43 = .ok (.iaload, 1) := dk_46 (dk_at dksX4_row_1 19 rfl rfl)
theorem dX4_row_44 : decode cX4_row 44 = .ok (.ldc_w 395, 3) := dk_19 1 139 (dk_at dksX4_row_1 20 rfl rfl)
theorem dX4_row_47 : decode cX4_row 47 = .ok (.if_icmp .ge 7, 3) := dk_162 0 7 (dk_at dksX4_row_2 0 rfl rfl)
theorem dX4_row_50 : decode cX4_row 50 = .ok (.iconst 1, 1) := dk_4 (dk_at dksX4_row_2 3 rfl rfl)
theorem dX4_row_51 : decode cX4_row 51 = .ok (.goto 4, 3) := dk_167 0 4 (dk_at dksX4_row_2 4 rfl rfl)
theorem dX4_row_54 : decode cX4_row 54 = .ok (.iconst 0, 1) := dk_3 (dk_at dksX4_row_2 7 rfl rfl)
theorem dX4_row_55 : decode cX4_row 55 = .ok (.iconst 1, 1) := dk_4 (dk_at dksX4_row_2 8 rfl rfl)
theorem dX4_row_56 : decode cX4_row 56 = .ok (.invokevirtual 274, 3) := dk_182 1 18 (dk_at dksX4_row_2 9 rfl rfl)
theorem dX4_row_59 : decode cX4_row 59 = .ok (.ifCond .ne 5, 3) := dk_154 0 5 (dk_at dksX4_row_2 12 rfl rfl)
theorem dX4_row_62 : decode cX4_row 62 = .ok (.iconst 0, 1) := dk_3 (dk_at dksX4_row_2 15 rfl rfl)
theorem dX4_row_63 : decode cX4_row 63 = .ok (.ireturn, 1) := dk_172 (dk_at dksX4_row_2 16 rfl rfl)
theorem dX4_row_64 : decode cX4_row 64 = .ok (.iload_n 1, 1) := dk_27 (dk_at dksX4_row_2 17 rfl rfl)
theorem dX4_row_65 : decode cX4_row 65 = .ok (.istore 4, 2) := dk_54 4 (dk_at dksX4_row_2 18 rfl rfl)
theorem dX4_row_67 : decode cX4_row 67 = .ok (.iconst 0, 1) := dk_3 (dk_at dksX4_row_2 20 rfl rfl)
theorem dX4_row_68 : decode cX4_row 68 = .ok (.istore 5, 2) := dk_54 5 (dk_at dksX4_row_2 21 rfl rfl)
theorem dX4_row_70 : decode cX4_row 70 = .ok (.iload 5, 2) := dk_21 5 (dk_at dksX4_row_3 0 rfl rfl)
theorem dX4_row_72 : decode cX4_row 72 = .ok (.iload_n 3, 1) := dk_29 (dk_at dksX4_row_3 2 rfl rfl)
theorem dX4_row_73 : decode cX4_row 73 = .ok (.if_icmp .ge 24, 3) := dk_162 0 24 (dk_at dksX4_row_3 3 rfl rfl)
theorem dX4_row_76 : decode cX4_row 76 = .ok (.iload 4, 2) := dk_21 4 (dk_at dksX4_row_3 6 rfl rfl)
theorem dX4_row_78 : decode cX4_row 78 = .ok (.iload_n 2, 1) := dk_28 (dk_at dksX4_row_3 8 rfl rfl)
theorem dX4_row_79 : decode cX4_row 79 = .ok (.if_icmp .eq 18, 3) := dk_159 0 18 (dk_at dksX4_row_3 9 rfl rfl)
theorem dX4_row_82 : decode cX4_row 82 = .ok (.aload_n 0, 1) := dk_42 (dk_at dksX4_row_3 12 rfl rfl)
theorem dX4_row_83 : decode cX4_row 83 = .ok (.iload 4, 2) := dk_21 4 (dk_at dksX4_row_3 13 rfl rfl)
theorem dX4_row_85 : decode cX4_row 85 = .ok (.iload_n 2, 1) := dk_28 (dk_at dksX4_row_3 15 rfl rfl)
theorem dX4_row_86 : decode cX4_row 86 = .ok (.invokevirtual 405, 3) := dk_182 1 149 (dk_at dksX4_row_3 16 rfl rfl)
theorem dX4_row_89 : decode cX4_row 89 = .ok (.istore 4, 2) := dk_54 4 (dk_at dksX4_row_3 19 rfl rfl)
theorem dX4_row_91 : decode cX4_row 91 = .ok (.iinc 5 1, 3) := dk_132 5 1 (dk_at dksX4_row_3 21 rfl rfl)
theorem dX4_row_94 : decode cX4_row 94 = .ok (.goto (-24), 3) := dk_167 255 232 (dk_at dksX4_row_4 0 rfl rfl)
theorem dX4_row_97 : decode cX4_row 97 = .ok (.aload_n 0, 1) := dk_42 (dk_at dksX4_row_4 3 rfl rfl)
theorem dX4_row_98 : decode cX4_row 98 = .ok (.iload 5, 2) := dk_21 5 (dk_at dksX4_row_4 4 rfl rfl)
theorem dX4_row_100 : decode cX4_row 100 = .ok (.iload_n 3, 1) := dk_29 (dk_at dksX4_row_4 6 rfl rfl)
theorem dX4_row_101 : decode cX4_row 101 = .ok (.if_icmp .ne 7, 3) := dk_160 0 7 (dk_at dksX4_row_4 7 rfl rfl)
theorem dX4_row_104 : decode cX4_row 104 = .ok (.iconst 1, 1) := dk_4 (dk_at dksX4_row_4 10 rfl rfl)
theorem dX4_row_105 : decode cX4_row 105 = .ok (.goto 4, 3) := dk_167 0 4 (dk_at dksX4_row_4 11 rfl rfl)
theorem dX4_row_108 : decode cX4_row 108 = .ok (.iconst 0, 1) := dk_3 (dk_at dksX4_row_4 14 rfl rfl)
theorem dX4_row_109 : decode cX4_row 109 = .ok (.iconst 1, 1) := dk_4 (dk_at dksX4_row_4 15 rfl rfl)
theorem dX4_row_110 : decode cX4_row 110 = .ok (.invokevirtual 274, 3) := dk_182 1 18 (dk_at dksX4_row_4 16 rfl rfl)
theorem dX4_row_113 : decode cX4_row 113 = .ok (.ifCond .eq 8, 3) := dk_153 0 8 (dk_at dksX4_row_4 19 rfl rfl)
theorem dX4_row_116 : decode cX4_row 116 = .ok (.iload 4, 2) := dk_21 4 (dk_at dksX4_row_4 22 rfl rfl)
theorem dX4_row_118 : decode cX4_row 118 = .ok (.goto 4, 3) := dk_167 0 4 (dk_at dksX4_row_5 0 rfl rfl)
theorem dX4_row_121 : decode cX4_row 121 = .ok (.iconst 0, 1) := dk_3 (dk_at dksX4_row_5 3 rfl rfl)
theorem dX4_row_122 : decode cX4_row 122 = .ok (.ireturn, 1) := dk_172 (dk_at dksX4_row_5 4 rfl rfl)
abbrev cX4_nextOn : ByteArray := prog_13_method_88_code
def yX4_nextOn : MethodName := ⟨RX4, "nextOn", "(II)I"⟩
def dkwX4_nextOn_4 : List UInt8 := [167, 255, 188, 21, 4, 153, 0, 5, 29, 172, 132, 3, 1, 167, 255, 153, 2, 172]
abbrev dktX4_nextOn_4 : List UInt8 := dkwX4_nextOn_4 ++ []
def dkwX4_nextOn_3 : List UInt8 := [180, 0, 87, 16, 8, 27, 104, 28, 96, 46, 160, 0, 7, 4, 167, 0, 4, 3, 54, 4, 132, 5, 1]
abbrev dktX4_nextOn_3 : List UInt8 := dkwX4_nextOn_3 ++ dktX4_nextOn_4
def dkwX4_nextOn_2 : List UInt8 := [160, 0, 40, 42, 180, 0, 26, 21, 5, 46, 42, 180, 0, 87, 16, 8, 29, 104, 28, 96, 46, 96, 42]
abbrev dktX4_nextOn_2 : List UInt8 := dkwX4_nextOn_2 ++ dktX4_nextOn_3
def dkwX4_nextOn_1 : List UInt8 := [21, 5, 42, 180, 1, 28, 162, 0, 65, 21, 4, 154, 0, 47, 42, 21, 5, 27, 182, 1, 124, 29]
abbrev dktX4_nextOn_1 : List UInt8 := dkwX4_nextOn_1 ++ dktX4_nextOn_2
def dkwX4_nextOn_0 : List UInt8 := [3, 62, 29, 42, 180, 1, 25, 162, 0, 101, 29, 27, 160, 0, 6, 167, 0, 87, 3, 54, 4, 3, 54, 5]
abbrev dktX4_nextOn_0 : List UInt8 := dkwX4_nextOn_0 ++ dktX4_nextOn_1
theorem dksX4_nextOn_0 : cX4_nextOn.data.toList.drop 0 = dktX4_nextOn_0 := by decide +kernel
theorem dksX4_nextOn_1 : cX4_nextOn.data.toList.drop 24 = dktX4_nextOn_1 := dk_seg dksX4_nextOn_0 24 rfl rfl
theorem dksX4_nextOn_2 : cX4_nextOn.data.toList.drop 46 = dktX4_nextOn_2 := dk_seg dksX4_nextOn_1 22 rfl rfl
theorem dksX4_nextOn_3 : cX4_nextOn.data.toList.drop 69 = dktX4_nextOn_3 := dk_seg dksX4_nextOn_2 23 rfl rfl
theorem dksX4_nextOn_4 : cX4_nextOn.data.toList.drop 92 = dktX4_nextOn_4 := dk_seg dksX4_nextOn_3 23 rfl rfl
theorem dX4_nextOn_0 : decode cX4_nextOn 0 = .ok (.iconst 0, 1) := dk_3 (dk_at dksX4_nextOn_0 0 rfl rfl)
theorem dX4_nextOn_1 : decode cX4_nextOn 1 = .ok (.istore_n 3, 1) := dk_62 (dk_at dksX4_nextOn_0 1 rfl rfl)
theorem dX4_nextOn_2 : decode cX4_nextOn 2 = .ok (.iload_n 3, 1) := dk_29 (dk_at dksX4_nextOn_0 2 rfl rfl)
theorem dX4_nextOn_3 : decode cX4_nextOn 3 = .ok (.aload_n 0, 1) := dk_42 (dk_at dksX4_nextOn_0 3 rfl rfl)
theorem dX4_nextOn_4 : decode cX4_nextOn 4 = .ok (.getfield 281, 3) := dk_180 1 25 (dk_at dksX4_nextOn_0 4 rfl rfl)
theorem dX4_nextOn_7 : decode cX4_nextOn 7 = .ok (.if_icmp .ge 101, 3) := dk_162 0 101 (dk_at dksX4_nextOn_0 7 rfl rfl)
theorem dX4_nextOn_10 : decode cX4_nextOn 10 = .ok (.iload_n 3, 1) := dk_29 (dk_at dksX4_nextOn_0 10 rfl rfl)
theorem dX4_nextOn_11 : decode cX4_nextOn 11 = .ok (.iload_n 1, 1) := dk_27 (dk_at dksX4_nextOn_0 11 rfl rfl)
theorem dX4_nextOn_12 : decode cX4_nextOn 12 = .ok (.if_icmp .ne 6, 3) := dk_160 0 6 (dk_at dksX4_nextOn_0 12 rfl rfl)
theorem dX4_nextOn_15 : decode cX4_nextOn 15 = .ok (.goto 87, 3) := dk_167 0 87 (dk_at dksX4_nextOn_0 15 rfl rfl)
theorem dX4_nextOn_18 : decode cX4_nextOn 18 = .ok (.iconst 0, 1) := dk_3 (dk_at dksX4_nextOn_0 18 rfl rfl)
theorem dX4_nextOn_19 : decode cX4_nextOn 19 = .ok (.istore 4, 2) := dk_54 4 (dk_at dksX4_nextOn_0 19 rfl rfl)
theorem dX4_nextOn_21 : decode cX4_nextOn 21 = .ok (.iconst 0, 1) := dk_3 (dk_at dksX4_nextOn_0 21 rfl rfl)
theorem dX4_nextOn_22 : decode cX4_nextOn 22 = .ok (.istore 5, 2) := dk_54 5 (dk_at dksX4_nextOn_0 22 rfl rfl)
theorem dX4_nextOn_24 : decode cX4_nextOn 24 = .ok (.iload 5, 2) := dk_21 5 (dk_at dksX4_nextOn_1 0 rfl rfl)
theorem dX4_nextOn_26 : decode cX4_nextOn 26 = .ok (.aload_n 0, 1) := dk_42 (dk_at dksX4_nextOn_1 2 rfl rfl)
theorem dX4_nextOn_27 : decode cX4_nextOn 27 = .ok (.getfield 284, 3) := dk_180 1 28 (dk_at dksX4_nextOn_1 3 rfl rfl)
theorem dX4_nextOn_30 : decode cX4_nextOn 30 = .ok (.if_icmp .ge 65, 3) := dk_162 0 65 (dk_at dksX4_nextOn_1 6 rfl rfl)
theorem dX4_nextOn_33 : decode cX4_nextOn 33 = .ok (.iload 4, 2) := dk_21 4 (dk_at dksX4_nextOn_1 9 rfl rfl)
theorem dX4_nextOn_35 : decode cX4_nextOn 35 = .ok (.ifCond .ne 47, 3) := dk_154 0 47 (dk_at dksX4_nextOn_1 11 rfl rfl)
theorem dX4_nextOn_38 : decode cX4_nextOn 38 = .ok (.aload_n 0, 1) := dk_42 (dk_at dksX4_nextOn_1 14 rfl rfl)
theorem dX4_nextOn_39 : decode cX4_nextOn 39 = .ok (.iload 5, 2) := dk_21 5 (dk_at dksX4_nextOn_1 15 rfl rfl)
theorem dX4_nextOn_41 : decode cX4_nextOn 41 = .ok (.iload_n 1, 1) := dk_27 (dk_at dksX4_nextOn_1 17 rfl rfl)
theorem dX4_nextOn_42 : decode cX4_nextOn 42 = .ok (.invokevirtual 380, 3) := dk_182 1 124 (dk_at dksX4_nextOn_1 18 rfl rfl)
theorem dX4_nextOn_45 : decode cX4_nextOn 45 = .ok (.iload_n 3, 1) := dk_29 (dk_at dksX4_nextOn_1 21 rfl rfl)
theorem dX4_nextOn_46 : decode cX4_nextOn 46 = .ok (.if_icmp .ne 40, 3) := dk_160 0 40 (dk_at dksX4_nextOn_2 0 rfl rfl)
theorem dX4_nextOn_49 : decode cX4_nextOn 49 = .ok (.aload_n 0, 1) := dk_42 (dk_at dksX4_nextOn_2 3 rfl rfl)
theorem dX4_nextOn_50 : decode cX4_nextOn 50 = .ok (.getfield 26, 3) := dk_180 0 26 (dk_at dksX4_nextOn_2 4 rfl rfl)
theorem dX4_nextOn_53 : decode cX4_nextOn 53 = .ok (.iload 5, 2) := dk_21 5 (dk_at dksX4_nextOn_2 7 rfl rfl)
theorem dX4_nextOn_55 : decode cX4_nextOn 55 = .ok (.iaload, 1) := dk_46 (dk_at dksX4_nextOn_2 9 rfl rfl)
theorem dX4_nextOn_56 : decode cX4_nextOn 56 = .ok (.aload_n 0, 1) := dk_42 (dk_at dksX4_nextOn_2 10 rfl rfl)
theorem dX4_nextOn_57 : decode cX4_nextOn 57 = .ok (.getfield 87, 3) := dk_180 0 87 (dk_at dksX4_nextOn_2 11 rfl rfl)
theorem dX4_nextOn_60 : decode cX4_nextOn 60 = .ok (.bipush 8, 2) := dk_16 8 (dk_at dksX4_nextOn_2 14 rfl rfl)
theorem dX4_nextOn_62 : decode cX4_nextOn 62 = .ok (.iload_n 3, 1) := dk_29 (dk_at dksX4_nextOn_2 16 rfl rfl)
theorem dX4_nextOn_63 : decode cX4_nextOn 63 = .ok (.imul, 1) := dk_104 (dk_at dksX4_nextOn_2 17 rfl rfl)
theorem dX4_nextOn_64 : decode cX4_nextOn 64 = .ok (.iload_n 2, 1) := dk_28 (dk_at dksX4_nextOn_2 18 rfl rfl)
theorem dX4_nextOn_65 : decode cX4_nextOn 65 = .ok (.iadd, 1) := dk_96 (dk_at dksX4_nextOn_2 19 rfl rfl)
theorem dX4_nextOn_66 : decode cX4_nextOn 66 = .ok (.iaload, 1) := dk_46 (dk_at dksX4_nextOn_2 20 rfl rfl)
theorem dX4_nextOn_67 : decode cX4_nextOn 67 = .ok (.iadd, 1) := dk_96 (dk_at dksX4_nextOn_2 21 rfl rfl)
theorem dX4_nextOn_68 : decode cX4_nextOn 68 = .ok (.aload_n 0, 1) := dk_42 (dk_at dksX4_nextOn_2 22 rfl rfl)
theorem dX4_nextOn_69 : decode cX4_nextOn 69 = .ok (.getfield 87, 3) := dk_180 0 87 (dk_at dksX4_nextOn_3 0 rfl rfl)
theorem dX4_nextOn_72 : decode cX4_nextOn 72 = .ok (.bipush 8, 2) := dk_16 8 (dk_at dksX4_nextOn_3 3 rfl rfl)
theorem dX4_nextOn_74 : decode cX4_nextOn 74 = .ok (.iload_n 1, 1) := dk_27 (dk_at dksX4_nextOn_3 5 rfl rfl)
theorem dX4_nextOn_75 : decode cX4_nextOn 75 = .ok (.imul, 1) := dk_104 (dk_at dksX4_nextOn_3 6 rfl rfl)
theorem dX4_nextOn_76 : decode cX4_nextOn 76 = .ok (.iload_n 2, 1) := dk_28 (dk_at dksX4_nextOn_3 7 rfl rfl)
theorem dX4_nextOn_77 : decode cX4_nextOn 77 = .ok (.iadd, 1) := dk_96 (dk_at dksX4_nextOn_3 8 rfl rfl)
theorem dX4_nextOn_78 : decode cX4_nextOn 78 = .ok (.iaload, 1) := dk_46 (dk_at dksX4_nextOn_3 9 rfl rfl)
theorem dX4_nextOn_79 : decode cX4_nextOn 79 = .ok (.if_icmp .ne 7, 3) := dk_160 0 7 (dk_at dksX4_nextOn_3 10 rfl rfl)
theorem dX4_nextOn_82 : decode cX4_nextOn 82 = .ok (.iconst 1, 1) := dk_4 (dk_at dksX4_nextOn_3 13 rfl rfl)
theorem dX4_nextOn_83 : decode cX4_nextOn 83 = .ok (.goto 4, 3) := dk_167 0 4 (dk_at dksX4_nextOn_3 14 rfl rfl)
theorem dX4_nextOn_86 : decode cX4_nextOn 86 = .ok (.iconst 0, 1) := dk_3 (dk_at dksX4_nextOn_3 17 rfl rfl)
theorem dX4_nextOn_87 : decode cX4_nextOn 87 = .ok (.istore 4, 2) := dk_54 4 (dk_at dksX4_nextOn_3 18 rfl rfl)
theorem dX4_nextOn_89 : decode cX4_nextOn 89 = .ok (.iinc 5 1, 3) := dk_132 5 1 (dk_at dksX4_nextOn_3 20 rfl rfl)
theorem dX4_nextOn_92 : decode cX4_nextOn 92 = .ok (.goto (-68), 3) := dk_167 255 188 (dk_at dksX4_nextOn_4 0 rfl rfl)
theorem dX4_nextOn_95 : decode cX4_nextOn 95 = .ok (.iload 4, 2) := dk_21 4 (dk_at dksX4_nextOn_4 3 rfl rfl)
theorem dX4_nextOn_97 : decode cX4_nextOn 97 = .ok (.ifCond .eq 5, 3) := dk_153 0 5 (dk_at dksX4_nextOn_4 5 rfl rfl)
theorem dX4_nextOn_100 : decode cX4_nextOn 100 = .ok (.iload_n 3, 1) := dk_29 (dk_at dksX4_nextOn_4 8 rfl rfl)
theorem dX4_nextOn_101 : decode cX4_nextOn 101 = .ok (.ireturn, 1) := dk_172 (dk_at dksX4_nextOn_4 9 rfl rfl)
theorem dX4_nextOn_102 : decode cX4_nextOn 102 = .ok (.iinc 3 1, 3) := dk_132 3 1 (dk_at dksX4_nextOn_4 10 rfl rfl)
theorem dX4_nextOn_105 : decode cX4_nextOn 105 = .ok (.goto (-103), 3) := dk_167 255 153 (dk_at dksX4_nextOn_4 13 rfl rfl)
theorem dX4_nextOn_108 : decode cX4_nextOn 108 = .ok (.iconst (-1), 1) := dk_2 (dk_at dksX4_nextOn_4 16 rfl rfl)
theorem dX4_nextOn_109 : decode cX4_nextOn 109 = .ok (.ireturn, 1) := dk_172 (dk_at dksX4_nextOn_4 17 rfl rfl)
abbrev cX4_hub : ByteArray := prog_13_method_90_code
def yX4_hub : MethodName := ⟨RX4, "hub", "()I"⟩
def dkwX4_hub_4 : List UInt8 := [21, 4, 61, 132, 3, 1, 167, 255, 174, 27, 172]
abbrev dktX4_hub_4 : List UInt8 := dkwX4_hub_4 ++ []
def dkwX4_hub_3 : List UInt8 := [167, 0, 5, 21, 4, 54, 4, 132, 5, 1, 167, 255, 208, 21, 4, 28, 161, 0, 6, 167, 0, 8, 29, 60]
abbrev dktX4_hub_3 : List UInt8 := dkwX4_hub_3 ++ dktX4_hub_4
def dkwX4_hub_2 : List UInt8 := [29, 104, 21, 5, 96, 46, 21, 4, 164, 0, 18, 42, 180, 0, 87, 16, 8, 29, 104, 21, 5, 96, 46]
abbrev dktX4_hub_2 : List UInt8 := dkwX4_hub_2 ++ dktX4_hub_3
def dkwX4_hub_1 : List UInt8 := [162, 0, 80, 3, 54, 4, 3, 54, 5, 21, 5, 42, 180, 1, 25, 162, 0, 45, 42, 180, 0, 87, 16, 8]
abbrev dktX4_hub_1 : List UInt8 := dkwX4_hub_1 ++ dktX4_hub_2
def dkwX4_hub_0 : List UInt8 := [42, 3, 181, 0, 117, 42, 2, 182, 1, 140, 2, 60, 19, 1, 139, 61, 3, 62, 29, 42, 180, 1, 25]
abbrev dktX4_hub_0 : List UInt8 := dkwX4_hub_0 ++ dktX4_hub_1
theorem dksX4_hub_0 : cX4_hub.data.toList.drop 0 = dktX4_hub_0 := by decide +kernel
theorem dksX4_hub_1 : cX4_hub.data.toList.drop 23 = dktX4_hub_1 := dk_seg dksX4_hub_0 23 rfl rfl
theorem dksX4_hub_2 : cX4_hub.data.toList.drop 47 = dktX4_hub_2 := dk_seg dksX4_hub_1 24 rfl rfl
theorem dksX4_hub_3 : cX4_hub.data.toList.drop 70 = dktX4_hub_3 := dk_seg dksX4_hub_2 23 rfl rfl
theorem dksX4_hub_4 : cX4_hub.data.toList.drop 94 = dktX4_hub_4 := dk_seg dksX4_hub_3 24 rfl rfl
theorem dX4_hub_0 : decode cX4_hub 0 = .ok (.aload_n 0, 1) := dk_42 (dk_at dksX4_hub_0 0 rfl rfl)
theorem dX4_hub_1 : decode cX4_hub 1 = .ok (.iconst 0, 1) := dk_3 (dk_at dksX4_hub_0 1 rfl rfl)
theorem dX4_hub_2 : decode cX4_hub 2 = .ok (.putfield 117, 3) := dk_181 0 117 (dk_at dksX4_hub_0 2 rfl rfl)
theorem dX4_hub_5 : decode cX4_hub 5 = .ok (.aload_n 0, 1) := dk_42 (dk_at dksX4_hub_0 5 rfl rfl)
theorem dX4_hub_6 : decode cX4_hub 6 = .ok (.iconst (-1), 1) := dk_2 (dk_at dksX4_hub_0 6 rfl rfl)
theorem dX4_hub_7 : decode cX4_hub 7 = .ok (.invokevirtual 396, 3) := dk_182 1 140 (dk_at dksX4_hub_0 7 rfl rfl)
theorem dX4_hub_10 : decode cX4_hub 10 = .ok (.iconst (-1), 1) := dk_2 (dk_at dksX4_hub_0 10 rfl rfl)
theorem dX4_hub_11 : decode cX4_hub 11 = .ok (.istore_n 1, 1) := dk_60 (dk_at dksX4_hub_0 11 rfl rfl)
theorem dX4_hub_12 : decode cX4_hub 12 = .ok (.ldc_w 395, 3) := dk_19 1 139 (dk_at dksX4_hub_0 12 rfl rfl)
theorem dX4_hub_15 : decode cX4_hub 15 = .ok (.istore_n 2, 1) := dk_61 (dk_at dksX4_hub_0 15 rfl rfl)
theorem dX4_hub_16 : decode cX4_hub 16 = .ok (.iconst 0, 1) := dk_3 (dk_at dksX4_hub_0 16 rfl rfl)
theorem dX4_hub_17 : decode cX4_hub 17 = .ok (.istore_n 3, 1) := dk_62 (dk_at dksX4_hub_0 17 rfl rfl)
theorem dX4_hub_18 : decode cX4_hub 18 = .ok (.iload_n 3, 1) := dk_29 (dk_at dksX4_hub_0 18 rfl rfl)
theorem dX4_hub_19 : decode cX4_hub 19 = .ok (.aload_n 0, 1) := dk_42 (dk_at dksX4_hub_0 19 rfl rfl)
theorem dX4_hub_20 : decode cX4_hub 20 = .ok (.getfield 281, 3) := dk_180 1 25 (dk_at dksX4_hub_0 20 rfl rfl)
theorem dX4_hub_23 : decode cX4_hub 23 = .ok (.if_icmp .ge 80, 3) := dk_162 0 80 (dk_at dksX4_hub_1 0 rfl rfl)
theorem dX4_hub_26 : decode cX4_hub 26 = .ok (.iconst 0, 1) := dk_3 (dk_at dksX4_hub_1 3 rfl rfl)
theorem dX4_hub_27 : decode cX4_hub 27 = .ok (.istore 4, 2) := dk_54 4 (dk_at dksX4_hub_1 4 rfl rfl)
theorem dX4_hub_29 : decode cX4_hub 29 = .ok (.iconst 0, 1) := dk_3 (dk_at dksX4_hub_1 6 rfl rfl)
theorem dX4_hub_30 : decode cX4_hub 30 = .ok (.istore 5, 2) := dk_54 5 (dk_at dksX4_hub_1 7 rfl rfl)
theorem dX4_hub_32 : decode cX4_hub 32 = .ok (.iload 5, 2) := dk_21 5 (dk_at dksX4_hub_1 9 rfl rfl)
theorem dX4_hub_34 : decode cX4_hub 34 = .ok (.aload_n 0, 1) := dk_42 (dk_at dksX4_hub_1 11 rfl rfl)
theorem dX4_hub_35 : decode cX4_hub 35 = .ok (.getfield 281, 3) := dk_180 1 25 (dk_at dksX4_hub_1 12 rfl rfl)
theorem dX4_hub_38 : decode cX4_hub 38 = .ok (.if_icmp .ge 45, 3) := dk_162 0 45 (dk_at dksX4_hub_1 15 rfl rfl)
theorem dX4_hub_41 : decode cX4_hub 41 = .ok (.aload_n 0, 1) := dk_42 (dk_at dksX4_hub_1 18 rfl rfl)
theorem dX4_hub_42 : decode cX4_hub 42 = .ok (.getfield 87, 3) := dk_180 0 87 (dk_at dksX4_hub_1 19 rfl rfl)
theorem dX4_hub_45 : decode cX4_hub 45 = .ok (.bipush 8, 2) := dk_16 8 (dk_at dksX4_hub_1 22 rfl rfl)
theorem dX4_hub_47 : decode cX4_hub 47 = .ok (.iload_n 3, 1) := dk_29 (dk_at dksX4_hub_2 0 rfl rfl)
theorem dX4_hub_48 : decode cX4_hub 48 = .ok (.imul, 1) := dk_104 (dk_at dksX4_hub_2 1 rfl rfl)
theorem dX4_hub_49 : decode cX4_hub 49 = .ok (.iload 5, 2) := dk_21 5 (dk_at dksX4_hub_2 2 rfl rfl)
theorem dX4_hub_51 : decode cX4_hub 51 = .ok (.iadd, 1) := dk_96 (dk_at dksX4_hub_2 4 rfl rfl)
theorem dX4_hub_52 : decode cX4_hub 52 = .ok (.iaload, 1) := dk_46 (dk_at dksX4_hub_2 5 rfl rfl)
theorem dX4_hub_53 : decode cX4_hub 53 = .ok (.iload 4, 2) := dk_21 4 (dk_at dksX4_hub_2 6 rfl rfl)
theorem dX4_hub_55 : decode cX4_hub 55 = .ok (.if_icmp .le 18, 3) := dk_164 0 18 (dk_at dksX4_hub_2 8 rfl rfl)
theorem dX4_hub_58 : decode cX4_hub 58 = .ok (.aload_n 0, 1) := dk_42 (dk_at dksX4_hub_2 11 rfl rfl)
theorem dX4_hub_59 : decode cX4_hub 59 = .ok (.getfield 87, 3) := dk_180 0 87 (dk_at dksX4_hub_2 12 rfl rfl)
theorem dX4_hub_62 : decode cX4_hub 62 = .ok (.bipush 8, 2) := dk_16 8 (dk_at dksX4_hub_2 15 rfl rfl)
theorem dX4_hub_64 : decode cX4_hub 64 = .ok (.iload_n 3, 1) := dk_29 (dk_at dksX4_hub_2 17 rfl rfl)
theorem dX4_hub_65 : decode cX4_hub 65 = .ok (.imul, 1) := dk_104 (dk_at dksX4_hub_2 18 rfl rfl)
theorem dX4_hub_66 : decode cX4_hub 66 = .ok (.iload 5, 2) := dk_21 5 (dk_at dksX4_hub_2 19 rfl rfl)
theorem dX4_hub_68 : decode cX4_hub 68 = .ok (.iadd, 1) := dk_96 (dk_at dksX4_hub_2 21 rfl rfl)
theorem dX4_hub_69 : decode cX4_hub 69 = .ok (.iaload, 1) := dk_46 (dk_at dksX4_hub_2 22 rfl rfl)
theorem dX4_hub_70 : decode cX4_hub 70 = .ok (.goto 5, 3) := dk_167 0 5 (dk_at dksX4_hub_3 0 rfl rfl)
theorem dX4_hub_73 : decode cX4_hub 73 = .ok (.iload 4, 2) := dk_21 4 (dk_at dksX4_hub_3 3 rfl rfl)
theorem dX4_hub_75 : decode cX4_hub 75 = .ok (.istore 4, 2) := dk_54 4 (dk_at dksX4_hub_3 5 rfl rfl)
theorem dX4_hub_77 : decode cX4_hub 77 = .ok (.iinc 5 1, 3) := dk_132 5 1 (dk_at dksX4_hub_3 7 rfl rfl)
theorem dX4_hub_80 : decode cX4_hub 80 = .ok (.goto (-48), 3) := dk_167 255 208 (dk_at dksX4_hub_3 10 rfl rfl)
theorem dX4_hub_83 : decode cX4_hub 83 = .ok (.iload 4, 2) := dk_21 4 (dk_at dksX4_hub_3 13 rfl rfl)
theorem dX4_hub_85 : decode cX4_hub 85 = .ok (.iload_n 2, 1) := dk_28 (dk_at dksX4_hub_3 15 rfl rfl)
theorem dX4_hub_86 : decode cX4_hub 86 = .ok (.if_icmp .lt 6, 3) := dk_161 0 6 (dk_at dksX4_hub_3 16 rfl rfl)
theorem dX4_hub_89 : decode cX4_hub 89 = .ok (.goto 8, 3) := dk_167 0 8 (dk_at dksX4_hub_3 19 rfl rfl)
theorem dX4_hub_92 : decode cX4_hub 92 = .ok (.iload_n 3, 1) := dk_29 (dk_at dksX4_hub_3 22 rfl rfl)
theorem dX4_hub_93 : decode cX4_hub 93 = .ok (.istore_n 1, 1) := dk_60 (dk_at dksX4_hub_3 23 rfl rfl)
theorem dX4_hub_94 : decode cX4_hub 94 = .ok (.iload 4, 2) := dk_21 4 (dk_at dksX4_hub_4 0 rfl rfl)
theorem dX4_hub_96 : decode cX4_hub 96 = .ok (.istore_n 2, 1) := dk_61 (dk_at dksX4_hub_4 2 rfl rfl)
theorem dX4_hub_97 : decode cX4_hub 97 = .ok (.iinc 3 1, 3) := dk_132 3 1 (dk_at dksX4_hub_4 3 rfl rfl)
theorem dX4_hub_100 : decode cX4_hub 100 = .ok (.goto (-82), 3) := dk_167 255 174 (dk_at dksX4_hub_4 6 rfl rfl)
theorem dX4_hub_103 : decode cX4_hub 103 = .ok (.iload_n 1, 1) := dk_27 (dk_at dksX4_hub_4 9 rfl rfl)
theorem dX4_hub_104 : decode cX4_hub 104 = .ok (.ireturn, 1) := dk_172 (dk_at dksX4_hub_4 10 rfl rfl)
abbrev cX4_bridge : ByteArray := prog_13_method_91_code
def yX4_bridge : MethodName := ⟨RX4, "bridge", "(I)Z"⟩
def dkwX4_bridge_2 : List UInt8 := [167, 0, 4, 3, 172]
abbrev dktX4_bridge_2 : List UInt8 := dkwX4_bridge_2 ++ []
def dkwX4_bridge_1 : List UInt8 := [16, 8, 42, 180, 0, 20, 27, 46, 104, 42, 180, 0, 23, 27, 46, 96, 46, 19, 1, 139, 161, 0, 7, 4]
abbrev dktX4_bridge_1 : List UInt8 := dkwX4_bridge_1 ++ dktX4_bridge_2
def dkwX4_bridge_0 : List UInt8 := [42, 3, 181, 0, 117, 42, 27, 182, 1, 121, 154, 0, 5, 3, 172, 42, 27, 182, 1, 140, 42, 180, 0, 87]
abbrev dktX4_bridge_0 : List UInt8 := dkwX4_bridge_0 ++ dktX4_bridge_1
theorem dksX4_bridge_0 : cX4_bridge.data.toList.drop 0 = dktX4_bridge_0 := by decide +kernel
theorem dksX4_bridge_1 : cX4_bridge.data.toList.drop 24 = dktX4_bridge_1 := dk_seg dksX4_bridge_0 24 rfl rfl
theorem dksX4_bridge_2 : cX4_bridge.data.toList.drop 48 = dktX4_bridge_2 := dk_seg dksX4_bridge_1 24 rfl rfl
theorem dX4_bridge_0 : decode cX4_bridge 0 = .ok (.aload_n 0, 1) := dk_42 (dk_at dksX4_bridge_0 0 rfl rfl)
theorem dX4_bridge_1 : decode cX4_bridge 1 = .ok (.iconst 0, 1) := dk_3 (dk_at dksX4_bridge_0 1 rfl rfl)
theorem dX4_bridge_2 : decode cX4_bridge 2 = .ok (.putfield 117, 3) := dk_181 0 117 (dk_at dksX4_bridge_0 2 rfl rfl)
theorem dX4_bridge_5 : decode cX4_bridge 5 = .ok (.aload_n 0, 1) := dk_42 (dk_at dksX4_bridge_0 5 rfl rfl)
theorem dX4_bridge_6 : decode cX4_bridge 6 = .ok (.iload_n 1, 1) := dk_27 (dk_at dksX4_bridge_0 6 rfl rfl)
theorem dX4_bridge_7 : decode cX4_bridge 7 = .ok (.invokevirtual 377, 3) := dk_182 1 121 (dk_at dksX4_bridge_0 7 rfl rfl)
theorem dX4_bridge_10 : decode cX4_bridge 10 = .ok (.ifCond .ne 5, 3) := dk_154 0 5 (dk_at dksX4_bridge_0 10 rfl rfl)
theorem dX4_bridge_13 : decode cX4_bridge 13 = .ok (.iconst 0, 1) := dk_3 (dk_at dksX4_bridge_0 13 rfl rfl)
theorem dX4_bridge_14 : decode cX4_bridge 14 = .ok (.ireturn, 1) := dk_172 (dk_at dksX4_bridge_0 14 rfl rfl)
theorem dX4_bridge_15 : decode cX4_bridge 15 = .ok (.aload_n 0, 1) := dk_42 (dk_at dksX4_bridge_0 15 rfl rfl)
theorem dX4_bridge_16 : decode cX4_bridge 16 = .ok (.iload_n 1, 1) := dk_27 (dk_at dksX4_bridge_0 16 rfl rfl)
theorem dX4_bridge_17 : decode cX4_bridge 17 = .ok (.invokevirtual 396, 3) := dk_182 1 140 (dk_at dksX4_bridge_0 17 rfl rfl)
theorem dX4_bridge_20 : decode cX4_bridge 20 = .ok (.aload_n 0, 1) := dk_42 (dk_at dksX4_bridge_0 20 rfl rfl)
theorem dX4_bridge_21 : decode cX4_bridge 21 = .ok (.getfield 87, 3) := dk_180 0 87 (dk_at dksX4_bridge_0 21 rfl rfl)
theorem dX4_bridge_24 : decode cX4_bridge 24 = .ok (.bipush 8, 2) := dk_16 8 (dk_at dksX4_bridge_1 0 rfl rfl)
theorem dX4_bridge_26 : decode cX4_bridge 26 = .ok (.aload_n 0, 1) := dk_42 (dk_at dksX4_bridge_1 2 rfl rfl)
theorem dX4_bridge_27 : decode cX4_bridge 27 = .ok (.getfield 20, 3) := dk_180 0 20 (dk_at dksX4_bridge_1 3 rfl rfl)
theorem dX4_bridge_30 : decode cX4_bridge 30 = .ok (.iload_n 1, 1) := dk_27 (dk_at dksX4_bridge_1 6 rfl rfl)
theorem dX4_bridge_31 : decode cX4_bridge 31 = .ok (.iaload, 1) := dk_46 (dk_at dksX4_bridge_1 7 rfl rfl)
theorem dX4_bridge_32 : decode cX4_bridge 32 = .ok (.imul, 1) := dk_104 (dk_at dksX4_bridge_1 8 rfl rfl)
theorem dX4_bridge_33 : decode cX4_bridge 33 = .ok (.aload_n 0, 1) := dk_42 (dk_at dksX4_bridge_1 9 rfl rfl)
theorem dX4_bridge_34 : decode cX4_bridge 34 = .ok (.getfield 23, 3) := dk_180 0 23 (dk_at dksX4_bridge_1 10 rfl rfl)
theorem dX4_bridge_37 : decode cX4_bridge 37 = .ok (.iload_n 1, 1) := dk_27 (dk_at dksX4_bridge_1 13 rfl rfl)
theorem dX4_bridge_38 : decode cX4_bridge 38 = .ok (.iaload, 1) := dk_46 (dk_at dksX4_bridge_1 14 rfl rfl)
theorem dX4_bridge_39 : decode cX4_bridge 39 = .ok (.iadd, 1) := dk_96 (dk_at dksX4_bridge_1 15 rfl rfl)
theorem dX4_bridge_40 : decode cX4_bridge 40 = .ok (.iaload, 1) := dk_46 (dk_at dksX4_bridge_1 16 rfl rfl)
theorem dX4_bridge_41 : decode cX4_bridge 41 = .ok (.ldc_w 395, 3) := dk_19 1 139 (dk_at dksX4_bridge_1 17 rfl rfl)
theorem dX4_bridge_44 : decode cX4_bridge 44 = .ok (.if_icmp .lt 7, 3) := dk_161 0 7 (dk_at dksX4_bridge_1 20 rfl rfl)
theorem dX4_bridge_47 : decode cX4_bridge 47 = .ok (.iconst 1, 1) := dk_4 (dk_at dksX4_bridge_1 23 rfl rfl)
theorem dX4_bridge_48 : decode cX4_bridge 48 = .ok (.goto 4, 3) := dk_167 0 4 (dk_at dksX4_bridge_2 0 rfl rfl)
theorem dX4_bridge_51 : decode cX4_bridge 51 = .ok (.iconst 0, 1) := dk_3 (dk_at dksX4_bridge_2 3 rfl rfl)
theorem dX4_bridge_52 : decode cX4_bridge 52 = .ok (.ireturn, 1) := dk_172 (dk_at dksX4_bridge_2 4 rfl rfl)
abbrev cX4_spoilt : ByteArray := prog_13_method_92_code
def yX4_spoilt : MethodName := ⟨RX4, "spoilt", "()I"⟩
def dkwX4_spoilt_4 : List UInt8 := [132, 2, 1, 167, 255, 169, 27, 172]
abbrev dktX4_spoilt_4 : List UInt8 := dkwX4_spoilt_4 ++ []
def dkwX4_spoilt_3 : List UInt8 := [16, 65, 28, 96, 46, 104, 100, 62, 27, 29, 157, 0, 9, 4, 28, 120, 167, 0, 4, 3, 128, 60]
abbrev dktX4_spoilt_3 : List UInt8 := dkwX4_spoilt_3 ++ dktX4_spoilt_4
def dkwX4_spoilt_2 : List UInt8 := [96, 46, 4, 160, 0, 7, 3, 167, 0, 22, 42, 180, 0, 75, 16, 75, 28, 96, 46, 42, 180, 0, 75]
abbrev dktX4_spoilt_2 : List UInt8 := dkwX4_spoilt_2 ++ dktX4_spoilt_3
def dkwX4_spoilt_1 : List UInt8 := [96, 46, 154, 0, 6, 167, 0, 64, 42, 180, 0, 75, 16, 25, 28, 96, 46, 42, 180, 0, 75, 16, 45, 28]
abbrev dktX4_spoilt_1 : List UInt8 := dkwX4_spoilt_1 ++ dktX4_spoilt_2
def dkwX4_spoilt_0 : List UInt8 := [42, 3, 181, 0, 117, 3, 60, 3, 61, 28, 42, 180, 1, 31, 162, 0, 85, 42, 180, 0, 75, 16, 65, 28]
abbrev dktX4_spoilt_0 : List UInt8 := dkwX4_spoilt_0 ++ dktX4_spoilt_1
theorem dksX4_spoilt_0 : cX4_spoilt.data.toList.drop 0 = dktX4_spoilt_0 := by decide +kernel
theorem dksX4_spoilt_1 : cX4_spoilt.data.toList.drop 24 = dktX4_spoilt_1 := dk_seg dksX4_spoilt_0 24 rfl rfl
theorem dksX4_spoilt_2 : cX4_spoilt.data.toList.drop 48 = dktX4_spoilt_2 := dk_seg dksX4_spoilt_1 24 rfl rfl
theorem dksX4_spoilt_3 : cX4_spoilt.data.toList.drop 71 = dktX4_spoilt_3 := dk_seg dksX4_spoilt_2 23 rfl rfl
theorem dksX4_spoilt_4 : cX4_spoilt.data.toList.drop 93 = dktX4_spoilt_4 := dk_seg dksX4_spoilt_3 22 rfl rfl
theorem dX4_spoilt_0 : decode cX4_spoilt 0 = .ok (.aload_n 0, 1) := dk_42 (dk_at dksX4_spoilt_0 0 rfl rfl)
theorem dX4_spoilt_1 : decode cX4_spoilt 1 = .ok (.iconst 0, 1) := dk_3 (dk_at dksX4_spoilt_0 1 rfl rfl)
theorem dX4_spoilt_2 : decode cX4_spoilt 2 = .ok (.putfield 117, 3) := dk_181 0 117 (dk_at dksX4_spoilt_0 2 rfl rfl)
theorem dX4_spoilt_5 : decode cX4_spoilt 5 = .ok (.iconst 0, 1) := dk_3 (dk_at dksX4_spoilt_0 5 rfl rfl)
theorem dX4_spoilt_6 : decode cX4_spoilt 6 = .ok (.istore_n 1, 1) := dk_60 (dk_at dksX4_spoilt_0 6 rfl rfl)
theorem dX4_spoilt_7 : decode cX4_spoilt 7 = .ok (.iconst 0, 1) := dk_3 (dk_at dksX4_spoilt_0 7 rfl rfl)
theorem dX4_spoilt_8 : decode cX4_spoilt 8 = .ok (.istore_n 2, 1) := dk_61 (dk_at dksX4_spoilt_0 8 rfl rfl)
theorem dX4_spoilt_9 : decode cX4_spoilt 9 = .ok (.iload_n 2, 1) := dk_28 (dk_at dksX4_spoilt_0 9 rfl rfl)
theorem dX4_spoilt_10 : decode cX4_spoilt 10 = .ok (.aload_n 0, 1) := dk_42 (dk_at dksX4_spoilt_0 10 rfl rfl)
theorem dX4_spoilt_11 : decode cX4_spoilt 11 = .ok (.getfield 287, 3) := dk_180 1 31 (dk_at dksX4_spoilt_0 11 rfl rfl)
theorem dX4_spoilt_14 : decode cX4_spoilt 14 = .ok (.if_icmp .ge 85, 3) := dk_162 0 85 (dk_at dksX4_spoilt_0 14 rfl rfl)
theorem dX4_spoilt_17 : decode cX4_spoilt 17 = .ok (.aload_n 0, 1) := dk_42 (dk_at dksX4_spoilt_0 17 rfl rfl)
theorem dX4_spoilt_18 : decode cX4_spoilt 18 = .ok (.getfield 75, 3) := dk_180 0 75 (dk_at dksX4_spoilt_0 18 rfl rfl)
theorem dX4_spoilt_21 : decode cX4_spoilt 21 = .ok (.bipush 65, 2) := dk_16 65 (dk_at dksX4_spoilt_0 21 rfl rfl)
theorem dX4_spoilt_23 : decode cX4_spoilt 23 = .ok (.iload_n 2, 1) := dk_28 (dk_at dksX4_spoilt_0 23 rfl rfl)
theorem dX4_spoilt_24 : decode cX4_spoilt 24 = .ok (.iadd, 1) := dk_96 (dk_at dksX4_spoilt_1 0 rfl rfl)
theorem dX4_spoilt_25 : decode cX4_spoilt 25 = .ok (.iaload, 1) := dk_46 (dk_at dksX4_spoilt_1 1 rfl rfl)
theorem dX4_spoilt_26 : decode cX4_spoilt 26 = .ok (.ifCond .ne 6, 3) := dk_154 0 6 (dk_at dksX4_spoilt_1 2 rfl rfl)
theorem dX4_spoilt_29 : decode cX4_spoilt 29 = .ok (.goto 64, 3) := dk_167 0 64 (dk_at dksX4_spoilt_1 5 rfl rfl)
theorem dX4_spoilt_32 : decode cX4_spoilt 32 = .ok (.aload_n 0, 1) := dk_42 (dk_at dksX4_spoilt_1 8 rfl rfl)
theorem dX4_spoilt_33 : decode cX4_spoilt 33 = .ok (.getfield 75, 3) := dk_180 0 75 (dk_at dksX4_spoilt_1 9 rfl rfl)
theorem dX4_spoilt_36 : decode cX4_spoilt 36 = .ok (.bipush 25, 2) := dk_16 25 (dk_at dksX4_spoilt_1 12 rfl rfl)
theorem dX4_spoilt_38 : decode cX4_spoilt 38 = .ok (.iload_n 2, 1) := dk_28 (dk_at dksX4_spoilt_1 14 rfl rfl)
theorem dX4_spoilt_39 : decode cX4_spoilt 39 = .ok (.iadd, 1) := dk_96 (dk_at dksX4_spoilt_1 15 rfl rfl)
theorem dX4_spoilt_40 : decode cX4_spoilt 40 = .ok (.iaload, 1) := dk_46 (dk_at dksX4_spoilt_1 16 rfl rfl)
theorem dX4_spoilt_41 : decode cX4_spoilt 41 = .ok (.aload_n 0, 1) := dk_42 (dk_at dksX4_spoilt_1 17 rfl rfl)
theorem dX4_spoilt_42 : decode cX4_spoilt 42 = .ok (.getfield 75, 3) := dk_180 0 75 (dk_at dksX4_spoilt_1 18 rfl rfl)
theorem dX4_spoilt_45 : decode cX4_spoilt 45 = .ok (.bipush 45, 2) := dk_16 45 (dk_at dksX4_spoilt_1 21 rfl rfl)
theorem dX4_spoilt_47 : decode cX4_spoilt 47 = .ok (.iload_n 2, 1) := dk_28 (dk_at dksX4_spoilt_1 23 rfl rfl)
theorem dX4_spoilt_48 : decode cX4_spoilt 48 = .ok (.iadd, 1) := dk_96 (dk_at dksX4_spoilt_2 0 rfl rfl)
theorem dX4_spoilt_49 : decode cX4_spoilt 49 = .ok (.iaload, 1) := dk_46 (dk_at dksX4_spoilt_2 1 rfl rfl)
theorem dX4_spoilt_50 : decode cX4_spoilt 50 = .ok (.iconst 1, 1) := dk_4 (dk_at dksX4_spoilt_2 2 rfl rfl)
theorem dX4_spoilt_51 : decode cX4_spoilt 51 = .ok (.if_icmp .ne 7, 3) := dk_160 0 7 (dk_at dksX4_spoilt_2 3 rfl rfl)
theorem dX4_spoilt_54 : decode cX4_spoilt 54 = .ok (.iconst 0, 1) := dk_3 (dk_at dksX4_spoilt_2 6 rfl rfl)
theorem dX4_spoilt_55 : decode cX4_spoilt 55 = .ok (.goto 22, 3) := dk_167 0 22 (dk_at dksX4_spoilt_2 7 rfl rfl)
theorem dX4_spoilt_58 : decode cX4_spoilt 58 = .ok (.aload_n 0, 1) := dk_42 (dk_at dksX4_spoilt_2 10 rfl rfl)
theorem dX4_spoilt_59 : decode cX4_spoilt 59 = .ok (.getfield 75, 3) := dk_180 0 75 (dk_at dksX4_spoilt_2 11 rfl rfl)
theorem dX4_spoilt_62 : decode cX4_spoilt 62 = .ok (.bipush 75, 2) := dk_16 75 (dk_at dksX4_spoilt_2 14 rfl rfl)
theorem dX4_spoilt_64 : decode cX4_spoilt 64 = .ok (.iload_n 2, 1) := dk_28 (dk_at dksX4_spoilt_2 16 rfl rfl)
theorem dX4_spoilt_65 : decode cX4_spoilt 65 = .ok (.iadd, 1) := dk_96 (dk_at dksX4_spoilt_2 17 rfl rfl)
theorem dX4_spoilt_66 : decode cX4_spoilt 66 = .ok (.iaload, 1) := dk_46 (dk_at dksX4_spoilt_2 18 rfl rfl)
theorem dX4_spoilt_67 : decode cX4_spoilt 67 = .ok (.aload_n 0, 1) := dk_42 (dk_at dksX4_spoilt_2 19 rfl rfl)
theorem dX4_spoilt_68 : decode cX4_spoilt 68 = .ok (.getfield 75, 3) := dk_180 0 75 (dk_at dksX4_spoilt_2 20 rfl rfl)
theorem dX4_spoilt_71 : decode cX4_spoilt 71 = .ok (.bipush 65, 2) := dk_16 65 (dk_at dksX4_spoilt_3 0 rfl rfl)
theorem dX4_spoilt_73 : decode cX4_spoilt 73 = .ok (.iload_n 2, 1) := dk_28 (dk_at dksX4_spoilt_3 2 rfl rfl)
theorem dX4_spoilt_74 : decode cX4_spoilt 74 = .ok (.iadd, 1) := dk_96 (dk_at dksX4_spoilt_3 3 rfl rfl)
theorem dX4_spoilt_75 : decode cX4_spoilt 75 = .ok (.iaload, 1) := dk_46 (dk_at dksX4_spoilt_3 4 rfl rfl)
theorem dX4_spoilt_76 : decode cX4_spoilt 76 = .ok (.imul, 1) := dk_104 (dk_at dksX4_spoilt_3 5 rfl rfl)
theorem dX4_spoilt_77 : decode cX4_spoilt 77 = .ok (.isub, 1) := dk_100 (dk_at dksX4_spoilt_3 6 rfl rfl)
theorem dX4_spoilt_78 : decode cX4_spoilt 78 = .ok (.istore_n 3, 1) := dk_62 (dk_at dksX4_spoilt_3 7 rfl rfl)
theorem dX4_spoilt_79 : decode cX4_spoilt 79 = .ok (.iload_n 1, 1) := dk_27 (dk_at dksX4_spoilt_3 8 rfl rfl)
theorem dX4_spoilt_80 : decode cX4_spoilt 80 = .ok (.iload_n 3, 1) := dk_29 (dk_at dksX4_spoilt_3 9 rfl rfl)
theorem dX4_spoilt_81 : decode cX4_spoilt 81 = .ok (.ifCond .gt 9, 3) := dk_157 0 9 (dk_at dksX4_spoilt_3 10 rfl rfl)
theorem dX4_spoilt_84 : decode cX4_spoilt 84 = .ok (.iconst 1, 1) := dk_4 (dk_at dksX4_spoilt_3 13 rfl rfl)
theorem dX4_spoilt_85 : decode cX4_spoilt 85 = .ok (.iload_n 2, 1) := dk_28 (dk_at dksX4_spoilt_3 14 rfl rfl)
theorem dX4_spoilt_86 : decode cX4_spoilt 86 = .ok (.ishl, 1) := dk_120 (dk_at dksX4_spoilt_3 15 rfl rfl)
theorem dX4_spoilt_87 : decode cX4_spoilt 87 = .ok (.goto 4, 3) := dk_167 0 4 (dk_at dksX4_spoilt_3 16 rfl rfl)
theorem dX4_spoilt_90 : decode cX4_spoilt 90 = .ok (.iconst 0, 1) := dk_3 (dk_at dksX4_spoilt_3 19 rfl rfl)
theorem dX4_spoilt_91 : decode cX4_spoilt 91 = .ok (.ior, 1) := dk_128 (dk_at dksX4_spoilt_3 20 rfl rfl)
theorem dX4_spoilt_92 : decode cX4_spoilt 92 = .ok (.istore_n 1, 1) := dk_60 (dk_at dksX4_spoilt_3 21 rfl rfl)
theorem dX4_spoilt_93 : decode cX4_spoilt 93 = .ok (.iinc 2 1, 3) := dk_132 2 1 (dk_at dksX4_spoilt_4 0 rfl rfl)
theorem dX4_spoilt_96 : decode cX4_spoilt 96 = .ok (.goto (-87), 3) := dk_167 255 169 (dk_at dksX4_spoilt_4 3 rfl rfl)
theorem dX4_spoilt_99 : decode cX4_spoilt 99 = .ok (.iload_n 1, 1) := dk_27 (dk_at dksX4_spoilt_4 6 rfl rfl)
theorem dX4_spoilt_100 : decode cX4_spoilt 100 = .ok (.ireturn, 1) := dk_172 (dk_at dksX4_spoilt_4 7 rfl rfl)
abbrev cX4_hold : ByteArray := prog_13_method_95_code
def yX4_hold : MethodName := ⟨RX4, "hold", "(II)I"⟩
def dkwX4_hold_12 : List UInt8 := [167, 255, 111, 21, 6, 172]
abbrev dktX4_hold_12 : List UInt8 := dkwX4_hold_12 ++ []
def dkwX4_hold_11 : List UInt8 := [21, 9, 182, 1, 152, 100, 54, 7, 21, 5, 4, 21, 9, 120, 128, 54, 5, 21, 9, 54, 6, 132, 8, 1]
abbrev dktX4_hold_11 : List UInt8 := dkwX4_hold_11 ++ dktX4_hold_12
def dkwX4_hold_10 : List UInt8 := [54, 9, 132, 10, 255, 167, 255, 170, 21, 7, 21, 6, 2, 160, 0, 7, 3, 167, 0, 11, 42, 21, 6]
abbrev dktX4_hold_10 : List UInt8 := dkwX4_hold_10 ++ dktX4_hold_11
def dkwX4_hold_9 : List UInt8 := [128, 104, 21, 10, 96, 46, 96, 54, 11, 21, 11, 21, 7, 160, 0, 8, 21, 10, 167, 0, 5, 21, 9]
abbrev dktX4_hold_9 : List UInt8 := dkwX4_hold_9 ++ dktX4_hold_10
def dkwX4_hold_8 : List UInt8 := [3, 167, 0, 11, 42, 21, 6, 21, 10, 182, 1, 152, 42, 180, 0, 93, 16, 10, 21, 5, 4, 21, 10, 120]
abbrev dktX4_hold_8 : List UInt8 := dkwX4_hold_8 ++ dktX4_hold_9
def dkwX4_hold_7 : List UInt8 := [126, 153, 0, 72, 21, 5, 21, 10, 122, 4, 126, 4, 160, 0, 6, 167, 0, 58, 21, 6, 2, 160, 0, 7]
abbrev dktX4_hold_7 : List UInt8 := dkwX4_hold_7 ++ dktX4_hold_8
def dkwX4_hold_6 : List UInt8 := [163, 0, 145, 2, 54, 9, 42, 180, 1, 31, 4, 100, 54, 10, 21, 10, 155, 0, 87, 29, 21, 10, 122, 4]
abbrev dktX4_hold_6 : List UInt8 := dkwX4_hold_6 ++ dktX4_hold_7
def dkwX4_hold_5 : List UInt8 := [3, 167, 0, 5, 21, 4, 172, 3, 54, 5, 2, 54, 6, 21, 4, 54, 7, 3, 54, 8, 21, 8, 28]
abbrev dktX4_hold_5 : List UInt8 := dkwX4_hold_5 ++ dktX4_hold_6
def dkwX4_hold_4 : List UInt8 := [21, 5, 96, 46, 184, 1, 67, 54, 4, 132, 5, 1, 167, 255, 212, 28, 2, 160, 0, 14, 29, 154, 0, 7]
abbrev dktX4_hold_4 : List UInt8 := dkwX4_hold_4 ++ dktX4_hold_5
def dkwX4_hold_3 : List UInt8 := [29, 21, 5, 122, 4, 126, 4, 160, 0, 25, 21, 4, 42, 180, 0, 93, 16, 10, 4, 21, 5, 120, 104]
abbrev dktX4_hold_3 : List UInt8 := dkwX4_hold_3 ++ dktX4_hold_4
def dkwX4_hold_2 : List UInt8 := [3, 172, 42, 29, 182, 1, 155, 19, 1, 139, 54, 4, 3, 54, 5, 21, 5, 42, 180, 1, 31, 162, 0, 41]
abbrev dktX4_hold_2 : List UInt8 := dkwX4_hold_2 ++ dktX4_hold_3
def dkwX4_hold_1 : List UInt8 := [2, 161, 0, 15, 28, 29, 184, 1, 61, 162, 0, 7, 4, 167, 0, 4, 3, 4, 182, 1, 18, 154, 0, 5]
abbrev dktX4_hold_1 : List UInt8 := dkwX4_hold_1 ++ dktX4_hold_2
def dkwX4_hold_0 : List UInt8 := [42, 3, 181, 0, 117, 42, 27, 182, 1, 106, 154, 0, 5, 3, 172, 42, 3, 27, 182, 1, 58, 62, 42, 28]
abbrev dktX4_hold_0 : List UInt8 := dkwX4_hold_0 ++ dktX4_hold_1
theorem dksX4_hold_0 : cX4_hold.data.toList.drop 0 = dktX4_hold_0 := by decide +kernel
theorem dksX4_hold_1 : cX4_hold.data.toList.drop 24 = dktX4_hold_1 := dk_seg dksX4_hold_0 24 rfl rfl
theorem dksX4_hold_2 : cX4_hold.data.toList.drop 48 = dktX4_hold_2 := dk_seg dksX4_hold_1 24 rfl rfl
theorem dksX4_hold_3 : cX4_hold.data.toList.drop 72 = dktX4_hold_3 := dk_seg dksX4_hold_2 24 rfl rfl
theorem dksX4_hold_4 : cX4_hold.data.toList.drop 95 = dktX4_hold_4 := dk_seg dksX4_hold_3 23 rfl rfl
theorem dksX4_hold_5 : cX4_hold.data.toList.drop 119 = dktX4_hold_5 := dk_seg dksX4_hold_4 24 rfl rfl
theorem dksX4_hold_6 : cX4_hold.data.toList.drop 142 = dktX4_hold_6 := dk_seg dksX4_hold_5 23 rfl rfl
theorem dksX4_hold_7 : cX4_hold.data.toList.drop 166 = dktX4_hold_7 := dk_seg dksX4_hold_6 24 rfl rfl
theorem dksX4_hold_8 : cX4_hold.data.toList.drop 190 = dktX4_hold_8 := dk_seg dksX4_hold_7 24 rfl rfl
theorem dksX4_hold_9 : cX4_hold.data.toList.drop 214 = dktX4_hold_9 := dk_seg dksX4_hold_8 24 rfl rfl
theorem dksX4_hold_10 : cX4_hold.data.toList.drop 237 = dktX4_hold_10 := dk_seg dksX4_hold_9 23 rfl rfl
theorem dksX4_hold_11 : cX4_hold.data.toList.drop 260 = dktX4_hold_11 := dk_seg dksX4_hold_10 23 rfl rfl
theorem dksX4_hold_12 : cX4_hold.data.toList.drop 284 = dktX4_hold_12 := dk_seg dksX4_hold_11 24 rfl rfl
theorem dX4_hold_0 : decode cX4_hold 0 = .ok (.aload_n 0, 1) := dk_42 (dk_at dksX4_hold_0 0 rfl rfl)
theorem dX4_hold_1 : decode cX4_hold 1 = .ok (.iconst 0, 1) := dk_3 (dk_at dksX4_hold_0 1 rfl rfl)
theorem dX4_hold_2 : decode cX4_hold 2 = .ok (.putfield 117, 3) := dk_181 0 117 (dk_at dksX4_hold_0 2 rfl rfl)
theorem dX4_hold_5 : decode cX4_hold 5 = .ok (.aload_n 0, 1) := dk_42 (dk_at dksX4_hold_0 5 rfl rfl)
theorem dX4_hold_6 : decode cX4_hold 6 = .ok (.iload_n 1, 1) := dk_27 (dk_at dksX4_hold_0 6 rfl rfl)
theorem dX4_hold_7 : decode cX4_hold 7 = .ok (.invokevirtual 362, 3) := dk_182 1 106 (dk_at dksX4_hold_0 7 rfl rfl)
theorem dX4_hold_10 : decode cX4_hold 10 = .ok (.ifCond .ne 5, 3) := dk_154 0 5 (dk_at dksX4_hold_0 10 rfl rfl)
theorem dX4_hold_13 : decode cX4_hold 13 = .ok (.iconst 0, 1) := dk_3 (dk_at dksX4_hold_0 13 rfl rfl)
theorem dX4_hold_14 : decode cX4_hold 14 = .ok (.ireturn, 1) := dk_172 (dk_at dksX4_hold_0 14 rfl rfl)
theorem dX4_hold_15 : decode cX4_hold 15 = .ok (.aload_n 0, 1) := dk_42 (dk_at dksX4_hold_0 15 rfl rfl)
theorem dX4_hold_16 : decode cX4_hold 16 = .ok (.iconst 0, 1) := dk_3 (dk_at dksX4_hold_0 16 rfl rfl)
theorem dX4_hold_17 : decode cX4_hold 17 = .ok (.iload_n 1, 1) := dk_27 (dk_at dksX4_hold_0 17 rfl rfl)
theorem dX4_hold_18 : decode cX4_hold 18 = .ok (.invokevirtual 314, 3) := dk_182 1 58 (dk_at dksX4_hold_0 18 rfl rfl)
theorem dX4_hold_21 : decode cX4_hold 21 = .ok (.istore_n 3, 1) := dk_62 (dk_at dksX4_hold_0 21 rfl rfl)
theorem dX4_hold_22 : decode cX4_hold 22 = .ok (.aload_n 0, 1) := dk_42 (dk_at dksX4_hold_0 22 rfl rfl)
theorem dX4_hold_23 : decode cX4_hold 23 = .ok (.iload_n 2, 1) := dk_28 (dk_at dksX4_hold_0 23 rfl rfl)
theorem dX4_hold_24 : decode cX4_hold 24 = .ok (.iconst (-1), 1) := dk_2 (dk_at dksX4_hold_1 0 rfl rfl)
theorem dX4_hold_25 : decode cX4_hold 25 = .ok (.if_icmp .lt 15, 3) := dk_161 0 15 (dk_at dksX4_hold_1 1 rfl rfl)
theorem dX4_hold_28 : decode cX4_hold 28 = .ok (.iload_n 2, 1) := dk_28 (dk_at dksX4_hold_1 4 rfl rfl)
theorem dX4_hold_29 : decode cX4_hold 29 = .ok (.iload_n 3, 1) := dk_29 (dk_at dksX4_hold_1 5 rfl rfl)
theorem dX4_hold_30 : decode cX4_hold 30 = .ok (.invokestatic 317, 3) := dk_184 1 61 (dk_at dksX4_hold_1 6 rfl rfl)
theorem dX4_hold_33 : decode cX4_hold 33 = .ok (.if_icmp .ge 7, 3) := dk_162 0 7 (dk_at dksX4_hold_1 9 rfl rfl)
theorem dX4_hold_36 : decode cX4_hold 36 = .ok (.iconst 1, 1) := dk_4 (dk_at dksX4_hold_1 12 rfl rfl)
theorem dX4_hold_37 : decode cX4_hold 37 = .ok (.goto 4, 3) := dk_167 0 4 (dk_at dksX4_hold_1 13 rfl rfl)
theorem dX4_hold_40 : decode cX4_hold 40 = .ok (.iconst 0, 1) := dk_3 (dk_at dksX4_hold_1 16 rfl rfl)
theorem dX4_hold_41 : decode cX4_hold 41 = .ok (.iconst 1, 1) := dk_4 (dk_at dksX4_hold_1 17 rfl rfl)
theorem dX4_hold_42 : decode cX4_hold 42 = .ok (.invokevirtual 274, 3) := dk_182 1 18 (dk_at dksX4_hold_1 18 rfl rfl)
theorem dX4_hold_45 : decode cX4_hold 45 = .ok (.ifCond .ne 5, 3) := dk_154 0 5 (dk_at dksX4_hold_1 21 rfl rfl)
theorem dX4_hold_48 : decode cX4_hold 48 = .ok (.iconst 0, 1) := dk_3 (dk_at dksX4_hold_2 0 rfl rfl)
theorem dX4_hold_49 : decode cX4_hold 49 = .ok (.ireturn, 1) := dk_172 (dk_at dksX4_hold_2 1 rfl rfl)
theorem dX4_hold_50 : decode cX4_hold 50 = .ok (.aload_n 0, 1) := dk_42 (dk_at dksX4_hold_2 2 rfl rfl)
theorem dX4_hold_51 : decode cX4_hold 51 = .ok (.iload_n 3, 1) := dk_29 (dk_at dksX4_hold_2 3 rfl rfl)
theorem dX4_hold_52 : decode cX4_hold 52 = .ok (.invokevirtual 411, 3) := dk_182 1 155 (dk_at dksX4_hold_2 4 rfl rfl)
theorem dX4_hold_55 : decode cX4_hold 55 = .ok (.ldc_w 395, 3) := dk_19 1 139 (dk_at dksX4_hold_2 7 rfl rfl)
theorem dX4_hold_58 : decode cX4_hold 58 = .ok (.istore 4, 2) := dk_54 4 (dk_at dksX4_hold_2 10 rfl rfl)
theorem dX4_hold_60 : decode cX4_hold 60 = .ok (.iconst 0, 1) := dk_3 (dk_at dksX4_hold_2 12 rfl rfl)
theorem dX4_hold_61 : decode cX4_hold 61 = .ok (.istore 5, 2) := dk_54 5 (dk_at dksX4_hold_2 13 rfl rfl)
theorem dX4_hold_63 : decode cX4_hold 63 = .ok (.iload 5, 2) := dk_21 5 (dk_at dksX4_hold_2 15 rfl rfl)
theorem dX4_hold_65 : decode cX4_hold 65 = .ok (.aload_n 0, 1) := dk_42 (dk_at dksX4_hold_2 17 rfl rfl)
theorem dX4_hold_66 : decode cX4_hold 66 = .ok (.getfield 287, 3) := dk_180 1 31 (dk_at dksX4_hold_2 18 rfl rfl)
theorem dX4_hold_69 : decode cX4_hold 69 = .ok (.if_icmp .ge 41, 3) := dk_162 0 41 (dk_at dksX4_hold_2 21 rfl rfl)
theorem dX4_hold_72 : decode cX4_hold 72 = .ok (.iload_n 3, 1) := dk_29 (dk_at dksX4_hold_3 0 rfl rfl)
theorem dX4_hold_73 : decode cX4_hold 73 = .ok (.iload 5, 2) := dk_21 5 (dk_at dksX4_hold_3 1 rfl rfl)
theorem dX4_hold_75 : decode cX4_hold 75 = .ok (.ishr, 1) := dk_122 (dk_at dksX4_hold_3 3 rfl rfl)
theorem dX4_hold_76 : decode cX4_hold 76 = .ok (.iconst 1, 1) := dk_4 (dk_at dksX4_hold_3 4 rfl rfl)
theorem dX4_hold_77 : decode cX4_hold 77 = .ok (.iand, 1) := dk_126 (dk_at dksX4_hold_3 5 rfl rfl)
theorem dX4_hold_78 : decode cX4_hold 78 = .ok (.iconst 1, 1) := dk_4 (dk_at dksX4_hold_3 6 rfl rfl)
theorem dX4_hold_79 : decode cX4_hold 79 = .ok (.if_icmp .ne 25, 3) := dk_160 0 25 (dk_at dksX4_hold_3 7 rfl rfl)
theorem dX4_hold_82 : decode cX4_hold 82 = .ok (.iload 4, 2) := dk_21 4 (dk_at dksX4_hold_3 10 rfl rfl)
theorem dX4_hold_84 : decode cX4_hold 84 = .ok (.aload_n 0, 1) := dk_42 (dk_at dksX4_hold_3 12 rfl rfl)
theorem dX4_hold_85 : decode cX4_hold 85 = .ok (.getfield 93, 3) := dk_180 0 93 (dk_at dksX4_hold_3 13 rfl rfl)
theorem dX4_hold_88 : decode cX4_hold 88 = .ok (.bipush 10, 2) := dk_16 10 (dk_at dksX4_hold_3 16 rfl rfl)
theorem dX4_hold_90 : decode cX4_hold 90 = .ok (.iconst 1, 1) := dk_4 (dk_at dksX4_hold_3 18 rfl rfl)
theorem dX4_hold_91 : decode cX4_hold 91 = .ok (.iload 5, 2) := dk_21 5 (dk_at dksX4_hold_3 19 rfl rfl)
theorem dX4_hold_93 : decode cX4_hold 93 = .ok (.ishl, 1) := dk_120 (dk_at dksX4_hold_3 21 rfl rfl)
theorem dX4_hold_94 : decode cX4_hold 94 = .ok (.imul, 1) := dk_104 (dk_at dksX4_hold_3 22 rfl rfl)
theorem dX4_hold_95 : decode cX4_hold 95 = .ok (.iload 5, 2) := dk_21 5 (dk_at dksX4_hold_4 0 rfl rfl)
theorem dX4_hold_97 : decode cX4_hold 97 = .ok (.iadd, 1) := dk_96 (dk_at dksX4_hold_4 2 rfl rfl)
theorem dX4_hold_98 : decode cX4_hold 98 = .ok (.iaload, 1) := dk_46 (dk_at dksX4_hold_4 3 rfl rfl)
theorem dX4_hold_99 : decode cX4_hold 99 = .ok (.invokestatic 323, 3) := dk_184 1 67 (dk_at dksX4_hold_4 4 rfl rfl)
theorem dX4_hold_102 : decode cX4_hold 102 = .ok (.istore 4, 2) := dk_54 4 (dk_at dksX4_hold_4 7 rfl rfl)
theorem dX4_hold_104 : decode cX4_hold 104 = .ok (.iinc 5 1, 3) := dk_132 5 1 (dk_at dksX4_hold_4 9 rfl rfl)
theorem dX4_hold_107 : decode cX4_hold 107 = .ok (.goto (-44), 3) := dk_167 255 212 (dk_at dksX4_hold_4 12 rfl rfl)
theorem dX4_hold_110 : decode cX4_hold 110 = .ok (.iload_n 2, 1) := dk_28 (dk_at dksX4_hold_4 15 rfl rfl)
theorem dX4_hold_111 : decode cX4_hold 111 = .ok (.iconst (-1), 1) := dk_2 (dk_at dksX4_hold_4 16 rfl rfl)
theorem dX4_hold_112 : decode cX4_hold 112 = .ok (.if_icmp .ne 14, 3) := dk_160 0 14 (dk_at dksX4_hold_4 17 rfl rfl)
theorem dX4_hold_115 : decode cX4_hold 115 = .ok (.iload_n 3, 1) := dk_29 (dk_at dksX4_hold_4 20 rfl rfl)
theorem dX4_hold_116 : decode cX4_hold 116 = .ok (.ifCond .ne 7, 3) := dk_154 0 7 (dk_at dksX4_hold_4 21 rfl rfl)
theorem dX4_hold_119 : decode cX4_hold 119 = .ok (.iconst 0, 1) := dk_3 (dk_at dksX4_hold_5 0 rfl rfl)
theorem dX4_hold_120 : decode cX4_hold 120 = .ok (.goto 5, 3) := dk_167 0 5 (dk_at dksX4_hold_5 1 rfl rfl)
theorem dX4_hold_123 : decode cX4_hold 123 = .ok (.iload 4, 2) := dk_21 4 (dk_at dksX4_hold_5 4 rfl rfl)
theorem dX4_hold_125 : decode cX4_hold 125 = .ok (.ireturn, 1) := dk_172 (dk_at dksX4_hold_5 6 rfl rfl)
theorem dX4_hold_126 : decode cX4_hold 126 = .ok (.iconst 0, 1) := dk_3 (dk_at dksX4_hold_5 7 rfl rfl)
theorem dX4_hold_127 : decode cX4_hold 127 = .ok (.istore 5, 2) := dk_54 5 (dk_at dksX4_hold_5 8 rfl rfl)
theorem dX4_hold_129 : decode cX4_hold 129 = .ok (.iconst (-1), 1) := dk_2 (dk_at dksX4_hold_5 10 rfl rfl)
theorem dX4_hold_130 : decode cX4_hold 130 = .ok (.istore 6, 2) := dk_54 6 (dk_at dksX4_hold_5 11 rfl rfl)
theorem dX4_hold_132 : decode cX4_hold 132 = .ok (.iload 4, 2) := dk_21 4 (dk_at dksX4_hold_5 13 rfl rfl)
theorem dX4_hold_134 : decode cX4_hold 134 = .ok (.istore 7, 2) := dk_54 7 (dk_at dksX4_hold_5 15 rfl rfl)
theorem dX4_hold_136 : decode cX4_hold 136 = .ok (.iconst 0, 1) := dk_3 (dk_at dksX4_hold_5 17 rfl rfl)
theorem dX4_hold_137 : decode cX4_hold 137 = .ok (.istore 8, 2) := dk_54 8 (dk_at dksX4_hold_5 18 rfl rfl)
theorem dX4_hold_139 : decode cX4_hold 139 = .ok (.iload 8, 2) := dk_21 8 (dk_at dksX4_hold_5 20 rfl rfl)
theorem dX4_hold_141 : decode cX4_hold 141 = .ok (.iload_n 2, 1) := dk_28 (dk_at dksX4_hold_5 22 rfl rfl)
theorem dX4_hold_142 : decode cX4_hold 142 = .ok (.if_icmp .gt 145, 3) := dk_163 0 145 (dk_at dksX4_hold_6 0 rfl rfl)
theorem dX4_hold_145 : decode cX4_hold 145 = .ok (.iconst (-1), 1) := dk_2 (dk_at dksX4_hold_6 3 rfl rfl)
theorem dX4_hold_146 : decode cX4_hold 146 = .ok (.istore 9, 2) := dk_54 9 (dk_at dksX4_hold_6 4 rfl rfl)
theorem dX4_hold_148 : decode cX4_hold 148 = .ok (.aload_n 0, 1) := dk_42 (dk_at dksX4_hold_6 6 rfl rfl)
theorem dX4_hold_149 : decode cX4_hold 149 = .ok (.getfield 287, 3) := dk_180 1 31 (dk_at dksX4_hold_6 7 rfl rfl)
theorem dX4_hold_152 : decode cX4_hold 152 = .ok (.iconst 1, 1) := dk_4 (dk_at dksX4_hold_6 10 rfl rfl)
theorem dX4_hold_153 : decode cX4_hold 153 = .ok (.isub, 1) := dk_100 (dk_at dksX4_hold_6 11 rfl rfl)
theorem dX4_hold_154 : decode cX4_hold 154 = .ok (.istore 10, 2) := dk_54 10 (dk_at dksX4_hold_6 12 rfl rfl)
theorem dX4_hold_156 : decode cX4_hold 156 = .ok (.iload 10, 2) := dk_21 10 (dk_at dksX4_hold_6 14 rfl rfl)
theorem dX4_hold_158 : decode cX4_hold 158 = .ok (.ifCond .lt 87, 3) := dk_155 0 87 (dk_at dksX4_hold_6 16 rfl rfl)
theorem dX4_hold_161 : decode cX4_hold 161 = .ok (.iload_n 3, 1) := dk_29 (dk_at dksX4_hold_6 19 rfl rfl)
theorem dX4_hold_162 : decode cX4_hold 162 = .ok (.iload 10, 2) := dk_21 10 (dk_at dksX4_hold_6 20 rfl rfl)
theorem dX4_hold_164 : decode cX4_hold 164 = .ok (.ishr, 1) := dk_122 (dk_at dksX4_hold_6 22 rfl rfl)
theorem dX4_hold_165 : decode cX4_hold 165 = .ok (.iconst 1, 1) := dk_4 (dk_at dksX4_hold_6 23 rfl rfl)
theorem dX4_hold_166 : decode cX4_hold 166 = .ok (.iand, 1) := dk_126 (dk_at dksX4_hold_7 0 rfl rfl)
theorem dX4_hold_167 : decode cX4_hold 167 = .ok (.ifCond .eq 72, 3) := dk_153 0 72 (dk_at dksX4_hold_7 1 rfl rfl)
theorem dX4_hold_170 : decode cX4_hold 170 = .ok (.iload 5, 2) := dk_21 5 (dk_at dksX4_hold_7 4 rfl rfl)
theorem dX4_hold_172 : decode cX4_hold 172 = .ok (.iload 10, 2) := dk_21 10 (dk_at dksX4_hold_7 6 rfl rfl)
theorem dX4_hold_174 : decode cX4_hold 174 = .ok (.ishr, 1) := dk_122 (dk_at dksX4_hold_7 8 rfl rfl)
theorem dX4_hold_175 : decode cX4_hold 175 = .ok (.iconst 1, 1) := dk_4 (dk_at dksX4_hold_7 9 rfl rfl)
theorem dX4_hold_176 : decode cX4_hold 176 = .ok (.iand, 1) := dk_126 (dk_at dksX4_hold_7 10 rfl rfl)
theorem dX4_hold_177 : decode cX4_hold 177 = .ok (.iconst 1, 1) := dk_4 (dk_at dksX4_hold_7 11 rfl rfl)
theorem dX4_hold_178 : decode cX4_hold 178 = .ok (.if_icmp .ne 6, 3) := dk_160 0 6 (dk_at dksX4_hold_7 12 rfl rfl)
theorem dX4_hold_181 : decode cX4_hold 181 = .ok (.goto 58, 3) := dk_167 0 58 (dk_at dksX4_hold_7 15 rfl rfl)
theorem dX4_hold_184 : decode cX4_hold 184 = .ok (.iload 6, 2) := dk_21 6 (dk_at dksX4_hold_7 18 rfl rfl)
theorem dX4_hold_186 : decode cX4_hold 186 = .ok (.iconst (-1), 1) := dk_2 (dk_at dksX4_hold_7 20 rfl rfl)
theorem dX4_hold_187 : decode cX4_hold 187 = .ok (.if_icmp .ne 7, 3) := dk_160 0 7 (dk_at dksX4_hold_7 21 rfl rfl)
theorem dX4_hold_190 : decode cX4_hold 190 = .ok (.iconst 0, 1) := dk_3 (dk_at dksX4_hold_8 0 rfl rfl)
theorem dX4_hold_191 : decode cX4_hold 191 = .ok (.goto 11, 3) := dk_167 0 11 (dk_at dksX4_hold_8 1 rfl rfl)
theorem dX4_hold_194 : decode cX4_hold 194 = .ok (.aload_n 0, 1) := dk_42 (dk_at dksX4_hold_8 4 rfl rfl)
theorem dX4_hold_195 : decode cX4_hold 195 = .ok (.iload 6, 2) := dk_21 6 (dk_at dksX4_hold_8 5 rfl rfl)
theorem dX4_hold_197 : decode cX4_hold 197 = .ok (.iload 10, 2) := dk_21 10 (dk_at dksX4_hold_8 7 rfl rfl)
theorem dX4_hold_199 : decode cX4_hold 199 = .ok (.invokevirtual 408, 3) := dk_182 1 152 (dk_at dksX4_hold_8 9 rfl rfl)
theorem dX4_hold_202 : decode cX4_hold 202 = .ok (.aload_n 0, 1) := dk_42 (dk_at dksX4_hold_8 12 rfl rfl)
theorem dX4_hold_203 : decode cX4_hold 203 = .ok (.getfield 93, 3) := dk_180 0 93 (dk_at dksX4_hold_8 13 rfl rfl)
theorem dX4_hold_206 : decode cX4_hold 206 = .ok (.bipush 10, 2) := dk_16 10 (dk_at dksX4_hold_8 16 rfl rfl)
theorem dX4_hold_208 : decode cX4_hold 208 = .ok (.iload 5, 2) := dk_21 5 (dk_at dksX4_hold_8 18 rfl rfl)
theorem dX4_hold_210 : decode cX4_hold 210 = .ok (.iconst 1, 1) := dk_4 (dk_at dksX4_hold_8 20 rfl rfl)
theorem dX4_hold_211 : decode cX4_hold 211 = .ok (.iload 10, 2) := dk_21 10 (dk_at dksX4_hold_8 21 rfl rfl)
theorem dX4_hold_213 : decode cX4_hold 213 = .ok (.ishl, 1) := dk_120 (dk_at dksX4_hold_8 23 rfl rfl)
theorem dX4_hold_214 : decode cX4_hold 214 = .ok (.ior, 1) := dk_128 (dk_at dksX4_hold_9 0 rfl rfl)
theorem dX4_hold_215 : decode cX4_hold 215 = .ok (.imul, 1) := dk_104 (dk_at dksX4_hold_9 1 rfl rfl)
theorem dX4_hold_216 : decode cX4_hold 216 = .ok (.iload 10, 2) := dk_21 10 (dk_at dksX4_hold_9 2 rfl rfl)
theorem dX4_hold_218 : decode cX4_hold 218 = .ok (.iadd, 1) := dk_96 (dk_at dksX4_hold_9 4 rfl rfl)
theorem dX4_hold_219 : decode cX4_hold 219 = .ok (.iaload, 1) := dk_46 (dk_at dksX4_hold_9 5 rfl rfl)
theorem dX4_hold_220 : decode cX4_hold 220 = .ok (.iadd, 1) := dk_96 (dk_at dksX4_hold_9 6 rfl rfl)
theorem dX4_hold_221 : decode cX4_hold 221 = .ok (.istore 11, 2) := dk_54 11 (dk_at dksX4_hold_9 7 rfl rfl)
theorem dX4_hold_223 : decode cX4_hold 223 = .ok (.iload 11, 2) := dk_21 11 (dk_at dksX4_hold_9 9 rfl rfl)
theorem dX4_hold_225 : decode cX4_hold 225 = .ok (.iload 7, 2) := dk_21 7 (dk_at dksX4_hold_9 11 rfl rfl)
theorem dX4_hold_227 : decode cX4_hold 227 = .ok (.if_icmp .ne 8, 3) := dk_160 0 8 (dk_at dksX4_hold_9 13 rfl rfl)
theorem dX4_hold_230 : decode cX4_hold 230 = .ok (.iload 10, 2) := dk_21 10 (dk_at dksX4_hold_9 16 rfl rfl)
theorem dX4_hold_232 : decode cX4_hold 232 = .ok (.goto 5, 3) := dk_167 0 5 (dk_at dksX4_hold_9 18 rfl rfl)
theorem dX4_hold_235 : decode cX4_hold 235 = .ok (.iload 9, 2) := dk_21 9 (dk_at dksX4_hold_9 21 rfl rfl)
theorem dX4_hold_237 : decode cX4_hold 237 = .ok (.istore 9, 2) := dk_54 9 (dk_at dksX4_hold_10 0 rfl rfl)
theorem dX4_hold_239 : decode cX4_hold 239 = .ok (.iinc 10 (-1), 3) := dk_132 10 255 (dk_at dksX4_hold_10 2 rfl rfl)
theorem dX4_hold_242 : decode cX4_hold 242 = .ok (.goto (-86), 3) := dk_167 255 170 (dk_at dksX4_hold_10 5 rfl rfl)
theorem dX4_hold_245 : decode cX4_hold 245 = .ok (.iload 7, 2) := dk_21 7 (dk_at dksX4_hold_10 8 rfl rfl)
theorem dX4_hold_247 : decode cX4_hold 247 = .ok (.iload 6, 2) := dk_21 6 (dk_at dksX4_hold_10 10 rfl rfl)
theorem dX4_hold_249 : decode cX4_hold 249 = .ok (.iconst (-1), 1) := dk_2 (dk_at dksX4_hold_10 12 rfl rfl)
theorem dX4_hold_250 : decode cX4_hold 250 = .ok (.if_icmp .ne 7, 3) := dk_160 0 7 (dk_at dksX4_hold_10 13 rfl rfl)
theorem dX4_hold_253 : decode cX4_hold 253 = .ok (.iconst 0, 1) := dk_3 (dk_at dksX4_hold_10 16 rfl rfl)
theorem dX4_hold_254 : decode cX4_hold 254 = .ok (.goto 11, 3) := dk_167 0 11 (dk_at dksX4_hold_10 17 rfl rfl)
theorem dX4_hold_257 : decode cX4_hold 257 = .ok (.aload_n 0, 1) := dk_42 (dk_at dksX4_hold_10 20 rfl rfl)
theorem dX4_hold_258 : decode cX4_hold 258 = .ok (.iload 6, 2) := dk_21 6 (dk_at dksX4_hold_10 21 rfl rfl)
theorem dX4_hold_260 : decode cX4_hold 260 = .ok (.iload 9, 2) := dk_21 9 (dk_at dksX4_hold_11 0 rfl rfl)
theorem dX4_hold_262 : decode cX4_hold 262 = .ok (.invokevirtual 408, 3) := dk_182 1 152 (dk_at dksX4_hold_11 2 rfl rfl)
theorem dX4_hold_265 : decode cX4_hold 265 = .ok (.isub, 1) := dk_100 (dk_at dksX4_hold_11 5 rfl rfl)
theorem dX4_hold_266 : decode cX4_hold 266 = .ok (.istore 7, 2) := dk_54 7 (dk_at dksX4_hold_11 6 rfl rfl)
theorem dX4_hold_268 : decode cX4_hold 268 = .ok (.iload 5, 2) := dk_21 5 (dk_at dksX4_hold_11 8 rfl rfl)
theorem dX4_hold_270 : decode cX4_hold 270 = .ok (.iconst 1, 1) := dk_4 (dk_at dksX4_hold_11 10 rfl rfl)
theorem dX4_hold_271 : decode cX4_hold 271 = .ok (.iload 9, 2) := dk_21 9 (dk_at dksX4_hold_11 11 rfl rfl)
theorem dX4_hold_273 : decode cX4_hold 273 = .ok (.ishl, 1) := dk_120 (dk_at dksX4_hold_11 13 rfl rfl)
theorem dX4_hold_274 : decode cX4_hold 274 = .ok (.ior, 1) := dk_128 (dk_at dksX4_hold_11 14 rfl rfl)
theorem dX4_hold_275 : decode cX4_hold 275 = .ok (.istore 5, 2) := dk_54 5 (dk_at dksX4_hold_11 15 rfl rfl)
theorem dX4_hold_277 : decode cX4_hold 277 = .ok (.iload 9, 2) := dk_21 9 (dk_at dksX4_hold_11 17 rfl rfl)
theorem dX4_hold_279 : decode cX4_hold 279 = .ok (.istore 6, 2) := dk_54 6 (dk_at dksX4_hold_11 19 rfl rfl)
theorem dX4_hold_281 : decode cX4_hold 281 = .ok (.iinc 8 1, 3) := dk_132 8 1 (dk_at dksX4_hold_11 21 rfl rfl)
theorem dX4_hold_284 : decode cX4_hold 284 = .ok (.goto (-145), 3) := dk_167 255 111 (dk_at dksX4_hold_12 0 rfl rfl)
theorem dX4_hold_287 : decode cX4_hold 287 = .ok (.iload 6, 2) := dk_21 6 (dk_at dksX4_hold_12 3 rfl rfl)
theorem dX4_hold_289 : decode cX4_hold 289 = .ok (.ireturn, 1) := dk_172 (dk_at dksX4_hold_12 5 rfl rfl)
abbrev cX4_laysHold : ByteArray := prog_13_method_94_code
def yX4_laysHold : MethodName := ⟨RX4, "laysHold", "(I)V"⟩
def dkwX4_laysHold_6 : List UInt8 := [177]
abbrev dktX4_laysHold_6 : List UInt8 := dkwX4_laysHold_6 ++ []
def dkwX4_laysHold_5 : List UInt8 := [180, 0, 93, 16, 10, 28, 104, 29, 96, 21, 4, 79, 132, 3, 1, 167, 255, 146, 132, 2, 255, 167, 255, 123]
abbrev dktX4_laysHold_5 : List UInt8 := dkwX4_laysHold_5 ++ dktX4_laysHold_6
def dkwX4_laysHold_4 : List UInt8 := [21, 5, 120, 128, 104, 21, 5, 96, 46, 96, 184, 1, 67, 54, 4, 132, 5, 1, 167, 255, 190, 42]
abbrev dktX4_laysHold_4 : List UInt8 := dkwX4_laysHold_4 ++ dktX4_laysHold_5
def dkwX4_laysHold_3 : List UInt8 := [160, 0, 6, 167, 0, 35, 21, 4, 42, 29, 21, 5, 182, 1, 152, 42, 180, 0, 93, 16, 10, 28, 4]
abbrev dktX4_laysHold_3 : List UInt8 := dkwX4_laysHold_3 ++ dktX4_laysHold_4
def dkwX4_laysHold_2 : List UInt8 := [180, 1, 31, 162, 0, 63, 27, 21, 5, 122, 4, 126, 153, 0, 48, 28, 21, 5, 122, 4, 126, 4]
abbrev dktX4_laysHold_2 : List UInt8 := dkwX4_laysHold_2 ++ dktX4_laysHold_3
def dkwX4_laysHold_1 : List UInt8 := [162, 0, 108, 28, 27, 160, 0, 7, 3, 167, 0, 6, 19, 1, 139, 54, 4, 3, 54, 5, 21, 5, 42]
abbrev dktX4_laysHold_1 : List UInt8 := dkwX4_laysHold_1 ++ dktX4_laysHold_2
def dkwX4_laysHold_0 : List UInt8 := [27, 61, 28, 158, 0, 135, 28, 27, 2, 130, 126, 153, 0, 6, 167, 0, 118, 3, 62, 29, 42, 180, 1, 31]
abbrev dktX4_laysHold_0 : List UInt8 := dkwX4_laysHold_0 ++ dktX4_laysHold_1
theorem dksX4_laysHold_0 : cX4_laysHold.data.toList.drop 0 = dktX4_laysHold_0 := by decide +kernel
theorem dksX4_laysHold_1 : cX4_laysHold.data.toList.drop 24 = dktX4_laysHold_1 := dk_seg dksX4_laysHold_0 24 rfl rfl
theorem dksX4_laysHold_2 : cX4_laysHold.data.toList.drop 47 = dktX4_laysHold_2 := dk_seg dksX4_laysHold_1 23 rfl rfl
theorem dksX4_laysHold_3 : cX4_laysHold.data.toList.drop 69 = dktX4_laysHold_3 := dk_seg dksX4_laysHold_2 22 rfl rfl
theorem dksX4_laysHold_4 : cX4_laysHold.data.toList.drop 92 = dktX4_laysHold_4 := dk_seg dksX4_laysHold_3 23 rfl rfl
theorem dksX4_laysHold_5 : cX4_laysHold.data.toList.drop 114 = dktX4_laysHold_5 := dk_seg dksX4_laysHold_4 22 rfl rfl
theorem dksX4_laysHold_6 : cX4_laysHold.data.toList.drop 138 = dktX4_laysHold_6 := dk_seg dksX4_laysHold_5 24 rfl rfl
theorem dX4_laysHold_0 : decode cX4_laysHold 0 = .ok (.iload_n 1, 1) := dk_27 (dk_at dksX4_laysHold_0 0 rfl rfl)
theorem dX4_laysHold_1 : decode cX4_laysHold 1 = .ok (.istore_n 2, 1) := dk_61 (dk_at dksX4_laysHold_0 1 rfl rfl)
theorem dX4_laysHold_2 : decode cX4_laysHold 2 = .ok (.iload_n 2, 1) := dk_28 (dk_at dksX4_laysHold_0 2 rfl rfl)
theorem dX4_laysHold_3 : decode cX4_laysHold 3 = .ok (.ifCond .le 135, 3) := dk_158 0 135 (dk_at dksX4_laysHold_0 3 rfl rfl)
theorem dX4_laysHold_6 : decode cX4_laysHold 6 = .ok (.iload_n 2, 1) := dk_28 (dk_at dksX4_laysHold_0 6 rfl rfl)
theorem dX4_laysHold_7 : decode cX4_laysHold 7 = .ok (.iload_n 1, 1) := dk_27 (dk_at dksX4_laysHold_0 7 rfl rfl)
theorem dX4_laysHold_8 : decode cX4_laysHold 8 = .ok (.iconst (-1), 1) := dk_2 (dk_at dksX4_laysHold_0 8 rfl rfl)
theorem dX4_laysHold_9 : decode cX4_laysHold 9 = .ok (.ixor, 1) := dk_130 (dk_at dksX4_laysHold_0 9 rfl rfl)
theorem dX4_laysHold_10 : decode cX4_laysHold 10 = .ok (.iand, 1) := dk_126 (dk_at dksX4_laysHold_0 10 rfl rfl)
theorem dX4_laysHold_11 : decode cX4_laysHold 11 = .ok (.ifCond .eq 6, 3) := dk_153 0 6 (dk_at dksX4_laysHold_0 11 rfl rfl)
theorem dX4_laysHold_14 : decode cX4_laysHold 14 = .ok (.goto 118, 3) := dk_167 0 118 (dk_at dksX4_laysHold_0 14 rfl rfl)
theorem dX4_laysHold_17 : decode cX4_laysHold 17 = .ok (.iconst 0, 1) := dk_3 (dk_at dksX4_laysHold_0 17 rfl rfl)
theorem dX4_laysHold_18 : decode cX4_laysHold 18 = .ok (.istore_n 3, 1) := dk_62 (dk_at dksX4_laysHold_0 18 rfl rfl)
theorem dX4_laysHold_19 : decode cX4_laysHold 19 = .ok (.iload_n 3, 1) := dk_29 (dk_at dksX4_laysHold_0 19 rfl rfl)
theorem dX4_laysHold_20 : decode cX4_laysHold 20 = .ok (.aload_n 0, 1) := dk_42 (dk_at dksX4_laysHold_0 20 rfl rfl)
theorem dX4_laysHold_21 : decode cX4_laysHold 21 = .ok (.getfield 287, 3) := dk_180 1 31 (dk_at dksX4_laysHold_0 21 rfl rfl)
theorem dX4_laysHold_24 : decode cX4_laysHold 24 = .ok (.if_icmp .ge 108, 3) := dk_162 0 108 (dk_at dksX4_laysHold_1 0 rfl rfl)
theorem dX4_laysHold_27 : decode cX4_laysHold 27 = .ok (.iload_n 2, 1) := dk_28 (dk_at dksX4_laysHold_1 3 rfl rfl)
theorem dX4_laysHold_28 : decode cX4_laysHold 28 = .ok (.iload_n 1, 1) := dk_27 (dk_at dksX4_laysHold_1 4 rfl rfl)
theorem dX4_laysHold_29 : decode cX4_laysHold 29 = .ok (.if_icmp .ne 7, 3) := dk_160 0 7 (dk_at dksX4_laysHold_1 5 rfl rfl)
theorem dX4_laysHold_32 : decode cX4_laysHold 32 = .ok (.iconst 0, 1) := dk_3 (dk_at dksX4_laysHold_1 8 rfl rfl)
theorem dX4_laysHold_33 : decode cX4_laysHold 33 = .ok (.goto 6, 3) := dk_167 0 6 (dk_at dksX4_laysHold_1 9 rfl rfl)
theorem dX4_laysHold_36 : decode cX4_laysHold 36 = .ok (.ldc_w 395, 3) := dk_19 1 139 (dk_at dksX4_laysHold_1 12 rfl rfl)
theorem dX4_laysHold_39 : decode cX4_laysHold 39 = .ok (.istore 4, 2) := dk_54 4 (dk_at dksX4_laysHold_1 15 rfl rfl)
theorem dX4_laysHold_41 : decode cX4_laysHold 41 = .ok (.iconst 0, 1) := dk_3 (dk_at dksX4_laysHold_1 17 rfl rfl)
theorem dX4_laysHold_42 : decode cX4_laysHold 42 = .ok (.istore 5, 2) := dk_54 5 (dk_at dksX4_laysHold_1 18 rfl rfl)
theorem dX4_laysHold_44 : decode cX4_laysHold 44 = .ok (.iload 5, 2) := dk_21 5 (dk_at dksX4_laysHold_1 20 rfl rfl)
theorem dX4_laysHold_46 : decode cX4_laysHold 46 = .ok (.aload_n 0, 1) := dk_42 (dk_at dksX4_laysHold_1 22 rfl rfl)
theorem dX4_laysHold_47 : decode cX4_laysHold 47 = .ok (.getfield 287, 3) := dk_180 1 31 (dk_at dksX4_laysHold_2 0 rfl rfl)
theorem dX4_laysHold_50 : decode cX4_laysHold 50 = .ok (.if_icmp .ge 63, 3) := dk_162 0 63 (dk_at dksX4_laysHold_2 3 rfl rfl)
theorem dX4_laysHold_53 : decode cX4_laysHold 53 = .ok (.iload_n 1, 1) := dk_27 (dk_at dksX4_laysHold_2 6 rfl rfl)
theorem dX4_laysHold_54 : decode cX4_laysHold 54 = .ok (.iload 5, 2) := dk_21 5 (dk_at dksX4_laysHold_2 7 rfl rfl)
theorem dX4_laysHold_56 : decode cX4_laysHold 56 = .ok (.ishr, 1) := dk_122 (dk_at dksX4_laysHold_2 9 rfl rfl)
theorem dX4_laysHold_57 : decode cX4_laysHold 57 = .ok (.iconst 1, 1) := dk_4 (dk_at dksX4_laysHold_2 10 rfl rfl)
theorem dX4_laysHold_58 : decode cX4_laysHold 58 = .ok (.iand, 1) := dk_126 (dk_at dksX4_laysHold_2 11 rfl rfl)
theorem dX4_laysHold_59 : decode cX4_laysHold 59 = .ok (.ifCond .eq 48, 3) := dk_153 0 48 (dk_at dksX4_laysHold_2 12 rfl rfl)
theorem dX4_laysHold_62 : decode cX4_laysHold 62 = .ok (.iload_n 2, 1) := dk_28 (dk_at dksX4_laysHold_2 15 rfl rfl)
theorem dX4_laysHold_63 : decode cX4_laysHold 63 = .ok (.iload 5, 2) := dk_21 5 (dk_at dksX4_laysHold_2 16 rfl rfl)
theorem dX4_laysHold_65 : decode cX4_laysHold 65 = .ok (.ishr, 1) := dk_122 (dk_at dksX4_laysHold_2 18 rfl rfl)
theorem dX4_laysHold_66 : decode cX4_laysHold 66 = .ok (.iconst 1, 1) := dk_4 (dk_at dksX4_laysHold_2 19 rfl rfl)
theorem dX4_laysHold_67 : decode cX4_laysHold 67 = .ok (.iand, 1) := dk_126 (dk_at dksX4_laysHold_2 20 rfl rfl)
theorem dX4_laysHold_68 : decode cX4_laysHold 68 = .ok (.iconst 1, 1) := dk_4 (dk_at dksX4_laysHold_2 21 rfl rfl)
theorem dX4_laysHold_69 : decode cX4_laysHold 69 = .ok (.if_icmp .ne 6, 3) := dk_160 0 6 (dk_at dksX4_laysHold_3 0 rfl rfl)
theorem dX4_laysHold_72 : decode cX4_laysHold 72 = .ok (.goto 35, 3) := dk_167 0 35 (dk_at dksX4_laysHold_3 3 rfl rfl)
theorem dX4_laysHold_75 : decode cX4_laysHold 75 = .ok (.iload 4, 2) := dk_21 4 (dk_at dksX4_laysHold_3 6 rfl rfl)
theorem dX4_laysHold_77 : decode cX4_laysHold 77 = .ok (.aload_n 0, 1) := dk_42 (dk_at dksX4_laysHold_3 8 rfl rfl)
theorem dX4_laysHold_78 : decode cX4_laysHold 78 = .ok (.iload_n 3, 1) := dk_29 (dk_at dksX4_laysHold_3 9 rfl rfl)
theorem dX4_laysHold_79 : decode cX4_laysHold 79 = .ok (.iload 5, 2) := dk_21 5 (dk_at dksX4_laysHold_3 10 rfl rfl)
theorem dX4_laysHold_81 : decode cX4_laysHold 81 = .ok (.invokevirtual 408, 3) := dk_182 1 152 (dk_at dksX4_laysHold_3 12 rfl rfl)
theorem dX4_laysHold_84 : decode cX4_laysHold 84 = .ok (.aload_n 0, 1) := dk_42 (dk_at dksX4_laysHold_3 15 rfl rfl)
theorem dX4_laysHold_85 : decode cX4_laysHold 85 = .ok (.getfield 93, 3) := dk_180 0 93 (dk_at dksX4_laysHold_3 16 rfl rfl)
theorem dX4_laysHold_88 : decode cX4_laysHold 88 = .ok (.bipush 10, 2) := dk_16 10 (dk_at dksX4_laysHold_3 19 rfl rfl)
theorem dX4_laysHold_90 : decode cX4_laysHold 90 = .ok (.iload_n 2, 1) := dk_28 (dk_at dksX4_laysHold_3 21 rfl rfl)
theorem dX4_laysHold_91 : decode cX4_laysHold 91 = .ok (.iconst 1, 1) := dk_4 (dk_at dksX4_laysHold_3 22 rfl rfl)
theorem dX4_laysHold_92 : decode cX4_laysHold 92 = .ok (.iload 5, 2) := dk_21 5 (dk_at dksX4_laysHold_4 0 rfl rfl)
theorem dX4_laysHold_94 : decode cX4_laysHold 94 = .ok (.ishl, 1) := dk_120 (dk_at dksX4_laysHold_4 2 rfl rfl)
theorem dX4_laysHold_95 : decode cX4_laysHold 95 = .ok (.ior, 1) := dk_128 (dk_at dksX4_laysHold_4 3 rfl rfl)
theorem dX4_laysHold_96 : decode cX4_laysHold 96 = .ok (.imul, 1) := dk_104 (dk_at dksX4_laysHold_4 4 rfl rfl)
theorem dX4_laysHold_97 : decode cX4_laysHold 97 = .ok (.iload 5, 2) := dk_21 5 (dk_at dksX4_laysHold_4 5 rfl rfl)
theorem dX4_laysHold_99 : decode cX4_laysHold 99 = .ok (.iadd, 1) := dk_96 (dk_at dksX4_laysHold_4 7 rfl rfl)
theorem dX4_laysHold_100 : decode cX4_laysHold 100 = .ok (.iaload, 1) := dk_46 (dk_at dksX4_laysHold_4 8 rfl rfl)
theorem dX4_laysHold_101 : decode cX4_laysHold 101 = .ok (.iadd, 1) := dk_96 (dk_at dksX4_laysHold_4 9 rfl rfl)
theorem dX4_laysHold_102 : decode cX4_laysHold 102 = .ok (.invokestatic 323, 3) := dk_184 1 67 (dk_at dksX4_laysHold_4 10 rfl rfl)
theorem dX4_laysHold_105 : decode cX4_laysHold 105 = .ok (.istore 4, 2) := dk_54 4 (dk_at dksX4_laysHold_4 13 rfl rfl)
theorem dX4_laysHold_107 : decode cX4_laysHold 107 = .ok (.iinc 5 1, 3) := dk_132 5 1 (dk_at dksX4_laysHold_4 15 rfl rfl)
theorem dX4_laysHold_110 : decode cX4_laysHold 110 = .ok (.goto (-66), 3) := dk_167 255 190 (dk_at dksX4_laysHold_4 18 rfl rfl)
theorem dX4_laysHold_113 : decode cX4_laysHold 113 = .ok (.aload_n 0, 1) := dk_42 (dk_at dksX4_laysHold_4 21 rfl rfl)
theorem dX4_laysHold_114 : decode cX4_laysHold 114 = .ok (.getfield 93, 3) := dk_180 0 93 (dk_at dksX4_laysHold_5 0 rfl rfl)
theorem dX4_laysHold_117 : decode cX4_laysHold 117 = .ok (.bipush 10, 2) := dk_16 10 (dk_at dksX4_laysHold_5 3 rfl rfl)
theorem dX4_laysHold_119 : decode cX4_laysHold 119 = .ok (.iload_n 2, 1) := dk_28 (dk_at dksX4_laysHold_5 5 rfl rfl)
theorem dX4_laysHold_120 : decode cX4_laysHold 120 = .ok (.imul, 1) := dk_104 (dk_at dksX4_laysHold_5 6 rfl rfl)
theorem dX4_laysHold_121 : decode cX4_laysHold 121 = .ok (.iload_n 3, 1) := dk_29 (dk_at dksX4_laysHold_5 7 rfl rfl)
theorem dX4_laysHold_122 : decode cX4_laysHold 122 = .ok (.iadd, 1) := dk_96 (dk_at dksX4_laysHold_5 8 rfl rfl)
theorem dX4_laysHold_123 : decode cX4_laysHold 123 = .ok (.iload 4, 2) := dk_21 4 (dk_at dksX4_laysHold_5 9 rfl rfl)
theorem dX4_laysHold_125 : decode cX4_laysHold 125 = .ok (.iastore, 1) := dk_79 (dk_at dksX4_laysHold_5 11 rfl rfl)
theorem dX4_laysHold_126 : decode cX4_laysHold 126 = .ok (.iinc 3 1, 3) := dk_132 3 1 (dk_at dksX4_laysHold_5 12 rfl rfl)
theorem dX4_laysHold_129 : decode cX4_laysHold 129 = .ok (.goto (-110), 3) := dk_167 255 146 (dk_at dksX4_laysHold_5 15 rfl rfl)
theorem dX4_laysHold_132 : decode cX4_laysHold 132 = .ok (.iinc 2 (-1), 3) := dk_132 2 255 (dk_at dksX4_laysHold_5 18 rfl rfl)
theorem dX4_laysHold_135 : decode cX4_laysHold 135 = .ok (.goto (-133), 3) := dk_167 255 123 (dk_at dksX4_laysHold_5 21 rfl rfl)
theorem dX4_laysHold_138 : decode cX4_laysHold 138 = .ok (.return_, 1) := dk_177 (dk_at dksX4_laysHold_6 0 rfl rfl)
abbrev cX4_harms : ByteArray := prog_13_method_93_code
def yX4_harms : MethodName := ⟨RX4, "harms", "(II)I"⟩
def dkwX4_harms_1 : List UInt8 := [180, 0, 75, 16, 25, 27, 96, 46, 42, 180, 0, 75, 16, 25, 28, 96, 46, 184, 1, 67, 172]
abbrev dktX4_harms_1 : List UInt8 := dkwX4_harms_1 ++ []
def dkwX4_harms_0 : List UInt8 := [42, 180, 0, 75, 16, 35, 27, 96, 46, 42, 180, 0, 75, 16, 35, 28, 96, 46, 160, 0, 5, 3, 172, 42]
abbrev dktX4_harms_0 : List UInt8 := dkwX4_harms_0 ++ dktX4_harms_1
theorem dksX4_harms_0 : cX4_harms.data.toList.drop 0 = dktX4_harms_0 := by decide +kernel
theorem dksX4_harms_1 : cX4_harms.data.toList.drop 24 = dktX4_harms_1 := dk_seg dksX4_harms_0 24 rfl rfl
theorem dX4_harms_0 : decode cX4_harms 0 = .ok (.aload_n 0, 1) := dk_42 (dk_at dksX4_harms_0 0 rfl rfl)
theorem dX4_harms_1 : decode cX4_harms 1 = .ok (.getfield 75, 3) := dk_180 0 75 (dk_at dksX4_harms_0 1 rfl rfl)
theorem dX4_harms_4 : decode cX4_harms 4 = .ok (.bipush 35, 2) := dk_16 35 (dk_at dksX4_harms_0 4 rfl rfl)
theorem dX4_harms_6 : decode cX4_harms 6 = .ok (.iload_n 1, 1) := dk_27 (dk_at dksX4_harms_0 6 rfl rfl)
theorem dX4_harms_7 : decode cX4_harms 7 = .ok (.iadd, 1) := dk_96 (dk_at dksX4_harms_0 7 rfl rfl)
theorem dX4_harms_8 : decode cX4_harms 8 = .ok (.iaload, 1) := dk_46 (dk_at dksX4_harms_0 8 rfl rfl)
theorem dX4_harms_9 : decode cX4_harms 9 = .ok (.aload_n 0, 1) := dk_42 (dk_at dksX4_harms_0 9 rfl rfl)
theorem dX4_harms_10 : decode cX4_harms 10 = .ok (.getfield 75, 3) := dk_180 0 75 (dk_at dksX4_harms_0 10 rfl rfl)
theorem dX4_harms_13 : decode cX4_harms 13 = .ok (.bipush 35, 2) := dk_16 35 (dk_at dksX4_harms_0 13 rfl rfl)
theorem dX4_harms_15 : decode cX4_harms 15 = .ok (.iload_n 2, 1) := dk_28 (dk_at dksX4_harms_0 15 rfl rfl)
theorem dX4_harms_16 : decode cX4_harms 16 = .ok (.iadd, 1) := dk_96 (dk_at dksX4_harms_0 16 rfl rfl)
theorem dX4_harms_17 : decode cX4_harms 17 = .ok (.iaload, 1) := dk_46 (dk_at dksX4_harms_0 17 rfl rfl)
theorem dX4_harms_18 : decode cX4_harms 18 = .ok (.if_icmp .ne 5, 3) := dk_160 0 5 (dk_at dksX4_harms_0 18 rfl rfl)
theorem dX4_harms_21 : decode cX4_harms 21 = .ok (.iconst 0, 1) := dk_3 (dk_at dksX4_harms_0 21 rfl rfl)
theorem dX4_harms_22 : decode cX4_harms 22 = .ok (.ireturn, 1) := dk_172 (dk_at dksX4_harms_0 22 rfl rfl)
theorem dX4_harms_23 : decode cX4_harms 23 = .ok (.aload_n 0, 1) := dk_42 (dk_at dksX4_harms_0 23 rfl rfl)
theorem dX4_harms_24 : decode cX4_harms 24 = .ok (.getfield 75, 3) := dk_180 0 75 (dk_at dksX4_harms_1 0 rfl rfl)
theorem dX4_harms_27 : decode cX4_harms 27 = .ok (.bipush 25, 2) := dk_16 25 (dk_at dksX4_harms_1 3 rfl rfl)
theorem dX4_harms_29 : decode cX4_harms 29 = .ok (.iload_n 1, 1) := dk_27 (dk_at dksX4_harms_1 5 rfl rfl)
theorem dX4_harms_30 : decode cX4_harms 30 = .ok (.iadd, 1) := dk_96 (dk_at dksX4_harms_1 6 rfl rfl)
theorem dX4_harms_31 : decode cX4_harms 31 = .ok (.iaload, 1) := dk_46 (dk_at dksX4_harms_1 7 rfl rfl)
theorem dX4_harms_32 : decode cX4_harms 32 = .ok (.aload_n 0, 1) := dk_42 (dk_at dksX4_harms_1 8 rfl rfl)
theorem dX4_harms_33 : decode cX4_harms 33 = .ok (.getfield 75, 3) := dk_180 0 75 (dk_at dksX4_harms_1 9 rfl rfl)
theorem dX4_harms_36 : decode cX4_harms 36 = .ok (.bipush 25, 2) := dk_16 25 (dk_at dksX4_harms_1 12 rfl rfl)
theorem dX4_harms_38 : decode cX4_harms 38 = .ok (.iload_n 2, 1) := dk_28 (dk_at dksX4_harms_1 14 rfl rfl)
theorem dX4_harms_39 : decode cX4_harms 39 = .ok (.iadd, 1) := dk_96 (dk_at dksX4_harms_1 15 rfl rfl)
theorem dX4_harms_40 : decode cX4_harms 40 = .ok (.iaload, 1) := dk_46 (dk_at dksX4_harms_1 16 rfl rfl)
theorem dX4_harms_41 : decode cX4_harms 41 = .ok (.invokestatic 323, 3) := dk_184 1 67 (dk_at dksX4_harms_1 17 rfl rfl)
theorem dX4_harms_44 : decode cX4_harms 44 = .ok (.ireturn, 1) := dk_172 (dk_at dksX4_harms_1 20 rfl rfl)
abbrev cX4_thrower : ByteArray := prog_13_method_97_code
def yX4_thrower : MethodName := ⟨RX4, "thrower", "(IIII)I"⟩
def dkwX4_thrower_7 : List UInt8 := [167, 255, 166, 132, 5, 1, 167, 255, 150, 42, 180, 0, 96, 16, 30, 21, 4, 104, 27, 96, 46, 172]
abbrev dktX4_thrower_7 : List UInt8 := dkwX4_thrower_7 ++ []
def dkwX4_thrower_6 : List UInt8 := [46, 104, 16, 12, 28, 100, 42, 180, 0, 96, 21, 7, 16, 31, 100, 46, 104, 96, 79, 132, 6, 1]
abbrev dktX4_thrower_6 : List UInt8 := dkwX4_thrower_6 ++ dktX4_thrower_7
def dkwX4_thrower_5 : List UInt8 := [21, 6, 153, 0, 8, 21, 5, 154, 0, 7, 3, 167, 0, 31, 28, 42, 180, 0, 96, 21, 7, 16, 29, 100]
abbrev dktX4_thrower_5 : List UInt8 := dkwX4_thrower_5 ++ dktX4_thrower_6
def dkwX4_thrower_4 : List UInt8 := [161, 0, 18, 42, 180, 0, 96, 21, 7, 21, 5, 184, 1, 158, 79, 167, 0, 52, 42, 180, 0, 96, 21, 7]
abbrev dktX4_thrower_4 : List UInt8 := dkwX4_thrower_4 ++ dktX4_thrower_5
def dkwX4_thrower_3 : List UInt8 := [3, 54, 6, 21, 6, 16, 30, 162, 0, 89, 16, 30, 21, 5, 104, 21, 6, 96, 54, 7, 21, 6, 29]
abbrev dktX4_thrower_3 : List UInt8 := dkwX4_thrower_3 ++ dktX4_thrower_4
def dkwX4_thrower_2 : List UInt8 := [4, 167, 0, 4, 3, 4, 182, 1, 18, 154, 0, 5, 3, 172, 3, 54, 5, 21, 5, 21, 4, 163, 0, 105]
abbrev dktX4_thrower_2 : List UInt8 := dkwX4_thrower_2 ++ dktX4_thrower_3
def dkwX4_thrower_1 : List UInt8 := [153, 0, 28, 29, 4, 16, 20, 184, 1, 90, 153, 0, 18, 21, 4, 3, 16, 7, 184, 1, 90, 153, 0, 7]
abbrev dktX4_thrower_1 : List UInt8 := dkwX4_thrower_1 ++ dktX4_thrower_2
def dkwX4_thrower_0 : List UInt8 := [42, 3, 181, 0, 117, 42, 27, 3, 16, 20, 184, 1, 90, 153, 0, 38, 28, 3, 16, 12, 184, 1, 90]
abbrev dktX4_thrower_0 : List UInt8 := dkwX4_thrower_0 ++ dktX4_thrower_1
theorem dksX4_thrower_0 : cX4_thrower.data.toList.drop 0 = dktX4_thrower_0 := by decide +kernel
theorem dksX4_thrower_1 : cX4_thrower.data.toList.drop 23 = dktX4_thrower_1 := dk_seg dksX4_thrower_0 23 rfl rfl
theorem dksX4_thrower_2 : cX4_thrower.data.toList.drop 47 = dktX4_thrower_2 := dk_seg dksX4_thrower_1 24 rfl rfl
theorem dksX4_thrower_3 : cX4_thrower.data.toList.drop 71 = dktX4_thrower_3 := dk_seg dksX4_thrower_2 24 rfl rfl
theorem dksX4_thrower_4 : cX4_thrower.data.toList.drop 94 = dktX4_thrower_4 := dk_seg dksX4_thrower_3 23 rfl rfl
theorem dksX4_thrower_5 : cX4_thrower.data.toList.drop 118 = dktX4_thrower_5 := dk_seg dksX4_thrower_4 24 rfl rfl
theorem dksX4_thrower_6 : cX4_thrower.data.toList.drop 142 = dktX4_thrower_6 := dk_seg dksX4_thrower_5 24 rfl rfl
theorem dksX4_thrower_7 : cX4_thrower.data.toList.drop 164 = dktX4_thrower_7 := dk_seg dksX4_thrower_6 22 rfl rfl
theorem dX4_thrower_0 : decode cX4_thrower 0 = .ok (.aload_n 0, 1) := dk_42 (dk_at dksX4_thrower_0 0 rfl rfl)
theorem dX4_thrower_1 : decode cX4_thrower 1 = .ok (.iconst 0, 1) := dk_3 (dk_at dksX4_thrower_0 1 rfl rfl)
theorem dX4_thrower_2 : decode cX4_thrower 2 = .ok (.putfield 117, 3) := dk_181 0 117 (dk_at dksX4_thrower_0 2 rfl rfl)
theorem dX4_thrower_5 : decode cX4_thrower 5 = .ok (.aload_n 0, 1) := dk_42 (dk_at dksX4_thrower_0 5 rfl rfl)
theorem dX4_thrower_6 : decode cX4_thrower 6 = .ok (.iload_n 1, 1) := dk_27 (dk_at dksX4_thrower_0 6 rfl rfl)
theorem dX4_thrower_7 : decode cX4_thrower 7 = .ok (.iconst 0, 1) := dk_3 (dk_at dksX4_thrower_0 7 rfl rfl)
theorem dX4_thrower_8 : decode cX4_thrower 8 = .ok (.bipush 20, 2) := dk_16 20 (dk_at dksX4_thrower_0 8 rfl rfl)
theorem dX4_thrower_10 : decode cX4_thrower 10 = .ok (.invokestatic 346, 3) := dk_184 1 90 (dk_at dksX4_thrower_0 10 rfl rfl)
theorem dX4_thrower_13 : decode cX4_thrower 13 = .ok (.ifCond .eq 38, 3) := dk_153 0 38 (dk_at dksX4_thrower_0 13 rfl rfl)
theorem dX4_thrower_16 : decode cX4_thrower 16 = .ok (.iload_n 2, 1) := dk_28 (dk_at dksX4_thrower_0 16 rfl rfl)
theorem dX4_thrower_17 : decode cX4_thrower 17 = .ok (.iconst 0, 1) := dk_3 (dk_at dksX4_thrower_0 17 rfl rfl)
theorem dX4_thrower_18 : decode cX4_thrower 18 = .ok (.bipush 12, 2) := dk_16 12 (dk_at dksX4_thrower_0 18 rfl rfl)
theorem dX4_thrower_20 : decode cX4_thrower 20 = .ok (.invokestatic 346, 3) := dk_184 1 90 (dk_at dksX4_thrower_0 20 rfl rfl)
theorem dX4_thrower_23 : decode cX4_thrower 23 = .ok (.ifCond .eq 28, 3) := dk_153 0 28 (dk_at dksX4_thrower_1 0 rfl rfl)
theorem dX4_thrower_26 : decode cX4_thrower 26 = .ok (.iload_n 3, 1) := dk_29 (dk_at dksX4_thrower_1 3 rfl rfl)
theorem dX4_thrower_27 : decode cX4_thrower 27 = .ok (.iconst 1, 1) := dk_4 (dk_at dksX4_thrower_1 4 rfl rfl)
theorem dX4_thrower_28 : decode cX4_thrower 28 = .ok (.bipush 20, 2) := dk_16 20 (dk_at dksX4_thrower_1 5 rfl rfl)
theorem dX4_thrower_30 : decode cX4_thrower 30 = .ok (.invokestatic 346, 3) := dk_184 1 90 (dk_at dksX4_thrower_1 7 rfl rfl)
theorem dX4_thrower_33 : decode cX4_thrower 33 = .ok (.ifCond .eq 18, 3) := dk_153 0 18 (dk_at dksX4_thrower_1 10 rfl rfl)
theorem dX4_thrower_36 : decode cX4_thrower 36 = .ok (.iload 4, 2) := dk_21 4 (dk_at dksX4_thrower_1 13 rfl rfl)
theorem dX4_thrower_38 : decode cX4_thrower 38 = .ok (.iconst 0, 1) := dk_3 (dk_at dksX4_thrower_1 15 rfl rfl)
theorem dX4_thrower_39 : decode cX4_thrower 39 = .ok (.bipush 7, 2) := dk_16 7 (dk_at dksX4_thrower_1 16 rfl rfl)
theorem dX4_thrower_41 : decode cX4_thrower 41 = .ok (.invokestatic 346, 3) := dk_184 1 90 (dk_at dksX4_thrower_1 18 rfl rfl)
theorem dX4_thrower_44 : decode cX4_thrower 44 = .ok (.ifCond .eq 7, 3) := dk_153 0 7 (dk_at dksX4_thrower_1 21 rfl rfl)
theorem dX4_thrower_47 : decode cX4_thrower 47 = .ok (.iconst 1, 1) := dk_4 (dk_at dksX4_thrower_2 0 rfl rfl)
theorem dX4_thrower_48 : decode cX4_thrower 48 = .ok (.goto 4, 3) := dk_167 0 4 (dk_at dksX4_thrower_2 1 rfl rfl)
theorem dX4_thrower_51 : decode cX4_thrower 51 = .ok (.iconst 0, 1) := dk_3 (dk_at dksX4_thrower_2 4 rfl rfl)
theorem dX4_thrower_52 : decode cX4_thrower 52 = .ok (.iconst 1, 1) := dk_4 (dk_at dksX4_thrower_2 5 rfl rfl)
theorem dX4_thrower_53 : decode cX4_thrower 53 = .ok (.invokevirtual 274, 3) := dk_182 1 18 (dk_at dksX4_thrower_2 6 rfl rfl)
theorem dX4_thrower_56 : decode cX4_thrower 56 = .ok (.ifCond .ne 5, 3) := dk_154 0 5 (dk_at dksX4_thrower_2 9 rfl rfl)
theorem dX4_thrower_59 : decode cX4_thrower 59 = .ok (.iconst 0, 1) := dk_3 (dk_at dksX4_thrower_2 12 rfl rfl)
theorem dX4_thrower_60 : decode cX4_thrower 60 = .ok (.ireturn, 1) := dk_172 (dk_at dksX4_thrower_2 13 rfl rfl)
theorem dX4_thrower_61 : decode cX4_thrower 61 = .ok (.iconst 0, 1) := dk_3 (dk_at dksX4_thrower_2 14 rfl rfl)
theorem dX4_thrower_62 : decode cX4_thrower 62 = .ok (.istore 5, 2) := dk_54 5 (dk_at dksX4_thrower_2 15 rfl rfl)
theorem dX4_thrower_64 : decode cX4_thrower 64 = .ok (.iload 5, 2) := dk_21 5 (dk_at dksX4_thrower_2 17 rfl rfl)
theorem dX4_thrower_66 : decode cX4_thrower 66 = .ok (.iload 4, 2) := dk_21 4 (dk_at dksX4_thrower_2 19 rfl rfl)
theorem dX4_thrower_68 : decode cX4_thrower 68 = .ok (.if_icmp .gt 105, 3) := dk_163 0 105 (dk_at dksX4_thrower_2 21 rfl rfl)
theorem dX4_thrower_71 : decode cX4_thrower 71 = .ok (.iconst 0, 1) := dk_3 (dk_at dksX4_thrower_3 0 rfl rfl)
theorem dX4_thrower_72 : decode cX4_thrower 72 = .ok (.istore 6, 2) := dk_54 6 (dk_at dksX4_thrower_3 1 rfl rfl)
theorem dX4_thrower_74 : decode cX4_thrower 74 = .ok (.iload 6, 2) := dk_21 6 (dk_at dksX4_thrower_3 3 rfl rfl)
theorem dX4_thrower_76 : decode cX4_thrower 76 = .ok (.bipush 30, 2) := dk_16 30 (dk_at dksX4_thrower_3 5 rfl rfl)
theorem dX4_thrower_78 : decode cX4_thrower 78 = .ok (.if_icmp .ge 89, 3) := dk_162 0 89 (dk_at dksX4_thrower_3 7 rfl rfl)
theorem dX4_thrower_81 : decode cX4_thrower 81 = .ok (.bipush 30, 2) := dk_16 30 (dk_at dksX4_thrower_3 10 rfl rfl)
theorem dX4_thrower_83 : decode cX4_thrower 83 = .ok (.iload 5, 2) := dk_21 5 (dk_at dksX4_thrower_3 12 rfl rfl)
theorem dX4_thrower_85 : decode cX4_thrower 85 = .ok (.imul, 1) := dk_104 (dk_at dksX4_thrower_3 14 rfl rfl)
theorem dX4_thrower_86 : decode cX4_thrower 86 = .ok (.iload 6, 2) := dk_21 6 (dk_at dksX4_thrower_3 15 rfl rfl)
theorem dX4_thrower_88 : decode cX4_thrower 88 = .ok (.iadd, 1) := dk_96 (dk_at dksX4_thrower_3 17 rfl rfl)
theorem dX4_thrower_89 : decode cX4_thrower 89 = .ok (.istore 7, 2) := dk_54 7 (dk_at dksX4_thrower_3 18 rfl rfl)
theorem dX4_thrower_91 : decode cX4_thrower 91 = .ok (.iload 6, 2) := dk_21 6 (dk_at dksX4_thrower_3 20 rfl rfl)
theorem dX4_thrower_93 : decode cX4_thrower 93 = .ok (.iload_n 3, 1) := dk_29 (dk_at dksX4_thrower_3 22 rfl rfl)
theorem dX4_thrower_94 : decode cX4_thrower 94 = .ok (.if_icmp .lt 18, 3) := dk_161 0 18 (dk_at dksX4_thrower_4 0 rfl rfl)
theorem dX4_thrower_97 : decode cX4_thrower 97 = .ok (.aload_n 0, 1) := dk_42 (dk_at dksX4_thrower_4 3 rfl rfl)
theorem dX4_thrower_98 : decode cX4_thrower 98 = .ok (.getfield 96, 3) := dk_180 0 96 (dk_at dksX4_thrower_4 4 rfl rfl)
theorem dX4_thrower_101 : decode cX4_thrower 101 = .ok (.iload 7, 2) := dk_21 7 (dk_at dksX4_thrower_4 7 rfl rfl)
theorem dX4_thrower_103 : decode cX4_thrower 103 = .ok (.iload 5, 2) := dk_21 5 (dk_at dksX4_thrower_4 9 rfl rfl)
theorem dX4_thrower_105 : decode cX4_thrower 105 = .ok (.invokestatic 414, 3) := dk_184 1 158 (dk_at dksX4_thrower_4 11 rfl rfl)
theorem dX4_thrower_108 : decode cX4_thrower 108 = .ok (.iastore, 1) := dk_79 (dk_at dksX4_thrower_4 14 rfl rfl)
theorem dX4_thrower_109 : decode cX4_thrower 109 = .ok (.goto 52, 3) := dk_167 0 52 (dk_at dksX4_thrower_4 15 rfl rfl)
theorem dX4_thrower_112 : decode cX4_thrower 112 = .ok (.aload_n 0, 1) := dk_42 (dk_at dksX4_thrower_4 18 rfl rfl)
theorem dX4_thrower_113 : decode cX4_thrower 113 = .ok (.getfield 96, 3) := dk_180 0 96 (dk_at dksX4_thrower_4 19 rfl rfl)
theorem dX4_thrower_116 : decode cX4_thrower 116 = .ok (.iload 7, 2) := dk_21 7 (dk_at dksX4_thrower_4 22 rfl rfl)
theorem dX4_thrower_118 : decode cX4_thrower 118 = .ok (.iload 6, 2) := dk_21 6 (dk_at dksX4_thrower_5 0 rfl rfl)
theorem dX4_thrower_120 : decode cX4_thrower 120 = .ok (.ifCond .eq 8, 3) := dk_153 0 8 (dk_at dksX4_thrower_5 2 rfl rfl)
theorem dX4_thrower_123 : decode cX4_thrower 123 = .ok (.iload 5, 2) := dk_21 5 (dk_at dksX4_thrower_5 5 rfl rfl)
theorem dX4_thrower_125 : decode cX4_thrower 125 = .ok (.ifCond .ne 7, 3) := dk_154 0 7 (dk_at dksX4_thrower_5 7 rfl rfl)
theorem dX4_thrower_128 : decode cX4_thrower 128 = .ok (.iconst 0, 1) := dk_3 (dk_at dksX4_thrower_5 10 rfl rfl)
theorem dX4_thrower_129 : decode cX4_thrower 129 = .ok (.goto 31, 3) := dk_167 0 31 (dk_at dksX4_thrower_5 11 rfl rfl)
theorem dX4_thrower_132 : decode cX4_thrower 132 = .ok (.iload_n 2, 1) := dk_28 (dk_at dksX4_thrower_5 14 rfl rfl)
theorem dX4_thrower_133 : decode cX4_thrower 133 = .ok (.aload_n 0, 1) := dk_42 (dk_at dksX4_thrower_5 15 rfl rfl)
theorem dX4_thrower_134 : decode cX4_thrower 134 = .ok (.getfield 96, 3) := dk_180 0 96 (dk_at dksX4_thrower_5 16 rfl rfl)
theorem dX4_thrower_137 : decode cX4_thrower 137 = .ok (.iload 7, 2) := dk_21 7 (dk_at dksX4_thrower_5 19 rfl rfl)
theorem dX4_thrower_139 : decode cX4_thrower 139 = .ok (.bipush 29, 2) := dk_16 29 (dk_at dksX4_thrower_5 21 rfl rfl)
theorem dX4_thrower_141 : decode cX4_thrower 141 = .ok (.isub, 1) := dk_100 (dk_at dksX4_thrower_5 23 rfl rfl)
theorem dX4_thrower_142 : decode cX4_thrower 142 = .ok (.iaload, 1) := dk_46 (dk_at dksX4_thrower_6 0 rfl rfl)
theorem dX4_thrower_143 : decode cX4_thrower 143 = .ok (.imul, 1) := dk_104 (dk_at dksX4_thrower_6 1 rfl rfl)
theorem dX4_thrower_144 : decode cX4_thrower 144 = .ok (.bipush 12, 2) := dk_16 12 (dk_at dksX4_thrower_6 2 rfl rfl)
theorem dX4_thrower_146 : decode cX4_thrower 146 = .ok (.iload_n 2, 1) := dk_28 (dk_at dksX4_thrower_6 4 rfl rfl)
theorem dX4_thrower_147 : decode cX4_thrower 147 = .ok (.isub, 1) := dk_100 (dk_at dksX4_thrower_6 5 rfl rfl)
theorem dX4_thrower_148 : decode cX4_thrower 148 = .ok (.aload_n 0, 1) := dk_42 (dk_at dksX4_thrower_6 6 rfl rfl)
theorem dX4_thrower_149 : decode cX4_thrower 149 = .ok (.getfield 96, 3) := dk_180 0 96 (dk_at dksX4_thrower_6 7 rfl rfl)
theorem dX4_thrower_152 : decode cX4_thrower 152 = .ok (.iload 7, 2) := dk_21 7 (dk_at dksX4_thrower_6 10 rfl rfl)
theorem dX4_thrower_154 : decode cX4_thrower 154 = .ok (.bipush 31, 2) := dk_16 31 (dk_at dksX4_thrower_6 12 rfl rfl)
theorem dX4_thrower_156 : decode cX4_thrower 156 = .ok (.isub, 1) := dk_100 (dk_at dksX4_thrower_6 14 rfl rfl)
theorem dX4_thrower_157 : decode cX4_thrower 157 = .ok (.iaload, 1) := dk_46 (dk_at dksX4_thrower_6 15 rfl rfl)
theorem dX4_thrower_158 : decode cX4_thrower 158 = .ok (.imul, 1) := dk_104 (dk_at dksX4_thrower_6 16 rfl rfl)
theorem dX4_thrower_159 : decode cX4_thrower 159 = .ok (.iadd, 1) := dk_96 (dk_at dksX4_thrower_6 17 rfl rfl)
theorem dX4_thrower_160 : decode cX4_thrower 160 = .ok (.iastore, 1) := dk_79 (dk_at dksX4_thrower_6 18 rfl rfl)
theorem dX4_thrower_161 : decode cX4_thrower 161 = .ok (.iinc 6 1, 3) := dk_132 6 1 (dk_at dksX4_thrower_6 19 rfl rfl)
theorem dX4_thrower_164 : decode cX4_thrower 164 = .ok (.goto (-90), 3) := dk_167 255 166 (dk_at dksX4_thrower_7 0 rfl rfl)
theorem dX4_thrower_167 : decode cX4_thrower 167 = .ok (.iinc 5 1, 3) := dk_132 5 1 (dk_at dksX4_thrower_7 3 rfl rfl)
theorem dX4_thrower_170 : decode cX4_thrower 170 = .ok (.goto (-106), 3) := dk_167 255 150 (dk_at dksX4_thrower_7 6 rfl rfl)
theorem dX4_thrower_173 : decode cX4_thrower 173 = .ok (.aload_n 0, 1) := dk_42 (dk_at dksX4_thrower_7 9 rfl rfl)
theorem dX4_thrower_174 : decode cX4_thrower 174 = .ok (.getfield 96, 3) := dk_180 0 96 (dk_at dksX4_thrower_7 10 rfl rfl)
theorem dX4_thrower_177 : decode cX4_thrower 177 = .ok (.bipush 30, 2) := dk_16 30 (dk_at dksX4_thrower_7 13 rfl rfl)
theorem dX4_thrower_179 : decode cX4_thrower 179 = .ok (.iload 4, 2) := dk_21 4 (dk_at dksX4_thrower_7 15 rfl rfl)
theorem dX4_thrower_181 : decode cX4_thrower 181 = .ok (.imul, 1) := dk_104 (dk_at dksX4_thrower_7 17 rfl rfl)
theorem dX4_thrower_182 : decode cX4_thrower 182 = .ok (.iload_n 1, 1) := dk_27 (dk_at dksX4_thrower_7 18 rfl rfl)
theorem dX4_thrower_183 : decode cX4_thrower 183 = .ok (.iadd, 1) := dk_96 (dk_at dksX4_thrower_7 19 rfl rfl)
theorem dX4_thrower_184 : decode cX4_thrower 184 = .ok (.iaload, 1) := dk_46 (dk_at dksX4_thrower_7 20 rfl rfl)
theorem dX4_thrower_185 : decode cX4_thrower 185 = .ok (.ireturn, 1) := dk_172 (dk_at dksX4_thrower_7 21 rfl rfl)
abbrev cX4_power : ByteArray := prog_13_method_96_code
def yX4_power : MethodName := ⟨RX4, "power", "(I)I"⟩
def dkwX4_power_0 : List UInt8 := [4, 60, 3, 61, 28, 26, 162, 0, 14, 16, 12, 27, 104, 60, 132, 2, 1, 167, 255, 243, 27, 172]
abbrev dktX4_power_0 : List UInt8 := dkwX4_power_0 ++ []
theorem dksX4_power_0 : cX4_power.data.toList.drop 0 = dktX4_power_0 := by decide +kernel
theorem dX4_power_0 : decode cX4_power 0 = .ok (.iconst 1, 1) := dk_4 (dk_at dksX4_power_0 0 rfl rfl)
theorem dX4_power_1 : decode cX4_power 1 = .ok (.istore_n 1, 1) := dk_60 (dk_at dksX4_power_0 1 rfl rfl)
theorem dX4_power_2 : decode cX4_power 2 = .ok (.iconst 0, 1) := dk_3 (dk_at dksX4_power_0 2 rfl rfl)
theorem dX4_power_3 : decode cX4_power 3 = .ok (.istore_n 2, 1) := dk_61 (dk_at dksX4_power_0 3 rfl rfl)
theorem dX4_power_4 : decode cX4_power 4 = .ok (.iload_n 2, 1) := dk_28 (dk_at dksX4_power_0 4 rfl rfl)
theorem dX4_power_5 : decode cX4_power 5 = .ok (.iload_n 0, 1) := dk_26 (dk_at dksX4_power_0 5 rfl rfl)
theorem dX4_power_6 : decode cX4_power 6 = .ok (.if_icmp .ge 14, 3) := dk_162 0 14 (dk_at dksX4_power_0 6 rfl rfl)
theorem dX4_power_9 : decode cX4_power 9 = .ok (.bipush 12, 2) := dk_16 12 (dk_at dksX4_power_0 9 rfl rfl)
theorem dX4_power_11 : decode cX4_power 11 = .ok (.iload_n 1, 1) := dk_27 (dk_at dksX4_power_0 11 rfl rfl)
theorem dX4_power_12 : decode cX4_power 12 = .ok (.imul, 1) := dk_104 (dk_at dksX4_power_0 12 rfl rfl)
theorem dX4_power_13 : decode cX4_power 13 = .ok (.istore_n 1, 1) := dk_60 (dk_at dksX4_power_0 13 rfl rfl)
theorem dX4_power_14 : decode cX4_power 14 = .ok (.iinc 2 1, 3) := dk_132 2 1 (dk_at dksX4_power_0 14 rfl rfl)
theorem dX4_power_17 : decode cX4_power 17 = .ok (.goto (-13), 3) := dk_167 255 243 (dk_at dksX4_power_0 17 rfl rfl)
theorem dX4_power_20 : decode cX4_power 20 = .ok (.iload_n 1, 1) := dk_27 (dk_at dksX4_power_0 20 rfl rfl)
theorem dX4_power_21 : decode cX4_power 21 = .ok (.ireturn, 1) := dk_172 (dk_at dksX4_power_0 21 rfl rfl)
abbrev cX4_stop : ByteArray := prog_13_method_98_code
def yX4_stop : MethodName := ⟨RX4, "stop", "(IIII)I"⟩
def dkwX4_stop_10 : List UInt8 := [167, 0, 4, 3, 172]
abbrev dktX4_stop_10 : List UInt8 := dkwX4_stop_10 ++ []
def dkwX4_stop_9 : List UInt8 := [154, 0, 17, 42, 180, 0, 96, 16, 30, 29, 104, 27, 96, 46, 167, 0, 13, 21, 5, 153, 0, 7, 4]
abbrev dktX4_stop_9 : List UInt8 := dkwX4_stop_9 ++ dktX4_stop_10
def dkwX4_stop_8 : List UInt8 := [164, 0, 7, 4, 167, 0, 4, 3, 54, 5, 132, 7, 1, 167, 255, 132, 132, 6, 1, 167, 255, 117, 21, 4]
abbrev dktX4_stop_8 : List UInt8 := dkwX4_stop_8 ++ dktX4_stop_9
def dkwX4_stop_7 : List UInt8 := [21, 10, 167, 0, 5, 21, 9, 79, 21, 6, 29, 160, 0, 23, 21, 7, 27, 160, 0, 17, 21, 10, 21, 9]
abbrev dktX4_stop_7 : List UInt8 := dkwX4_stop_7 ++ dktX4_stop_8
def dkwX4_stop_6 : List UInt8 := [21, 8, 16, 31, 100, 46, 104, 96, 54, 10, 42, 180, 0, 96, 21, 8, 21, 10, 21, 9, 164, 0, 8]
abbrev dktX4_stop_6 : List UInt8 := dkwX4_stop_6 ++ dktX4_stop_7
def dkwX4_stop_5 : List UInt8 := [167, 0, 31, 28, 42, 180, 0, 96, 21, 8, 16, 29, 100, 46, 104, 16, 12, 28, 100, 42, 180, 0, 96]
abbrev dktX4_stop_5 : List UInt8 := dkwX4_stop_5 ++ dktX4_stop_6
def dkwX4_stop_4 : List UInt8 := [54, 8, 21, 7, 21, 6, 184, 1, 158, 104, 54, 9, 21, 7, 153, 0, 8, 21, 6, 154, 0, 7, 3]
abbrev dktX4_stop_4 : List UInt8 := dkwX4_stop_4 ++ dktX4_stop_5
def dkwX4_stop_3 : List UInt8 := [163, 0, 139, 3, 54, 7, 21, 7, 16, 29, 21, 6, 100, 162, 0, 120, 16, 30, 21, 6, 104, 21, 7, 96]
abbrev dktX4_stop_3 : List UInt8 := dkwX4_stop_3 ++ dktX4_stop_4
def dkwX4_stop_2 : List UInt8 := [167, 0, 4, 3, 5, 182, 1, 18, 154, 0, 5, 3, 172, 3, 54, 5, 3, 54, 6, 21, 6, 29]
abbrev dktX4_stop_2 : List UInt8 := dkwX4_stop_2 ++ dktX4_stop_3
def dkwX4_stop_1 : List UInt8 := [153, 0, 27, 28, 3, 16, 12, 184, 1, 90, 153, 0, 17, 29, 4, 16, 7, 184, 1, 90, 153, 0, 7, 4]
abbrev dktX4_stop_1 : List UInt8 := dkwX4_stop_1 ++ dktX4_stop_2
def dkwX4_stop_0 : List UInt8 := [42, 3, 181, 0, 117, 42, 21, 4, 4, 182, 1, 109, 153, 0, 46, 42, 27, 3, 16, 20, 184, 1, 90]
abbrev dktX4_stop_0 : List UInt8 := dkwX4_stop_0 ++ dktX4_stop_1
theorem dksX4_stop_0 : cX4_stop.data.toList.drop 0 = dktX4_stop_0 := by decide +kernel
theorem dksX4_stop_1 : cX4_stop.data.toList.drop 23 = dktX4_stop_1 := dk_seg dksX4_stop_0 23 rfl rfl
theorem dksX4_stop_2 : cX4_stop.data.toList.drop 47 = dktX4_stop_2 := dk_seg dksX4_stop_1 24 rfl rfl
theorem dksX4_stop_3 : cX4_stop.data.toList.drop 69 = dktX4_stop_3 := dk_seg dksX4_stop_2 22 rfl rfl
theorem dksX4_stop_4 : cX4_stop.data.toList.drop 93 = dktX4_stop_4 := dk_seg dksX4_stop_3 24 rfl rfl
theorem dksX4_stop_5 : cX4_stop.data.toList.drop 116 = dktX4_stop_5 := dk_seg dksX4_stop_4 23 rfl rfl
theorem dksX4_stop_6 : cX4_stop.data.toList.drop 139 = dktX4_stop_6 := dk_seg dksX4_stop_5 23 rfl rfl
theorem dksX4_stop_7 : cX4_stop.data.toList.drop 162 = dktX4_stop_7 := dk_seg dksX4_stop_6 23 rfl rfl
theorem dksX4_stop_8 : cX4_stop.data.toList.drop 186 = dktX4_stop_8 := dk_seg dksX4_stop_7 24 rfl rfl
theorem dksX4_stop_9 : cX4_stop.data.toList.drop 210 = dktX4_stop_9 := dk_seg dksX4_stop_8 24 rfl rfl
theorem dksX4_stop_10 : cX4_stop.data.toList.drop 233 = dktX4_stop_10 := dk_seg dksX4_stop_9 23 rfl rfl
theorem dX4_stop_0 : decode cX4_stop 0 = .ok (.aload_n 0, 1) := dk_42 (dk_at dksX4_stop_0 0 rfl rfl)
theorem dX4_stop_1 : decode cX4_stop 1 = .ok (.iconst 0, 1) := dk_3 (dk_at dksX4_stop_0 1 rfl rfl)
theorem dX4_stop_2 : decode cX4_stop 2 = .ok (.putfield 117, 3) := dk_181 0 117 (dk_at dksX4_stop_0 2 rfl rfl)
theorem dX4_stop_5 : decode cX4_stop 5 = .ok (.aload_n 0, 1) := dk_42 (dk_at dksX4_stop_0 5 rfl rfl)
theorem dX4_stop_6 : decode cX4_stop 6 = .ok (.iload 4, 2) := dk_21 4 (dk_at dksX4_stop_0 6 rfl rfl)
theorem dX4_stop_8 : decode cX4_stop 8 = .ok (.iconst 1, 1) := dk_4 (dk_at dksX4_stop_0 8 rfl rfl)
theorem dX4_stop_9 : decode cX4_stop 9 = .ok (.invokevirtual 365, 3) := dk_182 1 109 (dk_at dksX4_stop_0 9 rfl rfl)
theorem dX4_stop_12 : decode cX4_stop 12 = .ok (.ifCond .eq 46, 3) := dk_153 0 46 (dk_at dksX4_stop_0 12 rfl rfl)
theorem dX4_stop_15 : decode cX4_stop 15 = .ok (.aload_n 0, 1) := dk_42 (dk_at dksX4_stop_0 15 rfl rfl)
theorem dX4_stop_16 : decode cX4_stop 16 = .ok (.iload_n 1, 1) := dk_27 (dk_at dksX4_stop_0 16 rfl rfl)
theorem dX4_stop_17 : decode cX4_stop 17 = .ok (.iconst 0, 1) := dk_3 (dk_at dksX4_stop_0 17 rfl rfl)
theorem dX4_stop_18 : decode cX4_stop 18 = .ok (.bipush 20, 2) := dk_16 20 (dk_at dksX4_stop_0 18 rfl rfl)
theorem dX4_stop_20 : decode cX4_stop 20 = .ok (.invokestatic 346, 3) := dk_184 1 90 (dk_at dksX4_stop_0 20 rfl rfl)
theorem dX4_stop_23 : decode cX4_stop 23 = .ok (.ifCond .eq 27, 3) := dk_153 0 27 (dk_at dksX4_stop_1 0 rfl rfl)
theorem dX4_stop_26 : decode cX4_stop 26 = .ok (.iload_n 2, 1) := dk_28 (dk_at dksX4_stop_1 3 rfl rfl)
theorem dX4_stop_27 : decode cX4_stop 27 = .ok (.iconst 0, 1) := dk_3 (dk_at dksX4_stop_1 4 rfl rfl)
theorem dX4_stop_28 : decode cX4_stop 28 = .ok (.bipush 12, 2) := dk_16 12 (dk_at dksX4_stop_1 5 rfl rfl)
theorem dX4_stop_30 : decode cX4_stop 30 = .ok (.invokestatic 346, 3) := dk_184 1 90 (dk_at dksX4_stop_1 7 rfl rfl)
theorem dX4_stop_33 : decode cX4_stop 33 = .ok (.ifCond .eq 17, 3) := dk_153 0 17 (dk_at dksX4_stop_1 10 rfl rfl)
theorem dX4_stop_36 : decode cX4_stop 36 = .ok (.iload_n 3, 1) := dk_29 (dk_at dksX4_stop_1 13 rfl rfl)
theorem dX4_stop_37 : decode cX4_stop 37 = .ok (.iconst 1, 1) := dk_4 (dk_at dksX4_stop_1 14 rfl rfl)
theorem dX4_stop_38 : decode cX4_stop 38 = .ok (.bipush 7, 2) := dk_16 7 (dk_at dksX4_stop_1 15 rfl rfl)
theorem dX4_stop_40 : decode cX4_stop 40 = .ok (.invokestatic 346, 3) := dk_184 1 90 (dk_at dksX4_stop_1 17 rfl rfl)
theorem dX4_stop_43 : decode cX4_stop 43 = .ok (.ifCond .eq 7, 3) := dk_153 0 7 (dk_at dksX4_stop_1 20 rfl rfl)
theorem dX4_stop_46 : decode cX4_stop 46 = .ok (.iconst 1, 1) := dk_4 (dk_at dksX4_stop_1 23 rfl rfl)
theorem dX4_stop_47 : decode cX4_stop 47 = .ok (.goto 4, 3) := dk_167 0 4 (dk_at dksX4_stop_2 0 rfl rfl)
theorem dX4_stop_50 : decode cX4_stop 50 = .ok (.iconst 0, 1) := dk_3 (dk_at dksX4_stop_2 3 rfl rfl)
theorem dX4_stop_51 : decode cX4_stop 51 = .ok (.iconst 2, 1) := dk_5 (dk_at dksX4_stop_2 4 rfl rfl)
theorem dX4_stop_52 : decode cX4_stop 52 = .ok (.invokevirtual 274, 3) := dk_182 1 18 (dk_at dksX4_stop_2 5 rfl rfl)
theorem dX4_stop_55 : decode cX4_stop 55 = .ok (.ifCond .ne 5, 3) := dk_154 0 5 (dk_at dksX4_stop_2 8 rfl rfl)
theorem dX4_stop_58 : decode cX4_stop 58 = .ok (.iconst 0, 1) := dk_3 (dk_at dksX4_stop_2 11 rfl rfl)
theorem dX4_stop_59 : decode cX4_stop 59 = .ok (.ireturn, 1) := dk_172 (dk_at dksX4_stop_2 12 rfl rfl)
theorem dX4_stop_60 : decode cX4_stop 60 = .ok (.iconst 0, 1) := dk_3 (dk_at dksX4_stop_2 13 rfl rfl)
theorem dX4_stop_61 : decode cX4_stop 61 = .ok (.istore 5, 2) := dk_54 5 (dk_at dksX4_stop_2 14 rfl rfl)
theorem dX4_stop_63 : decode cX4_stop 63 = .ok (.iconst 0, 1) := dk_3 (dk_at dksX4_stop_2 16 rfl rfl)
theorem dX4_stop_64 : decode cX4_stop 64 = .ok (.istore 6, 2) := dk_54 6 (dk_at dksX4_stop_2 17 rfl rfl)
theorem dX4_stop_66 : decode cX4_stop 66 = .ok (.iload 6, 2) := dk_21 6 (dk_at dksX4_stop_2 19 rfl rfl)
theorem dX4_stop_68 : decode cX4_stop 68 = .ok (.iload_n 3, 1) := dk_29 (dk_at dksX4_stop_2 21 rfl rfl)
theorem dX4_stop_69 : decode cX4_stop 69 = .ok (.if_icmp .gt 139, 3) := dk_163 0 139 (dk_at dksX4_stop_3 0 rfl rfl)
theorem dX4_stop_72 : decode cX4_stop 72 = .ok (.iconst 0, 1) := dk_3 (dk_at dksX4_stop_3 3 rfl rfl)
theorem dX4_stop_73 : decode cX4_stop 73 = .ok (.istore 7, 2) := dk_54 7 (dk_at dksX4_stop_3 4 rfl rfl)
theorem dX4_stop_75 : decode cX4_stop 75 = .ok (.iload 7, 2) := dk_21 7 (dk_at dksX4_stop_3 6 rfl rfl)
theorem dX4_stop_77 : decode cX4_stop 77 = .ok (.bipush 29, 2) := dk_16 29 (dk_at dksX4_stop_3 8 rfl rfl)
theorem dX4_stop_79 : decode cX4_stop 79 = .ok (.iload 6, 2) := dk_21 6 (dk_at dksX4_stop_3 10 rfl rfl)
theorem dX4_stop_81 : decode cX4_stop 81 = .ok (.isub, 1) := dk_100 (dk_at dksX4_stop_3 12 rfl rfl)
theorem dX4_stop_82 : decode cX4_stop 82 = .ok (.if_icmp .ge 120, 3) := dk_162 0 120 (dk_at dksX4_stop_3 13 rfl rfl)
theorem dX4_stop_85 : decode cX4_stop 85 = .ok (.bipush 30, 2) := dk_16 30 (dk_at dksX4_stop_3 16 rfl rfl)
theorem dX4_stop_87 : decode cX4_stop 87 = .ok (.iload 6, 2) := dk_21 6 (dk_at dksX4_stop_3 18 rfl rfl)
theorem dX4_stop_89 : decode cX4_stop 89 = .ok (.imul, 1) := dk_104 (dk_at dksX4_stop_3 20 rfl rfl)
theorem dX4_stop_90 : decode cX4_stop 90 = .ok (.iload 7, 2) := dk_21 7 (dk_at dksX4_stop_3 21 rfl rfl)
theorem dX4_stop_92 : decode cX4_stop 92 = .ok (.iadd, 1) := dk_96 (dk_at dksX4_stop_3 23 rfl rfl)
theorem dX4_stop_93 : decode cX4_stop 93 = .ok (.istore 8, 2) := dk_54 8 (dk_at dksX4_stop_4 0 rfl rfl)
theorem dX4_stop_95 : decode cX4_stop 95 = .ok (.iload 7, 2) := dk_21 7 (dk_at dksX4_stop_4 2 rfl rfl)
theorem dX4_stop_97 : decode cX4_stop 97 = .ok (.iload 6, 2) := dk_21 6 (dk_at dksX4_stop_4 4 rfl rfl)
theorem dX4_stop_99 : decode cX4_stop 99 = .ok (.invokestatic 414, 3) := dk_184 1 158 (dk_at dksX4_stop_4 6 rfl rfl)
theorem dX4_stop_102 : decode cX4_stop 102 = .ok (.imul, 1) := dk_104 (dk_at dksX4_stop_4 9 rfl rfl)
theorem dX4_stop_103 : decode cX4_stop 103 = .ok (.istore 9, 2) := dk_54 9 (dk_at dksX4_stop_4 10 rfl rfl)
theorem dX4_stop_105 : decode cX4_stop 105 = .ok (.iload 7, 2) := dk_21 7 (dk_at dksX4_stop_4 12 rfl rfl)
theorem dX4_stop_107 : decode cX4_stop 107 = .ok (.ifCond .eq 8, 3) := dk_153 0 8 (dk_at dksX4_stop_4 14 rfl rfl)
theorem dX4_stop_110 : decode cX4_stop 110 = .ok (.iload 6, 2) := dk_21 6 (dk_at dksX4_stop_4 17 rfl rfl)
theorem dX4_stop_112 : decode cX4_stop 112 = .ok (.ifCond .ne 7, 3) := dk_154 0 7 (dk_at dksX4_stop_4 19 rfl rfl)
theorem dX4_stop_115 : decode cX4_stop 115 = .ok (.iconst 0, 1) := dk_3 (dk_at dksX4_stop_4 22 rfl rfl)
theorem dX4_stop_116 : decode cX4_stop 116 = .ok (.goto 31, 3) := dk_167 0 31 (dk_at dksX4_stop_5 0 rfl rfl)
theorem dX4_stop_119 : decode cX4_stop 119 = .ok (.iload_n 2, 1) := dk_28 (dk_at dksX4_stop_5 3 rfl rfl)
theorem dX4_stop_120 : decode cX4_stop 120 = .ok (.aload_n 0, 1) := dk_42 (dk_at dksX4_stop_5 4 rfl rfl)
theorem dX4_stop_121 : decode cX4_stop 121 = .ok (.getfield 96, 3) := dk_180 0 96 (dk_at dksX4_stop_5 5 rfl rfl)
theorem dX4_stop_124 : decode cX4_stop 124 = .ok (.iload 8, 2) := dk_21 8 (dk_at dksX4_stop_5 8 rfl rfl)
theorem dX4_stop_126 : decode cX4_stop 126 = .ok (.bipush 29, 2) := dk_16 29 (dk_at dksX4_stop_5 10 rfl rfl)
theorem dX4_stop_128 : decode cX4_stop 128 = .ok (.isub, 1) := dk_100 (dk_at dksX4_stop_5 12 rfl rfl)
theorem dX4_stop_129 : decode cX4_stop 129 = .ok (.iaload, 1) := dk_46 (dk_at dksX4_stop_5 13 rfl rfl)
theorem dX4_stop_130 : decode cX4_stop 130 = .ok (.imul, 1) := dk_104 (dk_at dksX4_stop_5 14 rfl rfl)
theorem dX4_stop_131 : decode cX4_stop 131 = .ok (.bipush 12, 2) := dk_16 12 (dk_at dksX4_stop_5 15 rfl rfl)
theorem dX4_stop_133 : decode cX4_stop 133 = .ok (.iload_n 2, 1) := dk_28 (dk_at dksX4_stop_5 17 rfl rfl)
theorem dX4_stop_134 : decode cX4_stop 134 = .ok (.isub, 1) := dk_100 (dk_at dksX4_stop_5 18 rfl rfl)
theorem dX4_stop_135 : decode cX4_stop 135 = .ok (.aload_n 0, 1) := dk_42 (dk_at dksX4_stop_5 19 rfl rfl)
theorem dX4_stop_136 : decode cX4_stop 136 = .ok (.getfield 96, 3) := dk_180 0 96 (dk_at dksX4_stop_5 20 rfl rfl)
theorem dX4_stop_139 : decode cX4_stop 139 = .ok (.iload 8, 2) := dk_21 8 (dk_at dksX4_stop_6 0 rfl rfl)
theorem dX4_stop_141 : decode cX4_stop 141 = .ok (.bipush 31, 2) := dk_16 31 (dk_at dksX4_stop_6 2 rfl rfl)
theorem dX4_stop_143 : decode cX4_stop 143 = .ok (.isub, 1) := dk_100 (dk_at dksX4_stop_6 4 rfl rfl)
theorem dX4_stop_144 : decode cX4_stop 144 = .ok (.iaload, 1) := dk_46 (dk_at dksX4_stop_6 5 rfl rfl)
theorem dX4_stop_145 : decode cX4_stop 145 = .ok (.imul, 1) := dk_104 (dk_at dksX4_stop_6 6 rfl rfl)
theorem dX4_stop_146 : decode cX4_stop 146 = .ok (.iadd, 1) := dk_96 (dk_at dksX4_stop_6 7 rfl rfl)
theorem dX4_stop_147 : decode cX4_stop 147 = .ok (.istore 10, 2) := dk_54 10 (dk_at dksX4_stop_6 8 rfl rfl)
theorem dX4_stop_149 : decode cX4_stop 149 = .ok (.aload_n 0, 1) := dk_42 (dk_at dksX4_stop_6 10 rfl rfl)
theorem dX4_stop_150 : decode cX4_stop 150 = .ok (.getfield 96, 3) := dk_180 0 96 (dk_at dksX4_stop_6 11 rfl rfl)
theorem dX4_stop_153 : decode cX4_stop 153 = .ok (.iload 8, 2) := dk_21 8 (dk_at dksX4_stop_6 14 rfl rfl)
theorem dX4_stop_155 : decode cX4_stop 155 = .ok (.iload 10, 2) := dk_21 10 (dk_at dksX4_stop_6 16 rfl rfl)
theorem dX4_stop_157 : decode cX4_stop 157 = .ok (.iload 9, 2) := dk_21 9 (dk_at dksX4_stop_6 18 rfl rfl)
theorem dX4_stop_159 : decode cX4_stop 159 = .ok (.if_icmp .le 8, 3) := dk_164 0 8 (dk_at dksX4_stop_6 20 rfl rfl)
theorem dX4_stop_162 : decode cX4_stop 162 = .ok (.iload 10, 2) := dk_21 10 (dk_at dksX4_stop_7 0 rfl rfl)
theorem dX4_stop_164 : decode cX4_stop 164 = .ok (.goto 5, 3) := dk_167 0 5 (dk_at dksX4_stop_7 2 rfl rfl)
theorem dX4_stop_167 : decode cX4_stop 167 = .ok (.iload 9, 2) := dk_21 9 (dk_at dksX4_stop_7 5 rfl rfl)
theorem dX4_stop_169 : decode cX4_stop 169 = .ok (.iastore, 1) := dk_79 (dk_at dksX4_stop_7 7 rfl rfl)
theorem dX4_stop_170 : decode cX4_stop 170 = .ok (.iload 6, 2) := dk_21 6 (dk_at dksX4_stop_7 8 rfl rfl)
theorem dX4_stop_172 : decode cX4_stop 172 = .ok (.iload_n 3, 1) := dk_29 (dk_at dksX4_stop_7 10 rfl rfl)
theorem dX4_stop_173 : decode cX4_stop 173 = .ok (.if_icmp .ne 23, 3) := dk_160 0 23 (dk_at dksX4_stop_7 11 rfl rfl)
theorem dX4_stop_176 : decode cX4_stop 176 = .ok (.iload 7, 2) := dk_21 7 (dk_at dksX4_stop_7 14 rfl rfl)
theorem dX4_stop_178 : decode cX4_stop 178 = .ok (.iload_n 1, 1) := dk_27 (dk_at dksX4_stop_7 16 rfl rfl)
theorem dX4_stop_179 : decode cX4_stop 179 = .ok (.if_icmp .ne 17, 3) := dk_160 0 17 (dk_at dksX4_stop_7 17 rfl rfl)
theorem dX4_stop_182 : decode cX4_stop 182 = .ok (.iload 10, 2) := dk_21 10 (dk_at dksX4_stop_7 20 rfl rfl)
theorem dX4_stop_184 : decode cX4_stop 184 = .ok (.iload 9, 2) := dk_21 9 (dk_at dksX4_stop_7 22 rfl rfl)
theorem dX4_stop_186 : decode cX4_stop 186 = .ok (.if_icmp .le 7, 3) := dk_164 0 7 (dk_at dksX4_stop_8 0 rfl rfl)
theorem dX4_stop_189 : decode cX4_stop 189 = .ok (.iconst 1, 1) := dk_4 (dk_at dksX4_stop_8 3 rfl rfl)
theorem dX4_stop_190 : decode cX4_stop 190 = .ok (.goto 4, 3) := dk_167 0 4 (dk_at dksX4_stop_8 4 rfl rfl)
theorem dX4_stop_193 : decode cX4_stop 193 = .ok (.iconst 0, 1) := dk_3 (dk_at dksX4_stop_8 7 rfl rfl)
theorem dX4_stop_194 : decode cX4_stop 194 = .ok (.istore 5, 2) := dk_54 5 (dk_at dksX4_stop_8 8 rfl rfl)
theorem dX4_stop_196 : decode cX4_stop 196 = .ok (.iinc 7 1, 3) := dk_132 7 1 (dk_at dksX4_stop_8 10 rfl rfl)
theorem dX4_stop_199 : decode cX4_stop 199 = .ok (.goto (-124), 3) := dk_167 255 132 (dk_at dksX4_stop_8 13 rfl rfl)
theorem dX4_stop_202 : decode cX4_stop 202 = .ok (.iinc 6 1, 3) := dk_132 6 1 (dk_at dksX4_stop_8 16 rfl rfl)
theorem dX4_stop_205 : decode cX4_stop 205 = .ok (.goto (-139), 3) := dk_167 255 117 (dk_at dksX4_stop_8 19 rfl rfl)
theorem dX4_stop_208 : decode cX4_stop 208 = .ok (.iload 4, 2) := dk_21 4 (dk_at dksX4_stop_8 22 rfl rfl)
theorem dX4_stop_210 : decode cX4_stop 210 = .ok (.ifCond .ne 17, 3) := dk_154 0 17 (dk_at dksX4_stop_9 0 rfl rfl)
theorem dX4_stop_213 : decode cX4_stop 213 = .ok (.aload_n 0, 1) := dk_42 (dk_at dksX4_stop_9 3 rfl rfl)
theorem dX4_stop_214 : decode cX4_stop 214 = .ok (.getfield 96, 3) := dk_180 0 96 (dk_at dksX4_stop_9 4 rfl rfl)
theorem dX4_stop_217 : decode cX4_stop 217 = .ok (.bipush 30, 2) := dk_16 30 (dk_at dksX4_stop_9 7 rfl rfl)
theorem dX4_stop_219 : decode cX4_stop 219 = .ok (.iload_n 3, 1) := dk_29 (dk_at dksX4_stop_9 9 rfl rfl)
theorem dX4_stop_220 : decode cX4_stop 220 = .ok (.imul, 1) := dk_104 (dk_at dksX4_stop_9 10 rfl rfl)
theorem dX4_stop_221 : decode cX4_stop 221 = .ok (.iload_n 1, 1) := dk_27 (dk_at dksX4_stop_9 11 rfl rfl)
theorem dX4_stop_222 : decode cX4_stop 222 = .ok (.iadd, 1) := dk_96 (dk_at dksX4_stop_9 12 rfl rfl)
theorem dX4_stop_223 : decode cX4_stop 223 = .ok (.iaload, 1) := dk_46 (dk_at dksX4_stop_9 13 rfl rfl)
theorem dX4_stop_224 : decode cX4_stop 224 = .ok (.goto 13, 3) := dk_167 0 13 (dk_at dksX4_stop_9 14 rfl rfl)
theorem dX4_stop_227 : decode cX4_stop 227 = .ok (.iload 5, 2) := dk_21 5 (dk_at dksX4_stop_9 17 rfl rfl)
theorem dX4_stop_229 : decode cX4_stop 229 = .ok (.ifCond .eq 7, 3) := dk_153 0 7 (dk_at dksX4_stop_9 19 rfl rfl)
theorem dX4_stop_232 : decode cX4_stop 232 = .ok (.iconst 1, 1) := dk_4 (dk_at dksX4_stop_9 22 rfl rfl)
theorem dX4_stop_233 : decode cX4_stop 233 = .ok (.goto 4, 3) := dk_167 0 4 (dk_at dksX4_stop_10 0 rfl rfl)
theorem dX4_stop_236 : decode cX4_stop 236 = .ok (.iconst 0, 1) := dk_3 (dk_at dksX4_stop_10 3 rfl rfl)
theorem dX4_stop_237 : decode cX4_stop 237 = .ok (.ireturn, 1) := dk_172 (dk_at dksX4_stop_10 4 rfl rfl)
abbrev cX4_see : ByteArray := prog_13_method_99_code
def yX4_see : MethodName := ⟨RX4, "see", "(III)I"⟩
def dkwX4_see_4 : List UInt8 := [180, 1, 41, 4, 96, 181, 1, 41, 42, 180, 1, 41, 172]
abbrev dktX4_see_4 : List UInt8 := dkwX4_see_4 ++ []
def dkwX4_see_3 : List UInt8 := [180, 1, 41, 104, 4, 96, 28, 79, 42, 180, 0, 99, 6, 42, 180, 1, 41, 104, 5, 96, 29, 79, 42, 89]
abbrev dktX4_see_3 : List UInt8 := dkwX4_see_3 ++ dktX4_see_4
def dkwX4_see_2 : List UInt8 := [182, 1, 115, 172, 42, 180, 0, 99, 6, 42, 180, 1, 41, 104, 27, 79, 42, 180, 0, 99, 6, 42]
abbrev dktX4_see_2 : List UInt8 := dkwX4_see_2 ++ dktX4_see_3
def dkwX4_see_1 : List UInt8 := [28, 3, 16, 30, 184, 1, 90, 153, 0, 14, 29, 3, 17, 39, 15, 184, 1, 90, 154, 0, 9, 42, 5]
abbrev dktX4_see_1 : List UInt8 := dkwX4_see_1 ++ dktX4_see_2
def dkwX4_see_0 : List UInt8 := [42, 3, 181, 0, 117, 42, 27, 182, 1, 106, 154, 0, 5, 3, 172, 42, 180, 1, 41, 16, 8, 159, 0, 24]
abbrev dktX4_see_0 : List UInt8 := dkwX4_see_0 ++ dktX4_see_1
theorem dksX4_see_0 : cX4_see.data.toList.drop 0 = dktX4_see_0 := by decide +kernel
theorem dksX4_see_1 : cX4_see.data.toList.drop 24 = dktX4_see_1 := dk_seg dksX4_see_0 24 rfl rfl
theorem dksX4_see_2 : cX4_see.data.toList.drop 47 = dktX4_see_2 := dk_seg dksX4_see_1 23 rfl rfl
theorem dksX4_see_3 : cX4_see.data.toList.drop 69 = dktX4_see_3 := dk_seg dksX4_see_2 22 rfl rfl
theorem dksX4_see_4 : cX4_see.data.toList.drop 93 = dktX4_see_4 := dk_seg dksX4_see_3 24 rfl rfl
theorem dX4_see_0 : decode cX4_see 0 = .ok (.aload_n 0, 1) := dk_42 (dk_at dksX4_see_0 0 rfl rfl)
theorem dX4_see_1 : decode cX4_see 1 = .ok (.iconst 0, 1) := dk_3 (dk_at dksX4_see_0 1 rfl rfl)
theorem dX4_see_2 : decode cX4_see 2 = .ok (.putfield 117, 3) := dk_181 0 117 (dk_at dksX4_see_0 2 rfl rfl)
theorem dX4_see_5 : decode cX4_see 5 = .ok (.aload_n 0, 1) := dk_42 (dk_at dksX4_see_0 5 rfl rfl)
theorem dX4_see_6 : decode cX4_see 6 = .ok (.iload_n 1, 1) := dk_27 (dk_at dksX4_see_0 6 rfl rfl)
theorem dX4_see_7 : decode cX4_see 7 = .ok (.invokevirtual 362, 3) := dk_182 1 106 (dk_at dksX4_see_0 7 rfl rfl)
theorem dX4_see_10 : decode cX4_see 10 = .ok (.ifCond .ne 5, 3) := dk_154 0 5 (dk_at dksX4_see_0 10 rfl rfl)
theorem dX4_see_13 : decode cX4_see 13 = .ok (.iconst 0, 1) := dk_3 (dk_at dksX4_see_0 13 rfl rfl)
theorem dX4_see_14 : decode cX4_see 14 = .ok (.ireturn, 1) := dk_172 (dk_at dksX4_see_0 14 rfl rfl)
theorem dX4_see_15 : decode cX4_see 15 = .ok (.aload_n 0, 1) := dk_42 (dk_at dksX4_see_0 15 rfl rfl)
theorem dX4_see_16 : decode cX4_see 16 = .ok (.getfield 297, 3) := dk_180 1 41 (dk_at dksX4_see_0 16 rfl rfl)
theorem dX4_see_19 : decode cX4_see 19 = .ok (.bipush 8, 2) := dk_16 8 (dk_at dksX4_see_0 19 rfl rfl)
theorem dX4_see_21 : decode cX4_see 21 = .ok (.if_icmp .eq 24, 3) := dk_159 0 24 (dk_at dksX4_see_0 21 rfl rfl)
theorem dX4_see_24 : decode cX4_see 24 = .ok (.iload_n 2, 1) := dk_28 (dk_at dksX4_see_1 0 rfl rfl)
theorem dX4_see_25 : decode cX4_see 25 = .ok (.iconst 0, 1) := dk_3 (dk_at dksX4_see_1 1 rfl rfl)
theorem dX4_see_26 : decode cX4_see 26 = .ok (.bipush 30, 2) := dk_16 30 (dk_at dksX4_see_1 2 rfl rfl)
theorem dX4_see_28 : decode cX4_see 28 = .ok (.invokestatic 346, 3) := dk_184 1 90 (dk_at dksX4_see_1 4 rfl rfl)
theorem dX4_see_31 : decode cX4_see 31 = .ok (.ifCond .eq 14, 3) := dk_153 0 14 (dk_at dksX4_see_1 7 rfl rfl)
theorem dX4_see_34 : decode cX4_see 34 = .ok (.iload_n 3, 1) := dk_29 (dk_at dksX4_see_1 10 rfl rfl)
theorem dX4_see_35 : decode cX4_see 35 = .ok (.iconst 0, 1) := dk_3 (dk_at dksX4_see_1 11 rfl rfl)
theorem dX4_see_36 : decode cX4_see 36 = .ok (.sipush 9999, 3) := dk_17 39 15 (dk_at dksX4_see_1 12 rfl rfl)
theorem dX4_see_39 : decode cX4_see 39 = .ok (.invokestatic 346, 3) := dk_184 1 90 (dk_at dksX4_see_1 15 rfl rfl)
theorem dX4_see_42 : decode cX4_see 42 = .ok (.ifCond .ne 9, 3) := dk_154 0 9 (dk_at dksX4_see_1 18 rfl rfl)
theorem dX4_see_45 : decode cX4_see 45 = .ok (.aload_n 0, 1) := dk_42 (dk_at dksX4_see_1 21 rfl rfl)
theorem dX4_see_46 : decode cX4_see 46 = .ok (.iconst 2, 1) := dk_5 (dk_at dksX4_see_1 22 rfl rfl)
theorem dX4_see_47 : decode cX4_see 47 = .ok (.invokevirtual 371, 3) := dk_182 1 115 (dk_at dksX4_see_2 0 rfl rfl)
theorem dX4_see_50 : decode cX4_see 50 = .ok (.ireturn, 1) := dk_172 (dk_at dksX4_see_2 3 rfl rfl)
theorem dX4_see_51 : decode cX4_see 51 = .ok (.aload_n 0, 1) := dk_42 (dk_at dksX4_see_2 4 rfl rfl)
theorem dX4_see_52 : decode cX4_see 52 = .ok (.getfield 99, 3) := dk_180 0 99 (dk_at dksX4_see_2 5 rfl rfl)
theorem dX4_see_55 : decode cX4_see 55 = .ok (.iconst 3, 1) := dk_6 (dk_at dksX4_see_2 8 rfl rfl)
theorem dX4_see_56 : decode cX4_see 56 = .ok (.aload_n 0, 1) := dk_42 (dk_at dksX4_see_2 9 rfl rfl)
theorem dX4_see_57 : decode cX4_see 57 = .ok (.getfield 297, 3) := dk_180 1 41 (dk_at dksX4_see_2 10 rfl rfl)
theorem dX4_see_60 : decode cX4_see 60 = .ok (.imul, 1) := dk_104 (dk_at dksX4_see_2 13 rfl rfl)
theorem dX4_see_61 : decode cX4_see 61 = .ok (.iload_n 1, 1) := dk_27 (dk_at dksX4_see_2 14 rfl rfl)
theorem dX4_see_62 : decode cX4_see 62 = .ok (.iastore, 1) := dk_79 (dk_at dksX4_see_2 15 rfl rfl)
theorem dX4_see_63 : decode cX4_see 63 = .ok (.aload_n 0, 1) := dk_42 (dk_at dksX4_see_2 16 rfl rfl)
theorem dX4_see_64 : decode cX4_see 64 = .ok (.getfield 99, 3) := dk_180 0 99 (dk_at dksX4_see_2 17 rfl rfl)
theorem dX4_see_67 : decode cX4_see 67 = .ok (.iconst 3, 1) := dk_6 (dk_at dksX4_see_2 20 rfl rfl)
theorem dX4_see_68 : decode cX4_see 68 = .ok (.aload_n 0, 1) := dk_42 (dk_at dksX4_see_2 21 rfl rfl)
theorem dX4_see_69 : decode cX4_see 69 = .ok (.getfield 297, 3) := dk_180 1 41 (dk_at dksX4_see_3 0 rfl rfl)
theorem dX4_see_72 : decode cX4_see 72 = .ok (.imul, 1) := dk_104 (dk_at dksX4_see_3 3 rfl rfl)
theorem dX4_see_73 : decode cX4_see 73 = .ok (.iconst 1, 1) := dk_4 (dk_at dksX4_see_3 4 rfl rfl)
theorem dX4_see_74 : decode cX4_see 74 = .ok (.iadd, 1) := dk_96 (dk_at dksX4_see_3 5 rfl rfl)
theorem dX4_see_75 : decode cX4_see 75 = .ok (.iload_n 2, 1) := dk_28 (dk_at dksX4_see_3 6 rfl rfl)
theorem dX4_see_76 : decode cX4_see 76 = .ok (.iastore, 1) := dk_79 (dk_at dksX4_see_3 7 rfl rfl)
theorem dX4_see_77 : decode cX4_see 77 = .ok (.aload_n 0, 1) := dk_42 (dk_at dksX4_see_3 8 rfl rfl)
theorem dX4_see_78 : decode cX4_see 78 = .ok (.getfield 99, 3) := dk_180 0 99 (dk_at dksX4_see_3 9 rfl rfl)
theorem dX4_see_81 : decode cX4_see 81 = .ok (.iconst 3, 1) := dk_6 (dk_at dksX4_see_3 12 rfl rfl)
theorem dX4_see_82 : decode cX4_see 82 = .ok (.aload_n 0, 1) := dk_42 (dk_at dksX4_see_3 13 rfl rfl)
theorem dX4_see_83 : decode cX4_see 83 = .ok (.getfield 297, 3) := dk_180 1 41 (dk_at dksX4_see_3 14 rfl rfl)
theorem dX4_see_86 : decode cX4_see 86 = .ok (.imul, 1) := dk_104 (dk_at dksX4_see_3 17 rfl rfl)
theorem dX4_see_87 : decode cX4_see 87 = .ok (.iconst 2, 1) := dk_5 (dk_at dksX4_see_3 18 rfl rfl)
theorem dX4_see_88 : decode cX4_see 88 = .ok (.iadd, 1) := dk_96 (dk_at dksX4_see_3 19 rfl rfl)
theorem dX4_see_89 : decode cX4_see 89 = .ok (.iload_n 3, 1) := dk_29 (dk_at dksX4_see_3 20 rfl rfl)
theorem dX4_see_90 : decode cX4_see 90 = .ok (.iastore, 1) := dk_79 (dk_at dksX4_see_3 21 rfl rfl)
theorem dX4_see_91 : decode cX4_see 91 = .ok (.aload_n 0, 1) := dk_42 (dk_at dksX4_see_3 22 rfl rfl)
theorem dX4_see_92 : decode cX4_see 92 = .ok (.dup, 1) := dk_89 (dk_at dksX4_see_3 23 rfl rfl)
theorem dX4_see_93 : decode cX4_see 93 = .ok (.getfield 297, 3) := dk_180 1 41 (dk_at dksX4_see_4 0 rfl rfl)
theorem dX4_see_96 : decode cX4_see 96 = .ok (.iconst 1, 1) := dk_4 (dk_at dksX4_see_4 3 rfl rfl)
theorem dX4_see_97 : decode cX4_see 97 = .ok (.iadd, 1) := dk_96 (dk_at dksX4_see_4 4 rfl rfl)
theorem dX4_see_98 : decode cX4_see 98 = .ok (.putfield 297, 3) := dk_181 1 41 (dk_at dksX4_see_4 5 rfl rfl)
theorem dX4_see_101 : decode cX4_see 101 = .ok (.aload_n 0, 1) := dk_42 (dk_at dksX4_see_4 8 rfl rfl)
theorem dX4_see_102 : decode cX4_see 102 = .ok (.getfield 297, 3) := dk_180 1 41 (dk_at dksX4_see_4 9 rfl rfl)
theorem dX4_see_105 : decode cX4_see 105 = .ok (.ireturn, 1) := dk_172 (dk_at dksX4_see_4 12 rfl rfl)
abbrev cX4_forget : ByteArray := prog_13_method_100_code
def yX4_forget : MethodName := ⟨RX4, "forget", "()V"⟩
def dkwX4_forget_0 : List UInt8 := [42, 3, 181, 0, 117, 42, 3, 181, 1, 41, 177]
abbrev dktX4_forget_0 : List UInt8 := dkwX4_forget_0 ++ []
theorem dksX4_forget_0 : cX4_forget.data.toList.drop 0 = dktX4_forget_0 := by decide +kernel
theorem dX4_forget_0 : decode cX4_forget 0 = .ok (.aload_n 0, 1) := dk_42 (dk_at dksX4_forget_0 0 rfl rfl)
theorem dX4_forget_1 : decode cX4_forget 1 = .ok (.iconst 0, 1) := dk_3 (dk_at dksX4_forget_0 1 rfl rfl)
theorem dX4_forget_2 : decode cX4_forget 2 = .ok (.putfield 117, 3) := dk_181 0 117 (dk_at dksX4_forget_0 2 rfl rfl)
theorem dX4_forget_5 : decode cX4_forget 5 = .ok (.aload_n 0, 1) := dk_42 (dk_at dksX4_forget_0 5 rfl rfl)
theorem dX4_forget_6 : decode cX4_forget 6 = .ok (.iconst 0, 1) := dk_3 (dk_at dksX4_forget_0 6 rfl rfl)
theorem dX4_forget_7 : decode cX4_forget 7 = .ok (.putfield 297, 3) := dk_181 1 41 (dk_at dksX4_forget_0 7 rfl rfl)
theorem dX4_forget_10 : decode cX4_forget 10 = .ok (.return_, 1) := dk_177 (dk_at dksX4_forget_0 10 rfl rfl)
abbrev cX4_opened : ByteArray := prog_13_method_103_code
def yX4_opened : MethodName := ⟨RX4, "opened", "(I)I"⟩
def dkwX4_opened_3 : List UInt8 := [160, 0, 6, 21, 4, 62, 132, 4, 1, 167, 255, 218, 27, 154, 0, 7, 28, 167, 0, 4, 29, 172]
abbrev dktX4_opened_3 : List UInt8 := dkwX4_opened_3 ++ []
def dkwX4_opened_2 : List UInt8 := [180, 1, 31, 104, 162, 0, 32, 42, 21, 4, 182, 1, 164, 154, 0, 6, 167, 0, 14, 132, 2, 1, 29, 2]
abbrev dktX4_opened_2 : List UInt8 := dkwX4_opened_2 ++ dktX4_opened_3
def dkwX4_opened_1 : List UInt8 := [182, 1, 161, 153, 0, 7, 4, 167, 0, 4, 3, 172, 3, 61, 2, 62, 3, 54, 4, 21, 4, 16, 10, 42]
abbrev dktX4_opened_1 : List UInt8 := dkwX4_opened_1 ++ dktX4_opened_2
def dkwX4_opened_0 : List UInt8 := [42, 3, 181, 0, 117, 42, 27, 5, 182, 1, 109, 154, 0, 5, 3, 172, 27, 5, 160, 0, 18, 42, 2, 3]
abbrev dktX4_opened_0 : List UInt8 := dkwX4_opened_0 ++ dktX4_opened_1
theorem dksX4_opened_0 : cX4_opened.data.toList.drop 0 = dktX4_opened_0 := by decide +kernel
theorem dksX4_opened_1 : cX4_opened.data.toList.drop 24 = dktX4_opened_1 := dk_seg dksX4_opened_0 24 rfl rfl
theorem dksX4_opened_2 : cX4_opened.data.toList.drop 48 = dktX4_opened_2 := dk_seg dksX4_opened_1 24 rfl rfl
theorem dksX4_opened_3 : cX4_opened.data.toList.drop 72 = dktX4_opened_3 := dk_seg dksX4_opened_2 24 rfl rfl
theorem dX4_opened_0 : decode cX4_opened 0 = .ok (.aload_n 0, 1) := dk_42 (dk_at dksX4_opened_0 0 rfl rfl)
theorem dX4_opened_1 : decode cX4_opened 1 = .ok (.iconst 0, 1) := dk_3 (dk_at dksX4_opened_0 1 rfl rfl)
theorem dX4_opened_2 : decode cX4_opened 2 = .ok (.putfield 117, 3) := dk_181 0 117 (dk_at dksX4_opened_0 2 rfl rfl)
theorem dX4_opened_5 : decode cX4_opened 5 = .ok (.aload_n 0, 1) := dk_42 (dk_at dksX4_opened_0 5 rfl rfl)
theorem dX4_opened_6 : decode cX4_opened 6 = .ok (.iload_n 1, 1) := dk_27 (dk_at dksX4_opened_0 6 rfl rfl)
theorem dX4_opened_7 : decode cX4_opened 7 = .ok (.iconst 2, 1) := dk_5 (dk_at dksX4_opened_0 7 rfl rfl)
theorem dX4_opened_8 : decode cX4_opened 8 = .ok (.invokevirtual 365, 3) := dk_182 1 109 (dk_at dksX4_opened_0 8 rfl rfl)
theorem dX4_opened_11 : decode cX4_opened 11 = .ok (.ifCond .ne 5, 3) := dk_154 0 5 (dk_at dksX4_opened_0 11 rfl rfl)
theorem dX4_opened_14 : decode cX4_opened 14 = .ok (.iconst 0, 1) := dk_3 (dk_at dksX4_opened_0 14 rfl rfl)
theorem dX4_opened_15 : decode cX4_opened 15 = .ok (.ireturn, 1) := dk_172 (dk_at dksX4_opened_0 15 rfl rfl)
theorem dX4_opened_16 : decode cX4_opened 16 = .ok (.iload_n 1, 1) := dk_27 (dk_at dksX4_opened_0 16 rfl rfl)
theorem dX4_opened_17 : decode cX4_opened 17 = .ok (.iconst 2, 1) := dk_5 (dk_at dksX4_opened_0 17 rfl rfl)
theorem dX4_opened_18 : decode cX4_opened 18 = .ok (.if_icmp .ne 18, 3) := dk_160 0 18 (dk_at dksX4_opened_0 18 rfl rfl)
theorem dX4_opened_21 : decode cX4_opened 21 = .ok (.aload_n 0, 1) := dk_42 (dk_at dksX4_opened_0 21 rfl rfl)
theorem dX4_opened_22 : decode cX4_opened 22 = .ok (.iconst (-1), 1) := dk_2 (dk_at dksX4_opened_0 22 rfl rfl)
theorem dX4_opened_23 : decode cX4_opened 23 = .ok (.iconst 0, 1) := dk_3 (dk_at dksX4_opened_0 23 rfl rfl)
theorem dX4_opened_24 : decode cX4_opened 24 = .ok (.invokevirtual 417, 3) := dk_182 1 161 (dk_at dksX4_opened_1 0 rfl rfl)
theorem dX4_opened_27 : decode cX4_opened 27 = .ok (.ifCond .eq 7, 3) := dk_153 0 7 (dk_at dksX4_opened_1 3 rfl rfl)
theorem dX4_opened_30 : decode cX4_opened 30 = .ok (.iconst 1, 1) := dk_4 (dk_at dksX4_opened_1 6 rfl rfl)
theorem dX4_opened_31 : decode cX4_opened 31 = .ok (.goto 4, 3) := dk_167 0 4 (dk_at dksX4_opened_1 7 rfl rfl)
theorem dX4_opened_34 : decode cX4_opened 34 = .ok (.iconst 0, 1) := dk_3 (dk_at dksX4_opened_1 10 rfl rfl)
theorem dX4_opened_35 : decode cX4_opened 35 = .ok (.ireturn, 1) := dk_172 (dk_at dksX4_opened_1 11 rfl rfl)
theorem dX4_opened_36 : decode cX4_opened 36 = .ok (.iconst 0, 1) := dk_3 (dk_at dksX4_opened_1 12 rfl rfl)
theorem dX4_opened_37 : decode cX4_opened 37 = .ok (.istore_n 2, 1) := dk_61 (dk_at dksX4_opened_1 13 rfl rfl)
theorem dX4_opened_38 : decode cX4_opened 38 = .ok (.iconst (-1), 1) := dk_2 (dk_at dksX4_opened_1 14 rfl rfl)
theorem dX4_opened_39 : decode cX4_opened 39 = .ok (.istore_n 3, 1) := dk_62 (dk_at dksX4_opened_1 15 rfl rfl)
theorem dX4_opened_40 : decode cX4_opened 40 = .ok (.iconst 0, 1) := dk_3 (dk_at dksX4_opened_1 16 rfl rfl)
theorem dX4_opened_41 : decode cX4_opened 41 = .ok (.istore 4, 2) := dk_54 4 (dk_at dksX4_opened_1 17 rfl rfl)
theorem dX4_opened_43 : decode cX4_opened 43 = .ok (.iload 4, 2) := dk_21 4 (dk_at dksX4_opened_1 19 rfl rfl)
theorem dX4_opened_45 : decode cX4_opened 45 = .ok (.bipush 10, 2) := dk_16 10 (dk_at dksX4_opened_1 21 rfl rfl)
theorem dX4_opened_47 : decode cX4_opened 47 = .ok (.aload_n 0, 1) := dk_42 (dk_at dksX4_opened_1 23 rfl rfl)
theorem dX4_opened_48 : decode cX4_opened 48 = .ok (.getfield 287, 3) := dk_180 1 31 (dk_at dksX4_opened_2 0 rfl rfl)
theorem dX4_opened_51 : decode cX4_opened 51 = .ok (.imul, 1) := dk_104 (dk_at dksX4_opened_2 3 rfl rfl)
theorem dX4_opened_52 : decode cX4_opened 52 = .ok (.if_icmp .ge 32, 3) := dk_162 0 32 (dk_at dksX4_opened_2 4 rfl rfl)
theorem dX4_opened_55 : decode cX4_opened 55 = .ok (.aload_n 0, 1) := dk_42 (dk_at dksX4_opened_2 7 rfl rfl)
theorem dX4_opened_56 : decode cX4_opened 56 = .ok (.iload 4, 2) := dk_21 4 (dk_at dksX4_opened_2 8 rfl rfl)
theorem dX4_opened_58 : decode cX4_opened 58 = .ok (.invokevirtual 420, 3) := dk_182 1 164 (dk_at dksX4_opened_2 10 rfl rfl)
theorem dX4_opened_61 : decode cX4_opened 61 = .ok (.ifCond .ne 6, 3) := dk_154 0 6 (dk_at dksX4_opened_2 13 rfl rfl)
theorem dX4_opened_64 : decode cX4_opened 64 = .ok (.goto 14, 3) := dk_167 0 14 (dk_at dksX4_opened_2 16 rfl rfl)
theorem dX4_opened_67 : decode cX4_opened 67 = .ok (.iinc 2 1, 3) := dk_132 2 1 (dk_at dksX4_opened_2 19 rfl rfl)
theorem dX4_opened_70 : decode cX4_opened 70 = .ok (.iload_n 3, 1) := dk_29 (dk_at dksX4_opened_2 22 rfl rfl)
theorem dX4_opened_71 : decode cX4_opened 71 = .ok (.iconst (-1), 1) := dk_2 (dk_at dksX4_opened_2 23 rfl rfl)
theorem dX4_opened_72 : decode cX4_opened 72 = .ok (.if_icmp .ne 6, 3) := dk_160 0 6 (dk_at dksX4_opened_3 0 rfl rfl)
theorem dX4_opened_75 : decode cX4_opened 75 = .ok (.iload 4, 2) := dk_21 4 (dk_at dksX4_opened_3 3 rfl rfl)
theorem dX4_opened_77 : decode cX4_opened 77 = .ok (.istore_n 3, 1) := dk_62 (dk_at dksX4_opened_3 5 rfl rfl)
theorem dX4_opened_78 : decode cX4_opened 78 = .ok (.iinc 4 1, 3) := dk_132 4 1 (dk_at dksX4_opened_3 6 rfl rfl)
theorem dX4_opened_81 : decode cX4_opened 81 = .ok (.goto (-38), 3) := dk_167 255 218 (dk_at dksX4_opened_3 9 rfl rfl)
theorem dX4_opened_84 : decode cX4_opened 84 = .ok (.iload_n 1, 1) := dk_27 (dk_at dksX4_opened_3 12 rfl rfl)
theorem dX4_opened_85 : decode cX4_opened 85 = .ok (.ifCond .ne 7, 3) := dk_154 0 7 (dk_at dksX4_opened_3 13 rfl rfl)
theorem dX4_opened_88 : decode cX4_opened 88 = .ok (.iload_n 2, 1) := dk_28 (dk_at dksX4_opened_3 16 rfl rfl)
theorem dX4_opened_89 : decode cX4_opened 89 = .ok (.goto 4, 3) := dk_167 0 4 (dk_at dksX4_opened_3 17 rfl rfl)
theorem dX4_opened_92 : decode cX4_opened 92 = .ok (.iload_n 3, 1) := dk_29 (dk_at dksX4_opened_3 20 rfl rfl)
theorem dX4_opened_93 : decode cX4_opened 93 = .ok (.ireturn, 1) := dk_172 (dk_at dksX4_opened_3 21 rfl rfl)
abbrev cX4_isSeen : ByteArray := prog_13_method_101_code
def yX4_isSeen : MethodName := ⟨RX4, "isSeen", "(II)Z"⟩
def dkwX4_isSeen_6 : List UInt8 := [172]
abbrev dktX4_isSeen_6 : List UInt8 := dkwX4_isSeen_6 ++ []
def dkwX4_isSeen_5 : List UInt8 := [96, 46, 42, 180, 0, 99, 6, 29, 104, 5, 96, 46, 159, 0, 5, 3, 172, 132, 3, 1, 167, 255, 203, 4]
abbrev dktX4_isSeen_5 : List UInt8 := dkwX4_isSeen_5 ++ dktX4_isSeen_6
def dkwX4_isSeen_4 : List UInt8 := [180, 0, 102, 16, 8, 42, 180, 0, 99, 6, 29, 104, 4, 96, 46, 104, 42, 180, 0, 99, 6, 29, 104, 46]
abbrev dktX4_isSeen_4 : List UInt8 := dkwX4_isSeen_4 ++ dktX4_isSeen_5
def dkwX4_isSeen_3 : List UInt8 := [16, 85, 182, 1, 87, 132, 3, 1, 167, 255, 184, 3, 62, 29, 42, 180, 1, 41, 162, 0, 51, 42]
abbrev dktX4_isSeen_3 : List UInt8 := dkwX4_isSeen_3 ++ dktX4_isSeen_4
def dkwX4_isSeen_2 : List UInt8 := [29, 104, 21, 4, 96, 42, 180, 0, 75, 16, 86, 21, 4, 96, 46, 79, 132, 4, 1, 167, 255, 222, 42]
abbrev dktX4_isSeen_2 : List UInt8 := dkwX4_isSeen_2 ++ dktX4_isSeen_3
def dkwX4_isSeen_1 : List UInt8 := [16, 85, 27, 182, 1, 127, 3, 54, 4, 21, 4, 42, 180, 1, 25, 162, 0, 31, 42, 180, 0, 102, 16, 8]
abbrev dktX4_isSeen_1 : List UInt8 := dkwX4_isSeen_1 ++ dktX4_isSeen_2
def dkwX4_isSeen_0 : List UInt8 := [42, 182, 1, 133, 3, 62, 29, 16, 30, 163, 0, 72, 27, 2, 159, 0, 15, 29, 28, 160, 0, 10, 42]
abbrev dktX4_isSeen_0 : List UInt8 := dkwX4_isSeen_0 ++ dktX4_isSeen_1
theorem dksX4_isSeen_0 : cX4_isSeen.data.toList.drop 0 = dktX4_isSeen_0 := by decide +kernel
theorem dksX4_isSeen_1 : cX4_isSeen.data.toList.drop 23 = dktX4_isSeen_1 := dk_seg dksX4_isSeen_0 23 rfl rfl
theorem dksX4_isSeen_2 : cX4_isSeen.data.toList.drop 47 = dktX4_isSeen_2 := dk_seg dksX4_isSeen_1 24 rfl rfl
theorem dksX4_isSeen_3 : cX4_isSeen.data.toList.drop 70 = dktX4_isSeen_3 := dk_seg dksX4_isSeen_2 23 rfl rfl
theorem dksX4_isSeen_4 : cX4_isSeen.data.toList.drop 92 = dktX4_isSeen_4 := dk_seg dksX4_isSeen_3 22 rfl rfl
theorem dksX4_isSeen_5 : cX4_isSeen.data.toList.drop 116 = dktX4_isSeen_5 := dk_seg dksX4_isSeen_4 24 rfl rfl
theorem dksX4_isSeen_6 : cX4_isSeen.data.toList.drop 140 = dktX4_isSeen_6 := dk_seg dksX4_isSeen_5 24 rfl rfl
theorem dX4_isSeen_0 : decode cX4_isSeen 0 = .ok (.aload_n 0, 1) := dk_42 (dk_at dksX4_isSeen_0 0 rfl rfl)
theorem dX4_isSeen_1 : decode cX4_isSeen 1 = .ok (.invokevirtual 389, 3) := dk_182 1 133 (dk_at dksX4_isSeen_0 1 rfl rfl)
theorem dX4_isSeen_4 : decode cX4_isSeen 4 = .ok (.iconst 0, 1) := dk_3 (dk_at dksX4_isSeen_0 4 rfl rfl)
theorem dX4_isSeen_5 : decode cX4_isSeen 5 = .ok (.istore_n 3, 1) := dk_62 (dk_at dksX4_isSeen_0 5 rfl rfl)
theorem dX4_isSeen_6 : decode cX4_isSeen 6 = .ok (.iload_n 3, 1) := dk_29 (dk_at dksX4_isSeen_0 6 rfl rfl)
theorem dX4_isSeen_7 : decode cX4_isSeen 7 = .ok (.bipush 30, 2) := dk_16 30 (dk_at dksX4_isSeen_0 7 rfl rfl)
theorem dX4_isSeen_9 : decode cX4_isSeen 9 = .ok (.if_icmp .gt 72, 3) := dk_163 0 72 (dk_at dksX4_isSeen_0 9 rfl rfl)
theorem dX4_isSeen_12 : decode cX4_isSeen 12 = .ok (.iload_n 1, 1) := dk_27 (dk_at dksX4_isSeen_0 12 rfl rfl)
theorem dX4_isSeen_13 : decode cX4_isSeen 13 = .ok (.iconst (-1), 1) := dk_2 (dk_at dksX4_isSeen_0 13 rfl rfl)
theorem dX4_isSeen_14 : decode cX4_isSeen 14 = .ok (.if_icmp .eq 15, 3) := dk_159 0 15 (dk_at dksX4_isSeen_0 14 rfl rfl)
theorem dX4_isSeen_17 : decode cX4_isSeen 17 = .ok (.iload_n 3, 1) := dk_29 (dk_at dksX4_isSeen_0 17 rfl rfl)
theorem dX4_isSeen_18 : decode cX4_isSeen 18 = .ok (.iload_n 2, 1) := dk_28 (dk_at dksX4_isSeen_0 18 rfl rfl)
theorem dX4_isSeen_19 : decode cX4_isSeen 19 = .ok (.if_icmp .ne 10, 3) := dk_160 0 10 (dk_at dksX4_isSeen_0 19 rfl rfl)
theorem dX4_isSeen_22 : decode cX4_isSeen 22 = .ok (.aload_n 0, 1) := dk_42 (dk_at dksX4_isSeen_0 22 rfl rfl)
theorem dX4_isSeen_23 : decode cX4_isSeen 23 = .ok (.bipush 85, 2) := dk_16 85 (dk_at dksX4_isSeen_1 0 rfl rfl)
theorem dX4_isSeen_25 : decode cX4_isSeen 25 = .ok (.iload_n 1, 1) := dk_27 (dk_at dksX4_isSeen_1 2 rfl rfl)
theorem dX4_isSeen_26 : decode cX4_isSeen 26 = .ok (.invokevirtual 383, 3) := dk_182 1 127 (dk_at dksX4_isSeen_1 3 rfl rfl)
theorem dX4_isSeen_29 : decode cX4_isSeen 29 = .ok (.iconst 0, 1) := dk_3 (dk_at dksX4_isSeen_1 6 rfl rfl)
theorem dX4_isSeen_30 : decode cX4_isSeen 30 = .ok (.istore 4, 2) := dk_54 4 (dk_at dksX4_isSeen_1 7 rfl rfl)
theorem dX4_isSeen_32 : decode cX4_isSeen 32 = .ok (.iload 4, 2) := dk_21 4 (dk_at dksX4_isSeen_1 9 rfl rfl)
theorem dX4_isSeen_34 : decode cX4_isSeen 34 = .ok (.aload_n 0, 1) := dk_42 (dk_at dksX4_isSeen_1 11 rfl rfl)
theorem dX4_isSeen_35 : decode cX4_isSeen 35 = .ok (.getfield 281, 3) := dk_180 1 25 (dk_at dksX4_isSeen_1 12 rfl rfl)
theorem dX4_isSeen_38 : decode cX4_isSeen 38 = .ok (.if_icmp .ge 31, 3) := dk_162 0 31 (dk_at dksX4_isSeen_1 15 rfl rfl)
theorem dX4_isSeen_41 : decode cX4_isSeen 41 = .ok (.aload_n 0, 1) := dk_42 (dk_at dksX4_isSeen_1 18 rfl rfl)
theorem dX4_isSeen_42 : decode cX4_isSeen 42 = .ok (.getfield 102, 3) := dk_180 0 102 (dk_at dksX4_isSeen_1 19 rfl rfl)
theorem dX4_isSeen_45 : decode cX4_isSeen 45 = .ok (.bipush 8, 2) := dk_16 8 (dk_at dksX4_isSeen_1 22 rfl rfl)
theorem dX4_isSeen_47 : decode cX4_isSeen 47 = .ok (.iload_n 3, 1) := dk_29 (dk_at dksX4_isSeen_2 0 rfl rfl)
theorem dX4_isSeen_48 : decode cX4_isSeen 48 = .ok (.imul, 1) := dk_104 (dk_at dksX4_isSeen_2 1 rfl rfl)
theorem dX4_isSeen_49 : decode cX4_isSeen 49 = .ok (.iload 4, 2) := dk_21 4 (dk_at dksX4_isSeen_2 2 rfl rfl)
theorem dX4_isSeen_51 : decode cX4_isSeen 51 = .ok (.iadd, 1) := dk_96 (dk_at dksX4_isSeen_2 4 rfl rfl)
theorem dX4_isSeen_52 : decode cX4_isSeen 52 = .ok (.aload_n 0, 1) := dk_42 (dk_at dksX4_isSeen_2 5 rfl rfl)
theorem dX4_isSeen_53 : decode cX4_isSeen 53 = .ok (.getfield 75, 3) := dk_180 0 75 (dk_at dksX4_isSeen_2 6 rfl rfl)
theorem dX4_isSeen_56 : decode cX4_isSeen 56 = .ok (.bipush 86, 2) := dk_16 86 (dk_at dksX4_isSeen_2 9 rfl rfl)
theorem dX4_isSeen_58 : decode cX4_isSeen 58 = .ok (.iload 4, 2) := dk_21 4 (dk_at dksX4_isSeen_2 11 rfl rfl)
theorem dX4_isSeen_60 : decode cX4_isSeen 60 = .ok (.iadd, 1) := dk_96 (dk_at dksX4_isSeen_2 13 rfl rfl)
theorem dX4_isSeen_61 : decode cX4_isSeen 61 = .ok (.iaload, 1) := dk_46 (dk_at dksX4_isSeen_2 14 rfl rfl)
theorem dX4_isSeen_62 : decode cX4_isSeen 62 = .ok (.iastore, 1) := dk_79 (dk_at dksX4_isSeen_2 15 rfl rfl)
theorem dX4_isSeen_63 : decode cX4_isSeen 63 = .ok (.iinc 4 1, 3) := dk_132 4 1 (dk_at dksX4_isSeen_2 16 rfl rfl)
theorem dX4_isSeen_66 : decode cX4_isSeen 66 = .ok (.goto (-34), 3) := dk_167 255 222 (dk_at dksX4_isSeen_2 19 rfl rfl)
theorem dX4_isSeen_69 : decode cX4_isSeen 69 = .ok (.aload_n 0, 1) := dk_42 (dk_at dksX4_isSeen_2 22 rfl rfl)
theorem dX4_isSeen_70 : decode cX4_isSeen 70 = .ok (.bipush 85, 2) := dk_16 85 (dk_at dksX4_isSeen_3 0 rfl rfl)
theorem dX4_isSeen_72 : decode cX4_isSeen 72 = .ok (.invokevirtual 343, 3) := dk_182 1 87 (dk_at dksX4_isSeen_3 2 rfl rfl)
theorem dX4_isSeen_75 : decode cX4_isSeen 75 = .ok (.iinc 3 1, 3) := dk_132 3 1 (dk_at dksX4_isSeen_3 5 rfl rfl)
theorem dX4_isSeen_78 : decode cX4_isSeen 78 = .ok (.goto (-72), 3) := dk_167 255 184 (dk_at dksX4_isSeen_3 8 rfl rfl)
theorem dX4_isSeen_81 : decode cX4_isSeen 81 = .ok (.iconst 0, 1) := dk_3 (dk_at dksX4_isSeen_3 11 rfl rfl)
theorem dX4_isSeen_82 : decode cX4_isSeen 82 = .ok (.istore_n 3, 1) := dk_62 (dk_at dksX4_isSeen_3 12 rfl rfl)
theorem dX4_isSeen_83 : decode cX4_isSeen 83 = .ok (.iload_n 3, 1) := dk_29 (dk_at dksX4_isSeen_3 13 rfl rfl)
theorem dX4_isSeen_84 : decode cX4_isSeen 84 = .ok (.aload_n 0, 1) := dk_42 (dk_at dksX4_isSeen_3 14 rfl rfl)
theorem dX4_isSeen_85 : decode cX4_isSeen 85 = .ok (.getfield 297, 3) := dk_180 1 41 (dk_at dksX4_isSeen_3 15 rfl rfl)
theorem dX4_isSeen_88 : decode cX4_isSeen 88 = .ok (.if_icmp .ge 51, 3) := dk_162 0 51 (dk_at dksX4_isSeen_3 18 rfl rfl)
theorem dX4_isSeen_91 : decode cX4_isSeen 91 = .ok (.aload_n 0, 1) := dk_42 (dk_at dksX4_isSeen_3 21 rfl rfl)
theorem dX4_isSeen_92 : decode cX4_isSeen 92 = .ok (.getfield 102, 3) := dk_180 0 102 (dk_at dksX4_isSeen_4 0 rfl rfl)
theorem dX4_isSeen_95 : decode cX4_isSeen 95 = .ok (.bipush 8, 2) := dk_16 8 (dk_at dksX4_isSeen_4 3 rfl rfl)
theorem dX4_isSeen_97 : decode cX4_isSeen 97 = .ok (.aload_n 0, 1) := dk_42 (dk_at dksX4_isSeen_4 5 rfl rfl)
theorem dX4_isSeen_98 : decode cX4_isSeen 98 = .ok (.getfield 99, 3) := dk_180 0 99 (dk_at dksX4_isSeen_4 6 rfl rfl)
theorem dX4_isSeen_101 : decode cX4_isSeen 101 = .ok (.iconst 3, 1) := dk_6 (dk_at dksX4_isSeen_4 9 rfl rfl)
theorem dX4_isSeen_102 : decode cX4_isSeen 102 = .ok (.iload_n 3, 1) := dk_29 (dk_at dksX4_isSeen_4 10 rfl rfl)
theorem dX4_isSeen_103 : decode cX4_isSeen 103 = .ok (.imul, 1) := dk_104 (dk_at dksX4_isSeen_4 11 rfl rfl)
theorem dX4_isSeen_104 : decode cX4_isSeen 104 = .ok (.iconst 1, 1) := dk_4 (dk_at dksX4_isSeen_4 12 rfl rfl)
theorem dX4_isSeen_105 : decode cX4_isSeen 105 = .ok (.iadd, 1) := dk_96 (dk_at dksX4_isSeen_4 13 rfl rfl)
theorem dX4_isSeen_106 : decode cX4_isSeen 106 = .ok (.iaload, 1) := dk_46 (dk_at dksX4_isSeen_4 14 rfl rfl)
theorem dX4_isSeen_107 : decode cX4_isSeen 107 = .ok (.imul, 1) := dk_104 (dk_at dksX4_isSeen_4 15 rfl rfl)
theorem dX4_isSeen_108 : decode cX4_isSeen 108 = .ok (.aload_n 0, 1) := dk_42 (dk_at dksX4_isSeen_4 16 rfl rfl)
theorem dX4_isSeen_109 : decode cX4_isSeen 109 = .ok (.getfield 99, 3) := dk_180 0 99 (dk_at dksX4_isSeen_4 17 rfl rfl)
theorem dX4_isSeen_112 : decode cX4_isSeen 112 = .ok (.iconst 3, 1) := dk_6 (dk_at dksX4_isSeen_4 20 rfl rfl)
theorem dX4_isSeen_113 : decode cX4_isSeen 113 = .ok (.iload_n 3, 1) := dk_29 (dk_at dksX4_isSeen_4 21 rfl rfl)
theorem dX4_isSeen_114 : decode cX4_isSeen 114 = .ok (.imul, 1) := dk_104 (dk_at dksX4_isSeen_4 22 rfl rfl)
theorem dX4_isSeen_115 : decode cX4_isSeen 115 = .ok (.iaload, 1) := dk_46 (dk_at dksX4_isSeen_4 23 rfl rfl)
theorem dX4_isSeen_116 : decode cX4_isSeen 116 = .ok (.iadd, 1) := dk_96 (dk_at dksX4_isSeen_5 0 rfl rfl)
theorem dX4_isSeen_117 : decode cX4_isSeen 117 = .ok (.iaload, 1) := dk_46 (dk_at dksX4_isSeen_5 1 rfl rfl)
theorem dX4_isSeen_118 : decode cX4_isSeen 118 = .ok (.aload_n 0, 1) := dk_42 (dk_at dksX4_isSeen_5 2 rfl rfl)
theorem dX4_isSeen_119 : decode cX4_isSeen 119 = .ok (.getfield 99, 3) := dk_180 0 99 (dk_at dksX4_isSeen_5 3 rfl rfl)
theorem dX4_isSeen_122 : decode cX4_isSeen 122 = .ok (.iconst 3, 1) := dk_6 (dk_at dksX4_isSeen_5 6 rfl rfl)
theorem dX4_isSeen_123 : decode cX4_isSeen 123 = .ok (.iload_n 3, 1) := dk_29 (dk_at dksX4_isSeen_5 7 rfl rfl)
theorem dX4_isSeen_124 : decode cX4_isSeen 124 = .ok (.imul, 1) := dk_104 (dk_at dksX4_isSeen_5 8 rfl rfl)
theorem dX4_isSeen_125 : decode cX4_isSeen 125 = .ok (.iconst 2, 1) := dk_5 (dk_at dksX4_isSeen_5 9 rfl rfl)
theorem dX4_isSeen_126 : decode cX4_isSeen 126 = .ok (.iadd, 1) := dk_96 (dk_at dksX4_isSeen_5 10 rfl rfl)
theorem dX4_isSeen_127 : decode cX4_isSeen 127 = .ok (.iaload, 1) := dk_46 (dk_at dksX4_isSeen_5 11 rfl rfl)
theorem dX4_isSeen_128 : decode cX4_isSeen 128 = .ok (.if_icmp .eq 5, 3) := dk_159 0 5 (dk_at dksX4_isSeen_5 12 rfl rfl)
theorem dX4_isSeen_131 : decode cX4_isSeen 131 = .ok (.iconst 0, 1) := dk_3 (dk_at dksX4_isSeen_5 15 rfl rfl)
theorem dX4_isSeen_132 : decode cX4_isSeen 132 = .ok (.ireturn, 1) := dk_172 (dk_at dksX4_isSeen_5 16 rfl rfl)
theorem dX4_isSeen_133 : decode cX4_isSeen 133 = .ok (.iinc 3 1, 3) := dk_132 3 1 (dk_at dksX4_isSeen_5 17 rfl rfl)
theorem dX4_isSeen_136 : decode cX4_isSeen 136 = .ok (.goto (-53), 3) := dk_167 255 203 (dk_at dksX4_isSeen_5 20 rfl rfl)
theorem dX4_isSeen_139 : decode cX4_isSeen 139 = .ok (.iconst 1, 1) := dk_4 (dk_at dksX4_isSeen_5 23 rfl rfl)
theorem dX4_isSeen_140 : decode cX4_isSeen 140 = .ok (.ireturn, 1) := dk_172 (dk_at dksX4_isSeen_6 0 rfl rfl)
abbrev cX4_isGuess : ByteArray := prog_13_method_102_code
def yX4_isGuess : MethodName := ⟨RX4, "isGuess", "(I)Z"⟩
def dkwX4_isGuess_1 : List UInt8 := [153, 0, 7, 4, 167, 0, 4, 3, 172]
abbrev dktX4_isGuess_1 : List UInt8 := dkwX4_isGuess_1 ++ []
def dkwX4_isGuess_0 : List UInt8 := [42, 3, 27, 16, 10, 108, 182, 1, 52, 153, 0, 22, 42, 27, 16, 10, 108, 27, 16, 10, 112, 182, 1, 161]
abbrev dktX4_isGuess_0 : List UInt8 := dkwX4_isGuess_0 ++ dktX4_isGuess_1
theorem dksX4_isGuess_0 : cX4_isGuess.data.toList.drop 0 = dktX4_isGuess_0 := by decide +kernel
theorem dksX4_isGuess_1 : cX4_isGuess.data.toList.drop 24 = dktX4_isGuess_1 := dk_seg dksX4_isGuess_0 24 rfl rfl
theorem dX4_isGuess_0 : decode cX4_isGuess 0 = .ok (.aload_n 0, 1) := dk_42 (dk_at dksX4_isGuess_0 0 rfl rfl)
theorem dX4_isGuess_1 : decode cX4_isGuess 1 = .ok (.iconst 0, 1) := dk_3 (dk_at dksX4_isGuess_0 1 rfl rfl)
theorem dX4_isGuess_2 : decode cX4_isGuess 2 = .ok (.iload_n 1, 1) := dk_27 (dk_at dksX4_isGuess_0 2 rfl rfl)
theorem dX4_isGuess_3 : decode cX4_isGuess 3 = .ok (.bipush 10, 2) := dk_16 10 (dk_at dksX4_isGuess_0 3 rfl rfl)
theorem dX4_isGuess_5 : decode cX4_isGuess 5 = .ok (.idiv, 1) := dk_108 (dk_at dksX4_isGuess_0 5 rfl rfl)
theorem dX4_isGuess_6 : decode cX4_isGuess 6 = .ok (.invokevirtual 308, 3) := dk_182 1 52 (dk_at dksX4_isGuess_0 6 rfl rfl)
theorem dX4_isGuess_9 : decode cX4_isGuess 9 = .ok (.ifCond .eq 22, 3) := dk_153 0 22 (dk_at dksX4_isGuess_0 9 rfl rfl)
theorem dX4_isGuess_12 : decode cX4_isGuess 12 = .ok (.aload_n 0, 1) := dk_42 (dk_at dksX4_isGuess_0 12 rfl rfl)
theorem dX4_isGuess_13 : decode cX4_isGuess 13 = .ok (.iload_n 1, 1) := dk_27 (dk_at dksX4_isGuess_0 13 rfl rfl)
theorem dX4_isGuess_14 : decode cX4_isGuess 14 = .ok (.bipush 10, 2) := dk_16 10 (dk_at dksX4_isGuess_0 14 rfl rfl)
theorem dX4_isGuess_16 : decode cX4_isGuess 16 = .ok (.idiv, 1) := dk_108 (dk_at dksX4_isGuess_0 16 rfl rfl)
theorem dX4_isGuess_17 : decode cX4_isGuess 17 = .ok (.iload_n 1, 1) := dk_27 (dk_at dksX4_isGuess_0 17 rfl rfl)
theorem dX4_isGuess_18 : decode cX4_isGuess 18 = .ok (.bipush 10, 2) := dk_16 10 (dk_at dksX4_isGuess_0 18 rfl rfl)
theorem dX4_isGuess_20 : decode cX4_isGuess 20 = .ok (.irem, 1) := dk_112 (dk_at dksX4_isGuess_0 20 rfl rfl)
theorem dX4_isGuess_21 : decode cX4_isGuess 21 = .ok (.invokevirtual 417, 3) := dk_182 1 161 (dk_at dksX4_isGuess_0 21 rfl rfl)
theorem dX4_isGuess_24 : decode cX4_isGuess 24 = .ok (.ifCond .eq 7, 3) := dk_153 0 7 (dk_at dksX4_isGuess_1 0 rfl rfl)
theorem dX4_isGuess_27 : decode cX4_isGuess 27 = .ok (.iconst 1, 1) := dk_4 (dk_at dksX4_isGuess_1 3 rfl rfl)
theorem dX4_isGuess_28 : decode cX4_isGuess 28 = .ok (.goto 4, 3) := dk_167 0 4 (dk_at dksX4_isGuess_1 4 rfl rfl)
theorem dX4_isGuess_31 : decode cX4_isGuess 31 = .ok (.iconst 0, 1) := dk_3 (dk_at dksX4_isGuess_1 7 rfl rfl)
theorem dX4_isGuess_32 : decode cX4_isGuess 32 = .ok (.ireturn, 1) := dk_172 (dk_at dksX4_isGuess_1 8 rfl rfl)
abbrev cX4_next : ByteArray := prog_13_method_105_code
def yX4_next : MethodName := ⟨RX4, "next", "(I)I"⟩
def dkwX4_next_9 : List UInt8 := [21, 4, 172]
abbrev dktX4_next_9 : List UInt8 := dkwX4_next_9 ++ []
def dkwX4_next_8 : List UInt8 := [167, 0, 10, 21, 5, 62, 21, 6, 54, 4, 132, 5, 1, 167, 255, 152, 27, 154, 0, 7, 29, 167, 0, 5]
abbrev dktX4_next_8 : List UInt8 := dkwX4_next_8 ++ dktX4_next_9
def dkwX4_next_7 : List UInt8 := [153, 0, 7, 4, 167, 0, 4, 3, 96, 54, 6, 132, 7, 1, 167, 255, 188, 21, 6, 21, 4, 163, 0, 6]
abbrev dktX4_next_7 : List UInt8 := dkwX4_next_7 ++ dktX4_next_8
def dkwX4_next_6 : List UInt8 := [182, 1, 167, 154, 0, 7, 4, 167, 0, 4, 3, 54, 8, 132, 9, 1, 167, 255, 221, 21, 6, 21, 8]
abbrev dktX4_next_6 : List UInt8 := dkwX4_next_6 ++ dktX4_next_7
def dkwX4_next_5 : List UInt8 := [3, 54, 9, 21, 9, 21, 7, 162, 0, 34, 21, 8, 153, 0, 29, 42, 21, 7, 21, 9, 21, 5]
abbrev dktX4_next_5 : List UInt8 := dkwX4_next_5 ++ dktX4_next_6
def dkwX4_next_4 : List UInt8 := [54, 5, 21, 5, 16, 30, 163, 0, 103, 3, 54, 6, 3, 54, 7, 21, 7, 28, 162, 0, 68, 4, 54, 8]
abbrev dktX4_next_4 : List UInt8 := dkwX4_next_4 ++ dktX4_next_5
def dkwX4_next_3 : List UInt8 := [46, 79, 132, 4, 1, 167, 255, 225, 132, 2, 1, 132, 3, 1, 167, 255, 191, 2, 62, 3, 54, 4, 3]
abbrev dktX4_next_3 : List UInt8 := dkwX4_next_3 ++ dktX4_next_4
def dkwX4_next_2 : List UInt8 := [17, 0, 248, 162, 0, 29, 42, 180, 0, 105, 17, 0, 248, 28, 104, 21, 4, 96, 42, 180, 0, 102, 21, 4]
abbrev dktX4_next_2 : List UInt8 := dkwX4_next_2 ++ dktX4_next_3
def dkwX4_next_1 : List UInt8 := [180, 1, 31, 104, 162, 0, 60, 42, 29, 182, 1, 164, 154, 0, 6, 167, 0, 43, 3, 54, 4, 21, 4]
abbrev dktX4_next_1 : List UInt8 := dkwX4_next_1 ++ dktX4_next_2
def dkwX4_next_0 : List UInt8 := [42, 3, 181, 0, 117, 42, 27, 4, 182, 1, 109, 154, 0, 5, 3, 172, 3, 61, 3, 62, 29, 16, 10, 42]
abbrev dktX4_next_0 : List UInt8 := dkwX4_next_0 ++ dktX4_next_1
theorem dksX4_next_0 : cX4_next.data.toList.drop 0 = dktX4_next_0 := by decide +kernel
theorem dksX4_next_1 : cX4_next.data.toList.drop 24 = dktX4_next_1 := dk_seg dksX4_next_0 24 rfl rfl
theorem dksX4_next_2 : cX4_next.data.toList.drop 47 = dktX4_next_2 := dk_seg dksX4_next_1 23 rfl rfl
theorem dksX4_next_3 : cX4_next.data.toList.drop 71 = dktX4_next_3 := dk_seg dksX4_next_2 24 rfl rfl
theorem dksX4_next_4 : cX4_next.data.toList.drop 94 = dktX4_next_4 := dk_seg dksX4_next_3 23 rfl rfl
theorem dksX4_next_5 : cX4_next.data.toList.drop 118 = dktX4_next_5 := dk_seg dksX4_next_4 24 rfl rfl
theorem dksX4_next_6 : cX4_next.data.toList.drop 140 = dktX4_next_6 := dk_seg dksX4_next_5 22 rfl rfl
theorem dksX4_next_7 : cX4_next.data.toList.drop 163 = dktX4_next_7 := dk_seg dksX4_next_6 23 rfl rfl
theorem dksX4_next_8 : cX4_next.data.toList.drop 187 = dktX4_next_8 := dk_seg dksX4_next_7 24 rfl rfl
theorem dksX4_next_9 : cX4_next.data.toList.drop 211 = dktX4_next_9 := dk_seg dksX4_next_8 24 rfl rfl
theorem dX4_next_0 : decode cX4_next 0 = .ok (.aload_n 0, 1) := dk_42 (dk_at dksX4_next_0 0 rfl rfl)
theorem dX4_next_1 : decode cX4_next 1 = .ok (.iconst 0, 1) := dk_3 (dk_at dksX4_next_0 1 rfl rfl)
theorem dX4_next_2 : decode cX4_next 2 = .ok (.putfield 117, 3) := dk_181 0 117 (dk_at dksX4_next_0 2 rfl rfl)
theorem dX4_next_5 : decode cX4_next 5 = .ok (.aload_n 0, 1) := dk_42 (dk_at dksX4_next_0 5 rfl rfl)
theorem dX4_next_6 : decode cX4_next 6 = .ok (.iload_n 1, 1) := dk_27 (dk_at dksX4_next_0 6 rfl rfl)
theorem dX4_next_7 : decode cX4_next 7 = .ok (.iconst 1, 1) := dk_4 (dk_at dksX4_next_0 7 rfl rfl)
theorem dX4_next_8 : decode cX4_next 8 = .ok (.invokevirtual 365, 3) := dk_182 1 109 (dk_at dksX4_next_0 8 rfl rfl)
theorem dX4_next_11 : decode cX4_next 11 = .ok (.ifCond .ne 5, 3) := dk_154 0 5 (dk_at dksX4_next_0 11 rfl rfl)
theorem dX4_next_14 : decode cX4_next 14 = .ok (.iconst 0, 1) := dk_3 (dk_at dksX4_next_0 14 rfl rfl)
theorem dX4_next_15 : decode cX4_next 15 = .ok (.ireturn, 1) := dk_172 (dk_at dksX4_next_0 15 rfl rfl)
theorem dX4_next_16 : decode cX4_next 16 = .ok (.iconst 0, 1) := dk_3 (dk_at dksX4_next_0 16 rfl rfl)
theorem dX4_next_17 : decode cX4_next 17 = .ok (.istore_n 2, 1) := dk_61 (dk_at dksX4_next_0 17 rfl rfl)
theorem dX4_next_18 : decode cX4_next 18 = .ok (.iconst 0, 1) := dk_3 (dk_at dksX4_next_0 18 rfl rfl)
theorem dX4_next_19 : decode cX4_next 19 = .ok (.istore_n 3, 1) := dk_62 (dk_at dksX4_next_0 19 rfl rfl)
theorem dX4_next_20 : decode cX4_next 20 = .ok (.iload_n 3, 1) := dk_29 (dk_at dksX4_next_0 20 rfl rfl)
theorem dX4_next_21 : decode cX4_next 21 = .ok (.bipush 10, 2) := dk_16 10 (dk_at dksX4_next_0 21 rfl rfl)
theorem dX4_next_23 : decode cX4_next 23 = .ok (.aload_n 0, 1) := dk_42 (dk_at dksX4_next_0 23 rfl rfl)
theorem dX4_next_24 : decode cX4_next 24 = .ok (.getfield 287, 3) := dk_180 1 31 (dk_at dksX4_next_1 0 rfl rfl)
theorem dX4_next_27 : decode cX4_next 27 = .ok (.imul, 1) := dk_104 (dk_at dksX4_next_1 3 rfl rfl)
theorem dX4_next_28 : decode cX4_next 28 = .ok (.if_icmp .ge 60, 3) := dk_162 0 60 (dk_at dksX4_next_1 4 rfl rfl)
theorem dX4_next_31 : decode cX4_next 31 = .ok (.aload_n 0, 1) := dk_42 (dk_at dksX4_next_1 7 rfl rfl)
theorem dX4_next_32 : decode cX4_next 32 = .ok (.iload_n 3, 1) := dk_29 (dk_at dksX4_next_1 8 rfl rfl)
theorem dX4_next_33 : decode cX4_next 33 = .ok (.invokevirtual 420, 3) := dk_182 1 164 (dk_at dksX4_next_1 9 rfl rfl)
theorem dX4_next_36 : decode cX4_next 36 = .ok (.ifCond .ne 6, 3) := dk_154 0 6 (dk_at dksX4_next_1 12 rfl rfl)
theorem dX4_next_39 : decode cX4_next 39 = .ok (.goto 43, 3) := dk_167 0 43 (dk_at dksX4_next_1 15 rfl rfl)
theorem dX4_next_42 : decode cX4_next 42 = .ok (.iconst 0, 1) := dk_3 (dk_at dksX4_next_1 18 rfl rfl)
theorem dX4_next_43 : decode cX4_next 43 = .ok (.istore 4, 2) := dk_54 4 (dk_at dksX4_next_1 19 rfl rfl)
theorem dX4_next_45 : decode cX4_next 45 = .ok (.iload 4, 2) := dk_21 4 (dk_at dksX4_next_1 21 rfl rfl)
theorem dX4_next_47 : decode cX4_next 47 = .ok (.sipush 248, 3) := dk_17 0 248 (dk_at dksX4_next_2 0 rfl rfl)
theorem dX4_next_50 : decode cX4_next 50 = .ok (.if_icmp .ge 29, 3) := dk_162 0 29 (dk_at dksX4_next_2 3 rfl rfl)
theorem dX4_next_53 : decode cX4_next 53 = .ok (.aload_n 0, 1) := dk_42 (dk_at dksX4_next_2 6 rfl rfl)
theorem dX4_next_54 : decode cX4_next 54 = .ok (.getfield 105, 3) := dk_180 0 105 (dk_at dksX4_next_2 7 rfl rfl)
theorem dX4_next_57 : decode cX4_next 57 = .ok (.sipush 248, 3) := dk_17 0 248 (dk_at dksX4_next_2 10 rfl rfl)
theorem dX4_next_60 : decode cX4_next 60 = .ok (.iload_n 2, 1) := dk_28 (dk_at dksX4_next_2 13 rfl rfl)
theorem dX4_next_61 : decode cX4_next 61 = .ok (.imul, 1) := dk_104 (dk_at dksX4_next_2 14 rfl rfl)
theorem dX4_next_62 : decode cX4_next 62 = .ok (.iload 4, 2) := dk_21 4 (dk_at dksX4_next_2 15 rfl rfl)
theorem dX4_next_64 : decode cX4_next 64 = .ok (.iadd, 1) := dk_96 (dk_at dksX4_next_2 17 rfl rfl)
theorem dX4_next_65 : decode cX4_next 65 = .ok (.aload_n 0, 1) := dk_42 (dk_at dksX4_next_2 18 rfl rfl)
theorem dX4_next_66 : decode cX4_next 66 = .ok (.getfield 102, 3) := dk_180 0 102 (dk_at dksX4_next_2 19 rfl rfl)
theorem dX4_next_69 : decode cX4_next 69 = .ok (.iload 4, 2) := dk_21 4 (dk_at dksX4_next_2 22 rfl rfl)
theorem dX4_next_71 : decode cX4_next 71 = .ok (.iaload, 1) := dk_46 (dk_at dksX4_next_3 0 rfl rfl)
theorem dX4_next_72 : decode cX4_next 72 = .ok (.iastore, 1) := dk_79 (dk_at dksX4_next_3 1 rfl rfl)
theorem dX4_next_73 : decode cX4_next 73 = .ok (.iinc 4 1, 3) := dk_132 4 1 (dk_at dksX4_next_3 2 rfl rfl)
theorem dX4_next_76 : decode cX4_next 76 = .ok (.goto (-31), 3) := dk_167 255 225 (dk_at dksX4_next_3 5 rfl rfl)
theorem dX4_next_79 : decode cX4_next 79 = .ok (.iinc 2 1, 3) := dk_132 2 1 (dk_at dksX4_next_3 8 rfl rfl)
theorem dX4_next_82 : decode cX4_next 82 = .ok (.iinc 3 1, 3) := dk_132 3 1 (dk_at dksX4_next_3 11 rfl rfl)
theorem dX4_next_85 : decode cX4_next 85 = .ok (.goto (-65), 3) := dk_167 255 191 (dk_at dksX4_next_3 14 rfl rfl)
theorem dX4_next_88 : decode cX4_next 88 = .ok (.iconst (-1), 1) := dk_2 (dk_at dksX4_next_3 17 rfl rfl)
theorem dX4_next_89 : decode cX4_next 89 = .ok (.istore_n 3, 1) := dk_62 (dk_at dksX4_next_3 18 rfl rfl)
theorem dX4_next_90 : decode cX4_next 90 = .ok (.iconst 0, 1) := dk_3 (dk_at dksX4_next_3 19 rfl rfl)
theorem dX4_next_91 : decode cX4_next 91 = .ok (.istore 4, 2) := dk_54 4 (dk_at dksX4_next_3 20 rfl rfl)
theorem dX4_next_93 : decode cX4_next 93 = .ok (.iconst 0, 1) := dk_3 (dk_at dksX4_next_3 22 rfl rfl)
theorem dX4_next_94 : decode cX4_next 94 = .ok (.istore 5, 2) := dk_54 5 (dk_at dksX4_next_4 0 rfl rfl)
theorem dX4_next_96 : decode cX4_next 96 = .ok (.iload 5, 2) := dk_21 5 (dk_at dksX4_next_4 2 rfl rfl)
theorem dX4_next_98 : decode cX4_next 98 = .ok (.bipush 30, 2) := dk_16 30 (dk_at dksX4_next_4 4 rfl rfl)
theorem dX4_next_100 : decode cX4_next 100 = .ok (.if_icmp .gt 103, 3) := dk_163 0 103 (dk_at dksX4_next_4 6 rfl rfl)
theorem dX4_next_103 : decode cX4_next 103 = .ok (.iconst 0, 1) := dk_3 (dk_at dksX4_next_4 9 rfl rfl)
theorem dX4_next_104 : decode cX4_next 104 = .ok (.istore 6, 2) := dk_54 6 (dk_at dksX4_next_4 10 rfl rfl)
theorem dX4_next_106 : decode cX4_next 106 = .ok (.iconst 0, 1) := dk_3 (dk_at dksX4_next_4 12 rfl rfl)
theorem dX4_next_107 : decode cX4_next 107 = .ok (.istore 7, 2) := dk_54 7 (dk_at dksX4_next_4 13 rfl rfl)
theorem dX4_next_109 : decode cX4_next 109 = .ok (.iload 7, 2) := dk_21 7 (dk_at dksX4_next_4 15 rfl rfl)
theorem dX4_next_111 : decode cX4_next 111 = .ok (.iload_n 2, 1) := dk_28 (dk_at dksX4_next_4 17 rfl rfl)
theorem dX4_next_112 : decode cX4_next 112 = .ok (.if_icmp .ge 68, 3) := dk_162 0 68 (dk_at dksX4_next_4 18 rfl rfl)
theorem dX4_next_115 : decode cX4_next 115 = .ok (.iconst 1, 1) := dk_4 (dk_at dksX4_next_4 21 rfl rfl)
theorem dX4_next_116 : decode cX4_next 116 = .ok (.istore 8, 2) := dk_54 8 (dk_at dksX4_next_4 22 rfl rfl)
theorem dX4_next_118 : decode cX4_next 118 = .ok (.iconst 0, 1) := dk_3 (dk_at dksX4_next_5 0 rfl rfl)
theorem dX4_next_119 : decode cX4_next 119 = .ok (.istore 9, 2) := dk_54 9 (dk_at dksX4_next_5 1 rfl rfl)
theorem dX4_next_121 : decode cX4_next 121 = .ok (.iload 9, 2) := dk_21 9 (dk_at dksX4_next_5 3 rfl rfl)
theorem dX4_next_123 : decode cX4_next 123 = .ok (.iload 7, 2) := dk_21 7 (dk_at dksX4_next_5 5 rfl rfl)
theorem dX4_next_125 : decode cX4_next 125 = .ok (.if_icmp .ge 34, 3) := dk_162 0 34 (dk_at dksX4_next_5 7 rfl rfl)
theorem dX4_next_128 : decode cX4_next 128 = .ok (.iload 8, 2) := dk_21 8 (dk_at dksX4_next_5 10 rfl rfl)
theorem dX4_next_130 : decode cX4_next 130 = .ok (.ifCond .eq 29, 3) := dk_153 0 29 (dk_at dksX4_next_5 12 rfl rfl)
theorem dX4_next_133 : decode cX4_next 133 = .ok (.aload_n 0, 1) := dk_42 (dk_at dksX4_next_5 15 rfl rfl)
theorem dX4_next_134 : decode cX4_next 134 = .ok (.iload 7, 2) := dk_21 7 (dk_at dksX4_next_5 16 rfl rfl)
theorem dX4_next_136 : decode cX4_next 136 = .ok (.iload 9, 2) := dk_21 9 (dk_at dksX4_next_5 18 rfl rfl)
theorem dX4_next_138 : decode cX4_next 138 = .ok (.iload 5, 2) := dk_21 5 (dk_at dksX4_next_5 20 rfl rfl)
theorem dX4_next_140 : decode cX4_next 140 = .ok (.invokevirtual 423, 3) := dk_182 1 167 (dk_at dksX4_next_6 0 rfl rfl)
theorem dX4_next_143 : decode cX4_next 143 = .ok (.ifCond .ne 7, 3) := dk_154 0 7 (dk_at dksX4_next_6 3 rfl rfl)
theorem dX4_next_146 : decode cX4_next 146 = .ok (.iconst 1, 1) := dk_4 (dk_at dksX4_next_6 6 rfl rfl)
theorem dX4_next_147 : decode cX4_next 147 = .ok (.goto 4, 3) := dk_167 0 4 (dk_at dksX4_next_6 7 rfl rfl)
theorem dX4_next_150 : decode cX4_next 150 = .ok (.iconst 0, 1) := dk_3 (dk_at dksX4_next_6 10 rfl rfl)
theorem dX4_next_151 : decode cX4_next 151 = .ok (.istore 8, 2) := dk_54 8 (dk_at dksX4_next_6 11 rfl rfl)
theorem dX4_next_153 : decode cX4_next 153 = .ok (.iinc 9 1, 3) := dk_132 9 1 (dk_at dksX4_next_6 13 rfl rfl)
theorem dX4_next_156 : decode cX4_next 156 = .ok (.goto (-35), 3) := dk_167 255 221 (dk_at dksX4_next_6 16 rfl rfl)
theorem dX4_next_159 : decode cX4_next 159 = .ok (.iload 6, 2) := dk_21 6 (dk_at dksX4_next_6 19 rfl rfl)
theorem dX4_next_161 : decode cX4_next 161 = .ok (.iload 8, 2) := dk_21 8 (dk_at dksX4_next_6 21 rfl rfl)
theorem dX4_next_163 : decode cX4_next 163 = .ok (.ifCond .eq 7, 3) := dk_153 0 7 (dk_at dksX4_next_7 0 rfl rfl)
theorem dX4_next_166 : decode cX4_next 166 = .ok (.iconst 1, 1) := dk_4 (dk_at dksX4_next_7 3 rfl rfl)
theorem dX4_next_167 : decode cX4_next 167 = .ok (.goto 4, 3) := dk_167 0 4 (dk_at dksX4_next_7 4 rfl rfl)
theorem dX4_next_170 : decode cX4_next 170 = .ok (.iconst 0, 1) := dk_3 (dk_at dksX4_next_7 7 rfl rfl)
theorem dX4_next_171 : decode cX4_next 171 = .ok (.iadd, 1) := dk_96 (dk_at dksX4_next_7 8 rfl rfl)
theorem dX4_next_172 : decode cX4_next 172 = .ok (.istore 6, 2) := dk_54 6 (dk_at dksX4_next_7 9 rfl rfl)
theorem dX4_next_174 : decode cX4_next 174 = .ok (.iinc 7 1, 3) := dk_132 7 1 (dk_at dksX4_next_7 11 rfl rfl)
theorem dX4_next_177 : decode cX4_next 177 = .ok (.goto (-68), 3) := dk_167 255 188 (dk_at dksX4_next_7 14 rfl rfl)
theorem dX4_next_180 : decode cX4_next 180 = .ok (.iload 6, 2) := dk_21 6 (dk_at dksX4_next_7 17 rfl rfl)
theorem dX4_next_182 : decode cX4_next 182 = .ok (.iload 4, 2) := dk_21 4 (dk_at dksX4_next_7 19 rfl rfl)
theorem dX4_next_184 : decode cX4_next 184 = .ok (.if_icmp .gt 6, 3) := dk_163 0 6 (dk_at dksX4_next_7 21 rfl rfl)
theorem dX4_next_187 : decode cX4_next 187 = .ok (.goto 10, 3) := dk_167 0 10 (dk_at dksX4_next_8 0 rfl rfl)
theorem dX4_next_190 : decode cX4_next 190 = .ok (.iload 5, 2) := dk_21 5 (dk_at dksX4_next_8 3 rfl rfl)
theorem dX4_next_192 : decode cX4_next 192 = .ok (.istore_n 3, 1) := dk_62 (dk_at dksX4_next_8 5 rfl rfl)
theorem dX4_next_193 : decode cX4_next 193 = .ok (.iload 6, 2) := dk_21 6 (dk_at dksX4_next_8 6 rfl rfl)
theorem dX4_next_195 : decode cX4_next 195 = .ok (.istore 4, 2) := dk_54 4 (dk_at dksX4_next_8 8 rfl rfl)
theorem dX4_next_197 : decode cX4_next 197 = .ok (.iinc 5 1, 3) := dk_132 5 1 (dk_at dksX4_next_8 10 rfl rfl)
theorem dX4_next_200 : decode cX4_next 200 = .ok (.goto (-104), 3) := dk_167 255 152 (dk_at dksX4_next_8 13 rfl rfl)
theorem dX4_next_203 : decode cX4_next 203 = .ok (.iload_n 1, 1) := dk_27 (dk_at dksX4_next_8 16 rfl rfl)
theorem dX4_next_204 : decode cX4_next 204 = .ok (.ifCond .ne 7, 3) := dk_154 0 7 (dk_at dksX4_next_8 17 rfl rfl)
theorem dX4_next_207 : decode cX4_next 207 = .ok (.iload_n 3, 1) := dk_29 (dk_at dksX4_next_8 20 rfl rfl)
theorem dX4_next_208 : decode cX4_next 208 = .ok (.goto 5, 3) := dk_167 0 5 (dk_at dksX4_next_8 21 rfl rfl)
theorem dX4_next_211 : decode cX4_next 211 = .ok (.iload 4, 2) := dk_21 4 (dk_at dksX4_next_9 0 rfl rfl)
theorem dX4_next_213 : decode cX4_next 213 = .ok (.ireturn, 1) := dk_172 (dk_at dksX4_next_9 2 rfl rfl)
abbrev cX4_areLike : ByteArray := prog_13_method_104_code
def yX4_areLike : MethodName := ⟨RX4, "areLike", "(III)Z"⟩
def dkwX4_areLike_2 : List UInt8 := [159, 0, 5, 3, 172, 132, 4, 1, 167, 255, 203, 4, 172]
abbrev dktX4_areLike_2 : List UInt8 := dkwX4_areLike_2 ++ []
def dkwX4_areLike_1 : List UInt8 := [104, 96, 21, 4, 96, 46, 42, 180, 0, 105, 17, 0, 248, 28, 104, 16, 8, 29, 104, 96, 21, 4, 96, 46]
abbrev dktX4_areLike_1 : List UInt8 := dkwX4_areLike_1 ++ dktX4_areLike_2
def dkwX4_areLike_0 : List UInt8 := [3, 54, 4, 21, 4, 42, 180, 1, 25, 162, 0, 50, 42, 180, 0, 105, 17, 0, 248, 27, 104, 16, 8, 29]
abbrev dktX4_areLike_0 : List UInt8 := dkwX4_areLike_0 ++ dktX4_areLike_1
theorem dksX4_areLike_0 : cX4_areLike.data.toList.drop 0 = dktX4_areLike_0 := by decide +kernel
theorem dksX4_areLike_1 : cX4_areLike.data.toList.drop 24 = dktX4_areLike_1 := dk_seg dksX4_areLike_0 24 rfl rfl
theorem dksX4_areLike_2 : cX4_areLike.data.toList.drop 48 = dktX4_areLike_2 := dk_seg dksX4_areLike_1 24 rfl rfl
theorem dX4_areLike_0 : decode cX4_areLike 0 = .ok (.iconst 0, 1) := dk_3 (dk_at dksX4_areLike_0 0 rfl rfl)
theorem dX4_areLike_1 : decode cX4_areLike 1 = .ok (.istore 4, 2) := dk_54 4 (dk_at dksX4_areLike_0 1 rfl rfl)
theorem dX4_areLike_3 : decode cX4_areLike 3 = .ok (.iload 4, 2) := dk_21 4 (dk_at dksX4_areLike_0 3 rfl rfl)
theorem dX4_areLike_5 : decode cX4_areLike 5 = .ok (.aload_n 0, 1) := dk_42 (dk_at dksX4_areLike_0 5 rfl rfl)
theorem dX4_areLike_6 : decode cX4_areLike 6 = .ok (.getfield 281, 3) := dk_180 1 25 (dk_at dksX4_areLike_0 6 rfl rfl)
theorem dX4_areLike_9 : decode cX4_areLike 9 = .ok (.if_icmp .ge 50, 3) := dk_162 0 50 (dk_at dksX4_areLike_0 9 rfl rfl)
theorem dX4_areLike_12 : decode cX4_areLike 12 = .ok (.aload_n 0, 1) := dk_42 (dk_at dksX4_areLike_0 12 rfl rfl)
theorem dX4_areLike_13 : decode cX4_areLike 13 = .ok (.getfield 105, 3) := dk_180 0 105 (dk_at dksX4_areLike_0 13 rfl rfl)
theorem dX4_areLike_16 : decode cX4_areLike 16 = .ok (.sipush 248, 3) := dk_17 0 248 (dk_at dksX4_areLike_0 16 rfl rfl)
theorem dX4_areLike_19 : decode cX4_areLike 19 = .ok (.iload_n 1, 1) := dk_27 (dk_at dksX4_areLike_0 19 rfl rfl)
theorem dX4_areLike_20 : decode cX4_areLike 20 = .ok (.imul, 1) := dk_104 (dk_at dksX4_areLike_0 20 rfl rfl)
theorem dX4_areLike_21 : decode cX4_areLike 21 = .ok (.bipush 8, 2) := dk_16 8 (dk_at dksX4_areLike_0 21 rfl rfl)
theorem dX4_areLike_23 : decode cX4_areLike 23 = .ok (.iload_n 3, 1) := dk_29 (dk_at dksX4_areLike_0 23 rfl rfl)
theorem dX4_areLike_24 : decode cX4_areLike 24 = .ok (.imul, 1) := dk_104 (dk_at dksX4_areLike_1 0 rfl rfl)
theorem dX4_areLike_25 : decode cX4_areLike 25 = .ok (.iadd, 1) := dk_96 (dk_at dksX4_areLike_1 1 rfl rfl)
theorem dX4_areLike_26 : decode cX4_areLike 26 = .ok (.iload 4, 2) := dk_21 4 (dk_at dksX4_areLike_1 2 rfl rfl)
theorem dX4_areLike_28 : decode cX4_areLike 28 = .ok (.iadd, 1) := dk_96 (dk_at dksX4_areLike_1 4 rfl rfl)
theorem dX4_areLike_29 : decode cX4_areLike 29 = .ok (.iaload, 1) := dk_46 (dk_at dksX4_areLike_1 5 rfl rfl)
theorem dX4_areLike_30 : decode cX4_areLike 30 = .ok (.aload_n 0, 1) := dk_42 (dk_at dksX4_areLike_1 6 rfl rfl)
theorem dX4_areLike_31 : decode cX4_areLike 31 = .ok (.getfield 105, 3) := dk_180 0 105 (dk_at dksX4_areLike_1 7 rfl rfl)
theorem dX4_areLike_34 : decode cX4_areLike 34 = .ok (.sipush 248, 3) := dk_17 0 248 (dk_at dksX4_areLike_1 10 rfl rfl)
theorem dX4_areLike_37 : decode cX4_areLike 37 = .ok (.iload_n 2, 1) := dk_28 (dk_at dksX4_areLike_1 13 rfl rfl)
theorem dX4_areLike_38 : decode cX4_areLike 38 = .ok (.imul, 1) := dk_104 (dk_at dksX4_areLike_1 14 rfl rfl)
theorem dX4_areLike_39 : decode cX4_areLike 39 = .ok (.bipush 8, 2) := dk_16 8 (dk_at dksX4_areLike_1 15 rfl rfl)
theorem dX4_areLike_41 : decode cX4_areLike 41 = .ok (.iload_n 3, 1) := dk_29 (dk_at dksX4_areLike_1 17 rfl rfl)
theorem dX4_areLike_42 : decode cX4_areLike 42 = .ok (.imul, 1) := dk_104 (dk_at dksX4_areLike_1 18 rfl rfl)
theorem dX4_areLike_43 : decode cX4_areLike 43 = .ok (.iadd, 1) := dk_96 (dk_at dksX4_areLike_1 19 rfl rfl)
theorem dX4_areLike_44 : decode cX4_areLike 44 = .ok (.iload 4, 2) := dk_21 4 (dk_at dksX4_areLike_1 20 rfl rfl)
theorem dX4_areLike_46 : decode cX4_areLike 46 = .ok (.iadd, 1) := dk_96 (dk_at dksX4_areLike_1 22 rfl rfl)
theorem dX4_areLike_47 : decode cX4_areLike 47 = .ok (.iaload, 1) := dk_46 (dk_at dksX4_areLike_1 23 rfl rfl)
theorem dX4_areLike_48 : decode cX4_areLike 48 = .ok (.if_icmp .eq 5, 3) := dk_159 0 5 (dk_at dksX4_areLike_2 0 rfl rfl)
theorem dX4_areLike_51 : decode cX4_areLike 51 = .ok (.iconst 0, 1) := dk_3 (dk_at dksX4_areLike_2 3 rfl rfl)
theorem dX4_areLike_52 : decode cX4_areLike 52 = .ok (.ireturn, 1) := dk_172 (dk_at dksX4_areLike_2 4 rfl rfl)
theorem dX4_areLike_53 : decode cX4_areLike 53 = .ok (.iinc 4 1, 3) := dk_132 4 1 (dk_at dksX4_areLike_2 5 rfl rfl)
theorem dX4_areLike_56 : decode cX4_areLike 56 = .ok (.goto (-53), 3) := dk_167 255 203 (dk_at dksX4_areLike_2 8 rfl rfl)
theorem dX4_areLike_59 : decode cX4_areLike 59 = .ok (.iconst 1, 1) := dk_4 (dk_at dksX4_areLike_2 11 rfl rfl)
theorem dX4_areLike_60 : decode cX4_areLike 60 = .ok (.ireturn, 1) := dk_172 (dk_at dksX4_areLike_2 12 rfl rfl)
abbrev cX4_pooled : ByteArray := prog_13_method_106_code
def yX4_pooled : MethodName := ⟨RX4, "pooled", "(I)I"⟩
def dkwX4_pooled_4 : List UInt8 := [182, 1, 136, 42, 16, 102, 182, 1, 94, 28, 100, 172]
abbrev dktX4_pooled_4 : List UInt8 := dkwX4_pooled_4 ++ []
def dkwX4_pooled_3 : List UInt8 := [16, 94, 29, 96, 42, 16, 9, 182, 1, 94, 42, 180, 1, 25, 108, 79, 132, 3, 1, 167, 255, 206, 42, 27]
abbrev dktX4_pooled_3 : List UInt8 := dkwX4_pooled_3 ++ dktX4_pooled_4
def dkwX4_pooled_2 : List UInt8 := [42, 180, 0, 75, 16, 86, 29, 96, 42, 4, 182, 1, 94, 42, 180, 1, 25, 108, 79, 42, 180, 0, 75]
abbrev dktX4_pooled_2 : List UInt8 := dkwX4_pooled_2 ++ dktX4_pooled_3
def dkwX4_pooled_1 : List UInt8 := [182, 1, 136, 42, 16, 102, 182, 1, 94, 61, 42, 182, 1, 133, 3, 62, 29, 42, 180, 1, 25, 162, 0, 48]
abbrev dktX4_pooled_1 : List UInt8 := dkwX4_pooled_1 ++ dktX4_pooled_2
def dkwX4_pooled_0 : List UInt8 := [42, 3, 181, 0, 117, 42, 27, 4, 4, 182, 1, 130, 154, 0, 5, 3, 172, 42, 182, 1, 133, 42, 27]
abbrev dktX4_pooled_0 : List UInt8 := dkwX4_pooled_0 ++ dktX4_pooled_1
theorem dksX4_pooled_0 : cX4_pooled.data.toList.drop 0 = dktX4_pooled_0 := by decide +kernel
theorem dksX4_pooled_1 : cX4_pooled.data.toList.drop 23 = dktX4_pooled_1 := dk_seg dksX4_pooled_0 23 rfl rfl
theorem dksX4_pooled_2 : cX4_pooled.data.toList.drop 47 = dktX4_pooled_2 := dk_seg dksX4_pooled_1 24 rfl rfl
theorem dksX4_pooled_3 : cX4_pooled.data.toList.drop 70 = dktX4_pooled_3 := dk_seg dksX4_pooled_2 23 rfl rfl
theorem dksX4_pooled_4 : cX4_pooled.data.toList.drop 94 = dktX4_pooled_4 := dk_seg dksX4_pooled_3 24 rfl rfl
theorem dX4_pooled_0 : decode cX4_pooled 0 = .ok (.aload_n 0, 1) := dk_42 (dk_at dksX4_pooled_0 0 rfl rfl)
theorem dX4_pooled_1 : decode cX4_pooled 1 = .ok (.iconst 0, 1) := dk_3 (dk_at dksX4_pooled_0 1 rfl rfl)
theorem dX4_pooled_2 : decode cX4_pooled 2 = .ok (.putfield 117, 3) := dk_181 0 117 (dk_at dksX4_pooled_0 2 rfl rfl)
theorem dX4_pooled_5 : decode cX4_pooled 5 = .ok (.aload_n 0, 1) := dk_42 (dk_at dksX4_pooled_0 5 rfl rfl)
theorem dX4_pooled_6 : decode cX4_pooled 6 = .ok (.iload_n 1, 1) := dk_27 (dk_at dksX4_pooled_0 6 rfl rfl)
theorem dX4_pooled_7 : decode cX4_pooled 7 = .ok (.iconst 1, 1) := dk_4 (dk_at dksX4_pooled_0 7 rfl rfl)
theorem dX4_pooled_8 : decode cX4_pooled 8 = .ok (.iconst 1, 1) := dk_4 (dk_at dksX4_pooled_0 8 rfl rfl)
theorem dX4_pooled_9 : decode cX4_pooled 9 = .ok (.invokevirtual 386, 3) := dk_182 1 130 (dk_at dksX4_pooled_0 9 rfl rfl)
theorem dX4_pooled_12 : decode cX4_pooled 12 = .ok (.ifCond .ne 5, 3) := dk_154 0 5 (dk_at dksX4_pooled_0 12 rfl rfl)
theorem dX4_pooled_15 : decode cX4_pooled 15 = .ok (.iconst 0, 1) := dk_3 (dk_at dksX4_pooled_0 15 rfl rfl)
theorem dX4_pooled_16 : decode cX4_pooled 16 = .ok (.ireturn, 1) := dk_172 (dk_at dksX4_pooled_0 16 rfl rfl)
theorem dX4_pooled_17 : decode cX4_pooled 17 = .ok (.aload_n 0, 1) := dk_42 (dk_at dksX4_pooled_0 17 rfl rfl)
theorem dX4_pooled_18 : decode cX4_pooled 18 = .ok (.invokevirtual 389, 3) := dk_182 1 133 (dk_at dksX4_pooled_0 18 rfl rfl)
theorem dX4_pooled_21 : decode cX4_pooled 21 = .ok (.aload_n 0, 1) := dk_42 (dk_at dksX4_pooled_0 21 rfl rfl)
theorem dX4_pooled_22 : decode cX4_pooled 22 = .ok (.iload_n 1, 1) := dk_27 (dk_at dksX4_pooled_0 22 rfl rfl)
theorem dX4_pooled_23 : decode cX4_pooled 23 = .ok (.invokevirtual 392, 3) := dk_182 1 136 (dk_at dksX4_pooled_1 0 rfl rfl)
theorem dX4_pooled_26 : decode cX4_pooled 26 = .ok (.aload_n 0, 1) := dk_42 (dk_at dksX4_pooled_1 3 rfl rfl)
theorem dX4_pooled_27 : decode cX4_pooled 27 = .ok (.bipush 102, 2) := dk_16 102 (dk_at dksX4_pooled_1 4 rfl rfl)
theorem dX4_pooled_29 : decode cX4_pooled 29 = .ok (.invokevirtual 350, 3) := dk_182 1 94 (dk_at dksX4_pooled_1 6 rfl rfl)
theorem dX4_pooled_32 : decode cX4_pooled 32 = .ok (.istore_n 2, 1) := dk_61 (dk_at dksX4_pooled_1 9 rfl rfl)
theorem dX4_pooled_33 : decode cX4_pooled 33 = .ok (.aload_n 0, 1) := dk_42 (dk_at dksX4_pooled_1 10 rfl rfl)
theorem dX4_pooled_34 : decode cX4_pooled 34 = .ok (.invokevirtual 389, 3) := dk_182 1 133 (dk_at dksX4_pooled_1 11 rfl rfl)
theorem dX4_pooled_37 : decode cX4_pooled 37 = .ok (.iconst 0, 1) := dk_3 (dk_at dksX4_pooled_1 14 rfl rfl)
theorem dX4_pooled_38 : decode cX4_pooled 38 = .ok (.istore_n 3, 1) := dk_62 (dk_at dksX4_pooled_1 15 rfl rfl)
theorem dX4_pooled_39 : decode cX4_pooled 39 = .ok (.iload_n 3, 1) := dk_29 (dk_at dksX4_pooled_1 16 rfl rfl)
theorem dX4_pooled_40 : decode cX4_pooled 40 = .ok (.aload_n 0, 1) := dk_42 (dk_at dksX4_pooled_1 17 rfl rfl)
theorem dX4_pooled_41 : decode cX4_pooled 41 = .ok (.getfield 281, 3) := dk_180 1 25 (dk_at dksX4_pooled_1 18 rfl rfl)
theorem dX4_pooled_44 : decode cX4_pooled 44 = .ok (.if_icmp .ge 48, 3) := dk_162 0 48 (dk_at dksX4_pooled_1 21 rfl rfl)
theorem dX4_pooled_47 : decode cX4_pooled 47 = .ok (.aload_n 0, 1) := dk_42 (dk_at dksX4_pooled_2 0 rfl rfl)
theorem dX4_pooled_48 : decode cX4_pooled 48 = .ok (.getfield 75, 3) := dk_180 0 75 (dk_at dksX4_pooled_2 1 rfl rfl)
theorem dX4_pooled_51 : decode cX4_pooled 51 = .ok (.bipush 86, 2) := dk_16 86 (dk_at dksX4_pooled_2 4 rfl rfl)
theorem dX4_pooled_53 : decode cX4_pooled 53 = .ok (.iload_n 3, 1) := dk_29 (dk_at dksX4_pooled_2 6 rfl rfl)
theorem dX4_pooled_54 : decode cX4_pooled 54 = .ok (.iadd, 1) := dk_96 (dk_at dksX4_pooled_2 7 rfl rfl)
theorem dX4_pooled_55 : decode cX4_pooled 55 = .ok (.aload_n 0, 1) := dk_42 (dk_at dksX4_pooled_2 8 rfl rfl)
theorem dX4_pooled_56 : decode cX4_pooled 56 = .ok (.iconst 1, 1) := dk_4 (dk_at dksX4_pooled_2 9 rfl rfl)
theorem dX4_pooled_57 : decode cX4_pooled 57 = .ok (.invokevirtual 350, 3) := dk_182 1 94 (dk_at dksX4_pooled_2 10 rfl rfl)
theorem dX4_pooled_60 : decode cX4_pooled 60 = .ok (.aload_n 0, 1) := dk_42 (dk_at dksX4_pooled_2 13 rfl rfl)
theorem dX4_pooled_61 : decode cX4_pooled 61 = .ok (.getfield 281, 3) := dk_180 1 25 (dk_at dksX4_pooled_2 14 rfl rfl)
theorem dX4_pooled_64 : decode cX4_pooled 64 = .ok (.idiv, 1) := dk_108 (dk_at dksX4_pooled_2 17 rfl rfl)
theorem dX4_pooled_65 : decode cX4_pooled 65 = .ok (.iastore, 1) := dk_79 (dk_at dksX4_pooled_2 18 rfl rfl)
theorem dX4_pooled_66 : decode cX4_pooled 66 = .ok (.aload_n 0, 1) := dk_42 (dk_at dksX4_pooled_2 19 rfl rfl)
theorem dX4_pooled_67 : decode cX4_pooled 67 = .ok (.getfield 75, 3) := dk_180 0 75 (dk_at dksX4_pooled_2 20 rfl rfl)
theorem dX4_pooled_70 : decode cX4_pooled 70 = .ok (.bipush 94, 2) := dk_16 94 (dk_at dksX4_pooled_3 0 rfl rfl)
theorem dX4_pooled_72 : decode cX4_pooled 72 = .ok (.iload_n 3, 1) := dk_29 (dk_at dksX4_pooled_3 2 rfl rfl)
theorem dX4_pooled_73 : decode cX4_pooled 73 = .ok (.iadd, 1) := dk_96 (dk_at dksX4_pooled_3 3 rfl rfl)
theorem dX4_pooled_74 : decode cX4_pooled 74 = .ok (.aload_n 0, 1) := dk_42 (dk_at dksX4_pooled_3 4 rfl rfl)
theorem dX4_pooled_75 : decode cX4_pooled 75 = .ok (.bipush 9, 2) := dk_16 9 (dk_at dksX4_pooled_3 5 rfl rfl)
theorem dX4_pooled_77 : decode cX4_pooled 77 = .ok (.invokevirtual 350, 3) := dk_182 1 94 (dk_at dksX4_pooled_3 7 rfl rfl)
theorem dX4_pooled_80 : decode cX4_pooled 80 = .ok (.aload_n 0, 1) := dk_42 (dk_at dksX4_pooled_3 10 rfl rfl)
theorem dX4_pooled_81 : decode cX4_pooled 81 = .ok (.getfield 281, 3) := dk_180 1 25 (dk_at dksX4_pooled_3 11 rfl rfl)
theorem dX4_pooled_84 : decode cX4_pooled 84 = .ok (.idiv, 1) := dk_108 (dk_at dksX4_pooled_3 14 rfl rfl)
theorem dX4_pooled_85 : decode cX4_pooled 85 = .ok (.iastore, 1) := dk_79 (dk_at dksX4_pooled_3 15 rfl rfl)
theorem dX4_pooled_86 : decode cX4_pooled 86 = .ok (.iinc 3 1, 3) := dk_132 3 1 (dk_at dksX4_pooled_3 16 rfl rfl)
theorem dX4_pooled_89 : decode cX4_pooled 89 = .ok (.goto (-50), 3) := dk_167 255 206 (dk_at dksX4_pooled_3 19 rfl rfl)
theorem dX4_pooled_92 : decode cX4_pooled 92 = .ok (.aload_n 0, 1) := dk_42 (dk_at dksX4_pooled_3 22 rfl rfl)
theorem dX4_pooled_93 : decode cX4_pooled 93 = .ok (.iload_n 1, 1) := dk_27 (dk_at dksX4_pooled_3 23 rfl rfl)
theorem dX4_pooled_94 : decode cX4_pooled 94 = .ok (.invokevirtual 392, 3) := dk_182 1 136 (dk_at dksX4_pooled_4 0 rfl rfl)
theorem dX4_pooled_97 : decode cX4_pooled 97 = .ok (.aload_n 0, 1) := dk_42 (dk_at dksX4_pooled_4 3 rfl rfl)
theorem dX4_pooled_98 : decode cX4_pooled 98 = .ok (.bipush 102, 2) := dk_16 102 (dk_at dksX4_pooled_4 4 rfl rfl)
theorem dX4_pooled_100 : decode cX4_pooled 100 = .ok (.invokevirtual 350, 3) := dk_182 1 94 (dk_at dksX4_pooled_4 6 rfl rfl)
theorem dX4_pooled_103 : decode cX4_pooled 103 = .ok (.iload_n 2, 1) := dk_28 (dk_at dksX4_pooled_4 9 rfl rfl)
theorem dX4_pooled_104 : decode cX4_pooled 104 = .ok (.isub, 1) := dk_100 (dk_at dksX4_pooled_4 10 rfl rfl)
theorem dX4_pooled_105 : decode cX4_pooled 105 = .ok (.ireturn, 1) := dk_172 (dk_at dksX4_pooled_4 11 rfl rfl)
abbrev cX4_missed : ByteArray := prog_13_method_107_code
def yX4_missed : MethodName := ⟨RX4, "missed", "()I"⟩
def dkwX4_missed_5 : List UInt8 := [132, 3, 1, 167, 255, 148, 27, 172]
abbrev dktX4_missed_5 : List UInt8 := dkwX4_missed_5 ++ []
def dkwX4_missed_4 : List UInt8 := [182, 1, 94, 54, 4, 27, 2, 159, 0, 12, 21, 4, 28, 161, 0, 6, 167, 0, 8, 29, 60, 21, 4, 61]
abbrev dktX4_missed_4 : List UInt8 := dkwX4_missed_4 ++ dktX4_missed_5
def dkwX4_missed_3 : List UInt8 := [16, 85, 21, 4, 182, 1, 127, 132, 4, 1, 167, 255, 225, 42, 16, 30, 182, 1, 136, 42, 16, 102]
abbrev dktX4_missed_3 : List UInt8 := dkwX4_missed_3 ++ dktX4_missed_4
def dkwX4_missed_2 : List UInt8 := [3, 54, 4, 21, 4, 42, 180, 1, 31, 162, 0, 28, 42, 16, 85, 21, 4, 182, 1, 52, 153, 0, 11, 42]
abbrev dktX4_missed_2 : List UInt8 := dkwX4_missed_2 ++ dktX4_missed_3
def dkwX4_missed_1 : List UInt8 := [182, 1, 52, 154, 0, 6, 167, 0, 88, 42, 182, 1, 133, 42, 180, 0, 75, 17, 0, 140, 29, 96, 2, 79]
abbrev dktX4_missed_1 : List UInt8 := dkwX4_missed_1 ++ dktX4_missed_2
def dkwX4_missed_0 : List UInt8 := [42, 3, 181, 0, 117, 2, 60, 3, 61, 3, 62, 29, 42, 180, 1, 31, 162, 0, 106, 42, 3, 29]
abbrev dktX4_missed_0 : List UInt8 := dkwX4_missed_0 ++ dktX4_missed_1
theorem dksX4_missed_0 : cX4_missed.data.toList.drop 0 = dktX4_missed_0 := by decide +kernel
theorem dksX4_missed_1 : cX4_missed.data.toList.drop 22 = dktX4_missed_1 := dk_seg dksX4_missed_0 22 rfl rfl
theorem dksX4_missed_2 : cX4_missed.data.toList.drop 46 = dktX4_missed_2 := dk_seg dksX4_missed_1 24 rfl rfl
theorem dksX4_missed_3 : cX4_missed.data.toList.drop 70 = dktX4_missed_3 := dk_seg dksX4_missed_2 24 rfl rfl
theorem dksX4_missed_4 : cX4_missed.data.toList.drop 92 = dktX4_missed_4 := dk_seg dksX4_missed_3 22 rfl rfl
theorem dksX4_missed_5 : cX4_missed.data.toList.drop 116 = dktX4_missed_5 := dk_seg dksX4_missed_4 24 rfl rfl
theorem dX4_missed_0 : decode cX4_missed 0 = .ok (.aload_n 0, 1) := dk_42 (dk_at dksX4_missed_0 0 rfl rfl)
theorem dX4_missed_1 : decode cX4_missed 1 = .ok (.iconst 0, 1) := dk_3 (dk_at dksX4_missed_0 1 rfl rfl)
theorem dX4_missed_2 : decode cX4_missed 2 = .ok (.putfield 117, 3) := dk_181 0 117 (dk_at dksX4_missed_0 2 rfl rfl)
theorem dX4_missed_5 : decode cX4_missed 5 = .ok (.iconst (-1), 1) := dk_2 (dk_at dksX4_missed_0 5 rfl rfl)
theorem dX4_missed_6 : decode cX4_missed 6 = .ok (.istore_n 1, 1) := dk_60 (dk_at dksX4_missed_0 6 rfl rfl)
theorem dX4_missed_7 : decode cX4_missed 7 = .ok (.iconst 0, 1) := dk_3 (dk_at dksX4_missed_0 7 rfl rfl)
theorem dX4_missed_8 : decode cX4_missed 8 = .ok (.istore_n 2, 1) := dk_61 (dk_at dksX4_missed_0 8 rfl rfl)
theorem dX4_missed_9 : decode cX4_missed 9 = .ok (.iconst 0, 1) := dk_3 (dk_at dksX4_missed_0 9 rfl rfl)
theorem dX4_missed_10 : decode cX4_missed 10 = .ok (.istore_n 3, 1) := dk_62 (dk_at dksX4_missed_0 10 rfl rfl)
theorem dX4_missed_11 : decode cX4_missed 11 = .ok (.iload_n 3, 1) := dk_29 (dk_at dksX4_missed_0 11 rfl rfl)
theorem dX4_missed_12 : decode cX4_missed 12 = .ok (.aload_n 0, 1) := dk_42 (dk_at dksX4_missed_0 12 rfl rfl)
theorem dX4_missed_13 : decode cX4_missed 13 = .ok (.getfield 287, 3) := dk_180 1 31 (dk_at dksX4_missed_0 13 rfl rfl)
theorem dX4_missed_16 : decode cX4_missed 16 = .ok (.if_icmp .ge 106, 3) := dk_162 0 106 (dk_at dksX4_missed_0 16 rfl rfl)
theorem dX4_missed_19 : decode cX4_missed 19 = .ok (.aload_n 0, 1) := dk_42 (dk_at dksX4_missed_0 19 rfl rfl)
theorem dX4_missed_20 : decode cX4_missed 20 = .ok (.iconst 0, 1) := dk_3 (dk_at dksX4_missed_0 20 rfl rfl)
theorem dX4_missed_21 : decode cX4_missed 21 = .ok (.iload_n 3, 1) := dk_29 (dk_at dksX4_missed_0 21 rfl rfl)
theorem dX4_missed_22 : decode cX4_missed 22 = .ok (.invokevirtual 308, 3) := dk_182 1 52 (dk_at dksX4_missed_1 0 rfl rfl)
theorem dX4_missed_25 : decode cX4_missed 25 = .ok (.ifCond .ne 6, 3) := dk_154 0 6 (dk_at dksX4_missed_1 3 rfl rfl)
theorem dX4_missed_28 : decode cX4_missed 28 = .ok (.goto 88, 3) := dk_167 0 88 (dk_at dksX4_missed_1 6 rfl rfl)
theorem dX4_missed_31 : decode cX4_missed 31 = .ok (.aload_n 0, 1) := dk_42 (dk_at dksX4_missed_1 9 rfl rfl)
theorem dX4_missed_32 : decode cX4_missed 32 = .ok (.invokevirtual 389, 3) := dk_182 1 133 (dk_at dksX4_missed_1 10 rfl rfl)
theorem dX4_missed_35 : decode cX4_missed 35 = .ok (.aload_n 0, 1) := dk_42 (dk_at dksX4_missed_1 13 rfl rfl)
theorem dX4_missed_36 : decode cX4_missed 36 = .ok (.getfield 75, 3) := dk_180 0 75 (dk_at dksX4_missed_1 14 rfl rfl)
theorem dX4_missed_39 : decode cX4_missed 39 = .ok (.sipush 140, 3) := dk_17 0 140 (dk_at dksX4_missed_1 17 rfl rfl)
theorem dX4_missed_42 : decode cX4_missed 42 = .ok (.iload_n 3, 1) := dk_29 (dk_at dksX4_missed_1 20 rfl rfl)
theorem dX4_missed_43 : decode cX4_missed 43 = .ok (.iadd, 1) := dk_96 (dk_at dksX4_missed_1 21 rfl rfl)
theorem dX4_missed_44 : decode cX4_missed 44 = .ok (.iconst (-1), 1) := dk_2 (dk_at dksX4_missed_1 22 rfl rfl)
theorem dX4_missed_45 : decode cX4_missed 45 = .ok (.iastore, 1) := dk_79 (dk_at dksX4_missed_1 23 rfl rfl)
theorem dX4_missed_46 : decode cX4_missed 46 = .ok (.iconst 0, 1) := dk_3 (dk_at dksX4_missed_2 0 rfl rfl)
theorem dX4_missed_47 : decode cX4_missed 47 = .ok (.istore 4, 2) := dk_54 4 (dk_at dksX4_missed_2 1 rfl rfl)
theorem dX4_missed_49 : decode cX4_missed 49 = .ok (.iload 4, 2) := dk_21 4 (dk_at dksX4_missed_2 3 rfl rfl)
theorem dX4_missed_51 : decode cX4_missed 51 = .ok (.aload_n 0, 1) := dk_42 (dk_at dksX4_missed_2 5 rfl rfl)
theorem dX4_missed_52 : decode cX4_missed 52 = .ok (.getfield 287, 3) := dk_180 1 31 (dk_at dksX4_missed_2 6 rfl rfl)
theorem dX4_missed_55 : decode cX4_missed 55 = .ok (.if_icmp .ge 28, 3) := dk_162 0 28 (dk_at dksX4_missed_2 9 rfl rfl)
theorem dX4_missed_58 : decode cX4_missed 58 = .ok (.aload_n 0, 1) := dk_42 (dk_at dksX4_missed_2 12 rfl rfl)
theorem dX4_missed_59 : decode cX4_missed 59 = .ok (.bipush 85, 2) := dk_16 85 (dk_at dksX4_missed_2 13 rfl rfl)
theorem dX4_missed_61 : decode cX4_missed 61 = .ok (.iload 4, 2) := dk_21 4 (dk_at dksX4_missed_2 15 rfl rfl)
theorem dX4_missed_63 : decode cX4_missed 63 = .ok (.invokevirtual 308, 3) := dk_182 1 52 (dk_at dksX4_missed_2 17 rfl rfl)
theorem dX4_missed_66 : decode cX4_missed 66 = .ok (.ifCond .eq 11, 3) := dk_153 0 11 (dk_at dksX4_missed_2 20 rfl rfl)
theorem dX4_missed_69 : decode cX4_missed 69 = .ok (.aload_n 0, 1) := dk_42 (dk_at dksX4_missed_2 23 rfl rfl)
theorem dX4_missed_70 : decode cX4_missed 70 = .ok (.bipush 85, 2) := dk_16 85 (dk_at dksX4_missed_3 0 rfl rfl)
theorem dX4_missed_72 : decode cX4_missed 72 = .ok (.iload 4, 2) := dk_21 4 (dk_at dksX4_missed_3 2 rfl rfl)
theorem dX4_missed_74 : decode cX4_missed 74 = .ok (.invokevirtual 383, 3) := dk_182 1 127 (dk_at dksX4_missed_3 4 rfl rfl)
theorem dX4_missed_77 : decode cX4_missed 77 = .ok (.iinc 4 1, 3) := dk_132 4 1 (dk_at dksX4_missed_3 7 rfl rfl)
theorem dX4_missed_80 : decode cX4_missed 80 = .ok (.goto (-31), 3) := dk_167 255 225 (dk_at dksX4_missed_3 10 rfl rfl)
theorem dX4_missed_83 : decode cX4_missed 83 = .ok (.aload_n 0, 1) := dk_42 (dk_at dksX4_missed_3 13 rfl rfl)
theorem dX4_missed_84 : decode cX4_missed 84 = .ok (.bipush 30, 2) := dk_16 30 (dk_at dksX4_missed_3 14 rfl rfl)
theorem dX4_missed_86 : decode cX4_missed 86 = .ok (.invokevirtual 392, 3) := dk_182 1 136 (dk_at dksX4_missed_3 16 rfl rfl)
theorem dX4_missed_89 : decode cX4_missed 89 = .ok (.aload_n 0, 1) := dk_42 (dk_at dksX4_missed_3 19 rfl rfl)
theorem dX4_missed_90 : decode cX4_missed 90 = .ok (.bipush 102, 2) := dk_16 102 (dk_at dksX4_missed_3 20 rfl rfl)
theorem dX4_missed_92 : decode cX4_missed 92 = .ok (.invokevirtual 350, 3) := dk_182 1 94 (dk_at dksX4_missed_4 0 rfl rfl)
theorem dX4_missed_95 : decode cX4_missed 95 = .ok (.istore 4, 2) := dk_54 4 (dk_at dksX4_missed_4 3 rfl rfl)
theorem dX4_missed_97 : decode cX4_missed 97 = .ok (.iload_n 1, 1) := dk_27 (dk_at dksX4_missed_4 5 rfl rfl)
theorem dX4_missed_98 : decode cX4_missed 98 = .ok (.iconst (-1), 1) := dk_2 (dk_at dksX4_missed_4 6 rfl rfl)
theorem dX4_missed_99 : decode cX4_missed 99 = .ok (.if_icmp .eq 12, 3) := dk_159 0 12 (dk_at dksX4_missed_4 7 rfl rfl)
theorem dX4_missed_102 : decode cX4_missed 102 = .ok (.iload 4, 2) := dk_21 4 (dk_at dksX4_missed_4 10 rfl rfl)
theorem dX4_missed_104 : decode cX4_missed 104 = .ok (.iload_n 2, 1) := dk_28 (dk_at dksX4_missed_4 12 rfl rfl)
theorem dX4_missed_105 : decode cX4_missed 105 = .ok (.if_icmp .lt 6, 3) := dk_161 0 6 (dk_at dksX4_missed_4 13 rfl rfl)
theorem dX4_missed_108 : decode cX4_missed 108 = .ok (.goto 8, 3) := dk_167 0 8 (dk_at dksX4_missed_4 16 rfl rfl)
theorem dX4_missed_111 : decode cX4_missed 111 = .ok (.iload_n 3, 1) := dk_29 (dk_at dksX4_missed_4 19 rfl rfl)
theorem dX4_missed_112 : decode cX4_missed 112 = .ok (.istore_n 1, 1) := dk_60 (dk_at dksX4_missed_4 20 rfl rfl)
theorem dX4_missed_113 : decode cX4_missed 113 = .ok (.iload 4, 2) := dk_21 4 (dk_at dksX4_missed_4 21 rfl rfl)
theorem dX4_missed_115 : decode cX4_missed 115 = .ok (.istore_n 2, 1) := dk_61 (dk_at dksX4_missed_4 23 rfl rfl)
theorem dX4_missed_116 : decode cX4_missed 116 = .ok (.iinc 3 1, 3) := dk_132 3 1 (dk_at dksX4_missed_5 0 rfl rfl)
theorem dX4_missed_119 : decode cX4_missed 119 = .ok (.goto (-108), 3) := dk_167 255 148 (dk_at dksX4_missed_5 3 rfl rfl)
theorem dX4_missed_122 : decode cX4_missed 122 = .ok (.iload_n 1, 1) := dk_27 (dk_at dksX4_missed_5 6 rfl rfl)
theorem dX4_missed_123 : decode cX4_missed 123 = .ok (.ireturn, 1) := dk_172 (dk_at dksX4_missed_5 7 rfl rfl)
abbrev cX4_game : ByteArray := prog_13_method_109_code
def yX4_game : MethodName := ⟨RX4, "game", "(III)I"⟩
def dkwX4_game_7 : List UInt8 := [21, 5, 172]
abbrev dktX4_game_7 : List UInt8 := dkwX4_game_7 ++ []
def dkwX4_game_6 : List UInt8 := [21, 7, 104, 21, 8, 96, 54, 5, 132, 6, 1, 167, 255, 163, 29, 154, 0, 8, 21, 4, 167, 0, 5]
abbrev dktX4_game_6 : List UInt8 := dkwX4_game_6 ++ dktX4_game_7
def dkwX4_game_5 : List UInt8 := [21, 8, 21, 7, 182, 1, 170, 164, 0, 6, 167, 0, 22, 132, 4, 1, 21, 5, 2, 160, 0, 13, 16, 10]
abbrev dktX4_game_5 : List UInt8 := dkwX4_game_5 ++ dktX4_game_6
def dkwX4_game_4 : List UInt8 := [21, 8, 182, 1, 170, 163, 0, 50, 42, 28, 27, 4, 21, 8, 100, 21, 7, 182, 1, 170, 42, 28, 27]
abbrev dktX4_game_4 : List UInt8 := dkwX4_game_4 ++ dktX4_game_5
def dkwX4_game_3 : List UInt8 := [21, 6, 5, 112, 54, 8, 42, 27, 28, 4, 21, 7, 100, 21, 8, 182, 1, 170, 42, 27, 28, 21, 7]
abbrev dktX4_game_3 : List UInt8 := dkwX4_game_3 ++ dktX4_game_4
def dkwX4_game_2 : List UInt8 := [3, 172, 3, 54, 4, 2, 54, 5, 3, 54, 6, 21, 6, 7, 162, 0, 93, 21, 6, 5, 108, 54, 7]
abbrev dktX4_game_2 : List UInt8 := dkwX4_game_2 ++ dktX4_game_3
def dkwX4_game_1 : List UInt8 := [182, 1, 109, 153, 0, 21, 42, 27, 28, 159, 0, 7, 4, 167, 0, 4, 3, 5, 182, 1, 18, 154, 0, 5]
abbrev dktX4_game_1 : List UInt8 := dkwX4_game_1 ++ dktX4_game_2
def dkwX4_game_0 : List UInt8 := [42, 3, 181, 0, 117, 42, 27, 182, 1, 106, 153, 0, 38, 42, 28, 182, 1, 106, 153, 0, 30, 42, 29, 4]
abbrev dktX4_game_0 : List UInt8 := dkwX4_game_0 ++ dktX4_game_1
theorem dksX4_game_0 : cX4_game.data.toList.drop 0 = dktX4_game_0 := by decide +kernel
theorem dksX4_game_1 : cX4_game.data.toList.drop 24 = dktX4_game_1 := dk_seg dksX4_game_0 24 rfl rfl
theorem dksX4_game_2 : cX4_game.data.toList.drop 48 = dktX4_game_2 := dk_seg dksX4_game_1 24 rfl rfl
theorem dksX4_game_3 : cX4_game.data.toList.drop 71 = dktX4_game_3 := dk_seg dksX4_game_2 23 rfl rfl
theorem dksX4_game_4 : cX4_game.data.toList.drop 94 = dktX4_game_4 := dk_seg dksX4_game_3 23 rfl rfl
theorem dksX4_game_5 : cX4_game.data.toList.drop 117 = dktX4_game_5 := dk_seg dksX4_game_4 23 rfl rfl
theorem dksX4_game_6 : cX4_game.data.toList.drop 141 = dktX4_game_6 := dk_seg dksX4_game_5 24 rfl rfl
theorem dksX4_game_7 : cX4_game.data.toList.drop 164 = dktX4_game_7 := dk_seg dksX4_game_6 23 rfl rfl
theorem dX4_game_0 : decode cX4_game 0 = .ok (.aload_n 0, 1) := dk_42 (dk_at dksX4_game_0 0 rfl rfl)
theorem dX4_game_1 : decode cX4_game 1 = .ok (.iconst 0, 1) := dk_3 (dk_at dksX4_game_0 1 rfl rfl)
theorem dX4_game_2 : decode cX4_game 2 = .ok (.putfield 117, 3) := dk_181 0 117 (dk_at dksX4_game_0 2 rfl rfl)
theorem dX4_game_5 : decode cX4_game 5 = .ok (.aload_n 0, 1) := dk_42 (dk_at dksX4_game_0 5 rfl rfl)
theorem dX4_game_6 : decode cX4_game 6 = .ok (.iload_n 1, 1) := dk_27 (dk_at dksX4_game_0 6 rfl rfl)
theorem dX4_game_7 : decode cX4_game 7 = .ok (.invokevirtual 362, 3) := dk_182 1 106 (dk_at dksX4_game_0 7 rfl rfl)
theorem dX4_game_10 : decode cX4_game 10 = .ok (.ifCond .eq 38, 3) := dk_153 0 38 (dk_at dksX4_game_0 10 rfl rfl)
theorem dX4_game_13 : decode cX4_game 13 = .ok (.aload_n 0, 1) := dk_42 (dk_at dksX4_game_0 13 rfl rfl)
theorem dX4_game_14 : decode cX4_game 14 = .ok (.iload_n 2, 1) := dk_28 (dk_at dksX4_game_0 14 rfl rfl)
theorem dX4_game_15 : decode cX4_game 15 = .ok (.invokevirtual 362, 3) := dk_182 1 106 (dk_at dksX4_game_0 15 rfl rfl)
theorem dX4_game_18 : decode cX4_game 18 = .ok (.ifCond .eq 30, 3) := dk_153 0 30 (dk_at dksX4_game_0 18 rfl rfl)
theorem dX4_game_21 : decode cX4_game 21 = .ok (.aload_n 0, 1) := dk_42 (dk_at dksX4_game_0 21 rfl rfl)
theorem dX4_game_22 : decode cX4_game 22 = .ok (.iload_n 3, 1) := dk_29 (dk_at dksX4_game_0 22 rfl rfl)
theorem dX4_game_23 : decode cX4_game 23 = .ok (.iconst 1, 1) := dk_4 (dk_at dksX4_game_0 23 rfl rfl)
theorem dX4_game_24 : decode cX4_game 24 = .ok (.invokevirtual 365, 3) := dk_182 1 109 (dk_at dksX4_game_1 0 rfl rfl)
theorem dX4_game_27 : decode cX4_game 27 = .ok (.ifCond .eq 21, 3) := dk_153 0 21 (dk_at dksX4_game_1 3 rfl rfl)
theorem dX4_game_30 : decode cX4_game 30 = .ok (.aload_n 0, 1) := dk_42 (dk_at dksX4_game_1 6 rfl rfl)
theorem dX4_game_31 : decode cX4_game 31 = .ok (.iload_n 1, 1) := dk_27 (dk_at dksX4_game_1 7 rfl rfl)
theorem dX4_game_32 : decode cX4_game 32 = .ok (.iload_n 2, 1) := dk_28 (dk_at dksX4_game_1 8 rfl rfl)
theorem dX4_game_33 : decode cX4_game 33 = .ok (.if_icmp .eq 7, 3) := dk_159 0 7 (dk_at dksX4_game_1 9 rfl rfl)
theorem dX4_game_36 : decode cX4_game 36 = .ok (.iconst 1, 1) := dk_4 (dk_at dksX4_game_1 12 rfl rfl)
theorem dX4_game_37 : decode cX4_game 37 = .ok (.goto 4, 3) := dk_167 0 4 (dk_at dksX4_game_1 13 rfl rfl)
theorem dX4_game_40 : decode cX4_game 40 = .ok (.iconst 0, 1) := dk_3 (dk_at dksX4_game_1 16 rfl rfl)
theorem dX4_game_41 : decode cX4_game 41 = .ok (.iconst 2, 1) := dk_5 (dk_at dksX4_game_1 17 rfl rfl)
theorem dX4_game_42 : decode cX4_game 42 = .ok (.invokevirtual 274, 3) := dk_182 1 18 (dk_at dksX4_game_1 18 rfl rfl)
theorem dX4_game_45 : decode cX4_game 45 = .ok (.ifCond .ne 5, 3) := dk_154 0 5 (dk_at dksX4_game_1 21 rfl rfl)
theorem dX4_game_48 : decode cX4_game 48 = .ok (.iconst 0, 1) := dk_3 (dk_at dksX4_game_2 0 rfl rfl)
theorem dX4_game_49 : decode cX4_game 49 = .ok (.ireturn, 1) := dk_172 (dk_at dksX4_game_2 1 rfl rfl)
theorem dX4_game_50 : decode cX4_game 50 = .ok (.iconst 0, 1) := dk_3 (dk_at dksX4_game_2 2 rfl rfl)
theorem dX4_game_51 : decode cX4_game 51 = .ok (.istore 4, 2) := dk_54 4 (dk_at dksX4_game_2 3 rfl rfl)
theorem dX4_game_53 : decode cX4_game 53 = .ok (.iconst (-1), 1) := dk_2 (dk_at dksX4_game_2 5 rfl rfl)
theorem dX4_game_54 : decode cX4_game 54 = .ok (.istore 5, 2) := dk_54 5 (dk_at dksX4_game_2 6 rfl rfl)
theorem dX4_game_56 : decode cX4_game 56 = .ok (.iconst 0, 1) := dk_3 (dk_at dksX4_game_2 8 rfl rfl)
theorem dX4_game_57 : decode cX4_game 57 = .ok (.istore 6, 2) := dk_54 6 (dk_at dksX4_game_2 9 rfl rfl)
theorem dX4_game_59 : decode cX4_game 59 = .ok (.iload 6, 2) := dk_21 6 (dk_at dksX4_game_2 11 rfl rfl)
theorem dX4_game_61 : decode cX4_game 61 = .ok (.iconst 4, 1) := dk_7 (dk_at dksX4_game_2 13 rfl rfl)
theorem dX4_game_62 : decode cX4_game 62 = .ok (.if_icmp .ge 93, 3) := dk_162 0 93 (dk_at dksX4_game_2 14 rfl rfl)
theorem dX4_game_65 : decode cX4_game 65 = .ok (.iload 6, 2) := dk_21 6 (dk_at dksX4_game_2 17 rfl rfl)
theorem dX4_game_67 : decode cX4_game 67 = .ok (.iconst 2, 1) := dk_5 (dk_at dksX4_game_2 19 rfl rfl)
theorem dX4_game_68 : decode cX4_game 68 = .ok (.idiv, 1) := dk_108 (dk_at dksX4_game_2 20 rfl rfl)
theorem dX4_game_69 : decode cX4_game 69 = .ok (.istore 7, 2) := dk_54 7 (dk_at dksX4_game_2 21 rfl rfl)
theorem dX4_game_71 : decode cX4_game 71 = .ok (.iload 6, 2) := dk_21 6 (dk_at dksX4_game_3 0 rfl rfl)
theorem dX4_game_73 : decode cX4_game 73 = .ok (.iconst 2, 1) := dk_5 (dk_at dksX4_game_3 2 rfl rfl)
theorem dX4_game_74 : decode cX4_game 74 = .ok (.irem, 1) := dk_112 (dk_at dksX4_game_3 3 rfl rfl)
theorem dX4_game_75 : decode cX4_game 75 = .ok (.istore 8, 2) := dk_54 8 (dk_at dksX4_game_3 4 rfl rfl)
theorem dX4_game_77 : decode cX4_game 77 = .ok (.aload_n 0, 1) := dk_42 (dk_at dksX4_game_3 6 rfl rfl)
theorem dX4_game_78 : decode cX4_game 78 = .ok (.iload_n 1, 1) := dk_27 (dk_at dksX4_game_3 7 rfl rfl)
theorem dX4_game_79 : decode cX4_game 79 = .ok (.iload_n 2, 1) := dk_28 (dk_at dksX4_game_3 8 rfl rfl)
theorem dX4_game_80 : decode cX4_game 80 = .ok (.iconst 1, 1) := dk_4 (dk_at dksX4_game_3 9 rfl rfl)
theorem dX4_game_81 : decode cX4_game 81 = .ok (.iload 7, 2) := dk_21 7 (dk_at dksX4_game_3 10 rfl rfl)
theorem dX4_game_83 : decode cX4_game 83 = .ok (.isub, 1) := dk_100 (dk_at dksX4_game_3 12 rfl rfl)
theorem dX4_game_84 : decode cX4_game 84 = .ok (.iload 8, 2) := dk_21 8 (dk_at dksX4_game_3 13 rfl rfl)
theorem dX4_game_86 : decode cX4_game 86 = .ok (.invokevirtual 426, 3) := dk_182 1 170 (dk_at dksX4_game_3 15 rfl rfl)
theorem dX4_game_89 : decode cX4_game 89 = .ok (.aload_n 0, 1) := dk_42 (dk_at dksX4_game_3 18 rfl rfl)
theorem dX4_game_90 : decode cX4_game 90 = .ok (.iload_n 1, 1) := dk_27 (dk_at dksX4_game_3 19 rfl rfl)
theorem dX4_game_91 : decode cX4_game 91 = .ok (.iload_n 2, 1) := dk_28 (dk_at dksX4_game_3 20 rfl rfl)
theorem dX4_game_92 : decode cX4_game 92 = .ok (.iload 7, 2) := dk_21 7 (dk_at dksX4_game_3 21 rfl rfl)
theorem dX4_game_94 : decode cX4_game 94 = .ok (.iload 8, 2) := dk_21 8 (dk_at dksX4_game_4 0 rfl rfl)
theorem dX4_game_96 : decode cX4_game 96 = .ok (.invokevirtual 426, 3) := dk_182 1 170 (dk_at dksX4_game_4 2 rfl rfl)
theorem dX4_game_99 : decode cX4_game 99 = .ok (.if_icmp .gt 50, 3) := dk_163 0 50 (dk_at dksX4_game_4 5 rfl rfl)
theorem dX4_game_102 : decode cX4_game 102 = .ok (.aload_n 0, 1) := dk_42 (dk_at dksX4_game_4 8 rfl rfl)
theorem dX4_game_103 : decode cX4_game 103 = .ok (.iload_n 2, 1) := dk_28 (dk_at dksX4_game_4 9 rfl rfl)
theorem dX4_game_104 : decode cX4_game 104 = .ok (.iload_n 1, 1) := dk_27 (dk_at dksX4_game_4 10 rfl rfl)
theorem dX4_game_105 : decode cX4_game 105 = .ok (.iconst 1, 1) := dk_4 (dk_at dksX4_game_4 11 rfl rfl)
theorem dX4_game_106 : decode cX4_game 106 = .ok (.iload 8, 2) := dk_21 8 (dk_at dksX4_game_4 12 rfl rfl)
theorem dX4_game_108 : decode cX4_game 108 = .ok (.isub, 1) := dk_100 (dk_at dksX4_game_4 14 rfl rfl)
theorem dX4_game_109 : decode cX4_game 109 = .ok (.iload 7, 2) := dk_21 7 (dk_at dksX4_game_4 15 rfl rfl)
theorem dX4_game_111 : decode cX4_game 111 = .ok (.invokevirtual 426, 3) := dk_182 1 170 (dk_at dksX4_game_4 17 rfl rfl)
theorem dX4_game_114 : decode cX4_game 114 = .ok (.aload_n 0, 1) := dk_42 (dk_at dksX4_game_4 20 rfl rfl)
theorem dX4_game_115 : decode cX4_game 115 = .ok (.iload_n 2, 1) := dk_28 (dk_at dksX4_game_4 21 rfl rfl)
theorem dX4_game_116 : decode cX4_game 116 = .ok (.iload_n 1, 1) := dk_27 (dk_at dksX4_game_4 22 rfl rfl)
theorem dX4_game_117 : decode cX4_game 117 = .ok (.iload 8, 2) := dk_21 8 (dk_at dksX4_game_5 0 rfl rfl)
theorem dX4_game_119 : decode cX4_game 119 = .ok (.iload 7, 2) := dk_21 7 (dk_at dksX4_game_5 2 rfl rfl)
theorem dX4_game_121 : decode cX4_game 121 = .ok (.invokevirtual 426, 3) := dk_182 1 170 (dk_at dksX4_game_5 4 rfl rfl)
theorem dX4_game_124 : decode cX4_game 124 = .ok (.if_icmp .le 6, 3) := dk_164 0 6 (dk_at dksX4_game_5 7 rfl rfl)
theorem dX4_game_127 : decode cX4_game 127 = .ok (.goto 22, 3) := dk_167 0 22 (dk_at dksX4_game_5 10 rfl rfl)
theorem dX4_game_130 : decode cX4_game 130 = .ok (.iinc 4 1, 3) := dk_132 4 1 (dk_at dksX4_game_5 13 rfl rfl)
theorem dX4_game_133 : decode cX4_game 133 = .ok (.iload 5, 2) := dk_21 5 (dk_at dksX4_game_5 16 rfl rfl)
theorem dX4_game_135 : decode cX4_game 135 = .ok (.iconst (-1), 1) := dk_2 (dk_at dksX4_game_5 18 rfl rfl)
theorem dX4_game_136 : decode cX4_game 136 = .ok (.if_icmp .ne 13, 3) := dk_160 0 13 (dk_at dksX4_game_5 19 rfl rfl)
theorem dX4_game_139 : decode cX4_game 139 = .ok (.bipush 10, 2) := dk_16 10 (dk_at dksX4_game_5 22 rfl rfl)
theorem dX4_game_141 : decode cX4_game 141 = .ok (.iload 7, 2) := dk_21 7 (dk_at dksX4_game_6 0 rfl rfl)
theorem dX4_game_143 : decode cX4_game 143 = .ok (.imul, 1) := dk_104 (dk_at dksX4_game_6 2 rfl rfl)
theorem dX4_game_144 : decode cX4_game 144 = .ok (.iload 8, 2) := dk_21 8 (dk_at dksX4_game_6 3 rfl rfl)
theorem dX4_game_146 : decode cX4_game 146 = .ok (.iadd, 1) := dk_96 (dk_at dksX4_game_6 5 rfl rfl)
theorem dX4_game_147 : decode cX4_game 147 = .ok (.istore 5, 2) := dk_54 5 (dk_at dksX4_game_6 6 rfl rfl)
theorem dX4_game_149 : decode cX4_game 149 = .ok (.iinc 6 1, 3) := dk_132 6 1 (dk_at dksX4_game_6 8 rfl rfl)
theorem dX4_game_152 : decode cX4_game 152 = .ok (.goto (-93), 3) := dk_167 255 163 (dk_at dksX4_game_6 11 rfl rfl)
theorem dX4_game_155 : decode cX4_game 155 = .ok (.iload_n 3, 1) := dk_29 (dk_at dksX4_game_6 14 rfl rfl)
theorem dX4_game_156 : decode cX4_game 156 = .ok (.ifCond .ne 8, 3) := dk_154 0 8 (dk_at dksX4_game_6 15 rfl rfl)
theorem dX4_game_159 : decode cX4_game 159 = .ok (.iload 4, 2) := dk_21 4 (dk_at dksX4_game_6 18 rfl rfl)
theorem dX4_game_161 : decode cX4_game 161 = .ok (.goto 5, 3) := dk_167 0 5 (dk_at dksX4_game_6 20 rfl rfl)
theorem dX4_game_164 : decode cX4_game 164 = .ok (.iload 5, 2) := dk_21 5 (dk_at dksX4_game_7 0 rfl rfl)
theorem dX4_game_166 : decode cX4_game 166 = .ok (.ireturn, 1) := dk_172 (dk_at dksX4_game_7 2 rfl rfl)
abbrev cX4_gains : ByteArray := prog_13_method_108_code
def yX4_gains : MethodName := ⟨RX4, "gains", "(IIII)I"⟩
def dkwX4_gains_5 : List UInt8 := [172]
abbrev dktX4_gains_5 : List UInt8 := dkwX4_gains_5 ++ []
def dkwX4_gains_4 : List UInt8 := [16, 10, 182, 1, 136, 42, 180, 0, 75, 16, 102, 27, 96, 46, 42, 180, 0, 75, 16, 17, 27, 96, 46, 100]
abbrev dktX4_gains_4 : List UInt8 := dkwX4_gains_4 ++ dktX4_gains_5
def dkwX4_gains_3 : List UInt8 := [96, 42, 180, 0, 75, 4, 28, 96, 46, 21, 6, 100, 21, 5, 96, 3, 17, 39, 15, 184, 1, 55, 79, 42]
abbrev dktX4_gains_3 : List UInt8 := dkwX4_gains_3 ++ dktX4_gains_4
def dkwX4_gains_2 : List UInt8 := [27, 96, 46, 21, 5, 100, 21, 6, 96, 3, 17, 39, 15, 184, 1, 55, 79, 42, 180, 0, 75, 16, 86, 28]
abbrev dktX4_gains_2 : List UInt8 := dkwX4_gains_2 ++ dktX4_gains_3
def dkwX4_gains_1 : List UInt8 := [46, 16, 10, 108, 104, 54, 6, 42, 182, 1, 133, 42, 180, 0, 75, 16, 86, 27, 96, 42, 180, 0, 75, 4]
abbrev dktX4_gains_1 : List UInt8 := dkwX4_gains_1 ++ dktX4_gains_2
def dkwX4_gains_0 : List UInt8 := [29, 42, 180, 0, 75, 4, 27, 96, 46, 16, 10, 108, 104, 54, 5, 21, 4, 42, 180, 0, 75, 4, 28, 96]
abbrev dktX4_gains_0 : List UInt8 := dkwX4_gains_0 ++ dktX4_gains_1
theorem dksX4_gains_0 : cX4_gains.data.toList.drop 0 = dktX4_gains_0 := by decide +kernel
theorem dksX4_gains_1 : cX4_gains.data.toList.drop 24 = dktX4_gains_1 := dk_seg dksX4_gains_0 24 rfl rfl
theorem dksX4_gains_2 : cX4_gains.data.toList.drop 48 = dktX4_gains_2 := dk_seg dksX4_gains_1 24 rfl rfl
theorem dksX4_gains_3 : cX4_gains.data.toList.drop 72 = dktX4_gains_3 := dk_seg dksX4_gains_2 24 rfl rfl
theorem dksX4_gains_4 : cX4_gains.data.toList.drop 96 = dktX4_gains_4 := dk_seg dksX4_gains_3 24 rfl rfl
theorem dksX4_gains_5 : cX4_gains.data.toList.drop 120 = dktX4_gains_5 := dk_seg dksX4_gains_4 24 rfl rfl
theorem dX4_gains_0 : decode cX4_gains 0 = .ok (.iload_n 3, 1) := dk_29 (dk_at dksX4_gains_0 0 rfl rfl)
theorem dX4_gains_1 : decode cX4_gains 1 = .ok (.aload_n 0, 1) := dk_42 (dk_at dksX4_gains_0 1 rfl rfl)
theorem dX4_gains_2 : decode cX4_gains 2 = .ok (.getfield 75, 3) := dk_180 0 75 (dk_at dksX4_gains_0 2 rfl rfl)
theorem dX4_gains_5 : decode cX4_gains 5 = .ok (.iconst 1, 1) := dk_4 (dk_at dksX4_gains_0 5 rfl rfl)
theorem dX4_gains_6 : decode cX4_gains 6 = .ok (.iload_n 1, 1) := dk_27 (dk_at dksX4_gains_0 6 rfl rfl)
theorem dX4_gains_7 : decode cX4_gains 7 = .ok (.iadd, 1) := dk_96 (dk_at dksX4_gains_0 7 rfl rfl)
theorem dX4_gains_8 : decode cX4_gains 8 = .ok (.iaload, 1) := dk_46 (dk_at dksX4_gains_0 8 rfl rfl)
theorem dX4_gains_9 : decode cX4_gains 9 = .ok (.bipush 10, 2) := dk_16 10 (dk_at dksX4_gains_0 9 rfl rfl)
theorem dX4_gains_11 : decode cX4_gains 11 = .ok (.idiv, 1) := dk_108 (dk_at dksX4_gains_0 11 rfl rfl)
theorem dX4_gains_12 : decode cX4_gains 12 = .ok (.imul, 1) := dk_104 (dk_at dksX4_gains_0 12 rfl rfl)
theorem dX4_gains_13 : decode cX4_gains 13 = .ok (.istore 5, 2) := dk_54 5 (dk_at dksX4_gains_0 13 rfl rfl)
theorem dX4_gains_15 : decode cX4_gains 15 = .ok (.iload 4, 2) := dk_21 4 (dk_at dksX4_gains_0 15 rfl rfl)
theorem dX4_gains_17 : decode cX4_gains 17 = .ok (.aload_n 0, 1) := dk_42 (dk_at dksX4_gains_0 17 rfl rfl)
theorem dX4_gains_18 : decode cX4_gains 18 = .ok (.getfield 75, 3) := dk_180 0 75 (dk_at dksX4_gains_0 18 rfl rfl)
theorem dX4_gains_21 : decode cX4_gains 21 = .ok (.iconst 1, 1) := dk_4 (dk_at dksX4_gains_0 21 rfl rfl)
theorem dX4_gains_22 : decode cX4_gains 22 = .ok (.iload_n 2, 1) := dk_28 (dk_at dksX4_gains_0 22 rfl rfl)
theorem dX4_gains_23 : decode cX4_gains 23 = .ok (.iadd, 1) := dk_96 (dk_at dksX4_gains_0 23 rfl rfl)
theorem dX4_gains_24 : decode cX4_gains 24 = .ok (.iaload, 1) := dk_46 (dk_at dksX4_gains_1 0 rfl rfl)
theorem dX4_gains_25 : decode cX4_gains 25 = .ok (.bipush 10, 2) := dk_16 10 (dk_at dksX4_gains_1 1 rfl rfl)
theorem dX4_gains_27 : decode cX4_gains 27 = .ok (.idiv, 1) := dk_108 (dk_at dksX4_gains_1 3 rfl rfl)
theorem dX4_gains_28 : decode cX4_gains 28 = .ok (.imul, 1) := dk_104 (dk_at dksX4_gains_1 4 rfl rfl)
theorem dX4_gains_29 : decode cX4_gains 29 = .ok (.istore 6, 2) := dk_54 6 (dk_at dksX4_gains_1 5 rfl rfl)
theorem dX4_gains_31 : decode cX4_gains 31 = .ok (.aload_n 0, 1) := dk_42 (dk_at dksX4_gains_1 7 rfl rfl)
theorem dX4_gains_32 : decode cX4_gains 32 = .ok (.invokevirtual 389, 3) := dk_182 1 133 (dk_at dksX4_gains_1 8 rfl rfl)
theorem dX4_gains_35 : decode cX4_gains 35 = .ok (.aload_n 0, 1) := dk_42 (dk_at dksX4_gains_1 11 rfl rfl)
theorem dX4_gains_36 : decode cX4_gains 36 = .ok (.getfield 75, 3) := dk_180 0 75 (dk_at dksX4_gains_1 12 rfl rfl)
theorem dX4_gains_39 : decode cX4_gains 39 = .ok (.bipush 86, 2) := dk_16 86 (dk_at dksX4_gains_1 15 rfl rfl)
theorem dX4_gains_41 : decode cX4_gains 41 = .ok (.iload_n 1, 1) := dk_27 (dk_at dksX4_gains_1 17 rfl rfl)
theorem dX4_gains_42 : decode cX4_gains 42 = .ok (.iadd, 1) := dk_96 (dk_at dksX4_gains_1 18 rfl rfl)
theorem dX4_gains_43 : decode cX4_gains 43 = .ok (.aload_n 0, 1) := dk_42 (dk_at dksX4_gains_1 19 rfl rfl)
theorem dX4_gains_44 : decode cX4_gains 44 = .ok (.getfield 75, 3) := dk_180 0 75 (dk_at dksX4_gains_1 20 rfl rfl)
theorem dX4_gains_47 : decode cX4_gains 47 = .ok (.iconst 1, 1) := dk_4 (dk_at dksX4_gains_1 23 rfl rfl)
theorem dX4_gains_48 : decode cX4_gains 48 = .ok (.iload_n 1, 1) := dk_27 (dk_at dksX4_gains_2 0 rfl rfl)
theorem dX4_gains_49 : decode cX4_gains 49 = .ok (.iadd, 1) := dk_96 (dk_at dksX4_gains_2 1 rfl rfl)
theorem dX4_gains_50 : decode cX4_gains 50 = .ok (.iaload, 1) := dk_46 (dk_at dksX4_gains_2 2 rfl rfl)
theorem dX4_gains_51 : decode cX4_gains 51 = .ok (.iload 5, 2) := dk_21 5 (dk_at dksX4_gains_2 3 rfl rfl)
theorem dX4_gains_53 : decode cX4_gains 53 = .ok (.isub, 1) := dk_100 (dk_at dksX4_gains_2 5 rfl rfl)
theorem dX4_gains_54 : decode cX4_gains 54 = .ok (.iload 6, 2) := dk_21 6 (dk_at dksX4_gains_2 6 rfl rfl)
theorem dX4_gains_56 : decode cX4_gains 56 = .ok (.iadd, 1) := dk_96 (dk_at dksX4_gains_2 8 rfl rfl)
theorem dX4_gains_57 : decode cX4_gains 57 = .ok (.iconst 0, 1) := dk_3 (dk_at dksX4_gains_2 9 rfl rfl)
theorem dX4_gains_58 : decode cX4_gains 58 = .ok (.sipush 9999, 3) := dk_17 39 15 (dk_at dksX4_gains_2 10 rfl rfl)
theorem dX4_gains_61 : decode cX4_gains 61 = .ok (.invokestatic 311, 3) := dk_184 1 55 (dk_at dksX4_gains_2 13 rfl rfl)
theorem dX4_gains_64 : decode cX4_gains 64 = .ok (.iastore, 1) := dk_79 (dk_at dksX4_gains_2 16 rfl rfl)
theorem dX4_gains_65 : decode cX4_gains 65 = .ok (.aload_n 0, 1) := dk_42 (dk_at dksX4_gains_2 17 rfl rfl)
theorem dX4_gains_66 : decode cX4_gains 66 = .ok (.getfield 75, 3) := dk_180 0 75 (dk_at dksX4_gains_2 18 rfl rfl)
theorem dX4_gains_69 : decode cX4_gains 69 = .ok (.bipush 86, 2) := dk_16 86 (dk_at dksX4_gains_2 21 rfl rfl)
theorem dX4_gains_71 : decode cX4_gains 71 = .ok (.iload_n 2, 1) := dk_28 (dk_at dksX4_gains_2 23 rfl rfl)
theorem dX4_gains_72 : decode cX4_gains 72 = .ok (.iadd, 1) := dk_96 (dk_at dksX4_gains_3 0 rfl rfl)
theorem dX4_gains_73 : decode cX4_gains 73 = .ok (.aload_n 0, 1) := dk_42 (dk_at dksX4_gains_3 1 rfl rfl)
theorem dX4_gains_74 : decode cX4_gains 74 = .ok (.getfield 75, 3) := dk_180 0 75 (dk_at dksX4_gains_3 2 rfl rfl)
theorem dX4_gains_77 : decode cX4_gains 77 = .ok (.iconst 1, 1) := dk_4 (dk_at dksX4_gains_3 5 rfl rfl)
theorem dX4_gains_78 : decode cX4_gains 78 = .ok (.iload_n 2, 1) := dk_28 (dk_at dksX4_gains_3 6 rfl rfl)
theorem dX4_gains_79 : decode cX4_gains 79 = .ok (.iadd, 1) := dk_96 (dk_at dksX4_gains_3 7 rfl rfl)
theorem dX4_gains_80 : decode cX4_gains 80 = .ok (.iaload, 1) := dk_46 (dk_at dksX4_gains_3 8 rfl rfl)
theorem dX4_gains_81 : decode cX4_gains 81 = .ok (.iload 6, 2) := dk_21 6 (dk_at dksX4_gains_3 9 rfl rfl)
theorem dX4_gains_83 : decode cX4_gains 83 = .ok (.isub, 1) := dk_100 (dk_at dksX4_gains_3 11 rfl rfl)
theorem dX4_gains_84 : decode cX4_gains 84 = .ok (.iload 5, 2) := dk_21 5 (dk_at dksX4_gains_3 12 rfl rfl)
theorem dX4_gains_86 : decode cX4_gains 86 = .ok (.iadd, 1) := dk_96 (dk_at dksX4_gains_3 14 rfl rfl)
theorem dX4_gains_87 : decode cX4_gains 87 = .ok (.iconst 0, 1) := dk_3 (dk_at dksX4_gains_3 15 rfl rfl)
theorem dX4_gains_88 : decode cX4_gains 88 = .ok (.sipush 9999, 3) := dk_17 39 15 (dk_at dksX4_gains_3 16 rfl rfl)
theorem dX4_gains_91 : decode cX4_gains 91 = .ok (.invokestatic 311, 3) := dk_184 1 55 (dk_at dksX4_gains_3 19 rfl rfl)
theorem dX4_gains_94 : decode cX4_gains 94 = .ok (.iastore, 1) := dk_79 (dk_at dksX4_gains_3 22 rfl rfl)
theorem dX4_gains_95 : decode cX4_gains 95 = .ok (.aload_n 0, 1) := dk_42 (dk_at dksX4_gains_3 23 rfl rfl)
theorem dX4_gains_96 : decode cX4_gains 96 = .ok (.bipush 10, 2) := dk_16 10 (dk_at dksX4_gains_4 0 rfl rfl)
theorem dX4_gains_98 : decode cX4_gains 98 = .ok (.invokevirtual 392, 3) := dk_182 1 136 (dk_at dksX4_gains_4 2 rfl rfl)
theorem dX4_gains_101 : decode cX4_gains 101 = .ok (.aload_n 0, 1) := dk_42 (dk_at dksX4_gains_4 5 rfl rfl)
theorem dX4_gains_102 : decode cX4_gains 102 = .ok (.getfield 75, 3) := dk_180 0 75 (dk_at dksX4_gains_4 6 rfl rfl)
theorem dX4_gains_105 : decode cX4_gains 105 = .ok (.bipush 102, 2) := dk_16 102 (dk_at dksX4_gains_4 9 rfl rfl)
theorem dX4_gains_107 : decode cX4_gains 107 = .ok (.iload_n 1, 1) := dk_27 (dk_at dksX4_gains_4 11 rfl rfl)
theorem dX4_gains_108 : decode cX4_gains 108 = .ok (.iadd, 1) := dk_96 (dk_at dksX4_gains_4 12 rfl rfl)
theorem dX4_gains_109 : decode cX4_gains 109 = .ok (.iaload, 1) := dk_46 (dk_at dksX4_gains_4 13 rfl rfl)
theorem dX4_gains_110 : decode cX4_gains 110 = .ok (.aload_n 0, 1) := dk_42 (dk_at dksX4_gains_4 14 rfl rfl)
theorem dX4_gains_111 : decode cX4_gains 111 = .ok (.getfield 75, 3) := dk_180 0 75 (dk_at dksX4_gains_4 15 rfl rfl)
theorem dX4_gains_114 : decode cX4_gains 114 = .ok (.bipush 17, 2) := dk_16 17 (dk_at dksX4_gains_4 18 rfl rfl)
theorem dX4_gains_116 : decode cX4_gains 116 = .ok (.iload_n 1, 1) := dk_27 (dk_at dksX4_gains_4 20 rfl rfl)
theorem dX4_gains_117 : decode cX4_gains 117 = .ok (.iadd, 1) := dk_96 (dk_at dksX4_gains_4 21 rfl rfl)
theorem dX4_gains_118 : decode cX4_gains 118 = .ok (.iaload, 1) := dk_46 (dk_at dksX4_gains_4 22 rfl rfl)
theorem dX4_gains_119 : decode cX4_gains 119 = .ok (.isub, 1) := dk_100 (dk_at dksX4_gains_4 23 rfl rfl)
theorem dX4_gains_120 : decode cX4_gains 120 = .ok (.ireturn, 1) := dk_172 (dk_at dksX4_gains_5 0 rfl rfl)
abbrev cX4_years : ByteArray := prog_13_method_112_code
def yX4_years : MethodName := ⟨RX4, "years", "(III)I"⟩
def dkwX4_years_7 : List UInt8 := [184, 1, 61, 172]
abbrev dktX4_years_7 : List UInt8 := dkwX4_years_7 ++ []
def dkwX4_years_6 : List UInt8 := [167, 0, 26, 29, 4, 160, 0, 12, 42, 16, 86, 182, 1, 94, 167, 0, 12, 42, 16, 85, 182, 1, 103]
abbrev dktX4_years_6 : List UInt8 := dkwX4_years_6 ++ dktX4_years_7
def dkwX4_years_5 : List UInt8 := [16, 85, 92, 46, 4, 96, 79, 132, 4, 1, 167, 255, 166, 29, 154, 0, 12, 42, 16, 102, 182, 1, 94]
abbrev dktX4_years_5 : List UInt8 := dkwX4_years_5 ++ dktX4_years_6
def dkwX4_years_4 : List UInt8 := [21, 6, 162, 0, 7, 4, 167, 0, 4, 3, 182, 1, 83, 132, 5, 1, 167, 255, 202, 42, 180, 0, 75]
abbrev dktX4_years_4 : List UInt8 := dkwX4_years_4 ++ dktX4_years_5
def dkwX4_years_3 : List UInt8 := [182, 1, 76, 42, 16, 85, 21, 5, 182, 1, 80, 54, 6, 42, 16, 85, 21, 5, 42, 16, 12, 182, 1, 178]
abbrev dktX4_years_3 : List UInt8 := dkwX4_years_3 ++ dktX4_years_4
def dkwX4_years_2 : List UInt8 := [42, 16, 85, 182, 1, 70, 3, 54, 5, 21, 5, 42, 180, 1, 25, 162, 0, 51, 42, 16, 85, 21, 5]
abbrev dktX4_years_2 : List UInt8 := dkwX4_years_2 ++ dktX4_years_3
def dkwX4_years_1 : List UInt8 := [3, 172, 42, 182, 1, 133, 42, 27, 181, 1, 174, 3, 54, 4, 21, 4, 28, 162, 0, 90, 42, 182, 1, 181]
abbrev dktX4_years_1 : List UInt8 := dkwX4_years_1 ++ dktX4_years_2
def dkwX4_years_0 : List UInt8 := [42, 3, 181, 0, 117, 42, 29, 5, 182, 1, 109, 153, 0, 13, 42, 28, 3, 5, 182, 1, 130, 154, 0, 5]
abbrev dktX4_years_0 : List UInt8 := dkwX4_years_0 ++ dktX4_years_1
theorem dksX4_years_0 : cX4_years.data.toList.drop 0 = dktX4_years_0 := by decide +kernel
theorem dksX4_years_1 : cX4_years.data.toList.drop 24 = dktX4_years_1 := dk_seg dksX4_years_0 24 rfl rfl
theorem dksX4_years_2 : cX4_years.data.toList.drop 48 = dktX4_years_2 := dk_seg dksX4_years_1 24 rfl rfl
theorem dksX4_years_3 : cX4_years.data.toList.drop 71 = dktX4_years_3 := dk_seg dksX4_years_2 23 rfl rfl
theorem dksX4_years_4 : cX4_years.data.toList.drop 95 = dktX4_years_4 := dk_seg dksX4_years_3 24 rfl rfl
theorem dksX4_years_5 : cX4_years.data.toList.drop 118 = dktX4_years_5 := dk_seg dksX4_years_4 23 rfl rfl
theorem dksX4_years_6 : cX4_years.data.toList.drop 141 = dktX4_years_6 := dk_seg dksX4_years_5 23 rfl rfl
theorem dksX4_years_7 : cX4_years.data.toList.drop 164 = dktX4_years_7 := dk_seg dksX4_years_6 23 rfl rfl
theorem dX4_years_0 : decode cX4_years 0 = .ok (.aload_n 0, 1) := dk_42 (dk_at dksX4_years_0 0 rfl rfl)
theorem dX4_years_1 : decode cX4_years 1 = .ok (.iconst 0, 1) := dk_3 (dk_at dksX4_years_0 1 rfl rfl)
theorem dX4_years_2 : decode cX4_years 2 = .ok (.putfield 117, 3) := dk_181 0 117 (dk_at dksX4_years_0 2 rfl rfl)
theorem dX4_years_5 : decode cX4_years 5 = .ok (.aload_n 0, 1) := dk_42 (dk_at dksX4_years_0 5 rfl rfl)
theorem dX4_years_6 : decode cX4_years 6 = .ok (.iload_n 3, 1) := dk_29 (dk_at dksX4_years_0 6 rfl rfl)
theorem dX4_years_7 : decode cX4_years 7 = .ok (.iconst 2, 1) := dk_5 (dk_at dksX4_years_0 7 rfl rfl)
theorem dX4_years_8 : decode cX4_years 8 = .ok (.invokevirtual 365, 3) := dk_182 1 109 (dk_at dksX4_years_0 8 rfl rfl)
theorem dX4_years_11 : decode cX4_years 11 = .ok (.ifCond .eq 13, 3) := dk_153 0 13 (dk_at dksX4_years_0 11 rfl rfl)
theorem dX4_years_14 : decode cX4_years 14 = .ok (.aload_n 0, 1) := dk_42 (dk_at dksX4_years_0 14 rfl rfl)
theorem dX4_years_15 : decode cX4_years 15 = .ok (.iload_n 2, 1) := dk_28 (dk_at dksX4_years_0 15 rfl rfl)
theorem dX4_years_16 : decode cX4_years 16 = .ok (.iconst 0, 1) := dk_3 (dk_at dksX4_years_0 16 rfl rfl)
theorem dX4_years_17 : decode cX4_years 17 = .ok (.iconst 2, 1) := dk_5 (dk_at dksX4_years_0 17 rfl rfl)
theorem dX4_years_18 : decode cX4_years 18 = .ok (.invokevirtual 386, 3) := dk_182 1 130 (dk_at dksX4_years_0 18 rfl rfl)
theorem dX4_years_21 : decode cX4_years 21 = .ok (.ifCond .ne 5, 3) := dk_154 0 5 (dk_at dksX4_years_0 21 rfl rfl)
theorem dX4_years_24 : decode cX4_years 24 = .ok (.iconst 0, 1) := dk_3 (dk_at dksX4_years_1 0 rfl rfl)
theorem dX4_years_25 : decode cX4_years 25 = .ok (.ireturn, 1) := dk_172 (dk_at dksX4_years_1 1 rfl rfl)
theorem dX4_years_26 : decode cX4_years 26 = .ok (.aload_n 0, 1) := dk_42 (dk_at dksX4_years_1 2 rfl rfl)
theorem dX4_years_27 : decode cX4_years 27 = .ok (.invokevirtual 389, 3) := dk_182 1 133 (dk_at dksX4_years_1 3 rfl rfl)
theorem dX4_years_30 : decode cX4_years 30 = .ok (.aload_n 0, 1) := dk_42 (dk_at dksX4_years_1 6 rfl rfl)
theorem dX4_years_31 : decode cX4_years 31 = .ok (.iload_n 1, 1) := dk_27 (dk_at dksX4_years_1 7 rfl rfl)
theorem dX4_years_32 : decode cX4_years 32 = .ok (.putfield 430, 3) := dk_181 1 174 (dk_at dksX4_years_1 8 rfl rfl)
theorem dX4_years_35 : decode cX4_years 35 = .ok (.iconst 0, 1) := dk_3 (dk_at dksX4_years_1 11 rfl rfl)
theorem dX4_years_36 : decode cX4_years 36 = .ok (.istore 4, 2) := dk_54 4 (dk_at dksX4_years_1 12 rfl rfl)
theorem dX4_years_38 : decode cX4_years 38 = .ok (.iload 4, 2) := dk_21 4 (dk_at dksX4_years_1 14 rfl rfl)
theorem dX4_years_40 : decode cX4_years 40 = .ok (.iload_n 2, 1) := dk_28 (dk_at dksX4_years_1 16 rfl rfl)
theorem dX4_years_41 : decode cX4_years 41 = .ok (.if_icmp .ge 90, 3) := dk_162 0 90 (dk_at dksX4_years_1 17 rfl rfl)
theorem dX4_years_44 : decode cX4_years 44 = .ok (.aload_n 0, 1) := dk_42 (dk_at dksX4_years_1 20 rfl rfl)
theorem dX4_years_45 : decode cX4_years 45 = .ok (.invokevirtual 437, 3) := dk_182 1 181 (dk_at dksX4_years_1 21 rfl rfl)
theorem dX4_years_48 : decode cX4_years 48 = .ok (.aload_n 0, 1) := dk_42 (dk_at dksX4_years_2 0 rfl rfl)
theorem dX4_years_49 : decode cX4_years 49 = .ok (.bipush 85, 2) := dk_16 85 (dk_at dksX4_years_2 1 rfl rfl)
theorem dX4_years_51 : decode cX4_years 51 = .ok (.invokevirtual 326, 3) := dk_182 1 70 (dk_at dksX4_years_2 3 rfl rfl)
theorem dX4_years_54 : decode cX4_years 54 = .ok (.iconst 0, 1) := dk_3 (dk_at dksX4_years_2 6 rfl rfl)
theorem dX4_years_55 : decode cX4_years 55 = .ok (.istore 5, 2) := dk_54 5 (dk_at dksX4_years_2 7 rfl rfl)
theorem dX4_years_57 : decode cX4_years 57 = .ok (.iload 5, 2) := dk_21 5 (dk_at dksX4_years_2 9 rfl rfl)
theorem dX4_years_59 : decode cX4_years 59 = .ok (.aload_n 0, 1) := dk_42 (dk_at dksX4_years_2 11 rfl rfl)
theorem dX4_years_60 : decode cX4_years 60 = .ok (.getfield 281, 3) := dk_180 1 25 (dk_at dksX4_years_2 12 rfl rfl)
theorem dX4_years_63 : decode cX4_years 63 = .ok (.if_icmp .ge 51, 3) := dk_162 0 51 (dk_at dksX4_years_2 15 rfl rfl)
theorem dX4_years_66 : decode cX4_years 66 = .ok (.aload_n 0, 1) := dk_42 (dk_at dksX4_years_2 18 rfl rfl)
theorem dX4_years_67 : decode cX4_years 67 = .ok (.bipush 85, 2) := dk_16 85 (dk_at dksX4_years_2 19 rfl rfl)
theorem dX4_years_69 : decode cX4_years 69 = .ok (.iload 5, 2) := dk_21 5 (dk_at dksX4_years_2 21 rfl rfl)
theorem dX4_years_71 : decode cX4_years 71 = .ok (.invokevirtual 332, 3) := dk_182 1 76 (dk_at dksX4_years_3 0 rfl rfl)
theorem dX4_years_74 : decode cX4_years 74 = .ok (.aload_n 0, 1) := dk_42 (dk_at dksX4_years_3 3 rfl rfl)
theorem dX4_years_75 : decode cX4_years 75 = .ok (.bipush 85, 2) := dk_16 85 (dk_at dksX4_years_3 4 rfl rfl)
theorem dX4_years_77 : decode cX4_years 77 = .ok (.iload 5, 2) := dk_21 5 (dk_at dksX4_years_3 6 rfl rfl)
theorem dX4_years_79 : decode cX4_years 79 = .ok (.invokevirtual 336, 3) := dk_182 1 80 (dk_at dksX4_years_3 8 rfl rfl)
theorem dX4_years_82 : decode cX4_years 82 = .ok (.istore 6, 2) := dk_54 6 (dk_at dksX4_years_3 11 rfl rfl)
theorem dX4_years_84 : decode cX4_years 84 = .ok (.aload_n 0, 1) := dk_42 (dk_at dksX4_years_3 13 rfl rfl)
theorem dX4_years_85 : decode cX4_years 85 = .ok (.bipush 85, 2) := dk_16 85 (dk_at dksX4_years_3 14 rfl rfl)
theorem dX4_years_87 : decode cX4_years 87 = .ok (.iload 5, 2) := dk_21 5 (dk_at dksX4_years_3 16 rfl rfl)
theorem dX4_years_89 : decode cX4_years 89 = .ok (.aload_n 0, 1) := dk_42 (dk_at dksX4_years_3 18 rfl rfl)
theorem dX4_years_90 : decode cX4_years 90 = .ok (.bipush 12, 2) := dk_16 12 (dk_at dksX4_years_3 19 rfl rfl)
theorem dX4_years_92 : decode cX4_years 92 = .ok (.invokevirtual 434, 3) := dk_182 1 178 (dk_at dksX4_years_3 21 rfl rfl)
theorem dX4_years_95 : decode cX4_years 95 = .ok (.iload 6, 2) := dk_21 6 (dk_at dksX4_years_4 0 rfl rfl)
theorem dX4_years_97 : decode cX4_years 97 = .ok (.if_icmp .ge 7, 3) := dk_162 0 7 (dk_at dksX4_years_4 2 rfl rfl)
theorem dX4_years_100 : decode cX4_years 100 = .ok (.iconst 1, 1) := dk_4 (dk_at dksX4_years_4 5 rfl rfl)
theorem dX4_years_101 : decode cX4_years 101 = .ok (.goto 4, 3) := dk_167 0 4 (dk_at dksX4_years_4 6 rfl rfl)
theorem dX4_years_104 : decode cX4_years 104 = .ok (.iconst 0, 1) := dk_3 (dk_at dksX4_years_4 9 rfl rfl)
theorem dX4_years_105 : decode cX4_years 105 = .ok (.invokevirtual 339, 3) := dk_182 1 83 (dk_at dksX4_years_4 10 rfl rfl)
theorem dX4_years_108 : decode cX4_years 108 = .ok (.iinc 5 1, 3) := dk_132 5 1 (dk_at dksX4_years_4 13 rfl rfl)
theorem dX4_years_111 : decode cX4_years 111 = .ok (.goto (-54), 3) := dk_167 255 202 (dk_at dksX4_years_4 16 rfl rfl)
theorem dX4_years_114 : decode cX4_years 114 = .ok (.aload_n 0, 1) := dk_42 (dk_at dksX4_years_4 19 rfl rfl)
theorem dX4_years_115 : decode cX4_years 115 = .ok (.getfield 75, 3) := dk_180 0 75 (dk_at dksX4_years_4 20 rfl rfl)
theorem dX4_years_118 : decode cX4_years 118 = .ok (.bipush 85, 2) := dk_16 85 (dk_at dksX4_years_5 0 rfl rfl)
theorem dX4_years_120 : decode cX4_years 120 = .ok (.dup2, 1) := dk_92 (dk_at dksX4_years_5 2 rfl rfl)
theorem dX4_years_121 : decode cX4_years 121 = .ok (.iaload, 1) := dk_46 (dk_at dksX4_years_5 3 rfl rfl)
theorem dX4_years_122 : decode cX4_years 122 = .ok (.iconst 1, 1) := dk_4 (dk_at dksX4_years_5 4 rfl rfl)
theorem dX4_years_123 : decode cX4_years 123 = .ok (.iadd, 1) := dk_96 (dk_at dksX4_years_5 5 rfl rfl)
theorem dX4_years_124 : decode cX4_years 124 = .ok (.iastore, 1) := dk_79 (dk_at dksX4_years_5 6 rfl rfl)
theorem dX4_years_125 : decode cX4_years 125 = .ok (.iinc 4 1, 3) := dk_132 4 1 (dk_at dksX4_years_5 7 rfl rfl)
theorem dX4_years_128 : decode cX4_years 128 = .ok (.goto (-90), 3) := dk_167 255 166 (dk_at dksX4_years_5 10 rfl rfl)
theorem dX4_years_131 : decode cX4_years 131 = .ok (.iload_n 3, 1) := dk_29 (dk_at dksX4_years_5 13 rfl rfl)
theorem dX4_years_132 : decode cX4_years 132 = .ok (.ifCond .ne 12, 3) := dk_154 0 12 (dk_at dksX4_years_5 14 rfl rfl)
theorem dX4_years_135 : decode cX4_years 135 = .ok (.aload_n 0, 1) := dk_42 (dk_at dksX4_years_5 17 rfl rfl)
theorem dX4_years_136 : decode cX4_years 136 = .ok (.bipush 102, 2) := dk_16 102 (dk_at dksX4_years_5 18 rfl rfl)
theorem dX4_years_138 : decode cX4_years 138 = .ok (.invokevirtual 350, 3) := dk_182 1 94 (dk_at dksX4_years_5 20 rfl rfl)
theorem dX4_years_141 : decode cX4_years 141 = .ok (.goto 26, 3) := dk_167 0 26 (dk_at dksX4_years_6 0 rfl rfl)
theorem dX4_years_144 : decode cX4_years 144 = .ok (.iload_n 3, 1) := dk_29 (dk_at dksX4_years_6 3 rfl rfl)
theorem dX4_years_145 : decode cX4_years 145 = .ok (.iconst 1, 1) := dk_4 (dk_at dksX4_years_6 4 rfl rfl)
theorem dX4_years_146 : decode cX4_years 146 = .ok (.if_icmp .ne 12, 3) := dk_160 0 12 (dk_at dksX4_years_6 5 rfl rfl)
theorem dX4_years_149 : decode cX4_years 149 = .ok (.aload_n 0, 1) := dk_42 (dk_at dksX4_years_6 8 rfl rfl)
theorem dX4_years_150 : decode cX4_years 150 = .ok (.bipush 86, 2) := dk_16 86 (dk_at dksX4_years_6 9 rfl rfl)
theorem dX4_years_152 : decode cX4_years 152 = .ok (.invokevirtual 350, 3) := dk_182 1 94 (dk_at dksX4_years_6 11 rfl rfl)
theorem dX4_years_155 : decode cX4_years 155 = .ok (.goto 12, 3) := dk_167 0 12 (dk_at dksX4_years_6 14 rfl rfl)
theorem dX4_years_158 : decode cX4_years 158 = .ok (.aload_n 0, 1) := dk_42 (dk_at dksX4_years_6 17 rfl rfl)
theorem dX4_years_159 : decode cX4_years 159 = .ok (.bipush 85, 2) := dk_16 85 (dk_at dksX4_years_6 18 rfl rfl)
theorem dX4_years_161 : decode cX4_years 161 = .ok (.invokevirtual 359, 3) := dk_182 1 103 (dk_at dksX4_years_6 20 rfl rfl)
theorem dX4_years_164 : decode cX4_years 164 = .ok (.invokestatic 317, 3) := dk_184 1 61 (dk_at dksX4_years_7 0 rfl rfl)
theorem dX4_years_167 : decode cX4_years 167 = .ok (.ireturn, 1) := dk_172 (dk_at dksX4_years_7 3 rfl rfl)
abbrev cX4_steals : ByteArray := prog_13_method_111_code
def yX4_steals : MethodName := ⟨RX4, "steals", "()V"⟩
def dkwX4_steals_2 : List UInt8 := [79, 42, 180, 0, 75, 17, 0, 140, 27, 96, 2, 79, 177]
abbrev dktX4_steals_2 : List UInt8 := dkwX4_steals_2 ++ []
def dkwX4_steals_1 : List UInt8 := [182, 1, 178, 60, 42, 16, 85, 27, 182, 1, 52, 154, 0, 4, 177, 42, 180, 0, 75, 16, 110, 27, 96, 3]
abbrev dktX4_steals_1 : List UInt8 := dkwX4_steals_1 ++ dktX4_steals_2
def dkwX4_steals_0 : List UInt8 := [42, 16, 9, 182, 1, 178, 154, 0, 10, 42, 180, 1, 31, 154, 0, 4, 177, 42, 42, 180, 1, 31]
abbrev dktX4_steals_0 : List UInt8 := dkwX4_steals_0 ++ dktX4_steals_1
theorem dksX4_steals_0 : cX4_steals.data.toList.drop 0 = dktX4_steals_0 := by decide +kernel
theorem dksX4_steals_1 : cX4_steals.data.toList.drop 22 = dktX4_steals_1 := dk_seg dksX4_steals_0 22 rfl rfl
theorem dksX4_steals_2 : cX4_steals.data.toList.drop 46 = dktX4_steals_2 := dk_seg dksX4_steals_1 24 rfl rfl
theorem dX4_steals_0 : decode cX4_steals 0 = .ok (.aload_n 0, 1) := dk_42 (dk_at dksX4_steals_0 0 rfl rfl)
theorem dX4_steals_1 : decode cX4_steals 1 = .ok (.bipush 9, 2) := dk_16 9 (dk_at dksX4_steals_0 1 rfl rfl)
theorem dX4_steals_3 : decode cX4_steals 3 = .ok (.invokevirtual 434, 3) := dk_182 1 178 (dk_at dksX4_steals_0 3 rfl rfl)
theorem dX4_steals_6 : decode cX4_steals 6 = .ok (.ifCond .ne 10, 3) := dk_154 0 10 (dk_at dksX4_steals_0 6 rfl rfl)
theorem dX4_steals_9 : decode cX4_steals 9 = .ok (.aload_n 0, 1) := dk_42 (dk_at dksX4_steals_0 9 rfl rfl)
theorem dX4_steals_10 : decode cX4_steals 10 = .ok (.getfield 287, 3) := dk_180 1 31 (dk_at dksX4_steals_0 10 rfl rfl)
theorem dX4_steals_13 : decode cX4_steals 13 = .ok (.ifCond .ne 4, 3) := dk_154 0 4 (dk_at dksX4_steals_0 13 rfl rfl)
theorem dX4_steals_16 : decode cX4_steals 16 = .ok (.return_, 1) := dk_177 (dk_at dksX4_steals_0 16 rfl rfl)
theorem dX4_steals_17 : decode cX4_steals 17 = .ok (.aload_n 0, 1) := dk_42 (dk_at dksX4_steals_0 17 rfl rfl)
theorem dX4_steals_18 : decode cX4_steals 18 = .ok (.aload_n 0, 1) := dk_42 (dk_at dksX4_steals_0 18 rfl rfl)
theorem dX4_steals_19 : decode cX4_steals 19 = .ok (.getfield 287, 3) := dk_180 1 31 (dk_at dksX4_steals_0 19 rfl rfl)
theorem dX4_steals_22 : decode cX4_steals 22 = .ok (.invokevirtual 434, 3) := dk_182 1 178 (dk_at dksX4_steals_1 0 rfl rfl)
theorem dX4_steals_25 : decode cX4_steals 25 = .ok (.istore_n 1, 1) := dk_60 (dk_at dksX4_steals_1 3 rfl rfl)
theorem dX4_steals_26 : decode cX4_steals 26 = .ok (.aload_n 0, 1) := dk_42 (dk_at dksX4_steals_1 4 rfl rfl)
theorem dX4_steals_27 : decode cX4_steals 27 = .ok (.bipush 85, 2) := dk_16 85 (dk_at dksX4_steals_1 5 rfl rfl)
theorem dX4_steals_29 : decode cX4_steals 29 = .ok (.iload_n 1, 1) := dk_27 (dk_at dksX4_steals_1 7 rfl rfl)
theorem dX4_steals_30 : decode cX4_steals 30 = .ok (.invokevirtual 308, 3) := dk_182 1 52 (dk_at dksX4_steals_1 8 rfl rfl)
theorem dX4_steals_33 : decode cX4_steals 33 = .ok (.ifCond .ne 4, 3) := dk_154 0 4 (dk_at dksX4_steals_1 11 rfl rfl)
theorem dX4_steals_36 : decode cX4_steals 36 = .ok (.return_, 1) := dk_177 (dk_at dksX4_steals_1 14 rfl rfl)
theorem dX4_steals_37 : decode cX4_steals 37 = .ok (.aload_n 0, 1) := dk_42 (dk_at dksX4_steals_1 15 rfl rfl)
theorem dX4_steals_38 : decode cX4_steals 38 = .ok (.getfield 75, 3) := dk_180 0 75 (dk_at dksX4_steals_1 16 rfl rfl)
theorem dX4_steals_41 : decode cX4_steals 41 = .ok (.bipush 110, 2) := dk_16 110 (dk_at dksX4_steals_1 19 rfl rfl)
theorem dX4_steals_43 : decode cX4_steals 43 = .ok (.iload_n 1, 1) := dk_27 (dk_at dksX4_steals_1 21 rfl rfl)
theorem dX4_steals_44 : decode cX4_steals 44 = .ok (.iadd, 1) := dk_96 (dk_at dksX4_steals_1 22 rfl rfl)
theorem dX4_steals_45 : decode cX4_steals 45 = .ok (.iconst 0, 1) := dk_3 (dk_at dksX4_steals_1 23 rfl rfl)
theorem dX4_steals_46 : decode cX4_steals 46 = .ok (.iastore, 1) := dk_79 (dk_at dksX4_steals_2 0 rfl rfl)
theorem dX4_steals_47 : decode cX4_steals 47 = .ok (.aload_n 0, 1) := dk_42 (dk_at dksX4_steals_2 1 rfl rfl)
theorem dX4_steals_48 : decode cX4_steals 48 = .ok (.getfield 75, 3) := dk_180 0 75 (dk_at dksX4_steals_2 2 rfl rfl)
theorem dX4_steals_51 : decode cX4_steals 51 = .ok (.sipush 140, 3) := dk_17 0 140 (dk_at dksX4_steals_2 5 rfl rfl)
theorem dX4_steals_54 : decode cX4_steals 54 = .ok (.iload_n 1, 1) := dk_27 (dk_at dksX4_steals_2 8 rfl rfl)
theorem dX4_steals_55 : decode cX4_steals 55 = .ok (.iadd, 1) := dk_96 (dk_at dksX4_steals_2 9 rfl rfl)
theorem dX4_steals_56 : decode cX4_steals 56 = .ok (.iconst (-1), 1) := dk_2 (dk_at dksX4_steals_2 10 rfl rfl)
theorem dX4_steals_57 : decode cX4_steals 57 = .ok (.iastore, 1) := dk_79 (dk_at dksX4_steals_2 11 rfl rfl)
theorem dX4_steals_58 : decode cX4_steals 58 = .ok (.return_, 1) := dk_177 (dk_at dksX4_steals_2 12 rfl rfl)
abbrev cX4_draw : ByteArray := prog_13_method_110_code
def yX4_draw : MethodName := ⟨RX4, "draw", "(I)I"⟩
def dkwX4_draw_1 : List UInt8 := [17, 127, 255, 126, 27, 112, 172]
abbrev dktX4_draw_1 : List UInt8 := dkwX4_draw_1 ++ []
def dkwX4_draw_0 : List UInt8 := [42, 42, 180, 1, 174, 19, 1, 177, 104, 17, 48, 57, 96, 181, 1, 174, 42, 180, 1, 174, 16, 16, 122]
abbrev dktX4_draw_0 : List UInt8 := dkwX4_draw_0 ++ dktX4_draw_1
theorem dksX4_draw_0 : cX4_draw.data.toList.drop 0 = dktX4_draw_0 := by decide +kernel
theorem dksX4_draw_1 : cX4_draw.data.toList.drop 23 = dktX4_draw_1 := dk_seg dksX4_draw_0 23 rfl rfl
theorem dX4_draw_0 : decode cX4_draw 0 = .ok (.aload_n 0, 1) := dk_42 (dk_at dksX4_draw_0 0 rfl rfl)
theorem dX4_draw_1 : decode cX4_draw 1 = .ok (.aload_n 0, 1) := dk_42 (dk_at dksX4_draw_0 1 rfl rfl)
theorem dX4_draw_2 : decode cX4_draw 2 = .ok (.getfield 430, 3) := dk_180 1 174 (dk_at dksX4_draw_0 2 rfl rfl)
theorem dX4_draw_5 : decode cX4_draw 5 = .ok (.ldc_w 433, 3) := dk_19 1 177 (dk_at dksX4_draw_0 5 rfl rfl)
theorem dX4_draw_8 : decode cX4_draw 8 = .ok (.imul, 1) := dk_104 (dk_at dksX4_draw_0 8 rfl rfl)
theorem dX4_draw_9 : decode cX4_draw 9 = .ok (.sipush 12345, 3) := dk_17 48 57 (dk_at dksX4_draw_0 9 rfl rfl)
theorem dX4_draw_12 : decode cX4_draw 12 = .ok (.iadd, 1) := dk_96 (dk_at dksX4_draw_0 12 rfl rfl)
theorem dX4_draw_13 : decode cX4_draw 13 = .ok (.putfield 430, 3) := dk_181 1 174 (dk_at dksX4_draw_0 13 rfl rfl)
theorem dX4_draw_16 : decode cX4_draw 16 = .ok (.aload_n 0, 1) := dk_42 (dk_at dksX4_draw_0 16 rfl rfl)
theorem dX4_draw_17 : decode cX4_draw 17 = .ok (.getfield 430, 3) := dk_180 1 174 (dk_at dksX4_draw_0 17 rfl rfl)
theorem dX4_draw_20 : decode cX4_draw 20 = .ok (.bipush 16, 2) := dk_16 16 (dk_at dksX4_draw_0 20 rfl rfl)
theorem dX4_draw_22 : decode cX4_draw 22 = .ok (.ishr, 1) := dk_122 (dk_at dksX4_draw_0 22 rfl rfl)
theorem dX4_draw_23 : decode cX4_draw 23 = .ok (.sipush 32767, 3) := dk_17 127 255 (dk_at dksX4_draw_1 0 rfl rfl)
theorem dX4_draw_26 : decode cX4_draw 26 = .ok (.iand, 1) := dk_126 (dk_at dksX4_draw_1 3 rfl rfl)
theorem dX4_draw_27 : decode cX4_draw 27 = .ok (.iload_n 1, 1) := dk_27 (dk_at dksX4_draw_1 4 rfl rfl)
theorem dX4_draw_28 : decode cX4_draw 28 = .ok (.irem, 1) := dk_112 (dk_at dksX4_draw_1 5 rfl rfl)
theorem dX4_draw_29 : decode cX4_draw 29 = .ok (.ireturn, 1) := dk_172 (dk_at dksX4_draw_1 6 rfl rfl)
abbrev cX4_thief : ByteArray := prog_13_method_114_code
def yX4_thief : MethodName := ⟨RX4, "thief", "(II)I"⟩
def dkwX4_thief_7 : List UInt8 := [54, 4, 132, 5, 1, 167, 255, 175, 21, 4, 172]
abbrev dktX4_thief_7 : List UInt8 := dkwX4_thief_7 ++ []
def dkwX4_thief_6 : List UInt8 := [154, 0, 21, 21, 5, 184, 1, 61, 21, 4, 184, 1, 61, 162, 0, 8, 21, 5, 167, 0, 5, 21, 4]
abbrev dktX4_thief_6 : List UInt8 := dkwX4_thief_6 ++ dktX4_thief_7
def dkwX4_thief_5 : List UInt8 := [21, 5, 3, 182, 1, 184, 42, 21, 4, 3, 182, 1, 184, 100, 54, 6, 21, 6, 157, 0, 21, 21, 6]
abbrev dktX4_thief_5 : List UInt8 := dkwX4_thief_5 ++ dktX4_thief_6
def dkwX4_thief_4 : List UInt8 := [21, 5, 29, 2, 130, 126, 154, 0, 66, 42, 21, 5, 3, 182, 1, 184, 28, 164, 0, 6, 167, 0, 52, 42]
abbrev dktX4_thief_4 : List UInt8 := dkwX4_thief_4 ++ dktX4_thief_5
def dkwX4_thief_3 : List UInt8 := [167, 0, 4, 2, 126, 62, 132, 4, 1, 167, 255, 217, 3, 54, 4, 3, 54, 5, 21, 5, 29, 163, 0, 81]
abbrev dktX4_thief_3 : List UInt8 := dkwX4_thief_3 ++ dktX4_thief_4
def dkwX4_thief_2 : List UInt8 := [162, 0, 36, 29, 42, 180, 0, 75, 16, 35, 21, 4, 96, 46, 4, 160, 0, 12, 4, 21, 4, 120, 2, 130]
abbrev dktX4_thief_2 : List UInt8 := dkwX4_thief_2 ++ dktX4_thief_3
def dkwX4_thief_1 : List UInt8 := [182, 1, 18, 154, 0, 5, 3, 172, 42, 3, 27, 182, 1, 58, 62, 3, 54, 4, 21, 4, 42, 180, 1, 31]
abbrev dktX4_thief_1 : List UInt8 := dkwX4_thief_1 ++ dktX4_thief_2
def dkwX4_thief_0 : List UInt8 := [42, 3, 181, 0, 117, 42, 27, 182, 1, 106, 153, 0, 19, 42, 28, 3, 17, 3, 231, 184, 1, 90, 5]
abbrev dktX4_thief_0 : List UInt8 := dkwX4_thief_0 ++ dktX4_thief_1
theorem dksX4_thief_0 : cX4_thief.data.toList.drop 0 = dktX4_thief_0 := by decide +kernel
theorem dksX4_thief_1 : cX4_thief.data.toList.drop 23 = dktX4_thief_1 := dk_seg dksX4_thief_0 23 rfl rfl
theorem dksX4_thief_2 : cX4_thief.data.toList.drop 47 = dktX4_thief_2 := dk_seg dksX4_thief_1 24 rfl rfl
theorem dksX4_thief_3 : cX4_thief.data.toList.drop 71 = dktX4_thief_3 := dk_seg dksX4_thief_2 24 rfl rfl
theorem dksX4_thief_4 : cX4_thief.data.toList.drop 95 = dktX4_thief_4 := dk_seg dksX4_thief_3 24 rfl rfl
theorem dksX4_thief_5 : cX4_thief.data.toList.drop 119 = dktX4_thief_5 := dk_seg dksX4_thief_4 24 rfl rfl
theorem dksX4_thief_6 : cX4_thief.data.toList.drop 142 = dktX4_thief_6 := dk_seg dksX4_thief_5 23 rfl rfl
theorem dksX4_thief_7 : cX4_thief.data.toList.drop 165 = dktX4_thief_7 := dk_seg dksX4_thief_6 23 rfl rfl
theorem dX4_thief_0 : decode cX4_thief 0 = .ok (.aload_n 0, 1) := dk_42 (dk_at dksX4_thief_0 0 rfl rfl)
theorem dX4_thief_1 : decode cX4_thief 1 = .ok (.iconst 0, 1) := dk_3 (dk_at dksX4_thief_0 1 rfl rfl)
theorem dX4_thief_2 : decode cX4_thief 2 = .ok (.putfield 117, 3) := dk_181 0 117 (dk_at dksX4_thief_0 2 rfl rfl)
theorem dX4_thief_5 : decode cX4_thief 5 = .ok (.aload_n 0, 1) := dk_42 (dk_at dksX4_thief_0 5 rfl rfl)
theorem dX4_thief_6 : decode cX4_thief 6 = .ok (.iload_n 1, 1) := dk_27 (dk_at dksX4_thief_0 6 rfl rfl)
theorem dX4_thief_7 : decode cX4_thief 7 = .ok (.invokevirtual 362, 3) := dk_182 1 106 (dk_at dksX4_thief_0 7 rfl rfl)
theorem dX4_thief_10 : decode cX4_thief 10 = .ok (.ifCond .eq 19, 3) := dk_153 0 19 (dk_at dksX4_thief_0 10 rfl rfl)
theorem dX4_thief_13 : decode cX4_thief 13 = .ok (.aload_n 0, 1) := dk_42 (dk_at dksX4_thief_0 13 rfl rfl)
theorem dX4_thief_14 : decode cX4_thief 14 = .ok (.iload_n 2, 1) := dk_28 (dk_at dksX4_thief_0 14 rfl rfl)
theorem dX4_thief_15 : decode cX4_thief 15 = .ok (.iconst 0, 1) := dk_3 (dk_at dksX4_thief_0 15 rfl rfl)
theorem dX4_thief_16 : decode cX4_thief 16 = .ok (.sipush 999, 3) := dk_17 3 231 (dk_at dksX4_thief_0 16 rfl rfl)
theorem dX4_thief_19 : decode cX4_thief 19 = .ok (.invokestatic 346, 3) := dk_184 1 90 (dk_at dksX4_thief_0 19 rfl rfl)
theorem dX4_thief_22 : decode cX4_thief 22 = .ok (.iconst 2, 1) := dk_5 (dk_at dksX4_thief_0 22 rfl rfl)
theorem dX4_thief_23 : decode cX4_thief 23 = .ok (.invokevirtual 274, 3) := dk_182 1 18 (dk_at dksX4_thief_1 0 rfl rfl)
theorem dX4_thief_26 : decode cX4_thief 26 = .ok (.ifCond .ne 5, 3) := dk_154 0 5 (dk_at dksX4_thief_1 3 rfl rfl)
theorem dX4_thief_29 : decode cX4_thief 29 = .ok (.iconst 0, 1) := dk_3 (dk_at dksX4_thief_1 6 rfl rfl)
theorem dX4_thief_30 : decode cX4_thief 30 = .ok (.ireturn, 1) := dk_172 (dk_at dksX4_thief_1 7 rfl rfl)
theorem dX4_thief_31 : decode cX4_thief 31 = .ok (.aload_n 0, 1) := dk_42 (dk_at dksX4_thief_1 8 rfl rfl)
theorem dX4_thief_32 : decode cX4_thief 32 = .ok (.iconst 0, 1) := dk_3 (dk_at dksX4_thief_1 9 rfl rfl)
theorem dX4_thief_33 : decode cX4_thief 33 = .ok (.iload_n 1, 1) := dk_27 (dk_at dksX4_thief_1 10 rfl rfl)
theorem dX4_thief_34 : decode cX4_thief 34 = .ok (.invokevirtual 314, 3) := dk_182 1 58 (dk_at dksX4_thief_1 11 rfl rfl)
theorem dX4_thief_37 : decode cX4_thief 37 = .ok (.istore_n 3, 1) := dk_62 (dk_at dksX4_thief_1 14 rfl rfl)
theorem dX4_thief_38 : decode cX4_thief 38 = .ok (.iconst 0, 1) := dk_3 (dk_at dksX4_thief_1 15 rfl rfl)
theorem dX4_thief_39 : decode cX4_thief 39 = .ok (.istore 4, 2) := dk_54 4 (dk_at dksX4_thief_1 16 rfl rfl)
theorem dX4_thief_41 : decode cX4_thief 41 = .ok (.iload 4, 2) := dk_21 4 (dk_at dksX4_thief_1 18 rfl rfl)
theorem dX4_thief_43 : decode cX4_thief 43 = .ok (.aload_n 0, 1) := dk_42 (dk_at dksX4_thief_1 20 rfl rfl)
theorem dX4_thief_44 : decode cX4_thief 44 = .ok (.getfield 287, 3) := dk_180 1 31 (dk_at dksX4_thief_1 21 rfl rfl)
theorem dX4_thief_47 : decode cX4_thief 47 = .ok (.if_icmp .ge 36, 3) := dk_162 0 36 (dk_at dksX4_thief_2 0 rfl rfl)
theorem dX4_thief_50 : decode cX4_thief 50 = .ok (.iload_n 3, 1) := dk_29 (dk_at dksX4_thief_2 3 rfl rfl)
theorem dX4_thief_51 : decode cX4_thief 51 = .ok (.aload_n 0, 1) := dk_42 (dk_at dksX4_thief_2 4 rfl rfl)
theorem dX4_thief_52 : decode cX4_thief 52 = .ok (.getfield 75, 3) := dk_180 0 75 (dk_at dksX4_thief_2 5 rfl rfl)
theorem dX4_thief_55 : decode cX4_thief 55 = .ok (.bipush 35, 2) := dk_16 35 (dk_at dksX4_thief_2 8 rfl rfl)
theorem dX4_thief_57 : decode cX4_thief 57 = .ok (.iload 4, 2) := dk_21 4 (dk_at dksX4_thief_2 10 rfl rfl)
theorem dX4_thief_59 : decode cX4_thief 59 = .ok (.iadd, 1) := dk_96 (dk_at dksX4_thief_2 12 rfl rfl)
theorem dX4_thief_60 : decode cX4_thief 60 = .ok (.iaload, 1) := dk_46 (dk_at dksX4_thief_2 13 rfl rfl)
theorem dX4_thief_61 : decode cX4_thief 61 = .ok (.iconst 1, 1) := dk_4 (dk_at dksX4_thief_2 14 rfl rfl)
theorem dX4_thief_62 : decode cX4_thief 62 = .ok (.if_icmp .ne 12, 3) := dk_160 0 12 (dk_at dksX4_thief_2 15 rfl rfl)
theorem dX4_thief_65 : decode cX4_thief 65 = .ok (.iconst 1, 1) := dk_4 (dk_at dksX4_thief_2 18 rfl rfl)
theorem dX4_thief_66 : decode cX4_thief 66 = .ok (.iload 4, 2) := dk_21 4 (dk_at dksX4_thief_2 19 rfl rfl)
theorem dX4_thief_68 : decode cX4_thief 68 = .ok (.ishl, 1) := dk_120 (dk_at dksX4_thief_2 21 rfl rfl)
theorem dX4_thief_69 : decode cX4_thief 69 = .ok (.iconst (-1), 1) := dk_2 (dk_at dksX4_thief_2 22 rfl rfl)
theorem dX4_thief_70 : decode cX4_thief 70 = .ok (.ixor, 1) := dk_130 (dk_at dksX4_thief_2 23 rfl rfl)
theorem dX4_thief_71 : decode cX4_thief 71 = .ok (.goto 4, 3) := dk_167 0 4 (dk_at dksX4_thief_3 0 rfl rfl)
theorem dX4_thief_74 : decode cX4_thief 74 = .ok (.iconst (-1), 1) := dk_2 (dk_at dksX4_thief_3 3 rfl rfl)
theorem dX4_thief_75 : decode cX4_thief 75 = .ok (.iand, 1) := dk_126 (dk_at dksX4_thief_3 4 rfl rfl)
theorem dX4_thief_76 : decode cX4_thief 76 = .ok (.istore_n 3, 1) := dk_62 (dk_at dksX4_thief_3 5 rfl rfl)
theorem dX4_thief_77 : decode cX4_thief 77 = .ok (.iinc 4 1, 3) := dk_132 4 1 (dk_at dksX4_thief_3 6 rfl rfl)
theorem dX4_thief_80 : decode cX4_thief 80 = .ok (.goto (-39), 3) := dk_167 255 217 (dk_at dksX4_thief_3 9 rfl rfl)
theorem dX4_thief_83 : decode cX4_thief 83 = .ok (.iconst 0, 1) := dk_3 (dk_at dksX4_thief_3 12 rfl rfl)
theorem dX4_thief_84 : decode cX4_thief 84 = .ok (.istore 4, 2) := dk_54 4 (dk_at dksX4_thief_3 13 rfl rfl)
theorem dX4_thief_86 : decode cX4_thief 86 = .ok (.iconst 0, 1) := dk_3 (dk_at dksX4_thief_3 15 rfl rfl)
theorem dX4_thief_87 : decode cX4_thief 87 = .ok (.istore 5, 2) := dk_54 5 (dk_at dksX4_thief_3 16 rfl rfl)
theorem dX4_thief_89 : decode cX4_thief 89 = .ok (.iload 5, 2) := dk_21 5 (dk_at dksX4_thief_3 18 rfl rfl)
theorem dX4_thief_91 : decode cX4_thief 91 = .ok (.iload_n 3, 1) := dk_29 (dk_at dksX4_thief_3 20 rfl rfl)
theorem dX4_thief_92 : decode cX4_thief 92 = .ok (.if_icmp .gt 81, 3) := dk_163 0 81 (dk_at dksX4_thief_3 21 rfl rfl)
theorem dX4_thief_95 : decode cX4_thief 95 = .ok (.iload 5, 2) := dk_21 5 (dk_at dksX4_thief_4 0 rfl rfl)
theorem dX4_thief_97 : decode cX4_thief 97 = .ok (.iload_n 3, 1) := dk_29 (dk_at dksX4_thief_4 2 rfl rfl)
theorem dX4_thief_98 : decode cX4_thief 98 = .ok (.iconst (-1), 1) := dk_2 (dk_at dksX4_thief_4 3 rfl rfl)
theorem dX4_thief_99 : decode cX4_thief 99 = .ok (.ixor, 1) := dk_130 (dk_at dksX4_thief_4 4 rfl rfl)
theorem dX4_thief_100 : decode cX4_thief 100 = .ok (.iand, 1) := dk_126 (dk_at dksX4_thief_4 5 rfl rfl)
theorem dX4_thief_101 : decode cX4_thief 101 = .ok (.ifCond .ne 66, 3) := dk_154 0 66 (dk_at dksX4_thief_4 6 rfl rfl)
theorem dX4_thief_104 : decode cX4_thief 104 = .ok (.aload_n 0, 1) := dk_42 (dk_at dksX4_thief_4 9 rfl rfl)
theorem dX4_thief_105 : decode cX4_thief 105 = .ok (.iload 5, 2) := dk_21 5 (dk_at dksX4_thief_4 10 rfl rfl)
theorem dX4_thief_107 : decode cX4_thief 107 = .ok (.iconst 0, 1) := dk_3 (dk_at dksX4_thief_4 12 rfl rfl)
theorem dX4_thief_108 : decode cX4_thief 108 = .ok (.invokevirtual 440, 3) := dk_182 1 184 (dk_at dksX4_thief_4 13 rfl rfl)
theorem dX4_thief_111 : decode cX4_thief 111 = .ok (.iload_n 2, 1) := dk_28 (dk_at dksX4_thief_4 16 rfl rfl)
theorem dX4_thief_112 : decode cX4_thief 112 = .ok (.if_icmp .le 6, 3) := dk_164 0 6 (dk_at dksX4_thief_4 17 rfl rfl)
theorem dX4_thief_115 : decode cX4_thief 115 = .ok (.goto 52, 3) := dk_167 0 52 (dk_at dksX4_thief_4 20 rfl rfl)
theorem dX4_thief_118 : decode cX4_thief 118 = .ok (.aload_n 0, 1) := dk_42 (dk_at dksX4_thief_4 23 rfl rfl)
theorem dX4_thief_119 : decode cX4_thief 119 = .ok (.iload 5, 2) := dk_21 5 (dk_at dksX4_thief_5 0 rfl rfl)
theorem dX4_thief_121 : decode cX4_thief 121 = .ok (.iconst 0, 1) := dk_3 (dk_at dksX4_thief_5 2 rfl rfl)
theorem dX4_thief_122 : decode cX4_thief 122 = .ok (.invokevirtual 440, 3) := dk_182 1 184 (dk_at dksX4_thief_5 3 rfl rfl)
theorem dX4_thief_125 : decode cX4_thief 125 = .ok (.aload_n 0, 1) := dk_42 (dk_at dksX4_thief_5 6 rfl rfl)
theorem dX4_thief_126 : decode cX4_thief 126 = .ok (.iload 4, 2) := dk_21 4 (dk_at dksX4_thief_5 7 rfl rfl)
theorem dX4_thief_128 : decode cX4_thief 128 = .ok (.iconst 0, 1) := dk_3 (dk_at dksX4_thief_5 9 rfl rfl)
theorem dX4_thief_129 : decode cX4_thief 129 = .ok (.invokevirtual 440, 3) := dk_182 1 184 (dk_at dksX4_thief_5 10 rfl rfl)
theorem dX4_thief_132 : decode cX4_thief 132 = .ok (.isub, 1) := dk_100 (dk_at dksX4_thief_5 13 rfl rfl)
theorem dX4_thief_133 : decode cX4_thief 133 = .ok (.istore 6, 2) := dk_54 6 (dk_at dksX4_thief_5 14 rfl rfl)
theorem dX4_thief_135 : decode cX4_thief 135 = .ok (.iload 6, 2) := dk_21 6 (dk_at dksX4_thief_5 16 rfl rfl)
theorem dX4_thief_137 : decode cX4_thief 137 = .ok (.ifCond .gt 21, 3) := dk_157 0 21 (dk_at dksX4_thief_5 18 rfl rfl)
theorem dX4_thief_140 : decode cX4_thief 140 = .ok (.iload 6, 2) := dk_21 6 (dk_at dksX4_thief_5 21 rfl rfl)
theorem dX4_thief_142 : decode cX4_thief 142 = .ok (.ifCond .ne 21, 3) := dk_154 0 21 (dk_at dksX4_thief_6 0 rfl rfl)
theorem dX4_thief_145 : decode cX4_thief 145 = .ok (.iload 5, 2) := dk_21 5 (dk_at dksX4_thief_6 3 rfl rfl)
theorem dX4_thief_147 : decode cX4_thief 147 = .ok (.invokestatic 317, 3) := dk_184 1 61 (dk_at dksX4_thief_6 5 rfl rfl)
theorem dX4_thief_150 : decode cX4_thief 150 = .ok (.iload 4, 2) := dk_21 4 (dk_at dksX4_thief_6 8 rfl rfl)
theorem dX4_thief_152 : decode cX4_thief 152 = .ok (.invokestatic 317, 3) := dk_184 1 61 (dk_at dksX4_thief_6 10 rfl rfl)
theorem dX4_thief_155 : decode cX4_thief 155 = .ok (.if_icmp .ge 8, 3) := dk_162 0 8 (dk_at dksX4_thief_6 13 rfl rfl)
theorem dX4_thief_158 : decode cX4_thief 158 = .ok (.iload 5, 2) := dk_21 5 (dk_at dksX4_thief_6 16 rfl rfl)
theorem dX4_thief_160 : decode cX4_thief 160 = .ok (.goto 5, 3) := dk_167 0 5 (dk_at dksX4_thief_6 18 rfl rfl)
theorem dX4_thief_163 : decode cX4_thief 163 = .ok (.iload 4, 2) := dk_21 4 (dk_at dksX4_thief_6 21 rfl rfl)
theorem dX4_thief_165 : decode cX4_thief 165 = .ok (.istore 4, 2) := dk_54 4 (dk_at dksX4_thief_7 0 rfl rfl)
theorem dX4_thief_167 : decode cX4_thief 167 = .ok (.iinc 5 1, 3) := dk_132 5 1 (dk_at dksX4_thief_7 2 rfl rfl)
theorem dX4_thief_170 : decode cX4_thief 170 = .ok (.goto (-81), 3) := dk_167 255 175 (dk_at dksX4_thief_7 5 rfl rfl)
theorem dX4_thief_173 : decode cX4_thief 173 = .ok (.iload 4, 2) := dk_21 4 (dk_at dksX4_thief_7 8 rfl rfl)
theorem dX4_thief_175 : decode cX4_thief 175 = .ok (.ireturn, 1) := dk_172 (dk_at dksX4_thief_7 10 rfl rfl)
abbrev cX4_grainsOf : ByteArray := prog_13_method_113_code
def yX4_grainsOf : MethodName := ⟨RX4, "grainsOf", "(II)I"⟩
def dkwX4_grainsOf_2 : List UInt8 := [21, 4, 96, 46, 167, 0, 4, 3, 96, 62, 132, 4, 1, 167, 255, 203, 29, 172]
abbrev dktX4_grainsOf_2 : List UInt8 := dkwX4_grainsOf_2 ++ []
def dkwX4_grainsOf_1 : List UInt8 := [160, 0, 30, 42, 180, 0, 75, 16, 35, 21, 4, 96, 46, 28, 160, 0, 16, 42, 180, 0, 75, 16, 25]
abbrev dktX4_grainsOf_1 : List UInt8 := dkwX4_grainsOf_1 ++ dktX4_grainsOf_2
def dkwX4_grainsOf_0 : List UInt8 := [3, 62, 3, 54, 4, 21, 4, 42, 180, 1, 31, 162, 0, 50, 29, 27, 21, 4, 122, 4, 126, 4]
abbrev dktX4_grainsOf_0 : List UInt8 := dkwX4_grainsOf_0 ++ dktX4_grainsOf_1
theorem dksX4_grainsOf_0 : cX4_grainsOf.data.toList.drop 0 = dktX4_grainsOf_0 := by decide +kernel
theorem dksX4_grainsOf_1 : cX4_grainsOf.data.toList.drop 22 = dktX4_grainsOf_1 := dk_seg dksX4_grainsOf_0 22 rfl rfl
theorem dksX4_grainsOf_2 : cX4_grainsOf.data.toList.drop 45 = dktX4_grainsOf_2 := dk_seg dksX4_grainsOf_1 23 rfl rfl
theorem dX4_grainsOf_0 : decode cX4_grainsOf 0 = .ok (.iconst 0, 1) := dk_3 (dk_at dksX4_grainsOf_0 0 rfl rfl)
theorem dX4_grainsOf_1 : decode cX4_grainsOf 1 = .ok (.istore_n 3, 1) := dk_62 (dk_at dksX4_grainsOf_0 1 rfl rfl)
theorem dX4_grainsOf_2 : decode cX4_grainsOf 2 = .ok (.iconst 0, 1) := dk_3 (dk_at dksX4_grainsOf_0 2 rfl rfl)
theorem dX4_grainsOf_3 : decode cX4_grainsOf 3 = .ok (.istore 4, 2) := dk_54 4 (dk_at dksX4_grainsOf_0 3 rfl rfl)
theorem dX4_grainsOf_5 : decode cX4_grainsOf 5 = .ok (.iload 4, 2) := dk_21 4 (dk_at dksX4_grainsOf_0 5 rfl rfl)
theorem dX4_grainsOf_7 : decode cX4_grainsOf 7 = .ok (.aload_n 0, 1) := dk_42 (dk_at dksX4_grainsOf_0 7 rfl rfl)
theorem dX4_grainsOf_8 : decode cX4_grainsOf 8 = .ok (.getfield 287, 3) := dk_180 1 31 (dk_at dksX4_grainsOf_0 8 rfl rfl)
theorem dX4_grainsOf_11 : decode cX4_grainsOf 11 = .ok (.if_icmp .ge 50, 3) := dk_162 0 50 (dk_at dksX4_grainsOf_0 11 rfl rfl)
theorem dX4_grainsOf_14 : decode cX4_grainsOf 14 = .ok (.iload_n 3, 1) := dk_29 (dk_at dksX4_grainsOf_0 14 rfl rfl)
theorem dX4_grainsOf_15 : decode cX4_grainsOf 15 = .ok (.iload_n 1, 1) := dk_27 (dk_at dksX4_grainsOf_0 15 rfl rfl)
theorem dX4_grainsOf_16 : decode cX4_grainsOf 16 = .ok (.iload 4, 2) := dk_21 4 (dk_at dksX4_grainsOf_0 16 rfl rfl)
theorem dX4_grainsOf_18 : decode cX4_grainsOf 18 = .ok (.ishr, 1) := dk_122 (dk_at dksX4_grainsOf_0 18 rfl rfl)
theorem dX4_grainsOf_19 : decode cX4_grainsOf 19 = .ok (.iconst 1, 1) := dk_4 (dk_at dksX4_grainsOf_0 19 rfl rfl)
theorem dX4_grainsOf_20 : decode cX4_grainsOf 20 = .ok (.iand, 1) := dk_126 (dk_at dksX4_grainsOf_0 20 rfl rfl)
theorem dX4_grainsOf_21 : decode cX4_grainsOf 21 = .ok (.iconst 1, 1) := dk_4 (dk_at dksX4_grainsOf_0 21 rfl rfl)
theorem dX4_grainsOf_22 : decode cX4_grainsOf 22 = .ok (.if_icmp .ne 30, 3) := dk_160 0 30 (dk_at dksX4_grainsOf_1 0 rfl rfl)
theorem dX4_grainsOf_25 : decode cX4_grainsOf 25 = .ok (.aload_n 0, 1) := dk_42 (dk_at dksX4_grainsOf_1 3 rfl rfl)
theorem dX4_grainsOf_26 : decode cX4_grainsOf 26 = .ok (.getfield 75, 3) := dk_180 0 75 (dk_at dksX4_grainsOf_1 4 rfl rfl)
theorem dX4_grainsOf_29 : decode cX4_grainsOf 29 = .ok (.bipush 35, 2) := dk_16 35 (dk_at dksX4_grainsOf_1 7 rfl rfl)
theorem dX4_grainsOf_31 : decode cX4_grainsOf 31 = .ok (.iload 4, 2) := dk_21 4 (dk_at dksX4_grainsOf_1 9 rfl rfl)
theorem dX4_grainsOf_33 : decode cX4_grainsOf 33 = .ok (.iadd, 1) := dk_96 (dk_at dksX4_grainsOf_1 11 rfl rfl)
theorem dX4_grainsOf_34 : decode cX4_grainsOf 34 = .ok (.iaload, 1) := dk_46 (dk_at dksX4_grainsOf_1 12 rfl rfl)
theorem dX4_grainsOf_35 : decode cX4_grainsOf 35 = .ok (.iload_n 2, 1) := dk_28 (dk_at dksX4_grainsOf_1 13 rfl rfl)
theorem dX4_grainsOf_36 : decode cX4_grainsOf 36 = .ok (.if_icmp .ne 16, 3) := dk_160 0 16 (dk_at dksX4_grainsOf_1 14 rfl rfl)
theorem dX4_grainsOf_39 : decode cX4_grainsOf 39 = .ok (.aload_n 0, 1) := dk_42 (dk_at dksX4_grainsOf_1 17 rfl rfl)
theorem dX4_grainsOf_40 : decode cX4_grainsOf 40 = .ok (.getfield 75, 3) := dk_180 0 75 (dk_at dksX4_grainsOf_1 18 rfl rfl)
theorem dX4_grainsOf_43 : decode cX4_grainsOf 43 = .ok (.bipush 25, 2) := dk_16 25 (dk_at dksX4_grainsOf_1 21 rfl rfl)
theorem dX4_grainsOf_45 : decode cX4_grainsOf 45 = .ok (.iload 4, 2) := dk_21 4 (dk_at dksX4_grainsOf_2 0 rfl rfl)
theorem dX4_grainsOf_47 : decode cX4_grainsOf 47 = .ok (.iadd, 1) := dk_96 (dk_at dksX4_grainsOf_2 2 rfl rfl)
theorem dX4_grainsOf_48 : decode cX4_grainsOf 48 = .ok (.iaload, 1) := dk_46 (dk_at dksX4_grainsOf_2 3 rfl rfl)
theorem dX4_grainsOf_49 : decode cX4_grainsOf 49 = .ok (.goto 4, 3) := dk_167 0 4 (dk_at dksX4_grainsOf_2 4 rfl rfl)
theorem dX4_grainsOf_52 : decode cX4_grainsOf 52 = .ok (.iconst 0, 1) := dk_3 (dk_at dksX4_grainsOf_2 7 rfl rfl)
theorem dX4_grainsOf_53 : decode cX4_grainsOf 53 = .ok (.iadd, 1) := dk_96 (dk_at dksX4_grainsOf_2 8 rfl rfl)
theorem dX4_grainsOf_54 : decode cX4_grainsOf 54 = .ok (.istore_n 3, 1) := dk_62 (dk_at dksX4_grainsOf_2 9 rfl rfl)
theorem dX4_grainsOf_55 : decode cX4_grainsOf 55 = .ok (.iinc 4 1, 3) := dk_132 4 1 (dk_at dksX4_grainsOf_2 10 rfl rfl)
theorem dX4_grainsOf_58 : decode cX4_grainsOf 58 = .ok (.goto (-53), 3) := dk_167 255 203 (dk_at dksX4_grainsOf_2 13 rfl rfl)
theorem dX4_grainsOf_61 : decode cX4_grainsOf 61 = .ok (.iload_n 3, 1) := dk_29 (dk_at dksX4_grainsOf_2 16 rfl rfl)
theorem dX4_grainsOf_62 : decode cX4_grainsOf 62 = .ok (.ireturn, 1) := dk_172 (dk_at dksX4_grainsOf_2 17 rfl rfl)
abbrev cX4_level : ByteArray := prog_13_method_116_code
def yX4_level : MethodName := ⟨RX4, "level", "(I)I"⟩
def dkwX4_level_4 : List UInt8 := [167, 255, 190, 29, 172]
abbrev dktX4_level_4 : List UInt8 := dkwX4_level_4 ++ []
def dkwX4_level_3 : List UInt8 := [21, 4, 184, 1, 61, 29, 184, 1, 61, 162, 0, 8, 21, 4, 167, 0, 4, 29, 62, 132, 4, 1]
abbrev dktX4_level_3 : List UInt8 := dkwX4_level_3 ++ dktX4_level_4
def dkwX4_level_2 : List UInt8 := [182, 1, 187, 42, 27, 21, 4, 182, 1, 187, 100, 54, 5, 21, 5, 157, 0, 20, 21, 5, 154, 0, 20]
abbrev dktX4_level_2 : List UInt8 := dkwX4_level_2 ++ dktX4_level_3
def dkwX4_level_1 : List UInt8 := [3, 54, 4, 21, 4, 28, 163, 0, 66, 21, 4, 28, 2, 130, 126, 153, 0, 6, 167, 0, 48, 42, 27, 29]
abbrev dktX4_level_1 : List UInt8 := dkwX4_level_1 ++ dktX4_level_2
def dkwX4_level_0 : List UInt8 := [42, 3, 181, 0, 117, 42, 27, 182, 1, 106, 154, 0, 5, 3, 172, 42, 3, 27, 182, 1, 58, 61, 3, 62]
abbrev dktX4_level_0 : List UInt8 := dkwX4_level_0 ++ dktX4_level_1
theorem dksX4_level_0 : cX4_level.data.toList.drop 0 = dktX4_level_0 := by decide +kernel
theorem dksX4_level_1 : cX4_level.data.toList.drop 24 = dktX4_level_1 := dk_seg dksX4_level_0 24 rfl rfl
theorem dksX4_level_2 : cX4_level.data.toList.drop 48 = dktX4_level_2 := dk_seg dksX4_level_1 24 rfl rfl
theorem dksX4_level_3 : cX4_level.data.toList.drop 71 = dktX4_level_3 := dk_seg dksX4_level_2 23 rfl rfl
theorem dksX4_level_4 : cX4_level.data.toList.drop 93 = dktX4_level_4 := dk_seg dksX4_level_3 22 rfl rfl
theorem dX4_level_0 : decode cX4_level 0 = .ok (.aload_n 0, 1) := dk_42 (dk_at dksX4_level_0 0 rfl rfl)
theorem dX4_level_1 : decode cX4_level 1 = .ok (.iconst 0, 1) := dk_3 (dk_at dksX4_level_0 1 rfl rfl)
theorem dX4_level_2 : decode cX4_level 2 = .ok (.putfield 117, 3) := dk_181 0 117 (dk_at dksX4_level_0 2 rfl rfl)
theorem dX4_level_5 : decode cX4_level 5 = .ok (.aload_n 0, 1) := dk_42 (dk_at dksX4_level_0 5 rfl rfl)
theorem dX4_level_6 : decode cX4_level 6 = .ok (.iload_n 1, 1) := dk_27 (dk_at dksX4_level_0 6 rfl rfl)
theorem dX4_level_7 : decode cX4_level 7 = .ok (.invokevirtual 362, 3) := dk_182 1 106 (dk_at dksX4_level_0 7 rfl rfl)
theorem dX4_level_10 : decode cX4_level 10 = .ok (.ifCond .ne 5, 3) := dk_154 0 5 (dk_at dksX4_level_0 10 rfl rfl)
theorem dX4_level_13 : decode cX4_level 13 = .ok (.iconst 0, 1) := dk_3 (dk_at dksX4_level_0 13 rfl rfl)
theorem dX4_level_14 : decode cX4_level 14 = .ok (.ireturn, 1) := dk_172 (dk_at dksX4_level_0 14 rfl rfl)
theorem dX4_level_15 : decode cX4_level 15 = .ok (.aload_n 0, 1) := dk_42 (dk_at dksX4_level_0 15 rfl rfl)
theorem dX4_level_16 : decode cX4_level 16 = .ok (.iconst 0, 1) := dk_3 (dk_at dksX4_level_0 16 rfl rfl)
theorem dX4_level_17 : decode cX4_level 17 = .ok (.iload_n 1, 1) := dk_27 (dk_at dksX4_level_0 17 rfl rfl)
theorem dX4_level_18 : decode cX4_level 18 = .ok (.invokevirtual 314, 3) := dk_182 1 58 (dk_at dksX4_level_0 18 rfl rfl)
theorem dX4_level_21 : decode cX4_level 21 = .ok (.istore_n 2, 1) := dk_61 (dk_at dksX4_level_0 21 rfl rfl)
theorem dX4_level_22 : decode cX4_level 22 = .ok (.iconst 0, 1) := dk_3 (dk_at dksX4_level_0 22 rfl rfl)
theorem dX4_level_23 : decode cX4_level 23 = .ok (.istore_n 3, 1) := dk_62 (dk_at dksX4_level_0 23 rfl rfl)
theorem dX4_level_24 : decode cX4_level 24 = .ok (.iconst 0, 1) := dk_3 (dk_at dksX4_level_1 0 rfl rfl)
theorem dX4_level_25 : decode cX4_level 25 = .ok (.istore 4, 2) := dk_54 4 (dk_at dksX4_level_1 1 rfl rfl)
theorem dX4_level_27 : decode cX4_level 27 = .ok (.iload 4, 2) := dk_21 4 (dk_at dksX4_level_1 3 rfl rfl)
theorem dX4_level_29 : decode cX4_level 29 = .ok (.iload_n 2, 1) := dk_28 (dk_at dksX4_level_1 5 rfl rfl)
theorem dX4_level_30 : decode cX4_level 30 = .ok (.if_icmp .gt 66, 3) := dk_163 0 66 (dk_at dksX4_level_1 6 rfl rfl)
theorem dX4_level_33 : decode cX4_level 33 = .ok (.iload 4, 2) := dk_21 4 (dk_at dksX4_level_1 9 rfl rfl)
theorem dX4_level_35 : decode cX4_level 35 = .ok (.iload_n 2, 1) := dk_28 (dk_at dksX4_level_1 11 rfl rfl)
theorem dX4_level_36 : decode cX4_level 36 = .ok (.iconst (-1), 1) := dk_2 (dk_at dksX4_level_1 12 rfl rfl)
theorem dX4_level_37 : decode cX4_level 37 = .ok (.ixor, 1) := dk_130 (dk_at dksX4_level_1 13 rfl rfl)
theorem dX4_level_38 : decode cX4_level 38 = .ok (.iand, 1) := dk_126 (dk_at dksX4_level_1 14 rfl rfl)
theorem dX4_level_39 : decode cX4_level 39 = .ok (.ifCond .eq 6, 3) := dk_153 0 6 (dk_at dksX4_level_1 15 rfl rfl)
theorem dX4_level_42 : decode cX4_level 42 = .ok (.goto 48, 3) := dk_167 0 48 (dk_at dksX4_level_1 18 rfl rfl)
theorem dX4_level_45 : decode cX4_level 45 = .ok (.aload_n 0, 1) := dk_42 (dk_at dksX4_level_1 21 rfl rfl)
theorem dX4_level_46 : decode cX4_level 46 = .ok (.iload_n 1, 1) := dk_27 (dk_at dksX4_level_1 22 rfl rfl)
theorem dX4_level_47 : decode cX4_level 47 = .ok (.iload_n 3, 1) := dk_29 (dk_at dksX4_level_1 23 rfl rfl)
theorem dX4_level_48 : decode cX4_level 48 = .ok (.invokevirtual 443, 3) := dk_182 1 187 (dk_at dksX4_level_2 0 rfl rfl)
theorem dX4_level_51 : decode cX4_level 51 = .ok (.aload_n 0, 1) := dk_42 (dk_at dksX4_level_2 3 rfl rfl)
theorem dX4_level_52 : decode cX4_level 52 = .ok (.iload_n 1, 1) := dk_27 (dk_at dksX4_level_2 4 rfl rfl)
theorem dX4_level_53 : decode cX4_level 53 = .ok (.iload 4, 2) := dk_21 4 (dk_at dksX4_level_2 5 rfl rfl)
theorem dX4_level_55 : decode cX4_level 55 = .ok (.invokevirtual 443, 3) := dk_182 1 187 (dk_at dksX4_level_2 7 rfl rfl)
theorem dX4_level_58 : decode cX4_level 58 = .ok (.isub, 1) := dk_100 (dk_at dksX4_level_2 10 rfl rfl)
theorem dX4_level_59 : decode cX4_level 59 = .ok (.istore 5, 2) := dk_54 5 (dk_at dksX4_level_2 11 rfl rfl)
theorem dX4_level_61 : decode cX4_level 61 = .ok (.iload 5, 2) := dk_21 5 (dk_at dksX4_level_2 13 rfl rfl)
theorem dX4_level_63 : decode cX4_level 63 = .ok (.ifCond .gt 20, 3) := dk_157 0 20 (dk_at dksX4_level_2 15 rfl rfl)
theorem dX4_level_66 : decode cX4_level 66 = .ok (.iload 5, 2) := dk_21 5 (dk_at dksX4_level_2 18 rfl rfl)
theorem dX4_level_68 : decode cX4_level 68 = .ok (.ifCond .ne 20, 3) := dk_154 0 20 (dk_at dksX4_level_2 20 rfl rfl)
theorem dX4_level_71 : decode cX4_level 71 = .ok (.iload 4, 2) := dk_21 4 (dk_at dksX4_level_3 0 rfl rfl)
theorem dX4_level_73 : decode cX4_level 73 = .ok (.invokestatic 317, 3) := dk_184 1 61 (dk_at dksX4_level_3 2 rfl rfl)
theorem dX4_level_76 : decode cX4_level 76 = .ok (.iload_n 3, 1) := dk_29 (dk_at dksX4_level_3 5 rfl rfl)
theorem dX4_level_77 : decode cX4_level 77 = .ok (.invokestatic 317, 3) := dk_184 1 61 (dk_at dksX4_level_3 6 rfl rfl)
theorem dX4_level_80 : decode cX4_level 80 = .ok (.if_icmp .ge 8, 3) := dk_162 0 8 (dk_at dksX4_level_3 9 rfl rfl)
theorem dX4_level_83 : decode cX4_level 83 = .ok (.iload 4, 2) := dk_21 4 (dk_at dksX4_level_3 12 rfl rfl)
theorem dX4_level_85 : decode cX4_level 85 = .ok (.goto 4, 3) := dk_167 0 4 (dk_at dksX4_level_3 14 rfl rfl)
theorem dX4_level_88 : decode cX4_level 88 = .ok (.iload_n 3, 1) := dk_29 (dk_at dksX4_level_3 17 rfl rfl)
theorem dX4_level_89 : decode cX4_level 89 = .ok (.istore_n 3, 1) := dk_62 (dk_at dksX4_level_3 18 rfl rfl)
theorem dX4_level_90 : decode cX4_level 90 = .ok (.iinc 4 1, 3) := dk_132 4 1 (dk_at dksX4_level_3 19 rfl rfl)
theorem dX4_level_93 : decode cX4_level 93 = .ok (.goto (-66), 3) := dk_167 255 190 (dk_at dksX4_level_4 0 rfl rfl)
theorem dX4_level_96 : decode cX4_level 96 = .ok (.iload_n 3, 1) := dk_29 (dk_at dksX4_level_4 3 rfl rfl)
theorem dX4_level_97 : decode cX4_level 97 = .ok (.ireturn, 1) := dk_172 (dk_at dksX4_level_4 4 rfl rfl)
abbrev cX4_offBy : ByteArray := prog_13_method_115_code
def yX4_offBy : MethodName := ⟨RX4, "offBy", "(II)I"⟩
def dkwX4_offBy_2 : List UInt8 := [29, 156, 0, 9, 3, 29, 100, 167, 0, 4, 29, 172]
abbrev dktX4_offBy_2 : List UInt8 := dkwX4_offBy_2 ++ []
def dkwX4_offBy_1 : List UInt8 := [180, 0, 75, 16, 9, 27, 96, 46, 42, 28, 4, 182, 1, 184, 96, 3, 17, 39, 15, 184, 1, 55, 100, 62]
abbrev dktX4_offBy_1 : List UInt8 := dkwX4_offBy_1 ++ dktX4_offBy_2
def dkwX4_offBy_0 : List UInt8 := [42, 180, 0, 75, 4, 27, 96, 46, 42, 28, 3, 182, 1, 184, 96, 3, 17, 39, 15, 184, 1, 55, 42]
abbrev dktX4_offBy_0 : List UInt8 := dkwX4_offBy_0 ++ dktX4_offBy_1
theorem dksX4_offBy_0 : cX4_offBy.data.toList.drop 0 = dktX4_offBy_0 := by decide +kernel
theorem dksX4_offBy_1 : cX4_offBy.data.toList.drop 23 = dktX4_offBy_1 := dk_seg dksX4_offBy_0 23 rfl rfl
theorem dksX4_offBy_2 : cX4_offBy.data.toList.drop 47 = dktX4_offBy_2 := dk_seg dksX4_offBy_1 24 rfl rfl
theorem dX4_offBy_0 : decode cX4_offBy 0 = .ok (.aload_n 0, 1) := dk_42 (dk_at dksX4_offBy_0 0 rfl rfl)
theorem dX4_offBy_1 : decode cX4_offBy 1 = .ok (.getfield 75, 3) := dk_180 0 75 (dk_at dksX4_offBy_0 1 rfl rfl)
theorem dX4_offBy_4 : decode cX4_offBy 4 = .ok (.iconst 1, 1) := dk_4 (dk_at dksX4_offBy_0 4 rfl rfl)
theorem dX4_offBy_5 : decode cX4_offBy 5 = .ok (.iload_n 1, 1) := dk_27 (dk_at dksX4_offBy_0 5 rfl rfl)
theorem dX4_offBy_6 : decode cX4_offBy 6 = .ok (.iadd, 1) := dk_96 (dk_at dksX4_offBy_0 6 rfl rfl)
theorem dX4_offBy_7 : decode cX4_offBy 7 = .ok (.iaload, 1) := dk_46 (dk_at dksX4_offBy_0 7 rfl rfl)
theorem dX4_offBy_8 : decode cX4_offBy 8 = .ok (.aload_n 0, 1) := dk_42 (dk_at dksX4_offBy_0 8 rfl rfl)
theorem dX4_offBy_9 : decode cX4_offBy 9 = .ok (.iload_n 2, 1) := dk_28 (dk_at dksX4_offBy_0 9 rfl rfl)
theorem dX4_offBy_10 : decode cX4_offBy 10 = .ok (.iconst 0, 1) := dk_3 (dk_at dksX4_offBy_0 10 rfl rfl)
theorem dX4_offBy_11 : decode cX4_offBy 11 = .ok (.invokevirtual 440, 3) := dk_182 1 184 (dk_at dksX4_offBy_0 11 rfl rfl)
theorem dX4_offBy_14 : decode cX4_offBy 14 = .ok (.iadd, 1) := dk_96 (dk_at dksX4_offBy_0 14 rfl rfl)
theorem dX4_offBy_15 : decode cX4_offBy 15 = .ok (.iconst 0, 1) := dk_3 (dk_at dksX4_offBy_0 15 rfl rfl)
theorem dX4_offBy_16 : decode cX4_offBy 16 = .ok (.sipush 9999, 3) := dk_17 39 15 (dk_at dksX4_offBy_0 16 rfl rfl)
theorem dX4_offBy_19 : decode cX4_offBy 19 = .ok (.invokestatic 311, 3) := dk_184 1 55 (dk_at dksX4_offBy_0 19 rfl rfl)
theorem dX4_offBy_22 : decode cX4_offBy 22 = .ok (.aload_n 0, 1) := dk_42 (dk_at dksX4_offBy_0 22 rfl rfl)
theorem dX4_offBy_23 : decode cX4_offBy 23 = .ok (.getfield 75, 3) := dk_180 0 75 (dk_at dksX4_offBy_1 0 rfl rfl)
theorem dX4_offBy_26 : decode cX4_offBy 26 = .ok (.bipush 9, 2) := dk_16 9 (dk_at dksX4_offBy_1 3 rfl rfl)
theorem dX4_offBy_28 : decode cX4_offBy 28 = .ok (.iload_n 1, 1) := dk_27 (dk_at dksX4_offBy_1 5 rfl rfl)
theorem dX4_offBy_29 : decode cX4_offBy 29 = .ok (.iadd, 1) := dk_96 (dk_at dksX4_offBy_1 6 rfl rfl)
theorem dX4_offBy_30 : decode cX4_offBy 30 = .ok (.iaload, 1) := dk_46 (dk_at dksX4_offBy_1 7 rfl rfl)
theorem dX4_offBy_31 : decode cX4_offBy 31 = .ok (.aload_n 0, 1) := dk_42 (dk_at dksX4_offBy_1 8 rfl rfl)
theorem dX4_offBy_32 : decode cX4_offBy 32 = .ok (.iload_n 2, 1) := dk_28 (dk_at dksX4_offBy_1 9 rfl rfl)
theorem dX4_offBy_33 : decode cX4_offBy 33 = .ok (.iconst 1, 1) := dk_4 (dk_at dksX4_offBy_1 10 rfl rfl)
theorem dX4_offBy_34 : decode cX4_offBy 34 = .ok (.invokevirtual 440, 3) := dk_182 1 184 (dk_at dksX4_offBy_1 11 rfl rfl)
theorem dX4_offBy_37 : decode cX4_offBy 37 = .ok (.iadd, 1) := dk_96 (dk_at dksX4_offBy_1 14 rfl rfl)
theorem dX4_offBy_38 : decode cX4_offBy 38 = .ok (.iconst 0, 1) := dk_3 (dk_at dksX4_offBy_1 15 rfl rfl)
theorem dX4_offBy_39 : decode cX4_offBy 39 = .ok (.sipush 9999, 3) := dk_17 39 15 (dk_at dksX4_offBy_1 16 rfl rfl)
theorem dX4_offBy_42 : decode cX4_offBy 42 = .ok (.invokestatic 311, 3) := dk_184 1 55 (dk_at dksX4_offBy_1 19 rfl rfl)
theorem dX4_offBy_45 : decode cX4_offBy 45 = .ok (.isub, 1) := dk_100 (dk_at dksX4_offBy_1 22 rfl rfl)
theorem dX4_offBy_46 : decode cX4_offBy 46 = .ok (.istore_n 3, 1) := dk_62 (dk_at dksX4_offBy_1 23 rfl rfl)
theorem dX4_offBy_47 : decode cX4_offBy 47 = .ok (.iload_n 3, 1) := dk_29 (dk_at dksX4_offBy_2 0 rfl rfl)
theorem dX4_offBy_48 : decode cX4_offBy 48 = .ok (.ifCond .ge 9, 3) := dk_156 0 9 (dk_at dksX4_offBy_2 1 rfl rfl)
theorem dX4_offBy_51 : decode cX4_offBy 51 = .ok (.iconst 0, 1) := dk_3 (dk_at dksX4_offBy_2 4 rfl rfl)
theorem dX4_offBy_52 : decode cX4_offBy 52 = .ok (.iload_n 3, 1) := dk_29 (dk_at dksX4_offBy_2 5 rfl rfl)
theorem dX4_offBy_53 : decode cX4_offBy 53 = .ok (.isub, 1) := dk_100 (dk_at dksX4_offBy_2 6 rfl rfl)
theorem dX4_offBy_54 : decode cX4_offBy 54 = .ok (.goto 4, 3) := dk_167 0 4 (dk_at dksX4_offBy_2 7 rfl rfl)
theorem dX4_offBy_57 : decode cX4_offBy 57 = .ok (.iload_n 3, 1) := dk_29 (dk_at dksX4_offBy_2 10 rfl rfl)
theorem dX4_offBy_58 : decode cX4_offBy 58 = .ok (.ireturn, 1) := dk_172 (dk_at dksX4_offBy_2 11 rfl rfl)
abbrev cX4_lend : ByteArray := prog_13_method_117_code
def yX4_lend : MethodName := ⟨RX4, "lend", "(I)I"⟩
def dkwX4_lend_4 : List UInt8 := [172]
abbrev dktX4_lend_4 : List UInt8 := dkwX4_lend_4 ++ []
def dkwX4_lend_3 : List UInt8 := [16, 85, 27, 182, 1, 80, 16, 7, 161, 0, 7, 29, 167, 0, 4, 28, 61, 132, 3, 1, 167, 255, 204, 28]
abbrev dktX4_lend_3 : List UInt8 := dkwX4_lend_3 ++ dktX4_lend_4
def dkwX4_lend_2 : List UInt8 := [163, 0, 46, 42, 180, 0, 75, 16, 86, 27, 96, 42, 180, 0, 75, 4, 27, 96, 46, 29, 100, 79, 42]
abbrev dktX4_lend_2 : List UInt8 := dkwX4_lend_2 ++ dktX4_lend_3
def dkwX4_lend_1 : List UInt8 := [162, 0, 5, 2, 172, 42, 182, 1, 133, 3, 61, 3, 62, 29, 42, 180, 0, 75, 4, 27, 96, 46]
abbrev dktX4_lend_1 : List UInt8 := dkwX4_lend_1 ++ dktX4_lend_2
def dkwX4_lend_0 : List UInt8 := [42, 3, 181, 0, 117, 42, 27, 182, 1, 106, 154, 0, 5, 3, 172, 42, 3, 27, 182, 1, 80, 16, 7]
abbrev dktX4_lend_0 : List UInt8 := dkwX4_lend_0 ++ dktX4_lend_1
theorem dksX4_lend_0 : cX4_lend.data.toList.drop 0 = dktX4_lend_0 := by decide +kernel
theorem dksX4_lend_1 : cX4_lend.data.toList.drop 23 = dktX4_lend_1 := dk_seg dksX4_lend_0 23 rfl rfl
theorem dksX4_lend_2 : cX4_lend.data.toList.drop 45 = dktX4_lend_2 := dk_seg dksX4_lend_1 22 rfl rfl
theorem dksX4_lend_3 : cX4_lend.data.toList.drop 68 = dktX4_lend_3 := dk_seg dksX4_lend_2 23 rfl rfl
theorem dksX4_lend_4 : cX4_lend.data.toList.drop 92 = dktX4_lend_4 := dk_seg dksX4_lend_3 24 rfl rfl
theorem dX4_lend_0 : decode cX4_lend 0 = .ok (.aload_n 0, 1) := dk_42 (dk_at dksX4_lend_0 0 rfl rfl)
theorem dX4_lend_1 : decode cX4_lend 1 = .ok (.iconst 0, 1) := dk_3 (dk_at dksX4_lend_0 1 rfl rfl)
theorem dX4_lend_2 : decode cX4_lend 2 = .ok (.putfield 117, 3) := dk_181 0 117 (dk_at dksX4_lend_0 2 rfl rfl)
theorem dX4_lend_5 : decode cX4_lend 5 = .ok (.aload_n 0, 1) := dk_42 (dk_at dksX4_lend_0 5 rfl rfl)
theorem dX4_lend_6 : decode cX4_lend 6 = .ok (.iload_n 1, 1) := dk_27 (dk_at dksX4_lend_0 6 rfl rfl)
theorem dX4_lend_7 : decode cX4_lend 7 = .ok (.invokevirtual 362, 3) := dk_182 1 106 (dk_at dksX4_lend_0 7 rfl rfl)
theorem dX4_lend_10 : decode cX4_lend 10 = .ok (.ifCond .ne 5, 3) := dk_154 0 5 (dk_at dksX4_lend_0 10 rfl rfl)
theorem dX4_lend_13 : decode cX4_lend 13 = .ok (.iconst 0, 1) := dk_3 (dk_at dksX4_lend_0 13 rfl rfl)
theorem dX4_lend_14 : decode cX4_lend 14 = .ok (.ireturn, 1) := dk_172 (dk_at dksX4_lend_0 14 rfl rfl)
theorem dX4_lend_15 : decode cX4_lend 15 = .ok (.aload_n 0, 1) := dk_42 (dk_at dksX4_lend_0 15 rfl rfl)
theorem dX4_lend_16 : decode cX4_lend 16 = .ok (.iconst 0, 1) := dk_3 (dk_at dksX4_lend_0 16 rfl rfl)
theorem dX4_lend_17 : decode cX4_lend 17 = .ok (.iload_n 1, 1) := dk_27 (dk_at dksX4_lend_0 17 rfl rfl)
theorem dX4_lend_18 : decode cX4_lend 18 = .ok (.invokevirtual 336, 3) := dk_182 1 80 (dk_at dksX4_lend_0 18 rfl rfl)
theorem dX4_lend_21 : decode cX4_lend 21 = .ok (.bipush 7, 2) := dk_16 7 (dk_at dksX4_lend_0 21 rfl rfl)
theorem dX4_lend_23 : decode cX4_lend 23 = .ok (.if_icmp .ge 5, 3) := dk_162 0 5 (dk_at dksX4_lend_1 0 rfl rfl)
theorem dX4_lend_26 : decode cX4_lend 26 = .ok (.iconst (-1), 1) := dk_2 (dk_at dksX4_lend_1 3 rfl rfl)
theorem dX4_lend_27 : decode cX4_lend 27 = .ok (.ireturn, 1) := dk_172 (dk_at dksX4_lend_1 4 rfl rfl)
theorem dX4_lend_28 : decode cX4_lend 28 = .ok (.aload_n 0, 1) := dk_42 (dk_at dksX4_lend_1 5 rfl rfl)
theorem dX4_lend_29 : decode cX4_lend 29 = .ok (.invokevirtual 389, 3) := dk_182 1 133 (dk_at dksX4_lend_1 6 rfl rfl)
theorem dX4_lend_32 : decode cX4_lend 32 = .ok (.iconst 0, 1) := dk_3 (dk_at dksX4_lend_1 9 rfl rfl)
theorem dX4_lend_33 : decode cX4_lend 33 = .ok (.istore_n 2, 1) := dk_61 (dk_at dksX4_lend_1 10 rfl rfl)
theorem dX4_lend_34 : decode cX4_lend 34 = .ok (.iconst 0, 1) := dk_3 (dk_at dksX4_lend_1 11 rfl rfl)
theorem dX4_lend_35 : decode cX4_lend 35 = .ok (.istore_n 3, 1) := dk_62 (dk_at dksX4_lend_1 12 rfl rfl)
theorem dX4_lend_36 : decode cX4_lend 36 = .ok (.iload_n 3, 1) := dk_29 (dk_at dksX4_lend_1 13 rfl rfl)
theorem dX4_lend_37 : decode cX4_lend 37 = .ok (.aload_n 0, 1) := dk_42 (dk_at dksX4_lend_1 14 rfl rfl)
theorem dX4_lend_38 : decode cX4_lend 38 = .ok (.getfield 75, 3) := dk_180 0 75 (dk_at dksX4_lend_1 15 rfl rfl)
theorem dX4_lend_41 : decode cX4_lend 41 = .ok (.iconst 1, 1) := dk_4 (dk_at dksX4_lend_1 18 rfl rfl)
theorem dX4_lend_42 : decode cX4_lend 42 = .ok (.iload_n 1, 1) := dk_27 (dk_at dksX4_lend_1 19 rfl rfl)
theorem dX4_lend_43 : decode cX4_lend 43 = .ok (.iadd, 1) := dk_96 (dk_at dksX4_lend_1 20 rfl rfl)
theorem dX4_lend_44 : decode cX4_lend 44 = .ok (.iaload, 1) := dk_46 (dk_at dksX4_lend_1 21 rfl rfl)
theorem dX4_lend_45 : decode cX4_lend 45 = .ok (.if_icmp .gt 46, 3) := dk_163 0 46 (dk_at dksX4_lend_2 0 rfl rfl)
theorem dX4_lend_48 : decode cX4_lend 48 = .ok (.aload_n 0, 1) := dk_42 (dk_at dksX4_lend_2 3 rfl rfl)
theorem dX4_lend_49 : decode cX4_lend 49 = .ok (.getfield 75, 3) := dk_180 0 75 (dk_at dksX4_lend_2 4 rfl rfl)
theorem dX4_lend_52 : decode cX4_lend 52 = .ok (.bipush 86, 2) := dk_16 86 (dk_at dksX4_lend_2 7 rfl rfl)
theorem dX4_lend_54 : decode cX4_lend 54 = .ok (.iload_n 1, 1) := dk_27 (dk_at dksX4_lend_2 9 rfl rfl)
theorem dX4_lend_55 : decode cX4_lend 55 = .ok (.iadd, 1) := dk_96 (dk_at dksX4_lend_2 10 rfl rfl)
theorem dX4_lend_56 : decode cX4_lend 56 = .ok (.aload_n 0, 1) := dk_42 (dk_at dksX4_lend_2 11 rfl rfl)
theorem dX4_lend_57 : decode cX4_lend 57 = .ok (.getfield 75, 3) := dk_180 0 75 (dk_at dksX4_lend_2 12 rfl rfl)
theorem dX4_lend_60 : decode cX4_lend 60 = .ok (.iconst 1, 1) := dk_4 (dk_at dksX4_lend_2 15 rfl rfl)
theorem dX4_lend_61 : decode cX4_lend 61 = .ok (.iload_n 1, 1) := dk_27 (dk_at dksX4_lend_2 16 rfl rfl)
theorem dX4_lend_62 : decode cX4_lend 62 = .ok (.iadd, 1) := dk_96 (dk_at dksX4_lend_2 17 rfl rfl)
theorem dX4_lend_63 : decode cX4_lend 63 = .ok (.iaload, 1) := dk_46 (dk_at dksX4_lend_2 18 rfl rfl)
theorem dX4_lend_64 : decode cX4_lend 64 = .ok (.iload_n 3, 1) := dk_29 (dk_at dksX4_lend_2 19 rfl rfl)
theorem dX4_lend_65 : decode cX4_lend 65 = .ok (.isub, 1) := dk_100 (dk_at dksX4_lend_2 20 rfl rfl)
theorem dX4_lend_66 : decode cX4_lend 66 = .ok (.iastore, 1) := dk_79 (dk_at dksX4_lend_2 21 rfl rfl)
theorem dX4_lend_67 : decode cX4_lend 67 = .ok (.aload_n 0, 1) := dk_42 (dk_at dksX4_lend_2 22 rfl rfl)
theorem dX4_lend_68 : decode cX4_lend 68 = .ok (.bipush 85, 2) := dk_16 85 (dk_at dksX4_lend_3 0 rfl rfl)
theorem dX4_lend_70 : decode cX4_lend 70 = .ok (.iload_n 1, 1) := dk_27 (dk_at dksX4_lend_3 2 rfl rfl)
theorem dX4_lend_71 : decode cX4_lend 71 = .ok (.invokevirtual 336, 3) := dk_182 1 80 (dk_at dksX4_lend_3 3 rfl rfl)
theorem dX4_lend_74 : decode cX4_lend 74 = .ok (.bipush 7, 2) := dk_16 7 (dk_at dksX4_lend_3 6 rfl rfl)
theorem dX4_lend_76 : decode cX4_lend 76 = .ok (.if_icmp .lt 7, 3) := dk_161 0 7 (dk_at dksX4_lend_3 8 rfl rfl)
theorem dX4_lend_79 : decode cX4_lend 79 = .ok (.iload_n 3, 1) := dk_29 (dk_at dksX4_lend_3 11 rfl rfl)
theorem dX4_lend_80 : decode cX4_lend 80 = .ok (.goto 4, 3) := dk_167 0 4 (dk_at dksX4_lend_3 12 rfl rfl)
theorem dX4_lend_83 : decode cX4_lend 83 = .ok (.iload_n 2, 1) := dk_28 (dk_at dksX4_lend_3 15 rfl rfl)
theorem dX4_lend_84 : decode cX4_lend 84 = .ok (.istore_n 2, 1) := dk_61 (dk_at dksX4_lend_3 16 rfl rfl)
theorem dX4_lend_85 : decode cX4_lend 85 = .ok (.iinc 3 1, 3) := dk_132 3 1 (dk_at dksX4_lend_3 17 rfl rfl)
theorem dX4_lend_88 : decode cX4_lend 88 = .ok (.goto (-52), 3) := dk_167 255 204 (dk_at dksX4_lend_3 20 rfl rfl)
theorem dX4_lend_91 : decode cX4_lend 91 = .ok (.iload_n 2, 1) := dk_28 (dk_at dksX4_lend_3 23 rfl rfl)
theorem dX4_lend_92 : decode cX4_lend 92 = .ok (.ireturn, 1) := dk_172 (dk_at dksX4_lend_4 0 rfl rfl)
abbrev cX4_image : ByteArray := prog_13_method_118_code
def yX4_image : MethodName := ⟨RX4, "image", "()V"⟩
def dkwX4_image_3 : List UInt8 := [180, 0, 114, 182, 1, 34, 177]
abbrev dktX4_image_3 : List UInt8 := dkwX4_image_3 ++ []
def dkwX4_image_2 : List UInt8 := [132, 1, 1, 167, 255, 235, 42, 42, 180, 0, 78, 42, 180, 0, 111, 182, 1, 34, 42, 42, 180, 0, 99, 42]
abbrev dktX4_image_2 : List UInt8 := dkwX4_image_2 ++ dktX4_image_3
def dkwX4_image_1 : List UInt8 := [181, 1, 193, 3, 60, 27, 16, 85, 162, 0, 21, 42, 180, 0, 108, 27, 42, 180, 0, 75, 27, 46, 79]
abbrev dktX4_image_1 : List UInt8 := dkwX4_image_1 ++ dktX4_image_2
def dkwX4_image_0 : List UInt8 := [42, 3, 181, 0, 117, 42, 4, 181, 1, 44, 42, 42, 180, 1, 38, 181, 1, 190, 42, 42, 180, 1, 41]
abbrev dktX4_image_0 : List UInt8 := dkwX4_image_0 ++ dktX4_image_1
theorem dksX4_image_0 : cX4_image.data.toList.drop 0 = dktX4_image_0 := by decide +kernel
theorem dksX4_image_1 : cX4_image.data.toList.drop 23 = dktX4_image_1 := dk_seg dksX4_image_0 23 rfl rfl
theorem dksX4_image_2 : cX4_image.data.toList.drop 46 = dktX4_image_2 := dk_seg dksX4_image_1 23 rfl rfl
theorem dksX4_image_3 : cX4_image.data.toList.drop 70 = dktX4_image_3 := dk_seg dksX4_image_2 24 rfl rfl
theorem dX4_image_0 : decode cX4_image 0 = .ok (.aload_n 0, 1) := dk_42 (dk_at dksX4_image_0 0 rfl rfl)
theorem dX4_image_1 : decode cX4_image 1 = .ok (.iconst 0, 1) := dk_3 (dk_at dksX4_image_0 1 rfl rfl)
theorem dX4_image_2 : decode cX4_image 2 = .ok (.putfield 117, 3) := dk_181 0 117 (dk_at dksX4_image_0 2 rfl rfl)
theorem dX4_image_5 : decode cX4_image 5 = .ok (.aload_n 0, 1) := dk_42 (dk_at dksX4_image_0 5 rfl rfl)
theorem dX4_image_6 : decode cX4_image 6 = .ok (.iconst 1, 1) := dk_4 (dk_at dksX4_image_0 6 rfl rfl)
theorem dX4_image_7 : decode cX4_image 7 = .ok (.putfield 300, 3) := dk_181 1 44 (dk_at dksX4_image_0 7 rfl rfl)
theorem dX4_image_10 : decode cX4_image 10 = .ok (.aload_n 0, 1) := dk_42 (dk_at dksX4_image_0 10 rfl rfl)
theorem dX4_image_11 : decode cX4_image 11 = .ok (.aload_n 0, 1) := dk_42 (dk_at dksX4_image_0 11 rfl rfl)
theorem dX4_image_12 : decode cX4_image 12 = .ok (.getfield 294, 3) := dk_180 1 38 (dk_at dksX4_image_0 12 rfl rfl)
theorem dX4_image_15 : decode cX4_image 15 = .ok (.putfield 446, 3) := dk_181 1 190 (dk_at dksX4_image_0 15 rfl rfl)
theorem dX4_image_18 : decode cX4_image 18 = .ok (.aload_n 0, 1) := dk_42 (dk_at dksX4_image_0 18 rfl rfl)
theorem dX4_image_19 : decode cX4_image 19 = .ok (.aload_n 0, 1) := dk_42 (dk_at dksX4_image_0 19 rfl rfl)
theorem dX4_image_20 : decode cX4_image 20 = .ok (.getfield 297, 3) := dk_180 1 41 (dk_at dksX4_image_0 20 rfl rfl)
theorem dX4_image_23 : decode cX4_image 23 = .ok (.putfield 449, 3) := dk_181 1 193 (dk_at dksX4_image_1 0 rfl rfl)
theorem dX4_image_26 : decode cX4_image 26 = .ok (.iconst 0, 1) := dk_3 (dk_at dksX4_image_1 3 rfl rfl)
theorem dX4_image_27 : decode cX4_image 27 = .ok (.istore_n 1, 1) := dk_60 (dk_at dksX4_image_1 4 rfl rfl)
theorem dX4_image_28 : decode cX4_image 28 = .ok (.iload_n 1, 1) := dk_27 (dk_at dksX4_image_1 5 rfl rfl)
theorem dX4_image_29 : decode cX4_image 29 = .ok (.bipush 85, 2) := dk_16 85 (dk_at dksX4_image_1 6 rfl rfl)
theorem dX4_image_31 : decode cX4_image 31 = .ok (.if_icmp .ge 21, 3) := dk_162 0 21 (dk_at dksX4_image_1 8 rfl rfl)
theorem dX4_image_34 : decode cX4_image 34 = .ok (.aload_n 0, 1) := dk_42 (dk_at dksX4_image_1 11 rfl rfl)
theorem dX4_image_35 : decode cX4_image 35 = .ok (.getfield 108, 3) := dk_180 0 108 (dk_at dksX4_image_1 12 rfl rfl)
theorem dX4_image_38 : decode cX4_image 38 = .ok (.iload_n 1, 1) := dk_27 (dk_at dksX4_image_1 15 rfl rfl)
theorem dX4_image_39 : decode cX4_image 39 = .ok (.aload_n 0, 1) := dk_42 (dk_at dksX4_image_1 16 rfl rfl)
theorem dX4_image_40 : decode cX4_image 40 = .ok (.getfield 75, 3) := dk_180 0 75 (dk_at dksX4_image_1 17 rfl rfl)
theorem dX4_image_43 : decode cX4_image 43 = .ok (.iload_n 1, 1) := dk_27 (dk_at dksX4_image_1 20 rfl rfl)
theorem dX4_image_44 : decode cX4_image 44 = .ok (.iaload, 1) := dk_46 (dk_at dksX4_image_1 21 rfl rfl)
theorem dX4_image_45 : decode cX4_image 45 = .ok (.iastore, 1) := dk_79 (dk_at dksX4_image_1 22 rfl rfl)
theorem dX4_image_46 : decode cX4_image 46 = .ok (.iinc 1 1, 3) := dk_132 1 1 (dk_at dksX4_image_2 0 rfl rfl)
theorem dX4_image_49 : decode cX4_image 49 = .ok (.goto (-21), 3) := dk_167 255 235 (dk_at dksX4_image_2 3 rfl rfl)
theorem dX4_image_52 : decode cX4_image 52 = .ok (.aload_n 0, 1) := dk_42 (dk_at dksX4_image_2 6 rfl rfl)
theorem dX4_image_53 : decode cX4_image 53 = .ok (.aload_n 0, 1) := dk_42 (dk_at dksX4_image_2 7 rfl rfl)
theorem dX4_image_54 : decode cX4_image 54 = .ok (.getfield 78, 3) := dk_180 0 78 (dk_at dksX4_image_2 8 rfl rfl)
theorem dX4_image_57 : decode cX4_image 57 = .ok (.aload_n 0, 1) := dk_42 (dk_at dksX4_image_2 11 rfl rfl)
theorem dX4_image_58 : decode cX4_image 58 = .ok (.getfield 111, 3) := dk_180 0 111 (dk_at dksX4_image_2 12 rfl rfl)
theorem dX4_image_61 : decode cX4_image 61 = .ok (.invokevirtual 290, 3) := dk_182 1 34 (dk_at dksX4_image_2 15 rfl rfl)
theorem dX4_image_64 : decode cX4_image 64 = .ok (.aload_n 0, 1) := dk_42 (dk_at dksX4_image_2 18 rfl rfl)
theorem dX4_image_65 : decode cX4_image 65 = .ok (.aload_n 0, 1) := dk_42 (dk_at dksX4_image_2 19 rfl rfl)
theorem dX4_image_66 : decode cX4_image 66 = .ok (.getfield 99, 3) := dk_180 0 99 (dk_at dksX4_image_2 20 rfl rfl)
theorem dX4_image_69 : decode cX4_image 69 = .ok (.aload_n 0, 1) := dk_42 (dk_at dksX4_image_2 23 rfl rfl)
theorem dX4_image_70 : decode cX4_image 70 = .ok (.getfield 114, 3) := dk_180 0 114 (dk_at dksX4_image_3 0 rfl rfl)
theorem dX4_image_73 : decode cX4_image 73 = .ok (.invokevirtual 290, 3) := dk_182 1 34 (dk_at dksX4_image_3 3 rfl rfl)
theorem dX4_image_76 : decode cX4_image 76 = .ok (.return_, 1) := dk_177 (dk_at dksX4_image_3 6 rfl rfl)
abbrev cX4_restore : ByteArray := prog_13_method_119_code
def yX4_restore : MethodName := ⟨RX4, "restore", "()Z"⟩
def dkwX4_restore_3 : List UInt8 := [180, 0, 114, 42, 180, 0, 99, 182, 1, 34, 4, 172]
abbrev dktX4_restore_3 : List UInt8 := dkwX4_restore_3 ++ []
def dkwX4_restore_2 : List UInt8 := [46, 79, 132, 1, 1, 167, 255, 235, 42, 42, 180, 0, 111, 42, 180, 0, 78, 182, 1, 34, 42, 42]
abbrev dktX4_restore_2 : List UInt8 := dkwX4_restore_2 ++ dktX4_restore_3
def dkwX4_restore_1 : List UInt8 := [180, 1, 193, 181, 1, 41, 3, 60, 27, 16, 85, 162, 0, 21, 42, 180, 0, 75, 27, 42, 180, 0, 108, 27]
abbrev dktX4_restore_1 : List UInt8 := dkwX4_restore_1 ++ dktX4_restore_2
def dkwX4_restore_0 : List UInt8 := [42, 3, 181, 0, 117, 42, 180, 1, 44, 154, 0, 5, 3, 172, 42, 42, 180, 1, 190, 181, 1, 38, 42, 42]
abbrev dktX4_restore_0 : List UInt8 := dkwX4_restore_0 ++ dktX4_restore_1
theorem dksX4_restore_0 : cX4_restore.data.toList.drop 0 = dktX4_restore_0 := by decide +kernel
theorem dksX4_restore_1 : cX4_restore.data.toList.drop 24 = dktX4_restore_1 := dk_seg dksX4_restore_0 24 rfl rfl
theorem dksX4_restore_2 : cX4_restore.data.toList.drop 48 = dktX4_restore_2 := dk_seg dksX4_restore_1 24 rfl rfl
theorem dksX4_restore_3 : cX4_restore.data.toList.drop 70 = dktX4_restore_3 := dk_seg dksX4_restore_2 22 rfl rfl
theorem dX4_restore_0 : decode cX4_restore 0 = .ok (.aload_n 0, 1) := dk_42 (dk_at dksX4_restore_0 0 rfl rfl)
theorem dX4_restore_1 : decode cX4_restore 1 = .ok (.iconst 0, 1) := dk_3 (dk_at dksX4_restore_0 1 rfl rfl)
theorem dX4_restore_2 : decode cX4_restore 2 = .ok (.putfield 117, 3) := dk_181 0 117 (dk_at dksX4_restore_0 2 rfl rfl)
theorem dX4_restore_5 : decode cX4_restore 5 = .ok (.aload_n 0, 1) := dk_42 (dk_at dksX4_restore_0 5 rfl rfl)
theorem dX4_restore_6 : decode cX4_restore 6 = .ok (.getfield 300, 3) := dk_180 1 44 (dk_at dksX4_restore_0 6 rfl rfl)
theorem dX4_restore_9 : decode cX4_restore 9 = .ok (.ifCond .ne 5, 3) := dk_154 0 5 (dk_at dksX4_restore_0 9 rfl rfl)
theorem dX4_restore_12 : decode cX4_restore 12 = .ok (.iconst 0, 1) := dk_3 (dk_at dksX4_restore_0 12 rfl rfl)
theorem dX4_restore_13 : decode cX4_restore 13 = .ok (.ireturn, 1) := dk_172 (dk_at dksX4_restore_0 13 rfl rfl)
theorem dX4_restore_14 : decode cX4_restore 14 = .ok (.aload_n 0, 1) := dk_42 (dk_at dksX4_restore_0 14 rfl rfl)
theorem dX4_restore_15 : decode cX4_restore 15 = .ok (.aload_n 0, 1) := dk_42 (dk_at dksX4_restore_0 15 rfl rfl)
theorem dX4_restore_16 : decode cX4_restore 16 = .ok (.getfield 446, 3) := dk_180 1 190 (dk_at dksX4_restore_0 16 rfl rfl)
theorem dX4_restore_19 : decode cX4_restore 19 = .ok (.putfield 294, 3) := dk_181 1 38 (dk_at dksX4_restore_0 19 rfl rfl)
theorem dX4_restore_22 : decode cX4_restore 22 = .ok (.aload_n 0, 1) := dk_42 (dk_at dksX4_restore_0 22 rfl rfl)
theorem dX4_restore_23 : decode cX4_restore 23 = .ok (.aload_n 0, 1) := dk_42 (dk_at dksX4_restore_0 23 rfl rfl)
theorem dX4_restore_24 : decode cX4_restore 24 = .ok (.getfield 449, 3) := dk_180 1 193 (dk_at dksX4_restore_1 0 rfl rfl)
theorem dX4_restore_27 : decode cX4_restore 27 = .ok (.putfield 297, 3) := dk_181 1 41 (dk_at dksX4_restore_1 3 rfl rfl)
theorem dX4_restore_30 : decode cX4_restore 30 = .ok (.iconst 0, 1) := dk_3 (dk_at dksX4_restore_1 6 rfl rfl)
theorem dX4_restore_31 : decode cX4_restore 31 = .ok (.istore_n 1, 1) := dk_60 (dk_at dksX4_restore_1 7 rfl rfl)
theorem dX4_restore_32 : decode cX4_restore 32 = .ok (.iload_n 1, 1) := dk_27 (dk_at dksX4_restore_1 8 rfl rfl)
theorem dX4_restore_33 : decode cX4_restore 33 = .ok (.bipush 85, 2) := dk_16 85 (dk_at dksX4_restore_1 9 rfl rfl)
theorem dX4_restore_35 : decode cX4_restore 35 = .ok (.if_icmp .ge 21, 3) := dk_162 0 21 (dk_at dksX4_restore_1 11 rfl rfl)
theorem dX4_restore_38 : decode cX4_restore 38 = .ok (.aload_n 0, 1) := dk_42 (dk_at dksX4_restore_1 14 rfl rfl)
theorem dX4_restore_39 : decode cX4_restore 39 = .ok (.getfield 75, 3) := dk_180 0 75 (dk_at dksX4_restore_1 15 rfl rfl)
theorem dX4_restore_42 : decode cX4_restore 42 = .ok (.iload_n 1, 1) := dk_27 (dk_at dksX4_restore_1 18 rfl rfl)
theorem dX4_restore_43 : decode cX4_restore 43 = .ok (.aload_n 0, 1) := dk_42 (dk_at dksX4_restore_1 19 rfl rfl)
theorem dX4_restore_44 : decode cX4_restore 44 = .ok (.getfield 108, 3) := dk_180 0 108 (dk_at dksX4_restore_1 20 rfl rfl)
theorem dX4_restore_47 : decode cX4_restore 47 = .ok (.iload_n 1, 1) := dk_27 (dk_at dksX4_restore_1 23 rfl rfl)
theorem dX4_restore_48 : decode cX4_restore 48 = .ok (.iaload, 1) := dk_46 (dk_at dksX4_restore_2 0 rfl rfl)
theorem dX4_restore_49 : decode cX4_restore 49 = .ok (.iastore, 1) := dk_79 (dk_at dksX4_restore_2 1 rfl rfl)
theorem dX4_restore_50 : decode cX4_restore 50 = .ok (.iinc 1 1, 3) := dk_132 1 1 (dk_at dksX4_restore_2 2 rfl rfl)
theorem dX4_restore_53 : decode cX4_restore 53 = .ok (.goto (-21), 3) := dk_167 255 235 (dk_at dksX4_restore_2 5 rfl rfl)
theorem dX4_restore_56 : decode cX4_restore 56 = .ok (.aload_n 0, 1) := dk_42 (dk_at dksX4_restore_2 8 rfl rfl)
theorem dX4_restore_57 : decode cX4_restore 57 = .ok (.aload_n 0, 1) := dk_42 (dk_at dksX4_restore_2 9 rfl rfl)
theorem dX4_restore_58 : decode cX4_restore 58 = .ok (.getfield 111, 3) := dk_180 0 111 (dk_at dksX4_restore_2 10 rfl rfl)
theorem dX4_restore_61 : decode cX4_restore 61 = .ok (.aload_n 0, 1) := dk_42 (dk_at dksX4_restore_2 13 rfl rfl)
theorem dX4_restore_62 : decode cX4_restore 62 = .ok (.getfield 78, 3) := dk_180 0 78 (dk_at dksX4_restore_2 14 rfl rfl)
theorem dX4_restore_65 : decode cX4_restore 65 = .ok (.invokevirtual 290, 3) := dk_182 1 34 (dk_at dksX4_restore_2 17 rfl rfl)
theorem dX4_restore_68 : decode cX4_restore 68 = .ok (.aload_n 0, 1) := dk_42 (dk_at dksX4_restore_2 20 rfl rfl)
theorem dX4_restore_69 : decode cX4_restore 69 = .ok (.aload_n 0, 1) := dk_42 (dk_at dksX4_restore_2 21 rfl rfl)
theorem dX4_restore_70 : decode cX4_restore 70 = .ok (.getfield 114, 3) := dk_180 0 114 (dk_at dksX4_restore_3 0 rfl rfl)
theorem dX4_restore_73 : decode cX4_restore 73 = .ok (.aload_n 0, 1) := dk_42 (dk_at dksX4_restore_3 3 rfl rfl)
theorem dX4_restore_74 : decode cX4_restore 74 = .ok (.getfield 99, 3) := dk_180 0 99 (dk_at dksX4_restore_3 4 rfl rfl)
theorem dX4_restore_77 : decode cX4_restore 77 = .ok (.invokevirtual 290, 3) := dk_182 1 34 (dk_at dksX4_restore_3 7 rfl rfl)
theorem dX4_restore_80 : decode cX4_restore 80 = .ok (.iconst 1, 1) := dk_4 (dk_at dksX4_restore_3 10 rfl rfl)
theorem dX4_restore_81 : decode cX4_restore 81 = .ok (.ireturn, 1) := dk_172 (dk_at dksX4_restore_3 11 rfl rfl)
theorem q115 : (Jvm.Cond.initialized "LuckCratesModel") ∈ lw_all := lw_g (lw_at lw_m1 7 rfl) rfl
theorem q404 : (Jvm.Cond.selects "LuckCratesModel" ({ cls := "java/lang/Object", name := "getClass", desc := "()Ljava/lang/Class;" } : Jvm.MethodName) ({ cls := "java/lang/Object", name := "getClass", desc := "()Ljava/lang/Class;" } : Jvm.MethodName)) ∈ lw_all := lw_g (lw_at lw_m2 56 rfl) rfl
theorem q1561 : (Jvm.Cond.instantiable "LuckCratesModel" (63 : Nat)) ∈ lw_all := lw_g (lw_at lw_m7 13 rfl) rfl
theorem q1563 : (Jvm.Cond.instanceMethod ({ cls := "LuckCratesModel", name := "<init>", desc := "()V" } : Jvm.MethodName)) ∈ lw_all := lw_g (lw_at lw_m7 15 rfl) rfl
theorem q1564 : (Jvm.Cond.code ({ cls := "LuckCratesModel", name := "<init>", desc := "()V" } : Jvm.MethodName) prog_13_method_1_code (1 : Nat) (Option.none : Option Jvm.ClassFile.FieldType)) ∈ lw_all := lw_g (lw_at lw_m7 16 rfl) rfl
theorem q1565 : (Jvm.Cond.methodLink "LuckCratesModel" (1 : Nat) ({ cls := "java/lang/Object", name := "<init>", desc := "()V" } : Jvm.MethodName)) ∈ lw_all := lw_g (lw_at lw_m7 17 rfl) rfl
theorem q1566 : (Jvm.Cond.fieldLink "LuckCratesModel" (117 : Nat) "LuckCratesModel" "thrown" "I") ∈ lw_all := lw_g (lw_at lw_m7 18 rfl) rfl
theorem q1567 : (Jvm.Cond.fieldLink "LuckCratesModel" (281 : Nat) "LuckCratesModel" "towns" "I") ∈ lw_all := lw_g (lw_at lw_m7 19 rfl) rfl
theorem q1568 : (Jvm.Cond.fieldLink "LuckCratesModel" (284 : Nat) "LuckCratesModel" "ways" "I") ∈ lw_all := lw_g (lw_at lw_m7 20 rfl) rfl
theorem q1569 : (Jvm.Cond.fieldLink "LuckCratesModel" (287 : Nat) "LuckCratesModel" "crates" "I") ∈ lw_all := lw_g (lw_at lw_m7 21 rfl) rfl
theorem q1570 : (Jvm.Cond.fieldLink "LuckCratesModel" (9 : Nat) "LuckCratesModel" "oddsAt" "I") ∈ lw_all := lw_g (lw_at lw_m7 22 rfl) rfl
theorem q1571 : (Jvm.Cond.fieldLink "LuckCratesModel" (13 : Nat) "LuckCratesModel" "makes" "[I") ∈ lw_all := lw_g (lw_at lw_m7 23 rfl) rfl
theorem q1572 : (Jvm.Cond.fieldLink "LuckCratesModel" (17 : Nat) "LuckCratesModel" "stake" "[I") ∈ lw_all := lw_g (lw_at lw_m7 24 rfl) rfl
theorem q1573 : (Jvm.Cond.fieldLink "LuckCratesModel" (20 : Nat) "LuckCratesModel" "wayA" "[I") ∈ lw_all := lw_g (lw_at lw_m7 25 rfl) rfl
theorem q1574 : (Jvm.Cond.fieldLink "LuckCratesModel" (23 : Nat) "LuckCratesModel" "wayB" "[I") ∈ lw_all := lw_g (lw_at lw_m7 26 rfl) rfl
theorem q1575 : (Jvm.Cond.fieldLink "LuckCratesModel" (26 : Nat) "LuckCratesModel" "wayDays" "[I") ∈ lw_all := lw_g (lw_at lw_m7 27 rfl) rfl
theorem q1576 : (Jvm.Cond.fieldLink "LuckCratesModel" (29 : Nat) "LuckCratesModel" "wayLeak" "[I") ∈ lw_all := lw_g (lw_at lw_m7 28 rfl) rfl
theorem q1577 : (Jvm.Cond.fieldLink "LuckCratesModel" (32 : Nat) "LuckCratesModel" "code" "[I") ∈ lw_all := lw_g (lw_at lw_m7 29 rfl) rfl
theorem q1578 : (Jvm.Cond.fieldLink "LuckCratesModel" (35 : Nat) "LuckCratesModel" "tape" "[I") ∈ lw_all := lw_g (lw_at lw_m7 30 rfl) rfl
theorem q1579 : (Jvm.Cond.fieldLink "LuckCratesModel" (120 : Nat) "LuckCratesModel" "taped" "I") ∈ lw_all := lw_g (lw_at lw_m7 31 rfl) rfl
theorem q1580 : (Jvm.Cond.fieldLink "LuckCratesModel" (173 : Nat) "LuckCratesModel" "faultKind" "I") ∈ lw_all := lw_g (lw_at lw_m7 32 rfl) rfl
theorem q1581 : (Jvm.Cond.fieldLink "LuckCratesModel" (38 : Nat) "LuckCratesModel" "faultPlace" "I") ∈ lw_all := lw_g (lw_at lw_m7 33 rfl) rfl
theorem q1582 : (Jvm.Cond.fieldLink "LuckCratesModel" (41 : Nat) "LuckCratesModel" "refused" "[I") ∈ lw_all := lw_g (lw_at lw_m7 34 rfl) rfl
theorem q1583 : (Jvm.Cond.fieldLink "LuckCratesModel" (127 : Nat) "LuckCratesModel" "long1" "I") ∈ lw_all := lw_g (lw_at lw_m7 35 rfl) rfl
theorem q1584 : (Jvm.Cond.fieldLink "LuckCratesModel" (130 : Nat) "LuckCratesModel" "next0" "I") ∈ lw_all := lw_g (lw_at lw_m7 36 rfl) rfl
theorem q1585 : (Jvm.Cond.fieldLink "LuckCratesModel" (150 : Nat) "LuckCratesModel" "sort" "I") ∈ lw_all := lw_g (lw_at lw_m7 37 rfl) rfl
theorem q1586 : (Jvm.Cond.fieldLink "LuckCratesModel" (137 : Nat) "LuckCratesModel" "place" "I") ∈ lw_all := lw_g (lw_at lw_m7 38 rfl) rfl
theorem q1587 : (Jvm.Cond.fieldLink "LuckCratesModel" (160 : Nat) "LuckCratesModel" "long0" "I") ∈ lw_all := lw_g (lw_at lw_m7 39 rfl) rfl
theorem q1588 : (Jvm.Cond.fieldLink "LuckCratesModel" (144 : Nat) "LuckCratesModel" "value" "I") ∈ lw_all := lw_g (lw_at lw_m7 40 rfl) rfl
theorem q1589 : (Jvm.Cond.fieldLink "LuckCratesModel" (147 : Nat) "LuckCratesModel" "sign" "I") ∈ lw_all := lw_g (lw_at lw_m7 41 rfl) rfl
theorem q1590 : (Jvm.Cond.fieldLink "LuckCratesModel" (140 : Nat) "LuckCratesModel" "word" "J") ∈ lw_all := lw_g (lw_at lw_m7 42 rfl) rfl
theorem q1591 : (Jvm.Cond.fieldLink "LuckCratesModel" (236 : Nat) "LuckCratesModel" "newTowns" "I") ∈ lw_all := lw_g (lw_at lw_m7 43 rfl) rfl
theorem q1592 : (Jvm.Cond.fieldLink "LuckCratesModel" (243 : Nat) "LuckCratesModel" "newWays" "I") ∈ lw_all := lw_g (lw_at lw_m7 44 rfl) rfl
theorem q1593 : (Jvm.Cond.fieldLink "LuckCratesModel" (253 : Nat) "LuckCratesModel" "newCrates" "I") ∈ lw_all := lw_g (lw_at lw_m7 45 rfl) rfl
theorem q1594 : (Jvm.Cond.fieldLink "LuckCratesModel" (265 : Nat) "LuckCratesModel" "newOddsAt" "I") ∈ lw_all := lw_g (lw_at lw_m7 46 rfl) rfl
theorem q1595 : (Jvm.Cond.fieldLink "LuckCratesModel" (189 : Nat) "LuckCratesModel" "top" "I") ∈ lw_all := lw_g (lw_at lw_m7 47 rfl) rfl
theorem q1596 : (Jvm.Cond.fieldLink "LuckCratesModel" (192 : Nat) "LuckCratesModel" "waiting" "I") ∈ lw_all := lw_g (lw_at lw_m7 48 rfl) rfl
theorem q1597 : (Jvm.Cond.fieldLink "LuckCratesModel" (208 : Nat) "LuckCratesModel" "depth" "I") ∈ lw_all := lw_g (lw_at lw_m7 49 rfl) rfl
theorem q1598 : (Jvm.Cond.fieldLink "LuckCratesModel" (44 : Nat) "LuckCratesModel" "newMakes" "[I") ∈ lw_all := lw_g (lw_at lw_m7 50 rfl) rfl
theorem q1599 : (Jvm.Cond.fieldLink "LuckCratesModel" (47 : Nat) "LuckCratesModel" "newStake" "[I") ∈ lw_all := lw_g (lw_at lw_m7 51 rfl) rfl
theorem q1600 : (Jvm.Cond.fieldLink "LuckCratesModel" (50 : Nat) "LuckCratesModel" "newWayA" "[I") ∈ lw_all := lw_g (lw_at lw_m7 52 rfl) rfl
theorem q1601 : (Jvm.Cond.fieldLink "LuckCratesModel" (53 : Nat) "LuckCratesModel" "newWayB" "[I") ∈ lw_all := lw_g (lw_at lw_m7 53 rfl) rfl
theorem q1602 : (Jvm.Cond.fieldLink "LuckCratesModel" (56 : Nat) "LuckCratesModel" "newWayDays" "[I") ∈ lw_all := lw_g (lw_at lw_m7 54 rfl) rfl
theorem q1603 : (Jvm.Cond.fieldLink "LuckCratesModel" (59 : Nat) "LuckCratesModel" "newWayLeak" "[I") ∈ lw_all := lw_g (lw_at lw_m7 55 rfl) rfl
theorem q1604 : (Jvm.Cond.fieldLink "LuckCratesModel" (62 : Nat) "LuckCratesModel" "newRow" "[I") ∈ lw_all := lw_g (lw_at lw_m7 56 rfl) rfl
theorem q1605 : (Jvm.Cond.fieldLink "LuckCratesModel" (65 : Nat) "LuckCratesModel" "readCode" "[I") ∈ lw_all := lw_g (lw_at lw_m7 57 rfl) rfl
theorem q1606 : (Jvm.Cond.fieldLink "LuckCratesModel" (68 : Nat) "LuckCratesModel" "waits" "[I") ∈ lw_all := lw_g (lw_at lw_m7 58 rfl) rfl
theorem q1607 : (Jvm.Cond.fieldLink "LuckCratesModel" (71 : Nat) "LuckCratesModel" "tested" "[Z") ∈ lw_all := lw_g (lw_at lw_m7 59 rfl) rfl
theorem q1608 : (Jvm.Cond.fieldLink "LuckCratesModel" (75 : Nat) "LuckCratesModel" "rows" "[I") ∈ lw_all := lw_g (lw_at lw_m7 60 rfl) rfl
theorem q1609 : (Jvm.Cond.fieldLink "LuckCratesModel" (78 : Nat) "LuckCratesModel" "ahead" "[I") ∈ lw_all := lw_g (lw_at lw_m7 61 rfl) rfl
theorem q1610 : (Jvm.Cond.fieldLink "LuckCratesModel" (294 : Nat) "LuckCratesModel" "acts" "I") ∈ lw_all := lw_g (lw_at lw_m7 62 rfl) rfl
theorem q1611 : (Jvm.Cond.fieldLink "LuckCratesModel" (81 : Nat) "LuckCratesModel" "told" "[I") ∈ lw_all := lw_g (lw_at lw_m7 63 rfl) rfl
theorem q1612 : (Jvm.Cond.fieldLink "LuckCratesModel" (84 : Nat) "LuckCratesModel" "pile" "[I") ∈ lw_all := lw_g (lw_at lw_m7 64 rfl) rfl
theorem q1613 : (Jvm.Cond.fieldLink "LuckCratesModel" (329 : Nat) "LuckCratesModel" "winners" "I") ∈ lw_all := lw_g (lw_at lw_m7 65 rfl) rfl
theorem q1614 : (Jvm.Cond.fieldLink "LuckCratesModel" (87 : Nat) "LuckCratesModel" "farOf" "[I") ∈ lw_all := lw_g (lw_at lw_m7 66 rfl) rfl
theorem q1615 : (Jvm.Cond.fieldLink "LuckCratesModel" (90 : Nat) "LuckCratesModel" "leakOf" "[I") ∈ lw_all := lw_g (lw_at lw_m7 67 rfl) rfl
theorem q1616 : (Jvm.Cond.fieldLink "LuckCratesModel" (93 : Nat) "LuckCratesModel" "harm" "[I") ∈ lw_all := lw_g (lw_at lw_m7 68 rfl) rfl
theorem q1617 : (Jvm.Cond.fieldLink "LuckCratesModel" (96 : Nat) "LuckCratesModel" "likely" "[I") ∈ lw_all := lw_g (lw_at lw_m7 69 rfl) rfl
theorem q1618 : (Jvm.Cond.fieldLink "LuckCratesModel" (297 : Nat) "LuckCratesModel" "seenMany" "I") ∈ lw_all := lw_g (lw_at lw_m7 70 rfl) rfl
theorem q1619 : (Jvm.Cond.fieldLink "LuckCratesModel" (99 : Nat) "LuckCratesModel" "seen" "[I") ∈ lw_all := lw_g (lw_at lw_m7 71 rfl) rfl
theorem q1620 : (Jvm.Cond.fieldLink "LuckCratesModel" (102 : Nat) "LuckCratesModel" "lucks" "[I") ∈ lw_all := lw_g (lw_at lw_m7 72 rfl) rfl
theorem q1621 : (Jvm.Cond.fieldLink "LuckCratesModel" (105 : Nat) "LuckCratesModel" "lucksAll" "[I") ∈ lw_all := lw_g (lw_at lw_m7 73 rfl) rfl
theorem q1622 : (Jvm.Cond.fieldLink "LuckCratesModel" (430 : Nat) "LuckCratesModel" "its" "I") ∈ lw_all := lw_g (lw_at lw_m7 74 rfl) rfl
theorem q1623 : (Jvm.Cond.fieldLink "LuckCratesModel" (300 : Nat) "LuckCratesModel" "hasImage" "Z") ∈ lw_all := lw_g (lw_at lw_m7 75 rfl) rfl
theorem q1624 : (Jvm.Cond.fieldLink "LuckCratesModel" (446 : Nat) "LuckCratesModel" "imageActs" "I") ∈ lw_all := lw_g (lw_at lw_m7 76 rfl) rfl
theorem q1625 : (Jvm.Cond.fieldLink "LuckCratesModel" (449 : Nat) "LuckCratesModel" "imageSeen" "I") ∈ lw_all := lw_g (lw_at lw_m7 77 rfl) rfl
theorem q1626 : (Jvm.Cond.fieldLink "LuckCratesModel" (108 : Nat) "LuckCratesModel" "imageRow" "[I") ∈ lw_all := lw_g (lw_at lw_m7 78 rfl) rfl
theorem q1627 : (Jvm.Cond.fieldLink "LuckCratesModel" (111 : Nat) "LuckCratesModel" "imageAhead" "[I") ∈ lw_all := lw_g (lw_at lw_m7 79 rfl) rfl
theorem q1628 : (Jvm.Cond.fieldLink "LuckCratesModel" (114 : Nat) "LuckCratesModel" "imageSees" "[I") ∈ lw_all := lw_g (lw_at lw_m7 80 rfl) rfl
theorem q1629 : (Jvm.Cond.lays "LuckCratesModel" "LuckCratesModel" "thrown" "I") ∈ lw_all := lw_g (lw_at lw_m7 81 rfl) rfl
theorem q1630 : (Jvm.Cond.soleField "LuckCratesModel" "thrown") ∈ lw_all := lw_g (lw_at lw_m7 82 rfl) rfl
theorem q1631 : (Jvm.Cond.lays "LuckCratesModel" "LuckCratesModel" "towns" "I") ∈ lw_all := lw_g (lw_at lw_m7 83 rfl) rfl
theorem q1632 : (Jvm.Cond.soleField "LuckCratesModel" "towns") ∈ lw_all := lw_g (lw_at lw_m7 84 rfl) rfl
theorem q1633 : (Jvm.Cond.lays "LuckCratesModel" "LuckCratesModel" "ways" "I") ∈ lw_all := lw_g (lw_at lw_m7 85 rfl) rfl
theorem q1634 : (Jvm.Cond.soleField "LuckCratesModel" "ways") ∈ lw_all := lw_g (lw_at lw_m7 86 rfl) rfl
theorem q1635 : (Jvm.Cond.lays "LuckCratesModel" "LuckCratesModel" "crates" "I") ∈ lw_all := lw_g (lw_at lw_m7 87 rfl) rfl
theorem q1636 : (Jvm.Cond.soleField "LuckCratesModel" "crates") ∈ lw_all := lw_g (lw_at lw_m7 88 rfl) rfl
theorem q1637 : (Jvm.Cond.lays "LuckCratesModel" "LuckCratesModel" "oddsAt" "I") ∈ lw_all := lw_g (lw_at lw_m7 89 rfl) rfl
theorem q1638 : (Jvm.Cond.soleField "LuckCratesModel" "oddsAt") ∈ lw_all := lw_g (lw_at lw_m7 90 rfl) rfl
theorem q1639 : (Jvm.Cond.laysFinal "LuckCratesModel" "LuckCratesModel" "makes" "[I") ∈ lw_all := lw_g (lw_at lw_m7 91 rfl) rfl
theorem q1640 : (Jvm.Cond.soleField "LuckCratesModel" "makes") ∈ lw_all := lw_g (lw_at lw_m7 92 rfl) rfl
theorem q1641 : (Jvm.Cond.laysFinal "LuckCratesModel" "LuckCratesModel" "stake" "[I") ∈ lw_all := lw_g (lw_at lw_m7 93 rfl) rfl
theorem q1642 : (Jvm.Cond.soleField "LuckCratesModel" "stake") ∈ lw_all := lw_g (lw_at lw_m7 94 rfl) rfl
theorem q1643 : (Jvm.Cond.laysFinal "LuckCratesModel" "LuckCratesModel" "wayA" "[I") ∈ lw_all := lw_g (lw_at lw_m7 95 rfl) rfl
theorem q1644 : (Jvm.Cond.soleField "LuckCratesModel" "wayA") ∈ lw_all := lw_g (lw_at lw_m7 96 rfl) rfl
theorem q1645 : (Jvm.Cond.laysFinal "LuckCratesModel" "LuckCratesModel" "wayB" "[I") ∈ lw_all := lw_g (lw_at lw_m7 97 rfl) rfl
theorem q1646 : (Jvm.Cond.soleField "LuckCratesModel" "wayB") ∈ lw_all := lw_g (lw_at lw_m7 98 rfl) rfl
theorem q1647 : (Jvm.Cond.laysFinal "LuckCratesModel" "LuckCratesModel" "wayDays" "[I") ∈ lw_all := lw_g (lw_at lw_m7 99 rfl) rfl
theorem q1648 : (Jvm.Cond.soleField "LuckCratesModel" "wayDays") ∈ lw_all := lw_g (lw_at lw_m7 100 rfl) rfl
theorem q1649 : (Jvm.Cond.laysFinal "LuckCratesModel" "LuckCratesModel" "wayLeak" "[I") ∈ lw_all := lw_g (lw_at lw_m7 101 rfl) rfl
theorem q1650 : (Jvm.Cond.soleField "LuckCratesModel" "wayLeak") ∈ lw_all := lw_g (lw_at lw_m7 102 rfl) rfl
theorem q1651 : (Jvm.Cond.laysFinal "LuckCratesModel" "LuckCratesModel" "code" "[I") ∈ lw_all := lw_g (lw_at lw_m7 103 rfl) rfl
theorem q1652 : (Jvm.Cond.soleField "LuckCratesModel" "code") ∈ lw_all := lw_g (lw_at lw_m7 104 rfl) rfl
theorem q1653 : (Jvm.Cond.laysFinal "LuckCratesModel" "LuckCratesModel" "tape" "[I") ∈ lw_all := lw_g (lw_at lw_m7 105 rfl) rfl
theorem q1654 : (Jvm.Cond.soleField "LuckCratesModel" "tape") ∈ lw_all := lw_g (lw_at lw_m7 106 rfl) rfl
theorem q1655 : (Jvm.Cond.lays "LuckCratesModel" "LuckCratesModel" "taped" "I") ∈ lw_all := lw_g (lw_at lw_m7 107 rfl) rfl
theorem q1656 : (Jvm.Cond.soleField "LuckCratesModel" "taped") ∈ lw_all := lw_g (lw_at lw_m7 108 rfl) rfl
theorem q1657 : (Jvm.Cond.lays "LuckCratesModel" "LuckCratesModel" "faultKind" "I") ∈ lw_all := lw_g (lw_at lw_m7 109 rfl) rfl
theorem q1658 : (Jvm.Cond.soleField "LuckCratesModel" "faultKind") ∈ lw_all := lw_g (lw_at lw_m7 110 rfl) rfl
theorem q1659 : (Jvm.Cond.lays "LuckCratesModel" "LuckCratesModel" "faultPlace" "I") ∈ lw_all := lw_g (lw_at lw_m7 111 rfl) rfl
theorem q1660 : (Jvm.Cond.soleField "LuckCratesModel" "faultPlace") ∈ lw_all := lw_g (lw_at lw_m7 112 rfl) rfl
theorem q1661 : (Jvm.Cond.laysFinal "LuckCratesModel" "LuckCratesModel" "refused" "[I") ∈ lw_all := lw_g (lw_at lw_m7 113 rfl) rfl
theorem q1662 : (Jvm.Cond.soleField "LuckCratesModel" "refused") ∈ lw_all := lw_g (lw_at lw_m7 114 rfl) rfl
theorem q1663 : (Jvm.Cond.lays "LuckCratesModel" "LuckCratesModel" "long1" "I") ∈ lw_all := lw_g (lw_at lw_m7 115 rfl) rfl
theorem q1664 : (Jvm.Cond.soleField "LuckCratesModel" "long1") ∈ lw_all := lw_g (lw_at lw_m7 116 rfl) rfl
theorem q1665 : (Jvm.Cond.lays "LuckCratesModel" "LuckCratesModel" "next0" "I") ∈ lw_all := lw_g (lw_at lw_m7 117 rfl) rfl
theorem q1666 : (Jvm.Cond.soleField "LuckCratesModel" "next0") ∈ lw_all := lw_g (lw_at lw_m7 118 rfl) rfl
theorem q1667 : (Jvm.Cond.lays "LuckCratesModel" "LuckCratesModel" "sort" "I") ∈ lw_all := lw_g (lw_at lw_m7 119 rfl) rfl
theorem q1668 : (Jvm.Cond.soleField "LuckCratesModel" "sort") ∈ lw_all := lw_g (lw_at lw_m7 120 rfl) rfl
theorem q1669 : (Jvm.Cond.lays "LuckCratesModel" "LuckCratesModel" "place" "I") ∈ lw_all := lw_g (lw_at lw_m7 121 rfl) rfl
theorem q1670 : (Jvm.Cond.soleField "LuckCratesModel" "place") ∈ lw_all := lw_g (lw_at lw_m7 122 rfl) rfl
theorem q1671 : (Jvm.Cond.lays "LuckCratesModel" "LuckCratesModel" "long0" "I") ∈ lw_all := lw_g (lw_at lw_m7 123 rfl) rfl
theorem q1672 : (Jvm.Cond.soleField "LuckCratesModel" "long0") ∈ lw_all := lw_g (lw_at lw_m7 124 rfl) rfl
theorem q1673 : (Jvm.Cond.lays "LuckCratesModel" "LuckCratesModel" "value" "I") ∈ lw_all := lw_g (lw_at lw_m7 125 rfl) rfl
theorem q1674 : (Jvm.Cond.soleField "LuckCratesModel" "value") ∈ lw_all := lw_g (lw_at lw_m7 126 rfl) rfl
theorem q1675 : (Jvm.Cond.lays "LuckCratesModel" "LuckCratesModel" "sign" "I") ∈ lw_all := lw_g (lw_at lw_m7 127 rfl) rfl
theorem q1676 : (Jvm.Cond.soleField "LuckCratesModel" "sign") ∈ lw_all := lw_g (lw_at lw_m7 128 rfl) rfl
theorem q1677 : (Jvm.Cond.lays "LuckCratesModel" "LuckCratesModel" "word" "J") ∈ lw_all := lw_g (lw_at lw_m7 129 rfl) rfl
theorem q1678 : (Jvm.Cond.soleField "LuckCratesModel" "word") ∈ lw_all := lw_g (lw_at lw_m7 130 rfl) rfl
theorem q1679 : (Jvm.Cond.lays "LuckCratesModel" "LuckCratesModel" "newTowns" "I") ∈ lw_all := lw_g (lw_at lw_m7 131 rfl) rfl
theorem q1680 : (Jvm.Cond.soleField "LuckCratesModel" "newTowns") ∈ lw_all := lw_g (lw_at lw_m7 132 rfl) rfl
theorem q1681 : (Jvm.Cond.lays "LuckCratesModel" "LuckCratesModel" "newWays" "I") ∈ lw_all := lw_g (lw_at lw_m7 133 rfl) rfl
theorem q1682 : (Jvm.Cond.soleField "LuckCratesModel" "newWays") ∈ lw_all := lw_g (lw_at lw_m7 134 rfl) rfl
theorem q1683 : (Jvm.Cond.lays "LuckCratesModel" "LuckCratesModel" "newCrates" "I") ∈ lw_all := lw_g (lw_at lw_m7 135 rfl) rfl
theorem q1684 : (Jvm.Cond.soleField "LuckCratesModel" "newCrates") ∈ lw_all := lw_g (lw_at lw_m7 136 rfl) rfl
theorem q1685 : (Jvm.Cond.lays "LuckCratesModel" "LuckCratesModel" "newOddsAt" "I") ∈ lw_all := lw_g (lw_at lw_m7 137 rfl) rfl
theorem q1686 : (Jvm.Cond.soleField "LuckCratesModel" "newOddsAt") ∈ lw_all := lw_g (lw_at lw_m7 138 rfl) rfl
theorem q1687 : (Jvm.Cond.lays "LuckCratesModel" "LuckCratesModel" "top" "I") ∈ lw_all := lw_g (lw_at lw_m7 139 rfl) rfl
theorem q1688 : (Jvm.Cond.soleField "LuckCratesModel" "top") ∈ lw_all := lw_g (lw_at lw_m7 140 rfl) rfl
theorem q1689 : (Jvm.Cond.lays "LuckCratesModel" "LuckCratesModel" "waiting" "I") ∈ lw_all := lw_g (lw_at lw_m7 141 rfl) rfl
theorem q1690 : (Jvm.Cond.soleField "LuckCratesModel" "waiting") ∈ lw_all := lw_g (lw_at lw_m7 142 rfl) rfl
theorem q1691 : (Jvm.Cond.lays "LuckCratesModel" "LuckCratesModel" "depth" "I") ∈ lw_all := lw_g (lw_at lw_m7 143 rfl) rfl
theorem q1692 : (Jvm.Cond.soleField "LuckCratesModel" "depth") ∈ lw_all := lw_g (lw_at lw_m7 144 rfl) rfl
theorem q1693 : (Jvm.Cond.laysFinal "LuckCratesModel" "LuckCratesModel" "newMakes" "[I") ∈ lw_all := lw_g (lw_at lw_m7 145 rfl) rfl
theorem q1694 : (Jvm.Cond.soleField "LuckCratesModel" "newMakes") ∈ lw_all := lw_g (lw_at lw_m7 146 rfl) rfl
theorem q1695 : (Jvm.Cond.laysFinal "LuckCratesModel" "LuckCratesModel" "newStake" "[I") ∈ lw_all := lw_g (lw_at lw_m7 147 rfl) rfl
theorem q1696 : (Jvm.Cond.soleField "LuckCratesModel" "newStake") ∈ lw_all := lw_g (lw_at lw_m7 148 rfl) rfl
theorem q1697 : (Jvm.Cond.laysFinal "LuckCratesModel" "LuckCratesModel" "newWayA" "[I") ∈ lw_all := lw_g (lw_at lw_m7 149 rfl) rfl
theorem q1698 : (Jvm.Cond.soleField "LuckCratesModel" "newWayA") ∈ lw_all := lw_g (lw_at lw_m7 150 rfl) rfl
theorem q1699 : (Jvm.Cond.laysFinal "LuckCratesModel" "LuckCratesModel" "newWayB" "[I") ∈ lw_all := lw_g (lw_at lw_m7 151 rfl) rfl
theorem q1700 : (Jvm.Cond.soleField "LuckCratesModel" "newWayB") ∈ lw_all := lw_g (lw_at lw_m7 152 rfl) rfl
theorem q1701 : (Jvm.Cond.laysFinal "LuckCratesModel" "LuckCratesModel" "newWayDays" "[I") ∈ lw_all := lw_g (lw_at lw_m7 153 rfl) rfl
theorem q1702 : (Jvm.Cond.soleField "LuckCratesModel" "newWayDays") ∈ lw_all := lw_g (lw_at lw_m7 154 rfl) rfl
theorem q1703 : (Jvm.Cond.laysFinal "LuckCratesModel" "LuckCratesModel" "newWayLeak" "[I") ∈ lw_all := lw_g (lw_at lw_m7 155 rfl) rfl
theorem q1704 : (Jvm.Cond.soleField "LuckCratesModel" "newWayLeak") ∈ lw_all := lw_g (lw_at lw_m7 156 rfl) rfl
theorem q1705 : (Jvm.Cond.laysFinal "LuckCratesModel" "LuckCratesModel" "newRow" "[I") ∈ lw_all := lw_g (lw_at lw_m7 157 rfl) rfl
theorem q1706 : (Jvm.Cond.soleField "LuckCratesModel" "newRow") ∈ lw_all := lw_g (lw_at lw_m7 158 rfl) rfl
theorem q1707 : (Jvm.Cond.laysFinal "LuckCratesModel" "LuckCratesModel" "readCode" "[I") ∈ lw_all := lw_g (lw_at lw_m7 159 rfl) rfl
theorem q1708 : (Jvm.Cond.soleField "LuckCratesModel" "readCode") ∈ lw_all := lw_g (lw_at lw_m7 160 rfl) rfl
theorem q1709 : (Jvm.Cond.laysFinal "LuckCratesModel" "LuckCratesModel" "waits" "[I") ∈ lw_all := lw_g (lw_at lw_m7 161 rfl) rfl
theorem q1710 : (Jvm.Cond.soleField "LuckCratesModel" "waits") ∈ lw_all := lw_g (lw_at lw_m7 162 rfl) rfl
theorem q1711 : (Jvm.Cond.laysFinal "LuckCratesModel" "LuckCratesModel" "tested" "[Z") ∈ lw_all := lw_g (lw_at lw_m7 163 rfl) rfl
theorem q1712 : (Jvm.Cond.soleField "LuckCratesModel" "tested") ∈ lw_all := lw_g (lw_at lw_m7 164 rfl) rfl
theorem q1713 : (Jvm.Cond.laysFinal "LuckCratesModel" "LuckCratesModel" "rows" "[I") ∈ lw_all := lw_g (lw_at lw_m7 165 rfl) rfl
theorem q1714 : (Jvm.Cond.soleField "LuckCratesModel" "rows") ∈ lw_all := lw_g (lw_at lw_m7 166 rfl) rfl
theorem q1715 : (Jvm.Cond.laysFinal "LuckCratesModel" "LuckCratesModel" "ahead" "[I") ∈ lw_all := lw_g (lw_at lw_m7 167 rfl) rfl
theorem q1716 : (Jvm.Cond.soleField "LuckCratesModel" "ahead") ∈ lw_all := lw_g (lw_at lw_m7 168 rfl) rfl
theorem q1717 : (Jvm.Cond.lays "LuckCratesModel" "LuckCratesModel" "acts" "I") ∈ lw_all := lw_g (lw_at lw_m7 169 rfl) rfl
theorem q1718 : (Jvm.Cond.soleField "LuckCratesModel" "acts") ∈ lw_all := lw_g (lw_at lw_m7 170 rfl) rfl
theorem q1719 : (Jvm.Cond.laysFinal "LuckCratesModel" "LuckCratesModel" "told" "[I") ∈ lw_all := lw_g (lw_at lw_m7 171 rfl) rfl
theorem q1720 : (Jvm.Cond.soleField "LuckCratesModel" "told") ∈ lw_all := lw_g (lw_at lw_m7 172 rfl) rfl
theorem q1721 : (Jvm.Cond.laysFinal "LuckCratesModel" "LuckCratesModel" "pile" "[I") ∈ lw_all := lw_g (lw_at lw_m7 173 rfl) rfl
theorem q1722 : (Jvm.Cond.soleField "LuckCratesModel" "pile") ∈ lw_all := lw_g (lw_at lw_m7 174 rfl) rfl
theorem q1723 : (Jvm.Cond.lays "LuckCratesModel" "LuckCratesModel" "winners" "I") ∈ lw_all := lw_g (lw_at lw_m7 175 rfl) rfl
theorem q1724 : (Jvm.Cond.soleField "LuckCratesModel" "winners") ∈ lw_all := lw_g (lw_at lw_m7 176 rfl) rfl
theorem q1725 : (Jvm.Cond.laysFinal "LuckCratesModel" "LuckCratesModel" "farOf" "[I") ∈ lw_all := lw_g (lw_at lw_m7 177 rfl) rfl
theorem q1726 : (Jvm.Cond.soleField "LuckCratesModel" "farOf") ∈ lw_all := lw_g (lw_at lw_m7 178 rfl) rfl
theorem q1727 : (Jvm.Cond.laysFinal "LuckCratesModel" "LuckCratesModel" "leakOf" "[I") ∈ lw_all := lw_g (lw_at lw_m7 179 rfl) rfl
theorem q1728 : (Jvm.Cond.soleField "LuckCratesModel" "leakOf") ∈ lw_all := lw_g (lw_at lw_m7 180 rfl) rfl
theorem q1729 : (Jvm.Cond.laysFinal "LuckCratesModel" "LuckCratesModel" "harm" "[I") ∈ lw_all := lw_g (lw_at lw_m7 181 rfl) rfl
theorem q1730 : (Jvm.Cond.soleField "LuckCratesModel" "harm") ∈ lw_all := lw_g (lw_at lw_m7 182 rfl) rfl
theorem q1731 : (Jvm.Cond.laysFinal "LuckCratesModel" "LuckCratesModel" "likely" "[I") ∈ lw_all := lw_g (lw_at lw_m7 183 rfl) rfl
theorem q1732 : (Jvm.Cond.soleField "LuckCratesModel" "likely") ∈ lw_all := lw_g (lw_at lw_m7 184 rfl) rfl
theorem q1733 : (Jvm.Cond.lays "LuckCratesModel" "LuckCratesModel" "seenMany" "I") ∈ lw_all := lw_g (lw_at lw_m7 185 rfl) rfl
theorem q1734 : (Jvm.Cond.soleField "LuckCratesModel" "seenMany") ∈ lw_all := lw_g (lw_at lw_m7 186 rfl) rfl
theorem q1735 : (Jvm.Cond.laysFinal "LuckCratesModel" "LuckCratesModel" "seen" "[I") ∈ lw_all := lw_g (lw_at lw_m7 187 rfl) rfl
theorem q1736 : (Jvm.Cond.soleField "LuckCratesModel" "seen") ∈ lw_all := lw_g (lw_at lw_m7 188 rfl) rfl
theorem q1737 : (Jvm.Cond.laysFinal "LuckCratesModel" "LuckCratesModel" "lucks" "[I") ∈ lw_all := lw_g (lw_at lw_m7 189 rfl) rfl
theorem q1738 : (Jvm.Cond.soleField "LuckCratesModel" "lucks") ∈ lw_all := lw_g (lw_at lw_m7 190 rfl) rfl
theorem q1739 : (Jvm.Cond.laysFinal "LuckCratesModel" "LuckCratesModel" "lucksAll" "[I") ∈ lw_all := lw_g (lw_at lw_m7 191 rfl) rfl
theorem q1740 : (Jvm.Cond.soleField "LuckCratesModel" "lucksAll") ∈ lw_all := lw_g (lw_at lw_m7 192 rfl) rfl
theorem q1741 : (Jvm.Cond.lays "LuckCratesModel" "LuckCratesModel" "its" "I") ∈ lw_all := lw_g (lw_at lw_m7 193 rfl) rfl
theorem q1742 : (Jvm.Cond.soleField "LuckCratesModel" "its") ∈ lw_all := lw_g (lw_at lw_m7 194 rfl) rfl
theorem q1743 : (Jvm.Cond.lays "LuckCratesModel" "LuckCratesModel" "hasImage" "Z") ∈ lw_all := lw_g (lw_at lw_m7 195 rfl) rfl
theorem q1744 : (Jvm.Cond.soleField "LuckCratesModel" "hasImage") ∈ lw_all := lw_g (lw_at lw_m7 196 rfl) rfl
theorem q1745 : (Jvm.Cond.lays "LuckCratesModel" "LuckCratesModel" "imageActs" "I") ∈ lw_all := lw_g (lw_at lw_m7 197 rfl) rfl
theorem q1746 : (Jvm.Cond.soleField "LuckCratesModel" "imageActs") ∈ lw_all := lw_g (lw_at lw_m7 198 rfl) rfl
theorem q1747 : (Jvm.Cond.lays "LuckCratesModel" "LuckCratesModel" "imageSeen" "I") ∈ lw_all := lw_g (lw_at lw_m7 199 rfl) rfl
theorem q1748 : (Jvm.Cond.soleField "LuckCratesModel" "imageSeen") ∈ lw_all := lw_g (lw_at lw_m7 200 rfl) rfl
theorem q1749 : (Jvm.Cond.laysFinal "LuckCratesModel" "LuckCratesModel" "imageRow" "[I") ∈ lw_all := lw_g (lw_at lw_m7 201 rfl) rfl
theorem q1750 : (Jvm.Cond.soleField "LuckCratesModel" "imageRow") ∈ lw_all := lw_g (lw_at lw_m7 202 rfl) rfl
theorem q1751 : (Jvm.Cond.laysFinal "LuckCratesModel" "LuckCratesModel" "imageAhead" "[I") ∈ lw_all := lw_g (lw_at lw_m7 203 rfl) rfl
theorem q1752 : (Jvm.Cond.soleField "LuckCratesModel" "imageAhead") ∈ lw_all := lw_g (lw_at lw_m7 204 rfl) rfl
theorem q1753 : (Jvm.Cond.laysFinal "LuckCratesModel" "LuckCratesModel" "imageSees" "[I") ∈ lw_all := lw_g (lw_at lw_m7 205 rfl) rfl
theorem q1754 : (Jvm.Cond.soleField "LuckCratesModel" "imageSees") ∈ lw_all := lw_g (lw_at lw_m7 206 rfl) rfl
theorem q1755 : (Jvm.Cond.superclass "LuckCratesModel" "java/lang/Object") ∈ lw_all := lw_g (lw_at lw_m7 207 rfl) rfl
theorem q1758 : (Jvm.Cond.instanceMethod ({ cls := "LuckCratesModel", name := "thrown", desc := "()I" } : Jvm.MethodName)) ∈ lw_all := lw_g (lw_at lw_m7 210 rfl) rfl
theorem q1759 : (Jvm.Cond.selects "LuckCratesModel" ({ cls := "LuckCratesModel", name := "thrown", desc := "()I" } : Jvm.MethodName) ({ cls := "LuckCratesModel", name := "thrown", desc := "()I" } : Jvm.MethodName)) ∈ lw_all := lw_g (lw_at lw_m7 211 rfl) rfl
theorem q1760 : (Jvm.Cond.code ({ cls := "LuckCratesModel", name := "thrown", desc := "()I" } : Jvm.MethodName) prog_13_method_2_code (1 : Nat) (Option.some Jvm.ClassFile.FieldType.int)) ∈ lw_all := lw_g (lw_at lw_m7 212 rfl) rfl
theorem q1762 : (Jvm.Cond.instanceMethod ({ cls := "LuckCratesModel", name := "feed", desc := "(IIIII)I" } : Jvm.MethodName)) ∈ lw_all := lw_g (lw_at lw_m7 214 rfl) rfl
theorem q1763 : (Jvm.Cond.selects "LuckCratesModel" ({ cls := "LuckCratesModel", name := "feed", desc := "(IIIII)I" } : Jvm.MethodName) ({ cls := "LuckCratesModel", name := "feed", desc := "(IIIII)I" } : Jvm.MethodName)) ∈ lw_all := lw_g (lw_at lw_m7 215 rfl) rfl
theorem q1764 : (Jvm.Cond.code ({ cls := "LuckCratesModel", name := "feed", desc := "(IIIII)I" } : Jvm.MethodName) prog_13_method_9_code (6 : Nat) (Option.some Jvm.ClassFile.FieldType.int)) ∈ lw_all := lw_g (lw_at lw_m7 216 rfl) rfl
theorem q1765 : (Jvm.Cond.methodLink "LuckCratesModel" (123 : Nat) ({ cls := "LuckCratesModel", name := "lays", desc := "(I)V" } : Jvm.MethodName)) ∈ lw_all := lw_g (lw_at lw_m7 217 rfl) rfl
theorem q1766 : (Jvm.Cond.privateMethod ({ cls := "LuckCratesModel", name := "lays", desc := "(I)V" } : Jvm.MethodName)) ∈ lw_tbl := lw_at lw_m7 218 rfl
theorem q1767 : (Jvm.Cond.instanceMethod ({ cls := "LuckCratesModel", name := "lays", desc := "(I)V" } : Jvm.MethodName)) ∈ lw_all := lw_g (lw_at lw_m7 219 rfl) rfl
theorem q1768 : (Jvm.Cond.code ({ cls := "LuckCratesModel", name := "lays", desc := "(I)V" } : Jvm.MethodName) prog_13_method_10_code (3 : Nat) (Option.none : Option Jvm.ClassFile.FieldType)) ∈ lw_all := lw_g (lw_at lw_m7 220 rfl) rfl
theorem q1770 : (Jvm.Cond.instanceMethod ({ cls := "LuckCratesModel", name := "province", desc := "(I)I" } : Jvm.MethodName)) ∈ lw_all := lw_g (lw_at lw_m7 222 rfl) rfl
theorem q1771 : (Jvm.Cond.selects "LuckCratesModel" ({ cls := "LuckCratesModel", name := "province", desc := "(I)I" } : Jvm.MethodName) ({ cls := "LuckCratesModel", name := "province", desc := "(I)I" } : Jvm.MethodName)) ∈ lw_all := lw_g (lw_at lw_m7 223 rfl) rfl
theorem q1772 : (Jvm.Cond.code ({ cls := "LuckCratesModel", name := "province", desc := "(I)I" } : Jvm.MethodName) prog_13_method_41_code (3 : Nat) (Option.some Jvm.ClassFile.FieldType.int)) ∈ lw_all := lw_g (lw_at lw_m7 224 rfl) rfl
theorem q1773 : (Jvm.Cond.methodLink "LuckCratesModel" (274 : Nat) ({ cls := "LuckCratesModel", name := "right", desc := "(ZI)Z" } : Jvm.MethodName)) ∈ lw_all := lw_g (lw_at lw_m7 225 rfl) rfl
theorem q1774 : (Jvm.Cond.privateMethod ({ cls := "LuckCratesModel", name := "right", desc := "(ZI)Z" } : Jvm.MethodName)) ∈ lw_tbl := lw_at lw_m7 226 rfl
theorem q1775 : (Jvm.Cond.instanceMethod ({ cls := "LuckCratesModel", name := "right", desc := "(ZI)Z" } : Jvm.MethodName)) ∈ lw_all := lw_g (lw_at lw_m7 227 rfl) rfl
theorem q1776 : (Jvm.Cond.code ({ cls := "LuckCratesModel", name := "right", desc := "(ZI)Z" } : Jvm.MethodName) prog_13_method_3_code (3 : Nat) (Option.some Jvm.ClassFile.FieldType.boolean)) ∈ lw_all := lw_g (lw_at lw_m7 228 rfl) rfl
theorem q1777 : (Jvm.Cond.methodLink "LuckCratesModel" (180 : Nat) ({ cls := "LuckCratesModel", name := "goes", desc := "()V" } : Jvm.MethodName)) ∈ lw_all := lw_g (lw_at lw_m7 229 rfl) rfl
theorem q1778 : (Jvm.Cond.privateMethod ({ cls := "LuckCratesModel", name := "goes", desc := "()V" } : Jvm.MethodName)) ∈ lw_tbl := lw_at lw_m7 230 rfl
theorem q1779 : (Jvm.Cond.instanceMethod ({ cls := "LuckCratesModel", name := "goes", desc := "()V" } : Jvm.MethodName)) ∈ lw_all := lw_g (lw_at lw_m7 231 rfl) rfl
theorem q1780 : (Jvm.Cond.code ({ cls := "LuckCratesModel", name := "goes", desc := "()V" } : Jvm.MethodName) prog_13_method_14_code (2 : Nat) (Option.none : Option Jvm.ClassFile.FieldType)) ∈ lw_all := lw_g (lw_at lw_m7 232 rfl) rfl
theorem q1781 : (Jvm.Cond.methodLink "LuckCratesModel" (133 : Nat) ({ cls := "LuckCratesModel", name := "byteAt", desc := "(I)I" } : Jvm.MethodName)) ∈ lw_all := lw_g (lw_at lw_m7 233 rfl) rfl
theorem q1782 : (Jvm.Cond.privateMethod ({ cls := "LuckCratesModel", name := "byteAt", desc := "(I)I" } : Jvm.MethodName)) ∈ lw_tbl := lw_at lw_m7 234 rfl
theorem q1783 : (Jvm.Cond.instanceMethod ({ cls := "LuckCratesModel", name := "byteAt", desc := "(I)I" } : Jvm.MethodName)) ∈ lw_all := lw_g (lw_at lw_m7 235 rfl) rfl
theorem q1784 : (Jvm.Cond.code ({ cls := "LuckCratesModel", name := "byteAt", desc := "(I)I" } : Jvm.MethodName) prog_13_method_11_code (2 : Nat) (Option.some Jvm.ClassFile.FieldType.int)) ∈ lw_all := lw_g (lw_at lw_m7 236 rfl) rfl
theorem q1785 : (Jvm.Cond.methodLink "LuckCratesModel" (153 : Nat) ({ cls := "LuckCratesModel", name := "isLetter", desc := "(I)Z" } : Jvm.MethodName)) ∈ lw_all := lw_g (lw_at lw_m7 237 rfl) rfl
theorem q1786 : (Jvm.Cond.static ({ cls := "LuckCratesModel", name := "isLetter", desc := "(I)Z" } : Jvm.MethodName)) ∈ lw_all := lw_g (lw_at lw_m7 238 rfl) rfl
theorem q1787 : (Jvm.Cond.code ({ cls := "LuckCratesModel", name := "isLetter", desc := "(I)Z" } : Jvm.MethodName) prog_13_method_12_code (1 : Nat) (Option.some Jvm.ClassFile.FieldType.boolean)) ∈ lw_all := lw_g (lw_at lw_m7 239 rfl) rfl
theorem q1788 : (Jvm.Cond.methodLink "LuckCratesModel" (157 : Nat) ({ cls := "LuckCratesModel", name := "isDigit", desc := "(I)Z" } : Jvm.MethodName)) ∈ lw_all := lw_g (lw_at lw_m8 0 rfl) rfl
theorem q1789 : (Jvm.Cond.static ({ cls := "LuckCratesModel", name := "isDigit", desc := "(I)Z" } : Jvm.MethodName)) ∈ lw_all := lw_g (lw_at lw_m8 1 rfl) rfl
theorem q1790 : (Jvm.Cond.code ({ cls := "LuckCratesModel", name := "isDigit", desc := "(I)Z" } : Jvm.MethodName) prog_13_method_13_code (1 : Nat) (Option.some Jvm.ClassFile.FieldType.boolean)) ∈ lw_all := lw_g (lw_at lw_m8 2 rfl) rfl
theorem q1791 : (Jvm.Cond.methodLink "LuckCratesModel" (176 : Nat) ({ cls := "LuckCratesModel", name := "isGood", desc := "()Z" } : Jvm.MethodName)) ∈ lw_all := lw_g (lw_at lw_m8 3 rfl) rfl
theorem q1792 : (Jvm.Cond.privateMethod ({ cls := "LuckCratesModel", name := "isGood", desc := "()Z" } : Jvm.MethodName)) ∈ lw_tbl := lw_at lw_m8 4 rfl
theorem q1793 : (Jvm.Cond.instanceMethod ({ cls := "LuckCratesModel", name := "isGood", desc := "()Z" } : Jvm.MethodName)) ∈ lw_all := lw_g (lw_at lw_m8 5 rfl) rfl
theorem q1794 : (Jvm.Cond.code ({ cls := "LuckCratesModel", name := "isGood", desc := "()Z" } : Jvm.MethodName) prog_13_method_19_code (1 : Nat) (Option.some Jvm.ClassFile.FieldType.boolean)) ∈ lw_all := lw_g (lw_at lw_m8 6 rfl) rfl
theorem q1795 : (Jvm.Cond.methodLink "LuckCratesModel" (278 : Nat) ({ cls := "LuckCratesModel", name := "line", desc := "()V" } : Jvm.MethodName)) ∈ lw_all := lw_g (lw_at lw_m8 7 rfl) rfl
theorem q1796 : (Jvm.Cond.privateMethod ({ cls := "LuckCratesModel", name := "line", desc := "()V" } : Jvm.MethodName)) ∈ lw_tbl := lw_at lw_m8 8 rfl
theorem q1797 : (Jvm.Cond.instanceMethod ({ cls := "LuckCratesModel", name := "line", desc := "()V" } : Jvm.MethodName)) ∈ lw_all := lw_g (lw_at lw_m8 9 rfl) rfl
theorem q1798 : (Jvm.Cond.code ({ cls := "LuckCratesModel", name := "line", desc := "()V" } : Jvm.MethodName) prog_13_method_40_code (2 : Nat) (Option.none : Option Jvm.ClassFile.FieldType)) ∈ lw_all := lw_g (lw_at lw_m8 10 rfl) rfl
theorem q1799 : (Jvm.Cond.methodLink "LuckCratesModel" (204 : Nat) ({ cls := "LuckCratesModel", name := "knownWord", desc := "()I" } : Jvm.MethodName)) ∈ lw_all := lw_g (lw_at lw_m8 11 rfl) rfl
theorem q1800 : (Jvm.Cond.privateMethod ({ cls := "LuckCratesModel", name := "knownWord", desc := "()I" } : Jvm.MethodName)) ∈ lw_tbl := lw_at lw_m8 12 rfl
theorem q1801 : (Jvm.Cond.instanceMethod ({ cls := "LuckCratesModel", name := "knownWord", desc := "()I" } : Jvm.MethodName)) ∈ lw_all := lw_g (lw_at lw_m8 13 rfl) rfl
theorem q1802 : (Jvm.Cond.code ({ cls := "LuckCratesModel", name := "knownWord", desc := "()I" } : Jvm.MethodName) prog_13_method_17_code (2 : Nat) (Option.some Jvm.ClassFile.FieldType.int)) ∈ lw_all := lw_g (lw_at lw_m8 14 rfl) rfl
theorem q1803 : (Jvm.Cond.methodLink "LuckCratesModel" (169 : Nat) ({ cls := "LuckCratesModel", name := "letters", desc := "(I)J" } : Jvm.MethodName)) ∈ lw_all := lw_g (lw_at lw_m8 15 rfl) rfl
theorem q1804 : (Jvm.Cond.static ({ cls := "LuckCratesModel", name := "letters", desc := "(I)J" } : Jvm.MethodName)) ∈ lw_all := lw_g (lw_at lw_m8 16 rfl) rfl
theorem q1805 : (Jvm.Cond.code ({ cls := "LuckCratesModel", name := "letters", desc := "(I)J" } : Jvm.MethodName) prog_13_method_16_code (1 : Nat) (Option.some Jvm.ClassFile.FieldType.long)) ∈ lw_all := lw_g (lw_at lw_m8 17 rfl) rfl
theorem q1806 : (Jvm.Cond.methodLink "LuckCratesModel" (165 : Nat) ({ cls := "LuckCratesModel", name := "spelled", desc := "(IIIIIII)J" } : Jvm.MethodName)) ∈ lw_all := lw_g (lw_at lw_m8 18 rfl) rfl
theorem q1807 : (Jvm.Cond.static ({ cls := "LuckCratesModel", name := "spelled", desc := "(IIIIIII)J" } : Jvm.MethodName)) ∈ lw_all := lw_g (lw_at lw_m8 19 rfl) rfl
theorem q1808 : (Jvm.Cond.code ({ cls := "LuckCratesModel", name := "spelled", desc := "(IIIIIII)J" } : Jvm.MethodName) prog_13_method_15_code (9 : Nat) (Option.some Jvm.ClassFile.FieldType.long)) ∈ lw_all := lw_g (lw_at lw_m8 20 rfl) rfl
theorem q1809 : (Jvm.Cond.constantLong "LuckCratesModel" (163 : Nat) (96 : Int64)) ∈ lw_all := lw_g (lw_at lw_m8 21 rfl) rfl
theorem q1810 : (Jvm.Cond.methodLink "LuckCratesModel" (256 : Nat) ({ cls := "LuckCratesModel", name := "readsTown", desc := "()V" } : Jvm.MethodName)) ∈ lw_all := lw_g (lw_at lw_m8 22 rfl) rfl
theorem q1811 : (Jvm.Cond.privateMethod ({ cls := "LuckCratesModel", name := "readsTown", desc := "()V" } : Jvm.MethodName)) ∈ lw_tbl := lw_at lw_m8 23 rfl
theorem q1812 : (Jvm.Cond.instanceMethod ({ cls := "LuckCratesModel", name := "readsTown", desc := "()V" } : Jvm.MethodName)) ∈ lw_all := lw_g (lw_at lw_m8 24 rfl) rfl
theorem q1813 : (Jvm.Cond.code ({ cls := "LuckCratesModel", name := "readsTown", desc := "()V" } : Jvm.MethodName) prog_13_method_36_code (2 : Nat) (Option.none : Option Jvm.ClassFile.FieldType)) ∈ lw_all := lw_g (lw_at lw_m8 25 rfl) rfl
theorem q1814 : (Jvm.Cond.methodLink "LuckCratesModel" (183 : Nat) ({ cls := "LuckCratesModel", name := "wrong", desc := "(I)V" } : Jvm.MethodName)) ∈ lw_all := lw_g (lw_at lw_m8 26 rfl) rfl
theorem q1815 : (Jvm.Cond.privateMethod ({ cls := "LuckCratesModel", name := "wrong", desc := "(I)V" } : Jvm.MethodName)) ∈ lw_tbl := lw_at lw_m8 27 rfl
theorem q1816 : (Jvm.Cond.instanceMethod ({ cls := "LuckCratesModel", name := "wrong", desc := "(I)V" } : Jvm.MethodName)) ∈ lw_all := lw_g (lw_at lw_m8 28 rfl) rfl
theorem q1817 : (Jvm.Cond.code ({ cls := "LuckCratesModel", name := "wrong", desc := "(I)V" } : Jvm.MethodName) prog_13_method_18_code (2 : Nat) (Option.none : Option Jvm.ClassFile.FieldType)) ∈ lw_all := lw_g (lw_at lw_m8 29 rfl) rfl
theorem q1818 : (Jvm.Cond.methodLink "LuckCratesModel" (239 : Nat) ({ cls := "LuckCratesModel", name := "number", desc := "(II)I" } : Jvm.MethodName)) ∈ lw_all := lw_g (lw_at lw_m8 30 rfl) rfl
theorem q1819 : (Jvm.Cond.privateMethod ({ cls := "LuckCratesModel", name := "number", desc := "(II)I" } : Jvm.MethodName)) ∈ lw_tbl := lw_at lw_m8 31 rfl
theorem q1820 : (Jvm.Cond.instanceMethod ({ cls := "LuckCratesModel", name := "number", desc := "(II)I" } : Jvm.MethodName)) ∈ lw_all := lw_g (lw_at lw_m8 32 rfl) rfl
theorem q1821 : (Jvm.Cond.code ({ cls := "LuckCratesModel", name := "number", desc := "(II)I" } : Jvm.MethodName) prog_13_method_22_code (4 : Nat) (Option.some Jvm.ClassFile.FieldType.int)) ∈ lw_all := lw_g (lw_at lw_m8 33 rfl) rfl
theorem q1822 : (Jvm.Cond.methodLink "LuckCratesModel" (259 : Nat) ({ cls := "LuckCratesModel", name := "readsWay", desc := "()V" } : Jvm.MethodName)) ∈ lw_all := lw_g (lw_at lw_m8 34 rfl) rfl
theorem q1823 : (Jvm.Cond.privateMethod ({ cls := "LuckCratesModel", name := "readsWay", desc := "()V" } : Jvm.MethodName)) ∈ lw_tbl := lw_at lw_m8 35 rfl
theorem q1824 : (Jvm.Cond.instanceMethod ({ cls := "LuckCratesModel", name := "readsWay", desc := "()V" } : Jvm.MethodName)) ∈ lw_all := lw_g (lw_at lw_m8 36 rfl) rfl
theorem q1825 : (Jvm.Cond.code ({ cls := "LuckCratesModel", name := "readsWay", desc := "()V" } : Jvm.MethodName) prog_13_method_38_code (2 : Nat) (Option.none : Option Jvm.ClassFile.FieldType)) ∈ lw_all := lw_g (lw_at lw_m8 37 rfl) rfl
theorem q1826 : (Jvm.Cond.methodLink "LuckCratesModel" (246 : Nat) ({ cls := "LuckCratesModel", name := "among", desc := "(I)I" } : Jvm.MethodName)) ∈ lw_all := lw_g (lw_at lw_m8 38 rfl) rfl
theorem q1827 : (Jvm.Cond.privateMethod ({ cls := "LuckCratesModel", name := "among", desc := "(I)I" } : Jvm.MethodName)) ∈ lw_tbl := lw_at lw_m8 39 rfl
theorem q1828 : (Jvm.Cond.instanceMethod ({ cls := "LuckCratesModel", name := "among", desc := "(I)I" } : Jvm.MethodName)) ∈ lw_all := lw_g (lw_at lw_m8 40 rfl) rfl
theorem q1829 : (Jvm.Cond.code ({ cls := "LuckCratesModel", name := "among", desc := "(I)I" } : Jvm.MethodName) prog_13_method_24_code (3 : Nat) (Option.some Jvm.ClassFile.FieldType.int)) ∈ lw_all := lw_g (lw_at lw_m8 41 rfl) rfl
theorem q1830 : (Jvm.Cond.methodLink "LuckCratesModel" (186 : Nat) ({ cls := "LuckCratesModel", name := "amongHere", desc := "(I)Z" } : Jvm.MethodName)) ∈ lw_all := lw_g (lw_at lw_m8 42 rfl) rfl
theorem q1831 : (Jvm.Cond.privateMethod ({ cls := "LuckCratesModel", name := "amongHere", desc := "(I)Z" } : Jvm.MethodName)) ∈ lw_tbl := lw_at lw_m8 43 rfl
theorem q1832 : (Jvm.Cond.instanceMethod ({ cls := "LuckCratesModel", name := "amongHere", desc := "(I)Z" } : Jvm.MethodName)) ∈ lw_all := lw_g (lw_at lw_m8 44 rfl) rfl
theorem q1833 : (Jvm.Cond.code ({ cls := "LuckCratesModel", name := "amongHere", desc := "(I)Z" } : Jvm.MethodName) prog_13_method_23_code (2 : Nat) (Option.some Jvm.ClassFile.FieldType.boolean)) ∈ lw_all := lw_g (lw_at lw_m8 45 rfl) rfl
theorem q1834 : (Jvm.Cond.methodLink "LuckCratesModel" (249 : Nat) ({ cls := "LuckCratesModel", name := "hasWay", desc := "(II)Z" } : Jvm.MethodName)) ∈ lw_all := lw_g (lw_at lw_m8 46 rfl) rfl
theorem q1835 : (Jvm.Cond.privateMethod ({ cls := "LuckCratesModel", name := "hasWay", desc := "(II)Z" } : Jvm.MethodName)) ∈ lw_tbl := lw_at lw_m8 47 rfl
theorem q1836 : (Jvm.Cond.instanceMethod ({ cls := "LuckCratesModel", name := "hasWay", desc := "(II)Z" } : Jvm.MethodName)) ∈ lw_all := lw_g (lw_at lw_m8 48 rfl) rfl
theorem q1837 : (Jvm.Cond.code ({ cls := "LuckCratesModel", name := "hasWay", desc := "(II)Z" } : Jvm.MethodName) prog_13_method_37_code (4 : Nat) (Option.some Jvm.ClassFile.FieldType.boolean)) ∈ lw_all := lw_g (lw_at lw_m8 49 rfl) rfl
theorem q1838 : (Jvm.Cond.methodLink "LuckCratesModel" (262 : Nat) ({ cls := "LuckCratesModel", name := "readsCrate", desc := "(I)V" } : Jvm.MethodName)) ∈ lw_all := lw_g (lw_at lw_m8 50 rfl) rfl
theorem q1839 : (Jvm.Cond.privateMethod ({ cls := "LuckCratesModel", name := "readsCrate", desc := "(I)V" } : Jvm.MethodName)) ∈ lw_tbl := lw_at lw_m8 51 rfl
theorem q1840 : (Jvm.Cond.instanceMethod ({ cls := "LuckCratesModel", name := "readsCrate", desc := "(I)V" } : Jvm.MethodName)) ∈ lw_all := lw_g (lw_at lw_m8 52 rfl) rfl
theorem q1841 : (Jvm.Cond.code ({ cls := "LuckCratesModel", name := "readsCrate", desc := "(I)V" } : Jvm.MethodName) prog_13_method_39_code (3 : Nat) (Option.none : Option Jvm.ClassFile.FieldType)) ∈ lw_all := lw_g (lw_at lw_m8 53 rfl) rfl
theorem q1842 : (Jvm.Cond.methodLink "LuckCratesModel" (268 : Nat) ({ cls := "LuckCratesModel", name := "expression", desc := "()V" } : Jvm.MethodName)) ∈ lw_all := lw_g (lw_at lw_m8 54 rfl) rfl
theorem q1843 : (Jvm.Cond.privateMethod ({ cls := "LuckCratesModel", name := "expression", desc := "()V" } : Jvm.MethodName)) ∈ lw_tbl := lw_at lw_m8 55 rfl
theorem q1844 : (Jvm.Cond.instanceMethod ({ cls := "LuckCratesModel", name := "expression", desc := "()V" } : Jvm.MethodName)) ∈ lw_all := lw_g (lw_at lw_m8 56 rfl) rfl
theorem q1845 : (Jvm.Cond.code ({ cls := "LuckCratesModel", name := "expression", desc := "()V" } : Jvm.MethodName) prog_13_method_35_code (3 : Nat) (Option.none : Option Jvm.ClassFile.FieldType)) ∈ lw_all := lw_g (lw_at lw_m8 57 rfl) rfl
theorem q1846 : (Jvm.Cond.methodLink "LuckCratesModel" (217 : Nat) ({ cls := "LuckCratesModel", name := "deeper", desc := "()V" } : Jvm.MethodName)) ∈ lw_all := lw_g (lw_at lw_m8 58 rfl) rfl
theorem q1847 : (Jvm.Cond.privateMethod ({ cls := "LuckCratesModel", name := "deeper", desc := "()V" } : Jvm.MethodName)) ∈ lw_tbl := lw_at lw_m8 59 rfl
theorem q1848 : (Jvm.Cond.instanceMethod ({ cls := "LuckCratesModel", name := "deeper", desc := "()V" } : Jvm.MethodName)) ∈ lw_all := lw_g (lw_at lw_m8 60 rfl) rfl
theorem q1849 : (Jvm.Cond.code ({ cls := "LuckCratesModel", name := "deeper", desc := "()V" } : Jvm.MethodName) prog_13_method_31_code (1 : Nat) (Option.none : Option Jvm.ClassFile.FieldType)) ∈ lw_all := lw_g (lw_at lw_m8 61 rfl) rfl
theorem q1850 : (Jvm.Cond.methodLink "LuckCratesModel" (211 : Nat) ({ cls := "LuckCratesModel", name := "isSign", desc := "(I)Z" } : Jvm.MethodName)) ∈ lw_all := lw_g (lw_at lw_m8 62 rfl) rfl
theorem q1851 : (Jvm.Cond.privateMethod ({ cls := "LuckCratesModel", name := "isSign", desc := "(I)Z" } : Jvm.MethodName)) ∈ lw_tbl := lw_at lw_m8 63 rfl
theorem q1852 : (Jvm.Cond.instanceMethod ({ cls := "LuckCratesModel", name := "isSign", desc := "(I)Z" } : Jvm.MethodName)) ∈ lw_all := lw_g (lw_at lw_m8 64 rfl) rfl
theorem q1853 : (Jvm.Cond.code ({ cls := "LuckCratesModel", name := "isSign", desc := "(I)Z" } : Jvm.MethodName) prog_13_method_20_code (2 : Nat) (Option.some Jvm.ClassFile.FieldType.boolean)) ∈ lw_all := lw_g (lw_at lw_m8 65 rfl) rfl
theorem q1854 : (Jvm.Cond.methodLink "LuckCratesModel" (226 : Nat) ({ cls := "LuckCratesModel", name := "operand", desc := "(Z)V" } : Jvm.MethodName)) ∈ lw_all := lw_g (lw_at lw_m8 66 rfl) rfl
theorem q1855 : (Jvm.Cond.privateMethod ({ cls := "LuckCratesModel", name := "operand", desc := "(Z)V" } : Jvm.MethodName)) ∈ lw_tbl := lw_at lw_m8 67 rfl
theorem q1856 : (Jvm.Cond.instanceMethod ({ cls := "LuckCratesModel", name := "operand", desc := "(Z)V" } : Jvm.MethodName)) ∈ lw_all := lw_g (lw_at lw_m8 68 rfl) rfl
theorem q1857 : (Jvm.Cond.code ({ cls := "LuckCratesModel", name := "operand", desc := "(Z)V" } : Jvm.MethodName) prog_13_method_32_code (5 : Nat) (Option.none : Option Jvm.ClassFile.FieldType)) ∈ lw_all := lw_g (lw_at lw_m8 69 rfl) rfl
theorem q1858 : (Jvm.Cond.methodLink "LuckCratesModel" (214 : Nat) ({ cls := "LuckCratesModel", name := "waitsFor", desc := "(I)V" } : Jvm.MethodName)) ∈ lw_all := lw_g (lw_at lw_m8 70 rfl) rfl
theorem q1859 : (Jvm.Cond.privateMethod ({ cls := "LuckCratesModel", name := "waitsFor", desc := "(I)V" } : Jvm.MethodName)) ∈ lw_tbl := lw_at lw_m8 71 rfl
theorem q1860 : (Jvm.Cond.instanceMethod ({ cls := "LuckCratesModel", name := "waitsFor", desc := "(I)V" } : Jvm.MethodName)) ∈ lw_all := lw_g (lw_at lw_m8 72 rfl) rfl
theorem q1861 : (Jvm.Cond.code ({ cls := "LuckCratesModel", name := "waitsFor", desc := "(I)V" } : Jvm.MethodName) prog_13_method_29_code (2 : Nat) (Option.none : Option Jvm.ClassFile.FieldType)) ∈ lw_all := lw_g (lw_at lw_m8 73 rfl) rfl
theorem q1862 : (Jvm.Cond.methodLink "LuckCratesModel" (220 : Nat) ({ cls := "LuckCratesModel", name := "part", desc := "()V" } : Jvm.MethodName)) ∈ lw_all := lw_g (lw_at lw_m8 74 rfl) rfl
theorem q1863 : (Jvm.Cond.privateMethod ({ cls := "LuckCratesModel", name := "part", desc := "()V" } : Jvm.MethodName)) ∈ lw_tbl := lw_at lw_m8 75 rfl
theorem q1864 : (Jvm.Cond.instanceMethod ({ cls := "LuckCratesModel", name := "part", desc := "()V" } : Jvm.MethodName)) ∈ lw_all := lw_g (lw_at lw_m8 76 rfl) rfl
theorem q1865 : (Jvm.Cond.code ({ cls := "LuckCratesModel", name := "part", desc := "()V" } : Jvm.MethodName) prog_13_method_30_code (2 : Nat) (Option.none : Option Jvm.ClassFile.FieldType)) ∈ lw_all := lw_g (lw_at lw_m8 77 rfl) rfl
theorem q1866 : (Jvm.Cond.methodLink "LuckCratesModel" (201 : Nat) ({ cls := "LuckCratesModel", name := "puts", desc := "(I)V" } : Jvm.MethodName)) ∈ lw_all := lw_g (lw_at lw_m8 78 rfl) rfl
theorem q1867 : (Jvm.Cond.privateMethod ({ cls := "LuckCratesModel", name := "puts", desc := "(I)V" } : Jvm.MethodName)) ∈ lw_tbl := lw_at lw_m8 79 rfl
theorem q1868 : (Jvm.Cond.instanceMethod ({ cls := "LuckCratesModel", name := "puts", desc := "(I)V" } : Jvm.MethodName)) ∈ lw_all := lw_g (lw_at lw_m8 80 rfl) rfl
theorem q1869 : (Jvm.Cond.code ({ cls := "LuckCratesModel", name := "puts", desc := "(I)V" } : Jvm.MethodName) prog_13_method_25_code (2 : Nat) (Option.none : Option Jvm.ClassFile.FieldType)) ∈ lw_all := lw_g (lw_at lw_m8 81 rfl) rfl
theorem q1870 : (Jvm.Cond.methodLink "LuckCratesModel" (223 : Nat) ({ cls := "LuckCratesModel", name := "drops", desc := "(I)V" } : Jvm.MethodName)) ∈ lw_all := lw_g (lw_at lw_m8 82 rfl) rfl
theorem q1871 : (Jvm.Cond.privateMethod ({ cls := "LuckCratesModel", name := "drops", desc := "(I)V" } : Jvm.MethodName)) ∈ lw_tbl := lw_at lw_m8 83 rfl
theorem q1872 : (Jvm.Cond.instanceMethod ({ cls := "LuckCratesModel", name := "drops", desc := "(I)V" } : Jvm.MethodName)) ∈ lw_all := lw_g (lw_at lw_m8 84 rfl) rfl
theorem q1873 : (Jvm.Cond.code ({ cls := "LuckCratesModel", name := "drops", desc := "(I)V" } : Jvm.MethodName) prog_13_method_28_code (2 : Nat) (Option.none : Option Jvm.ClassFile.FieldType)) ∈ lw_all := lw_g (lw_at lw_m8 85 rfl) rfl
theorem q1874 : (Jvm.Cond.methodLink "LuckCratesModel" (195 : Nat) ({ cls := "LuckCratesModel", name := "isOpen", desc := "(I)Z" } : Jvm.MethodName)) ∈ lw_all := lw_g (lw_at lw_m8 86 rfl) rfl
theorem q1875 : (Jvm.Cond.static ({ cls := "LuckCratesModel", name := "isOpen", desc := "(I)Z" } : Jvm.MethodName)) ∈ lw_all := lw_g (lw_at lw_m8 87 rfl) rfl
theorem q1876 : (Jvm.Cond.code ({ cls := "LuckCratesModel", name := "isOpen", desc := "(I)Z" } : Jvm.MethodName) prog_13_method_26_code (1 : Nat) (Option.some Jvm.ClassFile.FieldType.boolean)) ∈ lw_all := lw_g (lw_at lw_m8 88 rfl) rfl
theorem q1877 : (Jvm.Cond.methodLink "LuckCratesModel" (198 : Nat) ({ cls := "LuckCratesModel", name := "strength", desc := "(I)I" } : Jvm.MethodName)) ∈ lw_all := lw_g (lw_at lw_m8 89 rfl) rfl
theorem q1878 : (Jvm.Cond.static ({ cls := "LuckCratesModel", name := "strength", desc := "(I)I" } : Jvm.MethodName)) ∈ lw_all := lw_g (lw_at lw_m8 90 rfl) rfl
theorem q1879 : (Jvm.Cond.code ({ cls := "LuckCratesModel", name := "strength", desc := "(I)I" } : Jvm.MethodName) prog_13_method_27_code (1 : Nat) (Option.some Jvm.ClassFile.FieldType.int)) ∈ lw_all := lw_g (lw_at lw_m8 91 rfl) rfl
theorem q1880 : (Jvm.Cond.methodLink "LuckCratesModel" (230 : Nat) ({ cls := "LuckCratesModel", name := "isOpened", desc := "()Z" } : Jvm.MethodName)) ∈ lw_all := lw_g (lw_at lw_m8 92 rfl) rfl
theorem q1881 : (Jvm.Cond.privateMethod ({ cls := "LuckCratesModel", name := "isOpened", desc := "()Z" } : Jvm.MethodName)) ∈ lw_tbl := lw_at lw_m8 93 rfl
theorem q1882 : (Jvm.Cond.instanceMethod ({ cls := "LuckCratesModel", name := "isOpened", desc := "()Z" } : Jvm.MethodName)) ∈ lw_all := lw_g (lw_at lw_m8 94 rfl) rfl
theorem q1883 : (Jvm.Cond.code ({ cls := "LuckCratesModel", name := "isOpened", desc := "()Z" } : Jvm.MethodName) prog_13_method_33_code (2 : Nat) (Option.some Jvm.ClassFile.FieldType.boolean)) ∈ lw_all := lw_g (lw_at lw_m8 95 rfl) rfl
theorem q1884 : (Jvm.Cond.methodLink "LuckCratesModel" (233 : Nat) ({ cls := "LuckCratesModel", name := "closes", desc := "()V" } : Jvm.MethodName)) ∈ lw_all := lw_g (lw_at lw_m8 96 rfl) rfl
theorem q1885 : (Jvm.Cond.privateMethod ({ cls := "LuckCratesModel", name := "closes", desc := "()V" } : Jvm.MethodName)) ∈ lw_tbl := lw_at lw_m8 97 rfl
theorem q1886 : (Jvm.Cond.instanceMethod ({ cls := "LuckCratesModel", name := "closes", desc := "()V" } : Jvm.MethodName)) ∈ lw_all := lw_g (lw_at lw_m8 98 rfl) rfl
theorem q1887 : (Jvm.Cond.code ({ cls := "LuckCratesModel", name := "closes", desc := "()V" } : Jvm.MethodName) prog_13_method_34_code (1 : Nat) (Option.none : Option Jvm.ClassFile.FieldType)) ∈ lw_all := lw_g (lw_at lw_m8 99 rfl) rfl
theorem q1888 : (Jvm.Cond.methodLink "LuckCratesModel" (271 : Nat) ({ cls := "LuckCratesModel", name := "need", desc := "(Z)V" } : Jvm.MethodName)) ∈ lw_all := lw_g (lw_at lw_m8 100 rfl) rfl
theorem q1889 : (Jvm.Cond.privateMethod ({ cls := "LuckCratesModel", name := "need", desc := "(Z)V" } : Jvm.MethodName)) ∈ lw_tbl := lw_at lw_m8 101 rfl
theorem q1890 : (Jvm.Cond.instanceMethod ({ cls := "LuckCratesModel", name := "need", desc := "(Z)V" } : Jvm.MethodName)) ∈ lw_all := lw_g (lw_at lw_m8 102 rfl) rfl
theorem q1891 : (Jvm.Cond.code ({ cls := "LuckCratesModel", name := "need", desc := "(Z)V" } : Jvm.MethodName) prog_13_method_21_code (2 : Nat) (Option.none : Option Jvm.ClassFile.FieldType)) ∈ lw_all := lw_g (lw_at lw_m8 103 rfl) rfl
theorem q1892 : (Jvm.Cond.methodLink "LuckCratesModel" (290 : Nat) ({ cls := "LuckCratesModel", name := "copies", desc := "([I[I)V" } : Jvm.MethodName)) ∈ lw_all := lw_g (lw_at lw_m8 104 rfl) rfl
theorem q1893 : (Jvm.Cond.privateMethod ({ cls := "LuckCratesModel", name := "copies", desc := "([I[I)V" } : Jvm.MethodName)) ∈ lw_tbl := lw_at lw_m8 105 rfl
theorem q1894 : (Jvm.Cond.instanceMethod ({ cls := "LuckCratesModel", name := "copies", desc := "([I[I)V" } : Jvm.MethodName)) ∈ lw_all := lw_g (lw_at lw_m8 106 rfl) rfl
theorem q1895 : (Jvm.Cond.code ({ cls := "LuckCratesModel", name := "copies", desc := "([I[I)V" } : Jvm.MethodName) prog_13_method_7_code (4 : Nat) (Option.none : Option Jvm.ClassFile.FieldType)) ∈ lw_all := lw_g (lw_at lw_m8 107 rfl) rfl
theorem q1897 : (Jvm.Cond.instanceMethod ({ cls := "LuckCratesModel", name := "fault", desc := "()I" } : Jvm.MethodName)) ∈ lw_all := lw_g (lw_at lw_m8 109 rfl) rfl
theorem q1898 : (Jvm.Cond.selects "LuckCratesModel" ({ cls := "LuckCratesModel", name := "fault", desc := "()I" } : Jvm.MethodName) ({ cls := "LuckCratesModel", name := "fault", desc := "()I" } : Jvm.MethodName)) ∈ lw_all := lw_g (lw_at lw_m8 110 rfl) rfl
theorem q1899 : (Jvm.Cond.code ({ cls := "LuckCratesModel", name := "fault", desc := "()I" } : Jvm.MethodName) prog_13_method_42_code (1 : Nat) (Option.some Jvm.ClassFile.FieldType.int)) ∈ lw_all := lw_g (lw_at lw_m8 111 rfl) rfl
theorem q1901 : (Jvm.Cond.instanceMethod ({ cls := "LuckCratesModel", name := "undo", desc := "()I" } : Jvm.MethodName)) ∈ lw_all := lw_g (lw_at lw_m8 113 rfl) rfl
theorem q1902 : (Jvm.Cond.selects "LuckCratesModel" ({ cls := "LuckCratesModel", name := "undo", desc := "()I" } : Jvm.MethodName) ({ cls := "LuckCratesModel", name := "undo", desc := "()I" } : Jvm.MethodName)) ∈ lw_all := lw_g (lw_at lw_m8 114 rfl) rfl
theorem q1903 : (Jvm.Cond.code ({ cls := "LuckCratesModel", name := "undo", desc := "()I" } : Jvm.MethodName) prog_13_method_45_code (2 : Nat) (Option.some Jvm.ClassFile.FieldType.int)) ∈ lw_all := lw_g (lw_at lw_m8 115 rfl) rfl
theorem q1905 : (Jvm.Cond.instanceMethod ({ cls := "LuckCratesModel", name := "count", desc := "(I)I" } : Jvm.MethodName)) ∈ lw_all := lw_g (lw_at lw_m8 117 rfl) rfl
theorem q1906 : (Jvm.Cond.selects "LuckCratesModel" ({ cls := "LuckCratesModel", name := "count", desc := "(I)I" } : Jvm.MethodName) ({ cls := "LuckCratesModel", name := "count", desc := "(I)I" } : Jvm.MethodName)) ∈ lw_all := lw_g (lw_at lw_m8 118 rfl) rfl
theorem q1907 : (Jvm.Cond.code ({ cls := "LuckCratesModel", name := "count", desc := "(I)I" } : Jvm.MethodName) prog_13_method_61_code (2 : Nat) (Option.some Jvm.ClassFile.FieldType.int)) ∈ lw_all := lw_g (lw_at lw_m8 119 rfl) rfl
theorem q1908 : (Jvm.Cond.methodLink "LuckCratesModel" (346 : Nat) ({ cls := "LuckCratesModel", name := "within", desc := "(III)Z" } : Jvm.MethodName)) ∈ lw_all := lw_g (lw_at lw_m8 120 rfl) rfl
theorem q1909 : (Jvm.Cond.static ({ cls := "LuckCratesModel", name := "within", desc := "(III)Z" } : Jvm.MethodName)) ∈ lw_all := lw_g (lw_at lw_m8 121 rfl) rfl
theorem q1910 : (Jvm.Cond.code ({ cls := "LuckCratesModel", name := "within", desc := "(III)Z" } : Jvm.MethodName) prog_13_method_4_code (3 : Nat) (Option.some Jvm.ClassFile.FieldType.boolean)) ∈ lw_all := lw_g (lw_at lw_m8 122 rfl) rfl
theorem q1911 : (Jvm.Cond.methodLink "LuckCratesModel" (350 : Nat) ({ cls := "LuckCratesModel", name := "allOf", desc := "(I)I" } : Jvm.MethodName)) ∈ lw_all := lw_g (lw_at lw_m8 123 rfl) rfl
theorem q1912 : (Jvm.Cond.privateMethod ({ cls := "LuckCratesModel", name := "allOf", desc := "(I)I" } : Jvm.MethodName)) ∈ lw_tbl := lw_at lw_m8 124 rfl
theorem q1913 : (Jvm.Cond.instanceMethod ({ cls := "LuckCratesModel", name := "allOf", desc := "(I)I" } : Jvm.MethodName)) ∈ lw_all := lw_g (lw_at lw_m8 125 rfl) rfl
theorem q1914 : (Jvm.Cond.code ({ cls := "LuckCratesModel", name := "allOf", desc := "(I)I" } : Jvm.MethodName) prog_13_method_57_code (4 : Nat) (Option.some Jvm.ClassFile.FieldType.int)) ∈ lw_all := lw_g (lw_at lw_m8 126 rfl) rfl
theorem q1915 : (Jvm.Cond.methodLink "LuckCratesModel" (353 : Nat) ({ cls := "LuckCratesModel", name := "lyingAll", desc := "()I" } : Jvm.MethodName)) ∈ lw_all := lw_g (lw_at lw_m8 127 rfl) rfl
theorem q1916 : (Jvm.Cond.privateMethod ({ cls := "LuckCratesModel", name := "lyingAll", desc := "()I" } : Jvm.MethodName)) ∈ lw_tbl := lw_at lw_m8 128 rfl
theorem q1917 : (Jvm.Cond.instanceMethod ({ cls := "LuckCratesModel", name := "lyingAll", desc := "()I" } : Jvm.MethodName)) ∈ lw_all := lw_g (lw_at lw_m8 129 rfl) rfl
theorem q1918 : (Jvm.Cond.code ({ cls := "LuckCratesModel", name := "lyingAll", desc := "()I" } : Jvm.MethodName) prog_13_method_58_code (3 : Nat) (Option.some Jvm.ClassFile.FieldType.int)) ∈ lw_all := lw_g (lw_at lw_m8 130 rfl) rfl
theorem q1919 : (Jvm.Cond.methodLink "LuckCratesModel" (308 : Nat) ({ cls := "LuckCratesModel", name := "lies", desc := "(II)Z" } : Jvm.MethodName)) ∈ lw_all := lw_g (lw_at lw_m8 131 rfl) rfl
theorem q1920 : (Jvm.Cond.privateMethod ({ cls := "LuckCratesModel", name := "lies", desc := "(II)Z" } : Jvm.MethodName)) ∈ lw_tbl := lw_at lw_m8 132 rfl
theorem q1921 : (Jvm.Cond.instanceMethod ({ cls := "LuckCratesModel", name := "lies", desc := "(II)Z" } : Jvm.MethodName)) ∈ lw_all := lw_g (lw_at lw_m8 133 rfl) rfl
theorem q1922 : (Jvm.Cond.code ({ cls := "LuckCratesModel", name := "lies", desc := "(II)Z" } : Jvm.MethodName) prog_13_method_49_code (3 : Nat) (Option.some Jvm.ClassFile.FieldType.boolean)) ∈ lw_all := lw_g (lw_at lw_m8 134 rfl) rfl
theorem q1923 : (Jvm.Cond.methodLink "LuckCratesModel" (356 : Nat) ({ cls := "LuckCratesModel", name := "goingAll", desc := "()I" } : Jvm.MethodName)) ∈ lw_all := lw_g (lw_at lw_m8 135 rfl) rfl
theorem q1924 : (Jvm.Cond.privateMethod ({ cls := "LuckCratesModel", name := "goingAll", desc := "()I" } : Jvm.MethodName)) ∈ lw_tbl := lw_at lw_m8 136 rfl
theorem q1925 : (Jvm.Cond.instanceMethod ({ cls := "LuckCratesModel", name := "goingAll", desc := "()I" } : Jvm.MethodName)) ∈ lw_all := lw_g (lw_at lw_m8 137 rfl) rfl
theorem q1926 : (Jvm.Cond.code ({ cls := "LuckCratesModel", name := "goingAll", desc := "()I" } : Jvm.MethodName) prog_13_method_59_code (3 : Nat) (Option.some Jvm.ClassFile.FieldType.int)) ∈ lw_all := lw_g (lw_at lw_m8 138 rfl) rfl
theorem q1927 : (Jvm.Cond.methodLink "LuckCratesModel" (359 : Nat) ({ cls := "LuckCratesModel", name := "goneIn", desc := "(I)I" } : Jvm.MethodName)) ∈ lw_all := lw_g (lw_at lw_m8 139 rfl) rfl
theorem q1928 : (Jvm.Cond.privateMethod ({ cls := "LuckCratesModel", name := "goneIn", desc := "(I)I" } : Jvm.MethodName)) ∈ lw_tbl := lw_at lw_m8 140 rfl
theorem q1929 : (Jvm.Cond.instanceMethod ({ cls := "LuckCratesModel", name := "goneIn", desc := "(I)I" } : Jvm.MethodName)) ∈ lw_all := lw_g (lw_at lw_m8 141 rfl) rfl
theorem q1930 : (Jvm.Cond.code ({ cls := "LuckCratesModel", name := "goneIn", desc := "(I)I" } : Jvm.MethodName) prog_13_method_60_code (4 : Nat) (Option.some Jvm.ClassFile.FieldType.int)) ∈ lw_all := lw_g (lw_at lw_m8 142 rfl) rfl
theorem q1932 : (Jvm.Cond.instanceMethod ({ cls := "LuckCratesModel", name := "town", desc := "(II)I" } : Jvm.MethodName)) ∈ lw_all := lw_g (lw_at lw_m8 144 rfl) rfl
theorem q1933 : (Jvm.Cond.selects "LuckCratesModel" ({ cls := "LuckCratesModel", name := "town", desc := "(II)I" } : Jvm.MethodName) ({ cls := "LuckCratesModel", name := "town", desc := "(II)I" } : Jvm.MethodName)) ∈ lw_all := lw_g (lw_at lw_m8 145 rfl) rfl
theorem q1934 : (Jvm.Cond.code ({ cls := "LuckCratesModel", name := "town", desc := "(II)I" } : Jvm.MethodName) prog_13_method_66_code (3 : Nat) (Option.some Jvm.ClassFile.FieldType.int)) ∈ lw_all := lw_g (lw_at lw_m8 146 rfl) rfl
theorem q1935 : (Jvm.Cond.methodLink "LuckCratesModel" (362 : Nat) ({ cls := "LuckCratesModel", name := "isTown", desc := "(I)Z" } : Jvm.MethodName)) ∈ lw_all := lw_g (lw_at lw_m8 147 rfl) rfl
theorem q1936 : (Jvm.Cond.privateMethod ({ cls := "LuckCratesModel", name := "isTown", desc := "(I)Z" } : Jvm.MethodName)) ∈ lw_tbl := lw_at lw_m8 148 rfl
theorem q1937 : (Jvm.Cond.instanceMethod ({ cls := "LuckCratesModel", name := "isTown", desc := "(I)Z" } : Jvm.MethodName)) ∈ lw_all := lw_g (lw_at lw_m8 149 rfl) rfl
theorem q1938 : (Jvm.Cond.code ({ cls := "LuckCratesModel", name := "isTown", desc := "(I)Z" } : Jvm.MethodName) prog_13_method_62_code (2 : Nat) (Option.some Jvm.ClassFile.FieldType.boolean)) ∈ lw_all := lw_g (lw_at lw_m8 150 rfl) rfl
theorem q1939 : (Jvm.Cond.methodLink "LuckCratesModel" (365 : Nat) ({ cls := "LuckCratesModel", name := "isWhat", desc := "(II)Z" } : Jvm.MethodName)) ∈ lw_all := lw_g (lw_at lw_m8 151 rfl) rfl
theorem q1940 : (Jvm.Cond.privateMethod ({ cls := "LuckCratesModel", name := "isWhat", desc := "(II)Z" } : Jvm.MethodName)) ∈ lw_tbl := lw_at lw_m8 152 rfl
theorem q1941 : (Jvm.Cond.instanceMethod ({ cls := "LuckCratesModel", name := "isWhat", desc := "(II)Z" } : Jvm.MethodName)) ∈ lw_all := lw_g (lw_at lw_m8 153 rfl) rfl
theorem q1942 : (Jvm.Cond.code ({ cls := "LuckCratesModel", name := "isWhat", desc := "(II)Z" } : Jvm.MethodName) prog_13_method_65_code (3 : Nat) (Option.some Jvm.ClassFile.FieldType.boolean)) ∈ lw_all := lw_g (lw_at lw_m8 154 rfl) rfl
theorem q1943 : (Jvm.Cond.methodLink "LuckCratesModel" (336 : Nat) ({ cls := "LuckCratesModel", name := "oddsOf", desc := "(II)I" } : Jvm.MethodName)) ∈ lw_all := lw_g (lw_at lw_m8 155 rfl) rfl
theorem q1944 : (Jvm.Cond.privateMethod ({ cls := "LuckCratesModel", name := "oddsOf", desc := "(II)I" } : Jvm.MethodName)) ∈ lw_tbl := lw_at lw_m8 156 rfl
theorem q1945 : (Jvm.Cond.instanceMethod ({ cls := "LuckCratesModel", name := "oddsOf", desc := "(II)I" } : Jvm.MethodName)) ∈ lw_all := lw_g (lw_at lw_m8 157 rfl) rfl
theorem q1946 : (Jvm.Cond.code ({ cls := "LuckCratesModel", name := "oddsOf", desc := "(II)I" } : Jvm.MethodName) prog_13_method_51_code (5 : Nat) (Option.some Jvm.ClassFile.FieldType.int)) ∈ lw_all := lw_g (lw_at lw_m8 158 rfl) rfl
theorem q1947 : (Jvm.Cond.methodLink "LuckCratesModel" (311 : Nat) ({ cls := "LuckCratesModel", name := "kept", desc := "(III)I" } : Jvm.MethodName)) ∈ lw_all := lw_g (lw_at lw_m8 159 rfl) rfl
theorem q1948 : (Jvm.Cond.static ({ cls := "LuckCratesModel", name := "kept", desc := "(III)I" } : Jvm.MethodName)) ∈ lw_all := lw_g (lw_at lw_m8 160 rfl) rfl
theorem q1949 : (Jvm.Cond.code ({ cls := "LuckCratesModel", name := "kept", desc := "(III)I" } : Jvm.MethodName) prog_13_method_5_code (3 : Nat) (Option.some Jvm.ClassFile.FieldType.int)) ∈ lw_all := lw_g (lw_at lw_m8 161 rfl) rfl
theorem q1950 : (Jvm.Cond.methodLink "LuckCratesModel" (314 : Nat) ({ cls := "LuckCratesModel", name := "lyingIn", desc := "(II)I" } : Jvm.MethodName)) ∈ lw_all := lw_g (lw_at lw_m8 162 rfl) rfl
theorem q1951 : (Jvm.Cond.privateMethod ({ cls := "LuckCratesModel", name := "lyingIn", desc := "(II)I" } : Jvm.MethodName)) ∈ lw_tbl := lw_at lw_m8 163 rfl
theorem q1952 : (Jvm.Cond.instanceMethod ({ cls := "LuckCratesModel", name := "lyingIn", desc := "(II)I" } : Jvm.MethodName)) ∈ lw_all := lw_g (lw_at lw_m8 164 rfl) rfl
theorem q1953 : (Jvm.Cond.code ({ cls := "LuckCratesModel", name := "lyingIn", desc := "(II)I" } : Jvm.MethodName) prog_13_method_50_code (5 : Nat) (Option.some Jvm.ClassFile.FieldType.int)) ∈ lw_all := lw_g (lw_at lw_m8 165 rfl) rfl
theorem q1954 : (Jvm.Cond.methodLink "LuckCratesModel" (317 : Nat) ({ cls := "LuckCratesModel", name := "bits", desc := "(I)I" } : Jvm.MethodName)) ∈ lw_all := lw_g (lw_at lw_m8 166 rfl) rfl
theorem q1955 : (Jvm.Cond.static ({ cls := "LuckCratesModel", name := "bits", desc := "(I)I" } : Jvm.MethodName)) ∈ lw_all := lw_g (lw_at lw_m8 167 rfl) rfl
theorem q1956 : (Jvm.Cond.code ({ cls := "LuckCratesModel", name := "bits", desc := "(I)I" } : Jvm.MethodName) prog_13_method_8_code (3 : Nat) (Option.some Jvm.ClassFile.FieldType.int)) ∈ lw_all := lw_g (lw_at lw_m8 168 rfl) rfl
theorem q1957 : (Jvm.Cond.methodLink "LuckCratesModel" (320 : Nat) ({ cls := "LuckCratesModel", name := "reckons", desc := "(I)I" } : Jvm.MethodName)) ∈ lw_all := lw_g (lw_at lw_m8 169 rfl) rfl
theorem q1958 : (Jvm.Cond.privateMethod ({ cls := "LuckCratesModel", name := "reckons", desc := "(I)I" } : Jvm.MethodName)) ∈ lw_tbl := lw_at lw_m8 170 rfl
theorem q1959 : (Jvm.Cond.instanceMethod ({ cls := "LuckCratesModel", name := "reckons", desc := "(I)I" } : Jvm.MethodName)) ∈ lw_all := lw_g (lw_at lw_m8 171 rfl) rfl
theorem q1960 : (Jvm.Cond.code ({ cls := "LuckCratesModel", name := "reckons", desc := "(I)I" } : Jvm.MethodName) prog_13_method_48_code (5 : Nat) (Option.some Jvm.ClassFile.FieldType.int)) ∈ lw_all := lw_g (lw_at lw_m8 172 rfl) rfl
theorem q1961 : (Jvm.Cond.methodLink "LuckCratesModel" (304 : Nat) ({ cls := "LuckCratesModel", name := "works", desc := "(III)I" } : Jvm.MethodName)) ∈ lw_all := lw_g (lw_at lw_m8 173 rfl) rfl
theorem q1962 : (Jvm.Cond.static ({ cls := "LuckCratesModel", name := "works", desc := "(III)I" } : Jvm.MethodName)) ∈ lw_all := lw_g (lw_at lw_m8 174 rfl) rfl
theorem q1963 : (Jvm.Cond.code ({ cls := "LuckCratesModel", name := "works", desc := "(III)I" } : Jvm.MethodName) prog_13_method_47_code (3 : Nat) (Option.some Jvm.ClassFile.FieldType.int)) ∈ lw_all := lw_g (lw_at lw_m8 175 rfl) rfl
theorem q1965 : (Jvm.Cond.instanceMethod ({ cls := "LuckCratesModel", name := "crate", desc := "(II)I" } : Jvm.MethodName)) ∈ lw_all := lw_g (lw_at lw_m8 177 rfl) rfl
theorem q1966 : (Jvm.Cond.selects "LuckCratesModel" ({ cls := "LuckCratesModel", name := "crate", desc := "(II)I" } : Jvm.MethodName) ({ cls := "LuckCratesModel", name := "crate", desc := "(II)I" } : Jvm.MethodName)) ∈ lw_all := lw_g (lw_at lw_m8 178 rfl) rfl
theorem q1967 : (Jvm.Cond.code ({ cls := "LuckCratesModel", name := "crate", desc := "(II)I" } : Jvm.MethodName) prog_13_method_67_code (3 : Nat) (Option.some Jvm.ClassFile.FieldType.int)) ∈ lw_all := lw_g (lw_at lw_m8 179 rfl) rfl
theorem q1968 : (Jvm.Cond.methodLink "LuckCratesModel" (368 : Nat) ({ cls := "LuckCratesModel", name := "isCrate", desc := "(I)Z" } : Jvm.MethodName)) ∈ lw_all := lw_g (lw_at lw_m8 180 rfl) rfl
theorem q1969 : (Jvm.Cond.privateMethod ({ cls := "LuckCratesModel", name := "isCrate", desc := "(I)Z" } : Jvm.MethodName)) ∈ lw_tbl := lw_at lw_m8 181 rfl
theorem q1970 : (Jvm.Cond.instanceMethod ({ cls := "LuckCratesModel", name := "isCrate", desc := "(I)Z" } : Jvm.MethodName)) ∈ lw_all := lw_g (lw_at lw_m8 182 rfl) rfl
theorem q1971 : (Jvm.Cond.code ({ cls := "LuckCratesModel", name := "isCrate", desc := "(I)Z" } : Jvm.MethodName) prog_13_method_63_code (2 : Nat) (Option.some Jvm.ClassFile.FieldType.boolean)) ∈ lw_all := lw_g (lw_at lw_m8 183 rfl) rfl
theorem q1973 : (Jvm.Cond.instanceMethod ({ cls := "LuckCratesModel", name := "days", desc := "(I)I" } : Jvm.MethodName)) ∈ lw_all := lw_g (lw_at lw_m8 185 rfl) rfl
theorem q1974 : (Jvm.Cond.selects "LuckCratesModel" ({ cls := "LuckCratesModel", name := "days", desc := "(I)I" } : Jvm.MethodName) ({ cls := "LuckCratesModel", name := "days", desc := "(I)I" } : Jvm.MethodName)) ∈ lw_all := lw_g (lw_at lw_m8 186 rfl) rfl
theorem q1975 : (Jvm.Cond.code ({ cls := "LuckCratesModel", name := "days", desc := "(I)I" } : Jvm.MethodName) prog_13_method_68_code (3 : Nat) (Option.some Jvm.ClassFile.FieldType.int)) ∈ lw_all := lw_g (lw_at lw_m8 187 rfl) rfl
theorem q1976 : (Jvm.Cond.methodLink "LuckCratesModel" (371 : Nat) ({ cls := "LuckCratesModel", name := "refuses", desc := "(I)I" } : Jvm.MethodName)) ∈ lw_all := lw_g (lw_at lw_m8 188 rfl) rfl
theorem q1977 : (Jvm.Cond.privateMethod ({ cls := "LuckCratesModel", name := "refuses", desc := "(I)I" } : Jvm.MethodName)) ∈ lw_tbl := lw_at lw_m8 189 rfl
theorem q1978 : (Jvm.Cond.instanceMethod ({ cls := "LuckCratesModel", name := "refuses", desc := "(I)I" } : Jvm.MethodName)) ∈ lw_all := lw_g (lw_at lw_m8 190 rfl) rfl
theorem q1979 : (Jvm.Cond.code ({ cls := "LuckCratesModel", name := "refuses", desc := "(I)I" } : Jvm.MethodName) prog_13_method_44_code (2 : Nat) (Option.some Jvm.ClassFile.FieldType.int)) ∈ lw_all := lw_g (lw_at lw_m8 191 rfl) rfl
theorem q1980 : (Jvm.Cond.methodLink "LuckCratesModel" (374 : Nat) ({ cls := "LuckCratesModel", name := "keeps", desc := "()V" } : Jvm.MethodName)) ∈ lw_all := lw_g (lw_at lw_m8 192 rfl) rfl
theorem q1981 : (Jvm.Cond.privateMethod ({ cls := "LuckCratesModel", name := "keeps", desc := "()V" } : Jvm.MethodName)) ∈ lw_tbl := lw_at lw_m8 193 rfl
theorem q1982 : (Jvm.Cond.instanceMethod ({ cls := "LuckCratesModel", name := "keeps", desc := "()V" } : Jvm.MethodName)) ∈ lw_all := lw_g (lw_at lw_m8 194 rfl) rfl
theorem q1983 : (Jvm.Cond.code ({ cls := "LuckCratesModel", name := "keeps", desc := "()V" } : Jvm.MethodName) prog_13_method_43_code (2 : Nat) (Option.none : Option Jvm.ClassFile.FieldType)) ∈ lw_all := lw_g (lw_at lw_m8 195 rfl) rfl
theorem q1984 : (Jvm.Cond.methodLink "LuckCratesModel" (343 : Nat) ({ cls := "LuckCratesModel", name := "dayGoes", desc := "(I)V" } : Jvm.MethodName)) ∈ lw_all := lw_g (lw_at lw_m8 196 rfl) rfl
theorem q1985 : (Jvm.Cond.privateMethod ({ cls := "LuckCratesModel", name := "dayGoes", desc := "(I)V" } : Jvm.MethodName)) ∈ lw_tbl := lw_at lw_m8 197 rfl
theorem q1986 : (Jvm.Cond.instanceMethod ({ cls := "LuckCratesModel", name := "dayGoes", desc := "(I)V" } : Jvm.MethodName)) ∈ lw_all := lw_g (lw_at lw_m8 198 rfl) rfl
theorem q1987 : (Jvm.Cond.code ({ cls := "LuckCratesModel", name := "dayGoes", desc := "(I)V" } : Jvm.MethodName) prog_13_method_55_code (4 : Nat) (Option.none : Option Jvm.ClassFile.FieldType)) ∈ lw_all := lw_g (lw_at lw_m8 199 rfl) rfl
theorem q1988 : (Jvm.Cond.methodLink "LuckCratesModel" (326 : Nat) ({ cls := "LuckCratesModel", name := "cratesGo", desc := "(I)V" } : Jvm.MethodName)) ∈ lw_all := lw_g (lw_at lw_m8 200 rfl) rfl
theorem q1989 : (Jvm.Cond.privateMethod ({ cls := "LuckCratesModel", name := "cratesGo", desc := "(I)V" } : Jvm.MethodName)) ∈ lw_tbl := lw_at lw_m8 201 rfl
theorem q1990 : (Jvm.Cond.instanceMethod ({ cls := "LuckCratesModel", name := "cratesGo", desc := "(I)V" } : Jvm.MethodName)) ∈ lw_all := lw_g (lw_at lw_m8 202 rfl) rfl
theorem q1991 : (Jvm.Cond.code ({ cls := "LuckCratesModel", name := "cratesGo", desc := "(I)V" } : Jvm.MethodName) prog_13_method_52_code (3 : Nat) (Option.none : Option Jvm.ClassFile.FieldType)) ∈ lw_all := lw_g (lw_at lw_m8 203 rfl) rfl
theorem q1992 : (Jvm.Cond.methodLink "LuckCratesModel" (332 : Nat) ({ cls := "LuckCratesModel", name := "makesLuck", desc := "(II)V" } : Jvm.MethodName)) ∈ lw_all := lw_g (lw_at lw_m8 204 rfl) rfl
theorem q1993 : (Jvm.Cond.privateMethod ({ cls := "LuckCratesModel", name := "makesLuck", desc := "(II)V" } : Jvm.MethodName)) ∈ lw_tbl := lw_at lw_m8 205 rfl
theorem q1994 : (Jvm.Cond.instanceMethod ({ cls := "LuckCratesModel", name := "makesLuck", desc := "(II)V" } : Jvm.MethodName)) ∈ lw_all := lw_g (lw_at lw_m8 206 rfl) rfl
theorem q1995 : (Jvm.Cond.code ({ cls := "LuckCratesModel", name := "makesLuck", desc := "(II)V" } : Jvm.MethodName) prog_13_method_53_code (3 : Nat) (Option.none : Option Jvm.ClassFile.FieldType)) ∈ lw_all := lw_g (lw_at lw_m8 207 rfl) rfl
theorem q1996 : (Jvm.Cond.methodLink "LuckCratesModel" (339 : Nat) ({ cls := "LuckCratesModel", name := "stakes", desc := "(IIZ)V" } : Jvm.MethodName)) ∈ lw_all := lw_g (lw_at lw_m8 208 rfl) rfl
theorem q1997 : (Jvm.Cond.privateMethod ({ cls := "LuckCratesModel", name := "stakes", desc := "(IIZ)V" } : Jvm.MethodName)) ∈ lw_tbl := lw_at lw_m8 209 rfl
theorem q1998 : (Jvm.Cond.instanceMethod ({ cls := "LuckCratesModel", name := "stakes", desc := "(IIZ)V" } : Jvm.MethodName)) ∈ lw_all := lw_g (lw_at lw_m8 210 rfl) rfl
theorem q1999 : (Jvm.Cond.code ({ cls := "LuckCratesModel", name := "stakes", desc := "(IIZ)V" } : Jvm.MethodName) prog_13_method_54_code (5 : Nat) (Option.none : Option Jvm.ClassFile.FieldType)) ∈ lw_all := lw_g (lw_at lw_m8 211 rfl) rfl
theorem q2000 : (Jvm.Cond.methodLink "LuckCratesModel" (323 : Nat) ({ cls := "LuckCratesModel", name := "lesser", desc := "(II)I" } : Jvm.MethodName)) ∈ lw_all := lw_g (lw_at lw_m8 212 rfl) rfl
theorem q2001 : (Jvm.Cond.static ({ cls := "LuckCratesModel", name := "lesser", desc := "(II)I" } : Jvm.MethodName)) ∈ lw_all := lw_g (lw_at lw_m8 213 rfl) rfl
theorem q2002 : (Jvm.Cond.code ({ cls := "LuckCratesModel", name := "lesser", desc := "(II)I" } : Jvm.MethodName) prog_13_method_6_code (2 : Nat) (Option.some Jvm.ClassFile.FieldType.int)) ∈ lw_all := lw_g (lw_at lw_m8 214 rfl) rfl
theorem q2004 : (Jvm.Cond.instanceMethod ({ cls := "LuckCratesModel", name := "send", desc := "(II)I" } : Jvm.MethodName)) ∈ lw_all := lw_g (lw_at lw_m8 216 rfl) rfl
theorem q2005 : (Jvm.Cond.selects "LuckCratesModel" ({ cls := "LuckCratesModel", name := "send", desc := "(II)I" } : Jvm.MethodName) ({ cls := "LuckCratesModel", name := "send", desc := "(II)I" } : Jvm.MethodName)) ∈ lw_all := lw_g (lw_at lw_m8 217 rfl) rfl
theorem q2006 : (Jvm.Cond.code ({ cls := "LuckCratesModel", name := "send", desc := "(II)I" } : Jvm.MethodName) prog_13_method_70_code (3 : Nat) (Option.some Jvm.ClassFile.FieldType.int)) ∈ lw_all := lw_g (lw_at lw_m8 218 rfl) rfl
theorem q2007 : (Jvm.Cond.methodLink "LuckCratesModel" (377 : Nat) ({ cls := "LuckCratesModel", name := "isWay", desc := "(I)Z" } : Jvm.MethodName)) ∈ lw_all := lw_g (lw_at lw_m8 219 rfl) rfl
theorem q2008 : (Jvm.Cond.privateMethod ({ cls := "LuckCratesModel", name := "isWay", desc := "(I)Z" } : Jvm.MethodName)) ∈ lw_tbl := lw_at lw_m8 220 rfl
theorem q2009 : (Jvm.Cond.instanceMethod ({ cls := "LuckCratesModel", name := "isWay", desc := "(I)Z" } : Jvm.MethodName)) ∈ lw_all := lw_g (lw_at lw_m8 221 rfl) rfl
theorem q2010 : (Jvm.Cond.code ({ cls := "LuckCratesModel", name := "isWay", desc := "(I)Z" } : Jvm.MethodName) prog_13_method_64_code (2 : Nat) (Option.some Jvm.ClassFile.FieldType.boolean)) ∈ lw_all := lw_g (lw_at lw_m8 222 rfl) rfl
theorem q2011 : (Jvm.Cond.methodLink "LuckCratesModel" (380 : Nat) ({ cls := "LuckCratesModel", name := "leads", desc := "(II)I" } : Jvm.MethodName)) ∈ lw_all := lw_g (lw_at lw_m8 223 rfl) rfl
theorem q2012 : (Jvm.Cond.privateMethod ({ cls := "LuckCratesModel", name := "leads", desc := "(II)I" } : Jvm.MethodName)) ∈ lw_tbl := lw_at lw_m8 224 rfl
theorem q2013 : (Jvm.Cond.instanceMethod ({ cls := "LuckCratesModel", name := "leads", desc := "(II)I" } : Jvm.MethodName)) ∈ lw_all := lw_g (lw_at lw_m8 225 rfl) rfl
theorem q2014 : (Jvm.Cond.code ({ cls := "LuckCratesModel", name := "leads", desc := "(II)I" } : Jvm.MethodName) prog_13_method_69_code (3 : Nat) (Option.some Jvm.ClassFile.FieldType.int)) ∈ lw_all := lw_g (lw_at lw_m8 226 rfl) rfl
theorem q2016 : (Jvm.Cond.instanceMethod ({ cls := "LuckCratesModel", name := "open", desc := "(I)I" } : Jvm.MethodName)) ∈ lw_all := lw_g (lw_at lw_m8 228 rfl) rfl
theorem q2017 : (Jvm.Cond.selects "LuckCratesModel" ({ cls := "LuckCratesModel", name := "open", desc := "(I)I" } : Jvm.MethodName) ({ cls := "LuckCratesModel", name := "open", desc := "(I)I" } : Jvm.MethodName)) ∈ lw_all := lw_g (lw_at lw_m8 229 rfl) rfl
theorem q2018 : (Jvm.Cond.code ({ cls := "LuckCratesModel", name := "open", desc := "(I)I" } : Jvm.MethodName) prog_13_method_72_code (3 : Nat) (Option.some Jvm.ClassFile.FieldType.int)) ∈ lw_all := lw_g (lw_at lw_m8 230 rfl) rfl
theorem q2019 : (Jvm.Cond.methodLink "LuckCratesModel" (383 : Nat) ({ cls := "LuckCratesModel", name := "opens", desc := "(II)V" } : Jvm.MethodName)) ∈ lw_all := lw_g (lw_at lw_m8 231 rfl) rfl
theorem q2020 : (Jvm.Cond.privateMethod ({ cls := "LuckCratesModel", name := "opens", desc := "(II)V" } : Jvm.MethodName)) ∈ lw_tbl := lw_at lw_m8 232 rfl
theorem q2021 : (Jvm.Cond.instanceMethod ({ cls := "LuckCratesModel", name := "opens", desc := "(II)V" } : Jvm.MethodName)) ∈ lw_all := lw_g (lw_at lw_m8 233 rfl) rfl
theorem q2022 : (Jvm.Cond.code ({ cls := "LuckCratesModel", name := "opens", desc := "(II)V" } : Jvm.MethodName) prog_13_method_71_code (4 : Nat) (Option.none : Option Jvm.ClassFile.FieldType)) ∈ lw_all := lw_g (lw_at lw_m8 234 rfl) rfl
theorem q2024 : (Jvm.Cond.instanceMethod ({ cls := "LuckCratesModel", name := "cat", desc := "(IZ)Z" } : Jvm.MethodName)) ∈ lw_all := lw_g (lw_at lw_m8 236 rfl) rfl
theorem q2025 : (Jvm.Cond.selects "LuckCratesModel" ({ cls := "LuckCratesModel", name := "cat", desc := "(IZ)Z" } : Jvm.MethodName) ({ cls := "LuckCratesModel", name := "cat", desc := "(IZ)Z" } : Jvm.MethodName)) ∈ lw_all := lw_g (lw_at lw_m8 237 rfl) rfl
theorem q2026 : (Jvm.Cond.code ({ cls := "LuckCratesModel", name := "cat", desc := "(IZ)Z" } : Jvm.MethodName) prog_13_method_73_code (4 : Nat) (Option.some Jvm.ClassFile.FieldType.boolean)) ∈ lw_all := lw_g (lw_at lw_m8 238 rfl) rfl
theorem q2028 : (Jvm.Cond.instanceMethod ({ cls := "LuckCratesModel", name := "mix", desc := "(II)I" } : Jvm.MethodName)) ∈ lw_all := lw_g (lw_at lw_m9 0 rfl) rfl
theorem q2029 : (Jvm.Cond.selects "LuckCratesModel" ({ cls := "LuckCratesModel", name := "mix", desc := "(II)I" } : Jvm.MethodName) ({ cls := "LuckCratesModel", name := "mix", desc := "(II)I" } : Jvm.MethodName)) ∈ lw_all := lw_g (lw_at lw_m9 1 rfl) rfl
theorem q2030 : (Jvm.Cond.code ({ cls := "LuckCratesModel", name := "mix", desc := "(II)I" } : Jvm.MethodName) prog_13_method_74_code (6 : Nat) (Option.some Jvm.ClassFile.FieldType.int)) ∈ lw_all := lw_g (lw_at lw_m9 2 rfl) rfl
theorem q2032 : (Jvm.Cond.instanceMethod ({ cls := "LuckCratesModel", name := "then", desc := "(III)I" } : Jvm.MethodName)) ∈ lw_all := lw_g (lw_at lw_m9 4 rfl) rfl
theorem q2033 : (Jvm.Cond.selects "LuckCratesModel" ({ cls := "LuckCratesModel", name := "then", desc := "(III)I" } : Jvm.MethodName) ({ cls := "LuckCratesModel", name := "then", desc := "(III)I" } : Jvm.MethodName)) ∈ lw_all := lw_g (lw_at lw_m9 5 rfl) rfl
theorem q2034 : (Jvm.Cond.code ({ cls := "LuckCratesModel", name := "then", desc := "(III)I" } : Jvm.MethodName) prog_13_method_76_code (4 : Nat) (Option.some Jvm.ClassFile.FieldType.int)) ∈ lw_all := lw_g (lw_at lw_m9 6 rfl) rfl
theorem q2035 : (Jvm.Cond.methodLink "LuckCratesModel" (386 : Nat) ({ cls := "LuckCratesModel", name := "isDays", desc := "(III)Z" } : Jvm.MethodName)) ∈ lw_all := lw_g (lw_at lw_m9 7 rfl) rfl
theorem q2036 : (Jvm.Cond.privateMethod ({ cls := "LuckCratesModel", name := "isDays", desc := "(III)Z" } : Jvm.MethodName)) ∈ lw_tbl := lw_at lw_m9 8 rfl
theorem q2037 : (Jvm.Cond.instanceMethod ({ cls := "LuckCratesModel", name := "isDays", desc := "(III)Z" } : Jvm.MethodName)) ∈ lw_all := lw_g (lw_at lw_m9 9 rfl) rfl
theorem q2038 : (Jvm.Cond.code ({ cls := "LuckCratesModel", name := "isDays", desc := "(III)Z" } : Jvm.MethodName) prog_13_method_75_code (4 : Nat) (Option.some Jvm.ClassFile.FieldType.boolean)) ∈ lw_all := lw_g (lw_at lw_m9 10 rfl) rfl
theorem q2039 : (Jvm.Cond.methodLink "LuckCratesModel" (389 : Nat) ({ cls := "LuckCratesModel", name := "tries", desc := "()V" } : Jvm.MethodName)) ∈ lw_all := lw_g (lw_at lw_m9 11 rfl) rfl
theorem q2040 : (Jvm.Cond.privateMethod ({ cls := "LuckCratesModel", name := "tries", desc := "()V" } : Jvm.MethodName)) ∈ lw_tbl := lw_at lw_m9 12 rfl
theorem q2041 : (Jvm.Cond.instanceMethod ({ cls := "LuckCratesModel", name := "tries", desc := "()V" } : Jvm.MethodName)) ∈ lw_all := lw_g (lw_at lw_m9 13 rfl) rfl
theorem q2042 : (Jvm.Cond.code ({ cls := "LuckCratesModel", name := "tries", desc := "()V" } : Jvm.MethodName) prog_13_method_46_code (2 : Nat) (Option.none : Option Jvm.ClassFile.FieldType)) ∈ lw_all := lw_g (lw_at lw_m9 14 rfl) rfl
theorem q2043 : (Jvm.Cond.methodLink "LuckCratesModel" (392 : Nat) ({ cls := "LuckCratesModel", name := "daysGo", desc := "(I)V" } : Jvm.MethodName)) ∈ lw_all := lw_g (lw_at lw_m9 15 rfl) rfl
theorem q2044 : (Jvm.Cond.privateMethod ({ cls := "LuckCratesModel", name := "daysGo", desc := "(I)V" } : Jvm.MethodName)) ∈ lw_tbl := lw_at lw_m9 16 rfl
theorem q2045 : (Jvm.Cond.instanceMethod ({ cls := "LuckCratesModel", name := "daysGo", desc := "(I)V" } : Jvm.MethodName)) ∈ lw_all := lw_g (lw_at lw_m9 17 rfl) rfl
theorem q2046 : (Jvm.Cond.code ({ cls := "LuckCratesModel", name := "daysGo", desc := "(I)V" } : Jvm.MethodName) prog_13_method_56_code (3 : Nat) (Option.none : Option Jvm.ClassFile.FieldType)) ∈ lw_all := lw_g (lw_at lw_m9 18 rfl) rfl
theorem q2048 : (Jvm.Cond.instanceMethod ({ cls := "LuckCratesModel", name := "even", desc := "(I)I" } : Jvm.MethodName)) ∈ lw_all := lw_g (lw_at lw_m9 20 rfl) rfl
theorem q2049 : (Jvm.Cond.selects "LuckCratesModel" ({ cls := "LuckCratesModel", name := "even", desc := "(I)I" } : Jvm.MethodName) ({ cls := "LuckCratesModel", name := "even", desc := "(I)I" } : Jvm.MethodName)) ∈ lw_all := lw_g (lw_at lw_m9 21 rfl) rfl
theorem q2050 : (Jvm.Cond.code ({ cls := "LuckCratesModel", name := "even", desc := "(I)I" } : Jvm.MethodName) prog_13_method_77_code (3 : Nat) (Option.some Jvm.ClassFile.FieldType.int)) ∈ lw_all := lw_g (lw_at lw_m9 22 rfl) rfl
theorem q2052 : (Jvm.Cond.instanceMethod ({ cls := "LuckCratesModel", name := "out", desc := "(I)I" } : Jvm.MethodName)) ∈ lw_all := lw_g (lw_at lw_m9 24 rfl) rfl
theorem q2053 : (Jvm.Cond.selects "LuckCratesModel" ({ cls := "LuckCratesModel", name := "out", desc := "(I)I" } : Jvm.MethodName) ({ cls := "LuckCratesModel", name := "out", desc := "(I)I" } : Jvm.MethodName)) ∈ lw_all := lw_g (lw_at lw_m9 25 rfl) rfl
theorem q2054 : (Jvm.Cond.code ({ cls := "LuckCratesModel", name := "out", desc := "(I)I" } : Jvm.MethodName) prog_13_method_78_code (3 : Nat) (Option.some Jvm.ClassFile.FieldType.int)) ∈ lw_all := lw_g (lw_at lw_m9 26 rfl) rfl
theorem q2056 : (Jvm.Cond.instanceMethod ({ cls := "LuckCratesModel", name := "luckiest", desc := "(I)I" } : Jvm.MethodName)) ∈ lw_all := lw_g (lw_at lw_m9 28 rfl) rfl
theorem q2057 : (Jvm.Cond.selects "LuckCratesModel" ({ cls := "LuckCratesModel", name := "luckiest", desc := "(I)I" } : Jvm.MethodName) ({ cls := "LuckCratesModel", name := "luckiest", desc := "(I)I" } : Jvm.MethodName)) ∈ lw_all := lw_g (lw_at lw_m9 29 rfl) rfl
theorem q2058 : (Jvm.Cond.code ({ cls := "LuckCratesModel", name := "luckiest", desc := "(I)I" } : Jvm.MethodName) prog_13_method_79_code (4 : Nat) (Option.some Jvm.ClassFile.FieldType.int)) ∈ lw_all := lw_g (lw_at lw_m9 30 rfl) rfl
theorem q2060 : (Jvm.Cond.instanceMethod ({ cls := "LuckCratesModel", name := "streak", desc := "(II)I" } : Jvm.MethodName)) ∈ lw_all := lw_g (lw_at lw_m9 32 rfl) rfl
theorem q2061 : (Jvm.Cond.selects "LuckCratesModel" ({ cls := "LuckCratesModel", name := "streak", desc := "(II)I" } : Jvm.MethodName) ({ cls := "LuckCratesModel", name := "streak", desc := "(II)I" } : Jvm.MethodName)) ∈ lw_all := lw_g (lw_at lw_m9 33 rfl) rfl
theorem q2062 : (Jvm.Cond.code ({ cls := "LuckCratesModel", name := "streak", desc := "(II)I" } : Jvm.MethodName) prog_13_method_80_code (6 : Nat) (Option.some Jvm.ClassFile.FieldType.int)) ∈ lw_all := lw_g (lw_at lw_m9 34 rfl) rfl
theorem q2064 : (Jvm.Cond.instanceMethod ({ cls := "LuckCratesModel", name := "day", desc := "(II)I" } : Jvm.MethodName)) ∈ lw_all := lw_g (lw_at lw_m9 36 rfl) rfl
theorem q2065 : (Jvm.Cond.selects "LuckCratesModel" ({ cls := "LuckCratesModel", name := "day", desc := "(II)I" } : Jvm.MethodName) ({ cls := "LuckCratesModel", name := "day", desc := "(II)I" } : Jvm.MethodName)) ∈ lw_all := lw_g (lw_at lw_m9 37 rfl) rfl
theorem q2066 : (Jvm.Cond.code ({ cls := "LuckCratesModel", name := "day", desc := "(II)I" } : Jvm.MethodName) prog_13_method_81_code (8 : Nat) (Option.some Jvm.ClassFile.FieldType.int)) ∈ lw_all := lw_g (lw_at lw_m9 38 rfl) rfl
theorem q2068 : (Jvm.Cond.instanceMethod ({ cls := "LuckCratesModel", name := "far", desc := "(II)I" } : Jvm.MethodName)) ∈ lw_all := lw_g (lw_at lw_m9 40 rfl) rfl
theorem q2069 : (Jvm.Cond.selects "LuckCratesModel" ({ cls := "LuckCratesModel", name := "far", desc := "(II)I" } : Jvm.MethodName) ({ cls := "LuckCratesModel", name := "far", desc := "(II)I" } : Jvm.MethodName)) ∈ lw_all := lw_g (lw_at lw_m9 41 rfl) rfl
theorem q2070 : (Jvm.Cond.code ({ cls := "LuckCratesModel", name := "far", desc := "(II)I" } : Jvm.MethodName) prog_13_method_84_code (3 : Nat) (Option.some Jvm.ClassFile.FieldType.int)) ∈ lw_all := lw_g (lw_at lw_m9 42 rfl) rfl
theorem q2071 : (Jvm.Cond.methodLink "LuckCratesModel" (396 : Nat) ({ cls := "LuckCratesModel", name := "measures", desc := "(I)V" } : Jvm.MethodName)) ∈ lw_all := lw_g (lw_at lw_m9 43 rfl) rfl
theorem q2072 : (Jvm.Cond.privateMethod ({ cls := "LuckCratesModel", name := "measures", desc := "(I)V" } : Jvm.MethodName)) ∈ lw_tbl := lw_at lw_m9 44 rfl
theorem q2073 : (Jvm.Cond.instanceMethod ({ cls := "LuckCratesModel", name := "measures", desc := "(I)V" } : Jvm.MethodName)) ∈ lw_all := lw_g (lw_at lw_m9 45 rfl) rfl
theorem q2074 : (Jvm.Cond.code ({ cls := "LuckCratesModel", name := "measures", desc := "(I)V" } : Jvm.MethodName) prog_13_method_82_code (5 : Nat) (Option.none : Option Jvm.ClassFile.FieldType)) ∈ lw_all := lw_g (lw_at lw_m9 46 rfl) rfl
theorem q2075 : (Jvm.Cond.constant "LuckCratesModel" (395 : Nat) (99999 : Int32)) ∈ lw_all := lw_g (lw_at lw_m9 47 rfl) rfl
theorem q2076 : (Jvm.Cond.methodLink "LuckCratesModel" (399 : Nat) ({ cls := "LuckCratesModel", name := "orNone", desc := "(I)I" } : Jvm.MethodName)) ∈ lw_all := lw_g (lw_at lw_m9 48 rfl) rfl
theorem q2077 : (Jvm.Cond.static ({ cls := "LuckCratesModel", name := "orNone", desc := "(I)I" } : Jvm.MethodName)) ∈ lw_all := lw_g (lw_at lw_m9 49 rfl) rfl
theorem q2078 : (Jvm.Cond.code ({ cls := "LuckCratesModel", name := "orNone", desc := "(I)I" } : Jvm.MethodName) prog_13_method_83_code (1 : Nat) (Option.some Jvm.ClassFile.FieldType.int)) ∈ lw_all := lw_g (lw_at lw_m9 50 rfl) rfl
theorem q2080 : (Jvm.Cond.instanceMethod ({ cls := "LuckCratesModel", name := "leak", desc := "(II)I" } : Jvm.MethodName)) ∈ lw_all := lw_g (lw_at lw_m9 52 rfl) rfl
theorem q2081 : (Jvm.Cond.selects "LuckCratesModel" ({ cls := "LuckCratesModel", name := "leak", desc := "(II)I" } : Jvm.MethodName) ({ cls := "LuckCratesModel", name := "leak", desc := "(II)I" } : Jvm.MethodName)) ∈ lw_all := lw_g (lw_at lw_m9 53 rfl) rfl
theorem q2082 : (Jvm.Cond.code ({ cls := "LuckCratesModel", name := "leak", desc := "(II)I" } : Jvm.MethodName) prog_13_method_85_code (3 : Nat) (Option.some Jvm.ClassFile.FieldType.int)) ∈ lw_all := lw_g (lw_at lw_m9 54 rfl) rfl
theorem q2084 : (Jvm.Cond.instanceMethod ({ cls := "LuckCratesModel", name := "sending", desc := "(II)I" } : Jvm.MethodName)) ∈ lw_all := lw_g (lw_at lw_m9 56 rfl) rfl
theorem q2085 : (Jvm.Cond.selects "LuckCratesModel" ({ cls := "LuckCratesModel", name := "sending", desc := "(II)I" } : Jvm.MethodName) ({ cls := "LuckCratesModel", name := "sending", desc := "(II)I" } : Jvm.MethodName)) ∈ lw_all := lw_g (lw_at lw_m9 57 rfl) rfl
theorem q2086 : (Jvm.Cond.code ({ cls := "LuckCratesModel", name := "sending", desc := "(II)I" } : Jvm.MethodName) prog_13_method_87_code (8 : Nat) (Option.some Jvm.ClassFile.FieldType.int)) ∈ lw_all := lw_g (lw_at lw_m9 58 rfl) rfl
theorem q2087 : (Jvm.Cond.methodLink "LuckCratesModel" (402 : Nat) ({ cls := "LuckCratesModel", name := "comesTo", desc := "(II)I" } : Jvm.MethodName)) ∈ lw_all := lw_g (lw_at lw_m9 59 rfl) rfl
theorem q2088 : (Jvm.Cond.privateMethod ({ cls := "LuckCratesModel", name := "comesTo", desc := "(II)I" } : Jvm.MethodName)) ∈ lw_tbl := lw_at lw_m9 60 rfl
theorem q2089 : (Jvm.Cond.instanceMethod ({ cls := "LuckCratesModel", name := "comesTo", desc := "(II)I" } : Jvm.MethodName)) ∈ lw_all := lw_g (lw_at lw_m9 61 rfl) rfl
theorem q2090 : (Jvm.Cond.code ({ cls := "LuckCratesModel", name := "comesTo", desc := "(II)I" } : Jvm.MethodName) prog_13_method_86_code (5 : Nat) (Option.some Jvm.ClassFile.FieldType.int)) ∈ lw_all := lw_g (lw_at lw_m9 62 rfl) rfl
theorem q2092 : (Jvm.Cond.instanceMethod ({ cls := "LuckCratesModel", name := "row", desc := "(III)I" } : Jvm.MethodName)) ∈ lw_all := lw_g (lw_at lw_m9 64 rfl) rfl
theorem q2093 : (Jvm.Cond.selects "LuckCratesModel" ({ cls := "LuckCratesModel", name := "row", desc := "(III)I" } : Jvm.MethodName) ({ cls := "LuckCratesModel", name := "row", desc := "(III)I" } : Jvm.MethodName)) ∈ lw_all := lw_g (lw_at lw_m9 65 rfl) rfl
theorem q2094 : (Jvm.Cond.code ({ cls := "LuckCratesModel", name := "row", desc := "(III)I" } : Jvm.MethodName) prog_13_method_89_code (6 : Nat) (Option.some Jvm.ClassFile.FieldType.int)) ∈ lw_all := lw_g (lw_at lw_m9 66 rfl) rfl
theorem q2095 : (Jvm.Cond.methodLink "LuckCratesModel" (405 : Nat) ({ cls := "LuckCratesModel", name := "nextOn", desc := "(II)I" } : Jvm.MethodName)) ∈ lw_all := lw_g (lw_at lw_m9 67 rfl) rfl
theorem q2096 : (Jvm.Cond.privateMethod ({ cls := "LuckCratesModel", name := "nextOn", desc := "(II)I" } : Jvm.MethodName)) ∈ lw_tbl := lw_at lw_m9 68 rfl
theorem q2097 : (Jvm.Cond.instanceMethod ({ cls := "LuckCratesModel", name := "nextOn", desc := "(II)I" } : Jvm.MethodName)) ∈ lw_all := lw_g (lw_at lw_m9 69 rfl) rfl
theorem q2098 : (Jvm.Cond.code ({ cls := "LuckCratesModel", name := "nextOn", desc := "(II)I" } : Jvm.MethodName) prog_13_method_88_code (6 : Nat) (Option.some Jvm.ClassFile.FieldType.int)) ∈ lw_all := lw_g (lw_at lw_m9 70 rfl) rfl
theorem q2100 : (Jvm.Cond.instanceMethod ({ cls := "LuckCratesModel", name := "hub", desc := "()I" } : Jvm.MethodName)) ∈ lw_all := lw_g (lw_at lw_m9 72 rfl) rfl
theorem q2101 : (Jvm.Cond.selects "LuckCratesModel" ({ cls := "LuckCratesModel", name := "hub", desc := "()I" } : Jvm.MethodName) ({ cls := "LuckCratesModel", name := "hub", desc := "()I" } : Jvm.MethodName)) ∈ lw_all := lw_g (lw_at lw_m9 73 rfl) rfl
theorem q2102 : (Jvm.Cond.code ({ cls := "LuckCratesModel", name := "hub", desc := "()I" } : Jvm.MethodName) prog_13_method_90_code (6 : Nat) (Option.some Jvm.ClassFile.FieldType.int)) ∈ lw_all := lw_g (lw_at lw_m9 74 rfl) rfl
theorem q2104 : (Jvm.Cond.instanceMethod ({ cls := "LuckCratesModel", name := "bridge", desc := "(I)Z" } : Jvm.MethodName)) ∈ lw_all := lw_g (lw_at lw_m9 76 rfl) rfl
theorem q2105 : (Jvm.Cond.selects "LuckCratesModel" ({ cls := "LuckCratesModel", name := "bridge", desc := "(I)Z" } : Jvm.MethodName) ({ cls := "LuckCratesModel", name := "bridge", desc := "(I)Z" } : Jvm.MethodName)) ∈ lw_all := lw_g (lw_at lw_m9 77 rfl) rfl
theorem q2106 : (Jvm.Cond.code ({ cls := "LuckCratesModel", name := "bridge", desc := "(I)Z" } : Jvm.MethodName) prog_13_method_91_code (2 : Nat) (Option.some Jvm.ClassFile.FieldType.boolean)) ∈ lw_all := lw_g (lw_at lw_m9 78 rfl) rfl
theorem q2108 : (Jvm.Cond.instanceMethod ({ cls := "LuckCratesModel", name := "spoilt", desc := "()I" } : Jvm.MethodName)) ∈ lw_all := lw_g (lw_at lw_m9 80 rfl) rfl
theorem q2109 : (Jvm.Cond.selects "LuckCratesModel" ({ cls := "LuckCratesModel", name := "spoilt", desc := "()I" } : Jvm.MethodName) ({ cls := "LuckCratesModel", name := "spoilt", desc := "()I" } : Jvm.MethodName)) ∈ lw_all := lw_g (lw_at lw_m9 81 rfl) rfl
theorem q2110 : (Jvm.Cond.code ({ cls := "LuckCratesModel", name := "spoilt", desc := "()I" } : Jvm.MethodName) prog_13_method_92_code (4 : Nat) (Option.some Jvm.ClassFile.FieldType.int)) ∈ lw_all := lw_g (lw_at lw_m9 82 rfl) rfl
theorem q2112 : (Jvm.Cond.instanceMethod ({ cls := "LuckCratesModel", name := "hold", desc := "(II)I" } : Jvm.MethodName)) ∈ lw_all := lw_g (lw_at lw_m9 84 rfl) rfl
theorem q2113 : (Jvm.Cond.selects "LuckCratesModel" ({ cls := "LuckCratesModel", name := "hold", desc := "(II)I" } : Jvm.MethodName) ({ cls := "LuckCratesModel", name := "hold", desc := "(II)I" } : Jvm.MethodName)) ∈ lw_all := lw_g (lw_at lw_m9 85 rfl) rfl
theorem q2114 : (Jvm.Cond.code ({ cls := "LuckCratesModel", name := "hold", desc := "(II)I" } : Jvm.MethodName) prog_13_method_95_code (12 : Nat) (Option.some Jvm.ClassFile.FieldType.int)) ∈ lw_all := lw_g (lw_at lw_m9 86 rfl) rfl
theorem q2115 : (Jvm.Cond.methodLink "LuckCratesModel" (411 : Nat) ({ cls := "LuckCratesModel", name := "laysHold", desc := "(I)V" } : Jvm.MethodName)) ∈ lw_all := lw_g (lw_at lw_m9 87 rfl) rfl
theorem q2116 : (Jvm.Cond.privateMethod ({ cls := "LuckCratesModel", name := "laysHold", desc := "(I)V" } : Jvm.MethodName)) ∈ lw_tbl := lw_at lw_m9 88 rfl
theorem q2117 : (Jvm.Cond.instanceMethod ({ cls := "LuckCratesModel", name := "laysHold", desc := "(I)V" } : Jvm.MethodName)) ∈ lw_all := lw_g (lw_at lw_m9 89 rfl) rfl
theorem q2118 : (Jvm.Cond.code ({ cls := "LuckCratesModel", name := "laysHold", desc := "(I)V" } : Jvm.MethodName) prog_13_method_94_code (6 : Nat) (Option.none : Option Jvm.ClassFile.FieldType)) ∈ lw_all := lw_g (lw_at lw_m9 90 rfl) rfl
theorem q2119 : (Jvm.Cond.methodLink "LuckCratesModel" (408 : Nat) ({ cls := "LuckCratesModel", name := "harms", desc := "(II)I" } : Jvm.MethodName)) ∈ lw_all := lw_g (lw_at lw_m9 91 rfl) rfl
theorem q2120 : (Jvm.Cond.privateMethod ({ cls := "LuckCratesModel", name := "harms", desc := "(II)I" } : Jvm.MethodName)) ∈ lw_tbl := lw_at lw_m9 92 rfl
theorem q2121 : (Jvm.Cond.instanceMethod ({ cls := "LuckCratesModel", name := "harms", desc := "(II)I" } : Jvm.MethodName)) ∈ lw_all := lw_g (lw_at lw_m9 93 rfl) rfl
theorem q2122 : (Jvm.Cond.code ({ cls := "LuckCratesModel", name := "harms", desc := "(II)I" } : Jvm.MethodName) prog_13_method_93_code (3 : Nat) (Option.some Jvm.ClassFile.FieldType.int)) ∈ lw_all := lw_g (lw_at lw_m9 94 rfl) rfl
theorem q2124 : (Jvm.Cond.instanceMethod ({ cls := "LuckCratesModel", name := "thrower", desc := "(IIII)I" } : Jvm.MethodName)) ∈ lw_all := lw_g (lw_at lw_m9 96 rfl) rfl
theorem q2125 : (Jvm.Cond.selects "LuckCratesModel" ({ cls := "LuckCratesModel", name := "thrower", desc := "(IIII)I" } : Jvm.MethodName) ({ cls := "LuckCratesModel", name := "thrower", desc := "(IIII)I" } : Jvm.MethodName)) ∈ lw_all := lw_g (lw_at lw_m9 97 rfl) rfl
theorem q2126 : (Jvm.Cond.code ({ cls := "LuckCratesModel", name := "thrower", desc := "(IIII)I" } : Jvm.MethodName) prog_13_method_97_code (8 : Nat) (Option.some Jvm.ClassFile.FieldType.int)) ∈ lw_all := lw_g (lw_at lw_m9 98 rfl) rfl
theorem q2127 : (Jvm.Cond.methodLink "LuckCratesModel" (414 : Nat) ({ cls := "LuckCratesModel", name := "power", desc := "(I)I" } : Jvm.MethodName)) ∈ lw_all := lw_g (lw_at lw_m9 99 rfl) rfl
theorem q2128 : (Jvm.Cond.static ({ cls := "LuckCratesModel", name := "power", desc := "(I)I" } : Jvm.MethodName)) ∈ lw_all := lw_g (lw_at lw_m9 100 rfl) rfl
theorem q2129 : (Jvm.Cond.code ({ cls := "LuckCratesModel", name := "power", desc := "(I)I" } : Jvm.MethodName) prog_13_method_96_code (3 : Nat) (Option.some Jvm.ClassFile.FieldType.int)) ∈ lw_all := lw_g (lw_at lw_m9 101 rfl) rfl
theorem q2131 : (Jvm.Cond.instanceMethod ({ cls := "LuckCratesModel", name := "stop", desc := "(IIII)I" } : Jvm.MethodName)) ∈ lw_all := lw_g (lw_at lw_m9 103 rfl) rfl
theorem q2132 : (Jvm.Cond.selects "LuckCratesModel" ({ cls := "LuckCratesModel", name := "stop", desc := "(IIII)I" } : Jvm.MethodName) ({ cls := "LuckCratesModel", name := "stop", desc := "(IIII)I" } : Jvm.MethodName)) ∈ lw_all := lw_g (lw_at lw_m9 104 rfl) rfl
theorem q2133 : (Jvm.Cond.code ({ cls := "LuckCratesModel", name := "stop", desc := "(IIII)I" } : Jvm.MethodName) prog_13_method_98_code (11 : Nat) (Option.some Jvm.ClassFile.FieldType.int)) ∈ lw_all := lw_g (lw_at lw_m9 105 rfl) rfl
theorem q2135 : (Jvm.Cond.instanceMethod ({ cls := "LuckCratesModel", name := "see", desc := "(III)I" } : Jvm.MethodName)) ∈ lw_all := lw_g (lw_at lw_m9 107 rfl) rfl
theorem q2136 : (Jvm.Cond.selects "LuckCratesModel" ({ cls := "LuckCratesModel", name := "see", desc := "(III)I" } : Jvm.MethodName) ({ cls := "LuckCratesModel", name := "see", desc := "(III)I" } : Jvm.MethodName)) ∈ lw_all := lw_g (lw_at lw_m9 108 rfl) rfl
theorem q2137 : (Jvm.Cond.code ({ cls := "LuckCratesModel", name := "see", desc := "(III)I" } : Jvm.MethodName) prog_13_method_99_code (4 : Nat) (Option.some Jvm.ClassFile.FieldType.int)) ∈ lw_all := lw_g (lw_at lw_m9 109 rfl) rfl
theorem q2139 : (Jvm.Cond.instanceMethod ({ cls := "LuckCratesModel", name := "forget", desc := "()V" } : Jvm.MethodName)) ∈ lw_all := lw_g (lw_at lw_m9 111 rfl) rfl
theorem q2140 : (Jvm.Cond.selects "LuckCratesModel" ({ cls := "LuckCratesModel", name := "forget", desc := "()V" } : Jvm.MethodName) ({ cls := "LuckCratesModel", name := "forget", desc := "()V" } : Jvm.MethodName)) ∈ lw_all := lw_g (lw_at lw_m9 112 rfl) rfl
theorem q2141 : (Jvm.Cond.code ({ cls := "LuckCratesModel", name := "forget", desc := "()V" } : Jvm.MethodName) prog_13_method_100_code (1 : Nat) (Option.none : Option Jvm.ClassFile.FieldType)) ∈ lw_all := lw_g (lw_at lw_m9 113 rfl) rfl
theorem q2143 : (Jvm.Cond.instanceMethod ({ cls := "LuckCratesModel", name := "opened", desc := "(I)I" } : Jvm.MethodName)) ∈ lw_all := lw_g (lw_at lw_m9 115 rfl) rfl
theorem q2144 : (Jvm.Cond.selects "LuckCratesModel" ({ cls := "LuckCratesModel", name := "opened", desc := "(I)I" } : Jvm.MethodName) ({ cls := "LuckCratesModel", name := "opened", desc := "(I)I" } : Jvm.MethodName)) ∈ lw_all := lw_g (lw_at lw_m9 116 rfl) rfl
theorem q2145 : (Jvm.Cond.code ({ cls := "LuckCratesModel", name := "opened", desc := "(I)I" } : Jvm.MethodName) prog_13_method_103_code (5 : Nat) (Option.some Jvm.ClassFile.FieldType.int)) ∈ lw_all := lw_g (lw_at lw_m9 117 rfl) rfl
theorem q2146 : (Jvm.Cond.methodLink "LuckCratesModel" (417 : Nat) ({ cls := "LuckCratesModel", name := "isSeen", desc := "(II)Z" } : Jvm.MethodName)) ∈ lw_all := lw_g (lw_at lw_m9 118 rfl) rfl
theorem q2147 : (Jvm.Cond.privateMethod ({ cls := "LuckCratesModel", name := "isSeen", desc := "(II)Z" } : Jvm.MethodName)) ∈ lw_tbl := lw_at lw_m9 119 rfl
theorem q2148 : (Jvm.Cond.instanceMethod ({ cls := "LuckCratesModel", name := "isSeen", desc := "(II)Z" } : Jvm.MethodName)) ∈ lw_all := lw_g (lw_at lw_m9 120 rfl) rfl
theorem q2149 : (Jvm.Cond.code ({ cls := "LuckCratesModel", name := "isSeen", desc := "(II)Z" } : Jvm.MethodName) prog_13_method_101_code (5 : Nat) (Option.some Jvm.ClassFile.FieldType.boolean)) ∈ lw_all := lw_g (lw_at lw_m9 121 rfl) rfl
theorem q2150 : (Jvm.Cond.methodLink "LuckCratesModel" (420 : Nat) ({ cls := "LuckCratesModel", name := "isGuess", desc := "(I)Z" } : Jvm.MethodName)) ∈ lw_all := lw_g (lw_at lw_m9 122 rfl) rfl
theorem q2151 : (Jvm.Cond.privateMethod ({ cls := "LuckCratesModel", name := "isGuess", desc := "(I)Z" } : Jvm.MethodName)) ∈ lw_tbl := lw_at lw_m9 123 rfl
theorem q2152 : (Jvm.Cond.instanceMethod ({ cls := "LuckCratesModel", name := "isGuess", desc := "(I)Z" } : Jvm.MethodName)) ∈ lw_all := lw_g (lw_at lw_m9 124 rfl) rfl
theorem q2153 : (Jvm.Cond.code ({ cls := "LuckCratesModel", name := "isGuess", desc := "(I)Z" } : Jvm.MethodName) prog_13_method_102_code (2 : Nat) (Option.some Jvm.ClassFile.FieldType.boolean)) ∈ lw_all := lw_g (lw_at lw_m9 125 rfl) rfl
theorem q2155 : (Jvm.Cond.instanceMethod ({ cls := "LuckCratesModel", name := "next", desc := "(I)I" } : Jvm.MethodName)) ∈ lw_all := lw_g (lw_at lw_m9 127 rfl) rfl
theorem q2156 : (Jvm.Cond.selects "LuckCratesModel" ({ cls := "LuckCratesModel", name := "next", desc := "(I)I" } : Jvm.MethodName) ({ cls := "LuckCratesModel", name := "next", desc := "(I)I" } : Jvm.MethodName)) ∈ lw_all := lw_g (lw_at lw_m9 128 rfl) rfl
theorem q2157 : (Jvm.Cond.code ({ cls := "LuckCratesModel", name := "next", desc := "(I)I" } : Jvm.MethodName) prog_13_method_105_code (10 : Nat) (Option.some Jvm.ClassFile.FieldType.int)) ∈ lw_all := lw_g (lw_at lw_m9 129 rfl) rfl
theorem q2158 : (Jvm.Cond.methodLink "LuckCratesModel" (423 : Nat) ({ cls := "LuckCratesModel", name := "areLike", desc := "(III)Z" } : Jvm.MethodName)) ∈ lw_all := lw_g (lw_at lw_m9 130 rfl) rfl
theorem q2159 : (Jvm.Cond.privateMethod ({ cls := "LuckCratesModel", name := "areLike", desc := "(III)Z" } : Jvm.MethodName)) ∈ lw_tbl := lw_at lw_m9 131 rfl
theorem q2160 : (Jvm.Cond.instanceMethod ({ cls := "LuckCratesModel", name := "areLike", desc := "(III)Z" } : Jvm.MethodName)) ∈ lw_all := lw_g (lw_at lw_m9 132 rfl) rfl
theorem q2161 : (Jvm.Cond.code ({ cls := "LuckCratesModel", name := "areLike", desc := "(III)Z" } : Jvm.MethodName) prog_13_method_104_code (5 : Nat) (Option.some Jvm.ClassFile.FieldType.boolean)) ∈ lw_all := lw_g (lw_at lw_m9 133 rfl) rfl
theorem q2163 : (Jvm.Cond.instanceMethod ({ cls := "LuckCratesModel", name := "pooled", desc := "(I)I" } : Jvm.MethodName)) ∈ lw_all := lw_g (lw_at lw_m9 135 rfl) rfl
theorem q2164 : (Jvm.Cond.selects "LuckCratesModel" ({ cls := "LuckCratesModel", name := "pooled", desc := "(I)I" } : Jvm.MethodName) ({ cls := "LuckCratesModel", name := "pooled", desc := "(I)I" } : Jvm.MethodName)) ∈ lw_all := lw_g (lw_at lw_m9 136 rfl) rfl
theorem q2165 : (Jvm.Cond.code ({ cls := "LuckCratesModel", name := "pooled", desc := "(I)I" } : Jvm.MethodName) prog_13_method_106_code (4 : Nat) (Option.some Jvm.ClassFile.FieldType.int)) ∈ lw_all := lw_g (lw_at lw_m9 137 rfl) rfl
theorem q2167 : (Jvm.Cond.instanceMethod ({ cls := "LuckCratesModel", name := "missed", desc := "()I" } : Jvm.MethodName)) ∈ lw_all := lw_g (lw_at lw_m9 139 rfl) rfl
theorem q2168 : (Jvm.Cond.selects "LuckCratesModel" ({ cls := "LuckCratesModel", name := "missed", desc := "()I" } : Jvm.MethodName) ({ cls := "LuckCratesModel", name := "missed", desc := "()I" } : Jvm.MethodName)) ∈ lw_all := lw_g (lw_at lw_m9 140 rfl) rfl
theorem q2169 : (Jvm.Cond.code ({ cls := "LuckCratesModel", name := "missed", desc := "()I" } : Jvm.MethodName) prog_13_method_107_code (5 : Nat) (Option.some Jvm.ClassFile.FieldType.int)) ∈ lw_all := lw_g (lw_at lw_m9 141 rfl) rfl
theorem q2171 : (Jvm.Cond.instanceMethod ({ cls := "LuckCratesModel", name := "game", desc := "(III)I" } : Jvm.MethodName)) ∈ lw_all := lw_g (lw_at lw_m9 143 rfl) rfl
theorem q2172 : (Jvm.Cond.selects "LuckCratesModel" ({ cls := "LuckCratesModel", name := "game", desc := "(III)I" } : Jvm.MethodName) ({ cls := "LuckCratesModel", name := "game", desc := "(III)I" } : Jvm.MethodName)) ∈ lw_all := lw_g (lw_at lw_m9 144 rfl) rfl
theorem q2173 : (Jvm.Cond.code ({ cls := "LuckCratesModel", name := "game", desc := "(III)I" } : Jvm.MethodName) prog_13_method_109_code (9 : Nat) (Option.some Jvm.ClassFile.FieldType.int)) ∈ lw_all := lw_g (lw_at lw_m9 145 rfl) rfl
theorem q2174 : (Jvm.Cond.methodLink "LuckCratesModel" (426 : Nat) ({ cls := "LuckCratesModel", name := "gains", desc := "(IIII)I" } : Jvm.MethodName)) ∈ lw_all := lw_g (lw_at lw_m9 146 rfl) rfl
theorem q2175 : (Jvm.Cond.privateMethod ({ cls := "LuckCratesModel", name := "gains", desc := "(IIII)I" } : Jvm.MethodName)) ∈ lw_tbl := lw_at lw_m9 147 rfl
theorem q2176 : (Jvm.Cond.instanceMethod ({ cls := "LuckCratesModel", name := "gains", desc := "(IIII)I" } : Jvm.MethodName)) ∈ lw_all := lw_g (lw_at lw_m9 148 rfl) rfl
theorem q2177 : (Jvm.Cond.code ({ cls := "LuckCratesModel", name := "gains", desc := "(IIII)I" } : Jvm.MethodName) prog_13_method_108_code (7 : Nat) (Option.some Jvm.ClassFile.FieldType.int)) ∈ lw_all := lw_g (lw_at lw_m9 149 rfl) rfl
theorem q2179 : (Jvm.Cond.instanceMethod ({ cls := "LuckCratesModel", name := "years", desc := "(III)I" } : Jvm.MethodName)) ∈ lw_all := lw_g (lw_at lw_m9 151 rfl) rfl
theorem q2180 : (Jvm.Cond.selects "LuckCratesModel" ({ cls := "LuckCratesModel", name := "years", desc := "(III)I" } : Jvm.MethodName) ({ cls := "LuckCratesModel", name := "years", desc := "(III)I" } : Jvm.MethodName)) ∈ lw_all := lw_g (lw_at lw_m9 152 rfl) rfl
theorem q2181 : (Jvm.Cond.code ({ cls := "LuckCratesModel", name := "years", desc := "(III)I" } : Jvm.MethodName) prog_13_method_112_code (7 : Nat) (Option.some Jvm.ClassFile.FieldType.int)) ∈ lw_all := lw_g (lw_at lw_m9 153 rfl) rfl
theorem q2182 : (Jvm.Cond.methodLink "LuckCratesModel" (437 : Nat) ({ cls := "LuckCratesModel", name := "steals", desc := "()V" } : Jvm.MethodName)) ∈ lw_all := lw_g (lw_at lw_m9 154 rfl) rfl
theorem q2183 : (Jvm.Cond.privateMethod ({ cls := "LuckCratesModel", name := "steals", desc := "()V" } : Jvm.MethodName)) ∈ lw_tbl := lw_at lw_m9 155 rfl
theorem q2184 : (Jvm.Cond.instanceMethod ({ cls := "LuckCratesModel", name := "steals", desc := "()V" } : Jvm.MethodName)) ∈ lw_all := lw_g (lw_at lw_m9 156 rfl) rfl
theorem q2185 : (Jvm.Cond.code ({ cls := "LuckCratesModel", name := "steals", desc := "()V" } : Jvm.MethodName) prog_13_method_111_code (2 : Nat) (Option.none : Option Jvm.ClassFile.FieldType)) ∈ lw_all := lw_g (lw_at lw_m9 157 rfl) rfl
theorem q2186 : (Jvm.Cond.methodLink "LuckCratesModel" (434 : Nat) ({ cls := "LuckCratesModel", name := "draw", desc := "(I)I" } : Jvm.MethodName)) ∈ lw_all := lw_g (lw_at lw_m9 158 rfl) rfl
theorem q2187 : (Jvm.Cond.privateMethod ({ cls := "LuckCratesModel", name := "draw", desc := "(I)I" } : Jvm.MethodName)) ∈ lw_tbl := lw_at lw_m9 159 rfl
theorem q2188 : (Jvm.Cond.instanceMethod ({ cls := "LuckCratesModel", name := "draw", desc := "(I)I" } : Jvm.MethodName)) ∈ lw_all := lw_g (lw_at lw_m9 160 rfl) rfl
theorem q2189 : (Jvm.Cond.code ({ cls := "LuckCratesModel", name := "draw", desc := "(I)I" } : Jvm.MethodName) prog_13_method_110_code (2 : Nat) (Option.some Jvm.ClassFile.FieldType.int)) ∈ lw_all := lw_g (lw_at lw_m9 161 rfl) rfl
theorem q2190 : (Jvm.Cond.constant "LuckCratesModel" (433 : Nat) (1103515245 : Int32)) ∈ lw_all := lw_g (lw_at lw_m9 162 rfl) rfl
theorem q2192 : (Jvm.Cond.instanceMethod ({ cls := "LuckCratesModel", name := "thief", desc := "(II)I" } : Jvm.MethodName)) ∈ lw_all := lw_g (lw_at lw_m9 164 rfl) rfl
theorem q2193 : (Jvm.Cond.selects "LuckCratesModel" ({ cls := "LuckCratesModel", name := "thief", desc := "(II)I" } : Jvm.MethodName) ({ cls := "LuckCratesModel", name := "thief", desc := "(II)I" } : Jvm.MethodName)) ∈ lw_all := lw_g (lw_at lw_m9 165 rfl) rfl
theorem q2194 : (Jvm.Cond.code ({ cls := "LuckCratesModel", name := "thief", desc := "(II)I" } : Jvm.MethodName) prog_13_method_114_code (7 : Nat) (Option.some Jvm.ClassFile.FieldType.int)) ∈ lw_all := lw_g (lw_at lw_m9 166 rfl) rfl
theorem q2195 : (Jvm.Cond.methodLink "LuckCratesModel" (440 : Nat) ({ cls := "LuckCratesModel", name := "grainsOf", desc := "(II)I" } : Jvm.MethodName)) ∈ lw_all := lw_g (lw_at lw_m9 167 rfl) rfl
theorem q2196 : (Jvm.Cond.privateMethod ({ cls := "LuckCratesModel", name := "grainsOf", desc := "(II)I" } : Jvm.MethodName)) ∈ lw_tbl := lw_at lw_m9 168 rfl
theorem q2197 : (Jvm.Cond.instanceMethod ({ cls := "LuckCratesModel", name := "grainsOf", desc := "(II)I" } : Jvm.MethodName)) ∈ lw_all := lw_g (lw_at lw_m9 169 rfl) rfl
theorem q2198 : (Jvm.Cond.code ({ cls := "LuckCratesModel", name := "grainsOf", desc := "(II)I" } : Jvm.MethodName) prog_13_method_113_code (5 : Nat) (Option.some Jvm.ClassFile.FieldType.int)) ∈ lw_all := lw_g (lw_at lw_m9 170 rfl) rfl
theorem q2200 : (Jvm.Cond.instanceMethod ({ cls := "LuckCratesModel", name := "level", desc := "(I)I" } : Jvm.MethodName)) ∈ lw_all := lw_g (lw_at lw_m9 172 rfl) rfl
theorem q2201 : (Jvm.Cond.selects "LuckCratesModel" ({ cls := "LuckCratesModel", name := "level", desc := "(I)I" } : Jvm.MethodName) ({ cls := "LuckCratesModel", name := "level", desc := "(I)I" } : Jvm.MethodName)) ∈ lw_all := lw_g (lw_at lw_m9 173 rfl) rfl
theorem q2202 : (Jvm.Cond.code ({ cls := "LuckCratesModel", name := "level", desc := "(I)I" } : Jvm.MethodName) prog_13_method_116_code (6 : Nat) (Option.some Jvm.ClassFile.FieldType.int)) ∈ lw_all := lw_g (lw_at lw_m9 174 rfl) rfl
theorem q2203 : (Jvm.Cond.methodLink "LuckCratesModel" (443 : Nat) ({ cls := "LuckCratesModel", name := "offBy", desc := "(II)I" } : Jvm.MethodName)) ∈ lw_all := lw_g (lw_at lw_m9 175 rfl) rfl
theorem q2204 : (Jvm.Cond.privateMethod ({ cls := "LuckCratesModel", name := "offBy", desc := "(II)I" } : Jvm.MethodName)) ∈ lw_tbl := lw_at lw_m9 176 rfl
theorem q2205 : (Jvm.Cond.instanceMethod ({ cls := "LuckCratesModel", name := "offBy", desc := "(II)I" } : Jvm.MethodName)) ∈ lw_all := lw_g (lw_at lw_m9 177 rfl) rfl
theorem q2206 : (Jvm.Cond.code ({ cls := "LuckCratesModel", name := "offBy", desc := "(II)I" } : Jvm.MethodName) prog_13_method_115_code (4 : Nat) (Option.some Jvm.ClassFile.FieldType.int)) ∈ lw_all := lw_g (lw_at lw_m9 178 rfl) rfl
theorem q2208 : (Jvm.Cond.instanceMethod ({ cls := "LuckCratesModel", name := "lend", desc := "(I)I" } : Jvm.MethodName)) ∈ lw_all := lw_g (lw_at lw_m9 180 rfl) rfl
theorem q2209 : (Jvm.Cond.selects "LuckCratesModel" ({ cls := "LuckCratesModel", name := "lend", desc := "(I)I" } : Jvm.MethodName) ({ cls := "LuckCratesModel", name := "lend", desc := "(I)I" } : Jvm.MethodName)) ∈ lw_all := lw_g (lw_at lw_m9 181 rfl) rfl
theorem q2210 : (Jvm.Cond.code ({ cls := "LuckCratesModel", name := "lend", desc := "(I)I" } : Jvm.MethodName) prog_13_method_117_code (4 : Nat) (Option.some Jvm.ClassFile.FieldType.int)) ∈ lw_all := lw_g (lw_at lw_m9 182 rfl) rfl
theorem q2212 : (Jvm.Cond.instanceMethod ({ cls := "LuckCratesModel", name := "image", desc := "()V" } : Jvm.MethodName)) ∈ lw_all := lw_g (lw_at lw_m9 184 rfl) rfl
theorem q2213 : (Jvm.Cond.selects "LuckCratesModel" ({ cls := "LuckCratesModel", name := "image", desc := "()V" } : Jvm.MethodName) ({ cls := "LuckCratesModel", name := "image", desc := "()V" } : Jvm.MethodName)) ∈ lw_all := lw_g (lw_at lw_m9 185 rfl) rfl
theorem q2214 : (Jvm.Cond.code ({ cls := "LuckCratesModel", name := "image", desc := "()V" } : Jvm.MethodName) prog_13_method_118_code (2 : Nat) (Option.none : Option Jvm.ClassFile.FieldType)) ∈ lw_all := lw_g (lw_at lw_m9 186 rfl) rfl
theorem q2216 : (Jvm.Cond.instanceMethod ({ cls := "LuckCratesModel", name := "restore", desc := "()Z" } : Jvm.MethodName)) ∈ lw_all := lw_g (lw_at lw_m9 188 rfl) rfl
theorem q2217 : (Jvm.Cond.selects "LuckCratesModel" ({ cls := "LuckCratesModel", name := "restore", desc := "()Z" } : Jvm.MethodName) ({ cls := "LuckCratesModel", name := "restore", desc := "()Z" } : Jvm.MethodName)) ∈ lw_all := lw_g (lw_at lw_m9 189 rfl) rfl
theorem q2218 : (Jvm.Cond.code ({ cls := "LuckCratesModel", name := "restore", desc := "()Z" } : Jvm.MethodName) prog_13_method_119_code (2 : Nat) (Option.some Jvm.ClassFile.FieldType.boolean)) ∈ lw_all := lw_g (lw_at lw_m9 190 rfl) rfl
theorem q2232 : (Jvm.Cond.castable "LuckCratesModel" "java/lang/Object") ∈ lw_tbl := lw_at lw_m9 204 rfl
theorem in_X4 : ∀ w ∈ wsX40, w ∈ lw_all := lw_in wsX40 [1629, 1631, 1633, 1635, 1637, 1639, 1641, 1643, 1645, 1647, 1649, 1651, 1653, 1655, 1657, 1659, 1661, 1663, 1665, 1667, 1669, 1671, 1673, 1675, 1677, 1679, 1681, 1683, 1685, 1687, 1689, 1691, 1693, 1695, 1697, 1699, 1701, 1703, 1705, 1707, 1709, 1711, 1713, 1715, 1717, 1719, 1721, 1723, 1725, 1727, 1729, 1731, 1733, 1735, 1737, 1739, 1741, 1743, 1745, 1747, 1749, 1751, 1753] (by decide +kernel) (by decide +kernel)
