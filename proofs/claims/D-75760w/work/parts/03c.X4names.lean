/-! names and decode rows -/
set_option maxRecDepth 100000
abbrev cX4_init : ByteArray := prog_25_method_1_code
def yX4_init : MethodName := ⟨RX4, "<init>", "()V"⟩
def dkwX4_init_9 : List UInt8 := [182, 0, 90, 177]
abbrev dktX4_init_9 : List UInt8 := dkwX4_init_9 ++ []
def dkwX4_init_8 : List UInt8 := [17, 0, 200, 188, 10, 181, 0, 81, 42, 17, 0, 200, 188, 10, 181, 0, 84, 42, 5, 182, 0, 87, 42]
abbrev dktX4_init_8 : List UInt8 := dkwX4_init_8 ++ dktX4_init_9
def dkwX4_init_7 : List UInt8 := [188, 10, 181, 0, 71, 42, 16, 120, 188, 8, 181, 0, 74, 42, 17, 0, 200, 188, 10, 181, 0, 78, 42]
abbrev dktX4_init_7 : List UInt8 := dkwX4_init_7 ++ dktX4_init_8
def dkwX4_init_6 : List UInt8 := [188, 10, 181, 0, 62, 42, 16, 14, 188, 10, 181, 0, 65, 42, 16, 24, 188, 10, 181, 0, 68, 42, 16, 40]
abbrev dktX4_init_6 : List UInt8 := dkwX4_init_6 ++ dktX4_init_7
def dkwX4_init_5 : List UInt8 := [188, 10, 181, 0, 53, 42, 16, 14, 188, 10, 181, 0, 56, 42, 16, 14, 188, 10, 181, 0, 59, 42, 16, 14]
abbrev dktX4_init_5 : List UInt8 := dkwX4_init_5 ++ dktX4_init_6
def dkwX4_init_4 : List UInt8 := [17, 3, 32, 188, 10, 181, 0, 43, 42, 2, 181, 0, 46, 42, 16, 14, 188, 10, 181, 0, 50, 42, 16, 14]
abbrev dktX4_init_4 : List UInt8 := dkwX4_init_4 ++ dktX4_init_5
def dkwX4_init_3 : List UInt8 := [42, 16, 64, 188, 10, 181, 0, 34, 42, 7, 188, 10, 181, 0, 37, 42, 7, 188, 10, 181, 0, 40, 42]
abbrev dktX4_init_3 : List UInt8 := dkwX4_init_3 ++ dktX4_init_4
def dkwX4_init_2 : List UInt8 := [181, 0, 22, 42, 7, 188, 10, 181, 0, 25, 42, 7, 188, 10, 181, 0, 28, 42, 7, 188, 10, 181, 0, 31]
abbrev dktX4_init_2 : List UInt8 := dkwX4_init_2 ++ dktX4_init_3
def dkwX4_init_1 : List UInt8 := [17, 2, 69, 188, 10, 181, 0, 16, 42, 17, 22, 178, 188, 10, 181, 0, 19, 42, 16, 64, 188, 10]
abbrev dktX4_init_1 : List UInt8 := dkwX4_init_1 ++ dktX4_init_2
def dkwX4_init_0 : List UInt8 := [42, 183, 0, 1, 42, 17, 2, 69, 188, 10, 181, 0, 7, 42, 17, 2, 69, 188, 10, 181, 0, 13, 42]
abbrev dktX4_init_0 : List UInt8 := dkwX4_init_0 ++ dktX4_init_1
theorem dksX4_init_0 : cX4_init.data.toList.drop 0 = dktX4_init_0 := by decide +kernel
theorem dksX4_init_1 : cX4_init.data.toList.drop 23 = dktX4_init_1 := dk_seg dksX4_init_0 23 rfl rfl
theorem dksX4_init_2 : cX4_init.data.toList.drop 45 = dktX4_init_2 := dk_seg dksX4_init_1 22 rfl rfl
theorem dksX4_init_3 : cX4_init.data.toList.drop 69 = dktX4_init_3 := dk_seg dksX4_init_2 24 rfl rfl
theorem dksX4_init_4 : cX4_init.data.toList.drop 92 = dktX4_init_4 := dk_seg dksX4_init_3 23 rfl rfl
theorem dksX4_init_5 : cX4_init.data.toList.drop 116 = dktX4_init_5 := dk_seg dksX4_init_4 24 rfl rfl
theorem dksX4_init_6 : cX4_init.data.toList.drop 140 = dktX4_init_6 := dk_seg dksX4_init_5 24 rfl rfl
theorem dksX4_init_7 : cX4_init.data.toList.drop 164 = dktX4_init_7 := dk_seg dksX4_init_6 24 rfl rfl
theorem dksX4_init_8 : cX4_init.data.toList.drop 187 = dktX4_init_8 := dk_seg dksX4_init_7 23 rfl rfl
theorem dksX4_init_9 : cX4_init.data.toList.drop 210 = dktX4_init_9 := dk_seg dksX4_init_8 23 rfl rfl
theorem dX4_init_0 : decode cX4_init 0 = .ok (.aload_n 0, 1) := dk_42 (dk_at dksX4_init_0 0 rfl rfl)
theorem dX4_init_1 : decode cX4_init 1 = .ok (.invokespecial 1, 3) := dk_183 0 1 (dk_at dksX4_init_0 1 rfl rfl)
theorem dX4_init_4 : decode cX4_init 4 = .ok (.aload_n 0, 1) := dk_42 (dk_at dksX4_init_0 4 rfl rfl)
theorem dX4_init_5 : decode cX4_init 5 = .ok (.sipush 581, 3) := dk_17 2 69 (dk_at dksX4_init_0 5 rfl rfl)
theorem dX4_init_8 : decode cX4_init 8 = .ok (.newarray .int, 2) := dk_188_10 (dk_at dksX4_init_0 8 rfl rfl)
theorem dX4_init_10 : decode cX4_init 10 = .ok (.putfield 7, 3) := dk_181 0 7 (dk_at dksX4_init_0 10 rfl rfl)
theorem dX4_init_13 : decode cX4_init 13 = .ok (.aload_n 0, 1) := dk_42 (dk_at dksX4_init_0 13 rfl rfl)
theorem dX4_init_14 : decode cX4_init 14 = .ok (.sipush 581, 3) := dk_17 2 69 (dk_at dksX4_init_0 14 rfl rfl)
theorem dX4_init_17 : decode cX4_init 17 = .ok (.newarray .int, 2) := dk_188_10 (dk_at dksX4_init_0 17 rfl rfl)
theorem dX4_init_19 : decode cX4_init 19 = .ok (.putfield 13, 3) := dk_181 0 13 (dk_at dksX4_init_0 19 rfl rfl)
theorem dX4_init_22 : decode cX4_init 22 = .ok (.aload_n 0, 1) := dk_42 (dk_at dksX4_init_0 22 rfl rfl)
theorem dX4_init_23 : decode cX4_init 23 = .ok (.sipush 581, 3) := dk_17 2 69 (dk_at dksX4_init_1 0 rfl rfl)
theorem dX4_init_26 : decode cX4_init 26 = .ok (.newarray .int, 2) := dk_188_10 (dk_at dksX4_init_1 3 rfl rfl)
theorem dX4_init_28 : decode cX4_init 28 = .ok (.putfield 16, 3) := dk_181 0 16 (dk_at dksX4_init_1 5 rfl rfl)
theorem dX4_init_31 : decode cX4_init 31 = .ok (.aload_n 0, 1) := dk_42 (dk_at dksX4_init_1 8 rfl rfl)
theorem dX4_init_32 : decode cX4_init 32 = .ok (.sipush 5810, 3) := dk_17 22 178 (dk_at dksX4_init_1 9 rfl rfl)
theorem dX4_init_35 : decode cX4_init 35 = .ok (.newarray .int, 2) := dk_188_10 (dk_at dksX4_init_1 12 rfl rfl)
theorem dX4_init_37 : decode cX4_init 37 = .ok (.putfield 19, 3) := dk_181 0 19 (dk_at dksX4_init_1 14 rfl rfl)
theorem dX4_init_40 : decode cX4_init 40 = .ok (.aload_n 0, 1) := dk_42 (dk_at dksX4_init_1 17 rfl rfl)
theorem dX4_init_41 : decode cX4_init 41 = .ok (.bipush 64, 2) := dk_16 64 (dk_at dksX4_init_1 18 rfl rfl)
theorem dX4_init_43 : decode cX4_init 43 = .ok (.newarray .int, 2) := dk_188_10 (dk_at dksX4_init_1 20 rfl rfl)
theorem dX4_init_45 : decode cX4_init 45 = .ok (.putfield 22, 3) := dk_181 0 22 (dk_at dksX4_init_2 0 rfl rfl)
theorem dX4_init_48 : decode cX4_init 48 = .ok (.aload_n 0, 1) := dk_42 (dk_at dksX4_init_2 3 rfl rfl)
theorem dX4_init_49 : decode cX4_init 49 = .ok (.iconst 4, 1) := dk_7 (dk_at dksX4_init_2 4 rfl rfl)
theorem dX4_init_50 : decode cX4_init 50 = .ok (.newarray .int, 2) := dk_188_10 (dk_at dksX4_init_2 5 rfl rfl)
theorem dX4_init_52 : decode cX4_init 52 = .ok (.putfield 25, 3) := dk_181 0 25 (dk_at dksX4_init_2 7 rfl rfl)
theorem dX4_init_55 : decode cX4_init 55 = .ok (.aload_n 0, 1) := dk_42 (dk_at dksX4_init_2 10 rfl rfl)
theorem dX4_init_56 : decode cX4_init 56 = .ok (.iconst 4, 1) := dk_7 (dk_at dksX4_init_2 11 rfl rfl)
theorem dX4_init_57 : decode cX4_init 57 = .ok (.newarray .int, 2) := dk_188_10 (dk_at dksX4_init_2 12 rfl rfl)
theorem dX4_init_59 : decode cX4_init 59 = .ok (.putfield 28, 3) := dk_181 0 28 (dk_at dksX4_init_2 14 rfl rfl)
theorem dX4_init_62 : decode cX4_init 62 = .ok (.aload_n 0, 1) := dk_42 (dk_at dksX4_init_2 17 rfl rfl)
theorem dX4_init_63 : decode cX4_init 63 = .ok (.iconst 4, 1) := dk_7 (dk_at dksX4_init_2 18 rfl rfl)
theorem dX4_init_64 : decode cX4_init 64 = .ok (.newarray .int, 2) := dk_188_10 (dk_at dksX4_init_2 19 rfl rfl)
theorem dX4_init_66 : decode cX4_init 66 = .ok (.putfield 31, 3) := dk_181 0 31 (dk_at dksX4_init_2 21 rfl rfl)
theorem dX4_init_69 : decode cX4_init 69 = .ok (.aload_n 0, 1) := dk_42 (dk_at dksX4_init_3 0 rfl rfl)
theorem dX4_init_70 : decode cX4_init 70 = .ok (.bipush 64, 2) := dk_16 64 (dk_at dksX4_init_3 1 rfl rfl)
theorem dX4_init_72 : decode cX4_init 72 = .ok (.newarray .int, 2) := dk_188_10 (dk_at dksX4_init_3 3 rfl rfl)
theorem dX4_init_74 : decode cX4_init 74 = .ok (.putfield 34, 3) := dk_181 0 34 (dk_at dksX4_init_3 5 rfl rfl)
theorem dX4_init_77 : decode cX4_init 77 = .ok (.aload_n 0, 1) := dk_42 (dk_at dksX4_init_3 8 rfl rfl)
theorem dX4_init_78 : decode cX4_init 78 = .ok (.iconst 4, 1) := dk_7 (dk_at dksX4_init_3 9 rfl rfl)
theorem dX4_init_79 : decode cX4_init 79 = .ok (.newarray .int, 2) := dk_188_10 (dk_at dksX4_init_3 10 rfl rfl)
theorem dX4_init_81 : decode cX4_init 81 = .ok (.putfield 37, 3) := dk_181 0 37 (dk_at dksX4_init_3 12 rfl rfl)
theorem dX4_init_84 : decode cX4_init 84 = .ok (.aload_n 0, 1) := dk_42 (dk_at dksX4_init_3 15 rfl rfl)
theorem dX4_init_85 : decode cX4_init 85 = .ok (.iconst 4, 1) := dk_7 (dk_at dksX4_init_3 16 rfl rfl)
theorem dX4_init_86 : decode cX4_init 86 = .ok (.newarray .int, 2) := dk_188_10 (dk_at dksX4_init_3 17 rfl rfl)
theorem dX4_init_88 : decode cX4_init 88 = .ok (.putfield 40, 3) := dk_181 0 40 (dk_at dksX4_init_3 19 rfl rfl)
theorem dX4_init_91 : decode cX4_init 91 = .ok (.aload_n 0, 1) := dk_42 (dk_at dksX4_init_3 22 rfl rfl)
theorem dX4_init_92 : decode cX4_init 92 = .ok (.sipush 800, 3) := dk_17 3 32 (dk_at dksX4_init_4 0 rfl rfl)
theorem dX4_init_95 : decode cX4_init 95 = .ok (.newarray .int, 2) := dk_188_10 (dk_at dksX4_init_4 3 rfl rfl)
theorem dX4_init_97 : decode cX4_init 97 = .ok (.putfield 43, 3) := dk_181 0 43 (dk_at dksX4_init_4 5 rfl rfl)
theorem dX4_init_100 : decode cX4_init 100 = .ok (.aload_n 0, 1) := dk_42 (dk_at dksX4_init_4 8 rfl rfl)
theorem dX4_init_101 : decode cX4_init 101 = .ok (.iconst (-1), 1) := dk_2 (dk_at dksX4_init_4 9 rfl rfl)
theorem dX4_init_102 : decode cX4_init 102 = .ok (.putfield 46, 3) := dk_181 0 46 (dk_at dksX4_init_4 10 rfl rfl)
theorem dX4_init_105 : decode cX4_init 105 = .ok (.aload_n 0, 1) := dk_42 (dk_at dksX4_init_4 13 rfl rfl)
theorem dX4_init_106 : decode cX4_init 106 = .ok (.bipush 14, 2) := dk_16 14 (dk_at dksX4_init_4 14 rfl rfl)
theorem dX4_init_108 : decode cX4_init 108 = .ok (.newarray .int, 2) := dk_188_10 (dk_at dksX4_init_4 16 rfl rfl)
theorem dX4_init_110 : decode cX4_init 110 = .ok (.putfield 50, 3) := dk_181 0 50 (dk_at dksX4_init_4 18 rfl rfl)
theorem dX4_init_113 : decode cX4_init 113 = .ok (.aload_n 0, 1) := dk_42 (dk_at dksX4_init_4 21 rfl rfl)
theorem dX4_init_114 : decode cX4_init 114 = .ok (.bipush 14, 2) := dk_16 14 (dk_at dksX4_init_4 22 rfl rfl)
theorem dX4_init_116 : decode cX4_init 116 = .ok (.newarray .int, 2) := dk_188_10 (dk_at dksX4_init_5 0 rfl rfl)
theorem dX4_init_118 : decode cX4_init 118 = .ok (.putfield 53, 3) := dk_181 0 53 (dk_at dksX4_init_5 2 rfl rfl)
theorem dX4_init_121 : decode cX4_init 121 = .ok (.aload_n 0, 1) := dk_42 (dk_at dksX4_init_5 5 rfl rfl)
theorem dX4_init_122 : decode cX4_init 122 = .ok (.bipush 14, 2) := dk_16 14 (dk_at dksX4_init_5 6 rfl rfl)
theorem dX4_init_124 : decode cX4_init 124 = .ok (.newarray .int, 2) := dk_188_10 (dk_at dksX4_init_5 8 rfl rfl)
theorem dX4_init_126 : decode cX4_init 126 = .ok (.putfield 56, 3) := dk_181 0 56 (dk_at dksX4_init_5 10 rfl rfl)
theorem dX4_init_129 : decode cX4_init 129 = .ok (.aload_n 0, 1) := dk_42 (dk_at dksX4_init_5 13 rfl rfl)
theorem dX4_init_130 : decode cX4_init 130 = .ok (.bipush 14, 2) := dk_16 14 (dk_at dksX4_init_5 14 rfl rfl)
theorem dX4_init_132 : decode cX4_init 132 = .ok (.newarray .int, 2) := dk_188_10 (dk_at dksX4_init_5 16 rfl rfl)
theorem dX4_init_134 : decode cX4_init 134 = .ok (.putfield 59, 3) := dk_181 0 59 (dk_at dksX4_init_5 18 rfl rfl)
theorem dX4_init_137 : decode cX4_init 137 = .ok (.aload_n 0, 1) := dk_42 (dk_at dksX4_init_5 21 rfl rfl)
theorem dX4_init_138 : decode cX4_init 138 = .ok (.bipush 14, 2) := dk_16 14 (dk_at dksX4_init_5 22 rfl rfl)
theorem dX4_init_140 : decode cX4_init 140 = .ok (.newarray .int, 2) := dk_188_10 (dk_at dksX4_init_6 0 rfl rfl)
theorem dX4_init_142 : decode cX4_init 142 = .ok (.putfield 62, 3) := dk_181 0 62 (dk_at dksX4_init_6 2 rfl rfl)
theorem dX4_init_145 : decode cX4_init 145 = .ok (.aload_n 0, 1) := dk_42 (dk_at dksX4_init_6 5 rfl rfl)
theorem dX4_init_146 : decode cX4_init 146 = .ok (.bipush 14, 2) := dk_16 14 (dk_at dksX4_init_6 6 rfl rfl)
theorem dX4_init_148 : decode cX4_init 148 = .ok (.newarray .int, 2) := dk_188_10 (dk_at dksX4_init_6 8 rfl rfl)
theorem dX4_init_150 : decode cX4_init 150 = .ok (.putfield 65, 3) := dk_181 0 65 (dk_at dksX4_init_6 10 rfl rfl)
theorem dX4_init_153 : decode cX4_init 153 = .ok (.aload_n 0, 1) := dk_42 (dk_at dksX4_init_6 13 rfl rfl)
theorem dX4_init_154 : decode cX4_init 154 = .ok (.bipush 24, 2) := dk_16 24 (dk_at dksX4_init_6 14 rfl rfl)
theorem dX4_init_156 : decode cX4_init 156 = .ok (.newarray .int, 2) := dk_188_10 (dk_at dksX4_init_6 16 rfl rfl)
theorem dX4_init_158 : decode cX4_init 158 = .ok (.putfield 68, 3) := dk_181 0 68 (dk_at dksX4_init_6 18 rfl rfl)
theorem dX4_init_161 : decode cX4_init 161 = .ok (.aload_n 0, 1) := dk_42 (dk_at dksX4_init_6 21 rfl rfl)
theorem dX4_init_162 : decode cX4_init 162 = .ok (.bipush 40, 2) := dk_16 40 (dk_at dksX4_init_6 22 rfl rfl)
theorem dX4_init_164 : decode cX4_init 164 = .ok (.newarray .int, 2) := dk_188_10 (dk_at dksX4_init_7 0 rfl rfl)
theorem dX4_init_166 : decode cX4_init 166 = .ok (.putfield 71, 3) := dk_181 0 71 (dk_at dksX4_init_7 2 rfl rfl)
theorem dX4_init_169 : decode cX4_init 169 = .ok (.aload_n 0, 1) := dk_42 (dk_at dksX4_init_7 5 rfl rfl)
theorem dX4_init_170 : decode cX4_init 170 = .ok (.bipush 120, 2) := dk_16 120 (dk_at dksX4_init_7 6 rfl rfl)
theorem dX4_init_172 : decode cX4_init 172 = .ok (.newarray .byte, 2) := dk_188_8 (dk_at dksX4_init_7 8 rfl rfl)
theorem dX4_init_174 : decode cX4_init 174 = .ok (.putfield 74, 3) := dk_181 0 74 (dk_at dksX4_init_7 10 rfl rfl)
theorem dX4_init_177 : decode cX4_init 177 = .ok (.aload_n 0, 1) := dk_42 (dk_at dksX4_init_7 13 rfl rfl)
theorem dX4_init_178 : decode cX4_init 178 = .ok (.sipush 200, 3) := dk_17 0 200 (dk_at dksX4_init_7 14 rfl rfl)
theorem dX4_init_181 : decode cX4_init 181 = .ok (.newarray .int, 2) := dk_188_10 (dk_at dksX4_init_7 17 rfl rfl)
theorem dX4_init_183 : decode cX4_init 183 = .ok (.putfield 78, 3) := dk_181 0 78 (dk_at dksX4_init_7 19 rfl rfl)
theorem dX4_init_186 : decode cX4_init 186 = .ok (.aload_n 0, 1) := dk_42 (dk_at dksX4_init_7 22 rfl rfl)
theorem dX4_init_187 : decode cX4_init 187 = .ok (.sipush 200, 3) := dk_17 0 200 (dk_at dksX4_init_8 0 rfl rfl)
theorem dX4_init_190 : decode cX4_init 190 = .ok (.newarray .int, 2) := dk_188_10 (dk_at dksX4_init_8 3 rfl rfl)
theorem dX4_init_192 : decode cX4_init 192 = .ok (.putfield 81, 3) := dk_181 0 81 (dk_at dksX4_init_8 5 rfl rfl)
theorem dX4_init_195 : decode cX4_init 195 = .ok (.aload_n 0, 1) := dk_42 (dk_at dksX4_init_8 8 rfl rfl)
theorem dX4_init_196 : decode cX4_init 196 = .ok (.sipush 200, 3) := dk_17 0 200 (dk_at dksX4_init_8 9 rfl rfl)
theorem dX4_init_199 : decode cX4_init 199 = .ok (.newarray .int, 2) := dk_188_10 (dk_at dksX4_init_8 12 rfl rfl)
theorem dX4_init_201 : decode cX4_init 201 = .ok (.putfield 84, 3) := dk_181 0 84 (dk_at dksX4_init_8 14 rfl rfl)
theorem dX4_init_204 : decode cX4_init 204 = .ok (.aload_n 0, 1) := dk_42 (dk_at dksX4_init_8 17 rfl rfl)
theorem dX4_init_205 : decode cX4_init 205 = .ok (.iconst 2, 1) := dk_5 (dk_at dksX4_init_8 18 rfl rfl)
theorem dX4_init_206 : decode cX4_init 206 = .ok (.invokevirtual 87, 3) := dk_182 0 87 (dk_at dksX4_init_8 19 rfl rfl)
theorem dX4_init_209 : decode cX4_init 209 = .ok (.aload_n 0, 1) := dk_42 (dk_at dksX4_init_8 22 rfl rfl)
theorem dX4_init_210 : decode cX4_init 210 = .ok (.invokevirtual 90, 3) := dk_182 0 90 (dk_at dksX4_init_9 0 rfl rfl)
theorem dX4_init_213 : decode cX4_init 213 = .ok (.return_, 1) := dk_177 (dk_at dksX4_init_9 3 rfl rfl)
abbrev cX4_begins : ByteArray := prog_25_method_7_code
def yX4_begins : MethodName := ⟨RX4, "begins", "(I)V"⟩
def dkwX4_begins_4 : List UInt8 := [180, 0, 13, 16, 8, 17, 0, 240, 79, 42, 180, 0, 13, 16, 9, 16, 30, 79, 177]
abbrev dktX4_begins_4 : List UInt8 := dkwX4_begins_4 ++ []
def dkwX4_begins_3 : List UInt8 := [42, 180, 0, 13, 7, 4, 79, 42, 180, 0, 13, 8, 8, 79, 42, 180, 0, 13, 16, 6, 6, 79, 42]
abbrev dktX4_begins_3 : List UInt8 := dkwX4_begins_3 ++ dktX4_begins_4
def dkwX4_begins_2 : List UInt8 := [162, 0, 16, 42, 180, 0, 13, 28, 3, 79, 132, 2, 1, 167, 255, 239, 42, 180, 0, 13, 6, 16, 15, 79]
abbrev dktX4_begins_2 : List UInt8 := dkwX4_begins_2 ++ dktX4_begins_3
def dkwX4_begins_1 : List UInt8 := [16, 64, 162, 0, 16, 42, 180, 0, 22, 28, 2, 79, 132, 2, 1, 167, 255, 240, 3, 61, 28, 17, 2, 69]
abbrev dktX4_begins_1 : List UInt8 := dkwX4_begins_1 ++ dktX4_begins_2
def dkwX4_begins_0 : List UInt8 := [42, 27, 181, 0, 96, 42, 3, 181, 0, 99, 42, 3, 181, 0, 102, 42, 3, 181, 0, 105, 3, 61, 28]
abbrev dktX4_begins_0 : List UInt8 := dkwX4_begins_0 ++ dktX4_begins_1
theorem dksX4_begins_0 : cX4_begins.data.toList.drop 0 = dktX4_begins_0 := by decide +kernel
theorem dksX4_begins_1 : cX4_begins.data.toList.drop 23 = dktX4_begins_1 := dk_seg dksX4_begins_0 23 rfl rfl
theorem dksX4_begins_2 : cX4_begins.data.toList.drop 47 = dktX4_begins_2 := dk_seg dksX4_begins_1 24 rfl rfl
theorem dksX4_begins_3 : cX4_begins.data.toList.drop 71 = dktX4_begins_3 := dk_seg dksX4_begins_2 24 rfl rfl
theorem dksX4_begins_4 : cX4_begins.data.toList.drop 94 = dktX4_begins_4 := dk_seg dksX4_begins_3 23 rfl rfl
theorem dX4_begins_0 : decode cX4_begins 0 = .ok (.aload_n 0, 1) := dk_42 (dk_at dksX4_begins_0 0 rfl rfl)
theorem dX4_begins_1 : decode cX4_begins 1 = .ok (.iload_n 1, 1) := dk_27 (dk_at dksX4_begins_0 1 rfl rfl)
theorem dX4_begins_2 : decode cX4_begins 2 = .ok (.putfield 96, 3) := dk_181 0 96 (dk_at dksX4_begins_0 2 rfl rfl)
theorem dX4_begins_5 : decode cX4_begins 5 = .ok (.aload_n 0, 1) := dk_42 (dk_at dksX4_begins_0 5 rfl rfl)
theorem dX4_begins_6 : decode cX4_begins 6 = .ok (.iconst 0, 1) := dk_3 (dk_at dksX4_begins_0 6 rfl rfl)
theorem dX4_begins_7 : decode cX4_begins 7 = .ok (.putfield 99, 3) := dk_181 0 99 (dk_at dksX4_begins_0 7 rfl rfl)
theorem dX4_begins_10 : decode cX4_begins 10 = .ok (.aload_n 0, 1) := dk_42 (dk_at dksX4_begins_0 10 rfl rfl)
theorem dX4_begins_11 : decode cX4_begins 11 = .ok (.iconst 0, 1) := dk_3 (dk_at dksX4_begins_0 11 rfl rfl)
theorem dX4_begins_12 : decode cX4_begins 12 = .ok (.putfield 102, 3) := dk_181 0 102 (dk_at dksX4_begins_0 12 rfl rfl)
theorem dX4_begins_15 : decode cX4_begins 15 = .ok (.aload_n 0, 1) := dk_42 (dk_at dksX4_begins_0 15 rfl rfl)
theorem dX4_begins_16 : decode cX4_begins 16 = .ok (.iconst 0, 1) := dk_3 (dk_at dksX4_begins_0 16 rfl rfl)
theorem dX4_begins_17 : decode cX4_begins 17 = .ok (.putfield 105, 3) := dk_181 0 105 (dk_at dksX4_begins_0 17 rfl rfl)
theorem dX4_begins_20 : decode cX4_begins 20 = .ok (.iconst 0, 1) := dk_3 (dk_at dksX4_begins_0 20 rfl rfl)
theorem dX4_begins_21 : decode cX4_begins 21 = .ok (.istore_n 2, 1) := dk_61 (dk_at dksX4_begins_0 21 rfl rfl)
theorem dX4_begins_22 : decode cX4_begins 22 = .ok (.iload_n 2, 1) := dk_28 (dk_at dksX4_begins_0 22 rfl rfl)
theorem dX4_begins_23 : decode cX4_begins 23 = .ok (.bipush 64, 2) := dk_16 64 (dk_at dksX4_begins_1 0 rfl rfl)
theorem dX4_begins_25 : decode cX4_begins 25 = .ok (.if_icmp .ge 16, 3) := dk_162 0 16 (dk_at dksX4_begins_1 2 rfl rfl)
theorem dX4_begins_28 : decode cX4_begins 28 = .ok (.aload_n 0, 1) := dk_42 (dk_at dksX4_begins_1 5 rfl rfl)
theorem dX4_begins_29 : decode cX4_begins 29 = .ok (.getfield 22, 3) := dk_180 0 22 (dk_at dksX4_begins_1 6 rfl rfl)
theorem dX4_begins_32 : decode cX4_begins 32 = .ok (.iload_n 2, 1) := dk_28 (dk_at dksX4_begins_1 9 rfl rfl)
theorem dX4_begins_33 : decode cX4_begins 33 = .ok (.iconst (-1), 1) := dk_2 (dk_at dksX4_begins_1 10 rfl rfl)
theorem dX4_begins_34 : decode cX4_begins 34 = .ok (.iastore, 1) := dk_79 (dk_at dksX4_begins_1 11 rfl rfl)
theorem dX4_begins_35 : decode cX4_begins 35 = .ok (.iinc 2 1, 3) := dk_132 2 1 (dk_at dksX4_begins_1 12 rfl rfl)
theorem dX4_begins_38 : decode cX4_begins 38 = .ok (.goto (-16), 3) := dk_167 255 240 (dk_at dksX4_begins_1 15 rfl rfl)
theorem dX4_begins_41 : decode cX4_begins 41 = .ok (.iconst 0, 1) := dk_3 (dk_at dksX4_begins_1 18 rfl rfl)
theorem dX4_begins_42 : decode cX4_begins 42 = .ok (.istore_n 2, 1) := dk_61 (dk_at dksX4_begins_1 19 rfl rfl)
theorem dX4_begins_43 : decode cX4_begins 43 = .ok (.iload_n 2, 1) := dk_28 (dk_at dksX4_begins_1 20 rfl rfl)
theorem dX4_begins_44 : decode cX4_begins 44 = .ok (.sipush 581, 3) := dk_17 2 69 (dk_at dksX4_begins_1 21 rfl rfl)
theorem dX4_begins_47 : decode cX4_begins 47 = .ok (.if_icmp .ge 16, 3) := dk_162 0 16 (dk_at dksX4_begins_2 0 rfl rfl)
theorem dX4_begins_50 : decode cX4_begins 50 = .ok (.aload_n 0, 1) := dk_42 (dk_at dksX4_begins_2 3 rfl rfl)
theorem dX4_begins_51 : decode cX4_begins 51 = .ok (.getfield 13, 3) := dk_180 0 13 (dk_at dksX4_begins_2 4 rfl rfl)
theorem dX4_begins_54 : decode cX4_begins 54 = .ok (.iload_n 2, 1) := dk_28 (dk_at dksX4_begins_2 7 rfl rfl)
theorem dX4_begins_55 : decode cX4_begins 55 = .ok (.iconst 0, 1) := dk_3 (dk_at dksX4_begins_2 8 rfl rfl)
theorem dX4_begins_56 : decode cX4_begins 56 = .ok (.iastore, 1) := dk_79 (dk_at dksX4_begins_2 9 rfl rfl)
theorem dX4_begins_57 : decode cX4_begins 57 = .ok (.iinc 2 1, 3) := dk_132 2 1 (dk_at dksX4_begins_2 10 rfl rfl)
theorem dX4_begins_60 : decode cX4_begins 60 = .ok (.goto (-17), 3) := dk_167 255 239 (dk_at dksX4_begins_2 13 rfl rfl)
theorem dX4_begins_63 : decode cX4_begins 63 = .ok (.aload_n 0, 1) := dk_42 (dk_at dksX4_begins_2 16 rfl rfl)
theorem dX4_begins_64 : decode cX4_begins 64 = .ok (.getfield 13, 3) := dk_180 0 13 (dk_at dksX4_begins_2 17 rfl rfl)
theorem dX4_begins_67 : decode cX4_begins 67 = .ok (.iconst 3, 1) := dk_6 (dk_at dksX4_begins_2 20 rfl rfl)
theorem dX4_begins_68 : decode cX4_begins 68 = .ok (.bipush 15, 2) := dk_16 15 (dk_at dksX4_begins_2 21 rfl rfl)
theorem dX4_begins_70 : decode cX4_begins 70 = .ok (.iastore, 1) := dk_79 (dk_at dksX4_begins_2 23 rfl rfl)
theorem dX4_begins_71 : decode cX4_begins 71 = .ok (.aload_n 0, 1) := dk_42 (dk_at dksX4_begins_3 0 rfl rfl)
theorem dX4_begins_72 : decode cX4_begins 72 = .ok (.getfield 13, 3) := dk_180 0 13 (dk_at dksX4_begins_3 1 rfl rfl)
theorem dX4_begins_75 : decode cX4_begins 75 = .ok (.iconst 4, 1) := dk_7 (dk_at dksX4_begins_3 4 rfl rfl)
theorem dX4_begins_76 : decode cX4_begins 76 = .ok (.iconst 1, 1) := dk_4 (dk_at dksX4_begins_3 5 rfl rfl)
theorem dX4_begins_77 : decode cX4_begins 77 = .ok (.iastore, 1) := dk_79 (dk_at dksX4_begins_3 6 rfl rfl)
theorem dX4_begins_78 : decode cX4_begins 78 = .ok (.aload_n 0, 1) := dk_42 (dk_at dksX4_begins_3 7 rfl rfl)
theorem dX4_begins_79 : decode cX4_begins 79 = .ok (.getfield 13, 3) := dk_180 0 13 (dk_at dksX4_begins_3 8 rfl rfl)
theorem dX4_begins_82 : decode cX4_begins 82 = .ok (.iconst 5, 1) := dk_8 (dk_at dksX4_begins_3 11 rfl rfl)
theorem dX4_begins_83 : decode cX4_begins 83 = .ok (.iconst 5, 1) := dk_8 (dk_at dksX4_begins_3 12 rfl rfl)
theorem dX4_begins_84 : decode cX4_begins 84 = .ok (.iastore, 1) := dk_79 (dk_at dksX4_begins_3 13 rfl rfl)
theorem dX4_begins_85 : decode cX4_begins 85 = .ok (.aload_n 0, 1) := dk_42 (dk_at dksX4_begins_3 14 rfl rfl)
theorem dX4_begins_86 : decode cX4_begins 86 = .ok (.getfield 13, 3) := dk_180 0 13 (dk_at dksX4_begins_3 15 rfl rfl)
theorem dX4_begins_89 : decode cX4_begins 89 = .ok (.bipush 6, 2) := dk_16 6 (dk_at dksX4_begins_3 18 rfl rfl)
theorem dX4_begins_91 : decode cX4_begins 91 = .ok (.iconst 3, 1) := dk_6 (dk_at dksX4_begins_3 20 rfl rfl)
theorem dX4_begins_92 : decode cX4_begins 92 = .ok (.iastore, 1) := dk_79 (dk_at dksX4_begins_3 21 rfl rfl)
theorem dX4_begins_93 : decode cX4_begins 93 = .ok (.aload_n 0, 1) := dk_42 (dk_at dksX4_begins_3 22 rfl rfl)
theorem dX4_begins_94 : decode cX4_begins 94 = .ok (.getfield 13, 3) := dk_180 0 13 (dk_at dksX4_begins_4 0 rfl rfl)
theorem dX4_begins_97 : decode cX4_begins 97 = .ok (.bipush 8, 2) := dk_16 8 (dk_at dksX4_begins_4 3 rfl rfl)
theorem dX4_begins_99 : decode cX4_begins 99 = .ok (.sipush 240, 3) := dk_17 0 240 (dk_at dksX4_begins_4 5 rfl rfl)
theorem dX4_begins_102 : decode cX4_begins 102 = .ok (.iastore, 1) := dk_79 (dk_at dksX4_begins_4 8 rfl rfl)
theorem dX4_begins_103 : decode cX4_begins 103 = .ok (.aload_n 0, 1) := dk_42 (dk_at dksX4_begins_4 9 rfl rfl)
theorem dX4_begins_104 : decode cX4_begins 104 = .ok (.getfield 13, 3) := dk_180 0 13 (dk_at dksX4_begins_4 10 rfl rfl)
theorem dX4_begins_107 : decode cX4_begins 107 = .ok (.bipush 9, 2) := dk_16 9 (dk_at dksX4_begins_4 13 rfl rfl)
theorem dX4_begins_109 : decode cX4_begins 109 = .ok (.bipush 30, 2) := dk_16 30 (dk_at dksX4_begins_4 15 rfl rfl)
theorem dX4_begins_111 : decode cX4_begins 111 = .ok (.iastore, 1) := dk_79 (dk_at dksX4_begins_4 17 rfl rfl)
theorem dX4_begins_112 : decode cX4_begins 112 = .ok (.return_, 1) := dk_177 (dk_at dksX4_begins_4 18 rfl rfl)
abbrev cX4_becomes : ByteArray := prog_25_method_8_code
def yX4_becomes : MethodName := ⟨RX4, "becomes", "()V"⟩
def dkwX4_becomes_6 : List UInt8 := [182, 0, 120, 42, 3, 181, 0, 123, 42, 3, 181, 0, 126, 177]
abbrev dktX4_becomes_6 : List UInt8 := dkwX4_becomes_6 ++ []
def dkwX4_becomes_5 : List UInt8 := [162, 0, 21, 42, 180, 0, 7, 27, 42, 180, 0, 13, 27, 46, 79, 132, 1, 1, 167, 255, 234, 42]
abbrev dktX4_becomes_5 : List UInt8 := dkwX4_becomes_5 ++ dktX4_becomes_6
def dkwX4_becomes_4 : List UInt8 := [180, 0, 40, 27, 42, 180, 0, 28, 27, 46, 79, 132, 1, 1, 167, 255, 224, 3, 60, 27, 17, 2, 69]
abbrev dktX4_becomes_4 : List UInt8 := dkwX4_becomes_4 ++ dktX4_becomes_5
def dkwX4_becomes_3 : List UInt8 := [167, 255, 220, 3, 60, 27, 7, 162, 0, 33, 42, 180, 0, 37, 27, 42, 180, 0, 25, 27, 46, 79, 42]
abbrev dktX4_becomes_3 : List UInt8 := dkwX4_becomes_3 ++ dktX4_becomes_4
def dkwX4_becomes_2 : List UInt8 := [108, 27, 16, 8, 112, 160, 0, 7, 3, 167, 0, 9, 42, 180, 0, 22, 27, 46, 79, 132, 1, 1]
abbrev dktX4_becomes_2 : List UInt8 := dkwX4_becomes_2 ++ dktX4_becomes_3
def dkwX4_becomes_1 : List UInt8 := [42, 42, 180, 0, 105, 181, 0, 117, 3, 60, 27, 16, 64, 162, 0, 36, 42, 180, 0, 34, 27, 27, 16, 8]
abbrev dktX4_becomes_1 : List UInt8 := dkwX4_becomes_1 ++ dktX4_becomes_2
def dkwX4_becomes_0 : List UInt8 := [42, 42, 180, 0, 96, 181, 0, 108, 42, 42, 180, 0, 99, 181, 0, 111, 42, 42, 180, 0, 102, 181, 0, 114]
abbrev dktX4_becomes_0 : List UInt8 := dkwX4_becomes_0 ++ dktX4_becomes_1
theorem dksX4_becomes_0 : cX4_becomes.data.toList.drop 0 = dktX4_becomes_0 := by decide +kernel
theorem dksX4_becomes_1 : cX4_becomes.data.toList.drop 24 = dktX4_becomes_1 := dk_seg dksX4_becomes_0 24 rfl rfl
theorem dksX4_becomes_2 : cX4_becomes.data.toList.drop 48 = dktX4_becomes_2 := dk_seg dksX4_becomes_1 24 rfl rfl
theorem dksX4_becomes_3 : cX4_becomes.data.toList.drop 70 = dktX4_becomes_3 := dk_seg dksX4_becomes_2 22 rfl rfl
theorem dksX4_becomes_4 : cX4_becomes.data.toList.drop 93 = dktX4_becomes_4 := dk_seg dksX4_becomes_3 23 rfl rfl
theorem dksX4_becomes_5 : cX4_becomes.data.toList.drop 116 = dktX4_becomes_5 := dk_seg dksX4_becomes_4 23 rfl rfl
theorem dksX4_becomes_6 : cX4_becomes.data.toList.drop 138 = dktX4_becomes_6 := dk_seg dksX4_becomes_5 22 rfl rfl
theorem dX4_becomes_0 : decode cX4_becomes 0 = .ok (.aload_n 0, 1) := dk_42 (dk_at dksX4_becomes_0 0 rfl rfl)
theorem dX4_becomes_1 : decode cX4_becomes 1 = .ok (.aload_n 0, 1) := dk_42 (dk_at dksX4_becomes_0 1 rfl rfl)
theorem dX4_becomes_2 : decode cX4_becomes 2 = .ok (.getfield 96, 3) := dk_180 0 96 (dk_at dksX4_becomes_0 2 rfl rfl)
theorem dX4_becomes_5 : decode cX4_becomes 5 = .ok (.putfield 108, 3) := dk_181 0 108 (dk_at dksX4_becomes_0 5 rfl rfl)
theorem dX4_becomes_8 : decode cX4_becomes 8 = .ok (.aload_n 0, 1) := dk_42 (dk_at dksX4_becomes_0 8 rfl rfl)
theorem dX4_becomes_9 : decode cX4_becomes 9 = .ok (.aload_n 0, 1) := dk_42 (dk_at dksX4_becomes_0 9 rfl rfl)
theorem dX4_becomes_10 : decode cX4_becomes 10 = .ok (.getfield 99, 3) := dk_180 0 99 (dk_at dksX4_becomes_0 10 rfl rfl)
theorem dX4_becomes_13 : decode cX4_becomes 13 = .ok (.putfield 111, 3) := dk_181 0 111 (dk_at dksX4_becomes_0 13 rfl rfl)
theorem dX4_becomes_16 : decode cX4_becomes 16 = .ok (.aload_n 0, 1) := dk_42 (dk_at dksX4_becomes_0 16 rfl rfl)
theorem dX4_becomes_17 : decode cX4_becomes 17 = .ok (.aload_n 0, 1) := dk_42 (dk_at dksX4_becomes_0 17 rfl rfl)
theorem dX4_becomes_18 : decode cX4_becomes 18 = .ok (.getfield 102, 3) := dk_180 0 102 (dk_at dksX4_becomes_0 18 rfl rfl)
theorem dX4_becomes_21 : decode cX4_becomes 21 = .ok (.putfield 114, 3) := dk_181 0 114 (dk_at dksX4_becomes_0 21 rfl rfl)
theorem dX4_becomes_24 : decode cX4_becomes 24 = .ok (.aload_n 0, 1) := dk_42 (dk_at dksX4_becomes_1 0 rfl rfl)
theorem dX4_becomes_25 : decode cX4_becomes 25 = .ok (.aload_n 0, 1) := dk_42 (dk_at dksX4_becomes_1 1 rfl rfl)
theorem dX4_becomes_26 : decode cX4_becomes 26 = .ok (.getfield 105, 3) := dk_180 0 105 (dk_at dksX4_becomes_1 2 rfl rfl)
theorem dX4_becomes_29 : decode cX4_becomes 29 = .ok (.putfield 117, 3) := dk_181 0 117 (dk_at dksX4_becomes_1 5 rfl rfl)
theorem dX4_becomes_32 : decode cX4_becomes 32 = .ok (.iconst 0, 1) := dk_3 (dk_at dksX4_becomes_1 8 rfl rfl)
theorem dX4_becomes_33 : decode cX4_becomes 33 = .ok (.istore_n 1, 1) := dk_60 (dk_at dksX4_becomes_1 9 rfl rfl)
theorem dX4_becomes_34 : decode cX4_becomes 34 = .ok (.iload_n 1, 1) := dk_27 (dk_at dksX4_becomes_1 10 rfl rfl)
theorem dX4_becomes_35 : decode cX4_becomes 35 = .ok (.bipush 64, 2) := dk_16 64 (dk_at dksX4_becomes_1 11 rfl rfl)
theorem dX4_becomes_37 : decode cX4_becomes 37 = .ok (.if_icmp .ge 36, 3) := dk_162 0 36 (dk_at dksX4_becomes_1 13 rfl rfl)
theorem dX4_becomes_40 : decode cX4_becomes 40 = .ok (.aload_n 0, 1) := dk_42 (dk_at dksX4_becomes_1 16 rfl rfl)
theorem dX4_becomes_41 : decode cX4_becomes 41 = .ok (.getfield 34, 3) := dk_180 0 34 (dk_at dksX4_becomes_1 17 rfl rfl)
theorem dX4_becomes_44 : decode cX4_becomes 44 = .ok (.iload_n 1, 1) := dk_27 (dk_at dksX4_becomes_1 20 rfl rfl)
theorem dX4_becomes_45 : decode cX4_becomes 45 = .ok (.iload_n 1, 1) := dk_27 (dk_at dksX4_becomes_1 21 rfl rfl)
theorem dX4_becomes_46 : decode cX4_becomes 46 = .ok (.bipush 8, 2) := dk_16 8 (dk_at dksX4_becomes_1 22 rfl rfl)
theorem dX4_becomes_48 : decode cX4_becomes 48 = .ok (.idiv, 1) := dk_108 (dk_at dksX4_becomes_2 0 rfl rfl)
theorem dX4_becomes_49 : decode cX4_becomes 49 = .ok (.iload_n 1, 1) := dk_27 (dk_at dksX4_becomes_2 1 rfl rfl)
theorem dX4_becomes_50 : decode cX4_becomes 50 = .ok (.bipush 8, 2) := dk_16 8 (dk_at dksX4_becomes_2 2 rfl rfl)
theorem dX4_becomes_52 : decode cX4_becomes 52 = .ok (.irem, 1) := dk_112 (dk_at dksX4_becomes_2 4 rfl rfl)
theorem dX4_becomes_53 : decode cX4_becomes 53 = .ok (.if_icmp .ne 7, 3) := dk_160 0 7 (dk_at dksX4_becomes_2 5 rfl rfl)
theorem dX4_becomes_56 : decode cX4_becomes 56 = .ok (.iconst 0, 1) := dk_3 (dk_at dksX4_becomes_2 8 rfl rfl)
theorem dX4_becomes_57 : decode cX4_becomes 57 = .ok (.goto 9, 3) := dk_167 0 9 (dk_at dksX4_becomes_2 9 rfl rfl)
theorem dX4_becomes_60 : decode cX4_becomes 60 = .ok (.aload_n 0, 1) := dk_42 (dk_at dksX4_becomes_2 12 rfl rfl)
theorem dX4_becomes_61 : decode cX4_becomes 61 = .ok (.getfield 22, 3) := dk_180 0 22 (dk_at dksX4_becomes_2 13 rfl rfl)
theorem dX4_becomes_64 : decode cX4_becomes 64 = .ok (.iload_n 1, 1) := dk_27 (dk_at dksX4_becomes_2 16 rfl rfl)
theorem dX4_becomes_65 : decode cX4_becomes 65 = .ok (.iaload, 1) := dk_46 (dk_at dksX4_becomes_2 17 rfl rfl)
theorem dX4_becomes_66 : decode cX4_becomes 66 = .ok (.iastore, 1) := dk_79 (dk_at dksX4_becomes_2 18 rfl rfl)
theorem dX4_becomes_67 : decode cX4_becomes 67 = .ok (.iinc 1 1, 3) := dk_132 1 1 (dk_at dksX4_becomes_2 19 rfl rfl)
theorem dX4_becomes_70 : decode cX4_becomes 70 = .ok (.goto (-36), 3) := dk_167 255 220 (dk_at dksX4_becomes_3 0 rfl rfl)
theorem dX4_becomes_73 : decode cX4_becomes 73 = .ok (.iconst 0, 1) := dk_3 (dk_at dksX4_becomes_3 3 rfl rfl)
theorem dX4_becomes_74 : decode cX4_becomes 74 = .ok (.istore_n 1, 1) := dk_60 (dk_at dksX4_becomes_3 4 rfl rfl)
theorem dX4_becomes_75 : decode cX4_becomes 75 = .ok (.iload_n 1, 1) := dk_27 (dk_at dksX4_becomes_3 5 rfl rfl)
theorem dX4_becomes_76 : decode cX4_becomes 76 = .ok (.iconst 4, 1) := dk_7 (dk_at dksX4_becomes_3 6 rfl rfl)
theorem dX4_becomes_77 : decode cX4_becomes 77 = .ok (.if_icmp .ge 33, 3) := dk_162 0 33 (dk_at dksX4_becomes_3 7 rfl rfl)
theorem dX4_becomes_80 : decode cX4_becomes 80 = .ok (.aload_n 0, 1) := dk_42 (dk_at dksX4_becomes_3 10 rfl rfl)
theorem dX4_becomes_81 : decode cX4_becomes 81 = .ok (.getfield 37, 3) := dk_180 0 37 (dk_at dksX4_becomes_3 11 rfl rfl)
theorem dX4_becomes_84 : decode cX4_becomes 84 = .ok (.iload_n 1, 1) := dk_27 (dk_at dksX4_becomes_3 14 rfl rfl)
theorem dX4_becomes_85 : decode cX4_becomes 85 = .ok (.aload_n 0, 1) := dk_42 (dk_at dksX4_becomes_3 15 rfl rfl)
theorem dX4_becomes_86 : decode cX4_becomes 86 = .ok (.getfield 25, 3) := dk_180 0 25 (dk_at dksX4_becomes_3 16 rfl rfl)
theorem dX4_becomes_89 : decode cX4_becomes 89 = .ok (.iload_n 1, 1) := dk_27 (dk_at dksX4_becomes_3 19 rfl rfl)
theorem dX4_becomes_90 : decode cX4_becomes 90 = .ok (.iaload, 1) := dk_46 (dk_at dksX4_becomes_3 20 rfl rfl)
theorem dX4_becomes_91 : decode cX4_becomes 91 = .ok (.iastore, 1) := dk_79 (dk_at dksX4_becomes_3 21 rfl rfl)
theorem dX4_becomes_92 : decode cX4_becomes 92 = .ok (.aload_n 0, 1) := dk_42 (dk_at dksX4_becomes_3 22 rfl rfl)
theorem dX4_becomes_93 : decode cX4_becomes 93 = .ok (.getfield 40, 3) := dk_180 0 40 (dk_at dksX4_becomes_4 0 rfl rfl)
theorem dX4_becomes_96 : decode cX4_becomes 96 = .ok (.iload_n 1, 1) := dk_27 (dk_at dksX4_becomes_4 3 rfl rfl)
theorem dX4_becomes_97 : decode cX4_becomes 97 = .ok (.aload_n 0, 1) := dk_42 (dk_at dksX4_becomes_4 4 rfl rfl)
theorem dX4_becomes_98 : decode cX4_becomes 98 = .ok (.getfield 28, 3) := dk_180 0 28 (dk_at dksX4_becomes_4 5 rfl rfl)
theorem dX4_becomes_101 : decode cX4_becomes 101 = .ok (.iload_n 1, 1) := dk_27 (dk_at dksX4_becomes_4 8 rfl rfl)
theorem dX4_becomes_102 : decode cX4_becomes 102 = .ok (.iaload, 1) := dk_46 (dk_at dksX4_becomes_4 9 rfl rfl)
theorem dX4_becomes_103 : decode cX4_becomes 103 = .ok (.iastore, 1) := dk_79 (dk_at dksX4_becomes_4 10 rfl rfl)
theorem dX4_becomes_104 : decode cX4_becomes 104 = .ok (.iinc 1 1, 3) := dk_132 1 1 (dk_at dksX4_becomes_4 11 rfl rfl)
theorem dX4_becomes_107 : decode cX4_becomes 107 = .ok (.goto (-32), 3) := dk_167 255 224 (dk_at dksX4_becomes_4 14 rfl rfl)
theorem dX4_becomes_110 : decode cX4_becomes 110 = .ok (.iconst 0, 1) := dk_3 (dk_at dksX4_becomes_4 17 rfl rfl)
theorem dX4_becomes_111 : decode cX4_becomes 111 = .ok (.istore_n 1, 1) := dk_60 (dk_at dksX4_becomes_4 18 rfl rfl)
theorem dX4_becomes_112 : decode cX4_becomes 112 = .ok (.iload_n 1, 1) := dk_27 (dk_at dksX4_becomes_4 19 rfl rfl)
theorem dX4_becomes_113 : decode cX4_becomes 113 = .ok (.sipush 581, 3) := dk_17 2 69 (dk_at dksX4_becomes_4 20 rfl rfl)
theorem dX4_becomes_116 : decode cX4_becomes 116 = .ok (.if_icmp .ge 21, 3) := dk_162 0 21 (dk_at dksX4_becomes_5 0 rfl rfl)
theorem dX4_becomes_119 : decode cX4_becomes 119 = .ok (.aload_n 0, 1) := dk_42 (dk_at dksX4_becomes_5 3 rfl rfl)
theorem dX4_becomes_120 : decode cX4_becomes 120 = .ok (.getfield 7, 3) := dk_180 0 7 (dk_at dksX4_becomes_5 4 rfl rfl)
theorem dX4_becomes_123 : decode cX4_becomes 123 = .ok (.iload_n 1, 1) := dk_27 (dk_at dksX4_becomes_5 7 rfl rfl)
theorem dX4_becomes_124 : decode cX4_becomes 124 = .ok (.aload_n 0, 1) := dk_42 (dk_at dksX4_becomes_5 8 rfl rfl)
theorem dX4_becomes_125 : decode cX4_becomes 125 = .ok (.getfield 13, 3) := dk_180 0 13 (dk_at dksX4_becomes_5 9 rfl rfl)
theorem dX4_becomes_128 : decode cX4_becomes 128 = .ok (.iload_n 1, 1) := dk_27 (dk_at dksX4_becomes_5 12 rfl rfl)
theorem dX4_becomes_129 : decode cX4_becomes 129 = .ok (.iaload, 1) := dk_46 (dk_at dksX4_becomes_5 13 rfl rfl)
theorem dX4_becomes_130 : decode cX4_becomes 130 = .ok (.iastore, 1) := dk_79 (dk_at dksX4_becomes_5 14 rfl rfl)
theorem dX4_becomes_131 : decode cX4_becomes 131 = .ok (.iinc 1 1, 3) := dk_132 1 1 (dk_at dksX4_becomes_5 15 rfl rfl)
theorem dX4_becomes_134 : decode cX4_becomes 134 = .ok (.goto (-22), 3) := dk_167 255 234 (dk_at dksX4_becomes_5 18 rfl rfl)
theorem dX4_becomes_137 : decode cX4_becomes 137 = .ok (.aload_n 0, 1) := dk_42 (dk_at dksX4_becomes_5 21 rfl rfl)
theorem dX4_becomes_138 : decode cX4_becomes 138 = .ok (.invokevirtual 120, 3) := dk_182 0 120 (dk_at dksX4_becomes_6 0 rfl rfl)
theorem dX4_becomes_141 : decode cX4_becomes 141 = .ok (.aload_n 0, 1) := dk_42 (dk_at dksX4_becomes_6 3 rfl rfl)
theorem dX4_becomes_142 : decode cX4_becomes 142 = .ok (.iconst 0, 1) := dk_3 (dk_at dksX4_becomes_6 4 rfl rfl)
theorem dX4_becomes_143 : decode cX4_becomes 143 = .ok (.putfield 123, 3) := dk_181 0 123 (dk_at dksX4_becomes_6 5 rfl rfl)
theorem dX4_becomes_146 : decode cX4_becomes 146 = .ok (.aload_n 0, 1) := dk_42 (dk_at dksX4_becomes_6 8 rfl rfl)
theorem dX4_becomes_147 : decode cX4_becomes 147 = .ok (.iconst 0, 1) := dk_3 (dk_at dksX4_becomes_6 9 rfl rfl)
theorem dX4_becomes_148 : decode cX4_becomes 148 = .ok (.putfield 126, 3) := dk_181 0 126 (dk_at dksX4_becomes_6 10 rfl rfl)
theorem dX4_becomes_151 : decode cX4_becomes 151 = .ok (.return_, 1) := dk_177 (dk_at dksX4_becomes_6 13 rfl rfl)
abbrev cX4_laysWays : ByteArray := prog_25_method_9_code
def yX4_laysWays : MethodName := ⟨RX4, "laysWays", "()V"⟩
def dkwX4_laysWays_5 : List UInt8 := [167, 255, 149, 132, 1, 1, 167, 255, 133, 177]
abbrev dktX4_laysWays_5 : List UInt8 := dkwX4_laysWays_5 ++ []
def dkwX4_laysWays_4 : List UInt8 := [180, 0, 34, 16, 8, 28, 104, 29, 96, 21, 4, 21, 5, 96, 79, 132, 3, 1, 167, 255, 165, 132, 2, 1]
abbrev dktX4_laysWays_4 : List UInt8 := dkwX4_laysWays_4 ++ dktX4_laysWays_5
def dkwX4_laysWays_3 : List UInt8 := [155, 0, 39, 21, 5, 155, 0, 34, 21, 6, 155, 0, 13, 21, 4, 21, 5, 96, 21, 6, 162, 0, 19, 42]
abbrev dktX4_laysWays_3 : List UInt8 := dkwX4_laysWays_3 ++ dktX4_laysWays_4
def dkwX4_laysWays_2 : List UInt8 := [16, 8, 27, 104, 29, 96, 46, 54, 5, 42, 180, 0, 34, 16, 8, 28, 104, 29, 96, 46, 54, 6, 21, 4]
abbrev dktX4_laysWays_2 : List UInt8 := dkwX4_laysWays_2 ++ dktX4_laysWays_3
def dkwX4_laysWays_1 : List UInt8 := [180, 0, 108, 162, 0, 89, 42, 180, 0, 34, 16, 8, 28, 104, 27, 96, 46, 54, 4, 42, 180, 0, 34]
abbrev dktX4_laysWays_1 : List UInt8 := dkwX4_laysWays_1 ++ dktX4_laysWays_2
def dkwX4_laysWays_0 : List UInt8 := [3, 60, 27, 42, 180, 0, 108, 162, 0, 121, 3, 61, 28, 42, 180, 0, 108, 162, 0, 105, 3, 62, 29, 42]
abbrev dktX4_laysWays_0 : List UInt8 := dkwX4_laysWays_0 ++ dktX4_laysWays_1
theorem dksX4_laysWays_0 : cX4_laysWays.data.toList.drop 0 = dktX4_laysWays_0 := by decide +kernel
theorem dksX4_laysWays_1 : cX4_laysWays.data.toList.drop 24 = dktX4_laysWays_1 := dk_seg dksX4_laysWays_0 24 rfl rfl
theorem dksX4_laysWays_2 : cX4_laysWays.data.toList.drop 47 = dktX4_laysWays_2 := dk_seg dksX4_laysWays_1 23 rfl rfl
theorem dksX4_laysWays_3 : cX4_laysWays.data.toList.drop 71 = dktX4_laysWays_3 := dk_seg dksX4_laysWays_2 24 rfl rfl
theorem dksX4_laysWays_4 : cX4_laysWays.data.toList.drop 95 = dktX4_laysWays_4 := dk_seg dksX4_laysWays_3 24 rfl rfl
theorem dksX4_laysWays_5 : cX4_laysWays.data.toList.drop 119 = dktX4_laysWays_5 := dk_seg dksX4_laysWays_4 24 rfl rfl
theorem dX4_laysWays_0 : decode cX4_laysWays 0 = .ok (.iconst 0, 1) := dk_3 (dk_at dksX4_laysWays_0 0 rfl rfl)
theorem dX4_laysWays_1 : decode cX4_laysWays 1 = .ok (.istore_n 1, 1) := dk_60 (dk_at dksX4_laysWays_0 1 rfl rfl)
theorem dX4_laysWays_2 : decode cX4_laysWays 2 = .ok (.iload_n 1, 1) := dk_27 (dk_at dksX4_laysWays_0 2 rfl rfl)
theorem dX4_laysWays_3 : decode cX4_laysWays 3 = .ok (.aload_n 0, 1) := dk_42 (dk_at dksX4_laysWays_0 3 rfl rfl)
theorem dX4_laysWays_4 : decode cX4_laysWays 4 = .ok (.getfield 108, 3) := dk_180 0 108 (dk_at dksX4_laysWays_0 4 rfl rfl)
theorem dX4_laysWays_7 : decode cX4_laysWays 7 = .ok (.if_icmp .ge 121, 3) := dk_162 0 121 (dk_at dksX4_laysWays_0 7 rfl rfl)
theorem dX4_laysWays_10 : decode cX4_laysWays 10 = .ok (.iconst 0, 1) := dk_3 (dk_at dksX4_laysWays_0 10 rfl rfl)
theorem dX4_laysWays_11 : decode cX4_laysWays 11 = .ok (.istore_n 2, 1) := dk_61 (dk_at dksX4_laysWays_0 11 rfl rfl)
theorem dX4_laysWays_12 : decode cX4_laysWays 12 = .ok (.iload_n 2, 1) := dk_28 (dk_at dksX4_laysWays_0 12 rfl rfl)
theorem dX4_laysWays_13 : decode cX4_laysWays 13 = .ok (.aload_n 0, 1) := dk_42 (dk_at dksX4_laysWays_0 13 rfl rfl)
theorem dX4_laysWays_14 : decode cX4_laysWays 14 = .ok (.getfield 108, 3) := dk_180 0 108 (dk_at dksX4_laysWays_0 14 rfl rfl)
theorem dX4_laysWays_17 : decode cX4_laysWays 17 = .ok (.if_icmp .ge 105, 3) := dk_162 0 105 (dk_at dksX4_laysWays_0 17 rfl rfl)
theorem dX4_laysWays_20 : decode cX4_laysWays 20 = .ok (.iconst 0, 1) := dk_3 (dk_at dksX4_laysWays_0 20 rfl rfl)
theorem dX4_laysWays_21 : decode cX4_laysWays 21 = .ok (.istore_n 3, 1) := dk_62 (dk_at dksX4_laysWays_0 21 rfl rfl)
theorem dX4_laysWays_22 : decode cX4_laysWays 22 = .ok (.iload_n 3, 1) := dk_29 (dk_at dksX4_laysWays_0 22 rfl rfl)
theorem dX4_laysWays_23 : decode cX4_laysWays 23 = .ok (.aload_n 0, 1) := dk_42 (dk_at dksX4_laysWays_0 23 rfl rfl)
theorem dX4_laysWays_24 : decode cX4_laysWays 24 = .ok (.getfield 108, 3) := dk_180 0 108 (dk_at dksX4_laysWays_1 0 rfl rfl)
theorem dX4_laysWays_27 : decode cX4_laysWays 27 = .ok (.if_icmp .ge 89, 3) := dk_162 0 89 (dk_at dksX4_laysWays_1 3 rfl rfl)
theorem dX4_laysWays_30 : decode cX4_laysWays 30 = .ok (.aload_n 0, 1) := dk_42 (dk_at dksX4_laysWays_1 6 rfl rfl)
theorem dX4_laysWays_31 : decode cX4_laysWays 31 = .ok (.getfield 34, 3) := dk_180 0 34 (dk_at dksX4_laysWays_1 7 rfl rfl)
theorem dX4_laysWays_34 : decode cX4_laysWays 34 = .ok (.bipush 8, 2) := dk_16 8 (dk_at dksX4_laysWays_1 10 rfl rfl)
theorem dX4_laysWays_36 : decode cX4_laysWays 36 = .ok (.iload_n 2, 1) := dk_28 (dk_at dksX4_laysWays_1 12 rfl rfl)
theorem dX4_laysWays_37 : decode cX4_laysWays 37 = .ok (.imul, 1) := dk_104 (dk_at dksX4_laysWays_1 13 rfl rfl)
theorem dX4_laysWays_38 : decode cX4_laysWays 38 = .ok (.iload_n 1, 1) := dk_27 (dk_at dksX4_laysWays_1 14 rfl rfl)
theorem dX4_laysWays_39 : decode cX4_laysWays 39 = .ok (.iadd, 1) := dk_96 (dk_at dksX4_laysWays_1 15 rfl rfl)
theorem dX4_laysWays_40 : decode cX4_laysWays 40 = .ok (.iaload, 1) := dk_46 (dk_at dksX4_laysWays_1 16 rfl rfl)
theorem dX4_laysWays_41 : decode cX4_laysWays 41 = .ok (.istore 4, 2) := dk_54 4 (dk_at dksX4_laysWays_1 17 rfl rfl)
theorem dX4_laysWays_43 : decode cX4_laysWays 43 = .ok (.aload_n 0, 1) := dk_42 (dk_at dksX4_laysWays_1 19 rfl rfl)
theorem dX4_laysWays_44 : decode cX4_laysWays 44 = .ok (.getfield 34, 3) := dk_180 0 34 (dk_at dksX4_laysWays_1 20 rfl rfl)
theorem dX4_laysWays_47 : decode cX4_laysWays 47 = .ok (.bipush 8, 2) := dk_16 8 (dk_at dksX4_laysWays_2 0 rfl rfl)
theorem dX4_laysWays_49 : decode cX4_laysWays 49 = .ok (.iload_n 1, 1) := dk_27 (dk_at dksX4_laysWays_2 2 rfl rfl)
theorem dX4_laysWays_50 : decode cX4_laysWays 50 = .ok (.imul, 1) := dk_104 (dk_at dksX4_laysWays_2 3 rfl rfl)
theorem dX4_laysWays_51 : decode cX4_laysWays 51 = .ok (.iload_n 3, 1) := dk_29 (dk_at dksX4_laysWays_2 4 rfl rfl)
theorem dX4_laysWays_52 : decode cX4_laysWays 52 = .ok (.iadd, 1) := dk_96 (dk_at dksX4_laysWays_2 5 rfl rfl)
theorem dX4_laysWays_53 : decode cX4_laysWays 53 = .ok (.iaload, 1) := dk_46 (dk_at dksX4_laysWays_2 6 rfl rfl)
theorem dX4_laysWays_54 : decode cX4_laysWays 54 = .ok (.istore 5, 2) := dk_54 5 (dk_at dksX4_laysWays_2 7 rfl rfl)
theorem dX4_laysWays_56 : decode cX4_laysWays 56 = .ok (.aload_n 0, 1) := dk_42 (dk_at dksX4_laysWays_2 9 rfl rfl)
theorem dX4_laysWays_57 : decode cX4_laysWays 57 = .ok (.getfield 34, 3) := dk_180 0 34 (dk_at dksX4_laysWays_2 10 rfl rfl)
theorem dX4_laysWays_60 : decode cX4_laysWays 60 = .ok (.bipush 8, 2) := dk_16 8 (dk_at dksX4_laysWays_2 13 rfl rfl)
theorem dX4_laysWays_62 : decode cX4_laysWays 62 = .ok (.iload_n 2, 1) := dk_28 (dk_at dksX4_laysWays_2 15 rfl rfl)
theorem dX4_laysWays_63 : decode cX4_laysWays 63 = .ok (.imul, 1) := dk_104 (dk_at dksX4_laysWays_2 16 rfl rfl)
theorem dX4_laysWays_64 : decode cX4_laysWays 64 = .ok (.iload_n 3, 1) := dk_29 (dk_at dksX4_laysWays_2 17 rfl rfl)
theorem dX4_laysWays_65 : decode cX4_laysWays 65 = .ok (.iadd, 1) := dk_96 (dk_at dksX4_laysWays_2 18 rfl rfl)
theorem dX4_laysWays_66 : decode cX4_laysWays 66 = .ok (.iaload, 1) := dk_46 (dk_at dksX4_laysWays_2 19 rfl rfl)
theorem dX4_laysWays_67 : decode cX4_laysWays 67 = .ok (.istore 6, 2) := dk_54 6 (dk_at dksX4_laysWays_2 20 rfl rfl)
theorem dX4_laysWays_69 : decode cX4_laysWays 69 = .ok (.iload 4, 2) := dk_21 4 (dk_at dksX4_laysWays_2 22 rfl rfl)
theorem dX4_laysWays_71 : decode cX4_laysWays 71 = .ok (.ifCond .lt 39, 3) := dk_155 0 39 (dk_at dksX4_laysWays_3 0 rfl rfl)
theorem dX4_laysWays_74 : decode cX4_laysWays 74 = .ok (.iload 5, 2) := dk_21 5 (dk_at dksX4_laysWays_3 3 rfl rfl)
theorem dX4_laysWays_76 : decode cX4_laysWays 76 = .ok (.ifCond .lt 34, 3) := dk_155 0 34 (dk_at dksX4_laysWays_3 5 rfl rfl)
theorem dX4_laysWays_79 : decode cX4_laysWays 79 = .ok (.iload 6, 2) := dk_21 6 (dk_at dksX4_laysWays_3 8 rfl rfl)
theorem dX4_laysWays_81 : decode cX4_laysWays 81 = .ok (.ifCond .lt 13, 3) := dk_155 0 13 (dk_at dksX4_laysWays_3 10 rfl rfl)
theorem dX4_laysWays_84 : decode cX4_laysWays 84 = .ok (.iload 4, 2) := dk_21 4 (dk_at dksX4_laysWays_3 13 rfl rfl)
theorem dX4_laysWays_86 : decode cX4_laysWays 86 = .ok (.iload 5, 2) := dk_21 5 (dk_at dksX4_laysWays_3 15 rfl rfl)
theorem dX4_laysWays_88 : decode cX4_laysWays 88 = .ok (.iadd, 1) := dk_96 (dk_at dksX4_laysWays_3 17 rfl rfl)
theorem dX4_laysWays_89 : decode cX4_laysWays 89 = .ok (.iload 6, 2) := dk_21 6 (dk_at dksX4_laysWays_3 18 rfl rfl)
theorem dX4_laysWays_91 : decode cX4_laysWays 91 = .ok (.if_icmp .ge 19, 3) := dk_162 0 19 (dk_at dksX4_laysWays_3 20 rfl rfl)
theorem dX4_laysWays_94 : decode cX4_laysWays 94 = .ok (.aload_n 0, 1) := dk_42 (dk_at dksX4_laysWays_3 23 rfl rfl)
theorem dX4_laysWays_95 : decode cX4_laysWays 95 = .ok (.getfield 34, 3) := dk_180 0 34 (dk_at dksX4_laysWays_4 0 rfl rfl)
theorem dX4_laysWays_98 : decode cX4_laysWays 98 = .ok (.bipush 8, 2) := dk_16 8 (dk_at dksX4_laysWays_4 3 rfl rfl)
theorem dX4_laysWays_100 : decode cX4_laysWays 100 = .ok (.iload_n 2, 1) := dk_28 (dk_at dksX4_laysWays_4 5 rfl rfl)
theorem dX4_laysWays_101 : decode cX4_laysWays 101 = .ok (.imul, 1) := dk_104 (dk_at dksX4_laysWays_4 6 rfl rfl)
theorem dX4_laysWays_102 : decode cX4_laysWays 102 = .ok (.iload_n 3, 1) := dk_29 (dk_at dksX4_laysWays_4 7 rfl rfl)
theorem dX4_laysWays_103 : decode cX4_laysWays 103 = .ok (.iadd, 1) := dk_96 (dk_at dksX4_laysWays_4 8 rfl rfl)
theorem dX4_laysWays_104 : decode cX4_laysWays 104 = .ok (.iload 4, 2) := dk_21 4 (dk_at dksX4_laysWays_4 9 rfl rfl)
theorem dX4_laysWays_106 : decode cX4_laysWays 106 = .ok (.iload 5, 2) := dk_21 5 (dk_at dksX4_laysWays_4 11 rfl rfl)
theorem dX4_laysWays_108 : decode cX4_laysWays 108 = .ok (.iadd, 1) := dk_96 (dk_at dksX4_laysWays_4 13 rfl rfl)
theorem dX4_laysWays_109 : decode cX4_laysWays 109 = .ok (.iastore, 1) := dk_79 (dk_at dksX4_laysWays_4 14 rfl rfl)
theorem dX4_laysWays_110 : decode cX4_laysWays 110 = .ok (.iinc 3 1, 3) := dk_132 3 1 (dk_at dksX4_laysWays_4 15 rfl rfl)
theorem dX4_laysWays_113 : decode cX4_laysWays 113 = .ok (.goto (-91), 3) := dk_167 255 165 (dk_at dksX4_laysWays_4 18 rfl rfl)
theorem dX4_laysWays_116 : decode cX4_laysWays 116 = .ok (.iinc 2 1, 3) := dk_132 2 1 (dk_at dksX4_laysWays_4 21 rfl rfl)
theorem dX4_laysWays_119 : decode cX4_laysWays 119 = .ok (.goto (-107), 3) := dk_167 255 149 (dk_at dksX4_laysWays_5 0 rfl rfl)
theorem dX4_laysWays_122 : decode cX4_laysWays 122 = .ok (.iinc 1 1, 3) := dk_132 1 1 (dk_at dksX4_laysWays_5 3 rfl rfl)
theorem dX4_laysWays_125 : decode cX4_laysWays 125 = .ok (.goto (-123), 3) := dk_167 255 133 (dk_at dksX4_laysWays_5 6 rfl rfl)
theorem dX4_laysWays_128 : decode cX4_laysWays 128 = .ok (.return_, 1) := dk_177 (dk_at dksX4_laysWays_5 9 rfl rfl)
abbrev cX4_thrown : ByteArray := prog_25_method_2_code
def yX4_thrown : MethodName := ⟨RX4, "thrown", "()I"⟩
theorem dX4_thrown_0 : decode cX4_thrown 0 = .ok (.aload_n 0, 1) := by decide +kernel
theorem dX4_thrown_1 : decode cX4_thrown 1 = .ok (.getfield 93, 3) := by decide +kernel
theorem dX4_thrown_4 : decode cX4_thrown 4 = .ok (.ireturn, 1) := by decide +kernel
abbrev cX4_feed : ByteArray := prog_25_method_19_code
def yX4_feed : MethodName := ⟨RX4, "feed", "(IIIII)I"⟩
def dkwX4_feed_2 : List UInt8 := [182, 0, 133, 42, 180, 0, 130, 172]
abbrev dktX4_feed_2 : List UInt8 := dkwX4_feed_2 ++ []
def dkwX4_feed_1 : List UInt8 := [182, 0, 133, 42, 28, 182, 0, 133, 42, 29, 182, 0, 133, 42, 21, 4, 182, 0, 133, 42, 21, 5]
abbrev dktX4_feed_1 : List UInt8 := dkwX4_feed_1 ++ dktX4_feed_2
def dkwX4_feed_0 : List UInt8 := [42, 3, 181, 0, 93, 42, 180, 0, 130, 16, 20, 96, 17, 3, 32, 164, 0, 5, 2, 172, 42, 27]
abbrev dktX4_feed_0 : List UInt8 := dkwX4_feed_0 ++ dktX4_feed_1
theorem dksX4_feed_0 : cX4_feed.data.toList.drop 0 = dktX4_feed_0 := by decide +kernel
theorem dksX4_feed_1 : cX4_feed.data.toList.drop 22 = dktX4_feed_1 := dk_seg dksX4_feed_0 22 rfl rfl
theorem dksX4_feed_2 : cX4_feed.data.toList.drop 44 = dktX4_feed_2 := dk_seg dksX4_feed_1 22 rfl rfl
theorem dX4_feed_0 : decode cX4_feed 0 = .ok (.aload_n 0, 1) := dk_42 (dk_at dksX4_feed_0 0 rfl rfl)
theorem dX4_feed_1 : decode cX4_feed 1 = .ok (.iconst 0, 1) := dk_3 (dk_at dksX4_feed_0 1 rfl rfl)
theorem dX4_feed_2 : decode cX4_feed 2 = .ok (.putfield 93, 3) := dk_181 0 93 (dk_at dksX4_feed_0 2 rfl rfl)
theorem dX4_feed_5 : decode cX4_feed 5 = .ok (.aload_n 0, 1) := dk_42 (dk_at dksX4_feed_0 5 rfl rfl)
theorem dX4_feed_6 : decode cX4_feed 6 = .ok (.getfield 130, 3) := dk_180 0 130 (dk_at dksX4_feed_0 6 rfl rfl)
theorem dX4_feed_9 : decode cX4_feed 9 = .ok (.bipush 20, 2) := dk_16 20 (dk_at dksX4_feed_0 9 rfl rfl)
theorem dX4_feed_11 : decode cX4_feed 11 = .ok (.iadd, 1) := dk_96 (dk_at dksX4_feed_0 11 rfl rfl)
theorem dX4_feed_12 : decode cX4_feed 12 = .ok (.sipush 800, 3) := dk_17 3 32 (dk_at dksX4_feed_0 12 rfl rfl)
theorem dX4_feed_15 : decode cX4_feed 15 = .ok (.if_icmp .le 5, 3) := dk_164 0 5 (dk_at dksX4_feed_0 15 rfl rfl)
theorem dX4_feed_18 : decode cX4_feed 18 = .ok (.iconst (-1), 1) := dk_2 (dk_at dksX4_feed_0 18 rfl rfl)
theorem dX4_feed_19 : decode cX4_feed 19 = .ok (.ireturn, 1) := dk_172 (dk_at dksX4_feed_0 19 rfl rfl)
theorem dX4_feed_20 : decode cX4_feed 20 = .ok (.aload_n 0, 1) := dk_42 (dk_at dksX4_feed_0 20 rfl rfl)
theorem dX4_feed_21 : decode cX4_feed 21 = .ok (.iload_n 1, 1) := dk_27 (dk_at dksX4_feed_0 21 rfl rfl)
theorem dX4_feed_22 : decode cX4_feed 22 = .ok (.invokevirtual 133, 3) := dk_182 0 133 (dk_at dksX4_feed_1 0 rfl rfl)
theorem dX4_feed_25 : decode cX4_feed 25 = .ok (.aload_n 0, 1) := dk_42 (dk_at dksX4_feed_1 3 rfl rfl)
theorem dX4_feed_26 : decode cX4_feed 26 = .ok (.iload_n 2, 1) := dk_28 (dk_at dksX4_feed_1 4 rfl rfl)
theorem dX4_feed_27 : decode cX4_feed 27 = .ok (.invokevirtual 133, 3) := dk_182 0 133 (dk_at dksX4_feed_1 5 rfl rfl)
theorem dX4_feed_30 : decode cX4_feed 30 = .ok (.aload_n 0, 1) := dk_42 (dk_at dksX4_feed_1 8 rfl rfl)
theorem dX4_feed_31 : decode cX4_feed 31 = .ok (.iload_n 3, 1) := dk_29 (dk_at dksX4_feed_1 9 rfl rfl)
theorem dX4_feed_32 : decode cX4_feed 32 = .ok (.invokevirtual 133, 3) := dk_182 0 133 (dk_at dksX4_feed_1 10 rfl rfl)
theorem dX4_feed_35 : decode cX4_feed 35 = .ok (.aload_n 0, 1) := dk_42 (dk_at dksX4_feed_1 13 rfl rfl)
theorem dX4_feed_36 : decode cX4_feed 36 = .ok (.iload 4, 2) := dk_21 4 (dk_at dksX4_feed_1 14 rfl rfl)
theorem dX4_feed_38 : decode cX4_feed 38 = .ok (.invokevirtual 133, 3) := dk_182 0 133 (dk_at dksX4_feed_1 16 rfl rfl)
theorem dX4_feed_41 : decode cX4_feed 41 = .ok (.aload_n 0, 1) := dk_42 (dk_at dksX4_feed_1 19 rfl rfl)
theorem dX4_feed_42 : decode cX4_feed 42 = .ok (.iload 5, 2) := dk_21 5 (dk_at dksX4_feed_1 20 rfl rfl)
theorem dX4_feed_44 : decode cX4_feed 44 = .ok (.invokevirtual 133, 3) := dk_182 0 133 (dk_at dksX4_feed_2 0 rfl rfl)
theorem dX4_feed_47 : decode cX4_feed 47 = .ok (.aload_n 0, 1) := dk_42 (dk_at dksX4_feed_2 3 rfl rfl)
theorem dX4_feed_48 : decode cX4_feed 48 = .ok (.getfield 130, 3) := dk_180 0 130 (dk_at dksX4_feed_2 4 rfl rfl)
theorem dX4_feed_51 : decode cX4_feed 51 = .ok (.ireturn, 1) := dk_172 (dk_at dksX4_feed_2 7 rfl rfl)
abbrev cX4_lays : ByteArray := prog_25_method_18_code
def yX4_lays : MethodName := ⟨RX4, "lays", "(I)V"⟩
def dkwX4_lays_1 : List UInt8 := [89, 180, 0, 130, 4, 96, 181, 0, 130, 132, 2, 248, 167, 255, 223, 177]
abbrev dktX4_lays_1 : List UInt8 := dkwX4_lays_1 ++ []
def dkwX4_lays_0 : List UInt8 := [16, 24, 61, 28, 155, 0, 35, 42, 180, 0, 43, 42, 180, 0, 130, 27, 28, 122, 17, 0, 255, 126, 79, 42]
abbrev dktX4_lays_0 : List UInt8 := dkwX4_lays_0 ++ dktX4_lays_1
theorem dksX4_lays_0 : cX4_lays.data.toList.drop 0 = dktX4_lays_0 := by decide +kernel
theorem dksX4_lays_1 : cX4_lays.data.toList.drop 24 = dktX4_lays_1 := dk_seg dksX4_lays_0 24 rfl rfl
theorem dX4_lays_0 : decode cX4_lays 0 = .ok (.bipush 24, 2) := dk_16 24 (dk_at dksX4_lays_0 0 rfl rfl)
theorem dX4_lays_2 : decode cX4_lays 2 = .ok (.istore_n 2, 1) := dk_61 (dk_at dksX4_lays_0 2 rfl rfl)
theorem dX4_lays_3 : decode cX4_lays 3 = .ok (.iload_n 2, 1) := dk_28 (dk_at dksX4_lays_0 3 rfl rfl)
theorem dX4_lays_4 : decode cX4_lays 4 = .ok (.ifCond .lt 35, 3) := dk_155 0 35 (dk_at dksX4_lays_0 4 rfl rfl)
theorem dX4_lays_7 : decode cX4_lays 7 = .ok (.aload_n 0, 1) := dk_42 (dk_at dksX4_lays_0 7 rfl rfl)
theorem dX4_lays_8 : decode cX4_lays 8 = .ok (.getfield 43, 3) := dk_180 0 43 (dk_at dksX4_lays_0 8 rfl rfl)
theorem dX4_lays_11 : decode cX4_lays 11 = .ok (.aload_n 0, 1) := dk_42 (dk_at dksX4_lays_0 11 rfl rfl)
theorem dX4_lays_12 : decode cX4_lays 12 = .ok (.getfield 130, 3) := dk_180 0 130 (dk_at dksX4_lays_0 12 rfl rfl)
theorem dX4_lays_15 : decode cX4_lays 15 = .ok (.iload_n 1, 1) := dk_27 (dk_at dksX4_lays_0 15 rfl rfl)
theorem dX4_lays_16 : decode cX4_lays 16 = .ok (.iload_n 2, 1) := dk_28 (dk_at dksX4_lays_0 16 rfl rfl)
theorem dX4_lays_17 : decode cX4_lays 17 = .ok (.ishr, 1) := dk_122 (dk_at dksX4_lays_0 17 rfl rfl)
theorem dX4_lays_18 : decode cX4_lays 18 = .ok (.sipush 255, 3) := dk_17 0 255 (dk_at dksX4_lays_0 18 rfl rfl)
theorem dX4_lays_21 : decode cX4_lays 21 = .ok (.iand, 1) := dk_126 (dk_at dksX4_lays_0 21 rfl rfl)
theorem dX4_lays_22 : decode cX4_lays 22 = .ok (.iastore, 1) := dk_79 (dk_at dksX4_lays_0 22 rfl rfl)
theorem dX4_lays_23 : decode cX4_lays 23 = .ok (.aload_n 0, 1) := dk_42 (dk_at dksX4_lays_0 23 rfl rfl)
theorem dX4_lays_24 : decode cX4_lays 24 = .ok (.dup, 1) := dk_89 (dk_at dksX4_lays_1 0 rfl rfl)
theorem dX4_lays_25 : decode cX4_lays 25 = .ok (.getfield 130, 3) := dk_180 0 130 (dk_at dksX4_lays_1 1 rfl rfl)
theorem dX4_lays_28 : decode cX4_lays 28 = .ok (.iconst 1, 1) := dk_4 (dk_at dksX4_lays_1 4 rfl rfl)
theorem dX4_lays_29 : decode cX4_lays 29 = .ok (.iadd, 1) := dk_96 (dk_at dksX4_lays_1 5 rfl rfl)
theorem dX4_lays_30 : decode cX4_lays 30 = .ok (.putfield 130, 3) := dk_181 0 130 (dk_at dksX4_lays_1 6 rfl rfl)
theorem dX4_lays_33 : decode cX4_lays 33 = .ok (.iinc 2 (-8), 3) := dk_132 2 248 (dk_at dksX4_lays_1 9 rfl rfl)
theorem dX4_lays_36 : decode cX4_lays 36 = .ok (.goto (-33), 3) := dk_167 255 223 (dk_at dksX4_lays_1 12 rfl rfl)
theorem dX4_lays_39 : decode cX4_lays 39 = .ok (.return_, 1) := dk_177 (dk_at dksX4_lays_1 15 rfl rfl)
abbrev cX4_errorPosition : ByteArray := prog_25_method_20_code
def yX4_errorPosition : MethodName := ⟨RX4, "errorPosition", "()I"⟩
def dkwX4_errorPosition_0 : List UInt8 := [42, 3, 181, 0, 93, 42, 180, 0, 46, 172]
abbrev dktX4_errorPosition_0 : List UInt8 := dkwX4_errorPosition_0 ++ []
theorem dksX4_errorPosition_0 : cX4_errorPosition.data.toList.drop 0 = dktX4_errorPosition_0 := by decide +kernel
theorem dX4_errorPosition_0 : decode cX4_errorPosition 0 = .ok (.aload_n 0, 1) := dk_42 (dk_at dksX4_errorPosition_0 0 rfl rfl)
theorem dX4_errorPosition_1 : decode cX4_errorPosition 1 = .ok (.iconst 0, 1) := dk_3 (dk_at dksX4_errorPosition_0 1 rfl rfl)
theorem dX4_errorPosition_2 : decode cX4_errorPosition 2 = .ok (.putfield 93, 3) := dk_181 0 93 (dk_at dksX4_errorPosition_0 2 rfl rfl)
theorem dX4_errorPosition_5 : decode cX4_errorPosition 5 = .ok (.aload_n 0, 1) := dk_42 (dk_at dksX4_errorPosition_0 5 rfl rfl)
theorem dX4_errorPosition_6 : decode cX4_errorPosition 6 = .ok (.getfield 46, 3) := dk_180 0 46 (dk_at dksX4_errorPosition_0 6 rfl rfl)
theorem dX4_errorPosition_9 : decode cX4_errorPosition 9 = .ok (.ireturn, 1) := dk_172 (dk_at dksX4_errorPosition_0 9 rfl rfl)
abbrev cX4_load : ByteArray := prog_25_method_40_code
def yX4_load : MethodName := ⟨RX4, "load", "(I)I"⟩
def dkwX4_load_4 : List UInt8 := [180, 0, 177, 100, 172, 42, 182, 0, 90, 42, 180, 0, 114, 172]
abbrev dktX4_load_4 : List UInt8 := dkwX4_load_4 ++ []
def dkwX4_load_3 : List UInt8 := [180, 0, 161, 153, 0, 10, 42, 182, 1, 9, 167, 255, 238, 42, 182, 0, 183, 154, 0, 11, 16, 246, 42]
abbrev dktX4_load_3 : List UInt8 := dkwX4_load_3 ++ dktX4_load_4
def dkwX4_load_2 : List UInt8 := [42, 5, 16, 8, 182, 0, 215, 182, 0, 87, 42, 16, 59, 182, 0, 253, 42, 182, 0, 183, 153, 0, 17, 42]
abbrev dktX4_load_2 : List UInt8 := dkwX4_load_2 ++ dktX4_load_3
def dkwX4_load_1 : List UInt8 := [3, 172, 42, 27, 182, 1, 4, 42, 20, 1, 7, 182, 0, 233, 154, 0, 9, 42, 4, 182, 0, 194, 87, 42]
abbrev dktX4_load_1 : List UInt8 := dkwX4_load_1 ++ dktX4_load_2
def dkwX4_load_0 : List UInt8 := [42, 3, 181, 0, 93, 42, 27, 133, 9, 42, 180, 0, 130, 133, 184, 0, 197, 4, 182, 1, 0, 153, 0, 5]
abbrev dktX4_load_0 : List UInt8 := dkwX4_load_0 ++ dktX4_load_1
theorem dksX4_load_0 : cX4_load.data.toList.drop 0 = dktX4_load_0 := by decide +kernel
theorem dksX4_load_1 : cX4_load.data.toList.drop 24 = dktX4_load_1 := dk_seg dksX4_load_0 24 rfl rfl
theorem dksX4_load_2 : cX4_load.data.toList.drop 48 = dktX4_load_2 := dk_seg dksX4_load_1 24 rfl rfl
theorem dksX4_load_3 : cX4_load.data.toList.drop 72 = dktX4_load_3 := dk_seg dksX4_load_2 24 rfl rfl
theorem dksX4_load_4 : cX4_load.data.toList.drop 95 = dktX4_load_4 := dk_seg dksX4_load_3 23 rfl rfl
theorem dX4_load_0 : decode cX4_load 0 = .ok (.aload_n 0, 1) := dk_42 (dk_at dksX4_load_0 0 rfl rfl)
theorem dX4_load_1 : decode cX4_load 1 = .ok (.iconst 0, 1) := dk_3 (dk_at dksX4_load_0 1 rfl rfl)
theorem dX4_load_2 : decode cX4_load 2 = .ok (.putfield 93, 3) := dk_181 0 93 (dk_at dksX4_load_0 2 rfl rfl)
theorem dX4_load_5 : decode cX4_load 5 = .ok (.aload_n 0, 1) := dk_42 (dk_at dksX4_load_0 5 rfl rfl)
theorem dX4_load_6 : decode cX4_load 6 = .ok (.iload_n 1, 1) := dk_27 (dk_at dksX4_load_0 6 rfl rfl)
theorem dX4_load_7 : decode cX4_load 7 = .ok (.i2l, 1) := dk_133 (dk_at dksX4_load_0 7 rfl rfl)
theorem dX4_load_8 : decode cX4_load 8 = .ok (.lconst 0, 1) := dk_9 (dk_at dksX4_load_0 8 rfl rfl)
theorem dX4_load_9 : decode cX4_load 9 = .ok (.aload_n 0, 1) := dk_42 (dk_at dksX4_load_0 9 rfl rfl)
theorem dX4_load_10 : decode cX4_load 10 = .ok (.getfield 130, 3) := dk_180 0 130 (dk_at dksX4_load_0 10 rfl rfl)
theorem dX4_load_13 : decode cX4_load 13 = .ok (.i2l, 1) := dk_133 (dk_at dksX4_load_0 13 rfl rfl)
theorem dX4_load_14 : decode cX4_load 14 = .ok (.invokestatic 197, 3) := dk_184 0 197 (dk_at dksX4_load_0 14 rfl rfl)
theorem dX4_load_17 : decode cX4_load 17 = .ok (.iconst 1, 1) := dk_4 (dk_at dksX4_load_0 17 rfl rfl)
theorem dX4_load_18 : decode cX4_load 18 = .ok (.invokevirtual 256, 3) := dk_182 1 0 (dk_at dksX4_load_0 18 rfl rfl)
theorem dX4_load_21 : decode cX4_load 21 = .ok (.ifCond .eq 5, 3) := dk_153 0 5 (dk_at dksX4_load_0 21 rfl rfl)
theorem dX4_load_24 : decode cX4_load 24 = .ok (.iconst 0, 1) := dk_3 (dk_at dksX4_load_1 0 rfl rfl)
theorem dX4_load_25 : decode cX4_load 25 = .ok (.ireturn, 1) := dk_172 (dk_at dksX4_load_1 1 rfl rfl)
theorem dX4_load_26 : decode cX4_load 26 = .ok (.aload_n 0, 1) := dk_42 (dk_at dksX4_load_1 2 rfl rfl)
theorem dX4_load_27 : decode cX4_load 27 = .ok (.iload_n 1, 1) := dk_27 (dk_at dksX4_load_1 3 rfl rfl)
theorem dX4_load_28 : decode cX4_load 28 = .ok (.invokevirtual 260, 3) := dk_182 1 4 (dk_at dksX4_load_1 4 rfl rfl)
theorem dX4_load_31 : decode cX4_load 31 = .ok (.aload_n 0, 1) := dk_42 (dk_at dksX4_load_1 7 rfl rfl)
theorem dX4_load_32 : decode cX4_load 32 = .ok (.ldc2_w 263, 3) := dk_20 1 7 (dk_at dksX4_load_1 8 rfl rfl)
theorem dX4_load_35 : decode cX4_load 35 = .ok (.invokevirtual 233, 3) := dk_182 0 233 (dk_at dksX4_load_1 11 rfl rfl)
theorem dX4_load_38 : decode cX4_load 38 = .ok (.ifCond .ne 9, 3) := dk_154 0 9 (dk_at dksX4_load_1 14 rfl rfl)
theorem dX4_load_41 : decode cX4_load 41 = .ok (.aload_n 0, 1) := dk_42 (dk_at dksX4_load_1 17 rfl rfl)
theorem dX4_load_42 : decode cX4_load 42 = .ok (.iconst 1, 1) := dk_4 (dk_at dksX4_load_1 18 rfl rfl)
theorem dX4_load_43 : decode cX4_load 43 = .ok (.invokevirtual 194, 3) := dk_182 0 194 (dk_at dksX4_load_1 19 rfl rfl)
theorem dX4_load_46 : decode cX4_load 46 = .ok (.pop, 1) := dk_87 (dk_at dksX4_load_1 22 rfl rfl)
theorem dX4_load_47 : decode cX4_load 47 = .ok (.aload_n 0, 1) := dk_42 (dk_at dksX4_load_1 23 rfl rfl)
theorem dX4_load_48 : decode cX4_load 48 = .ok (.aload_n 0, 1) := dk_42 (dk_at dksX4_load_2 0 rfl rfl)
theorem dX4_load_49 : decode cX4_load 49 = .ok (.iconst 2, 1) := dk_5 (dk_at dksX4_load_2 1 rfl rfl)
theorem dX4_load_50 : decode cX4_load 50 = .ok (.bipush 8, 2) := dk_16 8 (dk_at dksX4_load_2 2 rfl rfl)
theorem dX4_load_52 : decode cX4_load 52 = .ok (.invokevirtual 215, 3) := dk_182 0 215 (dk_at dksX4_load_2 4 rfl rfl)
theorem dX4_load_55 : decode cX4_load 55 = .ok (.invokevirtual 87, 3) := dk_182 0 87 (dk_at dksX4_load_2 7 rfl rfl)
theorem dX4_load_58 : decode cX4_load 58 = .ok (.aload_n 0, 1) := dk_42 (dk_at dksX4_load_2 10 rfl rfl)
theorem dX4_load_59 : decode cX4_load 59 = .ok (.bipush 59, 2) := dk_16 59 (dk_at dksX4_load_2 11 rfl rfl)
theorem dX4_load_61 : decode cX4_load 61 = .ok (.invokevirtual 253, 3) := dk_182 0 253 (dk_at dksX4_load_2 13 rfl rfl)
theorem dX4_load_64 : decode cX4_load 64 = .ok (.aload_n 0, 1) := dk_42 (dk_at dksX4_load_2 16 rfl rfl)
theorem dX4_load_65 : decode cX4_load 65 = .ok (.invokevirtual 183, 3) := dk_182 0 183 (dk_at dksX4_load_2 17 rfl rfl)
theorem dX4_load_68 : decode cX4_load 68 = .ok (.ifCond .eq 17, 3) := dk_153 0 17 (dk_at dksX4_load_2 20 rfl rfl)
theorem dX4_load_71 : decode cX4_load 71 = .ok (.aload_n 0, 1) := dk_42 (dk_at dksX4_load_2 23 rfl rfl)
theorem dX4_load_72 : decode cX4_load 72 = .ok (.getfield 161, 3) := dk_180 0 161 (dk_at dksX4_load_3 0 rfl rfl)
theorem dX4_load_75 : decode cX4_load 75 = .ok (.ifCond .eq 10, 3) := dk_153 0 10 (dk_at dksX4_load_3 3 rfl rfl)
theorem dX4_load_78 : decode cX4_load 78 = .ok (.aload_n 0, 1) := dk_42 (dk_at dksX4_load_3 6 rfl rfl)
theorem dX4_load_79 : decode cX4_load 79 = .ok (.invokevirtual 265, 3) := dk_182 1 9 (dk_at dksX4_load_3 7 rfl rfl)
theorem dX4_load_82 : decode cX4_load 82 = .ok (.goto (-18), 3) := dk_167 255 238 (dk_at dksX4_load_3 10 rfl rfl)
theorem dX4_load_85 : decode cX4_load 85 = .ok (.aload_n 0, 1) := dk_42 (dk_at dksX4_load_3 13 rfl rfl)
theorem dX4_load_86 : decode cX4_load 86 = .ok (.invokevirtual 183, 3) := dk_182 0 183 (dk_at dksX4_load_3 14 rfl rfl)
theorem dX4_load_89 : decode cX4_load 89 = .ok (.ifCond .ne 11, 3) := dk_154 0 11 (dk_at dksX4_load_3 17 rfl rfl)
theorem dX4_load_92 : decode cX4_load 92 = .ok (.bipush (-10), 2) := dk_16 246 (dk_at dksX4_load_3 20 rfl rfl)
theorem dX4_load_94 : decode cX4_load 94 = .ok (.aload_n 0, 1) := dk_42 (dk_at dksX4_load_3 22 rfl rfl)
theorem dX4_load_95 : decode cX4_load 95 = .ok (.getfield 177, 3) := dk_180 0 177 (dk_at dksX4_load_4 0 rfl rfl)
theorem dX4_load_98 : decode cX4_load 98 = .ok (.isub, 1) := dk_100 (dk_at dksX4_load_4 3 rfl rfl)
theorem dX4_load_99 : decode cX4_load 99 = .ok (.ireturn, 1) := dk_172 (dk_at dksX4_load_4 4 rfl rfl)
theorem dX4_load_100 : decode cX4_load 100 = .ok (.aload_n 0, 1) := dk_42 (dk_at dksX4_load_4 5 rfl rfl)
theorem dX4_load_101 : decode cX4_load 101 = .ok (.invokevirtual 90, 3) := dk_182 0 90 (dk_at dksX4_load_4 6 rfl rfl)
theorem dX4_load_104 : decode cX4_load 104 = .ok (.aload_n 0, 1) := dk_42 (dk_at dksX4_load_4 9 rfl rfl)
theorem dX4_load_105 : decode cX4_load 105 = .ok (.getfield 114, 3) := dk_180 0 114 (dk_at dksX4_load_4 10 rfl rfl)
theorem dX4_load_108 : decode cX4_load 108 = .ok (.ireturn, 1) := dk_172 (dk_at dksX4_load_4 13 rfl rfl)
abbrev cX4_in : ByteArray := prog_25_method_3_code
def yX4_in : MethodName := ⟨RX4, "in", "(JJJ)Z"⟩
def dkwX4_in_0 : List UInt8 := [30, 32, 148, 155, 0, 14, 30, 22, 4, 148, 157, 0, 7, 4, 167, 0, 4, 3, 172]
abbrev dktX4_in_0 : List UInt8 := dkwX4_in_0 ++ []
theorem dksX4_in_0 : cX4_in.data.toList.drop 0 = dktX4_in_0 := by decide +kernel
theorem dX4_in_0 : decode cX4_in 0 = .ok (.lload_n 0, 1) := dk_30 (dk_at dksX4_in_0 0 rfl rfl)
theorem dX4_in_1 : decode cX4_in 1 = .ok (.lload_n 2, 1) := dk_32 (dk_at dksX4_in_0 1 rfl rfl)
theorem dX4_in_2 : decode cX4_in 2 = .ok (.lcmp, 1) := dk_148 (dk_at dksX4_in_0 2 rfl rfl)
theorem dX4_in_3 : decode cX4_in 3 = .ok (.ifCond .lt 14, 3) := dk_155 0 14 (dk_at dksX4_in_0 3 rfl rfl)
theorem dX4_in_6 : decode cX4_in 6 = .ok (.lload_n 0, 1) := dk_30 (dk_at dksX4_in_0 6 rfl rfl)
theorem dX4_in_7 : decode cX4_in 7 = .ok (.lload 4, 2) := dk_22 4 (dk_at dksX4_in_0 7 rfl rfl)
theorem dX4_in_9 : decode cX4_in 9 = .ok (.lcmp, 1) := dk_148 (dk_at dksX4_in_0 9 rfl rfl)
theorem dX4_in_10 : decode cX4_in 10 = .ok (.ifCond .gt 7, 3) := dk_157 0 7 (dk_at dksX4_in_0 10 rfl rfl)
theorem dX4_in_13 : decode cX4_in 13 = .ok (.iconst 1, 1) := dk_4 (dk_at dksX4_in_0 13 rfl rfl)
theorem dX4_in_14 : decode cX4_in 14 = .ok (.goto 4, 3) := dk_167 0 4 (dk_at dksX4_in_0 14 rfl rfl)
theorem dX4_in_17 : decode cX4_in 17 = .ok (.iconst 0, 1) := dk_3 (dk_at dksX4_in_0 17 rfl rfl)
theorem dX4_in_18 : decode cX4_in 18 = .ok (.ireturn, 1) := dk_172 (dk_at dksX4_in_0 18 rfl rfl)
abbrev cX4_fails : ByteArray := prog_25_method_4_code
def yX4_fails : MethodName := ⟨RX4, "fails", "(ZI)Z"⟩
def dkwX4_fails_0 : List UInt8 := [27, 153, 0, 5, 3, 172, 42, 28, 181, 0, 93, 4, 172]
abbrev dktX4_fails_0 : List UInt8 := dkwX4_fails_0 ++ []
theorem dksX4_fails_0 : cX4_fails.data.toList.drop 0 = dktX4_fails_0 := by decide +kernel
theorem dX4_fails_0 : decode cX4_fails 0 = .ok (.iload_n 1, 1) := dk_27 (dk_at dksX4_fails_0 0 rfl rfl)
theorem dX4_fails_1 : decode cX4_fails 1 = .ok (.ifCond .eq 5, 3) := dk_153 0 5 (dk_at dksX4_fails_0 1 rfl rfl)
theorem dX4_fails_4 : decode cX4_fails 4 = .ok (.iconst 0, 1) := dk_3 (dk_at dksX4_fails_0 4 rfl rfl)
theorem dX4_fails_5 : decode cX4_fails 5 = .ok (.ireturn, 1) := dk_172 (dk_at dksX4_fails_0 5 rfl rfl)
theorem dX4_fails_6 : decode cX4_fails 6 = .ok (.aload_n 0, 1) := dk_42 (dk_at dksX4_fails_0 6 rfl rfl)
theorem dX4_fails_7 : decode cX4_fails 7 = .ok (.iload_n 2, 1) := dk_28 (dk_at dksX4_fails_0 7 rfl rfl)
theorem dX4_fails_8 : decode cX4_fails 8 = .ok (.putfield 93, 3) := dk_181 0 93 (dk_at dksX4_fails_0 8 rfl rfl)
theorem dX4_fails_11 : decode cX4_fails 11 = .ok (.iconst 1, 1) := dk_4 (dk_at dksX4_fails_0 11 rfl rfl)
theorem dX4_fails_12 : decode cX4_fails 12 = .ok (.ireturn, 1) := dk_172 (dk_at dksX4_fails_0 12 rfl rfl)
abbrev cX4_starts : ByteArray := prog_25_method_27_code
def yX4_starts : MethodName := ⟨RX4, "starts", "(I)V"⟩
def dkwX4_starts_1 : List UInt8 := [181, 0, 46, 42, 182, 0, 180, 177]
abbrev dktX4_starts_1 : List UInt8 := dkwX4_starts_1 ++ []
def dkwX4_starts_0 : List UInt8 := [42, 27, 181, 0, 136, 42, 3, 181, 0, 130, 42, 3, 181, 0, 143, 42, 3, 181, 0, 177, 42, 2]
abbrev dktX4_starts_0 : List UInt8 := dkwX4_starts_0 ++ dktX4_starts_1
theorem dksX4_starts_0 : cX4_starts.data.toList.drop 0 = dktX4_starts_0 := by decide +kernel
theorem dksX4_starts_1 : cX4_starts.data.toList.drop 22 = dktX4_starts_1 := dk_seg dksX4_starts_0 22 rfl rfl
theorem dX4_starts_0 : decode cX4_starts 0 = .ok (.aload_n 0, 1) := dk_42 (dk_at dksX4_starts_0 0 rfl rfl)
theorem dX4_starts_1 : decode cX4_starts 1 = .ok (.iload_n 1, 1) := dk_27 (dk_at dksX4_starts_0 1 rfl rfl)
theorem dX4_starts_2 : decode cX4_starts 2 = .ok (.putfield 136, 3) := dk_181 0 136 (dk_at dksX4_starts_0 2 rfl rfl)
theorem dX4_starts_5 : decode cX4_starts 5 = .ok (.aload_n 0, 1) := dk_42 (dk_at dksX4_starts_0 5 rfl rfl)
theorem dX4_starts_6 : decode cX4_starts 6 = .ok (.iconst 0, 1) := dk_3 (dk_at dksX4_starts_0 6 rfl rfl)
theorem dX4_starts_7 : decode cX4_starts 7 = .ok (.putfield 130, 3) := dk_181 0 130 (dk_at dksX4_starts_0 7 rfl rfl)
theorem dX4_starts_10 : decode cX4_starts 10 = .ok (.aload_n 0, 1) := dk_42 (dk_at dksX4_starts_0 10 rfl rfl)
theorem dX4_starts_11 : decode cX4_starts 11 = .ok (.iconst 0, 1) := dk_3 (dk_at dksX4_starts_0 11 rfl rfl)
theorem dX4_starts_12 : decode cX4_starts 12 = .ok (.putfield 143, 3) := dk_181 0 143 (dk_at dksX4_starts_0 12 rfl rfl)
theorem dX4_starts_15 : decode cX4_starts 15 = .ok (.aload_n 0, 1) := dk_42 (dk_at dksX4_starts_0 15 rfl rfl)
theorem dX4_starts_16 : decode cX4_starts 16 = .ok (.iconst 0, 1) := dk_3 (dk_at dksX4_starts_0 16 rfl rfl)
theorem dX4_starts_17 : decode cX4_starts 17 = .ok (.putfield 177, 3) := dk_181 0 177 (dk_at dksX4_starts_0 17 rfl rfl)
theorem dX4_starts_20 : decode cX4_starts 20 = .ok (.aload_n 0, 1) := dk_42 (dk_at dksX4_starts_0 20 rfl rfl)
theorem dX4_starts_21 : decode cX4_starts 21 = .ok (.iconst (-1), 1) := dk_2 (dk_at dksX4_starts_0 21 rfl rfl)
theorem dX4_starts_22 : decode cX4_starts 22 = .ok (.putfield 46, 3) := dk_181 0 46 (dk_at dksX4_starts_1 0 rfl rfl)
theorem dX4_starts_25 : decode cX4_starts 25 = .ok (.aload_n 0, 1) := dk_42 (dk_at dksX4_starts_1 3 rfl rfl)
theorem dX4_starts_26 : decode cX4_starts 26 = .ok (.invokevirtual 180, 3) := dk_182 0 180 (dk_at dksX4_starts_1 4 rfl rfl)
theorem dX4_starts_29 : decode cX4_starts 29 = .ok (.return_, 1) := dk_177 (dk_at dksX4_starts_1 7 rfl rfl)
abbrev cX4_next : ByteArray := prog_25_method_26_code
def yX4_next : MethodName := ⟨RX4, "next", "()V"⟩
def dkwX4_next_5 : List UInt8 := [180, 0, 143, 4, 96, 181, 0, 143, 177]
abbrev dktX4_next_5 : List UInt8 := dkwX4_next_5 ++ []
def dkwX4_next_4 : List UInt8 := [180, 0, 143, 46, 184, 0, 167, 153, 0, 10, 42, 182, 0, 174, 167, 0, 18, 42, 6, 181, 0, 161, 42, 89]
abbrev dktX4_next_4 : List UInt8 := dkwX4_next_4 ++ dktX4_next_5
def dkwX4_next_3 : List UInt8 := [180, 0, 143, 46, 184, 0, 150, 153, 0, 10, 42, 182, 0, 171, 167, 0, 40, 42, 180, 0, 43, 42]
abbrev dktX4_next_3 : List UInt8 := dkwX4_next_3 ++ dktX4_next_4
def dkwX4_next_2 : List UInt8 := [42, 180, 0, 143, 42, 180, 0, 136, 161, 0, 11, 42, 3, 181, 0, 161, 167, 0, 62, 42, 180, 0, 43, 42]
abbrev dktX4_next_2 : List UInt8 := dkwX4_next_2 ++ dktX4_next_3
def dkwX4_next_1 : List UInt8 := [160, 0, 16, 42, 89, 180, 0, 143, 4, 96, 181, 0, 143, 167, 255, 220, 42, 42, 180, 0, 143, 181, 0, 154]
abbrev dktX4_next_1 : List UInt8 := dkwX4_next_1 ++ dktX4_next_2
def dkwX4_next_0 : List UInt8 := [42, 42, 180, 0, 143, 182, 0, 146, 16, 32, 159, 0, 16, 42, 42, 180, 0, 143, 182, 0, 146, 16, 10]
abbrev dktX4_next_0 : List UInt8 := dkwX4_next_0 ++ dktX4_next_1
theorem dksX4_next_0 : cX4_next.data.toList.drop 0 = dktX4_next_0 := by decide +kernel
theorem dksX4_next_1 : cX4_next.data.toList.drop 23 = dktX4_next_1 := dk_seg dksX4_next_0 23 rfl rfl
theorem dksX4_next_2 : cX4_next.data.toList.drop 47 = dktX4_next_2 := dk_seg dksX4_next_1 24 rfl rfl
theorem dksX4_next_3 : cX4_next.data.toList.drop 71 = dktX4_next_3 := dk_seg dksX4_next_2 24 rfl rfl
theorem dksX4_next_4 : cX4_next.data.toList.drop 93 = dktX4_next_4 := dk_seg dksX4_next_3 22 rfl rfl
theorem dksX4_next_5 : cX4_next.data.toList.drop 117 = dktX4_next_5 := dk_seg dksX4_next_4 24 rfl rfl
theorem dX4_next_0 : decode cX4_next 0 = .ok (.aload_n 0, 1) := dk_42 (dk_at dksX4_next_0 0 rfl rfl)
theorem dX4_next_1 : decode cX4_next 1 = .ok (.aload_n 0, 1) := dk_42 (dk_at dksX4_next_0 1 rfl rfl)
theorem dX4_next_2 : decode cX4_next 2 = .ok (.getfield 143, 3) := dk_180 0 143 (dk_at dksX4_next_0 2 rfl rfl)
theorem dX4_next_5 : decode cX4_next 5 = .ok (.invokevirtual 146, 3) := dk_182 0 146 (dk_at dksX4_next_0 5 rfl rfl)
theorem dX4_next_8 : decode cX4_next 8 = .ok (.bipush 32, 2) := dk_16 32 (dk_at dksX4_next_0 8 rfl rfl)
theorem dX4_next_10 : decode cX4_next 10 = .ok (.if_icmp .eq 16, 3) := dk_159 0 16 (dk_at dksX4_next_0 10 rfl rfl)
theorem dX4_next_13 : decode cX4_next 13 = .ok (.aload_n 0, 1) := dk_42 (dk_at dksX4_next_0 13 rfl rfl)
theorem dX4_next_14 : decode cX4_next 14 = .ok (.aload_n 0, 1) := dk_42 (dk_at dksX4_next_0 14 rfl rfl)
theorem dX4_next_15 : decode cX4_next 15 = .ok (.getfield 143, 3) := dk_180 0 143 (dk_at dksX4_next_0 15 rfl rfl)
theorem dX4_next_18 : decode cX4_next 18 = .ok (.invokevirtual 146, 3) := dk_182 0 146 (dk_at dksX4_next_0 18 rfl rfl)
theorem dX4_next_21 : decode cX4_next 21 = .ok (.bipush 10, 2) := dk_16 10 (dk_at dksX4_next_0 21 rfl rfl)
theorem dX4_next_23 : decode cX4_next 23 = .ok (.if_icmp .ne 16, 3) := dk_160 0 16 (dk_at dksX4_next_1 0 rfl rfl)
theorem dX4_next_26 : decode cX4_next 26 = .ok (.aload_n 0, 1) := dk_42 (dk_at dksX4_next_1 3 rfl rfl)
theorem dX4_next_27 : decode cX4_next 27 = .ok (.dup, 1) := dk_89 (dk_at dksX4_next_1 4 rfl rfl)
theorem dX4_next_28 : decode cX4_next 28 = .ok (.getfield 143, 3) := dk_180 0 143 (dk_at dksX4_next_1 5 rfl rfl)
theorem dX4_next_31 : decode cX4_next 31 = .ok (.iconst 1, 1) := dk_4 (dk_at dksX4_next_1 8 rfl rfl)
theorem dX4_next_32 : decode cX4_next 32 = .ok (.iadd, 1) := dk_96 (dk_at dksX4_next_1 9 rfl rfl)
theorem dX4_next_33 : decode cX4_next 33 = .ok (.putfield 143, 3) := dk_181 0 143 (dk_at dksX4_next_1 10 rfl rfl)
theorem dX4_next_36 : decode cX4_next 36 = .ok (.goto (-36), 3) := dk_167 255 220 (dk_at dksX4_next_1 13 rfl rfl)
theorem dX4_next_39 : decode cX4_next 39 = .ok (.aload_n 0, 1) := dk_42 (dk_at dksX4_next_1 16 rfl rfl)
theorem dX4_next_40 : decode cX4_next 40 = .ok (.aload_n 0, 1) := dk_42 (dk_at dksX4_next_1 17 rfl rfl)
theorem dX4_next_41 : decode cX4_next 41 = .ok (.getfield 143, 3) := dk_180 0 143 (dk_at dksX4_next_1 18 rfl rfl)
theorem dX4_next_44 : decode cX4_next 44 = .ok (.putfield 154, 3) := dk_181 0 154 (dk_at dksX4_next_1 21 rfl rfl)
theorem dX4_next_47 : decode cX4_next 47 = .ok (.aload_n 0, 1) := dk_42 (dk_at dksX4_next_2 0 rfl rfl)
theorem dX4_next_48 : decode cX4_next 48 = .ok (.getfield 143, 3) := dk_180 0 143 (dk_at dksX4_next_2 1 rfl rfl)
theorem dX4_next_51 : decode cX4_next 51 = .ok (.aload_n 0, 1) := dk_42 (dk_at dksX4_next_2 4 rfl rfl)
theorem dX4_next_52 : decode cX4_next 52 = .ok (.getfield 136, 3) := dk_180 0 136 (dk_at dksX4_next_2 5 rfl rfl)
theorem dX4_next_55 : decode cX4_next 55 = .ok (.if_icmp .lt 11, 3) := dk_161 0 11 (dk_at dksX4_next_2 8 rfl rfl)
theorem dX4_next_58 : decode cX4_next 58 = .ok (.aload_n 0, 1) := dk_42 (dk_at dksX4_next_2 11 rfl rfl)
theorem dX4_next_59 : decode cX4_next 59 = .ok (.iconst 0, 1) := dk_3 (dk_at dksX4_next_2 12 rfl rfl)
theorem dX4_next_60 : decode cX4_next 60 = .ok (.putfield 161, 3) := dk_181 0 161 (dk_at dksX4_next_2 13 rfl rfl)
theorem dX4_next_63 : decode cX4_next 63 = .ok (.goto 62, 3) := dk_167 0 62 (dk_at dksX4_next_2 16 rfl rfl)
theorem dX4_next_66 : decode cX4_next 66 = .ok (.aload_n 0, 1) := dk_42 (dk_at dksX4_next_2 19 rfl rfl)
theorem dX4_next_67 : decode cX4_next 67 = .ok (.getfield 43, 3) := dk_180 0 43 (dk_at dksX4_next_2 20 rfl rfl)
theorem dX4_next_70 : decode cX4_next 70 = .ok (.aload_n 0, 1) := dk_42 (dk_at dksX4_next_2 23 rfl rfl)
theorem dX4_next_71 : decode cX4_next 71 = .ok (.getfield 143, 3) := dk_180 0 143 (dk_at dksX4_next_3 0 rfl rfl)
theorem dX4_next_74 : decode cX4_next 74 = .ok (.iaload, 1) := dk_46 (dk_at dksX4_next_3 3 rfl rfl)
theorem dX4_next_75 : decode cX4_next 75 = .ok (.invokestatic 150, 3) := dk_184 0 150 (dk_at dksX4_next_3 4 rfl rfl)
theorem dX4_next_78 : decode cX4_next 78 = .ok (.ifCond .eq 10, 3) := dk_153 0 10 (dk_at dksX4_next_3 7 rfl rfl)
theorem dX4_next_81 : decode cX4_next 81 = .ok (.aload_n 0, 1) := dk_42 (dk_at dksX4_next_3 10 rfl rfl)
theorem dX4_next_82 : decode cX4_next 82 = .ok (.invokevirtual 171, 3) := dk_182 0 171 (dk_at dksX4_next_3 11 rfl rfl)
theorem dX4_next_85 : decode cX4_next 85 = .ok (.goto 40, 3) := dk_167 0 40 (dk_at dksX4_next_3 14 rfl rfl)
theorem dX4_next_88 : decode cX4_next 88 = .ok (.aload_n 0, 1) := dk_42 (dk_at dksX4_next_3 17 rfl rfl)
theorem dX4_next_89 : decode cX4_next 89 = .ok (.getfield 43, 3) := dk_180 0 43 (dk_at dksX4_next_3 18 rfl rfl)
theorem dX4_next_92 : decode cX4_next 92 = .ok (.aload_n 0, 1) := dk_42 (dk_at dksX4_next_3 21 rfl rfl)
theorem dX4_next_93 : decode cX4_next 93 = .ok (.getfield 143, 3) := dk_180 0 143 (dk_at dksX4_next_4 0 rfl rfl)
theorem dX4_next_96 : decode cX4_next 96 = .ok (.iaload, 1) := dk_46 (dk_at dksX4_next_4 3 rfl rfl)
theorem dX4_next_97 : decode cX4_next 97 = .ok (.invokestatic 167, 3) := dk_184 0 167 (dk_at dksX4_next_4 4 rfl rfl)
theorem dX4_next_100 : decode cX4_next 100 = .ok (.ifCond .eq 10, 3) := dk_153 0 10 (dk_at dksX4_next_4 7 rfl rfl)
theorem dX4_next_103 : decode cX4_next 103 = .ok (.aload_n 0, 1) := dk_42 (dk_at dksX4_next_4 10 rfl rfl)
theorem dX4_next_104 : decode cX4_next 104 = .ok (.invokevirtual 174, 3) := dk_182 0 174 (dk_at dksX4_next_4 11 rfl rfl)
theorem dX4_next_107 : decode cX4_next 107 = .ok (.goto 18, 3) := dk_167 0 18 (dk_at dksX4_next_4 14 rfl rfl)
theorem dX4_next_110 : decode cX4_next 110 = .ok (.aload_n 0, 1) := dk_42 (dk_at dksX4_next_4 17 rfl rfl)
theorem dX4_next_111 : decode cX4_next 111 = .ok (.iconst 3, 1) := dk_6 (dk_at dksX4_next_4 18 rfl rfl)
theorem dX4_next_112 : decode cX4_next 112 = .ok (.putfield 161, 3) := dk_181 0 161 (dk_at dksX4_next_4 19 rfl rfl)
theorem dX4_next_115 : decode cX4_next 115 = .ok (.aload_n 0, 1) := dk_42 (dk_at dksX4_next_4 22 rfl rfl)
theorem dX4_next_116 : decode cX4_next 116 = .ok (.dup, 1) := dk_89 (dk_at dksX4_next_4 23 rfl rfl)
theorem dX4_next_117 : decode cX4_next 117 = .ok (.getfield 143, 3) := dk_180 0 143 (dk_at dksX4_next_5 0 rfl rfl)
theorem dX4_next_120 : decode cX4_next 120 = .ok (.iconst 1, 1) := dk_4 (dk_at dksX4_next_5 3 rfl rfl)
theorem dX4_next_121 : decode cX4_next 121 = .ok (.iadd, 1) := dk_96 (dk_at dksX4_next_5 4 rfl rfl)
theorem dX4_next_122 : decode cX4_next 122 = .ok (.putfield 143, 3) := dk_181 0 143 (dk_at dksX4_next_5 5 rfl rfl)
theorem dX4_next_125 : decode cX4_next 125 = .ok (.return_, 1) := dk_177 (dk_at dksX4_next_5 8 rfl rfl)
abbrev cX4_byteAt : ByteArray := prog_25_method_21_code
def yX4_byteAt : MethodName := ⟨RX4, "byteAt", "(I)I"⟩
def dkwX4_byteAt_0 : List UInt8 := [27, 42, 180, 0, 136, 162, 0, 12, 42, 180, 0, 43, 27, 46, 167, 0, 4, 2, 172]
abbrev dktX4_byteAt_0 : List UInt8 := dkwX4_byteAt_0 ++ []
theorem dksX4_byteAt_0 : cX4_byteAt.data.toList.drop 0 = dktX4_byteAt_0 := by decide +kernel
theorem dX4_byteAt_0 : decode cX4_byteAt 0 = .ok (.iload_n 1, 1) := dk_27 (dk_at dksX4_byteAt_0 0 rfl rfl)
theorem dX4_byteAt_1 : decode cX4_byteAt 1 = .ok (.aload_n 0, 1) := dk_42 (dk_at dksX4_byteAt_0 1 rfl rfl)
theorem dX4_byteAt_2 : decode cX4_byteAt 2 = .ok (.getfield 136, 3) := dk_180 0 136 (dk_at dksX4_byteAt_0 2 rfl rfl)
theorem dX4_byteAt_5 : decode cX4_byteAt 5 = .ok (.if_icmp .ge 12, 3) := dk_162 0 12 (dk_at dksX4_byteAt_0 5 rfl rfl)
theorem dX4_byteAt_8 : decode cX4_byteAt 8 = .ok (.aload_n 0, 1) := dk_42 (dk_at dksX4_byteAt_0 8 rfl rfl)
theorem dX4_byteAt_9 : decode cX4_byteAt 9 = .ok (.getfield 43, 3) := dk_180 0 43 (dk_at dksX4_byteAt_0 9 rfl rfl)
theorem dX4_byteAt_12 : decode cX4_byteAt 12 = .ok (.iload_n 1, 1) := dk_27 (dk_at dksX4_byteAt_0 12 rfl rfl)
theorem dX4_byteAt_13 : decode cX4_byteAt 13 = .ok (.iaload, 1) := dk_46 (dk_at dksX4_byteAt_0 13 rfl rfl)
theorem dX4_byteAt_14 : decode cX4_byteAt 14 = .ok (.goto 4, 3) := dk_167 0 4 (dk_at dksX4_byteAt_0 14 rfl rfl)
theorem dX4_byteAt_17 : decode cX4_byteAt 17 = .ok (.iconst (-1), 1) := dk_2 (dk_at dksX4_byteAt_0 17 rfl rfl)
theorem dX4_byteAt_18 : decode cX4_byteAt 18 = .ok (.ireturn, 1) := dk_172 (dk_at dksX4_byteAt_0 18 rfl rfl)
abbrev cX4_isLetter : ByteArray := prog_25_method_22_code
def yX4_isLetter : MethodName := ⟨RX4, "isLetter", "(I)Z"⟩
def dkwX4_isLetter_0 : List UInt8 := [26, 16, 97, 161, 0, 13, 26, 16, 122, 163, 0, 7, 4, 167, 0, 4, 3, 172]
abbrev dktX4_isLetter_0 : List UInt8 := dkwX4_isLetter_0 ++ []
theorem dksX4_isLetter_0 : cX4_isLetter.data.toList.drop 0 = dktX4_isLetter_0 := by decide +kernel
theorem dX4_isLetter_0 : decode cX4_isLetter 0 = .ok (.iload_n 0, 1) := dk_26 (dk_at dksX4_isLetter_0 0 rfl rfl)
theorem dX4_isLetter_1 : decode cX4_isLetter 1 = .ok (.bipush 97, 2) := dk_16 97 (dk_at dksX4_isLetter_0 1 rfl rfl)
theorem dX4_isLetter_3 : decode cX4_isLetter 3 = .ok (.if_icmp .lt 13, 3) := dk_161 0 13 (dk_at dksX4_isLetter_0 3 rfl rfl)
theorem dX4_isLetter_6 : decode cX4_isLetter 6 = .ok (.iload_n 0, 1) := dk_26 (dk_at dksX4_isLetter_0 6 rfl rfl)
theorem dX4_isLetter_7 : decode cX4_isLetter 7 = .ok (.bipush 122, 2) := dk_16 122 (dk_at dksX4_isLetter_0 7 rfl rfl)
theorem dX4_isLetter_9 : decode cX4_isLetter 9 = .ok (.if_icmp .gt 7, 3) := dk_163 0 7 (dk_at dksX4_isLetter_0 9 rfl rfl)
theorem dX4_isLetter_12 : decode cX4_isLetter 12 = .ok (.iconst 1, 1) := dk_4 (dk_at dksX4_isLetter_0 12 rfl rfl)
theorem dX4_isLetter_13 : decode cX4_isLetter 13 = .ok (.goto 4, 3) := dk_167 0 4 (dk_at dksX4_isLetter_0 13 rfl rfl)
theorem dX4_isLetter_16 : decode cX4_isLetter 16 = .ok (.iconst 0, 1) := dk_3 (dk_at dksX4_isLetter_0 16 rfl rfl)
theorem dX4_isLetter_17 : decode cX4_isLetter 17 = .ok (.ireturn, 1) := dk_172 (dk_at dksX4_isLetter_0 17 rfl rfl)
abbrev cX4_readsWord : ByteArray := prog_25_method_24_code
def yX4_readsWord : MethodName := ⟨RX4, "readsWord", "()V"⟩
def dkwX4_readsWord_3 : List UInt8 := [167, 255, 191, 42, 4, 181, 0, 161, 177]
abbrev dktX4_readsWord_3 : List UInt8 := dkwX4_readsWord_3 ++ []
def dkwX4_readsWord_2 : List UInt8 := [180, 0, 143, 46, 133, 97, 20, 0, 159, 101, 181, 0, 139, 42, 89, 180, 0, 143, 4, 96, 181, 0, 143]
abbrev dktX4_readsWord_2 : List UInt8 := dkwX4_readsWord_2 ++ dktX4_readsWord_3
def dkwX4_readsWord_1 : List UInt8 := [180, 0, 154, 100, 16, 10, 162, 0, 30, 42, 20, 0, 157, 42, 180, 0, 139, 105, 42, 180, 0, 43, 42]
abbrev dktX4_readsWord_1 : List UInt8 := dkwX4_readsWord_1 ++ dktX4_readsWord_2
def dkwX4_readsWord_0 : List UInt8 := [42, 9, 181, 0, 139, 42, 42, 180, 0, 143, 182, 0, 146, 184, 0, 150, 153, 0, 57, 42, 180, 0, 143, 42]
abbrev dktX4_readsWord_0 : List UInt8 := dkwX4_readsWord_0 ++ dktX4_readsWord_1
theorem dksX4_readsWord_0 : cX4_readsWord.data.toList.drop 0 = dktX4_readsWord_0 := by decide +kernel
theorem dksX4_readsWord_1 : cX4_readsWord.data.toList.drop 24 = dktX4_readsWord_1 := dk_seg dksX4_readsWord_0 24 rfl rfl
theorem dksX4_readsWord_2 : cX4_readsWord.data.toList.drop 47 = dktX4_readsWord_2 := dk_seg dksX4_readsWord_1 23 rfl rfl
theorem dksX4_readsWord_3 : cX4_readsWord.data.toList.drop 70 = dktX4_readsWord_3 := dk_seg dksX4_readsWord_2 23 rfl rfl
theorem dX4_readsWord_0 : decode cX4_readsWord 0 = .ok (.aload_n 0, 1) := dk_42 (dk_at dksX4_readsWord_0 0 rfl rfl)
theorem dX4_readsWord_1 : decode cX4_readsWord 1 = .ok (.lconst 0, 1) := dk_9 (dk_at dksX4_readsWord_0 1 rfl rfl)
theorem dX4_readsWord_2 : decode cX4_readsWord 2 = .ok (.putfield 139, 3) := dk_181 0 139 (dk_at dksX4_readsWord_0 2 rfl rfl)
theorem dX4_readsWord_5 : decode cX4_readsWord 5 = .ok (.aload_n 0, 1) := dk_42 (dk_at dksX4_readsWord_0 5 rfl rfl)
theorem dX4_readsWord_6 : decode cX4_readsWord 6 = .ok (.aload_n 0, 1) := dk_42 (dk_at dksX4_readsWord_0 6 rfl rfl)
theorem dX4_readsWord_7 : decode cX4_readsWord 7 = .ok (.getfield 143, 3) := dk_180 0 143 (dk_at dksX4_readsWord_0 7 rfl rfl)
theorem dX4_readsWord_10 : decode cX4_readsWord 10 = .ok (.invokevirtual 146, 3) := dk_182 0 146 (dk_at dksX4_readsWord_0 10 rfl rfl)
theorem dX4_readsWord_13 : decode cX4_readsWord 13 = .ok (.invokestatic 150, 3) := dk_184 0 150 (dk_at dksX4_readsWord_0 13 rfl rfl)
theorem dX4_readsWord_16 : decode cX4_readsWord 16 = .ok (.ifCond .eq 57, 3) := dk_153 0 57 (dk_at dksX4_readsWord_0 16 rfl rfl)
theorem dX4_readsWord_19 : decode cX4_readsWord 19 = .ok (.aload_n 0, 1) := dk_42 (dk_at dksX4_readsWord_0 19 rfl rfl)
theorem dX4_readsWord_20 : decode cX4_readsWord 20 = .ok (.getfield 143, 3) := dk_180 0 143 (dk_at dksX4_readsWord_0 20 rfl rfl)
theorem dX4_readsWord_23 : decode cX4_readsWord 23 = .ok (.aload_n 0, 1) := dk_42 (dk_at dksX4_readsWord_0 23 rfl rfl)
theorem dX4_readsWord_24 : decode cX4_readsWord 24 = .ok (.getfield 154, 3) := dk_180 0 154 (dk_at dksX4_readsWord_1 0 rfl rfl)
theorem dX4_readsWord_27 : decode cX4_readsWord 27 = .ok (.isub, 1) := dk_100 (dk_at dksX4_readsWord_1 3 rfl rfl)
theorem dX4_readsWord_28 : decode cX4_readsWord 28 = .ok (.bipush 10, 2) := dk_16 10 (dk_at dksX4_readsWord_1 4 rfl rfl)
theorem dX4_readsWord_30 : decode cX4_readsWord 30 = .ok (.if_icmp .ge 30, 3) := dk_162 0 30 (dk_at dksX4_readsWord_1 6 rfl rfl)
theorem dX4_readsWord_33 : decode cX4_readsWord 33 = .ok (.aload_n 0, 1) := dk_42 (dk_at dksX4_readsWord_1 9 rfl rfl)
theorem dX4_readsWord_34 : decode cX4_readsWord 34 = .ok (.ldc2_w 157, 3) := dk_20 0 157 (dk_at dksX4_readsWord_1 10 rfl rfl)
theorem dX4_readsWord_37 : decode cX4_readsWord 37 = .ok (.aload_n 0, 1) := dk_42 (dk_at dksX4_readsWord_1 13 rfl rfl)
theorem dX4_readsWord_38 : decode cX4_readsWord 38 = .ok (.getfield 139, 3) := dk_180 0 139 (dk_at dksX4_readsWord_1 14 rfl rfl)
theorem dX4_readsWord_41 : decode cX4_readsWord 41 = .ok (.lmul, 1) := dk_105 (dk_at dksX4_readsWord_1 17 rfl rfl)
theorem dX4_readsWord_42 : decode cX4_readsWord 42 = .ok (.aload_n 0, 1) := dk_42 (dk_at dksX4_readsWord_1 18 rfl rfl)
theorem dX4_readsWord_43 : decode cX4_readsWord 43 = .ok (.getfield 43, 3) := dk_180 0 43 (dk_at dksX4_readsWord_1 19 rfl rfl)
theorem dX4_readsWord_46 : decode cX4_readsWord 46 = .ok (.aload_n 0, 1) := dk_42 (dk_at dksX4_readsWord_1 22 rfl rfl)
theorem dX4_readsWord_47 : decode cX4_readsWord 47 = .ok (.getfield 143, 3) := dk_180 0 143 (dk_at dksX4_readsWord_2 0 rfl rfl)
theorem dX4_readsWord_50 : decode cX4_readsWord 50 = .ok (.iaload, 1) := dk_46 (dk_at dksX4_readsWord_2 3 rfl rfl)
theorem dX4_readsWord_51 : decode cX4_readsWord 51 = .ok (.i2l, 1) := dk_133 (dk_at dksX4_readsWord_2 4 rfl rfl)
theorem dX4_readsWord_52 : decode cX4_readsWord 52 = .ok (.ladd, 1) := dk_97 (dk_at dksX4_readsWord_2 5 rfl rfl)
theorem dX4_readsWord_53 : decode cX4_readsWord 53 = .ok (.ldc2_w 159, 3) := dk_20 0 159 (dk_at dksX4_readsWord_2 6 rfl rfl)
theorem dX4_readsWord_56 : decode cX4_readsWord 56 = .ok (.lsub, 1) := dk_101 (dk_at dksX4_readsWord_2 9 rfl rfl)
theorem dX4_readsWord_57 : decode cX4_readsWord 57 = .ok (.putfield 139, 3) := dk_181 0 139 (dk_at dksX4_readsWord_2 10 rfl rfl)
theorem dX4_readsWord_60 : decode cX4_readsWord 60 = .ok (.aload_n 0, 1) := dk_42 (dk_at dksX4_readsWord_2 13 rfl rfl)
theorem dX4_readsWord_61 : decode cX4_readsWord 61 = .ok (.dup, 1) := dk_89 (dk_at dksX4_readsWord_2 14 rfl rfl)
theorem dX4_readsWord_62 : decode cX4_readsWord 62 = .ok (.getfield 143, 3) := dk_180 0 143 (dk_at dksX4_readsWord_2 15 rfl rfl)
theorem dX4_readsWord_65 : decode cX4_readsWord 65 = .ok (.iconst 1, 1) := dk_4 (dk_at dksX4_readsWord_2 18 rfl rfl)
theorem dX4_readsWord_66 : decode cX4_readsWord 66 = .ok (.iadd, 1) := dk_96 (dk_at dksX4_readsWord_2 19 rfl rfl)
theorem dX4_readsWord_67 : decode cX4_readsWord 67 = .ok (.putfield 143, 3) := dk_181 0 143 (dk_at dksX4_readsWord_2 20 rfl rfl)
theorem dX4_readsWord_70 : decode cX4_readsWord 70 = .ok (.goto (-65), 3) := dk_167 255 191 (dk_at dksX4_readsWord_3 0 rfl rfl)
theorem dX4_readsWord_73 : decode cX4_readsWord 73 = .ok (.aload_n 0, 1) := dk_42 (dk_at dksX4_readsWord_3 3 rfl rfl)
theorem dX4_readsWord_74 : decode cX4_readsWord 74 = .ok (.iconst 1, 1) := dk_4 (dk_at dksX4_readsWord_3 4 rfl rfl)
theorem dX4_readsWord_75 : decode cX4_readsWord 75 = .ok (.putfield 161, 3) := dk_181 0 161 (dk_at dksX4_readsWord_3 5 rfl rfl)
theorem dX4_readsWord_78 : decode cX4_readsWord 78 = .ok (.return_, 1) := dk_177 (dk_at dksX4_readsWord_3 8 rfl rfl)
abbrev cX4_isFigure : ByteArray := prog_25_method_23_code
def yX4_isFigure : MethodName := ⟨RX4, "isFigure", "(I)Z"⟩
def dkwX4_isFigure_0 : List UInt8 := [26, 16, 48, 161, 0, 13, 26, 16, 57, 163, 0, 7, 4, 167, 0, 4, 3, 172]
abbrev dktX4_isFigure_0 : List UInt8 := dkwX4_isFigure_0 ++ []
theorem dksX4_isFigure_0 : cX4_isFigure.data.toList.drop 0 = dktX4_isFigure_0 := by decide +kernel
theorem dX4_isFigure_0 : decode cX4_isFigure 0 = .ok (.iload_n 0, 1) := dk_26 (dk_at dksX4_isFigure_0 0 rfl rfl)
theorem dX4_isFigure_1 : decode cX4_isFigure 1 = .ok (.bipush 48, 2) := dk_16 48 (dk_at dksX4_isFigure_0 1 rfl rfl)
theorem dX4_isFigure_3 : decode cX4_isFigure 3 = .ok (.if_icmp .lt 13, 3) := dk_161 0 13 (dk_at dksX4_isFigure_0 3 rfl rfl)
theorem dX4_isFigure_6 : decode cX4_isFigure 6 = .ok (.iload_n 0, 1) := dk_26 (dk_at dksX4_isFigure_0 6 rfl rfl)
theorem dX4_isFigure_7 : decode cX4_isFigure 7 = .ok (.bipush 57, 2) := dk_16 57 (dk_at dksX4_isFigure_0 7 rfl rfl)
theorem dX4_isFigure_9 : decode cX4_isFigure 9 = .ok (.if_icmp .gt 7, 3) := dk_163 0 7 (dk_at dksX4_isFigure_0 9 rfl rfl)
theorem dX4_isFigure_12 : decode cX4_isFigure 12 = .ok (.iconst 1, 1) := dk_4 (dk_at dksX4_isFigure_0 12 rfl rfl)
theorem dX4_isFigure_13 : decode cX4_isFigure 13 = .ok (.goto 4, 3) := dk_167 0 4 (dk_at dksX4_isFigure_0 13 rfl rfl)
theorem dX4_isFigure_16 : decode cX4_isFigure 16 = .ok (.iconst 0, 1) := dk_3 (dk_at dksX4_isFigure_0 16 rfl rfl)
theorem dX4_isFigure_17 : decode cX4_isFigure 17 = .ok (.ireturn, 1) := dk_172 (dk_at dksX4_isFigure_0 17 rfl rfl)
abbrev cX4_readsNumber : ByteArray := prog_25_method_25_code
def yX4_readsNumber : MethodName := ⟨RX4, "readsNumber", "()V"⟩
def dkwX4_readsNumber_3 : List UInt8 := [42, 5, 181, 0, 161, 177]
abbrev dktX4_readsNumber_3 : List UInt8 := dkwX4_readsNumber_3 ++ []
def dkwX4_readsNumber_2 : List UInt8 := [180, 0, 143, 46, 96, 16, 48, 100, 181, 0, 164, 42, 89, 180, 0, 143, 4, 96, 181, 0, 143, 167, 255, 192]
abbrev dktX4_readsNumber_2 : List UInt8 := dkwX4_readsNumber_2 ++ dktX4_readsNumber_3
def dkwX4_readsNumber_1 : List UInt8 := [18, 170, 164, 0, 10, 42, 180, 0, 164, 167, 0, 23, 16, 10, 42, 180, 0, 164, 104, 42, 180, 0, 43, 42]
abbrev dktX4_readsNumber_1 : List UInt8 := dkwX4_readsNumber_1 ++ dktX4_readsNumber_2
def dkwX4_readsNumber_0 : List UInt8 := [42, 3, 181, 0, 164, 42, 42, 180, 0, 143, 182, 0, 146, 184, 0, 167, 153, 0, 56, 42, 42, 180, 0, 164]
abbrev dktX4_readsNumber_0 : List UInt8 := dkwX4_readsNumber_0 ++ dktX4_readsNumber_1
theorem dksX4_readsNumber_0 : cX4_readsNumber.data.toList.drop 0 = dktX4_readsNumber_0 := by decide +kernel
theorem dksX4_readsNumber_1 : cX4_readsNumber.data.toList.drop 24 = dktX4_readsNumber_1 := dk_seg dksX4_readsNumber_0 24 rfl rfl
theorem dksX4_readsNumber_2 : cX4_readsNumber.data.toList.drop 48 = dktX4_readsNumber_2 := dk_seg dksX4_readsNumber_1 24 rfl rfl
theorem dksX4_readsNumber_3 : cX4_readsNumber.data.toList.drop 72 = dktX4_readsNumber_3 := dk_seg dksX4_readsNumber_2 24 rfl rfl
theorem dX4_readsNumber_0 : decode cX4_readsNumber 0 = .ok (.aload_n 0, 1) := dk_42 (dk_at dksX4_readsNumber_0 0 rfl rfl)
theorem dX4_readsNumber_1 : decode cX4_readsNumber 1 = .ok (.iconst 0, 1) := dk_3 (dk_at dksX4_readsNumber_0 1 rfl rfl)
theorem dX4_readsNumber_2 : decode cX4_readsNumber 2 = .ok (.putfield 164, 3) := dk_181 0 164 (dk_at dksX4_readsNumber_0 2 rfl rfl)
theorem dX4_readsNumber_5 : decode cX4_readsNumber 5 = .ok (.aload_n 0, 1) := dk_42 (dk_at dksX4_readsNumber_0 5 rfl rfl)
theorem dX4_readsNumber_6 : decode cX4_readsNumber 6 = .ok (.aload_n 0, 1) := dk_42 (dk_at dksX4_readsNumber_0 6 rfl rfl)
theorem dX4_readsNumber_7 : decode cX4_readsNumber 7 = .ok (.getfield 143, 3) := dk_180 0 143 (dk_at dksX4_readsNumber_0 7 rfl rfl)
theorem dX4_readsNumber_10 : decode cX4_readsNumber 10 = .ok (.invokevirtual 146, 3) := dk_182 0 146 (dk_at dksX4_readsNumber_0 10 rfl rfl)
theorem dX4_readsNumber_13 : decode cX4_readsNumber 13 = .ok (.invokestatic 167, 3) := dk_184 0 167 (dk_at dksX4_readsNumber_0 13 rfl rfl)
theorem dX4_readsNumber_16 : decode cX4_readsNumber 16 = .ok (.ifCond .eq 56, 3) := dk_153 0 56 (dk_at dksX4_readsNumber_0 16 rfl rfl)
theorem dX4_readsNumber_19 : decode cX4_readsNumber 19 = .ok (.aload_n 0, 1) := dk_42 (dk_at dksX4_readsNumber_0 19 rfl rfl)
theorem dX4_readsNumber_20 : decode cX4_readsNumber 20 = .ok (.aload_n 0, 1) := dk_42 (dk_at dksX4_readsNumber_0 20 rfl rfl)
theorem dX4_readsNumber_21 : decode cX4_readsNumber 21 = .ok (.getfield 164, 3) := dk_180 0 164 (dk_at dksX4_readsNumber_0 21 rfl rfl)
theorem dX4_readsNumber_24 : decode cX4_readsNumber 24 = .ok (.ldc 170, 2) := dk_18 170 (dk_at dksX4_readsNumber_1 0 rfl rfl)
theorem dX4_readsNumber_26 : decode cX4_readsNumber 26 = .ok (.if_icmp .le 10, 3) := dk_164 0 10 (dk_at dksX4_readsNumber_1 2 rfl rfl)
theorem dX4_readsNumber_29 : decode cX4_readsNumber 29 = .ok (.aload_n 0, 1) := dk_42 (dk_at dksX4_readsNumber_1 5 rfl rfl)
theorem dX4_readsNumber_30 : decode cX4_readsNumber 30 = .ok (.getfield 164, 3) := dk_180 0 164 (dk_at dksX4_readsNumber_1 6 rfl rfl)
theorem dX4_readsNumber_33 : decode cX4_readsNumber 33 = .ok (.goto 23, 3) := dk_167 0 23 (dk_at dksX4_readsNumber_1 9 rfl rfl)
theorem dX4_readsNumber_36 : decode cX4_readsNumber 36 = .ok (.bipush 10, 2) := dk_16 10 (dk_at dksX4_readsNumber_1 12 rfl rfl)
theorem dX4_readsNumber_38 : decode cX4_readsNumber 38 = .ok (.aload_n 0, 1) := dk_42 (dk_at dksX4_readsNumber_1 14 rfl rfl)
theorem dX4_readsNumber_39 : decode cX4_readsNumber 39 = .ok (.getfield 164, 3) := dk_180 0 164 (dk_at dksX4_readsNumber_1 15 rfl rfl)
theorem dX4_readsNumber_42 : decode cX4_readsNumber 42 = .ok (.imul, 1) := dk_104 (dk_at dksX4_readsNumber_1 18 rfl rfl)
theorem dX4_readsNumber_43 : decode cX4_readsNumber 43 = .ok (.aload_n 0, 1) := dk_42 (dk_at dksX4_readsNumber_1 19 rfl rfl)
theorem dX4_readsNumber_44 : decode cX4_readsNumber 44 = .ok (.getfield 43, 3) := dk_180 0 43 (dk_at dksX4_readsNumber_1 20 rfl rfl)
theorem dX4_readsNumber_47 : decode cX4_readsNumber 47 = .ok (.aload_n 0, 1) := dk_42 (dk_at dksX4_readsNumber_1 23 rfl rfl)
theorem dX4_readsNumber_48 : decode cX4_readsNumber 48 = .ok (.getfield 143, 3) := dk_180 0 143 (dk_at dksX4_readsNumber_2 0 rfl rfl)
theorem dX4_readsNumber_51 : decode cX4_readsNumber 51 = .ok (.iaload, 1) := dk_46 (dk_at dksX4_readsNumber_2 3 rfl rfl)
theorem dX4_readsNumber_52 : decode cX4_readsNumber 52 = .ok (.iadd, 1) := dk_96 (dk_at dksX4_readsNumber_2 4 rfl rfl)
theorem dX4_readsNumber_53 : decode cX4_readsNumber 53 = .ok (.bipush 48, 2) := dk_16 48 (dk_at dksX4_readsNumber_2 5 rfl rfl)
theorem dX4_readsNumber_55 : decode cX4_readsNumber 55 = .ok (.isub, 1) := dk_100 (dk_at dksX4_readsNumber_2 7 rfl rfl)
theorem dX4_readsNumber_56 : decode cX4_readsNumber 56 = .ok (.putfield 164, 3) := dk_181 0 164 (dk_at dksX4_readsNumber_2 8 rfl rfl)
theorem dX4_readsNumber_59 : decode cX4_readsNumber 59 = .ok (.aload_n 0, 1) := dk_42 (dk_at dksX4_readsNumber_2 11 rfl rfl)
theorem dX4_readsNumber_60 : decode cX4_readsNumber 60 = .ok (.dup, 1) := dk_89 (dk_at dksX4_readsNumber_2 12 rfl rfl)
theorem dX4_readsNumber_61 : decode cX4_readsNumber 61 = .ok (.getfield 143, 3) := dk_180 0 143 (dk_at dksX4_readsNumber_2 13 rfl rfl)
theorem dX4_readsNumber_64 : decode cX4_readsNumber 64 = .ok (.iconst 1, 1) := dk_4 (dk_at dksX4_readsNumber_2 16 rfl rfl)
theorem dX4_readsNumber_65 : decode cX4_readsNumber 65 = .ok (.iadd, 1) := dk_96 (dk_at dksX4_readsNumber_2 17 rfl rfl)
theorem dX4_readsNumber_66 : decode cX4_readsNumber 66 = .ok (.putfield 143, 3) := dk_181 0 143 (dk_at dksX4_readsNumber_2 18 rfl rfl)
theorem dX4_readsNumber_69 : decode cX4_readsNumber 69 = .ok (.goto (-64), 3) := dk_167 255 192 (dk_at dksX4_readsNumber_2 21 rfl rfl)
theorem dX4_readsNumber_72 : decode cX4_readsNumber 72 = .ok (.aload_n 0, 1) := dk_42 (dk_at dksX4_readsNumber_3 0 rfl rfl)
theorem dX4_readsNumber_73 : decode cX4_readsNumber 73 = .ok (.iconst 2, 1) := dk_5 (dk_at dksX4_readsNumber_3 1 rfl rfl)
theorem dX4_readsNumber_74 : decode cX4_readsNumber 74 = .ok (.putfield 161, 3) := dk_181 0 161 (dk_at dksX4_readsNumber_3 2 rfl rfl)
theorem dX4_readsNumber_77 : decode cX4_readsNumber 77 = .ok (.return_, 1) := dk_177 (dk_at dksX4_readsNumber_3 5 rfl rfl)
abbrev cX4_passes : ByteArray := prog_25_method_31_code
def yX4_passes : MethodName := ⟨RX4, "passes", "(J)Z"⟩
def dkwX4_passes_0 : List UInt8 := [42, 31, 182, 0, 187, 154, 0, 5, 3, 172, 42, 182, 0, 180, 4, 172]
abbrev dktX4_passes_0 : List UInt8 := dkwX4_passes_0 ++ []
theorem dksX4_passes_0 : cX4_passes.data.toList.drop 0 = dktX4_passes_0 := by decide +kernel
theorem dX4_passes_0 : decode cX4_passes 0 = .ok (.aload_n 0, 1) := dk_42 (dk_at dksX4_passes_0 0 rfl rfl)
theorem dX4_passes_1 : decode cX4_passes 1 = .ok (.lload_n 1, 1) := dk_31 (dk_at dksX4_passes_0 1 rfl rfl)
theorem dX4_passes_2 : decode cX4_passes 2 = .ok (.invokevirtual 187, 3) := dk_182 0 187 (dk_at dksX4_passes_0 2 rfl rfl)
theorem dX4_passes_5 : decode cX4_passes 5 = .ok (.ifCond .ne 5, 3) := dk_154 0 5 (dk_at dksX4_passes_0 5 rfl rfl)
theorem dX4_passes_8 : decode cX4_passes 8 = .ok (.iconst 0, 1) := dk_3 (dk_at dksX4_passes_0 8 rfl rfl)
theorem dX4_passes_9 : decode cX4_passes 9 = .ok (.ireturn, 1) := dk_172 (dk_at dksX4_passes_0 9 rfl rfl)
theorem dX4_passes_10 : decode cX4_passes 10 = .ok (.aload_n 0, 1) := dk_42 (dk_at dksX4_passes_0 10 rfl rfl)
theorem dX4_passes_11 : decode cX4_passes 11 = .ok (.invokevirtual 180, 3) := dk_182 0 180 (dk_at dksX4_passes_0 11 rfl rfl)
theorem dX4_passes_14 : decode cX4_passes 14 = .ok (.iconst 1, 1) := dk_4 (dk_at dksX4_passes_0 14 rfl rfl)
theorem dX4_passes_15 : decode cX4_passes 15 = .ok (.ireturn, 1) := dk_172 (dk_at dksX4_passes_0 15 rfl rfl)
abbrev cX4_isWord : ByteArray := prog_25_method_30_code
def yX4_isWord : MethodName := ⟨RX4, "isWord", "(J)Z"⟩
def dkwX4_isWord_1 : List UInt8 := [16, 10, 163, 0, 16, 42, 180, 0, 139, 31, 148, 154, 0, 7, 4, 167, 0, 4, 3, 172]
abbrev dktX4_isWord_1 : List UInt8 := dkwX4_isWord_1 ++ []
def dkwX4_isWord_0 : List UInt8 := [42, 182, 0, 183, 153, 0, 38, 42, 180, 0, 161, 4, 160, 0, 30, 42, 180, 0, 143, 42, 180, 0, 154, 100]
abbrev dktX4_isWord_0 : List UInt8 := dkwX4_isWord_0 ++ dktX4_isWord_1
theorem dksX4_isWord_0 : cX4_isWord.data.toList.drop 0 = dktX4_isWord_0 := by decide +kernel
theorem dksX4_isWord_1 : cX4_isWord.data.toList.drop 24 = dktX4_isWord_1 := dk_seg dksX4_isWord_0 24 rfl rfl
theorem dX4_isWord_0 : decode cX4_isWord 0 = .ok (.aload_n 0, 1) := dk_42 (dk_at dksX4_isWord_0 0 rfl rfl)
theorem dX4_isWord_1 : decode cX4_isWord 1 = .ok (.invokevirtual 183, 3) := dk_182 0 183 (dk_at dksX4_isWord_0 1 rfl rfl)
theorem dX4_isWord_4 : decode cX4_isWord 4 = .ok (.ifCond .eq 38, 3) := dk_153 0 38 (dk_at dksX4_isWord_0 4 rfl rfl)
theorem dX4_isWord_7 : decode cX4_isWord 7 = .ok (.aload_n 0, 1) := dk_42 (dk_at dksX4_isWord_0 7 rfl rfl)
theorem dX4_isWord_8 : decode cX4_isWord 8 = .ok (.getfield 161, 3) := dk_180 0 161 (dk_at dksX4_isWord_0 8 rfl rfl)
theorem dX4_isWord_11 : decode cX4_isWord 11 = .ok (.iconst 1, 1) := dk_4 (dk_at dksX4_isWord_0 11 rfl rfl)
theorem dX4_isWord_12 : decode cX4_isWord 12 = .ok (.if_icmp .ne 30, 3) := dk_160 0 30 (dk_at dksX4_isWord_0 12 rfl rfl)
theorem dX4_isWord_15 : decode cX4_isWord 15 = .ok (.aload_n 0, 1) := dk_42 (dk_at dksX4_isWord_0 15 rfl rfl)
theorem dX4_isWord_16 : decode cX4_isWord 16 = .ok (.getfield 143, 3) := dk_180 0 143 (dk_at dksX4_isWord_0 16 rfl rfl)
theorem dX4_isWord_19 : decode cX4_isWord 19 = .ok (.aload_n 0, 1) := dk_42 (dk_at dksX4_isWord_0 19 rfl rfl)
theorem dX4_isWord_20 : decode cX4_isWord 20 = .ok (.getfield 154, 3) := dk_180 0 154 (dk_at dksX4_isWord_0 20 rfl rfl)
theorem dX4_isWord_23 : decode cX4_isWord 23 = .ok (.isub, 1) := dk_100 (dk_at dksX4_isWord_0 23 rfl rfl)
theorem dX4_isWord_24 : decode cX4_isWord 24 = .ok (.bipush 10, 2) := dk_16 10 (dk_at dksX4_isWord_1 0 rfl rfl)
theorem dX4_isWord_26 : decode cX4_isWord 26 = .ok (.if_icmp .gt 16, 3) := dk_163 0 16 (dk_at dksX4_isWord_1 2 rfl rfl)
theorem dX4_isWord_29 : decode cX4_isWord 29 = .ok (.aload_n 0, 1) := dk_42 (dk_at dksX4_isWord_1 5 rfl rfl)
theorem dX4_isWord_30 : decode cX4_isWord 30 = .ok (.getfield 139, 3) := dk_180 0 139 (dk_at dksX4_isWord_1 6 rfl rfl)
theorem dX4_isWord_33 : decode cX4_isWord 33 = .ok (.lload_n 1, 1) := dk_31 (dk_at dksX4_isWord_1 9 rfl rfl)
theorem dX4_isWord_34 : decode cX4_isWord 34 = .ok (.lcmp, 1) := dk_148 (dk_at dksX4_isWord_1 10 rfl rfl)
theorem dX4_isWord_35 : decode cX4_isWord 35 = .ok (.ifCond .ne 7, 3) := dk_154 0 7 (dk_at dksX4_isWord_1 11 rfl rfl)
theorem dX4_isWord_38 : decode cX4_isWord 38 = .ok (.iconst 1, 1) := dk_4 (dk_at dksX4_isWord_1 14 rfl rfl)
theorem dX4_isWord_39 : decode cX4_isWord 39 = .ok (.goto 4, 3) := dk_167 0 4 (dk_at dksX4_isWord_1 15 rfl rfl)
theorem dX4_isWord_42 : decode cX4_isWord 42 = .ok (.iconst 0, 1) := dk_3 (dk_at dksX4_isWord_1 18 rfl rfl)
theorem dX4_isWord_43 : decode cX4_isWord 43 = .ok (.ireturn, 1) := dk_172 (dk_at dksX4_isWord_1 19 rfl rfl)
abbrev cX4_isGood : ByteArray := prog_25_method_29_code
def yX4_isGood : MethodName := ⟨RX4, "isGood", "()Z"⟩
def dkwX4_isGood_0 : List UInt8 := [42, 180, 0, 177, 154, 0, 7, 4, 167, 0, 4, 3, 172]
abbrev dktX4_isGood_0 : List UInt8 := dkwX4_isGood_0 ++ []
theorem dksX4_isGood_0 : cX4_isGood.data.toList.drop 0 = dktX4_isGood_0 := by decide +kernel
theorem dX4_isGood_0 : decode cX4_isGood 0 = .ok (.aload_n 0, 1) := dk_42 (dk_at dksX4_isGood_0 0 rfl rfl)
theorem dX4_isGood_1 : decode cX4_isGood 1 = .ok (.getfield 177, 3) := dk_180 0 177 (dk_at dksX4_isGood_0 1 rfl rfl)
theorem dX4_isGood_4 : decode cX4_isGood 4 = .ok (.ifCond .ne 7, 3) := dk_154 0 7 (dk_at dksX4_isGood_0 4 rfl rfl)
theorem dX4_isGood_7 : decode cX4_isGood 7 = .ok (.iconst 1, 1) := dk_4 (dk_at dksX4_isGood_0 7 rfl rfl)
theorem dX4_isGood_8 : decode cX4_isGood 8 = .ok (.goto 4, 3) := dk_167 0 4 (dk_at dksX4_isGood_0 8 rfl rfl)
theorem dX4_isGood_11 : decode cX4_isGood 11 = .ok (.iconst 0, 1) := dk_3 (dk_at dksX4_isGood_0 11 rfl rfl)
theorem dX4_isGood_12 : decode cX4_isGood 12 = .ok (.ireturn, 1) := dk_172 (dk_at dksX4_isGood_0 12 rfl rfl)
abbrev cX4_wrongs : ByteArray := prog_25_method_28_code
def yX4_wrongs : MethodName := ⟨RX4, "wrongs", "(I)Z"⟩
def dkwX4_wrongs_0 : List UInt8 := [42, 180, 0, 177, 154, 0, 16, 42, 27, 181, 0, 177, 42, 42, 180, 0, 154, 181, 0, 46, 3, 172]
abbrev dktX4_wrongs_0 : List UInt8 := dkwX4_wrongs_0 ++ []
theorem dksX4_wrongs_0 : cX4_wrongs.data.toList.drop 0 = dktX4_wrongs_0 := by decide +kernel
theorem dX4_wrongs_0 : decode cX4_wrongs 0 = .ok (.aload_n 0, 1) := dk_42 (dk_at dksX4_wrongs_0 0 rfl rfl)
theorem dX4_wrongs_1 : decode cX4_wrongs 1 = .ok (.getfield 177, 3) := dk_180 0 177 (dk_at dksX4_wrongs_0 1 rfl rfl)
theorem dX4_wrongs_4 : decode cX4_wrongs 4 = .ok (.ifCond .ne 16, 3) := dk_154 0 16 (dk_at dksX4_wrongs_0 4 rfl rfl)
theorem dX4_wrongs_7 : decode cX4_wrongs 7 = .ok (.aload_n 0, 1) := dk_42 (dk_at dksX4_wrongs_0 7 rfl rfl)
theorem dX4_wrongs_8 : decode cX4_wrongs 8 = .ok (.iload_n 1, 1) := dk_27 (dk_at dksX4_wrongs_0 8 rfl rfl)
theorem dX4_wrongs_9 : decode cX4_wrongs 9 = .ok (.putfield 177, 3) := dk_181 0 177 (dk_at dksX4_wrongs_0 9 rfl rfl)
theorem dX4_wrongs_12 : decode cX4_wrongs 12 = .ok (.aload_n 0, 1) := dk_42 (dk_at dksX4_wrongs_0 12 rfl rfl)
theorem dX4_wrongs_13 : decode cX4_wrongs 13 = .ok (.aload_n 0, 1) := dk_42 (dk_at dksX4_wrongs_0 13 rfl rfl)
theorem dX4_wrongs_14 : decode cX4_wrongs 14 = .ok (.getfield 154, 3) := dk_180 0 154 (dk_at dksX4_wrongs_0 14 rfl rfl)
theorem dX4_wrongs_17 : decode cX4_wrongs 17 = .ok (.putfield 46, 3) := dk_181 0 46 (dk_at dksX4_wrongs_0 17 rfl rfl)
theorem dX4_wrongs_20 : decode cX4_wrongs 20 = .ok (.iconst 0, 1) := dk_3 (dk_at dksX4_wrongs_0 20 rfl rfl)
theorem dX4_wrongs_21 : decode cX4_wrongs 21 = .ok (.ireturn, 1) := dk_172 (dk_at dksX4_wrongs_0 21 rfl rfl)
abbrev cX4_number : ByteArray := prog_25_method_34_code
def yX4_number : MethodName := ⟨RX4, "number", "(II)I"⟩
def dkwX4_number_2 : List UInt8 := [42, 182, 0, 183, 154, 0, 5, 27, 172, 42, 180, 0, 164, 62, 42, 182, 0, 180, 29, 172]
abbrev dktX4_number_2 : List UInt8 := dkwX4_number_2 ++ []
def dkwX4_number_1 : List UInt8 := [167, 0, 24, 42, 180, 0, 164, 133, 27, 133, 28, 133, 184, 0, 197, 154, 0, 9, 42, 5, 182, 0, 194, 87]
abbrev dktX4_number_1 : List UInt8 := dkwX4_number_1 ++ dktX4_number_2
def dkwX4_number_0 : List UInt8 := [42, 182, 0, 183, 154, 0, 5, 27, 172, 42, 180, 0, 161, 5, 159, 0, 12, 42, 4, 182, 0, 194, 87]
abbrev dktX4_number_0 : List UInt8 := dkwX4_number_0 ++ dktX4_number_1
theorem dksX4_number_0 : cX4_number.data.toList.drop 0 = dktX4_number_0 := by decide +kernel
theorem dksX4_number_1 : cX4_number.data.toList.drop 23 = dktX4_number_1 := dk_seg dksX4_number_0 23 rfl rfl
theorem dksX4_number_2 : cX4_number.data.toList.drop 47 = dktX4_number_2 := dk_seg dksX4_number_1 24 rfl rfl
theorem dX4_number_0 : decode cX4_number 0 = .ok (.aload_n 0, 1) := dk_42 (dk_at dksX4_number_0 0 rfl rfl)
theorem dX4_number_1 : decode cX4_number 1 = .ok (.invokevirtual 183, 3) := dk_182 0 183 (dk_at dksX4_number_0 1 rfl rfl)
theorem dX4_number_4 : decode cX4_number 4 = .ok (.ifCond .ne 5, 3) := dk_154 0 5 (dk_at dksX4_number_0 4 rfl rfl)
theorem dX4_number_7 : decode cX4_number 7 = .ok (.iload_n 1, 1) := dk_27 (dk_at dksX4_number_0 7 rfl rfl)
theorem dX4_number_8 : decode cX4_number 8 = .ok (.ireturn, 1) := dk_172 (dk_at dksX4_number_0 8 rfl rfl)
theorem dX4_number_9 : decode cX4_number 9 = .ok (.aload_n 0, 1) := dk_42 (dk_at dksX4_number_0 9 rfl rfl)
theorem dX4_number_10 : decode cX4_number 10 = .ok (.getfield 161, 3) := dk_180 0 161 (dk_at dksX4_number_0 10 rfl rfl)
theorem dX4_number_13 : decode cX4_number 13 = .ok (.iconst 2, 1) := dk_5 (dk_at dksX4_number_0 13 rfl rfl)
theorem dX4_number_14 : decode cX4_number 14 = .ok (.if_icmp .eq 12, 3) := dk_159 0 12 (dk_at dksX4_number_0 14 rfl rfl)
theorem dX4_number_17 : decode cX4_number 17 = .ok (.aload_n 0, 1) := dk_42 (dk_at dksX4_number_0 17 rfl rfl)
theorem dX4_number_18 : decode cX4_number 18 = .ok (.iconst 1, 1) := dk_4 (dk_at dksX4_number_0 18 rfl rfl)
theorem dX4_number_19 : decode cX4_number 19 = .ok (.invokevirtual 194, 3) := dk_182 0 194 (dk_at dksX4_number_0 19 rfl rfl)
theorem dX4_number_22 : decode cX4_number 22 = .ok (.pop, 1) := dk_87 (dk_at dksX4_number_0 22 rfl rfl)
theorem dX4_number_23 : decode cX4_number 23 = .ok (.goto 24, 3) := dk_167 0 24 (dk_at dksX4_number_1 0 rfl rfl)
theorem dX4_number_26 : decode cX4_number 26 = .ok (.aload_n 0, 1) := dk_42 (dk_at dksX4_number_1 3 rfl rfl)
theorem dX4_number_27 : decode cX4_number 27 = .ok (.getfield 164, 3) := dk_180 0 164 (dk_at dksX4_number_1 4 rfl rfl)
theorem dX4_number_30 : decode cX4_number 30 = .ok (.i2l, 1) := dk_133 (dk_at dksX4_number_1 7 rfl rfl)
theorem dX4_number_31 : decode cX4_number 31 = .ok (.iload_n 1, 1) := dk_27 (dk_at dksX4_number_1 8 rfl rfl)
theorem dX4_number_32 : decode cX4_number 32 = .ok (.i2l, 1) := dk_133 (dk_at dksX4_number_1 9 rfl rfl)
theorem dX4_number_33 : decode cX4_number 33 = .ok (.iload_n 2, 1) := dk_28 (dk_at dksX4_number_1 10 rfl rfl)
theorem dX4_number_34 : decode cX4_number 34 = .ok (.i2l, 1) := dk_133 (dk_at dksX4_number_1 11 rfl rfl)
theorem dX4_number_35 : decode cX4_number 35 = .ok (.invokestatic 197, 3) := dk_184 0 197 (dk_at dksX4_number_1 12 rfl rfl)
theorem dX4_number_38 : decode cX4_number 38 = .ok (.ifCond .ne 9, 3) := dk_154 0 9 (dk_at dksX4_number_1 15 rfl rfl)
theorem dX4_number_41 : decode cX4_number 41 = .ok (.aload_n 0, 1) := dk_42 (dk_at dksX4_number_1 18 rfl rfl)
theorem dX4_number_42 : decode cX4_number 42 = .ok (.iconst 2, 1) := dk_5 (dk_at dksX4_number_1 19 rfl rfl)
theorem dX4_number_43 : decode cX4_number 43 = .ok (.invokevirtual 194, 3) := dk_182 0 194 (dk_at dksX4_number_1 20 rfl rfl)
theorem dX4_number_46 : decode cX4_number 46 = .ok (.pop, 1) := dk_87 (dk_at dksX4_number_1 23 rfl rfl)
theorem dX4_number_47 : decode cX4_number 47 = .ok (.aload_n 0, 1) := dk_42 (dk_at dksX4_number_2 0 rfl rfl)
theorem dX4_number_48 : decode cX4_number 48 = .ok (.invokevirtual 183, 3) := dk_182 0 183 (dk_at dksX4_number_2 1 rfl rfl)
theorem dX4_number_51 : decode cX4_number 51 = .ok (.ifCond .ne 5, 3) := dk_154 0 5 (dk_at dksX4_number_2 4 rfl rfl)
theorem dX4_number_54 : decode cX4_number 54 = .ok (.iload_n 1, 1) := dk_27 (dk_at dksX4_number_2 7 rfl rfl)
theorem dX4_number_55 : decode cX4_number 55 = .ok (.ireturn, 1) := dk_172 (dk_at dksX4_number_2 8 rfl rfl)
theorem dX4_number_56 : decode cX4_number 56 = .ok (.aload_n 0, 1) := dk_42 (dk_at dksX4_number_2 9 rfl rfl)
theorem dX4_number_57 : decode cX4_number 57 = .ok (.getfield 164, 3) := dk_180 0 164 (dk_at dksX4_number_2 10 rfl rfl)
theorem dX4_number_60 : decode cX4_number 60 = .ok (.istore_n 3, 1) := dk_62 (dk_at dksX4_number_2 13 rfl rfl)
theorem dX4_number_61 : decode cX4_number 61 = .ok (.aload_n 0, 1) := dk_42 (dk_at dksX4_number_2 14 rfl rfl)
theorem dX4_number_62 : decode cX4_number 62 = .ok (.invokevirtual 180, 3) := dk_182 0 180 (dk_at dksX4_number_2 15 rfl rfl)
theorem dX4_number_65 : decode cX4_number 65 = .ok (.iload_n 3, 1) := dk_29 (dk_at dksX4_number_2 18 rfl rfl)
theorem dX4_number_66 : decode cX4_number 66 = .ok (.ireturn, 1) := dk_172 (dk_at dksX4_number_2 19 rfl rfl)
abbrev cX4_must : ByteArray := prog_25_method_33_code
def yX4_must : MethodName := ⟨RX4, "must", "(I)V"⟩
def dkwX4_must_1 : List UInt8 := [4, 182, 0, 194, 87, 177]
abbrev dktX4_must_1 : List UInt8 := dkwX4_must_1 ++ []
def dkwX4_must_0 : List UInt8 := [42, 182, 0, 183, 154, 0, 4, 177, 42, 27, 182, 0, 191, 153, 0, 10, 42, 182, 0, 180, 167, 0, 9, 42]
abbrev dktX4_must_0 : List UInt8 := dkwX4_must_0 ++ dktX4_must_1
theorem dksX4_must_0 : cX4_must.data.toList.drop 0 = dktX4_must_0 := by decide +kernel
theorem dksX4_must_1 : cX4_must.data.toList.drop 24 = dktX4_must_1 := dk_seg dksX4_must_0 24 rfl rfl
theorem dX4_must_0 : decode cX4_must 0 = .ok (.aload_n 0, 1) := dk_42 (dk_at dksX4_must_0 0 rfl rfl)
theorem dX4_must_1 : decode cX4_must 1 = .ok (.invokevirtual 183, 3) := dk_182 0 183 (dk_at dksX4_must_0 1 rfl rfl)
theorem dX4_must_4 : decode cX4_must 4 = .ok (.ifCond .ne 4, 3) := dk_154 0 4 (dk_at dksX4_must_0 4 rfl rfl)
theorem dX4_must_7 : decode cX4_must 7 = .ok (.return_, 1) := dk_177 (dk_at dksX4_must_0 7 rfl rfl)
theorem dX4_must_8 : decode cX4_must 8 = .ok (.aload_n 0, 1) := dk_42 (dk_at dksX4_must_0 8 rfl rfl)
theorem dX4_must_9 : decode cX4_must 9 = .ok (.iload_n 1, 1) := dk_27 (dk_at dksX4_must_0 9 rfl rfl)
theorem dX4_must_10 : decode cX4_must 10 = .ok (.invokevirtual 191, 3) := dk_182 0 191 (dk_at dksX4_must_0 10 rfl rfl)
theorem dX4_must_13 : decode cX4_must 13 = .ok (.ifCond .eq 10, 3) := dk_153 0 10 (dk_at dksX4_must_0 13 rfl rfl)
theorem dX4_must_16 : decode cX4_must 16 = .ok (.aload_n 0, 1) := dk_42 (dk_at dksX4_must_0 16 rfl rfl)
theorem dX4_must_17 : decode cX4_must 17 = .ok (.invokevirtual 180, 3) := dk_182 0 180 (dk_at dksX4_must_0 17 rfl rfl)
theorem dX4_must_20 : decode cX4_must 20 = .ok (.goto 9, 3) := dk_167 0 9 (dk_at dksX4_must_0 20 rfl rfl)
theorem dX4_must_23 : decode cX4_must 23 = .ok (.aload_n 0, 1) := dk_42 (dk_at dksX4_must_0 23 rfl rfl)
theorem dX4_must_24 : decode cX4_must 24 = .ok (.iconst 1, 1) := dk_4 (dk_at dksX4_must_1 0 rfl rfl)
theorem dX4_must_25 : decode cX4_must 25 = .ok (.invokevirtual 194, 3) := dk_182 0 194 (dk_at dksX4_must_1 1 rfl rfl)
theorem dX4_must_28 : decode cX4_must 28 = .ok (.pop, 1) := dk_87 (dk_at dksX4_must_1 4 rfl rfl)
theorem dX4_must_29 : decode cX4_must 29 = .ok (.return_, 1) := dk_177 (dk_at dksX4_must_1 5 rfl rfl)
abbrev cX4_isByte : ByteArray := prog_25_method_32_code
def yX4_isByte : MethodName := ⟨RX4, "isByte", "(I)Z"⟩
def dkwX4_isByte_1 : List UInt8 := [27, 160, 0, 7, 4, 167, 0, 4, 3, 172]
abbrev dktX4_isByte_1 : List UInt8 := dkwX4_isByte_1 ++ []
def dkwX4_isByte_0 : List UInt8 := [42, 182, 0, 183, 153, 0, 28, 42, 180, 0, 161, 6, 160, 0, 20, 42, 180, 0, 43, 42, 180, 0, 154, 46]
abbrev dktX4_isByte_0 : List UInt8 := dkwX4_isByte_0 ++ dktX4_isByte_1
theorem dksX4_isByte_0 : cX4_isByte.data.toList.drop 0 = dktX4_isByte_0 := by decide +kernel
theorem dksX4_isByte_1 : cX4_isByte.data.toList.drop 24 = dktX4_isByte_1 := dk_seg dksX4_isByte_0 24 rfl rfl
theorem dX4_isByte_0 : decode cX4_isByte 0 = .ok (.aload_n 0, 1) := dk_42 (dk_at dksX4_isByte_0 0 rfl rfl)
theorem dX4_isByte_1 : decode cX4_isByte 1 = .ok (.invokevirtual 183, 3) := dk_182 0 183 (dk_at dksX4_isByte_0 1 rfl rfl)
theorem dX4_isByte_4 : decode cX4_isByte 4 = .ok (.ifCond .eq 28, 3) := dk_153 0 28 (dk_at dksX4_isByte_0 4 rfl rfl)
theorem dX4_isByte_7 : decode cX4_isByte 7 = .ok (.aload_n 0, 1) := dk_42 (dk_at dksX4_isByte_0 7 rfl rfl)
theorem dX4_isByte_8 : decode cX4_isByte 8 = .ok (.getfield 161, 3) := dk_180 0 161 (dk_at dksX4_isByte_0 8 rfl rfl)
theorem dX4_isByte_11 : decode cX4_isByte 11 = .ok (.iconst 3, 1) := dk_6 (dk_at dksX4_isByte_0 11 rfl rfl)
theorem dX4_isByte_12 : decode cX4_isByte 12 = .ok (.if_icmp .ne 20, 3) := dk_160 0 20 (dk_at dksX4_isByte_0 12 rfl rfl)
theorem dX4_isByte_15 : decode cX4_isByte 15 = .ok (.aload_n 0, 1) := dk_42 (dk_at dksX4_isByte_0 15 rfl rfl)
theorem dX4_isByte_16 : decode cX4_isByte 16 = .ok (.getfield 43, 3) := dk_180 0 43 (dk_at dksX4_isByte_0 16 rfl rfl)
theorem dX4_isByte_19 : decode cX4_isByte 19 = .ok (.aload_n 0, 1) := dk_42 (dk_at dksX4_isByte_0 19 rfl rfl)
theorem dX4_isByte_20 : decode cX4_isByte 20 = .ok (.getfield 154, 3) := dk_180 0 154 (dk_at dksX4_isByte_0 20 rfl rfl)
theorem dX4_isByte_23 : decode cX4_isByte 23 = .ok (.iaload, 1) := dk_46 (dk_at dksX4_isByte_0 23 rfl rfl)
theorem dX4_isByte_24 : decode cX4_isByte 24 = .ok (.iload_n 1, 1) := dk_27 (dk_at dksX4_isByte_1 0 rfl rfl)
theorem dX4_isByte_25 : decode cX4_isByte 25 = .ok (.if_icmp .ne 7, 3) := dk_160 0 7 (dk_at dksX4_isByte_1 1 rfl rfl)
theorem dX4_isByte_28 : decode cX4_isByte 28 = .ok (.iconst 1, 1) := dk_4 (dk_at dksX4_isByte_1 4 rfl rfl)
theorem dX4_isByte_29 : decode cX4_isByte 29 = .ok (.goto 4, 3) := dk_167 0 4 (dk_at dksX4_isByte_1 5 rfl rfl)
theorem dX4_isByte_32 : decode cX4_isByte 32 = .ok (.iconst 0, 1) := dk_3 (dk_at dksX4_isByte_1 8 rfl rfl)
theorem dX4_isByte_33 : decode cX4_isByte 33 = .ok (.ireturn, 1) := dk_172 (dk_at dksX4_isByte_1 9 rfl rfl)
abbrev cX4_clauseRead : ByteArray := prog_25_method_39_code
def yX4_clauseRead : MethodName := ⟨RX4, "clauseRead", "()V"⟩
def dkwX4_clauseRead_8 : List UInt8 := [16, 59, 182, 0, 253, 177]
abbrev dktX4_clauseRead_8 : List UInt8 := dkwX4_clauseRead_8 ++ []
def dkwX4_clauseRead_7 : List UInt8 := [20, 0, 248, 182, 0, 233, 153, 0, 10, 42, 182, 0, 250, 167, 0, 9, 42, 4, 182, 0, 194, 87, 42]
abbrev dktX4_clauseRead_7 : List UInt8 := dkwX4_clauseRead_7 ++ dktX4_clauseRead_8
def dkwX4_clauseRead_6 : List UInt8 := [42, 182, 0, 183, 153, 0, 15, 42, 180, 0, 13, 16, 10, 27, 96, 5, 100, 28, 79, 167, 0, 26, 42]
abbrev dktX4_clauseRead_6 : List UInt8 := dkwX4_clauseRead_6 ++ dktX4_clauseRead_7
def dkwX4_clauseRead_5 : List UInt8 := [20, 0, 246, 182, 0, 233, 153, 0, 40, 42, 5, 7, 182, 0, 215, 60, 42, 3, 16, 90, 182, 0, 215, 61]
abbrev dktX4_clauseRead_5 : List UInt8 := dkwX4_clauseRead_5 ++ dktX4_clauseRead_6
def dkwX4_clauseRead_4 : List UInt8 := [27, 181, 0, 105, 42, 182, 0, 183, 153, 0, 10, 42, 180, 0, 13, 5, 28, 79, 167, 0, 73, 42]
abbrev dktX4_clauseRead_4 : List UInt8 := dkwX4_clauseRead_4 ++ dktX4_clauseRead_5
def dkwX4_clauseRead_3 : List UInt8 := [17, 39, 15, 182, 0, 215, 60, 42, 3, 17, 3, 231, 182, 0, 215, 61, 42, 182, 0, 183, 153, 0, 8, 42]
abbrev dktX4_clauseRead_3 : List UInt8 := dkwX4_clauseRead_3 ++ dktX4_clauseRead_4
def dkwX4_clauseRead_2 : List UInt8 := [153, 0, 137, 42, 182, 0, 241, 167, 0, 130, 42, 20, 0, 244, 182, 0, 233, 153, 0, 50, 42, 3]
abbrev dktX4_clauseRead_2 : List UInt8 := dkwX4_clauseRead_2 ++ dktX4_clauseRead_3
def dkwX4_clauseRead_1 : List UInt8 := [153, 0, 34, 42, 180, 0, 102, 7, 160, 0, 9, 42, 6, 182, 0, 194, 87, 42, 20, 0, 239, 182, 0, 233]
abbrev dktX4_clauseRead_1 : List UInt8 := dkwX4_clauseRead_1 ++ dktX4_clauseRead_2
def dkwX4_clauseRead_0 : List UInt8 := [42, 20, 0, 231, 182, 0, 233, 153, 0, 10, 42, 182, 0, 236, 167, 0, 171, 42, 20, 0, 239, 182, 0, 187]
abbrev dktX4_clauseRead_0 : List UInt8 := dkwX4_clauseRead_0 ++ dktX4_clauseRead_1
theorem dksX4_clauseRead_0 : cX4_clauseRead.data.toList.drop 0 = dktX4_clauseRead_0 := by decide +kernel
theorem dksX4_clauseRead_1 : cX4_clauseRead.data.toList.drop 24 = dktX4_clauseRead_1 := dk_seg dksX4_clauseRead_0 24 rfl rfl
theorem dksX4_clauseRead_2 : cX4_clauseRead.data.toList.drop 48 = dktX4_clauseRead_2 := dk_seg dksX4_clauseRead_1 24 rfl rfl
theorem dksX4_clauseRead_3 : cX4_clauseRead.data.toList.drop 70 = dktX4_clauseRead_3 := dk_seg dksX4_clauseRead_2 22 rfl rfl
theorem dksX4_clauseRead_4 : cX4_clauseRead.data.toList.drop 94 = dktX4_clauseRead_4 := dk_seg dksX4_clauseRead_3 24 rfl rfl
theorem dksX4_clauseRead_5 : cX4_clauseRead.data.toList.drop 116 = dktX4_clauseRead_5 := dk_seg dksX4_clauseRead_4 22 rfl rfl
theorem dksX4_clauseRead_6 : cX4_clauseRead.data.toList.drop 140 = dktX4_clauseRead_6 := dk_seg dksX4_clauseRead_5 24 rfl rfl
theorem dksX4_clauseRead_7 : cX4_clauseRead.data.toList.drop 163 = dktX4_clauseRead_7 := dk_seg dksX4_clauseRead_6 23 rfl rfl
theorem dksX4_clauseRead_8 : cX4_clauseRead.data.toList.drop 186 = dktX4_clauseRead_8 := dk_seg dksX4_clauseRead_7 23 rfl rfl
theorem dX4_clauseRead_0 : decode cX4_clauseRead 0 = .ok (.aload_n 0, 1) := dk_42 (dk_at dksX4_clauseRead_0 0 rfl rfl)
theorem dX4_clauseRead_1 : decode cX4_clauseRead 1 = .ok (.ldc2_w 231, 3) := dk_20 0 231 (dk_at dksX4_clauseRead_0 1 rfl rfl)
theorem dX4_clauseRead_4 : decode cX4_clauseRead 4 = .ok (.invokevirtual 233, 3) := dk_182 0 233 (dk_at dksX4_clauseRead_0 4 rfl rfl)
theorem dX4_clauseRead_7 : decode cX4_clauseRead 7 = .ok (.ifCond .eq 10, 3) := dk_153 0 10 (dk_at dksX4_clauseRead_0 7 rfl rfl)
theorem dX4_clauseRead_10 : decode cX4_clauseRead 10 = .ok (.aload_n 0, 1) := dk_42 (dk_at dksX4_clauseRead_0 10 rfl rfl)
theorem dX4_clauseRead_11 : decode cX4_clauseRead 11 = .ok (.invokevirtual 236, 3) := dk_182 0 236 (dk_at dksX4_clauseRead_0 11 rfl rfl)
theorem dX4_clauseRead_14 : decode cX4_clauseRead 14 = .ok (.goto 171, 3) := dk_167 0 171 (dk_at dksX4_clauseRead_0 14 rfl rfl)
theorem dX4_clauseRead_17 : decode cX4_clauseRead 17 = .ok (.aload_n 0, 1) := dk_42 (dk_at dksX4_clauseRead_0 17 rfl rfl)
theorem dX4_clauseRead_18 : decode cX4_clauseRead 18 = .ok (.ldc2_w 239, 3) := dk_20 0 239 (dk_at dksX4_clauseRead_0 18 rfl rfl)
theorem dX4_clauseRead_21 : decode cX4_clauseRead 21 = .ok (.invokevirtual 187, 3) := dk_182 0 187 (dk_at dksX4_clauseRead_0 21 rfl rfl)
theorem dX4_clauseRead_24 : decode cX4_clauseRead 24 = .ok (.ifCond .eq 34, 3) := dk_153 0 34 (dk_at dksX4_clauseRead_1 0 rfl rfl)
theorem dX4_clauseRead_27 : decode cX4_clauseRead 27 = .ok (.aload_n 0, 1) := dk_42 (dk_at dksX4_clauseRead_1 3 rfl rfl)
theorem dX4_clauseRead_28 : decode cX4_clauseRead 28 = .ok (.getfield 102, 3) := dk_180 0 102 (dk_at dksX4_clauseRead_1 4 rfl rfl)
theorem dX4_clauseRead_31 : decode cX4_clauseRead 31 = .ok (.iconst 4, 1) := dk_7 (dk_at dksX4_clauseRead_1 7 rfl rfl)
theorem dX4_clauseRead_32 : decode cX4_clauseRead 32 = .ok (.if_icmp .ne 9, 3) := dk_160 0 9 (dk_at dksX4_clauseRead_1 8 rfl rfl)
theorem dX4_clauseRead_35 : decode cX4_clauseRead 35 = .ok (.aload_n 0, 1) := dk_42 (dk_at dksX4_clauseRead_1 11 rfl rfl)
theorem dX4_clauseRead_36 : decode cX4_clauseRead 36 = .ok (.iconst 3, 1) := dk_6 (dk_at dksX4_clauseRead_1 12 rfl rfl)
theorem dX4_clauseRead_37 : decode cX4_clauseRead 37 = .ok (.invokevirtual 194, 3) := dk_182 0 194 (dk_at dksX4_clauseRead_1 13 rfl rfl)
theorem dX4_clauseRead_40 : decode cX4_clauseRead 40 = .ok (.pop, 1) := dk_87 (dk_at dksX4_clauseRead_1 16 rfl rfl)
theorem dX4_clauseRead_41 : decode cX4_clauseRead 41 = .ok (.aload_n 0, 1) := dk_42 (dk_at dksX4_clauseRead_1 17 rfl rfl)
theorem dX4_clauseRead_42 : decode cX4_clauseRead 42 = .ok (.ldc2_w 239, 3) := dk_20 0 239 (dk_at dksX4_clauseRead_1 18 rfl rfl)
theorem dX4_clauseRead_45 : decode cX4_clauseRead 45 = .ok (.invokevirtual 233, 3) := dk_182 0 233 (dk_at dksX4_clauseRead_1 21 rfl rfl)
theorem dX4_clauseRead_48 : decode cX4_clauseRead 48 = .ok (.ifCond .eq 137, 3) := dk_153 0 137 (dk_at dksX4_clauseRead_2 0 rfl rfl)
theorem dX4_clauseRead_51 : decode cX4_clauseRead 51 = .ok (.aload_n 0, 1) := dk_42 (dk_at dksX4_clauseRead_2 3 rfl rfl)
theorem dX4_clauseRead_52 : decode cX4_clauseRead 52 = .ok (.invokevirtual 241, 3) := dk_182 0 241 (dk_at dksX4_clauseRead_2 4 rfl rfl)
theorem dX4_clauseRead_55 : decode cX4_clauseRead 55 = .ok (.goto 130, 3) := dk_167 0 130 (dk_at dksX4_clauseRead_2 7 rfl rfl)
theorem dX4_clauseRead_58 : decode cX4_clauseRead 58 = .ok (.aload_n 0, 1) := dk_42 (dk_at dksX4_clauseRead_2 10 rfl rfl)
theorem dX4_clauseRead_59 : decode cX4_clauseRead 59 = .ok (.ldc2_w 244, 3) := dk_20 0 244 (dk_at dksX4_clauseRead_2 11 rfl rfl)
theorem dX4_clauseRead_62 : decode cX4_clauseRead 62 = .ok (.invokevirtual 233, 3) := dk_182 0 233 (dk_at dksX4_clauseRead_2 14 rfl rfl)
theorem dX4_clauseRead_65 : decode cX4_clauseRead 65 = .ok (.ifCond .eq 50, 3) := dk_153 0 50 (dk_at dksX4_clauseRead_2 17 rfl rfl)
theorem dX4_clauseRead_68 : decode cX4_clauseRead 68 = .ok (.aload_n 0, 1) := dk_42 (dk_at dksX4_clauseRead_2 20 rfl rfl)
theorem dX4_clauseRead_69 : decode cX4_clauseRead 69 = .ok (.iconst 0, 1) := dk_3 (dk_at dksX4_clauseRead_2 21 rfl rfl)
theorem dX4_clauseRead_70 : decode cX4_clauseRead 70 = .ok (.sipush 9999, 3) := dk_17 39 15 (dk_at dksX4_clauseRead_3 0 rfl rfl)
theorem dX4_clauseRead_73 : decode cX4_clauseRead 73 = .ok (.invokevirtual 215, 3) := dk_182 0 215 (dk_at dksX4_clauseRead_3 3 rfl rfl)
theorem dX4_clauseRead_76 : decode cX4_clauseRead 76 = .ok (.istore_n 1, 1) := dk_60 (dk_at dksX4_clauseRead_3 6 rfl rfl)
theorem dX4_clauseRead_77 : decode cX4_clauseRead 77 = .ok (.aload_n 0, 1) := dk_42 (dk_at dksX4_clauseRead_3 7 rfl rfl)
theorem dX4_clauseRead_78 : decode cX4_clauseRead 78 = .ok (.iconst 0, 1) := dk_3 (dk_at dksX4_clauseRead_3 8 rfl rfl)
theorem dX4_clauseRead_79 : decode cX4_clauseRead 79 = .ok (.sipush 999, 3) := dk_17 3 231 (dk_at dksX4_clauseRead_3 9 rfl rfl)
theorem dX4_clauseRead_82 : decode cX4_clauseRead 82 = .ok (.invokevirtual 215, 3) := dk_182 0 215 (dk_at dksX4_clauseRead_3 12 rfl rfl)
theorem dX4_clauseRead_85 : decode cX4_clauseRead 85 = .ok (.istore_n 2, 1) := dk_61 (dk_at dksX4_clauseRead_3 15 rfl rfl)
theorem dX4_clauseRead_86 : decode cX4_clauseRead 86 = .ok (.aload_n 0, 1) := dk_42 (dk_at dksX4_clauseRead_3 16 rfl rfl)
theorem dX4_clauseRead_87 : decode cX4_clauseRead 87 = .ok (.invokevirtual 183, 3) := dk_182 0 183 (dk_at dksX4_clauseRead_3 17 rfl rfl)
theorem dX4_clauseRead_90 : decode cX4_clauseRead 90 = .ok (.ifCond .eq 8, 3) := dk_153 0 8 (dk_at dksX4_clauseRead_3 20 rfl rfl)
theorem dX4_clauseRead_93 : decode cX4_clauseRead 93 = .ok (.aload_n 0, 1) := dk_42 (dk_at dksX4_clauseRead_3 23 rfl rfl)
theorem dX4_clauseRead_94 : decode cX4_clauseRead 94 = .ok (.iload_n 1, 1) := dk_27 (dk_at dksX4_clauseRead_4 0 rfl rfl)
theorem dX4_clauseRead_95 : decode cX4_clauseRead 95 = .ok (.putfield 105, 3) := dk_181 0 105 (dk_at dksX4_clauseRead_4 1 rfl rfl)
theorem dX4_clauseRead_98 : decode cX4_clauseRead 98 = .ok (.aload_n 0, 1) := dk_42 (dk_at dksX4_clauseRead_4 4 rfl rfl)
theorem dX4_clauseRead_99 : decode cX4_clauseRead 99 = .ok (.invokevirtual 183, 3) := dk_182 0 183 (dk_at dksX4_clauseRead_4 5 rfl rfl)
theorem dX4_clauseRead_102 : decode cX4_clauseRead 102 = .ok (.ifCond .eq 10, 3) := dk_153 0 10 (dk_at dksX4_clauseRead_4 8 rfl rfl)
theorem dX4_clauseRead_105 : decode cX4_clauseRead 105 = .ok (.aload_n 0, 1) := dk_42 (dk_at dksX4_clauseRead_4 11 rfl rfl)
theorem dX4_clauseRead_106 : decode cX4_clauseRead 106 = .ok (.getfield 13, 3) := dk_180 0 13 (dk_at dksX4_clauseRead_4 12 rfl rfl)
theorem dX4_clauseRead_109 : decode cX4_clauseRead 109 = .ok (.iconst 2, 1) := dk_5 (dk_at dksX4_clauseRead_4 15 rfl rfl)
theorem dX4_clauseRead_110 : decode cX4_clauseRead 110 = .ok (.iload_n 2, 1) := dk_28 (dk_at dksX4_clauseRead_4 16 rfl rfl)
theorem dX4_clauseRead_111 : decode cX4_clauseRead 111 = .ok (.iastore, 1) := dk_79 (dk_at dksX4_clauseRead_4 17 rfl rfl)
theorem dX4_clauseRead_112 : decode cX4_clauseRead 112 = .ok (.goto 73, 3) := dk_167 0 73 (dk_at dksX4_clauseRead_4 18 rfl rfl)
theorem dX4_clauseRead_115 : decode cX4_clauseRead 115 = .ok (.aload_n 0, 1) := dk_42 (dk_at dksX4_clauseRead_4 21 rfl rfl)
theorem dX4_clauseRead_116 : decode cX4_clauseRead 116 = .ok (.ldc2_w 246, 3) := dk_20 0 246 (dk_at dksX4_clauseRead_5 0 rfl rfl)
theorem dX4_clauseRead_119 : decode cX4_clauseRead 119 = .ok (.invokevirtual 233, 3) := dk_182 0 233 (dk_at dksX4_clauseRead_5 3 rfl rfl)
theorem dX4_clauseRead_122 : decode cX4_clauseRead 122 = .ok (.ifCond .eq 40, 3) := dk_153 0 40 (dk_at dksX4_clauseRead_5 6 rfl rfl)
theorem dX4_clauseRead_125 : decode cX4_clauseRead 125 = .ok (.aload_n 0, 1) := dk_42 (dk_at dksX4_clauseRead_5 9 rfl rfl)
theorem dX4_clauseRead_126 : decode cX4_clauseRead 126 = .ok (.iconst 2, 1) := dk_5 (dk_at dksX4_clauseRead_5 10 rfl rfl)
theorem dX4_clauseRead_127 : decode cX4_clauseRead 127 = .ok (.iconst 4, 1) := dk_7 (dk_at dksX4_clauseRead_5 11 rfl rfl)
theorem dX4_clauseRead_128 : decode cX4_clauseRead 128 = .ok (.invokevirtual 215, 3) := dk_182 0 215 (dk_at dksX4_clauseRead_5 12 rfl rfl)
theorem dX4_clauseRead_131 : decode cX4_clauseRead 131 = .ok (.istore_n 1, 1) := dk_60 (dk_at dksX4_clauseRead_5 15 rfl rfl)
theorem dX4_clauseRead_132 : decode cX4_clauseRead 132 = .ok (.aload_n 0, 1) := dk_42 (dk_at dksX4_clauseRead_5 16 rfl rfl)
theorem dX4_clauseRead_133 : decode cX4_clauseRead 133 = .ok (.iconst 0, 1) := dk_3 (dk_at dksX4_clauseRead_5 17 rfl rfl)
theorem dX4_clauseRead_134 : decode cX4_clauseRead 134 = .ok (.bipush 90, 2) := dk_16 90 (dk_at dksX4_clauseRead_5 18 rfl rfl)
theorem dX4_clauseRead_136 : decode cX4_clauseRead 136 = .ok (.invokevirtual 215, 3) := dk_182 0 215 (dk_at dksX4_clauseRead_5 20 rfl rfl)
theorem dX4_clauseRead_139 : decode cX4_clauseRead 139 = .ok (.istore_n 2, 1) := dk_61 (dk_at dksX4_clauseRead_5 23 rfl rfl)
theorem dX4_clauseRead_140 : decode cX4_clauseRead 140 = .ok (.aload_n 0, 1) := dk_42 (dk_at dksX4_clauseRead_6 0 rfl rfl)
theorem dX4_clauseRead_141 : decode cX4_clauseRead 141 = .ok (.invokevirtual 183, 3) := dk_182 0 183 (dk_at dksX4_clauseRead_6 1 rfl rfl)
theorem dX4_clauseRead_144 : decode cX4_clauseRead 144 = .ok (.ifCond .eq 15, 3) := dk_153 0 15 (dk_at dksX4_clauseRead_6 4 rfl rfl)
theorem dX4_clauseRead_147 : decode cX4_clauseRead 147 = .ok (.aload_n 0, 1) := dk_42 (dk_at dksX4_clauseRead_6 7 rfl rfl)
theorem dX4_clauseRead_148 : decode cX4_clauseRead 148 = .ok (.getfield 13, 3) := dk_180 0 13 (dk_at dksX4_clauseRead_6 8 rfl rfl)
theorem dX4_clauseRead_151 : decode cX4_clauseRead 151 = .ok (.bipush 10, 2) := dk_16 10 (dk_at dksX4_clauseRead_6 11 rfl rfl)
theorem dX4_clauseRead_153 : decode cX4_clauseRead 153 = .ok (.iload_n 1, 1) := dk_27 (dk_at dksX4_clauseRead_6 13 rfl rfl)
theorem dX4_clauseRead_154 : decode cX4_clauseRead 154 = .ok (.iadd, 1) := dk_96 (dk_at dksX4_clauseRead_6 14 rfl rfl)
theorem dX4_clauseRead_155 : decode cX4_clauseRead 155 = .ok (.iconst 2, 1) := dk_5 (dk_at dksX4_clauseRead_6 15 rfl rfl)
theorem dX4_clauseRead_156 : decode cX4_clauseRead 156 = .ok (.isub, 1) := dk_100 (dk_at dksX4_clauseRead_6 16 rfl rfl)
theorem dX4_clauseRead_157 : decode cX4_clauseRead 157 = .ok (.iload_n 2, 1) := dk_28 (dk_at dksX4_clauseRead_6 17 rfl rfl)
theorem dX4_clauseRead_158 : decode cX4_clauseRead 158 = .ok (.iastore, 1) := dk_79 (dk_at dksX4_clauseRead_6 18 rfl rfl)
theorem dX4_clauseRead_159 : decode cX4_clauseRead 159 = .ok (.goto 26, 3) := dk_167 0 26 (dk_at dksX4_clauseRead_6 19 rfl rfl)
theorem dX4_clauseRead_162 : decode cX4_clauseRead 162 = .ok (.aload_n 0, 1) := dk_42 (dk_at dksX4_clauseRead_6 22 rfl rfl)
theorem dX4_clauseRead_163 : decode cX4_clauseRead 163 = .ok (.ldc2_w 248, 3) := dk_20 0 248 (dk_at dksX4_clauseRead_7 0 rfl rfl)
theorem dX4_clauseRead_166 : decode cX4_clauseRead 166 = .ok (.invokevirtual 233, 3) := dk_182 0 233 (dk_at dksX4_clauseRead_7 3 rfl rfl)
theorem dX4_clauseRead_169 : decode cX4_clauseRead 169 = .ok (.ifCond .eq 10, 3) := dk_153 0 10 (dk_at dksX4_clauseRead_7 6 rfl rfl)
theorem dX4_clauseRead_172 : decode cX4_clauseRead 172 = .ok (.aload_n 0, 1) := dk_42 (dk_at dksX4_clauseRead_7 9 rfl rfl)
theorem dX4_clauseRead_173 : decode cX4_clauseRead 173 = .ok (.invokevirtual 250, 3) := dk_182 0 250 (dk_at dksX4_clauseRead_7 10 rfl rfl)
theorem dX4_clauseRead_176 : decode cX4_clauseRead 176 = .ok (.goto 9, 3) := dk_167 0 9 (dk_at dksX4_clauseRead_7 13 rfl rfl)
theorem dX4_clauseRead_179 : decode cX4_clauseRead 179 = .ok (.aload_n 0, 1) := dk_42 (dk_at dksX4_clauseRead_7 16 rfl rfl)
theorem dX4_clauseRead_180 : decode cX4_clauseRead 180 = .ok (.iconst 1, 1) := dk_4 (dk_at dksX4_clauseRead_7 17 rfl rfl)
theorem dX4_clauseRead_181 : decode cX4_clauseRead 181 = .ok (.invokevirtual 194, 3) := dk_182 0 194 (dk_at dksX4_clauseRead_7 18 rfl rfl)
theorem dX4_clauseRead_184 : decode cX4_clauseRead 184 = .ok (.pop, 1) := dk_87 (dk_at dksX4_clauseRead_7 21 rfl rfl)
theorem dX4_clauseRead_185 : decode cX4_clauseRead 185 = .ok (.aload_n 0, 1) := dk_42 (dk_at dksX4_clauseRead_7 22 rfl rfl)
theorem dX4_clauseRead_186 : decode cX4_clauseRead 186 = .ok (.bipush 59, 2) := dk_16 59 (dk_at dksX4_clauseRead_8 0 rfl rfl)
theorem dX4_clauseRead_188 : decode cX4_clauseRead 188 = .ok (.invokevirtual 253, 3) := dk_182 0 253 (dk_at dksX4_clauseRead_8 2 rfl rfl)
theorem dX4_clauseRead_191 : decode cX4_clauseRead 191 = .ok (.return_, 1) := dk_177 (dk_at dksX4_clauseRead_8 5 rfl rfl)
abbrev cX4_roadRead : ByteArray := prog_25_method_36_code
def yX4_roadRead : MethodName := ⟨RX4, "roadRead", "()V"⟩
def dkwX4_roadRead_5 : List UInt8 := [42, 180, 0, 22, 16, 8, 28, 104, 27, 96, 29, 79, 42, 89, 180, 0, 99, 4, 96, 181, 0, 99, 177]
abbrev dktX4_roadRead_5 : List UInt8 := dkwX4_roadRead_5 ++ []
def dkwX4_roadRead_4 : List UInt8 := [182, 0, 215, 62, 42, 182, 0, 183, 154, 0, 4, 177, 42, 180, 0, 22, 16, 8, 27, 104, 28, 96, 29, 79]
abbrev dktX4_roadRead_4 : List UInt8 := dkwX4_roadRead_4 ++ dktX4_roadRead_5
def dkwX4_roadRead_3 : List UInt8 := [42, 7, 182, 0, 194, 87, 42, 3, 42, 180, 0, 96, 4, 100, 182, 0, 215, 61, 42, 4, 16, 99]
abbrev dktX4_roadRead_3 : List UInt8 := dkwX4_roadRead_3 ++ dktX4_roadRead_4
def dkwX4_roadRead_2 : List UInt8 := [180, 0, 164, 27, 159, 0, 20, 42, 180, 0, 22, 16, 8, 27, 104, 42, 180, 0, 164, 96, 46, 155, 0, 9]
abbrev dktX4_roadRead_2 : List UInt8 := dkwX4_roadRead_2 ++ dktX4_roadRead_3
def dkwX4_roadRead_1 : List UInt8 := [160, 0, 53, 42, 180, 0, 164, 133, 9, 42, 180, 0, 96, 4, 100, 133, 184, 0, 197, 153, 0, 34, 42]
abbrev dktX4_roadRead_1 : List UInt8 := dkwX4_roadRead_1 ++ dktX4_roadRead_2
def dkwX4_roadRead_0 : List UInt8 := [42, 3, 42, 180, 0, 96, 4, 100, 182, 0, 215, 60, 42, 182, 0, 183, 153, 0, 61, 42, 180, 0, 161, 5]
abbrev dktX4_roadRead_0 : List UInt8 := dkwX4_roadRead_0 ++ dktX4_roadRead_1
theorem dksX4_roadRead_0 : cX4_roadRead.data.toList.drop 0 = dktX4_roadRead_0 := by decide +kernel
theorem dksX4_roadRead_1 : cX4_roadRead.data.toList.drop 24 = dktX4_roadRead_1 := dk_seg dksX4_roadRead_0 24 rfl rfl
theorem dksX4_roadRead_2 : cX4_roadRead.data.toList.drop 47 = dktX4_roadRead_2 := dk_seg dksX4_roadRead_1 23 rfl rfl
theorem dksX4_roadRead_3 : cX4_roadRead.data.toList.drop 71 = dktX4_roadRead_3 := dk_seg dksX4_roadRead_2 24 rfl rfl
theorem dksX4_roadRead_4 : cX4_roadRead.data.toList.drop 93 = dktX4_roadRead_4 := dk_seg dksX4_roadRead_3 22 rfl rfl
theorem dksX4_roadRead_5 : cX4_roadRead.data.toList.drop 117 = dktX4_roadRead_5 := dk_seg dksX4_roadRead_4 24 rfl rfl
theorem dX4_roadRead_0 : decode cX4_roadRead 0 = .ok (.aload_n 0, 1) := dk_42 (dk_at dksX4_roadRead_0 0 rfl rfl)
theorem dX4_roadRead_1 : decode cX4_roadRead 1 = .ok (.iconst 0, 1) := dk_3 (dk_at dksX4_roadRead_0 1 rfl rfl)
theorem dX4_roadRead_2 : decode cX4_roadRead 2 = .ok (.aload_n 0, 1) := dk_42 (dk_at dksX4_roadRead_0 2 rfl rfl)
theorem dX4_roadRead_3 : decode cX4_roadRead 3 = .ok (.getfield 96, 3) := dk_180 0 96 (dk_at dksX4_roadRead_0 3 rfl rfl)
theorem dX4_roadRead_6 : decode cX4_roadRead 6 = .ok (.iconst 1, 1) := dk_4 (dk_at dksX4_roadRead_0 6 rfl rfl)
theorem dX4_roadRead_7 : decode cX4_roadRead 7 = .ok (.isub, 1) := dk_100 (dk_at dksX4_roadRead_0 7 rfl rfl)
theorem dX4_roadRead_8 : decode cX4_roadRead 8 = .ok (.invokevirtual 215, 3) := dk_182 0 215 (dk_at dksX4_roadRead_0 8 rfl rfl)
theorem dX4_roadRead_11 : decode cX4_roadRead 11 = .ok (.istore_n 1, 1) := dk_60 (dk_at dksX4_roadRead_0 11 rfl rfl)
theorem dX4_roadRead_12 : decode cX4_roadRead 12 = .ok (.aload_n 0, 1) := dk_42 (dk_at dksX4_roadRead_0 12 rfl rfl)
theorem dX4_roadRead_13 : decode cX4_roadRead 13 = .ok (.invokevirtual 183, 3) := dk_182 0 183 (dk_at dksX4_roadRead_0 13 rfl rfl)
theorem dX4_roadRead_16 : decode cX4_roadRead 16 = .ok (.ifCond .eq 61, 3) := dk_153 0 61 (dk_at dksX4_roadRead_0 16 rfl rfl)
theorem dX4_roadRead_19 : decode cX4_roadRead 19 = .ok (.aload_n 0, 1) := dk_42 (dk_at dksX4_roadRead_0 19 rfl rfl)
theorem dX4_roadRead_20 : decode cX4_roadRead 20 = .ok (.getfield 161, 3) := dk_180 0 161 (dk_at dksX4_roadRead_0 20 rfl rfl)
theorem dX4_roadRead_23 : decode cX4_roadRead 23 = .ok (.iconst 2, 1) := dk_5 (dk_at dksX4_roadRead_0 23 rfl rfl)
theorem dX4_roadRead_24 : decode cX4_roadRead 24 = .ok (.if_icmp .ne 53, 3) := dk_160 0 53 (dk_at dksX4_roadRead_1 0 rfl rfl)
theorem dX4_roadRead_27 : decode cX4_roadRead 27 = .ok (.aload_n 0, 1) := dk_42 (dk_at dksX4_roadRead_1 3 rfl rfl)
theorem dX4_roadRead_28 : decode cX4_roadRead 28 = .ok (.getfield 164, 3) := dk_180 0 164 (dk_at dksX4_roadRead_1 4 rfl rfl)
theorem dX4_roadRead_31 : decode cX4_roadRead 31 = .ok (.i2l, 1) := dk_133 (dk_at dksX4_roadRead_1 7 rfl rfl)
theorem dX4_roadRead_32 : decode cX4_roadRead 32 = .ok (.lconst 0, 1) := dk_9 (dk_at dksX4_roadRead_1 8 rfl rfl)
theorem dX4_roadRead_33 : decode cX4_roadRead 33 = .ok (.aload_n 0, 1) := dk_42 (dk_at dksX4_roadRead_1 9 rfl rfl)
theorem dX4_roadRead_34 : decode cX4_roadRead 34 = .ok (.getfield 96, 3) := dk_180 0 96 (dk_at dksX4_roadRead_1 10 rfl rfl)
theorem dX4_roadRead_37 : decode cX4_roadRead 37 = .ok (.iconst 1, 1) := dk_4 (dk_at dksX4_roadRead_1 13 rfl rfl)
theorem dX4_roadRead_38 : decode cX4_roadRead 38 = .ok (.isub, 1) := dk_100 (dk_at dksX4_roadRead_1 14 rfl rfl)
theorem dX4_roadRead_39 : decode cX4_roadRead 39 = .ok (.i2l, 1) := dk_133 (dk_at dksX4_roadRead_1 15 rfl rfl)
theorem dX4_roadRead_40 : decode cX4_roadRead 40 = .ok (.invokestatic 197, 3) := dk_184 0 197 (dk_at dksX4_roadRead_1 16 rfl rfl)
theorem dX4_roadRead_43 : decode cX4_roadRead 43 = .ok (.ifCond .eq 34, 3) := dk_153 0 34 (dk_at dksX4_roadRead_1 19 rfl rfl)
theorem dX4_roadRead_46 : decode cX4_roadRead 46 = .ok (.aload_n 0, 1) := dk_42 (dk_at dksX4_roadRead_1 22 rfl rfl)
theorem dX4_roadRead_47 : decode cX4_roadRead 47 = .ok (.getfield 164, 3) := dk_180 0 164 (dk_at dksX4_roadRead_2 0 rfl rfl)
theorem dX4_roadRead_50 : decode cX4_roadRead 50 = .ok (.iload_n 1, 1) := dk_27 (dk_at dksX4_roadRead_2 3 rfl rfl)
theorem dX4_roadRead_51 : decode cX4_roadRead 51 = .ok (.if_icmp .eq 20, 3) := dk_159 0 20 (dk_at dksX4_roadRead_2 4 rfl rfl)
theorem dX4_roadRead_54 : decode cX4_roadRead 54 = .ok (.aload_n 0, 1) := dk_42 (dk_at dksX4_roadRead_2 7 rfl rfl)
theorem dX4_roadRead_55 : decode cX4_roadRead 55 = .ok (.getfield 22, 3) := dk_180 0 22 (dk_at dksX4_roadRead_2 8 rfl rfl)
theorem dX4_roadRead_58 : decode cX4_roadRead 58 = .ok (.bipush 8, 2) := dk_16 8 (dk_at dksX4_roadRead_2 11 rfl rfl)
theorem dX4_roadRead_60 : decode cX4_roadRead 60 = .ok (.iload_n 1, 1) := dk_27 (dk_at dksX4_roadRead_2 13 rfl rfl)
theorem dX4_roadRead_61 : decode cX4_roadRead 61 = .ok (.imul, 1) := dk_104 (dk_at dksX4_roadRead_2 14 rfl rfl)
theorem dX4_roadRead_62 : decode cX4_roadRead 62 = .ok (.aload_n 0, 1) := dk_42 (dk_at dksX4_roadRead_2 15 rfl rfl)
theorem dX4_roadRead_63 : decode cX4_roadRead 63 = .ok (.getfield 164, 3) := dk_180 0 164 (dk_at dksX4_roadRead_2 16 rfl rfl)
theorem dX4_roadRead_66 : decode cX4_roadRead 66 = .ok (.iadd, 1) := dk_96 (dk_at dksX4_roadRead_2 19 rfl rfl)
theorem dX4_roadRead_67 : decode cX4_roadRead 67 = .ok (.iaload, 1) := dk_46 (dk_at dksX4_roadRead_2 20 rfl rfl)
theorem dX4_roadRead_68 : decode cX4_roadRead 68 = .ok (.ifCond .lt 9, 3) := dk_155 0 9 (dk_at dksX4_roadRead_2 21 rfl rfl)
theorem dX4_roadRead_71 : decode cX4_roadRead 71 = .ok (.aload_n 0, 1) := dk_42 (dk_at dksX4_roadRead_3 0 rfl rfl)
theorem dX4_roadRead_72 : decode cX4_roadRead 72 = .ok (.iconst 4, 1) := dk_7 (dk_at dksX4_roadRead_3 1 rfl rfl)
theorem dX4_roadRead_73 : decode cX4_roadRead 73 = .ok (.invokevirtual 194, 3) := dk_182 0 194 (dk_at dksX4_roadRead_3 2 rfl rfl)
theorem dX4_roadRead_76 : decode cX4_roadRead 76 = .ok (.pop, 1) := dk_87 (dk_at dksX4_roadRead_3 5 rfl rfl)
theorem dX4_roadRead_77 : decode cX4_roadRead 77 = .ok (.aload_n 0, 1) := dk_42 (dk_at dksX4_roadRead_3 6 rfl rfl)
theorem dX4_roadRead_78 : decode cX4_roadRead 78 = .ok (.iconst 0, 1) := dk_3 (dk_at dksX4_roadRead_3 7 rfl rfl)
theorem dX4_roadRead_79 : decode cX4_roadRead 79 = .ok (.aload_n 0, 1) := dk_42 (dk_at dksX4_roadRead_3 8 rfl rfl)
theorem dX4_roadRead_80 : decode cX4_roadRead 80 = .ok (.getfield 96, 3) := dk_180 0 96 (dk_at dksX4_roadRead_3 9 rfl rfl)
theorem dX4_roadRead_83 : decode cX4_roadRead 83 = .ok (.iconst 1, 1) := dk_4 (dk_at dksX4_roadRead_3 12 rfl rfl)
theorem dX4_roadRead_84 : decode cX4_roadRead 84 = .ok (.isub, 1) := dk_100 (dk_at dksX4_roadRead_3 13 rfl rfl)
theorem dX4_roadRead_85 : decode cX4_roadRead 85 = .ok (.invokevirtual 215, 3) := dk_182 0 215 (dk_at dksX4_roadRead_3 14 rfl rfl)
theorem dX4_roadRead_88 : decode cX4_roadRead 88 = .ok (.istore_n 2, 1) := dk_61 (dk_at dksX4_roadRead_3 17 rfl rfl)
theorem dX4_roadRead_89 : decode cX4_roadRead 89 = .ok (.aload_n 0, 1) := dk_42 (dk_at dksX4_roadRead_3 18 rfl rfl)
theorem dX4_roadRead_90 : decode cX4_roadRead 90 = .ok (.iconst 1, 1) := dk_4 (dk_at dksX4_roadRead_3 19 rfl rfl)
theorem dX4_roadRead_91 : decode cX4_roadRead 91 = .ok (.bipush 99, 2) := dk_16 99 (dk_at dksX4_roadRead_3 20 rfl rfl)
theorem dX4_roadRead_93 : decode cX4_roadRead 93 = .ok (.invokevirtual 215, 3) := dk_182 0 215 (dk_at dksX4_roadRead_4 0 rfl rfl)
theorem dX4_roadRead_96 : decode cX4_roadRead 96 = .ok (.istore_n 3, 1) := dk_62 (dk_at dksX4_roadRead_4 3 rfl rfl)
theorem dX4_roadRead_97 : decode cX4_roadRead 97 = .ok (.aload_n 0, 1) := dk_42 (dk_at dksX4_roadRead_4 4 rfl rfl)
theorem dX4_roadRead_98 : decode cX4_roadRead 98 = .ok (.invokevirtual 183, 3) := dk_182 0 183 (dk_at dksX4_roadRead_4 5 rfl rfl)
theorem dX4_roadRead_101 : decode cX4_roadRead 101 = .ok (.ifCond .ne 4, 3) := dk_154 0 4 (dk_at dksX4_roadRead_4 8 rfl rfl)
theorem dX4_roadRead_104 : decode cX4_roadRead 104 = .ok (.return_, 1) := dk_177 (dk_at dksX4_roadRead_4 11 rfl rfl)
theorem dX4_roadRead_105 : decode cX4_roadRead 105 = .ok (.aload_n 0, 1) := dk_42 (dk_at dksX4_roadRead_4 12 rfl rfl)
theorem dX4_roadRead_106 : decode cX4_roadRead 106 = .ok (.getfield 22, 3) := dk_180 0 22 (dk_at dksX4_roadRead_4 13 rfl rfl)
theorem dX4_roadRead_109 : decode cX4_roadRead 109 = .ok (.bipush 8, 2) := dk_16 8 (dk_at dksX4_roadRead_4 16 rfl rfl)
theorem dX4_roadRead_111 : decode cX4_roadRead 111 = .ok (.iload_n 1, 1) := dk_27 (dk_at dksX4_roadRead_4 18 rfl rfl)
theorem dX4_roadRead_112 : decode cX4_roadRead 112 = .ok (.imul, 1) := dk_104 (dk_at dksX4_roadRead_4 19 rfl rfl)
theorem dX4_roadRead_113 : decode cX4_roadRead 113 = .ok (.iload_n 2, 1) := dk_28 (dk_at dksX4_roadRead_4 20 rfl rfl)
theorem dX4_roadRead_114 : decode cX4_roadRead 114 = .ok (.iadd, 1) := dk_96 (dk_at dksX4_roadRead_4 21 rfl rfl)
theorem dX4_roadRead_115 : decode cX4_roadRead 115 = .ok (.iload_n 3, 1) := dk_29 (dk_at dksX4_roadRead_4 22 rfl rfl)
theorem dX4_roadRead_116 : decode cX4_roadRead 116 = .ok (.iastore, 1) := dk_79 (dk_at dksX4_roadRead_4 23 rfl rfl)
theorem dX4_roadRead_117 : decode cX4_roadRead 117 = .ok (.aload_n 0, 1) := dk_42 (dk_at dksX4_roadRead_5 0 rfl rfl)
theorem dX4_roadRead_118 : decode cX4_roadRead 118 = .ok (.getfield 22, 3) := dk_180 0 22 (dk_at dksX4_roadRead_5 1 rfl rfl)
theorem dX4_roadRead_121 : decode cX4_roadRead 121 = .ok (.bipush 8, 2) := dk_16 8 (dk_at dksX4_roadRead_5 4 rfl rfl)
theorem dX4_roadRead_123 : decode cX4_roadRead 123 = .ok (.iload_n 2, 1) := dk_28 (dk_at dksX4_roadRead_5 6 rfl rfl)
theorem dX4_roadRead_124 : decode cX4_roadRead 124 = .ok (.imul, 1) := dk_104 (dk_at dksX4_roadRead_5 7 rfl rfl)
theorem dX4_roadRead_125 : decode cX4_roadRead 125 = .ok (.iload_n 1, 1) := dk_27 (dk_at dksX4_roadRead_5 8 rfl rfl)
theorem dX4_roadRead_126 : decode cX4_roadRead 126 = .ok (.iadd, 1) := dk_96 (dk_at dksX4_roadRead_5 9 rfl rfl)
theorem dX4_roadRead_127 : decode cX4_roadRead 127 = .ok (.iload_n 3, 1) := dk_29 (dk_at dksX4_roadRead_5 10 rfl rfl)
theorem dX4_roadRead_128 : decode cX4_roadRead 128 = .ok (.iastore, 1) := dk_79 (dk_at dksX4_roadRead_5 11 rfl rfl)
theorem dX4_roadRead_129 : decode cX4_roadRead 129 = .ok (.aload_n 0, 1) := dk_42 (dk_at dksX4_roadRead_5 12 rfl rfl)
theorem dX4_roadRead_130 : decode cX4_roadRead 130 = .ok (.dup, 1) := dk_89 (dk_at dksX4_roadRead_5 13 rfl rfl)
theorem dX4_roadRead_131 : decode cX4_roadRead 131 = .ok (.getfield 99, 3) := dk_180 0 99 (dk_at dksX4_roadRead_5 14 rfl rfl)
theorem dX4_roadRead_134 : decode cX4_roadRead 134 = .ok (.iconst 1, 1) := dk_4 (dk_at dksX4_roadRead_5 17 rfl rfl)
theorem dX4_roadRead_135 : decode cX4_roadRead 135 = .ok (.iadd, 1) := dk_96 (dk_at dksX4_roadRead_5 18 rfl rfl)
theorem dX4_roadRead_136 : decode cX4_roadRead 136 = .ok (.putfield 99, 3) := dk_181 0 99 (dk_at dksX4_roadRead_5 19 rfl rfl)
theorem dX4_roadRead_139 : decode cX4_roadRead 139 = .ok (.return_, 1) := dk_177 (dk_at dksX4_roadRead_5 22 rfl rfl)
abbrev cX4_taxiRead : ByteArray := prog_25_method_37_code
def yX4_taxiRead : MethodName := ⟨RX4, "taxiRead", "()V"⟩
def dkwX4_taxiRead_7 : List UInt8 := [89, 180, 0, 102, 4, 96, 181, 0, 102, 177]
abbrev dktX4_taxiRead_7 : List UInt8 := dkwX4_taxiRead_7 ++ []
def dkwX4_taxiRead_6 : List UInt8 := [29, 79, 42, 180, 0, 13, 21, 5, 6, 96, 2, 79, 42, 180, 0, 13, 21, 5, 7, 96, 21, 4, 79, 42]
abbrev dktX4_taxiRead_6 : List UInt8 := dkwX4_taxiRead_6 ++ dktX4_taxiRead_7
def dkwX4_taxiRead_5 : List UInt8 := [42, 180, 0, 102, 29, 79, 42, 180, 0, 13, 21, 5, 3, 96, 28, 79, 42, 180, 0, 13, 21, 5, 4, 96]
abbrev dktX4_taxiRead_5 : List UInt8 := dkwX4_taxiRead_5 ++ dktX4_taxiRead_6
def dkwX4_taxiRead_4 : List UInt8 := [16, 40, 42, 180, 0, 102, 104, 96, 54, 5, 42, 180, 0, 25, 42, 180, 0, 102, 27, 79, 42, 180, 0, 28]
abbrev dktX4_taxiRead_4 : List UInt8 := dkwX4_taxiRead_4 ++ dktX4_taxiRead_5
def dkwX4_taxiRead_3 : List UInt8 := [182, 0, 194, 87, 42, 3, 17, 11, 63, 182, 0, 215, 54, 4, 42, 182, 0, 183, 154, 0, 4, 177, 16, 13]
abbrev dktX4_taxiRead_3 : List UInt8 := dkwX4_taxiRead_3 ++ dktX4_taxiRead_4
def dkwX4_taxiRead_2 : List UInt8 := [180, 0, 164, 133, 9, 20, 0, 219, 184, 0, 197, 153, 0, 17, 42, 180, 0, 164, 29, 163, 0, 9, 42, 7]
abbrev dktX4_taxiRead_2 : List UInt8 := dkwX4_taxiRead_2 ++ dktX4_taxiRead_3
def dkwX4_taxiRead_1 : List UInt8 := [17, 11, 63, 182, 0, 215, 62, 42, 182, 0, 183, 153, 0, 40, 42, 180, 0, 161, 5, 160, 0, 32, 42]
abbrev dktX4_taxiRead_1 : List UInt8 := dkwX4_taxiRead_1 ++ dktX4_taxiRead_2
def dkwX4_taxiRead_0 : List UInt8 := [42, 4, 16, 6, 182, 0, 215, 60, 42, 3, 42, 180, 0, 96, 4, 100, 182, 0, 215, 61, 42, 3]
abbrev dktX4_taxiRead_0 : List UInt8 := dkwX4_taxiRead_0 ++ dktX4_taxiRead_1
theorem dksX4_taxiRead_0 : cX4_taxiRead.data.toList.drop 0 = dktX4_taxiRead_0 := by decide +kernel
theorem dksX4_taxiRead_1 : cX4_taxiRead.data.toList.drop 22 = dktX4_taxiRead_1 := dk_seg dksX4_taxiRead_0 22 rfl rfl
theorem dksX4_taxiRead_2 : cX4_taxiRead.data.toList.drop 45 = dktX4_taxiRead_2 := dk_seg dksX4_taxiRead_1 23 rfl rfl
theorem dksX4_taxiRead_3 : cX4_taxiRead.data.toList.drop 69 = dktX4_taxiRead_3 := dk_seg dksX4_taxiRead_2 24 rfl rfl
theorem dksX4_taxiRead_4 : cX4_taxiRead.data.toList.drop 93 = dktX4_taxiRead_4 := dk_seg dksX4_taxiRead_3 24 rfl rfl
theorem dksX4_taxiRead_5 : cX4_taxiRead.data.toList.drop 117 = dktX4_taxiRead_5 := dk_seg dksX4_taxiRead_4 24 rfl rfl
theorem dksX4_taxiRead_6 : cX4_taxiRead.data.toList.drop 141 = dktX4_taxiRead_6 := dk_seg dksX4_taxiRead_5 24 rfl rfl
theorem dksX4_taxiRead_7 : cX4_taxiRead.data.toList.drop 165 = dktX4_taxiRead_7 := dk_seg dksX4_taxiRead_6 24 rfl rfl
theorem dX4_taxiRead_0 : decode cX4_taxiRead 0 = .ok (.aload_n 0, 1) := dk_42 (dk_at dksX4_taxiRead_0 0 rfl rfl)
theorem dX4_taxiRead_1 : decode cX4_taxiRead 1 = .ok (.iconst 1, 1) := dk_4 (dk_at dksX4_taxiRead_0 1 rfl rfl)
theorem dX4_taxiRead_2 : decode cX4_taxiRead 2 = .ok (.bipush 6, 2) := dk_16 6 (dk_at dksX4_taxiRead_0 2 rfl rfl)
theorem dX4_taxiRead_4 : decode cX4_taxiRead 4 = .ok (.invokevirtual 215, 3) := dk_182 0 215 (dk_at dksX4_taxiRead_0 4 rfl rfl)
theorem dX4_taxiRead_7 : decode cX4_taxiRead 7 = .ok (.istore_n 1, 1) := dk_60 (dk_at dksX4_taxiRead_0 7 rfl rfl)
theorem dX4_taxiRead_8 : decode cX4_taxiRead 8 = .ok (.aload_n 0, 1) := dk_42 (dk_at dksX4_taxiRead_0 8 rfl rfl)
theorem dX4_taxiRead_9 : decode cX4_taxiRead 9 = .ok (.iconst 0, 1) := dk_3 (dk_at dksX4_taxiRead_0 9 rfl rfl)
theorem dX4_taxiRead_10 : decode cX4_taxiRead 10 = .ok (.aload_n 0, 1) := dk_42 (dk_at dksX4_taxiRead_0 10 rfl rfl)
theorem dX4_taxiRead_11 : decode cX4_taxiRead 11 = .ok (.getfield 96, 3) := dk_180 0 96 (dk_at dksX4_taxiRead_0 11 rfl rfl)
theorem dX4_taxiRead_14 : decode cX4_taxiRead 14 = .ok (.iconst 1, 1) := dk_4 (dk_at dksX4_taxiRead_0 14 rfl rfl)
theorem dX4_taxiRead_15 : decode cX4_taxiRead 15 = .ok (.isub, 1) := dk_100 (dk_at dksX4_taxiRead_0 15 rfl rfl)
theorem dX4_taxiRead_16 : decode cX4_taxiRead 16 = .ok (.invokevirtual 215, 3) := dk_182 0 215 (dk_at dksX4_taxiRead_0 16 rfl rfl)
theorem dX4_taxiRead_19 : decode cX4_taxiRead 19 = .ok (.istore_n 2, 1) := dk_61 (dk_at dksX4_taxiRead_0 19 rfl rfl)
theorem dX4_taxiRead_20 : decode cX4_taxiRead 20 = .ok (.aload_n 0, 1) := dk_42 (dk_at dksX4_taxiRead_0 20 rfl rfl)
theorem dX4_taxiRead_21 : decode cX4_taxiRead 21 = .ok (.iconst 0, 1) := dk_3 (dk_at dksX4_taxiRead_0 21 rfl rfl)
theorem dX4_taxiRead_22 : decode cX4_taxiRead 22 = .ok (.sipush 2879, 3) := dk_17 11 63 (dk_at dksX4_taxiRead_1 0 rfl rfl)
theorem dX4_taxiRead_25 : decode cX4_taxiRead 25 = .ok (.invokevirtual 215, 3) := dk_182 0 215 (dk_at dksX4_taxiRead_1 3 rfl rfl)
theorem dX4_taxiRead_28 : decode cX4_taxiRead 28 = .ok (.istore_n 3, 1) := dk_62 (dk_at dksX4_taxiRead_1 6 rfl rfl)
theorem dX4_taxiRead_29 : decode cX4_taxiRead 29 = .ok (.aload_n 0, 1) := dk_42 (dk_at dksX4_taxiRead_1 7 rfl rfl)
theorem dX4_taxiRead_30 : decode cX4_taxiRead 30 = .ok (.invokevirtual 183, 3) := dk_182 0 183 (dk_at dksX4_taxiRead_1 8 rfl rfl)
theorem dX4_taxiRead_33 : decode cX4_taxiRead 33 = .ok (.ifCond .eq 40, 3) := dk_153 0 40 (dk_at dksX4_taxiRead_1 11 rfl rfl)
theorem dX4_taxiRead_36 : decode cX4_taxiRead 36 = .ok (.aload_n 0, 1) := dk_42 (dk_at dksX4_taxiRead_1 14 rfl rfl)
theorem dX4_taxiRead_37 : decode cX4_taxiRead 37 = .ok (.getfield 161, 3) := dk_180 0 161 (dk_at dksX4_taxiRead_1 15 rfl rfl)
theorem dX4_taxiRead_40 : decode cX4_taxiRead 40 = .ok (.iconst 2, 1) := dk_5 (dk_at dksX4_taxiRead_1 18 rfl rfl)
theorem dX4_taxiRead_41 : decode cX4_taxiRead 41 = .ok (.if_icmp .ne 32, 3) := dk_160 0 32 (dk_at dksX4_taxiRead_1 19 rfl rfl)
theorem dX4_taxiRead_44 : decode cX4_taxiRead 44 = .ok (.aload_n 0, 1) := dk_42 (dk_at dksX4_taxiRead_1 22 rfl rfl)
theorem dX4_taxiRead_45 : decode cX4_taxiRead 45 = .ok (.getfield 164, 3) := dk_180 0 164 (dk_at dksX4_taxiRead_2 0 rfl rfl)
theorem dX4_taxiRead_48 : decode cX4_taxiRead 48 = .ok (.i2l, 1) := dk_133 (dk_at dksX4_taxiRead_2 3 rfl rfl)
theorem dX4_taxiRead_49 : decode cX4_taxiRead 49 = .ok (.lconst 0, 1) := dk_9 (dk_at dksX4_taxiRead_2 4 rfl rfl)
theorem dX4_taxiRead_50 : decode cX4_taxiRead 50 = .ok (.ldc2_w 219, 3) := dk_20 0 219 (dk_at dksX4_taxiRead_2 5 rfl rfl)
theorem dX4_taxiRead_53 : decode cX4_taxiRead 53 = .ok (.invokestatic 197, 3) := dk_184 0 197 (dk_at dksX4_taxiRead_2 8 rfl rfl)
theorem dX4_taxiRead_56 : decode cX4_taxiRead 56 = .ok (.ifCond .eq 17, 3) := dk_153 0 17 (dk_at dksX4_taxiRead_2 11 rfl rfl)
theorem dX4_taxiRead_59 : decode cX4_taxiRead 59 = .ok (.aload_n 0, 1) := dk_42 (dk_at dksX4_taxiRead_2 14 rfl rfl)
theorem dX4_taxiRead_60 : decode cX4_taxiRead 60 = .ok (.getfield 164, 3) := dk_180 0 164 (dk_at dksX4_taxiRead_2 15 rfl rfl)
theorem dX4_taxiRead_63 : decode cX4_taxiRead 63 = .ok (.iload_n 3, 1) := dk_29 (dk_at dksX4_taxiRead_2 18 rfl rfl)
theorem dX4_taxiRead_64 : decode cX4_taxiRead 64 = .ok (.if_icmp .gt 9, 3) := dk_163 0 9 (dk_at dksX4_taxiRead_2 19 rfl rfl)
theorem dX4_taxiRead_67 : decode cX4_taxiRead 67 = .ok (.aload_n 0, 1) := dk_42 (dk_at dksX4_taxiRead_2 22 rfl rfl)
theorem dX4_taxiRead_68 : decode cX4_taxiRead 68 = .ok (.iconst 4, 1) := dk_7 (dk_at dksX4_taxiRead_2 23 rfl rfl)
theorem dX4_taxiRead_69 : decode cX4_taxiRead 69 = .ok (.invokevirtual 194, 3) := dk_182 0 194 (dk_at dksX4_taxiRead_3 0 rfl rfl)
theorem dX4_taxiRead_72 : decode cX4_taxiRead 72 = .ok (.pop, 1) := dk_87 (dk_at dksX4_taxiRead_3 3 rfl rfl)
theorem dX4_taxiRead_73 : decode cX4_taxiRead 73 = .ok (.aload_n 0, 1) := dk_42 (dk_at dksX4_taxiRead_3 4 rfl rfl)
theorem dX4_taxiRead_74 : decode cX4_taxiRead 74 = .ok (.iconst 0, 1) := dk_3 (dk_at dksX4_taxiRead_3 5 rfl rfl)
theorem dX4_taxiRead_75 : decode cX4_taxiRead 75 = .ok (.sipush 2879, 3) := dk_17 11 63 (dk_at dksX4_taxiRead_3 6 rfl rfl)
theorem dX4_taxiRead_78 : decode cX4_taxiRead 78 = .ok (.invokevirtual 215, 3) := dk_182 0 215 (dk_at dksX4_taxiRead_3 9 rfl rfl)
theorem dX4_taxiRead_81 : decode cX4_taxiRead 81 = .ok (.istore 4, 2) := dk_54 4 (dk_at dksX4_taxiRead_3 12 rfl rfl)
theorem dX4_taxiRead_83 : decode cX4_taxiRead 83 = .ok (.aload_n 0, 1) := dk_42 (dk_at dksX4_taxiRead_3 14 rfl rfl)
theorem dX4_taxiRead_84 : decode cX4_taxiRead 84 = .ok (.invokevirtual 183, 3) := dk_182 0 183 (dk_at dksX4_taxiRead_3 15 rfl rfl)
theorem dX4_taxiRead_87 : decode cX4_taxiRead 87 = .ok (.ifCond .ne 4, 3) := dk_154 0 4 (dk_at dksX4_taxiRead_3 18 rfl rfl)
theorem dX4_taxiRead_90 : decode cX4_taxiRead 90 = .ok (.return_, 1) := dk_177 (dk_at dksX4_taxiRead_3 21 rfl rfl)
theorem dX4_taxiRead_91 : decode cX4_taxiRead 91 = .ok (.bipush 13, 2) := dk_16 13 (dk_at dksX4_taxiRead_3 22 rfl rfl)
theorem dX4_taxiRead_93 : decode cX4_taxiRead 93 = .ok (.bipush 40, 2) := dk_16 40 (dk_at dksX4_taxiRead_4 0 rfl rfl)
theorem dX4_taxiRead_95 : decode cX4_taxiRead 95 = .ok (.aload_n 0, 1) := dk_42 (dk_at dksX4_taxiRead_4 2 rfl rfl)
theorem dX4_taxiRead_96 : decode cX4_taxiRead 96 = .ok (.getfield 102, 3) := dk_180 0 102 (dk_at dksX4_taxiRead_4 3 rfl rfl)
theorem dX4_taxiRead_99 : decode cX4_taxiRead 99 = .ok (.imul, 1) := dk_104 (dk_at dksX4_taxiRead_4 6 rfl rfl)
theorem dX4_taxiRead_100 : decode cX4_taxiRead 100 = .ok (.iadd, 1) := dk_96 (dk_at dksX4_taxiRead_4 7 rfl rfl)
theorem dX4_taxiRead_101 : decode cX4_taxiRead 101 = .ok (.istore 5, 2) := dk_54 5 (dk_at dksX4_taxiRead_4 8 rfl rfl)
theorem dX4_taxiRead_103 : decode cX4_taxiRead 103 = .ok (.aload_n 0, 1) := dk_42 (dk_at dksX4_taxiRead_4 10 rfl rfl)
theorem dX4_taxiRead_104 : decode cX4_taxiRead 104 = .ok (.getfield 25, 3) := dk_180 0 25 (dk_at dksX4_taxiRead_4 11 rfl rfl)
theorem dX4_taxiRead_107 : decode cX4_taxiRead 107 = .ok (.aload_n 0, 1) := dk_42 (dk_at dksX4_taxiRead_4 14 rfl rfl)
theorem dX4_taxiRead_108 : decode cX4_taxiRead 108 = .ok (.getfield 102, 3) := dk_180 0 102 (dk_at dksX4_taxiRead_4 15 rfl rfl)
theorem dX4_taxiRead_111 : decode cX4_taxiRead 111 = .ok (.iload_n 1, 1) := dk_27 (dk_at dksX4_taxiRead_4 18 rfl rfl)
theorem dX4_taxiRead_112 : decode cX4_taxiRead 112 = .ok (.iastore, 1) := dk_79 (dk_at dksX4_taxiRead_4 19 rfl rfl)
theorem dX4_taxiRead_113 : decode cX4_taxiRead 113 = .ok (.aload_n 0, 1) := dk_42 (dk_at dksX4_taxiRead_4 20 rfl rfl)
theorem dX4_taxiRead_114 : decode cX4_taxiRead 114 = .ok (.getfield 28, 3) := dk_180 0 28 (dk_at dksX4_taxiRead_4 21 rfl rfl)
theorem dX4_taxiRead_117 : decode cX4_taxiRead 117 = .ok (.aload_n 0, 1) := dk_42 (dk_at dksX4_taxiRead_5 0 rfl rfl)
theorem dX4_taxiRead_118 : decode cX4_taxiRead 118 = .ok (.getfield 102, 3) := dk_180 0 102 (dk_at dksX4_taxiRead_5 1 rfl rfl)
theorem dX4_taxiRead_121 : decode cX4_taxiRead 121 = .ok (.iload_n 3, 1) := dk_29 (dk_at dksX4_taxiRead_5 4 rfl rfl)
theorem dX4_taxiRead_122 : decode cX4_taxiRead 122 = .ok (.iastore, 1) := dk_79 (dk_at dksX4_taxiRead_5 5 rfl rfl)
theorem dX4_taxiRead_123 : decode cX4_taxiRead 123 = .ok (.aload_n 0, 1) := dk_42 (dk_at dksX4_taxiRead_5 6 rfl rfl)
theorem dX4_taxiRead_124 : decode cX4_taxiRead 124 = .ok (.getfield 13, 3) := dk_180 0 13 (dk_at dksX4_taxiRead_5 7 rfl rfl)
theorem dX4_taxiRead_127 : decode cX4_taxiRead 127 = .ok (.iload 5, 2) := dk_21 5 (dk_at dksX4_taxiRead_5 10 rfl rfl)
theorem dX4_taxiRead_129 : decode cX4_taxiRead 129 = .ok (.iconst 0, 1) := dk_3 (dk_at dksX4_taxiRead_5 12 rfl rfl)
theorem dX4_taxiRead_130 : decode cX4_taxiRead 130 = .ok (.iadd, 1) := dk_96 (dk_at dksX4_taxiRead_5 13 rfl rfl)
theorem dX4_taxiRead_131 : decode cX4_taxiRead 131 = .ok (.iload_n 2, 1) := dk_28 (dk_at dksX4_taxiRead_5 14 rfl rfl)
theorem dX4_taxiRead_132 : decode cX4_taxiRead 132 = .ok (.iastore, 1) := dk_79 (dk_at dksX4_taxiRead_5 15 rfl rfl)
theorem dX4_taxiRead_133 : decode cX4_taxiRead 133 = .ok (.aload_n 0, 1) := dk_42 (dk_at dksX4_taxiRead_5 16 rfl rfl)
theorem dX4_taxiRead_134 : decode cX4_taxiRead 134 = .ok (.getfield 13, 3) := dk_180 0 13 (dk_at dksX4_taxiRead_5 17 rfl rfl)
theorem dX4_taxiRead_137 : decode cX4_taxiRead 137 = .ok (.iload 5, 2) := dk_21 5 (dk_at dksX4_taxiRead_5 20 rfl rfl)
theorem dX4_taxiRead_139 : decode cX4_taxiRead 139 = .ok (.iconst 1, 1) := dk_4 (dk_at dksX4_taxiRead_5 22 rfl rfl)
theorem dX4_taxiRead_140 : decode cX4_taxiRead 140 = .ok (.iadd, 1) := dk_96 (dk_at dksX4_taxiRead_5 23 rfl rfl)
theorem dX4_taxiRead_141 : decode cX4_taxiRead 141 = .ok (.iload_n 3, 1) := dk_29 (dk_at dksX4_taxiRead_6 0 rfl rfl)
theorem dX4_taxiRead_142 : decode cX4_taxiRead 142 = .ok (.iastore, 1) := dk_79 (dk_at dksX4_taxiRead_6 1 rfl rfl)
theorem dX4_taxiRead_143 : decode cX4_taxiRead 143 = .ok (.aload_n 0, 1) := dk_42 (dk_at dksX4_taxiRead_6 2 rfl rfl)
theorem dX4_taxiRead_144 : decode cX4_taxiRead 144 = .ok (.getfield 13, 3) := dk_180 0 13 (dk_at dksX4_taxiRead_6 3 rfl rfl)
theorem dX4_taxiRead_147 : decode cX4_taxiRead 147 = .ok (.iload 5, 2) := dk_21 5 (dk_at dksX4_taxiRead_6 6 rfl rfl)
theorem dX4_taxiRead_149 : decode cX4_taxiRead 149 = .ok (.iconst 3, 1) := dk_6 (dk_at dksX4_taxiRead_6 8 rfl rfl)
theorem dX4_taxiRead_150 : decode cX4_taxiRead 150 = .ok (.iadd, 1) := dk_96 (dk_at dksX4_taxiRead_6 9 rfl rfl)
theorem dX4_taxiRead_151 : decode cX4_taxiRead 151 = .ok (.iconst (-1), 1) := dk_2 (dk_at dksX4_taxiRead_6 10 rfl rfl)
theorem dX4_taxiRead_152 : decode cX4_taxiRead 152 = .ok (.iastore, 1) := dk_79 (dk_at dksX4_taxiRead_6 11 rfl rfl)
theorem dX4_taxiRead_153 : decode cX4_taxiRead 153 = .ok (.aload_n 0, 1) := dk_42 (dk_at dksX4_taxiRead_6 12 rfl rfl)
theorem dX4_taxiRead_154 : decode cX4_taxiRead 154 = .ok (.getfield 13, 3) := dk_180 0 13 (dk_at dksX4_taxiRead_6 13 rfl rfl)
theorem dX4_taxiRead_157 : decode cX4_taxiRead 157 = .ok (.iload 5, 2) := dk_21 5 (dk_at dksX4_taxiRead_6 16 rfl rfl)
theorem dX4_taxiRead_159 : decode cX4_taxiRead 159 = .ok (.iconst 4, 1) := dk_7 (dk_at dksX4_taxiRead_6 18 rfl rfl)
theorem dX4_taxiRead_160 : decode cX4_taxiRead 160 = .ok (.iadd, 1) := dk_96 (dk_at dksX4_taxiRead_6 19 rfl rfl)
theorem dX4_taxiRead_161 : decode cX4_taxiRead 161 = .ok (.iload 4, 2) := dk_21 4 (dk_at dksX4_taxiRead_6 20 rfl rfl)
theorem dX4_taxiRead_163 : decode cX4_taxiRead 163 = .ok (.iastore, 1) := dk_79 (dk_at dksX4_taxiRead_6 22 rfl rfl)
theorem dX4_taxiRead_164 : decode cX4_taxiRead 164 = .ok (.aload_n 0, 1) := dk_42 (dk_at dksX4_taxiRead_6 23 rfl rfl)
theorem dX4_taxiRead_165 : decode cX4_taxiRead 165 = .ok (.dup, 1) := dk_89 (dk_at dksX4_taxiRead_7 0 rfl rfl)
theorem dX4_taxiRead_166 : decode cX4_taxiRead 166 = .ok (.getfield 102, 3) := dk_180 0 102 (dk_at dksX4_taxiRead_7 1 rfl rfl)
theorem dX4_taxiRead_169 : decode cX4_taxiRead 169 = .ok (.iconst 1, 1) := dk_4 (dk_at dksX4_taxiRead_7 4 rfl rfl)
theorem dX4_taxiRead_170 : decode cX4_taxiRead 170 = .ok (.iadd, 1) := dk_96 (dk_at dksX4_taxiRead_7 5 rfl rfl)
theorem dX4_taxiRead_171 : decode cX4_taxiRead 171 = .ok (.putfield 102, 3) := dk_181 0 102 (dk_at dksX4_taxiRead_7 6 rfl rfl)
theorem dX4_taxiRead_174 : decode cX4_taxiRead 174 = .ok (.return_, 1) := dk_177 (dk_at dksX4_taxiRead_7 9 rfl rfl)
abbrev cX4_ruleRead : ByteArray := prog_25_method_38_code
def yX4_ruleRead : MethodName := ⟨RX4, "ruleRead", "()V"⟩
def dkwX4_ruleRead_2 : List UInt8 := [96, 28, 79, 177]
abbrev dktX4_ruleRead_2 : List UInt8 := dkwX4_ruleRead_2 ++ []
def dkwX4_ruleRead_1 : List UInt8 := [184, 0, 225, 27, 184, 0, 228, 182, 0, 215, 61, 42, 182, 0, 183, 153, 0, 12, 42, 180, 0, 13, 6, 27]
abbrev dktX4_ruleRead_1 : List UInt8 := dkwX4_ruleRead_1 ++ dktX4_ruleRead_2
def dkwX4_ruleRead_0 : List UInt8 := [42, 182, 0, 221, 60, 27, 2, 160, 0, 10, 42, 4, 182, 0, 194, 87, 177, 42, 182, 0, 180, 42, 27]
abbrev dktX4_ruleRead_0 : List UInt8 := dkwX4_ruleRead_0 ++ dktX4_ruleRead_1
theorem dksX4_ruleRead_0 : cX4_ruleRead.data.toList.drop 0 = dktX4_ruleRead_0 := by decide +kernel
theorem dksX4_ruleRead_1 : cX4_ruleRead.data.toList.drop 23 = dktX4_ruleRead_1 := dk_seg dksX4_ruleRead_0 23 rfl rfl
theorem dksX4_ruleRead_2 : cX4_ruleRead.data.toList.drop 47 = dktX4_ruleRead_2 := dk_seg dksX4_ruleRead_1 24 rfl rfl
theorem dX4_ruleRead_0 : decode cX4_ruleRead 0 = .ok (.aload_n 0, 1) := dk_42 (dk_at dksX4_ruleRead_0 0 rfl rfl)
theorem dX4_ruleRead_1 : decode cX4_ruleRead 1 = .ok (.invokevirtual 221, 3) := dk_182 0 221 (dk_at dksX4_ruleRead_0 1 rfl rfl)
theorem dX4_ruleRead_4 : decode cX4_ruleRead 4 = .ok (.istore_n 1, 1) := dk_60 (dk_at dksX4_ruleRead_0 4 rfl rfl)
theorem dX4_ruleRead_5 : decode cX4_ruleRead 5 = .ok (.iload_n 1, 1) := dk_27 (dk_at dksX4_ruleRead_0 5 rfl rfl)
theorem dX4_ruleRead_6 : decode cX4_ruleRead 6 = .ok (.iconst (-1), 1) := dk_2 (dk_at dksX4_ruleRead_0 6 rfl rfl)
theorem dX4_ruleRead_7 : decode cX4_ruleRead 7 = .ok (.if_icmp .ne 10, 3) := dk_160 0 10 (dk_at dksX4_ruleRead_0 7 rfl rfl)
theorem dX4_ruleRead_10 : decode cX4_ruleRead 10 = .ok (.aload_n 0, 1) := dk_42 (dk_at dksX4_ruleRead_0 10 rfl rfl)
theorem dX4_ruleRead_11 : decode cX4_ruleRead 11 = .ok (.iconst 1, 1) := dk_4 (dk_at dksX4_ruleRead_0 11 rfl rfl)
theorem dX4_ruleRead_12 : decode cX4_ruleRead 12 = .ok (.invokevirtual 194, 3) := dk_182 0 194 (dk_at dksX4_ruleRead_0 12 rfl rfl)
theorem dX4_ruleRead_15 : decode cX4_ruleRead 15 = .ok (.pop, 1) := dk_87 (dk_at dksX4_ruleRead_0 15 rfl rfl)
theorem dX4_ruleRead_16 : decode cX4_ruleRead 16 = .ok (.return_, 1) := dk_177 (dk_at dksX4_ruleRead_0 16 rfl rfl)
theorem dX4_ruleRead_17 : decode cX4_ruleRead 17 = .ok (.aload_n 0, 1) := dk_42 (dk_at dksX4_ruleRead_0 17 rfl rfl)
theorem dX4_ruleRead_18 : decode cX4_ruleRead 18 = .ok (.invokevirtual 180, 3) := dk_182 0 180 (dk_at dksX4_ruleRead_0 18 rfl rfl)
theorem dX4_ruleRead_21 : decode cX4_ruleRead 21 = .ok (.aload_n 0, 1) := dk_42 (dk_at dksX4_ruleRead_0 21 rfl rfl)
theorem dX4_ruleRead_22 : decode cX4_ruleRead 22 = .ok (.iload_n 1, 1) := dk_27 (dk_at dksX4_ruleRead_0 22 rfl rfl)
theorem dX4_ruleRead_23 : decode cX4_ruleRead 23 = .ok (.invokestatic 225, 3) := dk_184 0 225 (dk_at dksX4_ruleRead_1 0 rfl rfl)
theorem dX4_ruleRead_26 : decode cX4_ruleRead 26 = .ok (.iload_n 1, 1) := dk_27 (dk_at dksX4_ruleRead_1 3 rfl rfl)
theorem dX4_ruleRead_27 : decode cX4_ruleRead 27 = .ok (.invokestatic 228, 3) := dk_184 0 228 (dk_at dksX4_ruleRead_1 4 rfl rfl)
theorem dX4_ruleRead_30 : decode cX4_ruleRead 30 = .ok (.invokevirtual 215, 3) := dk_182 0 215 (dk_at dksX4_ruleRead_1 7 rfl rfl)
theorem dX4_ruleRead_33 : decode cX4_ruleRead 33 = .ok (.istore_n 2, 1) := dk_61 (dk_at dksX4_ruleRead_1 10 rfl rfl)
theorem dX4_ruleRead_34 : decode cX4_ruleRead 34 = .ok (.aload_n 0, 1) := dk_42 (dk_at dksX4_ruleRead_1 11 rfl rfl)
theorem dX4_ruleRead_35 : decode cX4_ruleRead 35 = .ok (.invokevirtual 183, 3) := dk_182 0 183 (dk_at dksX4_ruleRead_1 12 rfl rfl)
theorem dX4_ruleRead_38 : decode cX4_ruleRead 38 = .ok (.ifCond .eq 12, 3) := dk_153 0 12 (dk_at dksX4_ruleRead_1 15 rfl rfl)
theorem dX4_ruleRead_41 : decode cX4_ruleRead 41 = .ok (.aload_n 0, 1) := dk_42 (dk_at dksX4_ruleRead_1 18 rfl rfl)
theorem dX4_ruleRead_42 : decode cX4_ruleRead 42 = .ok (.getfield 13, 3) := dk_180 0 13 (dk_at dksX4_ruleRead_1 19 rfl rfl)
theorem dX4_ruleRead_45 : decode cX4_ruleRead 45 = .ok (.iconst 3, 1) := dk_6 (dk_at dksX4_ruleRead_1 22 rfl rfl)
theorem dX4_ruleRead_46 : decode cX4_ruleRead 46 = .ok (.iload_n 1, 1) := dk_27 (dk_at dksX4_ruleRead_1 23 rfl rfl)
theorem dX4_ruleRead_47 : decode cX4_ruleRead 47 = .ok (.iadd, 1) := dk_96 (dk_at dksX4_ruleRead_2 0 rfl rfl)
theorem dX4_ruleRead_48 : decode cX4_ruleRead 48 = .ok (.iload_n 2, 1) := dk_28 (dk_at dksX4_ruleRead_2 1 rfl rfl)
theorem dX4_ruleRead_49 : decode cX4_ruleRead 49 = .ok (.iastore, 1) := dk_79 (dk_at dksX4_ruleRead_2 2 rfl rfl)
theorem dX4_ruleRead_50 : decode cX4_ruleRead 50 = .ok (.return_, 1) := dk_177 (dk_at dksX4_ruleRead_2 3 rfl rfl)
abbrev cX4_ruleHere : ByteArray := prog_25_method_35_code
def yX4_ruleHere : MethodName := ⟨RX4, "ruleHere", "()I"⟩
def dkwX4_ruleHere_3 : List UInt8 := [42, 20, 0, 213, 182, 0, 187, 153, 0, 8, 16, 6, 167, 0, 4, 2, 172]
abbrev dktX4_ruleHere_3 : List UInt8 := dkwX4_ruleHere_3 ++ []
def dkwX4_ruleHere_2 : List UInt8 := [42, 20, 0, 209, 182, 0, 187, 153, 0, 5, 7, 172, 42, 20, 0, 211, 182, 0, 187, 153, 0, 5, 8, 172]
abbrev dktX4_ruleHere_2 : List UInt8 := dkwX4_ruleHere_2 ++ dktX4_ruleHere_3
def dkwX4_ruleHere_1 : List UInt8 := [42, 20, 0, 205, 182, 0, 187, 153, 0, 5, 5, 172, 42, 20, 0, 207, 182, 0, 187, 153, 0, 5, 6, 172]
abbrev dktX4_ruleHere_1 : List UInt8 := dkwX4_ruleHere_1 ++ dktX4_ruleHere_2
def dkwX4_ruleHere_0 : List UInt8 := [42, 20, 0, 201, 182, 0, 187, 153, 0, 5, 3, 172, 42, 20, 0, 203, 182, 0, 187, 153, 0, 5, 4, 172]
abbrev dktX4_ruleHere_0 : List UInt8 := dkwX4_ruleHere_0 ++ dktX4_ruleHere_1
theorem dksX4_ruleHere_0 : cX4_ruleHere.data.toList.drop 0 = dktX4_ruleHere_0 := by decide +kernel
theorem dksX4_ruleHere_1 : cX4_ruleHere.data.toList.drop 24 = dktX4_ruleHere_1 := dk_seg dksX4_ruleHere_0 24 rfl rfl
theorem dksX4_ruleHere_2 : cX4_ruleHere.data.toList.drop 48 = dktX4_ruleHere_2 := dk_seg dksX4_ruleHere_1 24 rfl rfl
theorem dksX4_ruleHere_3 : cX4_ruleHere.data.toList.drop 72 = dktX4_ruleHere_3 := dk_seg dksX4_ruleHere_2 24 rfl rfl
theorem dX4_ruleHere_0 : decode cX4_ruleHere 0 = .ok (.aload_n 0, 1) := dk_42 (dk_at dksX4_ruleHere_0 0 rfl rfl)
theorem dX4_ruleHere_1 : decode cX4_ruleHere 1 = .ok (.ldc2_w 201, 3) := dk_20 0 201 (dk_at dksX4_ruleHere_0 1 rfl rfl)
theorem dX4_ruleHere_4 : decode cX4_ruleHere 4 = .ok (.invokevirtual 187, 3) := dk_182 0 187 (dk_at dksX4_ruleHere_0 4 rfl rfl)
theorem dX4_ruleHere_7 : decode cX4_ruleHere 7 = .ok (.ifCond .eq 5, 3) := dk_153 0 5 (dk_at dksX4_ruleHere_0 7 rfl rfl)
theorem dX4_ruleHere_10 : decode cX4_ruleHere 10 = .ok (.iconst 0, 1) := dk_3 (dk_at dksX4_ruleHere_0 10 rfl rfl)
theorem dX4_ruleHere_11 : decode cX4_ruleHere 11 = .ok (.ireturn, 1) := dk_172 (dk_at dksX4_ruleHere_0 11 rfl rfl)
theorem dX4_ruleHere_12 : decode cX4_ruleHere 12 = .ok (.aload_n 0, 1) := dk_42 (dk_at dksX4_ruleHere_0 12 rfl rfl)
theorem dX4_ruleHere_13 : decode cX4_ruleHere 13 = .ok (.ldc2_w 203, 3) := dk_20 0 203 (dk_at dksX4_ruleHere_0 13 rfl rfl)
theorem dX4_ruleHere_16 : decode cX4_ruleHere 16 = .ok (.invokevirtual 187, 3) := dk_182 0 187 (dk_at dksX4_ruleHere_0 16 rfl rfl)
theorem dX4_ruleHere_19 : decode cX4_ruleHere 19 = .ok (.ifCond .eq 5, 3) := dk_153 0 5 (dk_at dksX4_ruleHere_0 19 rfl rfl)
theorem dX4_ruleHere_22 : decode cX4_ruleHere 22 = .ok (.iconst 1, 1) := dk_4 (dk_at dksX4_ruleHere_0 22 rfl rfl)
theorem dX4_ruleHere_23 : decode cX4_ruleHere 23 = .ok (.ireturn, 1) := dk_172 (dk_at dksX4_ruleHere_0 23 rfl rfl)
theorem dX4_ruleHere_24 : decode cX4_ruleHere 24 = .ok (.aload_n 0, 1) := dk_42 (dk_at dksX4_ruleHere_1 0 rfl rfl)
theorem dX4_ruleHere_25 : decode cX4_ruleHere 25 = .ok (.ldc2_w 205, 3) := dk_20 0 205 (dk_at dksX4_ruleHere_1 1 rfl rfl)
theorem dX4_ruleHere_28 : decode cX4_ruleHere 28 = .ok (.invokevirtual 187, 3) := dk_182 0 187 (dk_at dksX4_ruleHere_1 4 rfl rfl)
theorem dX4_ruleHere_31 : decode cX4_ruleHere 31 = .ok (.ifCond .eq 5, 3) := dk_153 0 5 (dk_at dksX4_ruleHere_1 7 rfl rfl)
theorem dX4_ruleHere_34 : decode cX4_ruleHere 34 = .ok (.iconst 2, 1) := dk_5 (dk_at dksX4_ruleHere_1 10 rfl rfl)
theorem dX4_ruleHere_35 : decode cX4_ruleHere 35 = .ok (.ireturn, 1) := dk_172 (dk_at dksX4_ruleHere_1 11 rfl rfl)
theorem dX4_ruleHere_36 : decode cX4_ruleHere 36 = .ok (.aload_n 0, 1) := dk_42 (dk_at dksX4_ruleHere_1 12 rfl rfl)
theorem dX4_ruleHere_37 : decode cX4_ruleHere 37 = .ok (.ldc2_w 207, 3) := dk_20 0 207 (dk_at dksX4_ruleHere_1 13 rfl rfl)
theorem dX4_ruleHere_40 : decode cX4_ruleHere 40 = .ok (.invokevirtual 187, 3) := dk_182 0 187 (dk_at dksX4_ruleHere_1 16 rfl rfl)
theorem dX4_ruleHere_43 : decode cX4_ruleHere 43 = .ok (.ifCond .eq 5, 3) := dk_153 0 5 (dk_at dksX4_ruleHere_1 19 rfl rfl)
theorem dX4_ruleHere_46 : decode cX4_ruleHere 46 = .ok (.iconst 3, 1) := dk_6 (dk_at dksX4_ruleHere_1 22 rfl rfl)
theorem dX4_ruleHere_47 : decode cX4_ruleHere 47 = .ok (.ireturn, 1) := dk_172 (dk_at dksX4_ruleHere_1 23 rfl rfl)
theorem dX4_ruleHere_48 : decode cX4_ruleHere 48 = .ok (.aload_n 0, 1) := dk_42 (dk_at dksX4_ruleHere_2 0 rfl rfl)
theorem dX4_ruleHere_49 : decode cX4_ruleHere 49 = .ok (.ldc2_w 209, 3) := dk_20 0 209 (dk_at dksX4_ruleHere_2 1 rfl rfl)
theorem dX4_ruleHere_52 : decode cX4_ruleHere 52 = .ok (.invokevirtual 187, 3) := dk_182 0 187 (dk_at dksX4_ruleHere_2 4 rfl rfl)
theorem dX4_ruleHere_55 : decode cX4_ruleHere 55 = .ok (.ifCond .eq 5, 3) := dk_153 0 5 (dk_at dksX4_ruleHere_2 7 rfl rfl)
theorem dX4_ruleHere_58 : decode cX4_ruleHere 58 = .ok (.iconst 4, 1) := dk_7 (dk_at dksX4_ruleHere_2 10 rfl rfl)
theorem dX4_ruleHere_59 : decode cX4_ruleHere 59 = .ok (.ireturn, 1) := dk_172 (dk_at dksX4_ruleHere_2 11 rfl rfl)
theorem dX4_ruleHere_60 : decode cX4_ruleHere 60 = .ok (.aload_n 0, 1) := dk_42 (dk_at dksX4_ruleHere_2 12 rfl rfl)
theorem dX4_ruleHere_61 : decode cX4_ruleHere 61 = .ok (.ldc2_w 211, 3) := dk_20 0 211 (dk_at dksX4_ruleHere_2 13 rfl rfl)
theorem dX4_ruleHere_64 : decode cX4_ruleHere 64 = .ok (.invokevirtual 187, 3) := dk_182 0 187 (dk_at dksX4_ruleHere_2 16 rfl rfl)
theorem dX4_ruleHere_67 : decode cX4_ruleHere 67 = .ok (.ifCond .eq 5, 3) := dk_153 0 5 (dk_at dksX4_ruleHere_2 19 rfl rfl)
theorem dX4_ruleHere_70 : decode cX4_ruleHere 70 = .ok (.iconst 5, 1) := dk_8 (dk_at dksX4_ruleHere_2 22 rfl rfl)
theorem dX4_ruleHere_71 : decode cX4_ruleHere 71 = .ok (.ireturn, 1) := dk_172 (dk_at dksX4_ruleHere_2 23 rfl rfl)
theorem dX4_ruleHere_72 : decode cX4_ruleHere 72 = .ok (.aload_n 0, 1) := dk_42 (dk_at dksX4_ruleHere_3 0 rfl rfl)
theorem dX4_ruleHere_73 : decode cX4_ruleHere 73 = .ok (.ldc2_w 213, 3) := dk_20 0 213 (dk_at dksX4_ruleHere_3 1 rfl rfl)
theorem dX4_ruleHere_76 : decode cX4_ruleHere 76 = .ok (.invokevirtual 187, 3) := dk_182 0 187 (dk_at dksX4_ruleHere_3 4 rfl rfl)
theorem dX4_ruleHere_79 : decode cX4_ruleHere 79 = .ok (.ifCond .eq 8, 3) := dk_153 0 8 (dk_at dksX4_ruleHere_3 7 rfl rfl)
theorem dX4_ruleHere_82 : decode cX4_ruleHere 82 = .ok (.bipush 6, 2) := dk_16 6 (dk_at dksX4_ruleHere_3 10 rfl rfl)
theorem dX4_ruleHere_84 : decode cX4_ruleHere 84 = .ok (.goto 4, 3) := dk_167 0 4 (dk_at dksX4_ruleHere_3 12 rfl rfl)
theorem dX4_ruleHere_87 : decode cX4_ruleHere 87 = .ok (.iconst (-1), 1) := dk_2 (dk_at dksX4_ruleHere_3 15 rfl rfl)
theorem dX4_ruleHere_88 : decode cX4_ruleHere 88 = .ok (.ireturn, 1) := dk_172 (dk_at dksX4_ruleHere_3 16 rfl rfl)
abbrev cX4_least : ByteArray := prog_25_method_16_code
def yX4_least : MethodName := ⟨RX4, "least", "(I)I"⟩
def dkwX4_least_0 : List UInt8 := [26, 8, 159, 0, 9, 26, 16, 6, 160, 0, 7, 4, 167, 0, 4, 3, 172]
abbrev dktX4_least_0 : List UInt8 := dkwX4_least_0 ++ []
theorem dksX4_least_0 : cX4_least.data.toList.drop 0 = dktX4_least_0 := by decide +kernel
theorem dX4_least_0 : decode cX4_least 0 = .ok (.iload_n 0, 1) := dk_26 (dk_at dksX4_least_0 0 rfl rfl)
theorem dX4_least_1 : decode cX4_least 1 = .ok (.iconst 5, 1) := dk_8 (dk_at dksX4_least_0 1 rfl rfl)
theorem dX4_least_2 : decode cX4_least 2 = .ok (.if_icmp .eq 9, 3) := dk_159 0 9 (dk_at dksX4_least_0 2 rfl rfl)
theorem dX4_least_5 : decode cX4_least 5 = .ok (.iload_n 0, 1) := dk_26 (dk_at dksX4_least_0 5 rfl rfl)
theorem dX4_least_6 : decode cX4_least 6 = .ok (.bipush 6, 2) := dk_16 6 (dk_at dksX4_least_0 6 rfl rfl)
theorem dX4_least_8 : decode cX4_least 8 = .ok (.if_icmp .ne 7, 3) := dk_160 0 7 (dk_at dksX4_least_0 8 rfl rfl)
theorem dX4_least_11 : decode cX4_least 11 = .ok (.iconst 1, 1) := dk_4 (dk_at dksX4_least_0 11 rfl rfl)
theorem dX4_least_12 : decode cX4_least 12 = .ok (.goto 4, 3) := dk_167 0 4 (dk_at dksX4_least_0 12 rfl rfl)
theorem dX4_least_15 : decode cX4_least 15 = .ok (.iconst 0, 1) := dk_3 (dk_at dksX4_least_0 15 rfl rfl)
theorem dX4_least_16 : decode cX4_least 16 = .ok (.ireturn, 1) := dk_172 (dk_at dksX4_least_0 16 rfl rfl)
abbrev cX4_most : ByteArray := prog_25_method_17_code
def yX4_most : MethodName := ⟨RX4, "most", "(I)I"⟩
def dkwX4_most_3 : List UInt8 := [16, 90, 172]
abbrev dktX4_most_3 : List UInt8 := dkwX4_most_3 ++ []
def dkwX4_most_2 : List UInt8 := [16, 60, 172, 16, 9, 172, 16, 60, 172, 16, 30, 172, 17, 39, 15, 172, 17, 3, 231, 172, 16, 99, 172]
abbrev dktX4_most_2 : List UInt8 := dkwX4_most_2 ++ dktX4_most_3
def dkwX4_most_1 : List UInt8 := [170, 0, 0, 0, 0, 0, 66, 0, 0, 0, 0, 0, 0, 0, 6, 0, 0, 0, 43, 0, 0, 0, 46, 0, 0, 0, 49, 0, 0, 0, 52, 0, 0, 0, 55, 0, 0, 0, 59, 0, 0, 0, 63]
abbrev dktX4_most_1 : List UInt8 := dkwX4_most_1 ++ dktX4_most_2
def dkwX4_most_0 : List UInt8 := [26]
abbrev dktX4_most_0 : List UInt8 := dkwX4_most_0 ++ dktX4_most_1
theorem dksX4_most_0 : cX4_most.data.toList.drop 0 = dktX4_most_0 := by decide +kernel
theorem dksX4_most_1 : cX4_most.data.toList.drop 1 = dktX4_most_1 := dk_seg dksX4_most_0 1 rfl rfl
theorem dksX4_most_2 : cX4_most.data.toList.drop 44 = dktX4_most_2 := dk_seg dksX4_most_1 43 rfl rfl
theorem dksX4_most_3 : cX4_most.data.toList.drop 67 = dktX4_most_3 := dk_seg dksX4_most_2 23 rfl rfl
theorem dX4_most_0 : decode cX4_most 0 = .ok (.iload_n 0, 1) := dk_26 (dk_at dksX4_most_0 0 rfl rfl)
theorem dX4_most_1 : decode cX4_most 1 = .ok (.tableswitch 66 0 6 #[43, 46, 49, 52, 55, 59, 63], 43) := by decide +kernel
theorem dX4_most_44 : decode cX4_most 44 = .ok (.bipush 60, 2) := dk_16 60 (dk_at dksX4_most_2 0 rfl rfl)
theorem dX4_most_46 : decode cX4_most 46 = .ok (.ireturn, 1) := dk_172 (dk_at dksX4_most_2 2 rfl rfl)
theorem dX4_most_47 : decode cX4_most 47 = .ok (.bipush 9, 2) := dk_16 9 (dk_at dksX4_most_2 3 rfl rfl)
theorem dX4_most_49 : decode cX4_most 49 = .ok (.ireturn, 1) := dk_172 (dk_at dksX4_most_2 5 rfl rfl)
theorem dX4_most_50 : decode cX4_most 50 = .ok (.bipush 60, 2) := dk_16 60 (dk_at dksX4_most_2 6 rfl rfl)
theorem dX4_most_52 : decode cX4_most 52 = .ok (.ireturn, 1) := dk_172 (dk_at dksX4_most_2 8 rfl rfl)
theorem dX4_most_53 : decode cX4_most 53 = .ok (.bipush 30, 2) := dk_16 30 (dk_at dksX4_most_2 9 rfl rfl)
theorem dX4_most_55 : decode cX4_most 55 = .ok (.ireturn, 1) := dk_172 (dk_at dksX4_most_2 11 rfl rfl)
theorem dX4_most_56 : decode cX4_most 56 = .ok (.sipush 9999, 3) := dk_17 39 15 (dk_at dksX4_most_2 12 rfl rfl)
theorem dX4_most_59 : decode cX4_most 59 = .ok (.ireturn, 1) := dk_172 (dk_at dksX4_most_2 15 rfl rfl)
theorem dX4_most_60 : decode cX4_most 60 = .ok (.sipush 999, 3) := dk_17 3 231 (dk_at dksX4_most_2 16 rfl rfl)
theorem dX4_most_63 : decode cX4_most 63 = .ok (.ireturn, 1) := dk_172 (dk_at dksX4_most_2 19 rfl rfl)
theorem dX4_most_64 : decode cX4_most 64 = .ok (.bipush 99, 2) := dk_16 99 (dk_at dksX4_most_2 20 rfl rfl)
theorem dX4_most_66 : decode cX4_most 66 = .ok (.ireturn, 1) := dk_172 (dk_at dksX4_most_2 22 rfl rfl)
theorem dX4_most_67 : decode cX4_most 67 = .ok (.bipush 90, 2) := dk_16 90 (dk_at dksX4_most_3 0 rfl rfl)
theorem dX4_most_69 : decode cX4_most 69 = .ok (.ireturn, 1) := dk_172 (dk_at dksX4_most_3 2 rfl rfl)
abbrev cX4_size : ByteArray := prog_25_method_66_code
def yX4_size : MethodName := ⟨RX4, "size", "(I)I"⟩
def dkwX4_size_5 : List UInt8 := [42, 180, 0, 7, 5, 46, 172]
abbrev dktX4_size_5 : List UInt8 := dkwX4_size_5 ++ []
def dkwX4_size_4 : List UInt8 := [180, 0, 7, 3, 46, 172, 42, 3, 182, 1, 108, 172, 42, 16, 11, 182, 1, 111, 172, 42, 180, 0, 117, 172]
abbrev dktX4_size_4 : List UInt8 := dkwX4_size_4 ++ dktX4_size_5
def dkwX4_size_3 : List UInt8 := [42, 180, 0, 108, 172, 42, 180, 0, 111, 172, 42, 180, 0, 114, 172, 42, 180, 0, 7, 4, 46, 172, 42]
abbrev dktX4_size_3 : List UInt8 := dkwX4_size_3 ++ dktX4_size_4
def dkwX4_size_2 : List UInt8 := [170, 0, 0, 0, 0, 0, 94, 0, 0, 0, 0, 0, 0, 0, 7, 0, 0, 0, 47, 0, 0, 0, 52, 0, 0, 0, 57, 0, 0, 0, 62, 0, 0, 0, 69, 0, 0, 0, 76, 0, 0, 0, 82, 0, 0, 0, 89]
abbrev dktX4_size_2 : List UInt8 := dkwX4_size_2 ++ dktX4_size_3
def dkwX4_size_1 : List UInt8 := [27]
abbrev dktX4_size_1 : List UInt8 := dkwX4_size_1 ++ dktX4_size_2
def dkwX4_size_0 : List UInt8 := [42, 3, 181, 0, 93, 42, 27, 133, 9, 20, 1, 106, 184, 0, 197, 4, 182, 1, 0, 153, 0, 5, 3, 172]
abbrev dktX4_size_0 : List UInt8 := dkwX4_size_0 ++ dktX4_size_1
theorem dksX4_size_0 : cX4_size.data.toList.drop 0 = dktX4_size_0 := by decide +kernel
theorem dksX4_size_1 : cX4_size.data.toList.drop 24 = dktX4_size_1 := dk_seg dksX4_size_0 24 rfl rfl
theorem dksX4_size_2 : cX4_size.data.toList.drop 25 = dktX4_size_2 := dk_seg dksX4_size_1 1 rfl rfl
theorem dksX4_size_3 : cX4_size.data.toList.drop 72 = dktX4_size_3 := dk_seg dksX4_size_2 47 rfl rfl
theorem dksX4_size_4 : cX4_size.data.toList.drop 95 = dktX4_size_4 := dk_seg dksX4_size_3 23 rfl rfl
theorem dksX4_size_5 : cX4_size.data.toList.drop 119 = dktX4_size_5 := dk_seg dksX4_size_4 24 rfl rfl
theorem dX4_size_0 : decode cX4_size 0 = .ok (.aload_n 0, 1) := dk_42 (dk_at dksX4_size_0 0 rfl rfl)
theorem dX4_size_1 : decode cX4_size 1 = .ok (.iconst 0, 1) := dk_3 (dk_at dksX4_size_0 1 rfl rfl)
theorem dX4_size_2 : decode cX4_size 2 = .ok (.putfield 93, 3) := dk_181 0 93 (dk_at dksX4_size_0 2 rfl rfl)
theorem dX4_size_5 : decode cX4_size 5 = .ok (.aload_n 0, 1) := dk_42 (dk_at dksX4_size_0 5 rfl rfl)
theorem dX4_size_6 : decode cX4_size 6 = .ok (.iload_n 1, 1) := dk_27 (dk_at dksX4_size_0 6 rfl rfl)
theorem dX4_size_7 : decode cX4_size 7 = .ok (.i2l, 1) := dk_133 (dk_at dksX4_size_0 7 rfl rfl)
theorem dX4_size_8 : decode cX4_size 8 = .ok (.lconst 0, 1) := dk_9 (dk_at dksX4_size_0 8 rfl rfl)
theorem dX4_size_9 : decode cX4_size 9 = .ok (.ldc2_w 362, 3) := dk_20 1 106 (dk_at dksX4_size_0 9 rfl rfl)
theorem dX4_size_12 : decode cX4_size 12 = .ok (.invokestatic 197, 3) := dk_184 0 197 (dk_at dksX4_size_0 12 rfl rfl)
theorem dX4_size_15 : decode cX4_size 15 = .ok (.iconst 1, 1) := dk_4 (dk_at dksX4_size_0 15 rfl rfl)
theorem dX4_size_16 : decode cX4_size 16 = .ok (.invokevirtual 256, 3) := dk_182 1 0 (dk_at dksX4_size_0 16 rfl rfl)
theorem dX4_size_19 : decode cX4_size 19 = .ok (.ifCond .eq 5, 3) := dk_153 0 5 (dk_at dksX4_size_0 19 rfl rfl)
theorem dX4_size_22 : decode cX4_size 22 = .ok (.iconst 0, 1) := dk_3 (dk_at dksX4_size_0 22 rfl rfl)
theorem dX4_size_23 : decode cX4_size 23 = .ok (.ireturn, 1) := dk_172 (dk_at dksX4_size_0 23 rfl rfl)
theorem dX4_size_24 : decode cX4_size 24 = .ok (.iload_n 1, 1) := dk_27 (dk_at dksX4_size_1 0 rfl rfl)
theorem dX4_size_25 : decode cX4_size 25 = .ok (.tableswitch 94 0 7 #[47, 52, 57, 62, 69, 76, 82, 89], 47) := by decide +kernel
theorem dX4_size_72 : decode cX4_size 72 = .ok (.aload_n 0, 1) := dk_42 (dk_at dksX4_size_3 0 rfl rfl)
theorem dX4_size_73 : decode cX4_size 73 = .ok (.getfield 108, 3) := dk_180 0 108 (dk_at dksX4_size_3 1 rfl rfl)
theorem dX4_size_76 : decode cX4_size 76 = .ok (.ireturn, 1) := dk_172 (dk_at dksX4_size_3 4 rfl rfl)
theorem dX4_size_77 : decode cX4_size 77 = .ok (.aload_n 0, 1) := dk_42 (dk_at dksX4_size_3 5 rfl rfl)
theorem dX4_size_78 : decode cX4_size 78 = .ok (.getfield 111, 3) := dk_180 0 111 (dk_at dksX4_size_3 6 rfl rfl)
theorem dX4_size_81 : decode cX4_size 81 = .ok (.ireturn, 1) := dk_172 (dk_at dksX4_size_3 9 rfl rfl)
theorem dX4_size_82 : decode cX4_size 82 = .ok (.aload_n 0, 1) := dk_42 (dk_at dksX4_size_3 10 rfl rfl)
theorem dX4_size_83 : decode cX4_size 83 = .ok (.getfield 114, 3) := dk_180 0 114 (dk_at dksX4_size_3 11 rfl rfl)
theorem dX4_size_86 : decode cX4_size 86 = .ok (.ireturn, 1) := dk_172 (dk_at dksX4_size_3 14 rfl rfl)
theorem dX4_size_87 : decode cX4_size 87 = .ok (.aload_n 0, 1) := dk_42 (dk_at dksX4_size_3 15 rfl rfl)
theorem dX4_size_88 : decode cX4_size 88 = .ok (.getfield 7, 3) := dk_180 0 7 (dk_at dksX4_size_3 16 rfl rfl)
theorem dX4_size_91 : decode cX4_size 91 = .ok (.iconst 1, 1) := dk_4 (dk_at dksX4_size_3 19 rfl rfl)
theorem dX4_size_92 : decode cX4_size 92 = .ok (.iaload, 1) := dk_46 (dk_at dksX4_size_3 20 rfl rfl)
theorem dX4_size_93 : decode cX4_size 93 = .ok (.ireturn, 1) := dk_172 (dk_at dksX4_size_3 21 rfl rfl)
theorem dX4_size_94 : decode cX4_size 94 = .ok (.aload_n 0, 1) := dk_42 (dk_at dksX4_size_3 22 rfl rfl)
theorem dX4_size_95 : decode cX4_size 95 = .ok (.getfield 7, 3) := dk_180 0 7 (dk_at dksX4_size_4 0 rfl rfl)
theorem dX4_size_98 : decode cX4_size 98 = .ok (.iconst 0, 1) := dk_3 (dk_at dksX4_size_4 3 rfl rfl)
theorem dX4_size_99 : decode cX4_size 99 = .ok (.iaload, 1) := dk_46 (dk_at dksX4_size_4 4 rfl rfl)
theorem dX4_size_100 : decode cX4_size 100 = .ok (.ireturn, 1) := dk_172 (dk_at dksX4_size_4 5 rfl rfl)
theorem dX4_size_101 : decode cX4_size 101 = .ok (.aload_n 0, 1) := dk_42 (dk_at dksX4_size_4 6 rfl rfl)
theorem dX4_size_102 : decode cX4_size 102 = .ok (.iconst 0, 1) := dk_3 (dk_at dksX4_size_4 7 rfl rfl)
theorem dX4_size_103 : decode cX4_size 103 = .ok (.invokevirtual 364, 3) := dk_182 1 108 (dk_at dksX4_size_4 8 rfl rfl)
theorem dX4_size_106 : decode cX4_size 106 = .ok (.ireturn, 1) := dk_172 (dk_at dksX4_size_4 11 rfl rfl)
theorem dX4_size_107 : decode cX4_size 107 = .ok (.aload_n 0, 1) := dk_42 (dk_at dksX4_size_4 12 rfl rfl)
theorem dX4_size_108 : decode cX4_size 108 = .ok (.bipush 11, 2) := dk_16 11 (dk_at dksX4_size_4 13 rfl rfl)
theorem dX4_size_110 : decode cX4_size 110 = .ok (.invokevirtual 367, 3) := dk_182 1 111 (dk_at dksX4_size_4 15 rfl rfl)
theorem dX4_size_113 : decode cX4_size 113 = .ok (.ireturn, 1) := dk_172 (dk_at dksX4_size_4 18 rfl rfl)
theorem dX4_size_114 : decode cX4_size 114 = .ok (.aload_n 0, 1) := dk_42 (dk_at dksX4_size_4 19 rfl rfl)
theorem dX4_size_115 : decode cX4_size 115 = .ok (.getfield 117, 3) := dk_180 0 117 (dk_at dksX4_size_4 20 rfl rfl)
theorem dX4_size_118 : decode cX4_size 118 = .ok (.ireturn, 1) := dk_172 (dk_at dksX4_size_4 23 rfl rfl)
theorem dX4_size_119 : decode cX4_size 119 = .ok (.aload_n 0, 1) := dk_42 (dk_at dksX4_size_5 0 rfl rfl)
theorem dX4_size_120 : decode cX4_size 120 = .ok (.getfield 7, 3) := dk_180 0 7 (dk_at dksX4_size_5 1 rfl rfl)
theorem dX4_size_123 : decode cX4_size 123 = .ok (.iconst 2, 1) := dk_5 (dk_at dksX4_size_5 4 rfl rfl)
theorem dX4_size_124 : decode cX4_size 124 = .ok (.iaload, 1) := dk_46 (dk_at dksX4_size_5 5 rfl rfl)
theorem dX4_size_125 : decode cX4_size 125 = .ok (.ireturn, 1) := dk_172 (dk_at dksX4_size_5 6 rfl rfl)
abbrev cX4_ridesIn : ByteArray := prog_25_method_64_code
def yX4_ridesIn : MethodName := ⟨RX4, "ridesIn", "(I)I"⟩
def dkwX4_ridesIn_1 : List UInt8 := [160, 0, 7, 4, 167, 0, 4, 3, 96, 61, 132, 3, 1, 167, 255, 225, 28, 172]
abbrev dktX4_ridesIn_1 : List UInt8 := dkwX4_ridesIn_1 ++ []
def dkwX4_ridesIn_0 : List UInt8 := [3, 61, 3, 62, 29, 42, 180, 0, 7, 4, 46, 162, 0, 27, 28, 42, 29, 3, 182, 1, 18, 27]
abbrev dktX4_ridesIn_0 : List UInt8 := dkwX4_ridesIn_0 ++ dktX4_ridesIn_1
theorem dksX4_ridesIn_0 : cX4_ridesIn.data.toList.drop 0 = dktX4_ridesIn_0 := by decide +kernel
theorem dksX4_ridesIn_1 : cX4_ridesIn.data.toList.drop 22 = dktX4_ridesIn_1 := dk_seg dksX4_ridesIn_0 22 rfl rfl
theorem dX4_ridesIn_0 : decode cX4_ridesIn 0 = .ok (.iconst 0, 1) := dk_3 (dk_at dksX4_ridesIn_0 0 rfl rfl)
theorem dX4_ridesIn_1 : decode cX4_ridesIn 1 = .ok (.istore_n 2, 1) := dk_61 (dk_at dksX4_ridesIn_0 1 rfl rfl)
theorem dX4_ridesIn_2 : decode cX4_ridesIn 2 = .ok (.iconst 0, 1) := dk_3 (dk_at dksX4_ridesIn_0 2 rfl rfl)
theorem dX4_ridesIn_3 : decode cX4_ridesIn 3 = .ok (.istore_n 3, 1) := dk_62 (dk_at dksX4_ridesIn_0 3 rfl rfl)
theorem dX4_ridesIn_4 : decode cX4_ridesIn 4 = .ok (.iload_n 3, 1) := dk_29 (dk_at dksX4_ridesIn_0 4 rfl rfl)
theorem dX4_ridesIn_5 : decode cX4_ridesIn 5 = .ok (.aload_n 0, 1) := dk_42 (dk_at dksX4_ridesIn_0 5 rfl rfl)
theorem dX4_ridesIn_6 : decode cX4_ridesIn 6 = .ok (.getfield 7, 3) := dk_180 0 7 (dk_at dksX4_ridesIn_0 6 rfl rfl)
theorem dX4_ridesIn_9 : decode cX4_ridesIn 9 = .ok (.iconst 1, 1) := dk_4 (dk_at dksX4_ridesIn_0 9 rfl rfl)
theorem dX4_ridesIn_10 : decode cX4_ridesIn 10 = .ok (.iaload, 1) := dk_46 (dk_at dksX4_ridesIn_0 10 rfl rfl)
theorem dX4_ridesIn_11 : decode cX4_ridesIn 11 = .ok (.if_icmp .ge 27, 3) := dk_162 0 27 (dk_at dksX4_ridesIn_0 11 rfl rfl)
theorem dX4_ridesIn_14 : decode cX4_ridesIn 14 = .ok (.iload_n 2, 1) := dk_28 (dk_at dksX4_ridesIn_0 14 rfl rfl)
theorem dX4_ridesIn_15 : decode cX4_ridesIn 15 = .ok (.aload_n 0, 1) := dk_42 (dk_at dksX4_ridesIn_0 15 rfl rfl)
theorem dX4_ridesIn_16 : decode cX4_ridesIn 16 = .ok (.iload_n 3, 1) := dk_29 (dk_at dksX4_ridesIn_0 16 rfl rfl)
theorem dX4_ridesIn_17 : decode cX4_ridesIn 17 = .ok (.iconst 0, 1) := dk_3 (dk_at dksX4_ridesIn_0 17 rfl rfl)
theorem dX4_ridesIn_18 : decode cX4_ridesIn 18 = .ok (.invokevirtual 274, 3) := dk_182 1 18 (dk_at dksX4_ridesIn_0 18 rfl rfl)
theorem dX4_ridesIn_21 : decode cX4_ridesIn 21 = .ok (.iload_n 1, 1) := dk_27 (dk_at dksX4_ridesIn_0 21 rfl rfl)
theorem dX4_ridesIn_22 : decode cX4_ridesIn 22 = .ok (.if_icmp .ne 7, 3) := dk_160 0 7 (dk_at dksX4_ridesIn_1 0 rfl rfl)
theorem dX4_ridesIn_25 : decode cX4_ridesIn 25 = .ok (.iconst 1, 1) := dk_4 (dk_at dksX4_ridesIn_1 3 rfl rfl)
theorem dX4_ridesIn_26 : decode cX4_ridesIn 26 = .ok (.goto 4, 3) := dk_167 0 4 (dk_at dksX4_ridesIn_1 4 rfl rfl)
theorem dX4_ridesIn_29 : decode cX4_ridesIn 29 = .ok (.iconst 0, 1) := dk_3 (dk_at dksX4_ridesIn_1 7 rfl rfl)
theorem dX4_ridesIn_30 : decode cX4_ridesIn 30 = .ok (.iadd, 1) := dk_96 (dk_at dksX4_ridesIn_1 8 rfl rfl)
theorem dX4_ridesIn_31 : decode cX4_ridesIn 31 = .ok (.istore_n 2, 1) := dk_61 (dk_at dksX4_ridesIn_1 9 rfl rfl)
theorem dX4_ridesIn_32 : decode cX4_ridesIn 32 = .ok (.iinc 3 1, 3) := dk_132 3 1 (dk_at dksX4_ridesIn_1 10 rfl rfl)
theorem dX4_ridesIn_35 : decode cX4_ridesIn 35 = .ok (.goto (-31), 3) := dk_167 255 225 (dk_at dksX4_ridesIn_1 13 rfl rfl)
theorem dX4_ridesIn_38 : decode cX4_ridesIn 38 = .ok (.iload_n 2, 1) := dk_28 (dk_at dksX4_ridesIn_1 16 rfl rfl)
theorem dX4_ridesIn_39 : decode cX4_ridesIn 39 = .ok (.ireturn, 1) := dk_172 (dk_at dksX4_ridesIn_1 17 rfl rfl)
abbrev cX4_of : ByteArray := prog_25_method_10_code
def yX4_of : MethodName := ⟨RX4, "of", "(II)I"⟩
def dkwX4_of_0 : List UInt8 := [42, 180, 0, 7, 17, 0, 173, 16, 17, 27, 104, 96, 28, 96, 46, 172]
abbrev dktX4_of_0 : List UInt8 := dkwX4_of_0 ++ []
theorem dksX4_of_0 : cX4_of.data.toList.drop 0 = dktX4_of_0 := by decide +kernel
theorem dX4_of_0 : decode cX4_of 0 = .ok (.aload_n 0, 1) := dk_42 (dk_at dksX4_of_0 0 rfl rfl)
theorem dX4_of_1 : decode cX4_of 1 = .ok (.getfield 7, 3) := dk_180 0 7 (dk_at dksX4_of_0 1 rfl rfl)
theorem dX4_of_4 : decode cX4_of 4 = .ok (.sipush 173, 3) := dk_17 0 173 (dk_at dksX4_of_0 4 rfl rfl)
theorem dX4_of_7 : decode cX4_of 7 = .ok (.bipush 17, 2) := dk_16 17 (dk_at dksX4_of_0 7 rfl rfl)
theorem dX4_of_9 : decode cX4_of 9 = .ok (.iload_n 1, 1) := dk_27 (dk_at dksX4_of_0 9 rfl rfl)
theorem dX4_of_10 : decode cX4_of 10 = .ok (.imul, 1) := dk_104 (dk_at dksX4_of_0 10 rfl rfl)
theorem dX4_of_11 : decode cX4_of 11 = .ok (.iadd, 1) := dk_96 (dk_at dksX4_of_0 11 rfl rfl)
theorem dX4_of_12 : decode cX4_of 12 = .ok (.iload_n 2, 1) := dk_28 (dk_at dksX4_of_0 12 rfl rfl)
theorem dX4_of_13 : decode cX4_of 13 = .ok (.iadd, 1) := dk_96 (dk_at dksX4_of_0 13 rfl rfl)
theorem dX4_of_14 : decode cX4_of 14 = .ok (.iaload, 1) := dk_46 (dk_at dksX4_of_0 14 rfl rfl)
theorem dX4_of_15 : decode cX4_of 15 = .ok (.ireturn, 1) := dk_172 (dk_at dksX4_of_0 15 rfl rfl)
abbrev cX4_sumOf : ByteArray := prog_25_method_65_code
def yX4_sumOf : MethodName := ⟨RX4, "sumOf", "(I)I"⟩
def dkwX4_sumOf_1 : List UInt8 := [167, 255, 236, 28, 172]
abbrev dktX4_sumOf_1 : List UInt8 := dkwX4_sumOf_1 ++ []
def dkwX4_sumOf_0 : List UInt8 := [3, 61, 3, 62, 29, 42, 180, 0, 114, 162, 0, 18, 28, 42, 29, 27, 182, 1, 12, 96, 61, 132, 3, 1]
abbrev dktX4_sumOf_0 : List UInt8 := dkwX4_sumOf_0 ++ dktX4_sumOf_1
theorem dksX4_sumOf_0 : cX4_sumOf.data.toList.drop 0 = dktX4_sumOf_0 := by decide +kernel
theorem dksX4_sumOf_1 : cX4_sumOf.data.toList.drop 24 = dktX4_sumOf_1 := dk_seg dksX4_sumOf_0 24 rfl rfl
theorem dX4_sumOf_0 : decode cX4_sumOf 0 = .ok (.iconst 0, 1) := dk_3 (dk_at dksX4_sumOf_0 0 rfl rfl)
theorem dX4_sumOf_1 : decode cX4_sumOf 1 = .ok (.istore_n 2, 1) := dk_61 (dk_at dksX4_sumOf_0 1 rfl rfl)
theorem dX4_sumOf_2 : decode cX4_sumOf 2 = .ok (.iconst 0, 1) := dk_3 (dk_at dksX4_sumOf_0 2 rfl rfl)
theorem dX4_sumOf_3 : decode cX4_sumOf 3 = .ok (.istore_n 3, 1) := dk_62 (dk_at dksX4_sumOf_0 3 rfl rfl)
theorem dX4_sumOf_4 : decode cX4_sumOf 4 = .ok (.iload_n 3, 1) := dk_29 (dk_at dksX4_sumOf_0 4 rfl rfl)
theorem dX4_sumOf_5 : decode cX4_sumOf 5 = .ok (.aload_n 0, 1) := dk_42 (dk_at dksX4_sumOf_0 5 rfl rfl)
theorem dX4_sumOf_6 : decode cX4_sumOf 6 = .ok (.getfield 114, 3) := dk_180 0 114 (dk_at dksX4_sumOf_0 6 rfl rfl)
theorem dX4_sumOf_9 : decode cX4_sumOf 9 = .ok (.if_icmp .ge 18, 3) := dk_162 0 18 (dk_at dksX4_sumOf_0 9 rfl rfl)
theorem dX4_sumOf_12 : decode cX4_sumOf 12 = .ok (.iload_n 2, 1) := dk_28 (dk_at dksX4_sumOf_0 12 rfl rfl)
theorem dX4_sumOf_13 : decode cX4_sumOf 13 = .ok (.aload_n 0, 1) := dk_42 (dk_at dksX4_sumOf_0 13 rfl rfl)
theorem dX4_sumOf_14 : decode cX4_sumOf 14 = .ok (.iload_n 3, 1) := dk_29 (dk_at dksX4_sumOf_0 14 rfl rfl)
theorem dX4_sumOf_15 : decode cX4_sumOf 15 = .ok (.iload_n 1, 1) := dk_27 (dk_at dksX4_sumOf_0 15 rfl rfl)
theorem dX4_sumOf_16 : decode cX4_sumOf 16 = .ok (.invokevirtual 268, 3) := dk_182 1 12 (dk_at dksX4_sumOf_0 16 rfl rfl)
theorem dX4_sumOf_19 : decode cX4_sumOf 19 = .ok (.iadd, 1) := dk_96 (dk_at dksX4_sumOf_0 19 rfl rfl)
theorem dX4_sumOf_20 : decode cX4_sumOf 20 = .ok (.istore_n 2, 1) := dk_61 (dk_at dksX4_sumOf_0 20 rfl rfl)
theorem dX4_sumOf_21 : decode cX4_sumOf 21 = .ok (.iinc 3 1, 3) := dk_132 3 1 (dk_at dksX4_sumOf_0 21 rfl rfl)
theorem dX4_sumOf_24 : decode cX4_sumOf 24 = .ok (.goto (-20), 3) := dk_167 255 236 (dk_at dksX4_sumOf_1 0 rfl rfl)
theorem dX4_sumOf_27 : decode cX4_sumOf 27 = .ok (.iload_n 2, 1) := dk_28 (dk_at dksX4_sumOf_1 3 rfl rfl)
theorem dX4_sumOf_28 : decode cX4_sumOf 28 = .ok (.ireturn, 1) := dk_172 (dk_at dksX4_sumOf_1 4 rfl rfl)
abbrev cX4_in2 : ByteArray := prog_25_method_12_code
def yX4_in2 : MethodName := ⟨RX4, "in2", "(II)I"⟩
def dkwX4_in2_0 : List UInt8 := [42, 180, 0, 7, 16, 13, 16, 40, 27, 104, 96, 28, 96, 46, 172]
abbrev dktX4_in2_0 : List UInt8 := dkwX4_in2_0 ++ []
theorem dksX4_in2_0 : cX4_in2.data.toList.drop 0 = dktX4_in2_0 := by decide +kernel
theorem dX4_in2_0 : decode cX4_in2 0 = .ok (.aload_n 0, 1) := dk_42 (dk_at dksX4_in2_0 0 rfl rfl)
theorem dX4_in2_1 : decode cX4_in2 1 = .ok (.getfield 7, 3) := dk_180 0 7 (dk_at dksX4_in2_0 1 rfl rfl)
theorem dX4_in2_4 : decode cX4_in2 4 = .ok (.bipush 13, 2) := dk_16 13 (dk_at dksX4_in2_0 4 rfl rfl)
theorem dX4_in2_6 : decode cX4_in2 6 = .ok (.bipush 40, 2) := dk_16 40 (dk_at dksX4_in2_0 6 rfl rfl)
theorem dX4_in2_8 : decode cX4_in2 8 = .ok (.iload_n 1, 1) := dk_27 (dk_at dksX4_in2_0 8 rfl rfl)
theorem dX4_in2_9 : decode cX4_in2 9 = .ok (.imul, 1) := dk_104 (dk_at dksX4_in2_0 9 rfl rfl)
theorem dX4_in2_10 : decode cX4_in2 10 = .ok (.iadd, 1) := dk_96 (dk_at dksX4_in2_0 10 rfl rfl)
theorem dX4_in2_11 : decode cX4_in2 11 = .ok (.iload_n 2, 1) := dk_28 (dk_at dksX4_in2_0 11 rfl rfl)
theorem dX4_in2_12 : decode cX4_in2 12 = .ok (.iadd, 1) := dk_96 (dk_at dksX4_in2_0 12 rfl rfl)
theorem dX4_in2_13 : decode cX4_in2 13 = .ok (.iaload, 1) := dk_46 (dk_at dksX4_in2_0 13 rfl rfl)
theorem dX4_in2_14 : decode cX4_in2 14 = .ok (.ireturn, 1) := dk_172 (dk_at dksX4_in2_0 14 rfl rfl)
abbrev cX4_rule : ByteArray := prog_25_method_67_code
def yX4_rule : MethodName := ⟨RX4, "rule", "(I)I"⟩
def dkwX4_rule_1 : List UInt8 := [167, 0, 8, 42, 27, 182, 1, 36, 172]
abbrev dktX4_rule_1 : List UInt8 := dkwX4_rule_1 ++ []
def dkwX4_rule_0 : List UInt8 := [42, 3, 181, 0, 93, 42, 27, 133, 9, 20, 1, 114, 184, 0, 197, 4, 182, 1, 0, 153, 0, 7, 3]
abbrev dktX4_rule_0 : List UInt8 := dkwX4_rule_0 ++ dktX4_rule_1
theorem dksX4_rule_0 : cX4_rule.data.toList.drop 0 = dktX4_rule_0 := by decide +kernel
theorem dksX4_rule_1 : cX4_rule.data.toList.drop 23 = dktX4_rule_1 := dk_seg dksX4_rule_0 23 rfl rfl
theorem dX4_rule_0 : decode cX4_rule 0 = .ok (.aload_n 0, 1) := dk_42 (dk_at dksX4_rule_0 0 rfl rfl)
theorem dX4_rule_1 : decode cX4_rule 1 = .ok (.iconst 0, 1) := dk_3 (dk_at dksX4_rule_0 1 rfl rfl)
theorem dX4_rule_2 : decode cX4_rule 2 = .ok (.putfield 93, 3) := dk_181 0 93 (dk_at dksX4_rule_0 2 rfl rfl)
theorem dX4_rule_5 : decode cX4_rule 5 = .ok (.aload_n 0, 1) := dk_42 (dk_at dksX4_rule_0 5 rfl rfl)
theorem dX4_rule_6 : decode cX4_rule 6 = .ok (.iload_n 1, 1) := dk_27 (dk_at dksX4_rule_0 6 rfl rfl)
theorem dX4_rule_7 : decode cX4_rule 7 = .ok (.i2l, 1) := dk_133 (dk_at dksX4_rule_0 7 rfl rfl)
theorem dX4_rule_8 : decode cX4_rule 8 = .ok (.lconst 0, 1) := dk_9 (dk_at dksX4_rule_0 8 rfl rfl)
theorem dX4_rule_9 : decode cX4_rule 9 = .ok (.ldc2_w 370, 3) := dk_20 1 114 (dk_at dksX4_rule_0 9 rfl rfl)
theorem dX4_rule_12 : decode cX4_rule 12 = .ok (.invokestatic 197, 3) := dk_184 0 197 (dk_at dksX4_rule_0 12 rfl rfl)
theorem dX4_rule_15 : decode cX4_rule 15 = .ok (.iconst 1, 1) := dk_4 (dk_at dksX4_rule_0 15 rfl rfl)
theorem dX4_rule_16 : decode cX4_rule 16 = .ok (.invokevirtual 256, 3) := dk_182 1 0 (dk_at dksX4_rule_0 16 rfl rfl)
theorem dX4_rule_19 : decode cX4_rule 19 = .ok (.ifCond .eq 7, 3) := dk_153 0 7 (dk_at dksX4_rule_0 19 rfl rfl)
theorem dX4_rule_22 : decode cX4_rule 22 = .ok (.iconst 0, 1) := dk_3 (dk_at dksX4_rule_0 22 rfl rfl)
theorem dX4_rule_23 : decode cX4_rule 23 = .ok (.goto 8, 3) := dk_167 0 8 (dk_at dksX4_rule_1 0 rfl rfl)
theorem dX4_rule_26 : decode cX4_rule 26 = .ok (.aload_n 0, 1) := dk_42 (dk_at dksX4_rule_1 3 rfl rfl)
theorem dX4_rule_27 : decode cX4_rule 27 = .ok (.iload_n 1, 1) := dk_27 (dk_at dksX4_rule_1 4 rfl rfl)
theorem dX4_rule_28 : decode cX4_rule 28 = .ok (.invokevirtual 292, 3) := dk_182 1 36 (dk_at dksX4_rule_1 5 rfl rfl)
theorem dX4_rule_31 : decode cX4_rule 31 = .ok (.ireturn, 1) := dk_172 (dk_at dksX4_rule_1 8 rfl rfl)
abbrev cX4_ruled : ByteArray := prog_25_method_15_code
def yX4_ruled : MethodName := ⟨RX4, "ruled", "(I)I"⟩
def dkwX4_ruled_0 : List UInt8 := [42, 180, 0, 7, 6, 27, 96, 46, 172]
abbrev dktX4_ruled_0 : List UInt8 := dkwX4_ruled_0 ++ []
theorem dksX4_ruled_0 : cX4_ruled.data.toList.drop 0 = dktX4_ruled_0 := by decide +kernel
theorem dX4_ruled_0 : decode cX4_ruled 0 = .ok (.aload_n 0, 1) := dk_42 (dk_at dksX4_ruled_0 0 rfl rfl)
theorem dX4_ruled_1 : decode cX4_ruled 1 = .ok (.getfield 7, 3) := dk_180 0 7 (dk_at dksX4_ruled_0 1 rfl rfl)
theorem dX4_ruled_4 : decode cX4_ruled 4 = .ok (.iconst 3, 1) := dk_6 (dk_at dksX4_ruled_0 4 rfl rfl)
theorem dX4_ruled_5 : decode cX4_ruled 5 = .ok (.iload_n 1, 1) := dk_27 (dk_at dksX4_ruled_0 5 rfl rfl)
theorem dX4_ruled_6 : decode cX4_ruled 6 = .ok (.iadd, 1) := dk_96 (dk_at dksX4_ruled_0 6 rfl rfl)
theorem dX4_ruled_7 : decode cX4_ruled 7 = .ok (.iaload, 1) := dk_46 (dk_at dksX4_ruled_0 7 rfl rfl)
theorem dX4_ruled_8 : decode cX4_ruled 8 = .ok (.ireturn, 1) := dk_172 (dk_at dksX4_ruled_0 8 rfl rfl)
abbrev cX4_minutes : ByteArray := prog_25_method_68_code
def yX4_minutes : MethodName := ⟨RX4, "minutes", "(II)I"⟩
def dkwX4_minutes_1 : List UInt8 := [167, 0, 9, 42, 27, 28, 182, 1, 21, 172]
abbrev dktX4_minutes_1 : List UInt8 := dkwX4_minutes_1 ++ []
def dkwX4_minutes_0 : List UInt8 := [42, 3, 181, 0, 93, 42, 27, 182, 1, 116, 154, 0, 11, 42, 28, 182, 1, 116, 153, 0, 7, 3]
abbrev dktX4_minutes_0 : List UInt8 := dkwX4_minutes_0 ++ dktX4_minutes_1
theorem dksX4_minutes_0 : cX4_minutes.data.toList.drop 0 = dktX4_minutes_0 := by decide +kernel
theorem dksX4_minutes_1 : cX4_minutes.data.toList.drop 22 = dktX4_minutes_1 := dk_seg dksX4_minutes_0 22 rfl rfl
theorem dX4_minutes_0 : decode cX4_minutes 0 = .ok (.aload_n 0, 1) := dk_42 (dk_at dksX4_minutes_0 0 rfl rfl)
theorem dX4_minutes_1 : decode cX4_minutes 1 = .ok (.iconst 0, 1) := dk_3 (dk_at dksX4_minutes_0 1 rfl rfl)
theorem dX4_minutes_2 : decode cX4_minutes 2 = .ok (.putfield 93, 3) := dk_181 0 93 (dk_at dksX4_minutes_0 2 rfl rfl)
theorem dX4_minutes_5 : decode cX4_minutes 5 = .ok (.aload_n 0, 1) := dk_42 (dk_at dksX4_minutes_0 5 rfl rfl)
theorem dX4_minutes_6 : decode cX4_minutes 6 = .ok (.iload_n 1, 1) := dk_27 (dk_at dksX4_minutes_0 6 rfl rfl)
theorem dX4_minutes_7 : decode cX4_minutes 7 = .ok (.invokevirtual 372, 3) := dk_182 1 116 (dk_at dksX4_minutes_0 7 rfl rfl)
theorem dX4_minutes_10 : decode cX4_minutes 10 = .ok (.ifCond .ne 11, 3) := dk_154 0 11 (dk_at dksX4_minutes_0 10 rfl rfl)
theorem dX4_minutes_13 : decode cX4_minutes 13 = .ok (.aload_n 0, 1) := dk_42 (dk_at dksX4_minutes_0 13 rfl rfl)
theorem dX4_minutes_14 : decode cX4_minutes 14 = .ok (.iload_n 2, 1) := dk_28 (dk_at dksX4_minutes_0 14 rfl rfl)
theorem dX4_minutes_15 : decode cX4_minutes 15 = .ok (.invokevirtual 372, 3) := dk_182 1 116 (dk_at dksX4_minutes_0 15 rfl rfl)
theorem dX4_minutes_18 : decode cX4_minutes 18 = .ok (.ifCond .eq 7, 3) := dk_153 0 7 (dk_at dksX4_minutes_0 18 rfl rfl)
theorem dX4_minutes_21 : decode cX4_minutes 21 = .ok (.iconst 0, 1) := dk_3 (dk_at dksX4_minutes_0 21 rfl rfl)
theorem dX4_minutes_22 : decode cX4_minutes 22 = .ok (.goto 9, 3) := dk_167 0 9 (dk_at dksX4_minutes_1 0 rfl rfl)
theorem dX4_minutes_25 : decode cX4_minutes 25 = .ok (.aload_n 0, 1) := dk_42 (dk_at dksX4_minutes_1 3 rfl rfl)
theorem dX4_minutes_26 : decode cX4_minutes 26 = .ok (.iload_n 1, 1) := dk_27 (dk_at dksX4_minutes_1 4 rfl rfl)
theorem dX4_minutes_27 : decode cX4_minutes 27 = .ok (.iload_n 2, 1) := dk_28 (dk_at dksX4_minutes_1 5 rfl rfl)
theorem dX4_minutes_28 : decode cX4_minutes 28 = .ok (.invokevirtual 277, 3) := dk_182 1 21 (dk_at dksX4_minutes_1 6 rfl rfl)
theorem dX4_minutes_31 : decode cX4_minutes 31 = .ok (.ireturn, 1) := dk_172 (dk_at dksX4_minutes_1 9 rfl rfl)
abbrev cX4_noZone : ByteArray := prog_25_method_61_code
def yX4_noZone : MethodName := ⟨RX4, "noZone", "(I)Z"⟩
def dkwX4_noZone_0 : List UInt8 := [42, 27, 133, 9, 42, 180, 0, 108, 4, 100, 133, 184, 0, 197, 4, 182, 1, 0, 172]
abbrev dktX4_noZone_0 : List UInt8 := dkwX4_noZone_0 ++ []
theorem dksX4_noZone_0 : cX4_noZone.data.toList.drop 0 = dktX4_noZone_0 := by decide +kernel
theorem dX4_noZone_0 : decode cX4_noZone 0 = .ok (.aload_n 0, 1) := dk_42 (dk_at dksX4_noZone_0 0 rfl rfl)
theorem dX4_noZone_1 : decode cX4_noZone 1 = .ok (.iload_n 1, 1) := dk_27 (dk_at dksX4_noZone_0 1 rfl rfl)
theorem dX4_noZone_2 : decode cX4_noZone 2 = .ok (.i2l, 1) := dk_133 (dk_at dksX4_noZone_0 2 rfl rfl)
theorem dX4_noZone_3 : decode cX4_noZone 3 = .ok (.lconst 0, 1) := dk_9 (dk_at dksX4_noZone_0 3 rfl rfl)
theorem dX4_noZone_4 : decode cX4_noZone 4 = .ok (.aload_n 0, 1) := dk_42 (dk_at dksX4_noZone_0 4 rfl rfl)
theorem dX4_noZone_5 : decode cX4_noZone 5 = .ok (.getfield 108, 3) := dk_180 0 108 (dk_at dksX4_noZone_0 5 rfl rfl)
theorem dX4_noZone_8 : decode cX4_noZone 8 = .ok (.iconst 1, 1) := dk_4 (dk_at dksX4_noZone_0 8 rfl rfl)
theorem dX4_noZone_9 : decode cX4_noZone 9 = .ok (.isub, 1) := dk_100 (dk_at dksX4_noZone_0 9 rfl rfl)
theorem dX4_noZone_10 : decode cX4_noZone 10 = .ok (.i2l, 1) := dk_133 (dk_at dksX4_noZone_0 10 rfl rfl)
theorem dX4_noZone_11 : decode cX4_noZone 11 = .ok (.invokestatic 197, 3) := dk_184 0 197 (dk_at dksX4_noZone_0 11 rfl rfl)
theorem dX4_noZone_14 : decode cX4_noZone 14 = .ok (.iconst 1, 1) := dk_4 (dk_at dksX4_noZone_0 14 rfl rfl)
theorem dX4_noZone_15 : decode cX4_noZone 15 = .ok (.invokevirtual 256, 3) := dk_182 1 0 (dk_at dksX4_noZone_0 15 rfl rfl)
theorem dX4_noZone_18 : decode cX4_noZone 18 = .ok (.ireturn, 1) := dk_172 (dk_at dksX4_noZone_0 18 rfl rfl)
abbrev cX4_minutesOf : ByteArray := prog_25_method_43_code
def yX4_minutesOf : MethodName := ⟨RX4, "minutesOf", "(II)I"⟩
def dkwX4_minutesOf_0 : List UInt8 := [42, 180, 0, 34, 16, 8, 27, 104, 28, 96, 46, 172]
abbrev dktX4_minutesOf_0 : List UInt8 := dkwX4_minutesOf_0 ++ []
theorem dksX4_minutesOf_0 : cX4_minutesOf.data.toList.drop 0 = dktX4_minutesOf_0 := by decide +kernel
theorem dX4_minutesOf_0 : decode cX4_minutesOf 0 = .ok (.aload_n 0, 1) := dk_42 (dk_at dksX4_minutesOf_0 0 rfl rfl)
theorem dX4_minutesOf_1 : decode cX4_minutesOf 1 = .ok (.getfield 34, 3) := dk_180 0 34 (dk_at dksX4_minutesOf_0 1 rfl rfl)
theorem dX4_minutesOf_4 : decode cX4_minutesOf 4 = .ok (.bipush 8, 2) := dk_16 8 (dk_at dksX4_minutesOf_0 4 rfl rfl)
theorem dX4_minutesOf_6 : decode cX4_minutesOf 6 = .ok (.iload_n 1, 1) := dk_27 (dk_at dksX4_minutesOf_0 6 rfl rfl)
theorem dX4_minutesOf_7 : decode cX4_minutesOf 7 = .ok (.imul, 1) := dk_104 (dk_at dksX4_minutesOf_0 7 rfl rfl)
theorem dX4_minutesOf_8 : decode cX4_minutesOf 8 = .ok (.iload_n 2, 1) := dk_28 (dk_at dksX4_minutesOf_0 8 rfl rfl)
theorem dX4_minutesOf_9 : decode cX4_minutesOf 9 = .ok (.iadd, 1) := dk_96 (dk_at dksX4_minutesOf_0 9 rfl rfl)
theorem dX4_minutesOf_10 : decode cX4_minutesOf 10 = .ok (.iaload, 1) := dk_46 (dk_at dksX4_minutesOf_0 10 rfl rfl)
theorem dX4_minutesOf_11 : decode cX4_minutesOf 11 = .ok (.ireturn, 1) := dk_172 (dk_at dksX4_minutesOf_0 11 rfl rfl)
abbrev cX4_taxi : ByteArray := prog_25_method_69_code
def yX4_taxi : MethodName := ⟨RX4, "taxi", "(II)I"⟩
def dkwX4_taxi_6 : List UInt8 := [182, 1, 12, 172]
abbrev dktX4_taxi_6 : List UInt8 := dkwX4_taxi_6 ++ []
def dkwX4_taxi_5 : List UInt8 := [182, 1, 30, 172, 42, 27, 16, 24, 182, 1, 12, 172, 42, 27, 5, 182, 1, 12, 172, 42, 27, 6]
abbrev dktX4_taxi_5 : List UInt8 := dkwX4_taxi_5 ++ dktX4_taxi_6
def dkwX4_taxi_4 : List UInt8 := [180, 0, 40, 27, 46, 172, 42, 27, 7, 182, 1, 12, 172, 42, 27, 16, 11, 182, 1, 12, 172, 42, 27]
abbrev dktX4_taxi_4 : List UInt8 := dkwX4_taxi_4 ++ dktX4_taxi_5
def dkwX4_taxi_3 : List UInt8 := [42, 180, 0, 37, 27, 46, 172, 42, 27, 3, 182, 1, 12, 172, 42, 27, 4, 182, 1, 12, 172, 42]
abbrev dktX4_taxi_3 : List UInt8 := dkwX4_taxi_3 ++ dktX4_taxi_4
def dkwX4_taxi_2 : List UInt8 := [170, 0, 0, 0, 0, 0, 115, 0, 0, 0, 0, 0, 0, 0, 8, 0, 0, 0, 51, 0, 0, 0, 58, 0, 0, 0, 65, 0, 0, 0, 72, 0, 0, 0, 79, 0, 0, 0, 86, 0, 0, 0, 94, 0, 0, 0, 100, 0, 0, 0, 108]
abbrev dktX4_taxi_2 : List UInt8 := dkwX4_taxi_2 ++ dktX4_taxi_3
def dkwX4_taxi_1 : List UInt8 := [182, 1, 0, 153, 0, 5, 3, 172, 28]
abbrev dktX4_taxi_1 : List UInt8 := dkwX4_taxi_1 ++ dktX4_taxi_2
def dkwX4_taxi_0 : List UInt8 := [42, 3, 181, 0, 93, 42, 27, 182, 1, 119, 154, 0, 20, 42, 28, 133, 9, 20, 1, 114, 184, 0, 197, 4]
abbrev dktX4_taxi_0 : List UInt8 := dkwX4_taxi_0 ++ dktX4_taxi_1
theorem dksX4_taxi_0 : cX4_taxi.data.toList.drop 0 = dktX4_taxi_0 := by decide +kernel
theorem dksX4_taxi_1 : cX4_taxi.data.toList.drop 24 = dktX4_taxi_1 := dk_seg dksX4_taxi_0 24 rfl rfl
theorem dksX4_taxi_2 : cX4_taxi.data.toList.drop 33 = dktX4_taxi_2 := dk_seg dksX4_taxi_1 9 rfl rfl
theorem dksX4_taxi_3 : cX4_taxi.data.toList.drop 84 = dktX4_taxi_3 := dk_seg dksX4_taxi_2 51 rfl rfl
theorem dksX4_taxi_4 : cX4_taxi.data.toList.drop 106 = dktX4_taxi_4 := dk_seg dksX4_taxi_3 22 rfl rfl
theorem dksX4_taxi_5 : cX4_taxi.data.toList.drop 129 = dktX4_taxi_5 := dk_seg dksX4_taxi_4 23 rfl rfl
theorem dksX4_taxi_6 : cX4_taxi.data.toList.drop 151 = dktX4_taxi_6 := dk_seg dksX4_taxi_5 22 rfl rfl
theorem dX4_taxi_0 : decode cX4_taxi 0 = .ok (.aload_n 0, 1) := dk_42 (dk_at dksX4_taxi_0 0 rfl rfl)
theorem dX4_taxi_1 : decode cX4_taxi 1 = .ok (.iconst 0, 1) := dk_3 (dk_at dksX4_taxi_0 1 rfl rfl)
theorem dX4_taxi_2 : decode cX4_taxi 2 = .ok (.putfield 93, 3) := dk_181 0 93 (dk_at dksX4_taxi_0 2 rfl rfl)
theorem dX4_taxi_5 : decode cX4_taxi 5 = .ok (.aload_n 0, 1) := dk_42 (dk_at dksX4_taxi_0 5 rfl rfl)
theorem dX4_taxi_6 : decode cX4_taxi 6 = .ok (.iload_n 1, 1) := dk_27 (dk_at dksX4_taxi_0 6 rfl rfl)
theorem dX4_taxi_7 : decode cX4_taxi 7 = .ok (.invokevirtual 375, 3) := dk_182 1 119 (dk_at dksX4_taxi_0 7 rfl rfl)
theorem dX4_taxi_10 : decode cX4_taxi 10 = .ok (.ifCond .ne 20, 3) := dk_154 0 20 (dk_at dksX4_taxi_0 10 rfl rfl)
theorem dX4_taxi_13 : decode cX4_taxi 13 = .ok (.aload_n 0, 1) := dk_42 (dk_at dksX4_taxi_0 13 rfl rfl)
theorem dX4_taxi_14 : decode cX4_taxi 14 = .ok (.iload_n 2, 1) := dk_28 (dk_at dksX4_taxi_0 14 rfl rfl)
theorem dX4_taxi_15 : decode cX4_taxi 15 = .ok (.i2l, 1) := dk_133 (dk_at dksX4_taxi_0 15 rfl rfl)
theorem dX4_taxi_16 : decode cX4_taxi 16 = .ok (.lconst 0, 1) := dk_9 (dk_at dksX4_taxi_0 16 rfl rfl)
theorem dX4_taxi_17 : decode cX4_taxi 17 = .ok (.ldc2_w 370, 3) := dk_20 1 114 (dk_at dksX4_taxi_0 17 rfl rfl)
theorem dX4_taxi_20 : decode cX4_taxi 20 = .ok (.invokestatic 197, 3) := dk_184 0 197 (dk_at dksX4_taxi_0 20 rfl rfl)
theorem dX4_taxi_23 : decode cX4_taxi 23 = .ok (.iconst 1, 1) := dk_4 (dk_at dksX4_taxi_0 23 rfl rfl)
theorem dX4_taxi_24 : decode cX4_taxi 24 = .ok (.invokevirtual 256, 3) := dk_182 1 0 (dk_at dksX4_taxi_1 0 rfl rfl)
theorem dX4_taxi_27 : decode cX4_taxi 27 = .ok (.ifCond .eq 5, 3) := dk_153 0 5 (dk_at dksX4_taxi_1 3 rfl rfl)
theorem dX4_taxi_30 : decode cX4_taxi 30 = .ok (.iconst 0, 1) := dk_3 (dk_at dksX4_taxi_1 6 rfl rfl)
theorem dX4_taxi_31 : decode cX4_taxi 31 = .ok (.ireturn, 1) := dk_172 (dk_at dksX4_taxi_1 7 rfl rfl)
theorem dX4_taxi_32 : decode cX4_taxi 32 = .ok (.iload_n 2, 1) := dk_28 (dk_at dksX4_taxi_1 8 rfl rfl)
theorem dX4_taxi_33 : decode cX4_taxi 33 = .ok (.tableswitch 115 0 8 #[51, 58, 65, 72, 79, 86, 94, 100, 108], 51) := by decide +kernel
theorem dX4_taxi_84 : decode cX4_taxi 84 = .ok (.aload_n 0, 1) := dk_42 (dk_at dksX4_taxi_3 0 rfl rfl)
theorem dX4_taxi_85 : decode cX4_taxi 85 = .ok (.getfield 37, 3) := dk_180 0 37 (dk_at dksX4_taxi_3 1 rfl rfl)
theorem dX4_taxi_88 : decode cX4_taxi 88 = .ok (.iload_n 1, 1) := dk_27 (dk_at dksX4_taxi_3 4 rfl rfl)
theorem dX4_taxi_89 : decode cX4_taxi 89 = .ok (.iaload, 1) := dk_46 (dk_at dksX4_taxi_3 5 rfl rfl)
theorem dX4_taxi_90 : decode cX4_taxi 90 = .ok (.ireturn, 1) := dk_172 (dk_at dksX4_taxi_3 6 rfl rfl)
theorem dX4_taxi_91 : decode cX4_taxi 91 = .ok (.aload_n 0, 1) := dk_42 (dk_at dksX4_taxi_3 7 rfl rfl)
theorem dX4_taxi_92 : decode cX4_taxi 92 = .ok (.iload_n 1, 1) := dk_27 (dk_at dksX4_taxi_3 8 rfl rfl)
theorem dX4_taxi_93 : decode cX4_taxi 93 = .ok (.iconst 0, 1) := dk_3 (dk_at dksX4_taxi_3 9 rfl rfl)
theorem dX4_taxi_94 : decode cX4_taxi 94 = .ok (.invokevirtual 268, 3) := dk_182 1 12 (dk_at dksX4_taxi_3 10 rfl rfl)
theorem dX4_taxi_97 : decode cX4_taxi 97 = .ok (.ireturn, 1) := dk_172 (dk_at dksX4_taxi_3 13 rfl rfl)
theorem dX4_taxi_98 : decode cX4_taxi 98 = .ok (.aload_n 0, 1) := dk_42 (dk_at dksX4_taxi_3 14 rfl rfl)
theorem dX4_taxi_99 : decode cX4_taxi 99 = .ok (.iload_n 1, 1) := dk_27 (dk_at dksX4_taxi_3 15 rfl rfl)
theorem dX4_taxi_100 : decode cX4_taxi 100 = .ok (.iconst 1, 1) := dk_4 (dk_at dksX4_taxi_3 16 rfl rfl)
theorem dX4_taxi_101 : decode cX4_taxi 101 = .ok (.invokevirtual 268, 3) := dk_182 1 12 (dk_at dksX4_taxi_3 17 rfl rfl)
theorem dX4_taxi_104 : decode cX4_taxi 104 = .ok (.ireturn, 1) := dk_172 (dk_at dksX4_taxi_3 20 rfl rfl)
theorem dX4_taxi_105 : decode cX4_taxi 105 = .ok (.aload_n 0, 1) := dk_42 (dk_at dksX4_taxi_3 21 rfl rfl)
theorem dX4_taxi_106 : decode cX4_taxi 106 = .ok (.getfield 40, 3) := dk_180 0 40 (dk_at dksX4_taxi_4 0 rfl rfl)
theorem dX4_taxi_109 : decode cX4_taxi 109 = .ok (.iload_n 1, 1) := dk_27 (dk_at dksX4_taxi_4 3 rfl rfl)
theorem dX4_taxi_110 : decode cX4_taxi 110 = .ok (.iaload, 1) := dk_46 (dk_at dksX4_taxi_4 4 rfl rfl)
theorem dX4_taxi_111 : decode cX4_taxi 111 = .ok (.ireturn, 1) := dk_172 (dk_at dksX4_taxi_4 5 rfl rfl)
theorem dX4_taxi_112 : decode cX4_taxi 112 = .ok (.aload_n 0, 1) := dk_42 (dk_at dksX4_taxi_4 6 rfl rfl)
theorem dX4_taxi_113 : decode cX4_taxi 113 = .ok (.iload_n 1, 1) := dk_27 (dk_at dksX4_taxi_4 7 rfl rfl)
theorem dX4_taxi_114 : decode cX4_taxi 114 = .ok (.iconst 4, 1) := dk_7 (dk_at dksX4_taxi_4 8 rfl rfl)
theorem dX4_taxi_115 : decode cX4_taxi 115 = .ok (.invokevirtual 268, 3) := dk_182 1 12 (dk_at dksX4_taxi_4 9 rfl rfl)
theorem dX4_taxi_118 : decode cX4_taxi 118 = .ok (.ireturn, 1) := dk_172 (dk_at dksX4_taxi_4 12 rfl rfl)
theorem dX4_taxi_119 : decode cX4_taxi 119 = .ok (.aload_n 0, 1) := dk_42 (dk_at dksX4_taxi_4 13 rfl rfl)
theorem dX4_taxi_120 : decode cX4_taxi 120 = .ok (.iload_n 1, 1) := dk_27 (dk_at dksX4_taxi_4 14 rfl rfl)
theorem dX4_taxi_121 : decode cX4_taxi 121 = .ok (.bipush 11, 2) := dk_16 11 (dk_at dksX4_taxi_4 15 rfl rfl)
theorem dX4_taxi_123 : decode cX4_taxi 123 = .ok (.invokevirtual 268, 3) := dk_182 1 12 (dk_at dksX4_taxi_4 17 rfl rfl)
theorem dX4_taxi_126 : decode cX4_taxi 126 = .ok (.ireturn, 1) := dk_172 (dk_at dksX4_taxi_4 20 rfl rfl)
theorem dX4_taxi_127 : decode cX4_taxi 127 = .ok (.aload_n 0, 1) := dk_42 (dk_at dksX4_taxi_4 21 rfl rfl)
theorem dX4_taxi_128 : decode cX4_taxi 128 = .ok (.iload_n 1, 1) := dk_27 (dk_at dksX4_taxi_4 22 rfl rfl)
theorem dX4_taxi_129 : decode cX4_taxi 129 = .ok (.invokevirtual 286, 3) := dk_182 1 30 (dk_at dksX4_taxi_5 0 rfl rfl)
theorem dX4_taxi_132 : decode cX4_taxi 132 = .ok (.ireturn, 1) := dk_172 (dk_at dksX4_taxi_5 3 rfl rfl)
theorem dX4_taxi_133 : decode cX4_taxi 133 = .ok (.aload_n 0, 1) := dk_42 (dk_at dksX4_taxi_5 4 rfl rfl)
theorem dX4_taxi_134 : decode cX4_taxi 134 = .ok (.iload_n 1, 1) := dk_27 (dk_at dksX4_taxi_5 5 rfl rfl)
theorem dX4_taxi_135 : decode cX4_taxi 135 = .ok (.bipush 24, 2) := dk_16 24 (dk_at dksX4_taxi_5 6 rfl rfl)
theorem dX4_taxi_137 : decode cX4_taxi 137 = .ok (.invokevirtual 268, 3) := dk_182 1 12 (dk_at dksX4_taxi_5 8 rfl rfl)
theorem dX4_taxi_140 : decode cX4_taxi 140 = .ok (.ireturn, 1) := dk_172 (dk_at dksX4_taxi_5 11 rfl rfl)
theorem dX4_taxi_141 : decode cX4_taxi 141 = .ok (.aload_n 0, 1) := dk_42 (dk_at dksX4_taxi_5 12 rfl rfl)
theorem dX4_taxi_142 : decode cX4_taxi 142 = .ok (.iload_n 1, 1) := dk_27 (dk_at dksX4_taxi_5 13 rfl rfl)
theorem dX4_taxi_143 : decode cX4_taxi 143 = .ok (.iconst 2, 1) := dk_5 (dk_at dksX4_taxi_5 14 rfl rfl)
theorem dX4_taxi_144 : decode cX4_taxi 144 = .ok (.invokevirtual 268, 3) := dk_182 1 12 (dk_at dksX4_taxi_5 15 rfl rfl)
theorem dX4_taxi_147 : decode cX4_taxi 147 = .ok (.ireturn, 1) := dk_172 (dk_at dksX4_taxi_5 18 rfl rfl)
theorem dX4_taxi_148 : decode cX4_taxi 148 = .ok (.aload_n 0, 1) := dk_42 (dk_at dksX4_taxi_5 19 rfl rfl)
theorem dX4_taxi_149 : decode cX4_taxi 149 = .ok (.iload_n 1, 1) := dk_27 (dk_at dksX4_taxi_5 20 rfl rfl)
theorem dX4_taxi_150 : decode cX4_taxi 150 = .ok (.iconst 3, 1) := dk_6 (dk_at dksX4_taxi_5 21 rfl rfl)
theorem dX4_taxi_151 : decode cX4_taxi 151 = .ok (.invokevirtual 268, 3) := dk_182 1 12 (dk_at dksX4_taxi_6 0 rfl rfl)
theorem dX4_taxi_154 : decode cX4_taxi 154 = .ok (.ireturn, 1) := dk_172 (dk_at dksX4_taxi_6 3 rfl rfl)
abbrev cX4_noTaxi : ByteArray := prog_25_method_62_code
def yX4_noTaxi : MethodName := ⟨RX4, "noTaxi", "(I)Z"⟩
def dkwX4_noTaxi_0 : List UInt8 := [42, 27, 133, 9, 42, 180, 0, 114, 4, 100, 133, 184, 0, 197, 4, 182, 1, 0, 172]
abbrev dktX4_noTaxi_0 : List UInt8 := dkwX4_noTaxi_0 ++ []
theorem dksX4_noTaxi_0 : cX4_noTaxi.data.toList.drop 0 = dktX4_noTaxi_0 := by decide +kernel
theorem dX4_noTaxi_0 : decode cX4_noTaxi 0 = .ok (.aload_n 0, 1) := dk_42 (dk_at dksX4_noTaxi_0 0 rfl rfl)
theorem dX4_noTaxi_1 : decode cX4_noTaxi 1 = .ok (.iload_n 1, 1) := dk_27 (dk_at dksX4_noTaxi_0 1 rfl rfl)
theorem dX4_noTaxi_2 : decode cX4_noTaxi 2 = .ok (.i2l, 1) := dk_133 (dk_at dksX4_noTaxi_0 2 rfl rfl)
theorem dX4_noTaxi_3 : decode cX4_noTaxi 3 = .ok (.lconst 0, 1) := dk_9 (dk_at dksX4_noTaxi_0 3 rfl rfl)
theorem dX4_noTaxi_4 : decode cX4_noTaxi 4 = .ok (.aload_n 0, 1) := dk_42 (dk_at dksX4_noTaxi_0 4 rfl rfl)
theorem dX4_noTaxi_5 : decode cX4_noTaxi 5 = .ok (.getfield 114, 3) := dk_180 0 114 (dk_at dksX4_noTaxi_0 5 rfl rfl)
theorem dX4_noTaxi_8 : decode cX4_noTaxi 8 = .ok (.iconst 1, 1) := dk_4 (dk_at dksX4_noTaxi_0 8 rfl rfl)
theorem dX4_noTaxi_9 : decode cX4_noTaxi 9 = .ok (.isub, 1) := dk_100 (dk_at dksX4_noTaxi_0 9 rfl rfl)
theorem dX4_noTaxi_10 : decode cX4_noTaxi 10 = .ok (.i2l, 1) := dk_133 (dk_at dksX4_noTaxi_0 10 rfl rfl)
theorem dX4_noTaxi_11 : decode cX4_noTaxi 11 = .ok (.invokestatic 197, 3) := dk_184 0 197 (dk_at dksX4_noTaxi_0 11 rfl rfl)
theorem dX4_noTaxi_14 : decode cX4_noTaxi 14 = .ok (.iconst 1, 1) := dk_4 (dk_at dksX4_noTaxi_0 14 rfl rfl)
theorem dX4_noTaxi_15 : decode cX4_noTaxi 15 = .ok (.invokevirtual 256, 3) := dk_182 1 0 (dk_at dksX4_noTaxi_0 15 rfl rfl)
theorem dX4_noTaxi_18 : decode cX4_noTaxi 18 = .ok (.ireturn, 1) := dk_172 (dk_at dksX4_noTaxi_0 18 rfl rfl)
abbrev cX4_personsAboard : ByteArray := prog_25_method_46_code
def yX4_personsAboard : MethodName := ⟨RX4, "personsAboard", "(I)I"⟩
def dkwX4_personsAboard_1 : List UInt8 := [182, 1, 12, 6, 182, 1, 18, 96, 61, 132, 3, 1, 167, 255, 225, 28, 172]
abbrev dktX4_personsAboard_1 : List UInt8 := dkwX4_personsAboard_1 ++ []
def dkwX4_personsAboard_0 : List UInt8 := [3, 61, 3, 62, 29, 42, 27, 16, 24, 182, 1, 12, 162, 0, 26, 28, 42, 42, 27, 16, 25, 29, 96]
abbrev dktX4_personsAboard_0 : List UInt8 := dkwX4_personsAboard_0 ++ dktX4_personsAboard_1
theorem dksX4_personsAboard_0 : cX4_personsAboard.data.toList.drop 0 = dktX4_personsAboard_0 := by decide +kernel
theorem dksX4_personsAboard_1 : cX4_personsAboard.data.toList.drop 23 = dktX4_personsAboard_1 := dk_seg dksX4_personsAboard_0 23 rfl rfl
theorem dX4_personsAboard_0 : decode cX4_personsAboard 0 = .ok (.iconst 0, 1) := dk_3 (dk_at dksX4_personsAboard_0 0 rfl rfl)
theorem dX4_personsAboard_1 : decode cX4_personsAboard 1 = .ok (.istore_n 2, 1) := dk_61 (dk_at dksX4_personsAboard_0 1 rfl rfl)
theorem dX4_personsAboard_2 : decode cX4_personsAboard 2 = .ok (.iconst 0, 1) := dk_3 (dk_at dksX4_personsAboard_0 2 rfl rfl)
theorem dX4_personsAboard_3 : decode cX4_personsAboard 3 = .ok (.istore_n 3, 1) := dk_62 (dk_at dksX4_personsAboard_0 3 rfl rfl)
theorem dX4_personsAboard_4 : decode cX4_personsAboard 4 = .ok (.iload_n 3, 1) := dk_29 (dk_at dksX4_personsAboard_0 4 rfl rfl)
theorem dX4_personsAboard_5 : decode cX4_personsAboard 5 = .ok (.aload_n 0, 1) := dk_42 (dk_at dksX4_personsAboard_0 5 rfl rfl)
theorem dX4_personsAboard_6 : decode cX4_personsAboard 6 = .ok (.iload_n 1, 1) := dk_27 (dk_at dksX4_personsAboard_0 6 rfl rfl)
theorem dX4_personsAboard_7 : decode cX4_personsAboard 7 = .ok (.bipush 24, 2) := dk_16 24 (dk_at dksX4_personsAboard_0 7 rfl rfl)
theorem dX4_personsAboard_9 : decode cX4_personsAboard 9 = .ok (.invokevirtual 268, 3) := dk_182 1 12 (dk_at dksX4_personsAboard_0 9 rfl rfl)
theorem dX4_personsAboard_12 : decode cX4_personsAboard 12 = .ok (.if_icmp .ge 26, 3) := dk_162 0 26 (dk_at dksX4_personsAboard_0 12 rfl rfl)
theorem dX4_personsAboard_15 : decode cX4_personsAboard 15 = .ok (.iload_n 2, 1) := dk_28 (dk_at dksX4_personsAboard_0 15 rfl rfl)
theorem dX4_personsAboard_16 : decode cX4_personsAboard 16 = .ok (.aload_n 0, 1) := dk_42 (dk_at dksX4_personsAboard_0 16 rfl rfl)
theorem dX4_personsAboard_17 : decode cX4_personsAboard 17 = .ok (.aload_n 0, 1) := dk_42 (dk_at dksX4_personsAboard_0 17 rfl rfl)
theorem dX4_personsAboard_18 : decode cX4_personsAboard 18 = .ok (.iload_n 1, 1) := dk_27 (dk_at dksX4_personsAboard_0 18 rfl rfl)
theorem dX4_personsAboard_19 : decode cX4_personsAboard 19 = .ok (.bipush 25, 2) := dk_16 25 (dk_at dksX4_personsAboard_0 19 rfl rfl)
theorem dX4_personsAboard_21 : decode cX4_personsAboard 21 = .ok (.iload_n 3, 1) := dk_29 (dk_at dksX4_personsAboard_0 21 rfl rfl)
theorem dX4_personsAboard_22 : decode cX4_personsAboard 22 = .ok (.iadd, 1) := dk_96 (dk_at dksX4_personsAboard_0 22 rfl rfl)
theorem dX4_personsAboard_23 : decode cX4_personsAboard 23 = .ok (.invokevirtual 268, 3) := dk_182 1 12 (dk_at dksX4_personsAboard_1 0 rfl rfl)
theorem dX4_personsAboard_26 : decode cX4_personsAboard 26 = .ok (.iconst 3, 1) := dk_6 (dk_at dksX4_personsAboard_1 3 rfl rfl)
theorem dX4_personsAboard_27 : decode cX4_personsAboard 27 = .ok (.invokevirtual 274, 3) := dk_182 1 18 (dk_at dksX4_personsAboard_1 4 rfl rfl)
theorem dX4_personsAboard_30 : decode cX4_personsAboard 30 = .ok (.iadd, 1) := dk_96 (dk_at dksX4_personsAboard_1 7 rfl rfl)
theorem dX4_personsAboard_31 : decode cX4_personsAboard 31 = .ok (.istore_n 2, 1) := dk_61 (dk_at dksX4_personsAboard_1 8 rfl rfl)
theorem dX4_personsAboard_32 : decode cX4_personsAboard 32 = .ok (.iinc 3 1, 3) := dk_132 3 1 (dk_at dksX4_personsAboard_1 9 rfl rfl)
theorem dX4_personsAboard_35 : decode cX4_personsAboard 35 = .ok (.goto (-31), 3) := dk_167 255 225 (dk_at dksX4_personsAboard_1 12 rfl rfl)
theorem dX4_personsAboard_38 : decode cX4_personsAboard 38 = .ok (.iload_n 2, 1) := dk_28 (dk_at dksX4_personsAboard_1 15 rfl rfl)
theorem dX4_personsAboard_39 : decode cX4_personsAboard 39 = .ok (.ireturn, 1) := dk_172 (dk_at dksX4_personsAboard_1 16 rfl rfl)
abbrev cX4_account : ByteArray := prog_25_method_70_code
def yX4_account : MethodName := ⟨RX4, "account", "(II)I"⟩
def dkwX4_account_1 : List UInt8 := [182, 1, 0, 153, 0, 7, 3, 167, 0, 11, 42, 27, 8, 28, 96, 182, 1, 12, 172]
abbrev dktX4_account_1 : List UInt8 := dkwX4_account_1 ++ []
def dkwX4_account_0 : List UInt8 := [42, 3, 181, 0, 93, 42, 27, 182, 1, 119, 154, 0, 20, 42, 28, 133, 9, 20, 1, 122, 184, 0, 197, 4]
abbrev dktX4_account_0 : List UInt8 := dkwX4_account_0 ++ dktX4_account_1
theorem dksX4_account_0 : cX4_account.data.toList.drop 0 = dktX4_account_0 := by decide +kernel
theorem dksX4_account_1 : cX4_account.data.toList.drop 24 = dktX4_account_1 := dk_seg dksX4_account_0 24 rfl rfl
theorem dX4_account_0 : decode cX4_account 0 = .ok (.aload_n 0, 1) := dk_42 (dk_at dksX4_account_0 0 rfl rfl)
theorem dX4_account_1 : decode cX4_account 1 = .ok (.iconst 0, 1) := dk_3 (dk_at dksX4_account_0 1 rfl rfl)
theorem dX4_account_2 : decode cX4_account 2 = .ok (.putfield 93, 3) := dk_181 0 93 (dk_at dksX4_account_0 2 rfl rfl)
theorem dX4_account_5 : decode cX4_account 5 = .ok (.aload_n 0, 1) := dk_42 (dk_at dksX4_account_0 5 rfl rfl)
theorem dX4_account_6 : decode cX4_account 6 = .ok (.iload_n 1, 1) := dk_27 (dk_at dksX4_account_0 6 rfl rfl)
theorem dX4_account_7 : decode cX4_account 7 = .ok (.invokevirtual 375, 3) := dk_182 1 119 (dk_at dksX4_account_0 7 rfl rfl)
theorem dX4_account_10 : decode cX4_account 10 = .ok (.ifCond .ne 20, 3) := dk_154 0 20 (dk_at dksX4_account_0 10 rfl rfl)
theorem dX4_account_13 : decode cX4_account 13 = .ok (.aload_n 0, 1) := dk_42 (dk_at dksX4_account_0 13 rfl rfl)
theorem dX4_account_14 : decode cX4_account 14 = .ok (.iload_n 2, 1) := dk_28 (dk_at dksX4_account_0 14 rfl rfl)
theorem dX4_account_15 : decode cX4_account 15 = .ok (.i2l, 1) := dk_133 (dk_at dksX4_account_0 15 rfl rfl)
theorem dX4_account_16 : decode cX4_account 16 = .ok (.lconst 0, 1) := dk_9 (dk_at dksX4_account_0 16 rfl rfl)
theorem dX4_account_17 : decode cX4_account 17 = .ok (.ldc2_w 378, 3) := dk_20 1 122 (dk_at dksX4_account_0 17 rfl rfl)
theorem dX4_account_20 : decode cX4_account 20 = .ok (.invokestatic 197, 3) := dk_184 0 197 (dk_at dksX4_account_0 20 rfl rfl)
theorem dX4_account_23 : decode cX4_account 23 = .ok (.iconst 1, 1) := dk_4 (dk_at dksX4_account_0 23 rfl rfl)
theorem dX4_account_24 : decode cX4_account 24 = .ok (.invokevirtual 256, 3) := dk_182 1 0 (dk_at dksX4_account_1 0 rfl rfl)
theorem dX4_account_27 : decode cX4_account 27 = .ok (.ifCond .eq 7, 3) := dk_153 0 7 (dk_at dksX4_account_1 3 rfl rfl)
theorem dX4_account_30 : decode cX4_account 30 = .ok (.iconst 0, 1) := dk_3 (dk_at dksX4_account_1 6 rfl rfl)
theorem dX4_account_31 : decode cX4_account 31 = .ok (.goto 11, 3) := dk_167 0 11 (dk_at dksX4_account_1 7 rfl rfl)
theorem dX4_account_34 : decode cX4_account 34 = .ok (.aload_n 0, 1) := dk_42 (dk_at dksX4_account_1 10 rfl rfl)
theorem dX4_account_35 : decode cX4_account 35 = .ok (.iload_n 1, 1) := dk_27 (dk_at dksX4_account_1 11 rfl rfl)
theorem dX4_account_36 : decode cX4_account 36 = .ok (.iconst 5, 1) := dk_8 (dk_at dksX4_account_1 12 rfl rfl)
theorem dX4_account_37 : decode cX4_account 37 = .ok (.iload_n 2, 1) := dk_28 (dk_at dksX4_account_1 13 rfl rfl)
theorem dX4_account_38 : decode cX4_account 38 = .ok (.iadd, 1) := dk_96 (dk_at dksX4_account_1 14 rfl rfl)
theorem dX4_account_39 : decode cX4_account 39 = .ok (.invokevirtual 268, 3) := dk_182 1 12 (dk_at dksX4_account_1 15 rfl rfl)
theorem dX4_account_42 : decode cX4_account 42 = .ok (.ireturn, 1) := dk_172 (dk_at dksX4_account_1 18 rfl rfl)
abbrev cX4_stop : ByteArray := prog_25_method_71_code
def yX4_stop : MethodName := ⟨RX4, "stop", "(III)I"⟩
def dkwX4_stop_7 : List UInt8 := [46, 172]
abbrev dktX4_stop_7 : List UInt8 := dkwX4_stop_7 ++ []
def dkwX4_stop_6 : List UInt8 := [46, 182, 1, 27, 172, 42, 180, 0, 53, 28, 46, 172, 42, 180, 0, 56, 28, 46, 172, 42, 180, 0, 59, 28]
abbrev dktX4_stop_6 : List UInt8 := dkwX4_stop_6 ++ dktX4_stop_7
def dkwX4_stop_5 : List UInt8 := [42, 180, 0, 50, 28, 46, 5, 108, 172, 42, 180, 0, 50, 28, 46, 4, 126, 172, 42, 42, 180, 0, 50, 28]
abbrev dktX4_stop_5 : List UInt8 := dkwX4_stop_5 ++ dktX4_stop_6
def dkwX4_stop_4 : List UInt8 := [170, 0, 0, 0, 0, 0, 0, 79, 0, 0, 0, 0, 0, 0, 0, 4, 0, 0, 0, 36, 0, 0, 0, 45, 0, 0, 0, 54, 0, 0, 0, 65, 0, 0, 0, 72]
abbrev dktX4_stop_4 : List UInt8 := dkwX4_stop_4 ++ dktX4_stop_5
def dkwX4_stop_3 : List UInt8 := [54, 4, 29]
abbrev dktX4_stop_3 : List UInt8 := dkwX4_stop_3 ++ dktX4_stop_4
def dkwX4_stop_2 : List UInt8 := [167, 0, 4, 3, 4, 182, 1, 0, 153, 0, 5, 3, 172, 42, 27, 182, 1, 45, 42, 27, 182, 1, 55]
abbrev dktX4_stop_2 : List UInt8 := dkwX4_stop_2 ++ dktX4_stop_3
def dkwX4_stop_1 : List UInt8 := [4, 100, 133, 184, 0, 197, 153, 0, 19, 29, 133, 9, 20, 1, 122, 184, 0, 197, 153, 0, 7, 4]
abbrev dktX4_stop_1 : List UInt8 := dkwX4_stop_1 ++ dktX4_stop_2
def dkwX4_stop_0 : List UInt8 := [42, 3, 181, 0, 93, 42, 27, 182, 1, 119, 154, 0, 47, 42, 28, 133, 9, 42, 27, 16, 11, 182, 1, 12]
abbrev dktX4_stop_0 : List UInt8 := dkwX4_stop_0 ++ dktX4_stop_1
theorem dksX4_stop_0 : cX4_stop.data.toList.drop 0 = dktX4_stop_0 := by decide +kernel
theorem dksX4_stop_1 : cX4_stop.data.toList.drop 24 = dktX4_stop_1 := dk_seg dksX4_stop_0 24 rfl rfl
theorem dksX4_stop_2 : cX4_stop.data.toList.drop 46 = dktX4_stop_2 := dk_seg dksX4_stop_1 22 rfl rfl
theorem dksX4_stop_3 : cX4_stop.data.toList.drop 69 = dktX4_stop_3 := dk_seg dksX4_stop_2 23 rfl rfl
theorem dksX4_stop_4 : cX4_stop.data.toList.drop 72 = dktX4_stop_4 := dk_seg dksX4_stop_3 3 rfl rfl
theorem dksX4_stop_5 : cX4_stop.data.toList.drop 108 = dktX4_stop_5 := dk_seg dksX4_stop_4 36 rfl rfl
theorem dksX4_stop_6 : cX4_stop.data.toList.drop 132 = dktX4_stop_6 := dk_seg dksX4_stop_5 24 rfl rfl
theorem dksX4_stop_7 : cX4_stop.data.toList.drop 156 = dktX4_stop_7 := dk_seg dksX4_stop_6 24 rfl rfl
theorem dX4_stop_0 : decode cX4_stop 0 = .ok (.aload_n 0, 1) := dk_42 (dk_at dksX4_stop_0 0 rfl rfl)
theorem dX4_stop_1 : decode cX4_stop 1 = .ok (.iconst 0, 1) := dk_3 (dk_at dksX4_stop_0 1 rfl rfl)
theorem dX4_stop_2 : decode cX4_stop 2 = .ok (.putfield 93, 3) := dk_181 0 93 (dk_at dksX4_stop_0 2 rfl rfl)
theorem dX4_stop_5 : decode cX4_stop 5 = .ok (.aload_n 0, 1) := dk_42 (dk_at dksX4_stop_0 5 rfl rfl)
theorem dX4_stop_6 : decode cX4_stop 6 = .ok (.iload_n 1, 1) := dk_27 (dk_at dksX4_stop_0 6 rfl rfl)
theorem dX4_stop_7 : decode cX4_stop 7 = .ok (.invokevirtual 375, 3) := dk_182 1 119 (dk_at dksX4_stop_0 7 rfl rfl)
theorem dX4_stop_10 : decode cX4_stop 10 = .ok (.ifCond .ne 47, 3) := dk_154 0 47 (dk_at dksX4_stop_0 10 rfl rfl)
theorem dX4_stop_13 : decode cX4_stop 13 = .ok (.aload_n 0, 1) := dk_42 (dk_at dksX4_stop_0 13 rfl rfl)
theorem dX4_stop_14 : decode cX4_stop 14 = .ok (.iload_n 2, 1) := dk_28 (dk_at dksX4_stop_0 14 rfl rfl)
theorem dX4_stop_15 : decode cX4_stop 15 = .ok (.i2l, 1) := dk_133 (dk_at dksX4_stop_0 15 rfl rfl)
theorem dX4_stop_16 : decode cX4_stop 16 = .ok (.lconst 0, 1) := dk_9 (dk_at dksX4_stop_0 16 rfl rfl)
theorem dX4_stop_17 : decode cX4_stop 17 = .ok (.aload_n 0, 1) := dk_42 (dk_at dksX4_stop_0 17 rfl rfl)
theorem dX4_stop_18 : decode cX4_stop 18 = .ok (.iload_n 1, 1) := dk_27 (dk_at dksX4_stop_0 18 rfl rfl)
theorem dX4_stop_19 : decode cX4_stop 19 = .ok (.bipush 11, 2) := dk_16 11 (dk_at dksX4_stop_0 19 rfl rfl)
theorem dX4_stop_21 : decode cX4_stop 21 = .ok (.invokevirtual 268, 3) := dk_182 1 12 (dk_at dksX4_stop_0 21 rfl rfl)
theorem dX4_stop_24 : decode cX4_stop 24 = .ok (.iconst 1, 1) := dk_4 (dk_at dksX4_stop_1 0 rfl rfl)
theorem dX4_stop_25 : decode cX4_stop 25 = .ok (.isub, 1) := dk_100 (dk_at dksX4_stop_1 1 rfl rfl)
theorem dX4_stop_26 : decode cX4_stop 26 = .ok (.i2l, 1) := dk_133 (dk_at dksX4_stop_1 2 rfl rfl)
theorem dX4_stop_27 : decode cX4_stop 27 = .ok (.invokestatic 197, 3) := dk_184 0 197 (dk_at dksX4_stop_1 3 rfl rfl)
theorem dX4_stop_30 : decode cX4_stop 30 = .ok (.ifCond .eq 19, 3) := dk_153 0 19 (dk_at dksX4_stop_1 6 rfl rfl)
theorem dX4_stop_33 : decode cX4_stop 33 = .ok (.iload_n 3, 1) := dk_29 (dk_at dksX4_stop_1 9 rfl rfl)
theorem dX4_stop_34 : decode cX4_stop 34 = .ok (.i2l, 1) := dk_133 (dk_at dksX4_stop_1 10 rfl rfl)
theorem dX4_stop_35 : decode cX4_stop 35 = .ok (.lconst 0, 1) := dk_9 (dk_at dksX4_stop_1 11 rfl rfl)
theorem dX4_stop_36 : decode cX4_stop 36 = .ok (.ldc2_w 378, 3) := dk_20 1 122 (dk_at dksX4_stop_1 12 rfl rfl)
theorem dX4_stop_39 : decode cX4_stop 39 = .ok (.invokestatic 197, 3) := dk_184 0 197 (dk_at dksX4_stop_1 15 rfl rfl)
theorem dX4_stop_42 : decode cX4_stop 42 = .ok (.ifCond .eq 7, 3) := dk_153 0 7 (dk_at dksX4_stop_1 18 rfl rfl)
theorem dX4_stop_45 : decode cX4_stop 45 = .ok (.iconst 1, 1) := dk_4 (dk_at dksX4_stop_1 21 rfl rfl)
theorem dX4_stop_46 : decode cX4_stop 46 = .ok (.goto 4, 3) := dk_167 0 4 (dk_at dksX4_stop_2 0 rfl rfl)
theorem dX4_stop_49 : decode cX4_stop 49 = .ok (.iconst 0, 1) := dk_3 (dk_at dksX4_stop_2 3 rfl rfl)
theorem dX4_stop_50 : decode cX4_stop 50 = .ok (.iconst 1, 1) := dk_4 (dk_at dksX4_stop_2 4 rfl rfl)
theorem dX4_stop_51 : decode cX4_stop 51 = .ok (.invokevirtual 256, 3) := dk_182 1 0 (dk_at dksX4_stop_2 5 rfl rfl)
theorem dX4_stop_54 : decode cX4_stop 54 = .ok (.ifCond .eq 5, 3) := dk_153 0 5 (dk_at dksX4_stop_2 8 rfl rfl)
theorem dX4_stop_57 : decode cX4_stop 57 = .ok (.iconst 0, 1) := dk_3 (dk_at dksX4_stop_2 11 rfl rfl)
theorem dX4_stop_58 : decode cX4_stop 58 = .ok (.ireturn, 1) := dk_172 (dk_at dksX4_stop_2 12 rfl rfl)
theorem dX4_stop_59 : decode cX4_stop 59 = .ok (.aload_n 0, 1) := dk_42 (dk_at dksX4_stop_2 13 rfl rfl)
theorem dX4_stop_60 : decode cX4_stop 60 = .ok (.iload_n 1, 1) := dk_27 (dk_at dksX4_stop_2 14 rfl rfl)
theorem dX4_stop_61 : decode cX4_stop 61 = .ok (.invokevirtual 301, 3) := dk_182 1 45 (dk_at dksX4_stop_2 15 rfl rfl)
theorem dX4_stop_64 : decode cX4_stop 64 = .ok (.aload_n 0, 1) := dk_42 (dk_at dksX4_stop_2 18 rfl rfl)
theorem dX4_stop_65 : decode cX4_stop 65 = .ok (.iload_n 1, 1) := dk_27 (dk_at dksX4_stop_2 19 rfl rfl)
theorem dX4_stop_66 : decode cX4_stop 66 = .ok (.invokevirtual 311, 3) := dk_182 1 55 (dk_at dksX4_stop_2 20 rfl rfl)
theorem dX4_stop_69 : decode cX4_stop 69 = .ok (.istore 4, 2) := dk_54 4 (dk_at dksX4_stop_3 0 rfl rfl)
theorem dX4_stop_71 : decode cX4_stop 71 = .ok (.iload_n 3, 1) := dk_29 (dk_at dksX4_stop_3 2 rfl rfl)
theorem dX4_stop_72 : decode cX4_stop 72 = .ok (.tableswitch 79 0 4 #[36, 45, 54, 65, 72], 36) := by decide +kernel
theorem dX4_stop_108 : decode cX4_stop 108 = .ok (.aload_n 0, 1) := dk_42 (dk_at dksX4_stop_5 0 rfl rfl)
theorem dX4_stop_109 : decode cX4_stop 109 = .ok (.getfield 50, 3) := dk_180 0 50 (dk_at dksX4_stop_5 1 rfl rfl)
theorem dX4_stop_112 : decode cX4_stop 112 = .ok (.iload_n 2, 1) := dk_28 (dk_at dksX4_stop_5 4 rfl rfl)
theorem dX4_stop_113 : decode cX4_stop 113 = .ok (.iaload, 1) := dk_46 (dk_at dksX4_stop_5 5 rfl rfl)
theorem dX4_stop_114 : decode cX4_stop 114 = .ok (.iconst 2, 1) := dk_5 (dk_at dksX4_stop_5 6 rfl rfl)
theorem dX4_stop_115 : decode cX4_stop 115 = .ok (.idiv, 1) := dk_108 (dk_at dksX4_stop_5 7 rfl rfl)
theorem dX4_stop_116 : decode cX4_stop 116 = .ok (.ireturn, 1) := dk_172 (dk_at dksX4_stop_5 8 rfl rfl)
theorem dX4_stop_117 : decode cX4_stop 117 = .ok (.aload_n 0, 1) := dk_42 (dk_at dksX4_stop_5 9 rfl rfl)
theorem dX4_stop_118 : decode cX4_stop 118 = .ok (.getfield 50, 3) := dk_180 0 50 (dk_at dksX4_stop_5 10 rfl rfl)
theorem dX4_stop_121 : decode cX4_stop 121 = .ok (.iload_n 2, 1) := dk_28 (dk_at dksX4_stop_5 13 rfl rfl)
theorem dX4_stop_122 : decode cX4_stop 122 = .ok (.iaload, 1) := dk_46 (dk_at dksX4_stop_5 14 rfl rfl)
theorem dX4_stop_123 : decode cX4_stop 123 = .ok (.iconst 1, 1) := dk_4 (dk_at dksX4_stop_5 15 rfl rfl)
theorem dX4_stop_124 : decode cX4_stop 124 = .ok (.iand, 1) := dk_126 (dk_at dksX4_stop_5 16 rfl rfl)
theorem dX4_stop_125 : decode cX4_stop 125 = .ok (.ireturn, 1) := dk_172 (dk_at dksX4_stop_5 17 rfl rfl)
theorem dX4_stop_126 : decode cX4_stop 126 = .ok (.aload_n 0, 1) := dk_42 (dk_at dksX4_stop_5 18 rfl rfl)
theorem dX4_stop_127 : decode cX4_stop 127 = .ok (.aload_n 0, 1) := dk_42 (dk_at dksX4_stop_5 19 rfl rfl)
theorem dX4_stop_128 : decode cX4_stop 128 = .ok (.getfield 50, 3) := dk_180 0 50 (dk_at dksX4_stop_5 20 rfl rfl)
theorem dX4_stop_131 : decode cX4_stop 131 = .ok (.iload_n 2, 1) := dk_28 (dk_at dksX4_stop_5 23 rfl rfl)
theorem dX4_stop_132 : decode cX4_stop 132 = .ok (.iaload, 1) := dk_46 (dk_at dksX4_stop_6 0 rfl rfl)
theorem dX4_stop_133 : decode cX4_stop 133 = .ok (.invokevirtual 283, 3) := dk_182 1 27 (dk_at dksX4_stop_6 1 rfl rfl)
theorem dX4_stop_136 : decode cX4_stop 136 = .ok (.ireturn, 1) := dk_172 (dk_at dksX4_stop_6 4 rfl rfl)
theorem dX4_stop_137 : decode cX4_stop 137 = .ok (.aload_n 0, 1) := dk_42 (dk_at dksX4_stop_6 5 rfl rfl)
theorem dX4_stop_138 : decode cX4_stop 138 = .ok (.getfield 53, 3) := dk_180 0 53 (dk_at dksX4_stop_6 6 rfl rfl)
theorem dX4_stop_141 : decode cX4_stop 141 = .ok (.iload_n 2, 1) := dk_28 (dk_at dksX4_stop_6 9 rfl rfl)
theorem dX4_stop_142 : decode cX4_stop 142 = .ok (.iaload, 1) := dk_46 (dk_at dksX4_stop_6 10 rfl rfl)
theorem dX4_stop_143 : decode cX4_stop 143 = .ok (.ireturn, 1) := dk_172 (dk_at dksX4_stop_6 11 rfl rfl)
theorem dX4_stop_144 : decode cX4_stop 144 = .ok (.aload_n 0, 1) := dk_42 (dk_at dksX4_stop_6 12 rfl rfl)
theorem dX4_stop_145 : decode cX4_stop 145 = .ok (.getfield 56, 3) := dk_180 0 56 (dk_at dksX4_stop_6 13 rfl rfl)
theorem dX4_stop_148 : decode cX4_stop 148 = .ok (.iload_n 2, 1) := dk_28 (dk_at dksX4_stop_6 16 rfl rfl)
theorem dX4_stop_149 : decode cX4_stop 149 = .ok (.iaload, 1) := dk_46 (dk_at dksX4_stop_6 17 rfl rfl)
theorem dX4_stop_150 : decode cX4_stop 150 = .ok (.ireturn, 1) := dk_172 (dk_at dksX4_stop_6 18 rfl rfl)
theorem dX4_stop_151 : decode cX4_stop 151 = .ok (.aload_n 0, 1) := dk_42 (dk_at dksX4_stop_6 19 rfl rfl)
theorem dX4_stop_152 : decode cX4_stop 152 = .ok (.getfield 59, 3) := dk_180 0 59 (dk_at dksX4_stop_6 20 rfl rfl)
theorem dX4_stop_155 : decode cX4_stop 155 = .ok (.iload_n 2, 1) := dk_28 (dk_at dksX4_stop_6 23 rfl rfl)
theorem dX4_stop_156 : decode cX4_stop 156 = .ok (.iaload, 1) := dk_46 (dk_at dksX4_stop_7 0 rfl rfl)
theorem dX4_stop_157 : decode cX4_stop 157 = .ok (.ireturn, 1) := dk_172 (dk_at dksX4_stop_7 1 rfl rfl)
abbrev cX4_lists : ByteArray := prog_25_method_41_code
def yX4_lists : MethodName := ⟨RX4, "lists", "(I)V"⟩
def dkwX4_lists_1 : List UInt8 := [180, 0, 50, 28, 42, 27, 16, 12, 28, 96, 182, 1, 12, 79, 132, 2, 1, 167, 255, 230, 177]
abbrev dktX4_lists_1 : List UInt8 := dkwX4_lists_1 ++ []
def dkwX4_lists_0 : List UInt8 := [42, 42, 27, 16, 11, 182, 1, 12, 181, 1, 15, 3, 61, 28, 42, 180, 1, 15, 162, 0, 24, 42]
abbrev dktX4_lists_0 : List UInt8 := dkwX4_lists_0 ++ dktX4_lists_1
theorem dksX4_lists_0 : cX4_lists.data.toList.drop 0 = dktX4_lists_0 := by decide +kernel
theorem dksX4_lists_1 : cX4_lists.data.toList.drop 22 = dktX4_lists_1 := dk_seg dksX4_lists_0 22 rfl rfl
theorem dX4_lists_0 : decode cX4_lists 0 = .ok (.aload_n 0, 1) := dk_42 (dk_at dksX4_lists_0 0 rfl rfl)
theorem dX4_lists_1 : decode cX4_lists 1 = .ok (.aload_n 0, 1) := dk_42 (dk_at dksX4_lists_0 1 rfl rfl)
theorem dX4_lists_2 : decode cX4_lists 2 = .ok (.iload_n 1, 1) := dk_27 (dk_at dksX4_lists_0 2 rfl rfl)
theorem dX4_lists_3 : decode cX4_lists 3 = .ok (.bipush 11, 2) := dk_16 11 (dk_at dksX4_lists_0 3 rfl rfl)
theorem dX4_lists_5 : decode cX4_lists 5 = .ok (.invokevirtual 268, 3) := dk_182 1 12 (dk_at dksX4_lists_0 5 rfl rfl)
theorem dX4_lists_8 : decode cX4_lists 8 = .ok (.putfield 271, 3) := dk_181 1 15 (dk_at dksX4_lists_0 8 rfl rfl)
theorem dX4_lists_11 : decode cX4_lists 11 = .ok (.iconst 0, 1) := dk_3 (dk_at dksX4_lists_0 11 rfl rfl)
theorem dX4_lists_12 : decode cX4_lists 12 = .ok (.istore_n 2, 1) := dk_61 (dk_at dksX4_lists_0 12 rfl rfl)
theorem dX4_lists_13 : decode cX4_lists 13 = .ok (.iload_n 2, 1) := dk_28 (dk_at dksX4_lists_0 13 rfl rfl)
theorem dX4_lists_14 : decode cX4_lists 14 = .ok (.aload_n 0, 1) := dk_42 (dk_at dksX4_lists_0 14 rfl rfl)
theorem dX4_lists_15 : decode cX4_lists 15 = .ok (.getfield 271, 3) := dk_180 1 15 (dk_at dksX4_lists_0 15 rfl rfl)
theorem dX4_lists_18 : decode cX4_lists 18 = .ok (.if_icmp .ge 24, 3) := dk_162 0 24 (dk_at dksX4_lists_0 18 rfl rfl)
theorem dX4_lists_21 : decode cX4_lists 21 = .ok (.aload_n 0, 1) := dk_42 (dk_at dksX4_lists_0 21 rfl rfl)
theorem dX4_lists_22 : decode cX4_lists 22 = .ok (.getfield 50, 3) := dk_180 0 50 (dk_at dksX4_lists_1 0 rfl rfl)
theorem dX4_lists_25 : decode cX4_lists 25 = .ok (.iload_n 2, 1) := dk_28 (dk_at dksX4_lists_1 3 rfl rfl)
theorem dX4_lists_26 : decode cX4_lists 26 = .ok (.aload_n 0, 1) := dk_42 (dk_at dksX4_lists_1 4 rfl rfl)
theorem dX4_lists_27 : decode cX4_lists 27 = .ok (.iload_n 1, 1) := dk_27 (dk_at dksX4_lists_1 5 rfl rfl)
theorem dX4_lists_28 : decode cX4_lists 28 = .ok (.bipush 12, 2) := dk_16 12 (dk_at dksX4_lists_1 6 rfl rfl)
theorem dX4_lists_30 : decode cX4_lists 30 = .ok (.iload_n 2, 1) := dk_28 (dk_at dksX4_lists_1 8 rfl rfl)
theorem dX4_lists_31 : decode cX4_lists 31 = .ok (.iadd, 1) := dk_96 (dk_at dksX4_lists_1 9 rfl rfl)
theorem dX4_lists_32 : decode cX4_lists 32 = .ok (.invokevirtual 268, 3) := dk_182 1 12 (dk_at dksX4_lists_1 10 rfl rfl)
theorem dX4_lists_35 : decode cX4_lists 35 = .ok (.iastore, 1) := dk_79 (dk_at dksX4_lists_1 13 rfl rfl)
theorem dX4_lists_36 : decode cX4_lists 36 = .ok (.iinc 2 1, 3) := dk_132 2 1 (dk_at dksX4_lists_1 14 rfl rfl)
theorem dX4_lists_39 : decode cX4_lists 39 = .ok (.goto (-26), 3) := dk_167 255 230 (dk_at dksX4_lists_1 17 rfl rfl)
theorem dX4_lists_42 : decode cX4_lists 42 = .ok (.return_, 1) := dk_177 (dk_at dksX4_lists_1 20 rfl rfl)
abbrev cX4_plans : ByteArray := prog_25_method_48_code
def yX4_plans : MethodName := ⟨RX4, "plans", "(I)Z"⟩
def dkwX4_plans_22 : List UInt8 := [163, 0, 7, 4, 167, 0, 4, 3, 172]
abbrev dktX4_plans_22 : List UInt8 := dkwX4_plans_22 ++ []
def dkwX4_plans_21 : List UInt8 := [180, 1, 15, 153, 0, 23, 42, 180, 0, 59, 42, 180, 1, 15, 4, 100, 46, 42, 27, 7, 182, 1, 12]
abbrev dktX4_plans_21 : List UInt8 := dkwX4_plans_21 ++ dktX4_plans_22
def dkwX4_plans_20 : List UInt8 := [180, 0, 50, 21, 7, 46, 182, 1, 27, 61, 132, 7, 1, 167, 254, 65, 21, 6, 153, 0, 34, 42]
abbrev dktX4_plans_20 : List UInt8 := dkwX4_plans_20 ++ dktX4_plans_21
def dkwX4_plans_19 : List UInt8 := [54, 6, 21, 5, 42, 21, 8, 6, 182, 1, 18, 100, 54, 5, 42, 180, 0, 59, 21, 7, 46, 62, 42, 42]
abbrev dktX4_plans_19 : List UInt8 := dkwX4_plans_19 ++ dktX4_plans_20
def dkwX4_plans_18 : List UInt8 := [180, 0, 56, 21, 7, 46, 21, 13, 42, 21, 8, 182, 1, 39, 96, 163, 0, 7, 4, 167, 0, 4, 3]
abbrev dktX4_plans_18 : List UInt8 := dkwX4_plans_18 ++ dktX4_plans_19
def dkwX4_plans_17 : List UInt8 := [16, 8, 182, 1, 18, 167, 0, 10, 42, 180, 0, 68, 21, 8, 46, 54, 13, 21, 6, 153, 0, 26, 42]
abbrev dktX4_plans_17 : List UInt8 := dkwX4_plans_17 ++ dktX4_plans_18
def dkwX4_plans_16 : List UInt8 := [182, 1, 18, 96, 54, 5, 167, 0, 77, 42, 21, 8, 3, 182, 1, 18, 5, 160, 0, 14, 42, 21, 8]
abbrev dktX4_plans_16 : List UInt8 := dkwX4_plans_16 ++ dktX4_plans_17
def dkwX4_plans_15 : List UInt8 := [180, 0, 59, 21, 7, 46, 79, 21, 5, 21, 12, 153, 0, 7, 3, 167, 0, 10, 42, 21, 8, 6]
abbrev dktX4_plans_15 : List UInt8 := dkwX4_plans_15 ++ dktX4_plans_16
def dkwX4_plans_14 : List UInt8 := [21, 8, 8, 182, 1, 18, 163, 0, 7, 4, 167, 0, 4, 3, 54, 6, 42, 180, 0, 68, 21, 8, 42]
abbrev dktX4_plans_14 : List UInt8 := dkwX4_plans_14 ++ dktX4_plans_15
def dkwX4_plans_13 : List UInt8 := [167, 0, 4, 3, 54, 6, 21, 9, 153, 0, 70, 21, 6, 153, 0, 24, 42, 180, 0, 56, 21, 7, 46, 42]
abbrev dktX4_plans_13 : List UInt8 := dkwX4_plans_13 ++ dktX4_plans_14
def dkwX4_plans_12 : List UInt8 := [21, 5, 42, 180, 0, 37, 27, 46, 163, 0, 17, 21, 4, 42, 8, 182, 1, 36, 163, 0, 7, 4]
abbrev dktX4_plans_12 : List UInt8 := dkwX4_plans_12 ++ dktX4_plans_13
def dkwX4_plans_11 : List UInt8 := [79, 42, 180, 0, 62, 21, 7, 21, 4, 79, 42, 180, 0, 65, 21, 7, 21, 10, 79, 21, 6, 153, 0, 28]
abbrev dktX4_plans_11 : List UInt8 := dkwX4_plans_11 ++ dktX4_plans_12
def dkwX4_plans_10 : List UInt8 := [21, 7, 42, 180, 0, 56, 21, 7, 46, 42, 21, 12, 153, 0, 7, 6, 167, 0, 4, 4, 182, 1, 36, 96]
abbrev dktX4_plans_10 : List UInt8 := dkwX4_plans_10 ++ dktX4_plans_11
def dkwX4_plans_9 : List UInt8 := [180, 0, 53, 21, 7, 21, 11, 79, 42, 180, 0, 56, 21, 7, 21, 11, 21, 10, 96, 79, 42, 180, 0, 59]
abbrev dktX4_plans_9 : List UInt8 := dkwX4_plans_9 ++ dktX4_plans_10
def dkwX4_plans_8 : List UInt8 := [153, 0, 19, 42, 21, 8, 16, 11, 182, 1, 18, 4, 160, 0, 7, 4, 167, 0, 4, 3, 54, 12, 42]
abbrev dktX4_plans_8 : List UInt8 := dkwX4_plans_8 ++ dktX4_plans_9
def dkwX4_plans_7 : List UInt8 := [16, 6, 182, 1, 36, 161, 0, 8, 21, 10, 167, 0, 8, 21, 4, 21, 10, 96, 54, 4, 21, 9]
abbrev dktX4_plans_7 : List UInt8 := dkwX4_plans_7 ++ dktX4_plans_8
def dkwX4_plans_6 : List UInt8 := [180, 0, 7, 3, 46, 184, 1, 33, 167, 0, 9, 42, 27, 6, 182, 1, 12, 54, 11, 21, 11, 29, 100, 42]
abbrev dktX4_plans_6 : List UInt8 := dkwX4_plans_6 ++ dktX4_plans_7
def dkwX4_plans_5 : List UInt8 := [167, 0, 4, 29, 54, 11, 21, 7, 154, 0, 35, 42, 27, 6, 182, 1, 12, 2, 160, 0, 17, 21, 11, 42]
abbrev dktX4_plans_5 : List UInt8 := dkwX4_plans_5 ++ dktX4_plans_6
def dkwX4_plans_4 : List UInt8 := [160, 0, 5, 3, 172, 21, 9, 153, 0, 20, 29, 42, 21, 8, 7, 182, 1, 18, 21, 10, 100, 184, 1, 33]
abbrev dktX4_plans_4 : List UInt8 := dkwX4_plans_4 ++ dktX4_plans_5
def dkwX4_plans_3 : List UInt8 := [3, 54, 9, 42, 28, 42, 42, 180, 0, 50, 21, 7, 46, 182, 1, 27, 182, 1, 21, 54, 10, 21, 10, 2]
abbrev dktX4_plans_3 : List UInt8 := dkwX4_plans_3 ++ dktX4_plans_4
def dkwX4_plans_2 : List UInt8 := [21, 7, 46, 5, 108, 54, 8, 42, 180, 0, 50, 21, 7, 46, 4, 126, 4, 160, 0, 7, 4, 167, 0, 4]
abbrev dktX4_plans_2 : List UInt8 := dkwX4_plans_2 ++ dktX4_plans_3
def dkwX4_plans_1 : List UInt8 := [182, 1, 30, 54, 5, 4, 54, 6, 3, 54, 7, 21, 7, 42, 180, 1, 15, 162, 1, 188, 42, 180, 0, 50]
abbrev dktX4_plans_1 : List UInt8 := dkwX4_plans_1 ++ dktX4_plans_2
def dkwX4_plans_0 : List UInt8 := [42, 27, 3, 182, 1, 12, 61, 42, 27, 4, 182, 1, 12, 62, 42, 27, 5, 182, 1, 12, 54, 4, 42, 27]
abbrev dktX4_plans_0 : List UInt8 := dkwX4_plans_0 ++ dktX4_plans_1
theorem dksX4_plans_0 : cX4_plans.data.toList.drop 0 = dktX4_plans_0 := by decide +kernel
theorem dksX4_plans_1 : cX4_plans.data.toList.drop 24 = dktX4_plans_1 := dk_seg dksX4_plans_0 24 rfl rfl
theorem dksX4_plans_2 : cX4_plans.data.toList.drop 48 = dktX4_plans_2 := dk_seg dksX4_plans_1 24 rfl rfl
theorem dksX4_plans_3 : cX4_plans.data.toList.drop 72 = dktX4_plans_3 := dk_seg dksX4_plans_2 24 rfl rfl
theorem dksX4_plans_4 : cX4_plans.data.toList.drop 96 = dktX4_plans_4 := dk_seg dksX4_plans_3 24 rfl rfl
theorem dksX4_plans_5 : cX4_plans.data.toList.drop 120 = dktX4_plans_5 := dk_seg dksX4_plans_4 24 rfl rfl
theorem dksX4_plans_6 : cX4_plans.data.toList.drop 144 = dktX4_plans_6 := dk_seg dksX4_plans_5 24 rfl rfl
theorem dksX4_plans_7 : cX4_plans.data.toList.drop 168 = dktX4_plans_7 := dk_seg dksX4_plans_6 24 rfl rfl
theorem dksX4_plans_8 : cX4_plans.data.toList.drop 190 = dktX4_plans_8 := dk_seg dksX4_plans_7 22 rfl rfl
theorem dksX4_plans_9 : cX4_plans.data.toList.drop 213 = dktX4_plans_9 := dk_seg dksX4_plans_8 23 rfl rfl
theorem dksX4_plans_10 : cX4_plans.data.toList.drop 237 = dktX4_plans_10 := dk_seg dksX4_plans_9 24 rfl rfl
theorem dksX4_plans_11 : cX4_plans.data.toList.drop 261 = dktX4_plans_11 := dk_seg dksX4_plans_10 24 rfl rfl
theorem dksX4_plans_12 : cX4_plans.data.toList.drop 285 = dktX4_plans_12 := dk_seg dksX4_plans_11 24 rfl rfl
theorem dksX4_plans_13 : cX4_plans.data.toList.drop 307 = dktX4_plans_13 := dk_seg dksX4_plans_12 22 rfl rfl
theorem dksX4_plans_14 : cX4_plans.data.toList.drop 331 = dktX4_plans_14 := dk_seg dksX4_plans_13 24 rfl rfl
theorem dksX4_plans_15 : cX4_plans.data.toList.drop 354 = dktX4_plans_15 := dk_seg dksX4_plans_14 23 rfl rfl
theorem dksX4_plans_16 : cX4_plans.data.toList.drop 376 = dktX4_plans_16 := dk_seg dksX4_plans_15 22 rfl rfl
theorem dksX4_plans_17 : cX4_plans.data.toList.drop 399 = dktX4_plans_17 := dk_seg dksX4_plans_16 23 rfl rfl
theorem dksX4_plans_18 : cX4_plans.data.toList.drop 422 = dktX4_plans_18 := dk_seg dksX4_plans_17 23 rfl rfl
theorem dksX4_plans_19 : cX4_plans.data.toList.drop 445 = dktX4_plans_19 := dk_seg dksX4_plans_18 23 rfl rfl
theorem dksX4_plans_20 : cX4_plans.data.toList.drop 469 = dktX4_plans_20 := dk_seg dksX4_plans_19 24 rfl rfl
theorem dksX4_plans_21 : cX4_plans.data.toList.drop 491 = dktX4_plans_21 := dk_seg dksX4_plans_20 22 rfl rfl
theorem dksX4_plans_22 : cX4_plans.data.toList.drop 514 = dktX4_plans_22 := dk_seg dksX4_plans_21 23 rfl rfl
theorem dX4_plans_0 : decode cX4_plans 0 = .ok (.aload_n 0, 1) := dk_42 (dk_at dksX4_plans_0 0 rfl rfl)
theorem dX4_plans_1 : decode cX4_plans 1 = .ok (.iload_n 1, 1) := dk_27 (dk_at dksX4_plans_0 1 rfl rfl)
theorem dX4_plans_2 : decode cX4_plans 2 = .ok (.iconst 0, 1) := dk_3 (dk_at dksX4_plans_0 2 rfl rfl)
theorem dX4_plans_3 : decode cX4_plans 3 = .ok (.invokevirtual 268, 3) := dk_182 1 12 (dk_at dksX4_plans_0 3 rfl rfl)
theorem dX4_plans_6 : decode cX4_plans 6 = .ok (.istore_n 2, 1) := dk_61 (dk_at dksX4_plans_0 6 rfl rfl)
theorem dX4_plans_7 : decode cX4_plans 7 = .ok (.aload_n 0, 1) := dk_42 (dk_at dksX4_plans_0 7 rfl rfl)
theorem dX4_plans_8 : decode cX4_plans 8 = .ok (.iload_n 1, 1) := dk_27 (dk_at dksX4_plans_0 8 rfl rfl)
theorem dX4_plans_9 : decode cX4_plans 9 = .ok (.iconst 1, 1) := dk_4 (dk_at dksX4_plans_0 9 rfl rfl)
theorem dX4_plans_10 : decode cX4_plans 10 = .ok (.invokevirtual 268, 3) := dk_182 1 12 (dk_at dksX4_plans_0 10 rfl rfl)
theorem dX4_plans_13 : decode cX4_plans 13 = .ok (.istore_n 3, 1) := dk_62 (dk_at dksX4_plans_0 13 rfl rfl)
theorem dX4_plans_14 : decode cX4_plans 14 = .ok (.aload_n 0, 1) := dk_42 (dk_at dksX4_plans_0 14 rfl rfl)
theorem dX4_plans_15 : decode cX4_plans 15 = .ok (.iload_n 1, 1) := dk_27 (dk_at dksX4_plans_0 15 rfl rfl)
theorem dX4_plans_16 : decode cX4_plans 16 = .ok (.iconst 2, 1) := dk_5 (dk_at dksX4_plans_0 16 rfl rfl)
theorem dX4_plans_17 : decode cX4_plans 17 = .ok (.invokevirtual 268, 3) := dk_182 1 12 (dk_at dksX4_plans_0 17 rfl rfl)
theorem dX4_plans_20 : decode cX4_plans 20 = .ok (.istore 4, 2) := dk_54 4 (dk_at dksX4_plans_0 20 rfl rfl)
theorem dX4_plans_22 : decode cX4_plans 22 = .ok (.aload_n 0, 1) := dk_42 (dk_at dksX4_plans_0 22 rfl rfl)
theorem dX4_plans_23 : decode cX4_plans 23 = .ok (.iload_n 1, 1) := dk_27 (dk_at dksX4_plans_0 23 rfl rfl)
theorem dX4_plans_24 : decode cX4_plans 24 = .ok (.invokevirtual 286, 3) := dk_182 1 30 (dk_at dksX4_plans_1 0 rfl rfl)
theorem dX4_plans_27 : decode cX4_plans 27 = .ok (.istore 5, 2) := dk_54 5 (dk_at dksX4_plans_1 3 rfl rfl)
theorem dX4_plans_29 : decode cX4_plans 29 = .ok (.iconst 1, 1) := dk_4 (dk_at dksX4_plans_1 5 rfl rfl)
theorem dX4_plans_30 : decode cX4_plans 30 = .ok (.istore 6, 2) := dk_54 6 (dk_at dksX4_plans_1 6 rfl rfl)
theorem dX4_plans_32 : decode cX4_plans 32 = .ok (.iconst 0, 1) := dk_3 (dk_at dksX4_plans_1 8 rfl rfl)
theorem dX4_plans_33 : decode cX4_plans 33 = .ok (.istore 7, 2) := dk_54 7 (dk_at dksX4_plans_1 9 rfl rfl)
theorem dX4_plans_35 : decode cX4_plans 35 = .ok (.iload 7, 2) := dk_21 7 (dk_at dksX4_plans_1 11 rfl rfl)
theorem dX4_plans_37 : decode cX4_plans 37 = .ok (.aload_n 0, 1) := dk_42 (dk_at dksX4_plans_1 13 rfl rfl)
theorem dX4_plans_38 : decode cX4_plans 38 = .ok (.getfield 271, 3) := dk_180 1 15 (dk_at dksX4_plans_1 14 rfl rfl)
theorem dX4_plans_41 : decode cX4_plans 41 = .ok (.if_icmp .ge 444, 3) := dk_162 1 188 (dk_at dksX4_plans_1 17 rfl rfl)
theorem dX4_plans_44 : decode cX4_plans 44 = .ok (.aload_n 0, 1) := dk_42 (dk_at dksX4_plans_1 20 rfl rfl)
theorem dX4_plans_45 : decode cX4_plans 45 = .ok (.getfield 50, 3) := dk_180 0 50 (dk_at dksX4_plans_1 21 rfl rfl)
theorem dX4_plans_48 : decode cX4_plans 48 = .ok (.iload 7, 2) := dk_21 7 (dk_at dksX4_plans_2 0 rfl rfl)
theorem dX4_plans_50 : decode cX4_plans 50 = .ok (.iaload, 1) := dk_46 (dk_at dksX4_plans_2 2 rfl rfl)
theorem dX4_plans_51 : decode cX4_plans 51 = .ok (.iconst 2, 1) := dk_5 (dk_at dksX4_plans_2 3 rfl rfl)
theorem dX4_plans_52 : decode cX4_plans 52 = .ok (.idiv, 1) := dk_108 (dk_at dksX4_plans_2 4 rfl rfl)
theorem dX4_plans_53 : decode cX4_plans 53 = .ok (.istore 8, 2) := dk_54 8 (dk_at dksX4_plans_2 5 rfl rfl)
theorem dX4_plans_55 : decode cX4_plans 55 = .ok (.aload_n 0, 1) := dk_42 (dk_at dksX4_plans_2 7 rfl rfl)
theorem dX4_plans_56 : decode cX4_plans 56 = .ok (.getfield 50, 3) := dk_180 0 50 (dk_at dksX4_plans_2 8 rfl rfl)
theorem dX4_plans_59 : decode cX4_plans 59 = .ok (.iload 7, 2) := dk_21 7 (dk_at dksX4_plans_2 11 rfl rfl)
theorem dX4_plans_61 : decode cX4_plans 61 = .ok (.iaload, 1) := dk_46 (dk_at dksX4_plans_2 13 rfl rfl)
theorem dX4_plans_62 : decode cX4_plans 62 = .ok (.iconst 1, 1) := dk_4 (dk_at dksX4_plans_2 14 rfl rfl)
theorem dX4_plans_63 : decode cX4_plans 63 = .ok (.iand, 1) := dk_126 (dk_at dksX4_plans_2 15 rfl rfl)
theorem dX4_plans_64 : decode cX4_plans 64 = .ok (.iconst 1, 1) := dk_4 (dk_at dksX4_plans_2 16 rfl rfl)
theorem dX4_plans_65 : decode cX4_plans 65 = .ok (.if_icmp .ne 7, 3) := dk_160 0 7 (dk_at dksX4_plans_2 17 rfl rfl)
theorem dX4_plans_68 : decode cX4_plans 68 = .ok (.iconst 1, 1) := dk_4 (dk_at dksX4_plans_2 20 rfl rfl)
theorem dX4_plans_69 : decode cX4_plans 69 = .ok (.goto 4, 3) := dk_167 0 4 (dk_at dksX4_plans_2 21 rfl rfl)
theorem dX4_plans_72 : decode cX4_plans 72 = .ok (.iconst 0, 1) := dk_3 (dk_at dksX4_plans_3 0 rfl rfl)
theorem dX4_plans_73 : decode cX4_plans 73 = .ok (.istore 9, 2) := dk_54 9 (dk_at dksX4_plans_3 1 rfl rfl)
theorem dX4_plans_75 : decode cX4_plans 75 = .ok (.aload_n 0, 1) := dk_42 (dk_at dksX4_plans_3 3 rfl rfl)
theorem dX4_plans_76 : decode cX4_plans 76 = .ok (.iload_n 2, 1) := dk_28 (dk_at dksX4_plans_3 4 rfl rfl)
theorem dX4_plans_77 : decode cX4_plans 77 = .ok (.aload_n 0, 1) := dk_42 (dk_at dksX4_plans_3 5 rfl rfl)
theorem dX4_plans_78 : decode cX4_plans 78 = .ok (.aload_n 0, 1) := dk_42 (dk_at dksX4_plans_3 6 rfl rfl)
theorem dX4_plans_79 : decode cX4_plans 79 = .ok (.getfield 50, 3) := dk_180 0 50 (dk_at dksX4_plans_3 7 rfl rfl)
theorem dX4_plans_82 : decode cX4_plans 82 = .ok (.iload 7, 2) := dk_21 7 (dk_at dksX4_plans_3 10 rfl rfl)
theorem dX4_plans_84 : decode cX4_plans 84 = .ok (.iaload, 1) := dk_46 (dk_at dksX4_plans_3 12 rfl rfl)
theorem dX4_plans_85 : decode cX4_plans 85 = .ok (.invokevirtual 283, 3) := dk_182 1 27 (dk_at dksX4_plans_3 13 rfl rfl)
theorem dX4_plans_88 : decode cX4_plans 88 = .ok (.invokevirtual 277, 3) := dk_182 1 21 (dk_at dksX4_plans_3 16 rfl rfl)
theorem dX4_plans_91 : decode cX4_plans 91 = .ok (.istore 10, 2) := dk_54 10 (dk_at dksX4_plans_3 19 rfl rfl)
theorem dX4_plans_93 : decode cX4_plans 93 = .ok (.iload 10, 2) := dk_21 10 (dk_at dksX4_plans_3 21 rfl rfl)
theorem dX4_plans_95 : decode cX4_plans 95 = .ok (.iconst (-1), 1) := dk_2 (dk_at dksX4_plans_3 23 rfl rfl)
theorem dX4_plans_96 : decode cX4_plans 96 = .ok (.if_icmp .ne 5, 3) := dk_160 0 5 (dk_at dksX4_plans_4 0 rfl rfl)
theorem dX4_plans_99 : decode cX4_plans 99 = .ok (.iconst 0, 1) := dk_3 (dk_at dksX4_plans_4 3 rfl rfl)
theorem dX4_plans_100 : decode cX4_plans 100 = .ok (.ireturn, 1) := dk_172 (dk_at dksX4_plans_4 4 rfl rfl)
theorem dX4_plans_101 : decode cX4_plans 101 = .ok (.iload 9, 2) := dk_21 9 (dk_at dksX4_plans_4 5 rfl rfl)
theorem dX4_plans_103 : decode cX4_plans 103 = .ok (.ifCond .eq 20, 3) := dk_153 0 20 (dk_at dksX4_plans_4 7 rfl rfl)
theorem dX4_plans_106 : decode cX4_plans 106 = .ok (.iload_n 3, 1) := dk_29 (dk_at dksX4_plans_4 10 rfl rfl)
theorem dX4_plans_107 : decode cX4_plans 107 = .ok (.aload_n 0, 1) := dk_42 (dk_at dksX4_plans_4 11 rfl rfl)
theorem dX4_plans_108 : decode cX4_plans 108 = .ok (.iload 8, 2) := dk_21 8 (dk_at dksX4_plans_4 12 rfl rfl)
theorem dX4_plans_110 : decode cX4_plans 110 = .ok (.iconst 4, 1) := dk_7 (dk_at dksX4_plans_4 14 rfl rfl)
theorem dX4_plans_111 : decode cX4_plans 111 = .ok (.invokevirtual 274, 3) := dk_182 1 18 (dk_at dksX4_plans_4 15 rfl rfl)
theorem dX4_plans_114 : decode cX4_plans 114 = .ok (.iload 10, 2) := dk_21 10 (dk_at dksX4_plans_4 18 rfl rfl)
theorem dX4_plans_116 : decode cX4_plans 116 = .ok (.isub, 1) := dk_100 (dk_at dksX4_plans_4 20 rfl rfl)
theorem dX4_plans_117 : decode cX4_plans 117 = .ok (.invokestatic 289, 3) := dk_184 1 33 (dk_at dksX4_plans_4 21 rfl rfl)
theorem dX4_plans_120 : decode cX4_plans 120 = .ok (.goto 4, 3) := dk_167 0 4 (dk_at dksX4_plans_5 0 rfl rfl)
theorem dX4_plans_123 : decode cX4_plans 123 = .ok (.iload_n 3, 1) := dk_29 (dk_at dksX4_plans_5 3 rfl rfl)
theorem dX4_plans_124 : decode cX4_plans 124 = .ok (.istore 11, 2) := dk_54 11 (dk_at dksX4_plans_5 4 rfl rfl)
theorem dX4_plans_126 : decode cX4_plans 126 = .ok (.iload 7, 2) := dk_21 7 (dk_at dksX4_plans_5 6 rfl rfl)
theorem dX4_plans_128 : decode cX4_plans 128 = .ok (.ifCond .ne 35, 3) := dk_154 0 35 (dk_at dksX4_plans_5 8 rfl rfl)
theorem dX4_plans_131 : decode cX4_plans 131 = .ok (.aload_n 0, 1) := dk_42 (dk_at dksX4_plans_5 11 rfl rfl)
theorem dX4_plans_132 : decode cX4_plans 132 = .ok (.iload_n 1, 1) := dk_27 (dk_at dksX4_plans_5 12 rfl rfl)
theorem dX4_plans_133 : decode cX4_plans 133 = .ok (.iconst 3, 1) := dk_6 (dk_at dksX4_plans_5 13 rfl rfl)
theorem dX4_plans_134 : decode cX4_plans 134 = .ok (.invokevirtual 268, 3) := dk_182 1 12 (dk_at dksX4_plans_5 14 rfl rfl)
theorem dX4_plans_137 : decode cX4_plans 137 = .ok (.iconst (-1), 1) := dk_2 (dk_at dksX4_plans_5 17 rfl rfl)
theorem dX4_plans_138 : decode cX4_plans 138 = .ok (.if_icmp .ne 17, 3) := dk_160 0 17 (dk_at dksX4_plans_5 18 rfl rfl)
theorem dX4_plans_141 : decode cX4_plans 141 = .ok (.iload 11, 2) := dk_21 11 (dk_at dksX4_plans_5 21 rfl rfl)
theorem dX4_plans_143 : decode cX4_plans 143 = .ok (.aload_n 0, 1) := dk_42 (dk_at dksX4_plans_5 23 rfl rfl)
theorem dX4_plans_144 : decode cX4_plans 144 = .ok (.getfield 7, 3) := dk_180 0 7 (dk_at dksX4_plans_6 0 rfl rfl)
theorem dX4_plans_147 : decode cX4_plans 147 = .ok (.iconst 0, 1) := dk_3 (dk_at dksX4_plans_6 3 rfl rfl)
theorem dX4_plans_148 : decode cX4_plans 148 = .ok (.iaload, 1) := dk_46 (dk_at dksX4_plans_6 4 rfl rfl)
theorem dX4_plans_149 : decode cX4_plans 149 = .ok (.invokestatic 289, 3) := dk_184 1 33 (dk_at dksX4_plans_6 5 rfl rfl)
theorem dX4_plans_152 : decode cX4_plans 152 = .ok (.goto 9, 3) := dk_167 0 9 (dk_at dksX4_plans_6 8 rfl rfl)
theorem dX4_plans_155 : decode cX4_plans 155 = .ok (.aload_n 0, 1) := dk_42 (dk_at dksX4_plans_6 11 rfl rfl)
theorem dX4_plans_156 : decode cX4_plans 156 = .ok (.iload_n 1, 1) := dk_27 (dk_at dksX4_plans_6 12 rfl rfl)
theorem dX4_plans_157 : decode cX4_plans 157 = .ok (.iconst 3, 1) := dk_6 (dk_at dksX4_plans_6 13 rfl rfl)
theorem dX4_plans_158 : decode cX4_plans 158 = .ok (.invokevirtual 268, 3) := dk_182 1 12 (dk_at dksX4_plans_6 14 rfl rfl)
theorem dX4_plans_161 : decode cX4_plans 161 = .ok (.istore 11, 2) := dk_54 11 (dk_at dksX4_plans_6 17 rfl rfl)
theorem dX4_plans_163 : decode cX4_plans 163 = .ok (.iload 11, 2) := dk_21 11 (dk_at dksX4_plans_6 19 rfl rfl)
theorem dX4_plans_165 : decode cX4_plans 165 = .ok (.iload_n 3, 1) := dk_29 (dk_at dksX4_plans_6 21 rfl rfl)
theorem dX4_plans_166 : decode cX4_plans 166 = .ok (.isub, 1) := dk_100 (dk_at dksX4_plans_6 22 rfl rfl)
theorem dX4_plans_167 : decode cX4_plans 167 = .ok (.aload_n 0, 1) := dk_42 (dk_at dksX4_plans_6 23 rfl rfl)
theorem dX4_plans_168 : decode cX4_plans 168 = .ok (.bipush 6, 2) := dk_16 6 (dk_at dksX4_plans_7 0 rfl rfl)
theorem dX4_plans_170 : decode cX4_plans 170 = .ok (.invokevirtual 292, 3) := dk_182 1 36 (dk_at dksX4_plans_7 2 rfl rfl)
theorem dX4_plans_173 : decode cX4_plans 173 = .ok (.if_icmp .lt 8, 3) := dk_161 0 8 (dk_at dksX4_plans_7 5 rfl rfl)
theorem dX4_plans_176 : decode cX4_plans 176 = .ok (.iload 10, 2) := dk_21 10 (dk_at dksX4_plans_7 8 rfl rfl)
theorem dX4_plans_178 : decode cX4_plans 178 = .ok (.goto 8, 3) := dk_167 0 8 (dk_at dksX4_plans_7 10 rfl rfl)
theorem dX4_plans_181 : decode cX4_plans 181 = .ok (.iload 4, 2) := dk_21 4 (dk_at dksX4_plans_7 13 rfl rfl)
theorem dX4_plans_183 : decode cX4_plans 183 = .ok (.iload 10, 2) := dk_21 10 (dk_at dksX4_plans_7 15 rfl rfl)
theorem dX4_plans_185 : decode cX4_plans 185 = .ok (.iadd, 1) := dk_96 (dk_at dksX4_plans_7 17 rfl rfl)
theorem dX4_plans_186 : decode cX4_plans 186 = .ok (.istore 4, 2) := dk_54 4 (dk_at dksX4_plans_7 18 rfl rfl)
theorem dX4_plans_188 : decode cX4_plans 188 = .ok (.iload 9, 2) := dk_21 9 (dk_at dksX4_plans_7 20 rfl rfl)
theorem dX4_plans_190 : decode cX4_plans 190 = .ok (.ifCond .eq 19, 3) := dk_153 0 19 (dk_at dksX4_plans_8 0 rfl rfl)
theorem dX4_plans_193 : decode cX4_plans 193 = .ok (.aload_n 0, 1) := dk_42 (dk_at dksX4_plans_8 3 rfl rfl)
theorem dX4_plans_194 : decode cX4_plans 194 = .ok (.iload 8, 2) := dk_21 8 (dk_at dksX4_plans_8 4 rfl rfl)
theorem dX4_plans_196 : decode cX4_plans 196 = .ok (.bipush 11, 2) := dk_16 11 (dk_at dksX4_plans_8 6 rfl rfl)
theorem dX4_plans_198 : decode cX4_plans 198 = .ok (.invokevirtual 274, 3) := dk_182 1 18 (dk_at dksX4_plans_8 8 rfl rfl)
theorem dX4_plans_201 : decode cX4_plans 201 = .ok (.iconst 1, 1) := dk_4 (dk_at dksX4_plans_8 11 rfl rfl)
theorem dX4_plans_202 : decode cX4_plans 202 = .ok (.if_icmp .ne 7, 3) := dk_160 0 7 (dk_at dksX4_plans_8 12 rfl rfl)
theorem dX4_plans_205 : decode cX4_plans 205 = .ok (.iconst 1, 1) := dk_4 (dk_at dksX4_plans_8 15 rfl rfl)
theorem dX4_plans_206 : decode cX4_plans 206 = .ok (.goto 4, 3) := dk_167 0 4 (dk_at dksX4_plans_8 16 rfl rfl)
theorem dX4_plans_209 : decode cX4_plans 209 = .ok (.iconst 0, 1) := dk_3 (dk_at dksX4_plans_8 19 rfl rfl)
theorem dX4_plans_210 : decode cX4_plans 210 = .ok (.istore 12, 2) := dk_54 12 (dk_at dksX4_plans_8 20 rfl rfl)
theorem dX4_plans_212 : decode cX4_plans 212 = .ok (.aload_n 0, 1) := dk_42 (dk_at dksX4_plans_8 22 rfl rfl)
theorem dX4_plans_213 : decode cX4_plans 213 = .ok (.getfield 53, 3) := dk_180 0 53 (dk_at dksX4_plans_9 0 rfl rfl)
theorem dX4_plans_216 : decode cX4_plans 216 = .ok (.iload 7, 2) := dk_21 7 (dk_at dksX4_plans_9 3 rfl rfl)
theorem dX4_plans_218 : decode cX4_plans 218 = .ok (.iload 11, 2) := dk_21 11 (dk_at dksX4_plans_9 5 rfl rfl)
theorem dX4_plans_220 : decode cX4_plans 220 = .ok (.iastore, 1) := dk_79 (dk_at dksX4_plans_9 7 rfl rfl)
theorem dX4_plans_221 : decode cX4_plans 221 = .ok (.aload_n 0, 1) := dk_42 (dk_at dksX4_plans_9 8 rfl rfl)
theorem dX4_plans_222 : decode cX4_plans 222 = .ok (.getfield 56, 3) := dk_180 0 56 (dk_at dksX4_plans_9 9 rfl rfl)
theorem dX4_plans_225 : decode cX4_plans 225 = .ok (.iload 7, 2) := dk_21 7 (dk_at dksX4_plans_9 12 rfl rfl)
theorem dX4_plans_227 : decode cX4_plans 227 = .ok (.iload 11, 2) := dk_21 11 (dk_at dksX4_plans_9 14 rfl rfl)
theorem dX4_plans_229 : decode cX4_plans 229 = .ok (.iload 10, 2) := dk_21 10 (dk_at dksX4_plans_9 16 rfl rfl)
theorem dX4_plans_231 : decode cX4_plans 231 = .ok (.iadd, 1) := dk_96 (dk_at dksX4_plans_9 18 rfl rfl)
theorem dX4_plans_232 : decode cX4_plans 232 = .ok (.iastore, 1) := dk_79 (dk_at dksX4_plans_9 19 rfl rfl)
theorem dX4_plans_233 : decode cX4_plans 233 = .ok (.aload_n 0, 1) := dk_42 (dk_at dksX4_plans_9 20 rfl rfl)
theorem dX4_plans_234 : decode cX4_plans 234 = .ok (.getfield 59, 3) := dk_180 0 59 (dk_at dksX4_plans_9 21 rfl rfl)
theorem dX4_plans_237 : decode cX4_plans 237 = .ok (.iload 7, 2) := dk_21 7 (dk_at dksX4_plans_10 0 rfl rfl)
theorem dX4_plans_239 : decode cX4_plans 239 = .ok (.aload_n 0, 1) := dk_42 (dk_at dksX4_plans_10 2 rfl rfl)
theorem dX4_plans_240 : decode cX4_plans 240 = .ok (.getfield 56, 3) := dk_180 0 56 (dk_at dksX4_plans_10 3 rfl rfl)
theorem dX4_plans_243 : decode cX4_plans 243 = .ok (.iload 7, 2) := dk_21 7 (dk_at dksX4_plans_10 6 rfl rfl)
theorem dX4_plans_245 : decode cX4_plans 245 = .ok (.iaload, 1) := dk_46 (dk_at dksX4_plans_10 8 rfl rfl)
theorem dX4_plans_246 : decode cX4_plans 246 = .ok (.aload_n 0, 1) := dk_42 (dk_at dksX4_plans_10 9 rfl rfl)
theorem dX4_plans_247 : decode cX4_plans 247 = .ok (.iload 12, 2) := dk_21 12 (dk_at dksX4_plans_10 10 rfl rfl)
theorem dX4_plans_249 : decode cX4_plans 249 = .ok (.ifCond .eq 7, 3) := dk_153 0 7 (dk_at dksX4_plans_10 12 rfl rfl)
theorem dX4_plans_252 : decode cX4_plans 252 = .ok (.iconst 3, 1) := dk_6 (dk_at dksX4_plans_10 15 rfl rfl)
theorem dX4_plans_253 : decode cX4_plans 253 = .ok (.goto 4, 3) := dk_167 0 4 (dk_at dksX4_plans_10 16 rfl rfl)
theorem dX4_plans_256 : decode cX4_plans 256 = .ok (.iconst 1, 1) := dk_4 (dk_at dksX4_plans_10 19 rfl rfl)
theorem dX4_plans_257 : decode cX4_plans 257 = .ok (.invokevirtual 292, 3) := dk_182 1 36 (dk_at dksX4_plans_10 20 rfl rfl)
theorem dX4_plans_260 : decode cX4_plans 260 = .ok (.iadd, 1) := dk_96 (dk_at dksX4_plans_10 23 rfl rfl)
theorem dX4_plans_261 : decode cX4_plans 261 = .ok (.iastore, 1) := dk_79 (dk_at dksX4_plans_11 0 rfl rfl)
theorem dX4_plans_262 : decode cX4_plans 262 = .ok (.aload_n 0, 1) := dk_42 (dk_at dksX4_plans_11 1 rfl rfl)
theorem dX4_plans_263 : decode cX4_plans 263 = .ok (.getfield 62, 3) := dk_180 0 62 (dk_at dksX4_plans_11 2 rfl rfl)
theorem dX4_plans_266 : decode cX4_plans 266 = .ok (.iload 7, 2) := dk_21 7 (dk_at dksX4_plans_11 5 rfl rfl)
theorem dX4_plans_268 : decode cX4_plans 268 = .ok (.iload 4, 2) := dk_21 4 (dk_at dksX4_plans_11 7 rfl rfl)
theorem dX4_plans_270 : decode cX4_plans 270 = .ok (.iastore, 1) := dk_79 (dk_at dksX4_plans_11 9 rfl rfl)
theorem dX4_plans_271 : decode cX4_plans 271 = .ok (.aload_n 0, 1) := dk_42 (dk_at dksX4_plans_11 10 rfl rfl)
theorem dX4_plans_272 : decode cX4_plans 272 = .ok (.getfield 65, 3) := dk_180 0 65 (dk_at dksX4_plans_11 11 rfl rfl)
theorem dX4_plans_275 : decode cX4_plans 275 = .ok (.iload 7, 2) := dk_21 7 (dk_at dksX4_plans_11 14 rfl rfl)
theorem dX4_plans_277 : decode cX4_plans 277 = .ok (.iload 10, 2) := dk_21 10 (dk_at dksX4_plans_11 16 rfl rfl)
theorem dX4_plans_279 : decode cX4_plans 279 = .ok (.iastore, 1) := dk_79 (dk_at dksX4_plans_11 18 rfl rfl)
theorem dX4_plans_280 : decode cX4_plans 280 = .ok (.iload 6, 2) := dk_21 6 (dk_at dksX4_plans_11 19 rfl rfl)
theorem dX4_plans_282 : decode cX4_plans 282 = .ok (.ifCond .eq 28, 3) := dk_153 0 28 (dk_at dksX4_plans_11 21 rfl rfl)
theorem dX4_plans_285 : decode cX4_plans 285 = .ok (.iload 5, 2) := dk_21 5 (dk_at dksX4_plans_12 0 rfl rfl)
theorem dX4_plans_287 : decode cX4_plans 287 = .ok (.aload_n 0, 1) := dk_42 (dk_at dksX4_plans_12 2 rfl rfl)
theorem dX4_plans_288 : decode cX4_plans 288 = .ok (.getfield 37, 3) := dk_180 0 37 (dk_at dksX4_plans_12 3 rfl rfl)
theorem dX4_plans_291 : decode cX4_plans 291 = .ok (.iload_n 1, 1) := dk_27 (dk_at dksX4_plans_12 6 rfl rfl)
theorem dX4_plans_292 : decode cX4_plans 292 = .ok (.iaload, 1) := dk_46 (dk_at dksX4_plans_12 7 rfl rfl)
theorem dX4_plans_293 : decode cX4_plans 293 = .ok (.if_icmp .gt 17, 3) := dk_163 0 17 (dk_at dksX4_plans_12 8 rfl rfl)
theorem dX4_plans_296 : decode cX4_plans 296 = .ok (.iload 4, 2) := dk_21 4 (dk_at dksX4_plans_12 11 rfl rfl)
theorem dX4_plans_298 : decode cX4_plans 298 = .ok (.aload_n 0, 1) := dk_42 (dk_at dksX4_plans_12 13 rfl rfl)
theorem dX4_plans_299 : decode cX4_plans 299 = .ok (.iconst 5, 1) := dk_8 (dk_at dksX4_plans_12 14 rfl rfl)
theorem dX4_plans_300 : decode cX4_plans 300 = .ok (.invokevirtual 292, 3) := dk_182 1 36 (dk_at dksX4_plans_12 15 rfl rfl)
theorem dX4_plans_303 : decode cX4_plans 303 = .ok (.if_icmp .gt 7, 3) := dk_163 0 7 (dk_at dksX4_plans_12 18 rfl rfl)
theorem dX4_plans_306 : decode cX4_plans 306 = .ok (.iconst 1, 1) := dk_4 (dk_at dksX4_plans_12 21 rfl rfl)
theorem dX4_plans_307 : decode cX4_plans 307 = .ok (.goto 4, 3) := dk_167 0 4 (dk_at dksX4_plans_13 0 rfl rfl)
theorem dX4_plans_310 : decode cX4_plans 310 = .ok (.iconst 0, 1) := dk_3 (dk_at dksX4_plans_13 3 rfl rfl)
theorem dX4_plans_311 : decode cX4_plans 311 = .ok (.istore 6, 2) := dk_54 6 (dk_at dksX4_plans_13 4 rfl rfl)
theorem dX4_plans_313 : decode cX4_plans 313 = .ok (.iload 9, 2) := dk_21 9 (dk_at dksX4_plans_13 6 rfl rfl)
theorem dX4_plans_315 : decode cX4_plans 315 = .ok (.ifCond .eq 70, 3) := dk_153 0 70 (dk_at dksX4_plans_13 8 rfl rfl)
theorem dX4_plans_318 : decode cX4_plans 318 = .ok (.iload 6, 2) := dk_21 6 (dk_at dksX4_plans_13 11 rfl rfl)
theorem dX4_plans_320 : decode cX4_plans 320 = .ok (.ifCond .eq 24, 3) := dk_153 0 24 (dk_at dksX4_plans_13 13 rfl rfl)
theorem dX4_plans_323 : decode cX4_plans 323 = .ok (.aload_n 0, 1) := dk_42 (dk_at dksX4_plans_13 16 rfl rfl)
theorem dX4_plans_324 : decode cX4_plans 324 = .ok (.getfield 56, 3) := dk_180 0 56 (dk_at dksX4_plans_13 17 rfl rfl)
theorem dX4_plans_327 : decode cX4_plans 327 = .ok (.iload 7, 2) := dk_21 7 (dk_at dksX4_plans_13 20 rfl rfl)
theorem dX4_plans_329 : decode cX4_plans 329 = .ok (.iaload, 1) := dk_46 (dk_at dksX4_plans_13 22 rfl rfl)
theorem dX4_plans_330 : decode cX4_plans 330 = .ok (.aload_n 0, 1) := dk_42 (dk_at dksX4_plans_13 23 rfl rfl)
theorem dX4_plans_331 : decode cX4_plans 331 = .ok (.iload 8, 2) := dk_21 8 (dk_at dksX4_plans_14 0 rfl rfl)
theorem dX4_plans_333 : decode cX4_plans 333 = .ok (.iconst 5, 1) := dk_8 (dk_at dksX4_plans_14 2 rfl rfl)
theorem dX4_plans_334 : decode cX4_plans 334 = .ok (.invokevirtual 274, 3) := dk_182 1 18 (dk_at dksX4_plans_14 3 rfl rfl)
theorem dX4_plans_337 : decode cX4_plans 337 = .ok (.if_icmp .gt 7, 3) := dk_163 0 7 (dk_at dksX4_plans_14 6 rfl rfl)
theorem dX4_plans_340 : decode cX4_plans 340 = .ok (.iconst 1, 1) := dk_4 (dk_at dksX4_plans_14 9 rfl rfl)
theorem dX4_plans_341 : decode cX4_plans 341 = .ok (.goto 4, 3) := dk_167 0 4 (dk_at dksX4_plans_14 10 rfl rfl)
theorem dX4_plans_344 : decode cX4_plans 344 = .ok (.iconst 0, 1) := dk_3 (dk_at dksX4_plans_14 13 rfl rfl)
theorem dX4_plans_345 : decode cX4_plans 345 = .ok (.istore 6, 2) := dk_54 6 (dk_at dksX4_plans_14 14 rfl rfl)
theorem dX4_plans_347 : decode cX4_plans 347 = .ok (.aload_n 0, 1) := dk_42 (dk_at dksX4_plans_14 16 rfl rfl)
theorem dX4_plans_348 : decode cX4_plans 348 = .ok (.getfield 68, 3) := dk_180 0 68 (dk_at dksX4_plans_14 17 rfl rfl)
theorem dX4_plans_351 : decode cX4_plans 351 = .ok (.iload 8, 2) := dk_21 8 (dk_at dksX4_plans_14 20 rfl rfl)
theorem dX4_plans_353 : decode cX4_plans 353 = .ok (.aload_n 0, 1) := dk_42 (dk_at dksX4_plans_14 22 rfl rfl)
theorem dX4_plans_354 : decode cX4_plans 354 = .ok (.getfield 59, 3) := dk_180 0 59 (dk_at dksX4_plans_15 0 rfl rfl)
theorem dX4_plans_357 : decode cX4_plans 357 = .ok (.iload 7, 2) := dk_21 7 (dk_at dksX4_plans_15 3 rfl rfl)
theorem dX4_plans_359 : decode cX4_plans 359 = .ok (.iaload, 1) := dk_46 (dk_at dksX4_plans_15 5 rfl rfl)
theorem dX4_plans_360 : decode cX4_plans 360 = .ok (.iastore, 1) := dk_79 (dk_at dksX4_plans_15 6 rfl rfl)
theorem dX4_plans_361 : decode cX4_plans 361 = .ok (.iload 5, 2) := dk_21 5 (dk_at dksX4_plans_15 7 rfl rfl)
theorem dX4_plans_363 : decode cX4_plans 363 = .ok (.iload 12, 2) := dk_21 12 (dk_at dksX4_plans_15 9 rfl rfl)
theorem dX4_plans_365 : decode cX4_plans 365 = .ok (.ifCond .eq 7, 3) := dk_153 0 7 (dk_at dksX4_plans_15 11 rfl rfl)
theorem dX4_plans_368 : decode cX4_plans 368 = .ok (.iconst 0, 1) := dk_3 (dk_at dksX4_plans_15 14 rfl rfl)
theorem dX4_plans_369 : decode cX4_plans 369 = .ok (.goto 10, 3) := dk_167 0 10 (dk_at dksX4_plans_15 15 rfl rfl)
theorem dX4_plans_372 : decode cX4_plans 372 = .ok (.aload_n 0, 1) := dk_42 (dk_at dksX4_plans_15 18 rfl rfl)
theorem dX4_plans_373 : decode cX4_plans 373 = .ok (.iload 8, 2) := dk_21 8 (dk_at dksX4_plans_15 19 rfl rfl)
theorem dX4_plans_375 : decode cX4_plans 375 = .ok (.iconst 3, 1) := dk_6 (dk_at dksX4_plans_15 21 rfl rfl)
theorem dX4_plans_376 : decode cX4_plans 376 = .ok (.invokevirtual 274, 3) := dk_182 1 18 (dk_at dksX4_plans_16 0 rfl rfl)
theorem dX4_plans_379 : decode cX4_plans 379 = .ok (.iadd, 1) := dk_96 (dk_at dksX4_plans_16 3 rfl rfl)
theorem dX4_plans_380 : decode cX4_plans 380 = .ok (.istore 5, 2) := dk_54 5 (dk_at dksX4_plans_16 4 rfl rfl)
theorem dX4_plans_382 : decode cX4_plans 382 = .ok (.goto 77, 3) := dk_167 0 77 (dk_at dksX4_plans_16 6 rfl rfl)
theorem dX4_plans_385 : decode cX4_plans 385 = .ok (.aload_n 0, 1) := dk_42 (dk_at dksX4_plans_16 9 rfl rfl)
theorem dX4_plans_386 : decode cX4_plans 386 = .ok (.iload 8, 2) := dk_21 8 (dk_at dksX4_plans_16 10 rfl rfl)
theorem dX4_plans_388 : decode cX4_plans 388 = .ok (.iconst 0, 1) := dk_3 (dk_at dksX4_plans_16 12 rfl rfl)
theorem dX4_plans_389 : decode cX4_plans 389 = .ok (.invokevirtual 274, 3) := dk_182 1 18 (dk_at dksX4_plans_16 13 rfl rfl)
theorem dX4_plans_392 : decode cX4_plans 392 = .ok (.iconst 2, 1) := dk_5 (dk_at dksX4_plans_16 16 rfl rfl)
theorem dX4_plans_393 : decode cX4_plans 393 = .ok (.if_icmp .ne 14, 3) := dk_160 0 14 (dk_at dksX4_plans_16 17 rfl rfl)
theorem dX4_plans_396 : decode cX4_plans 396 = .ok (.aload_n 0, 1) := dk_42 (dk_at dksX4_plans_16 20 rfl rfl)
theorem dX4_plans_397 : decode cX4_plans 397 = .ok (.iload 8, 2) := dk_21 8 (dk_at dksX4_plans_16 21 rfl rfl)
theorem dX4_plans_399 : decode cX4_plans 399 = .ok (.bipush 8, 2) := dk_16 8 (dk_at dksX4_plans_17 0 rfl rfl)
theorem dX4_plans_401 : decode cX4_plans 401 = .ok (.invokevirtual 274, 3) := dk_182 1 18 (dk_at dksX4_plans_17 2 rfl rfl)
theorem dX4_plans_404 : decode cX4_plans 404 = .ok (.goto 10, 3) := dk_167 0 10 (dk_at dksX4_plans_17 5 rfl rfl)
theorem dX4_plans_407 : decode cX4_plans 407 = .ok (.aload_n 0, 1) := dk_42 (dk_at dksX4_plans_17 8 rfl rfl)
theorem dX4_plans_408 : decode cX4_plans 408 = .ok (.getfield 68, 3) := dk_180 0 68 (dk_at dksX4_plans_17 9 rfl rfl)
theorem dX4_plans_411 : decode cX4_plans 411 = .ok (.iload 8, 2) := dk_21 8 (dk_at dksX4_plans_17 12 rfl rfl)
theorem dX4_plans_413 : decode cX4_plans 413 = .ok (.iaload, 1) := dk_46 (dk_at dksX4_plans_17 14 rfl rfl)
theorem dX4_plans_414 : decode cX4_plans 414 = .ok (.istore 13, 2) := dk_54 13 (dk_at dksX4_plans_17 15 rfl rfl)
theorem dX4_plans_416 : decode cX4_plans 416 = .ok (.iload 6, 2) := dk_21 6 (dk_at dksX4_plans_17 17 rfl rfl)
theorem dX4_plans_418 : decode cX4_plans 418 = .ok (.ifCond .eq 26, 3) := dk_153 0 26 (dk_at dksX4_plans_17 19 rfl rfl)
theorem dX4_plans_421 : decode cX4_plans 421 = .ok (.aload_n 0, 1) := dk_42 (dk_at dksX4_plans_17 22 rfl rfl)
theorem dX4_plans_422 : decode cX4_plans 422 = .ok (.getfield 56, 3) := dk_180 0 56 (dk_at dksX4_plans_18 0 rfl rfl)
theorem dX4_plans_425 : decode cX4_plans 425 = .ok (.iload 7, 2) := dk_21 7 (dk_at dksX4_plans_18 3 rfl rfl)
theorem dX4_plans_427 : decode cX4_plans 427 = .ok (.iaload, 1) := dk_46 (dk_at dksX4_plans_18 5 rfl rfl)
theorem dX4_plans_428 : decode cX4_plans 428 = .ok (.iload 13, 2) := dk_21 13 (dk_at dksX4_plans_18 6 rfl rfl)
theorem dX4_plans_430 : decode cX4_plans 430 = .ok (.aload_n 0, 1) := dk_42 (dk_at dksX4_plans_18 8 rfl rfl)
theorem dX4_plans_431 : decode cX4_plans 431 = .ok (.iload 8, 2) := dk_21 8 (dk_at dksX4_plans_18 9 rfl rfl)
theorem dX4_plans_433 : decode cX4_plans 433 = .ok (.invokevirtual 295, 3) := dk_182 1 39 (dk_at dksX4_plans_18 11 rfl rfl)
theorem dX4_plans_436 : decode cX4_plans 436 = .ok (.iadd, 1) := dk_96 (dk_at dksX4_plans_18 14 rfl rfl)
theorem dX4_plans_437 : decode cX4_plans 437 = .ok (.if_icmp .gt 7, 3) := dk_163 0 7 (dk_at dksX4_plans_18 15 rfl rfl)
theorem dX4_plans_440 : decode cX4_plans 440 = .ok (.iconst 1, 1) := dk_4 (dk_at dksX4_plans_18 18 rfl rfl)
theorem dX4_plans_441 : decode cX4_plans 441 = .ok (.goto 4, 3) := dk_167 0 4 (dk_at dksX4_plans_18 19 rfl rfl)
theorem dX4_plans_444 : decode cX4_plans 444 = .ok (.iconst 0, 1) := dk_3 (dk_at dksX4_plans_18 22 rfl rfl)
theorem dX4_plans_445 : decode cX4_plans 445 = .ok (.istore 6, 2) := dk_54 6 (dk_at dksX4_plans_19 0 rfl rfl)
theorem dX4_plans_447 : decode cX4_plans 447 = .ok (.iload 5, 2) := dk_21 5 (dk_at dksX4_plans_19 2 rfl rfl)
theorem dX4_plans_449 : decode cX4_plans 449 = .ok (.aload_n 0, 1) := dk_42 (dk_at dksX4_plans_19 4 rfl rfl)
theorem dX4_plans_450 : decode cX4_plans 450 = .ok (.iload 8, 2) := dk_21 8 (dk_at dksX4_plans_19 5 rfl rfl)
theorem dX4_plans_452 : decode cX4_plans 452 = .ok (.iconst 3, 1) := dk_6 (dk_at dksX4_plans_19 7 rfl rfl)
theorem dX4_plans_453 : decode cX4_plans 453 = .ok (.invokevirtual 274, 3) := dk_182 1 18 (dk_at dksX4_plans_19 8 rfl rfl)
theorem dX4_plans_456 : decode cX4_plans 456 = .ok (.isub, 1) := dk_100 (dk_at dksX4_plans_19 11 rfl rfl)
theorem dX4_plans_457 : decode cX4_plans 457 = .ok (.istore 5, 2) := dk_54 5 (dk_at dksX4_plans_19 12 rfl rfl)
theorem dX4_plans_459 : decode cX4_plans 459 = .ok (.aload_n 0, 1) := dk_42 (dk_at dksX4_plans_19 14 rfl rfl)
theorem dX4_plans_460 : decode cX4_plans 460 = .ok (.getfield 59, 3) := dk_180 0 59 (dk_at dksX4_plans_19 15 rfl rfl)
theorem dX4_plans_463 : decode cX4_plans 463 = .ok (.iload 7, 2) := dk_21 7 (dk_at dksX4_plans_19 18 rfl rfl)
theorem dX4_plans_465 : decode cX4_plans 465 = .ok (.iaload, 1) := dk_46 (dk_at dksX4_plans_19 20 rfl rfl)
theorem dX4_plans_466 : decode cX4_plans 466 = .ok (.istore_n 3, 1) := dk_62 (dk_at dksX4_plans_19 21 rfl rfl)
theorem dX4_plans_467 : decode cX4_plans 467 = .ok (.aload_n 0, 1) := dk_42 (dk_at dksX4_plans_19 22 rfl rfl)
theorem dX4_plans_468 : decode cX4_plans 468 = .ok (.aload_n 0, 1) := dk_42 (dk_at dksX4_plans_19 23 rfl rfl)
theorem dX4_plans_469 : decode cX4_plans 469 = .ok (.getfield 50, 3) := dk_180 0 50 (dk_at dksX4_plans_20 0 rfl rfl)
theorem dX4_plans_472 : decode cX4_plans 472 = .ok (.iload 7, 2) := dk_21 7 (dk_at dksX4_plans_20 3 rfl rfl)
theorem dX4_plans_474 : decode cX4_plans 474 = .ok (.iaload, 1) := dk_46 (dk_at dksX4_plans_20 5 rfl rfl)
theorem dX4_plans_475 : decode cX4_plans 475 = .ok (.invokevirtual 283, 3) := dk_182 1 27 (dk_at dksX4_plans_20 6 rfl rfl)
theorem dX4_plans_478 : decode cX4_plans 478 = .ok (.istore_n 2, 1) := dk_61 (dk_at dksX4_plans_20 9 rfl rfl)
theorem dX4_plans_479 : decode cX4_plans 479 = .ok (.iinc 7 1, 3) := dk_132 7 1 (dk_at dksX4_plans_20 10 rfl rfl)
theorem dX4_plans_482 : decode cX4_plans 482 = .ok (.goto (-447), 3) := dk_167 254 65 (dk_at dksX4_plans_20 13 rfl rfl)
theorem dX4_plans_485 : decode cX4_plans 485 = .ok (.iload 6, 2) := dk_21 6 (dk_at dksX4_plans_20 16 rfl rfl)
theorem dX4_plans_487 : decode cX4_plans 487 = .ok (.ifCond .eq 34, 3) := dk_153 0 34 (dk_at dksX4_plans_20 18 rfl rfl)
theorem dX4_plans_490 : decode cX4_plans 490 = .ok (.aload_n 0, 1) := dk_42 (dk_at dksX4_plans_20 21 rfl rfl)
theorem dX4_plans_491 : decode cX4_plans 491 = .ok (.getfield 271, 3) := dk_180 1 15 (dk_at dksX4_plans_21 0 rfl rfl)
theorem dX4_plans_494 : decode cX4_plans 494 = .ok (.ifCond .eq 23, 3) := dk_153 0 23 (dk_at dksX4_plans_21 3 rfl rfl)
theorem dX4_plans_497 : decode cX4_plans 497 = .ok (.aload_n 0, 1) := dk_42 (dk_at dksX4_plans_21 6 rfl rfl)
theorem dX4_plans_498 : decode cX4_plans 498 = .ok (.getfield 59, 3) := dk_180 0 59 (dk_at dksX4_plans_21 7 rfl rfl)
theorem dX4_plans_501 : decode cX4_plans 501 = .ok (.aload_n 0, 1) := dk_42 (dk_at dksX4_plans_21 10 rfl rfl)
theorem dX4_plans_502 : decode cX4_plans 502 = .ok (.getfield 271, 3) := dk_180 1 15 (dk_at dksX4_plans_21 11 rfl rfl)
theorem dX4_plans_505 : decode cX4_plans 505 = .ok (.iconst 1, 1) := dk_4 (dk_at dksX4_plans_21 14 rfl rfl)
theorem dX4_plans_506 : decode cX4_plans 506 = .ok (.isub, 1) := dk_100 (dk_at dksX4_plans_21 15 rfl rfl)
theorem dX4_plans_507 : decode cX4_plans 507 = .ok (.iaload, 1) := dk_46 (dk_at dksX4_plans_21 16 rfl rfl)
theorem dX4_plans_508 : decode cX4_plans 508 = .ok (.aload_n 0, 1) := dk_42 (dk_at dksX4_plans_21 17 rfl rfl)
theorem dX4_plans_509 : decode cX4_plans 509 = .ok (.iload_n 1, 1) := dk_27 (dk_at dksX4_plans_21 18 rfl rfl)
theorem dX4_plans_510 : decode cX4_plans 510 = .ok (.iconst 4, 1) := dk_7 (dk_at dksX4_plans_21 19 rfl rfl)
theorem dX4_plans_511 : decode cX4_plans 511 = .ok (.invokevirtual 268, 3) := dk_182 1 12 (dk_at dksX4_plans_21 20 rfl rfl)
theorem dX4_plans_514 : decode cX4_plans 514 = .ok (.if_icmp .gt 7, 3) := dk_163 0 7 (dk_at dksX4_plans_22 0 rfl rfl)
theorem dX4_plans_517 : decode cX4_plans 517 = .ok (.iconst 1, 1) := dk_4 (dk_at dksX4_plans_22 3 rfl rfl)
theorem dX4_plans_518 : decode cX4_plans 518 = .ok (.goto 4, 3) := dk_167 0 4 (dk_at dksX4_plans_22 4 rfl rfl)
theorem dX4_plans_521 : decode cX4_plans 521 = .ok (.iconst 0, 1) := dk_3 (dk_at dksX4_plans_22 7 rfl rfl)
theorem dX4_plans_522 : decode cX4_plans 522 = .ok (.ireturn, 1) := dk_172 (dk_at dksX4_plans_22 8 rfl rfl)
abbrev cX4_zoneOf : ByteArray := prog_25_method_42_code
def yX4_zoneOf : MethodName := ⟨RX4, "zoneOf", "(I)I"⟩
def dkwX4_zoneOf_0 : List UInt8 := [42, 27, 5, 108, 27, 4, 126, 4, 160, 0, 7, 4, 167, 0, 4, 5, 182, 1, 18, 172]
abbrev dktX4_zoneOf_0 : List UInt8 := dkwX4_zoneOf_0 ++ []
theorem dksX4_zoneOf_0 : cX4_zoneOf.data.toList.drop 0 = dktX4_zoneOf_0 := by decide +kernel
theorem dX4_zoneOf_0 : decode cX4_zoneOf 0 = .ok (.aload_n 0, 1) := dk_42 (dk_at dksX4_zoneOf_0 0 rfl rfl)
theorem dX4_zoneOf_1 : decode cX4_zoneOf 1 = .ok (.iload_n 1, 1) := dk_27 (dk_at dksX4_zoneOf_0 1 rfl rfl)
theorem dX4_zoneOf_2 : decode cX4_zoneOf 2 = .ok (.iconst 2, 1) := dk_5 (dk_at dksX4_zoneOf_0 2 rfl rfl)
theorem dX4_zoneOf_3 : decode cX4_zoneOf 3 = .ok (.idiv, 1) := dk_108 (dk_at dksX4_zoneOf_0 3 rfl rfl)
theorem dX4_zoneOf_4 : decode cX4_zoneOf 4 = .ok (.iload_n 1, 1) := dk_27 (dk_at dksX4_zoneOf_0 4 rfl rfl)
theorem dX4_zoneOf_5 : decode cX4_zoneOf 5 = .ok (.iconst 1, 1) := dk_4 (dk_at dksX4_zoneOf_0 5 rfl rfl)
theorem dX4_zoneOf_6 : decode cX4_zoneOf 6 = .ok (.iand, 1) := dk_126 (dk_at dksX4_zoneOf_0 6 rfl rfl)
theorem dX4_zoneOf_7 : decode cX4_zoneOf 7 = .ok (.iconst 1, 1) := dk_4 (dk_at dksX4_zoneOf_0 7 rfl rfl)
theorem dX4_zoneOf_8 : decode cX4_zoneOf 8 = .ok (.if_icmp .ne 7, 3) := dk_160 0 7 (dk_at dksX4_zoneOf_0 8 rfl rfl)
theorem dX4_zoneOf_11 : decode cX4_zoneOf 11 = .ok (.iconst 1, 1) := dk_4 (dk_at dksX4_zoneOf_0 11 rfl rfl)
theorem dX4_zoneOf_12 : decode cX4_zoneOf 12 = .ok (.goto 4, 3) := dk_167 0 4 (dk_at dksX4_zoneOf_0 12 rfl rfl)
theorem dX4_zoneOf_15 : decode cX4_zoneOf 15 = .ok (.iconst 2, 1) := dk_5 (dk_at dksX4_zoneOf_0 15 rfl rfl)
theorem dX4_zoneOf_16 : decode cX4_zoneOf 16 = .ok (.invokevirtual 274, 3) := dk_182 1 18 (dk_at dksX4_zoneOf_0 16 rfl rfl)
theorem dX4_zoneOf_19 : decode cX4_zoneOf 19 = .ok (.ireturn, 1) := dk_172 (dk_at dksX4_zoneOf_0 19 rfl rfl)
abbrev cX4_greater : ByteArray := prog_25_method_5_code
def yX4_greater : MethodName := ⟨RX4, "greater", "(II)I"⟩
def dkwX4_greater_0 : List UInt8 := [26, 27, 164, 0, 7, 26, 167, 0, 4, 27, 172]
abbrev dktX4_greater_0 : List UInt8 := dkwX4_greater_0 ++ []
theorem dksX4_greater_0 : cX4_greater.data.toList.drop 0 = dktX4_greater_0 := by decide +kernel
theorem dX4_greater_0 : decode cX4_greater 0 = .ok (.iload_n 0, 1) := dk_26 (dk_at dksX4_greater_0 0 rfl rfl)
theorem dX4_greater_1 : decode cX4_greater 1 = .ok (.iload_n 1, 1) := dk_27 (dk_at dksX4_greater_0 1 rfl rfl)
theorem dX4_greater_2 : decode cX4_greater 2 = .ok (.if_icmp .le 7, 3) := dk_164 0 7 (dk_at dksX4_greater_0 2 rfl rfl)
theorem dX4_greater_5 : decode cX4_greater 5 = .ok (.iload_n 0, 1) := dk_26 (dk_at dksX4_greater_0 5 rfl rfl)
theorem dX4_greater_6 : decode cX4_greater 6 = .ok (.goto 4, 3) := dk_167 0 4 (dk_at dksX4_greater_0 6 rfl rfl)
theorem dX4_greater_9 : decode cX4_greater 9 = .ok (.iload_n 1, 1) := dk_27 (dk_at dksX4_greater_0 9 rfl rfl)
theorem dX4_greater_10 : decode cX4_greater 10 = .ok (.ireturn, 1) := dk_172 (dk_at dksX4_greater_0 10 rfl rfl)
abbrev cX4_mostOf : ByteArray := prog_25_method_45_code
def yX4_mostOf : MethodName := ⟨RX4, "mostOf", "(I)I"⟩
def dkwX4_mostOf_1 : List UInt8 := [182, 1, 18, 96, 104, 16, 100, 108, 172]
abbrev dktX4_mostOf_1 : List UInt8 := dkwX4_mostOf_1 ++ []
def dkwX4_mostOf_0 : List UInt8 := [42, 27, 182, 1, 24, 61, 28, 2, 160, 0, 7, 2, 167, 0, 18, 28, 16, 100, 42, 27, 16, 6]
abbrev dktX4_mostOf_0 : List UInt8 := dkwX4_mostOf_0 ++ dktX4_mostOf_1
theorem dksX4_mostOf_0 : cX4_mostOf.data.toList.drop 0 = dktX4_mostOf_0 := by decide +kernel
theorem dksX4_mostOf_1 : cX4_mostOf.data.toList.drop 22 = dktX4_mostOf_1 := dk_seg dksX4_mostOf_0 22 rfl rfl
theorem dX4_mostOf_0 : decode cX4_mostOf 0 = .ok (.aload_n 0, 1) := dk_42 (dk_at dksX4_mostOf_0 0 rfl rfl)
theorem dX4_mostOf_1 : decode cX4_mostOf 1 = .ok (.iload_n 1, 1) := dk_27 (dk_at dksX4_mostOf_0 1 rfl rfl)
theorem dX4_mostOf_2 : decode cX4_mostOf 2 = .ok (.invokevirtual 280, 3) := dk_182 1 24 (dk_at dksX4_mostOf_0 2 rfl rfl)
theorem dX4_mostOf_5 : decode cX4_mostOf 5 = .ok (.istore_n 2, 1) := dk_61 (dk_at dksX4_mostOf_0 5 rfl rfl)
theorem dX4_mostOf_6 : decode cX4_mostOf 6 = .ok (.iload_n 2, 1) := dk_28 (dk_at dksX4_mostOf_0 6 rfl rfl)
theorem dX4_mostOf_7 : decode cX4_mostOf 7 = .ok (.iconst (-1), 1) := dk_2 (dk_at dksX4_mostOf_0 7 rfl rfl)
theorem dX4_mostOf_8 : decode cX4_mostOf 8 = .ok (.if_icmp .ne 7, 3) := dk_160 0 7 (dk_at dksX4_mostOf_0 8 rfl rfl)
theorem dX4_mostOf_11 : decode cX4_mostOf 11 = .ok (.iconst (-1), 1) := dk_2 (dk_at dksX4_mostOf_0 11 rfl rfl)
theorem dX4_mostOf_12 : decode cX4_mostOf 12 = .ok (.goto 18, 3) := dk_167 0 18 (dk_at dksX4_mostOf_0 12 rfl rfl)
theorem dX4_mostOf_15 : decode cX4_mostOf 15 = .ok (.iload_n 2, 1) := dk_28 (dk_at dksX4_mostOf_0 15 rfl rfl)
theorem dX4_mostOf_16 : decode cX4_mostOf 16 = .ok (.bipush 100, 2) := dk_16 100 (dk_at dksX4_mostOf_0 16 rfl rfl)
theorem dX4_mostOf_18 : decode cX4_mostOf 18 = .ok (.aload_n 0, 1) := dk_42 (dk_at dksX4_mostOf_0 18 rfl rfl)
theorem dX4_mostOf_19 : decode cX4_mostOf 19 = .ok (.iload_n 1, 1) := dk_27 (dk_at dksX4_mostOf_0 19 rfl rfl)
theorem dX4_mostOf_20 : decode cX4_mostOf 20 = .ok (.bipush 6, 2) := dk_16 6 (dk_at dksX4_mostOf_0 20 rfl rfl)
theorem dX4_mostOf_22 : decode cX4_mostOf 22 = .ok (.invokevirtual 274, 3) := dk_182 1 18 (dk_at dksX4_mostOf_1 0 rfl rfl)
theorem dX4_mostOf_25 : decode cX4_mostOf 25 = .ok (.iadd, 1) := dk_96 (dk_at dksX4_mostOf_1 3 rfl rfl)
theorem dX4_mostOf_26 : decode cX4_mostOf 26 = .ok (.imul, 1) := dk_104 (dk_at dksX4_mostOf_1 4 rfl rfl)
theorem dX4_mostOf_27 : decode cX4_mostOf 27 = .ok (.bipush 100, 2) := dk_16 100 (dk_at dksX4_mostOf_1 5 rfl rfl)
theorem dX4_mostOf_29 : decode cX4_mostOf 29 = .ok (.idiv, 1) := dk_108 (dk_at dksX4_mostOf_1 7 rfl rfl)
theorem dX4_mostOf_30 : decode cX4_mostOf 30 = .ok (.ireturn, 1) := dk_172 (dk_at dksX4_mostOf_1 8 rfl rfl)
abbrev cX4_directOf : ByteArray := prog_25_method_44_code
def yX4_directOf : MethodName := ⟨RX4, "directOf", "(I)I"⟩
def dkwX4_directOf_0 : List UInt8 := [42, 42, 27, 4, 182, 1, 18, 42, 27, 5, 182, 1, 18, 182, 1, 21, 172]
abbrev dktX4_directOf_0 : List UInt8 := dkwX4_directOf_0 ++ []
theorem dksX4_directOf_0 : cX4_directOf.data.toList.drop 0 = dktX4_directOf_0 := by decide +kernel
theorem dX4_directOf_0 : decode cX4_directOf 0 = .ok (.aload_n 0, 1) := dk_42 (dk_at dksX4_directOf_0 0 rfl rfl)
theorem dX4_directOf_1 : decode cX4_directOf 1 = .ok (.aload_n 0, 1) := dk_42 (dk_at dksX4_directOf_0 1 rfl rfl)
theorem dX4_directOf_2 : decode cX4_directOf 2 = .ok (.iload_n 1, 1) := dk_27 (dk_at dksX4_directOf_0 2 rfl rfl)
theorem dX4_directOf_3 : decode cX4_directOf 3 = .ok (.iconst 1, 1) := dk_4 (dk_at dksX4_directOf_0 3 rfl rfl)
theorem dX4_directOf_4 : decode cX4_directOf 4 = .ok (.invokevirtual 274, 3) := dk_182 1 18 (dk_at dksX4_directOf_0 4 rfl rfl)
theorem dX4_directOf_7 : decode cX4_directOf 7 = .ok (.aload_n 0, 1) := dk_42 (dk_at dksX4_directOf_0 7 rfl rfl)
theorem dX4_directOf_8 : decode cX4_directOf 8 = .ok (.iload_n 1, 1) := dk_27 (dk_at dksX4_directOf_0 8 rfl rfl)
theorem dX4_directOf_9 : decode cX4_directOf 9 = .ok (.iconst 2, 1) := dk_5 (dk_at dksX4_directOf_0 9 rfl rfl)
theorem dX4_directOf_10 : decode cX4_directOf 10 = .ok (.invokevirtual 274, 3) := dk_182 1 18 (dk_at dksX4_directOf_0 10 rfl rfl)
theorem dX4_directOf_13 : decode cX4_directOf 13 = .ok (.invokevirtual 277, 3) := dk_182 1 21 (dk_at dksX4_directOf_0 13 rfl rfl)
theorem dX4_directOf_16 : decode cX4_directOf 16 = .ok (.ireturn, 1) := dk_172 (dk_at dksX4_directOf_0 16 rfl rfl)
abbrev cX4_ride : ByteArray := prog_25_method_72_code
def yX4_ride : MethodName := ⟨RX4, "ride", "(II)I"⟩
def dkwX4_ride_5 : List UInt8 := [182, 1, 18, 172]
abbrev dktX4_ride_5 : List UInt8 := dkwX4_ride_5 ++ []
def dkwX4_ride_4 : List UInt8 := [182, 1, 18, 172, 42, 27, 16, 9, 182, 1, 18, 172, 42, 27, 16, 10, 182, 1, 18, 172, 42, 27, 16, 11]
abbrev dktX4_ride_4 : List UInt8 := dkwX4_ride_4 ++ dktX4_ride_5
def dkwX4_ride_3 : List UInt8 := [42, 27, 182, 1, 24, 172, 42, 27, 182, 1, 39, 172, 42, 27, 16, 7, 182, 1, 18, 172, 42, 27, 16, 8]
abbrev dktX4_ride_3 : List UInt8 := dkwX4_ride_3 ++ dktX4_ride_4
def dkwX4_ride_2 : List UInt8 := [170, 0, 0, 0, 0, 82, 0, 0, 0, 7, 0, 0, 0, 12, 0, 0, 0, 38, 0, 0, 0, 44, 0, 0, 0, 50, 0, 0, 0, 58, 0, 0, 0, 66, 0, 0, 0, 74]
abbrev dktX4_ride_2 : List UInt8 := dkwX4_ride_2 ++ dktX4_ride_3
def dkwX4_ride_1 : List UInt8 := [182, 1, 0, 153, 0, 5, 3, 172, 28, 16, 7, 162, 0, 10, 42, 27, 28, 182, 1, 18, 172, 28]
abbrev dktX4_ride_1 : List UInt8 := dkwX4_ride_1 ++ dktX4_ride_2
def dkwX4_ride_0 : List UInt8 := [42, 3, 181, 0, 93, 42, 27, 182, 1, 124, 154, 0, 20, 42, 28, 133, 9, 20, 1, 127, 184, 0, 197, 4]
abbrev dktX4_ride_0 : List UInt8 := dkwX4_ride_0 ++ dktX4_ride_1
theorem dksX4_ride_0 : cX4_ride.data.toList.drop 0 = dktX4_ride_0 := by decide +kernel
theorem dksX4_ride_1 : cX4_ride.data.toList.drop 24 = dktX4_ride_1 := dk_seg dksX4_ride_0 24 rfl rfl
theorem dksX4_ride_2 : cX4_ride.data.toList.drop 46 = dktX4_ride_2 := dk_seg dksX4_ride_1 22 rfl rfl
theorem dksX4_ride_3 : cX4_ride.data.toList.drop 84 = dktX4_ride_3 := dk_seg dksX4_ride_2 38 rfl rfl
theorem dksX4_ride_4 : cX4_ride.data.toList.drop 108 = dktX4_ride_4 := dk_seg dksX4_ride_3 24 rfl rfl
theorem dksX4_ride_5 : cX4_ride.data.toList.drop 132 = dktX4_ride_5 := dk_seg dksX4_ride_4 24 rfl rfl
theorem dX4_ride_0 : decode cX4_ride 0 = .ok (.aload_n 0, 1) := dk_42 (dk_at dksX4_ride_0 0 rfl rfl)
theorem dX4_ride_1 : decode cX4_ride 1 = .ok (.iconst 0, 1) := dk_3 (dk_at dksX4_ride_0 1 rfl rfl)
theorem dX4_ride_2 : decode cX4_ride 2 = .ok (.putfield 93, 3) := dk_181 0 93 (dk_at dksX4_ride_0 2 rfl rfl)
theorem dX4_ride_5 : decode cX4_ride 5 = .ok (.aload_n 0, 1) := dk_42 (dk_at dksX4_ride_0 5 rfl rfl)
theorem dX4_ride_6 : decode cX4_ride 6 = .ok (.iload_n 1, 1) := dk_27 (dk_at dksX4_ride_0 6 rfl rfl)
theorem dX4_ride_7 : decode cX4_ride 7 = .ok (.invokevirtual 380, 3) := dk_182 1 124 (dk_at dksX4_ride_0 7 rfl rfl)
theorem dX4_ride_10 : decode cX4_ride 10 = .ok (.ifCond .ne 20, 3) := dk_154 0 20 (dk_at dksX4_ride_0 10 rfl rfl)
theorem dX4_ride_13 : decode cX4_ride 13 = .ok (.aload_n 0, 1) := dk_42 (dk_at dksX4_ride_0 13 rfl rfl)
theorem dX4_ride_14 : decode cX4_ride 14 = .ok (.iload_n 2, 1) := dk_28 (dk_at dksX4_ride_0 14 rfl rfl)
theorem dX4_ride_15 : decode cX4_ride 15 = .ok (.i2l, 1) := dk_133 (dk_at dksX4_ride_0 15 rfl rfl)
theorem dX4_ride_16 : decode cX4_ride 16 = .ok (.lconst 0, 1) := dk_9 (dk_at dksX4_ride_0 16 rfl rfl)
theorem dX4_ride_17 : decode cX4_ride 17 = .ok (.ldc2_w 383, 3) := dk_20 1 127 (dk_at dksX4_ride_0 17 rfl rfl)
theorem dX4_ride_20 : decode cX4_ride 20 = .ok (.invokestatic 197, 3) := dk_184 0 197 (dk_at dksX4_ride_0 20 rfl rfl)
theorem dX4_ride_23 : decode cX4_ride 23 = .ok (.iconst 1, 1) := dk_4 (dk_at dksX4_ride_0 23 rfl rfl)
theorem dX4_ride_24 : decode cX4_ride 24 = .ok (.invokevirtual 256, 3) := dk_182 1 0 (dk_at dksX4_ride_1 0 rfl rfl)
theorem dX4_ride_27 : decode cX4_ride 27 = .ok (.ifCond .eq 5, 3) := dk_153 0 5 (dk_at dksX4_ride_1 3 rfl rfl)
theorem dX4_ride_30 : decode cX4_ride 30 = .ok (.iconst 0, 1) := dk_3 (dk_at dksX4_ride_1 6 rfl rfl)
theorem dX4_ride_31 : decode cX4_ride 31 = .ok (.ireturn, 1) := dk_172 (dk_at dksX4_ride_1 7 rfl rfl)
theorem dX4_ride_32 : decode cX4_ride 32 = .ok (.iload_n 2, 1) := dk_28 (dk_at dksX4_ride_1 8 rfl rfl)
theorem dX4_ride_33 : decode cX4_ride 33 = .ok (.bipush 7, 2) := dk_16 7 (dk_at dksX4_ride_1 9 rfl rfl)
theorem dX4_ride_35 : decode cX4_ride 35 = .ok (.if_icmp .ge 10, 3) := dk_162 0 10 (dk_at dksX4_ride_1 11 rfl rfl)
theorem dX4_ride_38 : decode cX4_ride 38 = .ok (.aload_n 0, 1) := dk_42 (dk_at dksX4_ride_1 14 rfl rfl)
theorem dX4_ride_39 : decode cX4_ride 39 = .ok (.iload_n 1, 1) := dk_27 (dk_at dksX4_ride_1 15 rfl rfl)
theorem dX4_ride_40 : decode cX4_ride 40 = .ok (.iload_n 2, 1) := dk_28 (dk_at dksX4_ride_1 16 rfl rfl)
theorem dX4_ride_41 : decode cX4_ride 41 = .ok (.invokevirtual 274, 3) := dk_182 1 18 (dk_at dksX4_ride_1 17 rfl rfl)
theorem dX4_ride_44 : decode cX4_ride 44 = .ok (.ireturn, 1) := dk_172 (dk_at dksX4_ride_1 20 rfl rfl)
theorem dX4_ride_45 : decode cX4_ride 45 = .ok (.iload_n 2, 1) := dk_28 (dk_at dksX4_ride_1 21 rfl rfl)
theorem dX4_ride_46 : decode cX4_ride 46 = .ok (.tableswitch 82 7 12 #[38, 44, 50, 58, 66, 74], 38) := by decide +kernel
theorem dX4_ride_84 : decode cX4_ride 84 = .ok (.aload_n 0, 1) := dk_42 (dk_at dksX4_ride_3 0 rfl rfl)
theorem dX4_ride_85 : decode cX4_ride 85 = .ok (.iload_n 1, 1) := dk_27 (dk_at dksX4_ride_3 1 rfl rfl)
theorem dX4_ride_86 : decode cX4_ride 86 = .ok (.invokevirtual 280, 3) := dk_182 1 24 (dk_at dksX4_ride_3 2 rfl rfl)
theorem dX4_ride_89 : decode cX4_ride 89 = .ok (.ireturn, 1) := dk_172 (dk_at dksX4_ride_3 5 rfl rfl)
theorem dX4_ride_90 : decode cX4_ride 90 = .ok (.aload_n 0, 1) := dk_42 (dk_at dksX4_ride_3 6 rfl rfl)
theorem dX4_ride_91 : decode cX4_ride 91 = .ok (.iload_n 1, 1) := dk_27 (dk_at dksX4_ride_3 7 rfl rfl)
theorem dX4_ride_92 : decode cX4_ride 92 = .ok (.invokevirtual 295, 3) := dk_182 1 39 (dk_at dksX4_ride_3 8 rfl rfl)
theorem dX4_ride_95 : decode cX4_ride 95 = .ok (.ireturn, 1) := dk_172 (dk_at dksX4_ride_3 11 rfl rfl)
theorem dX4_ride_96 : decode cX4_ride 96 = .ok (.aload_n 0, 1) := dk_42 (dk_at dksX4_ride_3 12 rfl rfl)
theorem dX4_ride_97 : decode cX4_ride 97 = .ok (.iload_n 1, 1) := dk_27 (dk_at dksX4_ride_3 13 rfl rfl)
theorem dX4_ride_98 : decode cX4_ride 98 = .ok (.bipush 7, 2) := dk_16 7 (dk_at dksX4_ride_3 14 rfl rfl)
theorem dX4_ride_100 : decode cX4_ride 100 = .ok (.invokevirtual 274, 3) := dk_182 1 18 (dk_at dksX4_ride_3 16 rfl rfl)
theorem dX4_ride_103 : decode cX4_ride 103 = .ok (.ireturn, 1) := dk_172 (dk_at dksX4_ride_3 19 rfl rfl)
theorem dX4_ride_104 : decode cX4_ride 104 = .ok (.aload_n 0, 1) := dk_42 (dk_at dksX4_ride_3 20 rfl rfl)
theorem dX4_ride_105 : decode cX4_ride 105 = .ok (.iload_n 1, 1) := dk_27 (dk_at dksX4_ride_3 21 rfl rfl)
theorem dX4_ride_106 : decode cX4_ride 106 = .ok (.bipush 8, 2) := dk_16 8 (dk_at dksX4_ride_3 22 rfl rfl)
theorem dX4_ride_108 : decode cX4_ride 108 = .ok (.invokevirtual 274, 3) := dk_182 1 18 (dk_at dksX4_ride_4 0 rfl rfl)
theorem dX4_ride_111 : decode cX4_ride 111 = .ok (.ireturn, 1) := dk_172 (dk_at dksX4_ride_4 3 rfl rfl)
theorem dX4_ride_112 : decode cX4_ride 112 = .ok (.aload_n 0, 1) := dk_42 (dk_at dksX4_ride_4 4 rfl rfl)
theorem dX4_ride_113 : decode cX4_ride 113 = .ok (.iload_n 1, 1) := dk_27 (dk_at dksX4_ride_4 5 rfl rfl)
theorem dX4_ride_114 : decode cX4_ride 114 = .ok (.bipush 9, 2) := dk_16 9 (dk_at dksX4_ride_4 6 rfl rfl)
theorem dX4_ride_116 : decode cX4_ride 116 = .ok (.invokevirtual 274, 3) := dk_182 1 18 (dk_at dksX4_ride_4 8 rfl rfl)
theorem dX4_ride_119 : decode cX4_ride 119 = .ok (.ireturn, 1) := dk_172 (dk_at dksX4_ride_4 11 rfl rfl)
theorem dX4_ride_120 : decode cX4_ride 120 = .ok (.aload_n 0, 1) := dk_42 (dk_at dksX4_ride_4 12 rfl rfl)
theorem dX4_ride_121 : decode cX4_ride 121 = .ok (.iload_n 1, 1) := dk_27 (dk_at dksX4_ride_4 13 rfl rfl)
theorem dX4_ride_122 : decode cX4_ride 122 = .ok (.bipush 10, 2) := dk_16 10 (dk_at dksX4_ride_4 14 rfl rfl)
theorem dX4_ride_124 : decode cX4_ride 124 = .ok (.invokevirtual 274, 3) := dk_182 1 18 (dk_at dksX4_ride_4 16 rfl rfl)
theorem dX4_ride_127 : decode cX4_ride 127 = .ok (.ireturn, 1) := dk_172 (dk_at dksX4_ride_4 19 rfl rfl)
theorem dX4_ride_128 : decode cX4_ride 128 = .ok (.aload_n 0, 1) := dk_42 (dk_at dksX4_ride_4 20 rfl rfl)
theorem dX4_ride_129 : decode cX4_ride 129 = .ok (.iload_n 1, 1) := dk_27 (dk_at dksX4_ride_4 21 rfl rfl)
theorem dX4_ride_130 : decode cX4_ride 130 = .ok (.bipush 11, 2) := dk_16 11 (dk_at dksX4_ride_4 22 rfl rfl)
theorem dX4_ride_132 : decode cX4_ride 132 = .ok (.invokevirtual 274, 3) := dk_182 1 18 (dk_at dksX4_ride_5 0 rfl rfl)
theorem dX4_ride_135 : decode cX4_ride 135 = .ok (.ireturn, 1) := dk_172 (dk_at dksX4_ride_5 3 rfl rfl)
abbrev cX4_noRide : ByteArray := prog_25_method_63_code
def yX4_noRide : MethodName := ⟨RX4, "noRide", "(I)Z"⟩
def dkwX4_noRide_0 : List UInt8 := [42, 27, 133, 9, 42, 180, 0, 7, 4, 46, 4, 100, 133, 184, 0, 197, 4, 182, 1, 0, 172]
abbrev dktX4_noRide_0 : List UInt8 := dkwX4_noRide_0 ++ []
theorem dksX4_noRide_0 : cX4_noRide.data.toList.drop 0 = dktX4_noRide_0 := by decide +kernel
theorem dX4_noRide_0 : decode cX4_noRide 0 = .ok (.aload_n 0, 1) := dk_42 (dk_at dksX4_noRide_0 0 rfl rfl)
theorem dX4_noRide_1 : decode cX4_noRide 1 = .ok (.iload_n 1, 1) := dk_27 (dk_at dksX4_noRide_0 1 rfl rfl)
theorem dX4_noRide_2 : decode cX4_noRide 2 = .ok (.i2l, 1) := dk_133 (dk_at dksX4_noRide_0 2 rfl rfl)
theorem dX4_noRide_3 : decode cX4_noRide 3 = .ok (.lconst 0, 1) := dk_9 (dk_at dksX4_noRide_0 3 rfl rfl)
theorem dX4_noRide_4 : decode cX4_noRide 4 = .ok (.aload_n 0, 1) := dk_42 (dk_at dksX4_noRide_0 4 rfl rfl)
theorem dX4_noRide_5 : decode cX4_noRide 5 = .ok (.getfield 7, 3) := dk_180 0 7 (dk_at dksX4_noRide_0 5 rfl rfl)
theorem dX4_noRide_8 : decode cX4_noRide 8 = .ok (.iconst 1, 1) := dk_4 (dk_at dksX4_noRide_0 8 rfl rfl)
theorem dX4_noRide_9 : decode cX4_noRide 9 = .ok (.iaload, 1) := dk_46 (dk_at dksX4_noRide_0 9 rfl rfl)
theorem dX4_noRide_10 : decode cX4_noRide 10 = .ok (.iconst 1, 1) := dk_4 (dk_at dksX4_noRide_0 10 rfl rfl)
theorem dX4_noRide_11 : decode cX4_noRide 11 = .ok (.isub, 1) := dk_100 (dk_at dksX4_noRide_0 11 rfl rfl)
theorem dX4_noRide_12 : decode cX4_noRide 12 = .ok (.i2l, 1) := dk_133 (dk_at dksX4_noRide_0 12 rfl rfl)
theorem dX4_noRide_13 : decode cX4_noRide 13 = .ok (.invokestatic 197, 3) := dk_184 0 197 (dk_at dksX4_noRide_0 13 rfl rfl)
theorem dX4_noRide_16 : decode cX4_noRide 16 = .ok (.iconst 1, 1) := dk_4 (dk_at dksX4_noRide_0 16 rfl rfl)
theorem dX4_noRide_17 : decode cX4_noRide 17 = .ok (.invokevirtual 256, 3) := dk_182 1 0 (dk_at dksX4_noRide_0 17 rfl rfl)
theorem dX4_noRide_20 : decode cX4_noRide 20 = .ok (.ireturn, 1) := dk_172 (dk_at dksX4_noRide_0 20 rfl rfl)
abbrev cX4_offer : ByteArray := prog_25_method_73_code
def yX4_offer : MethodName := ⟨RX4, "offer", "(II)I"⟩
def dkwX4_offer_2 : List UInt8 := [182, 1, 18, 167, 0, 4, 2, 172]
abbrev dktX4_offer_2 : List UInt8 := dkwX4_offer_2 ++ []
def dkwX4_offer_1 : List UInt8 := [182, 1, 0, 153, 0, 5, 3, 172, 42, 27, 3, 182, 1, 18, 154, 0, 15, 42, 27, 16, 12, 28, 96]
abbrev dktX4_offer_1 : List UInt8 := dkwX4_offer_1 ++ dktX4_offer_2
def dkwX4_offer_0 : List UInt8 := [42, 3, 181, 0, 93, 42, 27, 182, 1, 124, 154, 0, 20, 42, 28, 133, 9, 20, 1, 129, 184, 0, 197, 4]
abbrev dktX4_offer_0 : List UInt8 := dkwX4_offer_0 ++ dktX4_offer_1
theorem dksX4_offer_0 : cX4_offer.data.toList.drop 0 = dktX4_offer_0 := by decide +kernel
theorem dksX4_offer_1 : cX4_offer.data.toList.drop 24 = dktX4_offer_1 := dk_seg dksX4_offer_0 24 rfl rfl
theorem dksX4_offer_2 : cX4_offer.data.toList.drop 47 = dktX4_offer_2 := dk_seg dksX4_offer_1 23 rfl rfl
theorem dX4_offer_0 : decode cX4_offer 0 = .ok (.aload_n 0, 1) := dk_42 (dk_at dksX4_offer_0 0 rfl rfl)
theorem dX4_offer_1 : decode cX4_offer 1 = .ok (.iconst 0, 1) := dk_3 (dk_at dksX4_offer_0 1 rfl rfl)
theorem dX4_offer_2 : decode cX4_offer 2 = .ok (.putfield 93, 3) := dk_181 0 93 (dk_at dksX4_offer_0 2 rfl rfl)
theorem dX4_offer_5 : decode cX4_offer 5 = .ok (.aload_n 0, 1) := dk_42 (dk_at dksX4_offer_0 5 rfl rfl)
theorem dX4_offer_6 : decode cX4_offer 6 = .ok (.iload_n 1, 1) := dk_27 (dk_at dksX4_offer_0 6 rfl rfl)
theorem dX4_offer_7 : decode cX4_offer 7 = .ok (.invokevirtual 380, 3) := dk_182 1 124 (dk_at dksX4_offer_0 7 rfl rfl)
theorem dX4_offer_10 : decode cX4_offer 10 = .ok (.ifCond .ne 20, 3) := dk_154 0 20 (dk_at dksX4_offer_0 10 rfl rfl)
theorem dX4_offer_13 : decode cX4_offer 13 = .ok (.aload_n 0, 1) := dk_42 (dk_at dksX4_offer_0 13 rfl rfl)
theorem dX4_offer_14 : decode cX4_offer 14 = .ok (.iload_n 2, 1) := dk_28 (dk_at dksX4_offer_0 14 rfl rfl)
theorem dX4_offer_15 : decode cX4_offer 15 = .ok (.i2l, 1) := dk_133 (dk_at dksX4_offer_0 15 rfl rfl)
theorem dX4_offer_16 : decode cX4_offer 16 = .ok (.lconst 0, 1) := dk_9 (dk_at dksX4_offer_0 16 rfl rfl)
theorem dX4_offer_17 : decode cX4_offer 17 = .ok (.ldc2_w 385, 3) := dk_20 1 129 (dk_at dksX4_offer_0 17 rfl rfl)
theorem dX4_offer_20 : decode cX4_offer 20 = .ok (.invokestatic 197, 3) := dk_184 0 197 (dk_at dksX4_offer_0 20 rfl rfl)
theorem dX4_offer_23 : decode cX4_offer 23 = .ok (.iconst 1, 1) := dk_4 (dk_at dksX4_offer_0 23 rfl rfl)
theorem dX4_offer_24 : decode cX4_offer 24 = .ok (.invokevirtual 256, 3) := dk_182 1 0 (dk_at dksX4_offer_1 0 rfl rfl)
theorem dX4_offer_27 : decode cX4_offer 27 = .ok (.ifCond .eq 5, 3) := dk_153 0 5 (dk_at dksX4_offer_1 3 rfl rfl)
theorem dX4_offer_30 : decode cX4_offer 30 = .ok (.iconst 0, 1) := dk_3 (dk_at dksX4_offer_1 6 rfl rfl)
theorem dX4_offer_31 : decode cX4_offer 31 = .ok (.ireturn, 1) := dk_172 (dk_at dksX4_offer_1 7 rfl rfl)
theorem dX4_offer_32 : decode cX4_offer 32 = .ok (.aload_n 0, 1) := dk_42 (dk_at dksX4_offer_1 8 rfl rfl)
theorem dX4_offer_33 : decode cX4_offer 33 = .ok (.iload_n 1, 1) := dk_27 (dk_at dksX4_offer_1 9 rfl rfl)
theorem dX4_offer_34 : decode cX4_offer 34 = .ok (.iconst 0, 1) := dk_3 (dk_at dksX4_offer_1 10 rfl rfl)
theorem dX4_offer_35 : decode cX4_offer 35 = .ok (.invokevirtual 274, 3) := dk_182 1 18 (dk_at dksX4_offer_1 11 rfl rfl)
theorem dX4_offer_38 : decode cX4_offer 38 = .ok (.ifCond .ne 15, 3) := dk_154 0 15 (dk_at dksX4_offer_1 14 rfl rfl)
theorem dX4_offer_41 : decode cX4_offer 41 = .ok (.aload_n 0, 1) := dk_42 (dk_at dksX4_offer_1 17 rfl rfl)
theorem dX4_offer_42 : decode cX4_offer 42 = .ok (.iload_n 1, 1) := dk_27 (dk_at dksX4_offer_1 18 rfl rfl)
theorem dX4_offer_43 : decode cX4_offer 43 = .ok (.bipush 12, 2) := dk_16 12 (dk_at dksX4_offer_1 19 rfl rfl)
theorem dX4_offer_45 : decode cX4_offer 45 = .ok (.iload_n 2, 1) := dk_28 (dk_at dksX4_offer_1 21 rfl rfl)
theorem dX4_offer_46 : decode cX4_offer 46 = .ok (.iadd, 1) := dk_96 (dk_at dksX4_offer_1 22 rfl rfl)
theorem dX4_offer_47 : decode cX4_offer 47 = .ok (.invokevirtual 274, 3) := dk_182 1 18 (dk_at dksX4_offer_2 0 rfl rfl)
theorem dX4_offer_50 : decode cX4_offer 50 = .ok (.goto 4, 3) := dk_167 0 4 (dk_at dksX4_offer_2 3 rfl rfl)
theorem dX4_offer_53 : decode cX4_offer 53 = .ok (.iconst (-1), 1) := dk_2 (dk_at dksX4_offer_2 6 rfl rfl)
theorem dX4_offer_54 : decode cX4_offer 54 = .ok (.ireturn, 1) := dk_172 (dk_at dksX4_offer_2 7 rfl rfl)
abbrev cX4_extra : ByteArray := prog_25_method_74_code
def yX4_extra : MethodName := ⟨RX4, "extra", "(II)I"⟩
def dkwX4_extra_2 : List UInt8 := [2, 172]
abbrev dktX4_extra_2 : List UInt8 := dkwX4_extra_2 ++ []
def dkwX4_extra_1 : List UInt8 := [27, 3, 182, 1, 18, 154, 0, 19, 42, 28, 27, 182, 1, 131, 153, 0, 10, 42, 180, 1, 42, 167, 0, 4]
abbrev dktX4_extra_1 : List UInt8 := dkwX4_extra_1 ++ dktX4_extra_2
def dkwX4_extra_0 : List UInt8 := [42, 3, 181, 0, 93, 42, 27, 182, 1, 124, 154, 0, 11, 42, 28, 182, 1, 119, 153, 0, 5, 3, 172, 42]
abbrev dktX4_extra_0 : List UInt8 := dkwX4_extra_0 ++ dktX4_extra_1
theorem dksX4_extra_0 : cX4_extra.data.toList.drop 0 = dktX4_extra_0 := by decide +kernel
theorem dksX4_extra_1 : cX4_extra.data.toList.drop 24 = dktX4_extra_1 := dk_seg dksX4_extra_0 24 rfl rfl
theorem dksX4_extra_2 : cX4_extra.data.toList.drop 48 = dktX4_extra_2 := dk_seg dksX4_extra_1 24 rfl rfl
theorem dX4_extra_0 : decode cX4_extra 0 = .ok (.aload_n 0, 1) := dk_42 (dk_at dksX4_extra_0 0 rfl rfl)
theorem dX4_extra_1 : decode cX4_extra 1 = .ok (.iconst 0, 1) := dk_3 (dk_at dksX4_extra_0 1 rfl rfl)
theorem dX4_extra_2 : decode cX4_extra 2 = .ok (.putfield 93, 3) := dk_181 0 93 (dk_at dksX4_extra_0 2 rfl rfl)
theorem dX4_extra_5 : decode cX4_extra 5 = .ok (.aload_n 0, 1) := dk_42 (dk_at dksX4_extra_0 5 rfl rfl)
theorem dX4_extra_6 : decode cX4_extra 6 = .ok (.iload_n 1, 1) := dk_27 (dk_at dksX4_extra_0 6 rfl rfl)
theorem dX4_extra_7 : decode cX4_extra 7 = .ok (.invokevirtual 380, 3) := dk_182 1 124 (dk_at dksX4_extra_0 7 rfl rfl)
theorem dX4_extra_10 : decode cX4_extra 10 = .ok (.ifCond .ne 11, 3) := dk_154 0 11 (dk_at dksX4_extra_0 10 rfl rfl)
theorem dX4_extra_13 : decode cX4_extra 13 = .ok (.aload_n 0, 1) := dk_42 (dk_at dksX4_extra_0 13 rfl rfl)
theorem dX4_extra_14 : decode cX4_extra 14 = .ok (.iload_n 2, 1) := dk_28 (dk_at dksX4_extra_0 14 rfl rfl)
theorem dX4_extra_15 : decode cX4_extra 15 = .ok (.invokevirtual 375, 3) := dk_182 1 119 (dk_at dksX4_extra_0 15 rfl rfl)
theorem dX4_extra_18 : decode cX4_extra 18 = .ok (.ifCond .eq 5, 3) := dk_153 0 5 (dk_at dksX4_extra_0 18 rfl rfl)
theorem dX4_extra_21 : decode cX4_extra 21 = .ok (.iconst 0, 1) := dk_3 (dk_at dksX4_extra_0 21 rfl rfl)
theorem dX4_extra_22 : decode cX4_extra 22 = .ok (.ireturn, 1) := dk_172 (dk_at dksX4_extra_0 22 rfl rfl)
theorem dX4_extra_23 : decode cX4_extra 23 = .ok (.aload_n 0, 1) := dk_42 (dk_at dksX4_extra_0 23 rfl rfl)
theorem dX4_extra_24 : decode cX4_extra 24 = .ok (.iload_n 1, 1) := dk_27 (dk_at dksX4_extra_1 0 rfl rfl)
theorem dX4_extra_25 : decode cX4_extra 25 = .ok (.iconst 0, 1) := dk_3 (dk_at dksX4_extra_1 1 rfl rfl)
theorem dX4_extra_26 : decode cX4_extra 26 = .ok (.invokevirtual 274, 3) := dk_182 1 18 (dk_at dksX4_extra_1 2 rfl rfl)
theorem dX4_extra_29 : decode cX4_extra 29 = .ok (.ifCond .ne 19, 3) := dk_154 0 19 (dk_at dksX4_extra_1 5 rfl rfl)
theorem dX4_extra_32 : decode cX4_extra 32 = .ok (.aload_n 0, 1) := dk_42 (dk_at dksX4_extra_1 8 rfl rfl)
theorem dX4_extra_33 : decode cX4_extra 33 = .ok (.iload_n 2, 1) := dk_28 (dk_at dksX4_extra_1 9 rfl rfl)
theorem dX4_extra_34 : decode cX4_extra 34 = .ok (.iload_n 1, 1) := dk_27 (dk_at dksX4_extra_1 10 rfl rfl)
theorem dX4_extra_35 : decode cX4_extra 35 = .ok (.invokevirtual 387, 3) := dk_182 1 131 (dk_at dksX4_extra_1 11 rfl rfl)
theorem dX4_extra_38 : decode cX4_extra 38 = .ok (.ifCond .eq 10, 3) := dk_153 0 10 (dk_at dksX4_extra_1 14 rfl rfl)
theorem dX4_extra_41 : decode cX4_extra 41 = .ok (.aload_n 0, 1) := dk_42 (dk_at dksX4_extra_1 17 rfl rfl)
theorem dX4_extra_42 : decode cX4_extra 42 = .ok (.getfield 298, 3) := dk_180 1 42 (dk_at dksX4_extra_1 18 rfl rfl)
theorem dX4_extra_45 : decode cX4_extra 45 = .ok (.goto 4, 3) := dk_167 0 4 (dk_at dksX4_extra_1 21 rfl rfl)
theorem dX4_extra_48 : decode cX4_extra 48 = .ok (.iconst (-1), 1) := dk_2 (dk_at dksX4_extra_2 0 rfl rfl)
theorem dX4_extra_49 : decode cX4_extra 49 = .ok (.ireturn, 1) := dk_172 (dk_at dksX4_extra_2 1 rfl rfl)
abbrev cX4_findsBest : ByteArray := prog_25_method_50_code
def yX4_findsBest : MethodName := ⟨RX4, "findsBest", "(II)Z"⟩
def dkwX4_findsBest_9 : List UInt8 := [3, 172]
abbrev dktX4_findsBest_9 : List UInt8 := dkwX4_findsBest_9 ++ []
def dkwX4_findsBest_8 : List UInt8 := [132, 6, 1, 167, 255, 131, 132, 5, 1, 167, 255, 113, 42, 180, 1, 42, 2, 159, 0, 7, 4, 167, 0, 4]
abbrev dktX4_findsBest_8 : List UInt8 := dkwX4_findsBest_8 ++ dktX4_findsBest_9
def dkwX4_findsBest_7 : List UInt8 := [42, 180, 0, 56, 21, 6, 46, 181, 1, 61, 42, 21, 5, 181, 1, 64, 42, 21, 6, 181, 1, 67]
abbrev dktX4_findsBest_7 : List UInt8 := dkwX4_findsBest_7 ++ dktX4_findsBest_8
def dkwX4_findsBest_6 : List UInt8 := [161, 0, 6, 167, 0, 43, 42, 21, 7, 181, 1, 42, 42, 42, 180, 0, 56, 21, 5, 46, 181, 1, 58, 42]
abbrev dktX4_findsBest_6 : List UInt8 := dkwX4_findsBest_6 ++ dktX4_findsBest_7
def dkwX4_findsBest_5 : List UInt8 := [163, 0, 69, 21, 7, 42, 180, 1, 42, 160, 0, 20, 42, 180, 0, 56, 21, 5, 46, 42, 180, 1, 58]
abbrev dktX4_findsBest_5 : List UInt8 := dkwX4_findsBest_5 ++ dktX4_findsBest_6
def dkwX4_findsBest_4 : List UInt8 := [42, 27, 182, 1, 48, 21, 4, 100, 54, 7, 42, 180, 1, 42, 2, 159, 0, 38, 21, 7, 42, 180, 1, 42]
abbrev dktX4_findsBest_4 : List UInt8 := dkwX4_findsBest_4 ++ dktX4_findsBest_5
def dkwX4_findsBest_3 : List UInt8 := [163, 0, 123, 42, 27, 28, 21, 5, 21, 6, 182, 1, 51, 42, 27, 182, 1, 55, 154, 0, 6, 167, 0, 96]
abbrev dktX4_findsBest_3 : List UInt8 := dkwX4_findsBest_3 ++ dktX4_findsBest_4
def dkwX4_findsBest_2 : List UInt8 := [167, 0, 4, 4, 54, 5, 21, 5, 29, 163, 0, 143, 21, 5, 4, 96, 54, 6, 21, 6, 29, 4, 96]
abbrev dktX4_findsBest_2 : List UInt8 := dkwX4_findsBest_2 ++ dktX4_findsBest_3
def dkwX4_findsBest_1 : List UInt8 := [27, 182, 1, 45, 42, 27, 182, 1, 48, 54, 4, 42, 27, 6, 182, 1, 12, 2, 160, 0, 7, 3]
abbrev dktX4_findsBest_1 : List UInt8 := dkwX4_findsBest_1 ++ dktX4_findsBest_2
def dkwX4_findsBest_0 : List UInt8 := [42, 2, 181, 1, 42, 42, 27, 16, 11, 182, 1, 12, 62, 29, 5, 96, 16, 12, 164, 0, 5, 3, 172, 42]
abbrev dktX4_findsBest_0 : List UInt8 := dkwX4_findsBest_0 ++ dktX4_findsBest_1
theorem dksX4_findsBest_0 : cX4_findsBest.data.toList.drop 0 = dktX4_findsBest_0 := by decide +kernel
theorem dksX4_findsBest_1 : cX4_findsBest.data.toList.drop 24 = dktX4_findsBest_1 := dk_seg dksX4_findsBest_0 24 rfl rfl
theorem dksX4_findsBest_2 : cX4_findsBest.data.toList.drop 46 = dktX4_findsBest_2 := dk_seg dksX4_findsBest_1 22 rfl rfl
theorem dksX4_findsBest_3 : cX4_findsBest.data.toList.drop 69 = dktX4_findsBest_3 := dk_seg dksX4_findsBest_2 23 rfl rfl
theorem dksX4_findsBest_4 : cX4_findsBest.data.toList.drop 93 = dktX4_findsBest_4 := dk_seg dksX4_findsBest_3 24 rfl rfl
theorem dksX4_findsBest_5 : cX4_findsBest.data.toList.drop 117 = dktX4_findsBest_5 := dk_seg dksX4_findsBest_4 24 rfl rfl
theorem dksX4_findsBest_6 : cX4_findsBest.data.toList.drop 140 = dktX4_findsBest_6 := dk_seg dksX4_findsBest_5 23 rfl rfl
theorem dksX4_findsBest_7 : cX4_findsBest.data.toList.drop 164 = dktX4_findsBest_7 := dk_seg dksX4_findsBest_6 24 rfl rfl
theorem dksX4_findsBest_8 : cX4_findsBest.data.toList.drop 186 = dktX4_findsBest_8 := dk_seg dksX4_findsBest_7 22 rfl rfl
theorem dksX4_findsBest_9 : cX4_findsBest.data.toList.drop 210 = dktX4_findsBest_9 := dk_seg dksX4_findsBest_8 24 rfl rfl
theorem dX4_findsBest_0 : decode cX4_findsBest 0 = .ok (.aload_n 0, 1) := dk_42 (dk_at dksX4_findsBest_0 0 rfl rfl)
theorem dX4_findsBest_1 : decode cX4_findsBest 1 = .ok (.iconst (-1), 1) := dk_2 (dk_at dksX4_findsBest_0 1 rfl rfl)
theorem dX4_findsBest_2 : decode cX4_findsBest 2 = .ok (.putfield 298, 3) := dk_181 1 42 (dk_at dksX4_findsBest_0 2 rfl rfl)
theorem dX4_findsBest_5 : decode cX4_findsBest 5 = .ok (.aload_n 0, 1) := dk_42 (dk_at dksX4_findsBest_0 5 rfl rfl)
theorem dX4_findsBest_6 : decode cX4_findsBest 6 = .ok (.iload_n 1, 1) := dk_27 (dk_at dksX4_findsBest_0 6 rfl rfl)
theorem dX4_findsBest_7 : decode cX4_findsBest 7 = .ok (.bipush 11, 2) := dk_16 11 (dk_at dksX4_findsBest_0 7 rfl rfl)
theorem dX4_findsBest_9 : decode cX4_findsBest 9 = .ok (.invokevirtual 268, 3) := dk_182 1 12 (dk_at dksX4_findsBest_0 9 rfl rfl)
theorem dX4_findsBest_12 : decode cX4_findsBest 12 = .ok (.istore_n 3, 1) := dk_62 (dk_at dksX4_findsBest_0 12 rfl rfl)
theorem dX4_findsBest_13 : decode cX4_findsBest 13 = .ok (.iload_n 3, 1) := dk_29 (dk_at dksX4_findsBest_0 13 rfl rfl)
theorem dX4_findsBest_14 : decode cX4_findsBest 14 = .ok (.iconst 2, 1) := dk_5 (dk_at dksX4_findsBest_0 14 rfl rfl)
theorem dX4_findsBest_15 : decode cX4_findsBest 15 = .ok (.iadd, 1) := dk_96 (dk_at dksX4_findsBest_0 15 rfl rfl)
theorem dX4_findsBest_16 : decode cX4_findsBest 16 = .ok (.bipush 12, 2) := dk_16 12 (dk_at dksX4_findsBest_0 16 rfl rfl)
theorem dX4_findsBest_18 : decode cX4_findsBest 18 = .ok (.if_icmp .le 5, 3) := dk_164 0 5 (dk_at dksX4_findsBest_0 18 rfl rfl)
theorem dX4_findsBest_21 : decode cX4_findsBest 21 = .ok (.iconst 0, 1) := dk_3 (dk_at dksX4_findsBest_0 21 rfl rfl)
theorem dX4_findsBest_22 : decode cX4_findsBest 22 = .ok (.ireturn, 1) := dk_172 (dk_at dksX4_findsBest_0 22 rfl rfl)
theorem dX4_findsBest_23 : decode cX4_findsBest 23 = .ok (.aload_n 0, 1) := dk_42 (dk_at dksX4_findsBest_0 23 rfl rfl)
theorem dX4_findsBest_24 : decode cX4_findsBest 24 = .ok (.iload_n 1, 1) := dk_27 (dk_at dksX4_findsBest_1 0 rfl rfl)
theorem dX4_findsBest_25 : decode cX4_findsBest 25 = .ok (.invokevirtual 301, 3) := dk_182 1 45 (dk_at dksX4_findsBest_1 1 rfl rfl)
theorem dX4_findsBest_28 : decode cX4_findsBest 28 = .ok (.aload_n 0, 1) := dk_42 (dk_at dksX4_findsBest_1 4 rfl rfl)
theorem dX4_findsBest_29 : decode cX4_findsBest 29 = .ok (.iload_n 1, 1) := dk_27 (dk_at dksX4_findsBest_1 5 rfl rfl)
theorem dX4_findsBest_30 : decode cX4_findsBest 30 = .ok (.invokevirtual 304, 3) := dk_182 1 48 (dk_at dksX4_findsBest_1 6 rfl rfl)
theorem dX4_findsBest_33 : decode cX4_findsBest 33 = .ok (.istore 4, 2) := dk_54 4 (dk_at dksX4_findsBest_1 9 rfl rfl)
theorem dX4_findsBest_35 : decode cX4_findsBest 35 = .ok (.aload_n 0, 1) := dk_42 (dk_at dksX4_findsBest_1 11 rfl rfl)
theorem dX4_findsBest_36 : decode cX4_findsBest 36 = .ok (.iload_n 1, 1) := dk_27 (dk_at dksX4_findsBest_1 12 rfl rfl)
theorem dX4_findsBest_37 : decode cX4_findsBest 37 = .ok (.iconst 3, 1) := dk_6 (dk_at dksX4_findsBest_1 13 rfl rfl)
theorem dX4_findsBest_38 : decode cX4_findsBest 38 = .ok (.invokevirtual 268, 3) := dk_182 1 12 (dk_at dksX4_findsBest_1 14 rfl rfl)
theorem dX4_findsBest_41 : decode cX4_findsBest 41 = .ok (.iconst (-1), 1) := dk_2 (dk_at dksX4_findsBest_1 17 rfl rfl)
theorem dX4_findsBest_42 : decode cX4_findsBest 42 = .ok (.if_icmp .ne 7, 3) := dk_160 0 7 (dk_at dksX4_findsBest_1 18 rfl rfl)
theorem dX4_findsBest_45 : decode cX4_findsBest 45 = .ok (.iconst 0, 1) := dk_3 (dk_at dksX4_findsBest_1 21 rfl rfl)
theorem dX4_findsBest_46 : decode cX4_findsBest 46 = .ok (.goto 4, 3) := dk_167 0 4 (dk_at dksX4_findsBest_2 0 rfl rfl)
theorem dX4_findsBest_49 : decode cX4_findsBest 49 = .ok (.iconst 1, 1) := dk_4 (dk_at dksX4_findsBest_2 3 rfl rfl)
theorem dX4_findsBest_50 : decode cX4_findsBest 50 = .ok (.istore 5, 2) := dk_54 5 (dk_at dksX4_findsBest_2 4 rfl rfl)
theorem dX4_findsBest_52 : decode cX4_findsBest 52 = .ok (.iload 5, 2) := dk_21 5 (dk_at dksX4_findsBest_2 6 rfl rfl)
theorem dX4_findsBest_54 : decode cX4_findsBest 54 = .ok (.iload_n 3, 1) := dk_29 (dk_at dksX4_findsBest_2 8 rfl rfl)
theorem dX4_findsBest_55 : decode cX4_findsBest 55 = .ok (.if_icmp .gt 143, 3) := dk_163 0 143 (dk_at dksX4_findsBest_2 9 rfl rfl)
theorem dX4_findsBest_58 : decode cX4_findsBest 58 = .ok (.iload 5, 2) := dk_21 5 (dk_at dksX4_findsBest_2 12 rfl rfl)
theorem dX4_findsBest_60 : decode cX4_findsBest 60 = .ok (.iconst 1, 1) := dk_4 (dk_at dksX4_findsBest_2 14 rfl rfl)
theorem dX4_findsBest_61 : decode cX4_findsBest 61 = .ok (.iadd, 1) := dk_96 (dk_at dksX4_findsBest_2 15 rfl rfl)
theorem dX4_findsBest_62 : decode cX4_findsBest 62 = .ok (.istore 6, 2) := dk_54 6 (dk_at dksX4_findsBest_2 16 rfl rfl)
theorem dX4_findsBest_64 : decode cX4_findsBest 64 = .ok (.iload 6, 2) := dk_21 6 (dk_at dksX4_findsBest_2 18 rfl rfl)
theorem dX4_findsBest_66 : decode cX4_findsBest 66 = .ok (.iload_n 3, 1) := dk_29 (dk_at dksX4_findsBest_2 20 rfl rfl)
theorem dX4_findsBest_67 : decode cX4_findsBest 67 = .ok (.iconst 1, 1) := dk_4 (dk_at dksX4_findsBest_2 21 rfl rfl)
theorem dX4_findsBest_68 : decode cX4_findsBest 68 = .ok (.iadd, 1) := dk_96 (dk_at dksX4_findsBest_2 22 rfl rfl)
theorem dX4_findsBest_69 : decode cX4_findsBest 69 = .ok (.if_icmp .gt 123, 3) := dk_163 0 123 (dk_at dksX4_findsBest_3 0 rfl rfl)
theorem dX4_findsBest_72 : decode cX4_findsBest 72 = .ok (.aload_n 0, 1) := dk_42 (dk_at dksX4_findsBest_3 3 rfl rfl)
theorem dX4_findsBest_73 : decode cX4_findsBest 73 = .ok (.iload_n 1, 1) := dk_27 (dk_at dksX4_findsBest_3 4 rfl rfl)
theorem dX4_findsBest_74 : decode cX4_findsBest 74 = .ok (.iload_n 2, 1) := dk_28 (dk_at dksX4_findsBest_3 5 rfl rfl)
theorem dX4_findsBest_75 : decode cX4_findsBest 75 = .ok (.iload 5, 2) := dk_21 5 (dk_at dksX4_findsBest_3 6 rfl rfl)
theorem dX4_findsBest_77 : decode cX4_findsBest 77 = .ok (.iload 6, 2) := dk_21 6 (dk_at dksX4_findsBest_3 8 rfl rfl)
theorem dX4_findsBest_79 : decode cX4_findsBest 79 = .ok (.invokevirtual 307, 3) := dk_182 1 51 (dk_at dksX4_findsBest_3 10 rfl rfl)
theorem dX4_findsBest_82 : decode cX4_findsBest 82 = .ok (.aload_n 0, 1) := dk_42 (dk_at dksX4_findsBest_3 13 rfl rfl)
theorem dX4_findsBest_83 : decode cX4_findsBest 83 = .ok (.iload_n 1, 1) := dk_27 (dk_at dksX4_findsBest_3 14 rfl rfl)
theorem dX4_findsBest_84 : decode cX4_findsBest 84 = .ok (.invokevirtual 311, 3) := dk_182 1 55 (dk_at dksX4_findsBest_3 15 rfl rfl)
theorem dX4_findsBest_87 : decode cX4_findsBest 87 = .ok (.ifCond .ne 6, 3) := dk_154 0 6 (dk_at dksX4_findsBest_3 18 rfl rfl)
theorem dX4_findsBest_90 : decode cX4_findsBest 90 = .ok (.goto 96, 3) := dk_167 0 96 (dk_at dksX4_findsBest_3 21 rfl rfl)
theorem dX4_findsBest_93 : decode cX4_findsBest 93 = .ok (.aload_n 0, 1) := dk_42 (dk_at dksX4_findsBest_4 0 rfl rfl)
theorem dX4_findsBest_94 : decode cX4_findsBest 94 = .ok (.iload_n 1, 1) := dk_27 (dk_at dksX4_findsBest_4 1 rfl rfl)
theorem dX4_findsBest_95 : decode cX4_findsBest 95 = .ok (.invokevirtual 304, 3) := dk_182 1 48 (dk_at dksX4_findsBest_4 2 rfl rfl)
theorem dX4_findsBest_98 : decode cX4_findsBest 98 = .ok (.iload 4, 2) := dk_21 4 (dk_at dksX4_findsBest_4 5 rfl rfl)
theorem dX4_findsBest_100 : decode cX4_findsBest 100 = .ok (.isub, 1) := dk_100 (dk_at dksX4_findsBest_4 7 rfl rfl)
theorem dX4_findsBest_101 : decode cX4_findsBest 101 = .ok (.istore 7, 2) := dk_54 7 (dk_at dksX4_findsBest_4 8 rfl rfl)
theorem dX4_findsBest_103 : decode cX4_findsBest 103 = .ok (.aload_n 0, 1) := dk_42 (dk_at dksX4_findsBest_4 10 rfl rfl)
theorem dX4_findsBest_104 : decode cX4_findsBest 104 = .ok (.getfield 298, 3) := dk_180 1 42 (dk_at dksX4_findsBest_4 11 rfl rfl)
theorem dX4_findsBest_107 : decode cX4_findsBest 107 = .ok (.iconst (-1), 1) := dk_2 (dk_at dksX4_findsBest_4 14 rfl rfl)
theorem dX4_findsBest_108 : decode cX4_findsBest 108 = .ok (.if_icmp .eq 38, 3) := dk_159 0 38 (dk_at dksX4_findsBest_4 15 rfl rfl)
theorem dX4_findsBest_111 : decode cX4_findsBest 111 = .ok (.iload 7, 2) := dk_21 7 (dk_at dksX4_findsBest_4 18 rfl rfl)
theorem dX4_findsBest_113 : decode cX4_findsBest 113 = .ok (.aload_n 0, 1) := dk_42 (dk_at dksX4_findsBest_4 20 rfl rfl)
theorem dX4_findsBest_114 : decode cX4_findsBest 114 = .ok (.getfield 298, 3) := dk_180 1 42 (dk_at dksX4_findsBest_4 21 rfl rfl)
theorem dX4_findsBest_117 : decode cX4_findsBest 117 = .ok (.if_icmp .gt 69, 3) := dk_163 0 69 (dk_at dksX4_findsBest_5 0 rfl rfl)
theorem dX4_findsBest_120 : decode cX4_findsBest 120 = .ok (.iload 7, 2) := dk_21 7 (dk_at dksX4_findsBest_5 3 rfl rfl)
theorem dX4_findsBest_122 : decode cX4_findsBest 122 = .ok (.aload_n 0, 1) := dk_42 (dk_at dksX4_findsBest_5 5 rfl rfl)
theorem dX4_findsBest_123 : decode cX4_findsBest 123 = .ok (.getfield 298, 3) := dk_180 1 42 (dk_at dksX4_findsBest_5 6 rfl rfl)
theorem dX4_findsBest_126 : decode cX4_findsBest 126 = .ok (.if_icmp .ne 20, 3) := dk_160 0 20 (dk_at dksX4_findsBest_5 9 rfl rfl)
theorem dX4_findsBest_129 : decode cX4_findsBest 129 = .ok (.aload_n 0, 1) := dk_42 (dk_at dksX4_findsBest_5 12 rfl rfl)
theorem dX4_findsBest_130 : decode cX4_findsBest 130 = .ok (.getfield 56, 3) := dk_180 0 56 (dk_at dksX4_findsBest_5 13 rfl rfl)
theorem dX4_findsBest_133 : decode cX4_findsBest 133 = .ok (.iload 5, 2) := dk_21 5 (dk_at dksX4_findsBest_5 16 rfl rfl)
theorem dX4_findsBest_135 : decode cX4_findsBest 135 = .ok (.iaload, 1) := dk_46 (dk_at dksX4_findsBest_5 18 rfl rfl)
theorem dX4_findsBest_136 : decode cX4_findsBest 136 = .ok (.aload_n 0, 1) := dk_42 (dk_at dksX4_findsBest_5 19 rfl rfl)
theorem dX4_findsBest_137 : decode cX4_findsBest 137 = .ok (.getfield 314, 3) := dk_180 1 58 (dk_at dksX4_findsBest_5 20 rfl rfl)
theorem dX4_findsBest_140 : decode cX4_findsBest 140 = .ok (.if_icmp .lt 6, 3) := dk_161 0 6 (dk_at dksX4_findsBest_6 0 rfl rfl)
theorem dX4_findsBest_143 : decode cX4_findsBest 143 = .ok (.goto 43, 3) := dk_167 0 43 (dk_at dksX4_findsBest_6 3 rfl rfl)
theorem dX4_findsBest_146 : decode cX4_findsBest 146 = .ok (.aload_n 0, 1) := dk_42 (dk_at dksX4_findsBest_6 6 rfl rfl)
theorem dX4_findsBest_147 : decode cX4_findsBest 147 = .ok (.iload 7, 2) := dk_21 7 (dk_at dksX4_findsBest_6 7 rfl rfl)
theorem dX4_findsBest_149 : decode cX4_findsBest 149 = .ok (.putfield 298, 3) := dk_181 1 42 (dk_at dksX4_findsBest_6 9 rfl rfl)
theorem dX4_findsBest_152 : decode cX4_findsBest 152 = .ok (.aload_n 0, 1) := dk_42 (dk_at dksX4_findsBest_6 12 rfl rfl)
theorem dX4_findsBest_153 : decode cX4_findsBest 153 = .ok (.aload_n 0, 1) := dk_42 (dk_at dksX4_findsBest_6 13 rfl rfl)
theorem dX4_findsBest_154 : decode cX4_findsBest 154 = .ok (.getfield 56, 3) := dk_180 0 56 (dk_at dksX4_findsBest_6 14 rfl rfl)
theorem dX4_findsBest_157 : decode cX4_findsBest 157 = .ok (.iload 5, 2) := dk_21 5 (dk_at dksX4_findsBest_6 17 rfl rfl)
theorem dX4_findsBest_159 : decode cX4_findsBest 159 = .ok (.iaload, 1) := dk_46 (dk_at dksX4_findsBest_6 19 rfl rfl)
theorem dX4_findsBest_160 : decode cX4_findsBest 160 = .ok (.putfield 314, 3) := dk_181 1 58 (dk_at dksX4_findsBest_6 20 rfl rfl)
theorem dX4_findsBest_163 : decode cX4_findsBest 163 = .ok (.aload_n 0, 1) := dk_42 (dk_at dksX4_findsBest_6 23 rfl rfl)
theorem dX4_findsBest_164 : decode cX4_findsBest 164 = .ok (.aload_n 0, 1) := dk_42 (dk_at dksX4_findsBest_7 0 rfl rfl)
theorem dX4_findsBest_165 : decode cX4_findsBest 165 = .ok (.getfield 56, 3) := dk_180 0 56 (dk_at dksX4_findsBest_7 1 rfl rfl)
theorem dX4_findsBest_168 : decode cX4_findsBest 168 = .ok (.iload 6, 2) := dk_21 6 (dk_at dksX4_findsBest_7 4 rfl rfl)
theorem dX4_findsBest_170 : decode cX4_findsBest 170 = .ok (.iaload, 1) := dk_46 (dk_at dksX4_findsBest_7 6 rfl rfl)
theorem dX4_findsBest_171 : decode cX4_findsBest 171 = .ok (.putfield 317, 3) := dk_181 1 61 (dk_at dksX4_findsBest_7 7 rfl rfl)
theorem dX4_findsBest_174 : decode cX4_findsBest 174 = .ok (.aload_n 0, 1) := dk_42 (dk_at dksX4_findsBest_7 10 rfl rfl)
theorem dX4_findsBest_175 : decode cX4_findsBest 175 = .ok (.iload 5, 2) := dk_21 5 (dk_at dksX4_findsBest_7 11 rfl rfl)
theorem dX4_findsBest_177 : decode cX4_findsBest 177 = .ok (.putfield 320, 3) := dk_181 1 64 (dk_at dksX4_findsBest_7 13 rfl rfl)
theorem dX4_findsBest_180 : decode cX4_findsBest 180 = .ok (.aload_n 0, 1) := dk_42 (dk_at dksX4_findsBest_7 16 rfl rfl)
theorem dX4_findsBest_181 : decode cX4_findsBest 181 = .ok (.iload 6, 2) := dk_21 6 (dk_at dksX4_findsBest_7 17 rfl rfl)
theorem dX4_findsBest_183 : decode cX4_findsBest 183 = .ok (.putfield 323, 3) := dk_181 1 67 (dk_at dksX4_findsBest_7 19 rfl rfl)
theorem dX4_findsBest_186 : decode cX4_findsBest 186 = .ok (.iinc 6 1, 3) := dk_132 6 1 (dk_at dksX4_findsBest_8 0 rfl rfl)
theorem dX4_findsBest_189 : decode cX4_findsBest 189 = .ok (.goto (-125), 3) := dk_167 255 131 (dk_at dksX4_findsBest_8 3 rfl rfl)
theorem dX4_findsBest_192 : decode cX4_findsBest 192 = .ok (.iinc 5 1, 3) := dk_132 5 1 (dk_at dksX4_findsBest_8 6 rfl rfl)
theorem dX4_findsBest_195 : decode cX4_findsBest 195 = .ok (.goto (-143), 3) := dk_167 255 113 (dk_at dksX4_findsBest_8 9 rfl rfl)
theorem dX4_findsBest_198 : decode cX4_findsBest 198 = .ok (.aload_n 0, 1) := dk_42 (dk_at dksX4_findsBest_8 12 rfl rfl)
theorem dX4_findsBest_199 : decode cX4_findsBest 199 = .ok (.getfield 298, 3) := dk_180 1 42 (dk_at dksX4_findsBest_8 13 rfl rfl)
theorem dX4_findsBest_202 : decode cX4_findsBest 202 = .ok (.iconst (-1), 1) := dk_2 (dk_at dksX4_findsBest_8 16 rfl rfl)
theorem dX4_findsBest_203 : decode cX4_findsBest 203 = .ok (.if_icmp .eq 7, 3) := dk_159 0 7 (dk_at dksX4_findsBest_8 17 rfl rfl)
theorem dX4_findsBest_206 : decode cX4_findsBest 206 = .ok (.iconst 1, 1) := dk_4 (dk_at dksX4_findsBest_8 20 rfl rfl)
theorem dX4_findsBest_207 : decode cX4_findsBest 207 = .ok (.goto 4, 3) := dk_167 0 4 (dk_at dksX4_findsBest_8 21 rfl rfl)
theorem dX4_findsBest_210 : decode cX4_findsBest 210 = .ok (.iconst 0, 1) := dk_3 (dk_at dksX4_findsBest_9 0 rfl rfl)
theorem dX4_findsBest_211 : decode cX4_findsBest 211 = .ok (.ireturn, 1) := dk_172 (dk_at dksX4_findsBest_9 1 rfl rfl)
abbrev cX4_sumOfWays : ByteArray := prog_25_method_47_code
def yX4_sumOfWays : MethodName := ⟨RX4, "sumOfWays", "(I)I"⟩
def dkwX4_sumOfWays_2 : List UInt8 := [21, 5, 96, 61, 42, 42, 180, 0, 50, 21, 4, 46, 182, 1, 27, 62, 132, 4, 1, 167, 255, 201, 28, 172]
abbrev dktX4_sumOfWays_2 : List UInt8 := dkwX4_sumOfWays_2 ++ []
def dkwX4_sumOfWays_1 : List UInt8 := [42, 180, 0, 50, 21, 4, 46, 182, 1, 27, 182, 1, 21, 54, 5, 21, 5, 2, 160, 0, 5, 2, 172, 28]
abbrev dktX4_sumOfWays_1 : List UInt8 := dkwX4_sumOfWays_1 ++ dktX4_sumOfWays_2
def dkwX4_sumOfWays_0 : List UInt8 := [3, 61, 42, 27, 3, 182, 1, 12, 62, 3, 54, 4, 21, 4, 42, 180, 1, 15, 162, 0, 52, 42, 29, 42]
abbrev dktX4_sumOfWays_0 : List UInt8 := dkwX4_sumOfWays_0 ++ dktX4_sumOfWays_1
theorem dksX4_sumOfWays_0 : cX4_sumOfWays.data.toList.drop 0 = dktX4_sumOfWays_0 := by decide +kernel
theorem dksX4_sumOfWays_1 : cX4_sumOfWays.data.toList.drop 24 = dktX4_sumOfWays_1 := dk_seg dksX4_sumOfWays_0 24 rfl rfl
theorem dksX4_sumOfWays_2 : cX4_sumOfWays.data.toList.drop 48 = dktX4_sumOfWays_2 := dk_seg dksX4_sumOfWays_1 24 rfl rfl
theorem dX4_sumOfWays_0 : decode cX4_sumOfWays 0 = .ok (.iconst 0, 1) := dk_3 (dk_at dksX4_sumOfWays_0 0 rfl rfl)
theorem dX4_sumOfWays_1 : decode cX4_sumOfWays 1 = .ok (.istore_n 2, 1) := dk_61 (dk_at dksX4_sumOfWays_0 1 rfl rfl)
theorem dX4_sumOfWays_2 : decode cX4_sumOfWays 2 = .ok (.aload_n 0, 1) := dk_42 (dk_at dksX4_sumOfWays_0 2 rfl rfl)
theorem dX4_sumOfWays_3 : decode cX4_sumOfWays 3 = .ok (.iload_n 1, 1) := dk_27 (dk_at dksX4_sumOfWays_0 3 rfl rfl)
theorem dX4_sumOfWays_4 : decode cX4_sumOfWays 4 = .ok (.iconst 0, 1) := dk_3 (dk_at dksX4_sumOfWays_0 4 rfl rfl)
theorem dX4_sumOfWays_5 : decode cX4_sumOfWays 5 = .ok (.invokevirtual 268, 3) := dk_182 1 12 (dk_at dksX4_sumOfWays_0 5 rfl rfl)
theorem dX4_sumOfWays_8 : decode cX4_sumOfWays 8 = .ok (.istore_n 3, 1) := dk_62 (dk_at dksX4_sumOfWays_0 8 rfl rfl)
theorem dX4_sumOfWays_9 : decode cX4_sumOfWays 9 = .ok (.iconst 0, 1) := dk_3 (dk_at dksX4_sumOfWays_0 9 rfl rfl)
theorem dX4_sumOfWays_10 : decode cX4_sumOfWays 10 = .ok (.istore 4, 2) := dk_54 4 (dk_at dksX4_sumOfWays_0 10 rfl rfl)
theorem dX4_sumOfWays_12 : decode cX4_sumOfWays 12 = .ok (.iload 4, 2) := dk_21 4 (dk_at dksX4_sumOfWays_0 12 rfl rfl)
theorem dX4_sumOfWays_14 : decode cX4_sumOfWays 14 = .ok (.aload_n 0, 1) := dk_42 (dk_at dksX4_sumOfWays_0 14 rfl rfl)
theorem dX4_sumOfWays_15 : decode cX4_sumOfWays 15 = .ok (.getfield 271, 3) := dk_180 1 15 (dk_at dksX4_sumOfWays_0 15 rfl rfl)
theorem dX4_sumOfWays_18 : decode cX4_sumOfWays 18 = .ok (.if_icmp .ge 52, 3) := dk_162 0 52 (dk_at dksX4_sumOfWays_0 18 rfl rfl)
theorem dX4_sumOfWays_21 : decode cX4_sumOfWays 21 = .ok (.aload_n 0, 1) := dk_42 (dk_at dksX4_sumOfWays_0 21 rfl rfl)
theorem dX4_sumOfWays_22 : decode cX4_sumOfWays 22 = .ok (.iload_n 3, 1) := dk_29 (dk_at dksX4_sumOfWays_0 22 rfl rfl)
theorem dX4_sumOfWays_23 : decode cX4_sumOfWays 23 = .ok (.aload_n 0, 1) := dk_42 (dk_at dksX4_sumOfWays_0 23 rfl rfl)
theorem dX4_sumOfWays_24 : decode cX4_sumOfWays 24 = .ok (.aload_n 0, 1) := dk_42 (dk_at dksX4_sumOfWays_1 0 rfl rfl)
theorem dX4_sumOfWays_25 : decode cX4_sumOfWays 25 = .ok (.getfield 50, 3) := dk_180 0 50 (dk_at dksX4_sumOfWays_1 1 rfl rfl)
theorem dX4_sumOfWays_28 : decode cX4_sumOfWays 28 = .ok (.iload 4, 2) := dk_21 4 (dk_at dksX4_sumOfWays_1 4 rfl rfl)
theorem dX4_sumOfWays_30 : decode cX4_sumOfWays 30 = .ok (.iaload, 1) := dk_46 (dk_at dksX4_sumOfWays_1 6 rfl rfl)
theorem dX4_sumOfWays_31 : decode cX4_sumOfWays 31 = .ok (.invokevirtual 283, 3) := dk_182 1 27 (dk_at dksX4_sumOfWays_1 7 rfl rfl)
theorem dX4_sumOfWays_34 : decode cX4_sumOfWays 34 = .ok (.invokevirtual 277, 3) := dk_182 1 21 (dk_at dksX4_sumOfWays_1 10 rfl rfl)
theorem dX4_sumOfWays_37 : decode cX4_sumOfWays 37 = .ok (.istore 5, 2) := dk_54 5 (dk_at dksX4_sumOfWays_1 13 rfl rfl)
theorem dX4_sumOfWays_39 : decode cX4_sumOfWays 39 = .ok (.iload 5, 2) := dk_21 5 (dk_at dksX4_sumOfWays_1 15 rfl rfl)
theorem dX4_sumOfWays_41 : decode cX4_sumOfWays 41 = .ok (.iconst (-1), 1) := dk_2 (dk_at dksX4_sumOfWays_1 17 rfl rfl)
theorem dX4_sumOfWays_42 : decode cX4_sumOfWays 42 = .ok (.if_icmp .ne 5, 3) := dk_160 0 5 (dk_at dksX4_sumOfWays_1 18 rfl rfl)
theorem dX4_sumOfWays_45 : decode cX4_sumOfWays 45 = .ok (.iconst (-1), 1) := dk_2 (dk_at dksX4_sumOfWays_1 21 rfl rfl)
theorem dX4_sumOfWays_46 : decode cX4_sumOfWays 46 = .ok (.ireturn, 1) := dk_172 (dk_at dksX4_sumOfWays_1 22 rfl rfl)
theorem dX4_sumOfWays_47 : decode cX4_sumOfWays 47 = .ok (.iload_n 2, 1) := dk_28 (dk_at dksX4_sumOfWays_1 23 rfl rfl)
theorem dX4_sumOfWays_48 : decode cX4_sumOfWays 48 = .ok (.iload 5, 2) := dk_21 5 (dk_at dksX4_sumOfWays_2 0 rfl rfl)
theorem dX4_sumOfWays_50 : decode cX4_sumOfWays 50 = .ok (.iadd, 1) := dk_96 (dk_at dksX4_sumOfWays_2 2 rfl rfl)
theorem dX4_sumOfWays_51 : decode cX4_sumOfWays 51 = .ok (.istore_n 2, 1) := dk_61 (dk_at dksX4_sumOfWays_2 3 rfl rfl)
theorem dX4_sumOfWays_52 : decode cX4_sumOfWays 52 = .ok (.aload_n 0, 1) := dk_42 (dk_at dksX4_sumOfWays_2 4 rfl rfl)
theorem dX4_sumOfWays_53 : decode cX4_sumOfWays 53 = .ok (.aload_n 0, 1) := dk_42 (dk_at dksX4_sumOfWays_2 5 rfl rfl)
theorem dX4_sumOfWays_54 : decode cX4_sumOfWays 54 = .ok (.getfield 50, 3) := dk_180 0 50 (dk_at dksX4_sumOfWays_2 6 rfl rfl)
theorem dX4_sumOfWays_57 : decode cX4_sumOfWays 57 = .ok (.iload 4, 2) := dk_21 4 (dk_at dksX4_sumOfWays_2 9 rfl rfl)
theorem dX4_sumOfWays_59 : decode cX4_sumOfWays 59 = .ok (.iaload, 1) := dk_46 (dk_at dksX4_sumOfWays_2 11 rfl rfl)
theorem dX4_sumOfWays_60 : decode cX4_sumOfWays 60 = .ok (.invokevirtual 283, 3) := dk_182 1 27 (dk_at dksX4_sumOfWays_2 12 rfl rfl)
theorem dX4_sumOfWays_63 : decode cX4_sumOfWays 63 = .ok (.istore_n 3, 1) := dk_62 (dk_at dksX4_sumOfWays_2 15 rfl rfl)
theorem dX4_sumOfWays_64 : decode cX4_sumOfWays 64 = .ok (.iinc 4 1, 3) := dk_132 4 1 (dk_at dksX4_sumOfWays_2 16 rfl rfl)
theorem dX4_sumOfWays_67 : decode cX4_sumOfWays 67 = .ok (.goto (-55), 3) := dk_167 255 201 (dk_at dksX4_sumOfWays_2 19 rfl rfl)
theorem dX4_sumOfWays_70 : decode cX4_sumOfWays 70 = .ok (.iload_n 2, 1) := dk_28 (dk_at dksX4_sumOfWays_2 22 rfl rfl)
theorem dX4_sumOfWays_71 : decode cX4_sumOfWays 71 = .ok (.ireturn, 1) := dk_172 (dk_at dksX4_sumOfWays_2 23 rfl rfl)
abbrev cX4_insertsAt : ByteArray := prog_25_method_49_code
def yX4_insertsAt : MethodName := ⟨RX4, "insertsAt", "(IIII)V"⟩
def dkwX4_insertsAt_4 : List UInt8 := [132, 7, 1, 167, 255, 183, 177]
abbrev dktX4_insertsAt_4 : List UInt8 := dkwX4_insertsAt_4 ++ []
def dkwX4_insertsAt_3 : List UInt8 := [167, 0, 23, 42, 180, 0, 50, 21, 7, 42, 27, 16, 12, 21, 6, 96, 182, 1, 12, 79, 132, 6, 1]
abbrev dktX4_insertsAt_3 : List UInt8 := dkwX4_insertsAt_3 ++ dktX4_insertsAt_4
def dkwX4_insertsAt_2 : List UInt8 := [4, 96, 79, 167, 0, 43, 21, 7, 21, 4, 160, 0, 16, 42, 180, 0, 50, 21, 7, 5, 28, 104, 79]
abbrev dktX4_insertsAt_2 : List UInt8 := dkwX4_insertsAt_2 ++ dktX4_insertsAt_3
def dkwX4_insertsAt_1 : List UInt8 := [21, 7, 42, 180, 1, 15, 162, 0, 70, 21, 7, 29, 160, 0, 18, 42, 180, 0, 50, 21, 7, 5, 28, 104]
abbrev dktX4_insertsAt_1 : List UInt8 := dkwX4_insertsAt_1 ++ dktX4_insertsAt_2
def dkwX4_insertsAt_0 : List UInt8 := [42, 27, 16, 11, 182, 1, 12, 54, 5, 3, 54, 6, 42, 21, 5, 5, 96, 181, 1, 15, 3, 54, 7]
abbrev dktX4_insertsAt_0 : List UInt8 := dkwX4_insertsAt_0 ++ dktX4_insertsAt_1
theorem dksX4_insertsAt_0 : cX4_insertsAt.data.toList.drop 0 = dktX4_insertsAt_0 := by decide +kernel
theorem dksX4_insertsAt_1 : cX4_insertsAt.data.toList.drop 23 = dktX4_insertsAt_1 := dk_seg dksX4_insertsAt_0 23 rfl rfl
theorem dksX4_insertsAt_2 : cX4_insertsAt.data.toList.drop 47 = dktX4_insertsAt_2 := dk_seg dksX4_insertsAt_1 24 rfl rfl
theorem dksX4_insertsAt_3 : cX4_insertsAt.data.toList.drop 70 = dktX4_insertsAt_3 := dk_seg dksX4_insertsAt_2 23 rfl rfl
theorem dksX4_insertsAt_4 : cX4_insertsAt.data.toList.drop 93 = dktX4_insertsAt_4 := dk_seg dksX4_insertsAt_3 23 rfl rfl
theorem dX4_insertsAt_0 : decode cX4_insertsAt 0 = .ok (.aload_n 0, 1) := dk_42 (dk_at dksX4_insertsAt_0 0 rfl rfl)
theorem dX4_insertsAt_1 : decode cX4_insertsAt 1 = .ok (.iload_n 1, 1) := dk_27 (dk_at dksX4_insertsAt_0 1 rfl rfl)
theorem dX4_insertsAt_2 : decode cX4_insertsAt 2 = .ok (.bipush 11, 2) := dk_16 11 (dk_at dksX4_insertsAt_0 2 rfl rfl)
theorem dX4_insertsAt_4 : decode cX4_insertsAt 4 = .ok (.invokevirtual 268, 3) := dk_182 1 12 (dk_at dksX4_insertsAt_0 4 rfl rfl)
theorem dX4_insertsAt_7 : decode cX4_insertsAt 7 = .ok (.istore 5, 2) := dk_54 5 (dk_at dksX4_insertsAt_0 7 rfl rfl)
theorem dX4_insertsAt_9 : decode cX4_insertsAt 9 = .ok (.iconst 0, 1) := dk_3 (dk_at dksX4_insertsAt_0 9 rfl rfl)
theorem dX4_insertsAt_10 : decode cX4_insertsAt 10 = .ok (.istore 6, 2) := dk_54 6 (dk_at dksX4_insertsAt_0 10 rfl rfl)
theorem dX4_insertsAt_12 : decode cX4_insertsAt 12 = .ok (.aload_n 0, 1) := dk_42 (dk_at dksX4_insertsAt_0 12 rfl rfl)
theorem dX4_insertsAt_13 : decode cX4_insertsAt 13 = .ok (.iload 5, 2) := dk_21 5 (dk_at dksX4_insertsAt_0 13 rfl rfl)
theorem dX4_insertsAt_15 : decode cX4_insertsAt 15 = .ok (.iconst 2, 1) := dk_5 (dk_at dksX4_insertsAt_0 15 rfl rfl)
theorem dX4_insertsAt_16 : decode cX4_insertsAt 16 = .ok (.iadd, 1) := dk_96 (dk_at dksX4_insertsAt_0 16 rfl rfl)
theorem dX4_insertsAt_17 : decode cX4_insertsAt 17 = .ok (.putfield 271, 3) := dk_181 1 15 (dk_at dksX4_insertsAt_0 17 rfl rfl)
theorem dX4_insertsAt_20 : decode cX4_insertsAt 20 = .ok (.iconst 0, 1) := dk_3 (dk_at dksX4_insertsAt_0 20 rfl rfl)
theorem dX4_insertsAt_21 : decode cX4_insertsAt 21 = .ok (.istore 7, 2) := dk_54 7 (dk_at dksX4_insertsAt_0 21 rfl rfl)
theorem dX4_insertsAt_23 : decode cX4_insertsAt 23 = .ok (.iload 7, 2) := dk_21 7 (dk_at dksX4_insertsAt_1 0 rfl rfl)
theorem dX4_insertsAt_25 : decode cX4_insertsAt 25 = .ok (.aload_n 0, 1) := dk_42 (dk_at dksX4_insertsAt_1 2 rfl rfl)
theorem dX4_insertsAt_26 : decode cX4_insertsAt 26 = .ok (.getfield 271, 3) := dk_180 1 15 (dk_at dksX4_insertsAt_1 3 rfl rfl)
theorem dX4_insertsAt_29 : decode cX4_insertsAt 29 = .ok (.if_icmp .ge 70, 3) := dk_162 0 70 (dk_at dksX4_insertsAt_1 6 rfl rfl)
theorem dX4_insertsAt_32 : decode cX4_insertsAt 32 = .ok (.iload 7, 2) := dk_21 7 (dk_at dksX4_insertsAt_1 9 rfl rfl)
theorem dX4_insertsAt_34 : decode cX4_insertsAt 34 = .ok (.iload_n 3, 1) := dk_29 (dk_at dksX4_insertsAt_1 11 rfl rfl)
theorem dX4_insertsAt_35 : decode cX4_insertsAt 35 = .ok (.if_icmp .ne 18, 3) := dk_160 0 18 (dk_at dksX4_insertsAt_1 12 rfl rfl)
theorem dX4_insertsAt_38 : decode cX4_insertsAt 38 = .ok (.aload_n 0, 1) := dk_42 (dk_at dksX4_insertsAt_1 15 rfl rfl)
theorem dX4_insertsAt_39 : decode cX4_insertsAt 39 = .ok (.getfield 50, 3) := dk_180 0 50 (dk_at dksX4_insertsAt_1 16 rfl rfl)
theorem dX4_insertsAt_42 : decode cX4_insertsAt 42 = .ok (.iload 7, 2) := dk_21 7 (dk_at dksX4_insertsAt_1 19 rfl rfl)
theorem dX4_insertsAt_44 : decode cX4_insertsAt 44 = .ok (.iconst 2, 1) := dk_5 (dk_at dksX4_insertsAt_1 21 rfl rfl)
theorem dX4_insertsAt_45 : decode cX4_insertsAt 45 = .ok (.iload_n 2, 1) := dk_28 (dk_at dksX4_insertsAt_1 22 rfl rfl)
theorem dX4_insertsAt_46 : decode cX4_insertsAt 46 = .ok (.imul, 1) := dk_104 (dk_at dksX4_insertsAt_1 23 rfl rfl)
theorem dX4_insertsAt_47 : decode cX4_insertsAt 47 = .ok (.iconst 1, 1) := dk_4 (dk_at dksX4_insertsAt_2 0 rfl rfl)
theorem dX4_insertsAt_48 : decode cX4_insertsAt 48 = .ok (.iadd, 1) := dk_96 (dk_at dksX4_insertsAt_2 1 rfl rfl)
theorem dX4_insertsAt_49 : decode cX4_insertsAt 49 = .ok (.iastore, 1) := dk_79 (dk_at dksX4_insertsAt_2 2 rfl rfl)
theorem dX4_insertsAt_50 : decode cX4_insertsAt 50 = .ok (.goto 43, 3) := dk_167 0 43 (dk_at dksX4_insertsAt_2 3 rfl rfl)
theorem dX4_insertsAt_53 : decode cX4_insertsAt 53 = .ok (.iload 7, 2) := dk_21 7 (dk_at dksX4_insertsAt_2 6 rfl rfl)
theorem dX4_insertsAt_55 : decode cX4_insertsAt 55 = .ok (.iload 4, 2) := dk_21 4 (dk_at dksX4_insertsAt_2 8 rfl rfl)
theorem dX4_insertsAt_57 : decode cX4_insertsAt 57 = .ok (.if_icmp .ne 16, 3) := dk_160 0 16 (dk_at dksX4_insertsAt_2 10 rfl rfl)
theorem dX4_insertsAt_60 : decode cX4_insertsAt 60 = .ok (.aload_n 0, 1) := dk_42 (dk_at dksX4_insertsAt_2 13 rfl rfl)
theorem dX4_insertsAt_61 : decode cX4_insertsAt 61 = .ok (.getfield 50, 3) := dk_180 0 50 (dk_at dksX4_insertsAt_2 14 rfl rfl)
theorem dX4_insertsAt_64 : decode cX4_insertsAt 64 = .ok (.iload 7, 2) := dk_21 7 (dk_at dksX4_insertsAt_2 17 rfl rfl)
theorem dX4_insertsAt_66 : decode cX4_insertsAt 66 = .ok (.iconst 2, 1) := dk_5 (dk_at dksX4_insertsAt_2 19 rfl rfl)
theorem dX4_insertsAt_67 : decode cX4_insertsAt 67 = .ok (.iload_n 2, 1) := dk_28 (dk_at dksX4_insertsAt_2 20 rfl rfl)
theorem dX4_insertsAt_68 : decode cX4_insertsAt 68 = .ok (.imul, 1) := dk_104 (dk_at dksX4_insertsAt_2 21 rfl rfl)
theorem dX4_insertsAt_69 : decode cX4_insertsAt 69 = .ok (.iastore, 1) := dk_79 (dk_at dksX4_insertsAt_2 22 rfl rfl)
theorem dX4_insertsAt_70 : decode cX4_insertsAt 70 = .ok (.goto 23, 3) := dk_167 0 23 (dk_at dksX4_insertsAt_3 0 rfl rfl)
theorem dX4_insertsAt_73 : decode cX4_insertsAt 73 = .ok (.aload_n 0, 1) := dk_42 (dk_at dksX4_insertsAt_3 3 rfl rfl)
theorem dX4_insertsAt_74 : decode cX4_insertsAt 74 = .ok (.getfield 50, 3) := dk_180 0 50 (dk_at dksX4_insertsAt_3 4 rfl rfl)
theorem dX4_insertsAt_77 : decode cX4_insertsAt 77 = .ok (.iload 7, 2) := dk_21 7 (dk_at dksX4_insertsAt_3 7 rfl rfl)
theorem dX4_insertsAt_79 : decode cX4_insertsAt 79 = .ok (.aload_n 0, 1) := dk_42 (dk_at dksX4_insertsAt_3 9 rfl rfl)
theorem dX4_insertsAt_80 : decode cX4_insertsAt 80 = .ok (.iload_n 1, 1) := dk_27 (dk_at dksX4_insertsAt_3 10 rfl rfl)
theorem dX4_insertsAt_81 : decode cX4_insertsAt 81 = .ok (.bipush 12, 2) := dk_16 12 (dk_at dksX4_insertsAt_3 11 rfl rfl)
theorem dX4_insertsAt_83 : decode cX4_insertsAt 83 = .ok (.iload 6, 2) := dk_21 6 (dk_at dksX4_insertsAt_3 13 rfl rfl)
theorem dX4_insertsAt_85 : decode cX4_insertsAt 85 = .ok (.iadd, 1) := dk_96 (dk_at dksX4_insertsAt_3 15 rfl rfl)
theorem dX4_insertsAt_86 : decode cX4_insertsAt 86 = .ok (.invokevirtual 268, 3) := dk_182 1 12 (dk_at dksX4_insertsAt_3 16 rfl rfl)
theorem dX4_insertsAt_89 : decode cX4_insertsAt 89 = .ok (.iastore, 1) := dk_79 (dk_at dksX4_insertsAt_3 19 rfl rfl)
theorem dX4_insertsAt_90 : decode cX4_insertsAt 90 = .ok (.iinc 6 1, 3) := dk_132 6 1 (dk_at dksX4_insertsAt_3 20 rfl rfl)
theorem dX4_insertsAt_93 : decode cX4_insertsAt 93 = .ok (.iinc 7 1, 3) := dk_132 7 1 (dk_at dksX4_insertsAt_4 0 rfl rfl)
theorem dX4_insertsAt_96 : decode cX4_insertsAt 96 = .ok (.goto (-73), 3) := dk_167 255 183 (dk_at dksX4_insertsAt_4 3 rfl rfl)
theorem dX4_insertsAt_99 : decode cX4_insertsAt 99 = .ok (.return_, 1) := dk_177 (dk_at dksX4_insertsAt_4 6 rfl rfl)
abbrev cX4_fare : ByteArray := prog_25_method_76_code
def yX4_fare : MethodName := ⟨RX4, "fare", "(I)I"⟩
def dkwX4_fare_3 : List UInt8 := [16, 10, 182, 1, 18, 42, 42, 27, 16, 7, 182, 1, 18, 27, 182, 1, 137, 96, 172]
abbrev dktX4_fare_3 : List UInt8 := dkwX4_fare_3 ++ []
def dkwX4_fare_2 : List UInt8 := [27, 16, 7, 182, 1, 18, 182, 1, 45, 42, 42, 27, 16, 7, 182, 1, 18, 182, 1, 55, 61, 42, 27]
abbrev dktX4_fare_2 : List UInt8 := dkwX4_fare_2 ++ dktX4_fare_3
def dkwX4_fare_1 : List UInt8 := [20, 1, 135, 184, 0, 197, 153, 0, 14, 42, 27, 16, 11, 182, 1, 18, 4, 160, 0, 5, 2, 172, 42, 42]
abbrev dktX4_fare_1 : List UInt8 := dkwX4_fare_1 ++ dktX4_fare_2
def dkwX4_fare_0 : List UInt8 := [42, 3, 181, 0, 93, 42, 27, 182, 1, 124, 153, 0, 5, 3, 172, 42, 27, 3, 182, 1, 18, 133, 10]
abbrev dktX4_fare_0 : List UInt8 := dkwX4_fare_0 ++ dktX4_fare_1
theorem dksX4_fare_0 : cX4_fare.data.toList.drop 0 = dktX4_fare_0 := by decide +kernel
theorem dksX4_fare_1 : cX4_fare.data.toList.drop 23 = dktX4_fare_1 := dk_seg dksX4_fare_0 23 rfl rfl
theorem dksX4_fare_2 : cX4_fare.data.toList.drop 47 = dktX4_fare_2 := dk_seg dksX4_fare_1 24 rfl rfl
theorem dksX4_fare_3 : cX4_fare.data.toList.drop 70 = dktX4_fare_3 := dk_seg dksX4_fare_2 23 rfl rfl
theorem dX4_fare_0 : decode cX4_fare 0 = .ok (.aload_n 0, 1) := dk_42 (dk_at dksX4_fare_0 0 rfl rfl)
theorem dX4_fare_1 : decode cX4_fare 1 = .ok (.iconst 0, 1) := dk_3 (dk_at dksX4_fare_0 1 rfl rfl)
theorem dX4_fare_2 : decode cX4_fare 2 = .ok (.putfield 93, 3) := dk_181 0 93 (dk_at dksX4_fare_0 2 rfl rfl)
theorem dX4_fare_5 : decode cX4_fare 5 = .ok (.aload_n 0, 1) := dk_42 (dk_at dksX4_fare_0 5 rfl rfl)
theorem dX4_fare_6 : decode cX4_fare 6 = .ok (.iload_n 1, 1) := dk_27 (dk_at dksX4_fare_0 6 rfl rfl)
theorem dX4_fare_7 : decode cX4_fare 7 = .ok (.invokevirtual 380, 3) := dk_182 1 124 (dk_at dksX4_fare_0 7 rfl rfl)
theorem dX4_fare_10 : decode cX4_fare 10 = .ok (.ifCond .eq 5, 3) := dk_153 0 5 (dk_at dksX4_fare_0 10 rfl rfl)
theorem dX4_fare_13 : decode cX4_fare 13 = .ok (.iconst 0, 1) := dk_3 (dk_at dksX4_fare_0 13 rfl rfl)
theorem dX4_fare_14 : decode cX4_fare 14 = .ok (.ireturn, 1) := dk_172 (dk_at dksX4_fare_0 14 rfl rfl)
theorem dX4_fare_15 : decode cX4_fare 15 = .ok (.aload_n 0, 1) := dk_42 (dk_at dksX4_fare_0 15 rfl rfl)
theorem dX4_fare_16 : decode cX4_fare 16 = .ok (.iload_n 1, 1) := dk_27 (dk_at dksX4_fare_0 16 rfl rfl)
theorem dX4_fare_17 : decode cX4_fare 17 = .ok (.iconst 0, 1) := dk_3 (dk_at dksX4_fare_0 17 rfl rfl)
theorem dX4_fare_18 : decode cX4_fare 18 = .ok (.invokevirtual 274, 3) := dk_182 1 18 (dk_at dksX4_fare_0 18 rfl rfl)
theorem dX4_fare_21 : decode cX4_fare 21 = .ok (.i2l, 1) := dk_133 (dk_at dksX4_fare_0 21 rfl rfl)
theorem dX4_fare_22 : decode cX4_fare 22 = .ok (.lconst 1, 1) := dk_10 (dk_at dksX4_fare_0 22 rfl rfl)
theorem dX4_fare_23 : decode cX4_fare 23 = .ok (.ldc2_w 391, 3) := dk_20 1 135 (dk_at dksX4_fare_1 0 rfl rfl)
theorem dX4_fare_26 : decode cX4_fare 26 = .ok (.invokestatic 197, 3) := dk_184 0 197 (dk_at dksX4_fare_1 3 rfl rfl)
theorem dX4_fare_29 : decode cX4_fare 29 = .ok (.ifCond .eq 14, 3) := dk_153 0 14 (dk_at dksX4_fare_1 6 rfl rfl)
theorem dX4_fare_32 : decode cX4_fare 32 = .ok (.aload_n 0, 1) := dk_42 (dk_at dksX4_fare_1 9 rfl rfl)
theorem dX4_fare_33 : decode cX4_fare 33 = .ok (.iload_n 1, 1) := dk_27 (dk_at dksX4_fare_1 10 rfl rfl)
theorem dX4_fare_34 : decode cX4_fare 34 = .ok (.bipush 11, 2) := dk_16 11 (dk_at dksX4_fare_1 11 rfl rfl)
theorem dX4_fare_36 : decode cX4_fare 36 = .ok (.invokevirtual 274, 3) := dk_182 1 18 (dk_at dksX4_fare_1 13 rfl rfl)
theorem dX4_fare_39 : decode cX4_fare 39 = .ok (.iconst 1, 1) := dk_4 (dk_at dksX4_fare_1 16 rfl rfl)
theorem dX4_fare_40 : decode cX4_fare 40 = .ok (.if_icmp .ne 5, 3) := dk_160 0 5 (dk_at dksX4_fare_1 17 rfl rfl)
theorem dX4_fare_43 : decode cX4_fare 43 = .ok (.iconst (-1), 1) := dk_2 (dk_at dksX4_fare_1 20 rfl rfl)
theorem dX4_fare_44 : decode cX4_fare 44 = .ok (.ireturn, 1) := dk_172 (dk_at dksX4_fare_1 21 rfl rfl)
theorem dX4_fare_45 : decode cX4_fare 45 = .ok (.aload_n 0, 1) := dk_42 (dk_at dksX4_fare_1 22 rfl rfl)
theorem dX4_fare_46 : decode cX4_fare 46 = .ok (.aload_n 0, 1) := dk_42 (dk_at dksX4_fare_1 23 rfl rfl)
theorem dX4_fare_47 : decode cX4_fare 47 = .ok (.iload_n 1, 1) := dk_27 (dk_at dksX4_fare_2 0 rfl rfl)
theorem dX4_fare_48 : decode cX4_fare 48 = .ok (.bipush 7, 2) := dk_16 7 (dk_at dksX4_fare_2 1 rfl rfl)
theorem dX4_fare_50 : decode cX4_fare 50 = .ok (.invokevirtual 274, 3) := dk_182 1 18 (dk_at dksX4_fare_2 3 rfl rfl)
theorem dX4_fare_53 : decode cX4_fare 53 = .ok (.invokevirtual 301, 3) := dk_182 1 45 (dk_at dksX4_fare_2 6 rfl rfl)
theorem dX4_fare_56 : decode cX4_fare 56 = .ok (.aload_n 0, 1) := dk_42 (dk_at dksX4_fare_2 9 rfl rfl)
theorem dX4_fare_57 : decode cX4_fare 57 = .ok (.aload_n 0, 1) := dk_42 (dk_at dksX4_fare_2 10 rfl rfl)
theorem dX4_fare_58 : decode cX4_fare 58 = .ok (.iload_n 1, 1) := dk_27 (dk_at dksX4_fare_2 11 rfl rfl)
theorem dX4_fare_59 : decode cX4_fare 59 = .ok (.bipush 7, 2) := dk_16 7 (dk_at dksX4_fare_2 12 rfl rfl)
theorem dX4_fare_61 : decode cX4_fare 61 = .ok (.invokevirtual 274, 3) := dk_182 1 18 (dk_at dksX4_fare_2 14 rfl rfl)
theorem dX4_fare_64 : decode cX4_fare 64 = .ok (.invokevirtual 311, 3) := dk_182 1 55 (dk_at dksX4_fare_2 17 rfl rfl)
theorem dX4_fare_67 : decode cX4_fare 67 = .ok (.istore_n 2, 1) := dk_61 (dk_at dksX4_fare_2 20 rfl rfl)
theorem dX4_fare_68 : decode cX4_fare 68 = .ok (.aload_n 0, 1) := dk_42 (dk_at dksX4_fare_2 21 rfl rfl)
theorem dX4_fare_69 : decode cX4_fare 69 = .ok (.iload_n 1, 1) := dk_27 (dk_at dksX4_fare_2 22 rfl rfl)
theorem dX4_fare_70 : decode cX4_fare 70 = .ok (.bipush 10, 2) := dk_16 10 (dk_at dksX4_fare_3 0 rfl rfl)
theorem dX4_fare_72 : decode cX4_fare 72 = .ok (.invokevirtual 274, 3) := dk_182 1 18 (dk_at dksX4_fare_3 2 rfl rfl)
theorem dX4_fare_75 : decode cX4_fare 75 = .ok (.aload_n 0, 1) := dk_42 (dk_at dksX4_fare_3 5 rfl rfl)
theorem dX4_fare_76 : decode cX4_fare 76 = .ok (.aload_n 0, 1) := dk_42 (dk_at dksX4_fare_3 6 rfl rfl)
theorem dX4_fare_77 : decode cX4_fare 77 = .ok (.iload_n 1, 1) := dk_27 (dk_at dksX4_fare_3 7 rfl rfl)
theorem dX4_fare_78 : decode cX4_fare 78 = .ok (.bipush 7, 2) := dk_16 7 (dk_at dksX4_fare_3 8 rfl rfl)
theorem dX4_fare_80 : decode cX4_fare 80 = .ok (.invokevirtual 274, 3) := dk_182 1 18 (dk_at dksX4_fare_3 10 rfl rfl)
theorem dX4_fare_83 : decode cX4_fare 83 = .ok (.iload_n 1, 1) := dk_27 (dk_at dksX4_fare_3 13 rfl rfl)
theorem dX4_fare_84 : decode cX4_fare 84 = .ok (.invokevirtual 393, 3) := dk_182 1 137 (dk_at dksX4_fare_3 14 rfl rfl)
theorem dX4_fare_87 : decode cX4_fare 87 = .ok (.iadd, 1) := dk_96 (dk_at dksX4_fare_3 17 rfl rfl)
theorem dX4_fare_88 : decode cX4_fare 88 = .ok (.ireturn, 1) := dk_172 (dk_at dksX4_fare_3 18 rfl rfl)
abbrev cX4_willPay : ByteArray := prog_25_method_75_code
def yX4_willPay : MethodName := ⟨RX4, "willPay", "(II)I"⟩
def dkwX4_willPay_11 : List UInt8 := [167, 255, 50, 29, 172]
abbrev dktX4_willPay_11 : List UInt8 := dkwX4_willPay_11 ++ []
def dkwX4_willPay_10 : List UInt8 := [132, 4, 1, 29, 21, 7, 28, 160, 0, 10, 42, 180, 0, 117, 167, 0, 4, 3, 96, 62, 132, 5, 1]
abbrev dktX4_willPay_10 : List UInt8 := dkwX4_willPay_10 ++ dktX4_willPay_11
def dkwX4_willPay_9 : List UInt8 := [21, 7, 16, 11, 182, 1, 18, 4, 160, 0, 6, 167, 0, 32, 42, 180, 0, 71, 21, 4, 21, 7, 79]
abbrev dktX4_willPay_9 : List UInt8 := dkwX4_willPay_9 ++ dktX4_willPay_10
def dkwX4_willPay_8 : List UInt8 := [132, 9, 1, 167, 255, 157, 21, 8, 54, 4, 42, 180, 0, 50, 21, 5, 46, 4, 126, 153, 0, 47, 42]
abbrev dktX4_willPay_8 : List UInt8 := dkwX4_willPay_8 ++ dktX4_willPay_9
def dkwX4_willPay_7 : List UInt8 := [180, 0, 71, 21, 9, 46, 79, 21, 8, 21, 10, 153, 0, 7, 4, 167, 0, 4, 3, 96, 54, 8]
abbrev dktX4_willPay_7 : List UInt8 := dkwX4_willPay_7 ++ dktX4_willPay_8
def dkwX4_willPay_6 : List UInt8 := [159, 0, 7, 4, 167, 0, 4, 3, 54, 10, 21, 10, 153, 0, 17, 42, 180, 0, 71, 21, 8, 42]
abbrev dktX4_willPay_6 : List UInt8 := dkwX4_willPay_6 ++ dktX4_willPay_7
def dkwX4_willPay_5 : List UInt8 := [96, 62, 42, 180, 0, 50, 21, 5, 46, 4, 126, 4, 159, 0, 15, 42, 180, 0, 71, 21, 9, 46, 21, 7]
abbrev dktX4_willPay_5 : List UInt8 := dkwX4_willPay_5 ++ dktX4_willPay_6
def dkwX4_willPay_4 : List UInt8 := [162, 0, 98, 42, 180, 0, 71, 21, 9, 46, 28, 160, 0, 15, 29, 21, 6, 21, 4, 21, 9, 184, 1, 86]
abbrev dktX4_willPay_4 : List UInt8 := dkwX4_willPay_4 ++ dktX4_willPay_5
def dkwX4_willPay_3 : List UInt8 := [54, 6, 42, 180, 0, 50, 21, 5, 46, 5, 108, 54, 7, 3, 54, 8, 3, 54, 9, 21, 9, 21, 4]
abbrev dktX4_willPay_3 : List UInt8 := dkwX4_willPay_3 ++ dktX4_willPay_4
def dkwX4_willPay_2 : List UInt8 := [54, 5, 21, 5, 42, 180, 1, 15, 162, 0, 203, 42, 42, 180, 0, 65, 21, 5, 46, 21, 4, 182, 1, 83]
abbrev dktX4_willPay_2 : List UInt8 := dkwX4_willPay_2 ++ dktX4_willPay_3
def dkwX4_willPay_1 : List UInt8 := [180, 0, 71, 21, 5, 42, 27, 16, 25, 21, 5, 96, 182, 1, 12, 79, 132, 5, 1, 167, 255, 229, 3]
abbrev dktX4_willPay_1 : List UInt8 := dkwX4_willPay_1 ++ dktX4_willPay_2
def dkwX4_willPay_0 : List UInt8 := [3, 62, 42, 27, 16, 24, 182, 1, 12, 54, 4, 3, 54, 5, 21, 5, 21, 4, 162, 0, 26, 42]
abbrev dktX4_willPay_0 : List UInt8 := dkwX4_willPay_0 ++ dktX4_willPay_1
theorem dksX4_willPay_0 : cX4_willPay.data.toList.drop 0 = dktX4_willPay_0 := by decide +kernel
theorem dksX4_willPay_1 : cX4_willPay.data.toList.drop 22 = dktX4_willPay_1 := dk_seg dksX4_willPay_0 22 rfl rfl
theorem dksX4_willPay_2 : cX4_willPay.data.toList.drop 45 = dktX4_willPay_2 := dk_seg dksX4_willPay_1 23 rfl rfl
theorem dksX4_willPay_3 : cX4_willPay.data.toList.drop 69 = dktX4_willPay_3 := dk_seg dksX4_willPay_2 24 rfl rfl
theorem dksX4_willPay_4 : cX4_willPay.data.toList.drop 92 = dktX4_willPay_4 := dk_seg dksX4_willPay_3 23 rfl rfl
theorem dksX4_willPay_5 : cX4_willPay.data.toList.drop 116 = dktX4_willPay_5 := dk_seg dksX4_willPay_4 24 rfl rfl
theorem dksX4_willPay_6 : cX4_willPay.data.toList.drop 140 = dktX4_willPay_6 := dk_seg dksX4_willPay_5 24 rfl rfl
theorem dksX4_willPay_7 : cX4_willPay.data.toList.drop 162 = dktX4_willPay_7 := dk_seg dksX4_willPay_6 22 rfl rfl
theorem dksX4_willPay_8 : cX4_willPay.data.toList.drop 184 = dktX4_willPay_8 := dk_seg dksX4_willPay_7 22 rfl rfl
theorem dksX4_willPay_9 : cX4_willPay.data.toList.drop 207 = dktX4_willPay_9 := dk_seg dksX4_willPay_8 23 rfl rfl
theorem dksX4_willPay_10 : cX4_willPay.data.toList.drop 230 = dktX4_willPay_10 := dk_seg dksX4_willPay_9 23 rfl rfl
theorem dksX4_willPay_11 : cX4_willPay.data.toList.drop 253 = dktX4_willPay_11 := dk_seg dksX4_willPay_10 23 rfl rfl
theorem dX4_willPay_0 : decode cX4_willPay 0 = .ok (.iconst 0, 1) := dk_3 (dk_at dksX4_willPay_0 0 rfl rfl)
theorem dX4_willPay_1 : decode cX4_willPay 1 = .ok (.istore_n 3, 1) := dk_62 (dk_at dksX4_willPay_0 1 rfl rfl)
theorem dX4_willPay_2 : decode cX4_willPay 2 = .ok (.aload_n 0, 1) := dk_42 (dk_at dksX4_willPay_0 2 rfl rfl)
theorem dX4_willPay_3 : decode cX4_willPay 3 = .ok (.iload_n 1, 1) := dk_27 (dk_at dksX4_willPay_0 3 rfl rfl)
theorem dX4_willPay_4 : decode cX4_willPay 4 = .ok (.bipush 24, 2) := dk_16 24 (dk_at dksX4_willPay_0 4 rfl rfl)
theorem dX4_willPay_6 : decode cX4_willPay 6 = .ok (.invokevirtual 268, 3) := dk_182 1 12 (dk_at dksX4_willPay_0 6 rfl rfl)
theorem dX4_willPay_9 : decode cX4_willPay 9 = .ok (.istore 4, 2) := dk_54 4 (dk_at dksX4_willPay_0 9 rfl rfl)
theorem dX4_willPay_11 : decode cX4_willPay 11 = .ok (.iconst 0, 1) := dk_3 (dk_at dksX4_willPay_0 11 rfl rfl)
theorem dX4_willPay_12 : decode cX4_willPay 12 = .ok (.istore 5, 2) := dk_54 5 (dk_at dksX4_willPay_0 12 rfl rfl)
theorem dX4_willPay_14 : decode cX4_willPay 14 = .ok (.iload 5, 2) := dk_21 5 (dk_at dksX4_willPay_0 14 rfl rfl)
theorem dX4_willPay_16 : decode cX4_willPay 16 = .ok (.iload 4, 2) := dk_21 4 (dk_at dksX4_willPay_0 16 rfl rfl)
theorem dX4_willPay_18 : decode cX4_willPay 18 = .ok (.if_icmp .ge 26, 3) := dk_162 0 26 (dk_at dksX4_willPay_0 18 rfl rfl)
theorem dX4_willPay_21 : decode cX4_willPay 21 = .ok (.aload_n 0, 1) := dk_42 (dk_at dksX4_willPay_0 21 rfl rfl)
theorem dX4_willPay_22 : decode cX4_willPay 22 = .ok (.getfield 71, 3) := dk_180 0 71 (dk_at dksX4_willPay_1 0 rfl rfl)
theorem dX4_willPay_25 : decode cX4_willPay 25 = .ok (.iload 5, 2) := dk_21 5 (dk_at dksX4_willPay_1 3 rfl rfl)
theorem dX4_willPay_27 : decode cX4_willPay 27 = .ok (.aload_n 0, 1) := dk_42 (dk_at dksX4_willPay_1 5 rfl rfl)
theorem dX4_willPay_28 : decode cX4_willPay 28 = .ok (.iload_n 1, 1) := dk_27 (dk_at dksX4_willPay_1 6 rfl rfl)
theorem dX4_willPay_29 : decode cX4_willPay 29 = .ok (.bipush 25, 2) := dk_16 25 (dk_at dksX4_willPay_1 7 rfl rfl)
theorem dX4_willPay_31 : decode cX4_willPay 31 = .ok (.iload 5, 2) := dk_21 5 (dk_at dksX4_willPay_1 9 rfl rfl)
theorem dX4_willPay_33 : decode cX4_willPay 33 = .ok (.iadd, 1) := dk_96 (dk_at dksX4_willPay_1 11 rfl rfl)
theorem dX4_willPay_34 : decode cX4_willPay 34 = .ok (.invokevirtual 268, 3) := dk_182 1 12 (dk_at dksX4_willPay_1 12 rfl rfl)
theorem dX4_willPay_37 : decode cX4_willPay 37 = .ok (.iastore, 1) := dk_79 (dk_at dksX4_willPay_1 15 rfl rfl)
theorem dX4_willPay_38 : decode cX4_willPay 38 = .ok (.iinc 5 1, 3) := dk_132 5 1 (dk_at dksX4_willPay_1 16 rfl rfl)
theorem dX4_willPay_41 : decode cX4_willPay 41 = .ok (.goto (-27), 3) := dk_167 255 229 (dk_at dksX4_willPay_1 19 rfl rfl)
theorem dX4_willPay_44 : decode cX4_willPay 44 = .ok (.iconst 0, 1) := dk_3 (dk_at dksX4_willPay_1 22 rfl rfl)
theorem dX4_willPay_45 : decode cX4_willPay 45 = .ok (.istore 5, 2) := dk_54 5 (dk_at dksX4_willPay_2 0 rfl rfl)
theorem dX4_willPay_47 : decode cX4_willPay 47 = .ok (.iload 5, 2) := dk_21 5 (dk_at dksX4_willPay_2 2 rfl rfl)
theorem dX4_willPay_49 : decode cX4_willPay 49 = .ok (.aload_n 0, 1) := dk_42 (dk_at dksX4_willPay_2 4 rfl rfl)
theorem dX4_willPay_50 : decode cX4_willPay 50 = .ok (.getfield 271, 3) := dk_180 1 15 (dk_at dksX4_willPay_2 5 rfl rfl)
theorem dX4_willPay_53 : decode cX4_willPay 53 = .ok (.if_icmp .ge 203, 3) := dk_162 0 203 (dk_at dksX4_willPay_2 8 rfl rfl)
theorem dX4_willPay_56 : decode cX4_willPay 56 = .ok (.aload_n 0, 1) := dk_42 (dk_at dksX4_willPay_2 11 rfl rfl)
theorem dX4_willPay_57 : decode cX4_willPay 57 = .ok (.aload_n 0, 1) := dk_42 (dk_at dksX4_willPay_2 12 rfl rfl)
theorem dX4_willPay_58 : decode cX4_willPay 58 = .ok (.getfield 65, 3) := dk_180 0 65 (dk_at dksX4_willPay_2 13 rfl rfl)
theorem dX4_willPay_61 : decode cX4_willPay 61 = .ok (.iload 5, 2) := dk_21 5 (dk_at dksX4_willPay_2 16 rfl rfl)
theorem dX4_willPay_63 : decode cX4_willPay 63 = .ok (.iaload, 1) := dk_46 (dk_at dksX4_willPay_2 18 rfl rfl)
theorem dX4_willPay_64 : decode cX4_willPay 64 = .ok (.iload 4, 2) := dk_21 4 (dk_at dksX4_willPay_2 19 rfl rfl)
theorem dX4_willPay_66 : decode cX4_willPay 66 = .ok (.invokevirtual 339, 3) := dk_182 1 83 (dk_at dksX4_willPay_2 21 rfl rfl)
theorem dX4_willPay_69 : decode cX4_willPay 69 = .ok (.istore 6, 2) := dk_54 6 (dk_at dksX4_willPay_3 0 rfl rfl)
theorem dX4_willPay_71 : decode cX4_willPay 71 = .ok (.aload_n 0, 1) := dk_42 (dk_at dksX4_willPay_3 2 rfl rfl)
theorem dX4_willPay_72 : decode cX4_willPay 72 = .ok (.getfield 50, 3) := dk_180 0 50 (dk_at dksX4_willPay_3 3 rfl rfl)
theorem dX4_willPay_75 : decode cX4_willPay 75 = .ok (.iload 5, 2) := dk_21 5 (dk_at dksX4_willPay_3 6 rfl rfl)
theorem dX4_willPay_77 : decode cX4_willPay 77 = .ok (.iaload, 1) := dk_46 (dk_at dksX4_willPay_3 8 rfl rfl)
theorem dX4_willPay_78 : decode cX4_willPay 78 = .ok (.iconst 2, 1) := dk_5 (dk_at dksX4_willPay_3 9 rfl rfl)
theorem dX4_willPay_79 : decode cX4_willPay 79 = .ok (.idiv, 1) := dk_108 (dk_at dksX4_willPay_3 10 rfl rfl)
theorem dX4_willPay_80 : decode cX4_willPay 80 = .ok (.istore 7, 2) := dk_54 7 (dk_at dksX4_willPay_3 11 rfl rfl)
theorem dX4_willPay_82 : decode cX4_willPay 82 = .ok (.iconst 0, 1) := dk_3 (dk_at dksX4_willPay_3 13 rfl rfl)
theorem dX4_willPay_83 : decode cX4_willPay 83 = .ok (.istore 8, 2) := dk_54 8 (dk_at dksX4_willPay_3 14 rfl rfl)
theorem dX4_willPay_85 : decode cX4_willPay 85 = .ok (.iconst 0, 1) := dk_3 (dk_at dksX4_willPay_3 16 rfl rfl)
theorem dX4_willPay_86 : decode cX4_willPay 86 = .ok (.istore 9, 2) := dk_54 9 (dk_at dksX4_willPay_3 17 rfl rfl)
theorem dX4_willPay_88 : decode cX4_willPay 88 = .ok (.iload 9, 2) := dk_21 9 (dk_at dksX4_willPay_3 19 rfl rfl)
theorem dX4_willPay_90 : decode cX4_willPay 90 = .ok (.iload 4, 2) := dk_21 4 (dk_at dksX4_willPay_3 21 rfl rfl)
theorem dX4_willPay_92 : decode cX4_willPay 92 = .ok (.if_icmp .ge 98, 3) := dk_162 0 98 (dk_at dksX4_willPay_4 0 rfl rfl)
theorem dX4_willPay_95 : decode cX4_willPay 95 = .ok (.aload_n 0, 1) := dk_42 (dk_at dksX4_willPay_4 3 rfl rfl)
theorem dX4_willPay_96 : decode cX4_willPay 96 = .ok (.getfield 71, 3) := dk_180 0 71 (dk_at dksX4_willPay_4 4 rfl rfl)
theorem dX4_willPay_99 : decode cX4_willPay 99 = .ok (.iload 9, 2) := dk_21 9 (dk_at dksX4_willPay_4 7 rfl rfl)
theorem dX4_willPay_101 : decode cX4_willPay 101 = .ok (.iaload, 1) := dk_46 (dk_at dksX4_willPay_4 9 rfl rfl)
theorem dX4_willPay_102 : decode cX4_willPay 102 = .ok (.iload_n 2, 1) := dk_28 (dk_at dksX4_willPay_4 10 rfl rfl)
theorem dX4_willPay_103 : decode cX4_willPay 103 = .ok (.if_icmp .ne 15, 3) := dk_160 0 15 (dk_at dksX4_willPay_4 11 rfl rfl)
theorem dX4_willPay_106 : decode cX4_willPay 106 = .ok (.iload_n 3, 1) := dk_29 (dk_at dksX4_willPay_4 14 rfl rfl)
theorem dX4_willPay_107 : decode cX4_willPay 107 = .ok (.iload 6, 2) := dk_21 6 (dk_at dksX4_willPay_4 15 rfl rfl)
theorem dX4_willPay_109 : decode cX4_willPay 109 = .ok (.iload 4, 2) := dk_21 4 (dk_at dksX4_willPay_4 17 rfl rfl)
theorem dX4_willPay_111 : decode cX4_willPay 111 = .ok (.iload 9, 2) := dk_21 9 (dk_at dksX4_willPay_4 19 rfl rfl)
theorem dX4_willPay_113 : decode cX4_willPay 113 = .ok (.invokestatic 342, 3) := dk_184 1 86 (dk_at dksX4_willPay_4 21 rfl rfl)
theorem dX4_willPay_116 : decode cX4_willPay 116 = .ok (.iadd, 1) := dk_96 (dk_at dksX4_willPay_5 0 rfl rfl)
theorem dX4_willPay_117 : decode cX4_willPay 117 = .ok (.istore_n 3, 1) := dk_62 (dk_at dksX4_willPay_5 1 rfl rfl)
theorem dX4_willPay_118 : decode cX4_willPay 118 = .ok (.aload_n 0, 1) := dk_42 (dk_at dksX4_willPay_5 2 rfl rfl)
theorem dX4_willPay_119 : decode cX4_willPay 119 = .ok (.getfield 50, 3) := dk_180 0 50 (dk_at dksX4_willPay_5 3 rfl rfl)
theorem dX4_willPay_122 : decode cX4_willPay 122 = .ok (.iload 5, 2) := dk_21 5 (dk_at dksX4_willPay_5 6 rfl rfl)
theorem dX4_willPay_124 : decode cX4_willPay 124 = .ok (.iaload, 1) := dk_46 (dk_at dksX4_willPay_5 8 rfl rfl)
theorem dX4_willPay_125 : decode cX4_willPay 125 = .ok (.iconst 1, 1) := dk_4 (dk_at dksX4_willPay_5 9 rfl rfl)
theorem dX4_willPay_126 : decode cX4_willPay 126 = .ok (.iand, 1) := dk_126 (dk_at dksX4_willPay_5 10 rfl rfl)
theorem dX4_willPay_127 : decode cX4_willPay 127 = .ok (.iconst 1, 1) := dk_4 (dk_at dksX4_willPay_5 11 rfl rfl)
theorem dX4_willPay_128 : decode cX4_willPay 128 = .ok (.if_icmp .eq 15, 3) := dk_159 0 15 (dk_at dksX4_willPay_5 12 rfl rfl)
theorem dX4_willPay_131 : decode cX4_willPay 131 = .ok (.aload_n 0, 1) := dk_42 (dk_at dksX4_willPay_5 15 rfl rfl)
theorem dX4_willPay_132 : decode cX4_willPay 132 = .ok (.getfield 71, 3) := dk_180 0 71 (dk_at dksX4_willPay_5 16 rfl rfl)
theorem dX4_willPay_135 : decode cX4_willPay 135 = .ok (.iload 9, 2) := dk_21 9 (dk_at dksX4_willPay_5 19 rfl rfl)
theorem dX4_willPay_137 : decode cX4_willPay 137 = .ok (.iaload, 1) := dk_46 (dk_at dksX4_willPay_5 21 rfl rfl)
theorem dX4_willPay_138 : decode cX4_willPay 138 = .ok (.iload 7, 2) := dk_21 7 (dk_at dksX4_willPay_5 22 rfl rfl)
theorem dX4_willPay_140 : decode cX4_willPay 140 = .ok (.if_icmp .eq 7, 3) := dk_159 0 7 (dk_at dksX4_willPay_6 0 rfl rfl)
theorem dX4_willPay_143 : decode cX4_willPay 143 = .ok (.iconst 1, 1) := dk_4 (dk_at dksX4_willPay_6 3 rfl rfl)
theorem dX4_willPay_144 : decode cX4_willPay 144 = .ok (.goto 4, 3) := dk_167 0 4 (dk_at dksX4_willPay_6 4 rfl rfl)
theorem dX4_willPay_147 : decode cX4_willPay 147 = .ok (.iconst 0, 1) := dk_3 (dk_at dksX4_willPay_6 7 rfl rfl)
theorem dX4_willPay_148 : decode cX4_willPay 148 = .ok (.istore 10, 2) := dk_54 10 (dk_at dksX4_willPay_6 8 rfl rfl)
theorem dX4_willPay_150 : decode cX4_willPay 150 = .ok (.iload 10, 2) := dk_21 10 (dk_at dksX4_willPay_6 10 rfl rfl)
theorem dX4_willPay_152 : decode cX4_willPay 152 = .ok (.ifCond .eq 17, 3) := dk_153 0 17 (dk_at dksX4_willPay_6 12 rfl rfl)
theorem dX4_willPay_155 : decode cX4_willPay 155 = .ok (.aload_n 0, 1) := dk_42 (dk_at dksX4_willPay_6 15 rfl rfl)
theorem dX4_willPay_156 : decode cX4_willPay 156 = .ok (.getfield 71, 3) := dk_180 0 71 (dk_at dksX4_willPay_6 16 rfl rfl)
theorem dX4_willPay_159 : decode cX4_willPay 159 = .ok (.iload 8, 2) := dk_21 8 (dk_at dksX4_willPay_6 19 rfl rfl)
theorem dX4_willPay_161 : decode cX4_willPay 161 = .ok (.aload_n 0, 1) := dk_42 (dk_at dksX4_willPay_6 21 rfl rfl)
theorem dX4_willPay_162 : decode cX4_willPay 162 = .ok (.getfield 71, 3) := dk_180 0 71 (dk_at dksX4_willPay_7 0 rfl rfl)
theorem dX4_willPay_165 : decode cX4_willPay 165 = .ok (.iload 9, 2) := dk_21 9 (dk_at dksX4_willPay_7 3 rfl rfl)
theorem dX4_willPay_167 : decode cX4_willPay 167 = .ok (.iaload, 1) := dk_46 (dk_at dksX4_willPay_7 5 rfl rfl)
theorem dX4_willPay_168 : decode cX4_willPay 168 = .ok (.iastore, 1) := dk_79 (dk_at dksX4_willPay_7 6 rfl rfl)
theorem dX4_willPay_169 : decode cX4_willPay 169 = .ok (.iload 8, 2) := dk_21 8 (dk_at dksX4_willPay_7 7 rfl rfl)
theorem dX4_willPay_171 : decode cX4_willPay 171 = .ok (.iload 10, 2) := dk_21 10 (dk_at dksX4_willPay_7 9 rfl rfl)
theorem dX4_willPay_173 : decode cX4_willPay 173 = .ok (.ifCond .eq 7, 3) := dk_153 0 7 (dk_at dksX4_willPay_7 11 rfl rfl)
theorem dX4_willPay_176 : decode cX4_willPay 176 = .ok (.iconst 1, 1) := dk_4 (dk_at dksX4_willPay_7 14 rfl rfl)
theorem dX4_willPay_177 : decode cX4_willPay 177 = .ok (.goto 4, 3) := dk_167 0 4 (dk_at dksX4_willPay_7 15 rfl rfl)
theorem dX4_willPay_180 : decode cX4_willPay 180 = .ok (.iconst 0, 1) := dk_3 (dk_at dksX4_willPay_7 18 rfl rfl)
theorem dX4_willPay_181 : decode cX4_willPay 181 = .ok (.iadd, 1) := dk_96 (dk_at dksX4_willPay_7 19 rfl rfl)
theorem dX4_willPay_182 : decode cX4_willPay 182 = .ok (.istore 8, 2) := dk_54 8 (dk_at dksX4_willPay_7 20 rfl rfl)
theorem dX4_willPay_184 : decode cX4_willPay 184 = .ok (.iinc 9 1, 3) := dk_132 9 1 (dk_at dksX4_willPay_8 0 rfl rfl)
theorem dX4_willPay_187 : decode cX4_willPay 187 = .ok (.goto (-99), 3) := dk_167 255 157 (dk_at dksX4_willPay_8 3 rfl rfl)
theorem dX4_willPay_190 : decode cX4_willPay 190 = .ok (.iload 8, 2) := dk_21 8 (dk_at dksX4_willPay_8 6 rfl rfl)
theorem dX4_willPay_192 : decode cX4_willPay 192 = .ok (.istore 4, 2) := dk_54 4 (dk_at dksX4_willPay_8 8 rfl rfl)
theorem dX4_willPay_194 : decode cX4_willPay 194 = .ok (.aload_n 0, 1) := dk_42 (dk_at dksX4_willPay_8 10 rfl rfl)
theorem dX4_willPay_195 : decode cX4_willPay 195 = .ok (.getfield 50, 3) := dk_180 0 50 (dk_at dksX4_willPay_8 11 rfl rfl)
theorem dX4_willPay_198 : decode cX4_willPay 198 = .ok (.iload 5, 2) := dk_21 5 (dk_at dksX4_willPay_8 14 rfl rfl)
theorem dX4_willPay_200 : decode cX4_willPay 200 = .ok (.iaload, 1) := dk_46 (dk_at dksX4_willPay_8 16 rfl rfl)
theorem dX4_willPay_201 : decode cX4_willPay 201 = .ok (.iconst 1, 1) := dk_4 (dk_at dksX4_willPay_8 17 rfl rfl)
theorem dX4_willPay_202 : decode cX4_willPay 202 = .ok (.iand, 1) := dk_126 (dk_at dksX4_willPay_8 18 rfl rfl)
theorem dX4_willPay_203 : decode cX4_willPay 203 = .ok (.ifCond .eq 47, 3) := dk_153 0 47 (dk_at dksX4_willPay_8 19 rfl rfl)
theorem dX4_willPay_206 : decode cX4_willPay 206 = .ok (.aload_n 0, 1) := dk_42 (dk_at dksX4_willPay_8 22 rfl rfl)
theorem dX4_willPay_207 : decode cX4_willPay 207 = .ok (.iload 7, 2) := dk_21 7 (dk_at dksX4_willPay_9 0 rfl rfl)
theorem dX4_willPay_209 : decode cX4_willPay 209 = .ok (.bipush 11, 2) := dk_16 11 (dk_at dksX4_willPay_9 2 rfl rfl)
theorem dX4_willPay_211 : decode cX4_willPay 211 = .ok (.invokevirtual 274, 3) := dk_182 1 18 (dk_at dksX4_willPay_9 4 rfl rfl)
theorem dX4_willPay_214 : decode cX4_willPay 214 = .ok (.iconst 1, 1) := dk_4 (dk_at dksX4_willPay_9 7 rfl rfl)
theorem dX4_willPay_215 : decode cX4_willPay 215 = .ok (.if_icmp .ne 6, 3) := dk_160 0 6 (dk_at dksX4_willPay_9 8 rfl rfl)
theorem dX4_willPay_218 : decode cX4_willPay 218 = .ok (.goto 32, 3) := dk_167 0 32 (dk_at dksX4_willPay_9 11 rfl rfl)
theorem dX4_willPay_221 : decode cX4_willPay 221 = .ok (.aload_n 0, 1) := dk_42 (dk_at dksX4_willPay_9 14 rfl rfl)
theorem dX4_willPay_222 : decode cX4_willPay 222 = .ok (.getfield 71, 3) := dk_180 0 71 (dk_at dksX4_willPay_9 15 rfl rfl)
theorem dX4_willPay_225 : decode cX4_willPay 225 = .ok (.iload 4, 2) := dk_21 4 (dk_at dksX4_willPay_9 18 rfl rfl)
theorem dX4_willPay_227 : decode cX4_willPay 227 = .ok (.iload 7, 2) := dk_21 7 (dk_at dksX4_willPay_9 20 rfl rfl)
theorem dX4_willPay_229 : decode cX4_willPay 229 = .ok (.iastore, 1) := dk_79 (dk_at dksX4_willPay_9 22 rfl rfl)
theorem dX4_willPay_230 : decode cX4_willPay 230 = .ok (.iinc 4 1, 3) := dk_132 4 1 (dk_at dksX4_willPay_10 0 rfl rfl)
theorem dX4_willPay_233 : decode cX4_willPay 233 = .ok (.iload_n 3, 1) := dk_29 (dk_at dksX4_willPay_10 3 rfl rfl)
theorem dX4_willPay_234 : decode cX4_willPay 234 = .ok (.iload 7, 2) := dk_21 7 (dk_at dksX4_willPay_10 4 rfl rfl)
theorem dX4_willPay_236 : decode cX4_willPay 236 = .ok (.iload_n 2, 1) := dk_28 (dk_at dksX4_willPay_10 6 rfl rfl)
theorem dX4_willPay_237 : decode cX4_willPay 237 = .ok (.if_icmp .ne 10, 3) := dk_160 0 10 (dk_at dksX4_willPay_10 7 rfl rfl)
theorem dX4_willPay_240 : decode cX4_willPay 240 = .ok (.aload_n 0, 1) := dk_42 (dk_at dksX4_willPay_10 10 rfl rfl)
theorem dX4_willPay_241 : decode cX4_willPay 241 = .ok (.getfield 117, 3) := dk_180 0 117 (dk_at dksX4_willPay_10 11 rfl rfl)
theorem dX4_willPay_244 : decode cX4_willPay 244 = .ok (.goto 4, 3) := dk_167 0 4 (dk_at dksX4_willPay_10 14 rfl rfl)
theorem dX4_willPay_247 : decode cX4_willPay 247 = .ok (.iconst 0, 1) := dk_3 (dk_at dksX4_willPay_10 17 rfl rfl)
theorem dX4_willPay_248 : decode cX4_willPay 248 = .ok (.iadd, 1) := dk_96 (dk_at dksX4_willPay_10 18 rfl rfl)
theorem dX4_willPay_249 : decode cX4_willPay 249 = .ok (.istore_n 3, 1) := dk_62 (dk_at dksX4_willPay_10 19 rfl rfl)
theorem dX4_willPay_250 : decode cX4_willPay 250 = .ok (.iinc 5 1, 3) := dk_132 5 1 (dk_at dksX4_willPay_10 20 rfl rfl)
theorem dX4_willPay_253 : decode cX4_willPay 253 = .ok (.goto (-206), 3) := dk_167 255 50 (dk_at dksX4_willPay_11 0 rfl rfl)
theorem dX4_willPay_256 : decode cX4_willPay 256 = .ok (.iload_n 3, 1) := dk_29 (dk_at dksX4_willPay_11 3 rfl rfl)
theorem dX4_willPay_257 : decode cX4_willPay 257 = .ok (.ireturn, 1) := dk_172 (dk_at dksX4_willPay_11 4 rfl rfl)
abbrev cX4_amountFor : ByteArray := prog_25_method_54_code
def yX4_amountFor : MethodName := ⟨RX4, "amountFor", "(II)I"⟩
def dkwX4_amountFor_0 : List UInt8 := [27, 42, 180, 0, 7, 5, 46, 104, 62, 29, 29, 42, 28, 182, 1, 77, 104, 16, 100, 108, 100, 172]
abbrev dktX4_amountFor_0 : List UInt8 := dkwX4_amountFor_0 ++ []
theorem dksX4_amountFor_0 : cX4_amountFor.data.toList.drop 0 = dktX4_amountFor_0 := by decide +kernel
theorem dX4_amountFor_0 : decode cX4_amountFor 0 = .ok (.iload_n 1, 1) := dk_27 (dk_at dksX4_amountFor_0 0 rfl rfl)
theorem dX4_amountFor_1 : decode cX4_amountFor 1 = .ok (.aload_n 0, 1) := dk_42 (dk_at dksX4_amountFor_0 1 rfl rfl)
theorem dX4_amountFor_2 : decode cX4_amountFor 2 = .ok (.getfield 7, 3) := dk_180 0 7 (dk_at dksX4_amountFor_0 2 rfl rfl)
theorem dX4_amountFor_5 : decode cX4_amountFor 5 = .ok (.iconst 2, 1) := dk_5 (dk_at dksX4_amountFor_0 5 rfl rfl)
theorem dX4_amountFor_6 : decode cX4_amountFor 6 = .ok (.iaload, 1) := dk_46 (dk_at dksX4_amountFor_0 6 rfl rfl)
theorem dX4_amountFor_7 : decode cX4_amountFor 7 = .ok (.imul, 1) := dk_104 (dk_at dksX4_amountFor_0 7 rfl rfl)
theorem dX4_amountFor_8 : decode cX4_amountFor 8 = .ok (.istore_n 3, 1) := dk_62 (dk_at dksX4_amountFor_0 8 rfl rfl)
theorem dX4_amountFor_9 : decode cX4_amountFor 9 = .ok (.iload_n 3, 1) := dk_29 (dk_at dksX4_amountFor_0 9 rfl rfl)
theorem dX4_amountFor_10 : decode cX4_amountFor 10 = .ok (.iload_n 3, 1) := dk_29 (dk_at dksX4_amountFor_0 10 rfl rfl)
theorem dX4_amountFor_11 : decode cX4_amountFor 11 = .ok (.aload_n 0, 1) := dk_42 (dk_at dksX4_amountFor_0 11 rfl rfl)
theorem dX4_amountFor_12 : decode cX4_amountFor 12 = .ok (.iload_n 2, 1) := dk_28 (dk_at dksX4_amountFor_0 12 rfl rfl)
theorem dX4_amountFor_13 : decode cX4_amountFor 13 = .ok (.invokevirtual 333, 3) := dk_182 1 77 (dk_at dksX4_amountFor_0 13 rfl rfl)
theorem dX4_amountFor_16 : decode cX4_amountFor 16 = .ok (.imul, 1) := dk_104 (dk_at dksX4_amountFor_0 16 rfl rfl)
theorem dX4_amountFor_17 : decode cX4_amountFor 17 = .ok (.bipush 100, 2) := dk_16 100 (dk_at dksX4_amountFor_0 17 rfl rfl)
theorem dX4_amountFor_19 : decode cX4_amountFor 19 = .ok (.idiv, 1) := dk_108 (dk_at dksX4_amountFor_0 19 rfl rfl)
theorem dX4_amountFor_20 : decode cX4_amountFor 20 = .ok (.isub, 1) := dk_100 (dk_at dksX4_amountFor_0 20 rfl rfl)
theorem dX4_amountFor_21 : decode cX4_amountFor 21 = .ok (.ireturn, 1) := dk_172 (dk_at dksX4_amountFor_0 21 rfl rfl)
abbrev cX4_discountFor : ByteArray := prog_25_method_53_code
def yX4_discountFor : MethodName := ⟨RX4, "discountFor", "(I)I"⟩
def dkwX4_discountFor_0 : List UInt8 := [27, 5, 162, 0, 7, 3, 167, 0, 17, 42, 16, 7, 27, 7, 184, 1, 74, 96, 5, 100, 182, 1, 36, 172]
abbrev dktX4_discountFor_0 : List UInt8 := dkwX4_discountFor_0 ++ []
theorem dksX4_discountFor_0 : cX4_discountFor.data.toList.drop 0 = dktX4_discountFor_0 := by decide +kernel
theorem dX4_discountFor_0 : decode cX4_discountFor 0 = .ok (.iload_n 1, 1) := dk_27 (dk_at dksX4_discountFor_0 0 rfl rfl)
theorem dX4_discountFor_1 : decode cX4_discountFor 1 = .ok (.iconst 2, 1) := dk_5 (dk_at dksX4_discountFor_0 1 rfl rfl)
theorem dX4_discountFor_2 : decode cX4_discountFor 2 = .ok (.if_icmp .ge 7, 3) := dk_162 0 7 (dk_at dksX4_discountFor_0 2 rfl rfl)
theorem dX4_discountFor_5 : decode cX4_discountFor 5 = .ok (.iconst 0, 1) := dk_3 (dk_at dksX4_discountFor_0 5 rfl rfl)
theorem dX4_discountFor_6 : decode cX4_discountFor 6 = .ok (.goto 17, 3) := dk_167 0 17 (dk_at dksX4_discountFor_0 6 rfl rfl)
theorem dX4_discountFor_9 : decode cX4_discountFor 9 = .ok (.aload_n 0, 1) := dk_42 (dk_at dksX4_discountFor_0 9 rfl rfl)
theorem dX4_discountFor_10 : decode cX4_discountFor 10 = .ok (.bipush 7, 2) := dk_16 7 (dk_at dksX4_discountFor_0 10 rfl rfl)
theorem dX4_discountFor_12 : decode cX4_discountFor 12 = .ok (.iload_n 1, 1) := dk_27 (dk_at dksX4_discountFor_0 12 rfl rfl)
theorem dX4_discountFor_13 : decode cX4_discountFor 13 = .ok (.iconst 4, 1) := dk_7 (dk_at dksX4_discountFor_0 13 rfl rfl)
theorem dX4_discountFor_14 : decode cX4_discountFor 14 = .ok (.invokestatic 330, 3) := dk_184 1 74 (dk_at dksX4_discountFor_0 14 rfl rfl)
theorem dX4_discountFor_17 : decode cX4_discountFor 17 = .ok (.iadd, 1) := dk_96 (dk_at dksX4_discountFor_0 17 rfl rfl)
theorem dX4_discountFor_18 : decode cX4_discountFor 18 = .ok (.iconst 2, 1) := dk_5 (dk_at dksX4_discountFor_0 18 rfl rfl)
theorem dX4_discountFor_19 : decode cX4_discountFor 19 = .ok (.isub, 1) := dk_100 (dk_at dksX4_discountFor_0 19 rfl rfl)
theorem dX4_discountFor_20 : decode cX4_discountFor 20 = .ok (.invokevirtual 292, 3) := dk_182 1 36 (dk_at dksX4_discountFor_0 20 rfl rfl)
theorem dX4_discountFor_23 : decode cX4_discountFor 23 = .ok (.ireturn, 1) := dk_172 (dk_at dksX4_discountFor_0 23 rfl rfl)
abbrev cX4_lesser : ByteArray := prog_25_method_6_code
def yX4_lesser : MethodName := ⟨RX4, "lesser", "(II)I"⟩
def dkwX4_lesser_0 : List UInt8 := [26, 27, 162, 0, 7, 26, 167, 0, 4, 27, 172]
abbrev dktX4_lesser_0 : List UInt8 := dkwX4_lesser_0 ++ []
theorem dksX4_lesser_0 : cX4_lesser.data.toList.drop 0 = dktX4_lesser_0 := by decide +kernel
theorem dX4_lesser_0 : decode cX4_lesser 0 = .ok (.iload_n 0, 1) := dk_26 (dk_at dksX4_lesser_0 0 rfl rfl)
theorem dX4_lesser_1 : decode cX4_lesser 1 = .ok (.iload_n 1, 1) := dk_27 (dk_at dksX4_lesser_0 1 rfl rfl)
theorem dX4_lesser_2 : decode cX4_lesser 2 = .ok (.if_icmp .ge 7, 3) := dk_162 0 7 (dk_at dksX4_lesser_0 2 rfl rfl)
theorem dX4_lesser_5 : decode cX4_lesser 5 = .ok (.iload_n 0, 1) := dk_26 (dk_at dksX4_lesser_0 5 rfl rfl)
theorem dX4_lesser_6 : decode cX4_lesser 6 = .ok (.goto 4, 3) := dk_167 0 4 (dk_at dksX4_lesser_0 6 rfl rfl)
theorem dX4_lesser_9 : decode cX4_lesser 9 = .ok (.iload_n 1, 1) := dk_27 (dk_at dksX4_lesser_0 9 rfl rfl)
theorem dX4_lesser_10 : decode cX4_lesser 10 = .ok (.ireturn, 1) := dk_172 (dk_at dksX4_lesser_0 10 rfl rfl)
abbrev cX4_partOf : ByteArray := prog_25_method_55_code
def yX4_partOf : MethodName := ⟨RX4, "partOf", "(III)I"⟩
def dkwX4_partOf_0 : List UInt8 := [26, 27, 108, 28, 26, 27, 112, 162, 0, 7, 4, 167, 0, 4, 3, 96, 172]
abbrev dktX4_partOf_0 : List UInt8 := dkwX4_partOf_0 ++ []
theorem dksX4_partOf_0 : cX4_partOf.data.toList.drop 0 = dktX4_partOf_0 := by decide +kernel
theorem dX4_partOf_0 : decode cX4_partOf 0 = .ok (.iload_n 0, 1) := dk_26 (dk_at dksX4_partOf_0 0 rfl rfl)
theorem dX4_partOf_1 : decode cX4_partOf 1 = .ok (.iload_n 1, 1) := dk_27 (dk_at dksX4_partOf_0 1 rfl rfl)
theorem dX4_partOf_2 : decode cX4_partOf 2 = .ok (.idiv, 1) := dk_108 (dk_at dksX4_partOf_0 2 rfl rfl)
theorem dX4_partOf_3 : decode cX4_partOf 3 = .ok (.iload_n 2, 1) := dk_28 (dk_at dksX4_partOf_0 3 rfl rfl)
theorem dX4_partOf_4 : decode cX4_partOf 4 = .ok (.iload_n 0, 1) := dk_26 (dk_at dksX4_partOf_0 4 rfl rfl)
theorem dX4_partOf_5 : decode cX4_partOf 5 = .ok (.iload_n 1, 1) := dk_27 (dk_at dksX4_partOf_0 5 rfl rfl)
theorem dX4_partOf_6 : decode cX4_partOf 6 = .ok (.irem, 1) := dk_112 (dk_at dksX4_partOf_0 6 rfl rfl)
theorem dX4_partOf_7 : decode cX4_partOf 7 = .ok (.if_icmp .ge 7, 3) := dk_162 0 7 (dk_at dksX4_partOf_0 7 rfl rfl)
theorem dX4_partOf_10 : decode cX4_partOf 10 = .ok (.iconst 1, 1) := dk_4 (dk_at dksX4_partOf_0 10 rfl rfl)
theorem dX4_partOf_11 : decode cX4_partOf 11 = .ok (.goto 4, 3) := dk_167 0 4 (dk_at dksX4_partOf_0 11 rfl rfl)
theorem dX4_partOf_14 : decode cX4_partOf 14 = .ok (.iconst 0, 1) := dk_3 (dk_at dksX4_partOf_0 14 rfl rfl)
theorem dX4_partOf_15 : decode cX4_partOf 15 = .ok (.iadd, 1) := dk_96 (dk_at dksX4_partOf_0 15 rfl rfl)
theorem dX4_partOf_16 : decode cX4_partOf 16 = .ok (.ireturn, 1) := dk_172 (dk_at dksX4_partOf_0 16 rfl rfl)
abbrev cX4_aloneFare : ByteArray := prog_25_method_77_code
def yX4_aloneFare : MethodName := ⟨RX4, "aloneFare", "(II)I"⟩
def dkwX4_aloneFare_2 : List UInt8 := [180, 0, 7, 5, 46, 104, 96, 172]
abbrev dktX4_aloneFare_2 : List UInt8 := dkwX4_aloneFare_2 ++ []
def dkwX4_aloneFare_1 : List UInt8 := [27, 28, 182, 1, 21, 2, 160, 0, 7, 2, 167, 0, 21, 42, 180, 0, 117, 42, 27, 28, 182, 1, 21, 42]
abbrev dktX4_aloneFare_1 : List UInt8 := dkwX4_aloneFare_1 ++ dktX4_aloneFare_2
def dkwX4_aloneFare_0 : List UInt8 := [42, 3, 181, 0, 93, 42, 27, 182, 1, 116, 154, 0, 11, 42, 28, 182, 1, 116, 153, 0, 5, 3, 172, 42]
abbrev dktX4_aloneFare_0 : List UInt8 := dkwX4_aloneFare_0 ++ dktX4_aloneFare_1
theorem dksX4_aloneFare_0 : cX4_aloneFare.data.toList.drop 0 = dktX4_aloneFare_0 := by decide +kernel
theorem dksX4_aloneFare_1 : cX4_aloneFare.data.toList.drop 24 = dktX4_aloneFare_1 := dk_seg dksX4_aloneFare_0 24 rfl rfl
theorem dksX4_aloneFare_2 : cX4_aloneFare.data.toList.drop 48 = dktX4_aloneFare_2 := dk_seg dksX4_aloneFare_1 24 rfl rfl
theorem dX4_aloneFare_0 : decode cX4_aloneFare 0 = .ok (.aload_n 0, 1) := dk_42 (dk_at dksX4_aloneFare_0 0 rfl rfl)
theorem dX4_aloneFare_1 : decode cX4_aloneFare 1 = .ok (.iconst 0, 1) := dk_3 (dk_at dksX4_aloneFare_0 1 rfl rfl)
theorem dX4_aloneFare_2 : decode cX4_aloneFare 2 = .ok (.putfield 93, 3) := dk_181 0 93 (dk_at dksX4_aloneFare_0 2 rfl rfl)
theorem dX4_aloneFare_5 : decode cX4_aloneFare 5 = .ok (.aload_n 0, 1) := dk_42 (dk_at dksX4_aloneFare_0 5 rfl rfl)
theorem dX4_aloneFare_6 : decode cX4_aloneFare 6 = .ok (.iload_n 1, 1) := dk_27 (dk_at dksX4_aloneFare_0 6 rfl rfl)
theorem dX4_aloneFare_7 : decode cX4_aloneFare 7 = .ok (.invokevirtual 372, 3) := dk_182 1 116 (dk_at dksX4_aloneFare_0 7 rfl rfl)
theorem dX4_aloneFare_10 : decode cX4_aloneFare 10 = .ok (.ifCond .ne 11, 3) := dk_154 0 11 (dk_at dksX4_aloneFare_0 10 rfl rfl)
theorem dX4_aloneFare_13 : decode cX4_aloneFare 13 = .ok (.aload_n 0, 1) := dk_42 (dk_at dksX4_aloneFare_0 13 rfl rfl)
theorem dX4_aloneFare_14 : decode cX4_aloneFare 14 = .ok (.iload_n 2, 1) := dk_28 (dk_at dksX4_aloneFare_0 14 rfl rfl)
theorem dX4_aloneFare_15 : decode cX4_aloneFare 15 = .ok (.invokevirtual 372, 3) := dk_182 1 116 (dk_at dksX4_aloneFare_0 15 rfl rfl)
theorem dX4_aloneFare_18 : decode cX4_aloneFare 18 = .ok (.ifCond .eq 5, 3) := dk_153 0 5 (dk_at dksX4_aloneFare_0 18 rfl rfl)
theorem dX4_aloneFare_21 : decode cX4_aloneFare 21 = .ok (.iconst 0, 1) := dk_3 (dk_at dksX4_aloneFare_0 21 rfl rfl)
theorem dX4_aloneFare_22 : decode cX4_aloneFare 22 = .ok (.ireturn, 1) := dk_172 (dk_at dksX4_aloneFare_0 22 rfl rfl)
theorem dX4_aloneFare_23 : decode cX4_aloneFare 23 = .ok (.aload_n 0, 1) := dk_42 (dk_at dksX4_aloneFare_0 23 rfl rfl)
theorem dX4_aloneFare_24 : decode cX4_aloneFare 24 = .ok (.iload_n 1, 1) := dk_27 (dk_at dksX4_aloneFare_1 0 rfl rfl)
theorem dX4_aloneFare_25 : decode cX4_aloneFare 25 = .ok (.iload_n 2, 1) := dk_28 (dk_at dksX4_aloneFare_1 1 rfl rfl)
theorem dX4_aloneFare_26 : decode cX4_aloneFare 26 = .ok (.invokevirtual 277, 3) := dk_182 1 21 (dk_at dksX4_aloneFare_1 2 rfl rfl)
theorem dX4_aloneFare_29 : decode cX4_aloneFare 29 = .ok (.iconst (-1), 1) := dk_2 (dk_at dksX4_aloneFare_1 5 rfl rfl)
theorem dX4_aloneFare_30 : decode cX4_aloneFare 30 = .ok (.if_icmp .ne 7, 3) := dk_160 0 7 (dk_at dksX4_aloneFare_1 6 rfl rfl)
theorem dX4_aloneFare_33 : decode cX4_aloneFare 33 = .ok (.iconst (-1), 1) := dk_2 (dk_at dksX4_aloneFare_1 9 rfl rfl)
theorem dX4_aloneFare_34 : decode cX4_aloneFare 34 = .ok (.goto 21, 3) := dk_167 0 21 (dk_at dksX4_aloneFare_1 10 rfl rfl)
theorem dX4_aloneFare_37 : decode cX4_aloneFare 37 = .ok (.aload_n 0, 1) := dk_42 (dk_at dksX4_aloneFare_1 13 rfl rfl)
theorem dX4_aloneFare_38 : decode cX4_aloneFare 38 = .ok (.getfield 117, 3) := dk_180 0 117 (dk_at dksX4_aloneFare_1 14 rfl rfl)
theorem dX4_aloneFare_41 : decode cX4_aloneFare 41 = .ok (.aload_n 0, 1) := dk_42 (dk_at dksX4_aloneFare_1 17 rfl rfl)
theorem dX4_aloneFare_42 : decode cX4_aloneFare 42 = .ok (.iload_n 1, 1) := dk_27 (dk_at dksX4_aloneFare_1 18 rfl rfl)
theorem dX4_aloneFare_43 : decode cX4_aloneFare 43 = .ok (.iload_n 2, 1) := dk_28 (dk_at dksX4_aloneFare_1 19 rfl rfl)
theorem dX4_aloneFare_44 : decode cX4_aloneFare 44 = .ok (.invokevirtual 277, 3) := dk_182 1 21 (dk_at dksX4_aloneFare_1 20 rfl rfl)
theorem dX4_aloneFare_47 : decode cX4_aloneFare 47 = .ok (.aload_n 0, 1) := dk_42 (dk_at dksX4_aloneFare_1 23 rfl rfl)
theorem dX4_aloneFare_48 : decode cX4_aloneFare 48 = .ok (.getfield 7, 3) := dk_180 0 7 (dk_at dksX4_aloneFare_2 0 rfl rfl)
theorem dX4_aloneFare_51 : decode cX4_aloneFare 51 = .ok (.iconst 2, 1) := dk_5 (dk_at dksX4_aloneFare_2 3 rfl rfl)
theorem dX4_aloneFare_52 : decode cX4_aloneFare 52 = .ok (.iaload, 1) := dk_46 (dk_at dksX4_aloneFare_2 4 rfl rfl)
theorem dX4_aloneFare_53 : decode cX4_aloneFare 53 = .ok (.imul, 1) := dk_104 (dk_at dksX4_aloneFare_2 5 rfl rfl)
theorem dX4_aloneFare_54 : decode cX4_aloneFare 54 = .ok (.iadd, 1) := dk_96 (dk_at dksX4_aloneFare_2 6 rfl rfl)
theorem dX4_aloneFare_55 : decode cX4_aloneFare 55 = .ok (.ireturn, 1) := dk_172 (dk_at dksX4_aloneFare_2 7 rfl rfl)
abbrev cX4_keeps : ByteArray := prog_25_method_78_code
def yX4_keeps : MethodName := ⟨RX4, "keeps", "(I)Z"⟩
def dkwX4_keeps_1 : List UInt8 := [182, 1, 55, 172]
abbrev dktX4_keeps_1 : List UInt8 := dkwX4_keeps_1 ++ []
def dkwX4_keeps_0 : List UInt8 := [42, 3, 181, 0, 93, 42, 27, 182, 1, 119, 153, 0, 5, 3, 172, 42, 27, 182, 1, 45, 42, 27]
abbrev dktX4_keeps_0 : List UInt8 := dkwX4_keeps_0 ++ dktX4_keeps_1
theorem dksX4_keeps_0 : cX4_keeps.data.toList.drop 0 = dktX4_keeps_0 := by decide +kernel
theorem dksX4_keeps_1 : cX4_keeps.data.toList.drop 22 = dktX4_keeps_1 := dk_seg dksX4_keeps_0 22 rfl rfl
theorem dX4_keeps_0 : decode cX4_keeps 0 = .ok (.aload_n 0, 1) := dk_42 (dk_at dksX4_keeps_0 0 rfl rfl)
theorem dX4_keeps_1 : decode cX4_keeps 1 = .ok (.iconst 0, 1) := dk_3 (dk_at dksX4_keeps_0 1 rfl rfl)
theorem dX4_keeps_2 : decode cX4_keeps 2 = .ok (.putfield 93, 3) := dk_181 0 93 (dk_at dksX4_keeps_0 2 rfl rfl)
theorem dX4_keeps_5 : decode cX4_keeps 5 = .ok (.aload_n 0, 1) := dk_42 (dk_at dksX4_keeps_0 5 rfl rfl)
theorem dX4_keeps_6 : decode cX4_keeps 6 = .ok (.iload_n 1, 1) := dk_27 (dk_at dksX4_keeps_0 6 rfl rfl)
theorem dX4_keeps_7 : decode cX4_keeps 7 = .ok (.invokevirtual 375, 3) := dk_182 1 119 (dk_at dksX4_keeps_0 7 rfl rfl)
theorem dX4_keeps_10 : decode cX4_keeps 10 = .ok (.ifCond .eq 5, 3) := dk_153 0 5 (dk_at dksX4_keeps_0 10 rfl rfl)
theorem dX4_keeps_13 : decode cX4_keeps 13 = .ok (.iconst 0, 1) := dk_3 (dk_at dksX4_keeps_0 13 rfl rfl)
theorem dX4_keeps_14 : decode cX4_keeps 14 = .ok (.ireturn, 1) := dk_172 (dk_at dksX4_keeps_0 14 rfl rfl)
theorem dX4_keeps_15 : decode cX4_keeps 15 = .ok (.aload_n 0, 1) := dk_42 (dk_at dksX4_keeps_0 15 rfl rfl)
theorem dX4_keeps_16 : decode cX4_keeps 16 = .ok (.iload_n 1, 1) := dk_27 (dk_at dksX4_keeps_0 16 rfl rfl)
theorem dX4_keeps_17 : decode cX4_keeps 17 = .ok (.invokevirtual 301, 3) := dk_182 1 45 (dk_at dksX4_keeps_0 17 rfl rfl)
theorem dX4_keeps_20 : decode cX4_keeps 20 = .ok (.aload_n 0, 1) := dk_42 (dk_at dksX4_keeps_0 20 rfl rfl)
theorem dX4_keeps_21 : decode cX4_keeps 21 = .ok (.iload_n 1, 1) := dk_27 (dk_at dksX4_keeps_0 21 rfl rfl)
theorem dX4_keeps_22 : decode cX4_keeps 22 = .ok (.invokevirtual 311, 3) := dk_182 1 55 (dk_at dksX4_keeps_1 0 rfl rfl)
theorem dX4_keeps_25 : decode cX4_keeps 25 = .ok (.ireturn, 1) := dk_172 (dk_at dksX4_keeps_1 3 rfl rfl)
abbrev cX4_routeMinutes : ByteArray := prog_25_method_79_code
def yX4_routeMinutes : MethodName := ⟨RX4, "routeMinutes", "(I)I"⟩
def dkwX4_routeMinutes_1 : List UInt8 := [182, 1, 48, 172]
abbrev dktX4_routeMinutes_1 : List UInt8 := dkwX4_routeMinutes_1 ++ []
def dkwX4_routeMinutes_0 : List UInt8 := [42, 3, 181, 0, 93, 42, 27, 182, 1, 119, 153, 0, 5, 3, 172, 42, 27, 182, 1, 45, 42, 27]
abbrev dktX4_routeMinutes_0 : List UInt8 := dkwX4_routeMinutes_0 ++ dktX4_routeMinutes_1
theorem dksX4_routeMinutes_0 : cX4_routeMinutes.data.toList.drop 0 = dktX4_routeMinutes_0 := by decide +kernel
theorem dksX4_routeMinutes_1 : cX4_routeMinutes.data.toList.drop 22 = dktX4_routeMinutes_1 := dk_seg dksX4_routeMinutes_0 22 rfl rfl
theorem dX4_routeMinutes_0 : decode cX4_routeMinutes 0 = .ok (.aload_n 0, 1) := dk_42 (dk_at dksX4_routeMinutes_0 0 rfl rfl)
theorem dX4_routeMinutes_1 : decode cX4_routeMinutes 1 = .ok (.iconst 0, 1) := dk_3 (dk_at dksX4_routeMinutes_0 1 rfl rfl)
theorem dX4_routeMinutes_2 : decode cX4_routeMinutes 2 = .ok (.putfield 93, 3) := dk_181 0 93 (dk_at dksX4_routeMinutes_0 2 rfl rfl)
theorem dX4_routeMinutes_5 : decode cX4_routeMinutes 5 = .ok (.aload_n 0, 1) := dk_42 (dk_at dksX4_routeMinutes_0 5 rfl rfl)
theorem dX4_routeMinutes_6 : decode cX4_routeMinutes 6 = .ok (.iload_n 1, 1) := dk_27 (dk_at dksX4_routeMinutes_0 6 rfl rfl)
theorem dX4_routeMinutes_7 : decode cX4_routeMinutes 7 = .ok (.invokevirtual 375, 3) := dk_182 1 119 (dk_at dksX4_routeMinutes_0 7 rfl rfl)
theorem dX4_routeMinutes_10 : decode cX4_routeMinutes 10 = .ok (.ifCond .eq 5, 3) := dk_153 0 5 (dk_at dksX4_routeMinutes_0 10 rfl rfl)
theorem dX4_routeMinutes_13 : decode cX4_routeMinutes 13 = .ok (.iconst 0, 1) := dk_3 (dk_at dksX4_routeMinutes_0 13 rfl rfl)
theorem dX4_routeMinutes_14 : decode cX4_routeMinutes 14 = .ok (.ireturn, 1) := dk_172 (dk_at dksX4_routeMinutes_0 14 rfl rfl)
theorem dX4_routeMinutes_15 : decode cX4_routeMinutes 15 = .ok (.aload_n 0, 1) := dk_42 (dk_at dksX4_routeMinutes_0 15 rfl rfl)
theorem dX4_routeMinutes_16 : decode cX4_routeMinutes 16 = .ok (.iload_n 1, 1) := dk_27 (dk_at dksX4_routeMinutes_0 16 rfl rfl)
theorem dX4_routeMinutes_17 : decode cX4_routeMinutes 17 = .ok (.invokevirtual 301, 3) := dk_182 1 45 (dk_at dksX4_routeMinutes_0 17 rfl rfl)
theorem dX4_routeMinutes_20 : decode cX4_routeMinutes 20 = .ok (.aload_n 0, 1) := dk_42 (dk_at dksX4_routeMinutes_0 20 rfl rfl)
theorem dX4_routeMinutes_21 : decode cX4_routeMinutes 21 = .ok (.iload_n 1, 1) := dk_27 (dk_at dksX4_routeMinutes_0 21 rfl rfl)
theorem dX4_routeMinutes_22 : decode cX4_routeMinutes 22 = .ok (.invokevirtual 304, 3) := dk_182 1 48 (dk_at dksX4_routeMinutes_1 0 rfl rfl)
theorem dX4_routeMinutes_25 : decode cX4_routeMinutes 25 = .ok (.ireturn, 1) := dk_172 (dk_at dksX4_routeMinutes_1 3 rfl rfl)
abbrev cX4_rides : ByteArray := prog_25_method_80_code
def yX4_rides : MethodName := ⟨RX4, "rides", "(I)I"⟩
def dkwX4_rides_1 : List UInt8 := [167, 0, 8, 42, 27, 182, 1, 108, 172]
abbrev dktX4_rides_1 : List UInt8 := dkwX4_rides_1 ++ []
def dkwX4_rides_0 : List UInt8 := [42, 3, 181, 0, 93, 42, 27, 133, 9, 20, 1, 140, 184, 0, 197, 4, 182, 1, 0, 153, 0, 7, 3]
abbrev dktX4_rides_0 : List UInt8 := dkwX4_rides_0 ++ dktX4_rides_1
theorem dksX4_rides_0 : cX4_rides.data.toList.drop 0 = dktX4_rides_0 := by decide +kernel
theorem dksX4_rides_1 : cX4_rides.data.toList.drop 23 = dktX4_rides_1 := dk_seg dksX4_rides_0 23 rfl rfl
theorem dX4_rides_0 : decode cX4_rides 0 = .ok (.aload_n 0, 1) := dk_42 (dk_at dksX4_rides_0 0 rfl rfl)
theorem dX4_rides_1 : decode cX4_rides 1 = .ok (.iconst 0, 1) := dk_3 (dk_at dksX4_rides_0 1 rfl rfl)
theorem dX4_rides_2 : decode cX4_rides 2 = .ok (.putfield 93, 3) := dk_181 0 93 (dk_at dksX4_rides_0 2 rfl rfl)
theorem dX4_rides_5 : decode cX4_rides 5 = .ok (.aload_n 0, 1) := dk_42 (dk_at dksX4_rides_0 5 rfl rfl)
theorem dX4_rides_6 : decode cX4_rides 6 = .ok (.iload_n 1, 1) := dk_27 (dk_at dksX4_rides_0 6 rfl rfl)
theorem dX4_rides_7 : decode cX4_rides 7 = .ok (.i2l, 1) := dk_133 (dk_at dksX4_rides_0 7 rfl rfl)
theorem dX4_rides_8 : decode cX4_rides 8 = .ok (.lconst 0, 1) := dk_9 (dk_at dksX4_rides_0 8 rfl rfl)
theorem dX4_rides_9 : decode cX4_rides 9 = .ok (.ldc2_w 396, 3) := dk_20 1 140 (dk_at dksX4_rides_0 9 rfl rfl)
theorem dX4_rides_12 : decode cX4_rides 12 = .ok (.invokestatic 197, 3) := dk_184 0 197 (dk_at dksX4_rides_0 12 rfl rfl)
theorem dX4_rides_15 : decode cX4_rides 15 = .ok (.iconst 1, 1) := dk_4 (dk_at dksX4_rides_0 15 rfl rfl)
theorem dX4_rides_16 : decode cX4_rides 16 = .ok (.invokevirtual 256, 3) := dk_182 1 0 (dk_at dksX4_rides_0 16 rfl rfl)
theorem dX4_rides_19 : decode cX4_rides 19 = .ok (.ifCond .eq 7, 3) := dk_153 0 7 (dk_at dksX4_rides_0 19 rfl rfl)
theorem dX4_rides_22 : decode cX4_rides 22 = .ok (.iconst 0, 1) := dk_3 (dk_at dksX4_rides_0 22 rfl rfl)
theorem dX4_rides_23 : decode cX4_rides 23 = .ok (.goto 8, 3) := dk_167 0 8 (dk_at dksX4_rides_1 0 rfl rfl)
theorem dX4_rides_26 : decode cX4_rides 26 = .ok (.aload_n 0, 1) := dk_42 (dk_at dksX4_rides_1 3 rfl rfl)
theorem dX4_rides_27 : decode cX4_rides 27 = .ok (.iload_n 1, 1) := dk_27 (dk_at dksX4_rides_1 4 rfl rfl)
theorem dX4_rides_28 : decode cX4_rides 28 = .ok (.invokevirtual 364, 3) := dk_182 1 108 (dk_at dksX4_rides_1 5 rfl rfl)
theorem dX4_rides_31 : decode cX4_rides 31 = .ok (.ireturn, 1) := dk_172 (dk_at dksX4_rides_1 8 rfl rfl)
abbrev cX4_meanFare : ByteArray := prog_25_method_81_code
def yX4_meanFare : MethodName := ⟨RX4, "meanFare", "()D"⟩
def dkwX4_meanFare_2 : List UInt8 := [132, 3, 1, 167, 255, 217, 28, 154, 0, 7, 14, 167, 0, 8, 27, 135, 28, 135, 111, 175]
abbrev dktX4_meanFare_2 : List UInt8 := dkwX4_meanFare_2 ++ []
def dkwX4_meanFare_1 : List UInt8 := [182, 1, 18, 6, 159, 0, 6, 167, 0, 16, 27, 42, 29, 16, 10, 182, 1, 18, 96, 60, 132, 2, 1]
abbrev dktX4_meanFare_1 : List UInt8 := dkwX4_meanFare_1 ++ dktX4_meanFare_2
def dkwX4_meanFare_0 : List UInt8 := [42, 3, 181, 0, 93, 3, 60, 3, 61, 3, 62, 29, 42, 180, 0, 7, 4, 46, 162, 0, 35, 42, 29, 3]
abbrev dktX4_meanFare_0 : List UInt8 := dkwX4_meanFare_0 ++ dktX4_meanFare_1
theorem dksX4_meanFare_0 : cX4_meanFare.data.toList.drop 0 = dktX4_meanFare_0 := by decide +kernel
theorem dksX4_meanFare_1 : cX4_meanFare.data.toList.drop 24 = dktX4_meanFare_1 := dk_seg dksX4_meanFare_0 24 rfl rfl
theorem dksX4_meanFare_2 : cX4_meanFare.data.toList.drop 47 = dktX4_meanFare_2 := dk_seg dksX4_meanFare_1 23 rfl rfl
theorem dX4_meanFare_0 : decode cX4_meanFare 0 = .ok (.aload_n 0, 1) := dk_42 (dk_at dksX4_meanFare_0 0 rfl rfl)
theorem dX4_meanFare_1 : decode cX4_meanFare 1 = .ok (.iconst 0, 1) := dk_3 (dk_at dksX4_meanFare_0 1 rfl rfl)
theorem dX4_meanFare_2 : decode cX4_meanFare 2 = .ok (.putfield 93, 3) := dk_181 0 93 (dk_at dksX4_meanFare_0 2 rfl rfl)
theorem dX4_meanFare_5 : decode cX4_meanFare 5 = .ok (.iconst 0, 1) := dk_3 (dk_at dksX4_meanFare_0 5 rfl rfl)
theorem dX4_meanFare_6 : decode cX4_meanFare 6 = .ok (.istore_n 1, 1) := dk_60 (dk_at dksX4_meanFare_0 6 rfl rfl)
theorem dX4_meanFare_7 : decode cX4_meanFare 7 = .ok (.iconst 0, 1) := dk_3 (dk_at dksX4_meanFare_0 7 rfl rfl)
theorem dX4_meanFare_8 : decode cX4_meanFare 8 = .ok (.istore_n 2, 1) := dk_61 (dk_at dksX4_meanFare_0 8 rfl rfl)
theorem dX4_meanFare_9 : decode cX4_meanFare 9 = .ok (.iconst 0, 1) := dk_3 (dk_at dksX4_meanFare_0 9 rfl rfl)
theorem dX4_meanFare_10 : decode cX4_meanFare 10 = .ok (.istore_n 3, 1) := dk_62 (dk_at dksX4_meanFare_0 10 rfl rfl)
theorem dX4_meanFare_11 : decode cX4_meanFare 11 = .ok (.iload_n 3, 1) := dk_29 (dk_at dksX4_meanFare_0 11 rfl rfl)
theorem dX4_meanFare_12 : decode cX4_meanFare 12 = .ok (.aload_n 0, 1) := dk_42 (dk_at dksX4_meanFare_0 12 rfl rfl)
theorem dX4_meanFare_13 : decode cX4_meanFare 13 = .ok (.getfield 7, 3) := dk_180 0 7 (dk_at dksX4_meanFare_0 13 rfl rfl)
theorem dX4_meanFare_16 : decode cX4_meanFare 16 = .ok (.iconst 1, 1) := dk_4 (dk_at dksX4_meanFare_0 16 rfl rfl)
theorem dX4_meanFare_17 : decode cX4_meanFare 17 = .ok (.iaload, 1) := dk_46 (dk_at dksX4_meanFare_0 17 rfl rfl)
theorem dX4_meanFare_18 : decode cX4_meanFare 18 = .ok (.if_icmp .ge 35, 3) := dk_162 0 35 (dk_at dksX4_meanFare_0 18 rfl rfl)
theorem dX4_meanFare_21 : decode cX4_meanFare 21 = .ok (.aload_n 0, 1) := dk_42 (dk_at dksX4_meanFare_0 21 rfl rfl)
theorem dX4_meanFare_22 : decode cX4_meanFare 22 = .ok (.iload_n 3, 1) := dk_29 (dk_at dksX4_meanFare_0 22 rfl rfl)
theorem dX4_meanFare_23 : decode cX4_meanFare 23 = .ok (.iconst 0, 1) := dk_3 (dk_at dksX4_meanFare_0 23 rfl rfl)
theorem dX4_meanFare_24 : decode cX4_meanFare 24 = .ok (.invokevirtual 274, 3) := dk_182 1 18 (dk_at dksX4_meanFare_1 0 rfl rfl)
theorem dX4_meanFare_27 : decode cX4_meanFare 27 = .ok (.iconst 3, 1) := dk_6 (dk_at dksX4_meanFare_1 3 rfl rfl)
theorem dX4_meanFare_28 : decode cX4_meanFare 28 = .ok (.if_icmp .eq 6, 3) := dk_159 0 6 (dk_at dksX4_meanFare_1 4 rfl rfl)
theorem dX4_meanFare_31 : decode cX4_meanFare 31 = .ok (.goto 16, 3) := dk_167 0 16 (dk_at dksX4_meanFare_1 7 rfl rfl)
theorem dX4_meanFare_34 : decode cX4_meanFare 34 = .ok (.iload_n 1, 1) := dk_27 (dk_at dksX4_meanFare_1 10 rfl rfl)
theorem dX4_meanFare_35 : decode cX4_meanFare 35 = .ok (.aload_n 0, 1) := dk_42 (dk_at dksX4_meanFare_1 11 rfl rfl)
theorem dX4_meanFare_36 : decode cX4_meanFare 36 = .ok (.iload_n 3, 1) := dk_29 (dk_at dksX4_meanFare_1 12 rfl rfl)
theorem dX4_meanFare_37 : decode cX4_meanFare 37 = .ok (.bipush 10, 2) := dk_16 10 (dk_at dksX4_meanFare_1 13 rfl rfl)
theorem dX4_meanFare_39 : decode cX4_meanFare 39 = .ok (.invokevirtual 274, 3) := dk_182 1 18 (dk_at dksX4_meanFare_1 15 rfl rfl)
theorem dX4_meanFare_42 : decode cX4_meanFare 42 = .ok (.iadd, 1) := dk_96 (dk_at dksX4_meanFare_1 18 rfl rfl)
theorem dX4_meanFare_43 : decode cX4_meanFare 43 = .ok (.istore_n 1, 1) := dk_60 (dk_at dksX4_meanFare_1 19 rfl rfl)
theorem dX4_meanFare_44 : decode cX4_meanFare 44 = .ok (.iinc 2 1, 3) := dk_132 2 1 (dk_at dksX4_meanFare_1 20 rfl rfl)
theorem dX4_meanFare_47 : decode cX4_meanFare 47 = .ok (.iinc 3 1, 3) := dk_132 3 1 (dk_at dksX4_meanFare_2 0 rfl rfl)
theorem dX4_meanFare_50 : decode cX4_meanFare 50 = .ok (.goto (-39), 3) := dk_167 255 217 (dk_at dksX4_meanFare_2 3 rfl rfl)
theorem dX4_meanFare_53 : decode cX4_meanFare 53 = .ok (.iload_n 2, 1) := dk_28 (dk_at dksX4_meanFare_2 6 rfl rfl)
theorem dX4_meanFare_54 : decode cX4_meanFare 54 = .ok (.ifCond .ne 7, 3) := dk_154 0 7 (dk_at dksX4_meanFare_2 7 rfl rfl)
theorem dX4_meanFare_57 : decode cX4_meanFare 57 = .ok (.dconst 0, 1) := dk_14 (dk_at dksX4_meanFare_2 10 rfl rfl)
theorem dX4_meanFare_58 : decode cX4_meanFare 58 = .ok (.goto 8, 3) := dk_167 0 8 (dk_at dksX4_meanFare_2 11 rfl rfl)
theorem dX4_meanFare_61 : decode cX4_meanFare 61 = .ok (.iload_n 1, 1) := dk_27 (dk_at dksX4_meanFare_2 14 rfl rfl)
theorem dX4_meanFare_62 : decode cX4_meanFare 62 = .ok (.i2d, 1) := dk_135 (dk_at dksX4_meanFare_2 15 rfl rfl)
theorem dX4_meanFare_63 : decode cX4_meanFare 63 = .ok (.iload_n 2, 1) := dk_28 (dk_at dksX4_meanFare_2 16 rfl rfl)
theorem dX4_meanFare_64 : decode cX4_meanFare 64 = .ok (.i2d, 1) := dk_135 (dk_at dksX4_meanFare_2 17 rfl rfl)
theorem dX4_meanFare_65 : decode cX4_meanFare 65 = .ok (.ddiv, 1) := dk_111 (dk_at dksX4_meanFare_2 18 rfl rfl)
theorem dX4_meanFare_66 : decode cX4_meanFare 66 = .ok (.dreturn, 1) := dk_175 (dk_at dksX4_meanFare_2 19 rfl rfl)
abbrev cX4_sharedPart : ByteArray := prog_25_method_82_code
def yX4_sharedPart : MethodName := ⟨RX4, "sharedPart", "()F"⟩
def dkwX4_sharedPart_1 : List UInt8 := [134, 42, 16, 8, 182, 1, 111, 134, 110, 174]
abbrev dktX4_sharedPart_1 : List UInt8 := dkwX4_sharedPart_1 ++ []
def dkwX4_sharedPart_0 : List UInt8 := [42, 3, 181, 0, 93, 42, 16, 8, 182, 1, 111, 154, 0, 7, 11, 167, 0, 18, 42, 16, 9, 182, 1, 111]
abbrev dktX4_sharedPart_0 : List UInt8 := dkwX4_sharedPart_0 ++ dktX4_sharedPart_1
theorem dksX4_sharedPart_0 : cX4_sharedPart.data.toList.drop 0 = dktX4_sharedPart_0 := by decide +kernel
theorem dksX4_sharedPart_1 : cX4_sharedPart.data.toList.drop 24 = dktX4_sharedPart_1 := dk_seg dksX4_sharedPart_0 24 rfl rfl
theorem dX4_sharedPart_0 : decode cX4_sharedPart 0 = .ok (.aload_n 0, 1) := dk_42 (dk_at dksX4_sharedPart_0 0 rfl rfl)
theorem dX4_sharedPart_1 : decode cX4_sharedPart 1 = .ok (.iconst 0, 1) := dk_3 (dk_at dksX4_sharedPart_0 1 rfl rfl)
theorem dX4_sharedPart_2 : decode cX4_sharedPart 2 = .ok (.putfield 93, 3) := dk_181 0 93 (dk_at dksX4_sharedPart_0 2 rfl rfl)
theorem dX4_sharedPart_5 : decode cX4_sharedPart 5 = .ok (.aload_n 0, 1) := dk_42 (dk_at dksX4_sharedPart_0 5 rfl rfl)
theorem dX4_sharedPart_6 : decode cX4_sharedPart 6 = .ok (.bipush 8, 2) := dk_16 8 (dk_at dksX4_sharedPart_0 6 rfl rfl)
theorem dX4_sharedPart_8 : decode cX4_sharedPart 8 = .ok (.invokevirtual 367, 3) := dk_182 1 111 (dk_at dksX4_sharedPart_0 8 rfl rfl)
theorem dX4_sharedPart_11 : decode cX4_sharedPart 11 = .ok (.ifCond .ne 7, 3) := dk_154 0 7 (dk_at dksX4_sharedPart_0 11 rfl rfl)
theorem dX4_sharedPart_14 : decode cX4_sharedPart 14 = .ok (.fconst 0, 1) := dk_11 (dk_at dksX4_sharedPart_0 14 rfl rfl)
theorem dX4_sharedPart_15 : decode cX4_sharedPart 15 = .ok (.goto 18, 3) := dk_167 0 18 (dk_at dksX4_sharedPart_0 15 rfl rfl)
theorem dX4_sharedPart_18 : decode cX4_sharedPart 18 = .ok (.aload_n 0, 1) := dk_42 (dk_at dksX4_sharedPart_0 18 rfl rfl)
theorem dX4_sharedPart_19 : decode cX4_sharedPart 19 = .ok (.bipush 9, 2) := dk_16 9 (dk_at dksX4_sharedPart_0 19 rfl rfl)
theorem dX4_sharedPart_21 : decode cX4_sharedPart 21 = .ok (.invokevirtual 367, 3) := dk_182 1 111 (dk_at dksX4_sharedPart_0 21 rfl rfl)
theorem dX4_sharedPart_24 : decode cX4_sharedPart 24 = .ok (.i2f, 1) := dk_134 (dk_at dksX4_sharedPart_1 0 rfl rfl)
theorem dX4_sharedPart_25 : decode cX4_sharedPart 25 = .ok (.aload_n 0, 1) := dk_42 (dk_at dksX4_sharedPart_1 1 rfl rfl)
theorem dX4_sharedPart_26 : decode cX4_sharedPart 26 = .ok (.bipush 8, 2) := dk_16 8 (dk_at dksX4_sharedPart_1 2 rfl rfl)
theorem dX4_sharedPart_28 : decode cX4_sharedPart 28 = .ok (.invokevirtual 367, 3) := dk_182 1 111 (dk_at dksX4_sharedPart_1 4 rfl rfl)
theorem dX4_sharedPart_31 : decode cX4_sharedPart 31 = .ok (.i2f, 1) := dk_134 (dk_at dksX4_sharedPart_1 7 rfl rfl)
theorem dX4_sharedPart_32 : decode cX4_sharedPart 32 = .ok (.fdiv, 1) := dk_110 (dk_at dksX4_sharedPart_1 8 rfl rfl)
theorem dX4_sharedPart_33 : decode cX4_sharedPart 33 = .ok (.freturn, 1) := dk_174 (dk_at dksX4_sharedPart_1 9 rfl rfl)
abbrev cX4_ask : ByteArray := prog_25_method_85_code
def yX4_ask : MethodName := ⟨RX4, "ask", "(IIIII)I"⟩
def dkwX4_ask_10 : List UInt8 := [180, 0, 7, 4, 92, 46, 4, 96, 79, 42, 21, 6, 182, 1, 149, 21, 6, 172]
abbrev dktX4_ask_10 : List UInt8 := dkwX4_ask_10 ++ []
def dkwX4_ask_9 : List UInt8 := [2, 182, 1, 90, 42, 21, 6, 16, 8, 2, 182, 1, 90, 42, 21, 6, 16, 9, 2, 182, 1, 90, 42]
abbrev dktX4_ask_9 : List UInt8 := dkwX4_ask_9 ++ dktX4_ask_10
def dkwX4_ask_8 : List UInt8 := [42, 3, 182, 1, 36, 96, 182, 1, 90, 42, 21, 6, 16, 6, 21, 5, 182, 1, 90, 42, 21, 6, 16, 7]
abbrev dktX4_ask_8 : List UInt8 := dkwX4_ask_8 ++ dktX4_ask_9
def dkwX4_ask_7 : List UInt8 := [180, 0, 7, 3, 46, 21, 4, 96, 182, 1, 90, 42, 21, 6, 8, 42, 180, 0, 7, 3, 46, 21, 4, 96]
abbrev dktX4_ask_7 : List UInt8 := dkwX4_ask_7 ++ dktX4_ask_8
def dkwX4_ask_6 : List UInt8 := [182, 1, 90, 42, 21, 6, 5, 28, 182, 1, 90, 42, 21, 6, 6, 29, 182, 1, 90, 42, 21, 6, 7, 42]
abbrev dktX4_ask_6 : List UInt8 := dkwX4_ask_6 ++ dktX4_ask_7
def dkwX4_ask_5 : List UInt8 := [162, 0, 18, 42, 21, 6, 21, 7, 3, 182, 1, 90, 132, 7, 1, 167, 255, 237, 42, 21, 6, 4, 27]
abbrev dktX4_ask_5 : List UInt8 := dkwX4_ask_5 ++ dktX4_ask_6
def dkwX4_ask_4 : List UInt8 := [16, 254, 172, 42, 182, 1, 146, 42, 180, 0, 7, 4, 46, 54, 6, 3, 54, 7, 21, 7, 16, 17]
abbrev dktX4_ask_4 : List UInt8 := dkwX4_ask_4 ++ dktX4_ask_5
def dkwX4_ask_3 : List UInt8 := [167, 0, 4, 3, 5, 182, 1, 0, 153, 0, 5, 3, 172, 42, 180, 0, 7, 4, 46, 16, 24, 160, 0, 6]
abbrev dktX4_ask_3 : List UInt8 := dkwX4_ask_3 ++ dktX4_ask_4
def dkwX4_ask_2 : List UInt8 := [153, 0, 25, 21, 5, 133, 9, 20, 1, 144, 184, 0, 197, 153, 0, 12, 27, 28, 159, 0, 7, 4]
abbrev dktX4_ask_2 : List UInt8 := dkwX4_ask_2 ++ dktX4_ask_3
def dkwX4_ask_1 : List UInt8 := [29, 133, 10, 20, 1, 140, 184, 0, 197, 153, 0, 38, 21, 4, 133, 9, 20, 1, 142, 184, 0, 197]
abbrev dktX4_ask_1 : List UInt8 := dkwX4_ask_1 ++ dktX4_ask_2
def dkwX4_ask_0 : List UInt8 := [42, 3, 181, 0, 93, 42, 27, 182, 1, 116, 154, 0, 11, 42, 28, 182, 1, 116, 153, 0, 5, 3, 172, 42]
abbrev dktX4_ask_0 : List UInt8 := dkwX4_ask_0 ++ dktX4_ask_1
theorem dksX4_ask_0 : cX4_ask.data.toList.drop 0 = dktX4_ask_0 := by decide +kernel
theorem dksX4_ask_1 : cX4_ask.data.toList.drop 24 = dktX4_ask_1 := dk_seg dksX4_ask_0 24 rfl rfl
theorem dksX4_ask_2 : cX4_ask.data.toList.drop 46 = dktX4_ask_2 := dk_seg dksX4_ask_1 22 rfl rfl
theorem dksX4_ask_3 : cX4_ask.data.toList.drop 68 = dktX4_ask_3 := dk_seg dksX4_ask_2 22 rfl rfl
theorem dksX4_ask_4 : cX4_ask.data.toList.drop 92 = dktX4_ask_4 := dk_seg dksX4_ask_3 24 rfl rfl
theorem dksX4_ask_5 : cX4_ask.data.toList.drop 114 = dktX4_ask_5 := dk_seg dksX4_ask_4 22 rfl rfl
theorem dksX4_ask_6 : cX4_ask.data.toList.drop 137 = dktX4_ask_6 := dk_seg dksX4_ask_5 23 rfl rfl
theorem dksX4_ask_7 : cX4_ask.data.toList.drop 161 = dktX4_ask_7 := dk_seg dksX4_ask_6 24 rfl rfl
theorem dksX4_ask_8 : cX4_ask.data.toList.drop 185 = dktX4_ask_8 := dk_seg dksX4_ask_7 24 rfl rfl
theorem dksX4_ask_9 : cX4_ask.data.toList.drop 209 = dktX4_ask_9 := dk_seg dksX4_ask_8 24 rfl rfl
theorem dksX4_ask_10 : cX4_ask.data.toList.drop 232 = dktX4_ask_10 := dk_seg dksX4_ask_9 23 rfl rfl
theorem dX4_ask_0 : decode cX4_ask 0 = .ok (.aload_n 0, 1) := dk_42 (dk_at dksX4_ask_0 0 rfl rfl)
theorem dX4_ask_1 : decode cX4_ask 1 = .ok (.iconst 0, 1) := dk_3 (dk_at dksX4_ask_0 1 rfl rfl)
theorem dX4_ask_2 : decode cX4_ask 2 = .ok (.putfield 93, 3) := dk_181 0 93 (dk_at dksX4_ask_0 2 rfl rfl)
theorem dX4_ask_5 : decode cX4_ask 5 = .ok (.aload_n 0, 1) := dk_42 (dk_at dksX4_ask_0 5 rfl rfl)
theorem dX4_ask_6 : decode cX4_ask 6 = .ok (.iload_n 1, 1) := dk_27 (dk_at dksX4_ask_0 6 rfl rfl)
theorem dX4_ask_7 : decode cX4_ask 7 = .ok (.invokevirtual 372, 3) := dk_182 1 116 (dk_at dksX4_ask_0 7 rfl rfl)
theorem dX4_ask_10 : decode cX4_ask 10 = .ok (.ifCond .ne 11, 3) := dk_154 0 11 (dk_at dksX4_ask_0 10 rfl rfl)
theorem dX4_ask_13 : decode cX4_ask 13 = .ok (.aload_n 0, 1) := dk_42 (dk_at dksX4_ask_0 13 rfl rfl)
theorem dX4_ask_14 : decode cX4_ask 14 = .ok (.iload_n 2, 1) := dk_28 (dk_at dksX4_ask_0 14 rfl rfl)
theorem dX4_ask_15 : decode cX4_ask 15 = .ok (.invokevirtual 372, 3) := dk_182 1 116 (dk_at dksX4_ask_0 15 rfl rfl)
theorem dX4_ask_18 : decode cX4_ask 18 = .ok (.ifCond .eq 5, 3) := dk_153 0 5 (dk_at dksX4_ask_0 18 rfl rfl)
theorem dX4_ask_21 : decode cX4_ask 21 = .ok (.iconst 0, 1) := dk_3 (dk_at dksX4_ask_0 21 rfl rfl)
theorem dX4_ask_22 : decode cX4_ask 22 = .ok (.ireturn, 1) := dk_172 (dk_at dksX4_ask_0 22 rfl rfl)
theorem dX4_ask_23 : decode cX4_ask 23 = .ok (.aload_n 0, 1) := dk_42 (dk_at dksX4_ask_0 23 rfl rfl)
theorem dX4_ask_24 : decode cX4_ask 24 = .ok (.iload_n 3, 1) := dk_29 (dk_at dksX4_ask_1 0 rfl rfl)
theorem dX4_ask_25 : decode cX4_ask 25 = .ok (.i2l, 1) := dk_133 (dk_at dksX4_ask_1 1 rfl rfl)
theorem dX4_ask_26 : decode cX4_ask 26 = .ok (.lconst 1, 1) := dk_10 (dk_at dksX4_ask_1 2 rfl rfl)
theorem dX4_ask_27 : decode cX4_ask 27 = .ok (.ldc2_w 396, 3) := dk_20 1 140 (dk_at dksX4_ask_1 3 rfl rfl)
theorem dX4_ask_30 : decode cX4_ask 30 = .ok (.invokestatic 197, 3) := dk_184 0 197 (dk_at dksX4_ask_1 6 rfl rfl)
theorem dX4_ask_33 : decode cX4_ask 33 = .ok (.ifCond .eq 38, 3) := dk_153 0 38 (dk_at dksX4_ask_1 9 rfl rfl)
theorem dX4_ask_36 : decode cX4_ask 36 = .ok (.iload 4, 2) := dk_21 4 (dk_at dksX4_ask_1 12 rfl rfl)
theorem dX4_ask_38 : decode cX4_ask 38 = .ok (.i2l, 1) := dk_133 (dk_at dksX4_ask_1 14 rfl rfl)
theorem dX4_ask_39 : decode cX4_ask 39 = .ok (.lconst 0, 1) := dk_9 (dk_at dksX4_ask_1 15 rfl rfl)
theorem dX4_ask_40 : decode cX4_ask 40 = .ok (.ldc2_w 398, 3) := dk_20 1 142 (dk_at dksX4_ask_1 16 rfl rfl)
theorem dX4_ask_43 : decode cX4_ask 43 = .ok (.invokestatic 197, 3) := dk_184 0 197 (dk_at dksX4_ask_1 19 rfl rfl)
theorem dX4_ask_46 : decode cX4_ask 46 = .ok (.ifCond .eq 25, 3) := dk_153 0 25 (dk_at dksX4_ask_2 0 rfl rfl)
theorem dX4_ask_49 : decode cX4_ask 49 = .ok (.iload 5, 2) := dk_21 5 (dk_at dksX4_ask_2 3 rfl rfl)
theorem dX4_ask_51 : decode cX4_ask 51 = .ok (.i2l, 1) := dk_133 (dk_at dksX4_ask_2 5 rfl rfl)
theorem dX4_ask_52 : decode cX4_ask 52 = .ok (.lconst 0, 1) := dk_9 (dk_at dksX4_ask_2 6 rfl rfl)
theorem dX4_ask_53 : decode cX4_ask 53 = .ok (.ldc2_w 400, 3) := dk_20 1 144 (dk_at dksX4_ask_2 7 rfl rfl)
theorem dX4_ask_56 : decode cX4_ask 56 = .ok (.invokestatic 197, 3) := dk_184 0 197 (dk_at dksX4_ask_2 10 rfl rfl)
theorem dX4_ask_59 : decode cX4_ask 59 = .ok (.ifCond .eq 12, 3) := dk_153 0 12 (dk_at dksX4_ask_2 13 rfl rfl)
theorem dX4_ask_62 : decode cX4_ask 62 = .ok (.iload_n 1, 1) := dk_27 (dk_at dksX4_ask_2 16 rfl rfl)
theorem dX4_ask_63 : decode cX4_ask 63 = .ok (.iload_n 2, 1) := dk_28 (dk_at dksX4_ask_2 17 rfl rfl)
theorem dX4_ask_64 : decode cX4_ask 64 = .ok (.if_icmp .eq 7, 3) := dk_159 0 7 (dk_at dksX4_ask_2 18 rfl rfl)
theorem dX4_ask_67 : decode cX4_ask 67 = .ok (.iconst 1, 1) := dk_4 (dk_at dksX4_ask_2 21 rfl rfl)
theorem dX4_ask_68 : decode cX4_ask 68 = .ok (.goto 4, 3) := dk_167 0 4 (dk_at dksX4_ask_3 0 rfl rfl)
theorem dX4_ask_71 : decode cX4_ask 71 = .ok (.iconst 0, 1) := dk_3 (dk_at dksX4_ask_3 3 rfl rfl)
theorem dX4_ask_72 : decode cX4_ask 72 = .ok (.iconst 2, 1) := dk_5 (dk_at dksX4_ask_3 4 rfl rfl)
theorem dX4_ask_73 : decode cX4_ask 73 = .ok (.invokevirtual 256, 3) := dk_182 1 0 (dk_at dksX4_ask_3 5 rfl rfl)
theorem dX4_ask_76 : decode cX4_ask 76 = .ok (.ifCond .eq 5, 3) := dk_153 0 5 (dk_at dksX4_ask_3 8 rfl rfl)
theorem dX4_ask_79 : decode cX4_ask 79 = .ok (.iconst 0, 1) := dk_3 (dk_at dksX4_ask_3 11 rfl rfl)
theorem dX4_ask_80 : decode cX4_ask 80 = .ok (.ireturn, 1) := dk_172 (dk_at dksX4_ask_3 12 rfl rfl)
theorem dX4_ask_81 : decode cX4_ask 81 = .ok (.aload_n 0, 1) := dk_42 (dk_at dksX4_ask_3 13 rfl rfl)
theorem dX4_ask_82 : decode cX4_ask 82 = .ok (.getfield 7, 3) := dk_180 0 7 (dk_at dksX4_ask_3 14 rfl rfl)
theorem dX4_ask_85 : decode cX4_ask 85 = .ok (.iconst 1, 1) := dk_4 (dk_at dksX4_ask_3 17 rfl rfl)
theorem dX4_ask_86 : decode cX4_ask 86 = .ok (.iaload, 1) := dk_46 (dk_at dksX4_ask_3 18 rfl rfl)
theorem dX4_ask_87 : decode cX4_ask 87 = .ok (.bipush 24, 2) := dk_16 24 (dk_at dksX4_ask_3 19 rfl rfl)
theorem dX4_ask_89 : decode cX4_ask 89 = .ok (.if_icmp .ne 6, 3) := dk_160 0 6 (dk_at dksX4_ask_3 21 rfl rfl)
theorem dX4_ask_92 : decode cX4_ask 92 = .ok (.bipush (-2), 2) := dk_16 254 (dk_at dksX4_ask_4 0 rfl rfl)
theorem dX4_ask_94 : decode cX4_ask 94 = .ok (.ireturn, 1) := dk_172 (dk_at dksX4_ask_4 2 rfl rfl)
theorem dX4_ask_95 : decode cX4_ask 95 = .ok (.aload_n 0, 1) := dk_42 (dk_at dksX4_ask_4 3 rfl rfl)
theorem dX4_ask_96 : decode cX4_ask 96 = .ok (.invokevirtual 402, 3) := dk_182 1 146 (dk_at dksX4_ask_4 4 rfl rfl)
theorem dX4_ask_99 : decode cX4_ask 99 = .ok (.aload_n 0, 1) := dk_42 (dk_at dksX4_ask_4 7 rfl rfl)
theorem dX4_ask_100 : decode cX4_ask 100 = .ok (.getfield 7, 3) := dk_180 0 7 (dk_at dksX4_ask_4 8 rfl rfl)
theorem dX4_ask_103 : decode cX4_ask 103 = .ok (.iconst 1, 1) := dk_4 (dk_at dksX4_ask_4 11 rfl rfl)
theorem dX4_ask_104 : decode cX4_ask 104 = .ok (.iaload, 1) := dk_46 (dk_at dksX4_ask_4 12 rfl rfl)
theorem dX4_ask_105 : decode cX4_ask 105 = .ok (.istore 6, 2) := dk_54 6 (dk_at dksX4_ask_4 13 rfl rfl)
theorem dX4_ask_107 : decode cX4_ask 107 = .ok (.iconst 0, 1) := dk_3 (dk_at dksX4_ask_4 15 rfl rfl)
theorem dX4_ask_108 : decode cX4_ask 108 = .ok (.istore 7, 2) := dk_54 7 (dk_at dksX4_ask_4 16 rfl rfl)
theorem dX4_ask_110 : decode cX4_ask 110 = .ok (.iload 7, 2) := dk_21 7 (dk_at dksX4_ask_4 18 rfl rfl)
theorem dX4_ask_112 : decode cX4_ask 112 = .ok (.bipush 17, 2) := dk_16 17 (dk_at dksX4_ask_4 20 rfl rfl)
theorem dX4_ask_114 : decode cX4_ask 114 = .ok (.if_icmp .ge 18, 3) := dk_162 0 18 (dk_at dksX4_ask_5 0 rfl rfl)
theorem dX4_ask_117 : decode cX4_ask 117 = .ok (.aload_n 0, 1) := dk_42 (dk_at dksX4_ask_5 3 rfl rfl)
theorem dX4_ask_118 : decode cX4_ask 118 = .ok (.iload 6, 2) := dk_21 6 (dk_at dksX4_ask_5 4 rfl rfl)
theorem dX4_ask_120 : decode cX4_ask 120 = .ok (.iload 7, 2) := dk_21 7 (dk_at dksX4_ask_5 6 rfl rfl)
theorem dX4_ask_122 : decode cX4_ask 122 = .ok (.iconst 0, 1) := dk_3 (dk_at dksX4_ask_5 8 rfl rfl)
theorem dX4_ask_123 : decode cX4_ask 123 = .ok (.invokevirtual 346, 3) := dk_182 1 90 (dk_at dksX4_ask_5 9 rfl rfl)
theorem dX4_ask_126 : decode cX4_ask 126 = .ok (.iinc 7 1, 3) := dk_132 7 1 (dk_at dksX4_ask_5 12 rfl rfl)
theorem dX4_ask_129 : decode cX4_ask 129 = .ok (.goto (-19), 3) := dk_167 255 237 (dk_at dksX4_ask_5 15 rfl rfl)
theorem dX4_ask_132 : decode cX4_ask 132 = .ok (.aload_n 0, 1) := dk_42 (dk_at dksX4_ask_5 18 rfl rfl)
theorem dX4_ask_133 : decode cX4_ask 133 = .ok (.iload 6, 2) := dk_21 6 (dk_at dksX4_ask_5 19 rfl rfl)
theorem dX4_ask_135 : decode cX4_ask 135 = .ok (.iconst 1, 1) := dk_4 (dk_at dksX4_ask_5 21 rfl rfl)
theorem dX4_ask_136 : decode cX4_ask 136 = .ok (.iload_n 1, 1) := dk_27 (dk_at dksX4_ask_5 22 rfl rfl)
theorem dX4_ask_137 : decode cX4_ask 137 = .ok (.invokevirtual 346, 3) := dk_182 1 90 (dk_at dksX4_ask_6 0 rfl rfl)
theorem dX4_ask_140 : decode cX4_ask 140 = .ok (.aload_n 0, 1) := dk_42 (dk_at dksX4_ask_6 3 rfl rfl)
theorem dX4_ask_141 : decode cX4_ask 141 = .ok (.iload 6, 2) := dk_21 6 (dk_at dksX4_ask_6 4 rfl rfl)
theorem dX4_ask_143 : decode cX4_ask 143 = .ok (.iconst 2, 1) := dk_5 (dk_at dksX4_ask_6 6 rfl rfl)
theorem dX4_ask_144 : decode cX4_ask 144 = .ok (.iload_n 2, 1) := dk_28 (dk_at dksX4_ask_6 7 rfl rfl)
theorem dX4_ask_145 : decode cX4_ask 145 = .ok (.invokevirtual 346, 3) := dk_182 1 90 (dk_at dksX4_ask_6 8 rfl rfl)
theorem dX4_ask_148 : decode cX4_ask 148 = .ok (.aload_n 0, 1) := dk_42 (dk_at dksX4_ask_6 11 rfl rfl)
theorem dX4_ask_149 : decode cX4_ask 149 = .ok (.iload 6, 2) := dk_21 6 (dk_at dksX4_ask_6 12 rfl rfl)
theorem dX4_ask_151 : decode cX4_ask 151 = .ok (.iconst 3, 1) := dk_6 (dk_at dksX4_ask_6 14 rfl rfl)
theorem dX4_ask_152 : decode cX4_ask 152 = .ok (.iload_n 3, 1) := dk_29 (dk_at dksX4_ask_6 15 rfl rfl)
theorem dX4_ask_153 : decode cX4_ask 153 = .ok (.invokevirtual 346, 3) := dk_182 1 90 (dk_at dksX4_ask_6 16 rfl rfl)
theorem dX4_ask_156 : decode cX4_ask 156 = .ok (.aload_n 0, 1) := dk_42 (dk_at dksX4_ask_6 19 rfl rfl)
theorem dX4_ask_157 : decode cX4_ask 157 = .ok (.iload 6, 2) := dk_21 6 (dk_at dksX4_ask_6 20 rfl rfl)
theorem dX4_ask_159 : decode cX4_ask 159 = .ok (.iconst 4, 1) := dk_7 (dk_at dksX4_ask_6 22 rfl rfl)
theorem dX4_ask_160 : decode cX4_ask 160 = .ok (.aload_n 0, 1) := dk_42 (dk_at dksX4_ask_6 23 rfl rfl)
theorem dX4_ask_161 : decode cX4_ask 161 = .ok (.getfield 7, 3) := dk_180 0 7 (dk_at dksX4_ask_7 0 rfl rfl)
theorem dX4_ask_164 : decode cX4_ask 164 = .ok (.iconst 0, 1) := dk_3 (dk_at dksX4_ask_7 3 rfl rfl)
theorem dX4_ask_165 : decode cX4_ask 165 = .ok (.iaload, 1) := dk_46 (dk_at dksX4_ask_7 4 rfl rfl)
theorem dX4_ask_166 : decode cX4_ask 166 = .ok (.iload 4, 2) := dk_21 4 (dk_at dksX4_ask_7 5 rfl rfl)
theorem dX4_ask_168 : decode cX4_ask 168 = .ok (.iadd, 1) := dk_96 (dk_at dksX4_ask_7 7 rfl rfl)
theorem dX4_ask_169 : decode cX4_ask 169 = .ok (.invokevirtual 346, 3) := dk_182 1 90 (dk_at dksX4_ask_7 8 rfl rfl)
theorem dX4_ask_172 : decode cX4_ask 172 = .ok (.aload_n 0, 1) := dk_42 (dk_at dksX4_ask_7 11 rfl rfl)
theorem dX4_ask_173 : decode cX4_ask 173 = .ok (.iload 6, 2) := dk_21 6 (dk_at dksX4_ask_7 12 rfl rfl)
theorem dX4_ask_175 : decode cX4_ask 175 = .ok (.iconst 5, 1) := dk_8 (dk_at dksX4_ask_7 14 rfl rfl)
theorem dX4_ask_176 : decode cX4_ask 176 = .ok (.aload_n 0, 1) := dk_42 (dk_at dksX4_ask_7 15 rfl rfl)
theorem dX4_ask_177 : decode cX4_ask 177 = .ok (.getfield 7, 3) := dk_180 0 7 (dk_at dksX4_ask_7 16 rfl rfl)
theorem dX4_ask_180 : decode cX4_ask 180 = .ok (.iconst 0, 1) := dk_3 (dk_at dksX4_ask_7 19 rfl rfl)
theorem dX4_ask_181 : decode cX4_ask 181 = .ok (.iaload, 1) := dk_46 (dk_at dksX4_ask_7 20 rfl rfl)
theorem dX4_ask_182 : decode cX4_ask 182 = .ok (.iload 4, 2) := dk_21 4 (dk_at dksX4_ask_7 21 rfl rfl)
theorem dX4_ask_184 : decode cX4_ask 184 = .ok (.iadd, 1) := dk_96 (dk_at dksX4_ask_7 23 rfl rfl)
theorem dX4_ask_185 : decode cX4_ask 185 = .ok (.aload_n 0, 1) := dk_42 (dk_at dksX4_ask_8 0 rfl rfl)
theorem dX4_ask_186 : decode cX4_ask 186 = .ok (.iconst 0, 1) := dk_3 (dk_at dksX4_ask_8 1 rfl rfl)
theorem dX4_ask_187 : decode cX4_ask 187 = .ok (.invokevirtual 292, 3) := dk_182 1 36 (dk_at dksX4_ask_8 2 rfl rfl)
theorem dX4_ask_190 : decode cX4_ask 190 = .ok (.iadd, 1) := dk_96 (dk_at dksX4_ask_8 5 rfl rfl)
theorem dX4_ask_191 : decode cX4_ask 191 = .ok (.invokevirtual 346, 3) := dk_182 1 90 (dk_at dksX4_ask_8 6 rfl rfl)
theorem dX4_ask_194 : decode cX4_ask 194 = .ok (.aload_n 0, 1) := dk_42 (dk_at dksX4_ask_8 9 rfl rfl)
theorem dX4_ask_195 : decode cX4_ask 195 = .ok (.iload 6, 2) := dk_21 6 (dk_at dksX4_ask_8 10 rfl rfl)
theorem dX4_ask_197 : decode cX4_ask 197 = .ok (.bipush 6, 2) := dk_16 6 (dk_at dksX4_ask_8 12 rfl rfl)
theorem dX4_ask_199 : decode cX4_ask 199 = .ok (.iload 5, 2) := dk_21 5 (dk_at dksX4_ask_8 14 rfl rfl)
theorem dX4_ask_201 : decode cX4_ask 201 = .ok (.invokevirtual 346, 3) := dk_182 1 90 (dk_at dksX4_ask_8 16 rfl rfl)
theorem dX4_ask_204 : decode cX4_ask 204 = .ok (.aload_n 0, 1) := dk_42 (dk_at dksX4_ask_8 19 rfl rfl)
theorem dX4_ask_205 : decode cX4_ask 205 = .ok (.iload 6, 2) := dk_21 6 (dk_at dksX4_ask_8 20 rfl rfl)
theorem dX4_ask_207 : decode cX4_ask 207 = .ok (.bipush 7, 2) := dk_16 7 (dk_at dksX4_ask_8 22 rfl rfl)
theorem dX4_ask_209 : decode cX4_ask 209 = .ok (.iconst (-1), 1) := dk_2 (dk_at dksX4_ask_9 0 rfl rfl)
theorem dX4_ask_210 : decode cX4_ask 210 = .ok (.invokevirtual 346, 3) := dk_182 1 90 (dk_at dksX4_ask_9 1 rfl rfl)
theorem dX4_ask_213 : decode cX4_ask 213 = .ok (.aload_n 0, 1) := dk_42 (dk_at dksX4_ask_9 4 rfl rfl)
theorem dX4_ask_214 : decode cX4_ask 214 = .ok (.iload 6, 2) := dk_21 6 (dk_at dksX4_ask_9 5 rfl rfl)
theorem dX4_ask_216 : decode cX4_ask 216 = .ok (.bipush 8, 2) := dk_16 8 (dk_at dksX4_ask_9 7 rfl rfl)
theorem dX4_ask_218 : decode cX4_ask 218 = .ok (.iconst (-1), 1) := dk_2 (dk_at dksX4_ask_9 9 rfl rfl)
theorem dX4_ask_219 : decode cX4_ask 219 = .ok (.invokevirtual 346, 3) := dk_182 1 90 (dk_at dksX4_ask_9 10 rfl rfl)
theorem dX4_ask_222 : decode cX4_ask 222 = .ok (.aload_n 0, 1) := dk_42 (dk_at dksX4_ask_9 13 rfl rfl)
theorem dX4_ask_223 : decode cX4_ask 223 = .ok (.iload 6, 2) := dk_21 6 (dk_at dksX4_ask_9 14 rfl rfl)
theorem dX4_ask_225 : decode cX4_ask 225 = .ok (.bipush 9, 2) := dk_16 9 (dk_at dksX4_ask_9 16 rfl rfl)
theorem dX4_ask_227 : decode cX4_ask 227 = .ok (.iconst (-1), 1) := dk_2 (dk_at dksX4_ask_9 18 rfl rfl)
theorem dX4_ask_228 : decode cX4_ask 228 = .ok (.invokevirtual 346, 3) := dk_182 1 90 (dk_at dksX4_ask_9 19 rfl rfl)
theorem dX4_ask_231 : decode cX4_ask 231 = .ok (.aload_n 0, 1) := dk_42 (dk_at dksX4_ask_9 22 rfl rfl)
theorem dX4_ask_232 : decode cX4_ask 232 = .ok (.getfield 7, 3) := dk_180 0 7 (dk_at dksX4_ask_10 0 rfl rfl)
theorem dX4_ask_235 : decode cX4_ask 235 = .ok (.iconst 1, 1) := dk_4 (dk_at dksX4_ask_10 3 rfl rfl)
theorem dX4_ask_236 : decode cX4_ask 236 = .ok (.dup2, 1) := dk_92 (dk_at dksX4_ask_10 4 rfl rfl)
theorem dX4_ask_237 : decode cX4_ask 237 = .ok (.iaload, 1) := dk_46 (dk_at dksX4_ask_10 5 rfl rfl)
theorem dX4_ask_238 : decode cX4_ask 238 = .ok (.iconst 1, 1) := dk_4 (dk_at dksX4_ask_10 6 rfl rfl)
theorem dX4_ask_239 : decode cX4_ask 239 = .ok (.iadd, 1) := dk_96 (dk_at dksX4_ask_10 7 rfl rfl)
theorem dX4_ask_240 : decode cX4_ask 240 = .ok (.iastore, 1) := dk_79 (dk_at dksX4_ask_10 8 rfl rfl)
theorem dX4_ask_241 : decode cX4_ask 241 = .ok (.aload_n 0, 1) := dk_42 (dk_at dksX4_ask_10 9 rfl rfl)
theorem dX4_ask_242 : decode cX4_ask 242 = .ok (.iload 6, 2) := dk_21 6 (dk_at dksX4_ask_10 10 rfl rfl)
theorem dX4_ask_244 : decode cX4_ask 244 = .ok (.invokevirtual 405, 3) := dk_182 1 149 (dk_at dksX4_ask_10 12 rfl rfl)
theorem dX4_ask_247 : decode cX4_ask 247 = .ok (.iload 6, 2) := dk_21 6 (dk_at dksX4_ask_10 15 rfl rfl)
theorem dX4_ask_249 : decode cX4_ask 249 = .ok (.ireturn, 1) := dk_172 (dk_at dksX4_ask_10 17 rfl rfl)
abbrev cX4_records : ByteArray := prog_25_method_83_code
def yX4_records : MethodName := ⟨RX4, "records", "()V"⟩
def dkwX4_records_4 : List UInt8 := [181, 0, 123, 177]
abbrev dktX4_records_4 : List UInt8 := dkwX4_records_4 ++ []
def dkwX4_records_3 : List UInt8 := [104, 27, 96, 42, 180, 0, 7, 27, 46, 79, 132, 1, 1, 167, 255, 225, 42, 89, 180, 0, 123, 4, 96]
abbrev dktX4_records_3 : List UInt8 := dkwX4_records_3 ++ dktX4_records_4
def dkwX4_records_2 : List UInt8 := [100, 181, 0, 123, 3, 60, 27, 17, 2, 69, 162, 0, 30, 42, 180, 0, 19, 17, 2, 69, 42, 180, 0, 123]
abbrev dktX4_records_2 : List UInt8 := dkwX4_records_2 ++ dktX4_records_3
def dkwX4_records_1 : List UInt8 := [27, 17, 2, 69, 100, 42, 180, 0, 19, 27, 46, 79, 132, 1, 1, 167, 255, 230, 42, 89, 180, 0, 123, 4]
abbrev dktX4_records_1 : List UInt8 := dkwX4_records_1 ++ dktX4_records_2
def dkwX4_records_0 : List UInt8 := [42, 180, 0, 123, 16, 10, 160, 0, 46, 17, 2, 69, 60, 27, 17, 22, 178, 162, 0, 25, 42, 180, 0, 19]
abbrev dktX4_records_0 : List UInt8 := dkwX4_records_0 ++ dktX4_records_1
theorem dksX4_records_0 : cX4_records.data.toList.drop 0 = dktX4_records_0 := by decide +kernel
theorem dksX4_records_1 : cX4_records.data.toList.drop 24 = dktX4_records_1 := dk_seg dksX4_records_0 24 rfl rfl
theorem dksX4_records_2 : cX4_records.data.toList.drop 48 = dktX4_records_2 := dk_seg dksX4_records_1 24 rfl rfl
theorem dksX4_records_3 : cX4_records.data.toList.drop 72 = dktX4_records_3 := dk_seg dksX4_records_2 24 rfl rfl
theorem dksX4_records_4 : cX4_records.data.toList.drop 95 = dktX4_records_4 := dk_seg dksX4_records_3 23 rfl rfl
theorem dX4_records_0 : decode cX4_records 0 = .ok (.aload_n 0, 1) := dk_42 (dk_at dksX4_records_0 0 rfl rfl)
theorem dX4_records_1 : decode cX4_records 1 = .ok (.getfield 123, 3) := dk_180 0 123 (dk_at dksX4_records_0 1 rfl rfl)
theorem dX4_records_4 : decode cX4_records 4 = .ok (.bipush 10, 2) := dk_16 10 (dk_at dksX4_records_0 4 rfl rfl)
theorem dX4_records_6 : decode cX4_records 6 = .ok (.if_icmp .ne 46, 3) := dk_160 0 46 (dk_at dksX4_records_0 6 rfl rfl)
theorem dX4_records_9 : decode cX4_records 9 = .ok (.sipush 581, 3) := dk_17 2 69 (dk_at dksX4_records_0 9 rfl rfl)
theorem dX4_records_12 : decode cX4_records 12 = .ok (.istore_n 1, 1) := dk_60 (dk_at dksX4_records_0 12 rfl rfl)
theorem dX4_records_13 : decode cX4_records 13 = .ok (.iload_n 1, 1) := dk_27 (dk_at dksX4_records_0 13 rfl rfl)
theorem dX4_records_14 : decode cX4_records 14 = .ok (.sipush 5810, 3) := dk_17 22 178 (dk_at dksX4_records_0 14 rfl rfl)
theorem dX4_records_17 : decode cX4_records 17 = .ok (.if_icmp .ge 25, 3) := dk_162 0 25 (dk_at dksX4_records_0 17 rfl rfl)
theorem dX4_records_20 : decode cX4_records 20 = .ok (.aload_n 0, 1) := dk_42 (dk_at dksX4_records_0 20 rfl rfl)
theorem dX4_records_21 : decode cX4_records 21 = .ok (.getfield 19, 3) := dk_180 0 19 (dk_at dksX4_records_0 21 rfl rfl)
theorem dX4_records_24 : decode cX4_records 24 = .ok (.iload_n 1, 1) := dk_27 (dk_at dksX4_records_1 0 rfl rfl)
theorem dX4_records_25 : decode cX4_records 25 = .ok (.sipush 581, 3) := dk_17 2 69 (dk_at dksX4_records_1 1 rfl rfl)
theorem dX4_records_28 : decode cX4_records 28 = .ok (.isub, 1) := dk_100 (dk_at dksX4_records_1 4 rfl rfl)
theorem dX4_records_29 : decode cX4_records 29 = .ok (.aload_n 0, 1) := dk_42 (dk_at dksX4_records_1 5 rfl rfl)
theorem dX4_records_30 : decode cX4_records 30 = .ok (.getfield 19, 3) := dk_180 0 19 (dk_at dksX4_records_1 6 rfl rfl)
theorem dX4_records_33 : decode cX4_records 33 = .ok (.iload_n 1, 1) := dk_27 (dk_at dksX4_records_1 9 rfl rfl)
theorem dX4_records_34 : decode cX4_records 34 = .ok (.iaload, 1) := dk_46 (dk_at dksX4_records_1 10 rfl rfl)
theorem dX4_records_35 : decode cX4_records 35 = .ok (.iastore, 1) := dk_79 (dk_at dksX4_records_1 11 rfl rfl)
theorem dX4_records_36 : decode cX4_records 36 = .ok (.iinc 1 1, 3) := dk_132 1 1 (dk_at dksX4_records_1 12 rfl rfl)
theorem dX4_records_39 : decode cX4_records 39 = .ok (.goto (-26), 3) := dk_167 255 230 (dk_at dksX4_records_1 15 rfl rfl)
theorem dX4_records_42 : decode cX4_records 42 = .ok (.aload_n 0, 1) := dk_42 (dk_at dksX4_records_1 18 rfl rfl)
theorem dX4_records_43 : decode cX4_records 43 = .ok (.dup, 1) := dk_89 (dk_at dksX4_records_1 19 rfl rfl)
theorem dX4_records_44 : decode cX4_records 44 = .ok (.getfield 123, 3) := dk_180 0 123 (dk_at dksX4_records_1 20 rfl rfl)
theorem dX4_records_47 : decode cX4_records 47 = .ok (.iconst 1, 1) := dk_4 (dk_at dksX4_records_1 23 rfl rfl)
theorem dX4_records_48 : decode cX4_records 48 = .ok (.isub, 1) := dk_100 (dk_at dksX4_records_2 0 rfl rfl)
theorem dX4_records_49 : decode cX4_records 49 = .ok (.putfield 123, 3) := dk_181 0 123 (dk_at dksX4_records_2 1 rfl rfl)
theorem dX4_records_52 : decode cX4_records 52 = .ok (.iconst 0, 1) := dk_3 (dk_at dksX4_records_2 4 rfl rfl)
theorem dX4_records_53 : decode cX4_records 53 = .ok (.istore_n 1, 1) := dk_60 (dk_at dksX4_records_2 5 rfl rfl)
theorem dX4_records_54 : decode cX4_records 54 = .ok (.iload_n 1, 1) := dk_27 (dk_at dksX4_records_2 6 rfl rfl)
theorem dX4_records_55 : decode cX4_records 55 = .ok (.sipush 581, 3) := dk_17 2 69 (dk_at dksX4_records_2 7 rfl rfl)
theorem dX4_records_58 : decode cX4_records 58 = .ok (.if_icmp .ge 30, 3) := dk_162 0 30 (dk_at dksX4_records_2 10 rfl rfl)
theorem dX4_records_61 : decode cX4_records 61 = .ok (.aload_n 0, 1) := dk_42 (dk_at dksX4_records_2 13 rfl rfl)
theorem dX4_records_62 : decode cX4_records 62 = .ok (.getfield 19, 3) := dk_180 0 19 (dk_at dksX4_records_2 14 rfl rfl)
theorem dX4_records_65 : decode cX4_records 65 = .ok (.sipush 581, 3) := dk_17 2 69 (dk_at dksX4_records_2 17 rfl rfl)
theorem dX4_records_68 : decode cX4_records 68 = .ok (.aload_n 0, 1) := dk_42 (dk_at dksX4_records_2 20 rfl rfl)
theorem dX4_records_69 : decode cX4_records 69 = .ok (.getfield 123, 3) := dk_180 0 123 (dk_at dksX4_records_2 21 rfl rfl)
theorem dX4_records_72 : decode cX4_records 72 = .ok (.imul, 1) := dk_104 (dk_at dksX4_records_3 0 rfl rfl)
theorem dX4_records_73 : decode cX4_records 73 = .ok (.iload_n 1, 1) := dk_27 (dk_at dksX4_records_3 1 rfl rfl)
theorem dX4_records_74 : decode cX4_records 74 = .ok (.iadd, 1) := dk_96 (dk_at dksX4_records_3 2 rfl rfl)
theorem dX4_records_75 : decode cX4_records 75 = .ok (.aload_n 0, 1) := dk_42 (dk_at dksX4_records_3 3 rfl rfl)
theorem dX4_records_76 : decode cX4_records 76 = .ok (.getfield 7, 3) := dk_180 0 7 (dk_at dksX4_records_3 4 rfl rfl)
theorem dX4_records_79 : decode cX4_records 79 = .ok (.iload_n 1, 1) := dk_27 (dk_at dksX4_records_3 7 rfl rfl)
theorem dX4_records_80 : decode cX4_records 80 = .ok (.iaload, 1) := dk_46 (dk_at dksX4_records_3 8 rfl rfl)
theorem dX4_records_81 : decode cX4_records 81 = .ok (.iastore, 1) := dk_79 (dk_at dksX4_records_3 9 rfl rfl)
theorem dX4_records_82 : decode cX4_records 82 = .ok (.iinc 1 1, 3) := dk_132 1 1 (dk_at dksX4_records_3 10 rfl rfl)
theorem dX4_records_85 : decode cX4_records 85 = .ok (.goto (-31), 3) := dk_167 255 225 (dk_at dksX4_records_3 13 rfl rfl)
theorem dX4_records_88 : decode cX4_records 88 = .ok (.aload_n 0, 1) := dk_42 (dk_at dksX4_records_3 16 rfl rfl)
theorem dX4_records_89 : decode cX4_records 89 = .ok (.dup, 1) := dk_89 (dk_at dksX4_records_3 17 rfl rfl)
theorem dX4_records_90 : decode cX4_records 90 = .ok (.getfield 123, 3) := dk_180 0 123 (dk_at dksX4_records_3 18 rfl rfl)
theorem dX4_records_93 : decode cX4_records 93 = .ok (.iconst 1, 1) := dk_4 (dk_at dksX4_records_3 21 rfl rfl)
theorem dX4_records_94 : decode cX4_records 94 = .ok (.iadd, 1) := dk_96 (dk_at dksX4_records_3 22 rfl rfl)
theorem dX4_records_95 : decode cX4_records 95 = .ok (.putfield 123, 3) := dk_181 0 123 (dk_at dksX4_records_4 0 rfl rfl)
theorem dX4_records_98 : decode cX4_records 98 = .ok (.return_, 1) := dk_177 (dk_at dksX4_records_4 3 rfl rfl)
abbrev cX4_sets : ByteArray := prog_25_method_11_code
def yX4_sets : MethodName := ⟨RX4, "sets", "(III)V"⟩
def dkwX4_sets_0 : List UInt8 := [42, 180, 0, 7, 17, 0, 173, 16, 17, 27, 104, 96, 28, 96, 29, 79, 177]
abbrev dktX4_sets_0 : List UInt8 := dkwX4_sets_0 ++ []
theorem dksX4_sets_0 : cX4_sets.data.toList.drop 0 = dktX4_sets_0 := by decide +kernel
theorem dX4_sets_0 : decode cX4_sets 0 = .ok (.aload_n 0, 1) := dk_42 (dk_at dksX4_sets_0 0 rfl rfl)
theorem dX4_sets_1 : decode cX4_sets 1 = .ok (.getfield 7, 3) := dk_180 0 7 (dk_at dksX4_sets_0 1 rfl rfl)
theorem dX4_sets_4 : decode cX4_sets 4 = .ok (.sipush 173, 3) := dk_17 0 173 (dk_at dksX4_sets_0 4 rfl rfl)
theorem dX4_sets_7 : decode cX4_sets 7 = .ok (.bipush 17, 2) := dk_16 17 (dk_at dksX4_sets_0 7 rfl rfl)
theorem dX4_sets_9 : decode cX4_sets 9 = .ok (.iload_n 1, 1) := dk_27 (dk_at dksX4_sets_0 9 rfl rfl)
theorem dX4_sets_10 : decode cX4_sets 10 = .ok (.imul, 1) := dk_104 (dk_at dksX4_sets_0 10 rfl rfl)
theorem dX4_sets_11 : decode cX4_sets 11 = .ok (.iadd, 1) := dk_96 (dk_at dksX4_sets_0 11 rfl rfl)
theorem dX4_sets_12 : decode cX4_sets 12 = .ok (.iload_n 2, 1) := dk_28 (dk_at dksX4_sets_0 12 rfl rfl)
theorem dX4_sets_13 : decode cX4_sets 13 = .ok (.iadd, 1) := dk_96 (dk_at dksX4_sets_0 13 rfl rfl)
theorem dX4_sets_14 : decode cX4_sets 14 = .ok (.iload_n 3, 1) := dk_29 (dk_at dksX4_sets_0 14 rfl rfl)
theorem dX4_sets_15 : decode cX4_sets 15 = .ok (.iastore, 1) := dk_79 (dk_at dksX4_sets_0 15 rfl rfl)
theorem dX4_sets_16 : decode cX4_sets 16 = .ok (.return_, 1) := dk_177 (dk_at dksX4_sets_0 16 rfl rfl)
abbrev cX4_offers : ByteArray := prog_25_method_84_code
def yX4_offers : MethodName := ⟨RX4, "offers", "(I)V"⟩
def dkwX4_offers_7 : List UInt8 := [46, 42, 5, 182, 1, 36, 96, 182, 1, 90, 177]
abbrev dktX4_offers_7 : List UInt8 := dkwX4_offers_7 ++ []
def dkwX4_offers_6 : List UInt8 := [16, 15, 42, 180, 1, 61, 182, 1, 90, 132, 2, 1, 167, 255, 111, 42, 27, 16, 16, 42, 180, 0, 7, 3]
abbrev dktX4_offers_6 : List UInt8 := dkwX4_offers_6 ++ dktX4_offers_7
def dkwX4_offers_5 : List UInt8 := [42, 27, 16, 13, 42, 180, 1, 42, 182, 1, 90, 42, 27, 16, 14, 42, 180, 1, 58, 182, 1, 90, 42, 27]
abbrev dktX4_offers_5 : List UInt8 := dkwX4_offers_5 ++ dktX4_offers_6
def dkwX4_offers_4 : List UInt8 := [182, 1, 18, 161, 0, 6, 167, 0, 51, 42, 27, 3, 3, 182, 1, 90, 42, 27, 16, 12, 28, 182, 1, 90]
abbrev dktX4_offers_4 : List UInt8 := dkwX4_offers_4 ++ dktX4_offers_5
def dkwX4_offers_3 : List UInt8 := [42, 180, 1, 42, 42, 27, 16, 13, 182, 1, 18, 160, 0, 20, 42, 180, 1, 58, 42, 27, 16, 14]
abbrev dktX4_offers_3 : List UInt8 := dkwX4_offers_3 ++ dktX4_offers_4
def dkwX4_offers_2 : List UInt8 := [154, 0, 6, 167, 0, 100, 29, 154, 0, 48, 42, 180, 1, 42, 42, 27, 16, 13, 182, 1, 18, 163, 0, 82]
abbrev dktX4_offers_2 : List UInt8 := dkwX4_offers_2 ++ dktX4_offers_3
def dkwX4_offers_1 : List UInt8 := [160, 0, 7, 4, 167, 0, 4, 3, 62, 42, 27, 182, 1, 24, 2, 159, 0, 112, 42, 28, 27, 182, 1, 131]
abbrev dktX4_offers_1 : List UInt8 := dkwX4_offers_1 ++ dktX4_offers_2
def dkwX4_offers_0 : List UInt8 := [42, 27, 3, 7, 182, 1, 90, 3, 61, 28, 42, 180, 0, 114, 162, 0, 143, 42, 27, 3, 182, 1, 18, 7]
abbrev dktX4_offers_0 : List UInt8 := dkwX4_offers_0 ++ dktX4_offers_1
theorem dksX4_offers_0 : cX4_offers.data.toList.drop 0 = dktX4_offers_0 := by decide +kernel
theorem dksX4_offers_1 : cX4_offers.data.toList.drop 24 = dktX4_offers_1 := dk_seg dksX4_offers_0 24 rfl rfl
theorem dksX4_offers_2 : cX4_offers.data.toList.drop 48 = dktX4_offers_2 := dk_seg dksX4_offers_1 24 rfl rfl
theorem dksX4_offers_3 : cX4_offers.data.toList.drop 72 = dktX4_offers_3 := dk_seg dksX4_offers_2 24 rfl rfl
theorem dksX4_offers_4 : cX4_offers.data.toList.drop 94 = dktX4_offers_4 := dk_seg dksX4_offers_3 22 rfl rfl
theorem dksX4_offers_5 : cX4_offers.data.toList.drop 118 = dktX4_offers_5 := dk_seg dksX4_offers_4 24 rfl rfl
theorem dksX4_offers_6 : cX4_offers.data.toList.drop 142 = dktX4_offers_6 := dk_seg dksX4_offers_5 24 rfl rfl
theorem dksX4_offers_7 : cX4_offers.data.toList.drop 166 = dktX4_offers_7 := dk_seg dksX4_offers_6 24 rfl rfl
theorem dX4_offers_0 : decode cX4_offers 0 = .ok (.aload_n 0, 1) := dk_42 (dk_at dksX4_offers_0 0 rfl rfl)
theorem dX4_offers_1 : decode cX4_offers 1 = .ok (.iload_n 1, 1) := dk_27 (dk_at dksX4_offers_0 1 rfl rfl)
theorem dX4_offers_2 : decode cX4_offers 2 = .ok (.iconst 0, 1) := dk_3 (dk_at dksX4_offers_0 2 rfl rfl)
theorem dX4_offers_3 : decode cX4_offers 3 = .ok (.iconst 4, 1) := dk_7 (dk_at dksX4_offers_0 3 rfl rfl)
theorem dX4_offers_4 : decode cX4_offers 4 = .ok (.invokevirtual 346, 3) := dk_182 1 90 (dk_at dksX4_offers_0 4 rfl rfl)
theorem dX4_offers_7 : decode cX4_offers 7 = .ok (.iconst 0, 1) := dk_3 (dk_at dksX4_offers_0 7 rfl rfl)
theorem dX4_offers_8 : decode cX4_offers 8 = .ok (.istore_n 2, 1) := dk_61 (dk_at dksX4_offers_0 8 rfl rfl)
theorem dX4_offers_9 : decode cX4_offers 9 = .ok (.iload_n 2, 1) := dk_28 (dk_at dksX4_offers_0 9 rfl rfl)
theorem dX4_offers_10 : decode cX4_offers 10 = .ok (.aload_n 0, 1) := dk_42 (dk_at dksX4_offers_0 10 rfl rfl)
theorem dX4_offers_11 : decode cX4_offers 11 = .ok (.getfield 114, 3) := dk_180 0 114 (dk_at dksX4_offers_0 11 rfl rfl)
theorem dX4_offers_14 : decode cX4_offers 14 = .ok (.if_icmp .ge 143, 3) := dk_162 0 143 (dk_at dksX4_offers_0 14 rfl rfl)
theorem dX4_offers_17 : decode cX4_offers 17 = .ok (.aload_n 0, 1) := dk_42 (dk_at dksX4_offers_0 17 rfl rfl)
theorem dX4_offers_18 : decode cX4_offers 18 = .ok (.iload_n 1, 1) := dk_27 (dk_at dksX4_offers_0 18 rfl rfl)
theorem dX4_offers_19 : decode cX4_offers 19 = .ok (.iconst 0, 1) := dk_3 (dk_at dksX4_offers_0 19 rfl rfl)
theorem dX4_offers_20 : decode cX4_offers 20 = .ok (.invokevirtual 274, 3) := dk_182 1 18 (dk_at dksX4_offers_0 20 rfl rfl)
theorem dX4_offers_23 : decode cX4_offers 23 = .ok (.iconst 4, 1) := dk_7 (dk_at dksX4_offers_0 23 rfl rfl)
theorem dX4_offers_24 : decode cX4_offers 24 = .ok (.if_icmp .ne 7, 3) := dk_160 0 7 (dk_at dksX4_offers_1 0 rfl rfl)
theorem dX4_offers_27 : decode cX4_offers 27 = .ok (.iconst 1, 1) := dk_4 (dk_at dksX4_offers_1 3 rfl rfl)
theorem dX4_offers_28 : decode cX4_offers 28 = .ok (.goto 4, 3) := dk_167 0 4 (dk_at dksX4_offers_1 4 rfl rfl)
theorem dX4_offers_31 : decode cX4_offers 31 = .ok (.iconst 0, 1) := dk_3 (dk_at dksX4_offers_1 7 rfl rfl)
theorem dX4_offers_32 : decode cX4_offers 32 = .ok (.istore_n 3, 1) := dk_62 (dk_at dksX4_offers_1 8 rfl rfl)
theorem dX4_offers_33 : decode cX4_offers 33 = .ok (.aload_n 0, 1) := dk_42 (dk_at dksX4_offers_1 9 rfl rfl)
theorem dX4_offers_34 : decode cX4_offers 34 = .ok (.iload_n 1, 1) := dk_27 (dk_at dksX4_offers_1 10 rfl rfl)
theorem dX4_offers_35 : decode cX4_offers 35 = .ok (.invokevirtual 280, 3) := dk_182 1 24 (dk_at dksX4_offers_1 11 rfl rfl)
theorem dX4_offers_38 : decode cX4_offers 38 = .ok (.iconst (-1), 1) := dk_2 (dk_at dksX4_offers_1 14 rfl rfl)
theorem dX4_offers_39 : decode cX4_offers 39 = .ok (.if_icmp .eq 112, 3) := dk_159 0 112 (dk_at dksX4_offers_1 15 rfl rfl)
theorem dX4_offers_42 : decode cX4_offers 42 = .ok (.aload_n 0, 1) := dk_42 (dk_at dksX4_offers_1 18 rfl rfl)
theorem dX4_offers_43 : decode cX4_offers 43 = .ok (.iload_n 2, 1) := dk_28 (dk_at dksX4_offers_1 19 rfl rfl)
theorem dX4_offers_44 : decode cX4_offers 44 = .ok (.iload_n 1, 1) := dk_27 (dk_at dksX4_offers_1 20 rfl rfl)
theorem dX4_offers_45 : decode cX4_offers 45 = .ok (.invokevirtual 387, 3) := dk_182 1 131 (dk_at dksX4_offers_1 21 rfl rfl)
theorem dX4_offers_48 : decode cX4_offers 48 = .ok (.ifCond .ne 6, 3) := dk_154 0 6 (dk_at dksX4_offers_2 0 rfl rfl)
theorem dX4_offers_51 : decode cX4_offers 51 = .ok (.goto 100, 3) := dk_167 0 100 (dk_at dksX4_offers_2 3 rfl rfl)
theorem dX4_offers_54 : decode cX4_offers 54 = .ok (.iload_n 3, 1) := dk_29 (dk_at dksX4_offers_2 6 rfl rfl)
theorem dX4_offers_55 : decode cX4_offers 55 = .ok (.ifCond .ne 48, 3) := dk_154 0 48 (dk_at dksX4_offers_2 7 rfl rfl)
theorem dX4_offers_58 : decode cX4_offers 58 = .ok (.aload_n 0, 1) := dk_42 (dk_at dksX4_offers_2 10 rfl rfl)
theorem dX4_offers_59 : decode cX4_offers 59 = .ok (.getfield 298, 3) := dk_180 1 42 (dk_at dksX4_offers_2 11 rfl rfl)
theorem dX4_offers_62 : decode cX4_offers 62 = .ok (.aload_n 0, 1) := dk_42 (dk_at dksX4_offers_2 14 rfl rfl)
theorem dX4_offers_63 : decode cX4_offers 63 = .ok (.iload_n 1, 1) := dk_27 (dk_at dksX4_offers_2 15 rfl rfl)
theorem dX4_offers_64 : decode cX4_offers 64 = .ok (.bipush 13, 2) := dk_16 13 (dk_at dksX4_offers_2 16 rfl rfl)
theorem dX4_offers_66 : decode cX4_offers 66 = .ok (.invokevirtual 274, 3) := dk_182 1 18 (dk_at dksX4_offers_2 18 rfl rfl)
theorem dX4_offers_69 : decode cX4_offers 69 = .ok (.if_icmp .gt 82, 3) := dk_163 0 82 (dk_at dksX4_offers_2 21 rfl rfl)
theorem dX4_offers_72 : decode cX4_offers 72 = .ok (.aload_n 0, 1) := dk_42 (dk_at dksX4_offers_3 0 rfl rfl)
theorem dX4_offers_73 : decode cX4_offers 73 = .ok (.getfield 298, 3) := dk_180 1 42 (dk_at dksX4_offers_3 1 rfl rfl)
theorem dX4_offers_76 : decode cX4_offers 76 = .ok (.aload_n 0, 1) := dk_42 (dk_at dksX4_offers_3 4 rfl rfl)
theorem dX4_offers_77 : decode cX4_offers 77 = .ok (.iload_n 1, 1) := dk_27 (dk_at dksX4_offers_3 5 rfl rfl)
theorem dX4_offers_78 : decode cX4_offers 78 = .ok (.bipush 13, 2) := dk_16 13 (dk_at dksX4_offers_3 6 rfl rfl)
theorem dX4_offers_80 : decode cX4_offers 80 = .ok (.invokevirtual 274, 3) := dk_182 1 18 (dk_at dksX4_offers_3 8 rfl rfl)
theorem dX4_offers_83 : decode cX4_offers 83 = .ok (.if_icmp .ne 20, 3) := dk_160 0 20 (dk_at dksX4_offers_3 11 rfl rfl)
theorem dX4_offers_86 : decode cX4_offers 86 = .ok (.aload_n 0, 1) := dk_42 (dk_at dksX4_offers_3 14 rfl rfl)
theorem dX4_offers_87 : decode cX4_offers 87 = .ok (.getfield 314, 3) := dk_180 1 58 (dk_at dksX4_offers_3 15 rfl rfl)
theorem dX4_offers_90 : decode cX4_offers 90 = .ok (.aload_n 0, 1) := dk_42 (dk_at dksX4_offers_3 18 rfl rfl)
theorem dX4_offers_91 : decode cX4_offers 91 = .ok (.iload_n 1, 1) := dk_27 (dk_at dksX4_offers_3 19 rfl rfl)
theorem dX4_offers_92 : decode cX4_offers 92 = .ok (.bipush 14, 2) := dk_16 14 (dk_at dksX4_offers_3 20 rfl rfl)
theorem dX4_offers_94 : decode cX4_offers 94 = .ok (.invokevirtual 274, 3) := dk_182 1 18 (dk_at dksX4_offers_4 0 rfl rfl)
theorem dX4_offers_97 : decode cX4_offers 97 = .ok (.if_icmp .lt 6, 3) := dk_161 0 6 (dk_at dksX4_offers_4 3 rfl rfl)
theorem dX4_offers_100 : decode cX4_offers 100 = .ok (.goto 51, 3) := dk_167 0 51 (dk_at dksX4_offers_4 6 rfl rfl)
theorem dX4_offers_103 : decode cX4_offers 103 = .ok (.aload_n 0, 1) := dk_42 (dk_at dksX4_offers_4 9 rfl rfl)
theorem dX4_offers_104 : decode cX4_offers 104 = .ok (.iload_n 1, 1) := dk_27 (dk_at dksX4_offers_4 10 rfl rfl)
theorem dX4_offers_105 : decode cX4_offers 105 = .ok (.iconst 0, 1) := dk_3 (dk_at dksX4_offers_4 11 rfl rfl)
theorem dX4_offers_106 : decode cX4_offers 106 = .ok (.iconst 0, 1) := dk_3 (dk_at dksX4_offers_4 12 rfl rfl)
theorem dX4_offers_107 : decode cX4_offers 107 = .ok (.invokevirtual 346, 3) := dk_182 1 90 (dk_at dksX4_offers_4 13 rfl rfl)
theorem dX4_offers_110 : decode cX4_offers 110 = .ok (.aload_n 0, 1) := dk_42 (dk_at dksX4_offers_4 16 rfl rfl)
theorem dX4_offers_111 : decode cX4_offers 111 = .ok (.iload_n 1, 1) := dk_27 (dk_at dksX4_offers_4 17 rfl rfl)
theorem dX4_offers_112 : decode cX4_offers 112 = .ok (.bipush 12, 2) := dk_16 12 (dk_at dksX4_offers_4 18 rfl rfl)
theorem dX4_offers_114 : decode cX4_offers 114 = .ok (.iload_n 2, 1) := dk_28 (dk_at dksX4_offers_4 20 rfl rfl)
theorem dX4_offers_115 : decode cX4_offers 115 = .ok (.invokevirtual 346, 3) := dk_182 1 90 (dk_at dksX4_offers_4 21 rfl rfl)
theorem dX4_offers_118 : decode cX4_offers 118 = .ok (.aload_n 0, 1) := dk_42 (dk_at dksX4_offers_5 0 rfl rfl)
theorem dX4_offers_119 : decode cX4_offers 119 = .ok (.iload_n 1, 1) := dk_27 (dk_at dksX4_offers_5 1 rfl rfl)
theorem dX4_offers_120 : decode cX4_offers 120 = .ok (.bipush 13, 2) := dk_16 13 (dk_at dksX4_offers_5 2 rfl rfl)
theorem dX4_offers_122 : decode cX4_offers 122 = .ok (.aload_n 0, 1) := dk_42 (dk_at dksX4_offers_5 4 rfl rfl)
theorem dX4_offers_123 : decode cX4_offers 123 = .ok (.getfield 298, 3) := dk_180 1 42 (dk_at dksX4_offers_5 5 rfl rfl)
theorem dX4_offers_126 : decode cX4_offers 126 = .ok (.invokevirtual 346, 3) := dk_182 1 90 (dk_at dksX4_offers_5 8 rfl rfl)
theorem dX4_offers_129 : decode cX4_offers 129 = .ok (.aload_n 0, 1) := dk_42 (dk_at dksX4_offers_5 11 rfl rfl)
theorem dX4_offers_130 : decode cX4_offers 130 = .ok (.iload_n 1, 1) := dk_27 (dk_at dksX4_offers_5 12 rfl rfl)
theorem dX4_offers_131 : decode cX4_offers 131 = .ok (.bipush 14, 2) := dk_16 14 (dk_at dksX4_offers_5 13 rfl rfl)
theorem dX4_offers_133 : decode cX4_offers 133 = .ok (.aload_n 0, 1) := dk_42 (dk_at dksX4_offers_5 15 rfl rfl)
theorem dX4_offers_134 : decode cX4_offers 134 = .ok (.getfield 314, 3) := dk_180 1 58 (dk_at dksX4_offers_5 16 rfl rfl)
theorem dX4_offers_137 : decode cX4_offers 137 = .ok (.invokevirtual 346, 3) := dk_182 1 90 (dk_at dksX4_offers_5 19 rfl rfl)
theorem dX4_offers_140 : decode cX4_offers 140 = .ok (.aload_n 0, 1) := dk_42 (dk_at dksX4_offers_5 22 rfl rfl)
theorem dX4_offers_141 : decode cX4_offers 141 = .ok (.iload_n 1, 1) := dk_27 (dk_at dksX4_offers_5 23 rfl rfl)
theorem dX4_offers_142 : decode cX4_offers 142 = .ok (.bipush 15, 2) := dk_16 15 (dk_at dksX4_offers_6 0 rfl rfl)
theorem dX4_offers_144 : decode cX4_offers 144 = .ok (.aload_n 0, 1) := dk_42 (dk_at dksX4_offers_6 2 rfl rfl)
theorem dX4_offers_145 : decode cX4_offers 145 = .ok (.getfield 317, 3) := dk_180 1 61 (dk_at dksX4_offers_6 3 rfl rfl)
theorem dX4_offers_148 : decode cX4_offers 148 = .ok (.invokevirtual 346, 3) := dk_182 1 90 (dk_at dksX4_offers_6 6 rfl rfl)
theorem dX4_offers_151 : decode cX4_offers 151 = .ok (.iinc 2 1, 3) := dk_132 2 1 (dk_at dksX4_offers_6 9 rfl rfl)
theorem dX4_offers_154 : decode cX4_offers 154 = .ok (.goto (-145), 3) := dk_167 255 111 (dk_at dksX4_offers_6 12 rfl rfl)
theorem dX4_offers_157 : decode cX4_offers 157 = .ok (.aload_n 0, 1) := dk_42 (dk_at dksX4_offers_6 15 rfl rfl)
theorem dX4_offers_158 : decode cX4_offers 158 = .ok (.iload_n 1, 1) := dk_27 (dk_at dksX4_offers_6 16 rfl rfl)
theorem dX4_offers_159 : decode cX4_offers 159 = .ok (.bipush 16, 2) := dk_16 16 (dk_at dksX4_offers_6 17 rfl rfl)
theorem dX4_offers_161 : decode cX4_offers 161 = .ok (.aload_n 0, 1) := dk_42 (dk_at dksX4_offers_6 19 rfl rfl)
theorem dX4_offers_162 : decode cX4_offers 162 = .ok (.getfield 7, 3) := dk_180 0 7 (dk_at dksX4_offers_6 20 rfl rfl)
theorem dX4_offers_165 : decode cX4_offers 165 = .ok (.iconst 0, 1) := dk_3 (dk_at dksX4_offers_6 23 rfl rfl)
theorem dX4_offers_166 : decode cX4_offers 166 = .ok (.iaload, 1) := dk_46 (dk_at dksX4_offers_7 0 rfl rfl)
theorem dX4_offers_167 : decode cX4_offers 167 = .ok (.aload_n 0, 1) := dk_42 (dk_at dksX4_offers_7 1 rfl rfl)
theorem dX4_offers_168 : decode cX4_offers 168 = .ok (.iconst 2, 1) := dk_5 (dk_at dksX4_offers_7 2 rfl rfl)
theorem dX4_offers_169 : decode cX4_offers 169 = .ok (.invokevirtual 292, 3) := dk_182 1 36 (dk_at dksX4_offers_7 3 rfl rfl)
theorem dX4_offers_172 : decode cX4_offers 172 = .ok (.iadd, 1) := dk_96 (dk_at dksX4_offers_7 6 rfl rfl)
theorem dX4_offers_173 : decode cX4_offers 173 = .ok (.invokevirtual 346, 3) := dk_182 1 90 (dk_at dksX4_offers_7 7 rfl rfl)
theorem dX4_offers_176 : decode cX4_offers 176 = .ok (.return_, 1) := dk_177 (dk_at dksX4_offers_7 10 rfl rfl)
abbrev cX4_accept : ByteArray := prog_25_method_86_code
def yX4_accept : MethodName := ⟨RX4, "accept", "(I)I"⟩
def dkwX4_accept_3 : List UInt8 := [3, 4, 182, 1, 90, 42, 27, 16, 7, 28, 182, 1, 90, 42, 180, 1, 58, 172]
abbrev dktX4_accept_3 : List UInt8 := dkwX4_accept_3 ++ []
def dkwX4_accept_2 : List UInt8 := [182, 1, 146, 42, 28, 27, 42, 180, 1, 64, 42, 180, 1, 67, 182, 1, 51, 42, 28, 182, 1, 152, 42, 27]
abbrev dktX4_accept_2 : List UInt8 := dkwX4_accept_2 ++ dktX4_accept_3
def dkwX4_accept_1 : List UInt8 := [16, 254, 172, 42, 27, 16, 12, 182, 1, 18, 61, 42, 28, 27, 182, 1, 131, 154, 0, 6, 16, 253, 172, 42]
abbrev dktX4_accept_1 : List UInt8 := dkwX4_accept_1 ++ dktX4_accept_2
def dkwX4_accept_0 : List UInt8 := [42, 3, 181, 0, 93, 42, 27, 182, 1, 124, 153, 0, 5, 3, 172, 42, 27, 3, 182, 1, 18, 153, 0, 6]
abbrev dktX4_accept_0 : List UInt8 := dkwX4_accept_0 ++ dktX4_accept_1
theorem dksX4_accept_0 : cX4_accept.data.toList.drop 0 = dktX4_accept_0 := by decide +kernel
theorem dksX4_accept_1 : cX4_accept.data.toList.drop 24 = dktX4_accept_1 := dk_seg dksX4_accept_0 24 rfl rfl
theorem dksX4_accept_2 : cX4_accept.data.toList.drop 48 = dktX4_accept_2 := dk_seg dksX4_accept_1 24 rfl rfl
theorem dksX4_accept_3 : cX4_accept.data.toList.drop 72 = dktX4_accept_3 := dk_seg dksX4_accept_2 24 rfl rfl
theorem dX4_accept_0 : decode cX4_accept 0 = .ok (.aload_n 0, 1) := dk_42 (dk_at dksX4_accept_0 0 rfl rfl)
theorem dX4_accept_1 : decode cX4_accept 1 = .ok (.iconst 0, 1) := dk_3 (dk_at dksX4_accept_0 1 rfl rfl)
theorem dX4_accept_2 : decode cX4_accept 2 = .ok (.putfield 93, 3) := dk_181 0 93 (dk_at dksX4_accept_0 2 rfl rfl)
theorem dX4_accept_5 : decode cX4_accept 5 = .ok (.aload_n 0, 1) := dk_42 (dk_at dksX4_accept_0 5 rfl rfl)
theorem dX4_accept_6 : decode cX4_accept 6 = .ok (.iload_n 1, 1) := dk_27 (dk_at dksX4_accept_0 6 rfl rfl)
theorem dX4_accept_7 : decode cX4_accept 7 = .ok (.invokevirtual 380, 3) := dk_182 1 124 (dk_at dksX4_accept_0 7 rfl rfl)
theorem dX4_accept_10 : decode cX4_accept 10 = .ok (.ifCond .eq 5, 3) := dk_153 0 5 (dk_at dksX4_accept_0 10 rfl rfl)
theorem dX4_accept_13 : decode cX4_accept 13 = .ok (.iconst 0, 1) := dk_3 (dk_at dksX4_accept_0 13 rfl rfl)
theorem dX4_accept_14 : decode cX4_accept 14 = .ok (.ireturn, 1) := dk_172 (dk_at dksX4_accept_0 14 rfl rfl)
theorem dX4_accept_15 : decode cX4_accept 15 = .ok (.aload_n 0, 1) := dk_42 (dk_at dksX4_accept_0 15 rfl rfl)
theorem dX4_accept_16 : decode cX4_accept 16 = .ok (.iload_n 1, 1) := dk_27 (dk_at dksX4_accept_0 16 rfl rfl)
theorem dX4_accept_17 : decode cX4_accept 17 = .ok (.iconst 0, 1) := dk_3 (dk_at dksX4_accept_0 17 rfl rfl)
theorem dX4_accept_18 : decode cX4_accept 18 = .ok (.invokevirtual 274, 3) := dk_182 1 18 (dk_at dksX4_accept_0 18 rfl rfl)
theorem dX4_accept_21 : decode cX4_accept 21 = .ok (.ifCond .eq 6, 3) := dk_153 0 6 (dk_at dksX4_accept_0 21 rfl rfl)
theorem dX4_accept_24 : decode cX4_accept 24 = .ok (.bipush (-2), 2) := dk_16 254 (dk_at dksX4_accept_1 0 rfl rfl)
theorem dX4_accept_26 : decode cX4_accept 26 = .ok (.ireturn, 1) := dk_172 (dk_at dksX4_accept_1 2 rfl rfl)
theorem dX4_accept_27 : decode cX4_accept 27 = .ok (.aload_n 0, 1) := dk_42 (dk_at dksX4_accept_1 3 rfl rfl)
theorem dX4_accept_28 : decode cX4_accept 28 = .ok (.iload_n 1, 1) := dk_27 (dk_at dksX4_accept_1 4 rfl rfl)
theorem dX4_accept_29 : decode cX4_accept 29 = .ok (.bipush 12, 2) := dk_16 12 (dk_at dksX4_accept_1 5 rfl rfl)
theorem dX4_accept_31 : decode cX4_accept 31 = .ok (.invokevirtual 274, 3) := dk_182 1 18 (dk_at dksX4_accept_1 7 rfl rfl)
theorem dX4_accept_34 : decode cX4_accept 34 = .ok (.istore_n 2, 1) := dk_61 (dk_at dksX4_accept_1 10 rfl rfl)
theorem dX4_accept_35 : decode cX4_accept 35 = .ok (.aload_n 0, 1) := dk_42 (dk_at dksX4_accept_1 11 rfl rfl)
theorem dX4_accept_36 : decode cX4_accept 36 = .ok (.iload_n 2, 1) := dk_28 (dk_at dksX4_accept_1 12 rfl rfl)
theorem dX4_accept_37 : decode cX4_accept 37 = .ok (.iload_n 1, 1) := dk_27 (dk_at dksX4_accept_1 13 rfl rfl)
theorem dX4_accept_38 : decode cX4_accept 38 = .ok (.invokevirtual 387, 3) := dk_182 1 131 (dk_at dksX4_accept_1 14 rfl rfl)
theorem dX4_accept_41 : decode cX4_accept 41 = .ok (.ifCond .ne 6, 3) := dk_154 0 6 (dk_at dksX4_accept_1 17 rfl rfl)
theorem dX4_accept_44 : decode cX4_accept 44 = .ok (.bipush (-3), 2) := dk_16 253 (dk_at dksX4_accept_1 20 rfl rfl)
theorem dX4_accept_46 : decode cX4_accept 46 = .ok (.ireturn, 1) := dk_172 (dk_at dksX4_accept_1 22 rfl rfl)
theorem dX4_accept_47 : decode cX4_accept 47 = .ok (.aload_n 0, 1) := dk_42 (dk_at dksX4_accept_1 23 rfl rfl)
theorem dX4_accept_48 : decode cX4_accept 48 = .ok (.invokevirtual 402, 3) := dk_182 1 146 (dk_at dksX4_accept_2 0 rfl rfl)
theorem dX4_accept_51 : decode cX4_accept 51 = .ok (.aload_n 0, 1) := dk_42 (dk_at dksX4_accept_2 3 rfl rfl)
theorem dX4_accept_52 : decode cX4_accept 52 = .ok (.iload_n 2, 1) := dk_28 (dk_at dksX4_accept_2 4 rfl rfl)
theorem dX4_accept_53 : decode cX4_accept 53 = .ok (.iload_n 1, 1) := dk_27 (dk_at dksX4_accept_2 5 rfl rfl)
theorem dX4_accept_54 : decode cX4_accept 54 = .ok (.aload_n 0, 1) := dk_42 (dk_at dksX4_accept_2 6 rfl rfl)
theorem dX4_accept_55 : decode cX4_accept 55 = .ok (.getfield 320, 3) := dk_180 1 64 (dk_at dksX4_accept_2 7 rfl rfl)
theorem dX4_accept_58 : decode cX4_accept 58 = .ok (.aload_n 0, 1) := dk_42 (dk_at dksX4_accept_2 10 rfl rfl)
theorem dX4_accept_59 : decode cX4_accept 59 = .ok (.getfield 323, 3) := dk_180 1 67 (dk_at dksX4_accept_2 11 rfl rfl)
theorem dX4_accept_62 : decode cX4_accept 62 = .ok (.invokevirtual 307, 3) := dk_182 1 51 (dk_at dksX4_accept_2 14 rfl rfl)
theorem dX4_accept_65 : decode cX4_accept 65 = .ok (.aload_n 0, 1) := dk_42 (dk_at dksX4_accept_2 17 rfl rfl)
theorem dX4_accept_66 : decode cX4_accept 66 = .ok (.iload_n 2, 1) := dk_28 (dk_at dksX4_accept_2 18 rfl rfl)
theorem dX4_accept_67 : decode cX4_accept 67 = .ok (.invokevirtual 408, 3) := dk_182 1 152 (dk_at dksX4_accept_2 19 rfl rfl)
theorem dX4_accept_70 : decode cX4_accept 70 = .ok (.aload_n 0, 1) := dk_42 (dk_at dksX4_accept_2 22 rfl rfl)
theorem dX4_accept_71 : decode cX4_accept 71 = .ok (.iload_n 1, 1) := dk_27 (dk_at dksX4_accept_2 23 rfl rfl)
theorem dX4_accept_72 : decode cX4_accept 72 = .ok (.iconst 0, 1) := dk_3 (dk_at dksX4_accept_3 0 rfl rfl)
theorem dX4_accept_73 : decode cX4_accept 73 = .ok (.iconst 1, 1) := dk_4 (dk_at dksX4_accept_3 1 rfl rfl)
theorem dX4_accept_74 : decode cX4_accept 74 = .ok (.invokevirtual 346, 3) := dk_182 1 90 (dk_at dksX4_accept_3 2 rfl rfl)
theorem dX4_accept_77 : decode cX4_accept 77 = .ok (.aload_n 0, 1) := dk_42 (dk_at dksX4_accept_3 5 rfl rfl)
theorem dX4_accept_78 : decode cX4_accept 78 = .ok (.iload_n 1, 1) := dk_27 (dk_at dksX4_accept_3 6 rfl rfl)
theorem dX4_accept_79 : decode cX4_accept 79 = .ok (.bipush 7, 2) := dk_16 7 (dk_at dksX4_accept_3 7 rfl rfl)
theorem dX4_accept_81 : decode cX4_accept 81 = .ok (.iload_n 2, 1) := dk_28 (dk_at dksX4_accept_3 9 rfl rfl)
theorem dX4_accept_82 : decode cX4_accept 82 = .ok (.invokevirtual 346, 3) := dk_182 1 90 (dk_at dksX4_accept_3 10 rfl rfl)
theorem dX4_accept_85 : decode cX4_accept 85 = .ok (.aload_n 0, 1) := dk_42 (dk_at dksX4_accept_3 13 rfl rfl)
theorem dX4_accept_86 : decode cX4_accept 86 = .ok (.getfield 314, 3) := dk_180 1 58 (dk_at dksX4_accept_3 14 rfl rfl)
theorem dX4_accept_89 : decode cX4_accept 89 = .ok (.ireturn, 1) := dk_172 (dk_at dksX4_accept_3 17 rfl rfl)
abbrev cX4_puts : ByteArray := prog_25_method_51_code
def yX4_puts : MethodName := ⟨RX4, "puts", "(I)V"⟩
def dkwX4_puts_1 : List UInt8 := [182, 1, 70, 132, 2, 1, 167, 255, 230, 42, 27, 16, 11, 42, 180, 1, 15, 182, 1, 70, 177]
abbrev dktX4_puts_1 : List UInt8 := dkwX4_puts_1 ++ []
def dkwX4_puts_0 : List UInt8 := [3, 61, 28, 42, 180, 1, 15, 162, 0, 24, 42, 27, 16, 12, 28, 96, 42, 180, 0, 50, 28, 46]
abbrev dktX4_puts_0 : List UInt8 := dkwX4_puts_0 ++ dktX4_puts_1
theorem dksX4_puts_0 : cX4_puts.data.toList.drop 0 = dktX4_puts_0 := by decide +kernel
theorem dksX4_puts_1 : cX4_puts.data.toList.drop 22 = dktX4_puts_1 := dk_seg dksX4_puts_0 22 rfl rfl
theorem dX4_puts_0 : decode cX4_puts 0 = .ok (.iconst 0, 1) := dk_3 (dk_at dksX4_puts_0 0 rfl rfl)
theorem dX4_puts_1 : decode cX4_puts 1 = .ok (.istore_n 2, 1) := dk_61 (dk_at dksX4_puts_0 1 rfl rfl)
theorem dX4_puts_2 : decode cX4_puts 2 = .ok (.iload_n 2, 1) := dk_28 (dk_at dksX4_puts_0 2 rfl rfl)
theorem dX4_puts_3 : decode cX4_puts 3 = .ok (.aload_n 0, 1) := dk_42 (dk_at dksX4_puts_0 3 rfl rfl)
theorem dX4_puts_4 : decode cX4_puts 4 = .ok (.getfield 271, 3) := dk_180 1 15 (dk_at dksX4_puts_0 4 rfl rfl)
theorem dX4_puts_7 : decode cX4_puts 7 = .ok (.if_icmp .ge 24, 3) := dk_162 0 24 (dk_at dksX4_puts_0 7 rfl rfl)
theorem dX4_puts_10 : decode cX4_puts 10 = .ok (.aload_n 0, 1) := dk_42 (dk_at dksX4_puts_0 10 rfl rfl)
theorem dX4_puts_11 : decode cX4_puts 11 = .ok (.iload_n 1, 1) := dk_27 (dk_at dksX4_puts_0 11 rfl rfl)
theorem dX4_puts_12 : decode cX4_puts 12 = .ok (.bipush 12, 2) := dk_16 12 (dk_at dksX4_puts_0 12 rfl rfl)
theorem dX4_puts_14 : decode cX4_puts 14 = .ok (.iload_n 2, 1) := dk_28 (dk_at dksX4_puts_0 14 rfl rfl)
theorem dX4_puts_15 : decode cX4_puts 15 = .ok (.iadd, 1) := dk_96 (dk_at dksX4_puts_0 15 rfl rfl)
theorem dX4_puts_16 : decode cX4_puts 16 = .ok (.aload_n 0, 1) := dk_42 (dk_at dksX4_puts_0 16 rfl rfl)
theorem dX4_puts_17 : decode cX4_puts 17 = .ok (.getfield 50, 3) := dk_180 0 50 (dk_at dksX4_puts_0 17 rfl rfl)
theorem dX4_puts_20 : decode cX4_puts 20 = .ok (.iload_n 2, 1) := dk_28 (dk_at dksX4_puts_0 20 rfl rfl)
theorem dX4_puts_21 : decode cX4_puts 21 = .ok (.iaload, 1) := dk_46 (dk_at dksX4_puts_0 21 rfl rfl)
theorem dX4_puts_22 : decode cX4_puts 22 = .ok (.invokevirtual 326, 3) := dk_182 1 70 (dk_at dksX4_puts_1 0 rfl rfl)
theorem dX4_puts_25 : decode cX4_puts 25 = .ok (.iinc 2 1, 3) := dk_132 2 1 (dk_at dksX4_puts_1 3 rfl rfl)
theorem dX4_puts_28 : decode cX4_puts 28 = .ok (.goto (-26), 3) := dk_167 255 230 (dk_at dksX4_puts_1 6 rfl rfl)
theorem dX4_puts_31 : decode cX4_puts 31 = .ok (.aload_n 0, 1) := dk_42 (dk_at dksX4_puts_1 9 rfl rfl)
theorem dX4_puts_32 : decode cX4_puts 32 = .ok (.iload_n 1, 1) := dk_27 (dk_at dksX4_puts_1 10 rfl rfl)
theorem dX4_puts_33 : decode cX4_puts 33 = .ok (.bipush 11, 2) := dk_16 11 (dk_at dksX4_puts_1 11 rfl rfl)
theorem dX4_puts_35 : decode cX4_puts 35 = .ok (.aload_n 0, 1) := dk_42 (dk_at dksX4_puts_1 13 rfl rfl)
theorem dX4_puts_36 : decode cX4_puts 36 = .ok (.getfield 271, 3) := dk_180 1 15 (dk_at dksX4_puts_1 14 rfl rfl)
theorem dX4_puts_39 : decode cX4_puts 39 = .ok (.invokevirtual 326, 3) := dk_182 1 70 (dk_at dksX4_puts_1 17 rfl rfl)
theorem dX4_puts_42 : decode cX4_puts 42 = .ok (.return_, 1) := dk_177 (dk_at dksX4_puts_1 20 rfl rfl)
abbrev cX4_lays2 : ByteArray := prog_25_method_13_code
def yX4_lays2 : MethodName := ⟨RX4, "lays2", "(III)V"⟩
def dkwX4_lays2_0 : List UInt8 := [42, 180, 0, 7, 16, 13, 16, 40, 27, 104, 96, 28, 96, 29, 79, 177]
abbrev dktX4_lays2_0 : List UInt8 := dkwX4_lays2_0 ++ []
theorem dksX4_lays2_0 : cX4_lays2.data.toList.drop 0 = dktX4_lays2_0 := by decide +kernel
theorem dX4_lays2_0 : decode cX4_lays2 0 = .ok (.aload_n 0, 1) := dk_42 (dk_at dksX4_lays2_0 0 rfl rfl)
theorem dX4_lays2_1 : decode cX4_lays2 1 = .ok (.getfield 7, 3) := dk_180 0 7 (dk_at dksX4_lays2_0 1 rfl rfl)
theorem dX4_lays2_4 : decode cX4_lays2 4 = .ok (.bipush 13, 2) := dk_16 13 (dk_at dksX4_lays2_0 4 rfl rfl)
theorem dX4_lays2_6 : decode cX4_lays2 6 = .ok (.bipush 40, 2) := dk_16 40 (dk_at dksX4_lays2_0 6 rfl rfl)
theorem dX4_lays2_8 : decode cX4_lays2 8 = .ok (.iload_n 1, 1) := dk_27 (dk_at dksX4_lays2_0 8 rfl rfl)
theorem dX4_lays2_9 : decode cX4_lays2 9 = .ok (.imul, 1) := dk_104 (dk_at dksX4_lays2_0 9 rfl rfl)
theorem dX4_lays2_10 : decode cX4_lays2 10 = .ok (.iadd, 1) := dk_96 (dk_at dksX4_lays2_0 10 rfl rfl)
theorem dX4_lays2_11 : decode cX4_lays2 11 = .ok (.iload_n 2, 1) := dk_28 (dk_at dksX4_lays2_0 11 rfl rfl)
theorem dX4_lays2_12 : decode cX4_lays2 12 = .ok (.iadd, 1) := dk_96 (dk_at dksX4_lays2_0 12 rfl rfl)
theorem dX4_lays2_13 : decode cX4_lays2 13 = .ok (.iload_n 3, 1) := dk_29 (dk_at dksX4_lays2_0 13 rfl rfl)
theorem dX4_lays2_14 : decode cX4_lays2 14 = .ok (.iastore, 1) := dk_79 (dk_at dksX4_lays2_0 14 rfl rfl)
theorem dX4_lays2_15 : decode cX4_lays2 15 = .ok (.return_, 1) := dk_177 (dk_at dksX4_lays2_0 15 rfl rfl)
abbrev cX4_decline : ByteArray := prog_25_method_87_code
def yX4_decline : MethodName := ⟨RX4, "decline", "(I)I"⟩
def dkwX4_decline_1 : List UInt8 := [16, 254, 172, 42, 182, 1, 146, 42, 27, 3, 7, 182, 1, 90, 42, 3, 182, 1, 108, 172]
abbrev dktX4_decline_1 : List UInt8 := dkwX4_decline_1 ++ []
def dkwX4_decline_0 : List UInt8 := [42, 3, 181, 0, 93, 42, 27, 182, 1, 124, 153, 0, 5, 3, 172, 42, 27, 3, 182, 1, 18, 153, 0, 6]
abbrev dktX4_decline_0 : List UInt8 := dkwX4_decline_0 ++ dktX4_decline_1
theorem dksX4_decline_0 : cX4_decline.data.toList.drop 0 = dktX4_decline_0 := by decide +kernel
theorem dksX4_decline_1 : cX4_decline.data.toList.drop 24 = dktX4_decline_1 := dk_seg dksX4_decline_0 24 rfl rfl
theorem dX4_decline_0 : decode cX4_decline 0 = .ok (.aload_n 0, 1) := dk_42 (dk_at dksX4_decline_0 0 rfl rfl)
theorem dX4_decline_1 : decode cX4_decline 1 = .ok (.iconst 0, 1) := dk_3 (dk_at dksX4_decline_0 1 rfl rfl)
theorem dX4_decline_2 : decode cX4_decline 2 = .ok (.putfield 93, 3) := dk_181 0 93 (dk_at dksX4_decline_0 2 rfl rfl)
theorem dX4_decline_5 : decode cX4_decline 5 = .ok (.aload_n 0, 1) := dk_42 (dk_at dksX4_decline_0 5 rfl rfl)
theorem dX4_decline_6 : decode cX4_decline 6 = .ok (.iload_n 1, 1) := dk_27 (dk_at dksX4_decline_0 6 rfl rfl)
theorem dX4_decline_7 : decode cX4_decline 7 = .ok (.invokevirtual 380, 3) := dk_182 1 124 (dk_at dksX4_decline_0 7 rfl rfl)
theorem dX4_decline_10 : decode cX4_decline 10 = .ok (.ifCond .eq 5, 3) := dk_153 0 5 (dk_at dksX4_decline_0 10 rfl rfl)
theorem dX4_decline_13 : decode cX4_decline 13 = .ok (.iconst 0, 1) := dk_3 (dk_at dksX4_decline_0 13 rfl rfl)
theorem dX4_decline_14 : decode cX4_decline 14 = .ok (.ireturn, 1) := dk_172 (dk_at dksX4_decline_0 14 rfl rfl)
theorem dX4_decline_15 : decode cX4_decline 15 = .ok (.aload_n 0, 1) := dk_42 (dk_at dksX4_decline_0 15 rfl rfl)
theorem dX4_decline_16 : decode cX4_decline 16 = .ok (.iload_n 1, 1) := dk_27 (dk_at dksX4_decline_0 16 rfl rfl)
theorem dX4_decline_17 : decode cX4_decline 17 = .ok (.iconst 0, 1) := dk_3 (dk_at dksX4_decline_0 17 rfl rfl)
theorem dX4_decline_18 : decode cX4_decline 18 = .ok (.invokevirtual 274, 3) := dk_182 1 18 (dk_at dksX4_decline_0 18 rfl rfl)
theorem dX4_decline_21 : decode cX4_decline 21 = .ok (.ifCond .eq 6, 3) := dk_153 0 6 (dk_at dksX4_decline_0 21 rfl rfl)
theorem dX4_decline_24 : decode cX4_decline 24 = .ok (.bipush (-2), 2) := dk_16 254 (dk_at dksX4_decline_1 0 rfl rfl)
theorem dX4_decline_26 : decode cX4_decline 26 = .ok (.ireturn, 1) := dk_172 (dk_at dksX4_decline_1 2 rfl rfl)
theorem dX4_decline_27 : decode cX4_decline 27 = .ok (.aload_n 0, 1) := dk_42 (dk_at dksX4_decline_1 3 rfl rfl)
theorem dX4_decline_28 : decode cX4_decline 28 = .ok (.invokevirtual 402, 3) := dk_182 1 146 (dk_at dksX4_decline_1 4 rfl rfl)
theorem dX4_decline_31 : decode cX4_decline 31 = .ok (.aload_n 0, 1) := dk_42 (dk_at dksX4_decline_1 7 rfl rfl)
theorem dX4_decline_32 : decode cX4_decline 32 = .ok (.iload_n 1, 1) := dk_27 (dk_at dksX4_decline_1 8 rfl rfl)
theorem dX4_decline_33 : decode cX4_decline 33 = .ok (.iconst 0, 1) := dk_3 (dk_at dksX4_decline_1 9 rfl rfl)
theorem dX4_decline_34 : decode cX4_decline 34 = .ok (.iconst 4, 1) := dk_7 (dk_at dksX4_decline_1 10 rfl rfl)
theorem dX4_decline_35 : decode cX4_decline 35 = .ok (.invokevirtual 346, 3) := dk_182 1 90 (dk_at dksX4_decline_1 11 rfl rfl)
theorem dX4_decline_38 : decode cX4_decline 38 = .ok (.aload_n 0, 1) := dk_42 (dk_at dksX4_decline_1 14 rfl rfl)
theorem dX4_decline_39 : decode cX4_decline 39 = .ok (.iconst 0, 1) := dk_3 (dk_at dksX4_decline_1 15 rfl rfl)
theorem dX4_decline_40 : decode cX4_decline 40 = .ok (.invokevirtual 364, 3) := dk_182 1 108 (dk_at dksX4_decline_1 16 rfl rfl)
theorem dX4_decline_43 : decode cX4_decline 43 = .ok (.ireturn, 1) := dk_172 (dk_at dksX4_decline_1 19 rfl rfl)
abbrev cX4_cancel : ByteArray := prog_25_method_88_code
def yX4_cancel : MethodName := ⟨RX4, "cancel", "(I)I"⟩
def dkwX4_cancel_4 : List UInt8 := [42, 28, 16, 11, 182, 1, 12, 172]
abbrev dktX4_cancel_4 : List UInt8 := dkwX4_cancel_4 ++ []
def dkwX4_cancel_3 : List UInt8 := [5, 27, 104, 4, 96, 182, 1, 155, 42, 28, 5, 27, 104, 182, 1, 155, 42, 27, 3, 16, 6, 182, 1, 90]
abbrev dktX4_cancel_3 : List UInt8 := dkwX4_cancel_3 ++ dktX4_cancel_4
def dkwX4_cancel_2 : List UInt8 := [42, 28, 16, 12, 182, 1, 12, 5, 27, 104, 4, 96, 160, 0, 6, 16, 253, 172, 42, 182, 1, 146, 42, 28]
abbrev dktX4_cancel_2 : List UInt8 := dkwX4_cancel_2 ++ dktX4_cancel_3
def dkwX4_cancel_1 : List UInt8 := [159, 0, 6, 16, 254, 172, 42, 27, 16, 7, 182, 1, 18, 61, 42, 28, 6, 182, 1, 12, 2, 159, 0, 21]
abbrev dktX4_cancel_1 : List UInt8 := dkwX4_cancel_1 ++ dktX4_cancel_2
def dkwX4_cancel_0 : List UInt8 := [42, 3, 181, 0, 93, 42, 27, 182, 1, 124, 153, 0, 5, 3, 172, 42, 27, 3, 182, 1, 18, 4]
abbrev dktX4_cancel_0 : List UInt8 := dkwX4_cancel_0 ++ dktX4_cancel_1
theorem dksX4_cancel_0 : cX4_cancel.data.toList.drop 0 = dktX4_cancel_0 := by decide +kernel
theorem dksX4_cancel_1 : cX4_cancel.data.toList.drop 22 = dktX4_cancel_1 := dk_seg dksX4_cancel_0 22 rfl rfl
theorem dksX4_cancel_2 : cX4_cancel.data.toList.drop 46 = dktX4_cancel_2 := dk_seg dksX4_cancel_1 24 rfl rfl
theorem dksX4_cancel_3 : cX4_cancel.data.toList.drop 70 = dktX4_cancel_3 := dk_seg dksX4_cancel_2 24 rfl rfl
theorem dksX4_cancel_4 : cX4_cancel.data.toList.drop 94 = dktX4_cancel_4 := dk_seg dksX4_cancel_3 24 rfl rfl
theorem dX4_cancel_0 : decode cX4_cancel 0 = .ok (.aload_n 0, 1) := dk_42 (dk_at dksX4_cancel_0 0 rfl rfl)
theorem dX4_cancel_1 : decode cX4_cancel 1 = .ok (.iconst 0, 1) := dk_3 (dk_at dksX4_cancel_0 1 rfl rfl)
theorem dX4_cancel_2 : decode cX4_cancel 2 = .ok (.putfield 93, 3) := dk_181 0 93 (dk_at dksX4_cancel_0 2 rfl rfl)
theorem dX4_cancel_5 : decode cX4_cancel 5 = .ok (.aload_n 0, 1) := dk_42 (dk_at dksX4_cancel_0 5 rfl rfl)
theorem dX4_cancel_6 : decode cX4_cancel 6 = .ok (.iload_n 1, 1) := dk_27 (dk_at dksX4_cancel_0 6 rfl rfl)
theorem dX4_cancel_7 : decode cX4_cancel 7 = .ok (.invokevirtual 380, 3) := dk_182 1 124 (dk_at dksX4_cancel_0 7 rfl rfl)
theorem dX4_cancel_10 : decode cX4_cancel 10 = .ok (.ifCond .eq 5, 3) := dk_153 0 5 (dk_at dksX4_cancel_0 10 rfl rfl)
theorem dX4_cancel_13 : decode cX4_cancel 13 = .ok (.iconst 0, 1) := dk_3 (dk_at dksX4_cancel_0 13 rfl rfl)
theorem dX4_cancel_14 : decode cX4_cancel 14 = .ok (.ireturn, 1) := dk_172 (dk_at dksX4_cancel_0 14 rfl rfl)
theorem dX4_cancel_15 : decode cX4_cancel 15 = .ok (.aload_n 0, 1) := dk_42 (dk_at dksX4_cancel_0 15 rfl rfl)
theorem dX4_cancel_16 : decode cX4_cancel 16 = .ok (.iload_n 1, 1) := dk_27 (dk_at dksX4_cancel_0 16 rfl rfl)
theorem dX4_cancel_17 : decode cX4_cancel 17 = .ok (.iconst 0, 1) := dk_3 (dk_at dksX4_cancel_0 17 rfl rfl)
theorem dX4_cancel_18 : decode cX4_cancel 18 = .ok (.invokevirtual 274, 3) := dk_182 1 18 (dk_at dksX4_cancel_0 18 rfl rfl)
theorem dX4_cancel_21 : decode cX4_cancel 21 = .ok (.iconst 1, 1) := dk_4 (dk_at dksX4_cancel_0 21 rfl rfl)
theorem dX4_cancel_22 : decode cX4_cancel 22 = .ok (.if_icmp .eq 6, 3) := dk_159 0 6 (dk_at dksX4_cancel_1 0 rfl rfl)
theorem dX4_cancel_25 : decode cX4_cancel 25 = .ok (.bipush (-2), 2) := dk_16 254 (dk_at dksX4_cancel_1 3 rfl rfl)
theorem dX4_cancel_27 : decode cX4_cancel 27 = .ok (.ireturn, 1) := dk_172 (dk_at dksX4_cancel_1 5 rfl rfl)
theorem dX4_cancel_28 : decode cX4_cancel 28 = .ok (.aload_n 0, 1) := dk_42 (dk_at dksX4_cancel_1 6 rfl rfl)
theorem dX4_cancel_29 : decode cX4_cancel 29 = .ok (.iload_n 1, 1) := dk_27 (dk_at dksX4_cancel_1 7 rfl rfl)
theorem dX4_cancel_30 : decode cX4_cancel 30 = .ok (.bipush 7, 2) := dk_16 7 (dk_at dksX4_cancel_1 8 rfl rfl)
theorem dX4_cancel_32 : decode cX4_cancel 32 = .ok (.invokevirtual 274, 3) := dk_182 1 18 (dk_at dksX4_cancel_1 10 rfl rfl)
theorem dX4_cancel_35 : decode cX4_cancel 35 = .ok (.istore_n 2, 1) := dk_61 (dk_at dksX4_cancel_1 13 rfl rfl)
theorem dX4_cancel_36 : decode cX4_cancel 36 = .ok (.aload_n 0, 1) := dk_42 (dk_at dksX4_cancel_1 14 rfl rfl)
theorem dX4_cancel_37 : decode cX4_cancel 37 = .ok (.iload_n 2, 1) := dk_28 (dk_at dksX4_cancel_1 15 rfl rfl)
theorem dX4_cancel_38 : decode cX4_cancel 38 = .ok (.iconst 3, 1) := dk_6 (dk_at dksX4_cancel_1 16 rfl rfl)
theorem dX4_cancel_39 : decode cX4_cancel 39 = .ok (.invokevirtual 268, 3) := dk_182 1 12 (dk_at dksX4_cancel_1 17 rfl rfl)
theorem dX4_cancel_42 : decode cX4_cancel 42 = .ok (.iconst (-1), 1) := dk_2 (dk_at dksX4_cancel_1 20 rfl rfl)
theorem dX4_cancel_43 : decode cX4_cancel 43 = .ok (.if_icmp .eq 21, 3) := dk_159 0 21 (dk_at dksX4_cancel_1 21 rfl rfl)
theorem dX4_cancel_46 : decode cX4_cancel 46 = .ok (.aload_n 0, 1) := dk_42 (dk_at dksX4_cancel_2 0 rfl rfl)
theorem dX4_cancel_47 : decode cX4_cancel 47 = .ok (.iload_n 2, 1) := dk_28 (dk_at dksX4_cancel_2 1 rfl rfl)
theorem dX4_cancel_48 : decode cX4_cancel 48 = .ok (.bipush 12, 2) := dk_16 12 (dk_at dksX4_cancel_2 2 rfl rfl)
theorem dX4_cancel_50 : decode cX4_cancel 50 = .ok (.invokevirtual 268, 3) := dk_182 1 12 (dk_at dksX4_cancel_2 4 rfl rfl)
theorem dX4_cancel_53 : decode cX4_cancel 53 = .ok (.iconst 2, 1) := dk_5 (dk_at dksX4_cancel_2 7 rfl rfl)
theorem dX4_cancel_54 : decode cX4_cancel 54 = .ok (.iload_n 1, 1) := dk_27 (dk_at dksX4_cancel_2 8 rfl rfl)
theorem dX4_cancel_55 : decode cX4_cancel 55 = .ok (.imul, 1) := dk_104 (dk_at dksX4_cancel_2 9 rfl rfl)
theorem dX4_cancel_56 : decode cX4_cancel 56 = .ok (.iconst 1, 1) := dk_4 (dk_at dksX4_cancel_2 10 rfl rfl)
theorem dX4_cancel_57 : decode cX4_cancel 57 = .ok (.iadd, 1) := dk_96 (dk_at dksX4_cancel_2 11 rfl rfl)
theorem dX4_cancel_58 : decode cX4_cancel 58 = .ok (.if_icmp .ne 6, 3) := dk_160 0 6 (dk_at dksX4_cancel_2 12 rfl rfl)
theorem dX4_cancel_61 : decode cX4_cancel 61 = .ok (.bipush (-3), 2) := dk_16 253 (dk_at dksX4_cancel_2 15 rfl rfl)
theorem dX4_cancel_63 : decode cX4_cancel 63 = .ok (.ireturn, 1) := dk_172 (dk_at dksX4_cancel_2 17 rfl rfl)
theorem dX4_cancel_64 : decode cX4_cancel 64 = .ok (.aload_n 0, 1) := dk_42 (dk_at dksX4_cancel_2 18 rfl rfl)
theorem dX4_cancel_65 : decode cX4_cancel 65 = .ok (.invokevirtual 402, 3) := dk_182 1 146 (dk_at dksX4_cancel_2 19 rfl rfl)
theorem dX4_cancel_68 : decode cX4_cancel 68 = .ok (.aload_n 0, 1) := dk_42 (dk_at dksX4_cancel_2 22 rfl rfl)
theorem dX4_cancel_69 : decode cX4_cancel 69 = .ok (.iload_n 2, 1) := dk_28 (dk_at dksX4_cancel_2 23 rfl rfl)
theorem dX4_cancel_70 : decode cX4_cancel 70 = .ok (.iconst 2, 1) := dk_5 (dk_at dksX4_cancel_3 0 rfl rfl)
theorem dX4_cancel_71 : decode cX4_cancel 71 = .ok (.iload_n 1, 1) := dk_27 (dk_at dksX4_cancel_3 1 rfl rfl)
theorem dX4_cancel_72 : decode cX4_cancel 72 = .ok (.imul, 1) := dk_104 (dk_at dksX4_cancel_3 2 rfl rfl)
theorem dX4_cancel_73 : decode cX4_cancel 73 = .ok (.iconst 1, 1) := dk_4 (dk_at dksX4_cancel_3 3 rfl rfl)
theorem dX4_cancel_74 : decode cX4_cancel 74 = .ok (.iadd, 1) := dk_96 (dk_at dksX4_cancel_3 4 rfl rfl)
theorem dX4_cancel_75 : decode cX4_cancel 75 = .ok (.invokevirtual 411, 3) := dk_182 1 155 (dk_at dksX4_cancel_3 5 rfl rfl)
theorem dX4_cancel_78 : decode cX4_cancel 78 = .ok (.aload_n 0, 1) := dk_42 (dk_at dksX4_cancel_3 8 rfl rfl)
theorem dX4_cancel_79 : decode cX4_cancel 79 = .ok (.iload_n 2, 1) := dk_28 (dk_at dksX4_cancel_3 9 rfl rfl)
theorem dX4_cancel_80 : decode cX4_cancel 80 = .ok (.iconst 2, 1) := dk_5 (dk_at dksX4_cancel_3 10 rfl rfl)
theorem dX4_cancel_81 : decode cX4_cancel 81 = .ok (.iload_n 1, 1) := dk_27 (dk_at dksX4_cancel_3 11 rfl rfl)
theorem dX4_cancel_82 : decode cX4_cancel 82 = .ok (.imul, 1) := dk_104 (dk_at dksX4_cancel_3 12 rfl rfl)
theorem dX4_cancel_83 : decode cX4_cancel 83 = .ok (.invokevirtual 411, 3) := dk_182 1 155 (dk_at dksX4_cancel_3 13 rfl rfl)
theorem dX4_cancel_86 : decode cX4_cancel 86 = .ok (.aload_n 0, 1) := dk_42 (dk_at dksX4_cancel_3 16 rfl rfl)
theorem dX4_cancel_87 : decode cX4_cancel 87 = .ok (.iload_n 1, 1) := dk_27 (dk_at dksX4_cancel_3 17 rfl rfl)
theorem dX4_cancel_88 : decode cX4_cancel 88 = .ok (.iconst 0, 1) := dk_3 (dk_at dksX4_cancel_3 18 rfl rfl)
theorem dX4_cancel_89 : decode cX4_cancel 89 = .ok (.bipush 6, 2) := dk_16 6 (dk_at dksX4_cancel_3 19 rfl rfl)
theorem dX4_cancel_91 : decode cX4_cancel 91 = .ok (.invokevirtual 346, 3) := dk_182 1 90 (dk_at dksX4_cancel_3 21 rfl rfl)
theorem dX4_cancel_94 : decode cX4_cancel 94 = .ok (.aload_n 0, 1) := dk_42 (dk_at dksX4_cancel_4 0 rfl rfl)
theorem dX4_cancel_95 : decode cX4_cancel 95 = .ok (.iload_n 2, 1) := dk_28 (dk_at dksX4_cancel_4 1 rfl rfl)
theorem dX4_cancel_96 : decode cX4_cancel 96 = .ok (.bipush 11, 2) := dk_16 11 (dk_at dksX4_cancel_4 2 rfl rfl)
theorem dX4_cancel_98 : decode cX4_cancel 98 = .ok (.invokevirtual 268, 3) := dk_182 1 12 (dk_at dksX4_cancel_4 4 rfl rfl)
theorem dX4_cancel_101 : decode cX4_cancel 101 = .ok (.ireturn, 1) := dk_172 (dk_at dksX4_cancel_4 7 rfl rfl)
abbrev cX4_drops : ByteArray := prog_25_method_52_code
def yX4_drops : MethodName := ⟨RX4, "drops", "(II)V"⟩
def dkwX4_drops_2 : List UInt8 := [182, 1, 70, 132, 3, 1, 132, 4, 1, 167, 255, 206, 42, 27, 16, 11, 29, 182, 1, 70, 177]
abbrev dktX4_drops_2 : List UInt8 := dkwX4_drops_2 ++ []
def dkwX4_drops_1 : List UInt8 := [182, 1, 12, 54, 5, 21, 5, 28, 160, 0, 6, 167, 0, 17, 42, 27, 16, 12, 29, 96, 21, 5]
abbrev dktX4_drops_1 : List UInt8 := dkwX4_drops_1 ++ dktX4_drops_2
def dkwX4_drops_0 : List UInt8 := [3, 62, 3, 54, 4, 21, 4, 42, 27, 16, 11, 182, 1, 12, 162, 0, 44, 42, 27, 16, 12, 21, 4, 96]
abbrev dktX4_drops_0 : List UInt8 := dkwX4_drops_0 ++ dktX4_drops_1
theorem dksX4_drops_0 : cX4_drops.data.toList.drop 0 = dktX4_drops_0 := by decide +kernel
theorem dksX4_drops_1 : cX4_drops.data.toList.drop 24 = dktX4_drops_1 := dk_seg dksX4_drops_0 24 rfl rfl
theorem dksX4_drops_2 : cX4_drops.data.toList.drop 46 = dktX4_drops_2 := dk_seg dksX4_drops_1 22 rfl rfl
theorem dX4_drops_0 : decode cX4_drops 0 = .ok (.iconst 0, 1) := dk_3 (dk_at dksX4_drops_0 0 rfl rfl)
theorem dX4_drops_1 : decode cX4_drops 1 = .ok (.istore_n 3, 1) := dk_62 (dk_at dksX4_drops_0 1 rfl rfl)
theorem dX4_drops_2 : decode cX4_drops 2 = .ok (.iconst 0, 1) := dk_3 (dk_at dksX4_drops_0 2 rfl rfl)
theorem dX4_drops_3 : decode cX4_drops 3 = .ok (.istore 4, 2) := dk_54 4 (dk_at dksX4_drops_0 3 rfl rfl)
theorem dX4_drops_5 : decode cX4_drops 5 = .ok (.iload 4, 2) := dk_21 4 (dk_at dksX4_drops_0 5 rfl rfl)
theorem dX4_drops_7 : decode cX4_drops 7 = .ok (.aload_n 0, 1) := dk_42 (dk_at dksX4_drops_0 7 rfl rfl)
theorem dX4_drops_8 : decode cX4_drops 8 = .ok (.iload_n 1, 1) := dk_27 (dk_at dksX4_drops_0 8 rfl rfl)
theorem dX4_drops_9 : decode cX4_drops 9 = .ok (.bipush 11, 2) := dk_16 11 (dk_at dksX4_drops_0 9 rfl rfl)
theorem dX4_drops_11 : decode cX4_drops 11 = .ok (.invokevirtual 268, 3) := dk_182 1 12 (dk_at dksX4_drops_0 11 rfl rfl)
theorem dX4_drops_14 : decode cX4_drops 14 = .ok (.if_icmp .ge 44, 3) := dk_162 0 44 (dk_at dksX4_drops_0 14 rfl rfl)
theorem dX4_drops_17 : decode cX4_drops 17 = .ok (.aload_n 0, 1) := dk_42 (dk_at dksX4_drops_0 17 rfl rfl)
theorem dX4_drops_18 : decode cX4_drops 18 = .ok (.iload_n 1, 1) := dk_27 (dk_at dksX4_drops_0 18 rfl rfl)
theorem dX4_drops_19 : decode cX4_drops 19 = .ok (.bipush 12, 2) := dk_16 12 (dk_at dksX4_drops_0 19 rfl rfl)
theorem dX4_drops_21 : decode cX4_drops 21 = .ok (.iload 4, 2) := dk_21 4 (dk_at dksX4_drops_0 21 rfl rfl)
theorem dX4_drops_23 : decode cX4_drops 23 = .ok (.iadd, 1) := dk_96 (dk_at dksX4_drops_0 23 rfl rfl)
theorem dX4_drops_24 : decode cX4_drops 24 = .ok (.invokevirtual 268, 3) := dk_182 1 12 (dk_at dksX4_drops_1 0 rfl rfl)
theorem dX4_drops_27 : decode cX4_drops 27 = .ok (.istore 5, 2) := dk_54 5 (dk_at dksX4_drops_1 3 rfl rfl)
theorem dX4_drops_29 : decode cX4_drops 29 = .ok (.iload 5, 2) := dk_21 5 (dk_at dksX4_drops_1 5 rfl rfl)
theorem dX4_drops_31 : decode cX4_drops 31 = .ok (.iload_n 2, 1) := dk_28 (dk_at dksX4_drops_1 7 rfl rfl)
theorem dX4_drops_32 : decode cX4_drops 32 = .ok (.if_icmp .ne 6, 3) := dk_160 0 6 (dk_at dksX4_drops_1 8 rfl rfl)
theorem dX4_drops_35 : decode cX4_drops 35 = .ok (.goto 17, 3) := dk_167 0 17 (dk_at dksX4_drops_1 11 rfl rfl)
theorem dX4_drops_38 : decode cX4_drops 38 = .ok (.aload_n 0, 1) := dk_42 (dk_at dksX4_drops_1 14 rfl rfl)
theorem dX4_drops_39 : decode cX4_drops 39 = .ok (.iload_n 1, 1) := dk_27 (dk_at dksX4_drops_1 15 rfl rfl)
theorem dX4_drops_40 : decode cX4_drops 40 = .ok (.bipush 12, 2) := dk_16 12 (dk_at dksX4_drops_1 16 rfl rfl)
theorem dX4_drops_42 : decode cX4_drops 42 = .ok (.iload_n 3, 1) := dk_29 (dk_at dksX4_drops_1 18 rfl rfl)
theorem dX4_drops_43 : decode cX4_drops 43 = .ok (.iadd, 1) := dk_96 (dk_at dksX4_drops_1 19 rfl rfl)
theorem dX4_drops_44 : decode cX4_drops 44 = .ok (.iload 5, 2) := dk_21 5 (dk_at dksX4_drops_1 20 rfl rfl)
theorem dX4_drops_46 : decode cX4_drops 46 = .ok (.invokevirtual 326, 3) := dk_182 1 70 (dk_at dksX4_drops_2 0 rfl rfl)
theorem dX4_drops_49 : decode cX4_drops 49 = .ok (.iinc 3 1, 3) := dk_132 3 1 (dk_at dksX4_drops_2 3 rfl rfl)
theorem dX4_drops_52 : decode cX4_drops 52 = .ok (.iinc 4 1, 3) := dk_132 4 1 (dk_at dksX4_drops_2 6 rfl rfl)
theorem dX4_drops_55 : decode cX4_drops 55 = .ok (.goto (-50), 3) := dk_167 255 206 (dk_at dksX4_drops_2 9 rfl rfl)
theorem dX4_drops_58 : decode cX4_drops 58 = .ok (.aload_n 0, 1) := dk_42 (dk_at dksX4_drops_2 12 rfl rfl)
theorem dX4_drops_59 : decode cX4_drops 59 = .ok (.iload_n 1, 1) := dk_27 (dk_at dksX4_drops_2 13 rfl rfl)
theorem dX4_drops_60 : decode cX4_drops 60 = .ok (.bipush 11, 2) := dk_16 11 (dk_at dksX4_drops_2 14 rfl rfl)
theorem dX4_drops_62 : decode cX4_drops 62 = .ok (.iload_n 3, 1) := dk_29 (dk_at dksX4_drops_2 16 rfl rfl)
theorem dX4_drops_63 : decode cX4_drops 63 = .ok (.invokevirtual 326, 3) := dk_182 1 70 (dk_at dksX4_drops_2 17 rfl rfl)
theorem dX4_drops_66 : decode cX4_drops 66 = .ok (.return_, 1) := dk_177 (dk_at dksX4_drops_2 20 rfl rfl)
abbrev cX4_absent : ByteArray := prog_25_method_89_code
def yX4_absent : MethodName := ⟨RX4, "absent", "(I)I"⟩
def dkwX4_absent_3 : List UInt8 := [182, 1, 18, 16, 11, 182, 1, 12, 172]
abbrev dktX4_absent_3 : List UInt8 := dkwX4_absent_3 ++ []
def dkwX4_absent_2 : List UInt8 := [16, 7, 182, 1, 18, 5, 27, 104, 182, 1, 155, 42, 27, 16, 11, 4, 182, 1, 90, 42, 42, 27, 16, 7]
abbrev dktX4_absent_2 : List UInt8 := dkwX4_absent_2 ++ dktX4_absent_3
def dkwX4_absent_1 : List UInt8 := [160, 0, 14, 42, 27, 16, 11, 182, 1, 18, 4, 160, 0, 6, 16, 254, 172, 42, 182, 1, 146, 42, 42, 27]
abbrev dktX4_absent_1 : List UInt8 := dkwX4_absent_1 ++ dktX4_absent_2
def dkwX4_absent_0 : List UInt8 := [42, 3, 181, 0, 93, 42, 27, 182, 1, 124, 153, 0, 5, 3, 172, 42, 27, 3, 182, 1, 18, 4]
abbrev dktX4_absent_0 : List UInt8 := dkwX4_absent_0 ++ dktX4_absent_1
theorem dksX4_absent_0 : cX4_absent.data.toList.drop 0 = dktX4_absent_0 := by decide +kernel
theorem dksX4_absent_1 : cX4_absent.data.toList.drop 22 = dktX4_absent_1 := dk_seg dksX4_absent_0 22 rfl rfl
theorem dksX4_absent_2 : cX4_absent.data.toList.drop 46 = dktX4_absent_2 := dk_seg dksX4_absent_1 24 rfl rfl
theorem dksX4_absent_3 : cX4_absent.data.toList.drop 70 = dktX4_absent_3 := dk_seg dksX4_absent_2 24 rfl rfl
theorem dX4_absent_0 : decode cX4_absent 0 = .ok (.aload_n 0, 1) := dk_42 (dk_at dksX4_absent_0 0 rfl rfl)
theorem dX4_absent_1 : decode cX4_absent 1 = .ok (.iconst 0, 1) := dk_3 (dk_at dksX4_absent_0 1 rfl rfl)
theorem dX4_absent_2 : decode cX4_absent 2 = .ok (.putfield 93, 3) := dk_181 0 93 (dk_at dksX4_absent_0 2 rfl rfl)
theorem dX4_absent_5 : decode cX4_absent 5 = .ok (.aload_n 0, 1) := dk_42 (dk_at dksX4_absent_0 5 rfl rfl)
theorem dX4_absent_6 : decode cX4_absent 6 = .ok (.iload_n 1, 1) := dk_27 (dk_at dksX4_absent_0 6 rfl rfl)
theorem dX4_absent_7 : decode cX4_absent 7 = .ok (.invokevirtual 380, 3) := dk_182 1 124 (dk_at dksX4_absent_0 7 rfl rfl)
theorem dX4_absent_10 : decode cX4_absent 10 = .ok (.ifCond .eq 5, 3) := dk_153 0 5 (dk_at dksX4_absent_0 10 rfl rfl)
theorem dX4_absent_13 : decode cX4_absent 13 = .ok (.iconst 0, 1) := dk_3 (dk_at dksX4_absent_0 13 rfl rfl)
theorem dX4_absent_14 : decode cX4_absent 14 = .ok (.ireturn, 1) := dk_172 (dk_at dksX4_absent_0 14 rfl rfl)
theorem dX4_absent_15 : decode cX4_absent 15 = .ok (.aload_n 0, 1) := dk_42 (dk_at dksX4_absent_0 15 rfl rfl)
theorem dX4_absent_16 : decode cX4_absent 16 = .ok (.iload_n 1, 1) := dk_27 (dk_at dksX4_absent_0 16 rfl rfl)
theorem dX4_absent_17 : decode cX4_absent 17 = .ok (.iconst 0, 1) := dk_3 (dk_at dksX4_absent_0 17 rfl rfl)
theorem dX4_absent_18 : decode cX4_absent 18 = .ok (.invokevirtual 274, 3) := dk_182 1 18 (dk_at dksX4_absent_0 18 rfl rfl)
theorem dX4_absent_21 : decode cX4_absent 21 = .ok (.iconst 1, 1) := dk_4 (dk_at dksX4_absent_0 21 rfl rfl)
theorem dX4_absent_22 : decode cX4_absent 22 = .ok (.if_icmp .ne 14, 3) := dk_160 0 14 (dk_at dksX4_absent_1 0 rfl rfl)
theorem dX4_absent_25 : decode cX4_absent 25 = .ok (.aload_n 0, 1) := dk_42 (dk_at dksX4_absent_1 3 rfl rfl)
theorem dX4_absent_26 : decode cX4_absent 26 = .ok (.iload_n 1, 1) := dk_27 (dk_at dksX4_absent_1 4 rfl rfl)
theorem dX4_absent_27 : decode cX4_absent 27 = .ok (.bipush 11, 2) := dk_16 11 (dk_at dksX4_absent_1 5 rfl rfl)
theorem dX4_absent_29 : decode cX4_absent 29 = .ok (.invokevirtual 274, 3) := dk_182 1 18 (dk_at dksX4_absent_1 7 rfl rfl)
theorem dX4_absent_32 : decode cX4_absent 32 = .ok (.iconst 1, 1) := dk_4 (dk_at dksX4_absent_1 10 rfl rfl)
theorem dX4_absent_33 : decode cX4_absent 33 = .ok (.if_icmp .ne 6, 3) := dk_160 0 6 (dk_at dksX4_absent_1 11 rfl rfl)
theorem dX4_absent_36 : decode cX4_absent 36 = .ok (.bipush (-2), 2) := dk_16 254 (dk_at dksX4_absent_1 14 rfl rfl)
theorem dX4_absent_38 : decode cX4_absent 38 = .ok (.ireturn, 1) := dk_172 (dk_at dksX4_absent_1 16 rfl rfl)
theorem dX4_absent_39 : decode cX4_absent 39 = .ok (.aload_n 0, 1) := dk_42 (dk_at dksX4_absent_1 17 rfl rfl)
theorem dX4_absent_40 : decode cX4_absent 40 = .ok (.invokevirtual 402, 3) := dk_182 1 146 (dk_at dksX4_absent_1 18 rfl rfl)
theorem dX4_absent_43 : decode cX4_absent 43 = .ok (.aload_n 0, 1) := dk_42 (dk_at dksX4_absent_1 21 rfl rfl)
theorem dX4_absent_44 : decode cX4_absent 44 = .ok (.aload_n 0, 1) := dk_42 (dk_at dksX4_absent_1 22 rfl rfl)
theorem dX4_absent_45 : decode cX4_absent 45 = .ok (.iload_n 1, 1) := dk_27 (dk_at dksX4_absent_1 23 rfl rfl)
theorem dX4_absent_46 : decode cX4_absent 46 = .ok (.bipush 7, 2) := dk_16 7 (dk_at dksX4_absent_2 0 rfl rfl)
theorem dX4_absent_48 : decode cX4_absent 48 = .ok (.invokevirtual 274, 3) := dk_182 1 18 (dk_at dksX4_absent_2 2 rfl rfl)
theorem dX4_absent_51 : decode cX4_absent 51 = .ok (.iconst 2, 1) := dk_5 (dk_at dksX4_absent_2 5 rfl rfl)
theorem dX4_absent_52 : decode cX4_absent 52 = .ok (.iload_n 1, 1) := dk_27 (dk_at dksX4_absent_2 6 rfl rfl)
theorem dX4_absent_53 : decode cX4_absent 53 = .ok (.imul, 1) := dk_104 (dk_at dksX4_absent_2 7 rfl rfl)
theorem dX4_absent_54 : decode cX4_absent 54 = .ok (.invokevirtual 411, 3) := dk_182 1 155 (dk_at dksX4_absent_2 8 rfl rfl)
theorem dX4_absent_57 : decode cX4_absent 57 = .ok (.aload_n 0, 1) := dk_42 (dk_at dksX4_absent_2 11 rfl rfl)
theorem dX4_absent_58 : decode cX4_absent 58 = .ok (.iload_n 1, 1) := dk_27 (dk_at dksX4_absent_2 12 rfl rfl)
theorem dX4_absent_59 : decode cX4_absent 59 = .ok (.bipush 11, 2) := dk_16 11 (dk_at dksX4_absent_2 13 rfl rfl)
theorem dX4_absent_61 : decode cX4_absent 61 = .ok (.iconst 1, 1) := dk_4 (dk_at dksX4_absent_2 15 rfl rfl)
theorem dX4_absent_62 : decode cX4_absent 62 = .ok (.invokevirtual 346, 3) := dk_182 1 90 (dk_at dksX4_absent_2 16 rfl rfl)
theorem dX4_absent_65 : decode cX4_absent 65 = .ok (.aload_n 0, 1) := dk_42 (dk_at dksX4_absent_2 19 rfl rfl)
theorem dX4_absent_66 : decode cX4_absent 66 = .ok (.aload_n 0, 1) := dk_42 (dk_at dksX4_absent_2 20 rfl rfl)
theorem dX4_absent_67 : decode cX4_absent 67 = .ok (.iload_n 1, 1) := dk_27 (dk_at dksX4_absent_2 21 rfl rfl)
theorem dX4_absent_68 : decode cX4_absent 68 = .ok (.bipush 7, 2) := dk_16 7 (dk_at dksX4_absent_2 22 rfl rfl)
theorem dX4_absent_70 : decode cX4_absent 70 = .ok (.invokevirtual 274, 3) := dk_182 1 18 (dk_at dksX4_absent_3 0 rfl rfl)
theorem dX4_absent_73 : decode cX4_absent 73 = .ok (.bipush 11, 2) := dk_16 11 (dk_at dksX4_absent_3 3 rfl rfl)
theorem dX4_absent_75 : decode cX4_absent 75 = .ok (.invokevirtual 268, 3) := dk_182 1 12 (dk_at dksX4_absent_3 5 rfl rfl)
theorem dX4_absent_78 : decode cX4_absent 78 = .ok (.ireturn, 1) := dk_172 (dk_at dksX4_absent_3 8 rfl rfl)
abbrev cX4_advance : ByteArray := prog_25_method_90_code
def yX4_advance : MethodName := ⟨RX4, "advance", "(I)I"⟩
def dkwX4_advance_5 : List UInt8 := [164, 0, 11, 42, 21, 4, 3, 7, 182, 1, 90, 132, 4, 1, 167, 255, 212, 29, 172]
abbrev dktX4_advance_5 : List UInt8 := dkwX4_advance_5 ++ []
def dkwX4_advance_4 : List UInt8 := [162, 0, 39, 42, 21, 4, 3, 182, 1, 18, 154, 0, 23, 28, 42, 21, 4, 16, 16, 182, 1, 18]
abbrev dktX4_advance_4 : List UInt8 := dkwX4_advance_4 ++ dktX4_advance_5
def dkwX4_advance_3 : List UInt8 := [132, 4, 1, 167, 255, 234, 42, 180, 0, 7, 3, 28, 79, 3, 54, 4, 21, 4, 42, 180, 0, 7, 4, 46]
abbrev dktX4_advance_3 : List UInt8 := dkwX4_advance_3 ++ dktX4_advance_4
def dkwX4_advance_2 : List UInt8 := [62, 3, 54, 4, 21, 4, 42, 180, 0, 114, 162, 0, 19, 29, 42, 21, 4, 28, 182, 1, 160, 96, 62]
abbrev dktX4_advance_2 : List UInt8 := dkwX4_advance_2 ++ dktX4_advance_3
def dkwX4_advance_1 : List UInt8 := [42, 180, 0, 7, 3, 46, 27, 96, 61, 28, 17, 39, 15, 164, 0, 6, 16, 254, 172, 42, 182, 1, 146, 3]
abbrev dktX4_advance_1 : List UInt8 := dkwX4_advance_1 ++ dktX4_advance_2
def dkwX4_advance_0 : List UInt8 := [42, 3, 181, 0, 93, 42, 27, 133, 10, 20, 1, 158, 184, 0, 197, 4, 182, 1, 0, 153, 0, 5, 3, 172]
abbrev dktX4_advance_0 : List UInt8 := dkwX4_advance_0 ++ dktX4_advance_1
theorem dksX4_advance_0 : cX4_advance.data.toList.drop 0 = dktX4_advance_0 := by decide +kernel
theorem dksX4_advance_1 : cX4_advance.data.toList.drop 24 = dktX4_advance_1 := dk_seg dksX4_advance_0 24 rfl rfl
theorem dksX4_advance_2 : cX4_advance.data.toList.drop 48 = dktX4_advance_2 := dk_seg dksX4_advance_1 24 rfl rfl
theorem dksX4_advance_3 : cX4_advance.data.toList.drop 71 = dktX4_advance_3 := dk_seg dksX4_advance_2 23 rfl rfl
theorem dksX4_advance_4 : cX4_advance.data.toList.drop 95 = dktX4_advance_4 := dk_seg dksX4_advance_3 24 rfl rfl
theorem dksX4_advance_5 : cX4_advance.data.toList.drop 117 = dktX4_advance_5 := dk_seg dksX4_advance_4 22 rfl rfl
theorem dX4_advance_0 : decode cX4_advance 0 = .ok (.aload_n 0, 1) := dk_42 (dk_at dksX4_advance_0 0 rfl rfl)
theorem dX4_advance_1 : decode cX4_advance 1 = .ok (.iconst 0, 1) := dk_3 (dk_at dksX4_advance_0 1 rfl rfl)
theorem dX4_advance_2 : decode cX4_advance 2 = .ok (.putfield 93, 3) := dk_181 0 93 (dk_at dksX4_advance_0 2 rfl rfl)
theorem dX4_advance_5 : decode cX4_advance 5 = .ok (.aload_n 0, 1) := dk_42 (dk_at dksX4_advance_0 5 rfl rfl)
theorem dX4_advance_6 : decode cX4_advance 6 = .ok (.iload_n 1, 1) := dk_27 (dk_at dksX4_advance_0 6 rfl rfl)
theorem dX4_advance_7 : decode cX4_advance 7 = .ok (.i2l, 1) := dk_133 (dk_at dksX4_advance_0 7 rfl rfl)
theorem dX4_advance_8 : decode cX4_advance 8 = .ok (.lconst 1, 1) := dk_10 (dk_at dksX4_advance_0 8 rfl rfl)
theorem dX4_advance_9 : decode cX4_advance 9 = .ok (.ldc2_w 414, 3) := dk_20 1 158 (dk_at dksX4_advance_0 9 rfl rfl)
theorem dX4_advance_12 : decode cX4_advance 12 = .ok (.invokestatic 197, 3) := dk_184 0 197 (dk_at dksX4_advance_0 12 rfl rfl)
theorem dX4_advance_15 : decode cX4_advance 15 = .ok (.iconst 1, 1) := dk_4 (dk_at dksX4_advance_0 15 rfl rfl)
theorem dX4_advance_16 : decode cX4_advance 16 = .ok (.invokevirtual 256, 3) := dk_182 1 0 (dk_at dksX4_advance_0 16 rfl rfl)
theorem dX4_advance_19 : decode cX4_advance 19 = .ok (.ifCond .eq 5, 3) := dk_153 0 5 (dk_at dksX4_advance_0 19 rfl rfl)
theorem dX4_advance_22 : decode cX4_advance 22 = .ok (.iconst 0, 1) := dk_3 (dk_at dksX4_advance_0 22 rfl rfl)
theorem dX4_advance_23 : decode cX4_advance 23 = .ok (.ireturn, 1) := dk_172 (dk_at dksX4_advance_0 23 rfl rfl)
theorem dX4_advance_24 : decode cX4_advance 24 = .ok (.aload_n 0, 1) := dk_42 (dk_at dksX4_advance_1 0 rfl rfl)
theorem dX4_advance_25 : decode cX4_advance 25 = .ok (.getfield 7, 3) := dk_180 0 7 (dk_at dksX4_advance_1 1 rfl rfl)
theorem dX4_advance_28 : decode cX4_advance 28 = .ok (.iconst 0, 1) := dk_3 (dk_at dksX4_advance_1 4 rfl rfl)
theorem dX4_advance_29 : decode cX4_advance 29 = .ok (.iaload, 1) := dk_46 (dk_at dksX4_advance_1 5 rfl rfl)
theorem dX4_advance_30 : decode cX4_advance 30 = .ok (.iload_n 1, 1) := dk_27 (dk_at dksX4_advance_1 6 rfl rfl)
theorem dX4_advance_31 : decode cX4_advance 31 = .ok (.iadd, 1) := dk_96 (dk_at dksX4_advance_1 7 rfl rfl)
theorem dX4_advance_32 : decode cX4_advance 32 = .ok (.istore_n 2, 1) := dk_61 (dk_at dksX4_advance_1 8 rfl rfl)
theorem dX4_advance_33 : decode cX4_advance 33 = .ok (.iload_n 2, 1) := dk_28 (dk_at dksX4_advance_1 9 rfl rfl)
theorem dX4_advance_34 : decode cX4_advance 34 = .ok (.sipush 9999, 3) := dk_17 39 15 (dk_at dksX4_advance_1 10 rfl rfl)
theorem dX4_advance_37 : decode cX4_advance 37 = .ok (.if_icmp .le 6, 3) := dk_164 0 6 (dk_at dksX4_advance_1 13 rfl rfl)
theorem dX4_advance_40 : decode cX4_advance 40 = .ok (.bipush (-2), 2) := dk_16 254 (dk_at dksX4_advance_1 16 rfl rfl)
theorem dX4_advance_42 : decode cX4_advance 42 = .ok (.ireturn, 1) := dk_172 (dk_at dksX4_advance_1 18 rfl rfl)
theorem dX4_advance_43 : decode cX4_advance 43 = .ok (.aload_n 0, 1) := dk_42 (dk_at dksX4_advance_1 19 rfl rfl)
theorem dX4_advance_44 : decode cX4_advance 44 = .ok (.invokevirtual 402, 3) := dk_182 1 146 (dk_at dksX4_advance_1 20 rfl rfl)
theorem dX4_advance_47 : decode cX4_advance 47 = .ok (.iconst 0, 1) := dk_3 (dk_at dksX4_advance_1 23 rfl rfl)
theorem dX4_advance_48 : decode cX4_advance 48 = .ok (.istore_n 3, 1) := dk_62 (dk_at dksX4_advance_2 0 rfl rfl)
theorem dX4_advance_49 : decode cX4_advance 49 = .ok (.iconst 0, 1) := dk_3 (dk_at dksX4_advance_2 1 rfl rfl)
theorem dX4_advance_50 : decode cX4_advance 50 = .ok (.istore 4, 2) := dk_54 4 (dk_at dksX4_advance_2 2 rfl rfl)
theorem dX4_advance_52 : decode cX4_advance 52 = .ok (.iload 4, 2) := dk_21 4 (dk_at dksX4_advance_2 4 rfl rfl)
theorem dX4_advance_54 : decode cX4_advance 54 = .ok (.aload_n 0, 1) := dk_42 (dk_at dksX4_advance_2 6 rfl rfl)
theorem dX4_advance_55 : decode cX4_advance 55 = .ok (.getfield 114, 3) := dk_180 0 114 (dk_at dksX4_advance_2 7 rfl rfl)
theorem dX4_advance_58 : decode cX4_advance 58 = .ok (.if_icmp .ge 19, 3) := dk_162 0 19 (dk_at dksX4_advance_2 10 rfl rfl)
theorem dX4_advance_61 : decode cX4_advance 61 = .ok (.iload_n 3, 1) := dk_29 (dk_at dksX4_advance_2 13 rfl rfl)
theorem dX4_advance_62 : decode cX4_advance 62 = .ok (.aload_n 0, 1) := dk_42 (dk_at dksX4_advance_2 14 rfl rfl)
theorem dX4_advance_63 : decode cX4_advance 63 = .ok (.iload 4, 2) := dk_21 4 (dk_at dksX4_advance_2 15 rfl rfl)
theorem dX4_advance_65 : decode cX4_advance 65 = .ok (.iload_n 2, 1) := dk_28 (dk_at dksX4_advance_2 17 rfl rfl)
theorem dX4_advance_66 : decode cX4_advance 66 = .ok (.invokevirtual 416, 3) := dk_182 1 160 (dk_at dksX4_advance_2 18 rfl rfl)
theorem dX4_advance_69 : decode cX4_advance 69 = .ok (.iadd, 1) := dk_96 (dk_at dksX4_advance_2 21 rfl rfl)
theorem dX4_advance_70 : decode cX4_advance 70 = .ok (.istore_n 3, 1) := dk_62 (dk_at dksX4_advance_2 22 rfl rfl)
theorem dX4_advance_71 : decode cX4_advance 71 = .ok (.iinc 4 1, 3) := dk_132 4 1 (dk_at dksX4_advance_3 0 rfl rfl)
theorem dX4_advance_74 : decode cX4_advance 74 = .ok (.goto (-22), 3) := dk_167 255 234 (dk_at dksX4_advance_3 3 rfl rfl)
theorem dX4_advance_77 : decode cX4_advance 77 = .ok (.aload_n 0, 1) := dk_42 (dk_at dksX4_advance_3 6 rfl rfl)
theorem dX4_advance_78 : decode cX4_advance 78 = .ok (.getfield 7, 3) := dk_180 0 7 (dk_at dksX4_advance_3 7 rfl rfl)
theorem dX4_advance_81 : decode cX4_advance 81 = .ok (.iconst 0, 1) := dk_3 (dk_at dksX4_advance_3 10 rfl rfl)
theorem dX4_advance_82 : decode cX4_advance 82 = .ok (.iload_n 2, 1) := dk_28 (dk_at dksX4_advance_3 11 rfl rfl)
theorem dX4_advance_83 : decode cX4_advance 83 = .ok (.iastore, 1) := dk_79 (dk_at dksX4_advance_3 12 rfl rfl)
theorem dX4_advance_84 : decode cX4_advance 84 = .ok (.iconst 0, 1) := dk_3 (dk_at dksX4_advance_3 13 rfl rfl)
theorem dX4_advance_85 : decode cX4_advance 85 = .ok (.istore 4, 2) := dk_54 4 (dk_at dksX4_advance_3 14 rfl rfl)
theorem dX4_advance_87 : decode cX4_advance 87 = .ok (.iload 4, 2) := dk_21 4 (dk_at dksX4_advance_3 16 rfl rfl)
theorem dX4_advance_89 : decode cX4_advance 89 = .ok (.aload_n 0, 1) := dk_42 (dk_at dksX4_advance_3 18 rfl rfl)
theorem dX4_advance_90 : decode cX4_advance 90 = .ok (.getfield 7, 3) := dk_180 0 7 (dk_at dksX4_advance_3 19 rfl rfl)
theorem dX4_advance_93 : decode cX4_advance 93 = .ok (.iconst 1, 1) := dk_4 (dk_at dksX4_advance_3 22 rfl rfl)
theorem dX4_advance_94 : decode cX4_advance 94 = .ok (.iaload, 1) := dk_46 (dk_at dksX4_advance_3 23 rfl rfl)
theorem dX4_advance_95 : decode cX4_advance 95 = .ok (.if_icmp .ge 39, 3) := dk_162 0 39 (dk_at dksX4_advance_4 0 rfl rfl)
theorem dX4_advance_98 : decode cX4_advance 98 = .ok (.aload_n 0, 1) := dk_42 (dk_at dksX4_advance_4 3 rfl rfl)
theorem dX4_advance_99 : decode cX4_advance 99 = .ok (.iload 4, 2) := dk_21 4 (dk_at dksX4_advance_4 4 rfl rfl)
theorem dX4_advance_101 : decode cX4_advance 101 = .ok (.iconst 0, 1) := dk_3 (dk_at dksX4_advance_4 6 rfl rfl)
theorem dX4_advance_102 : decode cX4_advance 102 = .ok (.invokevirtual 274, 3) := dk_182 1 18 (dk_at dksX4_advance_4 7 rfl rfl)
theorem dX4_advance_105 : decode cX4_advance 105 = .ok (.ifCond .ne 23, 3) := dk_154 0 23 (dk_at dksX4_advance_4 10 rfl rfl)
theorem dX4_advance_108 : decode cX4_advance 108 = .ok (.iload_n 2, 1) := dk_28 (dk_at dksX4_advance_4 13 rfl rfl)
theorem dX4_advance_109 : decode cX4_advance 109 = .ok (.aload_n 0, 1) := dk_42 (dk_at dksX4_advance_4 14 rfl rfl)
theorem dX4_advance_110 : decode cX4_advance 110 = .ok (.iload 4, 2) := dk_21 4 (dk_at dksX4_advance_4 15 rfl rfl)
theorem dX4_advance_112 : decode cX4_advance 112 = .ok (.bipush 16, 2) := dk_16 16 (dk_at dksX4_advance_4 17 rfl rfl)
theorem dX4_advance_114 : decode cX4_advance 114 = .ok (.invokevirtual 274, 3) := dk_182 1 18 (dk_at dksX4_advance_4 19 rfl rfl)
theorem dX4_advance_117 : decode cX4_advance 117 = .ok (.if_icmp .le 11, 3) := dk_164 0 11 (dk_at dksX4_advance_5 0 rfl rfl)
theorem dX4_advance_120 : decode cX4_advance 120 = .ok (.aload_n 0, 1) := dk_42 (dk_at dksX4_advance_5 3 rfl rfl)
theorem dX4_advance_121 : decode cX4_advance 121 = .ok (.iload 4, 2) := dk_21 4 (dk_at dksX4_advance_5 4 rfl rfl)
theorem dX4_advance_123 : decode cX4_advance 123 = .ok (.iconst 0, 1) := dk_3 (dk_at dksX4_advance_5 6 rfl rfl)
theorem dX4_advance_124 : decode cX4_advance 124 = .ok (.iconst 4, 1) := dk_7 (dk_at dksX4_advance_5 7 rfl rfl)
theorem dX4_advance_125 : decode cX4_advance 125 = .ok (.invokevirtual 346, 3) := dk_182 1 90 (dk_at dksX4_advance_5 8 rfl rfl)
theorem dX4_advance_128 : decode cX4_advance 128 = .ok (.iinc 4 1, 3) := dk_132 4 1 (dk_at dksX4_advance_5 11 rfl rfl)
theorem dX4_advance_131 : decode cX4_advance 131 = .ok (.goto (-44), 3) := dk_167 255 212 (dk_at dksX4_advance_5 14 rfl rfl)
theorem dX4_advance_134 : decode cX4_advance 134 = .ok (.iload_n 3, 1) := dk_29 (dk_at dksX4_advance_5 17 rfl rfl)
theorem dX4_advance_135 : decode cX4_advance 135 = .ok (.ireturn, 1) := dk_172 (dk_at dksX4_advance_5 18 rfl rfl)
abbrev cX4_goesOn : ByteArray := prog_25_method_60_code
def yX4_goesOn : MethodName := ⟨RX4, "goesOn", "(II)I"⟩
def dkwX4_goesOn_6 : List UInt8 := [46, 28, 162, 0, 12, 42, 180, 0, 53, 3, 46, 167, 0, 4, 2, 182, 1, 70, 29, 172]
abbrev dktX4_goesOn_6 : List UInt8 := dkwX4_goesOn_6 ++ []
def dkwX4_goesOn_5 : List UInt8 := [182, 1, 70, 132, 3, 1, 167, 255, 141, 42, 27, 6, 42, 180, 1, 15, 158, 0, 22, 42, 180, 0, 53, 3]
abbrev dktX4_goesOn_5 : List UInt8 := dkwX4_goesOn_5 ++ dktX4_goesOn_6
def dkwX4_goesOn_4 : List UInt8 := [132, 6, 1, 167, 255, 225, 42, 27, 16, 11, 42, 180, 1, 15, 4, 100, 182, 1, 70, 42, 27, 6, 2]
abbrev dktX4_goesOn_4 : List UInt8 := dkwX4_goesOn_4 ++ dktX4_goesOn_5
def dkwX4_goesOn_3 : List UInt8 := [162, 0, 28, 42, 27, 16, 12, 21, 6, 96, 4, 100, 42, 180, 0, 50, 21, 6, 46, 182, 1, 70]
abbrev dktX4_goesOn_3 : List UInt8 := dkwX4_goesOn_3 ++ dktX4_goesOn_4
def dkwX4_goesOn_2 : List UInt8 := [21, 4, 154, 0, 6, 167, 0, 72, 42, 27, 3, 182, 1, 103, 4, 54, 6, 21, 6, 42, 180, 1, 15]
abbrev dktX4_goesOn_2 : List UInt8 := dkwX4_goesOn_2 ++ dktX4_goesOn_3
def dkwX4_goesOn_1 : List UInt8 := [180, 1, 15, 158, 0, 17, 42, 180, 0, 59, 3, 46, 28, 163, 0, 7, 4, 167, 0, 4, 3, 54, 4]
abbrev dktX4_goesOn_1 : List UInt8 := dkwX4_goesOn_1 ++ dktX4_goesOn_2
def dkwX4_goesOn_0 : List UInt8 := [3, 62, 4, 54, 4, 21, 4, 153, 0, 116, 42, 27, 182, 1, 45, 42, 27, 182, 1, 55, 54, 5, 42]
abbrev dktX4_goesOn_0 : List UInt8 := dkwX4_goesOn_0 ++ dktX4_goesOn_1
theorem dksX4_goesOn_0 : cX4_goesOn.data.toList.drop 0 = dktX4_goesOn_0 := by decide +kernel
theorem dksX4_goesOn_1 : cX4_goesOn.data.toList.drop 23 = dktX4_goesOn_1 := dk_seg dksX4_goesOn_0 23 rfl rfl
theorem dksX4_goesOn_2 : cX4_goesOn.data.toList.drop 46 = dktX4_goesOn_2 := dk_seg dksX4_goesOn_1 23 rfl rfl
theorem dksX4_goesOn_3 : cX4_goesOn.data.toList.drop 69 = dktX4_goesOn_3 := dk_seg dksX4_goesOn_2 23 rfl rfl
theorem dksX4_goesOn_4 : cX4_goesOn.data.toList.drop 91 = dktX4_goesOn_4 := dk_seg dksX4_goesOn_3 22 rfl rfl
theorem dksX4_goesOn_5 : cX4_goesOn.data.toList.drop 114 = dktX4_goesOn_5 := dk_seg dksX4_goesOn_4 23 rfl rfl
theorem dksX4_goesOn_6 : cX4_goesOn.data.toList.drop 138 = dktX4_goesOn_6 := dk_seg dksX4_goesOn_5 24 rfl rfl
theorem dX4_goesOn_0 : decode cX4_goesOn 0 = .ok (.iconst 0, 1) := dk_3 (dk_at dksX4_goesOn_0 0 rfl rfl)
theorem dX4_goesOn_1 : decode cX4_goesOn 1 = .ok (.istore_n 3, 1) := dk_62 (dk_at dksX4_goesOn_0 1 rfl rfl)
theorem dX4_goesOn_2 : decode cX4_goesOn 2 = .ok (.iconst 1, 1) := dk_4 (dk_at dksX4_goesOn_0 2 rfl rfl)
theorem dX4_goesOn_3 : decode cX4_goesOn 3 = .ok (.istore 4, 2) := dk_54 4 (dk_at dksX4_goesOn_0 3 rfl rfl)
theorem dX4_goesOn_5 : decode cX4_goesOn 5 = .ok (.iload 4, 2) := dk_21 4 (dk_at dksX4_goesOn_0 5 rfl rfl)
theorem dX4_goesOn_7 : decode cX4_goesOn 7 = .ok (.ifCond .eq 116, 3) := dk_153 0 116 (dk_at dksX4_goesOn_0 7 rfl rfl)
theorem dX4_goesOn_10 : decode cX4_goesOn 10 = .ok (.aload_n 0, 1) := dk_42 (dk_at dksX4_goesOn_0 10 rfl rfl)
theorem dX4_goesOn_11 : decode cX4_goesOn 11 = .ok (.iload_n 1, 1) := dk_27 (dk_at dksX4_goesOn_0 11 rfl rfl)
theorem dX4_goesOn_12 : decode cX4_goesOn 12 = .ok (.invokevirtual 301, 3) := dk_182 1 45 (dk_at dksX4_goesOn_0 12 rfl rfl)
theorem dX4_goesOn_15 : decode cX4_goesOn 15 = .ok (.aload_n 0, 1) := dk_42 (dk_at dksX4_goesOn_0 15 rfl rfl)
theorem dX4_goesOn_16 : decode cX4_goesOn 16 = .ok (.iload_n 1, 1) := dk_27 (dk_at dksX4_goesOn_0 16 rfl rfl)
theorem dX4_goesOn_17 : decode cX4_goesOn 17 = .ok (.invokevirtual 311, 3) := dk_182 1 55 (dk_at dksX4_goesOn_0 17 rfl rfl)
theorem dX4_goesOn_20 : decode cX4_goesOn 20 = .ok (.istore 5, 2) := dk_54 5 (dk_at dksX4_goesOn_0 20 rfl rfl)
theorem dX4_goesOn_22 : decode cX4_goesOn 22 = .ok (.aload_n 0, 1) := dk_42 (dk_at dksX4_goesOn_0 22 rfl rfl)
theorem dX4_goesOn_23 : decode cX4_goesOn 23 = .ok (.getfield 271, 3) := dk_180 1 15 (dk_at dksX4_goesOn_1 0 rfl rfl)
theorem dX4_goesOn_26 : decode cX4_goesOn 26 = .ok (.ifCond .le 17, 3) := dk_158 0 17 (dk_at dksX4_goesOn_1 3 rfl rfl)
theorem dX4_goesOn_29 : decode cX4_goesOn 29 = .ok (.aload_n 0, 1) := dk_42 (dk_at dksX4_goesOn_1 6 rfl rfl)
theorem dX4_goesOn_30 : decode cX4_goesOn 30 = .ok (.getfield 59, 3) := dk_180 0 59 (dk_at dksX4_goesOn_1 7 rfl rfl)
theorem dX4_goesOn_33 : decode cX4_goesOn 33 = .ok (.iconst 0, 1) := dk_3 (dk_at dksX4_goesOn_1 10 rfl rfl)
theorem dX4_goesOn_34 : decode cX4_goesOn 34 = .ok (.iaload, 1) := dk_46 (dk_at dksX4_goesOn_1 11 rfl rfl)
theorem dX4_goesOn_35 : decode cX4_goesOn 35 = .ok (.iload_n 2, 1) := dk_28 (dk_at dksX4_goesOn_1 12 rfl rfl)
theorem dX4_goesOn_36 : decode cX4_goesOn 36 = .ok (.if_icmp .gt 7, 3) := dk_163 0 7 (dk_at dksX4_goesOn_1 13 rfl rfl)
theorem dX4_goesOn_39 : decode cX4_goesOn 39 = .ok (.iconst 1, 1) := dk_4 (dk_at dksX4_goesOn_1 16 rfl rfl)
theorem dX4_goesOn_40 : decode cX4_goesOn 40 = .ok (.goto 4, 3) := dk_167 0 4 (dk_at dksX4_goesOn_1 17 rfl rfl)
theorem dX4_goesOn_43 : decode cX4_goesOn 43 = .ok (.iconst 0, 1) := dk_3 (dk_at dksX4_goesOn_1 20 rfl rfl)
theorem dX4_goesOn_44 : decode cX4_goesOn 44 = .ok (.istore 4, 2) := dk_54 4 (dk_at dksX4_goesOn_1 21 rfl rfl)
theorem dX4_goesOn_46 : decode cX4_goesOn 46 = .ok (.iload 4, 2) := dk_21 4 (dk_at dksX4_goesOn_2 0 rfl rfl)
theorem dX4_goesOn_48 : decode cX4_goesOn 48 = .ok (.ifCond .ne 6, 3) := dk_154 0 6 (dk_at dksX4_goesOn_2 2 rfl rfl)
theorem dX4_goesOn_51 : decode cX4_goesOn 51 = .ok (.goto 72, 3) := dk_167 0 72 (dk_at dksX4_goesOn_2 5 rfl rfl)
theorem dX4_goesOn_54 : decode cX4_goesOn 54 = .ok (.aload_n 0, 1) := dk_42 (dk_at dksX4_goesOn_2 8 rfl rfl)
theorem dX4_goesOn_55 : decode cX4_goesOn 55 = .ok (.iload_n 1, 1) := dk_27 (dk_at dksX4_goesOn_2 9 rfl rfl)
theorem dX4_goesOn_56 : decode cX4_goesOn 56 = .ok (.iconst 0, 1) := dk_3 (dk_at dksX4_goesOn_2 10 rfl rfl)
theorem dX4_goesOn_57 : decode cX4_goesOn 57 = .ok (.invokevirtual 359, 3) := dk_182 1 103 (dk_at dksX4_goesOn_2 11 rfl rfl)
theorem dX4_goesOn_60 : decode cX4_goesOn 60 = .ok (.iconst 1, 1) := dk_4 (dk_at dksX4_goesOn_2 14 rfl rfl)
theorem dX4_goesOn_61 : decode cX4_goesOn 61 = .ok (.istore 6, 2) := dk_54 6 (dk_at dksX4_goesOn_2 15 rfl rfl)
theorem dX4_goesOn_63 : decode cX4_goesOn 63 = .ok (.iload 6, 2) := dk_21 6 (dk_at dksX4_goesOn_2 17 rfl rfl)
theorem dX4_goesOn_65 : decode cX4_goesOn 65 = .ok (.aload_n 0, 1) := dk_42 (dk_at dksX4_goesOn_2 19 rfl rfl)
theorem dX4_goesOn_66 : decode cX4_goesOn 66 = .ok (.getfield 271, 3) := dk_180 1 15 (dk_at dksX4_goesOn_2 20 rfl rfl)
theorem dX4_goesOn_69 : decode cX4_goesOn 69 = .ok (.if_icmp .ge 28, 3) := dk_162 0 28 (dk_at dksX4_goesOn_3 0 rfl rfl)
theorem dX4_goesOn_72 : decode cX4_goesOn 72 = .ok (.aload_n 0, 1) := dk_42 (dk_at dksX4_goesOn_3 3 rfl rfl)
theorem dX4_goesOn_73 : decode cX4_goesOn 73 = .ok (.iload_n 1, 1) := dk_27 (dk_at dksX4_goesOn_3 4 rfl rfl)
theorem dX4_goesOn_74 : decode cX4_goesOn 74 = .ok (.bipush 12, 2) := dk_16 12 (dk_at dksX4_goesOn_3 5 rfl rfl)
theorem dX4_goesOn_76 : decode cX4_goesOn 76 = .ok (.iload 6, 2) := dk_21 6 (dk_at dksX4_goesOn_3 7 rfl rfl)
theorem dX4_goesOn_78 : decode cX4_goesOn 78 = .ok (.iadd, 1) := dk_96 (dk_at dksX4_goesOn_3 9 rfl rfl)
theorem dX4_goesOn_79 : decode cX4_goesOn 79 = .ok (.iconst 1, 1) := dk_4 (dk_at dksX4_goesOn_3 10 rfl rfl)
theorem dX4_goesOn_80 : decode cX4_goesOn 80 = .ok (.isub, 1) := dk_100 (dk_at dksX4_goesOn_3 11 rfl rfl)
theorem dX4_goesOn_81 : decode cX4_goesOn 81 = .ok (.aload_n 0, 1) := dk_42 (dk_at dksX4_goesOn_3 12 rfl rfl)
theorem dX4_goesOn_82 : decode cX4_goesOn 82 = .ok (.getfield 50, 3) := dk_180 0 50 (dk_at dksX4_goesOn_3 13 rfl rfl)
theorem dX4_goesOn_85 : decode cX4_goesOn 85 = .ok (.iload 6, 2) := dk_21 6 (dk_at dksX4_goesOn_3 16 rfl rfl)
theorem dX4_goesOn_87 : decode cX4_goesOn 87 = .ok (.iaload, 1) := dk_46 (dk_at dksX4_goesOn_3 18 rfl rfl)
theorem dX4_goesOn_88 : decode cX4_goesOn 88 = .ok (.invokevirtual 326, 3) := dk_182 1 70 (dk_at dksX4_goesOn_3 19 rfl rfl)
theorem dX4_goesOn_91 : decode cX4_goesOn 91 = .ok (.iinc 6 1, 3) := dk_132 6 1 (dk_at dksX4_goesOn_4 0 rfl rfl)
theorem dX4_goesOn_94 : decode cX4_goesOn 94 = .ok (.goto (-31), 3) := dk_167 255 225 (dk_at dksX4_goesOn_4 3 rfl rfl)
theorem dX4_goesOn_97 : decode cX4_goesOn 97 = .ok (.aload_n 0, 1) := dk_42 (dk_at dksX4_goesOn_4 6 rfl rfl)
theorem dX4_goesOn_98 : decode cX4_goesOn 98 = .ok (.iload_n 1, 1) := dk_27 (dk_at dksX4_goesOn_4 7 rfl rfl)
theorem dX4_goesOn_99 : decode cX4_goesOn 99 = .ok (.bipush 11, 2) := dk_16 11 (dk_at dksX4_goesOn_4 8 rfl rfl)
theorem dX4_goesOn_101 : decode cX4_goesOn 101 = .ok (.aload_n 0, 1) := dk_42 (dk_at dksX4_goesOn_4 10 rfl rfl)
theorem dX4_goesOn_102 : decode cX4_goesOn 102 = .ok (.getfield 271, 3) := dk_180 1 15 (dk_at dksX4_goesOn_4 11 rfl rfl)
theorem dX4_goesOn_105 : decode cX4_goesOn 105 = .ok (.iconst 1, 1) := dk_4 (dk_at dksX4_goesOn_4 14 rfl rfl)
theorem dX4_goesOn_106 : decode cX4_goesOn 106 = .ok (.isub, 1) := dk_100 (dk_at dksX4_goesOn_4 15 rfl rfl)
theorem dX4_goesOn_107 : decode cX4_goesOn 107 = .ok (.invokevirtual 326, 3) := dk_182 1 70 (dk_at dksX4_goesOn_4 16 rfl rfl)
theorem dX4_goesOn_110 : decode cX4_goesOn 110 = .ok (.aload_n 0, 1) := dk_42 (dk_at dksX4_goesOn_4 19 rfl rfl)
theorem dX4_goesOn_111 : decode cX4_goesOn 111 = .ok (.iload_n 1, 1) := dk_27 (dk_at dksX4_goesOn_4 20 rfl rfl)
theorem dX4_goesOn_112 : decode cX4_goesOn 112 = .ok (.iconst 3, 1) := dk_6 (dk_at dksX4_goesOn_4 21 rfl rfl)
theorem dX4_goesOn_113 : decode cX4_goesOn 113 = .ok (.iconst (-1), 1) := dk_2 (dk_at dksX4_goesOn_4 22 rfl rfl)
theorem dX4_goesOn_114 : decode cX4_goesOn 114 = .ok (.invokevirtual 326, 3) := dk_182 1 70 (dk_at dksX4_goesOn_5 0 rfl rfl)
theorem dX4_goesOn_117 : decode cX4_goesOn 117 = .ok (.iinc 3 1, 3) := dk_132 3 1 (dk_at dksX4_goesOn_5 3 rfl rfl)
theorem dX4_goesOn_120 : decode cX4_goesOn 120 = .ok (.goto (-115), 3) := dk_167 255 141 (dk_at dksX4_goesOn_5 6 rfl rfl)
theorem dX4_goesOn_123 : decode cX4_goesOn 123 = .ok (.aload_n 0, 1) := dk_42 (dk_at dksX4_goesOn_5 9 rfl rfl)
theorem dX4_goesOn_124 : decode cX4_goesOn 124 = .ok (.iload_n 1, 1) := dk_27 (dk_at dksX4_goesOn_5 10 rfl rfl)
theorem dX4_goesOn_125 : decode cX4_goesOn 125 = .ok (.iconst 3, 1) := dk_6 (dk_at dksX4_goesOn_5 11 rfl rfl)
theorem dX4_goesOn_126 : decode cX4_goesOn 126 = .ok (.aload_n 0, 1) := dk_42 (dk_at dksX4_goesOn_5 12 rfl rfl)
theorem dX4_goesOn_127 : decode cX4_goesOn 127 = .ok (.getfield 271, 3) := dk_180 1 15 (dk_at dksX4_goesOn_5 13 rfl rfl)
theorem dX4_goesOn_130 : decode cX4_goesOn 130 = .ok (.ifCond .le 22, 3) := dk_158 0 22 (dk_at dksX4_goesOn_5 16 rfl rfl)
theorem dX4_goesOn_133 : decode cX4_goesOn 133 = .ok (.aload_n 0, 1) := dk_42 (dk_at dksX4_goesOn_5 19 rfl rfl)
theorem dX4_goesOn_134 : decode cX4_goesOn 134 = .ok (.getfield 53, 3) := dk_180 0 53 (dk_at dksX4_goesOn_5 20 rfl rfl)
theorem dX4_goesOn_137 : decode cX4_goesOn 137 = .ok (.iconst 0, 1) := dk_3 (dk_at dksX4_goesOn_5 23 rfl rfl)
theorem dX4_goesOn_138 : decode cX4_goesOn 138 = .ok (.iaload, 1) := dk_46 (dk_at dksX4_goesOn_6 0 rfl rfl)
theorem dX4_goesOn_139 : decode cX4_goesOn 139 = .ok (.iload_n 2, 1) := dk_28 (dk_at dksX4_goesOn_6 1 rfl rfl)
theorem dX4_goesOn_140 : decode cX4_goesOn 140 = .ok (.if_icmp .ge 12, 3) := dk_162 0 12 (dk_at dksX4_goesOn_6 2 rfl rfl)
theorem dX4_goesOn_143 : decode cX4_goesOn 143 = .ok (.aload_n 0, 1) := dk_42 (dk_at dksX4_goesOn_6 5 rfl rfl)
theorem dX4_goesOn_144 : decode cX4_goesOn 144 = .ok (.getfield 53, 3) := dk_180 0 53 (dk_at dksX4_goesOn_6 6 rfl rfl)
theorem dX4_goesOn_147 : decode cX4_goesOn 147 = .ok (.iconst 0, 1) := dk_3 (dk_at dksX4_goesOn_6 9 rfl rfl)
theorem dX4_goesOn_148 : decode cX4_goesOn 148 = .ok (.iaload, 1) := dk_46 (dk_at dksX4_goesOn_6 10 rfl rfl)
theorem dX4_goesOn_149 : decode cX4_goesOn 149 = .ok (.goto 4, 3) := dk_167 0 4 (dk_at dksX4_goesOn_6 11 rfl rfl)
theorem dX4_goesOn_152 : decode cX4_goesOn 152 = .ok (.iconst (-1), 1) := dk_2 (dk_at dksX4_goesOn_6 14 rfl rfl)
theorem dX4_goesOn_153 : decode cX4_goesOn 153 = .ok (.invokevirtual 326, 3) := dk_182 1 70 (dk_at dksX4_goesOn_6 15 rfl rfl)
theorem dX4_goesOn_156 : decode cX4_goesOn 156 = .ok (.iload_n 3, 1) := dk_29 (dk_at dksX4_goesOn_6 18 rfl rfl)
theorem dX4_goesOn_157 : decode cX4_goesOn 157 = .ok (.ireturn, 1) := dk_172 (dk_at dksX4_goesOn_6 19 rfl rfl)
abbrev cX4_happens : ByteArray := prog_25_method_59_code
def yX4_happens : MethodName := ⟨RX4, "happens", "(II)V"⟩
def dkwX4_happens_8 : List UInt8 := [27, 5, 42, 180, 0, 62, 28, 46, 182, 1, 70, 177]
abbrev dktX4_happens_8 : List UInt8 := dkwX4_happens_8 ++ []
def dkwX4_happens_7 : List UInt8 := [180, 0, 50, 28, 46, 182, 1, 27, 182, 1, 70, 42, 27, 4, 42, 180, 0, 59, 28, 46, 182, 1, 70, 42]
abbrev dktX4_happens_7 : List UInt8 := dkwX4_happens_7 ++ dktX4_happens_8
def dkwX4_happens_6 : List UInt8 := [16, 24, 182, 1, 12, 96, 29, 182, 1, 70, 42, 27, 16, 24, 4, 182, 1, 80, 42, 27, 3, 42, 42]
abbrev dktX4_happens_6 : List UInt8 := dkwX4_happens_6 ++ dktX4_happens_7
def dkwX4_happens_5 : List UInt8 := [5, 182, 1, 90, 42, 29, 16, 8, 42, 180, 0, 59, 28, 46, 182, 1, 90, 42, 27, 16, 25, 42, 27]
abbrev dktX4_happens_5 : List UInt8 := dkwX4_happens_5 ++ dktX4_happens_6
def dkwX4_happens_4 : List UInt8 := [180, 0, 59, 28, 46, 182, 1, 90, 167, 0, 57, 42, 27, 29, 42, 180, 0, 117, 182, 1, 100, 42, 29, 3]
abbrev dktX4_happens_4 : List UInt8 := dkwX4_happens_4 ++ dktX4_happens_5
def dkwX4_happens_3 : List UInt8 := [27, 29, 42, 7, 182, 1, 36, 182, 1, 100, 42, 29, 3, 8, 182, 1, 90, 42, 29, 16, 8, 42]
abbrev dktX4_happens_3 : List UInt8 := dkwX4_happens_3 ++ dktX4_happens_4
def dkwX4_happens_2 : List UInt8 := [42, 180, 0, 56, 28, 46, 182, 1, 90, 167, 0, 102, 42, 29, 16, 11, 182, 1, 18, 4, 160, 0, 37, 42]
abbrev dktX4_happens_2 : List UInt8 := dkwX4_happens_2 ++ dktX4_happens_3
def dkwX4_happens_1 : List UInt8 := [28, 46, 4, 126, 154, 0, 32, 42, 27, 29, 182, 1, 97, 42, 29, 3, 6, 182, 1, 90, 42, 29, 16, 9]
abbrev dktX4_happens_1 : List UInt8 := dkwX4_happens_1 ++ dktX4_happens_2
def dkwX4_happens_0 : List UInt8 := [42, 180, 0, 50, 28, 46, 5, 108, 62, 42, 27, 42, 180, 0, 65, 28, 46, 182, 1, 93, 42, 180, 0, 50]
abbrev dktX4_happens_0 : List UInt8 := dkwX4_happens_0 ++ dktX4_happens_1
theorem dksX4_happens_0 : cX4_happens.data.toList.drop 0 = dktX4_happens_0 := by decide +kernel
theorem dksX4_happens_1 : cX4_happens.data.toList.drop 24 = dktX4_happens_1 := dk_seg dksX4_happens_0 24 rfl rfl
theorem dksX4_happens_2 : cX4_happens.data.toList.drop 48 = dktX4_happens_2 := dk_seg dksX4_happens_1 24 rfl rfl
theorem dksX4_happens_3 : cX4_happens.data.toList.drop 72 = dktX4_happens_3 := dk_seg dksX4_happens_2 24 rfl rfl
theorem dksX4_happens_4 : cX4_happens.data.toList.drop 94 = dktX4_happens_4 := dk_seg dksX4_happens_3 22 rfl rfl
theorem dksX4_happens_5 : cX4_happens.data.toList.drop 118 = dktX4_happens_5 := dk_seg dksX4_happens_4 24 rfl rfl
theorem dksX4_happens_6 : cX4_happens.data.toList.drop 141 = dktX4_happens_6 := dk_seg dksX4_happens_5 23 rfl rfl
theorem dksX4_happens_7 : cX4_happens.data.toList.drop 164 = dktX4_happens_7 := dk_seg dksX4_happens_6 23 rfl rfl
theorem dksX4_happens_8 : cX4_happens.data.toList.drop 188 = dktX4_happens_8 := dk_seg dksX4_happens_7 24 rfl rfl
theorem dX4_happens_0 : decode cX4_happens 0 = .ok (.aload_n 0, 1) := dk_42 (dk_at dksX4_happens_0 0 rfl rfl)
theorem dX4_happens_1 : decode cX4_happens 1 = .ok (.getfield 50, 3) := dk_180 0 50 (dk_at dksX4_happens_0 1 rfl rfl)
theorem dX4_happens_4 : decode cX4_happens 4 = .ok (.iload_n 2, 1) := dk_28 (dk_at dksX4_happens_0 4 rfl rfl)
theorem dX4_happens_5 : decode cX4_happens 5 = .ok (.iaload, 1) := dk_46 (dk_at dksX4_happens_0 5 rfl rfl)
theorem dX4_happens_6 : decode cX4_happens 6 = .ok (.iconst 2, 1) := dk_5 (dk_at dksX4_happens_0 6 rfl rfl)
theorem dX4_happens_7 : decode cX4_happens 7 = .ok (.idiv, 1) := dk_108 (dk_at dksX4_happens_0 7 rfl rfl)
theorem dX4_happens_8 : decode cX4_happens 8 = .ok (.istore_n 3, 1) := dk_62 (dk_at dksX4_happens_0 8 rfl rfl)
theorem dX4_happens_9 : decode cX4_happens 9 = .ok (.aload_n 0, 1) := dk_42 (dk_at dksX4_happens_0 9 rfl rfl)
theorem dX4_happens_10 : decode cX4_happens 10 = .ok (.iload_n 1, 1) := dk_27 (dk_at dksX4_happens_0 10 rfl rfl)
theorem dX4_happens_11 : decode cX4_happens 11 = .ok (.aload_n 0, 1) := dk_42 (dk_at dksX4_happens_0 11 rfl rfl)
theorem dX4_happens_12 : decode cX4_happens 12 = .ok (.getfield 65, 3) := dk_180 0 65 (dk_at dksX4_happens_0 12 rfl rfl)
theorem dX4_happens_15 : decode cX4_happens 15 = .ok (.iload_n 2, 1) := dk_28 (dk_at dksX4_happens_0 15 rfl rfl)
theorem dX4_happens_16 : decode cX4_happens 16 = .ok (.iaload, 1) := dk_46 (dk_at dksX4_happens_0 16 rfl rfl)
theorem dX4_happens_17 : decode cX4_happens 17 = .ok (.invokevirtual 349, 3) := dk_182 1 93 (dk_at dksX4_happens_0 17 rfl rfl)
theorem dX4_happens_20 : decode cX4_happens 20 = .ok (.aload_n 0, 1) := dk_42 (dk_at dksX4_happens_0 20 rfl rfl)
theorem dX4_happens_21 : decode cX4_happens 21 = .ok (.getfield 50, 3) := dk_180 0 50 (dk_at dksX4_happens_0 21 rfl rfl)
theorem dX4_happens_24 : decode cX4_happens 24 = .ok (.iload_n 2, 1) := dk_28 (dk_at dksX4_happens_1 0 rfl rfl)
theorem dX4_happens_25 : decode cX4_happens 25 = .ok (.iaload, 1) := dk_46 (dk_at dksX4_happens_1 1 rfl rfl)
theorem dX4_happens_26 : decode cX4_happens 26 = .ok (.iconst 1, 1) := dk_4 (dk_at dksX4_happens_1 2 rfl rfl)
theorem dX4_happens_27 : decode cX4_happens 27 = .ok (.iand, 1) := dk_126 (dk_at dksX4_happens_1 3 rfl rfl)
theorem dX4_happens_28 : decode cX4_happens 28 = .ok (.ifCond .ne 32, 3) := dk_154 0 32 (dk_at dksX4_happens_1 4 rfl rfl)
theorem dX4_happens_31 : decode cX4_happens 31 = .ok (.aload_n 0, 1) := dk_42 (dk_at dksX4_happens_1 7 rfl rfl)
theorem dX4_happens_32 : decode cX4_happens 32 = .ok (.iload_n 1, 1) := dk_27 (dk_at dksX4_happens_1 8 rfl rfl)
theorem dX4_happens_33 : decode cX4_happens 33 = .ok (.iload_n 3, 1) := dk_29 (dk_at dksX4_happens_1 9 rfl rfl)
theorem dX4_happens_34 : decode cX4_happens 34 = .ok (.invokevirtual 353, 3) := dk_182 1 97 (dk_at dksX4_happens_1 10 rfl rfl)
theorem dX4_happens_37 : decode cX4_happens 37 = .ok (.aload_n 0, 1) := dk_42 (dk_at dksX4_happens_1 13 rfl rfl)
theorem dX4_happens_38 : decode cX4_happens 38 = .ok (.iload_n 3, 1) := dk_29 (dk_at dksX4_happens_1 14 rfl rfl)
theorem dX4_happens_39 : decode cX4_happens 39 = .ok (.iconst 0, 1) := dk_3 (dk_at dksX4_happens_1 15 rfl rfl)
theorem dX4_happens_40 : decode cX4_happens 40 = .ok (.iconst 3, 1) := dk_6 (dk_at dksX4_happens_1 16 rfl rfl)
theorem dX4_happens_41 : decode cX4_happens 41 = .ok (.invokevirtual 346, 3) := dk_182 1 90 (dk_at dksX4_happens_1 17 rfl rfl)
theorem dX4_happens_44 : decode cX4_happens 44 = .ok (.aload_n 0, 1) := dk_42 (dk_at dksX4_happens_1 20 rfl rfl)
theorem dX4_happens_45 : decode cX4_happens 45 = .ok (.iload_n 3, 1) := dk_29 (dk_at dksX4_happens_1 21 rfl rfl)
theorem dX4_happens_46 : decode cX4_happens 46 = .ok (.bipush 9, 2) := dk_16 9 (dk_at dksX4_happens_1 22 rfl rfl)
theorem dX4_happens_48 : decode cX4_happens 48 = .ok (.aload_n 0, 1) := dk_42 (dk_at dksX4_happens_2 0 rfl rfl)
theorem dX4_happens_49 : decode cX4_happens 49 = .ok (.getfield 56, 3) := dk_180 0 56 (dk_at dksX4_happens_2 1 rfl rfl)
theorem dX4_happens_52 : decode cX4_happens 52 = .ok (.iload_n 2, 1) := dk_28 (dk_at dksX4_happens_2 4 rfl rfl)
theorem dX4_happens_53 : decode cX4_happens 53 = .ok (.iaload, 1) := dk_46 (dk_at dksX4_happens_2 5 rfl rfl)
theorem dX4_happens_54 : decode cX4_happens 54 = .ok (.invokevirtual 346, 3) := dk_182 1 90 (dk_at dksX4_happens_2 6 rfl rfl)
theorem dX4_happens_57 : decode cX4_happens 57 = .ok (.goto 102, 3) := dk_167 0 102 (dk_at dksX4_happens_2 9 rfl rfl)
theorem dX4_happens_60 : decode cX4_happens 60 = .ok (.aload_n 0, 1) := dk_42 (dk_at dksX4_happens_2 12 rfl rfl)
theorem dX4_happens_61 : decode cX4_happens 61 = .ok (.iload_n 3, 1) := dk_29 (dk_at dksX4_happens_2 13 rfl rfl)
theorem dX4_happens_62 : decode cX4_happens 62 = .ok (.bipush 11, 2) := dk_16 11 (dk_at dksX4_happens_2 14 rfl rfl)
theorem dX4_happens_64 : decode cX4_happens 64 = .ok (.invokevirtual 274, 3) := dk_182 1 18 (dk_at dksX4_happens_2 16 rfl rfl)
theorem dX4_happens_67 : decode cX4_happens 67 = .ok (.iconst 1, 1) := dk_4 (dk_at dksX4_happens_2 19 rfl rfl)
theorem dX4_happens_68 : decode cX4_happens 68 = .ok (.if_icmp .ne 37, 3) := dk_160 0 37 (dk_at dksX4_happens_2 20 rfl rfl)
theorem dX4_happens_71 : decode cX4_happens 71 = .ok (.aload_n 0, 1) := dk_42 (dk_at dksX4_happens_2 23 rfl rfl)
theorem dX4_happens_72 : decode cX4_happens 72 = .ok (.iload_n 1, 1) := dk_27 (dk_at dksX4_happens_3 0 rfl rfl)
theorem dX4_happens_73 : decode cX4_happens 73 = .ok (.iload_n 3, 1) := dk_29 (dk_at dksX4_happens_3 1 rfl rfl)
theorem dX4_happens_74 : decode cX4_happens 74 = .ok (.aload_n 0, 1) := dk_42 (dk_at dksX4_happens_3 2 rfl rfl)
theorem dX4_happens_75 : decode cX4_happens 75 = .ok (.iconst 4, 1) := dk_7 (dk_at dksX4_happens_3 3 rfl rfl)
theorem dX4_happens_76 : decode cX4_happens 76 = .ok (.invokevirtual 292, 3) := dk_182 1 36 (dk_at dksX4_happens_3 4 rfl rfl)
theorem dX4_happens_79 : decode cX4_happens 79 = .ok (.invokevirtual 356, 3) := dk_182 1 100 (dk_at dksX4_happens_3 7 rfl rfl)
theorem dX4_happens_82 : decode cX4_happens 82 = .ok (.aload_n 0, 1) := dk_42 (dk_at dksX4_happens_3 10 rfl rfl)
theorem dX4_happens_83 : decode cX4_happens 83 = .ok (.iload_n 3, 1) := dk_29 (dk_at dksX4_happens_3 11 rfl rfl)
theorem dX4_happens_84 : decode cX4_happens 84 = .ok (.iconst 0, 1) := dk_3 (dk_at dksX4_happens_3 12 rfl rfl)
theorem dX4_happens_85 : decode cX4_happens 85 = .ok (.iconst 5, 1) := dk_8 (dk_at dksX4_happens_3 13 rfl rfl)
theorem dX4_happens_86 : decode cX4_happens 86 = .ok (.invokevirtual 346, 3) := dk_182 1 90 (dk_at dksX4_happens_3 14 rfl rfl)
theorem dX4_happens_89 : decode cX4_happens 89 = .ok (.aload_n 0, 1) := dk_42 (dk_at dksX4_happens_3 17 rfl rfl)
theorem dX4_happens_90 : decode cX4_happens 90 = .ok (.iload_n 3, 1) := dk_29 (dk_at dksX4_happens_3 18 rfl rfl)
theorem dX4_happens_91 : decode cX4_happens 91 = .ok (.bipush 8, 2) := dk_16 8 (dk_at dksX4_happens_3 19 rfl rfl)
theorem dX4_happens_93 : decode cX4_happens 93 = .ok (.aload_n 0, 1) := dk_42 (dk_at dksX4_happens_3 21 rfl rfl)
theorem dX4_happens_94 : decode cX4_happens 94 = .ok (.getfield 59, 3) := dk_180 0 59 (dk_at dksX4_happens_4 0 rfl rfl)
theorem dX4_happens_97 : decode cX4_happens 97 = .ok (.iload_n 2, 1) := dk_28 (dk_at dksX4_happens_4 3 rfl rfl)
theorem dX4_happens_98 : decode cX4_happens 98 = .ok (.iaload, 1) := dk_46 (dk_at dksX4_happens_4 4 rfl rfl)
theorem dX4_happens_99 : decode cX4_happens 99 = .ok (.invokevirtual 346, 3) := dk_182 1 90 (dk_at dksX4_happens_4 5 rfl rfl)
theorem dX4_happens_102 : decode cX4_happens 102 = .ok (.goto 57, 3) := dk_167 0 57 (dk_at dksX4_happens_4 8 rfl rfl)
theorem dX4_happens_105 : decode cX4_happens 105 = .ok (.aload_n 0, 1) := dk_42 (dk_at dksX4_happens_4 11 rfl rfl)
theorem dX4_happens_106 : decode cX4_happens 106 = .ok (.iload_n 1, 1) := dk_27 (dk_at dksX4_happens_4 12 rfl rfl)
theorem dX4_happens_107 : decode cX4_happens 107 = .ok (.iload_n 3, 1) := dk_29 (dk_at dksX4_happens_4 13 rfl rfl)
theorem dX4_happens_108 : decode cX4_happens 108 = .ok (.aload_n 0, 1) := dk_42 (dk_at dksX4_happens_4 14 rfl rfl)
theorem dX4_happens_109 : decode cX4_happens 109 = .ok (.getfield 117, 3) := dk_180 0 117 (dk_at dksX4_happens_4 15 rfl rfl)
theorem dX4_happens_112 : decode cX4_happens 112 = .ok (.invokevirtual 356, 3) := dk_182 1 100 (dk_at dksX4_happens_4 18 rfl rfl)
theorem dX4_happens_115 : decode cX4_happens 115 = .ok (.aload_n 0, 1) := dk_42 (dk_at dksX4_happens_4 21 rfl rfl)
theorem dX4_happens_116 : decode cX4_happens 116 = .ok (.iload_n 3, 1) := dk_29 (dk_at dksX4_happens_4 22 rfl rfl)
theorem dX4_happens_117 : decode cX4_happens 117 = .ok (.iconst 0, 1) := dk_3 (dk_at dksX4_happens_4 23 rfl rfl)
theorem dX4_happens_118 : decode cX4_happens 118 = .ok (.iconst 2, 1) := dk_5 (dk_at dksX4_happens_5 0 rfl rfl)
theorem dX4_happens_119 : decode cX4_happens 119 = .ok (.invokevirtual 346, 3) := dk_182 1 90 (dk_at dksX4_happens_5 1 rfl rfl)
theorem dX4_happens_122 : decode cX4_happens 122 = .ok (.aload_n 0, 1) := dk_42 (dk_at dksX4_happens_5 4 rfl rfl)
theorem dX4_happens_123 : decode cX4_happens 123 = .ok (.iload_n 3, 1) := dk_29 (dk_at dksX4_happens_5 5 rfl rfl)
theorem dX4_happens_124 : decode cX4_happens 124 = .ok (.bipush 8, 2) := dk_16 8 (dk_at dksX4_happens_5 6 rfl rfl)
theorem dX4_happens_126 : decode cX4_happens 126 = .ok (.aload_n 0, 1) := dk_42 (dk_at dksX4_happens_5 8 rfl rfl)
theorem dX4_happens_127 : decode cX4_happens 127 = .ok (.getfield 59, 3) := dk_180 0 59 (dk_at dksX4_happens_5 9 rfl rfl)
theorem dX4_happens_130 : decode cX4_happens 130 = .ok (.iload_n 2, 1) := dk_28 (dk_at dksX4_happens_5 12 rfl rfl)
theorem dX4_happens_131 : decode cX4_happens 131 = .ok (.iaload, 1) := dk_46 (dk_at dksX4_happens_5 13 rfl rfl)
theorem dX4_happens_132 : decode cX4_happens 132 = .ok (.invokevirtual 346, 3) := dk_182 1 90 (dk_at dksX4_happens_5 14 rfl rfl)
theorem dX4_happens_135 : decode cX4_happens 135 = .ok (.aload_n 0, 1) := dk_42 (dk_at dksX4_happens_5 17 rfl rfl)
theorem dX4_happens_136 : decode cX4_happens 136 = .ok (.iload_n 1, 1) := dk_27 (dk_at dksX4_happens_5 18 rfl rfl)
theorem dX4_happens_137 : decode cX4_happens 137 = .ok (.bipush 25, 2) := dk_16 25 (dk_at dksX4_happens_5 19 rfl rfl)
theorem dX4_happens_139 : decode cX4_happens 139 = .ok (.aload_n 0, 1) := dk_42 (dk_at dksX4_happens_5 21 rfl rfl)
theorem dX4_happens_140 : decode cX4_happens 140 = .ok (.iload_n 1, 1) := dk_27 (dk_at dksX4_happens_5 22 rfl rfl)
theorem dX4_happens_141 : decode cX4_happens 141 = .ok (.bipush 24, 2) := dk_16 24 (dk_at dksX4_happens_6 0 rfl rfl)
theorem dX4_happens_143 : decode cX4_happens 143 = .ok (.invokevirtual 268, 3) := dk_182 1 12 (dk_at dksX4_happens_6 2 rfl rfl)
theorem dX4_happens_146 : decode cX4_happens 146 = .ok (.iadd, 1) := dk_96 (dk_at dksX4_happens_6 5 rfl rfl)
theorem dX4_happens_147 : decode cX4_happens 147 = .ok (.iload_n 3, 1) := dk_29 (dk_at dksX4_happens_6 6 rfl rfl)
theorem dX4_happens_148 : decode cX4_happens 148 = .ok (.invokevirtual 326, 3) := dk_182 1 70 (dk_at dksX4_happens_6 7 rfl rfl)
theorem dX4_happens_151 : decode cX4_happens 151 = .ok (.aload_n 0, 1) := dk_42 (dk_at dksX4_happens_6 10 rfl rfl)
theorem dX4_happens_152 : decode cX4_happens 152 = .ok (.iload_n 1, 1) := dk_27 (dk_at dksX4_happens_6 11 rfl rfl)
theorem dX4_happens_153 : decode cX4_happens 153 = .ok (.bipush 24, 2) := dk_16 24 (dk_at dksX4_happens_6 12 rfl rfl)
theorem dX4_happens_155 : decode cX4_happens 155 = .ok (.iconst 1, 1) := dk_4 (dk_at dksX4_happens_6 14 rfl rfl)
theorem dX4_happens_156 : decode cX4_happens 156 = .ok (.invokevirtual 336, 3) := dk_182 1 80 (dk_at dksX4_happens_6 15 rfl rfl)
theorem dX4_happens_159 : decode cX4_happens 159 = .ok (.aload_n 0, 1) := dk_42 (dk_at dksX4_happens_6 18 rfl rfl)
theorem dX4_happens_160 : decode cX4_happens 160 = .ok (.iload_n 1, 1) := dk_27 (dk_at dksX4_happens_6 19 rfl rfl)
theorem dX4_happens_161 : decode cX4_happens 161 = .ok (.iconst 0, 1) := dk_3 (dk_at dksX4_happens_6 20 rfl rfl)
theorem dX4_happens_162 : decode cX4_happens 162 = .ok (.aload_n 0, 1) := dk_42 (dk_at dksX4_happens_6 21 rfl rfl)
theorem dX4_happens_163 : decode cX4_happens 163 = .ok (.aload_n 0, 1) := dk_42 (dk_at dksX4_happens_6 22 rfl rfl)
theorem dX4_happens_164 : decode cX4_happens 164 = .ok (.getfield 50, 3) := dk_180 0 50 (dk_at dksX4_happens_7 0 rfl rfl)
theorem dX4_happens_167 : decode cX4_happens 167 = .ok (.iload_n 2, 1) := dk_28 (dk_at dksX4_happens_7 3 rfl rfl)
theorem dX4_happens_168 : decode cX4_happens 168 = .ok (.iaload, 1) := dk_46 (dk_at dksX4_happens_7 4 rfl rfl)
theorem dX4_happens_169 : decode cX4_happens 169 = .ok (.invokevirtual 283, 3) := dk_182 1 27 (dk_at dksX4_happens_7 5 rfl rfl)
theorem dX4_happens_172 : decode cX4_happens 172 = .ok (.invokevirtual 326, 3) := dk_182 1 70 (dk_at dksX4_happens_7 8 rfl rfl)
theorem dX4_happens_175 : decode cX4_happens 175 = .ok (.aload_n 0, 1) := dk_42 (dk_at dksX4_happens_7 11 rfl rfl)
theorem dX4_happens_176 : decode cX4_happens 176 = .ok (.iload_n 1, 1) := dk_27 (dk_at dksX4_happens_7 12 rfl rfl)
theorem dX4_happens_177 : decode cX4_happens 177 = .ok (.iconst 1, 1) := dk_4 (dk_at dksX4_happens_7 13 rfl rfl)
theorem dX4_happens_178 : decode cX4_happens 178 = .ok (.aload_n 0, 1) := dk_42 (dk_at dksX4_happens_7 14 rfl rfl)
theorem dX4_happens_179 : decode cX4_happens 179 = .ok (.getfield 59, 3) := dk_180 0 59 (dk_at dksX4_happens_7 15 rfl rfl)
theorem dX4_happens_182 : decode cX4_happens 182 = .ok (.iload_n 2, 1) := dk_28 (dk_at dksX4_happens_7 18 rfl rfl)
theorem dX4_happens_183 : decode cX4_happens 183 = .ok (.iaload, 1) := dk_46 (dk_at dksX4_happens_7 19 rfl rfl)
theorem dX4_happens_184 : decode cX4_happens 184 = .ok (.invokevirtual 326, 3) := dk_182 1 70 (dk_at dksX4_happens_7 20 rfl rfl)
theorem dX4_happens_187 : decode cX4_happens 187 = .ok (.aload_n 0, 1) := dk_42 (dk_at dksX4_happens_7 23 rfl rfl)
theorem dX4_happens_188 : decode cX4_happens 188 = .ok (.iload_n 1, 1) := dk_27 (dk_at dksX4_happens_8 0 rfl rfl)
theorem dX4_happens_189 : decode cX4_happens 189 = .ok (.iconst 2, 1) := dk_5 (dk_at dksX4_happens_8 1 rfl rfl)
theorem dX4_happens_190 : decode cX4_happens 190 = .ok (.aload_n 0, 1) := dk_42 (dk_at dksX4_happens_8 2 rfl rfl)
theorem dX4_happens_191 : decode cX4_happens 191 = .ok (.getfield 62, 3) := dk_180 0 62 (dk_at dksX4_happens_8 3 rfl rfl)
theorem dX4_happens_194 : decode cX4_happens 194 = .ok (.iload_n 2, 1) := dk_28 (dk_at dksX4_happens_8 6 rfl rfl)
theorem dX4_happens_195 : decode cX4_happens 195 = .ok (.iaload, 1) := dk_46 (dk_at dksX4_happens_8 7 rfl rfl)
theorem dX4_happens_196 : decode cX4_happens 196 = .ok (.invokevirtual 326, 3) := dk_182 1 70 (dk_at dksX4_happens_8 8 rfl rfl)
theorem dX4_happens_199 : decode cX4_happens 199 = .ok (.return_, 1) := dk_177 (dk_at dksX4_happens_8 11 rfl rfl)
abbrev cX4_pays : ByteArray := prog_25_method_56_code
def yX4_pays : MethodName := ⟨RX4, "pays", "(II)V"⟩
def dkwX4_pays_5 : List UInt8 := [132, 5, 1, 167, 255, 210, 177]
abbrev dktX4_pays_5 : List UInt8 := dkwX4_pays_5 ++ []
def dkwX4_pays_4 : List UInt8 := [16, 10, 42, 21, 6, 16, 10, 182, 1, 18, 21, 4, 29, 21, 5, 184, 1, 86, 96, 182, 1, 90]
abbrev dktX4_pays_4 : List UInt8 := dkwX4_pays_4 ++ dktX4_pays_5
def dkwX4_pays_3 : List UInt8 := [54, 5, 21, 5, 29, 162, 0, 46, 42, 27, 16, 25, 21, 5, 96, 182, 1, 12, 54, 6, 42, 21, 6]
abbrev dktX4_pays_3 : List UInt8 := dkwX4_pays_3 ++ dktX4_pays_4
def dkwX4_pays_2 : List UInt8 := [182, 1, 83, 54, 4, 42, 27, 16, 10, 21, 4, 182, 1, 80, 42, 27, 8, 21, 4, 182, 1, 80, 3]
abbrev dktX4_pays_2 : List UInt8 := dkwX4_pays_2 ++ dktX4_pays_3
def dkwX4_pays_1 : List UInt8 := [16, 8, 28, 182, 1, 80, 29, 4, 164, 0, 11, 42, 27, 16, 9, 28, 182, 1, 80, 42, 28, 29]
abbrev dktX4_pays_1 : List UInt8 := dkwX4_pays_1 ++ dktX4_pays_2
def dkwX4_pays_0 : List UInt8 := [42, 27, 16, 24, 182, 1, 12, 62, 42, 27, 16, 7, 28, 182, 1, 80, 29, 154, 0, 4, 177, 42, 27]
abbrev dktX4_pays_0 : List UInt8 := dkwX4_pays_0 ++ dktX4_pays_1
theorem dksX4_pays_0 : cX4_pays.data.toList.drop 0 = dktX4_pays_0 := by decide +kernel
theorem dksX4_pays_1 : cX4_pays.data.toList.drop 23 = dktX4_pays_1 := dk_seg dksX4_pays_0 23 rfl rfl
theorem dksX4_pays_2 : cX4_pays.data.toList.drop 45 = dktX4_pays_2 := dk_seg dksX4_pays_1 22 rfl rfl
theorem dksX4_pays_3 : cX4_pays.data.toList.drop 68 = dktX4_pays_3 := dk_seg dksX4_pays_2 23 rfl rfl
theorem dksX4_pays_4 : cX4_pays.data.toList.drop 91 = dktX4_pays_4 := dk_seg dksX4_pays_3 23 rfl rfl
theorem dksX4_pays_5 : cX4_pays.data.toList.drop 113 = dktX4_pays_5 := dk_seg dksX4_pays_4 22 rfl rfl
theorem dX4_pays_0 : decode cX4_pays 0 = .ok (.aload_n 0, 1) := dk_42 (dk_at dksX4_pays_0 0 rfl rfl)
theorem dX4_pays_1 : decode cX4_pays 1 = .ok (.iload_n 1, 1) := dk_27 (dk_at dksX4_pays_0 1 rfl rfl)
theorem dX4_pays_2 : decode cX4_pays 2 = .ok (.bipush 24, 2) := dk_16 24 (dk_at dksX4_pays_0 2 rfl rfl)
theorem dX4_pays_4 : decode cX4_pays 4 = .ok (.invokevirtual 268, 3) := dk_182 1 12 (dk_at dksX4_pays_0 4 rfl rfl)
theorem dX4_pays_7 : decode cX4_pays 7 = .ok (.istore_n 3, 1) := dk_62 (dk_at dksX4_pays_0 7 rfl rfl)
theorem dX4_pays_8 : decode cX4_pays 8 = .ok (.aload_n 0, 1) := dk_42 (dk_at dksX4_pays_0 8 rfl rfl)
theorem dX4_pays_9 : decode cX4_pays 9 = .ok (.iload_n 1, 1) := dk_27 (dk_at dksX4_pays_0 9 rfl rfl)
theorem dX4_pays_10 : decode cX4_pays 10 = .ok (.bipush 7, 2) := dk_16 7 (dk_at dksX4_pays_0 10 rfl rfl)
theorem dX4_pays_12 : decode cX4_pays 12 = .ok (.iload_n 2, 1) := dk_28 (dk_at dksX4_pays_0 12 rfl rfl)
theorem dX4_pays_13 : decode cX4_pays 13 = .ok (.invokevirtual 336, 3) := dk_182 1 80 (dk_at dksX4_pays_0 13 rfl rfl)
theorem dX4_pays_16 : decode cX4_pays 16 = .ok (.iload_n 3, 1) := dk_29 (dk_at dksX4_pays_0 16 rfl rfl)
theorem dX4_pays_17 : decode cX4_pays 17 = .ok (.ifCond .ne 4, 3) := dk_154 0 4 (dk_at dksX4_pays_0 17 rfl rfl)
theorem dX4_pays_20 : decode cX4_pays 20 = .ok (.return_, 1) := dk_177 (dk_at dksX4_pays_0 20 rfl rfl)
theorem dX4_pays_21 : decode cX4_pays 21 = .ok (.aload_n 0, 1) := dk_42 (dk_at dksX4_pays_0 21 rfl rfl)
theorem dX4_pays_22 : decode cX4_pays 22 = .ok (.iload_n 1, 1) := dk_27 (dk_at dksX4_pays_0 22 rfl rfl)
theorem dX4_pays_23 : decode cX4_pays 23 = .ok (.bipush 8, 2) := dk_16 8 (dk_at dksX4_pays_1 0 rfl rfl)
theorem dX4_pays_25 : decode cX4_pays 25 = .ok (.iload_n 2, 1) := dk_28 (dk_at dksX4_pays_1 2 rfl rfl)
theorem dX4_pays_26 : decode cX4_pays 26 = .ok (.invokevirtual 336, 3) := dk_182 1 80 (dk_at dksX4_pays_1 3 rfl rfl)
theorem dX4_pays_29 : decode cX4_pays 29 = .ok (.iload_n 3, 1) := dk_29 (dk_at dksX4_pays_1 6 rfl rfl)
theorem dX4_pays_30 : decode cX4_pays 30 = .ok (.iconst 1, 1) := dk_4 (dk_at dksX4_pays_1 7 rfl rfl)
theorem dX4_pays_31 : decode cX4_pays 31 = .ok (.if_icmp .le 11, 3) := dk_164 0 11 (dk_at dksX4_pays_1 8 rfl rfl)
theorem dX4_pays_34 : decode cX4_pays 34 = .ok (.aload_n 0, 1) := dk_42 (dk_at dksX4_pays_1 11 rfl rfl)
theorem dX4_pays_35 : decode cX4_pays 35 = .ok (.iload_n 1, 1) := dk_27 (dk_at dksX4_pays_1 12 rfl rfl)
theorem dX4_pays_36 : decode cX4_pays 36 = .ok (.bipush 9, 2) := dk_16 9 (dk_at dksX4_pays_1 13 rfl rfl)
theorem dX4_pays_38 : decode cX4_pays 38 = .ok (.iload_n 2, 1) := dk_28 (dk_at dksX4_pays_1 15 rfl rfl)
theorem dX4_pays_39 : decode cX4_pays 39 = .ok (.invokevirtual 336, 3) := dk_182 1 80 (dk_at dksX4_pays_1 16 rfl rfl)
theorem dX4_pays_42 : decode cX4_pays 42 = .ok (.aload_n 0, 1) := dk_42 (dk_at dksX4_pays_1 19 rfl rfl)
theorem dX4_pays_43 : decode cX4_pays 43 = .ok (.iload_n 2, 1) := dk_28 (dk_at dksX4_pays_1 20 rfl rfl)
theorem dX4_pays_44 : decode cX4_pays 44 = .ok (.iload_n 3, 1) := dk_29 (dk_at dksX4_pays_1 21 rfl rfl)
theorem dX4_pays_45 : decode cX4_pays 45 = .ok (.invokevirtual 339, 3) := dk_182 1 83 (dk_at dksX4_pays_2 0 rfl rfl)
theorem dX4_pays_48 : decode cX4_pays 48 = .ok (.istore 4, 2) := dk_54 4 (dk_at dksX4_pays_2 3 rfl rfl)
theorem dX4_pays_50 : decode cX4_pays 50 = .ok (.aload_n 0, 1) := dk_42 (dk_at dksX4_pays_2 5 rfl rfl)
theorem dX4_pays_51 : decode cX4_pays 51 = .ok (.iload_n 1, 1) := dk_27 (dk_at dksX4_pays_2 6 rfl rfl)
theorem dX4_pays_52 : decode cX4_pays 52 = .ok (.bipush 10, 2) := dk_16 10 (dk_at dksX4_pays_2 7 rfl rfl)
theorem dX4_pays_54 : decode cX4_pays 54 = .ok (.iload 4, 2) := dk_21 4 (dk_at dksX4_pays_2 9 rfl rfl)
theorem dX4_pays_56 : decode cX4_pays 56 = .ok (.invokevirtual 336, 3) := dk_182 1 80 (dk_at dksX4_pays_2 11 rfl rfl)
theorem dX4_pays_59 : decode cX4_pays 59 = .ok (.aload_n 0, 1) := dk_42 (dk_at dksX4_pays_2 14 rfl rfl)
theorem dX4_pays_60 : decode cX4_pays 60 = .ok (.iload_n 1, 1) := dk_27 (dk_at dksX4_pays_2 15 rfl rfl)
theorem dX4_pays_61 : decode cX4_pays 61 = .ok (.iconst 5, 1) := dk_8 (dk_at dksX4_pays_2 16 rfl rfl)
theorem dX4_pays_62 : decode cX4_pays 62 = .ok (.iload 4, 2) := dk_21 4 (dk_at dksX4_pays_2 17 rfl rfl)
theorem dX4_pays_64 : decode cX4_pays 64 = .ok (.invokevirtual 336, 3) := dk_182 1 80 (dk_at dksX4_pays_2 19 rfl rfl)
theorem dX4_pays_67 : decode cX4_pays 67 = .ok (.iconst 0, 1) := dk_3 (dk_at dksX4_pays_2 22 rfl rfl)
theorem dX4_pays_68 : decode cX4_pays 68 = .ok (.istore 5, 2) := dk_54 5 (dk_at dksX4_pays_3 0 rfl rfl)
theorem dX4_pays_70 : decode cX4_pays 70 = .ok (.iload 5, 2) := dk_21 5 (dk_at dksX4_pays_3 2 rfl rfl)
theorem dX4_pays_72 : decode cX4_pays 72 = .ok (.iload_n 3, 1) := dk_29 (dk_at dksX4_pays_3 4 rfl rfl)
theorem dX4_pays_73 : decode cX4_pays 73 = .ok (.if_icmp .ge 46, 3) := dk_162 0 46 (dk_at dksX4_pays_3 5 rfl rfl)
theorem dX4_pays_76 : decode cX4_pays 76 = .ok (.aload_n 0, 1) := dk_42 (dk_at dksX4_pays_3 8 rfl rfl)
theorem dX4_pays_77 : decode cX4_pays 77 = .ok (.iload_n 1, 1) := dk_27 (dk_at dksX4_pays_3 9 rfl rfl)
theorem dX4_pays_78 : decode cX4_pays 78 = .ok (.bipush 25, 2) := dk_16 25 (dk_at dksX4_pays_3 10 rfl rfl)
theorem dX4_pays_80 : decode cX4_pays 80 = .ok (.iload 5, 2) := dk_21 5 (dk_at dksX4_pays_3 12 rfl rfl)
theorem dX4_pays_82 : decode cX4_pays 82 = .ok (.iadd, 1) := dk_96 (dk_at dksX4_pays_3 14 rfl rfl)
theorem dX4_pays_83 : decode cX4_pays 83 = .ok (.invokevirtual 268, 3) := dk_182 1 12 (dk_at dksX4_pays_3 15 rfl rfl)
theorem dX4_pays_86 : decode cX4_pays 86 = .ok (.istore 6, 2) := dk_54 6 (dk_at dksX4_pays_3 18 rfl rfl)
theorem dX4_pays_88 : decode cX4_pays 88 = .ok (.aload_n 0, 1) := dk_42 (dk_at dksX4_pays_3 20 rfl rfl)
theorem dX4_pays_89 : decode cX4_pays 89 = .ok (.iload 6, 2) := dk_21 6 (dk_at dksX4_pays_3 21 rfl rfl)
theorem dX4_pays_91 : decode cX4_pays 91 = .ok (.bipush 10, 2) := dk_16 10 (dk_at dksX4_pays_4 0 rfl rfl)
theorem dX4_pays_93 : decode cX4_pays 93 = .ok (.aload_n 0, 1) := dk_42 (dk_at dksX4_pays_4 2 rfl rfl)
theorem dX4_pays_94 : decode cX4_pays 94 = .ok (.iload 6, 2) := dk_21 6 (dk_at dksX4_pays_4 3 rfl rfl)
theorem dX4_pays_96 : decode cX4_pays 96 = .ok (.bipush 10, 2) := dk_16 10 (dk_at dksX4_pays_4 5 rfl rfl)
theorem dX4_pays_98 : decode cX4_pays 98 = .ok (.invokevirtual 274, 3) := dk_182 1 18 (dk_at dksX4_pays_4 7 rfl rfl)
theorem dX4_pays_101 : decode cX4_pays 101 = .ok (.iload 4, 2) := dk_21 4 (dk_at dksX4_pays_4 10 rfl rfl)
theorem dX4_pays_103 : decode cX4_pays 103 = .ok (.iload_n 3, 1) := dk_29 (dk_at dksX4_pays_4 12 rfl rfl)
theorem dX4_pays_104 : decode cX4_pays 104 = .ok (.iload 5, 2) := dk_21 5 (dk_at dksX4_pays_4 13 rfl rfl)
theorem dX4_pays_106 : decode cX4_pays 106 = .ok (.invokestatic 342, 3) := dk_184 1 86 (dk_at dksX4_pays_4 15 rfl rfl)
theorem dX4_pays_109 : decode cX4_pays 109 = .ok (.iadd, 1) := dk_96 (dk_at dksX4_pays_4 18 rfl rfl)
theorem dX4_pays_110 : decode cX4_pays 110 = .ok (.invokevirtual 346, 3) := dk_182 1 90 (dk_at dksX4_pays_4 19 rfl rfl)
theorem dX4_pays_113 : decode cX4_pays 113 = .ok (.iinc 5 1, 3) := dk_132 5 1 (dk_at dksX4_pays_5 0 rfl rfl)
theorem dX4_pays_116 : decode cX4_pays 116 = .ok (.goto (-46), 3) := dk_167 255 210 (dk_at dksX4_pays_5 3 rfl rfl)
theorem dX4_pays_119 : decode cX4_pays 119 = .ok (.return_, 1) := dk_177 (dk_at dksX4_pays_5 6 rfl rfl)
abbrev cX4_grows : ByteArray := prog_25_method_14_code
def yX4_grows : MethodName := ⟨RX4, "grows", "(III)V"⟩
def dkwX4_grows_0 : List UInt8 := [42, 180, 0, 7, 16, 13, 16, 40, 27, 104, 96, 28, 96, 92, 46, 29, 96, 79, 177]
abbrev dktX4_grows_0 : List UInt8 := dkwX4_grows_0 ++ []
theorem dksX4_grows_0 : cX4_grows.data.toList.drop 0 = dktX4_grows_0 := by decide +kernel
theorem dX4_grows_0 : decode cX4_grows 0 = .ok (.aload_n 0, 1) := dk_42 (dk_at dksX4_grows_0 0 rfl rfl)
theorem dX4_grows_1 : decode cX4_grows 1 = .ok (.getfield 7, 3) := dk_180 0 7 (dk_at dksX4_grows_0 1 rfl rfl)
theorem dX4_grows_4 : decode cX4_grows 4 = .ok (.bipush 13, 2) := dk_16 13 (dk_at dksX4_grows_0 4 rfl rfl)
theorem dX4_grows_6 : decode cX4_grows 6 = .ok (.bipush 40, 2) := dk_16 40 (dk_at dksX4_grows_0 6 rfl rfl)
theorem dX4_grows_8 : decode cX4_grows 8 = .ok (.iload_n 1, 1) := dk_27 (dk_at dksX4_grows_0 8 rfl rfl)
theorem dX4_grows_9 : decode cX4_grows 9 = .ok (.imul, 1) := dk_104 (dk_at dksX4_grows_0 9 rfl rfl)
theorem dX4_grows_10 : decode cX4_grows 10 = .ok (.iadd, 1) := dk_96 (dk_at dksX4_grows_0 10 rfl rfl)
theorem dX4_grows_11 : decode cX4_grows 11 = .ok (.iload_n 2, 1) := dk_28 (dk_at dksX4_grows_0 11 rfl rfl)
theorem dX4_grows_12 : decode cX4_grows 12 = .ok (.iadd, 1) := dk_96 (dk_at dksX4_grows_0 12 rfl rfl)
theorem dX4_grows_13 : decode cX4_grows 13 = .ok (.dup2, 1) := dk_92 (dk_at dksX4_grows_0 13 rfl rfl)
theorem dX4_grows_14 : decode cX4_grows 14 = .ok (.iaload, 1) := dk_46 (dk_at dksX4_grows_0 14 rfl rfl)
theorem dX4_grows_15 : decode cX4_grows 15 = .ok (.iload_n 3, 1) := dk_29 (dk_at dksX4_grows_0 15 rfl rfl)
theorem dX4_grows_16 : decode cX4_grows 16 = .ok (.iadd, 1) := dk_96 (dk_at dksX4_grows_0 16 rfl rfl)
theorem dX4_grows_17 : decode cX4_grows 17 = .ok (.iastore, 1) := dk_79 (dk_at dksX4_grows_0 17 rfl rfl)
theorem dX4_grows_18 : decode cX4_grows 18 = .ok (.return_, 1) := dk_177 (dk_at dksX4_grows_0 18 rfl rfl)
abbrev cX4_getsOff : ByteArray := prog_25_method_58_code
def yX4_getsOff : MethodName := ⟨RX4, "getsOff", "(II)V"⟩
def dkwX4_getsOff_2 : List UInt8 := [182, 1, 70, 132, 3, 1, 132, 4, 1, 167, 255, 206, 42, 27, 16, 24, 29, 182, 1, 70, 177]
abbrev dktX4_getsOff_2 : List UInt8 := dkwX4_getsOff_2 ++ []
def dkwX4_getsOff_1 : List UInt8 := [182, 1, 12, 54, 5, 21, 5, 28, 160, 0, 6, 167, 0, 17, 42, 27, 16, 25, 29, 96, 21, 5]
abbrev dktX4_getsOff_1 : List UInt8 := dkwX4_getsOff_1 ++ dktX4_getsOff_2
def dkwX4_getsOff_0 : List UInt8 := [3, 62, 3, 54, 4, 21, 4, 42, 27, 16, 24, 182, 1, 12, 162, 0, 44, 42, 27, 16, 25, 21, 4, 96]
abbrev dktX4_getsOff_0 : List UInt8 := dkwX4_getsOff_0 ++ dktX4_getsOff_1
theorem dksX4_getsOff_0 : cX4_getsOff.data.toList.drop 0 = dktX4_getsOff_0 := by decide +kernel
theorem dksX4_getsOff_1 : cX4_getsOff.data.toList.drop 24 = dktX4_getsOff_1 := dk_seg dksX4_getsOff_0 24 rfl rfl
theorem dksX4_getsOff_2 : cX4_getsOff.data.toList.drop 46 = dktX4_getsOff_2 := dk_seg dksX4_getsOff_1 22 rfl rfl
theorem dX4_getsOff_0 : decode cX4_getsOff 0 = .ok (.iconst 0, 1) := dk_3 (dk_at dksX4_getsOff_0 0 rfl rfl)
theorem dX4_getsOff_1 : decode cX4_getsOff 1 = .ok (.istore_n 3, 1) := dk_62 (dk_at dksX4_getsOff_0 1 rfl rfl)
theorem dX4_getsOff_2 : decode cX4_getsOff 2 = .ok (.iconst 0, 1) := dk_3 (dk_at dksX4_getsOff_0 2 rfl rfl)
theorem dX4_getsOff_3 : decode cX4_getsOff 3 = .ok (.istore 4, 2) := dk_54 4 (dk_at dksX4_getsOff_0 3 rfl rfl)
theorem dX4_getsOff_5 : decode cX4_getsOff 5 = .ok (.iload 4, 2) := dk_21 4 (dk_at dksX4_getsOff_0 5 rfl rfl)
theorem dX4_getsOff_7 : decode cX4_getsOff 7 = .ok (.aload_n 0, 1) := dk_42 (dk_at dksX4_getsOff_0 7 rfl rfl)
theorem dX4_getsOff_8 : decode cX4_getsOff 8 = .ok (.iload_n 1, 1) := dk_27 (dk_at dksX4_getsOff_0 8 rfl rfl)
theorem dX4_getsOff_9 : decode cX4_getsOff 9 = .ok (.bipush 24, 2) := dk_16 24 (dk_at dksX4_getsOff_0 9 rfl rfl)
theorem dX4_getsOff_11 : decode cX4_getsOff 11 = .ok (.invokevirtual 268, 3) := dk_182 1 12 (dk_at dksX4_getsOff_0 11 rfl rfl)
theorem dX4_getsOff_14 : decode cX4_getsOff 14 = .ok (.if_icmp .ge 44, 3) := dk_162 0 44 (dk_at dksX4_getsOff_0 14 rfl rfl)
theorem dX4_getsOff_17 : decode cX4_getsOff 17 = .ok (.aload_n 0, 1) := dk_42 (dk_at dksX4_getsOff_0 17 rfl rfl)
theorem dX4_getsOff_18 : decode cX4_getsOff 18 = .ok (.iload_n 1, 1) := dk_27 (dk_at dksX4_getsOff_0 18 rfl rfl)
theorem dX4_getsOff_19 : decode cX4_getsOff 19 = .ok (.bipush 25, 2) := dk_16 25 (dk_at dksX4_getsOff_0 19 rfl rfl)
theorem dX4_getsOff_21 : decode cX4_getsOff 21 = .ok (.iload 4, 2) := dk_21 4 (dk_at dksX4_getsOff_0 21 rfl rfl)
theorem dX4_getsOff_23 : decode cX4_getsOff 23 = .ok (.iadd, 1) := dk_96 (dk_at dksX4_getsOff_0 23 rfl rfl)
theorem dX4_getsOff_24 : decode cX4_getsOff 24 = .ok (.invokevirtual 268, 3) := dk_182 1 12 (dk_at dksX4_getsOff_1 0 rfl rfl)
theorem dX4_getsOff_27 : decode cX4_getsOff 27 = .ok (.istore 5, 2) := dk_54 5 (dk_at dksX4_getsOff_1 3 rfl rfl)
theorem dX4_getsOff_29 : decode cX4_getsOff 29 = .ok (.iload 5, 2) := dk_21 5 (dk_at dksX4_getsOff_1 5 rfl rfl)
theorem dX4_getsOff_31 : decode cX4_getsOff 31 = .ok (.iload_n 2, 1) := dk_28 (dk_at dksX4_getsOff_1 7 rfl rfl)
theorem dX4_getsOff_32 : decode cX4_getsOff 32 = .ok (.if_icmp .ne 6, 3) := dk_160 0 6 (dk_at dksX4_getsOff_1 8 rfl rfl)
theorem dX4_getsOff_35 : decode cX4_getsOff 35 = .ok (.goto 17, 3) := dk_167 0 17 (dk_at dksX4_getsOff_1 11 rfl rfl)
theorem dX4_getsOff_38 : decode cX4_getsOff 38 = .ok (.aload_n 0, 1) := dk_42 (dk_at dksX4_getsOff_1 14 rfl rfl)
theorem dX4_getsOff_39 : decode cX4_getsOff 39 = .ok (.iload_n 1, 1) := dk_27 (dk_at dksX4_getsOff_1 15 rfl rfl)
theorem dX4_getsOff_40 : decode cX4_getsOff 40 = .ok (.bipush 25, 2) := dk_16 25 (dk_at dksX4_getsOff_1 16 rfl rfl)
theorem dX4_getsOff_42 : decode cX4_getsOff 42 = .ok (.iload_n 3, 1) := dk_29 (dk_at dksX4_getsOff_1 18 rfl rfl)
theorem dX4_getsOff_43 : decode cX4_getsOff 43 = .ok (.iadd, 1) := dk_96 (dk_at dksX4_getsOff_1 19 rfl rfl)
theorem dX4_getsOff_44 : decode cX4_getsOff 44 = .ok (.iload 5, 2) := dk_21 5 (dk_at dksX4_getsOff_1 20 rfl rfl)
theorem dX4_getsOff_46 : decode cX4_getsOff 46 = .ok (.invokevirtual 326, 3) := dk_182 1 70 (dk_at dksX4_getsOff_2 0 rfl rfl)
theorem dX4_getsOff_49 : decode cX4_getsOff 49 = .ok (.iinc 3 1, 3) := dk_132 3 1 (dk_at dksX4_getsOff_2 3 rfl rfl)
theorem dX4_getsOff_52 : decode cX4_getsOff 52 = .ok (.iinc 4 1, 3) := dk_132 4 1 (dk_at dksX4_getsOff_2 6 rfl rfl)
theorem dX4_getsOff_55 : decode cX4_getsOff 55 = .ok (.goto (-50), 3) := dk_167 255 206 (dk_at dksX4_getsOff_2 9 rfl rfl)
theorem dX4_getsOff_58 : decode cX4_getsOff 58 = .ok (.aload_n 0, 1) := dk_42 (dk_at dksX4_getsOff_2 12 rfl rfl)
theorem dX4_getsOff_59 : decode cX4_getsOff 59 = .ok (.iload_n 1, 1) := dk_27 (dk_at dksX4_getsOff_2 13 rfl rfl)
theorem dX4_getsOff_60 : decode cX4_getsOff 60 = .ok (.bipush 24, 2) := dk_16 24 (dk_at dksX4_getsOff_2 14 rfl rfl)
theorem dX4_getsOff_62 : decode cX4_getsOff 62 = .ok (.iload_n 3, 1) := dk_29 (dk_at dksX4_getsOff_2 16 rfl rfl)
theorem dX4_getsOff_63 : decode cX4_getsOff 63 = .ok (.invokevirtual 326, 3) := dk_182 1 70 (dk_at dksX4_getsOff_2 17 rfl rfl)
theorem dX4_getsOff_66 : decode cX4_getsOff 66 = .ok (.return_, 1) := dk_177 (dk_at dksX4_getsOff_2 20 rfl rfl)
abbrev cX4_charges : ByteArray := prog_25_method_57_code
def yX4_charges : MethodName := ⟨RX4, "charges", "(III)V"⟩
def dkwX4_charges_0 : List UInt8 := [42, 28, 16, 10, 42, 28, 16, 10, 182, 1, 18, 29, 96, 182, 1, 90, 42, 27, 8, 29, 182, 1, 80, 177]
abbrev dktX4_charges_0 : List UInt8 := dkwX4_charges_0 ++ []
theorem dksX4_charges_0 : cX4_charges.data.toList.drop 0 = dktX4_charges_0 := by decide +kernel
theorem dX4_charges_0 : decode cX4_charges 0 = .ok (.aload_n 0, 1) := dk_42 (dk_at dksX4_charges_0 0 rfl rfl)
theorem dX4_charges_1 : decode cX4_charges 1 = .ok (.iload_n 2, 1) := dk_28 (dk_at dksX4_charges_0 1 rfl rfl)
theorem dX4_charges_2 : decode cX4_charges 2 = .ok (.bipush 10, 2) := dk_16 10 (dk_at dksX4_charges_0 2 rfl rfl)
theorem dX4_charges_4 : decode cX4_charges 4 = .ok (.aload_n 0, 1) := dk_42 (dk_at dksX4_charges_0 4 rfl rfl)
theorem dX4_charges_5 : decode cX4_charges 5 = .ok (.iload_n 2, 1) := dk_28 (dk_at dksX4_charges_0 5 rfl rfl)
theorem dX4_charges_6 : decode cX4_charges 6 = .ok (.bipush 10, 2) := dk_16 10 (dk_at dksX4_charges_0 6 rfl rfl)
theorem dX4_charges_8 : decode cX4_charges 8 = .ok (.invokevirtual 274, 3) := dk_182 1 18 (dk_at dksX4_charges_0 8 rfl rfl)
theorem dX4_charges_11 : decode cX4_charges 11 = .ok (.iload_n 3, 1) := dk_29 (dk_at dksX4_charges_0 11 rfl rfl)
theorem dX4_charges_12 : decode cX4_charges 12 = .ok (.iadd, 1) := dk_96 (dk_at dksX4_charges_0 12 rfl rfl)
theorem dX4_charges_13 : decode cX4_charges 13 = .ok (.invokevirtual 346, 3) := dk_182 1 90 (dk_at dksX4_charges_0 13 rfl rfl)
theorem dX4_charges_16 : decode cX4_charges 16 = .ok (.aload_n 0, 1) := dk_42 (dk_at dksX4_charges_0 16 rfl rfl)
theorem dX4_charges_17 : decode cX4_charges 17 = .ok (.iload_n 1, 1) := dk_27 (dk_at dksX4_charges_0 17 rfl rfl)
theorem dX4_charges_18 : decode cX4_charges 18 = .ok (.iconst 5, 1) := dk_8 (dk_at dksX4_charges_0 18 rfl rfl)
theorem dX4_charges_19 : decode cX4_charges 19 = .ok (.iload_n 3, 1) := dk_29 (dk_at dksX4_charges_0 19 rfl rfl)
theorem dX4_charges_20 : decode cX4_charges 20 = .ok (.invokevirtual 336, 3) := dk_182 1 80 (dk_at dksX4_charges_0 20 rfl rfl)
theorem dX4_charges_23 : decode cX4_charges 23 = .ok (.return_, 1) := dk_177 (dk_at dksX4_charges_0 23 rfl rfl)
abbrev cX4_tip : ByteArray := prog_25_method_91_code
def yX4_tip : MethodName := ⟨RX4, "tip", "(II)I"⟩
def dkwX4_tip_3 : List UInt8 := [182, 1, 80, 42, 27, 8, 182, 1, 12, 172]
abbrev dktX4_tip_3 : List UInt8 := dkwX4_tip_3 ++ []
def dkwX4_tip_2 : List UInt8 := [158, 0, 6, 16, 251, 172, 42, 182, 1, 146, 42, 27, 8, 28, 182, 1, 80, 42, 27, 16, 6, 28]
abbrev dktX4_tip_2 : List UInt8 := dkwX4_tip_2 ++ dktX4_tip_3
def dkwX4_tip_1 : List UInt8 := [182, 1, 0, 153, 0, 5, 3, 172, 42, 27, 8, 182, 1, 12, 133, 28, 133, 97, 20, 1, 163, 148]
abbrev dktX4_tip_1 : List UInt8 := dkwX4_tip_1 ++ dktX4_tip_2
def dkwX4_tip_0 : List UInt8 := [42, 3, 181, 0, 93, 42, 27, 182, 1, 119, 154, 0, 20, 42, 28, 133, 10, 20, 1, 163, 184, 0, 197, 5]
abbrev dktX4_tip_0 : List UInt8 := dkwX4_tip_0 ++ dktX4_tip_1
theorem dksX4_tip_0 : cX4_tip.data.toList.drop 0 = dktX4_tip_0 := by decide +kernel
theorem dksX4_tip_1 : cX4_tip.data.toList.drop 24 = dktX4_tip_1 := dk_seg dksX4_tip_0 24 rfl rfl
theorem dksX4_tip_2 : cX4_tip.data.toList.drop 46 = dktX4_tip_2 := dk_seg dksX4_tip_1 22 rfl rfl
theorem dksX4_tip_3 : cX4_tip.data.toList.drop 68 = dktX4_tip_3 := dk_seg dksX4_tip_2 22 rfl rfl
theorem dX4_tip_0 : decode cX4_tip 0 = .ok (.aload_n 0, 1) := dk_42 (dk_at dksX4_tip_0 0 rfl rfl)
theorem dX4_tip_1 : decode cX4_tip 1 = .ok (.iconst 0, 1) := dk_3 (dk_at dksX4_tip_0 1 rfl rfl)
theorem dX4_tip_2 : decode cX4_tip 2 = .ok (.putfield 93, 3) := dk_181 0 93 (dk_at dksX4_tip_0 2 rfl rfl)
theorem dX4_tip_5 : decode cX4_tip 5 = .ok (.aload_n 0, 1) := dk_42 (dk_at dksX4_tip_0 5 rfl rfl)
theorem dX4_tip_6 : decode cX4_tip 6 = .ok (.iload_n 1, 1) := dk_27 (dk_at dksX4_tip_0 6 rfl rfl)
theorem dX4_tip_7 : decode cX4_tip 7 = .ok (.invokevirtual 375, 3) := dk_182 1 119 (dk_at dksX4_tip_0 7 rfl rfl)
theorem dX4_tip_10 : decode cX4_tip 10 = .ok (.ifCond .ne 20, 3) := dk_154 0 20 (dk_at dksX4_tip_0 10 rfl rfl)
theorem dX4_tip_13 : decode cX4_tip 13 = .ok (.aload_n 0, 1) := dk_42 (dk_at dksX4_tip_0 13 rfl rfl)
theorem dX4_tip_14 : decode cX4_tip 14 = .ok (.iload_n 2, 1) := dk_28 (dk_at dksX4_tip_0 14 rfl rfl)
theorem dX4_tip_15 : decode cX4_tip 15 = .ok (.i2l, 1) := dk_133 (dk_at dksX4_tip_0 15 rfl rfl)
theorem dX4_tip_16 : decode cX4_tip 16 = .ok (.lconst 1, 1) := dk_10 (dk_at dksX4_tip_0 16 rfl rfl)
theorem dX4_tip_17 : decode cX4_tip 17 = .ok (.ldc2_w 419, 3) := dk_20 1 163 (dk_at dksX4_tip_0 17 rfl rfl)
theorem dX4_tip_20 : decode cX4_tip 20 = .ok (.invokestatic 197, 3) := dk_184 0 197 (dk_at dksX4_tip_0 20 rfl rfl)
theorem dX4_tip_23 : decode cX4_tip 23 = .ok (.iconst 2, 1) := dk_5 (dk_at dksX4_tip_0 23 rfl rfl)
theorem dX4_tip_24 : decode cX4_tip 24 = .ok (.invokevirtual 256, 3) := dk_182 1 0 (dk_at dksX4_tip_1 0 rfl rfl)
theorem dX4_tip_27 : decode cX4_tip 27 = .ok (.ifCond .eq 5, 3) := dk_153 0 5 (dk_at dksX4_tip_1 3 rfl rfl)
theorem dX4_tip_30 : decode cX4_tip 30 = .ok (.iconst 0, 1) := dk_3 (dk_at dksX4_tip_1 6 rfl rfl)
theorem dX4_tip_31 : decode cX4_tip 31 = .ok (.ireturn, 1) := dk_172 (dk_at dksX4_tip_1 7 rfl rfl)
theorem dX4_tip_32 : decode cX4_tip 32 = .ok (.aload_n 0, 1) := dk_42 (dk_at dksX4_tip_1 8 rfl rfl)
theorem dX4_tip_33 : decode cX4_tip 33 = .ok (.iload_n 1, 1) := dk_27 (dk_at dksX4_tip_1 9 rfl rfl)
theorem dX4_tip_34 : decode cX4_tip 34 = .ok (.iconst 5, 1) := dk_8 (dk_at dksX4_tip_1 10 rfl rfl)
theorem dX4_tip_35 : decode cX4_tip 35 = .ok (.invokevirtual 268, 3) := dk_182 1 12 (dk_at dksX4_tip_1 11 rfl rfl)
theorem dX4_tip_38 : decode cX4_tip 38 = .ok (.i2l, 1) := dk_133 (dk_at dksX4_tip_1 14 rfl rfl)
theorem dX4_tip_39 : decode cX4_tip 39 = .ok (.iload_n 2, 1) := dk_28 (dk_at dksX4_tip_1 15 rfl rfl)
theorem dX4_tip_40 : decode cX4_tip 40 = .ok (.i2l, 1) := dk_133 (dk_at dksX4_tip_1 16 rfl rfl)
theorem dX4_tip_41 : decode cX4_tip 41 = .ok (.ladd, 1) := dk_97 (dk_at dksX4_tip_1 17 rfl rfl)
theorem dX4_tip_42 : decode cX4_tip 42 = .ok (.ldc2_w 419, 3) := dk_20 1 163 (dk_at dksX4_tip_1 18 rfl rfl)
theorem dX4_tip_45 : decode cX4_tip 45 = .ok (.lcmp, 1) := dk_148 (dk_at dksX4_tip_1 21 rfl rfl)
theorem dX4_tip_46 : decode cX4_tip 46 = .ok (.ifCond .le 6, 3) := dk_158 0 6 (dk_at dksX4_tip_2 0 rfl rfl)
theorem dX4_tip_49 : decode cX4_tip 49 = .ok (.bipush (-5), 2) := dk_16 251 (dk_at dksX4_tip_2 3 rfl rfl)
theorem dX4_tip_51 : decode cX4_tip 51 = .ok (.ireturn, 1) := dk_172 (dk_at dksX4_tip_2 5 rfl rfl)
theorem dX4_tip_52 : decode cX4_tip 52 = .ok (.aload_n 0, 1) := dk_42 (dk_at dksX4_tip_2 6 rfl rfl)
theorem dX4_tip_53 : decode cX4_tip 53 = .ok (.invokevirtual 402, 3) := dk_182 1 146 (dk_at dksX4_tip_2 7 rfl rfl)
theorem dX4_tip_56 : decode cX4_tip 56 = .ok (.aload_n 0, 1) := dk_42 (dk_at dksX4_tip_2 10 rfl rfl)
theorem dX4_tip_57 : decode cX4_tip 57 = .ok (.iload_n 1, 1) := dk_27 (dk_at dksX4_tip_2 11 rfl rfl)
theorem dX4_tip_58 : decode cX4_tip 58 = .ok (.iconst 5, 1) := dk_8 (dk_at dksX4_tip_2 12 rfl rfl)
theorem dX4_tip_59 : decode cX4_tip 59 = .ok (.iload_n 2, 1) := dk_28 (dk_at dksX4_tip_2 13 rfl rfl)
theorem dX4_tip_60 : decode cX4_tip 60 = .ok (.invokevirtual 336, 3) := dk_182 1 80 (dk_at dksX4_tip_2 14 rfl rfl)
theorem dX4_tip_63 : decode cX4_tip 63 = .ok (.aload_n 0, 1) := dk_42 (dk_at dksX4_tip_2 17 rfl rfl)
theorem dX4_tip_64 : decode cX4_tip 64 = .ok (.iload_n 1, 1) := dk_27 (dk_at dksX4_tip_2 18 rfl rfl)
theorem dX4_tip_65 : decode cX4_tip 65 = .ok (.bipush 6, 2) := dk_16 6 (dk_at dksX4_tip_2 19 rfl rfl)
theorem dX4_tip_67 : decode cX4_tip 67 = .ok (.iload_n 2, 1) := dk_28 (dk_at dksX4_tip_2 21 rfl rfl)
theorem dX4_tip_68 : decode cX4_tip 68 = .ok (.invokevirtual 336, 3) := dk_182 1 80 (dk_at dksX4_tip_3 0 rfl rfl)
theorem dX4_tip_71 : decode cX4_tip 71 = .ok (.aload_n 0, 1) := dk_42 (dk_at dksX4_tip_3 3 rfl rfl)
theorem dX4_tip_72 : decode cX4_tip 72 = .ok (.iload_n 1, 1) := dk_27 (dk_at dksX4_tip_3 4 rfl rfl)
theorem dX4_tip_73 : decode cX4_tip 73 = .ok (.iconst 5, 1) := dk_8 (dk_at dksX4_tip_3 5 rfl rfl)
theorem dX4_tip_74 : decode cX4_tip 74 = .ok (.invokevirtual 268, 3) := dk_182 1 12 (dk_at dksX4_tip_3 6 rfl rfl)
theorem dX4_tip_77 : decode cX4_tip 77 = .ok (.ireturn, 1) := dk_172 (dk_at dksX4_tip_3 9 rfl rfl)
abbrev cX4_setRate : ByteArray := prog_25_method_92_code
def yX4_setRate : MethodName := ⟨RX4, "setRate", "(I)I"⟩
def dkwX4_setRate_1 : List UInt8 := [42, 182, 1, 146, 42, 180, 0, 7, 5, 46, 61, 42, 180, 0, 7, 5, 27, 79, 28, 172]
abbrev dktX4_setRate_1 : List UInt8 := dkwX4_setRate_1 ++ []
def dkwX4_setRate_0 : List UInt8 := [42, 3, 181, 0, 93, 42, 27, 133, 9, 20, 1, 165, 184, 0, 197, 4, 182, 1, 0, 153, 0, 5, 3, 172]
abbrev dktX4_setRate_0 : List UInt8 := dkwX4_setRate_0 ++ dktX4_setRate_1
theorem dksX4_setRate_0 : cX4_setRate.data.toList.drop 0 = dktX4_setRate_0 := by decide +kernel
theorem dksX4_setRate_1 : cX4_setRate.data.toList.drop 24 = dktX4_setRate_1 := dk_seg dksX4_setRate_0 24 rfl rfl
theorem dX4_setRate_0 : decode cX4_setRate 0 = .ok (.aload_n 0, 1) := dk_42 (dk_at dksX4_setRate_0 0 rfl rfl)
theorem dX4_setRate_1 : decode cX4_setRate 1 = .ok (.iconst 0, 1) := dk_3 (dk_at dksX4_setRate_0 1 rfl rfl)
theorem dX4_setRate_2 : decode cX4_setRate 2 = .ok (.putfield 93, 3) := dk_181 0 93 (dk_at dksX4_setRate_0 2 rfl rfl)
theorem dX4_setRate_5 : decode cX4_setRate 5 = .ok (.aload_n 0, 1) := dk_42 (dk_at dksX4_setRate_0 5 rfl rfl)
theorem dX4_setRate_6 : decode cX4_setRate 6 = .ok (.iload_n 1, 1) := dk_27 (dk_at dksX4_setRate_0 6 rfl rfl)
theorem dX4_setRate_7 : decode cX4_setRate 7 = .ok (.i2l, 1) := dk_133 (dk_at dksX4_setRate_0 7 rfl rfl)
theorem dX4_setRate_8 : decode cX4_setRate 8 = .ok (.lconst 0, 1) := dk_9 (dk_at dksX4_setRate_0 8 rfl rfl)
theorem dX4_setRate_9 : decode cX4_setRate 9 = .ok (.ldc2_w 421, 3) := dk_20 1 165 (dk_at dksX4_setRate_0 9 rfl rfl)
theorem dX4_setRate_12 : decode cX4_setRate 12 = .ok (.invokestatic 197, 3) := dk_184 0 197 (dk_at dksX4_setRate_0 12 rfl rfl)
theorem dX4_setRate_15 : decode cX4_setRate 15 = .ok (.iconst 1, 1) := dk_4 (dk_at dksX4_setRate_0 15 rfl rfl)
theorem dX4_setRate_16 : decode cX4_setRate 16 = .ok (.invokevirtual 256, 3) := dk_182 1 0 (dk_at dksX4_setRate_0 16 rfl rfl)
theorem dX4_setRate_19 : decode cX4_setRate 19 = .ok (.ifCond .eq 5, 3) := dk_153 0 5 (dk_at dksX4_setRate_0 19 rfl rfl)
theorem dX4_setRate_22 : decode cX4_setRate 22 = .ok (.iconst 0, 1) := dk_3 (dk_at dksX4_setRate_0 22 rfl rfl)
theorem dX4_setRate_23 : decode cX4_setRate 23 = .ok (.ireturn, 1) := dk_172 (dk_at dksX4_setRate_0 23 rfl rfl)
theorem dX4_setRate_24 : decode cX4_setRate 24 = .ok (.aload_n 0, 1) := dk_42 (dk_at dksX4_setRate_1 0 rfl rfl)
theorem dX4_setRate_25 : decode cX4_setRate 25 = .ok (.invokevirtual 402, 3) := dk_182 1 146 (dk_at dksX4_setRate_1 1 rfl rfl)
theorem dX4_setRate_28 : decode cX4_setRate 28 = .ok (.aload_n 0, 1) := dk_42 (dk_at dksX4_setRate_1 4 rfl rfl)
theorem dX4_setRate_29 : decode cX4_setRate 29 = .ok (.getfield 7, 3) := dk_180 0 7 (dk_at dksX4_setRate_1 5 rfl rfl)
theorem dX4_setRate_32 : decode cX4_setRate 32 = .ok (.iconst 2, 1) := dk_5 (dk_at dksX4_setRate_1 8 rfl rfl)
theorem dX4_setRate_33 : decode cX4_setRate 33 = .ok (.iaload, 1) := dk_46 (dk_at dksX4_setRate_1 9 rfl rfl)
theorem dX4_setRate_34 : decode cX4_setRate 34 = .ok (.istore_n 2, 1) := dk_61 (dk_at dksX4_setRate_1 10 rfl rfl)
theorem dX4_setRate_35 : decode cX4_setRate 35 = .ok (.aload_n 0, 1) := dk_42 (dk_at dksX4_setRate_1 11 rfl rfl)
theorem dX4_setRate_36 : decode cX4_setRate 36 = .ok (.getfield 7, 3) := dk_180 0 7 (dk_at dksX4_setRate_1 12 rfl rfl)
theorem dX4_setRate_39 : decode cX4_setRate 39 = .ok (.iconst 2, 1) := dk_5 (dk_at dksX4_setRate_1 15 rfl rfl)
theorem dX4_setRate_40 : decode cX4_setRate 40 = .ok (.iload_n 1, 1) := dk_27 (dk_at dksX4_setRate_1 16 rfl rfl)
theorem dX4_setRate_41 : decode cX4_setRate 41 = .ok (.iastore, 1) := dk_79 (dk_at dksX4_setRate_1 17 rfl rfl)
theorem dX4_setRate_42 : decode cX4_setRate 42 = .ok (.iload_n 2, 1) := dk_28 (dk_at dksX4_setRate_1 18 rfl rfl)
theorem dX4_setRate_43 : decode cX4_setRate 43 = .ok (.ireturn, 1) := dk_172 (dk_at dksX4_setRate_1 19 rfl rfl)
abbrev cX4_setEnd : ByteArray := prog_25_method_93_code
def yX4_setEnd : MethodName := ⟨RX4, "setEnd", "(II)I"⟩
def dkwX4_setEnd_2 : List UInt8 := [182, 1, 12, 62, 42, 27, 7, 28, 182, 1, 70, 29, 172]
abbrev dktX4_setEnd_2 : List UInt8 := dkwX4_setEnd_2 ++ []
def dkwX4_setEnd_1 : List UInt8 := [133, 20, 0, 219, 184, 0, 197, 5, 182, 1, 0, 153, 0, 5, 3, 172, 42, 182, 1, 146, 42, 27, 7]
abbrev dktX4_setEnd_1 : List UInt8 := dkwX4_setEnd_1 ++ dktX4_setEnd_2
def dkwX4_setEnd_0 : List UInt8 := [42, 3, 181, 0, 93, 42, 27, 182, 1, 119, 154, 0, 28, 42, 28, 133, 42, 180, 0, 40, 27, 46, 4, 96]
abbrev dktX4_setEnd_0 : List UInt8 := dkwX4_setEnd_0 ++ dktX4_setEnd_1
theorem dksX4_setEnd_0 : cX4_setEnd.data.toList.drop 0 = dktX4_setEnd_0 := by decide +kernel
theorem dksX4_setEnd_1 : cX4_setEnd.data.toList.drop 24 = dktX4_setEnd_1 := dk_seg dksX4_setEnd_0 24 rfl rfl
theorem dksX4_setEnd_2 : cX4_setEnd.data.toList.drop 47 = dktX4_setEnd_2 := dk_seg dksX4_setEnd_1 23 rfl rfl
theorem dX4_setEnd_0 : decode cX4_setEnd 0 = .ok (.aload_n 0, 1) := dk_42 (dk_at dksX4_setEnd_0 0 rfl rfl)
theorem dX4_setEnd_1 : decode cX4_setEnd 1 = .ok (.iconst 0, 1) := dk_3 (dk_at dksX4_setEnd_0 1 rfl rfl)
theorem dX4_setEnd_2 : decode cX4_setEnd 2 = .ok (.putfield 93, 3) := dk_181 0 93 (dk_at dksX4_setEnd_0 2 rfl rfl)
theorem dX4_setEnd_5 : decode cX4_setEnd 5 = .ok (.aload_n 0, 1) := dk_42 (dk_at dksX4_setEnd_0 5 rfl rfl)
theorem dX4_setEnd_6 : decode cX4_setEnd 6 = .ok (.iload_n 1, 1) := dk_27 (dk_at dksX4_setEnd_0 6 rfl rfl)
theorem dX4_setEnd_7 : decode cX4_setEnd 7 = .ok (.invokevirtual 375, 3) := dk_182 1 119 (dk_at dksX4_setEnd_0 7 rfl rfl)
theorem dX4_setEnd_10 : decode cX4_setEnd 10 = .ok (.ifCond .ne 28, 3) := dk_154 0 28 (dk_at dksX4_setEnd_0 10 rfl rfl)
theorem dX4_setEnd_13 : decode cX4_setEnd 13 = .ok (.aload_n 0, 1) := dk_42 (dk_at dksX4_setEnd_0 13 rfl rfl)
theorem dX4_setEnd_14 : decode cX4_setEnd 14 = .ok (.iload_n 2, 1) := dk_28 (dk_at dksX4_setEnd_0 14 rfl rfl)
theorem dX4_setEnd_15 : decode cX4_setEnd 15 = .ok (.i2l, 1) := dk_133 (dk_at dksX4_setEnd_0 15 rfl rfl)
theorem dX4_setEnd_16 : decode cX4_setEnd 16 = .ok (.aload_n 0, 1) := dk_42 (dk_at dksX4_setEnd_0 16 rfl rfl)
theorem dX4_setEnd_17 : decode cX4_setEnd 17 = .ok (.getfield 40, 3) := dk_180 0 40 (dk_at dksX4_setEnd_0 17 rfl rfl)
theorem dX4_setEnd_20 : decode cX4_setEnd 20 = .ok (.iload_n 1, 1) := dk_27 (dk_at dksX4_setEnd_0 20 rfl rfl)
theorem dX4_setEnd_21 : decode cX4_setEnd 21 = .ok (.iaload, 1) := dk_46 (dk_at dksX4_setEnd_0 21 rfl rfl)
theorem dX4_setEnd_22 : decode cX4_setEnd 22 = .ok (.iconst 1, 1) := dk_4 (dk_at dksX4_setEnd_0 22 rfl rfl)
theorem dX4_setEnd_23 : decode cX4_setEnd 23 = .ok (.iadd, 1) := dk_96 (dk_at dksX4_setEnd_0 23 rfl rfl)
theorem dX4_setEnd_24 : decode cX4_setEnd 24 = .ok (.i2l, 1) := dk_133 (dk_at dksX4_setEnd_1 0 rfl rfl)
theorem dX4_setEnd_25 : decode cX4_setEnd 25 = .ok (.ldc2_w 219, 3) := dk_20 0 219 (dk_at dksX4_setEnd_1 1 rfl rfl)
theorem dX4_setEnd_28 : decode cX4_setEnd 28 = .ok (.invokestatic 197, 3) := dk_184 0 197 (dk_at dksX4_setEnd_1 4 rfl rfl)
theorem dX4_setEnd_31 : decode cX4_setEnd 31 = .ok (.iconst 2, 1) := dk_5 (dk_at dksX4_setEnd_1 7 rfl rfl)
theorem dX4_setEnd_32 : decode cX4_setEnd 32 = .ok (.invokevirtual 256, 3) := dk_182 1 0 (dk_at dksX4_setEnd_1 8 rfl rfl)
theorem dX4_setEnd_35 : decode cX4_setEnd 35 = .ok (.ifCond .eq 5, 3) := dk_153 0 5 (dk_at dksX4_setEnd_1 11 rfl rfl)
theorem dX4_setEnd_38 : decode cX4_setEnd 38 = .ok (.iconst 0, 1) := dk_3 (dk_at dksX4_setEnd_1 14 rfl rfl)
theorem dX4_setEnd_39 : decode cX4_setEnd 39 = .ok (.ireturn, 1) := dk_172 (dk_at dksX4_setEnd_1 15 rfl rfl)
theorem dX4_setEnd_40 : decode cX4_setEnd 40 = .ok (.aload_n 0, 1) := dk_42 (dk_at dksX4_setEnd_1 16 rfl rfl)
theorem dX4_setEnd_41 : decode cX4_setEnd 41 = .ok (.invokevirtual 402, 3) := dk_182 1 146 (dk_at dksX4_setEnd_1 17 rfl rfl)
theorem dX4_setEnd_44 : decode cX4_setEnd 44 = .ok (.aload_n 0, 1) := dk_42 (dk_at dksX4_setEnd_1 20 rfl rfl)
theorem dX4_setEnd_45 : decode cX4_setEnd 45 = .ok (.iload_n 1, 1) := dk_27 (dk_at dksX4_setEnd_1 21 rfl rfl)
theorem dX4_setEnd_46 : decode cX4_setEnd 46 = .ok (.iconst 4, 1) := dk_7 (dk_at dksX4_setEnd_1 22 rfl rfl)
theorem dX4_setEnd_47 : decode cX4_setEnd 47 = .ok (.invokevirtual 268, 3) := dk_182 1 12 (dk_at dksX4_setEnd_2 0 rfl rfl)
theorem dX4_setEnd_50 : decode cX4_setEnd 50 = .ok (.istore_n 3, 1) := dk_62 (dk_at dksX4_setEnd_2 3 rfl rfl)
theorem dX4_setEnd_51 : decode cX4_setEnd 51 = .ok (.aload_n 0, 1) := dk_42 (dk_at dksX4_setEnd_2 4 rfl rfl)
theorem dX4_setEnd_52 : decode cX4_setEnd 52 = .ok (.iload_n 1, 1) := dk_27 (dk_at dksX4_setEnd_2 5 rfl rfl)
theorem dX4_setEnd_53 : decode cX4_setEnd 53 = .ok (.iconst 4, 1) := dk_7 (dk_at dksX4_setEnd_2 6 rfl rfl)
theorem dX4_setEnd_54 : decode cX4_setEnd 54 = .ok (.iload_n 2, 1) := dk_28 (dk_at dksX4_setEnd_2 7 rfl rfl)
theorem dX4_setEnd_55 : decode cX4_setEnd 55 = .ok (.invokevirtual 326, 3) := dk_182 1 70 (dk_at dksX4_setEnd_2 8 rfl rfl)
theorem dX4_setEnd_58 : decode cX4_setEnd 58 = .ok (.iload_n 3, 1) := dk_29 (dk_at dksX4_setEnd_2 11 rfl rfl)
theorem dX4_setEnd_59 : decode cX4_setEnd 59 = .ok (.ireturn, 1) := dk_172 (dk_at dksX4_setEnd_2 12 rfl rfl)
abbrev cX4_setRule : ByteArray := prog_25_method_94_code
def yX4_setRule : MethodName := ⟨RX4, "setRule", "(II)I"⟩
def dkwX4_setRule_2 : List UInt8 := [182, 1, 146, 42, 27, 182, 1, 36, 62, 42, 180, 0, 7, 6, 27, 96, 28, 79, 29, 172]
abbrev dktX4_setRule_2 : List UInt8 := dkwX4_setRule_2 ++ []
def dkwX4_setRule_1 : List UInt8 := [133, 27, 184, 0, 225, 133, 27, 184, 0, 228, 133, 184, 0, 197, 5, 182, 1, 0, 153, 0, 5, 3, 172, 42]
abbrev dktX4_setRule_1 : List UInt8 := dkwX4_setRule_1 ++ dktX4_setRule_2
def dkwX4_setRule_0 : List UInt8 := [42, 3, 181, 0, 93, 42, 27, 133, 9, 20, 1, 114, 184, 0, 197, 4, 182, 1, 0, 154, 0, 26, 42, 28]
abbrev dktX4_setRule_0 : List UInt8 := dkwX4_setRule_0 ++ dktX4_setRule_1
theorem dksX4_setRule_0 : cX4_setRule.data.toList.drop 0 = dktX4_setRule_0 := by decide +kernel
theorem dksX4_setRule_1 : cX4_setRule.data.toList.drop 24 = dktX4_setRule_1 := dk_seg dksX4_setRule_0 24 rfl rfl
theorem dksX4_setRule_2 : cX4_setRule.data.toList.drop 48 = dktX4_setRule_2 := dk_seg dksX4_setRule_1 24 rfl rfl
theorem dX4_setRule_0 : decode cX4_setRule 0 = .ok (.aload_n 0, 1) := dk_42 (dk_at dksX4_setRule_0 0 rfl rfl)
theorem dX4_setRule_1 : decode cX4_setRule 1 = .ok (.iconst 0, 1) := dk_3 (dk_at dksX4_setRule_0 1 rfl rfl)
theorem dX4_setRule_2 : decode cX4_setRule 2 = .ok (.putfield 93, 3) := dk_181 0 93 (dk_at dksX4_setRule_0 2 rfl rfl)
theorem dX4_setRule_5 : decode cX4_setRule 5 = .ok (.aload_n 0, 1) := dk_42 (dk_at dksX4_setRule_0 5 rfl rfl)
theorem dX4_setRule_6 : decode cX4_setRule 6 = .ok (.iload_n 1, 1) := dk_27 (dk_at dksX4_setRule_0 6 rfl rfl)
theorem dX4_setRule_7 : decode cX4_setRule 7 = .ok (.i2l, 1) := dk_133 (dk_at dksX4_setRule_0 7 rfl rfl)
theorem dX4_setRule_8 : decode cX4_setRule 8 = .ok (.lconst 0, 1) := dk_9 (dk_at dksX4_setRule_0 8 rfl rfl)
theorem dX4_setRule_9 : decode cX4_setRule 9 = .ok (.ldc2_w 370, 3) := dk_20 1 114 (dk_at dksX4_setRule_0 9 rfl rfl)
theorem dX4_setRule_12 : decode cX4_setRule 12 = .ok (.invokestatic 197, 3) := dk_184 0 197 (dk_at dksX4_setRule_0 12 rfl rfl)
theorem dX4_setRule_15 : decode cX4_setRule 15 = .ok (.iconst 1, 1) := dk_4 (dk_at dksX4_setRule_0 15 rfl rfl)
theorem dX4_setRule_16 : decode cX4_setRule 16 = .ok (.invokevirtual 256, 3) := dk_182 1 0 (dk_at dksX4_setRule_0 16 rfl rfl)
theorem dX4_setRule_19 : decode cX4_setRule 19 = .ok (.ifCond .ne 26, 3) := dk_154 0 26 (dk_at dksX4_setRule_0 19 rfl rfl)
theorem dX4_setRule_22 : decode cX4_setRule 22 = .ok (.aload_n 0, 1) := dk_42 (dk_at dksX4_setRule_0 22 rfl rfl)
theorem dX4_setRule_23 : decode cX4_setRule 23 = .ok (.iload_n 2, 1) := dk_28 (dk_at dksX4_setRule_0 23 rfl rfl)
theorem dX4_setRule_24 : decode cX4_setRule 24 = .ok (.i2l, 1) := dk_133 (dk_at dksX4_setRule_1 0 rfl rfl)
theorem dX4_setRule_25 : decode cX4_setRule 25 = .ok (.iload_n 1, 1) := dk_27 (dk_at dksX4_setRule_1 1 rfl rfl)
theorem dX4_setRule_26 : decode cX4_setRule 26 = .ok (.invokestatic 225, 3) := dk_184 0 225 (dk_at dksX4_setRule_1 2 rfl rfl)
theorem dX4_setRule_29 : decode cX4_setRule 29 = .ok (.i2l, 1) := dk_133 (dk_at dksX4_setRule_1 5 rfl rfl)
theorem dX4_setRule_30 : decode cX4_setRule 30 = .ok (.iload_n 1, 1) := dk_27 (dk_at dksX4_setRule_1 6 rfl rfl)
theorem dX4_setRule_31 : decode cX4_setRule 31 = .ok (.invokestatic 228, 3) := dk_184 0 228 (dk_at dksX4_setRule_1 7 rfl rfl)
theorem dX4_setRule_34 : decode cX4_setRule 34 = .ok (.i2l, 1) := dk_133 (dk_at dksX4_setRule_1 10 rfl rfl)
theorem dX4_setRule_35 : decode cX4_setRule 35 = .ok (.invokestatic 197, 3) := dk_184 0 197 (dk_at dksX4_setRule_1 11 rfl rfl)
theorem dX4_setRule_38 : decode cX4_setRule 38 = .ok (.iconst 2, 1) := dk_5 (dk_at dksX4_setRule_1 14 rfl rfl)
theorem dX4_setRule_39 : decode cX4_setRule 39 = .ok (.invokevirtual 256, 3) := dk_182 1 0 (dk_at dksX4_setRule_1 15 rfl rfl)
theorem dX4_setRule_42 : decode cX4_setRule 42 = .ok (.ifCond .eq 5, 3) := dk_153 0 5 (dk_at dksX4_setRule_1 18 rfl rfl)
theorem dX4_setRule_45 : decode cX4_setRule 45 = .ok (.iconst 0, 1) := dk_3 (dk_at dksX4_setRule_1 21 rfl rfl)
theorem dX4_setRule_46 : decode cX4_setRule 46 = .ok (.ireturn, 1) := dk_172 (dk_at dksX4_setRule_1 22 rfl rfl)
theorem dX4_setRule_47 : decode cX4_setRule 47 = .ok (.aload_n 0, 1) := dk_42 (dk_at dksX4_setRule_1 23 rfl rfl)
theorem dX4_setRule_48 : decode cX4_setRule 48 = .ok (.invokevirtual 402, 3) := dk_182 1 146 (dk_at dksX4_setRule_2 0 rfl rfl)
theorem dX4_setRule_51 : decode cX4_setRule 51 = .ok (.aload_n 0, 1) := dk_42 (dk_at dksX4_setRule_2 3 rfl rfl)
theorem dX4_setRule_52 : decode cX4_setRule 52 = .ok (.iload_n 1, 1) := dk_27 (dk_at dksX4_setRule_2 4 rfl rfl)
theorem dX4_setRule_53 : decode cX4_setRule 53 = .ok (.invokevirtual 292, 3) := dk_182 1 36 (dk_at dksX4_setRule_2 5 rfl rfl)
theorem dX4_setRule_56 : decode cX4_setRule 56 = .ok (.istore_n 3, 1) := dk_62 (dk_at dksX4_setRule_2 8 rfl rfl)
theorem dX4_setRule_57 : decode cX4_setRule 57 = .ok (.aload_n 0, 1) := dk_42 (dk_at dksX4_setRule_2 9 rfl rfl)
theorem dX4_setRule_58 : decode cX4_setRule 58 = .ok (.getfield 7, 3) := dk_180 0 7 (dk_at dksX4_setRule_2 10 rfl rfl)
theorem dX4_setRule_61 : decode cX4_setRule 61 = .ok (.iconst 3, 1) := dk_6 (dk_at dksX4_setRule_2 13 rfl rfl)
theorem dX4_setRule_62 : decode cX4_setRule 62 = .ok (.iload_n 1, 1) := dk_27 (dk_at dksX4_setRule_2 14 rfl rfl)
theorem dX4_setRule_63 : decode cX4_setRule 63 = .ok (.iadd, 1) := dk_96 (dk_at dksX4_setRule_2 15 rfl rfl)
theorem dX4_setRule_64 : decode cX4_setRule 64 = .ok (.iload_n 2, 1) := dk_28 (dk_at dksX4_setRule_2 16 rfl rfl)
theorem dX4_setRule_65 : decode cX4_setRule 65 = .ok (.iastore, 1) := dk_79 (dk_at dksX4_setRule_2 17 rfl rfl)
theorem dX4_setRule_66 : decode cX4_setRule 66 = .ok (.iload_n 3, 1) := dk_29 (dk_at dksX4_setRule_2 18 rfl rfl)
theorem dX4_setRule_67 : decode cX4_setRule 67 = .ok (.ireturn, 1) := dk_172 (dk_at dksX4_setRule_2 19 rfl rfl)
abbrev cX4_undoCount : ByteArray := prog_25_method_95_code
def yX4_undoCount : MethodName := ⟨RX4, "undoCount", "()I"⟩
def dkwX4_undoCount_0 : List UInt8 := [42, 3, 181, 0, 93, 42, 180, 0, 123, 172]
abbrev dktX4_undoCount_0 : List UInt8 := dkwX4_undoCount_0 ++ []
theorem dksX4_undoCount_0 : cX4_undoCount.data.toList.drop 0 = dktX4_undoCount_0 := by decide +kernel
theorem dX4_undoCount_0 : decode cX4_undoCount 0 = .ok (.aload_n 0, 1) := dk_42 (dk_at dksX4_undoCount_0 0 rfl rfl)
theorem dX4_undoCount_1 : decode cX4_undoCount 1 = .ok (.iconst 0, 1) := dk_3 (dk_at dksX4_undoCount_0 1 rfl rfl)
theorem dX4_undoCount_2 : decode cX4_undoCount 2 = .ok (.putfield 93, 3) := dk_181 0 93 (dk_at dksX4_undoCount_0 2 rfl rfl)
theorem dX4_undoCount_5 : decode cX4_undoCount 5 = .ok (.aload_n 0, 1) := dk_42 (dk_at dksX4_undoCount_0 5 rfl rfl)
theorem dX4_undoCount_6 : decode cX4_undoCount 6 = .ok (.getfield 123, 3) := dk_180 0 123 (dk_at dksX4_undoCount_0 6 rfl rfl)
theorem dX4_undoCount_9 : decode cX4_undoCount 9 = .ok (.ireturn, 1) := dk_172 (dk_at dksX4_undoCount_0 9 rfl rfl)
abbrev cX4_undo : ByteArray := prog_25_method_96_code
def yX4_undo : MethodName := ⟨RX4, "undo", "()I"⟩
def dkwX4_undo_2 : List UInt8 := [180, 0, 123, 104, 27, 96, 46, 79, 132, 1, 1, 167, 255, 225, 42, 180, 0, 123, 172]
abbrev dktX4_undo_2 : List UInt8 := dkwX4_undo_2 ++ []
def dkwX4_undo_1 : List UInt8 := [3, 60, 27, 17, 2, 69, 162, 0, 30, 42, 180, 0, 7, 27, 42, 180, 0, 19, 17, 2, 69, 42]
abbrev dktX4_undo_1 : List UInt8 := dkwX4_undo_1 ++ dktX4_undo_2
def dkwX4_undo_0 : List UInt8 := [42, 3, 181, 0, 93, 42, 180, 0, 123, 154, 0, 5, 2, 172, 42, 89, 180, 0, 123, 4, 100, 181, 0, 123]
abbrev dktX4_undo_0 : List UInt8 := dkwX4_undo_0 ++ dktX4_undo_1
theorem dksX4_undo_0 : cX4_undo.data.toList.drop 0 = dktX4_undo_0 := by decide +kernel
theorem dksX4_undo_1 : cX4_undo.data.toList.drop 24 = dktX4_undo_1 := dk_seg dksX4_undo_0 24 rfl rfl
theorem dksX4_undo_2 : cX4_undo.data.toList.drop 46 = dktX4_undo_2 := dk_seg dksX4_undo_1 22 rfl rfl
theorem dX4_undo_0 : decode cX4_undo 0 = .ok (.aload_n 0, 1) := dk_42 (dk_at dksX4_undo_0 0 rfl rfl)
theorem dX4_undo_1 : decode cX4_undo 1 = .ok (.iconst 0, 1) := dk_3 (dk_at dksX4_undo_0 1 rfl rfl)
theorem dX4_undo_2 : decode cX4_undo 2 = .ok (.putfield 93, 3) := dk_181 0 93 (dk_at dksX4_undo_0 2 rfl rfl)
theorem dX4_undo_5 : decode cX4_undo 5 = .ok (.aload_n 0, 1) := dk_42 (dk_at dksX4_undo_0 5 rfl rfl)
theorem dX4_undo_6 : decode cX4_undo 6 = .ok (.getfield 123, 3) := dk_180 0 123 (dk_at dksX4_undo_0 6 rfl rfl)
theorem dX4_undo_9 : decode cX4_undo 9 = .ok (.ifCond .ne 5, 3) := dk_154 0 5 (dk_at dksX4_undo_0 9 rfl rfl)
theorem dX4_undo_12 : decode cX4_undo 12 = .ok (.iconst (-1), 1) := dk_2 (dk_at dksX4_undo_0 12 rfl rfl)
theorem dX4_undo_13 : decode cX4_undo 13 = .ok (.ireturn, 1) := dk_172 (dk_at dksX4_undo_0 13 rfl rfl)
theorem dX4_undo_14 : decode cX4_undo 14 = .ok (.aload_n 0, 1) := dk_42 (dk_at dksX4_undo_0 14 rfl rfl)
theorem dX4_undo_15 : decode cX4_undo 15 = .ok (.dup, 1) := dk_89 (dk_at dksX4_undo_0 15 rfl rfl)
theorem dX4_undo_16 : decode cX4_undo 16 = .ok (.getfield 123, 3) := dk_180 0 123 (dk_at dksX4_undo_0 16 rfl rfl)
theorem dX4_undo_19 : decode cX4_undo 19 = .ok (.iconst 1, 1) := dk_4 (dk_at dksX4_undo_0 19 rfl rfl)
theorem dX4_undo_20 : decode cX4_undo 20 = .ok (.isub, 1) := dk_100 (dk_at dksX4_undo_0 20 rfl rfl)
theorem dX4_undo_21 : decode cX4_undo 21 = .ok (.putfield 123, 3) := dk_181 0 123 (dk_at dksX4_undo_0 21 rfl rfl)
theorem dX4_undo_24 : decode cX4_undo 24 = .ok (.iconst 0, 1) := dk_3 (dk_at dksX4_undo_1 0 rfl rfl)
theorem dX4_undo_25 : decode cX4_undo 25 = .ok (.istore_n 1, 1) := dk_60 (dk_at dksX4_undo_1 1 rfl rfl)
theorem dX4_undo_26 : decode cX4_undo 26 = .ok (.iload_n 1, 1) := dk_27 (dk_at dksX4_undo_1 2 rfl rfl)
theorem dX4_undo_27 : decode cX4_undo 27 = .ok (.sipush 581, 3) := dk_17 2 69 (dk_at dksX4_undo_1 3 rfl rfl)
theorem dX4_undo_30 : decode cX4_undo 30 = .ok (.if_icmp .ge 30, 3) := dk_162 0 30 (dk_at dksX4_undo_1 6 rfl rfl)
theorem dX4_undo_33 : decode cX4_undo 33 = .ok (.aload_n 0, 1) := dk_42 (dk_at dksX4_undo_1 9 rfl rfl)
theorem dX4_undo_34 : decode cX4_undo 34 = .ok (.getfield 7, 3) := dk_180 0 7 (dk_at dksX4_undo_1 10 rfl rfl)
theorem dX4_undo_37 : decode cX4_undo 37 = .ok (.iload_n 1, 1) := dk_27 (dk_at dksX4_undo_1 13 rfl rfl)
theorem dX4_undo_38 : decode cX4_undo 38 = .ok (.aload_n 0, 1) := dk_42 (dk_at dksX4_undo_1 14 rfl rfl)
theorem dX4_undo_39 : decode cX4_undo 39 = .ok (.getfield 19, 3) := dk_180 0 19 (dk_at dksX4_undo_1 15 rfl rfl)
theorem dX4_undo_42 : decode cX4_undo 42 = .ok (.sipush 581, 3) := dk_17 2 69 (dk_at dksX4_undo_1 18 rfl rfl)
theorem dX4_undo_45 : decode cX4_undo 45 = .ok (.aload_n 0, 1) := dk_42 (dk_at dksX4_undo_1 21 rfl rfl)
theorem dX4_undo_46 : decode cX4_undo 46 = .ok (.getfield 123, 3) := dk_180 0 123 (dk_at dksX4_undo_2 0 rfl rfl)
theorem dX4_undo_49 : decode cX4_undo 49 = .ok (.imul, 1) := dk_104 (dk_at dksX4_undo_2 3 rfl rfl)
theorem dX4_undo_50 : decode cX4_undo 50 = .ok (.iload_n 1, 1) := dk_27 (dk_at dksX4_undo_2 4 rfl rfl)
theorem dX4_undo_51 : decode cX4_undo 51 = .ok (.iadd, 1) := dk_96 (dk_at dksX4_undo_2 5 rfl rfl)
theorem dX4_undo_52 : decode cX4_undo 52 = .ok (.iaload, 1) := dk_46 (dk_at dksX4_undo_2 6 rfl rfl)
theorem dX4_undo_53 : decode cX4_undo 53 = .ok (.iastore, 1) := dk_79 (dk_at dksX4_undo_2 7 rfl rfl)
theorem dX4_undo_54 : decode cX4_undo 54 = .ok (.iinc 1 1, 3) := dk_132 1 1 (dk_at dksX4_undo_2 8 rfl rfl)
theorem dX4_undo_57 : decode cX4_undo 57 = .ok (.goto (-31), 3) := dk_167 255 225 (dk_at dksX4_undo_2 11 rfl rfl)
theorem dX4_undo_60 : decode cX4_undo 60 = .ok (.aload_n 0, 1) := dk_42 (dk_at dksX4_undo_2 14 rfl rfl)
theorem dX4_undo_61 : decode cX4_undo 61 = .ok (.getfield 123, 3) := dk_180 0 123 (dk_at dksX4_undo_2 15 rfl rfl)
theorem dX4_undo_64 : decode cX4_undo 64 = .ok (.ireturn, 1) := dk_172 (dk_at dksX4_undo_2 18 rfl rfl)
abbrev cX4_saveSnapshot : ByteArray := prog_25_method_97_code
def yX4_saveSnapshot : MethodName := ⟨RX4, "saveSnapshot", "()V"⟩
def dkwX4_saveSnapshot_1 : List UInt8 := [46, 79, 132, 1, 1, 167, 255, 234, 42, 4, 181, 0, 126, 177]
abbrev dktX4_saveSnapshot_1 : List UInt8 := dkwX4_saveSnapshot_1 ++ []
def dkwX4_saveSnapshot_0 : List UInt8 := [42, 3, 181, 0, 93, 3, 60, 27, 17, 2, 69, 162, 0, 21, 42, 180, 0, 16, 27, 42, 180, 0, 7, 27]
abbrev dktX4_saveSnapshot_0 : List UInt8 := dkwX4_saveSnapshot_0 ++ dktX4_saveSnapshot_1
theorem dksX4_saveSnapshot_0 : cX4_saveSnapshot.data.toList.drop 0 = dktX4_saveSnapshot_0 := by decide +kernel
theorem dksX4_saveSnapshot_1 : cX4_saveSnapshot.data.toList.drop 24 = dktX4_saveSnapshot_1 := dk_seg dksX4_saveSnapshot_0 24 rfl rfl
theorem dX4_saveSnapshot_0 : decode cX4_saveSnapshot 0 = .ok (.aload_n 0, 1) := dk_42 (dk_at dksX4_saveSnapshot_0 0 rfl rfl)
theorem dX4_saveSnapshot_1 : decode cX4_saveSnapshot 1 = .ok (.iconst 0, 1) := dk_3 (dk_at dksX4_saveSnapshot_0 1 rfl rfl)
theorem dX4_saveSnapshot_2 : decode cX4_saveSnapshot 2 = .ok (.putfield 93, 3) := dk_181 0 93 (dk_at dksX4_saveSnapshot_0 2 rfl rfl)
theorem dX4_saveSnapshot_5 : decode cX4_saveSnapshot 5 = .ok (.iconst 0, 1) := dk_3 (dk_at dksX4_saveSnapshot_0 5 rfl rfl)
theorem dX4_saveSnapshot_6 : decode cX4_saveSnapshot 6 = .ok (.istore_n 1, 1) := dk_60 (dk_at dksX4_saveSnapshot_0 6 rfl rfl)
theorem dX4_saveSnapshot_7 : decode cX4_saveSnapshot 7 = .ok (.iload_n 1, 1) := dk_27 (dk_at dksX4_saveSnapshot_0 7 rfl rfl)
theorem dX4_saveSnapshot_8 : decode cX4_saveSnapshot 8 = .ok (.sipush 581, 3) := dk_17 2 69 (dk_at dksX4_saveSnapshot_0 8 rfl rfl)
theorem dX4_saveSnapshot_11 : decode cX4_saveSnapshot 11 = .ok (.if_icmp .ge 21, 3) := dk_162 0 21 (dk_at dksX4_saveSnapshot_0 11 rfl rfl)
theorem dX4_saveSnapshot_14 : decode cX4_saveSnapshot 14 = .ok (.aload_n 0, 1) := dk_42 (dk_at dksX4_saveSnapshot_0 14 rfl rfl)
theorem dX4_saveSnapshot_15 : decode cX4_saveSnapshot 15 = .ok (.getfield 16, 3) := dk_180 0 16 (dk_at dksX4_saveSnapshot_0 15 rfl rfl)
theorem dX4_saveSnapshot_18 : decode cX4_saveSnapshot 18 = .ok (.iload_n 1, 1) := dk_27 (dk_at dksX4_saveSnapshot_0 18 rfl rfl)
theorem dX4_saveSnapshot_19 : decode cX4_saveSnapshot 19 = .ok (.aload_n 0, 1) := dk_42 (dk_at dksX4_saveSnapshot_0 19 rfl rfl)
theorem dX4_saveSnapshot_20 : decode cX4_saveSnapshot 20 = .ok (.getfield 7, 3) := dk_180 0 7 (dk_at dksX4_saveSnapshot_0 20 rfl rfl)
theorem dX4_saveSnapshot_23 : decode cX4_saveSnapshot 23 = .ok (.iload_n 1, 1) := dk_27 (dk_at dksX4_saveSnapshot_0 23 rfl rfl)
theorem dX4_saveSnapshot_24 : decode cX4_saveSnapshot 24 = .ok (.iaload, 1) := dk_46 (dk_at dksX4_saveSnapshot_1 0 rfl rfl)
theorem dX4_saveSnapshot_25 : decode cX4_saveSnapshot 25 = .ok (.iastore, 1) := dk_79 (dk_at dksX4_saveSnapshot_1 1 rfl rfl)
theorem dX4_saveSnapshot_26 : decode cX4_saveSnapshot 26 = .ok (.iinc 1 1, 3) := dk_132 1 1 (dk_at dksX4_saveSnapshot_1 2 rfl rfl)
theorem dX4_saveSnapshot_29 : decode cX4_saveSnapshot 29 = .ok (.goto (-22), 3) := dk_167 255 234 (dk_at dksX4_saveSnapshot_1 5 rfl rfl)
theorem dX4_saveSnapshot_32 : decode cX4_saveSnapshot 32 = .ok (.aload_n 0, 1) := dk_42 (dk_at dksX4_saveSnapshot_1 8 rfl rfl)
theorem dX4_saveSnapshot_33 : decode cX4_saveSnapshot 33 = .ok (.iconst 1, 1) := dk_4 (dk_at dksX4_saveSnapshot_1 9 rfl rfl)
theorem dX4_saveSnapshot_34 : decode cX4_saveSnapshot 34 = .ok (.putfield 126, 3) := dk_181 0 126 (dk_at dksX4_saveSnapshot_1 10 rfl rfl)
theorem dX4_saveSnapshot_37 : decode cX4_saveSnapshot 37 = .ok (.return_, 1) := dk_177 (dk_at dksX4_saveSnapshot_1 13 rfl rfl)
abbrev cX4_restoreSnapshot : ByteArray := prog_25_method_98_code
def yX4_restoreSnapshot : MethodName := ⟨RX4, "restoreSnapshot", "()Z"⟩
def dkwX4_restoreSnapshot_1 : List UInt8 := [180, 0, 7, 27, 42, 180, 0, 16, 27, 46, 79, 132, 1, 1, 167, 255, 234, 42, 3, 181, 0, 123, 4, 172]
abbrev dktX4_restoreSnapshot_1 : List UInt8 := dkwX4_restoreSnapshot_1 ++ []
def dkwX4_restoreSnapshot_0 : List UInt8 := [42, 3, 181, 0, 93, 42, 180, 0, 126, 154, 0, 5, 3, 172, 3, 60, 27, 17, 2, 69, 162, 0, 21, 42]
abbrev dktX4_restoreSnapshot_0 : List UInt8 := dkwX4_restoreSnapshot_0 ++ dktX4_restoreSnapshot_1
theorem dksX4_restoreSnapshot_0 : cX4_restoreSnapshot.data.toList.drop 0 = dktX4_restoreSnapshot_0 := by decide +kernel
theorem dksX4_restoreSnapshot_1 : cX4_restoreSnapshot.data.toList.drop 24 = dktX4_restoreSnapshot_1 := dk_seg dksX4_restoreSnapshot_0 24 rfl rfl
theorem dX4_restoreSnapshot_0 : decode cX4_restoreSnapshot 0 = .ok (.aload_n 0, 1) := dk_42 (dk_at dksX4_restoreSnapshot_0 0 rfl rfl)
theorem dX4_restoreSnapshot_1 : decode cX4_restoreSnapshot 1 = .ok (.iconst 0, 1) := dk_3 (dk_at dksX4_restoreSnapshot_0 1 rfl rfl)
theorem dX4_restoreSnapshot_2 : decode cX4_restoreSnapshot 2 = .ok (.putfield 93, 3) := dk_181 0 93 (dk_at dksX4_restoreSnapshot_0 2 rfl rfl)
theorem dX4_restoreSnapshot_5 : decode cX4_restoreSnapshot 5 = .ok (.aload_n 0, 1) := dk_42 (dk_at dksX4_restoreSnapshot_0 5 rfl rfl)
theorem dX4_restoreSnapshot_6 : decode cX4_restoreSnapshot 6 = .ok (.getfield 126, 3) := dk_180 0 126 (dk_at dksX4_restoreSnapshot_0 6 rfl rfl)
theorem dX4_restoreSnapshot_9 : decode cX4_restoreSnapshot 9 = .ok (.ifCond .ne 5, 3) := dk_154 0 5 (dk_at dksX4_restoreSnapshot_0 9 rfl rfl)
theorem dX4_restoreSnapshot_12 : decode cX4_restoreSnapshot 12 = .ok (.iconst 0, 1) := dk_3 (dk_at dksX4_restoreSnapshot_0 12 rfl rfl)
theorem dX4_restoreSnapshot_13 : decode cX4_restoreSnapshot 13 = .ok (.ireturn, 1) := dk_172 (dk_at dksX4_restoreSnapshot_0 13 rfl rfl)
theorem dX4_restoreSnapshot_14 : decode cX4_restoreSnapshot 14 = .ok (.iconst 0, 1) := dk_3 (dk_at dksX4_restoreSnapshot_0 14 rfl rfl)
theorem dX4_restoreSnapshot_15 : decode cX4_restoreSnapshot 15 = .ok (.istore_n 1, 1) := dk_60 (dk_at dksX4_restoreSnapshot_0 15 rfl rfl)
theorem dX4_restoreSnapshot_16 : decode cX4_restoreSnapshot 16 = .ok (.iload_n 1, 1) := dk_27 (dk_at dksX4_restoreSnapshot_0 16 rfl rfl)
theorem dX4_restoreSnapshot_17 : decode cX4_restoreSnapshot 17 = .ok (.sipush 581, 3) := dk_17 2 69 (dk_at dksX4_restoreSnapshot_0 17 rfl rfl)
theorem dX4_restoreSnapshot_20 : decode cX4_restoreSnapshot 20 = .ok (.if_icmp .ge 21, 3) := dk_162 0 21 (dk_at dksX4_restoreSnapshot_0 20 rfl rfl)
theorem dX4_restoreSnapshot_23 : decode cX4_restoreSnapshot 23 = .ok (.aload_n 0, 1) := dk_42 (dk_at dksX4_restoreSnapshot_0 23 rfl rfl)
theorem dX4_restoreSnapshot_24 : decode cX4_restoreSnapshot 24 = .ok (.getfield 7, 3) := dk_180 0 7 (dk_at dksX4_restoreSnapshot_1 0 rfl rfl)
theorem dX4_restoreSnapshot_27 : decode cX4_restoreSnapshot 27 = .ok (.iload_n 1, 1) := dk_27 (dk_at dksX4_restoreSnapshot_1 3 rfl rfl)
theorem dX4_restoreSnapshot_28 : decode cX4_restoreSnapshot 28 = .ok (.aload_n 0, 1) := dk_42 (dk_at dksX4_restoreSnapshot_1 4 rfl rfl)
theorem dX4_restoreSnapshot_29 : decode cX4_restoreSnapshot 29 = .ok (.getfield 16, 3) := dk_180 0 16 (dk_at dksX4_restoreSnapshot_1 5 rfl rfl)
theorem dX4_restoreSnapshot_32 : decode cX4_restoreSnapshot 32 = .ok (.iload_n 1, 1) := dk_27 (dk_at dksX4_restoreSnapshot_1 8 rfl rfl)
theorem dX4_restoreSnapshot_33 : decode cX4_restoreSnapshot 33 = .ok (.iaload, 1) := dk_46 (dk_at dksX4_restoreSnapshot_1 9 rfl rfl)
theorem dX4_restoreSnapshot_34 : decode cX4_restoreSnapshot 34 = .ok (.iastore, 1) := dk_79 (dk_at dksX4_restoreSnapshot_1 10 rfl rfl)
theorem dX4_restoreSnapshot_35 : decode cX4_restoreSnapshot 35 = .ok (.iinc 1 1, 3) := dk_132 1 1 (dk_at dksX4_restoreSnapshot_1 11 rfl rfl)
theorem dX4_restoreSnapshot_38 : decode cX4_restoreSnapshot 38 = .ok (.goto (-22), 3) := dk_167 255 234 (dk_at dksX4_restoreSnapshot_1 14 rfl rfl)
theorem dX4_restoreSnapshot_41 : decode cX4_restoreSnapshot 41 = .ok (.aload_n 0, 1) := dk_42 (dk_at dksX4_restoreSnapshot_1 17 rfl rfl)
theorem dX4_restoreSnapshot_42 : decode cX4_restoreSnapshot 42 = .ok (.iconst 0, 1) := dk_3 (dk_at dksX4_restoreSnapshot_1 18 rfl rfl)
theorem dX4_restoreSnapshot_43 : decode cX4_restoreSnapshot 43 = .ok (.putfield 123, 3) := dk_181 0 123 (dk_at dksX4_restoreSnapshot_1 19 rfl rfl)
theorem dX4_restoreSnapshot_46 : decode cX4_restoreSnapshot 46 = .ok (.iconst 1, 1) := dk_4 (dk_at dksX4_restoreSnapshot_1 22 rfl rfl)
theorem dX4_restoreSnapshot_47 : decode cX4_restoreSnapshot 47 = .ok (.ireturn, 1) := dk_172 (dk_at dksX4_restoreSnapshot_1 23 rfl rfl)
abbrev cX4_format : ByteArray := prog_25_method_101_code
def yX4_format : MethodName := ⟨RX4, "format", "(I)I"⟩
def dkwX4_format_5 : List UInt8 := [132, 2, 1, 167, 255, 180, 42, 180, 1, 167, 172]
abbrev dktX4_format_5 : List UInt8 := dkwX4_format_5 ++ []
def dkwX4_format_4 : List UInt8 := [182, 1, 173, 42, 16, 64, 182, 1, 170, 42, 42, 42, 180, 0, 50, 28, 46, 182, 1, 27, 182, 1, 173]
abbrev dktX4_format_4 : List UInt8 := dkwX4_format_4 ++ dktX4_format_5
def dkwX4_format_3 : List UInt8 := [160, 0, 8, 16, 43, 167, 0, 5, 16, 45, 182, 1, 170, 42, 42, 180, 0, 50, 28, 46, 5, 108]
abbrev dktX4_format_3 : List UInt8 := dkwX4_format_3 ++ dktX4_format_4
def dkwX4_format_2 : List UInt8 := [162, 0, 74, 28, 158, 0, 9, 42, 16, 32, 182, 1, 170, 42, 42, 180, 0, 50, 28, 46, 4, 126, 4]
abbrev dktX4_format_2 : List UInt8 := dkwX4_format_2 ++ dktX4_format_3
def dkwX4_format_1 : List UInt8 := [182, 1, 45, 42, 180, 1, 15, 154, 0, 9, 42, 16, 46, 182, 1, 170, 3, 61, 28, 42, 180, 1, 15]
abbrev dktX4_format_1 : List UInt8 := dkwX4_format_1 ++ dktX4_format_2
def dkwX4_format_0 : List UInt8 := [42, 3, 181, 0, 93, 42, 27, 182, 1, 119, 153, 0, 5, 3, 172, 42, 3, 181, 1, 167, 42, 27]
abbrev dktX4_format_0 : List UInt8 := dkwX4_format_0 ++ dktX4_format_1
theorem dksX4_format_0 : cX4_format.data.toList.drop 0 = dktX4_format_0 := by decide +kernel
theorem dksX4_format_1 : cX4_format.data.toList.drop 22 = dktX4_format_1 := dk_seg dksX4_format_0 22 rfl rfl
theorem dksX4_format_2 : cX4_format.data.toList.drop 45 = dktX4_format_2 := dk_seg dksX4_format_1 23 rfl rfl
theorem dksX4_format_3 : cX4_format.data.toList.drop 68 = dktX4_format_3 := dk_seg dksX4_format_2 23 rfl rfl
theorem dksX4_format_4 : cX4_format.data.toList.drop 90 = dktX4_format_4 := dk_seg dksX4_format_3 22 rfl rfl
theorem dksX4_format_5 : cX4_format.data.toList.drop 113 = dktX4_format_5 := dk_seg dksX4_format_4 23 rfl rfl
theorem dX4_format_0 : decode cX4_format 0 = .ok (.aload_n 0, 1) := dk_42 (dk_at dksX4_format_0 0 rfl rfl)
theorem dX4_format_1 : decode cX4_format 1 = .ok (.iconst 0, 1) := dk_3 (dk_at dksX4_format_0 1 rfl rfl)
theorem dX4_format_2 : decode cX4_format 2 = .ok (.putfield 93, 3) := dk_181 0 93 (dk_at dksX4_format_0 2 rfl rfl)
theorem dX4_format_5 : decode cX4_format 5 = .ok (.aload_n 0, 1) := dk_42 (dk_at dksX4_format_0 5 rfl rfl)
theorem dX4_format_6 : decode cX4_format 6 = .ok (.iload_n 1, 1) := dk_27 (dk_at dksX4_format_0 6 rfl rfl)
theorem dX4_format_7 : decode cX4_format 7 = .ok (.invokevirtual 375, 3) := dk_182 1 119 (dk_at dksX4_format_0 7 rfl rfl)
theorem dX4_format_10 : decode cX4_format 10 = .ok (.ifCond .eq 5, 3) := dk_153 0 5 (dk_at dksX4_format_0 10 rfl rfl)
theorem dX4_format_13 : decode cX4_format 13 = .ok (.iconst 0, 1) := dk_3 (dk_at dksX4_format_0 13 rfl rfl)
theorem dX4_format_14 : decode cX4_format 14 = .ok (.ireturn, 1) := dk_172 (dk_at dksX4_format_0 14 rfl rfl)
theorem dX4_format_15 : decode cX4_format 15 = .ok (.aload_n 0, 1) := dk_42 (dk_at dksX4_format_0 15 rfl rfl)
theorem dX4_format_16 : decode cX4_format 16 = .ok (.iconst 0, 1) := dk_3 (dk_at dksX4_format_0 16 rfl rfl)
theorem dX4_format_17 : decode cX4_format 17 = .ok (.putfield 423, 3) := dk_181 1 167 (dk_at dksX4_format_0 17 rfl rfl)
theorem dX4_format_20 : decode cX4_format 20 = .ok (.aload_n 0, 1) := dk_42 (dk_at dksX4_format_0 20 rfl rfl)
theorem dX4_format_21 : decode cX4_format 21 = .ok (.iload_n 1, 1) := dk_27 (dk_at dksX4_format_0 21 rfl rfl)
theorem dX4_format_22 : decode cX4_format 22 = .ok (.invokevirtual 301, 3) := dk_182 1 45 (dk_at dksX4_format_1 0 rfl rfl)
theorem dX4_format_25 : decode cX4_format 25 = .ok (.aload_n 0, 1) := dk_42 (dk_at dksX4_format_1 3 rfl rfl)
theorem dX4_format_26 : decode cX4_format 26 = .ok (.getfield 271, 3) := dk_180 1 15 (dk_at dksX4_format_1 4 rfl rfl)
theorem dX4_format_29 : decode cX4_format 29 = .ok (.ifCond .ne 9, 3) := dk_154 0 9 (dk_at dksX4_format_1 7 rfl rfl)
theorem dX4_format_32 : decode cX4_format 32 = .ok (.aload_n 0, 1) := dk_42 (dk_at dksX4_format_1 10 rfl rfl)
theorem dX4_format_33 : decode cX4_format 33 = .ok (.bipush 46, 2) := dk_16 46 (dk_at dksX4_format_1 11 rfl rfl)
theorem dX4_format_35 : decode cX4_format 35 = .ok (.invokevirtual 426, 3) := dk_182 1 170 (dk_at dksX4_format_1 13 rfl rfl)
theorem dX4_format_38 : decode cX4_format 38 = .ok (.iconst 0, 1) := dk_3 (dk_at dksX4_format_1 16 rfl rfl)
theorem dX4_format_39 : decode cX4_format 39 = .ok (.istore_n 2, 1) := dk_61 (dk_at dksX4_format_1 17 rfl rfl)
theorem dX4_format_40 : decode cX4_format 40 = .ok (.iload_n 2, 1) := dk_28 (dk_at dksX4_format_1 18 rfl rfl)
theorem dX4_format_41 : decode cX4_format 41 = .ok (.aload_n 0, 1) := dk_42 (dk_at dksX4_format_1 19 rfl rfl)
theorem dX4_format_42 : decode cX4_format 42 = .ok (.getfield 271, 3) := dk_180 1 15 (dk_at dksX4_format_1 20 rfl rfl)
theorem dX4_format_45 : decode cX4_format 45 = .ok (.if_icmp .ge 74, 3) := dk_162 0 74 (dk_at dksX4_format_2 0 rfl rfl)
theorem dX4_format_48 : decode cX4_format 48 = .ok (.iload_n 2, 1) := dk_28 (dk_at dksX4_format_2 3 rfl rfl)
theorem dX4_format_49 : decode cX4_format 49 = .ok (.ifCond .le 9, 3) := dk_158 0 9 (dk_at dksX4_format_2 4 rfl rfl)
theorem dX4_format_52 : decode cX4_format 52 = .ok (.aload_n 0, 1) := dk_42 (dk_at dksX4_format_2 7 rfl rfl)
theorem dX4_format_53 : decode cX4_format 53 = .ok (.bipush 32, 2) := dk_16 32 (dk_at dksX4_format_2 8 rfl rfl)
theorem dX4_format_55 : decode cX4_format 55 = .ok (.invokevirtual 426, 3) := dk_182 1 170 (dk_at dksX4_format_2 10 rfl rfl)
theorem dX4_format_58 : decode cX4_format 58 = .ok (.aload_n 0, 1) := dk_42 (dk_at dksX4_format_2 13 rfl rfl)
theorem dX4_format_59 : decode cX4_format 59 = .ok (.aload_n 0, 1) := dk_42 (dk_at dksX4_format_2 14 rfl rfl)
theorem dX4_format_60 : decode cX4_format 60 = .ok (.getfield 50, 3) := dk_180 0 50 (dk_at dksX4_format_2 15 rfl rfl)
theorem dX4_format_63 : decode cX4_format 63 = .ok (.iload_n 2, 1) := dk_28 (dk_at dksX4_format_2 18 rfl rfl)
theorem dX4_format_64 : decode cX4_format 64 = .ok (.iaload, 1) := dk_46 (dk_at dksX4_format_2 19 rfl rfl)
theorem dX4_format_65 : decode cX4_format 65 = .ok (.iconst 1, 1) := dk_4 (dk_at dksX4_format_2 20 rfl rfl)
theorem dX4_format_66 : decode cX4_format 66 = .ok (.iand, 1) := dk_126 (dk_at dksX4_format_2 21 rfl rfl)
theorem dX4_format_67 : decode cX4_format 67 = .ok (.iconst 1, 1) := dk_4 (dk_at dksX4_format_2 22 rfl rfl)
theorem dX4_format_68 : decode cX4_format 68 = .ok (.if_icmp .ne 8, 3) := dk_160 0 8 (dk_at dksX4_format_3 0 rfl rfl)
theorem dX4_format_71 : decode cX4_format 71 = .ok (.bipush 43, 2) := dk_16 43 (dk_at dksX4_format_3 3 rfl rfl)
theorem dX4_format_73 : decode cX4_format 73 = .ok (.goto 5, 3) := dk_167 0 5 (dk_at dksX4_format_3 5 rfl rfl)
theorem dX4_format_76 : decode cX4_format 76 = .ok (.bipush 45, 2) := dk_16 45 (dk_at dksX4_format_3 8 rfl rfl)
theorem dX4_format_78 : decode cX4_format 78 = .ok (.invokevirtual 426, 3) := dk_182 1 170 (dk_at dksX4_format_3 10 rfl rfl)
theorem dX4_format_81 : decode cX4_format 81 = .ok (.aload_n 0, 1) := dk_42 (dk_at dksX4_format_3 13 rfl rfl)
theorem dX4_format_82 : decode cX4_format 82 = .ok (.aload_n 0, 1) := dk_42 (dk_at dksX4_format_3 14 rfl rfl)
theorem dX4_format_83 : decode cX4_format 83 = .ok (.getfield 50, 3) := dk_180 0 50 (dk_at dksX4_format_3 15 rfl rfl)
theorem dX4_format_86 : decode cX4_format 86 = .ok (.iload_n 2, 1) := dk_28 (dk_at dksX4_format_3 18 rfl rfl)
theorem dX4_format_87 : decode cX4_format 87 = .ok (.iaload, 1) := dk_46 (dk_at dksX4_format_3 19 rfl rfl)
theorem dX4_format_88 : decode cX4_format 88 = .ok (.iconst 2, 1) := dk_5 (dk_at dksX4_format_3 20 rfl rfl)
theorem dX4_format_89 : decode cX4_format 89 = .ok (.idiv, 1) := dk_108 (dk_at dksX4_format_3 21 rfl rfl)
theorem dX4_format_90 : decode cX4_format 90 = .ok (.invokevirtual 429, 3) := dk_182 1 173 (dk_at dksX4_format_4 0 rfl rfl)
theorem dX4_format_93 : decode cX4_format 93 = .ok (.aload_n 0, 1) := dk_42 (dk_at dksX4_format_4 3 rfl rfl)
theorem dX4_format_94 : decode cX4_format 94 = .ok (.bipush 64, 2) := dk_16 64 (dk_at dksX4_format_4 4 rfl rfl)
theorem dX4_format_96 : decode cX4_format 96 = .ok (.invokevirtual 426, 3) := dk_182 1 170 (dk_at dksX4_format_4 6 rfl rfl)
theorem dX4_format_99 : decode cX4_format 99 = .ok (.aload_n 0, 1) := dk_42 (dk_at dksX4_format_4 9 rfl rfl)
theorem dX4_format_100 : decode cX4_format 100 = .ok (.aload_n 0, 1) := dk_42 (dk_at dksX4_format_4 10 rfl rfl)
theorem dX4_format_101 : decode cX4_format 101 = .ok (.aload_n 0, 1) := dk_42 (dk_at dksX4_format_4 11 rfl rfl)
theorem dX4_format_102 : decode cX4_format 102 = .ok (.getfield 50, 3) := dk_180 0 50 (dk_at dksX4_format_4 12 rfl rfl)
theorem dX4_format_105 : decode cX4_format 105 = .ok (.iload_n 2, 1) := dk_28 (dk_at dksX4_format_4 15 rfl rfl)
theorem dX4_format_106 : decode cX4_format 106 = .ok (.iaload, 1) := dk_46 (dk_at dksX4_format_4 16 rfl rfl)
theorem dX4_format_107 : decode cX4_format 107 = .ok (.invokevirtual 283, 3) := dk_182 1 27 (dk_at dksX4_format_4 17 rfl rfl)
theorem dX4_format_110 : decode cX4_format 110 = .ok (.invokevirtual 429, 3) := dk_182 1 173 (dk_at dksX4_format_4 20 rfl rfl)
theorem dX4_format_113 : decode cX4_format 113 = .ok (.iinc 2 1, 3) := dk_132 2 1 (dk_at dksX4_format_5 0 rfl rfl)
theorem dX4_format_116 : decode cX4_format 116 = .ok (.goto (-76), 3) := dk_167 255 180 (dk_at dksX4_format_5 3 rfl rfl)
theorem dX4_format_119 : decode cX4_format 119 = .ok (.aload_n 0, 1) := dk_42 (dk_at dksX4_format_5 6 rfl rfl)
theorem dX4_format_120 : decode cX4_format 120 = .ok (.getfield 423, 3) := dk_180 1 167 (dk_at dksX4_format_5 7 rfl rfl)
theorem dX4_format_123 : decode cX4_format 123 = .ok (.ireturn, 1) := dk_172 (dk_at dksX4_format_5 10 rfl rfl)
abbrev cX4_says : ByteArray := prog_25_method_99_code
def yX4_says : MethodName := ⟨RX4, "says", "(I)V"⟩
def dkwX4_says_0 : List UInt8 := [42, 180, 0, 74, 42, 180, 1, 167, 27, 145, 84, 42, 89, 180, 1, 167, 4, 96, 181, 1, 167, 177]
abbrev dktX4_says_0 : List UInt8 := dkwX4_says_0 ++ []
theorem dksX4_says_0 : cX4_says.data.toList.drop 0 = dktX4_says_0 := by decide +kernel
theorem dX4_says_0 : decode cX4_says 0 = .ok (.aload_n 0, 1) := dk_42 (dk_at dksX4_says_0 0 rfl rfl)
theorem dX4_says_1 : decode cX4_says 1 = .ok (.getfield 74, 3) := dk_180 0 74 (dk_at dksX4_says_0 1 rfl rfl)
theorem dX4_says_4 : decode cX4_says 4 = .ok (.aload_n 0, 1) := dk_42 (dk_at dksX4_says_0 4 rfl rfl)
theorem dX4_says_5 : decode cX4_says 5 = .ok (.getfield 423, 3) := dk_180 1 167 (dk_at dksX4_says_0 5 rfl rfl)
theorem dX4_says_8 : decode cX4_says 8 = .ok (.iload_n 1, 1) := dk_27 (dk_at dksX4_says_0 8 rfl rfl)
theorem dX4_says_9 : decode cX4_says 9 = .ok (.i2b, 1) := dk_145 (dk_at dksX4_says_0 9 rfl rfl)
theorem dX4_says_10 : decode cX4_says 10 = .ok (.bastore, 1) := dk_84 (dk_at dksX4_says_0 10 rfl rfl)
theorem dX4_says_11 : decode cX4_says 11 = .ok (.aload_n 0, 1) := dk_42 (dk_at dksX4_says_0 11 rfl rfl)
theorem dX4_says_12 : decode cX4_says 12 = .ok (.dup, 1) := dk_89 (dk_at dksX4_says_0 12 rfl rfl)
theorem dX4_says_13 : decode cX4_says 13 = .ok (.getfield 423, 3) := dk_180 1 167 (dk_at dksX4_says_0 13 rfl rfl)
theorem dX4_says_16 : decode cX4_says 16 = .ok (.iconst 1, 1) := dk_4 (dk_at dksX4_says_0 16 rfl rfl)
theorem dX4_says_17 : decode cX4_says 17 = .ok (.iadd, 1) := dk_96 (dk_at dksX4_says_0 17 rfl rfl)
theorem dX4_says_18 : decode cX4_says 18 = .ok (.putfield 423, 3) := dk_181 1 167 (dk_at dksX4_says_0 18 rfl rfl)
theorem dX4_says_21 : decode cX4_says 21 = .ok (.return_, 1) := dk_177 (dk_at dksX4_says_0 21 rfl rfl)
abbrev cX4_saysNumber : ByteArray := prog_25_method_100_code
def yX4_saysNumber : MethodName := ⟨RX4, "saysNumber", "(I)V"⟩
def dkwX4_saysNumber_1 : List UInt8 := [16, 48, 27, 28, 108, 16, 10, 112, 96, 182, 1, 170, 28, 16, 10, 108, 61, 167, 255, 234, 177]
abbrev dktX4_saysNumber_1 : List UInt8 := dkwX4_saysNumber_1 ++ []
def dkwX4_saysNumber_0 : List UInt8 := [4, 61, 27, 28, 108, 16, 9, 164, 0, 11, 28, 16, 10, 104, 61, 167, 255, 243, 28, 158, 0, 24, 42]
abbrev dktX4_saysNumber_0 : List UInt8 := dkwX4_saysNumber_0 ++ dktX4_saysNumber_1
theorem dksX4_saysNumber_0 : cX4_saysNumber.data.toList.drop 0 = dktX4_saysNumber_0 := by decide +kernel
theorem dksX4_saysNumber_1 : cX4_saysNumber.data.toList.drop 23 = dktX4_saysNumber_1 := dk_seg dksX4_saysNumber_0 23 rfl rfl
theorem dX4_saysNumber_0 : decode cX4_saysNumber 0 = .ok (.iconst 1, 1) := dk_4 (dk_at dksX4_saysNumber_0 0 rfl rfl)
theorem dX4_saysNumber_1 : decode cX4_saysNumber 1 = .ok (.istore_n 2, 1) := dk_61 (dk_at dksX4_saysNumber_0 1 rfl rfl)
theorem dX4_saysNumber_2 : decode cX4_saysNumber 2 = .ok (.iload_n 1, 1) := dk_27 (dk_at dksX4_saysNumber_0 2 rfl rfl)
theorem dX4_saysNumber_3 : decode cX4_saysNumber 3 = .ok (.iload_n 2, 1) := dk_28 (dk_at dksX4_saysNumber_0 3 rfl rfl)
theorem dX4_saysNumber_4 : decode cX4_saysNumber 4 = .ok (.idiv, 1) := dk_108 (dk_at dksX4_saysNumber_0 4 rfl rfl)
theorem dX4_saysNumber_5 : decode cX4_saysNumber 5 = .ok (.bipush 9, 2) := dk_16 9 (dk_at dksX4_saysNumber_0 5 rfl rfl)
theorem dX4_saysNumber_7 : decode cX4_saysNumber 7 = .ok (.if_icmp .le 11, 3) := dk_164 0 11 (dk_at dksX4_saysNumber_0 7 rfl rfl)
theorem dX4_saysNumber_10 : decode cX4_saysNumber 10 = .ok (.iload_n 2, 1) := dk_28 (dk_at dksX4_saysNumber_0 10 rfl rfl)
theorem dX4_saysNumber_11 : decode cX4_saysNumber 11 = .ok (.bipush 10, 2) := dk_16 10 (dk_at dksX4_saysNumber_0 11 rfl rfl)
theorem dX4_saysNumber_13 : decode cX4_saysNumber 13 = .ok (.imul, 1) := dk_104 (dk_at dksX4_saysNumber_0 13 rfl rfl)
theorem dX4_saysNumber_14 : decode cX4_saysNumber 14 = .ok (.istore_n 2, 1) := dk_61 (dk_at dksX4_saysNumber_0 14 rfl rfl)
theorem dX4_saysNumber_15 : decode cX4_saysNumber 15 = .ok (.goto (-13), 3) := dk_167 255 243 (dk_at dksX4_saysNumber_0 15 rfl rfl)
theorem dX4_saysNumber_18 : decode cX4_saysNumber 18 = .ok (.iload_n 2, 1) := dk_28 (dk_at dksX4_saysNumber_0 18 rfl rfl)
theorem dX4_saysNumber_19 : decode cX4_saysNumber 19 = .ok (.ifCond .le 24, 3) := dk_158 0 24 (dk_at dksX4_saysNumber_0 19 rfl rfl)
theorem dX4_saysNumber_22 : decode cX4_saysNumber 22 = .ok (.aload_n 0, 1) := dk_42 (dk_at dksX4_saysNumber_0 22 rfl rfl)
theorem dX4_saysNumber_23 : decode cX4_saysNumber 23 = .ok (.bipush 48, 2) := dk_16 48 (dk_at dksX4_saysNumber_1 0 rfl rfl)
theorem dX4_saysNumber_25 : decode cX4_saysNumber 25 = .ok (.iload_n 1, 1) := dk_27 (dk_at dksX4_saysNumber_1 2 rfl rfl)
theorem dX4_saysNumber_26 : decode cX4_saysNumber 26 = .ok (.iload_n 2, 1) := dk_28 (dk_at dksX4_saysNumber_1 3 rfl rfl)
theorem dX4_saysNumber_27 : decode cX4_saysNumber 27 = .ok (.idiv, 1) := dk_108 (dk_at dksX4_saysNumber_1 4 rfl rfl)
theorem dX4_saysNumber_28 : decode cX4_saysNumber 28 = .ok (.bipush 10, 2) := dk_16 10 (dk_at dksX4_saysNumber_1 5 rfl rfl)
theorem dX4_saysNumber_30 : decode cX4_saysNumber 30 = .ok (.irem, 1) := dk_112 (dk_at dksX4_saysNumber_1 7 rfl rfl)
theorem dX4_saysNumber_31 : decode cX4_saysNumber 31 = .ok (.iadd, 1) := dk_96 (dk_at dksX4_saysNumber_1 8 rfl rfl)
theorem dX4_saysNumber_32 : decode cX4_saysNumber 32 = .ok (.invokevirtual 426, 3) := dk_182 1 170 (dk_at dksX4_saysNumber_1 9 rfl rfl)
theorem dX4_saysNumber_35 : decode cX4_saysNumber 35 = .ok (.iload_n 2, 1) := dk_28 (dk_at dksX4_saysNumber_1 12 rfl rfl)
theorem dX4_saysNumber_36 : decode cX4_saysNumber 36 = .ok (.bipush 10, 2) := dk_16 10 (dk_at dksX4_saysNumber_1 13 rfl rfl)
theorem dX4_saysNumber_38 : decode cX4_saysNumber 38 = .ok (.idiv, 1) := dk_108 (dk_at dksX4_saysNumber_1 15 rfl rfl)
theorem dX4_saysNumber_39 : decode cX4_saysNumber 39 = .ok (.istore_n 2, 1) := dk_61 (dk_at dksX4_saysNumber_1 16 rfl rfl)
theorem dX4_saysNumber_40 : decode cX4_saysNumber 40 = .ok (.goto (-22), 3) := dk_167 255 234 (dk_at dksX4_saysNumber_1 17 rfl rfl)
theorem dX4_saysNumber_43 : decode cX4_saysNumber 43 = .ok (.return_, 1) := dk_177 (dk_at dksX4_saysNumber_1 20 rfl rfl)
abbrev cX4_formattedByte : ByteArray := prog_25_method_102_code
def yX4_formattedByte : MethodName := ⟨RX4, "formattedByte", "(I)I"⟩
def dkwX4_formattedByte_1 : List UInt8 := [180, 0, 74, 27, 51, 167, 0, 4, 2, 172]
abbrev dktX4_formattedByte_1 : List UInt8 := dkwX4_formattedByte_1 ++ []
def dkwX4_formattedByte_0 : List UInt8 := [42, 3, 181, 0, 93, 27, 133, 9, 42, 180, 1, 167, 4, 100, 133, 184, 0, 197, 153, 0, 12, 42]
abbrev dktX4_formattedByte_0 : List UInt8 := dkwX4_formattedByte_0 ++ dktX4_formattedByte_1
theorem dksX4_formattedByte_0 : cX4_formattedByte.data.toList.drop 0 = dktX4_formattedByte_0 := by decide +kernel
theorem dksX4_formattedByte_1 : cX4_formattedByte.data.toList.drop 22 = dktX4_formattedByte_1 := dk_seg dksX4_formattedByte_0 22 rfl rfl
theorem dX4_formattedByte_0 : decode cX4_formattedByte 0 = .ok (.aload_n 0, 1) := dk_42 (dk_at dksX4_formattedByte_0 0 rfl rfl)
theorem dX4_formattedByte_1 : decode cX4_formattedByte 1 = .ok (.iconst 0, 1) := dk_3 (dk_at dksX4_formattedByte_0 1 rfl rfl)
theorem dX4_formattedByte_2 : decode cX4_formattedByte 2 = .ok (.putfield 93, 3) := dk_181 0 93 (dk_at dksX4_formattedByte_0 2 rfl rfl)
theorem dX4_formattedByte_5 : decode cX4_formattedByte 5 = .ok (.iload_n 1, 1) := dk_27 (dk_at dksX4_formattedByte_0 5 rfl rfl)
theorem dX4_formattedByte_6 : decode cX4_formattedByte 6 = .ok (.i2l, 1) := dk_133 (dk_at dksX4_formattedByte_0 6 rfl rfl)
theorem dX4_formattedByte_7 : decode cX4_formattedByte 7 = .ok (.lconst 0, 1) := dk_9 (dk_at dksX4_formattedByte_0 7 rfl rfl)
theorem dX4_formattedByte_8 : decode cX4_formattedByte 8 = .ok (.aload_n 0, 1) := dk_42 (dk_at dksX4_formattedByte_0 8 rfl rfl)
theorem dX4_formattedByte_9 : decode cX4_formattedByte 9 = .ok (.getfield 423, 3) := dk_180 1 167 (dk_at dksX4_formattedByte_0 9 rfl rfl)
theorem dX4_formattedByte_12 : decode cX4_formattedByte 12 = .ok (.iconst 1, 1) := dk_4 (dk_at dksX4_formattedByte_0 12 rfl rfl)
theorem dX4_formattedByte_13 : decode cX4_formattedByte 13 = .ok (.isub, 1) := dk_100 (dk_at dksX4_formattedByte_0 13 rfl rfl)
theorem dX4_formattedByte_14 : decode cX4_formattedByte 14 = .ok (.i2l, 1) := dk_133 (dk_at dksX4_formattedByte_0 14 rfl rfl)
theorem dX4_formattedByte_15 : decode cX4_formattedByte 15 = .ok (.invokestatic 197, 3) := dk_184 0 197 (dk_at dksX4_formattedByte_0 15 rfl rfl)
theorem dX4_formattedByte_18 : decode cX4_formattedByte 18 = .ok (.ifCond .eq 12, 3) := dk_153 0 12 (dk_at dksX4_formattedByte_0 18 rfl rfl)
theorem dX4_formattedByte_21 : decode cX4_formattedByte 21 = .ok (.aload_n 0, 1) := dk_42 (dk_at dksX4_formattedByte_0 21 rfl rfl)
theorem dX4_formattedByte_22 : decode cX4_formattedByte 22 = .ok (.getfield 74, 3) := dk_180 0 74 (dk_at dksX4_formattedByte_1 0 rfl rfl)
theorem dX4_formattedByte_25 : decode cX4_formattedByte 25 = .ok (.iload_n 1, 1) := dk_27 (dk_at dksX4_formattedByte_1 3 rfl rfl)
theorem dX4_formattedByte_26 : decode cX4_formattedByte 26 = .ok (.baload, 1) := dk_51 (dk_at dksX4_formattedByte_1 4 rfl rfl)
theorem dX4_formattedByte_27 : decode cX4_formattedByte 27 = .ok (.goto 4, 3) := dk_167 0 4 (dk_at dksX4_formattedByte_1 5 rfl rfl)
theorem dX4_formattedByte_30 : decode cX4_formattedByte 30 = .ok (.iconst (-1), 1) := dk_2 (dk_at dksX4_formattedByte_1 8 rfl rfl)
theorem dX4_formattedByte_31 : decode cX4_formattedByte 31 = .ok (.ireturn, 1) := dk_172 (dk_at dksX4_formattedByte_1 9 rfl rfl)
abbrev cX4_query : ByteArray := prog_25_method_116_code
def yX4_query : MethodName := ⟨RX4, "query", "(I)I"⟩
def dkwX4_query_5 : List UInt8 := [21, 4, 172, 132, 3, 1, 132, 4, 1, 167, 255, 220, 28, 153, 0, 7, 2, 167, 0, 4, 29, 172]
abbrev dktX4_query_5 : List UInt8 := dkwX4_query_5 ++ []
def dkwX4_query_4 : List UInt8 := [180, 0, 7, 4, 46, 162, 0, 31, 42, 21, 4, 182, 1, 254, 154, 0, 6, 167, 0, 13, 28, 153, 0, 6]
abbrev dktX4_query_4 : List UInt8 := dkwX4_query_4 ++ dktX4_query_5
def dkwX4_query_3 : List UInt8 := [182, 0, 183, 154, 0, 12, 19, 1, 253, 42, 180, 0, 177, 100, 172, 3, 62, 3, 54, 4, 21, 4, 42]
abbrev dktX4_query_3 : List UInt8 := dkwX4_query_3 ++ dktX4_query_4
def dkwX4_query_2 : List UInt8 := [154, 0, 19, 42, 20, 1, 248, 182, 0, 233, 154, 0, 9, 42, 4, 182, 0, 194, 87, 42, 182, 1, 250, 42]
abbrev dktX4_query_2 : List UInt8 := dkwX4_query_2 ++ dktX4_query_3
def dkwX4_query_1 : List UInt8 := [182, 1, 0, 153, 0, 5, 3, 172, 42, 27, 182, 1, 4, 42, 20, 1, 246, 182, 0, 233, 61, 28]
abbrev dktX4_query_1 : List UInt8 := dkwX4_query_1 ++ dktX4_query_2
def dkwX4_query_0 : List UInt8 := [42, 3, 181, 0, 93, 42, 27, 133, 9, 42, 180, 0, 130, 17, 0, 200, 184, 1, 74, 133, 184, 0, 197, 4]
abbrev dktX4_query_0 : List UInt8 := dkwX4_query_0 ++ dktX4_query_1
theorem dksX4_query_0 : cX4_query.data.toList.drop 0 = dktX4_query_0 := by decide +kernel
theorem dksX4_query_1 : cX4_query.data.toList.drop 24 = dktX4_query_1 := dk_seg dksX4_query_0 24 rfl rfl
theorem dksX4_query_2 : cX4_query.data.toList.drop 46 = dktX4_query_2 := dk_seg dksX4_query_1 22 rfl rfl
theorem dksX4_query_3 : cX4_query.data.toList.drop 70 = dktX4_query_3 := dk_seg dksX4_query_2 24 rfl rfl
theorem dksX4_query_4 : cX4_query.data.toList.drop 93 = dktX4_query_4 := dk_seg dksX4_query_3 23 rfl rfl
theorem dksX4_query_5 : cX4_query.data.toList.drop 117 = dktX4_query_5 := dk_seg dksX4_query_4 24 rfl rfl
theorem dX4_query_0 : decode cX4_query 0 = .ok (.aload_n 0, 1) := dk_42 (dk_at dksX4_query_0 0 rfl rfl)
theorem dX4_query_1 : decode cX4_query 1 = .ok (.iconst 0, 1) := dk_3 (dk_at dksX4_query_0 1 rfl rfl)
theorem dX4_query_2 : decode cX4_query 2 = .ok (.putfield 93, 3) := dk_181 0 93 (dk_at dksX4_query_0 2 rfl rfl)
theorem dX4_query_5 : decode cX4_query 5 = .ok (.aload_n 0, 1) := dk_42 (dk_at dksX4_query_0 5 rfl rfl)
theorem dX4_query_6 : decode cX4_query 6 = .ok (.iload_n 1, 1) := dk_27 (dk_at dksX4_query_0 6 rfl rfl)
theorem dX4_query_7 : decode cX4_query 7 = .ok (.i2l, 1) := dk_133 (dk_at dksX4_query_0 7 rfl rfl)
theorem dX4_query_8 : decode cX4_query 8 = .ok (.lconst 0, 1) := dk_9 (dk_at dksX4_query_0 8 rfl rfl)
theorem dX4_query_9 : decode cX4_query 9 = .ok (.aload_n 0, 1) := dk_42 (dk_at dksX4_query_0 9 rfl rfl)
theorem dX4_query_10 : decode cX4_query 10 = .ok (.getfield 130, 3) := dk_180 0 130 (dk_at dksX4_query_0 10 rfl rfl)
theorem dX4_query_13 : decode cX4_query 13 = .ok (.sipush 200, 3) := dk_17 0 200 (dk_at dksX4_query_0 13 rfl rfl)
theorem dX4_query_16 : decode cX4_query 16 = .ok (.invokestatic 330, 3) := dk_184 1 74 (dk_at dksX4_query_0 16 rfl rfl)
theorem dX4_query_19 : decode cX4_query 19 = .ok (.i2l, 1) := dk_133 (dk_at dksX4_query_0 19 rfl rfl)
theorem dX4_query_20 : decode cX4_query 20 = .ok (.invokestatic 197, 3) := dk_184 0 197 (dk_at dksX4_query_0 20 rfl rfl)
theorem dX4_query_23 : decode cX4_query 23 = .ok (.iconst 1, 1) := dk_4 (dk_at dksX4_query_0 23 rfl rfl)
theorem dX4_query_24 : decode cX4_query 24 = .ok (.invokevirtual 256, 3) := dk_182 1 0 (dk_at dksX4_query_1 0 rfl rfl)
theorem dX4_query_27 : decode cX4_query 27 = .ok (.ifCond .eq 5, 3) := dk_153 0 5 (dk_at dksX4_query_1 3 rfl rfl)
theorem dX4_query_30 : decode cX4_query 30 = .ok (.iconst 0, 1) := dk_3 (dk_at dksX4_query_1 6 rfl rfl)
theorem dX4_query_31 : decode cX4_query 31 = .ok (.ireturn, 1) := dk_172 (dk_at dksX4_query_1 7 rfl rfl)
theorem dX4_query_32 : decode cX4_query 32 = .ok (.aload_n 0, 1) := dk_42 (dk_at dksX4_query_1 8 rfl rfl)
theorem dX4_query_33 : decode cX4_query 33 = .ok (.iload_n 1, 1) := dk_27 (dk_at dksX4_query_1 9 rfl rfl)
theorem dX4_query_34 : decode cX4_query 34 = .ok (.invokevirtual 260, 3) := dk_182 1 4 (dk_at dksX4_query_1 10 rfl rfl)
theorem dX4_query_37 : decode cX4_query 37 = .ok (.aload_n 0, 1) := dk_42 (dk_at dksX4_query_1 13 rfl rfl)
theorem dX4_query_38 : decode cX4_query 38 = .ok (.ldc2_w 502, 3) := dk_20 1 246 (dk_at dksX4_query_1 14 rfl rfl)
theorem dX4_query_41 : decode cX4_query 41 = .ok (.invokevirtual 233, 3) := dk_182 0 233 (dk_at dksX4_query_1 17 rfl rfl)
theorem dX4_query_44 : decode cX4_query 44 = .ok (.istore_n 2, 1) := dk_61 (dk_at dksX4_query_1 20 rfl rfl)
theorem dX4_query_45 : decode cX4_query 45 = .ok (.iload_n 2, 1) := dk_28 (dk_at dksX4_query_1 21 rfl rfl)
theorem dX4_query_46 : decode cX4_query 46 = .ok (.ifCond .ne 19, 3) := dk_154 0 19 (dk_at dksX4_query_2 0 rfl rfl)
theorem dX4_query_49 : decode cX4_query 49 = .ok (.aload_n 0, 1) := dk_42 (dk_at dksX4_query_2 3 rfl rfl)
theorem dX4_query_50 : decode cX4_query 50 = .ok (.ldc2_w 504, 3) := dk_20 1 248 (dk_at dksX4_query_2 4 rfl rfl)
theorem dX4_query_53 : decode cX4_query 53 = .ok (.invokevirtual 233, 3) := dk_182 0 233 (dk_at dksX4_query_2 7 rfl rfl)
theorem dX4_query_56 : decode cX4_query 56 = .ok (.ifCond .ne 9, 3) := dk_154 0 9 (dk_at dksX4_query_2 10 rfl rfl)
theorem dX4_query_59 : decode cX4_query 59 = .ok (.aload_n 0, 1) := dk_42 (dk_at dksX4_query_2 13 rfl rfl)
theorem dX4_query_60 : decode cX4_query 60 = .ok (.iconst 1, 1) := dk_4 (dk_at dksX4_query_2 14 rfl rfl)
theorem dX4_query_61 : decode cX4_query 61 = .ok (.invokevirtual 194, 3) := dk_182 0 194 (dk_at dksX4_query_2 15 rfl rfl)
theorem dX4_query_64 : decode cX4_query 64 = .ok (.pop, 1) := dk_87 (dk_at dksX4_query_2 18 rfl rfl)
theorem dX4_query_65 : decode cX4_query 65 = .ok (.aload_n 0, 1) := dk_42 (dk_at dksX4_query_2 19 rfl rfl)
theorem dX4_query_66 : decode cX4_query 66 = .ok (.invokevirtual 506, 3) := dk_182 1 250 (dk_at dksX4_query_2 20 rfl rfl)
theorem dX4_query_69 : decode cX4_query 69 = .ok (.aload_n 0, 1) := dk_42 (dk_at dksX4_query_2 23 rfl rfl)
theorem dX4_query_70 : decode cX4_query 70 = .ok (.invokevirtual 183, 3) := dk_182 0 183 (dk_at dksX4_query_3 0 rfl rfl)
theorem dX4_query_73 : decode cX4_query 73 = .ok (.ifCond .ne 12, 3) := dk_154 0 12 (dk_at dksX4_query_3 3 rfl rfl)
theorem dX4_query_76 : decode cX4_query 76 = .ok (.ldc_w 509, 3) := dk_19 1 253 (dk_at dksX4_query_3 6 rfl rfl)
theorem dX4_query_79 : decode cX4_query 79 = .ok (.aload_n 0, 1) := dk_42 (dk_at dksX4_query_3 9 rfl rfl)
theorem dX4_query_80 : decode cX4_query 80 = .ok (.getfield 177, 3) := dk_180 0 177 (dk_at dksX4_query_3 10 rfl rfl)
theorem dX4_query_83 : decode cX4_query 83 = .ok (.isub, 1) := dk_100 (dk_at dksX4_query_3 13 rfl rfl)
theorem dX4_query_84 : decode cX4_query 84 = .ok (.ireturn, 1) := dk_172 (dk_at dksX4_query_3 14 rfl rfl)
theorem dX4_query_85 : decode cX4_query 85 = .ok (.iconst 0, 1) := dk_3 (dk_at dksX4_query_3 15 rfl rfl)
theorem dX4_query_86 : decode cX4_query 86 = .ok (.istore_n 3, 1) := dk_62 (dk_at dksX4_query_3 16 rfl rfl)
theorem dX4_query_87 : decode cX4_query 87 = .ok (.iconst 0, 1) := dk_3 (dk_at dksX4_query_3 17 rfl rfl)
theorem dX4_query_88 : decode cX4_query 88 = .ok (.istore 4, 2) := dk_54 4 (dk_at dksX4_query_3 18 rfl rfl)
theorem dX4_query_90 : decode cX4_query 90 = .ok (.iload 4, 2) := dk_21 4 (dk_at dksX4_query_3 20 rfl rfl)
theorem dX4_query_92 : decode cX4_query 92 = .ok (.aload_n 0, 1) := dk_42 (dk_at dksX4_query_3 22 rfl rfl)
theorem dX4_query_93 : decode cX4_query 93 = .ok (.getfield 7, 3) := dk_180 0 7 (dk_at dksX4_query_4 0 rfl rfl)
theorem dX4_query_96 : decode cX4_query 96 = .ok (.iconst 1, 1) := dk_4 (dk_at dksX4_query_4 3 rfl rfl)
theorem dX4_query_97 : decode cX4_query 97 = .ok (.iaload, 1) := dk_46 (dk_at dksX4_query_4 4 rfl rfl)
theorem dX4_query_98 : decode cX4_query 98 = .ok (.if_icmp .ge 31, 3) := dk_162 0 31 (dk_at dksX4_query_4 5 rfl rfl)
theorem dX4_query_101 : decode cX4_query 101 = .ok (.aload_n 0, 1) := dk_42 (dk_at dksX4_query_4 8 rfl rfl)
theorem dX4_query_102 : decode cX4_query 102 = .ok (.iload 4, 2) := dk_21 4 (dk_at dksX4_query_4 9 rfl rfl)
theorem dX4_query_104 : decode cX4_query 104 = .ok (.invokevirtual 510, 3) := dk_182 1 254 (dk_at dksX4_query_4 11 rfl rfl)
theorem dX4_query_107 : decode cX4_query 107 = .ok (.ifCond .ne 6, 3) := dk_154 0 6 (dk_at dksX4_query_4 14 rfl rfl)
theorem dX4_query_110 : decode cX4_query 110 = .ok (.goto 13, 3) := dk_167 0 13 (dk_at dksX4_query_4 17 rfl rfl)
theorem dX4_query_113 : decode cX4_query 113 = .ok (.iload_n 2, 1) := dk_28 (dk_at dksX4_query_4 20 rfl rfl)
theorem dX4_query_114 : decode cX4_query 114 = .ok (.ifCond .eq 6, 3) := dk_153 0 6 (dk_at dksX4_query_4 21 rfl rfl)
theorem dX4_query_117 : decode cX4_query 117 = .ok (.iload 4, 2) := dk_21 4 (dk_at dksX4_query_5 0 rfl rfl)
theorem dX4_query_119 : decode cX4_query 119 = .ok (.ireturn, 1) := dk_172 (dk_at dksX4_query_5 2 rfl rfl)
theorem dX4_query_120 : decode cX4_query 120 = .ok (.iinc 3 1, 3) := dk_132 3 1 (dk_at dksX4_query_5 3 rfl rfl)
theorem dX4_query_123 : decode cX4_query 123 = .ok (.iinc 4 1, 3) := dk_132 4 1 (dk_at dksX4_query_5 6 rfl rfl)
theorem dX4_query_126 : decode cX4_query 126 = .ok (.goto (-36), 3) := dk_167 255 220 (dk_at dksX4_query_5 9 rfl rfl)
theorem dX4_query_129 : decode cX4_query 129 = .ok (.iload_n 2, 1) := dk_28 (dk_at dksX4_query_5 12 rfl rfl)
theorem dX4_query_130 : decode cX4_query 130 = .ok (.ifCond .eq 7, 3) := dk_153 0 7 (dk_at dksX4_query_5 13 rfl rfl)
theorem dX4_query_133 : decode cX4_query 133 = .ok (.iconst (-1), 1) := dk_2 (dk_at dksX4_query_5 16 rfl rfl)
theorem dX4_query_134 : decode cX4_query 134 = .ok (.goto 4, 3) := dk_167 0 4 (dk_at dksX4_query_5 17 rfl rfl)
theorem dX4_query_137 : decode cX4_query 137 = .ok (.iload_n 3, 1) := dk_29 (dk_at dksX4_query_5 20 rfl rfl)
theorem dX4_query_138 : decode cX4_query 138 = .ok (.ireturn, 1) := dk_172 (dk_at dksX4_query_5 21 rfl rfl)
abbrev cX4_reads : ByteArray := prog_25_method_112_code
def yX4_reads : MethodName := ⟨RX4, "reads", "()V"⟩
def dkwX4_reads_6 : List UInt8 := [153, 0, 9, 42, 4, 182, 0, 194, 87, 42, 4, 182, 1, 219, 177]
abbrev dktX4_reads_6 : List UInt8 := dkwX4_reads_6 ++ []
def dkwX4_reads_5 : List UInt8 := [182, 0, 180, 167, 255, 155, 42, 182, 0, 183, 153, 0, 23, 42, 182, 1, 222, 154, 0, 10, 42, 180, 0, 161]
abbrev dktX4_reads_5 : List UInt8 := dkwX4_reads_5 ++ dktX4_reads_6
def dkwX4_reads_4 : List UInt8 := [182, 1, 219, 42, 180, 0, 81, 42, 180, 1, 205, 28, 79, 42, 89, 180, 1, 205, 4, 96, 181, 1, 205, 42]
abbrev dktX4_reads_4 : List UInt8 := dkwX4_reads_4 ++ dktX4_reads_5
def dkwX4_reads_3 : List UInt8 := [61, 28, 153, 0, 7, 4, 167, 0, 4, 3, 60, 27, 154, 0, 6, 167, 255, 190, 42, 28, 184, 1, 208]
abbrev dktX4_reads_3 : List UInt8 := dkwX4_reads_3 ++ dktX4_reads_4
def dkwX4_reads_2 : List UInt8 := [153, 0, 8, 16, 24, 167, 0, 19, 42, 20, 1, 233, 182, 0, 187, 153, 0, 8, 16, 25, 167, 0, 4, 3]
abbrev dktX4_reads_2 : List UInt8 := dkwX4_reads_2 ++ dktX4_reads_3
def dkwX4_reads_1 : List UInt8 := [42, 182, 1, 225, 42, 182, 0, 183, 154, 0, 4, 177, 42, 182, 1, 228, 42, 20, 1, 231, 182, 0, 187]
abbrev dktX4_reads_1 : List UInt8 := dkwX4_reads_1 ++ dktX4_reads_2
def dkwX4_reads_0 : List UInt8 := [42, 3, 181, 1, 176, 42, 3, 181, 1, 202, 42, 3, 181, 1, 205, 42, 182, 0, 183, 60, 27, 153, 0, 103]
abbrev dktX4_reads_0 : List UInt8 := dkwX4_reads_0 ++ dktX4_reads_1
theorem dksX4_reads_0 : cX4_reads.data.toList.drop 0 = dktX4_reads_0 := by decide +kernel
theorem dksX4_reads_1 : cX4_reads.data.toList.drop 24 = dktX4_reads_1 := dk_seg dksX4_reads_0 24 rfl rfl
theorem dksX4_reads_2 : cX4_reads.data.toList.drop 47 = dktX4_reads_2 := dk_seg dksX4_reads_1 23 rfl rfl
theorem dksX4_reads_3 : cX4_reads.data.toList.drop 71 = dktX4_reads_3 := dk_seg dksX4_reads_2 24 rfl rfl
theorem dksX4_reads_4 : cX4_reads.data.toList.drop 94 = dktX4_reads_4 := dk_seg dksX4_reads_3 23 rfl rfl
theorem dksX4_reads_5 : cX4_reads.data.toList.drop 118 = dktX4_reads_5 := dk_seg dksX4_reads_4 24 rfl rfl
theorem dksX4_reads_6 : cX4_reads.data.toList.drop 142 = dktX4_reads_6 := dk_seg dksX4_reads_5 24 rfl rfl
theorem dX4_reads_0 : decode cX4_reads 0 = .ok (.aload_n 0, 1) := dk_42 (dk_at dksX4_reads_0 0 rfl rfl)
theorem dX4_reads_1 : decode cX4_reads 1 = .ok (.iconst 0, 1) := dk_3 (dk_at dksX4_reads_0 1 rfl rfl)
theorem dX4_reads_2 : decode cX4_reads 2 = .ok (.putfield 432, 3) := dk_181 1 176 (dk_at dksX4_reads_0 2 rfl rfl)
theorem dX4_reads_5 : decode cX4_reads 5 = .ok (.aload_n 0, 1) := dk_42 (dk_at dksX4_reads_0 5 rfl rfl)
theorem dX4_reads_6 : decode cX4_reads 6 = .ok (.iconst 0, 1) := dk_3 (dk_at dksX4_reads_0 6 rfl rfl)
theorem dX4_reads_7 : decode cX4_reads 7 = .ok (.putfield 458, 3) := dk_181 1 202 (dk_at dksX4_reads_0 7 rfl rfl)
theorem dX4_reads_10 : decode cX4_reads 10 = .ok (.aload_n 0, 1) := dk_42 (dk_at dksX4_reads_0 10 rfl rfl)
theorem dX4_reads_11 : decode cX4_reads 11 = .ok (.iconst 0, 1) := dk_3 (dk_at dksX4_reads_0 11 rfl rfl)
theorem dX4_reads_12 : decode cX4_reads 12 = .ok (.putfield 461, 3) := dk_181 1 205 (dk_at dksX4_reads_0 12 rfl rfl)
theorem dX4_reads_15 : decode cX4_reads 15 = .ok (.aload_n 0, 1) := dk_42 (dk_at dksX4_reads_0 15 rfl rfl)
theorem dX4_reads_16 : decode cX4_reads 16 = .ok (.invokevirtual 183, 3) := dk_182 0 183 (dk_at dksX4_reads_0 16 rfl rfl)
theorem dX4_reads_19 : decode cX4_reads 19 = .ok (.istore_n 1, 1) := dk_60 (dk_at dksX4_reads_0 19 rfl rfl)
theorem dX4_reads_20 : decode cX4_reads 20 = .ok (.iload_n 1, 1) := dk_27 (dk_at dksX4_reads_0 20 rfl rfl)
theorem dX4_reads_21 : decode cX4_reads 21 = .ok (.ifCond .eq 103, 3) := dk_153 0 103 (dk_at dksX4_reads_0 21 rfl rfl)
theorem dX4_reads_24 : decode cX4_reads 24 = .ok (.aload_n 0, 1) := dk_42 (dk_at dksX4_reads_1 0 rfl rfl)
theorem dX4_reads_25 : decode cX4_reads 25 = .ok (.invokevirtual 481, 3) := dk_182 1 225 (dk_at dksX4_reads_1 1 rfl rfl)
theorem dX4_reads_28 : decode cX4_reads 28 = .ok (.aload_n 0, 1) := dk_42 (dk_at dksX4_reads_1 4 rfl rfl)
theorem dX4_reads_29 : decode cX4_reads 29 = .ok (.invokevirtual 183, 3) := dk_182 0 183 (dk_at dksX4_reads_1 5 rfl rfl)
theorem dX4_reads_32 : decode cX4_reads 32 = .ok (.ifCond .ne 4, 3) := dk_154 0 4 (dk_at dksX4_reads_1 8 rfl rfl)
theorem dX4_reads_35 : decode cX4_reads 35 = .ok (.return_, 1) := dk_177 (dk_at dksX4_reads_1 11 rfl rfl)
theorem dX4_reads_36 : decode cX4_reads 36 = .ok (.aload_n 0, 1) := dk_42 (dk_at dksX4_reads_1 12 rfl rfl)
theorem dX4_reads_37 : decode cX4_reads 37 = .ok (.invokevirtual 484, 3) := dk_182 1 228 (dk_at dksX4_reads_1 13 rfl rfl)
theorem dX4_reads_40 : decode cX4_reads 40 = .ok (.aload_n 0, 1) := dk_42 (dk_at dksX4_reads_1 16 rfl rfl)
theorem dX4_reads_41 : decode cX4_reads 41 = .ok (.ldc2_w 487, 3) := dk_20 1 231 (dk_at dksX4_reads_1 17 rfl rfl)
theorem dX4_reads_44 : decode cX4_reads 44 = .ok (.invokevirtual 187, 3) := dk_182 0 187 (dk_at dksX4_reads_1 20 rfl rfl)
theorem dX4_reads_47 : decode cX4_reads 47 = .ok (.ifCond .eq 8, 3) := dk_153 0 8 (dk_at dksX4_reads_2 0 rfl rfl)
theorem dX4_reads_50 : decode cX4_reads 50 = .ok (.bipush 24, 2) := dk_16 24 (dk_at dksX4_reads_2 3 rfl rfl)
theorem dX4_reads_52 : decode cX4_reads 52 = .ok (.goto 19, 3) := dk_167 0 19 (dk_at dksX4_reads_2 5 rfl rfl)
theorem dX4_reads_55 : decode cX4_reads 55 = .ok (.aload_n 0, 1) := dk_42 (dk_at dksX4_reads_2 8 rfl rfl)
theorem dX4_reads_56 : decode cX4_reads 56 = .ok (.ldc2_w 489, 3) := dk_20 1 233 (dk_at dksX4_reads_2 9 rfl rfl)
theorem dX4_reads_59 : decode cX4_reads 59 = .ok (.invokevirtual 187, 3) := dk_182 0 187 (dk_at dksX4_reads_2 12 rfl rfl)
theorem dX4_reads_62 : decode cX4_reads 62 = .ok (.ifCond .eq 8, 3) := dk_153 0 8 (dk_at dksX4_reads_2 15 rfl rfl)
theorem dX4_reads_65 : decode cX4_reads 65 = .ok (.bipush 25, 2) := dk_16 25 (dk_at dksX4_reads_2 18 rfl rfl)
theorem dX4_reads_67 : decode cX4_reads 67 = .ok (.goto 4, 3) := dk_167 0 4 (dk_at dksX4_reads_2 20 rfl rfl)
theorem dX4_reads_70 : decode cX4_reads 70 = .ok (.iconst 0, 1) := dk_3 (dk_at dksX4_reads_2 23 rfl rfl)
theorem dX4_reads_71 : decode cX4_reads 71 = .ok (.istore_n 2, 1) := dk_61 (dk_at dksX4_reads_3 0 rfl rfl)
theorem dX4_reads_72 : decode cX4_reads 72 = .ok (.iload_n 2, 1) := dk_28 (dk_at dksX4_reads_3 1 rfl rfl)
theorem dX4_reads_73 : decode cX4_reads 73 = .ok (.ifCond .eq 7, 3) := dk_153 0 7 (dk_at dksX4_reads_3 2 rfl rfl)
theorem dX4_reads_76 : decode cX4_reads 76 = .ok (.iconst 1, 1) := dk_4 (dk_at dksX4_reads_3 5 rfl rfl)
theorem dX4_reads_77 : decode cX4_reads 77 = .ok (.goto 4, 3) := dk_167 0 4 (dk_at dksX4_reads_3 6 rfl rfl)
theorem dX4_reads_80 : decode cX4_reads 80 = .ok (.iconst 0, 1) := dk_3 (dk_at dksX4_reads_3 9 rfl rfl)
theorem dX4_reads_81 : decode cX4_reads 81 = .ok (.istore_n 1, 1) := dk_60 (dk_at dksX4_reads_3 10 rfl rfl)
theorem dX4_reads_82 : decode cX4_reads 82 = .ok (.iload_n 1, 1) := dk_27 (dk_at dksX4_reads_3 11 rfl rfl)
theorem dX4_reads_83 : decode cX4_reads 83 = .ok (.ifCond .ne 6, 3) := dk_154 0 6 (dk_at dksX4_reads_3 12 rfl rfl)
theorem dX4_reads_86 : decode cX4_reads 86 = .ok (.goto (-66), 3) := dk_167 255 190 (dk_at dksX4_reads_3 15 rfl rfl)
theorem dX4_reads_89 : decode cX4_reads 89 = .ok (.aload_n 0, 1) := dk_42 (dk_at dksX4_reads_3 18 rfl rfl)
theorem dX4_reads_90 : decode cX4_reads 90 = .ok (.iload_n 2, 1) := dk_28 (dk_at dksX4_reads_3 19 rfl rfl)
theorem dX4_reads_91 : decode cX4_reads 91 = .ok (.invokestatic 464, 3) := dk_184 1 208 (dk_at dksX4_reads_3 20 rfl rfl)
theorem dX4_reads_94 : decode cX4_reads 94 = .ok (.invokevirtual 475, 3) := dk_182 1 219 (dk_at dksX4_reads_4 0 rfl rfl)
theorem dX4_reads_97 : decode cX4_reads 97 = .ok (.aload_n 0, 1) := dk_42 (dk_at dksX4_reads_4 3 rfl rfl)
theorem dX4_reads_98 : decode cX4_reads 98 = .ok (.getfield 81, 3) := dk_180 0 81 (dk_at dksX4_reads_4 4 rfl rfl)
theorem dX4_reads_101 : decode cX4_reads 101 = .ok (.aload_n 0, 1) := dk_42 (dk_at dksX4_reads_4 7 rfl rfl)
theorem dX4_reads_102 : decode cX4_reads 102 = .ok (.getfield 461, 3) := dk_180 1 205 (dk_at dksX4_reads_4 8 rfl rfl)
theorem dX4_reads_105 : decode cX4_reads 105 = .ok (.iload_n 2, 1) := dk_28 (dk_at dksX4_reads_4 11 rfl rfl)
theorem dX4_reads_106 : decode cX4_reads 106 = .ok (.iastore, 1) := dk_79 (dk_at dksX4_reads_4 12 rfl rfl)
theorem dX4_reads_107 : decode cX4_reads 107 = .ok (.aload_n 0, 1) := dk_42 (dk_at dksX4_reads_4 13 rfl rfl)
theorem dX4_reads_108 : decode cX4_reads 108 = .ok (.dup, 1) := dk_89 (dk_at dksX4_reads_4 14 rfl rfl)
theorem dX4_reads_109 : decode cX4_reads 109 = .ok (.getfield 461, 3) := dk_180 1 205 (dk_at dksX4_reads_4 15 rfl rfl)
theorem dX4_reads_112 : decode cX4_reads 112 = .ok (.iconst 1, 1) := dk_4 (dk_at dksX4_reads_4 18 rfl rfl)
theorem dX4_reads_113 : decode cX4_reads 113 = .ok (.iadd, 1) := dk_96 (dk_at dksX4_reads_4 19 rfl rfl)
theorem dX4_reads_114 : decode cX4_reads 114 = .ok (.putfield 461, 3) := dk_181 1 205 (dk_at dksX4_reads_4 20 rfl rfl)
theorem dX4_reads_117 : decode cX4_reads 117 = .ok (.aload_n 0, 1) := dk_42 (dk_at dksX4_reads_4 23 rfl rfl)
theorem dX4_reads_118 : decode cX4_reads 118 = .ok (.invokevirtual 180, 3) := dk_182 0 180 (dk_at dksX4_reads_5 0 rfl rfl)
theorem dX4_reads_121 : decode cX4_reads 121 = .ok (.goto (-101), 3) := dk_167 255 155 (dk_at dksX4_reads_5 3 rfl rfl)
theorem dX4_reads_124 : decode cX4_reads 124 = .ok (.aload_n 0, 1) := dk_42 (dk_at dksX4_reads_5 6 rfl rfl)
theorem dX4_reads_125 : decode cX4_reads 125 = .ok (.invokevirtual 183, 3) := dk_182 0 183 (dk_at dksX4_reads_5 7 rfl rfl)
theorem dX4_reads_128 : decode cX4_reads 128 = .ok (.ifCond .eq 23, 3) := dk_153 0 23 (dk_at dksX4_reads_5 10 rfl rfl)
theorem dX4_reads_131 : decode cX4_reads 131 = .ok (.aload_n 0, 1) := dk_42 (dk_at dksX4_reads_5 13 rfl rfl)
theorem dX4_reads_132 : decode cX4_reads 132 = .ok (.invokevirtual 478, 3) := dk_182 1 222 (dk_at dksX4_reads_5 14 rfl rfl)
theorem dX4_reads_135 : decode cX4_reads 135 = .ok (.ifCond .ne 10, 3) := dk_154 0 10 (dk_at dksX4_reads_5 17 rfl rfl)
theorem dX4_reads_138 : decode cX4_reads 138 = .ok (.aload_n 0, 1) := dk_42 (dk_at dksX4_reads_5 20 rfl rfl)
theorem dX4_reads_139 : decode cX4_reads 139 = .ok (.getfield 161, 3) := dk_180 0 161 (dk_at dksX4_reads_5 21 rfl rfl)
theorem dX4_reads_142 : decode cX4_reads 142 = .ok (.ifCond .eq 9, 3) := dk_153 0 9 (dk_at dksX4_reads_6 0 rfl rfl)
theorem dX4_reads_145 : decode cX4_reads 145 = .ok (.aload_n 0, 1) := dk_42 (dk_at dksX4_reads_6 3 rfl rfl)
theorem dX4_reads_146 : decode cX4_reads 146 = .ok (.iconst 1, 1) := dk_4 (dk_at dksX4_reads_6 4 rfl rfl)
theorem dX4_reads_147 : decode cX4_reads 147 = .ok (.invokevirtual 194, 3) := dk_182 0 194 (dk_at dksX4_reads_6 5 rfl rfl)
theorem dX4_reads_150 : decode cX4_reads 150 = .ok (.pop, 1) := dk_87 (dk_at dksX4_reads_6 8 rfl rfl)
theorem dX4_reads_151 : decode cX4_reads 151 = .ok (.aload_n 0, 1) := dk_42 (dk_at dksX4_reads_6 9 rfl rfl)
theorem dX4_reads_152 : decode cX4_reads 152 = .ok (.iconst 1, 1) := dk_4 (dk_at dksX4_reads_6 10 rfl rfl)
theorem dX4_reads_153 : decode cX4_reads 153 = .ok (.invokevirtual 475, 3) := dk_182 1 219 (dk_at dksX4_reads_6 11 rfl rfl)
theorem dX4_reads_156 : decode cX4_reads 156 = .ok (.return_, 1) := dk_177 (dk_at dksX4_reads_6 14 rfl rfl)
abbrev cX4_comparisonRead : ByteArray := prog_25_method_110_code
def yX4_comparisonRead : MethodName := ⟨RX4, "comparisonRead", "()V"⟩
def dkwX4_comparisonRead_5 : List UInt8 := [153, 0, 8, 42, 27, 182, 1, 196, 177]
abbrev dktX4_comparisonRead_5 : List UInt8 := dkwX4_comparisonRead_5 ++ []
def dkwX4_comparisonRead_4 : List UInt8 := [182, 0, 194, 87, 42, 182, 0, 183, 154, 0, 4, 177, 42, 182, 0, 180, 42, 182, 1, 216, 42, 182, 0, 183]
abbrev dktX4_comparisonRead_4 : List UInt8 := dkwX4_comparisonRead_4 ++ dktX4_comparisonRead_5
def dkwX4_comparisonRead_3 : List UInt8 := [167, 0, 5, 16, 21, 60, 27, 16, 21, 160, 0, 18, 42, 16, 61, 182, 0, 191, 154, 0, 9, 42, 4]
abbrev dktX4_comparisonRead_3 : List UInt8 := dkwX4_comparisonRead_3 ++ dktX4_comparisonRead_4
def dkwX4_comparisonRead_2 : List UInt8 := [16, 60, 182, 0, 191, 153, 0, 8, 16, 20, 167, 0, 19, 42, 16, 62, 182, 0, 191, 153, 0, 8, 16, 22]
abbrev dktX4_comparisonRead_2 : List UInt8 := dkwX4_comparisonRead_2 ++ dktX4_comparisonRead_3
def dkwX4_comparisonRead_1 : List UInt8 := [182, 0, 187, 153, 0, 8, 16, 23, 167, 0, 4, 4, 182, 1, 213, 154, 255, 217, 177, 42, 182, 1, 216, 42]
abbrev dktX4_comparisonRead_1 : List UInt8 := dkwX4_comparisonRead_1 ++ dktX4_comparisonRead_2
def dkwX4_comparisonRead_0 : List UInt8 := [42, 20, 1, 211, 182, 0, 187, 154, 0, 12, 42, 16, 40, 182, 0, 191, 153, 0, 27, 42, 42, 20, 1, 211]
abbrev dktX4_comparisonRead_0 : List UInt8 := dkwX4_comparisonRead_0 ++ dktX4_comparisonRead_1
theorem dksX4_comparisonRead_0 : cX4_comparisonRead.data.toList.drop 0 = dktX4_comparisonRead_0 := by decide +kernel
theorem dksX4_comparisonRead_1 : cX4_comparisonRead.data.toList.drop 24 = dktX4_comparisonRead_1 := dk_seg dksX4_comparisonRead_0 24 rfl rfl
theorem dksX4_comparisonRead_2 : cX4_comparisonRead.data.toList.drop 48 = dktX4_comparisonRead_2 := dk_seg dksX4_comparisonRead_1 24 rfl rfl
theorem dksX4_comparisonRead_3 : cX4_comparisonRead.data.toList.drop 72 = dktX4_comparisonRead_3 := dk_seg dksX4_comparisonRead_2 24 rfl rfl
theorem dksX4_comparisonRead_4 : cX4_comparisonRead.data.toList.drop 95 = dktX4_comparisonRead_4 := dk_seg dksX4_comparisonRead_3 23 rfl rfl
theorem dksX4_comparisonRead_5 : cX4_comparisonRead.data.toList.drop 119 = dktX4_comparisonRead_5 := dk_seg dksX4_comparisonRead_4 24 rfl rfl
theorem dX4_comparisonRead_0 : decode cX4_comparisonRead 0 = .ok (.aload_n 0, 1) := dk_42 (dk_at dksX4_comparisonRead_0 0 rfl rfl)
theorem dX4_comparisonRead_1 : decode cX4_comparisonRead 1 = .ok (.ldc2_w 467, 3) := dk_20 1 211 (dk_at dksX4_comparisonRead_0 1 rfl rfl)
theorem dX4_comparisonRead_4 : decode cX4_comparisonRead 4 = .ok (.invokevirtual 187, 3) := dk_182 0 187 (dk_at dksX4_comparisonRead_0 4 rfl rfl)
theorem dX4_comparisonRead_7 : decode cX4_comparisonRead 7 = .ok (.ifCond .ne 12, 3) := dk_154 0 12 (dk_at dksX4_comparisonRead_0 7 rfl rfl)
theorem dX4_comparisonRead_10 : decode cX4_comparisonRead 10 = .ok (.aload_n 0, 1) := dk_42 (dk_at dksX4_comparisonRead_0 10 rfl rfl)
theorem dX4_comparisonRead_11 : decode cX4_comparisonRead 11 = .ok (.bipush 40, 2) := dk_16 40 (dk_at dksX4_comparisonRead_0 11 rfl rfl)
theorem dX4_comparisonRead_13 : decode cX4_comparisonRead 13 = .ok (.invokevirtual 191, 3) := dk_182 0 191 (dk_at dksX4_comparisonRead_0 13 rfl rfl)
theorem dX4_comparisonRead_16 : decode cX4_comparisonRead 16 = .ok (.ifCond .eq 27, 3) := dk_153 0 27 (dk_at dksX4_comparisonRead_0 16 rfl rfl)
theorem dX4_comparisonRead_19 : decode cX4_comparisonRead 19 = .ok (.aload_n 0, 1) := dk_42 (dk_at dksX4_comparisonRead_0 19 rfl rfl)
theorem dX4_comparisonRead_20 : decode cX4_comparisonRead 20 = .ok (.aload_n 0, 1) := dk_42 (dk_at dksX4_comparisonRead_0 20 rfl rfl)
theorem dX4_comparisonRead_21 : decode cX4_comparisonRead 21 = .ok (.ldc2_w 467, 3) := dk_20 1 211 (dk_at dksX4_comparisonRead_0 21 rfl rfl)
theorem dX4_comparisonRead_24 : decode cX4_comparisonRead 24 = .ok (.invokevirtual 187, 3) := dk_182 0 187 (dk_at dksX4_comparisonRead_1 0 rfl rfl)
theorem dX4_comparisonRead_27 : decode cX4_comparisonRead 27 = .ok (.ifCond .eq 8, 3) := dk_153 0 8 (dk_at dksX4_comparisonRead_1 3 rfl rfl)
theorem dX4_comparisonRead_30 : decode cX4_comparisonRead 30 = .ok (.bipush 23, 2) := dk_16 23 (dk_at dksX4_comparisonRead_1 6 rfl rfl)
theorem dX4_comparisonRead_32 : decode cX4_comparisonRead 32 = .ok (.goto 4, 3) := dk_167 0 4 (dk_at dksX4_comparisonRead_1 8 rfl rfl)
theorem dX4_comparisonRead_35 : decode cX4_comparisonRead 35 = .ok (.iconst 1, 1) := dk_4 (dk_at dksX4_comparisonRead_1 11 rfl rfl)
theorem dX4_comparisonRead_36 : decode cX4_comparisonRead 36 = .ok (.invokevirtual 469, 3) := dk_182 1 213 (dk_at dksX4_comparisonRead_1 12 rfl rfl)
theorem dX4_comparisonRead_39 : decode cX4_comparisonRead 39 = .ok (.ifCond .ne (-39), 3) := dk_154 255 217 (dk_at dksX4_comparisonRead_1 15 rfl rfl)
theorem dX4_comparisonRead_42 : decode cX4_comparisonRead 42 = .ok (.return_, 1) := dk_177 (dk_at dksX4_comparisonRead_1 18 rfl rfl)
theorem dX4_comparisonRead_43 : decode cX4_comparisonRead 43 = .ok (.aload_n 0, 1) := dk_42 (dk_at dksX4_comparisonRead_1 19 rfl rfl)
theorem dX4_comparisonRead_44 : decode cX4_comparisonRead 44 = .ok (.invokevirtual 472, 3) := dk_182 1 216 (dk_at dksX4_comparisonRead_1 20 rfl rfl)
theorem dX4_comparisonRead_47 : decode cX4_comparisonRead 47 = .ok (.aload_n 0, 1) := dk_42 (dk_at dksX4_comparisonRead_1 23 rfl rfl)
theorem dX4_comparisonRead_48 : decode cX4_comparisonRead 48 = .ok (.bipush 60, 2) := dk_16 60 (dk_at dksX4_comparisonRead_2 0 rfl rfl)
theorem dX4_comparisonRead_50 : decode cX4_comparisonRead 50 = .ok (.invokevirtual 191, 3) := dk_182 0 191 (dk_at dksX4_comparisonRead_2 2 rfl rfl)
theorem dX4_comparisonRead_53 : decode cX4_comparisonRead 53 = .ok (.ifCond .eq 8, 3) := dk_153 0 8 (dk_at dksX4_comparisonRead_2 5 rfl rfl)
theorem dX4_comparisonRead_56 : decode cX4_comparisonRead 56 = .ok (.bipush 20, 2) := dk_16 20 (dk_at dksX4_comparisonRead_2 8 rfl rfl)
theorem dX4_comparisonRead_58 : decode cX4_comparisonRead 58 = .ok (.goto 19, 3) := dk_167 0 19 (dk_at dksX4_comparisonRead_2 10 rfl rfl)
theorem dX4_comparisonRead_61 : decode cX4_comparisonRead 61 = .ok (.aload_n 0, 1) := dk_42 (dk_at dksX4_comparisonRead_2 13 rfl rfl)
theorem dX4_comparisonRead_62 : decode cX4_comparisonRead 62 = .ok (.bipush 62, 2) := dk_16 62 (dk_at dksX4_comparisonRead_2 14 rfl rfl)
theorem dX4_comparisonRead_64 : decode cX4_comparisonRead 64 = .ok (.invokevirtual 191, 3) := dk_182 0 191 (dk_at dksX4_comparisonRead_2 16 rfl rfl)
theorem dX4_comparisonRead_67 : decode cX4_comparisonRead 67 = .ok (.ifCond .eq 8, 3) := dk_153 0 8 (dk_at dksX4_comparisonRead_2 19 rfl rfl)
theorem dX4_comparisonRead_70 : decode cX4_comparisonRead 70 = .ok (.bipush 22, 2) := dk_16 22 (dk_at dksX4_comparisonRead_2 22 rfl rfl)
theorem dX4_comparisonRead_72 : decode cX4_comparisonRead 72 = .ok (.goto 5, 3) := dk_167 0 5 (dk_at dksX4_comparisonRead_3 0 rfl rfl)
theorem dX4_comparisonRead_75 : decode cX4_comparisonRead 75 = .ok (.bipush 21, 2) := dk_16 21 (dk_at dksX4_comparisonRead_3 3 rfl rfl)
theorem dX4_comparisonRead_77 : decode cX4_comparisonRead 77 = .ok (.istore_n 1, 1) := dk_60 (dk_at dksX4_comparisonRead_3 5 rfl rfl)
theorem dX4_comparisonRead_78 : decode cX4_comparisonRead 78 = .ok (.iload_n 1, 1) := dk_27 (dk_at dksX4_comparisonRead_3 6 rfl rfl)
theorem dX4_comparisonRead_79 : decode cX4_comparisonRead 79 = .ok (.bipush 21, 2) := dk_16 21 (dk_at dksX4_comparisonRead_3 7 rfl rfl)
theorem dX4_comparisonRead_81 : decode cX4_comparisonRead 81 = .ok (.if_icmp .ne 18, 3) := dk_160 0 18 (dk_at dksX4_comparisonRead_3 9 rfl rfl)
theorem dX4_comparisonRead_84 : decode cX4_comparisonRead 84 = .ok (.aload_n 0, 1) := dk_42 (dk_at dksX4_comparisonRead_3 12 rfl rfl)
theorem dX4_comparisonRead_85 : decode cX4_comparisonRead 85 = .ok (.bipush 61, 2) := dk_16 61 (dk_at dksX4_comparisonRead_3 13 rfl rfl)
theorem dX4_comparisonRead_87 : decode cX4_comparisonRead 87 = .ok (.invokevirtual 191, 3) := dk_182 0 191 (dk_at dksX4_comparisonRead_3 15 rfl rfl)
theorem dX4_comparisonRead_90 : decode cX4_comparisonRead 90 = .ok (.ifCond .ne 9, 3) := dk_154 0 9 (dk_at dksX4_comparisonRead_3 18 rfl rfl)
theorem dX4_comparisonRead_93 : decode cX4_comparisonRead 93 = .ok (.aload_n 0, 1) := dk_42 (dk_at dksX4_comparisonRead_3 21 rfl rfl)
theorem dX4_comparisonRead_94 : decode cX4_comparisonRead 94 = .ok (.iconst 1, 1) := dk_4 (dk_at dksX4_comparisonRead_3 22 rfl rfl)
theorem dX4_comparisonRead_95 : decode cX4_comparisonRead 95 = .ok (.invokevirtual 194, 3) := dk_182 0 194 (dk_at dksX4_comparisonRead_4 0 rfl rfl)
theorem dX4_comparisonRead_98 : decode cX4_comparisonRead 98 = .ok (.pop, 1) := dk_87 (dk_at dksX4_comparisonRead_4 3 rfl rfl)
theorem dX4_comparisonRead_99 : decode cX4_comparisonRead 99 = .ok (.aload_n 0, 1) := dk_42 (dk_at dksX4_comparisonRead_4 4 rfl rfl)
theorem dX4_comparisonRead_100 : decode cX4_comparisonRead 100 = .ok (.invokevirtual 183, 3) := dk_182 0 183 (dk_at dksX4_comparisonRead_4 5 rfl rfl)
theorem dX4_comparisonRead_103 : decode cX4_comparisonRead 103 = .ok (.ifCond .ne 4, 3) := dk_154 0 4 (dk_at dksX4_comparisonRead_4 8 rfl rfl)
theorem dX4_comparisonRead_106 : decode cX4_comparisonRead 106 = .ok (.return_, 1) := dk_177 (dk_at dksX4_comparisonRead_4 11 rfl rfl)
theorem dX4_comparisonRead_107 : decode cX4_comparisonRead 107 = .ok (.aload_n 0, 1) := dk_42 (dk_at dksX4_comparisonRead_4 12 rfl rfl)
theorem dX4_comparisonRead_108 : decode cX4_comparisonRead 108 = .ok (.invokevirtual 180, 3) := dk_182 0 180 (dk_at dksX4_comparisonRead_4 13 rfl rfl)
theorem dX4_comparisonRead_111 : decode cX4_comparisonRead 111 = .ok (.aload_n 0, 1) := dk_42 (dk_at dksX4_comparisonRead_4 16 rfl rfl)
theorem dX4_comparisonRead_112 : decode cX4_comparisonRead 112 = .ok (.invokevirtual 472, 3) := dk_182 1 216 (dk_at dksX4_comparisonRead_4 17 rfl rfl)
theorem dX4_comparisonRead_115 : decode cX4_comparisonRead 115 = .ok (.aload_n 0, 1) := dk_42 (dk_at dksX4_comparisonRead_4 20 rfl rfl)
theorem dX4_comparisonRead_116 : decode cX4_comparisonRead 116 = .ok (.invokevirtual 183, 3) := dk_182 0 183 (dk_at dksX4_comparisonRead_4 21 rfl rfl)
theorem dX4_comparisonRead_119 : decode cX4_comparisonRead 119 = .ok (.ifCond .eq 8, 3) := dk_153 0 8 (dk_at dksX4_comparisonRead_5 0 rfl rfl)
theorem dX4_comparisonRead_122 : decode cX4_comparisonRead 122 = .ok (.aload_n 0, 1) := dk_42 (dk_at dksX4_comparisonRead_5 3 rfl rfl)
theorem dX4_comparisonRead_123 : decode cX4_comparisonRead 123 = .ok (.iload_n 1, 1) := dk_27 (dk_at dksX4_comparisonRead_5 4 rfl rfl)
theorem dX4_comparisonRead_124 : decode cX4_comparisonRead 124 = .ok (.invokevirtual 452, 3) := dk_182 1 196 (dk_at dksX4_comparisonRead_5 5 rfl rfl)
theorem dX4_comparisonRead_127 : decode cX4_comparisonRead 127 = .ok (.return_, 1) := dk_177 (dk_at dksX4_comparisonRead_5 8 rfl rfl)
abbrev cX4_goesIn : ByteArray := prog_25_method_106_code
def yX4_goesIn : MethodName := ⟨RX4, "goesIn", "(I)Z"⟩
def dkwX4_goesIn_2 : List UInt8 := [182, 0, 180, 4, 172]
abbrev dktX4_goesIn_2 : List UInt8 := dkwX4_goesIn_2 ++ []
def dkwX4_goesIn_1 : List UInt8 := [181, 1, 202, 42, 180, 0, 81, 42, 180, 1, 205, 27, 79, 42, 89, 180, 1, 205, 4, 96, 181, 1, 205, 42]
abbrev dktX4_goesIn_1 : List UInt8 := dkwX4_goesIn_1 ++ dktX4_goesIn_2
def dkwX4_goesIn_0 : List UInt8 := [42, 180, 1, 202, 16, 6, 160, 0, 9, 42, 6, 182, 0, 194, 172, 42, 89, 180, 1, 202, 4, 96]
abbrev dktX4_goesIn_0 : List UInt8 := dkwX4_goesIn_0 ++ dktX4_goesIn_1
theorem dksX4_goesIn_0 : cX4_goesIn.data.toList.drop 0 = dktX4_goesIn_0 := by decide +kernel
theorem dksX4_goesIn_1 : cX4_goesIn.data.toList.drop 22 = dktX4_goesIn_1 := dk_seg dksX4_goesIn_0 22 rfl rfl
theorem dksX4_goesIn_2 : cX4_goesIn.data.toList.drop 46 = dktX4_goesIn_2 := dk_seg dksX4_goesIn_1 24 rfl rfl
theorem dX4_goesIn_0 : decode cX4_goesIn 0 = .ok (.aload_n 0, 1) := dk_42 (dk_at dksX4_goesIn_0 0 rfl rfl)
theorem dX4_goesIn_1 : decode cX4_goesIn 1 = .ok (.getfield 458, 3) := dk_180 1 202 (dk_at dksX4_goesIn_0 1 rfl rfl)
theorem dX4_goesIn_4 : decode cX4_goesIn 4 = .ok (.bipush 6, 2) := dk_16 6 (dk_at dksX4_goesIn_0 4 rfl rfl)
theorem dX4_goesIn_6 : decode cX4_goesIn 6 = .ok (.if_icmp .ne 9, 3) := dk_160 0 9 (dk_at dksX4_goesIn_0 6 rfl rfl)
theorem dX4_goesIn_9 : decode cX4_goesIn 9 = .ok (.aload_n 0, 1) := dk_42 (dk_at dksX4_goesIn_0 9 rfl rfl)
theorem dX4_goesIn_10 : decode cX4_goesIn 10 = .ok (.iconst 3, 1) := dk_6 (dk_at dksX4_goesIn_0 10 rfl rfl)
theorem dX4_goesIn_11 : decode cX4_goesIn 11 = .ok (.invokevirtual 194, 3) := dk_182 0 194 (dk_at dksX4_goesIn_0 11 rfl rfl)
theorem dX4_goesIn_14 : decode cX4_goesIn 14 = .ok (.ireturn, 1) := dk_172 (dk_at dksX4_goesIn_0 14 rfl rfl)
theorem dX4_goesIn_15 : decode cX4_goesIn 15 = .ok (.aload_n 0, 1) := dk_42 (dk_at dksX4_goesIn_0 15 rfl rfl)
theorem dX4_goesIn_16 : decode cX4_goesIn 16 = .ok (.dup, 1) := dk_89 (dk_at dksX4_goesIn_0 16 rfl rfl)
theorem dX4_goesIn_17 : decode cX4_goesIn 17 = .ok (.getfield 458, 3) := dk_180 1 202 (dk_at dksX4_goesIn_0 17 rfl rfl)
theorem dX4_goesIn_20 : decode cX4_goesIn 20 = .ok (.iconst 1, 1) := dk_4 (dk_at dksX4_goesIn_0 20 rfl rfl)
theorem dX4_goesIn_21 : decode cX4_goesIn 21 = .ok (.iadd, 1) := dk_96 (dk_at dksX4_goesIn_0 21 rfl rfl)
theorem dX4_goesIn_22 : decode cX4_goesIn 22 = .ok (.putfield 458, 3) := dk_181 1 202 (dk_at dksX4_goesIn_1 0 rfl rfl)
theorem dX4_goesIn_25 : decode cX4_goesIn 25 = .ok (.aload_n 0, 1) := dk_42 (dk_at dksX4_goesIn_1 3 rfl rfl)
theorem dX4_goesIn_26 : decode cX4_goesIn 26 = .ok (.getfield 81, 3) := dk_180 0 81 (dk_at dksX4_goesIn_1 4 rfl rfl)
theorem dX4_goesIn_29 : decode cX4_goesIn 29 = .ok (.aload_n 0, 1) := dk_42 (dk_at dksX4_goesIn_1 7 rfl rfl)
theorem dX4_goesIn_30 : decode cX4_goesIn 30 = .ok (.getfield 461, 3) := dk_180 1 205 (dk_at dksX4_goesIn_1 8 rfl rfl)
theorem dX4_goesIn_33 : decode cX4_goesIn 33 = .ok (.iload_n 1, 1) := dk_27 (dk_at dksX4_goesIn_1 11 rfl rfl)
theorem dX4_goesIn_34 : decode cX4_goesIn 34 = .ok (.iastore, 1) := dk_79 (dk_at dksX4_goesIn_1 12 rfl rfl)
theorem dX4_goesIn_35 : decode cX4_goesIn 35 = .ok (.aload_n 0, 1) := dk_42 (dk_at dksX4_goesIn_1 13 rfl rfl)
theorem dX4_goesIn_36 : decode cX4_goesIn 36 = .ok (.dup, 1) := dk_89 (dk_at dksX4_goesIn_1 14 rfl rfl)
theorem dX4_goesIn_37 : decode cX4_goesIn 37 = .ok (.getfield 461, 3) := dk_180 1 205 (dk_at dksX4_goesIn_1 15 rfl rfl)
theorem dX4_goesIn_40 : decode cX4_goesIn 40 = .ok (.iconst 1, 1) := dk_4 (dk_at dksX4_goesIn_1 18 rfl rfl)
theorem dX4_goesIn_41 : decode cX4_goesIn 41 = .ok (.iadd, 1) := dk_96 (dk_at dksX4_goesIn_1 19 rfl rfl)
theorem dX4_goesIn_42 : decode cX4_goesIn 42 = .ok (.putfield 461, 3) := dk_181 1 205 (dk_at dksX4_goesIn_1 20 rfl rfl)
theorem dX4_goesIn_45 : decode cX4_goesIn 45 = .ok (.aload_n 0, 1) := dk_42 (dk_at dksX4_goesIn_1 23 rfl rfl)
theorem dX4_goesIn_46 : decode cX4_goesIn 46 = .ok (.invokevirtual 180, 3) := dk_182 0 180 (dk_at dksX4_goesIn_2 0 rfl rfl)
theorem dX4_goesIn_49 : decode cX4_goesIn 49 = .ok (.iconst 1, 1) := dk_4 (dk_at dksX4_goesIn_2 3 rfl rfl)
theorem dX4_goesIn_50 : decode cX4_goesIn 50 = .ok (.ireturn, 1) := dk_172 (dk_at dksX4_goesIn_2 4 rfl rfl)
abbrev cX4_valueRead : ByteArray := prog_25_method_105_code
def yX4_valueRead : MethodName := ⟨RX4, "valueRead", "()V"⟩
def dkwX4_valueRead_2 : List UInt8 := [182, 0, 194, 87, 177, 42, 27, 182, 1, 196, 42, 182, 0, 180, 177]
abbrev dktX4_valueRead_2 : List UInt8 := dkwX4_valueRead_2 ++ []
def dkwX4_valueRead_1 : List UInt8 := [60, 42, 16, 100, 27, 96, 182, 1, 196, 177, 42, 182, 1, 199, 60, 27, 2, 160, 0, 10, 42, 4]
abbrev dktX4_valueRead_1 : List UInt8 := dkwX4_valueRead_1 ++ dktX4_valueRead_2
def dkwX4_valueRead_0 : List UInt8 := [42, 182, 0, 183, 154, 0, 4, 177, 42, 180, 0, 161, 5, 160, 0, 21, 42, 3, 19, 1, 195, 182, 0, 215]
abbrev dktX4_valueRead_0 : List UInt8 := dkwX4_valueRead_0 ++ dktX4_valueRead_1
theorem dksX4_valueRead_0 : cX4_valueRead.data.toList.drop 0 = dktX4_valueRead_0 := by decide +kernel
theorem dksX4_valueRead_1 : cX4_valueRead.data.toList.drop 24 = dktX4_valueRead_1 := dk_seg dksX4_valueRead_0 24 rfl rfl
theorem dksX4_valueRead_2 : cX4_valueRead.data.toList.drop 46 = dktX4_valueRead_2 := dk_seg dksX4_valueRead_1 22 rfl rfl
theorem dX4_valueRead_0 : decode cX4_valueRead 0 = .ok (.aload_n 0, 1) := dk_42 (dk_at dksX4_valueRead_0 0 rfl rfl)
theorem dX4_valueRead_1 : decode cX4_valueRead 1 = .ok (.invokevirtual 183, 3) := dk_182 0 183 (dk_at dksX4_valueRead_0 1 rfl rfl)
theorem dX4_valueRead_4 : decode cX4_valueRead 4 = .ok (.ifCond .ne 4, 3) := dk_154 0 4 (dk_at dksX4_valueRead_0 4 rfl rfl)
theorem dX4_valueRead_7 : decode cX4_valueRead 7 = .ok (.return_, 1) := dk_177 (dk_at dksX4_valueRead_0 7 rfl rfl)
theorem dX4_valueRead_8 : decode cX4_valueRead 8 = .ok (.aload_n 0, 1) := dk_42 (dk_at dksX4_valueRead_0 8 rfl rfl)
theorem dX4_valueRead_9 : decode cX4_valueRead 9 = .ok (.getfield 161, 3) := dk_180 0 161 (dk_at dksX4_valueRead_0 9 rfl rfl)
theorem dX4_valueRead_12 : decode cX4_valueRead 12 = .ok (.iconst 2, 1) := dk_5 (dk_at dksX4_valueRead_0 12 rfl rfl)
theorem dX4_valueRead_13 : decode cX4_valueRead 13 = .ok (.if_icmp .ne 21, 3) := dk_160 0 21 (dk_at dksX4_valueRead_0 13 rfl rfl)
theorem dX4_valueRead_16 : decode cX4_valueRead 16 = .ok (.aload_n 0, 1) := dk_42 (dk_at dksX4_valueRead_0 16 rfl rfl)
theorem dX4_valueRead_17 : decode cX4_valueRead 17 = .ok (.iconst 0, 1) := dk_3 (dk_at dksX4_valueRead_0 17 rfl rfl)
theorem dX4_valueRead_18 : decode cX4_valueRead 18 = .ok (.ldc_w 451, 3) := dk_19 1 195 (dk_at dksX4_valueRead_0 18 rfl rfl)
theorem dX4_valueRead_21 : decode cX4_valueRead 21 = .ok (.invokevirtual 215, 3) := dk_182 0 215 (dk_at dksX4_valueRead_0 21 rfl rfl)
theorem dX4_valueRead_24 : decode cX4_valueRead 24 = .ok (.istore_n 1, 1) := dk_60 (dk_at dksX4_valueRead_1 0 rfl rfl)
theorem dX4_valueRead_25 : decode cX4_valueRead 25 = .ok (.aload_n 0, 1) := dk_42 (dk_at dksX4_valueRead_1 1 rfl rfl)
theorem dX4_valueRead_26 : decode cX4_valueRead 26 = .ok (.bipush 100, 2) := dk_16 100 (dk_at dksX4_valueRead_1 2 rfl rfl)
theorem dX4_valueRead_28 : decode cX4_valueRead 28 = .ok (.iload_n 1, 1) := dk_27 (dk_at dksX4_valueRead_1 4 rfl rfl)
theorem dX4_valueRead_29 : decode cX4_valueRead 29 = .ok (.iadd, 1) := dk_96 (dk_at dksX4_valueRead_1 5 rfl rfl)
theorem dX4_valueRead_30 : decode cX4_valueRead 30 = .ok (.invokevirtual 452, 3) := dk_182 1 196 (dk_at dksX4_valueRead_1 6 rfl rfl)
theorem dX4_valueRead_33 : decode cX4_valueRead 33 = .ok (.return_, 1) := dk_177 (dk_at dksX4_valueRead_1 9 rfl rfl)
theorem dX4_valueRead_34 : decode cX4_valueRead 34 = .ok (.aload_n 0, 1) := dk_42 (dk_at dksX4_valueRead_1 10 rfl rfl)
theorem dX4_valueRead_35 : decode cX4_valueRead 35 = .ok (.invokevirtual 455, 3) := dk_182 1 199 (dk_at dksX4_valueRead_1 11 rfl rfl)
theorem dX4_valueRead_38 : decode cX4_valueRead 38 = .ok (.istore_n 1, 1) := dk_60 (dk_at dksX4_valueRead_1 14 rfl rfl)
theorem dX4_valueRead_39 : decode cX4_valueRead 39 = .ok (.iload_n 1, 1) := dk_27 (dk_at dksX4_valueRead_1 15 rfl rfl)
theorem dX4_valueRead_40 : decode cX4_valueRead 40 = .ok (.iconst (-1), 1) := dk_2 (dk_at dksX4_valueRead_1 16 rfl rfl)
theorem dX4_valueRead_41 : decode cX4_valueRead 41 = .ok (.if_icmp .ne 10, 3) := dk_160 0 10 (dk_at dksX4_valueRead_1 17 rfl rfl)
theorem dX4_valueRead_44 : decode cX4_valueRead 44 = .ok (.aload_n 0, 1) := dk_42 (dk_at dksX4_valueRead_1 20 rfl rfl)
theorem dX4_valueRead_45 : decode cX4_valueRead 45 = .ok (.iconst 1, 1) := dk_4 (dk_at dksX4_valueRead_1 21 rfl rfl)
theorem dX4_valueRead_46 : decode cX4_valueRead 46 = .ok (.invokevirtual 194, 3) := dk_182 0 194 (dk_at dksX4_valueRead_2 0 rfl rfl)
theorem dX4_valueRead_49 : decode cX4_valueRead 49 = .ok (.pop, 1) := dk_87 (dk_at dksX4_valueRead_2 3 rfl rfl)
theorem dX4_valueRead_50 : decode cX4_valueRead 50 = .ok (.return_, 1) := dk_177 (dk_at dksX4_valueRead_2 4 rfl rfl)
theorem dX4_valueRead_51 : decode cX4_valueRead 51 = .ok (.aload_n 0, 1) := dk_42 (dk_at dksX4_valueRead_2 5 rfl rfl)
theorem dX4_valueRead_52 : decode cX4_valueRead 52 = .ok (.iload_n 1, 1) := dk_27 (dk_at dksX4_valueRead_2 6 rfl rfl)
theorem dX4_valueRead_53 : decode cX4_valueRead 53 = .ok (.invokevirtual 452, 3) := dk_182 1 196 (dk_at dksX4_valueRead_2 7 rfl rfl)
theorem dX4_valueRead_56 : decode cX4_valueRead 56 = .ok (.aload_n 0, 1) := dk_42 (dk_at dksX4_valueRead_2 10 rfl rfl)
theorem dX4_valueRead_57 : decode cX4_valueRead 57 = .ok (.invokevirtual 180, 3) := dk_182 0 180 (dk_at dksX4_valueRead_2 11 rfl rfl)
theorem dX4_valueRead_60 : decode cX4_valueRead 60 = .ok (.return_, 1) := dk_177 (dk_at dksX4_valueRead_2 14 rfl rfl)
abbrev cX4_adds : ByteArray := prog_25_method_103_code
def yX4_adds : MethodName := ⟨RX4, "adds", "(I)V"⟩
def dkwX4_adds_0 : List UInt8 := [42, 180, 0, 78, 42, 180, 1, 176, 27, 79, 42, 89, 180, 1, 176, 4, 96, 181, 1, 176, 177]
abbrev dktX4_adds_0 : List UInt8 := dkwX4_adds_0 ++ []
theorem dksX4_adds_0 : cX4_adds.data.toList.drop 0 = dktX4_adds_0 := by decide +kernel
theorem dX4_adds_0 : decode cX4_adds 0 = .ok (.aload_n 0, 1) := dk_42 (dk_at dksX4_adds_0 0 rfl rfl)
theorem dX4_adds_1 : decode cX4_adds 1 = .ok (.getfield 78, 3) := dk_180 0 78 (dk_at dksX4_adds_0 1 rfl rfl)
theorem dX4_adds_4 : decode cX4_adds 4 = .ok (.aload_n 0, 1) := dk_42 (dk_at dksX4_adds_0 4 rfl rfl)
theorem dX4_adds_5 : decode cX4_adds 5 = .ok (.getfield 432, 3) := dk_180 1 176 (dk_at dksX4_adds_0 5 rfl rfl)
theorem dX4_adds_8 : decode cX4_adds 8 = .ok (.iload_n 1, 1) := dk_27 (dk_at dksX4_adds_0 8 rfl rfl)
theorem dX4_adds_9 : decode cX4_adds 9 = .ok (.iastore, 1) := dk_79 (dk_at dksX4_adds_0 9 rfl rfl)
theorem dX4_adds_10 : decode cX4_adds 10 = .ok (.aload_n 0, 1) := dk_42 (dk_at dksX4_adds_0 10 rfl rfl)
theorem dX4_adds_11 : decode cX4_adds 11 = .ok (.dup, 1) := dk_89 (dk_at dksX4_adds_0 11 rfl rfl)
theorem dX4_adds_12 : decode cX4_adds 12 = .ok (.getfield 432, 3) := dk_180 1 176 (dk_at dksX4_adds_0 12 rfl rfl)
theorem dX4_adds_15 : decode cX4_adds 15 = .ok (.iconst 1, 1) := dk_4 (dk_at dksX4_adds_0 15 rfl rfl)
theorem dX4_adds_16 : decode cX4_adds 16 = .ok (.iadd, 1) := dk_96 (dk_at dksX4_adds_0 16 rfl rfl)
theorem dX4_adds_17 : decode cX4_adds 17 = .ok (.putfield 432, 3) := dk_181 1 176 (dk_at dksX4_adds_0 17 rfl rfl)
theorem dX4_adds_20 : decode cX4_adds 20 = .ok (.return_, 1) := dk_177 (dk_at dksX4_adds_0 20 rfl rfl)
abbrev cX4_propertyHere : ByteArray := prog_25_method_104_code
def yX4_propertyHere : MethodName := ⟨RX4, "propertyHere", "()I"⟩
def dkwX4_propertyHere_4 : List UInt8 := [16, 7, 172, 42, 20, 0, 239, 182, 0, 187, 153, 0, 8, 16, 8, 167, 0, 4, 2, 172]
abbrev dktX4_propertyHere_4 : List UInt8 := dkwX4_propertyHere_4 ++ []
def dkwX4_propertyHere_3 : List UInt8 := [42, 20, 1, 191, 182, 0, 187, 153, 0, 6, 16, 6, 172, 42, 20, 1, 193, 182, 0, 187, 153, 0, 6]
abbrev dktX4_propertyHere_3 : List UInt8 := dkwX4_propertyHere_3 ++ dktX4_propertyHere_4
def dkwX4_propertyHere_2 : List UInt8 := [42, 20, 1, 187, 182, 0, 187, 153, 0, 5, 7, 172, 42, 20, 1, 189, 182, 0, 187, 153, 0, 5, 8, 172]
abbrev dktX4_propertyHere_2 : List UInt8 := dkwX4_propertyHere_2 ++ dktX4_propertyHere_3
def dkwX4_propertyHere_1 : List UInt8 := [42, 20, 1, 183, 182, 0, 187, 153, 0, 5, 5, 172, 42, 20, 1, 185, 182, 0, 187, 153, 0, 5, 6, 172]
abbrev dktX4_propertyHere_1 : List UInt8 := dkwX4_propertyHere_1 ++ dktX4_propertyHere_2
def dkwX4_propertyHere_0 : List UInt8 := [42, 20, 1, 179, 182, 0, 187, 153, 0, 5, 3, 172, 42, 20, 1, 181, 182, 0, 187, 153, 0, 5, 4, 172]
abbrev dktX4_propertyHere_0 : List UInt8 := dkwX4_propertyHere_0 ++ dktX4_propertyHere_1
theorem dksX4_propertyHere_0 : cX4_propertyHere.data.toList.drop 0 = dktX4_propertyHere_0 := by decide +kernel
theorem dksX4_propertyHere_1 : cX4_propertyHere.data.toList.drop 24 = dktX4_propertyHere_1 := dk_seg dksX4_propertyHere_0 24 rfl rfl
theorem dksX4_propertyHere_2 : cX4_propertyHere.data.toList.drop 48 = dktX4_propertyHere_2 := dk_seg dksX4_propertyHere_1 24 rfl rfl
theorem dksX4_propertyHere_3 : cX4_propertyHere.data.toList.drop 72 = dktX4_propertyHere_3 := dk_seg dksX4_propertyHere_2 24 rfl rfl
theorem dksX4_propertyHere_4 : cX4_propertyHere.data.toList.drop 95 = dktX4_propertyHere_4 := dk_seg dksX4_propertyHere_3 23 rfl rfl
theorem dX4_propertyHere_0 : decode cX4_propertyHere 0 = .ok (.aload_n 0, 1) := dk_42 (dk_at dksX4_propertyHere_0 0 rfl rfl)
theorem dX4_propertyHere_1 : decode cX4_propertyHere 1 = .ok (.ldc2_w 435, 3) := dk_20 1 179 (dk_at dksX4_propertyHere_0 1 rfl rfl)
theorem dX4_propertyHere_4 : decode cX4_propertyHere 4 = .ok (.invokevirtual 187, 3) := dk_182 0 187 (dk_at dksX4_propertyHere_0 4 rfl rfl)
theorem dX4_propertyHere_7 : decode cX4_propertyHere 7 = .ok (.ifCond .eq 5, 3) := dk_153 0 5 (dk_at dksX4_propertyHere_0 7 rfl rfl)
theorem dX4_propertyHere_10 : decode cX4_propertyHere 10 = .ok (.iconst 0, 1) := dk_3 (dk_at dksX4_propertyHere_0 10 rfl rfl)
theorem dX4_propertyHere_11 : decode cX4_propertyHere 11 = .ok (.ireturn, 1) := dk_172 (dk_at dksX4_propertyHere_0 11 rfl rfl)
theorem dX4_propertyHere_12 : decode cX4_propertyHere 12 = .ok (.aload_n 0, 1) := dk_42 (dk_at dksX4_propertyHere_0 12 rfl rfl)
theorem dX4_propertyHere_13 : decode cX4_propertyHere 13 = .ok (.ldc2_w 437, 3) := dk_20 1 181 (dk_at dksX4_propertyHere_0 13 rfl rfl)
theorem dX4_propertyHere_16 : decode cX4_propertyHere 16 = .ok (.invokevirtual 187, 3) := dk_182 0 187 (dk_at dksX4_propertyHere_0 16 rfl rfl)
theorem dX4_propertyHere_19 : decode cX4_propertyHere 19 = .ok (.ifCond .eq 5, 3) := dk_153 0 5 (dk_at dksX4_propertyHere_0 19 rfl rfl)
theorem dX4_propertyHere_22 : decode cX4_propertyHere 22 = .ok (.iconst 1, 1) := dk_4 (dk_at dksX4_propertyHere_0 22 rfl rfl)
theorem dX4_propertyHere_23 : decode cX4_propertyHere 23 = .ok (.ireturn, 1) := dk_172 (dk_at dksX4_propertyHere_0 23 rfl rfl)
theorem dX4_propertyHere_24 : decode cX4_propertyHere 24 = .ok (.aload_n 0, 1) := dk_42 (dk_at dksX4_propertyHere_1 0 rfl rfl)
theorem dX4_propertyHere_25 : decode cX4_propertyHere 25 = .ok (.ldc2_w 439, 3) := dk_20 1 183 (dk_at dksX4_propertyHere_1 1 rfl rfl)
theorem dX4_propertyHere_28 : decode cX4_propertyHere 28 = .ok (.invokevirtual 187, 3) := dk_182 0 187 (dk_at dksX4_propertyHere_1 4 rfl rfl)
theorem dX4_propertyHere_31 : decode cX4_propertyHere 31 = .ok (.ifCond .eq 5, 3) := dk_153 0 5 (dk_at dksX4_propertyHere_1 7 rfl rfl)
theorem dX4_propertyHere_34 : decode cX4_propertyHere 34 = .ok (.iconst 2, 1) := dk_5 (dk_at dksX4_propertyHere_1 10 rfl rfl)
theorem dX4_propertyHere_35 : decode cX4_propertyHere 35 = .ok (.ireturn, 1) := dk_172 (dk_at dksX4_propertyHere_1 11 rfl rfl)
theorem dX4_propertyHere_36 : decode cX4_propertyHere 36 = .ok (.aload_n 0, 1) := dk_42 (dk_at dksX4_propertyHere_1 12 rfl rfl)
theorem dX4_propertyHere_37 : decode cX4_propertyHere 37 = .ok (.ldc2_w 441, 3) := dk_20 1 185 (dk_at dksX4_propertyHere_1 13 rfl rfl)
theorem dX4_propertyHere_40 : decode cX4_propertyHere 40 = .ok (.invokevirtual 187, 3) := dk_182 0 187 (dk_at dksX4_propertyHere_1 16 rfl rfl)
theorem dX4_propertyHere_43 : decode cX4_propertyHere 43 = .ok (.ifCond .eq 5, 3) := dk_153 0 5 (dk_at dksX4_propertyHere_1 19 rfl rfl)
theorem dX4_propertyHere_46 : decode cX4_propertyHere 46 = .ok (.iconst 3, 1) := dk_6 (dk_at dksX4_propertyHere_1 22 rfl rfl)
theorem dX4_propertyHere_47 : decode cX4_propertyHere 47 = .ok (.ireturn, 1) := dk_172 (dk_at dksX4_propertyHere_1 23 rfl rfl)
theorem dX4_propertyHere_48 : decode cX4_propertyHere 48 = .ok (.aload_n 0, 1) := dk_42 (dk_at dksX4_propertyHere_2 0 rfl rfl)
theorem dX4_propertyHere_49 : decode cX4_propertyHere 49 = .ok (.ldc2_w 443, 3) := dk_20 1 187 (dk_at dksX4_propertyHere_2 1 rfl rfl)
theorem dX4_propertyHere_52 : decode cX4_propertyHere 52 = .ok (.invokevirtual 187, 3) := dk_182 0 187 (dk_at dksX4_propertyHere_2 4 rfl rfl)
theorem dX4_propertyHere_55 : decode cX4_propertyHere 55 = .ok (.ifCond .eq 5, 3) := dk_153 0 5 (dk_at dksX4_propertyHere_2 7 rfl rfl)
theorem dX4_propertyHere_58 : decode cX4_propertyHere 58 = .ok (.iconst 4, 1) := dk_7 (dk_at dksX4_propertyHere_2 10 rfl rfl)
theorem dX4_propertyHere_59 : decode cX4_propertyHere 59 = .ok (.ireturn, 1) := dk_172 (dk_at dksX4_propertyHere_2 11 rfl rfl)
theorem dX4_propertyHere_60 : decode cX4_propertyHere 60 = .ok (.aload_n 0, 1) := dk_42 (dk_at dksX4_propertyHere_2 12 rfl rfl)
theorem dX4_propertyHere_61 : decode cX4_propertyHere 61 = .ok (.ldc2_w 445, 3) := dk_20 1 189 (dk_at dksX4_propertyHere_2 13 rfl rfl)
theorem dX4_propertyHere_64 : decode cX4_propertyHere 64 = .ok (.invokevirtual 187, 3) := dk_182 0 187 (dk_at dksX4_propertyHere_2 16 rfl rfl)
theorem dX4_propertyHere_67 : decode cX4_propertyHere 67 = .ok (.ifCond .eq 5, 3) := dk_153 0 5 (dk_at dksX4_propertyHere_2 19 rfl rfl)
theorem dX4_propertyHere_70 : decode cX4_propertyHere 70 = .ok (.iconst 5, 1) := dk_8 (dk_at dksX4_propertyHere_2 22 rfl rfl)
theorem dX4_propertyHere_71 : decode cX4_propertyHere 71 = .ok (.ireturn, 1) := dk_172 (dk_at dksX4_propertyHere_2 23 rfl rfl)
theorem dX4_propertyHere_72 : decode cX4_propertyHere 72 = .ok (.aload_n 0, 1) := dk_42 (dk_at dksX4_propertyHere_3 0 rfl rfl)
theorem dX4_propertyHere_73 : decode cX4_propertyHere 73 = .ok (.ldc2_w 447, 3) := dk_20 1 191 (dk_at dksX4_propertyHere_3 1 rfl rfl)
theorem dX4_propertyHere_76 : decode cX4_propertyHere 76 = .ok (.invokevirtual 187, 3) := dk_182 0 187 (dk_at dksX4_propertyHere_3 4 rfl rfl)
theorem dX4_propertyHere_79 : decode cX4_propertyHere 79 = .ok (.ifCond .eq 6, 3) := dk_153 0 6 (dk_at dksX4_propertyHere_3 7 rfl rfl)
theorem dX4_propertyHere_82 : decode cX4_propertyHere 82 = .ok (.bipush 6, 2) := dk_16 6 (dk_at dksX4_propertyHere_3 10 rfl rfl)
theorem dX4_propertyHere_84 : decode cX4_propertyHere 84 = .ok (.ireturn, 1) := dk_172 (dk_at dksX4_propertyHere_3 12 rfl rfl)
theorem dX4_propertyHere_85 : decode cX4_propertyHere 85 = .ok (.aload_n 0, 1) := dk_42 (dk_at dksX4_propertyHere_3 13 rfl rfl)
theorem dX4_propertyHere_86 : decode cX4_propertyHere 86 = .ok (.ldc2_w 449, 3) := dk_20 1 193 (dk_at dksX4_propertyHere_3 14 rfl rfl)
theorem dX4_propertyHere_89 : decode cX4_propertyHere 89 = .ok (.invokevirtual 187, 3) := dk_182 0 187 (dk_at dksX4_propertyHere_3 17 rfl rfl)
theorem dX4_propertyHere_92 : decode cX4_propertyHere 92 = .ok (.ifCond .eq 6, 3) := dk_153 0 6 (dk_at dksX4_propertyHere_3 20 rfl rfl)
theorem dX4_propertyHere_95 : decode cX4_propertyHere 95 = .ok (.bipush 7, 2) := dk_16 7 (dk_at dksX4_propertyHere_4 0 rfl rfl)
theorem dX4_propertyHere_97 : decode cX4_propertyHere 97 = .ok (.ireturn, 1) := dk_172 (dk_at dksX4_propertyHere_4 2 rfl rfl)
theorem dX4_propertyHere_98 : decode cX4_propertyHere 98 = .ok (.aload_n 0, 1) := dk_42 (dk_at dksX4_propertyHere_4 3 rfl rfl)
theorem dX4_propertyHere_99 : decode cX4_propertyHere 99 = .ok (.ldc2_w 239, 3) := dk_20 0 239 (dk_at dksX4_propertyHere_4 4 rfl rfl)
theorem dX4_propertyHere_102 : decode cX4_propertyHere 102 = .ok (.invokevirtual 187, 3) := dk_182 0 187 (dk_at dksX4_propertyHere_4 7 rfl rfl)
theorem dX4_propertyHere_105 : decode cX4_propertyHere 105 = .ok (.ifCond .eq 8, 3) := dk_153 0 8 (dk_at dksX4_propertyHere_4 10 rfl rfl)
theorem dX4_propertyHere_108 : decode cX4_propertyHere 108 = .ok (.bipush 8, 2) := dk_16 8 (dk_at dksX4_propertyHere_4 13 rfl rfl)
theorem dX4_propertyHere_110 : decode cX4_propertyHere 110 = .ok (.goto 4, 3) := dk_167 0 4 (dk_at dksX4_propertyHere_4 15 rfl rfl)
theorem dX4_propertyHere_113 : decode cX4_propertyHere 113 = .ok (.iconst (-1), 1) := dk_2 (dk_at dksX4_propertyHere_4 18 rfl rfl)
theorem dX4_propertyHere_114 : decode cX4_propertyHere 114 = .ok (.ireturn, 1) := dk_172 (dk_at dksX4_propertyHere_4 19 rfl rfl)
abbrev cX4_closes : ByteArray := prog_25_method_111_code
def yX4_closes : MethodName := ⟨RX4, "closes", "()V"⟩
def dkwX4_closes_2 : List UInt8 := [182, 0, 180, 42, 6, 182, 1, 219, 167, 255, 206, 177]
abbrev dktX4_closes_2 : List UInt8 := dkwX4_closes_2 ++ []
def dkwX4_closes_1 : List UInt8 := [182, 1, 219, 42, 89, 180, 1, 205, 4, 100, 181, 1, 205, 42, 89, 180, 1, 202, 4, 100, 181, 1, 202, 42]
abbrev dktX4_closes_1 : List UInt8 := dkwX4_closes_1 ++ dktX4_closes_2
def dkwX4_closes_0 : List UInt8 := [42, 6, 182, 1, 219, 42, 16, 41, 182, 0, 191, 153, 0, 47, 42, 182, 1, 222, 153, 0, 40, 42, 4]
abbrev dktX4_closes_0 : List UInt8 := dkwX4_closes_0 ++ dktX4_closes_1
theorem dksX4_closes_0 : cX4_closes.data.toList.drop 0 = dktX4_closes_0 := by decide +kernel
theorem dksX4_closes_1 : cX4_closes.data.toList.drop 23 = dktX4_closes_1 := dk_seg dksX4_closes_0 23 rfl rfl
theorem dksX4_closes_2 : cX4_closes.data.toList.drop 47 = dktX4_closes_2 := dk_seg dksX4_closes_1 24 rfl rfl
theorem dX4_closes_0 : decode cX4_closes 0 = .ok (.aload_n 0, 1) := dk_42 (dk_at dksX4_closes_0 0 rfl rfl)
theorem dX4_closes_1 : decode cX4_closes 1 = .ok (.iconst 3, 1) := dk_6 (dk_at dksX4_closes_0 1 rfl rfl)
theorem dX4_closes_2 : decode cX4_closes 2 = .ok (.invokevirtual 475, 3) := dk_182 1 219 (dk_at dksX4_closes_0 2 rfl rfl)
theorem dX4_closes_5 : decode cX4_closes 5 = .ok (.aload_n 0, 1) := dk_42 (dk_at dksX4_closes_0 5 rfl rfl)
theorem dX4_closes_6 : decode cX4_closes 6 = .ok (.bipush 41, 2) := dk_16 41 (dk_at dksX4_closes_0 6 rfl rfl)
theorem dX4_closes_8 : decode cX4_closes 8 = .ok (.invokevirtual 191, 3) := dk_182 0 191 (dk_at dksX4_closes_0 8 rfl rfl)
theorem dX4_closes_11 : decode cX4_closes 11 = .ok (.ifCond .eq 47, 3) := dk_153 0 47 (dk_at dksX4_closes_0 11 rfl rfl)
theorem dX4_closes_14 : decode cX4_closes 14 = .ok (.aload_n 0, 1) := dk_42 (dk_at dksX4_closes_0 14 rfl rfl)
theorem dX4_closes_15 : decode cX4_closes 15 = .ok (.invokevirtual 478, 3) := dk_182 1 222 (dk_at dksX4_closes_0 15 rfl rfl)
theorem dX4_closes_18 : decode cX4_closes 18 = .ok (.ifCond .eq 40, 3) := dk_153 0 40 (dk_at dksX4_closes_0 18 rfl rfl)
theorem dX4_closes_21 : decode cX4_closes 21 = .ok (.aload_n 0, 1) := dk_42 (dk_at dksX4_closes_0 21 rfl rfl)
theorem dX4_closes_22 : decode cX4_closes 22 = .ok (.iconst 1, 1) := dk_4 (dk_at dksX4_closes_0 22 rfl rfl)
theorem dX4_closes_23 : decode cX4_closes 23 = .ok (.invokevirtual 475, 3) := dk_182 1 219 (dk_at dksX4_closes_1 0 rfl rfl)
theorem dX4_closes_26 : decode cX4_closes 26 = .ok (.aload_n 0, 1) := dk_42 (dk_at dksX4_closes_1 3 rfl rfl)
theorem dX4_closes_27 : decode cX4_closes 27 = .ok (.dup, 1) := dk_89 (dk_at dksX4_closes_1 4 rfl rfl)
theorem dX4_closes_28 : decode cX4_closes 28 = .ok (.getfield 461, 3) := dk_180 1 205 (dk_at dksX4_closes_1 5 rfl rfl)
theorem dX4_closes_31 : decode cX4_closes 31 = .ok (.iconst 1, 1) := dk_4 (dk_at dksX4_closes_1 8 rfl rfl)
theorem dX4_closes_32 : decode cX4_closes 32 = .ok (.isub, 1) := dk_100 (dk_at dksX4_closes_1 9 rfl rfl)
theorem dX4_closes_33 : decode cX4_closes 33 = .ok (.putfield 461, 3) := dk_181 1 205 (dk_at dksX4_closes_1 10 rfl rfl)
theorem dX4_closes_36 : decode cX4_closes 36 = .ok (.aload_n 0, 1) := dk_42 (dk_at dksX4_closes_1 13 rfl rfl)
theorem dX4_closes_37 : decode cX4_closes 37 = .ok (.dup, 1) := dk_89 (dk_at dksX4_closes_1 14 rfl rfl)
theorem dX4_closes_38 : decode cX4_closes 38 = .ok (.getfield 458, 3) := dk_180 1 202 (dk_at dksX4_closes_1 15 rfl rfl)
theorem dX4_closes_41 : decode cX4_closes 41 = .ok (.iconst 1, 1) := dk_4 (dk_at dksX4_closes_1 18 rfl rfl)
theorem dX4_closes_42 : decode cX4_closes 42 = .ok (.isub, 1) := dk_100 (dk_at dksX4_closes_1 19 rfl rfl)
theorem dX4_closes_43 : decode cX4_closes 43 = .ok (.putfield 458, 3) := dk_181 1 202 (dk_at dksX4_closes_1 20 rfl rfl)
theorem dX4_closes_46 : decode cX4_closes 46 = .ok (.aload_n 0, 1) := dk_42 (dk_at dksX4_closes_1 23 rfl rfl)
theorem dX4_closes_47 : decode cX4_closes 47 = .ok (.invokevirtual 180, 3) := dk_182 0 180 (dk_at dksX4_closes_2 0 rfl rfl)
theorem dX4_closes_50 : decode cX4_closes 50 = .ok (.aload_n 0, 1) := dk_42 (dk_at dksX4_closes_2 3 rfl rfl)
theorem dX4_closes_51 : decode cX4_closes 51 = .ok (.iconst 3, 1) := dk_6 (dk_at dksX4_closes_2 4 rfl rfl)
theorem dX4_closes_52 : decode cX4_closes 52 = .ok (.invokevirtual 475, 3) := dk_182 1 219 (dk_at dksX4_closes_2 5 rfl rfl)
theorem dX4_closes_55 : decode cX4_closes 55 = .ok (.goto (-50), 3) := dk_167 255 206 (dk_at dksX4_closes_2 8 rfl rfl)
theorem dX4_closes_58 : decode cX4_closes 58 = .ok (.return_, 1) := dk_177 (dk_at dksX4_closes_2 11 rfl rfl)
abbrev cX4_settles : ByteArray := prog_25_method_108_code
def yX4_settles : MethodName := ⟨RX4, "settles", "(I)V"⟩
def dkwX4_settles_3 : List UInt8 := [180, 1, 202, 4, 100, 181, 1, 202, 167, 255, 177, 177]
abbrev dktX4_settles_3 : List UInt8 := dkwX4_settles_3 ++ []
def dkwX4_settles_2 : List UInt8 := [180, 1, 205, 46, 182, 1, 196, 42, 180, 0, 81, 42, 180, 1, 205, 46, 16, 23, 160, 255, 190, 42, 89]
abbrev dktX4_settles_2 : List UInt8 := dkwX4_settles_2 ++ dktX4_settles_3
def dkwX4_settles_1 : List UInt8 := [46, 184, 1, 208, 27, 161, 0, 53, 42, 89, 180, 1, 205, 4, 100, 181, 1, 205, 42, 42, 180, 0, 81, 42]
abbrev dktX4_settles_1 : List UInt8 := dkwX4_settles_1 ++ dktX4_settles_2
def dkwX4_settles_0 : List UInt8 := [42, 182, 0, 183, 153, 0, 78, 42, 180, 1, 205, 158, 0, 71, 42, 180, 0, 81, 42, 180, 1, 205, 4, 100]
abbrev dktX4_settles_0 : List UInt8 := dkwX4_settles_0 ++ dktX4_settles_1
theorem dksX4_settles_0 : cX4_settles.data.toList.drop 0 = dktX4_settles_0 := by decide +kernel
theorem dksX4_settles_1 : cX4_settles.data.toList.drop 24 = dktX4_settles_1 := dk_seg dksX4_settles_0 24 rfl rfl
theorem dksX4_settles_2 : cX4_settles.data.toList.drop 48 = dktX4_settles_2 := dk_seg dksX4_settles_1 24 rfl rfl
theorem dksX4_settles_3 : cX4_settles.data.toList.drop 71 = dktX4_settles_3 := dk_seg dksX4_settles_2 23 rfl rfl
theorem dX4_settles_0 : decode cX4_settles 0 = .ok (.aload_n 0, 1) := dk_42 (dk_at dksX4_settles_0 0 rfl rfl)
theorem dX4_settles_1 : decode cX4_settles 1 = .ok (.invokevirtual 183, 3) := dk_182 0 183 (dk_at dksX4_settles_0 1 rfl rfl)
theorem dX4_settles_4 : decode cX4_settles 4 = .ok (.ifCond .eq 78, 3) := dk_153 0 78 (dk_at dksX4_settles_0 4 rfl rfl)
theorem dX4_settles_7 : decode cX4_settles 7 = .ok (.aload_n 0, 1) := dk_42 (dk_at dksX4_settles_0 7 rfl rfl)
theorem dX4_settles_8 : decode cX4_settles 8 = .ok (.getfield 461, 3) := dk_180 1 205 (dk_at dksX4_settles_0 8 rfl rfl)
theorem dX4_settles_11 : decode cX4_settles 11 = .ok (.ifCond .le 71, 3) := dk_158 0 71 (dk_at dksX4_settles_0 11 rfl rfl)
theorem dX4_settles_14 : decode cX4_settles 14 = .ok (.aload_n 0, 1) := dk_42 (dk_at dksX4_settles_0 14 rfl rfl)
theorem dX4_settles_15 : decode cX4_settles 15 = .ok (.getfield 81, 3) := dk_180 0 81 (dk_at dksX4_settles_0 15 rfl rfl)
theorem dX4_settles_18 : decode cX4_settles 18 = .ok (.aload_n 0, 1) := dk_42 (dk_at dksX4_settles_0 18 rfl rfl)
theorem dX4_settles_19 : decode cX4_settles 19 = .ok (.getfield 461, 3) := dk_180 1 205 (dk_at dksX4_settles_0 19 rfl rfl)
theorem dX4_settles_22 : decode cX4_settles 22 = .ok (.iconst 1, 1) := dk_4 (dk_at dksX4_settles_0 22 rfl rfl)
theorem dX4_settles_23 : decode cX4_settles 23 = .ok (.isub, 1) := dk_100 (dk_at dksX4_settles_0 23 rfl rfl)
theorem dX4_settles_24 : decode cX4_settles 24 = .ok (.iaload, 1) := dk_46 (dk_at dksX4_settles_1 0 rfl rfl)
theorem dX4_settles_25 : decode cX4_settles 25 = .ok (.invokestatic 464, 3) := dk_184 1 208 (dk_at dksX4_settles_1 1 rfl rfl)
theorem dX4_settles_28 : decode cX4_settles 28 = .ok (.iload_n 1, 1) := dk_27 (dk_at dksX4_settles_1 4 rfl rfl)
theorem dX4_settles_29 : decode cX4_settles 29 = .ok (.if_icmp .lt 53, 3) := dk_161 0 53 (dk_at dksX4_settles_1 5 rfl rfl)
theorem dX4_settles_32 : decode cX4_settles 32 = .ok (.aload_n 0, 1) := dk_42 (dk_at dksX4_settles_1 8 rfl rfl)
theorem dX4_settles_33 : decode cX4_settles 33 = .ok (.dup, 1) := dk_89 (dk_at dksX4_settles_1 9 rfl rfl)
theorem dX4_settles_34 : decode cX4_settles 34 = .ok (.getfield 461, 3) := dk_180 1 205 (dk_at dksX4_settles_1 10 rfl rfl)
theorem dX4_settles_37 : decode cX4_settles 37 = .ok (.iconst 1, 1) := dk_4 (dk_at dksX4_settles_1 13 rfl rfl)
theorem dX4_settles_38 : decode cX4_settles 38 = .ok (.isub, 1) := dk_100 (dk_at dksX4_settles_1 14 rfl rfl)
theorem dX4_settles_39 : decode cX4_settles 39 = .ok (.putfield 461, 3) := dk_181 1 205 (dk_at dksX4_settles_1 15 rfl rfl)
theorem dX4_settles_42 : decode cX4_settles 42 = .ok (.aload_n 0, 1) := dk_42 (dk_at dksX4_settles_1 18 rfl rfl)
theorem dX4_settles_43 : decode cX4_settles 43 = .ok (.aload_n 0, 1) := dk_42 (dk_at dksX4_settles_1 19 rfl rfl)
theorem dX4_settles_44 : decode cX4_settles 44 = .ok (.getfield 81, 3) := dk_180 0 81 (dk_at dksX4_settles_1 20 rfl rfl)
theorem dX4_settles_47 : decode cX4_settles 47 = .ok (.aload_n 0, 1) := dk_42 (dk_at dksX4_settles_1 23 rfl rfl)
theorem dX4_settles_48 : decode cX4_settles 48 = .ok (.getfield 461, 3) := dk_180 1 205 (dk_at dksX4_settles_2 0 rfl rfl)
theorem dX4_settles_51 : decode cX4_settles 51 = .ok (.iaload, 1) := dk_46 (dk_at dksX4_settles_2 3 rfl rfl)
theorem dX4_settles_52 : decode cX4_settles 52 = .ok (.invokevirtual 452, 3) := dk_182 1 196 (dk_at dksX4_settles_2 4 rfl rfl)
theorem dX4_settles_55 : decode cX4_settles 55 = .ok (.aload_n 0, 1) := dk_42 (dk_at dksX4_settles_2 7 rfl rfl)
theorem dX4_settles_56 : decode cX4_settles 56 = .ok (.getfield 81, 3) := dk_180 0 81 (dk_at dksX4_settles_2 8 rfl rfl)
theorem dX4_settles_59 : decode cX4_settles 59 = .ok (.aload_n 0, 1) := dk_42 (dk_at dksX4_settles_2 11 rfl rfl)
theorem dX4_settles_60 : decode cX4_settles 60 = .ok (.getfield 461, 3) := dk_180 1 205 (dk_at dksX4_settles_2 12 rfl rfl)
theorem dX4_settles_63 : decode cX4_settles 63 = .ok (.iaload, 1) := dk_46 (dk_at dksX4_settles_2 15 rfl rfl)
theorem dX4_settles_64 : decode cX4_settles 64 = .ok (.bipush 23, 2) := dk_16 23 (dk_at dksX4_settles_2 16 rfl rfl)
theorem dX4_settles_66 : decode cX4_settles 66 = .ok (.if_icmp .ne (-66), 3) := dk_160 255 190 (dk_at dksX4_settles_2 18 rfl rfl)
theorem dX4_settles_69 : decode cX4_settles 69 = .ok (.aload_n 0, 1) := dk_42 (dk_at dksX4_settles_2 21 rfl rfl)
theorem dX4_settles_70 : decode cX4_settles 70 = .ok (.dup, 1) := dk_89 (dk_at dksX4_settles_2 22 rfl rfl)
theorem dX4_settles_71 : decode cX4_settles 71 = .ok (.getfield 458, 3) := dk_180 1 202 (dk_at dksX4_settles_3 0 rfl rfl)
theorem dX4_settles_74 : decode cX4_settles 74 = .ok (.iconst 1, 1) := dk_4 (dk_at dksX4_settles_3 3 rfl rfl)
theorem dX4_settles_75 : decode cX4_settles 75 = .ok (.isub, 1) := dk_100 (dk_at dksX4_settles_3 4 rfl rfl)
theorem dX4_settles_76 : decode cX4_settles 76 = .ok (.putfield 458, 3) := dk_181 1 202 (dk_at dksX4_settles_3 5 rfl rfl)
theorem dX4_settles_79 : decode cX4_settles 79 = .ok (.goto (-79), 3) := dk_167 255 177 (dk_at dksX4_settles_3 8 rfl rfl)
theorem dX4_settles_82 : decode cX4_settles 82 = .ok (.return_, 1) := dk_177 (dk_at dksX4_settles_3 11 rfl rfl)
abbrev cX4_strength : ByteArray := prog_25_method_107_code
def yX4_strength : MethodName := ⟨RX4, "strength", "(I)I"⟩
def dkwX4_strength_1 : List UInt8 := [160, 0, 7, 6, 167, 0, 4, 3, 172]
abbrev dktX4_strength_1 : List UInt8 := dkwX4_strength_1 ++ []
def dkwX4_strength_0 : List UInt8 := [26, 16, 25, 160, 0, 7, 4, 167, 0, 24, 26, 16, 24, 160, 0, 7, 5, 167, 0, 14, 26, 16, 23]
abbrev dktX4_strength_0 : List UInt8 := dkwX4_strength_0 ++ dktX4_strength_1
theorem dksX4_strength_0 : cX4_strength.data.toList.drop 0 = dktX4_strength_0 := by decide +kernel
theorem dksX4_strength_1 : cX4_strength.data.toList.drop 23 = dktX4_strength_1 := dk_seg dksX4_strength_0 23 rfl rfl
theorem dX4_strength_0 : decode cX4_strength 0 = .ok (.iload_n 0, 1) := dk_26 (dk_at dksX4_strength_0 0 rfl rfl)
theorem dX4_strength_1 : decode cX4_strength 1 = .ok (.bipush 25, 2) := dk_16 25 (dk_at dksX4_strength_0 1 rfl rfl)
theorem dX4_strength_3 : decode cX4_strength 3 = .ok (.if_icmp .ne 7, 3) := dk_160 0 7 (dk_at dksX4_strength_0 3 rfl rfl)
theorem dX4_strength_6 : decode cX4_strength 6 = .ok (.iconst 1, 1) := dk_4 (dk_at dksX4_strength_0 6 rfl rfl)
theorem dX4_strength_7 : decode cX4_strength 7 = .ok (.goto 24, 3) := dk_167 0 24 (dk_at dksX4_strength_0 7 rfl rfl)
theorem dX4_strength_10 : decode cX4_strength 10 = .ok (.iload_n 0, 1) := dk_26 (dk_at dksX4_strength_0 10 rfl rfl)
theorem dX4_strength_11 : decode cX4_strength 11 = .ok (.bipush 24, 2) := dk_16 24 (dk_at dksX4_strength_0 11 rfl rfl)
theorem dX4_strength_13 : decode cX4_strength 13 = .ok (.if_icmp .ne 7, 3) := dk_160 0 7 (dk_at dksX4_strength_0 13 rfl rfl)
theorem dX4_strength_16 : decode cX4_strength 16 = .ok (.iconst 2, 1) := dk_5 (dk_at dksX4_strength_0 16 rfl rfl)
theorem dX4_strength_17 : decode cX4_strength 17 = .ok (.goto 14, 3) := dk_167 0 14 (dk_at dksX4_strength_0 17 rfl rfl)
theorem dX4_strength_20 : decode cX4_strength 20 = .ok (.iload_n 0, 1) := dk_26 (dk_at dksX4_strength_0 20 rfl rfl)
theorem dX4_strength_21 : decode cX4_strength 21 = .ok (.bipush 23, 2) := dk_16 23 (dk_at dksX4_strength_0 21 rfl rfl)
theorem dX4_strength_23 : decode cX4_strength 23 = .ok (.if_icmp .ne 7, 3) := dk_160 0 7 (dk_at dksX4_strength_1 0 rfl rfl)
theorem dX4_strength_26 : decode cX4_strength 26 = .ok (.iconst 3, 1) := dk_6 (dk_at dksX4_strength_1 3 rfl rfl)
theorem dX4_strength_27 : decode cX4_strength 27 = .ok (.goto 4, 3) := dk_167 0 4 (dk_at dksX4_strength_1 4 rfl rfl)
theorem dX4_strength_30 : decode cX4_strength 30 = .ok (.iconst 0, 1) := dk_3 (dk_at dksX4_strength_1 7 rfl rfl)
theorem dX4_strength_31 : decode cX4_strength 31 = .ok (.ireturn, 1) := dk_172 (dk_at dksX4_strength_1 8 rfl rfl)
abbrev cX4_isInside : ByteArray := prog_25_method_109_code
def yX4_isInside : MethodName := ⟨RX4, "isInside", "()Z"⟩
def dkwX4_isInside_1 : List UInt8 := [132, 1, 1, 167, 255, 233, 3, 172]
abbrev dktX4_isInside_1 : List UInt8 := dkwX4_isInside_1 ++ []
def dkwX4_isInside_0 : List UInt8 := [3, 60, 27, 42, 180, 1, 205, 162, 0, 21, 42, 180, 0, 81, 27, 46, 4, 160, 0, 5, 4, 172]
abbrev dktX4_isInside_0 : List UInt8 := dkwX4_isInside_0 ++ dktX4_isInside_1
theorem dksX4_isInside_0 : cX4_isInside.data.toList.drop 0 = dktX4_isInside_0 := by decide +kernel
theorem dksX4_isInside_1 : cX4_isInside.data.toList.drop 22 = dktX4_isInside_1 := dk_seg dksX4_isInside_0 22 rfl rfl
theorem dX4_isInside_0 : decode cX4_isInside 0 = .ok (.iconst 0, 1) := dk_3 (dk_at dksX4_isInside_0 0 rfl rfl)
theorem dX4_isInside_1 : decode cX4_isInside 1 = .ok (.istore_n 1, 1) := dk_60 (dk_at dksX4_isInside_0 1 rfl rfl)
theorem dX4_isInside_2 : decode cX4_isInside 2 = .ok (.iload_n 1, 1) := dk_27 (dk_at dksX4_isInside_0 2 rfl rfl)
theorem dX4_isInside_3 : decode cX4_isInside 3 = .ok (.aload_n 0, 1) := dk_42 (dk_at dksX4_isInside_0 3 rfl rfl)
theorem dX4_isInside_4 : decode cX4_isInside 4 = .ok (.getfield 461, 3) := dk_180 1 205 (dk_at dksX4_isInside_0 4 rfl rfl)
theorem dX4_isInside_7 : decode cX4_isInside 7 = .ok (.if_icmp .ge 21, 3) := dk_162 0 21 (dk_at dksX4_isInside_0 7 rfl rfl)
theorem dX4_isInside_10 : decode cX4_isInside 10 = .ok (.aload_n 0, 1) := dk_42 (dk_at dksX4_isInside_0 10 rfl rfl)
theorem dX4_isInside_11 : decode cX4_isInside 11 = .ok (.getfield 81, 3) := dk_180 0 81 (dk_at dksX4_isInside_0 11 rfl rfl)
theorem dX4_isInside_14 : decode cX4_isInside 14 = .ok (.iload_n 1, 1) := dk_27 (dk_at dksX4_isInside_0 14 rfl rfl)
theorem dX4_isInside_15 : decode cX4_isInside 15 = .ok (.iaload, 1) := dk_46 (dk_at dksX4_isInside_0 15 rfl rfl)
theorem dX4_isInside_16 : decode cX4_isInside 16 = .ok (.iconst 1, 1) := dk_4 (dk_at dksX4_isInside_0 16 rfl rfl)
theorem dX4_isInside_17 : decode cX4_isInside 17 = .ok (.if_icmp .ne 5, 3) := dk_160 0 5 (dk_at dksX4_isInside_0 17 rfl rfl)
theorem dX4_isInside_20 : decode cX4_isInside 20 = .ok (.iconst 1, 1) := dk_4 (dk_at dksX4_isInside_0 20 rfl rfl)
theorem dX4_isInside_21 : decode cX4_isInside 21 = .ok (.ireturn, 1) := dk_172 (dk_at dksX4_isInside_0 21 rfl rfl)
theorem dX4_isInside_22 : decode cX4_isInside 22 = .ok (.iinc 1 1, 3) := dk_132 1 1 (dk_at dksX4_isInside_1 0 rfl rfl)
theorem dX4_isInside_25 : decode cX4_isInside 25 = .ok (.goto (-23), 3) := dk_167 255 233 (dk_at dksX4_isInside_1 3 rfl rfl)
theorem dX4_isInside_28 : decode cX4_isInside 28 = .ok (.iconst 0, 1) := dk_3 (dk_at dksX4_isInside_1 6 rfl rfl)
theorem dX4_isInside_29 : decode cX4_isInside 29 = .ok (.ireturn, 1) := dk_172 (dk_at dksX4_isInside_1 7 rfl rfl)
abbrev cX4_holds : ByteArray := prog_25_method_115_code
def yX4_holds : MethodName := ⟨RX4, "holds", "(I)Z"⟩
def dkwX4_holds_6 : List UInt8 := [180, 0, 84, 3, 46, 4, 160, 0, 7, 4, 167, 0, 4, 3, 172]
abbrev dktX4_holds_6 : List UInt8 := dkwX4_holds_6 ++ []
def dkwX4_holds_5 : List UInt8 := [100, 167, 0, 10, 42, 21, 4, 27, 182, 1, 243, 79, 132, 2, 1, 132, 3, 1, 167, 255, 122, 42]
abbrev dktX4_holds_5 : List UInt8 := dkwX4_holds_5 ++ dktX4_holds_6
def dkwX4_holds_4 : List UInt8 := [167, 0, 4, 3, 79, 167, 0, 34, 42, 180, 0, 84, 28, 21, 4, 16, 100, 161, 0, 11, 21, 4, 16, 100]
abbrev dktX4_holds_4 : List UInt8 := dkwX4_holds_4 ++ dktX4_holds_5
def dkwX4_holds_3 : List UInt8 := [100, 21, 4, 42, 180, 0, 84, 28, 4, 100, 46, 42, 180, 0, 84, 28, 46, 184, 1, 239, 153, 0, 7, 4]
abbrev dktX4_holds_3 : List UInt8 := dkwX4_holds_3 ++ dktX4_holds_4
def dkwX4_holds_2 : List UInt8 := [21, 4, 133, 20, 1, 235, 20, 1, 237, 184, 0, 197, 153, 0, 44, 132, 2, 255, 42, 180, 0, 84, 28, 4]
abbrev dktX4_holds_2 : List UInt8 := dkwX4_holds_2 ++ dktX4_holds_3
def dkwX4_holds_1 : List UInt8 := [160, 0, 24, 42, 180, 0, 84, 28, 4, 100, 4, 42, 180, 0, 84, 28, 4, 100, 46, 100, 79, 167, 0, 90]
abbrev dktX4_holds_1 : List UInt8 := dkwX4_holds_1 ++ dktX4_holds_2
def dkwX4_holds_0 : List UInt8 := [3, 61, 3, 62, 29, 42, 180, 1, 176, 162, 0, 132, 42, 180, 0, 78, 29, 46, 54, 4, 21, 4, 16, 23]
abbrev dktX4_holds_0 : List UInt8 := dkwX4_holds_0 ++ dktX4_holds_1
theorem dksX4_holds_0 : cX4_holds.data.toList.drop 0 = dktX4_holds_0 := by decide +kernel
theorem dksX4_holds_1 : cX4_holds.data.toList.drop 24 = dktX4_holds_1 := dk_seg dksX4_holds_0 24 rfl rfl
theorem dksX4_holds_2 : cX4_holds.data.toList.drop 48 = dktX4_holds_2 := dk_seg dksX4_holds_1 24 rfl rfl
theorem dksX4_holds_3 : cX4_holds.data.toList.drop 72 = dktX4_holds_3 := dk_seg dksX4_holds_2 24 rfl rfl
theorem dksX4_holds_4 : cX4_holds.data.toList.drop 96 = dktX4_holds_4 := dk_seg dksX4_holds_3 24 rfl rfl
theorem dksX4_holds_5 : cX4_holds.data.toList.drop 120 = dktX4_holds_5 := dk_seg dksX4_holds_4 24 rfl rfl
theorem dksX4_holds_6 : cX4_holds.data.toList.drop 142 = dktX4_holds_6 := dk_seg dksX4_holds_5 22 rfl rfl
theorem dX4_holds_0 : decode cX4_holds 0 = .ok (.iconst 0, 1) := dk_3 (dk_at dksX4_holds_0 0 rfl rfl)
theorem dX4_holds_1 : decode cX4_holds 1 = .ok (.istore_n 2, 1) := dk_61 (dk_at dksX4_holds_0 1 rfl rfl)
theorem dX4_holds_2 : decode cX4_holds 2 = .ok (.iconst 0, 1) := dk_3 (dk_at dksX4_holds_0 2 rfl rfl)
theorem dX4_holds_3 : decode cX4_holds 3 = .ok (.istore_n 3, 1) := dk_62 (dk_at dksX4_holds_0 3 rfl rfl)
theorem dX4_holds_4 : decode cX4_holds 4 = .ok (.iload_n 3, 1) := dk_29 (dk_at dksX4_holds_0 4 rfl rfl)
theorem dX4_holds_5 : decode cX4_holds 5 = .ok (.aload_n 0, 1) := dk_42 (dk_at dksX4_holds_0 5 rfl rfl)
theorem dX4_holds_6 : decode cX4_holds 6 = .ok (.getfield 432, 3) := dk_180 1 176 (dk_at dksX4_holds_0 6 rfl rfl)
theorem dX4_holds_9 : decode cX4_holds 9 = .ok (.if_icmp .ge 132, 3) := dk_162 0 132 (dk_at dksX4_holds_0 9 rfl rfl)
theorem dX4_holds_12 : decode cX4_holds 12 = .ok (.aload_n 0, 1) := dk_42 (dk_at dksX4_holds_0 12 rfl rfl)
theorem dX4_holds_13 : decode cX4_holds 13 = .ok (.getfield 78, 3) := dk_180 0 78 (dk_at dksX4_holds_0 13 rfl rfl)
theorem dX4_holds_16 : decode cX4_holds 16 = .ok (.iload_n 3, 1) := dk_29 (dk_at dksX4_holds_0 16 rfl rfl)
theorem dX4_holds_17 : decode cX4_holds 17 = .ok (.iaload, 1) := dk_46 (dk_at dksX4_holds_0 17 rfl rfl)
theorem dX4_holds_18 : decode cX4_holds 18 = .ok (.istore 4, 2) := dk_54 4 (dk_at dksX4_holds_0 18 rfl rfl)
theorem dX4_holds_20 : decode cX4_holds 20 = .ok (.iload 4, 2) := dk_21 4 (dk_at dksX4_holds_0 20 rfl rfl)
theorem dX4_holds_22 : decode cX4_holds 22 = .ok (.bipush 23, 2) := dk_16 23 (dk_at dksX4_holds_0 22 rfl rfl)
theorem dX4_holds_24 : decode cX4_holds 24 = .ok (.if_icmp .ne 24, 3) := dk_160 0 24 (dk_at dksX4_holds_1 0 rfl rfl)
theorem dX4_holds_27 : decode cX4_holds 27 = .ok (.aload_n 0, 1) := dk_42 (dk_at dksX4_holds_1 3 rfl rfl)
theorem dX4_holds_28 : decode cX4_holds 28 = .ok (.getfield 84, 3) := dk_180 0 84 (dk_at dksX4_holds_1 4 rfl rfl)
theorem dX4_holds_31 : decode cX4_holds 31 = .ok (.iload_n 2, 1) := dk_28 (dk_at dksX4_holds_1 7 rfl rfl)
theorem dX4_holds_32 : decode cX4_holds 32 = .ok (.iconst 1, 1) := dk_4 (dk_at dksX4_holds_1 8 rfl rfl)
theorem dX4_holds_33 : decode cX4_holds 33 = .ok (.isub, 1) := dk_100 (dk_at dksX4_holds_1 9 rfl rfl)
theorem dX4_holds_34 : decode cX4_holds 34 = .ok (.iconst 1, 1) := dk_4 (dk_at dksX4_holds_1 10 rfl rfl)
theorem dX4_holds_35 : decode cX4_holds 35 = .ok (.aload_n 0, 1) := dk_42 (dk_at dksX4_holds_1 11 rfl rfl)
theorem dX4_holds_36 : decode cX4_holds 36 = .ok (.getfield 84, 3) := dk_180 0 84 (dk_at dksX4_holds_1 12 rfl rfl)
theorem dX4_holds_39 : decode cX4_holds 39 = .ok (.iload_n 2, 1) := dk_28 (dk_at dksX4_holds_1 15 rfl rfl)
theorem dX4_holds_40 : decode cX4_holds 40 = .ok (.iconst 1, 1) := dk_4 (dk_at dksX4_holds_1 16 rfl rfl)
theorem dX4_holds_41 : decode cX4_holds 41 = .ok (.isub, 1) := dk_100 (dk_at dksX4_holds_1 17 rfl rfl)
theorem dX4_holds_42 : decode cX4_holds 42 = .ok (.iaload, 1) := dk_46 (dk_at dksX4_holds_1 18 rfl rfl)
theorem dX4_holds_43 : decode cX4_holds 43 = .ok (.isub, 1) := dk_100 (dk_at dksX4_holds_1 19 rfl rfl)
theorem dX4_holds_44 : decode cX4_holds 44 = .ok (.iastore, 1) := dk_79 (dk_at dksX4_holds_1 20 rfl rfl)
theorem dX4_holds_45 : decode cX4_holds 45 = .ok (.goto 90, 3) := dk_167 0 90 (dk_at dksX4_holds_1 21 rfl rfl)
theorem dX4_holds_48 : decode cX4_holds 48 = .ok (.iload 4, 2) := dk_21 4 (dk_at dksX4_holds_2 0 rfl rfl)
theorem dX4_holds_50 : decode cX4_holds 50 = .ok (.i2l, 1) := dk_133 (dk_at dksX4_holds_2 2 rfl rfl)
theorem dX4_holds_51 : decode cX4_holds 51 = .ok (.ldc2_w 491, 3) := dk_20 1 235 (dk_at dksX4_holds_2 3 rfl rfl)
theorem dX4_holds_54 : decode cX4_holds 54 = .ok (.ldc2_w 493, 3) := dk_20 1 237 (dk_at dksX4_holds_2 6 rfl rfl)
theorem dX4_holds_57 : decode cX4_holds 57 = .ok (.invokestatic 197, 3) := dk_184 0 197 (dk_at dksX4_holds_2 9 rfl rfl)
theorem dX4_holds_60 : decode cX4_holds 60 = .ok (.ifCond .eq 44, 3) := dk_153 0 44 (dk_at dksX4_holds_2 12 rfl rfl)
theorem dX4_holds_63 : decode cX4_holds 63 = .ok (.iinc 2 (-1), 3) := dk_132 2 255 (dk_at dksX4_holds_2 15 rfl rfl)
theorem dX4_holds_66 : decode cX4_holds 66 = .ok (.aload_n 0, 1) := dk_42 (dk_at dksX4_holds_2 18 rfl rfl)
theorem dX4_holds_67 : decode cX4_holds 67 = .ok (.getfield 84, 3) := dk_180 0 84 (dk_at dksX4_holds_2 19 rfl rfl)
theorem dX4_holds_70 : decode cX4_holds 70 = .ok (.iload_n 2, 1) := dk_28 (dk_at dksX4_holds_2 22 rfl rfl)
theorem dX4_holds_71 : decode cX4_holds 71 = .ok (.iconst 1, 1) := dk_4 (dk_at dksX4_holds_2 23 rfl rfl)
theorem dX4_holds_72 : decode cX4_holds 72 = .ok (.isub, 1) := dk_100 (dk_at dksX4_holds_3 0 rfl rfl)
theorem dX4_holds_73 : decode cX4_holds 73 = .ok (.iload 4, 2) := dk_21 4 (dk_at dksX4_holds_3 1 rfl rfl)
theorem dX4_holds_75 : decode cX4_holds 75 = .ok (.aload_n 0, 1) := dk_42 (dk_at dksX4_holds_3 3 rfl rfl)
theorem dX4_holds_76 : decode cX4_holds 76 = .ok (.getfield 84, 3) := dk_180 0 84 (dk_at dksX4_holds_3 4 rfl rfl)
theorem dX4_holds_79 : decode cX4_holds 79 = .ok (.iload_n 2, 1) := dk_28 (dk_at dksX4_holds_3 7 rfl rfl)
theorem dX4_holds_80 : decode cX4_holds 80 = .ok (.iconst 1, 1) := dk_4 (dk_at dksX4_holds_3 8 rfl rfl)
theorem dX4_holds_81 : decode cX4_holds 81 = .ok (.isub, 1) := dk_100 (dk_at dksX4_holds_3 9 rfl rfl)
theorem dX4_holds_82 : decode cX4_holds 82 = .ok (.iaload, 1) := dk_46 (dk_at dksX4_holds_3 10 rfl rfl)
theorem dX4_holds_83 : decode cX4_holds 83 = .ok (.aload_n 0, 1) := dk_42 (dk_at dksX4_holds_3 11 rfl rfl)
theorem dX4_holds_84 : decode cX4_holds 84 = .ok (.getfield 84, 3) := dk_180 0 84 (dk_at dksX4_holds_3 12 rfl rfl)
theorem dX4_holds_87 : decode cX4_holds 87 = .ok (.iload_n 2, 1) := dk_28 (dk_at dksX4_holds_3 15 rfl rfl)
theorem dX4_holds_88 : decode cX4_holds 88 = .ok (.iaload, 1) := dk_46 (dk_at dksX4_holds_3 16 rfl rfl)
theorem dX4_holds_89 : decode cX4_holds 89 = .ok (.invokestatic 495, 3) := dk_184 1 239 (dk_at dksX4_holds_3 17 rfl rfl)
theorem dX4_holds_92 : decode cX4_holds 92 = .ok (.ifCond .eq 7, 3) := dk_153 0 7 (dk_at dksX4_holds_3 20 rfl rfl)
theorem dX4_holds_95 : decode cX4_holds 95 = .ok (.iconst 1, 1) := dk_4 (dk_at dksX4_holds_3 23 rfl rfl)
theorem dX4_holds_96 : decode cX4_holds 96 = .ok (.goto 4, 3) := dk_167 0 4 (dk_at dksX4_holds_4 0 rfl rfl)
theorem dX4_holds_99 : decode cX4_holds 99 = .ok (.iconst 0, 1) := dk_3 (dk_at dksX4_holds_4 3 rfl rfl)
theorem dX4_holds_100 : decode cX4_holds 100 = .ok (.iastore, 1) := dk_79 (dk_at dksX4_holds_4 4 rfl rfl)
theorem dX4_holds_101 : decode cX4_holds 101 = .ok (.goto 34, 3) := dk_167 0 34 (dk_at dksX4_holds_4 5 rfl rfl)
theorem dX4_holds_104 : decode cX4_holds 104 = .ok (.aload_n 0, 1) := dk_42 (dk_at dksX4_holds_4 8 rfl rfl)
theorem dX4_holds_105 : decode cX4_holds 105 = .ok (.getfield 84, 3) := dk_180 0 84 (dk_at dksX4_holds_4 9 rfl rfl)
theorem dX4_holds_108 : decode cX4_holds 108 = .ok (.iload_n 2, 1) := dk_28 (dk_at dksX4_holds_4 12 rfl rfl)
theorem dX4_holds_109 : decode cX4_holds 109 = .ok (.iload 4, 2) := dk_21 4 (dk_at dksX4_holds_4 13 rfl rfl)
theorem dX4_holds_111 : decode cX4_holds 111 = .ok (.bipush 100, 2) := dk_16 100 (dk_at dksX4_holds_4 15 rfl rfl)
theorem dX4_holds_113 : decode cX4_holds 113 = .ok (.if_icmp .lt 11, 3) := dk_161 0 11 (dk_at dksX4_holds_4 17 rfl rfl)
theorem dX4_holds_116 : decode cX4_holds 116 = .ok (.iload 4, 2) := dk_21 4 (dk_at dksX4_holds_4 20 rfl rfl)
theorem dX4_holds_118 : decode cX4_holds 118 = .ok (.bipush 100, 2) := dk_16 100 (dk_at dksX4_holds_4 22 rfl rfl)
theorem dX4_holds_120 : decode cX4_holds 120 = .ok (.isub, 1) := dk_100 (dk_at dksX4_holds_5 0 rfl rfl)
theorem dX4_holds_121 : decode cX4_holds 121 = .ok (.goto 10, 3) := dk_167 0 10 (dk_at dksX4_holds_5 1 rfl rfl)
theorem dX4_holds_124 : decode cX4_holds 124 = .ok (.aload_n 0, 1) := dk_42 (dk_at dksX4_holds_5 4 rfl rfl)
theorem dX4_holds_125 : decode cX4_holds 125 = .ok (.iload 4, 2) := dk_21 4 (dk_at dksX4_holds_5 5 rfl rfl)
theorem dX4_holds_127 : decode cX4_holds 127 = .ok (.iload_n 1, 1) := dk_27 (dk_at dksX4_holds_5 7 rfl rfl)
theorem dX4_holds_128 : decode cX4_holds 128 = .ok (.invokevirtual 499, 3) := dk_182 1 243 (dk_at dksX4_holds_5 8 rfl rfl)
theorem dX4_holds_131 : decode cX4_holds 131 = .ok (.iastore, 1) := dk_79 (dk_at dksX4_holds_5 11 rfl rfl)
theorem dX4_holds_132 : decode cX4_holds 132 = .ok (.iinc 2 1, 3) := dk_132 2 1 (dk_at dksX4_holds_5 12 rfl rfl)
theorem dX4_holds_135 : decode cX4_holds 135 = .ok (.iinc 3 1, 3) := dk_132 3 1 (dk_at dksX4_holds_5 15 rfl rfl)
theorem dX4_holds_138 : decode cX4_holds 138 = .ok (.goto (-134), 3) := dk_167 255 122 (dk_at dksX4_holds_5 18 rfl rfl)
theorem dX4_holds_141 : decode cX4_holds 141 = .ok (.aload_n 0, 1) := dk_42 (dk_at dksX4_holds_5 21 rfl rfl)
theorem dX4_holds_142 : decode cX4_holds 142 = .ok (.getfield 84, 3) := dk_180 0 84 (dk_at dksX4_holds_6 0 rfl rfl)
theorem dX4_holds_145 : decode cX4_holds 145 = .ok (.iconst 0, 1) := dk_3 (dk_at dksX4_holds_6 3 rfl rfl)
theorem dX4_holds_146 : decode cX4_holds 146 = .ok (.iaload, 1) := dk_46 (dk_at dksX4_holds_6 4 rfl rfl)
theorem dX4_holds_147 : decode cX4_holds 147 = .ok (.iconst 1, 1) := dk_4 (dk_at dksX4_holds_6 5 rfl rfl)
theorem dX4_holds_148 : decode cX4_holds 148 = .ok (.if_icmp .ne 7, 3) := dk_160 0 7 (dk_at dksX4_holds_6 6 rfl rfl)
theorem dX4_holds_151 : decode cX4_holds 151 = .ok (.iconst 1, 1) := dk_4 (dk_at dksX4_holds_6 9 rfl rfl)
theorem dX4_holds_152 : decode cX4_holds 152 = .ok (.goto 4, 3) := dk_167 0 4 (dk_at dksX4_holds_6 10 rfl rfl)
theorem dX4_holds_155 : decode cX4_holds 155 = .ok (.iconst 0, 1) := dk_3 (dk_at dksX4_holds_6 13 rfl rfl)
theorem dX4_holds_156 : decode cX4_holds 156 = .ok (.ireturn, 1) := dk_172 (dk_at dksX4_holds_6 14 rfl rfl)
abbrev cX4_joined : ByteArray := prog_25_method_114_code
def yX4_joined : MethodName := ⟨RX4, "joined", "(III)Z"⟩
def dkwX4_joined_4 : List UInt8 := [96, 158, 0, 7, 4, 167, 0, 4, 3, 172]
abbrev dktX4_joined_4 : List UInt8 := dkwX4_joined_4 ++ []
def dkwX4_joined_3 : List UInt8 := [164, 0, 7, 4, 167, 0, 4, 3, 172, 27, 28, 96, 5, 160, 0, 7, 4, 167, 0, 4, 3, 172, 27, 28]
abbrev dktX4_joined_3 : List UInt8 := dkwX4_joined_3 ++ dktX4_joined_4
def dkwX4_joined_2 : List UInt8 := [27, 28, 162, 0, 7, 4, 167, 0, 4, 3, 172, 27, 28, 160, 0, 7, 4, 167, 0, 4, 3, 172, 27, 28]
abbrev dktX4_joined_2 : List UInt8 := dkwX4_joined_2 ++ dktX4_joined_3
def dkwX4_joined_1 : List UInt8 := [170, 0, 0, 0, 0, 0, 81, 0, 0, 0, 20, 0, 0, 0, 24, 0, 0, 0, 35, 0, 0, 0, 46, 0, 0, 0, 57, 0, 0, 0, 81, 0, 0, 0, 68]
abbrev dktX4_joined_1 : List UInt8 := dkwX4_joined_1 ++ dktX4_joined_2
def dkwX4_joined_0 : List UInt8 := [26]
abbrev dktX4_joined_0 : List UInt8 := dkwX4_joined_0 ++ dktX4_joined_1
theorem dksX4_joined_0 : cX4_joined.data.toList.drop 0 = dktX4_joined_0 := by decide +kernel
theorem dksX4_joined_1 : cX4_joined.data.toList.drop 1 = dktX4_joined_1 := dk_seg dksX4_joined_0 1 rfl rfl
theorem dksX4_joined_2 : cX4_joined.data.toList.drop 36 = dktX4_joined_2 := dk_seg dksX4_joined_1 35 rfl rfl
theorem dksX4_joined_3 : cX4_joined.data.toList.drop 60 = dktX4_joined_3 := dk_seg dksX4_joined_2 24 rfl rfl
theorem dksX4_joined_4 : cX4_joined.data.toList.drop 84 = dktX4_joined_4 := dk_seg dksX4_joined_3 24 rfl rfl
theorem dX4_joined_0 : decode cX4_joined 0 = .ok (.iload_n 0, 1) := dk_26 (dk_at dksX4_joined_0 0 rfl rfl)
theorem dX4_joined_1 : decode cX4_joined 1 = .ok (.tableswitch 81 20 24 #[35, 46, 57, 81, 68], 35) := by decide +kernel
theorem dX4_joined_36 : decode cX4_joined 36 = .ok (.iload_n 1, 1) := dk_27 (dk_at dksX4_joined_2 0 rfl rfl)
theorem dX4_joined_37 : decode cX4_joined 37 = .ok (.iload_n 2, 1) := dk_28 (dk_at dksX4_joined_2 1 rfl rfl)
theorem dX4_joined_38 : decode cX4_joined 38 = .ok (.if_icmp .ge 7, 3) := dk_162 0 7 (dk_at dksX4_joined_2 2 rfl rfl)
theorem dX4_joined_41 : decode cX4_joined 41 = .ok (.iconst 1, 1) := dk_4 (dk_at dksX4_joined_2 5 rfl rfl)
theorem dX4_joined_42 : decode cX4_joined 42 = .ok (.goto 4, 3) := dk_167 0 4 (dk_at dksX4_joined_2 6 rfl rfl)
theorem dX4_joined_45 : decode cX4_joined 45 = .ok (.iconst 0, 1) := dk_3 (dk_at dksX4_joined_2 9 rfl rfl)
theorem dX4_joined_46 : decode cX4_joined 46 = .ok (.ireturn, 1) := dk_172 (dk_at dksX4_joined_2 10 rfl rfl)
theorem dX4_joined_47 : decode cX4_joined 47 = .ok (.iload_n 1, 1) := dk_27 (dk_at dksX4_joined_2 11 rfl rfl)
theorem dX4_joined_48 : decode cX4_joined 48 = .ok (.iload_n 2, 1) := dk_28 (dk_at dksX4_joined_2 12 rfl rfl)
theorem dX4_joined_49 : decode cX4_joined 49 = .ok (.if_icmp .ne 7, 3) := dk_160 0 7 (dk_at dksX4_joined_2 13 rfl rfl)
theorem dX4_joined_52 : decode cX4_joined 52 = .ok (.iconst 1, 1) := dk_4 (dk_at dksX4_joined_2 16 rfl rfl)
theorem dX4_joined_53 : decode cX4_joined 53 = .ok (.goto 4, 3) := dk_167 0 4 (dk_at dksX4_joined_2 17 rfl rfl)
theorem dX4_joined_56 : decode cX4_joined 56 = .ok (.iconst 0, 1) := dk_3 (dk_at dksX4_joined_2 20 rfl rfl)
theorem dX4_joined_57 : decode cX4_joined 57 = .ok (.ireturn, 1) := dk_172 (dk_at dksX4_joined_2 21 rfl rfl)
theorem dX4_joined_58 : decode cX4_joined 58 = .ok (.iload_n 1, 1) := dk_27 (dk_at dksX4_joined_2 22 rfl rfl)
theorem dX4_joined_59 : decode cX4_joined 59 = .ok (.iload_n 2, 1) := dk_28 (dk_at dksX4_joined_2 23 rfl rfl)
theorem dX4_joined_60 : decode cX4_joined 60 = .ok (.if_icmp .le 7, 3) := dk_164 0 7 (dk_at dksX4_joined_3 0 rfl rfl)
theorem dX4_joined_63 : decode cX4_joined 63 = .ok (.iconst 1, 1) := dk_4 (dk_at dksX4_joined_3 3 rfl rfl)
theorem dX4_joined_64 : decode cX4_joined 64 = .ok (.goto 4, 3) := dk_167 0 4 (dk_at dksX4_joined_3 4 rfl rfl)
theorem dX4_joined_67 : decode cX4_joined 67 = .ok (.iconst 0, 1) := dk_3 (dk_at dksX4_joined_3 7 rfl rfl)
theorem dX4_joined_68 : decode cX4_joined 68 = .ok (.ireturn, 1) := dk_172 (dk_at dksX4_joined_3 8 rfl rfl)
theorem dX4_joined_69 : decode cX4_joined 69 = .ok (.iload_n 1, 1) := dk_27 (dk_at dksX4_joined_3 9 rfl rfl)
theorem dX4_joined_70 : decode cX4_joined 70 = .ok (.iload_n 2, 1) := dk_28 (dk_at dksX4_joined_3 10 rfl rfl)
theorem dX4_joined_71 : decode cX4_joined 71 = .ok (.iadd, 1) := dk_96 (dk_at dksX4_joined_3 11 rfl rfl)
theorem dX4_joined_72 : decode cX4_joined 72 = .ok (.iconst 2, 1) := dk_5 (dk_at dksX4_joined_3 12 rfl rfl)
theorem dX4_joined_73 : decode cX4_joined 73 = .ok (.if_icmp .ne 7, 3) := dk_160 0 7 (dk_at dksX4_joined_3 13 rfl rfl)
theorem dX4_joined_76 : decode cX4_joined 76 = .ok (.iconst 1, 1) := dk_4 (dk_at dksX4_joined_3 16 rfl rfl)
theorem dX4_joined_77 : decode cX4_joined 77 = .ok (.goto 4, 3) := dk_167 0 4 (dk_at dksX4_joined_3 17 rfl rfl)
theorem dX4_joined_80 : decode cX4_joined 80 = .ok (.iconst 0, 1) := dk_3 (dk_at dksX4_joined_3 20 rfl rfl)
theorem dX4_joined_81 : decode cX4_joined 81 = .ok (.ireturn, 1) := dk_172 (dk_at dksX4_joined_3 21 rfl rfl)
theorem dX4_joined_82 : decode cX4_joined 82 = .ok (.iload_n 1, 1) := dk_27 (dk_at dksX4_joined_3 22 rfl rfl)
theorem dX4_joined_83 : decode cX4_joined 83 = .ok (.iload_n 2, 1) := dk_28 (dk_at dksX4_joined_3 23 rfl rfl)
theorem dX4_joined_84 : decode cX4_joined 84 = .ok (.iadd, 1) := dk_96 (dk_at dksX4_joined_4 0 rfl rfl)
theorem dX4_joined_85 : decode cX4_joined 85 = .ok (.ifCond .le 7, 3) := dk_158 0 7 (dk_at dksX4_joined_4 1 rfl rfl)
theorem dX4_joined_88 : decode cX4_joined 88 = .ok (.iconst 1, 1) := dk_4 (dk_at dksX4_joined_4 4 rfl rfl)
theorem dX4_joined_89 : decode cX4_joined 89 = .ok (.goto 4, 3) := dk_167 0 4 (dk_at dksX4_joined_4 5 rfl rfl)
theorem dX4_joined_92 : decode cX4_joined 92 = .ok (.iconst 0, 1) := dk_3 (dk_at dksX4_joined_4 8 rfl rfl)
theorem dX4_joined_93 : decode cX4_joined 93 = .ok (.ireturn, 1) := dk_172 (dk_at dksX4_joined_4 9 rfl rfl)
abbrev cX4_propertyOf : ByteArray := prog_25_method_113_code
def yX4_propertyOf : MethodName := ⟨RX4, "propertyOf", "(II)I"⟩
def dkwX4_propertyOf_4 : List UInt8 := [16, 10, 182, 1, 18, 172, 42, 28, 16, 7, 182, 1, 18, 4, 96, 172]
abbrev dktX4_propertyOf_4 : List UInt8 := dkwX4_propertyOf_4 ++ []
def dkwX4_propertyOf_3 : List UInt8 := [28, 6, 182, 1, 18, 172, 42, 28, 7, 182, 1, 18, 172, 42, 28, 16, 6, 182, 1, 18, 172, 42, 28]
abbrev dktX4_propertyOf_3 : List UInt8 := dkwX4_propertyOf_3 ++ dktX4_propertyOf_4
def dkwX4_propertyOf_2 : List UInt8 := [28, 172, 42, 28, 3, 182, 1, 18, 172, 42, 28, 4, 182, 1, 18, 172, 42, 28, 5, 182, 1, 18, 172, 42]
abbrev dktX4_propertyOf_2 : List UInt8 := dkwX4_propertyOf_2 ++ dktX4_propertyOf_3
def dkwX4_propertyOf_1 : List UInt8 := [170, 0, 0, 0, 0, 0, 100, 0, 0, 0, 0, 0, 0, 0, 7, 0, 0, 0, 47, 0, 0, 0, 49, 0, 0, 0, 56, 0, 0, 0, 63, 0, 0, 0, 70, 0, 0, 0, 77, 0, 0, 0, 84, 0, 0, 0, 92]
abbrev dktX4_propertyOf_1 : List UInt8 := dkwX4_propertyOf_1 ++ dktX4_propertyOf_2
def dkwX4_propertyOf_0 : List UInt8 := [27]
abbrev dktX4_propertyOf_0 : List UInt8 := dkwX4_propertyOf_0 ++ dktX4_propertyOf_1
theorem dksX4_propertyOf_0 : cX4_propertyOf.data.toList.drop 0 = dktX4_propertyOf_0 := by decide +kernel
theorem dksX4_propertyOf_1 : cX4_propertyOf.data.toList.drop 1 = dktX4_propertyOf_1 := dk_seg dksX4_propertyOf_0 1 rfl rfl
theorem dksX4_propertyOf_2 : cX4_propertyOf.data.toList.drop 48 = dktX4_propertyOf_2 := dk_seg dksX4_propertyOf_1 47 rfl rfl
theorem dksX4_propertyOf_3 : cX4_propertyOf.data.toList.drop 72 = dktX4_propertyOf_3 := dk_seg dksX4_propertyOf_2 24 rfl rfl
theorem dksX4_propertyOf_4 : cX4_propertyOf.data.toList.drop 95 = dktX4_propertyOf_4 := dk_seg dksX4_propertyOf_3 23 rfl rfl
theorem dX4_propertyOf_0 : decode cX4_propertyOf 0 = .ok (.iload_n 1, 1) := dk_27 (dk_at dksX4_propertyOf_0 0 rfl rfl)
theorem dX4_propertyOf_1 : decode cX4_propertyOf 1 = .ok (.tableswitch 100 0 7 #[47, 49, 56, 63, 70, 77, 84, 92], 47) := by decide +kernel
theorem dX4_propertyOf_48 : decode cX4_propertyOf 48 = .ok (.iload_n 2, 1) := dk_28 (dk_at dksX4_propertyOf_2 0 rfl rfl)
theorem dX4_propertyOf_49 : decode cX4_propertyOf 49 = .ok (.ireturn, 1) := dk_172 (dk_at dksX4_propertyOf_2 1 rfl rfl)
theorem dX4_propertyOf_50 : decode cX4_propertyOf 50 = .ok (.aload_n 0, 1) := dk_42 (dk_at dksX4_propertyOf_2 2 rfl rfl)
theorem dX4_propertyOf_51 : decode cX4_propertyOf 51 = .ok (.iload_n 2, 1) := dk_28 (dk_at dksX4_propertyOf_2 3 rfl rfl)
theorem dX4_propertyOf_52 : decode cX4_propertyOf 52 = .ok (.iconst 0, 1) := dk_3 (dk_at dksX4_propertyOf_2 4 rfl rfl)
theorem dX4_propertyOf_53 : decode cX4_propertyOf 53 = .ok (.invokevirtual 274, 3) := dk_182 1 18 (dk_at dksX4_propertyOf_2 5 rfl rfl)
theorem dX4_propertyOf_56 : decode cX4_propertyOf 56 = .ok (.ireturn, 1) := dk_172 (dk_at dksX4_propertyOf_2 8 rfl rfl)
theorem dX4_propertyOf_57 : decode cX4_propertyOf 57 = .ok (.aload_n 0, 1) := dk_42 (dk_at dksX4_propertyOf_2 9 rfl rfl)
theorem dX4_propertyOf_58 : decode cX4_propertyOf 58 = .ok (.iload_n 2, 1) := dk_28 (dk_at dksX4_propertyOf_2 10 rfl rfl)
theorem dX4_propertyOf_59 : decode cX4_propertyOf 59 = .ok (.iconst 1, 1) := dk_4 (dk_at dksX4_propertyOf_2 11 rfl rfl)
theorem dX4_propertyOf_60 : decode cX4_propertyOf 60 = .ok (.invokevirtual 274, 3) := dk_182 1 18 (dk_at dksX4_propertyOf_2 12 rfl rfl)
theorem dX4_propertyOf_63 : decode cX4_propertyOf 63 = .ok (.ireturn, 1) := dk_172 (dk_at dksX4_propertyOf_2 15 rfl rfl)
theorem dX4_propertyOf_64 : decode cX4_propertyOf 64 = .ok (.aload_n 0, 1) := dk_42 (dk_at dksX4_propertyOf_2 16 rfl rfl)
theorem dX4_propertyOf_65 : decode cX4_propertyOf 65 = .ok (.iload_n 2, 1) := dk_28 (dk_at dksX4_propertyOf_2 17 rfl rfl)
theorem dX4_propertyOf_66 : decode cX4_propertyOf 66 = .ok (.iconst 2, 1) := dk_5 (dk_at dksX4_propertyOf_2 18 rfl rfl)
theorem dX4_propertyOf_67 : decode cX4_propertyOf 67 = .ok (.invokevirtual 274, 3) := dk_182 1 18 (dk_at dksX4_propertyOf_2 19 rfl rfl)
theorem dX4_propertyOf_70 : decode cX4_propertyOf 70 = .ok (.ireturn, 1) := dk_172 (dk_at dksX4_propertyOf_2 22 rfl rfl)
theorem dX4_propertyOf_71 : decode cX4_propertyOf 71 = .ok (.aload_n 0, 1) := dk_42 (dk_at dksX4_propertyOf_2 23 rfl rfl)
theorem dX4_propertyOf_72 : decode cX4_propertyOf 72 = .ok (.iload_n 2, 1) := dk_28 (dk_at dksX4_propertyOf_3 0 rfl rfl)
theorem dX4_propertyOf_73 : decode cX4_propertyOf 73 = .ok (.iconst 3, 1) := dk_6 (dk_at dksX4_propertyOf_3 1 rfl rfl)
theorem dX4_propertyOf_74 : decode cX4_propertyOf 74 = .ok (.invokevirtual 274, 3) := dk_182 1 18 (dk_at dksX4_propertyOf_3 2 rfl rfl)
theorem dX4_propertyOf_77 : decode cX4_propertyOf 77 = .ok (.ireturn, 1) := dk_172 (dk_at dksX4_propertyOf_3 5 rfl rfl)
theorem dX4_propertyOf_78 : decode cX4_propertyOf 78 = .ok (.aload_n 0, 1) := dk_42 (dk_at dksX4_propertyOf_3 6 rfl rfl)
theorem dX4_propertyOf_79 : decode cX4_propertyOf 79 = .ok (.iload_n 2, 1) := dk_28 (dk_at dksX4_propertyOf_3 7 rfl rfl)
theorem dX4_propertyOf_80 : decode cX4_propertyOf 80 = .ok (.iconst 4, 1) := dk_7 (dk_at dksX4_propertyOf_3 8 rfl rfl)
theorem dX4_propertyOf_81 : decode cX4_propertyOf 81 = .ok (.invokevirtual 274, 3) := dk_182 1 18 (dk_at dksX4_propertyOf_3 9 rfl rfl)
theorem dX4_propertyOf_84 : decode cX4_propertyOf 84 = .ok (.ireturn, 1) := dk_172 (dk_at dksX4_propertyOf_3 12 rfl rfl)
theorem dX4_propertyOf_85 : decode cX4_propertyOf 85 = .ok (.aload_n 0, 1) := dk_42 (dk_at dksX4_propertyOf_3 13 rfl rfl)
theorem dX4_propertyOf_86 : decode cX4_propertyOf 86 = .ok (.iload_n 2, 1) := dk_28 (dk_at dksX4_propertyOf_3 14 rfl rfl)
theorem dX4_propertyOf_87 : decode cX4_propertyOf 87 = .ok (.bipush 6, 2) := dk_16 6 (dk_at dksX4_propertyOf_3 15 rfl rfl)
theorem dX4_propertyOf_89 : decode cX4_propertyOf 89 = .ok (.invokevirtual 274, 3) := dk_182 1 18 (dk_at dksX4_propertyOf_3 17 rfl rfl)
theorem dX4_propertyOf_92 : decode cX4_propertyOf 92 = .ok (.ireturn, 1) := dk_172 (dk_at dksX4_propertyOf_3 20 rfl rfl)
theorem dX4_propertyOf_93 : decode cX4_propertyOf 93 = .ok (.aload_n 0, 1) := dk_42 (dk_at dksX4_propertyOf_3 21 rfl rfl)
theorem dX4_propertyOf_94 : decode cX4_propertyOf 94 = .ok (.iload_n 2, 1) := dk_28 (dk_at dksX4_propertyOf_3 22 rfl rfl)
theorem dX4_propertyOf_95 : decode cX4_propertyOf 95 = .ok (.bipush 10, 2) := dk_16 10 (dk_at dksX4_propertyOf_4 0 rfl rfl)
theorem dX4_propertyOf_97 : decode cX4_propertyOf 97 = .ok (.invokevirtual 274, 3) := dk_182 1 18 (dk_at dksX4_propertyOf_4 2 rfl rfl)
theorem dX4_propertyOf_100 : decode cX4_propertyOf 100 = .ok (.ireturn, 1) := dk_172 (dk_at dksX4_propertyOf_4 5 rfl rfl)
theorem dX4_propertyOf_101 : decode cX4_propertyOf 101 = .ok (.aload_n 0, 1) := dk_42 (dk_at dksX4_propertyOf_4 6 rfl rfl)
theorem dX4_propertyOf_102 : decode cX4_propertyOf 102 = .ok (.iload_n 2, 1) := dk_28 (dk_at dksX4_propertyOf_4 7 rfl rfl)
theorem dX4_propertyOf_103 : decode cX4_propertyOf 103 = .ok (.bipush 7, 2) := dk_16 7 (dk_at dksX4_propertyOf_4 8 rfl rfl)
theorem dX4_propertyOf_105 : decode cX4_propertyOf 105 = .ok (.invokevirtual 274, 3) := dk_182 1 18 (dk_at dksX4_propertyOf_4 10 rfl rfl)
theorem dX4_propertyOf_108 : decode cX4_propertyOf 108 = .ok (.iconst 1, 1) := dk_4 (dk_at dksX4_propertyOf_4 13 rfl rfl)
theorem dX4_propertyOf_109 : decode cX4_propertyOf 109 = .ok (.iadd, 1) := dk_96 (dk_at dksX4_propertyOf_4 14 rfl rfl)
theorem dX4_propertyOf_110 : decode cX4_propertyOf 110 = .ok (.ireturn, 1) := dk_172 (dk_at dksX4_propertyOf_4 15 rfl rfl)
