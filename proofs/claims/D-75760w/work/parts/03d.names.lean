/-! names and decode rows -/
set_option maxRecDepth 100000
abbrev cX1_init : ByteArray := prog_1_method_8_code
def yX1_init : MethodName := ⟨RX1, "<init>", "()V"⟩
def dkwX1_init_2 : List UInt8 := [181, 0, 93, 42, 18, 97, 181, 0, 99, 177]
abbrev dktX1_init_2 : List UInt8 := dkwX1_init_2 ++ []
def dkwX1_init_1 : List UInt8 := [187, 0, 79, 89, 5, 183, 0, 81, 183, 0, 84, 181, 0, 87, 42, 187, 0, 90, 89, 183, 0, 92]
abbrev dktX1_init_1 : List UInt8 := dkwX1_init_1 ++ dktX1_init_2
def dkwX1_init_0 : List UInt8 := [42, 183, 0, 66, 42, 17, 3, 32, 188, 8, 181, 0, 69, 42, 2, 181, 0, 73, 42, 187, 0, 77, 89]
abbrev dktX1_init_0 : List UInt8 := dkwX1_init_0 ++ dktX1_init_1
theorem dksX1_init_0 : cX1_init.data.toList.drop 0 = dktX1_init_0 := by decide +kernel
theorem dksX1_init_1 : cX1_init.data.toList.drop 23 = dktX1_init_1 := dk_seg dksX1_init_0 23 rfl rfl
theorem dksX1_init_2 : cX1_init.data.toList.drop 45 = dktX1_init_2 := dk_seg dksX1_init_1 22 rfl rfl
theorem dX1_init_0 : decode cX1_init 0 = .ok (.aload_n 0, 1) := dk_42 (dk_at dksX1_init_0 0 rfl rfl)
theorem dX1_init_1 : decode cX1_init 1 = .ok (.invokespecial 66, 3) := dk_183 0 66 (dk_at dksX1_init_0 1 rfl rfl)
theorem dX1_init_4 : decode cX1_init 4 = .ok (.aload_n 0, 1) := dk_42 (dk_at dksX1_init_0 4 rfl rfl)
theorem dX1_init_5 : decode cX1_init 5 = .ok (.sipush 800, 3) := dk_17 3 32 (dk_at dksX1_init_0 5 rfl rfl)
theorem dX1_init_8 : decode cX1_init 8 = .ok (.newarray .byte, 2) := dk_188_8 (dk_at dksX1_init_0 8 rfl rfl)
theorem dX1_init_10 : decode cX1_init 10 = .ok (.putfield 69, 3) := dk_181 0 69 (dk_at dksX1_init_0 10 rfl rfl)
theorem dX1_init_13 : decode cX1_init 13 = .ok (.aload_n 0, 1) := dk_42 (dk_at dksX1_init_0 13 rfl rfl)
theorem dX1_init_14 : decode cX1_init 14 = .ok (.iconst (-1), 1) := dk_2 (dk_at dksX1_init_0 14 rfl rfl)
theorem dX1_init_15 : decode cX1_init 15 = .ok (.putfield 73, 3) := dk_181 0 73 (dk_at dksX1_init_0 15 rfl rfl)
theorem dX1_init_18 : decode cX1_init 18 = .ok (.aload_n 0, 1) := dk_42 (dk_at dksX1_init_0 18 rfl rfl)
theorem dX1_init_19 : decode cX1_init 19 = .ok (.new 77, 3) := dk_187 0 77 (dk_at dksX1_init_0 19 rfl rfl)
theorem dX1_init_22 : decode cX1_init 22 = .ok (.dup, 1) := dk_89 (dk_at dksX1_init_0 22 rfl rfl)
theorem dX1_init_23 : decode cX1_init 23 = .ok (.new 79, 3) := dk_187 0 79 (dk_at dksX1_init_1 0 rfl rfl)
theorem dX1_init_26 : decode cX1_init 26 = .ok (.dup, 1) := dk_89 (dk_at dksX1_init_1 3 rfl rfl)
theorem dX1_init_27 : decode cX1_init 27 = .ok (.iconst 2, 1) := dk_5 (dk_at dksX1_init_1 4 rfl rfl)
theorem dX1_init_28 : decode cX1_init 28 = .ok (.invokespecial 81, 3) := dk_183 0 81 (dk_at dksX1_init_1 5 rfl rfl)
theorem dX1_init_31 : decode cX1_init 31 = .ok (.invokespecial 84, 3) := dk_183 0 84 (dk_at dksX1_init_1 8 rfl rfl)
theorem dX1_init_34 : decode cX1_init 34 = .ok (.putfield 87, 3) := dk_181 0 87 (dk_at dksX1_init_1 11 rfl rfl)
theorem dX1_init_37 : decode cX1_init 37 = .ok (.aload_n 0, 1) := dk_42 (dk_at dksX1_init_1 14 rfl rfl)
theorem dX1_init_38 : decode cX1_init 38 = .ok (.new 90, 3) := dk_187 0 90 (dk_at dksX1_init_1 15 rfl rfl)
theorem dX1_init_41 : decode cX1_init 41 = .ok (.dup, 1) := dk_89 (dk_at dksX1_init_1 18 rfl rfl)
theorem dX1_init_42 : decode cX1_init 42 = .ok (.invokespecial 92, 3) := dk_183 0 92 (dk_at dksX1_init_1 19 rfl rfl)
theorem dX1_init_45 : decode cX1_init 45 = .ok (.putfield 93, 3) := dk_181 0 93 (dk_at dksX1_init_2 0 rfl rfl)
theorem dX1_init_48 : decode cX1_init 48 = .ok (.aload_n 0, 1) := dk_42 (dk_at dksX1_init_2 3 rfl rfl)
theorem dX1_init_49 : decode cX1_init 49 = .ok (.ldc 97, 2) := dk_18 97 (dk_at dksX1_init_2 4 rfl rfl)
theorem dX1_init_51 : decode cX1_init 51 = .ok (.putfield 99, 3) := dk_181 0 99 (dk_at dksX1_init_2 6 rfl rfl)
theorem dX1_init_54 : decode cX1_init 54 = .ok (.return_, 1) := dk_177 (dk_at dksX1_init_2 9 rfl rfl)
abbrev cX1_feed : ByteArray := prog_1_method_13_code
def yX1_feed : MethodName := ⟨RX1, "feed", "(IIIII)I"⟩
def dkwX1_feed_2 : List UInt8 := [172]
abbrev dktX1_feed_2 : List UInt8 := dkwX1_feed_2 ++ []
def dkwX1_feed_1 : List UInt8 := [4, 28, 79, 89, 5, 29, 79, 89, 6, 21, 4, 79, 89, 7, 21, 5, 79, 182, 0, 154, 42, 180, 0, 151]
abbrev dktX1_feed_1 : List UInt8 := dkwX1_feed_1 ++ dktX1_feed_2
def dkwX1_feed_0 : List UInt8 := [42, 180, 0, 151, 16, 20, 96, 17, 3, 32, 164, 0, 5, 2, 172, 42, 8, 188, 10, 89, 3, 27, 79, 89]
abbrev dktX1_feed_0 : List UInt8 := dkwX1_feed_0 ++ dktX1_feed_1
theorem dksX1_feed_0 : cX1_feed.data.toList.drop 0 = dktX1_feed_0 := by decide +kernel
theorem dksX1_feed_1 : cX1_feed.data.toList.drop 24 = dktX1_feed_1 := dk_seg dksX1_feed_0 24 rfl rfl
theorem dksX1_feed_2 : cX1_feed.data.toList.drop 48 = dktX1_feed_2 := dk_seg dksX1_feed_1 24 rfl rfl
theorem dX1_feed_0 : decode cX1_feed 0 = .ok (.aload_n 0, 1) := dk_42 (dk_at dksX1_feed_0 0 rfl rfl)
theorem dX1_feed_1 : decode cX1_feed 1 = .ok (.getfield 151, 3) := dk_180 0 151 (dk_at dksX1_feed_0 1 rfl rfl)
theorem dX1_feed_4 : decode cX1_feed 4 = .ok (.bipush 20, 2) := dk_16 20 (dk_at dksX1_feed_0 4 rfl rfl)
theorem dX1_feed_6 : decode cX1_feed 6 = .ok (.iadd, 1) := dk_96 (dk_at dksX1_feed_0 6 rfl rfl)
theorem dX1_feed_7 : decode cX1_feed 7 = .ok (.sipush 800, 3) := dk_17 3 32 (dk_at dksX1_feed_0 7 rfl rfl)
theorem dX1_feed_10 : decode cX1_feed 10 = .ok (.if_icmp .le 5, 3) := dk_164 0 5 (dk_at dksX1_feed_0 10 rfl rfl)
theorem dX1_feed_13 : decode cX1_feed 13 = .ok (.iconst (-1), 1) := dk_2 (dk_at dksX1_feed_0 13 rfl rfl)
theorem dX1_feed_14 : decode cX1_feed 14 = .ok (.ireturn, 1) := dk_172 (dk_at dksX1_feed_0 14 rfl rfl)
theorem dX1_feed_15 : decode cX1_feed 15 = .ok (.aload_n 0, 1) := dk_42 (dk_at dksX1_feed_0 15 rfl rfl)
theorem dX1_feed_16 : decode cX1_feed 16 = .ok (.iconst 5, 1) := dk_8 (dk_at dksX1_feed_0 16 rfl rfl)
theorem dX1_feed_17 : decode cX1_feed 17 = .ok (.newarray .int, 2) := dk_188_10 (dk_at dksX1_feed_0 17 rfl rfl)
theorem dX1_feed_19 : decode cX1_feed 19 = .ok (.dup, 1) := dk_89 (dk_at dksX1_feed_0 19 rfl rfl)
theorem dX1_feed_20 : decode cX1_feed 20 = .ok (.iconst 0, 1) := dk_3 (dk_at dksX1_feed_0 20 rfl rfl)
theorem dX1_feed_21 : decode cX1_feed 21 = .ok (.iload_n 1, 1) := dk_27 (dk_at dksX1_feed_0 21 rfl rfl)
theorem dX1_feed_22 : decode cX1_feed 22 = .ok (.iastore, 1) := dk_79 (dk_at dksX1_feed_0 22 rfl rfl)
theorem dX1_feed_23 : decode cX1_feed 23 = .ok (.dup, 1) := dk_89 (dk_at dksX1_feed_0 23 rfl rfl)
theorem dX1_feed_24 : decode cX1_feed 24 = .ok (.iconst 1, 1) := dk_4 (dk_at dksX1_feed_1 0 rfl rfl)
theorem dX1_feed_25 : decode cX1_feed 25 = .ok (.iload_n 2, 1) := dk_28 (dk_at dksX1_feed_1 1 rfl rfl)
theorem dX1_feed_26 : decode cX1_feed 26 = .ok (.iastore, 1) := dk_79 (dk_at dksX1_feed_1 2 rfl rfl)
theorem dX1_feed_27 : decode cX1_feed 27 = .ok (.dup, 1) := dk_89 (dk_at dksX1_feed_1 3 rfl rfl)
theorem dX1_feed_28 : decode cX1_feed 28 = .ok (.iconst 2, 1) := dk_5 (dk_at dksX1_feed_1 4 rfl rfl)
theorem dX1_feed_29 : decode cX1_feed 29 = .ok (.iload_n 3, 1) := dk_29 (dk_at dksX1_feed_1 5 rfl rfl)
theorem dX1_feed_30 : decode cX1_feed 30 = .ok (.iastore, 1) := dk_79 (dk_at dksX1_feed_1 6 rfl rfl)
theorem dX1_feed_31 : decode cX1_feed 31 = .ok (.dup, 1) := dk_89 (dk_at dksX1_feed_1 7 rfl rfl)
theorem dX1_feed_32 : decode cX1_feed 32 = .ok (.iconst 3, 1) := dk_6 (dk_at dksX1_feed_1 8 rfl rfl)
theorem dX1_feed_33 : decode cX1_feed 33 = .ok (.iload 4, 2) := dk_21 4 (dk_at dksX1_feed_1 9 rfl rfl)
theorem dX1_feed_35 : decode cX1_feed 35 = .ok (.iastore, 1) := dk_79 (dk_at dksX1_feed_1 11 rfl rfl)
theorem dX1_feed_36 : decode cX1_feed 36 = .ok (.dup, 1) := dk_89 (dk_at dksX1_feed_1 12 rfl rfl)
theorem dX1_feed_37 : decode cX1_feed 37 = .ok (.iconst 4, 1) := dk_7 (dk_at dksX1_feed_1 13 rfl rfl)
theorem dX1_feed_38 : decode cX1_feed 38 = .ok (.iload 5, 2) := dk_21 5 (dk_at dksX1_feed_1 14 rfl rfl)
theorem dX1_feed_40 : decode cX1_feed 40 = .ok (.iastore, 1) := dk_79 (dk_at dksX1_feed_1 16 rfl rfl)
theorem dX1_feed_41 : decode cX1_feed 41 = .ok (.invokevirtual 154, 3) := dk_182 0 154 (dk_at dksX1_feed_1 17 rfl rfl)
theorem dX1_feed_44 : decode cX1_feed 44 = .ok (.aload_n 0, 1) := dk_42 (dk_at dksX1_feed_1 20 rfl rfl)
theorem dX1_feed_45 : decode cX1_feed 45 = .ok (.getfield 151, 3) := dk_180 0 151 (dk_at dksX1_feed_1 21 rfl rfl)
theorem dX1_feed_48 : decode cX1_feed 48 = .ok (.ireturn, 1) := dk_172 (dk_at dksX1_feed_2 0 rfl rfl)
abbrev cX1_append : ByteArray := prog_1_method_14_code
def yX1_append : MethodName := ⟨RX1, "append", "([I)V"⟩
def dkwX1_append_2 : List UInt8 := [180, 0, 151, 4, 96, 181, 0, 151, 132, 6, 248, 167, 255, 223, 132, 4, 1, 167, 255, 201, 177]
abbrev dktX1_append_2 : List UInt8 := dkwX1_append_2 ++ []
def dkwX1_append_1 : List UInt8 := [21, 6, 155, 0, 34, 42, 180, 0, 69, 42, 180, 0, 151, 21, 5, 21, 6, 122, 145, 84, 42, 89]
abbrev dktX1_append_1 : List UInt8 := dkwX1_append_1 ++ dktX1_append_2
def dkwX1_append_0 : List UInt8 := [43, 77, 44, 190, 62, 3, 54, 4, 21, 4, 29, 162, 0, 55, 44, 21, 4, 46, 54, 5, 16, 24, 54, 6]
abbrev dktX1_append_0 : List UInt8 := dkwX1_append_0 ++ dktX1_append_1
theorem dksX1_append_0 : cX1_append.data.toList.drop 0 = dktX1_append_0 := by decide +kernel
theorem dksX1_append_1 : cX1_append.data.toList.drop 24 = dktX1_append_1 := dk_seg dksX1_append_0 24 rfl rfl
theorem dksX1_append_2 : cX1_append.data.toList.drop 46 = dktX1_append_2 := dk_seg dksX1_append_1 22 rfl rfl
theorem dX1_append_0 : decode cX1_append 0 = .ok (.aload_n 1, 1) := dk_43 (dk_at dksX1_append_0 0 rfl rfl)
theorem dX1_append_1 : decode cX1_append 1 = .ok (.astore_n 2, 1) := dk_77 (dk_at dksX1_append_0 1 rfl rfl)
theorem dX1_append_2 : decode cX1_append 2 = .ok (.aload_n 2, 1) := dk_44 (dk_at dksX1_append_0 2 rfl rfl)
theorem dX1_append_3 : decode cX1_append 3 = .ok (.arraylength, 1) := dk_190 (dk_at dksX1_append_0 3 rfl rfl)
theorem dX1_append_4 : decode cX1_append 4 = .ok (.istore_n 3, 1) := dk_62 (dk_at dksX1_append_0 4 rfl rfl)
theorem dX1_append_5 : decode cX1_append 5 = .ok (.iconst 0, 1) := dk_3 (dk_at dksX1_append_0 5 rfl rfl)
theorem dX1_append_6 : decode cX1_append 6 = .ok (.istore 4, 2) := dk_54 4 (dk_at dksX1_append_0 6 rfl rfl)
theorem dX1_append_8 : decode cX1_append 8 = .ok (.iload 4, 2) := dk_21 4 (dk_at dksX1_append_0 8 rfl rfl)
theorem dX1_append_10 : decode cX1_append 10 = .ok (.iload_n 3, 1) := dk_29 (dk_at dksX1_append_0 10 rfl rfl)
theorem dX1_append_11 : decode cX1_append 11 = .ok (.if_icmp .ge 55, 3) := dk_162 0 55 (dk_at dksX1_append_0 11 rfl rfl)
theorem dX1_append_14 : decode cX1_append 14 = .ok (.aload_n 2, 1) := dk_44 (dk_at dksX1_append_0 14 rfl rfl)
theorem dX1_append_15 : decode cX1_append 15 = .ok (.iload 4, 2) := dk_21 4 (dk_at dksX1_append_0 15 rfl rfl)
theorem dX1_append_17 : decode cX1_append 17 = .ok (.iaload, 1) := dk_46 (dk_at dksX1_append_0 17 rfl rfl)
theorem dX1_append_18 : decode cX1_append 18 = .ok (.istore 5, 2) := dk_54 5 (dk_at dksX1_append_0 18 rfl rfl)
theorem dX1_append_20 : decode cX1_append 20 = .ok (.bipush 24, 2) := dk_16 24 (dk_at dksX1_append_0 20 rfl rfl)
theorem dX1_append_22 : decode cX1_append 22 = .ok (.istore 6, 2) := dk_54 6 (dk_at dksX1_append_0 22 rfl rfl)
theorem dX1_append_24 : decode cX1_append 24 = .ok (.iload 6, 2) := dk_21 6 (dk_at dksX1_append_1 0 rfl rfl)
theorem dX1_append_26 : decode cX1_append 26 = .ok (.ifCond .lt 34, 3) := dk_155 0 34 (dk_at dksX1_append_1 2 rfl rfl)
theorem dX1_append_29 : decode cX1_append 29 = .ok (.aload_n 0, 1) := dk_42 (dk_at dksX1_append_1 5 rfl rfl)
theorem dX1_append_30 : decode cX1_append 30 = .ok (.getfield 69, 3) := dk_180 0 69 (dk_at dksX1_append_1 6 rfl rfl)
theorem dX1_append_33 : decode cX1_append 33 = .ok (.aload_n 0, 1) := dk_42 (dk_at dksX1_append_1 9 rfl rfl)
theorem dX1_append_34 : decode cX1_append 34 = .ok (.getfield 151, 3) := dk_180 0 151 (dk_at dksX1_append_1 10 rfl rfl)
theorem dX1_append_37 : decode cX1_append 37 = .ok (.iload 5, 2) := dk_21 5 (dk_at dksX1_append_1 13 rfl rfl)
theorem dX1_append_39 : decode cX1_append 39 = .ok (.iload 6, 2) := dk_21 6 (dk_at dksX1_append_1 15 rfl rfl)
theorem dX1_append_41 : decode cX1_append 41 = .ok (.ishr, 1) := dk_122 (dk_at dksX1_append_1 17 rfl rfl)
theorem dX1_append_42 : decode cX1_append 42 = .ok (.i2b, 1) := dk_145 (dk_at dksX1_append_1 18 rfl rfl)
theorem dX1_append_43 : decode cX1_append 43 = .ok (.bastore, 1) := dk_84 (dk_at dksX1_append_1 19 rfl rfl)
theorem dX1_append_44 : decode cX1_append 44 = .ok (.aload_n 0, 1) := dk_42 (dk_at dksX1_append_1 20 rfl rfl)
theorem dX1_append_45 : decode cX1_append 45 = .ok (.dup, 1) := dk_89 (dk_at dksX1_append_1 21 rfl rfl)
theorem dX1_append_46 : decode cX1_append 46 = .ok (.getfield 151, 3) := dk_180 0 151 (dk_at dksX1_append_2 0 rfl rfl)
theorem dX1_append_49 : decode cX1_append 49 = .ok (.iconst 1, 1) := dk_4 (dk_at dksX1_append_2 3 rfl rfl)
theorem dX1_append_50 : decode cX1_append 50 = .ok (.iadd, 1) := dk_96 (dk_at dksX1_append_2 4 rfl rfl)
theorem dX1_append_51 : decode cX1_append 51 = .ok (.putfield 151, 3) := dk_181 0 151 (dk_at dksX1_append_2 5 rfl rfl)
theorem dX1_append_54 : decode cX1_append 54 = .ok (.iinc 6 (-8), 3) := dk_132 6 248 (dk_at dksX1_append_2 8 rfl rfl)
theorem dX1_append_57 : decode cX1_append 57 = .ok (.goto (-33), 3) := dk_167 255 223 (dk_at dksX1_append_2 11 rfl rfl)
theorem dX1_append_60 : decode cX1_append 60 = .ok (.iinc 4 1, 3) := dk_132 4 1 (dk_at dksX1_append_2 14 rfl rfl)
theorem dX1_append_63 : decode cX1_append 63 = .ok (.goto (-55), 3) := dk_167 255 201 (dk_at dksX1_append_2 17 rfl rfl)
theorem dX1_append_66 : decode cX1_append 66 = .ok (.return_, 1) := dk_177 (dk_at dksX1_append_2 20 rfl rfl)
abbrev cX1_errorPosition : ByteArray := prog_1_method_16_code
def yX1_errorPosition : MethodName := ⟨RX1, "errorPosition", "()I"⟩
theorem dX1_errorPosition_0 : decode cX1_errorPosition 0 = .ok (.aload_n 0, 1) := by decide +kernel
theorem dX1_errorPosition_1 : decode cX1_errorPosition 1 = .ok (.getfield 73, 3) := by decide +kernel
theorem dX1_errorPosition_4 : decode cX1_errorPosition 4 = .ok (.ireturn, 1) := by decide +kernel
abbrev cX1_meanFare : ByteArray := prog_1_method_33_code
def yX1_meanFare : MethodName := ⟨RX1, "meanFare", "()D"⟩
def dkwX1_meanFare_3 : List UInt8 := [135, 111, 175]
abbrev dktX1_meanFare_3 : List UInt8 := dkwX1_meanFare_3 ++ []
def dkwX1_meanFare_2 : List UInt8 := [25, 4, 180, 1, 86, 96, 60, 132, 2, 1, 167, 255, 216, 28, 154, 0, 7, 14, 167, 0, 8, 27, 135, 28]
abbrev dktX1_meanFare_2 : List UInt8 := dkwX1_meanFare_2 ++ dktX1_meanFare_3
def dkwX1_meanFare_1 : List UInt8 := [153, 0, 37, 45, 185, 0, 200, 1, 0, 192, 0, 149, 58, 4, 25, 4, 180, 1, 57, 6, 160, 0, 14, 27]
abbrev dktX1_meanFare_1 : List UInt8 := dkwX1_meanFare_1 ++ dktX1_meanFare_2
def dkwX1_meanFare_0 : List UInt8 := [3, 60, 3, 61, 42, 180, 0, 87, 180, 0, 146, 185, 0, 190, 1, 0, 78, 45, 185, 0, 194, 1, 0]
abbrev dktX1_meanFare_0 : List UInt8 := dkwX1_meanFare_0 ++ dktX1_meanFare_1
theorem dksX1_meanFare_0 : cX1_meanFare.data.toList.drop 0 = dktX1_meanFare_0 := by decide +kernel
theorem dksX1_meanFare_1 : cX1_meanFare.data.toList.drop 23 = dktX1_meanFare_1 := dk_seg dksX1_meanFare_0 23 rfl rfl
theorem dksX1_meanFare_2 : cX1_meanFare.data.toList.drop 47 = dktX1_meanFare_2 := dk_seg dksX1_meanFare_1 24 rfl rfl
theorem dksX1_meanFare_3 : cX1_meanFare.data.toList.drop 71 = dktX1_meanFare_3 := dk_seg dksX1_meanFare_2 24 rfl rfl
theorem dX1_meanFare_0 : decode cX1_meanFare 0 = .ok (.iconst 0, 1) := dk_3 (dk_at dksX1_meanFare_0 0 rfl rfl)
theorem dX1_meanFare_1 : decode cX1_meanFare 1 = .ok (.istore_n 1, 1) := dk_60 (dk_at dksX1_meanFare_0 1 rfl rfl)
theorem dX1_meanFare_2 : decode cX1_meanFare 2 = .ok (.iconst 0, 1) := dk_3 (dk_at dksX1_meanFare_0 2 rfl rfl)
theorem dX1_meanFare_3 : decode cX1_meanFare 3 = .ok (.istore_n 2, 1) := dk_61 (dk_at dksX1_meanFare_0 3 rfl rfl)
theorem dX1_meanFare_4 : decode cX1_meanFare 4 = .ok (.aload_n 0, 1) := dk_42 (dk_at dksX1_meanFare_0 4 rfl rfl)
theorem dX1_meanFare_5 : decode cX1_meanFare 5 = .ok (.getfield 87, 3) := dk_180 0 87 (dk_at dksX1_meanFare_0 5 rfl rfl)
theorem dX1_meanFare_8 : decode cX1_meanFare 8 = .ok (.getfield 146, 3) := dk_180 0 146 (dk_at dksX1_meanFare_0 8 rfl rfl)
theorem dX1_meanFare_11 : decode cX1_meanFare 11 = .ok (.invokeinterface 190 1, 5) := by decide +kernel
theorem dX1_meanFare_16 : decode cX1_meanFare 16 = .ok (.astore_n 3, 1) := dk_78 (dk_at dksX1_meanFare_0 16 rfl rfl)
theorem dX1_meanFare_17 : decode cX1_meanFare 17 = .ok (.aload_n 3, 1) := dk_45 (dk_at dksX1_meanFare_0 17 rfl rfl)
theorem dX1_meanFare_18 : decode cX1_meanFare 18 = .ok (.invokeinterface 194 1, 5) := by decide +kernel
theorem dX1_meanFare_23 : decode cX1_meanFare 23 = .ok (.ifCond .eq 37, 3) := dk_153 0 37 (dk_at dksX1_meanFare_1 0 rfl rfl)
theorem dX1_meanFare_26 : decode cX1_meanFare 26 = .ok (.aload_n 3, 1) := dk_45 (dk_at dksX1_meanFare_1 3 rfl rfl)
theorem dX1_meanFare_27 : decode cX1_meanFare 27 = .ok (.invokeinterface 200 1, 5) := by decide +kernel
theorem dX1_meanFare_32 : decode cX1_meanFare 32 = .ok (.checkcast 149, 3) := dk_192 0 149 (dk_at dksX1_meanFare_1 9 rfl rfl)
theorem dX1_meanFare_35 : decode cX1_meanFare 35 = .ok (.astore 4, 2) := dk_58 4 (dk_at dksX1_meanFare_1 12 rfl rfl)
theorem dX1_meanFare_37 : decode cX1_meanFare 37 = .ok (.aload 4, 2) := dk_25 4 (dk_at dksX1_meanFare_1 14 rfl rfl)
theorem dX1_meanFare_39 : decode cX1_meanFare 39 = .ok (.getfield 313, 3) := dk_180 1 57 (dk_at dksX1_meanFare_1 16 rfl rfl)
theorem dX1_meanFare_42 : decode cX1_meanFare 42 = .ok (.iconst 3, 1) := dk_6 (dk_at dksX1_meanFare_1 19 rfl rfl)
theorem dX1_meanFare_43 : decode cX1_meanFare 43 = .ok (.if_icmp .ne 14, 3) := dk_160 0 14 (dk_at dksX1_meanFare_1 20 rfl rfl)
theorem dX1_meanFare_46 : decode cX1_meanFare 46 = .ok (.iload_n 1, 1) := dk_27 (dk_at dksX1_meanFare_1 23 rfl rfl)
theorem dX1_meanFare_47 : decode cX1_meanFare 47 = .ok (.aload 4, 2) := dk_25 4 (dk_at dksX1_meanFare_2 0 rfl rfl)
theorem dX1_meanFare_49 : decode cX1_meanFare 49 = .ok (.getfield 342, 3) := dk_180 1 86 (dk_at dksX1_meanFare_2 2 rfl rfl)
theorem dX1_meanFare_52 : decode cX1_meanFare 52 = .ok (.iadd, 1) := dk_96 (dk_at dksX1_meanFare_2 5 rfl rfl)
theorem dX1_meanFare_53 : decode cX1_meanFare 53 = .ok (.istore_n 1, 1) := dk_60 (dk_at dksX1_meanFare_2 6 rfl rfl)
theorem dX1_meanFare_54 : decode cX1_meanFare 54 = .ok (.iinc 2 1, 3) := dk_132 2 1 (dk_at dksX1_meanFare_2 7 rfl rfl)
theorem dX1_meanFare_57 : decode cX1_meanFare 57 = .ok (.goto (-40), 3) := dk_167 255 216 (dk_at dksX1_meanFare_2 10 rfl rfl)
theorem dX1_meanFare_60 : decode cX1_meanFare 60 = .ok (.iload_n 2, 1) := dk_28 (dk_at dksX1_meanFare_2 13 rfl rfl)
theorem dX1_meanFare_61 : decode cX1_meanFare 61 = .ok (.ifCond .ne 7, 3) := dk_154 0 7 (dk_at dksX1_meanFare_2 14 rfl rfl)
theorem dX1_meanFare_64 : decode cX1_meanFare 64 = .ok (.dconst 0, 1) := dk_14 (dk_at dksX1_meanFare_2 17 rfl rfl)
theorem dX1_meanFare_65 : decode cX1_meanFare 65 = .ok (.goto 8, 3) := dk_167 0 8 (dk_at dksX1_meanFare_2 18 rfl rfl)
theorem dX1_meanFare_68 : decode cX1_meanFare 68 = .ok (.iload_n 1, 1) := dk_27 (dk_at dksX1_meanFare_2 21 rfl rfl)
theorem dX1_meanFare_69 : decode cX1_meanFare 69 = .ok (.i2d, 1) := dk_135 (dk_at dksX1_meanFare_2 22 rfl rfl)
theorem dX1_meanFare_70 : decode cX1_meanFare 70 = .ok (.iload_n 2, 1) := dk_28 (dk_at dksX1_meanFare_2 23 rfl rfl)
theorem dX1_meanFare_71 : decode cX1_meanFare 71 = .ok (.i2d, 1) := dk_135 (dk_at dksX1_meanFare_3 0 rfl rfl)
theorem dX1_meanFare_72 : decode cX1_meanFare 72 = .ok (.ddiv, 1) := dk_111 (dk_at dksX1_meanFare_3 1 rfl rfl)
theorem dX1_meanFare_73 : decode cX1_meanFare 73 = .ok (.dreturn, 1) := dk_175 (dk_at dksX1_meanFare_3 2 rfl rfl)
abbrev cX1_requireExists : ByteArray := prog_1_method_2_code
def yX1_requireExists : MethodName := ⟨RX1, "requireExists", "(Z)V"⟩
def dkwX1_requireExists_0 : List UInt8 := [26, 154, 0, 11, 187, 0, 1, 89, 183, 0, 3, 191, 177]
abbrev dktX1_requireExists_0 : List UInt8 := dkwX1_requireExists_0 ++ []
theorem dksX1_requireExists_0 : cX1_requireExists.data.toList.drop 0 = dktX1_requireExists_0 := by decide +kernel
theorem dX1_requireExists_0 : decode cX1_requireExists 0 = .ok (.iload_n 0, 1) := dk_26 (dk_at dksX1_requireExists_0 0 rfl rfl)
theorem dX1_requireExists_1 : decode cX1_requireExists 1 = .ok (.ifCond .ne 11, 3) := dk_154 0 11 (dk_at dksX1_requireExists_0 1 rfl rfl)
theorem dX1_requireExists_4 : decode cX1_requireExists 4 = .ok (.new 1, 3) := dk_187 0 1 (dk_at dksX1_requireExists_0 4 rfl rfl)
theorem dX1_requireExists_7 : decode cX1_requireExists 7 = .ok (.dup, 1) := dk_89 (dk_at dksX1_requireExists_0 7 rfl rfl)
theorem dX1_requireExists_8 : decode cX1_requireExists 8 = .ok (.invokespecial 3, 3) := dk_183 0 3 (dk_at dksX1_requireExists_0 8 rfl rfl)
theorem dX1_requireExists_11 : decode cX1_requireExists 11 = .ok (.athrow, 1) := dk_191 (dk_at dksX1_requireExists_0 11 rfl rfl)
theorem dX1_requireExists_12 : decode cX1_requireExists 12 = .ok (.return_, 1) := dk_177 (dk_at dksX1_requireExists_0 12 rfl rfl)
abbrev cX1_sharedPart : ByteArray := prog_1_method_34_code
def yX1_sharedPart : MethodName := ⟨RX1, "sharedPart", "()F"⟩
def dkwX1_sharedPart_2 : List UInt8 := [25, 4, 180, 1, 165, 96, 61, 167, 255, 220, 28, 154, 0, 7, 11, 167, 0, 8, 27, 134, 28, 134, 110, 174]
abbrev dktX1_sharedPart_2 : List UInt8 := dkwX1_sharedPart_2 ++ []
def dkwX1_sharedPart_1 : List UInt8 := [153, 0, 33, 45, 185, 0, 200, 1, 0, 192, 0, 144, 58, 4, 27, 25, 4, 180, 1, 162, 96, 60, 28]
abbrev dktX1_sharedPart_1 : List UInt8 := dkwX1_sharedPart_1 ++ dktX1_sharedPart_2
def dkwX1_sharedPart_0 : List UInt8 := [3, 60, 3, 61, 42, 180, 0, 87, 180, 0, 133, 185, 0, 190, 1, 0, 78, 45, 185, 0, 194, 1, 0]
abbrev dktX1_sharedPart_0 : List UInt8 := dkwX1_sharedPart_0 ++ dktX1_sharedPart_1
theorem dksX1_sharedPart_0 : cX1_sharedPart.data.toList.drop 0 = dktX1_sharedPart_0 := by decide +kernel
theorem dksX1_sharedPart_1 : cX1_sharedPart.data.toList.drop 23 = dktX1_sharedPart_1 := dk_seg dksX1_sharedPart_0 23 rfl rfl
theorem dksX1_sharedPart_2 : cX1_sharedPart.data.toList.drop 46 = dktX1_sharedPart_2 := dk_seg dksX1_sharedPart_1 23 rfl rfl
theorem dX1_sharedPart_0 : decode cX1_sharedPart 0 = .ok (.iconst 0, 1) := dk_3 (dk_at dksX1_sharedPart_0 0 rfl rfl)
theorem dX1_sharedPart_1 : decode cX1_sharedPart 1 = .ok (.istore_n 1, 1) := dk_60 (dk_at dksX1_sharedPart_0 1 rfl rfl)
theorem dX1_sharedPart_2 : decode cX1_sharedPart 2 = .ok (.iconst 0, 1) := dk_3 (dk_at dksX1_sharedPart_0 2 rfl rfl)
theorem dX1_sharedPart_3 : decode cX1_sharedPart 3 = .ok (.istore_n 2, 1) := dk_61 (dk_at dksX1_sharedPart_0 3 rfl rfl)
theorem dX1_sharedPart_4 : decode cX1_sharedPart 4 = .ok (.aload_n 0, 1) := dk_42 (dk_at dksX1_sharedPart_0 4 rfl rfl)
theorem dX1_sharedPart_5 : decode cX1_sharedPart 5 = .ok (.getfield 87, 3) := dk_180 0 87 (dk_at dksX1_sharedPart_0 5 rfl rfl)
theorem dX1_sharedPart_8 : decode cX1_sharedPart 8 = .ok (.getfield 133, 3) := dk_180 0 133 (dk_at dksX1_sharedPart_0 8 rfl rfl)
theorem dX1_sharedPart_11 : decode cX1_sharedPart 11 = .ok (.invokeinterface 190 1, 5) := by decide +kernel
theorem dX1_sharedPart_16 : decode cX1_sharedPart 16 = .ok (.astore_n 3, 1) := dk_78 (dk_at dksX1_sharedPart_0 16 rfl rfl)
theorem dX1_sharedPart_17 : decode cX1_sharedPart 17 = .ok (.aload_n 3, 1) := dk_45 (dk_at dksX1_sharedPart_0 17 rfl rfl)
theorem dX1_sharedPart_18 : decode cX1_sharedPart 18 = .ok (.invokeinterface 194 1, 5) := by decide +kernel
theorem dX1_sharedPart_23 : decode cX1_sharedPart 23 = .ok (.ifCond .eq 33, 3) := dk_153 0 33 (dk_at dksX1_sharedPart_1 0 rfl rfl)
theorem dX1_sharedPart_26 : decode cX1_sharedPart 26 = .ok (.aload_n 3, 1) := dk_45 (dk_at dksX1_sharedPart_1 3 rfl rfl)
theorem dX1_sharedPart_27 : decode cX1_sharedPart 27 = .ok (.invokeinterface 200 1, 5) := by decide +kernel
theorem dX1_sharedPart_32 : decode cX1_sharedPart 32 = .ok (.checkcast 144, 3) := dk_192 0 144 (dk_at dksX1_sharedPart_1 9 rfl rfl)
theorem dX1_sharedPart_35 : decode cX1_sharedPart 35 = .ok (.astore 4, 2) := dk_58 4 (dk_at dksX1_sharedPart_1 12 rfl rfl)
theorem dX1_sharedPart_37 : decode cX1_sharedPart 37 = .ok (.iload_n 1, 1) := dk_27 (dk_at dksX1_sharedPart_1 14 rfl rfl)
theorem dX1_sharedPart_38 : decode cX1_sharedPart 38 = .ok (.aload 4, 2) := dk_25 4 (dk_at dksX1_sharedPart_1 15 rfl rfl)
theorem dX1_sharedPart_40 : decode cX1_sharedPart 40 = .ok (.getfield 418, 3) := dk_180 1 162 (dk_at dksX1_sharedPart_1 17 rfl rfl)
theorem dX1_sharedPart_43 : decode cX1_sharedPart 43 = .ok (.iadd, 1) := dk_96 (dk_at dksX1_sharedPart_1 20 rfl rfl)
theorem dX1_sharedPart_44 : decode cX1_sharedPart 44 = .ok (.istore_n 1, 1) := dk_60 (dk_at dksX1_sharedPart_1 21 rfl rfl)
theorem dX1_sharedPart_45 : decode cX1_sharedPart 45 = .ok (.iload_n 2, 1) := dk_28 (dk_at dksX1_sharedPart_1 22 rfl rfl)
theorem dX1_sharedPart_46 : decode cX1_sharedPart 46 = .ok (.aload 4, 2) := dk_25 4 (dk_at dksX1_sharedPart_2 0 rfl rfl)
theorem dX1_sharedPart_48 : decode cX1_sharedPart 48 = .ok (.getfield 421, 3) := dk_180 1 165 (dk_at dksX1_sharedPart_2 2 rfl rfl)
theorem dX1_sharedPart_51 : decode cX1_sharedPart 51 = .ok (.iadd, 1) := dk_96 (dk_at dksX1_sharedPart_2 5 rfl rfl)
theorem dX1_sharedPart_52 : decode cX1_sharedPart 52 = .ok (.istore_n 2, 1) := dk_61 (dk_at dksX1_sharedPart_2 6 rfl rfl)
theorem dX1_sharedPart_53 : decode cX1_sharedPart 53 = .ok (.goto (-36), 3) := dk_167 255 220 (dk_at dksX1_sharedPart_2 7 rfl rfl)
theorem dX1_sharedPart_56 : decode cX1_sharedPart 56 = .ok (.iload_n 2, 1) := dk_28 (dk_at dksX1_sharedPart_2 10 rfl rfl)
theorem dX1_sharedPart_57 : decode cX1_sharedPart 57 = .ok (.ifCond .ne 7, 3) := dk_154 0 7 (dk_at dksX1_sharedPart_2 11 rfl rfl)
theorem dX1_sharedPart_60 : decode cX1_sharedPart 60 = .ok (.fconst 0, 1) := dk_11 (dk_at dksX1_sharedPart_2 14 rfl rfl)
theorem dX1_sharedPart_61 : decode cX1_sharedPart 61 = .ok (.goto 8, 3) := dk_167 0 8 (dk_at dksX1_sharedPart_2 15 rfl rfl)
theorem dX1_sharedPart_64 : decode cX1_sharedPart 64 = .ok (.iload_n 1, 1) := dk_27 (dk_at dksX1_sharedPart_2 18 rfl rfl)
theorem dX1_sharedPart_65 : decode cX1_sharedPart 65 = .ok (.i2f, 1) := dk_134 (dk_at dksX1_sharedPart_2 19 rfl rfl)
theorem dX1_sharedPart_66 : decode cX1_sharedPart 66 = .ok (.iload_n 2, 1) := dk_28 (dk_at dksX1_sharedPart_2 20 rfl rfl)
theorem dX1_sharedPart_67 : decode cX1_sharedPart 67 = .ok (.i2f, 1) := dk_134 (dk_at dksX1_sharedPart_2 21 rfl rfl)
theorem dX1_sharedPart_68 : decode cX1_sharedPart 68 = .ok (.fdiv, 1) := dk_110 (dk_at dksX1_sharedPart_2 22 rfl rfl)
theorem dX1_sharedPart_69 : decode cX1_sharedPart 69 = .ok (.freturn, 1) := dk_174 (dk_at dksX1_sharedPart_2 23 rfl rfl)
abbrev cX1_formattedByte : ByteArray := prog_1_method_47_code
def yX1_formattedByte : MethodName := ⟨RX1, "formattedByte", "(I)I"⟩
def dkwX1_formattedByte_1 : List UInt8 := [182, 2, 13, 167, 0, 4, 2, 172]
abbrev dktX1_formattedByte_1 : List UInt8 := dkwX1_formattedByte_1 ++ []
def dkwX1_formattedByte_0 : List UInt8 := [27, 133, 9, 42, 180, 0, 99, 182, 2, 12, 4, 100, 133, 184, 0, 125, 153, 0, 14, 42, 180, 0, 99, 27]
abbrev dktX1_formattedByte_0 : List UInt8 := dkwX1_formattedByte_0 ++ dktX1_formattedByte_1
theorem dksX1_formattedByte_0 : cX1_formattedByte.data.toList.drop 0 = dktX1_formattedByte_0 := by decide +kernel
theorem dksX1_formattedByte_1 : cX1_formattedByte.data.toList.drop 24 = dktX1_formattedByte_1 := dk_seg dksX1_formattedByte_0 24 rfl rfl
theorem dX1_formattedByte_0 : decode cX1_formattedByte 0 = .ok (.iload_n 1, 1) := dk_27 (dk_at dksX1_formattedByte_0 0 rfl rfl)
theorem dX1_formattedByte_1 : decode cX1_formattedByte 1 = .ok (.i2l, 1) := dk_133 (dk_at dksX1_formattedByte_0 1 rfl rfl)
theorem dX1_formattedByte_2 : decode cX1_formattedByte 2 = .ok (.lconst 0, 1) := dk_9 (dk_at dksX1_formattedByte_0 2 rfl rfl)
theorem dX1_formattedByte_3 : decode cX1_formattedByte 3 = .ok (.aload_n 0, 1) := dk_42 (dk_at dksX1_formattedByte_0 3 rfl rfl)
theorem dX1_formattedByte_4 : decode cX1_formattedByte 4 = .ok (.getfield 99, 3) := dk_180 0 99 (dk_at dksX1_formattedByte_0 4 rfl rfl)
theorem dX1_formattedByte_7 : decode cX1_formattedByte 7 = .ok (.invokevirtual 524, 3) := dk_182 2 12 (dk_at dksX1_formattedByte_0 7 rfl rfl)
theorem dX1_formattedByte_10 : decode cX1_formattedByte 10 = .ok (.iconst 1, 1) := dk_4 (dk_at dksX1_formattedByte_0 10 rfl rfl)
theorem dX1_formattedByte_11 : decode cX1_formattedByte 11 = .ok (.isub, 1) := dk_100 (dk_at dksX1_formattedByte_0 11 rfl rfl)
theorem dX1_formattedByte_12 : decode cX1_formattedByte 12 = .ok (.i2l, 1) := dk_133 (dk_at dksX1_formattedByte_0 12 rfl rfl)
theorem dX1_formattedByte_13 : decode cX1_formattedByte 13 = .ok (.invokestatic 125, 3) := dk_184 0 125 (dk_at dksX1_formattedByte_0 13 rfl rfl)
theorem dX1_formattedByte_16 : decode cX1_formattedByte 16 = .ok (.ifCond .eq 14, 3) := dk_153 0 14 (dk_at dksX1_formattedByte_0 16 rfl rfl)
theorem dX1_formattedByte_19 : decode cX1_formattedByte 19 = .ok (.aload_n 0, 1) := dk_42 (dk_at dksX1_formattedByte_0 19 rfl rfl)
theorem dX1_formattedByte_20 : decode cX1_formattedByte 20 = .ok (.getfield 99, 3) := dk_180 0 99 (dk_at dksX1_formattedByte_0 20 rfl rfl)
theorem dX1_formattedByte_23 : decode cX1_formattedByte 23 = .ok (.iload_n 1, 1) := dk_27 (dk_at dksX1_formattedByte_0 23 rfl rfl)
theorem dX1_formattedByte_24 : decode cX1_formattedByte 24 = .ok (.invokevirtual 525, 3) := dk_182 2 13 (dk_at dksX1_formattedByte_1 0 rfl rfl)
theorem dX1_formattedByte_27 : decode cX1_formattedByte 27 = .ok (.goto 4, 3) := dk_167 0 4 (dk_at dksX1_formattedByte_1 3 rfl rfl)
theorem dX1_formattedByte_30 : decode cX1_formattedByte 30 = .ok (.iconst (-1), 1) := dk_2 (dk_at dksX1_formattedByte_1 6 rfl rfl)
theorem dX1_formattedByte_31 : decode cX1_formattedByte 31 = .ok (.ireturn, 1) := dk_172 (dk_at dksX1_formattedByte_1 7 rfl rfl)
abbrev cX1_inRange : ByteArray := prog_1_method_1_code
def yX1_inRange : MethodName := ⟨RX1, "inRange", "(JJJ)Z"⟩
def dkwX1_inRange_0 : List UInt8 := [32, 30, 148, 157, 0, 14, 30, 22, 4, 148, 157, 0, 7, 4, 167, 0, 4, 3, 172]
abbrev dktX1_inRange_0 : List UInt8 := dkwX1_inRange_0 ++ []
theorem dksX1_inRange_0 : cX1_inRange.data.toList.drop 0 = dktX1_inRange_0 := by decide +kernel
theorem dX1_inRange_0 : decode cX1_inRange 0 = .ok (.lload_n 2, 1) := dk_32 (dk_at dksX1_inRange_0 0 rfl rfl)
theorem dX1_inRange_1 : decode cX1_inRange 1 = .ok (.lload_n 0, 1) := dk_30 (dk_at dksX1_inRange_0 1 rfl rfl)
theorem dX1_inRange_2 : decode cX1_inRange 2 = .ok (.lcmp, 1) := dk_148 (dk_at dksX1_inRange_0 2 rfl rfl)
theorem dX1_inRange_3 : decode cX1_inRange 3 = .ok (.ifCond .gt 14, 3) := dk_157 0 14 (dk_at dksX1_inRange_0 3 rfl rfl)
theorem dX1_inRange_6 : decode cX1_inRange 6 = .ok (.lload_n 0, 1) := dk_30 (dk_at dksX1_inRange_0 6 rfl rfl)
theorem dX1_inRange_7 : decode cX1_inRange 7 = .ok (.lload 4, 2) := dk_22 4 (dk_at dksX1_inRange_0 7 rfl rfl)
theorem dX1_inRange_9 : decode cX1_inRange 9 = .ok (.lcmp, 1) := dk_148 (dk_at dksX1_inRange_0 9 rfl rfl)
theorem dX1_inRange_10 : decode cX1_inRange 10 = .ok (.ifCond .gt 7, 3) := dk_157 0 7 (dk_at dksX1_inRange_0 10 rfl rfl)
theorem dX1_inRange_13 : decode cX1_inRange 13 = .ok (.iconst 1, 1) := dk_4 (dk_at dksX1_inRange_0 13 rfl rfl)
theorem dX1_inRange_14 : decode cX1_inRange 14 = .ok (.goto 4, 3) := dk_167 0 4 (dk_at dksX1_inRange_0 14 rfl rfl)
theorem dX1_inRange_17 : decode cX1_inRange 17 = .ok (.iconst 0, 1) := dk_3 (dk_at dksX1_inRange_0 17 rfl rfl)
theorem dX1_inRange_18 : decode cX1_inRange 18 = .ok (.ireturn, 1) := dk_172 (dk_at dksX1_inRange_0 18 rfl rfl)
abbrev cX1_undoCount : ByteArray := prog_1_method_48_code
def yX1_undoCount : MethodName := ⟨RX1, "undoCount", "()I"⟩
def dkwX1_undoCount_0 : List UInt8 := [42, 180, 0, 93, 182, 0, 103, 172]
abbrev dktX1_undoCount_0 : List UInt8 := dkwX1_undoCount_0 ++ []
theorem dksX1_undoCount_0 : cX1_undoCount.data.toList.drop 0 = dktX1_undoCount_0 := by decide +kernel
theorem dX1_undoCount_0 : decode cX1_undoCount 0 = .ok (.aload_n 0, 1) := dk_42 (dk_at dksX1_undoCount_0 0 rfl rfl)
theorem dX1_undoCount_1 : decode cX1_undoCount 1 = .ok (.getfield 93, 3) := dk_180 0 93 (dk_at dksX1_undoCount_0 1 rfl rfl)
theorem dX1_undoCount_4 : decode cX1_undoCount 4 = .ok (.invokevirtual 103, 3) := dk_182 0 103 (dk_at dksX1_undoCount_0 4 rfl rfl)
theorem dX1_undoCount_7 : decode cX1_undoCount 7 = .ok (.ireturn, 1) := dk_172 (dk_at dksX1_undoCount_0 7 rfl rfl)
abbrev cX1_undo : ByteArray := prog_1_method_49_code
def yX1_undo : MethodName := ⟨RX1, "undo", "()I"⟩
def dkwX1_undo_1 : List UInt8 := [181, 0, 87, 42, 180, 0, 93, 182, 0, 103, 172]
abbrev dktX1_undo_1 : List UInt8 := dkwX1_undo_1 ++ []
def dkwX1_undo_0 : List UInt8 := [42, 180, 0, 93, 182, 2, 17, 153, 0, 5, 2, 172, 42, 42, 180, 0, 93, 182, 2, 18, 192, 0, 77]
abbrev dktX1_undo_0 : List UInt8 := dkwX1_undo_0 ++ dktX1_undo_1
theorem dksX1_undo_0 : cX1_undo.data.toList.drop 0 = dktX1_undo_0 := by decide +kernel
theorem dksX1_undo_1 : cX1_undo.data.toList.drop 23 = dktX1_undo_1 := dk_seg dksX1_undo_0 23 rfl rfl
theorem dX1_undo_0 : decode cX1_undo 0 = .ok (.aload_n 0, 1) := dk_42 (dk_at dksX1_undo_0 0 rfl rfl)
theorem dX1_undo_1 : decode cX1_undo 1 = .ok (.getfield 93, 3) := dk_180 0 93 (dk_at dksX1_undo_0 1 rfl rfl)
theorem dX1_undo_4 : decode cX1_undo 4 = .ok (.invokevirtual 529, 3) := dk_182 2 17 (dk_at dksX1_undo_0 4 rfl rfl)
theorem dX1_undo_7 : decode cX1_undo 7 = .ok (.ifCond .eq 5, 3) := dk_153 0 5 (dk_at dksX1_undo_0 7 rfl rfl)
theorem dX1_undo_10 : decode cX1_undo 10 = .ok (.iconst (-1), 1) := dk_2 (dk_at dksX1_undo_0 10 rfl rfl)
theorem dX1_undo_11 : decode cX1_undo 11 = .ok (.ireturn, 1) := dk_172 (dk_at dksX1_undo_0 11 rfl rfl)
theorem dX1_undo_12 : decode cX1_undo 12 = .ok (.aload_n 0, 1) := dk_42 (dk_at dksX1_undo_0 12 rfl rfl)
theorem dX1_undo_13 : decode cX1_undo 13 = .ok (.aload_n 0, 1) := dk_42 (dk_at dksX1_undo_0 13 rfl rfl)
theorem dX1_undo_14 : decode cX1_undo 14 = .ok (.getfield 93, 3) := dk_180 0 93 (dk_at dksX1_undo_0 14 rfl rfl)
theorem dX1_undo_17 : decode cX1_undo 17 = .ok (.invokevirtual 530, 3) := dk_182 2 18 (dk_at dksX1_undo_0 17 rfl rfl)
theorem dX1_undo_20 : decode cX1_undo 20 = .ok (.checkcast 77, 3) := dk_192 0 77 (dk_at dksX1_undo_0 20 rfl rfl)
theorem dX1_undo_23 : decode cX1_undo 23 = .ok (.putfield 87, 3) := dk_181 0 87 (dk_at dksX1_undo_1 0 rfl rfl)
theorem dX1_undo_26 : decode cX1_undo 26 = .ok (.aload_n 0, 1) := dk_42 (dk_at dksX1_undo_1 3 rfl rfl)
theorem dX1_undo_27 : decode cX1_undo 27 = .ok (.getfield 93, 3) := dk_180 0 93 (dk_at dksX1_undo_1 4 rfl rfl)
theorem dX1_undo_30 : decode cX1_undo 30 = .ok (.invokevirtual 103, 3) := dk_182 0 103 (dk_at dksX1_undo_1 7 rfl rfl)
theorem dX1_undo_33 : decode cX1_undo 33 = .ok (.ireturn, 1) := dk_172 (dk_at dksX1_undo_1 10 rfl rfl)
abbrev cX1_saveSnapshot : ByteArray := prog_1_method_50_code
def yX1_saveSnapshot : MethodName := ⟨RX1, "saveSnapshot", "()V"⟩
def dkwX1_saveSnapshot_0 : List UInt8 := [42, 42, 180, 0, 87, 182, 0, 110, 181, 0, 187, 177]
abbrev dktX1_saveSnapshot_0 : List UInt8 := dkwX1_saveSnapshot_0 ++ []
theorem dksX1_saveSnapshot_0 : cX1_saveSnapshot.data.toList.drop 0 = dktX1_saveSnapshot_0 := by decide +kernel
theorem dX1_saveSnapshot_0 : decode cX1_saveSnapshot 0 = .ok (.aload_n 0, 1) := dk_42 (dk_at dksX1_saveSnapshot_0 0 rfl rfl)
theorem dX1_saveSnapshot_1 : decode cX1_saveSnapshot 1 = .ok (.aload_n 0, 1) := dk_42 (dk_at dksX1_saveSnapshot_0 1 rfl rfl)
theorem dX1_saveSnapshot_2 : decode cX1_saveSnapshot 2 = .ok (.getfield 87, 3) := dk_180 0 87 (dk_at dksX1_saveSnapshot_0 2 rfl rfl)
theorem dX1_saveSnapshot_5 : decode cX1_saveSnapshot 5 = .ok (.invokevirtual 110, 3) := dk_182 0 110 (dk_at dksX1_saveSnapshot_0 5 rfl rfl)
theorem dX1_saveSnapshot_8 : decode cX1_saveSnapshot 8 = .ok (.putfield 187, 3) := dk_181 0 187 (dk_at dksX1_saveSnapshot_0 8 rfl rfl)
theorem dX1_saveSnapshot_11 : decode cX1_saveSnapshot 11 = .ok (.return_, 1) := dk_177 (dk_at dksX1_saveSnapshot_0 11 rfl rfl)
abbrev cX1_restoreSnapshot : ByteArray := prog_1_method_51_code
def yX1_restoreSnapshot : MethodName := ⟨RX1, "restoreSnapshot", "()Z"⟩
def dkwX1_restoreSnapshot_1 : List UInt8 := [182, 0, 184, 4, 172]
abbrev dktX1_restoreSnapshot_1 : List UInt8 := dkwX1_restoreSnapshot_1 ++ []
def dkwX1_restoreSnapshot_0 : List UInt8 := [42, 180, 0, 187, 199, 0, 5, 3, 172, 42, 42, 180, 0, 187, 182, 0, 110, 181, 0, 87, 42, 180, 0, 93]
abbrev dktX1_restoreSnapshot_0 : List UInt8 := dkwX1_restoreSnapshot_0 ++ dktX1_restoreSnapshot_1
theorem dksX1_restoreSnapshot_0 : cX1_restoreSnapshot.data.toList.drop 0 = dktX1_restoreSnapshot_0 := by decide +kernel
theorem dksX1_restoreSnapshot_1 : cX1_restoreSnapshot.data.toList.drop 24 = dktX1_restoreSnapshot_1 := dk_seg dksX1_restoreSnapshot_0 24 rfl rfl
theorem dX1_restoreSnapshot_0 : decode cX1_restoreSnapshot 0 = .ok (.aload_n 0, 1) := dk_42 (dk_at dksX1_restoreSnapshot_0 0 rfl rfl)
theorem dX1_restoreSnapshot_1 : decode cX1_restoreSnapshot 1 = .ok (.getfield 187, 3) := dk_180 0 187 (dk_at dksX1_restoreSnapshot_0 1 rfl rfl)
theorem dX1_restoreSnapshot_4 : decode cX1_restoreSnapshot 4 = .ok (.ifnonnull 5, 3) := dk_199 0 5 (dk_at dksX1_restoreSnapshot_0 4 rfl rfl)
theorem dX1_restoreSnapshot_7 : decode cX1_restoreSnapshot 7 = .ok (.iconst 0, 1) := dk_3 (dk_at dksX1_restoreSnapshot_0 7 rfl rfl)
theorem dX1_restoreSnapshot_8 : decode cX1_restoreSnapshot 8 = .ok (.ireturn, 1) := dk_172 (dk_at dksX1_restoreSnapshot_0 8 rfl rfl)
theorem dX1_restoreSnapshot_9 : decode cX1_restoreSnapshot 9 = .ok (.aload_n 0, 1) := dk_42 (dk_at dksX1_restoreSnapshot_0 9 rfl rfl)
theorem dX1_restoreSnapshot_10 : decode cX1_restoreSnapshot 10 = .ok (.aload_n 0, 1) := dk_42 (dk_at dksX1_restoreSnapshot_0 10 rfl rfl)
theorem dX1_restoreSnapshot_11 : decode cX1_restoreSnapshot 11 = .ok (.getfield 187, 3) := dk_180 0 187 (dk_at dksX1_restoreSnapshot_0 11 rfl rfl)
theorem dX1_restoreSnapshot_14 : decode cX1_restoreSnapshot 14 = .ok (.invokevirtual 110, 3) := dk_182 0 110 (dk_at dksX1_restoreSnapshot_0 14 rfl rfl)
theorem dX1_restoreSnapshot_17 : decode cX1_restoreSnapshot 17 = .ok (.putfield 87, 3) := dk_181 0 87 (dk_at dksX1_restoreSnapshot_0 17 rfl rfl)
theorem dX1_restoreSnapshot_20 : decode cX1_restoreSnapshot 20 = .ok (.aload_n 0, 1) := dk_42 (dk_at dksX1_restoreSnapshot_0 20 rfl rfl)
theorem dX1_restoreSnapshot_21 : decode cX1_restoreSnapshot 21 = .ok (.getfield 93, 3) := dk_180 0 93 (dk_at dksX1_restoreSnapshot_0 21 rfl rfl)
theorem dX1_restoreSnapshot_24 : decode cX1_restoreSnapshot 24 = .ok (.invokevirtual 184, 3) := dk_182 0 184 (dk_at dksX1_restoreSnapshot_1 0 rfl rfl)
theorem dX1_restoreSnapshot_27 : decode cX1_restoreSnapshot 27 = .ok (.iconst 1, 1) := dk_4 (dk_at dksX1_restoreSnapshot_1 3 rfl rfl)
theorem dX1_restoreSnapshot_28 : decode cX1_restoreSnapshot 28 = .ok (.ireturn, 1) := dk_172 (dk_at dksX1_restoreSnapshot_1 4 rfl rfl)
abbrev cX1_load : ByteArray := prog_1_method_15_code
def yX1_load : MethodName := ⟨RX1, "load", "(I)I"⟩
def dkwX1_load_4 : List UInt8 := [182, 0, 184, 42, 1, 181, 0, 187, 42, 180, 0, 87, 180, 0, 133, 185, 0, 137, 1, 0, 172]
abbrev dktX1_load_4 : List UInt8 := dkwX1_load_4 ++ []
def dkwX1_load_3 : List UInt8 := [181, 0, 151, 29, 172, 58, 4, 42, 3, 181, 0, 151, 25, 4, 191, 42, 2, 181, 0, 73, 42, 180, 0, 93]
abbrev dktX1_load_3 : List UInt8 := dkwX1_load_3 ++ dktX1_load_4
def dkwX1_load_2 : List UInt8 := [167, 0, 37, 77, 42, 44, 180, 0, 178, 181, 0, 73, 16, 246, 44, 182, 0, 181, 100, 62, 42, 3]
abbrev dktX1_load_2 : List UInt8 := dkwX1_load_2 ++ dktX1_load_3
def dkwX1_load_1 : List UInt8 := [180, 0, 69, 27, 18, 165, 183, 0, 167, 183, 0, 170, 182, 0, 173, 181, 0, 87, 42, 3, 181, 0, 151]
abbrev dktX1_load_1 : List UInt8 := dkwX1_load_1 ++ dktX1_load_2
def dkwX1_load_0 : List UInt8 := [27, 133, 9, 42, 180, 0, 151, 133, 184, 0, 125, 184, 0, 158, 42, 187, 0, 161, 89, 187, 0, 163, 89, 42]
abbrev dktX1_load_0 : List UInt8 := dkwX1_load_0 ++ dktX1_load_1
theorem dksX1_load_0 : cX1_load.data.toList.drop 0 = dktX1_load_0 := by decide +kernel
theorem dksX1_load_1 : cX1_load.data.toList.drop 24 = dktX1_load_1 := dk_seg dksX1_load_0 24 rfl rfl
theorem dksX1_load_2 : cX1_load.data.toList.drop 47 = dktX1_load_2 := dk_seg dksX1_load_1 23 rfl rfl
theorem dksX1_load_3 : cX1_load.data.toList.drop 69 = dktX1_load_3 := dk_seg dksX1_load_2 22 rfl rfl
theorem dksX1_load_4 : cX1_load.data.toList.drop 93 = dktX1_load_4 := dk_seg dksX1_load_3 24 rfl rfl
theorem dX1_load_0 : decode cX1_load 0 = .ok (.iload_n 1, 1) := dk_27 (dk_at dksX1_load_0 0 rfl rfl)
theorem dX1_load_1 : decode cX1_load 1 = .ok (.i2l, 1) := dk_133 (dk_at dksX1_load_0 1 rfl rfl)
theorem dX1_load_2 : decode cX1_load 2 = .ok (.lconst 0, 1) := dk_9 (dk_at dksX1_load_0 2 rfl rfl)
theorem dX1_load_3 : decode cX1_load 3 = .ok (.aload_n 0, 1) := dk_42 (dk_at dksX1_load_0 3 rfl rfl)
theorem dX1_load_4 : decode cX1_load 4 = .ok (.getfield 151, 3) := dk_180 0 151 (dk_at dksX1_load_0 4 rfl rfl)
theorem dX1_load_7 : decode cX1_load 7 = .ok (.i2l, 1) := dk_133 (dk_at dksX1_load_0 7 rfl rfl)
theorem dX1_load_8 : decode cX1_load 8 = .ok (.invokestatic 125, 3) := dk_184 0 125 (dk_at dksX1_load_0 8 rfl rfl)
theorem dX1_load_11 : decode cX1_load 11 = .ok (.invokestatic 158, 3) := dk_184 0 158 (dk_at dksX1_load_0 11 rfl rfl)
theorem dX1_load_14 : decode cX1_load 14 = .ok (.aload_n 0, 1) := dk_42 (dk_at dksX1_load_0 14 rfl rfl)
theorem dX1_load_15 : decode cX1_load 15 = .ok (.new 161, 3) := dk_187 0 161 (dk_at dksX1_load_0 15 rfl rfl)
theorem dX1_load_18 : decode cX1_load 18 = .ok (.dup, 1) := dk_89 (dk_at dksX1_load_0 18 rfl rfl)
theorem dX1_load_19 : decode cX1_load 19 = .ok (.new 163, 3) := dk_187 0 163 (dk_at dksX1_load_0 19 rfl rfl)
theorem dX1_load_22 : decode cX1_load 22 = .ok (.dup, 1) := dk_89 (dk_at dksX1_load_0 22 rfl rfl)
theorem dX1_load_23 : decode cX1_load 23 = .ok (.aload_n 0, 1) := dk_42 (dk_at dksX1_load_0 23 rfl rfl)
theorem dX1_load_24 : decode cX1_load 24 = .ok (.getfield 69, 3) := dk_180 0 69 (dk_at dksX1_load_1 0 rfl rfl)
theorem dX1_load_27 : decode cX1_load 27 = .ok (.iload_n 1, 1) := dk_27 (dk_at dksX1_load_1 3 rfl rfl)
theorem dX1_load_28 : decode cX1_load 28 = .ok (.ldc 165, 2) := dk_18 165 (dk_at dksX1_load_1 4 rfl rfl)
theorem dX1_load_30 : decode cX1_load 30 = .ok (.invokespecial 167, 3) := dk_183 0 167 (dk_at dksX1_load_1 6 rfl rfl)
theorem dX1_load_33 : decode cX1_load 33 = .ok (.invokespecial 170, 3) := dk_183 0 170 (dk_at dksX1_load_1 9 rfl rfl)
theorem dX1_load_36 : decode cX1_load 36 = .ok (.invokevirtual 173, 3) := dk_182 0 173 (dk_at dksX1_load_1 12 rfl rfl)
theorem dX1_load_39 : decode cX1_load 39 = .ok (.putfield 87, 3) := dk_181 0 87 (dk_at dksX1_load_1 15 rfl rfl)
theorem dX1_load_42 : decode cX1_load 42 = .ok (.aload_n 0, 1) := dk_42 (dk_at dksX1_load_1 18 rfl rfl)
theorem dX1_load_43 : decode cX1_load 43 = .ok (.iconst 0, 1) := dk_3 (dk_at dksX1_load_1 19 rfl rfl)
theorem dX1_load_44 : decode cX1_load 44 = .ok (.putfield 151, 3) := dk_181 0 151 (dk_at dksX1_load_1 20 rfl rfl)
theorem dX1_load_47 : decode cX1_load 47 = .ok (.goto 37, 3) := dk_167 0 37 (dk_at dksX1_load_2 0 rfl rfl)
theorem dX1_load_50 : decode cX1_load 50 = .ok (.astore_n 2, 1) := dk_77 (dk_at dksX1_load_2 3 rfl rfl)
theorem dX1_load_51 : decode cX1_load 51 = .ok (.aload_n 0, 1) := dk_42 (dk_at dksX1_load_2 4 rfl rfl)
theorem dX1_load_52 : decode cX1_load 52 = .ok (.aload_n 2, 1) := dk_44 (dk_at dksX1_load_2 5 rfl rfl)
theorem dX1_load_53 : decode cX1_load 53 = .ok (.getfield 178, 3) := dk_180 0 178 (dk_at dksX1_load_2 6 rfl rfl)
theorem dX1_load_56 : decode cX1_load 56 = .ok (.putfield 73, 3) := dk_181 0 73 (dk_at dksX1_load_2 9 rfl rfl)
theorem dX1_load_59 : decode cX1_load 59 = .ok (.bipush (-10), 2) := dk_16 246 (dk_at dksX1_load_2 12 rfl rfl)
theorem dX1_load_61 : decode cX1_load 61 = .ok (.aload_n 2, 1) := dk_44 (dk_at dksX1_load_2 14 rfl rfl)
theorem dX1_load_62 : decode cX1_load 62 = .ok (.invokevirtual 181, 3) := dk_182 0 181 (dk_at dksX1_load_2 15 rfl rfl)
theorem dX1_load_65 : decode cX1_load 65 = .ok (.isub, 1) := dk_100 (dk_at dksX1_load_2 18 rfl rfl)
theorem dX1_load_66 : decode cX1_load 66 = .ok (.istore_n 3, 1) := dk_62 (dk_at dksX1_load_2 19 rfl rfl)
theorem dX1_load_67 : decode cX1_load 67 = .ok (.aload_n 0, 1) := dk_42 (dk_at dksX1_load_2 20 rfl rfl)
theorem dX1_load_68 : decode cX1_load 68 = .ok (.iconst 0, 1) := dk_3 (dk_at dksX1_load_2 21 rfl rfl)
theorem dX1_load_69 : decode cX1_load 69 = .ok (.putfield 151, 3) := dk_181 0 151 (dk_at dksX1_load_3 0 rfl rfl)
theorem dX1_load_72 : decode cX1_load 72 = .ok (.iload_n 3, 1) := dk_29 (dk_at dksX1_load_3 3 rfl rfl)
theorem dX1_load_73 : decode cX1_load 73 = .ok (.ireturn, 1) := dk_172 (dk_at dksX1_load_3 4 rfl rfl)
theorem dX1_load_74 : decode cX1_load 74 = .ok (.astore 4, 2) := dk_58 4 (dk_at dksX1_load_3 5 rfl rfl)
theorem dX1_load_76 : decode cX1_load 76 = .ok (.aload_n 0, 1) := dk_42 (dk_at dksX1_load_3 7 rfl rfl)
theorem dX1_load_77 : decode cX1_load 77 = .ok (.iconst 0, 1) := dk_3 (dk_at dksX1_load_3 8 rfl rfl)
theorem dX1_load_78 : decode cX1_load 78 = .ok (.putfield 151, 3) := dk_181 0 151 (dk_at dksX1_load_3 9 rfl rfl)
theorem dX1_load_81 : decode cX1_load 81 = .ok (.aload 4, 2) := dk_25 4 (dk_at dksX1_load_3 12 rfl rfl)
theorem dX1_load_83 : decode cX1_load 83 = .ok (.athrow, 1) := dk_191 (dk_at dksX1_load_3 14 rfl rfl)
theorem dX1_load_84 : decode cX1_load 84 = .ok (.aload_n 0, 1) := dk_42 (dk_at dksX1_load_3 15 rfl rfl)
theorem dX1_load_85 : decode cX1_load 85 = .ok (.iconst (-1), 1) := dk_2 (dk_at dksX1_load_3 16 rfl rfl)
theorem dX1_load_86 : decode cX1_load 86 = .ok (.putfield 73, 3) := dk_181 0 73 (dk_at dksX1_load_3 17 rfl rfl)
theorem dX1_load_89 : decode cX1_load 89 = .ok (.aload_n 0, 1) := dk_42 (dk_at dksX1_load_3 20 rfl rfl)
theorem dX1_load_90 : decode cX1_load 90 = .ok (.getfield 93, 3) := dk_180 0 93 (dk_at dksX1_load_3 21 rfl rfl)
theorem dX1_load_93 : decode cX1_load 93 = .ok (.invokevirtual 184, 3) := dk_182 0 184 (dk_at dksX1_load_4 0 rfl rfl)
theorem dX1_load_96 : decode cX1_load 96 = .ok (.aload_n 0, 1) := dk_42 (dk_at dksX1_load_4 3 rfl rfl)
theorem dX1_load_97 : decode cX1_load 97 = .ok (.aconst_null, 1) := dk_1 (dk_at dksX1_load_4 4 rfl rfl)
theorem dX1_load_98 : decode cX1_load 98 = .ok (.putfield 187, 3) := dk_181 0 187 (dk_at dksX1_load_4 5 rfl rfl)
theorem dX1_load_101 : decode cX1_load 101 = .ok (.aload_n 0, 1) := dk_42 (dk_at dksX1_load_4 8 rfl rfl)
theorem dX1_load_102 : decode cX1_load 102 = .ok (.getfield 87, 3) := dk_180 0 87 (dk_at dksX1_load_4 9 rfl rfl)
theorem dX1_load_105 : decode cX1_load 105 = .ok (.getfield 133, 3) := dk_180 0 133 (dk_at dksX1_load_4 12 rfl rfl)
theorem dX1_load_108 : decode cX1_load 108 = .ok (.invokeinterface 137 1, 5) := by decide +kernel
theorem dX1_load_113 : decode cX1_load 113 = .ok (.ireturn, 1) := dk_172 (dk_at dksX1_load_4 20 rfl rfl)
abbrev cX1_require : ByteArray := prog_1_method_3_code
def yX1_require : MethodName := ⟨RX1, "require", "(Z)V"⟩
def dkwX1_require_0 : List UInt8 := [26, 154, 0, 11, 187, 0, 7, 89, 183, 0, 9, 191, 177]
abbrev dktX1_require_0 : List UInt8 := dkwX1_require_0 ++ []
theorem dksX1_require_0 : cX1_require.data.toList.drop 0 = dktX1_require_0 := by decide +kernel
theorem dX1_require_0 : decode cX1_require 0 = .ok (.iload_n 0, 1) := dk_26 (dk_at dksX1_require_0 0 rfl rfl)
theorem dX1_require_1 : decode cX1_require 1 = .ok (.ifCond .ne 11, 3) := dk_154 0 11 (dk_at dksX1_require_0 1 rfl rfl)
theorem dX1_require_4 : decode cX1_require 4 = .ok (.new 7, 3) := dk_187 0 7 (dk_at dksX1_require_0 4 rfl rfl)
theorem dX1_require_7 : decode cX1_require 7 = .ok (.dup, 1) := dk_89 (dk_at dksX1_require_0 7 rfl rfl)
theorem dX1_require_8 : decode cX1_require 8 = .ok (.invokespecial 9, 3) := dk_183 0 9 (dk_at dksX1_require_0 8 rfl rfl)
theorem dX1_require_11 : decode cX1_require 11 = .ok (.athrow, 1) := dk_191 (dk_at dksX1_require_0 11 rfl rfl)
theorem dX1_require_12 : decode cX1_require 12 = .ok (.return_, 1) := dk_177 (dk_at dksX1_require_0 12 rfl rfl)
abbrev cX1_mostOf : ByteArray := prog_1_method_6_code
def yX1_mostOf : MethodName := ⟨RX1, "mostOf", "(I)I"⟩
def dkwX1_mostOf_3 : List UInt8 := [167, 0, 10, 16, 99, 167, 0, 5, 16, 90, 172]
abbrev dktX1_mostOf_3 : List UInt8 := dkwX1_mostOf_3 ++ []
def dkwX1_mostOf_2 : List UInt8 := [16, 60, 167, 0, 32, 16, 9, 167, 0, 27, 16, 30, 167, 0, 22, 17, 39, 15, 167, 0, 16, 17, 3, 231]
abbrev dktX1_mostOf_2 : List UInt8 := dkwX1_mostOf_2 ++ dktX1_mostOf_3
def dkwX1_mostOf_1 : List UInt8 := [170, 0, 0, 0, 0, 0, 75, 0, 0, 0, 0, 0, 0, 0, 6, 0, 0, 0, 43, 0, 0, 0, 48, 0, 0, 0, 43, 0, 0, 0, 53, 0, 0, 0, 58, 0, 0, 0, 64, 0, 0, 0, 70]
abbrev dktX1_mostOf_1 : List UInt8 := dkwX1_mostOf_1 ++ dktX1_mostOf_2
def dkwX1_mostOf_0 : List UInt8 := [26]
abbrev dktX1_mostOf_0 : List UInt8 := dkwX1_mostOf_0 ++ dktX1_mostOf_1
theorem dksX1_mostOf_0 : cX1_mostOf.data.toList.drop 0 = dktX1_mostOf_0 := by decide +kernel
theorem dksX1_mostOf_1 : cX1_mostOf.data.toList.drop 1 = dktX1_mostOf_1 := dk_seg dksX1_mostOf_0 1 rfl rfl
theorem dksX1_mostOf_2 : cX1_mostOf.data.toList.drop 44 = dktX1_mostOf_2 := dk_seg dksX1_mostOf_1 43 rfl rfl
theorem dksX1_mostOf_3 : cX1_mostOf.data.toList.drop 68 = dktX1_mostOf_3 := dk_seg dksX1_mostOf_2 24 rfl rfl
theorem dX1_mostOf_0 : decode cX1_mostOf 0 = .ok (.iload_n 0, 1) := dk_26 (dk_at dksX1_mostOf_0 0 rfl rfl)
theorem dX1_mostOf_1 : decode cX1_mostOf 1 = .ok (.tableswitch 75 0 6 #[43, 48, 43, 53, 58, 64, 70], 43) := by decide +kernel
theorem dX1_mostOf_44 : decode cX1_mostOf 44 = .ok (.bipush 60, 2) := dk_16 60 (dk_at dksX1_mostOf_2 0 rfl rfl)
theorem dX1_mostOf_46 : decode cX1_mostOf 46 = .ok (.goto 32, 3) := dk_167 0 32 (dk_at dksX1_mostOf_2 2 rfl rfl)
theorem dX1_mostOf_49 : decode cX1_mostOf 49 = .ok (.bipush 9, 2) := dk_16 9 (dk_at dksX1_mostOf_2 5 rfl rfl)
theorem dX1_mostOf_51 : decode cX1_mostOf 51 = .ok (.goto 27, 3) := dk_167 0 27 (dk_at dksX1_mostOf_2 7 rfl rfl)
theorem dX1_mostOf_54 : decode cX1_mostOf 54 = .ok (.bipush 30, 2) := dk_16 30 (dk_at dksX1_mostOf_2 10 rfl rfl)
theorem dX1_mostOf_56 : decode cX1_mostOf 56 = .ok (.goto 22, 3) := dk_167 0 22 (dk_at dksX1_mostOf_2 12 rfl rfl)
theorem dX1_mostOf_59 : decode cX1_mostOf 59 = .ok (.sipush 9999, 3) := dk_17 39 15 (dk_at dksX1_mostOf_2 15 rfl rfl)
theorem dX1_mostOf_62 : decode cX1_mostOf 62 = .ok (.goto 16, 3) := dk_167 0 16 (dk_at dksX1_mostOf_2 18 rfl rfl)
theorem dX1_mostOf_65 : decode cX1_mostOf 65 = .ok (.sipush 999, 3) := dk_17 3 231 (dk_at dksX1_mostOf_2 21 rfl rfl)
theorem dX1_mostOf_68 : decode cX1_mostOf 68 = .ok (.goto 10, 3) := dk_167 0 10 (dk_at dksX1_mostOf_3 0 rfl rfl)
theorem dX1_mostOf_71 : decode cX1_mostOf 71 = .ok (.bipush 99, 2) := dk_16 99 (dk_at dksX1_mostOf_3 3 rfl rfl)
theorem dX1_mostOf_73 : decode cX1_mostOf 73 = .ok (.goto 5, 3) := dk_167 0 5 (dk_at dksX1_mostOf_3 5 rfl rfl)
theorem dX1_mostOf_76 : decode cX1_mostOf 76 = .ok (.bipush 90, 2) := dk_16 90 (dk_at dksX1_mostOf_3 8 rfl rfl)
theorem dX1_mostOf_78 : decode cX1_mostOf 78 = .ok (.ireturn, 1) := dk_172 (dk_at dksX1_mostOf_3 10 rfl rfl)
abbrev cX1_ruleName : ByteArray := prog_1_method_4_code
def yX1_ruleName : MethodName := ⟨RX1, "ruleName", "(I)Ljava/lang/String;"⟩
def dkwX1_ruleName_3 : List UInt8 := [167, 0, 10, 18, 20, 167, 0, 5, 18, 22, 176]
abbrev dktX1_ruleName_3 : List UInt8 := dkwX1_ruleName_3 ++ []
def dkwX1_ruleName_2 : List UInt8 := [18, 10, 167, 0, 30, 18, 12, 167, 0, 25, 18, 14, 167, 0, 20, 18, 16, 167, 0, 15, 18, 18]
abbrev dktX1_ruleName_2 : List UInt8 := dkwX1_ruleName_2 ++ dktX1_ruleName_3
def dkwX1_ruleName_1 : List UInt8 := [170, 0, 0, 0, 0, 0, 69, 0, 0, 0, 0, 0, 0, 0, 5, 0, 0, 0, 39, 0, 0, 0, 44, 0, 0, 0, 49, 0, 0, 0, 54, 0, 0, 0, 59, 0, 0, 0, 64]
abbrev dktX1_ruleName_1 : List UInt8 := dkwX1_ruleName_1 ++ dktX1_ruleName_2
def dkwX1_ruleName_0 : List UInt8 := [26]
abbrev dktX1_ruleName_0 : List UInt8 := dkwX1_ruleName_0 ++ dktX1_ruleName_1
theorem dksX1_ruleName_0 : cX1_ruleName.data.toList.drop 0 = dktX1_ruleName_0 := by decide +kernel
theorem dksX1_ruleName_1 : cX1_ruleName.data.toList.drop 1 = dktX1_ruleName_1 := dk_seg dksX1_ruleName_0 1 rfl rfl
theorem dksX1_ruleName_2 : cX1_ruleName.data.toList.drop 40 = dktX1_ruleName_2 := dk_seg dksX1_ruleName_1 39 rfl rfl
theorem dksX1_ruleName_3 : cX1_ruleName.data.toList.drop 62 = dktX1_ruleName_3 := dk_seg dksX1_ruleName_2 22 rfl rfl
theorem dX1_ruleName_0 : decode cX1_ruleName 0 = .ok (.iload_n 0, 1) := dk_26 (dk_at dksX1_ruleName_0 0 rfl rfl)
theorem dX1_ruleName_1 : decode cX1_ruleName 1 = .ok (.tableswitch 69 0 5 #[39, 44, 49, 54, 59, 64], 39) := by decide +kernel
theorem dX1_ruleName_40 : decode cX1_ruleName 40 = .ok (.ldc 10, 2) := dk_18 10 (dk_at dksX1_ruleName_2 0 rfl rfl)
theorem dX1_ruleName_42 : decode cX1_ruleName 42 = .ok (.goto 30, 3) := dk_167 0 30 (dk_at dksX1_ruleName_2 2 rfl rfl)
theorem dX1_ruleName_45 : decode cX1_ruleName 45 = .ok (.ldc 12, 2) := dk_18 12 (dk_at dksX1_ruleName_2 5 rfl rfl)
theorem dX1_ruleName_47 : decode cX1_ruleName 47 = .ok (.goto 25, 3) := dk_167 0 25 (dk_at dksX1_ruleName_2 7 rfl rfl)
theorem dX1_ruleName_50 : decode cX1_ruleName 50 = .ok (.ldc 14, 2) := dk_18 14 (dk_at dksX1_ruleName_2 10 rfl rfl)
theorem dX1_ruleName_52 : decode cX1_ruleName 52 = .ok (.goto 20, 3) := dk_167 0 20 (dk_at dksX1_ruleName_2 12 rfl rfl)
theorem dX1_ruleName_55 : decode cX1_ruleName 55 = .ok (.ldc 16, 2) := dk_18 16 (dk_at dksX1_ruleName_2 15 rfl rfl)
theorem dX1_ruleName_57 : decode cX1_ruleName 57 = .ok (.goto 15, 3) := dk_167 0 15 (dk_at dksX1_ruleName_2 17 rfl rfl)
theorem dX1_ruleName_60 : decode cX1_ruleName 60 = .ok (.ldc 18, 2) := dk_18 18 (dk_at dksX1_ruleName_2 20 rfl rfl)
theorem dX1_ruleName_62 : decode cX1_ruleName 62 = .ok (.goto 10, 3) := dk_167 0 10 (dk_at dksX1_ruleName_3 0 rfl rfl)
theorem dX1_ruleName_65 : decode cX1_ruleName 65 = .ok (.ldc 20, 2) := dk_18 20 (dk_at dksX1_ruleName_3 3 rfl rfl)
theorem dX1_ruleName_67 : decode cX1_ruleName 67 = .ok (.goto 5, 3) := dk_167 0 5 (dk_at dksX1_ruleName_3 5 rfl rfl)
theorem dX1_ruleName_70 : decode cX1_ruleName 70 = .ok (.ldc 22, 2) := dk_18 22 (dk_at dksX1_ruleName_3 8 rfl rfl)
theorem dX1_ruleName_72 : decode cX1_ruleName 72 = .ok (.areturn, 1) := dk_176 (dk_at dksX1_ruleName_3 10 rfl rfl)
abbrev cX1_leastOf : ByteArray := prog_1_method_5_code
def yX1_leastOf : MethodName := ⟨RX1, "leastOf", "(I)I"⟩
def dkwX1_leastOf_0 : List UInt8 := [26, 8, 159, 0, 9, 26, 16, 6, 160, 0, 7, 4, 167, 0, 4, 3, 172]
abbrev dktX1_leastOf_0 : List UInt8 := dkwX1_leastOf_0 ++ []
theorem dksX1_leastOf_0 : cX1_leastOf.data.toList.drop 0 = dktX1_leastOf_0 := by decide +kernel
theorem dX1_leastOf_0 : decode cX1_leastOf 0 = .ok (.iload_n 0, 1) := dk_26 (dk_at dksX1_leastOf_0 0 rfl rfl)
theorem dX1_leastOf_1 : decode cX1_leastOf 1 = .ok (.iconst 5, 1) := dk_8 (dk_at dksX1_leastOf_0 1 rfl rfl)
theorem dX1_leastOf_2 : decode cX1_leastOf 2 = .ok (.if_icmp .eq 9, 3) := dk_159 0 9 (dk_at dksX1_leastOf_0 2 rfl rfl)
theorem dX1_leastOf_5 : decode cX1_leastOf 5 = .ok (.iload_n 0, 1) := dk_26 (dk_at dksX1_leastOf_0 5 rfl rfl)
theorem dX1_leastOf_6 : decode cX1_leastOf 6 = .ok (.bipush 6, 2) := dk_16 6 (dk_at dksX1_leastOf_0 6 rfl rfl)
theorem dX1_leastOf_8 : decode cX1_leastOf 8 = .ok (.if_icmp .ne 7, 3) := dk_160 0 7 (dk_at dksX1_leastOf_0 8 rfl rfl)
theorem dX1_leastOf_11 : decode cX1_leastOf 11 = .ok (.iconst 1, 1) := dk_4 (dk_at dksX1_leastOf_0 11 rfl rfl)
theorem dX1_leastOf_12 : decode cX1_leastOf 12 = .ok (.goto 4, 3) := dk_167 0 4 (dk_at dksX1_leastOf_0 12 rfl rfl)
theorem dX1_leastOf_15 : decode cX1_leastOf 15 = .ok (.iconst 0, 1) := dk_3 (dk_at dksX1_leastOf_0 15 rfl rfl)
theorem dX1_leastOf_16 : decode cX1_leastOf 16 = .ok (.ireturn, 1) := dk_172 (dk_at dksX1_leastOf_0 16 rfl rfl)
abbrev cX1_size : ByteArray := prog_1_method_18_code
def yX1_size : MethodName := ⟨RX1, "size", "(I)I"⟩
def dkwX1_size_6 : List UInt8 := [167, 0, 21, 42, 180, 0, 87, 180, 0, 222, 167, 0, 11, 187, 0, 1, 89, 183, 0, 3, 191, 172]
abbrev dktX1_size_6 : List UInt8 := dkwX1_size_6 ++ []
def dkwX1_size_5 : List UInt8 := [180, 0, 87, 3, 182, 0, 212, 167, 0, 38, 42, 182, 0, 216, 167, 0, 31, 42, 180, 0, 87, 180, 0, 219]
abbrev dktX1_size_5 : List UInt8 := dkwX1_size_5 ++ dktX1_size_6
def dkwX1_size_4 : List UInt8 := [180, 0, 146, 185, 0, 137, 1, 0, 167, 0, 59, 42, 180, 0, 87, 180, 0, 209, 167, 0, 49, 42]
abbrev dktX1_size_4 : List UInt8 := dkwX1_size_4 ++ dktX1_size_5
def dkwX1_size_3 : List UInt8 := [167, 0, 89, 42, 180, 0, 87, 180, 0, 133, 185, 0, 137, 1, 0, 167, 0, 74, 42, 180, 0, 87]
abbrev dktX1_size_3 : List UInt8 := dkwX1_size_3 ++ dktX1_size_4
def dkwX1_size_2 : List UInt8 := [42, 180, 0, 87, 180, 0, 118, 180, 0, 122, 167, 0, 102, 42, 180, 0, 87, 180, 0, 118, 180, 0, 206]
abbrev dktX1_size_2 : List UInt8 := dkwX1_size_2 ++ dktX1_size_3
def dkwX1_size_1 : List UInt8 := [170, 0, 0, 0, 0, 0, 155, 0, 0, 0, 0, 0, 0, 0, 8, 0, 0, 0, 51, 0, 0, 0, 64, 0, 0, 0, 77, 0, 0, 0, 92, 0, 0, 0, 107, 0, 0, 0, 117, 0, 0, 0, 128, 0, 0, 0, 135, 0, 0, 0, 145]
abbrev dktX1_size_1 : List UInt8 := dkwX1_size_1 ++ dktX1_size_2
def dkwX1_size_0 : List UInt8 := [27]
abbrev dktX1_size_0 : List UInt8 := dkwX1_size_0 ++ dktX1_size_1
theorem dksX1_size_0 : cX1_size.data.toList.drop 0 = dktX1_size_0 := by decide +kernel
theorem dksX1_size_1 : cX1_size.data.toList.drop 1 = dktX1_size_1 := dk_seg dksX1_size_0 1 rfl rfl
theorem dksX1_size_2 : cX1_size.data.toList.drop 52 = dktX1_size_2 := dk_seg dksX1_size_1 51 rfl rfl
theorem dksX1_size_3 : cX1_size.data.toList.drop 75 = dktX1_size_3 := dk_seg dksX1_size_2 23 rfl rfl
theorem dksX1_size_4 : cX1_size.data.toList.drop 97 = dktX1_size_4 := dk_seg dksX1_size_3 22 rfl rfl
theorem dksX1_size_5 : cX1_size.data.toList.drop 119 = dktX1_size_5 := dk_seg dksX1_size_4 22 rfl rfl
theorem dksX1_size_6 : cX1_size.data.toList.drop 143 = dktX1_size_6 := dk_seg dksX1_size_5 24 rfl rfl
theorem dX1_size_0 : decode cX1_size 0 = .ok (.iload_n 1, 1) := dk_27 (dk_at dksX1_size_0 0 rfl rfl)
theorem dX1_size_1 : decode cX1_size 1 = .ok (.tableswitch 155 0 8 #[51, 64, 77, 92, 107, 117, 128, 135, 145], 51) := by decide +kernel
theorem dX1_size_52 : decode cX1_size 52 = .ok (.aload_n 0, 1) := dk_42 (dk_at dksX1_size_2 0 rfl rfl)
theorem dX1_size_53 : decode cX1_size 53 = .ok (.getfield 87, 3) := dk_180 0 87 (dk_at dksX1_size_2 1 rfl rfl)
theorem dX1_size_56 : decode cX1_size 56 = .ok (.getfield 118, 3) := dk_180 0 118 (dk_at dksX1_size_2 4 rfl rfl)
theorem dX1_size_59 : decode cX1_size 59 = .ok (.getfield 122, 3) := dk_180 0 122 (dk_at dksX1_size_2 7 rfl rfl)
theorem dX1_size_62 : decode cX1_size 62 = .ok (.goto 102, 3) := dk_167 0 102 (dk_at dksX1_size_2 10 rfl rfl)
theorem dX1_size_65 : decode cX1_size 65 = .ok (.aload_n 0, 1) := dk_42 (dk_at dksX1_size_2 13 rfl rfl)
theorem dX1_size_66 : decode cX1_size 66 = .ok (.getfield 87, 3) := dk_180 0 87 (dk_at dksX1_size_2 14 rfl rfl)
theorem dX1_size_69 : decode cX1_size 69 = .ok (.getfield 118, 3) := dk_180 0 118 (dk_at dksX1_size_2 17 rfl rfl)
theorem dX1_size_72 : decode cX1_size 72 = .ok (.getfield 206, 3) := dk_180 0 206 (dk_at dksX1_size_2 20 rfl rfl)
theorem dX1_size_75 : decode cX1_size 75 = .ok (.goto 89, 3) := dk_167 0 89 (dk_at dksX1_size_3 0 rfl rfl)
theorem dX1_size_78 : decode cX1_size 78 = .ok (.aload_n 0, 1) := dk_42 (dk_at dksX1_size_3 3 rfl rfl)
theorem dX1_size_79 : decode cX1_size 79 = .ok (.getfield 87, 3) := dk_180 0 87 (dk_at dksX1_size_3 4 rfl rfl)
theorem dX1_size_82 : decode cX1_size 82 = .ok (.getfield 133, 3) := dk_180 0 133 (dk_at dksX1_size_3 7 rfl rfl)
theorem dX1_size_85 : decode cX1_size 85 = .ok (.invokeinterface 137 1, 5) := by decide +kernel
theorem dX1_size_90 : decode cX1_size 90 = .ok (.goto 74, 3) := dk_167 0 74 (dk_at dksX1_size_3 15 rfl rfl)
theorem dX1_size_93 : decode cX1_size 93 = .ok (.aload_n 0, 1) := dk_42 (dk_at dksX1_size_3 18 rfl rfl)
theorem dX1_size_94 : decode cX1_size 94 = .ok (.getfield 87, 3) := dk_180 0 87 (dk_at dksX1_size_3 19 rfl rfl)
theorem dX1_size_97 : decode cX1_size 97 = .ok (.getfield 146, 3) := dk_180 0 146 (dk_at dksX1_size_4 0 rfl rfl)
theorem dX1_size_100 : decode cX1_size 100 = .ok (.invokeinterface 137 1, 5) := by decide +kernel
theorem dX1_size_105 : decode cX1_size 105 = .ok (.goto 59, 3) := dk_167 0 59 (dk_at dksX1_size_4 8 rfl rfl)
theorem dX1_size_108 : decode cX1_size 108 = .ok (.aload_n 0, 1) := dk_42 (dk_at dksX1_size_4 11 rfl rfl)
theorem dX1_size_109 : decode cX1_size 109 = .ok (.getfield 87, 3) := dk_180 0 87 (dk_at dksX1_size_4 12 rfl rfl)
theorem dX1_size_112 : decode cX1_size 112 = .ok (.getfield 209, 3) := dk_180 0 209 (dk_at dksX1_size_4 15 rfl rfl)
theorem dX1_size_115 : decode cX1_size 115 = .ok (.goto 49, 3) := dk_167 0 49 (dk_at dksX1_size_4 18 rfl rfl)
theorem dX1_size_118 : decode cX1_size 118 = .ok (.aload_n 0, 1) := dk_42 (dk_at dksX1_size_4 21 rfl rfl)
theorem dX1_size_119 : decode cX1_size 119 = .ok (.getfield 87, 3) := dk_180 0 87 (dk_at dksX1_size_5 0 rfl rfl)
theorem dX1_size_122 : decode cX1_size 122 = .ok (.iconst 0, 1) := dk_3 (dk_at dksX1_size_5 3 rfl rfl)
theorem dX1_size_123 : decode cX1_size 123 = .ok (.invokevirtual 212, 3) := dk_182 0 212 (dk_at dksX1_size_5 4 rfl rfl)
theorem dX1_size_126 : decode cX1_size 126 = .ok (.goto 38, 3) := dk_167 0 38 (dk_at dksX1_size_5 7 rfl rfl)
theorem dX1_size_129 : decode cX1_size 129 = .ok (.aload_n 0, 1) := dk_42 (dk_at dksX1_size_5 10 rfl rfl)
theorem dX1_size_130 : decode cX1_size 130 = .ok (.invokevirtual 216, 3) := dk_182 0 216 (dk_at dksX1_size_5 11 rfl rfl)
theorem dX1_size_133 : decode cX1_size 133 = .ok (.goto 31, 3) := dk_167 0 31 (dk_at dksX1_size_5 14 rfl rfl)
theorem dX1_size_136 : decode cX1_size 136 = .ok (.aload_n 0, 1) := dk_42 (dk_at dksX1_size_5 17 rfl rfl)
theorem dX1_size_137 : decode cX1_size 137 = .ok (.getfield 87, 3) := dk_180 0 87 (dk_at dksX1_size_5 18 rfl rfl)
theorem dX1_size_140 : decode cX1_size 140 = .ok (.getfield 219, 3) := dk_180 0 219 (dk_at dksX1_size_5 21 rfl rfl)
theorem dX1_size_143 : decode cX1_size 143 = .ok (.goto 21, 3) := dk_167 0 21 (dk_at dksX1_size_6 0 rfl rfl)
theorem dX1_size_146 : decode cX1_size 146 = .ok (.aload_n 0, 1) := dk_42 (dk_at dksX1_size_6 3 rfl rfl)
theorem dX1_size_147 : decode cX1_size 147 = .ok (.getfield 87, 3) := dk_180 0 87 (dk_at dksX1_size_6 4 rfl rfl)
theorem dX1_size_150 : decode cX1_size 150 = .ok (.getfield 222, 3) := dk_180 0 222 (dk_at dksX1_size_6 7 rfl rfl)
theorem dX1_size_153 : decode cX1_size 153 = .ok (.goto 11, 3) := dk_167 0 11 (dk_at dksX1_size_6 10 rfl rfl)
theorem dX1_size_156 : decode cX1_size 156 = .ok (.new 1, 3) := dk_187 0 1 (dk_at dksX1_size_6 13 rfl rfl)
theorem dX1_size_159 : decode cX1_size 159 = .ok (.dup, 1) := dk_89 (dk_at dksX1_size_6 16 rfl rfl)
theorem dX1_size_160 : decode cX1_size 160 = .ok (.invokespecial 3, 3) := dk_183 0 3 (dk_at dksX1_size_6 17 rfl rfl)
theorem dX1_size_163 : decode cX1_size 163 = .ok (.athrow, 1) := dk_191 (dk_at dksX1_size_6 20 rfl rfl)
theorem dX1_size_164 : decode cX1_size 164 = .ok (.ireturn, 1) := dk_172 (dk_at dksX1_size_6 21 rfl rfl)
abbrev cX1_allStops : ByteArray := prog_1_method_17_code
def yX1_allStops : MethodName := ⟨RX1, "allStops", "()I"⟩
def dkwX1_allStops_2 : List UInt8 := [167, 255, 225, 27, 172]
abbrev dktX1_allStops_2 : List UInt8 := dkwX1_allStops_2 ++ []
def dkwX1_allStops_1 : List UInt8 := [44, 185, 0, 200, 1, 0, 192, 0, 144, 78, 27, 45, 180, 0, 203, 185, 0, 137, 1, 0, 96, 60]
abbrev dktX1_allStops_1 : List UInt8 := dkwX1_allStops_1 ++ dktX1_allStops_2
def dkwX1_allStops_0 : List UInt8 := [3, 60, 42, 180, 0, 87, 180, 0, 133, 185, 0, 190, 1, 0, 77, 44, 185, 0, 194, 1, 0, 153, 0, 28]
abbrev dktX1_allStops_0 : List UInt8 := dkwX1_allStops_0 ++ dktX1_allStops_1
theorem dksX1_allStops_0 : cX1_allStops.data.toList.drop 0 = dktX1_allStops_0 := by decide +kernel
theorem dksX1_allStops_1 : cX1_allStops.data.toList.drop 24 = dktX1_allStops_1 := dk_seg dksX1_allStops_0 24 rfl rfl
theorem dksX1_allStops_2 : cX1_allStops.data.toList.drop 46 = dktX1_allStops_2 := dk_seg dksX1_allStops_1 22 rfl rfl
theorem dX1_allStops_0 : decode cX1_allStops 0 = .ok (.iconst 0, 1) := dk_3 (dk_at dksX1_allStops_0 0 rfl rfl)
theorem dX1_allStops_1 : decode cX1_allStops 1 = .ok (.istore_n 1, 1) := dk_60 (dk_at dksX1_allStops_0 1 rfl rfl)
theorem dX1_allStops_2 : decode cX1_allStops 2 = .ok (.aload_n 0, 1) := dk_42 (dk_at dksX1_allStops_0 2 rfl rfl)
theorem dX1_allStops_3 : decode cX1_allStops 3 = .ok (.getfield 87, 3) := dk_180 0 87 (dk_at dksX1_allStops_0 3 rfl rfl)
theorem dX1_allStops_6 : decode cX1_allStops 6 = .ok (.getfield 133, 3) := dk_180 0 133 (dk_at dksX1_allStops_0 6 rfl rfl)
theorem dX1_allStops_9 : decode cX1_allStops 9 = .ok (.invokeinterface 190 1, 5) := by decide +kernel
theorem dX1_allStops_14 : decode cX1_allStops 14 = .ok (.astore_n 2, 1) := dk_77 (dk_at dksX1_allStops_0 14 rfl rfl)
theorem dX1_allStops_15 : decode cX1_allStops 15 = .ok (.aload_n 2, 1) := dk_44 (dk_at dksX1_allStops_0 15 rfl rfl)
theorem dX1_allStops_16 : decode cX1_allStops 16 = .ok (.invokeinterface 194 1, 5) := by decide +kernel
theorem dX1_allStops_21 : decode cX1_allStops 21 = .ok (.ifCond .eq 28, 3) := dk_153 0 28 (dk_at dksX1_allStops_0 21 rfl rfl)
theorem dX1_allStops_24 : decode cX1_allStops 24 = .ok (.aload_n 2, 1) := dk_44 (dk_at dksX1_allStops_1 0 rfl rfl)
theorem dX1_allStops_25 : decode cX1_allStops 25 = .ok (.invokeinterface 200 1, 5) := by decide +kernel
theorem dX1_allStops_30 : decode cX1_allStops 30 = .ok (.checkcast 144, 3) := dk_192 0 144 (dk_at dksX1_allStops_1 6 rfl rfl)
theorem dX1_allStops_33 : decode cX1_allStops 33 = .ok (.astore_n 3, 1) := dk_78 (dk_at dksX1_allStops_1 9 rfl rfl)
theorem dX1_allStops_34 : decode cX1_allStops 34 = .ok (.iload_n 1, 1) := dk_27 (dk_at dksX1_allStops_1 10 rfl rfl)
theorem dX1_allStops_35 : decode cX1_allStops 35 = .ok (.aload_n 3, 1) := dk_45 (dk_at dksX1_allStops_1 11 rfl rfl)
theorem dX1_allStops_36 : decode cX1_allStops 36 = .ok (.getfield 203, 3) := dk_180 0 203 (dk_at dksX1_allStops_1 12 rfl rfl)
theorem dX1_allStops_39 : decode cX1_allStops 39 = .ok (.invokeinterface 137 1, 5) := by decide +kernel
theorem dX1_allStops_44 : decode cX1_allStops 44 = .ok (.iadd, 1) := dk_96 (dk_at dksX1_allStops_1 20 rfl rfl)
theorem dX1_allStops_45 : decode cX1_allStops 45 = .ok (.istore_n 1, 1) := dk_60 (dk_at dksX1_allStops_1 21 rfl rfl)
theorem dX1_allStops_46 : decode cX1_allStops 46 = .ok (.goto (-31), 3) := dk_167 255 225 (dk_at dksX1_allStops_2 0 rfl rfl)
theorem dX1_allStops_49 : decode cX1_allStops 49 = .ok (.iload_n 1, 1) := dk_27 (dk_at dksX1_allStops_2 3 rfl rfl)
theorem dX1_allStops_50 : decode cX1_allStops 50 = .ok (.ireturn, 1) := dk_172 (dk_at dksX1_allStops_2 4 rfl rfl)
abbrev cX1_rule : ByteArray := prog_1_method_19_code
def yX1_rule : MethodName := ⟨RX1, "rule", "(I)I"⟩
def dkwX1_rule_0 : List UInt8 := [27, 133, 9, 20, 0, 225, 184, 0, 125, 184, 0, 129, 42, 180, 0, 87, 180, 0, 227, 27, 46, 172]
abbrev dktX1_rule_0 : List UInt8 := dkwX1_rule_0 ++ []
theorem dksX1_rule_0 : cX1_rule.data.toList.drop 0 = dktX1_rule_0 := by decide +kernel
theorem dX1_rule_0 : decode cX1_rule 0 = .ok (.iload_n 1, 1) := dk_27 (dk_at dksX1_rule_0 0 rfl rfl)
theorem dX1_rule_1 : decode cX1_rule 1 = .ok (.i2l, 1) := dk_133 (dk_at dksX1_rule_0 1 rfl rfl)
theorem dX1_rule_2 : decode cX1_rule 2 = .ok (.lconst 0, 1) := dk_9 (dk_at dksX1_rule_0 2 rfl rfl)
theorem dX1_rule_3 : decode cX1_rule 3 = .ok (.ldc2_w 225, 3) := dk_20 0 225 (dk_at dksX1_rule_0 3 rfl rfl)
theorem dX1_rule_6 : decode cX1_rule 6 = .ok (.invokestatic 125, 3) := dk_184 0 125 (dk_at dksX1_rule_0 6 rfl rfl)
theorem dX1_rule_9 : decode cX1_rule 9 = .ok (.invokestatic 129, 3) := dk_184 0 129 (dk_at dksX1_rule_0 9 rfl rfl)
theorem dX1_rule_12 : decode cX1_rule 12 = .ok (.aload_n 0, 1) := dk_42 (dk_at dksX1_rule_0 12 rfl rfl)
theorem dX1_rule_13 : decode cX1_rule 13 = .ok (.getfield 87, 3) := dk_180 0 87 (dk_at dksX1_rule_0 13 rfl rfl)
theorem dX1_rule_16 : decode cX1_rule 16 = .ok (.getfield 227, 3) := dk_180 0 227 (dk_at dksX1_rule_0 16 rfl rfl)
theorem dX1_rule_19 : decode cX1_rule 19 = .ok (.iload_n 1, 1) := dk_27 (dk_at dksX1_rule_0 19 rfl rfl)
theorem dX1_rule_20 : decode cX1_rule 20 = .ok (.iaload, 1) := dk_46 (dk_at dksX1_rule_0 20 rfl rfl)
theorem dX1_rule_21 : decode cX1_rule 21 = .ok (.ireturn, 1) := dk_172 (dk_at dksX1_rule_0 21 rfl rfl)
abbrev cX1_minutes : ByteArray := prog_1_method_20_code
def yX1_minutes : MethodName := ⟨RX1, "minutes", "(II)I"⟩
def dkwX1_minutes_1 : List UInt8 := [172]
abbrev dktX1_minutes_1 : List UInt8 := dkwX1_minutes_1 ++ []
def dkwX1_minutes_0 : List UInt8 := [42, 27, 182, 0, 231, 42, 28, 182, 0, 231, 42, 180, 0, 87, 180, 0, 118, 180, 0, 234, 27, 50, 28, 46]
abbrev dktX1_minutes_0 : List UInt8 := dkwX1_minutes_0 ++ dktX1_minutes_1
theorem dksX1_minutes_0 : cX1_minutes.data.toList.drop 0 = dktX1_minutes_0 := by decide +kernel
theorem dksX1_minutes_1 : cX1_minutes.data.toList.drop 24 = dktX1_minutes_1 := dk_seg dksX1_minutes_0 24 rfl rfl
theorem dX1_minutes_0 : decode cX1_minutes 0 = .ok (.aload_n 0, 1) := dk_42 (dk_at dksX1_minutes_0 0 rfl rfl)
theorem dX1_minutes_1 : decode cX1_minutes 1 = .ok (.iload_n 1, 1) := dk_27 (dk_at dksX1_minutes_0 1 rfl rfl)
theorem dX1_minutes_2 : decode cX1_minutes 2 = .ok (.invokevirtual 231, 3) := dk_182 0 231 (dk_at dksX1_minutes_0 2 rfl rfl)
theorem dX1_minutes_5 : decode cX1_minutes 5 = .ok (.aload_n 0, 1) := dk_42 (dk_at dksX1_minutes_0 5 rfl rfl)
theorem dX1_minutes_6 : decode cX1_minutes 6 = .ok (.iload_n 2, 1) := dk_28 (dk_at dksX1_minutes_0 6 rfl rfl)
theorem dX1_minutes_7 : decode cX1_minutes 7 = .ok (.invokevirtual 231, 3) := dk_182 0 231 (dk_at dksX1_minutes_0 7 rfl rfl)
theorem dX1_minutes_10 : decode cX1_minutes 10 = .ok (.aload_n 0, 1) := dk_42 (dk_at dksX1_minutes_0 10 rfl rfl)
theorem dX1_minutes_11 : decode cX1_minutes 11 = .ok (.getfield 87, 3) := dk_180 0 87 (dk_at dksX1_minutes_0 11 rfl rfl)
theorem dX1_minutes_14 : decode cX1_minutes 14 = .ok (.getfield 118, 3) := dk_180 0 118 (dk_at dksX1_minutes_0 14 rfl rfl)
theorem dX1_minutes_17 : decode cX1_minutes 17 = .ok (.getfield 234, 3) := dk_180 0 234 (dk_at dksX1_minutes_0 17 rfl rfl)
theorem dX1_minutes_20 : decode cX1_minutes 20 = .ok (.iload_n 1, 1) := dk_27 (dk_at dksX1_minutes_0 20 rfl rfl)
theorem dX1_minutes_21 : decode cX1_minutes 21 = .ok (.aaload, 1) := dk_50 (dk_at dksX1_minutes_0 21 rfl rfl)
theorem dX1_minutes_22 : decode cX1_minutes 22 = .ok (.iload_n 2, 1) := dk_28 (dk_at dksX1_minutes_0 22 rfl rfl)
theorem dX1_minutes_23 : decode cX1_minutes 23 = .ok (.iaload, 1) := dk_46 (dk_at dksX1_minutes_0 23 rfl rfl)
theorem dX1_minutes_24 : decode cX1_minutes 24 = .ok (.ireturn, 1) := dk_172 (dk_at dksX1_minutes_1 0 rfl rfl)
abbrev cX1_requireZone : ByteArray := prog_1_method_10_code
def yX1_requireZone : MethodName := ⟨RX1, "requireZone", "(I)V"⟩
def dkwX1_requireZone_0 : List UInt8 := [27, 133, 9, 42, 180, 0, 87, 180, 0, 118, 180, 0, 122, 4, 100, 133, 184, 0, 125, 184, 0, 129, 177]
abbrev dktX1_requireZone_0 : List UInt8 := dkwX1_requireZone_0 ++ []
theorem dksX1_requireZone_0 : cX1_requireZone.data.toList.drop 0 = dktX1_requireZone_0 := by decide +kernel
theorem dX1_requireZone_0 : decode cX1_requireZone 0 = .ok (.iload_n 1, 1) := dk_27 (dk_at dksX1_requireZone_0 0 rfl rfl)
theorem dX1_requireZone_1 : decode cX1_requireZone 1 = .ok (.i2l, 1) := dk_133 (dk_at dksX1_requireZone_0 1 rfl rfl)
theorem dX1_requireZone_2 : decode cX1_requireZone 2 = .ok (.lconst 0, 1) := dk_9 (dk_at dksX1_requireZone_0 2 rfl rfl)
theorem dX1_requireZone_3 : decode cX1_requireZone 3 = .ok (.aload_n 0, 1) := dk_42 (dk_at dksX1_requireZone_0 3 rfl rfl)
theorem dX1_requireZone_4 : decode cX1_requireZone 4 = .ok (.getfield 87, 3) := dk_180 0 87 (dk_at dksX1_requireZone_0 4 rfl rfl)
theorem dX1_requireZone_7 : decode cX1_requireZone 7 = .ok (.getfield 118, 3) := dk_180 0 118 (dk_at dksX1_requireZone_0 7 rfl rfl)
theorem dX1_requireZone_10 : decode cX1_requireZone 10 = .ok (.getfield 122, 3) := dk_180 0 122 (dk_at dksX1_requireZone_0 10 rfl rfl)
theorem dX1_requireZone_13 : decode cX1_requireZone 13 = .ok (.iconst 1, 1) := dk_4 (dk_at dksX1_requireZone_0 13 rfl rfl)
theorem dX1_requireZone_14 : decode cX1_requireZone 14 = .ok (.isub, 1) := dk_100 (dk_at dksX1_requireZone_0 14 rfl rfl)
theorem dX1_requireZone_15 : decode cX1_requireZone 15 = .ok (.i2l, 1) := dk_133 (dk_at dksX1_requireZone_0 15 rfl rfl)
theorem dX1_requireZone_16 : decode cX1_requireZone 16 = .ok (.invokestatic 125, 3) := dk_184 0 125 (dk_at dksX1_requireZone_0 16 rfl rfl)
theorem dX1_requireZone_19 : decode cX1_requireZone 19 = .ok (.invokestatic 129, 3) := dk_184 0 129 (dk_at dksX1_requireZone_0 19 rfl rfl)
theorem dX1_requireZone_22 : decode cX1_requireZone 22 = .ok (.return_, 1) := dk_177 (dk_at dksX1_requireZone_0 22 rfl rfl)
abbrev cX1_taxi : ByteArray := prog_1_method_21_code
def yX1_taxi : MethodName := ⟨RX1, "taxi", "(II)I"⟩
def dkwX1_taxi_6 : List UInt8 := [191, 172]
abbrev dktX1_taxi_6 : List UInt8 := dkwX1_taxi_6 ++ []
def dkwX1_taxi_5 : List UInt8 := [167, 0, 25, 45, 180, 1, 8, 167, 0, 18, 45, 180, 1, 10, 167, 0, 11, 187, 0, 1, 89, 183, 0, 3]
abbrev dktX1_taxi_5 : List UInt8 := dkwX1_taxi_5 ++ dktX1_taxi_6
def dkwX1_taxi_4 : List UInt8 := [167, 0, 48, 42, 180, 0, 87, 45, 182, 1, 1, 167, 0, 37, 45, 180, 1, 5, 185, 0, 137, 1, 0]
abbrev dktX1_taxi_4 : List UInt8 := dkwX1_taxi_4 ++ dktX1_taxi_5
def dkwX1_taxi_3 : List UInt8 := [180, 0, 251, 167, 0, 67, 45, 180, 0, 254, 167, 0, 60, 45, 180, 0, 203, 185, 0, 137, 1, 0]
abbrev dktX1_taxi_3 : List UInt8 := dkwX1_taxi_3 ++ dktX1_taxi_4
def dkwX1_taxi_2 : List UInt8 := [45, 180, 0, 242, 167, 0, 88, 45, 180, 0, 245, 167, 0, 81, 45, 180, 0, 248, 167, 0, 74, 45]
abbrev dktX1_taxi_2 : List UInt8 := dkwX1_taxi_2 ++ dktX1_taxi_3
def dkwX1_taxi_1 : List UInt8 := [170, 0, 0, 0, 137, 0, 0, 0, 0, 0, 0, 0, 9, 0, 0, 0, 53, 0, 0, 0, 60, 0, 0, 0, 67, 0, 0, 0, 74, 0, 0, 0, 81, 0, 0, 0, 88, 0, 0, 0, 100, 0, 0, 0, 111, 0, 0, 0, 123, 0, 0, 0, 130]
abbrev dktX1_taxi_1 : List UInt8 := dkwX1_taxi_1 ++ dktX1_taxi_2
def dkwX1_taxi_0 : List UInt8 := [42, 27, 182, 0, 238, 78, 28]
abbrev dktX1_taxi_0 : List UInt8 := dkwX1_taxi_0 ++ dktX1_taxi_1
theorem dksX1_taxi_0 : cX1_taxi.data.toList.drop 0 = dktX1_taxi_0 := by decide +kernel
theorem dksX1_taxi_1 : cX1_taxi.data.toList.drop 7 = dktX1_taxi_1 := dk_seg dksX1_taxi_0 7 rfl rfl
theorem dksX1_taxi_2 : cX1_taxi.data.toList.drop 60 = dktX1_taxi_2 := dk_seg dksX1_taxi_1 53 rfl rfl
theorem dksX1_taxi_3 : cX1_taxi.data.toList.drop 82 = dktX1_taxi_3 := dk_seg dksX1_taxi_2 22 rfl rfl
theorem dksX1_taxi_4 : cX1_taxi.data.toList.drop 104 = dktX1_taxi_4 := dk_seg dksX1_taxi_3 22 rfl rfl
theorem dksX1_taxi_5 : cX1_taxi.data.toList.drop 127 = dktX1_taxi_5 := dk_seg dksX1_taxi_4 23 rfl rfl
theorem dksX1_taxi_6 : cX1_taxi.data.toList.drop 151 = dktX1_taxi_6 := dk_seg dksX1_taxi_5 24 rfl rfl
theorem dX1_taxi_0 : decode cX1_taxi 0 = .ok (.aload_n 0, 1) := dk_42 (dk_at dksX1_taxi_0 0 rfl rfl)
theorem dX1_taxi_1 : decode cX1_taxi 1 = .ok (.iload_n 1, 1) := dk_27 (dk_at dksX1_taxi_0 1 rfl rfl)
theorem dX1_taxi_2 : decode cX1_taxi 2 = .ok (.invokevirtual 238, 3) := dk_182 0 238 (dk_at dksX1_taxi_0 2 rfl rfl)
theorem dX1_taxi_5 : decode cX1_taxi 5 = .ok (.astore_n 3, 1) := dk_78 (dk_at dksX1_taxi_0 5 rfl rfl)
theorem dX1_taxi_6 : decode cX1_taxi 6 = .ok (.iload_n 2, 1) := dk_28 (dk_at dksX1_taxi_0 6 rfl rfl)
theorem dX1_taxi_7 : decode cX1_taxi 7 = .ok (.tableswitch 137 0 9 #[53, 60, 67, 74, 81, 88, 100, 111, 123, 130], 53) := by decide +kernel
theorem dX1_taxi_60 : decode cX1_taxi 60 = .ok (.aload_n 3, 1) := dk_45 (dk_at dksX1_taxi_2 0 rfl rfl)
theorem dX1_taxi_61 : decode cX1_taxi 61 = .ok (.getfield 242, 3) := dk_180 0 242 (dk_at dksX1_taxi_2 1 rfl rfl)
theorem dX1_taxi_64 : decode cX1_taxi 64 = .ok (.goto 88, 3) := dk_167 0 88 (dk_at dksX1_taxi_2 4 rfl rfl)
theorem dX1_taxi_67 : decode cX1_taxi 67 = .ok (.aload_n 3, 1) := dk_45 (dk_at dksX1_taxi_2 7 rfl rfl)
theorem dX1_taxi_68 : decode cX1_taxi 68 = .ok (.getfield 245, 3) := dk_180 0 245 (dk_at dksX1_taxi_2 8 rfl rfl)
theorem dX1_taxi_71 : decode cX1_taxi 71 = .ok (.goto 81, 3) := dk_167 0 81 (dk_at dksX1_taxi_2 11 rfl rfl)
theorem dX1_taxi_74 : decode cX1_taxi 74 = .ok (.aload_n 3, 1) := dk_45 (dk_at dksX1_taxi_2 14 rfl rfl)
theorem dX1_taxi_75 : decode cX1_taxi 75 = .ok (.getfield 248, 3) := dk_180 0 248 (dk_at dksX1_taxi_2 15 rfl rfl)
theorem dX1_taxi_78 : decode cX1_taxi 78 = .ok (.goto 74, 3) := dk_167 0 74 (dk_at dksX1_taxi_2 18 rfl rfl)
theorem dX1_taxi_81 : decode cX1_taxi 81 = .ok (.aload_n 3, 1) := dk_45 (dk_at dksX1_taxi_2 21 rfl rfl)
theorem dX1_taxi_82 : decode cX1_taxi 82 = .ok (.getfield 251, 3) := dk_180 0 251 (dk_at dksX1_taxi_3 0 rfl rfl)
theorem dX1_taxi_85 : decode cX1_taxi 85 = .ok (.goto 67, 3) := dk_167 0 67 (dk_at dksX1_taxi_3 3 rfl rfl)
theorem dX1_taxi_88 : decode cX1_taxi 88 = .ok (.aload_n 3, 1) := dk_45 (dk_at dksX1_taxi_3 6 rfl rfl)
theorem dX1_taxi_89 : decode cX1_taxi 89 = .ok (.getfield 254, 3) := dk_180 0 254 (dk_at dksX1_taxi_3 7 rfl rfl)
theorem dX1_taxi_92 : decode cX1_taxi 92 = .ok (.goto 60, 3) := dk_167 0 60 (dk_at dksX1_taxi_3 10 rfl rfl)
theorem dX1_taxi_95 : decode cX1_taxi 95 = .ok (.aload_n 3, 1) := dk_45 (dk_at dksX1_taxi_3 13 rfl rfl)
theorem dX1_taxi_96 : decode cX1_taxi 96 = .ok (.getfield 203, 3) := dk_180 0 203 (dk_at dksX1_taxi_3 14 rfl rfl)
theorem dX1_taxi_99 : decode cX1_taxi 99 = .ok (.invokeinterface 137 1, 5) := by decide +kernel
theorem dX1_taxi_104 : decode cX1_taxi 104 = .ok (.goto 48, 3) := dk_167 0 48 (dk_at dksX1_taxi_4 0 rfl rfl)
theorem dX1_taxi_107 : decode cX1_taxi 107 = .ok (.aload_n 0, 1) := dk_42 (dk_at dksX1_taxi_4 3 rfl rfl)
theorem dX1_taxi_108 : decode cX1_taxi 108 = .ok (.getfield 87, 3) := dk_180 0 87 (dk_at dksX1_taxi_4 4 rfl rfl)
theorem dX1_taxi_111 : decode cX1_taxi 111 = .ok (.aload_n 3, 1) := dk_45 (dk_at dksX1_taxi_4 7 rfl rfl)
theorem dX1_taxi_112 : decode cX1_taxi 112 = .ok (.invokevirtual 257, 3) := dk_182 1 1 (dk_at dksX1_taxi_4 8 rfl rfl)
theorem dX1_taxi_115 : decode cX1_taxi 115 = .ok (.goto 37, 3) := dk_167 0 37 (dk_at dksX1_taxi_4 11 rfl rfl)
theorem dX1_taxi_118 : decode cX1_taxi 118 = .ok (.aload_n 3, 1) := dk_45 (dk_at dksX1_taxi_4 14 rfl rfl)
theorem dX1_taxi_119 : decode cX1_taxi 119 = .ok (.getfield 261, 3) := dk_180 1 5 (dk_at dksX1_taxi_4 15 rfl rfl)
theorem dX1_taxi_122 : decode cX1_taxi 122 = .ok (.invokeinterface 137 1, 5) := by decide +kernel
theorem dX1_taxi_127 : decode cX1_taxi 127 = .ok (.goto 25, 3) := dk_167 0 25 (dk_at dksX1_taxi_5 0 rfl rfl)
theorem dX1_taxi_130 : decode cX1_taxi 130 = .ok (.aload_n 3, 1) := dk_45 (dk_at dksX1_taxi_5 3 rfl rfl)
theorem dX1_taxi_131 : decode cX1_taxi 131 = .ok (.getfield 264, 3) := dk_180 1 8 (dk_at dksX1_taxi_5 4 rfl rfl)
theorem dX1_taxi_134 : decode cX1_taxi 134 = .ok (.goto 18, 3) := dk_167 0 18 (dk_at dksX1_taxi_5 7 rfl rfl)
theorem dX1_taxi_137 : decode cX1_taxi 137 = .ok (.aload_n 3, 1) := dk_45 (dk_at dksX1_taxi_5 10 rfl rfl)
theorem dX1_taxi_138 : decode cX1_taxi 138 = .ok (.getfield 266, 3) := dk_180 1 10 (dk_at dksX1_taxi_5 11 rfl rfl)
theorem dX1_taxi_141 : decode cX1_taxi 141 = .ok (.goto 11, 3) := dk_167 0 11 (dk_at dksX1_taxi_5 14 rfl rfl)
theorem dX1_taxi_144 : decode cX1_taxi 144 = .ok (.new 1, 3) := dk_187 0 1 (dk_at dksX1_taxi_5 17 rfl rfl)
theorem dX1_taxi_147 : decode cX1_taxi 147 = .ok (.dup, 1) := dk_89 (dk_at dksX1_taxi_5 20 rfl rfl)
theorem dX1_taxi_148 : decode cX1_taxi 148 = .ok (.invokespecial 3, 3) := dk_183 0 3 (dk_at dksX1_taxi_5 21 rfl rfl)
theorem dX1_taxi_151 : decode cX1_taxi 151 = .ok (.athrow, 1) := dk_191 (dk_at dksX1_taxi_6 0 rfl rfl)
theorem dX1_taxi_152 : decode cX1_taxi 152 = .ok (.ireturn, 1) := dk_172 (dk_at dksX1_taxi_6 1 rfl rfl)
abbrev cX1_taxiAt : ByteArray := prog_1_method_11_code
def yX1_taxiAt : MethodName := ⟨RX1, "taxiAt", "(I)LSharedTaxis$Taxi;"⟩
def dkwX1_taxiAt_1 : List UInt8 := [42, 180, 0, 87, 180, 0, 133, 27, 185, 0, 140, 2, 0, 192, 0, 144, 176]
abbrev dktX1_taxiAt_1 : List UInt8 := dkwX1_taxiAt_1 ++ []
def dkwX1_taxiAt_0 : List UInt8 := [27, 133, 9, 42, 180, 0, 87, 180, 0, 133, 185, 0, 137, 1, 0, 4, 100, 133, 184, 0, 125, 184, 0, 129]
abbrev dktX1_taxiAt_0 : List UInt8 := dkwX1_taxiAt_0 ++ dktX1_taxiAt_1
theorem dksX1_taxiAt_0 : cX1_taxiAt.data.toList.drop 0 = dktX1_taxiAt_0 := by decide +kernel
theorem dksX1_taxiAt_1 : cX1_taxiAt.data.toList.drop 24 = dktX1_taxiAt_1 := dk_seg dksX1_taxiAt_0 24 rfl rfl
theorem dX1_taxiAt_0 : decode cX1_taxiAt 0 = .ok (.iload_n 1, 1) := dk_27 (dk_at dksX1_taxiAt_0 0 rfl rfl)
theorem dX1_taxiAt_1 : decode cX1_taxiAt 1 = .ok (.i2l, 1) := dk_133 (dk_at dksX1_taxiAt_0 1 rfl rfl)
theorem dX1_taxiAt_2 : decode cX1_taxiAt 2 = .ok (.lconst 0, 1) := dk_9 (dk_at dksX1_taxiAt_0 2 rfl rfl)
theorem dX1_taxiAt_3 : decode cX1_taxiAt 3 = .ok (.aload_n 0, 1) := dk_42 (dk_at dksX1_taxiAt_0 3 rfl rfl)
theorem dX1_taxiAt_4 : decode cX1_taxiAt 4 = .ok (.getfield 87, 3) := dk_180 0 87 (dk_at dksX1_taxiAt_0 4 rfl rfl)
theorem dX1_taxiAt_7 : decode cX1_taxiAt 7 = .ok (.getfield 133, 3) := dk_180 0 133 (dk_at dksX1_taxiAt_0 7 rfl rfl)
theorem dX1_taxiAt_10 : decode cX1_taxiAt 10 = .ok (.invokeinterface 137 1, 5) := by decide +kernel
theorem dX1_taxiAt_15 : decode cX1_taxiAt 15 = .ok (.iconst 1, 1) := dk_4 (dk_at dksX1_taxiAt_0 15 rfl rfl)
theorem dX1_taxiAt_16 : decode cX1_taxiAt 16 = .ok (.isub, 1) := dk_100 (dk_at dksX1_taxiAt_0 16 rfl rfl)
theorem dX1_taxiAt_17 : decode cX1_taxiAt 17 = .ok (.i2l, 1) := dk_133 (dk_at dksX1_taxiAt_0 17 rfl rfl)
theorem dX1_taxiAt_18 : decode cX1_taxiAt 18 = .ok (.invokestatic 125, 3) := dk_184 0 125 (dk_at dksX1_taxiAt_0 18 rfl rfl)
theorem dX1_taxiAt_21 : decode cX1_taxiAt 21 = .ok (.invokestatic 129, 3) := dk_184 0 129 (dk_at dksX1_taxiAt_0 21 rfl rfl)
theorem dX1_taxiAt_24 : decode cX1_taxiAt 24 = .ok (.aload_n 0, 1) := dk_42 (dk_at dksX1_taxiAt_1 0 rfl rfl)
theorem dX1_taxiAt_25 : decode cX1_taxiAt 25 = .ok (.getfield 87, 3) := dk_180 0 87 (dk_at dksX1_taxiAt_1 1 rfl rfl)
theorem dX1_taxiAt_28 : decode cX1_taxiAt 28 = .ok (.getfield 133, 3) := dk_180 0 133 (dk_at dksX1_taxiAt_1 4 rfl rfl)
theorem dX1_taxiAt_31 : decode cX1_taxiAt 31 = .ok (.iload_n 1, 1) := dk_27 (dk_at dksX1_taxiAt_1 7 rfl rfl)
theorem dX1_taxiAt_32 : decode cX1_taxiAt 32 = .ok (.invokeinterface 140 2, 5) := by decide +kernel
theorem dX1_taxiAt_37 : decode cX1_taxiAt 37 = .ok (.checkcast 144, 3) := dk_192 0 144 (dk_at dksX1_taxiAt_1 13 rfl rfl)
theorem dX1_taxiAt_40 : decode cX1_taxiAt 40 = .ok (.areturn, 1) := dk_176 (dk_at dksX1_taxiAt_1 16 rfl rfl)
abbrev cX1_account : ByteArray := prog_1_method_22_code
def yX1_account : MethodName := ⟨RX1, "account", "(II)I"⟩
def dkwX1_account_0 : List UInt8 := [42, 27, 182, 0, 238, 78, 28, 133, 9, 20, 1, 13, 184, 0, 125, 184, 0, 129, 45, 28, 182, 1, 15, 172]
abbrev dktX1_account_0 : List UInt8 := dkwX1_account_0 ++ []
theorem dksX1_account_0 : cX1_account.data.toList.drop 0 = dktX1_account_0 := by decide +kernel
theorem dX1_account_0 : decode cX1_account 0 = .ok (.aload_n 0, 1) := dk_42 (dk_at dksX1_account_0 0 rfl rfl)
theorem dX1_account_1 : decode cX1_account 1 = .ok (.iload_n 1, 1) := dk_27 (dk_at dksX1_account_0 1 rfl rfl)
theorem dX1_account_2 : decode cX1_account 2 = .ok (.invokevirtual 238, 3) := dk_182 0 238 (dk_at dksX1_account_0 2 rfl rfl)
theorem dX1_account_5 : decode cX1_account 5 = .ok (.astore_n 3, 1) := dk_78 (dk_at dksX1_account_0 5 rfl rfl)
theorem dX1_account_6 : decode cX1_account 6 = .ok (.iload_n 2, 1) := dk_28 (dk_at dksX1_account_0 6 rfl rfl)
theorem dX1_account_7 : decode cX1_account 7 = .ok (.i2l, 1) := dk_133 (dk_at dksX1_account_0 7 rfl rfl)
theorem dX1_account_8 : decode cX1_account 8 = .ok (.lconst 0, 1) := dk_9 (dk_at dksX1_account_0 8 rfl rfl)
theorem dX1_account_9 : decode cX1_account 9 = .ok (.ldc2_w 269, 3) := dk_20 1 13 (dk_at dksX1_account_0 9 rfl rfl)
theorem dX1_account_12 : decode cX1_account 12 = .ok (.invokestatic 125, 3) := dk_184 0 125 (dk_at dksX1_account_0 12 rfl rfl)
theorem dX1_account_15 : decode cX1_account 15 = .ok (.invokestatic 129, 3) := dk_184 0 129 (dk_at dksX1_account_0 15 rfl rfl)
theorem dX1_account_18 : decode cX1_account 18 = .ok (.aload_n 3, 1) := dk_45 (dk_at dksX1_account_0 18 rfl rfl)
theorem dX1_account_19 : decode cX1_account 19 = .ok (.iload_n 2, 1) := dk_28 (dk_at dksX1_account_0 19 rfl rfl)
theorem dX1_account_20 : decode cX1_account 20 = .ok (.invokevirtual 271, 3) := dk_182 1 15 (dk_at dksX1_account_0 20 rfl rfl)
theorem dX1_account_23 : decode cX1_account 23 = .ok (.ireturn, 1) := dk_172 (dk_at dksX1_account_0 23 rfl rfl)
abbrev cX1_stop : ByteArray := prog_1_method_23_code
def yX1_stop : MethodName := ⟨RX1, "stop", "(III)I"⟩
def dkwX1_stop_7 : List UInt8 := [25, 5, 180, 1, 47, 167, 0, 8, 25, 5, 180, 1, 50, 172]
abbrev dktX1_stop_7 : List UInt8 := dkwX1_stop_7 ++ []
def dkwX1_stop_6 : List UInt8 := [167, 0, 36, 3, 167, 0, 32, 25, 5, 180, 1, 43, 167, 0, 24, 25, 5, 180, 1, 44, 167, 0, 16]
abbrev dktX1_stop_6 : List UInt8 := dkwX1_stop_6 ++ dktX1_stop_7
def dkwX1_stop_5 : List UInt8 := [25, 5, 180, 1, 31, 180, 1, 35, 167, 0, 51, 25, 5, 180, 1, 31, 180, 1, 39, 153, 0, 7, 4]
abbrev dktX1_stop_5 : List UInt8 := dkwX1_stop_5 ++ dktX1_stop_6
def dkwX1_stop_4 : List UInt8 := [170, 0, 0, 0, 87, 0, 0, 0, 0, 0, 0, 0, 4, 0, 0, 0, 33, 0, 0, 0, 44, 0, 0, 0, 63, 0, 0, 0, 71, 0, 0, 0, 79]
abbrev dktX1_stop_4 : List UInt8 := dkwX1_stop_4 ++ dktX1_stop_5
def dkwX1_stop_3 : List UInt8 := [58, 5, 25, 5, 182, 1, 26, 25, 5, 180, 1, 28, 28, 164, 255, 245, 29]
abbrev dktX1_stop_3 : List UInt8 := dkwX1_stop_3 ++ dktX1_stop_4
def dkwX1_stop_2 : List UInt8 := [184, 0, 129, 187, 1, 18, 89, 42, 180, 0, 87, 183, 1, 20, 25, 4, 25, 4, 180, 0, 203, 182, 1, 23]
abbrev dktX1_stop_2 : List UInt8 := dkwX1_stop_2 ++ dktX1_stop_3
def dkwX1_stop_1 : List UInt8 := [184, 0, 125, 153, 0, 19, 29, 133, 9, 20, 1, 13, 184, 0, 125, 153, 0, 7, 4, 167, 0, 4, 3]
abbrev dktX1_stop_1 : List UInt8 := dkwX1_stop_1 ++ dktX1_stop_2
def dkwX1_stop_0 : List UInt8 := [42, 27, 182, 0, 238, 58, 4, 28, 133, 9, 25, 4, 180, 0, 203, 185, 0, 137, 1, 0, 4, 100, 133]
abbrev dktX1_stop_0 : List UInt8 := dkwX1_stop_0 ++ dktX1_stop_1
theorem dksX1_stop_0 : cX1_stop.data.toList.drop 0 = dktX1_stop_0 := by decide +kernel
theorem dksX1_stop_1 : cX1_stop.data.toList.drop 23 = dktX1_stop_1 := dk_seg dksX1_stop_0 23 rfl rfl
theorem dksX1_stop_2 : cX1_stop.data.toList.drop 46 = dktX1_stop_2 := dk_seg dksX1_stop_1 23 rfl rfl
theorem dksX1_stop_3 : cX1_stop.data.toList.drop 70 = dktX1_stop_3 := dk_seg dksX1_stop_2 24 rfl rfl
theorem dksX1_stop_4 : cX1_stop.data.toList.drop 87 = dktX1_stop_4 := dk_seg dksX1_stop_3 17 rfl rfl
theorem dksX1_stop_5 : cX1_stop.data.toList.drop 120 = dktX1_stop_5 := dk_seg dksX1_stop_4 33 rfl rfl
theorem dksX1_stop_6 : cX1_stop.data.toList.drop 143 = dktX1_stop_6 := dk_seg dksX1_stop_5 23 rfl rfl
theorem dksX1_stop_7 : cX1_stop.data.toList.drop 166 = dktX1_stop_7 := dk_seg dksX1_stop_6 23 rfl rfl
theorem dX1_stop_0 : decode cX1_stop 0 = .ok (.aload_n 0, 1) := dk_42 (dk_at dksX1_stop_0 0 rfl rfl)
theorem dX1_stop_1 : decode cX1_stop 1 = .ok (.iload_n 1, 1) := dk_27 (dk_at dksX1_stop_0 1 rfl rfl)
theorem dX1_stop_2 : decode cX1_stop 2 = .ok (.invokevirtual 238, 3) := dk_182 0 238 (dk_at dksX1_stop_0 2 rfl rfl)
theorem dX1_stop_5 : decode cX1_stop 5 = .ok (.astore 4, 2) := dk_58 4 (dk_at dksX1_stop_0 5 rfl rfl)
theorem dX1_stop_7 : decode cX1_stop 7 = .ok (.iload_n 2, 1) := dk_28 (dk_at dksX1_stop_0 7 rfl rfl)
theorem dX1_stop_8 : decode cX1_stop 8 = .ok (.i2l, 1) := dk_133 (dk_at dksX1_stop_0 8 rfl rfl)
theorem dX1_stop_9 : decode cX1_stop 9 = .ok (.lconst 0, 1) := dk_9 (dk_at dksX1_stop_0 9 rfl rfl)
theorem dX1_stop_10 : decode cX1_stop 10 = .ok (.aload 4, 2) := dk_25 4 (dk_at dksX1_stop_0 10 rfl rfl)
theorem dX1_stop_12 : decode cX1_stop 12 = .ok (.getfield 203, 3) := dk_180 0 203 (dk_at dksX1_stop_0 12 rfl rfl)
theorem dX1_stop_15 : decode cX1_stop 15 = .ok (.invokeinterface 137 1, 5) := by decide +kernel
theorem dX1_stop_20 : decode cX1_stop 20 = .ok (.iconst 1, 1) := dk_4 (dk_at dksX1_stop_0 20 rfl rfl)
theorem dX1_stop_21 : decode cX1_stop 21 = .ok (.isub, 1) := dk_100 (dk_at dksX1_stop_0 21 rfl rfl)
theorem dX1_stop_22 : decode cX1_stop 22 = .ok (.i2l, 1) := dk_133 (dk_at dksX1_stop_0 22 rfl rfl)
theorem dX1_stop_23 : decode cX1_stop 23 = .ok (.invokestatic 125, 3) := dk_184 0 125 (dk_at dksX1_stop_1 0 rfl rfl)
theorem dX1_stop_26 : decode cX1_stop 26 = .ok (.ifCond .eq 19, 3) := dk_153 0 19 (dk_at dksX1_stop_1 3 rfl rfl)
theorem dX1_stop_29 : decode cX1_stop 29 = .ok (.iload_n 3, 1) := dk_29 (dk_at dksX1_stop_1 6 rfl rfl)
theorem dX1_stop_30 : decode cX1_stop 30 = .ok (.i2l, 1) := dk_133 (dk_at dksX1_stop_1 7 rfl rfl)
theorem dX1_stop_31 : decode cX1_stop 31 = .ok (.lconst 0, 1) := dk_9 (dk_at dksX1_stop_1 8 rfl rfl)
theorem dX1_stop_32 : decode cX1_stop 32 = .ok (.ldc2_w 269, 3) := dk_20 1 13 (dk_at dksX1_stop_1 9 rfl rfl)
theorem dX1_stop_35 : decode cX1_stop 35 = .ok (.invokestatic 125, 3) := dk_184 0 125 (dk_at dksX1_stop_1 12 rfl rfl)
theorem dX1_stop_38 : decode cX1_stop 38 = .ok (.ifCond .eq 7, 3) := dk_153 0 7 (dk_at dksX1_stop_1 15 rfl rfl)
theorem dX1_stop_41 : decode cX1_stop 41 = .ok (.iconst 1, 1) := dk_4 (dk_at dksX1_stop_1 18 rfl rfl)
theorem dX1_stop_42 : decode cX1_stop 42 = .ok (.goto 4, 3) := dk_167 0 4 (dk_at dksX1_stop_1 19 rfl rfl)
theorem dX1_stop_45 : decode cX1_stop 45 = .ok (.iconst 0, 1) := dk_3 (dk_at dksX1_stop_1 22 rfl rfl)
theorem dX1_stop_46 : decode cX1_stop 46 = .ok (.invokestatic 129, 3) := dk_184 0 129 (dk_at dksX1_stop_2 0 rfl rfl)
theorem dX1_stop_49 : decode cX1_stop 49 = .ok (.new 274, 3) := dk_187 1 18 (dk_at dksX1_stop_2 3 rfl rfl)
theorem dX1_stop_52 : decode cX1_stop 52 = .ok (.dup, 1) := dk_89 (dk_at dksX1_stop_2 6 rfl rfl)
theorem dX1_stop_53 : decode cX1_stop 53 = .ok (.aload_n 0, 1) := dk_42 (dk_at dksX1_stop_2 7 rfl rfl)
theorem dX1_stop_54 : decode cX1_stop 54 = .ok (.getfield 87, 3) := dk_180 0 87 (dk_at dksX1_stop_2 8 rfl rfl)
theorem dX1_stop_57 : decode cX1_stop 57 = .ok (.invokespecial 276, 3) := dk_183 1 20 (dk_at dksX1_stop_2 11 rfl rfl)
theorem dX1_stop_60 : decode cX1_stop 60 = .ok (.aload 4, 2) := dk_25 4 (dk_at dksX1_stop_2 14 rfl rfl)
theorem dX1_stop_62 : decode cX1_stop 62 = .ok (.aload 4, 2) := dk_25 4 (dk_at dksX1_stop_2 16 rfl rfl)
theorem dX1_stop_64 : decode cX1_stop 64 = .ok (.getfield 203, 3) := dk_180 0 203 (dk_at dksX1_stop_2 18 rfl rfl)
theorem dX1_stop_67 : decode cX1_stop 67 = .ok (.invokevirtual 279, 3) := dk_182 1 23 (dk_at dksX1_stop_2 21 rfl rfl)
theorem dX1_stop_70 : decode cX1_stop 70 = .ok (.astore 5, 2) := dk_58 5 (dk_at dksX1_stop_3 0 rfl rfl)
theorem dX1_stop_72 : decode cX1_stop 72 = .ok (.aload 5, 2) := dk_25 5 (dk_at dksX1_stop_3 2 rfl rfl)
theorem dX1_stop_74 : decode cX1_stop 74 = .ok (.invokevirtual 282, 3) := dk_182 1 26 (dk_at dksX1_stop_3 4 rfl rfl)
theorem dX1_stop_77 : decode cX1_stop 77 = .ok (.aload 5, 2) := dk_25 5 (dk_at dksX1_stop_3 7 rfl rfl)
theorem dX1_stop_79 : decode cX1_stop 79 = .ok (.getfield 284, 3) := dk_180 1 28 (dk_at dksX1_stop_3 9 rfl rfl)
theorem dX1_stop_82 : decode cX1_stop 82 = .ok (.iload_n 2, 1) := dk_28 (dk_at dksX1_stop_3 12 rfl rfl)
theorem dX1_stop_83 : decode cX1_stop 83 = .ok (.if_icmp .le (-11), 3) := dk_164 255 245 (dk_at dksX1_stop_3 13 rfl rfl)
theorem dX1_stop_86 : decode cX1_stop 86 = .ok (.iload_n 3, 1) := dk_29 (dk_at dksX1_stop_3 16 rfl rfl)
theorem dX1_stop_87 : decode cX1_stop 87 = .ok (.tableswitch 87 0 4 #[33, 44, 63, 71, 79], 33) := by decide +kernel
theorem dX1_stop_120 : decode cX1_stop 120 = .ok (.aload 5, 2) := dk_25 5 (dk_at dksX1_stop_5 0 rfl rfl)
theorem dX1_stop_122 : decode cX1_stop 122 = .ok (.getfield 287, 3) := dk_180 1 31 (dk_at dksX1_stop_5 2 rfl rfl)
theorem dX1_stop_125 : decode cX1_stop 125 = .ok (.getfield 291, 3) := dk_180 1 35 (dk_at dksX1_stop_5 5 rfl rfl)
theorem dX1_stop_128 : decode cX1_stop 128 = .ok (.goto 51, 3) := dk_167 0 51 (dk_at dksX1_stop_5 8 rfl rfl)
theorem dX1_stop_131 : decode cX1_stop 131 = .ok (.aload 5, 2) := dk_25 5 (dk_at dksX1_stop_5 11 rfl rfl)
theorem dX1_stop_133 : decode cX1_stop 133 = .ok (.getfield 287, 3) := dk_180 1 31 (dk_at dksX1_stop_5 13 rfl rfl)
theorem dX1_stop_136 : decode cX1_stop 136 = .ok (.getfield 295, 3) := dk_180 1 39 (dk_at dksX1_stop_5 16 rfl rfl)
theorem dX1_stop_139 : decode cX1_stop 139 = .ok (.ifCond .eq 7, 3) := dk_153 0 7 (dk_at dksX1_stop_5 19 rfl rfl)
theorem dX1_stop_142 : decode cX1_stop 142 = .ok (.iconst 1, 1) := dk_4 (dk_at dksX1_stop_5 22 rfl rfl)
theorem dX1_stop_143 : decode cX1_stop 143 = .ok (.goto 36, 3) := dk_167 0 36 (dk_at dksX1_stop_6 0 rfl rfl)
theorem dX1_stop_146 : decode cX1_stop 146 = .ok (.iconst 0, 1) := dk_3 (dk_at dksX1_stop_6 3 rfl rfl)
theorem dX1_stop_147 : decode cX1_stop 147 = .ok (.goto 32, 3) := dk_167 0 32 (dk_at dksX1_stop_6 4 rfl rfl)
theorem dX1_stop_150 : decode cX1_stop 150 = .ok (.aload 5, 2) := dk_25 5 (dk_at dksX1_stop_6 7 rfl rfl)
theorem dX1_stop_152 : decode cX1_stop 152 = .ok (.getfield 299, 3) := dk_180 1 43 (dk_at dksX1_stop_6 9 rfl rfl)
theorem dX1_stop_155 : decode cX1_stop 155 = .ok (.goto 24, 3) := dk_167 0 24 (dk_at dksX1_stop_6 12 rfl rfl)
theorem dX1_stop_158 : decode cX1_stop 158 = .ok (.aload 5, 2) := dk_25 5 (dk_at dksX1_stop_6 15 rfl rfl)
theorem dX1_stop_160 : decode cX1_stop 160 = .ok (.getfield 300, 3) := dk_180 1 44 (dk_at dksX1_stop_6 17 rfl rfl)
theorem dX1_stop_163 : decode cX1_stop 163 = .ok (.goto 16, 3) := dk_167 0 16 (dk_at dksX1_stop_6 20 rfl rfl)
theorem dX1_stop_166 : decode cX1_stop 166 = .ok (.aload 5, 2) := dk_25 5 (dk_at dksX1_stop_7 0 rfl rfl)
theorem dX1_stop_168 : decode cX1_stop 168 = .ok (.getfield 303, 3) := dk_180 1 47 (dk_at dksX1_stop_7 2 rfl rfl)
theorem dX1_stop_171 : decode cX1_stop 171 = .ok (.goto 8, 3) := dk_167 0 8 (dk_at dksX1_stop_7 5 rfl rfl)
theorem dX1_stop_174 : decode cX1_stop 174 = .ok (.aload 5, 2) := dk_25 5 (dk_at dksX1_stop_7 8 rfl rfl)
theorem dX1_stop_176 : decode cX1_stop 176 = .ok (.getfield 306, 3) := dk_180 1 50 (dk_at dksX1_stop_7 10 rfl rfl)
theorem dX1_stop_179 : decode cX1_stop 179 = .ok (.ireturn, 1) := dk_172 (dk_at dksX1_stop_7 13 rfl rfl)
abbrev cX1_ride : ByteArray := prog_1_method_24_code
def yX1_ride : MethodName := ⟨RX1, "ride", "(II)I"⟩
def dkwX1_ride_6 : List UInt8 := [180, 1, 89, 153, 0, 7, 4, 167, 0, 15, 3, 167, 0, 11, 187, 0, 1, 89, 183, 0, 3, 191, 172]
abbrev dktX1_ride_6 : List UInt8 := dkwX1_ride_6 ++ []
def dkwX1_ride_5 : List UInt8 := [45, 180, 1, 80, 167, 0, 40, 45, 180, 1, 83, 167, 0, 33, 45, 180, 1, 86, 167, 0, 26, 45]
abbrev dktX1_ride_5 : List UInt8 := dkwX1_ride_5 ++ dktX1_ride_6
def dkwX1_ride_4 : List UInt8 := [167, 0, 68, 45, 180, 1, 72, 167, 0, 61, 45, 182, 1, 75, 167, 0, 54, 45, 180, 1, 78, 167, 0, 47]
abbrev dktX1_ride_4 : List UInt8 := dkwX1_ride_4 ++ dktX1_ride_5
def dkwX1_ride_3 : List UInt8 := [180, 1, 63, 167, 0, 89, 45, 180, 1, 65, 167, 0, 82, 45, 180, 1, 67, 167, 0, 75, 45, 180, 1, 70]
abbrev dktX1_ride_3 : List UInt8 := dkwX1_ride_3 ++ dktX1_ride_4
def dkwX1_ride_2 : List UInt8 := [45, 180, 1, 57, 167, 0, 110, 45, 180, 1, 59, 167, 0, 103, 45, 180, 1, 61, 167, 0, 96, 45]
abbrev dktX1_ride_2 : List UInt8 := dkwX1_ride_2 ++ dktX1_ride_3
def dkwX1_ride_1 : List UInt8 := [170, 0, 0, 0, 175, 0, 0, 0, 0, 0, 0, 0, 13, 0, 0, 0, 69, 0, 0, 0, 76, 0, 0, 0, 83, 0, 0, 0, 90, 0, 0, 0, 97, 0, 0, 0, 104, 0, 0, 0, 111, 0, 0, 0, 118, 0, 0, 0, 125, 0, 0, 0, 132, 0, 0, 0, 139, 0, 0, 0, 146, 0, 0, 0, 153, 0, 0, 0, 160]
abbrev dktX1_ride_1 : List UInt8 := dkwX1_ride_1 ++ dktX1_ride_2
def dkwX1_ride_0 : List UInt8 := [42, 27, 182, 1, 53, 78, 28]
abbrev dktX1_ride_0 : List UInt8 := dkwX1_ride_0 ++ dktX1_ride_1
theorem dksX1_ride_0 : cX1_ride.data.toList.drop 0 = dktX1_ride_0 := by decide +kernel
theorem dksX1_ride_1 : cX1_ride.data.toList.drop 7 = dktX1_ride_1 := dk_seg dksX1_ride_0 7 rfl rfl
theorem dksX1_ride_2 : cX1_ride.data.toList.drop 76 = dktX1_ride_2 := dk_seg dksX1_ride_1 69 rfl rfl
theorem dksX1_ride_3 : cX1_ride.data.toList.drop 98 = dktX1_ride_3 := dk_seg dksX1_ride_2 22 rfl rfl
theorem dksX1_ride_4 : cX1_ride.data.toList.drop 122 = dktX1_ride_4 := dk_seg dksX1_ride_3 24 rfl rfl
theorem dksX1_ride_5 : cX1_ride.data.toList.drop 146 = dktX1_ride_5 := dk_seg dksX1_ride_4 24 rfl rfl
theorem dksX1_ride_6 : cX1_ride.data.toList.drop 168 = dktX1_ride_6 := dk_seg dksX1_ride_5 22 rfl rfl
theorem dX1_ride_0 : decode cX1_ride 0 = .ok (.aload_n 0, 1) := dk_42 (dk_at dksX1_ride_0 0 rfl rfl)
theorem dX1_ride_1 : decode cX1_ride 1 = .ok (.iload_n 1, 1) := dk_27 (dk_at dksX1_ride_0 1 rfl rfl)
theorem dX1_ride_2 : decode cX1_ride 2 = .ok (.invokevirtual 309, 3) := dk_182 1 53 (dk_at dksX1_ride_0 2 rfl rfl)
theorem dX1_ride_5 : decode cX1_ride 5 = .ok (.astore_n 3, 1) := dk_78 (dk_at dksX1_ride_0 5 rfl rfl)
theorem dX1_ride_6 : decode cX1_ride 6 = .ok (.iload_n 2, 1) := dk_28 (dk_at dksX1_ride_0 6 rfl rfl)
theorem dX1_ride_7 : decode cX1_ride 7 = .ok (.tableswitch 175 0 13 #[69, 76, 83, 90, 97, 104, 111, 118, 125, 132, 139, 146, 153, 160], 69) := by decide +kernel
theorem dX1_ride_76 : decode cX1_ride 76 = .ok (.aload_n 3, 1) := dk_45 (dk_at dksX1_ride_2 0 rfl rfl)
theorem dX1_ride_77 : decode cX1_ride 77 = .ok (.getfield 313, 3) := dk_180 1 57 (dk_at dksX1_ride_2 1 rfl rfl)
theorem dX1_ride_80 : decode cX1_ride 80 = .ok (.goto 110, 3) := dk_167 0 110 (dk_at dksX1_ride_2 4 rfl rfl)
theorem dX1_ride_83 : decode cX1_ride 83 = .ok (.aload_n 3, 1) := dk_45 (dk_at dksX1_ride_2 7 rfl rfl)
theorem dX1_ride_84 : decode cX1_ride 84 = .ok (.getfield 315, 3) := dk_180 1 59 (dk_at dksX1_ride_2 8 rfl rfl)
theorem dX1_ride_87 : decode cX1_ride 87 = .ok (.goto 103, 3) := dk_167 0 103 (dk_at dksX1_ride_2 11 rfl rfl)
theorem dX1_ride_90 : decode cX1_ride 90 = .ok (.aload_n 3, 1) := dk_45 (dk_at dksX1_ride_2 14 rfl rfl)
theorem dX1_ride_91 : decode cX1_ride 91 = .ok (.getfield 317, 3) := dk_180 1 61 (dk_at dksX1_ride_2 15 rfl rfl)
theorem dX1_ride_94 : decode cX1_ride 94 = .ok (.goto 96, 3) := dk_167 0 96 (dk_at dksX1_ride_2 18 rfl rfl)
theorem dX1_ride_97 : decode cX1_ride 97 = .ok (.aload_n 3, 1) := dk_45 (dk_at dksX1_ride_2 21 rfl rfl)
theorem dX1_ride_98 : decode cX1_ride 98 = .ok (.getfield 319, 3) := dk_180 1 63 (dk_at dksX1_ride_3 0 rfl rfl)
theorem dX1_ride_101 : decode cX1_ride 101 = .ok (.goto 89, 3) := dk_167 0 89 (dk_at dksX1_ride_3 3 rfl rfl)
theorem dX1_ride_104 : decode cX1_ride 104 = .ok (.aload_n 3, 1) := dk_45 (dk_at dksX1_ride_3 6 rfl rfl)
theorem dX1_ride_105 : decode cX1_ride 105 = .ok (.getfield 321, 3) := dk_180 1 65 (dk_at dksX1_ride_3 7 rfl rfl)
theorem dX1_ride_108 : decode cX1_ride 108 = .ok (.goto 82, 3) := dk_167 0 82 (dk_at dksX1_ride_3 10 rfl rfl)
theorem dX1_ride_111 : decode cX1_ride 111 = .ok (.aload_n 3, 1) := dk_45 (dk_at dksX1_ride_3 13 rfl rfl)
theorem dX1_ride_112 : decode cX1_ride 112 = .ok (.getfield 323, 3) := dk_180 1 67 (dk_at dksX1_ride_3 14 rfl rfl)
theorem dX1_ride_115 : decode cX1_ride 115 = .ok (.goto 75, 3) := dk_167 0 75 (dk_at dksX1_ride_3 17 rfl rfl)
theorem dX1_ride_118 : decode cX1_ride 118 = .ok (.aload_n 3, 1) := dk_45 (dk_at dksX1_ride_3 20 rfl rfl)
theorem dX1_ride_119 : decode cX1_ride 119 = .ok (.getfield 326, 3) := dk_180 1 70 (dk_at dksX1_ride_3 21 rfl rfl)
theorem dX1_ride_122 : decode cX1_ride 122 = .ok (.goto 68, 3) := dk_167 0 68 (dk_at dksX1_ride_4 0 rfl rfl)
theorem dX1_ride_125 : decode cX1_ride 125 = .ok (.aload_n 3, 1) := dk_45 (dk_at dksX1_ride_4 3 rfl rfl)
theorem dX1_ride_126 : decode cX1_ride 126 = .ok (.getfield 328, 3) := dk_180 1 72 (dk_at dksX1_ride_4 4 rfl rfl)
theorem dX1_ride_129 : decode cX1_ride 129 = .ok (.goto 61, 3) := dk_167 0 61 (dk_at dksX1_ride_4 7 rfl rfl)
theorem dX1_ride_132 : decode cX1_ride 132 = .ok (.aload_n 3, 1) := dk_45 (dk_at dksX1_ride_4 10 rfl rfl)
theorem dX1_ride_133 : decode cX1_ride 133 = .ok (.invokevirtual 331, 3) := dk_182 1 75 (dk_at dksX1_ride_4 11 rfl rfl)
theorem dX1_ride_136 : decode cX1_ride 136 = .ok (.goto 54, 3) := dk_167 0 54 (dk_at dksX1_ride_4 14 rfl rfl)
theorem dX1_ride_139 : decode cX1_ride 139 = .ok (.aload_n 3, 1) := dk_45 (dk_at dksX1_ride_4 17 rfl rfl)
theorem dX1_ride_140 : decode cX1_ride 140 = .ok (.getfield 334, 3) := dk_180 1 78 (dk_at dksX1_ride_4 18 rfl rfl)
theorem dX1_ride_143 : decode cX1_ride 143 = .ok (.goto 47, 3) := dk_167 0 47 (dk_at dksX1_ride_4 21 rfl rfl)
theorem dX1_ride_146 : decode cX1_ride 146 = .ok (.aload_n 3, 1) := dk_45 (dk_at dksX1_ride_5 0 rfl rfl)
theorem dX1_ride_147 : decode cX1_ride 147 = .ok (.getfield 336, 3) := dk_180 1 80 (dk_at dksX1_ride_5 1 rfl rfl)
theorem dX1_ride_150 : decode cX1_ride 150 = .ok (.goto 40, 3) := dk_167 0 40 (dk_at dksX1_ride_5 4 rfl rfl)
theorem dX1_ride_153 : decode cX1_ride 153 = .ok (.aload_n 3, 1) := dk_45 (dk_at dksX1_ride_5 7 rfl rfl)
theorem dX1_ride_154 : decode cX1_ride 154 = .ok (.getfield 339, 3) := dk_180 1 83 (dk_at dksX1_ride_5 8 rfl rfl)
theorem dX1_ride_157 : decode cX1_ride 157 = .ok (.goto 33, 3) := dk_167 0 33 (dk_at dksX1_ride_5 11 rfl rfl)
theorem dX1_ride_160 : decode cX1_ride 160 = .ok (.aload_n 3, 1) := dk_45 (dk_at dksX1_ride_5 14 rfl rfl)
theorem dX1_ride_161 : decode cX1_ride 161 = .ok (.getfield 342, 3) := dk_180 1 86 (dk_at dksX1_ride_5 15 rfl rfl)
theorem dX1_ride_164 : decode cX1_ride 164 = .ok (.goto 26, 3) := dk_167 0 26 (dk_at dksX1_ride_5 18 rfl rfl)
theorem dX1_ride_167 : decode cX1_ride 167 = .ok (.aload_n 3, 1) := dk_45 (dk_at dksX1_ride_5 21 rfl rfl)
theorem dX1_ride_168 : decode cX1_ride 168 = .ok (.getfield 345, 3) := dk_180 1 89 (dk_at dksX1_ride_6 0 rfl rfl)
theorem dX1_ride_171 : decode cX1_ride 171 = .ok (.ifCond .eq 7, 3) := dk_153 0 7 (dk_at dksX1_ride_6 3 rfl rfl)
theorem dX1_ride_174 : decode cX1_ride 174 = .ok (.iconst 1, 1) := dk_4 (dk_at dksX1_ride_6 6 rfl rfl)
theorem dX1_ride_175 : decode cX1_ride 175 = .ok (.goto 15, 3) := dk_167 0 15 (dk_at dksX1_ride_6 7 rfl rfl)
theorem dX1_ride_178 : decode cX1_ride 178 = .ok (.iconst 0, 1) := dk_3 (dk_at dksX1_ride_6 10 rfl rfl)
theorem dX1_ride_179 : decode cX1_ride 179 = .ok (.goto 11, 3) := dk_167 0 11 (dk_at dksX1_ride_6 11 rfl rfl)
theorem dX1_ride_182 : decode cX1_ride 182 = .ok (.new 1, 3) := dk_187 0 1 (dk_at dksX1_ride_6 14 rfl rfl)
theorem dX1_ride_185 : decode cX1_ride 185 = .ok (.dup, 1) := dk_89 (dk_at dksX1_ride_6 17 rfl rfl)
theorem dX1_ride_186 : decode cX1_ride 186 = .ok (.invokespecial 3, 3) := dk_183 0 3 (dk_at dksX1_ride_6 18 rfl rfl)
theorem dX1_ride_189 : decode cX1_ride 189 = .ok (.athrow, 1) := dk_191 (dk_at dksX1_ride_6 21 rfl rfl)
theorem dX1_ride_190 : decode cX1_ride 190 = .ok (.ireturn, 1) := dk_172 (dk_at dksX1_ride_6 22 rfl rfl)
abbrev cX1_rideAt : ByteArray := prog_1_method_12_code
def yX1_rideAt : MethodName := ⟨RX1, "rideAt", "(I)LSharedTaxis$Ride;"⟩
def dkwX1_rideAt_1 : List UInt8 := [42, 180, 0, 87, 180, 0, 146, 27, 185, 0, 140, 2, 0, 192, 0, 149, 176]
abbrev dktX1_rideAt_1 : List UInt8 := dkwX1_rideAt_1 ++ []
def dkwX1_rideAt_0 : List UInt8 := [27, 133, 9, 42, 180, 0, 87, 180, 0, 146, 185, 0, 137, 1, 0, 4, 100, 133, 184, 0, 125, 184, 0, 129]
abbrev dktX1_rideAt_0 : List UInt8 := dkwX1_rideAt_0 ++ dktX1_rideAt_1
theorem dksX1_rideAt_0 : cX1_rideAt.data.toList.drop 0 = dktX1_rideAt_0 := by decide +kernel
theorem dksX1_rideAt_1 : cX1_rideAt.data.toList.drop 24 = dktX1_rideAt_1 := dk_seg dksX1_rideAt_0 24 rfl rfl
theorem dX1_rideAt_0 : decode cX1_rideAt 0 = .ok (.iload_n 1, 1) := dk_27 (dk_at dksX1_rideAt_0 0 rfl rfl)
theorem dX1_rideAt_1 : decode cX1_rideAt 1 = .ok (.i2l, 1) := dk_133 (dk_at dksX1_rideAt_0 1 rfl rfl)
theorem dX1_rideAt_2 : decode cX1_rideAt 2 = .ok (.lconst 0, 1) := dk_9 (dk_at dksX1_rideAt_0 2 rfl rfl)
theorem dX1_rideAt_3 : decode cX1_rideAt 3 = .ok (.aload_n 0, 1) := dk_42 (dk_at dksX1_rideAt_0 3 rfl rfl)
theorem dX1_rideAt_4 : decode cX1_rideAt 4 = .ok (.getfield 87, 3) := dk_180 0 87 (dk_at dksX1_rideAt_0 4 rfl rfl)
theorem dX1_rideAt_7 : decode cX1_rideAt 7 = .ok (.getfield 146, 3) := dk_180 0 146 (dk_at dksX1_rideAt_0 7 rfl rfl)
theorem dX1_rideAt_10 : decode cX1_rideAt 10 = .ok (.invokeinterface 137 1, 5) := by decide +kernel
theorem dX1_rideAt_15 : decode cX1_rideAt 15 = .ok (.iconst 1, 1) := dk_4 (dk_at dksX1_rideAt_0 15 rfl rfl)
theorem dX1_rideAt_16 : decode cX1_rideAt 16 = .ok (.isub, 1) := dk_100 (dk_at dksX1_rideAt_0 16 rfl rfl)
theorem dX1_rideAt_17 : decode cX1_rideAt 17 = .ok (.i2l, 1) := dk_133 (dk_at dksX1_rideAt_0 17 rfl rfl)
theorem dX1_rideAt_18 : decode cX1_rideAt 18 = .ok (.invokestatic 125, 3) := dk_184 0 125 (dk_at dksX1_rideAt_0 18 rfl rfl)
theorem dX1_rideAt_21 : decode cX1_rideAt 21 = .ok (.invokestatic 129, 3) := dk_184 0 129 (dk_at dksX1_rideAt_0 21 rfl rfl)
theorem dX1_rideAt_24 : decode cX1_rideAt 24 = .ok (.aload_n 0, 1) := dk_42 (dk_at dksX1_rideAt_1 0 rfl rfl)
theorem dX1_rideAt_25 : decode cX1_rideAt 25 = .ok (.getfield 87, 3) := dk_180 0 87 (dk_at dksX1_rideAt_1 1 rfl rfl)
theorem dX1_rideAt_28 : decode cX1_rideAt 28 = .ok (.getfield 146, 3) := dk_180 0 146 (dk_at dksX1_rideAt_1 4 rfl rfl)
theorem dX1_rideAt_31 : decode cX1_rideAt 31 = .ok (.iload_n 1, 1) := dk_27 (dk_at dksX1_rideAt_1 7 rfl rfl)
theorem dX1_rideAt_32 : decode cX1_rideAt 32 = .ok (.invokeinterface 140 2, 5) := by decide +kernel
theorem dX1_rideAt_37 : decode cX1_rideAt 37 = .ok (.checkcast 149, 3) := dk_192 0 149 (dk_at dksX1_rideAt_1 13 rfl rfl)
theorem dX1_rideAt_40 : decode cX1_rideAt 40 = .ok (.areturn, 1) := dk_176 (dk_at dksX1_rideAt_1 16 rfl rfl)
abbrev cX1_offer : ByteArray := prog_1_method_25_code
def yX1_offer : MethodName := ⟨RX1, "offer", "(II)I"⟩
def dkwX1_offer_1 : List UInt8 := [154, 0, 14, 45, 180, 1, 94, 28, 182, 1, 97, 167, 0, 4, 2, 172]
abbrev dktX1_offer_1 : List UInt8 := dkwX1_offer_1 ++ []
def dkwX1_offer_0 : List UInt8 := [42, 27, 182, 1, 53, 78, 28, 133, 9, 20, 1, 92, 184, 0, 125, 184, 0, 129, 45, 180, 1, 57]
abbrev dktX1_offer_0 : List UInt8 := dkwX1_offer_0 ++ dktX1_offer_1
theorem dksX1_offer_0 : cX1_offer.data.toList.drop 0 = dktX1_offer_0 := by decide +kernel
theorem dksX1_offer_1 : cX1_offer.data.toList.drop 22 = dktX1_offer_1 := dk_seg dksX1_offer_0 22 rfl rfl
theorem dX1_offer_0 : decode cX1_offer 0 = .ok (.aload_n 0, 1) := dk_42 (dk_at dksX1_offer_0 0 rfl rfl)
theorem dX1_offer_1 : decode cX1_offer 1 = .ok (.iload_n 1, 1) := dk_27 (dk_at dksX1_offer_0 1 rfl rfl)
theorem dX1_offer_2 : decode cX1_offer 2 = .ok (.invokevirtual 309, 3) := dk_182 1 53 (dk_at dksX1_offer_0 2 rfl rfl)
theorem dX1_offer_5 : decode cX1_offer 5 = .ok (.astore_n 3, 1) := dk_78 (dk_at dksX1_offer_0 5 rfl rfl)
theorem dX1_offer_6 : decode cX1_offer 6 = .ok (.iload_n 2, 1) := dk_28 (dk_at dksX1_offer_0 6 rfl rfl)
theorem dX1_offer_7 : decode cX1_offer 7 = .ok (.i2l, 1) := dk_133 (dk_at dksX1_offer_0 7 rfl rfl)
theorem dX1_offer_8 : decode cX1_offer 8 = .ok (.lconst 0, 1) := dk_9 (dk_at dksX1_offer_0 8 rfl rfl)
theorem dX1_offer_9 : decode cX1_offer 9 = .ok (.ldc2_w 348, 3) := dk_20 1 92 (dk_at dksX1_offer_0 9 rfl rfl)
theorem dX1_offer_12 : decode cX1_offer 12 = .ok (.invokestatic 125, 3) := dk_184 0 125 (dk_at dksX1_offer_0 12 rfl rfl)
theorem dX1_offer_15 : decode cX1_offer 15 = .ok (.invokestatic 129, 3) := dk_184 0 129 (dk_at dksX1_offer_0 15 rfl rfl)
theorem dX1_offer_18 : decode cX1_offer 18 = .ok (.aload_n 3, 1) := dk_45 (dk_at dksX1_offer_0 18 rfl rfl)
theorem dX1_offer_19 : decode cX1_offer 19 = .ok (.getfield 313, 3) := dk_180 1 57 (dk_at dksX1_offer_0 19 rfl rfl)
theorem dX1_offer_22 : decode cX1_offer 22 = .ok (.ifCond .ne 14, 3) := dk_154 0 14 (dk_at dksX1_offer_1 0 rfl rfl)
theorem dX1_offer_25 : decode cX1_offer 25 = .ok (.aload_n 3, 1) := dk_45 (dk_at dksX1_offer_1 3 rfl rfl)
theorem dX1_offer_26 : decode cX1_offer 26 = .ok (.getfield 350, 3) := dk_180 1 94 (dk_at dksX1_offer_1 4 rfl rfl)
theorem dX1_offer_29 : decode cX1_offer 29 = .ok (.iload_n 2, 1) := dk_28 (dk_at dksX1_offer_1 7 rfl rfl)
theorem dX1_offer_30 : decode cX1_offer 30 = .ok (.invokevirtual 353, 3) := dk_182 1 97 (dk_at dksX1_offer_1 8 rfl rfl)
theorem dX1_offer_33 : decode cX1_offer 33 = .ok (.goto 4, 3) := dk_167 0 4 (dk_at dksX1_offer_1 11 rfl rfl)
theorem dX1_offer_36 : decode cX1_offer 36 = .ok (.iconst (-1), 1) := dk_2 (dk_at dksX1_offer_1 14 rfl rfl)
theorem dX1_offer_37 : decode cX1_offer 37 = .ok (.ireturn, 1) := dk_172 (dk_at dksX1_offer_1 15 rfl rfl)
abbrev cX1_extra : ByteArray := prog_1_method_26_code
def yX1_extra : MethodName := ⟨RX1, "extra", "(II)I"⟩
def dkwX1_extra_2 : List UInt8 := [180, 1, 109, 167, 0, 4, 2, 172]
abbrev dktX1_extra_2 : List UInt8 := dkwX1_extra_2 ++ []
def dkwX1_extra_1 : List UInt8 := [58, 5, 45, 180, 1, 57, 154, 0, 22, 25, 5, 25, 4, 27, 182, 1, 105, 153, 0, 11, 25, 5]
abbrev dktX1_extra_1 : List UInt8 := dkwX1_extra_1 ++ dktX1_extra_2
def dkwX1_extra_0 : List UInt8 := [42, 27, 182, 1, 53, 78, 42, 28, 182, 0, 238, 58, 4, 187, 1, 102, 89, 42, 180, 0, 87, 183, 1, 104]
abbrev dktX1_extra_0 : List UInt8 := dkwX1_extra_0 ++ dktX1_extra_1
theorem dksX1_extra_0 : cX1_extra.data.toList.drop 0 = dktX1_extra_0 := by decide +kernel
theorem dksX1_extra_1 : cX1_extra.data.toList.drop 24 = dktX1_extra_1 := dk_seg dksX1_extra_0 24 rfl rfl
theorem dksX1_extra_2 : cX1_extra.data.toList.drop 46 = dktX1_extra_2 := dk_seg dksX1_extra_1 22 rfl rfl
theorem dX1_extra_0 : decode cX1_extra 0 = .ok (.aload_n 0, 1) := dk_42 (dk_at dksX1_extra_0 0 rfl rfl)
theorem dX1_extra_1 : decode cX1_extra 1 = .ok (.iload_n 1, 1) := dk_27 (dk_at dksX1_extra_0 1 rfl rfl)
theorem dX1_extra_2 : decode cX1_extra 2 = .ok (.invokevirtual 309, 3) := dk_182 1 53 (dk_at dksX1_extra_0 2 rfl rfl)
theorem dX1_extra_5 : decode cX1_extra 5 = .ok (.astore_n 3, 1) := dk_78 (dk_at dksX1_extra_0 5 rfl rfl)
theorem dX1_extra_6 : decode cX1_extra 6 = .ok (.aload_n 0, 1) := dk_42 (dk_at dksX1_extra_0 6 rfl rfl)
theorem dX1_extra_7 : decode cX1_extra 7 = .ok (.iload_n 2, 1) := dk_28 (dk_at dksX1_extra_0 7 rfl rfl)
theorem dX1_extra_8 : decode cX1_extra 8 = .ok (.invokevirtual 238, 3) := dk_182 0 238 (dk_at dksX1_extra_0 8 rfl rfl)
theorem dX1_extra_11 : decode cX1_extra 11 = .ok (.astore 4, 2) := dk_58 4 (dk_at dksX1_extra_0 11 rfl rfl)
theorem dX1_extra_13 : decode cX1_extra 13 = .ok (.new 358, 3) := dk_187 1 102 (dk_at dksX1_extra_0 13 rfl rfl)
theorem dX1_extra_16 : decode cX1_extra 16 = .ok (.dup, 1) := dk_89 (dk_at dksX1_extra_0 16 rfl rfl)
theorem dX1_extra_17 : decode cX1_extra 17 = .ok (.aload_n 0, 1) := dk_42 (dk_at dksX1_extra_0 17 rfl rfl)
theorem dX1_extra_18 : decode cX1_extra 18 = .ok (.getfield 87, 3) := dk_180 0 87 (dk_at dksX1_extra_0 18 rfl rfl)
theorem dX1_extra_21 : decode cX1_extra 21 = .ok (.invokespecial 360, 3) := dk_183 1 104 (dk_at dksX1_extra_0 21 rfl rfl)
theorem dX1_extra_24 : decode cX1_extra 24 = .ok (.astore 5, 2) := dk_58 5 (dk_at dksX1_extra_1 0 rfl rfl)
theorem dX1_extra_26 : decode cX1_extra 26 = .ok (.aload_n 3, 1) := dk_45 (dk_at dksX1_extra_1 2 rfl rfl)
theorem dX1_extra_27 : decode cX1_extra 27 = .ok (.getfield 313, 3) := dk_180 1 57 (dk_at dksX1_extra_1 3 rfl rfl)
theorem dX1_extra_30 : decode cX1_extra 30 = .ok (.ifCond .ne 22, 3) := dk_154 0 22 (dk_at dksX1_extra_1 6 rfl rfl)
theorem dX1_extra_33 : decode cX1_extra 33 = .ok (.aload 5, 2) := dk_25 5 (dk_at dksX1_extra_1 9 rfl rfl)
theorem dX1_extra_35 : decode cX1_extra 35 = .ok (.aload 4, 2) := dk_25 4 (dk_at dksX1_extra_1 11 rfl rfl)
theorem dX1_extra_37 : decode cX1_extra 37 = .ok (.iload_n 1, 1) := dk_27 (dk_at dksX1_extra_1 13 rfl rfl)
theorem dX1_extra_38 : decode cX1_extra 38 = .ok (.invokevirtual 361, 3) := dk_182 1 105 (dk_at dksX1_extra_1 14 rfl rfl)
theorem dX1_extra_41 : decode cX1_extra 41 = .ok (.ifCond .eq 11, 3) := dk_153 0 11 (dk_at dksX1_extra_1 17 rfl rfl)
theorem dX1_extra_44 : decode cX1_extra 44 = .ok (.aload 5, 2) := dk_25 5 (dk_at dksX1_extra_1 20 rfl rfl)
theorem dX1_extra_46 : decode cX1_extra 46 = .ok (.getfield 365, 3) := dk_180 1 109 (dk_at dksX1_extra_2 0 rfl rfl)
theorem dX1_extra_49 : decode cX1_extra 49 = .ok (.goto 4, 3) := dk_167 0 4 (dk_at dksX1_extra_2 3 rfl rfl)
theorem dX1_extra_52 : decode cX1_extra 52 = .ok (.iconst (-1), 1) := dk_2 (dk_at dksX1_extra_2 6 rfl rfl)
theorem dX1_extra_53 : decode cX1_extra 53 = .ok (.ireturn, 1) := dk_172 (dk_at dksX1_extra_2 7 rfl rfl)
abbrev cX1_fare : ByteArray := prog_1_method_28_code
def yX1_fare : MethodName := ⟨RX1, "fare", "(I)I"⟩
def dkwX1_fare_2 : List UInt8 := [180, 1, 78, 185, 0, 140, 2, 0, 192, 0, 144, 27, 182, 1, 148, 96, 172]
abbrev dktX1_fare_2 : List UInt8 := dkwX1_fare_2 ++ []
def dkwX1_fare_1 : List UInt8 := [180, 1, 57, 5, 159, 0, 5, 2, 172, 44, 180, 1, 86, 42, 42, 180, 0, 87, 180, 0, 133, 44]
abbrev dktX1_fare_1 : List UInt8 := dkwX1_fare_1 ++ dktX1_fare_2
def dkwX1_fare_0 : List UInt8 := [42, 27, 182, 1, 53, 77, 44, 180, 1, 89, 154, 0, 19, 44, 180, 1, 57, 4, 159, 0, 13, 44]
abbrev dktX1_fare_0 : List UInt8 := dkwX1_fare_0 ++ dktX1_fare_1
theorem dksX1_fare_0 : cX1_fare.data.toList.drop 0 = dktX1_fare_0 := by decide +kernel
theorem dksX1_fare_1 : cX1_fare.data.toList.drop 22 = dktX1_fare_1 := dk_seg dksX1_fare_0 22 rfl rfl
theorem dksX1_fare_2 : cX1_fare.data.toList.drop 44 = dktX1_fare_2 := dk_seg dksX1_fare_1 22 rfl rfl
theorem dX1_fare_0 : decode cX1_fare 0 = .ok (.aload_n 0, 1) := dk_42 (dk_at dksX1_fare_0 0 rfl rfl)
theorem dX1_fare_1 : decode cX1_fare 1 = .ok (.iload_n 1, 1) := dk_27 (dk_at dksX1_fare_0 1 rfl rfl)
theorem dX1_fare_2 : decode cX1_fare 2 = .ok (.invokevirtual 309, 3) := dk_182 1 53 (dk_at dksX1_fare_0 2 rfl rfl)
theorem dX1_fare_5 : decode cX1_fare 5 = .ok (.astore_n 2, 1) := dk_77 (dk_at dksX1_fare_0 5 rfl rfl)
theorem dX1_fare_6 : decode cX1_fare 6 = .ok (.aload_n 2, 1) := dk_44 (dk_at dksX1_fare_0 6 rfl rfl)
theorem dX1_fare_7 : decode cX1_fare 7 = .ok (.getfield 345, 3) := dk_180 1 89 (dk_at dksX1_fare_0 7 rfl rfl)
theorem dX1_fare_10 : decode cX1_fare 10 = .ok (.ifCond .ne 19, 3) := dk_154 0 19 (dk_at dksX1_fare_0 10 rfl rfl)
theorem dX1_fare_13 : decode cX1_fare 13 = .ok (.aload_n 2, 1) := dk_44 (dk_at dksX1_fare_0 13 rfl rfl)
theorem dX1_fare_14 : decode cX1_fare 14 = .ok (.getfield 313, 3) := dk_180 1 57 (dk_at dksX1_fare_0 14 rfl rfl)
theorem dX1_fare_17 : decode cX1_fare 17 = .ok (.iconst 1, 1) := dk_4 (dk_at dksX1_fare_0 17 rfl rfl)
theorem dX1_fare_18 : decode cX1_fare 18 = .ok (.if_icmp .eq 13, 3) := dk_159 0 13 (dk_at dksX1_fare_0 18 rfl rfl)
theorem dX1_fare_21 : decode cX1_fare 21 = .ok (.aload_n 2, 1) := dk_44 (dk_at dksX1_fare_0 21 rfl rfl)
theorem dX1_fare_22 : decode cX1_fare 22 = .ok (.getfield 313, 3) := dk_180 1 57 (dk_at dksX1_fare_1 0 rfl rfl)
theorem dX1_fare_25 : decode cX1_fare 25 = .ok (.iconst 2, 1) := dk_5 (dk_at dksX1_fare_1 3 rfl rfl)
theorem dX1_fare_26 : decode cX1_fare 26 = .ok (.if_icmp .eq 5, 3) := dk_159 0 5 (dk_at dksX1_fare_1 4 rfl rfl)
theorem dX1_fare_29 : decode cX1_fare 29 = .ok (.iconst (-1), 1) := dk_2 (dk_at dksX1_fare_1 7 rfl rfl)
theorem dX1_fare_30 : decode cX1_fare 30 = .ok (.ireturn, 1) := dk_172 (dk_at dksX1_fare_1 8 rfl rfl)
theorem dX1_fare_31 : decode cX1_fare 31 = .ok (.aload_n 2, 1) := dk_44 (dk_at dksX1_fare_1 9 rfl rfl)
theorem dX1_fare_32 : decode cX1_fare 32 = .ok (.getfield 342, 3) := dk_180 1 86 (dk_at dksX1_fare_1 10 rfl rfl)
theorem dX1_fare_35 : decode cX1_fare 35 = .ok (.aload_n 0, 1) := dk_42 (dk_at dksX1_fare_1 13 rfl rfl)
theorem dX1_fare_36 : decode cX1_fare 36 = .ok (.aload_n 0, 1) := dk_42 (dk_at dksX1_fare_1 14 rfl rfl)
theorem dX1_fare_37 : decode cX1_fare 37 = .ok (.getfield 87, 3) := dk_180 0 87 (dk_at dksX1_fare_1 15 rfl rfl)
theorem dX1_fare_40 : decode cX1_fare 40 = .ok (.getfield 133, 3) := dk_180 0 133 (dk_at dksX1_fare_1 18 rfl rfl)
theorem dX1_fare_43 : decode cX1_fare 43 = .ok (.aload_n 2, 1) := dk_44 (dk_at dksX1_fare_1 21 rfl rfl)
theorem dX1_fare_44 : decode cX1_fare 44 = .ok (.getfield 334, 3) := dk_180 1 78 (dk_at dksX1_fare_2 0 rfl rfl)
theorem dX1_fare_47 : decode cX1_fare 47 = .ok (.invokeinterface 140 2, 5) := by decide +kernel
theorem dX1_fare_52 : decode cX1_fare 52 = .ok (.checkcast 144, 3) := dk_192 0 144 (dk_at dksX1_fare_2 8 rfl rfl)
theorem dX1_fare_55 : decode cX1_fare 55 = .ok (.iload_n 1, 1) := dk_27 (dk_at dksX1_fare_2 11 rfl rfl)
theorem dX1_fare_56 : decode cX1_fare 56 = .ok (.invokevirtual 404, 3) := dk_182 1 148 (dk_at dksX1_fare_2 12 rfl rfl)
theorem dX1_fare_59 : decode cX1_fare 59 = .ok (.iadd, 1) := dk_96 (dk_at dksX1_fare_2 15 rfl rfl)
theorem dX1_fare_60 : decode cX1_fare 60 = .ok (.ireturn, 1) := dk_172 (dk_at dksX1_fare_2 16 rfl rfl)
abbrev cX1_farther : ByteArray := prog_1_method_27_code
def yX1_farther : MethodName := ⟨RX1, "farther", "(LSharedTaxis$Taxi;I)I"⟩
def dkwX1_farther_9 : List UInt8 := [185, 1, 145, 2, 0, 87, 167, 255, 84, 21, 5, 172]
abbrev dktX1_farther_9 : List UInt8 := dkwX1_farther_9 ++ []
def dkwX1_farther_8 : List UInt8 := [180, 1, 31, 180, 1, 39, 154, 0, 21, 45, 25, 4, 180, 1, 31, 180, 1, 35, 184, 1, 120]
abbrev dktX1_farther_8 : List UInt8 := dkwX1_farther_8 ++ dktX1_farther_9
def dkwX1_farther_7 : List UInt8 := [160, 0, 13, 42, 180, 0, 87, 180, 0, 219, 167, 0, 4, 3, 96, 54, 5, 167, 0, 32, 25, 4]
abbrev dktX1_farther_7 : List UInt8 := dkwX1_farther_7 ++ dktX1_farther_8
def dkwX1_farther_6 : List UInt8 := [180, 1, 35, 184, 1, 120, 185, 1, 142, 2, 0, 87, 21, 5, 25, 4, 180, 1, 31, 180, 1, 35, 28]
abbrev dktX1_farther_6 : List UInt8 := dkwX1_farther_6 ++ dktX1_farther_7
def dkwX1_farther_5 : List UInt8 := [180, 1, 39, 153, 0, 63, 25, 4, 180, 1, 139, 180, 1, 89, 154, 0, 52, 45, 25, 4, 180, 1, 31]
abbrev dktX1_farther_5 : List UInt8 := dkwX1_farther_5 ++ dktX1_farther_6
def dkwX1_farther_4 : List UInt8 := [182, 1, 132, 21, 7, 21, 6, 182, 1, 136, 167, 0, 4, 3, 96, 54, 5, 25, 4, 180, 1, 31]
abbrev dktX1_farther_4 : List UInt8 := dkwX1_farther_4 ++ dktX1_farther_5
def dkwX1_farther_3 : List UInt8 := [21, 5, 21, 6, 155, 0, 31, 42, 180, 0, 87, 42, 180, 0, 87, 25, 4, 180, 1, 130, 21, 7]
abbrev dktX1_farther_3 : List UInt8 := dkwX1_farther_3 ++ dktX1_farther_4
def dkwX1_farther_2 : List UInt8 := [182, 1, 26, 45, 28, 184, 1, 120, 185, 1, 126, 2, 0, 54, 6, 45, 185, 0, 137, 1, 0, 54, 7]
abbrev dktX1_farther_2 : List UInt8 := dkwX1_farther_2 ++ dktX1_farther_3
def dkwX1_farther_1 : List UInt8 := [43, 180, 0, 203, 182, 1, 23, 58, 4, 3, 54, 5, 25, 4, 182, 1, 117, 153, 0, 170, 25, 4]
abbrev dktX1_farther_1 : List UInt8 := dkwX1_farther_1 ++ dktX1_farther_2
def dkwX1_farther_0 : List UInt8 := [187, 1, 112, 89, 43, 180, 1, 5, 183, 1, 114, 78, 187, 1, 18, 89, 42, 180, 0, 87, 183, 1, 20, 43]
abbrev dktX1_farther_0 : List UInt8 := dkwX1_farther_0 ++ dktX1_farther_1
theorem dksX1_farther_0 : cX1_farther.data.toList.drop 0 = dktX1_farther_0 := by decide +kernel
theorem dksX1_farther_1 : cX1_farther.data.toList.drop 24 = dktX1_farther_1 := dk_seg dksX1_farther_0 24 rfl rfl
theorem dksX1_farther_2 : cX1_farther.data.toList.drop 46 = dktX1_farther_2 := dk_seg dksX1_farther_1 22 rfl rfl
theorem dksX1_farther_3 : cX1_farther.data.toList.drop 69 = dktX1_farther_3 := dk_seg dksX1_farther_2 23 rfl rfl
theorem dksX1_farther_4 : cX1_farther.data.toList.drop 91 = dktX1_farther_4 := dk_seg dksX1_farther_3 22 rfl rfl
theorem dksX1_farther_5 : cX1_farther.data.toList.drop 113 = dktX1_farther_5 := dk_seg dksX1_farther_4 22 rfl rfl
theorem dksX1_farther_6 : cX1_farther.data.toList.drop 136 = dktX1_farther_6 := dk_seg dksX1_farther_5 23 rfl rfl
theorem dksX1_farther_7 : cX1_farther.data.toList.drop 159 = dktX1_farther_7 := dk_seg dksX1_farther_6 23 rfl rfl
theorem dksX1_farther_8 : cX1_farther.data.toList.drop 181 = dktX1_farther_8 := dk_seg dksX1_farther_7 22 rfl rfl
theorem dksX1_farther_9 : cX1_farther.data.toList.drop 202 = dktX1_farther_9 := dk_seg dksX1_farther_8 21 rfl rfl
theorem dX1_farther_0 : decode cX1_farther 0 = .ok (.new 368, 3) := dk_187 1 112 (dk_at dksX1_farther_0 0 rfl rfl)
theorem dX1_farther_3 : decode cX1_farther 3 = .ok (.dup, 1) := dk_89 (dk_at dksX1_farther_0 3 rfl rfl)
theorem dX1_farther_4 : decode cX1_farther 4 = .ok (.aload_n 1, 1) := dk_43 (dk_at dksX1_farther_0 4 rfl rfl)
theorem dX1_farther_5 : decode cX1_farther 5 = .ok (.getfield 261, 3) := dk_180 1 5 (dk_at dksX1_farther_0 5 rfl rfl)
theorem dX1_farther_8 : decode cX1_farther 8 = .ok (.invokespecial 370, 3) := dk_183 1 114 (dk_at dksX1_farther_0 8 rfl rfl)
theorem dX1_farther_11 : decode cX1_farther 11 = .ok (.astore_n 3, 1) := dk_78 (dk_at dksX1_farther_0 11 rfl rfl)
theorem dX1_farther_12 : decode cX1_farther 12 = .ok (.new 274, 3) := dk_187 1 18 (dk_at dksX1_farther_0 12 rfl rfl)
theorem dX1_farther_15 : decode cX1_farther 15 = .ok (.dup, 1) := dk_89 (dk_at dksX1_farther_0 15 rfl rfl)
theorem dX1_farther_16 : decode cX1_farther 16 = .ok (.aload_n 0, 1) := dk_42 (dk_at dksX1_farther_0 16 rfl rfl)
theorem dX1_farther_17 : decode cX1_farther 17 = .ok (.getfield 87, 3) := dk_180 0 87 (dk_at dksX1_farther_0 17 rfl rfl)
theorem dX1_farther_20 : decode cX1_farther 20 = .ok (.invokespecial 276, 3) := dk_183 1 20 (dk_at dksX1_farther_0 20 rfl rfl)
theorem dX1_farther_23 : decode cX1_farther 23 = .ok (.aload_n 1, 1) := dk_43 (dk_at dksX1_farther_0 23 rfl rfl)
theorem dX1_farther_24 : decode cX1_farther 24 = .ok (.aload_n 1, 1) := dk_43 (dk_at dksX1_farther_1 0 rfl rfl)
theorem dX1_farther_25 : decode cX1_farther 25 = .ok (.getfield 203, 3) := dk_180 0 203 (dk_at dksX1_farther_1 1 rfl rfl)
theorem dX1_farther_28 : decode cX1_farther 28 = .ok (.invokevirtual 279, 3) := dk_182 1 23 (dk_at dksX1_farther_1 4 rfl rfl)
theorem dX1_farther_31 : decode cX1_farther 31 = .ok (.astore 4, 2) := dk_58 4 (dk_at dksX1_farther_1 7 rfl rfl)
theorem dX1_farther_33 : decode cX1_farther 33 = .ok (.iconst 0, 1) := dk_3 (dk_at dksX1_farther_1 9 rfl rfl)
theorem dX1_farther_34 : decode cX1_farther 34 = .ok (.istore 5, 2) := dk_54 5 (dk_at dksX1_farther_1 10 rfl rfl)
theorem dX1_farther_36 : decode cX1_farther 36 = .ok (.aload 4, 2) := dk_25 4 (dk_at dksX1_farther_1 12 rfl rfl)
theorem dX1_farther_38 : decode cX1_farther 38 = .ok (.invokevirtual 373, 3) := dk_182 1 117 (dk_at dksX1_farther_1 14 rfl rfl)
theorem dX1_farther_41 : decode cX1_farther 41 = .ok (.ifCond .eq 170, 3) := dk_153 0 170 (dk_at dksX1_farther_1 17 rfl rfl)
theorem dX1_farther_44 : decode cX1_farther 44 = .ok (.aload 4, 2) := dk_25 4 (dk_at dksX1_farther_1 20 rfl rfl)
theorem dX1_farther_46 : decode cX1_farther 46 = .ok (.invokevirtual 282, 3) := dk_182 1 26 (dk_at dksX1_farther_2 0 rfl rfl)
theorem dX1_farther_49 : decode cX1_farther 49 = .ok (.aload_n 3, 1) := dk_45 (dk_at dksX1_farther_2 3 rfl rfl)
theorem dX1_farther_50 : decode cX1_farther 50 = .ok (.iload_n 2, 1) := dk_28 (dk_at dksX1_farther_2 4 rfl rfl)
theorem dX1_farther_51 : decode cX1_farther 51 = .ok (.invokestatic 376, 3) := dk_184 1 120 (dk_at dksX1_farther_2 5 rfl rfl)
theorem dX1_farther_54 : decode cX1_farther 54 = .ok (.invokeinterface 382 2, 5) := by decide +kernel
theorem dX1_farther_59 : decode cX1_farther 59 = .ok (.istore 6, 2) := dk_54 6 (dk_at dksX1_farther_2 13 rfl rfl)
theorem dX1_farther_61 : decode cX1_farther 61 = .ok (.aload_n 3, 1) := dk_45 (dk_at dksX1_farther_2 15 rfl rfl)
theorem dX1_farther_62 : decode cX1_farther 62 = .ok (.invokeinterface 137 1, 5) := by decide +kernel
theorem dX1_farther_67 : decode cX1_farther 67 = .ok (.istore 7, 2) := dk_54 7 (dk_at dksX1_farther_2 21 rfl rfl)
theorem dX1_farther_69 : decode cX1_farther 69 = .ok (.iload 5, 2) := dk_21 5 (dk_at dksX1_farther_3 0 rfl rfl)
theorem dX1_farther_71 : decode cX1_farther 71 = .ok (.iload 6, 2) := dk_21 6 (dk_at dksX1_farther_3 2 rfl rfl)
theorem dX1_farther_73 : decode cX1_farther 73 = .ok (.ifCond .lt 31, 3) := dk_155 0 31 (dk_at dksX1_farther_3 4 rfl rfl)
theorem dX1_farther_76 : decode cX1_farther 76 = .ok (.aload_n 0, 1) := dk_42 (dk_at dksX1_farther_3 7 rfl rfl)
theorem dX1_farther_77 : decode cX1_farther 77 = .ok (.getfield 87, 3) := dk_180 0 87 (dk_at dksX1_farther_3 8 rfl rfl)
theorem dX1_farther_80 : decode cX1_farther 80 = .ok (.aload_n 0, 1) := dk_42 (dk_at dksX1_farther_3 11 rfl rfl)
theorem dX1_farther_81 : decode cX1_farther 81 = .ok (.getfield 87, 3) := dk_180 0 87 (dk_at dksX1_farther_3 12 rfl rfl)
theorem dX1_farther_84 : decode cX1_farther 84 = .ok (.aload 4, 2) := dk_25 4 (dk_at dksX1_farther_3 15 rfl rfl)
theorem dX1_farther_86 : decode cX1_farther 86 = .ok (.getfield 386, 3) := dk_180 1 130 (dk_at dksX1_farther_3 17 rfl rfl)
theorem dX1_farther_89 : decode cX1_farther 89 = .ok (.iload 7, 2) := dk_21 7 (dk_at dksX1_farther_3 20 rfl rfl)
theorem dX1_farther_91 : decode cX1_farther 91 = .ok (.invokevirtual 388, 3) := dk_182 1 132 (dk_at dksX1_farther_4 0 rfl rfl)
theorem dX1_farther_94 : decode cX1_farther 94 = .ok (.iload 7, 2) := dk_21 7 (dk_at dksX1_farther_4 3 rfl rfl)
theorem dX1_farther_96 : decode cX1_farther 96 = .ok (.iload 6, 2) := dk_21 6 (dk_at dksX1_farther_4 5 rfl rfl)
theorem dX1_farther_98 : decode cX1_farther 98 = .ok (.invokevirtual 392, 3) := dk_182 1 136 (dk_at dksX1_farther_4 7 rfl rfl)
theorem dX1_farther_101 : decode cX1_farther 101 = .ok (.goto 4, 3) := dk_167 0 4 (dk_at dksX1_farther_4 10 rfl rfl)
theorem dX1_farther_104 : decode cX1_farther 104 = .ok (.iconst 0, 1) := dk_3 (dk_at dksX1_farther_4 13 rfl rfl)
theorem dX1_farther_105 : decode cX1_farther 105 = .ok (.iadd, 1) := dk_96 (dk_at dksX1_farther_4 14 rfl rfl)
theorem dX1_farther_106 : decode cX1_farther 106 = .ok (.istore 5, 2) := dk_54 5 (dk_at dksX1_farther_4 15 rfl rfl)
theorem dX1_farther_108 : decode cX1_farther 108 = .ok (.aload 4, 2) := dk_25 4 (dk_at dksX1_farther_4 17 rfl rfl)
theorem dX1_farther_110 : decode cX1_farther 110 = .ok (.getfield 287, 3) := dk_180 1 31 (dk_at dksX1_farther_4 19 rfl rfl)
theorem dX1_farther_113 : decode cX1_farther 113 = .ok (.getfield 295, 3) := dk_180 1 39 (dk_at dksX1_farther_5 0 rfl rfl)
theorem dX1_farther_116 : decode cX1_farther 116 = .ok (.ifCond .eq 63, 3) := dk_153 0 63 (dk_at dksX1_farther_5 3 rfl rfl)
theorem dX1_farther_119 : decode cX1_farther 119 = .ok (.aload 4, 2) := dk_25 4 (dk_at dksX1_farther_5 6 rfl rfl)
theorem dX1_farther_121 : decode cX1_farther 121 = .ok (.getfield 395, 3) := dk_180 1 139 (dk_at dksX1_farther_5 8 rfl rfl)
theorem dX1_farther_124 : decode cX1_farther 124 = .ok (.getfield 345, 3) := dk_180 1 89 (dk_at dksX1_farther_5 11 rfl rfl)
theorem dX1_farther_127 : decode cX1_farther 127 = .ok (.ifCond .ne 52, 3) := dk_154 0 52 (dk_at dksX1_farther_5 14 rfl rfl)
theorem dX1_farther_130 : decode cX1_farther 130 = .ok (.aload_n 3, 1) := dk_45 (dk_at dksX1_farther_5 17 rfl rfl)
theorem dX1_farther_131 : decode cX1_farther 131 = .ok (.aload 4, 2) := dk_25 4 (dk_at dksX1_farther_5 18 rfl rfl)
theorem dX1_farther_133 : decode cX1_farther 133 = .ok (.getfield 287, 3) := dk_180 1 31 (dk_at dksX1_farther_5 20 rfl rfl)
theorem dX1_farther_136 : decode cX1_farther 136 = .ok (.getfield 291, 3) := dk_180 1 35 (dk_at dksX1_farther_6 0 rfl rfl)
theorem dX1_farther_139 : decode cX1_farther 139 = .ok (.invokestatic 376, 3) := dk_184 1 120 (dk_at dksX1_farther_6 3 rfl rfl)
theorem dX1_farther_142 : decode cX1_farther 142 = .ok (.invokeinterface 398 2, 5) := by decide +kernel
theorem dX1_farther_147 : decode cX1_farther 147 = .ok (.pop, 1) := dk_87 (dk_at dksX1_farther_6 11 rfl rfl)
theorem dX1_farther_148 : decode cX1_farther 148 = .ok (.iload 5, 2) := dk_21 5 (dk_at dksX1_farther_6 12 rfl rfl)
theorem dX1_farther_150 : decode cX1_farther 150 = .ok (.aload 4, 2) := dk_25 4 (dk_at dksX1_farther_6 14 rfl rfl)
theorem dX1_farther_152 : decode cX1_farther 152 = .ok (.getfield 287, 3) := dk_180 1 31 (dk_at dksX1_farther_6 16 rfl rfl)
theorem dX1_farther_155 : decode cX1_farther 155 = .ok (.getfield 291, 3) := dk_180 1 35 (dk_at dksX1_farther_6 19 rfl rfl)
theorem dX1_farther_158 : decode cX1_farther 158 = .ok (.iload_n 2, 1) := dk_28 (dk_at dksX1_farther_6 22 rfl rfl)
theorem dX1_farther_159 : decode cX1_farther 159 = .ok (.if_icmp .ne 13, 3) := dk_160 0 13 (dk_at dksX1_farther_7 0 rfl rfl)
theorem dX1_farther_162 : decode cX1_farther 162 = .ok (.aload_n 0, 1) := dk_42 (dk_at dksX1_farther_7 3 rfl rfl)
theorem dX1_farther_163 : decode cX1_farther 163 = .ok (.getfield 87, 3) := dk_180 0 87 (dk_at dksX1_farther_7 4 rfl rfl)
theorem dX1_farther_166 : decode cX1_farther 166 = .ok (.getfield 219, 3) := dk_180 0 219 (dk_at dksX1_farther_7 7 rfl rfl)
theorem dX1_farther_169 : decode cX1_farther 169 = .ok (.goto 4, 3) := dk_167 0 4 (dk_at dksX1_farther_7 10 rfl rfl)
theorem dX1_farther_172 : decode cX1_farther 172 = .ok (.iconst 0, 1) := dk_3 (dk_at dksX1_farther_7 13 rfl rfl)
theorem dX1_farther_173 : decode cX1_farther 173 = .ok (.iadd, 1) := dk_96 (dk_at dksX1_farther_7 14 rfl rfl)
theorem dX1_farther_174 : decode cX1_farther 174 = .ok (.istore 5, 2) := dk_54 5 (dk_at dksX1_farther_7 15 rfl rfl)
theorem dX1_farther_176 : decode cX1_farther 176 = .ok (.goto 32, 3) := dk_167 0 32 (dk_at dksX1_farther_7 17 rfl rfl)
theorem dX1_farther_179 : decode cX1_farther 179 = .ok (.aload 4, 2) := dk_25 4 (dk_at dksX1_farther_7 20 rfl rfl)
theorem dX1_farther_181 : decode cX1_farther 181 = .ok (.getfield 287, 3) := dk_180 1 31 (dk_at dksX1_farther_8 0 rfl rfl)
theorem dX1_farther_184 : decode cX1_farther 184 = .ok (.getfield 295, 3) := dk_180 1 39 (dk_at dksX1_farther_8 3 rfl rfl)
theorem dX1_farther_187 : decode cX1_farther 187 = .ok (.ifCond .ne 21, 3) := dk_154 0 21 (dk_at dksX1_farther_8 6 rfl rfl)
theorem dX1_farther_190 : decode cX1_farther 190 = .ok (.aload_n 3, 1) := dk_45 (dk_at dksX1_farther_8 9 rfl rfl)
theorem dX1_farther_191 : decode cX1_farther 191 = .ok (.aload 4, 2) := dk_25 4 (dk_at dksX1_farther_8 10 rfl rfl)
theorem dX1_farther_193 : decode cX1_farther 193 = .ok (.getfield 287, 3) := dk_180 1 31 (dk_at dksX1_farther_8 12 rfl rfl)
theorem dX1_farther_196 : decode cX1_farther 196 = .ok (.getfield 291, 3) := dk_180 1 35 (dk_at dksX1_farther_8 15 rfl rfl)
theorem dX1_farther_199 : decode cX1_farther 199 = .ok (.invokestatic 376, 3) := dk_184 1 120 (dk_at dksX1_farther_8 18 rfl rfl)
theorem dX1_farther_202 : decode cX1_farther 202 = .ok (.invokeinterface 401 2, 5) := by decide +kernel
theorem dX1_farther_207 : decode cX1_farther 207 = .ok (.pop, 1) := dk_87 (dk_at dksX1_farther_9 5 rfl rfl)
theorem dX1_farther_208 : decode cX1_farther 208 = .ok (.goto (-172), 3) := dk_167 255 84 (dk_at dksX1_farther_9 6 rfl rfl)
theorem dX1_farther_211 : decode cX1_farther 211 = .ok (.iload 5, 2) := dk_21 5 (dk_at dksX1_farther_9 9 rfl rfl)
theorem dX1_farther_213 : decode cX1_farther 213 = .ok (.ireturn, 1) := dk_172 (dk_at dksX1_farther_9 11 rfl rfl)
abbrev cX1_aloneFare : ByteArray := prog_1_method_29_code
def yX1_aloneFare : MethodName := ⟨RX1, "aloneFare", "(II)I"⟩
def dkwX1_aloneFare_1 : List UInt8 := [42, 180, 0, 87, 180, 0, 222, 104, 96, 172]
abbrev dktX1_aloneFare_1 : List UInt8 := dkwX1_aloneFare_1 ++ []
def dkwX1_aloneFare_0 : List UInt8 := [42, 27, 28, 182, 1, 152, 62, 29, 2, 160, 0, 7, 2, 167, 0, 20, 42, 180, 0, 87, 180, 0, 219, 29]
abbrev dktX1_aloneFare_0 : List UInt8 := dkwX1_aloneFare_0 ++ dktX1_aloneFare_1
theorem dksX1_aloneFare_0 : cX1_aloneFare.data.toList.drop 0 = dktX1_aloneFare_0 := by decide +kernel
theorem dksX1_aloneFare_1 : cX1_aloneFare.data.toList.drop 24 = dktX1_aloneFare_1 := dk_seg dksX1_aloneFare_0 24 rfl rfl
theorem dX1_aloneFare_0 : decode cX1_aloneFare 0 = .ok (.aload_n 0, 1) := dk_42 (dk_at dksX1_aloneFare_0 0 rfl rfl)
theorem dX1_aloneFare_1 : decode cX1_aloneFare 1 = .ok (.iload_n 1, 1) := dk_27 (dk_at dksX1_aloneFare_0 1 rfl rfl)
theorem dX1_aloneFare_2 : decode cX1_aloneFare 2 = .ok (.iload_n 2, 1) := dk_28 (dk_at dksX1_aloneFare_0 2 rfl rfl)
theorem dX1_aloneFare_3 : decode cX1_aloneFare 3 = .ok (.invokevirtual 408, 3) := dk_182 1 152 (dk_at dksX1_aloneFare_0 3 rfl rfl)
theorem dX1_aloneFare_6 : decode cX1_aloneFare 6 = .ok (.istore_n 3, 1) := dk_62 (dk_at dksX1_aloneFare_0 6 rfl rfl)
theorem dX1_aloneFare_7 : decode cX1_aloneFare 7 = .ok (.iload_n 3, 1) := dk_29 (dk_at dksX1_aloneFare_0 7 rfl rfl)
theorem dX1_aloneFare_8 : decode cX1_aloneFare 8 = .ok (.iconst (-1), 1) := dk_2 (dk_at dksX1_aloneFare_0 8 rfl rfl)
theorem dX1_aloneFare_9 : decode cX1_aloneFare 9 = .ok (.if_icmp .ne 7, 3) := dk_160 0 7 (dk_at dksX1_aloneFare_0 9 rfl rfl)
theorem dX1_aloneFare_12 : decode cX1_aloneFare 12 = .ok (.iconst (-1), 1) := dk_2 (dk_at dksX1_aloneFare_0 12 rfl rfl)
theorem dX1_aloneFare_13 : decode cX1_aloneFare 13 = .ok (.goto 20, 3) := dk_167 0 20 (dk_at dksX1_aloneFare_0 13 rfl rfl)
theorem dX1_aloneFare_16 : decode cX1_aloneFare 16 = .ok (.aload_n 0, 1) := dk_42 (dk_at dksX1_aloneFare_0 16 rfl rfl)
theorem dX1_aloneFare_17 : decode cX1_aloneFare 17 = .ok (.getfield 87, 3) := dk_180 0 87 (dk_at dksX1_aloneFare_0 17 rfl rfl)
theorem dX1_aloneFare_20 : decode cX1_aloneFare 20 = .ok (.getfield 219, 3) := dk_180 0 219 (dk_at dksX1_aloneFare_0 20 rfl rfl)
theorem dX1_aloneFare_23 : decode cX1_aloneFare 23 = .ok (.iload_n 3, 1) := dk_29 (dk_at dksX1_aloneFare_0 23 rfl rfl)
theorem dX1_aloneFare_24 : decode cX1_aloneFare 24 = .ok (.aload_n 0, 1) := dk_42 (dk_at dksX1_aloneFare_1 0 rfl rfl)
theorem dX1_aloneFare_25 : decode cX1_aloneFare 25 = .ok (.getfield 87, 3) := dk_180 0 87 (dk_at dksX1_aloneFare_1 1 rfl rfl)
theorem dX1_aloneFare_28 : decode cX1_aloneFare 28 = .ok (.getfield 222, 3) := dk_180 0 222 (dk_at dksX1_aloneFare_1 4 rfl rfl)
theorem dX1_aloneFare_31 : decode cX1_aloneFare 31 = .ok (.imul, 1) := dk_104 (dk_at dksX1_aloneFare_1 7 rfl rfl)
theorem dX1_aloneFare_32 : decode cX1_aloneFare 32 = .ok (.iadd, 1) := dk_96 (dk_at dksX1_aloneFare_1 8 rfl rfl)
theorem dX1_aloneFare_33 : decode cX1_aloneFare 33 = .ok (.ireturn, 1) := dk_172 (dk_at dksX1_aloneFare_1 9 rfl rfl)
abbrev cX1_keeps : ByteArray := prog_1_method_30_code
def yX1_keeps : MethodName := ⟨RX1, "keeps", "(I)Z"⟩
def dkwX1_keeps_1 : List UInt8 := [182, 1, 23, 182, 1, 154, 172]
abbrev dktX1_keeps_1 : List UInt8 := dkwX1_keeps_1 ++ []
def dkwX1_keeps_0 : List UInt8 := [42, 27, 182, 0, 238, 77, 187, 1, 18, 89, 42, 180, 0, 87, 183, 1, 20, 44, 44, 180, 0, 203]
abbrev dktX1_keeps_0 : List UInt8 := dkwX1_keeps_0 ++ dktX1_keeps_1
theorem dksX1_keeps_0 : cX1_keeps.data.toList.drop 0 = dktX1_keeps_0 := by decide +kernel
theorem dksX1_keeps_1 : cX1_keeps.data.toList.drop 22 = dktX1_keeps_1 := dk_seg dksX1_keeps_0 22 rfl rfl
theorem dX1_keeps_0 : decode cX1_keeps 0 = .ok (.aload_n 0, 1) := dk_42 (dk_at dksX1_keeps_0 0 rfl rfl)
theorem dX1_keeps_1 : decode cX1_keeps 1 = .ok (.iload_n 1, 1) := dk_27 (dk_at dksX1_keeps_0 1 rfl rfl)
theorem dX1_keeps_2 : decode cX1_keeps 2 = .ok (.invokevirtual 238, 3) := dk_182 0 238 (dk_at dksX1_keeps_0 2 rfl rfl)
theorem dX1_keeps_5 : decode cX1_keeps 5 = .ok (.astore_n 2, 1) := dk_77 (dk_at dksX1_keeps_0 5 rfl rfl)
theorem dX1_keeps_6 : decode cX1_keeps 6 = .ok (.new 274, 3) := dk_187 1 18 (dk_at dksX1_keeps_0 6 rfl rfl)
theorem dX1_keeps_9 : decode cX1_keeps 9 = .ok (.dup, 1) := dk_89 (dk_at dksX1_keeps_0 9 rfl rfl)
theorem dX1_keeps_10 : decode cX1_keeps 10 = .ok (.aload_n 0, 1) := dk_42 (dk_at dksX1_keeps_0 10 rfl rfl)
theorem dX1_keeps_11 : decode cX1_keeps 11 = .ok (.getfield 87, 3) := dk_180 0 87 (dk_at dksX1_keeps_0 11 rfl rfl)
theorem dX1_keeps_14 : decode cX1_keeps 14 = .ok (.invokespecial 276, 3) := dk_183 1 20 (dk_at dksX1_keeps_0 14 rfl rfl)
theorem dX1_keeps_17 : decode cX1_keeps 17 = .ok (.aload_n 2, 1) := dk_44 (dk_at dksX1_keeps_0 17 rfl rfl)
theorem dX1_keeps_18 : decode cX1_keeps 18 = .ok (.aload_n 2, 1) := dk_44 (dk_at dksX1_keeps_0 18 rfl rfl)
theorem dX1_keeps_19 : decode cX1_keeps 19 = .ok (.getfield 203, 3) := dk_180 0 203 (dk_at dksX1_keeps_0 19 rfl rfl)
theorem dX1_keeps_22 : decode cX1_keeps 22 = .ok (.invokevirtual 279, 3) := dk_182 1 23 (dk_at dksX1_keeps_1 0 rfl rfl)
theorem dX1_keeps_25 : decode cX1_keeps 25 = .ok (.invokevirtual 410, 3) := dk_182 1 154 (dk_at dksX1_keeps_1 3 rfl rfl)
theorem dX1_keeps_28 : decode cX1_keeps 28 = .ok (.ireturn, 1) := dk_172 (dk_at dksX1_keeps_1 6 rfl rfl)
abbrev cX1_routeMinutes : ByteArray := prog_1_method_31_code
def yX1_routeMinutes : MethodName := ⟨RX1, "routeMinutes", "(I)I"⟩
def dkwX1_routeMinutes_1 : List UInt8 := [182, 1, 23, 182, 1, 157, 172]
abbrev dktX1_routeMinutes_1 : List UInt8 := dkwX1_routeMinutes_1 ++ []
def dkwX1_routeMinutes_0 : List UInt8 := [42, 27, 182, 0, 238, 77, 187, 1, 18, 89, 42, 180, 0, 87, 183, 1, 20, 44, 44, 180, 0, 203]
abbrev dktX1_routeMinutes_0 : List UInt8 := dkwX1_routeMinutes_0 ++ dktX1_routeMinutes_1
theorem dksX1_routeMinutes_0 : cX1_routeMinutes.data.toList.drop 0 = dktX1_routeMinutes_0 := by decide +kernel
theorem dksX1_routeMinutes_1 : cX1_routeMinutes.data.toList.drop 22 = dktX1_routeMinutes_1 := dk_seg dksX1_routeMinutes_0 22 rfl rfl
theorem dX1_routeMinutes_0 : decode cX1_routeMinutes 0 = .ok (.aload_n 0, 1) := dk_42 (dk_at dksX1_routeMinutes_0 0 rfl rfl)
theorem dX1_routeMinutes_1 : decode cX1_routeMinutes 1 = .ok (.iload_n 1, 1) := dk_27 (dk_at dksX1_routeMinutes_0 1 rfl rfl)
theorem dX1_routeMinutes_2 : decode cX1_routeMinutes 2 = .ok (.invokevirtual 238, 3) := dk_182 0 238 (dk_at dksX1_routeMinutes_0 2 rfl rfl)
theorem dX1_routeMinutes_5 : decode cX1_routeMinutes 5 = .ok (.astore_n 2, 1) := dk_77 (dk_at dksX1_routeMinutes_0 5 rfl rfl)
theorem dX1_routeMinutes_6 : decode cX1_routeMinutes 6 = .ok (.new 274, 3) := dk_187 1 18 (dk_at dksX1_routeMinutes_0 6 rfl rfl)
theorem dX1_routeMinutes_9 : decode cX1_routeMinutes 9 = .ok (.dup, 1) := dk_89 (dk_at dksX1_routeMinutes_0 9 rfl rfl)
theorem dX1_routeMinutes_10 : decode cX1_routeMinutes 10 = .ok (.aload_n 0, 1) := dk_42 (dk_at dksX1_routeMinutes_0 10 rfl rfl)
theorem dX1_routeMinutes_11 : decode cX1_routeMinutes 11 = .ok (.getfield 87, 3) := dk_180 0 87 (dk_at dksX1_routeMinutes_0 11 rfl rfl)
theorem dX1_routeMinutes_14 : decode cX1_routeMinutes 14 = .ok (.invokespecial 276, 3) := dk_183 1 20 (dk_at dksX1_routeMinutes_0 14 rfl rfl)
theorem dX1_routeMinutes_17 : decode cX1_routeMinutes 17 = .ok (.aload_n 2, 1) := dk_44 (dk_at dksX1_routeMinutes_0 17 rfl rfl)
theorem dX1_routeMinutes_18 : decode cX1_routeMinutes 18 = .ok (.aload_n 2, 1) := dk_44 (dk_at dksX1_routeMinutes_0 18 rfl rfl)
theorem dX1_routeMinutes_19 : decode cX1_routeMinutes 19 = .ok (.getfield 203, 3) := dk_180 0 203 (dk_at dksX1_routeMinutes_0 19 rfl rfl)
theorem dX1_routeMinutes_22 : decode cX1_routeMinutes 22 = .ok (.invokevirtual 279, 3) := dk_182 1 23 (dk_at dksX1_routeMinutes_1 0 rfl rfl)
theorem dX1_routeMinutes_25 : decode cX1_routeMinutes 25 = .ok (.invokevirtual 413, 3) := dk_182 1 157 (dk_at dksX1_routeMinutes_1 3 rfl rfl)
theorem dX1_routeMinutes_28 : decode cX1_routeMinutes 28 = .ok (.ireturn, 1) := dk_172 (dk_at dksX1_routeMinutes_1 6 rfl rfl)
abbrev cX1_rides : ByteArray := prog_1_method_32_code
def yX1_rides : MethodName := ⟨RX1, "rides", "(I)I"⟩
def dkwX1_rides_0 : List UInt8 := [27, 133, 9, 20, 1, 160, 184, 0, 125, 184, 0, 158, 42, 180, 0, 87, 27, 182, 0, 212, 172]
abbrev dktX1_rides_0 : List UInt8 := dkwX1_rides_0 ++ []
theorem dksX1_rides_0 : cX1_rides.data.toList.drop 0 = dktX1_rides_0 := by decide +kernel
theorem dX1_rides_0 : decode cX1_rides 0 = .ok (.iload_n 1, 1) := dk_27 (dk_at dksX1_rides_0 0 rfl rfl)
theorem dX1_rides_1 : decode cX1_rides 1 = .ok (.i2l, 1) := dk_133 (dk_at dksX1_rides_0 1 rfl rfl)
theorem dX1_rides_2 : decode cX1_rides 2 = .ok (.lconst 0, 1) := dk_9 (dk_at dksX1_rides_0 2 rfl rfl)
theorem dX1_rides_3 : decode cX1_rides 3 = .ok (.ldc2_w 416, 3) := dk_20 1 160 (dk_at dksX1_rides_0 3 rfl rfl)
theorem dX1_rides_6 : decode cX1_rides 6 = .ok (.invokestatic 125, 3) := dk_184 0 125 (dk_at dksX1_rides_0 6 rfl rfl)
theorem dX1_rides_9 : decode cX1_rides 9 = .ok (.invokestatic 158, 3) := dk_184 0 158 (dk_at dksX1_rides_0 9 rfl rfl)
theorem dX1_rides_12 : decode cX1_rides 12 = .ok (.aload_n 0, 1) := dk_42 (dk_at dksX1_rides_0 12 rfl rfl)
theorem dX1_rides_13 : decode cX1_rides 13 = .ok (.getfield 87, 3) := dk_180 0 87 (dk_at dksX1_rides_0 13 rfl rfl)
theorem dX1_rides_16 : decode cX1_rides 16 = .ok (.iload_n 1, 1) := dk_27 (dk_at dksX1_rides_0 16 rfl rfl)
theorem dX1_rides_17 : decode cX1_rides 17 = .ok (.invokevirtual 212, 3) := dk_182 0 212 (dk_at dksX1_rides_0 17 rfl rfl)
theorem dX1_rides_20 : decode cX1_rides 20 = .ok (.ireturn, 1) := dk_172 (dk_at dksX1_rides_0 20 rfl rfl)
abbrev cX1_ask : ByteArray := prog_1_method_35_code
def yX1_ask : MethodName := ⟨RX1, "ask", "(IIIII)I"⟩
def dkwX1_ask_7 : List UInt8 := [181, 1, 94, 25, 9, 25, 9, 180, 1, 94, 199, 0, 7, 7, 167, 0, 4, 3, 181, 1, 57, 21, 7, 172]
abbrev dktX1_ask_7 : List UInt8 := dkwX1_ask_7 ++ []
def dkwX1_ask_6 : List UInt8 := [185, 1, 142, 2, 0, 87, 25, 9, 187, 1, 102, 89, 42, 180, 0, 87, 183, 1, 104, 21, 7, 182, 1, 178]
abbrev dktX1_ask_6 : List UInt8 := dkwX1_ask_6 ++ dktX1_ask_7
def dkwX1_ask_5 : List UInt8 := [180, 0, 227, 3, 46, 96, 21, 5, 21, 6, 183, 1, 172, 58, 9, 42, 182, 1, 175, 180, 0, 146, 25, 9]
abbrev dktX1_ask_5 : List UInt8 := dkwX1_ask_5 ++ dktX1_ask_6
def dkwX1_ask_4 : List UInt8 := [21, 4, 96, 54, 8, 187, 0, 149, 89, 21, 7, 27, 28, 29, 21, 8, 21, 8, 42, 180, 0, 87]
abbrev dktX1_ask_4 : List UInt8 := dkwX1_ask_4 ++ dktX1_ask_5
def dkwX1_ask_3 : List UInt8 := [185, 0, 137, 1, 0, 54, 7, 21, 7, 16, 24, 160, 0, 6, 16, 254, 172, 42, 180, 0, 87, 180, 0, 209]
abbrev dktX1_ask_3 : List UInt8 := dkwX1_ask_3 ++ dktX1_ask_4
def dkwX1_ask_2 : List UInt8 := [184, 0, 125, 153, 0, 7, 4, 167, 0, 4, 3, 184, 0, 158, 42, 180, 0, 87, 180, 0, 146]
abbrev dktX1_ask_2 : List UInt8 := dkwX1_ask_2 ++ dktX1_ask_3
def dkwX1_ask_1 : List UInt8 := [153, 0, 33, 21, 4, 133, 9, 20, 1, 168, 184, 0, 125, 153, 0, 20, 21, 5, 133, 9, 20, 1, 170]
abbrev dktX1_ask_1 : List UInt8 := dkwX1_ask_1 ++ dktX1_ask_2
def dkwX1_ask_0 : List UInt8 := [42, 27, 28, 182, 1, 152, 54, 6, 27, 28, 159, 0, 45, 29, 133, 10, 20, 1, 160, 184, 0, 125]
abbrev dktX1_ask_0 : List UInt8 := dkwX1_ask_0 ++ dktX1_ask_1
theorem dksX1_ask_0 : cX1_ask.data.toList.drop 0 = dktX1_ask_0 := by decide +kernel
theorem dksX1_ask_1 : cX1_ask.data.toList.drop 22 = dktX1_ask_1 := dk_seg dksX1_ask_0 22 rfl rfl
theorem dksX1_ask_2 : cX1_ask.data.toList.drop 45 = dktX1_ask_2 := dk_seg dksX1_ask_1 23 rfl rfl
theorem dksX1_ask_3 : cX1_ask.data.toList.drop 66 = dktX1_ask_3 := dk_seg dksX1_ask_2 21 rfl rfl
theorem dksX1_ask_4 : cX1_ask.data.toList.drop 90 = dktX1_ask_4 := dk_seg dksX1_ask_3 24 rfl rfl
theorem dksX1_ask_5 : cX1_ask.data.toList.drop 112 = dktX1_ask_5 := dk_seg dksX1_ask_4 22 rfl rfl
theorem dksX1_ask_6 : cX1_ask.data.toList.drop 136 = dktX1_ask_6 := dk_seg dksX1_ask_5 24 rfl rfl
theorem dksX1_ask_7 : cX1_ask.data.toList.drop 160 = dktX1_ask_7 := dk_seg dksX1_ask_6 24 rfl rfl
theorem dX1_ask_0 : decode cX1_ask 0 = .ok (.aload_n 0, 1) := dk_42 (dk_at dksX1_ask_0 0 rfl rfl)
theorem dX1_ask_1 : decode cX1_ask 1 = .ok (.iload_n 1, 1) := dk_27 (dk_at dksX1_ask_0 1 rfl rfl)
theorem dX1_ask_2 : decode cX1_ask 2 = .ok (.iload_n 2, 1) := dk_28 (dk_at dksX1_ask_0 2 rfl rfl)
theorem dX1_ask_3 : decode cX1_ask 3 = .ok (.invokevirtual 408, 3) := dk_182 1 152 (dk_at dksX1_ask_0 3 rfl rfl)
theorem dX1_ask_6 : decode cX1_ask 6 = .ok (.istore 6, 2) := dk_54 6 (dk_at dksX1_ask_0 6 rfl rfl)
theorem dX1_ask_8 : decode cX1_ask 8 = .ok (.iload_n 1, 1) := dk_27 (dk_at dksX1_ask_0 8 rfl rfl)
theorem dX1_ask_9 : decode cX1_ask 9 = .ok (.iload_n 2, 1) := dk_28 (dk_at dksX1_ask_0 9 rfl rfl)
theorem dX1_ask_10 : decode cX1_ask 10 = .ok (.if_icmp .eq 45, 3) := dk_159 0 45 (dk_at dksX1_ask_0 10 rfl rfl)
theorem dX1_ask_13 : decode cX1_ask 13 = .ok (.iload_n 3, 1) := dk_29 (dk_at dksX1_ask_0 13 rfl rfl)
theorem dX1_ask_14 : decode cX1_ask 14 = .ok (.i2l, 1) := dk_133 (dk_at dksX1_ask_0 14 rfl rfl)
theorem dX1_ask_15 : decode cX1_ask 15 = .ok (.lconst 1, 1) := dk_10 (dk_at dksX1_ask_0 15 rfl rfl)
theorem dX1_ask_16 : decode cX1_ask 16 = .ok (.ldc2_w 416, 3) := dk_20 1 160 (dk_at dksX1_ask_0 16 rfl rfl)
theorem dX1_ask_19 : decode cX1_ask 19 = .ok (.invokestatic 125, 3) := dk_184 0 125 (dk_at dksX1_ask_0 19 rfl rfl)
theorem dX1_ask_22 : decode cX1_ask 22 = .ok (.ifCond .eq 33, 3) := dk_153 0 33 (dk_at dksX1_ask_1 0 rfl rfl)
theorem dX1_ask_25 : decode cX1_ask 25 = .ok (.iload 4, 2) := dk_21 4 (dk_at dksX1_ask_1 3 rfl rfl)
theorem dX1_ask_27 : decode cX1_ask 27 = .ok (.i2l, 1) := dk_133 (dk_at dksX1_ask_1 5 rfl rfl)
theorem dX1_ask_28 : decode cX1_ask 28 = .ok (.lconst 0, 1) := dk_9 (dk_at dksX1_ask_1 6 rfl rfl)
theorem dX1_ask_29 : decode cX1_ask 29 = .ok (.ldc2_w 424, 3) := dk_20 1 168 (dk_at dksX1_ask_1 7 rfl rfl)
theorem dX1_ask_32 : decode cX1_ask 32 = .ok (.invokestatic 125, 3) := dk_184 0 125 (dk_at dksX1_ask_1 10 rfl rfl)
theorem dX1_ask_35 : decode cX1_ask 35 = .ok (.ifCond .eq 20, 3) := dk_153 0 20 (dk_at dksX1_ask_1 13 rfl rfl)
theorem dX1_ask_38 : decode cX1_ask 38 = .ok (.iload 5, 2) := dk_21 5 (dk_at dksX1_ask_1 16 rfl rfl)
theorem dX1_ask_40 : decode cX1_ask 40 = .ok (.i2l, 1) := dk_133 (dk_at dksX1_ask_1 18 rfl rfl)
theorem dX1_ask_41 : decode cX1_ask 41 = .ok (.lconst 0, 1) := dk_9 (dk_at dksX1_ask_1 19 rfl rfl)
theorem dX1_ask_42 : decode cX1_ask 42 = .ok (.ldc2_w 426, 3) := dk_20 1 170 (dk_at dksX1_ask_1 20 rfl rfl)
theorem dX1_ask_45 : decode cX1_ask 45 = .ok (.invokestatic 125, 3) := dk_184 0 125 (dk_at dksX1_ask_2 0 rfl rfl)
theorem dX1_ask_48 : decode cX1_ask 48 = .ok (.ifCond .eq 7, 3) := dk_153 0 7 (dk_at dksX1_ask_2 3 rfl rfl)
theorem dX1_ask_51 : decode cX1_ask 51 = .ok (.iconst 1, 1) := dk_4 (dk_at dksX1_ask_2 6 rfl rfl)
theorem dX1_ask_52 : decode cX1_ask 52 = .ok (.goto 4, 3) := dk_167 0 4 (dk_at dksX1_ask_2 7 rfl rfl)
theorem dX1_ask_55 : decode cX1_ask 55 = .ok (.iconst 0, 1) := dk_3 (dk_at dksX1_ask_2 10 rfl rfl)
theorem dX1_ask_56 : decode cX1_ask 56 = .ok (.invokestatic 158, 3) := dk_184 0 158 (dk_at dksX1_ask_2 11 rfl rfl)
theorem dX1_ask_59 : decode cX1_ask 59 = .ok (.aload_n 0, 1) := dk_42 (dk_at dksX1_ask_2 14 rfl rfl)
theorem dX1_ask_60 : decode cX1_ask 60 = .ok (.getfield 87, 3) := dk_180 0 87 (dk_at dksX1_ask_2 15 rfl rfl)
theorem dX1_ask_63 : decode cX1_ask 63 = .ok (.getfield 146, 3) := dk_180 0 146 (dk_at dksX1_ask_2 18 rfl rfl)
theorem dX1_ask_66 : decode cX1_ask 66 = .ok (.invokeinterface 137 1, 5) := by decide +kernel
theorem dX1_ask_71 : decode cX1_ask 71 = .ok (.istore 7, 2) := dk_54 7 (dk_at dksX1_ask_3 5 rfl rfl)
theorem dX1_ask_73 : decode cX1_ask 73 = .ok (.iload 7, 2) := dk_21 7 (dk_at dksX1_ask_3 7 rfl rfl)
theorem dX1_ask_75 : decode cX1_ask 75 = .ok (.bipush 24, 2) := dk_16 24 (dk_at dksX1_ask_3 9 rfl rfl)
theorem dX1_ask_77 : decode cX1_ask 77 = .ok (.if_icmp .ne 6, 3) := dk_160 0 6 (dk_at dksX1_ask_3 11 rfl rfl)
theorem dX1_ask_80 : decode cX1_ask 80 = .ok (.bipush (-2), 2) := dk_16 254 (dk_at dksX1_ask_3 14 rfl rfl)
theorem dX1_ask_82 : decode cX1_ask 82 = .ok (.ireturn, 1) := dk_172 (dk_at dksX1_ask_3 16 rfl rfl)
theorem dX1_ask_83 : decode cX1_ask 83 = .ok (.aload_n 0, 1) := dk_42 (dk_at dksX1_ask_3 17 rfl rfl)
theorem dX1_ask_84 : decode cX1_ask 84 = .ok (.getfield 87, 3) := dk_180 0 87 (dk_at dksX1_ask_3 18 rfl rfl)
theorem dX1_ask_87 : decode cX1_ask 87 = .ok (.getfield 209, 3) := dk_180 0 209 (dk_at dksX1_ask_3 21 rfl rfl)
theorem dX1_ask_90 : decode cX1_ask 90 = .ok (.iload 4, 2) := dk_21 4 (dk_at dksX1_ask_4 0 rfl rfl)
theorem dX1_ask_92 : decode cX1_ask 92 = .ok (.iadd, 1) := dk_96 (dk_at dksX1_ask_4 2 rfl rfl)
theorem dX1_ask_93 : decode cX1_ask 93 = .ok (.istore 8, 2) := dk_54 8 (dk_at dksX1_ask_4 3 rfl rfl)
theorem dX1_ask_95 : decode cX1_ask 95 = .ok (.new 149, 3) := dk_187 0 149 (dk_at dksX1_ask_4 5 rfl rfl)
theorem dX1_ask_98 : decode cX1_ask 98 = .ok (.dup, 1) := dk_89 (dk_at dksX1_ask_4 8 rfl rfl)
theorem dX1_ask_99 : decode cX1_ask 99 = .ok (.iload 7, 2) := dk_21 7 (dk_at dksX1_ask_4 9 rfl rfl)
theorem dX1_ask_101 : decode cX1_ask 101 = .ok (.iload_n 1, 1) := dk_27 (dk_at dksX1_ask_4 11 rfl rfl)
theorem dX1_ask_102 : decode cX1_ask 102 = .ok (.iload_n 2, 1) := dk_28 (dk_at dksX1_ask_4 12 rfl rfl)
theorem dX1_ask_103 : decode cX1_ask 103 = .ok (.iload_n 3, 1) := dk_29 (dk_at dksX1_ask_4 13 rfl rfl)
theorem dX1_ask_104 : decode cX1_ask 104 = .ok (.iload 8, 2) := dk_21 8 (dk_at dksX1_ask_4 14 rfl rfl)
theorem dX1_ask_106 : decode cX1_ask 106 = .ok (.iload 8, 2) := dk_21 8 (dk_at dksX1_ask_4 16 rfl rfl)
theorem dX1_ask_108 : decode cX1_ask 108 = .ok (.aload_n 0, 1) := dk_42 (dk_at dksX1_ask_4 18 rfl rfl)
theorem dX1_ask_109 : decode cX1_ask 109 = .ok (.getfield 87, 3) := dk_180 0 87 (dk_at dksX1_ask_4 19 rfl rfl)
theorem dX1_ask_112 : decode cX1_ask 112 = .ok (.getfield 227, 3) := dk_180 0 227 (dk_at dksX1_ask_5 0 rfl rfl)
theorem dX1_ask_115 : decode cX1_ask 115 = .ok (.iconst 0, 1) := dk_3 (dk_at dksX1_ask_5 3 rfl rfl)
theorem dX1_ask_116 : decode cX1_ask 116 = .ok (.iaload, 1) := dk_46 (dk_at dksX1_ask_5 4 rfl rfl)
theorem dX1_ask_117 : decode cX1_ask 117 = .ok (.iadd, 1) := dk_96 (dk_at dksX1_ask_5 5 rfl rfl)
theorem dX1_ask_118 : decode cX1_ask 118 = .ok (.iload 5, 2) := dk_21 5 (dk_at dksX1_ask_5 6 rfl rfl)
theorem dX1_ask_120 : decode cX1_ask 120 = .ok (.iload 6, 2) := dk_21 6 (dk_at dksX1_ask_5 8 rfl rfl)
theorem dX1_ask_122 : decode cX1_ask 122 = .ok (.invokespecial 428, 3) := dk_183 1 172 (dk_at dksX1_ask_5 10 rfl rfl)
theorem dX1_ask_125 : decode cX1_ask 125 = .ok (.astore 9, 2) := dk_58 9 (dk_at dksX1_ask_5 13 rfl rfl)
theorem dX1_ask_127 : decode cX1_ask 127 = .ok (.aload_n 0, 1) := dk_42 (dk_at dksX1_ask_5 15 rfl rfl)
theorem dX1_ask_128 : decode cX1_ask 128 = .ok (.invokevirtual 431, 3) := dk_182 1 175 (dk_at dksX1_ask_5 16 rfl rfl)
theorem dX1_ask_131 : decode cX1_ask 131 = .ok (.getfield 146, 3) := dk_180 0 146 (dk_at dksX1_ask_5 19 rfl rfl)
theorem dX1_ask_134 : decode cX1_ask 134 = .ok (.aload 9, 2) := dk_25 9 (dk_at dksX1_ask_5 22 rfl rfl)
theorem dX1_ask_136 : decode cX1_ask 136 = .ok (.invokeinterface 398 2, 5) := by decide +kernel
theorem dX1_ask_141 : decode cX1_ask 141 = .ok (.pop, 1) := dk_87 (dk_at dksX1_ask_6 5 rfl rfl)
theorem dX1_ask_142 : decode cX1_ask 142 = .ok (.aload 9, 2) := dk_25 9 (dk_at dksX1_ask_6 6 rfl rfl)
theorem dX1_ask_144 : decode cX1_ask 144 = .ok (.new 358, 3) := dk_187 1 102 (dk_at dksX1_ask_6 8 rfl rfl)
theorem dX1_ask_147 : decode cX1_ask 147 = .ok (.dup, 1) := dk_89 (dk_at dksX1_ask_6 11 rfl rfl)
theorem dX1_ask_148 : decode cX1_ask 148 = .ok (.aload_n 0, 1) := dk_42 (dk_at dksX1_ask_6 12 rfl rfl)
theorem dX1_ask_149 : decode cX1_ask 149 = .ok (.getfield 87, 3) := dk_180 0 87 (dk_at dksX1_ask_6 13 rfl rfl)
theorem dX1_ask_152 : decode cX1_ask 152 = .ok (.invokespecial 360, 3) := dk_183 1 104 (dk_at dksX1_ask_6 16 rfl rfl)
theorem dX1_ask_155 : decode cX1_ask 155 = .ok (.iload 7, 2) := dk_21 7 (dk_at dksX1_ask_6 19 rfl rfl)
theorem dX1_ask_157 : decode cX1_ask 157 = .ok (.invokevirtual 434, 3) := dk_182 1 178 (dk_at dksX1_ask_6 21 rfl rfl)
theorem dX1_ask_160 : decode cX1_ask 160 = .ok (.putfield 350, 3) := dk_181 1 94 (dk_at dksX1_ask_7 0 rfl rfl)
theorem dX1_ask_163 : decode cX1_ask 163 = .ok (.aload 9, 2) := dk_25 9 (dk_at dksX1_ask_7 3 rfl rfl)
theorem dX1_ask_165 : decode cX1_ask 165 = .ok (.aload 9, 2) := dk_25 9 (dk_at dksX1_ask_7 5 rfl rfl)
theorem dX1_ask_167 : decode cX1_ask 167 = .ok (.getfield 350, 3) := dk_180 1 94 (dk_at dksX1_ask_7 7 rfl rfl)
theorem dX1_ask_170 : decode cX1_ask 170 = .ok (.ifnonnull 7, 3) := dk_199 0 7 (dk_at dksX1_ask_7 10 rfl rfl)
theorem dX1_ask_173 : decode cX1_ask 173 = .ok (.iconst 4, 1) := dk_7 (dk_at dksX1_ask_7 13 rfl rfl)
theorem dX1_ask_174 : decode cX1_ask 174 = .ok (.goto 4, 3) := dk_167 0 4 (dk_at dksX1_ask_7 14 rfl rfl)
theorem dX1_ask_177 : decode cX1_ask 177 = .ok (.iconst 0, 1) := dk_3 (dk_at dksX1_ask_7 17 rfl rfl)
theorem dX1_ask_178 : decode cX1_ask 178 = .ok (.putfield 313, 3) := dk_181 1 57 (dk_at dksX1_ask_7 18 rfl rfl)
theorem dX1_ask_181 : decode cX1_ask 181 = .ok (.iload 7, 2) := dk_21 7 (dk_at dksX1_ask_7 21 rfl rfl)
theorem dX1_ask_183 : decode cX1_ask 183 = .ok (.ireturn, 1) := dk_172 (dk_at dksX1_ask_7 23 rfl rfl)
abbrev cX1_beginOperation : ByteArray := prog_1_method_9_code
def yX1_beginOperation : MethodName := ⟨RX1, "beginOperation", "()LSharedTaxis$State;"⟩
def dkwX1_beginOperation_1 : List UInt8 := [42, 180, 0, 87, 182, 0, 110, 182, 0, 114, 42, 180, 0, 87, 176]
abbrev dktX1_beginOperation_1 : List UInt8 := dkwX1_beginOperation_1 ++ []
def dkwX1_beginOperation_0 : List UInt8 := [42, 180, 0, 93, 182, 0, 103, 16, 10, 160, 0, 11, 42, 180, 0, 93, 182, 0, 106, 87, 42, 180, 0, 93]
abbrev dktX1_beginOperation_0 : List UInt8 := dkwX1_beginOperation_0 ++ dktX1_beginOperation_1
theorem dksX1_beginOperation_0 : cX1_beginOperation.data.toList.drop 0 = dktX1_beginOperation_0 := by decide +kernel
theorem dksX1_beginOperation_1 : cX1_beginOperation.data.toList.drop 24 = dktX1_beginOperation_1 := dk_seg dksX1_beginOperation_0 24 rfl rfl
theorem dX1_beginOperation_0 : decode cX1_beginOperation 0 = .ok (.aload_n 0, 1) := dk_42 (dk_at dksX1_beginOperation_0 0 rfl rfl)
theorem dX1_beginOperation_1 : decode cX1_beginOperation 1 = .ok (.getfield 93, 3) := dk_180 0 93 (dk_at dksX1_beginOperation_0 1 rfl rfl)
theorem dX1_beginOperation_4 : decode cX1_beginOperation 4 = .ok (.invokevirtual 103, 3) := dk_182 0 103 (dk_at dksX1_beginOperation_0 4 rfl rfl)
theorem dX1_beginOperation_7 : decode cX1_beginOperation 7 = .ok (.bipush 10, 2) := dk_16 10 (dk_at dksX1_beginOperation_0 7 rfl rfl)
theorem dX1_beginOperation_9 : decode cX1_beginOperation 9 = .ok (.if_icmp .ne 11, 3) := dk_160 0 11 (dk_at dksX1_beginOperation_0 9 rfl rfl)
theorem dX1_beginOperation_12 : decode cX1_beginOperation 12 = .ok (.aload_n 0, 1) := dk_42 (dk_at dksX1_beginOperation_0 12 rfl rfl)
theorem dX1_beginOperation_13 : decode cX1_beginOperation 13 = .ok (.getfield 93, 3) := dk_180 0 93 (dk_at dksX1_beginOperation_0 13 rfl rfl)
theorem dX1_beginOperation_16 : decode cX1_beginOperation 16 = .ok (.invokevirtual 106, 3) := dk_182 0 106 (dk_at dksX1_beginOperation_0 16 rfl rfl)
theorem dX1_beginOperation_19 : decode cX1_beginOperation 19 = .ok (.pop, 1) := dk_87 (dk_at dksX1_beginOperation_0 19 rfl rfl)
theorem dX1_beginOperation_20 : decode cX1_beginOperation 20 = .ok (.aload_n 0, 1) := dk_42 (dk_at dksX1_beginOperation_0 20 rfl rfl)
theorem dX1_beginOperation_21 : decode cX1_beginOperation 21 = .ok (.getfield 93, 3) := dk_180 0 93 (dk_at dksX1_beginOperation_0 21 rfl rfl)
theorem dX1_beginOperation_24 : decode cX1_beginOperation 24 = .ok (.aload_n 0, 1) := dk_42 (dk_at dksX1_beginOperation_1 0 rfl rfl)
theorem dX1_beginOperation_25 : decode cX1_beginOperation 25 = .ok (.getfield 87, 3) := dk_180 0 87 (dk_at dksX1_beginOperation_1 1 rfl rfl)
theorem dX1_beginOperation_28 : decode cX1_beginOperation 28 = .ok (.invokevirtual 110, 3) := dk_182 0 110 (dk_at dksX1_beginOperation_1 4 rfl rfl)
theorem dX1_beginOperation_31 : decode cX1_beginOperation 31 = .ok (.invokevirtual 114, 3) := dk_182 0 114 (dk_at dksX1_beginOperation_1 7 rfl rfl)
theorem dX1_beginOperation_34 : decode cX1_beginOperation 34 = .ok (.aload_n 0, 1) := dk_42 (dk_at dksX1_beginOperation_1 10 rfl rfl)
theorem dX1_beginOperation_35 : decode cX1_beginOperation 35 = .ok (.getfield 87, 3) := dk_180 0 87 (dk_at dksX1_beginOperation_1 11 rfl rfl)
theorem dX1_beginOperation_38 : decode cX1_beginOperation 38 = .ok (.areturn, 1) := dk_176 (dk_at dksX1_beginOperation_1 14 rfl rfl)
abbrev cX1_accept : ByteArray := prog_1_method_36_code
def yX1_accept : MethodName := ⟨RX1, "accept", "(I)I"⟩
def dkwX1_accept_4 : List UInt8 := [181, 1, 78, 25, 4, 180, 1, 186, 172]
abbrev dktX1_accept_4 : List UInt8 := dkwX1_accept_4 ++ []
def dkwX1_accept_3 : List UInt8 := [180, 0, 133, 29, 185, 0, 140, 2, 0, 192, 0, 144, 27, 182, 1, 182, 44, 4, 181, 1, 57, 44, 29]
abbrev dktX1_accept_3 : List UInt8 := dkwX1_accept_3 ++ dktX1_accept_4
def dkwX1_accept_2 : List UInt8 := [185, 0, 140, 2, 0, 192, 0, 144, 27, 182, 1, 105, 154, 0, 6, 16, 253, 172, 25, 4, 42, 182, 1, 175]
abbrev dktX1_accept_2 : List UInt8 := dkwX1_accept_2 ++ dktX1_accept_3
def dkwX1_accept_1 : List UInt8 := [187, 1, 102, 89, 42, 180, 0, 87, 183, 1, 104, 58, 4, 25, 4, 42, 180, 0, 87, 180, 0, 133, 29]
abbrev dktX1_accept_1 : List UInt8 := dkwX1_accept_1 ++ dktX1_accept_2
def dkwX1_accept_0 : List UInt8 := [42, 27, 182, 1, 53, 77, 44, 180, 1, 57, 153, 0, 6, 16, 254, 172, 44, 180, 1, 94, 180, 1, 181, 62]
abbrev dktX1_accept_0 : List UInt8 := dkwX1_accept_0 ++ dktX1_accept_1
theorem dksX1_accept_0 : cX1_accept.data.toList.drop 0 = dktX1_accept_0 := by decide +kernel
theorem dksX1_accept_1 : cX1_accept.data.toList.drop 24 = dktX1_accept_1 := dk_seg dksX1_accept_0 24 rfl rfl
theorem dksX1_accept_2 : cX1_accept.data.toList.drop 47 = dktX1_accept_2 := dk_seg dksX1_accept_1 23 rfl rfl
theorem dksX1_accept_3 : cX1_accept.data.toList.drop 71 = dktX1_accept_3 := dk_seg dksX1_accept_2 24 rfl rfl
theorem dksX1_accept_4 : cX1_accept.data.toList.drop 94 = dktX1_accept_4 := dk_seg dksX1_accept_3 23 rfl rfl
theorem dX1_accept_0 : decode cX1_accept 0 = .ok (.aload_n 0, 1) := dk_42 (dk_at dksX1_accept_0 0 rfl rfl)
theorem dX1_accept_1 : decode cX1_accept 1 = .ok (.iload_n 1, 1) := dk_27 (dk_at dksX1_accept_0 1 rfl rfl)
theorem dX1_accept_2 : decode cX1_accept 2 = .ok (.invokevirtual 309, 3) := dk_182 1 53 (dk_at dksX1_accept_0 2 rfl rfl)
theorem dX1_accept_5 : decode cX1_accept 5 = .ok (.astore_n 2, 1) := dk_77 (dk_at dksX1_accept_0 5 rfl rfl)
theorem dX1_accept_6 : decode cX1_accept 6 = .ok (.aload_n 2, 1) := dk_44 (dk_at dksX1_accept_0 6 rfl rfl)
theorem dX1_accept_7 : decode cX1_accept 7 = .ok (.getfield 313, 3) := dk_180 1 57 (dk_at dksX1_accept_0 7 rfl rfl)
theorem dX1_accept_10 : decode cX1_accept 10 = .ok (.ifCond .eq 6, 3) := dk_153 0 6 (dk_at dksX1_accept_0 10 rfl rfl)
theorem dX1_accept_13 : decode cX1_accept 13 = .ok (.bipush (-2), 2) := dk_16 254 (dk_at dksX1_accept_0 13 rfl rfl)
theorem dX1_accept_15 : decode cX1_accept 15 = .ok (.ireturn, 1) := dk_172 (dk_at dksX1_accept_0 15 rfl rfl)
theorem dX1_accept_16 : decode cX1_accept 16 = .ok (.aload_n 2, 1) := dk_44 (dk_at dksX1_accept_0 16 rfl rfl)
theorem dX1_accept_17 : decode cX1_accept 17 = .ok (.getfield 350, 3) := dk_180 1 94 (dk_at dksX1_accept_0 17 rfl rfl)
theorem dX1_accept_20 : decode cX1_accept 20 = .ok (.getfield 437, 3) := dk_180 1 181 (dk_at dksX1_accept_0 20 rfl rfl)
theorem dX1_accept_23 : decode cX1_accept 23 = .ok (.istore_n 3, 1) := dk_62 (dk_at dksX1_accept_0 23 rfl rfl)
theorem dX1_accept_24 : decode cX1_accept 24 = .ok (.new 358, 3) := dk_187 1 102 (dk_at dksX1_accept_1 0 rfl rfl)
theorem dX1_accept_27 : decode cX1_accept 27 = .ok (.dup, 1) := dk_89 (dk_at dksX1_accept_1 3 rfl rfl)
theorem dX1_accept_28 : decode cX1_accept 28 = .ok (.aload_n 0, 1) := dk_42 (dk_at dksX1_accept_1 4 rfl rfl)
theorem dX1_accept_29 : decode cX1_accept 29 = .ok (.getfield 87, 3) := dk_180 0 87 (dk_at dksX1_accept_1 5 rfl rfl)
theorem dX1_accept_32 : decode cX1_accept 32 = .ok (.invokespecial 360, 3) := dk_183 1 104 (dk_at dksX1_accept_1 8 rfl rfl)
theorem dX1_accept_35 : decode cX1_accept 35 = .ok (.astore 4, 2) := dk_58 4 (dk_at dksX1_accept_1 11 rfl rfl)
theorem dX1_accept_37 : decode cX1_accept 37 = .ok (.aload 4, 2) := dk_25 4 (dk_at dksX1_accept_1 13 rfl rfl)
theorem dX1_accept_39 : decode cX1_accept 39 = .ok (.aload_n 0, 1) := dk_42 (dk_at dksX1_accept_1 15 rfl rfl)
theorem dX1_accept_40 : decode cX1_accept 40 = .ok (.getfield 87, 3) := dk_180 0 87 (dk_at dksX1_accept_1 16 rfl rfl)
theorem dX1_accept_43 : decode cX1_accept 43 = .ok (.getfield 133, 3) := dk_180 0 133 (dk_at dksX1_accept_1 19 rfl rfl)
theorem dX1_accept_46 : decode cX1_accept 46 = .ok (.iload_n 3, 1) := dk_29 (dk_at dksX1_accept_1 22 rfl rfl)
theorem dX1_accept_47 : decode cX1_accept 47 = .ok (.invokeinterface 140 2, 5) := by decide +kernel
theorem dX1_accept_52 : decode cX1_accept 52 = .ok (.checkcast 144, 3) := dk_192 0 144 (dk_at dksX1_accept_2 5 rfl rfl)
theorem dX1_accept_55 : decode cX1_accept 55 = .ok (.iload_n 1, 1) := dk_27 (dk_at dksX1_accept_2 8 rfl rfl)
theorem dX1_accept_56 : decode cX1_accept 56 = .ok (.invokevirtual 361, 3) := dk_182 1 105 (dk_at dksX1_accept_2 9 rfl rfl)
theorem dX1_accept_59 : decode cX1_accept 59 = .ok (.ifCond .ne 6, 3) := dk_154 0 6 (dk_at dksX1_accept_2 12 rfl rfl)
theorem dX1_accept_62 : decode cX1_accept 62 = .ok (.bipush (-3), 2) := dk_16 253 (dk_at dksX1_accept_2 15 rfl rfl)
theorem dX1_accept_64 : decode cX1_accept 64 = .ok (.ireturn, 1) := dk_172 (dk_at dksX1_accept_2 17 rfl rfl)
theorem dX1_accept_65 : decode cX1_accept 65 = .ok (.aload 4, 2) := dk_25 4 (dk_at dksX1_accept_2 18 rfl rfl)
theorem dX1_accept_67 : decode cX1_accept 67 = .ok (.aload_n 0, 1) := dk_42 (dk_at dksX1_accept_2 20 rfl rfl)
theorem dX1_accept_68 : decode cX1_accept 68 = .ok (.invokevirtual 431, 3) := dk_182 1 175 (dk_at dksX1_accept_2 21 rfl rfl)
theorem dX1_accept_71 : decode cX1_accept 71 = .ok (.getfield 133, 3) := dk_180 0 133 (dk_at dksX1_accept_3 0 rfl rfl)
theorem dX1_accept_74 : decode cX1_accept 74 = .ok (.iload_n 3, 1) := dk_29 (dk_at dksX1_accept_3 3 rfl rfl)
theorem dX1_accept_75 : decode cX1_accept 75 = .ok (.invokeinterface 140 2, 5) := by decide +kernel
theorem dX1_accept_80 : decode cX1_accept 80 = .ok (.checkcast 144, 3) := dk_192 0 144 (dk_at dksX1_accept_3 9 rfl rfl)
theorem dX1_accept_83 : decode cX1_accept 83 = .ok (.iload_n 1, 1) := dk_27 (dk_at dksX1_accept_3 12 rfl rfl)
theorem dX1_accept_84 : decode cX1_accept 84 = .ok (.invokevirtual 438, 3) := dk_182 1 182 (dk_at dksX1_accept_3 13 rfl rfl)
theorem dX1_accept_87 : decode cX1_accept 87 = .ok (.aload_n 2, 1) := dk_44 (dk_at dksX1_accept_3 16 rfl rfl)
theorem dX1_accept_88 : decode cX1_accept 88 = .ok (.iconst 1, 1) := dk_4 (dk_at dksX1_accept_3 17 rfl rfl)
theorem dX1_accept_89 : decode cX1_accept 89 = .ok (.putfield 313, 3) := dk_181 1 57 (dk_at dksX1_accept_3 18 rfl rfl)
theorem dX1_accept_92 : decode cX1_accept 92 = .ok (.aload_n 2, 1) := dk_44 (dk_at dksX1_accept_3 21 rfl rfl)
theorem dX1_accept_93 : decode cX1_accept 93 = .ok (.iload_n 3, 1) := dk_29 (dk_at dksX1_accept_3 22 rfl rfl)
theorem dX1_accept_94 : decode cX1_accept 94 = .ok (.putfield 334, 3) := dk_181 1 78 (dk_at dksX1_accept_4 0 rfl rfl)
theorem dX1_accept_97 : decode cX1_accept 97 = .ok (.aload 4, 2) := dk_25 4 (dk_at dksX1_accept_4 3 rfl rfl)
theorem dX1_accept_99 : decode cX1_accept 99 = .ok (.getfield 442, 3) := dk_180 1 186 (dk_at dksX1_accept_4 5 rfl rfl)
theorem dX1_accept_102 : decode cX1_accept 102 = .ok (.ireturn, 1) := dk_172 (dk_at dksX1_accept_4 8 rfl rfl)
abbrev cX1_decline : ByteArray := prog_1_method_37_code
def yX1_decline : MethodName := ⟨RX1, "decline", "(I)I"⟩
def dkwX1_decline_1 : List UInt8 := [181, 1, 57, 42, 180, 0, 87, 3, 182, 0, 212, 172]
abbrev dktX1_decline_1 : List UInt8 := dkwX1_decline_1 ++ []
def dkwX1_decline_0 : List UInt8 := [42, 27, 182, 1, 53, 77, 44, 180, 1, 57, 153, 0, 6, 16, 254, 172, 42, 182, 1, 175, 87, 44, 7]
abbrev dktX1_decline_0 : List UInt8 := dkwX1_decline_0 ++ dktX1_decline_1
theorem dksX1_decline_0 : cX1_decline.data.toList.drop 0 = dktX1_decline_0 := by decide +kernel
theorem dksX1_decline_1 : cX1_decline.data.toList.drop 23 = dktX1_decline_1 := dk_seg dksX1_decline_0 23 rfl rfl
theorem dX1_decline_0 : decode cX1_decline 0 = .ok (.aload_n 0, 1) := dk_42 (dk_at dksX1_decline_0 0 rfl rfl)
theorem dX1_decline_1 : decode cX1_decline 1 = .ok (.iload_n 1, 1) := dk_27 (dk_at dksX1_decline_0 1 rfl rfl)
theorem dX1_decline_2 : decode cX1_decline 2 = .ok (.invokevirtual 309, 3) := dk_182 1 53 (dk_at dksX1_decline_0 2 rfl rfl)
theorem dX1_decline_5 : decode cX1_decline 5 = .ok (.astore_n 2, 1) := dk_77 (dk_at dksX1_decline_0 5 rfl rfl)
theorem dX1_decline_6 : decode cX1_decline 6 = .ok (.aload_n 2, 1) := dk_44 (dk_at dksX1_decline_0 6 rfl rfl)
theorem dX1_decline_7 : decode cX1_decline 7 = .ok (.getfield 313, 3) := dk_180 1 57 (dk_at dksX1_decline_0 7 rfl rfl)
theorem dX1_decline_10 : decode cX1_decline 10 = .ok (.ifCond .eq 6, 3) := dk_153 0 6 (dk_at dksX1_decline_0 10 rfl rfl)
theorem dX1_decline_13 : decode cX1_decline 13 = .ok (.bipush (-2), 2) := dk_16 254 (dk_at dksX1_decline_0 13 rfl rfl)
theorem dX1_decline_15 : decode cX1_decline 15 = .ok (.ireturn, 1) := dk_172 (dk_at dksX1_decline_0 15 rfl rfl)
theorem dX1_decline_16 : decode cX1_decline 16 = .ok (.aload_n 0, 1) := dk_42 (dk_at dksX1_decline_0 16 rfl rfl)
theorem dX1_decline_17 : decode cX1_decline 17 = .ok (.invokevirtual 431, 3) := dk_182 1 175 (dk_at dksX1_decline_0 17 rfl rfl)
theorem dX1_decline_20 : decode cX1_decline 20 = .ok (.pop, 1) := dk_87 (dk_at dksX1_decline_0 20 rfl rfl)
theorem dX1_decline_21 : decode cX1_decline 21 = .ok (.aload_n 2, 1) := dk_44 (dk_at dksX1_decline_0 21 rfl rfl)
theorem dX1_decline_22 : decode cX1_decline 22 = .ok (.iconst 4, 1) := dk_7 (dk_at dksX1_decline_0 22 rfl rfl)
theorem dX1_decline_23 : decode cX1_decline 23 = .ok (.putfield 313, 3) := dk_181 1 57 (dk_at dksX1_decline_1 0 rfl rfl)
theorem dX1_decline_26 : decode cX1_decline 26 = .ok (.aload_n 0, 1) := dk_42 (dk_at dksX1_decline_1 3 rfl rfl)
theorem dX1_decline_27 : decode cX1_decline 27 = .ok (.getfield 87, 3) := dk_180 0 87 (dk_at dksX1_decline_1 4 rfl rfl)
theorem dX1_decline_30 : decode cX1_decline 30 = .ok (.iconst 0, 1) := dk_3 (dk_at dksX1_decline_1 7 rfl rfl)
theorem dX1_decline_31 : decode cX1_decline 31 = .ok (.invokevirtual 212, 3) := dk_182 0 212 (dk_at dksX1_decline_1 8 rfl rfl)
theorem dX1_decline_34 : decode cX1_decline 34 = .ok (.ireturn, 1) := dk_172 (dk_at dksX1_decline_1 11 rfl rfl)
abbrev cX1_cancel : ByteArray := prog_1_method_38_code
def yX1_cancel : MethodName := ⟨RX1, "cancel", "(I)I"⟩
def dkwX1_cancel_3 : List UInt8 := [185, 0, 137, 1, 0, 172]
abbrev dktX1_cancel_3 : List UInt8 := dkwX1_cancel_3 ++ []
def dkwX1_cancel_2 : List UInt8 := [42, 182, 1, 175, 87, 45, 27, 3, 182, 1, 192, 44, 16, 6, 181, 1, 57, 45, 180, 0, 203]
abbrev dktX1_cancel_2 : List UInt8 := dkwX1_cancel_2 ++ dktX1_cancel_3
def dkwX1_cancel_1 : List UInt8 := [44, 180, 1, 78, 185, 0, 140, 2, 0, 192, 0, 144, 78, 45, 27, 182, 1, 188, 153, 0, 6, 16, 253, 172]
abbrev dktX1_cancel_1 : List UInt8 := dkwX1_cancel_1 ++ dktX1_cancel_2
def dkwX1_cancel_0 : List UInt8 := [42, 27, 182, 1, 53, 77, 44, 180, 1, 57, 4, 159, 0, 6, 16, 254, 172, 42, 180, 0, 87, 180, 0, 133]
abbrev dktX1_cancel_0 : List UInt8 := dkwX1_cancel_0 ++ dktX1_cancel_1
theorem dksX1_cancel_0 : cX1_cancel.data.toList.drop 0 = dktX1_cancel_0 := by decide +kernel
theorem dksX1_cancel_1 : cX1_cancel.data.toList.drop 24 = dktX1_cancel_1 := dk_seg dksX1_cancel_0 24 rfl rfl
theorem dksX1_cancel_2 : cX1_cancel.data.toList.drop 48 = dktX1_cancel_2 := dk_seg dksX1_cancel_1 24 rfl rfl
theorem dksX1_cancel_3 : cX1_cancel.data.toList.drop 69 = dktX1_cancel_3 := dk_seg dksX1_cancel_2 21 rfl rfl
theorem dX1_cancel_0 : decode cX1_cancel 0 = .ok (.aload_n 0, 1) := dk_42 (dk_at dksX1_cancel_0 0 rfl rfl)
theorem dX1_cancel_1 : decode cX1_cancel 1 = .ok (.iload_n 1, 1) := dk_27 (dk_at dksX1_cancel_0 1 rfl rfl)
theorem dX1_cancel_2 : decode cX1_cancel 2 = .ok (.invokevirtual 309, 3) := dk_182 1 53 (dk_at dksX1_cancel_0 2 rfl rfl)
theorem dX1_cancel_5 : decode cX1_cancel 5 = .ok (.astore_n 2, 1) := dk_77 (dk_at dksX1_cancel_0 5 rfl rfl)
theorem dX1_cancel_6 : decode cX1_cancel 6 = .ok (.aload_n 2, 1) := dk_44 (dk_at dksX1_cancel_0 6 rfl rfl)
theorem dX1_cancel_7 : decode cX1_cancel 7 = .ok (.getfield 313, 3) := dk_180 1 57 (dk_at dksX1_cancel_0 7 rfl rfl)
theorem dX1_cancel_10 : decode cX1_cancel 10 = .ok (.iconst 1, 1) := dk_4 (dk_at dksX1_cancel_0 10 rfl rfl)
theorem dX1_cancel_11 : decode cX1_cancel 11 = .ok (.if_icmp .eq 6, 3) := dk_159 0 6 (dk_at dksX1_cancel_0 11 rfl rfl)
theorem dX1_cancel_14 : decode cX1_cancel 14 = .ok (.bipush (-2), 2) := dk_16 254 (dk_at dksX1_cancel_0 14 rfl rfl)
theorem dX1_cancel_16 : decode cX1_cancel 16 = .ok (.ireturn, 1) := dk_172 (dk_at dksX1_cancel_0 16 rfl rfl)
theorem dX1_cancel_17 : decode cX1_cancel 17 = .ok (.aload_n 0, 1) := dk_42 (dk_at dksX1_cancel_0 17 rfl rfl)
theorem dX1_cancel_18 : decode cX1_cancel 18 = .ok (.getfield 87, 3) := dk_180 0 87 (dk_at dksX1_cancel_0 18 rfl rfl)
theorem dX1_cancel_21 : decode cX1_cancel 21 = .ok (.getfield 133, 3) := dk_180 0 133 (dk_at dksX1_cancel_0 21 rfl rfl)
theorem dX1_cancel_24 : decode cX1_cancel 24 = .ok (.aload_n 2, 1) := dk_44 (dk_at dksX1_cancel_1 0 rfl rfl)
theorem dX1_cancel_25 : decode cX1_cancel 25 = .ok (.getfield 334, 3) := dk_180 1 78 (dk_at dksX1_cancel_1 1 rfl rfl)
theorem dX1_cancel_28 : decode cX1_cancel 28 = .ok (.invokeinterface 140 2, 5) := by decide +kernel
theorem dX1_cancel_33 : decode cX1_cancel 33 = .ok (.checkcast 144, 3) := dk_192 0 144 (dk_at dksX1_cancel_1 9 rfl rfl)
theorem dX1_cancel_36 : decode cX1_cancel 36 = .ok (.astore_n 3, 1) := dk_78 (dk_at dksX1_cancel_1 12 rfl rfl)
theorem dX1_cancel_37 : decode cX1_cancel 37 = .ok (.aload_n 3, 1) := dk_45 (dk_at dksX1_cancel_1 13 rfl rfl)
theorem dX1_cancel_38 : decode cX1_cancel 38 = .ok (.iload_n 1, 1) := dk_27 (dk_at dksX1_cancel_1 14 rfl rfl)
theorem dX1_cancel_39 : decode cX1_cancel 39 = .ok (.invokevirtual 444, 3) := dk_182 1 188 (dk_at dksX1_cancel_1 15 rfl rfl)
theorem dX1_cancel_42 : decode cX1_cancel 42 = .ok (.ifCond .eq 6, 3) := dk_153 0 6 (dk_at dksX1_cancel_1 18 rfl rfl)
theorem dX1_cancel_45 : decode cX1_cancel 45 = .ok (.bipush (-3), 2) := dk_16 253 (dk_at dksX1_cancel_1 21 rfl rfl)
theorem dX1_cancel_47 : decode cX1_cancel 47 = .ok (.ireturn, 1) := dk_172 (dk_at dksX1_cancel_1 23 rfl rfl)
theorem dX1_cancel_48 : decode cX1_cancel 48 = .ok (.aload_n 0, 1) := dk_42 (dk_at dksX1_cancel_2 0 rfl rfl)
theorem dX1_cancel_49 : decode cX1_cancel 49 = .ok (.invokevirtual 431, 3) := dk_182 1 175 (dk_at dksX1_cancel_2 1 rfl rfl)
theorem dX1_cancel_52 : decode cX1_cancel 52 = .ok (.pop, 1) := dk_87 (dk_at dksX1_cancel_2 4 rfl rfl)
theorem dX1_cancel_53 : decode cX1_cancel 53 = .ok (.aload_n 3, 1) := dk_45 (dk_at dksX1_cancel_2 5 rfl rfl)
theorem dX1_cancel_54 : decode cX1_cancel 54 = .ok (.iload_n 1, 1) := dk_27 (dk_at dksX1_cancel_2 6 rfl rfl)
theorem dX1_cancel_55 : decode cX1_cancel 55 = .ok (.iconst 0, 1) := dk_3 (dk_at dksX1_cancel_2 7 rfl rfl)
theorem dX1_cancel_56 : decode cX1_cancel 56 = .ok (.invokevirtual 448, 3) := dk_182 1 192 (dk_at dksX1_cancel_2 8 rfl rfl)
theorem dX1_cancel_59 : decode cX1_cancel 59 = .ok (.aload_n 2, 1) := dk_44 (dk_at dksX1_cancel_2 11 rfl rfl)
theorem dX1_cancel_60 : decode cX1_cancel 60 = .ok (.bipush 6, 2) := dk_16 6 (dk_at dksX1_cancel_2 12 rfl rfl)
theorem dX1_cancel_62 : decode cX1_cancel 62 = .ok (.putfield 313, 3) := dk_181 1 57 (dk_at dksX1_cancel_2 14 rfl rfl)
theorem dX1_cancel_65 : decode cX1_cancel 65 = .ok (.aload_n 3, 1) := dk_45 (dk_at dksX1_cancel_2 17 rfl rfl)
theorem dX1_cancel_66 : decode cX1_cancel 66 = .ok (.getfield 203, 3) := dk_180 0 203 (dk_at dksX1_cancel_2 18 rfl rfl)
theorem dX1_cancel_69 : decode cX1_cancel 69 = .ok (.invokeinterface 137 1, 5) := by decide +kernel
theorem dX1_cancel_74 : decode cX1_cancel 74 = .ok (.ireturn, 1) := dk_172 (dk_at dksX1_cancel_3 5 rfl rfl)
abbrev cX1_absent : ByteArray := prog_1_method_39_code
def yX1_absent : MethodName := ⟨RX1, "absent", "(I)I"⟩
def dkwX1_absent_2 : List UInt8 := [78, 45, 27, 4, 182, 1, 192, 44, 4, 181, 1, 89, 45, 180, 0, 203, 185, 0, 137, 1, 0, 172]
abbrev dktX1_absent_2 : List UInt8 := dkwX1_absent_2 ++ []
def dkwX1_absent_1 : List UInt8 := [42, 182, 1, 175, 87, 42, 180, 0, 87, 180, 0, 133, 44, 180, 1, 78, 185, 0, 140, 2, 0, 192, 0, 144]
abbrev dktX1_absent_1 : List UInt8 := dkwX1_absent_1 ++ dktX1_absent_2
def dkwX1_absent_0 : List UInt8 := [42, 27, 182, 1, 53, 77, 44, 180, 1, 57, 4, 160, 0, 10, 44, 180, 1, 89, 153, 0, 6, 16, 254, 172]
abbrev dktX1_absent_0 : List UInt8 := dkwX1_absent_0 ++ dktX1_absent_1
theorem dksX1_absent_0 : cX1_absent.data.toList.drop 0 = dktX1_absent_0 := by decide +kernel
theorem dksX1_absent_1 : cX1_absent.data.toList.drop 24 = dktX1_absent_1 := dk_seg dksX1_absent_0 24 rfl rfl
theorem dksX1_absent_2 : cX1_absent.data.toList.drop 48 = dktX1_absent_2 := dk_seg dksX1_absent_1 24 rfl rfl
theorem dX1_absent_0 : decode cX1_absent 0 = .ok (.aload_n 0, 1) := dk_42 (dk_at dksX1_absent_0 0 rfl rfl)
theorem dX1_absent_1 : decode cX1_absent 1 = .ok (.iload_n 1, 1) := dk_27 (dk_at dksX1_absent_0 1 rfl rfl)
theorem dX1_absent_2 : decode cX1_absent 2 = .ok (.invokevirtual 309, 3) := dk_182 1 53 (dk_at dksX1_absent_0 2 rfl rfl)
theorem dX1_absent_5 : decode cX1_absent 5 = .ok (.astore_n 2, 1) := dk_77 (dk_at dksX1_absent_0 5 rfl rfl)
theorem dX1_absent_6 : decode cX1_absent 6 = .ok (.aload_n 2, 1) := dk_44 (dk_at dksX1_absent_0 6 rfl rfl)
theorem dX1_absent_7 : decode cX1_absent 7 = .ok (.getfield 313, 3) := dk_180 1 57 (dk_at dksX1_absent_0 7 rfl rfl)
theorem dX1_absent_10 : decode cX1_absent 10 = .ok (.iconst 1, 1) := dk_4 (dk_at dksX1_absent_0 10 rfl rfl)
theorem dX1_absent_11 : decode cX1_absent 11 = .ok (.if_icmp .ne 10, 3) := dk_160 0 10 (dk_at dksX1_absent_0 11 rfl rfl)
theorem dX1_absent_14 : decode cX1_absent 14 = .ok (.aload_n 2, 1) := dk_44 (dk_at dksX1_absent_0 14 rfl rfl)
theorem dX1_absent_15 : decode cX1_absent 15 = .ok (.getfield 345, 3) := dk_180 1 89 (dk_at dksX1_absent_0 15 rfl rfl)
theorem dX1_absent_18 : decode cX1_absent 18 = .ok (.ifCond .eq 6, 3) := dk_153 0 6 (dk_at dksX1_absent_0 18 rfl rfl)
theorem dX1_absent_21 : decode cX1_absent 21 = .ok (.bipush (-2), 2) := dk_16 254 (dk_at dksX1_absent_0 21 rfl rfl)
theorem dX1_absent_23 : decode cX1_absent 23 = .ok (.ireturn, 1) := dk_172 (dk_at dksX1_absent_0 23 rfl rfl)
theorem dX1_absent_24 : decode cX1_absent 24 = .ok (.aload_n 0, 1) := dk_42 (dk_at dksX1_absent_1 0 rfl rfl)
theorem dX1_absent_25 : decode cX1_absent 25 = .ok (.invokevirtual 431, 3) := dk_182 1 175 (dk_at dksX1_absent_1 1 rfl rfl)
theorem dX1_absent_28 : decode cX1_absent 28 = .ok (.pop, 1) := dk_87 (dk_at dksX1_absent_1 4 rfl rfl)
theorem dX1_absent_29 : decode cX1_absent 29 = .ok (.aload_n 0, 1) := dk_42 (dk_at dksX1_absent_1 5 rfl rfl)
theorem dX1_absent_30 : decode cX1_absent 30 = .ok (.getfield 87, 3) := dk_180 0 87 (dk_at dksX1_absent_1 6 rfl rfl)
theorem dX1_absent_33 : decode cX1_absent 33 = .ok (.getfield 133, 3) := dk_180 0 133 (dk_at dksX1_absent_1 9 rfl rfl)
theorem dX1_absent_36 : decode cX1_absent 36 = .ok (.aload_n 2, 1) := dk_44 (dk_at dksX1_absent_1 12 rfl rfl)
theorem dX1_absent_37 : decode cX1_absent 37 = .ok (.getfield 334, 3) := dk_180 1 78 (dk_at dksX1_absent_1 13 rfl rfl)
theorem dX1_absent_40 : decode cX1_absent 40 = .ok (.invokeinterface 140 2, 5) := by decide +kernel
theorem dX1_absent_45 : decode cX1_absent 45 = .ok (.checkcast 144, 3) := dk_192 0 144 (dk_at dksX1_absent_1 21 rfl rfl)
theorem dX1_absent_48 : decode cX1_absent 48 = .ok (.astore_n 3, 1) := dk_78 (dk_at dksX1_absent_2 0 rfl rfl)
theorem dX1_absent_49 : decode cX1_absent 49 = .ok (.aload_n 3, 1) := dk_45 (dk_at dksX1_absent_2 1 rfl rfl)
theorem dX1_absent_50 : decode cX1_absent 50 = .ok (.iload_n 1, 1) := dk_27 (dk_at dksX1_absent_2 2 rfl rfl)
theorem dX1_absent_51 : decode cX1_absent 51 = .ok (.iconst 1, 1) := dk_4 (dk_at dksX1_absent_2 3 rfl rfl)
theorem dX1_absent_52 : decode cX1_absent 52 = .ok (.invokevirtual 448, 3) := dk_182 1 192 (dk_at dksX1_absent_2 4 rfl rfl)
theorem dX1_absent_55 : decode cX1_absent 55 = .ok (.aload_n 2, 1) := dk_44 (dk_at dksX1_absent_2 7 rfl rfl)
theorem dX1_absent_56 : decode cX1_absent 56 = .ok (.iconst 1, 1) := dk_4 (dk_at dksX1_absent_2 8 rfl rfl)
theorem dX1_absent_57 : decode cX1_absent 57 = .ok (.putfield 345, 3) := dk_181 1 89 (dk_at dksX1_absent_2 9 rfl rfl)
theorem dX1_absent_60 : decode cX1_absent 60 = .ok (.aload_n 3, 1) := dk_45 (dk_at dksX1_absent_2 12 rfl rfl)
theorem dX1_absent_61 : decode cX1_absent 61 = .ok (.getfield 203, 3) := dk_180 0 203 (dk_at dksX1_absent_2 13 rfl rfl)
theorem dX1_absent_64 : decode cX1_absent 64 = .ok (.invokeinterface 137 1, 5) := by decide +kernel
theorem dX1_absent_69 : decode cX1_absent 69 = .ok (.ireturn, 1) := dk_172 (dk_at dksX1_absent_2 21 rfl rfl)
abbrev cX1_advance : ByteArray := prog_1_method_40_code
def yX1_advance : MethodName := ⟨RX1, "advance", "(I)I"⟩
def dkwX1_advance_1 : List UInt8 := [164, 0, 6, 16, 254, 172, 187, 1, 197, 89, 42, 182, 1, 175, 27, 183, 1, 199, 182, 1, 202, 172]
abbrev dktX1_advance_1 : List UInt8 := dkwX1_advance_1 ++ []
def dkwX1_advance_0 : List UInt8 := [27, 133, 10, 20, 1, 195, 184, 0, 125, 184, 0, 158, 42, 180, 0, 87, 180, 0, 209, 27, 96, 17, 39, 15]
abbrev dktX1_advance_0 : List UInt8 := dkwX1_advance_0 ++ dktX1_advance_1
theorem dksX1_advance_0 : cX1_advance.data.toList.drop 0 = dktX1_advance_0 := by decide +kernel
theorem dksX1_advance_1 : cX1_advance.data.toList.drop 24 = dktX1_advance_1 := dk_seg dksX1_advance_0 24 rfl rfl
theorem dX1_advance_0 : decode cX1_advance 0 = .ok (.iload_n 1, 1) := dk_27 (dk_at dksX1_advance_0 0 rfl rfl)
theorem dX1_advance_1 : decode cX1_advance 1 = .ok (.i2l, 1) := dk_133 (dk_at dksX1_advance_0 1 rfl rfl)
theorem dX1_advance_2 : decode cX1_advance 2 = .ok (.lconst 1, 1) := dk_10 (dk_at dksX1_advance_0 2 rfl rfl)
theorem dX1_advance_3 : decode cX1_advance 3 = .ok (.ldc2_w 451, 3) := dk_20 1 195 (dk_at dksX1_advance_0 3 rfl rfl)
theorem dX1_advance_6 : decode cX1_advance 6 = .ok (.invokestatic 125, 3) := dk_184 0 125 (dk_at dksX1_advance_0 6 rfl rfl)
theorem dX1_advance_9 : decode cX1_advance 9 = .ok (.invokestatic 158, 3) := dk_184 0 158 (dk_at dksX1_advance_0 9 rfl rfl)
theorem dX1_advance_12 : decode cX1_advance 12 = .ok (.aload_n 0, 1) := dk_42 (dk_at dksX1_advance_0 12 rfl rfl)
theorem dX1_advance_13 : decode cX1_advance 13 = .ok (.getfield 87, 3) := dk_180 0 87 (dk_at dksX1_advance_0 13 rfl rfl)
theorem dX1_advance_16 : decode cX1_advance 16 = .ok (.getfield 209, 3) := dk_180 0 209 (dk_at dksX1_advance_0 16 rfl rfl)
theorem dX1_advance_19 : decode cX1_advance 19 = .ok (.iload_n 1, 1) := dk_27 (dk_at dksX1_advance_0 19 rfl rfl)
theorem dX1_advance_20 : decode cX1_advance 20 = .ok (.iadd, 1) := dk_96 (dk_at dksX1_advance_0 20 rfl rfl)
theorem dX1_advance_21 : decode cX1_advance 21 = .ok (.sipush 9999, 3) := dk_17 39 15 (dk_at dksX1_advance_0 21 rfl rfl)
theorem dX1_advance_24 : decode cX1_advance 24 = .ok (.if_icmp .le 6, 3) := dk_164 0 6 (dk_at dksX1_advance_1 0 rfl rfl)
theorem dX1_advance_27 : decode cX1_advance 27 = .ok (.bipush (-2), 2) := dk_16 254 (dk_at dksX1_advance_1 3 rfl rfl)
theorem dX1_advance_29 : decode cX1_advance 29 = .ok (.ireturn, 1) := dk_172 (dk_at dksX1_advance_1 5 rfl rfl)
theorem dX1_advance_30 : decode cX1_advance 30 = .ok (.new 453, 3) := dk_187 1 197 (dk_at dksX1_advance_1 6 rfl rfl)
theorem dX1_advance_33 : decode cX1_advance 33 = .ok (.dup, 1) := dk_89 (dk_at dksX1_advance_1 9 rfl rfl)
theorem dX1_advance_34 : decode cX1_advance 34 = .ok (.aload_n 0, 1) := dk_42 (dk_at dksX1_advance_1 10 rfl rfl)
theorem dX1_advance_35 : decode cX1_advance 35 = .ok (.invokevirtual 431, 3) := dk_182 1 175 (dk_at dksX1_advance_1 11 rfl rfl)
theorem dX1_advance_38 : decode cX1_advance 38 = .ok (.iload_n 1, 1) := dk_27 (dk_at dksX1_advance_1 14 rfl rfl)
theorem dX1_advance_39 : decode cX1_advance 39 = .ok (.invokespecial 455, 3) := dk_183 1 199 (dk_at dksX1_advance_1 15 rfl rfl)
theorem dX1_advance_42 : decode cX1_advance 42 = .ok (.invokevirtual 458, 3) := dk_182 1 202 (dk_at dksX1_advance_1 18 rfl rfl)
theorem dX1_advance_45 : decode cX1_advance 45 = .ok (.ireturn, 1) := dk_172 (dk_at dksX1_advance_1 21 rfl rfl)
abbrev cX1_tip : ByteArray := prog_1_method_41_code
def yX1_tip : MethodName := ⟨RX1, "tip", "(II)I"⟩
def dkwX1_tip_2 : List UInt8 := [42, 182, 1, 175, 87, 45, 21, 4, 181, 1, 207, 45, 89, 180, 1, 218, 28, 96, 181, 1, 218, 21, 4, 172]
abbrev dktX1_tip_2 : List UInt8 := dkwX1_tip_2 ++ []
def dkwX1_tip_1 : List UInt8 := [184, 1, 210, 54, 4, 167, 0, 8, 58, 5, 16, 251, 172, 21, 4, 19, 1, 217, 164, 0, 6, 16, 251, 172]
abbrev dktX1_tip_1 : List UInt8 := dkwX1_tip_1 ++ dktX1_tip_2
def dkwX1_tip_0 : List UInt8 := [42, 27, 182, 0, 238, 78, 28, 133, 10, 20, 1, 205, 184, 0, 125, 184, 0, 158, 45, 180, 1, 207, 28]
abbrev dktX1_tip_0 : List UInt8 := dkwX1_tip_0 ++ dktX1_tip_1
theorem dksX1_tip_0 : cX1_tip.data.toList.drop 0 = dktX1_tip_0 := by decide +kernel
theorem dksX1_tip_1 : cX1_tip.data.toList.drop 23 = dktX1_tip_1 := dk_seg dksX1_tip_0 23 rfl rfl
theorem dksX1_tip_2 : cX1_tip.data.toList.drop 47 = dktX1_tip_2 := dk_seg dksX1_tip_1 24 rfl rfl
theorem dX1_tip_0 : decode cX1_tip 0 = .ok (.aload_n 0, 1) := dk_42 (dk_at dksX1_tip_0 0 rfl rfl)
theorem dX1_tip_1 : decode cX1_tip 1 = .ok (.iload_n 1, 1) := dk_27 (dk_at dksX1_tip_0 1 rfl rfl)
theorem dX1_tip_2 : decode cX1_tip 2 = .ok (.invokevirtual 238, 3) := dk_182 0 238 (dk_at dksX1_tip_0 2 rfl rfl)
theorem dX1_tip_5 : decode cX1_tip 5 = .ok (.astore_n 3, 1) := dk_78 (dk_at dksX1_tip_0 5 rfl rfl)
theorem dX1_tip_6 : decode cX1_tip 6 = .ok (.iload_n 2, 1) := dk_28 (dk_at dksX1_tip_0 6 rfl rfl)
theorem dX1_tip_7 : decode cX1_tip 7 = .ok (.i2l, 1) := dk_133 (dk_at dksX1_tip_0 7 rfl rfl)
theorem dX1_tip_8 : decode cX1_tip 8 = .ok (.lconst 1, 1) := dk_10 (dk_at dksX1_tip_0 8 rfl rfl)
theorem dX1_tip_9 : decode cX1_tip 9 = .ok (.ldc2_w 461, 3) := dk_20 1 205 (dk_at dksX1_tip_0 9 rfl rfl)
theorem dX1_tip_12 : decode cX1_tip 12 = .ok (.invokestatic 125, 3) := dk_184 0 125 (dk_at dksX1_tip_0 12 rfl rfl)
theorem dX1_tip_15 : decode cX1_tip 15 = .ok (.invokestatic 158, 3) := dk_184 0 158 (dk_at dksX1_tip_0 15 rfl rfl)
theorem dX1_tip_18 : decode cX1_tip 18 = .ok (.aload_n 3, 1) := dk_45 (dk_at dksX1_tip_0 18 rfl rfl)
theorem dX1_tip_19 : decode cX1_tip 19 = .ok (.getfield 463, 3) := dk_180 1 207 (dk_at dksX1_tip_0 19 rfl rfl)
theorem dX1_tip_22 : decode cX1_tip 22 = .ok (.iload_n 2, 1) := dk_28 (dk_at dksX1_tip_0 22 rfl rfl)
theorem dX1_tip_23 : decode cX1_tip 23 = .ok (.invokestatic 466, 3) := dk_184 1 210 (dk_at dksX1_tip_1 0 rfl rfl)
theorem dX1_tip_26 : decode cX1_tip 26 = .ok (.istore 4, 2) := dk_54 4 (dk_at dksX1_tip_1 3 rfl rfl)
theorem dX1_tip_28 : decode cX1_tip 28 = .ok (.goto 8, 3) := dk_167 0 8 (dk_at dksX1_tip_1 5 rfl rfl)
theorem dX1_tip_31 : decode cX1_tip 31 = .ok (.astore 5, 2) := dk_58 5 (dk_at dksX1_tip_1 8 rfl rfl)
theorem dX1_tip_33 : decode cX1_tip 33 = .ok (.bipush (-5), 2) := dk_16 251 (dk_at dksX1_tip_1 10 rfl rfl)
theorem dX1_tip_35 : decode cX1_tip 35 = .ok (.ireturn, 1) := dk_172 (dk_at dksX1_tip_1 12 rfl rfl)
theorem dX1_tip_36 : decode cX1_tip 36 = .ok (.iload 4, 2) := dk_21 4 (dk_at dksX1_tip_1 13 rfl rfl)
theorem dX1_tip_38 : decode cX1_tip 38 = .ok (.ldc_w 473, 3) := dk_19 1 217 (dk_at dksX1_tip_1 15 rfl rfl)
theorem dX1_tip_41 : decode cX1_tip 41 = .ok (.if_icmp .le 6, 3) := dk_164 0 6 (dk_at dksX1_tip_1 18 rfl rfl)
theorem dX1_tip_44 : decode cX1_tip 44 = .ok (.bipush (-5), 2) := dk_16 251 (dk_at dksX1_tip_1 21 rfl rfl)
theorem dX1_tip_46 : decode cX1_tip 46 = .ok (.ireturn, 1) := dk_172 (dk_at dksX1_tip_1 23 rfl rfl)
theorem dX1_tip_47 : decode cX1_tip 47 = .ok (.aload_n 0, 1) := dk_42 (dk_at dksX1_tip_2 0 rfl rfl)
theorem dX1_tip_48 : decode cX1_tip 48 = .ok (.invokevirtual 431, 3) := dk_182 1 175 (dk_at dksX1_tip_2 1 rfl rfl)
theorem dX1_tip_51 : decode cX1_tip 51 = .ok (.pop, 1) := dk_87 (dk_at dksX1_tip_2 4 rfl rfl)
theorem dX1_tip_52 : decode cX1_tip 52 = .ok (.aload_n 3, 1) := dk_45 (dk_at dksX1_tip_2 5 rfl rfl)
theorem dX1_tip_53 : decode cX1_tip 53 = .ok (.iload 4, 2) := dk_21 4 (dk_at dksX1_tip_2 6 rfl rfl)
theorem dX1_tip_55 : decode cX1_tip 55 = .ok (.putfield 463, 3) := dk_181 1 207 (dk_at dksX1_tip_2 8 rfl rfl)
theorem dX1_tip_58 : decode cX1_tip 58 = .ok (.aload_n 3, 1) := dk_45 (dk_at dksX1_tip_2 11 rfl rfl)
theorem dX1_tip_59 : decode cX1_tip 59 = .ok (.dup, 1) := dk_89 (dk_at dksX1_tip_2 12 rfl rfl)
theorem dX1_tip_60 : decode cX1_tip 60 = .ok (.getfield 474, 3) := dk_180 1 218 (dk_at dksX1_tip_2 13 rfl rfl)
theorem dX1_tip_63 : decode cX1_tip 63 = .ok (.iload_n 2, 1) := dk_28 (dk_at dksX1_tip_2 16 rfl rfl)
theorem dX1_tip_64 : decode cX1_tip 64 = .ok (.iadd, 1) := dk_96 (dk_at dksX1_tip_2 17 rfl rfl)
theorem dX1_tip_65 : decode cX1_tip 65 = .ok (.putfield 474, 3) := dk_181 1 218 (dk_at dksX1_tip_2 18 rfl rfl)
theorem dX1_tip_68 : decode cX1_tip 68 = .ok (.iload 4, 2) := dk_21 4 (dk_at dksX1_tip_2 21 rfl rfl)
theorem dX1_tip_70 : decode cX1_tip 70 = .ok (.ireturn, 1) := dk_172 (dk_at dksX1_tip_2 23 rfl rfl)
abbrev cX1_setRate : ByteArray := prog_1_method_42_code
def yX1_setRate : MethodName := ⟨RX1, "setRate", "(I)I"⟩
def dkwX1_setRate_1 : List UInt8 := [27, 181, 0, 222, 28, 172]
abbrev dktX1_setRate_1 : List UInt8 := dkwX1_setRate_1 ++ []
def dkwX1_setRate_0 : List UInt8 := [27, 133, 9, 20, 1, 221, 184, 0, 125, 184, 0, 158, 42, 180, 0, 87, 180, 0, 222, 61, 42, 182, 1, 175]
abbrev dktX1_setRate_0 : List UInt8 := dkwX1_setRate_0 ++ dktX1_setRate_1
theorem dksX1_setRate_0 : cX1_setRate.data.toList.drop 0 = dktX1_setRate_0 := by decide +kernel
theorem dksX1_setRate_1 : cX1_setRate.data.toList.drop 24 = dktX1_setRate_1 := dk_seg dksX1_setRate_0 24 rfl rfl
theorem dX1_setRate_0 : decode cX1_setRate 0 = .ok (.iload_n 1, 1) := dk_27 (dk_at dksX1_setRate_0 0 rfl rfl)
theorem dX1_setRate_1 : decode cX1_setRate 1 = .ok (.i2l, 1) := dk_133 (dk_at dksX1_setRate_0 1 rfl rfl)
theorem dX1_setRate_2 : decode cX1_setRate 2 = .ok (.lconst 0, 1) := dk_9 (dk_at dksX1_setRate_0 2 rfl rfl)
theorem dX1_setRate_3 : decode cX1_setRate 3 = .ok (.ldc2_w 477, 3) := dk_20 1 221 (dk_at dksX1_setRate_0 3 rfl rfl)
theorem dX1_setRate_6 : decode cX1_setRate 6 = .ok (.invokestatic 125, 3) := dk_184 0 125 (dk_at dksX1_setRate_0 6 rfl rfl)
theorem dX1_setRate_9 : decode cX1_setRate 9 = .ok (.invokestatic 158, 3) := dk_184 0 158 (dk_at dksX1_setRate_0 9 rfl rfl)
theorem dX1_setRate_12 : decode cX1_setRate 12 = .ok (.aload_n 0, 1) := dk_42 (dk_at dksX1_setRate_0 12 rfl rfl)
theorem dX1_setRate_13 : decode cX1_setRate 13 = .ok (.getfield 87, 3) := dk_180 0 87 (dk_at dksX1_setRate_0 13 rfl rfl)
theorem dX1_setRate_16 : decode cX1_setRate 16 = .ok (.getfield 222, 3) := dk_180 0 222 (dk_at dksX1_setRate_0 16 rfl rfl)
theorem dX1_setRate_19 : decode cX1_setRate 19 = .ok (.istore_n 2, 1) := dk_61 (dk_at dksX1_setRate_0 19 rfl rfl)
theorem dX1_setRate_20 : decode cX1_setRate 20 = .ok (.aload_n 0, 1) := dk_42 (dk_at dksX1_setRate_0 20 rfl rfl)
theorem dX1_setRate_21 : decode cX1_setRate 21 = .ok (.invokevirtual 431, 3) := dk_182 1 175 (dk_at dksX1_setRate_0 21 rfl rfl)
theorem dX1_setRate_24 : decode cX1_setRate 24 = .ok (.iload_n 1, 1) := dk_27 (dk_at dksX1_setRate_1 0 rfl rfl)
theorem dX1_setRate_25 : decode cX1_setRate 25 = .ok (.putfield 222, 3) := dk_181 0 222 (dk_at dksX1_setRate_1 1 rfl rfl)
theorem dX1_setRate_28 : decode cX1_setRate 28 = .ok (.iload_n 2, 1) := dk_28 (dk_at dksX1_setRate_1 4 rfl rfl)
theorem dX1_setRate_29 : decode cX1_setRate 29 = .ok (.ireturn, 1) := dk_172 (dk_at dksX1_setRate_1 5 rfl rfl)
abbrev cX1_setEnd : ByteArray := prog_1_method_43_code
def yX1_setEnd : MethodName := ⟨RX1, "setEnd", "(II)I"⟩
def dkwX1_setEnd_1 : List UInt8 := [45, 180, 0, 254, 54, 4, 42, 182, 1, 175, 87, 45, 28, 181, 0, 254, 21, 4, 172]
abbrev dktX1_setEnd_1 : List UInt8 := dkwX1_setEnd_1 ++ []
def dkwX1_setEnd_0 : List UInt8 := [42, 27, 182, 0, 238, 78, 28, 133, 45, 180, 0, 251, 133, 10, 97, 20, 1, 223, 184, 0, 125, 184, 0, 158]
abbrev dktX1_setEnd_0 : List UInt8 := dkwX1_setEnd_0 ++ dktX1_setEnd_1
theorem dksX1_setEnd_0 : cX1_setEnd.data.toList.drop 0 = dktX1_setEnd_0 := by decide +kernel
theorem dksX1_setEnd_1 : cX1_setEnd.data.toList.drop 24 = dktX1_setEnd_1 := dk_seg dksX1_setEnd_0 24 rfl rfl
theorem dX1_setEnd_0 : decode cX1_setEnd 0 = .ok (.aload_n 0, 1) := dk_42 (dk_at dksX1_setEnd_0 0 rfl rfl)
theorem dX1_setEnd_1 : decode cX1_setEnd 1 = .ok (.iload_n 1, 1) := dk_27 (dk_at dksX1_setEnd_0 1 rfl rfl)
theorem dX1_setEnd_2 : decode cX1_setEnd 2 = .ok (.invokevirtual 238, 3) := dk_182 0 238 (dk_at dksX1_setEnd_0 2 rfl rfl)
theorem dX1_setEnd_5 : decode cX1_setEnd 5 = .ok (.astore_n 3, 1) := dk_78 (dk_at dksX1_setEnd_0 5 rfl rfl)
theorem dX1_setEnd_6 : decode cX1_setEnd 6 = .ok (.iload_n 2, 1) := dk_28 (dk_at dksX1_setEnd_0 6 rfl rfl)
theorem dX1_setEnd_7 : decode cX1_setEnd 7 = .ok (.i2l, 1) := dk_133 (dk_at dksX1_setEnd_0 7 rfl rfl)
theorem dX1_setEnd_8 : decode cX1_setEnd 8 = .ok (.aload_n 3, 1) := dk_45 (dk_at dksX1_setEnd_0 8 rfl rfl)
theorem dX1_setEnd_9 : decode cX1_setEnd 9 = .ok (.getfield 251, 3) := dk_180 0 251 (dk_at dksX1_setEnd_0 9 rfl rfl)
theorem dX1_setEnd_12 : decode cX1_setEnd 12 = .ok (.i2l, 1) := dk_133 (dk_at dksX1_setEnd_0 12 rfl rfl)
theorem dX1_setEnd_13 : decode cX1_setEnd 13 = .ok (.lconst 1, 1) := dk_10 (dk_at dksX1_setEnd_0 13 rfl rfl)
theorem dX1_setEnd_14 : decode cX1_setEnd 14 = .ok (.ladd, 1) := dk_97 (dk_at dksX1_setEnd_0 14 rfl rfl)
theorem dX1_setEnd_15 : decode cX1_setEnd 15 = .ok (.ldc2_w 479, 3) := dk_20 1 223 (dk_at dksX1_setEnd_0 15 rfl rfl)
theorem dX1_setEnd_18 : decode cX1_setEnd 18 = .ok (.invokestatic 125, 3) := dk_184 0 125 (dk_at dksX1_setEnd_0 18 rfl rfl)
theorem dX1_setEnd_21 : decode cX1_setEnd 21 = .ok (.invokestatic 158, 3) := dk_184 0 158 (dk_at dksX1_setEnd_0 21 rfl rfl)
theorem dX1_setEnd_24 : decode cX1_setEnd 24 = .ok (.aload_n 3, 1) := dk_45 (dk_at dksX1_setEnd_1 0 rfl rfl)
theorem dX1_setEnd_25 : decode cX1_setEnd 25 = .ok (.getfield 254, 3) := dk_180 0 254 (dk_at dksX1_setEnd_1 1 rfl rfl)
theorem dX1_setEnd_28 : decode cX1_setEnd 28 = .ok (.istore 4, 2) := dk_54 4 (dk_at dksX1_setEnd_1 4 rfl rfl)
theorem dX1_setEnd_30 : decode cX1_setEnd 30 = .ok (.aload_n 0, 1) := dk_42 (dk_at dksX1_setEnd_1 6 rfl rfl)
theorem dX1_setEnd_31 : decode cX1_setEnd 31 = .ok (.invokevirtual 431, 3) := dk_182 1 175 (dk_at dksX1_setEnd_1 7 rfl rfl)
theorem dX1_setEnd_34 : decode cX1_setEnd 34 = .ok (.pop, 1) := dk_87 (dk_at dksX1_setEnd_1 10 rfl rfl)
theorem dX1_setEnd_35 : decode cX1_setEnd 35 = .ok (.aload_n 3, 1) := dk_45 (dk_at dksX1_setEnd_1 11 rfl rfl)
theorem dX1_setEnd_36 : decode cX1_setEnd 36 = .ok (.iload_n 2, 1) := dk_28 (dk_at dksX1_setEnd_1 12 rfl rfl)
theorem dX1_setEnd_37 : decode cX1_setEnd 37 = .ok (.putfield 254, 3) := dk_181 0 254 (dk_at dksX1_setEnd_1 13 rfl rfl)
theorem dX1_setEnd_40 : decode cX1_setEnd 40 = .ok (.iload 4, 2) := dk_21 4 (dk_at dksX1_setEnd_1 16 rfl rfl)
theorem dX1_setEnd_42 : decode cX1_setEnd 42 = .ok (.ireturn, 1) := dk_172 (dk_at dksX1_setEnd_1 18 rfl rfl)
abbrev cX1_setRule : ByteArray := prog_1_method_44_code
def yX1_setRule : MethodName := ⟨RX1, "setRule", "(II)I"⟩
def dkwX1_setRule_1 : List UInt8 := [42, 182, 1, 175, 180, 0, 227, 27, 28, 79, 29, 172]
abbrev dktX1_setRule_1 : List UInt8 := dkwX1_setRule_1 ++ []
def dkwX1_setRule_0 : List UInt8 := [42, 27, 182, 1, 225, 62, 28, 133, 27, 184, 1, 228, 133, 27, 184, 1, 231, 133, 184, 0, 125, 184, 0, 158]
abbrev dktX1_setRule_0 : List UInt8 := dkwX1_setRule_0 ++ dktX1_setRule_1
theorem dksX1_setRule_0 : cX1_setRule.data.toList.drop 0 = dktX1_setRule_0 := by decide +kernel
theorem dksX1_setRule_1 : cX1_setRule.data.toList.drop 24 = dktX1_setRule_1 := dk_seg dksX1_setRule_0 24 rfl rfl
theorem dX1_setRule_0 : decode cX1_setRule 0 = .ok (.aload_n 0, 1) := dk_42 (dk_at dksX1_setRule_0 0 rfl rfl)
theorem dX1_setRule_1 : decode cX1_setRule 1 = .ok (.iload_n 1, 1) := dk_27 (dk_at dksX1_setRule_0 1 rfl rfl)
theorem dX1_setRule_2 : decode cX1_setRule 2 = .ok (.invokevirtual 481, 3) := dk_182 1 225 (dk_at dksX1_setRule_0 2 rfl rfl)
theorem dX1_setRule_5 : decode cX1_setRule 5 = .ok (.istore_n 3, 1) := dk_62 (dk_at dksX1_setRule_0 5 rfl rfl)
theorem dX1_setRule_6 : decode cX1_setRule 6 = .ok (.iload_n 2, 1) := dk_28 (dk_at dksX1_setRule_0 6 rfl rfl)
theorem dX1_setRule_7 : decode cX1_setRule 7 = .ok (.i2l, 1) := dk_133 (dk_at dksX1_setRule_0 7 rfl rfl)
theorem dX1_setRule_8 : decode cX1_setRule 8 = .ok (.iload_n 1, 1) := dk_27 (dk_at dksX1_setRule_0 8 rfl rfl)
theorem dX1_setRule_9 : decode cX1_setRule 9 = .ok (.invokestatic 484, 3) := dk_184 1 228 (dk_at dksX1_setRule_0 9 rfl rfl)
theorem dX1_setRule_12 : decode cX1_setRule 12 = .ok (.i2l, 1) := dk_133 (dk_at dksX1_setRule_0 12 rfl rfl)
theorem dX1_setRule_13 : decode cX1_setRule 13 = .ok (.iload_n 1, 1) := dk_27 (dk_at dksX1_setRule_0 13 rfl rfl)
theorem dX1_setRule_14 : decode cX1_setRule 14 = .ok (.invokestatic 487, 3) := dk_184 1 231 (dk_at dksX1_setRule_0 14 rfl rfl)
theorem dX1_setRule_17 : decode cX1_setRule 17 = .ok (.i2l, 1) := dk_133 (dk_at dksX1_setRule_0 17 rfl rfl)
theorem dX1_setRule_18 : decode cX1_setRule 18 = .ok (.invokestatic 125, 3) := dk_184 0 125 (dk_at dksX1_setRule_0 18 rfl rfl)
theorem dX1_setRule_21 : decode cX1_setRule 21 = .ok (.invokestatic 158, 3) := dk_184 0 158 (dk_at dksX1_setRule_0 21 rfl rfl)
theorem dX1_setRule_24 : decode cX1_setRule 24 = .ok (.aload_n 0, 1) := dk_42 (dk_at dksX1_setRule_1 0 rfl rfl)
theorem dX1_setRule_25 : decode cX1_setRule 25 = .ok (.invokevirtual 431, 3) := dk_182 1 175 (dk_at dksX1_setRule_1 1 rfl rfl)
theorem dX1_setRule_28 : decode cX1_setRule 28 = .ok (.getfield 227, 3) := dk_180 0 227 (dk_at dksX1_setRule_1 4 rfl rfl)
theorem dX1_setRule_31 : decode cX1_setRule 31 = .ok (.iload_n 1, 1) := dk_27 (dk_at dksX1_setRule_1 7 rfl rfl)
theorem dX1_setRule_32 : decode cX1_setRule 32 = .ok (.iload_n 2, 1) := dk_28 (dk_at dksX1_setRule_1 8 rfl rfl)
theorem dX1_setRule_33 : decode cX1_setRule 33 = .ok (.iastore, 1) := dk_79 (dk_at dksX1_setRule_1 9 rfl rfl)
theorem dX1_setRule_34 : decode cX1_setRule 34 = .ok (.iload_n 3, 1) := dk_29 (dk_at dksX1_setRule_1 10 rfl rfl)
theorem dX1_setRule_35 : decode cX1_setRule 35 = .ok (.ireturn, 1) := dk_172 (dk_at dksX1_setRule_1 11 rfl rfl)
abbrev cX1_format : ByteArray := prog_1_method_46_code
def yX1_format : MethodName := ⟨RX1, "format", "(I)I"⟩
def dkwX1_format_4 : List UInt8 := [167, 255, 209, 42, 45, 182, 2, 8, 181, 0, 99, 42, 180, 0, 99, 182, 2, 12, 172]
abbrev dktX1_format_4 : List UInt8 := dkwX1_format_4 ++ []
def dkwX1_format_3 : List UInt8 := [182, 2, 0, 158, 0, 9, 19, 2, 3, 167, 0, 5, 18, 97, 182, 2, 5, 25, 5, 182, 2, 5, 87]
abbrev dktX1_format_3 : List UInt8 := dkwX1_format_3 ++ dktX1_format_4
def dkwX1_format_2 : List UInt8 := [25, 4, 185, 0, 194, 1, 0, 153, 0, 43, 25, 4, 185, 0, 200, 1, 0, 192, 0, 27, 58, 5, 45, 45]
abbrev dktX1_format_2 : List UInt8 := dkwX1_format_2 ++ dktX1_format_3
def dkwX1_format_1 : List UInt8 := [19, 1, 244, 167, 0, 5, 18, 97, 183, 1, 246, 78, 42, 44, 182, 1, 249, 185, 1, 253, 1, 0, 58, 4]
abbrev dktX1_format_1 : List UInt8 := dkwX1_format_1 ++ dktX1_format_2
def dkwX1_format_0 : List UInt8 := [42, 27, 182, 0, 238, 77, 187, 1, 239, 89, 44, 180, 0, 203, 185, 1, 241, 1, 0, 153, 0, 9]
abbrev dktX1_format_0 : List UInt8 := dkwX1_format_0 ++ dktX1_format_1
theorem dksX1_format_0 : cX1_format.data.toList.drop 0 = dktX1_format_0 := by decide +kernel
theorem dksX1_format_1 : cX1_format.data.toList.drop 22 = dktX1_format_1 := dk_seg dksX1_format_0 22 rfl rfl
theorem dksX1_format_2 : cX1_format.data.toList.drop 46 = dktX1_format_2 := dk_seg dksX1_format_1 24 rfl rfl
theorem dksX1_format_3 : cX1_format.data.toList.drop 70 = dktX1_format_3 := dk_seg dksX1_format_2 24 rfl rfl
theorem dksX1_format_4 : cX1_format.data.toList.drop 93 = dktX1_format_4 := dk_seg dksX1_format_3 23 rfl rfl
theorem dX1_format_0 : decode cX1_format 0 = .ok (.aload_n 0, 1) := dk_42 (dk_at dksX1_format_0 0 rfl rfl)
theorem dX1_format_1 : decode cX1_format 1 = .ok (.iload_n 1, 1) := dk_27 (dk_at dksX1_format_0 1 rfl rfl)
theorem dX1_format_2 : decode cX1_format 2 = .ok (.invokevirtual 238, 3) := dk_182 0 238 (dk_at dksX1_format_0 2 rfl rfl)
theorem dX1_format_5 : decode cX1_format 5 = .ok (.astore_n 2, 1) := dk_77 (dk_at dksX1_format_0 5 rfl rfl)
theorem dX1_format_6 : decode cX1_format 6 = .ok (.new 495, 3) := dk_187 1 239 (dk_at dksX1_format_0 6 rfl rfl)
theorem dX1_format_9 : decode cX1_format 9 = .ok (.dup, 1) := dk_89 (dk_at dksX1_format_0 9 rfl rfl)
theorem dX1_format_10 : decode cX1_format 10 = .ok (.aload_n 2, 1) := dk_44 (dk_at dksX1_format_0 10 rfl rfl)
theorem dX1_format_11 : decode cX1_format 11 = .ok (.getfield 203, 3) := dk_180 0 203 (dk_at dksX1_format_0 11 rfl rfl)
theorem dX1_format_14 : decode cX1_format 14 = .ok (.invokeinterface 497 1, 5) := by decide +kernel
theorem dX1_format_19 : decode cX1_format 19 = .ok (.ifCond .eq 9, 3) := dk_153 0 9 (dk_at dksX1_format_0 19 rfl rfl)
theorem dX1_format_22 : decode cX1_format 22 = .ok (.ldc_w 500, 3) := dk_19 1 244 (dk_at dksX1_format_1 0 rfl rfl)
theorem dX1_format_25 : decode cX1_format 25 = .ok (.goto 5, 3) := dk_167 0 5 (dk_at dksX1_format_1 3 rfl rfl)
theorem dX1_format_28 : decode cX1_format 28 = .ok (.ldc 97, 2) := dk_18 97 (dk_at dksX1_format_1 6 rfl rfl)
theorem dX1_format_30 : decode cX1_format 30 = .ok (.invokespecial 502, 3) := dk_183 1 246 (dk_at dksX1_format_1 8 rfl rfl)
theorem dX1_format_33 : decode cX1_format 33 = .ok (.astore_n 3, 1) := dk_78 (dk_at dksX1_format_1 11 rfl rfl)
theorem dX1_format_34 : decode cX1_format 34 = .ok (.aload_n 0, 1) := dk_42 (dk_at dksX1_format_1 12 rfl rfl)
theorem dX1_format_35 : decode cX1_format 35 = .ok (.aload_n 2, 1) := dk_44 (dk_at dksX1_format_1 13 rfl rfl)
theorem dX1_format_36 : decode cX1_format 36 = .ok (.invokevirtual 505, 3) := dk_182 1 249 (dk_at dksX1_format_1 14 rfl rfl)
theorem dX1_format_39 : decode cX1_format 39 = .ok (.invokeinterface 509 1, 5) := by decide +kernel
theorem dX1_format_44 : decode cX1_format 44 = .ok (.astore 4, 2) := dk_58 4 (dk_at dksX1_format_1 22 rfl rfl)
theorem dX1_format_46 : decode cX1_format 46 = .ok (.aload 4, 2) := dk_25 4 (dk_at dksX1_format_2 0 rfl rfl)
theorem dX1_format_48 : decode cX1_format 48 = .ok (.invokeinterface 194 1, 5) := by decide +kernel
theorem dX1_format_53 : decode cX1_format 53 = .ok (.ifCond .eq 43, 3) := dk_153 0 43 (dk_at dksX1_format_2 7 rfl rfl)
theorem dX1_format_56 : decode cX1_format 56 = .ok (.aload 4, 2) := dk_25 4 (dk_at dksX1_format_2 10 rfl rfl)
theorem dX1_format_58 : decode cX1_format 58 = .ok (.invokeinterface 200 1, 5) := by decide +kernel
theorem dX1_format_63 : decode cX1_format 63 = .ok (.checkcast 27, 3) := dk_192 0 27 (dk_at dksX1_format_2 17 rfl rfl)
theorem dX1_format_66 : decode cX1_format 66 = .ok (.astore 5, 2) := dk_58 5 (dk_at dksX1_format_2 20 rfl rfl)
theorem dX1_format_68 : decode cX1_format 68 = .ok (.aload_n 3, 1) := dk_45 (dk_at dksX1_format_2 22 rfl rfl)
theorem dX1_format_69 : decode cX1_format 69 = .ok (.aload_n 3, 1) := dk_45 (dk_at dksX1_format_2 23 rfl rfl)
theorem dX1_format_70 : decode cX1_format 70 = .ok (.invokevirtual 512, 3) := dk_182 2 0 (dk_at dksX1_format_3 0 rfl rfl)
theorem dX1_format_73 : decode cX1_format 73 = .ok (.ifCond .le 9, 3) := dk_158 0 9 (dk_at dksX1_format_3 3 rfl rfl)
theorem dX1_format_76 : decode cX1_format 76 = .ok (.ldc_w 515, 3) := dk_19 2 3 (dk_at dksX1_format_3 6 rfl rfl)
theorem dX1_format_79 : decode cX1_format 79 = .ok (.goto 5, 3) := dk_167 0 5 (dk_at dksX1_format_3 9 rfl rfl)
theorem dX1_format_82 : decode cX1_format 82 = .ok (.ldc 97, 2) := dk_18 97 (dk_at dksX1_format_3 12 rfl rfl)
theorem dX1_format_84 : decode cX1_format 84 = .ok (.invokevirtual 517, 3) := dk_182 2 5 (dk_at dksX1_format_3 14 rfl rfl)
theorem dX1_format_87 : decode cX1_format 87 = .ok (.aload 5, 2) := dk_25 5 (dk_at dksX1_format_3 17 rfl rfl)
theorem dX1_format_89 : decode cX1_format 89 = .ok (.invokevirtual 517, 3) := dk_182 2 5 (dk_at dksX1_format_3 19 rfl rfl)
theorem dX1_format_92 : decode cX1_format 92 = .ok (.pop, 1) := dk_87 (dk_at dksX1_format_3 22 rfl rfl)
theorem dX1_format_93 : decode cX1_format 93 = .ok (.goto (-47), 3) := dk_167 255 209 (dk_at dksX1_format_4 0 rfl rfl)
theorem dX1_format_96 : decode cX1_format 96 = .ok (.aload_n 0, 1) := dk_42 (dk_at dksX1_format_4 3 rfl rfl)
theorem dX1_format_97 : decode cX1_format 97 = .ok (.aload_n 3, 1) := dk_45 (dk_at dksX1_format_4 4 rfl rfl)
theorem dX1_format_98 : decode cX1_format 98 = .ok (.invokevirtual 520, 3) := dk_182 2 8 (dk_at dksX1_format_4 5 rfl rfl)
theorem dX1_format_101 : decode cX1_format 101 = .ok (.putfield 99, 3) := dk_181 0 99 (dk_at dksX1_format_4 8 rfl rfl)
theorem dX1_format_104 : decode cX1_format 104 = .ok (.aload_n 0, 1) := dk_42 (dk_at dksX1_format_4 11 rfl rfl)
theorem dX1_format_105 : decode cX1_format 105 = .ok (.getfield 99, 3) := dk_180 0 99 (dk_at dksX1_format_4 12 rfl rfl)
theorem dX1_format_108 : decode cX1_format 108 = .ok (.invokevirtual 524, 3) := dk_182 2 12 (dk_at dksX1_format_4 15 rfl rfl)
theorem dX1_format_111 : decode cX1_format 111 = .ok (.ireturn, 1) := dk_172 (dk_at dksX1_format_4 18 rfl rfl)
abbrev cX1_wordsOf : ByteArray := prog_1_method_45_code
def yX1_wordsOf : MethodName := ⟨RX1, "wordsOf", "(LSharedTaxis$Taxi;)Ljava/lang/Iterable;"⟩
def dkwX1_wordsOf_0 : List UInt8 := [187, 1, 234, 89, 42, 43, 183, 1, 236, 176]
abbrev dktX1_wordsOf_0 : List UInt8 := dkwX1_wordsOf_0 ++ []
theorem dksX1_wordsOf_0 : cX1_wordsOf.data.toList.drop 0 = dktX1_wordsOf_0 := by decide +kernel
theorem dX1_wordsOf_0 : decode cX1_wordsOf 0 = .ok (.new 490, 3) := dk_187 1 234 (dk_at dksX1_wordsOf_0 0 rfl rfl)
theorem dX1_wordsOf_3 : decode cX1_wordsOf 3 = .ok (.dup, 1) := dk_89 (dk_at dksX1_wordsOf_0 3 rfl rfl)
theorem dX1_wordsOf_4 : decode cX1_wordsOf 4 = .ok (.aload_n 0, 1) := dk_42 (dk_at dksX1_wordsOf_0 4 rfl rfl)
theorem dX1_wordsOf_5 : decode cX1_wordsOf 5 = .ok (.aload_n 1, 1) := dk_43 (dk_at dksX1_wordsOf_0 5 rfl rfl)
theorem dX1_wordsOf_6 : decode cX1_wordsOf 6 = .ok (.invokespecial 492, 3) := dk_183 1 236 (dk_at dksX1_wordsOf_0 6 rfl rfl)
theorem dX1_wordsOf_9 : decode cX1_wordsOf 9 = .ok (.areturn, 1) := dk_176 (dk_at dksX1_wordsOf_0 9 rfl rfl)
abbrev cX1_query : ByteArray := prog_1_method_52_code
def yX1_query : MethodName := ⟨RX1, "query", "(I)I"⟩
def dkwX1_query_6 : List UInt8 := [167, 255, 202, 44, 180, 2, 40, 153, 0, 7, 2, 167, 0, 4, 29, 172]
abbrev dktX1_query_6 : List UInt8 := dkwX1_query_6 ++ []
def dkwX1_query_5 : List UInt8 := [154, 0, 6, 167, 0, 16, 44, 180, 2, 40, 153, 0, 6, 21, 4, 172, 132, 3, 1, 132, 4, 1]
abbrev dktX1_query_5 : List UInt8 := dkwX1_query_5 ++ dktX1_query_6
def dkwX1_query_4 : List UInt8 := [185, 0, 137, 1, 0, 162, 0, 43, 44, 180, 2, 30, 42, 180, 0, 87, 21, 4, 185, 2, 34, 3, 0]
abbrev dktX1_query_4 : List UInt8 := dkwX1_query_4 ++ dktX1_query_5
def dkwX1_query_3 : List UInt8 := [172, 42, 2, 181, 0, 73, 3, 62, 3, 54, 4, 21, 4, 42, 180, 0, 87, 180, 0, 146]
abbrev dktX1_query_3 : List UInt8 := dkwX1_query_3 ++ dktX1_query_4
def dkwX1_query_2 : List UInt8 := [183, 2, 28, 77, 167, 0, 21, 78, 42, 45, 180, 0, 178, 181, 0, 73, 19, 2, 29, 45, 182, 0, 181, 100]
abbrev dktX1_query_2 : List UInt8 := dkwX1_query_2 ++ dktX1_query_3
def dkwX1_query_1 : List UInt8 := [181, 0, 151, 187, 2, 24, 89, 187, 0, 163, 89, 42, 180, 0, 69, 27, 19, 2, 26, 183, 0, 167]
abbrev dktX1_query_1 : List UInt8 := dkwX1_query_1 ++ dktX1_query_2
def dkwX1_query_0 : List UInt8 := [27, 133, 9, 42, 180, 0, 151, 17, 0, 200, 184, 2, 21, 133, 184, 0, 125, 184, 0, 158, 42, 3]
abbrev dktX1_query_0 : List UInt8 := dkwX1_query_0 ++ dktX1_query_1
theorem dksX1_query_0 : cX1_query.data.toList.drop 0 = dktX1_query_0 := by decide +kernel
theorem dksX1_query_1 : cX1_query.data.toList.drop 22 = dktX1_query_1 := dk_seg dksX1_query_0 22 rfl rfl
theorem dksX1_query_2 : cX1_query.data.toList.drop 44 = dktX1_query_2 := dk_seg dksX1_query_1 22 rfl rfl
theorem dksX1_query_3 : cX1_query.data.toList.drop 68 = dktX1_query_3 := dk_seg dksX1_query_2 24 rfl rfl
theorem dksX1_query_4 : cX1_query.data.toList.drop 88 = dktX1_query_4 := dk_seg dksX1_query_3 20 rfl rfl
theorem dksX1_query_5 : cX1_query.data.toList.drop 111 = dktX1_query_5 := dk_seg dksX1_query_4 23 rfl rfl
theorem dksX1_query_6 : cX1_query.data.toList.drop 133 = dktX1_query_6 := dk_seg dksX1_query_5 22 rfl rfl
theorem dX1_query_0 : decode cX1_query 0 = .ok (.iload_n 1, 1) := dk_27 (dk_at dksX1_query_0 0 rfl rfl)
theorem dX1_query_1 : decode cX1_query 1 = .ok (.i2l, 1) := dk_133 (dk_at dksX1_query_0 1 rfl rfl)
theorem dX1_query_2 : decode cX1_query 2 = .ok (.lconst 0, 1) := dk_9 (dk_at dksX1_query_0 2 rfl rfl)
theorem dX1_query_3 : decode cX1_query 3 = .ok (.aload_n 0, 1) := dk_42 (dk_at dksX1_query_0 3 rfl rfl)
theorem dX1_query_4 : decode cX1_query 4 = .ok (.getfield 151, 3) := dk_180 0 151 (dk_at dksX1_query_0 4 rfl rfl)
theorem dX1_query_7 : decode cX1_query 7 = .ok (.sipush 200, 3) := dk_17 0 200 (dk_at dksX1_query_0 7 rfl rfl)
theorem dX1_query_10 : decode cX1_query 10 = .ok (.invokestatic 533, 3) := dk_184 2 21 (dk_at dksX1_query_0 10 rfl rfl)
theorem dX1_query_13 : decode cX1_query 13 = .ok (.i2l, 1) := dk_133 (dk_at dksX1_query_0 13 rfl rfl)
theorem dX1_query_14 : decode cX1_query 14 = .ok (.invokestatic 125, 3) := dk_184 0 125 (dk_at dksX1_query_0 14 rfl rfl)
theorem dX1_query_17 : decode cX1_query 17 = .ok (.invokestatic 158, 3) := dk_184 0 158 (dk_at dksX1_query_0 17 rfl rfl)
theorem dX1_query_20 : decode cX1_query 20 = .ok (.aload_n 0, 1) := dk_42 (dk_at dksX1_query_0 20 rfl rfl)
theorem dX1_query_21 : decode cX1_query 21 = .ok (.iconst 0, 1) := dk_3 (dk_at dksX1_query_0 21 rfl rfl)
theorem dX1_query_22 : decode cX1_query 22 = .ok (.putfield 151, 3) := dk_181 0 151 (dk_at dksX1_query_1 0 rfl rfl)
theorem dX1_query_25 : decode cX1_query 25 = .ok (.new 536, 3) := dk_187 2 24 (dk_at dksX1_query_1 3 rfl rfl)
theorem dX1_query_28 : decode cX1_query 28 = .ok (.dup, 1) := dk_89 (dk_at dksX1_query_1 6 rfl rfl)
theorem dX1_query_29 : decode cX1_query 29 = .ok (.new 163, 3) := dk_187 0 163 (dk_at dksX1_query_1 7 rfl rfl)
theorem dX1_query_32 : decode cX1_query 32 = .ok (.dup, 1) := dk_89 (dk_at dksX1_query_1 10 rfl rfl)
theorem dX1_query_33 : decode cX1_query 33 = .ok (.aload_n 0, 1) := dk_42 (dk_at dksX1_query_1 11 rfl rfl)
theorem dX1_query_34 : decode cX1_query 34 = .ok (.getfield 69, 3) := dk_180 0 69 (dk_at dksX1_query_1 12 rfl rfl)
theorem dX1_query_37 : decode cX1_query 37 = .ok (.iload_n 1, 1) := dk_27 (dk_at dksX1_query_1 15 rfl rfl)
theorem dX1_query_38 : decode cX1_query 38 = .ok (.ldc_w 538, 3) := dk_19 2 26 (dk_at dksX1_query_1 16 rfl rfl)
theorem dX1_query_41 : decode cX1_query 41 = .ok (.invokespecial 167, 3) := dk_183 0 167 (dk_at dksX1_query_1 19 rfl rfl)
theorem dX1_query_44 : decode cX1_query 44 = .ok (.invokespecial 540, 3) := dk_183 2 28 (dk_at dksX1_query_2 0 rfl rfl)
theorem dX1_query_47 : decode cX1_query 47 = .ok (.astore_n 2, 1) := dk_77 (dk_at dksX1_query_2 3 rfl rfl)
theorem dX1_query_48 : decode cX1_query 48 = .ok (.goto 21, 3) := dk_167 0 21 (dk_at dksX1_query_2 4 rfl rfl)
theorem dX1_query_51 : decode cX1_query 51 = .ok (.astore_n 3, 1) := dk_78 (dk_at dksX1_query_2 7 rfl rfl)
theorem dX1_query_52 : decode cX1_query 52 = .ok (.aload_n 0, 1) := dk_42 (dk_at dksX1_query_2 8 rfl rfl)
theorem dX1_query_53 : decode cX1_query 53 = .ok (.aload_n 3, 1) := dk_45 (dk_at dksX1_query_2 9 rfl rfl)
theorem dX1_query_54 : decode cX1_query 54 = .ok (.getfield 178, 3) := dk_180 0 178 (dk_at dksX1_query_2 10 rfl rfl)
theorem dX1_query_57 : decode cX1_query 57 = .ok (.putfield 73, 3) := dk_181 0 73 (dk_at dksX1_query_2 13 rfl rfl)
theorem dX1_query_60 : decode cX1_query 60 = .ok (.ldc_w 541, 3) := dk_19 2 29 (dk_at dksX1_query_2 16 rfl rfl)
theorem dX1_query_63 : decode cX1_query 63 = .ok (.aload_n 3, 1) := dk_45 (dk_at dksX1_query_2 19 rfl rfl)
theorem dX1_query_64 : decode cX1_query 64 = .ok (.invokevirtual 181, 3) := dk_182 0 181 (dk_at dksX1_query_2 20 rfl rfl)
theorem dX1_query_67 : decode cX1_query 67 = .ok (.isub, 1) := dk_100 (dk_at dksX1_query_2 23 rfl rfl)
theorem dX1_query_68 : decode cX1_query 68 = .ok (.ireturn, 1) := dk_172 (dk_at dksX1_query_3 0 rfl rfl)
theorem dX1_query_69 : decode cX1_query 69 = .ok (.aload_n 0, 1) := dk_42 (dk_at dksX1_query_3 1 rfl rfl)
theorem dX1_query_70 : decode cX1_query 70 = .ok (.iconst (-1), 1) := dk_2 (dk_at dksX1_query_3 2 rfl rfl)
theorem dX1_query_71 : decode cX1_query 71 = .ok (.putfield 73, 3) := dk_181 0 73 (dk_at dksX1_query_3 3 rfl rfl)
theorem dX1_query_74 : decode cX1_query 74 = .ok (.iconst 0, 1) := dk_3 (dk_at dksX1_query_3 6 rfl rfl)
theorem dX1_query_75 : decode cX1_query 75 = .ok (.istore_n 3, 1) := dk_62 (dk_at dksX1_query_3 7 rfl rfl)
theorem dX1_query_76 : decode cX1_query 76 = .ok (.iconst 0, 1) := dk_3 (dk_at dksX1_query_3 8 rfl rfl)
theorem dX1_query_77 : decode cX1_query 77 = .ok (.istore 4, 2) := dk_54 4 (dk_at dksX1_query_3 9 rfl rfl)
theorem dX1_query_79 : decode cX1_query 79 = .ok (.iload 4, 2) := dk_21 4 (dk_at dksX1_query_3 11 rfl rfl)
theorem dX1_query_81 : decode cX1_query 81 = .ok (.aload_n 0, 1) := dk_42 (dk_at dksX1_query_3 13 rfl rfl)
theorem dX1_query_82 : decode cX1_query 82 = .ok (.getfield 87, 3) := dk_180 0 87 (dk_at dksX1_query_3 14 rfl rfl)
theorem dX1_query_85 : decode cX1_query 85 = .ok (.getfield 146, 3) := dk_180 0 146 (dk_at dksX1_query_3 17 rfl rfl)
theorem dX1_query_88 : decode cX1_query 88 = .ok (.invokeinterface 137 1, 5) := by decide +kernel
theorem dX1_query_93 : decode cX1_query 93 = .ok (.if_icmp .ge 43, 3) := dk_162 0 43 (dk_at dksX1_query_4 5 rfl rfl)
theorem dX1_query_96 : decode cX1_query 96 = .ok (.aload_n 2, 1) := dk_44 (dk_at dksX1_query_4 8 rfl rfl)
theorem dX1_query_97 : decode cX1_query 97 = .ok (.getfield 542, 3) := dk_180 2 30 (dk_at dksX1_query_4 9 rfl rfl)
theorem dX1_query_100 : decode cX1_query 100 = .ok (.aload_n 0, 1) := dk_42 (dk_at dksX1_query_4 12 rfl rfl)
theorem dX1_query_101 : decode cX1_query 101 = .ok (.getfield 87, 3) := dk_180 0 87 (dk_at dksX1_query_4 13 rfl rfl)
theorem dX1_query_104 : decode cX1_query 104 = .ok (.iload 4, 2) := dk_21 4 (dk_at dksX1_query_4 16 rfl rfl)
theorem dX1_query_106 : decode cX1_query 106 = .ok (.invokeinterface 546 3, 5) := by decide +kernel
theorem dX1_query_111 : decode cX1_query 111 = .ok (.ifCond .ne 6, 3) := dk_154 0 6 (dk_at dksX1_query_5 0 rfl rfl)
theorem dX1_query_114 : decode cX1_query 114 = .ok (.goto 16, 3) := dk_167 0 16 (dk_at dksX1_query_5 3 rfl rfl)
theorem dX1_query_117 : decode cX1_query 117 = .ok (.aload_n 2, 1) := dk_44 (dk_at dksX1_query_5 6 rfl rfl)
theorem dX1_query_118 : decode cX1_query 118 = .ok (.getfield 552, 3) := dk_180 2 40 (dk_at dksX1_query_5 7 rfl rfl)
theorem dX1_query_121 : decode cX1_query 121 = .ok (.ifCond .eq 6, 3) := dk_153 0 6 (dk_at dksX1_query_5 10 rfl rfl)
theorem dX1_query_124 : decode cX1_query 124 = .ok (.iload 4, 2) := dk_21 4 (dk_at dksX1_query_5 13 rfl rfl)
theorem dX1_query_126 : decode cX1_query 126 = .ok (.ireturn, 1) := dk_172 (dk_at dksX1_query_5 15 rfl rfl)
theorem dX1_query_127 : decode cX1_query 127 = .ok (.iinc 3 1, 3) := dk_132 3 1 (dk_at dksX1_query_5 16 rfl rfl)
theorem dX1_query_130 : decode cX1_query 130 = .ok (.iinc 4 1, 3) := dk_132 4 1 (dk_at dksX1_query_5 19 rfl rfl)
theorem dX1_query_133 : decode cX1_query 133 = .ok (.goto (-54), 3) := dk_167 255 202 (dk_at dksX1_query_6 0 rfl rfl)
theorem dX1_query_136 : decode cX1_query 136 = .ok (.aload_n 2, 1) := dk_44 (dk_at dksX1_query_6 3 rfl rfl)
theorem dX1_query_137 : decode cX1_query 137 = .ok (.getfield 552, 3) := dk_180 2 40 (dk_at dksX1_query_6 4 rfl rfl)
theorem dX1_query_140 : decode cX1_query 140 = .ok (.ifCond .eq 7, 3) := dk_153 0 7 (dk_at dksX1_query_6 7 rfl rfl)
theorem dX1_query_143 : decode cX1_query 143 = .ok (.iconst (-1), 1) := dk_2 (dk_at dksX1_query_6 10 rfl rfl)
theorem dX1_query_144 : decode cX1_query 144 = .ok (.goto 4, 3) := dk_167 0 4 (dk_at dksX1_query_6 11 rfl rfl)
theorem dX1_query_147 : decode cX1_query 147 = .ok (.iload_n 3, 1) := dk_29 (dk_at dksX1_query_6 14 rfl rfl)
theorem dX1_query_148 : decode cX1_query 148 = .ok (.ireturn, 1) := dk_172 (dk_at dksX1_query_6 15 rfl rfl)
abbrev cX1_property : ByteArray := prog_1_method_7_code
def yX1_property : MethodName := ⟨RX1, "property", "(Ljava/lang/String;)LSharedTaxis$Value;"⟩
def dkwX1_property_12 : List UInt8 := [1, 176]
abbrev dktX1_property_12 : List UInt8 := dkwX1_property_12 ++ []
def dkwX1_property_11 : List UInt8 := [186, 0, 63, 0, 0, 167, 0, 20, 186, 0, 64, 0, 0, 167, 0, 12, 186, 0, 65, 0, 0, 167, 0, 4]
abbrev dktX1_property_11 : List UInt8 := dkwX1_property_11 ++ dktX1_property_12
def dkwX1_property_10 : List UInt8 := [186, 0, 60, 0, 0, 167, 0, 44, 186, 0, 61, 0, 0, 167, 0, 36, 186, 0, 62, 0, 0, 167, 0, 28]
abbrev dktX1_property_10 : List UInt8 := dkwX1_property_10 ++ dktX1_property_11
def dkwX1_property_9 : List UInt8 := [186, 0, 54, 0, 0, 167, 0, 68, 186, 0, 58, 0, 0, 167, 0, 60, 186, 0, 59, 0, 0, 167, 0, 52]
abbrev dktX1_property_9 : List UInt8 := dkwX1_property_9 ++ dktX1_property_10
def dkwX1_property_8 : List UInt8 := [170, 0, 0, 0, 121, 0, 0, 0, 0, 0, 0, 0, 8, 0, 0, 0, 49, 0, 0, 0, 57, 0, 0, 0, 65, 0, 0, 0, 73, 0, 0, 0, 81, 0, 0, 0, 89, 0, 0, 0, 97, 0, 0, 0, 105, 0, 0, 0, 113]
abbrev dktX1_property_8 : List UInt8 := dkwX1_property_8 ++ dktX1_property_9
def dkwX1_property_7 : List UInt8 := [182, 0, 34, 153, 0, 6, 16, 8, 61, 28]
abbrev dktX1_property_7 : List UInt8 := dkwX1_property_7 ++ dktX1_property_8
def dkwX1_property_6 : List UInt8 := [61, 167, 0, 30, 43, 18, 50, 182, 0, 34, 153, 0, 21, 16, 7, 61, 167, 0, 15, 43, 18, 52]
abbrev dktX1_property_6 : List UInt8 := dkwX1_property_6 ++ dktX1_property_7
def dkwX1_property_5 : List UInt8 := [18, 46, 182, 0, 34, 153, 0, 50, 8, 61, 167, 0, 45, 43, 18, 48, 182, 0, 34, 153, 0, 36, 16, 6]
abbrev dktX1_property_5 : List UInt8 := dkwX1_property_5 ++ dktX1_property_6
def dkwX1_property_4 : List UInt8 := [153, 0, 78, 6, 61, 167, 0, 73, 43, 18, 44, 182, 0, 34, 153, 0, 64, 7, 61, 167, 0, 59, 43]
abbrev dktX1_property_4 : List UInt8 := dkwX1_property_4 ++ dktX1_property_5
def dkwX1_property_3 : List UInt8 := [61, 167, 0, 101, 43, 18, 40, 182, 0, 34, 153, 0, 92, 5, 61, 167, 0, 87, 43, 18, 42, 182, 0, 34]
abbrev dktX1_property_3 : List UInt8 := dkwX1_property_3 ++ dktX1_property_4
def dkwX1_property_2 : List UInt8 := [43, 18, 32, 182, 0, 34, 153, 0, 120, 3, 61, 167, 0, 115, 43, 18, 38, 182, 0, 34, 153, 0, 106, 4]
abbrev dktX1_property_2 : List UInt8 := dkwX1_property_2 ++ dktX1_property_3
def dkwX1_property_1 : List UInt8 := [171, 0, 0, 0, 0, 0, 0, 210, 0, 0, 0, 9, 176, 106, 78, 89, 0, 0, 0, 168, 215, 143, 207, 190, 0, 0, 0, 140, 0, 0, 14, 123, 0, 0, 0, 126, 0, 47, 216, 46, 0, 0, 0, 183, 0, 48, 23, 170, 0, 0, 0, 112, 0, 53, 104, 248, 0, 0, 0, 84, 0, 54, 54, 30, 0, 0, 0, 198, 6, 117, 217, 163, 0, 0, 0, 154, 6, 138, 196, 145, 0, 0, 0, 98]
abbrev dktX1_property_1 : List UInt8 := dkwX1_property_1 ++ dktX1_property_2
def dkwX1_property_0 : List UInt8 := [42, 76, 2, 61, 43, 182, 0, 26]
abbrev dktX1_property_0 : List UInt8 := dkwX1_property_0 ++ dktX1_property_1
theorem dksX1_property_0 : cX1_property.data.toList.drop 0 = dktX1_property_0 := by decide +kernel
theorem dksX1_property_1 : cX1_property.data.toList.drop 8 = dktX1_property_1 := dk_seg dksX1_property_0 8 rfl rfl
theorem dksX1_property_2 : cX1_property.data.toList.drop 92 = dktX1_property_2 := dk_seg dksX1_property_1 84 rfl rfl
theorem dksX1_property_3 : cX1_property.data.toList.drop 116 = dktX1_property_3 := dk_seg dksX1_property_2 24 rfl rfl
theorem dksX1_property_4 : cX1_property.data.toList.drop 140 = dktX1_property_4 := dk_seg dksX1_property_3 24 rfl rfl
theorem dksX1_property_5 : cX1_property.data.toList.drop 163 = dktX1_property_5 := dk_seg dksX1_property_4 23 rfl rfl
theorem dksX1_property_6 : cX1_property.data.toList.drop 187 = dktX1_property_6 := dk_seg dksX1_property_5 24 rfl rfl
theorem dksX1_property_7 : cX1_property.data.toList.drop 209 = dktX1_property_7 := dk_seg dksX1_property_6 22 rfl rfl
theorem dksX1_property_8 : cX1_property.data.toList.drop 219 = dktX1_property_8 := dk_seg dksX1_property_7 10 rfl rfl
theorem dksX1_property_9 : cX1_property.data.toList.drop 268 = dktX1_property_9 := dk_seg dksX1_property_8 49 rfl rfl
theorem dksX1_property_10 : cX1_property.data.toList.drop 292 = dktX1_property_10 := dk_seg dksX1_property_9 24 rfl rfl
theorem dksX1_property_11 : cX1_property.data.toList.drop 316 = dktX1_property_11 := dk_seg dksX1_property_10 24 rfl rfl
theorem dksX1_property_12 : cX1_property.data.toList.drop 340 = dktX1_property_12 := dk_seg dksX1_property_11 24 rfl rfl
theorem dX1_property_0 : decode cX1_property 0 = .ok (.aload_n 0, 1) := dk_42 (dk_at dksX1_property_0 0 rfl rfl)
theorem dX1_property_1 : decode cX1_property 1 = .ok (.astore_n 1, 1) := dk_76 (dk_at dksX1_property_0 1 rfl rfl)
theorem dX1_property_2 : decode cX1_property 2 = .ok (.iconst (-1), 1) := dk_2 (dk_at dksX1_property_0 2 rfl rfl)
theorem dX1_property_3 : decode cX1_property 3 = .ok (.istore_n 2, 1) := dk_61 (dk_at dksX1_property_0 3 rfl rfl)
theorem dX1_property_4 : decode cX1_property 4 = .ok (.aload_n 1, 1) := dk_43 (dk_at dksX1_property_0 4 rfl rfl)
theorem dX1_property_5 : decode cX1_property 5 = .ok (.invokevirtual 26, 3) := dk_182 0 26 (dk_at dksX1_property_0 5 rfl rfl)
theorem dX1_property_8 : decode cX1_property 8 = .ok (.lookupswitch 210 #[(-1335210407, 168), (-678441026, 140), (3707, 126), (3135534, 183), (3151786, 112), (3500280, 84), (3552798, 198), (108386723, 154), (109757585, 98)], 84) := by decide +kernel
theorem dX1_property_92 : decode cX1_property 92 = .ok (.aload_n 1, 1) := dk_43 (dk_at dksX1_property_2 0 rfl rfl)
theorem dX1_property_93 : decode cX1_property 93 = .ok (.ldc 32, 2) := dk_18 32 (dk_at dksX1_property_2 1 rfl rfl)
theorem dX1_property_95 : decode cX1_property 95 = .ok (.invokevirtual 34, 3) := dk_182 0 34 (dk_at dksX1_property_2 3 rfl rfl)
theorem dX1_property_98 : decode cX1_property 98 = .ok (.ifCond .eq 120, 3) := dk_153 0 120 (dk_at dksX1_property_2 6 rfl rfl)
theorem dX1_property_101 : decode cX1_property 101 = .ok (.iconst 0, 1) := dk_3 (dk_at dksX1_property_2 9 rfl rfl)
theorem dX1_property_102 : decode cX1_property 102 = .ok (.istore_n 2, 1) := dk_61 (dk_at dksX1_property_2 10 rfl rfl)
theorem dX1_property_103 : decode cX1_property 103 = .ok (.goto 115, 3) := dk_167 0 115 (dk_at dksX1_property_2 11 rfl rfl)
theorem dX1_property_106 : decode cX1_property 106 = .ok (.aload_n 1, 1) := dk_43 (dk_at dksX1_property_2 14 rfl rfl)
theorem dX1_property_107 : decode cX1_property 107 = .ok (.ldc 38, 2) := dk_18 38 (dk_at dksX1_property_2 15 rfl rfl)
theorem dX1_property_109 : decode cX1_property 109 = .ok (.invokevirtual 34, 3) := dk_182 0 34 (dk_at dksX1_property_2 17 rfl rfl)
theorem dX1_property_112 : decode cX1_property 112 = .ok (.ifCond .eq 106, 3) := dk_153 0 106 (dk_at dksX1_property_2 20 rfl rfl)
theorem dX1_property_115 : decode cX1_property 115 = .ok (.iconst 1, 1) := dk_4 (dk_at dksX1_property_2 23 rfl rfl)
theorem dX1_property_116 : decode cX1_property 116 = .ok (.istore_n 2, 1) := dk_61 (dk_at dksX1_property_3 0 rfl rfl)
theorem dX1_property_117 : decode cX1_property 117 = .ok (.goto 101, 3) := dk_167 0 101 (dk_at dksX1_property_3 1 rfl rfl)
theorem dX1_property_120 : decode cX1_property 120 = .ok (.aload_n 1, 1) := dk_43 (dk_at dksX1_property_3 4 rfl rfl)
theorem dX1_property_121 : decode cX1_property 121 = .ok (.ldc 40, 2) := dk_18 40 (dk_at dksX1_property_3 5 rfl rfl)
theorem dX1_property_123 : decode cX1_property 123 = .ok (.invokevirtual 34, 3) := dk_182 0 34 (dk_at dksX1_property_3 7 rfl rfl)
theorem dX1_property_126 : decode cX1_property 126 = .ok (.ifCond .eq 92, 3) := dk_153 0 92 (dk_at dksX1_property_3 10 rfl rfl)
theorem dX1_property_129 : decode cX1_property 129 = .ok (.iconst 2, 1) := dk_5 (dk_at dksX1_property_3 13 rfl rfl)
theorem dX1_property_130 : decode cX1_property 130 = .ok (.istore_n 2, 1) := dk_61 (dk_at dksX1_property_3 14 rfl rfl)
theorem dX1_property_131 : decode cX1_property 131 = .ok (.goto 87, 3) := dk_167 0 87 (dk_at dksX1_property_3 15 rfl rfl)
theorem dX1_property_134 : decode cX1_property 134 = .ok (.aload_n 1, 1) := dk_43 (dk_at dksX1_property_3 18 rfl rfl)
theorem dX1_property_135 : decode cX1_property 135 = .ok (.ldc 42, 2) := dk_18 42 (dk_at dksX1_property_3 19 rfl rfl)
theorem dX1_property_137 : decode cX1_property 137 = .ok (.invokevirtual 34, 3) := dk_182 0 34 (dk_at dksX1_property_3 21 rfl rfl)
theorem dX1_property_140 : decode cX1_property 140 = .ok (.ifCond .eq 78, 3) := dk_153 0 78 (dk_at dksX1_property_4 0 rfl rfl)
theorem dX1_property_143 : decode cX1_property 143 = .ok (.iconst 3, 1) := dk_6 (dk_at dksX1_property_4 3 rfl rfl)
theorem dX1_property_144 : decode cX1_property 144 = .ok (.istore_n 2, 1) := dk_61 (dk_at dksX1_property_4 4 rfl rfl)
theorem dX1_property_145 : decode cX1_property 145 = .ok (.goto 73, 3) := dk_167 0 73 (dk_at dksX1_property_4 5 rfl rfl)
theorem dX1_property_148 : decode cX1_property 148 = .ok (.aload_n 1, 1) := dk_43 (dk_at dksX1_property_4 8 rfl rfl)
theorem dX1_property_149 : decode cX1_property 149 = .ok (.ldc 44, 2) := dk_18 44 (dk_at dksX1_property_4 9 rfl rfl)
theorem dX1_property_151 : decode cX1_property 151 = .ok (.invokevirtual 34, 3) := dk_182 0 34 (dk_at dksX1_property_4 11 rfl rfl)
theorem dX1_property_154 : decode cX1_property 154 = .ok (.ifCond .eq 64, 3) := dk_153 0 64 (dk_at dksX1_property_4 14 rfl rfl)
theorem dX1_property_157 : decode cX1_property 157 = .ok (.iconst 4, 1) := dk_7 (dk_at dksX1_property_4 17 rfl rfl)
theorem dX1_property_158 : decode cX1_property 158 = .ok (.istore_n 2, 1) := dk_61 (dk_at dksX1_property_4 18 rfl rfl)
theorem dX1_property_159 : decode cX1_property 159 = .ok (.goto 59, 3) := dk_167 0 59 (dk_at dksX1_property_4 19 rfl rfl)
theorem dX1_property_162 : decode cX1_property 162 = .ok (.aload_n 1, 1) := dk_43 (dk_at dksX1_property_4 22 rfl rfl)
theorem dX1_property_163 : decode cX1_property 163 = .ok (.ldc 46, 2) := dk_18 46 (dk_at dksX1_property_5 0 rfl rfl)
theorem dX1_property_165 : decode cX1_property 165 = .ok (.invokevirtual 34, 3) := dk_182 0 34 (dk_at dksX1_property_5 2 rfl rfl)
theorem dX1_property_168 : decode cX1_property 168 = .ok (.ifCond .eq 50, 3) := dk_153 0 50 (dk_at dksX1_property_5 5 rfl rfl)
theorem dX1_property_171 : decode cX1_property 171 = .ok (.iconst 5, 1) := dk_8 (dk_at dksX1_property_5 8 rfl rfl)
theorem dX1_property_172 : decode cX1_property 172 = .ok (.istore_n 2, 1) := dk_61 (dk_at dksX1_property_5 9 rfl rfl)
theorem dX1_property_173 : decode cX1_property 173 = .ok (.goto 45, 3) := dk_167 0 45 (dk_at dksX1_property_5 10 rfl rfl)
theorem dX1_property_176 : decode cX1_property 176 = .ok (.aload_n 1, 1) := dk_43 (dk_at dksX1_property_5 13 rfl rfl)
theorem dX1_property_177 : decode cX1_property 177 = .ok (.ldc 48, 2) := dk_18 48 (dk_at dksX1_property_5 14 rfl rfl)
theorem dX1_property_179 : decode cX1_property 179 = .ok (.invokevirtual 34, 3) := dk_182 0 34 (dk_at dksX1_property_5 16 rfl rfl)
theorem dX1_property_182 : decode cX1_property 182 = .ok (.ifCond .eq 36, 3) := dk_153 0 36 (dk_at dksX1_property_5 19 rfl rfl)
theorem dX1_property_185 : decode cX1_property 185 = .ok (.bipush 6, 2) := dk_16 6 (dk_at dksX1_property_5 22 rfl rfl)
theorem dX1_property_187 : decode cX1_property 187 = .ok (.istore_n 2, 1) := dk_61 (dk_at dksX1_property_6 0 rfl rfl)
theorem dX1_property_188 : decode cX1_property 188 = .ok (.goto 30, 3) := dk_167 0 30 (dk_at dksX1_property_6 1 rfl rfl)
theorem dX1_property_191 : decode cX1_property 191 = .ok (.aload_n 1, 1) := dk_43 (dk_at dksX1_property_6 4 rfl rfl)
theorem dX1_property_192 : decode cX1_property 192 = .ok (.ldc 50, 2) := dk_18 50 (dk_at dksX1_property_6 5 rfl rfl)
theorem dX1_property_194 : decode cX1_property 194 = .ok (.invokevirtual 34, 3) := dk_182 0 34 (dk_at dksX1_property_6 7 rfl rfl)
theorem dX1_property_197 : decode cX1_property 197 = .ok (.ifCond .eq 21, 3) := dk_153 0 21 (dk_at dksX1_property_6 10 rfl rfl)
theorem dX1_property_200 : decode cX1_property 200 = .ok (.bipush 7, 2) := dk_16 7 (dk_at dksX1_property_6 13 rfl rfl)
theorem dX1_property_202 : decode cX1_property 202 = .ok (.istore_n 2, 1) := dk_61 (dk_at dksX1_property_6 15 rfl rfl)
theorem dX1_property_203 : decode cX1_property 203 = .ok (.goto 15, 3) := dk_167 0 15 (dk_at dksX1_property_6 16 rfl rfl)
theorem dX1_property_206 : decode cX1_property 206 = .ok (.aload_n 1, 1) := dk_43 (dk_at dksX1_property_6 19 rfl rfl)
theorem dX1_property_207 : decode cX1_property 207 = .ok (.ldc 52, 2) := dk_18 52 (dk_at dksX1_property_6 20 rfl rfl)
theorem dX1_property_209 : decode cX1_property 209 = .ok (.invokevirtual 34, 3) := dk_182 0 34 (dk_at dksX1_property_7 0 rfl rfl)
theorem dX1_property_212 : decode cX1_property 212 = .ok (.ifCond .eq 6, 3) := dk_153 0 6 (dk_at dksX1_property_7 3 rfl rfl)
theorem dX1_property_215 : decode cX1_property 215 = .ok (.bipush 8, 2) := dk_16 8 (dk_at dksX1_property_7 6 rfl rfl)
theorem dX1_property_217 : decode cX1_property 217 = .ok (.istore_n 2, 1) := dk_61 (dk_at dksX1_property_7 8 rfl rfl)
theorem dX1_property_218 : decode cX1_property 218 = .ok (.iload_n 2, 1) := dk_28 (dk_at dksX1_property_7 9 rfl rfl)
theorem dX1_property_219 : decode cX1_property 219 = .ok (.tableswitch 121 0 8 #[49, 57, 65, 73, 81, 89, 97, 105, 113], 49) := by decide +kernel
theorem dX1_property_268 : decode cX1_property 268 = .ok (.invokedynamic 54, 5) := by decide +kernel
theorem dX1_property_273 : decode cX1_property 273 = .ok (.goto 68, 3) := dk_167 0 68 (dk_at dksX1_property_9 5 rfl rfl)
theorem dX1_property_276 : decode cX1_property 276 = .ok (.invokedynamic 58, 5) := by decide +kernel
theorem dX1_property_281 : decode cX1_property 281 = .ok (.goto 60, 3) := dk_167 0 60 (dk_at dksX1_property_9 13 rfl rfl)
theorem dX1_property_284 : decode cX1_property 284 = .ok (.invokedynamic 59, 5) := by decide +kernel
theorem dX1_property_289 : decode cX1_property 289 = .ok (.goto 52, 3) := dk_167 0 52 (dk_at dksX1_property_9 21 rfl rfl)
theorem dX1_property_292 : decode cX1_property 292 = .ok (.invokedynamic 60, 5) := by decide +kernel
theorem dX1_property_297 : decode cX1_property 297 = .ok (.goto 44, 3) := dk_167 0 44 (dk_at dksX1_property_10 5 rfl rfl)
theorem dX1_property_300 : decode cX1_property 300 = .ok (.invokedynamic 61, 5) := by decide +kernel
theorem dX1_property_305 : decode cX1_property 305 = .ok (.goto 36, 3) := dk_167 0 36 (dk_at dksX1_property_10 13 rfl rfl)
theorem dX1_property_308 : decode cX1_property 308 = .ok (.invokedynamic 62, 5) := by decide +kernel
theorem dX1_property_313 : decode cX1_property 313 = .ok (.goto 28, 3) := dk_167 0 28 (dk_at dksX1_property_10 21 rfl rfl)
theorem dX1_property_316 : decode cX1_property 316 = .ok (.invokedynamic 63, 5) := by decide +kernel
theorem dX1_property_321 : decode cX1_property 321 = .ok (.goto 20, 3) := dk_167 0 20 (dk_at dksX1_property_11 5 rfl rfl)
theorem dX1_property_324 : decode cX1_property 324 = .ok (.invokedynamic 64, 5) := by decide +kernel
theorem dX1_property_329 : decode cX1_property 329 = .ok (.goto 12, 3) := dk_167 0 12 (dk_at dksX1_property_11 13 rfl rfl)
theorem dX1_property_332 : decode cX1_property 332 = .ok (.invokedynamic 65, 5) := by decide +kernel
theorem dX1_property_337 : decode cX1_property 337 = .ok (.goto 4, 3) := dk_167 0 4 (dk_at dksX1_property_11 21 rfl rfl)
theorem dX1_property_340 : decode cX1_property 340 = .ok (.aconst_null, 1) := dk_1 (dk_at dksX1_property_12 0 rfl rfl)
theorem dX1_property_341 : decode cX1_property 341 = .ok (.areturn, 1) := dk_176 (dk_at dksX1_property_12 1 rfl rfl)
abbrev cX1_lambda_property_0 : ByteArray := prog_1_method_61_code
def yX1_lambda_property_0 : MethodName := ⟨RX1, "lambda$property$0", "(LSharedTaxis$State;I)I"⟩
theorem dX1_lambda_property_0_0 : decode cX1_lambda_property_0 0 = .ok (.iload_n 1, 1) := by decide +kernel
theorem dX1_lambda_property_0_1 : decode cX1_lambda_property_0 1 = .ok (.ireturn, 1) := by decide +kernel
abbrev cX1_lambda_property_1 : ByteArray := prog_1_method_60_code
def yX1_lambda_property_1 : MethodName := ⟨RX1, "lambda$property$1", "(LSharedTaxis$State;I)I"⟩
def dkwX1_lambda_property_1_0 : List UInt8 := [42, 180, 0, 146, 27, 185, 0, 140, 2, 0, 192, 0, 149, 180, 1, 57, 172]
abbrev dktX1_lambda_property_1_0 : List UInt8 := dkwX1_lambda_property_1_0 ++ []
theorem dksX1_lambda_property_1_0 : cX1_lambda_property_1.data.toList.drop 0 = dktX1_lambda_property_1_0 := by decide +kernel
theorem dX1_lambda_property_1_0 : decode cX1_lambda_property_1 0 = .ok (.aload_n 0, 1) := dk_42 (dk_at dksX1_lambda_property_1_0 0 rfl rfl)
theorem dX1_lambda_property_1_1 : decode cX1_lambda_property_1 1 = .ok (.getfield 146, 3) := dk_180 0 146 (dk_at dksX1_lambda_property_1_0 1 rfl rfl)
theorem dX1_lambda_property_1_4 : decode cX1_lambda_property_1 4 = .ok (.iload_n 1, 1) := dk_27 (dk_at dksX1_lambda_property_1_0 4 rfl rfl)
theorem dX1_lambda_property_1_5 : decode cX1_lambda_property_1 5 = .ok (.invokeinterface 140 2, 5) := by decide +kernel
theorem dX1_lambda_property_1_10 : decode cX1_lambda_property_1 10 = .ok (.checkcast 149, 3) := dk_192 0 149 (dk_at dksX1_lambda_property_1_0 10 rfl rfl)
theorem dX1_lambda_property_1_13 : decode cX1_lambda_property_1 13 = .ok (.getfield 313, 3) := dk_180 1 57 (dk_at dksX1_lambda_property_1_0 13 rfl rfl)
theorem dX1_lambda_property_1_16 : decode cX1_lambda_property_1 16 = .ok (.ireturn, 1) := dk_172 (dk_at dksX1_lambda_property_1_0 16 rfl rfl)
abbrev cX1_lambda_property_2 : ByteArray := prog_1_method_59_code
def yX1_lambda_property_2 : MethodName := ⟨RX1, "lambda$property$2", "(LSharedTaxis$State;I)I"⟩
def dkwX1_lambda_property_2_0 : List UInt8 := [42, 180, 0, 146, 27, 185, 0, 140, 2, 0, 192, 0, 149, 180, 1, 59, 172]
abbrev dktX1_lambda_property_2_0 : List UInt8 := dkwX1_lambda_property_2_0 ++ []
theorem dksX1_lambda_property_2_0 : cX1_lambda_property_2.data.toList.drop 0 = dktX1_lambda_property_2_0 := by decide +kernel
theorem dX1_lambda_property_2_0 : decode cX1_lambda_property_2 0 = .ok (.aload_n 0, 1) := dk_42 (dk_at dksX1_lambda_property_2_0 0 rfl rfl)
theorem dX1_lambda_property_2_1 : decode cX1_lambda_property_2 1 = .ok (.getfield 146, 3) := dk_180 0 146 (dk_at dksX1_lambda_property_2_0 1 rfl rfl)
theorem dX1_lambda_property_2_4 : decode cX1_lambda_property_2 4 = .ok (.iload_n 1, 1) := dk_27 (dk_at dksX1_lambda_property_2_0 4 rfl rfl)
theorem dX1_lambda_property_2_5 : decode cX1_lambda_property_2 5 = .ok (.invokeinterface 140 2, 5) := by decide +kernel
theorem dX1_lambda_property_2_10 : decode cX1_lambda_property_2 10 = .ok (.checkcast 149, 3) := dk_192 0 149 (dk_at dksX1_lambda_property_2_0 10 rfl rfl)
theorem dX1_lambda_property_2_13 : decode cX1_lambda_property_2 13 = .ok (.getfield 315, 3) := dk_180 1 59 (dk_at dksX1_lambda_property_2_0 13 rfl rfl)
theorem dX1_lambda_property_2_16 : decode cX1_lambda_property_2 16 = .ok (.ireturn, 1) := dk_172 (dk_at dksX1_lambda_property_2_0 16 rfl rfl)
abbrev cX1_lambda_property_3 : ByteArray := prog_1_method_58_code
def yX1_lambda_property_3 : MethodName := ⟨RX1, "lambda$property$3", "(LSharedTaxis$State;I)I"⟩
def dkwX1_lambda_property_3_0 : List UInt8 := [42, 180, 0, 146, 27, 185, 0, 140, 2, 0, 192, 0, 149, 180, 1, 61, 172]
abbrev dktX1_lambda_property_3_0 : List UInt8 := dkwX1_lambda_property_3_0 ++ []
theorem dksX1_lambda_property_3_0 : cX1_lambda_property_3.data.toList.drop 0 = dktX1_lambda_property_3_0 := by decide +kernel
theorem dX1_lambda_property_3_0 : decode cX1_lambda_property_3 0 = .ok (.aload_n 0, 1) := dk_42 (dk_at dksX1_lambda_property_3_0 0 rfl rfl)
theorem dX1_lambda_property_3_1 : decode cX1_lambda_property_3 1 = .ok (.getfield 146, 3) := dk_180 0 146 (dk_at dksX1_lambda_property_3_0 1 rfl rfl)
theorem dX1_lambda_property_3_4 : decode cX1_lambda_property_3 4 = .ok (.iload_n 1, 1) := dk_27 (dk_at dksX1_lambda_property_3_0 4 rfl rfl)
theorem dX1_lambda_property_3_5 : decode cX1_lambda_property_3 5 = .ok (.invokeinterface 140 2, 5) := by decide +kernel
theorem dX1_lambda_property_3_10 : decode cX1_lambda_property_3 10 = .ok (.checkcast 149, 3) := dk_192 0 149 (dk_at dksX1_lambda_property_3_0 10 rfl rfl)
theorem dX1_lambda_property_3_13 : decode cX1_lambda_property_3 13 = .ok (.getfield 317, 3) := dk_180 1 61 (dk_at dksX1_lambda_property_3_0 13 rfl rfl)
theorem dX1_lambda_property_3_16 : decode cX1_lambda_property_3 16 = .ok (.ireturn, 1) := dk_172 (dk_at dksX1_lambda_property_3_0 16 rfl rfl)
abbrev cX1_lambda_property_4 : ByteArray := prog_1_method_57_code
def yX1_lambda_property_4 : MethodName := ⟨RX1, "lambda$property$4", "(LSharedTaxis$State;I)I"⟩
def dkwX1_lambda_property_4_0 : List UInt8 := [42, 180, 0, 146, 27, 185, 0, 140, 2, 0, 192, 0, 149, 180, 1, 63, 172]
abbrev dktX1_lambda_property_4_0 : List UInt8 := dkwX1_lambda_property_4_0 ++ []
theorem dksX1_lambda_property_4_0 : cX1_lambda_property_4.data.toList.drop 0 = dktX1_lambda_property_4_0 := by decide +kernel
theorem dX1_lambda_property_4_0 : decode cX1_lambda_property_4 0 = .ok (.aload_n 0, 1) := dk_42 (dk_at dksX1_lambda_property_4_0 0 rfl rfl)
theorem dX1_lambda_property_4_1 : decode cX1_lambda_property_4 1 = .ok (.getfield 146, 3) := dk_180 0 146 (dk_at dksX1_lambda_property_4_0 1 rfl rfl)
theorem dX1_lambda_property_4_4 : decode cX1_lambda_property_4 4 = .ok (.iload_n 1, 1) := dk_27 (dk_at dksX1_lambda_property_4_0 4 rfl rfl)
theorem dX1_lambda_property_4_5 : decode cX1_lambda_property_4 5 = .ok (.invokeinterface 140 2, 5) := by decide +kernel
theorem dX1_lambda_property_4_10 : decode cX1_lambda_property_4 10 = .ok (.checkcast 149, 3) := dk_192 0 149 (dk_at dksX1_lambda_property_4_0 10 rfl rfl)
theorem dX1_lambda_property_4_13 : decode cX1_lambda_property_4 13 = .ok (.getfield 319, 3) := dk_180 1 63 (dk_at dksX1_lambda_property_4_0 13 rfl rfl)
theorem dX1_lambda_property_4_16 : decode cX1_lambda_property_4 16 = .ok (.ireturn, 1) := dk_172 (dk_at dksX1_lambda_property_4_0 16 rfl rfl)
abbrev cX1_lambda_property_5 : ByteArray := prog_1_method_56_code
def yX1_lambda_property_5 : MethodName := ⟨RX1, "lambda$property$5", "(LSharedTaxis$State;I)I"⟩
def dkwX1_lambda_property_5_0 : List UInt8 := [42, 180, 0, 146, 27, 185, 0, 140, 2, 0, 192, 0, 149, 180, 1, 65, 172]
abbrev dktX1_lambda_property_5_0 : List UInt8 := dkwX1_lambda_property_5_0 ++ []
theorem dksX1_lambda_property_5_0 : cX1_lambda_property_5.data.toList.drop 0 = dktX1_lambda_property_5_0 := by decide +kernel
theorem dX1_lambda_property_5_0 : decode cX1_lambda_property_5 0 = .ok (.aload_n 0, 1) := dk_42 (dk_at dksX1_lambda_property_5_0 0 rfl rfl)
theorem dX1_lambda_property_5_1 : decode cX1_lambda_property_5 1 = .ok (.getfield 146, 3) := dk_180 0 146 (dk_at dksX1_lambda_property_5_0 1 rfl rfl)
theorem dX1_lambda_property_5_4 : decode cX1_lambda_property_5 4 = .ok (.iload_n 1, 1) := dk_27 (dk_at dksX1_lambda_property_5_0 4 rfl rfl)
theorem dX1_lambda_property_5_5 : decode cX1_lambda_property_5 5 = .ok (.invokeinterface 140 2, 5) := by decide +kernel
theorem dX1_lambda_property_5_10 : decode cX1_lambda_property_5 10 = .ok (.checkcast 149, 3) := dk_192 0 149 (dk_at dksX1_lambda_property_5_0 10 rfl rfl)
theorem dX1_lambda_property_5_13 : decode cX1_lambda_property_5 13 = .ok (.getfield 321, 3) := dk_180 1 65 (dk_at dksX1_lambda_property_5_0 13 rfl rfl)
theorem dX1_lambda_property_5_16 : decode cX1_lambda_property_5 16 = .ok (.ireturn, 1) := dk_172 (dk_at dksX1_lambda_property_5_0 16 rfl rfl)
abbrev cX1_lambda_property_6 : ByteArray := prog_1_method_55_code
def yX1_lambda_property_6 : MethodName := ⟨RX1, "lambda$property$6", "(LSharedTaxis$State;I)I"⟩
def dkwX1_lambda_property_6_0 : List UInt8 := [42, 180, 0, 146, 27, 185, 0, 140, 2, 0, 192, 0, 149, 180, 1, 70, 172]
abbrev dktX1_lambda_property_6_0 : List UInt8 := dkwX1_lambda_property_6_0 ++ []
theorem dksX1_lambda_property_6_0 : cX1_lambda_property_6.data.toList.drop 0 = dktX1_lambda_property_6_0 := by decide +kernel
theorem dX1_lambda_property_6_0 : decode cX1_lambda_property_6 0 = .ok (.aload_n 0, 1) := dk_42 (dk_at dksX1_lambda_property_6_0 0 rfl rfl)
theorem dX1_lambda_property_6_1 : decode cX1_lambda_property_6 1 = .ok (.getfield 146, 3) := dk_180 0 146 (dk_at dksX1_lambda_property_6_0 1 rfl rfl)
theorem dX1_lambda_property_6_4 : decode cX1_lambda_property_6 4 = .ok (.iload_n 1, 1) := dk_27 (dk_at dksX1_lambda_property_6_0 4 rfl rfl)
theorem dX1_lambda_property_6_5 : decode cX1_lambda_property_6 5 = .ok (.invokeinterface 140 2, 5) := by decide +kernel
theorem dX1_lambda_property_6_10 : decode cX1_lambda_property_6 10 = .ok (.checkcast 149, 3) := dk_192 0 149 (dk_at dksX1_lambda_property_6_0 10 rfl rfl)
theorem dX1_lambda_property_6_13 : decode cX1_lambda_property_6 13 = .ok (.getfield 326, 3) := dk_180 1 70 (dk_at dksX1_lambda_property_6_0 13 rfl rfl)
theorem dX1_lambda_property_6_16 : decode cX1_lambda_property_6 16 = .ok (.ireturn, 1) := dk_172 (dk_at dksX1_lambda_property_6_0 16 rfl rfl)
abbrev cX1_lambda_property_7 : ByteArray := prog_1_method_54_code
def yX1_lambda_property_7 : MethodName := ⟨RX1, "lambda$property$7", "(LSharedTaxis$State;I)I"⟩
def dkwX1_lambda_property_7_0 : List UInt8 := [42, 180, 0, 146, 27, 185, 0, 140, 2, 0, 192, 0, 149, 180, 1, 86, 172]
abbrev dktX1_lambda_property_7_0 : List UInt8 := dkwX1_lambda_property_7_0 ++ []
theorem dksX1_lambda_property_7_0 : cX1_lambda_property_7.data.toList.drop 0 = dktX1_lambda_property_7_0 := by decide +kernel
theorem dX1_lambda_property_7_0 : decode cX1_lambda_property_7 0 = .ok (.aload_n 0, 1) := dk_42 (dk_at dksX1_lambda_property_7_0 0 rfl rfl)
theorem dX1_lambda_property_7_1 : decode cX1_lambda_property_7 1 = .ok (.getfield 146, 3) := dk_180 0 146 (dk_at dksX1_lambda_property_7_0 1 rfl rfl)
theorem dX1_lambda_property_7_4 : decode cX1_lambda_property_7 4 = .ok (.iload_n 1, 1) := dk_27 (dk_at dksX1_lambda_property_7_0 4 rfl rfl)
theorem dX1_lambda_property_7_5 : decode cX1_lambda_property_7 5 = .ok (.invokeinterface 140 2, 5) := by decide +kernel
theorem dX1_lambda_property_7_10 : decode cX1_lambda_property_7 10 = .ok (.checkcast 149, 3) := dk_192 0 149 (dk_at dksX1_lambda_property_7_0 10 rfl rfl)
theorem dX1_lambda_property_7_13 : decode cX1_lambda_property_7 13 = .ok (.getfield 342, 3) := dk_180 1 86 (dk_at dksX1_lambda_property_7_0 13 rfl rfl)
theorem dX1_lambda_property_7_16 : decode cX1_lambda_property_7 16 = .ok (.ireturn, 1) := dk_172 (dk_at dksX1_lambda_property_7_0 16 rfl rfl)
abbrev cX1_lambda_property_8 : ByteArray := prog_1_method_53_code
def yX1_lambda_property_8 : MethodName := ⟨RX1, "lambda$property$8", "(LSharedTaxis$State;I)I"⟩
def dkwX1_lambda_property_8_0 : List UInt8 := [42, 180, 0, 146, 27, 185, 0, 140, 2, 0, 192, 0, 149, 180, 1, 78, 4, 96, 172]
abbrev dktX1_lambda_property_8_0 : List UInt8 := dkwX1_lambda_property_8_0 ++ []
theorem dksX1_lambda_property_8_0 : cX1_lambda_property_8.data.toList.drop 0 = dktX1_lambda_property_8_0 := by decide +kernel
theorem dX1_lambda_property_8_0 : decode cX1_lambda_property_8 0 = .ok (.aload_n 0, 1) := dk_42 (dk_at dksX1_lambda_property_8_0 0 rfl rfl)
theorem dX1_lambda_property_8_1 : decode cX1_lambda_property_8 1 = .ok (.getfield 146, 3) := dk_180 0 146 (dk_at dksX1_lambda_property_8_0 1 rfl rfl)
theorem dX1_lambda_property_8_4 : decode cX1_lambda_property_8 4 = .ok (.iload_n 1, 1) := dk_27 (dk_at dksX1_lambda_property_8_0 4 rfl rfl)
theorem dX1_lambda_property_8_5 : decode cX1_lambda_property_8 5 = .ok (.invokeinterface 140 2, 5) := by decide +kernel
theorem dX1_lambda_property_8_10 : decode cX1_lambda_property_8 10 = .ok (.checkcast 149, 3) := dk_192 0 149 (dk_at dksX1_lambda_property_8_0 10 rfl rfl)
theorem dX1_lambda_property_8_13 : decode cX1_lambda_property_8 13 = .ok (.getfield 334, 3) := dk_180 1 78 (dk_at dksX1_lambda_property_8_0 13 rfl rfl)
theorem dX1_lambda_property_8_16 : decode cX1_lambda_property_8 16 = .ok (.iconst 1, 1) := dk_4 (dk_at dksX1_lambda_property_8_0 16 rfl rfl)
theorem dX1_lambda_property_8_17 : decode cX1_lambda_property_8 17 = .ok (.iadd, 1) := dk_96 (dk_at dksX1_lambda_property_8_0 17 rfl rfl)
theorem dX1_lambda_property_8_18 : decode cX1_lambda_property_8 18 = .ok (.ireturn, 1) := dk_172 (dk_at dksX1_lambda_property_8_0 18 rfl rfl)
