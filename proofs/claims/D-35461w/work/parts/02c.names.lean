/-! Patternforge$Matching -/
set_option maxRecDepth 100000
def RX2 : String := "Patternforge$Matching"
abbrev cX2_init : ByteArray := prog_9_method_1_code
def yX2_init : MethodName := ⟨RX2, "<init>", "(LPatternforge;)V"⟩
def dkwX2_init_0 : List UInt8 := [42, 43, 181, 0, 3, 42, 183, 0, 9, 42, 16, 6, 188, 10, 181, 0, 15, 177]
abbrev dktX2_init_0 : List UInt8 := dkwX2_init_0 ++ []
theorem dksX2_init_0 : cX2_init.data.toList.drop 0 = dktX2_init_0 := by decide +kernel
theorem dX2_init_0 : decode cX2_init 0 = .ok (.aload_n 0, 1) := dk_42 (dk_at dksX2_init_0 0 rfl rfl)
theorem dX2_init_1 : decode cX2_init 1 = .ok (.aload_n 1, 1) := dk_43 (dk_at dksX2_init_0 1 rfl rfl)
theorem dX2_init_2 : decode cX2_init 2 = .ok (.putfield 3, 3) := dk_181 0 3 (dk_at dksX2_init_0 2 rfl rfl)
theorem dX2_init_5 : decode cX2_init 5 = .ok (.aload_n 0, 1) := dk_42 (dk_at dksX2_init_0 5 rfl rfl)
theorem dX2_init_6 : decode cX2_init 6 = .ok (.invokespecial 9, 3) := dk_183 0 9 (dk_at dksX2_init_0 6 rfl rfl)
theorem dX2_init_9 : decode cX2_init 9 = .ok (.aload_n 0, 1) := dk_42 (dk_at dksX2_init_0 9 rfl rfl)
theorem dX2_init_10 : decode cX2_init 10 = .ok (.bipush 6, 2) := dk_16 6 (dk_at dksX2_init_0 10 rfl rfl)
theorem dX2_init_12 : decode cX2_init 12 = .ok (.newarray .int, 2) := dk_188_10 (dk_at dksX2_init_0 12 rfl rfl)
theorem dX2_init_14 : decode cX2_init 14 = .ok (.putfield 15, 3) := dk_181 0 15 (dk_at dksX2_init_0 14 rfl rfl)
theorem dX2_init_17 : decode cX2_init 17 = .ok (.return_, 1) := dk_177 (dk_at dksX2_init_0 17 rfl rfl)
abbrev cX2_clearNames : ByteArray := prog_9_method_4_code
def yX2_clearNames : MethodName := ⟨RX2, "clearNames", "()V"⟩
def dkwX2_clearNames_0 : List UInt8 := [3, 60, 27, 16, 6, 162, 0, 16, 42, 180, 0, 15, 27, 2, 79, 132, 1, 1, 167, 255, 240, 177]
abbrev dktX2_clearNames_0 : List UInt8 := dkwX2_clearNames_0 ++ []
theorem dksX2_clearNames_0 : cX2_clearNames.data.toList.drop 0 = dktX2_clearNames_0 := by decide +kernel
theorem dX2_clearNames_0 : decode cX2_clearNames 0 = .ok (.iconst 0, 1) := dk_3 (dk_at dksX2_clearNames_0 0 rfl rfl)
theorem dX2_clearNames_1 : decode cX2_clearNames 1 = .ok (.istore_n 1, 1) := dk_60 (dk_at dksX2_clearNames_0 1 rfl rfl)
theorem dX2_clearNames_2 : decode cX2_clearNames 2 = .ok (.iload_n 1, 1) := dk_27 (dk_at dksX2_clearNames_0 2 rfl rfl)
theorem dX2_clearNames_3 : decode cX2_clearNames 3 = .ok (.bipush 6, 2) := dk_16 6 (dk_at dksX2_clearNames_0 3 rfl rfl)
theorem dX2_clearNames_5 : decode cX2_clearNames 5 = .ok (.if_icmp .ge 16, 3) := dk_162 0 16 (dk_at dksX2_clearNames_0 5 rfl rfl)
theorem dX2_clearNames_8 : decode cX2_clearNames 8 = .ok (.aload_n 0, 1) := dk_42 (dk_at dksX2_clearNames_0 8 rfl rfl)
theorem dX2_clearNames_9 : decode cX2_clearNames 9 = .ok (.getfield 15, 3) := dk_180 0 15 (dk_at dksX2_clearNames_0 9 rfl rfl)
theorem dX2_clearNames_12 : decode cX2_clearNames 12 = .ok (.iload_n 1, 1) := dk_27 (dk_at dksX2_clearNames_0 12 rfl rfl)
theorem dX2_clearNames_13 : decode cX2_clearNames 13 = .ok (.iconst (-1), 1) := dk_2 (dk_at dksX2_clearNames_0 13 rfl rfl)
theorem dX2_clearNames_14 : decode cX2_clearNames 14 = .ok (.iastore, 1) := dk_79 (dk_at dksX2_clearNames_0 14 rfl rfl)
theorem dX2_clearNames_15 : decode cX2_clearNames 15 = .ok (.iinc 1 1, 3) := dk_132 1 1 (dk_at dksX2_clearNames_0 15 rfl rfl)
theorem dX2_clearNames_18 : decode cX2_clearNames 18 = .ok (.goto (-16), 3) := dk_167 255 240 (dk_at dksX2_clearNames_0 18 rfl rfl)
theorem dX2_clearNames_21 : decode cX2_clearNames 21 = .ok (.return_, 1) := dk_177 (dk_at dksX2_clearNames_0 21 rfl rfl)
abbrev cX2_matches : ByteArray := prog_9_method_5_code
def yX2_matches : MethodName := ⟨RX2, "matches", "(LPatternforge$Case;)I"⟩
def dkwX2_matches_2 : List UInt8 := [132, 3, 1, 167, 255, 213, 28, 172]
abbrev dktX2_matches_2 : List UInt8 := dkwX2_matches_2 ++ []
def dkwX2_matches_1 : List UInt8 := [180, 0, 3, 43, 180, 0, 23, 29, 46, 182, 0, 28, 182, 0, 32, 29, 4, 96, 182, 0, 38, 61]
abbrev dktX2_matches_1 : List UInt8 := dkwX2_matches_1 ++ dktX2_matches_2
def dkwX2_matches_0 : List UInt8 := [4, 61, 3, 62, 29, 42, 180, 0, 3, 180, 0, 19, 162, 0, 38, 28, 4, 160, 0, 33, 42, 42]
abbrev dktX2_matches_0 : List UInt8 := dkwX2_matches_0 ++ dktX2_matches_1
theorem dksX2_matches_0 : cX2_matches.data.toList.drop 0 = dktX2_matches_0 := by decide +kernel
theorem dksX2_matches_1 : cX2_matches.data.toList.drop 22 = dktX2_matches_1 := dk_seg dksX2_matches_0 22 rfl rfl
theorem dksX2_matches_2 : cX2_matches.data.toList.drop 44 = dktX2_matches_2 := dk_seg dksX2_matches_1 22 rfl rfl
theorem dX2_matches_0 : decode cX2_matches 0 = .ok (.iconst 1, 1) := dk_4 (dk_at dksX2_matches_0 0 rfl rfl)
theorem dX2_matches_1 : decode cX2_matches 1 = .ok (.istore_n 2, 1) := dk_61 (dk_at dksX2_matches_0 1 rfl rfl)
theorem dX2_matches_2 : decode cX2_matches 2 = .ok (.iconst 0, 1) := dk_3 (dk_at dksX2_matches_0 2 rfl rfl)
theorem dX2_matches_3 : decode cX2_matches 3 = .ok (.istore_n 3, 1) := dk_62 (dk_at dksX2_matches_0 3 rfl rfl)
theorem dX2_matches_4 : decode cX2_matches 4 = .ok (.iload_n 3, 1) := dk_29 (dk_at dksX2_matches_0 4 rfl rfl)
theorem dX2_matches_5 : decode cX2_matches 5 = .ok (.aload_n 0, 1) := dk_42 (dk_at dksX2_matches_0 5 rfl rfl)
theorem dX2_matches_6 : decode cX2_matches 6 = .ok (.getfield 3, 3) := dk_180 0 3 (dk_at dksX2_matches_0 6 rfl rfl)
theorem dX2_matches_9 : decode cX2_matches 9 = .ok (.getfield 19, 3) := dk_180 0 19 (dk_at dksX2_matches_0 9 rfl rfl)
theorem dX2_matches_12 : decode cX2_matches 12 = .ok (.if_icmp .ge 38, 3) := dk_162 0 38 (dk_at dksX2_matches_0 12 rfl rfl)
theorem dX2_matches_15 : decode cX2_matches 15 = .ok (.iload_n 2, 1) := dk_28 (dk_at dksX2_matches_0 15 rfl rfl)
theorem dX2_matches_16 : decode cX2_matches 16 = .ok (.iconst 1, 1) := dk_4 (dk_at dksX2_matches_0 16 rfl rfl)
theorem dX2_matches_17 : decode cX2_matches 17 = .ok (.if_icmp .ne 33, 3) := dk_160 0 33 (dk_at dksX2_matches_0 17 rfl rfl)
theorem dX2_matches_20 : decode cX2_matches 20 = .ok (.aload_n 0, 1) := dk_42 (dk_at dksX2_matches_0 20 rfl rfl)
theorem dX2_matches_21 : decode cX2_matches 21 = .ok (.aload_n 0, 1) := dk_42 (dk_at dksX2_matches_0 21 rfl rfl)
theorem dX2_matches_22 : decode cX2_matches 22 = .ok (.getfield 3, 3) := dk_180 0 3 (dk_at dksX2_matches_1 0 rfl rfl)
theorem dX2_matches_25 : decode cX2_matches 25 = .ok (.aload_n 1, 1) := dk_43 (dk_at dksX2_matches_1 3 rfl rfl)
theorem dX2_matches_26 : decode cX2_matches 26 = .ok (.getfield 23, 3) := dk_180 0 23 (dk_at dksX2_matches_1 4 rfl rfl)
theorem dX2_matches_29 : decode cX2_matches 29 = .ok (.iload_n 3, 1) := dk_29 (dk_at dksX2_matches_1 7 rfl rfl)
theorem dX2_matches_30 : decode cX2_matches 30 = .ok (.iaload, 1) := dk_46 (dk_at dksX2_matches_1 8 rfl rfl)
theorem dX2_matches_31 : decode cX2_matches 31 = .ok (.invokevirtual 28, 3) := dk_182 0 28 (dk_at dksX2_matches_1 9 rfl rfl)
theorem dX2_matches_34 : decode cX2_matches 34 = .ok (.invokevirtual 32, 3) := dk_182 0 32 (dk_at dksX2_matches_1 12 rfl rfl)
theorem dX2_matches_37 : decode cX2_matches 37 = .ok (.iload_n 3, 1) := dk_29 (dk_at dksX2_matches_1 15 rfl rfl)
theorem dX2_matches_38 : decode cX2_matches 38 = .ok (.iconst 1, 1) := dk_4 (dk_at dksX2_matches_1 16 rfl rfl)
theorem dX2_matches_39 : decode cX2_matches 39 = .ok (.iadd, 1) := dk_96 (dk_at dksX2_matches_1 17 rfl rfl)
theorem dX2_matches_40 : decode cX2_matches 40 = .ok (.invokevirtual 38, 3) := dk_182 0 38 (dk_at dksX2_matches_1 18 rfl rfl)
theorem dX2_matches_43 : decode cX2_matches 43 = .ok (.istore_n 2, 1) := dk_61 (dk_at dksX2_matches_1 21 rfl rfl)
theorem dX2_matches_44 : decode cX2_matches 44 = .ok (.iinc 3 1, 3) := dk_132 3 1 (dk_at dksX2_matches_2 0 rfl rfl)
theorem dX2_matches_47 : decode cX2_matches 47 = .ok (.goto (-43), 3) := dk_167 255 213 (dk_at dksX2_matches_2 3 rfl rfl)
theorem dX2_matches_50 : decode cX2_matches 50 = .ok (.iload_n 2, 1) := dk_28 (dk_at dksX2_matches_2 6 rfl rfl)
theorem dX2_matches_51 : decode cX2_matches 51 = .ok (.ireturn, 1) := dk_172 (dk_at dksX2_matches_2 7 rfl rfl)
abbrev cX2_matches_2 : ByteArray := prog_9_method_6_code
def yX2_matches_2 : MethodName := ⟨RX2, "matches", "(LPatternforge$Pattern;I)I"⟩
def dkwX2_matches_2_13 : List UInt8 := [167, 0, 4, 3, 172, 4, 172]
abbrev dktX2_matches_2_13 : List UInt8 := dkwX2_matches_2_13 ++ []
def dkwX2_matches_2_12 : List UInt8 := [21, 4, 182, 0, 99, 153, 0, 21, 42, 45, 182, 0, 102, 28, 45, 21, 4, 182, 0, 105, 182, 0, 73]
abbrev dktX2_matches_2_12 : List UInt8 := dkwX2_matches_2_12 ++ dktX2_matches_2_13
def dkwX2_matches_2_11 : List UInt8 := [43, 192, 0, 97, 78, 42, 28, 8, 182, 0, 53, 54, 4, 21, 4, 2, 160, 0, 7, 5, 167, 0, 31, 45]
abbrev dktX2_matches_2_11 : List UInt8 := dkwX2_matches_2_11 ++ dktX2_matches_2_12
def dkwX2_matches_2_10 : List UInt8 := [182, 0, 93, 21, 4, 182, 0, 94, 153, 0, 7, 4, 167, 0, 4, 3, 172, 43, 193, 0, 97, 153, 0, 55]
abbrev dktX2_matches_2_10 : List UInt8 := dkwX2_matches_2_10 ++ dktX2_matches_2_11
def dkwX2_matches_2_9 : List UInt8 := [78, 42, 45, 182, 0, 87, 28, 182, 0, 90, 54, 4, 21, 4, 2, 160, 0, 7, 5, 167, 0, 21, 42, 45]
abbrev dktX2_matches_2_9 : List UInt8 := dkwX2_matches_2_9 ++ dktX2_matches_2_10
def dkwX2_matches_2_8 : List UInt8 := [182, 0, 82, 28, 182, 0, 38, 167, 0, 5, 21, 4, 172, 43, 193, 0, 85, 153, 0, 48, 43, 192, 0, 85]
abbrev dktX2_matches_2_8 : List UInt8 := dkwX2_matches_2_8 ++ dktX2_matches_2_9
def dkwX2_matches_2_7 : List UInt8 := [192, 0, 77, 78, 42, 45, 182, 0, 79, 28, 182, 0, 38, 54, 4, 21, 4, 154, 0, 15, 42, 45]
abbrev dktX2_matches_2_7 : List UInt8 := dkwX2_matches_2_7 ++ dktX2_matches_2_8
def dkwX2_matches_2_6 : List UInt8 := [42, 45, 182, 0, 69, 28, 3, 182, 0, 73, 167, 0, 4, 3, 172, 43, 193, 0, 77, 153, 0, 39, 43]
abbrev dktX2_matches_2_6 : List UInt8 := dkwX2_matches_2_6 ++ dktX2_matches_2_7
def dkwX2_matches_2_5 : List UInt8 := [182, 0, 53, 54, 4, 21, 4, 2, 160, 0, 7, 5, 167, 0, 26, 21, 4, 45, 182, 0, 66, 160, 0, 16]
abbrev dktX2_matches_2_5 : List UInt8 := dkwX2_matches_2_5 ++ dktX2_matches_2_6
def dkwX2_matches_2_4 : List UInt8 := [4, 167, 0, 4, 3, 172, 43, 193, 0, 61, 153, 0, 53, 43, 192, 0, 61, 78, 42, 28, 45, 182, 0, 63]
abbrev dktX2_matches_2_4 : List UInt8 := dkwX2_matches_2_4 ++ dktX2_matches_2_5
def dkwX2_matches_2_3 : List UInt8 := [182, 0, 53, 54, 4, 21, 4, 2, 160, 0, 7, 5, 167, 0, 17, 45, 21, 4, 182, 0, 57, 153, 0, 7]
abbrev dktX2_matches_2_3 : List UInt8 := dkwX2_matches_2_3 ++ dktX2_matches_2_4
def dkwX2_matches_2_2 : List UInt8 := [182, 0, 47, 46, 79, 21, 4, 172, 43, 193, 0, 51, 153, 0, 41, 43, 192, 0, 51, 78, 42, 28, 7]
abbrev dktX2_matches_2_2 : List UInt8 := dkwX2_matches_2_2 ++ dktX2_matches_2_3
def dkwX2_matches_2_1 : List UInt8 := [180, 0, 15, 45, 182, 0, 47, 21, 4, 4, 160, 0, 7, 28, 167, 0, 12, 42, 180, 0, 15, 45]
abbrev dktX2_matches_2_1 : List UInt8 := dkwX2_matches_2_1 ++ dktX2_matches_2_2
def dkwX2_matches_2_0 : List UInt8 := [43, 193, 0, 42, 153, 0, 50, 43, 192, 0, 42, 78, 42, 45, 182, 0, 44, 28, 182, 0, 38, 54, 4, 42]
abbrev dktX2_matches_2_0 : List UInt8 := dkwX2_matches_2_0 ++ dktX2_matches_2_1
theorem dksX2_matches_2_0 : cX2_matches_2.data.toList.drop 0 = dktX2_matches_2_0 := by decide +kernel
theorem dksX2_matches_2_1 : cX2_matches_2.data.toList.drop 24 = dktX2_matches_2_1 := dk_seg dksX2_matches_2_0 24 rfl rfl
theorem dksX2_matches_2_2 : cX2_matches_2.data.toList.drop 46 = dktX2_matches_2_2 := dk_seg dksX2_matches_2_1 22 rfl rfl
theorem dksX2_matches_2_3 : cX2_matches_2.data.toList.drop 69 = dktX2_matches_2_3 := dk_seg dksX2_matches_2_2 23 rfl rfl
theorem dksX2_matches_2_4 : cX2_matches_2.data.toList.drop 93 = dktX2_matches_2_4 := dk_seg dksX2_matches_2_3 24 rfl rfl
theorem dksX2_matches_2_5 : cX2_matches_2.data.toList.drop 117 = dktX2_matches_2_5 := dk_seg dksX2_matches_2_4 24 rfl rfl
theorem dksX2_matches_2_6 : cX2_matches_2.data.toList.drop 141 = dktX2_matches_2_6 := dk_seg dksX2_matches_2_5 24 rfl rfl
theorem dksX2_matches_2_7 : cX2_matches_2.data.toList.drop 164 = dktX2_matches_2_7 := dk_seg dksX2_matches_2_6 23 rfl rfl
theorem dksX2_matches_2_8 : cX2_matches_2.data.toList.drop 186 = dktX2_matches_2_8 := dk_seg dksX2_matches_2_7 22 rfl rfl
theorem dksX2_matches_2_9 : cX2_matches_2.data.toList.drop 210 = dktX2_matches_2_9 := dk_seg dksX2_matches_2_8 24 rfl rfl
theorem dksX2_matches_2_10 : cX2_matches_2.data.toList.drop 234 = dktX2_matches_2_10 := dk_seg dksX2_matches_2_9 24 rfl rfl
theorem dksX2_matches_2_11 : cX2_matches_2.data.toList.drop 258 = dktX2_matches_2_11 := dk_seg dksX2_matches_2_10 24 rfl rfl
theorem dksX2_matches_2_12 : cX2_matches_2.data.toList.drop 282 = dktX2_matches_2_12 := dk_seg dksX2_matches_2_11 24 rfl rfl
theorem dksX2_matches_2_13 : cX2_matches_2.data.toList.drop 305 = dktX2_matches_2_13 := dk_seg dksX2_matches_2_12 23 rfl rfl
theorem dX2_matches_2_0 : decode cX2_matches_2 0 = .ok (.aload_n 1, 1) := dk_43 (dk_at dksX2_matches_2_0 0 rfl rfl)
theorem dX2_matches_2_1 : decode cX2_matches_2 1 = .ok (.instanceof 42, 3) := dk_193 0 42 (dk_at dksX2_matches_2_0 1 rfl rfl)
theorem dX2_matches_2_4 : decode cX2_matches_2 4 = .ok (.ifCond .eq 50, 3) := dk_153 0 50 (dk_at dksX2_matches_2_0 4 rfl rfl)
theorem dX2_matches_2_7 : decode cX2_matches_2 7 = .ok (.aload_n 1, 1) := dk_43 (dk_at dksX2_matches_2_0 7 rfl rfl)
theorem dX2_matches_2_8 : decode cX2_matches_2 8 = .ok (.checkcast 42, 3) := dk_192 0 42 (dk_at dksX2_matches_2_0 8 rfl rfl)
theorem dX2_matches_2_11 : decode cX2_matches_2 11 = .ok (.astore_n 3, 1) := dk_78 (dk_at dksX2_matches_2_0 11 rfl rfl)
theorem dX2_matches_2_12 : decode cX2_matches_2 12 = .ok (.aload_n 0, 1) := dk_42 (dk_at dksX2_matches_2_0 12 rfl rfl)
theorem dX2_matches_2_13 : decode cX2_matches_2 13 = .ok (.aload_n 3, 1) := dk_45 (dk_at dksX2_matches_2_0 13 rfl rfl)
theorem dX2_matches_2_14 : decode cX2_matches_2 14 = .ok (.invokevirtual 44, 3) := dk_182 0 44 (dk_at dksX2_matches_2_0 14 rfl rfl)
theorem dX2_matches_2_17 : decode cX2_matches_2 17 = .ok (.iload_n 2, 1) := dk_28 (dk_at dksX2_matches_2_0 17 rfl rfl)
theorem dX2_matches_2_18 : decode cX2_matches_2 18 = .ok (.invokevirtual 38, 3) := dk_182 0 38 (dk_at dksX2_matches_2_0 18 rfl rfl)
theorem dX2_matches_2_21 : decode cX2_matches_2 21 = .ok (.istore 4, 2) := dk_54 4 (dk_at dksX2_matches_2_0 21 rfl rfl)
theorem dX2_matches_2_23 : decode cX2_matches_2 23 = .ok (.aload_n 0, 1) := dk_42 (dk_at dksX2_matches_2_0 23 rfl rfl)
theorem dX2_matches_2_24 : decode cX2_matches_2 24 = .ok (.getfield 15, 3) := dk_180 0 15 (dk_at dksX2_matches_2_1 0 rfl rfl)
theorem dX2_matches_2_27 : decode cX2_matches_2 27 = .ok (.aload_n 3, 1) := dk_45 (dk_at dksX2_matches_2_1 3 rfl rfl)
theorem dX2_matches_2_28 : decode cX2_matches_2 28 = .ok (.invokevirtual 47, 3) := dk_182 0 47 (dk_at dksX2_matches_2_1 4 rfl rfl)
theorem dX2_matches_2_31 : decode cX2_matches_2 31 = .ok (.iload 4, 2) := dk_21 4 (dk_at dksX2_matches_2_1 7 rfl rfl)
theorem dX2_matches_2_33 : decode cX2_matches_2 33 = .ok (.iconst 1, 1) := dk_4 (dk_at dksX2_matches_2_1 9 rfl rfl)
theorem dX2_matches_2_34 : decode cX2_matches_2 34 = .ok (.if_icmp .ne 7, 3) := dk_160 0 7 (dk_at dksX2_matches_2_1 10 rfl rfl)
theorem dX2_matches_2_37 : decode cX2_matches_2 37 = .ok (.iload_n 2, 1) := dk_28 (dk_at dksX2_matches_2_1 13 rfl rfl)
theorem dX2_matches_2_38 : decode cX2_matches_2 38 = .ok (.goto 12, 3) := dk_167 0 12 (dk_at dksX2_matches_2_1 14 rfl rfl)
theorem dX2_matches_2_41 : decode cX2_matches_2 41 = .ok (.aload_n 0, 1) := dk_42 (dk_at dksX2_matches_2_1 17 rfl rfl)
theorem dX2_matches_2_42 : decode cX2_matches_2 42 = .ok (.getfield 15, 3) := dk_180 0 15 (dk_at dksX2_matches_2_1 18 rfl rfl)
theorem dX2_matches_2_45 : decode cX2_matches_2 45 = .ok (.aload_n 3, 1) := dk_45 (dk_at dksX2_matches_2_1 21 rfl rfl)
theorem dX2_matches_2_46 : decode cX2_matches_2 46 = .ok (.invokevirtual 47, 3) := dk_182 0 47 (dk_at dksX2_matches_2_2 0 rfl rfl)
theorem dX2_matches_2_49 : decode cX2_matches_2 49 = .ok (.iaload, 1) := dk_46 (dk_at dksX2_matches_2_2 3 rfl rfl)
theorem dX2_matches_2_50 : decode cX2_matches_2 50 = .ok (.iastore, 1) := dk_79 (dk_at dksX2_matches_2_2 4 rfl rfl)
theorem dX2_matches_2_51 : decode cX2_matches_2 51 = .ok (.iload 4, 2) := dk_21 4 (dk_at dksX2_matches_2_2 5 rfl rfl)
theorem dX2_matches_2_53 : decode cX2_matches_2 53 = .ok (.ireturn, 1) := dk_172 (dk_at dksX2_matches_2_2 7 rfl rfl)
theorem dX2_matches_2_54 : decode cX2_matches_2 54 = .ok (.aload_n 1, 1) := dk_43 (dk_at dksX2_matches_2_2 8 rfl rfl)
theorem dX2_matches_2_55 : decode cX2_matches_2 55 = .ok (.instanceof 51, 3) := dk_193 0 51 (dk_at dksX2_matches_2_2 9 rfl rfl)
theorem dX2_matches_2_58 : decode cX2_matches_2 58 = .ok (.ifCond .eq 41, 3) := dk_153 0 41 (dk_at dksX2_matches_2_2 12 rfl rfl)
theorem dX2_matches_2_61 : decode cX2_matches_2 61 = .ok (.aload_n 1, 1) := dk_43 (dk_at dksX2_matches_2_2 15 rfl rfl)
theorem dX2_matches_2_62 : decode cX2_matches_2 62 = .ok (.checkcast 51, 3) := dk_192 0 51 (dk_at dksX2_matches_2_2 16 rfl rfl)
theorem dX2_matches_2_65 : decode cX2_matches_2 65 = .ok (.astore_n 3, 1) := dk_78 (dk_at dksX2_matches_2_2 19 rfl rfl)
theorem dX2_matches_2_66 : decode cX2_matches_2 66 = .ok (.aload_n 0, 1) := dk_42 (dk_at dksX2_matches_2_2 20 rfl rfl)
theorem dX2_matches_2_67 : decode cX2_matches_2 67 = .ok (.iload_n 2, 1) := dk_28 (dk_at dksX2_matches_2_2 21 rfl rfl)
theorem dX2_matches_2_68 : decode cX2_matches_2 68 = .ok (.iconst 4, 1) := dk_7 (dk_at dksX2_matches_2_2 22 rfl rfl)
theorem dX2_matches_2_69 : decode cX2_matches_2 69 = .ok (.invokevirtual 53, 3) := dk_182 0 53 (dk_at dksX2_matches_2_3 0 rfl rfl)
theorem dX2_matches_2_72 : decode cX2_matches_2 72 = .ok (.istore 4, 2) := dk_54 4 (dk_at dksX2_matches_2_3 3 rfl rfl)
theorem dX2_matches_2_74 : decode cX2_matches_2 74 = .ok (.iload 4, 2) := dk_21 4 (dk_at dksX2_matches_2_3 5 rfl rfl)
theorem dX2_matches_2_76 : decode cX2_matches_2 76 = .ok (.iconst (-1), 1) := dk_2 (dk_at dksX2_matches_2_3 7 rfl rfl)
theorem dX2_matches_2_77 : decode cX2_matches_2 77 = .ok (.if_icmp .ne 7, 3) := dk_160 0 7 (dk_at dksX2_matches_2_3 8 rfl rfl)
theorem dX2_matches_2_80 : decode cX2_matches_2 80 = .ok (.iconst 2, 1) := dk_5 (dk_at dksX2_matches_2_3 11 rfl rfl)
theorem dX2_matches_2_81 : decode cX2_matches_2 81 = .ok (.goto 17, 3) := dk_167 0 17 (dk_at dksX2_matches_2_3 12 rfl rfl)
theorem dX2_matches_2_84 : decode cX2_matches_2 84 = .ok (.aload_n 3, 1) := dk_45 (dk_at dksX2_matches_2_3 15 rfl rfl)
theorem dX2_matches_2_85 : decode cX2_matches_2 85 = .ok (.iload 4, 2) := dk_21 4 (dk_at dksX2_matches_2_3 16 rfl rfl)
theorem dX2_matches_2_87 : decode cX2_matches_2 87 = .ok (.invokevirtual 57, 3) := dk_182 0 57 (dk_at dksX2_matches_2_3 18 rfl rfl)
theorem dX2_matches_2_90 : decode cX2_matches_2 90 = .ok (.ifCond .eq 7, 3) := dk_153 0 7 (dk_at dksX2_matches_2_3 21 rfl rfl)
theorem dX2_matches_2_93 : decode cX2_matches_2 93 = .ok (.iconst 1, 1) := dk_4 (dk_at dksX2_matches_2_4 0 rfl rfl)
theorem dX2_matches_2_94 : decode cX2_matches_2 94 = .ok (.goto 4, 3) := dk_167 0 4 (dk_at dksX2_matches_2_4 1 rfl rfl)
theorem dX2_matches_2_97 : decode cX2_matches_2 97 = .ok (.iconst 0, 1) := dk_3 (dk_at dksX2_matches_2_4 4 rfl rfl)
theorem dX2_matches_2_98 : decode cX2_matches_2 98 = .ok (.ireturn, 1) := dk_172 (dk_at dksX2_matches_2_4 5 rfl rfl)
theorem dX2_matches_2_99 : decode cX2_matches_2 99 = .ok (.aload_n 1, 1) := dk_43 (dk_at dksX2_matches_2_4 6 rfl rfl)
theorem dX2_matches_2_100 : decode cX2_matches_2 100 = .ok (.instanceof 61, 3) := dk_193 0 61 (dk_at dksX2_matches_2_4 7 rfl rfl)
theorem dX2_matches_2_103 : decode cX2_matches_2 103 = .ok (.ifCond .eq 53, 3) := dk_153 0 53 (dk_at dksX2_matches_2_4 10 rfl rfl)
theorem dX2_matches_2_106 : decode cX2_matches_2 106 = .ok (.aload_n 1, 1) := dk_43 (dk_at dksX2_matches_2_4 13 rfl rfl)
theorem dX2_matches_2_107 : decode cX2_matches_2 107 = .ok (.checkcast 61, 3) := dk_192 0 61 (dk_at dksX2_matches_2_4 14 rfl rfl)
theorem dX2_matches_2_110 : decode cX2_matches_2 110 = .ok (.astore_n 3, 1) := dk_78 (dk_at dksX2_matches_2_4 17 rfl rfl)
theorem dX2_matches_2_111 : decode cX2_matches_2 111 = .ok (.aload_n 0, 1) := dk_42 (dk_at dksX2_matches_2_4 18 rfl rfl)
theorem dX2_matches_2_112 : decode cX2_matches_2 112 = .ok (.iload_n 2, 1) := dk_28 (dk_at dksX2_matches_2_4 19 rfl rfl)
theorem dX2_matches_2_113 : decode cX2_matches_2 113 = .ok (.aload_n 3, 1) := dk_45 (dk_at dksX2_matches_2_4 20 rfl rfl)
theorem dX2_matches_2_114 : decode cX2_matches_2 114 = .ok (.invokevirtual 63, 3) := dk_182 0 63 (dk_at dksX2_matches_2_4 21 rfl rfl)
theorem dX2_matches_2_117 : decode cX2_matches_2 117 = .ok (.invokevirtual 53, 3) := dk_182 0 53 (dk_at dksX2_matches_2_5 0 rfl rfl)
theorem dX2_matches_2_120 : decode cX2_matches_2 120 = .ok (.istore 4, 2) := dk_54 4 (dk_at dksX2_matches_2_5 3 rfl rfl)
theorem dX2_matches_2_122 : decode cX2_matches_2 122 = .ok (.iload 4, 2) := dk_21 4 (dk_at dksX2_matches_2_5 5 rfl rfl)
theorem dX2_matches_2_124 : decode cX2_matches_2 124 = .ok (.iconst (-1), 1) := dk_2 (dk_at dksX2_matches_2_5 7 rfl rfl)
theorem dX2_matches_2_125 : decode cX2_matches_2 125 = .ok (.if_icmp .ne 7, 3) := dk_160 0 7 (dk_at dksX2_matches_2_5 8 rfl rfl)
theorem dX2_matches_2_128 : decode cX2_matches_2 128 = .ok (.iconst 2, 1) := dk_5 (dk_at dksX2_matches_2_5 11 rfl rfl)
theorem dX2_matches_2_129 : decode cX2_matches_2 129 = .ok (.goto 26, 3) := dk_167 0 26 (dk_at dksX2_matches_2_5 12 rfl rfl)
theorem dX2_matches_2_132 : decode cX2_matches_2 132 = .ok (.iload 4, 2) := dk_21 4 (dk_at dksX2_matches_2_5 15 rfl rfl)
theorem dX2_matches_2_134 : decode cX2_matches_2 134 = .ok (.aload_n 3, 1) := dk_45 (dk_at dksX2_matches_2_5 17 rfl rfl)
theorem dX2_matches_2_135 : decode cX2_matches_2 135 = .ok (.invokevirtual 66, 3) := dk_182 0 66 (dk_at dksX2_matches_2_5 18 rfl rfl)
theorem dX2_matches_2_138 : decode cX2_matches_2 138 = .ok (.if_icmp .ne 16, 3) := dk_160 0 16 (dk_at dksX2_matches_2_5 21 rfl rfl)
theorem dX2_matches_2_141 : decode cX2_matches_2 141 = .ok (.aload_n 0, 1) := dk_42 (dk_at dksX2_matches_2_6 0 rfl rfl)
theorem dX2_matches_2_142 : decode cX2_matches_2 142 = .ok (.aload_n 3, 1) := dk_45 (dk_at dksX2_matches_2_6 1 rfl rfl)
theorem dX2_matches_2_143 : decode cX2_matches_2 143 = .ok (.invokevirtual 69, 3) := dk_182 0 69 (dk_at dksX2_matches_2_6 2 rfl rfl)
theorem dX2_matches_2_146 : decode cX2_matches_2 146 = .ok (.iload_n 2, 1) := dk_28 (dk_at dksX2_matches_2_6 5 rfl rfl)
theorem dX2_matches_2_147 : decode cX2_matches_2 147 = .ok (.iconst 0, 1) := dk_3 (dk_at dksX2_matches_2_6 6 rfl rfl)
theorem dX2_matches_2_148 : decode cX2_matches_2 148 = .ok (.invokevirtual 73, 3) := dk_182 0 73 (dk_at dksX2_matches_2_6 7 rfl rfl)
theorem dX2_matches_2_151 : decode cX2_matches_2 151 = .ok (.goto 4, 3) := dk_167 0 4 (dk_at dksX2_matches_2_6 10 rfl rfl)
theorem dX2_matches_2_154 : decode cX2_matches_2 154 = .ok (.iconst 0, 1) := dk_3 (dk_at dksX2_matches_2_6 13 rfl rfl)
theorem dX2_matches_2_155 : decode cX2_matches_2 155 = .ok (.ireturn, 1) := dk_172 (dk_at dksX2_matches_2_6 14 rfl rfl)
theorem dX2_matches_2_156 : decode cX2_matches_2 156 = .ok (.aload_n 1, 1) := dk_43 (dk_at dksX2_matches_2_6 15 rfl rfl)
theorem dX2_matches_2_157 : decode cX2_matches_2 157 = .ok (.instanceof 77, 3) := dk_193 0 77 (dk_at dksX2_matches_2_6 16 rfl rfl)
theorem dX2_matches_2_160 : decode cX2_matches_2 160 = .ok (.ifCond .eq 39, 3) := dk_153 0 39 (dk_at dksX2_matches_2_6 19 rfl rfl)
theorem dX2_matches_2_163 : decode cX2_matches_2 163 = .ok (.aload_n 1, 1) := dk_43 (dk_at dksX2_matches_2_6 22 rfl rfl)
theorem dX2_matches_2_164 : decode cX2_matches_2 164 = .ok (.checkcast 77, 3) := dk_192 0 77 (dk_at dksX2_matches_2_7 0 rfl rfl)
theorem dX2_matches_2_167 : decode cX2_matches_2 167 = .ok (.astore_n 3, 1) := dk_78 (dk_at dksX2_matches_2_7 3 rfl rfl)
theorem dX2_matches_2_168 : decode cX2_matches_2 168 = .ok (.aload_n 0, 1) := dk_42 (dk_at dksX2_matches_2_7 4 rfl rfl)
theorem dX2_matches_2_169 : decode cX2_matches_2 169 = .ok (.aload_n 3, 1) := dk_45 (dk_at dksX2_matches_2_7 5 rfl rfl)
theorem dX2_matches_2_170 : decode cX2_matches_2 170 = .ok (.invokevirtual 79, 3) := dk_182 0 79 (dk_at dksX2_matches_2_7 6 rfl rfl)
theorem dX2_matches_2_173 : decode cX2_matches_2 173 = .ok (.iload_n 2, 1) := dk_28 (dk_at dksX2_matches_2_7 9 rfl rfl)
theorem dX2_matches_2_174 : decode cX2_matches_2 174 = .ok (.invokevirtual 38, 3) := dk_182 0 38 (dk_at dksX2_matches_2_7 10 rfl rfl)
theorem dX2_matches_2_177 : decode cX2_matches_2 177 = .ok (.istore 4, 2) := dk_54 4 (dk_at dksX2_matches_2_7 13 rfl rfl)
theorem dX2_matches_2_179 : decode cX2_matches_2 179 = .ok (.iload 4, 2) := dk_21 4 (dk_at dksX2_matches_2_7 15 rfl rfl)
theorem dX2_matches_2_181 : decode cX2_matches_2 181 = .ok (.ifCond .ne 15, 3) := dk_154 0 15 (dk_at dksX2_matches_2_7 17 rfl rfl)
theorem dX2_matches_2_184 : decode cX2_matches_2 184 = .ok (.aload_n 0, 1) := dk_42 (dk_at dksX2_matches_2_7 20 rfl rfl)
theorem dX2_matches_2_185 : decode cX2_matches_2 185 = .ok (.aload_n 3, 1) := dk_45 (dk_at dksX2_matches_2_7 21 rfl rfl)
theorem dX2_matches_2_186 : decode cX2_matches_2 186 = .ok (.invokevirtual 82, 3) := dk_182 0 82 (dk_at dksX2_matches_2_8 0 rfl rfl)
theorem dX2_matches_2_189 : decode cX2_matches_2 189 = .ok (.iload_n 2, 1) := dk_28 (dk_at dksX2_matches_2_8 3 rfl rfl)
theorem dX2_matches_2_190 : decode cX2_matches_2 190 = .ok (.invokevirtual 38, 3) := dk_182 0 38 (dk_at dksX2_matches_2_8 4 rfl rfl)
theorem dX2_matches_2_193 : decode cX2_matches_2 193 = .ok (.goto 5, 3) := dk_167 0 5 (dk_at dksX2_matches_2_8 7 rfl rfl)
theorem dX2_matches_2_196 : decode cX2_matches_2 196 = .ok (.iload 4, 2) := dk_21 4 (dk_at dksX2_matches_2_8 10 rfl rfl)
theorem dX2_matches_2_198 : decode cX2_matches_2 198 = .ok (.ireturn, 1) := dk_172 (dk_at dksX2_matches_2_8 12 rfl rfl)
theorem dX2_matches_2_199 : decode cX2_matches_2 199 = .ok (.aload_n 1, 1) := dk_43 (dk_at dksX2_matches_2_8 13 rfl rfl)
theorem dX2_matches_2_200 : decode cX2_matches_2 200 = .ok (.instanceof 85, 3) := dk_193 0 85 (dk_at dksX2_matches_2_8 14 rfl rfl)
theorem dX2_matches_2_203 : decode cX2_matches_2 203 = .ok (.ifCond .eq 48, 3) := dk_153 0 48 (dk_at dksX2_matches_2_8 17 rfl rfl)
theorem dX2_matches_2_206 : decode cX2_matches_2 206 = .ok (.aload_n 1, 1) := dk_43 (dk_at dksX2_matches_2_8 20 rfl rfl)
theorem dX2_matches_2_207 : decode cX2_matches_2 207 = .ok (.checkcast 85, 3) := dk_192 0 85 (dk_at dksX2_matches_2_8 21 rfl rfl)
theorem dX2_matches_2_210 : decode cX2_matches_2 210 = .ok (.astore_n 3, 1) := dk_78 (dk_at dksX2_matches_2_9 0 rfl rfl)
theorem dX2_matches_2_211 : decode cX2_matches_2 211 = .ok (.aload_n 0, 1) := dk_42 (dk_at dksX2_matches_2_9 1 rfl rfl)
theorem dX2_matches_2_212 : decode cX2_matches_2 212 = .ok (.aload_n 3, 1) := dk_45 (dk_at dksX2_matches_2_9 2 rfl rfl)
theorem dX2_matches_2_213 : decode cX2_matches_2 213 = .ok (.invokevirtual 87, 3) := dk_182 0 87 (dk_at dksX2_matches_2_9 3 rfl rfl)
theorem dX2_matches_2_216 : decode cX2_matches_2 216 = .ok (.iload_n 2, 1) := dk_28 (dk_at dksX2_matches_2_9 6 rfl rfl)
theorem dX2_matches_2_217 : decode cX2_matches_2 217 = .ok (.invokevirtual 90, 3) := dk_182 0 90 (dk_at dksX2_matches_2_9 7 rfl rfl)
theorem dX2_matches_2_220 : decode cX2_matches_2 220 = .ok (.istore 4, 2) := dk_54 4 (dk_at dksX2_matches_2_9 10 rfl rfl)
theorem dX2_matches_2_222 : decode cX2_matches_2 222 = .ok (.iload 4, 2) := dk_21 4 (dk_at dksX2_matches_2_9 12 rfl rfl)
theorem dX2_matches_2_224 : decode cX2_matches_2 224 = .ok (.iconst (-1), 1) := dk_2 (dk_at dksX2_matches_2_9 14 rfl rfl)
theorem dX2_matches_2_225 : decode cX2_matches_2 225 = .ok (.if_icmp .ne 7, 3) := dk_160 0 7 (dk_at dksX2_matches_2_9 15 rfl rfl)
theorem dX2_matches_2_228 : decode cX2_matches_2 228 = .ok (.iconst 2, 1) := dk_5 (dk_at dksX2_matches_2_9 18 rfl rfl)
theorem dX2_matches_2_229 : decode cX2_matches_2 229 = .ok (.goto 21, 3) := dk_167 0 21 (dk_at dksX2_matches_2_9 19 rfl rfl)
theorem dX2_matches_2_232 : decode cX2_matches_2 232 = .ok (.aload_n 0, 1) := dk_42 (dk_at dksX2_matches_2_9 22 rfl rfl)
theorem dX2_matches_2_233 : decode cX2_matches_2 233 = .ok (.aload_n 3, 1) := dk_45 (dk_at dksX2_matches_2_9 23 rfl rfl)
theorem dX2_matches_2_234 : decode cX2_matches_2 234 = .ok (.invokevirtual 93, 3) := dk_182 0 93 (dk_at dksX2_matches_2_10 0 rfl rfl)
theorem dX2_matches_2_237 : decode cX2_matches_2 237 = .ok (.iload 4, 2) := dk_21 4 (dk_at dksX2_matches_2_10 3 rfl rfl)
theorem dX2_matches_2_239 : decode cX2_matches_2 239 = .ok (.invokevirtual 94, 3) := dk_182 0 94 (dk_at dksX2_matches_2_10 5 rfl rfl)
theorem dX2_matches_2_242 : decode cX2_matches_2 242 = .ok (.ifCond .eq 7, 3) := dk_153 0 7 (dk_at dksX2_matches_2_10 8 rfl rfl)
theorem dX2_matches_2_245 : decode cX2_matches_2 245 = .ok (.iconst 1, 1) := dk_4 (dk_at dksX2_matches_2_10 11 rfl rfl)
theorem dX2_matches_2_246 : decode cX2_matches_2 246 = .ok (.goto 4, 3) := dk_167 0 4 (dk_at dksX2_matches_2_10 12 rfl rfl)
theorem dX2_matches_2_249 : decode cX2_matches_2 249 = .ok (.iconst 0, 1) := dk_3 (dk_at dksX2_matches_2_10 15 rfl rfl)
theorem dX2_matches_2_250 : decode cX2_matches_2 250 = .ok (.ireturn, 1) := dk_172 (dk_at dksX2_matches_2_10 16 rfl rfl)
theorem dX2_matches_2_251 : decode cX2_matches_2 251 = .ok (.aload_n 1, 1) := dk_43 (dk_at dksX2_matches_2_10 17 rfl rfl)
theorem dX2_matches_2_252 : decode cX2_matches_2 252 = .ok (.instanceof 97, 3) := dk_193 0 97 (dk_at dksX2_matches_2_10 18 rfl rfl)
theorem dX2_matches_2_255 : decode cX2_matches_2 255 = .ok (.ifCond .eq 55, 3) := dk_153 0 55 (dk_at dksX2_matches_2_10 21 rfl rfl)
theorem dX2_matches_2_258 : decode cX2_matches_2 258 = .ok (.aload_n 1, 1) := dk_43 (dk_at dksX2_matches_2_11 0 rfl rfl)
theorem dX2_matches_2_259 : decode cX2_matches_2 259 = .ok (.checkcast 97, 3) := dk_192 0 97 (dk_at dksX2_matches_2_11 1 rfl rfl)
theorem dX2_matches_2_262 : decode cX2_matches_2 262 = .ok (.astore_n 3, 1) := dk_78 (dk_at dksX2_matches_2_11 4 rfl rfl)
theorem dX2_matches_2_263 : decode cX2_matches_2 263 = .ok (.aload_n 0, 1) := dk_42 (dk_at dksX2_matches_2_11 5 rfl rfl)
theorem dX2_matches_2_264 : decode cX2_matches_2 264 = .ok (.iload_n 2, 1) := dk_28 (dk_at dksX2_matches_2_11 6 rfl rfl)
theorem dX2_matches_2_265 : decode cX2_matches_2 265 = .ok (.iconst 5, 1) := dk_8 (dk_at dksX2_matches_2_11 7 rfl rfl)
theorem dX2_matches_2_266 : decode cX2_matches_2 266 = .ok (.invokevirtual 53, 3) := dk_182 0 53 (dk_at dksX2_matches_2_11 8 rfl rfl)
theorem dX2_matches_2_269 : decode cX2_matches_2 269 = .ok (.istore 4, 2) := dk_54 4 (dk_at dksX2_matches_2_11 11 rfl rfl)
theorem dX2_matches_2_271 : decode cX2_matches_2 271 = .ok (.iload 4, 2) := dk_21 4 (dk_at dksX2_matches_2_11 13 rfl rfl)
theorem dX2_matches_2_273 : decode cX2_matches_2 273 = .ok (.iconst (-1), 1) := dk_2 (dk_at dksX2_matches_2_11 15 rfl rfl)
theorem dX2_matches_2_274 : decode cX2_matches_2 274 = .ok (.if_icmp .ne 7, 3) := dk_160 0 7 (dk_at dksX2_matches_2_11 16 rfl rfl)
theorem dX2_matches_2_277 : decode cX2_matches_2 277 = .ok (.iconst 2, 1) := dk_5 (dk_at dksX2_matches_2_11 19 rfl rfl)
theorem dX2_matches_2_278 : decode cX2_matches_2 278 = .ok (.goto 31, 3) := dk_167 0 31 (dk_at dksX2_matches_2_11 20 rfl rfl)
theorem dX2_matches_2_281 : decode cX2_matches_2 281 = .ok (.aload_n 3, 1) := dk_45 (dk_at dksX2_matches_2_11 23 rfl rfl)
theorem dX2_matches_2_282 : decode cX2_matches_2 282 = .ok (.iload 4, 2) := dk_21 4 (dk_at dksX2_matches_2_12 0 rfl rfl)
theorem dX2_matches_2_284 : decode cX2_matches_2 284 = .ok (.invokevirtual 99, 3) := dk_182 0 99 (dk_at dksX2_matches_2_12 2 rfl rfl)
theorem dX2_matches_2_287 : decode cX2_matches_2 287 = .ok (.ifCond .eq 21, 3) := dk_153 0 21 (dk_at dksX2_matches_2_12 5 rfl rfl)
theorem dX2_matches_2_290 : decode cX2_matches_2 290 = .ok (.aload_n 0, 1) := dk_42 (dk_at dksX2_matches_2_12 8 rfl rfl)
theorem dX2_matches_2_291 : decode cX2_matches_2 291 = .ok (.aload_n 3, 1) := dk_45 (dk_at dksX2_matches_2_12 9 rfl rfl)
theorem dX2_matches_2_292 : decode cX2_matches_2 292 = .ok (.invokevirtual 102, 3) := dk_182 0 102 (dk_at dksX2_matches_2_12 10 rfl rfl)
theorem dX2_matches_2_295 : decode cX2_matches_2 295 = .ok (.iload_n 2, 1) := dk_28 (dk_at dksX2_matches_2_12 13 rfl rfl)
theorem dX2_matches_2_296 : decode cX2_matches_2 296 = .ok (.aload_n 3, 1) := dk_45 (dk_at dksX2_matches_2_12 14 rfl rfl)
theorem dX2_matches_2_297 : decode cX2_matches_2 297 = .ok (.iload 4, 2) := dk_21 4 (dk_at dksX2_matches_2_12 15 rfl rfl)
theorem dX2_matches_2_299 : decode cX2_matches_2 299 = .ok (.invokevirtual 105, 3) := dk_182 0 105 (dk_at dksX2_matches_2_12 17 rfl rfl)
theorem dX2_matches_2_302 : decode cX2_matches_2 302 = .ok (.invokevirtual 73, 3) := dk_182 0 73 (dk_at dksX2_matches_2_12 20 rfl rfl)
theorem dX2_matches_2_305 : decode cX2_matches_2 305 = .ok (.goto 4, 3) := dk_167 0 4 (dk_at dksX2_matches_2_13 0 rfl rfl)
theorem dX2_matches_2_308 : decode cX2_matches_2 308 = .ok (.iconst 0, 1) := dk_3 (dk_at dksX2_matches_2_13 3 rfl rfl)
theorem dX2_matches_2_309 : decode cX2_matches_2 309 = .ok (.ireturn, 1) := dk_172 (dk_at dksX2_matches_2_13 4 rfl rfl)
theorem dX2_matches_2_310 : decode cX2_matches_2 310 = .ok (.iconst 1, 1) := dk_4 (dk_at dksX2_matches_2_13 5 rfl rfl)
theorem dX2_matches_2_311 : decode cX2_matches_2 311 = .ok (.ireturn, 1) := dk_172 (dk_at dksX2_matches_2_13 6 rfl rfl)
abbrev cX2_all : ByteArray := prog_9_method_7_code
def yX2_all : MethodName := ⟨RX2, "all", "([LPatternforge$Pattern;II)I"⟩
def dkwX2_all_1 : List UInt8 := [28, 29, 21, 5, 96, 184, 0, 109, 182, 0, 38, 54, 4, 132, 5, 1, 167, 255, 222, 21, 4, 172]
abbrev dktX2_all_1 : List UInt8 := dkwX2_all_1 ++ []
def dkwX2_all_0 : List UInt8 := [4, 54, 4, 3, 54, 5, 21, 5, 43, 190, 162, 0, 33, 21, 4, 4, 160, 0, 27, 42, 43, 21, 5, 50]
abbrev dktX2_all_0 : List UInt8 := dkwX2_all_0 ++ dktX2_all_1
theorem dksX2_all_0 : cX2_all.data.toList.drop 0 = dktX2_all_0 := by decide +kernel
theorem dksX2_all_1 : cX2_all.data.toList.drop 24 = dktX2_all_1 := dk_seg dksX2_all_0 24 rfl rfl
theorem dX2_all_0 : decode cX2_all 0 = .ok (.iconst 1, 1) := dk_4 (dk_at dksX2_all_0 0 rfl rfl)
theorem dX2_all_1 : decode cX2_all 1 = .ok (.istore 4, 2) := dk_54 4 (dk_at dksX2_all_0 1 rfl rfl)
theorem dX2_all_3 : decode cX2_all 3 = .ok (.iconst 0, 1) := dk_3 (dk_at dksX2_all_0 3 rfl rfl)
theorem dX2_all_4 : decode cX2_all 4 = .ok (.istore 5, 2) := dk_54 5 (dk_at dksX2_all_0 4 rfl rfl)
theorem dX2_all_6 : decode cX2_all 6 = .ok (.iload 5, 2) := dk_21 5 (dk_at dksX2_all_0 6 rfl rfl)
theorem dX2_all_8 : decode cX2_all 8 = .ok (.aload_n 1, 1) := dk_43 (dk_at dksX2_all_0 8 rfl rfl)
theorem dX2_all_9 : decode cX2_all 9 = .ok (.arraylength, 1) := dk_190 (dk_at dksX2_all_0 9 rfl rfl)
theorem dX2_all_10 : decode cX2_all 10 = .ok (.if_icmp .ge 33, 3) := dk_162 0 33 (dk_at dksX2_all_0 10 rfl rfl)
theorem dX2_all_13 : decode cX2_all 13 = .ok (.iload 4, 2) := dk_21 4 (dk_at dksX2_all_0 13 rfl rfl)
theorem dX2_all_15 : decode cX2_all 15 = .ok (.iconst 1, 1) := dk_4 (dk_at dksX2_all_0 15 rfl rfl)
theorem dX2_all_16 : decode cX2_all 16 = .ok (.if_icmp .ne 27, 3) := dk_160 0 27 (dk_at dksX2_all_0 16 rfl rfl)
theorem dX2_all_19 : decode cX2_all 19 = .ok (.aload_n 0, 1) := dk_42 (dk_at dksX2_all_0 19 rfl rfl)
theorem dX2_all_20 : decode cX2_all 20 = .ok (.aload_n 1, 1) := dk_43 (dk_at dksX2_all_0 20 rfl rfl)
theorem dX2_all_21 : decode cX2_all 21 = .ok (.iload 5, 2) := dk_21 5 (dk_at dksX2_all_0 21 rfl rfl)
theorem dX2_all_23 : decode cX2_all 23 = .ok (.aaload, 1) := dk_50 (dk_at dksX2_all_0 23 rfl rfl)
theorem dX2_all_24 : decode cX2_all 24 = .ok (.iload_n 2, 1) := dk_28 (dk_at dksX2_all_1 0 rfl rfl)
theorem dX2_all_25 : decode cX2_all 25 = .ok (.iload_n 3, 1) := dk_29 (dk_at dksX2_all_1 1 rfl rfl)
theorem dX2_all_26 : decode cX2_all 26 = .ok (.iload 5, 2) := dk_21 5 (dk_at dksX2_all_1 2 rfl rfl)
theorem dX2_all_28 : decode cX2_all 28 = .ok (.iadd, 1) := dk_96 (dk_at dksX2_all_1 4 rfl rfl)
theorem dX2_all_29 : decode cX2_all 29 = .ok (.invokestatic 109, 3) := dk_184 0 109 (dk_at dksX2_all_1 5 rfl rfl)
theorem dX2_all_32 : decode cX2_all 32 = .ok (.invokevirtual 38, 3) := dk_182 0 38 (dk_at dksX2_all_1 8 rfl rfl)
theorem dX2_all_35 : decode cX2_all 35 = .ok (.istore 4, 2) := dk_54 4 (dk_at dksX2_all_1 11 rfl rfl)
theorem dX2_all_37 : decode cX2_all 37 = .ok (.iinc 5 1, 3) := dk_132 5 1 (dk_at dksX2_all_1 13 rfl rfl)
theorem dX2_all_40 : decode cX2_all 40 = .ok (.goto (-34), 3) := dk_167 255 222 (dk_at dksX2_all_1 16 rfl rfl)
theorem dX2_all_43 : decode cX2_all 43 = .ok (.iload 4, 2) := dk_21 4 (dk_at dksX2_all_1 19 rfl rfl)
theorem dX2_all_45 : decode cX2_all 45 = .ok (.ireturn, 1) := dk_172 (dk_at dksX2_all_1 21 rfl rfl)
abbrev cX2_holds : ByteArray := prog_9_method_8_code
def yX2_holds : MethodName := ⟨RX2, "holds", "(LPatternforge$Pattern;I)Z"⟩
def dkwX2_holds_2 : List UInt8 := [153, 0, 17, 43, 192, 0, 51, 78, 42, 45, 28, 182, 0, 112, 153, 0, 7, 4, 167, 0, 4, 3, 172]
abbrev dktX2_holds_2 : List UInt8 := dkwX2_holds_2 ++ []
def dkwX2_holds_1 : List UInt8 := [42, 45, 182, 0, 82, 28, 182, 0, 94, 153, 0, 7, 4, 167, 0, 4, 3, 172, 43, 193, 0, 51]
abbrev dktX2_holds_1 : List UInt8 := dkwX2_holds_1 ++ dktX2_holds_2
def dkwX2_holds_0 : List UInt8 := [43, 193, 0, 77, 153, 0, 38, 43, 192, 0, 77, 78, 42, 45, 182, 0, 79, 28, 182, 0, 94, 154, 0, 15]
abbrev dktX2_holds_0 : List UInt8 := dkwX2_holds_0 ++ dktX2_holds_1
theorem dksX2_holds_0 : cX2_holds.data.toList.drop 0 = dktX2_holds_0 := by decide +kernel
theorem dksX2_holds_1 : cX2_holds.data.toList.drop 24 = dktX2_holds_1 := dk_seg dksX2_holds_0 24 rfl rfl
theorem dksX2_holds_2 : cX2_holds.data.toList.drop 46 = dktX2_holds_2 := dk_seg dksX2_holds_1 22 rfl rfl
theorem dX2_holds_0 : decode cX2_holds 0 = .ok (.aload_n 1, 1) := dk_43 (dk_at dksX2_holds_0 0 rfl rfl)
theorem dX2_holds_1 : decode cX2_holds 1 = .ok (.instanceof 77, 3) := dk_193 0 77 (dk_at dksX2_holds_0 1 rfl rfl)
theorem dX2_holds_4 : decode cX2_holds 4 = .ok (.ifCond .eq 38, 3) := dk_153 0 38 (dk_at dksX2_holds_0 4 rfl rfl)
theorem dX2_holds_7 : decode cX2_holds 7 = .ok (.aload_n 1, 1) := dk_43 (dk_at dksX2_holds_0 7 rfl rfl)
theorem dX2_holds_8 : decode cX2_holds 8 = .ok (.checkcast 77, 3) := dk_192 0 77 (dk_at dksX2_holds_0 8 rfl rfl)
theorem dX2_holds_11 : decode cX2_holds 11 = .ok (.astore_n 3, 1) := dk_78 (dk_at dksX2_holds_0 11 rfl rfl)
theorem dX2_holds_12 : decode cX2_holds 12 = .ok (.aload_n 0, 1) := dk_42 (dk_at dksX2_holds_0 12 rfl rfl)
theorem dX2_holds_13 : decode cX2_holds 13 = .ok (.aload_n 3, 1) := dk_45 (dk_at dksX2_holds_0 13 rfl rfl)
theorem dX2_holds_14 : decode cX2_holds 14 = .ok (.invokevirtual 79, 3) := dk_182 0 79 (dk_at dksX2_holds_0 14 rfl rfl)
theorem dX2_holds_17 : decode cX2_holds 17 = .ok (.iload_n 2, 1) := dk_28 (dk_at dksX2_holds_0 17 rfl rfl)
theorem dX2_holds_18 : decode cX2_holds 18 = .ok (.invokevirtual 94, 3) := dk_182 0 94 (dk_at dksX2_holds_0 18 rfl rfl)
theorem dX2_holds_21 : decode cX2_holds 21 = .ok (.ifCond .ne 15, 3) := dk_154 0 15 (dk_at dksX2_holds_0 21 rfl rfl)
theorem dX2_holds_24 : decode cX2_holds 24 = .ok (.aload_n 0, 1) := dk_42 (dk_at dksX2_holds_1 0 rfl rfl)
theorem dX2_holds_25 : decode cX2_holds 25 = .ok (.aload_n 3, 1) := dk_45 (dk_at dksX2_holds_1 1 rfl rfl)
theorem dX2_holds_26 : decode cX2_holds 26 = .ok (.invokevirtual 82, 3) := dk_182 0 82 (dk_at dksX2_holds_1 2 rfl rfl)
theorem dX2_holds_29 : decode cX2_holds 29 = .ok (.iload_n 2, 1) := dk_28 (dk_at dksX2_holds_1 5 rfl rfl)
theorem dX2_holds_30 : decode cX2_holds 30 = .ok (.invokevirtual 94, 3) := dk_182 0 94 (dk_at dksX2_holds_1 6 rfl rfl)
theorem dX2_holds_33 : decode cX2_holds 33 = .ok (.ifCond .eq 7, 3) := dk_153 0 7 (dk_at dksX2_holds_1 9 rfl rfl)
theorem dX2_holds_36 : decode cX2_holds 36 = .ok (.iconst 1, 1) := dk_4 (dk_at dksX2_holds_1 12 rfl rfl)
theorem dX2_holds_37 : decode cX2_holds 37 = .ok (.goto 4, 3) := dk_167 0 4 (dk_at dksX2_holds_1 13 rfl rfl)
theorem dX2_holds_40 : decode cX2_holds 40 = .ok (.iconst 0, 1) := dk_3 (dk_at dksX2_holds_1 16 rfl rfl)
theorem dX2_holds_41 : decode cX2_holds 41 = .ok (.ireturn, 1) := dk_172 (dk_at dksX2_holds_1 17 rfl rfl)
theorem dX2_holds_42 : decode cX2_holds 42 = .ok (.aload_n 1, 1) := dk_43 (dk_at dksX2_holds_1 18 rfl rfl)
theorem dX2_holds_43 : decode cX2_holds 43 = .ok (.instanceof 51, 3) := dk_193 0 51 (dk_at dksX2_holds_1 19 rfl rfl)
theorem dX2_holds_46 : decode cX2_holds 46 = .ok (.ifCond .eq 17, 3) := dk_153 0 17 (dk_at dksX2_holds_2 0 rfl rfl)
theorem dX2_holds_49 : decode cX2_holds 49 = .ok (.aload_n 1, 1) := dk_43 (dk_at dksX2_holds_2 3 rfl rfl)
theorem dX2_holds_50 : decode cX2_holds 50 = .ok (.checkcast 51, 3) := dk_192 0 51 (dk_at dksX2_holds_2 4 rfl rfl)
theorem dX2_holds_53 : decode cX2_holds 53 = .ok (.astore_n 3, 1) := dk_78 (dk_at dksX2_holds_2 7 rfl rfl)
theorem dX2_holds_54 : decode cX2_holds 54 = .ok (.aload_n 0, 1) := dk_42 (dk_at dksX2_holds_2 8 rfl rfl)
theorem dX2_holds_55 : decode cX2_holds 55 = .ok (.aload_n 3, 1) := dk_45 (dk_at dksX2_holds_2 9 rfl rfl)
theorem dX2_holds_56 : decode cX2_holds 56 = .ok (.iload_n 2, 1) := dk_28 (dk_at dksX2_holds_2 10 rfl rfl)
theorem dX2_holds_57 : decode cX2_holds 57 = .ok (.invokevirtual 112, 3) := dk_182 0 112 (dk_at dksX2_holds_2 11 rfl rfl)
theorem dX2_holds_60 : decode cX2_holds 60 = .ok (.ifCond .eq 7, 3) := dk_153 0 7 (dk_at dksX2_holds_2 14 rfl rfl)
theorem dX2_holds_63 : decode cX2_holds 63 = .ok (.iconst 1, 1) := dk_4 (dk_at dksX2_holds_2 17 rfl rfl)
theorem dX2_holds_64 : decode cX2_holds 64 = .ok (.goto 4, 3) := dk_167 0 4 (dk_at dksX2_holds_2 18 rfl rfl)
theorem dX2_holds_67 : decode cX2_holds 67 = .ok (.iconst 0, 1) := dk_3 (dk_at dksX2_holds_2 21 rfl rfl)
theorem dX2_holds_68 : decode cX2_holds 68 = .ok (.ireturn, 1) := dk_172 (dk_at dksX2_holds_2 22 rfl rfl)
abbrev cX2_holdsRange : ByteArray := prog_9_method_9_code
def yX2_holdsRange : MethodName := ⟨RX2, "holdsRange", "(LPatternforge$Range;I)Z"⟩
def dkwX2_holdsRange_0 : List UInt8 := [43, 28, 182, 0, 57, 172]
abbrev dktX2_holdsRange_0 : List UInt8 := dkwX2_holdsRange_0 ++ []
theorem dksX2_holdsRange_0 : cX2_holdsRange.data.toList.drop 0 = dktX2_holdsRange_0 := by decide +kernel
theorem dX2_holdsRange_0 : decode cX2_holdsRange 0 = .ok (.aload_n 1, 1) := dk_43 (dk_at dksX2_holdsRange_0 0 rfl rfl)
theorem dX2_holdsRange_1 : decode cX2_holdsRange 1 = .ok (.iload_n 2, 1) := dk_28 (dk_at dksX2_holdsRange_0 1 rfl rfl)
theorem dX2_holdsRange_2 : decode cX2_holdsRange 2 = .ok (.invokevirtual 57, 3) := dk_182 0 57 (dk_at dksX2_holdsRange_0 2 rfl rfl)
theorem dX2_holdsRange_5 : decode cX2_holdsRange 5 = .ok (.ireturn, 1) := dk_172 (dk_at dksX2_holdsRange_0 5 rfl rfl)
theorem q100 : (Jvm.Cond.initialized "Patternforge$Matching") ∈ lw_all := lw_g (lw_at lw_m1 5 rfl) rfl
theorem q179 : (Jvm.Cond.instanceMethod ({ cls := "Patternforge$Matching", name := "<init>", desc := "(LPatternforge;)V" } : Jvm.MethodName)) ∈ lw_all := lw_g (lw_at lw_m1 84 rfl) rfl
theorem q180 : (Jvm.Cond.code ({ cls := "Patternforge$Matching", name := "<init>", desc := "(LPatternforge;)V" } : Jvm.MethodName) prog_9_method_1_code (2 : Nat) (Option.none : Option Jvm.ClassFile.FieldType)) ∈ lw_all := lw_g (lw_at lw_m1 85 rfl) rfl
theorem q181 : (Jvm.Cond.methodLink "Patternforge$Matching" (9 : Nat) ({ cls := "java/lang/Object", name := "<init>", desc := "()V" } : Jvm.MethodName)) ∈ lw_all := lw_g (lw_at lw_m1 86 rfl) rfl
theorem q198 : (Jvm.Cond.fieldLink "Patternforge$Matching" (15 : Nat) "Patternforge$Matching" "places" "[I") ∈ lw_all := lw_g (lw_at lw_m1 103 rfl) rfl
theorem q201 : (Jvm.Cond.fieldLink "Patternforge$Matching" (3 : Nat) "Patternforge$Matching" "this$0" "LPatternforge;") ∈ lw_all := lw_g (lw_at lw_m1 106 rfl) rfl
theorem q219 : (Jvm.Cond.soleField "Patternforge$Matching" "places") ∈ lw_all := lw_g (lw_at lw_m1 124 rfl) rfl
theorem q221 : (Jvm.Cond.soleField "Patternforge$Matching" "this$0") ∈ lw_all := lw_g (lw_at lw_m1 126 rfl) rfl
theorem q406 : (Jvm.Cond.declares ({ cls := "Patternforge$Matching", name := "clearNames", desc := "()V" } : Jvm.MethodName)) ∈ lw_tbl := lw_at lw_m2 71 rfl
theorem q408 : (Jvm.Cond.instanceMethod ({ cls := "Patternforge$Matching", name := "clearNames", desc := "()V" } : Jvm.MethodName)) ∈ lw_all := lw_g (lw_at lw_m2 73 rfl) rfl
theorem q409 : (Jvm.Cond.code ({ cls := "Patternforge$Matching", name := "clearNames", desc := "()V" } : Jvm.MethodName) prog_9_method_4_code (2 : Nat) (Option.none : Option Jvm.ClassFile.FieldType)) ∈ lw_all := lw_g (lw_at lw_m2 74 rfl) rfl
theorem q420 : (Jvm.Cond.fieldLinkNest "Patternforge$Matching" (19 : Nat) "Patternforge" "columns" "I" "Patternforge") ∈ lw_tbl := lw_at lw_m2 85 rfl
theorem q979 : (Jvm.Cond.fieldLinkNest "Patternforge$Matching" (23 : Nat) "Patternforge$Case" "patterns" "[I" "Patternforge") ∈ lw_tbl := lw_at lw_m4 164 rfl
theorem q1382 : (Jvm.Cond.declares ({ cls := "Patternforge$Matching", name := "matches", desc := "(LPatternforge$Case;)I" } : Jvm.MethodName)) ∈ lw_tbl := lw_at lw_m6 87 rfl
theorem q1384 : (Jvm.Cond.instanceMethod ({ cls := "Patternforge$Matching", name := "matches", desc := "(LPatternforge$Case;)I" } : Jvm.MethodName)) ∈ lw_all := lw_g (lw_at lw_m6 89 rfl) rfl
theorem q1385 : (Jvm.Cond.code ({ cls := "Patternforge$Matching", name := "matches", desc := "(LPatternforge$Case;)I" } : Jvm.MethodName) prog_9_method_5_code (4 : Nat) (Option.some Jvm.ClassFile.FieldType.int)) ∈ lw_all := lw_g (lw_at lw_m6 90 rfl) rfl
theorem q1386 : (Jvm.Cond.methodLinkNest "Patternforge$Matching" (28 : Nat) ({ cls := "Patternforge", name := "told", desc := "(I)LPatternforge$Told;" } : Jvm.MethodName) "Patternforge") ∈ lw_tbl := lw_at lw_m6 91 rfl
theorem q1387 : (Jvm.Cond.methodLink "Patternforge$Matching" (32 : Nat) ({ cls := "Patternforge$Told", name := "pattern", desc := "()LPatternforge$Pattern;" } : Jvm.MethodName)) ∈ lw_all := lw_g (lw_at lw_m6 92 rfl) rfl
theorem q1388 : (Jvm.Cond.methodLink "Patternforge$Matching" (38 : Nat) ({ cls := "Patternforge$Matching", name := "matches", desc := "(LPatternforge$Pattern;I)I" } : Jvm.MethodName)) ∈ lw_all := lw_g (lw_at lw_m6 93 rfl) rfl
theorem q1389 : (Jvm.Cond.privateMethod ({ cls := "Patternforge$Matching", name := "matches", desc := "(LPatternforge$Pattern;I)I" } : Jvm.MethodName)) ∈ lw_tbl := lw_at lw_m6 94 rfl
theorem q1390 : (Jvm.Cond.instanceMethod ({ cls := "Patternforge$Matching", name := "matches", desc := "(LPatternforge$Pattern;I)I" } : Jvm.MethodName)) ∈ lw_all := lw_g (lw_at lw_m6 95 rfl) rfl
theorem q1391 : (Jvm.Cond.code ({ cls := "Patternforge$Matching", name := "matches", desc := "(LPatternforge$Pattern;I)I" } : Jvm.MethodName) prog_9_method_6_code (5 : Nat) (Option.some Jvm.ClassFile.FieldType.int)) ∈ lw_all := lw_g (lw_at lw_m6 96 rfl) rfl
theorem q1392 : (Jvm.Cond.classLink "Patternforge$Matching" (42 : Nat) "Patternforge$Name") ∈ lw_all := lw_g (lw_at lw_m6 97 rfl) rfl
theorem q1393 : (Jvm.Cond.methodLink "Patternforge$Matching" (44 : Nat) ({ cls := "Patternforge$Name", name := "of", desc := "()LPatternforge$Pattern;" } : Jvm.MethodName)) ∈ lw_all := lw_g (lw_at lw_m6 98 rfl) rfl
theorem q1394 : (Jvm.Cond.methodLink "Patternforge$Matching" (47 : Nat) ({ cls := "Patternforge$Name", name := "name", desc := "()I" } : Jvm.MethodName)) ∈ lw_all := lw_g (lw_at lw_m6 99 rfl) rfl
theorem q1395 : (Jvm.Cond.classLink "Patternforge$Matching" (51 : Nat) "Patternforge$Range") ∈ lw_all := lw_g (lw_at lw_m6 100 rfl) rfl
theorem q1396 : (Jvm.Cond.methodLink "Patternforge$Matching" (53 : Nat) ({ cls := "Patternforge$Matching", name := "at", desc := "(II)I" } : Jvm.MethodName)) ∈ lw_all := lw_g (lw_at lw_m6 101 rfl) rfl
theorem q1397 : (Jvm.Cond.declares ({ cls := "Patternforge$Matching", name := "at", desc := "(II)I" } : Jvm.MethodName)) ∈ lw_tbl := lw_at lw_m6 102 rfl
theorem q1398 : (Jvm.Cond.sameMethod "Patternforge$Matching" "Patternforge$Matching" "at" "(II)I") ∈ lw_all := lw_g (lw_at lw_m6 103 rfl) rfl
theorem q1432 : (Jvm.Cond.methodLink "Patternforge$Matching" (57 : Nat) ({ cls := "Patternforge$Range", name := "holds", desc := "(I)Z" } : Jvm.MethodName)) ∈ lw_all := lw_g (lw_at lw_m6 137 rfl) rfl
theorem q1437 : (Jvm.Cond.classLink "Patternforge$Matching" (61 : Nat) "Patternforge$Make") ∈ lw_all := lw_g (lw_at lw_m6 142 rfl) rfl
theorem q1438 : (Jvm.Cond.methodLink "Patternforge$Matching" (63 : Nat) ({ cls := "Patternforge$Make", name := "type", desc := "()I" } : Jvm.MethodName)) ∈ lw_all := lw_g (lw_at lw_m6 143 rfl) rfl
theorem q1439 : (Jvm.Cond.methodLink "Patternforge$Matching" (66 : Nat) ({ cls := "Patternforge$Make", name := "constructor", desc := "()I" } : Jvm.MethodName)) ∈ lw_all := lw_g (lw_at lw_m6 144 rfl) rfl
theorem q1440 : (Jvm.Cond.methodLink "Patternforge$Matching" (69 : Nat) ({ cls := "Patternforge$Make", name := "fields", desc := "()[LPatternforge$Pattern;" } : Jvm.MethodName)) ∈ lw_all := lw_g (lw_at lw_m6 145 rfl) rfl
theorem q1441 : (Jvm.Cond.methodLink "Patternforge$Matching" (73 : Nat) ({ cls := "Patternforge$Matching", name := "all", desc := "([LPatternforge$Pattern;II)I" } : Jvm.MethodName)) ∈ lw_all := lw_g (lw_at lw_m6 146 rfl) rfl
theorem q1442 : (Jvm.Cond.privateMethod ({ cls := "Patternforge$Matching", name := "all", desc := "([LPatternforge$Pattern;II)I" } : Jvm.MethodName)) ∈ lw_tbl := lw_at lw_m6 147 rfl
theorem q1443 : (Jvm.Cond.instanceMethod ({ cls := "Patternforge$Matching", name := "all", desc := "([LPatternforge$Pattern;II)I" } : Jvm.MethodName)) ∈ lw_all := lw_g (lw_at lw_m6 148 rfl) rfl
theorem q1444 : (Jvm.Cond.code ({ cls := "Patternforge$Matching", name := "all", desc := "([LPatternforge$Pattern;II)I" } : Jvm.MethodName) prog_9_method_7_code (6 : Nat) (Option.some Jvm.ClassFile.FieldType.int)) ∈ lw_all := lw_g (lw_at lw_m6 149 rfl) rfl
theorem q1445 : (Jvm.Cond.methodLinkNest "Patternforge$Matching" (109 : Nat) ({ cls := "Patternforge", name := "field", desc := "(II)I" } : Jvm.MethodName) "Patternforge") ∈ lw_tbl := lw_at lw_m6 150 rfl
theorem q1448 : (Jvm.Cond.classLink "Patternforge$Matching" (77 : Nat) "Patternforge$Either") ∈ lw_all := lw_g (lw_at lw_m6 153 rfl) rfl
theorem q1449 : (Jvm.Cond.methodLink "Patternforge$Matching" (79 : Nat) ({ cls := "Patternforge$Either", name := "first", desc := "()LPatternforge$Pattern;" } : Jvm.MethodName)) ∈ lw_all := lw_g (lw_at lw_m6 154 rfl) rfl
theorem q1450 : (Jvm.Cond.methodLink "Patternforge$Matching" (82 : Nat) ({ cls := "Patternforge$Either", name := "second", desc := "()LPatternforge$Pattern;" } : Jvm.MethodName)) ∈ lw_all := lw_g (lw_at lw_m6 155 rfl) rfl
theorem q1451 : (Jvm.Cond.classLink "Patternforge$Matching" (85 : Nat) "Patternforge$Looked") ∈ lw_all := lw_g (lw_at lw_m6 156 rfl) rfl
theorem q1452 : (Jvm.Cond.methodLink "Patternforge$Matching" (87 : Nat) ({ cls := "Patternforge$Looked", name := "view", desc := "()I" } : Jvm.MethodName)) ∈ lw_all := lw_g (lw_at lw_m6 157 rfl) rfl
theorem q1456 : (Jvm.Cond.methodLink "Patternforge$Matching" (90 : Nat) ({ cls := "Patternforge$Matching", name := "seen", desc := "(II)I" } : Jvm.MethodName)) ∈ lw_all := lw_g (lw_at lw_m6 161 rfl) rfl
theorem q1457 : (Jvm.Cond.declares ({ cls := "Patternforge$Matching", name := "seen", desc := "(II)I" } : Jvm.MethodName)) ∈ lw_tbl := lw_at lw_m6 162 rfl
theorem q1458 : (Jvm.Cond.sameMethod "Patternforge$Matching" "Patternforge$Matching" "seen" "(II)I") ∈ lw_all := lw_g (lw_at lw_m6 163 rfl) rfl
theorem q1473 : (Jvm.Cond.methodLink "Patternforge$Matching" (93 : Nat) ({ cls := "Patternforge$Looked", name := "of", desc := "()LPatternforge$Pattern;" } : Jvm.MethodName)) ∈ lw_all := lw_g (lw_at lw_m6 178 rfl) rfl
theorem q1477 : (Jvm.Cond.methodLink "Patternforge$Matching" (94 : Nat) ({ cls := "Patternforge$Matching", name := "holds", desc := "(LPatternforge$Pattern;I)Z" } : Jvm.MethodName)) ∈ lw_all := lw_g (lw_at lw_m6 182 rfl) rfl
theorem q1478 : (Jvm.Cond.privateMethod ({ cls := "Patternforge$Matching", name := "holds", desc := "(LPatternforge$Pattern;I)Z" } : Jvm.MethodName)) ∈ lw_tbl := lw_at lw_m6 183 rfl
theorem q1479 : (Jvm.Cond.instanceMethod ({ cls := "Patternforge$Matching", name := "holds", desc := "(LPatternforge$Pattern;I)Z" } : Jvm.MethodName)) ∈ lw_all := lw_g (lw_at lw_m6 184 rfl) rfl
theorem q1480 : (Jvm.Cond.code ({ cls := "Patternforge$Matching", name := "holds", desc := "(LPatternforge$Pattern;I)Z" } : Jvm.MethodName) prog_9_method_8_code (4 : Nat) (Option.some Jvm.ClassFile.FieldType.boolean)) ∈ lw_all := lw_g (lw_at lw_m6 185 rfl) rfl
theorem q1481 : (Jvm.Cond.methodLink "Patternforge$Matching" (112 : Nat) ({ cls := "Patternforge$Matching", name := "holdsRange", desc := "(LPatternforge$Range;I)Z" } : Jvm.MethodName)) ∈ lw_all := lw_g (lw_at lw_m6 186 rfl) rfl
theorem q1482 : (Jvm.Cond.instanceMethod ({ cls := "Patternforge$Matching", name := "holdsRange", desc := "(LPatternforge$Range;I)Z" } : Jvm.MethodName)) ∈ lw_all := lw_g (lw_at lw_m6 187 rfl) rfl
theorem q1483 : (Jvm.Cond.sameMethod "Patternforge$Matching" "Patternforge$Matching" "holdsRange" "(LPatternforge$Range;I)Z") ∈ lw_all := lw_g (lw_at lw_m6 188 rfl) rfl
theorem q1489 : (Jvm.Cond.code ({ cls := "Patternforge$Matching", name := "holdsRange", desc := "(LPatternforge$Range;I)Z" } : Jvm.MethodName) prog_9_method_9_code (3 : Nat) (Option.some Jvm.ClassFile.FieldType.boolean)) ∈ lw_all := lw_g (lw_at lw_m6 194 rfl) rfl
theorem q1490 : (Jvm.Cond.classLink "Patternforge$Matching" (97 : Nat) "Patternforge$Listed") ∈ lw_all := lw_g (lw_at lw_m6 195 rfl) rfl
theorem q1491 : (Jvm.Cond.methodLink "Patternforge$Matching" (99 : Nat) ({ cls := "Patternforge$Listed", name := "fits", desc := "(I)Z" } : Jvm.MethodName)) ∈ lw_all := lw_g (lw_at lw_m6 196 rfl) rfl
theorem q1495 : (Jvm.Cond.methodLink "Patternforge$Matching" (102 : Nat) ({ cls := "Patternforge$Listed", name := "items", desc := "()[LPatternforge$Pattern;" } : Jvm.MethodName)) ∈ lw_all := lw_g (lw_at lw_m6 200 rfl) rfl
theorem q1499 : (Jvm.Cond.methodLink "Patternforge$Matching" (105 : Nat) ({ cls := "Patternforge$Listed", name := "beginning", desc := "(I)I" } : Jvm.MethodName)) ∈ lw_all := lw_g (lw_at lw_m6 204 rfl) rfl
theorem q2293 : (Jvm.Cond.sameMethod "Patternforge$Matching" "Patternforge$Matching" "matches" "(LPatternforge$Pattern;I)I") ∈ lw_all := lw_g (lw_at lw_m10 38 rfl) rfl
theorem q2294 : (Jvm.Cond.sameMethod "Patternforge$Matching" "Patternforge$Matching" "all" "([LPatternforge$Pattern;II)I") ∈ lw_all := lw_g (lw_at lw_m10 39 rfl) rfl
theorem q2295 : (Jvm.Cond.sameMethod "Patternforge$Matching" "Patternforge$Matching" "holds" "(LPatternforge$Pattern;I)Z") ∈ lw_all := lw_g (lw_at lw_m10 40 rfl) rfl

/-! Patternforge$Running -/
set_option maxRecDepth 100000
def RX3 : String := "Patternforge$Running"
def TX3 : u_T := fun k => match k with
  | 0 => ("Patternforge$Matching", "places", "[I", true)
  | 1 => ("Patternforge$Matching", "this$0", "LPatternforge;", true)
  | 2 => ("Patternforge$Running", "values", "[I", true)
  | 3 => ("Patternforge$Running", "ranView", "[I", true)
  | 4 => ("Patternforge$Running", "ranPlace", "[I", true)
  | 5 => ("Patternforge$Running", "gave", "[I", true)
  | 6 => ("Patternforge$Running", "ran", "I", false)
  | 7 => ("Patternforge$Running", "tests", "I", false)
  | 8 => ("Patternforge$Running", "counts", "Z", false)
  | _ => ("Patternforge$Running", "this$0", "LPatternforge;", true)
def tyX3 : Nat → FieldType := fun k => match k with
  | 0 => .array .int
  | 1 => .object "Patternforge"
  | 2 => .array .int
  | 3 => .array .int
  | 4 => .array .int
  | 5 => .array .int
  | 6 => .int
  | 7 => .int
  | 8 => .boolean
  | _ => .object "Patternforge"
abbrev wsX30 : List Cond := u_ws RX3 TX3 10
-- two fields of one name: no nmX3
theorem tyX3_ok : ∀ k, k < 10 → parseFieldDescriptor (TX3 k).2.2.1 = some (tyX3 k) := by decide +kernel
abbrev cX3_init : ByteArray := prog_13_method_1_code
def yX3_init : MethodName := ⟨RX3, "<init>", "(LPatternforge;)V"⟩
def dkwX3_init_1 : List UInt8 := [181, 0, 19, 42, 17, 2, 88, 188, 10, 181, 0, 22, 42, 17, 2, 88, 188, 10, 181, 0, 25, 177]
abbrev dktX3_init_1 : List UInt8 := dkwX3_init_1 ++ []
def dkwX3_init_0 : List UInt8 := [42, 43, 181, 0, 3, 42, 43, 183, 0, 9, 42, 6, 188, 10, 181, 0, 15, 42, 17, 2, 88, 188, 10]
abbrev dktX3_init_0 : List UInt8 := dkwX3_init_0 ++ dktX3_init_1
theorem dksX3_init_0 : cX3_init.data.toList.drop 0 = dktX3_init_0 := by decide +kernel
theorem dksX3_init_1 : cX3_init.data.toList.drop 23 = dktX3_init_1 := dk_seg dksX3_init_0 23 rfl rfl
theorem dX3_init_0 : decode cX3_init 0 = .ok (.aload_n 0, 1) := dk_42 (dk_at dksX3_init_0 0 rfl rfl)
theorem dX3_init_1 : decode cX3_init 1 = .ok (.aload_n 1, 1) := dk_43 (dk_at dksX3_init_0 1 rfl rfl)
theorem dX3_init_2 : decode cX3_init 2 = .ok (.putfield 3, 3) := dk_181 0 3 (dk_at dksX3_init_0 2 rfl rfl)
theorem dX3_init_5 : decode cX3_init 5 = .ok (.aload_n 0, 1) := dk_42 (dk_at dksX3_init_0 5 rfl rfl)
theorem dX3_init_6 : decode cX3_init 6 = .ok (.aload_n 1, 1) := dk_43 (dk_at dksX3_init_0 6 rfl rfl)
theorem dX3_init_7 : decode cX3_init 7 = .ok (.invokespecial 9, 3) := dk_183 0 9 (dk_at dksX3_init_0 7 rfl rfl)
theorem dX3_init_10 : decode cX3_init 10 = .ok (.aload_n 0, 1) := dk_42 (dk_at dksX3_init_0 10 rfl rfl)
theorem dX3_init_11 : decode cX3_init 11 = .ok (.iconst 3, 1) := dk_6 (dk_at dksX3_init_0 11 rfl rfl)
theorem dX3_init_12 : decode cX3_init 12 = .ok (.newarray .int, 2) := dk_188_10 (dk_at dksX3_init_0 12 rfl rfl)
theorem dX3_init_14 : decode cX3_init 14 = .ok (.putfield 15, 3) := dk_181 0 15 (dk_at dksX3_init_0 14 rfl rfl)
theorem dX3_init_17 : decode cX3_init 17 = .ok (.aload_n 0, 1) := dk_42 (dk_at dksX3_init_0 17 rfl rfl)
theorem dX3_init_18 : decode cX3_init 18 = .ok (.sipush 600, 3) := dk_17 2 88 (dk_at dksX3_init_0 18 rfl rfl)
theorem dX3_init_21 : decode cX3_init 21 = .ok (.newarray .int, 2) := dk_188_10 (dk_at dksX3_init_0 21 rfl rfl)
theorem dX3_init_23 : decode cX3_init 23 = .ok (.putfield 19, 3) := dk_181 0 19 (dk_at dksX3_init_1 0 rfl rfl)
theorem dX3_init_26 : decode cX3_init 26 = .ok (.aload_n 0, 1) := dk_42 (dk_at dksX3_init_1 3 rfl rfl)
theorem dX3_init_27 : decode cX3_init 27 = .ok (.sipush 600, 3) := dk_17 2 88 (dk_at dksX3_init_1 4 rfl rfl)
theorem dX3_init_30 : decode cX3_init 30 = .ok (.newarray .int, 2) := dk_188_10 (dk_at dksX3_init_1 7 rfl rfl)
theorem dX3_init_32 : decode cX3_init 32 = .ok (.putfield 22, 3) := dk_181 0 22 (dk_at dksX3_init_1 9 rfl rfl)
theorem dX3_init_35 : decode cX3_init 35 = .ok (.aload_n 0, 1) := dk_42 (dk_at dksX3_init_1 12 rfl rfl)
theorem dX3_init_36 : decode cX3_init 36 = .ok (.sipush 600, 3) := dk_17 2 88 (dk_at dksX3_init_1 13 rfl rfl)
theorem dX3_init_39 : decode cX3_init 39 = .ok (.newarray .int, 2) := dk_188_10 (dk_at dksX3_init_1 16 rfl rfl)
theorem dX3_init_41 : decode cX3_init 41 = .ok (.putfield 25, 3) := dk_181 0 25 (dk_at dksX3_init_1 18 rfl rfl)
theorem dX3_init_44 : decode cX3_init 44 = .ok (.return_, 1) := dk_177 (dk_at dksX3_init_1 21 rfl rfl)
abbrev cX3_begin : ByteArray := prog_13_method_9_code
def yX3_begin : MethodName := ⟨RX3, "begin", "()V"⟩
def dkwX3_begin_0 : List UInt8 := [42, 3, 181, 0, 75, 42, 3, 181, 0, 58, 42, 4, 181, 0, 62, 42, 182, 0, 91, 177]
abbrev dktX3_begin_0 : List UInt8 := dkwX3_begin_0 ++ []
theorem dksX3_begin_0 : cX3_begin.data.toList.drop 0 = dktX3_begin_0 := by decide +kernel
theorem dX3_begin_0 : decode cX3_begin 0 = .ok (.aload_n 0, 1) := dk_42 (dk_at dksX3_begin_0 0 rfl rfl)
theorem dX3_begin_1 : decode cX3_begin 1 = .ok (.iconst 0, 1) := dk_3 (dk_at dksX3_begin_0 1 rfl rfl)
theorem dX3_begin_2 : decode cX3_begin 2 = .ok (.putfield 75, 3) := dk_181 0 75 (dk_at dksX3_begin_0 2 rfl rfl)
theorem dX3_begin_5 : decode cX3_begin 5 = .ok (.aload_n 0, 1) := dk_42 (dk_at dksX3_begin_0 5 rfl rfl)
theorem dX3_begin_6 : decode cX3_begin 6 = .ok (.iconst 0, 1) := dk_3 (dk_at dksX3_begin_0 6 rfl rfl)
theorem dX3_begin_7 : decode cX3_begin 7 = .ok (.putfield 58, 3) := dk_181 0 58 (dk_at dksX3_begin_0 7 rfl rfl)
theorem dX3_begin_10 : decode cX3_begin 10 = .ok (.aload_n 0, 1) := dk_42 (dk_at dksX3_begin_0 10 rfl rfl)
theorem dX3_begin_11 : decode cX3_begin 11 = .ok (.iconst 1, 1) := dk_4 (dk_at dksX3_begin_0 11 rfl rfl)
theorem dX3_begin_12 : decode cX3_begin 12 = .ok (.putfield 62, 3) := dk_181 0 62 (dk_at dksX3_begin_0 12 rfl rfl)
theorem dX3_begin_15 : decode cX3_begin 15 = .ok (.aload_n 0, 1) := dk_42 (dk_at dksX3_begin_0 15 rfl rfl)
theorem dX3_begin_16 : decode cX3_begin 16 = .ok (.invokevirtual 91, 3) := dk_182 0 91 (dk_at dksX3_begin_0 16 rfl rfl)
theorem dX3_begin_19 : decode cX3_begin 19 = .ok (.return_, 1) := dk_177 (dk_at dksX3_begin_0 19 rfl rfl)
abbrev cX3_at : ByteArray := prog_13_method_6_code
def yX3_at : MethodName := ⟨RX3, "at", "(II)I"⟩
def dkwX3_at_1 : List UInt8 := [182, 0, 66, 172]
abbrev dktX3_at_1 : List UInt8 := dkwX3_at_1 ++ []
def dkwX3_at_0 : List UInt8 := [42, 89, 180, 0, 58, 42, 180, 0, 62, 153, 0, 7, 4, 167, 0, 4, 3, 96, 181, 0, 58, 42, 27]
abbrev dktX3_at_0 : List UInt8 := dkwX3_at_0 ++ dktX3_at_1
theorem dksX3_at_0 : cX3_at.data.toList.drop 0 = dktX3_at_0 := by decide +kernel
theorem dksX3_at_1 : cX3_at.data.toList.drop 23 = dktX3_at_1 := dk_seg dksX3_at_0 23 rfl rfl
theorem dX3_at_0 : decode cX3_at 0 = .ok (.aload_n 0, 1) := dk_42 (dk_at dksX3_at_0 0 rfl rfl)
theorem dX3_at_1 : decode cX3_at 1 = .ok (.dup, 1) := dk_89 (dk_at dksX3_at_0 1 rfl rfl)
theorem dX3_at_2 : decode cX3_at 2 = .ok (.getfield 58, 3) := dk_180 0 58 (dk_at dksX3_at_0 2 rfl rfl)
theorem dX3_at_5 : decode cX3_at 5 = .ok (.aload_n 0, 1) := dk_42 (dk_at dksX3_at_0 5 rfl rfl)
theorem dX3_at_6 : decode cX3_at 6 = .ok (.getfield 62, 3) := dk_180 0 62 (dk_at dksX3_at_0 6 rfl rfl)
theorem dX3_at_9 : decode cX3_at 9 = .ok (.ifCond .eq 7, 3) := dk_153 0 7 (dk_at dksX3_at_0 9 rfl rfl)
theorem dX3_at_12 : decode cX3_at 12 = .ok (.iconst 1, 1) := dk_4 (dk_at dksX3_at_0 12 rfl rfl)
theorem dX3_at_13 : decode cX3_at 13 = .ok (.goto 4, 3) := dk_167 0 4 (dk_at dksX3_at_0 13 rfl rfl)
theorem dX3_at_16 : decode cX3_at 16 = .ok (.iconst 0, 1) := dk_3 (dk_at dksX3_at_0 16 rfl rfl)
theorem dX3_at_17 : decode cX3_at 17 = .ok (.iadd, 1) := dk_96 (dk_at dksX3_at_0 17 rfl rfl)
theorem dX3_at_18 : decode cX3_at 18 = .ok (.putfield 58, 3) := dk_181 0 58 (dk_at dksX3_at_0 18 rfl rfl)
theorem dX3_at_21 : decode cX3_at 21 = .ok (.aload_n 0, 1) := dk_42 (dk_at dksX3_at_0 21 rfl rfl)
theorem dX3_at_22 : decode cX3_at 22 = .ok (.iload_n 1, 1) := dk_27 (dk_at dksX3_at_0 22 rfl rfl)
theorem dX3_at_23 : decode cX3_at 23 = .ok (.invokevirtual 66, 3) := dk_182 0 66 (dk_at dksX3_at_1 0 rfl rfl)
theorem dX3_at_26 : decode cX3_at 26 = .ok (.ireturn, 1) := dk_172 (dk_at dksX3_at_1 3 rfl rfl)
abbrev cX3_look : ByteArray := prog_13_method_5_code
def yX3_look : MethodName := ⟨RX3, "look", "(I)I"⟩
def dkwX3_look_1 : List UInt8 := [180, 0, 3, 180, 0, 28, 28, 182, 0, 36, 192, 0, 42, 182, 0, 52, 172]
abbrev dktX3_look_1 : List UInt8 := dkwX3_look_1 ++ []
def dkwX3_look_0 : List UInt8 := [42, 27, 182, 0, 32, 61, 28, 17, 3, 232, 161, 0, 11, 28, 17, 3, 232, 100, 167, 0, 20, 42]
abbrev dktX3_look_0 : List UInt8 := dkwX3_look_0 ++ dktX3_look_1
theorem dksX3_look_0 : cX3_look.data.toList.drop 0 = dktX3_look_0 := by decide +kernel
theorem dksX3_look_1 : cX3_look.data.toList.drop 22 = dktX3_look_1 := dk_seg dksX3_look_0 22 rfl rfl
theorem dX3_look_0 : decode cX3_look 0 = .ok (.aload_n 0, 1) := dk_42 (dk_at dksX3_look_0 0 rfl rfl)
theorem dX3_look_1 : decode cX3_look 1 = .ok (.iload_n 1, 1) := dk_27 (dk_at dksX3_look_0 1 rfl rfl)
theorem dX3_look_2 : decode cX3_look 2 = .ok (.invokevirtual 32, 3) := dk_182 0 32 (dk_at dksX3_look_0 2 rfl rfl)
theorem dX3_look_5 : decode cX3_look 5 = .ok (.istore_n 2, 1) := dk_61 (dk_at dksX3_look_0 5 rfl rfl)
theorem dX3_look_6 : decode cX3_look 6 = .ok (.iload_n 2, 1) := dk_28 (dk_at dksX3_look_0 6 rfl rfl)
theorem dX3_look_7 : decode cX3_look 7 = .ok (.sipush 1000, 3) := dk_17 3 232 (dk_at dksX3_look_0 7 rfl rfl)
theorem dX3_look_10 : decode cX3_look 10 = .ok (.if_icmp .lt 11, 3) := dk_161 0 11 (dk_at dksX3_look_0 10 rfl rfl)
theorem dX3_look_13 : decode cX3_look 13 = .ok (.iload_n 2, 1) := dk_28 (dk_at dksX3_look_0 13 rfl rfl)
theorem dX3_look_14 : decode cX3_look 14 = .ok (.sipush 1000, 3) := dk_17 3 232 (dk_at dksX3_look_0 14 rfl rfl)
theorem dX3_look_17 : decode cX3_look 17 = .ok (.isub, 1) := dk_100 (dk_at dksX3_look_0 17 rfl rfl)
theorem dX3_look_18 : decode cX3_look 18 = .ok (.goto 20, 3) := dk_167 0 20 (dk_at dksX3_look_0 18 rfl rfl)
theorem dX3_look_21 : decode cX3_look 21 = .ok (.aload_n 0, 1) := dk_42 (dk_at dksX3_look_0 21 rfl rfl)
theorem dX3_look_22 : decode cX3_look 22 = .ok (.getfield 3, 3) := dk_180 0 3 (dk_at dksX3_look_1 0 rfl rfl)
theorem dX3_look_25 : decode cX3_look 25 = .ok (.getfield 28, 3) := dk_180 0 28 (dk_at dksX3_look_1 3 rfl rfl)
theorem dX3_look_28 : decode cX3_look 28 = .ok (.iload_n 2, 1) := dk_28 (dk_at dksX3_look_1 6 rfl rfl)
theorem dX3_look_29 : decode cX3_look 29 = .ok (.invokevirtual 36, 3) := dk_182 0 36 (dk_at dksX3_look_1 7 rfl rfl)
theorem dX3_look_32 : decode cX3_look 32 = .ok (.checkcast 42, 3) := dk_192 0 42 (dk_at dksX3_look_1 10 rfl rfl)
theorem dX3_look_35 : decode cX3_look 35 = .ok (.invokevirtual 52, 3) := dk_182 0 52 (dk_at dksX3_look_1 13 rfl rfl)
theorem dX3_look_38 : decode cX3_look 38 = .ok (.ireturn, 1) := dk_172 (dk_at dksX3_look_1 16 rfl rfl)
abbrev cX3_thing : ByteArray := prog_13_method_2_code
def yX3_thing : MethodName := ⟨RX3, "thing", "(I)I"⟩
def dkwX3_thing_2 : List UInt8 := [182, 0, 48, 8, 160, 0, 11, 17, 3, 232, 29, 96, 167, 0, 4, 29, 172]
abbrev dktX3_thing_2 : List UInt8 := dkwX3_thing_2 ++ []
def dkwX3_thing_1 : List UInt8 := [108, 182, 0, 32, 182, 0, 36, 192, 0, 42, 77, 44, 182, 0, 44, 27, 8, 112, 4, 100, 46, 62, 44]
abbrev dktX3_thing_1 : List UInt8 := dkwX3_thing_1 ++ dktX3_thing_2
def dkwX3_thing_0 : List UInt8 := [27, 6, 163, 0, 12, 42, 180, 0, 15, 27, 4, 100, 46, 172, 42, 180, 0, 3, 180, 0, 28, 42, 27, 8]
abbrev dktX3_thing_0 : List UInt8 := dkwX3_thing_0 ++ dktX3_thing_1
theorem dksX3_thing_0 : cX3_thing.data.toList.drop 0 = dktX3_thing_0 := by decide +kernel
theorem dksX3_thing_1 : cX3_thing.data.toList.drop 24 = dktX3_thing_1 := dk_seg dksX3_thing_0 24 rfl rfl
theorem dksX3_thing_2 : cX3_thing.data.toList.drop 47 = dktX3_thing_2 := dk_seg dksX3_thing_1 23 rfl rfl
theorem dX3_thing_0 : decode cX3_thing 0 = .ok (.iload_n 1, 1) := dk_27 (dk_at dksX3_thing_0 0 rfl rfl)
theorem dX3_thing_1 : decode cX3_thing 1 = .ok (.iconst 3, 1) := dk_6 (dk_at dksX3_thing_0 1 rfl rfl)
theorem dX3_thing_2 : decode cX3_thing 2 = .ok (.if_icmp .gt 12, 3) := dk_163 0 12 (dk_at dksX3_thing_0 2 rfl rfl)
theorem dX3_thing_5 : decode cX3_thing 5 = .ok (.aload_n 0, 1) := dk_42 (dk_at dksX3_thing_0 5 rfl rfl)
theorem dX3_thing_6 : decode cX3_thing 6 = .ok (.getfield 15, 3) := dk_180 0 15 (dk_at dksX3_thing_0 6 rfl rfl)
theorem dX3_thing_9 : decode cX3_thing 9 = .ok (.iload_n 1, 1) := dk_27 (dk_at dksX3_thing_0 9 rfl rfl)
theorem dX3_thing_10 : decode cX3_thing 10 = .ok (.iconst 1, 1) := dk_4 (dk_at dksX3_thing_0 10 rfl rfl)
theorem dX3_thing_11 : decode cX3_thing 11 = .ok (.isub, 1) := dk_100 (dk_at dksX3_thing_0 11 rfl rfl)
theorem dX3_thing_12 : decode cX3_thing 12 = .ok (.iaload, 1) := dk_46 (dk_at dksX3_thing_0 12 rfl rfl)
theorem dX3_thing_13 : decode cX3_thing 13 = .ok (.ireturn, 1) := dk_172 (dk_at dksX3_thing_0 13 rfl rfl)
theorem dX3_thing_14 : decode cX3_thing 14 = .ok (.aload_n 0, 1) := dk_42 (dk_at dksX3_thing_0 14 rfl rfl)
theorem dX3_thing_15 : decode cX3_thing 15 = .ok (.getfield 3, 3) := dk_180 0 3 (dk_at dksX3_thing_0 15 rfl rfl)
theorem dX3_thing_18 : decode cX3_thing 18 = .ok (.getfield 28, 3) := dk_180 0 28 (dk_at dksX3_thing_0 18 rfl rfl)
theorem dX3_thing_21 : decode cX3_thing 21 = .ok (.aload_n 0, 1) := dk_42 (dk_at dksX3_thing_0 21 rfl rfl)
theorem dX3_thing_22 : decode cX3_thing 22 = .ok (.iload_n 1, 1) := dk_27 (dk_at dksX3_thing_0 22 rfl rfl)
theorem dX3_thing_23 : decode cX3_thing 23 = .ok (.iconst 5, 1) := dk_8 (dk_at dksX3_thing_0 23 rfl rfl)
theorem dX3_thing_24 : decode cX3_thing 24 = .ok (.idiv, 1) := dk_108 (dk_at dksX3_thing_1 0 rfl rfl)
theorem dX3_thing_25 : decode cX3_thing 25 = .ok (.invokevirtual 32, 3) := dk_182 0 32 (dk_at dksX3_thing_1 1 rfl rfl)
theorem dX3_thing_28 : decode cX3_thing 28 = .ok (.invokevirtual 36, 3) := dk_182 0 36 (dk_at dksX3_thing_1 4 rfl rfl)
theorem dX3_thing_31 : decode cX3_thing 31 = .ok (.checkcast 42, 3) := dk_192 0 42 (dk_at dksX3_thing_1 7 rfl rfl)
theorem dX3_thing_34 : decode cX3_thing 34 = .ok (.astore_n 2, 1) := dk_77 (dk_at dksX3_thing_1 10 rfl rfl)
theorem dX3_thing_35 : decode cX3_thing 35 = .ok (.aload_n 2, 1) := dk_44 (dk_at dksX3_thing_1 11 rfl rfl)
theorem dX3_thing_36 : decode cX3_thing 36 = .ok (.invokevirtual 44, 3) := dk_182 0 44 (dk_at dksX3_thing_1 12 rfl rfl)
theorem dX3_thing_39 : decode cX3_thing 39 = .ok (.iload_n 1, 1) := dk_27 (dk_at dksX3_thing_1 15 rfl rfl)
theorem dX3_thing_40 : decode cX3_thing 40 = .ok (.iconst 5, 1) := dk_8 (dk_at dksX3_thing_1 16 rfl rfl)
theorem dX3_thing_41 : decode cX3_thing 41 = .ok (.irem, 1) := dk_112 (dk_at dksX3_thing_1 17 rfl rfl)
theorem dX3_thing_42 : decode cX3_thing 42 = .ok (.iconst 1, 1) := dk_4 (dk_at dksX3_thing_1 18 rfl rfl)
theorem dX3_thing_43 : decode cX3_thing 43 = .ok (.isub, 1) := dk_100 (dk_at dksX3_thing_1 19 rfl rfl)
theorem dX3_thing_44 : decode cX3_thing 44 = .ok (.iaload, 1) := dk_46 (dk_at dksX3_thing_1 20 rfl rfl)
theorem dX3_thing_45 : decode cX3_thing 45 = .ok (.istore_n 3, 1) := dk_62 (dk_at dksX3_thing_1 21 rfl rfl)
theorem dX3_thing_46 : decode cX3_thing 46 = .ok (.aload_n 2, 1) := dk_44 (dk_at dksX3_thing_1 22 rfl rfl)
theorem dX3_thing_47 : decode cX3_thing 47 = .ok (.invokevirtual 48, 3) := dk_182 0 48 (dk_at dksX3_thing_2 0 rfl rfl)
theorem dX3_thing_50 : decode cX3_thing 50 = .ok (.iconst 5, 1) := dk_8 (dk_at dksX3_thing_2 3 rfl rfl)
theorem dX3_thing_51 : decode cX3_thing 51 = .ok (.if_icmp .ne 11, 3) := dk_160 0 11 (dk_at dksX3_thing_2 4 rfl rfl)
theorem dX3_thing_54 : decode cX3_thing 54 = .ok (.sipush 1000, 3) := dk_17 3 232 (dk_at dksX3_thing_2 7 rfl rfl)
theorem dX3_thing_57 : decode cX3_thing 57 = .ok (.iload_n 3, 1) := dk_29 (dk_at dksX3_thing_2 10 rfl rfl)
theorem dX3_thing_58 : decode cX3_thing 58 = .ok (.iadd, 1) := dk_96 (dk_at dksX3_thing_2 11 rfl rfl)
theorem dX3_thing_59 : decode cX3_thing 59 = .ok (.goto 4, 3) := dk_167 0 4 (dk_at dksX3_thing_2 12 rfl rfl)
theorem dX3_thing_62 : decode cX3_thing 62 = .ok (.iload_n 3, 1) := dk_29 (dk_at dksX3_thing_2 15 rfl rfl)
theorem dX3_thing_63 : decode cX3_thing 63 = .ok (.ireturn, 1) := dk_172 (dk_at dksX3_thing_2 16 rfl rfl)
abbrev cX3_seen : ByteArray := prog_13_method_8_code
def yX3_seen : MethodName := ⟨RX3, "seen", "(II)I"⟩
def dkwX3_seen_5 : List UInt8 := [181, 0, 75, 42, 180, 0, 25, 42, 180, 0, 75, 4, 100, 46, 172]
abbrev dktX3_seen_5 : List UInt8 := dkwX3_seen_5 ++ []
def dkwX3_seen_4 : List UInt8 := [180, 0, 75, 104, 96, 45, 5, 46, 96, 45, 6, 46, 184, 0, 85, 79, 42, 89, 180, 0, 75, 4, 96]
abbrev dktX3_seen_4 : List UInt8 := dkwX3_seen_4 ++ dktX3_seen_5
def dkwX3_seen_3 : List UInt8 := [28, 79, 42, 180, 0, 25, 42, 180, 0, 75, 45, 3, 46, 42, 28, 182, 0, 82, 104, 45, 4, 46, 42]
abbrev dktX3_seen_3 : List UInt8 := dkwX3_seen_3 ++ dktX3_seen_4
def dkwX3_seen_2 : List UInt8 := [180, 0, 78, 27, 50, 78, 42, 180, 0, 19, 42, 180, 0, 75, 27, 79, 42, 180, 0, 22, 42, 180, 0, 75]
abbrev dktX3_seen_2 : List UInt8 := dkwX3_seen_2 ++ dktX3_seen_3
def dkwX3_seen_1 : List UInt8 := [29, 46, 28, 160, 0, 10, 42, 180, 0, 25, 29, 46, 172, 132, 3, 1, 167, 255, 218, 42, 180, 0, 3]
abbrev dktX3_seen_1 : List UInt8 := dkwX3_seen_1 ++ dktX3_seen_2
def dkwX3_seen_0 : List UInt8 := [3, 62, 29, 42, 180, 0, 75, 162, 0, 36, 42, 180, 0, 19, 29, 46, 27, 160, 0, 20, 42, 180, 0, 22]
abbrev dktX3_seen_0 : List UInt8 := dkwX3_seen_0 ++ dktX3_seen_1
theorem dksX3_seen_0 : cX3_seen.data.toList.drop 0 = dktX3_seen_0 := by decide +kernel
theorem dksX3_seen_1 : cX3_seen.data.toList.drop 24 = dktX3_seen_1 := dk_seg dksX3_seen_0 24 rfl rfl
theorem dksX3_seen_2 : cX3_seen.data.toList.drop 47 = dktX3_seen_2 := dk_seg dksX3_seen_1 23 rfl rfl
theorem dksX3_seen_3 : cX3_seen.data.toList.drop 71 = dktX3_seen_3 := dk_seg dksX3_seen_2 24 rfl rfl
theorem dksX3_seen_4 : cX3_seen.data.toList.drop 94 = dktX3_seen_4 := dk_seg dksX3_seen_3 23 rfl rfl
theorem dksX3_seen_5 : cX3_seen.data.toList.drop 117 = dktX3_seen_5 := dk_seg dksX3_seen_4 23 rfl rfl
theorem dX3_seen_0 : decode cX3_seen 0 = .ok (.iconst 0, 1) := dk_3 (dk_at dksX3_seen_0 0 rfl rfl)
theorem dX3_seen_1 : decode cX3_seen 1 = .ok (.istore_n 3, 1) := dk_62 (dk_at dksX3_seen_0 1 rfl rfl)
theorem dX3_seen_2 : decode cX3_seen 2 = .ok (.iload_n 3, 1) := dk_29 (dk_at dksX3_seen_0 2 rfl rfl)
theorem dX3_seen_3 : decode cX3_seen 3 = .ok (.aload_n 0, 1) := dk_42 (dk_at dksX3_seen_0 3 rfl rfl)
theorem dX3_seen_4 : decode cX3_seen 4 = .ok (.getfield 75, 3) := dk_180 0 75 (dk_at dksX3_seen_0 4 rfl rfl)
theorem dX3_seen_7 : decode cX3_seen 7 = .ok (.if_icmp .ge 36, 3) := dk_162 0 36 (dk_at dksX3_seen_0 7 rfl rfl)
theorem dX3_seen_10 : decode cX3_seen 10 = .ok (.aload_n 0, 1) := dk_42 (dk_at dksX3_seen_0 10 rfl rfl)
theorem dX3_seen_11 : decode cX3_seen 11 = .ok (.getfield 19, 3) := dk_180 0 19 (dk_at dksX3_seen_0 11 rfl rfl)
theorem dX3_seen_14 : decode cX3_seen 14 = .ok (.iload_n 3, 1) := dk_29 (dk_at dksX3_seen_0 14 rfl rfl)
theorem dX3_seen_15 : decode cX3_seen 15 = .ok (.iaload, 1) := dk_46 (dk_at dksX3_seen_0 15 rfl rfl)
theorem dX3_seen_16 : decode cX3_seen 16 = .ok (.iload_n 1, 1) := dk_27 (dk_at dksX3_seen_0 16 rfl rfl)
theorem dX3_seen_17 : decode cX3_seen 17 = .ok (.if_icmp .ne 20, 3) := dk_160 0 20 (dk_at dksX3_seen_0 17 rfl rfl)
theorem dX3_seen_20 : decode cX3_seen 20 = .ok (.aload_n 0, 1) := dk_42 (dk_at dksX3_seen_0 20 rfl rfl)
theorem dX3_seen_21 : decode cX3_seen 21 = .ok (.getfield 22, 3) := dk_180 0 22 (dk_at dksX3_seen_0 21 rfl rfl)
theorem dX3_seen_24 : decode cX3_seen 24 = .ok (.iload_n 3, 1) := dk_29 (dk_at dksX3_seen_1 0 rfl rfl)
theorem dX3_seen_25 : decode cX3_seen 25 = .ok (.iaload, 1) := dk_46 (dk_at dksX3_seen_1 1 rfl rfl)
theorem dX3_seen_26 : decode cX3_seen 26 = .ok (.iload_n 2, 1) := dk_28 (dk_at dksX3_seen_1 2 rfl rfl)
theorem dX3_seen_27 : decode cX3_seen 27 = .ok (.if_icmp .ne 10, 3) := dk_160 0 10 (dk_at dksX3_seen_1 3 rfl rfl)
theorem dX3_seen_30 : decode cX3_seen 30 = .ok (.aload_n 0, 1) := dk_42 (dk_at dksX3_seen_1 6 rfl rfl)
theorem dX3_seen_31 : decode cX3_seen 31 = .ok (.getfield 25, 3) := dk_180 0 25 (dk_at dksX3_seen_1 7 rfl rfl)
theorem dX3_seen_34 : decode cX3_seen 34 = .ok (.iload_n 3, 1) := dk_29 (dk_at dksX3_seen_1 10 rfl rfl)
theorem dX3_seen_35 : decode cX3_seen 35 = .ok (.iaload, 1) := dk_46 (dk_at dksX3_seen_1 11 rfl rfl)
theorem dX3_seen_36 : decode cX3_seen 36 = .ok (.ireturn, 1) := dk_172 (dk_at dksX3_seen_1 12 rfl rfl)
theorem dX3_seen_37 : decode cX3_seen 37 = .ok (.iinc 3 1, 3) := dk_132 3 1 (dk_at dksX3_seen_1 13 rfl rfl)
theorem dX3_seen_40 : decode cX3_seen 40 = .ok (.goto (-38), 3) := dk_167 255 218 (dk_at dksX3_seen_1 16 rfl rfl)
theorem dX3_seen_43 : decode cX3_seen 43 = .ok (.aload_n 0, 1) := dk_42 (dk_at dksX3_seen_1 19 rfl rfl)
theorem dX3_seen_44 : decode cX3_seen 44 = .ok (.getfield 3, 3) := dk_180 0 3 (dk_at dksX3_seen_1 20 rfl rfl)
theorem dX3_seen_47 : decode cX3_seen 47 = .ok (.getfield 78, 3) := dk_180 0 78 (dk_at dksX3_seen_2 0 rfl rfl)
theorem dX3_seen_50 : decode cX3_seen 50 = .ok (.iload_n 1, 1) := dk_27 (dk_at dksX3_seen_2 3 rfl rfl)
theorem dX3_seen_51 : decode cX3_seen 51 = .ok (.aaload, 1) := dk_50 (dk_at dksX3_seen_2 4 rfl rfl)
theorem dX3_seen_52 : decode cX3_seen 52 = .ok (.astore_n 3, 1) := dk_78 (dk_at dksX3_seen_2 5 rfl rfl)
theorem dX3_seen_53 : decode cX3_seen 53 = .ok (.aload_n 0, 1) := dk_42 (dk_at dksX3_seen_2 6 rfl rfl)
theorem dX3_seen_54 : decode cX3_seen 54 = .ok (.getfield 19, 3) := dk_180 0 19 (dk_at dksX3_seen_2 7 rfl rfl)
theorem dX3_seen_57 : decode cX3_seen 57 = .ok (.aload_n 0, 1) := dk_42 (dk_at dksX3_seen_2 10 rfl rfl)
theorem dX3_seen_58 : decode cX3_seen 58 = .ok (.getfield 75, 3) := dk_180 0 75 (dk_at dksX3_seen_2 11 rfl rfl)
theorem dX3_seen_61 : decode cX3_seen 61 = .ok (.iload_n 1, 1) := dk_27 (dk_at dksX3_seen_2 14 rfl rfl)
theorem dX3_seen_62 : decode cX3_seen 62 = .ok (.iastore, 1) := dk_79 (dk_at dksX3_seen_2 15 rfl rfl)
theorem dX3_seen_63 : decode cX3_seen 63 = .ok (.aload_n 0, 1) := dk_42 (dk_at dksX3_seen_2 16 rfl rfl)
theorem dX3_seen_64 : decode cX3_seen 64 = .ok (.getfield 22, 3) := dk_180 0 22 (dk_at dksX3_seen_2 17 rfl rfl)
theorem dX3_seen_67 : decode cX3_seen 67 = .ok (.aload_n 0, 1) := dk_42 (dk_at dksX3_seen_2 20 rfl rfl)
theorem dX3_seen_68 : decode cX3_seen 68 = .ok (.getfield 75, 3) := dk_180 0 75 (dk_at dksX3_seen_2 21 rfl rfl)
theorem dX3_seen_71 : decode cX3_seen 71 = .ok (.iload_n 2, 1) := dk_28 (dk_at dksX3_seen_3 0 rfl rfl)
theorem dX3_seen_72 : decode cX3_seen 72 = .ok (.iastore, 1) := dk_79 (dk_at dksX3_seen_3 1 rfl rfl)
theorem dX3_seen_73 : decode cX3_seen 73 = .ok (.aload_n 0, 1) := dk_42 (dk_at dksX3_seen_3 2 rfl rfl)
theorem dX3_seen_74 : decode cX3_seen 74 = .ok (.getfield 25, 3) := dk_180 0 25 (dk_at dksX3_seen_3 3 rfl rfl)
theorem dX3_seen_77 : decode cX3_seen 77 = .ok (.aload_n 0, 1) := dk_42 (dk_at dksX3_seen_3 6 rfl rfl)
theorem dX3_seen_78 : decode cX3_seen 78 = .ok (.getfield 75, 3) := dk_180 0 75 (dk_at dksX3_seen_3 7 rfl rfl)
theorem dX3_seen_81 : decode cX3_seen 81 = .ok (.aload_n 3, 1) := dk_45 (dk_at dksX3_seen_3 10 rfl rfl)
theorem dX3_seen_82 : decode cX3_seen 82 = .ok (.iconst 0, 1) := dk_3 (dk_at dksX3_seen_3 11 rfl rfl)
theorem dX3_seen_83 : decode cX3_seen 83 = .ok (.iaload, 1) := dk_46 (dk_at dksX3_seen_3 12 rfl rfl)
theorem dX3_seen_84 : decode cX3_seen 84 = .ok (.aload_n 0, 1) := dk_42 (dk_at dksX3_seen_3 13 rfl rfl)
theorem dX3_seen_85 : decode cX3_seen 85 = .ok (.iload_n 2, 1) := dk_28 (dk_at dksX3_seen_3 14 rfl rfl)
theorem dX3_seen_86 : decode cX3_seen 86 = .ok (.invokevirtual 82, 3) := dk_182 0 82 (dk_at dksX3_seen_3 15 rfl rfl)
theorem dX3_seen_89 : decode cX3_seen 89 = .ok (.imul, 1) := dk_104 (dk_at dksX3_seen_3 18 rfl rfl)
theorem dX3_seen_90 : decode cX3_seen 90 = .ok (.aload_n 3, 1) := dk_45 (dk_at dksX3_seen_3 19 rfl rfl)
theorem dX3_seen_91 : decode cX3_seen 91 = .ok (.iconst 1, 1) := dk_4 (dk_at dksX3_seen_3 20 rfl rfl)
theorem dX3_seen_92 : decode cX3_seen 92 = .ok (.iaload, 1) := dk_46 (dk_at dksX3_seen_3 21 rfl rfl)
theorem dX3_seen_93 : decode cX3_seen 93 = .ok (.aload_n 0, 1) := dk_42 (dk_at dksX3_seen_3 22 rfl rfl)
theorem dX3_seen_94 : decode cX3_seen 94 = .ok (.getfield 75, 3) := dk_180 0 75 (dk_at dksX3_seen_4 0 rfl rfl)
theorem dX3_seen_97 : decode cX3_seen 97 = .ok (.imul, 1) := dk_104 (dk_at dksX3_seen_4 3 rfl rfl)
theorem dX3_seen_98 : decode cX3_seen 98 = .ok (.iadd, 1) := dk_96 (dk_at dksX3_seen_4 4 rfl rfl)
theorem dX3_seen_99 : decode cX3_seen 99 = .ok (.aload_n 3, 1) := dk_45 (dk_at dksX3_seen_4 5 rfl rfl)
theorem dX3_seen_100 : decode cX3_seen 100 = .ok (.iconst 2, 1) := dk_5 (dk_at dksX3_seen_4 6 rfl rfl)
theorem dX3_seen_101 : decode cX3_seen 101 = .ok (.iaload, 1) := dk_46 (dk_at dksX3_seen_4 7 rfl rfl)
theorem dX3_seen_102 : decode cX3_seen 102 = .ok (.iadd, 1) := dk_96 (dk_at dksX3_seen_4 8 rfl rfl)
theorem dX3_seen_103 : decode cX3_seen 103 = .ok (.aload_n 3, 1) := dk_45 (dk_at dksX3_seen_4 9 rfl rfl)
theorem dX3_seen_104 : decode cX3_seen 104 = .ok (.iconst 3, 1) := dk_6 (dk_at dksX3_seen_4 10 rfl rfl)
theorem dX3_seen_105 : decode cX3_seen 105 = .ok (.iaload, 1) := dk_46 (dk_at dksX3_seen_4 11 rfl rfl)
theorem dX3_seen_106 : decode cX3_seen 106 = .ok (.invokestatic 85, 3) := dk_184 0 85 (dk_at dksX3_seen_4 12 rfl rfl)
theorem dX3_seen_109 : decode cX3_seen 109 = .ok (.iastore, 1) := dk_79 (dk_at dksX3_seen_4 15 rfl rfl)
theorem dX3_seen_110 : decode cX3_seen 110 = .ok (.aload_n 0, 1) := dk_42 (dk_at dksX3_seen_4 16 rfl rfl)
theorem dX3_seen_111 : decode cX3_seen 111 = .ok (.dup, 1) := dk_89 (dk_at dksX3_seen_4 17 rfl rfl)
theorem dX3_seen_112 : decode cX3_seen 112 = .ok (.getfield 75, 3) := dk_180 0 75 (dk_at dksX3_seen_4 18 rfl rfl)
theorem dX3_seen_115 : decode cX3_seen 115 = .ok (.iconst 1, 1) := dk_4 (dk_at dksX3_seen_4 21 rfl rfl)
theorem dX3_seen_116 : decode cX3_seen 116 = .ok (.iadd, 1) := dk_96 (dk_at dksX3_seen_4 22 rfl rfl)
theorem dX3_seen_117 : decode cX3_seen 117 = .ok (.putfield 75, 3) := dk_181 0 75 (dk_at dksX3_seen_5 0 rfl rfl)
theorem dX3_seen_120 : decode cX3_seen 120 = .ok (.aload_n 0, 1) := dk_42 (dk_at dksX3_seen_5 3 rfl rfl)
theorem dX3_seen_121 : decode cX3_seen 121 = .ok (.getfield 25, 3) := dk_180 0 25 (dk_at dksX3_seen_5 4 rfl rfl)
theorem dX3_seen_124 : decode cX3_seen 124 = .ok (.aload_n 0, 1) := dk_42 (dk_at dksX3_seen_5 7 rfl rfl)
theorem dX3_seen_125 : decode cX3_seen 125 = .ok (.getfield 75, 3) := dk_180 0 75 (dk_at dksX3_seen_5 8 rfl rfl)
theorem dX3_seen_128 : decode cX3_seen 128 = .ok (.iconst 1, 1) := dk_4 (dk_at dksX3_seen_5 11 rfl rfl)
theorem dX3_seen_129 : decode cX3_seen 129 = .ok (.isub, 1) := dk_100 (dk_at dksX3_seen_5 12 rfl rfl)
theorem dX3_seen_130 : decode cX3_seen 130 = .ok (.iaload, 1) := dk_46 (dk_at dksX3_seen_5 13 rfl rfl)
theorem dX3_seen_131 : decode cX3_seen 131 = .ok (.ireturn, 1) := dk_172 (dk_at dksX3_seen_5 14 rfl rfl)
abbrev cX3_measureAt : ByteArray := prog_13_method_4_code
def yX3_measureAt : MethodName := ⟨RX3, "measureAt", "(I)I"⟩
def dkwX3_measureAt_1 : List UInt8 := [180, 0, 3, 180, 0, 28, 28, 182, 0, 36, 192, 0, 42, 182, 0, 55, 172]
abbrev dktX3_measureAt_1 : List UInt8 := dkwX3_measureAt_1 ++ []
def dkwX3_measureAt_0 : List UInt8 := [42, 27, 182, 0, 32, 61, 28, 17, 3, 232, 161, 0, 11, 28, 17, 3, 232, 100, 167, 0, 20, 42]
abbrev dktX3_measureAt_0 : List UInt8 := dkwX3_measureAt_0 ++ dktX3_measureAt_1
theorem dksX3_measureAt_0 : cX3_measureAt.data.toList.drop 0 = dktX3_measureAt_0 := by decide +kernel
theorem dksX3_measureAt_1 : cX3_measureAt.data.toList.drop 22 = dktX3_measureAt_1 := dk_seg dksX3_measureAt_0 22 rfl rfl
theorem dX3_measureAt_0 : decode cX3_measureAt 0 = .ok (.aload_n 0, 1) := dk_42 (dk_at dksX3_measureAt_0 0 rfl rfl)
theorem dX3_measureAt_1 : decode cX3_measureAt 1 = .ok (.iload_n 1, 1) := dk_27 (dk_at dksX3_measureAt_0 1 rfl rfl)
theorem dX3_measureAt_2 : decode cX3_measureAt 2 = .ok (.invokevirtual 32, 3) := dk_182 0 32 (dk_at dksX3_measureAt_0 2 rfl rfl)
theorem dX3_measureAt_5 : decode cX3_measureAt 5 = .ok (.istore_n 2, 1) := dk_61 (dk_at dksX3_measureAt_0 5 rfl rfl)
theorem dX3_measureAt_6 : decode cX3_measureAt 6 = .ok (.iload_n 2, 1) := dk_28 (dk_at dksX3_measureAt_0 6 rfl rfl)
theorem dX3_measureAt_7 : decode cX3_measureAt 7 = .ok (.sipush 1000, 3) := dk_17 3 232 (dk_at dksX3_measureAt_0 7 rfl rfl)
theorem dX3_measureAt_10 : decode cX3_measureAt 10 = .ok (.if_icmp .lt 11, 3) := dk_161 0 11 (dk_at dksX3_measureAt_0 10 rfl rfl)
theorem dX3_measureAt_13 : decode cX3_measureAt 13 = .ok (.iload_n 2, 1) := dk_28 (dk_at dksX3_measureAt_0 13 rfl rfl)
theorem dX3_measureAt_14 : decode cX3_measureAt 14 = .ok (.sipush 1000, 3) := dk_17 3 232 (dk_at dksX3_measureAt_0 14 rfl rfl)
theorem dX3_measureAt_17 : decode cX3_measureAt 17 = .ok (.isub, 1) := dk_100 (dk_at dksX3_measureAt_0 17 rfl rfl)
theorem dX3_measureAt_18 : decode cX3_measureAt 18 = .ok (.goto 20, 3) := dk_167 0 20 (dk_at dksX3_measureAt_0 18 rfl rfl)
theorem dX3_measureAt_21 : decode cX3_measureAt 21 = .ok (.aload_n 0, 1) := dk_42 (dk_at dksX3_measureAt_0 21 rfl rfl)
theorem dX3_measureAt_22 : decode cX3_measureAt 22 = .ok (.getfield 3, 3) := dk_180 0 3 (dk_at dksX3_measureAt_1 0 rfl rfl)
theorem dX3_measureAt_25 : decode cX3_measureAt 25 = .ok (.getfield 28, 3) := dk_180 0 28 (dk_at dksX3_measureAt_1 3 rfl rfl)
theorem dX3_measureAt_28 : decode cX3_measureAt 28 = .ok (.iload_n 2, 1) := dk_28 (dk_at dksX3_measureAt_1 6 rfl rfl)
theorem dX3_measureAt_29 : decode cX3_measureAt 29 = .ok (.invokevirtual 36, 3) := dk_182 0 36 (dk_at dksX3_measureAt_1 7 rfl rfl)
theorem dX3_measureAt_32 : decode cX3_measureAt 32 = .ok (.checkcast 42, 3) := dk_192 0 42 (dk_at dksX3_measureAt_1 10 rfl rfl)
theorem dX3_measureAt_35 : decode cX3_measureAt 35 = .ok (.invokevirtual 55, 3) := dk_182 0 55 (dk_at dksX3_measureAt_1 13 rfl rfl)
theorem dX3_measureAt_38 : decode cX3_measureAt 38 = .ok (.ireturn, 1) := dk_172 (dk_at dksX3_measureAt_1 16 rfl rfl)
abbrev cX3_holdsRange : ByteArray := prog_13_method_7_code
def yX3_holdsRange : MethodName := ⟨RX3, "holdsRange", "(LPatternforge$Range;I)Z"⟩
def dkwX3_holdsRange_1 : List UInt8 := [182, 0, 69, 172]
abbrev dktX3_holdsRange_1 : List UInt8 := dkwX3_holdsRange_1 ++ []
def dkwX3_holdsRange_0 : List UInt8 := [42, 89, 180, 0, 58, 42, 180, 0, 62, 153, 0, 7, 4, 167, 0, 4, 3, 96, 181, 0, 58, 43, 28]
abbrev dktX3_holdsRange_0 : List UInt8 := dkwX3_holdsRange_0 ++ dktX3_holdsRange_1
theorem dksX3_holdsRange_0 : cX3_holdsRange.data.toList.drop 0 = dktX3_holdsRange_0 := by decide +kernel
theorem dksX3_holdsRange_1 : cX3_holdsRange.data.toList.drop 23 = dktX3_holdsRange_1 := dk_seg dksX3_holdsRange_0 23 rfl rfl
theorem dX3_holdsRange_0 : decode cX3_holdsRange 0 = .ok (.aload_n 0, 1) := dk_42 (dk_at dksX3_holdsRange_0 0 rfl rfl)
theorem dX3_holdsRange_1 : decode cX3_holdsRange 1 = .ok (.dup, 1) := dk_89 (dk_at dksX3_holdsRange_0 1 rfl rfl)
theorem dX3_holdsRange_2 : decode cX3_holdsRange 2 = .ok (.getfield 58, 3) := dk_180 0 58 (dk_at dksX3_holdsRange_0 2 rfl rfl)
theorem dX3_holdsRange_5 : decode cX3_holdsRange 5 = .ok (.aload_n 0, 1) := dk_42 (dk_at dksX3_holdsRange_0 5 rfl rfl)
theorem dX3_holdsRange_6 : decode cX3_holdsRange 6 = .ok (.getfield 62, 3) := dk_180 0 62 (dk_at dksX3_holdsRange_0 6 rfl rfl)
theorem dX3_holdsRange_9 : decode cX3_holdsRange 9 = .ok (.ifCond .eq 7, 3) := dk_153 0 7 (dk_at dksX3_holdsRange_0 9 rfl rfl)
theorem dX3_holdsRange_12 : decode cX3_holdsRange 12 = .ok (.iconst 1, 1) := dk_4 (dk_at dksX3_holdsRange_0 12 rfl rfl)
theorem dX3_holdsRange_13 : decode cX3_holdsRange 13 = .ok (.goto 4, 3) := dk_167 0 4 (dk_at dksX3_holdsRange_0 13 rfl rfl)
theorem dX3_holdsRange_16 : decode cX3_holdsRange 16 = .ok (.iconst 0, 1) := dk_3 (dk_at dksX3_holdsRange_0 16 rfl rfl)
theorem dX3_holdsRange_17 : decode cX3_holdsRange 17 = .ok (.iadd, 1) := dk_96 (dk_at dksX3_holdsRange_0 17 rfl rfl)
theorem dX3_holdsRange_18 : decode cX3_holdsRange 18 = .ok (.putfield 58, 3) := dk_181 0 58 (dk_at dksX3_holdsRange_0 18 rfl rfl)
theorem dX3_holdsRange_21 : decode cX3_holdsRange 21 = .ok (.aload_n 1, 1) := dk_43 (dk_at dksX3_holdsRange_0 21 rfl rfl)
theorem dX3_holdsRange_22 : decode cX3_holdsRange 22 = .ok (.iload_n 2, 1) := dk_28 (dk_at dksX3_holdsRange_0 22 rfl rfl)
theorem dX3_holdsRange_23 : decode cX3_holdsRange 23 = .ok (.invokevirtual 69, 3) := dk_182 0 69 (dk_at dksX3_holdsRange_1 0 rfl rfl)
theorem dX3_holdsRange_26 : decode cX3_holdsRange 26 = .ok (.ireturn, 1) := dk_172 (dk_at dksX3_holdsRange_1 3 rfl rfl)
abbrev cX3_guards : ByteArray := prog_13_method_10_code
def yX3_guards : MethodName := ⟨RX3, "guards", "(LPatternforge$Case;)I"⟩
def dkwX3_guards_1 : List UInt8 := [46, 182, 0, 109, 43, 180, 0, 112, 182, 0, 115, 172]
abbrev dktX3_guards_1 : List UInt8 := dkwX3_guards_1 ++ []
def dkwX3_guards_0 : List UInt8 := [43, 180, 0, 95, 199, 0, 7, 3, 167, 0, 27, 43, 180, 0, 95, 42, 42, 180, 0, 103, 43, 180, 0, 106]
abbrev dktX3_guards_0 : List UInt8 := dkwX3_guards_0 ++ dktX3_guards_1
theorem dksX3_guards_0 : cX3_guards.data.toList.drop 0 = dktX3_guards_0 := by decide +kernel
theorem dksX3_guards_1 : cX3_guards.data.toList.drop 24 = dktX3_guards_1 := dk_seg dksX3_guards_0 24 rfl rfl
theorem dX3_guards_0 : decode cX3_guards 0 = .ok (.aload_n 1, 1) := dk_43 (dk_at dksX3_guards_0 0 rfl rfl)
theorem dX3_guards_1 : decode cX3_guards 1 = .ok (.getfield 95, 3) := dk_180 0 95 (dk_at dksX3_guards_0 1 rfl rfl)
theorem dX3_guards_4 : decode cX3_guards 4 = .ok (.ifnonnull 7, 3) := dk_199 0 7 (dk_at dksX3_guards_0 4 rfl rfl)
theorem dX3_guards_7 : decode cX3_guards 7 = .ok (.iconst 0, 1) := dk_3 (dk_at dksX3_guards_0 7 rfl rfl)
theorem dX3_guards_8 : decode cX3_guards 8 = .ok (.goto 27, 3) := dk_167 0 27 (dk_at dksX3_guards_0 8 rfl rfl)
theorem dX3_guards_11 : decode cX3_guards 11 = .ok (.aload_n 1, 1) := dk_43 (dk_at dksX3_guards_0 11 rfl rfl)
theorem dX3_guards_12 : decode cX3_guards 12 = .ok (.getfield 95, 3) := dk_180 0 95 (dk_at dksX3_guards_0 12 rfl rfl)
theorem dX3_guards_15 : decode cX3_guards 15 = .ok (.aload_n 0, 1) := dk_42 (dk_at dksX3_guards_0 15 rfl rfl)
theorem dX3_guards_16 : decode cX3_guards 16 = .ok (.aload_n 0, 1) := dk_42 (dk_at dksX3_guards_0 16 rfl rfl)
theorem dX3_guards_17 : decode cX3_guards 17 = .ok (.getfield 103, 3) := dk_180 0 103 (dk_at dksX3_guards_0 17 rfl rfl)
theorem dX3_guards_20 : decode cX3_guards 20 = .ok (.aload_n 1, 1) := dk_43 (dk_at dksX3_guards_0 20 rfl rfl)
theorem dX3_guards_21 : decode cX3_guards 21 = .ok (.getfield 106, 3) := dk_180 0 106 (dk_at dksX3_guards_0 21 rfl rfl)
theorem dX3_guards_24 : decode cX3_guards 24 = .ok (.iaload, 1) := dk_46 (dk_at dksX3_guards_1 0 rfl rfl)
theorem dX3_guards_25 : decode cX3_guards 25 = .ok (.invokevirtual 109, 3) := dk_182 0 109 (dk_at dksX3_guards_1 1 rfl rfl)
theorem dX3_guards_28 : decode cX3_guards 28 = .ok (.aload_n 1, 1) := dk_43 (dk_at dksX3_guards_1 4 rfl rfl)
theorem dX3_guards_29 : decode cX3_guards 29 = .ok (.getfield 112, 3) := dk_180 0 112 (dk_at dksX3_guards_1 5 rfl rfl)
theorem dX3_guards_32 : decode cX3_guards 32 = .ok (.invokevirtual 115, 3) := dk_182 0 115 (dk_at dksX3_guards_1 8 rfl rfl)
theorem dX3_guards_35 : decode cX3_guards 35 = .ok (.ireturn, 1) := dk_172 (dk_at dksX3_guards_1 11 rfl rfl)
abbrev cX3_numberAt : ByteArray := prog_13_method_3_code
def yX3_numberAt : MethodName := ⟨RX3, "numberAt", "(I)I"⟩
def dkwX3_numberAt_1 : List UInt8 := [180, 0, 3, 180, 0, 28, 28, 182, 0, 36, 192, 0, 42, 182, 0, 52, 172]
abbrev dktX3_numberAt_1 : List UInt8 := dkwX3_numberAt_1 ++ []
def dkwX3_numberAt_0 : List UInt8 := [42, 27, 182, 0, 32, 61, 28, 17, 3, 232, 161, 0, 11, 28, 17, 3, 232, 100, 167, 0, 20, 42]
abbrev dktX3_numberAt_0 : List UInt8 := dkwX3_numberAt_0 ++ dktX3_numberAt_1
theorem dksX3_numberAt_0 : cX3_numberAt.data.toList.drop 0 = dktX3_numberAt_0 := by decide +kernel
theorem dksX3_numberAt_1 : cX3_numberAt.data.toList.drop 22 = dktX3_numberAt_1 := dk_seg dksX3_numberAt_0 22 rfl rfl
theorem dX3_numberAt_0 : decode cX3_numberAt 0 = .ok (.aload_n 0, 1) := dk_42 (dk_at dksX3_numberAt_0 0 rfl rfl)
theorem dX3_numberAt_1 : decode cX3_numberAt 1 = .ok (.iload_n 1, 1) := dk_27 (dk_at dksX3_numberAt_0 1 rfl rfl)
theorem dX3_numberAt_2 : decode cX3_numberAt 2 = .ok (.invokevirtual 32, 3) := dk_182 0 32 (dk_at dksX3_numberAt_0 2 rfl rfl)
theorem dX3_numberAt_5 : decode cX3_numberAt 5 = .ok (.istore_n 2, 1) := dk_61 (dk_at dksX3_numberAt_0 5 rfl rfl)
theorem dX3_numberAt_6 : decode cX3_numberAt 6 = .ok (.iload_n 2, 1) := dk_28 (dk_at dksX3_numberAt_0 6 rfl rfl)
theorem dX3_numberAt_7 : decode cX3_numberAt 7 = .ok (.sipush 1000, 3) := dk_17 3 232 (dk_at dksX3_numberAt_0 7 rfl rfl)
theorem dX3_numberAt_10 : decode cX3_numberAt 10 = .ok (.if_icmp .lt 11, 3) := dk_161 0 11 (dk_at dksX3_numberAt_0 10 rfl rfl)
theorem dX3_numberAt_13 : decode cX3_numberAt 13 = .ok (.iload_n 2, 1) := dk_28 (dk_at dksX3_numberAt_0 13 rfl rfl)
theorem dX3_numberAt_14 : decode cX3_numberAt 14 = .ok (.sipush 1000, 3) := dk_17 3 232 (dk_at dksX3_numberAt_0 14 rfl rfl)
theorem dX3_numberAt_17 : decode cX3_numberAt 17 = .ok (.isub, 1) := dk_100 (dk_at dksX3_numberAt_0 17 rfl rfl)
theorem dX3_numberAt_18 : decode cX3_numberAt 18 = .ok (.goto 20, 3) := dk_167 0 20 (dk_at dksX3_numberAt_0 18 rfl rfl)
theorem dX3_numberAt_21 : decode cX3_numberAt 21 = .ok (.aload_n 0, 1) := dk_42 (dk_at dksX3_numberAt_0 21 rfl rfl)
theorem dX3_numberAt_22 : decode cX3_numberAt 22 = .ok (.getfield 3, 3) := dk_180 0 3 (dk_at dksX3_numberAt_1 0 rfl rfl)
theorem dX3_numberAt_25 : decode cX3_numberAt 25 = .ok (.getfield 28, 3) := dk_180 0 28 (dk_at dksX3_numberAt_1 3 rfl rfl)
theorem dX3_numberAt_28 : decode cX3_numberAt 28 = .ok (.iload_n 2, 1) := dk_28 (dk_at dksX3_numberAt_1 6 rfl rfl)
theorem dX3_numberAt_29 : decode cX3_numberAt 29 = .ok (.invokevirtual 36, 3) := dk_182 0 36 (dk_at dksX3_numberAt_1 7 rfl rfl)
theorem dX3_numberAt_32 : decode cX3_numberAt 32 = .ok (.checkcast 42, 3) := dk_192 0 42 (dk_at dksX3_numberAt_1 10 rfl rfl)
theorem dX3_numberAt_35 : decode cX3_numberAt 35 = .ok (.invokevirtual 52, 3) := dk_182 0 52 (dk_at dksX3_numberAt_1 13 rfl rfl)
theorem dX3_numberAt_38 : decode cX3_numberAt 38 = .ok (.ireturn, 1) := dk_172 (dk_at dksX3_numberAt_1 16 rfl rfl)
abbrev cX3_binds : ByteArray := prog_13_method_11_code
def yX3_binds : MethodName := ⟨RX3, "binds", "(LPatternforge$Case;)V"⟩
def dkwX3_binds_0 : List UInt8 := [42, 3, 181, 0, 62, 42, 182, 0, 91, 42, 43, 182, 0, 118, 61, 42, 4, 181, 0, 62, 177]
abbrev dktX3_binds_0 : List UInt8 := dkwX3_binds_0 ++ []
theorem dksX3_binds_0 : cX3_binds.data.toList.drop 0 = dktX3_binds_0 := by decide +kernel
theorem dX3_binds_0 : decode cX3_binds 0 = .ok (.aload_n 0, 1) := dk_42 (dk_at dksX3_binds_0 0 rfl rfl)
theorem dX3_binds_1 : decode cX3_binds 1 = .ok (.iconst 0, 1) := dk_3 (dk_at dksX3_binds_0 1 rfl rfl)
theorem dX3_binds_2 : decode cX3_binds 2 = .ok (.putfield 62, 3) := dk_181 0 62 (dk_at dksX3_binds_0 2 rfl rfl)
theorem dX3_binds_5 : decode cX3_binds 5 = .ok (.aload_n 0, 1) := dk_42 (dk_at dksX3_binds_0 5 rfl rfl)
theorem dX3_binds_6 : decode cX3_binds 6 = .ok (.invokevirtual 91, 3) := dk_182 0 91 (dk_at dksX3_binds_0 6 rfl rfl)
theorem dX3_binds_9 : decode cX3_binds 9 = .ok (.aload_n 0, 1) := dk_42 (dk_at dksX3_binds_0 9 rfl rfl)
theorem dX3_binds_10 : decode cX3_binds 10 = .ok (.aload_n 1, 1) := dk_43 (dk_at dksX3_binds_0 10 rfl rfl)
theorem dX3_binds_11 : decode cX3_binds 11 = .ok (.invokevirtual 118, 3) := dk_182 0 118 (dk_at dksX3_binds_0 11 rfl rfl)
theorem dX3_binds_14 : decode cX3_binds 14 = .ok (.istore_n 2, 1) := dk_61 (dk_at dksX3_binds_0 14 rfl rfl)
theorem dX3_binds_15 : decode cX3_binds 15 = .ok (.aload_n 0, 1) := dk_42 (dk_at dksX3_binds_0 15 rfl rfl)
theorem dX3_binds_16 : decode cX3_binds 16 = .ok (.iconst 1, 1) := dk_4 (dk_at dksX3_binds_0 16 rfl rfl)
theorem dX3_binds_17 : decode cX3_binds 17 = .ok (.putfield 62, 3) := dk_181 0 62 (dk_at dksX3_binds_0 17 rfl rfl)
theorem dX3_binds_20 : decode cX3_binds 20 = .ok (.return_, 1) := dk_177 (dk_at dksX3_binds_0 20 rfl rfl)
theorem q101 : (Jvm.Cond.initialized "Patternforge$Running") ∈ lw_all := lw_g (lw_at lw_m1 6 rfl) rfl
theorem q174 : (Jvm.Cond.instantiable "Patternforge$Running" (10 : Nat)) ∈ lw_all := lw_g (lw_at lw_m1 79 rfl) rfl
theorem q176 : (Jvm.Cond.instanceMethod ({ cls := "Patternforge$Running", name := "<init>", desc := "(LPatternforge;)V" } : Jvm.MethodName)) ∈ lw_all := lw_g (lw_at lw_m1 81 rfl) rfl
theorem q177 : (Jvm.Cond.code ({ cls := "Patternforge$Running", name := "<init>", desc := "(LPatternforge;)V" } : Jvm.MethodName) prog_13_method_1_code (2 : Nat) (Option.none : Option Jvm.ClassFile.FieldType)) ∈ lw_all := lw_g (lw_at lw_m1 82 rfl) rfl
theorem q178 : (Jvm.Cond.methodLinkNest "Patternforge$Running" (9 : Nat) ({ cls := "Patternforge$Matching", name := "<init>", desc := "(LPatternforge;)V" } : Jvm.MethodName) "Patternforge") ∈ lw_tbl := lw_at lw_m1 83 rfl
theorem q182 : (Jvm.Cond.fieldLink "Patternforge$Running" (15 : Nat) "Patternforge$Running" "values" "[I") ∈ lw_all := lw_g (lw_at lw_m1 87 rfl) rfl
theorem q184 : (Jvm.Cond.fieldLink "Patternforge$Running" (19 : Nat) "Patternforge$Running" "ranView" "[I") ∈ lw_all := lw_g (lw_at lw_m1 89 rfl) rfl
theorem q186 : (Jvm.Cond.fieldLink "Patternforge$Running" (22 : Nat) "Patternforge$Running" "ranPlace" "[I") ∈ lw_all := lw_g (lw_at lw_m1 91 rfl) rfl
theorem q188 : (Jvm.Cond.fieldLink "Patternforge$Running" (25 : Nat) "Patternforge$Running" "gave" "[I") ∈ lw_all := lw_g (lw_at lw_m1 93 rfl) rfl
theorem q190 : (Jvm.Cond.fieldLink "Patternforge$Running" (75 : Nat) "Patternforge$Running" "ran" "I") ∈ lw_all := lw_g (lw_at lw_m1 95 rfl) rfl
theorem q192 : (Jvm.Cond.fieldLink "Patternforge$Running" (58 : Nat) "Patternforge$Running" "tests" "I") ∈ lw_all := lw_g (lw_at lw_m1 97 rfl) rfl
theorem q196 : (Jvm.Cond.fieldLink "Patternforge$Running" (62 : Nat) "Patternforge$Running" "counts" "Z") ∈ lw_all := lw_g (lw_at lw_m1 101 rfl) rfl
theorem q197 : (Jvm.Cond.fieldLink "Patternforge$Running" (3 : Nat) "Patternforge$Running" "this$0" "LPatternforge;") ∈ lw_all := lw_g (lw_at lw_m1 102 rfl) rfl
theorem q199 : (Jvm.Cond.fieldLinkNest "Patternforge$Running" (103 : Nat) "Patternforge$Matching" "places" "[I" "Patternforge") ∈ lw_tbl := lw_at lw_m1 104 rfl
theorem q202 : (Jvm.Cond.laysFinal "Patternforge$Running" "Patternforge$Running" "values" "[I") ∈ lw_all := lw_g (lw_at lw_m1 107 rfl) rfl
theorem q203 : (Jvm.Cond.soleField "Patternforge$Running" "values") ∈ lw_all := lw_g (lw_at lw_m1 108 rfl) rfl
theorem q204 : (Jvm.Cond.laysFinal "Patternforge$Running" "Patternforge$Running" "ranView" "[I") ∈ lw_all := lw_g (lw_at lw_m1 109 rfl) rfl
theorem q205 : (Jvm.Cond.soleField "Patternforge$Running" "ranView") ∈ lw_all := lw_g (lw_at lw_m1 110 rfl) rfl
theorem q206 : (Jvm.Cond.laysFinal "Patternforge$Running" "Patternforge$Running" "ranPlace" "[I") ∈ lw_all := lw_g (lw_at lw_m1 111 rfl) rfl
theorem q207 : (Jvm.Cond.soleField "Patternforge$Running" "ranPlace") ∈ lw_all := lw_g (lw_at lw_m1 112 rfl) rfl
theorem q208 : (Jvm.Cond.laysFinal "Patternforge$Running" "Patternforge$Running" "gave" "[I") ∈ lw_all := lw_g (lw_at lw_m1 113 rfl) rfl
theorem q209 : (Jvm.Cond.soleField "Patternforge$Running" "gave") ∈ lw_all := lw_g (lw_at lw_m1 114 rfl) rfl
theorem q210 : (Jvm.Cond.lays "Patternforge$Running" "Patternforge$Running" "ran" "I") ∈ lw_all := lw_g (lw_at lw_m1 115 rfl) rfl
theorem q211 : (Jvm.Cond.soleField "Patternforge$Running" "ran") ∈ lw_all := lw_g (lw_at lw_m1 116 rfl) rfl
theorem q212 : (Jvm.Cond.lays "Patternforge$Running" "Patternforge$Running" "tests" "I") ∈ lw_all := lw_g (lw_at lw_m1 117 rfl) rfl
theorem q213 : (Jvm.Cond.soleField "Patternforge$Running" "tests") ∈ lw_all := lw_g (lw_at lw_m1 118 rfl) rfl
theorem q214 : (Jvm.Cond.lays "Patternforge$Running" "Patternforge$Running" "counts" "Z") ∈ lw_all := lw_g (lw_at lw_m1 119 rfl) rfl
theorem q215 : (Jvm.Cond.soleField "Patternforge$Running" "counts") ∈ lw_all := lw_g (lw_at lw_m1 120 rfl) rfl
theorem q216 : (Jvm.Cond.laysFinal "Patternforge$Running" "Patternforge$Running" "this$0" "LPatternforge;") ∈ lw_all := lw_g (lw_at lw_m1 121 rfl) rfl
theorem q217 : (Jvm.Cond.soleField "Patternforge$Running" "this$0") ∈ lw_all := lw_g (lw_at lw_m1 122 rfl) rfl
theorem q218 : (Jvm.Cond.laysFinal "Patternforge$Running" "Patternforge$Matching" "places" "[I") ∈ lw_all := lw_g (lw_at lw_m1 123 rfl) rfl
theorem q220 : (Jvm.Cond.laysFinal "Patternforge$Running" "Patternforge$Matching" "this$0" "LPatternforge;") ∈ lw_all := lw_g (lw_at lw_m1 125 rfl) rfl
theorem q222 : (Jvm.Cond.superclass "Patternforge$Running" "Patternforge$Matching") ∈ lw_all := lw_g (lw_at lw_m1 127 rfl) rfl
theorem q370 : (Jvm.Cond.selects "Patternforge$Running" ({ cls := "java/lang/Object", name := "getClass", desc := "()Ljava/lang/Class;" } : Jvm.MethodName) ({ cls := "java/lang/Object", name := "getClass", desc := "()Ljava/lang/Class;" } : Jvm.MethodName)) ∈ lw_all := lw_g (lw_at lw_m2 35 rfl) rfl
theorem q405 : (Jvm.Cond.sameMethod "Patternforge$Running" "Patternforge$Matching" "clearNames" "()V") ∈ lw_all := lw_g (lw_at lw_m2 70 rfl) rfl
theorem q407 : (Jvm.Cond.selects "Patternforge$Running" ({ cls := "Patternforge$Running", name := "clearNames", desc := "()V" } : Jvm.MethodName) ({ cls := "Patternforge$Matching", name := "clearNames", desc := "()V" } : Jvm.MethodName)) ∈ lw_all := lw_g (lw_at lw_m2 72 rfl) rfl
theorem q412 : (Jvm.Cond.fieldLinkNest "Patternforge$Running" (28 : Nat) "Patternforge" "allValues" "Ljava/util/ArrayList;" "Patternforge") ∈ lw_tbl := lw_at lw_m2 77 rfl
theorem q415 : (Jvm.Cond.fieldLinkNest "Patternforge$Running" (78 : Nat) "Patternforge" "views" "[[I" "Patternforge") ∈ lw_tbl := lw_at lw_m2 80 rfl
theorem q960 : (Jvm.Cond.instanceMethod ({ cls := "Patternforge$Running", name := "begin", desc := "()V" } : Jvm.MethodName)) ∈ lw_all := lw_g (lw_at lw_m4 145 rfl) rfl
theorem q961 : (Jvm.Cond.selects "Patternforge$Running" ({ cls := "Patternforge$Running", name := "begin", desc := "()V" } : Jvm.MethodName) ({ cls := "Patternforge$Running", name := "begin", desc := "()V" } : Jvm.MethodName)) ∈ lw_all := lw_g (lw_at lw_m4 146 rfl) rfl
theorem q962 : (Jvm.Cond.code ({ cls := "Patternforge$Running", name := "begin", desc := "()V" } : Jvm.MethodName) prog_13_method_9_code (1 : Nat) (Option.none : Option Jvm.ClassFile.FieldType)) ∈ lw_all := lw_g (lw_at lw_m4 147 rfl) rfl
theorem q963 : (Jvm.Cond.methodLink "Patternforge$Running" (91 : Nat) ({ cls := "Patternforge$Running", name := "clearNames", desc := "()V" } : Jvm.MethodName)) ∈ lw_all := lw_g (lw_at lw_m4 148 rfl) rfl
theorem q985 : (Jvm.Cond.fieldLinkNest "Patternforge$Running" (95 : Nat) "Patternforge$Case" "guard" "LPatternforge$Test;" "Patternforge") ∈ lw_tbl := lw_at lw_m4 170 rfl
theorem q987 : (Jvm.Cond.fieldLinkNest "Patternforge$Running" (106 : Nat) "Patternforge$Case" "name" "I" "Patternforge") ∈ lw_tbl := lw_at lw_m4 172 rfl
theorem q989 : (Jvm.Cond.fieldLinkNest "Patternforge$Running" (112 : Nat) "Patternforge$Case" "than" "I" "Patternforge") ∈ lw_tbl := lw_at lw_m4 174 rfl
theorem q1399 : (Jvm.Cond.selects "Patternforge$Running" ({ cls := "Patternforge$Matching", name := "at", desc := "(II)I" } : Jvm.MethodName) ({ cls := "Patternforge$Running", name := "at", desc := "(II)I" } : Jvm.MethodName)) ∈ lw_all := lw_g (lw_at lw_m6 104 rfl) rfl
theorem q1400 : (Jvm.Cond.instanceMethod ({ cls := "Patternforge$Running", name := "at", desc := "(II)I" } : Jvm.MethodName)) ∈ lw_all := lw_g (lw_at lw_m6 105 rfl) rfl
theorem q1401 : (Jvm.Cond.code ({ cls := "Patternforge$Running", name := "at", desc := "(II)I" } : Jvm.MethodName) prog_13_method_6_code (3 : Nat) (Option.some Jvm.ClassFile.FieldType.int)) ∈ lw_all := lw_g (lw_at lw_m6 106 rfl) rfl
theorem q1402 : (Jvm.Cond.methodLink "Patternforge$Running" (66 : Nat) ({ cls := "Patternforge$Running", name := "look", desc := "(I)I" } : Jvm.MethodName)) ∈ lw_all := lw_g (lw_at lw_m6 107 rfl) rfl
theorem q1403 : (Jvm.Cond.instanceMethod ({ cls := "Patternforge$Running", name := "look", desc := "(I)I" } : Jvm.MethodName)) ∈ lw_all := lw_g (lw_at lw_m6 108 rfl) rfl
theorem q1404 : (Jvm.Cond.selects "Patternforge$Running" ({ cls := "Patternforge$Running", name := "look", desc := "(I)I" } : Jvm.MethodName) ({ cls := "Patternforge$Running", name := "look", desc := "(I)I" } : Jvm.MethodName)) ∈ lw_all := lw_g (lw_at lw_m6 109 rfl) rfl
theorem q1405 : (Jvm.Cond.code ({ cls := "Patternforge$Running", name := "look", desc := "(I)I" } : Jvm.MethodName) prog_13_method_5_code (3 : Nat) (Option.some Jvm.ClassFile.FieldType.int)) ∈ lw_all := lw_g (lw_at lw_m6 110 rfl) rfl
theorem q1406 : (Jvm.Cond.methodLink "Patternforge$Running" (32 : Nat) ({ cls := "Patternforge$Running", name := "thing", desc := "(I)I" } : Jvm.MethodName)) ∈ lw_all := lw_g (lw_at lw_m6 111 rfl) rfl
theorem q1407 : (Jvm.Cond.privateMethod ({ cls := "Patternforge$Running", name := "thing", desc := "(I)I" } : Jvm.MethodName)) ∈ lw_tbl := lw_at lw_m6 112 rfl
theorem q1408 : (Jvm.Cond.instanceMethod ({ cls := "Patternforge$Running", name := "thing", desc := "(I)I" } : Jvm.MethodName)) ∈ lw_all := lw_g (lw_at lw_m6 113 rfl) rfl
theorem q1409 : (Jvm.Cond.code ({ cls := "Patternforge$Running", name := "thing", desc := "(I)I" } : Jvm.MethodName) prog_13_method_2_code (4 : Nat) (Option.some Jvm.ClassFile.FieldType.int)) ∈ lw_all := lw_g (lw_at lw_m6 114 rfl) rfl
theorem q1410 : (Jvm.Cond.methodLink "Patternforge$Running" (36 : Nat) ({ cls := "java/util/ArrayList", name := "get", desc := "(I)Ljava/lang/Object;" } : Jvm.MethodName)) ∈ lw_all := lw_g (lw_at lw_m6 115 rfl) rfl
theorem q1411 : (Jvm.Cond.classLink "Patternforge$Running" (42 : Nat) "Patternforge$Value") ∈ lw_all := lw_g (lw_at lw_m6 116 rfl) rfl
theorem q1412 : (Jvm.Cond.methodLink "Patternforge$Running" (44 : Nat) ({ cls := "Patternforge$Value", name := "parts", desc := "()[I" } : Jvm.MethodName)) ∈ lw_all := lw_g (lw_at lw_m6 117 rfl) rfl
theorem q1416 : (Jvm.Cond.methodLink "Patternforge$Running" (48 : Nat) ({ cls := "Patternforge$Value", name := "kind", desc := "()I" } : Jvm.MethodName)) ∈ lw_all := lw_g (lw_at lw_m6 121 rfl) rfl
theorem q1417 : (Jvm.Cond.methodLink "Patternforge$Running" (52 : Nat) ({ cls := "Patternforge$Value", name := "first", desc := "()I" } : Jvm.MethodName)) ∈ lw_all := lw_g (lw_at lw_m6 122 rfl) rfl
theorem q1459 : (Jvm.Cond.selects "Patternforge$Running" ({ cls := "Patternforge$Matching", name := "seen", desc := "(II)I" } : Jvm.MethodName) ({ cls := "Patternforge$Running", name := "seen", desc := "(II)I" } : Jvm.MethodName)) ∈ lw_all := lw_g (lw_at lw_m6 164 rfl) rfl
theorem q1460 : (Jvm.Cond.instanceMethod ({ cls := "Patternforge$Running", name := "seen", desc := "(II)I" } : Jvm.MethodName)) ∈ lw_all := lw_g (lw_at lw_m6 165 rfl) rfl
theorem q1461 : (Jvm.Cond.code ({ cls := "Patternforge$Running", name := "seen", desc := "(II)I" } : Jvm.MethodName) prog_13_method_8_code (4 : Nat) (Option.some Jvm.ClassFile.FieldType.int)) ∈ lw_all := lw_g (lw_at lw_m6 166 rfl) rfl
theorem q1462 : (Jvm.Cond.methodLink "Patternforge$Running" (82 : Nat) ({ cls := "Patternforge$Running", name := "measureAt", desc := "(I)I" } : Jvm.MethodName)) ∈ lw_all := lw_g (lw_at lw_m6 167 rfl) rfl
theorem q1463 : (Jvm.Cond.privateMethod ({ cls := "Patternforge$Running", name := "measureAt", desc := "(I)I" } : Jvm.MethodName)) ∈ lw_tbl := lw_at lw_m6 168 rfl
theorem q1464 : (Jvm.Cond.instanceMethod ({ cls := "Patternforge$Running", name := "measureAt", desc := "(I)I" } : Jvm.MethodName)) ∈ lw_all := lw_g (lw_at lw_m6 169 rfl) rfl
theorem q1465 : (Jvm.Cond.code ({ cls := "Patternforge$Running", name := "measureAt", desc := "(I)I" } : Jvm.MethodName) prog_13_method_4_code (3 : Nat) (Option.some Jvm.ClassFile.FieldType.int)) ∈ lw_all := lw_g (lw_at lw_m6 170 rfl) rfl
theorem q1466 : (Jvm.Cond.methodLink "Patternforge$Running" (55 : Nat) ({ cls := "Patternforge$Value", name := "measure", desc := "()I" } : Jvm.MethodName)) ∈ lw_all := lw_g (lw_at lw_m6 171 rfl) rfl
theorem q1467 : (Jvm.Cond.methodLink "Patternforge$Running" (85 : Nat) ({ cls := "java/lang/Math", name := "floorMod", desc := "(II)I" } : Jvm.MethodName)) ∈ lw_all := lw_g (lw_at lw_m6 172 rfl) rfl
theorem q1484 : (Jvm.Cond.selects "Patternforge$Running" ({ cls := "Patternforge$Matching", name := "holdsRange", desc := "(LPatternforge$Range;I)Z" } : Jvm.MethodName) ({ cls := "Patternforge$Running", name := "holdsRange", desc := "(LPatternforge$Range;I)Z" } : Jvm.MethodName)) ∈ lw_all := lw_g (lw_at lw_m6 189 rfl) rfl
theorem q1485 : (Jvm.Cond.instanceMethod ({ cls := "Patternforge$Running", name := "holdsRange", desc := "(LPatternforge$Range;I)Z" } : Jvm.MethodName)) ∈ lw_all := lw_g (lw_at lw_m6 190 rfl) rfl
theorem q1486 : (Jvm.Cond.code ({ cls := "Patternforge$Running", name := "holdsRange", desc := "(LPatternforge$Range;I)Z" } : Jvm.MethodName) prog_13_method_7_code (3 : Nat) (Option.some Jvm.ClassFile.FieldType.boolean)) ∈ lw_all := lw_g (lw_at lw_m6 191 rfl) rfl
theorem q1487 : (Jvm.Cond.methodLink "Patternforge$Running" (69 : Nat) ({ cls := "Patternforge$Range", name := "holds", desc := "(I)Z" } : Jvm.MethodName)) ∈ lw_all := lw_g (lw_at lw_m6 192 rfl) rfl
theorem q1632 : (Jvm.Cond.sameMethod "Patternforge$Running" "Patternforge$Matching" "matches" "(LPatternforge$Case;)I") ∈ lw_all := lw_g (lw_at lw_m7 97 rfl) rfl
theorem q1633 : (Jvm.Cond.selects "Patternforge$Running" ({ cls := "Patternforge$Running", name := "matches", desc := "(LPatternforge$Case;)I" } : Jvm.MethodName) ({ cls := "Patternforge$Matching", name := "matches", desc := "(LPatternforge$Case;)I" } : Jvm.MethodName)) ∈ lw_all := lw_g (lw_at lw_m7 98 rfl) rfl
theorem q1635 : (Jvm.Cond.instanceMethod ({ cls := "Patternforge$Running", name := "guards", desc := "(LPatternforge$Case;)I" } : Jvm.MethodName)) ∈ lw_all := lw_g (lw_at lw_m7 100 rfl) rfl
theorem q1636 : (Jvm.Cond.selects "Patternforge$Running" ({ cls := "Patternforge$Running", name := "guards", desc := "(LPatternforge$Case;)I" } : Jvm.MethodName) ({ cls := "Patternforge$Running", name := "guards", desc := "(LPatternforge$Case;)I" } : Jvm.MethodName)) ∈ lw_all := lw_g (lw_at lw_m7 101 rfl) rfl
theorem q1637 : (Jvm.Cond.code ({ cls := "Patternforge$Running", name := "guards", desc := "(LPatternforge$Case;)I" } : Jvm.MethodName) prog_13_method_10_code (2 : Nat) (Option.some Jvm.ClassFile.FieldType.int)) ∈ lw_all := lw_g (lw_at lw_m7 102 rfl) rfl
theorem q1638 : (Jvm.Cond.methodLink "Patternforge$Running" (109 : Nat) ({ cls := "Patternforge$Running", name := "numberAt", desc := "(I)I" } : Jvm.MethodName)) ∈ lw_all := lw_g (lw_at lw_m7 103 rfl) rfl
theorem q1639 : (Jvm.Cond.privateMethod ({ cls := "Patternforge$Running", name := "numberAt", desc := "(I)I" } : Jvm.MethodName)) ∈ lw_tbl := lw_at lw_m7 104 rfl
theorem q1640 : (Jvm.Cond.instanceMethod ({ cls := "Patternforge$Running", name := "numberAt", desc := "(I)I" } : Jvm.MethodName)) ∈ lw_all := lw_g (lw_at lw_m7 105 rfl) rfl
theorem q1641 : (Jvm.Cond.code ({ cls := "Patternforge$Running", name := "numberAt", desc := "(I)I" } : Jvm.MethodName) prog_13_method_3_code (3 : Nat) (Option.some Jvm.ClassFile.FieldType.int)) ∈ lw_all := lw_g (lw_at lw_m7 106 rfl) rfl
theorem q1642 : (Jvm.Cond.methodLink "Patternforge$Running" (115 : Nat) ({ cls := "Patternforge$Test", name := "goesOut", desc := "(II)I" } : Jvm.MethodName)) ∈ lw_all := lw_g (lw_at lw_m7 107 rfl) rfl
theorem q1666 : (Jvm.Cond.instanceMethod ({ cls := "Patternforge$Running", name := "binds", desc := "(LPatternforge$Case;)V" } : Jvm.MethodName)) ∈ lw_all := lw_g (lw_at lw_m7 131 rfl) rfl
theorem q1667 : (Jvm.Cond.selects "Patternforge$Running" ({ cls := "Patternforge$Running", name := "binds", desc := "(LPatternforge$Case;)V" } : Jvm.MethodName) ({ cls := "Patternforge$Running", name := "binds", desc := "(LPatternforge$Case;)V" } : Jvm.MethodName)) ∈ lw_all := lw_g (lw_at lw_m7 132 rfl) rfl
theorem q1668 : (Jvm.Cond.code ({ cls := "Patternforge$Running", name := "binds", desc := "(LPatternforge$Case;)V" } : Jvm.MethodName) prog_13_method_11_code (3 : Nat) (Option.none : Option Jvm.ClassFile.FieldType)) ∈ lw_all := lw_g (lw_at lw_m7 133 rfl) rfl
theorem q1669 : (Jvm.Cond.methodLink "Patternforge$Running" (118 : Nat) ({ cls := "Patternforge$Running", name := "matches", desc := "(LPatternforge$Case;)I" } : Jvm.MethodName)) ∈ lw_all := lw_g (lw_at lw_m7 134 rfl) rfl
theorem q2296 : (Jvm.Cond.selects "Patternforge$Running" ({ cls := "Patternforge$Running", name := "at", desc := "(II)I" } : Jvm.MethodName) ({ cls := "Patternforge$Running", name := "at", desc := "(II)I" } : Jvm.MethodName)) ∈ lw_all := lw_g (lw_at lw_m10 41 rfl) rfl
theorem q2297 : (Jvm.Cond.selects "Patternforge$Running" ({ cls := "Patternforge$Running", name := "seen", desc := "(II)I" } : Jvm.MethodName) ({ cls := "Patternforge$Running", name := "seen", desc := "(II)I" } : Jvm.MethodName)) ∈ lw_all := lw_g (lw_at lw_m10 42 rfl) rfl
theorem q2304 : (Jvm.Cond.castable "Patternforge$Running" "java/lang/Object") ∈ lw_tbl := lw_at lw_m10 49 rfl
theorem in_X3 : ∀ w ∈ wsX30, w ∈ lw_all := lw_in wsX30 [218, 220, 202, 204, 206, 208, 210, 212, 214, 216] (by decide +kernel) (by decide +kernel)

/-! Patternforge$Tree -/
set_option maxRecDepth 100000
def RX4 : String := "Patternforge$Tree"
def TX4 : u_T := fun k => match k with
  | 0 => ("Patternforge$Matching", "places", "[I", true)
  | 1 => ("Patternforge$Matching", "this$0", "LPatternforge;", true)
  | 2 => ("Patternforge$Tree", "byMost", "Z", true)
  | 3 => ("Patternforge$Tree", "what", "[I", true)
  | 4 => ("Patternforge$Tree", "place", "[I", true)
  | 5 => ("Patternforge$Tree", "of", "[I", true)
  | 6 => ("Patternforge$Tree", "behind", "[[I", true)
  | 7 => ("Patternforge$Tree", "branches", "[I", true)
  | 8 => ("Patternforge$Tree", "same", "[I", true)
  | 9 => ("Patternforge$Tree", "many", "I", false)
  | 10 => ("Patternforge$Tree", "isLarge", "Z", false)
  | 11 => ("Patternforge$Tree", "isBuilt", "Z", false)
  | 12 => ("Patternforge$Tree", "knownPlace", "[I", true)
  | 13 => ("Patternforge$Tree", "knownView", "[I", true)
  | 14 => ("Patternforge$Tree", "knownNumber", "[I", true)
  | 15 => ("Patternforge$Tree", "known", "I", false)
  | 16 => ("Patternforge$Tree", "failed", "I", false)
  | 17 => ("Patternforge$Tree", "askedPlace", "I", false)
  | 18 => ("Patternforge$Tree", "askedOf", "I", false)
  | 19 => ("Patternforge$Tree", "askedView", "Z", false)
  | 20 => ("Patternforge$Tree", "needPlace", "[I", true)
  | 21 => ("Patternforge$Tree", "needKind", "[I", true)
  | 22 => ("Patternforge$Tree", "needCases", "[I", true)
  | 23 => ("Patternforge$Tree", "needs", "I", false)
  | _ => ("Patternforge$Tree", "this$0", "LPatternforge;", true)
def tyX4 : Nat → FieldType := fun k => match k with
  | 0 => .array .int
  | 1 => .object "Patternforge"
  | 2 => .boolean
  | 3 => .array .int
  | 4 => .array .int
  | 5 => .array .int
  | 6 => .array (.array .int)
  | 7 => .array .int
  | 8 => .array .int
  | 9 => .int
  | 10 => .boolean
  | 11 => .boolean
  | 12 => .array .int
  | 13 => .array .int
  | 14 => .array .int
  | 15 => .int
  | 16 => .int
  | 17 => .int
  | 18 => .int
  | 19 => .boolean
  | 20 => .array .int
  | 21 => .array .int
  | 22 => .array .int
  | 23 => .int
  | _ => .object "Patternforge"
abbrev wsX40 : List Cond := u_ws RX4 TX4 25
-- two fields of one name: no nmX4
set_option maxRecDepth 100000 in
theorem tyX4_ok : ∀ k, k < 25 → parseFieldDescriptor (TX4 k).2.2.1 = some (tyX4 k) := by decide +kernel
abbrev cX4_init : ByteArray := prog_20_method_1_code
def yX4_init : MethodName := ⟨RX4, "<init>", "(LPatternforge;Z)V"⟩
def dkwX4_init_5 : List UInt8 := [17, 2, 88, 188, 10, 181, 0, 51, 42, 28, 181, 0, 54, 177]
abbrev dktX4_init_5 : List UInt8 := dkwX4_init_5 ++ []
def dkwX4_init_4 : List UInt8 := [181, 0, 42, 42, 17, 2, 88, 188, 10, 181, 0, 45, 42, 17, 2, 88, 188, 10, 181, 0, 48, 42]
abbrev dktX4_init_4 : List UInt8 := dkwX4_init_4 ++ dktX4_init_5
def dkwX4_init_3 : List UInt8 := [17, 2, 88, 188, 10, 181, 0, 36, 42, 17, 2, 88, 188, 10, 181, 0, 39, 42, 17, 2, 88, 188, 10]
abbrev dktX4_init_3 : List UInt8 := dkwX4_init_3 ++ dktX4_init_4
def dkwX4_init_2 : List UInt8 := [181, 0, 27, 42, 17, 1, 244, 188, 10, 181, 0, 30, 42, 17, 1, 244, 188, 10, 181, 0, 33, 42]
abbrev dktX4_init_2 : List UInt8 := dkwX4_init_2 ++ dktX4_init_3
def dkwX4_init_1 : List UInt8 := [188, 10, 181, 0, 19, 42, 17, 1, 244, 188, 10, 181, 0, 22, 42, 17, 1, 244, 16, 10, 197, 0, 25, 2]
abbrev dktX4_init_1 : List UInt8 := dkwX4_init_1 ++ dktX4_init_2
def dkwX4_init_0 : List UInt8 := [42, 43, 181, 0, 3, 42, 43, 183, 0, 9, 42, 17, 1, 244, 188, 10, 181, 0, 15, 42, 17, 1, 244]
abbrev dktX4_init_0 : List UInt8 := dkwX4_init_0 ++ dktX4_init_1
theorem dksX4_init_0 : cX4_init.data.toList.drop 0 = dktX4_init_0 := by decide +kernel
theorem dksX4_init_1 : cX4_init.data.toList.drop 23 = dktX4_init_1 := dk_seg dksX4_init_0 23 rfl rfl
theorem dksX4_init_2 : cX4_init.data.toList.drop 47 = dktX4_init_2 := dk_seg dksX4_init_1 24 rfl rfl
theorem dksX4_init_3 : cX4_init.data.toList.drop 69 = dktX4_init_3 := dk_seg dksX4_init_2 22 rfl rfl
theorem dksX4_init_4 : cX4_init.data.toList.drop 92 = dktX4_init_4 := dk_seg dksX4_init_3 23 rfl rfl
theorem dksX4_init_5 : cX4_init.data.toList.drop 114 = dktX4_init_5 := dk_seg dksX4_init_4 22 rfl rfl
theorem dX4_init_0 : decode cX4_init 0 = .ok (.aload_n 0, 1) := dk_42 (dk_at dksX4_init_0 0 rfl rfl)
theorem dX4_init_1 : decode cX4_init 1 = .ok (.aload_n 1, 1) := dk_43 (dk_at dksX4_init_0 1 rfl rfl)
theorem dX4_init_2 : decode cX4_init 2 = .ok (.putfield 3, 3) := dk_181 0 3 (dk_at dksX4_init_0 2 rfl rfl)
theorem dX4_init_5 : decode cX4_init 5 = .ok (.aload_n 0, 1) := dk_42 (dk_at dksX4_init_0 5 rfl rfl)
theorem dX4_init_6 : decode cX4_init 6 = .ok (.aload_n 1, 1) := dk_43 (dk_at dksX4_init_0 6 rfl rfl)
theorem dX4_init_7 : decode cX4_init 7 = .ok (.invokespecial 9, 3) := dk_183 0 9 (dk_at dksX4_init_0 7 rfl rfl)
theorem dX4_init_10 : decode cX4_init 10 = .ok (.aload_n 0, 1) := dk_42 (dk_at dksX4_init_0 10 rfl rfl)
theorem dX4_init_11 : decode cX4_init 11 = .ok (.sipush 500, 3) := dk_17 1 244 (dk_at dksX4_init_0 11 rfl rfl)
theorem dX4_init_14 : decode cX4_init 14 = .ok (.newarray .int, 2) := dk_188_10 (dk_at dksX4_init_0 14 rfl rfl)
theorem dX4_init_16 : decode cX4_init 16 = .ok (.putfield 15, 3) := dk_181 0 15 (dk_at dksX4_init_0 16 rfl rfl)
theorem dX4_init_19 : decode cX4_init 19 = .ok (.aload_n 0, 1) := dk_42 (dk_at dksX4_init_0 19 rfl rfl)
theorem dX4_init_20 : decode cX4_init 20 = .ok (.sipush 500, 3) := dk_17 1 244 (dk_at dksX4_init_0 20 rfl rfl)
theorem dX4_init_23 : decode cX4_init 23 = .ok (.newarray .int, 2) := dk_188_10 (dk_at dksX4_init_1 0 rfl rfl)
theorem dX4_init_25 : decode cX4_init 25 = .ok (.putfield 19, 3) := dk_181 0 19 (dk_at dksX4_init_1 2 rfl rfl)
theorem dX4_init_28 : decode cX4_init 28 = .ok (.aload_n 0, 1) := dk_42 (dk_at dksX4_init_1 5 rfl rfl)
theorem dX4_init_29 : decode cX4_init 29 = .ok (.sipush 500, 3) := dk_17 1 244 (dk_at dksX4_init_1 6 rfl rfl)
theorem dX4_init_32 : decode cX4_init 32 = .ok (.newarray .int, 2) := dk_188_10 (dk_at dksX4_init_1 9 rfl rfl)
theorem dX4_init_34 : decode cX4_init 34 = .ok (.putfield 22, 3) := dk_181 0 22 (dk_at dksX4_init_1 11 rfl rfl)
theorem dX4_init_37 : decode cX4_init 37 = .ok (.aload_n 0, 1) := dk_42 (dk_at dksX4_init_1 14 rfl rfl)
theorem dX4_init_38 : decode cX4_init 38 = .ok (.sipush 500, 3) := dk_17 1 244 (dk_at dksX4_init_1 15 rfl rfl)
theorem dX4_init_41 : decode cX4_init 41 = .ok (.bipush 10, 2) := dk_16 10 (dk_at dksX4_init_1 18 rfl rfl)
theorem dX4_init_43 : decode cX4_init 43 = .ok (.multianewarray 25 2, 4) := by decide +kernel
theorem dX4_init_47 : decode cX4_init 47 = .ok (.putfield 27, 3) := dk_181 0 27 (dk_at dksX4_init_2 0 rfl rfl)
theorem dX4_init_50 : decode cX4_init 50 = .ok (.aload_n 0, 1) := dk_42 (dk_at dksX4_init_2 3 rfl rfl)
theorem dX4_init_51 : decode cX4_init 51 = .ok (.sipush 500, 3) := dk_17 1 244 (dk_at dksX4_init_2 4 rfl rfl)
theorem dX4_init_54 : decode cX4_init 54 = .ok (.newarray .int, 2) := dk_188_10 (dk_at dksX4_init_2 7 rfl rfl)
theorem dX4_init_56 : decode cX4_init 56 = .ok (.putfield 30, 3) := dk_181 0 30 (dk_at dksX4_init_2 9 rfl rfl)
theorem dX4_init_59 : decode cX4_init 59 = .ok (.aload_n 0, 1) := dk_42 (dk_at dksX4_init_2 12 rfl rfl)
theorem dX4_init_60 : decode cX4_init 60 = .ok (.sipush 500, 3) := dk_17 1 244 (dk_at dksX4_init_2 13 rfl rfl)
theorem dX4_init_63 : decode cX4_init 63 = .ok (.newarray .int, 2) := dk_188_10 (dk_at dksX4_init_2 16 rfl rfl)
theorem dX4_init_65 : decode cX4_init 65 = .ok (.putfield 33, 3) := dk_181 0 33 (dk_at dksX4_init_2 18 rfl rfl)
theorem dX4_init_68 : decode cX4_init 68 = .ok (.aload_n 0, 1) := dk_42 (dk_at dksX4_init_2 21 rfl rfl)
theorem dX4_init_69 : decode cX4_init 69 = .ok (.sipush 600, 3) := dk_17 2 88 (dk_at dksX4_init_3 0 rfl rfl)
theorem dX4_init_72 : decode cX4_init 72 = .ok (.newarray .int, 2) := dk_188_10 (dk_at dksX4_init_3 3 rfl rfl)
theorem dX4_init_74 : decode cX4_init 74 = .ok (.putfield 36, 3) := dk_181 0 36 (dk_at dksX4_init_3 5 rfl rfl)
theorem dX4_init_77 : decode cX4_init 77 = .ok (.aload_n 0, 1) := dk_42 (dk_at dksX4_init_3 8 rfl rfl)
theorem dX4_init_78 : decode cX4_init 78 = .ok (.sipush 600, 3) := dk_17 2 88 (dk_at dksX4_init_3 9 rfl rfl)
theorem dX4_init_81 : decode cX4_init 81 = .ok (.newarray .int, 2) := dk_188_10 (dk_at dksX4_init_3 12 rfl rfl)
theorem dX4_init_83 : decode cX4_init 83 = .ok (.putfield 39, 3) := dk_181 0 39 (dk_at dksX4_init_3 14 rfl rfl)
theorem dX4_init_86 : decode cX4_init 86 = .ok (.aload_n 0, 1) := dk_42 (dk_at dksX4_init_3 17 rfl rfl)
theorem dX4_init_87 : decode cX4_init 87 = .ok (.sipush 600, 3) := dk_17 2 88 (dk_at dksX4_init_3 18 rfl rfl)
theorem dX4_init_90 : decode cX4_init 90 = .ok (.newarray .int, 2) := dk_188_10 (dk_at dksX4_init_3 21 rfl rfl)
theorem dX4_init_92 : decode cX4_init 92 = .ok (.putfield 42, 3) := dk_181 0 42 (dk_at dksX4_init_4 0 rfl rfl)
theorem dX4_init_95 : decode cX4_init 95 = .ok (.aload_n 0, 1) := dk_42 (dk_at dksX4_init_4 3 rfl rfl)
theorem dX4_init_96 : decode cX4_init 96 = .ok (.sipush 600, 3) := dk_17 2 88 (dk_at dksX4_init_4 4 rfl rfl)
theorem dX4_init_99 : decode cX4_init 99 = .ok (.newarray .int, 2) := dk_188_10 (dk_at dksX4_init_4 7 rfl rfl)
theorem dX4_init_101 : decode cX4_init 101 = .ok (.putfield 45, 3) := dk_181 0 45 (dk_at dksX4_init_4 9 rfl rfl)
theorem dX4_init_104 : decode cX4_init 104 = .ok (.aload_n 0, 1) := dk_42 (dk_at dksX4_init_4 12 rfl rfl)
theorem dX4_init_105 : decode cX4_init 105 = .ok (.sipush 600, 3) := dk_17 2 88 (dk_at dksX4_init_4 13 rfl rfl)
theorem dX4_init_108 : decode cX4_init 108 = .ok (.newarray .int, 2) := dk_188_10 (dk_at dksX4_init_4 16 rfl rfl)
theorem dX4_init_110 : decode cX4_init 110 = .ok (.putfield 48, 3) := dk_181 0 48 (dk_at dksX4_init_4 18 rfl rfl)
theorem dX4_init_113 : decode cX4_init 113 = .ok (.aload_n 0, 1) := dk_42 (dk_at dksX4_init_4 21 rfl rfl)
theorem dX4_init_114 : decode cX4_init 114 = .ok (.sipush 600, 3) := dk_17 2 88 (dk_at dksX4_init_5 0 rfl rfl)
theorem dX4_init_117 : decode cX4_init 117 = .ok (.newarray .int, 2) := dk_188_10 (dk_at dksX4_init_5 3 rfl rfl)
theorem dX4_init_119 : decode cX4_init 119 = .ok (.putfield 51, 3) := dk_181 0 51 (dk_at dksX4_init_5 5 rfl rfl)
theorem dX4_init_122 : decode cX4_init 122 = .ok (.aload_n 0, 1) := dk_42 (dk_at dksX4_init_5 8 rfl rfl)
theorem dX4_init_123 : decode cX4_init 123 = .ok (.iload_n 2, 1) := dk_28 (dk_at dksX4_init_5 9 rfl rfl)
theorem dX4_init_124 : decode cX4_init 124 = .ok (.putfield 54, 3) := dk_181 0 54 (dk_at dksX4_init_5 10 rfl rfl)
theorem dX4_init_127 : decode cX4_init 127 = .ok (.return_, 1) := dk_177 (dk_at dksX4_init_5 13 rfl rfl)
abbrev cX4_refresh : ByteArray := prog_20_method_6_code
def yX4_refresh : MethodName := ⟨RX4, "refresh", "()V"⟩
def dkwX4_refresh_1 : List UInt8 := [181, 0, 58, 42, 3, 181, 0, 88, 42, 182, 0, 91, 60, 177]
abbrev dktX4_refresh_1 : List UInt8 := dkwX4_refresh_1 ++ []
def dkwX4_refresh_0 : List UInt8 := [42, 180, 0, 79, 154, 0, 33, 42, 4, 181, 0, 79, 42, 3, 181, 0, 82, 42, 3, 181, 0, 85, 42, 3]
abbrev dktX4_refresh_0 : List UInt8 := dkwX4_refresh_0 ++ dktX4_refresh_1
theorem dksX4_refresh_0 : cX4_refresh.data.toList.drop 0 = dktX4_refresh_0 := by decide +kernel
theorem dksX4_refresh_1 : cX4_refresh.data.toList.drop 24 = dktX4_refresh_1 := dk_seg dksX4_refresh_0 24 rfl rfl
theorem dX4_refresh_0 : decode cX4_refresh 0 = .ok (.aload_n 0, 1) := dk_42 (dk_at dksX4_refresh_0 0 rfl rfl)
theorem dX4_refresh_1 : decode cX4_refresh 1 = .ok (.getfield 79, 3) := dk_180 0 79 (dk_at dksX4_refresh_0 1 rfl rfl)
theorem dX4_refresh_4 : decode cX4_refresh 4 = .ok (.ifCond .ne 33, 3) := dk_154 0 33 (dk_at dksX4_refresh_0 4 rfl rfl)
theorem dX4_refresh_7 : decode cX4_refresh 7 = .ok (.aload_n 0, 1) := dk_42 (dk_at dksX4_refresh_0 7 rfl rfl)
theorem dX4_refresh_8 : decode cX4_refresh 8 = .ok (.iconst 1, 1) := dk_4 (dk_at dksX4_refresh_0 8 rfl rfl)
theorem dX4_refresh_9 : decode cX4_refresh 9 = .ok (.putfield 79, 3) := dk_181 0 79 (dk_at dksX4_refresh_0 9 rfl rfl)
theorem dX4_refresh_12 : decode cX4_refresh 12 = .ok (.aload_n 0, 1) := dk_42 (dk_at dksX4_refresh_0 12 rfl rfl)
theorem dX4_refresh_13 : decode cX4_refresh 13 = .ok (.iconst 0, 1) := dk_3 (dk_at dksX4_refresh_0 13 rfl rfl)
theorem dX4_refresh_14 : decode cX4_refresh 14 = .ok (.putfield 82, 3) := dk_181 0 82 (dk_at dksX4_refresh_0 14 rfl rfl)
theorem dX4_refresh_17 : decode cX4_refresh 17 = .ok (.aload_n 0, 1) := dk_42 (dk_at dksX4_refresh_0 17 rfl rfl)
theorem dX4_refresh_18 : decode cX4_refresh 18 = .ok (.iconst 0, 1) := dk_3 (dk_at dksX4_refresh_0 18 rfl rfl)
theorem dX4_refresh_19 : decode cX4_refresh 19 = .ok (.putfield 85, 3) := dk_181 0 85 (dk_at dksX4_refresh_0 19 rfl rfl)
theorem dX4_refresh_22 : decode cX4_refresh 22 = .ok (.aload_n 0, 1) := dk_42 (dk_at dksX4_refresh_0 22 rfl rfl)
theorem dX4_refresh_23 : decode cX4_refresh 23 = .ok (.iconst 0, 1) := dk_3 (dk_at dksX4_refresh_0 23 rfl rfl)
theorem dX4_refresh_24 : decode cX4_refresh 24 = .ok (.putfield 58, 3) := dk_181 0 58 (dk_at dksX4_refresh_1 0 rfl rfl)
theorem dX4_refresh_27 : decode cX4_refresh 27 = .ok (.aload_n 0, 1) := dk_42 (dk_at dksX4_refresh_1 3 rfl rfl)
theorem dX4_refresh_28 : decode cX4_refresh 28 = .ok (.iconst 0, 1) := dk_3 (dk_at dksX4_refresh_1 4 rfl rfl)
theorem dX4_refresh_29 : decode cX4_refresh 29 = .ok (.putfield 88, 3) := dk_181 0 88 (dk_at dksX4_refresh_1 5 rfl rfl)
theorem dX4_refresh_32 : decode cX4_refresh 32 = .ok (.aload_n 0, 1) := dk_42 (dk_at dksX4_refresh_1 8 rfl rfl)
theorem dX4_refresh_33 : decode cX4_refresh 33 = .ok (.invokevirtual 91, 3) := dk_182 0 91 (dk_at dksX4_refresh_1 9 rfl rfl)
theorem dX4_refresh_36 : decode cX4_refresh 36 = .ok (.istore_n 1, 1) := dk_60 (dk_at dksX4_refresh_1 12 rfl rfl)
theorem dX4_refresh_37 : decode cX4_refresh 37 = .ok (.return_, 1) := dk_177 (dk_at dksX4_refresh_1 13 rfl rfl)
abbrev cX4_build : ByteArray := prog_20_method_8_code
def yX4_build : MethodName := ⟨RX4, "build", "()I"⟩
def dkwX4_build_6 : List UInt8 := [182, 0, 122, 172]
abbrev dktX4_build_6 : List UInt8 := dkwX4_build_6 ++ []
def dkwX4_build_5 : List UInt8 := [6, 46, 182, 0, 132, 167, 0, 7, 42, 182, 0, 135, 172, 132, 1, 1, 167, 255, 125, 42, 8, 3, 3]
abbrev dktX4_build_5 : List UInt8 := dkwX4_build_5 ++ dktX4_build_6
def dkwX4_build_4 : List UInt8 := [160, 0, 37, 42, 180, 0, 68, 153, 0, 25, 42, 4, 42, 180, 0, 3, 180, 0, 129, 42, 180, 0, 65, 50]
abbrev dktX4_build_4 : List UInt8 := dkwX4_build_4 ++ dktX4_build_5
def dkwX4_build_3 : List UInt8 := [180, 0, 118, 199, 0, 13, 42, 6, 3, 27, 182, 0, 122, 167, 0, 8, 42, 27, 182, 0, 126, 172, 28, 5]
abbrev dktX4_build_3 : List UInt8 := dkwX4_build_3 ++ dktX4_build_4
def dkwX4_build_2 : List UInt8 := [182, 0, 114, 61, 28, 4, 160, 0, 39, 42, 180, 0, 3, 180, 0, 95, 27, 182, 0, 108, 192, 0, 112]
abbrev dktX4_build_2 : List UInt8 := dkwX4_build_2 ++ dktX4_build_3
def dkwX4_build_1 : List UInt8 := [153, 0, 7, 3, 167, 0, 21, 42, 42, 180, 0, 3, 180, 0, 95, 27, 182, 0, 108, 192, 0, 112]
abbrev dktX4_build_1 : List UInt8 := dkwX4_build_1 ++ dktX4_build_2
def dkwX4_build_0 : List UInt8 := [3, 60, 27, 42, 180, 0, 3, 180, 0, 95, 182, 0, 99, 162, 0, 123, 42, 180, 0, 88, 27, 184, 0, 104]
abbrev dktX4_build_0 : List UInt8 := dkwX4_build_0 ++ dktX4_build_1
theorem dksX4_build_0 : cX4_build.data.toList.drop 0 = dktX4_build_0 := by decide +kernel
theorem dksX4_build_1 : cX4_build.data.toList.drop 24 = dktX4_build_1 := dk_seg dksX4_build_0 24 rfl rfl
theorem dksX4_build_2 : cX4_build.data.toList.drop 46 = dktX4_build_2 := dk_seg dksX4_build_1 22 rfl rfl
theorem dksX4_build_3 : cX4_build.data.toList.drop 69 = dktX4_build_3 := dk_seg dksX4_build_2 23 rfl rfl
theorem dksX4_build_4 : cX4_build.data.toList.drop 93 = dktX4_build_4 := dk_seg dksX4_build_3 24 rfl rfl
theorem dksX4_build_5 : cX4_build.data.toList.drop 117 = dktX4_build_5 := dk_seg dksX4_build_4 24 rfl rfl
theorem dksX4_build_6 : cX4_build.data.toList.drop 140 = dktX4_build_6 := dk_seg dksX4_build_5 23 rfl rfl
theorem dX4_build_0 : decode cX4_build 0 = .ok (.iconst 0, 1) := dk_3 (dk_at dksX4_build_0 0 rfl rfl)
theorem dX4_build_1 : decode cX4_build 1 = .ok (.istore_n 1, 1) := dk_60 (dk_at dksX4_build_0 1 rfl rfl)
theorem dX4_build_2 : decode cX4_build 2 = .ok (.iload_n 1, 1) := dk_27 (dk_at dksX4_build_0 2 rfl rfl)
theorem dX4_build_3 : decode cX4_build 3 = .ok (.aload_n 0, 1) := dk_42 (dk_at dksX4_build_0 3 rfl rfl)
theorem dX4_build_4 : decode cX4_build 4 = .ok (.getfield 3, 3) := dk_180 0 3 (dk_at dksX4_build_0 4 rfl rfl)
theorem dX4_build_7 : decode cX4_build 7 = .ok (.getfield 95, 3) := dk_180 0 95 (dk_at dksX4_build_0 7 rfl rfl)
theorem dX4_build_10 : decode cX4_build 10 = .ok (.invokevirtual 99, 3) := dk_182 0 99 (dk_at dksX4_build_0 10 rfl rfl)
theorem dX4_build_13 : decode cX4_build 13 = .ok (.if_icmp .ge 123, 3) := dk_162 0 123 (dk_at dksX4_build_0 13 rfl rfl)
theorem dX4_build_16 : decode cX4_build 16 = .ok (.aload_n 0, 1) := dk_42 (dk_at dksX4_build_0 16 rfl rfl)
theorem dX4_build_17 : decode cX4_build 17 = .ok (.getfield 88, 3) := dk_180 0 88 (dk_at dksX4_build_0 17 rfl rfl)
theorem dX4_build_20 : decode cX4_build 20 = .ok (.iload_n 1, 1) := dk_27 (dk_at dksX4_build_0 20 rfl rfl)
theorem dX4_build_21 : decode cX4_build 21 = .ok (.invokestatic 104, 3) := dk_184 0 104 (dk_at dksX4_build_0 21 rfl rfl)
theorem dX4_build_24 : decode cX4_build 24 = .ok (.ifCond .eq 7, 3) := dk_153 0 7 (dk_at dksX4_build_1 0 rfl rfl)
theorem dX4_build_27 : decode cX4_build 27 = .ok (.iconst 0, 1) := dk_3 (dk_at dksX4_build_1 3 rfl rfl)
theorem dX4_build_28 : decode cX4_build 28 = .ok (.goto 21, 3) := dk_167 0 21 (dk_at dksX4_build_1 4 rfl rfl)
theorem dX4_build_31 : decode cX4_build 31 = .ok (.aload_n 0, 1) := dk_42 (dk_at dksX4_build_1 7 rfl rfl)
theorem dX4_build_32 : decode cX4_build 32 = .ok (.aload_n 0, 1) := dk_42 (dk_at dksX4_build_1 8 rfl rfl)
theorem dX4_build_33 : decode cX4_build 33 = .ok (.getfield 3, 3) := dk_180 0 3 (dk_at dksX4_build_1 9 rfl rfl)
theorem dX4_build_36 : decode cX4_build 36 = .ok (.getfield 95, 3) := dk_180 0 95 (dk_at dksX4_build_1 12 rfl rfl)
theorem dX4_build_39 : decode cX4_build 39 = .ok (.iload_n 1, 1) := dk_27 (dk_at dksX4_build_1 15 rfl rfl)
theorem dX4_build_40 : decode cX4_build 40 = .ok (.invokevirtual 108, 3) := dk_182 0 108 (dk_at dksX4_build_1 16 rfl rfl)
theorem dX4_build_43 : decode cX4_build 43 = .ok (.checkcast 112, 3) := dk_192 0 112 (dk_at dksX4_build_1 19 rfl rfl)
theorem dX4_build_46 : decode cX4_build 46 = .ok (.invokevirtual 114, 3) := dk_182 0 114 (dk_at dksX4_build_2 0 rfl rfl)
theorem dX4_build_49 : decode cX4_build 49 = .ok (.istore_n 2, 1) := dk_61 (dk_at dksX4_build_2 3 rfl rfl)
theorem dX4_build_50 : decode cX4_build 50 = .ok (.iload_n 2, 1) := dk_28 (dk_at dksX4_build_2 4 rfl rfl)
theorem dX4_build_51 : decode cX4_build 51 = .ok (.iconst 1, 1) := dk_4 (dk_at dksX4_build_2 5 rfl rfl)
theorem dX4_build_52 : decode cX4_build 52 = .ok (.if_icmp .ne 39, 3) := dk_160 0 39 (dk_at dksX4_build_2 6 rfl rfl)
theorem dX4_build_55 : decode cX4_build 55 = .ok (.aload_n 0, 1) := dk_42 (dk_at dksX4_build_2 9 rfl rfl)
theorem dX4_build_56 : decode cX4_build 56 = .ok (.getfield 3, 3) := dk_180 0 3 (dk_at dksX4_build_2 10 rfl rfl)
theorem dX4_build_59 : decode cX4_build 59 = .ok (.getfield 95, 3) := dk_180 0 95 (dk_at dksX4_build_2 13 rfl rfl)
theorem dX4_build_62 : decode cX4_build 62 = .ok (.iload_n 1, 1) := dk_27 (dk_at dksX4_build_2 16 rfl rfl)
theorem dX4_build_63 : decode cX4_build 63 = .ok (.invokevirtual 108, 3) := dk_182 0 108 (dk_at dksX4_build_2 17 rfl rfl)
theorem dX4_build_66 : decode cX4_build 66 = .ok (.checkcast 112, 3) := dk_192 0 112 (dk_at dksX4_build_2 20 rfl rfl)
theorem dX4_build_69 : decode cX4_build 69 = .ok (.getfield 118, 3) := dk_180 0 118 (dk_at dksX4_build_3 0 rfl rfl)
theorem dX4_build_72 : decode cX4_build 72 = .ok (.ifnonnull 13, 3) := dk_199 0 13 (dk_at dksX4_build_3 3 rfl rfl)
theorem dX4_build_75 : decode cX4_build 75 = .ok (.aload_n 0, 1) := dk_42 (dk_at dksX4_build_3 6 rfl rfl)
theorem dX4_build_76 : decode cX4_build 76 = .ok (.iconst 3, 1) := dk_6 (dk_at dksX4_build_3 7 rfl rfl)
theorem dX4_build_77 : decode cX4_build 77 = .ok (.iconst 0, 1) := dk_3 (dk_at dksX4_build_3 8 rfl rfl)
theorem dX4_build_78 : decode cX4_build 78 = .ok (.iload_n 1, 1) := dk_27 (dk_at dksX4_build_3 9 rfl rfl)
theorem dX4_build_79 : decode cX4_build 79 = .ok (.invokevirtual 122, 3) := dk_182 0 122 (dk_at dksX4_build_3 10 rfl rfl)
theorem dX4_build_82 : decode cX4_build 82 = .ok (.goto 8, 3) := dk_167 0 8 (dk_at dksX4_build_3 13 rfl rfl)
theorem dX4_build_85 : decode cX4_build 85 = .ok (.aload_n 0, 1) := dk_42 (dk_at dksX4_build_3 16 rfl rfl)
theorem dX4_build_86 : decode cX4_build 86 = .ok (.iload_n 1, 1) := dk_27 (dk_at dksX4_build_3 17 rfl rfl)
theorem dX4_build_87 : decode cX4_build 87 = .ok (.invokevirtual 126, 3) := dk_182 0 126 (dk_at dksX4_build_3 18 rfl rfl)
theorem dX4_build_90 : decode cX4_build 90 = .ok (.ireturn, 1) := dk_172 (dk_at dksX4_build_3 21 rfl rfl)
theorem dX4_build_91 : decode cX4_build 91 = .ok (.iload_n 2, 1) := dk_28 (dk_at dksX4_build_3 22 rfl rfl)
theorem dX4_build_92 : decode cX4_build 92 = .ok (.iconst 2, 1) := dk_5 (dk_at dksX4_build_3 23 rfl rfl)
theorem dX4_build_93 : decode cX4_build 93 = .ok (.if_icmp .ne 37, 3) := dk_160 0 37 (dk_at dksX4_build_4 0 rfl rfl)
theorem dX4_build_96 : decode cX4_build 96 = .ok (.aload_n 0, 1) := dk_42 (dk_at dksX4_build_4 3 rfl rfl)
theorem dX4_build_97 : decode cX4_build 97 = .ok (.getfield 68, 3) := dk_180 0 68 (dk_at dksX4_build_4 4 rfl rfl)
theorem dX4_build_100 : decode cX4_build 100 = .ok (.ifCond .eq 25, 3) := dk_153 0 25 (dk_at dksX4_build_4 7 rfl rfl)
theorem dX4_build_103 : decode cX4_build 103 = .ok (.aload_n 0, 1) := dk_42 (dk_at dksX4_build_4 10 rfl rfl)
theorem dX4_build_104 : decode cX4_build 104 = .ok (.iconst 1, 1) := dk_4 (dk_at dksX4_build_4 11 rfl rfl)
theorem dX4_build_105 : decode cX4_build 105 = .ok (.aload_n 0, 1) := dk_42 (dk_at dksX4_build_4 12 rfl rfl)
theorem dX4_build_106 : decode cX4_build 106 = .ok (.getfield 3, 3) := dk_180 0 3 (dk_at dksX4_build_4 13 rfl rfl)
theorem dX4_build_109 : decode cX4_build 109 = .ok (.getfield 129, 3) := dk_180 0 129 (dk_at dksX4_build_4 16 rfl rfl)
theorem dX4_build_112 : decode cX4_build 112 = .ok (.aload_n 0, 1) := dk_42 (dk_at dksX4_build_4 19 rfl rfl)
theorem dX4_build_113 : decode cX4_build 113 = .ok (.getfield 65, 3) := dk_180 0 65 (dk_at dksX4_build_4 20 rfl rfl)
theorem dX4_build_116 : decode cX4_build 116 = .ok (.aaload, 1) := dk_50 (dk_at dksX4_build_4 23 rfl rfl)
theorem dX4_build_117 : decode cX4_build 117 = .ok (.iconst 3, 1) := dk_6 (dk_at dksX4_build_5 0 rfl rfl)
theorem dX4_build_118 : decode cX4_build 118 = .ok (.iaload, 1) := dk_46 (dk_at dksX4_build_5 1 rfl rfl)
theorem dX4_build_119 : decode cX4_build 119 = .ok (.invokevirtual 132, 3) := dk_182 0 132 (dk_at dksX4_build_5 2 rfl rfl)
theorem dX4_build_122 : decode cX4_build 122 = .ok (.goto 7, 3) := dk_167 0 7 (dk_at dksX4_build_5 5 rfl rfl)
theorem dX4_build_125 : decode cX4_build 125 = .ok (.aload_n 0, 1) := dk_42 (dk_at dksX4_build_5 8 rfl rfl)
theorem dX4_build_126 : decode cX4_build 126 = .ok (.invokevirtual 135, 3) := dk_182 0 135 (dk_at dksX4_build_5 9 rfl rfl)
theorem dX4_build_129 : decode cX4_build 129 = .ok (.ireturn, 1) := dk_172 (dk_at dksX4_build_5 12 rfl rfl)
theorem dX4_build_130 : decode cX4_build 130 = .ok (.iinc 1 1, 3) := dk_132 1 1 (dk_at dksX4_build_5 13 rfl rfl)
theorem dX4_build_133 : decode cX4_build 133 = .ok (.goto (-131), 3) := dk_167 255 125 (dk_at dksX4_build_5 16 rfl rfl)
theorem dX4_build_136 : decode cX4_build 136 = .ok (.aload_n 0, 1) := dk_42 (dk_at dksX4_build_5 19 rfl rfl)
theorem dX4_build_137 : decode cX4_build 137 = .ok (.iconst 5, 1) := dk_8 (dk_at dksX4_build_5 20 rfl rfl)
theorem dX4_build_138 : decode cX4_build 138 = .ok (.iconst 0, 1) := dk_3 (dk_at dksX4_build_5 21 rfl rfl)
theorem dX4_build_139 : decode cX4_build 139 = .ok (.iconst 0, 1) := dk_3 (dk_at dksX4_build_5 22 rfl rfl)
theorem dX4_build_140 : decode cX4_build 140 = .ok (.invokevirtual 122, 3) := dk_182 0 122 (dk_at dksX4_build_6 0 rfl rfl)
theorem dX4_build_143 : decode cX4_build 143 = .ok (.ireturn, 1) := dk_172 (dk_at dksX4_build_6 3 rfl rfl)
abbrev cX4_at : ByteArray := prog_20_method_4_code
def yX4_at : MethodName := ⟨RX4, "at", "(II)I"⟩
def dkwX4_at_0 : List UInt8 := [42, 42, 2, 27, 182, 0, 71, 27, 28, 3, 182, 0, 75, 172]
abbrev dktX4_at_0 : List UInt8 := dkwX4_at_0 ++ []
theorem dksX4_at_0 : cX4_at.data.toList.drop 0 = dktX4_at_0 := by decide +kernel
theorem dX4_at_0 : decode cX4_at 0 = .ok (.aload_n 0, 1) := dk_42 (dk_at dksX4_at_0 0 rfl rfl)
theorem dX4_at_1 : decode cX4_at 1 = .ok (.aload_n 0, 1) := dk_42 (dk_at dksX4_at_0 1 rfl rfl)
theorem dX4_at_2 : decode cX4_at 2 = .ok (.iconst (-1), 1) := dk_2 (dk_at dksX4_at_0 2 rfl rfl)
theorem dX4_at_3 : decode cX4_at 3 = .ok (.iload_n 1, 1) := dk_27 (dk_at dksX4_at_0 3 rfl rfl)
theorem dX4_at_4 : decode cX4_at 4 = .ok (.invokevirtual 71, 3) := dk_182 0 71 (dk_at dksX4_at_0 4 rfl rfl)
theorem dX4_at_7 : decode cX4_at 7 = .ok (.iload_n 1, 1) := dk_27 (dk_at dksX4_at_0 7 rfl rfl)
theorem dX4_at_8 : decode cX4_at 8 = .ok (.iload_n 2, 1) := dk_28 (dk_at dksX4_at_0 8 rfl rfl)
theorem dX4_at_9 : decode cX4_at 9 = .ok (.iconst 0, 1) := dk_3 (dk_at dksX4_at_0 9 rfl rfl)
theorem dX4_at_10 : decode cX4_at 10 = .ok (.invokevirtual 75, 3) := dk_182 0 75 (dk_at dksX4_at_0 10 rfl rfl)
theorem dX4_at_13 : decode cX4_at 13 = .ok (.ireturn, 1) := dk_172 (dk_at dksX4_at_0 13 rfl rfl)
abbrev cX4_knownAt : ByteArray := prog_20_method_2_code
def yX4_knownAt : MethodName := ⟨RX4, "knownAt", "(II)I"⟩
def dkwX4_knownAt_1 : List UInt8 := [29, 46, 27, 160, 0, 10, 42, 180, 0, 42, 29, 46, 172, 132, 3, 1, 167, 255, 218, 2, 172]
abbrev dktX4_knownAt_1 : List UInt8 := dkwX4_knownAt_1 ++ []
def dkwX4_knownAt_0 : List UInt8 := [3, 62, 29, 42, 180, 0, 58, 162, 0, 36, 42, 180, 0, 36, 29, 46, 28, 160, 0, 20, 42, 180, 0, 39]
abbrev dktX4_knownAt_0 : List UInt8 := dkwX4_knownAt_0 ++ dktX4_knownAt_1
theorem dksX4_knownAt_0 : cX4_knownAt.data.toList.drop 0 = dktX4_knownAt_0 := by decide +kernel
theorem dksX4_knownAt_1 : cX4_knownAt.data.toList.drop 24 = dktX4_knownAt_1 := dk_seg dksX4_knownAt_0 24 rfl rfl
theorem dX4_knownAt_0 : decode cX4_knownAt 0 = .ok (.iconst 0, 1) := dk_3 (dk_at dksX4_knownAt_0 0 rfl rfl)
theorem dX4_knownAt_1 : decode cX4_knownAt 1 = .ok (.istore_n 3, 1) := dk_62 (dk_at dksX4_knownAt_0 1 rfl rfl)
theorem dX4_knownAt_2 : decode cX4_knownAt 2 = .ok (.iload_n 3, 1) := dk_29 (dk_at dksX4_knownAt_0 2 rfl rfl)
theorem dX4_knownAt_3 : decode cX4_knownAt 3 = .ok (.aload_n 0, 1) := dk_42 (dk_at dksX4_knownAt_0 3 rfl rfl)
theorem dX4_knownAt_4 : decode cX4_knownAt 4 = .ok (.getfield 58, 3) := dk_180 0 58 (dk_at dksX4_knownAt_0 4 rfl rfl)
theorem dX4_knownAt_7 : decode cX4_knownAt 7 = .ok (.if_icmp .ge 36, 3) := dk_162 0 36 (dk_at dksX4_knownAt_0 7 rfl rfl)
theorem dX4_knownAt_10 : decode cX4_knownAt 10 = .ok (.aload_n 0, 1) := dk_42 (dk_at dksX4_knownAt_0 10 rfl rfl)
theorem dX4_knownAt_11 : decode cX4_knownAt 11 = .ok (.getfield 36, 3) := dk_180 0 36 (dk_at dksX4_knownAt_0 11 rfl rfl)
theorem dX4_knownAt_14 : decode cX4_knownAt 14 = .ok (.iload_n 3, 1) := dk_29 (dk_at dksX4_knownAt_0 14 rfl rfl)
theorem dX4_knownAt_15 : decode cX4_knownAt 15 = .ok (.iaload, 1) := dk_46 (dk_at dksX4_knownAt_0 15 rfl rfl)
theorem dX4_knownAt_16 : decode cX4_knownAt 16 = .ok (.iload_n 2, 1) := dk_28 (dk_at dksX4_knownAt_0 16 rfl rfl)
theorem dX4_knownAt_17 : decode cX4_knownAt 17 = .ok (.if_icmp .ne 20, 3) := dk_160 0 20 (dk_at dksX4_knownAt_0 17 rfl rfl)
theorem dX4_knownAt_20 : decode cX4_knownAt 20 = .ok (.aload_n 0, 1) := dk_42 (dk_at dksX4_knownAt_0 20 rfl rfl)
theorem dX4_knownAt_21 : decode cX4_knownAt 21 = .ok (.getfield 39, 3) := dk_180 0 39 (dk_at dksX4_knownAt_0 21 rfl rfl)
theorem dX4_knownAt_24 : decode cX4_knownAt 24 = .ok (.iload_n 3, 1) := dk_29 (dk_at dksX4_knownAt_1 0 rfl rfl)
theorem dX4_knownAt_25 : decode cX4_knownAt 25 = .ok (.iaload, 1) := dk_46 (dk_at dksX4_knownAt_1 1 rfl rfl)
theorem dX4_knownAt_26 : decode cX4_knownAt 26 = .ok (.iload_n 1, 1) := dk_27 (dk_at dksX4_knownAt_1 2 rfl rfl)
theorem dX4_knownAt_27 : decode cX4_knownAt 27 = .ok (.if_icmp .ne 10, 3) := dk_160 0 10 (dk_at dksX4_knownAt_1 3 rfl rfl)
theorem dX4_knownAt_30 : decode cX4_knownAt 30 = .ok (.aload_n 0, 1) := dk_42 (dk_at dksX4_knownAt_1 6 rfl rfl)
theorem dX4_knownAt_31 : decode cX4_knownAt 31 = .ok (.getfield 42, 3) := dk_180 0 42 (dk_at dksX4_knownAt_1 7 rfl rfl)
theorem dX4_knownAt_34 : decode cX4_knownAt 34 = .ok (.iload_n 3, 1) := dk_29 (dk_at dksX4_knownAt_1 10 rfl rfl)
theorem dX4_knownAt_35 : decode cX4_knownAt 35 = .ok (.iaload, 1) := dk_46 (dk_at dksX4_knownAt_1 11 rfl rfl)
theorem dX4_knownAt_36 : decode cX4_knownAt 36 = .ok (.ireturn, 1) := dk_172 (dk_at dksX4_knownAt_1 12 rfl rfl)
theorem dX4_knownAt_37 : decode cX4_knownAt 37 = .ok (.iinc 3 1, 3) := dk_132 3 1 (dk_at dksX4_knownAt_1 13 rfl rfl)
theorem dX4_knownAt_40 : decode cX4_knownAt 40 = .ok (.goto (-38), 3) := dk_167 255 218 (dk_at dksX4_knownAt_1 16 rfl rfl)
theorem dX4_knownAt_43 : decode cX4_knownAt 43 = .ok (.iconst (-1), 1) := dk_2 (dk_at dksX4_knownAt_1 19 rfl rfl)
theorem dX4_knownAt_44 : decode cX4_knownAt 44 = .ok (.ireturn, 1) := dk_172 (dk_at dksX4_knownAt_1 20 rfl rfl)
abbrev cX4_ask : ByteArray := prog_20_method_3_code
def yX4_ask : MethodName := ⟨RX4, "ask", "(IIIZ)I"⟩
def dkwX4_ask_0 : List UInt8 := [27, 2, 160, 0, 19, 42, 28, 181, 0, 62, 42, 29, 181, 0, 65, 42, 21, 4, 181, 0, 68, 27, 172]
abbrev dktX4_ask_0 : List UInt8 := dkwX4_ask_0 ++ []
theorem dksX4_ask_0 : cX4_ask.data.toList.drop 0 = dktX4_ask_0 := by decide +kernel
theorem dX4_ask_0 : decode cX4_ask 0 = .ok (.iload_n 1, 1) := dk_27 (dk_at dksX4_ask_0 0 rfl rfl)
theorem dX4_ask_1 : decode cX4_ask 1 = .ok (.iconst (-1), 1) := dk_2 (dk_at dksX4_ask_0 1 rfl rfl)
theorem dX4_ask_2 : decode cX4_ask 2 = .ok (.if_icmp .ne 19, 3) := dk_160 0 19 (dk_at dksX4_ask_0 2 rfl rfl)
theorem dX4_ask_5 : decode cX4_ask 5 = .ok (.aload_n 0, 1) := dk_42 (dk_at dksX4_ask_0 5 rfl rfl)
theorem dX4_ask_6 : decode cX4_ask 6 = .ok (.iload_n 2, 1) := dk_28 (dk_at dksX4_ask_0 6 rfl rfl)
theorem dX4_ask_7 : decode cX4_ask 7 = .ok (.putfield 62, 3) := dk_181 0 62 (dk_at dksX4_ask_0 7 rfl rfl)
theorem dX4_ask_10 : decode cX4_ask 10 = .ok (.aload_n 0, 1) := dk_42 (dk_at dksX4_ask_0 10 rfl rfl)
theorem dX4_ask_11 : decode cX4_ask 11 = .ok (.iload_n 3, 1) := dk_29 (dk_at dksX4_ask_0 11 rfl rfl)
theorem dX4_ask_12 : decode cX4_ask 12 = .ok (.putfield 65, 3) := dk_181 0 65 (dk_at dksX4_ask_0 12 rfl rfl)
theorem dX4_ask_15 : decode cX4_ask 15 = .ok (.aload_n 0, 1) := dk_42 (dk_at dksX4_ask_0 15 rfl rfl)
theorem dX4_ask_16 : decode cX4_ask 16 = .ok (.iload 4, 2) := dk_21 4 (dk_at dksX4_ask_0 16 rfl rfl)
theorem dX4_ask_18 : decode cX4_ask 18 = .ok (.putfield 68, 3) := dk_181 0 68 (dk_at dksX4_ask_0 18 rfl rfl)
theorem dX4_ask_21 : decode cX4_ask 21 = .ok (.iload_n 1, 1) := dk_27 (dk_at dksX4_ask_0 21 rfl rfl)
theorem dX4_ask_22 : decode cX4_ask 22 = .ok (.ireturn, 1) := dk_172 (dk_at dksX4_ask_0 22 rfl rfl)
abbrev cX4_seen : ByteArray := prog_20_method_5_code
def yX4_seen : MethodName := ⟨RX4, "seen", "(II)I"⟩
def dkwX4_seen_0 : List UInt8 := [42, 42, 27, 28, 182, 0, 71, 28, 27, 4, 182, 0, 75, 172]
abbrev dktX4_seen_0 : List UInt8 := dkwX4_seen_0 ++ []
theorem dksX4_seen_0 : cX4_seen.data.toList.drop 0 = dktX4_seen_0 := by decide +kernel
theorem dX4_seen_0 : decode cX4_seen 0 = .ok (.aload_n 0, 1) := dk_42 (dk_at dksX4_seen_0 0 rfl rfl)
theorem dX4_seen_1 : decode cX4_seen 1 = .ok (.aload_n 0, 1) := dk_42 (dk_at dksX4_seen_0 1 rfl rfl)
theorem dX4_seen_2 : decode cX4_seen 2 = .ok (.iload_n 1, 1) := dk_27 (dk_at dksX4_seen_0 2 rfl rfl)
theorem dX4_seen_3 : decode cX4_seen 3 = .ok (.iload_n 2, 1) := dk_28 (dk_at dksX4_seen_0 3 rfl rfl)
theorem dX4_seen_4 : decode cX4_seen 4 = .ok (.invokevirtual 71, 3) := dk_182 0 71 (dk_at dksX4_seen_0 4 rfl rfl)
theorem dX4_seen_7 : decode cX4_seen 7 = .ok (.iload_n 2, 1) := dk_28 (dk_at dksX4_seen_0 7 rfl rfl)
theorem dX4_seen_8 : decode cX4_seen 8 = .ok (.iload_n 1, 1) := dk_27 (dk_at dksX4_seen_0 8 rfl rfl)
theorem dX4_seen_9 : decode cX4_seen 9 = .ok (.iconst 1, 1) := dk_4 (dk_at dksX4_seen_0 9 rfl rfl)
theorem dX4_seen_10 : decode cX4_seen 10 = .ok (.invokevirtual 75, 3) := dk_182 0 75 (dk_at dksX4_seen_0 10 rfl rfl)
theorem dX4_seen_13 : decode cX4_seen 13 = .ok (.ireturn, 1) := dk_172 (dk_at dksX4_seen_0 13 rfl rfl)
abbrev cX4_node : ByteArray := prog_20_method_7_code
def yX4_node : MethodName := ⟨RX4, "node", "(III)I"⟩
def dkwX4_node_3 : List UInt8 := [180, 0, 82, 4, 100, 172]
abbrev dktX4_node_3 : List UInt8 := dkwX4_node_3 ++ []
def dkwX4_node_2 : List UInt8 := [79, 42, 180, 0, 30, 42, 180, 0, 82, 3, 79, 42, 89, 180, 0, 82, 4, 96, 181, 0, 82, 42]
abbrev dktX4_node_2 : List UInt8 := dkwX4_node_2 ++ dktX4_node_3
def dkwX4_node_1 : List UInt8 := [180, 0, 82, 27, 79, 42, 180, 0, 19, 42, 180, 0, 82, 28, 79, 42, 180, 0, 22, 42, 180, 0, 82, 29]
abbrev dktX4_node_1 : List UInt8 := dkwX4_node_1 ++ dktX4_node_2
def dkwX4_node_0 : List UInt8 := [42, 180, 0, 82, 17, 1, 244, 160, 0, 10, 42, 4, 181, 0, 85, 3, 172, 42, 180, 0, 15, 42]
abbrev dktX4_node_0 : List UInt8 := dkwX4_node_0 ++ dktX4_node_1
theorem dksX4_node_0 : cX4_node.data.toList.drop 0 = dktX4_node_0 := by decide +kernel
theorem dksX4_node_1 : cX4_node.data.toList.drop 22 = dktX4_node_1 := dk_seg dksX4_node_0 22 rfl rfl
theorem dksX4_node_2 : cX4_node.data.toList.drop 46 = dktX4_node_2 := dk_seg dksX4_node_1 24 rfl rfl
theorem dksX4_node_3 : cX4_node.data.toList.drop 68 = dktX4_node_3 := dk_seg dksX4_node_2 22 rfl rfl
theorem dX4_node_0 : decode cX4_node 0 = .ok (.aload_n 0, 1) := dk_42 (dk_at dksX4_node_0 0 rfl rfl)
theorem dX4_node_1 : decode cX4_node 1 = .ok (.getfield 82, 3) := dk_180 0 82 (dk_at dksX4_node_0 1 rfl rfl)
theorem dX4_node_4 : decode cX4_node 4 = .ok (.sipush 500, 3) := dk_17 1 244 (dk_at dksX4_node_0 4 rfl rfl)
theorem dX4_node_7 : decode cX4_node 7 = .ok (.if_icmp .ne 10, 3) := dk_160 0 10 (dk_at dksX4_node_0 7 rfl rfl)
theorem dX4_node_10 : decode cX4_node 10 = .ok (.aload_n 0, 1) := dk_42 (dk_at dksX4_node_0 10 rfl rfl)
theorem dX4_node_11 : decode cX4_node 11 = .ok (.iconst 1, 1) := dk_4 (dk_at dksX4_node_0 11 rfl rfl)
theorem dX4_node_12 : decode cX4_node 12 = .ok (.putfield 85, 3) := dk_181 0 85 (dk_at dksX4_node_0 12 rfl rfl)
theorem dX4_node_15 : decode cX4_node 15 = .ok (.iconst 0, 1) := dk_3 (dk_at dksX4_node_0 15 rfl rfl)
theorem dX4_node_16 : decode cX4_node 16 = .ok (.ireturn, 1) := dk_172 (dk_at dksX4_node_0 16 rfl rfl)
theorem dX4_node_17 : decode cX4_node 17 = .ok (.aload_n 0, 1) := dk_42 (dk_at dksX4_node_0 17 rfl rfl)
theorem dX4_node_18 : decode cX4_node 18 = .ok (.getfield 15, 3) := dk_180 0 15 (dk_at dksX4_node_0 18 rfl rfl)
theorem dX4_node_21 : decode cX4_node 21 = .ok (.aload_n 0, 1) := dk_42 (dk_at dksX4_node_0 21 rfl rfl)
theorem dX4_node_22 : decode cX4_node 22 = .ok (.getfield 82, 3) := dk_180 0 82 (dk_at dksX4_node_1 0 rfl rfl)
theorem dX4_node_25 : decode cX4_node 25 = .ok (.iload_n 1, 1) := dk_27 (dk_at dksX4_node_1 3 rfl rfl)
theorem dX4_node_26 : decode cX4_node 26 = .ok (.iastore, 1) := dk_79 (dk_at dksX4_node_1 4 rfl rfl)
theorem dX4_node_27 : decode cX4_node 27 = .ok (.aload_n 0, 1) := dk_42 (dk_at dksX4_node_1 5 rfl rfl)
theorem dX4_node_28 : decode cX4_node 28 = .ok (.getfield 19, 3) := dk_180 0 19 (dk_at dksX4_node_1 6 rfl rfl)
theorem dX4_node_31 : decode cX4_node 31 = .ok (.aload_n 0, 1) := dk_42 (dk_at dksX4_node_1 9 rfl rfl)
theorem dX4_node_32 : decode cX4_node 32 = .ok (.getfield 82, 3) := dk_180 0 82 (dk_at dksX4_node_1 10 rfl rfl)
theorem dX4_node_35 : decode cX4_node 35 = .ok (.iload_n 2, 1) := dk_28 (dk_at dksX4_node_1 13 rfl rfl)
theorem dX4_node_36 : decode cX4_node 36 = .ok (.iastore, 1) := dk_79 (dk_at dksX4_node_1 14 rfl rfl)
theorem dX4_node_37 : decode cX4_node 37 = .ok (.aload_n 0, 1) := dk_42 (dk_at dksX4_node_1 15 rfl rfl)
theorem dX4_node_38 : decode cX4_node 38 = .ok (.getfield 22, 3) := dk_180 0 22 (dk_at dksX4_node_1 16 rfl rfl)
theorem dX4_node_41 : decode cX4_node 41 = .ok (.aload_n 0, 1) := dk_42 (dk_at dksX4_node_1 19 rfl rfl)
theorem dX4_node_42 : decode cX4_node 42 = .ok (.getfield 82, 3) := dk_180 0 82 (dk_at dksX4_node_1 20 rfl rfl)
theorem dX4_node_45 : decode cX4_node 45 = .ok (.iload_n 3, 1) := dk_29 (dk_at dksX4_node_1 23 rfl rfl)
theorem dX4_node_46 : decode cX4_node 46 = .ok (.iastore, 1) := dk_79 (dk_at dksX4_node_2 0 rfl rfl)
theorem dX4_node_47 : decode cX4_node 47 = .ok (.aload_n 0, 1) := dk_42 (dk_at dksX4_node_2 1 rfl rfl)
theorem dX4_node_48 : decode cX4_node 48 = .ok (.getfield 30, 3) := dk_180 0 30 (dk_at dksX4_node_2 2 rfl rfl)
theorem dX4_node_51 : decode cX4_node 51 = .ok (.aload_n 0, 1) := dk_42 (dk_at dksX4_node_2 5 rfl rfl)
theorem dX4_node_52 : decode cX4_node 52 = .ok (.getfield 82, 3) := dk_180 0 82 (dk_at dksX4_node_2 6 rfl rfl)
theorem dX4_node_55 : decode cX4_node 55 = .ok (.iconst 0, 1) := dk_3 (dk_at dksX4_node_2 9 rfl rfl)
theorem dX4_node_56 : decode cX4_node 56 = .ok (.iastore, 1) := dk_79 (dk_at dksX4_node_2 10 rfl rfl)
theorem dX4_node_57 : decode cX4_node 57 = .ok (.aload_n 0, 1) := dk_42 (dk_at dksX4_node_2 11 rfl rfl)
theorem dX4_node_58 : decode cX4_node 58 = .ok (.dup, 1) := dk_89 (dk_at dksX4_node_2 12 rfl rfl)
theorem dX4_node_59 : decode cX4_node 59 = .ok (.getfield 82, 3) := dk_180 0 82 (dk_at dksX4_node_2 13 rfl rfl)
theorem dX4_node_62 : decode cX4_node 62 = .ok (.iconst 1, 1) := dk_4 (dk_at dksX4_node_2 16 rfl rfl)
theorem dX4_node_63 : decode cX4_node 63 = .ok (.iadd, 1) := dk_96 (dk_at dksX4_node_2 17 rfl rfl)
theorem dX4_node_64 : decode cX4_node 64 = .ok (.putfield 82, 3) := dk_181 0 82 (dk_at dksX4_node_2 18 rfl rfl)
theorem dX4_node_67 : decode cX4_node 67 = .ok (.aload_n 0, 1) := dk_42 (dk_at dksX4_node_2 21 rfl rfl)
theorem dX4_node_68 : decode cX4_node 68 = .ok (.getfield 82, 3) := dk_180 0 82 (dk_at dksX4_node_3 0 rfl rfl)
theorem dX4_node_71 : decode cX4_node 71 = .ok (.iconst 1, 1) := dk_4 (dk_at dksX4_node_3 3 rfl rfl)
theorem dX4_node_72 : decode cX4_node 72 = .ok (.isub, 1) := dk_100 (dk_at dksX4_node_3 4 rfl rfl)
theorem dX4_node_73 : decode cX4_node 73 = .ok (.ireturn, 1) := dk_172 (dk_at dksX4_node_3 5 rfl rfl)
abbrev cX4_guard : ByteArray := prog_20_method_9_code
def yX4_guard : MethodName := ⟨RX4, "guard", "(I)I"⟩
def dkwX4_guard_5 : List UInt8 := [181, 0, 88, 28, 172]
abbrev dktX4_guard_5 : List UInt8 := dkwX4_guard_5 ++ []
def dkwX4_guard_4 : List UInt8 := [182, 0, 91, 62, 42, 180, 0, 27, 28, 50, 4, 29, 79, 42, 89, 180, 0, 88, 4, 27, 120, 2, 130, 126]
abbrev dktX4_guard_4 : List UInt8 := dkwX4_guard_4 ++ dktX4_guard_5
def dkwX4_guard_3 : List UInt8 := [3, 27, 182, 0, 122, 79, 167, 0, 43, 42, 89, 180, 0, 88, 4, 27, 120, 128, 181, 0, 88, 42]
abbrev dktX4_guard_3 : List UInt8 := dkwX4_guard_3 ++ dktX4_guard_4
def dkwX4_guard_2 : List UInt8 := [182, 0, 108, 192, 0, 112, 180, 0, 118, 178, 0, 138, 166, 0, 21, 42, 180, 0, 27, 28, 50, 4, 42, 7]
abbrev dktX4_guard_2 : List UInt8 := dkwX4_guard_2 ++ dktX4_guard_3
def dkwX4_guard_1 : List UInt8 := [180, 0, 27, 28, 50, 3, 42, 6, 3, 27, 182, 0, 122, 79, 42, 180, 0, 3, 180, 0, 95, 27]
abbrev dktX4_guard_1 : List UInt8 := dkwX4_guard_1 ++ dktX4_guard_2
def dkwX4_guard_0 : List UInt8 := [42, 5, 3, 27, 182, 0, 122, 61, 42, 180, 0, 85, 154, 0, 106, 42, 180, 0, 30, 28, 5, 79, 42]
abbrev dktX4_guard_0 : List UInt8 := dkwX4_guard_0 ++ dktX4_guard_1
theorem dksX4_guard_0 : cX4_guard.data.toList.drop 0 = dktX4_guard_0 := by decide +kernel
theorem dksX4_guard_1 : cX4_guard.data.toList.drop 23 = dktX4_guard_1 := dk_seg dksX4_guard_0 23 rfl rfl
theorem dksX4_guard_2 : cX4_guard.data.toList.drop 45 = dktX4_guard_2 := dk_seg dksX4_guard_1 22 rfl rfl
theorem dksX4_guard_3 : cX4_guard.data.toList.drop 69 = dktX4_guard_3 := dk_seg dksX4_guard_2 24 rfl rfl
theorem dksX4_guard_4 : cX4_guard.data.toList.drop 91 = dktX4_guard_4 := dk_seg dksX4_guard_3 22 rfl rfl
theorem dksX4_guard_5 : cX4_guard.data.toList.drop 115 = dktX4_guard_5 := dk_seg dksX4_guard_4 24 rfl rfl
theorem dX4_guard_0 : decode cX4_guard 0 = .ok (.aload_n 0, 1) := dk_42 (dk_at dksX4_guard_0 0 rfl rfl)
theorem dX4_guard_1 : decode cX4_guard 1 = .ok (.iconst 2, 1) := dk_5 (dk_at dksX4_guard_0 1 rfl rfl)
theorem dX4_guard_2 : decode cX4_guard 2 = .ok (.iconst 0, 1) := dk_3 (dk_at dksX4_guard_0 2 rfl rfl)
theorem dX4_guard_3 : decode cX4_guard 3 = .ok (.iload_n 1, 1) := dk_27 (dk_at dksX4_guard_0 3 rfl rfl)
theorem dX4_guard_4 : decode cX4_guard 4 = .ok (.invokevirtual 122, 3) := dk_182 0 122 (dk_at dksX4_guard_0 4 rfl rfl)
theorem dX4_guard_7 : decode cX4_guard 7 = .ok (.istore_n 2, 1) := dk_61 (dk_at dksX4_guard_0 7 rfl rfl)
theorem dX4_guard_8 : decode cX4_guard 8 = .ok (.aload_n 0, 1) := dk_42 (dk_at dksX4_guard_0 8 rfl rfl)
theorem dX4_guard_9 : decode cX4_guard 9 = .ok (.getfield 85, 3) := dk_180 0 85 (dk_at dksX4_guard_0 9 rfl rfl)
theorem dX4_guard_12 : decode cX4_guard 12 = .ok (.ifCond .ne 106, 3) := dk_154 0 106 (dk_at dksX4_guard_0 12 rfl rfl)
theorem dX4_guard_15 : decode cX4_guard 15 = .ok (.aload_n 0, 1) := dk_42 (dk_at dksX4_guard_0 15 rfl rfl)
theorem dX4_guard_16 : decode cX4_guard 16 = .ok (.getfield 30, 3) := dk_180 0 30 (dk_at dksX4_guard_0 16 rfl rfl)
theorem dX4_guard_19 : decode cX4_guard 19 = .ok (.iload_n 2, 1) := dk_28 (dk_at dksX4_guard_0 19 rfl rfl)
theorem dX4_guard_20 : decode cX4_guard 20 = .ok (.iconst 2, 1) := dk_5 (dk_at dksX4_guard_0 20 rfl rfl)
theorem dX4_guard_21 : decode cX4_guard 21 = .ok (.iastore, 1) := dk_79 (dk_at dksX4_guard_0 21 rfl rfl)
theorem dX4_guard_22 : decode cX4_guard 22 = .ok (.aload_n 0, 1) := dk_42 (dk_at dksX4_guard_0 22 rfl rfl)
theorem dX4_guard_23 : decode cX4_guard 23 = .ok (.getfield 27, 3) := dk_180 0 27 (dk_at dksX4_guard_1 0 rfl rfl)
theorem dX4_guard_26 : decode cX4_guard 26 = .ok (.iload_n 2, 1) := dk_28 (dk_at dksX4_guard_1 3 rfl rfl)
theorem dX4_guard_27 : decode cX4_guard 27 = .ok (.aaload, 1) := dk_50 (dk_at dksX4_guard_1 4 rfl rfl)
theorem dX4_guard_28 : decode cX4_guard 28 = .ok (.iconst 0, 1) := dk_3 (dk_at dksX4_guard_1 5 rfl rfl)
theorem dX4_guard_29 : decode cX4_guard 29 = .ok (.aload_n 0, 1) := dk_42 (dk_at dksX4_guard_1 6 rfl rfl)
theorem dX4_guard_30 : decode cX4_guard 30 = .ok (.iconst 3, 1) := dk_6 (dk_at dksX4_guard_1 7 rfl rfl)
theorem dX4_guard_31 : decode cX4_guard 31 = .ok (.iconst 0, 1) := dk_3 (dk_at dksX4_guard_1 8 rfl rfl)
theorem dX4_guard_32 : decode cX4_guard 32 = .ok (.iload_n 1, 1) := dk_27 (dk_at dksX4_guard_1 9 rfl rfl)
theorem dX4_guard_33 : decode cX4_guard 33 = .ok (.invokevirtual 122, 3) := dk_182 0 122 (dk_at dksX4_guard_1 10 rfl rfl)
theorem dX4_guard_36 : decode cX4_guard 36 = .ok (.iastore, 1) := dk_79 (dk_at dksX4_guard_1 13 rfl rfl)
theorem dX4_guard_37 : decode cX4_guard 37 = .ok (.aload_n 0, 1) := dk_42 (dk_at dksX4_guard_1 14 rfl rfl)
theorem dX4_guard_38 : decode cX4_guard 38 = .ok (.getfield 3, 3) := dk_180 0 3 (dk_at dksX4_guard_1 15 rfl rfl)
theorem dX4_guard_41 : decode cX4_guard 41 = .ok (.getfield 95, 3) := dk_180 0 95 (dk_at dksX4_guard_1 18 rfl rfl)
theorem dX4_guard_44 : decode cX4_guard 44 = .ok (.iload_n 1, 1) := dk_27 (dk_at dksX4_guard_1 21 rfl rfl)
theorem dX4_guard_45 : decode cX4_guard 45 = .ok (.invokevirtual 108, 3) := dk_182 0 108 (dk_at dksX4_guard_2 0 rfl rfl)
theorem dX4_guard_48 : decode cX4_guard 48 = .ok (.checkcast 112, 3) := dk_192 0 112 (dk_at dksX4_guard_2 3 rfl rfl)
theorem dX4_guard_51 : decode cX4_guard 51 = .ok (.getfield 118, 3) := dk_180 0 118 (dk_at dksX4_guard_2 6 rfl rfl)
theorem dX4_guard_54 : decode cX4_guard 54 = .ok (.getstatic 138, 3) := dk_178 0 138 (dk_at dksX4_guard_2 9 rfl rfl)
theorem dX4_guard_57 : decode cX4_guard 57 = .ok (.if_acmp .ne 21, 3) := dk_166 0 21 (dk_at dksX4_guard_2 12 rfl rfl)
theorem dX4_guard_60 : decode cX4_guard 60 = .ok (.aload_n 0, 1) := dk_42 (dk_at dksX4_guard_2 15 rfl rfl)
theorem dX4_guard_61 : decode cX4_guard 61 = .ok (.getfield 27, 3) := dk_180 0 27 (dk_at dksX4_guard_2 16 rfl rfl)
theorem dX4_guard_64 : decode cX4_guard 64 = .ok (.iload_n 2, 1) := dk_28 (dk_at dksX4_guard_2 19 rfl rfl)
theorem dX4_guard_65 : decode cX4_guard 65 = .ok (.aaload, 1) := dk_50 (dk_at dksX4_guard_2 20 rfl rfl)
theorem dX4_guard_66 : decode cX4_guard 66 = .ok (.iconst 1, 1) := dk_4 (dk_at dksX4_guard_2 21 rfl rfl)
theorem dX4_guard_67 : decode cX4_guard 67 = .ok (.aload_n 0, 1) := dk_42 (dk_at dksX4_guard_2 22 rfl rfl)
theorem dX4_guard_68 : decode cX4_guard 68 = .ok (.iconst 4, 1) := dk_7 (dk_at dksX4_guard_2 23 rfl rfl)
theorem dX4_guard_69 : decode cX4_guard 69 = .ok (.iconst 0, 1) := dk_3 (dk_at dksX4_guard_3 0 rfl rfl)
theorem dX4_guard_70 : decode cX4_guard 70 = .ok (.iload_n 1, 1) := dk_27 (dk_at dksX4_guard_3 1 rfl rfl)
theorem dX4_guard_71 : decode cX4_guard 71 = .ok (.invokevirtual 122, 3) := dk_182 0 122 (dk_at dksX4_guard_3 2 rfl rfl)
theorem dX4_guard_74 : decode cX4_guard 74 = .ok (.iastore, 1) := dk_79 (dk_at dksX4_guard_3 5 rfl rfl)
theorem dX4_guard_75 : decode cX4_guard 75 = .ok (.goto 43, 3) := dk_167 0 43 (dk_at dksX4_guard_3 6 rfl rfl)
theorem dX4_guard_78 : decode cX4_guard 78 = .ok (.aload_n 0, 1) := dk_42 (dk_at dksX4_guard_3 9 rfl rfl)
theorem dX4_guard_79 : decode cX4_guard 79 = .ok (.dup, 1) := dk_89 (dk_at dksX4_guard_3 10 rfl rfl)
theorem dX4_guard_80 : decode cX4_guard 80 = .ok (.getfield 88, 3) := dk_180 0 88 (dk_at dksX4_guard_3 11 rfl rfl)
theorem dX4_guard_83 : decode cX4_guard 83 = .ok (.iconst 1, 1) := dk_4 (dk_at dksX4_guard_3 14 rfl rfl)
theorem dX4_guard_84 : decode cX4_guard 84 = .ok (.iload_n 1, 1) := dk_27 (dk_at dksX4_guard_3 15 rfl rfl)
theorem dX4_guard_85 : decode cX4_guard 85 = .ok (.ishl, 1) := dk_120 (dk_at dksX4_guard_3 16 rfl rfl)
theorem dX4_guard_86 : decode cX4_guard 86 = .ok (.ior, 1) := dk_128 (dk_at dksX4_guard_3 17 rfl rfl)
theorem dX4_guard_87 : decode cX4_guard 87 = .ok (.putfield 88, 3) := dk_181 0 88 (dk_at dksX4_guard_3 18 rfl rfl)
theorem dX4_guard_90 : decode cX4_guard 90 = .ok (.aload_n 0, 1) := dk_42 (dk_at dksX4_guard_3 21 rfl rfl)
theorem dX4_guard_91 : decode cX4_guard 91 = .ok (.invokevirtual 91, 3) := dk_182 0 91 (dk_at dksX4_guard_4 0 rfl rfl)
theorem dX4_guard_94 : decode cX4_guard 94 = .ok (.istore_n 3, 1) := dk_62 (dk_at dksX4_guard_4 3 rfl rfl)
theorem dX4_guard_95 : decode cX4_guard 95 = .ok (.aload_n 0, 1) := dk_42 (dk_at dksX4_guard_4 4 rfl rfl)
theorem dX4_guard_96 : decode cX4_guard 96 = .ok (.getfield 27, 3) := dk_180 0 27 (dk_at dksX4_guard_4 5 rfl rfl)
theorem dX4_guard_99 : decode cX4_guard 99 = .ok (.iload_n 2, 1) := dk_28 (dk_at dksX4_guard_4 8 rfl rfl)
theorem dX4_guard_100 : decode cX4_guard 100 = .ok (.aaload, 1) := dk_50 (dk_at dksX4_guard_4 9 rfl rfl)
theorem dX4_guard_101 : decode cX4_guard 101 = .ok (.iconst 1, 1) := dk_4 (dk_at dksX4_guard_4 10 rfl rfl)
theorem dX4_guard_102 : decode cX4_guard 102 = .ok (.iload_n 3, 1) := dk_29 (dk_at dksX4_guard_4 11 rfl rfl)
theorem dX4_guard_103 : decode cX4_guard 103 = .ok (.iastore, 1) := dk_79 (dk_at dksX4_guard_4 12 rfl rfl)
theorem dX4_guard_104 : decode cX4_guard 104 = .ok (.aload_n 0, 1) := dk_42 (dk_at dksX4_guard_4 13 rfl rfl)
theorem dX4_guard_105 : decode cX4_guard 105 = .ok (.dup, 1) := dk_89 (dk_at dksX4_guard_4 14 rfl rfl)
theorem dX4_guard_106 : decode cX4_guard 106 = .ok (.getfield 88, 3) := dk_180 0 88 (dk_at dksX4_guard_4 15 rfl rfl)
theorem dX4_guard_109 : decode cX4_guard 109 = .ok (.iconst 1, 1) := dk_4 (dk_at dksX4_guard_4 18 rfl rfl)
theorem dX4_guard_110 : decode cX4_guard 110 = .ok (.iload_n 1, 1) := dk_27 (dk_at dksX4_guard_4 19 rfl rfl)
theorem dX4_guard_111 : decode cX4_guard 111 = .ok (.ishl, 1) := dk_120 (dk_at dksX4_guard_4 20 rfl rfl)
theorem dX4_guard_112 : decode cX4_guard 112 = .ok (.iconst (-1), 1) := dk_2 (dk_at dksX4_guard_4 21 rfl rfl)
theorem dX4_guard_113 : decode cX4_guard 113 = .ok (.ixor, 1) := dk_130 (dk_at dksX4_guard_4 22 rfl rfl)
theorem dX4_guard_114 : decode cX4_guard 114 = .ok (.iand, 1) := dk_126 (dk_at dksX4_guard_4 23 rfl rfl)
theorem dX4_guard_115 : decode cX4_guard 115 = .ok (.putfield 88, 3) := dk_181 0 88 (dk_at dksX4_guard_5 0 rfl rfl)
theorem dX4_guard_118 : decode cX4_guard 118 = .ok (.iload_n 2, 1) := dk_28 (dk_at dksX4_guard_5 3 rfl rfl)
theorem dX4_guard_119 : decode cX4_guard 119 = .ok (.ireturn, 1) := dk_172 (dk_at dksX4_guard_5 4 rfl rfl)
abbrev cX4_branch : ByteArray := prog_20_method_12_code
def yX4_branch : MethodName := ⟨RX4, "branch", "(II)I"⟩
def dkwX4_branch_5 : List UInt8 := [21, 5, 92, 46, 4, 96, 79, 132, 6, 1, 167, 255, 150, 21, 5, 172]
abbrev dktX4_branch_5 : List UInt8 := dkwX4_branch_5 ++ []
def dkwX4_branch_4 : List UInt8 := [180, 0, 58, 4, 100, 181, 0, 58, 42, 180, 0, 27, 21, 5, 50, 21, 6, 21, 7, 79, 42, 180, 0, 30]
abbrev dktX4_branch_4 : List UInt8 := dkwX4_branch_4 ++ dktX4_branch_5
def dkwX4_branch_3 : List UInt8 := [180, 0, 58, 21, 6, 79, 42, 89, 180, 0, 58, 4, 96, 181, 0, 58, 42, 182, 0, 91, 54, 7, 42, 89]
abbrev dktX4_branch_3 : List UInt8 := dkwX4_branch_3 ++ dktX4_branch_4
def dkwX4_branch_2 : List UInt8 := [180, 0, 39, 42, 180, 0, 58, 27, 4, 160, 0, 8, 21, 4, 167, 0, 4, 2, 79, 42, 180, 0, 42, 42]
abbrev dktX4_branch_2 : List UInt8 := dkwX4_branch_2 ++ dktX4_branch_3
def dkwX4_branch_1 : List UInt8 := [21, 6, 28, 162, 0, 106, 42, 180, 0, 85, 154, 0, 99, 42, 180, 0, 36, 42, 180, 0, 58, 29, 79, 42]
abbrev dktX4_branch_1 : List UInt8 := dkwX4_branch_1 ++ dktX4_branch_2
def dkwX4_branch_0 : List UInt8 := [42, 180, 0, 62, 62, 42, 180, 0, 65, 54, 4, 42, 27, 29, 21, 4, 182, 0, 122, 54, 5, 3, 54, 6]
abbrev dktX4_branch_0 : List UInt8 := dkwX4_branch_0 ++ dktX4_branch_1
theorem dksX4_branch_0 : cX4_branch.data.toList.drop 0 = dktX4_branch_0 := by decide +kernel
theorem dksX4_branch_1 : cX4_branch.data.toList.drop 24 = dktX4_branch_1 := dk_seg dksX4_branch_0 24 rfl rfl
theorem dksX4_branch_2 : cX4_branch.data.toList.drop 48 = dktX4_branch_2 := dk_seg dksX4_branch_1 24 rfl rfl
theorem dksX4_branch_3 : cX4_branch.data.toList.drop 72 = dktX4_branch_3 := dk_seg dksX4_branch_2 24 rfl rfl
theorem dksX4_branch_4 : cX4_branch.data.toList.drop 96 = dktX4_branch_4 := dk_seg dksX4_branch_3 24 rfl rfl
theorem dksX4_branch_5 : cX4_branch.data.toList.drop 120 = dktX4_branch_5 := dk_seg dksX4_branch_4 24 rfl rfl
theorem dX4_branch_0 : decode cX4_branch 0 = .ok (.aload_n 0, 1) := dk_42 (dk_at dksX4_branch_0 0 rfl rfl)
theorem dX4_branch_1 : decode cX4_branch 1 = .ok (.getfield 62, 3) := dk_180 0 62 (dk_at dksX4_branch_0 1 rfl rfl)
theorem dX4_branch_4 : decode cX4_branch 4 = .ok (.istore_n 3, 1) := dk_62 (dk_at dksX4_branch_0 4 rfl rfl)
theorem dX4_branch_5 : decode cX4_branch 5 = .ok (.aload_n 0, 1) := dk_42 (dk_at dksX4_branch_0 5 rfl rfl)
theorem dX4_branch_6 : decode cX4_branch 6 = .ok (.getfield 65, 3) := dk_180 0 65 (dk_at dksX4_branch_0 6 rfl rfl)
theorem dX4_branch_9 : decode cX4_branch 9 = .ok (.istore 4, 2) := dk_54 4 (dk_at dksX4_branch_0 9 rfl rfl)
theorem dX4_branch_11 : decode cX4_branch 11 = .ok (.aload_n 0, 1) := dk_42 (dk_at dksX4_branch_0 11 rfl rfl)
theorem dX4_branch_12 : decode cX4_branch 12 = .ok (.iload_n 1, 1) := dk_27 (dk_at dksX4_branch_0 12 rfl rfl)
theorem dX4_branch_13 : decode cX4_branch 13 = .ok (.iload_n 3, 1) := dk_29 (dk_at dksX4_branch_0 13 rfl rfl)
theorem dX4_branch_14 : decode cX4_branch 14 = .ok (.iload 4, 2) := dk_21 4 (dk_at dksX4_branch_0 14 rfl rfl)
theorem dX4_branch_16 : decode cX4_branch 16 = .ok (.invokevirtual 122, 3) := dk_182 0 122 (dk_at dksX4_branch_0 16 rfl rfl)
theorem dX4_branch_19 : decode cX4_branch 19 = .ok (.istore 5, 2) := dk_54 5 (dk_at dksX4_branch_0 19 rfl rfl)
theorem dX4_branch_21 : decode cX4_branch 21 = .ok (.iconst 0, 1) := dk_3 (dk_at dksX4_branch_0 21 rfl rfl)
theorem dX4_branch_22 : decode cX4_branch 22 = .ok (.istore 6, 2) := dk_54 6 (dk_at dksX4_branch_0 22 rfl rfl)
theorem dX4_branch_24 : decode cX4_branch 24 = .ok (.iload 6, 2) := dk_21 6 (dk_at dksX4_branch_1 0 rfl rfl)
theorem dX4_branch_26 : decode cX4_branch 26 = .ok (.iload_n 2, 1) := dk_28 (dk_at dksX4_branch_1 2 rfl rfl)
theorem dX4_branch_27 : decode cX4_branch 27 = .ok (.if_icmp .ge 106, 3) := dk_162 0 106 (dk_at dksX4_branch_1 3 rfl rfl)
theorem dX4_branch_30 : decode cX4_branch 30 = .ok (.aload_n 0, 1) := dk_42 (dk_at dksX4_branch_1 6 rfl rfl)
theorem dX4_branch_31 : decode cX4_branch 31 = .ok (.getfield 85, 3) := dk_180 0 85 (dk_at dksX4_branch_1 7 rfl rfl)
theorem dX4_branch_34 : decode cX4_branch 34 = .ok (.ifCond .ne 99, 3) := dk_154 0 99 (dk_at dksX4_branch_1 10 rfl rfl)
theorem dX4_branch_37 : decode cX4_branch 37 = .ok (.aload_n 0, 1) := dk_42 (dk_at dksX4_branch_1 13 rfl rfl)
theorem dX4_branch_38 : decode cX4_branch 38 = .ok (.getfield 36, 3) := dk_180 0 36 (dk_at dksX4_branch_1 14 rfl rfl)
theorem dX4_branch_41 : decode cX4_branch 41 = .ok (.aload_n 0, 1) := dk_42 (dk_at dksX4_branch_1 17 rfl rfl)
theorem dX4_branch_42 : decode cX4_branch 42 = .ok (.getfield 58, 3) := dk_180 0 58 (dk_at dksX4_branch_1 18 rfl rfl)
theorem dX4_branch_45 : decode cX4_branch 45 = .ok (.iload_n 3, 1) := dk_29 (dk_at dksX4_branch_1 21 rfl rfl)
theorem dX4_branch_46 : decode cX4_branch 46 = .ok (.iastore, 1) := dk_79 (dk_at dksX4_branch_1 22 rfl rfl)
theorem dX4_branch_47 : decode cX4_branch 47 = .ok (.aload_n 0, 1) := dk_42 (dk_at dksX4_branch_1 23 rfl rfl)
theorem dX4_branch_48 : decode cX4_branch 48 = .ok (.getfield 39, 3) := dk_180 0 39 (dk_at dksX4_branch_2 0 rfl rfl)
theorem dX4_branch_51 : decode cX4_branch 51 = .ok (.aload_n 0, 1) := dk_42 (dk_at dksX4_branch_2 3 rfl rfl)
theorem dX4_branch_52 : decode cX4_branch 52 = .ok (.getfield 58, 3) := dk_180 0 58 (dk_at dksX4_branch_2 4 rfl rfl)
theorem dX4_branch_55 : decode cX4_branch 55 = .ok (.iload_n 1, 1) := dk_27 (dk_at dksX4_branch_2 7 rfl rfl)
theorem dX4_branch_56 : decode cX4_branch 56 = .ok (.iconst 1, 1) := dk_4 (dk_at dksX4_branch_2 8 rfl rfl)
theorem dX4_branch_57 : decode cX4_branch 57 = .ok (.if_icmp .ne 8, 3) := dk_160 0 8 (dk_at dksX4_branch_2 9 rfl rfl)
theorem dX4_branch_60 : decode cX4_branch 60 = .ok (.iload 4, 2) := dk_21 4 (dk_at dksX4_branch_2 12 rfl rfl)
theorem dX4_branch_62 : decode cX4_branch 62 = .ok (.goto 4, 3) := dk_167 0 4 (dk_at dksX4_branch_2 14 rfl rfl)
theorem dX4_branch_65 : decode cX4_branch 65 = .ok (.iconst (-1), 1) := dk_2 (dk_at dksX4_branch_2 17 rfl rfl)
theorem dX4_branch_66 : decode cX4_branch 66 = .ok (.iastore, 1) := dk_79 (dk_at dksX4_branch_2 18 rfl rfl)
theorem dX4_branch_67 : decode cX4_branch 67 = .ok (.aload_n 0, 1) := dk_42 (dk_at dksX4_branch_2 19 rfl rfl)
theorem dX4_branch_68 : decode cX4_branch 68 = .ok (.getfield 42, 3) := dk_180 0 42 (dk_at dksX4_branch_2 20 rfl rfl)
theorem dX4_branch_71 : decode cX4_branch 71 = .ok (.aload_n 0, 1) := dk_42 (dk_at dksX4_branch_2 23 rfl rfl)
theorem dX4_branch_72 : decode cX4_branch 72 = .ok (.getfield 58, 3) := dk_180 0 58 (dk_at dksX4_branch_3 0 rfl rfl)
theorem dX4_branch_75 : decode cX4_branch 75 = .ok (.iload 6, 2) := dk_21 6 (dk_at dksX4_branch_3 3 rfl rfl)
theorem dX4_branch_77 : decode cX4_branch 77 = .ok (.iastore, 1) := dk_79 (dk_at dksX4_branch_3 5 rfl rfl)
theorem dX4_branch_78 : decode cX4_branch 78 = .ok (.aload_n 0, 1) := dk_42 (dk_at dksX4_branch_3 6 rfl rfl)
theorem dX4_branch_79 : decode cX4_branch 79 = .ok (.dup, 1) := dk_89 (dk_at dksX4_branch_3 7 rfl rfl)
theorem dX4_branch_80 : decode cX4_branch 80 = .ok (.getfield 58, 3) := dk_180 0 58 (dk_at dksX4_branch_3 8 rfl rfl)
theorem dX4_branch_83 : decode cX4_branch 83 = .ok (.iconst 1, 1) := dk_4 (dk_at dksX4_branch_3 11 rfl rfl)
theorem dX4_branch_84 : decode cX4_branch 84 = .ok (.iadd, 1) := dk_96 (dk_at dksX4_branch_3 12 rfl rfl)
theorem dX4_branch_85 : decode cX4_branch 85 = .ok (.putfield 58, 3) := dk_181 0 58 (dk_at dksX4_branch_3 13 rfl rfl)
theorem dX4_branch_88 : decode cX4_branch 88 = .ok (.aload_n 0, 1) := dk_42 (dk_at dksX4_branch_3 16 rfl rfl)
theorem dX4_branch_89 : decode cX4_branch 89 = .ok (.invokevirtual 91, 3) := dk_182 0 91 (dk_at dksX4_branch_3 17 rfl rfl)
theorem dX4_branch_92 : decode cX4_branch 92 = .ok (.istore 7, 2) := dk_54 7 (dk_at dksX4_branch_3 20 rfl rfl)
theorem dX4_branch_94 : decode cX4_branch 94 = .ok (.aload_n 0, 1) := dk_42 (dk_at dksX4_branch_3 22 rfl rfl)
theorem dX4_branch_95 : decode cX4_branch 95 = .ok (.dup, 1) := dk_89 (dk_at dksX4_branch_3 23 rfl rfl)
theorem dX4_branch_96 : decode cX4_branch 96 = .ok (.getfield 58, 3) := dk_180 0 58 (dk_at dksX4_branch_4 0 rfl rfl)
theorem dX4_branch_99 : decode cX4_branch 99 = .ok (.iconst 1, 1) := dk_4 (dk_at dksX4_branch_4 3 rfl rfl)
theorem dX4_branch_100 : decode cX4_branch 100 = .ok (.isub, 1) := dk_100 (dk_at dksX4_branch_4 4 rfl rfl)
theorem dX4_branch_101 : decode cX4_branch 101 = .ok (.putfield 58, 3) := dk_181 0 58 (dk_at dksX4_branch_4 5 rfl rfl)
theorem dX4_branch_104 : decode cX4_branch 104 = .ok (.aload_n 0, 1) := dk_42 (dk_at dksX4_branch_4 8 rfl rfl)
theorem dX4_branch_105 : decode cX4_branch 105 = .ok (.getfield 27, 3) := dk_180 0 27 (dk_at dksX4_branch_4 9 rfl rfl)
theorem dX4_branch_108 : decode cX4_branch 108 = .ok (.iload 5, 2) := dk_21 5 (dk_at dksX4_branch_4 12 rfl rfl)
theorem dX4_branch_110 : decode cX4_branch 110 = .ok (.aaload, 1) := dk_50 (dk_at dksX4_branch_4 14 rfl rfl)
theorem dX4_branch_111 : decode cX4_branch 111 = .ok (.iload 6, 2) := dk_21 6 (dk_at dksX4_branch_4 15 rfl rfl)
theorem dX4_branch_113 : decode cX4_branch 113 = .ok (.iload 7, 2) := dk_21 7 (dk_at dksX4_branch_4 17 rfl rfl)
theorem dX4_branch_115 : decode cX4_branch 115 = .ok (.iastore, 1) := dk_79 (dk_at dksX4_branch_4 19 rfl rfl)
theorem dX4_branch_116 : decode cX4_branch 116 = .ok (.aload_n 0, 1) := dk_42 (dk_at dksX4_branch_4 20 rfl rfl)
theorem dX4_branch_117 : decode cX4_branch 117 = .ok (.getfield 30, 3) := dk_180 0 30 (dk_at dksX4_branch_4 21 rfl rfl)
theorem dX4_branch_120 : decode cX4_branch 120 = .ok (.iload 5, 2) := dk_21 5 (dk_at dksX4_branch_5 0 rfl rfl)
theorem dX4_branch_122 : decode cX4_branch 122 = .ok (.dup2, 1) := dk_92 (dk_at dksX4_branch_5 2 rfl rfl)
theorem dX4_branch_123 : decode cX4_branch 123 = .ok (.iaload, 1) := dk_46 (dk_at dksX4_branch_5 3 rfl rfl)
theorem dX4_branch_124 : decode cX4_branch 124 = .ok (.iconst 1, 1) := dk_4 (dk_at dksX4_branch_5 4 rfl rfl)
theorem dX4_branch_125 : decode cX4_branch 125 = .ok (.iadd, 1) := dk_96 (dk_at dksX4_branch_5 5 rfl rfl)
theorem dX4_branch_126 : decode cX4_branch 126 = .ok (.iastore, 1) := dk_79 (dk_at dksX4_branch_5 6 rfl rfl)
theorem dX4_branch_127 : decode cX4_branch 127 = .ok (.iinc 6 1, 3) := dk_132 6 1 (dk_at dksX4_branch_5 7 rfl rfl)
theorem dX4_branch_130 : decode cX4_branch 130 = .ok (.goto (-106), 3) := dk_167 255 150 (dk_at dksX4_branch_5 10 rfl rfl)
theorem dX4_branch_133 : decode cX4_branch 133 = .ok (.iload 5, 2) := dk_21 5 (dk_at dksX4_branch_5 13 rfl rfl)
theorem dX4_branch_135 : decode cX4_branch 135 = .ok (.ireturn, 1) := dk_172 (dk_at dksX4_branch_5 15 rfl rfl)
abbrev cX4_choose : ByteArray := prog_20_method_11_code
def yX4_choose : MethodName := ⟨RX4, "choose", "()I"⟩
def dkwX4_choose_1 : List UInt8 := [172]
abbrev dktX4_choose_1 : List UInt8 := dkwX4_choose_1 ++ []
def dkwX4_choose_0 : List UInt8 := [42, 180, 0, 54, 153, 0, 7, 42, 182, 0, 146, 42, 3, 42, 42, 180, 0, 65, 182, 0, 150, 182, 0, 132]
abbrev dktX4_choose_0 : List UInt8 := dkwX4_choose_0 ++ dktX4_choose_1
theorem dksX4_choose_0 : cX4_choose.data.toList.drop 0 = dktX4_choose_0 := by decide +kernel
theorem dksX4_choose_1 : cX4_choose.data.toList.drop 24 = dktX4_choose_1 := dk_seg dksX4_choose_0 24 rfl rfl
theorem dX4_choose_0 : decode cX4_choose 0 = .ok (.aload_n 0, 1) := dk_42 (dk_at dksX4_choose_0 0 rfl rfl)
theorem dX4_choose_1 : decode cX4_choose 1 = .ok (.getfield 54, 3) := dk_180 0 54 (dk_at dksX4_choose_0 1 rfl rfl)
theorem dX4_choose_4 : decode cX4_choose 4 = .ok (.ifCond .eq 7, 3) := dk_153 0 7 (dk_at dksX4_choose_0 4 rfl rfl)
theorem dX4_choose_7 : decode cX4_choose 7 = .ok (.aload_n 0, 1) := dk_42 (dk_at dksX4_choose_0 7 rfl rfl)
theorem dX4_choose_8 : decode cX4_choose 8 = .ok (.invokevirtual 146, 3) := dk_182 0 146 (dk_at dksX4_choose_0 8 rfl rfl)
theorem dX4_choose_11 : decode cX4_choose 11 = .ok (.aload_n 0, 1) := dk_42 (dk_at dksX4_choose_0 11 rfl rfl)
theorem dX4_choose_12 : decode cX4_choose 12 = .ok (.iconst 0, 1) := dk_3 (dk_at dksX4_choose_0 12 rfl rfl)
theorem dX4_choose_13 : decode cX4_choose 13 = .ok (.aload_n 0, 1) := dk_42 (dk_at dksX4_choose_0 13 rfl rfl)
theorem dX4_choose_14 : decode cX4_choose 14 = .ok (.aload_n 0, 1) := dk_42 (dk_at dksX4_choose_0 14 rfl rfl)
theorem dX4_choose_15 : decode cX4_choose 15 = .ok (.getfield 65, 3) := dk_180 0 65 (dk_at dksX4_choose_0 15 rfl rfl)
theorem dX4_choose_18 : decode cX4_choose 18 = .ok (.invokevirtual 150, 3) := dk_182 0 150 (dk_at dksX4_choose_0 18 rfl rfl)
theorem dX4_choose_21 : decode cX4_choose 21 = .ok (.invokevirtual 132, 3) := dk_182 0 132 (dk_at dksX4_choose_0 21 rfl rfl)
theorem dX4_choose_24 : decode cX4_choose 24 = .ok (.ireturn, 1) := dk_172 (dk_at dksX4_choose_1 0 rfl rfl)
abbrev cX4_mostNeeded : ByteArray := prog_20_method_13_code
def yX4_mostNeeded : MethodName := ⟨RX4, "mostNeeded", "()V"⟩
def dkwX4_mostNeeded_8 : List UInt8 := [180, 0, 45, 27, 46, 181, 0, 62, 42, 42, 180, 0, 48, 27, 46, 181, 0, 65, 42, 3, 181, 0, 68, 177]
abbrev dktX4_mostNeeded_8 : List UInt8 := dkwX4_mostNeeded_8 ++ []
def dkwX4_mostNeeded_7 : List UInt8 := [46, 42, 180, 0, 45, 27, 46, 162, 0, 7, 28, 167, 0, 4, 27, 60, 132, 2, 1, 167, 255, 196, 42, 42]
abbrev dktX4_mostNeeded_7 : List UInt8 := dkwX4_mostNeeded_7 ++ dktX4_mostNeeded_8
def dkwX4_mostNeeded_6 : List UInt8 := [42, 180, 0, 51, 27, 46, 184, 0, 176, 100, 62, 29, 157, 0, 22, 29, 154, 0, 22, 42, 180, 0, 45, 28]
abbrev dktX4_mostNeeded_6 : List UInt8 := dkwX4_mostNeeded_6 ++ dktX4_mostNeeded_7
def dkwX4_mostNeeded_5 : List UInt8 := [167, 255, 151, 3, 60, 4, 61, 28, 42, 180, 0, 153, 162, 0, 58, 42, 180, 0, 51, 28, 46, 184, 0, 176]
abbrev dktX4_mostNeeded_5 : List UInt8 := dkwX4_mostNeeded_5 ++ dktX4_mostNeeded_6
def dkwX4_mostNeeded_4 : List UInt8 := [182, 0, 162, 182, 0, 166, 28, 4, 96, 27, 182, 0, 172, 132, 2, 1, 167, 255, 205, 132, 1, 1]
abbrev dktX4_mostNeeded_4 : List UInt8 := dkwX4_mostNeeded_4 ++ dktX4_mostNeeded_5
def dkwX4_mostNeeded_3 : List UInt8 := [180, 0, 3, 42, 180, 0, 3, 180, 0, 95, 27, 182, 0, 108, 192, 0, 112, 180, 0, 159, 28, 46]
abbrev dktX4_mostNeeded_3 : List UInt8 := dkwX4_mostNeeded_3 ++ dktX4_mostNeeded_4
def dkwX4_mostNeeded_2 : List UInt8 := [192, 0, 112, 182, 0, 114, 153, 0, 59, 3, 61, 28, 42, 180, 0, 3, 180, 0, 156, 162, 0, 46, 42, 42]
abbrev dktX4_mostNeeded_2 : List UInt8 := dkwX4_mostNeeded_2 ++ dktX4_mostNeeded_3
def dkwX4_mostNeeded_1 : List UInt8 := [180, 0, 88, 27, 184, 0, 104, 154, 0, 80, 42, 42, 180, 0, 3, 180, 0, 95, 27, 182, 0, 108]
abbrev dktX4_mostNeeded_1 : List UInt8 := dkwX4_mostNeeded_1 ++ dktX4_mostNeeded_2
def dkwX4_mostNeeded_0 : List UInt8 := [42, 3, 181, 0, 153, 3, 60, 27, 42, 180, 0, 3, 180, 0, 95, 182, 0, 99, 162, 0, 97, 42]
abbrev dktX4_mostNeeded_0 : List UInt8 := dkwX4_mostNeeded_0 ++ dktX4_mostNeeded_1
theorem dksX4_mostNeeded_0 : cX4_mostNeeded.data.toList.drop 0 = dktX4_mostNeeded_0 := by decide +kernel
theorem dksX4_mostNeeded_1 : cX4_mostNeeded.data.toList.drop 22 = dktX4_mostNeeded_1 := dk_seg dksX4_mostNeeded_0 22 rfl rfl
theorem dksX4_mostNeeded_2 : cX4_mostNeeded.data.toList.drop 44 = dktX4_mostNeeded_2 := dk_seg dksX4_mostNeeded_1 22 rfl rfl
theorem dksX4_mostNeeded_3 : cX4_mostNeeded.data.toList.drop 68 = dktX4_mostNeeded_3 := dk_seg dksX4_mostNeeded_2 24 rfl rfl
theorem dksX4_mostNeeded_4 : cX4_mostNeeded.data.toList.drop 90 = dktX4_mostNeeded_4 := dk_seg dksX4_mostNeeded_3 22 rfl rfl
theorem dksX4_mostNeeded_5 : cX4_mostNeeded.data.toList.drop 112 = dktX4_mostNeeded_5 := dk_seg dksX4_mostNeeded_4 22 rfl rfl
theorem dksX4_mostNeeded_6 : cX4_mostNeeded.data.toList.drop 136 = dktX4_mostNeeded_6 := dk_seg dksX4_mostNeeded_5 24 rfl rfl
theorem dksX4_mostNeeded_7 : cX4_mostNeeded.data.toList.drop 160 = dktX4_mostNeeded_7 := dk_seg dksX4_mostNeeded_6 24 rfl rfl
theorem dksX4_mostNeeded_8 : cX4_mostNeeded.data.toList.drop 184 = dktX4_mostNeeded_8 := dk_seg dksX4_mostNeeded_7 24 rfl rfl
theorem dX4_mostNeeded_0 : decode cX4_mostNeeded 0 = .ok (.aload_n 0, 1) := dk_42 (dk_at dksX4_mostNeeded_0 0 rfl rfl)
theorem dX4_mostNeeded_1 : decode cX4_mostNeeded 1 = .ok (.iconst 0, 1) := dk_3 (dk_at dksX4_mostNeeded_0 1 rfl rfl)
theorem dX4_mostNeeded_2 : decode cX4_mostNeeded 2 = .ok (.putfield 153, 3) := dk_181 0 153 (dk_at dksX4_mostNeeded_0 2 rfl rfl)
theorem dX4_mostNeeded_5 : decode cX4_mostNeeded 5 = .ok (.iconst 0, 1) := dk_3 (dk_at dksX4_mostNeeded_0 5 rfl rfl)
theorem dX4_mostNeeded_6 : decode cX4_mostNeeded 6 = .ok (.istore_n 1, 1) := dk_60 (dk_at dksX4_mostNeeded_0 6 rfl rfl)
theorem dX4_mostNeeded_7 : decode cX4_mostNeeded 7 = .ok (.iload_n 1, 1) := dk_27 (dk_at dksX4_mostNeeded_0 7 rfl rfl)
theorem dX4_mostNeeded_8 : decode cX4_mostNeeded 8 = .ok (.aload_n 0, 1) := dk_42 (dk_at dksX4_mostNeeded_0 8 rfl rfl)
theorem dX4_mostNeeded_9 : decode cX4_mostNeeded 9 = .ok (.getfield 3, 3) := dk_180 0 3 (dk_at dksX4_mostNeeded_0 9 rfl rfl)
theorem dX4_mostNeeded_12 : decode cX4_mostNeeded 12 = .ok (.getfield 95, 3) := dk_180 0 95 (dk_at dksX4_mostNeeded_0 12 rfl rfl)
theorem dX4_mostNeeded_15 : decode cX4_mostNeeded 15 = .ok (.invokevirtual 99, 3) := dk_182 0 99 (dk_at dksX4_mostNeeded_0 15 rfl rfl)
theorem dX4_mostNeeded_18 : decode cX4_mostNeeded 18 = .ok (.if_icmp .ge 97, 3) := dk_162 0 97 (dk_at dksX4_mostNeeded_0 18 rfl rfl)
theorem dX4_mostNeeded_21 : decode cX4_mostNeeded 21 = .ok (.aload_n 0, 1) := dk_42 (dk_at dksX4_mostNeeded_0 21 rfl rfl)
theorem dX4_mostNeeded_22 : decode cX4_mostNeeded 22 = .ok (.getfield 88, 3) := dk_180 0 88 (dk_at dksX4_mostNeeded_1 0 rfl rfl)
theorem dX4_mostNeeded_25 : decode cX4_mostNeeded 25 = .ok (.iload_n 1, 1) := dk_27 (dk_at dksX4_mostNeeded_1 3 rfl rfl)
theorem dX4_mostNeeded_26 : decode cX4_mostNeeded 26 = .ok (.invokestatic 104, 3) := dk_184 0 104 (dk_at dksX4_mostNeeded_1 4 rfl rfl)
theorem dX4_mostNeeded_29 : decode cX4_mostNeeded 29 = .ok (.ifCond .ne 80, 3) := dk_154 0 80 (dk_at dksX4_mostNeeded_1 7 rfl rfl)
theorem dX4_mostNeeded_32 : decode cX4_mostNeeded 32 = .ok (.aload_n 0, 1) := dk_42 (dk_at dksX4_mostNeeded_1 10 rfl rfl)
theorem dX4_mostNeeded_33 : decode cX4_mostNeeded 33 = .ok (.aload_n 0, 1) := dk_42 (dk_at dksX4_mostNeeded_1 11 rfl rfl)
theorem dX4_mostNeeded_34 : decode cX4_mostNeeded 34 = .ok (.getfield 3, 3) := dk_180 0 3 (dk_at dksX4_mostNeeded_1 12 rfl rfl)
theorem dX4_mostNeeded_37 : decode cX4_mostNeeded 37 = .ok (.getfield 95, 3) := dk_180 0 95 (dk_at dksX4_mostNeeded_1 15 rfl rfl)
theorem dX4_mostNeeded_40 : decode cX4_mostNeeded 40 = .ok (.iload_n 1, 1) := dk_27 (dk_at dksX4_mostNeeded_1 18 rfl rfl)
theorem dX4_mostNeeded_41 : decode cX4_mostNeeded 41 = .ok (.invokevirtual 108, 3) := dk_182 0 108 (dk_at dksX4_mostNeeded_1 19 rfl rfl)
theorem dX4_mostNeeded_44 : decode cX4_mostNeeded 44 = .ok (.checkcast 112, 3) := dk_192 0 112 (dk_at dksX4_mostNeeded_2 0 rfl rfl)
theorem dX4_mostNeeded_47 : decode cX4_mostNeeded 47 = .ok (.invokevirtual 114, 3) := dk_182 0 114 (dk_at dksX4_mostNeeded_2 3 rfl rfl)
theorem dX4_mostNeeded_50 : decode cX4_mostNeeded 50 = .ok (.ifCond .eq 59, 3) := dk_153 0 59 (dk_at dksX4_mostNeeded_2 6 rfl rfl)
theorem dX4_mostNeeded_53 : decode cX4_mostNeeded 53 = .ok (.iconst 0, 1) := dk_3 (dk_at dksX4_mostNeeded_2 9 rfl rfl)
theorem dX4_mostNeeded_54 : decode cX4_mostNeeded 54 = .ok (.istore_n 2, 1) := dk_61 (dk_at dksX4_mostNeeded_2 10 rfl rfl)
theorem dX4_mostNeeded_55 : decode cX4_mostNeeded 55 = .ok (.iload_n 2, 1) := dk_28 (dk_at dksX4_mostNeeded_2 11 rfl rfl)
theorem dX4_mostNeeded_56 : decode cX4_mostNeeded 56 = .ok (.aload_n 0, 1) := dk_42 (dk_at dksX4_mostNeeded_2 12 rfl rfl)
theorem dX4_mostNeeded_57 : decode cX4_mostNeeded 57 = .ok (.getfield 3, 3) := dk_180 0 3 (dk_at dksX4_mostNeeded_2 13 rfl rfl)
theorem dX4_mostNeeded_60 : decode cX4_mostNeeded 60 = .ok (.getfield 156, 3) := dk_180 0 156 (dk_at dksX4_mostNeeded_2 16 rfl rfl)
theorem dX4_mostNeeded_63 : decode cX4_mostNeeded 63 = .ok (.if_icmp .ge 46, 3) := dk_162 0 46 (dk_at dksX4_mostNeeded_2 19 rfl rfl)
theorem dX4_mostNeeded_66 : decode cX4_mostNeeded 66 = .ok (.aload_n 0, 1) := dk_42 (dk_at dksX4_mostNeeded_2 22 rfl rfl)
theorem dX4_mostNeeded_67 : decode cX4_mostNeeded 67 = .ok (.aload_n 0, 1) := dk_42 (dk_at dksX4_mostNeeded_2 23 rfl rfl)
theorem dX4_mostNeeded_68 : decode cX4_mostNeeded 68 = .ok (.getfield 3, 3) := dk_180 0 3 (dk_at dksX4_mostNeeded_3 0 rfl rfl)
theorem dX4_mostNeeded_71 : decode cX4_mostNeeded 71 = .ok (.aload_n 0, 1) := dk_42 (dk_at dksX4_mostNeeded_3 3 rfl rfl)
theorem dX4_mostNeeded_72 : decode cX4_mostNeeded 72 = .ok (.getfield 3, 3) := dk_180 0 3 (dk_at dksX4_mostNeeded_3 4 rfl rfl)
theorem dX4_mostNeeded_75 : decode cX4_mostNeeded 75 = .ok (.getfield 95, 3) := dk_180 0 95 (dk_at dksX4_mostNeeded_3 7 rfl rfl)
theorem dX4_mostNeeded_78 : decode cX4_mostNeeded 78 = .ok (.iload_n 1, 1) := dk_27 (dk_at dksX4_mostNeeded_3 10 rfl rfl)
theorem dX4_mostNeeded_79 : decode cX4_mostNeeded 79 = .ok (.invokevirtual 108, 3) := dk_182 0 108 (dk_at dksX4_mostNeeded_3 11 rfl rfl)
theorem dX4_mostNeeded_82 : decode cX4_mostNeeded 82 = .ok (.checkcast 112, 3) := dk_192 0 112 (dk_at dksX4_mostNeeded_3 14 rfl rfl)
theorem dX4_mostNeeded_85 : decode cX4_mostNeeded 85 = .ok (.getfield 159, 3) := dk_180 0 159 (dk_at dksX4_mostNeeded_3 17 rfl rfl)
theorem dX4_mostNeeded_88 : decode cX4_mostNeeded 88 = .ok (.iload_n 2, 1) := dk_28 (dk_at dksX4_mostNeeded_3 20 rfl rfl)
theorem dX4_mostNeeded_89 : decode cX4_mostNeeded 89 = .ok (.iaload, 1) := dk_46 (dk_at dksX4_mostNeeded_3 21 rfl rfl)
theorem dX4_mostNeeded_90 : decode cX4_mostNeeded 90 = .ok (.invokevirtual 162, 3) := dk_182 0 162 (dk_at dksX4_mostNeeded_4 0 rfl rfl)
theorem dX4_mostNeeded_93 : decode cX4_mostNeeded 93 = .ok (.invokevirtual 166, 3) := dk_182 0 166 (dk_at dksX4_mostNeeded_4 3 rfl rfl)
theorem dX4_mostNeeded_96 : decode cX4_mostNeeded 96 = .ok (.iload_n 2, 1) := dk_28 (dk_at dksX4_mostNeeded_4 6 rfl rfl)
theorem dX4_mostNeeded_97 : decode cX4_mostNeeded 97 = .ok (.iconst 1, 1) := dk_4 (dk_at dksX4_mostNeeded_4 7 rfl rfl)
theorem dX4_mostNeeded_98 : decode cX4_mostNeeded 98 = .ok (.iadd, 1) := dk_96 (dk_at dksX4_mostNeeded_4 8 rfl rfl)
theorem dX4_mostNeeded_99 : decode cX4_mostNeeded 99 = .ok (.iload_n 1, 1) := dk_27 (dk_at dksX4_mostNeeded_4 9 rfl rfl)
theorem dX4_mostNeeded_100 : decode cX4_mostNeeded 100 = .ok (.invokevirtual 172, 3) := dk_182 0 172 (dk_at dksX4_mostNeeded_4 10 rfl rfl)
theorem dX4_mostNeeded_103 : decode cX4_mostNeeded 103 = .ok (.iinc 2 1, 3) := dk_132 2 1 (dk_at dksX4_mostNeeded_4 13 rfl rfl)
theorem dX4_mostNeeded_106 : decode cX4_mostNeeded 106 = .ok (.goto (-51), 3) := dk_167 255 205 (dk_at dksX4_mostNeeded_4 16 rfl rfl)
theorem dX4_mostNeeded_109 : decode cX4_mostNeeded 109 = .ok (.iinc 1 1, 3) := dk_132 1 1 (dk_at dksX4_mostNeeded_4 19 rfl rfl)
theorem dX4_mostNeeded_112 : decode cX4_mostNeeded 112 = .ok (.goto (-105), 3) := dk_167 255 151 (dk_at dksX4_mostNeeded_5 0 rfl rfl)
theorem dX4_mostNeeded_115 : decode cX4_mostNeeded 115 = .ok (.iconst 0, 1) := dk_3 (dk_at dksX4_mostNeeded_5 3 rfl rfl)
theorem dX4_mostNeeded_116 : decode cX4_mostNeeded 116 = .ok (.istore_n 1, 1) := dk_60 (dk_at dksX4_mostNeeded_5 4 rfl rfl)
theorem dX4_mostNeeded_117 : decode cX4_mostNeeded 117 = .ok (.iconst 1, 1) := dk_4 (dk_at dksX4_mostNeeded_5 5 rfl rfl)
theorem dX4_mostNeeded_118 : decode cX4_mostNeeded 118 = .ok (.istore_n 2, 1) := dk_61 (dk_at dksX4_mostNeeded_5 6 rfl rfl)
theorem dX4_mostNeeded_119 : decode cX4_mostNeeded 119 = .ok (.iload_n 2, 1) := dk_28 (dk_at dksX4_mostNeeded_5 7 rfl rfl)
theorem dX4_mostNeeded_120 : decode cX4_mostNeeded 120 = .ok (.aload_n 0, 1) := dk_42 (dk_at dksX4_mostNeeded_5 8 rfl rfl)
theorem dX4_mostNeeded_121 : decode cX4_mostNeeded 121 = .ok (.getfield 153, 3) := dk_180 0 153 (dk_at dksX4_mostNeeded_5 9 rfl rfl)
theorem dX4_mostNeeded_124 : decode cX4_mostNeeded 124 = .ok (.if_icmp .ge 58, 3) := dk_162 0 58 (dk_at dksX4_mostNeeded_5 12 rfl rfl)
theorem dX4_mostNeeded_127 : decode cX4_mostNeeded 127 = .ok (.aload_n 0, 1) := dk_42 (dk_at dksX4_mostNeeded_5 15 rfl rfl)
theorem dX4_mostNeeded_128 : decode cX4_mostNeeded 128 = .ok (.getfield 51, 3) := dk_180 0 51 (dk_at dksX4_mostNeeded_5 16 rfl rfl)
theorem dX4_mostNeeded_131 : decode cX4_mostNeeded 131 = .ok (.iload_n 2, 1) := dk_28 (dk_at dksX4_mostNeeded_5 19 rfl rfl)
theorem dX4_mostNeeded_132 : decode cX4_mostNeeded 132 = .ok (.iaload, 1) := dk_46 (dk_at dksX4_mostNeeded_5 20 rfl rfl)
theorem dX4_mostNeeded_133 : decode cX4_mostNeeded 133 = .ok (.invokestatic 176, 3) := dk_184 0 176 (dk_at dksX4_mostNeeded_5 21 rfl rfl)
theorem dX4_mostNeeded_136 : decode cX4_mostNeeded 136 = .ok (.aload_n 0, 1) := dk_42 (dk_at dksX4_mostNeeded_6 0 rfl rfl)
theorem dX4_mostNeeded_137 : decode cX4_mostNeeded 137 = .ok (.getfield 51, 3) := dk_180 0 51 (dk_at dksX4_mostNeeded_6 1 rfl rfl)
theorem dX4_mostNeeded_140 : decode cX4_mostNeeded 140 = .ok (.iload_n 1, 1) := dk_27 (dk_at dksX4_mostNeeded_6 4 rfl rfl)
theorem dX4_mostNeeded_141 : decode cX4_mostNeeded 141 = .ok (.iaload, 1) := dk_46 (dk_at dksX4_mostNeeded_6 5 rfl rfl)
theorem dX4_mostNeeded_142 : decode cX4_mostNeeded 142 = .ok (.invokestatic 176, 3) := dk_184 0 176 (dk_at dksX4_mostNeeded_6 6 rfl rfl)
theorem dX4_mostNeeded_145 : decode cX4_mostNeeded 145 = .ok (.isub, 1) := dk_100 (dk_at dksX4_mostNeeded_6 9 rfl rfl)
theorem dX4_mostNeeded_146 : decode cX4_mostNeeded 146 = .ok (.istore_n 3, 1) := dk_62 (dk_at dksX4_mostNeeded_6 10 rfl rfl)
theorem dX4_mostNeeded_147 : decode cX4_mostNeeded 147 = .ok (.iload_n 3, 1) := dk_29 (dk_at dksX4_mostNeeded_6 11 rfl rfl)
theorem dX4_mostNeeded_148 : decode cX4_mostNeeded 148 = .ok (.ifCond .gt 22, 3) := dk_157 0 22 (dk_at dksX4_mostNeeded_6 12 rfl rfl)
theorem dX4_mostNeeded_151 : decode cX4_mostNeeded 151 = .ok (.iload_n 3, 1) := dk_29 (dk_at dksX4_mostNeeded_6 15 rfl rfl)
theorem dX4_mostNeeded_152 : decode cX4_mostNeeded 152 = .ok (.ifCond .ne 22, 3) := dk_154 0 22 (dk_at dksX4_mostNeeded_6 16 rfl rfl)
theorem dX4_mostNeeded_155 : decode cX4_mostNeeded 155 = .ok (.aload_n 0, 1) := dk_42 (dk_at dksX4_mostNeeded_6 19 rfl rfl)
theorem dX4_mostNeeded_156 : decode cX4_mostNeeded 156 = .ok (.getfield 45, 3) := dk_180 0 45 (dk_at dksX4_mostNeeded_6 20 rfl rfl)
theorem dX4_mostNeeded_159 : decode cX4_mostNeeded 159 = .ok (.iload_n 2, 1) := dk_28 (dk_at dksX4_mostNeeded_6 23 rfl rfl)
theorem dX4_mostNeeded_160 : decode cX4_mostNeeded 160 = .ok (.iaload, 1) := dk_46 (dk_at dksX4_mostNeeded_7 0 rfl rfl)
theorem dX4_mostNeeded_161 : decode cX4_mostNeeded 161 = .ok (.aload_n 0, 1) := dk_42 (dk_at dksX4_mostNeeded_7 1 rfl rfl)
theorem dX4_mostNeeded_162 : decode cX4_mostNeeded 162 = .ok (.getfield 45, 3) := dk_180 0 45 (dk_at dksX4_mostNeeded_7 2 rfl rfl)
theorem dX4_mostNeeded_165 : decode cX4_mostNeeded 165 = .ok (.iload_n 1, 1) := dk_27 (dk_at dksX4_mostNeeded_7 5 rfl rfl)
theorem dX4_mostNeeded_166 : decode cX4_mostNeeded 166 = .ok (.iaload, 1) := dk_46 (dk_at dksX4_mostNeeded_7 6 rfl rfl)
theorem dX4_mostNeeded_167 : decode cX4_mostNeeded 167 = .ok (.if_icmp .ge 7, 3) := dk_162 0 7 (dk_at dksX4_mostNeeded_7 7 rfl rfl)
theorem dX4_mostNeeded_170 : decode cX4_mostNeeded 170 = .ok (.iload_n 2, 1) := dk_28 (dk_at dksX4_mostNeeded_7 10 rfl rfl)
theorem dX4_mostNeeded_171 : decode cX4_mostNeeded 171 = .ok (.goto 4, 3) := dk_167 0 4 (dk_at dksX4_mostNeeded_7 11 rfl rfl)
theorem dX4_mostNeeded_174 : decode cX4_mostNeeded 174 = .ok (.iload_n 1, 1) := dk_27 (dk_at dksX4_mostNeeded_7 14 rfl rfl)
theorem dX4_mostNeeded_175 : decode cX4_mostNeeded 175 = .ok (.istore_n 1, 1) := dk_60 (dk_at dksX4_mostNeeded_7 15 rfl rfl)
theorem dX4_mostNeeded_176 : decode cX4_mostNeeded 176 = .ok (.iinc 2 1, 3) := dk_132 2 1 (dk_at dksX4_mostNeeded_7 16 rfl rfl)
theorem dX4_mostNeeded_179 : decode cX4_mostNeeded 179 = .ok (.goto (-60), 3) := dk_167 255 196 (dk_at dksX4_mostNeeded_7 19 rfl rfl)
theorem dX4_mostNeeded_182 : decode cX4_mostNeeded 182 = .ok (.aload_n 0, 1) := dk_42 (dk_at dksX4_mostNeeded_7 22 rfl rfl)
theorem dX4_mostNeeded_183 : decode cX4_mostNeeded 183 = .ok (.aload_n 0, 1) := dk_42 (dk_at dksX4_mostNeeded_7 23 rfl rfl)
theorem dX4_mostNeeded_184 : decode cX4_mostNeeded 184 = .ok (.getfield 45, 3) := dk_180 0 45 (dk_at dksX4_mostNeeded_8 0 rfl rfl)
theorem dX4_mostNeeded_187 : decode cX4_mostNeeded 187 = .ok (.iload_n 1, 1) := dk_27 (dk_at dksX4_mostNeeded_8 3 rfl rfl)
theorem dX4_mostNeeded_188 : decode cX4_mostNeeded 188 = .ok (.iaload, 1) := dk_46 (dk_at dksX4_mostNeeded_8 4 rfl rfl)
theorem dX4_mostNeeded_189 : decode cX4_mostNeeded 189 = .ok (.putfield 62, 3) := dk_181 0 62 (dk_at dksX4_mostNeeded_8 5 rfl rfl)
theorem dX4_mostNeeded_192 : decode cX4_mostNeeded 192 = .ok (.aload_n 0, 1) := dk_42 (dk_at dksX4_mostNeeded_8 8 rfl rfl)
theorem dX4_mostNeeded_193 : decode cX4_mostNeeded 193 = .ok (.aload_n 0, 1) := dk_42 (dk_at dksX4_mostNeeded_8 9 rfl rfl)
theorem dX4_mostNeeded_194 : decode cX4_mostNeeded 194 = .ok (.getfield 48, 3) := dk_180 0 48 (dk_at dksX4_mostNeeded_8 10 rfl rfl)
theorem dX4_mostNeeded_197 : decode cX4_mostNeeded 197 = .ok (.iload_n 1, 1) := dk_27 (dk_at dksX4_mostNeeded_8 13 rfl rfl)
theorem dX4_mostNeeded_198 : decode cX4_mostNeeded 198 = .ok (.iaload, 1) := dk_46 (dk_at dksX4_mostNeeded_8 14 rfl rfl)
theorem dX4_mostNeeded_199 : decode cX4_mostNeeded 199 = .ok (.putfield 65, 3) := dk_181 0 65 (dk_at dksX4_mostNeeded_8 15 rfl rfl)
theorem dX4_mostNeeded_202 : decode cX4_mostNeeded 202 = .ok (.aload_n 0, 1) := dk_42 (dk_at dksX4_mostNeeded_8 18 rfl rfl)
theorem dX4_mostNeeded_203 : decode cX4_mostNeeded 203 = .ok (.iconst 0, 1) := dk_3 (dk_at dksX4_mostNeeded_8 19 rfl rfl)
theorem dX4_mostNeeded_204 : decode cX4_mostNeeded 204 = .ok (.putfield 68, 3) := dk_181 0 68 (dk_at dksX4_mostNeeded_8 20 rfl rfl)
theorem dX4_mostNeeded_207 : decode cX4_mostNeeded 207 = .ok (.return_, 1) := dk_177 (dk_at dksX4_mostNeeded_8 23 rfl rfl)
abbrev cX4_need : ByteArray := prog_20_method_15_code
def yX4_need : MethodName := ⟨RX4, "need", "(LPatternforge$Pattern;II)V"⟩
def dkwX4_need_9 : List UInt8 := [153, 0, 21, 42, 25, 9, 182, 0, 220, 28, 25, 9, 21, 4, 182, 0, 223, 29, 182, 0, 212, 177]
abbrev dktX4_need_9 : List UInt8 := dkwX4_need_9 ++ []
def dkwX4_need_8 : List UInt8 := [167, 0, 44, 43, 193, 0, 203, 153, 0, 37, 43, 192, 0, 203, 58, 9, 25, 9, 21, 4, 182, 0, 216]
abbrev dktX4_need_8 : List UInt8 := dkwX4_need_8 ++ dktX4_need_9
def dkwX4_need_7 : List UInt8 := [58, 8, 21, 4, 25, 8, 182, 0, 205, 160, 0, 18, 42, 25, 8, 182, 0, 208, 28, 3, 29, 182, 0, 212]
abbrev dktX4_need_7 : List UInt8 := dkwX4_need_7 ++ dktX4_need_8
def dkwX4_need_6 : List UInt8 := [160, 0, 13, 42, 28, 8, 29, 182, 0, 195, 167, 0, 82, 43, 193, 0, 198, 153, 0, 34, 43, 192, 0, 198]
abbrev dktX4_need_6 : List UInt8 := dkwX4_need_6 ++ dktX4_need_7
def dkwX4_need_5 : List UInt8 := [25, 7, 182, 0, 200, 29, 182, 0, 195, 167, 0, 105, 43, 193, 0, 203, 153, 0, 19, 21, 4, 2]
abbrev dktX4_need_5 : List UInt8 := dkwX4_need_5 ++ dktX4_need_6
def dkwX4_need_4 : List UInt8 := [167, 0, 138, 43, 193, 0, 198, 153, 0, 29, 43, 192, 0, 198, 58, 7, 21, 4, 2, 160, 0, 17, 42, 28]
abbrev dktX4_need_4 : List UInt8 := dkwX4_need_4 ++ dktX4_need_5
def dkwX4_need_3 : List UInt8 := [167, 0, 161, 43, 193, 0, 193, 153, 0, 19, 21, 4, 2, 160, 0, 13, 42, 28, 7, 29, 182, 0, 195]
abbrev dktX4_need_3 : List UInt8 := dkwX4_need_3 ++ dktX4_need_4
def dkwX4_need_2 : List UInt8 := [42, 25, 6, 182, 0, 187, 28, 29, 182, 0, 172, 42, 25, 6, 182, 0, 190, 28, 29, 182, 0, 172]
abbrev dktX4_need_2 : List UInt8 := dkwX4_need_2 ++ dktX4_need_3
def dkwX4_need_1 : List UInt8 := [182, 0, 183, 28, 29, 182, 0, 172, 167, 0, 199, 43, 193, 0, 185, 153, 0, 34, 43, 192, 0, 185, 58, 6]
abbrev dktX4_need_1 : List UInt8 := dkwX4_need_1 ++ dktX4_need_2
def dkwX4_need_0 : List UInt8 := [42, 2, 28, 182, 0, 71, 54, 4, 43, 193, 0, 181, 153, 0, 23, 43, 192, 0, 181, 58, 5, 42, 25, 5]
abbrev dktX4_need_0 : List UInt8 := dkwX4_need_0 ++ dktX4_need_1
theorem dksX4_need_0 : cX4_need.data.toList.drop 0 = dktX4_need_0 := by decide +kernel
theorem dksX4_need_1 : cX4_need.data.toList.drop 24 = dktX4_need_1 := dk_seg dksX4_need_0 24 rfl rfl
theorem dksX4_need_2 : cX4_need.data.toList.drop 48 = dktX4_need_2 := dk_seg dksX4_need_1 24 rfl rfl
theorem dksX4_need_3 : cX4_need.data.toList.drop 70 = dktX4_need_3 := dk_seg dksX4_need_2 22 rfl rfl
theorem dksX4_need_4 : cX4_need.data.toList.drop 93 = dktX4_need_4 := dk_seg dksX4_need_3 23 rfl rfl
theorem dksX4_need_5 : cX4_need.data.toList.drop 117 = dktX4_need_5 := dk_seg dksX4_need_4 24 rfl rfl
theorem dksX4_need_6 : cX4_need.data.toList.drop 139 = dktX4_need_6 := dk_seg dksX4_need_5 22 rfl rfl
theorem dksX4_need_7 : cX4_need.data.toList.drop 163 = dktX4_need_7 := dk_seg dksX4_need_6 24 rfl rfl
theorem dksX4_need_8 : cX4_need.data.toList.drop 187 = dktX4_need_8 := dk_seg dksX4_need_7 24 rfl rfl
theorem dksX4_need_9 : cX4_need.data.toList.drop 210 = dktX4_need_9 := dk_seg dksX4_need_8 23 rfl rfl
theorem dX4_need_0 : decode cX4_need 0 = .ok (.aload_n 0, 1) := dk_42 (dk_at dksX4_need_0 0 rfl rfl)
theorem dX4_need_1 : decode cX4_need 1 = .ok (.iconst (-1), 1) := dk_2 (dk_at dksX4_need_0 1 rfl rfl)
theorem dX4_need_2 : decode cX4_need 2 = .ok (.iload_n 2, 1) := dk_28 (dk_at dksX4_need_0 2 rfl rfl)
theorem dX4_need_3 : decode cX4_need 3 = .ok (.invokevirtual 71, 3) := dk_182 0 71 (dk_at dksX4_need_0 3 rfl rfl)
theorem dX4_need_6 : decode cX4_need 6 = .ok (.istore 4, 2) := dk_54 4 (dk_at dksX4_need_0 6 rfl rfl)
theorem dX4_need_8 : decode cX4_need 8 = .ok (.aload_n 1, 1) := dk_43 (dk_at dksX4_need_0 8 rfl rfl)
theorem dX4_need_9 : decode cX4_need 9 = .ok (.instanceof 181, 3) := dk_193 0 181 (dk_at dksX4_need_0 9 rfl rfl)
theorem dX4_need_12 : decode cX4_need 12 = .ok (.ifCond .eq 23, 3) := dk_153 0 23 (dk_at dksX4_need_0 12 rfl rfl)
theorem dX4_need_15 : decode cX4_need 15 = .ok (.aload_n 1, 1) := dk_43 (dk_at dksX4_need_0 15 rfl rfl)
theorem dX4_need_16 : decode cX4_need 16 = .ok (.checkcast 181, 3) := dk_192 0 181 (dk_at dksX4_need_0 16 rfl rfl)
theorem dX4_need_19 : decode cX4_need 19 = .ok (.astore 5, 2) := dk_58 5 (dk_at dksX4_need_0 19 rfl rfl)
theorem dX4_need_21 : decode cX4_need 21 = .ok (.aload_n 0, 1) := dk_42 (dk_at dksX4_need_0 21 rfl rfl)
theorem dX4_need_22 : decode cX4_need 22 = .ok (.aload 5, 2) := dk_25 5 (dk_at dksX4_need_0 22 rfl rfl)
theorem dX4_need_24 : decode cX4_need 24 = .ok (.invokevirtual 183, 3) := dk_182 0 183 (dk_at dksX4_need_1 0 rfl rfl)
theorem dX4_need_27 : decode cX4_need 27 = .ok (.iload_n 2, 1) := dk_28 (dk_at dksX4_need_1 3 rfl rfl)
theorem dX4_need_28 : decode cX4_need 28 = .ok (.iload_n 3, 1) := dk_29 (dk_at dksX4_need_1 4 rfl rfl)
theorem dX4_need_29 : decode cX4_need 29 = .ok (.invokevirtual 172, 3) := dk_182 0 172 (dk_at dksX4_need_1 5 rfl rfl)
theorem dX4_need_32 : decode cX4_need 32 = .ok (.goto 199, 3) := dk_167 0 199 (dk_at dksX4_need_1 8 rfl rfl)
theorem dX4_need_35 : decode cX4_need 35 = .ok (.aload_n 1, 1) := dk_43 (dk_at dksX4_need_1 11 rfl rfl)
theorem dX4_need_36 : decode cX4_need 36 = .ok (.instanceof 185, 3) := dk_193 0 185 (dk_at dksX4_need_1 12 rfl rfl)
theorem dX4_need_39 : decode cX4_need 39 = .ok (.ifCond .eq 34, 3) := dk_153 0 34 (dk_at dksX4_need_1 15 rfl rfl)
theorem dX4_need_42 : decode cX4_need 42 = .ok (.aload_n 1, 1) := dk_43 (dk_at dksX4_need_1 18 rfl rfl)
theorem dX4_need_43 : decode cX4_need 43 = .ok (.checkcast 185, 3) := dk_192 0 185 (dk_at dksX4_need_1 19 rfl rfl)
theorem dX4_need_46 : decode cX4_need 46 = .ok (.astore 6, 2) := dk_58 6 (dk_at dksX4_need_1 22 rfl rfl)
theorem dX4_need_48 : decode cX4_need 48 = .ok (.aload_n 0, 1) := dk_42 (dk_at dksX4_need_2 0 rfl rfl)
theorem dX4_need_49 : decode cX4_need 49 = .ok (.aload 6, 2) := dk_25 6 (dk_at dksX4_need_2 1 rfl rfl)
theorem dX4_need_51 : decode cX4_need 51 = .ok (.invokevirtual 187, 3) := dk_182 0 187 (dk_at dksX4_need_2 3 rfl rfl)
theorem dX4_need_54 : decode cX4_need 54 = .ok (.iload_n 2, 1) := dk_28 (dk_at dksX4_need_2 6 rfl rfl)
theorem dX4_need_55 : decode cX4_need 55 = .ok (.iload_n 3, 1) := dk_29 (dk_at dksX4_need_2 7 rfl rfl)
theorem dX4_need_56 : decode cX4_need 56 = .ok (.invokevirtual 172, 3) := dk_182 0 172 (dk_at dksX4_need_2 8 rfl rfl)
theorem dX4_need_59 : decode cX4_need 59 = .ok (.aload_n 0, 1) := dk_42 (dk_at dksX4_need_2 11 rfl rfl)
theorem dX4_need_60 : decode cX4_need 60 = .ok (.aload 6, 2) := dk_25 6 (dk_at dksX4_need_2 12 rfl rfl)
theorem dX4_need_62 : decode cX4_need 62 = .ok (.invokevirtual 190, 3) := dk_182 0 190 (dk_at dksX4_need_2 14 rfl rfl)
theorem dX4_need_65 : decode cX4_need 65 = .ok (.iload_n 2, 1) := dk_28 (dk_at dksX4_need_2 17 rfl rfl)
theorem dX4_need_66 : decode cX4_need 66 = .ok (.iload_n 3, 1) := dk_29 (dk_at dksX4_need_2 18 rfl rfl)
theorem dX4_need_67 : decode cX4_need 67 = .ok (.invokevirtual 172, 3) := dk_182 0 172 (dk_at dksX4_need_2 19 rfl rfl)
theorem dX4_need_70 : decode cX4_need 70 = .ok (.goto 161, 3) := dk_167 0 161 (dk_at dksX4_need_3 0 rfl rfl)
theorem dX4_need_73 : decode cX4_need 73 = .ok (.aload_n 1, 1) := dk_43 (dk_at dksX4_need_3 3 rfl rfl)
theorem dX4_need_74 : decode cX4_need 74 = .ok (.instanceof 193, 3) := dk_193 0 193 (dk_at dksX4_need_3 4 rfl rfl)
theorem dX4_need_77 : decode cX4_need 77 = .ok (.ifCond .eq 19, 3) := dk_153 0 19 (dk_at dksX4_need_3 7 rfl rfl)
theorem dX4_need_80 : decode cX4_need 80 = .ok (.iload 4, 2) := dk_21 4 (dk_at dksX4_need_3 10 rfl rfl)
theorem dX4_need_82 : decode cX4_need 82 = .ok (.iconst (-1), 1) := dk_2 (dk_at dksX4_need_3 12 rfl rfl)
theorem dX4_need_83 : decode cX4_need 83 = .ok (.if_icmp .ne 13, 3) := dk_160 0 13 (dk_at dksX4_need_3 13 rfl rfl)
theorem dX4_need_86 : decode cX4_need 86 = .ok (.aload_n 0, 1) := dk_42 (dk_at dksX4_need_3 16 rfl rfl)
theorem dX4_need_87 : decode cX4_need 87 = .ok (.iload_n 2, 1) := dk_28 (dk_at dksX4_need_3 17 rfl rfl)
theorem dX4_need_88 : decode cX4_need 88 = .ok (.iconst 4, 1) := dk_7 (dk_at dksX4_need_3 18 rfl rfl)
theorem dX4_need_89 : decode cX4_need 89 = .ok (.iload_n 3, 1) := dk_29 (dk_at dksX4_need_3 19 rfl rfl)
theorem dX4_need_90 : decode cX4_need 90 = .ok (.invokevirtual 195, 3) := dk_182 0 195 (dk_at dksX4_need_3 20 rfl rfl)
theorem dX4_need_93 : decode cX4_need 93 = .ok (.goto 138, 3) := dk_167 0 138 (dk_at dksX4_need_4 0 rfl rfl)
theorem dX4_need_96 : decode cX4_need 96 = .ok (.aload_n 1, 1) := dk_43 (dk_at dksX4_need_4 3 rfl rfl)
theorem dX4_need_97 : decode cX4_need 97 = .ok (.instanceof 198, 3) := dk_193 0 198 (dk_at dksX4_need_4 4 rfl rfl)
theorem dX4_need_100 : decode cX4_need 100 = .ok (.ifCond .eq 29, 3) := dk_153 0 29 (dk_at dksX4_need_4 7 rfl rfl)
theorem dX4_need_103 : decode cX4_need 103 = .ok (.aload_n 1, 1) := dk_43 (dk_at dksX4_need_4 10 rfl rfl)
theorem dX4_need_104 : decode cX4_need 104 = .ok (.checkcast 198, 3) := dk_192 0 198 (dk_at dksX4_need_4 11 rfl rfl)
theorem dX4_need_107 : decode cX4_need 107 = .ok (.astore 7, 2) := dk_58 7 (dk_at dksX4_need_4 14 rfl rfl)
theorem dX4_need_109 : decode cX4_need 109 = .ok (.iload 4, 2) := dk_21 4 (dk_at dksX4_need_4 16 rfl rfl)
theorem dX4_need_111 : decode cX4_need 111 = .ok (.iconst (-1), 1) := dk_2 (dk_at dksX4_need_4 18 rfl rfl)
theorem dX4_need_112 : decode cX4_need 112 = .ok (.if_icmp .ne 17, 3) := dk_160 0 17 (dk_at dksX4_need_4 19 rfl rfl)
theorem dX4_need_115 : decode cX4_need 115 = .ok (.aload_n 0, 1) := dk_42 (dk_at dksX4_need_4 22 rfl rfl)
theorem dX4_need_116 : decode cX4_need 116 = .ok (.iload_n 2, 1) := dk_28 (dk_at dksX4_need_4 23 rfl rfl)
theorem dX4_need_117 : decode cX4_need 117 = .ok (.aload 7, 2) := dk_25 7 (dk_at dksX4_need_5 0 rfl rfl)
theorem dX4_need_119 : decode cX4_need 119 = .ok (.invokevirtual 200, 3) := dk_182 0 200 (dk_at dksX4_need_5 2 rfl rfl)
theorem dX4_need_122 : decode cX4_need 122 = .ok (.iload_n 3, 1) := dk_29 (dk_at dksX4_need_5 5 rfl rfl)
theorem dX4_need_123 : decode cX4_need 123 = .ok (.invokevirtual 195, 3) := dk_182 0 195 (dk_at dksX4_need_5 6 rfl rfl)
theorem dX4_need_126 : decode cX4_need 126 = .ok (.goto 105, 3) := dk_167 0 105 (dk_at dksX4_need_5 9 rfl rfl)
theorem dX4_need_129 : decode cX4_need 129 = .ok (.aload_n 1, 1) := dk_43 (dk_at dksX4_need_5 12 rfl rfl)
theorem dX4_need_130 : decode cX4_need 130 = .ok (.instanceof 203, 3) := dk_193 0 203 (dk_at dksX4_need_5 13 rfl rfl)
theorem dX4_need_133 : decode cX4_need 133 = .ok (.ifCond .eq 19, 3) := dk_153 0 19 (dk_at dksX4_need_5 16 rfl rfl)
theorem dX4_need_136 : decode cX4_need 136 = .ok (.iload 4, 2) := dk_21 4 (dk_at dksX4_need_5 19 rfl rfl)
theorem dX4_need_138 : decode cX4_need 138 = .ok (.iconst (-1), 1) := dk_2 (dk_at dksX4_need_5 21 rfl rfl)
theorem dX4_need_139 : decode cX4_need 139 = .ok (.if_icmp .ne 13, 3) := dk_160 0 13 (dk_at dksX4_need_6 0 rfl rfl)
theorem dX4_need_142 : decode cX4_need 142 = .ok (.aload_n 0, 1) := dk_42 (dk_at dksX4_need_6 3 rfl rfl)
theorem dX4_need_143 : decode cX4_need 143 = .ok (.iload_n 2, 1) := dk_28 (dk_at dksX4_need_6 4 rfl rfl)
theorem dX4_need_144 : decode cX4_need 144 = .ok (.iconst 5, 1) := dk_8 (dk_at dksX4_need_6 5 rfl rfl)
theorem dX4_need_145 : decode cX4_need 145 = .ok (.iload_n 3, 1) := dk_29 (dk_at dksX4_need_6 6 rfl rfl)
theorem dX4_need_146 : decode cX4_need 146 = .ok (.invokevirtual 195, 3) := dk_182 0 195 (dk_at dksX4_need_6 7 rfl rfl)
theorem dX4_need_149 : decode cX4_need 149 = .ok (.goto 82, 3) := dk_167 0 82 (dk_at dksX4_need_6 10 rfl rfl)
theorem dX4_need_152 : decode cX4_need 152 = .ok (.aload_n 1, 1) := dk_43 (dk_at dksX4_need_6 13 rfl rfl)
theorem dX4_need_153 : decode cX4_need 153 = .ok (.instanceof 198, 3) := dk_193 0 198 (dk_at dksX4_need_6 14 rfl rfl)
theorem dX4_need_156 : decode cX4_need 156 = .ok (.ifCond .eq 34, 3) := dk_153 0 34 (dk_at dksX4_need_6 17 rfl rfl)
theorem dX4_need_159 : decode cX4_need 159 = .ok (.aload_n 1, 1) := dk_43 (dk_at dksX4_need_6 20 rfl rfl)
theorem dX4_need_160 : decode cX4_need 160 = .ok (.checkcast 198, 3) := dk_192 0 198 (dk_at dksX4_need_6 21 rfl rfl)
theorem dX4_need_163 : decode cX4_need 163 = .ok (.astore 8, 2) := dk_58 8 (dk_at dksX4_need_7 0 rfl rfl)
theorem dX4_need_165 : decode cX4_need 165 = .ok (.iload 4, 2) := dk_21 4 (dk_at dksX4_need_7 2 rfl rfl)
theorem dX4_need_167 : decode cX4_need 167 = .ok (.aload 8, 2) := dk_25 8 (dk_at dksX4_need_7 4 rfl rfl)
theorem dX4_need_169 : decode cX4_need 169 = .ok (.invokevirtual 205, 3) := dk_182 0 205 (dk_at dksX4_need_7 6 rfl rfl)
theorem dX4_need_172 : decode cX4_need 172 = .ok (.if_icmp .ne 18, 3) := dk_160 0 18 (dk_at dksX4_need_7 9 rfl rfl)
theorem dX4_need_175 : decode cX4_need 175 = .ok (.aload_n 0, 1) := dk_42 (dk_at dksX4_need_7 12 rfl rfl)
theorem dX4_need_176 : decode cX4_need 176 = .ok (.aload 8, 2) := dk_25 8 (dk_at dksX4_need_7 13 rfl rfl)
theorem dX4_need_178 : decode cX4_need 178 = .ok (.invokevirtual 208, 3) := dk_182 0 208 (dk_at dksX4_need_7 15 rfl rfl)
theorem dX4_need_181 : decode cX4_need 181 = .ok (.iload_n 2, 1) := dk_28 (dk_at dksX4_need_7 18 rfl rfl)
theorem dX4_need_182 : decode cX4_need 182 = .ok (.iconst 0, 1) := dk_3 (dk_at dksX4_need_7 19 rfl rfl)
theorem dX4_need_183 : decode cX4_need 183 = .ok (.iload_n 3, 1) := dk_29 (dk_at dksX4_need_7 20 rfl rfl)
theorem dX4_need_184 : decode cX4_need 184 = .ok (.invokevirtual 212, 3) := dk_182 0 212 (dk_at dksX4_need_7 21 rfl rfl)
theorem dX4_need_187 : decode cX4_need 187 = .ok (.goto 44, 3) := dk_167 0 44 (dk_at dksX4_need_8 0 rfl rfl)
theorem dX4_need_190 : decode cX4_need 190 = .ok (.aload_n 1, 1) := dk_43 (dk_at dksX4_need_8 3 rfl rfl)
theorem dX4_need_191 : decode cX4_need 191 = .ok (.instanceof 203, 3) := dk_193 0 203 (dk_at dksX4_need_8 4 rfl rfl)
theorem dX4_need_194 : decode cX4_need 194 = .ok (.ifCond .eq 37, 3) := dk_153 0 37 (dk_at dksX4_need_8 7 rfl rfl)
theorem dX4_need_197 : decode cX4_need 197 = .ok (.aload_n 1, 1) := dk_43 (dk_at dksX4_need_8 10 rfl rfl)
theorem dX4_need_198 : decode cX4_need 198 = .ok (.checkcast 203, 3) := dk_192 0 203 (dk_at dksX4_need_8 11 rfl rfl)
theorem dX4_need_201 : decode cX4_need 201 = .ok (.astore 9, 2) := dk_58 9 (dk_at dksX4_need_8 14 rfl rfl)
theorem dX4_need_203 : decode cX4_need 203 = .ok (.aload 9, 2) := dk_25 9 (dk_at dksX4_need_8 16 rfl rfl)
theorem dX4_need_205 : decode cX4_need 205 = .ok (.iload 4, 2) := dk_21 4 (dk_at dksX4_need_8 18 rfl rfl)
theorem dX4_need_207 : decode cX4_need 207 = .ok (.invokevirtual 216, 3) := dk_182 0 216 (dk_at dksX4_need_8 20 rfl rfl)
theorem dX4_need_210 : decode cX4_need 210 = .ok (.ifCond .eq 21, 3) := dk_153 0 21 (dk_at dksX4_need_9 0 rfl rfl)
theorem dX4_need_213 : decode cX4_need 213 = .ok (.aload_n 0, 1) := dk_42 (dk_at dksX4_need_9 3 rfl rfl)
theorem dX4_need_214 : decode cX4_need 214 = .ok (.aload 9, 2) := dk_25 9 (dk_at dksX4_need_9 4 rfl rfl)
theorem dX4_need_216 : decode cX4_need 216 = .ok (.invokevirtual 220, 3) := dk_182 0 220 (dk_at dksX4_need_9 6 rfl rfl)
theorem dX4_need_219 : decode cX4_need 219 = .ok (.iload_n 2, 1) := dk_28 (dk_at dksX4_need_9 9 rfl rfl)
theorem dX4_need_220 : decode cX4_need 220 = .ok (.aload 9, 2) := dk_25 9 (dk_at dksX4_need_9 10 rfl rfl)
theorem dX4_need_222 : decode cX4_need 222 = .ok (.iload 4, 2) := dk_21 4 (dk_at dksX4_need_9 12 rfl rfl)
theorem dX4_need_224 : decode cX4_need 224 = .ok (.invokevirtual 223, 3) := dk_182 0 223 (dk_at dksX4_need_9 14 rfl rfl)
theorem dX4_need_227 : decode cX4_need 227 = .ok (.iload_n 3, 1) := dk_29 (dk_at dksX4_need_9 17 rfl rfl)
theorem dX4_need_228 : decode cX4_need 228 = .ok (.invokevirtual 212, 3) := dk_182 0 212 (dk_at dksX4_need_9 18 rfl rfl)
theorem dX4_need_231 : decode cX4_need 231 = .ok (.return_, 1) := dk_177 (dk_at dksX4_need_9 21 rfl rfl)
abbrev cX4_needs : ByteArray := prog_20_method_14_code
def yX4_needs : MethodName := ⟨RX4, "needs", "(III)V"⟩
def dkwX4_needs_3 : List UInt8 := [181, 0, 153, 42, 180, 0, 51, 21, 4, 92, 46, 4, 29, 120, 128, 79, 177]
abbrev dktX4_needs_3 : List UInt8 := dkwX4_needs_3 ++ []
def dkwX4_needs_2 : List UInt8 := [180, 0, 48, 21, 4, 28, 79, 42, 180, 0, 51, 21, 4, 3, 79, 42, 89, 180, 0, 153, 4, 96]
abbrev dktX4_needs_2 : List UInt8 := dkwX4_needs_2 ++ dktX4_needs_3
def dkwX4_needs_1 : List UInt8 := [132, 4, 1, 167, 255, 233, 21, 4, 42, 180, 0, 153, 160, 0, 37, 42, 180, 0, 45, 21, 4, 27, 79, 42]
abbrev dktX4_needs_1 : List UInt8 := dkwX4_needs_1 ++ dktX4_needs_2
def dkwX4_needs_0 : List UInt8 := [3, 54, 4, 21, 4, 42, 180, 0, 153, 162, 0, 20, 42, 180, 0, 45, 21, 4, 46, 27, 159, 0, 9]
abbrev dktX4_needs_0 : List UInt8 := dkwX4_needs_0 ++ dktX4_needs_1
theorem dksX4_needs_0 : cX4_needs.data.toList.drop 0 = dktX4_needs_0 := by decide +kernel
theorem dksX4_needs_1 : cX4_needs.data.toList.drop 23 = dktX4_needs_1 := dk_seg dksX4_needs_0 23 rfl rfl
theorem dksX4_needs_2 : cX4_needs.data.toList.drop 47 = dktX4_needs_2 := dk_seg dksX4_needs_1 24 rfl rfl
theorem dksX4_needs_3 : cX4_needs.data.toList.drop 69 = dktX4_needs_3 := dk_seg dksX4_needs_2 22 rfl rfl
theorem dX4_needs_0 : decode cX4_needs 0 = .ok (.iconst 0, 1) := dk_3 (dk_at dksX4_needs_0 0 rfl rfl)
theorem dX4_needs_1 : decode cX4_needs 1 = .ok (.istore 4, 2) := dk_54 4 (dk_at dksX4_needs_0 1 rfl rfl)
theorem dX4_needs_3 : decode cX4_needs 3 = .ok (.iload 4, 2) := dk_21 4 (dk_at dksX4_needs_0 3 rfl rfl)
theorem dX4_needs_5 : decode cX4_needs 5 = .ok (.aload_n 0, 1) := dk_42 (dk_at dksX4_needs_0 5 rfl rfl)
theorem dX4_needs_6 : decode cX4_needs 6 = .ok (.getfield 153, 3) := dk_180 0 153 (dk_at dksX4_needs_0 6 rfl rfl)
theorem dX4_needs_9 : decode cX4_needs 9 = .ok (.if_icmp .ge 20, 3) := dk_162 0 20 (dk_at dksX4_needs_0 9 rfl rfl)
theorem dX4_needs_12 : decode cX4_needs 12 = .ok (.aload_n 0, 1) := dk_42 (dk_at dksX4_needs_0 12 rfl rfl)
theorem dX4_needs_13 : decode cX4_needs 13 = .ok (.getfield 45, 3) := dk_180 0 45 (dk_at dksX4_needs_0 13 rfl rfl)
theorem dX4_needs_16 : decode cX4_needs 16 = .ok (.iload 4, 2) := dk_21 4 (dk_at dksX4_needs_0 16 rfl rfl)
theorem dX4_needs_18 : decode cX4_needs 18 = .ok (.iaload, 1) := dk_46 (dk_at dksX4_needs_0 18 rfl rfl)
theorem dX4_needs_19 : decode cX4_needs 19 = .ok (.iload_n 1, 1) := dk_27 (dk_at dksX4_needs_0 19 rfl rfl)
theorem dX4_needs_20 : decode cX4_needs 20 = .ok (.if_icmp .eq 9, 3) := dk_159 0 9 (dk_at dksX4_needs_0 20 rfl rfl)
theorem dX4_needs_23 : decode cX4_needs 23 = .ok (.iinc 4 1, 3) := dk_132 4 1 (dk_at dksX4_needs_1 0 rfl rfl)
theorem dX4_needs_26 : decode cX4_needs 26 = .ok (.goto (-23), 3) := dk_167 255 233 (dk_at dksX4_needs_1 3 rfl rfl)
theorem dX4_needs_29 : decode cX4_needs 29 = .ok (.iload 4, 2) := dk_21 4 (dk_at dksX4_needs_1 6 rfl rfl)
theorem dX4_needs_31 : decode cX4_needs 31 = .ok (.aload_n 0, 1) := dk_42 (dk_at dksX4_needs_1 8 rfl rfl)
theorem dX4_needs_32 : decode cX4_needs 32 = .ok (.getfield 153, 3) := dk_180 0 153 (dk_at dksX4_needs_1 9 rfl rfl)
theorem dX4_needs_35 : decode cX4_needs 35 = .ok (.if_icmp .ne 37, 3) := dk_160 0 37 (dk_at dksX4_needs_1 12 rfl rfl)
theorem dX4_needs_38 : decode cX4_needs 38 = .ok (.aload_n 0, 1) := dk_42 (dk_at dksX4_needs_1 15 rfl rfl)
theorem dX4_needs_39 : decode cX4_needs 39 = .ok (.getfield 45, 3) := dk_180 0 45 (dk_at dksX4_needs_1 16 rfl rfl)
theorem dX4_needs_42 : decode cX4_needs 42 = .ok (.iload 4, 2) := dk_21 4 (dk_at dksX4_needs_1 19 rfl rfl)
theorem dX4_needs_44 : decode cX4_needs 44 = .ok (.iload_n 1, 1) := dk_27 (dk_at dksX4_needs_1 21 rfl rfl)
theorem dX4_needs_45 : decode cX4_needs 45 = .ok (.iastore, 1) := dk_79 (dk_at dksX4_needs_1 22 rfl rfl)
theorem dX4_needs_46 : decode cX4_needs 46 = .ok (.aload_n 0, 1) := dk_42 (dk_at dksX4_needs_1 23 rfl rfl)
theorem dX4_needs_47 : decode cX4_needs 47 = .ok (.getfield 48, 3) := dk_180 0 48 (dk_at dksX4_needs_2 0 rfl rfl)
theorem dX4_needs_50 : decode cX4_needs 50 = .ok (.iload 4, 2) := dk_21 4 (dk_at dksX4_needs_2 3 rfl rfl)
theorem dX4_needs_52 : decode cX4_needs 52 = .ok (.iload_n 2, 1) := dk_28 (dk_at dksX4_needs_2 5 rfl rfl)
theorem dX4_needs_53 : decode cX4_needs 53 = .ok (.iastore, 1) := dk_79 (dk_at dksX4_needs_2 6 rfl rfl)
theorem dX4_needs_54 : decode cX4_needs 54 = .ok (.aload_n 0, 1) := dk_42 (dk_at dksX4_needs_2 7 rfl rfl)
theorem dX4_needs_55 : decode cX4_needs 55 = .ok (.getfield 51, 3) := dk_180 0 51 (dk_at dksX4_needs_2 8 rfl rfl)
theorem dX4_needs_58 : decode cX4_needs 58 = .ok (.iload 4, 2) := dk_21 4 (dk_at dksX4_needs_2 11 rfl rfl)
theorem dX4_needs_60 : decode cX4_needs 60 = .ok (.iconst 0, 1) := dk_3 (dk_at dksX4_needs_2 13 rfl rfl)
theorem dX4_needs_61 : decode cX4_needs 61 = .ok (.iastore, 1) := dk_79 (dk_at dksX4_needs_2 14 rfl rfl)
theorem dX4_needs_62 : decode cX4_needs 62 = .ok (.aload_n 0, 1) := dk_42 (dk_at dksX4_needs_2 15 rfl rfl)
theorem dX4_needs_63 : decode cX4_needs 63 = .ok (.dup, 1) := dk_89 (dk_at dksX4_needs_2 16 rfl rfl)
theorem dX4_needs_64 : decode cX4_needs 64 = .ok (.getfield 153, 3) := dk_180 0 153 (dk_at dksX4_needs_2 17 rfl rfl)
theorem dX4_needs_67 : decode cX4_needs 67 = .ok (.iconst 1, 1) := dk_4 (dk_at dksX4_needs_2 20 rfl rfl)
theorem dX4_needs_68 : decode cX4_needs 68 = .ok (.iadd, 1) := dk_96 (dk_at dksX4_needs_2 21 rfl rfl)
theorem dX4_needs_69 : decode cX4_needs 69 = .ok (.putfield 153, 3) := dk_181 0 153 (dk_at dksX4_needs_3 0 rfl rfl)
theorem dX4_needs_72 : decode cX4_needs 72 = .ok (.aload_n 0, 1) := dk_42 (dk_at dksX4_needs_3 3 rfl rfl)
theorem dX4_needs_73 : decode cX4_needs 73 = .ok (.getfield 51, 3) := dk_180 0 51 (dk_at dksX4_needs_3 4 rfl rfl)
theorem dX4_needs_76 : decode cX4_needs 76 = .ok (.iload 4, 2) := dk_21 4 (dk_at dksX4_needs_3 7 rfl rfl)
theorem dX4_needs_78 : decode cX4_needs 78 = .ok (.dup2, 1) := dk_92 (dk_at dksX4_needs_3 9 rfl rfl)
theorem dX4_needs_79 : decode cX4_needs 79 = .ok (.iaload, 1) := dk_46 (dk_at dksX4_needs_3 10 rfl rfl)
theorem dX4_needs_80 : decode cX4_needs 80 = .ok (.iconst 1, 1) := dk_4 (dk_at dksX4_needs_3 11 rfl rfl)
theorem dX4_needs_81 : decode cX4_needs 81 = .ok (.iload_n 3, 1) := dk_29 (dk_at dksX4_needs_3 12 rfl rfl)
theorem dX4_needs_82 : decode cX4_needs 82 = .ok (.ishl, 1) := dk_120 (dk_at dksX4_needs_3 13 rfl rfl)
theorem dX4_needs_83 : decode cX4_needs 83 = .ok (.ior, 1) := dk_128 (dk_at dksX4_needs_3 14 rfl rfl)
theorem dX4_needs_84 : decode cX4_needs 84 = .ok (.iastore, 1) := dk_79 (dk_at dksX4_needs_3 15 rfl rfl)
theorem dX4_needs_85 : decode cX4_needs 85 = .ok (.return_, 1) := dk_177 (dk_at dksX4_needs_3 16 rfl rfl)
abbrev cX4_needAll : ByteArray := prog_20_method_16_code
def yX4_needAll : MethodName := ⟨RX4, "needAll", "([LPatternforge$Pattern;III)V"⟩
def dkwX4_needAll_1 : List UInt8 := [21, 4, 182, 0, 172, 132, 5, 1, 167, 255, 228, 177]
abbrev dktX4_needAll_1 : List UInt8 := dkwX4_needAll_1 ++ []
def dkwX4_needAll_0 : List UInt8 := [3, 54, 5, 21, 5, 43, 190, 162, 0, 27, 42, 43, 21, 5, 50, 28, 29, 21, 5, 96, 184, 0, 226]
abbrev dktX4_needAll_0 : List UInt8 := dkwX4_needAll_0 ++ dktX4_needAll_1
theorem dksX4_needAll_0 : cX4_needAll.data.toList.drop 0 = dktX4_needAll_0 := by decide +kernel
theorem dksX4_needAll_1 : cX4_needAll.data.toList.drop 23 = dktX4_needAll_1 := dk_seg dksX4_needAll_0 23 rfl rfl
theorem dX4_needAll_0 : decode cX4_needAll 0 = .ok (.iconst 0, 1) := dk_3 (dk_at dksX4_needAll_0 0 rfl rfl)
theorem dX4_needAll_1 : decode cX4_needAll 1 = .ok (.istore 5, 2) := dk_54 5 (dk_at dksX4_needAll_0 1 rfl rfl)
theorem dX4_needAll_3 : decode cX4_needAll 3 = .ok (.iload 5, 2) := dk_21 5 (dk_at dksX4_needAll_0 3 rfl rfl)
theorem dX4_needAll_5 : decode cX4_needAll 5 = .ok (.aload_n 1, 1) := dk_43 (dk_at dksX4_needAll_0 5 rfl rfl)
theorem dX4_needAll_6 : decode cX4_needAll 6 = .ok (.arraylength, 1) := dk_190 (dk_at dksX4_needAll_0 6 rfl rfl)
theorem dX4_needAll_7 : decode cX4_needAll 7 = .ok (.if_icmp .ge 27, 3) := dk_162 0 27 (dk_at dksX4_needAll_0 7 rfl rfl)
theorem dX4_needAll_10 : decode cX4_needAll 10 = .ok (.aload_n 0, 1) := dk_42 (dk_at dksX4_needAll_0 10 rfl rfl)
theorem dX4_needAll_11 : decode cX4_needAll 11 = .ok (.aload_n 1, 1) := dk_43 (dk_at dksX4_needAll_0 11 rfl rfl)
theorem dX4_needAll_12 : decode cX4_needAll 12 = .ok (.iload 5, 2) := dk_21 5 (dk_at dksX4_needAll_0 12 rfl rfl)
theorem dX4_needAll_14 : decode cX4_needAll 14 = .ok (.aaload, 1) := dk_50 (dk_at dksX4_needAll_0 14 rfl rfl)
theorem dX4_needAll_15 : decode cX4_needAll 15 = .ok (.iload_n 2, 1) := dk_28 (dk_at dksX4_needAll_0 15 rfl rfl)
theorem dX4_needAll_16 : decode cX4_needAll 16 = .ok (.iload_n 3, 1) := dk_29 (dk_at dksX4_needAll_0 16 rfl rfl)
theorem dX4_needAll_17 : decode cX4_needAll 17 = .ok (.iload 5, 2) := dk_21 5 (dk_at dksX4_needAll_0 17 rfl rfl)
theorem dX4_needAll_19 : decode cX4_needAll 19 = .ok (.iadd, 1) := dk_96 (dk_at dksX4_needAll_0 19 rfl rfl)
theorem dX4_needAll_20 : decode cX4_needAll 20 = .ok (.invokestatic 226, 3) := dk_184 0 226 (dk_at dksX4_needAll_0 20 rfl rfl)
theorem dX4_needAll_23 : decode cX4_needAll 23 = .ok (.iload 4, 2) := dk_21 4 (dk_at dksX4_needAll_1 0 rfl rfl)
theorem dX4_needAll_25 : decode cX4_needAll 25 = .ok (.invokevirtual 172, 3) := dk_182 0 172 (dk_at dksX4_needAll_1 2 rfl rfl)
theorem dX4_needAll_28 : decode cX4_needAll 28 = .ok (.iinc 5 1, 3) := dk_132 5 1 (dk_at dksX4_needAll_1 5 rfl rfl)
theorem dX4_needAll_31 : decode cX4_needAll 31 = .ok (.goto (-28), 3) := dk_167 255 228 (dk_at dksX4_needAll_1 8 rfl rfl)
theorem dX4_needAll_34 : decode cX4_needAll 34 = .ok (.return_, 1) := dk_177 (dk_at dksX4_needAll_1 11 rfl rfl)
abbrev cX4_manyOf : ByteArray := prog_20_method_10_code
def yX4_manyOf : MethodName := ⟨RX4, "manyOf", "(I)I"⟩
def dkwX4_manyOf_1 : List UInt8 := [180, 0, 143, 27, 182, 0, 108, 192, 0, 100, 182, 0, 99, 172]
abbrev dktX4_manyOf_1 : List UInt8 := dkwX4_manyOf_1 ++ []
def dkwX4_manyOf_0 : List UInt8 := [27, 7, 160, 0, 8, 16, 10, 167, 0, 29, 27, 8, 160, 0, 7, 7, 167, 0, 20, 42, 180, 0, 3]
abbrev dktX4_manyOf_0 : List UInt8 := dkwX4_manyOf_0 ++ dktX4_manyOf_1
theorem dksX4_manyOf_0 : cX4_manyOf.data.toList.drop 0 = dktX4_manyOf_0 := by decide +kernel
theorem dksX4_manyOf_1 : cX4_manyOf.data.toList.drop 23 = dktX4_manyOf_1 := dk_seg dksX4_manyOf_0 23 rfl rfl
theorem dX4_manyOf_0 : decode cX4_manyOf 0 = .ok (.iload_n 1, 1) := dk_27 (dk_at dksX4_manyOf_0 0 rfl rfl)
theorem dX4_manyOf_1 : decode cX4_manyOf 1 = .ok (.iconst 4, 1) := dk_7 (dk_at dksX4_manyOf_0 1 rfl rfl)
theorem dX4_manyOf_2 : decode cX4_manyOf 2 = .ok (.if_icmp .ne 8, 3) := dk_160 0 8 (dk_at dksX4_manyOf_0 2 rfl rfl)
theorem dX4_manyOf_5 : decode cX4_manyOf 5 = .ok (.bipush 10, 2) := dk_16 10 (dk_at dksX4_manyOf_0 5 rfl rfl)
theorem dX4_manyOf_7 : decode cX4_manyOf 7 = .ok (.goto 29, 3) := dk_167 0 29 (dk_at dksX4_manyOf_0 7 rfl rfl)
theorem dX4_manyOf_10 : decode cX4_manyOf 10 = .ok (.iload_n 1, 1) := dk_27 (dk_at dksX4_manyOf_0 10 rfl rfl)
theorem dX4_manyOf_11 : decode cX4_manyOf 11 = .ok (.iconst 5, 1) := dk_8 (dk_at dksX4_manyOf_0 11 rfl rfl)
theorem dX4_manyOf_12 : decode cX4_manyOf 12 = .ok (.if_icmp .ne 7, 3) := dk_160 0 7 (dk_at dksX4_manyOf_0 12 rfl rfl)
theorem dX4_manyOf_15 : decode cX4_manyOf 15 = .ok (.iconst 4, 1) := dk_7 (dk_at dksX4_manyOf_0 15 rfl rfl)
theorem dX4_manyOf_16 : decode cX4_manyOf 16 = .ok (.goto 20, 3) := dk_167 0 20 (dk_at dksX4_manyOf_0 16 rfl rfl)
theorem dX4_manyOf_19 : decode cX4_manyOf 19 = .ok (.aload_n 0, 1) := dk_42 (dk_at dksX4_manyOf_0 19 rfl rfl)
theorem dX4_manyOf_20 : decode cX4_manyOf 20 = .ok (.getfield 3, 3) := dk_180 0 3 (dk_at dksX4_manyOf_0 20 rfl rfl)
theorem dX4_manyOf_23 : decode cX4_manyOf 23 = .ok (.getfield 143, 3) := dk_180 0 143 (dk_at dksX4_manyOf_1 0 rfl rfl)
theorem dX4_manyOf_26 : decode cX4_manyOf 26 = .ok (.iload_n 1, 1) := dk_27 (dk_at dksX4_manyOf_1 3 rfl rfl)
theorem dX4_manyOf_27 : decode cX4_manyOf 27 = .ok (.invokevirtual 108, 3) := dk_182 0 108 (dk_at dksX4_manyOf_1 4 rfl rfl)
theorem dX4_manyOf_30 : decode cX4_manyOf 30 = .ok (.checkcast 100, 3) := dk_192 0 100 (dk_at dksX4_manyOf_1 7 rfl rfl)
theorem dX4_manyOf_33 : decode cX4_manyOf 33 = .ok (.invokevirtual 99, 3) := dk_182 0 99 (dk_at dksX4_manyOf_1 10 rfl rfl)
theorem dX4_manyOf_36 : decode cX4_manyOf 36 = .ok (.ireturn, 1) := dk_172 (dk_at dksX4_manyOf_1 13 rfl rfl)
abbrev cX4_descend : ByteArray := prog_20_method_23_code
def yX4_descend : MethodName := ⟨RX4, "descend", "()I"⟩
def dkwX4_descend_6 : List UInt8 := [42, 180, 0, 3, 180, 0, 238, 42, 180, 0, 19, 27, 46, 182, 1, 1, 46, 60, 167, 255, 100, 27, 172]
abbrev dktX4_descend_6 : List UInt8 := dkwX4_descend_6 ++ []
def dkwX4_descend_5 : List UInt8 := [180, 0, 3, 180, 0, 238, 42, 180, 0, 22, 27, 46, 42, 180, 0, 19, 27, 46, 182, 0, 254, 167, 0, 19]
abbrev dktX4_descend_5 : List UInt8 := dkwX4_descend_5 ++ dktX4_descend_6
def dkwX4_descend_4 : List UInt8 := [4, 96, 181, 0, 251, 42, 180, 0, 27, 27, 50, 42, 180, 0, 15, 27, 46, 4, 160, 0, 28, 42]
abbrev dktX4_descend_4 : List UInt8 := dkwX4_descend_4 ++ dktX4_descend_5
def dkwX4_descend_3 : List UInt8 := [154, 0, 7, 3, 167, 0, 4, 4, 46, 60, 167, 255, 178, 42, 180, 0, 3, 180, 0, 238, 89, 180, 0, 251]
abbrev dktX4_descend_3 : List UInt8 := dkwX4_descend_3 ++ dktX4_descend_4
def dkwX4_descend_2 : List UInt8 := [180, 0, 238, 44, 182, 0, 242, 42, 180, 0, 27, 27, 50, 42, 180, 0, 3, 180, 0, 238, 44, 182, 0, 248]
abbrev dktX4_descend_2 : List UInt8 := dkwX4_descend_2 ++ dktX4_descend_3
def dkwX4_descend_1 : List UInt8 := [180, 0, 3, 180, 0, 95, 42, 180, 0, 22, 27, 46, 182, 0, 108, 192, 0, 112, 77, 42, 180, 0, 3]
abbrev dktX4_descend_1 : List UInt8 := dkwX4_descend_1 ++ dktX4_descend_2
def dkwX4_descend_0 : List UInt8 := [3, 60, 42, 180, 0, 15, 27, 46, 5, 163, 0, 152, 42, 180, 0, 15, 27, 46, 5, 160, 0, 64, 42]
abbrev dktX4_descend_0 : List UInt8 := dkwX4_descend_0 ++ dktX4_descend_1
theorem dksX4_descend_0 : cX4_descend.data.toList.drop 0 = dktX4_descend_0 := by decide +kernel
theorem dksX4_descend_1 : cX4_descend.data.toList.drop 23 = dktX4_descend_1 := dk_seg dksX4_descend_0 23 rfl rfl
theorem dksX4_descend_2 : cX4_descend.data.toList.drop 46 = dktX4_descend_2 := dk_seg dksX4_descend_1 23 rfl rfl
theorem dksX4_descend_3 : cX4_descend.data.toList.drop 70 = dktX4_descend_3 := dk_seg dksX4_descend_2 24 rfl rfl
theorem dksX4_descend_4 : cX4_descend.data.toList.drop 94 = dktX4_descend_4 := dk_seg dksX4_descend_3 24 rfl rfl
theorem dksX4_descend_5 : cX4_descend.data.toList.drop 116 = dktX4_descend_5 := dk_seg dksX4_descend_4 22 rfl rfl
theorem dksX4_descend_6 : cX4_descend.data.toList.drop 140 = dktX4_descend_6 := dk_seg dksX4_descend_5 24 rfl rfl
theorem dX4_descend_0 : decode cX4_descend 0 = .ok (.iconst 0, 1) := dk_3 (dk_at dksX4_descend_0 0 rfl rfl)
theorem dX4_descend_1 : decode cX4_descend 1 = .ok (.istore_n 1, 1) := dk_60 (dk_at dksX4_descend_0 1 rfl rfl)
theorem dX4_descend_2 : decode cX4_descend 2 = .ok (.aload_n 0, 1) := dk_42 (dk_at dksX4_descend_0 2 rfl rfl)
theorem dX4_descend_3 : decode cX4_descend 3 = .ok (.getfield 15, 3) := dk_180 0 15 (dk_at dksX4_descend_0 3 rfl rfl)
theorem dX4_descend_6 : decode cX4_descend 6 = .ok (.iload_n 1, 1) := dk_27 (dk_at dksX4_descend_0 6 rfl rfl)
theorem dX4_descend_7 : decode cX4_descend 7 = .ok (.iaload, 1) := dk_46 (dk_at dksX4_descend_0 7 rfl rfl)
theorem dX4_descend_8 : decode cX4_descend 8 = .ok (.iconst 2, 1) := dk_5 (dk_at dksX4_descend_0 8 rfl rfl)
theorem dX4_descend_9 : decode cX4_descend 9 = .ok (.if_icmp .gt 152, 3) := dk_163 0 152 (dk_at dksX4_descend_0 9 rfl rfl)
theorem dX4_descend_12 : decode cX4_descend 12 = .ok (.aload_n 0, 1) := dk_42 (dk_at dksX4_descend_0 12 rfl rfl)
theorem dX4_descend_13 : decode cX4_descend 13 = .ok (.getfield 15, 3) := dk_180 0 15 (dk_at dksX4_descend_0 13 rfl rfl)
theorem dX4_descend_16 : decode cX4_descend 16 = .ok (.iload_n 1, 1) := dk_27 (dk_at dksX4_descend_0 16 rfl rfl)
theorem dX4_descend_17 : decode cX4_descend 17 = .ok (.iaload, 1) := dk_46 (dk_at dksX4_descend_0 17 rfl rfl)
theorem dX4_descend_18 : decode cX4_descend 18 = .ok (.iconst 2, 1) := dk_5 (dk_at dksX4_descend_0 18 rfl rfl)
theorem dX4_descend_19 : decode cX4_descend 19 = .ok (.if_icmp .ne 64, 3) := dk_160 0 64 (dk_at dksX4_descend_0 19 rfl rfl)
theorem dX4_descend_22 : decode cX4_descend 22 = .ok (.aload_n 0, 1) := dk_42 (dk_at dksX4_descend_0 22 rfl rfl)
theorem dX4_descend_23 : decode cX4_descend 23 = .ok (.getfield 3, 3) := dk_180 0 3 (dk_at dksX4_descend_1 0 rfl rfl)
theorem dX4_descend_26 : decode cX4_descend 26 = .ok (.getfield 95, 3) := dk_180 0 95 (dk_at dksX4_descend_1 3 rfl rfl)
theorem dX4_descend_29 : decode cX4_descend 29 = .ok (.aload_n 0, 1) := dk_42 (dk_at dksX4_descend_1 6 rfl rfl)
theorem dX4_descend_30 : decode cX4_descend 30 = .ok (.getfield 22, 3) := dk_180 0 22 (dk_at dksX4_descend_1 7 rfl rfl)
theorem dX4_descend_33 : decode cX4_descend 33 = .ok (.iload_n 1, 1) := dk_27 (dk_at dksX4_descend_1 10 rfl rfl)
theorem dX4_descend_34 : decode cX4_descend 34 = .ok (.iaload, 1) := dk_46 (dk_at dksX4_descend_1 11 rfl rfl)
theorem dX4_descend_35 : decode cX4_descend 35 = .ok (.invokevirtual 108, 3) := dk_182 0 108 (dk_at dksX4_descend_1 12 rfl rfl)
theorem dX4_descend_38 : decode cX4_descend 38 = .ok (.checkcast 112, 3) := dk_192 0 112 (dk_at dksX4_descend_1 15 rfl rfl)
theorem dX4_descend_41 : decode cX4_descend 41 = .ok (.astore_n 2, 1) := dk_77 (dk_at dksX4_descend_1 18 rfl rfl)
theorem dX4_descend_42 : decode cX4_descend 42 = .ok (.aload_n 0, 1) := dk_42 (dk_at dksX4_descend_1 19 rfl rfl)
theorem dX4_descend_43 : decode cX4_descend 43 = .ok (.getfield 3, 3) := dk_180 0 3 (dk_at dksX4_descend_1 20 rfl rfl)
theorem dX4_descend_46 : decode cX4_descend 46 = .ok (.getfield 238, 3) := dk_180 0 238 (dk_at dksX4_descend_2 0 rfl rfl)
theorem dX4_descend_49 : decode cX4_descend 49 = .ok (.aload_n 2, 1) := dk_44 (dk_at dksX4_descend_2 3 rfl rfl)
theorem dX4_descend_50 : decode cX4_descend 50 = .ok (.invokevirtual 242, 3) := dk_182 0 242 (dk_at dksX4_descend_2 4 rfl rfl)
theorem dX4_descend_53 : decode cX4_descend 53 = .ok (.aload_n 0, 1) := dk_42 (dk_at dksX4_descend_2 7 rfl rfl)
theorem dX4_descend_54 : decode cX4_descend 54 = .ok (.getfield 27, 3) := dk_180 0 27 (dk_at dksX4_descend_2 8 rfl rfl)
theorem dX4_descend_57 : decode cX4_descend 57 = .ok (.iload_n 1, 1) := dk_27 (dk_at dksX4_descend_2 11 rfl rfl)
theorem dX4_descend_58 : decode cX4_descend 58 = .ok (.aaload, 1) := dk_50 (dk_at dksX4_descend_2 12 rfl rfl)
theorem dX4_descend_59 : decode cX4_descend 59 = .ok (.aload_n 0, 1) := dk_42 (dk_at dksX4_descend_2 13 rfl rfl)
theorem dX4_descend_60 : decode cX4_descend 60 = .ok (.getfield 3, 3) := dk_180 0 3 (dk_at dksX4_descend_2 14 rfl rfl)
theorem dX4_descend_63 : decode cX4_descend 63 = .ok (.getfield 238, 3) := dk_180 0 238 (dk_at dksX4_descend_2 17 rfl rfl)
theorem dX4_descend_66 : decode cX4_descend 66 = .ok (.aload_n 2, 1) := dk_44 (dk_at dksX4_descend_2 20 rfl rfl)
theorem dX4_descend_67 : decode cX4_descend 67 = .ok (.invokevirtual 248, 3) := dk_182 0 248 (dk_at dksX4_descend_2 21 rfl rfl)
theorem dX4_descend_70 : decode cX4_descend 70 = .ok (.ifCond .ne 7, 3) := dk_154 0 7 (dk_at dksX4_descend_3 0 rfl rfl)
theorem dX4_descend_73 : decode cX4_descend 73 = .ok (.iconst 0, 1) := dk_3 (dk_at dksX4_descend_3 3 rfl rfl)
theorem dX4_descend_74 : decode cX4_descend 74 = .ok (.goto 4, 3) := dk_167 0 4 (dk_at dksX4_descend_3 4 rfl rfl)
theorem dX4_descend_77 : decode cX4_descend 77 = .ok (.iconst 1, 1) := dk_4 (dk_at dksX4_descend_3 7 rfl rfl)
theorem dX4_descend_78 : decode cX4_descend 78 = .ok (.iaload, 1) := dk_46 (dk_at dksX4_descend_3 8 rfl rfl)
theorem dX4_descend_79 : decode cX4_descend 79 = .ok (.istore_n 1, 1) := dk_60 (dk_at dksX4_descend_3 9 rfl rfl)
theorem dX4_descend_80 : decode cX4_descend 80 = .ok (.goto (-78), 3) := dk_167 255 178 (dk_at dksX4_descend_3 10 rfl rfl)
theorem dX4_descend_83 : decode cX4_descend 83 = .ok (.aload_n 0, 1) := dk_42 (dk_at dksX4_descend_3 13 rfl rfl)
theorem dX4_descend_84 : decode cX4_descend 84 = .ok (.getfield 3, 3) := dk_180 0 3 (dk_at dksX4_descend_3 14 rfl rfl)
theorem dX4_descend_87 : decode cX4_descend 87 = .ok (.getfield 238, 3) := dk_180 0 238 (dk_at dksX4_descend_3 17 rfl rfl)
theorem dX4_descend_90 : decode cX4_descend 90 = .ok (.dup, 1) := dk_89 (dk_at dksX4_descend_3 20 rfl rfl)
theorem dX4_descend_91 : decode cX4_descend 91 = .ok (.getfield 251, 3) := dk_180 0 251 (dk_at dksX4_descend_3 21 rfl rfl)
theorem dX4_descend_94 : decode cX4_descend 94 = .ok (.iconst 1, 1) := dk_4 (dk_at dksX4_descend_4 0 rfl rfl)
theorem dX4_descend_95 : decode cX4_descend 95 = .ok (.iadd, 1) := dk_96 (dk_at dksX4_descend_4 1 rfl rfl)
theorem dX4_descend_96 : decode cX4_descend 96 = .ok (.putfield 251, 3) := dk_181 0 251 (dk_at dksX4_descend_4 2 rfl rfl)
theorem dX4_descend_99 : decode cX4_descend 99 = .ok (.aload_n 0, 1) := dk_42 (dk_at dksX4_descend_4 5 rfl rfl)
theorem dX4_descend_100 : decode cX4_descend 100 = .ok (.getfield 27, 3) := dk_180 0 27 (dk_at dksX4_descend_4 6 rfl rfl)
theorem dX4_descend_103 : decode cX4_descend 103 = .ok (.iload_n 1, 1) := dk_27 (dk_at dksX4_descend_4 9 rfl rfl)
theorem dX4_descend_104 : decode cX4_descend 104 = .ok (.aaload, 1) := dk_50 (dk_at dksX4_descend_4 10 rfl rfl)
theorem dX4_descend_105 : decode cX4_descend 105 = .ok (.aload_n 0, 1) := dk_42 (dk_at dksX4_descend_4 11 rfl rfl)
theorem dX4_descend_106 : decode cX4_descend 106 = .ok (.getfield 15, 3) := dk_180 0 15 (dk_at dksX4_descend_4 12 rfl rfl)
theorem dX4_descend_109 : decode cX4_descend 109 = .ok (.iload_n 1, 1) := dk_27 (dk_at dksX4_descend_4 15 rfl rfl)
theorem dX4_descend_110 : decode cX4_descend 110 = .ok (.iaload, 1) := dk_46 (dk_at dksX4_descend_4 16 rfl rfl)
theorem dX4_descend_111 : decode cX4_descend 111 = .ok (.iconst 1, 1) := dk_4 (dk_at dksX4_descend_4 17 rfl rfl)
theorem dX4_descend_112 : decode cX4_descend 112 = .ok (.if_icmp .ne 28, 3) := dk_160 0 28 (dk_at dksX4_descend_4 18 rfl rfl)
theorem dX4_descend_115 : decode cX4_descend 115 = .ok (.aload_n 0, 1) := dk_42 (dk_at dksX4_descend_4 21 rfl rfl)
theorem dX4_descend_116 : decode cX4_descend 116 = .ok (.getfield 3, 3) := dk_180 0 3 (dk_at dksX4_descend_5 0 rfl rfl)
theorem dX4_descend_119 : decode cX4_descend 119 = .ok (.getfield 238, 3) := dk_180 0 238 (dk_at dksX4_descend_5 3 rfl rfl)
theorem dX4_descend_122 : decode cX4_descend 122 = .ok (.aload_n 0, 1) := dk_42 (dk_at dksX4_descend_5 6 rfl rfl)
theorem dX4_descend_123 : decode cX4_descend 123 = .ok (.getfield 22, 3) := dk_180 0 22 (dk_at dksX4_descend_5 7 rfl rfl)
theorem dX4_descend_126 : decode cX4_descend 126 = .ok (.iload_n 1, 1) := dk_27 (dk_at dksX4_descend_5 10 rfl rfl)
theorem dX4_descend_127 : decode cX4_descend 127 = .ok (.iaload, 1) := dk_46 (dk_at dksX4_descend_5 11 rfl rfl)
theorem dX4_descend_128 : decode cX4_descend 128 = .ok (.aload_n 0, 1) := dk_42 (dk_at dksX4_descend_5 12 rfl rfl)
theorem dX4_descend_129 : decode cX4_descend 129 = .ok (.getfield 19, 3) := dk_180 0 19 (dk_at dksX4_descend_5 13 rfl rfl)
theorem dX4_descend_132 : decode cX4_descend 132 = .ok (.iload_n 1, 1) := dk_27 (dk_at dksX4_descend_5 16 rfl rfl)
theorem dX4_descend_133 : decode cX4_descend 133 = .ok (.iaload, 1) := dk_46 (dk_at dksX4_descend_5 17 rfl rfl)
theorem dX4_descend_134 : decode cX4_descend 134 = .ok (.invokevirtual 254, 3) := dk_182 0 254 (dk_at dksX4_descend_5 18 rfl rfl)
theorem dX4_descend_137 : decode cX4_descend 137 = .ok (.goto 19, 3) := dk_167 0 19 (dk_at dksX4_descend_5 21 rfl rfl)
theorem dX4_descend_140 : decode cX4_descend 140 = .ok (.aload_n 0, 1) := dk_42 (dk_at dksX4_descend_6 0 rfl rfl)
theorem dX4_descend_141 : decode cX4_descend 141 = .ok (.getfield 3, 3) := dk_180 0 3 (dk_at dksX4_descend_6 1 rfl rfl)
theorem dX4_descend_144 : decode cX4_descend 144 = .ok (.getfield 238, 3) := dk_180 0 238 (dk_at dksX4_descend_6 4 rfl rfl)
theorem dX4_descend_147 : decode cX4_descend 147 = .ok (.aload_n 0, 1) := dk_42 (dk_at dksX4_descend_6 7 rfl rfl)
theorem dX4_descend_148 : decode cX4_descend 148 = .ok (.getfield 19, 3) := dk_180 0 19 (dk_at dksX4_descend_6 8 rfl rfl)
theorem dX4_descend_151 : decode cX4_descend 151 = .ok (.iload_n 1, 1) := dk_27 (dk_at dksX4_descend_6 11 rfl rfl)
theorem dX4_descend_152 : decode cX4_descend 152 = .ok (.iaload, 1) := dk_46 (dk_at dksX4_descend_6 12 rfl rfl)
theorem dX4_descend_153 : decode cX4_descend 153 = .ok (.invokevirtual 257, 3) := dk_182 1 1 (dk_at dksX4_descend_6 13 rfl rfl)
theorem dX4_descend_156 : decode cX4_descend 156 = .ok (.iaload, 1) := dk_46 (dk_at dksX4_descend_6 16 rfl rfl)
theorem dX4_descend_157 : decode cX4_descend 157 = .ok (.istore_n 1, 1) := dk_60 (dk_at dksX4_descend_6 17 rfl rfl)
theorem dX4_descend_158 : decode cX4_descend 158 = .ok (.goto (-156), 3) := dk_167 255 100 (dk_at dksX4_descend_6 18 rfl rfl)
theorem dX4_descend_161 : decode cX4_descend 161 = .ok (.iload_n 1, 1) := dk_27 (dk_at dksX4_descend_6 21 rfl rfl)
theorem dX4_descend_162 : decode cX4_descend 162 = .ok (.ireturn, 1) := dk_172 (dk_at dksX4_descend_6 22 rfl rfl)
abbrev cX4_shared : ByteArray := prog_20_method_19_code
def yX4_shared : MethodName := ⟨RX4, "shared", "()I"⟩
def dkwX4_shared_5 : List UInt8 := [160, 0, 7, 4, 167, 0, 4, 3, 96, 60, 132, 2, 255, 167, 255, 136, 27, 172]
abbrev dktX4_shared_5 : List UInt8 := dkwX4_shared_5 ++ []
def dkwX4_shared_4 : List UInt8 := [153, 0, 7, 29, 167, 0, 4, 28, 79, 132, 3, 255, 167, 255, 208, 27, 42, 180, 0, 33, 28, 46, 28]
abbrev dktX4_shared_4 : List UInt8 := dkwX4_shared_4 ++ dktX4_shared_5
def dkwX4_shared_3 : List UInt8 := [160, 0, 39, 42, 180, 0, 33, 28, 42, 180, 0, 33, 29, 46, 29, 160, 0, 16, 42, 28, 29, 182, 0, 232]
abbrev dktX4_shared_3 : List UInt8 := dkwX4_shared_3 ++ dktX4_shared_4
def dkwX4_shared_2 : List UInt8 := [79, 167, 0, 79, 42, 180, 0, 82, 4, 100, 62, 29, 28, 164, 0, 49, 42, 180, 0, 33, 28, 46, 28]
abbrev dktX4_shared_2 : List UInt8 := dkwX4_shared_2 ++ dktX4_shared_3
def dkwX4_shared_1 : List UInt8 := [182, 0, 229, 153, 0, 25, 42, 180, 0, 33, 28, 42, 180, 0, 33, 42, 180, 0, 27, 28, 50, 3, 46, 46]
abbrev dktX4_shared_1 : List UInt8 := dkwX4_shared_1 ++ dktX4_shared_2
def dkwX4_shared_0 : List UInt8 := [3, 60, 42, 180, 0, 82, 4, 100, 61, 28, 155, 0, 122, 42, 180, 0, 33, 28, 28, 79, 42, 28]
abbrev dktX4_shared_0 : List UInt8 := dkwX4_shared_0 ++ dktX4_shared_1
theorem dksX4_shared_0 : cX4_shared.data.toList.drop 0 = dktX4_shared_0 := by decide +kernel
theorem dksX4_shared_1 : cX4_shared.data.toList.drop 22 = dktX4_shared_1 := dk_seg dksX4_shared_0 22 rfl rfl
theorem dksX4_shared_2 : cX4_shared.data.toList.drop 46 = dktX4_shared_2 := dk_seg dksX4_shared_1 24 rfl rfl
theorem dksX4_shared_3 : cX4_shared.data.toList.drop 69 = dktX4_shared_3 := dk_seg dksX4_shared_2 23 rfl rfl
theorem dksX4_shared_4 : cX4_shared.data.toList.drop 93 = dktX4_shared_4 := dk_seg dksX4_shared_3 24 rfl rfl
theorem dksX4_shared_5 : cX4_shared.data.toList.drop 116 = dktX4_shared_5 := dk_seg dksX4_shared_4 23 rfl rfl
theorem dX4_shared_0 : decode cX4_shared 0 = .ok (.iconst 0, 1) := dk_3 (dk_at dksX4_shared_0 0 rfl rfl)
theorem dX4_shared_1 : decode cX4_shared 1 = .ok (.istore_n 1, 1) := dk_60 (dk_at dksX4_shared_0 1 rfl rfl)
theorem dX4_shared_2 : decode cX4_shared 2 = .ok (.aload_n 0, 1) := dk_42 (dk_at dksX4_shared_0 2 rfl rfl)
theorem dX4_shared_3 : decode cX4_shared 3 = .ok (.getfield 82, 3) := dk_180 0 82 (dk_at dksX4_shared_0 3 rfl rfl)
theorem dX4_shared_6 : decode cX4_shared 6 = .ok (.iconst 1, 1) := dk_4 (dk_at dksX4_shared_0 6 rfl rfl)
theorem dX4_shared_7 : decode cX4_shared 7 = .ok (.isub, 1) := dk_100 (dk_at dksX4_shared_0 7 rfl rfl)
theorem dX4_shared_8 : decode cX4_shared 8 = .ok (.istore_n 2, 1) := dk_61 (dk_at dksX4_shared_0 8 rfl rfl)
theorem dX4_shared_9 : decode cX4_shared 9 = .ok (.iload_n 2, 1) := dk_28 (dk_at dksX4_shared_0 9 rfl rfl)
theorem dX4_shared_10 : decode cX4_shared 10 = .ok (.ifCond .lt 122, 3) := dk_155 0 122 (dk_at dksX4_shared_0 10 rfl rfl)
theorem dX4_shared_13 : decode cX4_shared 13 = .ok (.aload_n 0, 1) := dk_42 (dk_at dksX4_shared_0 13 rfl rfl)
theorem dX4_shared_14 : decode cX4_shared 14 = .ok (.getfield 33, 3) := dk_180 0 33 (dk_at dksX4_shared_0 14 rfl rfl)
theorem dX4_shared_17 : decode cX4_shared 17 = .ok (.iload_n 2, 1) := dk_28 (dk_at dksX4_shared_0 17 rfl rfl)
theorem dX4_shared_18 : decode cX4_shared 18 = .ok (.iload_n 2, 1) := dk_28 (dk_at dksX4_shared_0 18 rfl rfl)
theorem dX4_shared_19 : decode cX4_shared 19 = .ok (.iastore, 1) := dk_79 (dk_at dksX4_shared_0 19 rfl rfl)
theorem dX4_shared_20 : decode cX4_shared 20 = .ok (.aload_n 0, 1) := dk_42 (dk_at dksX4_shared_0 20 rfl rfl)
theorem dX4_shared_21 : decode cX4_shared 21 = .ok (.iload_n 2, 1) := dk_28 (dk_at dksX4_shared_0 21 rfl rfl)
theorem dX4_shared_22 : decode cX4_shared 22 = .ok (.invokevirtual 229, 3) := dk_182 0 229 (dk_at dksX4_shared_1 0 rfl rfl)
theorem dX4_shared_25 : decode cX4_shared 25 = .ok (.ifCond .eq 25, 3) := dk_153 0 25 (dk_at dksX4_shared_1 3 rfl rfl)
theorem dX4_shared_28 : decode cX4_shared 28 = .ok (.aload_n 0, 1) := dk_42 (dk_at dksX4_shared_1 6 rfl rfl)
theorem dX4_shared_29 : decode cX4_shared 29 = .ok (.getfield 33, 3) := dk_180 0 33 (dk_at dksX4_shared_1 7 rfl rfl)
theorem dX4_shared_32 : decode cX4_shared 32 = .ok (.iload_n 2, 1) := dk_28 (dk_at dksX4_shared_1 10 rfl rfl)
theorem dX4_shared_33 : decode cX4_shared 33 = .ok (.aload_n 0, 1) := dk_42 (dk_at dksX4_shared_1 11 rfl rfl)
theorem dX4_shared_34 : decode cX4_shared 34 = .ok (.getfield 33, 3) := dk_180 0 33 (dk_at dksX4_shared_1 12 rfl rfl)
theorem dX4_shared_37 : decode cX4_shared 37 = .ok (.aload_n 0, 1) := dk_42 (dk_at dksX4_shared_1 15 rfl rfl)
theorem dX4_shared_38 : decode cX4_shared 38 = .ok (.getfield 27, 3) := dk_180 0 27 (dk_at dksX4_shared_1 16 rfl rfl)
theorem dX4_shared_41 : decode cX4_shared 41 = .ok (.iload_n 2, 1) := dk_28 (dk_at dksX4_shared_1 19 rfl rfl)
theorem dX4_shared_42 : decode cX4_shared 42 = .ok (.aaload, 1) := dk_50 (dk_at dksX4_shared_1 20 rfl rfl)
theorem dX4_shared_43 : decode cX4_shared 43 = .ok (.iconst 0, 1) := dk_3 (dk_at dksX4_shared_1 21 rfl rfl)
theorem dX4_shared_44 : decode cX4_shared 44 = .ok (.iaload, 1) := dk_46 (dk_at dksX4_shared_1 22 rfl rfl)
theorem dX4_shared_45 : decode cX4_shared 45 = .ok (.iaload, 1) := dk_46 (dk_at dksX4_shared_1 23 rfl rfl)
theorem dX4_shared_46 : decode cX4_shared 46 = .ok (.iastore, 1) := dk_79 (dk_at dksX4_shared_2 0 rfl rfl)
theorem dX4_shared_47 : decode cX4_shared 47 = .ok (.goto 79, 3) := dk_167 0 79 (dk_at dksX4_shared_2 1 rfl rfl)
theorem dX4_shared_50 : decode cX4_shared 50 = .ok (.aload_n 0, 1) := dk_42 (dk_at dksX4_shared_2 4 rfl rfl)
theorem dX4_shared_51 : decode cX4_shared 51 = .ok (.getfield 82, 3) := dk_180 0 82 (dk_at dksX4_shared_2 5 rfl rfl)
theorem dX4_shared_54 : decode cX4_shared 54 = .ok (.iconst 1, 1) := dk_4 (dk_at dksX4_shared_2 8 rfl rfl)
theorem dX4_shared_55 : decode cX4_shared 55 = .ok (.isub, 1) := dk_100 (dk_at dksX4_shared_2 9 rfl rfl)
theorem dX4_shared_56 : decode cX4_shared 56 = .ok (.istore_n 3, 1) := dk_62 (dk_at dksX4_shared_2 10 rfl rfl)
theorem dX4_shared_57 : decode cX4_shared 57 = .ok (.iload_n 3, 1) := dk_29 (dk_at dksX4_shared_2 11 rfl rfl)
theorem dX4_shared_58 : decode cX4_shared 58 = .ok (.iload_n 2, 1) := dk_28 (dk_at dksX4_shared_2 12 rfl rfl)
theorem dX4_shared_59 : decode cX4_shared 59 = .ok (.if_icmp .le 49, 3) := dk_164 0 49 (dk_at dksX4_shared_2 13 rfl rfl)
theorem dX4_shared_62 : decode cX4_shared 62 = .ok (.aload_n 0, 1) := dk_42 (dk_at dksX4_shared_2 16 rfl rfl)
theorem dX4_shared_63 : decode cX4_shared 63 = .ok (.getfield 33, 3) := dk_180 0 33 (dk_at dksX4_shared_2 17 rfl rfl)
theorem dX4_shared_66 : decode cX4_shared 66 = .ok (.iload_n 2, 1) := dk_28 (dk_at dksX4_shared_2 20 rfl rfl)
theorem dX4_shared_67 : decode cX4_shared 67 = .ok (.iaload, 1) := dk_46 (dk_at dksX4_shared_2 21 rfl rfl)
theorem dX4_shared_68 : decode cX4_shared 68 = .ok (.iload_n 2, 1) := dk_28 (dk_at dksX4_shared_2 22 rfl rfl)
theorem dX4_shared_69 : decode cX4_shared 69 = .ok (.if_icmp .ne 39, 3) := dk_160 0 39 (dk_at dksX4_shared_3 0 rfl rfl)
theorem dX4_shared_72 : decode cX4_shared 72 = .ok (.aload_n 0, 1) := dk_42 (dk_at dksX4_shared_3 3 rfl rfl)
theorem dX4_shared_73 : decode cX4_shared 73 = .ok (.getfield 33, 3) := dk_180 0 33 (dk_at dksX4_shared_3 4 rfl rfl)
theorem dX4_shared_76 : decode cX4_shared 76 = .ok (.iload_n 2, 1) := dk_28 (dk_at dksX4_shared_3 7 rfl rfl)
theorem dX4_shared_77 : decode cX4_shared 77 = .ok (.aload_n 0, 1) := dk_42 (dk_at dksX4_shared_3 8 rfl rfl)
theorem dX4_shared_78 : decode cX4_shared 78 = .ok (.getfield 33, 3) := dk_180 0 33 (dk_at dksX4_shared_3 9 rfl rfl)
theorem dX4_shared_81 : decode cX4_shared 81 = .ok (.iload_n 3, 1) := dk_29 (dk_at dksX4_shared_3 12 rfl rfl)
theorem dX4_shared_82 : decode cX4_shared 82 = .ok (.iaload, 1) := dk_46 (dk_at dksX4_shared_3 13 rfl rfl)
theorem dX4_shared_83 : decode cX4_shared 83 = .ok (.iload_n 3, 1) := dk_29 (dk_at dksX4_shared_3 14 rfl rfl)
theorem dX4_shared_84 : decode cX4_shared 84 = .ok (.if_icmp .ne 16, 3) := dk_160 0 16 (dk_at dksX4_shared_3 15 rfl rfl)
theorem dX4_shared_87 : decode cX4_shared 87 = .ok (.aload_n 0, 1) := dk_42 (dk_at dksX4_shared_3 18 rfl rfl)
theorem dX4_shared_88 : decode cX4_shared 88 = .ok (.iload_n 2, 1) := dk_28 (dk_at dksX4_shared_3 19 rfl rfl)
theorem dX4_shared_89 : decode cX4_shared 89 = .ok (.iload_n 3, 1) := dk_29 (dk_at dksX4_shared_3 20 rfl rfl)
theorem dX4_shared_90 : decode cX4_shared 90 = .ok (.invokevirtual 232, 3) := dk_182 0 232 (dk_at dksX4_shared_3 21 rfl rfl)
theorem dX4_shared_93 : decode cX4_shared 93 = .ok (.ifCond .eq 7, 3) := dk_153 0 7 (dk_at dksX4_shared_4 0 rfl rfl)
theorem dX4_shared_96 : decode cX4_shared 96 = .ok (.iload_n 3, 1) := dk_29 (dk_at dksX4_shared_4 3 rfl rfl)
theorem dX4_shared_97 : decode cX4_shared 97 = .ok (.goto 4, 3) := dk_167 0 4 (dk_at dksX4_shared_4 4 rfl rfl)
theorem dX4_shared_100 : decode cX4_shared 100 = .ok (.iload_n 2, 1) := dk_28 (dk_at dksX4_shared_4 7 rfl rfl)
theorem dX4_shared_101 : decode cX4_shared 101 = .ok (.iastore, 1) := dk_79 (dk_at dksX4_shared_4 8 rfl rfl)
theorem dX4_shared_102 : decode cX4_shared 102 = .ok (.iinc 3 (-1), 3) := dk_132 3 255 (dk_at dksX4_shared_4 9 rfl rfl)
theorem dX4_shared_105 : decode cX4_shared 105 = .ok (.goto (-48), 3) := dk_167 255 208 (dk_at dksX4_shared_4 12 rfl rfl)
theorem dX4_shared_108 : decode cX4_shared 108 = .ok (.iload_n 1, 1) := dk_27 (dk_at dksX4_shared_4 15 rfl rfl)
theorem dX4_shared_109 : decode cX4_shared 109 = .ok (.aload_n 0, 1) := dk_42 (dk_at dksX4_shared_4 16 rfl rfl)
theorem dX4_shared_110 : decode cX4_shared 110 = .ok (.getfield 33, 3) := dk_180 0 33 (dk_at dksX4_shared_4 17 rfl rfl)
theorem dX4_shared_113 : decode cX4_shared 113 = .ok (.iload_n 2, 1) := dk_28 (dk_at dksX4_shared_4 20 rfl rfl)
theorem dX4_shared_114 : decode cX4_shared 114 = .ok (.iaload, 1) := dk_46 (dk_at dksX4_shared_4 21 rfl rfl)
theorem dX4_shared_115 : decode cX4_shared 115 = .ok (.iload_n 2, 1) := dk_28 (dk_at dksX4_shared_4 22 rfl rfl)
theorem dX4_shared_116 : decode cX4_shared 116 = .ok (.if_icmp .ne 7, 3) := dk_160 0 7 (dk_at dksX4_shared_5 0 rfl rfl)
theorem dX4_shared_119 : decode cX4_shared 119 = .ok (.iconst 1, 1) := dk_4 (dk_at dksX4_shared_5 3 rfl rfl)
theorem dX4_shared_120 : decode cX4_shared 120 = .ok (.goto 4, 3) := dk_167 0 4 (dk_at dksX4_shared_5 4 rfl rfl)
theorem dX4_shared_123 : decode cX4_shared 123 = .ok (.iconst 0, 1) := dk_3 (dk_at dksX4_shared_5 7 rfl rfl)
theorem dX4_shared_124 : decode cX4_shared 124 = .ok (.iadd, 1) := dk_96 (dk_at dksX4_shared_5 8 rfl rfl)
theorem dX4_shared_125 : decode cX4_shared 125 = .ok (.istore_n 1, 1) := dk_60 (dk_at dksX4_shared_5 9 rfl rfl)
theorem dX4_shared_126 : decode cX4_shared 126 = .ok (.iinc 2 (-1), 3) := dk_132 2 255 (dk_at dksX4_shared_5 10 rfl rfl)
theorem dX4_shared_129 : decode cX4_shared 129 = .ok (.goto (-120), 3) := dk_167 255 136 (dk_at dksX4_shared_5 13 rfl rfl)
theorem dX4_shared_132 : decode cX4_shared 132 = .ok (.iload_n 1, 1) := dk_27 (dk_at dksX4_shared_5 16 rfl rfl)
theorem dX4_shared_133 : decode cX4_shared 133 = .ok (.ireturn, 1) := dk_172 (dk_at dksX4_shared_5 17 rfl rfl)
abbrev cX4_isNeedless : ByteArray := prog_20_method_18_code
def yX4_isNeedless : MethodName := ⟨RX4, "isNeedless", "(I)Z"⟩
def dkwX4_isNeedless_3 : List UInt8 := [167, 0, 4, 3, 61, 132, 3, 1, 167, 255, 204, 28, 172]
abbrev dktX4_isNeedless_3 : List UInt8 := dkwX4_isNeedless_3 ++ []
def dkwX4_isNeedless_2 : List UInt8 := [27, 50, 29, 46, 46, 42, 180, 0, 33, 42, 180, 0, 27, 27, 50, 3, 46, 46, 160, 0, 7, 4]
abbrev dktX4_isNeedless_2 : List UInt8 := dkwX4_isNeedless_2 ++ dktX4_isNeedless_3
def dkwX4_isNeedless_1 : List UInt8 := [4, 62, 29, 42, 180, 0, 30, 27, 46, 162, 0, 48, 28, 153, 0, 44, 42, 180, 0, 33, 42, 180, 0, 27]
abbrev dktX4_isNeedless_1 : List UInt8 := dkwX4_isNeedless_1 ++ dktX4_isNeedless_2
def dkwX4_isNeedless_0 : List UInt8 := [42, 180, 0, 15, 27, 46, 154, 0, 16, 42, 180, 0, 30, 27, 46, 158, 0, 7, 4, 167, 0, 4, 3, 61]
abbrev dktX4_isNeedless_0 : List UInt8 := dkwX4_isNeedless_0 ++ dktX4_isNeedless_1
theorem dksX4_isNeedless_0 : cX4_isNeedless.data.toList.drop 0 = dktX4_isNeedless_0 := by decide +kernel
theorem dksX4_isNeedless_1 : cX4_isNeedless.data.toList.drop 24 = dktX4_isNeedless_1 := dk_seg dksX4_isNeedless_0 24 rfl rfl
theorem dksX4_isNeedless_2 : cX4_isNeedless.data.toList.drop 48 = dktX4_isNeedless_2 := dk_seg dksX4_isNeedless_1 24 rfl rfl
theorem dksX4_isNeedless_3 : cX4_isNeedless.data.toList.drop 70 = dktX4_isNeedless_3 := dk_seg dksX4_isNeedless_2 22 rfl rfl
theorem dX4_isNeedless_0 : decode cX4_isNeedless 0 = .ok (.aload_n 0, 1) := dk_42 (dk_at dksX4_isNeedless_0 0 rfl rfl)
theorem dX4_isNeedless_1 : decode cX4_isNeedless 1 = .ok (.getfield 15, 3) := dk_180 0 15 (dk_at dksX4_isNeedless_0 1 rfl rfl)
theorem dX4_isNeedless_4 : decode cX4_isNeedless 4 = .ok (.iload_n 1, 1) := dk_27 (dk_at dksX4_isNeedless_0 4 rfl rfl)
theorem dX4_isNeedless_5 : decode cX4_isNeedless 5 = .ok (.iaload, 1) := dk_46 (dk_at dksX4_isNeedless_0 5 rfl rfl)
theorem dX4_isNeedless_6 : decode cX4_isNeedless 6 = .ok (.ifCond .ne 16, 3) := dk_154 0 16 (dk_at dksX4_isNeedless_0 6 rfl rfl)
theorem dX4_isNeedless_9 : decode cX4_isNeedless 9 = .ok (.aload_n 0, 1) := dk_42 (dk_at dksX4_isNeedless_0 9 rfl rfl)
theorem dX4_isNeedless_10 : decode cX4_isNeedless 10 = .ok (.getfield 30, 3) := dk_180 0 30 (dk_at dksX4_isNeedless_0 10 rfl rfl)
theorem dX4_isNeedless_13 : decode cX4_isNeedless 13 = .ok (.iload_n 1, 1) := dk_27 (dk_at dksX4_isNeedless_0 13 rfl rfl)
theorem dX4_isNeedless_14 : decode cX4_isNeedless 14 = .ok (.iaload, 1) := dk_46 (dk_at dksX4_isNeedless_0 14 rfl rfl)
theorem dX4_isNeedless_15 : decode cX4_isNeedless 15 = .ok (.ifCond .le 7, 3) := dk_158 0 7 (dk_at dksX4_isNeedless_0 15 rfl rfl)
theorem dX4_isNeedless_18 : decode cX4_isNeedless 18 = .ok (.iconst 1, 1) := dk_4 (dk_at dksX4_isNeedless_0 18 rfl rfl)
theorem dX4_isNeedless_19 : decode cX4_isNeedless 19 = .ok (.goto 4, 3) := dk_167 0 4 (dk_at dksX4_isNeedless_0 19 rfl rfl)
theorem dX4_isNeedless_22 : decode cX4_isNeedless 22 = .ok (.iconst 0, 1) := dk_3 (dk_at dksX4_isNeedless_0 22 rfl rfl)
theorem dX4_isNeedless_23 : decode cX4_isNeedless 23 = .ok (.istore_n 2, 1) := dk_61 (dk_at dksX4_isNeedless_0 23 rfl rfl)
theorem dX4_isNeedless_24 : decode cX4_isNeedless 24 = .ok (.iconst 1, 1) := dk_4 (dk_at dksX4_isNeedless_1 0 rfl rfl)
theorem dX4_isNeedless_25 : decode cX4_isNeedless 25 = .ok (.istore_n 3, 1) := dk_62 (dk_at dksX4_isNeedless_1 1 rfl rfl)
theorem dX4_isNeedless_26 : decode cX4_isNeedless 26 = .ok (.iload_n 3, 1) := dk_29 (dk_at dksX4_isNeedless_1 2 rfl rfl)
theorem dX4_isNeedless_27 : decode cX4_isNeedless 27 = .ok (.aload_n 0, 1) := dk_42 (dk_at dksX4_isNeedless_1 3 rfl rfl)
theorem dX4_isNeedless_28 : decode cX4_isNeedless 28 = .ok (.getfield 30, 3) := dk_180 0 30 (dk_at dksX4_isNeedless_1 4 rfl rfl)
theorem dX4_isNeedless_31 : decode cX4_isNeedless 31 = .ok (.iload_n 1, 1) := dk_27 (dk_at dksX4_isNeedless_1 7 rfl rfl)
theorem dX4_isNeedless_32 : decode cX4_isNeedless 32 = .ok (.iaload, 1) := dk_46 (dk_at dksX4_isNeedless_1 8 rfl rfl)
theorem dX4_isNeedless_33 : decode cX4_isNeedless 33 = .ok (.if_icmp .ge 48, 3) := dk_162 0 48 (dk_at dksX4_isNeedless_1 9 rfl rfl)
theorem dX4_isNeedless_36 : decode cX4_isNeedless 36 = .ok (.iload_n 2, 1) := dk_28 (dk_at dksX4_isNeedless_1 12 rfl rfl)
theorem dX4_isNeedless_37 : decode cX4_isNeedless 37 = .ok (.ifCond .eq 44, 3) := dk_153 0 44 (dk_at dksX4_isNeedless_1 13 rfl rfl)
theorem dX4_isNeedless_40 : decode cX4_isNeedless 40 = .ok (.aload_n 0, 1) := dk_42 (dk_at dksX4_isNeedless_1 16 rfl rfl)
theorem dX4_isNeedless_41 : decode cX4_isNeedless 41 = .ok (.getfield 33, 3) := dk_180 0 33 (dk_at dksX4_isNeedless_1 17 rfl rfl)
theorem dX4_isNeedless_44 : decode cX4_isNeedless 44 = .ok (.aload_n 0, 1) := dk_42 (dk_at dksX4_isNeedless_1 20 rfl rfl)
theorem dX4_isNeedless_45 : decode cX4_isNeedless 45 = .ok (.getfield 27, 3) := dk_180 0 27 (dk_at dksX4_isNeedless_1 21 rfl rfl)
theorem dX4_isNeedless_48 : decode cX4_isNeedless 48 = .ok (.iload_n 1, 1) := dk_27 (dk_at dksX4_isNeedless_2 0 rfl rfl)
theorem dX4_isNeedless_49 : decode cX4_isNeedless 49 = .ok (.aaload, 1) := dk_50 (dk_at dksX4_isNeedless_2 1 rfl rfl)
theorem dX4_isNeedless_50 : decode cX4_isNeedless 50 = .ok (.iload_n 3, 1) := dk_29 (dk_at dksX4_isNeedless_2 2 rfl rfl)
theorem dX4_isNeedless_51 : decode cX4_isNeedless 51 = .ok (.iaload, 1) := dk_46 (dk_at dksX4_isNeedless_2 3 rfl rfl)
theorem dX4_isNeedless_52 : decode cX4_isNeedless 52 = .ok (.iaload, 1) := dk_46 (dk_at dksX4_isNeedless_2 4 rfl rfl)
theorem dX4_isNeedless_53 : decode cX4_isNeedless 53 = .ok (.aload_n 0, 1) := dk_42 (dk_at dksX4_isNeedless_2 5 rfl rfl)
theorem dX4_isNeedless_54 : decode cX4_isNeedless 54 = .ok (.getfield 33, 3) := dk_180 0 33 (dk_at dksX4_isNeedless_2 6 rfl rfl)
theorem dX4_isNeedless_57 : decode cX4_isNeedless 57 = .ok (.aload_n 0, 1) := dk_42 (dk_at dksX4_isNeedless_2 9 rfl rfl)
theorem dX4_isNeedless_58 : decode cX4_isNeedless 58 = .ok (.getfield 27, 3) := dk_180 0 27 (dk_at dksX4_isNeedless_2 10 rfl rfl)
theorem dX4_isNeedless_61 : decode cX4_isNeedless 61 = .ok (.iload_n 1, 1) := dk_27 (dk_at dksX4_isNeedless_2 13 rfl rfl)
theorem dX4_isNeedless_62 : decode cX4_isNeedless 62 = .ok (.aaload, 1) := dk_50 (dk_at dksX4_isNeedless_2 14 rfl rfl)
theorem dX4_isNeedless_63 : decode cX4_isNeedless 63 = .ok (.iconst 0, 1) := dk_3 (dk_at dksX4_isNeedless_2 15 rfl rfl)
theorem dX4_isNeedless_64 : decode cX4_isNeedless 64 = .ok (.iaload, 1) := dk_46 (dk_at dksX4_isNeedless_2 16 rfl rfl)
theorem dX4_isNeedless_65 : decode cX4_isNeedless 65 = .ok (.iaload, 1) := dk_46 (dk_at dksX4_isNeedless_2 17 rfl rfl)
theorem dX4_isNeedless_66 : decode cX4_isNeedless 66 = .ok (.if_icmp .ne 7, 3) := dk_160 0 7 (dk_at dksX4_isNeedless_2 18 rfl rfl)
theorem dX4_isNeedless_69 : decode cX4_isNeedless 69 = .ok (.iconst 1, 1) := dk_4 (dk_at dksX4_isNeedless_2 21 rfl rfl)
theorem dX4_isNeedless_70 : decode cX4_isNeedless 70 = .ok (.goto 4, 3) := dk_167 0 4 (dk_at dksX4_isNeedless_3 0 rfl rfl)
theorem dX4_isNeedless_73 : decode cX4_isNeedless 73 = .ok (.iconst 0, 1) := dk_3 (dk_at dksX4_isNeedless_3 3 rfl rfl)
theorem dX4_isNeedless_74 : decode cX4_isNeedless 74 = .ok (.istore_n 2, 1) := dk_61 (dk_at dksX4_isNeedless_3 4 rfl rfl)
theorem dX4_isNeedless_75 : decode cX4_isNeedless 75 = .ok (.iinc 3 1, 3) := dk_132 3 1 (dk_at dksX4_isNeedless_3 5 rfl rfl)
theorem dX4_isNeedless_78 : decode cX4_isNeedless 78 = .ok (.goto (-52), 3) := dk_167 255 204 (dk_at dksX4_isNeedless_3 8 rfl rfl)
theorem dX4_isNeedless_81 : decode cX4_isNeedless 81 = .ok (.iload_n 2, 1) := dk_28 (dk_at dksX4_isNeedless_3 11 rfl rfl)
theorem dX4_isNeedless_82 : decode cX4_isNeedless 82 = .ok (.ireturn, 1) := dk_172 (dk_at dksX4_isNeedless_3 12 rfl rfl)
abbrev cX4_areAlike : ByteArray := prog_20_method_17_code
def yX4_areAlike : MethodName := ⟨RX4, "areAlike", "(II)Z"⟩
def dkwX4_areAlike_5 : List UInt8 := [167, 0, 4, 3, 62, 132, 4, 1, 167, 255, 201, 29, 172]
abbrev dktX4_areAlike_5 : List UInt8 := dkwX4_areAlike_5 ++ []
def dkwX4_areAlike_4 : List UInt8 := [50, 21, 4, 46, 46, 42, 180, 0, 33, 42, 180, 0, 27, 28, 50, 21, 4, 46, 46, 160, 0, 7, 4]
abbrev dktX4_areAlike_4 : List UInt8 := dkwX4_areAlike_4 ++ dktX4_areAlike_5
def dkwX4_areAlike_3 : List UInt8 := [21, 4, 42, 180, 0, 30, 27, 46, 162, 0, 50, 29, 153, 0, 46, 42, 180, 0, 33, 42, 180, 0, 27, 27]
abbrev dktX4_areAlike_3 : List UInt8 := dkwX4_areAlike_3 ++ dktX4_areAlike_4
def dkwX4_areAlike_2 : List UInt8 := [180, 0, 30, 27, 46, 42, 180, 0, 30, 28, 46, 160, 0, 7, 4, 167, 0, 4, 3, 62, 3, 54, 4]
abbrev dktX4_areAlike_2 : List UInt8 := dkwX4_areAlike_2 ++ dktX4_areAlike_3
def dkwX4_areAlike_1 : List UInt8 := [180, 0, 19, 28, 46, 160, 0, 37, 42, 180, 0, 22, 27, 46, 42, 180, 0, 22, 28, 46, 160, 0, 22, 42]
abbrev dktX4_areAlike_1 : List UInt8 := dkwX4_areAlike_1 ++ dktX4_areAlike_2
def dkwX4_areAlike_0 : List UInt8 := [42, 180, 0, 15, 27, 46, 42, 180, 0, 15, 28, 46, 160, 0, 52, 42, 180, 0, 19, 27, 46, 42]
abbrev dktX4_areAlike_0 : List UInt8 := dkwX4_areAlike_0 ++ dktX4_areAlike_1
theorem dksX4_areAlike_0 : cX4_areAlike.data.toList.drop 0 = dktX4_areAlike_0 := by decide +kernel
theorem dksX4_areAlike_1 : cX4_areAlike.data.toList.drop 22 = dktX4_areAlike_1 := dk_seg dksX4_areAlike_0 22 rfl rfl
theorem dksX4_areAlike_2 : cX4_areAlike.data.toList.drop 46 = dktX4_areAlike_2 := dk_seg dksX4_areAlike_1 24 rfl rfl
theorem dksX4_areAlike_3 : cX4_areAlike.data.toList.drop 69 = dktX4_areAlike_3 := dk_seg dksX4_areAlike_2 23 rfl rfl
theorem dksX4_areAlike_4 : cX4_areAlike.data.toList.drop 93 = dktX4_areAlike_4 := dk_seg dksX4_areAlike_3 24 rfl rfl
theorem dksX4_areAlike_5 : cX4_areAlike.data.toList.drop 116 = dktX4_areAlike_5 := dk_seg dksX4_areAlike_4 23 rfl rfl
theorem dX4_areAlike_0 : decode cX4_areAlike 0 = .ok (.aload_n 0, 1) := dk_42 (dk_at dksX4_areAlike_0 0 rfl rfl)
theorem dX4_areAlike_1 : decode cX4_areAlike 1 = .ok (.getfield 15, 3) := dk_180 0 15 (dk_at dksX4_areAlike_0 1 rfl rfl)
theorem dX4_areAlike_4 : decode cX4_areAlike 4 = .ok (.iload_n 1, 1) := dk_27 (dk_at dksX4_areAlike_0 4 rfl rfl)
theorem dX4_areAlike_5 : decode cX4_areAlike 5 = .ok (.iaload, 1) := dk_46 (dk_at dksX4_areAlike_0 5 rfl rfl)
theorem dX4_areAlike_6 : decode cX4_areAlike 6 = .ok (.aload_n 0, 1) := dk_42 (dk_at dksX4_areAlike_0 6 rfl rfl)
theorem dX4_areAlike_7 : decode cX4_areAlike 7 = .ok (.getfield 15, 3) := dk_180 0 15 (dk_at dksX4_areAlike_0 7 rfl rfl)
theorem dX4_areAlike_10 : decode cX4_areAlike 10 = .ok (.iload_n 2, 1) := dk_28 (dk_at dksX4_areAlike_0 10 rfl rfl)
theorem dX4_areAlike_11 : decode cX4_areAlike 11 = .ok (.iaload, 1) := dk_46 (dk_at dksX4_areAlike_0 11 rfl rfl)
theorem dX4_areAlike_12 : decode cX4_areAlike 12 = .ok (.if_icmp .ne 52, 3) := dk_160 0 52 (dk_at dksX4_areAlike_0 12 rfl rfl)
theorem dX4_areAlike_15 : decode cX4_areAlike 15 = .ok (.aload_n 0, 1) := dk_42 (dk_at dksX4_areAlike_0 15 rfl rfl)
theorem dX4_areAlike_16 : decode cX4_areAlike 16 = .ok (.getfield 19, 3) := dk_180 0 19 (dk_at dksX4_areAlike_0 16 rfl rfl)
theorem dX4_areAlike_19 : decode cX4_areAlike 19 = .ok (.iload_n 1, 1) := dk_27 (dk_at dksX4_areAlike_0 19 rfl rfl)
theorem dX4_areAlike_20 : decode cX4_areAlike 20 = .ok (.iaload, 1) := dk_46 (dk_at dksX4_areAlike_0 20 rfl rfl)
theorem dX4_areAlike_21 : decode cX4_areAlike 21 = .ok (.aload_n 0, 1) := dk_42 (dk_at dksX4_areAlike_0 21 rfl rfl)
theorem dX4_areAlike_22 : decode cX4_areAlike 22 = .ok (.getfield 19, 3) := dk_180 0 19 (dk_at dksX4_areAlike_1 0 rfl rfl)
theorem dX4_areAlike_25 : decode cX4_areAlike 25 = .ok (.iload_n 2, 1) := dk_28 (dk_at dksX4_areAlike_1 3 rfl rfl)
theorem dX4_areAlike_26 : decode cX4_areAlike 26 = .ok (.iaload, 1) := dk_46 (dk_at dksX4_areAlike_1 4 rfl rfl)
theorem dX4_areAlike_27 : decode cX4_areAlike 27 = .ok (.if_icmp .ne 37, 3) := dk_160 0 37 (dk_at dksX4_areAlike_1 5 rfl rfl)
theorem dX4_areAlike_30 : decode cX4_areAlike 30 = .ok (.aload_n 0, 1) := dk_42 (dk_at dksX4_areAlike_1 8 rfl rfl)
theorem dX4_areAlike_31 : decode cX4_areAlike 31 = .ok (.getfield 22, 3) := dk_180 0 22 (dk_at dksX4_areAlike_1 9 rfl rfl)
theorem dX4_areAlike_34 : decode cX4_areAlike 34 = .ok (.iload_n 1, 1) := dk_27 (dk_at dksX4_areAlike_1 12 rfl rfl)
theorem dX4_areAlike_35 : decode cX4_areAlike 35 = .ok (.iaload, 1) := dk_46 (dk_at dksX4_areAlike_1 13 rfl rfl)
theorem dX4_areAlike_36 : decode cX4_areAlike 36 = .ok (.aload_n 0, 1) := dk_42 (dk_at dksX4_areAlike_1 14 rfl rfl)
theorem dX4_areAlike_37 : decode cX4_areAlike 37 = .ok (.getfield 22, 3) := dk_180 0 22 (dk_at dksX4_areAlike_1 15 rfl rfl)
theorem dX4_areAlike_40 : decode cX4_areAlike 40 = .ok (.iload_n 2, 1) := dk_28 (dk_at dksX4_areAlike_1 18 rfl rfl)
theorem dX4_areAlike_41 : decode cX4_areAlike 41 = .ok (.iaload, 1) := dk_46 (dk_at dksX4_areAlike_1 19 rfl rfl)
theorem dX4_areAlike_42 : decode cX4_areAlike 42 = .ok (.if_icmp .ne 22, 3) := dk_160 0 22 (dk_at dksX4_areAlike_1 20 rfl rfl)
theorem dX4_areAlike_45 : decode cX4_areAlike 45 = .ok (.aload_n 0, 1) := dk_42 (dk_at dksX4_areAlike_1 23 rfl rfl)
theorem dX4_areAlike_46 : decode cX4_areAlike 46 = .ok (.getfield 30, 3) := dk_180 0 30 (dk_at dksX4_areAlike_2 0 rfl rfl)
theorem dX4_areAlike_49 : decode cX4_areAlike 49 = .ok (.iload_n 1, 1) := dk_27 (dk_at dksX4_areAlike_2 3 rfl rfl)
theorem dX4_areAlike_50 : decode cX4_areAlike 50 = .ok (.iaload, 1) := dk_46 (dk_at dksX4_areAlike_2 4 rfl rfl)
theorem dX4_areAlike_51 : decode cX4_areAlike 51 = .ok (.aload_n 0, 1) := dk_42 (dk_at dksX4_areAlike_2 5 rfl rfl)
theorem dX4_areAlike_52 : decode cX4_areAlike 52 = .ok (.getfield 30, 3) := dk_180 0 30 (dk_at dksX4_areAlike_2 6 rfl rfl)
theorem dX4_areAlike_55 : decode cX4_areAlike 55 = .ok (.iload_n 2, 1) := dk_28 (dk_at dksX4_areAlike_2 9 rfl rfl)
theorem dX4_areAlike_56 : decode cX4_areAlike 56 = .ok (.iaload, 1) := dk_46 (dk_at dksX4_areAlike_2 10 rfl rfl)
theorem dX4_areAlike_57 : decode cX4_areAlike 57 = .ok (.if_icmp .ne 7, 3) := dk_160 0 7 (dk_at dksX4_areAlike_2 11 rfl rfl)
theorem dX4_areAlike_60 : decode cX4_areAlike 60 = .ok (.iconst 1, 1) := dk_4 (dk_at dksX4_areAlike_2 14 rfl rfl)
theorem dX4_areAlike_61 : decode cX4_areAlike 61 = .ok (.goto 4, 3) := dk_167 0 4 (dk_at dksX4_areAlike_2 15 rfl rfl)
theorem dX4_areAlike_64 : decode cX4_areAlike 64 = .ok (.iconst 0, 1) := dk_3 (dk_at dksX4_areAlike_2 18 rfl rfl)
theorem dX4_areAlike_65 : decode cX4_areAlike 65 = .ok (.istore_n 3, 1) := dk_62 (dk_at dksX4_areAlike_2 19 rfl rfl)
theorem dX4_areAlike_66 : decode cX4_areAlike 66 = .ok (.iconst 0, 1) := dk_3 (dk_at dksX4_areAlike_2 20 rfl rfl)
theorem dX4_areAlike_67 : decode cX4_areAlike 67 = .ok (.istore 4, 2) := dk_54 4 (dk_at dksX4_areAlike_2 21 rfl rfl)
theorem dX4_areAlike_69 : decode cX4_areAlike 69 = .ok (.iload 4, 2) := dk_21 4 (dk_at dksX4_areAlike_3 0 rfl rfl)
theorem dX4_areAlike_71 : decode cX4_areAlike 71 = .ok (.aload_n 0, 1) := dk_42 (dk_at dksX4_areAlike_3 2 rfl rfl)
theorem dX4_areAlike_72 : decode cX4_areAlike 72 = .ok (.getfield 30, 3) := dk_180 0 30 (dk_at dksX4_areAlike_3 3 rfl rfl)
theorem dX4_areAlike_75 : decode cX4_areAlike 75 = .ok (.iload_n 1, 1) := dk_27 (dk_at dksX4_areAlike_3 6 rfl rfl)
theorem dX4_areAlike_76 : decode cX4_areAlike 76 = .ok (.iaload, 1) := dk_46 (dk_at dksX4_areAlike_3 7 rfl rfl)
theorem dX4_areAlike_77 : decode cX4_areAlike 77 = .ok (.if_icmp .ge 50, 3) := dk_162 0 50 (dk_at dksX4_areAlike_3 8 rfl rfl)
theorem dX4_areAlike_80 : decode cX4_areAlike 80 = .ok (.iload_n 3, 1) := dk_29 (dk_at dksX4_areAlike_3 11 rfl rfl)
theorem dX4_areAlike_81 : decode cX4_areAlike 81 = .ok (.ifCond .eq 46, 3) := dk_153 0 46 (dk_at dksX4_areAlike_3 12 rfl rfl)
theorem dX4_areAlike_84 : decode cX4_areAlike 84 = .ok (.aload_n 0, 1) := dk_42 (dk_at dksX4_areAlike_3 15 rfl rfl)
theorem dX4_areAlike_85 : decode cX4_areAlike 85 = .ok (.getfield 33, 3) := dk_180 0 33 (dk_at dksX4_areAlike_3 16 rfl rfl)
theorem dX4_areAlike_88 : decode cX4_areAlike 88 = .ok (.aload_n 0, 1) := dk_42 (dk_at dksX4_areAlike_3 19 rfl rfl)
theorem dX4_areAlike_89 : decode cX4_areAlike 89 = .ok (.getfield 27, 3) := dk_180 0 27 (dk_at dksX4_areAlike_3 20 rfl rfl)
theorem dX4_areAlike_92 : decode cX4_areAlike 92 = .ok (.iload_n 1, 1) := dk_27 (dk_at dksX4_areAlike_3 23 rfl rfl)
theorem dX4_areAlike_93 : decode cX4_areAlike 93 = .ok (.aaload, 1) := dk_50 (dk_at dksX4_areAlike_4 0 rfl rfl)
theorem dX4_areAlike_94 : decode cX4_areAlike 94 = .ok (.iload 4, 2) := dk_21 4 (dk_at dksX4_areAlike_4 1 rfl rfl)
theorem dX4_areAlike_96 : decode cX4_areAlike 96 = .ok (.iaload, 1) := dk_46 (dk_at dksX4_areAlike_4 3 rfl rfl)
theorem dX4_areAlike_97 : decode cX4_areAlike 97 = .ok (.iaload, 1) := dk_46 (dk_at dksX4_areAlike_4 4 rfl rfl)
theorem dX4_areAlike_98 : decode cX4_areAlike 98 = .ok (.aload_n 0, 1) := dk_42 (dk_at dksX4_areAlike_4 5 rfl rfl)
theorem dX4_areAlike_99 : decode cX4_areAlike 99 = .ok (.getfield 33, 3) := dk_180 0 33 (dk_at dksX4_areAlike_4 6 rfl rfl)
theorem dX4_areAlike_102 : decode cX4_areAlike 102 = .ok (.aload_n 0, 1) := dk_42 (dk_at dksX4_areAlike_4 9 rfl rfl)
theorem dX4_areAlike_103 : decode cX4_areAlike 103 = .ok (.getfield 27, 3) := dk_180 0 27 (dk_at dksX4_areAlike_4 10 rfl rfl)
theorem dX4_areAlike_106 : decode cX4_areAlike 106 = .ok (.iload_n 2, 1) := dk_28 (dk_at dksX4_areAlike_4 13 rfl rfl)
theorem dX4_areAlike_107 : decode cX4_areAlike 107 = .ok (.aaload, 1) := dk_50 (dk_at dksX4_areAlike_4 14 rfl rfl)
theorem dX4_areAlike_108 : decode cX4_areAlike 108 = .ok (.iload 4, 2) := dk_21 4 (dk_at dksX4_areAlike_4 15 rfl rfl)
theorem dX4_areAlike_110 : decode cX4_areAlike 110 = .ok (.iaload, 1) := dk_46 (dk_at dksX4_areAlike_4 17 rfl rfl)
theorem dX4_areAlike_111 : decode cX4_areAlike 111 = .ok (.iaload, 1) := dk_46 (dk_at dksX4_areAlike_4 18 rfl rfl)
theorem dX4_areAlike_112 : decode cX4_areAlike 112 = .ok (.if_icmp .ne 7, 3) := dk_160 0 7 (dk_at dksX4_areAlike_4 19 rfl rfl)
theorem dX4_areAlike_115 : decode cX4_areAlike 115 = .ok (.iconst 1, 1) := dk_4 (dk_at dksX4_areAlike_4 22 rfl rfl)
theorem dX4_areAlike_116 : decode cX4_areAlike 116 = .ok (.goto 4, 3) := dk_167 0 4 (dk_at dksX4_areAlike_5 0 rfl rfl)
theorem dX4_areAlike_119 : decode cX4_areAlike 119 = .ok (.iconst 0, 1) := dk_3 (dk_at dksX4_areAlike_5 3 rfl rfl)
theorem dX4_areAlike_120 : decode cX4_areAlike 120 = .ok (.istore_n 3, 1) := dk_62 (dk_at dksX4_areAlike_5 4 rfl rfl)
theorem dX4_areAlike_121 : decode cX4_areAlike 121 = .ok (.iinc 4 1, 3) := dk_132 4 1 (dk_at dksX4_areAlike_5 5 rfl rfl)
theorem dX4_areAlike_124 : decode cX4_areAlike 124 = .ok (.goto (-55), 3) := dk_167 255 201 (dk_at dksX4_areAlike_5 8 rfl rfl)
theorem dX4_areAlike_127 : decode cX4_areAlike 127 = .ok (.iload_n 3, 1) := dk_29 (dk_at dksX4_areAlike_5 11 rfl rfl)
theorem dX4_areAlike_128 : decode cX4_areAlike 128 = .ok (.ireturn, 1) := dk_172 (dk_at dksX4_areAlike_5 12 rfl rfl)
abbrev cX4_manyOfKind : ByteArray := prog_20_method_20_code
def yX4_manyOfKind : MethodName := ⟨RX4, "manyOfKind", "(I)I"⟩
def dkwX4_manyOfKind_1 : List UInt8 := [167, 0, 4, 3, 96, 61, 132, 3, 1, 167, 255, 227, 28, 172]
abbrev dktX4_manyOfKind_1 : List UInt8 := dkwX4_manyOfKind_1 ++ []
def dkwX4_manyOfKind_0 : List UInt8 := [3, 61, 3, 62, 29, 42, 180, 0, 82, 162, 0, 27, 28, 42, 180, 0, 15, 29, 46, 27, 160, 0, 7, 4]
abbrev dktX4_manyOfKind_0 : List UInt8 := dkwX4_manyOfKind_0 ++ dktX4_manyOfKind_1
theorem dksX4_manyOfKind_0 : cX4_manyOfKind.data.toList.drop 0 = dktX4_manyOfKind_0 := by decide +kernel
theorem dksX4_manyOfKind_1 : cX4_manyOfKind.data.toList.drop 24 = dktX4_manyOfKind_1 := dk_seg dksX4_manyOfKind_0 24 rfl rfl
theorem dX4_manyOfKind_0 : decode cX4_manyOfKind 0 = .ok (.iconst 0, 1) := dk_3 (dk_at dksX4_manyOfKind_0 0 rfl rfl)
theorem dX4_manyOfKind_1 : decode cX4_manyOfKind 1 = .ok (.istore_n 2, 1) := dk_61 (dk_at dksX4_manyOfKind_0 1 rfl rfl)
theorem dX4_manyOfKind_2 : decode cX4_manyOfKind 2 = .ok (.iconst 0, 1) := dk_3 (dk_at dksX4_manyOfKind_0 2 rfl rfl)
theorem dX4_manyOfKind_3 : decode cX4_manyOfKind 3 = .ok (.istore_n 3, 1) := dk_62 (dk_at dksX4_manyOfKind_0 3 rfl rfl)
theorem dX4_manyOfKind_4 : decode cX4_manyOfKind 4 = .ok (.iload_n 3, 1) := dk_29 (dk_at dksX4_manyOfKind_0 4 rfl rfl)
theorem dX4_manyOfKind_5 : decode cX4_manyOfKind 5 = .ok (.aload_n 0, 1) := dk_42 (dk_at dksX4_manyOfKind_0 5 rfl rfl)
theorem dX4_manyOfKind_6 : decode cX4_manyOfKind 6 = .ok (.getfield 82, 3) := dk_180 0 82 (dk_at dksX4_manyOfKind_0 6 rfl rfl)
theorem dX4_manyOfKind_9 : decode cX4_manyOfKind 9 = .ok (.if_icmp .ge 27, 3) := dk_162 0 27 (dk_at dksX4_manyOfKind_0 9 rfl rfl)
theorem dX4_manyOfKind_12 : decode cX4_manyOfKind 12 = .ok (.iload_n 2, 1) := dk_28 (dk_at dksX4_manyOfKind_0 12 rfl rfl)
theorem dX4_manyOfKind_13 : decode cX4_manyOfKind 13 = .ok (.aload_n 0, 1) := dk_42 (dk_at dksX4_manyOfKind_0 13 rfl rfl)
theorem dX4_manyOfKind_14 : decode cX4_manyOfKind 14 = .ok (.getfield 15, 3) := dk_180 0 15 (dk_at dksX4_manyOfKind_0 14 rfl rfl)
theorem dX4_manyOfKind_17 : decode cX4_manyOfKind 17 = .ok (.iload_n 3, 1) := dk_29 (dk_at dksX4_manyOfKind_0 17 rfl rfl)
theorem dX4_manyOfKind_18 : decode cX4_manyOfKind 18 = .ok (.iaload, 1) := dk_46 (dk_at dksX4_manyOfKind_0 18 rfl rfl)
theorem dX4_manyOfKind_19 : decode cX4_manyOfKind 19 = .ok (.iload_n 1, 1) := dk_27 (dk_at dksX4_manyOfKind_0 19 rfl rfl)
theorem dX4_manyOfKind_20 : decode cX4_manyOfKind 20 = .ok (.if_icmp .ne 7, 3) := dk_160 0 7 (dk_at dksX4_manyOfKind_0 20 rfl rfl)
theorem dX4_manyOfKind_23 : decode cX4_manyOfKind 23 = .ok (.iconst 1, 1) := dk_4 (dk_at dksX4_manyOfKind_0 23 rfl rfl)
theorem dX4_manyOfKind_24 : decode cX4_manyOfKind 24 = .ok (.goto 4, 3) := dk_167 0 4 (dk_at dksX4_manyOfKind_1 0 rfl rfl)
theorem dX4_manyOfKind_27 : decode cX4_manyOfKind 27 = .ok (.iconst 0, 1) := dk_3 (dk_at dksX4_manyOfKind_1 3 rfl rfl)
theorem dX4_manyOfKind_28 : decode cX4_manyOfKind 28 = .ok (.iadd, 1) := dk_96 (dk_at dksX4_manyOfKind_1 4 rfl rfl)
theorem dX4_manyOfKind_29 : decode cX4_manyOfKind 29 = .ok (.istore_n 2, 1) := dk_61 (dk_at dksX4_manyOfKind_1 5 rfl rfl)
theorem dX4_manyOfKind_30 : decode cX4_manyOfKind 30 = .ok (.iinc 3 1, 3) := dk_132 3 1 (dk_at dksX4_manyOfKind_1 6 rfl rfl)
theorem dX4_manyOfKind_33 : decode cX4_manyOfKind 33 = .ok (.goto (-29), 3) := dk_167 255 227 (dk_at dksX4_manyOfKind_1 9 rfl rfl)
theorem dX4_manyOfKind_36 : decode cX4_manyOfKind 36 = .ok (.iload_n 2, 1) := dk_28 (dk_at dksX4_manyOfKind_1 12 rfl rfl)
theorem dX4_manyOfKind_37 : decode cX4_manyOfKind 37 = .ok (.ireturn, 1) := dk_172 (dk_at dksX4_manyOfKind_1 13 rfl rfl)
abbrev cX4_example : ByteArray := prog_20_method_21_code
def yX4_example : MethodName := ⟨RX4, "example", "(I)I"⟩
def dkwX4_example_4 : List UInt8 := [21, 5, 54, 4, 167, 255, 181, 29, 172]
abbrev dktX4_example_4 : List UInt8 := dkwX4_example_4 ++ []
def dkwX4_example_3 : List UInt8 := [21, 5, 46, 154, 0, 19, 42, 180, 0, 19, 21, 5, 46, 27, 160, 0, 8, 21, 6, 167, 0, 4, 29, 62]
abbrev dktX4_example_3 : List UInt8 := dkwX4_example_3 ++ dktX4_example_4
def dkwX4_example_2 : List UInt8 := [160, 0, 19, 132, 5, 255, 42, 21, 5, 21, 4, 182, 0, 235, 54, 6, 167, 255, 237, 42, 180, 0, 15]
abbrev dktX4_example_2 : List UInt8 := dkwX4_example_2 ++ dktX4_example_3
def dkwX4_example_1 : List UInt8 := [21, 4, 158, 0, 76, 21, 4, 4, 100, 54, 5, 42, 21, 5, 21, 4, 182, 0, 235, 54, 6, 21, 6, 2]
abbrev dktX4_example_1 : List UInt8 := dkwX4_example_1 ++ dktX4_example_2
def dkwX4_example_0 : List UInt8 := [3, 61, 42, 180, 0, 15, 28, 46, 8, 159, 0, 9, 132, 2, 1, 167, 255, 243, 16, 252, 62, 28, 54, 4]
abbrev dktX4_example_0 : List UInt8 := dkwX4_example_0 ++ dktX4_example_1
theorem dksX4_example_0 : cX4_example.data.toList.drop 0 = dktX4_example_0 := by decide +kernel
theorem dksX4_example_1 : cX4_example.data.toList.drop 24 = dktX4_example_1 := dk_seg dksX4_example_0 24 rfl rfl
theorem dksX4_example_2 : cX4_example.data.toList.drop 48 = dktX4_example_2 := dk_seg dksX4_example_1 24 rfl rfl
theorem dksX4_example_3 : cX4_example.data.toList.drop 71 = dktX4_example_3 := dk_seg dksX4_example_2 23 rfl rfl
theorem dksX4_example_4 : cX4_example.data.toList.drop 95 = dktX4_example_4 := dk_seg dksX4_example_3 24 rfl rfl
theorem dX4_example_0 : decode cX4_example 0 = .ok (.iconst 0, 1) := dk_3 (dk_at dksX4_example_0 0 rfl rfl)
theorem dX4_example_1 : decode cX4_example 1 = .ok (.istore_n 2, 1) := dk_61 (dk_at dksX4_example_0 1 rfl rfl)
theorem dX4_example_2 : decode cX4_example 2 = .ok (.aload_n 0, 1) := dk_42 (dk_at dksX4_example_0 2 rfl rfl)
theorem dX4_example_3 : decode cX4_example 3 = .ok (.getfield 15, 3) := dk_180 0 15 (dk_at dksX4_example_0 3 rfl rfl)
theorem dX4_example_6 : decode cX4_example 6 = .ok (.iload_n 2, 1) := dk_28 (dk_at dksX4_example_0 6 rfl rfl)
theorem dX4_example_7 : decode cX4_example 7 = .ok (.iaload, 1) := dk_46 (dk_at dksX4_example_0 7 rfl rfl)
theorem dX4_example_8 : decode cX4_example 8 = .ok (.iconst 5, 1) := dk_8 (dk_at dksX4_example_0 8 rfl rfl)
theorem dX4_example_9 : decode cX4_example 9 = .ok (.if_icmp .eq 9, 3) := dk_159 0 9 (dk_at dksX4_example_0 9 rfl rfl)
theorem dX4_example_12 : decode cX4_example 12 = .ok (.iinc 2 1, 3) := dk_132 2 1 (dk_at dksX4_example_0 12 rfl rfl)
theorem dX4_example_15 : decode cX4_example 15 = .ok (.goto (-13), 3) := dk_167 255 243 (dk_at dksX4_example_0 15 rfl rfl)
theorem dX4_example_18 : decode cX4_example 18 = .ok (.bipush (-4), 2) := dk_16 252 (dk_at dksX4_example_0 18 rfl rfl)
theorem dX4_example_20 : decode cX4_example 20 = .ok (.istore_n 3, 1) := dk_62 (dk_at dksX4_example_0 20 rfl rfl)
theorem dX4_example_21 : decode cX4_example 21 = .ok (.iload_n 2, 1) := dk_28 (dk_at dksX4_example_0 21 rfl rfl)
theorem dX4_example_22 : decode cX4_example 22 = .ok (.istore 4, 2) := dk_54 4 (dk_at dksX4_example_0 22 rfl rfl)
theorem dX4_example_24 : decode cX4_example 24 = .ok (.iload 4, 2) := dk_21 4 (dk_at dksX4_example_1 0 rfl rfl)
theorem dX4_example_26 : decode cX4_example 26 = .ok (.ifCond .le 76, 3) := dk_158 0 76 (dk_at dksX4_example_1 2 rfl rfl)
theorem dX4_example_29 : decode cX4_example 29 = .ok (.iload 4, 2) := dk_21 4 (dk_at dksX4_example_1 5 rfl rfl)
theorem dX4_example_31 : decode cX4_example 31 = .ok (.iconst 1, 1) := dk_4 (dk_at dksX4_example_1 7 rfl rfl)
theorem dX4_example_32 : decode cX4_example 32 = .ok (.isub, 1) := dk_100 (dk_at dksX4_example_1 8 rfl rfl)
theorem dX4_example_33 : decode cX4_example 33 = .ok (.istore 5, 2) := dk_54 5 (dk_at dksX4_example_1 9 rfl rfl)
theorem dX4_example_35 : decode cX4_example 35 = .ok (.aload_n 0, 1) := dk_42 (dk_at dksX4_example_1 11 rfl rfl)
theorem dX4_example_36 : decode cX4_example 36 = .ok (.iload 5, 2) := dk_21 5 (dk_at dksX4_example_1 12 rfl rfl)
theorem dX4_example_38 : decode cX4_example 38 = .ok (.iload 4, 2) := dk_21 4 (dk_at dksX4_example_1 14 rfl rfl)
theorem dX4_example_40 : decode cX4_example 40 = .ok (.invokevirtual 235, 3) := dk_182 0 235 (dk_at dksX4_example_1 16 rfl rfl)
theorem dX4_example_43 : decode cX4_example 43 = .ok (.istore 6, 2) := dk_54 6 (dk_at dksX4_example_1 19 rfl rfl)
theorem dX4_example_45 : decode cX4_example 45 = .ok (.iload 6, 2) := dk_21 6 (dk_at dksX4_example_1 21 rfl rfl)
theorem dX4_example_47 : decode cX4_example 47 = .ok (.iconst (-1), 1) := dk_2 (dk_at dksX4_example_1 23 rfl rfl)
theorem dX4_example_48 : decode cX4_example 48 = .ok (.if_icmp .ne 19, 3) := dk_160 0 19 (dk_at dksX4_example_2 0 rfl rfl)
theorem dX4_example_51 : decode cX4_example 51 = .ok (.iinc 5 (-1), 3) := dk_132 5 255 (dk_at dksX4_example_2 3 rfl rfl)
theorem dX4_example_54 : decode cX4_example 54 = .ok (.aload_n 0, 1) := dk_42 (dk_at dksX4_example_2 6 rfl rfl)
theorem dX4_example_55 : decode cX4_example 55 = .ok (.iload 5, 2) := dk_21 5 (dk_at dksX4_example_2 7 rfl rfl)
theorem dX4_example_57 : decode cX4_example 57 = .ok (.iload 4, 2) := dk_21 4 (dk_at dksX4_example_2 9 rfl rfl)
theorem dX4_example_59 : decode cX4_example 59 = .ok (.invokevirtual 235, 3) := dk_182 0 235 (dk_at dksX4_example_2 11 rfl rfl)
theorem dX4_example_62 : decode cX4_example 62 = .ok (.istore 6, 2) := dk_54 6 (dk_at dksX4_example_2 14 rfl rfl)
theorem dX4_example_64 : decode cX4_example 64 = .ok (.goto (-19), 3) := dk_167 255 237 (dk_at dksX4_example_2 16 rfl rfl)
theorem dX4_example_67 : decode cX4_example 67 = .ok (.aload_n 0, 1) := dk_42 (dk_at dksX4_example_2 19 rfl rfl)
theorem dX4_example_68 : decode cX4_example 68 = .ok (.getfield 15, 3) := dk_180 0 15 (dk_at dksX4_example_2 20 rfl rfl)
theorem dX4_example_71 : decode cX4_example 71 = .ok (.iload 5, 2) := dk_21 5 (dk_at dksX4_example_3 0 rfl rfl)
theorem dX4_example_73 : decode cX4_example 73 = .ok (.iaload, 1) := dk_46 (dk_at dksX4_example_3 2 rfl rfl)
theorem dX4_example_74 : decode cX4_example 74 = .ok (.ifCond .ne 19, 3) := dk_154 0 19 (dk_at dksX4_example_3 3 rfl rfl)
theorem dX4_example_77 : decode cX4_example 77 = .ok (.aload_n 0, 1) := dk_42 (dk_at dksX4_example_3 6 rfl rfl)
theorem dX4_example_78 : decode cX4_example 78 = .ok (.getfield 19, 3) := dk_180 0 19 (dk_at dksX4_example_3 7 rfl rfl)
theorem dX4_example_81 : decode cX4_example 81 = .ok (.iload 5, 2) := dk_21 5 (dk_at dksX4_example_3 10 rfl rfl)
theorem dX4_example_83 : decode cX4_example 83 = .ok (.iaload, 1) := dk_46 (dk_at dksX4_example_3 12 rfl rfl)
theorem dX4_example_84 : decode cX4_example 84 = .ok (.iload_n 1, 1) := dk_27 (dk_at dksX4_example_3 13 rfl rfl)
theorem dX4_example_85 : decode cX4_example 85 = .ok (.if_icmp .ne 8, 3) := dk_160 0 8 (dk_at dksX4_example_3 14 rfl rfl)
theorem dX4_example_88 : decode cX4_example 88 = .ok (.iload 6, 2) := dk_21 6 (dk_at dksX4_example_3 17 rfl rfl)
theorem dX4_example_90 : decode cX4_example 90 = .ok (.goto 4, 3) := dk_167 0 4 (dk_at dksX4_example_3 19 rfl rfl)
theorem dX4_example_93 : decode cX4_example 93 = .ok (.iload_n 3, 1) := dk_29 (dk_at dksX4_example_3 22 rfl rfl)
theorem dX4_example_94 : decode cX4_example 94 = .ok (.istore_n 3, 1) := dk_62 (dk_at dksX4_example_3 23 rfl rfl)
theorem dX4_example_95 : decode cX4_example 95 = .ok (.iload 5, 2) := dk_21 5 (dk_at dksX4_example_4 0 rfl rfl)
theorem dX4_example_97 : decode cX4_example 97 = .ok (.istore 4, 2) := dk_54 4 (dk_at dksX4_example_4 2 rfl rfl)
theorem dX4_example_99 : decode cX4_example 99 = .ok (.goto (-75), 3) := dk_167 255 181 (dk_at dksX4_example_4 4 rfl rfl)
theorem dX4_example_102 : decode cX4_example 102 = .ok (.iload_n 3, 1) := dk_29 (dk_at dksX4_example_4 7 rfl rfl)
theorem dX4_example_103 : decode cX4_example 103 = .ok (.ireturn, 1) := dk_172 (dk_at dksX4_example_4 8 rfl rfl)
abbrev cX4_wayTo : ByteArray := prog_20_method_22_code
def yX4_wayTo : MethodName := ⟨RX4, "wayTo", "(II)I"⟩
def dkwX4_wayTo_1 : List UInt8 := [29, 172, 132, 3, 1, 167, 255, 229, 2, 172]
abbrev dktX4_wayTo_1 : List UInt8 := dkwX4_wayTo_1 ++ []
def dkwX4_wayTo_0 : List UInt8 := [3, 62, 29, 42, 180, 0, 30, 27, 46, 162, 0, 23, 42, 180, 0, 27, 27, 50, 29, 46, 28, 160, 0, 5]
abbrev dktX4_wayTo_0 : List UInt8 := dkwX4_wayTo_0 ++ dktX4_wayTo_1
theorem dksX4_wayTo_0 : cX4_wayTo.data.toList.drop 0 = dktX4_wayTo_0 := by decide +kernel
theorem dksX4_wayTo_1 : cX4_wayTo.data.toList.drop 24 = dktX4_wayTo_1 := dk_seg dksX4_wayTo_0 24 rfl rfl
theorem dX4_wayTo_0 : decode cX4_wayTo 0 = .ok (.iconst 0, 1) := dk_3 (dk_at dksX4_wayTo_0 0 rfl rfl)
theorem dX4_wayTo_1 : decode cX4_wayTo 1 = .ok (.istore_n 3, 1) := dk_62 (dk_at dksX4_wayTo_0 1 rfl rfl)
theorem dX4_wayTo_2 : decode cX4_wayTo 2 = .ok (.iload_n 3, 1) := dk_29 (dk_at dksX4_wayTo_0 2 rfl rfl)
theorem dX4_wayTo_3 : decode cX4_wayTo 3 = .ok (.aload_n 0, 1) := dk_42 (dk_at dksX4_wayTo_0 3 rfl rfl)
theorem dX4_wayTo_4 : decode cX4_wayTo 4 = .ok (.getfield 30, 3) := dk_180 0 30 (dk_at dksX4_wayTo_0 4 rfl rfl)
theorem dX4_wayTo_7 : decode cX4_wayTo 7 = .ok (.iload_n 1, 1) := dk_27 (dk_at dksX4_wayTo_0 7 rfl rfl)
theorem dX4_wayTo_8 : decode cX4_wayTo 8 = .ok (.iaload, 1) := dk_46 (dk_at dksX4_wayTo_0 8 rfl rfl)
theorem dX4_wayTo_9 : decode cX4_wayTo 9 = .ok (.if_icmp .ge 23, 3) := dk_162 0 23 (dk_at dksX4_wayTo_0 9 rfl rfl)
theorem dX4_wayTo_12 : decode cX4_wayTo 12 = .ok (.aload_n 0, 1) := dk_42 (dk_at dksX4_wayTo_0 12 rfl rfl)
theorem dX4_wayTo_13 : decode cX4_wayTo 13 = .ok (.getfield 27, 3) := dk_180 0 27 (dk_at dksX4_wayTo_0 13 rfl rfl)
theorem dX4_wayTo_16 : decode cX4_wayTo 16 = .ok (.iload_n 1, 1) := dk_27 (dk_at dksX4_wayTo_0 16 rfl rfl)
theorem dX4_wayTo_17 : decode cX4_wayTo 17 = .ok (.aaload, 1) := dk_50 (dk_at dksX4_wayTo_0 17 rfl rfl)
theorem dX4_wayTo_18 : decode cX4_wayTo 18 = .ok (.iload_n 3, 1) := dk_29 (dk_at dksX4_wayTo_0 18 rfl rfl)
theorem dX4_wayTo_19 : decode cX4_wayTo 19 = .ok (.iaload, 1) := dk_46 (dk_at dksX4_wayTo_0 19 rfl rfl)
theorem dX4_wayTo_20 : decode cX4_wayTo 20 = .ok (.iload_n 2, 1) := dk_28 (dk_at dksX4_wayTo_0 20 rfl rfl)
theorem dX4_wayTo_21 : decode cX4_wayTo 21 = .ok (.if_icmp .ne 5, 3) := dk_160 0 5 (dk_at dksX4_wayTo_0 21 rfl rfl)
theorem dX4_wayTo_24 : decode cX4_wayTo 24 = .ok (.iload_n 3, 1) := dk_29 (dk_at dksX4_wayTo_1 0 rfl rfl)
theorem dX4_wayTo_25 : decode cX4_wayTo 25 = .ok (.ireturn, 1) := dk_172 (dk_at dksX4_wayTo_1 1 rfl rfl)
theorem dX4_wayTo_26 : decode cX4_wayTo 26 = .ok (.iinc 3 1, 3) := dk_132 3 1 (dk_at dksX4_wayTo_1 2 rfl rfl)
theorem dX4_wayTo_29 : decode cX4_wayTo 29 = .ok (.goto (-27), 3) := dk_167 255 229 (dk_at dksX4_wayTo_1 5 rfl rfl)
theorem dX4_wayTo_32 : decode cX4_wayTo 32 = .ok (.iconst (-1), 1) := dk_2 (dk_at dksX4_wayTo_1 8 rfl rfl)
theorem dX4_wayTo_33 : decode cX4_wayTo 33 = .ok (.ireturn, 1) := dk_172 (dk_at dksX4_wayTo_1 9 rfl rfl)
theorem q102 : (Jvm.Cond.initialized "Patternforge$Tree") ∈ lw_all := lw_g (lw_at lw_m1 7 rfl) rfl
theorem q194 : (Jvm.Cond.fieldLinkNest "Patternforge$Tree" (251 : Nat) "Patternforge$Running" "tests" "I" "Patternforge") ∈ lw_tbl := lw_at lw_m1 99 rfl
theorem q225 : (Jvm.Cond.instantiable "Patternforge$Tree" (25 : Nat)) ∈ lw_all := lw_g (lw_at lw_m1 130 rfl) rfl
theorem q227 : (Jvm.Cond.instanceMethod ({ cls := "Patternforge$Tree", name := "<init>", desc := "(LPatternforge;Z)V" } : Jvm.MethodName)) ∈ lw_all := lw_g (lw_at lw_m1 132 rfl) rfl
theorem q228 : (Jvm.Cond.code ({ cls := "Patternforge$Tree", name := "<init>", desc := "(LPatternforge;Z)V" } : Jvm.MethodName) prog_20_method_1_code (3 : Nat) (Option.none : Option Jvm.ClassFile.FieldType)) ∈ lw_all := lw_g (lw_at lw_m1 133 rfl) rfl
theorem q229 : (Jvm.Cond.methodLinkNest "Patternforge$Tree" (9 : Nat) ({ cls := "Patternforge$Matching", name := "<init>", desc := "(LPatternforge;)V" } : Jvm.MethodName) "Patternforge") ∈ lw_tbl := lw_at lw_m1 134 rfl
theorem q230 : (Jvm.Cond.classLink "Patternforge$Tree" (25 : Nat) "[[I") ∈ lw_all := lw_g (lw_at lw_m1 135 rfl) rfl
theorem q231 : (Jvm.Cond.fieldLink "Patternforge$Tree" (54 : Nat) "Patternforge$Tree" "byMost" "Z") ∈ lw_all := lw_g (lw_at lw_m1 136 rfl) rfl
theorem q232 : (Jvm.Cond.fieldLink "Patternforge$Tree" (15 : Nat) "Patternforge$Tree" "what" "[I") ∈ lw_all := lw_g (lw_at lw_m1 137 rfl) rfl
theorem q234 : (Jvm.Cond.fieldLink "Patternforge$Tree" (19 : Nat) "Patternforge$Tree" "place" "[I") ∈ lw_all := lw_g (lw_at lw_m1 139 rfl) rfl
theorem q235 : (Jvm.Cond.fieldLink "Patternforge$Tree" (22 : Nat) "Patternforge$Tree" "of" "[I") ∈ lw_all := lw_g (lw_at lw_m1 140 rfl) rfl
theorem q237 : (Jvm.Cond.fieldLink "Patternforge$Tree" (27 : Nat) "Patternforge$Tree" "behind" "[[I") ∈ lw_all := lw_g (lw_at lw_m1 142 rfl) rfl
theorem q238 : (Jvm.Cond.fieldLink "Patternforge$Tree" (30 : Nat) "Patternforge$Tree" "branches" "[I") ∈ lw_all := lw_g (lw_at lw_m1 143 rfl) rfl
theorem q239 : (Jvm.Cond.fieldLink "Patternforge$Tree" (33 : Nat) "Patternforge$Tree" "same" "[I") ∈ lw_all := lw_g (lw_at lw_m1 144 rfl) rfl
theorem q240 : (Jvm.Cond.fieldLink "Patternforge$Tree" (82 : Nat) "Patternforge$Tree" "many" "I") ∈ lw_all := lw_g (lw_at lw_m1 145 rfl) rfl
theorem q242 : (Jvm.Cond.fieldLink "Patternforge$Tree" (85 : Nat) "Patternforge$Tree" "isLarge" "Z") ∈ lw_all := lw_g (lw_at lw_m1 147 rfl) rfl
theorem q244 : (Jvm.Cond.fieldLink "Patternforge$Tree" (79 : Nat) "Patternforge$Tree" "isBuilt" "Z") ∈ lw_all := lw_g (lw_at lw_m1 149 rfl) rfl
theorem q246 : (Jvm.Cond.fieldLink "Patternforge$Tree" (36 : Nat) "Patternforge$Tree" "knownPlace" "[I") ∈ lw_all := lw_g (lw_at lw_m1 151 rfl) rfl
theorem q247 : (Jvm.Cond.fieldLink "Patternforge$Tree" (39 : Nat) "Patternforge$Tree" "knownView" "[I") ∈ lw_all := lw_g (lw_at lw_m1 152 rfl) rfl
theorem q248 : (Jvm.Cond.fieldLink "Patternforge$Tree" (42 : Nat) "Patternforge$Tree" "knownNumber" "[I") ∈ lw_all := lw_g (lw_at lw_m1 153 rfl) rfl
theorem q249 : (Jvm.Cond.fieldLink "Patternforge$Tree" (58 : Nat) "Patternforge$Tree" "known" "I") ∈ lw_all := lw_g (lw_at lw_m1 154 rfl) rfl
theorem q250 : (Jvm.Cond.fieldLink "Patternforge$Tree" (88 : Nat) "Patternforge$Tree" "failed" "I") ∈ lw_all := lw_g (lw_at lw_m1 155 rfl) rfl
theorem q251 : (Jvm.Cond.fieldLink "Patternforge$Tree" (62 : Nat) "Patternforge$Tree" "askedPlace" "I") ∈ lw_all := lw_g (lw_at lw_m1 156 rfl) rfl
theorem q252 : (Jvm.Cond.fieldLink "Patternforge$Tree" (65 : Nat) "Patternforge$Tree" "askedOf" "I") ∈ lw_all := lw_g (lw_at lw_m1 157 rfl) rfl
theorem q253 : (Jvm.Cond.fieldLink "Patternforge$Tree" (68 : Nat) "Patternforge$Tree" "askedView" "Z") ∈ lw_all := lw_g (lw_at lw_m1 158 rfl) rfl
theorem q254 : (Jvm.Cond.fieldLink "Patternforge$Tree" (45 : Nat) "Patternforge$Tree" "needPlace" "[I") ∈ lw_all := lw_g (lw_at lw_m1 159 rfl) rfl
theorem q255 : (Jvm.Cond.fieldLink "Patternforge$Tree" (48 : Nat) "Patternforge$Tree" "needKind" "[I") ∈ lw_all := lw_g (lw_at lw_m1 160 rfl) rfl
theorem q256 : (Jvm.Cond.fieldLink "Patternforge$Tree" (51 : Nat) "Patternforge$Tree" "needCases" "[I") ∈ lw_all := lw_g (lw_at lw_m1 161 rfl) rfl
theorem q257 : (Jvm.Cond.fieldLink "Patternforge$Tree" (153 : Nat) "Patternforge$Tree" "needs" "I") ∈ lw_all := lw_g (lw_at lw_m1 162 rfl) rfl
theorem q258 : (Jvm.Cond.fieldLink "Patternforge$Tree" (3 : Nat) "Patternforge$Tree" "this$0" "LPatternforge;") ∈ lw_all := lw_g (lw_at lw_m1 163 rfl) rfl
theorem q259 : (Jvm.Cond.laysFinal "Patternforge$Tree" "Patternforge$Tree" "byMost" "Z") ∈ lw_all := lw_g (lw_at lw_m1 164 rfl) rfl
theorem q260 : (Jvm.Cond.soleField "Patternforge$Tree" "byMost") ∈ lw_all := lw_g (lw_at lw_m1 165 rfl) rfl
theorem q261 : (Jvm.Cond.laysFinal "Patternforge$Tree" "Patternforge$Tree" "what" "[I") ∈ lw_all := lw_g (lw_at lw_m1 166 rfl) rfl
theorem q262 : (Jvm.Cond.soleField "Patternforge$Tree" "what") ∈ lw_all := lw_g (lw_at lw_m1 167 rfl) rfl
theorem q263 : (Jvm.Cond.laysFinal "Patternforge$Tree" "Patternforge$Tree" "place" "[I") ∈ lw_all := lw_g (lw_at lw_m1 168 rfl) rfl
theorem q264 : (Jvm.Cond.soleField "Patternforge$Tree" "place") ∈ lw_all := lw_g (lw_at lw_m1 169 rfl) rfl
theorem q265 : (Jvm.Cond.laysFinal "Patternforge$Tree" "Patternforge$Tree" "of" "[I") ∈ lw_all := lw_g (lw_at lw_m1 170 rfl) rfl
theorem q266 : (Jvm.Cond.soleField "Patternforge$Tree" "of") ∈ lw_all := lw_g (lw_at lw_m1 171 rfl) rfl
theorem q267 : (Jvm.Cond.laysFinal "Patternforge$Tree" "Patternforge$Tree" "behind" "[[I") ∈ lw_all := lw_g (lw_at lw_m1 172 rfl) rfl
theorem q268 : (Jvm.Cond.soleField "Patternforge$Tree" "behind") ∈ lw_all := lw_g (lw_at lw_m1 173 rfl) rfl
theorem q269 : (Jvm.Cond.laysFinal "Patternforge$Tree" "Patternforge$Tree" "branches" "[I") ∈ lw_all := lw_g (lw_at lw_m1 174 rfl) rfl
theorem q270 : (Jvm.Cond.soleField "Patternforge$Tree" "branches") ∈ lw_all := lw_g (lw_at lw_m1 175 rfl) rfl
theorem q271 : (Jvm.Cond.laysFinal "Patternforge$Tree" "Patternforge$Tree" "same" "[I") ∈ lw_all := lw_g (lw_at lw_m1 176 rfl) rfl
theorem q272 : (Jvm.Cond.soleField "Patternforge$Tree" "same") ∈ lw_all := lw_g (lw_at lw_m1 177 rfl) rfl
theorem q273 : (Jvm.Cond.lays "Patternforge$Tree" "Patternforge$Tree" "many" "I") ∈ lw_all := lw_g (lw_at lw_m1 178 rfl) rfl
theorem q274 : (Jvm.Cond.soleField "Patternforge$Tree" "many") ∈ lw_all := lw_g (lw_at lw_m1 179 rfl) rfl
theorem q275 : (Jvm.Cond.lays "Patternforge$Tree" "Patternforge$Tree" "isLarge" "Z") ∈ lw_all := lw_g (lw_at lw_m1 180 rfl) rfl
theorem q276 : (Jvm.Cond.soleField "Patternforge$Tree" "isLarge") ∈ lw_all := lw_g (lw_at lw_m1 181 rfl) rfl
theorem q277 : (Jvm.Cond.lays "Patternforge$Tree" "Patternforge$Tree" "isBuilt" "Z") ∈ lw_all := lw_g (lw_at lw_m1 182 rfl) rfl
theorem q278 : (Jvm.Cond.soleField "Patternforge$Tree" "isBuilt") ∈ lw_all := lw_g (lw_at lw_m1 183 rfl) rfl
theorem q279 : (Jvm.Cond.laysFinal "Patternforge$Tree" "Patternforge$Tree" "knownPlace" "[I") ∈ lw_all := lw_g (lw_at lw_m1 184 rfl) rfl
theorem q280 : (Jvm.Cond.soleField "Patternforge$Tree" "knownPlace") ∈ lw_all := lw_g (lw_at lw_m1 185 rfl) rfl
theorem q281 : (Jvm.Cond.laysFinal "Patternforge$Tree" "Patternforge$Tree" "knownView" "[I") ∈ lw_all := lw_g (lw_at lw_m1 186 rfl) rfl
theorem q282 : (Jvm.Cond.soleField "Patternforge$Tree" "knownView") ∈ lw_all := lw_g (lw_at lw_m1 187 rfl) rfl
theorem q283 : (Jvm.Cond.laysFinal "Patternforge$Tree" "Patternforge$Tree" "knownNumber" "[I") ∈ lw_all := lw_g (lw_at lw_m1 188 rfl) rfl
theorem q284 : (Jvm.Cond.soleField "Patternforge$Tree" "knownNumber") ∈ lw_all := lw_g (lw_at lw_m1 189 rfl) rfl
theorem q285 : (Jvm.Cond.lays "Patternforge$Tree" "Patternforge$Tree" "known" "I") ∈ lw_all := lw_g (lw_at lw_m1 190 rfl) rfl
theorem q286 : (Jvm.Cond.soleField "Patternforge$Tree" "known") ∈ lw_all := lw_g (lw_at lw_m1 191 rfl) rfl
theorem q287 : (Jvm.Cond.lays "Patternforge$Tree" "Patternforge$Tree" "failed" "I") ∈ lw_all := lw_g (lw_at lw_m1 192 rfl) rfl
theorem q288 : (Jvm.Cond.soleField "Patternforge$Tree" "failed") ∈ lw_all := lw_g (lw_at lw_m1 193 rfl) rfl
theorem q289 : (Jvm.Cond.lays "Patternforge$Tree" "Patternforge$Tree" "askedPlace" "I") ∈ lw_all := lw_g (lw_at lw_m1 194 rfl) rfl
theorem q290 : (Jvm.Cond.soleField "Patternforge$Tree" "askedPlace") ∈ lw_all := lw_g (lw_at lw_m1 195 rfl) rfl
theorem q291 : (Jvm.Cond.lays "Patternforge$Tree" "Patternforge$Tree" "askedOf" "I") ∈ lw_all := lw_g (lw_at lw_m1 196 rfl) rfl
theorem q292 : (Jvm.Cond.soleField "Patternforge$Tree" "askedOf") ∈ lw_all := lw_g (lw_at lw_m1 197 rfl) rfl
theorem q293 : (Jvm.Cond.lays "Patternforge$Tree" "Patternforge$Tree" "askedView" "Z") ∈ lw_all := lw_g (lw_at lw_m1 198 rfl) rfl
theorem q294 : (Jvm.Cond.soleField "Patternforge$Tree" "askedView") ∈ lw_all := lw_g (lw_at lw_m1 199 rfl) rfl
theorem q295 : (Jvm.Cond.laysFinal "Patternforge$Tree" "Patternforge$Tree" "needPlace" "[I") ∈ lw_all := lw_g (lw_at lw_m1 200 rfl) rfl
theorem q296 : (Jvm.Cond.soleField "Patternforge$Tree" "needPlace") ∈ lw_all := lw_g (lw_at lw_m1 201 rfl) rfl
theorem q297 : (Jvm.Cond.laysFinal "Patternforge$Tree" "Patternforge$Tree" "needKind" "[I") ∈ lw_all := lw_g (lw_at lw_m1 202 rfl) rfl
theorem q298 : (Jvm.Cond.soleField "Patternforge$Tree" "needKind") ∈ lw_all := lw_g (lw_at lw_m1 203 rfl) rfl
theorem q299 : (Jvm.Cond.laysFinal "Patternforge$Tree" "Patternforge$Tree" "needCases" "[I") ∈ lw_all := lw_g (lw_at lw_m1 204 rfl) rfl
theorem q300 : (Jvm.Cond.soleField "Patternforge$Tree" "needCases") ∈ lw_all := lw_g (lw_at lw_m1 205 rfl) rfl
theorem q301 : (Jvm.Cond.lays "Patternforge$Tree" "Patternforge$Tree" "needs" "I") ∈ lw_all := lw_g (lw_at lw_m1 206 rfl) rfl
theorem q302 : (Jvm.Cond.soleField "Patternforge$Tree" "needs") ∈ lw_all := lw_g (lw_at lw_m1 207 rfl) rfl
theorem q303 : (Jvm.Cond.laysFinal "Patternforge$Tree" "Patternforge$Tree" "this$0" "LPatternforge;") ∈ lw_all := lw_g (lw_at lw_m1 208 rfl) rfl
theorem q304 : (Jvm.Cond.soleField "Patternforge$Tree" "this$0") ∈ lw_all := lw_g (lw_at lw_m1 209 rfl) rfl
theorem q305 : (Jvm.Cond.laysFinal "Patternforge$Tree" "Patternforge$Matching" "places" "[I") ∈ lw_all := lw_g (lw_at lw_m1 210 rfl) rfl
theorem q306 : (Jvm.Cond.laysFinal "Patternforge$Tree" "Patternforge$Matching" "this$0" "LPatternforge;") ∈ lw_all := lw_g (lw_at lw_m1 211 rfl) rfl
theorem q307 : (Jvm.Cond.superclass "Patternforge$Tree" "Patternforge$Matching") ∈ lw_all := lw_g (lw_at lw_m1 212 rfl) rfl
theorem q376 : (Jvm.Cond.selects "Patternforge$Tree" ({ cls := "java/lang/Object", name := "getClass", desc := "()Ljava/lang/Class;" } : Jvm.MethodName) ({ cls := "java/lang/Object", name := "getClass", desc := "()Ljava/lang/Class;" } : Jvm.MethodName)) ∈ lw_all := lw_g (lw_at lw_m2 41 rfl) rfl
theorem q411 : (Jvm.Cond.fieldLinkNest "Patternforge$Tree" (143 : Nat) "Patternforge" "types" "Ljava/util/ArrayList;" "Patternforge") ∈ lw_tbl := lw_at lw_m2 76 rfl
theorem q416 : (Jvm.Cond.fieldLinkNest "Patternforge$Tree" (129 : Nat) "Patternforge" "views" "[[I" "Patternforge") ∈ lw_tbl := lw_at lw_m2 81 rfl
theorem q421 : (Jvm.Cond.fieldLinkNest "Patternforge$Tree" (156 : Nat) "Patternforge" "columns" "I" "Patternforge") ∈ lw_tbl := lw_at lw_m2 86 rfl
theorem q424 : (Jvm.Cond.fieldLinkNest "Patternforge$Tree" (95 : Nat) "Patternforge" "cases" "Ljava/util/ArrayList;" "Patternforge") ∈ lw_tbl := lw_at lw_m2 89 rfl
theorem q428 : (Jvm.Cond.fieldLinkNest "Patternforge$Tree" (238 : Nat) "Patternforge" "running" "LPatternforge$Running;" "Patternforge") ∈ lw_tbl := lw_at lw_m2 93 rfl
theorem q980 : (Jvm.Cond.fieldLinkNest "Patternforge$Tree" (159 : Nat) "Patternforge$Case" "patterns" "[I" "Patternforge") ∈ lw_tbl := lw_at lw_m4 165 rfl
theorem q984 : (Jvm.Cond.fieldLinkNest "Patternforge$Tree" (118 : Nat) "Patternforge$Case" "guard" "LPatternforge$Test;" "Patternforge") ∈ lw_tbl := lw_at lw_m4 169 rfl
theorem q1369 : (Jvm.Cond.instanceMethod ({ cls := "Patternforge$Tree", name := "refresh", desc := "()V" } : Jvm.MethodName)) ∈ lw_all := lw_g (lw_at lw_m6 74 rfl) rfl
theorem q1370 : (Jvm.Cond.selects "Patternforge$Tree" ({ cls := "Patternforge$Tree", name := "refresh", desc := "()V" } : Jvm.MethodName) ({ cls := "Patternforge$Tree", name := "refresh", desc := "()V" } : Jvm.MethodName)) ∈ lw_all := lw_g (lw_at lw_m6 75 rfl) rfl
theorem q1371 : (Jvm.Cond.code ({ cls := "Patternforge$Tree", name := "refresh", desc := "()V" } : Jvm.MethodName) prog_20_method_6_code (2 : Nat) (Option.none : Option Jvm.ClassFile.FieldType)) ∈ lw_all := lw_g (lw_at lw_m6 76 rfl) rfl
theorem q1372 : (Jvm.Cond.methodLink "Patternforge$Tree" (91 : Nat) ({ cls := "Patternforge$Tree", name := "build", desc := "()I" } : Jvm.MethodName)) ∈ lw_all := lw_g (lw_at lw_m6 77 rfl) rfl
theorem q1373 : (Jvm.Cond.privateMethod ({ cls := "Patternforge$Tree", name := "build", desc := "()I" } : Jvm.MethodName)) ∈ lw_tbl := lw_at lw_m6 78 rfl
theorem q1374 : (Jvm.Cond.instanceMethod ({ cls := "Patternforge$Tree", name := "build", desc := "()I" } : Jvm.MethodName)) ∈ lw_all := lw_g (lw_at lw_m6 79 rfl) rfl
theorem q1375 : (Jvm.Cond.code ({ cls := "Patternforge$Tree", name := "build", desc := "()I" } : Jvm.MethodName) prog_20_method_8_code (3 : Nat) (Option.some Jvm.ClassFile.FieldType.int)) ∈ lw_all := lw_g (lw_at lw_m6 80 rfl) rfl
theorem q1376 : (Jvm.Cond.methodLink "Patternforge$Tree" (99 : Nat) ({ cls := "java/util/ArrayList", name := "size", desc := "()I" } : Jvm.MethodName)) ∈ lw_all := lw_g (lw_at lw_m6 81 rfl) rfl
theorem q1377 : (Jvm.Cond.methodLinkNest "Patternforge$Tree" (104 : Nat) ({ cls := "Patternforge", name := "has", desc := "(II)Z" } : Jvm.MethodName) "Patternforge") ∈ lw_tbl := lw_at lw_m6 82 rfl
theorem q1378 : (Jvm.Cond.methodLink "Patternforge$Tree" (108 : Nat) ({ cls := "java/util/ArrayList", name := "get", desc := "(I)Ljava/lang/Object;" } : Jvm.MethodName)) ∈ lw_all := lw_g (lw_at lw_m6 83 rfl) rfl
theorem q1379 : (Jvm.Cond.classLink "Patternforge$Tree" (112 : Nat) "Patternforge$Case") ∈ lw_all := lw_g (lw_at lw_m6 84 rfl) rfl
theorem q1380 : (Jvm.Cond.methodLink "Patternforge$Tree" (114 : Nat) ({ cls := "Patternforge$Tree", name := "matches", desc := "(LPatternforge$Case;)I" } : Jvm.MethodName)) ∈ lw_all := lw_g (lw_at lw_m6 85 rfl) rfl
theorem q1381 : (Jvm.Cond.sameMethod "Patternforge$Tree" "Patternforge$Matching" "matches" "(LPatternforge$Case;)I") ∈ lw_all := lw_g (lw_at lw_m6 86 rfl) rfl
theorem q1383 : (Jvm.Cond.selects "Patternforge$Tree" ({ cls := "Patternforge$Tree", name := "matches", desc := "(LPatternforge$Case;)I" } : Jvm.MethodName) ({ cls := "Patternforge$Matching", name := "matches", desc := "(LPatternforge$Case;)I" } : Jvm.MethodName)) ∈ lw_all := lw_g (lw_at lw_m6 88 rfl) rfl
theorem q1421 : (Jvm.Cond.selects "Patternforge$Tree" ({ cls := "Patternforge$Matching", name := "at", desc := "(II)I" } : Jvm.MethodName) ({ cls := "Patternforge$Tree", name := "at", desc := "(II)I" } : Jvm.MethodName)) ∈ lw_all := lw_g (lw_at lw_m6 126 rfl) rfl
theorem q1422 : (Jvm.Cond.instanceMethod ({ cls := "Patternforge$Tree", name := "at", desc := "(II)I" } : Jvm.MethodName)) ∈ lw_all := lw_g (lw_at lw_m6 127 rfl) rfl
theorem q1423 : (Jvm.Cond.code ({ cls := "Patternforge$Tree", name := "at", desc := "(II)I" } : Jvm.MethodName) prog_20_method_4_code (3 : Nat) (Option.some Jvm.ClassFile.FieldType.int)) ∈ lw_all := lw_g (lw_at lw_m6 128 rfl) rfl
theorem q1424 : (Jvm.Cond.methodLink "Patternforge$Tree" (71 : Nat) ({ cls := "Patternforge$Tree", name := "knownAt", desc := "(II)I" } : Jvm.MethodName)) ∈ lw_all := lw_g (lw_at lw_m6 129 rfl) rfl
theorem q1425 : (Jvm.Cond.privateMethod ({ cls := "Patternforge$Tree", name := "knownAt", desc := "(II)I" } : Jvm.MethodName)) ∈ lw_tbl := lw_at lw_m6 130 rfl
theorem q1426 : (Jvm.Cond.instanceMethod ({ cls := "Patternforge$Tree", name := "knownAt", desc := "(II)I" } : Jvm.MethodName)) ∈ lw_all := lw_g (lw_at lw_m6 131 rfl) rfl
theorem q1427 : (Jvm.Cond.code ({ cls := "Patternforge$Tree", name := "knownAt", desc := "(II)I" } : Jvm.MethodName) prog_20_method_2_code (4 : Nat) (Option.some Jvm.ClassFile.FieldType.int)) ∈ lw_all := lw_g (lw_at lw_m6 132 rfl) rfl
theorem q1428 : (Jvm.Cond.methodLink "Patternforge$Tree" (75 : Nat) ({ cls := "Patternforge$Tree", name := "ask", desc := "(IIIZ)I" } : Jvm.MethodName)) ∈ lw_all := lw_g (lw_at lw_m6 133 rfl) rfl
theorem q1429 : (Jvm.Cond.privateMethod ({ cls := "Patternforge$Tree", name := "ask", desc := "(IIIZ)I" } : Jvm.MethodName)) ∈ lw_tbl := lw_at lw_m6 134 rfl
theorem q1430 : (Jvm.Cond.instanceMethod ({ cls := "Patternforge$Tree", name := "ask", desc := "(IIIZ)I" } : Jvm.MethodName)) ∈ lw_all := lw_g (lw_at lw_m6 135 rfl) rfl
theorem q1431 : (Jvm.Cond.code ({ cls := "Patternforge$Tree", name := "ask", desc := "(IIIZ)I" } : Jvm.MethodName) prog_20_method_3_code (5 : Nat) (Option.some Jvm.ClassFile.FieldType.int)) ∈ lw_all := lw_g (lw_at lw_m6 136 rfl) rfl
theorem q1470 : (Jvm.Cond.selects "Patternforge$Tree" ({ cls := "Patternforge$Matching", name := "seen", desc := "(II)I" } : Jvm.MethodName) ({ cls := "Patternforge$Tree", name := "seen", desc := "(II)I" } : Jvm.MethodName)) ∈ lw_all := lw_g (lw_at lw_m6 175 rfl) rfl
theorem q1471 : (Jvm.Cond.instanceMethod ({ cls := "Patternforge$Tree", name := "seen", desc := "(II)I" } : Jvm.MethodName)) ∈ lw_all := lw_g (lw_at lw_m6 176 rfl) rfl
theorem q1472 : (Jvm.Cond.code ({ cls := "Patternforge$Tree", name := "seen", desc := "(II)I" } : Jvm.MethodName) prog_20_method_5_code (3 : Nat) (Option.some Jvm.ClassFile.FieldType.int)) ∈ lw_all := lw_g (lw_at lw_m6 177 rfl) rfl
theorem q1488 : (Jvm.Cond.selects "Patternforge$Tree" ({ cls := "Patternforge$Matching", name := "holdsRange", desc := "(LPatternforge$Range;I)Z" } : Jvm.MethodName) ({ cls := "Patternforge$Matching", name := "holdsRange", desc := "(LPatternforge$Range;I)Z" } : Jvm.MethodName)) ∈ lw_all := lw_g (lw_at lw_m6 193 rfl) rfl
theorem q1503 : (Jvm.Cond.methodLink "Patternforge$Tree" (122 : Nat) ({ cls := "Patternforge$Tree", name := "node", desc := "(III)I" } : Jvm.MethodName)) ∈ lw_all := lw_g (lw_at lw_m6 208 rfl) rfl
theorem q1504 : (Jvm.Cond.privateMethod ({ cls := "Patternforge$Tree", name := "node", desc := "(III)I" } : Jvm.MethodName)) ∈ lw_tbl := lw_at lw_m6 209 rfl
theorem q1505 : (Jvm.Cond.instanceMethod ({ cls := "Patternforge$Tree", name := "node", desc := "(III)I" } : Jvm.MethodName)) ∈ lw_all := lw_g (lw_at lw_m6 210 rfl) rfl
theorem q1506 : (Jvm.Cond.code ({ cls := "Patternforge$Tree", name := "node", desc := "(III)I" } : Jvm.MethodName) prog_20_method_7_code (4 : Nat) (Option.some Jvm.ClassFile.FieldType.int)) ∈ lw_all := lw_g (lw_at lw_m6 211 rfl) rfl
theorem q1507 : (Jvm.Cond.methodLink "Patternforge$Tree" (126 : Nat) ({ cls := "Patternforge$Tree", name := "guard", desc := "(I)I" } : Jvm.MethodName)) ∈ lw_all := lw_g (lw_at lw_m6 212 rfl) rfl
theorem q1508 : (Jvm.Cond.privateMethod ({ cls := "Patternforge$Tree", name := "guard", desc := "(I)I" } : Jvm.MethodName)) ∈ lw_tbl := lw_at lw_m6 213 rfl
theorem q1509 : (Jvm.Cond.instanceMethod ({ cls := "Patternforge$Tree", name := "guard", desc := "(I)I" } : Jvm.MethodName)) ∈ lw_all := lw_g (lw_at lw_m6 214 rfl) rfl
theorem q1510 : (Jvm.Cond.code ({ cls := "Patternforge$Tree", name := "guard", desc := "(I)I" } : Jvm.MethodName) prog_20_method_9_code (4 : Nat) (Option.some Jvm.ClassFile.FieldType.int)) ∈ lw_all := lw_g (lw_at lw_m6 215 rfl) rfl
theorem q1511 : (Jvm.Cond.fieldLink "Patternforge$Tree" (138 : Nat) "Patternforge$Test" "RAISES" "LPatternforge$Test;") ∈ lw_all := lw_g (lw_at lw_m6 216 rfl) rfl
theorem q1513 : (Jvm.Cond.methodLink "Patternforge$Tree" (132 : Nat) ({ cls := "Patternforge$Tree", name := "branch", desc := "(II)I" } : Jvm.MethodName)) ∈ lw_all := lw_g (lw_at lw_m6 218 rfl) rfl
theorem q1514 : (Jvm.Cond.privateMethod ({ cls := "Patternforge$Tree", name := "branch", desc := "(II)I" } : Jvm.MethodName)) ∈ lw_tbl := lw_at lw_m6 219 rfl
theorem q1515 : (Jvm.Cond.instanceMethod ({ cls := "Patternforge$Tree", name := "branch", desc := "(II)I" } : Jvm.MethodName)) ∈ lw_all := lw_g (lw_at lw_m6 220 rfl) rfl
theorem q1516 : (Jvm.Cond.code ({ cls := "Patternforge$Tree", name := "branch", desc := "(II)I" } : Jvm.MethodName) prog_20_method_12_code (8 : Nat) (Option.some Jvm.ClassFile.FieldType.int)) ∈ lw_all := lw_g (lw_at lw_m6 221 rfl) rfl
theorem q1517 : (Jvm.Cond.methodLink "Patternforge$Tree" (135 : Nat) ({ cls := "Patternforge$Tree", name := "choose", desc := "()I" } : Jvm.MethodName)) ∈ lw_all := lw_g (lw_at lw_m6 222 rfl) rfl
theorem q1518 : (Jvm.Cond.privateMethod ({ cls := "Patternforge$Tree", name := "choose", desc := "()I" } : Jvm.MethodName)) ∈ lw_tbl := lw_at lw_m6 223 rfl
theorem q1519 : (Jvm.Cond.instanceMethod ({ cls := "Patternforge$Tree", name := "choose", desc := "()I" } : Jvm.MethodName)) ∈ lw_all := lw_g (lw_at lw_m6 224 rfl) rfl
theorem q1520 : (Jvm.Cond.code ({ cls := "Patternforge$Tree", name := "choose", desc := "()I" } : Jvm.MethodName) prog_20_method_11_code (1 : Nat) (Option.some Jvm.ClassFile.FieldType.int)) ∈ lw_all := lw_g (lw_at lw_m6 225 rfl) rfl
theorem q1521 : (Jvm.Cond.methodLink "Patternforge$Tree" (146 : Nat) ({ cls := "Patternforge$Tree", name := "mostNeeded", desc := "()V" } : Jvm.MethodName)) ∈ lw_all := lw_g (lw_at lw_m6 226 rfl) rfl
theorem q1522 : (Jvm.Cond.privateMethod ({ cls := "Patternforge$Tree", name := "mostNeeded", desc := "()V" } : Jvm.MethodName)) ∈ lw_tbl := lw_at lw_m6 227 rfl
theorem q1523 : (Jvm.Cond.instanceMethod ({ cls := "Patternforge$Tree", name := "mostNeeded", desc := "()V" } : Jvm.MethodName)) ∈ lw_all := lw_g (lw_at lw_m6 228 rfl) rfl
theorem q1524 : (Jvm.Cond.code ({ cls := "Patternforge$Tree", name := "mostNeeded", desc := "()V" } : Jvm.MethodName) prog_20_method_13_code (4 : Nat) (Option.none : Option Jvm.ClassFile.FieldType)) ∈ lw_all := lw_g (lw_at lw_m6 229 rfl) rfl
theorem q1525 : (Jvm.Cond.methodLinkNest "Patternforge$Tree" (162 : Nat) ({ cls := "Patternforge", name := "told", desc := "(I)LPatternforge$Told;" } : Jvm.MethodName) "Patternforge") ∈ lw_tbl := lw_at lw_m6 230 rfl
theorem q1526 : (Jvm.Cond.methodLink "Patternforge$Tree" (166 : Nat) ({ cls := "Patternforge$Told", name := "pattern", desc := "()LPatternforge$Pattern;" } : Jvm.MethodName)) ∈ lw_all := lw_g (lw_at lw_m6 231 rfl) rfl
theorem q1527 : (Jvm.Cond.methodLink "Patternforge$Tree" (172 : Nat) ({ cls := "Patternforge$Tree", name := "need", desc := "(LPatternforge$Pattern;II)V" } : Jvm.MethodName)) ∈ lw_all := lw_g (lw_at lw_m6 232 rfl) rfl
theorem q1528 : (Jvm.Cond.privateMethod ({ cls := "Patternforge$Tree", name := "need", desc := "(LPatternforge$Pattern;II)V" } : Jvm.MethodName)) ∈ lw_tbl := lw_at lw_m6 233 rfl
theorem q1529 : (Jvm.Cond.instanceMethod ({ cls := "Patternforge$Tree", name := "need", desc := "(LPatternforge$Pattern;II)V" } : Jvm.MethodName)) ∈ lw_all := lw_g (lw_at lw_m6 234 rfl) rfl
theorem q1530 : (Jvm.Cond.code ({ cls := "Patternforge$Tree", name := "need", desc := "(LPatternforge$Pattern;II)V" } : Jvm.MethodName) prog_20_method_15_code (10 : Nat) (Option.none : Option Jvm.ClassFile.FieldType)) ∈ lw_all := lw_g (lw_at lw_m6 235 rfl) rfl
theorem q1531 : (Jvm.Cond.classLink "Patternforge$Tree" (181 : Nat) "Patternforge$Name") ∈ lw_all := lw_g (lw_at lw_m6 236 rfl) rfl
theorem q1532 : (Jvm.Cond.methodLink "Patternforge$Tree" (183 : Nat) ({ cls := "Patternforge$Name", name := "of", desc := "()LPatternforge$Pattern;" } : Jvm.MethodName)) ∈ lw_all := lw_g (lw_at lw_m6 237 rfl) rfl
theorem q1533 : (Jvm.Cond.classLink "Patternforge$Tree" (185 : Nat) "Patternforge$Either") ∈ lw_all := lw_g (lw_at lw_m6 238 rfl) rfl
theorem q1534 : (Jvm.Cond.methodLink "Patternforge$Tree" (187 : Nat) ({ cls := "Patternforge$Either", name := "first", desc := "()LPatternforge$Pattern;" } : Jvm.MethodName)) ∈ lw_all := lw_g (lw_at lw_m6 239 rfl) rfl
theorem q1535 : (Jvm.Cond.methodLink "Patternforge$Tree" (190 : Nat) ({ cls := "Patternforge$Either", name := "second", desc := "()LPatternforge$Pattern;" } : Jvm.MethodName)) ∈ lw_all := lw_g (lw_at lw_m7 0 rfl) rfl
theorem q1536 : (Jvm.Cond.classLink "Patternforge$Tree" (193 : Nat) "Patternforge$Range") ∈ lw_all := lw_g (lw_at lw_m7 1 rfl) rfl
theorem q1537 : (Jvm.Cond.methodLink "Patternforge$Tree" (195 : Nat) ({ cls := "Patternforge$Tree", name := "needs", desc := "(III)V" } : Jvm.MethodName)) ∈ lw_all := lw_g (lw_at lw_m7 2 rfl) rfl
theorem q1538 : (Jvm.Cond.privateMethod ({ cls := "Patternforge$Tree", name := "needs", desc := "(III)V" } : Jvm.MethodName)) ∈ lw_tbl := lw_at lw_m7 3 rfl
theorem q1539 : (Jvm.Cond.instanceMethod ({ cls := "Patternforge$Tree", name := "needs", desc := "(III)V" } : Jvm.MethodName)) ∈ lw_all := lw_g (lw_at lw_m7 4 rfl) rfl
theorem q1540 : (Jvm.Cond.code ({ cls := "Patternforge$Tree", name := "needs", desc := "(III)V" } : Jvm.MethodName) prog_20_method_14_code (5 : Nat) (Option.none : Option Jvm.ClassFile.FieldType)) ∈ lw_all := lw_g (lw_at lw_m7 5 rfl) rfl
theorem q1541 : (Jvm.Cond.classLink "Patternforge$Tree" (198 : Nat) "Patternforge$Make") ∈ lw_all := lw_g (lw_at lw_m7 6 rfl) rfl
theorem q1542 : (Jvm.Cond.methodLink "Patternforge$Tree" (200 : Nat) ({ cls := "Patternforge$Make", name := "type", desc := "()I" } : Jvm.MethodName)) ∈ lw_all := lw_g (lw_at lw_m7 7 rfl) rfl
theorem q1543 : (Jvm.Cond.classLink "Patternforge$Tree" (203 : Nat) "Patternforge$Listed") ∈ lw_all := lw_g (lw_at lw_m7 8 rfl) rfl
theorem q1544 : (Jvm.Cond.methodLink "Patternforge$Tree" (205 : Nat) ({ cls := "Patternforge$Make", name := "constructor", desc := "()I" } : Jvm.MethodName)) ∈ lw_all := lw_g (lw_at lw_m7 9 rfl) rfl
theorem q1545 : (Jvm.Cond.methodLink "Patternforge$Tree" (208 : Nat) ({ cls := "Patternforge$Make", name := "fields", desc := "()[LPatternforge$Pattern;" } : Jvm.MethodName)) ∈ lw_all := lw_g (lw_at lw_m7 10 rfl) rfl
theorem q1546 : (Jvm.Cond.methodLink "Patternforge$Tree" (212 : Nat) ({ cls := "Patternforge$Tree", name := "needAll", desc := "([LPatternforge$Pattern;III)V" } : Jvm.MethodName)) ∈ lw_all := lw_g (lw_at lw_m7 11 rfl) rfl
theorem q1547 : (Jvm.Cond.privateMethod ({ cls := "Patternforge$Tree", name := "needAll", desc := "([LPatternforge$Pattern;III)V" } : Jvm.MethodName)) ∈ lw_tbl := lw_at lw_m7 12 rfl
theorem q1548 : (Jvm.Cond.instanceMethod ({ cls := "Patternforge$Tree", name := "needAll", desc := "([LPatternforge$Pattern;III)V" } : Jvm.MethodName)) ∈ lw_all := lw_g (lw_at lw_m7 13 rfl) rfl
theorem q1549 : (Jvm.Cond.code ({ cls := "Patternforge$Tree", name := "needAll", desc := "([LPatternforge$Pattern;III)V" } : Jvm.MethodName) prog_20_method_16_code (6 : Nat) (Option.none : Option Jvm.ClassFile.FieldType)) ∈ lw_all := lw_g (lw_at lw_m7 14 rfl) rfl
theorem q1550 : (Jvm.Cond.methodLinkNest "Patternforge$Tree" (226 : Nat) ({ cls := "Patternforge", name := "field", desc := "(II)I" } : Jvm.MethodName) "Patternforge") ∈ lw_tbl := lw_at lw_m7 15 rfl
theorem q1551 : (Jvm.Cond.methodLink "Patternforge$Tree" (216 : Nat) ({ cls := "Patternforge$Listed", name := "fits", desc := "(I)Z" } : Jvm.MethodName)) ∈ lw_all := lw_g (lw_at lw_m7 16 rfl) rfl
theorem q1552 : (Jvm.Cond.methodLink "Patternforge$Tree" (220 : Nat) ({ cls := "Patternforge$Listed", name := "items", desc := "()[LPatternforge$Pattern;" } : Jvm.MethodName)) ∈ lw_all := lw_g (lw_at lw_m7 17 rfl) rfl
theorem q1553 : (Jvm.Cond.methodLink "Patternforge$Tree" (223 : Nat) ({ cls := "Patternforge$Listed", name := "beginning", desc := "(I)I" } : Jvm.MethodName)) ∈ lw_all := lw_g (lw_at lw_m7 18 rfl) rfl
theorem q1554 : (Jvm.Cond.methodLink "Patternforge$Tree" (176 : Nat) ({ cls := "java/lang/Integer", name := "bitCount", desc := "(I)I" } : Jvm.MethodName)) ∈ lw_all := lw_g (lw_at lw_m7 19 rfl) rfl
theorem q1560 : (Jvm.Cond.methodLink "Patternforge$Tree" (150 : Nat) ({ cls := "Patternforge$Tree", name := "manyOf", desc := "(I)I" } : Jvm.MethodName)) ∈ lw_all := lw_g (lw_at lw_m7 25 rfl) rfl
theorem q1561 : (Jvm.Cond.privateMethod ({ cls := "Patternforge$Tree", name := "manyOf", desc := "(I)I" } : Jvm.MethodName)) ∈ lw_tbl := lw_at lw_m7 26 rfl
theorem q1562 : (Jvm.Cond.instanceMethod ({ cls := "Patternforge$Tree", name := "manyOf", desc := "(I)I" } : Jvm.MethodName)) ∈ lw_all := lw_g (lw_at lw_m7 27 rfl) rfl
theorem q1563 : (Jvm.Cond.code ({ cls := "Patternforge$Tree", name := "manyOf", desc := "(I)I" } : Jvm.MethodName) prog_20_method_10_code (2 : Nat) (Option.some Jvm.ClassFile.FieldType.int)) ∈ lw_all := lw_g (lw_at lw_m7 28 rfl) rfl
theorem q1564 : (Jvm.Cond.classLink "Patternforge$Tree" (100 : Nat) "java/util/ArrayList") ∈ lw_all := lw_g (lw_at lw_m7 29 rfl) rfl
theorem q1676 : (Jvm.Cond.instanceMethod ({ cls := "Patternforge$Tree", name := "descend", desc := "()I" } : Jvm.MethodName)) ∈ lw_all := lw_g (lw_at lw_m7 141 rfl) rfl
theorem q1677 : (Jvm.Cond.selects "Patternforge$Tree" ({ cls := "Patternforge$Tree", name := "descend", desc := "()I" } : Jvm.MethodName) ({ cls := "Patternforge$Tree", name := "descend", desc := "()I" } : Jvm.MethodName)) ∈ lw_all := lw_g (lw_at lw_m7 142 rfl) rfl
theorem q1678 : (Jvm.Cond.code ({ cls := "Patternforge$Tree", name := "descend", desc := "()I" } : Jvm.MethodName) prog_20_method_23_code (3 : Nat) (Option.some Jvm.ClassFile.FieldType.int)) ∈ lw_all := lw_g (lw_at lw_m7 143 rfl) rfl
theorem q1679 : (Jvm.Cond.methodLink "Patternforge$Tree" (242 : Nat) ({ cls := "Patternforge$Running", name := "binds", desc := "(LPatternforge$Case;)V" } : Jvm.MethodName)) ∈ lw_all := lw_g (lw_at lw_m7 144 rfl) rfl
theorem q1680 : (Jvm.Cond.methodLink "Patternforge$Tree" (248 : Nat) ({ cls := "Patternforge$Running", name := "guards", desc := "(LPatternforge$Case;)I" } : Jvm.MethodName)) ∈ lw_all := lw_g (lw_at lw_m7 145 rfl) rfl
theorem q1681 : (Jvm.Cond.methodLink "Patternforge$Tree" (254 : Nat) ({ cls := "Patternforge$Running", name := "seen", desc := "(II)I" } : Jvm.MethodName)) ∈ lw_all := lw_g (lw_at lw_m7 146 rfl) rfl
theorem q1682 : (Jvm.Cond.methodLink "Patternforge$Tree" (257 : Nat) ({ cls := "Patternforge$Running", name := "look", desc := "(I)I" } : Jvm.MethodName)) ∈ lw_all := lw_g (lw_at lw_m7 147 rfl) rfl
theorem q1714 : (Jvm.Cond.instanceMethod ({ cls := "Patternforge$Tree", name := "shared", desc := "()I" } : Jvm.MethodName)) ∈ lw_all := lw_g (lw_at lw_m7 179 rfl) rfl
theorem q1715 : (Jvm.Cond.selects "Patternforge$Tree" ({ cls := "Patternforge$Tree", name := "shared", desc := "()I" } : Jvm.MethodName) ({ cls := "Patternforge$Tree", name := "shared", desc := "()I" } : Jvm.MethodName)) ∈ lw_all := lw_g (lw_at lw_m7 180 rfl) rfl
theorem q1716 : (Jvm.Cond.code ({ cls := "Patternforge$Tree", name := "shared", desc := "()I" } : Jvm.MethodName) prog_20_method_19_code (4 : Nat) (Option.some Jvm.ClassFile.FieldType.int)) ∈ lw_all := lw_g (lw_at lw_m7 181 rfl) rfl
theorem q1717 : (Jvm.Cond.methodLink "Patternforge$Tree" (229 : Nat) ({ cls := "Patternforge$Tree", name := "isNeedless", desc := "(I)Z" } : Jvm.MethodName)) ∈ lw_all := lw_g (lw_at lw_m7 182 rfl) rfl
theorem q1718 : (Jvm.Cond.privateMethod ({ cls := "Patternforge$Tree", name := "isNeedless", desc := "(I)Z" } : Jvm.MethodName)) ∈ lw_tbl := lw_at lw_m7 183 rfl
theorem q1719 : (Jvm.Cond.instanceMethod ({ cls := "Patternforge$Tree", name := "isNeedless", desc := "(I)Z" } : Jvm.MethodName)) ∈ lw_all := lw_g (lw_at lw_m7 184 rfl) rfl
theorem q1720 : (Jvm.Cond.code ({ cls := "Patternforge$Tree", name := "isNeedless", desc := "(I)Z" } : Jvm.MethodName) prog_20_method_18_code (4 : Nat) (Option.some Jvm.ClassFile.FieldType.boolean)) ∈ lw_all := lw_g (lw_at lw_m7 185 rfl) rfl
theorem q1721 : (Jvm.Cond.methodLink "Patternforge$Tree" (232 : Nat) ({ cls := "Patternforge$Tree", name := "areAlike", desc := "(II)Z" } : Jvm.MethodName)) ∈ lw_all := lw_g (lw_at lw_m7 186 rfl) rfl
theorem q1722 : (Jvm.Cond.privateMethod ({ cls := "Patternforge$Tree", name := "areAlike", desc := "(II)Z" } : Jvm.MethodName)) ∈ lw_tbl := lw_at lw_m7 187 rfl
theorem q1723 : (Jvm.Cond.instanceMethod ({ cls := "Patternforge$Tree", name := "areAlike", desc := "(II)Z" } : Jvm.MethodName)) ∈ lw_all := lw_g (lw_at lw_m7 188 rfl) rfl
theorem q1724 : (Jvm.Cond.code ({ cls := "Patternforge$Tree", name := "areAlike", desc := "(II)Z" } : Jvm.MethodName) prog_20_method_17_code (5 : Nat) (Option.some Jvm.ClassFile.FieldType.boolean)) ∈ lw_all := lw_g (lw_at lw_m7 189 rfl) rfl
theorem q1733 : (Jvm.Cond.instanceMethod ({ cls := "Patternforge$Tree", name := "manyOfKind", desc := "(I)I" } : Jvm.MethodName)) ∈ lw_all := lw_g (lw_at lw_m7 198 rfl) rfl
theorem q1734 : (Jvm.Cond.selects "Patternforge$Tree" ({ cls := "Patternforge$Tree", name := "manyOfKind", desc := "(I)I" } : Jvm.MethodName) ({ cls := "Patternforge$Tree", name := "manyOfKind", desc := "(I)I" } : Jvm.MethodName)) ∈ lw_all := lw_g (lw_at lw_m7 199 rfl) rfl
theorem q1735 : (Jvm.Cond.code ({ cls := "Patternforge$Tree", name := "manyOfKind", desc := "(I)I" } : Jvm.MethodName) prog_20_method_20_code (4 : Nat) (Option.some Jvm.ClassFile.FieldType.int)) ∈ lw_all := lw_g (lw_at lw_m7 200 rfl) rfl
theorem q1744 : (Jvm.Cond.instanceMethod ({ cls := "Patternforge$Tree", name := "example", desc := "(I)I" } : Jvm.MethodName)) ∈ lw_all := lw_g (lw_at lw_m7 209 rfl) rfl
theorem q1745 : (Jvm.Cond.selects "Patternforge$Tree" ({ cls := "Patternforge$Tree", name := "example", desc := "(I)I" } : Jvm.MethodName) ({ cls := "Patternforge$Tree", name := "example", desc := "(I)I" } : Jvm.MethodName)) ∈ lw_all := lw_g (lw_at lw_m7 210 rfl) rfl
theorem q1746 : (Jvm.Cond.code ({ cls := "Patternforge$Tree", name := "example", desc := "(I)I" } : Jvm.MethodName) prog_20_method_21_code (7 : Nat) (Option.some Jvm.ClassFile.FieldType.int)) ∈ lw_all := lw_g (lw_at lw_m7 211 rfl) rfl
theorem q1747 : (Jvm.Cond.methodLink "Patternforge$Tree" (235 : Nat) ({ cls := "Patternforge$Tree", name := "wayTo", desc := "(II)I" } : Jvm.MethodName)) ∈ lw_all := lw_g (lw_at lw_m7 212 rfl) rfl
theorem q1748 : (Jvm.Cond.privateMethod ({ cls := "Patternforge$Tree", name := "wayTo", desc := "(II)I" } : Jvm.MethodName)) ∈ lw_tbl := lw_at lw_m7 213 rfl
theorem q1749 : (Jvm.Cond.instanceMethod ({ cls := "Patternforge$Tree", name := "wayTo", desc := "(II)I" } : Jvm.MethodName)) ∈ lw_all := lw_g (lw_at lw_m7 214 rfl) rfl
theorem q1750 : (Jvm.Cond.code ({ cls := "Patternforge$Tree", name := "wayTo", desc := "(II)I" } : Jvm.MethodName) prog_20_method_22_code (4 : Nat) (Option.some Jvm.ClassFile.FieldType.int)) ∈ lw_all := lw_g (lw_at lw_m7 215 rfl) rfl
theorem q2305 : (Jvm.Cond.castable "Patternforge$Tree" "java/lang/Object") ∈ lw_tbl := lw_at lw_m10 50 rfl
theorem in_X4 : ∀ w ∈ wsX40, w ∈ lw_all := lw_in wsX40 [305, 306, 259, 261, 263, 265, 267, 269, 271, 273, 275, 277, 279, 281, 283, 285, 287, 289, 291, 293, 295, 297, 299, 301, 303] (by decide +kernel) (by decide +kernel)

/-! Patternforge$Automaton -/
set_option maxRecDepth 100000
def RX5 : String := "Patternforge$Automaton"
def TX5 : u_T := fun k => match k with
  | 0 => ("Patternforge$Automaton", "codes", "[I", false)
  | 1 => ("Patternforge$Automaton", "many", "I", false)
  | 2 => ("Patternforge$Automaton", "isBuilt", "Z", false)
  | _ => ("Patternforge$Automaton", "this$0", "LPatternforge;", true)
def tyX5 : Nat → FieldType := fun k => match k with
  | 0 => .array .int
  | 1 => .int
  | 2 => .boolean
  | _ => .object "Patternforge"
abbrev wsX50 : List Cond := u_ws RX5 TX5 4
theorem nmX5 : ∀ a, a < 4 → ∀ b, b < 4 → a ≠ b → (TX5 a).2.1 ≠ (TX5 b).2.1 := by decide +kernel
theorem tyX5_ok : ∀ k, k < 4 → parseFieldDescriptor (TX5 k).2.2.1 = some (tyX5 k) := by decide +kernel
abbrev cX5_init : ByteArray := prog_3_method_1_code
def yX5_init : MethodName := ⟨RX5, "<init>", "(LPatternforge;)V"⟩
def dkwX5_init_0 : List UInt8 := [42, 43, 181, 0, 3, 42, 183, 0, 9, 42, 17, 7, 208, 188, 10, 181, 0, 15, 177]
abbrev dktX5_init_0 : List UInt8 := dkwX5_init_0 ++ []
theorem dksX5_init_0 : cX5_init.data.toList.drop 0 = dktX5_init_0 := by decide +kernel
theorem dX5_init_0 : decode cX5_init 0 = .ok (.aload_n 0, 1) := dk_42 (dk_at dksX5_init_0 0 rfl rfl)
theorem dX5_init_1 : decode cX5_init 1 = .ok (.aload_n 1, 1) := dk_43 (dk_at dksX5_init_0 1 rfl rfl)
theorem dX5_init_2 : decode cX5_init 2 = .ok (.putfield 3, 3) := dk_181 0 3 (dk_at dksX5_init_0 2 rfl rfl)
theorem dX5_init_5 : decode cX5_init 5 = .ok (.aload_n 0, 1) := dk_42 (dk_at dksX5_init_0 5 rfl rfl)
theorem dX5_init_6 : decode cX5_init 6 = .ok (.invokespecial 9, 3) := dk_183 0 9 (dk_at dksX5_init_0 6 rfl rfl)
theorem dX5_init_9 : decode cX5_init 9 = .ok (.aload_n 0, 1) := dk_42 (dk_at dksX5_init_0 9 rfl rfl)
theorem dX5_init_10 : decode cX5_init 10 = .ok (.sipush 2000, 3) := dk_17 7 208 (dk_at dksX5_init_0 10 rfl rfl)
theorem dX5_init_13 : decode cX5_init 13 = .ok (.newarray .int, 2) := dk_188_10 (dk_at dksX5_init_0 13 rfl rfl)
theorem dX5_init_15 : decode cX5_init 15 = .ok (.putfield 15, 3) := dk_181 0 15 (dk_at dksX5_init_0 15 rfl rfl)
theorem dX5_init_18 : decode cX5_init 18 = .ok (.return_, 1) := dk_177 (dk_at dksX5_init_0 18 rfl rfl)
abbrev cX5_refresh : ByteArray := prog_3_method_3_code
def yX5_refresh : MethodName := ⟨RX5, "refresh", "()V"⟩
def dkwX5_refresh_5 : List UInt8 := [42, 16, 8, 3, 3, 3, 182, 0, 69, 87, 177]
abbrev dktX5_refresh_5 : List UInt8 := dkwX5_refresh_5 ++ []
def dkwX5_refresh_4 : List UInt8 := [16, 6, 27, 3, 3, 182, 0, 69, 87, 42, 28, 42, 180, 0, 19, 182, 0, 73, 132, 1, 1, 167, 255, 160]
abbrev dktX5_refresh_4 : List UInt8 := dkwX5_refresh_4 ++ dktX5_refresh_5
def dkwX5_refresh_3 : List UInt8 := [180, 0, 52, 29, 46, 182, 0, 55, 182, 0, 59, 29, 4, 96, 182, 0, 65, 132, 3, 1, 167, 255, 206, 42]
abbrev dktX5_refresh_3 : List UInt8 := dkwX5_refresh_3 ++ dktX5_refresh_4
def dkwX5_refresh_2 : List UInt8 := [162, 0, 45, 42, 42, 180, 0, 3, 42, 180, 0, 3, 180, 0, 33, 27, 182, 0, 46, 192, 0, 50]
abbrev dktX5_refresh_2 : List UInt8 := dkwX5_refresh_2 ++ dktX5_refresh_3
def dkwX5_refresh_1 : List UInt8 := [180, 0, 33, 182, 0, 37, 162, 0, 88, 42, 180, 0, 19, 61, 3, 62, 29, 42, 180, 0, 3, 180, 0, 43]
abbrev dktX5_refresh_1 : List UInt8 := dkwX5_refresh_1 ++ dktX5_refresh_2
def dkwX5_refresh_0 : List UInt8 := [42, 180, 0, 29, 154, 0, 124, 42, 4, 181, 0, 29, 42, 3, 181, 0, 19, 3, 60, 27, 42, 180, 0, 3]
abbrev dktX5_refresh_0 : List UInt8 := dkwX5_refresh_0 ++ dktX5_refresh_1
theorem dksX5_refresh_0 : cX5_refresh.data.toList.drop 0 = dktX5_refresh_0 := by decide +kernel
theorem dksX5_refresh_1 : cX5_refresh.data.toList.drop 24 = dktX5_refresh_1 := dk_seg dksX5_refresh_0 24 rfl rfl
theorem dksX5_refresh_2 : cX5_refresh.data.toList.drop 48 = dktX5_refresh_2 := dk_seg dksX5_refresh_1 24 rfl rfl
theorem dksX5_refresh_3 : cX5_refresh.data.toList.drop 70 = dktX5_refresh_3 := dk_seg dksX5_refresh_2 22 rfl rfl
theorem dksX5_refresh_4 : cX5_refresh.data.toList.drop 94 = dktX5_refresh_4 := dk_seg dksX5_refresh_3 24 rfl rfl
theorem dksX5_refresh_5 : cX5_refresh.data.toList.drop 118 = dktX5_refresh_5 := dk_seg dksX5_refresh_4 24 rfl rfl
theorem dX5_refresh_0 : decode cX5_refresh 0 = .ok (.aload_n 0, 1) := dk_42 (dk_at dksX5_refresh_0 0 rfl rfl)
theorem dX5_refresh_1 : decode cX5_refresh 1 = .ok (.getfield 29, 3) := dk_180 0 29 (dk_at dksX5_refresh_0 1 rfl rfl)
theorem dX5_refresh_4 : decode cX5_refresh 4 = .ok (.ifCond .ne 124, 3) := dk_154 0 124 (dk_at dksX5_refresh_0 4 rfl rfl)
theorem dX5_refresh_7 : decode cX5_refresh 7 = .ok (.aload_n 0, 1) := dk_42 (dk_at dksX5_refresh_0 7 rfl rfl)
theorem dX5_refresh_8 : decode cX5_refresh 8 = .ok (.iconst 1, 1) := dk_4 (dk_at dksX5_refresh_0 8 rfl rfl)
theorem dX5_refresh_9 : decode cX5_refresh 9 = .ok (.putfield 29, 3) := dk_181 0 29 (dk_at dksX5_refresh_0 9 rfl rfl)
theorem dX5_refresh_12 : decode cX5_refresh 12 = .ok (.aload_n 0, 1) := dk_42 (dk_at dksX5_refresh_0 12 rfl rfl)
theorem dX5_refresh_13 : decode cX5_refresh 13 = .ok (.iconst 0, 1) := dk_3 (dk_at dksX5_refresh_0 13 rfl rfl)
theorem dX5_refresh_14 : decode cX5_refresh 14 = .ok (.putfield 19, 3) := dk_181 0 19 (dk_at dksX5_refresh_0 14 rfl rfl)
theorem dX5_refresh_17 : decode cX5_refresh 17 = .ok (.iconst 0, 1) := dk_3 (dk_at dksX5_refresh_0 17 rfl rfl)
theorem dX5_refresh_18 : decode cX5_refresh 18 = .ok (.istore_n 1, 1) := dk_60 (dk_at dksX5_refresh_0 18 rfl rfl)
theorem dX5_refresh_19 : decode cX5_refresh 19 = .ok (.iload_n 1, 1) := dk_27 (dk_at dksX5_refresh_0 19 rfl rfl)
theorem dX5_refresh_20 : decode cX5_refresh 20 = .ok (.aload_n 0, 1) := dk_42 (dk_at dksX5_refresh_0 20 rfl rfl)
theorem dX5_refresh_21 : decode cX5_refresh 21 = .ok (.getfield 3, 3) := dk_180 0 3 (dk_at dksX5_refresh_0 21 rfl rfl)
theorem dX5_refresh_24 : decode cX5_refresh 24 = .ok (.getfield 33, 3) := dk_180 0 33 (dk_at dksX5_refresh_1 0 rfl rfl)
theorem dX5_refresh_27 : decode cX5_refresh 27 = .ok (.invokevirtual 37, 3) := dk_182 0 37 (dk_at dksX5_refresh_1 3 rfl rfl)
theorem dX5_refresh_30 : decode cX5_refresh 30 = .ok (.if_icmp .ge 88, 3) := dk_162 0 88 (dk_at dksX5_refresh_1 6 rfl rfl)
theorem dX5_refresh_33 : decode cX5_refresh 33 = .ok (.aload_n 0, 1) := dk_42 (dk_at dksX5_refresh_1 9 rfl rfl)
theorem dX5_refresh_34 : decode cX5_refresh 34 = .ok (.getfield 19, 3) := dk_180 0 19 (dk_at dksX5_refresh_1 10 rfl rfl)
theorem dX5_refresh_37 : decode cX5_refresh 37 = .ok (.istore_n 2, 1) := dk_61 (dk_at dksX5_refresh_1 13 rfl rfl)
theorem dX5_refresh_38 : decode cX5_refresh 38 = .ok (.iconst 0, 1) := dk_3 (dk_at dksX5_refresh_1 14 rfl rfl)
theorem dX5_refresh_39 : decode cX5_refresh 39 = .ok (.istore_n 3, 1) := dk_62 (dk_at dksX5_refresh_1 15 rfl rfl)
theorem dX5_refresh_40 : decode cX5_refresh 40 = .ok (.iload_n 3, 1) := dk_29 (dk_at dksX5_refresh_1 16 rfl rfl)
theorem dX5_refresh_41 : decode cX5_refresh 41 = .ok (.aload_n 0, 1) := dk_42 (dk_at dksX5_refresh_1 17 rfl rfl)
theorem dX5_refresh_42 : decode cX5_refresh 42 = .ok (.getfield 3, 3) := dk_180 0 3 (dk_at dksX5_refresh_1 18 rfl rfl)
theorem dX5_refresh_45 : decode cX5_refresh 45 = .ok (.getfield 43, 3) := dk_180 0 43 (dk_at dksX5_refresh_1 21 rfl rfl)
theorem dX5_refresh_48 : decode cX5_refresh 48 = .ok (.if_icmp .ge 45, 3) := dk_162 0 45 (dk_at dksX5_refresh_2 0 rfl rfl)
theorem dX5_refresh_51 : decode cX5_refresh 51 = .ok (.aload_n 0, 1) := dk_42 (dk_at dksX5_refresh_2 3 rfl rfl)
theorem dX5_refresh_52 : decode cX5_refresh 52 = .ok (.aload_n 0, 1) := dk_42 (dk_at dksX5_refresh_2 4 rfl rfl)
theorem dX5_refresh_53 : decode cX5_refresh 53 = .ok (.getfield 3, 3) := dk_180 0 3 (dk_at dksX5_refresh_2 5 rfl rfl)
theorem dX5_refresh_56 : decode cX5_refresh 56 = .ok (.aload_n 0, 1) := dk_42 (dk_at dksX5_refresh_2 8 rfl rfl)
theorem dX5_refresh_57 : decode cX5_refresh 57 = .ok (.getfield 3, 3) := dk_180 0 3 (dk_at dksX5_refresh_2 9 rfl rfl)
theorem dX5_refresh_60 : decode cX5_refresh 60 = .ok (.getfield 33, 3) := dk_180 0 33 (dk_at dksX5_refresh_2 12 rfl rfl)
theorem dX5_refresh_63 : decode cX5_refresh 63 = .ok (.iload_n 1, 1) := dk_27 (dk_at dksX5_refresh_2 15 rfl rfl)
theorem dX5_refresh_64 : decode cX5_refresh 64 = .ok (.invokevirtual 46, 3) := dk_182 0 46 (dk_at dksX5_refresh_2 16 rfl rfl)
theorem dX5_refresh_67 : decode cX5_refresh 67 = .ok (.checkcast 50, 3) := dk_192 0 50 (dk_at dksX5_refresh_2 19 rfl rfl)
theorem dX5_refresh_70 : decode cX5_refresh 70 = .ok (.getfield 52, 3) := dk_180 0 52 (dk_at dksX5_refresh_3 0 rfl rfl)
theorem dX5_refresh_73 : decode cX5_refresh 73 = .ok (.iload_n 3, 1) := dk_29 (dk_at dksX5_refresh_3 3 rfl rfl)
theorem dX5_refresh_74 : decode cX5_refresh 74 = .ok (.iaload, 1) := dk_46 (dk_at dksX5_refresh_3 4 rfl rfl)
theorem dX5_refresh_75 : decode cX5_refresh 75 = .ok (.invokevirtual 55, 3) := dk_182 0 55 (dk_at dksX5_refresh_3 5 rfl rfl)
theorem dX5_refresh_78 : decode cX5_refresh 78 = .ok (.invokevirtual 59, 3) := dk_182 0 59 (dk_at dksX5_refresh_3 8 rfl rfl)
theorem dX5_refresh_81 : decode cX5_refresh 81 = .ok (.iload_n 3, 1) := dk_29 (dk_at dksX5_refresh_3 11 rfl rfl)
theorem dX5_refresh_82 : decode cX5_refresh 82 = .ok (.iconst 1, 1) := dk_4 (dk_at dksX5_refresh_3 12 rfl rfl)
theorem dX5_refresh_83 : decode cX5_refresh 83 = .ok (.iadd, 1) := dk_96 (dk_at dksX5_refresh_3 13 rfl rfl)
theorem dX5_refresh_84 : decode cX5_refresh 84 = .ok (.invokevirtual 65, 3) := dk_182 0 65 (dk_at dksX5_refresh_3 14 rfl rfl)
theorem dX5_refresh_87 : decode cX5_refresh 87 = .ok (.iinc 3 1, 3) := dk_132 3 1 (dk_at dksX5_refresh_3 17 rfl rfl)
theorem dX5_refresh_90 : decode cX5_refresh 90 = .ok (.goto (-50), 3) := dk_167 255 206 (dk_at dksX5_refresh_3 20 rfl rfl)
theorem dX5_refresh_93 : decode cX5_refresh 93 = .ok (.aload_n 0, 1) := dk_42 (dk_at dksX5_refresh_3 23 rfl rfl)
theorem dX5_refresh_94 : decode cX5_refresh 94 = .ok (.bipush 6, 2) := dk_16 6 (dk_at dksX5_refresh_4 0 rfl rfl)
theorem dX5_refresh_96 : decode cX5_refresh 96 = .ok (.iload_n 1, 1) := dk_27 (dk_at dksX5_refresh_4 2 rfl rfl)
theorem dX5_refresh_97 : decode cX5_refresh 97 = .ok (.iconst 0, 1) := dk_3 (dk_at dksX5_refresh_4 3 rfl rfl)
theorem dX5_refresh_98 : decode cX5_refresh 98 = .ok (.iconst 0, 1) := dk_3 (dk_at dksX5_refresh_4 4 rfl rfl)
theorem dX5_refresh_99 : decode cX5_refresh 99 = .ok (.invokevirtual 69, 3) := dk_182 0 69 (dk_at dksX5_refresh_4 5 rfl rfl)
theorem dX5_refresh_102 : decode cX5_refresh 102 = .ok (.pop, 1) := dk_87 (dk_at dksX5_refresh_4 8 rfl rfl)
theorem dX5_refresh_103 : decode cX5_refresh 103 = .ok (.aload_n 0, 1) := dk_42 (dk_at dksX5_refresh_4 9 rfl rfl)
theorem dX5_refresh_104 : decode cX5_refresh 104 = .ok (.iload_n 2, 1) := dk_28 (dk_at dksX5_refresh_4 10 rfl rfl)
theorem dX5_refresh_105 : decode cX5_refresh 105 = .ok (.aload_n 0, 1) := dk_42 (dk_at dksX5_refresh_4 11 rfl rfl)
theorem dX5_refresh_106 : decode cX5_refresh 106 = .ok (.getfield 19, 3) := dk_180 0 19 (dk_at dksX5_refresh_4 12 rfl rfl)
theorem dX5_refresh_109 : decode cX5_refresh 109 = .ok (.invokevirtual 73, 3) := dk_182 0 73 (dk_at dksX5_refresh_4 15 rfl rfl)
theorem dX5_refresh_112 : decode cX5_refresh 112 = .ok (.iinc 1 1, 3) := dk_132 1 1 (dk_at dksX5_refresh_4 18 rfl rfl)
theorem dX5_refresh_115 : decode cX5_refresh 115 = .ok (.goto (-96), 3) := dk_167 255 160 (dk_at dksX5_refresh_4 21 rfl rfl)
theorem dX5_refresh_118 : decode cX5_refresh 118 = .ok (.aload_n 0, 1) := dk_42 (dk_at dksX5_refresh_5 0 rfl rfl)
theorem dX5_refresh_119 : decode cX5_refresh 119 = .ok (.bipush 8, 2) := dk_16 8 (dk_at dksX5_refresh_5 1 rfl rfl)
theorem dX5_refresh_121 : decode cX5_refresh 121 = .ok (.iconst 0, 1) := dk_3 (dk_at dksX5_refresh_5 3 rfl rfl)
theorem dX5_refresh_122 : decode cX5_refresh 122 = .ok (.iconst 0, 1) := dk_3 (dk_at dksX5_refresh_5 4 rfl rfl)
theorem dX5_refresh_123 : decode cX5_refresh 123 = .ok (.iconst 0, 1) := dk_3 (dk_at dksX5_refresh_5 5 rfl rfl)
theorem dX5_refresh_124 : decode cX5_refresh 124 = .ok (.invokevirtual 69, 3) := dk_182 0 69 (dk_at dksX5_refresh_5 6 rfl rfl)
theorem dX5_refresh_127 : decode cX5_refresh 127 = .ok (.pop, 1) := dk_87 (dk_at dksX5_refresh_5 9 rfl rfl)
theorem dX5_refresh_128 : decode cX5_refresh 128 = .ok (.return_, 1) := dk_177 (dk_at dksX5_refresh_5 10 rfl rfl)
abbrev cX5_write : ByteArray := prog_3_method_5_code
def yX5_write : MethodName := ⟨RX5, "write", "(LPatternforge$Pattern;I)V"⟩
def dkwX5_write_9 : List UInt8 := [193, 0, 121, 153, 0, 16, 43, 192, 0, 121, 58, 8, 42, 25, 8, 28, 182, 0, 123, 177]
abbrev dktX5_write_9 : List UInt8 := dkwX5_write_9 ++ []
def dkwX5_write_8 : List UInt8 := [25, 7, 182, 0, 113, 28, 3, 182, 0, 69, 87, 42, 25, 7, 182, 0, 116, 182, 0, 117, 167, 0, 23, 43]
abbrev dktX5_write_8 : List UInt8 := dkwX5_write_8 ++ dktX5_write_9
def dkwX5_write_7 : List UInt8 := [42, 180, 0, 19, 79, 167, 0, 61, 43, 193, 0, 111, 153, 0, 34, 43, 192, 0, 111, 58, 7, 42, 6]
abbrev dktX5_write_7 : List UInt8 := dkwX5_write_7 ++ dktX5_write_8
def dkwX5_write_6 : List UInt8 := [180, 0, 19, 182, 0, 73, 42, 25, 6, 182, 0, 108, 28, 182, 0, 65, 42, 180, 0, 15, 21, 10, 7, 96]
abbrev dktX5_write_6 : List UInt8 := dkwX5_write_6 ++ dktX5_write_7
def dkwX5_write_5 : List UInt8 := [25, 6, 182, 0, 105, 28, 182, 0, 65, 42, 8, 3, 3, 3, 182, 0, 69, 54, 10, 42, 21, 9, 42]
abbrev dktX5_write_5 : List UInt8 := dkwX5_write_5 ++ dktX5_write_6
def dkwX5_write_4 : List UInt8 := [167, 0, 136, 43, 193, 0, 103, 153, 0, 71, 43, 192, 0, 103, 58, 6, 42, 180, 0, 19, 54, 9, 42]
abbrev dktX5_write_4 : List UInt8 := dkwX5_write_4 ++ dktX5_write_5
def dkwX5_write_3 : List UInt8 := [4, 28, 25, 5, 182, 0, 92, 3, 182, 0, 69, 87, 42, 25, 5, 182, 0, 95, 28, 3, 182, 0, 99]
abbrev dktX5_write_3 : List UInt8 := dkwX5_write_3 ++ dktX5_write_4
def dkwX5_write_2 : List UInt8 := [182, 0, 87, 182, 0, 69, 87, 167, 0, 176, 43, 193, 0, 90, 153, 0, 36, 43, 192, 0, 90, 58, 5, 42]
abbrev dktX5_write_2 : List UInt8 := dkwX5_write_2 ++ dktX5_write_3
def dkwX5_write_1 : List UInt8 := [43, 193, 0, 82, 153, 0, 29, 43, 192, 0, 82, 58, 4, 42, 3, 28, 25, 4, 182, 0, 84, 25, 4]
abbrev dktX5_write_1 : List UInt8 := dkwX5_write_1 ++ dktX5_write_2
def dkwX5_write_0 : List UInt8 := [43, 193, 0, 77, 153, 0, 20, 43, 192, 0, 77, 78, 42, 45, 182, 0, 79, 28, 182, 0, 65, 167, 0, 209]
abbrev dktX5_write_0 : List UInt8 := dkwX5_write_0 ++ dktX5_write_1
theorem dksX5_write_0 : cX5_write.data.toList.drop 0 = dktX5_write_0 := by decide +kernel
theorem dksX5_write_1 : cX5_write.data.toList.drop 24 = dktX5_write_1 := dk_seg dksX5_write_0 24 rfl rfl
theorem dksX5_write_2 : cX5_write.data.toList.drop 47 = dktX5_write_2 := dk_seg dksX5_write_1 23 rfl rfl
theorem dksX5_write_3 : cX5_write.data.toList.drop 71 = dktX5_write_3 := dk_seg dksX5_write_2 24 rfl rfl
theorem dksX5_write_4 : cX5_write.data.toList.drop 94 = dktX5_write_4 := dk_seg dksX5_write_3 23 rfl rfl
theorem dksX5_write_5 : cX5_write.data.toList.drop 117 = dktX5_write_5 := dk_seg dksX5_write_4 23 rfl rfl
theorem dksX5_write_6 : cX5_write.data.toList.drop 140 = dktX5_write_6 := dk_seg dksX5_write_5 23 rfl rfl
theorem dksX5_write_7 : cX5_write.data.toList.drop 164 = dktX5_write_7 := dk_seg dksX5_write_6 24 rfl rfl
theorem dksX5_write_8 : cX5_write.data.toList.drop 187 = dktX5_write_8 := dk_seg dksX5_write_7 23 rfl rfl
theorem dksX5_write_9 : cX5_write.data.toList.drop 211 = dktX5_write_9 := dk_seg dksX5_write_8 24 rfl rfl
theorem dX5_write_0 : decode cX5_write 0 = .ok (.aload_n 1, 1) := dk_43 (dk_at dksX5_write_0 0 rfl rfl)
theorem dX5_write_1 : decode cX5_write 1 = .ok (.instanceof 77, 3) := dk_193 0 77 (dk_at dksX5_write_0 1 rfl rfl)
theorem dX5_write_4 : decode cX5_write 4 = .ok (.ifCond .eq 20, 3) := dk_153 0 20 (dk_at dksX5_write_0 4 rfl rfl)
theorem dX5_write_7 : decode cX5_write 7 = .ok (.aload_n 1, 1) := dk_43 (dk_at dksX5_write_0 7 rfl rfl)
theorem dX5_write_8 : decode cX5_write 8 = .ok (.checkcast 77, 3) := dk_192 0 77 (dk_at dksX5_write_0 8 rfl rfl)
theorem dX5_write_11 : decode cX5_write 11 = .ok (.astore_n 3, 1) := dk_78 (dk_at dksX5_write_0 11 rfl rfl)
theorem dX5_write_12 : decode cX5_write 12 = .ok (.aload_n 0, 1) := dk_42 (dk_at dksX5_write_0 12 rfl rfl)
theorem dX5_write_13 : decode cX5_write 13 = .ok (.aload_n 3, 1) := dk_45 (dk_at dksX5_write_0 13 rfl rfl)
theorem dX5_write_14 : decode cX5_write 14 = .ok (.invokevirtual 79, 3) := dk_182 0 79 (dk_at dksX5_write_0 14 rfl rfl)
theorem dX5_write_17 : decode cX5_write 17 = .ok (.iload_n 2, 1) := dk_28 (dk_at dksX5_write_0 17 rfl rfl)
theorem dX5_write_18 : decode cX5_write 18 = .ok (.invokevirtual 65, 3) := dk_182 0 65 (dk_at dksX5_write_0 18 rfl rfl)
theorem dX5_write_21 : decode cX5_write 21 = .ok (.goto 209, 3) := dk_167 0 209 (dk_at dksX5_write_0 21 rfl rfl)
theorem dX5_write_24 : decode cX5_write 24 = .ok (.aload_n 1, 1) := dk_43 (dk_at dksX5_write_1 0 rfl rfl)
theorem dX5_write_25 : decode cX5_write 25 = .ok (.instanceof 82, 3) := dk_193 0 82 (dk_at dksX5_write_1 1 rfl rfl)
theorem dX5_write_28 : decode cX5_write 28 = .ok (.ifCond .eq 29, 3) := dk_153 0 29 (dk_at dksX5_write_1 4 rfl rfl)
theorem dX5_write_31 : decode cX5_write 31 = .ok (.aload_n 1, 1) := dk_43 (dk_at dksX5_write_1 7 rfl rfl)
theorem dX5_write_32 : decode cX5_write 32 = .ok (.checkcast 82, 3) := dk_192 0 82 (dk_at dksX5_write_1 8 rfl rfl)
theorem dX5_write_35 : decode cX5_write 35 = .ok (.astore 4, 2) := dk_58 4 (dk_at dksX5_write_1 11 rfl rfl)
theorem dX5_write_37 : decode cX5_write 37 = .ok (.aload_n 0, 1) := dk_42 (dk_at dksX5_write_1 13 rfl rfl)
theorem dX5_write_38 : decode cX5_write 38 = .ok (.iconst 0, 1) := dk_3 (dk_at dksX5_write_1 14 rfl rfl)
theorem dX5_write_39 : decode cX5_write 39 = .ok (.iload_n 2, 1) := dk_28 (dk_at dksX5_write_1 15 rfl rfl)
theorem dX5_write_40 : decode cX5_write 40 = .ok (.aload 4, 2) := dk_25 4 (dk_at dksX5_write_1 16 rfl rfl)
theorem dX5_write_42 : decode cX5_write 42 = .ok (.invokevirtual 84, 3) := dk_182 0 84 (dk_at dksX5_write_1 18 rfl rfl)
theorem dX5_write_45 : decode cX5_write 45 = .ok (.aload 4, 2) := dk_25 4 (dk_at dksX5_write_1 21 rfl rfl)
theorem dX5_write_47 : decode cX5_write 47 = .ok (.invokevirtual 87, 3) := dk_182 0 87 (dk_at dksX5_write_2 0 rfl rfl)
theorem dX5_write_50 : decode cX5_write 50 = .ok (.invokevirtual 69, 3) := dk_182 0 69 (dk_at dksX5_write_2 3 rfl rfl)
theorem dX5_write_53 : decode cX5_write 53 = .ok (.pop, 1) := dk_87 (dk_at dksX5_write_2 6 rfl rfl)
theorem dX5_write_54 : decode cX5_write 54 = .ok (.goto 176, 3) := dk_167 0 176 (dk_at dksX5_write_2 7 rfl rfl)
theorem dX5_write_57 : decode cX5_write 57 = .ok (.aload_n 1, 1) := dk_43 (dk_at dksX5_write_2 10 rfl rfl)
theorem dX5_write_58 : decode cX5_write 58 = .ok (.instanceof 90, 3) := dk_193 0 90 (dk_at dksX5_write_2 11 rfl rfl)
theorem dX5_write_61 : decode cX5_write 61 = .ok (.ifCond .eq 36, 3) := dk_153 0 36 (dk_at dksX5_write_2 14 rfl rfl)
theorem dX5_write_64 : decode cX5_write 64 = .ok (.aload_n 1, 1) := dk_43 (dk_at dksX5_write_2 17 rfl rfl)
theorem dX5_write_65 : decode cX5_write 65 = .ok (.checkcast 90, 3) := dk_192 0 90 (dk_at dksX5_write_2 18 rfl rfl)
theorem dX5_write_68 : decode cX5_write 68 = .ok (.astore 5, 2) := dk_58 5 (dk_at dksX5_write_2 21 rfl rfl)
theorem dX5_write_70 : decode cX5_write 70 = .ok (.aload_n 0, 1) := dk_42 (dk_at dksX5_write_2 23 rfl rfl)
theorem dX5_write_71 : decode cX5_write 71 = .ok (.iconst 1, 1) := dk_4 (dk_at dksX5_write_3 0 rfl rfl)
theorem dX5_write_72 : decode cX5_write 72 = .ok (.iload_n 2, 1) := dk_28 (dk_at dksX5_write_3 1 rfl rfl)
theorem dX5_write_73 : decode cX5_write 73 = .ok (.aload 5, 2) := dk_25 5 (dk_at dksX5_write_3 2 rfl rfl)
theorem dX5_write_75 : decode cX5_write 75 = .ok (.invokevirtual 92, 3) := dk_182 0 92 (dk_at dksX5_write_3 4 rfl rfl)
theorem dX5_write_78 : decode cX5_write 78 = .ok (.iconst 0, 1) := dk_3 (dk_at dksX5_write_3 7 rfl rfl)
theorem dX5_write_79 : decode cX5_write 79 = .ok (.invokevirtual 69, 3) := dk_182 0 69 (dk_at dksX5_write_3 8 rfl rfl)
theorem dX5_write_82 : decode cX5_write 82 = .ok (.pop, 1) := dk_87 (dk_at dksX5_write_3 11 rfl rfl)
theorem dX5_write_83 : decode cX5_write 83 = .ok (.aload_n 0, 1) := dk_42 (dk_at dksX5_write_3 12 rfl rfl)
theorem dX5_write_84 : decode cX5_write 84 = .ok (.aload 5, 2) := dk_25 5 (dk_at dksX5_write_3 13 rfl rfl)
theorem dX5_write_86 : decode cX5_write 86 = .ok (.invokevirtual 95, 3) := dk_182 0 95 (dk_at dksX5_write_3 15 rfl rfl)
theorem dX5_write_89 : decode cX5_write 89 = .ok (.iload_n 2, 1) := dk_28 (dk_at dksX5_write_3 18 rfl rfl)
theorem dX5_write_90 : decode cX5_write 90 = .ok (.iconst 0, 1) := dk_3 (dk_at dksX5_write_3 19 rfl rfl)
theorem dX5_write_91 : decode cX5_write 91 = .ok (.invokevirtual 99, 3) := dk_182 0 99 (dk_at dksX5_write_3 20 rfl rfl)
theorem dX5_write_94 : decode cX5_write 94 = .ok (.goto 136, 3) := dk_167 0 136 (dk_at dksX5_write_4 0 rfl rfl)
theorem dX5_write_97 : decode cX5_write 97 = .ok (.aload_n 1, 1) := dk_43 (dk_at dksX5_write_4 3 rfl rfl)
theorem dX5_write_98 : decode cX5_write 98 = .ok (.instanceof 103, 3) := dk_193 0 103 (dk_at dksX5_write_4 4 rfl rfl)
theorem dX5_write_101 : decode cX5_write 101 = .ok (.ifCond .eq 71, 3) := dk_153 0 71 (dk_at dksX5_write_4 7 rfl rfl)
theorem dX5_write_104 : decode cX5_write 104 = .ok (.aload_n 1, 1) := dk_43 (dk_at dksX5_write_4 10 rfl rfl)
theorem dX5_write_105 : decode cX5_write 105 = .ok (.checkcast 103, 3) := dk_192 0 103 (dk_at dksX5_write_4 11 rfl rfl)
theorem dX5_write_108 : decode cX5_write 108 = .ok (.astore 6, 2) := dk_58 6 (dk_at dksX5_write_4 14 rfl rfl)
theorem dX5_write_110 : decode cX5_write 110 = .ok (.aload_n 0, 1) := dk_42 (dk_at dksX5_write_4 16 rfl rfl)
theorem dX5_write_111 : decode cX5_write 111 = .ok (.getfield 19, 3) := dk_180 0 19 (dk_at dksX5_write_4 17 rfl rfl)
theorem dX5_write_114 : decode cX5_write 114 = .ok (.istore 9, 2) := dk_54 9 (dk_at dksX5_write_4 20 rfl rfl)
theorem dX5_write_116 : decode cX5_write 116 = .ok (.aload_n 0, 1) := dk_42 (dk_at dksX5_write_4 22 rfl rfl)
theorem dX5_write_117 : decode cX5_write 117 = .ok (.aload 6, 2) := dk_25 6 (dk_at dksX5_write_5 0 rfl rfl)
theorem dX5_write_119 : decode cX5_write 119 = .ok (.invokevirtual 105, 3) := dk_182 0 105 (dk_at dksX5_write_5 2 rfl rfl)
theorem dX5_write_122 : decode cX5_write 122 = .ok (.iload_n 2, 1) := dk_28 (dk_at dksX5_write_5 5 rfl rfl)
theorem dX5_write_123 : decode cX5_write 123 = .ok (.invokevirtual 65, 3) := dk_182 0 65 (dk_at dksX5_write_5 6 rfl rfl)
theorem dX5_write_126 : decode cX5_write 126 = .ok (.aload_n 0, 1) := dk_42 (dk_at dksX5_write_5 9 rfl rfl)
theorem dX5_write_127 : decode cX5_write 127 = .ok (.iconst 5, 1) := dk_8 (dk_at dksX5_write_5 10 rfl rfl)
theorem dX5_write_128 : decode cX5_write 128 = .ok (.iconst 0, 1) := dk_3 (dk_at dksX5_write_5 11 rfl rfl)
theorem dX5_write_129 : decode cX5_write 129 = .ok (.iconst 0, 1) := dk_3 (dk_at dksX5_write_5 12 rfl rfl)
theorem dX5_write_130 : decode cX5_write 130 = .ok (.iconst 0, 1) := dk_3 (dk_at dksX5_write_5 13 rfl rfl)
theorem dX5_write_131 : decode cX5_write 131 = .ok (.invokevirtual 69, 3) := dk_182 0 69 (dk_at dksX5_write_5 14 rfl rfl)
theorem dX5_write_134 : decode cX5_write 134 = .ok (.istore 10, 2) := dk_54 10 (dk_at dksX5_write_5 17 rfl rfl)
theorem dX5_write_136 : decode cX5_write 136 = .ok (.aload_n 0, 1) := dk_42 (dk_at dksX5_write_5 19 rfl rfl)
theorem dX5_write_137 : decode cX5_write 137 = .ok (.iload 9, 2) := dk_21 9 (dk_at dksX5_write_5 20 rfl rfl)
theorem dX5_write_139 : decode cX5_write 139 = .ok (.aload_n 0, 1) := dk_42 (dk_at dksX5_write_5 22 rfl rfl)
theorem dX5_write_140 : decode cX5_write 140 = .ok (.getfield 19, 3) := dk_180 0 19 (dk_at dksX5_write_6 0 rfl rfl)
theorem dX5_write_143 : decode cX5_write 143 = .ok (.invokevirtual 73, 3) := dk_182 0 73 (dk_at dksX5_write_6 3 rfl rfl)
theorem dX5_write_146 : decode cX5_write 146 = .ok (.aload_n 0, 1) := dk_42 (dk_at dksX5_write_6 6 rfl rfl)
theorem dX5_write_147 : decode cX5_write 147 = .ok (.aload 6, 2) := dk_25 6 (dk_at dksX5_write_6 7 rfl rfl)
theorem dX5_write_149 : decode cX5_write 149 = .ok (.invokevirtual 108, 3) := dk_182 0 108 (dk_at dksX5_write_6 9 rfl rfl)
theorem dX5_write_152 : decode cX5_write 152 = .ok (.iload_n 2, 1) := dk_28 (dk_at dksX5_write_6 12 rfl rfl)
theorem dX5_write_153 : decode cX5_write 153 = .ok (.invokevirtual 65, 3) := dk_182 0 65 (dk_at dksX5_write_6 13 rfl rfl)
theorem dX5_write_156 : decode cX5_write 156 = .ok (.aload_n 0, 1) := dk_42 (dk_at dksX5_write_6 16 rfl rfl)
theorem dX5_write_157 : decode cX5_write 157 = .ok (.getfield 15, 3) := dk_180 0 15 (dk_at dksX5_write_6 17 rfl rfl)
theorem dX5_write_160 : decode cX5_write 160 = .ok (.iload 10, 2) := dk_21 10 (dk_at dksX5_write_6 20 rfl rfl)
theorem dX5_write_162 : decode cX5_write 162 = .ok (.iconst 4, 1) := dk_7 (dk_at dksX5_write_6 22 rfl rfl)
theorem dX5_write_163 : decode cX5_write 163 = .ok (.iadd, 1) := dk_96 (dk_at dksX5_write_6 23 rfl rfl)
theorem dX5_write_164 : decode cX5_write 164 = .ok (.aload_n 0, 1) := dk_42 (dk_at dksX5_write_7 0 rfl rfl)
theorem dX5_write_165 : decode cX5_write 165 = .ok (.getfield 19, 3) := dk_180 0 19 (dk_at dksX5_write_7 1 rfl rfl)
theorem dX5_write_168 : decode cX5_write 168 = .ok (.iastore, 1) := dk_79 (dk_at dksX5_write_7 4 rfl rfl)
theorem dX5_write_169 : decode cX5_write 169 = .ok (.goto 61, 3) := dk_167 0 61 (dk_at dksX5_write_7 5 rfl rfl)
theorem dX5_write_172 : decode cX5_write 172 = .ok (.aload_n 1, 1) := dk_43 (dk_at dksX5_write_7 8 rfl rfl)
theorem dX5_write_173 : decode cX5_write 173 = .ok (.instanceof 111, 3) := dk_193 0 111 (dk_at dksX5_write_7 9 rfl rfl)
theorem dX5_write_176 : decode cX5_write 176 = .ok (.ifCond .eq 34, 3) := dk_153 0 34 (dk_at dksX5_write_7 12 rfl rfl)
theorem dX5_write_179 : decode cX5_write 179 = .ok (.aload_n 1, 1) := dk_43 (dk_at dksX5_write_7 15 rfl rfl)
theorem dX5_write_180 : decode cX5_write 180 = .ok (.checkcast 111, 3) := dk_192 0 111 (dk_at dksX5_write_7 16 rfl rfl)
theorem dX5_write_183 : decode cX5_write 183 = .ok (.astore 7, 2) := dk_58 7 (dk_at dksX5_write_7 19 rfl rfl)
theorem dX5_write_185 : decode cX5_write 185 = .ok (.aload_n 0, 1) := dk_42 (dk_at dksX5_write_7 21 rfl rfl)
theorem dX5_write_186 : decode cX5_write 186 = .ok (.iconst 3, 1) := dk_6 (dk_at dksX5_write_7 22 rfl rfl)
theorem dX5_write_187 : decode cX5_write 187 = .ok (.aload 7, 2) := dk_25 7 (dk_at dksX5_write_8 0 rfl rfl)
theorem dX5_write_189 : decode cX5_write 189 = .ok (.invokevirtual 113, 3) := dk_182 0 113 (dk_at dksX5_write_8 2 rfl rfl)
theorem dX5_write_192 : decode cX5_write 192 = .ok (.iload_n 2, 1) := dk_28 (dk_at dksX5_write_8 5 rfl rfl)
theorem dX5_write_193 : decode cX5_write 193 = .ok (.iconst 0, 1) := dk_3 (dk_at dksX5_write_8 6 rfl rfl)
theorem dX5_write_194 : decode cX5_write 194 = .ok (.invokevirtual 69, 3) := dk_182 0 69 (dk_at dksX5_write_8 7 rfl rfl)
theorem dX5_write_197 : decode cX5_write 197 = .ok (.pop, 1) := dk_87 (dk_at dksX5_write_8 10 rfl rfl)
theorem dX5_write_198 : decode cX5_write 198 = .ok (.aload_n 0, 1) := dk_42 (dk_at dksX5_write_8 11 rfl rfl)
theorem dX5_write_199 : decode cX5_write 199 = .ok (.aload 7, 2) := dk_25 7 (dk_at dksX5_write_8 12 rfl rfl)
theorem dX5_write_201 : decode cX5_write 201 = .ok (.invokevirtual 116, 3) := dk_182 0 116 (dk_at dksX5_write_8 14 rfl rfl)
theorem dX5_write_204 : decode cX5_write 204 = .ok (.invokevirtual 117, 3) := dk_182 0 117 (dk_at dksX5_write_8 17 rfl rfl)
theorem dX5_write_207 : decode cX5_write 207 = .ok (.goto 23, 3) := dk_167 0 23 (dk_at dksX5_write_8 20 rfl rfl)
theorem dX5_write_210 : decode cX5_write 210 = .ok (.aload_n 1, 1) := dk_43 (dk_at dksX5_write_8 23 rfl rfl)
theorem dX5_write_211 : decode cX5_write 211 = .ok (.instanceof 121, 3) := dk_193 0 121 (dk_at dksX5_write_9 0 rfl rfl)
theorem dX5_write_214 : decode cX5_write 214 = .ok (.ifCond .eq 16, 3) := dk_153 0 16 (dk_at dksX5_write_9 3 rfl rfl)
theorem dX5_write_217 : decode cX5_write 217 = .ok (.aload_n 1, 1) := dk_43 (dk_at dksX5_write_9 6 rfl rfl)
theorem dX5_write_218 : decode cX5_write 218 = .ok (.checkcast 121, 3) := dk_192 0 121 (dk_at dksX5_write_9 7 rfl rfl)
theorem dX5_write_221 : decode cX5_write 221 = .ok (.astore 8, 2) := dk_58 8 (dk_at dksX5_write_9 10 rfl rfl)
theorem dX5_write_223 : decode cX5_write 223 = .ok (.aload_n 0, 1) := dk_42 (dk_at dksX5_write_9 12 rfl rfl)
theorem dX5_write_224 : decode cX5_write 224 = .ok (.aload 8, 2) := dk_25 8 (dk_at dksX5_write_9 13 rfl rfl)
theorem dX5_write_226 : decode cX5_write 226 = .ok (.iload_n 2, 1) := dk_28 (dk_at dksX5_write_9 15 rfl rfl)
theorem dX5_write_227 : decode cX5_write 227 = .ok (.invokevirtual 123, 3) := dk_182 0 123 (dk_at dksX5_write_9 16 rfl rfl)
theorem dX5_write_230 : decode cX5_write 230 = .ok (.return_, 1) := dk_177 (dk_at dksX5_write_9 19 rfl rfl)
abbrev cX5_put : ByteArray := prog_3_method_2_code
def yX5_put : MethodName := ⟨RX5, "put", "(IIII)I"⟩
def dkwX5_put_5 : List UInt8 := [180, 0, 19, 8, 100, 172]
abbrev dktX5_put_5 : List UInt8 := dkwX5_put_5 ++ []
def dkwX5_put_4 : List UInt8 := [42, 180, 0, 15, 42, 180, 0, 19, 7, 96, 2, 79, 42, 89, 180, 0, 19, 8, 96, 181, 0, 19, 42]
abbrev dktX5_put_4 : List UInt8 := dkwX5_put_4 ++ dktX5_put_5
def dkwX5_put_3 : List UInt8 := [180, 0, 15, 42, 180, 0, 19, 5, 96, 29, 79, 42, 180, 0, 15, 42, 180, 0, 19, 6, 96, 21, 4, 79]
abbrev dktX5_put_3 : List UInt8 := dkwX5_put_3 ++ dktX5_put_4
def dkwX5_put_2 : List UInt8 := [180, 0, 15, 42, 180, 0, 19, 27, 79, 42, 180, 0, 15, 42, 180, 0, 19, 4, 96, 28, 79, 42]
abbrev dktX5_put_2 : List UInt8 := dkwX5_put_2 ++ dktX5_put_3
def dkwX5_put_1 : List UInt8 := [58, 5, 42, 180, 0, 15, 3, 25, 5, 3, 42, 180, 0, 19, 184, 0, 23, 42, 25, 5, 181, 0, 15, 42]
abbrev dktX5_put_1 : List UInt8 := dkwX5_put_1 ++ dktX5_put_2
def dkwX5_put_0 : List UInt8 := [42, 180, 0, 19, 8, 96, 42, 180, 0, 15, 190, 164, 0, 35, 5, 42, 180, 0, 15, 190, 104, 188, 10]
abbrev dktX5_put_0 : List UInt8 := dkwX5_put_0 ++ dktX5_put_1
theorem dksX5_put_0 : cX5_put.data.toList.drop 0 = dktX5_put_0 := by decide +kernel
theorem dksX5_put_1 : cX5_put.data.toList.drop 23 = dktX5_put_1 := dk_seg dksX5_put_0 23 rfl rfl
theorem dksX5_put_2 : cX5_put.data.toList.drop 47 = dktX5_put_2 := dk_seg dksX5_put_1 24 rfl rfl
theorem dksX5_put_3 : cX5_put.data.toList.drop 69 = dktX5_put_3 := dk_seg dksX5_put_2 22 rfl rfl
theorem dksX5_put_4 : cX5_put.data.toList.drop 93 = dktX5_put_4 := dk_seg dksX5_put_3 24 rfl rfl
theorem dksX5_put_5 : cX5_put.data.toList.drop 116 = dktX5_put_5 := dk_seg dksX5_put_4 23 rfl rfl
theorem dX5_put_0 : decode cX5_put 0 = .ok (.aload_n 0, 1) := dk_42 (dk_at dksX5_put_0 0 rfl rfl)
theorem dX5_put_1 : decode cX5_put 1 = .ok (.getfield 19, 3) := dk_180 0 19 (dk_at dksX5_put_0 1 rfl rfl)
theorem dX5_put_4 : decode cX5_put 4 = .ok (.iconst 5, 1) := dk_8 (dk_at dksX5_put_0 4 rfl rfl)
theorem dX5_put_5 : decode cX5_put 5 = .ok (.iadd, 1) := dk_96 (dk_at dksX5_put_0 5 rfl rfl)
theorem dX5_put_6 : decode cX5_put 6 = .ok (.aload_n 0, 1) := dk_42 (dk_at dksX5_put_0 6 rfl rfl)
theorem dX5_put_7 : decode cX5_put 7 = .ok (.getfield 15, 3) := dk_180 0 15 (dk_at dksX5_put_0 7 rfl rfl)
theorem dX5_put_10 : decode cX5_put 10 = .ok (.arraylength, 1) := dk_190 (dk_at dksX5_put_0 10 rfl rfl)
theorem dX5_put_11 : decode cX5_put 11 = .ok (.if_icmp .le 35, 3) := dk_164 0 35 (dk_at dksX5_put_0 11 rfl rfl)
theorem dX5_put_14 : decode cX5_put 14 = .ok (.iconst 2, 1) := dk_5 (dk_at dksX5_put_0 14 rfl rfl)
theorem dX5_put_15 : decode cX5_put 15 = .ok (.aload_n 0, 1) := dk_42 (dk_at dksX5_put_0 15 rfl rfl)
theorem dX5_put_16 : decode cX5_put 16 = .ok (.getfield 15, 3) := dk_180 0 15 (dk_at dksX5_put_0 16 rfl rfl)
theorem dX5_put_19 : decode cX5_put 19 = .ok (.arraylength, 1) := dk_190 (dk_at dksX5_put_0 19 rfl rfl)
theorem dX5_put_20 : decode cX5_put 20 = .ok (.imul, 1) := dk_104 (dk_at dksX5_put_0 20 rfl rfl)
theorem dX5_put_21 : decode cX5_put 21 = .ok (.newarray .int, 2) := dk_188_10 (dk_at dksX5_put_0 21 rfl rfl)
theorem dX5_put_23 : decode cX5_put 23 = .ok (.astore 5, 2) := dk_58 5 (dk_at dksX5_put_1 0 rfl rfl)
theorem dX5_put_25 : decode cX5_put 25 = .ok (.aload_n 0, 1) := dk_42 (dk_at dksX5_put_1 2 rfl rfl)
theorem dX5_put_26 : decode cX5_put 26 = .ok (.getfield 15, 3) := dk_180 0 15 (dk_at dksX5_put_1 3 rfl rfl)
theorem dX5_put_29 : decode cX5_put 29 = .ok (.iconst 0, 1) := dk_3 (dk_at dksX5_put_1 6 rfl rfl)
theorem dX5_put_30 : decode cX5_put 30 = .ok (.aload 5, 2) := dk_25 5 (dk_at dksX5_put_1 7 rfl rfl)
theorem dX5_put_32 : decode cX5_put 32 = .ok (.iconst 0, 1) := dk_3 (dk_at dksX5_put_1 9 rfl rfl)
theorem dX5_put_33 : decode cX5_put 33 = .ok (.aload_n 0, 1) := dk_42 (dk_at dksX5_put_1 10 rfl rfl)
theorem dX5_put_34 : decode cX5_put 34 = .ok (.getfield 19, 3) := dk_180 0 19 (dk_at dksX5_put_1 11 rfl rfl)
theorem dX5_put_37 : decode cX5_put 37 = .ok (.invokestatic 23, 3) := dk_184 0 23 (dk_at dksX5_put_1 14 rfl rfl)
theorem dX5_put_40 : decode cX5_put 40 = .ok (.aload_n 0, 1) := dk_42 (dk_at dksX5_put_1 17 rfl rfl)
theorem dX5_put_41 : decode cX5_put 41 = .ok (.aload 5, 2) := dk_25 5 (dk_at dksX5_put_1 18 rfl rfl)
theorem dX5_put_43 : decode cX5_put 43 = .ok (.putfield 15, 3) := dk_181 0 15 (dk_at dksX5_put_1 20 rfl rfl)
theorem dX5_put_46 : decode cX5_put 46 = .ok (.aload_n 0, 1) := dk_42 (dk_at dksX5_put_1 23 rfl rfl)
theorem dX5_put_47 : decode cX5_put 47 = .ok (.getfield 15, 3) := dk_180 0 15 (dk_at dksX5_put_2 0 rfl rfl)
theorem dX5_put_50 : decode cX5_put 50 = .ok (.aload_n 0, 1) := dk_42 (dk_at dksX5_put_2 3 rfl rfl)
theorem dX5_put_51 : decode cX5_put 51 = .ok (.getfield 19, 3) := dk_180 0 19 (dk_at dksX5_put_2 4 rfl rfl)
theorem dX5_put_54 : decode cX5_put 54 = .ok (.iload_n 1, 1) := dk_27 (dk_at dksX5_put_2 7 rfl rfl)
theorem dX5_put_55 : decode cX5_put 55 = .ok (.iastore, 1) := dk_79 (dk_at dksX5_put_2 8 rfl rfl)
theorem dX5_put_56 : decode cX5_put 56 = .ok (.aload_n 0, 1) := dk_42 (dk_at dksX5_put_2 9 rfl rfl)
theorem dX5_put_57 : decode cX5_put 57 = .ok (.getfield 15, 3) := dk_180 0 15 (dk_at dksX5_put_2 10 rfl rfl)
theorem dX5_put_60 : decode cX5_put 60 = .ok (.aload_n 0, 1) := dk_42 (dk_at dksX5_put_2 13 rfl rfl)
theorem dX5_put_61 : decode cX5_put 61 = .ok (.getfield 19, 3) := dk_180 0 19 (dk_at dksX5_put_2 14 rfl rfl)
theorem dX5_put_64 : decode cX5_put 64 = .ok (.iconst 1, 1) := dk_4 (dk_at dksX5_put_2 17 rfl rfl)
theorem dX5_put_65 : decode cX5_put 65 = .ok (.iadd, 1) := dk_96 (dk_at dksX5_put_2 18 rfl rfl)
theorem dX5_put_66 : decode cX5_put 66 = .ok (.iload_n 2, 1) := dk_28 (dk_at dksX5_put_2 19 rfl rfl)
theorem dX5_put_67 : decode cX5_put 67 = .ok (.iastore, 1) := dk_79 (dk_at dksX5_put_2 20 rfl rfl)
theorem dX5_put_68 : decode cX5_put 68 = .ok (.aload_n 0, 1) := dk_42 (dk_at dksX5_put_2 21 rfl rfl)
theorem dX5_put_69 : decode cX5_put 69 = .ok (.getfield 15, 3) := dk_180 0 15 (dk_at dksX5_put_3 0 rfl rfl)
theorem dX5_put_72 : decode cX5_put 72 = .ok (.aload_n 0, 1) := dk_42 (dk_at dksX5_put_3 3 rfl rfl)
theorem dX5_put_73 : decode cX5_put 73 = .ok (.getfield 19, 3) := dk_180 0 19 (dk_at dksX5_put_3 4 rfl rfl)
theorem dX5_put_76 : decode cX5_put 76 = .ok (.iconst 2, 1) := dk_5 (dk_at dksX5_put_3 7 rfl rfl)
theorem dX5_put_77 : decode cX5_put 77 = .ok (.iadd, 1) := dk_96 (dk_at dksX5_put_3 8 rfl rfl)
theorem dX5_put_78 : decode cX5_put 78 = .ok (.iload_n 3, 1) := dk_29 (dk_at dksX5_put_3 9 rfl rfl)
theorem dX5_put_79 : decode cX5_put 79 = .ok (.iastore, 1) := dk_79 (dk_at dksX5_put_3 10 rfl rfl)
theorem dX5_put_80 : decode cX5_put 80 = .ok (.aload_n 0, 1) := dk_42 (dk_at dksX5_put_3 11 rfl rfl)
theorem dX5_put_81 : decode cX5_put 81 = .ok (.getfield 15, 3) := dk_180 0 15 (dk_at dksX5_put_3 12 rfl rfl)
theorem dX5_put_84 : decode cX5_put 84 = .ok (.aload_n 0, 1) := dk_42 (dk_at dksX5_put_3 15 rfl rfl)
theorem dX5_put_85 : decode cX5_put 85 = .ok (.getfield 19, 3) := dk_180 0 19 (dk_at dksX5_put_3 16 rfl rfl)
theorem dX5_put_88 : decode cX5_put 88 = .ok (.iconst 3, 1) := dk_6 (dk_at dksX5_put_3 19 rfl rfl)
theorem dX5_put_89 : decode cX5_put 89 = .ok (.iadd, 1) := dk_96 (dk_at dksX5_put_3 20 rfl rfl)
theorem dX5_put_90 : decode cX5_put 90 = .ok (.iload 4, 2) := dk_21 4 (dk_at dksX5_put_3 21 rfl rfl)
theorem dX5_put_92 : decode cX5_put 92 = .ok (.iastore, 1) := dk_79 (dk_at dksX5_put_3 23 rfl rfl)
theorem dX5_put_93 : decode cX5_put 93 = .ok (.aload_n 0, 1) := dk_42 (dk_at dksX5_put_4 0 rfl rfl)
theorem dX5_put_94 : decode cX5_put 94 = .ok (.getfield 15, 3) := dk_180 0 15 (dk_at dksX5_put_4 1 rfl rfl)
theorem dX5_put_97 : decode cX5_put 97 = .ok (.aload_n 0, 1) := dk_42 (dk_at dksX5_put_4 4 rfl rfl)
theorem dX5_put_98 : decode cX5_put 98 = .ok (.getfield 19, 3) := dk_180 0 19 (dk_at dksX5_put_4 5 rfl rfl)
theorem dX5_put_101 : decode cX5_put 101 = .ok (.iconst 4, 1) := dk_7 (dk_at dksX5_put_4 8 rfl rfl)
theorem dX5_put_102 : decode cX5_put 102 = .ok (.iadd, 1) := dk_96 (dk_at dksX5_put_4 9 rfl rfl)
theorem dX5_put_103 : decode cX5_put 103 = .ok (.iconst (-1), 1) := dk_2 (dk_at dksX5_put_4 10 rfl rfl)
theorem dX5_put_104 : decode cX5_put 104 = .ok (.iastore, 1) := dk_79 (dk_at dksX5_put_4 11 rfl rfl)
theorem dX5_put_105 : decode cX5_put 105 = .ok (.aload_n 0, 1) := dk_42 (dk_at dksX5_put_4 12 rfl rfl)
theorem dX5_put_106 : decode cX5_put 106 = .ok (.dup, 1) := dk_89 (dk_at dksX5_put_4 13 rfl rfl)
theorem dX5_put_107 : decode cX5_put 107 = .ok (.getfield 19, 3) := dk_180 0 19 (dk_at dksX5_put_4 14 rfl rfl)
theorem dX5_put_110 : decode cX5_put 110 = .ok (.iconst 5, 1) := dk_8 (dk_at dksX5_put_4 17 rfl rfl)
theorem dX5_put_111 : decode cX5_put 111 = .ok (.iadd, 1) := dk_96 (dk_at dksX5_put_4 18 rfl rfl)
theorem dX5_put_112 : decode cX5_put 112 = .ok (.putfield 19, 3) := dk_181 0 19 (dk_at dksX5_put_4 19 rfl rfl)
theorem dX5_put_115 : decode cX5_put 115 = .ok (.aload_n 0, 1) := dk_42 (dk_at dksX5_put_4 22 rfl rfl)
theorem dX5_put_116 : decode cX5_put 116 = .ok (.getfield 19, 3) := dk_180 0 19 (dk_at dksX5_put_5 0 rfl rfl)
theorem dX5_put_119 : decode cX5_put 119 = .ok (.iconst 5, 1) := dk_8 (dk_at dksX5_put_5 3 rfl rfl)
theorem dX5_put_120 : decode cX5_put 120 = .ok (.isub, 1) := dk_100 (dk_at dksX5_put_5 4 rfl rfl)
theorem dX5_put_121 : decode cX5_put 121 = .ok (.ireturn, 1) := dk_172 (dk_at dksX5_put_5 5 rfl rfl)
abbrev cX5_writeAll : ByteArray := prog_3_method_6_code
def yX5_writeAll : MethodName := ⟨RX5, "writeAll", "([LPatternforge$Pattern;II)V"⟩
def dkwX5_writeAll_1 : List UInt8 := [182, 0, 65, 132, 4, 1, 167, 255, 230, 177]
abbrev dktX5_writeAll_1 : List UInt8 := dkwX5_writeAll_1 ++ []
def dkwX5_writeAll_0 : List UInt8 := [3, 54, 4, 21, 4, 43, 190, 162, 0, 25, 42, 43, 21, 4, 50, 28, 29, 21, 4, 96, 184, 0, 127]
abbrev dktX5_writeAll_0 : List UInt8 := dkwX5_writeAll_0 ++ dktX5_writeAll_1
theorem dksX5_writeAll_0 : cX5_writeAll.data.toList.drop 0 = dktX5_writeAll_0 := by decide +kernel
theorem dksX5_writeAll_1 : cX5_writeAll.data.toList.drop 23 = dktX5_writeAll_1 := dk_seg dksX5_writeAll_0 23 rfl rfl
theorem dX5_writeAll_0 : decode cX5_writeAll 0 = .ok (.iconst 0, 1) := dk_3 (dk_at dksX5_writeAll_0 0 rfl rfl)
theorem dX5_writeAll_1 : decode cX5_writeAll 1 = .ok (.istore 4, 2) := dk_54 4 (dk_at dksX5_writeAll_0 1 rfl rfl)
theorem dX5_writeAll_3 : decode cX5_writeAll 3 = .ok (.iload 4, 2) := dk_21 4 (dk_at dksX5_writeAll_0 3 rfl rfl)
theorem dX5_writeAll_5 : decode cX5_writeAll 5 = .ok (.aload_n 1, 1) := dk_43 (dk_at dksX5_writeAll_0 5 rfl rfl)
theorem dX5_writeAll_6 : decode cX5_writeAll 6 = .ok (.arraylength, 1) := dk_190 (dk_at dksX5_writeAll_0 6 rfl rfl)
theorem dX5_writeAll_7 : decode cX5_writeAll 7 = .ok (.if_icmp .ge 25, 3) := dk_162 0 25 (dk_at dksX5_writeAll_0 7 rfl rfl)
theorem dX5_writeAll_10 : decode cX5_writeAll 10 = .ok (.aload_n 0, 1) := dk_42 (dk_at dksX5_writeAll_0 10 rfl rfl)
theorem dX5_writeAll_11 : decode cX5_writeAll 11 = .ok (.aload_n 1, 1) := dk_43 (dk_at dksX5_writeAll_0 11 rfl rfl)
theorem dX5_writeAll_12 : decode cX5_writeAll 12 = .ok (.iload 4, 2) := dk_21 4 (dk_at dksX5_writeAll_0 12 rfl rfl)
theorem dX5_writeAll_14 : decode cX5_writeAll 14 = .ok (.aaload, 1) := dk_50 (dk_at dksX5_writeAll_0 14 rfl rfl)
theorem dX5_writeAll_15 : decode cX5_writeAll 15 = .ok (.iload_n 2, 1) := dk_28 (dk_at dksX5_writeAll_0 15 rfl rfl)
theorem dX5_writeAll_16 : decode cX5_writeAll 16 = .ok (.iload_n 3, 1) := dk_29 (dk_at dksX5_writeAll_0 16 rfl rfl)
theorem dX5_writeAll_17 : decode cX5_writeAll 17 = .ok (.iload 4, 2) := dk_21 4 (dk_at dksX5_writeAll_0 17 rfl rfl)
theorem dX5_writeAll_19 : decode cX5_writeAll 19 = .ok (.iadd, 1) := dk_96 (dk_at dksX5_writeAll_0 19 rfl rfl)
theorem dX5_writeAll_20 : decode cX5_writeAll 20 = .ok (.invokestatic 127, 3) := dk_184 0 127 (dk_at dksX5_writeAll_0 20 rfl rfl)
theorem dX5_writeAll_23 : decode cX5_writeAll 23 = .ok (.invokevirtual 65, 3) := dk_182 0 65 (dk_at dksX5_writeAll_1 0 rfl rfl)
theorem dX5_writeAll_26 : decode cX5_writeAll 26 = .ok (.iinc 4 1, 3) := dk_132 4 1 (dk_at dksX5_writeAll_1 3 rfl rfl)
theorem dX5_writeAll_29 : decode cX5_writeAll 29 = .ok (.goto (-26), 3) := dk_167 255 230 (dk_at dksX5_writeAll_1 6 rfl rfl)
theorem dX5_writeAll_32 : decode cX5_writeAll 32 = .ok (.return_, 1) := dk_177 (dk_at dksX5_writeAll_1 9 rfl rfl)
abbrev cX5_lead : ByteArray := prog_3_method_4_code
def yX5_lead : MethodName := ⟨RX5, "lead", "(II)V"⟩
def dkwX5_lead_2 : List UInt8 := [7, 96, 46, 79, 132, 3, 5, 167, 255, 203, 177]
abbrev dktX5_lead_2 : List UInt8 := dkwX5_lead_2 ++ []
def dkwX5_lead_1 : List UInt8 := [46, 2, 160, 0, 17, 42, 180, 0, 15, 29, 46, 8, 159, 0, 7, 28, 167, 0, 11, 42, 180, 0, 15, 29]
abbrev dktX5_lead_1 : List UInt8 := dkwX5_lead_1 ++ dktX5_lead_2
def dkwX5_lead_0 : List UInt8 := [27, 62, 29, 42, 180, 0, 19, 162, 0, 51, 42, 180, 0, 15, 29, 7, 96, 42, 180, 0, 15, 29, 7, 96]
abbrev dktX5_lead_0 : List UInt8 := dkwX5_lead_0 ++ dktX5_lead_1
theorem dksX5_lead_0 : cX5_lead.data.toList.drop 0 = dktX5_lead_0 := by decide +kernel
theorem dksX5_lead_1 : cX5_lead.data.toList.drop 24 = dktX5_lead_1 := dk_seg dksX5_lead_0 24 rfl rfl
theorem dksX5_lead_2 : cX5_lead.data.toList.drop 48 = dktX5_lead_2 := dk_seg dksX5_lead_1 24 rfl rfl
theorem dX5_lead_0 : decode cX5_lead 0 = .ok (.iload_n 1, 1) := dk_27 (dk_at dksX5_lead_0 0 rfl rfl)
theorem dX5_lead_1 : decode cX5_lead 1 = .ok (.istore_n 3, 1) := dk_62 (dk_at dksX5_lead_0 1 rfl rfl)
theorem dX5_lead_2 : decode cX5_lead 2 = .ok (.iload_n 3, 1) := dk_29 (dk_at dksX5_lead_0 2 rfl rfl)
theorem dX5_lead_3 : decode cX5_lead 3 = .ok (.aload_n 0, 1) := dk_42 (dk_at dksX5_lead_0 3 rfl rfl)
theorem dX5_lead_4 : decode cX5_lead 4 = .ok (.getfield 19, 3) := dk_180 0 19 (dk_at dksX5_lead_0 4 rfl rfl)
theorem dX5_lead_7 : decode cX5_lead 7 = .ok (.if_icmp .ge 51, 3) := dk_162 0 51 (dk_at dksX5_lead_0 7 rfl rfl)
theorem dX5_lead_10 : decode cX5_lead 10 = .ok (.aload_n 0, 1) := dk_42 (dk_at dksX5_lead_0 10 rfl rfl)
theorem dX5_lead_11 : decode cX5_lead 11 = .ok (.getfield 15, 3) := dk_180 0 15 (dk_at dksX5_lead_0 11 rfl rfl)
theorem dX5_lead_14 : decode cX5_lead 14 = .ok (.iload_n 3, 1) := dk_29 (dk_at dksX5_lead_0 14 rfl rfl)
theorem dX5_lead_15 : decode cX5_lead 15 = .ok (.iconst 4, 1) := dk_7 (dk_at dksX5_lead_0 15 rfl rfl)
theorem dX5_lead_16 : decode cX5_lead 16 = .ok (.iadd, 1) := dk_96 (dk_at dksX5_lead_0 16 rfl rfl)
theorem dX5_lead_17 : decode cX5_lead 17 = .ok (.aload_n 0, 1) := dk_42 (dk_at dksX5_lead_0 17 rfl rfl)
theorem dX5_lead_18 : decode cX5_lead 18 = .ok (.getfield 15, 3) := dk_180 0 15 (dk_at dksX5_lead_0 18 rfl rfl)
theorem dX5_lead_21 : decode cX5_lead 21 = .ok (.iload_n 3, 1) := dk_29 (dk_at dksX5_lead_0 21 rfl rfl)
theorem dX5_lead_22 : decode cX5_lead 22 = .ok (.iconst 4, 1) := dk_7 (dk_at dksX5_lead_0 22 rfl rfl)
theorem dX5_lead_23 : decode cX5_lead 23 = .ok (.iadd, 1) := dk_96 (dk_at dksX5_lead_0 23 rfl rfl)
theorem dX5_lead_24 : decode cX5_lead 24 = .ok (.iaload, 1) := dk_46 (dk_at dksX5_lead_1 0 rfl rfl)
theorem dX5_lead_25 : decode cX5_lead 25 = .ok (.iconst (-1), 1) := dk_2 (dk_at dksX5_lead_1 1 rfl rfl)
theorem dX5_lead_26 : decode cX5_lead 26 = .ok (.if_icmp .ne 17, 3) := dk_160 0 17 (dk_at dksX5_lead_1 2 rfl rfl)
theorem dX5_lead_29 : decode cX5_lead 29 = .ok (.aload_n 0, 1) := dk_42 (dk_at dksX5_lead_1 5 rfl rfl)
theorem dX5_lead_30 : decode cX5_lead 30 = .ok (.getfield 15, 3) := dk_180 0 15 (dk_at dksX5_lead_1 6 rfl rfl)
theorem dX5_lead_33 : decode cX5_lead 33 = .ok (.iload_n 3, 1) := dk_29 (dk_at dksX5_lead_1 9 rfl rfl)
theorem dX5_lead_34 : decode cX5_lead 34 = .ok (.iaload, 1) := dk_46 (dk_at dksX5_lead_1 10 rfl rfl)
theorem dX5_lead_35 : decode cX5_lead 35 = .ok (.iconst 5, 1) := dk_8 (dk_at dksX5_lead_1 11 rfl rfl)
theorem dX5_lead_36 : decode cX5_lead 36 = .ok (.if_icmp .eq 7, 3) := dk_159 0 7 (dk_at dksX5_lead_1 12 rfl rfl)
theorem dX5_lead_39 : decode cX5_lead 39 = .ok (.iload_n 2, 1) := dk_28 (dk_at dksX5_lead_1 15 rfl rfl)
theorem dX5_lead_40 : decode cX5_lead 40 = .ok (.goto 11, 3) := dk_167 0 11 (dk_at dksX5_lead_1 16 rfl rfl)
theorem dX5_lead_43 : decode cX5_lead 43 = .ok (.aload_n 0, 1) := dk_42 (dk_at dksX5_lead_1 19 rfl rfl)
theorem dX5_lead_44 : decode cX5_lead 44 = .ok (.getfield 15, 3) := dk_180 0 15 (dk_at dksX5_lead_1 20 rfl rfl)
theorem dX5_lead_47 : decode cX5_lead 47 = .ok (.iload_n 3, 1) := dk_29 (dk_at dksX5_lead_1 23 rfl rfl)
theorem dX5_lead_48 : decode cX5_lead 48 = .ok (.iconst 4, 1) := dk_7 (dk_at dksX5_lead_2 0 rfl rfl)
theorem dX5_lead_49 : decode cX5_lead 49 = .ok (.iadd, 1) := dk_96 (dk_at dksX5_lead_2 1 rfl rfl)
theorem dX5_lead_50 : decode cX5_lead 50 = .ok (.iaload, 1) := dk_46 (dk_at dksX5_lead_2 2 rfl rfl)
theorem dX5_lead_51 : decode cX5_lead 51 = .ok (.iastore, 1) := dk_79 (dk_at dksX5_lead_2 3 rfl rfl)
theorem dX5_lead_52 : decode cX5_lead 52 = .ok (.iinc 3 5, 3) := dk_132 3 5 (dk_at dksX5_lead_2 4 rfl rfl)
theorem dX5_lead_55 : decode cX5_lead 55 = .ok (.goto (-53), 3) := dk_167 255 203 (dk_at dksX5_lead_2 7 rfl rfl)
theorem dX5_lead_58 : decode cX5_lead 58 = .ok (.return_, 1) := dk_177 (dk_at dksX5_lead_2 10 rfl rfl)
abbrev cX5_writeGiven : ByteArray := prog_3_method_7_code
def yX5_writeGiven : MethodName := ⟨RX5, "writeGiven", "(LPatternforge$Pattern;)V"⟩
def dkwX5_writeGiven_4 : List UInt8 := [180, 0, 19, 79, 177]
abbrev dktX5_writeGiven_4 : List UInt8 := dkwX5_writeGiven_4 ++ []
def dkwX5_writeGiven_3 : List UInt8 := [180, 0, 19, 182, 0, 73, 42, 45, 182, 0, 108, 182, 0, 117, 42, 180, 0, 15, 21, 5, 7, 96, 42]
abbrev dktX5_writeGiven_3 : List UInt8 := dkwX5_writeGiven_3 ++ dktX5_writeGiven_4
def dkwX5_writeGiven_2 : List UInt8 := [54, 4, 42, 45, 182, 0, 105, 182, 0, 117, 42, 8, 3, 3, 3, 182, 0, 69, 54, 5, 42, 21, 4, 42]
abbrev dktX5_writeGiven_2 : List UInt8 := dkwX5_writeGiven_2 ++ dktX5_writeGiven_3
def dkwX5_writeGiven_1 : List UInt8 := [182, 0, 69, 87, 167, 0, 70, 43, 193, 0, 103, 153, 0, 63, 43, 192, 0, 103, 78, 42, 180, 0, 19]
abbrev dktX5_writeGiven_1 : List UInt8 := dkwX5_writeGiven_1 ++ dktX5_writeGiven_2
def dkwX5_writeGiven_0 : List UInt8 := [43, 193, 0, 82, 153, 0, 26, 43, 192, 0, 82, 77, 42, 7, 44, 182, 0, 84, 44, 182, 0, 87, 3]
abbrev dktX5_writeGiven_0 : List UInt8 := dkwX5_writeGiven_0 ++ dktX5_writeGiven_1
theorem dksX5_writeGiven_0 : cX5_writeGiven.data.toList.drop 0 = dktX5_writeGiven_0 := by decide +kernel
theorem dksX5_writeGiven_1 : cX5_writeGiven.data.toList.drop 23 = dktX5_writeGiven_1 := dk_seg dksX5_writeGiven_0 23 rfl rfl
theorem dksX5_writeGiven_2 : cX5_writeGiven.data.toList.drop 46 = dktX5_writeGiven_2 := dk_seg dksX5_writeGiven_1 23 rfl rfl
theorem dksX5_writeGiven_3 : cX5_writeGiven.data.toList.drop 70 = dktX5_writeGiven_3 := dk_seg dksX5_writeGiven_2 24 rfl rfl
theorem dksX5_writeGiven_4 : cX5_writeGiven.data.toList.drop 93 = dktX5_writeGiven_4 := dk_seg dksX5_writeGiven_3 23 rfl rfl
theorem dX5_writeGiven_0 : decode cX5_writeGiven 0 = .ok (.aload_n 1, 1) := dk_43 (dk_at dksX5_writeGiven_0 0 rfl rfl)
theorem dX5_writeGiven_1 : decode cX5_writeGiven 1 = .ok (.instanceof 82, 3) := dk_193 0 82 (dk_at dksX5_writeGiven_0 1 rfl rfl)
theorem dX5_writeGiven_4 : decode cX5_writeGiven 4 = .ok (.ifCond .eq 26, 3) := dk_153 0 26 (dk_at dksX5_writeGiven_0 4 rfl rfl)
theorem dX5_writeGiven_7 : decode cX5_writeGiven 7 = .ok (.aload_n 1, 1) := dk_43 (dk_at dksX5_writeGiven_0 7 rfl rfl)
theorem dX5_writeGiven_8 : decode cX5_writeGiven 8 = .ok (.checkcast 82, 3) := dk_192 0 82 (dk_at dksX5_writeGiven_0 8 rfl rfl)
theorem dX5_writeGiven_11 : decode cX5_writeGiven 11 = .ok (.astore_n 2, 1) := dk_77 (dk_at dksX5_writeGiven_0 11 rfl rfl)
theorem dX5_writeGiven_12 : decode cX5_writeGiven 12 = .ok (.aload_n 0, 1) := dk_42 (dk_at dksX5_writeGiven_0 12 rfl rfl)
theorem dX5_writeGiven_13 : decode cX5_writeGiven 13 = .ok (.iconst 4, 1) := dk_7 (dk_at dksX5_writeGiven_0 13 rfl rfl)
theorem dX5_writeGiven_14 : decode cX5_writeGiven 14 = .ok (.aload_n 2, 1) := dk_44 (dk_at dksX5_writeGiven_0 14 rfl rfl)
theorem dX5_writeGiven_15 : decode cX5_writeGiven 15 = .ok (.invokevirtual 84, 3) := dk_182 0 84 (dk_at dksX5_writeGiven_0 15 rfl rfl)
theorem dX5_writeGiven_18 : decode cX5_writeGiven 18 = .ok (.aload_n 2, 1) := dk_44 (dk_at dksX5_writeGiven_0 18 rfl rfl)
theorem dX5_writeGiven_19 : decode cX5_writeGiven 19 = .ok (.invokevirtual 87, 3) := dk_182 0 87 (dk_at dksX5_writeGiven_0 19 rfl rfl)
theorem dX5_writeGiven_22 : decode cX5_writeGiven 22 = .ok (.iconst 0, 1) := dk_3 (dk_at dksX5_writeGiven_0 22 rfl rfl)
theorem dX5_writeGiven_23 : decode cX5_writeGiven 23 = .ok (.invokevirtual 69, 3) := dk_182 0 69 (dk_at dksX5_writeGiven_1 0 rfl rfl)
theorem dX5_writeGiven_26 : decode cX5_writeGiven 26 = .ok (.pop, 1) := dk_87 (dk_at dksX5_writeGiven_1 3 rfl rfl)
theorem dX5_writeGiven_27 : decode cX5_writeGiven 27 = .ok (.goto 70, 3) := dk_167 0 70 (dk_at dksX5_writeGiven_1 4 rfl rfl)
theorem dX5_writeGiven_30 : decode cX5_writeGiven 30 = .ok (.aload_n 1, 1) := dk_43 (dk_at dksX5_writeGiven_1 7 rfl rfl)
theorem dX5_writeGiven_31 : decode cX5_writeGiven 31 = .ok (.instanceof 103, 3) := dk_193 0 103 (dk_at dksX5_writeGiven_1 8 rfl rfl)
theorem dX5_writeGiven_34 : decode cX5_writeGiven 34 = .ok (.ifCond .eq 63, 3) := dk_153 0 63 (dk_at dksX5_writeGiven_1 11 rfl rfl)
theorem dX5_writeGiven_37 : decode cX5_writeGiven 37 = .ok (.aload_n 1, 1) := dk_43 (dk_at dksX5_writeGiven_1 14 rfl rfl)
theorem dX5_writeGiven_38 : decode cX5_writeGiven 38 = .ok (.checkcast 103, 3) := dk_192 0 103 (dk_at dksX5_writeGiven_1 15 rfl rfl)
theorem dX5_writeGiven_41 : decode cX5_writeGiven 41 = .ok (.astore_n 3, 1) := dk_78 (dk_at dksX5_writeGiven_1 18 rfl rfl)
theorem dX5_writeGiven_42 : decode cX5_writeGiven 42 = .ok (.aload_n 0, 1) := dk_42 (dk_at dksX5_writeGiven_1 19 rfl rfl)
theorem dX5_writeGiven_43 : decode cX5_writeGiven 43 = .ok (.getfield 19, 3) := dk_180 0 19 (dk_at dksX5_writeGiven_1 20 rfl rfl)
theorem dX5_writeGiven_46 : decode cX5_writeGiven 46 = .ok (.istore 4, 2) := dk_54 4 (dk_at dksX5_writeGiven_2 0 rfl rfl)
theorem dX5_writeGiven_48 : decode cX5_writeGiven 48 = .ok (.aload_n 0, 1) := dk_42 (dk_at dksX5_writeGiven_2 2 rfl rfl)
theorem dX5_writeGiven_49 : decode cX5_writeGiven 49 = .ok (.aload_n 3, 1) := dk_45 (dk_at dksX5_writeGiven_2 3 rfl rfl)
theorem dX5_writeGiven_50 : decode cX5_writeGiven 50 = .ok (.invokevirtual 105, 3) := dk_182 0 105 (dk_at dksX5_writeGiven_2 4 rfl rfl)
theorem dX5_writeGiven_53 : decode cX5_writeGiven 53 = .ok (.invokevirtual 117, 3) := dk_182 0 117 (dk_at dksX5_writeGiven_2 7 rfl rfl)
theorem dX5_writeGiven_56 : decode cX5_writeGiven 56 = .ok (.aload_n 0, 1) := dk_42 (dk_at dksX5_writeGiven_2 10 rfl rfl)
theorem dX5_writeGiven_57 : decode cX5_writeGiven 57 = .ok (.iconst 5, 1) := dk_8 (dk_at dksX5_writeGiven_2 11 rfl rfl)
theorem dX5_writeGiven_58 : decode cX5_writeGiven 58 = .ok (.iconst 0, 1) := dk_3 (dk_at dksX5_writeGiven_2 12 rfl rfl)
theorem dX5_writeGiven_59 : decode cX5_writeGiven 59 = .ok (.iconst 0, 1) := dk_3 (dk_at dksX5_writeGiven_2 13 rfl rfl)
theorem dX5_writeGiven_60 : decode cX5_writeGiven 60 = .ok (.iconst 0, 1) := dk_3 (dk_at dksX5_writeGiven_2 14 rfl rfl)
theorem dX5_writeGiven_61 : decode cX5_writeGiven 61 = .ok (.invokevirtual 69, 3) := dk_182 0 69 (dk_at dksX5_writeGiven_2 15 rfl rfl)
theorem dX5_writeGiven_64 : decode cX5_writeGiven 64 = .ok (.istore 5, 2) := dk_54 5 (dk_at dksX5_writeGiven_2 18 rfl rfl)
theorem dX5_writeGiven_66 : decode cX5_writeGiven 66 = .ok (.aload_n 0, 1) := dk_42 (dk_at dksX5_writeGiven_2 20 rfl rfl)
theorem dX5_writeGiven_67 : decode cX5_writeGiven 67 = .ok (.iload 4, 2) := dk_21 4 (dk_at dksX5_writeGiven_2 21 rfl rfl)
theorem dX5_writeGiven_69 : decode cX5_writeGiven 69 = .ok (.aload_n 0, 1) := dk_42 (dk_at dksX5_writeGiven_2 23 rfl rfl)
theorem dX5_writeGiven_70 : decode cX5_writeGiven 70 = .ok (.getfield 19, 3) := dk_180 0 19 (dk_at dksX5_writeGiven_3 0 rfl rfl)
theorem dX5_writeGiven_73 : decode cX5_writeGiven 73 = .ok (.invokevirtual 73, 3) := dk_182 0 73 (dk_at dksX5_writeGiven_3 3 rfl rfl)
theorem dX5_writeGiven_76 : decode cX5_writeGiven 76 = .ok (.aload_n 0, 1) := dk_42 (dk_at dksX5_writeGiven_3 6 rfl rfl)
theorem dX5_writeGiven_77 : decode cX5_writeGiven 77 = .ok (.aload_n 3, 1) := dk_45 (dk_at dksX5_writeGiven_3 7 rfl rfl)
theorem dX5_writeGiven_78 : decode cX5_writeGiven 78 = .ok (.invokevirtual 108, 3) := dk_182 0 108 (dk_at dksX5_writeGiven_3 8 rfl rfl)
theorem dX5_writeGiven_81 : decode cX5_writeGiven 81 = .ok (.invokevirtual 117, 3) := dk_182 0 117 (dk_at dksX5_writeGiven_3 11 rfl rfl)
theorem dX5_writeGiven_84 : decode cX5_writeGiven 84 = .ok (.aload_n 0, 1) := dk_42 (dk_at dksX5_writeGiven_3 14 rfl rfl)
theorem dX5_writeGiven_85 : decode cX5_writeGiven 85 = .ok (.getfield 15, 3) := dk_180 0 15 (dk_at dksX5_writeGiven_3 15 rfl rfl)
theorem dX5_writeGiven_88 : decode cX5_writeGiven 88 = .ok (.iload 5, 2) := dk_21 5 (dk_at dksX5_writeGiven_3 18 rfl rfl)
theorem dX5_writeGiven_90 : decode cX5_writeGiven 90 = .ok (.iconst 4, 1) := dk_7 (dk_at dksX5_writeGiven_3 20 rfl rfl)
theorem dX5_writeGiven_91 : decode cX5_writeGiven 91 = .ok (.iadd, 1) := dk_96 (dk_at dksX5_writeGiven_3 21 rfl rfl)
theorem dX5_writeGiven_92 : decode cX5_writeGiven 92 = .ok (.aload_n 0, 1) := dk_42 (dk_at dksX5_writeGiven_3 22 rfl rfl)
theorem dX5_writeGiven_93 : decode cX5_writeGiven 93 = .ok (.getfield 19, 3) := dk_180 0 19 (dk_at dksX5_writeGiven_4 0 rfl rfl)
theorem dX5_writeGiven_96 : decode cX5_writeGiven 96 = .ok (.iastore, 1) := dk_79 (dk_at dksX5_writeGiven_4 3 rfl rfl)
theorem dX5_writeGiven_97 : decode cX5_writeGiven 97 = .ok (.return_, 1) := dk_177 (dk_at dksX5_writeGiven_4 4 rfl rfl)
abbrev cX5_writeList : ByteArray := prog_3_method_8_code
def yX5_writeList : MethodName := ⟨RX5, "writeList", "(LPatternforge$Listed;I)V"⟩
def dkwX5_writeList_6 : List UInt8 := [180, 0, 19, 79, 132, 5, 1, 167, 255, 231, 177]
abbrev dktX5_writeList_6 : List UInt8 := dkwX5_writeList_6 ++ []
def dkwX5_writeList_5 : List UInt8 := [167, 255, 194, 29, 54, 5, 21, 5, 6, 163, 0, 25, 42, 180, 0, 15, 25, 4, 21, 5, 46, 7, 96, 42]
abbrev dktX5_writeList_5 : List UInt8 := dkwX5_writeList_5 ++ dktX5_writeList_6
def dkwX5_writeList_4 : List UInt8 := [3, 3, 182, 0, 69, 79, 42, 180, 0, 15, 21, 6, 7, 96, 42, 180, 0, 19, 79, 132, 5, 1]
abbrev dktX5_writeList_4 : List UInt8 := dkwX5_writeList_4 ++ dktX5_writeList_5
def dkwX5_writeList_3 : List UInt8 := [54, 6, 42, 43, 182, 0, 131, 28, 43, 21, 5, 182, 0, 137, 182, 0, 99, 25, 4, 21, 5, 42, 8, 3]
abbrev dktX5_writeList_3 : List UInt8 := dkwX5_writeList_3 ++ dktX5_writeList_4
def dkwX5_writeList_2 : List UInt8 := [188, 10, 58, 4, 29, 54, 5, 21, 5, 6, 163, 0, 62, 42, 16, 7, 28, 21, 5, 3, 182, 0, 69]
abbrev dktX5_writeList_2 : List UInt8 := dkwX5_writeList_2 ++ dktX5_writeList_3
def dkwX5_writeList_1 : List UInt8 := [182, 0, 69, 87, 43, 182, 0, 134, 5, 159, 0, 14, 42, 43, 182, 0, 131, 28, 3, 182, 0, 99, 177, 7]
abbrev dktX5_writeList_1 : List UInt8 := dkwX5_writeList_1 ++ dktX5_writeList_2
def dkwX5_writeList_0 : List UInt8 := [43, 182, 0, 131, 190, 62, 42, 5, 28, 29, 43, 182, 0, 134, 154, 0, 7, 29, 167, 0, 4, 6]
abbrev dktX5_writeList_0 : List UInt8 := dkwX5_writeList_0 ++ dktX5_writeList_1
theorem dksX5_writeList_0 : cX5_writeList.data.toList.drop 0 = dktX5_writeList_0 := by decide +kernel
theorem dksX5_writeList_1 : cX5_writeList.data.toList.drop 22 = dktX5_writeList_1 := dk_seg dksX5_writeList_0 22 rfl rfl
theorem dksX5_writeList_2 : cX5_writeList.data.toList.drop 46 = dktX5_writeList_2 := dk_seg dksX5_writeList_1 24 rfl rfl
theorem dksX5_writeList_3 : cX5_writeList.data.toList.drop 69 = dktX5_writeList_3 := dk_seg dksX5_writeList_2 23 rfl rfl
theorem dksX5_writeList_4 : cX5_writeList.data.toList.drop 93 = dktX5_writeList_4 := dk_seg dksX5_writeList_3 24 rfl rfl
theorem dksX5_writeList_5 : cX5_writeList.data.toList.drop 115 = dktX5_writeList_5 := dk_seg dksX5_writeList_4 22 rfl rfl
theorem dksX5_writeList_6 : cX5_writeList.data.toList.drop 139 = dktX5_writeList_6 := dk_seg dksX5_writeList_5 24 rfl rfl
theorem dX5_writeList_0 : decode cX5_writeList 0 = .ok (.aload_n 1, 1) := dk_43 (dk_at dksX5_writeList_0 0 rfl rfl)
theorem dX5_writeList_1 : decode cX5_writeList 1 = .ok (.invokevirtual 131, 3) := dk_182 0 131 (dk_at dksX5_writeList_0 1 rfl rfl)
theorem dX5_writeList_4 : decode cX5_writeList 4 = .ok (.arraylength, 1) := dk_190 (dk_at dksX5_writeList_0 4 rfl rfl)
theorem dX5_writeList_5 : decode cX5_writeList 5 = .ok (.istore_n 3, 1) := dk_62 (dk_at dksX5_writeList_0 5 rfl rfl)
theorem dX5_writeList_6 : decode cX5_writeList 6 = .ok (.aload_n 0, 1) := dk_42 (dk_at dksX5_writeList_0 6 rfl rfl)
theorem dX5_writeList_7 : decode cX5_writeList 7 = .ok (.iconst 2, 1) := dk_5 (dk_at dksX5_writeList_0 7 rfl rfl)
theorem dX5_writeList_8 : decode cX5_writeList 8 = .ok (.iload_n 2, 1) := dk_28 (dk_at dksX5_writeList_0 8 rfl rfl)
theorem dX5_writeList_9 : decode cX5_writeList 9 = .ok (.iload_n 3, 1) := dk_29 (dk_at dksX5_writeList_0 9 rfl rfl)
theorem dX5_writeList_10 : decode cX5_writeList 10 = .ok (.aload_n 1, 1) := dk_43 (dk_at dksX5_writeList_0 10 rfl rfl)
theorem dX5_writeList_11 : decode cX5_writeList 11 = .ok (.invokevirtual 134, 3) := dk_182 0 134 (dk_at dksX5_writeList_0 11 rfl rfl)
theorem dX5_writeList_14 : decode cX5_writeList 14 = .ok (.ifCond .ne 7, 3) := dk_154 0 7 (dk_at dksX5_writeList_0 14 rfl rfl)
theorem dX5_writeList_17 : decode cX5_writeList 17 = .ok (.iload_n 3, 1) := dk_29 (dk_at dksX5_writeList_0 17 rfl rfl)
theorem dX5_writeList_18 : decode cX5_writeList 18 = .ok (.goto 4, 3) := dk_167 0 4 (dk_at dksX5_writeList_0 18 rfl rfl)
theorem dX5_writeList_21 : decode cX5_writeList 21 = .ok (.iconst 3, 1) := dk_6 (dk_at dksX5_writeList_0 21 rfl rfl)
theorem dX5_writeList_22 : decode cX5_writeList 22 = .ok (.invokevirtual 69, 3) := dk_182 0 69 (dk_at dksX5_writeList_1 0 rfl rfl)
theorem dX5_writeList_25 : decode cX5_writeList 25 = .ok (.pop, 1) := dk_87 (dk_at dksX5_writeList_1 3 rfl rfl)
theorem dX5_writeList_26 : decode cX5_writeList 26 = .ok (.aload_n 1, 1) := dk_43 (dk_at dksX5_writeList_1 4 rfl rfl)
theorem dX5_writeList_27 : decode cX5_writeList 27 = .ok (.invokevirtual 134, 3) := dk_182 0 134 (dk_at dksX5_writeList_1 5 rfl rfl)
theorem dX5_writeList_30 : decode cX5_writeList 30 = .ok (.iconst 2, 1) := dk_5 (dk_at dksX5_writeList_1 8 rfl rfl)
theorem dX5_writeList_31 : decode cX5_writeList 31 = .ok (.if_icmp .eq 14, 3) := dk_159 0 14 (dk_at dksX5_writeList_1 9 rfl rfl)
theorem dX5_writeList_34 : decode cX5_writeList 34 = .ok (.aload_n 0, 1) := dk_42 (dk_at dksX5_writeList_1 12 rfl rfl)
theorem dX5_writeList_35 : decode cX5_writeList 35 = .ok (.aload_n 1, 1) := dk_43 (dk_at dksX5_writeList_1 13 rfl rfl)
theorem dX5_writeList_36 : decode cX5_writeList 36 = .ok (.invokevirtual 131, 3) := dk_182 0 131 (dk_at dksX5_writeList_1 14 rfl rfl)
theorem dX5_writeList_39 : decode cX5_writeList 39 = .ok (.iload_n 2, 1) := dk_28 (dk_at dksX5_writeList_1 17 rfl rfl)
theorem dX5_writeList_40 : decode cX5_writeList 40 = .ok (.iconst 0, 1) := dk_3 (dk_at dksX5_writeList_1 18 rfl rfl)
theorem dX5_writeList_41 : decode cX5_writeList 41 = .ok (.invokevirtual 99, 3) := dk_182 0 99 (dk_at dksX5_writeList_1 19 rfl rfl)
theorem dX5_writeList_44 : decode cX5_writeList 44 = .ok (.return_, 1) := dk_177 (dk_at dksX5_writeList_1 22 rfl rfl)
theorem dX5_writeList_45 : decode cX5_writeList 45 = .ok (.iconst 4, 1) := dk_7 (dk_at dksX5_writeList_1 23 rfl rfl)
theorem dX5_writeList_46 : decode cX5_writeList 46 = .ok (.newarray .int, 2) := dk_188_10 (dk_at dksX5_writeList_2 0 rfl rfl)
theorem dX5_writeList_48 : decode cX5_writeList 48 = .ok (.astore 4, 2) := dk_58 4 (dk_at dksX5_writeList_2 2 rfl rfl)
theorem dX5_writeList_50 : decode cX5_writeList 50 = .ok (.iload_n 3, 1) := dk_29 (dk_at dksX5_writeList_2 4 rfl rfl)
theorem dX5_writeList_51 : decode cX5_writeList 51 = .ok (.istore 5, 2) := dk_54 5 (dk_at dksX5_writeList_2 5 rfl rfl)
theorem dX5_writeList_53 : decode cX5_writeList 53 = .ok (.iload 5, 2) := dk_21 5 (dk_at dksX5_writeList_2 7 rfl rfl)
theorem dX5_writeList_55 : decode cX5_writeList 55 = .ok (.iconst 3, 1) := dk_6 (dk_at dksX5_writeList_2 9 rfl rfl)
theorem dX5_writeList_56 : decode cX5_writeList 56 = .ok (.if_icmp .gt 62, 3) := dk_163 0 62 (dk_at dksX5_writeList_2 10 rfl rfl)
theorem dX5_writeList_59 : decode cX5_writeList 59 = .ok (.aload_n 0, 1) := dk_42 (dk_at dksX5_writeList_2 13 rfl rfl)
theorem dX5_writeList_60 : decode cX5_writeList 60 = .ok (.bipush 7, 2) := dk_16 7 (dk_at dksX5_writeList_2 14 rfl rfl)
theorem dX5_writeList_62 : decode cX5_writeList 62 = .ok (.iload_n 2, 1) := dk_28 (dk_at dksX5_writeList_2 16 rfl rfl)
theorem dX5_writeList_63 : decode cX5_writeList 63 = .ok (.iload 5, 2) := dk_21 5 (dk_at dksX5_writeList_2 17 rfl rfl)
theorem dX5_writeList_65 : decode cX5_writeList 65 = .ok (.iconst 0, 1) := dk_3 (dk_at dksX5_writeList_2 19 rfl rfl)
theorem dX5_writeList_66 : decode cX5_writeList 66 = .ok (.invokevirtual 69, 3) := dk_182 0 69 (dk_at dksX5_writeList_2 20 rfl rfl)
theorem dX5_writeList_69 : decode cX5_writeList 69 = .ok (.istore 6, 2) := dk_54 6 (dk_at dksX5_writeList_3 0 rfl rfl)
theorem dX5_writeList_71 : decode cX5_writeList 71 = .ok (.aload_n 0, 1) := dk_42 (dk_at dksX5_writeList_3 2 rfl rfl)
theorem dX5_writeList_72 : decode cX5_writeList 72 = .ok (.aload_n 1, 1) := dk_43 (dk_at dksX5_writeList_3 3 rfl rfl)
theorem dX5_writeList_73 : decode cX5_writeList 73 = .ok (.invokevirtual 131, 3) := dk_182 0 131 (dk_at dksX5_writeList_3 4 rfl rfl)
theorem dX5_writeList_76 : decode cX5_writeList 76 = .ok (.iload_n 2, 1) := dk_28 (dk_at dksX5_writeList_3 7 rfl rfl)
theorem dX5_writeList_77 : decode cX5_writeList 77 = .ok (.aload_n 1, 1) := dk_43 (dk_at dksX5_writeList_3 8 rfl rfl)
theorem dX5_writeList_78 : decode cX5_writeList 78 = .ok (.iload 5, 2) := dk_21 5 (dk_at dksX5_writeList_3 9 rfl rfl)
theorem dX5_writeList_80 : decode cX5_writeList 80 = .ok (.invokevirtual 137, 3) := dk_182 0 137 (dk_at dksX5_writeList_3 11 rfl rfl)
theorem dX5_writeList_83 : decode cX5_writeList 83 = .ok (.invokevirtual 99, 3) := dk_182 0 99 (dk_at dksX5_writeList_3 14 rfl rfl)
theorem dX5_writeList_86 : decode cX5_writeList 86 = .ok (.aload 4, 2) := dk_25 4 (dk_at dksX5_writeList_3 17 rfl rfl)
theorem dX5_writeList_88 : decode cX5_writeList 88 = .ok (.iload 5, 2) := dk_21 5 (dk_at dksX5_writeList_3 19 rfl rfl)
theorem dX5_writeList_90 : decode cX5_writeList 90 = .ok (.aload_n 0, 1) := dk_42 (dk_at dksX5_writeList_3 21 rfl rfl)
theorem dX5_writeList_91 : decode cX5_writeList 91 = .ok (.iconst 5, 1) := dk_8 (dk_at dksX5_writeList_3 22 rfl rfl)
theorem dX5_writeList_92 : decode cX5_writeList 92 = .ok (.iconst 0, 1) := dk_3 (dk_at dksX5_writeList_3 23 rfl rfl)
theorem dX5_writeList_93 : decode cX5_writeList 93 = .ok (.iconst 0, 1) := dk_3 (dk_at dksX5_writeList_4 0 rfl rfl)
theorem dX5_writeList_94 : decode cX5_writeList 94 = .ok (.iconst 0, 1) := dk_3 (dk_at dksX5_writeList_4 1 rfl rfl)
theorem dX5_writeList_95 : decode cX5_writeList 95 = .ok (.invokevirtual 69, 3) := dk_182 0 69 (dk_at dksX5_writeList_4 2 rfl rfl)
theorem dX5_writeList_98 : decode cX5_writeList 98 = .ok (.iastore, 1) := dk_79 (dk_at dksX5_writeList_4 5 rfl rfl)
theorem dX5_writeList_99 : decode cX5_writeList 99 = .ok (.aload_n 0, 1) := dk_42 (dk_at dksX5_writeList_4 6 rfl rfl)
theorem dX5_writeList_100 : decode cX5_writeList 100 = .ok (.getfield 15, 3) := dk_180 0 15 (dk_at dksX5_writeList_4 7 rfl rfl)
theorem dX5_writeList_103 : decode cX5_writeList 103 = .ok (.iload 6, 2) := dk_21 6 (dk_at dksX5_writeList_4 10 rfl rfl)
theorem dX5_writeList_105 : decode cX5_writeList 105 = .ok (.iconst 4, 1) := dk_7 (dk_at dksX5_writeList_4 12 rfl rfl)
theorem dX5_writeList_106 : decode cX5_writeList 106 = .ok (.iadd, 1) := dk_96 (dk_at dksX5_writeList_4 13 rfl rfl)
theorem dX5_writeList_107 : decode cX5_writeList 107 = .ok (.aload_n 0, 1) := dk_42 (dk_at dksX5_writeList_4 14 rfl rfl)
theorem dX5_writeList_108 : decode cX5_writeList 108 = .ok (.getfield 19, 3) := dk_180 0 19 (dk_at dksX5_writeList_4 15 rfl rfl)
theorem dX5_writeList_111 : decode cX5_writeList 111 = .ok (.iastore, 1) := dk_79 (dk_at dksX5_writeList_4 18 rfl rfl)
theorem dX5_writeList_112 : decode cX5_writeList 112 = .ok (.iinc 5 1, 3) := dk_132 5 1 (dk_at dksX5_writeList_4 19 rfl rfl)
theorem dX5_writeList_115 : decode cX5_writeList 115 = .ok (.goto (-62), 3) := dk_167 255 194 (dk_at dksX5_writeList_5 0 rfl rfl)
theorem dX5_writeList_118 : decode cX5_writeList 118 = .ok (.iload_n 3, 1) := dk_29 (dk_at dksX5_writeList_5 3 rfl rfl)
theorem dX5_writeList_119 : decode cX5_writeList 119 = .ok (.istore 5, 2) := dk_54 5 (dk_at dksX5_writeList_5 4 rfl rfl)
theorem dX5_writeList_121 : decode cX5_writeList 121 = .ok (.iload 5, 2) := dk_21 5 (dk_at dksX5_writeList_5 6 rfl rfl)
theorem dX5_writeList_123 : decode cX5_writeList 123 = .ok (.iconst 3, 1) := dk_6 (dk_at dksX5_writeList_5 8 rfl rfl)
theorem dX5_writeList_124 : decode cX5_writeList 124 = .ok (.if_icmp .gt 25, 3) := dk_163 0 25 (dk_at dksX5_writeList_5 9 rfl rfl)
theorem dX5_writeList_127 : decode cX5_writeList 127 = .ok (.aload_n 0, 1) := dk_42 (dk_at dksX5_writeList_5 12 rfl rfl)
theorem dX5_writeList_128 : decode cX5_writeList 128 = .ok (.getfield 15, 3) := dk_180 0 15 (dk_at dksX5_writeList_5 13 rfl rfl)
theorem dX5_writeList_131 : decode cX5_writeList 131 = .ok (.aload 4, 2) := dk_25 4 (dk_at dksX5_writeList_5 16 rfl rfl)
theorem dX5_writeList_133 : decode cX5_writeList 133 = .ok (.iload 5, 2) := dk_21 5 (dk_at dksX5_writeList_5 18 rfl rfl)
theorem dX5_writeList_135 : decode cX5_writeList 135 = .ok (.iaload, 1) := dk_46 (dk_at dksX5_writeList_5 20 rfl rfl)
theorem dX5_writeList_136 : decode cX5_writeList 136 = .ok (.iconst 4, 1) := dk_7 (dk_at dksX5_writeList_5 21 rfl rfl)
theorem dX5_writeList_137 : decode cX5_writeList 137 = .ok (.iadd, 1) := dk_96 (dk_at dksX5_writeList_5 22 rfl rfl)
theorem dX5_writeList_138 : decode cX5_writeList 138 = .ok (.aload_n 0, 1) := dk_42 (dk_at dksX5_writeList_5 23 rfl rfl)
theorem dX5_writeList_139 : decode cX5_writeList 139 = .ok (.getfield 19, 3) := dk_180 0 19 (dk_at dksX5_writeList_6 0 rfl rfl)
theorem dX5_writeList_142 : decode cX5_writeList 142 = .ok (.iastore, 1) := dk_79 (dk_at dksX5_writeList_6 3 rfl rfl)
theorem dX5_writeList_143 : decode cX5_writeList 143 = .ok (.iinc 5 1, 3) := dk_132 5 1 (dk_at dksX5_writeList_6 4 rfl rfl)
theorem dX5_writeList_146 : decode cX5_writeList 146 = .ok (.goto (-25), 3) := dk_167 255 231 (dk_at dksX5_writeList_6 7 rfl rfl)
theorem dX5_writeList_149 : decode cX5_writeList 149 = .ok (.return_, 1) := dk_177 (dk_at dksX5_writeList_6 10 rfl rfl)
abbrev cX5_go : ByteArray := prog_3_method_9_code
def yX5_go : MethodName := ⟨RX5, "go", "()I"⟩
def dkwX5_go_13 : List UInt8 := [167, 0, 11, 42, 180, 0, 15, 27, 7, 96, 46, 60, 167, 254, 187, 2, 172]
abbrev dktX5_go_13 : List UInt8 := dkwX5_go_13 ++ []
def dkwX5_go_12 : List UInt8 := [159, 0, 5, 29, 172, 3, 54, 5, 167, 0, 6, 3, 54, 5, 21, 5, 153, 0, 9, 27, 8, 96]
abbrev dktX5_go_12 : List UInt8 := dkwX5_go_12 ++ dktX5_go_13
def dkwX5_go_11 : List UInt8 := [180, 0, 3, 180, 0, 141, 42, 180, 0, 3, 180, 0, 33, 29, 182, 0, 46, 192, 0, 50, 182, 0, 167, 4]
abbrev dktX5_go_11 : List UInt8 := dkwX5_go_11 ++ dktX5_go_12
def dkwX5_go_10 : List UInt8 := [180, 0, 3, 180, 0, 141, 42, 180, 0, 3, 180, 0, 33, 29, 182, 0, 46, 192, 0, 50, 182, 0, 163, 42]
abbrev dktX5_go_10 : List UInt8 := dkwX5_go_10 ++ dktX5_go_11
def dkwX5_go_9 : List UInt8 := [180, 0, 141, 29, 182, 0, 160, 21, 4, 160, 0, 7, 4, 167, 0, 4, 3, 54, 5, 167, 0, 66, 42]
abbrev dktX5_go_9 : List UInt8 := dkwX5_go_9 ++ dktX5_go_10
def dkwX5_go_8 : List UInt8 := [180, 0, 157, 4, 96, 181, 0, 157, 28, 29, 21, 4, 184, 0, 150, 54, 5, 167, 0, 92, 42, 180, 0, 3]
abbrev dktX5_go_8 : List UInt8 := dkwX5_go_8 ++ dktX5_go_9
def dkwX5_go_7 : List UInt8 := [180, 0, 3, 180, 0, 141, 29, 21, 4, 182, 0, 154, 61, 167, 0, 120, 42, 180, 0, 3, 180, 0, 141, 89]
abbrev dktX5_go_7 : List UInt8 := dkwX5_go_7 ++ dktX5_go_8
def dkwX5_go_6 : List UInt8 := [182, 0, 145, 21, 4, 42, 180, 0, 15, 27, 6, 96, 46, 184, 0, 150, 54, 5, 167, 0, 137, 42]
abbrev dktX5_go_6 : List UInt8 := dkwX5_go_6 ++ dktX5_go_7
def dkwX5_go_5 : List UInt8 := [160, 0, 7, 4, 167, 0, 4, 3, 54, 5, 167, 0, 167, 42, 180, 0, 3, 180, 0, 141, 29, 8]
abbrev dktX5_go_5 : List UInt8 := dkwX5_go_5 ++ dktX5_go_6
def dkwX5_go_4 : List UInt8 := [184, 0, 150, 54, 5, 167, 0, 194, 42, 180, 0, 3, 180, 0, 141, 29, 3, 182, 0, 145, 21, 4]
abbrev dktX5_go_4 : List UInt8 := dkwX5_go_4 ++ dktX5_go_5
def dkwX5_go_3 : List UInt8 := [42, 180, 0, 3, 180, 0, 141, 29, 7, 182, 0, 145, 21, 4, 42, 180, 0, 15, 27, 6, 96, 46]
abbrev dktX5_go_3 : List UInt8 := dkwX5_go_3 ++ dktX5_go_4
def dkwX5_go_2 : List UInt8 := [170, 0, 0, 1, 7, 0, 0, 0, 0, 0, 0, 0, 7, 0, 0, 0, 45, 0, 0, 0, 75, 0, 0, 0, 102, 0, 0, 0, 132, 0, 0, 0, 149, 0, 0, 1, 7, 0, 0, 0, 203, 0, 0, 0, 177]
abbrev dktX5_go_2 : List UInt8 := dkwX5_go_2 ++ dktX5_go_3
def dkwX5_go_1 : List UInt8 := [42, 180, 0, 15, 27, 5, 96, 46, 54, 4, 4, 54, 5, 42, 180, 0, 15, 27, 46]
abbrev dktX5_go_1 : List UInt8 := dkwX5_go_1 ++ dktX5_go_2
def dkwX5_go_0 : List UInt8 := [3, 60, 3, 61, 42, 180, 0, 15, 27, 46, 16, 8, 159, 1, 64, 42, 180, 0, 15, 27, 4, 96, 46, 62]
abbrev dktX5_go_0 : List UInt8 := dkwX5_go_0 ++ dktX5_go_1
theorem dksX5_go_0 : cX5_go.data.toList.drop 0 = dktX5_go_0 := by decide +kernel
theorem dksX5_go_1 : cX5_go.data.toList.drop 24 = dktX5_go_1 := dk_seg dksX5_go_0 24 rfl rfl
theorem dksX5_go_2 : cX5_go.data.toList.drop 43 = dktX5_go_2 := dk_seg dksX5_go_1 19 rfl rfl
theorem dksX5_go_3 : cX5_go.data.toList.drop 88 = dktX5_go_3 := dk_seg dksX5_go_2 45 rfl rfl
theorem dksX5_go_4 : cX5_go.data.toList.drop 110 = dktX5_go_4 := dk_seg dksX5_go_3 22 rfl rfl
theorem dksX5_go_5 : cX5_go.data.toList.drop 132 = dktX5_go_5 := dk_seg dksX5_go_4 22 rfl rfl
theorem dksX5_go_6 : cX5_go.data.toList.drop 154 = dktX5_go_6 := dk_seg dksX5_go_5 22 rfl rfl
theorem dksX5_go_7 : cX5_go.data.toList.drop 176 = dktX5_go_7 := dk_seg dksX5_go_6 22 rfl rfl
theorem dksX5_go_8 : cX5_go.data.toList.drop 200 = dktX5_go_8 := dk_seg dksX5_go_7 24 rfl rfl
theorem dksX5_go_9 : cX5_go.data.toList.drop 224 = dktX5_go_9 := dk_seg dksX5_go_8 24 rfl rfl
theorem dksX5_go_10 : cX5_go.data.toList.drop 247 = dktX5_go_10 := dk_seg dksX5_go_9 23 rfl rfl
theorem dksX5_go_11 : cX5_go.data.toList.drop 271 = dktX5_go_11 := dk_seg dksX5_go_10 24 rfl rfl
theorem dksX5_go_12 : cX5_go.data.toList.drop 295 = dktX5_go_12 := dk_seg dksX5_go_11 24 rfl rfl
theorem dksX5_go_13 : cX5_go.data.toList.drop 317 = dktX5_go_13 := dk_seg dksX5_go_12 22 rfl rfl
theorem dX5_go_0 : decode cX5_go 0 = .ok (.iconst 0, 1) := dk_3 (dk_at dksX5_go_0 0 rfl rfl)
theorem dX5_go_1 : decode cX5_go 1 = .ok (.istore_n 1, 1) := dk_60 (dk_at dksX5_go_0 1 rfl rfl)
theorem dX5_go_2 : decode cX5_go 2 = .ok (.iconst 0, 1) := dk_3 (dk_at dksX5_go_0 2 rfl rfl)
theorem dX5_go_3 : decode cX5_go 3 = .ok (.istore_n 2, 1) := dk_61 (dk_at dksX5_go_0 3 rfl rfl)
theorem dX5_go_4 : decode cX5_go 4 = .ok (.aload_n 0, 1) := dk_42 (dk_at dksX5_go_0 4 rfl rfl)
theorem dX5_go_5 : decode cX5_go 5 = .ok (.getfield 15, 3) := dk_180 0 15 (dk_at dksX5_go_0 5 rfl rfl)
theorem dX5_go_8 : decode cX5_go 8 = .ok (.iload_n 1, 1) := dk_27 (dk_at dksX5_go_0 8 rfl rfl)
theorem dX5_go_9 : decode cX5_go 9 = .ok (.iaload, 1) := dk_46 (dk_at dksX5_go_0 9 rfl rfl)
theorem dX5_go_10 : decode cX5_go 10 = .ok (.bipush 8, 2) := dk_16 8 (dk_at dksX5_go_0 10 rfl rfl)
theorem dX5_go_12 : decode cX5_go 12 = .ok (.if_icmp .eq 320, 3) := dk_159 1 64 (dk_at dksX5_go_0 12 rfl rfl)
theorem dX5_go_15 : decode cX5_go 15 = .ok (.aload_n 0, 1) := dk_42 (dk_at dksX5_go_0 15 rfl rfl)
theorem dX5_go_16 : decode cX5_go 16 = .ok (.getfield 15, 3) := dk_180 0 15 (dk_at dksX5_go_0 16 rfl rfl)
theorem dX5_go_19 : decode cX5_go 19 = .ok (.iload_n 1, 1) := dk_27 (dk_at dksX5_go_0 19 rfl rfl)
theorem dX5_go_20 : decode cX5_go 20 = .ok (.iconst 1, 1) := dk_4 (dk_at dksX5_go_0 20 rfl rfl)
theorem dX5_go_21 : decode cX5_go 21 = .ok (.iadd, 1) := dk_96 (dk_at dksX5_go_0 21 rfl rfl)
theorem dX5_go_22 : decode cX5_go 22 = .ok (.iaload, 1) := dk_46 (dk_at dksX5_go_0 22 rfl rfl)
theorem dX5_go_23 : decode cX5_go 23 = .ok (.istore_n 3, 1) := dk_62 (dk_at dksX5_go_0 23 rfl rfl)
theorem dX5_go_24 : decode cX5_go 24 = .ok (.aload_n 0, 1) := dk_42 (dk_at dksX5_go_1 0 rfl rfl)
theorem dX5_go_25 : decode cX5_go 25 = .ok (.getfield 15, 3) := dk_180 0 15 (dk_at dksX5_go_1 1 rfl rfl)
theorem dX5_go_28 : decode cX5_go 28 = .ok (.iload_n 1, 1) := dk_27 (dk_at dksX5_go_1 4 rfl rfl)
theorem dX5_go_29 : decode cX5_go 29 = .ok (.iconst 2, 1) := dk_5 (dk_at dksX5_go_1 5 rfl rfl)
theorem dX5_go_30 : decode cX5_go 30 = .ok (.iadd, 1) := dk_96 (dk_at dksX5_go_1 6 rfl rfl)
theorem dX5_go_31 : decode cX5_go 31 = .ok (.iaload, 1) := dk_46 (dk_at dksX5_go_1 7 rfl rfl)
theorem dX5_go_32 : decode cX5_go 32 = .ok (.istore 4, 2) := dk_54 4 (dk_at dksX5_go_1 8 rfl rfl)
theorem dX5_go_34 : decode cX5_go 34 = .ok (.iconst 1, 1) := dk_4 (dk_at dksX5_go_1 10 rfl rfl)
theorem dX5_go_35 : decode cX5_go 35 = .ok (.istore 5, 2) := dk_54 5 (dk_at dksX5_go_1 11 rfl rfl)
theorem dX5_go_37 : decode cX5_go 37 = .ok (.aload_n 0, 1) := dk_42 (dk_at dksX5_go_1 13 rfl rfl)
theorem dX5_go_38 : decode cX5_go 38 = .ok (.getfield 15, 3) := dk_180 0 15 (dk_at dksX5_go_1 14 rfl rfl)
theorem dX5_go_41 : decode cX5_go 41 = .ok (.iload_n 1, 1) := dk_27 (dk_at dksX5_go_1 17 rfl rfl)
theorem dX5_go_42 : decode cX5_go 42 = .ok (.iaload, 1) := dk_46 (dk_at dksX5_go_1 18 rfl rfl)
theorem dX5_go_43 : decode cX5_go 43 = .ok (.tableswitch 263 0 7 #[45, 75, 102, 132, 149, 263, 203, 177], 45) := by decide +kernel
theorem dX5_go_88 : decode cX5_go 88 = .ok (.aload_n 0, 1) := dk_42 (dk_at dksX5_go_3 0 rfl rfl)
theorem dX5_go_89 : decode cX5_go 89 = .ok (.getfield 3, 3) := dk_180 0 3 (dk_at dksX5_go_3 1 rfl rfl)
theorem dX5_go_92 : decode cX5_go 92 = .ok (.getfield 141, 3) := dk_180 0 141 (dk_at dksX5_go_3 4 rfl rfl)
theorem dX5_go_95 : decode cX5_go 95 = .ok (.iload_n 3, 1) := dk_29 (dk_at dksX5_go_3 7 rfl rfl)
theorem dX5_go_96 : decode cX5_go 96 = .ok (.iconst 4, 1) := dk_7 (dk_at dksX5_go_3 8 rfl rfl)
theorem dX5_go_97 : decode cX5_go 97 = .ok (.invokevirtual 145, 3) := dk_182 0 145 (dk_at dksX5_go_3 9 rfl rfl)
theorem dX5_go_100 : decode cX5_go 100 = .ok (.iload 4, 2) := dk_21 4 (dk_at dksX5_go_3 12 rfl rfl)
theorem dX5_go_102 : decode cX5_go 102 = .ok (.aload_n 0, 1) := dk_42 (dk_at dksX5_go_3 14 rfl rfl)
theorem dX5_go_103 : decode cX5_go 103 = .ok (.getfield 15, 3) := dk_180 0 15 (dk_at dksX5_go_3 15 rfl rfl)
theorem dX5_go_106 : decode cX5_go 106 = .ok (.iload_n 1, 1) := dk_27 (dk_at dksX5_go_3 18 rfl rfl)
theorem dX5_go_107 : decode cX5_go 107 = .ok (.iconst 3, 1) := dk_6 (dk_at dksX5_go_3 19 rfl rfl)
theorem dX5_go_108 : decode cX5_go 108 = .ok (.iadd, 1) := dk_96 (dk_at dksX5_go_3 20 rfl rfl)
theorem dX5_go_109 : decode cX5_go 109 = .ok (.iaload, 1) := dk_46 (dk_at dksX5_go_3 21 rfl rfl)
theorem dX5_go_110 : decode cX5_go 110 = .ok (.invokestatic 150, 3) := dk_184 0 150 (dk_at dksX5_go_4 0 rfl rfl)
theorem dX5_go_113 : decode cX5_go 113 = .ok (.istore 5, 2) := dk_54 5 (dk_at dksX5_go_4 3 rfl rfl)
theorem dX5_go_115 : decode cX5_go 115 = .ok (.goto 194, 3) := dk_167 0 194 (dk_at dksX5_go_4 5 rfl rfl)
theorem dX5_go_118 : decode cX5_go 118 = .ok (.aload_n 0, 1) := dk_42 (dk_at dksX5_go_4 8 rfl rfl)
theorem dX5_go_119 : decode cX5_go 119 = .ok (.getfield 3, 3) := dk_180 0 3 (dk_at dksX5_go_4 9 rfl rfl)
theorem dX5_go_122 : decode cX5_go 122 = .ok (.getfield 141, 3) := dk_180 0 141 (dk_at dksX5_go_4 12 rfl rfl)
theorem dX5_go_125 : decode cX5_go 125 = .ok (.iload_n 3, 1) := dk_29 (dk_at dksX5_go_4 15 rfl rfl)
theorem dX5_go_126 : decode cX5_go 126 = .ok (.iconst 0, 1) := dk_3 (dk_at dksX5_go_4 16 rfl rfl)
theorem dX5_go_127 : decode cX5_go 127 = .ok (.invokevirtual 145, 3) := dk_182 0 145 (dk_at dksX5_go_4 17 rfl rfl)
theorem dX5_go_130 : decode cX5_go 130 = .ok (.iload 4, 2) := dk_21 4 (dk_at dksX5_go_4 20 rfl rfl)
theorem dX5_go_132 : decode cX5_go 132 = .ok (.if_icmp .ne 7, 3) := dk_160 0 7 (dk_at dksX5_go_5 0 rfl rfl)
theorem dX5_go_135 : decode cX5_go 135 = .ok (.iconst 1, 1) := dk_4 (dk_at dksX5_go_5 3 rfl rfl)
theorem dX5_go_136 : decode cX5_go 136 = .ok (.goto 4, 3) := dk_167 0 4 (dk_at dksX5_go_5 4 rfl rfl)
theorem dX5_go_139 : decode cX5_go 139 = .ok (.iconst 0, 1) := dk_3 (dk_at dksX5_go_5 7 rfl rfl)
theorem dX5_go_140 : decode cX5_go 140 = .ok (.istore 5, 2) := dk_54 5 (dk_at dksX5_go_5 8 rfl rfl)
theorem dX5_go_142 : decode cX5_go 142 = .ok (.goto 167, 3) := dk_167 0 167 (dk_at dksX5_go_5 10 rfl rfl)
theorem dX5_go_145 : decode cX5_go 145 = .ok (.aload_n 0, 1) := dk_42 (dk_at dksX5_go_5 13 rfl rfl)
theorem dX5_go_146 : decode cX5_go 146 = .ok (.getfield 3, 3) := dk_180 0 3 (dk_at dksX5_go_5 14 rfl rfl)
theorem dX5_go_149 : decode cX5_go 149 = .ok (.getfield 141, 3) := dk_180 0 141 (dk_at dksX5_go_5 17 rfl rfl)
theorem dX5_go_152 : decode cX5_go 152 = .ok (.iload_n 3, 1) := dk_29 (dk_at dksX5_go_5 20 rfl rfl)
theorem dX5_go_153 : decode cX5_go 153 = .ok (.iconst 5, 1) := dk_8 (dk_at dksX5_go_5 21 rfl rfl)
theorem dX5_go_154 : decode cX5_go 154 = .ok (.invokevirtual 145, 3) := dk_182 0 145 (dk_at dksX5_go_6 0 rfl rfl)
theorem dX5_go_157 : decode cX5_go 157 = .ok (.iload 4, 2) := dk_21 4 (dk_at dksX5_go_6 3 rfl rfl)
theorem dX5_go_159 : decode cX5_go 159 = .ok (.aload_n 0, 1) := dk_42 (dk_at dksX5_go_6 5 rfl rfl)
theorem dX5_go_160 : decode cX5_go 160 = .ok (.getfield 15, 3) := dk_180 0 15 (dk_at dksX5_go_6 6 rfl rfl)
theorem dX5_go_163 : decode cX5_go 163 = .ok (.iload_n 1, 1) := dk_27 (dk_at dksX5_go_6 9 rfl rfl)
theorem dX5_go_164 : decode cX5_go 164 = .ok (.iconst 3, 1) := dk_6 (dk_at dksX5_go_6 10 rfl rfl)
theorem dX5_go_165 : decode cX5_go 165 = .ok (.iadd, 1) := dk_96 (dk_at dksX5_go_6 11 rfl rfl)
theorem dX5_go_166 : decode cX5_go 166 = .ok (.iaload, 1) := dk_46 (dk_at dksX5_go_6 12 rfl rfl)
theorem dX5_go_167 : decode cX5_go 167 = .ok (.invokestatic 150, 3) := dk_184 0 150 (dk_at dksX5_go_6 13 rfl rfl)
theorem dX5_go_170 : decode cX5_go 170 = .ok (.istore 5, 2) := dk_54 5 (dk_at dksX5_go_6 16 rfl rfl)
theorem dX5_go_172 : decode cX5_go 172 = .ok (.goto 137, 3) := dk_167 0 137 (dk_at dksX5_go_6 18 rfl rfl)
theorem dX5_go_175 : decode cX5_go 175 = .ok (.aload_n 0, 1) := dk_42 (dk_at dksX5_go_6 21 rfl rfl)
theorem dX5_go_176 : decode cX5_go 176 = .ok (.getfield 3, 3) := dk_180 0 3 (dk_at dksX5_go_7 0 rfl rfl)
theorem dX5_go_179 : decode cX5_go 179 = .ok (.getfield 141, 3) := dk_180 0 141 (dk_at dksX5_go_7 3 rfl rfl)
theorem dX5_go_182 : decode cX5_go 182 = .ok (.iload_n 3, 1) := dk_29 (dk_at dksX5_go_7 6 rfl rfl)
theorem dX5_go_183 : decode cX5_go 183 = .ok (.iload 4, 2) := dk_21 4 (dk_at dksX5_go_7 7 rfl rfl)
theorem dX5_go_185 : decode cX5_go 185 = .ok (.invokevirtual 154, 3) := dk_182 0 154 (dk_at dksX5_go_7 9 rfl rfl)
theorem dX5_go_188 : decode cX5_go 188 = .ok (.istore_n 2, 1) := dk_61 (dk_at dksX5_go_7 12 rfl rfl)
theorem dX5_go_189 : decode cX5_go 189 = .ok (.goto 120, 3) := dk_167 0 120 (dk_at dksX5_go_7 13 rfl rfl)
theorem dX5_go_192 : decode cX5_go 192 = .ok (.aload_n 0, 1) := dk_42 (dk_at dksX5_go_7 16 rfl rfl)
theorem dX5_go_193 : decode cX5_go 193 = .ok (.getfield 3, 3) := dk_180 0 3 (dk_at dksX5_go_7 17 rfl rfl)
theorem dX5_go_196 : decode cX5_go 196 = .ok (.getfield 141, 3) := dk_180 0 141 (dk_at dksX5_go_7 20 rfl rfl)
theorem dX5_go_199 : decode cX5_go 199 = .ok (.dup, 1) := dk_89 (dk_at dksX5_go_7 23 rfl rfl)
theorem dX5_go_200 : decode cX5_go 200 = .ok (.getfield 157, 3) := dk_180 0 157 (dk_at dksX5_go_8 0 rfl rfl)
theorem dX5_go_203 : decode cX5_go 203 = .ok (.iconst 1, 1) := dk_4 (dk_at dksX5_go_8 3 rfl rfl)
theorem dX5_go_204 : decode cX5_go 204 = .ok (.iadd, 1) := dk_96 (dk_at dksX5_go_8 4 rfl rfl)
theorem dX5_go_205 : decode cX5_go 205 = .ok (.putfield 157, 3) := dk_181 0 157 (dk_at dksX5_go_8 5 rfl rfl)
theorem dX5_go_208 : decode cX5_go 208 = .ok (.iload_n 2, 1) := dk_28 (dk_at dksX5_go_8 8 rfl rfl)
theorem dX5_go_209 : decode cX5_go 209 = .ok (.iload_n 3, 1) := dk_29 (dk_at dksX5_go_8 9 rfl rfl)
theorem dX5_go_210 : decode cX5_go 210 = .ok (.iload 4, 2) := dk_21 4 (dk_at dksX5_go_8 10 rfl rfl)
theorem dX5_go_212 : decode cX5_go 212 = .ok (.invokestatic 150, 3) := dk_184 0 150 (dk_at dksX5_go_8 12 rfl rfl)
theorem dX5_go_215 : decode cX5_go 215 = .ok (.istore 5, 2) := dk_54 5 (dk_at dksX5_go_8 15 rfl rfl)
theorem dX5_go_217 : decode cX5_go 217 = .ok (.goto 92, 3) := dk_167 0 92 (dk_at dksX5_go_8 17 rfl rfl)
theorem dX5_go_220 : decode cX5_go 220 = .ok (.aload_n 0, 1) := dk_42 (dk_at dksX5_go_8 20 rfl rfl)
theorem dX5_go_221 : decode cX5_go 221 = .ok (.getfield 3, 3) := dk_180 0 3 (dk_at dksX5_go_8 21 rfl rfl)
theorem dX5_go_224 : decode cX5_go 224 = .ok (.getfield 141, 3) := dk_180 0 141 (dk_at dksX5_go_9 0 rfl rfl)
theorem dX5_go_227 : decode cX5_go 227 = .ok (.iload_n 3, 1) := dk_29 (dk_at dksX5_go_9 3 rfl rfl)
theorem dX5_go_228 : decode cX5_go 228 = .ok (.invokevirtual 160, 3) := dk_182 0 160 (dk_at dksX5_go_9 4 rfl rfl)
theorem dX5_go_231 : decode cX5_go 231 = .ok (.iload 4, 2) := dk_21 4 (dk_at dksX5_go_9 7 rfl rfl)
theorem dX5_go_233 : decode cX5_go 233 = .ok (.if_icmp .ne 7, 3) := dk_160 0 7 (dk_at dksX5_go_9 9 rfl rfl)
theorem dX5_go_236 : decode cX5_go 236 = .ok (.iconst 1, 1) := dk_4 (dk_at dksX5_go_9 12 rfl rfl)
theorem dX5_go_237 : decode cX5_go 237 = .ok (.goto 4, 3) := dk_167 0 4 (dk_at dksX5_go_9 13 rfl rfl)
theorem dX5_go_240 : decode cX5_go 240 = .ok (.iconst 0, 1) := dk_3 (dk_at dksX5_go_9 16 rfl rfl)
theorem dX5_go_241 : decode cX5_go 241 = .ok (.istore 5, 2) := dk_54 5 (dk_at dksX5_go_9 17 rfl rfl)
theorem dX5_go_243 : decode cX5_go 243 = .ok (.goto 66, 3) := dk_167 0 66 (dk_at dksX5_go_9 19 rfl rfl)
theorem dX5_go_246 : decode cX5_go 246 = .ok (.aload_n 0, 1) := dk_42 (dk_at dksX5_go_9 22 rfl rfl)
theorem dX5_go_247 : decode cX5_go 247 = .ok (.getfield 3, 3) := dk_180 0 3 (dk_at dksX5_go_10 0 rfl rfl)
theorem dX5_go_250 : decode cX5_go 250 = .ok (.getfield 141, 3) := dk_180 0 141 (dk_at dksX5_go_10 3 rfl rfl)
theorem dX5_go_253 : decode cX5_go 253 = .ok (.aload_n 0, 1) := dk_42 (dk_at dksX5_go_10 6 rfl rfl)
theorem dX5_go_254 : decode cX5_go 254 = .ok (.getfield 3, 3) := dk_180 0 3 (dk_at dksX5_go_10 7 rfl rfl)
theorem dX5_go_257 : decode cX5_go 257 = .ok (.getfield 33, 3) := dk_180 0 33 (dk_at dksX5_go_10 10 rfl rfl)
theorem dX5_go_260 : decode cX5_go 260 = .ok (.iload_n 3, 1) := dk_29 (dk_at dksX5_go_10 13 rfl rfl)
theorem dX5_go_261 : decode cX5_go 261 = .ok (.invokevirtual 46, 3) := dk_182 0 46 (dk_at dksX5_go_10 14 rfl rfl)
theorem dX5_go_264 : decode cX5_go 264 = .ok (.checkcast 50, 3) := dk_192 0 50 (dk_at dksX5_go_10 17 rfl rfl)
theorem dX5_go_267 : decode cX5_go 267 = .ok (.invokevirtual 163, 3) := dk_182 0 163 (dk_at dksX5_go_10 20 rfl rfl)
theorem dX5_go_270 : decode cX5_go 270 = .ok (.aload_n 0, 1) := dk_42 (dk_at dksX5_go_10 23 rfl rfl)
theorem dX5_go_271 : decode cX5_go 271 = .ok (.getfield 3, 3) := dk_180 0 3 (dk_at dksX5_go_11 0 rfl rfl)
theorem dX5_go_274 : decode cX5_go 274 = .ok (.getfield 141, 3) := dk_180 0 141 (dk_at dksX5_go_11 3 rfl rfl)
theorem dX5_go_277 : decode cX5_go 277 = .ok (.aload_n 0, 1) := dk_42 (dk_at dksX5_go_11 6 rfl rfl)
theorem dX5_go_278 : decode cX5_go 278 = .ok (.getfield 3, 3) := dk_180 0 3 (dk_at dksX5_go_11 7 rfl rfl)
theorem dX5_go_281 : decode cX5_go 281 = .ok (.getfield 33, 3) := dk_180 0 33 (dk_at dksX5_go_11 10 rfl rfl)
theorem dX5_go_284 : decode cX5_go 284 = .ok (.iload_n 3, 1) := dk_29 (dk_at dksX5_go_11 13 rfl rfl)
theorem dX5_go_285 : decode cX5_go 285 = .ok (.invokevirtual 46, 3) := dk_182 0 46 (dk_at dksX5_go_11 14 rfl rfl)
theorem dX5_go_288 : decode cX5_go 288 = .ok (.checkcast 50, 3) := dk_192 0 50 (dk_at dksX5_go_11 17 rfl rfl)
theorem dX5_go_291 : decode cX5_go 291 = .ok (.invokevirtual 167, 3) := dk_182 0 167 (dk_at dksX5_go_11 20 rfl rfl)
theorem dX5_go_294 : decode cX5_go 294 = .ok (.iconst 1, 1) := dk_4 (dk_at dksX5_go_11 23 rfl rfl)
theorem dX5_go_295 : decode cX5_go 295 = .ok (.if_icmp .eq 5, 3) := dk_159 0 5 (dk_at dksX5_go_12 0 rfl rfl)
theorem dX5_go_298 : decode cX5_go 298 = .ok (.iload_n 3, 1) := dk_29 (dk_at dksX5_go_12 3 rfl rfl)
theorem dX5_go_299 : decode cX5_go 299 = .ok (.ireturn, 1) := dk_172 (dk_at dksX5_go_12 4 rfl rfl)
theorem dX5_go_300 : decode cX5_go 300 = .ok (.iconst 0, 1) := dk_3 (dk_at dksX5_go_12 5 rfl rfl)
theorem dX5_go_301 : decode cX5_go 301 = .ok (.istore 5, 2) := dk_54 5 (dk_at dksX5_go_12 6 rfl rfl)
theorem dX5_go_303 : decode cX5_go 303 = .ok (.goto 6, 3) := dk_167 0 6 (dk_at dksX5_go_12 8 rfl rfl)
theorem dX5_go_306 : decode cX5_go 306 = .ok (.iconst 0, 1) := dk_3 (dk_at dksX5_go_12 11 rfl rfl)
theorem dX5_go_307 : decode cX5_go 307 = .ok (.istore 5, 2) := dk_54 5 (dk_at dksX5_go_12 12 rfl rfl)
theorem dX5_go_309 : decode cX5_go 309 = .ok (.iload 5, 2) := dk_21 5 (dk_at dksX5_go_12 14 rfl rfl)
theorem dX5_go_311 : decode cX5_go 311 = .ok (.ifCond .eq 9, 3) := dk_153 0 9 (dk_at dksX5_go_12 16 rfl rfl)
theorem dX5_go_314 : decode cX5_go 314 = .ok (.iload_n 1, 1) := dk_27 (dk_at dksX5_go_12 19 rfl rfl)
theorem dX5_go_315 : decode cX5_go 315 = .ok (.iconst 5, 1) := dk_8 (dk_at dksX5_go_12 20 rfl rfl)
theorem dX5_go_316 : decode cX5_go 316 = .ok (.iadd, 1) := dk_96 (dk_at dksX5_go_12 21 rfl rfl)
theorem dX5_go_317 : decode cX5_go 317 = .ok (.goto 11, 3) := dk_167 0 11 (dk_at dksX5_go_13 0 rfl rfl)
theorem dX5_go_320 : decode cX5_go 320 = .ok (.aload_n 0, 1) := dk_42 (dk_at dksX5_go_13 3 rfl rfl)
theorem dX5_go_321 : decode cX5_go 321 = .ok (.getfield 15, 3) := dk_180 0 15 (dk_at dksX5_go_13 4 rfl rfl)
theorem dX5_go_324 : decode cX5_go 324 = .ok (.iload_n 1, 1) := dk_27 (dk_at dksX5_go_13 7 rfl rfl)
theorem dX5_go_325 : decode cX5_go 325 = .ok (.iconst 4, 1) := dk_7 (dk_at dksX5_go_13 8 rfl rfl)
theorem dX5_go_326 : decode cX5_go 326 = .ok (.iadd, 1) := dk_96 (dk_at dksX5_go_13 9 rfl rfl)
theorem dX5_go_327 : decode cX5_go 327 = .ok (.iaload, 1) := dk_46 (dk_at dksX5_go_13 10 rfl rfl)
theorem dX5_go_328 : decode cX5_go 328 = .ok (.istore_n 1, 1) := dk_60 (dk_at dksX5_go_13 11 rfl rfl)
theorem dX5_go_329 : decode cX5_go 329 = .ok (.goto (-325), 3) := dk_167 254 187 (dk_at dksX5_go_13 12 rfl rfl)
theorem dX5_go_332 : decode cX5_go 332 = .ok (.iconst (-1), 1) := dk_2 (dk_at dksX5_go_13 15 rfl rfl)
theorem dX5_go_333 : decode cX5_go 333 = .ok (.ireturn, 1) := dk_172 (dk_at dksX5_go_13 16 rfl rfl)
theorem q103 : (Jvm.Cond.initialized "Patternforge$Automaton") ∈ lw_all := lw_g (lw_at lw_m1 8 rfl) rfl
theorem q193 : (Jvm.Cond.fieldLinkNest "Patternforge$Automaton" (157 : Nat) "Patternforge$Running" "tests" "I" "Patternforge") ∈ lw_tbl := lw_at lw_m1 98 rfl
theorem q309 : (Jvm.Cond.instantiable "Patternforge$Automaton" (4 : Nat)) ∈ lw_all := lw_g (lw_at lw_m1 214 rfl) rfl
theorem q311 : (Jvm.Cond.instanceMethod ({ cls := "Patternforge$Automaton", name := "<init>", desc := "(LPatternforge;)V" } : Jvm.MethodName)) ∈ lw_all := lw_g (lw_at lw_m1 216 rfl) rfl
theorem q312 : (Jvm.Cond.code ({ cls := "Patternforge$Automaton", name := "<init>", desc := "(LPatternforge;)V" } : Jvm.MethodName) prog_3_method_1_code (2 : Nat) (Option.none : Option Jvm.ClassFile.FieldType)) ∈ lw_all := lw_g (lw_at lw_m1 217 rfl) rfl
theorem q313 : (Jvm.Cond.methodLink "Patternforge$Automaton" (9 : Nat) ({ cls := "java/lang/Object", name := "<init>", desc := "()V" } : Jvm.MethodName)) ∈ lw_all := lw_g (lw_at lw_m1 218 rfl) rfl
theorem q314 : (Jvm.Cond.fieldLink "Patternforge$Automaton" (15 : Nat) "Patternforge$Automaton" "codes" "[I") ∈ lw_all := lw_g (lw_at lw_m1 219 rfl) rfl
theorem q315 : (Jvm.Cond.fieldLink "Patternforge$Automaton" (19 : Nat) "Patternforge$Automaton" "many" "I") ∈ lw_all := lw_g (lw_at lw_m1 220 rfl) rfl
theorem q316 : (Jvm.Cond.fieldLink "Patternforge$Automaton" (29 : Nat) "Patternforge$Automaton" "isBuilt" "Z") ∈ lw_all := lw_g (lw_at lw_m1 221 rfl) rfl
theorem q318 : (Jvm.Cond.fieldLink "Patternforge$Automaton" (3 : Nat) "Patternforge$Automaton" "this$0" "LPatternforge;") ∈ lw_all := lw_g (lw_at lw_m1 223 rfl) rfl
theorem q319 : (Jvm.Cond.lays "Patternforge$Automaton" "Patternforge$Automaton" "codes" "[I") ∈ lw_all := lw_g (lw_at lw_m1 224 rfl) rfl
theorem q320 : (Jvm.Cond.soleField "Patternforge$Automaton" "codes") ∈ lw_all := lw_g (lw_at lw_m1 225 rfl) rfl
theorem q321 : (Jvm.Cond.lays "Patternforge$Automaton" "Patternforge$Automaton" "many" "I") ∈ lw_all := lw_g (lw_at lw_m1 226 rfl) rfl
theorem q322 : (Jvm.Cond.soleField "Patternforge$Automaton" "many") ∈ lw_all := lw_g (lw_at lw_m1 227 rfl) rfl
theorem q323 : (Jvm.Cond.lays "Patternforge$Automaton" "Patternforge$Automaton" "isBuilt" "Z") ∈ lw_all := lw_g (lw_at lw_m1 228 rfl) rfl
theorem q324 : (Jvm.Cond.soleField "Patternforge$Automaton" "isBuilt") ∈ lw_all := lw_g (lw_at lw_m1 229 rfl) rfl
theorem q325 : (Jvm.Cond.laysFinal "Patternforge$Automaton" "Patternforge$Automaton" "this$0" "LPatternforge;") ∈ lw_all := lw_g (lw_at lw_m1 230 rfl) rfl
theorem q326 : (Jvm.Cond.soleField "Patternforge$Automaton" "this$0") ∈ lw_all := lw_g (lw_at lw_m1 231 rfl) rfl
theorem q327 : (Jvm.Cond.superclass "Patternforge$Automaton" "java/lang/Object") ∈ lw_all := lw_g (lw_at lw_m1 232 rfl) rfl
theorem q362 : (Jvm.Cond.selects "Patternforge$Automaton" ({ cls := "java/lang/Object", name := "getClass", desc := "()Ljava/lang/Class;" } : Jvm.MethodName) ({ cls := "java/lang/Object", name := "getClass", desc := "()Ljava/lang/Class;" } : Jvm.MethodName)) ∈ lw_all := lw_g (lw_at lw_m2 27 rfl) rfl
theorem q419 : (Jvm.Cond.fieldLinkNest "Patternforge$Automaton" (43 : Nat) "Patternforge" "columns" "I" "Patternforge") ∈ lw_tbl := lw_at lw_m2 84 rfl
theorem q423 : (Jvm.Cond.fieldLinkNest "Patternforge$Automaton" (33 : Nat) "Patternforge" "cases" "Ljava/util/ArrayList;" "Patternforge") ∈ lw_tbl := lw_at lw_m2 88 rfl
theorem q427 : (Jvm.Cond.fieldLinkNest "Patternforge$Automaton" (141 : Nat) "Patternforge" "running" "LPatternforge$Running;" "Patternforge") ∈ lw_tbl := lw_at lw_m2 92 rfl
theorem q978 : (Jvm.Cond.fieldLinkNest "Patternforge$Automaton" (52 : Nat) "Patternforge$Case" "patterns" "[I" "Patternforge") ∈ lw_tbl := lw_at lw_m4 163 rfl
theorem q1566 : (Jvm.Cond.instanceMethod ({ cls := "Patternforge$Automaton", name := "refresh", desc := "()V" } : Jvm.MethodName)) ∈ lw_all := lw_g (lw_at lw_m7 31 rfl) rfl
theorem q1567 : (Jvm.Cond.selects "Patternforge$Automaton" ({ cls := "Patternforge$Automaton", name := "refresh", desc := "()V" } : Jvm.MethodName) ({ cls := "Patternforge$Automaton", name := "refresh", desc := "()V" } : Jvm.MethodName)) ∈ lw_all := lw_g (lw_at lw_m7 32 rfl) rfl
theorem q1568 : (Jvm.Cond.code ({ cls := "Patternforge$Automaton", name := "refresh", desc := "()V" } : Jvm.MethodName) prog_3_method_3_code (4 : Nat) (Option.none : Option Jvm.ClassFile.FieldType)) ∈ lw_all := lw_g (lw_at lw_m7 33 rfl) rfl
theorem q1569 : (Jvm.Cond.methodLink "Patternforge$Automaton" (37 : Nat) ({ cls := "java/util/ArrayList", name := "size", desc := "()I" } : Jvm.MethodName)) ∈ lw_all := lw_g (lw_at lw_m7 34 rfl) rfl
theorem q1570 : (Jvm.Cond.methodLink "Patternforge$Automaton" (46 : Nat) ({ cls := "java/util/ArrayList", name := "get", desc := "(I)Ljava/lang/Object;" } : Jvm.MethodName)) ∈ lw_all := lw_g (lw_at lw_m7 35 rfl) rfl
theorem q1571 : (Jvm.Cond.classLink "Patternforge$Automaton" (50 : Nat) "Patternforge$Case") ∈ lw_all := lw_g (lw_at lw_m7 36 rfl) rfl
theorem q1572 : (Jvm.Cond.methodLinkNest "Patternforge$Automaton" (55 : Nat) ({ cls := "Patternforge", name := "told", desc := "(I)LPatternforge$Told;" } : Jvm.MethodName) "Patternforge") ∈ lw_tbl := lw_at lw_m7 37 rfl
theorem q1573 : (Jvm.Cond.methodLink "Patternforge$Automaton" (59 : Nat) ({ cls := "Patternforge$Told", name := "pattern", desc := "()LPatternforge$Pattern;" } : Jvm.MethodName)) ∈ lw_all := lw_g (lw_at lw_m7 38 rfl) rfl
theorem q1574 : (Jvm.Cond.methodLink "Patternforge$Automaton" (65 : Nat) ({ cls := "Patternforge$Automaton", name := "write", desc := "(LPatternforge$Pattern;I)V" } : Jvm.MethodName)) ∈ lw_all := lw_g (lw_at lw_m7 39 rfl) rfl
theorem q1575 : (Jvm.Cond.privateMethod ({ cls := "Patternforge$Automaton", name := "write", desc := "(LPatternforge$Pattern;I)V" } : Jvm.MethodName)) ∈ lw_tbl := lw_at lw_m7 40 rfl
theorem q1576 : (Jvm.Cond.instanceMethod ({ cls := "Patternforge$Automaton", name := "write", desc := "(LPatternforge$Pattern;I)V" } : Jvm.MethodName)) ∈ lw_all := lw_g (lw_at lw_m7 41 rfl) rfl
theorem q1577 : (Jvm.Cond.code ({ cls := "Patternforge$Automaton", name := "write", desc := "(LPatternforge$Pattern;I)V" } : Jvm.MethodName) prog_3_method_5_code (11 : Nat) (Option.none : Option Jvm.ClassFile.FieldType)) ∈ lw_all := lw_g (lw_at lw_m7 42 rfl) rfl
theorem q1578 : (Jvm.Cond.classLink "Patternforge$Automaton" (77 : Nat) "Patternforge$Name") ∈ lw_all := lw_g (lw_at lw_m7 43 rfl) rfl
theorem q1579 : (Jvm.Cond.methodLink "Patternforge$Automaton" (79 : Nat) ({ cls := "Patternforge$Name", name := "of", desc := "()LPatternforge$Pattern;" } : Jvm.MethodName)) ∈ lw_all := lw_g (lw_at lw_m7 44 rfl) rfl
theorem q1580 : (Jvm.Cond.classLink "Patternforge$Automaton" (82 : Nat) "Patternforge$Range") ∈ lw_all := lw_g (lw_at lw_m7 45 rfl) rfl
theorem q1581 : (Jvm.Cond.methodLink "Patternforge$Automaton" (84 : Nat) ({ cls := "Patternforge$Range", name := "from", desc := "()I" } : Jvm.MethodName)) ∈ lw_all := lw_g (lw_at lw_m7 46 rfl) rfl
theorem q1585 : (Jvm.Cond.methodLink "Patternforge$Automaton" (87 : Nat) ({ cls := "Patternforge$Range", name := "to", desc := "()I" } : Jvm.MethodName)) ∈ lw_all := lw_g (lw_at lw_m7 50 rfl) rfl
theorem q1589 : (Jvm.Cond.methodLink "Patternforge$Automaton" (69 : Nat) ({ cls := "Patternforge$Automaton", name := "put", desc := "(IIII)I" } : Jvm.MethodName)) ∈ lw_all := lw_g (lw_at lw_m7 54 rfl) rfl
theorem q1590 : (Jvm.Cond.privateMethod ({ cls := "Patternforge$Automaton", name := "put", desc := "(IIII)I" } : Jvm.MethodName)) ∈ lw_tbl := lw_at lw_m7 55 rfl
theorem q1591 : (Jvm.Cond.instanceMethod ({ cls := "Patternforge$Automaton", name := "put", desc := "(IIII)I" } : Jvm.MethodName)) ∈ lw_all := lw_g (lw_at lw_m7 56 rfl) rfl
theorem q1592 : (Jvm.Cond.code ({ cls := "Patternforge$Automaton", name := "put", desc := "(IIII)I" } : Jvm.MethodName) prog_3_method_2_code (6 : Nat) (Option.some Jvm.ClassFile.FieldType.int)) ∈ lw_all := lw_g (lw_at lw_m7 57 rfl) rfl
theorem q1593 : (Jvm.Cond.methodLink "Patternforge$Automaton" (23 : Nat) ({ cls := "java/lang/System", name := "arraycopy", desc := "(Ljava/lang/Object;ILjava/lang/Object;II)V" } : Jvm.MethodName)) ∈ lw_all := lw_g (lw_at lw_m7 58 rfl) rfl
theorem q1594 : (Jvm.Cond.classLink "Patternforge$Automaton" (90 : Nat) "Patternforge$Make") ∈ lw_all := lw_g (lw_at lw_m7 59 rfl) rfl
theorem q1595 : (Jvm.Cond.methodLink "Patternforge$Automaton" (92 : Nat) ({ cls := "Patternforge$Make", name := "constructor", desc := "()I" } : Jvm.MethodName)) ∈ lw_all := lw_g (lw_at lw_m7 60 rfl) rfl
theorem q1596 : (Jvm.Cond.methodLink "Patternforge$Automaton" (95 : Nat) ({ cls := "Patternforge$Make", name := "fields", desc := "()[LPatternforge$Pattern;" } : Jvm.MethodName)) ∈ lw_all := lw_g (lw_at lw_m7 61 rfl) rfl
theorem q1597 : (Jvm.Cond.methodLink "Patternforge$Automaton" (99 : Nat) ({ cls := "Patternforge$Automaton", name := "writeAll", desc := "([LPatternforge$Pattern;II)V" } : Jvm.MethodName)) ∈ lw_all := lw_g (lw_at lw_m7 62 rfl) rfl
theorem q1598 : (Jvm.Cond.privateMethod ({ cls := "Patternforge$Automaton", name := "writeAll", desc := "([LPatternforge$Pattern;II)V" } : Jvm.MethodName)) ∈ lw_tbl := lw_at lw_m7 63 rfl
theorem q1599 : (Jvm.Cond.instanceMethod ({ cls := "Patternforge$Automaton", name := "writeAll", desc := "([LPatternforge$Pattern;II)V" } : Jvm.MethodName)) ∈ lw_all := lw_g (lw_at lw_m7 64 rfl) rfl
theorem q1600 : (Jvm.Cond.code ({ cls := "Patternforge$Automaton", name := "writeAll", desc := "([LPatternforge$Pattern;II)V" } : Jvm.MethodName) prog_3_method_6_code (5 : Nat) (Option.none : Option Jvm.ClassFile.FieldType)) ∈ lw_all := lw_g (lw_at lw_m7 65 rfl) rfl
theorem q1601 : (Jvm.Cond.methodLinkNest "Patternforge$Automaton" (127 : Nat) ({ cls := "Patternforge", name := "field", desc := "(II)I" } : Jvm.MethodName) "Patternforge") ∈ lw_tbl := lw_at lw_m7 66 rfl
theorem q1602 : (Jvm.Cond.classLink "Patternforge$Automaton" (103 : Nat) "Patternforge$Either") ∈ lw_all := lw_g (lw_at lw_m7 67 rfl) rfl
theorem q1603 : (Jvm.Cond.methodLink "Patternforge$Automaton" (105 : Nat) ({ cls := "Patternforge$Either", name := "first", desc := "()LPatternforge$Pattern;" } : Jvm.MethodName)) ∈ lw_all := lw_g (lw_at lw_m7 68 rfl) rfl
theorem q1604 : (Jvm.Cond.methodLink "Patternforge$Automaton" (73 : Nat) ({ cls := "Patternforge$Automaton", name := "lead", desc := "(II)V" } : Jvm.MethodName)) ∈ lw_all := lw_g (lw_at lw_m7 69 rfl) rfl
theorem q1605 : (Jvm.Cond.privateMethod ({ cls := "Patternforge$Automaton", name := "lead", desc := "(II)V" } : Jvm.MethodName)) ∈ lw_tbl := lw_at lw_m7 70 rfl
theorem q1606 : (Jvm.Cond.instanceMethod ({ cls := "Patternforge$Automaton", name := "lead", desc := "(II)V" } : Jvm.MethodName)) ∈ lw_all := lw_g (lw_at lw_m7 71 rfl) rfl
theorem q1607 : (Jvm.Cond.code ({ cls := "Patternforge$Automaton", name := "lead", desc := "(II)V" } : Jvm.MethodName) prog_3_method_4_code (4 : Nat) (Option.none : Option Jvm.ClassFile.FieldType)) ∈ lw_all := lw_g (lw_at lw_m7 72 rfl) rfl
theorem q1608 : (Jvm.Cond.methodLink "Patternforge$Automaton" (108 : Nat) ({ cls := "Patternforge$Either", name := "second", desc := "()LPatternforge$Pattern;" } : Jvm.MethodName)) ∈ lw_all := lw_g (lw_at lw_m7 73 rfl) rfl
theorem q1609 : (Jvm.Cond.classLink "Patternforge$Automaton" (111 : Nat) "Patternforge$Looked") ∈ lw_all := lw_g (lw_at lw_m7 74 rfl) rfl
theorem q1610 : (Jvm.Cond.methodLink "Patternforge$Automaton" (113 : Nat) ({ cls := "Patternforge$Looked", name := "view", desc := "()I" } : Jvm.MethodName)) ∈ lw_all := lw_g (lw_at lw_m7 75 rfl) rfl
theorem q1611 : (Jvm.Cond.methodLink "Patternforge$Automaton" (116 : Nat) ({ cls := "Patternforge$Looked", name := "of", desc := "()LPatternforge$Pattern;" } : Jvm.MethodName)) ∈ lw_all := lw_g (lw_at lw_m7 76 rfl) rfl
theorem q1612 : (Jvm.Cond.methodLink "Patternforge$Automaton" (117 : Nat) ({ cls := "Patternforge$Automaton", name := "writeGiven", desc := "(LPatternforge$Pattern;)V" } : Jvm.MethodName)) ∈ lw_all := lw_g (lw_at lw_m7 77 rfl) rfl
theorem q1613 : (Jvm.Cond.privateMethod ({ cls := "Patternforge$Automaton", name := "writeGiven", desc := "(LPatternforge$Pattern;)V" } : Jvm.MethodName)) ∈ lw_tbl := lw_at lw_m7 78 rfl
theorem q1614 : (Jvm.Cond.instanceMethod ({ cls := "Patternforge$Automaton", name := "writeGiven", desc := "(LPatternforge$Pattern;)V" } : Jvm.MethodName)) ∈ lw_all := lw_g (lw_at lw_m7 79 rfl) rfl
theorem q1615 : (Jvm.Cond.code ({ cls := "Patternforge$Automaton", name := "writeGiven", desc := "(LPatternforge$Pattern;)V" } : Jvm.MethodName) prog_3_method_7_code (6 : Nat) (Option.none : Option Jvm.ClassFile.FieldType)) ∈ lw_all := lw_g (lw_at lw_m7 80 rfl) rfl
theorem q1616 : (Jvm.Cond.classLink "Patternforge$Automaton" (121 : Nat) "Patternforge$Listed") ∈ lw_all := lw_g (lw_at lw_m7 81 rfl) rfl
theorem q1617 : (Jvm.Cond.methodLink "Patternforge$Automaton" (123 : Nat) ({ cls := "Patternforge$Automaton", name := "writeList", desc := "(LPatternforge$Listed;I)V" } : Jvm.MethodName)) ∈ lw_all := lw_g (lw_at lw_m7 82 rfl) rfl
theorem q1618 : (Jvm.Cond.privateMethod ({ cls := "Patternforge$Automaton", name := "writeList", desc := "(LPatternforge$Listed;I)V" } : Jvm.MethodName)) ∈ lw_tbl := lw_at lw_m7 83 rfl
theorem q1619 : (Jvm.Cond.instanceMethod ({ cls := "Patternforge$Automaton", name := "writeList", desc := "(LPatternforge$Listed;I)V" } : Jvm.MethodName)) ∈ lw_all := lw_g (lw_at lw_m7 84 rfl) rfl
theorem q1620 : (Jvm.Cond.code ({ cls := "Patternforge$Automaton", name := "writeList", desc := "(LPatternforge$Listed;I)V" } : Jvm.MethodName) prog_3_method_8_code (7 : Nat) (Option.none : Option Jvm.ClassFile.FieldType)) ∈ lw_all := lw_g (lw_at lw_m7 85 rfl) rfl
theorem q1621 : (Jvm.Cond.methodLink "Patternforge$Automaton" (131 : Nat) ({ cls := "Patternforge$Listed", name := "items", desc := "()[LPatternforge$Pattern;" } : Jvm.MethodName)) ∈ lw_all := lw_g (lw_at lw_m7 86 rfl) rfl
theorem q1622 : (Jvm.Cond.methodLink "Patternforge$Automaton" (134 : Nat) ({ cls := "Patternforge$Listed", name := "rest", desc := "()I" } : Jvm.MethodName)) ∈ lw_all := lw_g (lw_at lw_m7 87 rfl) rfl
theorem q1626 : (Jvm.Cond.methodLink "Patternforge$Automaton" (137 : Nat) ({ cls := "Patternforge$Listed", name := "beginning", desc := "(I)I" } : Jvm.MethodName)) ∈ lw_all := lw_g (lw_at lw_m7 91 rfl) rfl
theorem q1658 : (Jvm.Cond.instanceMethod ({ cls := "Patternforge$Automaton", name := "go", desc := "()I" } : Jvm.MethodName)) ∈ lw_all := lw_g (lw_at lw_m7 123 rfl) rfl
theorem q1659 : (Jvm.Cond.selects "Patternforge$Automaton" ({ cls := "Patternforge$Automaton", name := "go", desc := "()I" } : Jvm.MethodName) ({ cls := "Patternforge$Automaton", name := "go", desc := "()I" } : Jvm.MethodName)) ∈ lw_all := lw_g (lw_at lw_m7 124 rfl) rfl
theorem q1660 : (Jvm.Cond.code ({ cls := "Patternforge$Automaton", name := "go", desc := "()I" } : Jvm.MethodName) prog_3_method_9_code (6 : Nat) (Option.some Jvm.ClassFile.FieldType.int)) ∈ lw_all := lw_g (lw_at lw_m7 125 rfl) rfl
theorem q1661 : (Jvm.Cond.methodLink "Patternforge$Automaton" (145 : Nat) ({ cls := "Patternforge$Running", name := "at", desc := "(II)I" } : Jvm.MethodName)) ∈ lw_all := lw_g (lw_at lw_m7 126 rfl) rfl
theorem q1662 : (Jvm.Cond.methodLinkNest "Patternforge$Automaton" (150 : Nat) ({ cls := "Patternforge", name := "inRange", desc := "(III)Z" } : Jvm.MethodName) "Patternforge") ∈ lw_tbl := lw_at lw_m7 127 rfl
theorem q1663 : (Jvm.Cond.methodLink "Patternforge$Automaton" (154 : Nat) ({ cls := "Patternforge$Running", name := "seen", desc := "(II)I" } : Jvm.MethodName)) ∈ lw_all := lw_g (lw_at lw_m7 128 rfl) rfl
theorem q1664 : (Jvm.Cond.methodLink "Patternforge$Automaton" (160 : Nat) ({ cls := "Patternforge$Running", name := "look", desc := "(I)I" } : Jvm.MethodName)) ∈ lw_all := lw_g (lw_at lw_m7 129 rfl) rfl
theorem q1665 : (Jvm.Cond.methodLink "Patternforge$Automaton" (163 : Nat) ({ cls := "Patternforge$Running", name := "binds", desc := "(LPatternforge$Case;)V" } : Jvm.MethodName)) ∈ lw_all := lw_g (lw_at lw_m7 130 rfl) rfl
theorem q1670 : (Jvm.Cond.methodLink "Patternforge$Automaton" (167 : Nat) ({ cls := "Patternforge$Running", name := "guards", desc := "(LPatternforge$Case;)I" } : Jvm.MethodName)) ∈ lw_all := lw_g (lw_at lw_m7 135 rfl) rfl
theorem q2306 : (Jvm.Cond.castable "Patternforge$Automaton" "java/lang/Object") ∈ lw_tbl := lw_at lw_m10 51 rfl
theorem in_X5 : ∀ w ∈ wsX50, w ∈ lw_all := lw_in wsX50 [319, 321, 323, 325] (by decide +kernel) (by decide +kernel)
