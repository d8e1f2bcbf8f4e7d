/-! PatternforgeLaw -/
set_option maxRecDepth 100000
def RX0 : String := "PatternforgeLaw"
abbrev cX0_constructor : ByteArray := method_3_code
def yX0_constructor : MethodName := ⟨RX0, "constructor", "(LPatternforge;IIIII[J)I"⟩
def dkwX0_constructor_1 : List UInt8 := [58, 7, 5, 172, 58, 7, 6, 172, 3, 172]
abbrev dktX0_constructor_1 : List UInt8 := dkwX0_constructor_1 ++ []
def dkwX0_constructor_0 : List UInt8 := [25, 6, 3, 42, 27, 28, 29, 21, 4, 21, 5, 182, 0, 7, 133, 80, 167, 0, 15, 58, 7, 4, 172]
abbrev dktX0_constructor_0 : List UInt8 := dkwX0_constructor_0 ++ dktX0_constructor_1
theorem dksX0_constructor_0 : cX0_constructor.data.toList.drop 0 = dktX0_constructor_0 := by decide +kernel
theorem dksX0_constructor_1 : cX0_constructor.data.toList.drop 23 = dktX0_constructor_1 := dk_seg dksX0_constructor_0 23 rfl rfl
theorem dX0_constructor_0 : decode cX0_constructor 0 = .ok (.aload 6, 2) := dk_25 6 (dk_at dksX0_constructor_0 0 rfl rfl)
theorem dX0_constructor_2 : decode cX0_constructor 2 = .ok (.iconst 0, 1) := dk_3 (dk_at dksX0_constructor_0 2 rfl rfl)
theorem dX0_constructor_3 : decode cX0_constructor 3 = .ok (.aload_n 0, 1) := dk_42 (dk_at dksX0_constructor_0 3 rfl rfl)
theorem dX0_constructor_4 : decode cX0_constructor 4 = .ok (.iload_n 1, 1) := dk_27 (dk_at dksX0_constructor_0 4 rfl rfl)
theorem dX0_constructor_5 : decode cX0_constructor 5 = .ok (.iload_n 2, 1) := dk_28 (dk_at dksX0_constructor_0 5 rfl rfl)
theorem dX0_constructor_6 : decode cX0_constructor 6 = .ok (.iload_n 3, 1) := dk_29 (dk_at dksX0_constructor_0 6 rfl rfl)
theorem dX0_constructor_7 : decode cX0_constructor 7 = .ok (.iload 4, 2) := dk_21 4 (dk_at dksX0_constructor_0 7 rfl rfl)
theorem dX0_constructor_9 : decode cX0_constructor 9 = .ok (.iload 5, 2) := dk_21 5 (dk_at dksX0_constructor_0 9 rfl rfl)
theorem dX0_constructor_11 : decode cX0_constructor 11 = .ok (.invokevirtual 7, 3) := dk_182 0 7 (dk_at dksX0_constructor_0 11 rfl rfl)
theorem dX0_constructor_14 : decode cX0_constructor 14 = .ok (.i2l, 1) := dk_133 (dk_at dksX0_constructor_0 14 rfl rfl)
theorem dX0_constructor_15 : decode cX0_constructor 15 = .ok (.lastore, 1) := dk_80 (dk_at dksX0_constructor_0 15 rfl rfl)
theorem dX0_constructor_16 : decode cX0_constructor 16 = .ok (.goto 15, 3) := dk_167 0 15 (dk_at dksX0_constructor_0 16 rfl rfl)
theorem dX0_constructor_19 : decode cX0_constructor 19 = .ok (.astore 7, 2) := dk_58 7 (dk_at dksX0_constructor_0 19 rfl rfl)
theorem dX0_constructor_21 : decode cX0_constructor 21 = .ok (.iconst 1, 1) := dk_4 (dk_at dksX0_constructor_0 21 rfl rfl)
theorem dX0_constructor_22 : decode cX0_constructor 22 = .ok (.ireturn, 1) := dk_172 (dk_at dksX0_constructor_0 22 rfl rfl)
theorem dX0_constructor_23 : decode cX0_constructor 23 = .ok (.astore 7, 2) := dk_58 7 (dk_at dksX0_constructor_1 0 rfl rfl)
theorem dX0_constructor_25 : decode cX0_constructor 25 = .ok (.iconst 2, 1) := dk_5 (dk_at dksX0_constructor_1 2 rfl rfl)
theorem dX0_constructor_26 : decode cX0_constructor 26 = .ok (.ireturn, 1) := dk_172 (dk_at dksX0_constructor_1 3 rfl rfl)
theorem dX0_constructor_27 : decode cX0_constructor 27 = .ok (.astore 7, 2) := dk_58 7 (dk_at dksX0_constructor_1 4 rfl rfl)
theorem dX0_constructor_29 : decode cX0_constructor 29 = .ok (.iconst 3, 1) := dk_6 (dk_at dksX0_constructor_1 6 rfl rfl)
theorem dX0_constructor_30 : decode cX0_constructor 30 = .ok (.ireturn, 1) := dk_172 (dk_at dksX0_constructor_1 7 rfl rfl)
theorem dX0_constructor_31 : decode cX0_constructor 31 = .ok (.iconst 0, 1) := dk_3 (dk_at dksX0_constructor_1 8 rfl rfl)
theorem dX0_constructor_32 : decode cX0_constructor 32 = .ok (.ireturn, 1) := dk_172 (dk_at dksX0_constructor_1 9 rfl rfl)
abbrev cX0_num : ByteArray := method_4_code
def yX0_num : MethodName := ⟨RX0, "num", "(LPatternforge;I[J)I"⟩
def dkwX0_num_0 : List UInt8 := [44, 3, 42, 27, 182, 0, 19, 133, 80, 167, 0, 9, 78, 4, 172, 78, 5, 172, 3, 172]
abbrev dktX0_num_0 : List UInt8 := dkwX0_num_0 ++ []
theorem dksX0_num_0 : cX0_num.data.toList.drop 0 = dktX0_num_0 := by decide +kernel
theorem dX0_num_0 : decode cX0_num 0 = .ok (.aload_n 2, 1) := dk_44 (dk_at dksX0_num_0 0 rfl rfl)
theorem dX0_num_1 : decode cX0_num 1 = .ok (.iconst 0, 1) := dk_3 (dk_at dksX0_num_0 1 rfl rfl)
theorem dX0_num_2 : decode cX0_num 2 = .ok (.aload_n 0, 1) := dk_42 (dk_at dksX0_num_0 2 rfl rfl)
theorem dX0_num_3 : decode cX0_num 3 = .ok (.iload_n 1, 1) := dk_27 (dk_at dksX0_num_0 3 rfl rfl)
theorem dX0_num_4 : decode cX0_num 4 = .ok (.invokevirtual 19, 3) := dk_182 0 19 (dk_at dksX0_num_0 4 rfl rfl)
theorem dX0_num_7 : decode cX0_num 7 = .ok (.i2l, 1) := dk_133 (dk_at dksX0_num_0 7 rfl rfl)
theorem dX0_num_8 : decode cX0_num 8 = .ok (.lastore, 1) := dk_80 (dk_at dksX0_num_0 8 rfl rfl)
theorem dX0_num_9 : decode cX0_num 9 = .ok (.goto 9, 3) := dk_167 0 9 (dk_at dksX0_num_0 9 rfl rfl)
theorem dX0_num_12 : decode cX0_num 12 = .ok (.astore_n 3, 1) := dk_78 (dk_at dksX0_num_0 12 rfl rfl)
theorem dX0_num_13 : decode cX0_num 13 = .ok (.iconst 1, 1) := dk_4 (dk_at dksX0_num_0 13 rfl rfl)
theorem dX0_num_14 : decode cX0_num 14 = .ok (.ireturn, 1) := dk_172 (dk_at dksX0_num_0 14 rfl rfl)
theorem dX0_num_15 : decode cX0_num 15 = .ok (.astore_n 3, 1) := dk_78 (dk_at dksX0_num_0 15 rfl rfl)
theorem dX0_num_16 : decode cX0_num 16 = .ok (.iconst 2, 1) := dk_5 (dk_at dksX0_num_0 16 rfl rfl)
theorem dX0_num_17 : decode cX0_num 17 = .ok (.ireturn, 1) := dk_172 (dk_at dksX0_num_0 17 rfl rfl)
theorem dX0_num_18 : decode cX0_num 18 = .ok (.iconst 0, 1) := dk_3 (dk_at dksX0_num_0 18 rfl rfl)
theorem dX0_num_19 : decode cX0_num 19 = .ok (.ireturn, 1) := dk_172 (dk_at dksX0_num_0 19 rfl rfl)
abbrev cX0_seq : ByteArray := method_5_code
def yX0_seq : MethodName := ⟨RX0, "seq", "(LPatternforge;IIII[J)I"⟩
def dkwX0_seq_1 : List UInt8 := [172, 3, 172]
abbrev dktX0_seq_1 : List UInt8 := dkwX0_seq_1 ++ []
def dkwX0_seq_0 : List UInt8 := [25, 5, 3, 42, 27, 28, 29, 21, 4, 182, 0, 23, 133, 80, 167, 0, 11, 58, 6, 4, 172, 58, 6, 5]
abbrev dktX0_seq_0 : List UInt8 := dkwX0_seq_0 ++ dktX0_seq_1
theorem dksX0_seq_0 : cX0_seq.data.toList.drop 0 = dktX0_seq_0 := by decide +kernel
theorem dksX0_seq_1 : cX0_seq.data.toList.drop 24 = dktX0_seq_1 := dk_seg dksX0_seq_0 24 rfl rfl
theorem dX0_seq_0 : decode cX0_seq 0 = .ok (.aload 5, 2) := dk_25 5 (dk_at dksX0_seq_0 0 rfl rfl)
theorem dX0_seq_2 : decode cX0_seq 2 = .ok (.iconst 0, 1) := dk_3 (dk_at dksX0_seq_0 2 rfl rfl)
theorem dX0_seq_3 : decode cX0_seq 3 = .ok (.aload_n 0, 1) := dk_42 (dk_at dksX0_seq_0 3 rfl rfl)
theorem dX0_seq_4 : decode cX0_seq 4 = .ok (.iload_n 1, 1) := dk_27 (dk_at dksX0_seq_0 4 rfl rfl)
theorem dX0_seq_5 : decode cX0_seq 5 = .ok (.iload_n 2, 1) := dk_28 (dk_at dksX0_seq_0 5 rfl rfl)
theorem dX0_seq_6 : decode cX0_seq 6 = .ok (.iload_n 3, 1) := dk_29 (dk_at dksX0_seq_0 6 rfl rfl)
theorem dX0_seq_7 : decode cX0_seq 7 = .ok (.iload 4, 2) := dk_21 4 (dk_at dksX0_seq_0 7 rfl rfl)
theorem dX0_seq_9 : decode cX0_seq 9 = .ok (.invokevirtual 23, 3) := dk_182 0 23 (dk_at dksX0_seq_0 9 rfl rfl)
theorem dX0_seq_12 : decode cX0_seq 12 = .ok (.i2l, 1) := dk_133 (dk_at dksX0_seq_0 12 rfl rfl)
theorem dX0_seq_13 : decode cX0_seq 13 = .ok (.lastore, 1) := dk_80 (dk_at dksX0_seq_0 13 rfl rfl)
theorem dX0_seq_14 : decode cX0_seq 14 = .ok (.goto 11, 3) := dk_167 0 11 (dk_at dksX0_seq_0 14 rfl rfl)
theorem dX0_seq_17 : decode cX0_seq 17 = .ok (.astore 6, 2) := dk_58 6 (dk_at dksX0_seq_0 17 rfl rfl)
theorem dX0_seq_19 : decode cX0_seq 19 = .ok (.iconst 1, 1) := dk_4 (dk_at dksX0_seq_0 19 rfl rfl)
theorem dX0_seq_20 : decode cX0_seq 20 = .ok (.ireturn, 1) := dk_172 (dk_at dksX0_seq_0 20 rfl rfl)
theorem dX0_seq_21 : decode cX0_seq 21 = .ok (.astore 6, 2) := dk_58 6 (dk_at dksX0_seq_0 21 rfl rfl)
theorem dX0_seq_23 : decode cX0_seq 23 = .ok (.iconst 2, 1) := dk_5 (dk_at dksX0_seq_0 23 rfl rfl)
theorem dX0_seq_24 : decode cX0_seq 24 = .ok (.ireturn, 1) := dk_172 (dk_at dksX0_seq_1 0 rfl rfl)
theorem dX0_seq_25 : decode cX0_seq 25 = .ok (.iconst 0, 1) := dk_3 (dk_at dksX0_seq_1 1 rfl rfl)
theorem dX0_seq_26 : decode cX0_seq 26 = .ok (.ireturn, 1) := dk_172 (dk_at dksX0_seq_1 2 rfl rfl)
abbrev cX0_data : ByteArray := method_6_code
def yX0_data : MethodName := ⟨RX0, "data", "(LPatternforge;IIIII[J)I"⟩
def dkwX0_data_1 : List UInt8 := [58, 7, 5, 172, 58, 7, 6, 172, 3, 172]
abbrev dktX0_data_1 : List UInt8 := dkwX0_data_1 ++ []
def dkwX0_data_0 : List UInt8 := [25, 6, 3, 42, 27, 28, 29, 21, 4, 21, 5, 182, 0, 27, 133, 80, 167, 0, 15, 58, 7, 4, 172]
abbrev dktX0_data_0 : List UInt8 := dkwX0_data_0 ++ dktX0_data_1
theorem dksX0_data_0 : cX0_data.data.toList.drop 0 = dktX0_data_0 := by decide +kernel
theorem dksX0_data_1 : cX0_data.data.toList.drop 23 = dktX0_data_1 := dk_seg dksX0_data_0 23 rfl rfl
theorem dX0_data_0 : decode cX0_data 0 = .ok (.aload 6, 2) := dk_25 6 (dk_at dksX0_data_0 0 rfl rfl)
theorem dX0_data_2 : decode cX0_data 2 = .ok (.iconst 0, 1) := dk_3 (dk_at dksX0_data_0 2 rfl rfl)
theorem dX0_data_3 : decode cX0_data 3 = .ok (.aload_n 0, 1) := dk_42 (dk_at dksX0_data_0 3 rfl rfl)
theorem dX0_data_4 : decode cX0_data 4 = .ok (.iload_n 1, 1) := dk_27 (dk_at dksX0_data_0 4 rfl rfl)
theorem dX0_data_5 : decode cX0_data 5 = .ok (.iload_n 2, 1) := dk_28 (dk_at dksX0_data_0 5 rfl rfl)
theorem dX0_data_6 : decode cX0_data 6 = .ok (.iload_n 3, 1) := dk_29 (dk_at dksX0_data_0 6 rfl rfl)
theorem dX0_data_7 : decode cX0_data 7 = .ok (.iload 4, 2) := dk_21 4 (dk_at dksX0_data_0 7 rfl rfl)
theorem dX0_data_9 : decode cX0_data 9 = .ok (.iload 5, 2) := dk_21 5 (dk_at dksX0_data_0 9 rfl rfl)
theorem dX0_data_11 : decode cX0_data 11 = .ok (.invokevirtual 27, 3) := dk_182 0 27 (dk_at dksX0_data_0 11 rfl rfl)
theorem dX0_data_14 : decode cX0_data 14 = .ok (.i2l, 1) := dk_133 (dk_at dksX0_data_0 14 rfl rfl)
theorem dX0_data_15 : decode cX0_data 15 = .ok (.lastore, 1) := dk_80 (dk_at dksX0_data_0 15 rfl rfl)
theorem dX0_data_16 : decode cX0_data 16 = .ok (.goto 15, 3) := dk_167 0 15 (dk_at dksX0_data_0 16 rfl rfl)
theorem dX0_data_19 : decode cX0_data 19 = .ok (.astore 7, 2) := dk_58 7 (dk_at dksX0_data_0 19 rfl rfl)
theorem dX0_data_21 : decode cX0_data 21 = .ok (.iconst 1, 1) := dk_4 (dk_at dksX0_data_0 21 rfl rfl)
theorem dX0_data_22 : decode cX0_data 22 = .ok (.ireturn, 1) := dk_172 (dk_at dksX0_data_0 22 rfl rfl)
theorem dX0_data_23 : decode cX0_data 23 = .ok (.astore 7, 2) := dk_58 7 (dk_at dksX0_data_1 0 rfl rfl)
theorem dX0_data_25 : decode cX0_data 25 = .ok (.iconst 2, 1) := dk_5 (dk_at dksX0_data_1 2 rfl rfl)
theorem dX0_data_26 : decode cX0_data 26 = .ok (.ireturn, 1) := dk_172 (dk_at dksX0_data_1 3 rfl rfl)
theorem dX0_data_27 : decode cX0_data 27 = .ok (.astore 7, 2) := dk_58 7 (dk_at dksX0_data_1 4 rfl rfl)
theorem dX0_data_29 : decode cX0_data 29 = .ok (.iconst 3, 1) := dk_6 (dk_at dksX0_data_1 6 rfl rfl)
theorem dX0_data_30 : decode cX0_data 30 = .ok (.ireturn, 1) := dk_172 (dk_at dksX0_data_1 7 rfl rfl)
theorem dX0_data_31 : decode cX0_data 31 = .ok (.iconst 0, 1) := dk_3 (dk_at dksX0_data_1 8 rfl rfl)
theorem dX0_data_32 : decode cX0_data 32 = .ok (.ireturn, 1) := dk_172 (dk_at dksX0_data_1 9 rfl rfl)
abbrev cX0_any : ByteArray := method_7_code
def yX0_any : MethodName := ⟨RX0, "any", "(LPatternforge;[J)I"⟩
def dkwX0_any_0 : List UInt8 := [43, 3, 42, 182, 0, 30, 133, 80, 167, 0, 6, 77, 4, 172, 3, 172]
abbrev dktX0_any_0 : List UInt8 := dkwX0_any_0 ++ []
theorem dksX0_any_0 : cX0_any.data.toList.drop 0 = dktX0_any_0 := by decide +kernel
theorem dX0_any_0 : decode cX0_any 0 = .ok (.aload_n 1, 1) := dk_43 (dk_at dksX0_any_0 0 rfl rfl)
theorem dX0_any_1 : decode cX0_any 1 = .ok (.iconst 0, 1) := dk_3 (dk_at dksX0_any_0 1 rfl rfl)
theorem dX0_any_2 : decode cX0_any 2 = .ok (.aload_n 0, 1) := dk_42 (dk_at dksX0_any_0 2 rfl rfl)
theorem dX0_any_3 : decode cX0_any 3 = .ok (.invokevirtual 30, 3) := dk_182 0 30 (dk_at dksX0_any_0 3 rfl rfl)
theorem dX0_any_6 : decode cX0_any 6 = .ok (.i2l, 1) := dk_133 (dk_at dksX0_any_0 6 rfl rfl)
theorem dX0_any_7 : decode cX0_any 7 = .ok (.lastore, 1) := dk_80 (dk_at dksX0_any_0 7 rfl rfl)
theorem dX0_any_8 : decode cX0_any 8 = .ok (.goto 6, 3) := dk_167 0 6 (dk_at dksX0_any_0 8 rfl rfl)
theorem dX0_any_11 : decode cX0_any 11 = .ok (.astore_n 2, 1) := dk_77 (dk_at dksX0_any_0 11 rfl rfl)
theorem dX0_any_12 : decode cX0_any 12 = .ok (.iconst 1, 1) := dk_4 (dk_at dksX0_any_0 12 rfl rfl)
theorem dX0_any_13 : decode cX0_any 13 = .ok (.ireturn, 1) := dk_172 (dk_at dksX0_any_0 13 rfl rfl)
theorem dX0_any_14 : decode cX0_any 14 = .ok (.iconst 0, 1) := dk_3 (dk_at dksX0_any_0 14 rfl rfl)
theorem dX0_any_15 : decode cX0_any 15 = .ok (.ireturn, 1) := dk_172 (dk_at dksX0_any_0 15 rfl rfl)
abbrev cX0_name : ByteArray := method_8_code
def yX0_name : MethodName := ⟨RX0, "name", "(LPatternforge;II[J)I"⟩
def dkwX0_name_1 : List UInt8 := [172, 3, 172]
abbrev dktX0_name_1 : List UInt8 := dkwX0_name_1 ++ []
def dkwX0_name_0 : List UInt8 := [45, 3, 42, 27, 28, 182, 0, 34, 133, 80, 167, 0, 15, 58, 4, 4, 172, 58, 4, 5, 172, 58, 4, 6]
abbrev dktX0_name_0 : List UInt8 := dkwX0_name_0 ++ dktX0_name_1
theorem dksX0_name_0 : cX0_name.data.toList.drop 0 = dktX0_name_0 := by decide +kernel
theorem dksX0_name_1 : cX0_name.data.toList.drop 24 = dktX0_name_1 := dk_seg dksX0_name_0 24 rfl rfl
theorem dX0_name_0 : decode cX0_name 0 = .ok (.aload_n 3, 1) := dk_45 (dk_at dksX0_name_0 0 rfl rfl)
theorem dX0_name_1 : decode cX0_name 1 = .ok (.iconst 0, 1) := dk_3 (dk_at dksX0_name_0 1 rfl rfl)
theorem dX0_name_2 : decode cX0_name 2 = .ok (.aload_n 0, 1) := dk_42 (dk_at dksX0_name_0 2 rfl rfl)
theorem dX0_name_3 : decode cX0_name 3 = .ok (.iload_n 1, 1) := dk_27 (dk_at dksX0_name_0 3 rfl rfl)
theorem dX0_name_4 : decode cX0_name 4 = .ok (.iload_n 2, 1) := dk_28 (dk_at dksX0_name_0 4 rfl rfl)
theorem dX0_name_5 : decode cX0_name 5 = .ok (.invokevirtual 34, 3) := dk_182 0 34 (dk_at dksX0_name_0 5 rfl rfl)
theorem dX0_name_8 : decode cX0_name 8 = .ok (.i2l, 1) := dk_133 (dk_at dksX0_name_0 8 rfl rfl)
theorem dX0_name_9 : decode cX0_name 9 = .ok (.lastore, 1) := dk_80 (dk_at dksX0_name_0 9 rfl rfl)
theorem dX0_name_10 : decode cX0_name 10 = .ok (.goto 15, 3) := dk_167 0 15 (dk_at dksX0_name_0 10 rfl rfl)
theorem dX0_name_13 : decode cX0_name 13 = .ok (.astore 4, 2) := dk_58 4 (dk_at dksX0_name_0 13 rfl rfl)
theorem dX0_name_15 : decode cX0_name 15 = .ok (.iconst 1, 1) := dk_4 (dk_at dksX0_name_0 15 rfl rfl)
theorem dX0_name_16 : decode cX0_name 16 = .ok (.ireturn, 1) := dk_172 (dk_at dksX0_name_0 16 rfl rfl)
theorem dX0_name_17 : decode cX0_name 17 = .ok (.astore 4, 2) := dk_58 4 (dk_at dksX0_name_0 17 rfl rfl)
theorem dX0_name_19 : decode cX0_name 19 = .ok (.iconst 2, 1) := dk_5 (dk_at dksX0_name_0 19 rfl rfl)
theorem dX0_name_20 : decode cX0_name 20 = .ok (.ireturn, 1) := dk_172 (dk_at dksX0_name_0 20 rfl rfl)
theorem dX0_name_21 : decode cX0_name 21 = .ok (.astore 4, 2) := dk_58 4 (dk_at dksX0_name_0 21 rfl rfl)
theorem dX0_name_23 : decode cX0_name 23 = .ok (.iconst 3, 1) := dk_6 (dk_at dksX0_name_0 23 rfl rfl)
theorem dX0_name_24 : decode cX0_name 24 = .ok (.ireturn, 1) := dk_172 (dk_at dksX0_name_1 0 rfl rfl)
theorem dX0_name_25 : decode cX0_name 25 = .ok (.iconst 0, 1) := dk_3 (dk_at dksX0_name_1 1 rfl rfl)
theorem dX0_name_26 : decode cX0_name 26 = .ok (.ireturn, 1) := dk_172 (dk_at dksX0_name_1 2 rfl rfl)
abbrev cX0_range : ByteArray := method_9_code
def yX0_range : MethodName := ⟨RX0, "range", "(LPatternforge;II[J)I"⟩
def dkwX0_range_0 : List UInt8 := [45, 3, 42, 27, 28, 182, 0, 38, 133, 80, 167, 0, 11, 58, 4, 4, 172, 58, 4, 5, 172, 3, 172]
abbrev dktX0_range_0 : List UInt8 := dkwX0_range_0 ++ []
theorem dksX0_range_0 : cX0_range.data.toList.drop 0 = dktX0_range_0 := by decide +kernel
theorem dX0_range_0 : decode cX0_range 0 = .ok (.aload_n 3, 1) := dk_45 (dk_at dksX0_range_0 0 rfl rfl)
theorem dX0_range_1 : decode cX0_range 1 = .ok (.iconst 0, 1) := dk_3 (dk_at dksX0_range_0 1 rfl rfl)
theorem dX0_range_2 : decode cX0_range 2 = .ok (.aload_n 0, 1) := dk_42 (dk_at dksX0_range_0 2 rfl rfl)
theorem dX0_range_3 : decode cX0_range 3 = .ok (.iload_n 1, 1) := dk_27 (dk_at dksX0_range_0 3 rfl rfl)
theorem dX0_range_4 : decode cX0_range 4 = .ok (.iload_n 2, 1) := dk_28 (dk_at dksX0_range_0 4 rfl rfl)
theorem dX0_range_5 : decode cX0_range 5 = .ok (.invokevirtual 38, 3) := dk_182 0 38 (dk_at dksX0_range_0 5 rfl rfl)
theorem dX0_range_8 : decode cX0_range 8 = .ok (.i2l, 1) := dk_133 (dk_at dksX0_range_0 8 rfl rfl)
theorem dX0_range_9 : decode cX0_range 9 = .ok (.lastore, 1) := dk_80 (dk_at dksX0_range_0 9 rfl rfl)
theorem dX0_range_10 : decode cX0_range 10 = .ok (.goto 11, 3) := dk_167 0 11 (dk_at dksX0_range_0 10 rfl rfl)
theorem dX0_range_13 : decode cX0_range 13 = .ok (.astore 4, 2) := dk_58 4 (dk_at dksX0_range_0 13 rfl rfl)
theorem dX0_range_15 : decode cX0_range 15 = .ok (.iconst 1, 1) := dk_4 (dk_at dksX0_range_0 15 rfl rfl)
theorem dX0_range_16 : decode cX0_range 16 = .ok (.ireturn, 1) := dk_172 (dk_at dksX0_range_0 16 rfl rfl)
theorem dX0_range_17 : decode cX0_range 17 = .ok (.astore 4, 2) := dk_58 4 (dk_at dksX0_range_0 17 rfl rfl)
theorem dX0_range_19 : decode cX0_range 19 = .ok (.iconst 2, 1) := dk_5 (dk_at dksX0_range_0 19 rfl rfl)
theorem dX0_range_20 : decode cX0_range 20 = .ok (.ireturn, 1) := dk_172 (dk_at dksX0_range_0 20 rfl rfl)
theorem dX0_range_21 : decode cX0_range 21 = .ok (.iconst 0, 1) := dk_3 (dk_at dksX0_range_0 21 rfl rfl)
theorem dX0_range_22 : decode cX0_range 22 = .ok (.ireturn, 1) := dk_172 (dk_at dksX0_range_0 22 rfl rfl)
abbrev cX0_make : ByteArray := method_10_code
def yX0_make : MethodName := ⟨RX0, "make", "(LPatternforge;IIIII[J)I"⟩
def dkwX0_make_1 : List UInt8 := [58, 7, 5, 172, 58, 7, 6, 172, 3, 172]
abbrev dktX0_make_1 : List UInt8 := dkwX0_make_1 ++ []
def dkwX0_make_0 : List UInt8 := [25, 6, 3, 42, 27, 28, 29, 21, 4, 21, 5, 182, 0, 41, 133, 80, 167, 0, 15, 58, 7, 4, 172]
abbrev dktX0_make_0 : List UInt8 := dkwX0_make_0 ++ dktX0_make_1
theorem dksX0_make_0 : cX0_make.data.toList.drop 0 = dktX0_make_0 := by decide +kernel
theorem dksX0_make_1 : cX0_make.data.toList.drop 23 = dktX0_make_1 := dk_seg dksX0_make_0 23 rfl rfl
theorem dX0_make_0 : decode cX0_make 0 = .ok (.aload 6, 2) := dk_25 6 (dk_at dksX0_make_0 0 rfl rfl)
theorem dX0_make_2 : decode cX0_make 2 = .ok (.iconst 0, 1) := dk_3 (dk_at dksX0_make_0 2 rfl rfl)
theorem dX0_make_3 : decode cX0_make 3 = .ok (.aload_n 0, 1) := dk_42 (dk_at dksX0_make_0 3 rfl rfl)
theorem dX0_make_4 : decode cX0_make 4 = .ok (.iload_n 1, 1) := dk_27 (dk_at dksX0_make_0 4 rfl rfl)
theorem dX0_make_5 : decode cX0_make 5 = .ok (.iload_n 2, 1) := dk_28 (dk_at dksX0_make_0 5 rfl rfl)
theorem dX0_make_6 : decode cX0_make 6 = .ok (.iload_n 3, 1) := dk_29 (dk_at dksX0_make_0 6 rfl rfl)
theorem dX0_make_7 : decode cX0_make 7 = .ok (.iload 4, 2) := dk_21 4 (dk_at dksX0_make_0 7 rfl rfl)
theorem dX0_make_9 : decode cX0_make 9 = .ok (.iload 5, 2) := dk_21 5 (dk_at dksX0_make_0 9 rfl rfl)
theorem dX0_make_11 : decode cX0_make 11 = .ok (.invokevirtual 41, 3) := dk_182 0 41 (dk_at dksX0_make_0 11 rfl rfl)
theorem dX0_make_14 : decode cX0_make 14 = .ok (.i2l, 1) := dk_133 (dk_at dksX0_make_0 14 rfl rfl)
theorem dX0_make_15 : decode cX0_make 15 = .ok (.lastore, 1) := dk_80 (dk_at dksX0_make_0 15 rfl rfl)
theorem dX0_make_16 : decode cX0_make 16 = .ok (.goto 15, 3) := dk_167 0 15 (dk_at dksX0_make_0 16 rfl rfl)
theorem dX0_make_19 : decode cX0_make 19 = .ok (.astore 7, 2) := dk_58 7 (dk_at dksX0_make_0 19 rfl rfl)
theorem dX0_make_21 : decode cX0_make 21 = .ok (.iconst 1, 1) := dk_4 (dk_at dksX0_make_0 21 rfl rfl)
theorem dX0_make_22 : decode cX0_make 22 = .ok (.ireturn, 1) := dk_172 (dk_at dksX0_make_0 22 rfl rfl)
theorem dX0_make_23 : decode cX0_make 23 = .ok (.astore 7, 2) := dk_58 7 (dk_at dksX0_make_1 0 rfl rfl)
theorem dX0_make_25 : decode cX0_make 25 = .ok (.iconst 2, 1) := dk_5 (dk_at dksX0_make_1 2 rfl rfl)
theorem dX0_make_26 : decode cX0_make 26 = .ok (.ireturn, 1) := dk_172 (dk_at dksX0_make_1 3 rfl rfl)
theorem dX0_make_27 : decode cX0_make 27 = .ok (.astore 7, 2) := dk_58 7 (dk_at dksX0_make_1 4 rfl rfl)
theorem dX0_make_29 : decode cX0_make 29 = .ok (.iconst 3, 1) := dk_6 (dk_at dksX0_make_1 6 rfl rfl)
theorem dX0_make_30 : decode cX0_make 30 = .ok (.ireturn, 1) := dk_172 (dk_at dksX0_make_1 7 rfl rfl)
theorem dX0_make_31 : decode cX0_make 31 = .ok (.iconst 0, 1) := dk_3 (dk_at dksX0_make_1 8 rfl rfl)
theorem dX0_make_32 : decode cX0_make 32 = .ok (.ireturn, 1) := dk_172 (dk_at dksX0_make_1 9 rfl rfl)
abbrev cX0_either : ByteArray := method_11_code
def yX0_either : MethodName := ⟨RX0, "either", "(LPatternforge;II[J)I"⟩
def dkwX0_either_1 : List UInt8 := [172, 3, 172]
abbrev dktX0_either_1 : List UInt8 := dkwX0_either_1 ++ []
def dkwX0_either_0 : List UInt8 := [45, 3, 42, 27, 28, 182, 0, 44, 133, 80, 167, 0, 15, 58, 4, 4, 172, 58, 4, 5, 172, 58, 4, 6]
abbrev dktX0_either_0 : List UInt8 := dkwX0_either_0 ++ dktX0_either_1
theorem dksX0_either_0 : cX0_either.data.toList.drop 0 = dktX0_either_0 := by decide +kernel
theorem dksX0_either_1 : cX0_either.data.toList.drop 24 = dktX0_either_1 := dk_seg dksX0_either_0 24 rfl rfl
theorem dX0_either_0 : decode cX0_either 0 = .ok (.aload_n 3, 1) := dk_45 (dk_at dksX0_either_0 0 rfl rfl)
theorem dX0_either_1 : decode cX0_either 1 = .ok (.iconst 0, 1) := dk_3 (dk_at dksX0_either_0 1 rfl rfl)
theorem dX0_either_2 : decode cX0_either 2 = .ok (.aload_n 0, 1) := dk_42 (dk_at dksX0_either_0 2 rfl rfl)
theorem dX0_either_3 : decode cX0_either 3 = .ok (.iload_n 1, 1) := dk_27 (dk_at dksX0_either_0 3 rfl rfl)
theorem dX0_either_4 : decode cX0_either 4 = .ok (.iload_n 2, 1) := dk_28 (dk_at dksX0_either_0 4 rfl rfl)
theorem dX0_either_5 : decode cX0_either 5 = .ok (.invokevirtual 44, 3) := dk_182 0 44 (dk_at dksX0_either_0 5 rfl rfl)
theorem dX0_either_8 : decode cX0_either 8 = .ok (.i2l, 1) := dk_133 (dk_at dksX0_either_0 8 rfl rfl)
theorem dX0_either_9 : decode cX0_either 9 = .ok (.lastore, 1) := dk_80 (dk_at dksX0_either_0 9 rfl rfl)
theorem dX0_either_10 : decode cX0_either 10 = .ok (.goto 15, 3) := dk_167 0 15 (dk_at dksX0_either_0 10 rfl rfl)
theorem dX0_either_13 : decode cX0_either 13 = .ok (.astore 4, 2) := dk_58 4 (dk_at dksX0_either_0 13 rfl rfl)
theorem dX0_either_15 : decode cX0_either 15 = .ok (.iconst 1, 1) := dk_4 (dk_at dksX0_either_0 15 rfl rfl)
theorem dX0_either_16 : decode cX0_either 16 = .ok (.ireturn, 1) := dk_172 (dk_at dksX0_either_0 16 rfl rfl)
theorem dX0_either_17 : decode cX0_either 17 = .ok (.astore 4, 2) := dk_58 4 (dk_at dksX0_either_0 17 rfl rfl)
theorem dX0_either_19 : decode cX0_either 19 = .ok (.iconst 2, 1) := dk_5 (dk_at dksX0_either_0 19 rfl rfl)
theorem dX0_either_20 : decode cX0_either 20 = .ok (.ireturn, 1) := dk_172 (dk_at dksX0_either_0 20 rfl rfl)
theorem dX0_either_21 : decode cX0_either 21 = .ok (.astore 4, 2) := dk_58 4 (dk_at dksX0_either_0 21 rfl rfl)
theorem dX0_either_23 : decode cX0_either 23 = .ok (.iconst 3, 1) := dk_6 (dk_at dksX0_either_0 23 rfl rfl)
theorem dX0_either_24 : decode cX0_either 24 = .ok (.ireturn, 1) := dk_172 (dk_at dksX0_either_1 0 rfl rfl)
theorem dX0_either_25 : decode cX0_either 25 = .ok (.iconst 0, 1) := dk_3 (dk_at dksX0_either_1 1 rfl rfl)
theorem dX0_either_26 : decode cX0_either 26 = .ok (.ireturn, 1) := dk_172 (dk_at dksX0_either_1 2 rfl rfl)
abbrev cX0_view : ByteArray := method_12_code
def yX0_view : MethodName := ⟨RX0, "view", "(LPatternforge;II[J)I"⟩
def dkwX0_view_1 : List UInt8 := [172, 3, 172]
abbrev dktX0_view_1 : List UInt8 := dkwX0_view_1 ++ []
def dkwX0_view_0 : List UInt8 := [45, 3, 42, 27, 28, 182, 0, 47, 133, 80, 167, 0, 15, 58, 4, 4, 172, 58, 4, 5, 172, 58, 4, 6]
abbrev dktX0_view_0 : List UInt8 := dkwX0_view_0 ++ dktX0_view_1
theorem dksX0_view_0 : cX0_view.data.toList.drop 0 = dktX0_view_0 := by decide +kernel
theorem dksX0_view_1 : cX0_view.data.toList.drop 24 = dktX0_view_1 := dk_seg dksX0_view_0 24 rfl rfl
theorem dX0_view_0 : decode cX0_view 0 = .ok (.aload_n 3, 1) := dk_45 (dk_at dksX0_view_0 0 rfl rfl)
theorem dX0_view_1 : decode cX0_view 1 = .ok (.iconst 0, 1) := dk_3 (dk_at dksX0_view_0 1 rfl rfl)
theorem dX0_view_2 : decode cX0_view 2 = .ok (.aload_n 0, 1) := dk_42 (dk_at dksX0_view_0 2 rfl rfl)
theorem dX0_view_3 : decode cX0_view 3 = .ok (.iload_n 1, 1) := dk_27 (dk_at dksX0_view_0 3 rfl rfl)
theorem dX0_view_4 : decode cX0_view 4 = .ok (.iload_n 2, 1) := dk_28 (dk_at dksX0_view_0 4 rfl rfl)
theorem dX0_view_5 : decode cX0_view 5 = .ok (.invokevirtual 47, 3) := dk_182 0 47 (dk_at dksX0_view_0 5 rfl rfl)
theorem dX0_view_8 : decode cX0_view 8 = .ok (.i2l, 1) := dk_133 (dk_at dksX0_view_0 8 rfl rfl)
theorem dX0_view_9 : decode cX0_view 9 = .ok (.lastore, 1) := dk_80 (dk_at dksX0_view_0 9 rfl rfl)
theorem dX0_view_10 : decode cX0_view 10 = .ok (.goto 15, 3) := dk_167 0 15 (dk_at dksX0_view_0 10 rfl rfl)
theorem dX0_view_13 : decode cX0_view 13 = .ok (.astore 4, 2) := dk_58 4 (dk_at dksX0_view_0 13 rfl rfl)
theorem dX0_view_15 : decode cX0_view 15 = .ok (.iconst 1, 1) := dk_4 (dk_at dksX0_view_0 15 rfl rfl)
theorem dX0_view_16 : decode cX0_view 16 = .ok (.ireturn, 1) := dk_172 (dk_at dksX0_view_0 16 rfl rfl)
theorem dX0_view_17 : decode cX0_view 17 = .ok (.astore 4, 2) := dk_58 4 (dk_at dksX0_view_0 17 rfl rfl)
theorem dX0_view_19 : decode cX0_view 19 = .ok (.iconst 2, 1) := dk_5 (dk_at dksX0_view_0 19 rfl rfl)
theorem dX0_view_20 : decode cX0_view 20 = .ok (.ireturn, 1) := dk_172 (dk_at dksX0_view_0 20 rfl rfl)
theorem dX0_view_21 : decode cX0_view 21 = .ok (.astore 4, 2) := dk_58 4 (dk_at dksX0_view_0 21 rfl rfl)
theorem dX0_view_23 : decode cX0_view 23 = .ok (.iconst 3, 1) := dk_6 (dk_at dksX0_view_0 23 rfl rfl)
theorem dX0_view_24 : decode cX0_view 24 = .ok (.ireturn, 1) := dk_172 (dk_at dksX0_view_1 0 rfl rfl)
theorem dX0_view_25 : decode cX0_view 25 = .ok (.iconst 0, 1) := dk_3 (dk_at dksX0_view_1 1 rfl rfl)
theorem dX0_view_26 : decode cX0_view 26 = .ok (.ireturn, 1) := dk_172 (dk_at dksX0_view_1 2 rfl rfl)
abbrev cX0_list : ByteArray := method_13_code
def yX0_list : MethodName := ⟨RX0, "list", "(LPatternforge;IIII[J)I"⟩
def dkwX0_list_1 : List UInt8 := [172, 58, 6, 6, 172, 3, 172]
abbrev dktX0_list_1 : List UInt8 := dkwX0_list_1 ++ []
def dkwX0_list_0 : List UInt8 := [25, 5, 3, 42, 27, 28, 29, 21, 4, 182, 0, 50, 133, 80, 167, 0, 15, 58, 6, 4, 172, 58, 6, 5]
abbrev dktX0_list_0 : List UInt8 := dkwX0_list_0 ++ dktX0_list_1
theorem dksX0_list_0 : cX0_list.data.toList.drop 0 = dktX0_list_0 := by decide +kernel
theorem dksX0_list_1 : cX0_list.data.toList.drop 24 = dktX0_list_1 := dk_seg dksX0_list_0 24 rfl rfl
theorem dX0_list_0 : decode cX0_list 0 = .ok (.aload 5, 2) := dk_25 5 (dk_at dksX0_list_0 0 rfl rfl)
theorem dX0_list_2 : decode cX0_list 2 = .ok (.iconst 0, 1) := dk_3 (dk_at dksX0_list_0 2 rfl rfl)
theorem dX0_list_3 : decode cX0_list 3 = .ok (.aload_n 0, 1) := dk_42 (dk_at dksX0_list_0 3 rfl rfl)
theorem dX0_list_4 : decode cX0_list 4 = .ok (.iload_n 1, 1) := dk_27 (dk_at dksX0_list_0 4 rfl rfl)
theorem dX0_list_5 : decode cX0_list 5 = .ok (.iload_n 2, 1) := dk_28 (dk_at dksX0_list_0 5 rfl rfl)
theorem dX0_list_6 : decode cX0_list 6 = .ok (.iload_n 3, 1) := dk_29 (dk_at dksX0_list_0 6 rfl rfl)
theorem dX0_list_7 : decode cX0_list 7 = .ok (.iload 4, 2) := dk_21 4 (dk_at dksX0_list_0 7 rfl rfl)
theorem dX0_list_9 : decode cX0_list 9 = .ok (.invokevirtual 50, 3) := dk_182 0 50 (dk_at dksX0_list_0 9 rfl rfl)
theorem dX0_list_12 : decode cX0_list 12 = .ok (.i2l, 1) := dk_133 (dk_at dksX0_list_0 12 rfl rfl)
theorem dX0_list_13 : decode cX0_list 13 = .ok (.lastore, 1) := dk_80 (dk_at dksX0_list_0 13 rfl rfl)
theorem dX0_list_14 : decode cX0_list 14 = .ok (.goto 15, 3) := dk_167 0 15 (dk_at dksX0_list_0 14 rfl rfl)
theorem dX0_list_17 : decode cX0_list 17 = .ok (.astore 6, 2) := dk_58 6 (dk_at dksX0_list_0 17 rfl rfl)
theorem dX0_list_19 : decode cX0_list 19 = .ok (.iconst 1, 1) := dk_4 (dk_at dksX0_list_0 19 rfl rfl)
theorem dX0_list_20 : decode cX0_list 20 = .ok (.ireturn, 1) := dk_172 (dk_at dksX0_list_0 20 rfl rfl)
theorem dX0_list_21 : decode cX0_list 21 = .ok (.astore 6, 2) := dk_58 6 (dk_at dksX0_list_0 21 rfl rfl)
theorem dX0_list_23 : decode cX0_list 23 = .ok (.iconst 2, 1) := dk_5 (dk_at dksX0_list_0 23 rfl rfl)
theorem dX0_list_24 : decode cX0_list 24 = .ok (.ireturn, 1) := dk_172 (dk_at dksX0_list_1 0 rfl rfl)
theorem dX0_list_25 : decode cX0_list 25 = .ok (.astore 6, 2) := dk_58 6 (dk_at dksX0_list_1 1 rfl rfl)
theorem dX0_list_27 : decode cX0_list 27 = .ok (.iconst 3, 1) := dk_6 (dk_at dksX0_list_1 3 rfl rfl)
theorem dX0_list_28 : decode cX0_list 28 = .ok (.ireturn, 1) := dk_172 (dk_at dksX0_list_1 4 rfl rfl)
theorem dX0_list_29 : decode cX0_list 29 = .ok (.iconst 0, 1) := dk_3 (dk_at dksX0_list_1 5 rfl rfl)
theorem dX0_list_30 : decode cX0_list 30 = .ok (.ireturn, 1) := dk_172 (dk_at dksX0_list_1 6 rfl rfl)
abbrev cX0_setView : ByteArray := method_14_code
def yX0_setView : MethodName := ⟨RX0, "setView", "(LPatternforge;IIIII[J)I"⟩
def dkwX0_setView_1 : List UInt8 := [58, 7, 5, 172, 3, 172]
abbrev dktX0_setView_1 : List UInt8 := dkwX0_setView_1 ++ []
def dkwX0_setView_0 : List UInt8 := [25, 6, 3, 42, 27, 28, 29, 21, 4, 21, 5, 182, 0, 53, 133, 80, 167, 0, 11, 58, 7, 4, 172]
abbrev dktX0_setView_0 : List UInt8 := dkwX0_setView_0 ++ dktX0_setView_1
theorem dksX0_setView_0 : cX0_setView.data.toList.drop 0 = dktX0_setView_0 := by decide +kernel
theorem dksX0_setView_1 : cX0_setView.data.toList.drop 23 = dktX0_setView_1 := dk_seg dksX0_setView_0 23 rfl rfl
theorem dX0_setView_0 : decode cX0_setView 0 = .ok (.aload 6, 2) := dk_25 6 (dk_at dksX0_setView_0 0 rfl rfl)
theorem dX0_setView_2 : decode cX0_setView 2 = .ok (.iconst 0, 1) := dk_3 (dk_at dksX0_setView_0 2 rfl rfl)
theorem dX0_setView_3 : decode cX0_setView 3 = .ok (.aload_n 0, 1) := dk_42 (dk_at dksX0_setView_0 3 rfl rfl)
theorem dX0_setView_4 : decode cX0_setView 4 = .ok (.iload_n 1, 1) := dk_27 (dk_at dksX0_setView_0 4 rfl rfl)
theorem dX0_setView_5 : decode cX0_setView 5 = .ok (.iload_n 2, 1) := dk_28 (dk_at dksX0_setView_0 5 rfl rfl)
theorem dX0_setView_6 : decode cX0_setView 6 = .ok (.iload_n 3, 1) := dk_29 (dk_at dksX0_setView_0 6 rfl rfl)
theorem dX0_setView_7 : decode cX0_setView 7 = .ok (.iload 4, 2) := dk_21 4 (dk_at dksX0_setView_0 7 rfl rfl)
theorem dX0_setView_9 : decode cX0_setView 9 = .ok (.iload 5, 2) := dk_21 5 (dk_at dksX0_setView_0 9 rfl rfl)
theorem dX0_setView_11 : decode cX0_setView 11 = .ok (.invokevirtual 53, 3) := dk_182 0 53 (dk_at dksX0_setView_0 11 rfl rfl)
theorem dX0_setView_14 : decode cX0_setView 14 = .ok (.i2l, 1) := dk_133 (dk_at dksX0_setView_0 14 rfl rfl)
theorem dX0_setView_15 : decode cX0_setView 15 = .ok (.lastore, 1) := dk_80 (dk_at dksX0_setView_0 15 rfl rfl)
theorem dX0_setView_16 : decode cX0_setView 16 = .ok (.goto 11, 3) := dk_167 0 11 (dk_at dksX0_setView_0 16 rfl rfl)
theorem dX0_setView_19 : decode cX0_setView 19 = .ok (.astore 7, 2) := dk_58 7 (dk_at dksX0_setView_0 19 rfl rfl)
theorem dX0_setView_21 : decode cX0_setView 21 = .ok (.iconst 1, 1) := dk_4 (dk_at dksX0_setView_0 21 rfl rfl)
theorem dX0_setView_22 : decode cX0_setView 22 = .ok (.ireturn, 1) := dk_172 (dk_at dksX0_setView_0 22 rfl rfl)
theorem dX0_setView_23 : decode cX0_setView 23 = .ok (.astore 7, 2) := dk_58 7 (dk_at dksX0_setView_1 0 rfl rfl)
theorem dX0_setView_25 : decode cX0_setView 25 = .ok (.iconst 2, 1) := dk_5 (dk_at dksX0_setView_1 2 rfl rfl)
theorem dX0_setView_26 : decode cX0_setView 26 = .ok (.ireturn, 1) := dk_172 (dk_at dksX0_setView_1 3 rfl rfl)
theorem dX0_setView_27 : decode cX0_setView 27 = .ok (.iconst 0, 1) := dk_3 (dk_at dksX0_setView_1 4 rfl rfl)
theorem dX0_setView_28 : decode cX0_setView 28 = .ok (.ireturn, 1) := dk_172 (dk_at dksX0_setView_1 5 rfl rfl)
abbrev cX0_begin : ByteArray := method_15_code
def yX0_begin : MethodName := ⟨RX0, "begin", "(LPatternforge;IIII[J)I"⟩
def dkwX0_begin_0 : List UInt8 := [25, 5, 3, 42, 27, 28, 29, 21, 4, 182, 0, 56, 133, 80, 167, 0, 7, 58, 6, 4, 172, 3, 172]
abbrev dktX0_begin_0 : List UInt8 := dkwX0_begin_0 ++ []
theorem dksX0_begin_0 : cX0_begin.data.toList.drop 0 = dktX0_begin_0 := by decide +kernel
theorem dX0_begin_0 : decode cX0_begin 0 = .ok (.aload 5, 2) := dk_25 5 (dk_at dksX0_begin_0 0 rfl rfl)
theorem dX0_begin_2 : decode cX0_begin 2 = .ok (.iconst 0, 1) := dk_3 (dk_at dksX0_begin_0 2 rfl rfl)
theorem dX0_begin_3 : decode cX0_begin 3 = .ok (.aload_n 0, 1) := dk_42 (dk_at dksX0_begin_0 3 rfl rfl)
theorem dX0_begin_4 : decode cX0_begin 4 = .ok (.iload_n 1, 1) := dk_27 (dk_at dksX0_begin_0 4 rfl rfl)
theorem dX0_begin_5 : decode cX0_begin 5 = .ok (.iload_n 2, 1) := dk_28 (dk_at dksX0_begin_0 5 rfl rfl)
theorem dX0_begin_6 : decode cX0_begin 6 = .ok (.iload_n 3, 1) := dk_29 (dk_at dksX0_begin_0 6 rfl rfl)
theorem dX0_begin_7 : decode cX0_begin 7 = .ok (.iload 4, 2) := dk_21 4 (dk_at dksX0_begin_0 7 rfl rfl)
theorem dX0_begin_9 : decode cX0_begin 9 = .ok (.invokevirtual 56, 3) := dk_182 0 56 (dk_at dksX0_begin_0 9 rfl rfl)
theorem dX0_begin_12 : decode cX0_begin 12 = .ok (.i2l, 1) := dk_133 (dk_at dksX0_begin_0 12 rfl rfl)
theorem dX0_begin_13 : decode cX0_begin 13 = .ok (.lastore, 1) := dk_80 (dk_at dksX0_begin_0 13 rfl rfl)
theorem dX0_begin_14 : decode cX0_begin 14 = .ok (.goto 7, 3) := dk_167 0 7 (dk_at dksX0_begin_0 14 rfl rfl)
theorem dX0_begin_17 : decode cX0_begin 17 = .ok (.astore 6, 2) := dk_58 6 (dk_at dksX0_begin_0 17 rfl rfl)
theorem dX0_begin_19 : decode cX0_begin 19 = .ok (.iconst 1, 1) := dk_4 (dk_at dksX0_begin_0 19 rfl rfl)
theorem dX0_begin_20 : decode cX0_begin 20 = .ok (.ireturn, 1) := dk_172 (dk_at dksX0_begin_0 20 rfl rfl)
theorem dX0_begin_21 : decode cX0_begin 21 = .ok (.iconst 0, 1) := dk_3 (dk_at dksX0_begin_0 21 rfl rfl)
theorem dX0_begin_22 : decode cX0_begin 22 = .ok (.ireturn, 1) := dk_172 (dk_at dksX0_begin_0 22 rfl rfl)
abbrev cX0_add : ByteArray := method_16_code
def yX0_add : MethodName := ⟨RX0, "add", "(LPatternforge;IIII[J)I"⟩
def dkwX0_add_1 : List UInt8 := [172, 58, 6, 6, 172, 3, 172]
abbrev dktX0_add_1 : List UInt8 := dkwX0_add_1 ++ []
def dkwX0_add_0 : List UInt8 := [25, 5, 3, 42, 27, 28, 29, 21, 4, 182, 0, 59, 133, 80, 167, 0, 15, 58, 6, 4, 172, 58, 6, 5]
abbrev dktX0_add_0 : List UInt8 := dkwX0_add_0 ++ dktX0_add_1
theorem dksX0_add_0 : cX0_add.data.toList.drop 0 = dktX0_add_0 := by decide +kernel
theorem dksX0_add_1 : cX0_add.data.toList.drop 24 = dktX0_add_1 := dk_seg dksX0_add_0 24 rfl rfl
theorem dX0_add_0 : decode cX0_add 0 = .ok (.aload 5, 2) := dk_25 5 (dk_at dksX0_add_0 0 rfl rfl)
theorem dX0_add_2 : decode cX0_add 2 = .ok (.iconst 0, 1) := dk_3 (dk_at dksX0_add_0 2 rfl rfl)
theorem dX0_add_3 : decode cX0_add 3 = .ok (.aload_n 0, 1) := dk_42 (dk_at dksX0_add_0 3 rfl rfl)
theorem dX0_add_4 : decode cX0_add 4 = .ok (.iload_n 1, 1) := dk_27 (dk_at dksX0_add_0 4 rfl rfl)
theorem dX0_add_5 : decode cX0_add 5 = .ok (.iload_n 2, 1) := dk_28 (dk_at dksX0_add_0 5 rfl rfl)
theorem dX0_add_6 : decode cX0_add 6 = .ok (.iload_n 3, 1) := dk_29 (dk_at dksX0_add_0 6 rfl rfl)
theorem dX0_add_7 : decode cX0_add 7 = .ok (.iload 4, 2) := dk_21 4 (dk_at dksX0_add_0 7 rfl rfl)
theorem dX0_add_9 : decode cX0_add 9 = .ok (.invokevirtual 59, 3) := dk_182 0 59 (dk_at dksX0_add_0 9 rfl rfl)
theorem dX0_add_12 : decode cX0_add 12 = .ok (.i2l, 1) := dk_133 (dk_at dksX0_add_0 12 rfl rfl)
theorem dX0_add_13 : decode cX0_add 13 = .ok (.lastore, 1) := dk_80 (dk_at dksX0_add_0 13 rfl rfl)
theorem dX0_add_14 : decode cX0_add 14 = .ok (.goto 15, 3) := dk_167 0 15 (dk_at dksX0_add_0 14 rfl rfl)
theorem dX0_add_17 : decode cX0_add 17 = .ok (.astore 6, 2) := dk_58 6 (dk_at dksX0_add_0 17 rfl rfl)
theorem dX0_add_19 : decode cX0_add 19 = .ok (.iconst 1, 1) := dk_4 (dk_at dksX0_add_0 19 rfl rfl)
theorem dX0_add_20 : decode cX0_add 20 = .ok (.ireturn, 1) := dk_172 (dk_at dksX0_add_0 20 rfl rfl)
theorem dX0_add_21 : decode cX0_add 21 = .ok (.astore 6, 2) := dk_58 6 (dk_at dksX0_add_0 21 rfl rfl)
theorem dX0_add_23 : decode cX0_add 23 = .ok (.iconst 2, 1) := dk_5 (dk_at dksX0_add_0 23 rfl rfl)
theorem dX0_add_24 : decode cX0_add 24 = .ok (.ireturn, 1) := dk_172 (dk_at dksX0_add_1 0 rfl rfl)
theorem dX0_add_25 : decode cX0_add 25 = .ok (.astore 6, 2) := dk_58 6 (dk_at dksX0_add_1 1 rfl rfl)
theorem dX0_add_27 : decode cX0_add 27 = .ok (.iconst 3, 1) := dk_6 (dk_at dksX0_add_1 3 rfl rfl)
theorem dX0_add_28 : decode cX0_add 28 = .ok (.ireturn, 1) := dk_172 (dk_at dksX0_add_1 4 rfl rfl)
theorem dX0_add_29 : decode cX0_add 29 = .ok (.iconst 0, 1) := dk_3 (dk_at dksX0_add_1 5 rfl rfl)
theorem dX0_add_30 : decode cX0_add 30 = .ok (.ireturn, 1) := dk_172 (dk_at dksX0_add_1 6 rfl rfl)
abbrev cX0_guard : ByteArray := method_17_code
def yX0_guard : MethodName := ⟨RX0, "guard", "(LPatternforge;IIII[J)I"⟩
def dkwX0_guard_1 : List UInt8 := [172, 3, 172]
abbrev dktX0_guard_1 : List UInt8 := dkwX0_guard_1 ++ []
def dkwX0_guard_0 : List UInt8 := [25, 5, 3, 42, 27, 28, 29, 21, 4, 182, 0, 62, 133, 80, 167, 0, 11, 58, 6, 4, 172, 58, 6, 5]
abbrev dktX0_guard_0 : List UInt8 := dkwX0_guard_0 ++ dktX0_guard_1
theorem dksX0_guard_0 : cX0_guard.data.toList.drop 0 = dktX0_guard_0 := by decide +kernel
theorem dksX0_guard_1 : cX0_guard.data.toList.drop 24 = dktX0_guard_1 := dk_seg dksX0_guard_0 24 rfl rfl
theorem dX0_guard_0 : decode cX0_guard 0 = .ok (.aload 5, 2) := dk_25 5 (dk_at dksX0_guard_0 0 rfl rfl)
theorem dX0_guard_2 : decode cX0_guard 2 = .ok (.iconst 0, 1) := dk_3 (dk_at dksX0_guard_0 2 rfl rfl)
theorem dX0_guard_3 : decode cX0_guard 3 = .ok (.aload_n 0, 1) := dk_42 (dk_at dksX0_guard_0 3 rfl rfl)
theorem dX0_guard_4 : decode cX0_guard 4 = .ok (.iload_n 1, 1) := dk_27 (dk_at dksX0_guard_0 4 rfl rfl)
theorem dX0_guard_5 : decode cX0_guard 5 = .ok (.iload_n 2, 1) := dk_28 (dk_at dksX0_guard_0 5 rfl rfl)
theorem dX0_guard_6 : decode cX0_guard 6 = .ok (.iload_n 3, 1) := dk_29 (dk_at dksX0_guard_0 6 rfl rfl)
theorem dX0_guard_7 : decode cX0_guard 7 = .ok (.iload 4, 2) := dk_21 4 (dk_at dksX0_guard_0 7 rfl rfl)
theorem dX0_guard_9 : decode cX0_guard 9 = .ok (.invokevirtual 62, 3) := dk_182 0 62 (dk_at dksX0_guard_0 9 rfl rfl)
theorem dX0_guard_12 : decode cX0_guard 12 = .ok (.i2l, 1) := dk_133 (dk_at dksX0_guard_0 12 rfl rfl)
theorem dX0_guard_13 : decode cX0_guard 13 = .ok (.lastore, 1) := dk_80 (dk_at dksX0_guard_0 13 rfl rfl)
theorem dX0_guard_14 : decode cX0_guard 14 = .ok (.goto 11, 3) := dk_167 0 11 (dk_at dksX0_guard_0 14 rfl rfl)
theorem dX0_guard_17 : decode cX0_guard 17 = .ok (.astore 6, 2) := dk_58 6 (dk_at dksX0_guard_0 17 rfl rfl)
theorem dX0_guard_19 : decode cX0_guard 19 = .ok (.iconst 1, 1) := dk_4 (dk_at dksX0_guard_0 19 rfl rfl)
theorem dX0_guard_20 : decode cX0_guard 20 = .ok (.ireturn, 1) := dk_172 (dk_at dksX0_guard_0 20 rfl rfl)
theorem dX0_guard_21 : decode cX0_guard 21 = .ok (.astore 6, 2) := dk_58 6 (dk_at dksX0_guard_0 21 rfl rfl)
theorem dX0_guard_23 : decode cX0_guard 23 = .ok (.iconst 2, 1) := dk_5 (dk_at dksX0_guard_0 23 rfl rfl)
theorem dX0_guard_24 : decode cX0_guard 24 = .ok (.ireturn, 1) := dk_172 (dk_at dksX0_guard_1 0 rfl rfl)
theorem dX0_guard_25 : decode cX0_guard 25 = .ok (.iconst 0, 1) := dk_3 (dk_at dksX0_guard_1 1 rfl rfl)
theorem dX0_guard_26 : decode cX0_guard 26 = .ok (.ireturn, 1) := dk_172 (dk_at dksX0_guard_1 2 rfl rfl)
abbrev cX0_split : ByteArray := method_18_code
def yX0_split : MethodName := ⟨RX0, "split", "(LPatternforge;II[J)I"⟩
def dkwX0_split_0 : List UInt8 := [45, 3, 42, 27, 28, 182, 0, 65, 133, 80, 167, 0, 11, 58, 4, 4, 172, 58, 4, 5, 172, 3, 172]
abbrev dktX0_split_0 : List UInt8 := dkwX0_split_0 ++ []
theorem dksX0_split_0 : cX0_split.data.toList.drop 0 = dktX0_split_0 := by decide +kernel
theorem dX0_split_0 : decode cX0_split 0 = .ok (.aload_n 3, 1) := dk_45 (dk_at dksX0_split_0 0 rfl rfl)
theorem dX0_split_1 : decode cX0_split 1 = .ok (.iconst 0, 1) := dk_3 (dk_at dksX0_split_0 1 rfl rfl)
theorem dX0_split_2 : decode cX0_split 2 = .ok (.aload_n 0, 1) := dk_42 (dk_at dksX0_split_0 2 rfl rfl)
theorem dX0_split_3 : decode cX0_split 3 = .ok (.iload_n 1, 1) := dk_27 (dk_at dksX0_split_0 3 rfl rfl)
theorem dX0_split_4 : decode cX0_split 4 = .ok (.iload_n 2, 1) := dk_28 (dk_at dksX0_split_0 4 rfl rfl)
theorem dX0_split_5 : decode cX0_split 5 = .ok (.invokevirtual 65, 3) := dk_182 0 65 (dk_at dksX0_split_0 5 rfl rfl)
theorem dX0_split_8 : decode cX0_split 8 = .ok (.i2l, 1) := dk_133 (dk_at dksX0_split_0 8 rfl rfl)
theorem dX0_split_9 : decode cX0_split 9 = .ok (.lastore, 1) := dk_80 (dk_at dksX0_split_0 9 rfl rfl)
theorem dX0_split_10 : decode cX0_split 10 = .ok (.goto 11, 3) := dk_167 0 11 (dk_at dksX0_split_0 10 rfl rfl)
theorem dX0_split_13 : decode cX0_split 13 = .ok (.astore 4, 2) := dk_58 4 (dk_at dksX0_split_0 13 rfl rfl)
theorem dX0_split_15 : decode cX0_split 15 = .ok (.iconst 1, 1) := dk_4 (dk_at dksX0_split_0 15 rfl rfl)
theorem dX0_split_16 : decode cX0_split 16 = .ok (.ireturn, 1) := dk_172 (dk_at dksX0_split_0 16 rfl rfl)
theorem dX0_split_17 : decode cX0_split 17 = .ok (.astore 4, 2) := dk_58 4 (dk_at dksX0_split_0 17 rfl rfl)
theorem dX0_split_19 : decode cX0_split 19 = .ok (.iconst 2, 1) := dk_5 (dk_at dksX0_split_0 19 rfl rfl)
theorem dX0_split_20 : decode cX0_split 20 = .ok (.ireturn, 1) := dk_172 (dk_at dksX0_split_0 20 rfl rfl)
theorem dX0_split_21 : decode cX0_split 21 = .ok (.iconst 0, 1) := dk_3 (dk_at dksX0_split_0 21 rfl rfl)
theorem dX0_split_22 : decode cX0_split 22 = .ok (.ireturn, 1) := dk_172 (dk_at dksX0_split_0 22 rfl rfl)
abbrev cX0_merge : ByteArray := method_19_code
def yX0_merge : MethodName := ⟨RX0, "merge", "(LPatternforge;II[J)I"⟩
def dkwX0_merge_0 : List UInt8 := [45, 3, 42, 27, 28, 182, 0, 68, 133, 80, 167, 0, 11, 58, 4, 4, 172, 58, 4, 5, 172, 3, 172]
abbrev dktX0_merge_0 : List UInt8 := dkwX0_merge_0 ++ []
theorem dksX0_merge_0 : cX0_merge.data.toList.drop 0 = dktX0_merge_0 := by decide +kernel
theorem dX0_merge_0 : decode cX0_merge 0 = .ok (.aload_n 3, 1) := dk_45 (dk_at dksX0_merge_0 0 rfl rfl)
theorem dX0_merge_1 : decode cX0_merge 1 = .ok (.iconst 0, 1) := dk_3 (dk_at dksX0_merge_0 1 rfl rfl)
theorem dX0_merge_2 : decode cX0_merge 2 = .ok (.aload_n 0, 1) := dk_42 (dk_at dksX0_merge_0 2 rfl rfl)
theorem dX0_merge_3 : decode cX0_merge 3 = .ok (.iload_n 1, 1) := dk_27 (dk_at dksX0_merge_0 3 rfl rfl)
theorem dX0_merge_4 : decode cX0_merge 4 = .ok (.iload_n 2, 1) := dk_28 (dk_at dksX0_merge_0 4 rfl rfl)
theorem dX0_merge_5 : decode cX0_merge 5 = .ok (.invokevirtual 68, 3) := dk_182 0 68 (dk_at dksX0_merge_0 5 rfl rfl)
theorem dX0_merge_8 : decode cX0_merge 8 = .ok (.i2l, 1) := dk_133 (dk_at dksX0_merge_0 8 rfl rfl)
theorem dX0_merge_9 : decode cX0_merge 9 = .ok (.lastore, 1) := dk_80 (dk_at dksX0_merge_0 9 rfl rfl)
theorem dX0_merge_10 : decode cX0_merge 10 = .ok (.goto 11, 3) := dk_167 0 11 (dk_at dksX0_merge_0 10 rfl rfl)
theorem dX0_merge_13 : decode cX0_merge 13 = .ok (.astore 4, 2) := dk_58 4 (dk_at dksX0_merge_0 13 rfl rfl)
theorem dX0_merge_15 : decode cX0_merge 15 = .ok (.iconst 1, 1) := dk_4 (dk_at dksX0_merge_0 15 rfl rfl)
theorem dX0_merge_16 : decode cX0_merge 16 = .ok (.ireturn, 1) := dk_172 (dk_at dksX0_merge_0 16 rfl rfl)
theorem dX0_merge_17 : decode cX0_merge 17 = .ok (.astore 4, 2) := dk_58 4 (dk_at dksX0_merge_0 17 rfl rfl)
theorem dX0_merge_19 : decode cX0_merge 19 = .ok (.iconst 2, 1) := dk_5 (dk_at dksX0_merge_0 19 rfl rfl)
theorem dX0_merge_20 : decode cX0_merge 20 = .ok (.ireturn, 1) := dk_172 (dk_at dksX0_merge_0 20 rfl rfl)
theorem dX0_merge_21 : decode cX0_merge 21 = .ok (.iconst 0, 1) := dk_3 (dk_at dksX0_merge_0 21 rfl rfl)
theorem dX0_merge_22 : decode cX0_merge 22 = .ok (.ireturn, 1) := dk_172 (dk_at dksX0_merge_0 22 rfl rfl)
abbrev cX0_run : ByteArray := method_20_code
def yX0_run : MethodName := ⟨RX0, "run", "(LPatternforge;IIII[J)I"⟩
def dkwX0_run_1 : List UInt8 := [172, 58, 6, 6, 172, 3, 172]
abbrev dktX0_run_1 : List UInt8 := dkwX0_run_1 ++ []
def dkwX0_run_0 : List UInt8 := [25, 5, 3, 42, 27, 28, 29, 21, 4, 182, 0, 71, 133, 80, 167, 0, 15, 58, 6, 4, 172, 58, 6, 5]
abbrev dktX0_run_0 : List UInt8 := dkwX0_run_0 ++ dktX0_run_1
theorem dksX0_run_0 : cX0_run.data.toList.drop 0 = dktX0_run_0 := by decide +kernel
theorem dksX0_run_1 : cX0_run.data.toList.drop 24 = dktX0_run_1 := dk_seg dksX0_run_0 24 rfl rfl
theorem dX0_run_0 : decode cX0_run 0 = .ok (.aload 5, 2) := dk_25 5 (dk_at dksX0_run_0 0 rfl rfl)
theorem dX0_run_2 : decode cX0_run 2 = .ok (.iconst 0, 1) := dk_3 (dk_at dksX0_run_0 2 rfl rfl)
theorem dX0_run_3 : decode cX0_run 3 = .ok (.aload_n 0, 1) := dk_42 (dk_at dksX0_run_0 3 rfl rfl)
theorem dX0_run_4 : decode cX0_run 4 = .ok (.iload_n 1, 1) := dk_27 (dk_at dksX0_run_0 4 rfl rfl)
theorem dX0_run_5 : decode cX0_run 5 = .ok (.iload_n 2, 1) := dk_28 (dk_at dksX0_run_0 5 rfl rfl)
theorem dX0_run_6 : decode cX0_run 6 = .ok (.iload_n 3, 1) := dk_29 (dk_at dksX0_run_0 6 rfl rfl)
theorem dX0_run_7 : decode cX0_run 7 = .ok (.iload 4, 2) := dk_21 4 (dk_at dksX0_run_0 7 rfl rfl)
theorem dX0_run_9 : decode cX0_run 9 = .ok (.invokevirtual 71, 3) := dk_182 0 71 (dk_at dksX0_run_0 9 rfl rfl)
theorem dX0_run_12 : decode cX0_run 12 = .ok (.i2l, 1) := dk_133 (dk_at dksX0_run_0 12 rfl rfl)
theorem dX0_run_13 : decode cX0_run 13 = .ok (.lastore, 1) := dk_80 (dk_at dksX0_run_0 13 rfl rfl)
theorem dX0_run_14 : decode cX0_run 14 = .ok (.goto 15, 3) := dk_167 0 15 (dk_at dksX0_run_0 14 rfl rfl)
theorem dX0_run_17 : decode cX0_run 17 = .ok (.astore 6, 2) := dk_58 6 (dk_at dksX0_run_0 17 rfl rfl)
theorem dX0_run_19 : decode cX0_run 19 = .ok (.iconst 1, 1) := dk_4 (dk_at dksX0_run_0 19 rfl rfl)
theorem dX0_run_20 : decode cX0_run 20 = .ok (.ireturn, 1) := dk_172 (dk_at dksX0_run_0 20 rfl rfl)
theorem dX0_run_21 : decode cX0_run 21 = .ok (.astore 6, 2) := dk_58 6 (dk_at dksX0_run_0 21 rfl rfl)
theorem dX0_run_23 : decode cX0_run 23 = .ok (.iconst 2, 1) := dk_5 (dk_at dksX0_run_0 23 rfl rfl)
theorem dX0_run_24 : decode cX0_run 24 = .ok (.ireturn, 1) := dk_172 (dk_at dksX0_run_1 0 rfl rfl)
theorem dX0_run_25 : decode cX0_run 25 = .ok (.astore 6, 2) := dk_58 6 (dk_at dksX0_run_1 1 rfl rfl)
theorem dX0_run_27 : decode cX0_run 27 = .ok (.iconst 3, 1) := dk_6 (dk_at dksX0_run_1 3 rfl rfl)
theorem dX0_run_28 : decode cX0_run 28 = .ok (.ireturn, 1) := dk_172 (dk_at dksX0_run_1 4 rfl rfl)
theorem dX0_run_29 : decode cX0_run 29 = .ok (.iconst 0, 1) := dk_3 (dk_at dksX0_run_1 5 rfl rfl)
theorem dX0_run_30 : decode cX0_run 30 = .ok (.ireturn, 1) := dk_172 (dk_at dksX0_run_1 6 rfl rfl)
abbrev cX0_viewAt : ByteArray := method_21_code
def yX0_viewAt : MethodName := ⟨RX0, "viewAt", "(LPatternforge;I[J)I"⟩
def dkwX0_viewAt_0 : List UInt8 := [44, 3, 42, 27, 182, 0, 74, 133, 80, 167, 0, 6, 78, 4, 172, 3, 172]
abbrev dktX0_viewAt_0 : List UInt8 := dkwX0_viewAt_0 ++ []
theorem dksX0_viewAt_0 : cX0_viewAt.data.toList.drop 0 = dktX0_viewAt_0 := by decide +kernel
theorem dX0_viewAt_0 : decode cX0_viewAt 0 = .ok (.aload_n 2, 1) := dk_44 (dk_at dksX0_viewAt_0 0 rfl rfl)
theorem dX0_viewAt_1 : decode cX0_viewAt 1 = .ok (.iconst 0, 1) := dk_3 (dk_at dksX0_viewAt_0 1 rfl rfl)
theorem dX0_viewAt_2 : decode cX0_viewAt 2 = .ok (.aload_n 0, 1) := dk_42 (dk_at dksX0_viewAt_0 2 rfl rfl)
theorem dX0_viewAt_3 : decode cX0_viewAt 3 = .ok (.iload_n 1, 1) := dk_27 (dk_at dksX0_viewAt_0 3 rfl rfl)
theorem dX0_viewAt_4 : decode cX0_viewAt 4 = .ok (.invokevirtual 74, 3) := dk_182 0 74 (dk_at dksX0_viewAt_0 4 rfl rfl)
theorem dX0_viewAt_7 : decode cX0_viewAt 7 = .ok (.i2l, 1) := dk_133 (dk_at dksX0_viewAt_0 7 rfl rfl)
theorem dX0_viewAt_8 : decode cX0_viewAt 8 = .ok (.lastore, 1) := dk_80 (dk_at dksX0_viewAt_0 8 rfl rfl)
theorem dX0_viewAt_9 : decode cX0_viewAt 9 = .ok (.goto 6, 3) := dk_167 0 6 (dk_at dksX0_viewAt_0 9 rfl rfl)
theorem dX0_viewAt_12 : decode cX0_viewAt 12 = .ok (.astore_n 3, 1) := dk_78 (dk_at dksX0_viewAt_0 12 rfl rfl)
theorem dX0_viewAt_13 : decode cX0_viewAt 13 = .ok (.iconst 1, 1) := dk_4 (dk_at dksX0_viewAt_0 13 rfl rfl)
theorem dX0_viewAt_14 : decode cX0_viewAt 14 = .ok (.ireturn, 1) := dk_172 (dk_at dksX0_viewAt_0 14 rfl rfl)
theorem dX0_viewAt_15 : decode cX0_viewAt 15 = .ok (.iconst 0, 1) := dk_3 (dk_at dksX0_viewAt_0 15 rfl rfl)
theorem dX0_viewAt_16 : decode cX0_viewAt 16 = .ok (.ireturn, 1) := dk_172 (dk_at dksX0_viewAt_0 16 rfl rfl)
abbrev cX0_bound : ByteArray := method_22_code
def yX0_bound : MethodName := ⟨RX0, "bound", "(LPatternforge;I[J)I"⟩
def dkwX0_bound_0 : List UInt8 := [44, 3, 42, 27, 182, 0, 77, 133, 80, 167, 0, 6, 78, 4, 172, 3, 172]
abbrev dktX0_bound_0 : List UInt8 := dkwX0_bound_0 ++ []
theorem dksX0_bound_0 : cX0_bound.data.toList.drop 0 = dktX0_bound_0 := by decide +kernel
theorem dX0_bound_0 : decode cX0_bound 0 = .ok (.aload_n 2, 1) := dk_44 (dk_at dksX0_bound_0 0 rfl rfl)
theorem dX0_bound_1 : decode cX0_bound 1 = .ok (.iconst 0, 1) := dk_3 (dk_at dksX0_bound_0 1 rfl rfl)
theorem dX0_bound_2 : decode cX0_bound 2 = .ok (.aload_n 0, 1) := dk_42 (dk_at dksX0_bound_0 2 rfl rfl)
theorem dX0_bound_3 : decode cX0_bound 3 = .ok (.iload_n 1, 1) := dk_27 (dk_at dksX0_bound_0 3 rfl rfl)
theorem dX0_bound_4 : decode cX0_bound 4 = .ok (.invokevirtual 77, 3) := dk_182 0 77 (dk_at dksX0_bound_0 4 rfl rfl)
theorem dX0_bound_7 : decode cX0_bound 7 = .ok (.i2l, 1) := dk_133 (dk_at dksX0_bound_0 7 rfl rfl)
theorem dX0_bound_8 : decode cX0_bound 8 = .ok (.lastore, 1) := dk_80 (dk_at dksX0_bound_0 8 rfl rfl)
theorem dX0_bound_9 : decode cX0_bound 9 = .ok (.goto 6, 3) := dk_167 0 6 (dk_at dksX0_bound_0 9 rfl rfl)
theorem dX0_bound_12 : decode cX0_bound 12 = .ok (.astore_n 3, 1) := dk_78 (dk_at dksX0_bound_0 12 rfl rfl)
theorem dX0_bound_13 : decode cX0_bound 13 = .ok (.iconst 1, 1) := dk_4 (dk_at dksX0_bound_0 13 rfl rfl)
theorem dX0_bound_14 : decode cX0_bound 14 = .ok (.ireturn, 1) := dk_172 (dk_at dksX0_bound_0 14 rfl rfl)
theorem dX0_bound_15 : decode cX0_bound 15 = .ok (.iconst 0, 1) := dk_3 (dk_at dksX0_bound_0 15 rfl rfl)
theorem dX0_bound_16 : decode cX0_bound 16 = .ok (.ireturn, 1) := dk_172 (dk_at dksX0_bound_0 16 rfl rfl)
abbrev cX0_taken : ByteArray := method_23_code
def yX0_taken : MethodName := ⟨RX0, "taken", "(LPatternforge;I[J)I"⟩
def dkwX0_taken_0 : List UInt8 := [44, 3, 42, 27, 182, 0, 80, 133, 80, 167, 0, 6, 78, 4, 172, 3, 172]
abbrev dktX0_taken_0 : List UInt8 := dkwX0_taken_0 ++ []
theorem dksX0_taken_0 : cX0_taken.data.toList.drop 0 = dktX0_taken_0 := by decide +kernel
theorem dX0_taken_0 : decode cX0_taken 0 = .ok (.aload_n 2, 1) := dk_44 (dk_at dksX0_taken_0 0 rfl rfl)
theorem dX0_taken_1 : decode cX0_taken 1 = .ok (.iconst 0, 1) := dk_3 (dk_at dksX0_taken_0 1 rfl rfl)
theorem dX0_taken_2 : decode cX0_taken 2 = .ok (.aload_n 0, 1) := dk_42 (dk_at dksX0_taken_0 2 rfl rfl)
theorem dX0_taken_3 : decode cX0_taken 3 = .ok (.iload_n 1, 1) := dk_27 (dk_at dksX0_taken_0 3 rfl rfl)
theorem dX0_taken_4 : decode cX0_taken 4 = .ok (.invokevirtual 80, 3) := dk_182 0 80 (dk_at dksX0_taken_0 4 rfl rfl)
theorem dX0_taken_7 : decode cX0_taken 7 = .ok (.i2l, 1) := dk_133 (dk_at dksX0_taken_0 7 rfl rfl)
theorem dX0_taken_8 : decode cX0_taken 8 = .ok (.lastore, 1) := dk_80 (dk_at dksX0_taken_0 8 rfl rfl)
theorem dX0_taken_9 : decode cX0_taken 9 = .ok (.goto 6, 3) := dk_167 0 6 (dk_at dksX0_taken_0 9 rfl rfl)
theorem dX0_taken_12 : decode cX0_taken 12 = .ok (.astore_n 3, 1) := dk_78 (dk_at dksX0_taken_0 12 rfl rfl)
theorem dX0_taken_13 : decode cX0_taken 13 = .ok (.iconst 1, 1) := dk_4 (dk_at dksX0_taken_0 13 rfl rfl)
theorem dX0_taken_14 : decode cX0_taken 14 = .ok (.ireturn, 1) := dk_172 (dk_at dksX0_taken_0 14 rfl rfl)
theorem dX0_taken_15 : decode cX0_taken 15 = .ok (.iconst 0, 1) := dk_3 (dk_at dksX0_taken_0 15 rfl rfl)
theorem dX0_taken_16 : decode cX0_taken 16 = .ok (.ireturn, 1) := dk_172 (dk_at dksX0_taken_0 16 rfl rfl)
abbrev cX0_size : ByteArray := method_24_code
def yX0_size : MethodName := ⟨RX0, "size", "(LPatternforge;IZ[J)I"⟩
def dkwX0_size_0 : List UInt8 := [45, 3, 42, 27, 28, 182, 0, 83, 133, 80, 167, 0, 11, 58, 4, 4, 172, 58, 4, 5, 172, 3, 172]
abbrev dktX0_size_0 : List UInt8 := dkwX0_size_0 ++ []
theorem dksX0_size_0 : cX0_size.data.toList.drop 0 = dktX0_size_0 := by decide +kernel
theorem dX0_size_0 : decode cX0_size 0 = .ok (.aload_n 3, 1) := dk_45 (dk_at dksX0_size_0 0 rfl rfl)
theorem dX0_size_1 : decode cX0_size 1 = .ok (.iconst 0, 1) := dk_3 (dk_at dksX0_size_0 1 rfl rfl)
theorem dX0_size_2 : decode cX0_size 2 = .ok (.aload_n 0, 1) := dk_42 (dk_at dksX0_size_0 2 rfl rfl)
theorem dX0_size_3 : decode cX0_size 3 = .ok (.iload_n 1, 1) := dk_27 (dk_at dksX0_size_0 3 rfl rfl)
theorem dX0_size_4 : decode cX0_size 4 = .ok (.iload_n 2, 1) := dk_28 (dk_at dksX0_size_0 4 rfl rfl)
theorem dX0_size_5 : decode cX0_size 5 = .ok (.invokevirtual 83, 3) := dk_182 0 83 (dk_at dksX0_size_0 5 rfl rfl)
theorem dX0_size_8 : decode cX0_size 8 = .ok (.i2l, 1) := dk_133 (dk_at dksX0_size_0 8 rfl rfl)
theorem dX0_size_9 : decode cX0_size 9 = .ok (.lastore, 1) := dk_80 (dk_at dksX0_size_0 9 rfl rfl)
theorem dX0_size_10 : decode cX0_size 10 = .ok (.goto 11, 3) := dk_167 0 11 (dk_at dksX0_size_0 10 rfl rfl)
theorem dX0_size_13 : decode cX0_size 13 = .ok (.astore 4, 2) := dk_58 4 (dk_at dksX0_size_0 13 rfl rfl)
theorem dX0_size_15 : decode cX0_size 15 = .ok (.iconst 1, 1) := dk_4 (dk_at dksX0_size_0 15 rfl rfl)
theorem dX0_size_16 : decode cX0_size 16 = .ok (.ireturn, 1) := dk_172 (dk_at dksX0_size_0 16 rfl rfl)
theorem dX0_size_17 : decode cX0_size 17 = .ok (.astore 4, 2) := dk_58 4 (dk_at dksX0_size_0 17 rfl rfl)
theorem dX0_size_19 : decode cX0_size 19 = .ok (.iconst 2, 1) := dk_5 (dk_at dksX0_size_0 19 rfl rfl)
theorem dX0_size_20 : decode cX0_size 20 = .ok (.ireturn, 1) := dk_172 (dk_at dksX0_size_0 20 rfl rfl)
theorem dX0_size_21 : decode cX0_size 21 = .ok (.iconst 0, 1) := dk_3 (dk_at dksX0_size_0 21 rfl rfl)
theorem dX0_size_22 : decode cX0_size 22 = .ok (.ireturn, 1) := dk_172 (dk_at dksX0_size_0 22 rfl rfl)
abbrev cX0_missing : ByteArray := method_25_code
def yX0_missing : MethodName := ⟨RX0, "missing", "(LPatternforge;[J)I"⟩
def dkwX0_missing_0 : List UInt8 := [43, 3, 42, 182, 0, 87, 133, 80, 167, 0, 6, 77, 4, 172, 3, 172]
abbrev dktX0_missing_0 : List UInt8 := dkwX0_missing_0 ++ []
theorem dksX0_missing_0 : cX0_missing.data.toList.drop 0 = dktX0_missing_0 := by decide +kernel
theorem dX0_missing_0 : decode cX0_missing 0 = .ok (.aload_n 1, 1) := dk_43 (dk_at dksX0_missing_0 0 rfl rfl)
theorem dX0_missing_1 : decode cX0_missing 1 = .ok (.iconst 0, 1) := dk_3 (dk_at dksX0_missing_0 1 rfl rfl)
theorem dX0_missing_2 : decode cX0_missing 2 = .ok (.aload_n 0, 1) := dk_42 (dk_at dksX0_missing_0 2 rfl rfl)
theorem dX0_missing_3 : decode cX0_missing 3 = .ok (.invokevirtual 87, 3) := dk_182 0 87 (dk_at dksX0_missing_0 3 rfl rfl)
theorem dX0_missing_6 : decode cX0_missing 6 = .ok (.i2l, 1) := dk_133 (dk_at dksX0_missing_0 6 rfl rfl)
theorem dX0_missing_7 : decode cX0_missing 7 = .ok (.lastore, 1) := dk_80 (dk_at dksX0_missing_0 7 rfl rfl)
theorem dX0_missing_8 : decode cX0_missing 8 = .ok (.goto 6, 3) := dk_167 0 6 (dk_at dksX0_missing_0 8 rfl rfl)
theorem dX0_missing_11 : decode cX0_missing 11 = .ok (.astore_n 2, 1) := dk_77 (dk_at dksX0_missing_0 11 rfl rfl)
theorem dX0_missing_12 : decode cX0_missing 12 = .ok (.iconst 1, 1) := dk_4 (dk_at dksX0_missing_0 12 rfl rfl)
theorem dX0_missing_13 : decode cX0_missing 13 = .ok (.ireturn, 1) := dk_172 (dk_at dksX0_missing_0 13 rfl rfl)
theorem dX0_missing_14 : decode cX0_missing 14 = .ok (.iconst 0, 1) := dk_3 (dk_at dksX0_missing_0 14 rfl rfl)
theorem dX0_missing_15 : decode cX0_missing 15 = .ok (.ireturn, 1) := dk_172 (dk_at dksX0_missing_0 15 rfl rfl)
abbrev cX0_example : ByteArray := method_26_code
def yX0_example : MethodName := ⟨RX0, "example", "(LPatternforge;I[J)I"⟩
def dkwX0_example_0 : List UInt8 := [44, 3, 42, 27, 182, 0, 90, 133, 80, 167, 0, 6, 78, 4, 172, 3, 172]
abbrev dktX0_example_0 : List UInt8 := dkwX0_example_0 ++ []
theorem dksX0_example_0 : cX0_example.data.toList.drop 0 = dktX0_example_0 := by decide +kernel
theorem dX0_example_0 : decode cX0_example 0 = .ok (.aload_n 2, 1) := dk_44 (dk_at dksX0_example_0 0 rfl rfl)
theorem dX0_example_1 : decode cX0_example 1 = .ok (.iconst 0, 1) := dk_3 (dk_at dksX0_example_0 1 rfl rfl)
theorem dX0_example_2 : decode cX0_example 2 = .ok (.aload_n 0, 1) := dk_42 (dk_at dksX0_example_0 2 rfl rfl)
theorem dX0_example_3 : decode cX0_example 3 = .ok (.iload_n 1, 1) := dk_27 (dk_at dksX0_example_0 3 rfl rfl)
theorem dX0_example_4 : decode cX0_example 4 = .ok (.invokevirtual 90, 3) := dk_182 0 90 (dk_at dksX0_example_0 4 rfl rfl)
theorem dX0_example_7 : decode cX0_example 7 = .ok (.i2l, 1) := dk_133 (dk_at dksX0_example_0 7 rfl rfl)
theorem dX0_example_8 : decode cX0_example 8 = .ok (.lastore, 1) := dk_80 (dk_at dksX0_example_0 8 rfl rfl)
theorem dX0_example_9 : decode cX0_example 9 = .ok (.goto 6, 3) := dk_167 0 6 (dk_at dksX0_example_0 9 rfl rfl)
theorem dX0_example_12 : decode cX0_example 12 = .ok (.astore_n 3, 1) := dk_78 (dk_at dksX0_example_0 12 rfl rfl)
theorem dX0_example_13 : decode cX0_example 13 = .ok (.iconst 1, 1) := dk_4 (dk_at dksX0_example_0 13 rfl rfl)
theorem dX0_example_14 : decode cX0_example 14 = .ok (.ireturn, 1) := dk_172 (dk_at dksX0_example_0 14 rfl rfl)
theorem dX0_example_15 : decode cX0_example 15 = .ok (.iconst 0, 1) := dk_3 (dk_at dksX0_example_0 15 rfl rfl)
theorem dX0_example_16 : decode cX0_example 16 = .ok (.ireturn, 1) := dk_172 (dk_at dksX0_example_0 16 rfl rfl)
abbrev cX0_isUsed : ByteArray := method_27_code
def yX0_isUsed : MethodName := ⟨RX0, "isUsed", "(LPatternforge;I[J)I"⟩
def dkwX0_isUsed_1 : List UInt8 := [172, 3, 172]
abbrev dktX0_isUsed_1 : List UInt8 := dkwX0_isUsed_1 ++ []
def dkwX0_isUsed_0 : List UInt8 := [44, 3, 42, 27, 182, 0, 93, 153, 0, 7, 10, 167, 0, 4, 9, 80, 167, 0, 9, 78, 4, 172, 78, 5]
abbrev dktX0_isUsed_0 : List UInt8 := dkwX0_isUsed_0 ++ dktX0_isUsed_1
theorem dksX0_isUsed_0 : cX0_isUsed.data.toList.drop 0 = dktX0_isUsed_0 := by decide +kernel
theorem dksX0_isUsed_1 : cX0_isUsed.data.toList.drop 24 = dktX0_isUsed_1 := dk_seg dksX0_isUsed_0 24 rfl rfl
theorem dX0_isUsed_0 : decode cX0_isUsed 0 = .ok (.aload_n 2, 1) := dk_44 (dk_at dksX0_isUsed_0 0 rfl rfl)
theorem dX0_isUsed_1 : decode cX0_isUsed 1 = .ok (.iconst 0, 1) := dk_3 (dk_at dksX0_isUsed_0 1 rfl rfl)
theorem dX0_isUsed_2 : decode cX0_isUsed 2 = .ok (.aload_n 0, 1) := dk_42 (dk_at dksX0_isUsed_0 2 rfl rfl)
theorem dX0_isUsed_3 : decode cX0_isUsed 3 = .ok (.iload_n 1, 1) := dk_27 (dk_at dksX0_isUsed_0 3 rfl rfl)
theorem dX0_isUsed_4 : decode cX0_isUsed 4 = .ok (.invokevirtual 93, 3) := dk_182 0 93 (dk_at dksX0_isUsed_0 4 rfl rfl)
theorem dX0_isUsed_7 : decode cX0_isUsed 7 = .ok (.ifCond .eq 7, 3) := dk_153 0 7 (dk_at dksX0_isUsed_0 7 rfl rfl)
theorem dX0_isUsed_10 : decode cX0_isUsed 10 = .ok (.lconst 1, 1) := dk_10 (dk_at dksX0_isUsed_0 10 rfl rfl)
theorem dX0_isUsed_11 : decode cX0_isUsed 11 = .ok (.goto 4, 3) := dk_167 0 4 (dk_at dksX0_isUsed_0 11 rfl rfl)
theorem dX0_isUsed_14 : decode cX0_isUsed 14 = .ok (.lconst 0, 1) := dk_9 (dk_at dksX0_isUsed_0 14 rfl rfl)
theorem dX0_isUsed_15 : decode cX0_isUsed 15 = .ok (.lastore, 1) := dk_80 (dk_at dksX0_isUsed_0 15 rfl rfl)
theorem dX0_isUsed_16 : decode cX0_isUsed 16 = .ok (.goto 9, 3) := dk_167 0 9 (dk_at dksX0_isUsed_0 16 rfl rfl)
theorem dX0_isUsed_19 : decode cX0_isUsed 19 = .ok (.astore_n 3, 1) := dk_78 (dk_at dksX0_isUsed_0 19 rfl rfl)
theorem dX0_isUsed_20 : decode cX0_isUsed 20 = .ok (.iconst 1, 1) := dk_4 (dk_at dksX0_isUsed_0 20 rfl rfl)
theorem dX0_isUsed_21 : decode cX0_isUsed 21 = .ok (.ireturn, 1) := dk_172 (dk_at dksX0_isUsed_0 21 rfl rfl)
theorem dX0_isUsed_22 : decode cX0_isUsed 22 = .ok (.astore_n 3, 1) := dk_78 (dk_at dksX0_isUsed_0 22 rfl rfl)
theorem dX0_isUsed_23 : decode cX0_isUsed 23 = .ok (.iconst 2, 1) := dk_5 (dk_at dksX0_isUsed_0 23 rfl rfl)
theorem dX0_isUsed_24 : decode cX0_isUsed 24 = .ok (.ireturn, 1) := dk_172 (dk_at dksX0_isUsed_1 0 rfl rfl)
theorem dX0_isUsed_25 : decode cX0_isUsed 25 = .ok (.iconst 0, 1) := dk_3 (dk_at dksX0_isUsed_1 1 rfl rfl)
theorem dX0_isUsed_26 : decode cX0_isUsed 26 = .ok (.ireturn, 1) := dk_172 (dk_at dksX0_isUsed_1 2 rfl rfl)
theorem q95 : (Jvm.Cond.initialized "PatternforgeLaw") ∈ lw_all := lw_g (lw_at lw_m1 0 rfl) rfl
theorem q137 : (Jvm.Cond.classLink "PatternforgeLaw" (8 : Nat) "Patternforge") ∈ lw_all := lw_g (lw_at lw_m1 42 rfl) rfl
theorem q139 : (Jvm.Cond.methodLink "PatternforgeLaw" (97 : Nat) ({ cls := "Patternforge", name := "<init>", desc := "()V" } : Jvm.MethodName)) ∈ lw_all := lw_g (lw_at lw_m1 44 rfl) rfl
theorem q458 : (Jvm.Cond.methodLink "PatternforgeLaw" (165 : Nat) ({ cls := "Patternforge", name := "tests", desc := "()I" } : Jvm.MethodName)) ∈ lw_all := lw_g (lw_at lw_m2 123 rfl) rfl
theorem q462 : (Jvm.Cond.methodLink "PatternforgeLaw" (169 : Nat) ({ cls := "Patternforge", name := "views", desc := "()I" } : Jvm.MethodName)) ∈ lw_all := lw_g (lw_at lw_m2 127 rfl) rfl
theorem q466 : (Jvm.Cond.methodLink "PatternforgeLaw" (101 : Nat) ({ cls := "PatternforgeLaw", name := "constructor", desc := "(LPatternforge;IIIII[J)I" } : Jvm.MethodName)) ∈ lw_all := lw_g (lw_at lw_m2 131 rfl) rfl
theorem q467 : (Jvm.Cond.static ({ cls := "PatternforgeLaw", name := "constructor", desc := "(LPatternforge;IIIII[J)I" } : Jvm.MethodName)) ∈ lw_all := lw_g (lw_at lw_m2 132 rfl) rfl
theorem q468 : (Jvm.Cond.codeWith ({ cls := "PatternforgeLaw", name := "constructor", desc := "(LPatternforge;IIIII[J)I" } : Jvm.MethodName) method_3_code (8 : Nat) (Option.some Jvm.ClassFile.FieldType.int) [((0 : Nat), (16 : Nat), (19 : Nat), (13 : Nat)), ((0 : Nat), (16 : Nat), (23 : Nat), (15 : Nat)), ((0 : Nat), (16 : Nat), (27 : Nat), (17 : Nat))]) ∈ lw_all := lw_g (lw_at lw_m2 133 rfl) rfl
theorem q469 : (Jvm.Cond.classLink "PatternforgeLaw" (13 : Nat) "java/lang/IndexOutOfBoundsException") ∈ lw_all := lw_g (lw_at lw_m2 134 rfl) rfl
theorem q546 : (Jvm.Cond.classLink "PatternforgeLaw" (15 : Nat) "java/lang/IllegalArgumentException") ∈ lw_all := lw_g (lw_at lw_m2 211 rfl) rfl
theorem q547 : (Jvm.Cond.classLink "PatternforgeLaw" (17 : Nat) "java/lang/IllegalStateException") ∈ lw_all := lw_g (lw_at lw_m2 212 rfl) rfl
theorem q548 : (Jvm.Cond.methodLink "PatternforgeLaw" (7 : Nat) ({ cls := "Patternforge", name := "constructor", desc := "(IIIII)I" } : Jvm.MethodName)) ∈ lw_all := lw_g (lw_at lw_m2 213 rfl) rfl
theorem q646 : (Jvm.Cond.methodLink "PatternforgeLaw" (110 : Nat) ({ cls := "PatternforgeLaw", name := "num", desc := "(LPatternforge;I[J)I" } : Jvm.MethodName)) ∈ lw_all := lw_g (lw_at lw_m3 71 rfl) rfl
theorem q647 : (Jvm.Cond.static ({ cls := "PatternforgeLaw", name := "num", desc := "(LPatternforge;I[J)I" } : Jvm.MethodName)) ∈ lw_all := lw_g (lw_at lw_m3 72 rfl) rfl
theorem q648 : (Jvm.Cond.codeWith ({ cls := "PatternforgeLaw", name := "num", desc := "(LPatternforge;I[J)I" } : Jvm.MethodName) method_4_code (4 : Nat) (Option.some Jvm.ClassFile.FieldType.int) [((0 : Nat), (9 : Nat), (12 : Nat), (15 : Nat)), ((0 : Nat), (9 : Nat), (15 : Nat), (17 : Nat))]) ∈ lw_all := lw_g (lw_at lw_m3 73 rfl) rfl
theorem q649 : (Jvm.Cond.methodLink "PatternforgeLaw" (19 : Nat) ({ cls := "Patternforge", name := "num", desc := "(I)I" } : Jvm.MethodName)) ∈ lw_all := lw_g (lw_at lw_m3 74 rfl) rfl
theorem q679 : (Jvm.Cond.methodLink "PatternforgeLaw" (114 : Nat) ({ cls := "PatternforgeLaw", name := "seq", desc := "(LPatternforge;IIII[J)I" } : Jvm.MethodName)) ∈ lw_all := lw_g (lw_at lw_m3 104 rfl) rfl
theorem q680 : (Jvm.Cond.static ({ cls := "PatternforgeLaw", name := "seq", desc := "(LPatternforge;IIII[J)I" } : Jvm.MethodName)) ∈ lw_all := lw_g (lw_at lw_m3 105 rfl) rfl
theorem q681 : (Jvm.Cond.codeWith ({ cls := "PatternforgeLaw", name := "seq", desc := "(LPatternforge;IIII[J)I" } : Jvm.MethodName) method_5_code (7 : Nat) (Option.some Jvm.ClassFile.FieldType.int) [((0 : Nat), (14 : Nat), (17 : Nat), (15 : Nat)), ((0 : Nat), (14 : Nat), (21 : Nat), (17 : Nat))]) ∈ lw_all := lw_g (lw_at lw_m3 106 rfl) rfl
theorem q682 : (Jvm.Cond.methodLink "PatternforgeLaw" (23 : Nat) ({ cls := "Patternforge", name := "seq", desc := "(IIII)I" } : Jvm.MethodName)) ∈ lw_all := lw_g (lw_at lw_m3 107 rfl) rfl
theorem q689 : (Jvm.Cond.methodLink "PatternforgeLaw" (118 : Nat) ({ cls := "PatternforgeLaw", name := "data", desc := "(LPatternforge;IIIII[J)I" } : Jvm.MethodName)) ∈ lw_all := lw_g (lw_at lw_m3 114 rfl) rfl
theorem q690 : (Jvm.Cond.static ({ cls := "PatternforgeLaw", name := "data", desc := "(LPatternforge;IIIII[J)I" } : Jvm.MethodName)) ∈ lw_all := lw_g (lw_at lw_m3 115 rfl) rfl
theorem q691 : (Jvm.Cond.codeWith ({ cls := "PatternforgeLaw", name := "data", desc := "(LPatternforge;IIIII[J)I" } : Jvm.MethodName) method_6_code (8 : Nat) (Option.some Jvm.ClassFile.FieldType.int) [((0 : Nat), (16 : Nat), (19 : Nat), (13 : Nat)), ((0 : Nat), (16 : Nat), (23 : Nat), (15 : Nat)), ((0 : Nat), (16 : Nat), (27 : Nat), (17 : Nat))]) ∈ lw_all := lw_g (lw_at lw_m3 116 rfl) rfl
theorem q692 : (Jvm.Cond.methodLink "PatternforgeLaw" (27 : Nat) ({ cls := "Patternforge", name := "data", desc := "(IIIII)I" } : Jvm.MethodName)) ∈ lw_all := lw_g (lw_at lw_m3 117 rfl) rfl
theorem q711 : (Jvm.Cond.methodLink "PatternforgeLaw" (121 : Nat) ({ cls := "PatternforgeLaw", name := "any", desc := "(LPatternforge;[J)I" } : Jvm.MethodName)) ∈ lw_all := lw_g (lw_at lw_m3 136 rfl) rfl
theorem q712 : (Jvm.Cond.static ({ cls := "PatternforgeLaw", name := "any", desc := "(LPatternforge;[J)I" } : Jvm.MethodName)) ∈ lw_all := lw_g (lw_at lw_m3 137 rfl) rfl
theorem q713 : (Jvm.Cond.codeWith ({ cls := "PatternforgeLaw", name := "any", desc := "(LPatternforge;[J)I" } : Jvm.MethodName) method_7_code (3 : Nat) (Option.some Jvm.ClassFile.FieldType.int) [((0 : Nat), (8 : Nat), (11 : Nat), (17 : Nat))]) ∈ lw_all := lw_g (lw_at lw_m3 138 rfl) rfl
theorem q714 : (Jvm.Cond.methodLink "PatternforgeLaw" (30 : Nat) ({ cls := "Patternforge", name := "any", desc := "()I" } : Jvm.MethodName)) ∈ lw_all := lw_g (lw_at lw_m3 139 rfl) rfl
theorem q757 : (Jvm.Cond.methodLink "PatternforgeLaw" (125 : Nat) ({ cls := "PatternforgeLaw", name := "name", desc := "(LPatternforge;II[J)I" } : Jvm.MethodName)) ∈ lw_all := lw_g (lw_at lw_m3 182 rfl) rfl
theorem q758 : (Jvm.Cond.static ({ cls := "PatternforgeLaw", name := "name", desc := "(LPatternforge;II[J)I" } : Jvm.MethodName)) ∈ lw_all := lw_g (lw_at lw_m3 183 rfl) rfl
theorem q759 : (Jvm.Cond.codeWith ({ cls := "PatternforgeLaw", name := "name", desc := "(LPatternforge;II[J)I" } : Jvm.MethodName) method_8_code (5 : Nat) (Option.some Jvm.ClassFile.FieldType.int) [((0 : Nat), (10 : Nat), (13 : Nat), (13 : Nat)), ((0 : Nat), (10 : Nat), (17 : Nat), (15 : Nat)), ((0 : Nat), (10 : Nat), (21 : Nat), (17 : Nat))]) ∈ lw_all := lw_g (lw_at lw_m3 184 rfl) rfl
theorem q760 : (Jvm.Cond.methodLink "PatternforgeLaw" (34 : Nat) ({ cls := "Patternforge", name := "name", desc := "(II)I" } : Jvm.MethodName)) ∈ lw_all := lw_g (lw_at lw_m3 185 rfl) rfl
theorem q812 : (Jvm.Cond.methodLink "PatternforgeLaw" (129 : Nat) ({ cls := "PatternforgeLaw", name := "range", desc := "(LPatternforge;II[J)I" } : Jvm.MethodName)) ∈ lw_all := lw_g (lw_at lw_m3 237 rfl) rfl
theorem q813 : (Jvm.Cond.static ({ cls := "PatternforgeLaw", name := "range", desc := "(LPatternforge;II[J)I" } : Jvm.MethodName)) ∈ lw_all := lw_g (lw_at lw_m3 238 rfl) rfl
theorem q814 : (Jvm.Cond.codeWith ({ cls := "PatternforgeLaw", name := "range", desc := "(LPatternforge;II[J)I" } : Jvm.MethodName) method_9_code (5 : Nat) (Option.some Jvm.ClassFile.FieldType.int) [((0 : Nat), (10 : Nat), (13 : Nat), (15 : Nat)), ((0 : Nat), (10 : Nat), (17 : Nat), (17 : Nat))]) ∈ lw_all := lw_g (lw_at lw_m3 239 rfl) rfl
theorem q815 : (Jvm.Cond.methodLink "PatternforgeLaw" (38 : Nat) ({ cls := "Patternforge", name := "range", desc := "(II)I" } : Jvm.MethodName)) ∈ lw_all := lw_g (lw_at lw_m4 0 rfl) rfl
theorem q832 : (Jvm.Cond.methodLink "PatternforgeLaw" (132 : Nat) ({ cls := "PatternforgeLaw", name := "make", desc := "(LPatternforge;IIIII[J)I" } : Jvm.MethodName)) ∈ lw_all := lw_g (lw_at lw_m4 17 rfl) rfl
theorem q833 : (Jvm.Cond.static ({ cls := "PatternforgeLaw", name := "make", desc := "(LPatternforge;IIIII[J)I" } : Jvm.MethodName)) ∈ lw_all := lw_g (lw_at lw_m4 18 rfl) rfl
theorem q834 : (Jvm.Cond.codeWith ({ cls := "PatternforgeLaw", name := "make", desc := "(LPatternforge;IIIII[J)I" } : Jvm.MethodName) method_10_code (8 : Nat) (Option.some Jvm.ClassFile.FieldType.int) [((0 : Nat), (16 : Nat), (19 : Nat), (13 : Nat)), ((0 : Nat), (16 : Nat), (23 : Nat), (15 : Nat)), ((0 : Nat), (16 : Nat), (27 : Nat), (17 : Nat))]) ∈ lw_all := lw_g (lw_at lw_m4 19 rfl) rfl
theorem q835 : (Jvm.Cond.methodLink "PatternforgeLaw" (41 : Nat) ({ cls := "Patternforge", name := "make", desc := "(IIIII)I" } : Jvm.MethodName)) ∈ lw_all := lw_g (lw_at lw_m4 20 rfl) rfl
theorem q870 : (Jvm.Cond.methodLink "PatternforgeLaw" (135 : Nat) ({ cls := "PatternforgeLaw", name := "either", desc := "(LPatternforge;II[J)I" } : Jvm.MethodName)) ∈ lw_all := lw_g (lw_at lw_m4 55 rfl) rfl
theorem q871 : (Jvm.Cond.static ({ cls := "PatternforgeLaw", name := "either", desc := "(LPatternforge;II[J)I" } : Jvm.MethodName)) ∈ lw_all := lw_g (lw_at lw_m4 56 rfl) rfl
theorem q872 : (Jvm.Cond.codeWith ({ cls := "PatternforgeLaw", name := "either", desc := "(LPatternforge;II[J)I" } : Jvm.MethodName) method_11_code (5 : Nat) (Option.some Jvm.ClassFile.FieldType.int) [((0 : Nat), (10 : Nat), (13 : Nat), (13 : Nat)), ((0 : Nat), (10 : Nat), (17 : Nat), (15 : Nat)), ((0 : Nat), (10 : Nat), (21 : Nat), (17 : Nat))]) ∈ lw_all := lw_g (lw_at lw_m4 57 rfl) rfl
theorem q873 : (Jvm.Cond.methodLink "PatternforgeLaw" (44 : Nat) ({ cls := "Patternforge", name := "either", desc := "(II)I" } : Jvm.MethodName)) ∈ lw_all := lw_g (lw_at lw_m4 58 rfl) rfl
theorem q901 : (Jvm.Cond.methodLink "PatternforgeLaw" (138 : Nat) ({ cls := "PatternforgeLaw", name := "view", desc := "(LPatternforge;II[J)I" } : Jvm.MethodName)) ∈ lw_all := lw_g (lw_at lw_m4 86 rfl) rfl
theorem q902 : (Jvm.Cond.static ({ cls := "PatternforgeLaw", name := "view", desc := "(LPatternforge;II[J)I" } : Jvm.MethodName)) ∈ lw_all := lw_g (lw_at lw_m4 87 rfl) rfl
theorem q903 : (Jvm.Cond.codeWith ({ cls := "PatternforgeLaw", name := "view", desc := "(LPatternforge;II[J)I" } : Jvm.MethodName) method_12_code (5 : Nat) (Option.some Jvm.ClassFile.FieldType.int) [((0 : Nat), (10 : Nat), (13 : Nat), (13 : Nat)), ((0 : Nat), (10 : Nat), (17 : Nat), (15 : Nat)), ((0 : Nat), (10 : Nat), (21 : Nat), (17 : Nat))]) ∈ lw_all := lw_g (lw_at lw_m4 88 rfl) rfl
theorem q904 : (Jvm.Cond.methodLink "PatternforgeLaw" (47 : Nat) ({ cls := "Patternforge", name := "view", desc := "(II)I" } : Jvm.MethodName)) ∈ lw_all := lw_g (lw_at lw_m4 89 rfl) rfl
theorem q921 : (Jvm.Cond.methodLink "PatternforgeLaw" (141 : Nat) ({ cls := "PatternforgeLaw", name := "list", desc := "(LPatternforge;IIII[J)I" } : Jvm.MethodName)) ∈ lw_all := lw_g (lw_at lw_m4 106 rfl) rfl
theorem q922 : (Jvm.Cond.static ({ cls := "PatternforgeLaw", name := "list", desc := "(LPatternforge;IIII[J)I" } : Jvm.MethodName)) ∈ lw_all := lw_g (lw_at lw_m4 107 rfl) rfl
theorem q923 : (Jvm.Cond.codeWith ({ cls := "PatternforgeLaw", name := "list", desc := "(LPatternforge;IIII[J)I" } : Jvm.MethodName) method_13_code (7 : Nat) (Option.some Jvm.ClassFile.FieldType.int) [((0 : Nat), (14 : Nat), (17 : Nat), (13 : Nat)), ((0 : Nat), (14 : Nat), (21 : Nat), (15 : Nat)), ((0 : Nat), (14 : Nat), (25 : Nat), (17 : Nat))]) ∈ lw_all := lw_g (lw_at lw_m4 108 rfl) rfl
theorem q924 : (Jvm.Cond.methodLink "PatternforgeLaw" (50 : Nat) ({ cls := "Patternforge", name := "list", desc := "(IIII)I" } : Jvm.MethodName)) ∈ lw_all := lw_g (lw_at lw_m4 109 rfl) rfl
theorem q941 : (Jvm.Cond.methodLink "PatternforgeLaw" (144 : Nat) ({ cls := "PatternforgeLaw", name := "setView", desc := "(LPatternforge;IIIII[J)I" } : Jvm.MethodName)) ∈ lw_all := lw_g (lw_at lw_m4 126 rfl) rfl
theorem q942 : (Jvm.Cond.static ({ cls := "PatternforgeLaw", name := "setView", desc := "(LPatternforge;IIIII[J)I" } : Jvm.MethodName)) ∈ lw_all := lw_g (lw_at lw_m4 127 rfl) rfl
theorem q943 : (Jvm.Cond.codeWith ({ cls := "PatternforgeLaw", name := "setView", desc := "(LPatternforge;IIIII[J)I" } : Jvm.MethodName) method_14_code (8 : Nat) (Option.some Jvm.ClassFile.FieldType.int) [((0 : Nat), (16 : Nat), (19 : Nat), (13 : Nat)), ((0 : Nat), (16 : Nat), (23 : Nat), (15 : Nat))]) ∈ lw_all := lw_g (lw_at lw_m4 128 rfl) rfl
theorem q944 : (Jvm.Cond.methodLink "PatternforgeLaw" (53 : Nat) ({ cls := "Patternforge", name := "setView", desc := "(IIIII)I" } : Jvm.MethodName)) ∈ lw_all := lw_g (lw_at lw_m4 129 rfl) rfl
theorem q948 : (Jvm.Cond.methodLink "PatternforgeLaw" (147 : Nat) ({ cls := "PatternforgeLaw", name := "begin", desc := "(LPatternforge;IIII[J)I" } : Jvm.MethodName)) ∈ lw_all := lw_g (lw_at lw_m4 133 rfl) rfl
theorem q949 : (Jvm.Cond.static ({ cls := "PatternforgeLaw", name := "begin", desc := "(LPatternforge;IIII[J)I" } : Jvm.MethodName)) ∈ lw_all := lw_g (lw_at lw_m4 134 rfl) rfl
theorem q950 : (Jvm.Cond.codeWith ({ cls := "PatternforgeLaw", name := "begin", desc := "(LPatternforge;IIII[J)I" } : Jvm.MethodName) method_15_code (7 : Nat) (Option.some Jvm.ClassFile.FieldType.int) [((0 : Nat), (14 : Nat), (17 : Nat), (15 : Nat))]) ∈ lw_all := lw_g (lw_at lw_m4 135 rfl) rfl
theorem q951 : (Jvm.Cond.methodLink "PatternforgeLaw" (56 : Nat) ({ cls := "Patternforge", name := "begin", desc := "(IIII)I" } : Jvm.MethodName)) ∈ lw_all := lw_g (lw_at lw_m4 136 rfl) rfl
theorem q964 : (Jvm.Cond.methodLink "PatternforgeLaw" (150 : Nat) ({ cls := "PatternforgeLaw", name := "add", desc := "(LPatternforge;IIII[J)I" } : Jvm.MethodName)) ∈ lw_all := lw_g (lw_at lw_m4 149 rfl) rfl
theorem q965 : (Jvm.Cond.static ({ cls := "PatternforgeLaw", name := "add", desc := "(LPatternforge;IIII[J)I" } : Jvm.MethodName)) ∈ lw_all := lw_g (lw_at lw_m4 150 rfl) rfl
theorem q966 : (Jvm.Cond.codeWith ({ cls := "PatternforgeLaw", name := "add", desc := "(LPatternforge;IIII[J)I" } : Jvm.MethodName) method_16_code (7 : Nat) (Option.some Jvm.ClassFile.FieldType.int) [((0 : Nat), (14 : Nat), (17 : Nat), (13 : Nat)), ((0 : Nat), (14 : Nat), (21 : Nat), (15 : Nat)), ((0 : Nat), (14 : Nat), (25 : Nat), (17 : Nat))]) ∈ lw_all := lw_g (lw_at lw_m4 151 rfl) rfl
theorem q967 : (Jvm.Cond.methodLink "PatternforgeLaw" (59 : Nat) ({ cls := "Patternforge", name := "add", desc := "(IIII)I" } : Jvm.MethodName)) ∈ lw_all := lw_g (lw_at lw_m4 152 rfl) rfl
theorem q1005 : (Jvm.Cond.methodLink "PatternforgeLaw" (153 : Nat) ({ cls := "PatternforgeLaw", name := "guard", desc := "(LPatternforge;IIII[J)I" } : Jvm.MethodName)) ∈ lw_all := lw_g (lw_at lw_m4 190 rfl) rfl
theorem q1006 : (Jvm.Cond.static ({ cls := "PatternforgeLaw", name := "guard", desc := "(LPatternforge;IIII[J)I" } : Jvm.MethodName)) ∈ lw_all := lw_g (lw_at lw_m4 191 rfl) rfl
theorem q1007 : (Jvm.Cond.codeWith ({ cls := "PatternforgeLaw", name := "guard", desc := "(LPatternforge;IIII[J)I" } : Jvm.MethodName) method_17_code (7 : Nat) (Option.some Jvm.ClassFile.FieldType.int) [((0 : Nat), (14 : Nat), (17 : Nat), (13 : Nat)), ((0 : Nat), (14 : Nat), (21 : Nat), (15 : Nat))]) ∈ lw_all := lw_g (lw_at lw_m4 192 rfl) rfl
theorem q1008 : (Jvm.Cond.methodLink "PatternforgeLaw" (62 : Nat) ({ cls := "Patternforge", name := "guard", desc := "(IIII)I" } : Jvm.MethodName)) ∈ lw_all := lw_g (lw_at lw_m4 193 rfl) rfl
theorem q1074 : (Jvm.Cond.methodLink "PatternforgeLaw" (156 : Nat) ({ cls := "PatternforgeLaw", name := "split", desc := "(LPatternforge;II[J)I" } : Jvm.MethodName)) ∈ lw_all := lw_g (lw_at lw_m5 19 rfl) rfl
theorem q1075 : (Jvm.Cond.static ({ cls := "PatternforgeLaw", name := "split", desc := "(LPatternforge;II[J)I" } : Jvm.MethodName)) ∈ lw_all := lw_g (lw_at lw_m5 20 rfl) rfl
theorem q1076 : (Jvm.Cond.codeWith ({ cls := "PatternforgeLaw", name := "split", desc := "(LPatternforge;II[J)I" } : Jvm.MethodName) method_18_code (5 : Nat) (Option.some Jvm.ClassFile.FieldType.int) [((0 : Nat), (10 : Nat), (13 : Nat), (13 : Nat)), ((0 : Nat), (10 : Nat), (17 : Nat), (17 : Nat))]) ∈ lw_all := lw_g (lw_at lw_m5 21 rfl) rfl
theorem q1077 : (Jvm.Cond.methodLink "PatternforgeLaw" (65 : Nat) ({ cls := "Patternforge", name := "split", desc := "(II)I" } : Jvm.MethodName)) ∈ lw_all := lw_g (lw_at lw_m5 22 rfl) rfl
theorem q1342 : (Jvm.Cond.methodLink "PatternforgeLaw" (159 : Nat) ({ cls := "PatternforgeLaw", name := "merge", desc := "(LPatternforge;II[J)I" } : Jvm.MethodName)) ∈ lw_all := lw_g (lw_at lw_m6 47 rfl) rfl
theorem q1343 : (Jvm.Cond.static ({ cls := "PatternforgeLaw", name := "merge", desc := "(LPatternforge;II[J)I" } : Jvm.MethodName)) ∈ lw_all := lw_g (lw_at lw_m6 48 rfl) rfl
theorem q1344 : (Jvm.Cond.codeWith ({ cls := "PatternforgeLaw", name := "merge", desc := "(LPatternforge;II[J)I" } : Jvm.MethodName) method_19_code (5 : Nat) (Option.some Jvm.ClassFile.FieldType.int) [((0 : Nat), (10 : Nat), (13 : Nat), (13 : Nat)), ((0 : Nat), (10 : Nat), (17 : Nat), (17 : Nat))]) ∈ lw_all := lw_g (lw_at lw_m6 49 rfl) rfl
theorem q1345 : (Jvm.Cond.methodLink "PatternforgeLaw" (68 : Nat) ({ cls := "Patternforge", name := "merge", desc := "(II)I" } : Jvm.MethodName)) ∈ lw_all := lw_g (lw_at lw_m6 50 rfl) rfl
theorem q1357 : (Jvm.Cond.methodLink "PatternforgeLaw" (162 : Nat) ({ cls := "PatternforgeLaw", name := "run", desc := "(LPatternforge;IIII[J)I" } : Jvm.MethodName)) ∈ lw_all := lw_g (lw_at lw_m6 62 rfl) rfl
theorem q1358 : (Jvm.Cond.static ({ cls := "PatternforgeLaw", name := "run", desc := "(LPatternforge;IIII[J)I" } : Jvm.MethodName)) ∈ lw_all := lw_g (lw_at lw_m6 63 rfl) rfl
theorem q1359 : (Jvm.Cond.codeWith ({ cls := "PatternforgeLaw", name := "run", desc := "(LPatternforge;IIII[J)I" } : Jvm.MethodName) method_20_code (7 : Nat) (Option.some Jvm.ClassFile.FieldType.int) [((0 : Nat), (14 : Nat), (17 : Nat), (13 : Nat)), ((0 : Nat), (14 : Nat), (21 : Nat), (15 : Nat)), ((0 : Nat), (14 : Nat), (25 : Nat), (17 : Nat))]) ∈ lw_all := lw_g (lw_at lw_m6 64 rfl) rfl
theorem q1360 : (Jvm.Cond.methodLink "PatternforgeLaw" (71 : Nat) ({ cls := "Patternforge", name := "run", desc := "(IIII)I" } : Jvm.MethodName)) ∈ lw_all := lw_g (lw_at lw_m6 65 rfl) rfl
theorem q1684 : (Jvm.Cond.methodLink "PatternforgeLaw" (173 : Nat) ({ cls := "PatternforgeLaw", name := "viewAt", desc := "(LPatternforge;I[J)I" } : Jvm.MethodName)) ∈ lw_all := lw_g (lw_at lw_m7 149 rfl) rfl
theorem q1685 : (Jvm.Cond.static ({ cls := "PatternforgeLaw", name := "viewAt", desc := "(LPatternforge;I[J)I" } : Jvm.MethodName)) ∈ lw_all := lw_g (lw_at lw_m7 150 rfl) rfl
theorem q1686 : (Jvm.Cond.codeWith ({ cls := "PatternforgeLaw", name := "viewAt", desc := "(LPatternforge;I[J)I" } : Jvm.MethodName) method_21_code (4 : Nat) (Option.some Jvm.ClassFile.FieldType.int) [((0 : Nat), (9 : Nat), (12 : Nat), (13 : Nat))]) ∈ lw_all := lw_g (lw_at lw_m7 151 rfl) rfl
theorem q1687 : (Jvm.Cond.methodLink "PatternforgeLaw" (74 : Nat) ({ cls := "Patternforge", name := "viewAt", desc := "(I)I" } : Jvm.MethodName)) ∈ lw_all := lw_g (lw_at lw_m7 152 rfl) rfl
theorem q1692 : (Jvm.Cond.methodLink "PatternforgeLaw" (176 : Nat) ({ cls := "PatternforgeLaw", name := "bound", desc := "(LPatternforge;I[J)I" } : Jvm.MethodName)) ∈ lw_all := lw_g (lw_at lw_m7 157 rfl) rfl
theorem q1693 : (Jvm.Cond.static ({ cls := "PatternforgeLaw", name := "bound", desc := "(LPatternforge;I[J)I" } : Jvm.MethodName)) ∈ lw_all := lw_g (lw_at lw_m7 158 rfl) rfl
theorem q1694 : (Jvm.Cond.codeWith ({ cls := "PatternforgeLaw", name := "bound", desc := "(LPatternforge;I[J)I" } : Jvm.MethodName) method_22_code (4 : Nat) (Option.some Jvm.ClassFile.FieldType.int) [((0 : Nat), (9 : Nat), (12 : Nat), (13 : Nat))]) ∈ lw_all := lw_g (lw_at lw_m7 159 rfl) rfl
theorem q1695 : (Jvm.Cond.methodLink "PatternforgeLaw" (77 : Nat) ({ cls := "Patternforge", name := "bound", desc := "(I)I" } : Jvm.MethodName)) ∈ lw_all := lw_g (lw_at lw_m7 160 rfl) rfl
theorem q1699 : (Jvm.Cond.methodLink "PatternforgeLaw" (179 : Nat) ({ cls := "PatternforgeLaw", name := "taken", desc := "(LPatternforge;I[J)I" } : Jvm.MethodName)) ∈ lw_all := lw_g (lw_at lw_m7 164 rfl) rfl
theorem q1700 : (Jvm.Cond.static ({ cls := "PatternforgeLaw", name := "taken", desc := "(LPatternforge;I[J)I" } : Jvm.MethodName)) ∈ lw_all := lw_g (lw_at lw_m7 165 rfl) rfl
theorem q1701 : (Jvm.Cond.codeWith ({ cls := "PatternforgeLaw", name := "taken", desc := "(LPatternforge;I[J)I" } : Jvm.MethodName) method_23_code (4 : Nat) (Option.some Jvm.ClassFile.FieldType.int) [((0 : Nat), (9 : Nat), (12 : Nat), (13 : Nat))]) ∈ lw_all := lw_g (lw_at lw_m7 166 rfl) rfl
theorem q1702 : (Jvm.Cond.methodLink "PatternforgeLaw" (80 : Nat) ({ cls := "Patternforge", name := "taken", desc := "(I)I" } : Jvm.MethodName)) ∈ lw_all := lw_g (lw_at lw_m7 167 rfl) rfl
theorem q1706 : (Jvm.Cond.methodLink "PatternforgeLaw" (182 : Nat) ({ cls := "PatternforgeLaw", name := "size", desc := "(LPatternforge;IZ[J)I" } : Jvm.MethodName)) ∈ lw_all := lw_g (lw_at lw_m7 171 rfl) rfl
theorem q1707 : (Jvm.Cond.static ({ cls := "PatternforgeLaw", name := "size", desc := "(LPatternforge;IZ[J)I" } : Jvm.MethodName)) ∈ lw_all := lw_g (lw_at lw_m7 172 rfl) rfl
theorem q1708 : (Jvm.Cond.codeWith ({ cls := "PatternforgeLaw", name := "size", desc := "(LPatternforge;IZ[J)I" } : Jvm.MethodName) method_24_code (5 : Nat) (Option.some Jvm.ClassFile.FieldType.int) [((0 : Nat), (10 : Nat), (13 : Nat), (13 : Nat)), ((0 : Nat), (10 : Nat), (17 : Nat), (17 : Nat))]) ∈ lw_all := lw_g (lw_at lw_m7 173 rfl) rfl
theorem q1709 : (Jvm.Cond.methodLink "PatternforgeLaw" (83 : Nat) ({ cls := "Patternforge", name := "size", desc := "(IZ)I" } : Jvm.MethodName)) ∈ lw_all := lw_g (lw_at lw_m7 174 rfl) rfl
theorem q1725 : (Jvm.Cond.methodLink "PatternforgeLaw" (186 : Nat) ({ cls := "PatternforgeLaw", name := "missing", desc := "(LPatternforge;[J)I" } : Jvm.MethodName)) ∈ lw_all := lw_g (lw_at lw_m7 190 rfl) rfl
theorem q1726 : (Jvm.Cond.static ({ cls := "PatternforgeLaw", name := "missing", desc := "(LPatternforge;[J)I" } : Jvm.MethodName)) ∈ lw_all := lw_g (lw_at lw_m7 191 rfl) rfl
theorem q1727 : (Jvm.Cond.codeWith ({ cls := "PatternforgeLaw", name := "missing", desc := "(LPatternforge;[J)I" } : Jvm.MethodName) method_25_code (3 : Nat) (Option.some Jvm.ClassFile.FieldType.int) [((0 : Nat), (8 : Nat), (11 : Nat), (17 : Nat))]) ∈ lw_all := lw_g (lw_at lw_m7 192 rfl) rfl
theorem q1728 : (Jvm.Cond.methodLink "PatternforgeLaw" (87 : Nat) ({ cls := "Patternforge", name := "missing", desc := "()I" } : Jvm.MethodName)) ∈ lw_all := lw_g (lw_at lw_m7 193 rfl) rfl
theorem q1736 : (Jvm.Cond.methodLink "PatternforgeLaw" (189 : Nat) ({ cls := "PatternforgeLaw", name := "example", desc := "(LPatternforge;I[J)I" } : Jvm.MethodName)) ∈ lw_all := lw_g (lw_at lw_m7 201 rfl) rfl
theorem q1737 : (Jvm.Cond.static ({ cls := "PatternforgeLaw", name := "example", desc := "(LPatternforge;I[J)I" } : Jvm.MethodName)) ∈ lw_all := lw_g (lw_at lw_m7 202 rfl) rfl
theorem q1738 : (Jvm.Cond.codeWith ({ cls := "PatternforgeLaw", name := "example", desc := "(LPatternforge;I[J)I" } : Jvm.MethodName) method_26_code (4 : Nat) (Option.some Jvm.ClassFile.FieldType.int) [((0 : Nat), (9 : Nat), (12 : Nat), (17 : Nat))]) ∈ lw_all := lw_g (lw_at lw_m7 203 rfl) rfl
theorem q1739 : (Jvm.Cond.methodLink "PatternforgeLaw" (90 : Nat) ({ cls := "Patternforge", name := "example", desc := "(I)I" } : Jvm.MethodName)) ∈ lw_all := lw_g (lw_at lw_m7 204 rfl) rfl
theorem q1751 : (Jvm.Cond.methodLink "PatternforgeLaw" (192 : Nat) ({ cls := "PatternforgeLaw", name := "isUsed", desc := "(LPatternforge;I[J)I" } : Jvm.MethodName)) ∈ lw_all := lw_g (lw_at lw_m7 216 rfl) rfl
theorem q1752 : (Jvm.Cond.static ({ cls := "PatternforgeLaw", name := "isUsed", desc := "(LPatternforge;I[J)I" } : Jvm.MethodName)) ∈ lw_all := lw_g (lw_at lw_m7 217 rfl) rfl
theorem q1753 : (Jvm.Cond.codeWith ({ cls := "PatternforgeLaw", name := "isUsed", desc := "(LPatternforge;I[J)I" } : Jvm.MethodName) method_27_code (4 : Nat) (Option.some Jvm.ClassFile.FieldType.int) [((0 : Nat), (16 : Nat), (19 : Nat), (13 : Nat)), ((0 : Nat), (16 : Nat), (22 : Nat), (17 : Nat))]) ∈ lw_all := lw_g (lw_at lw_m7 218 rfl) rfl
theorem q1754 : (Jvm.Cond.methodLink "PatternforgeLaw" (93 : Nat) ({ cls := "Patternforge", name := "isUsed", desc := "(I)Z" } : Jvm.MethodName)) ∈ lw_all := lw_g (lw_at lw_m7 219 rfl) rfl
theorem q1758 : (Jvm.Cond.classLink "PatternforgeLaw" (98 : Nat) "PatternforgeModel") ∈ lw_all := lw_g (lw_at lw_m7 223 rfl) rfl
theorem q1760 : (Jvm.Cond.methodLink "PatternforgeLaw" (100 : Nat) ({ cls := "PatternforgeModel", name := "<init>", desc := "()V" } : Jvm.MethodName)) ∈ lw_all := lw_g (lw_at lw_m7 225 rfl) rfl
theorem q1973 : (Jvm.Cond.methodLink "PatternforgeLaw" (107 : Nat) ({ cls := "PatternforgeModel", name := "thrown", desc := "()I" } : Jvm.MethodName)) ∈ lw_all := lw_g (lw_at lw_m8 198 rfl) rfl
theorem q1977 : (Jvm.Cond.methodLink "PatternforgeLaw" (106 : Nat) ({ cls := "PatternforgeModel", name := "constructor", desc := "(IIIII)I" } : Jvm.MethodName)) ∈ lw_all := lw_g (lw_at lw_m8 202 rfl) rfl
theorem q1994 : (Jvm.Cond.methodLink "PatternforgeLaw" (113 : Nat) ({ cls := "PatternforgeModel", name := "num", desc := "(I)I" } : Jvm.MethodName)) ∈ lw_all := lw_g (lw_at lw_m8 219 rfl) rfl
theorem q2002 : (Jvm.Cond.methodLink "PatternforgeLaw" (117 : Nat) ({ cls := "PatternforgeModel", name := "seq", desc := "(IIII)I" } : Jvm.MethodName)) ∈ lw_all := lw_g (lw_at lw_m8 227 rfl) rfl
theorem q2006 : (Jvm.Cond.methodLink "PatternforgeLaw" (120 : Nat) ({ cls := "PatternforgeModel", name := "data", desc := "(IIIII)I" } : Jvm.MethodName)) ∈ lw_all := lw_g (lw_at lw_m8 231 rfl) rfl
theorem q2014 : (Jvm.Cond.methodLink "PatternforgeLaw" (124 : Nat) ({ cls := "PatternforgeModel", name := "any", desc := "()I" } : Jvm.MethodName)) ∈ lw_all := lw_g (lw_at lw_m8 239 rfl) rfl
theorem q2030 : (Jvm.Cond.methodLink "PatternforgeLaw" (128 : Nat) ({ cls := "PatternforgeModel", name := "name", desc := "(II)I" } : Jvm.MethodName)) ∈ lw_all := lw_g (lw_at lw_m9 15 rfl) rfl
theorem q2038 : (Jvm.Cond.methodLink "PatternforgeLaw" (131 : Nat) ({ cls := "PatternforgeModel", name := "range", desc := "(II)I" } : Jvm.MethodName)) ∈ lw_all := lw_g (lw_at lw_m9 23 rfl) rfl
theorem q2042 : (Jvm.Cond.methodLink "PatternforgeLaw" (134 : Nat) ({ cls := "PatternforgeModel", name := "make", desc := "(IIIII)I" } : Jvm.MethodName)) ∈ lw_all := lw_g (lw_at lw_m9 27 rfl) rfl
theorem q2054 : (Jvm.Cond.methodLink "PatternforgeLaw" (137 : Nat) ({ cls := "PatternforgeModel", name := "either", desc := "(II)I" } : Jvm.MethodName)) ∈ lw_all := lw_g (lw_at lw_m9 39 rfl) rfl
theorem q2066 : (Jvm.Cond.methodLink "PatternforgeLaw" (140 : Nat) ({ cls := "PatternforgeModel", name := "view", desc := "(II)I" } : Jvm.MethodName)) ∈ lw_all := lw_g (lw_at lw_m9 51 rfl) rfl
theorem q2070 : (Jvm.Cond.methodLink "PatternforgeLaw" (143 : Nat) ({ cls := "PatternforgeModel", name := "list", desc := "(IIII)I" } : Jvm.MethodName)) ∈ lw_all := lw_g (lw_at lw_m9 55 rfl) rfl
theorem q2074 : (Jvm.Cond.methodLink "PatternforgeLaw" (146 : Nat) ({ cls := "PatternforgeModel", name := "setView", desc := "(IIIII)I" } : Jvm.MethodName)) ∈ lw_all := lw_g (lw_at lw_m9 59 rfl) rfl
theorem q2078 : (Jvm.Cond.methodLink "PatternforgeLaw" (149 : Nat) ({ cls := "PatternforgeModel", name := "begin", desc := "(IIII)I" } : Jvm.MethodName)) ∈ lw_all := lw_g (lw_at lw_m9 63 rfl) rfl
theorem q2082 : (Jvm.Cond.methodLink "PatternforgeLaw" (152 : Nat) ({ cls := "PatternforgeModel", name := "add", desc := "(IIII)I" } : Jvm.MethodName)) ∈ lw_all := lw_g (lw_at lw_m9 67 rfl) rfl
theorem q2094 : (Jvm.Cond.methodLink "PatternforgeLaw" (155 : Nat) ({ cls := "PatternforgeModel", name := "guard", desc := "(IIII)I" } : Jvm.MethodName)) ∈ lw_all := lw_g (lw_at lw_m9 79 rfl) rfl
theorem q2106 : (Jvm.Cond.methodLink "PatternforgeLaw" (158 : Nat) ({ cls := "PatternforgeModel", name := "split", desc := "(II)I" } : Jvm.MethodName)) ∈ lw_all := lw_g (lw_at lw_m9 91 rfl) rfl
theorem q2110 : (Jvm.Cond.methodLink "PatternforgeLaw" (161 : Nat) ({ cls := "PatternforgeModel", name := "merge", desc := "(II)I" } : Jvm.MethodName)) ∈ lw_all := lw_g (lw_at lw_m9 95 rfl) rfl
theorem q2114 : (Jvm.Cond.methodLink "PatternforgeLaw" (164 : Nat) ({ cls := "PatternforgeModel", name := "run", desc := "(IIII)I" } : Jvm.MethodName)) ∈ lw_all := lw_g (lw_at lw_m9 99 rfl) rfl
theorem q2230 : (Jvm.Cond.methodLink "PatternforgeLaw" (168 : Nat) ({ cls := "PatternforgeModel", name := "tests", desc := "()I" } : Jvm.MethodName)) ∈ lw_all := lw_g (lw_at lw_m9 215 rfl) rfl
theorem q2234 : (Jvm.Cond.methodLink "PatternforgeLaw" (172 : Nat) ({ cls := "PatternforgeModel", name := "views", desc := "()I" } : Jvm.MethodName)) ∈ lw_all := lw_g (lw_at lw_m9 219 rfl) rfl
theorem q2238 : (Jvm.Cond.methodLink "PatternforgeLaw" (175 : Nat) ({ cls := "PatternforgeModel", name := "viewAt", desc := "(I)I" } : Jvm.MethodName)) ∈ lw_all := lw_g (lw_at lw_m9 223 rfl) rfl
theorem q2243 : (Jvm.Cond.methodLink "PatternforgeLaw" (178 : Nat) ({ cls := "PatternforgeModel", name := "bound", desc := "(I)I" } : Jvm.MethodName)) ∈ lw_all := lw_g (lw_at lw_m9 228 rfl) rfl
theorem q2247 : (Jvm.Cond.methodLink "PatternforgeLaw" (181 : Nat) ({ cls := "PatternforgeModel", name := "taken", desc := "(I)I" } : Jvm.MethodName)) ∈ lw_all := lw_g (lw_at lw_m9 232 rfl) rfl
theorem q2251 : (Jvm.Cond.methodLink "PatternforgeLaw" (185 : Nat) ({ cls := "PatternforgeModel", name := "size", desc := "(IZ)I" } : Jvm.MethodName)) ∈ lw_all := lw_g (lw_at lw_m9 236 rfl) rfl
theorem q2267 : (Jvm.Cond.methodLink "PatternforgeLaw" (188 : Nat) ({ cls := "PatternforgeModel", name := "missing", desc := "()I" } : Jvm.MethodName)) ∈ lw_all := lw_g (lw_at lw_m10 12 rfl) rfl
theorem q2271 : (Jvm.Cond.methodLink "PatternforgeLaw" (191 : Nat) ({ cls := "PatternforgeModel", name := "example", desc := "(I)I" } : Jvm.MethodName)) ∈ lw_all := lw_g (lw_at lw_m10 16 rfl) rfl
theorem q2279 : (Jvm.Cond.methodLink "PatternforgeLaw" (194 : Nat) ({ cls := "PatternforgeModel", name := "isUsed", desc := "(I)Z" } : Jvm.MethodName)) ∈ lw_all := lw_g (lw_at lw_m10 24 rfl) rfl

/-! the law's own entry -/
set_option maxRecDepth 100000
abbrev cL_law : ByteArray := code
def dkwL_law_85 : List UInt8 := [9, 148, 153, 0, 5, 3, 172, 167, 0, 3, 132, 4, 6, 167, 247, 243, 4, 172]
abbrev dktL_law_85 : List UInt8 := dkwL_law_85 ++ []
def dkwL_law_84 : List UInt8 := [21, 5, 159, 0, 5, 3, 172, 21, 5, 154, 0, 22, 45, 3, 47, 21, 6, 153, 0, 7, 10, 167, 0, 4]
abbrev dktL_law_84 : List UInt8 := dkwL_law_84 ++ dktL_law_85
def dkwL_law_83 : List UInt8 := [46, 45, 184, 0, 192, 54, 5, 44, 42, 21, 4, 4, 96, 46, 182, 0, 194, 54, 6, 44, 182, 0, 107]
abbrev dktL_law_83 : List UInt8 := dkwL_law_83 ++ dktL_law_84
def dkwL_law_82 : List UInt8 := [154, 0, 15, 45, 3, 47, 21, 6, 133, 148, 153, 0, 5, 3, 172, 167, 0, 66, 43, 42, 21, 4, 4, 96]
abbrev dktL_law_82 : List UInt8 := dkwL_law_82 ++ dktL_law_83
def dkwL_law_81 : List UInt8 := [21, 4, 4, 96, 46, 182, 0, 191, 54, 6, 44, 182, 0, 107, 21, 5, 159, 0, 5, 3, 172, 21, 5]
abbrev dktL_law_81 : List UInt8 := dkwL_law_81 ++ dktL_law_82
def dkwL_law_80 : List UInt8 := [153, 0, 5, 3, 172, 167, 0, 122, 43, 42, 21, 4, 4, 96, 46, 45, 184, 0, 189, 54, 5, 44, 42]
abbrev dktL_law_80 : List UInt8 := dkwL_law_80 ++ dktL_law_81
def dkwL_law_79 : List UInt8 := [182, 0, 107, 21, 5, 159, 0, 5, 3, 172, 21, 5, 154, 0, 15, 45, 3, 47, 21, 6, 133, 148]
abbrev dktL_law_79 : List UInt8 := dkwL_law_79 ++ dktL_law_80
def dkwL_law_78 : List UInt8 := [153, 0, 5, 3, 172, 167, 0, 166, 43, 45, 184, 0, 186, 54, 5, 44, 182, 0, 188, 54, 6, 44]
abbrev dktL_law_78 : List UInt8 := dkwL_law_78 ++ dktL_law_79
def dkwL_law_77 : List UInt8 := [44, 182, 0, 107, 21, 5, 159, 0, 5, 3, 172, 21, 5, 154, 0, 15, 45, 3, 47, 21, 6, 133, 148]
abbrev dktL_law_77 : List UInt8 := dkwL_law_77 ++ dktL_law_78
def dkwL_law_76 : List UInt8 := [21, 4, 4, 96, 46, 42, 21, 4, 5, 96, 46, 153, 0, 7, 4, 167, 0, 4, 3, 182, 0, 185, 54, 6]
abbrev dktL_law_76 : List UInt8 := dkwL_law_76 ++ dktL_law_77
def dkwL_law_75 : List UInt8 := [46, 42, 21, 4, 5, 96, 46, 153, 0, 7, 4, 167, 0, 4, 3, 45, 184, 0, 182, 54, 5, 44, 42]
abbrev dktL_law_75 : List UInt8 := dkwL_law_75 ++ dktL_law_76
def dkwL_law_74 : List UInt8 := [154, 0, 15, 45, 3, 47, 21, 6, 133, 148, 153, 0, 5, 3, 172, 167, 0, 250, 43, 42, 21, 4, 4, 96]
abbrev dktL_law_74 : List UInt8 := dkwL_law_74 ++ dktL_law_75
def dkwL_law_73 : List UInt8 := [21, 4, 4, 96, 46, 182, 0, 181, 54, 6, 44, 182, 0, 107, 21, 5, 159, 0, 5, 3, 172, 21, 5]
abbrev dktL_law_73 : List UInt8 := dkwL_law_73 ++ dktL_law_74
def dkwL_law_72 : List UInt8 := [153, 0, 5, 3, 172, 167, 1, 50, 43, 42, 21, 4, 4, 96, 46, 45, 184, 0, 179, 54, 5, 44, 42]
abbrev dktL_law_72 : List UInt8 := dkwL_law_72 ++ dktL_law_73
def dkwL_law_71 : List UInt8 := [182, 0, 107, 21, 5, 159, 0, 5, 3, 172, 21, 5, 154, 0, 15, 45, 3, 47, 21, 6, 133, 148]
abbrev dktL_law_71 : List UInt8 := dkwL_law_71 ++ dktL_law_72
def dkwL_law_70 : List UInt8 := [21, 4, 4, 96, 46, 45, 184, 0, 176, 54, 5, 44, 42, 21, 4, 4, 96, 46, 182, 0, 178, 54, 6, 44]
abbrev dktL_law_70 : List UInt8 := dkwL_law_70 ++ dktL_law_71
def dkwL_law_69 : List UInt8 := [172, 21, 5, 154, 0, 15, 45, 3, 47, 21, 6, 133, 148, 153, 0, 5, 3, 172, 167, 1, 106, 43, 42]
abbrev dktL_law_69 : List UInt8 := dkwL_law_69 ++ dktL_law_70
def dkwL_law_68 : List UInt8 := [54, 5, 44, 42, 21, 4, 4, 96, 46, 182, 0, 175, 54, 6, 44, 182, 0, 107, 21, 5, 159, 0, 5, 3]
abbrev dktL_law_68 : List UInt8 := dkwL_law_68 ++ dktL_law_69
def dkwL_law_67 : List UInt8 := [182, 0, 169, 44, 182, 0, 172, 159, 1, 164, 3, 172, 43, 42, 21, 4, 4, 96, 46, 45, 184, 0, 173]
abbrev dktL_law_67 : List UInt8 := dkwL_law_67 ++ dktL_law_68
def dkwL_law_66 : List UInt8 := [153, 0, 5, 3, 172, 167, 1, 188, 43, 182, 0, 165, 44, 182, 0, 168, 159, 1, 177, 3, 172, 43]
abbrev dktL_law_66 : List UInt8 := dkwL_law_66 ++ dktL_law_67
def dkwL_law_65 : List UInt8 := [182, 0, 107, 21, 5, 159, 0, 5, 3, 172, 21, 5, 154, 0, 15, 45, 3, 47, 21, 6, 133, 148]
abbrev dktL_law_65 : List UInt8 := dkwL_law_65 ++ dktL_law_66
def dkwL_law_64 : List UInt8 := [21, 4, 5, 96, 46, 42, 21, 4, 6, 96, 46, 42, 21, 4, 7, 96, 46, 182, 0, 164, 54, 6, 44]
abbrev dktL_law_64 : List UInt8 := dkwL_law_64 ++ dktL_law_65
def dkwL_law_63 : List UInt8 := [6, 96, 46, 42, 21, 4, 7, 96, 46, 45, 184, 0, 162, 54, 5, 44, 42, 21, 4, 4, 96, 46, 42]
abbrev dktL_law_63 : List UInt8 := dkwL_law_63 ++ dktL_law_64
def dkwL_law_62 : List UInt8 := [153, 0, 5, 3, 172, 167, 2, 24, 43, 42, 21, 4, 4, 96, 46, 42, 21, 4, 5, 96, 46, 42, 21, 4]
abbrev dktL_law_62 : List UInt8 := dkwL_law_62 ++ dktL_law_63
def dkwL_law_61 : List UInt8 := [182, 0, 107, 21, 5, 159, 0, 5, 3, 172, 21, 5, 154, 0, 15, 45, 3, 47, 21, 6, 133, 148]
abbrev dktL_law_61 : List UInt8 := dkwL_law_61 ++ dktL_law_62
def dkwL_law_60 : List UInt8 := [184, 0, 159, 54, 5, 44, 42, 21, 4, 4, 96, 46, 42, 21, 4, 5, 96, 46, 182, 0, 161, 54, 6, 44]
abbrev dktL_law_60 : List UInt8 := dkwL_law_60 ++ dktL_law_61
def dkwL_law_59 : List UInt8 := [153, 0, 5, 3, 172, 167, 2, 92, 43, 42, 21, 4, 4, 96, 46, 42, 21, 4, 5, 96, 46, 45]
abbrev dktL_law_59 : List UInt8 := dkwL_law_59 ++ dktL_law_60
def dkwL_law_58 : List UInt8 := [182, 0, 107, 21, 5, 159, 0, 5, 3, 172, 21, 5, 154, 0, 15, 45, 3, 47, 21, 6, 133, 148]
abbrev dktL_law_58 : List UInt8 := dkwL_law_58 ++ dktL_law_59
def dkwL_law_57 : List UInt8 := [184, 0, 156, 54, 5, 44, 42, 21, 4, 4, 96, 46, 42, 21, 4, 5, 96, 46, 182, 0, 158, 54, 6, 44]
abbrev dktL_law_57 : List UInt8 := dkwL_law_57 ++ dktL_law_58
def dkwL_law_56 : List UInt8 := [148, 153, 0, 5, 3, 172, 167, 2, 160, 43, 42, 21, 4, 4, 96, 46, 42, 21, 4, 5, 96, 46, 45]
abbrev dktL_law_56 : List UInt8 := dkwL_law_56 ++ dktL_law_57
def dkwL_law_55 : List UInt8 := [54, 6, 44, 182, 0, 107, 21, 5, 159, 0, 5, 3, 172, 21, 5, 154, 0, 15, 45, 3, 47, 21, 6, 133]
abbrev dktL_law_55 : List UInt8 := dkwL_law_55 ++ dktL_law_56
def dkwL_law_54 : List UInt8 := [96, 46, 42, 21, 4, 5, 96, 46, 42, 21, 4, 6, 96, 46, 42, 21, 4, 7, 96, 46, 182, 0, 155]
abbrev dktL_law_54 : List UInt8 := dkwL_law_54 ++ dktL_law_55
def dkwL_law_53 : List UInt8 := [46, 42, 21, 4, 6, 96, 46, 42, 21, 4, 7, 96, 46, 45, 184, 0, 153, 54, 5, 44, 42, 21, 4, 4]
abbrev dktL_law_53 : List UInt8 := dkwL_law_53 ++ dktL_law_54
def dkwL_law_52 : List UInt8 := [21, 6, 133, 148, 153, 0, 5, 3, 172, 167, 2, 252, 43, 42, 21, 4, 4, 96, 46, 42, 21, 4, 5, 96]
abbrev dktL_law_52 : List UInt8 := dkwL_law_52 ++ dktL_law_53
def dkwL_law_51 : List UInt8 := [182, 0, 152, 54, 6, 44, 182, 0, 107, 21, 5, 159, 0, 5, 3, 172, 21, 5, 154, 0, 15, 45, 3, 47]
abbrev dktL_law_51 : List UInt8 := dkwL_law_51 ++ dktL_law_52
def dkwL_law_50 : List UInt8 := [42, 21, 4, 4, 96, 46, 42, 21, 4, 5, 96, 46, 42, 21, 4, 6, 96, 46, 42, 21, 4, 7, 96, 46]
abbrev dktL_law_50 : List UInt8 := dkwL_law_50 ++ dktL_law_51
def dkwL_law_49 : List UInt8 := [21, 4, 5, 96, 46, 42, 21, 4, 6, 96, 46, 42, 21, 4, 7, 96, 46, 45, 184, 0, 150, 54, 5, 44]
abbrev dktL_law_49 : List UInt8 := dkwL_law_49 ++ dktL_law_50
def dkwL_law_48 : List UInt8 := [45, 3, 47, 21, 6, 133, 148, 153, 0, 5, 3, 172, 167, 3, 88, 43, 42, 21, 4, 4, 96, 46, 42]
abbrev dktL_law_48 : List UInt8 := dkwL_law_48 ++ dktL_law_49
def dkwL_law_47 : List UInt8 := [7, 96, 46, 182, 0, 149, 54, 6, 44, 182, 0, 107, 21, 5, 159, 0, 5, 3, 172, 21, 5, 154, 0, 15]
abbrev dktL_law_47 : List UInt8 := dkwL_law_47 ++ dktL_law_48
def dkwL_law_46 : List UInt8 := [54, 5, 44, 42, 21, 4, 4, 96, 46, 42, 21, 4, 5, 96, 46, 42, 21, 4, 6, 96, 46, 42, 21, 4]
abbrev dktL_law_46 : List UInt8 := dkwL_law_46 ++ dktL_law_47
def dkwL_law_45 : List UInt8 := [46, 42, 21, 4, 5, 96, 46, 42, 21, 4, 6, 96, 46, 42, 21, 4, 7, 96, 46, 45, 184, 0, 147]
abbrev dktL_law_45 : List UInt8 := dkwL_law_45 ++ dktL_law_46
def dkwL_law_44 : List UInt8 := [154, 0, 15, 45, 3, 47, 21, 6, 133, 148, 153, 0, 5, 3, 172, 167, 3, 180, 43, 42, 21, 4, 4, 96]
abbrev dktL_law_44 : List UInt8 := dkwL_law_44 ++ dktL_law_45
def dkwL_law_43 : List UInt8 := [21, 4, 8, 96, 46, 182, 0, 146, 54, 6, 44, 182, 0, 107, 21, 5, 159, 0, 5, 3, 172, 21, 5]
abbrev dktL_law_43 : List UInt8 := dkwL_law_43 ++ dktL_law_44
def dkwL_law_42 : List UInt8 := [21, 4, 4, 96, 46, 42, 21, 4, 5, 96, 46, 42, 21, 4, 6, 96, 46, 42, 21, 4, 7, 96, 46, 42]
abbrev dktL_law_42 : List UInt8 := dkwL_law_42 ++ dktL_law_43
def dkwL_law_41 : List UInt8 := [6, 96, 46, 42, 21, 4, 7, 96, 46, 42, 21, 4, 8, 96, 46, 45, 184, 0, 144, 54, 5, 44, 42]
abbrev dktL_law_41 : List UInt8 := dkwL_law_41 ++ dktL_law_42
def dkwL_law_40 : List UInt8 := [153, 0, 5, 3, 172, 167, 4, 28, 43, 42, 21, 4, 4, 96, 46, 42, 21, 4, 5, 96, 46, 42, 21, 4]
abbrev dktL_law_40 : List UInt8 := dkwL_law_40 ++ dktL_law_41
def dkwL_law_39 : List UInt8 := [182, 0, 107, 21, 5, 159, 0, 5, 3, 172, 21, 5, 154, 0, 15, 45, 3, 47, 21, 6, 133, 148]
abbrev dktL_law_39 : List UInt8 := dkwL_law_39 ++ dktL_law_40
def dkwL_law_38 : List UInt8 := [21, 4, 5, 96, 46, 42, 21, 4, 6, 96, 46, 42, 21, 4, 7, 96, 46, 182, 0, 143, 54, 6, 44]
abbrev dktL_law_38 : List UInt8 := dkwL_law_38 ++ dktL_law_39
def dkwL_law_37 : List UInt8 := [6, 96, 46, 42, 21, 4, 7, 96, 46, 45, 184, 0, 141, 54, 5, 44, 42, 21, 4, 4, 96, 46, 42]
abbrev dktL_law_37 : List UInt8 := dkwL_law_37 ++ dktL_law_38
def dkwL_law_36 : List UInt8 := [153, 0, 5, 3, 172, 167, 4, 120, 43, 42, 21, 4, 4, 96, 46, 42, 21, 4, 5, 96, 46, 42, 21, 4]
abbrev dktL_law_36 : List UInt8 := dkwL_law_36 ++ dktL_law_37
def dkwL_law_35 : List UInt8 := [182, 0, 107, 21, 5, 159, 0, 5, 3, 172, 21, 5, 154, 0, 15, 45, 3, 47, 21, 6, 133, 148]
abbrev dktL_law_35 : List UInt8 := dkwL_law_35 ++ dktL_law_36
def dkwL_law_34 : List UInt8 := [184, 0, 138, 54, 5, 44, 42, 21, 4, 4, 96, 46, 42, 21, 4, 5, 96, 46, 182, 0, 140, 54, 6, 44]
abbrev dktL_law_34 : List UInt8 := dkwL_law_34 ++ dktL_law_35
def dkwL_law_33 : List UInt8 := [148, 153, 0, 5, 3, 172, 167, 4, 188, 43, 42, 21, 4, 4, 96, 46, 42, 21, 4, 5, 96, 46, 45]
abbrev dktL_law_33 : List UInt8 := dkwL_law_33 ++ dktL_law_34
def dkwL_law_32 : List UInt8 := [54, 6, 44, 182, 0, 107, 21, 5, 159, 0, 5, 3, 172, 21, 5, 154, 0, 15, 45, 3, 47, 21, 6, 133]
abbrev dktL_law_32 : List UInt8 := dkwL_law_32 ++ dktL_law_33
def dkwL_law_31 : List UInt8 := [46, 45, 184, 0, 135, 54, 5, 44, 42, 21, 4, 4, 96, 46, 42, 21, 4, 5, 96, 46, 182, 0, 137]
abbrev dktL_law_31 : List UInt8 := dkwL_law_31 ++ dktL_law_32
def dkwL_law_30 : List UInt8 := [21, 6, 133, 148, 153, 0, 5, 3, 172, 167, 5, 0, 43, 42, 21, 4, 4, 96, 46, 42, 21, 4, 5, 96]
abbrev dktL_law_30 : List UInt8 := dkwL_law_30 ++ dktL_law_31
def dkwL_law_29 : List UInt8 := [182, 0, 134, 54, 6, 44, 182, 0, 107, 21, 5, 159, 0, 5, 3, 172, 21, 5, 154, 0, 15, 45, 3, 47]
abbrev dktL_law_29 : List UInt8 := dkwL_law_29 ++ dktL_law_30
def dkwL_law_28 : List UInt8 := [42, 21, 4, 5, 96, 46, 42, 21, 4, 6, 96, 46, 42, 21, 4, 7, 96, 46, 42, 21, 4, 8, 96, 46]
abbrev dktL_law_28 : List UInt8 := dkwL_law_28 ++ dktL_law_29
def dkwL_law_27 : List UInt8 := [21, 4, 7, 96, 46, 42, 21, 4, 8, 96, 46, 45, 184, 0, 132, 54, 5, 44, 42, 21, 4, 4, 96, 46]
abbrev dktL_law_27 : List UInt8 := dkwL_law_27 ++ dktL_law_28
def dkwL_law_26 : List UInt8 := [167, 5, 104, 43, 42, 21, 4, 4, 96, 46, 42, 21, 4, 5, 96, 46, 42, 21, 4, 6, 96, 46, 42]
abbrev dktL_law_26 : List UInt8 := dkwL_law_26 ++ dktL_law_27
def dkwL_law_25 : List UInt8 := [159, 0, 5, 3, 172, 21, 5, 154, 0, 15, 45, 3, 47, 21, 6, 133, 148, 153, 0, 5, 3, 172]
abbrev dktL_law_25 : List UInt8 := dkwL_law_25 ++ dktL_law_26
def dkwL_law_24 : List UInt8 := [21, 4, 4, 96, 46, 42, 21, 4, 5, 96, 46, 182, 0, 131, 54, 6, 44, 182, 0, 107, 21, 5]
abbrev dktL_law_24 : List UInt8 := dkwL_law_24 ++ dktL_law_25
def dkwL_law_23 : List UInt8 := [167, 5, 172, 43, 42, 21, 4, 4, 96, 46, 42, 21, 4, 5, 96, 46, 45, 184, 0, 129, 54, 5, 44, 42]
abbrev dktL_law_23 : List UInt8 := dkwL_law_23 ++ dktL_law_24
def dkwL_law_22 : List UInt8 := [159, 0, 5, 3, 172, 21, 5, 154, 0, 15, 45, 3, 47, 21, 6, 133, 148, 153, 0, 5, 3, 172]
abbrev dktL_law_22 : List UInt8 := dkwL_law_22 ++ dktL_law_23
def dkwL_law_21 : List UInt8 := [21, 4, 4, 96, 46, 42, 21, 4, 5, 96, 46, 182, 0, 128, 54, 6, 44, 182, 0, 107, 21, 5]
abbrev dktL_law_21 : List UInt8 := dkwL_law_21 ++ dktL_law_22
def dkwL_law_20 : List UInt8 := [167, 5, 240, 43, 42, 21, 4, 4, 96, 46, 42, 21, 4, 5, 96, 46, 45, 184, 0, 125, 54, 5, 44, 42]
abbrev dktL_law_20 : List UInt8 := dkwL_law_20 ++ dktL_law_21
def dkwL_law_19 : List UInt8 := [159, 0, 5, 3, 172, 21, 5, 154, 0, 15, 45, 3, 47, 21, 6, 133, 148, 153, 0, 5, 3, 172]
abbrev dktL_law_19 : List UInt8 := dkwL_law_19 ++ dktL_law_20
def dkwL_law_18 : List UInt8 := [167, 6, 28, 43, 45, 184, 0, 121, 54, 5, 44, 182, 0, 124, 54, 6, 44, 182, 0, 107, 21, 5]
abbrev dktL_law_18 : List UInt8 := dkwL_law_18 ++ dktL_law_19
def dkwL_law_17 : List UInt8 := [159, 0, 5, 3, 172, 21, 5, 154, 0, 15, 45, 3, 47, 21, 6, 133, 148, 153, 0, 5, 3, 172]
abbrev dktL_law_17 : List UInt8 := dkwL_law_17 ++ dktL_law_18
def dkwL_law_16 : List UInt8 := [42, 21, 4, 7, 96, 46, 42, 21, 4, 8, 96, 46, 182, 0, 120, 54, 6, 44, 182, 0, 107, 21, 5]
abbrev dktL_law_16 : List UInt8 := dkwL_law_16 ++ dktL_law_17
def dkwL_law_15 : List UInt8 := [184, 0, 118, 54, 5, 44, 42, 21, 4, 4, 96, 46, 42, 21, 4, 5, 96, 46, 42, 21, 4, 6, 96, 46]
abbrev dktL_law_15 : List UInt8 := dkwL_law_15 ++ dktL_law_16
def dkwL_law_14 : List UInt8 := [21, 4, 5, 96, 46, 42, 21, 4, 6, 96, 46, 42, 21, 4, 7, 96, 46, 42, 21, 4, 8, 96, 46, 45]
abbrev dktL_law_14 : List UInt8 := dkwL_law_14 ++ dktL_law_15
def dkwL_law_13 : List UInt8 := [45, 3, 47, 21, 6, 133, 148, 153, 0, 5, 3, 172, 167, 6, 132, 43, 42, 21, 4, 4, 96, 46, 42]
abbrev dktL_law_13 : List UInt8 := dkwL_law_13 ++ dktL_law_14
def dkwL_law_12 : List UInt8 := [7, 96, 46, 182, 0, 117, 54, 6, 44, 182, 0, 107, 21, 5, 159, 0, 5, 3, 172, 21, 5, 154, 0, 15]
abbrev dktL_law_12 : List UInt8 := dkwL_law_12 ++ dktL_law_13
def dkwL_law_11 : List UInt8 := [54, 5, 44, 42, 21, 4, 4, 96, 46, 42, 21, 4, 5, 96, 46, 42, 21, 4, 6, 96, 46, 42, 21, 4]
abbrev dktL_law_11 : List UInt8 := dkwL_law_11 ++ dktL_law_12
def dkwL_law_10 : List UInt8 := [46, 42, 21, 4, 5, 96, 46, 42, 21, 4, 6, 96, 46, 42, 21, 4, 7, 96, 46, 45, 184, 0, 114]
abbrev dktL_law_10 : List UInt8 := dkwL_law_10 ++ dktL_law_11
def dkwL_law_9 : List UInt8 := [154, 0, 15, 45, 3, 47, 21, 6, 133, 148, 153, 0, 5, 3, 172, 167, 6, 224, 43, 42, 21, 4, 4, 96]
abbrev dktL_law_9 : List UInt8 := dkwL_law_9 ++ dktL_law_10
def dkwL_law_8 : List UInt8 := [21, 4, 4, 96, 46, 182, 0, 113, 54, 6, 44, 182, 0, 107, 21, 5, 159, 0, 5, 3, 172, 21, 5]
abbrev dktL_law_8 : List UInt8 := dkwL_law_8 ++ dktL_law_9
def dkwL_law_7 : List UInt8 := [148, 153, 0, 5, 3, 172, 167, 7, 24, 43, 42, 21, 4, 4, 96, 46, 45, 184, 0, 110, 54, 5, 44, 42]
abbrev dktL_law_7 : List UInt8 := dkwL_law_7 ++ dktL_law_8
def dkwL_law_6 : List UInt8 := [54, 6, 44, 182, 0, 107, 21, 5, 159, 0, 5, 3, 172, 21, 5, 154, 0, 15, 45, 3, 47, 21, 6, 133]
abbrev dktL_law_6 : List UInt8 := dkwL_law_6 ++ dktL_law_7
def dkwL_law_5 : List UInt8 := [96, 46, 42, 21, 4, 6, 96, 46, 42, 21, 4, 7, 96, 46, 42, 21, 4, 8, 96, 46, 182, 0, 106]
abbrev dktL_law_5 : List UInt8 := dkwL_law_5 ++ dktL_law_6
def dkwL_law_4 : List UInt8 := [46, 42, 21, 4, 8, 96, 46, 45, 184, 0, 101, 54, 5, 44, 42, 21, 4, 4, 96, 46, 42, 21, 4, 5]
abbrev dktL_law_4 : List UInt8 := dkwL_law_4 ++ dktL_law_5
def dkwL_law_3 : List UInt8 := [43, 42, 21, 4, 4, 96, 46, 42, 21, 4, 5, 96, 46, 42, 21, 4, 6, 96, 46, 42, 21, 4, 7, 96]
abbrev dktL_law_3 : List UInt8 := dkwL_law_3 ++ dktL_law_4
def dkwL_law_2 : List UInt8 := [170, 0, 0, 0, 0, 0, 7, 249, 0, 0, 0, 0, 0, 0, 0, 26, 0, 0, 0, 124, 0, 0, 0, 228, 0, 0, 1, 28, 0, 0, 1, 120, 0, 0, 1, 224, 0, 0, 2, 12, 0, 0, 2, 80, 0, 0, 2, 148, 0, 0, 2, 252, 0, 0, 3, 64, 0, 0, 3, 132, 0, 0, 3, 224, 0, 0, 4, 72, 0, 0, 4, 164, 0, 0, 5, 0, 0, 0, 5, 92, 0, 0, 5, 160, 0, 0, 5, 228, 0, 0, 6, 64, 0, 0, 6, 77, 0, 0, 6, 90, 0, 0, 6, 146, 0, 0, 6, 202, 0, 0, 7, 2, 0, 0, 7, 86, 0, 0, 7, 130, 0, 0, 7, 186]
abbrev dktL_law_2 : List UInt8 := dkwL_law_2 ++ dktL_law_3
def dkwL_law_1 : List UInt8 := [21, 4, 42, 190, 16, 6, 100, 163, 8, 9, 42, 21, 4, 46, 16, 31, 126]
abbrev dktL_law_1 : List UInt8 := dkwL_law_1 ++ dktL_law_2
def dkwL_law_0 : List UInt8 := [187, 0, 8, 89, 183, 0, 97, 76, 187, 0, 98, 89, 183, 0, 100, 77, 4, 188, 11, 78, 3, 54, 4]
abbrev dktL_law_0 : List UInt8 := dkwL_law_0 ++ dktL_law_1
theorem dksL_law_0 : cL_law.data.toList.drop 0 = dktL_law_0 := by decide +kernel
theorem dksL_law_1 : cL_law.data.toList.drop 23 = dktL_law_1 := dk_seg dksL_law_0 23 rfl rfl
theorem dksL_law_2 : cL_law.data.toList.drop 40 = dktL_law_2 := dk_seg dksL_law_1 17 rfl rfl
theorem dksL_law_3 : cL_law.data.toList.drop 164 = dktL_law_3 := dk_seg dksL_law_2 124 rfl rfl
theorem dksL_law_4 : cL_law.data.toList.drop 188 = dktL_law_4 := dk_seg dksL_law_3 24 rfl rfl
theorem dksL_law_5 : cL_law.data.toList.drop 212 = dktL_law_5 := dk_seg dksL_law_4 24 rfl rfl
theorem dksL_law_6 : cL_law.data.toList.drop 235 = dktL_law_6 := dk_seg dksL_law_5 23 rfl rfl
theorem dksL_law_7 : cL_law.data.toList.drop 259 = dktL_law_7 := dk_seg dksL_law_6 24 rfl rfl
theorem dksL_law_8 : cL_law.data.toList.drop 283 = dktL_law_8 := dk_seg dksL_law_7 24 rfl rfl
theorem dksL_law_9 : cL_law.data.toList.drop 306 = dktL_law_9 := dk_seg dksL_law_8 23 rfl rfl
theorem dksL_law_10 : cL_law.data.toList.drop 330 = dktL_law_10 := dk_seg dksL_law_9 24 rfl rfl
theorem dksL_law_11 : cL_law.data.toList.drop 353 = dktL_law_11 := dk_seg dksL_law_10 23 rfl rfl
theorem dksL_law_12 : cL_law.data.toList.drop 377 = dktL_law_12 := dk_seg dksL_law_11 24 rfl rfl
theorem dksL_law_13 : cL_law.data.toList.drop 401 = dktL_law_13 := dk_seg dksL_law_12 24 rfl rfl
theorem dksL_law_14 : cL_law.data.toList.drop 424 = dktL_law_14 := dk_seg dksL_law_13 23 rfl rfl
theorem dksL_law_15 : cL_law.data.toList.drop 448 = dktL_law_15 := dk_seg dksL_law_14 24 rfl rfl
theorem dksL_law_16 : cL_law.data.toList.drop 472 = dktL_law_16 := dk_seg dksL_law_15 24 rfl rfl
theorem dksL_law_17 : cL_law.data.toList.drop 495 = dktL_law_17 := dk_seg dksL_law_16 23 rfl rfl
theorem dksL_law_18 : cL_law.data.toList.drop 517 = dktL_law_18 := dk_seg dksL_law_17 22 rfl rfl
theorem dksL_law_19 : cL_law.data.toList.drop 539 = dktL_law_19 := dk_seg dksL_law_18 22 rfl rfl
theorem dksL_law_20 : cL_law.data.toList.drop 561 = dktL_law_20 := dk_seg dksL_law_19 22 rfl rfl
theorem dksL_law_21 : cL_law.data.toList.drop 585 = dktL_law_21 := dk_seg dksL_law_20 24 rfl rfl
theorem dksL_law_22 : cL_law.data.toList.drop 607 = dktL_law_22 := dk_seg dksL_law_21 22 rfl rfl
theorem dksL_law_23 : cL_law.data.toList.drop 629 = dktL_law_23 := dk_seg dksL_law_22 22 rfl rfl
theorem dksL_law_24 : cL_law.data.toList.drop 653 = dktL_law_24 := dk_seg dksL_law_23 24 rfl rfl
theorem dksL_law_25 : cL_law.data.toList.drop 675 = dktL_law_25 := dk_seg dksL_law_24 22 rfl rfl
theorem dksL_law_26 : cL_law.data.toList.drop 697 = dktL_law_26 := dk_seg dksL_law_25 22 rfl rfl
theorem dksL_law_27 : cL_law.data.toList.drop 720 = dktL_law_27 := dk_seg dksL_law_26 23 rfl rfl
theorem dksL_law_28 : cL_law.data.toList.drop 744 = dktL_law_28 := dk_seg dksL_law_27 24 rfl rfl
theorem dksL_law_29 : cL_law.data.toList.drop 768 = dktL_law_29 := dk_seg dksL_law_28 24 rfl rfl
theorem dksL_law_30 : cL_law.data.toList.drop 792 = dktL_law_30 := dk_seg dksL_law_29 24 rfl rfl
theorem dksL_law_31 : cL_law.data.toList.drop 816 = dktL_law_31 := dk_seg dksL_law_30 24 rfl rfl
theorem dksL_law_32 : cL_law.data.toList.drop 839 = dktL_law_32 := dk_seg dksL_law_31 23 rfl rfl
theorem dksL_law_33 : cL_law.data.toList.drop 863 = dktL_law_33 := dk_seg dksL_law_32 24 rfl rfl
theorem dksL_law_34 : cL_law.data.toList.drop 886 = dktL_law_34 := dk_seg dksL_law_33 23 rfl rfl
theorem dksL_law_35 : cL_law.data.toList.drop 910 = dktL_law_35 := dk_seg dksL_law_34 24 rfl rfl
theorem dksL_law_36 : cL_law.data.toList.drop 932 = dktL_law_36 := dk_seg dksL_law_35 22 rfl rfl
theorem dksL_law_37 : cL_law.data.toList.drop 956 = dktL_law_37 := dk_seg dksL_law_36 24 rfl rfl
theorem dksL_law_38 : cL_law.data.toList.drop 979 = dktL_law_38 := dk_seg dksL_law_37 23 rfl rfl
theorem dksL_law_39 : cL_law.data.toList.drop 1002 = dktL_law_39 := dk_seg dksL_law_38 23 rfl rfl
theorem dksL_law_40 : cL_law.data.toList.drop 1024 = dktL_law_40 := dk_seg dksL_law_39 22 rfl rfl
theorem dksL_law_41 : cL_law.data.toList.drop 1048 = dktL_law_41 := dk_seg dksL_law_40 24 rfl rfl
theorem dksL_law_42 : cL_law.data.toList.drop 1071 = dktL_law_42 := dk_seg dksL_law_41 23 rfl rfl
theorem dksL_law_43 : cL_law.data.toList.drop 1095 = dktL_law_43 := dk_seg dksL_law_42 24 rfl rfl
theorem dksL_law_44 : cL_law.data.toList.drop 1118 = dktL_law_44 := dk_seg dksL_law_43 23 rfl rfl
theorem dksL_law_45 : cL_law.data.toList.drop 1142 = dktL_law_45 := dk_seg dksL_law_44 24 rfl rfl
theorem dksL_law_46 : cL_law.data.toList.drop 1165 = dktL_law_46 := dk_seg dksL_law_45 23 rfl rfl
theorem dksL_law_47 : cL_law.data.toList.drop 1189 = dktL_law_47 := dk_seg dksL_law_46 24 rfl rfl
theorem dksL_law_48 : cL_law.data.toList.drop 1213 = dktL_law_48 := dk_seg dksL_law_47 24 rfl rfl
theorem dksL_law_49 : cL_law.data.toList.drop 1236 = dktL_law_49 := dk_seg dksL_law_48 23 rfl rfl
theorem dksL_law_50 : cL_law.data.toList.drop 1260 = dktL_law_50 := dk_seg dksL_law_49 24 rfl rfl
theorem dksL_law_51 : cL_law.data.toList.drop 1284 = dktL_law_51 := dk_seg dksL_law_50 24 rfl rfl
theorem dksL_law_52 : cL_law.data.toList.drop 1308 = dktL_law_52 := dk_seg dksL_law_51 24 rfl rfl
theorem dksL_law_53 : cL_law.data.toList.drop 1332 = dktL_law_53 := dk_seg dksL_law_52 24 rfl rfl
theorem dksL_law_54 : cL_law.data.toList.drop 1356 = dktL_law_54 := dk_seg dksL_law_53 24 rfl rfl
theorem dksL_law_55 : cL_law.data.toList.drop 1379 = dktL_law_55 := dk_seg dksL_law_54 23 rfl rfl
theorem dksL_law_56 : cL_law.data.toList.drop 1403 = dktL_law_56 := dk_seg dksL_law_55 24 rfl rfl
theorem dksL_law_57 : cL_law.data.toList.drop 1426 = dktL_law_57 := dk_seg dksL_law_56 23 rfl rfl
theorem dksL_law_58 : cL_law.data.toList.drop 1450 = dktL_law_58 := dk_seg dksL_law_57 24 rfl rfl
theorem dksL_law_59 : cL_law.data.toList.drop 1472 = dktL_law_59 := dk_seg dksL_law_58 22 rfl rfl
theorem dksL_law_60 : cL_law.data.toList.drop 1494 = dktL_law_60 := dk_seg dksL_law_59 22 rfl rfl
theorem dksL_law_61 : cL_law.data.toList.drop 1518 = dktL_law_61 := dk_seg dksL_law_60 24 rfl rfl
theorem dksL_law_62 : cL_law.data.toList.drop 1540 = dktL_law_62 := dk_seg dksL_law_61 22 rfl rfl
theorem dksL_law_63 : cL_law.data.toList.drop 1564 = dktL_law_63 := dk_seg dksL_law_62 24 rfl rfl
theorem dksL_law_64 : cL_law.data.toList.drop 1587 = dktL_law_64 := dk_seg dksL_law_63 23 rfl rfl
theorem dksL_law_65 : cL_law.data.toList.drop 1610 = dktL_law_65 := dk_seg dksL_law_64 23 rfl rfl
theorem dksL_law_66 : cL_law.data.toList.drop 1632 = dktL_law_66 := dk_seg dksL_law_65 22 rfl rfl
theorem dksL_law_67 : cL_law.data.toList.drop 1654 = dktL_law_67 := dk_seg dksL_law_66 22 rfl rfl
theorem dksL_law_68 : cL_law.data.toList.drop 1677 = dktL_law_68 := dk_seg dksL_law_67 23 rfl rfl
theorem dksL_law_69 : cL_law.data.toList.drop 1701 = dktL_law_69 := dk_seg dksL_law_68 24 rfl rfl
theorem dksL_law_70 : cL_law.data.toList.drop 1724 = dktL_law_70 := dk_seg dksL_law_69 23 rfl rfl
theorem dksL_law_71 : cL_law.data.toList.drop 1748 = dktL_law_71 := dk_seg dksL_law_70 24 rfl rfl
theorem dksL_law_72 : cL_law.data.toList.drop 1770 = dktL_law_72 := dk_seg dksL_law_71 22 rfl rfl
theorem dksL_law_73 : cL_law.data.toList.drop 1793 = dktL_law_73 := dk_seg dksL_law_72 23 rfl rfl
theorem dksL_law_74 : cL_law.data.toList.drop 1816 = dktL_law_74 := dk_seg dksL_law_73 23 rfl rfl
theorem dksL_law_75 : cL_law.data.toList.drop 1840 = dktL_law_75 := dk_seg dksL_law_74 24 rfl rfl
theorem dksL_law_76 : cL_law.data.toList.drop 1863 = dktL_law_76 := dk_seg dksL_law_75 23 rfl rfl
theorem dksL_law_77 : cL_law.data.toList.drop 1887 = dktL_law_77 := dk_seg dksL_law_76 24 rfl rfl
theorem dksL_law_78 : cL_law.data.toList.drop 1910 = dktL_law_78 := dk_seg dksL_law_77 23 rfl rfl
theorem dksL_law_79 : cL_law.data.toList.drop 1932 = dktL_law_79 := dk_seg dksL_law_78 22 rfl rfl
theorem dksL_law_80 : cL_law.data.toList.drop 1954 = dktL_law_80 := dk_seg dksL_law_79 22 rfl rfl
theorem dksL_law_81 : cL_law.data.toList.drop 1977 = dktL_law_81 := dk_seg dksL_law_80 23 rfl rfl
theorem dksL_law_82 : cL_law.data.toList.drop 2000 = dktL_law_82 := dk_seg dksL_law_81 23 rfl rfl
theorem dksL_law_83 : cL_law.data.toList.drop 2024 = dktL_law_83 := dk_seg dksL_law_82 24 rfl rfl
theorem dksL_law_84 : cL_law.data.toList.drop 2047 = dktL_law_84 := dk_seg dksL_law_83 23 rfl rfl
theorem dksL_law_85 : cL_law.data.toList.drop 2071 = dktL_law_85 := dk_seg dksL_law_84 24 rfl rfl
theorem dL_law_0 : decode cL_law 0 = .ok (.new 8, 3) := dk_187 0 8 (dk_at dksL_law_0 0 rfl rfl)
theorem dL_law_3 : decode cL_law 3 = .ok (.dup, 1) := dk_89 (dk_at dksL_law_0 3 rfl rfl)
theorem dL_law_4 : decode cL_law 4 = .ok (.invokespecial 97, 3) := dk_183 0 97 (dk_at dksL_law_0 4 rfl rfl)
theorem dL_law_7 : decode cL_law 7 = .ok (.astore_n 1, 1) := dk_76 (dk_at dksL_law_0 7 rfl rfl)
theorem dL_law_8 : decode cL_law 8 = .ok (.new 98, 3) := dk_187 0 98 (dk_at dksL_law_0 8 rfl rfl)
theorem dL_law_11 : decode cL_law 11 = .ok (.dup, 1) := dk_89 (dk_at dksL_law_0 11 rfl rfl)
theorem dL_law_12 : decode cL_law 12 = .ok (.invokespecial 100, 3) := dk_183 0 100 (dk_at dksL_law_0 12 rfl rfl)
theorem dL_law_15 : decode cL_law 15 = .ok (.astore_n 2, 1) := dk_77 (dk_at dksL_law_0 15 rfl rfl)
theorem dL_law_16 : decode cL_law 16 = .ok (.iconst 1, 1) := dk_4 (dk_at dksL_law_0 16 rfl rfl)
theorem dL_law_17 : decode cL_law 17 = .ok (.newarray .long, 2) := dk_188_11 (dk_at dksL_law_0 17 rfl rfl)
theorem dL_law_19 : decode cL_law 19 = .ok (.astore_n 3, 1) := dk_78 (dk_at dksL_law_0 19 rfl rfl)
theorem dL_law_20 : decode cL_law 20 = .ok (.iconst 0, 1) := dk_3 (dk_at dksL_law_0 20 rfl rfl)
theorem dL_law_21 : decode cL_law 21 = .ok (.istore 4, 2) := dk_54 4 (dk_at dksL_law_0 21 rfl rfl)
theorem dL_law_23 : decode cL_law 23 = .ok (.iload 4, 2) := dk_21 4 (dk_at dksL_law_1 0 rfl rfl)
theorem dL_law_25 : decode cL_law 25 = .ok (.aload_n 0, 1) := dk_42 (dk_at dksL_law_1 2 rfl rfl)
theorem dL_law_26 : decode cL_law 26 = .ok (.arraylength, 1) := dk_190 (dk_at dksL_law_1 3 rfl rfl)
theorem dL_law_27 : decode cL_law 27 = .ok (.bipush 6, 2) := dk_16 6 (dk_at dksL_law_1 4 rfl rfl)
theorem dL_law_29 : decode cL_law 29 = .ok (.isub, 1) := dk_100 (dk_at dksL_law_1 6 rfl rfl)
theorem dL_law_30 : decode cL_law 30 = .ok (.if_icmp .gt 2057, 3) := dk_163 8 9 (dk_at dksL_law_1 7 rfl rfl)
theorem dL_law_33 : decode cL_law 33 = .ok (.aload_n 0, 1) := dk_42 (dk_at dksL_law_1 10 rfl rfl)
theorem dL_law_34 : decode cL_law 34 = .ok (.iload 4, 2) := dk_21 4 (dk_at dksL_law_1 11 rfl rfl)
theorem dL_law_36 : decode cL_law 36 = .ok (.iaload, 1) := dk_46 (dk_at dksL_law_1 13 rfl rfl)
theorem dL_law_37 : decode cL_law 37 = .ok (.bipush 31, 2) := dk_16 31 (dk_at dksL_law_1 14 rfl rfl)
theorem dL_law_39 : decode cL_law 39 = .ok (.iand, 1) := dk_126 (dk_at dksL_law_1 16 rfl rfl)
theorem dL_law_40 : decode cL_law 40 = .ok (.tableswitch 2041 0 26 #[124, 228, 284, 376, 480, 524, 592, 660, 764, 832, 900, 992, 1096, 1188, 1280, 1372, 1440, 1508, 1600, 1613, 1626, 1682, 1738, 1794, 1878, 1922, 1978], 124) := by decide +kernel
theorem dL_law_164 : decode cL_law 164 = .ok (.aload_n 1, 1) := dk_43 (dk_at dksL_law_3 0 rfl rfl)
theorem dL_law_165 : decode cL_law 165 = .ok (.aload_n 0, 1) := dk_42 (dk_at dksL_law_3 1 rfl rfl)
theorem dL_law_166 : decode cL_law 166 = .ok (.iload 4, 2) := dk_21 4 (dk_at dksL_law_3 2 rfl rfl)
theorem dL_law_168 : decode cL_law 168 = .ok (.iconst 1, 1) := dk_4 (dk_at dksL_law_3 4 rfl rfl)
theorem dL_law_169 : decode cL_law 169 = .ok (.iadd, 1) := dk_96 (dk_at dksL_law_3 5 rfl rfl)
theorem dL_law_170 : decode cL_law 170 = .ok (.iaload, 1) := dk_46 (dk_at dksL_law_3 6 rfl rfl)
theorem dL_law_171 : decode cL_law 171 = .ok (.aload_n 0, 1) := dk_42 (dk_at dksL_law_3 7 rfl rfl)
theorem dL_law_172 : decode cL_law 172 = .ok (.iload 4, 2) := dk_21 4 (dk_at dksL_law_3 8 rfl rfl)
theorem dL_law_174 : decode cL_law 174 = .ok (.iconst 2, 1) := dk_5 (dk_at dksL_law_3 10 rfl rfl)
theorem dL_law_175 : decode cL_law 175 = .ok (.iadd, 1) := dk_96 (dk_at dksL_law_3 11 rfl rfl)
theorem dL_law_176 : decode cL_law 176 = .ok (.iaload, 1) := dk_46 (dk_at dksL_law_3 12 rfl rfl)
theorem dL_law_177 : decode cL_law 177 = .ok (.aload_n 0, 1) := dk_42 (dk_at dksL_law_3 13 rfl rfl)
theorem dL_law_178 : decode cL_law 178 = .ok (.iload 4, 2) := dk_21 4 (dk_at dksL_law_3 14 rfl rfl)
theorem dL_law_180 : decode cL_law 180 = .ok (.iconst 3, 1) := dk_6 (dk_at dksL_law_3 16 rfl rfl)
theorem dL_law_181 : decode cL_law 181 = .ok (.iadd, 1) := dk_96 (dk_at dksL_law_3 17 rfl rfl)
theorem dL_law_182 : decode cL_law 182 = .ok (.iaload, 1) := dk_46 (dk_at dksL_law_3 18 rfl rfl)
theorem dL_law_183 : decode cL_law 183 = .ok (.aload_n 0, 1) := dk_42 (dk_at dksL_law_3 19 rfl rfl)
theorem dL_law_184 : decode cL_law 184 = .ok (.iload 4, 2) := dk_21 4 (dk_at dksL_law_3 20 rfl rfl)
theorem dL_law_186 : decode cL_law 186 = .ok (.iconst 4, 1) := dk_7 (dk_at dksL_law_3 22 rfl rfl)
theorem dL_law_187 : decode cL_law 187 = .ok (.iadd, 1) := dk_96 (dk_at dksL_law_3 23 rfl rfl)
theorem dL_law_188 : decode cL_law 188 = .ok (.iaload, 1) := dk_46 (dk_at dksL_law_4 0 rfl rfl)
theorem dL_law_189 : decode cL_law 189 = .ok (.aload_n 0, 1) := dk_42 (dk_at dksL_law_4 1 rfl rfl)
theorem dL_law_190 : decode cL_law 190 = .ok (.iload 4, 2) := dk_21 4 (dk_at dksL_law_4 2 rfl rfl)
theorem dL_law_192 : decode cL_law 192 = .ok (.iconst 5, 1) := dk_8 (dk_at dksL_law_4 4 rfl rfl)
theorem dL_law_193 : decode cL_law 193 = .ok (.iadd, 1) := dk_96 (dk_at dksL_law_4 5 rfl rfl)
theorem dL_law_194 : decode cL_law 194 = .ok (.iaload, 1) := dk_46 (dk_at dksL_law_4 6 rfl rfl)
theorem dL_law_195 : decode cL_law 195 = .ok (.aload_n 3, 1) := dk_45 (dk_at dksL_law_4 7 rfl rfl)
theorem dL_law_196 : decode cL_law 196 = .ok (.invokestatic 101, 3) := dk_184 0 101 (dk_at dksL_law_4 8 rfl rfl)
theorem dL_law_199 : decode cL_law 199 = .ok (.istore 5, 2) := dk_54 5 (dk_at dksL_law_4 11 rfl rfl)
theorem dL_law_201 : decode cL_law 201 = .ok (.aload_n 2, 1) := dk_44 (dk_at dksL_law_4 13 rfl rfl)
theorem dL_law_202 : decode cL_law 202 = .ok (.aload_n 0, 1) := dk_42 (dk_at dksL_law_4 14 rfl rfl)
theorem dL_law_203 : decode cL_law 203 = .ok (.iload 4, 2) := dk_21 4 (dk_at dksL_law_4 15 rfl rfl)
theorem dL_law_205 : decode cL_law 205 = .ok (.iconst 1, 1) := dk_4 (dk_at dksL_law_4 17 rfl rfl)
theorem dL_law_206 : decode cL_law 206 = .ok (.iadd, 1) := dk_96 (dk_at dksL_law_4 18 rfl rfl)
theorem dL_law_207 : decode cL_law 207 = .ok (.iaload, 1) := dk_46 (dk_at dksL_law_4 19 rfl rfl)
theorem dL_law_208 : decode cL_law 208 = .ok (.aload_n 0, 1) := dk_42 (dk_at dksL_law_4 20 rfl rfl)
theorem dL_law_209 : decode cL_law 209 = .ok (.iload 4, 2) := dk_21 4 (dk_at dksL_law_4 21 rfl rfl)
theorem dL_law_211 : decode cL_law 211 = .ok (.iconst 2, 1) := dk_5 (dk_at dksL_law_4 23 rfl rfl)
theorem dL_law_212 : decode cL_law 212 = .ok (.iadd, 1) := dk_96 (dk_at dksL_law_5 0 rfl rfl)
theorem dL_law_213 : decode cL_law 213 = .ok (.iaload, 1) := dk_46 (dk_at dksL_law_5 1 rfl rfl)
theorem dL_law_214 : decode cL_law 214 = .ok (.aload_n 0, 1) := dk_42 (dk_at dksL_law_5 2 rfl rfl)
theorem dL_law_215 : decode cL_law 215 = .ok (.iload 4, 2) := dk_21 4 (dk_at dksL_law_5 3 rfl rfl)
theorem dL_law_217 : decode cL_law 217 = .ok (.iconst 3, 1) := dk_6 (dk_at dksL_law_5 5 rfl rfl)
theorem dL_law_218 : decode cL_law 218 = .ok (.iadd, 1) := dk_96 (dk_at dksL_law_5 6 rfl rfl)
theorem dL_law_219 : decode cL_law 219 = .ok (.iaload, 1) := dk_46 (dk_at dksL_law_5 7 rfl rfl)
theorem dL_law_220 : decode cL_law 220 = .ok (.aload_n 0, 1) := dk_42 (dk_at dksL_law_5 8 rfl rfl)
theorem dL_law_221 : decode cL_law 221 = .ok (.iload 4, 2) := dk_21 4 (dk_at dksL_law_5 9 rfl rfl)
theorem dL_law_223 : decode cL_law 223 = .ok (.iconst 4, 1) := dk_7 (dk_at dksL_law_5 11 rfl rfl)
theorem dL_law_224 : decode cL_law 224 = .ok (.iadd, 1) := dk_96 (dk_at dksL_law_5 12 rfl rfl)
theorem dL_law_225 : decode cL_law 225 = .ok (.iaload, 1) := dk_46 (dk_at dksL_law_5 13 rfl rfl)
theorem dL_law_226 : decode cL_law 226 = .ok (.aload_n 0, 1) := dk_42 (dk_at dksL_law_5 14 rfl rfl)
theorem dL_law_227 : decode cL_law 227 = .ok (.iload 4, 2) := dk_21 4 (dk_at dksL_law_5 15 rfl rfl)
theorem dL_law_229 : decode cL_law 229 = .ok (.iconst 5, 1) := dk_8 (dk_at dksL_law_5 17 rfl rfl)
theorem dL_law_230 : decode cL_law 230 = .ok (.iadd, 1) := dk_96 (dk_at dksL_law_5 18 rfl rfl)
theorem dL_law_231 : decode cL_law 231 = .ok (.iaload, 1) := dk_46 (dk_at dksL_law_5 19 rfl rfl)
theorem dL_law_232 : decode cL_law 232 = .ok (.invokevirtual 106, 3) := dk_182 0 106 (dk_at dksL_law_5 20 rfl rfl)
theorem dL_law_235 : decode cL_law 235 = .ok (.istore 6, 2) := dk_54 6 (dk_at dksL_law_6 0 rfl rfl)
theorem dL_law_237 : decode cL_law 237 = .ok (.aload_n 2, 1) := dk_44 (dk_at dksL_law_6 2 rfl rfl)
theorem dL_law_238 : decode cL_law 238 = .ok (.invokevirtual 107, 3) := dk_182 0 107 (dk_at dksL_law_6 3 rfl rfl)
theorem dL_law_241 : decode cL_law 241 = .ok (.iload 5, 2) := dk_21 5 (dk_at dksL_law_6 6 rfl rfl)
theorem dL_law_243 : decode cL_law 243 = .ok (.if_icmp .eq 5, 3) := dk_159 0 5 (dk_at dksL_law_6 8 rfl rfl)
theorem dL_law_246 : decode cL_law 246 = .ok (.iconst 0, 1) := dk_3 (dk_at dksL_law_6 11 rfl rfl)
theorem dL_law_247 : decode cL_law 247 = .ok (.ireturn, 1) := dk_172 (dk_at dksL_law_6 12 rfl rfl)
theorem dL_law_248 : decode cL_law 248 = .ok (.iload 5, 2) := dk_21 5 (dk_at dksL_law_6 13 rfl rfl)
theorem dL_law_250 : decode cL_law 250 = .ok (.ifCond .ne 15, 3) := dk_154 0 15 (dk_at dksL_law_6 15 rfl rfl)
theorem dL_law_253 : decode cL_law 253 = .ok (.aload_n 3, 1) := dk_45 (dk_at dksL_law_6 18 rfl rfl)
theorem dL_law_254 : decode cL_law 254 = .ok (.iconst 0, 1) := dk_3 (dk_at dksL_law_6 19 rfl rfl)
theorem dL_law_255 : decode cL_law 255 = .ok (.laload, 1) := dk_47 (dk_at dksL_law_6 20 rfl rfl)
theorem dL_law_256 : decode cL_law 256 = .ok (.iload 6, 2) := dk_21 6 (dk_at dksL_law_6 21 rfl rfl)
theorem dL_law_258 : decode cL_law 258 = .ok (.i2l, 1) := dk_133 (dk_at dksL_law_6 23 rfl rfl)
theorem dL_law_259 : decode cL_law 259 = .ok (.lcmp, 1) := dk_148 (dk_at dksL_law_7 0 rfl rfl)
theorem dL_law_260 : decode cL_law 260 = .ok (.ifCond .eq 5, 3) := dk_153 0 5 (dk_at dksL_law_7 1 rfl rfl)
theorem dL_law_263 : decode cL_law 263 = .ok (.iconst 0, 1) := dk_3 (dk_at dksL_law_7 4 rfl rfl)
theorem dL_law_264 : decode cL_law 264 = .ok (.ireturn, 1) := dk_172 (dk_at dksL_law_7 5 rfl rfl)
theorem dL_law_265 : decode cL_law 265 = .ok (.goto 1816, 3) := dk_167 7 24 (dk_at dksL_law_7 6 rfl rfl)
theorem dL_law_268 : decode cL_law 268 = .ok (.aload_n 1, 1) := dk_43 (dk_at dksL_law_7 9 rfl rfl)
theorem dL_law_269 : decode cL_law 269 = .ok (.aload_n 0, 1) := dk_42 (dk_at dksL_law_7 10 rfl rfl)
theorem dL_law_270 : decode cL_law 270 = .ok (.iload 4, 2) := dk_21 4 (dk_at dksL_law_7 11 rfl rfl)
theorem dL_law_272 : decode cL_law 272 = .ok (.iconst 1, 1) := dk_4 (dk_at dksL_law_7 13 rfl rfl)
theorem dL_law_273 : decode cL_law 273 = .ok (.iadd, 1) := dk_96 (dk_at dksL_law_7 14 rfl rfl)
theorem dL_law_274 : decode cL_law 274 = .ok (.iaload, 1) := dk_46 (dk_at dksL_law_7 15 rfl rfl)
theorem dL_law_275 : decode cL_law 275 = .ok (.aload_n 3, 1) := dk_45 (dk_at dksL_law_7 16 rfl rfl)
theorem dL_law_276 : decode cL_law 276 = .ok (.invokestatic 110, 3) := dk_184 0 110 (dk_at dksL_law_7 17 rfl rfl)
theorem dL_law_279 : decode cL_law 279 = .ok (.istore 5, 2) := dk_54 5 (dk_at dksL_law_7 20 rfl rfl)
theorem dL_law_281 : decode cL_law 281 = .ok (.aload_n 2, 1) := dk_44 (dk_at dksL_law_7 22 rfl rfl)
theorem dL_law_282 : decode cL_law 282 = .ok (.aload_n 0, 1) := dk_42 (dk_at dksL_law_7 23 rfl rfl)
theorem dL_law_283 : decode cL_law 283 = .ok (.iload 4, 2) := dk_21 4 (dk_at dksL_law_8 0 rfl rfl)
theorem dL_law_285 : decode cL_law 285 = .ok (.iconst 1, 1) := dk_4 (dk_at dksL_law_8 2 rfl rfl)
theorem dL_law_286 : decode cL_law 286 = .ok (.iadd, 1) := dk_96 (dk_at dksL_law_8 3 rfl rfl)
theorem dL_law_287 : decode cL_law 287 = .ok (.iaload, 1) := dk_46 (dk_at dksL_law_8 4 rfl rfl)
theorem dL_law_288 : decode cL_law 288 = .ok (.invokevirtual 113, 3) := dk_182 0 113 (dk_at dksL_law_8 5 rfl rfl)
theorem dL_law_291 : decode cL_law 291 = .ok (.istore 6, 2) := dk_54 6 (dk_at dksL_law_8 8 rfl rfl)
theorem dL_law_293 : decode cL_law 293 = .ok (.aload_n 2, 1) := dk_44 (dk_at dksL_law_8 10 rfl rfl)
theorem dL_law_294 : decode cL_law 294 = .ok (.invokevirtual 107, 3) := dk_182 0 107 (dk_at dksL_law_8 11 rfl rfl)
theorem dL_law_297 : decode cL_law 297 = .ok (.iload 5, 2) := dk_21 5 (dk_at dksL_law_8 14 rfl rfl)
theorem dL_law_299 : decode cL_law 299 = .ok (.if_icmp .eq 5, 3) := dk_159 0 5 (dk_at dksL_law_8 16 rfl rfl)
theorem dL_law_302 : decode cL_law 302 = .ok (.iconst 0, 1) := dk_3 (dk_at dksL_law_8 19 rfl rfl)
theorem dL_law_303 : decode cL_law 303 = .ok (.ireturn, 1) := dk_172 (dk_at dksL_law_8 20 rfl rfl)
theorem dL_law_304 : decode cL_law 304 = .ok (.iload 5, 2) := dk_21 5 (dk_at dksL_law_8 21 rfl rfl)
theorem dL_law_306 : decode cL_law 306 = .ok (.ifCond .ne 15, 3) := dk_154 0 15 (dk_at dksL_law_9 0 rfl rfl)
theorem dL_law_309 : decode cL_law 309 = .ok (.aload_n 3, 1) := dk_45 (dk_at dksL_law_9 3 rfl rfl)
theorem dL_law_310 : decode cL_law 310 = .ok (.iconst 0, 1) := dk_3 (dk_at dksL_law_9 4 rfl rfl)
theorem dL_law_311 : decode cL_law 311 = .ok (.laload, 1) := dk_47 (dk_at dksL_law_9 5 rfl rfl)
theorem dL_law_312 : decode cL_law 312 = .ok (.iload 6, 2) := dk_21 6 (dk_at dksL_law_9 6 rfl rfl)
theorem dL_law_314 : decode cL_law 314 = .ok (.i2l, 1) := dk_133 (dk_at dksL_law_9 8 rfl rfl)
theorem dL_law_315 : decode cL_law 315 = .ok (.lcmp, 1) := dk_148 (dk_at dksL_law_9 9 rfl rfl)
theorem dL_law_316 : decode cL_law 316 = .ok (.ifCond .eq 5, 3) := dk_153 0 5 (dk_at dksL_law_9 10 rfl rfl)
theorem dL_law_319 : decode cL_law 319 = .ok (.iconst 0, 1) := dk_3 (dk_at dksL_law_9 13 rfl rfl)
theorem dL_law_320 : decode cL_law 320 = .ok (.ireturn, 1) := dk_172 (dk_at dksL_law_9 14 rfl rfl)
theorem dL_law_321 : decode cL_law 321 = .ok (.goto 1760, 3) := dk_167 6 224 (dk_at dksL_law_9 15 rfl rfl)
theorem dL_law_324 : decode cL_law 324 = .ok (.aload_n 1, 1) := dk_43 (dk_at dksL_law_9 18 rfl rfl)
theorem dL_law_325 : decode cL_law 325 = .ok (.aload_n 0, 1) := dk_42 (dk_at dksL_law_9 19 rfl rfl)
theorem dL_law_326 : decode cL_law 326 = .ok (.iload 4, 2) := dk_21 4 (dk_at dksL_law_9 20 rfl rfl)
theorem dL_law_328 : decode cL_law 328 = .ok (.iconst 1, 1) := dk_4 (dk_at dksL_law_9 22 rfl rfl)
theorem dL_law_329 : decode cL_law 329 = .ok (.iadd, 1) := dk_96 (dk_at dksL_law_9 23 rfl rfl)
theorem dL_law_330 : decode cL_law 330 = .ok (.iaload, 1) := dk_46 (dk_at dksL_law_10 0 rfl rfl)
theorem dL_law_331 : decode cL_law 331 = .ok (.aload_n 0, 1) := dk_42 (dk_at dksL_law_10 1 rfl rfl)
theorem dL_law_332 : decode cL_law 332 = .ok (.iload 4, 2) := dk_21 4 (dk_at dksL_law_10 2 rfl rfl)
theorem dL_law_334 : decode cL_law 334 = .ok (.iconst 2, 1) := dk_5 (dk_at dksL_law_10 4 rfl rfl)
theorem dL_law_335 : decode cL_law 335 = .ok (.iadd, 1) := dk_96 (dk_at dksL_law_10 5 rfl rfl)
theorem dL_law_336 : decode cL_law 336 = .ok (.iaload, 1) := dk_46 (dk_at dksL_law_10 6 rfl rfl)
theorem dL_law_337 : decode cL_law 337 = .ok (.aload_n 0, 1) := dk_42 (dk_at dksL_law_10 7 rfl rfl)
theorem dL_law_338 : decode cL_law 338 = .ok (.iload 4, 2) := dk_21 4 (dk_at dksL_law_10 8 rfl rfl)
theorem dL_law_340 : decode cL_law 340 = .ok (.iconst 3, 1) := dk_6 (dk_at dksL_law_10 10 rfl rfl)
theorem dL_law_341 : decode cL_law 341 = .ok (.iadd, 1) := dk_96 (dk_at dksL_law_10 11 rfl rfl)
theorem dL_law_342 : decode cL_law 342 = .ok (.iaload, 1) := dk_46 (dk_at dksL_law_10 12 rfl rfl)
theorem dL_law_343 : decode cL_law 343 = .ok (.aload_n 0, 1) := dk_42 (dk_at dksL_law_10 13 rfl rfl)
theorem dL_law_344 : decode cL_law 344 = .ok (.iload 4, 2) := dk_21 4 (dk_at dksL_law_10 14 rfl rfl)
theorem dL_law_346 : decode cL_law 346 = .ok (.iconst 4, 1) := dk_7 (dk_at dksL_law_10 16 rfl rfl)
theorem dL_law_347 : decode cL_law 347 = .ok (.iadd, 1) := dk_96 (dk_at dksL_law_10 17 rfl rfl)
theorem dL_law_348 : decode cL_law 348 = .ok (.iaload, 1) := dk_46 (dk_at dksL_law_10 18 rfl rfl)
theorem dL_law_349 : decode cL_law 349 = .ok (.aload_n 3, 1) := dk_45 (dk_at dksL_law_10 19 rfl rfl)
theorem dL_law_350 : decode cL_law 350 = .ok (.invokestatic 114, 3) := dk_184 0 114 (dk_at dksL_law_10 20 rfl rfl)
theorem dL_law_353 : decode cL_law 353 = .ok (.istore 5, 2) := dk_54 5 (dk_at dksL_law_11 0 rfl rfl)
theorem dL_law_355 : decode cL_law 355 = .ok (.aload_n 2, 1) := dk_44 (dk_at dksL_law_11 2 rfl rfl)
theorem dL_law_356 : decode cL_law 356 = .ok (.aload_n 0, 1) := dk_42 (dk_at dksL_law_11 3 rfl rfl)
theorem dL_law_357 : decode cL_law 357 = .ok (.iload 4, 2) := dk_21 4 (dk_at dksL_law_11 4 rfl rfl)
theorem dL_law_359 : decode cL_law 359 = .ok (.iconst 1, 1) := dk_4 (dk_at dksL_law_11 6 rfl rfl)
theorem dL_law_360 : decode cL_law 360 = .ok (.iadd, 1) := dk_96 (dk_at dksL_law_11 7 rfl rfl)
theorem dL_law_361 : decode cL_law 361 = .ok (.iaload, 1) := dk_46 (dk_at dksL_law_11 8 rfl rfl)
theorem dL_law_362 : decode cL_law 362 = .ok (.aload_n 0, 1) := dk_42 (dk_at dksL_law_11 9 rfl rfl)
theorem dL_law_363 : decode cL_law 363 = .ok (.iload 4, 2) := dk_21 4 (dk_at dksL_law_11 10 rfl rfl)
theorem dL_law_365 : decode cL_law 365 = .ok (.iconst 2, 1) := dk_5 (dk_at dksL_law_11 12 rfl rfl)
theorem dL_law_366 : decode cL_law 366 = .ok (.iadd, 1) := dk_96 (dk_at dksL_law_11 13 rfl rfl)
theorem dL_law_367 : decode cL_law 367 = .ok (.iaload, 1) := dk_46 (dk_at dksL_law_11 14 rfl rfl)
theorem dL_law_368 : decode cL_law 368 = .ok (.aload_n 0, 1) := dk_42 (dk_at dksL_law_11 15 rfl rfl)
theorem dL_law_369 : decode cL_law 369 = .ok (.iload 4, 2) := dk_21 4 (dk_at dksL_law_11 16 rfl rfl)
theorem dL_law_371 : decode cL_law 371 = .ok (.iconst 3, 1) := dk_6 (dk_at dksL_law_11 18 rfl rfl)
theorem dL_law_372 : decode cL_law 372 = .ok (.iadd, 1) := dk_96 (dk_at dksL_law_11 19 rfl rfl)
theorem dL_law_373 : decode cL_law 373 = .ok (.iaload, 1) := dk_46 (dk_at dksL_law_11 20 rfl rfl)
theorem dL_law_374 : decode cL_law 374 = .ok (.aload_n 0, 1) := dk_42 (dk_at dksL_law_11 21 rfl rfl)
theorem dL_law_375 : decode cL_law 375 = .ok (.iload 4, 2) := dk_21 4 (dk_at dksL_law_11 22 rfl rfl)
theorem dL_law_377 : decode cL_law 377 = .ok (.iconst 4, 1) := dk_7 (dk_at dksL_law_12 0 rfl rfl)
theorem dL_law_378 : decode cL_law 378 = .ok (.iadd, 1) := dk_96 (dk_at dksL_law_12 1 rfl rfl)
theorem dL_law_379 : decode cL_law 379 = .ok (.iaload, 1) := dk_46 (dk_at dksL_law_12 2 rfl rfl)
theorem dL_law_380 : decode cL_law 380 = .ok (.invokevirtual 117, 3) := dk_182 0 117 (dk_at dksL_law_12 3 rfl rfl)
theorem dL_law_383 : decode cL_law 383 = .ok (.istore 6, 2) := dk_54 6 (dk_at dksL_law_12 6 rfl rfl)
theorem dL_law_385 : decode cL_law 385 = .ok (.aload_n 2, 1) := dk_44 (dk_at dksL_law_12 8 rfl rfl)
theorem dL_law_386 : decode cL_law 386 = .ok (.invokevirtual 107, 3) := dk_182 0 107 (dk_at dksL_law_12 9 rfl rfl)
theorem dL_law_389 : decode cL_law 389 = .ok (.iload 5, 2) := dk_21 5 (dk_at dksL_law_12 12 rfl rfl)
theorem dL_law_391 : decode cL_law 391 = .ok (.if_icmp .eq 5, 3) := dk_159 0 5 (dk_at dksL_law_12 14 rfl rfl)
theorem dL_law_394 : decode cL_law 394 = .ok (.iconst 0, 1) := dk_3 (dk_at dksL_law_12 17 rfl rfl)
theorem dL_law_395 : decode cL_law 395 = .ok (.ireturn, 1) := dk_172 (dk_at dksL_law_12 18 rfl rfl)
theorem dL_law_396 : decode cL_law 396 = .ok (.iload 5, 2) := dk_21 5 (dk_at dksL_law_12 19 rfl rfl)
theorem dL_law_398 : decode cL_law 398 = .ok (.ifCond .ne 15, 3) := dk_154 0 15 (dk_at dksL_law_12 21 rfl rfl)
theorem dL_law_401 : decode cL_law 401 = .ok (.aload_n 3, 1) := dk_45 (dk_at dksL_law_13 0 rfl rfl)
theorem dL_law_402 : decode cL_law 402 = .ok (.iconst 0, 1) := dk_3 (dk_at dksL_law_13 1 rfl rfl)
theorem dL_law_403 : decode cL_law 403 = .ok (.laload, 1) := dk_47 (dk_at dksL_law_13 2 rfl rfl)
theorem dL_law_404 : decode cL_law 404 = .ok (.iload 6, 2) := dk_21 6 (dk_at dksL_law_13 3 rfl rfl)
theorem dL_law_406 : decode cL_law 406 = .ok (.i2l, 1) := dk_133 (dk_at dksL_law_13 5 rfl rfl)
theorem dL_law_407 : decode cL_law 407 = .ok (.lcmp, 1) := dk_148 (dk_at dksL_law_13 6 rfl rfl)
theorem dL_law_408 : decode cL_law 408 = .ok (.ifCond .eq 5, 3) := dk_153 0 5 (dk_at dksL_law_13 7 rfl rfl)
theorem dL_law_411 : decode cL_law 411 = .ok (.iconst 0, 1) := dk_3 (dk_at dksL_law_13 10 rfl rfl)
theorem dL_law_412 : decode cL_law 412 = .ok (.ireturn, 1) := dk_172 (dk_at dksL_law_13 11 rfl rfl)
theorem dL_law_413 : decode cL_law 413 = .ok (.goto 1668, 3) := dk_167 6 132 (dk_at dksL_law_13 12 rfl rfl)
theorem dL_law_416 : decode cL_law 416 = .ok (.aload_n 1, 1) := dk_43 (dk_at dksL_law_13 15 rfl rfl)
theorem dL_law_417 : decode cL_law 417 = .ok (.aload_n 0, 1) := dk_42 (dk_at dksL_law_13 16 rfl rfl)
theorem dL_law_418 : decode cL_law 418 = .ok (.iload 4, 2) := dk_21 4 (dk_at dksL_law_13 17 rfl rfl)
theorem dL_law_420 : decode cL_law 420 = .ok (.iconst 1, 1) := dk_4 (dk_at dksL_law_13 19 rfl rfl)
theorem dL_law_421 : decode cL_law 421 = .ok (.iadd, 1) := dk_96 (dk_at dksL_law_13 20 rfl rfl)
theorem dL_law_422 : decode cL_law 422 = .ok (.iaload, 1) := dk_46 (dk_at dksL_law_13 21 rfl rfl)
theorem dL_law_423 : decode cL_law 423 = .ok (.aload_n 0, 1) := dk_42 (dk_at dksL_law_13 22 rfl rfl)
theorem dL_law_424 : decode cL_law 424 = .ok (.iload 4, 2) := dk_21 4 (dk_at dksL_law_14 0 rfl rfl)
theorem dL_law_426 : decode cL_law 426 = .ok (.iconst 2, 1) := dk_5 (dk_at dksL_law_14 2 rfl rfl)
theorem dL_law_427 : decode cL_law 427 = .ok (.iadd, 1) := dk_96 (dk_at dksL_law_14 3 rfl rfl)
theorem dL_law_428 : decode cL_law 428 = .ok (.iaload, 1) := dk_46 (dk_at dksL_law_14 4 rfl rfl)
theorem dL_law_429 : decode cL_law 429 = .ok (.aload_n 0, 1) := dk_42 (dk_at dksL_law_14 5 rfl rfl)
theorem dL_law_430 : decode cL_law 430 = .ok (.iload 4, 2) := dk_21 4 (dk_at dksL_law_14 6 rfl rfl)
theorem dL_law_432 : decode cL_law 432 = .ok (.iconst 3, 1) := dk_6 (dk_at dksL_law_14 8 rfl rfl)
theorem dL_law_433 : decode cL_law 433 = .ok (.iadd, 1) := dk_96 (dk_at dksL_law_14 9 rfl rfl)
theorem dL_law_434 : decode cL_law 434 = .ok (.iaload, 1) := dk_46 (dk_at dksL_law_14 10 rfl rfl)
theorem dL_law_435 : decode cL_law 435 = .ok (.aload_n 0, 1) := dk_42 (dk_at dksL_law_14 11 rfl rfl)
theorem dL_law_436 : decode cL_law 436 = .ok (.iload 4, 2) := dk_21 4 (dk_at dksL_law_14 12 rfl rfl)
theorem dL_law_438 : decode cL_law 438 = .ok (.iconst 4, 1) := dk_7 (dk_at dksL_law_14 14 rfl rfl)
theorem dL_law_439 : decode cL_law 439 = .ok (.iadd, 1) := dk_96 (dk_at dksL_law_14 15 rfl rfl)
theorem dL_law_440 : decode cL_law 440 = .ok (.iaload, 1) := dk_46 (dk_at dksL_law_14 16 rfl rfl)
theorem dL_law_441 : decode cL_law 441 = .ok (.aload_n 0, 1) := dk_42 (dk_at dksL_law_14 17 rfl rfl)
theorem dL_law_442 : decode cL_law 442 = .ok (.iload 4, 2) := dk_21 4 (dk_at dksL_law_14 18 rfl rfl)
theorem dL_law_444 : decode cL_law 444 = .ok (.iconst 5, 1) := dk_8 (dk_at dksL_law_14 20 rfl rfl)
theorem dL_law_445 : decode cL_law 445 = .ok (.iadd, 1) := dk_96 (dk_at dksL_law_14 21 rfl rfl)
theorem dL_law_446 : decode cL_law 446 = .ok (.iaload, 1) := dk_46 (dk_at dksL_law_14 22 rfl rfl)
theorem dL_law_447 : decode cL_law 447 = .ok (.aload_n 3, 1) := dk_45 (dk_at dksL_law_14 23 rfl rfl)
theorem dL_law_448 : decode cL_law 448 = .ok (.invokestatic 118, 3) := dk_184 0 118 (dk_at dksL_law_15 0 rfl rfl)
theorem dL_law_451 : decode cL_law 451 = .ok (.istore 5, 2) := dk_54 5 (dk_at dksL_law_15 3 rfl rfl)
theorem dL_law_453 : decode cL_law 453 = .ok (.aload_n 2, 1) := dk_44 (dk_at dksL_law_15 5 rfl rfl)
theorem dL_law_454 : decode cL_law 454 = .ok (.aload_n 0, 1) := dk_42 (dk_at dksL_law_15 6 rfl rfl)
theorem dL_law_455 : decode cL_law 455 = .ok (.iload 4, 2) := dk_21 4 (dk_at dksL_law_15 7 rfl rfl)
theorem dL_law_457 : decode cL_law 457 = .ok (.iconst 1, 1) := dk_4 (dk_at dksL_law_15 9 rfl rfl)
theorem dL_law_458 : decode cL_law 458 = .ok (.iadd, 1) := dk_96 (dk_at dksL_law_15 10 rfl rfl)
theorem dL_law_459 : decode cL_law 459 = .ok (.iaload, 1) := dk_46 (dk_at dksL_law_15 11 rfl rfl)
theorem dL_law_460 : decode cL_law 460 = .ok (.aload_n 0, 1) := dk_42 (dk_at dksL_law_15 12 rfl rfl)
theorem dL_law_461 : decode cL_law 461 = .ok (.iload 4, 2) := dk_21 4 (dk_at dksL_law_15 13 rfl rfl)
theorem dL_law_463 : decode cL_law 463 = .ok (.iconst 2, 1) := dk_5 (dk_at dksL_law_15 15 rfl rfl)
theorem dL_law_464 : decode cL_law 464 = .ok (.iadd, 1) := dk_96 (dk_at dksL_law_15 16 rfl rfl)
theorem dL_law_465 : decode cL_law 465 = .ok (.iaload, 1) := dk_46 (dk_at dksL_law_15 17 rfl rfl)
theorem dL_law_466 : decode cL_law 466 = .ok (.aload_n 0, 1) := dk_42 (dk_at dksL_law_15 18 rfl rfl)
theorem dL_law_467 : decode cL_law 467 = .ok (.iload 4, 2) := dk_21 4 (dk_at dksL_law_15 19 rfl rfl)
theorem dL_law_469 : decode cL_law 469 = .ok (.iconst 3, 1) := dk_6 (dk_at dksL_law_15 21 rfl rfl)
theorem dL_law_470 : decode cL_law 470 = .ok (.iadd, 1) := dk_96 (dk_at dksL_law_15 22 rfl rfl)
theorem dL_law_471 : decode cL_law 471 = .ok (.iaload, 1) := dk_46 (dk_at dksL_law_15 23 rfl rfl)
theorem dL_law_472 : decode cL_law 472 = .ok (.aload_n 0, 1) := dk_42 (dk_at dksL_law_16 0 rfl rfl)
theorem dL_law_473 : decode cL_law 473 = .ok (.iload 4, 2) := dk_21 4 (dk_at dksL_law_16 1 rfl rfl)
theorem dL_law_475 : decode cL_law 475 = .ok (.iconst 4, 1) := dk_7 (dk_at dksL_law_16 3 rfl rfl)
theorem dL_law_476 : decode cL_law 476 = .ok (.iadd, 1) := dk_96 (dk_at dksL_law_16 4 rfl rfl)
theorem dL_law_477 : decode cL_law 477 = .ok (.iaload, 1) := dk_46 (dk_at dksL_law_16 5 rfl rfl)
theorem dL_law_478 : decode cL_law 478 = .ok (.aload_n 0, 1) := dk_42 (dk_at dksL_law_16 6 rfl rfl)
theorem dL_law_479 : decode cL_law 479 = .ok (.iload 4, 2) := dk_21 4 (dk_at dksL_law_16 7 rfl rfl)
theorem dL_law_481 : decode cL_law 481 = .ok (.iconst 5, 1) := dk_8 (dk_at dksL_law_16 9 rfl rfl)
theorem dL_law_482 : decode cL_law 482 = .ok (.iadd, 1) := dk_96 (dk_at dksL_law_16 10 rfl rfl)
theorem dL_law_483 : decode cL_law 483 = .ok (.iaload, 1) := dk_46 (dk_at dksL_law_16 11 rfl rfl)
theorem dL_law_484 : decode cL_law 484 = .ok (.invokevirtual 120, 3) := dk_182 0 120 (dk_at dksL_law_16 12 rfl rfl)
theorem dL_law_487 : decode cL_law 487 = .ok (.istore 6, 2) := dk_54 6 (dk_at dksL_law_16 15 rfl rfl)
theorem dL_law_489 : decode cL_law 489 = .ok (.aload_n 2, 1) := dk_44 (dk_at dksL_law_16 17 rfl rfl)
theorem dL_law_490 : decode cL_law 490 = .ok (.invokevirtual 107, 3) := dk_182 0 107 (dk_at dksL_law_16 18 rfl rfl)
theorem dL_law_493 : decode cL_law 493 = .ok (.iload 5, 2) := dk_21 5 (dk_at dksL_law_16 21 rfl rfl)
theorem dL_law_495 : decode cL_law 495 = .ok (.if_icmp .eq 5, 3) := dk_159 0 5 (dk_at dksL_law_17 0 rfl rfl)
theorem dL_law_498 : decode cL_law 498 = .ok (.iconst 0, 1) := dk_3 (dk_at dksL_law_17 3 rfl rfl)
theorem dL_law_499 : decode cL_law 499 = .ok (.ireturn, 1) := dk_172 (dk_at dksL_law_17 4 rfl rfl)
theorem dL_law_500 : decode cL_law 500 = .ok (.iload 5, 2) := dk_21 5 (dk_at dksL_law_17 5 rfl rfl)
theorem dL_law_502 : decode cL_law 502 = .ok (.ifCond .ne 15, 3) := dk_154 0 15 (dk_at dksL_law_17 7 rfl rfl)
theorem dL_law_505 : decode cL_law 505 = .ok (.aload_n 3, 1) := dk_45 (dk_at dksL_law_17 10 rfl rfl)
theorem dL_law_506 : decode cL_law 506 = .ok (.iconst 0, 1) := dk_3 (dk_at dksL_law_17 11 rfl rfl)
theorem dL_law_507 : decode cL_law 507 = .ok (.laload, 1) := dk_47 (dk_at dksL_law_17 12 rfl rfl)
theorem dL_law_508 : decode cL_law 508 = .ok (.iload 6, 2) := dk_21 6 (dk_at dksL_law_17 13 rfl rfl)
theorem dL_law_510 : decode cL_law 510 = .ok (.i2l, 1) := dk_133 (dk_at dksL_law_17 15 rfl rfl)
theorem dL_law_511 : decode cL_law 511 = .ok (.lcmp, 1) := dk_148 (dk_at dksL_law_17 16 rfl rfl)
theorem dL_law_512 : decode cL_law 512 = .ok (.ifCond .eq 5, 3) := dk_153 0 5 (dk_at dksL_law_17 17 rfl rfl)
theorem dL_law_515 : decode cL_law 515 = .ok (.iconst 0, 1) := dk_3 (dk_at dksL_law_17 20 rfl rfl)
theorem dL_law_516 : decode cL_law 516 = .ok (.ireturn, 1) := dk_172 (dk_at dksL_law_17 21 rfl rfl)
theorem dL_law_517 : decode cL_law 517 = .ok (.goto 1564, 3) := dk_167 6 28 (dk_at dksL_law_18 0 rfl rfl)
theorem dL_law_520 : decode cL_law 520 = .ok (.aload_n 1, 1) := dk_43 (dk_at dksL_law_18 3 rfl rfl)
theorem dL_law_521 : decode cL_law 521 = .ok (.aload_n 3, 1) := dk_45 (dk_at dksL_law_18 4 rfl rfl)
theorem dL_law_522 : decode cL_law 522 = .ok (.invokestatic 121, 3) := dk_184 0 121 (dk_at dksL_law_18 5 rfl rfl)
theorem dL_law_525 : decode cL_law 525 = .ok (.istore 5, 2) := dk_54 5 (dk_at dksL_law_18 8 rfl rfl)
theorem dL_law_527 : decode cL_law 527 = .ok (.aload_n 2, 1) := dk_44 (dk_at dksL_law_18 10 rfl rfl)
theorem dL_law_528 : decode cL_law 528 = .ok (.invokevirtual 124, 3) := dk_182 0 124 (dk_at dksL_law_18 11 rfl rfl)
theorem dL_law_531 : decode cL_law 531 = .ok (.istore 6, 2) := dk_54 6 (dk_at dksL_law_18 14 rfl rfl)
theorem dL_law_533 : decode cL_law 533 = .ok (.aload_n 2, 1) := dk_44 (dk_at dksL_law_18 16 rfl rfl)
theorem dL_law_534 : decode cL_law 534 = .ok (.invokevirtual 107, 3) := dk_182 0 107 (dk_at dksL_law_18 17 rfl rfl)
theorem dL_law_537 : decode cL_law 537 = .ok (.iload 5, 2) := dk_21 5 (dk_at dksL_law_18 20 rfl rfl)
theorem dL_law_539 : decode cL_law 539 = .ok (.if_icmp .eq 5, 3) := dk_159 0 5 (dk_at dksL_law_19 0 rfl rfl)
theorem dL_law_542 : decode cL_law 542 = .ok (.iconst 0, 1) := dk_3 (dk_at dksL_law_19 3 rfl rfl)
theorem dL_law_543 : decode cL_law 543 = .ok (.ireturn, 1) := dk_172 (dk_at dksL_law_19 4 rfl rfl)
theorem dL_law_544 : decode cL_law 544 = .ok (.iload 5, 2) := dk_21 5 (dk_at dksL_law_19 5 rfl rfl)
theorem dL_law_546 : decode cL_law 546 = .ok (.ifCond .ne 15, 3) := dk_154 0 15 (dk_at dksL_law_19 7 rfl rfl)
theorem dL_law_549 : decode cL_law 549 = .ok (.aload_n 3, 1) := dk_45 (dk_at dksL_law_19 10 rfl rfl)
theorem dL_law_550 : decode cL_law 550 = .ok (.iconst 0, 1) := dk_3 (dk_at dksL_law_19 11 rfl rfl)
theorem dL_law_551 : decode cL_law 551 = .ok (.laload, 1) := dk_47 (dk_at dksL_law_19 12 rfl rfl)
theorem dL_law_552 : decode cL_law 552 = .ok (.iload 6, 2) := dk_21 6 (dk_at dksL_law_19 13 rfl rfl)
theorem dL_law_554 : decode cL_law 554 = .ok (.i2l, 1) := dk_133 (dk_at dksL_law_19 15 rfl rfl)
theorem dL_law_555 : decode cL_law 555 = .ok (.lcmp, 1) := dk_148 (dk_at dksL_law_19 16 rfl rfl)
theorem dL_law_556 : decode cL_law 556 = .ok (.ifCond .eq 5, 3) := dk_153 0 5 (dk_at dksL_law_19 17 rfl rfl)
theorem dL_law_559 : decode cL_law 559 = .ok (.iconst 0, 1) := dk_3 (dk_at dksL_law_19 20 rfl rfl)
theorem dL_law_560 : decode cL_law 560 = .ok (.ireturn, 1) := dk_172 (dk_at dksL_law_19 21 rfl rfl)
theorem dL_law_561 : decode cL_law 561 = .ok (.goto 1520, 3) := dk_167 5 240 (dk_at dksL_law_20 0 rfl rfl)
theorem dL_law_564 : decode cL_law 564 = .ok (.aload_n 1, 1) := dk_43 (dk_at dksL_law_20 3 rfl rfl)
theorem dL_law_565 : decode cL_law 565 = .ok (.aload_n 0, 1) := dk_42 (dk_at dksL_law_20 4 rfl rfl)
theorem dL_law_566 : decode cL_law 566 = .ok (.iload 4, 2) := dk_21 4 (dk_at dksL_law_20 5 rfl rfl)
theorem dL_law_568 : decode cL_law 568 = .ok (.iconst 1, 1) := dk_4 (dk_at dksL_law_20 7 rfl rfl)
theorem dL_law_569 : decode cL_law 569 = .ok (.iadd, 1) := dk_96 (dk_at dksL_law_20 8 rfl rfl)
theorem dL_law_570 : decode cL_law 570 = .ok (.iaload, 1) := dk_46 (dk_at dksL_law_20 9 rfl rfl)
theorem dL_law_571 : decode cL_law 571 = .ok (.aload_n 0, 1) := dk_42 (dk_at dksL_law_20 10 rfl rfl)
theorem dL_law_572 : decode cL_law 572 = .ok (.iload 4, 2) := dk_21 4 (dk_at dksL_law_20 11 rfl rfl)
theorem dL_law_574 : decode cL_law 574 = .ok (.iconst 2, 1) := dk_5 (dk_at dksL_law_20 13 rfl rfl)
theorem dL_law_575 : decode cL_law 575 = .ok (.iadd, 1) := dk_96 (dk_at dksL_law_20 14 rfl rfl)
theorem dL_law_576 : decode cL_law 576 = .ok (.iaload, 1) := dk_46 (dk_at dksL_law_20 15 rfl rfl)
theorem dL_law_577 : decode cL_law 577 = .ok (.aload_n 3, 1) := dk_45 (dk_at dksL_law_20 16 rfl rfl)
theorem dL_law_578 : decode cL_law 578 = .ok (.invokestatic 125, 3) := dk_184 0 125 (dk_at dksL_law_20 17 rfl rfl)
theorem dL_law_581 : decode cL_law 581 = .ok (.istore 5, 2) := dk_54 5 (dk_at dksL_law_20 20 rfl rfl)
theorem dL_law_583 : decode cL_law 583 = .ok (.aload_n 2, 1) := dk_44 (dk_at dksL_law_20 22 rfl rfl)
theorem dL_law_584 : decode cL_law 584 = .ok (.aload_n 0, 1) := dk_42 (dk_at dksL_law_20 23 rfl rfl)
theorem dL_law_585 : decode cL_law 585 = .ok (.iload 4, 2) := dk_21 4 (dk_at dksL_law_21 0 rfl rfl)
theorem dL_law_587 : decode cL_law 587 = .ok (.iconst 1, 1) := dk_4 (dk_at dksL_law_21 2 rfl rfl)
theorem dL_law_588 : decode cL_law 588 = .ok (.iadd, 1) := dk_96 (dk_at dksL_law_21 3 rfl rfl)
theorem dL_law_589 : decode cL_law 589 = .ok (.iaload, 1) := dk_46 (dk_at dksL_law_21 4 rfl rfl)
theorem dL_law_590 : decode cL_law 590 = .ok (.aload_n 0, 1) := dk_42 (dk_at dksL_law_21 5 rfl rfl)
theorem dL_law_591 : decode cL_law 591 = .ok (.iload 4, 2) := dk_21 4 (dk_at dksL_law_21 6 rfl rfl)
theorem dL_law_593 : decode cL_law 593 = .ok (.iconst 2, 1) := dk_5 (dk_at dksL_law_21 8 rfl rfl)
theorem dL_law_594 : decode cL_law 594 = .ok (.iadd, 1) := dk_96 (dk_at dksL_law_21 9 rfl rfl)
theorem dL_law_595 : decode cL_law 595 = .ok (.iaload, 1) := dk_46 (dk_at dksL_law_21 10 rfl rfl)
theorem dL_law_596 : decode cL_law 596 = .ok (.invokevirtual 128, 3) := dk_182 0 128 (dk_at dksL_law_21 11 rfl rfl)
theorem dL_law_599 : decode cL_law 599 = .ok (.istore 6, 2) := dk_54 6 (dk_at dksL_law_21 14 rfl rfl)
theorem dL_law_601 : decode cL_law 601 = .ok (.aload_n 2, 1) := dk_44 (dk_at dksL_law_21 16 rfl rfl)
theorem dL_law_602 : decode cL_law 602 = .ok (.invokevirtual 107, 3) := dk_182 0 107 (dk_at dksL_law_21 17 rfl rfl)
theorem dL_law_605 : decode cL_law 605 = .ok (.iload 5, 2) := dk_21 5 (dk_at dksL_law_21 20 rfl rfl)
theorem dL_law_607 : decode cL_law 607 = .ok (.if_icmp .eq 5, 3) := dk_159 0 5 (dk_at dksL_law_22 0 rfl rfl)
theorem dL_law_610 : decode cL_law 610 = .ok (.iconst 0, 1) := dk_3 (dk_at dksL_law_22 3 rfl rfl)
theorem dL_law_611 : decode cL_law 611 = .ok (.ireturn, 1) := dk_172 (dk_at dksL_law_22 4 rfl rfl)
theorem dL_law_612 : decode cL_law 612 = .ok (.iload 5, 2) := dk_21 5 (dk_at dksL_law_22 5 rfl rfl)
theorem dL_law_614 : decode cL_law 614 = .ok (.ifCond .ne 15, 3) := dk_154 0 15 (dk_at dksL_law_22 7 rfl rfl)
theorem dL_law_617 : decode cL_law 617 = .ok (.aload_n 3, 1) := dk_45 (dk_at dksL_law_22 10 rfl rfl)
theorem dL_law_618 : decode cL_law 618 = .ok (.iconst 0, 1) := dk_3 (dk_at dksL_law_22 11 rfl rfl)
theorem dL_law_619 : decode cL_law 619 = .ok (.laload, 1) := dk_47 (dk_at dksL_law_22 12 rfl rfl)
theorem dL_law_620 : decode cL_law 620 = .ok (.iload 6, 2) := dk_21 6 (dk_at dksL_law_22 13 rfl rfl)
theorem dL_law_622 : decode cL_law 622 = .ok (.i2l, 1) := dk_133 (dk_at dksL_law_22 15 rfl rfl)
theorem dL_law_623 : decode cL_law 623 = .ok (.lcmp, 1) := dk_148 (dk_at dksL_law_22 16 rfl rfl)
theorem dL_law_624 : decode cL_law 624 = .ok (.ifCond .eq 5, 3) := dk_153 0 5 (dk_at dksL_law_22 17 rfl rfl)
theorem dL_law_627 : decode cL_law 627 = .ok (.iconst 0, 1) := dk_3 (dk_at dksL_law_22 20 rfl rfl)
theorem dL_law_628 : decode cL_law 628 = .ok (.ireturn, 1) := dk_172 (dk_at dksL_law_22 21 rfl rfl)
theorem dL_law_629 : decode cL_law 629 = .ok (.goto 1452, 3) := dk_167 5 172 (dk_at dksL_law_23 0 rfl rfl)
theorem dL_law_632 : decode cL_law 632 = .ok (.aload_n 1, 1) := dk_43 (dk_at dksL_law_23 3 rfl rfl)
theorem dL_law_633 : decode cL_law 633 = .ok (.aload_n 0, 1) := dk_42 (dk_at dksL_law_23 4 rfl rfl)
theorem dL_law_634 : decode cL_law 634 = .ok (.iload 4, 2) := dk_21 4 (dk_at dksL_law_23 5 rfl rfl)
theorem dL_law_636 : decode cL_law 636 = .ok (.iconst 1, 1) := dk_4 (dk_at dksL_law_23 7 rfl rfl)
theorem dL_law_637 : decode cL_law 637 = .ok (.iadd, 1) := dk_96 (dk_at dksL_law_23 8 rfl rfl)
theorem dL_law_638 : decode cL_law 638 = .ok (.iaload, 1) := dk_46 (dk_at dksL_law_23 9 rfl rfl)
theorem dL_law_639 : decode cL_law 639 = .ok (.aload_n 0, 1) := dk_42 (dk_at dksL_law_23 10 rfl rfl)
theorem dL_law_640 : decode cL_law 640 = .ok (.iload 4, 2) := dk_21 4 (dk_at dksL_law_23 11 rfl rfl)
theorem dL_law_642 : decode cL_law 642 = .ok (.iconst 2, 1) := dk_5 (dk_at dksL_law_23 13 rfl rfl)
theorem dL_law_643 : decode cL_law 643 = .ok (.iadd, 1) := dk_96 (dk_at dksL_law_23 14 rfl rfl)
theorem dL_law_644 : decode cL_law 644 = .ok (.iaload, 1) := dk_46 (dk_at dksL_law_23 15 rfl rfl)
theorem dL_law_645 : decode cL_law 645 = .ok (.aload_n 3, 1) := dk_45 (dk_at dksL_law_23 16 rfl rfl)
theorem dL_law_646 : decode cL_law 646 = .ok (.invokestatic 129, 3) := dk_184 0 129 (dk_at dksL_law_23 17 rfl rfl)
theorem dL_law_649 : decode cL_law 649 = .ok (.istore 5, 2) := dk_54 5 (dk_at dksL_law_23 20 rfl rfl)
theorem dL_law_651 : decode cL_law 651 = .ok (.aload_n 2, 1) := dk_44 (dk_at dksL_law_23 22 rfl rfl)
theorem dL_law_652 : decode cL_law 652 = .ok (.aload_n 0, 1) := dk_42 (dk_at dksL_law_23 23 rfl rfl)
theorem dL_law_653 : decode cL_law 653 = .ok (.iload 4, 2) := dk_21 4 (dk_at dksL_law_24 0 rfl rfl)
theorem dL_law_655 : decode cL_law 655 = .ok (.iconst 1, 1) := dk_4 (dk_at dksL_law_24 2 rfl rfl)
theorem dL_law_656 : decode cL_law 656 = .ok (.iadd, 1) := dk_96 (dk_at dksL_law_24 3 rfl rfl)
theorem dL_law_657 : decode cL_law 657 = .ok (.iaload, 1) := dk_46 (dk_at dksL_law_24 4 rfl rfl)
theorem dL_law_658 : decode cL_law 658 = .ok (.aload_n 0, 1) := dk_42 (dk_at dksL_law_24 5 rfl rfl)
theorem dL_law_659 : decode cL_law 659 = .ok (.iload 4, 2) := dk_21 4 (dk_at dksL_law_24 6 rfl rfl)
theorem dL_law_661 : decode cL_law 661 = .ok (.iconst 2, 1) := dk_5 (dk_at dksL_law_24 8 rfl rfl)
theorem dL_law_662 : decode cL_law 662 = .ok (.iadd, 1) := dk_96 (dk_at dksL_law_24 9 rfl rfl)
theorem dL_law_663 : decode cL_law 663 = .ok (.iaload, 1) := dk_46 (dk_at dksL_law_24 10 rfl rfl)
theorem dL_law_664 : decode cL_law 664 = .ok (.invokevirtual 131, 3) := dk_182 0 131 (dk_at dksL_law_24 11 rfl rfl)
theorem dL_law_667 : decode cL_law 667 = .ok (.istore 6, 2) := dk_54 6 (dk_at dksL_law_24 14 rfl rfl)
theorem dL_law_669 : decode cL_law 669 = .ok (.aload_n 2, 1) := dk_44 (dk_at dksL_law_24 16 rfl rfl)
theorem dL_law_670 : decode cL_law 670 = .ok (.invokevirtual 107, 3) := dk_182 0 107 (dk_at dksL_law_24 17 rfl rfl)
theorem dL_law_673 : decode cL_law 673 = .ok (.iload 5, 2) := dk_21 5 (dk_at dksL_law_24 20 rfl rfl)
theorem dL_law_675 : decode cL_law 675 = .ok (.if_icmp .eq 5, 3) := dk_159 0 5 (dk_at dksL_law_25 0 rfl rfl)
theorem dL_law_678 : decode cL_law 678 = .ok (.iconst 0, 1) := dk_3 (dk_at dksL_law_25 3 rfl rfl)
theorem dL_law_679 : decode cL_law 679 = .ok (.ireturn, 1) := dk_172 (dk_at dksL_law_25 4 rfl rfl)
theorem dL_law_680 : decode cL_law 680 = .ok (.iload 5, 2) := dk_21 5 (dk_at dksL_law_25 5 rfl rfl)
theorem dL_law_682 : decode cL_law 682 = .ok (.ifCond .ne 15, 3) := dk_154 0 15 (dk_at dksL_law_25 7 rfl rfl)
theorem dL_law_685 : decode cL_law 685 = .ok (.aload_n 3, 1) := dk_45 (dk_at dksL_law_25 10 rfl rfl)
theorem dL_law_686 : decode cL_law 686 = .ok (.iconst 0, 1) := dk_3 (dk_at dksL_law_25 11 rfl rfl)
theorem dL_law_687 : decode cL_law 687 = .ok (.laload, 1) := dk_47 (dk_at dksL_law_25 12 rfl rfl)
theorem dL_law_688 : decode cL_law 688 = .ok (.iload 6, 2) := dk_21 6 (dk_at dksL_law_25 13 rfl rfl)
theorem dL_law_690 : decode cL_law 690 = .ok (.i2l, 1) := dk_133 (dk_at dksL_law_25 15 rfl rfl)
theorem dL_law_691 : decode cL_law 691 = .ok (.lcmp, 1) := dk_148 (dk_at dksL_law_25 16 rfl rfl)
theorem dL_law_692 : decode cL_law 692 = .ok (.ifCond .eq 5, 3) := dk_153 0 5 (dk_at dksL_law_25 17 rfl rfl)
theorem dL_law_695 : decode cL_law 695 = .ok (.iconst 0, 1) := dk_3 (dk_at dksL_law_25 20 rfl rfl)
theorem dL_law_696 : decode cL_law 696 = .ok (.ireturn, 1) := dk_172 (dk_at dksL_law_25 21 rfl rfl)
theorem dL_law_697 : decode cL_law 697 = .ok (.goto 1384, 3) := dk_167 5 104 (dk_at dksL_law_26 0 rfl rfl)
theorem dL_law_700 : decode cL_law 700 = .ok (.aload_n 1, 1) := dk_43 (dk_at dksL_law_26 3 rfl rfl)
theorem dL_law_701 : decode cL_law 701 = .ok (.aload_n 0, 1) := dk_42 (dk_at dksL_law_26 4 rfl rfl)
theorem dL_law_702 : decode cL_law 702 = .ok (.iload 4, 2) := dk_21 4 (dk_at dksL_law_26 5 rfl rfl)
theorem dL_law_704 : decode cL_law 704 = .ok (.iconst 1, 1) := dk_4 (dk_at dksL_law_26 7 rfl rfl)
theorem dL_law_705 : decode cL_law 705 = .ok (.iadd, 1) := dk_96 (dk_at dksL_law_26 8 rfl rfl)
theorem dL_law_706 : decode cL_law 706 = .ok (.iaload, 1) := dk_46 (dk_at dksL_law_26 9 rfl rfl)
theorem dL_law_707 : decode cL_law 707 = .ok (.aload_n 0, 1) := dk_42 (dk_at dksL_law_26 10 rfl rfl)
theorem dL_law_708 : decode cL_law 708 = .ok (.iload 4, 2) := dk_21 4 (dk_at dksL_law_26 11 rfl rfl)
theorem dL_law_710 : decode cL_law 710 = .ok (.iconst 2, 1) := dk_5 (dk_at dksL_law_26 13 rfl rfl)
theorem dL_law_711 : decode cL_law 711 = .ok (.iadd, 1) := dk_96 (dk_at dksL_law_26 14 rfl rfl)
theorem dL_law_712 : decode cL_law 712 = .ok (.iaload, 1) := dk_46 (dk_at dksL_law_26 15 rfl rfl)
theorem dL_law_713 : decode cL_law 713 = .ok (.aload_n 0, 1) := dk_42 (dk_at dksL_law_26 16 rfl rfl)
theorem dL_law_714 : decode cL_law 714 = .ok (.iload 4, 2) := dk_21 4 (dk_at dksL_law_26 17 rfl rfl)
theorem dL_law_716 : decode cL_law 716 = .ok (.iconst 3, 1) := dk_6 (dk_at dksL_law_26 19 rfl rfl)
theorem dL_law_717 : decode cL_law 717 = .ok (.iadd, 1) := dk_96 (dk_at dksL_law_26 20 rfl rfl)
theorem dL_law_718 : decode cL_law 718 = .ok (.iaload, 1) := dk_46 (dk_at dksL_law_26 21 rfl rfl)
theorem dL_law_719 : decode cL_law 719 = .ok (.aload_n 0, 1) := dk_42 (dk_at dksL_law_26 22 rfl rfl)
theorem dL_law_720 : decode cL_law 720 = .ok (.iload 4, 2) := dk_21 4 (dk_at dksL_law_27 0 rfl rfl)
theorem dL_law_722 : decode cL_law 722 = .ok (.iconst 4, 1) := dk_7 (dk_at dksL_law_27 2 rfl rfl)
theorem dL_law_723 : decode cL_law 723 = .ok (.iadd, 1) := dk_96 (dk_at dksL_law_27 3 rfl rfl)
theorem dL_law_724 : decode cL_law 724 = .ok (.iaload, 1) := dk_46 (dk_at dksL_law_27 4 rfl rfl)
theorem dL_law_725 : decode cL_law 725 = .ok (.aload_n 0, 1) := dk_42 (dk_at dksL_law_27 5 rfl rfl)
theorem dL_law_726 : decode cL_law 726 = .ok (.iload 4, 2) := dk_21 4 (dk_at dksL_law_27 6 rfl rfl)
theorem dL_law_728 : decode cL_law 728 = .ok (.iconst 5, 1) := dk_8 (dk_at dksL_law_27 8 rfl rfl)
theorem dL_law_729 : decode cL_law 729 = .ok (.iadd, 1) := dk_96 (dk_at dksL_law_27 9 rfl rfl)
theorem dL_law_730 : decode cL_law 730 = .ok (.iaload, 1) := dk_46 (dk_at dksL_law_27 10 rfl rfl)
theorem dL_law_731 : decode cL_law 731 = .ok (.aload_n 3, 1) := dk_45 (dk_at dksL_law_27 11 rfl rfl)
theorem dL_law_732 : decode cL_law 732 = .ok (.invokestatic 132, 3) := dk_184 0 132 (dk_at dksL_law_27 12 rfl rfl)
theorem dL_law_735 : decode cL_law 735 = .ok (.istore 5, 2) := dk_54 5 (dk_at dksL_law_27 15 rfl rfl)
theorem dL_law_737 : decode cL_law 737 = .ok (.aload_n 2, 1) := dk_44 (dk_at dksL_law_27 17 rfl rfl)
theorem dL_law_738 : decode cL_law 738 = .ok (.aload_n 0, 1) := dk_42 (dk_at dksL_law_27 18 rfl rfl)
theorem dL_law_739 : decode cL_law 739 = .ok (.iload 4, 2) := dk_21 4 (dk_at dksL_law_27 19 rfl rfl)
theorem dL_law_741 : decode cL_law 741 = .ok (.iconst 1, 1) := dk_4 (dk_at dksL_law_27 21 rfl rfl)
theorem dL_law_742 : decode cL_law 742 = .ok (.iadd, 1) := dk_96 (dk_at dksL_law_27 22 rfl rfl)
theorem dL_law_743 : decode cL_law 743 = .ok (.iaload, 1) := dk_46 (dk_at dksL_law_27 23 rfl rfl)
theorem dL_law_744 : decode cL_law 744 = .ok (.aload_n 0, 1) := dk_42 (dk_at dksL_law_28 0 rfl rfl)
theorem dL_law_745 : decode cL_law 745 = .ok (.iload 4, 2) := dk_21 4 (dk_at dksL_law_28 1 rfl rfl)
theorem dL_law_747 : decode cL_law 747 = .ok (.iconst 2, 1) := dk_5 (dk_at dksL_law_28 3 rfl rfl)
theorem dL_law_748 : decode cL_law 748 = .ok (.iadd, 1) := dk_96 (dk_at dksL_law_28 4 rfl rfl)
theorem dL_law_749 : decode cL_law 749 = .ok (.iaload, 1) := dk_46 (dk_at dksL_law_28 5 rfl rfl)
theorem dL_law_750 : decode cL_law 750 = .ok (.aload_n 0, 1) := dk_42 (dk_at dksL_law_28 6 rfl rfl)
theorem dL_law_751 : decode cL_law 751 = .ok (.iload 4, 2) := dk_21 4 (dk_at dksL_law_28 7 rfl rfl)
theorem dL_law_753 : decode cL_law 753 = .ok (.iconst 3, 1) := dk_6 (dk_at dksL_law_28 9 rfl rfl)
theorem dL_law_754 : decode cL_law 754 = .ok (.iadd, 1) := dk_96 (dk_at dksL_law_28 10 rfl rfl)
theorem dL_law_755 : decode cL_law 755 = .ok (.iaload, 1) := dk_46 (dk_at dksL_law_28 11 rfl rfl)
theorem dL_law_756 : decode cL_law 756 = .ok (.aload_n 0, 1) := dk_42 (dk_at dksL_law_28 12 rfl rfl)
theorem dL_law_757 : decode cL_law 757 = .ok (.iload 4, 2) := dk_21 4 (dk_at dksL_law_28 13 rfl rfl)
theorem dL_law_759 : decode cL_law 759 = .ok (.iconst 4, 1) := dk_7 (dk_at dksL_law_28 15 rfl rfl)
theorem dL_law_760 : decode cL_law 760 = .ok (.iadd, 1) := dk_96 (dk_at dksL_law_28 16 rfl rfl)
theorem dL_law_761 : decode cL_law 761 = .ok (.iaload, 1) := dk_46 (dk_at dksL_law_28 17 rfl rfl)
theorem dL_law_762 : decode cL_law 762 = .ok (.aload_n 0, 1) := dk_42 (dk_at dksL_law_28 18 rfl rfl)
theorem dL_law_763 : decode cL_law 763 = .ok (.iload 4, 2) := dk_21 4 (dk_at dksL_law_28 19 rfl rfl)
theorem dL_law_765 : decode cL_law 765 = .ok (.iconst 5, 1) := dk_8 (dk_at dksL_law_28 21 rfl rfl)
theorem dL_law_766 : decode cL_law 766 = .ok (.iadd, 1) := dk_96 (dk_at dksL_law_28 22 rfl rfl)
theorem dL_law_767 : decode cL_law 767 = .ok (.iaload, 1) := dk_46 (dk_at dksL_law_28 23 rfl rfl)
theorem dL_law_768 : decode cL_law 768 = .ok (.invokevirtual 134, 3) := dk_182 0 134 (dk_at dksL_law_29 0 rfl rfl)
theorem dL_law_771 : decode cL_law 771 = .ok (.istore 6, 2) := dk_54 6 (dk_at dksL_law_29 3 rfl rfl)
theorem dL_law_773 : decode cL_law 773 = .ok (.aload_n 2, 1) := dk_44 (dk_at dksL_law_29 5 rfl rfl)
theorem dL_law_774 : decode cL_law 774 = .ok (.invokevirtual 107, 3) := dk_182 0 107 (dk_at dksL_law_29 6 rfl rfl)
theorem dL_law_777 : decode cL_law 777 = .ok (.iload 5, 2) := dk_21 5 (dk_at dksL_law_29 9 rfl rfl)
theorem dL_law_779 : decode cL_law 779 = .ok (.if_icmp .eq 5, 3) := dk_159 0 5 (dk_at dksL_law_29 11 rfl rfl)
theorem dL_law_782 : decode cL_law 782 = .ok (.iconst 0, 1) := dk_3 (dk_at dksL_law_29 14 rfl rfl)
theorem dL_law_783 : decode cL_law 783 = .ok (.ireturn, 1) := dk_172 (dk_at dksL_law_29 15 rfl rfl)
theorem dL_law_784 : decode cL_law 784 = .ok (.iload 5, 2) := dk_21 5 (dk_at dksL_law_29 16 rfl rfl)
theorem dL_law_786 : decode cL_law 786 = .ok (.ifCond .ne 15, 3) := dk_154 0 15 (dk_at dksL_law_29 18 rfl rfl)
theorem dL_law_789 : decode cL_law 789 = .ok (.aload_n 3, 1) := dk_45 (dk_at dksL_law_29 21 rfl rfl)
theorem dL_law_790 : decode cL_law 790 = .ok (.iconst 0, 1) := dk_3 (dk_at dksL_law_29 22 rfl rfl)
theorem dL_law_791 : decode cL_law 791 = .ok (.laload, 1) := dk_47 (dk_at dksL_law_29 23 rfl rfl)
theorem dL_law_792 : decode cL_law 792 = .ok (.iload 6, 2) := dk_21 6 (dk_at dksL_law_30 0 rfl rfl)
theorem dL_law_794 : decode cL_law 794 = .ok (.i2l, 1) := dk_133 (dk_at dksL_law_30 2 rfl rfl)
theorem dL_law_795 : decode cL_law 795 = .ok (.lcmp, 1) := dk_148 (dk_at dksL_law_30 3 rfl rfl)
theorem dL_law_796 : decode cL_law 796 = .ok (.ifCond .eq 5, 3) := dk_153 0 5 (dk_at dksL_law_30 4 rfl rfl)
theorem dL_law_799 : decode cL_law 799 = .ok (.iconst 0, 1) := dk_3 (dk_at dksL_law_30 7 rfl rfl)
theorem dL_law_800 : decode cL_law 800 = .ok (.ireturn, 1) := dk_172 (dk_at dksL_law_30 8 rfl rfl)
theorem dL_law_801 : decode cL_law 801 = .ok (.goto 1280, 3) := dk_167 5 0 (dk_at dksL_law_30 9 rfl rfl)
theorem dL_law_804 : decode cL_law 804 = .ok (.aload_n 1, 1) := dk_43 (dk_at dksL_law_30 12 rfl rfl)
theorem dL_law_805 : decode cL_law 805 = .ok (.aload_n 0, 1) := dk_42 (dk_at dksL_law_30 13 rfl rfl)
theorem dL_law_806 : decode cL_law 806 = .ok (.iload 4, 2) := dk_21 4 (dk_at dksL_law_30 14 rfl rfl)
theorem dL_law_808 : decode cL_law 808 = .ok (.iconst 1, 1) := dk_4 (dk_at dksL_law_30 16 rfl rfl)
theorem dL_law_809 : decode cL_law 809 = .ok (.iadd, 1) := dk_96 (dk_at dksL_law_30 17 rfl rfl)
theorem dL_law_810 : decode cL_law 810 = .ok (.iaload, 1) := dk_46 (dk_at dksL_law_30 18 rfl rfl)
theorem dL_law_811 : decode cL_law 811 = .ok (.aload_n 0, 1) := dk_42 (dk_at dksL_law_30 19 rfl rfl)
theorem dL_law_812 : decode cL_law 812 = .ok (.iload 4, 2) := dk_21 4 (dk_at dksL_law_30 20 rfl rfl)
theorem dL_law_814 : decode cL_law 814 = .ok (.iconst 2, 1) := dk_5 (dk_at dksL_law_30 22 rfl rfl)
theorem dL_law_815 : decode cL_law 815 = .ok (.iadd, 1) := dk_96 (dk_at dksL_law_30 23 rfl rfl)
theorem dL_law_816 : decode cL_law 816 = .ok (.iaload, 1) := dk_46 (dk_at dksL_law_31 0 rfl rfl)
theorem dL_law_817 : decode cL_law 817 = .ok (.aload_n 3, 1) := dk_45 (dk_at dksL_law_31 1 rfl rfl)
theorem dL_law_818 : decode cL_law 818 = .ok (.invokestatic 135, 3) := dk_184 0 135 (dk_at dksL_law_31 2 rfl rfl)
theorem dL_law_821 : decode cL_law 821 = .ok (.istore 5, 2) := dk_54 5 (dk_at dksL_law_31 5 rfl rfl)
theorem dL_law_823 : decode cL_law 823 = .ok (.aload_n 2, 1) := dk_44 (dk_at dksL_law_31 7 rfl rfl)
theorem dL_law_824 : decode cL_law 824 = .ok (.aload_n 0, 1) := dk_42 (dk_at dksL_law_31 8 rfl rfl)
theorem dL_law_825 : decode cL_law 825 = .ok (.iload 4, 2) := dk_21 4 (dk_at dksL_law_31 9 rfl rfl)
theorem dL_law_827 : decode cL_law 827 = .ok (.iconst 1, 1) := dk_4 (dk_at dksL_law_31 11 rfl rfl)
theorem dL_law_828 : decode cL_law 828 = .ok (.iadd, 1) := dk_96 (dk_at dksL_law_31 12 rfl rfl)
theorem dL_law_829 : decode cL_law 829 = .ok (.iaload, 1) := dk_46 (dk_at dksL_law_31 13 rfl rfl)
theorem dL_law_830 : decode cL_law 830 = .ok (.aload_n 0, 1) := dk_42 (dk_at dksL_law_31 14 rfl rfl)
theorem dL_law_831 : decode cL_law 831 = .ok (.iload 4, 2) := dk_21 4 (dk_at dksL_law_31 15 rfl rfl)
theorem dL_law_833 : decode cL_law 833 = .ok (.iconst 2, 1) := dk_5 (dk_at dksL_law_31 17 rfl rfl)
theorem dL_law_834 : decode cL_law 834 = .ok (.iadd, 1) := dk_96 (dk_at dksL_law_31 18 rfl rfl)
theorem dL_law_835 : decode cL_law 835 = .ok (.iaload, 1) := dk_46 (dk_at dksL_law_31 19 rfl rfl)
theorem dL_law_836 : decode cL_law 836 = .ok (.invokevirtual 137, 3) := dk_182 0 137 (dk_at dksL_law_31 20 rfl rfl)
theorem dL_law_839 : decode cL_law 839 = .ok (.istore 6, 2) := dk_54 6 (dk_at dksL_law_32 0 rfl rfl)
theorem dL_law_841 : decode cL_law 841 = .ok (.aload_n 2, 1) := dk_44 (dk_at dksL_law_32 2 rfl rfl)
theorem dL_law_842 : decode cL_law 842 = .ok (.invokevirtual 107, 3) := dk_182 0 107 (dk_at dksL_law_32 3 rfl rfl)
theorem dL_law_845 : decode cL_law 845 = .ok (.iload 5, 2) := dk_21 5 (dk_at dksL_law_32 6 rfl rfl)
theorem dL_law_847 : decode cL_law 847 = .ok (.if_icmp .eq 5, 3) := dk_159 0 5 (dk_at dksL_law_32 8 rfl rfl)
theorem dL_law_850 : decode cL_law 850 = .ok (.iconst 0, 1) := dk_3 (dk_at dksL_law_32 11 rfl rfl)
theorem dL_law_851 : decode cL_law 851 = .ok (.ireturn, 1) := dk_172 (dk_at dksL_law_32 12 rfl rfl)
theorem dL_law_852 : decode cL_law 852 = .ok (.iload 5, 2) := dk_21 5 (dk_at dksL_law_32 13 rfl rfl)
theorem dL_law_854 : decode cL_law 854 = .ok (.ifCond .ne 15, 3) := dk_154 0 15 (dk_at dksL_law_32 15 rfl rfl)
theorem dL_law_857 : decode cL_law 857 = .ok (.aload_n 3, 1) := dk_45 (dk_at dksL_law_32 18 rfl rfl)
theorem dL_law_858 : decode cL_law 858 = .ok (.iconst 0, 1) := dk_3 (dk_at dksL_law_32 19 rfl rfl)
theorem dL_law_859 : decode cL_law 859 = .ok (.laload, 1) := dk_47 (dk_at dksL_law_32 20 rfl rfl)
theorem dL_law_860 : decode cL_law 860 = .ok (.iload 6, 2) := dk_21 6 (dk_at dksL_law_32 21 rfl rfl)
theorem dL_law_862 : decode cL_law 862 = .ok (.i2l, 1) := dk_133 (dk_at dksL_law_32 23 rfl rfl)
theorem dL_law_863 : decode cL_law 863 = .ok (.lcmp, 1) := dk_148 (dk_at dksL_law_33 0 rfl rfl)
theorem dL_law_864 : decode cL_law 864 = .ok (.ifCond .eq 5, 3) := dk_153 0 5 (dk_at dksL_law_33 1 rfl rfl)
theorem dL_law_867 : decode cL_law 867 = .ok (.iconst 0, 1) := dk_3 (dk_at dksL_law_33 4 rfl rfl)
theorem dL_law_868 : decode cL_law 868 = .ok (.ireturn, 1) := dk_172 (dk_at dksL_law_33 5 rfl rfl)
theorem dL_law_869 : decode cL_law 869 = .ok (.goto 1212, 3) := dk_167 4 188 (dk_at dksL_law_33 6 rfl rfl)
theorem dL_law_872 : decode cL_law 872 = .ok (.aload_n 1, 1) := dk_43 (dk_at dksL_law_33 9 rfl rfl)
theorem dL_law_873 : decode cL_law 873 = .ok (.aload_n 0, 1) := dk_42 (dk_at dksL_law_33 10 rfl rfl)
theorem dL_law_874 : decode cL_law 874 = .ok (.iload 4, 2) := dk_21 4 (dk_at dksL_law_33 11 rfl rfl)
theorem dL_law_876 : decode cL_law 876 = .ok (.iconst 1, 1) := dk_4 (dk_at dksL_law_33 13 rfl rfl)
theorem dL_law_877 : decode cL_law 877 = .ok (.iadd, 1) := dk_96 (dk_at dksL_law_33 14 rfl rfl)
theorem dL_law_878 : decode cL_law 878 = .ok (.iaload, 1) := dk_46 (dk_at dksL_law_33 15 rfl rfl)
theorem dL_law_879 : decode cL_law 879 = .ok (.aload_n 0, 1) := dk_42 (dk_at dksL_law_33 16 rfl rfl)
theorem dL_law_880 : decode cL_law 880 = .ok (.iload 4, 2) := dk_21 4 (dk_at dksL_law_33 17 rfl rfl)
theorem dL_law_882 : decode cL_law 882 = .ok (.iconst 2, 1) := dk_5 (dk_at dksL_law_33 19 rfl rfl)
theorem dL_law_883 : decode cL_law 883 = .ok (.iadd, 1) := dk_96 (dk_at dksL_law_33 20 rfl rfl)
theorem dL_law_884 : decode cL_law 884 = .ok (.iaload, 1) := dk_46 (dk_at dksL_law_33 21 rfl rfl)
theorem dL_law_885 : decode cL_law 885 = .ok (.aload_n 3, 1) := dk_45 (dk_at dksL_law_33 22 rfl rfl)
theorem dL_law_886 : decode cL_law 886 = .ok (.invokestatic 138, 3) := dk_184 0 138 (dk_at dksL_law_34 0 rfl rfl)
theorem dL_law_889 : decode cL_law 889 = .ok (.istore 5, 2) := dk_54 5 (dk_at dksL_law_34 3 rfl rfl)
theorem dL_law_891 : decode cL_law 891 = .ok (.aload_n 2, 1) := dk_44 (dk_at dksL_law_34 5 rfl rfl)
theorem dL_law_892 : decode cL_law 892 = .ok (.aload_n 0, 1) := dk_42 (dk_at dksL_law_34 6 rfl rfl)
theorem dL_law_893 : decode cL_law 893 = .ok (.iload 4, 2) := dk_21 4 (dk_at dksL_law_34 7 rfl rfl)
theorem dL_law_895 : decode cL_law 895 = .ok (.iconst 1, 1) := dk_4 (dk_at dksL_law_34 9 rfl rfl)
theorem dL_law_896 : decode cL_law 896 = .ok (.iadd, 1) := dk_96 (dk_at dksL_law_34 10 rfl rfl)
theorem dL_law_897 : decode cL_law 897 = .ok (.iaload, 1) := dk_46 (dk_at dksL_law_34 11 rfl rfl)
theorem dL_law_898 : decode cL_law 898 = .ok (.aload_n 0, 1) := dk_42 (dk_at dksL_law_34 12 rfl rfl)
theorem dL_law_899 : decode cL_law 899 = .ok (.iload 4, 2) := dk_21 4 (dk_at dksL_law_34 13 rfl rfl)
theorem dL_law_901 : decode cL_law 901 = .ok (.iconst 2, 1) := dk_5 (dk_at dksL_law_34 15 rfl rfl)
theorem dL_law_902 : decode cL_law 902 = .ok (.iadd, 1) := dk_96 (dk_at dksL_law_34 16 rfl rfl)
theorem dL_law_903 : decode cL_law 903 = .ok (.iaload, 1) := dk_46 (dk_at dksL_law_34 17 rfl rfl)
theorem dL_law_904 : decode cL_law 904 = .ok (.invokevirtual 140, 3) := dk_182 0 140 (dk_at dksL_law_34 18 rfl rfl)
theorem dL_law_907 : decode cL_law 907 = .ok (.istore 6, 2) := dk_54 6 (dk_at dksL_law_34 21 rfl rfl)
theorem dL_law_909 : decode cL_law 909 = .ok (.aload_n 2, 1) := dk_44 (dk_at dksL_law_34 23 rfl rfl)
theorem dL_law_910 : decode cL_law 910 = .ok (.invokevirtual 107, 3) := dk_182 0 107 (dk_at dksL_law_35 0 rfl rfl)
theorem dL_law_913 : decode cL_law 913 = .ok (.iload 5, 2) := dk_21 5 (dk_at dksL_law_35 3 rfl rfl)
theorem dL_law_915 : decode cL_law 915 = .ok (.if_icmp .eq 5, 3) := dk_159 0 5 (dk_at dksL_law_35 5 rfl rfl)
theorem dL_law_918 : decode cL_law 918 = .ok (.iconst 0, 1) := dk_3 (dk_at dksL_law_35 8 rfl rfl)
theorem dL_law_919 : decode cL_law 919 = .ok (.ireturn, 1) := dk_172 (dk_at dksL_law_35 9 rfl rfl)
theorem dL_law_920 : decode cL_law 920 = .ok (.iload 5, 2) := dk_21 5 (dk_at dksL_law_35 10 rfl rfl)
theorem dL_law_922 : decode cL_law 922 = .ok (.ifCond .ne 15, 3) := dk_154 0 15 (dk_at dksL_law_35 12 rfl rfl)
theorem dL_law_925 : decode cL_law 925 = .ok (.aload_n 3, 1) := dk_45 (dk_at dksL_law_35 15 rfl rfl)
theorem dL_law_926 : decode cL_law 926 = .ok (.iconst 0, 1) := dk_3 (dk_at dksL_law_35 16 rfl rfl)
theorem dL_law_927 : decode cL_law 927 = .ok (.laload, 1) := dk_47 (dk_at dksL_law_35 17 rfl rfl)
theorem dL_law_928 : decode cL_law 928 = .ok (.iload 6, 2) := dk_21 6 (dk_at dksL_law_35 18 rfl rfl)
theorem dL_law_930 : decode cL_law 930 = .ok (.i2l, 1) := dk_133 (dk_at dksL_law_35 20 rfl rfl)
theorem dL_law_931 : decode cL_law 931 = .ok (.lcmp, 1) := dk_148 (dk_at dksL_law_35 21 rfl rfl)
theorem dL_law_932 : decode cL_law 932 = .ok (.ifCond .eq 5, 3) := dk_153 0 5 (dk_at dksL_law_36 0 rfl rfl)
theorem dL_law_935 : decode cL_law 935 = .ok (.iconst 0, 1) := dk_3 (dk_at dksL_law_36 3 rfl rfl)
theorem dL_law_936 : decode cL_law 936 = .ok (.ireturn, 1) := dk_172 (dk_at dksL_law_36 4 rfl rfl)
theorem dL_law_937 : decode cL_law 937 = .ok (.goto 1144, 3) := dk_167 4 120 (dk_at dksL_law_36 5 rfl rfl)
theorem dL_law_940 : decode cL_law 940 = .ok (.aload_n 1, 1) := dk_43 (dk_at dksL_law_36 8 rfl rfl)
theorem dL_law_941 : decode cL_law 941 = .ok (.aload_n 0, 1) := dk_42 (dk_at dksL_law_36 9 rfl rfl)
theorem dL_law_942 : decode cL_law 942 = .ok (.iload 4, 2) := dk_21 4 (dk_at dksL_law_36 10 rfl rfl)
theorem dL_law_944 : decode cL_law 944 = .ok (.iconst 1, 1) := dk_4 (dk_at dksL_law_36 12 rfl rfl)
theorem dL_law_945 : decode cL_law 945 = .ok (.iadd, 1) := dk_96 (dk_at dksL_law_36 13 rfl rfl)
theorem dL_law_946 : decode cL_law 946 = .ok (.iaload, 1) := dk_46 (dk_at dksL_law_36 14 rfl rfl)
theorem dL_law_947 : decode cL_law 947 = .ok (.aload_n 0, 1) := dk_42 (dk_at dksL_law_36 15 rfl rfl)
theorem dL_law_948 : decode cL_law 948 = .ok (.iload 4, 2) := dk_21 4 (dk_at dksL_law_36 16 rfl rfl)
theorem dL_law_950 : decode cL_law 950 = .ok (.iconst 2, 1) := dk_5 (dk_at dksL_law_36 18 rfl rfl)
theorem dL_law_951 : decode cL_law 951 = .ok (.iadd, 1) := dk_96 (dk_at dksL_law_36 19 rfl rfl)
theorem dL_law_952 : decode cL_law 952 = .ok (.iaload, 1) := dk_46 (dk_at dksL_law_36 20 rfl rfl)
theorem dL_law_953 : decode cL_law 953 = .ok (.aload_n 0, 1) := dk_42 (dk_at dksL_law_36 21 rfl rfl)
theorem dL_law_954 : decode cL_law 954 = .ok (.iload 4, 2) := dk_21 4 (dk_at dksL_law_36 22 rfl rfl)
theorem dL_law_956 : decode cL_law 956 = .ok (.iconst 3, 1) := dk_6 (dk_at dksL_law_37 0 rfl rfl)
theorem dL_law_957 : decode cL_law 957 = .ok (.iadd, 1) := dk_96 (dk_at dksL_law_37 1 rfl rfl)
theorem dL_law_958 : decode cL_law 958 = .ok (.iaload, 1) := dk_46 (dk_at dksL_law_37 2 rfl rfl)
theorem dL_law_959 : decode cL_law 959 = .ok (.aload_n 0, 1) := dk_42 (dk_at dksL_law_37 3 rfl rfl)
theorem dL_law_960 : decode cL_law 960 = .ok (.iload 4, 2) := dk_21 4 (dk_at dksL_law_37 4 rfl rfl)
theorem dL_law_962 : decode cL_law 962 = .ok (.iconst 4, 1) := dk_7 (dk_at dksL_law_37 6 rfl rfl)
theorem dL_law_963 : decode cL_law 963 = .ok (.iadd, 1) := dk_96 (dk_at dksL_law_37 7 rfl rfl)
theorem dL_law_964 : decode cL_law 964 = .ok (.iaload, 1) := dk_46 (dk_at dksL_law_37 8 rfl rfl)
theorem dL_law_965 : decode cL_law 965 = .ok (.aload_n 3, 1) := dk_45 (dk_at dksL_law_37 9 rfl rfl)
theorem dL_law_966 : decode cL_law 966 = .ok (.invokestatic 141, 3) := dk_184 0 141 (dk_at dksL_law_37 10 rfl rfl)
theorem dL_law_969 : decode cL_law 969 = .ok (.istore 5, 2) := dk_54 5 (dk_at dksL_law_37 13 rfl rfl)
theorem dL_law_971 : decode cL_law 971 = .ok (.aload_n 2, 1) := dk_44 (dk_at dksL_law_37 15 rfl rfl)
theorem dL_law_972 : decode cL_law 972 = .ok (.aload_n 0, 1) := dk_42 (dk_at dksL_law_37 16 rfl rfl)
theorem dL_law_973 : decode cL_law 973 = .ok (.iload 4, 2) := dk_21 4 (dk_at dksL_law_37 17 rfl rfl)
theorem dL_law_975 : decode cL_law 975 = .ok (.iconst 1, 1) := dk_4 (dk_at dksL_law_37 19 rfl rfl)
theorem dL_law_976 : decode cL_law 976 = .ok (.iadd, 1) := dk_96 (dk_at dksL_law_37 20 rfl rfl)
theorem dL_law_977 : decode cL_law 977 = .ok (.iaload, 1) := dk_46 (dk_at dksL_law_37 21 rfl rfl)
theorem dL_law_978 : decode cL_law 978 = .ok (.aload_n 0, 1) := dk_42 (dk_at dksL_law_37 22 rfl rfl)
theorem dL_law_979 : decode cL_law 979 = .ok (.iload 4, 2) := dk_21 4 (dk_at dksL_law_38 0 rfl rfl)
theorem dL_law_981 : decode cL_law 981 = .ok (.iconst 2, 1) := dk_5 (dk_at dksL_law_38 2 rfl rfl)
theorem dL_law_982 : decode cL_law 982 = .ok (.iadd, 1) := dk_96 (dk_at dksL_law_38 3 rfl rfl)
theorem dL_law_983 : decode cL_law 983 = .ok (.iaload, 1) := dk_46 (dk_at dksL_law_38 4 rfl rfl)
theorem dL_law_984 : decode cL_law 984 = .ok (.aload_n 0, 1) := dk_42 (dk_at dksL_law_38 5 rfl rfl)
theorem dL_law_985 : decode cL_law 985 = .ok (.iload 4, 2) := dk_21 4 (dk_at dksL_law_38 6 rfl rfl)
theorem dL_law_987 : decode cL_law 987 = .ok (.iconst 3, 1) := dk_6 (dk_at dksL_law_38 8 rfl rfl)
theorem dL_law_988 : decode cL_law 988 = .ok (.iadd, 1) := dk_96 (dk_at dksL_law_38 9 rfl rfl)
theorem dL_law_989 : decode cL_law 989 = .ok (.iaload, 1) := dk_46 (dk_at dksL_law_38 10 rfl rfl)
theorem dL_law_990 : decode cL_law 990 = .ok (.aload_n 0, 1) := dk_42 (dk_at dksL_law_38 11 rfl rfl)
theorem dL_law_991 : decode cL_law 991 = .ok (.iload 4, 2) := dk_21 4 (dk_at dksL_law_38 12 rfl rfl)
theorem dL_law_993 : decode cL_law 993 = .ok (.iconst 4, 1) := dk_7 (dk_at dksL_law_38 14 rfl rfl)
theorem dL_law_994 : decode cL_law 994 = .ok (.iadd, 1) := dk_96 (dk_at dksL_law_38 15 rfl rfl)
theorem dL_law_995 : decode cL_law 995 = .ok (.iaload, 1) := dk_46 (dk_at dksL_law_38 16 rfl rfl)
theorem dL_law_996 : decode cL_law 996 = .ok (.invokevirtual 143, 3) := dk_182 0 143 (dk_at dksL_law_38 17 rfl rfl)
theorem dL_law_999 : decode cL_law 999 = .ok (.istore 6, 2) := dk_54 6 (dk_at dksL_law_38 20 rfl rfl)
theorem dL_law_1001 : decode cL_law 1001 = .ok (.aload_n 2, 1) := dk_44 (dk_at dksL_law_38 22 rfl rfl)
theorem dL_law_1002 : decode cL_law 1002 = .ok (.invokevirtual 107, 3) := dk_182 0 107 (dk_at dksL_law_39 0 rfl rfl)
theorem dL_law_1005 : decode cL_law 1005 = .ok (.iload 5, 2) := dk_21 5 (dk_at dksL_law_39 3 rfl rfl)
theorem dL_law_1007 : decode cL_law 1007 = .ok (.if_icmp .eq 5, 3) := dk_159 0 5 (dk_at dksL_law_39 5 rfl rfl)
theorem dL_law_1010 : decode cL_law 1010 = .ok (.iconst 0, 1) := dk_3 (dk_at dksL_law_39 8 rfl rfl)
theorem dL_law_1011 : decode cL_law 1011 = .ok (.ireturn, 1) := dk_172 (dk_at dksL_law_39 9 rfl rfl)
theorem dL_law_1012 : decode cL_law 1012 = .ok (.iload 5, 2) := dk_21 5 (dk_at dksL_law_39 10 rfl rfl)
theorem dL_law_1014 : decode cL_law 1014 = .ok (.ifCond .ne 15, 3) := dk_154 0 15 (dk_at dksL_law_39 12 rfl rfl)
theorem dL_law_1017 : decode cL_law 1017 = .ok (.aload_n 3, 1) := dk_45 (dk_at dksL_law_39 15 rfl rfl)
theorem dL_law_1018 : decode cL_law 1018 = .ok (.iconst 0, 1) := dk_3 (dk_at dksL_law_39 16 rfl rfl)
theorem dL_law_1019 : decode cL_law 1019 = .ok (.laload, 1) := dk_47 (dk_at dksL_law_39 17 rfl rfl)
theorem dL_law_1020 : decode cL_law 1020 = .ok (.iload 6, 2) := dk_21 6 (dk_at dksL_law_39 18 rfl rfl)
theorem dL_law_1022 : decode cL_law 1022 = .ok (.i2l, 1) := dk_133 (dk_at dksL_law_39 20 rfl rfl)
theorem dL_law_1023 : decode cL_law 1023 = .ok (.lcmp, 1) := dk_148 (dk_at dksL_law_39 21 rfl rfl)
theorem dL_law_1024 : decode cL_law 1024 = .ok (.ifCond .eq 5, 3) := dk_153 0 5 (dk_at dksL_law_40 0 rfl rfl)
theorem dL_law_1027 : decode cL_law 1027 = .ok (.iconst 0, 1) := dk_3 (dk_at dksL_law_40 3 rfl rfl)
theorem dL_law_1028 : decode cL_law 1028 = .ok (.ireturn, 1) := dk_172 (dk_at dksL_law_40 4 rfl rfl)
theorem dL_law_1029 : decode cL_law 1029 = .ok (.goto 1052, 3) := dk_167 4 28 (dk_at dksL_law_40 5 rfl rfl)
theorem dL_law_1032 : decode cL_law 1032 = .ok (.aload_n 1, 1) := dk_43 (dk_at dksL_law_40 8 rfl rfl)
theorem dL_law_1033 : decode cL_law 1033 = .ok (.aload_n 0, 1) := dk_42 (dk_at dksL_law_40 9 rfl rfl)
theorem dL_law_1034 : decode cL_law 1034 = .ok (.iload 4, 2) := dk_21 4 (dk_at dksL_law_40 10 rfl rfl)
theorem dL_law_1036 : decode cL_law 1036 = .ok (.iconst 1, 1) := dk_4 (dk_at dksL_law_40 12 rfl rfl)
theorem dL_law_1037 : decode cL_law 1037 = .ok (.iadd, 1) := dk_96 (dk_at dksL_law_40 13 rfl rfl)
theorem dL_law_1038 : decode cL_law 1038 = .ok (.iaload, 1) := dk_46 (dk_at dksL_law_40 14 rfl rfl)
theorem dL_law_1039 : decode cL_law 1039 = .ok (.aload_n 0, 1) := dk_42 (dk_at dksL_law_40 15 rfl rfl)
theorem dL_law_1040 : decode cL_law 1040 = .ok (.iload 4, 2) := dk_21 4 (dk_at dksL_law_40 16 rfl rfl)
theorem dL_law_1042 : decode cL_law 1042 = .ok (.iconst 2, 1) := dk_5 (dk_at dksL_law_40 18 rfl rfl)
theorem dL_law_1043 : decode cL_law 1043 = .ok (.iadd, 1) := dk_96 (dk_at dksL_law_40 19 rfl rfl)
theorem dL_law_1044 : decode cL_law 1044 = .ok (.iaload, 1) := dk_46 (dk_at dksL_law_40 20 rfl rfl)
theorem dL_law_1045 : decode cL_law 1045 = .ok (.aload_n 0, 1) := dk_42 (dk_at dksL_law_40 21 rfl rfl)
theorem dL_law_1046 : decode cL_law 1046 = .ok (.iload 4, 2) := dk_21 4 (dk_at dksL_law_40 22 rfl rfl)
theorem dL_law_1048 : decode cL_law 1048 = .ok (.iconst 3, 1) := dk_6 (dk_at dksL_law_41 0 rfl rfl)
theorem dL_law_1049 : decode cL_law 1049 = .ok (.iadd, 1) := dk_96 (dk_at dksL_law_41 1 rfl rfl)
theorem dL_law_1050 : decode cL_law 1050 = .ok (.iaload, 1) := dk_46 (dk_at dksL_law_41 2 rfl rfl)
theorem dL_law_1051 : decode cL_law 1051 = .ok (.aload_n 0, 1) := dk_42 (dk_at dksL_law_41 3 rfl rfl)
theorem dL_law_1052 : decode cL_law 1052 = .ok (.iload 4, 2) := dk_21 4 (dk_at dksL_law_41 4 rfl rfl)
theorem dL_law_1054 : decode cL_law 1054 = .ok (.iconst 4, 1) := dk_7 (dk_at dksL_law_41 6 rfl rfl)
theorem dL_law_1055 : decode cL_law 1055 = .ok (.iadd, 1) := dk_96 (dk_at dksL_law_41 7 rfl rfl)
theorem dL_law_1056 : decode cL_law 1056 = .ok (.iaload, 1) := dk_46 (dk_at dksL_law_41 8 rfl rfl)
theorem dL_law_1057 : decode cL_law 1057 = .ok (.aload_n 0, 1) := dk_42 (dk_at dksL_law_41 9 rfl rfl)
theorem dL_law_1058 : decode cL_law 1058 = .ok (.iload 4, 2) := dk_21 4 (dk_at dksL_law_41 10 rfl rfl)
theorem dL_law_1060 : decode cL_law 1060 = .ok (.iconst 5, 1) := dk_8 (dk_at dksL_law_41 12 rfl rfl)
theorem dL_law_1061 : decode cL_law 1061 = .ok (.iadd, 1) := dk_96 (dk_at dksL_law_41 13 rfl rfl)
theorem dL_law_1062 : decode cL_law 1062 = .ok (.iaload, 1) := dk_46 (dk_at dksL_law_41 14 rfl rfl)
theorem dL_law_1063 : decode cL_law 1063 = .ok (.aload_n 3, 1) := dk_45 (dk_at dksL_law_41 15 rfl rfl)
theorem dL_law_1064 : decode cL_law 1064 = .ok (.invokestatic 144, 3) := dk_184 0 144 (dk_at dksL_law_41 16 rfl rfl)
theorem dL_law_1067 : decode cL_law 1067 = .ok (.istore 5, 2) := dk_54 5 (dk_at dksL_law_41 19 rfl rfl)
theorem dL_law_1069 : decode cL_law 1069 = .ok (.aload_n 2, 1) := dk_44 (dk_at dksL_law_41 21 rfl rfl)
theorem dL_law_1070 : decode cL_law 1070 = .ok (.aload_n 0, 1) := dk_42 (dk_at dksL_law_41 22 rfl rfl)
theorem dL_law_1071 : decode cL_law 1071 = .ok (.iload 4, 2) := dk_21 4 (dk_at dksL_law_42 0 rfl rfl)
theorem dL_law_1073 : decode cL_law 1073 = .ok (.iconst 1, 1) := dk_4 (dk_at dksL_law_42 2 rfl rfl)
theorem dL_law_1074 : decode cL_law 1074 = .ok (.iadd, 1) := dk_96 (dk_at dksL_law_42 3 rfl rfl)
theorem dL_law_1075 : decode cL_law 1075 = .ok (.iaload, 1) := dk_46 (dk_at dksL_law_42 4 rfl rfl)
theorem dL_law_1076 : decode cL_law 1076 = .ok (.aload_n 0, 1) := dk_42 (dk_at dksL_law_42 5 rfl rfl)
theorem dL_law_1077 : decode cL_law 1077 = .ok (.iload 4, 2) := dk_21 4 (dk_at dksL_law_42 6 rfl rfl)
theorem dL_law_1079 : decode cL_law 1079 = .ok (.iconst 2, 1) := dk_5 (dk_at dksL_law_42 8 rfl rfl)
theorem dL_law_1080 : decode cL_law 1080 = .ok (.iadd, 1) := dk_96 (dk_at dksL_law_42 9 rfl rfl)
theorem dL_law_1081 : decode cL_law 1081 = .ok (.iaload, 1) := dk_46 (dk_at dksL_law_42 10 rfl rfl)
theorem dL_law_1082 : decode cL_law 1082 = .ok (.aload_n 0, 1) := dk_42 (dk_at dksL_law_42 11 rfl rfl)
theorem dL_law_1083 : decode cL_law 1083 = .ok (.iload 4, 2) := dk_21 4 (dk_at dksL_law_42 12 rfl rfl)
theorem dL_law_1085 : decode cL_law 1085 = .ok (.iconst 3, 1) := dk_6 (dk_at dksL_law_42 14 rfl rfl)
theorem dL_law_1086 : decode cL_law 1086 = .ok (.iadd, 1) := dk_96 (dk_at dksL_law_42 15 rfl rfl)
theorem dL_law_1087 : decode cL_law 1087 = .ok (.iaload, 1) := dk_46 (dk_at dksL_law_42 16 rfl rfl)
theorem dL_law_1088 : decode cL_law 1088 = .ok (.aload_n 0, 1) := dk_42 (dk_at dksL_law_42 17 rfl rfl)
theorem dL_law_1089 : decode cL_law 1089 = .ok (.iload 4, 2) := dk_21 4 (dk_at dksL_law_42 18 rfl rfl)
theorem dL_law_1091 : decode cL_law 1091 = .ok (.iconst 4, 1) := dk_7 (dk_at dksL_law_42 20 rfl rfl)
theorem dL_law_1092 : decode cL_law 1092 = .ok (.iadd, 1) := dk_96 (dk_at dksL_law_42 21 rfl rfl)
theorem dL_law_1093 : decode cL_law 1093 = .ok (.iaload, 1) := dk_46 (dk_at dksL_law_42 22 rfl rfl)
theorem dL_law_1094 : decode cL_law 1094 = .ok (.aload_n 0, 1) := dk_42 (dk_at dksL_law_42 23 rfl rfl)
theorem dL_law_1095 : decode cL_law 1095 = .ok (.iload 4, 2) := dk_21 4 (dk_at dksL_law_43 0 rfl rfl)
theorem dL_law_1097 : decode cL_law 1097 = .ok (.iconst 5, 1) := dk_8 (dk_at dksL_law_43 2 rfl rfl)
theorem dL_law_1098 : decode cL_law 1098 = .ok (.iadd, 1) := dk_96 (dk_at dksL_law_43 3 rfl rfl)
theorem dL_law_1099 : decode cL_law 1099 = .ok (.iaload, 1) := dk_46 (dk_at dksL_law_43 4 rfl rfl)
theorem dL_law_1100 : decode cL_law 1100 = .ok (.invokevirtual 146, 3) := dk_182 0 146 (dk_at dksL_law_43 5 rfl rfl)
theorem dL_law_1103 : decode cL_law 1103 = .ok (.istore 6, 2) := dk_54 6 (dk_at dksL_law_43 8 rfl rfl)
theorem dL_law_1105 : decode cL_law 1105 = .ok (.aload_n 2, 1) := dk_44 (dk_at dksL_law_43 10 rfl rfl)
theorem dL_law_1106 : decode cL_law 1106 = .ok (.invokevirtual 107, 3) := dk_182 0 107 (dk_at dksL_law_43 11 rfl rfl)
theorem dL_law_1109 : decode cL_law 1109 = .ok (.iload 5, 2) := dk_21 5 (dk_at dksL_law_43 14 rfl rfl)
theorem dL_law_1111 : decode cL_law 1111 = .ok (.if_icmp .eq 5, 3) := dk_159 0 5 (dk_at dksL_law_43 16 rfl rfl)
theorem dL_law_1114 : decode cL_law 1114 = .ok (.iconst 0, 1) := dk_3 (dk_at dksL_law_43 19 rfl rfl)
theorem dL_law_1115 : decode cL_law 1115 = .ok (.ireturn, 1) := dk_172 (dk_at dksL_law_43 20 rfl rfl)
theorem dL_law_1116 : decode cL_law 1116 = .ok (.iload 5, 2) := dk_21 5 (dk_at dksL_law_43 21 rfl rfl)
theorem dL_law_1118 : decode cL_law 1118 = .ok (.ifCond .ne 15, 3) := dk_154 0 15 (dk_at dksL_law_44 0 rfl rfl)
theorem dL_law_1121 : decode cL_law 1121 = .ok (.aload_n 3, 1) := dk_45 (dk_at dksL_law_44 3 rfl rfl)
theorem dL_law_1122 : decode cL_law 1122 = .ok (.iconst 0, 1) := dk_3 (dk_at dksL_law_44 4 rfl rfl)
theorem dL_law_1123 : decode cL_law 1123 = .ok (.laload, 1) := dk_47 (dk_at dksL_law_44 5 rfl rfl)
theorem dL_law_1124 : decode cL_law 1124 = .ok (.iload 6, 2) := dk_21 6 (dk_at dksL_law_44 6 rfl rfl)
theorem dL_law_1126 : decode cL_law 1126 = .ok (.i2l, 1) := dk_133 (dk_at dksL_law_44 8 rfl rfl)
theorem dL_law_1127 : decode cL_law 1127 = .ok (.lcmp, 1) := dk_148 (dk_at dksL_law_44 9 rfl rfl)
theorem dL_law_1128 : decode cL_law 1128 = .ok (.ifCond .eq 5, 3) := dk_153 0 5 (dk_at dksL_law_44 10 rfl rfl)
theorem dL_law_1131 : decode cL_law 1131 = .ok (.iconst 0, 1) := dk_3 (dk_at dksL_law_44 13 rfl rfl)
theorem dL_law_1132 : decode cL_law 1132 = .ok (.ireturn, 1) := dk_172 (dk_at dksL_law_44 14 rfl rfl)
theorem dL_law_1133 : decode cL_law 1133 = .ok (.goto 948, 3) := dk_167 3 180 (dk_at dksL_law_44 15 rfl rfl)
theorem dL_law_1136 : decode cL_law 1136 = .ok (.aload_n 1, 1) := dk_43 (dk_at dksL_law_44 18 rfl rfl)
theorem dL_law_1137 : decode cL_law 1137 = .ok (.aload_n 0, 1) := dk_42 (dk_at dksL_law_44 19 rfl rfl)
theorem dL_law_1138 : decode cL_law 1138 = .ok (.iload 4, 2) := dk_21 4 (dk_at dksL_law_44 20 rfl rfl)
theorem dL_law_1140 : decode cL_law 1140 = .ok (.iconst 1, 1) := dk_4 (dk_at dksL_law_44 22 rfl rfl)
theorem dL_law_1141 : decode cL_law 1141 = .ok (.iadd, 1) := dk_96 (dk_at dksL_law_44 23 rfl rfl)
theorem dL_law_1142 : decode cL_law 1142 = .ok (.iaload, 1) := dk_46 (dk_at dksL_law_45 0 rfl rfl)
theorem dL_law_1143 : decode cL_law 1143 = .ok (.aload_n 0, 1) := dk_42 (dk_at dksL_law_45 1 rfl rfl)
theorem dL_law_1144 : decode cL_law 1144 = .ok (.iload 4, 2) := dk_21 4 (dk_at dksL_law_45 2 rfl rfl)
theorem dL_law_1146 : decode cL_law 1146 = .ok (.iconst 2, 1) := dk_5 (dk_at dksL_law_45 4 rfl rfl)
theorem dL_law_1147 : decode cL_law 1147 = .ok (.iadd, 1) := dk_96 (dk_at dksL_law_45 5 rfl rfl)
theorem dL_law_1148 : decode cL_law 1148 = .ok (.iaload, 1) := dk_46 (dk_at dksL_law_45 6 rfl rfl)
theorem dL_law_1149 : decode cL_law 1149 = .ok (.aload_n 0, 1) := dk_42 (dk_at dksL_law_45 7 rfl rfl)
theorem dL_law_1150 : decode cL_law 1150 = .ok (.iload 4, 2) := dk_21 4 (dk_at dksL_law_45 8 rfl rfl)
theorem dL_law_1152 : decode cL_law 1152 = .ok (.iconst 3, 1) := dk_6 (dk_at dksL_law_45 10 rfl rfl)
theorem dL_law_1153 : decode cL_law 1153 = .ok (.iadd, 1) := dk_96 (dk_at dksL_law_45 11 rfl rfl)
theorem dL_law_1154 : decode cL_law 1154 = .ok (.iaload, 1) := dk_46 (dk_at dksL_law_45 12 rfl rfl)
theorem dL_law_1155 : decode cL_law 1155 = .ok (.aload_n 0, 1) := dk_42 (dk_at dksL_law_45 13 rfl rfl)
theorem dL_law_1156 : decode cL_law 1156 = .ok (.iload 4, 2) := dk_21 4 (dk_at dksL_law_45 14 rfl rfl)
theorem dL_law_1158 : decode cL_law 1158 = .ok (.iconst 4, 1) := dk_7 (dk_at dksL_law_45 16 rfl rfl)
theorem dL_law_1159 : decode cL_law 1159 = .ok (.iadd, 1) := dk_96 (dk_at dksL_law_45 17 rfl rfl)
theorem dL_law_1160 : decode cL_law 1160 = .ok (.iaload, 1) := dk_46 (dk_at dksL_law_45 18 rfl rfl)
theorem dL_law_1161 : decode cL_law 1161 = .ok (.aload_n 3, 1) := dk_45 (dk_at dksL_law_45 19 rfl rfl)
theorem dL_law_1162 : decode cL_law 1162 = .ok (.invokestatic 147, 3) := dk_184 0 147 (dk_at dksL_law_45 20 rfl rfl)
theorem dL_law_1165 : decode cL_law 1165 = .ok (.istore 5, 2) := dk_54 5 (dk_at dksL_law_46 0 rfl rfl)
theorem dL_law_1167 : decode cL_law 1167 = .ok (.aload_n 2, 1) := dk_44 (dk_at dksL_law_46 2 rfl rfl)
theorem dL_law_1168 : decode cL_law 1168 = .ok (.aload_n 0, 1) := dk_42 (dk_at dksL_law_46 3 rfl rfl)
theorem dL_law_1169 : decode cL_law 1169 = .ok (.iload 4, 2) := dk_21 4 (dk_at dksL_law_46 4 rfl rfl)
theorem dL_law_1171 : decode cL_law 1171 = .ok (.iconst 1, 1) := dk_4 (dk_at dksL_law_46 6 rfl rfl)
theorem dL_law_1172 : decode cL_law 1172 = .ok (.iadd, 1) := dk_96 (dk_at dksL_law_46 7 rfl rfl)
theorem dL_law_1173 : decode cL_law 1173 = .ok (.iaload, 1) := dk_46 (dk_at dksL_law_46 8 rfl rfl)
theorem dL_law_1174 : decode cL_law 1174 = .ok (.aload_n 0, 1) := dk_42 (dk_at dksL_law_46 9 rfl rfl)
theorem dL_law_1175 : decode cL_law 1175 = .ok (.iload 4, 2) := dk_21 4 (dk_at dksL_law_46 10 rfl rfl)
theorem dL_law_1177 : decode cL_law 1177 = .ok (.iconst 2, 1) := dk_5 (dk_at dksL_law_46 12 rfl rfl)
theorem dL_law_1178 : decode cL_law 1178 = .ok (.iadd, 1) := dk_96 (dk_at dksL_law_46 13 rfl rfl)
theorem dL_law_1179 : decode cL_law 1179 = .ok (.iaload, 1) := dk_46 (dk_at dksL_law_46 14 rfl rfl)
theorem dL_law_1180 : decode cL_law 1180 = .ok (.aload_n 0, 1) := dk_42 (dk_at dksL_law_46 15 rfl rfl)
theorem dL_law_1181 : decode cL_law 1181 = .ok (.iload 4, 2) := dk_21 4 (dk_at dksL_law_46 16 rfl rfl)
theorem dL_law_1183 : decode cL_law 1183 = .ok (.iconst 3, 1) := dk_6 (dk_at dksL_law_46 18 rfl rfl)
theorem dL_law_1184 : decode cL_law 1184 = .ok (.iadd, 1) := dk_96 (dk_at dksL_law_46 19 rfl rfl)
theorem dL_law_1185 : decode cL_law 1185 = .ok (.iaload, 1) := dk_46 (dk_at dksL_law_46 20 rfl rfl)
theorem dL_law_1186 : decode cL_law 1186 = .ok (.aload_n 0, 1) := dk_42 (dk_at dksL_law_46 21 rfl rfl)
theorem dL_law_1187 : decode cL_law 1187 = .ok (.iload 4, 2) := dk_21 4 (dk_at dksL_law_46 22 rfl rfl)
theorem dL_law_1189 : decode cL_law 1189 = .ok (.iconst 4, 1) := dk_7 (dk_at dksL_law_47 0 rfl rfl)
theorem dL_law_1190 : decode cL_law 1190 = .ok (.iadd, 1) := dk_96 (dk_at dksL_law_47 1 rfl rfl)
theorem dL_law_1191 : decode cL_law 1191 = .ok (.iaload, 1) := dk_46 (dk_at dksL_law_47 2 rfl rfl)
theorem dL_law_1192 : decode cL_law 1192 = .ok (.invokevirtual 149, 3) := dk_182 0 149 (dk_at dksL_law_47 3 rfl rfl)
theorem dL_law_1195 : decode cL_law 1195 = .ok (.istore 6, 2) := dk_54 6 (dk_at dksL_law_47 6 rfl rfl)
theorem dL_law_1197 : decode cL_law 1197 = .ok (.aload_n 2, 1) := dk_44 (dk_at dksL_law_47 8 rfl rfl)
theorem dL_law_1198 : decode cL_law 1198 = .ok (.invokevirtual 107, 3) := dk_182 0 107 (dk_at dksL_law_47 9 rfl rfl)
theorem dL_law_1201 : decode cL_law 1201 = .ok (.iload 5, 2) := dk_21 5 (dk_at dksL_law_47 12 rfl rfl)
theorem dL_law_1203 : decode cL_law 1203 = .ok (.if_icmp .eq 5, 3) := dk_159 0 5 (dk_at dksL_law_47 14 rfl rfl)
theorem dL_law_1206 : decode cL_law 1206 = .ok (.iconst 0, 1) := dk_3 (dk_at dksL_law_47 17 rfl rfl)
theorem dL_law_1207 : decode cL_law 1207 = .ok (.ireturn, 1) := dk_172 (dk_at dksL_law_47 18 rfl rfl)
theorem dL_law_1208 : decode cL_law 1208 = .ok (.iload 5, 2) := dk_21 5 (dk_at dksL_law_47 19 rfl rfl)
theorem dL_law_1210 : decode cL_law 1210 = .ok (.ifCond .ne 15, 3) := dk_154 0 15 (dk_at dksL_law_47 21 rfl rfl)
theorem dL_law_1213 : decode cL_law 1213 = .ok (.aload_n 3, 1) := dk_45 (dk_at dksL_law_48 0 rfl rfl)
theorem dL_law_1214 : decode cL_law 1214 = .ok (.iconst 0, 1) := dk_3 (dk_at dksL_law_48 1 rfl rfl)
theorem dL_law_1215 : decode cL_law 1215 = .ok (.laload, 1) := dk_47 (dk_at dksL_law_48 2 rfl rfl)
theorem dL_law_1216 : decode cL_law 1216 = .ok (.iload 6, 2) := dk_21 6 (dk_at dksL_law_48 3 rfl rfl)
theorem dL_law_1218 : decode cL_law 1218 = .ok (.i2l, 1) := dk_133 (dk_at dksL_law_48 5 rfl rfl)
theorem dL_law_1219 : decode cL_law 1219 = .ok (.lcmp, 1) := dk_148 (dk_at dksL_law_48 6 rfl rfl)
theorem dL_law_1220 : decode cL_law 1220 = .ok (.ifCond .eq 5, 3) := dk_153 0 5 (dk_at dksL_law_48 7 rfl rfl)
theorem dL_law_1223 : decode cL_law 1223 = .ok (.iconst 0, 1) := dk_3 (dk_at dksL_law_48 10 rfl rfl)
theorem dL_law_1224 : decode cL_law 1224 = .ok (.ireturn, 1) := dk_172 (dk_at dksL_law_48 11 rfl rfl)
theorem dL_law_1225 : decode cL_law 1225 = .ok (.goto 856, 3) := dk_167 3 88 (dk_at dksL_law_48 12 rfl rfl)
theorem dL_law_1228 : decode cL_law 1228 = .ok (.aload_n 1, 1) := dk_43 (dk_at dksL_law_48 15 rfl rfl)
theorem dL_law_1229 : decode cL_law 1229 = .ok (.aload_n 0, 1) := dk_42 (dk_at dksL_law_48 16 rfl rfl)
theorem dL_law_1230 : decode cL_law 1230 = .ok (.iload 4, 2) := dk_21 4 (dk_at dksL_law_48 17 rfl rfl)
theorem dL_law_1232 : decode cL_law 1232 = .ok (.iconst 1, 1) := dk_4 (dk_at dksL_law_48 19 rfl rfl)
theorem dL_law_1233 : decode cL_law 1233 = .ok (.iadd, 1) := dk_96 (dk_at dksL_law_48 20 rfl rfl)
theorem dL_law_1234 : decode cL_law 1234 = .ok (.iaload, 1) := dk_46 (dk_at dksL_law_48 21 rfl rfl)
theorem dL_law_1235 : decode cL_law 1235 = .ok (.aload_n 0, 1) := dk_42 (dk_at dksL_law_48 22 rfl rfl)
theorem dL_law_1236 : decode cL_law 1236 = .ok (.iload 4, 2) := dk_21 4 (dk_at dksL_law_49 0 rfl rfl)
theorem dL_law_1238 : decode cL_law 1238 = .ok (.iconst 2, 1) := dk_5 (dk_at dksL_law_49 2 rfl rfl)
theorem dL_law_1239 : decode cL_law 1239 = .ok (.iadd, 1) := dk_96 (dk_at dksL_law_49 3 rfl rfl)
theorem dL_law_1240 : decode cL_law 1240 = .ok (.iaload, 1) := dk_46 (dk_at dksL_law_49 4 rfl rfl)
theorem dL_law_1241 : decode cL_law 1241 = .ok (.aload_n 0, 1) := dk_42 (dk_at dksL_law_49 5 rfl rfl)
theorem dL_law_1242 : decode cL_law 1242 = .ok (.iload 4, 2) := dk_21 4 (dk_at dksL_law_49 6 rfl rfl)
theorem dL_law_1244 : decode cL_law 1244 = .ok (.iconst 3, 1) := dk_6 (dk_at dksL_law_49 8 rfl rfl)
theorem dL_law_1245 : decode cL_law 1245 = .ok (.iadd, 1) := dk_96 (dk_at dksL_law_49 9 rfl rfl)
theorem dL_law_1246 : decode cL_law 1246 = .ok (.iaload, 1) := dk_46 (dk_at dksL_law_49 10 rfl rfl)
theorem dL_law_1247 : decode cL_law 1247 = .ok (.aload_n 0, 1) := dk_42 (dk_at dksL_law_49 11 rfl rfl)
theorem dL_law_1248 : decode cL_law 1248 = .ok (.iload 4, 2) := dk_21 4 (dk_at dksL_law_49 12 rfl rfl)
theorem dL_law_1250 : decode cL_law 1250 = .ok (.iconst 4, 1) := dk_7 (dk_at dksL_law_49 14 rfl rfl)
theorem dL_law_1251 : decode cL_law 1251 = .ok (.iadd, 1) := dk_96 (dk_at dksL_law_49 15 rfl rfl)
theorem dL_law_1252 : decode cL_law 1252 = .ok (.iaload, 1) := dk_46 (dk_at dksL_law_49 16 rfl rfl)
theorem dL_law_1253 : decode cL_law 1253 = .ok (.aload_n 3, 1) := dk_45 (dk_at dksL_law_49 17 rfl rfl)
theorem dL_law_1254 : decode cL_law 1254 = .ok (.invokestatic 150, 3) := dk_184 0 150 (dk_at dksL_law_49 18 rfl rfl)
theorem dL_law_1257 : decode cL_law 1257 = .ok (.istore 5, 2) := dk_54 5 (dk_at dksL_law_49 21 rfl rfl)
theorem dL_law_1259 : decode cL_law 1259 = .ok (.aload_n 2, 1) := dk_44 (dk_at dksL_law_49 23 rfl rfl)
theorem dL_law_1260 : decode cL_law 1260 = .ok (.aload_n 0, 1) := dk_42 (dk_at dksL_law_50 0 rfl rfl)
theorem dL_law_1261 : decode cL_law 1261 = .ok (.iload 4, 2) := dk_21 4 (dk_at dksL_law_50 1 rfl rfl)
theorem dL_law_1263 : decode cL_law 1263 = .ok (.iconst 1, 1) := dk_4 (dk_at dksL_law_50 3 rfl rfl)
theorem dL_law_1264 : decode cL_law 1264 = .ok (.iadd, 1) := dk_96 (dk_at dksL_law_50 4 rfl rfl)
theorem dL_law_1265 : decode cL_law 1265 = .ok (.iaload, 1) := dk_46 (dk_at dksL_law_50 5 rfl rfl)
theorem dL_law_1266 : decode cL_law 1266 = .ok (.aload_n 0, 1) := dk_42 (dk_at dksL_law_50 6 rfl rfl)
theorem dL_law_1267 : decode cL_law 1267 = .ok (.iload 4, 2) := dk_21 4 (dk_at dksL_law_50 7 rfl rfl)
theorem dL_law_1269 : decode cL_law 1269 = .ok (.iconst 2, 1) := dk_5 (dk_at dksL_law_50 9 rfl rfl)
theorem dL_law_1270 : decode cL_law 1270 = .ok (.iadd, 1) := dk_96 (dk_at dksL_law_50 10 rfl rfl)
theorem dL_law_1271 : decode cL_law 1271 = .ok (.iaload, 1) := dk_46 (dk_at dksL_law_50 11 rfl rfl)
theorem dL_law_1272 : decode cL_law 1272 = .ok (.aload_n 0, 1) := dk_42 (dk_at dksL_law_50 12 rfl rfl)
theorem dL_law_1273 : decode cL_law 1273 = .ok (.iload 4, 2) := dk_21 4 (dk_at dksL_law_50 13 rfl rfl)
theorem dL_law_1275 : decode cL_law 1275 = .ok (.iconst 3, 1) := dk_6 (dk_at dksL_law_50 15 rfl rfl)
theorem dL_law_1276 : decode cL_law 1276 = .ok (.iadd, 1) := dk_96 (dk_at dksL_law_50 16 rfl rfl)
theorem dL_law_1277 : decode cL_law 1277 = .ok (.iaload, 1) := dk_46 (dk_at dksL_law_50 17 rfl rfl)
theorem dL_law_1278 : decode cL_law 1278 = .ok (.aload_n 0, 1) := dk_42 (dk_at dksL_law_50 18 rfl rfl)
theorem dL_law_1279 : decode cL_law 1279 = .ok (.iload 4, 2) := dk_21 4 (dk_at dksL_law_50 19 rfl rfl)
theorem dL_law_1281 : decode cL_law 1281 = .ok (.iconst 4, 1) := dk_7 (dk_at dksL_law_50 21 rfl rfl)
theorem dL_law_1282 : decode cL_law 1282 = .ok (.iadd, 1) := dk_96 (dk_at dksL_law_50 22 rfl rfl)
theorem dL_law_1283 : decode cL_law 1283 = .ok (.iaload, 1) := dk_46 (dk_at dksL_law_50 23 rfl rfl)
theorem dL_law_1284 : decode cL_law 1284 = .ok (.invokevirtual 152, 3) := dk_182 0 152 (dk_at dksL_law_51 0 rfl rfl)
theorem dL_law_1287 : decode cL_law 1287 = .ok (.istore 6, 2) := dk_54 6 (dk_at dksL_law_51 3 rfl rfl)
theorem dL_law_1289 : decode cL_law 1289 = .ok (.aload_n 2, 1) := dk_44 (dk_at dksL_law_51 5 rfl rfl)
theorem dL_law_1290 : decode cL_law 1290 = .ok (.invokevirtual 107, 3) := dk_182 0 107 (dk_at dksL_law_51 6 rfl rfl)
theorem dL_law_1293 : decode cL_law 1293 = .ok (.iload 5, 2) := dk_21 5 (dk_at dksL_law_51 9 rfl rfl)
theorem dL_law_1295 : decode cL_law 1295 = .ok (.if_icmp .eq 5, 3) := dk_159 0 5 (dk_at dksL_law_51 11 rfl rfl)
theorem dL_law_1298 : decode cL_law 1298 = .ok (.iconst 0, 1) := dk_3 (dk_at dksL_law_51 14 rfl rfl)
theorem dL_law_1299 : decode cL_law 1299 = .ok (.ireturn, 1) := dk_172 (dk_at dksL_law_51 15 rfl rfl)
theorem dL_law_1300 : decode cL_law 1300 = .ok (.iload 5, 2) := dk_21 5 (dk_at dksL_law_51 16 rfl rfl)
theorem dL_law_1302 : decode cL_law 1302 = .ok (.ifCond .ne 15, 3) := dk_154 0 15 (dk_at dksL_law_51 18 rfl rfl)
theorem dL_law_1305 : decode cL_law 1305 = .ok (.aload_n 3, 1) := dk_45 (dk_at dksL_law_51 21 rfl rfl)
theorem dL_law_1306 : decode cL_law 1306 = .ok (.iconst 0, 1) := dk_3 (dk_at dksL_law_51 22 rfl rfl)
theorem dL_law_1307 : decode cL_law 1307 = .ok (.laload, 1) := dk_47 (dk_at dksL_law_51 23 rfl rfl)
theorem dL_law_1308 : decode cL_law 1308 = .ok (.iload 6, 2) := dk_21 6 (dk_at dksL_law_52 0 rfl rfl)
theorem dL_law_1310 : decode cL_law 1310 = .ok (.i2l, 1) := dk_133 (dk_at dksL_law_52 2 rfl rfl)
theorem dL_law_1311 : decode cL_law 1311 = .ok (.lcmp, 1) := dk_148 (dk_at dksL_law_52 3 rfl rfl)
theorem dL_law_1312 : decode cL_law 1312 = .ok (.ifCond .eq 5, 3) := dk_153 0 5 (dk_at dksL_law_52 4 rfl rfl)
theorem dL_law_1315 : decode cL_law 1315 = .ok (.iconst 0, 1) := dk_3 (dk_at dksL_law_52 7 rfl rfl)
theorem dL_law_1316 : decode cL_law 1316 = .ok (.ireturn, 1) := dk_172 (dk_at dksL_law_52 8 rfl rfl)
theorem dL_law_1317 : decode cL_law 1317 = .ok (.goto 764, 3) := dk_167 2 252 (dk_at dksL_law_52 9 rfl rfl)
theorem dL_law_1320 : decode cL_law 1320 = .ok (.aload_n 1, 1) := dk_43 (dk_at dksL_law_52 12 rfl rfl)
theorem dL_law_1321 : decode cL_law 1321 = .ok (.aload_n 0, 1) := dk_42 (dk_at dksL_law_52 13 rfl rfl)
theorem dL_law_1322 : decode cL_law 1322 = .ok (.iload 4, 2) := dk_21 4 (dk_at dksL_law_52 14 rfl rfl)
theorem dL_law_1324 : decode cL_law 1324 = .ok (.iconst 1, 1) := dk_4 (dk_at dksL_law_52 16 rfl rfl)
theorem dL_law_1325 : decode cL_law 1325 = .ok (.iadd, 1) := dk_96 (dk_at dksL_law_52 17 rfl rfl)
theorem dL_law_1326 : decode cL_law 1326 = .ok (.iaload, 1) := dk_46 (dk_at dksL_law_52 18 rfl rfl)
theorem dL_law_1327 : decode cL_law 1327 = .ok (.aload_n 0, 1) := dk_42 (dk_at dksL_law_52 19 rfl rfl)
theorem dL_law_1328 : decode cL_law 1328 = .ok (.iload 4, 2) := dk_21 4 (dk_at dksL_law_52 20 rfl rfl)
theorem dL_law_1330 : decode cL_law 1330 = .ok (.iconst 2, 1) := dk_5 (dk_at dksL_law_52 22 rfl rfl)
theorem dL_law_1331 : decode cL_law 1331 = .ok (.iadd, 1) := dk_96 (dk_at dksL_law_52 23 rfl rfl)
theorem dL_law_1332 : decode cL_law 1332 = .ok (.iaload, 1) := dk_46 (dk_at dksL_law_53 0 rfl rfl)
theorem dL_law_1333 : decode cL_law 1333 = .ok (.aload_n 0, 1) := dk_42 (dk_at dksL_law_53 1 rfl rfl)
theorem dL_law_1334 : decode cL_law 1334 = .ok (.iload 4, 2) := dk_21 4 (dk_at dksL_law_53 2 rfl rfl)
theorem dL_law_1336 : decode cL_law 1336 = .ok (.iconst 3, 1) := dk_6 (dk_at dksL_law_53 4 rfl rfl)
theorem dL_law_1337 : decode cL_law 1337 = .ok (.iadd, 1) := dk_96 (dk_at dksL_law_53 5 rfl rfl)
theorem dL_law_1338 : decode cL_law 1338 = .ok (.iaload, 1) := dk_46 (dk_at dksL_law_53 6 rfl rfl)
theorem dL_law_1339 : decode cL_law 1339 = .ok (.aload_n 0, 1) := dk_42 (dk_at dksL_law_53 7 rfl rfl)
theorem dL_law_1340 : decode cL_law 1340 = .ok (.iload 4, 2) := dk_21 4 (dk_at dksL_law_53 8 rfl rfl)
theorem dL_law_1342 : decode cL_law 1342 = .ok (.iconst 4, 1) := dk_7 (dk_at dksL_law_53 10 rfl rfl)
theorem dL_law_1343 : decode cL_law 1343 = .ok (.iadd, 1) := dk_96 (dk_at dksL_law_53 11 rfl rfl)
theorem dL_law_1344 : decode cL_law 1344 = .ok (.iaload, 1) := dk_46 (dk_at dksL_law_53 12 rfl rfl)
theorem dL_law_1345 : decode cL_law 1345 = .ok (.aload_n 3, 1) := dk_45 (dk_at dksL_law_53 13 rfl rfl)
theorem dL_law_1346 : decode cL_law 1346 = .ok (.invokestatic 153, 3) := dk_184 0 153 (dk_at dksL_law_53 14 rfl rfl)
theorem dL_law_1349 : decode cL_law 1349 = .ok (.istore 5, 2) := dk_54 5 (dk_at dksL_law_53 17 rfl rfl)
theorem dL_law_1351 : decode cL_law 1351 = .ok (.aload_n 2, 1) := dk_44 (dk_at dksL_law_53 19 rfl rfl)
theorem dL_law_1352 : decode cL_law 1352 = .ok (.aload_n 0, 1) := dk_42 (dk_at dksL_law_53 20 rfl rfl)
theorem dL_law_1353 : decode cL_law 1353 = .ok (.iload 4, 2) := dk_21 4 (dk_at dksL_law_53 21 rfl rfl)
theorem dL_law_1355 : decode cL_law 1355 = .ok (.iconst 1, 1) := dk_4 (dk_at dksL_law_53 23 rfl rfl)
theorem dL_law_1356 : decode cL_law 1356 = .ok (.iadd, 1) := dk_96 (dk_at dksL_law_54 0 rfl rfl)
theorem dL_law_1357 : decode cL_law 1357 = .ok (.iaload, 1) := dk_46 (dk_at dksL_law_54 1 rfl rfl)
theorem dL_law_1358 : decode cL_law 1358 = .ok (.aload_n 0, 1) := dk_42 (dk_at dksL_law_54 2 rfl rfl)
theorem dL_law_1359 : decode cL_law 1359 = .ok (.iload 4, 2) := dk_21 4 (dk_at dksL_law_54 3 rfl rfl)
theorem dL_law_1361 : decode cL_law 1361 = .ok (.iconst 2, 1) := dk_5 (dk_at dksL_law_54 5 rfl rfl)
theorem dL_law_1362 : decode cL_law 1362 = .ok (.iadd, 1) := dk_96 (dk_at dksL_law_54 6 rfl rfl)
theorem dL_law_1363 : decode cL_law 1363 = .ok (.iaload, 1) := dk_46 (dk_at dksL_law_54 7 rfl rfl)
theorem dL_law_1364 : decode cL_law 1364 = .ok (.aload_n 0, 1) := dk_42 (dk_at dksL_law_54 8 rfl rfl)
theorem dL_law_1365 : decode cL_law 1365 = .ok (.iload 4, 2) := dk_21 4 (dk_at dksL_law_54 9 rfl rfl)
theorem dL_law_1367 : decode cL_law 1367 = .ok (.iconst 3, 1) := dk_6 (dk_at dksL_law_54 11 rfl rfl)
theorem dL_law_1368 : decode cL_law 1368 = .ok (.iadd, 1) := dk_96 (dk_at dksL_law_54 12 rfl rfl)
theorem dL_law_1369 : decode cL_law 1369 = .ok (.iaload, 1) := dk_46 (dk_at dksL_law_54 13 rfl rfl)
theorem dL_law_1370 : decode cL_law 1370 = .ok (.aload_n 0, 1) := dk_42 (dk_at dksL_law_54 14 rfl rfl)
theorem dL_law_1371 : decode cL_law 1371 = .ok (.iload 4, 2) := dk_21 4 (dk_at dksL_law_54 15 rfl rfl)
theorem dL_law_1373 : decode cL_law 1373 = .ok (.iconst 4, 1) := dk_7 (dk_at dksL_law_54 17 rfl rfl)
theorem dL_law_1374 : decode cL_law 1374 = .ok (.iadd, 1) := dk_96 (dk_at dksL_law_54 18 rfl rfl)
theorem dL_law_1375 : decode cL_law 1375 = .ok (.iaload, 1) := dk_46 (dk_at dksL_law_54 19 rfl rfl)
theorem dL_law_1376 : decode cL_law 1376 = .ok (.invokevirtual 155, 3) := dk_182 0 155 (dk_at dksL_law_54 20 rfl rfl)
theorem dL_law_1379 : decode cL_law 1379 = .ok (.istore 6, 2) := dk_54 6 (dk_at dksL_law_55 0 rfl rfl)
theorem dL_law_1381 : decode cL_law 1381 = .ok (.aload_n 2, 1) := dk_44 (dk_at dksL_law_55 2 rfl rfl)
theorem dL_law_1382 : decode cL_law 1382 = .ok (.invokevirtual 107, 3) := dk_182 0 107 (dk_at dksL_law_55 3 rfl rfl)
theorem dL_law_1385 : decode cL_law 1385 = .ok (.iload 5, 2) := dk_21 5 (dk_at dksL_law_55 6 rfl rfl)
theorem dL_law_1387 : decode cL_law 1387 = .ok (.if_icmp .eq 5, 3) := dk_159 0 5 (dk_at dksL_law_55 8 rfl rfl)
theorem dL_law_1390 : decode cL_law 1390 = .ok (.iconst 0, 1) := dk_3 (dk_at dksL_law_55 11 rfl rfl)
theorem dL_law_1391 : decode cL_law 1391 = .ok (.ireturn, 1) := dk_172 (dk_at dksL_law_55 12 rfl rfl)
theorem dL_law_1392 : decode cL_law 1392 = .ok (.iload 5, 2) := dk_21 5 (dk_at dksL_law_55 13 rfl rfl)
theorem dL_law_1394 : decode cL_law 1394 = .ok (.ifCond .ne 15, 3) := dk_154 0 15 (dk_at dksL_law_55 15 rfl rfl)
theorem dL_law_1397 : decode cL_law 1397 = .ok (.aload_n 3, 1) := dk_45 (dk_at dksL_law_55 18 rfl rfl)
theorem dL_law_1398 : decode cL_law 1398 = .ok (.iconst 0, 1) := dk_3 (dk_at dksL_law_55 19 rfl rfl)
theorem dL_law_1399 : decode cL_law 1399 = .ok (.laload, 1) := dk_47 (dk_at dksL_law_55 20 rfl rfl)
theorem dL_law_1400 : decode cL_law 1400 = .ok (.iload 6, 2) := dk_21 6 (dk_at dksL_law_55 21 rfl rfl)
theorem dL_law_1402 : decode cL_law 1402 = .ok (.i2l, 1) := dk_133 (dk_at dksL_law_55 23 rfl rfl)
theorem dL_law_1403 : decode cL_law 1403 = .ok (.lcmp, 1) := dk_148 (dk_at dksL_law_56 0 rfl rfl)
theorem dL_law_1404 : decode cL_law 1404 = .ok (.ifCond .eq 5, 3) := dk_153 0 5 (dk_at dksL_law_56 1 rfl rfl)
theorem dL_law_1407 : decode cL_law 1407 = .ok (.iconst 0, 1) := dk_3 (dk_at dksL_law_56 4 rfl rfl)
theorem dL_law_1408 : decode cL_law 1408 = .ok (.ireturn, 1) := dk_172 (dk_at dksL_law_56 5 rfl rfl)
theorem dL_law_1409 : decode cL_law 1409 = .ok (.goto 672, 3) := dk_167 2 160 (dk_at dksL_law_56 6 rfl rfl)
theorem dL_law_1412 : decode cL_law 1412 = .ok (.aload_n 1, 1) := dk_43 (dk_at dksL_law_56 9 rfl rfl)
theorem dL_law_1413 : decode cL_law 1413 = .ok (.aload_n 0, 1) := dk_42 (dk_at dksL_law_56 10 rfl rfl)
theorem dL_law_1414 : decode cL_law 1414 = .ok (.iload 4, 2) := dk_21 4 (dk_at dksL_law_56 11 rfl rfl)
theorem dL_law_1416 : decode cL_law 1416 = .ok (.iconst 1, 1) := dk_4 (dk_at dksL_law_56 13 rfl rfl)
theorem dL_law_1417 : decode cL_law 1417 = .ok (.iadd, 1) := dk_96 (dk_at dksL_law_56 14 rfl rfl)
theorem dL_law_1418 : decode cL_law 1418 = .ok (.iaload, 1) := dk_46 (dk_at dksL_law_56 15 rfl rfl)
theorem dL_law_1419 : decode cL_law 1419 = .ok (.aload_n 0, 1) := dk_42 (dk_at dksL_law_56 16 rfl rfl)
theorem dL_law_1420 : decode cL_law 1420 = .ok (.iload 4, 2) := dk_21 4 (dk_at dksL_law_56 17 rfl rfl)
theorem dL_law_1422 : decode cL_law 1422 = .ok (.iconst 2, 1) := dk_5 (dk_at dksL_law_56 19 rfl rfl)
theorem dL_law_1423 : decode cL_law 1423 = .ok (.iadd, 1) := dk_96 (dk_at dksL_law_56 20 rfl rfl)
theorem dL_law_1424 : decode cL_law 1424 = .ok (.iaload, 1) := dk_46 (dk_at dksL_law_56 21 rfl rfl)
theorem dL_law_1425 : decode cL_law 1425 = .ok (.aload_n 3, 1) := dk_45 (dk_at dksL_law_56 22 rfl rfl)
theorem dL_law_1426 : decode cL_law 1426 = .ok (.invokestatic 156, 3) := dk_184 0 156 (dk_at dksL_law_57 0 rfl rfl)
theorem dL_law_1429 : decode cL_law 1429 = .ok (.istore 5, 2) := dk_54 5 (dk_at dksL_law_57 3 rfl rfl)
theorem dL_law_1431 : decode cL_law 1431 = .ok (.aload_n 2, 1) := dk_44 (dk_at dksL_law_57 5 rfl rfl)
theorem dL_law_1432 : decode cL_law 1432 = .ok (.aload_n 0, 1) := dk_42 (dk_at dksL_law_57 6 rfl rfl)
theorem dL_law_1433 : decode cL_law 1433 = .ok (.iload 4, 2) := dk_21 4 (dk_at dksL_law_57 7 rfl rfl)
theorem dL_law_1435 : decode cL_law 1435 = .ok (.iconst 1, 1) := dk_4 (dk_at dksL_law_57 9 rfl rfl)
theorem dL_law_1436 : decode cL_law 1436 = .ok (.iadd, 1) := dk_96 (dk_at dksL_law_57 10 rfl rfl)
theorem dL_law_1437 : decode cL_law 1437 = .ok (.iaload, 1) := dk_46 (dk_at dksL_law_57 11 rfl rfl)
theorem dL_law_1438 : decode cL_law 1438 = .ok (.aload_n 0, 1) := dk_42 (dk_at dksL_law_57 12 rfl rfl)
theorem dL_law_1439 : decode cL_law 1439 = .ok (.iload 4, 2) := dk_21 4 (dk_at dksL_law_57 13 rfl rfl)
theorem dL_law_1441 : decode cL_law 1441 = .ok (.iconst 2, 1) := dk_5 (dk_at dksL_law_57 15 rfl rfl)
theorem dL_law_1442 : decode cL_law 1442 = .ok (.iadd, 1) := dk_96 (dk_at dksL_law_57 16 rfl rfl)
theorem dL_law_1443 : decode cL_law 1443 = .ok (.iaload, 1) := dk_46 (dk_at dksL_law_57 17 rfl rfl)
theorem dL_law_1444 : decode cL_law 1444 = .ok (.invokevirtual 158, 3) := dk_182 0 158 (dk_at dksL_law_57 18 rfl rfl)
theorem dL_law_1447 : decode cL_law 1447 = .ok (.istore 6, 2) := dk_54 6 (dk_at dksL_law_57 21 rfl rfl)
theorem dL_law_1449 : decode cL_law 1449 = .ok (.aload_n 2, 1) := dk_44 (dk_at dksL_law_57 23 rfl rfl)
theorem dL_law_1450 : decode cL_law 1450 = .ok (.invokevirtual 107, 3) := dk_182 0 107 (dk_at dksL_law_58 0 rfl rfl)
theorem dL_law_1453 : decode cL_law 1453 = .ok (.iload 5, 2) := dk_21 5 (dk_at dksL_law_58 3 rfl rfl)
theorem dL_law_1455 : decode cL_law 1455 = .ok (.if_icmp .eq 5, 3) := dk_159 0 5 (dk_at dksL_law_58 5 rfl rfl)
theorem dL_law_1458 : decode cL_law 1458 = .ok (.iconst 0, 1) := dk_3 (dk_at dksL_law_58 8 rfl rfl)
theorem dL_law_1459 : decode cL_law 1459 = .ok (.ireturn, 1) := dk_172 (dk_at dksL_law_58 9 rfl rfl)
theorem dL_law_1460 : decode cL_law 1460 = .ok (.iload 5, 2) := dk_21 5 (dk_at dksL_law_58 10 rfl rfl)
theorem dL_law_1462 : decode cL_law 1462 = .ok (.ifCond .ne 15, 3) := dk_154 0 15 (dk_at dksL_law_58 12 rfl rfl)
theorem dL_law_1465 : decode cL_law 1465 = .ok (.aload_n 3, 1) := dk_45 (dk_at dksL_law_58 15 rfl rfl)
theorem dL_law_1466 : decode cL_law 1466 = .ok (.iconst 0, 1) := dk_3 (dk_at dksL_law_58 16 rfl rfl)
theorem dL_law_1467 : decode cL_law 1467 = .ok (.laload, 1) := dk_47 (dk_at dksL_law_58 17 rfl rfl)
theorem dL_law_1468 : decode cL_law 1468 = .ok (.iload 6, 2) := dk_21 6 (dk_at dksL_law_58 18 rfl rfl)
theorem dL_law_1470 : decode cL_law 1470 = .ok (.i2l, 1) := dk_133 (dk_at dksL_law_58 20 rfl rfl)
theorem dL_law_1471 : decode cL_law 1471 = .ok (.lcmp, 1) := dk_148 (dk_at dksL_law_58 21 rfl rfl)
theorem dL_law_1472 : decode cL_law 1472 = .ok (.ifCond .eq 5, 3) := dk_153 0 5 (dk_at dksL_law_59 0 rfl rfl)
theorem dL_law_1475 : decode cL_law 1475 = .ok (.iconst 0, 1) := dk_3 (dk_at dksL_law_59 3 rfl rfl)
theorem dL_law_1476 : decode cL_law 1476 = .ok (.ireturn, 1) := dk_172 (dk_at dksL_law_59 4 rfl rfl)
theorem dL_law_1477 : decode cL_law 1477 = .ok (.goto 604, 3) := dk_167 2 92 (dk_at dksL_law_59 5 rfl rfl)
theorem dL_law_1480 : decode cL_law 1480 = .ok (.aload_n 1, 1) := dk_43 (dk_at dksL_law_59 8 rfl rfl)
theorem dL_law_1481 : decode cL_law 1481 = .ok (.aload_n 0, 1) := dk_42 (dk_at dksL_law_59 9 rfl rfl)
theorem dL_law_1482 : decode cL_law 1482 = .ok (.iload 4, 2) := dk_21 4 (dk_at dksL_law_59 10 rfl rfl)
theorem dL_law_1484 : decode cL_law 1484 = .ok (.iconst 1, 1) := dk_4 (dk_at dksL_law_59 12 rfl rfl)
theorem dL_law_1485 : decode cL_law 1485 = .ok (.iadd, 1) := dk_96 (dk_at dksL_law_59 13 rfl rfl)
theorem dL_law_1486 : decode cL_law 1486 = .ok (.iaload, 1) := dk_46 (dk_at dksL_law_59 14 rfl rfl)
theorem dL_law_1487 : decode cL_law 1487 = .ok (.aload_n 0, 1) := dk_42 (dk_at dksL_law_59 15 rfl rfl)
theorem dL_law_1488 : decode cL_law 1488 = .ok (.iload 4, 2) := dk_21 4 (dk_at dksL_law_59 16 rfl rfl)
theorem dL_law_1490 : decode cL_law 1490 = .ok (.iconst 2, 1) := dk_5 (dk_at dksL_law_59 18 rfl rfl)
theorem dL_law_1491 : decode cL_law 1491 = .ok (.iadd, 1) := dk_96 (dk_at dksL_law_59 19 rfl rfl)
theorem dL_law_1492 : decode cL_law 1492 = .ok (.iaload, 1) := dk_46 (dk_at dksL_law_59 20 rfl rfl)
theorem dL_law_1493 : decode cL_law 1493 = .ok (.aload_n 3, 1) := dk_45 (dk_at dksL_law_59 21 rfl rfl)
theorem dL_law_1494 : decode cL_law 1494 = .ok (.invokestatic 159, 3) := dk_184 0 159 (dk_at dksL_law_60 0 rfl rfl)
theorem dL_law_1497 : decode cL_law 1497 = .ok (.istore 5, 2) := dk_54 5 (dk_at dksL_law_60 3 rfl rfl)
theorem dL_law_1499 : decode cL_law 1499 = .ok (.aload_n 2, 1) := dk_44 (dk_at dksL_law_60 5 rfl rfl)
theorem dL_law_1500 : decode cL_law 1500 = .ok (.aload_n 0, 1) := dk_42 (dk_at dksL_law_60 6 rfl rfl)
theorem dL_law_1501 : decode cL_law 1501 = .ok (.iload 4, 2) := dk_21 4 (dk_at dksL_law_60 7 rfl rfl)
theorem dL_law_1503 : decode cL_law 1503 = .ok (.iconst 1, 1) := dk_4 (dk_at dksL_law_60 9 rfl rfl)
theorem dL_law_1504 : decode cL_law 1504 = .ok (.iadd, 1) := dk_96 (dk_at dksL_law_60 10 rfl rfl)
theorem dL_law_1505 : decode cL_law 1505 = .ok (.iaload, 1) := dk_46 (dk_at dksL_law_60 11 rfl rfl)
theorem dL_law_1506 : decode cL_law 1506 = .ok (.aload_n 0, 1) := dk_42 (dk_at dksL_law_60 12 rfl rfl)
theorem dL_law_1507 : decode cL_law 1507 = .ok (.iload 4, 2) := dk_21 4 (dk_at dksL_law_60 13 rfl rfl)
theorem dL_law_1509 : decode cL_law 1509 = .ok (.iconst 2, 1) := dk_5 (dk_at dksL_law_60 15 rfl rfl)
theorem dL_law_1510 : decode cL_law 1510 = .ok (.iadd, 1) := dk_96 (dk_at dksL_law_60 16 rfl rfl)
theorem dL_law_1511 : decode cL_law 1511 = .ok (.iaload, 1) := dk_46 (dk_at dksL_law_60 17 rfl rfl)
theorem dL_law_1512 : decode cL_law 1512 = .ok (.invokevirtual 161, 3) := dk_182 0 161 (dk_at dksL_law_60 18 rfl rfl)
theorem dL_law_1515 : decode cL_law 1515 = .ok (.istore 6, 2) := dk_54 6 (dk_at dksL_law_60 21 rfl rfl)
theorem dL_law_1517 : decode cL_law 1517 = .ok (.aload_n 2, 1) := dk_44 (dk_at dksL_law_60 23 rfl rfl)
theorem dL_law_1518 : decode cL_law 1518 = .ok (.invokevirtual 107, 3) := dk_182 0 107 (dk_at dksL_law_61 0 rfl rfl)
theorem dL_law_1521 : decode cL_law 1521 = .ok (.iload 5, 2) := dk_21 5 (dk_at dksL_law_61 3 rfl rfl)
theorem dL_law_1523 : decode cL_law 1523 = .ok (.if_icmp .eq 5, 3) := dk_159 0 5 (dk_at dksL_law_61 5 rfl rfl)
theorem dL_law_1526 : decode cL_law 1526 = .ok (.iconst 0, 1) := dk_3 (dk_at dksL_law_61 8 rfl rfl)
theorem dL_law_1527 : decode cL_law 1527 = .ok (.ireturn, 1) := dk_172 (dk_at dksL_law_61 9 rfl rfl)
theorem dL_law_1528 : decode cL_law 1528 = .ok (.iload 5, 2) := dk_21 5 (dk_at dksL_law_61 10 rfl rfl)
theorem dL_law_1530 : decode cL_law 1530 = .ok (.ifCond .ne 15, 3) := dk_154 0 15 (dk_at dksL_law_61 12 rfl rfl)
theorem dL_law_1533 : decode cL_law 1533 = .ok (.aload_n 3, 1) := dk_45 (dk_at dksL_law_61 15 rfl rfl)
theorem dL_law_1534 : decode cL_law 1534 = .ok (.iconst 0, 1) := dk_3 (dk_at dksL_law_61 16 rfl rfl)
theorem dL_law_1535 : decode cL_law 1535 = .ok (.laload, 1) := dk_47 (dk_at dksL_law_61 17 rfl rfl)
theorem dL_law_1536 : decode cL_law 1536 = .ok (.iload 6, 2) := dk_21 6 (dk_at dksL_law_61 18 rfl rfl)
theorem dL_law_1538 : decode cL_law 1538 = .ok (.i2l, 1) := dk_133 (dk_at dksL_law_61 20 rfl rfl)
theorem dL_law_1539 : decode cL_law 1539 = .ok (.lcmp, 1) := dk_148 (dk_at dksL_law_61 21 rfl rfl)
theorem dL_law_1540 : decode cL_law 1540 = .ok (.ifCond .eq 5, 3) := dk_153 0 5 (dk_at dksL_law_62 0 rfl rfl)
theorem dL_law_1543 : decode cL_law 1543 = .ok (.iconst 0, 1) := dk_3 (dk_at dksL_law_62 3 rfl rfl)
theorem dL_law_1544 : decode cL_law 1544 = .ok (.ireturn, 1) := dk_172 (dk_at dksL_law_62 4 rfl rfl)
theorem dL_law_1545 : decode cL_law 1545 = .ok (.goto 536, 3) := dk_167 2 24 (dk_at dksL_law_62 5 rfl rfl)
theorem dL_law_1548 : decode cL_law 1548 = .ok (.aload_n 1, 1) := dk_43 (dk_at dksL_law_62 8 rfl rfl)
theorem dL_law_1549 : decode cL_law 1549 = .ok (.aload_n 0, 1) := dk_42 (dk_at dksL_law_62 9 rfl rfl)
theorem dL_law_1550 : decode cL_law 1550 = .ok (.iload 4, 2) := dk_21 4 (dk_at dksL_law_62 10 rfl rfl)
theorem dL_law_1552 : decode cL_law 1552 = .ok (.iconst 1, 1) := dk_4 (dk_at dksL_law_62 12 rfl rfl)
theorem dL_law_1553 : decode cL_law 1553 = .ok (.iadd, 1) := dk_96 (dk_at dksL_law_62 13 rfl rfl)
theorem dL_law_1554 : decode cL_law 1554 = .ok (.iaload, 1) := dk_46 (dk_at dksL_law_62 14 rfl rfl)
theorem dL_law_1555 : decode cL_law 1555 = .ok (.aload_n 0, 1) := dk_42 (dk_at dksL_law_62 15 rfl rfl)
theorem dL_law_1556 : decode cL_law 1556 = .ok (.iload 4, 2) := dk_21 4 (dk_at dksL_law_62 16 rfl rfl)
theorem dL_law_1558 : decode cL_law 1558 = .ok (.iconst 2, 1) := dk_5 (dk_at dksL_law_62 18 rfl rfl)
theorem dL_law_1559 : decode cL_law 1559 = .ok (.iadd, 1) := dk_96 (dk_at dksL_law_62 19 rfl rfl)
theorem dL_law_1560 : decode cL_law 1560 = .ok (.iaload, 1) := dk_46 (dk_at dksL_law_62 20 rfl rfl)
theorem dL_law_1561 : decode cL_law 1561 = .ok (.aload_n 0, 1) := dk_42 (dk_at dksL_law_62 21 rfl rfl)
theorem dL_law_1562 : decode cL_law 1562 = .ok (.iload 4, 2) := dk_21 4 (dk_at dksL_law_62 22 rfl rfl)
theorem dL_law_1564 : decode cL_law 1564 = .ok (.iconst 3, 1) := dk_6 (dk_at dksL_law_63 0 rfl rfl)
theorem dL_law_1565 : decode cL_law 1565 = .ok (.iadd, 1) := dk_96 (dk_at dksL_law_63 1 rfl rfl)
theorem dL_law_1566 : decode cL_law 1566 = .ok (.iaload, 1) := dk_46 (dk_at dksL_law_63 2 rfl rfl)
theorem dL_law_1567 : decode cL_law 1567 = .ok (.aload_n 0, 1) := dk_42 (dk_at dksL_law_63 3 rfl rfl)
theorem dL_law_1568 : decode cL_law 1568 = .ok (.iload 4, 2) := dk_21 4 (dk_at dksL_law_63 4 rfl rfl)
theorem dL_law_1570 : decode cL_law 1570 = .ok (.iconst 4, 1) := dk_7 (dk_at dksL_law_63 6 rfl rfl)
theorem dL_law_1571 : decode cL_law 1571 = .ok (.iadd, 1) := dk_96 (dk_at dksL_law_63 7 rfl rfl)
theorem dL_law_1572 : decode cL_law 1572 = .ok (.iaload, 1) := dk_46 (dk_at dksL_law_63 8 rfl rfl)
theorem dL_law_1573 : decode cL_law 1573 = .ok (.aload_n 3, 1) := dk_45 (dk_at dksL_law_63 9 rfl rfl)
theorem dL_law_1574 : decode cL_law 1574 = .ok (.invokestatic 162, 3) := dk_184 0 162 (dk_at dksL_law_63 10 rfl rfl)
theorem dL_law_1577 : decode cL_law 1577 = .ok (.istore 5, 2) := dk_54 5 (dk_at dksL_law_63 13 rfl rfl)
theorem dL_law_1579 : decode cL_law 1579 = .ok (.aload_n 2, 1) := dk_44 (dk_at dksL_law_63 15 rfl rfl)
theorem dL_law_1580 : decode cL_law 1580 = .ok (.aload_n 0, 1) := dk_42 (dk_at dksL_law_63 16 rfl rfl)
theorem dL_law_1581 : decode cL_law 1581 = .ok (.iload 4, 2) := dk_21 4 (dk_at dksL_law_63 17 rfl rfl)
theorem dL_law_1583 : decode cL_law 1583 = .ok (.iconst 1, 1) := dk_4 (dk_at dksL_law_63 19 rfl rfl)
theorem dL_law_1584 : decode cL_law 1584 = .ok (.iadd, 1) := dk_96 (dk_at dksL_law_63 20 rfl rfl)
theorem dL_law_1585 : decode cL_law 1585 = .ok (.iaload, 1) := dk_46 (dk_at dksL_law_63 21 rfl rfl)
theorem dL_law_1586 : decode cL_law 1586 = .ok (.aload_n 0, 1) := dk_42 (dk_at dksL_law_63 22 rfl rfl)
theorem dL_law_1587 : decode cL_law 1587 = .ok (.iload 4, 2) := dk_21 4 (dk_at dksL_law_64 0 rfl rfl)
theorem dL_law_1589 : decode cL_law 1589 = .ok (.iconst 2, 1) := dk_5 (dk_at dksL_law_64 2 rfl rfl)
theorem dL_law_1590 : decode cL_law 1590 = .ok (.iadd, 1) := dk_96 (dk_at dksL_law_64 3 rfl rfl)
theorem dL_law_1591 : decode cL_law 1591 = .ok (.iaload, 1) := dk_46 (dk_at dksL_law_64 4 rfl rfl)
theorem dL_law_1592 : decode cL_law 1592 = .ok (.aload_n 0, 1) := dk_42 (dk_at dksL_law_64 5 rfl rfl)
theorem dL_law_1593 : decode cL_law 1593 = .ok (.iload 4, 2) := dk_21 4 (dk_at dksL_law_64 6 rfl rfl)
theorem dL_law_1595 : decode cL_law 1595 = .ok (.iconst 3, 1) := dk_6 (dk_at dksL_law_64 8 rfl rfl)
theorem dL_law_1596 : decode cL_law 1596 = .ok (.iadd, 1) := dk_96 (dk_at dksL_law_64 9 rfl rfl)
theorem dL_law_1597 : decode cL_law 1597 = .ok (.iaload, 1) := dk_46 (dk_at dksL_law_64 10 rfl rfl)
theorem dL_law_1598 : decode cL_law 1598 = .ok (.aload_n 0, 1) := dk_42 (dk_at dksL_law_64 11 rfl rfl)
theorem dL_law_1599 : decode cL_law 1599 = .ok (.iload 4, 2) := dk_21 4 (dk_at dksL_law_64 12 rfl rfl)
theorem dL_law_1601 : decode cL_law 1601 = .ok (.iconst 4, 1) := dk_7 (dk_at dksL_law_64 14 rfl rfl)
theorem dL_law_1602 : decode cL_law 1602 = .ok (.iadd, 1) := dk_96 (dk_at dksL_law_64 15 rfl rfl)
theorem dL_law_1603 : decode cL_law 1603 = .ok (.iaload, 1) := dk_46 (dk_at dksL_law_64 16 rfl rfl)
theorem dL_law_1604 : decode cL_law 1604 = .ok (.invokevirtual 164, 3) := dk_182 0 164 (dk_at dksL_law_64 17 rfl rfl)
theorem dL_law_1607 : decode cL_law 1607 = .ok (.istore 6, 2) := dk_54 6 (dk_at dksL_law_64 20 rfl rfl)
theorem dL_law_1609 : decode cL_law 1609 = .ok (.aload_n 2, 1) := dk_44 (dk_at dksL_law_64 22 rfl rfl)
theorem dL_law_1610 : decode cL_law 1610 = .ok (.invokevirtual 107, 3) := dk_182 0 107 (dk_at dksL_law_65 0 rfl rfl)
theorem dL_law_1613 : decode cL_law 1613 = .ok (.iload 5, 2) := dk_21 5 (dk_at dksL_law_65 3 rfl rfl)
theorem dL_law_1615 : decode cL_law 1615 = .ok (.if_icmp .eq 5, 3) := dk_159 0 5 (dk_at dksL_law_65 5 rfl rfl)
theorem dL_law_1618 : decode cL_law 1618 = .ok (.iconst 0, 1) := dk_3 (dk_at dksL_law_65 8 rfl rfl)
theorem dL_law_1619 : decode cL_law 1619 = .ok (.ireturn, 1) := dk_172 (dk_at dksL_law_65 9 rfl rfl)
theorem dL_law_1620 : decode cL_law 1620 = .ok (.iload 5, 2) := dk_21 5 (dk_at dksL_law_65 10 rfl rfl)
theorem dL_law_1622 : decode cL_law 1622 = .ok (.ifCond .ne 15, 3) := dk_154 0 15 (dk_at dksL_law_65 12 rfl rfl)
theorem dL_law_1625 : decode cL_law 1625 = .ok (.aload_n 3, 1) := dk_45 (dk_at dksL_law_65 15 rfl rfl)
theorem dL_law_1626 : decode cL_law 1626 = .ok (.iconst 0, 1) := dk_3 (dk_at dksL_law_65 16 rfl rfl)
theorem dL_law_1627 : decode cL_law 1627 = .ok (.laload, 1) := dk_47 (dk_at dksL_law_65 17 rfl rfl)
theorem dL_law_1628 : decode cL_law 1628 = .ok (.iload 6, 2) := dk_21 6 (dk_at dksL_law_65 18 rfl rfl)
theorem dL_law_1630 : decode cL_law 1630 = .ok (.i2l, 1) := dk_133 (dk_at dksL_law_65 20 rfl rfl)
theorem dL_law_1631 : decode cL_law 1631 = .ok (.lcmp, 1) := dk_148 (dk_at dksL_law_65 21 rfl rfl)
theorem dL_law_1632 : decode cL_law 1632 = .ok (.ifCond .eq 5, 3) := dk_153 0 5 (dk_at dksL_law_66 0 rfl rfl)
theorem dL_law_1635 : decode cL_law 1635 = .ok (.iconst 0, 1) := dk_3 (dk_at dksL_law_66 3 rfl rfl)
theorem dL_law_1636 : decode cL_law 1636 = .ok (.ireturn, 1) := dk_172 (dk_at dksL_law_66 4 rfl rfl)
theorem dL_law_1637 : decode cL_law 1637 = .ok (.goto 444, 3) := dk_167 1 188 (dk_at dksL_law_66 5 rfl rfl)
theorem dL_law_1640 : decode cL_law 1640 = .ok (.aload_n 1, 1) := dk_43 (dk_at dksL_law_66 8 rfl rfl)
theorem dL_law_1641 : decode cL_law 1641 = .ok (.invokevirtual 165, 3) := dk_182 0 165 (dk_at dksL_law_66 9 rfl rfl)
theorem dL_law_1644 : decode cL_law 1644 = .ok (.aload_n 2, 1) := dk_44 (dk_at dksL_law_66 12 rfl rfl)
theorem dL_law_1645 : decode cL_law 1645 = .ok (.invokevirtual 168, 3) := dk_182 0 168 (dk_at dksL_law_66 13 rfl rfl)
theorem dL_law_1648 : decode cL_law 1648 = .ok (.if_icmp .eq 433, 3) := dk_159 1 177 (dk_at dksL_law_66 16 rfl rfl)
theorem dL_law_1651 : decode cL_law 1651 = .ok (.iconst 0, 1) := dk_3 (dk_at dksL_law_66 19 rfl rfl)
theorem dL_law_1652 : decode cL_law 1652 = .ok (.ireturn, 1) := dk_172 (dk_at dksL_law_66 20 rfl rfl)
theorem dL_law_1653 : decode cL_law 1653 = .ok (.aload_n 1, 1) := dk_43 (dk_at dksL_law_66 21 rfl rfl)
theorem dL_law_1654 : decode cL_law 1654 = .ok (.invokevirtual 169, 3) := dk_182 0 169 (dk_at dksL_law_67 0 rfl rfl)
theorem dL_law_1657 : decode cL_law 1657 = .ok (.aload_n 2, 1) := dk_44 (dk_at dksL_law_67 3 rfl rfl)
theorem dL_law_1658 : decode cL_law 1658 = .ok (.invokevirtual 172, 3) := dk_182 0 172 (dk_at dksL_law_67 4 rfl rfl)
theorem dL_law_1661 : decode cL_law 1661 = .ok (.if_icmp .eq 420, 3) := dk_159 1 164 (dk_at dksL_law_67 7 rfl rfl)
theorem dL_law_1664 : decode cL_law 1664 = .ok (.iconst 0, 1) := dk_3 (dk_at dksL_law_67 10 rfl rfl)
theorem dL_law_1665 : decode cL_law 1665 = .ok (.ireturn, 1) := dk_172 (dk_at dksL_law_67 11 rfl rfl)
theorem dL_law_1666 : decode cL_law 1666 = .ok (.aload_n 1, 1) := dk_43 (dk_at dksL_law_67 12 rfl rfl)
theorem dL_law_1667 : decode cL_law 1667 = .ok (.aload_n 0, 1) := dk_42 (dk_at dksL_law_67 13 rfl rfl)
theorem dL_law_1668 : decode cL_law 1668 = .ok (.iload 4, 2) := dk_21 4 (dk_at dksL_law_67 14 rfl rfl)
theorem dL_law_1670 : decode cL_law 1670 = .ok (.iconst 1, 1) := dk_4 (dk_at dksL_law_67 16 rfl rfl)
theorem dL_law_1671 : decode cL_law 1671 = .ok (.iadd, 1) := dk_96 (dk_at dksL_law_67 17 rfl rfl)
theorem dL_law_1672 : decode cL_law 1672 = .ok (.iaload, 1) := dk_46 (dk_at dksL_law_67 18 rfl rfl)
theorem dL_law_1673 : decode cL_law 1673 = .ok (.aload_n 3, 1) := dk_45 (dk_at dksL_law_67 19 rfl rfl)
theorem dL_law_1674 : decode cL_law 1674 = .ok (.invokestatic 173, 3) := dk_184 0 173 (dk_at dksL_law_67 20 rfl rfl)
theorem dL_law_1677 : decode cL_law 1677 = .ok (.istore 5, 2) := dk_54 5 (dk_at dksL_law_68 0 rfl rfl)
theorem dL_law_1679 : decode cL_law 1679 = .ok (.aload_n 2, 1) := dk_44 (dk_at dksL_law_68 2 rfl rfl)
theorem dL_law_1680 : decode cL_law 1680 = .ok (.aload_n 0, 1) := dk_42 (dk_at dksL_law_68 3 rfl rfl)
theorem dL_law_1681 : decode cL_law 1681 = .ok (.iload 4, 2) := dk_21 4 (dk_at dksL_law_68 4 rfl rfl)
theorem dL_law_1683 : decode cL_law 1683 = .ok (.iconst 1, 1) := dk_4 (dk_at dksL_law_68 6 rfl rfl)
theorem dL_law_1684 : decode cL_law 1684 = .ok (.iadd, 1) := dk_96 (dk_at dksL_law_68 7 rfl rfl)
theorem dL_law_1685 : decode cL_law 1685 = .ok (.iaload, 1) := dk_46 (dk_at dksL_law_68 8 rfl rfl)
theorem dL_law_1686 : decode cL_law 1686 = .ok (.invokevirtual 175, 3) := dk_182 0 175 (dk_at dksL_law_68 9 rfl rfl)
theorem dL_law_1689 : decode cL_law 1689 = .ok (.istore 6, 2) := dk_54 6 (dk_at dksL_law_68 12 rfl rfl)
theorem dL_law_1691 : decode cL_law 1691 = .ok (.aload_n 2, 1) := dk_44 (dk_at dksL_law_68 14 rfl rfl)
theorem dL_law_1692 : decode cL_law 1692 = .ok (.invokevirtual 107, 3) := dk_182 0 107 (dk_at dksL_law_68 15 rfl rfl)
theorem dL_law_1695 : decode cL_law 1695 = .ok (.iload 5, 2) := dk_21 5 (dk_at dksL_law_68 18 rfl rfl)
theorem dL_law_1697 : decode cL_law 1697 = .ok (.if_icmp .eq 5, 3) := dk_159 0 5 (dk_at dksL_law_68 20 rfl rfl)
theorem dL_law_1700 : decode cL_law 1700 = .ok (.iconst 0, 1) := dk_3 (dk_at dksL_law_68 23 rfl rfl)
theorem dL_law_1701 : decode cL_law 1701 = .ok (.ireturn, 1) := dk_172 (dk_at dksL_law_69 0 rfl rfl)
theorem dL_law_1702 : decode cL_law 1702 = .ok (.iload 5, 2) := dk_21 5 (dk_at dksL_law_69 1 rfl rfl)
theorem dL_law_1704 : decode cL_law 1704 = .ok (.ifCond .ne 15, 3) := dk_154 0 15 (dk_at dksL_law_69 3 rfl rfl)
theorem dL_law_1707 : decode cL_law 1707 = .ok (.aload_n 3, 1) := dk_45 (dk_at dksL_law_69 6 rfl rfl)
theorem dL_law_1708 : decode cL_law 1708 = .ok (.iconst 0, 1) := dk_3 (dk_at dksL_law_69 7 rfl rfl)
theorem dL_law_1709 : decode cL_law 1709 = .ok (.laload, 1) := dk_47 (dk_at dksL_law_69 8 rfl rfl)
theorem dL_law_1710 : decode cL_law 1710 = .ok (.iload 6, 2) := dk_21 6 (dk_at dksL_law_69 9 rfl rfl)
theorem dL_law_1712 : decode cL_law 1712 = .ok (.i2l, 1) := dk_133 (dk_at dksL_law_69 11 rfl rfl)
theorem dL_law_1713 : decode cL_law 1713 = .ok (.lcmp, 1) := dk_148 (dk_at dksL_law_69 12 rfl rfl)
theorem dL_law_1714 : decode cL_law 1714 = .ok (.ifCond .eq 5, 3) := dk_153 0 5 (dk_at dksL_law_69 13 rfl rfl)
theorem dL_law_1717 : decode cL_law 1717 = .ok (.iconst 0, 1) := dk_3 (dk_at dksL_law_69 16 rfl rfl)
theorem dL_law_1718 : decode cL_law 1718 = .ok (.ireturn, 1) := dk_172 (dk_at dksL_law_69 17 rfl rfl)
theorem dL_law_1719 : decode cL_law 1719 = .ok (.goto 362, 3) := dk_167 1 106 (dk_at dksL_law_69 18 rfl rfl)
theorem dL_law_1722 : decode cL_law 1722 = .ok (.aload_n 1, 1) := dk_43 (dk_at dksL_law_69 21 rfl rfl)
theorem dL_law_1723 : decode cL_law 1723 = .ok (.aload_n 0, 1) := dk_42 (dk_at dksL_law_69 22 rfl rfl)
theorem dL_law_1724 : decode cL_law 1724 = .ok (.iload 4, 2) := dk_21 4 (dk_at dksL_law_70 0 rfl rfl)
theorem dL_law_1726 : decode cL_law 1726 = .ok (.iconst 1, 1) := dk_4 (dk_at dksL_law_70 2 rfl rfl)
theorem dL_law_1727 : decode cL_law 1727 = .ok (.iadd, 1) := dk_96 (dk_at dksL_law_70 3 rfl rfl)
theorem dL_law_1728 : decode cL_law 1728 = .ok (.iaload, 1) := dk_46 (dk_at dksL_law_70 4 rfl rfl)
theorem dL_law_1729 : decode cL_law 1729 = .ok (.aload_n 3, 1) := dk_45 (dk_at dksL_law_70 5 rfl rfl)
theorem dL_law_1730 : decode cL_law 1730 = .ok (.invokestatic 176, 3) := dk_184 0 176 (dk_at dksL_law_70 6 rfl rfl)
theorem dL_law_1733 : decode cL_law 1733 = .ok (.istore 5, 2) := dk_54 5 (dk_at dksL_law_70 9 rfl rfl)
theorem dL_law_1735 : decode cL_law 1735 = .ok (.aload_n 2, 1) := dk_44 (dk_at dksL_law_70 11 rfl rfl)
theorem dL_law_1736 : decode cL_law 1736 = .ok (.aload_n 0, 1) := dk_42 (dk_at dksL_law_70 12 rfl rfl)
theorem dL_law_1737 : decode cL_law 1737 = .ok (.iload 4, 2) := dk_21 4 (dk_at dksL_law_70 13 rfl rfl)
theorem dL_law_1739 : decode cL_law 1739 = .ok (.iconst 1, 1) := dk_4 (dk_at dksL_law_70 15 rfl rfl)
theorem dL_law_1740 : decode cL_law 1740 = .ok (.iadd, 1) := dk_96 (dk_at dksL_law_70 16 rfl rfl)
theorem dL_law_1741 : decode cL_law 1741 = .ok (.iaload, 1) := dk_46 (dk_at dksL_law_70 17 rfl rfl)
theorem dL_law_1742 : decode cL_law 1742 = .ok (.invokevirtual 178, 3) := dk_182 0 178 (dk_at dksL_law_70 18 rfl rfl)
theorem dL_law_1745 : decode cL_law 1745 = .ok (.istore 6, 2) := dk_54 6 (dk_at dksL_law_70 21 rfl rfl)
theorem dL_law_1747 : decode cL_law 1747 = .ok (.aload_n 2, 1) := dk_44 (dk_at dksL_law_70 23 rfl rfl)
theorem dL_law_1748 : decode cL_law 1748 = .ok (.invokevirtual 107, 3) := dk_182 0 107 (dk_at dksL_law_71 0 rfl rfl)
theorem dL_law_1751 : decode cL_law 1751 = .ok (.iload 5, 2) := dk_21 5 (dk_at dksL_law_71 3 rfl rfl)
theorem dL_law_1753 : decode cL_law 1753 = .ok (.if_icmp .eq 5, 3) := dk_159 0 5 (dk_at dksL_law_71 5 rfl rfl)
theorem dL_law_1756 : decode cL_law 1756 = .ok (.iconst 0, 1) := dk_3 (dk_at dksL_law_71 8 rfl rfl)
theorem dL_law_1757 : decode cL_law 1757 = .ok (.ireturn, 1) := dk_172 (dk_at dksL_law_71 9 rfl rfl)
theorem dL_law_1758 : decode cL_law 1758 = .ok (.iload 5, 2) := dk_21 5 (dk_at dksL_law_71 10 rfl rfl)
theorem dL_law_1760 : decode cL_law 1760 = .ok (.ifCond .ne 15, 3) := dk_154 0 15 (dk_at dksL_law_71 12 rfl rfl)
theorem dL_law_1763 : decode cL_law 1763 = .ok (.aload_n 3, 1) := dk_45 (dk_at dksL_law_71 15 rfl rfl)
theorem dL_law_1764 : decode cL_law 1764 = .ok (.iconst 0, 1) := dk_3 (dk_at dksL_law_71 16 rfl rfl)
theorem dL_law_1765 : decode cL_law 1765 = .ok (.laload, 1) := dk_47 (dk_at dksL_law_71 17 rfl rfl)
theorem dL_law_1766 : decode cL_law 1766 = .ok (.iload 6, 2) := dk_21 6 (dk_at dksL_law_71 18 rfl rfl)
theorem dL_law_1768 : decode cL_law 1768 = .ok (.i2l, 1) := dk_133 (dk_at dksL_law_71 20 rfl rfl)
theorem dL_law_1769 : decode cL_law 1769 = .ok (.lcmp, 1) := dk_148 (dk_at dksL_law_71 21 rfl rfl)
theorem dL_law_1770 : decode cL_law 1770 = .ok (.ifCond .eq 5, 3) := dk_153 0 5 (dk_at dksL_law_72 0 rfl rfl)
theorem dL_law_1773 : decode cL_law 1773 = .ok (.iconst 0, 1) := dk_3 (dk_at dksL_law_72 3 rfl rfl)
theorem dL_law_1774 : decode cL_law 1774 = .ok (.ireturn, 1) := dk_172 (dk_at dksL_law_72 4 rfl rfl)
theorem dL_law_1775 : decode cL_law 1775 = .ok (.goto 306, 3) := dk_167 1 50 (dk_at dksL_law_72 5 rfl rfl)
theorem dL_law_1778 : decode cL_law 1778 = .ok (.aload_n 1, 1) := dk_43 (dk_at dksL_law_72 8 rfl rfl)
theorem dL_law_1779 : decode cL_law 1779 = .ok (.aload_n 0, 1) := dk_42 (dk_at dksL_law_72 9 rfl rfl)
theorem dL_law_1780 : decode cL_law 1780 = .ok (.iload 4, 2) := dk_21 4 (dk_at dksL_law_72 10 rfl rfl)
theorem dL_law_1782 : decode cL_law 1782 = .ok (.iconst 1, 1) := dk_4 (dk_at dksL_law_72 12 rfl rfl)
theorem dL_law_1783 : decode cL_law 1783 = .ok (.iadd, 1) := dk_96 (dk_at dksL_law_72 13 rfl rfl)
theorem dL_law_1784 : decode cL_law 1784 = .ok (.iaload, 1) := dk_46 (dk_at dksL_law_72 14 rfl rfl)
theorem dL_law_1785 : decode cL_law 1785 = .ok (.aload_n 3, 1) := dk_45 (dk_at dksL_law_72 15 rfl rfl)
theorem dL_law_1786 : decode cL_law 1786 = .ok (.invokestatic 179, 3) := dk_184 0 179 (dk_at dksL_law_72 16 rfl rfl)
theorem dL_law_1789 : decode cL_law 1789 = .ok (.istore 5, 2) := dk_54 5 (dk_at dksL_law_72 19 rfl rfl)
theorem dL_law_1791 : decode cL_law 1791 = .ok (.aload_n 2, 1) := dk_44 (dk_at dksL_law_72 21 rfl rfl)
theorem dL_law_1792 : decode cL_law 1792 = .ok (.aload_n 0, 1) := dk_42 (dk_at dksL_law_72 22 rfl rfl)
theorem dL_law_1793 : decode cL_law 1793 = .ok (.iload 4, 2) := dk_21 4 (dk_at dksL_law_73 0 rfl rfl)
theorem dL_law_1795 : decode cL_law 1795 = .ok (.iconst 1, 1) := dk_4 (dk_at dksL_law_73 2 rfl rfl)
theorem dL_law_1796 : decode cL_law 1796 = .ok (.iadd, 1) := dk_96 (dk_at dksL_law_73 3 rfl rfl)
theorem dL_law_1797 : decode cL_law 1797 = .ok (.iaload, 1) := dk_46 (dk_at dksL_law_73 4 rfl rfl)
theorem dL_law_1798 : decode cL_law 1798 = .ok (.invokevirtual 181, 3) := dk_182 0 181 (dk_at dksL_law_73 5 rfl rfl)
theorem dL_law_1801 : decode cL_law 1801 = .ok (.istore 6, 2) := dk_54 6 (dk_at dksL_law_73 8 rfl rfl)
theorem dL_law_1803 : decode cL_law 1803 = .ok (.aload_n 2, 1) := dk_44 (dk_at dksL_law_73 10 rfl rfl)
theorem dL_law_1804 : decode cL_law 1804 = .ok (.invokevirtual 107, 3) := dk_182 0 107 (dk_at dksL_law_73 11 rfl rfl)
theorem dL_law_1807 : decode cL_law 1807 = .ok (.iload 5, 2) := dk_21 5 (dk_at dksL_law_73 14 rfl rfl)
theorem dL_law_1809 : decode cL_law 1809 = .ok (.if_icmp .eq 5, 3) := dk_159 0 5 (dk_at dksL_law_73 16 rfl rfl)
theorem dL_law_1812 : decode cL_law 1812 = .ok (.iconst 0, 1) := dk_3 (dk_at dksL_law_73 19 rfl rfl)
theorem dL_law_1813 : decode cL_law 1813 = .ok (.ireturn, 1) := dk_172 (dk_at dksL_law_73 20 rfl rfl)
theorem dL_law_1814 : decode cL_law 1814 = .ok (.iload 5, 2) := dk_21 5 (dk_at dksL_law_73 21 rfl rfl)
theorem dL_law_1816 : decode cL_law 1816 = .ok (.ifCond .ne 15, 3) := dk_154 0 15 (dk_at dksL_law_74 0 rfl rfl)
theorem dL_law_1819 : decode cL_law 1819 = .ok (.aload_n 3, 1) := dk_45 (dk_at dksL_law_74 3 rfl rfl)
theorem dL_law_1820 : decode cL_law 1820 = .ok (.iconst 0, 1) := dk_3 (dk_at dksL_law_74 4 rfl rfl)
theorem dL_law_1821 : decode cL_law 1821 = .ok (.laload, 1) := dk_47 (dk_at dksL_law_74 5 rfl rfl)
theorem dL_law_1822 : decode cL_law 1822 = .ok (.iload 6, 2) := dk_21 6 (dk_at dksL_law_74 6 rfl rfl)
theorem dL_law_1824 : decode cL_law 1824 = .ok (.i2l, 1) := dk_133 (dk_at dksL_law_74 8 rfl rfl)
theorem dL_law_1825 : decode cL_law 1825 = .ok (.lcmp, 1) := dk_148 (dk_at dksL_law_74 9 rfl rfl)
theorem dL_law_1826 : decode cL_law 1826 = .ok (.ifCond .eq 5, 3) := dk_153 0 5 (dk_at dksL_law_74 10 rfl rfl)
theorem dL_law_1829 : decode cL_law 1829 = .ok (.iconst 0, 1) := dk_3 (dk_at dksL_law_74 13 rfl rfl)
theorem dL_law_1830 : decode cL_law 1830 = .ok (.ireturn, 1) := dk_172 (dk_at dksL_law_74 14 rfl rfl)
theorem dL_law_1831 : decode cL_law 1831 = .ok (.goto 250, 3) := dk_167 0 250 (dk_at dksL_law_74 15 rfl rfl)
theorem dL_law_1834 : decode cL_law 1834 = .ok (.aload_n 1, 1) := dk_43 (dk_at dksL_law_74 18 rfl rfl)
theorem dL_law_1835 : decode cL_law 1835 = .ok (.aload_n 0, 1) := dk_42 (dk_at dksL_law_74 19 rfl rfl)
theorem dL_law_1836 : decode cL_law 1836 = .ok (.iload 4, 2) := dk_21 4 (dk_at dksL_law_74 20 rfl rfl)
theorem dL_law_1838 : decode cL_law 1838 = .ok (.iconst 1, 1) := dk_4 (dk_at dksL_law_74 22 rfl rfl)
theorem dL_law_1839 : decode cL_law 1839 = .ok (.iadd, 1) := dk_96 (dk_at dksL_law_74 23 rfl rfl)
theorem dL_law_1840 : decode cL_law 1840 = .ok (.iaload, 1) := dk_46 (dk_at dksL_law_75 0 rfl rfl)
theorem dL_law_1841 : decode cL_law 1841 = .ok (.aload_n 0, 1) := dk_42 (dk_at dksL_law_75 1 rfl rfl)
theorem dL_law_1842 : decode cL_law 1842 = .ok (.iload 4, 2) := dk_21 4 (dk_at dksL_law_75 2 rfl rfl)
theorem dL_law_1844 : decode cL_law 1844 = .ok (.iconst 2, 1) := dk_5 (dk_at dksL_law_75 4 rfl rfl)
theorem dL_law_1845 : decode cL_law 1845 = .ok (.iadd, 1) := dk_96 (dk_at dksL_law_75 5 rfl rfl)
theorem dL_law_1846 : decode cL_law 1846 = .ok (.iaload, 1) := dk_46 (dk_at dksL_law_75 6 rfl rfl)
theorem dL_law_1847 : decode cL_law 1847 = .ok (.ifCond .eq 7, 3) := dk_153 0 7 (dk_at dksL_law_75 7 rfl rfl)
theorem dL_law_1850 : decode cL_law 1850 = .ok (.iconst 1, 1) := dk_4 (dk_at dksL_law_75 10 rfl rfl)
theorem dL_law_1851 : decode cL_law 1851 = .ok (.goto 4, 3) := dk_167 0 4 (dk_at dksL_law_75 11 rfl rfl)
theorem dL_law_1854 : decode cL_law 1854 = .ok (.iconst 0, 1) := dk_3 (dk_at dksL_law_75 14 rfl rfl)
theorem dL_law_1855 : decode cL_law 1855 = .ok (.aload_n 3, 1) := dk_45 (dk_at dksL_law_75 15 rfl rfl)
theorem dL_law_1856 : decode cL_law 1856 = .ok (.invokestatic 182, 3) := dk_184 0 182 (dk_at dksL_law_75 16 rfl rfl)
theorem dL_law_1859 : decode cL_law 1859 = .ok (.istore 5, 2) := dk_54 5 (dk_at dksL_law_75 19 rfl rfl)
theorem dL_law_1861 : decode cL_law 1861 = .ok (.aload_n 2, 1) := dk_44 (dk_at dksL_law_75 21 rfl rfl)
theorem dL_law_1862 : decode cL_law 1862 = .ok (.aload_n 0, 1) := dk_42 (dk_at dksL_law_75 22 rfl rfl)
theorem dL_law_1863 : decode cL_law 1863 = .ok (.iload 4, 2) := dk_21 4 (dk_at dksL_law_76 0 rfl rfl)
theorem dL_law_1865 : decode cL_law 1865 = .ok (.iconst 1, 1) := dk_4 (dk_at dksL_law_76 2 rfl rfl)
theorem dL_law_1866 : decode cL_law 1866 = .ok (.iadd, 1) := dk_96 (dk_at dksL_law_76 3 rfl rfl)
theorem dL_law_1867 : decode cL_law 1867 = .ok (.iaload, 1) := dk_46 (dk_at dksL_law_76 4 rfl rfl)
theorem dL_law_1868 : decode cL_law 1868 = .ok (.aload_n 0, 1) := dk_42 (dk_at dksL_law_76 5 rfl rfl)
theorem dL_law_1869 : decode cL_law 1869 = .ok (.iload 4, 2) := dk_21 4 (dk_at dksL_law_76 6 rfl rfl)
theorem dL_law_1871 : decode cL_law 1871 = .ok (.iconst 2, 1) := dk_5 (dk_at dksL_law_76 8 rfl rfl)
theorem dL_law_1872 : decode cL_law 1872 = .ok (.iadd, 1) := dk_96 (dk_at dksL_law_76 9 rfl rfl)
theorem dL_law_1873 : decode cL_law 1873 = .ok (.iaload, 1) := dk_46 (dk_at dksL_law_76 10 rfl rfl)
theorem dL_law_1874 : decode cL_law 1874 = .ok (.ifCond .eq 7, 3) := dk_153 0 7 (dk_at dksL_law_76 11 rfl rfl)
theorem dL_law_1877 : decode cL_law 1877 = .ok (.iconst 1, 1) := dk_4 (dk_at dksL_law_76 14 rfl rfl)
theorem dL_law_1878 : decode cL_law 1878 = .ok (.goto 4, 3) := dk_167 0 4 (dk_at dksL_law_76 15 rfl rfl)
theorem dL_law_1881 : decode cL_law 1881 = .ok (.iconst 0, 1) := dk_3 (dk_at dksL_law_76 18 rfl rfl)
theorem dL_law_1882 : decode cL_law 1882 = .ok (.invokevirtual 185, 3) := dk_182 0 185 (dk_at dksL_law_76 19 rfl rfl)
theorem dL_law_1885 : decode cL_law 1885 = .ok (.istore 6, 2) := dk_54 6 (dk_at dksL_law_76 22 rfl rfl)
theorem dL_law_1887 : decode cL_law 1887 = .ok (.aload_n 2, 1) := dk_44 (dk_at dksL_law_77 0 rfl rfl)
theorem dL_law_1888 : decode cL_law 1888 = .ok (.invokevirtual 107, 3) := dk_182 0 107 (dk_at dksL_law_77 1 rfl rfl)
theorem dL_law_1891 : decode cL_law 1891 = .ok (.iload 5, 2) := dk_21 5 (dk_at dksL_law_77 4 rfl rfl)
theorem dL_law_1893 : decode cL_law 1893 = .ok (.if_icmp .eq 5, 3) := dk_159 0 5 (dk_at dksL_law_77 6 rfl rfl)
theorem dL_law_1896 : decode cL_law 1896 = .ok (.iconst 0, 1) := dk_3 (dk_at dksL_law_77 9 rfl rfl)
theorem dL_law_1897 : decode cL_law 1897 = .ok (.ireturn, 1) := dk_172 (dk_at dksL_law_77 10 rfl rfl)
theorem dL_law_1898 : decode cL_law 1898 = .ok (.iload 5, 2) := dk_21 5 (dk_at dksL_law_77 11 rfl rfl)
theorem dL_law_1900 : decode cL_law 1900 = .ok (.ifCond .ne 15, 3) := dk_154 0 15 (dk_at dksL_law_77 13 rfl rfl)
theorem dL_law_1903 : decode cL_law 1903 = .ok (.aload_n 3, 1) := dk_45 (dk_at dksL_law_77 16 rfl rfl)
theorem dL_law_1904 : decode cL_law 1904 = .ok (.iconst 0, 1) := dk_3 (dk_at dksL_law_77 17 rfl rfl)
theorem dL_law_1905 : decode cL_law 1905 = .ok (.laload, 1) := dk_47 (dk_at dksL_law_77 18 rfl rfl)
theorem dL_law_1906 : decode cL_law 1906 = .ok (.iload 6, 2) := dk_21 6 (dk_at dksL_law_77 19 rfl rfl)
theorem dL_law_1908 : decode cL_law 1908 = .ok (.i2l, 1) := dk_133 (dk_at dksL_law_77 21 rfl rfl)
theorem dL_law_1909 : decode cL_law 1909 = .ok (.lcmp, 1) := dk_148 (dk_at dksL_law_77 22 rfl rfl)
theorem dL_law_1910 : decode cL_law 1910 = .ok (.ifCond .eq 5, 3) := dk_153 0 5 (dk_at dksL_law_78 0 rfl rfl)
theorem dL_law_1913 : decode cL_law 1913 = .ok (.iconst 0, 1) := dk_3 (dk_at dksL_law_78 3 rfl rfl)
theorem dL_law_1914 : decode cL_law 1914 = .ok (.ireturn, 1) := dk_172 (dk_at dksL_law_78 4 rfl rfl)
theorem dL_law_1915 : decode cL_law 1915 = .ok (.goto 166, 3) := dk_167 0 166 (dk_at dksL_law_78 5 rfl rfl)
theorem dL_law_1918 : decode cL_law 1918 = .ok (.aload_n 1, 1) := dk_43 (dk_at dksL_law_78 8 rfl rfl)
theorem dL_law_1919 : decode cL_law 1919 = .ok (.aload_n 3, 1) := dk_45 (dk_at dksL_law_78 9 rfl rfl)
theorem dL_law_1920 : decode cL_law 1920 = .ok (.invokestatic 186, 3) := dk_184 0 186 (dk_at dksL_law_78 10 rfl rfl)
theorem dL_law_1923 : decode cL_law 1923 = .ok (.istore 5, 2) := dk_54 5 (dk_at dksL_law_78 13 rfl rfl)
theorem dL_law_1925 : decode cL_law 1925 = .ok (.aload_n 2, 1) := dk_44 (dk_at dksL_law_78 15 rfl rfl)
theorem dL_law_1926 : decode cL_law 1926 = .ok (.invokevirtual 188, 3) := dk_182 0 188 (dk_at dksL_law_78 16 rfl rfl)
theorem dL_law_1929 : decode cL_law 1929 = .ok (.istore 6, 2) := dk_54 6 (dk_at dksL_law_78 19 rfl rfl)
theorem dL_law_1931 : decode cL_law 1931 = .ok (.aload_n 2, 1) := dk_44 (dk_at dksL_law_78 21 rfl rfl)
theorem dL_law_1932 : decode cL_law 1932 = .ok (.invokevirtual 107, 3) := dk_182 0 107 (dk_at dksL_law_79 0 rfl rfl)
theorem dL_law_1935 : decode cL_law 1935 = .ok (.iload 5, 2) := dk_21 5 (dk_at dksL_law_79 3 rfl rfl)
theorem dL_law_1937 : decode cL_law 1937 = .ok (.if_icmp .eq 5, 3) := dk_159 0 5 (dk_at dksL_law_79 5 rfl rfl)
theorem dL_law_1940 : decode cL_law 1940 = .ok (.iconst 0, 1) := dk_3 (dk_at dksL_law_79 8 rfl rfl)
theorem dL_law_1941 : decode cL_law 1941 = .ok (.ireturn, 1) := dk_172 (dk_at dksL_law_79 9 rfl rfl)
theorem dL_law_1942 : decode cL_law 1942 = .ok (.iload 5, 2) := dk_21 5 (dk_at dksL_law_79 10 rfl rfl)
theorem dL_law_1944 : decode cL_law 1944 = .ok (.ifCond .ne 15, 3) := dk_154 0 15 (dk_at dksL_law_79 12 rfl rfl)
theorem dL_law_1947 : decode cL_law 1947 = .ok (.aload_n 3, 1) := dk_45 (dk_at dksL_law_79 15 rfl rfl)
theorem dL_law_1948 : decode cL_law 1948 = .ok (.iconst 0, 1) := dk_3 (dk_at dksL_law_79 16 rfl rfl)
theorem dL_law_1949 : decode cL_law 1949 = .ok (.laload, 1) := dk_47 (dk_at dksL_law_79 17 rfl rfl)
theorem dL_law_1950 : decode cL_law 1950 = .ok (.iload 6, 2) := dk_21 6 (dk_at dksL_law_79 18 rfl rfl)
theorem dL_law_1952 : decode cL_law 1952 = .ok (.i2l, 1) := dk_133 (dk_at dksL_law_79 20 rfl rfl)
theorem dL_law_1953 : decode cL_law 1953 = .ok (.lcmp, 1) := dk_148 (dk_at dksL_law_79 21 rfl rfl)
theorem dL_law_1954 : decode cL_law 1954 = .ok (.ifCond .eq 5, 3) := dk_153 0 5 (dk_at dksL_law_80 0 rfl rfl)
theorem dL_law_1957 : decode cL_law 1957 = .ok (.iconst 0, 1) := dk_3 (dk_at dksL_law_80 3 rfl rfl)
theorem dL_law_1958 : decode cL_law 1958 = .ok (.ireturn, 1) := dk_172 (dk_at dksL_law_80 4 rfl rfl)
theorem dL_law_1959 : decode cL_law 1959 = .ok (.goto 122, 3) := dk_167 0 122 (dk_at dksL_law_80 5 rfl rfl)
theorem dL_law_1962 : decode cL_law 1962 = .ok (.aload_n 1, 1) := dk_43 (dk_at dksL_law_80 8 rfl rfl)
theorem dL_law_1963 : decode cL_law 1963 = .ok (.aload_n 0, 1) := dk_42 (dk_at dksL_law_80 9 rfl rfl)
theorem dL_law_1964 : decode cL_law 1964 = .ok (.iload 4, 2) := dk_21 4 (dk_at dksL_law_80 10 rfl rfl)
theorem dL_law_1966 : decode cL_law 1966 = .ok (.iconst 1, 1) := dk_4 (dk_at dksL_law_80 12 rfl rfl)
theorem dL_law_1967 : decode cL_law 1967 = .ok (.iadd, 1) := dk_96 (dk_at dksL_law_80 13 rfl rfl)
theorem dL_law_1968 : decode cL_law 1968 = .ok (.iaload, 1) := dk_46 (dk_at dksL_law_80 14 rfl rfl)
theorem dL_law_1969 : decode cL_law 1969 = .ok (.aload_n 3, 1) := dk_45 (dk_at dksL_law_80 15 rfl rfl)
theorem dL_law_1970 : decode cL_law 1970 = .ok (.invokestatic 189, 3) := dk_184 0 189 (dk_at dksL_law_80 16 rfl rfl)
theorem dL_law_1973 : decode cL_law 1973 = .ok (.istore 5, 2) := dk_54 5 (dk_at dksL_law_80 19 rfl rfl)
theorem dL_law_1975 : decode cL_law 1975 = .ok (.aload_n 2, 1) := dk_44 (dk_at dksL_law_80 21 rfl rfl)
theorem dL_law_1976 : decode cL_law 1976 = .ok (.aload_n 0, 1) := dk_42 (dk_at dksL_law_80 22 rfl rfl)
theorem dL_law_1977 : decode cL_law 1977 = .ok (.iload 4, 2) := dk_21 4 (dk_at dksL_law_81 0 rfl rfl)
theorem dL_law_1979 : decode cL_law 1979 = .ok (.iconst 1, 1) := dk_4 (dk_at dksL_law_81 2 rfl rfl)
theorem dL_law_1980 : decode cL_law 1980 = .ok (.iadd, 1) := dk_96 (dk_at dksL_law_81 3 rfl rfl)
theorem dL_law_1981 : decode cL_law 1981 = .ok (.iaload, 1) := dk_46 (dk_at dksL_law_81 4 rfl rfl)
theorem dL_law_1982 : decode cL_law 1982 = .ok (.invokevirtual 191, 3) := dk_182 0 191 (dk_at dksL_law_81 5 rfl rfl)
theorem dL_law_1985 : decode cL_law 1985 = .ok (.istore 6, 2) := dk_54 6 (dk_at dksL_law_81 8 rfl rfl)
theorem dL_law_1987 : decode cL_law 1987 = .ok (.aload_n 2, 1) := dk_44 (dk_at dksL_law_81 10 rfl rfl)
theorem dL_law_1988 : decode cL_law 1988 = .ok (.invokevirtual 107, 3) := dk_182 0 107 (dk_at dksL_law_81 11 rfl rfl)
theorem dL_law_1991 : decode cL_law 1991 = .ok (.iload 5, 2) := dk_21 5 (dk_at dksL_law_81 14 rfl rfl)
theorem dL_law_1993 : decode cL_law 1993 = .ok (.if_icmp .eq 5, 3) := dk_159 0 5 (dk_at dksL_law_81 16 rfl rfl)
theorem dL_law_1996 : decode cL_law 1996 = .ok (.iconst 0, 1) := dk_3 (dk_at dksL_law_81 19 rfl rfl)
theorem dL_law_1997 : decode cL_law 1997 = .ok (.ireturn, 1) := dk_172 (dk_at dksL_law_81 20 rfl rfl)
theorem dL_law_1998 : decode cL_law 1998 = .ok (.iload 5, 2) := dk_21 5 (dk_at dksL_law_81 21 rfl rfl)
theorem dL_law_2000 : decode cL_law 2000 = .ok (.ifCond .ne 15, 3) := dk_154 0 15 (dk_at dksL_law_82 0 rfl rfl)
theorem dL_law_2003 : decode cL_law 2003 = .ok (.aload_n 3, 1) := dk_45 (dk_at dksL_law_82 3 rfl rfl)
theorem dL_law_2004 : decode cL_law 2004 = .ok (.iconst 0, 1) := dk_3 (dk_at dksL_law_82 4 rfl rfl)
theorem dL_law_2005 : decode cL_law 2005 = .ok (.laload, 1) := dk_47 (dk_at dksL_law_82 5 rfl rfl)
theorem dL_law_2006 : decode cL_law 2006 = .ok (.iload 6, 2) := dk_21 6 (dk_at dksL_law_82 6 rfl rfl)
theorem dL_law_2008 : decode cL_law 2008 = .ok (.i2l, 1) := dk_133 (dk_at dksL_law_82 8 rfl rfl)
theorem dL_law_2009 : decode cL_law 2009 = .ok (.lcmp, 1) := dk_148 (dk_at dksL_law_82 9 rfl rfl)
theorem dL_law_2010 : decode cL_law 2010 = .ok (.ifCond .eq 5, 3) := dk_153 0 5 (dk_at dksL_law_82 10 rfl rfl)
theorem dL_law_2013 : decode cL_law 2013 = .ok (.iconst 0, 1) := dk_3 (dk_at dksL_law_82 13 rfl rfl)
theorem dL_law_2014 : decode cL_law 2014 = .ok (.ireturn, 1) := dk_172 (dk_at dksL_law_82 14 rfl rfl)
theorem dL_law_2015 : decode cL_law 2015 = .ok (.goto 66, 3) := dk_167 0 66 (dk_at dksL_law_82 15 rfl rfl)
theorem dL_law_2018 : decode cL_law 2018 = .ok (.aload_n 1, 1) := dk_43 (dk_at dksL_law_82 18 rfl rfl)
theorem dL_law_2019 : decode cL_law 2019 = .ok (.aload_n 0, 1) := dk_42 (dk_at dksL_law_82 19 rfl rfl)
theorem dL_law_2020 : decode cL_law 2020 = .ok (.iload 4, 2) := dk_21 4 (dk_at dksL_law_82 20 rfl rfl)
theorem dL_law_2022 : decode cL_law 2022 = .ok (.iconst 1, 1) := dk_4 (dk_at dksL_law_82 22 rfl rfl)
theorem dL_law_2023 : decode cL_law 2023 = .ok (.iadd, 1) := dk_96 (dk_at dksL_law_82 23 rfl rfl)
theorem dL_law_2024 : decode cL_law 2024 = .ok (.iaload, 1) := dk_46 (dk_at dksL_law_83 0 rfl rfl)
theorem dL_law_2025 : decode cL_law 2025 = .ok (.aload_n 3, 1) := dk_45 (dk_at dksL_law_83 1 rfl rfl)
theorem dL_law_2026 : decode cL_law 2026 = .ok (.invokestatic 192, 3) := dk_184 0 192 (dk_at dksL_law_83 2 rfl rfl)
theorem dL_law_2029 : decode cL_law 2029 = .ok (.istore 5, 2) := dk_54 5 (dk_at dksL_law_83 5 rfl rfl)
theorem dL_law_2031 : decode cL_law 2031 = .ok (.aload_n 2, 1) := dk_44 (dk_at dksL_law_83 7 rfl rfl)
theorem dL_law_2032 : decode cL_law 2032 = .ok (.aload_n 0, 1) := dk_42 (dk_at dksL_law_83 8 rfl rfl)
theorem dL_law_2033 : decode cL_law 2033 = .ok (.iload 4, 2) := dk_21 4 (dk_at dksL_law_83 9 rfl rfl)
theorem dL_law_2035 : decode cL_law 2035 = .ok (.iconst 1, 1) := dk_4 (dk_at dksL_law_83 11 rfl rfl)
theorem dL_law_2036 : decode cL_law 2036 = .ok (.iadd, 1) := dk_96 (dk_at dksL_law_83 12 rfl rfl)
theorem dL_law_2037 : decode cL_law 2037 = .ok (.iaload, 1) := dk_46 (dk_at dksL_law_83 13 rfl rfl)
theorem dL_law_2038 : decode cL_law 2038 = .ok (.invokevirtual 194, 3) := dk_182 0 194 (dk_at dksL_law_83 14 rfl rfl)
theorem dL_law_2041 : decode cL_law 2041 = .ok (.istore 6, 2) := dk_54 6 (dk_at dksL_law_83 17 rfl rfl)
theorem dL_law_2043 : decode cL_law 2043 = .ok (.aload_n 2, 1) := dk_44 (dk_at dksL_law_83 19 rfl rfl)
theorem dL_law_2044 : decode cL_law 2044 = .ok (.invokevirtual 107, 3) := dk_182 0 107 (dk_at dksL_law_83 20 rfl rfl)
theorem dL_law_2047 : decode cL_law 2047 = .ok (.iload 5, 2) := dk_21 5 (dk_at dksL_law_84 0 rfl rfl)
theorem dL_law_2049 : decode cL_law 2049 = .ok (.if_icmp .eq 5, 3) := dk_159 0 5 (dk_at dksL_law_84 2 rfl rfl)
theorem dL_law_2052 : decode cL_law 2052 = .ok (.iconst 0, 1) := dk_3 (dk_at dksL_law_84 5 rfl rfl)
theorem dL_law_2053 : decode cL_law 2053 = .ok (.ireturn, 1) := dk_172 (dk_at dksL_law_84 6 rfl rfl)
theorem dL_law_2054 : decode cL_law 2054 = .ok (.iload 5, 2) := dk_21 5 (dk_at dksL_law_84 7 rfl rfl)
theorem dL_law_2056 : decode cL_law 2056 = .ok (.ifCond .ne 22, 3) := dk_154 0 22 (dk_at dksL_law_84 9 rfl rfl)
theorem dL_law_2059 : decode cL_law 2059 = .ok (.aload_n 3, 1) := dk_45 (dk_at dksL_law_84 12 rfl rfl)
theorem dL_law_2060 : decode cL_law 2060 = .ok (.iconst 0, 1) := dk_3 (dk_at dksL_law_84 13 rfl rfl)
theorem dL_law_2061 : decode cL_law 2061 = .ok (.laload, 1) := dk_47 (dk_at dksL_law_84 14 rfl rfl)
theorem dL_law_2062 : decode cL_law 2062 = .ok (.iload 6, 2) := dk_21 6 (dk_at dksL_law_84 15 rfl rfl)
theorem dL_law_2064 : decode cL_law 2064 = .ok (.ifCond .eq 7, 3) := dk_153 0 7 (dk_at dksL_law_84 17 rfl rfl)
theorem dL_law_2067 : decode cL_law 2067 = .ok (.lconst 1, 1) := dk_10 (dk_at dksL_law_84 20 rfl rfl)
theorem dL_law_2068 : decode cL_law 2068 = .ok (.goto 4, 3) := dk_167 0 4 (dk_at dksL_law_84 21 rfl rfl)
theorem dL_law_2071 : decode cL_law 2071 = .ok (.lconst 0, 1) := dk_9 (dk_at dksL_law_85 0 rfl rfl)
theorem dL_law_2072 : decode cL_law 2072 = .ok (.lcmp, 1) := dk_148 (dk_at dksL_law_85 1 rfl rfl)
theorem dL_law_2073 : decode cL_law 2073 = .ok (.ifCond .eq 5, 3) := dk_153 0 5 (dk_at dksL_law_85 2 rfl rfl)
theorem dL_law_2076 : decode cL_law 2076 = .ok (.iconst 0, 1) := dk_3 (dk_at dksL_law_85 5 rfl rfl)
theorem dL_law_2077 : decode cL_law 2077 = .ok (.ireturn, 1) := dk_172 (dk_at dksL_law_85 6 rfl rfl)
theorem dL_law_2078 : decode cL_law 2078 = .ok (.goto 3, 3) := dk_167 0 3 (dk_at dksL_law_85 7 rfl rfl)
theorem dL_law_2081 : decode cL_law 2081 = .ok (.iinc 4 6, 3) := dk_132 4 6 (dk_at dksL_law_85 10 rfl rfl)
theorem dL_law_2084 : decode cL_law 2084 = .ok (.goto (-2061), 3) := dk_167 247 243 (dk_at dksL_law_85 13 rfl rfl)
theorem dL_law_2087 : decode cL_law 2087 = .ok (.iconst 1, 1) := dk_4 (dk_at dksL_law_85 16 rfl rfl)
theorem dL_law_2088 : decode cL_law 2088 = .ok (.ireturn, 1) := dk_172 (dk_at dksL_law_85 17 rfl rfl)
