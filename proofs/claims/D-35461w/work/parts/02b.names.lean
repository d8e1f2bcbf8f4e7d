/-! Patternforge -/
set_option maxRecDepth 100000
def RX1 : String := "Patternforge"
def TX1 : u_T := fun k => match k with
  | 0 => ("Patternforge", "types", "Ljava/util/ArrayList;", true)
  | 1 => ("Patternforge", "allValues", "Ljava/util/ArrayList;", true)
  | 2 => ("Patternforge", "patterns", "Ljava/util/ArrayList;", true)
  | 3 => ("Patternforge", "views", "[[I", true)
  | 4 => ("Patternforge", "kinds", "[I", true)
  | 5 => ("Patternforge", "columns", "I", false)
  | 6 => ("Patternforge", "cases", "Ljava/util/ArrayList;", true)
  | 7 => ("Patternforge", "running", "LPatternforge$Running;", true)
  | 8 => ("Patternforge", "firstTree", "LPatternforge$Tree;", true)
  | 9 => ("Patternforge", "mostTree", "LPatternforge$Tree;", true)
  | 10 => ("Patternforge", "automaton", "LPatternforge$Automaton;", true)
  | _ => ("Patternforge", "latest", "I", false)
def tyX1 : Nat → FieldType := fun k => match k with
  | 0 => .object "java/util/ArrayList"
  | 1 => .object "java/util/ArrayList"
  | 2 => .object "java/util/ArrayList"
  | 3 => .array (.array .int)
  | 4 => .array .int
  | 5 => .int
  | 6 => .object "java/util/ArrayList"
  | 7 => .object "Patternforge$Running"
  | 8 => .object "Patternforge$Tree"
  | 9 => .object "Patternforge$Tree"
  | 10 => .object "Patternforge$Automaton"
  | _ => .int
abbrev wsX10 : List Cond := u_ws RX1 TX1 12
theorem nmX1 : ∀ a, a < 12 → ∀ b, b < 12 → a ≠ b → (TX1 a).2.1 ≠ (TX1 b).2.1 := by decide +kernel
theorem tyX1_ok : ∀ k, k < 12 → parseFieldDescriptor (TX1 k).2.2.1 = some (tyX1 k) := by decide +kernel
abbrev cX1_init : ByteArray := prog_1_method_9_code
def yX1_init : MethodName := ⟨RX1, "<init>", "()V"⟩
def dkwX1_init_8 : List UInt8 := [167, 255, 219, 42, 180, 0, 52, 182, 0, 83, 177]
abbrev dktX1_init_8 : List UInt8 := dkwX1_init_8 ++ []
def dkwX1_init_7 : List UInt8 := [4, 79, 89, 4, 3, 79, 89, 5, 3, 79, 89, 6, 16, 10, 79, 184, 0, 15, 83, 132, 1, 1]
abbrev dktX1_init_7 : List UInt8 := dkwX1_init_7 ++ dktX1_init_8
def dkwX1_init_6 : List UInt8 := [87, 132, 1, 1, 167, 255, 233, 3, 60, 27, 6, 162, 0, 38, 42, 180, 0, 37, 27, 7, 188, 10, 89, 3]
abbrev dktX1_init_6 : List UInt8 := dkwX1_init_6 ++ dktX1_init_7
def dkwX1_init_5 : List UInt8 := [181, 0, 75, 3, 60, 27, 7, 162, 0, 24, 42, 180, 0, 25, 187, 0, 22, 89, 183, 0, 24, 182, 0, 79]
abbrev dktX1_init_5 : List UInt8 := dkwX1_init_5 ++ dktX1_init_6
def dkwX1_init_4 : List UInt8 := [42, 4, 183, 0, 58, 181, 0, 65, 42, 187, 0, 68, 89, 42, 183, 0, 70, 181, 0, 71, 42, 2]
abbrev dktX1_init_4 : List UInt8 := dkwX1_init_4 ++ dktX1_init_5
def dkwX1_init_3 : List UInt8 := [183, 0, 49, 181, 0, 52, 42, 187, 0, 56, 89, 42, 3, 183, 0, 58, 181, 0, 61, 42, 187, 0, 56, 89]
abbrev dktX1_init_3 : List UInt8 := dkwX1_init_3 ++ dktX1_init_4
def dkwX1_init_2 : List UInt8 := [188, 10, 181, 0, 41, 42, 187, 0, 22, 89, 183, 0, 24, 181, 0, 44, 42, 187, 0, 47, 89, 42]
abbrev dktX1_init_2 : List UInt8 := dkwX1_init_2 ++ dktX1_init_3
def dkwX1_init_1 : List UInt8 := [181, 0, 29, 42, 187, 0, 22, 89, 183, 0, 24, 181, 0, 32, 42, 6, 189, 0, 35, 181, 0, 37, 42, 6]
abbrev dktX1_init_1 : List UInt8 := dkwX1_init_1 ++ dktX1_init_2
def dkwX1_init_0 : List UInt8 := [42, 183, 0, 19, 42, 187, 0, 22, 89, 183, 0, 24, 181, 0, 25, 42, 187, 0, 22, 89, 183, 0, 24]
abbrev dktX1_init_0 : List UInt8 := dkwX1_init_0 ++ dktX1_init_1
theorem dksX1_init_0 : cX1_init.data.toList.drop 0 = dktX1_init_0 := by decide +kernel
theorem dksX1_init_1 : cX1_init.data.toList.drop 23 = dktX1_init_1 := dk_seg dksX1_init_0 23 rfl rfl
theorem dksX1_init_2 : cX1_init.data.toList.drop 47 = dktX1_init_2 := dk_seg dksX1_init_1 24 rfl rfl
theorem dksX1_init_3 : cX1_init.data.toList.drop 69 = dktX1_init_3 := dk_seg dksX1_init_2 22 rfl rfl
theorem dksX1_init_4 : cX1_init.data.toList.drop 93 = dktX1_init_4 := dk_seg dksX1_init_3 24 rfl rfl
theorem dksX1_init_5 : cX1_init.data.toList.drop 115 = dktX1_init_5 := dk_seg dksX1_init_4 22 rfl rfl
theorem dksX1_init_6 : cX1_init.data.toList.drop 139 = dktX1_init_6 := dk_seg dksX1_init_5 24 rfl rfl
theorem dksX1_init_7 : cX1_init.data.toList.drop 163 = dktX1_init_7 := dk_seg dksX1_init_6 24 rfl rfl
theorem dksX1_init_8 : cX1_init.data.toList.drop 185 = dktX1_init_8 := dk_seg dksX1_init_7 22 rfl rfl
theorem dX1_init_0 : decode cX1_init 0 = .ok (.aload_n 0, 1) := dk_42 (dk_at dksX1_init_0 0 rfl rfl)
theorem dX1_init_1 : decode cX1_init 1 = .ok (.invokespecial 19, 3) := dk_183 0 19 (dk_at dksX1_init_0 1 rfl rfl)
theorem dX1_init_4 : decode cX1_init 4 = .ok (.aload_n 0, 1) := dk_42 (dk_at dksX1_init_0 4 rfl rfl)
theorem dX1_init_5 : decode cX1_init 5 = .ok (.new 22, 3) := dk_187 0 22 (dk_at dksX1_init_0 5 rfl rfl)
theorem dX1_init_8 : decode cX1_init 8 = .ok (.dup, 1) := dk_89 (dk_at dksX1_init_0 8 rfl rfl)
theorem dX1_init_9 : decode cX1_init 9 = .ok (.invokespecial 24, 3) := dk_183 0 24 (dk_at dksX1_init_0 9 rfl rfl)
theorem dX1_init_12 : decode cX1_init 12 = .ok (.putfield 25, 3) := dk_181 0 25 (dk_at dksX1_init_0 12 rfl rfl)
theorem dX1_init_15 : decode cX1_init 15 = .ok (.aload_n 0, 1) := dk_42 (dk_at dksX1_init_0 15 rfl rfl)
theorem dX1_init_16 : decode cX1_init 16 = .ok (.new 22, 3) := dk_187 0 22 (dk_at dksX1_init_0 16 rfl rfl)
theorem dX1_init_19 : decode cX1_init 19 = .ok (.dup, 1) := dk_89 (dk_at dksX1_init_0 19 rfl rfl)
theorem dX1_init_20 : decode cX1_init 20 = .ok (.invokespecial 24, 3) := dk_183 0 24 (dk_at dksX1_init_0 20 rfl rfl)
theorem dX1_init_23 : decode cX1_init 23 = .ok (.putfield 29, 3) := dk_181 0 29 (dk_at dksX1_init_1 0 rfl rfl)
theorem dX1_init_26 : decode cX1_init 26 = .ok (.aload_n 0, 1) := dk_42 (dk_at dksX1_init_1 3 rfl rfl)
theorem dX1_init_27 : decode cX1_init 27 = .ok (.new 22, 3) := dk_187 0 22 (dk_at dksX1_init_1 4 rfl rfl)
theorem dX1_init_30 : decode cX1_init 30 = .ok (.dup, 1) := dk_89 (dk_at dksX1_init_1 7 rfl rfl)
theorem dX1_init_31 : decode cX1_init 31 = .ok (.invokespecial 24, 3) := dk_183 0 24 (dk_at dksX1_init_1 8 rfl rfl)
theorem dX1_init_34 : decode cX1_init 34 = .ok (.putfield 32, 3) := dk_181 0 32 (dk_at dksX1_init_1 11 rfl rfl)
theorem dX1_init_37 : decode cX1_init 37 = .ok (.aload_n 0, 1) := dk_42 (dk_at dksX1_init_1 14 rfl rfl)
theorem dX1_init_38 : decode cX1_init 38 = .ok (.iconst 3, 1) := dk_6 (dk_at dksX1_init_1 15 rfl rfl)
theorem dX1_init_39 : decode cX1_init 39 = .ok (.anewarray 35, 3) := dk_189 0 35 (dk_at dksX1_init_1 16 rfl rfl)
theorem dX1_init_42 : decode cX1_init 42 = .ok (.putfield 37, 3) := dk_181 0 37 (dk_at dksX1_init_1 19 rfl rfl)
theorem dX1_init_45 : decode cX1_init 45 = .ok (.aload_n 0, 1) := dk_42 (dk_at dksX1_init_1 22 rfl rfl)
theorem dX1_init_46 : decode cX1_init 46 = .ok (.iconst 3, 1) := dk_6 (dk_at dksX1_init_1 23 rfl rfl)
theorem dX1_init_47 : decode cX1_init 47 = .ok (.newarray .int, 2) := dk_188_10 (dk_at dksX1_init_2 0 rfl rfl)
theorem dX1_init_49 : decode cX1_init 49 = .ok (.putfield 41, 3) := dk_181 0 41 (dk_at dksX1_init_2 2 rfl rfl)
theorem dX1_init_52 : decode cX1_init 52 = .ok (.aload_n 0, 1) := dk_42 (dk_at dksX1_init_2 5 rfl rfl)
theorem dX1_init_53 : decode cX1_init 53 = .ok (.new 22, 3) := dk_187 0 22 (dk_at dksX1_init_2 6 rfl rfl)
theorem dX1_init_56 : decode cX1_init 56 = .ok (.dup, 1) := dk_89 (dk_at dksX1_init_2 9 rfl rfl)
theorem dX1_init_57 : decode cX1_init 57 = .ok (.invokespecial 24, 3) := dk_183 0 24 (dk_at dksX1_init_2 10 rfl rfl)
theorem dX1_init_60 : decode cX1_init 60 = .ok (.putfield 44, 3) := dk_181 0 44 (dk_at dksX1_init_2 13 rfl rfl)
theorem dX1_init_63 : decode cX1_init 63 = .ok (.aload_n 0, 1) := dk_42 (dk_at dksX1_init_2 16 rfl rfl)
theorem dX1_init_64 : decode cX1_init 64 = .ok (.new 47, 3) := dk_187 0 47 (dk_at dksX1_init_2 17 rfl rfl)
theorem dX1_init_67 : decode cX1_init 67 = .ok (.dup, 1) := dk_89 (dk_at dksX1_init_2 20 rfl rfl)
theorem dX1_init_68 : decode cX1_init 68 = .ok (.aload_n 0, 1) := dk_42 (dk_at dksX1_init_2 21 rfl rfl)
theorem dX1_init_69 : decode cX1_init 69 = .ok (.invokespecial 49, 3) := dk_183 0 49 (dk_at dksX1_init_3 0 rfl rfl)
theorem dX1_init_72 : decode cX1_init 72 = .ok (.putfield 52, 3) := dk_181 0 52 (dk_at dksX1_init_3 3 rfl rfl)
theorem dX1_init_75 : decode cX1_init 75 = .ok (.aload_n 0, 1) := dk_42 (dk_at dksX1_init_3 6 rfl rfl)
theorem dX1_init_76 : decode cX1_init 76 = .ok (.new 56, 3) := dk_187 0 56 (dk_at dksX1_init_3 7 rfl rfl)
theorem dX1_init_79 : decode cX1_init 79 = .ok (.dup, 1) := dk_89 (dk_at dksX1_init_3 10 rfl rfl)
theorem dX1_init_80 : decode cX1_init 80 = .ok (.aload_n 0, 1) := dk_42 (dk_at dksX1_init_3 11 rfl rfl)
theorem dX1_init_81 : decode cX1_init 81 = .ok (.iconst 0, 1) := dk_3 (dk_at dksX1_init_3 12 rfl rfl)
theorem dX1_init_82 : decode cX1_init 82 = .ok (.invokespecial 58, 3) := dk_183 0 58 (dk_at dksX1_init_3 13 rfl rfl)
theorem dX1_init_85 : decode cX1_init 85 = .ok (.putfield 61, 3) := dk_181 0 61 (dk_at dksX1_init_3 16 rfl rfl)
theorem dX1_init_88 : decode cX1_init 88 = .ok (.aload_n 0, 1) := dk_42 (dk_at dksX1_init_3 19 rfl rfl)
theorem dX1_init_89 : decode cX1_init 89 = .ok (.new 56, 3) := dk_187 0 56 (dk_at dksX1_init_3 20 rfl rfl)
theorem dX1_init_92 : decode cX1_init 92 = .ok (.dup, 1) := dk_89 (dk_at dksX1_init_3 23 rfl rfl)
theorem dX1_init_93 : decode cX1_init 93 = .ok (.aload_n 0, 1) := dk_42 (dk_at dksX1_init_4 0 rfl rfl)
theorem dX1_init_94 : decode cX1_init 94 = .ok (.iconst 1, 1) := dk_4 (dk_at dksX1_init_4 1 rfl rfl)
theorem dX1_init_95 : decode cX1_init 95 = .ok (.invokespecial 58, 3) := dk_183 0 58 (dk_at dksX1_init_4 2 rfl rfl)
theorem dX1_init_98 : decode cX1_init 98 = .ok (.putfield 65, 3) := dk_181 0 65 (dk_at dksX1_init_4 5 rfl rfl)
theorem dX1_init_101 : decode cX1_init 101 = .ok (.aload_n 0, 1) := dk_42 (dk_at dksX1_init_4 8 rfl rfl)
theorem dX1_init_102 : decode cX1_init 102 = .ok (.new 68, 3) := dk_187 0 68 (dk_at dksX1_init_4 9 rfl rfl)
theorem dX1_init_105 : decode cX1_init 105 = .ok (.dup, 1) := dk_89 (dk_at dksX1_init_4 12 rfl rfl)
theorem dX1_init_106 : decode cX1_init 106 = .ok (.aload_n 0, 1) := dk_42 (dk_at dksX1_init_4 13 rfl rfl)
theorem dX1_init_107 : decode cX1_init 107 = .ok (.invokespecial 70, 3) := dk_183 0 70 (dk_at dksX1_init_4 14 rfl rfl)
theorem dX1_init_110 : decode cX1_init 110 = .ok (.putfield 71, 3) := dk_181 0 71 (dk_at dksX1_init_4 17 rfl rfl)
theorem dX1_init_113 : decode cX1_init 113 = .ok (.aload_n 0, 1) := dk_42 (dk_at dksX1_init_4 20 rfl rfl)
theorem dX1_init_114 : decode cX1_init 114 = .ok (.iconst (-1), 1) := dk_2 (dk_at dksX1_init_4 21 rfl rfl)
theorem dX1_init_115 : decode cX1_init 115 = .ok (.putfield 75, 3) := dk_181 0 75 (dk_at dksX1_init_5 0 rfl rfl)
theorem dX1_init_118 : decode cX1_init 118 = .ok (.iconst 0, 1) := dk_3 (dk_at dksX1_init_5 3 rfl rfl)
theorem dX1_init_119 : decode cX1_init 119 = .ok (.istore_n 1, 1) := dk_60 (dk_at dksX1_init_5 4 rfl rfl)
theorem dX1_init_120 : decode cX1_init 120 = .ok (.iload_n 1, 1) := dk_27 (dk_at dksX1_init_5 5 rfl rfl)
theorem dX1_init_121 : decode cX1_init 121 = .ok (.iconst 4, 1) := dk_7 (dk_at dksX1_init_5 6 rfl rfl)
theorem dX1_init_122 : decode cX1_init 122 = .ok (.if_icmp .ge 24, 3) := dk_162 0 24 (dk_at dksX1_init_5 7 rfl rfl)
theorem dX1_init_125 : decode cX1_init 125 = .ok (.aload_n 0, 1) := dk_42 (dk_at dksX1_init_5 10 rfl rfl)
theorem dX1_init_126 : decode cX1_init 126 = .ok (.getfield 25, 3) := dk_180 0 25 (dk_at dksX1_init_5 11 rfl rfl)
theorem dX1_init_129 : decode cX1_init 129 = .ok (.new 22, 3) := dk_187 0 22 (dk_at dksX1_init_5 14 rfl rfl)
theorem dX1_init_132 : decode cX1_init 132 = .ok (.dup, 1) := dk_89 (dk_at dksX1_init_5 17 rfl rfl)
theorem dX1_init_133 : decode cX1_init 133 = .ok (.invokespecial 24, 3) := dk_183 0 24 (dk_at dksX1_init_5 18 rfl rfl)
theorem dX1_init_136 : decode cX1_init 136 = .ok (.invokevirtual 79, 3) := dk_182 0 79 (dk_at dksX1_init_5 21 rfl rfl)
theorem dX1_init_139 : decode cX1_init 139 = .ok (.pop, 1) := dk_87 (dk_at dksX1_init_6 0 rfl rfl)
theorem dX1_init_140 : decode cX1_init 140 = .ok (.iinc 1 1, 3) := dk_132 1 1 (dk_at dksX1_init_6 1 rfl rfl)
theorem dX1_init_143 : decode cX1_init 143 = .ok (.goto (-23), 3) := dk_167 255 233 (dk_at dksX1_init_6 4 rfl rfl)
theorem dX1_init_146 : decode cX1_init 146 = .ok (.iconst 0, 1) := dk_3 (dk_at dksX1_init_6 7 rfl rfl)
theorem dX1_init_147 : decode cX1_init 147 = .ok (.istore_n 1, 1) := dk_60 (dk_at dksX1_init_6 8 rfl rfl)
theorem dX1_init_148 : decode cX1_init 148 = .ok (.iload_n 1, 1) := dk_27 (dk_at dksX1_init_6 9 rfl rfl)
theorem dX1_init_149 : decode cX1_init 149 = .ok (.iconst 3, 1) := dk_6 (dk_at dksX1_init_6 10 rfl rfl)
theorem dX1_init_150 : decode cX1_init 150 = .ok (.if_icmp .ge 38, 3) := dk_162 0 38 (dk_at dksX1_init_6 11 rfl rfl)
theorem dX1_init_153 : decode cX1_init 153 = .ok (.aload_n 0, 1) := dk_42 (dk_at dksX1_init_6 14 rfl rfl)
theorem dX1_init_154 : decode cX1_init 154 = .ok (.getfield 37, 3) := dk_180 0 37 (dk_at dksX1_init_6 15 rfl rfl)
theorem dX1_init_157 : decode cX1_init 157 = .ok (.iload_n 1, 1) := dk_27 (dk_at dksX1_init_6 18 rfl rfl)
theorem dX1_init_158 : decode cX1_init 158 = .ok (.iconst 4, 1) := dk_7 (dk_at dksX1_init_6 19 rfl rfl)
theorem dX1_init_159 : decode cX1_init 159 = .ok (.newarray .int, 2) := dk_188_10 (dk_at dksX1_init_6 20 rfl rfl)
theorem dX1_init_161 : decode cX1_init 161 = .ok (.dup, 1) := dk_89 (dk_at dksX1_init_6 22 rfl rfl)
theorem dX1_init_162 : decode cX1_init 162 = .ok (.iconst 0, 1) := dk_3 (dk_at dksX1_init_6 23 rfl rfl)
theorem dX1_init_163 : decode cX1_init 163 = .ok (.iconst 1, 1) := dk_4 (dk_at dksX1_init_7 0 rfl rfl)
theorem dX1_init_164 : decode cX1_init 164 = .ok (.iastore, 1) := dk_79 (dk_at dksX1_init_7 1 rfl rfl)
theorem dX1_init_165 : decode cX1_init 165 = .ok (.dup, 1) := dk_89 (dk_at dksX1_init_7 2 rfl rfl)
theorem dX1_init_166 : decode cX1_init 166 = .ok (.iconst 1, 1) := dk_4 (dk_at dksX1_init_7 3 rfl rfl)
theorem dX1_init_167 : decode cX1_init 167 = .ok (.iconst 0, 1) := dk_3 (dk_at dksX1_init_7 4 rfl rfl)
theorem dX1_init_168 : decode cX1_init 168 = .ok (.iastore, 1) := dk_79 (dk_at dksX1_init_7 5 rfl rfl)
theorem dX1_init_169 : decode cX1_init 169 = .ok (.dup, 1) := dk_89 (dk_at dksX1_init_7 6 rfl rfl)
theorem dX1_init_170 : decode cX1_init 170 = .ok (.iconst 2, 1) := dk_5 (dk_at dksX1_init_7 7 rfl rfl)
theorem dX1_init_171 : decode cX1_init 171 = .ok (.iconst 0, 1) := dk_3 (dk_at dksX1_init_7 8 rfl rfl)
theorem dX1_init_172 : decode cX1_init 172 = .ok (.iastore, 1) := dk_79 (dk_at dksX1_init_7 9 rfl rfl)
theorem dX1_init_173 : decode cX1_init 173 = .ok (.dup, 1) := dk_89 (dk_at dksX1_init_7 10 rfl rfl)
theorem dX1_init_174 : decode cX1_init 174 = .ok (.iconst 3, 1) := dk_6 (dk_at dksX1_init_7 11 rfl rfl)
theorem dX1_init_175 : decode cX1_init 175 = .ok (.bipush 10, 2) := dk_16 10 (dk_at dksX1_init_7 12 rfl rfl)
theorem dX1_init_177 : decode cX1_init 177 = .ok (.iastore, 1) := dk_79 (dk_at dksX1_init_7 14 rfl rfl)
theorem dX1_init_178 : decode cX1_init 178 = .ok (.invokestatic 15, 3) := dk_184 0 15 (dk_at dksX1_init_7 15 rfl rfl)
theorem dX1_init_181 : decode cX1_init 181 = .ok (.aastore, 1) := dk_83 (dk_at dksX1_init_7 18 rfl rfl)
theorem dX1_init_182 : decode cX1_init 182 = .ok (.iinc 1 1, 3) := dk_132 1 1 (dk_at dksX1_init_7 19 rfl rfl)
theorem dX1_init_185 : decode cX1_init 185 = .ok (.goto (-37), 3) := dk_167 255 219 (dk_at dksX1_init_8 0 rfl rfl)
theorem dX1_init_188 : decode cX1_init 188 = .ok (.aload_n 0, 1) := dk_42 (dk_at dksX1_init_8 3 rfl rfl)
theorem dX1_init_189 : decode cX1_init 189 = .ok (.getfield 52, 3) := dk_180 0 52 (dk_at dksX1_init_8 4 rfl rfl)
theorem dX1_init_192 : decode cX1_init 192 = .ok (.invokevirtual 83, 3) := dk_182 0 83 (dk_at dksX1_init_8 7 rfl rfl)
theorem dX1_init_195 : decode cX1_init 195 = .ok (.return_, 1) := dk_177 (dk_at dksX1_init_8 10 rfl rfl)
abbrev cX1_row : ByteArray := prog_1_method_7_code
def yX1_row : MethodName := ⟨RX1, "row", "([I)[I"⟩
theorem dX1_row_0 : decode cX1_row 0 = .ok (.aload_n 0, 1) := by decide +kernel
theorem dX1_row_1 : decode cX1_row 1 = .ok (.areturn, 1) := by decide +kernel
abbrev cX1_tests : ByteArray := prog_1_method_51_code
def yX1_tests : MethodName := ⟨RX1, "tests", "()I"⟩
def dkwX1_tests_0 : List UInt8 := [42, 180, 0, 52, 180, 1, 136, 172]
abbrev dktX1_tests_0 : List UInt8 := dkwX1_tests_0 ++ []
theorem dksX1_tests_0 : cX1_tests.data.toList.drop 0 = dktX1_tests_0 := by decide +kernel
theorem dX1_tests_0 : decode cX1_tests 0 = .ok (.aload_n 0, 1) := dk_42 (dk_at dksX1_tests_0 0 rfl rfl)
theorem dX1_tests_1 : decode cX1_tests 1 = .ok (.getfield 52, 3) := dk_180 0 52 (dk_at dksX1_tests_0 1 rfl rfl)
theorem dX1_tests_4 : decode cX1_tests 4 = .ok (.getfield 392, 3) := dk_180 1 136 (dk_at dksX1_tests_0 4 rfl rfl)
theorem dX1_tests_7 : decode cX1_tests 7 = .ok (.ireturn, 1) := dk_172 (dk_at dksX1_tests_0 7 rfl rfl)
abbrev cX1_views : ByteArray := prog_1_method_52_code
def yX1_views : MethodName := ⟨RX1, "views", "()I"⟩
def dkwX1_views_0 : List UInt8 := [42, 180, 0, 52, 180, 1, 139, 172]
abbrev dktX1_views_0 : List UInt8 := dkwX1_views_0 ++ []
theorem dksX1_views_0 : cX1_views.data.toList.drop 0 = dktX1_views_0 := by decide +kernel
theorem dX1_views_0 : decode cX1_views 0 = .ok (.aload_n 0, 1) := dk_42 (dk_at dksX1_views_0 0 rfl rfl)
theorem dX1_views_1 : decode cX1_views 1 = .ok (.getfield 52, 3) := dk_180 0 52 (dk_at dksX1_views_0 1 rfl rfl)
theorem dX1_views_4 : decode cX1_views 4 = .ok (.getfield 395, 3) := dk_180 1 139 (dk_at dksX1_views_0 4 rfl rfl)
theorem dX1_views_7 : decode cX1_views 7 = .ok (.ireturn, 1) := dk_172 (dk_at dksX1_views_0 7 rfl rfl)
abbrev cX1_constructor : ByteArray := prog_1_method_15_code
def yX1_constructor : MethodName := ⟨RX1, "constructor", "(IIIII)I"⟩
def dkwX1_constructor_6 : List UInt8 := [192, 0, 22, 182, 0, 101, 4, 100, 172]
abbrev dktX1_constructor_6 : List UInt8 := dkwX1_constructor_6 ++ []
def dkwX1_constructor_5 : List UInt8 := [21, 4, 21, 5, 184, 0, 123, 182, 0, 79, 87, 42, 182, 0, 127, 42, 180, 0, 25, 27, 182, 0, 95]
abbrev dktX1_constructor_5 : List UInt8 := dkwX1_constructor_5 ++ dktX1_constructor_6
def dkwX1_constructor_4 : List UInt8 := [162, 0, 7, 4, 167, 0, 4, 3, 184, 0, 120, 42, 180, 0, 25, 27, 182, 0, 95, 192, 0, 22, 28, 29]
abbrev dktX1_constructor_4 : List UInt8 := dkwX1_constructor_4 ++ dktX1_constructor_5
def dkwX1_constructor_3 : List UInt8 := [4, 167, 0, 4, 3, 184, 0, 117, 42, 180, 0, 25, 27, 182, 0, 95, 192, 0, 22, 182, 0, 101, 7]
abbrev dktX1_constructor_3 : List UInt8 := dkwX1_constructor_3 ++ dktX1_constructor_4
def dkwX1_constructor_2 : List UInt8 := [184, 0, 113, 153, 0, 25, 21, 5, 28, 5, 164, 0, 7, 4, 167, 0, 4, 3, 184, 0, 113, 153, 0, 7]
abbrev dktX1_constructor_2 : List UInt8 := dkwX1_constructor_2 ++ dktX1_constructor_3
def dkwX1_constructor_1 : List UInt8 := [167, 0, 4, 3, 184, 0, 113, 153, 0, 43, 21, 4, 28, 4, 164, 0, 7, 4, 167, 0, 4, 3]
abbrev dktX1_constructor_1 : List UInt8 := dkwX1_constructor_1 ++ dktX1_constructor_2
def dkwX1_constructor_0 : List UInt8 := [27, 3, 6, 184, 0, 91, 184, 0, 105, 28, 3, 6, 184, 0, 91, 153, 0, 59, 29, 28, 158, 0, 7, 4]
abbrev dktX1_constructor_0 : List UInt8 := dkwX1_constructor_0 ++ dktX1_constructor_1
theorem dksX1_constructor_0 : cX1_constructor.data.toList.drop 0 = dktX1_constructor_0 := by decide +kernel
theorem dksX1_constructor_1 : cX1_constructor.data.toList.drop 24 = dktX1_constructor_1 := dk_seg dksX1_constructor_0 24 rfl rfl
theorem dksX1_constructor_2 : cX1_constructor.data.toList.drop 46 = dktX1_constructor_2 := dk_seg dksX1_constructor_1 22 rfl rfl
theorem dksX1_constructor_3 : cX1_constructor.data.toList.drop 70 = dktX1_constructor_3 := dk_seg dksX1_constructor_2 24 rfl rfl
theorem dksX1_constructor_4 : cX1_constructor.data.toList.drop 93 = dktX1_constructor_4 := dk_seg dksX1_constructor_3 23 rfl rfl
theorem dksX1_constructor_5 : cX1_constructor.data.toList.drop 117 = dktX1_constructor_5 := dk_seg dksX1_constructor_4 24 rfl rfl
theorem dksX1_constructor_6 : cX1_constructor.data.toList.drop 140 = dktX1_constructor_6 := dk_seg dksX1_constructor_5 23 rfl rfl
theorem dX1_constructor_0 : decode cX1_constructor 0 = .ok (.iload_n 1, 1) := dk_27 (dk_at dksX1_constructor_0 0 rfl rfl)
theorem dX1_constructor_1 : decode cX1_constructor 1 = .ok (.iconst 0, 1) := dk_3 (dk_at dksX1_constructor_0 1 rfl rfl)
theorem dX1_constructor_2 : decode cX1_constructor 2 = .ok (.iconst 3, 1) := dk_6 (dk_at dksX1_constructor_0 2 rfl rfl)
theorem dX1_constructor_3 : decode cX1_constructor 3 = .ok (.invokestatic 91, 3) := dk_184 0 91 (dk_at dksX1_constructor_0 3 rfl rfl)
theorem dX1_constructor_6 : decode cX1_constructor 6 = .ok (.invokestatic 105, 3) := dk_184 0 105 (dk_at dksX1_constructor_0 6 rfl rfl)
theorem dX1_constructor_9 : decode cX1_constructor 9 = .ok (.iload_n 2, 1) := dk_28 (dk_at dksX1_constructor_0 9 rfl rfl)
theorem dX1_constructor_10 : decode cX1_constructor 10 = .ok (.iconst 0, 1) := dk_3 (dk_at dksX1_constructor_0 10 rfl rfl)
theorem dX1_constructor_11 : decode cX1_constructor 11 = .ok (.iconst 3, 1) := dk_6 (dk_at dksX1_constructor_0 11 rfl rfl)
theorem dX1_constructor_12 : decode cX1_constructor 12 = .ok (.invokestatic 91, 3) := dk_184 0 91 (dk_at dksX1_constructor_0 12 rfl rfl)
theorem dX1_constructor_15 : decode cX1_constructor 15 = .ok (.ifCond .eq 59, 3) := dk_153 0 59 (dk_at dksX1_constructor_0 15 rfl rfl)
theorem dX1_constructor_18 : decode cX1_constructor 18 = .ok (.iload_n 3, 1) := dk_29 (dk_at dksX1_constructor_0 18 rfl rfl)
theorem dX1_constructor_19 : decode cX1_constructor 19 = .ok (.iload_n 2, 1) := dk_28 (dk_at dksX1_constructor_0 19 rfl rfl)
theorem dX1_constructor_20 : decode cX1_constructor 20 = .ok (.ifCond .le 7, 3) := dk_158 0 7 (dk_at dksX1_constructor_0 20 rfl rfl)
theorem dX1_constructor_23 : decode cX1_constructor 23 = .ok (.iconst 1, 1) := dk_4 (dk_at dksX1_constructor_0 23 rfl rfl)
theorem dX1_constructor_24 : decode cX1_constructor 24 = .ok (.goto 4, 3) := dk_167 0 4 (dk_at dksX1_constructor_1 0 rfl rfl)
theorem dX1_constructor_27 : decode cX1_constructor 27 = .ok (.iconst 0, 1) := dk_3 (dk_at dksX1_constructor_1 3 rfl rfl)
theorem dX1_constructor_28 : decode cX1_constructor 28 = .ok (.invokestatic 113, 3) := dk_184 0 113 (dk_at dksX1_constructor_1 4 rfl rfl)
theorem dX1_constructor_31 : decode cX1_constructor 31 = .ok (.ifCond .eq 43, 3) := dk_153 0 43 (dk_at dksX1_constructor_1 7 rfl rfl)
theorem dX1_constructor_34 : decode cX1_constructor 34 = .ok (.iload 4, 2) := dk_21 4 (dk_at dksX1_constructor_1 10 rfl rfl)
theorem dX1_constructor_36 : decode cX1_constructor 36 = .ok (.iload_n 2, 1) := dk_28 (dk_at dksX1_constructor_1 12 rfl rfl)
theorem dX1_constructor_37 : decode cX1_constructor 37 = .ok (.iconst 1, 1) := dk_4 (dk_at dksX1_constructor_1 13 rfl rfl)
theorem dX1_constructor_38 : decode cX1_constructor 38 = .ok (.if_icmp .le 7, 3) := dk_164 0 7 (dk_at dksX1_constructor_1 14 rfl rfl)
theorem dX1_constructor_41 : decode cX1_constructor 41 = .ok (.iconst 1, 1) := dk_4 (dk_at dksX1_constructor_1 17 rfl rfl)
theorem dX1_constructor_42 : decode cX1_constructor 42 = .ok (.goto 4, 3) := dk_167 0 4 (dk_at dksX1_constructor_1 18 rfl rfl)
theorem dX1_constructor_45 : decode cX1_constructor 45 = .ok (.iconst 0, 1) := dk_3 (dk_at dksX1_constructor_1 21 rfl rfl)
theorem dX1_constructor_46 : decode cX1_constructor 46 = .ok (.invokestatic 113, 3) := dk_184 0 113 (dk_at dksX1_constructor_2 0 rfl rfl)
theorem dX1_constructor_49 : decode cX1_constructor 49 = .ok (.ifCond .eq 25, 3) := dk_153 0 25 (dk_at dksX1_constructor_2 3 rfl rfl)
theorem dX1_constructor_52 : decode cX1_constructor 52 = .ok (.iload 5, 2) := dk_21 5 (dk_at dksX1_constructor_2 6 rfl rfl)
theorem dX1_constructor_54 : decode cX1_constructor 54 = .ok (.iload_n 2, 1) := dk_28 (dk_at dksX1_constructor_2 8 rfl rfl)
theorem dX1_constructor_55 : decode cX1_constructor 55 = .ok (.iconst 2, 1) := dk_5 (dk_at dksX1_constructor_2 9 rfl rfl)
theorem dX1_constructor_56 : decode cX1_constructor 56 = .ok (.if_icmp .le 7, 3) := dk_164 0 7 (dk_at dksX1_constructor_2 10 rfl rfl)
theorem dX1_constructor_59 : decode cX1_constructor 59 = .ok (.iconst 1, 1) := dk_4 (dk_at dksX1_constructor_2 13 rfl rfl)
theorem dX1_constructor_60 : decode cX1_constructor 60 = .ok (.goto 4, 3) := dk_167 0 4 (dk_at dksX1_constructor_2 14 rfl rfl)
theorem dX1_constructor_63 : decode cX1_constructor 63 = .ok (.iconst 0, 1) := dk_3 (dk_at dksX1_constructor_2 17 rfl rfl)
theorem dX1_constructor_64 : decode cX1_constructor 64 = .ok (.invokestatic 113, 3) := dk_184 0 113 (dk_at dksX1_constructor_2 18 rfl rfl)
theorem dX1_constructor_67 : decode cX1_constructor 67 = .ok (.ifCond .eq 7, 3) := dk_153 0 7 (dk_at dksX1_constructor_2 21 rfl rfl)
theorem dX1_constructor_70 : decode cX1_constructor 70 = .ok (.iconst 1, 1) := dk_4 (dk_at dksX1_constructor_3 0 rfl rfl)
theorem dX1_constructor_71 : decode cX1_constructor 71 = .ok (.goto 4, 3) := dk_167 0 4 (dk_at dksX1_constructor_3 1 rfl rfl)
theorem dX1_constructor_74 : decode cX1_constructor 74 = .ok (.iconst 0, 1) := dk_3 (dk_at dksX1_constructor_3 4 rfl rfl)
theorem dX1_constructor_75 : decode cX1_constructor 75 = .ok (.invokestatic 117, 3) := dk_184 0 117 (dk_at dksX1_constructor_3 5 rfl rfl)
theorem dX1_constructor_78 : decode cX1_constructor 78 = .ok (.aload_n 0, 1) := dk_42 (dk_at dksX1_constructor_3 8 rfl rfl)
theorem dX1_constructor_79 : decode cX1_constructor 79 = .ok (.getfield 25, 3) := dk_180 0 25 (dk_at dksX1_constructor_3 9 rfl rfl)
theorem dX1_constructor_82 : decode cX1_constructor 82 = .ok (.iload_n 1, 1) := dk_27 (dk_at dksX1_constructor_3 12 rfl rfl)
theorem dX1_constructor_83 : decode cX1_constructor 83 = .ok (.invokevirtual 95, 3) := dk_182 0 95 (dk_at dksX1_constructor_3 13 rfl rfl)
theorem dX1_constructor_86 : decode cX1_constructor 86 = .ok (.checkcast 22, 3) := dk_192 0 22 (dk_at dksX1_constructor_3 16 rfl rfl)
theorem dX1_constructor_89 : decode cX1_constructor 89 = .ok (.invokevirtual 101, 3) := dk_182 0 101 (dk_at dksX1_constructor_3 19 rfl rfl)
theorem dX1_constructor_92 : decode cX1_constructor 92 = .ok (.iconst 4, 1) := dk_7 (dk_at dksX1_constructor_3 22 rfl rfl)
theorem dX1_constructor_93 : decode cX1_constructor 93 = .ok (.if_icmp .ge 7, 3) := dk_162 0 7 (dk_at dksX1_constructor_4 0 rfl rfl)
theorem dX1_constructor_96 : decode cX1_constructor 96 = .ok (.iconst 1, 1) := dk_4 (dk_at dksX1_constructor_4 3 rfl rfl)
theorem dX1_constructor_97 : decode cX1_constructor 97 = .ok (.goto 4, 3) := dk_167 0 4 (dk_at dksX1_constructor_4 4 rfl rfl)
theorem dX1_constructor_100 : decode cX1_constructor 100 = .ok (.iconst 0, 1) := dk_3 (dk_at dksX1_constructor_4 7 rfl rfl)
theorem dX1_constructor_101 : decode cX1_constructor 101 = .ok (.invokestatic 120, 3) := dk_184 0 120 (dk_at dksX1_constructor_4 8 rfl rfl)
theorem dX1_constructor_104 : decode cX1_constructor 104 = .ok (.aload_n 0, 1) := dk_42 (dk_at dksX1_constructor_4 11 rfl rfl)
theorem dX1_constructor_105 : decode cX1_constructor 105 = .ok (.getfield 25, 3) := dk_180 0 25 (dk_at dksX1_constructor_4 12 rfl rfl)
theorem dX1_constructor_108 : decode cX1_constructor 108 = .ok (.iload_n 1, 1) := dk_27 (dk_at dksX1_constructor_4 15 rfl rfl)
theorem dX1_constructor_109 : decode cX1_constructor 109 = .ok (.invokevirtual 95, 3) := dk_182 0 95 (dk_at dksX1_constructor_4 16 rfl rfl)
theorem dX1_constructor_112 : decode cX1_constructor 112 = .ok (.checkcast 22, 3) := dk_192 0 22 (dk_at dksX1_constructor_4 19 rfl rfl)
theorem dX1_constructor_115 : decode cX1_constructor 115 = .ok (.iload_n 2, 1) := dk_28 (dk_at dksX1_constructor_4 22 rfl rfl)
theorem dX1_constructor_116 : decode cX1_constructor 116 = .ok (.iload_n 3, 1) := dk_29 (dk_at dksX1_constructor_4 23 rfl rfl)
theorem dX1_constructor_117 : decode cX1_constructor 117 = .ok (.iload 4, 2) := dk_21 4 (dk_at dksX1_constructor_5 0 rfl rfl)
theorem dX1_constructor_119 : decode cX1_constructor 119 = .ok (.iload 5, 2) := dk_21 5 (dk_at dksX1_constructor_5 2 rfl rfl)
theorem dX1_constructor_121 : decode cX1_constructor 121 = .ok (.invokestatic 123, 3) := dk_184 0 123 (dk_at dksX1_constructor_5 4 rfl rfl)
theorem dX1_constructor_124 : decode cX1_constructor 124 = .ok (.invokevirtual 79, 3) := dk_182 0 79 (dk_at dksX1_constructor_5 7 rfl rfl)
theorem dX1_constructor_127 : decode cX1_constructor 127 = .ok (.pop, 1) := dk_87 (dk_at dksX1_constructor_5 10 rfl rfl)
theorem dX1_constructor_128 : decode cX1_constructor 128 = .ok (.aload_n 0, 1) := dk_42 (dk_at dksX1_constructor_5 11 rfl rfl)
theorem dX1_constructor_129 : decode cX1_constructor 129 = .ok (.invokevirtual 127, 3) := dk_182 0 127 (dk_at dksX1_constructor_5 12 rfl rfl)
theorem dX1_constructor_132 : decode cX1_constructor 132 = .ok (.aload_n 0, 1) := dk_42 (dk_at dksX1_constructor_5 15 rfl rfl)
theorem dX1_constructor_133 : decode cX1_constructor 133 = .ok (.getfield 25, 3) := dk_180 0 25 (dk_at dksX1_constructor_5 16 rfl rfl)
theorem dX1_constructor_136 : decode cX1_constructor 136 = .ok (.iload_n 1, 1) := dk_27 (dk_at dksX1_constructor_5 19 rfl rfl)
theorem dX1_constructor_137 : decode cX1_constructor 137 = .ok (.invokevirtual 95, 3) := dk_182 0 95 (dk_at dksX1_constructor_5 20 rfl rfl)
theorem dX1_constructor_140 : decode cX1_constructor 140 = .ok (.checkcast 22, 3) := dk_192 0 22 (dk_at dksX1_constructor_6 0 rfl rfl)
theorem dX1_constructor_143 : decode cX1_constructor 143 = .ok (.invokevirtual 101, 3) := dk_182 0 101 (dk_at dksX1_constructor_6 3 rfl rfl)
theorem dX1_constructor_146 : decode cX1_constructor 146 = .ok (.iconst 1, 1) := dk_4 (dk_at dksX1_constructor_6 6 rfl rfl)
theorem dX1_constructor_147 : decode cX1_constructor 147 = .ok (.isub, 1) := dk_100 (dk_at dksX1_constructor_6 7 rfl rfl)
theorem dX1_constructor_148 : decode cX1_constructor 148 = .ok (.ireturn, 1) := dk_172 (dk_at dksX1_constructor_6 8 rfl rfl)
abbrev cX1_inRange : ByteArray := prog_1_method_1_code
def yX1_inRange : MethodName := ⟨RX1, "inRange", "(III)Z"⟩
def dkwX1_inRange_0 : List UInt8 := [26, 27, 161, 0, 12, 26, 28, 163, 0, 7, 4, 167, 0, 4, 3, 172]
abbrev dktX1_inRange_0 : List UInt8 := dkwX1_inRange_0 ++ []
theorem dksX1_inRange_0 : cX1_inRange.data.toList.drop 0 = dktX1_inRange_0 := by decide +kernel
theorem dX1_inRange_0 : decode cX1_inRange 0 = .ok (.iload_n 0, 1) := dk_26 (dk_at dksX1_inRange_0 0 rfl rfl)
theorem dX1_inRange_1 : decode cX1_inRange 1 = .ok (.iload_n 1, 1) := dk_27 (dk_at dksX1_inRange_0 1 rfl rfl)
theorem dX1_inRange_2 : decode cX1_inRange 2 = .ok (.if_icmp .lt 12, 3) := dk_161 0 12 (dk_at dksX1_inRange_0 2 rfl rfl)
theorem dX1_inRange_5 : decode cX1_inRange 5 = .ok (.iload_n 0, 1) := dk_26 (dk_at dksX1_inRange_0 5 rfl rfl)
theorem dX1_inRange_6 : decode cX1_inRange 6 = .ok (.iload_n 2, 1) := dk_28 (dk_at dksX1_inRange_0 6 rfl rfl)
theorem dX1_inRange_7 : decode cX1_inRange 7 = .ok (.if_icmp .gt 7, 3) := dk_163 0 7 (dk_at dksX1_inRange_0 7 rfl rfl)
theorem dX1_inRange_10 : decode cX1_inRange 10 = .ok (.iconst 1, 1) := dk_4 (dk_at dksX1_inRange_0 10 rfl rfl)
theorem dX1_inRange_11 : decode cX1_inRange 11 = .ok (.goto 4, 3) := dk_167 0 4 (dk_at dksX1_inRange_0 11 rfl rfl)
theorem dX1_inRange_14 : decode cX1_inRange 14 = .ok (.iconst 0, 1) := dk_3 (dk_at dksX1_inRange_0 14 rfl rfl)
theorem dX1_inRange_15 : decode cX1_inRange 15 = .ok (.ireturn, 1) := dk_172 (dk_at dksX1_inRange_0 15 rfl rfl)
abbrev cX1_requireIndex : ByteArray := prog_1_method_2_code
def yX1_requireIndex : MethodName := ⟨RX1, "requireIndex", "(Z)V"⟩
def dkwX1_requireIndex_0 : List UInt8 := [26, 154, 0, 11, 187, 0, 1, 89, 183, 0, 3, 191, 177]
abbrev dktX1_requireIndex_0 : List UInt8 := dkwX1_requireIndex_0 ++ []
theorem dksX1_requireIndex_0 : cX1_requireIndex.data.toList.drop 0 = dktX1_requireIndex_0 := by decide +kernel
theorem dX1_requireIndex_0 : decode cX1_requireIndex 0 = .ok (.iload_n 0, 1) := dk_26 (dk_at dksX1_requireIndex_0 0 rfl rfl)
theorem dX1_requireIndex_1 : decode cX1_requireIndex 1 = .ok (.ifCond .ne 11, 3) := dk_154 0 11 (dk_at dksX1_requireIndex_0 1 rfl rfl)
theorem dX1_requireIndex_4 : decode cX1_requireIndex 4 = .ok (.new 1, 3) := dk_187 0 1 (dk_at dksX1_requireIndex_0 4 rfl rfl)
theorem dX1_requireIndex_7 : decode cX1_requireIndex 7 = .ok (.dup, 1) := dk_89 (dk_at dksX1_requireIndex_0 7 rfl rfl)
theorem dX1_requireIndex_8 : decode cX1_requireIndex 8 = .ok (.invokespecial 3, 3) := dk_183 0 3 (dk_at dksX1_requireIndex_0 8 rfl rfl)
theorem dX1_requireIndex_11 : decode cX1_requireIndex 11 = .ok (.athrow, 1) := dk_191 (dk_at dksX1_requireIndex_0 11 rfl rfl)
theorem dX1_requireIndex_12 : decode cX1_requireIndex 12 = .ok (.return_, 1) := dk_177 (dk_at dksX1_requireIndex_0 12 rfl rfl)
abbrev cX1_isKindOf : ByteArray := prog_1_method_14_code
def yX1_isKindOf : MethodName := ⟨RX1, "isKindOf", "(IZ)Z"⟩
def dkwX1_isKindOf_0 : List UInt8 := [27, 153, 0, 10, 26, 184, 0, 109, 167, 0, 12, 26, 154, 0, 7, 4, 167, 0, 4, 3, 172]
abbrev dktX1_isKindOf_0 : List UInt8 := dkwX1_isKindOf_0 ++ []
theorem dksX1_isKindOf_0 : cX1_isKindOf.data.toList.drop 0 = dktX1_isKindOf_0 := by decide +kernel
theorem dX1_isKindOf_0 : decode cX1_isKindOf 0 = .ok (.iload_n 1, 1) := dk_27 (dk_at dksX1_isKindOf_0 0 rfl rfl)
theorem dX1_isKindOf_1 : decode cX1_isKindOf 1 = .ok (.ifCond .eq 10, 3) := dk_153 0 10 (dk_at dksX1_isKindOf_0 1 rfl rfl)
theorem dX1_isKindOf_4 : decode cX1_isKindOf 4 = .ok (.iload_n 0, 1) := dk_26 (dk_at dksX1_isKindOf_0 4 rfl rfl)
theorem dX1_isKindOf_5 : decode cX1_isKindOf 5 = .ok (.invokestatic 109, 3) := dk_184 0 109 (dk_at dksX1_isKindOf_0 5 rfl rfl)
theorem dX1_isKindOf_8 : decode cX1_isKindOf 8 = .ok (.goto 12, 3) := dk_167 0 12 (dk_at dksX1_isKindOf_0 8 rfl rfl)
theorem dX1_isKindOf_11 : decode cX1_isKindOf 11 = .ok (.iload_n 0, 1) := dk_26 (dk_at dksX1_isKindOf_0 11 rfl rfl)
theorem dX1_isKindOf_12 : decode cX1_isKindOf 12 = .ok (.ifCond .ne 7, 3) := dk_154 0 7 (dk_at dksX1_isKindOf_0 12 rfl rfl)
theorem dX1_isKindOf_15 : decode cX1_isKindOf 15 = .ok (.iconst 1, 1) := dk_4 (dk_at dksX1_isKindOf_0 15 rfl rfl)
theorem dX1_isKindOf_16 : decode cX1_isKindOf 16 = .ok (.goto 4, 3) := dk_167 0 4 (dk_at dksX1_isKindOf_0 16 rfl rfl)
theorem dX1_isKindOf_19 : decode cX1_isKindOf 19 = .ok (.iconst 0, 1) := dk_3 (dk_at dksX1_isKindOf_0 19 rfl rfl)
theorem dX1_isKindOf_20 : decode cX1_isKindOf 20 = .ok (.ireturn, 1) := dk_172 (dk_at dksX1_isKindOf_0 20 rfl rfl)
abbrev cX1_isKind : ByteArray := prog_1_method_11_code
def yX1_isKind : MethodName := ⟨RX1, "isKind", "(I)Z"⟩
def dkwX1_isKind_0 : List UInt8 := [26, 3, 8, 184, 0, 91, 172]
abbrev dktX1_isKind_0 : List UInt8 := dkwX1_isKind_0 ++ []
theorem dksX1_isKind_0 : cX1_isKind.data.toList.drop 0 = dktX1_isKind_0 := by decide +kernel
theorem dX1_isKind_0 : decode cX1_isKind 0 = .ok (.iload_n 0, 1) := dk_26 (dk_at dksX1_isKind_0 0 rfl rfl)
theorem dX1_isKind_1 : decode cX1_isKind 1 = .ok (.iconst 0, 1) := dk_3 (dk_at dksX1_isKind_0 1 rfl rfl)
theorem dX1_isKind_2 : decode cX1_isKind 2 = .ok (.iconst 5, 1) := dk_8 (dk_at dksX1_isKind_0 2 rfl rfl)
theorem dX1_isKind_3 : decode cX1_isKind 3 = .ok (.invokestatic 91, 3) := dk_184 0 91 (dk_at dksX1_isKind_0 3 rfl rfl)
theorem dX1_isKind_6 : decode cX1_isKind 6 = .ok (.ireturn, 1) := dk_172 (dk_at dksX1_isKind_0 6 rfl rfl)
abbrev cX1_requireArgument : ByteArray := prog_1_method_3_code
def yX1_requireArgument : MethodName := ⟨RX1, "requireArgument", "(Z)V"⟩
def dkwX1_requireArgument_0 : List UInt8 := [26, 154, 0, 11, 187, 0, 7, 89, 183, 0, 9, 191, 177]
abbrev dktX1_requireArgument_0 : List UInt8 := dkwX1_requireArgument_0 ++ []
theorem dksX1_requireArgument_0 : cX1_requireArgument.data.toList.drop 0 = dktX1_requireArgument_0 := by decide +kernel
theorem dX1_requireArgument_0 : decode cX1_requireArgument 0 = .ok (.iload_n 0, 1) := dk_26 (dk_at dksX1_requireArgument_0 0 rfl rfl)
theorem dX1_requireArgument_1 : decode cX1_requireArgument 1 = .ok (.ifCond .ne 11, 3) := dk_154 0 11 (dk_at dksX1_requireArgument_0 1 rfl rfl)
theorem dX1_requireArgument_4 : decode cX1_requireArgument 4 = .ok (.new 7, 3) := dk_187 0 7 (dk_at dksX1_requireArgument_0 4 rfl rfl)
theorem dX1_requireArgument_7 : decode cX1_requireArgument 7 = .ok (.dup, 1) := dk_89 (dk_at dksX1_requireArgument_0 7 rfl rfl)
theorem dX1_requireArgument_8 : decode cX1_requireArgument 8 = .ok (.invokespecial 9, 3) := dk_183 0 9 (dk_at dksX1_requireArgument_0 8 rfl rfl)
theorem dX1_requireArgument_11 : decode cX1_requireArgument 11 = .ok (.athrow, 1) := dk_191 (dk_at dksX1_requireArgument_0 11 rfl rfl)
theorem dX1_requireArgument_12 : decode cX1_requireArgument 12 = .ok (.return_, 1) := dk_177 (dk_at dksX1_requireArgument_0 12 rfl rfl)
abbrev cX1_requireState : ByteArray := prog_1_method_4_code
def yX1_requireState : MethodName := ⟨RX1, "requireState", "(Z)V"⟩
def dkwX1_requireState_0 : List UInt8 := [26, 154, 0, 11, 187, 0, 10, 89, 183, 0, 12, 191, 177]
abbrev dktX1_requireState_0 : List UInt8 := dkwX1_requireState_0 ++ []
theorem dksX1_requireState_0 : cX1_requireState.data.toList.drop 0 = dktX1_requireState_0 := by decide +kernel
theorem dX1_requireState_0 : decode cX1_requireState 0 = .ok (.iload_n 0, 1) := dk_26 (dk_at dksX1_requireState_0 0 rfl rfl)
theorem dX1_requireState_1 : decode cX1_requireState 1 = .ok (.ifCond .ne 11, 3) := dk_154 0 11 (dk_at dksX1_requireState_0 1 rfl rfl)
theorem dX1_requireState_4 : decode cX1_requireState 4 = .ok (.new 10, 3) := dk_187 0 10 (dk_at dksX1_requireState_0 4 rfl rfl)
theorem dX1_requireState_7 : decode cX1_requireState 7 = .ok (.dup, 1) := dk_89 (dk_at dksX1_requireState_0 7 rfl rfl)
theorem dX1_requireState_8 : decode cX1_requireState 8 = .ok (.invokespecial 12, 3) := dk_183 0 12 (dk_at dksX1_requireState_0 8 rfl rfl)
theorem dX1_requireState_11 : decode cX1_requireState 11 = .ok (.athrow, 1) := dk_191 (dk_at dksX1_requireState_0 11 rfl rfl)
theorem dX1_requireState_12 : decode cX1_requireState 12 = .ok (.return_, 1) := dk_177 (dk_at dksX1_requireState_0 12 rfl rfl)
abbrev cX1_firstOf : ByteArray := prog_1_method_8_code
def yX1_firstOf : MethodName := ⟨RX1, "firstOf", "(IIII)[I"⟩
def dkwX1_firstOf_3 : List UInt8 := [176]
abbrev dktX1_firstOf_3 : List UInt8 := dkwX1_firstOf_3 ++ []
def dkwX1_firstOf_2 : List UInt8 := [184, 0, 15, 167, 0, 21, 6, 188, 10, 89, 3, 27, 79, 89, 4, 28, 79, 89, 5, 29, 79, 184, 0, 15]
abbrev dktX1_firstOf_2 : List UInt8 := dkwX1_firstOf_2 ++ dktX1_firstOf_3
def dkwX1_firstOf_1 : List UInt8 := [79, 184, 0, 15, 167, 0, 43, 26, 5, 160, 0, 20, 5, 188, 10, 89, 3, 27, 79, 89, 4, 28, 79]
abbrev dktX1_firstOf_1 : List UInt8 := dkwX1_firstOf_1 ++ dktX1_firstOf_2
def dkwX1_firstOf_0 : List UInt8 := [26, 154, 0, 12, 3, 188, 10, 184, 0, 15, 167, 0, 61, 26, 4, 160, 0, 16, 4, 188, 10, 89, 3, 27]
abbrev dktX1_firstOf_0 : List UInt8 := dkwX1_firstOf_0 ++ dktX1_firstOf_1
theorem dksX1_firstOf_0 : cX1_firstOf.data.toList.drop 0 = dktX1_firstOf_0 := by decide +kernel
theorem dksX1_firstOf_1 : cX1_firstOf.data.toList.drop 24 = dktX1_firstOf_1 := dk_seg dksX1_firstOf_0 24 rfl rfl
theorem dksX1_firstOf_2 : cX1_firstOf.data.toList.drop 47 = dktX1_firstOf_2 := dk_seg dksX1_firstOf_1 23 rfl rfl
theorem dksX1_firstOf_3 : cX1_firstOf.data.toList.drop 71 = dktX1_firstOf_3 := dk_seg dksX1_firstOf_2 24 rfl rfl
theorem dX1_firstOf_0 : decode cX1_firstOf 0 = .ok (.iload_n 0, 1) := dk_26 (dk_at dksX1_firstOf_0 0 rfl rfl)
theorem dX1_firstOf_1 : decode cX1_firstOf 1 = .ok (.ifCond .ne 12, 3) := dk_154 0 12 (dk_at dksX1_firstOf_0 1 rfl rfl)
theorem dX1_firstOf_4 : decode cX1_firstOf 4 = .ok (.iconst 0, 1) := dk_3 (dk_at dksX1_firstOf_0 4 rfl rfl)
theorem dX1_firstOf_5 : decode cX1_firstOf 5 = .ok (.newarray .int, 2) := dk_188_10 (dk_at dksX1_firstOf_0 5 rfl rfl)
theorem dX1_firstOf_7 : decode cX1_firstOf 7 = .ok (.invokestatic 15, 3) := dk_184 0 15 (dk_at dksX1_firstOf_0 7 rfl rfl)
theorem dX1_firstOf_10 : decode cX1_firstOf 10 = .ok (.goto 61, 3) := dk_167 0 61 (dk_at dksX1_firstOf_0 10 rfl rfl)
theorem dX1_firstOf_13 : decode cX1_firstOf 13 = .ok (.iload_n 0, 1) := dk_26 (dk_at dksX1_firstOf_0 13 rfl rfl)
theorem dX1_firstOf_14 : decode cX1_firstOf 14 = .ok (.iconst 1, 1) := dk_4 (dk_at dksX1_firstOf_0 14 rfl rfl)
theorem dX1_firstOf_15 : decode cX1_firstOf 15 = .ok (.if_icmp .ne 16, 3) := dk_160 0 16 (dk_at dksX1_firstOf_0 15 rfl rfl)
theorem dX1_firstOf_18 : decode cX1_firstOf 18 = .ok (.iconst 1, 1) := dk_4 (dk_at dksX1_firstOf_0 18 rfl rfl)
theorem dX1_firstOf_19 : decode cX1_firstOf 19 = .ok (.newarray .int, 2) := dk_188_10 (dk_at dksX1_firstOf_0 19 rfl rfl)
theorem dX1_firstOf_21 : decode cX1_firstOf 21 = .ok (.dup, 1) := dk_89 (dk_at dksX1_firstOf_0 21 rfl rfl)
theorem dX1_firstOf_22 : decode cX1_firstOf 22 = .ok (.iconst 0, 1) := dk_3 (dk_at dksX1_firstOf_0 22 rfl rfl)
theorem dX1_firstOf_23 : decode cX1_firstOf 23 = .ok (.iload_n 1, 1) := dk_27 (dk_at dksX1_firstOf_0 23 rfl rfl)
theorem dX1_firstOf_24 : decode cX1_firstOf 24 = .ok (.iastore, 1) := dk_79 (dk_at dksX1_firstOf_1 0 rfl rfl)
theorem dX1_firstOf_25 : decode cX1_firstOf 25 = .ok (.invokestatic 15, 3) := dk_184 0 15 (dk_at dksX1_firstOf_1 1 rfl rfl)
theorem dX1_firstOf_28 : decode cX1_firstOf 28 = .ok (.goto 43, 3) := dk_167 0 43 (dk_at dksX1_firstOf_1 4 rfl rfl)
theorem dX1_firstOf_31 : decode cX1_firstOf 31 = .ok (.iload_n 0, 1) := dk_26 (dk_at dksX1_firstOf_1 7 rfl rfl)
theorem dX1_firstOf_32 : decode cX1_firstOf 32 = .ok (.iconst 2, 1) := dk_5 (dk_at dksX1_firstOf_1 8 rfl rfl)
theorem dX1_firstOf_33 : decode cX1_firstOf 33 = .ok (.if_icmp .ne 20, 3) := dk_160 0 20 (dk_at dksX1_firstOf_1 9 rfl rfl)
theorem dX1_firstOf_36 : decode cX1_firstOf 36 = .ok (.iconst 2, 1) := dk_5 (dk_at dksX1_firstOf_1 12 rfl rfl)
theorem dX1_firstOf_37 : decode cX1_firstOf 37 = .ok (.newarray .int, 2) := dk_188_10 (dk_at dksX1_firstOf_1 13 rfl rfl)
theorem dX1_firstOf_39 : decode cX1_firstOf 39 = .ok (.dup, 1) := dk_89 (dk_at dksX1_firstOf_1 15 rfl rfl)
theorem dX1_firstOf_40 : decode cX1_firstOf 40 = .ok (.iconst 0, 1) := dk_3 (dk_at dksX1_firstOf_1 16 rfl rfl)
theorem dX1_firstOf_41 : decode cX1_firstOf 41 = .ok (.iload_n 1, 1) := dk_27 (dk_at dksX1_firstOf_1 17 rfl rfl)
theorem dX1_firstOf_42 : decode cX1_firstOf 42 = .ok (.iastore, 1) := dk_79 (dk_at dksX1_firstOf_1 18 rfl rfl)
theorem dX1_firstOf_43 : decode cX1_firstOf 43 = .ok (.dup, 1) := dk_89 (dk_at dksX1_firstOf_1 19 rfl rfl)
theorem dX1_firstOf_44 : decode cX1_firstOf 44 = .ok (.iconst 1, 1) := dk_4 (dk_at dksX1_firstOf_1 20 rfl rfl)
theorem dX1_firstOf_45 : decode cX1_firstOf 45 = .ok (.iload_n 2, 1) := dk_28 (dk_at dksX1_firstOf_1 21 rfl rfl)
theorem dX1_firstOf_46 : decode cX1_firstOf 46 = .ok (.iastore, 1) := dk_79 (dk_at dksX1_firstOf_1 22 rfl rfl)
theorem dX1_firstOf_47 : decode cX1_firstOf 47 = .ok (.invokestatic 15, 3) := dk_184 0 15 (dk_at dksX1_firstOf_2 0 rfl rfl)
theorem dX1_firstOf_50 : decode cX1_firstOf 50 = .ok (.goto 21, 3) := dk_167 0 21 (dk_at dksX1_firstOf_2 3 rfl rfl)
theorem dX1_firstOf_53 : decode cX1_firstOf 53 = .ok (.iconst 3, 1) := dk_6 (dk_at dksX1_firstOf_2 6 rfl rfl)
theorem dX1_firstOf_54 : decode cX1_firstOf 54 = .ok (.newarray .int, 2) := dk_188_10 (dk_at dksX1_firstOf_2 7 rfl rfl)
theorem dX1_firstOf_56 : decode cX1_firstOf 56 = .ok (.dup, 1) := dk_89 (dk_at dksX1_firstOf_2 9 rfl rfl)
theorem dX1_firstOf_57 : decode cX1_firstOf 57 = .ok (.iconst 0, 1) := dk_3 (dk_at dksX1_firstOf_2 10 rfl rfl)
theorem dX1_firstOf_58 : decode cX1_firstOf 58 = .ok (.iload_n 1, 1) := dk_27 (dk_at dksX1_firstOf_2 11 rfl rfl)
theorem dX1_firstOf_59 : decode cX1_firstOf 59 = .ok (.iastore, 1) := dk_79 (dk_at dksX1_firstOf_2 12 rfl rfl)
theorem dX1_firstOf_60 : decode cX1_firstOf 60 = .ok (.dup, 1) := dk_89 (dk_at dksX1_firstOf_2 13 rfl rfl)
theorem dX1_firstOf_61 : decode cX1_firstOf 61 = .ok (.iconst 1, 1) := dk_4 (dk_at dksX1_firstOf_2 14 rfl rfl)
theorem dX1_firstOf_62 : decode cX1_firstOf 62 = .ok (.iload_n 2, 1) := dk_28 (dk_at dksX1_firstOf_2 15 rfl rfl)
theorem dX1_firstOf_63 : decode cX1_firstOf 63 = .ok (.iastore, 1) := dk_79 (dk_at dksX1_firstOf_2 16 rfl rfl)
theorem dX1_firstOf_64 : decode cX1_firstOf 64 = .ok (.dup, 1) := dk_89 (dk_at dksX1_firstOf_2 17 rfl rfl)
theorem dX1_firstOf_65 : decode cX1_firstOf 65 = .ok (.iconst 2, 1) := dk_5 (dk_at dksX1_firstOf_2 18 rfl rfl)
theorem dX1_firstOf_66 : decode cX1_firstOf 66 = .ok (.iload_n 3, 1) := dk_29 (dk_at dksX1_firstOf_2 19 rfl rfl)
theorem dX1_firstOf_67 : decode cX1_firstOf 67 = .ok (.iastore, 1) := dk_79 (dk_at dksX1_firstOf_2 20 rfl rfl)
theorem dX1_firstOf_68 : decode cX1_firstOf 68 = .ok (.invokestatic 15, 3) := dk_184 0 15 (dk_at dksX1_firstOf_2 21 rfl rfl)
theorem dX1_firstOf_71 : decode cX1_firstOf 71 = .ok (.areturn, 1) := dk_176 (dk_at dksX1_firstOf_3 0 rfl rfl)
abbrev cX1_changed : ByteArray := prog_1_method_10_code
def yX1_changed : MethodName := ⟨RX1, "changed", "()V"⟩
def dkwX1_changed_1 : List UInt8 := [177]
abbrev dktX1_changed_1 : List UInt8 := dkwX1_changed_1 ++ []
def dkwX1_changed_0 : List UInt8 := [42, 180, 0, 61, 3, 181, 0, 86, 42, 180, 0, 65, 3, 181, 0, 86, 42, 180, 0, 71, 3, 181, 0, 90]
abbrev dktX1_changed_0 : List UInt8 := dkwX1_changed_0 ++ dktX1_changed_1
theorem dksX1_changed_0 : cX1_changed.data.toList.drop 0 = dktX1_changed_0 := by decide +kernel
theorem dksX1_changed_1 : cX1_changed.data.toList.drop 24 = dktX1_changed_1 := dk_seg dksX1_changed_0 24 rfl rfl
theorem dX1_changed_0 : decode cX1_changed 0 = .ok (.aload_n 0, 1) := dk_42 (dk_at dksX1_changed_0 0 rfl rfl)
theorem dX1_changed_1 : decode cX1_changed 1 = .ok (.getfield 61, 3) := dk_180 0 61 (dk_at dksX1_changed_0 1 rfl rfl)
theorem dX1_changed_4 : decode cX1_changed 4 = .ok (.iconst 0, 1) := dk_3 (dk_at dksX1_changed_0 4 rfl rfl)
theorem dX1_changed_5 : decode cX1_changed 5 = .ok (.putfield 86, 3) := dk_181 0 86 (dk_at dksX1_changed_0 5 rfl rfl)
theorem dX1_changed_8 : decode cX1_changed 8 = .ok (.aload_n 0, 1) := dk_42 (dk_at dksX1_changed_0 8 rfl rfl)
theorem dX1_changed_9 : decode cX1_changed 9 = .ok (.getfield 65, 3) := dk_180 0 65 (dk_at dksX1_changed_0 9 rfl rfl)
theorem dX1_changed_12 : decode cX1_changed 12 = .ok (.iconst 0, 1) := dk_3 (dk_at dksX1_changed_0 12 rfl rfl)
theorem dX1_changed_13 : decode cX1_changed 13 = .ok (.putfield 86, 3) := dk_181 0 86 (dk_at dksX1_changed_0 13 rfl rfl)
theorem dX1_changed_16 : decode cX1_changed 16 = .ok (.aload_n 0, 1) := dk_42 (dk_at dksX1_changed_0 16 rfl rfl)
theorem dX1_changed_17 : decode cX1_changed 17 = .ok (.getfield 71, 3) := dk_180 0 71 (dk_at dksX1_changed_0 17 rfl rfl)
theorem dX1_changed_20 : decode cX1_changed 20 = .ok (.iconst 0, 1) := dk_3 (dk_at dksX1_changed_0 20 rfl rfl)
theorem dX1_changed_21 : decode cX1_changed 21 = .ok (.putfield 90, 3) := dk_181 0 90 (dk_at dksX1_changed_0 21 rfl rfl)
theorem dX1_changed_24 : decode cX1_changed 24 = .ok (.return_, 1) := dk_177 (dk_at dksX1_changed_1 0 rfl rfl)
abbrev cX1_num : ByteArray := prog_1_method_17_code
def yX1_num : MethodName := ⟨RX1, "num", "(I)I"⟩
def dkwX1_num_1 : List UInt8 := [183, 0, 132, 182, 0, 135, 172]
abbrev dktX1_num_1 : List UInt8 := dkwX1_num_1 ++ []
def dkwX1_num_0 : List UInt8 := [27, 3, 16, 9, 184, 0, 91, 184, 0, 117, 42, 187, 0, 130, 89, 7, 27, 3, 188, 10, 184, 0, 15, 27]
abbrev dktX1_num_0 : List UInt8 := dkwX1_num_0 ++ dktX1_num_1
theorem dksX1_num_0 : cX1_num.data.toList.drop 0 = dktX1_num_0 := by decide +kernel
theorem dksX1_num_1 : cX1_num.data.toList.drop 24 = dktX1_num_1 := dk_seg dksX1_num_0 24 rfl rfl
theorem dX1_num_0 : decode cX1_num 0 = .ok (.iload_n 1, 1) := dk_27 (dk_at dksX1_num_0 0 rfl rfl)
theorem dX1_num_1 : decode cX1_num 1 = .ok (.iconst 0, 1) := dk_3 (dk_at dksX1_num_0 1 rfl rfl)
theorem dX1_num_2 : decode cX1_num 2 = .ok (.bipush 9, 2) := dk_16 9 (dk_at dksX1_num_0 2 rfl rfl)
theorem dX1_num_4 : decode cX1_num 4 = .ok (.invokestatic 91, 3) := dk_184 0 91 (dk_at dksX1_num_0 4 rfl rfl)
theorem dX1_num_7 : decode cX1_num 7 = .ok (.invokestatic 117, 3) := dk_184 0 117 (dk_at dksX1_num_0 7 rfl rfl)
theorem dX1_num_10 : decode cX1_num 10 = .ok (.aload_n 0, 1) := dk_42 (dk_at dksX1_num_0 10 rfl rfl)
theorem dX1_num_11 : decode cX1_num 11 = .ok (.new 130, 3) := dk_187 0 130 (dk_at dksX1_num_0 11 rfl rfl)
theorem dX1_num_14 : decode cX1_num 14 = .ok (.dup, 1) := dk_89 (dk_at dksX1_num_0 14 rfl rfl)
theorem dX1_num_15 : decode cX1_num 15 = .ok (.iconst 4, 1) := dk_7 (dk_at dksX1_num_0 15 rfl rfl)
theorem dX1_num_16 : decode cX1_num 16 = .ok (.iload_n 1, 1) := dk_27 (dk_at dksX1_num_0 16 rfl rfl)
theorem dX1_num_17 : decode cX1_num 17 = .ok (.iconst 0, 1) := dk_3 (dk_at dksX1_num_0 17 rfl rfl)
theorem dX1_num_18 : decode cX1_num 18 = .ok (.newarray .int, 2) := dk_188_10 (dk_at dksX1_num_0 18 rfl rfl)
theorem dX1_num_20 : decode cX1_num 20 = .ok (.invokestatic 15, 3) := dk_184 0 15 (dk_at dksX1_num_0 20 rfl rfl)
theorem dX1_num_23 : decode cX1_num 23 = .ok (.iload_n 1, 1) := dk_27 (dk_at dksX1_num_0 23 rfl rfl)
theorem dX1_num_24 : decode cX1_num 24 = .ok (.invokespecial 132, 3) := dk_183 0 132 (dk_at dksX1_num_1 0 rfl rfl)
theorem dX1_num_27 : decode cX1_num 27 = .ok (.invokevirtual 135, 3) := dk_182 0 135 (dk_at dksX1_num_1 3 rfl rfl)
theorem dX1_num_30 : decode cX1_num 30 = .ok (.ireturn, 1) := dk_172 (dk_at dksX1_num_1 6 rfl rfl)
abbrev cX1_addValue : ByteArray := prog_1_method_16_code
def yX1_addValue : MethodName := ⟨RX1, "addValue", "(LPatternforge$Value;)I"⟩
def dkwX1_addValue_1 : List UInt8 := [43, 182, 0, 79, 87, 42, 180, 0, 29, 182, 0, 101, 4, 100, 172]
abbrev dktX1_addValue_1 : List UInt8 := dkwX1_addValue_1 ++ []
def dkwX1_addValue_0 : List UInt8 := [42, 180, 0, 29, 182, 0, 101, 16, 40, 162, 0, 7, 4, 167, 0, 4, 3, 184, 0, 120, 42, 180, 0, 29]
abbrev dktX1_addValue_0 : List UInt8 := dkwX1_addValue_0 ++ dktX1_addValue_1
theorem dksX1_addValue_0 : cX1_addValue.data.toList.drop 0 = dktX1_addValue_0 := by decide +kernel
theorem dksX1_addValue_1 : cX1_addValue.data.toList.drop 24 = dktX1_addValue_1 := dk_seg dksX1_addValue_0 24 rfl rfl
theorem dX1_addValue_0 : decode cX1_addValue 0 = .ok (.aload_n 0, 1) := dk_42 (dk_at dksX1_addValue_0 0 rfl rfl)
theorem dX1_addValue_1 : decode cX1_addValue 1 = .ok (.getfield 29, 3) := dk_180 0 29 (dk_at dksX1_addValue_0 1 rfl rfl)
theorem dX1_addValue_4 : decode cX1_addValue 4 = .ok (.invokevirtual 101, 3) := dk_182 0 101 (dk_at dksX1_addValue_0 4 rfl rfl)
theorem dX1_addValue_7 : decode cX1_addValue 7 = .ok (.bipush 40, 2) := dk_16 40 (dk_at dksX1_addValue_0 7 rfl rfl)
theorem dX1_addValue_9 : decode cX1_addValue 9 = .ok (.if_icmp .ge 7, 3) := dk_162 0 7 (dk_at dksX1_addValue_0 9 rfl rfl)
theorem dX1_addValue_12 : decode cX1_addValue 12 = .ok (.iconst 1, 1) := dk_4 (dk_at dksX1_addValue_0 12 rfl rfl)
theorem dX1_addValue_13 : decode cX1_addValue 13 = .ok (.goto 4, 3) := dk_167 0 4 (dk_at dksX1_addValue_0 13 rfl rfl)
theorem dX1_addValue_16 : decode cX1_addValue 16 = .ok (.iconst 0, 1) := dk_3 (dk_at dksX1_addValue_0 16 rfl rfl)
theorem dX1_addValue_17 : decode cX1_addValue 17 = .ok (.invokestatic 120, 3) := dk_184 0 120 (dk_at dksX1_addValue_0 17 rfl rfl)
theorem dX1_addValue_20 : decode cX1_addValue 20 = .ok (.aload_n 0, 1) := dk_42 (dk_at dksX1_addValue_0 20 rfl rfl)
theorem dX1_addValue_21 : decode cX1_addValue 21 = .ok (.getfield 29, 3) := dk_180 0 29 (dk_at dksX1_addValue_0 21 rfl rfl)
theorem dX1_addValue_24 : decode cX1_addValue 24 = .ok (.aload_n 1, 1) := dk_43 (dk_at dksX1_addValue_1 0 rfl rfl)
theorem dX1_addValue_25 : decode cX1_addValue 25 = .ok (.invokevirtual 79, 3) := dk_182 0 79 (dk_at dksX1_addValue_1 1 rfl rfl)
theorem dX1_addValue_28 : decode cX1_addValue 28 = .ok (.pop, 1) := dk_87 (dk_at dksX1_addValue_1 4 rfl rfl)
theorem dX1_addValue_29 : decode cX1_addValue 29 = .ok (.aload_n 0, 1) := dk_42 (dk_at dksX1_addValue_1 5 rfl rfl)
theorem dX1_addValue_30 : decode cX1_addValue 30 = .ok (.getfield 29, 3) := dk_180 0 29 (dk_at dksX1_addValue_1 6 rfl rfl)
theorem dX1_addValue_33 : decode cX1_addValue 33 = .ok (.invokevirtual 101, 3) := dk_182 0 101 (dk_at dksX1_addValue_1 9 rfl rfl)
theorem dX1_addValue_36 : decode cX1_addValue 36 = .ok (.iconst 1, 1) := dk_4 (dk_at dksX1_addValue_1 12 rfl rfl)
theorem dX1_addValue_37 : decode cX1_addValue 37 = .ok (.isub, 1) := dk_100 (dk_at dksX1_addValue_1 13 rfl rfl)
theorem dX1_addValue_38 : decode cX1_addValue 38 = .ok (.ireturn, 1) := dk_172 (dk_at dksX1_addValue_1 14 rfl rfl)
abbrev cX1_seq : ByteArray := prog_1_method_19_code
def yX1_seq : MethodName := ⟨RX1, "seq", "(IIII)I"⟩
def dkwX1_seq_4 : List UInt8 := [183, 0, 132, 182, 0, 135, 172]
abbrev dktX1_seq_4 : List UInt8 := dkwX1_seq_4 ++ []
def dkwX1_seq_3 : List UInt8 := [187, 0, 130, 89, 8, 27, 27, 28, 29, 21, 4, 184, 0, 123, 6, 27, 104, 28, 96, 29, 96, 21, 4, 96]
abbrev dktX1_seq_3 : List UInt8 := dkwX1_seq_3 ++ dktX1_seq_4
def dkwX1_seq_2 : List UInt8 := [164, 0, 7, 4, 167, 0, 4, 3, 184, 0, 139, 153, 0, 7, 4, 167, 0, 4, 3, 184, 0, 117, 42]
abbrev dktX1_seq_2 : List UInt8 := dkwX1_seq_2 ++ dktX1_seq_3
def dkwX1_seq_1 : List UInt8 := [153, 0, 42, 29, 27, 4, 164, 0, 7, 4, 167, 0, 4, 3, 184, 0, 139, 153, 0, 25, 21, 4, 27, 5]
abbrev dktX1_seq_1 : List UInt8 := dkwX1_seq_1 ++ dktX1_seq_2
def dkwX1_seq_0 : List UInt8 := [27, 3, 6, 184, 0, 91, 153, 0, 58, 28, 27, 158, 0, 7, 4, 167, 0, 4, 3, 184, 0, 139]
abbrev dktX1_seq_0 : List UInt8 := dkwX1_seq_0 ++ dktX1_seq_1
theorem dksX1_seq_0 : cX1_seq.data.toList.drop 0 = dktX1_seq_0 := by decide +kernel
theorem dksX1_seq_1 : cX1_seq.data.toList.drop 22 = dktX1_seq_1 := dk_seg dksX1_seq_0 22 rfl rfl
theorem dksX1_seq_2 : cX1_seq.data.toList.drop 46 = dktX1_seq_2 := dk_seg dksX1_seq_1 24 rfl rfl
theorem dksX1_seq_3 : cX1_seq.data.toList.drop 69 = dktX1_seq_3 := dk_seg dksX1_seq_2 23 rfl rfl
theorem dksX1_seq_4 : cX1_seq.data.toList.drop 93 = dktX1_seq_4 := dk_seg dksX1_seq_3 24 rfl rfl
theorem dX1_seq_0 : decode cX1_seq 0 = .ok (.iload_n 1, 1) := dk_27 (dk_at dksX1_seq_0 0 rfl rfl)
theorem dX1_seq_1 : decode cX1_seq 1 = .ok (.iconst 0, 1) := dk_3 (dk_at dksX1_seq_0 1 rfl rfl)
theorem dX1_seq_2 : decode cX1_seq 2 = .ok (.iconst 3, 1) := dk_6 (dk_at dksX1_seq_0 2 rfl rfl)
theorem dX1_seq_3 : decode cX1_seq 3 = .ok (.invokestatic 91, 3) := dk_184 0 91 (dk_at dksX1_seq_0 3 rfl rfl)
theorem dX1_seq_6 : decode cX1_seq 6 = .ok (.ifCond .eq 58, 3) := dk_153 0 58 (dk_at dksX1_seq_0 6 rfl rfl)
theorem dX1_seq_9 : decode cX1_seq 9 = .ok (.iload_n 2, 1) := dk_28 (dk_at dksX1_seq_0 9 rfl rfl)
theorem dX1_seq_10 : decode cX1_seq 10 = .ok (.iload_n 1, 1) := dk_27 (dk_at dksX1_seq_0 10 rfl rfl)
theorem dX1_seq_11 : decode cX1_seq 11 = .ok (.ifCond .le 7, 3) := dk_158 0 7 (dk_at dksX1_seq_0 11 rfl rfl)
theorem dX1_seq_14 : decode cX1_seq 14 = .ok (.iconst 1, 1) := dk_4 (dk_at dksX1_seq_0 14 rfl rfl)
theorem dX1_seq_15 : decode cX1_seq 15 = .ok (.goto 4, 3) := dk_167 0 4 (dk_at dksX1_seq_0 15 rfl rfl)
theorem dX1_seq_18 : decode cX1_seq 18 = .ok (.iconst 0, 1) := dk_3 (dk_at dksX1_seq_0 18 rfl rfl)
theorem dX1_seq_19 : decode cX1_seq 19 = .ok (.invokestatic 139, 3) := dk_184 0 139 (dk_at dksX1_seq_0 19 rfl rfl)
theorem dX1_seq_22 : decode cX1_seq 22 = .ok (.ifCond .eq 42, 3) := dk_153 0 42 (dk_at dksX1_seq_1 0 rfl rfl)
theorem dX1_seq_25 : decode cX1_seq 25 = .ok (.iload_n 3, 1) := dk_29 (dk_at dksX1_seq_1 3 rfl rfl)
theorem dX1_seq_26 : decode cX1_seq 26 = .ok (.iload_n 1, 1) := dk_27 (dk_at dksX1_seq_1 4 rfl rfl)
theorem dX1_seq_27 : decode cX1_seq 27 = .ok (.iconst 1, 1) := dk_4 (dk_at dksX1_seq_1 5 rfl rfl)
theorem dX1_seq_28 : decode cX1_seq 28 = .ok (.if_icmp .le 7, 3) := dk_164 0 7 (dk_at dksX1_seq_1 6 rfl rfl)
theorem dX1_seq_31 : decode cX1_seq 31 = .ok (.iconst 1, 1) := dk_4 (dk_at dksX1_seq_1 9 rfl rfl)
theorem dX1_seq_32 : decode cX1_seq 32 = .ok (.goto 4, 3) := dk_167 0 4 (dk_at dksX1_seq_1 10 rfl rfl)
theorem dX1_seq_35 : decode cX1_seq 35 = .ok (.iconst 0, 1) := dk_3 (dk_at dksX1_seq_1 13 rfl rfl)
theorem dX1_seq_36 : decode cX1_seq 36 = .ok (.invokestatic 139, 3) := dk_184 0 139 (dk_at dksX1_seq_1 14 rfl rfl)
theorem dX1_seq_39 : decode cX1_seq 39 = .ok (.ifCond .eq 25, 3) := dk_153 0 25 (dk_at dksX1_seq_1 17 rfl rfl)
theorem dX1_seq_42 : decode cX1_seq 42 = .ok (.iload 4, 2) := dk_21 4 (dk_at dksX1_seq_1 20 rfl rfl)
theorem dX1_seq_44 : decode cX1_seq 44 = .ok (.iload_n 1, 1) := dk_27 (dk_at dksX1_seq_1 22 rfl rfl)
theorem dX1_seq_45 : decode cX1_seq 45 = .ok (.iconst 2, 1) := dk_5 (dk_at dksX1_seq_1 23 rfl rfl)
theorem dX1_seq_46 : decode cX1_seq 46 = .ok (.if_icmp .le 7, 3) := dk_164 0 7 (dk_at dksX1_seq_2 0 rfl rfl)
theorem dX1_seq_49 : decode cX1_seq 49 = .ok (.iconst 1, 1) := dk_4 (dk_at dksX1_seq_2 3 rfl rfl)
theorem dX1_seq_50 : decode cX1_seq 50 = .ok (.goto 4, 3) := dk_167 0 4 (dk_at dksX1_seq_2 4 rfl rfl)
theorem dX1_seq_53 : decode cX1_seq 53 = .ok (.iconst 0, 1) := dk_3 (dk_at dksX1_seq_2 7 rfl rfl)
theorem dX1_seq_54 : decode cX1_seq 54 = .ok (.invokestatic 139, 3) := dk_184 0 139 (dk_at dksX1_seq_2 8 rfl rfl)
theorem dX1_seq_57 : decode cX1_seq 57 = .ok (.ifCond .eq 7, 3) := dk_153 0 7 (dk_at dksX1_seq_2 11 rfl rfl)
theorem dX1_seq_60 : decode cX1_seq 60 = .ok (.iconst 1, 1) := dk_4 (dk_at dksX1_seq_2 14 rfl rfl)
theorem dX1_seq_61 : decode cX1_seq 61 = .ok (.goto 4, 3) := dk_167 0 4 (dk_at dksX1_seq_2 15 rfl rfl)
theorem dX1_seq_64 : decode cX1_seq 64 = .ok (.iconst 0, 1) := dk_3 (dk_at dksX1_seq_2 18 rfl rfl)
theorem dX1_seq_65 : decode cX1_seq 65 = .ok (.invokestatic 117, 3) := dk_184 0 117 (dk_at dksX1_seq_2 19 rfl rfl)
theorem dX1_seq_68 : decode cX1_seq 68 = .ok (.aload_n 0, 1) := dk_42 (dk_at dksX1_seq_2 22 rfl rfl)
theorem dX1_seq_69 : decode cX1_seq 69 = .ok (.new 130, 3) := dk_187 0 130 (dk_at dksX1_seq_3 0 rfl rfl)
theorem dX1_seq_72 : decode cX1_seq 72 = .ok (.dup, 1) := dk_89 (dk_at dksX1_seq_3 3 rfl rfl)
theorem dX1_seq_73 : decode cX1_seq 73 = .ok (.iconst 5, 1) := dk_8 (dk_at dksX1_seq_3 4 rfl rfl)
theorem dX1_seq_74 : decode cX1_seq 74 = .ok (.iload_n 1, 1) := dk_27 (dk_at dksX1_seq_3 5 rfl rfl)
theorem dX1_seq_75 : decode cX1_seq 75 = .ok (.iload_n 1, 1) := dk_27 (dk_at dksX1_seq_3 6 rfl rfl)
theorem dX1_seq_76 : decode cX1_seq 76 = .ok (.iload_n 2, 1) := dk_28 (dk_at dksX1_seq_3 7 rfl rfl)
theorem dX1_seq_77 : decode cX1_seq 77 = .ok (.iload_n 3, 1) := dk_29 (dk_at dksX1_seq_3 8 rfl rfl)
theorem dX1_seq_78 : decode cX1_seq 78 = .ok (.iload 4, 2) := dk_21 4 (dk_at dksX1_seq_3 9 rfl rfl)
theorem dX1_seq_80 : decode cX1_seq 80 = .ok (.invokestatic 123, 3) := dk_184 0 123 (dk_at dksX1_seq_3 11 rfl rfl)
theorem dX1_seq_83 : decode cX1_seq 83 = .ok (.iconst 3, 1) := dk_6 (dk_at dksX1_seq_3 14 rfl rfl)
theorem dX1_seq_84 : decode cX1_seq 84 = .ok (.iload_n 1, 1) := dk_27 (dk_at dksX1_seq_3 15 rfl rfl)
theorem dX1_seq_85 : decode cX1_seq 85 = .ok (.imul, 1) := dk_104 (dk_at dksX1_seq_3 16 rfl rfl)
theorem dX1_seq_86 : decode cX1_seq 86 = .ok (.iload_n 2, 1) := dk_28 (dk_at dksX1_seq_3 17 rfl rfl)
theorem dX1_seq_87 : decode cX1_seq 87 = .ok (.iadd, 1) := dk_96 (dk_at dksX1_seq_3 18 rfl rfl)
theorem dX1_seq_88 : decode cX1_seq 88 = .ok (.iload_n 3, 1) := dk_29 (dk_at dksX1_seq_3 19 rfl rfl)
theorem dX1_seq_89 : decode cX1_seq 89 = .ok (.iadd, 1) := dk_96 (dk_at dksX1_seq_3 20 rfl rfl)
theorem dX1_seq_90 : decode cX1_seq 90 = .ok (.iload 4, 2) := dk_21 4 (dk_at dksX1_seq_3 21 rfl rfl)
theorem dX1_seq_92 : decode cX1_seq 92 = .ok (.iadd, 1) := dk_96 (dk_at dksX1_seq_3 23 rfl rfl)
theorem dX1_seq_93 : decode cX1_seq 93 = .ok (.invokespecial 132, 3) := dk_183 0 132 (dk_at dksX1_seq_4 0 rfl rfl)
theorem dX1_seq_96 : decode cX1_seq 96 = .ok (.invokevirtual 135, 3) := dk_182 0 135 (dk_at dksX1_seq_4 3 rfl rfl)
theorem dX1_seq_99 : decode cX1_seq 99 = .ok (.ireturn, 1) := dk_172 (dk_at dksX1_seq_4 6 rfl rfl)
abbrev cX1_isNumberOf : ByteArray := prog_1_method_18_code
def yX1_isNumberOf : MethodName := ⟨RX1, "isNumberOf", "(IZ)Z"⟩
def dkwX1_isNumberOf_0 : List UInt8 := [26, 3, 27, 153, 0, 8, 16, 9, 167, 0, 4, 3, 184, 0, 91, 172]
abbrev dktX1_isNumberOf_0 : List UInt8 := dkwX1_isNumberOf_0 ++ []
theorem dksX1_isNumberOf_0 : cX1_isNumberOf.data.toList.drop 0 = dktX1_isNumberOf_0 := by decide +kernel
theorem dX1_isNumberOf_0 : decode cX1_isNumberOf 0 = .ok (.iload_n 0, 1) := dk_26 (dk_at dksX1_isNumberOf_0 0 rfl rfl)
theorem dX1_isNumberOf_1 : decode cX1_isNumberOf 1 = .ok (.iconst 0, 1) := dk_3 (dk_at dksX1_isNumberOf_0 1 rfl rfl)
theorem dX1_isNumberOf_2 : decode cX1_isNumberOf 2 = .ok (.iload_n 1, 1) := dk_27 (dk_at dksX1_isNumberOf_0 2 rfl rfl)
theorem dX1_isNumberOf_3 : decode cX1_isNumberOf 3 = .ok (.ifCond .eq 8, 3) := dk_153 0 8 (dk_at dksX1_isNumberOf_0 3 rfl rfl)
theorem dX1_isNumberOf_6 : decode cX1_isNumberOf 6 = .ok (.bipush 9, 2) := dk_16 9 (dk_at dksX1_isNumberOf_0 6 rfl rfl)
theorem dX1_isNumberOf_8 : decode cX1_isNumberOf 8 = .ok (.goto 4, 3) := dk_167 0 4 (dk_at dksX1_isNumberOf_0 8 rfl rfl)
theorem dX1_isNumberOf_11 : decode cX1_isNumberOf 11 = .ok (.iconst 0, 1) := dk_3 (dk_at dksX1_isNumberOf_0 11 rfl rfl)
theorem dX1_isNumberOf_12 : decode cX1_isNumberOf 12 = .ok (.invokestatic 91, 3) := dk_184 0 91 (dk_at dksX1_isNumberOf_0 12 rfl rfl)
theorem dX1_isNumberOf_15 : decode cX1_isNumberOf 15 = .ok (.ireturn, 1) := dk_172 (dk_at dksX1_isNumberOf_0 15 rfl rfl)
abbrev cX1_data : ByteArray := prog_1_method_22_code
def yX1_data : MethodName := ⟨RX1, "data", "(IIIII)I"⟩
def dkwX1_data_6 : List UInt8 := [182, 0, 135, 172]
abbrev dktX1_data_6 : List UInt8 := dkwX1_data_6 ++ []
def dkwX1_data_5 : List UInt8 := [132, 9, 1, 167, 255, 183, 42, 187, 0, 130, 89, 27, 28, 25, 7, 21, 8, 16, 97, 112, 183, 0, 132]
abbrev dktX1_data_5 : List UInt8 := dkwX1_data_5 ++ dktX1_data_6
def dkwX1_data_4 : List UInt8 := [96, 42, 180, 0, 29, 25, 7, 21, 9, 46, 182, 0, 95, 192, 0, 130, 182, 0, 153, 104, 96, 54, 8]
abbrev dktX1_data_4 : List UInt8 := dkwX1_data_4 ++ dktX1_data_5
def dkwX1_data_3 : List UInt8 := [182, 0, 150, 25, 6, 21, 9, 46, 160, 0, 7, 4, 167, 0, 4, 3, 184, 0, 117, 21, 8, 21, 9, 4]
abbrev dktX1_data_3 : List UInt8 := dkwX1_data_3 ++ dktX1_data_4
def dkwX1_data_2 : List UInt8 := [21, 9, 25, 7, 190, 162, 0, 71, 42, 180, 0, 29, 25, 7, 21, 9, 46, 182, 0, 95, 192, 0, 130]
abbrev dktX1_data_2 : List UInt8 := dkwX1_data_2 ++ dktX1_data_3
def dkwX1_data_1 : List UInt8 := [184, 0, 146, 25, 6, 190, 29, 21, 4, 21, 5, 184, 0, 123, 58, 7, 8, 28, 104, 54, 8, 3, 54, 9]
abbrev dktX1_data_1 : List UInt8 := dkwX1_data_1 ++ dktX1_data_2
def dkwX1_data_0 : List UInt8 := [42, 27, 28, 182, 0, 142, 58, 6, 25, 6, 190, 29, 21, 4, 21, 5, 42, 180, 0, 29, 182, 0, 101]
abbrev dktX1_data_0 : List UInt8 := dkwX1_data_0 ++ dktX1_data_1
theorem dksX1_data_0 : cX1_data.data.toList.drop 0 = dktX1_data_0 := by decide +kernel
theorem dksX1_data_1 : cX1_data.data.toList.drop 23 = dktX1_data_1 := dk_seg dksX1_data_0 23 rfl rfl
theorem dksX1_data_2 : cX1_data.data.toList.drop 47 = dktX1_data_2 := dk_seg dksX1_data_1 24 rfl rfl
theorem dksX1_data_3 : cX1_data.data.toList.drop 70 = dktX1_data_3 := dk_seg dksX1_data_2 23 rfl rfl
theorem dksX1_data_4 : cX1_data.data.toList.drop 94 = dktX1_data_4 := dk_seg dksX1_data_3 24 rfl rfl
theorem dksX1_data_5 : cX1_data.data.toList.drop 117 = dktX1_data_5 := dk_seg dksX1_data_4 23 rfl rfl
theorem dksX1_data_6 : cX1_data.data.toList.drop 140 = dktX1_data_6 := dk_seg dksX1_data_5 23 rfl rfl
theorem dX1_data_0 : decode cX1_data 0 = .ok (.aload_n 0, 1) := dk_42 (dk_at dksX1_data_0 0 rfl rfl)
theorem dX1_data_1 : decode cX1_data 1 = .ok (.iload_n 1, 1) := dk_27 (dk_at dksX1_data_0 1 rfl rfl)
theorem dX1_data_2 : decode cX1_data 2 = .ok (.iload_n 2, 1) := dk_28 (dk_at dksX1_data_0 2 rfl rfl)
theorem dX1_data_3 : decode cX1_data 3 = .ok (.invokevirtual 142, 3) := dk_182 0 142 (dk_at dksX1_data_0 3 rfl rfl)
theorem dX1_data_6 : decode cX1_data 6 = .ok (.astore 6, 2) := dk_58 6 (dk_at dksX1_data_0 6 rfl rfl)
theorem dX1_data_8 : decode cX1_data 8 = .ok (.aload 6, 2) := dk_25 6 (dk_at dksX1_data_0 8 rfl rfl)
theorem dX1_data_10 : decode cX1_data 10 = .ok (.arraylength, 1) := dk_190 (dk_at dksX1_data_0 10 rfl rfl)
theorem dX1_data_11 : decode cX1_data 11 = .ok (.iload_n 3, 1) := dk_29 (dk_at dksX1_data_0 11 rfl rfl)
theorem dX1_data_12 : decode cX1_data 12 = .ok (.iload 4, 2) := dk_21 4 (dk_at dksX1_data_0 12 rfl rfl)
theorem dX1_data_14 : decode cX1_data 14 = .ok (.iload 5, 2) := dk_21 5 (dk_at dksX1_data_0 14 rfl rfl)
theorem dX1_data_16 : decode cX1_data 16 = .ok (.aload_n 0, 1) := dk_42 (dk_at dksX1_data_0 16 rfl rfl)
theorem dX1_data_17 : decode cX1_data 17 = .ok (.getfield 29, 3) := dk_180 0 29 (dk_at dksX1_data_0 17 rfl rfl)
theorem dX1_data_20 : decode cX1_data 20 = .ok (.invokevirtual 101, 3) := dk_182 0 101 (dk_at dksX1_data_0 20 rfl rfl)
theorem dX1_data_23 : decode cX1_data 23 = .ok (.invokestatic 146, 3) := dk_184 0 146 (dk_at dksX1_data_1 0 rfl rfl)
theorem dX1_data_26 : decode cX1_data 26 = .ok (.aload 6, 2) := dk_25 6 (dk_at dksX1_data_1 3 rfl rfl)
theorem dX1_data_28 : decode cX1_data 28 = .ok (.arraylength, 1) := dk_190 (dk_at dksX1_data_1 5 rfl rfl)
theorem dX1_data_29 : decode cX1_data 29 = .ok (.iload_n 3, 1) := dk_29 (dk_at dksX1_data_1 6 rfl rfl)
theorem dX1_data_30 : decode cX1_data 30 = .ok (.iload 4, 2) := dk_21 4 (dk_at dksX1_data_1 7 rfl rfl)
theorem dX1_data_32 : decode cX1_data 32 = .ok (.iload 5, 2) := dk_21 5 (dk_at dksX1_data_1 9 rfl rfl)
theorem dX1_data_34 : decode cX1_data 34 = .ok (.invokestatic 123, 3) := dk_184 0 123 (dk_at dksX1_data_1 11 rfl rfl)
theorem dX1_data_37 : decode cX1_data 37 = .ok (.astore 7, 2) := dk_58 7 (dk_at dksX1_data_1 14 rfl rfl)
theorem dX1_data_39 : decode cX1_data 39 = .ok (.iconst 5, 1) := dk_8 (dk_at dksX1_data_1 16 rfl rfl)
theorem dX1_data_40 : decode cX1_data 40 = .ok (.iload_n 2, 1) := dk_28 (dk_at dksX1_data_1 17 rfl rfl)
theorem dX1_data_41 : decode cX1_data 41 = .ok (.imul, 1) := dk_104 (dk_at dksX1_data_1 18 rfl rfl)
theorem dX1_data_42 : decode cX1_data 42 = .ok (.istore 8, 2) := dk_54 8 (dk_at dksX1_data_1 19 rfl rfl)
theorem dX1_data_44 : decode cX1_data 44 = .ok (.iconst 0, 1) := dk_3 (dk_at dksX1_data_1 21 rfl rfl)
theorem dX1_data_45 : decode cX1_data 45 = .ok (.istore 9, 2) := dk_54 9 (dk_at dksX1_data_1 22 rfl rfl)
theorem dX1_data_47 : decode cX1_data 47 = .ok (.iload 9, 2) := dk_21 9 (dk_at dksX1_data_2 0 rfl rfl)
theorem dX1_data_49 : decode cX1_data 49 = .ok (.aload 7, 2) := dk_25 7 (dk_at dksX1_data_2 2 rfl rfl)
theorem dX1_data_51 : decode cX1_data 51 = .ok (.arraylength, 1) := dk_190 (dk_at dksX1_data_2 4 rfl rfl)
theorem dX1_data_52 : decode cX1_data 52 = .ok (.if_icmp .ge 71, 3) := dk_162 0 71 (dk_at dksX1_data_2 5 rfl rfl)
theorem dX1_data_55 : decode cX1_data 55 = .ok (.aload_n 0, 1) := dk_42 (dk_at dksX1_data_2 8 rfl rfl)
theorem dX1_data_56 : decode cX1_data 56 = .ok (.getfield 29, 3) := dk_180 0 29 (dk_at dksX1_data_2 9 rfl rfl)
theorem dX1_data_59 : decode cX1_data 59 = .ok (.aload 7, 2) := dk_25 7 (dk_at dksX1_data_2 12 rfl rfl)
theorem dX1_data_61 : decode cX1_data 61 = .ok (.iload 9, 2) := dk_21 9 (dk_at dksX1_data_2 14 rfl rfl)
theorem dX1_data_63 : decode cX1_data 63 = .ok (.iaload, 1) := dk_46 (dk_at dksX1_data_2 16 rfl rfl)
theorem dX1_data_64 : decode cX1_data 64 = .ok (.invokevirtual 95, 3) := dk_182 0 95 (dk_at dksX1_data_2 17 rfl rfl)
theorem dX1_data_67 : decode cX1_data 67 = .ok (.checkcast 130, 3) := dk_192 0 130 (dk_at dksX1_data_2 20 rfl rfl)
theorem dX1_data_70 : decode cX1_data 70 = .ok (.invokevirtual 150, 3) := dk_182 0 150 (dk_at dksX1_data_3 0 rfl rfl)
theorem dX1_data_73 : decode cX1_data 73 = .ok (.aload 6, 2) := dk_25 6 (dk_at dksX1_data_3 3 rfl rfl)
theorem dX1_data_75 : decode cX1_data 75 = .ok (.iload 9, 2) := dk_21 9 (dk_at dksX1_data_3 5 rfl rfl)
theorem dX1_data_77 : decode cX1_data 77 = .ok (.iaload, 1) := dk_46 (dk_at dksX1_data_3 7 rfl rfl)
theorem dX1_data_78 : decode cX1_data 78 = .ok (.if_icmp .ne 7, 3) := dk_160 0 7 (dk_at dksX1_data_3 8 rfl rfl)
theorem dX1_data_81 : decode cX1_data 81 = .ok (.iconst 1, 1) := dk_4 (dk_at dksX1_data_3 11 rfl rfl)
theorem dX1_data_82 : decode cX1_data 82 = .ok (.goto 4, 3) := dk_167 0 4 (dk_at dksX1_data_3 12 rfl rfl)
theorem dX1_data_85 : decode cX1_data 85 = .ok (.iconst 0, 1) := dk_3 (dk_at dksX1_data_3 15 rfl rfl)
theorem dX1_data_86 : decode cX1_data 86 = .ok (.invokestatic 117, 3) := dk_184 0 117 (dk_at dksX1_data_3 16 rfl rfl)
theorem dX1_data_89 : decode cX1_data 89 = .ok (.iload 8, 2) := dk_21 8 (dk_at dksX1_data_3 19 rfl rfl)
theorem dX1_data_91 : decode cX1_data 91 = .ok (.iload 9, 2) := dk_21 9 (dk_at dksX1_data_3 21 rfl rfl)
theorem dX1_data_93 : decode cX1_data 93 = .ok (.iconst 1, 1) := dk_4 (dk_at dksX1_data_3 23 rfl rfl)
theorem dX1_data_94 : decode cX1_data 94 = .ok (.iadd, 1) := dk_96 (dk_at dksX1_data_4 0 rfl rfl)
theorem dX1_data_95 : decode cX1_data 95 = .ok (.aload_n 0, 1) := dk_42 (dk_at dksX1_data_4 1 rfl rfl)
theorem dX1_data_96 : decode cX1_data 96 = .ok (.getfield 29, 3) := dk_180 0 29 (dk_at dksX1_data_4 2 rfl rfl)
theorem dX1_data_99 : decode cX1_data 99 = .ok (.aload 7, 2) := dk_25 7 (dk_at dksX1_data_4 5 rfl rfl)
theorem dX1_data_101 : decode cX1_data 101 = .ok (.iload 9, 2) := dk_21 9 (dk_at dksX1_data_4 7 rfl rfl)
theorem dX1_data_103 : decode cX1_data 103 = .ok (.iaload, 1) := dk_46 (dk_at dksX1_data_4 9 rfl rfl)
theorem dX1_data_104 : decode cX1_data 104 = .ok (.invokevirtual 95, 3) := dk_182 0 95 (dk_at dksX1_data_4 10 rfl rfl)
theorem dX1_data_107 : decode cX1_data 107 = .ok (.checkcast 130, 3) := dk_192 0 130 (dk_at dksX1_data_4 13 rfl rfl)
theorem dX1_data_110 : decode cX1_data 110 = .ok (.invokevirtual 153, 3) := dk_182 0 153 (dk_at dksX1_data_4 16 rfl rfl)
theorem dX1_data_113 : decode cX1_data 113 = .ok (.imul, 1) := dk_104 (dk_at dksX1_data_4 19 rfl rfl)
theorem dX1_data_114 : decode cX1_data 114 = .ok (.iadd, 1) := dk_96 (dk_at dksX1_data_4 20 rfl rfl)
theorem dX1_data_115 : decode cX1_data 115 = .ok (.istore 8, 2) := dk_54 8 (dk_at dksX1_data_4 21 rfl rfl)
theorem dX1_data_117 : decode cX1_data 117 = .ok (.iinc 9 1, 3) := dk_132 9 1 (dk_at dksX1_data_5 0 rfl rfl)
theorem dX1_data_120 : decode cX1_data 120 = .ok (.goto (-73), 3) := dk_167 255 183 (dk_at dksX1_data_5 3 rfl rfl)
theorem dX1_data_123 : decode cX1_data 123 = .ok (.aload_n 0, 1) := dk_42 (dk_at dksX1_data_5 6 rfl rfl)
theorem dX1_data_124 : decode cX1_data 124 = .ok (.new 130, 3) := dk_187 0 130 (dk_at dksX1_data_5 7 rfl rfl)
theorem dX1_data_127 : decode cX1_data 127 = .ok (.dup, 1) := dk_89 (dk_at dksX1_data_5 10 rfl rfl)
theorem dX1_data_128 : decode cX1_data 128 = .ok (.iload_n 1, 1) := dk_27 (dk_at dksX1_data_5 11 rfl rfl)
theorem dX1_data_129 : decode cX1_data 129 = .ok (.iload_n 2, 1) := dk_28 (dk_at dksX1_data_5 12 rfl rfl)
theorem dX1_data_130 : decode cX1_data 130 = .ok (.aload 7, 2) := dk_25 7 (dk_at dksX1_data_5 13 rfl rfl)
theorem dX1_data_132 : decode cX1_data 132 = .ok (.iload 8, 2) := dk_21 8 (dk_at dksX1_data_5 15 rfl rfl)
theorem dX1_data_134 : decode cX1_data 134 = .ok (.bipush 97, 2) := dk_16 97 (dk_at dksX1_data_5 17 rfl rfl)
theorem dX1_data_136 : decode cX1_data 136 = .ok (.irem, 1) := dk_112 (dk_at dksX1_data_5 19 rfl rfl)
theorem dX1_data_137 : decode cX1_data 137 = .ok (.invokespecial 132, 3) := dk_183 0 132 (dk_at dksX1_data_5 20 rfl rfl)
theorem dX1_data_140 : decode cX1_data 140 = .ok (.invokevirtual 135, 3) := dk_182 0 135 (dk_at dksX1_data_6 0 rfl rfl)
theorem dX1_data_143 : decode cX1_data 143 = .ok (.ireturn, 1) := dk_172 (dk_at dksX1_data_6 3 rfl rfl)
abbrev cX1_fieldsOf : ByteArray := prog_1_method_20_code
def yX1_fieldsOf : MethodName := ⟨RX1, "fieldsOf", "(II)[I"⟩
def dkwX1_fieldsOf_2 : List UInt8 := [182, 0, 95, 192, 0, 35, 176]
abbrev dktX1_fieldsOf_2 : List UInt8 := dkwX1_fieldsOf_2 ++ []
def dkwX1_fieldsOf_1 : List UInt8 := [182, 0, 101, 4, 100, 184, 0, 91, 184, 0, 105, 42, 180, 0, 25, 27, 182, 0, 95, 192, 0, 22, 28]
abbrev dktX1_fieldsOf_1 : List UInt8 := dkwX1_fieldsOf_1 ++ dktX1_fieldsOf_2
def dkwX1_fieldsOf_0 : List UInt8 := [27, 3, 6, 184, 0, 91, 184, 0, 105, 28, 3, 42, 180, 0, 25, 27, 182, 0, 95, 192, 0, 22]
abbrev dktX1_fieldsOf_0 : List UInt8 := dkwX1_fieldsOf_0 ++ dktX1_fieldsOf_1
theorem dksX1_fieldsOf_0 : cX1_fieldsOf.data.toList.drop 0 = dktX1_fieldsOf_0 := by decide +kernel
theorem dksX1_fieldsOf_1 : cX1_fieldsOf.data.toList.drop 22 = dktX1_fieldsOf_1 := dk_seg dksX1_fieldsOf_0 22 rfl rfl
theorem dksX1_fieldsOf_2 : cX1_fieldsOf.data.toList.drop 45 = dktX1_fieldsOf_2 := dk_seg dksX1_fieldsOf_1 23 rfl rfl
theorem dX1_fieldsOf_0 : decode cX1_fieldsOf 0 = .ok (.iload_n 1, 1) := dk_27 (dk_at dksX1_fieldsOf_0 0 rfl rfl)
theorem dX1_fieldsOf_1 : decode cX1_fieldsOf 1 = .ok (.iconst 0, 1) := dk_3 (dk_at dksX1_fieldsOf_0 1 rfl rfl)
theorem dX1_fieldsOf_2 : decode cX1_fieldsOf 2 = .ok (.iconst 3, 1) := dk_6 (dk_at dksX1_fieldsOf_0 2 rfl rfl)
theorem dX1_fieldsOf_3 : decode cX1_fieldsOf 3 = .ok (.invokestatic 91, 3) := dk_184 0 91 (dk_at dksX1_fieldsOf_0 3 rfl rfl)
theorem dX1_fieldsOf_6 : decode cX1_fieldsOf 6 = .ok (.invokestatic 105, 3) := dk_184 0 105 (dk_at dksX1_fieldsOf_0 6 rfl rfl)
theorem dX1_fieldsOf_9 : decode cX1_fieldsOf 9 = .ok (.iload_n 2, 1) := dk_28 (dk_at dksX1_fieldsOf_0 9 rfl rfl)
theorem dX1_fieldsOf_10 : decode cX1_fieldsOf 10 = .ok (.iconst 0, 1) := dk_3 (dk_at dksX1_fieldsOf_0 10 rfl rfl)
theorem dX1_fieldsOf_11 : decode cX1_fieldsOf 11 = .ok (.aload_n 0, 1) := dk_42 (dk_at dksX1_fieldsOf_0 11 rfl rfl)
theorem dX1_fieldsOf_12 : decode cX1_fieldsOf 12 = .ok (.getfield 25, 3) := dk_180 0 25 (dk_at dksX1_fieldsOf_0 12 rfl rfl)
theorem dX1_fieldsOf_15 : decode cX1_fieldsOf 15 = .ok (.iload_n 1, 1) := dk_27 (dk_at dksX1_fieldsOf_0 15 rfl rfl)
theorem dX1_fieldsOf_16 : decode cX1_fieldsOf 16 = .ok (.invokevirtual 95, 3) := dk_182 0 95 (dk_at dksX1_fieldsOf_0 16 rfl rfl)
theorem dX1_fieldsOf_19 : decode cX1_fieldsOf 19 = .ok (.checkcast 22, 3) := dk_192 0 22 (dk_at dksX1_fieldsOf_0 19 rfl rfl)
theorem dX1_fieldsOf_22 : decode cX1_fieldsOf 22 = .ok (.invokevirtual 101, 3) := dk_182 0 101 (dk_at dksX1_fieldsOf_1 0 rfl rfl)
theorem dX1_fieldsOf_25 : decode cX1_fieldsOf 25 = .ok (.iconst 1, 1) := dk_4 (dk_at dksX1_fieldsOf_1 3 rfl rfl)
theorem dX1_fieldsOf_26 : decode cX1_fieldsOf 26 = .ok (.isub, 1) := dk_100 (dk_at dksX1_fieldsOf_1 4 rfl rfl)
theorem dX1_fieldsOf_27 : decode cX1_fieldsOf 27 = .ok (.invokestatic 91, 3) := dk_184 0 91 (dk_at dksX1_fieldsOf_1 5 rfl rfl)
theorem dX1_fieldsOf_30 : decode cX1_fieldsOf 30 = .ok (.invokestatic 105, 3) := dk_184 0 105 (dk_at dksX1_fieldsOf_1 8 rfl rfl)
theorem dX1_fieldsOf_33 : decode cX1_fieldsOf 33 = .ok (.aload_n 0, 1) := dk_42 (dk_at dksX1_fieldsOf_1 11 rfl rfl)
theorem dX1_fieldsOf_34 : decode cX1_fieldsOf 34 = .ok (.getfield 25, 3) := dk_180 0 25 (dk_at dksX1_fieldsOf_1 12 rfl rfl)
theorem dX1_fieldsOf_37 : decode cX1_fieldsOf 37 = .ok (.iload_n 1, 1) := dk_27 (dk_at dksX1_fieldsOf_1 15 rfl rfl)
theorem dX1_fieldsOf_38 : decode cX1_fieldsOf 38 = .ok (.invokevirtual 95, 3) := dk_182 0 95 (dk_at dksX1_fieldsOf_1 16 rfl rfl)
theorem dX1_fieldsOf_41 : decode cX1_fieldsOf 41 = .ok (.checkcast 22, 3) := dk_192 0 22 (dk_at dksX1_fieldsOf_1 19 rfl rfl)
theorem dX1_fieldsOf_44 : decode cX1_fieldsOf 44 = .ok (.iload_n 2, 1) := dk_28 (dk_at dksX1_fieldsOf_1 22 rfl rfl)
theorem dX1_fieldsOf_45 : decode cX1_fieldsOf 45 = .ok (.invokevirtual 95, 3) := dk_182 0 95 (dk_at dksX1_fieldsOf_2 0 rfl rfl)
theorem dX1_fieldsOf_48 : decode cX1_fieldsOf 48 = .ok (.checkcast 35, 3) := dk_192 0 35 (dk_at dksX1_fieldsOf_2 3 rfl rfl)
theorem dX1_fieldsOf_51 : decode cX1_fieldsOf 51 = .ok (.areturn, 1) := dk_176 (dk_at dksX1_fieldsOf_2 6 rfl rfl)
abbrev cX1_requireParts : ByteArray := prog_1_method_21_code
def yX1_requireParts : MethodName := ⟨RX1, "requireParts", "(IIIII)V"⟩
def dkwX1_requireParts_3 : List UInt8 := [160, 0, 7, 4, 167, 0, 4, 3, 184, 0, 117, 132, 6, 1, 167, 255, 228, 177]
abbrev dktX1_requireParts_3 : List UInt8 := dkwX1_requireParts_3 ++ []
def dkwX1_requireParts_2 : List UInt8 := [132, 6, 1, 167, 255, 231, 26, 54, 6, 21, 6, 25, 5, 190, 162, 0, 26, 25, 5, 21, 6, 46, 2]
abbrev dktX1_requireParts_2 : List UInt8 := dkwX1_requireParts_2 ++ dktX1_requireParts_3
def dkwX1_requireParts_1 : List UInt8 := [21, 6, 26, 162, 0, 25, 25, 5, 21, 6, 46, 3, 21, 4, 4, 100, 184, 0, 91, 184, 0, 105]
abbrev dktX1_requireParts_1 : List UInt8 := dkwX1_requireParts_1 ++ dktX1_requireParts_2
def dkwX1_requireParts_0 : List UInt8 := [6, 188, 10, 89, 3, 27, 79, 89, 4, 28, 79, 89, 5, 29, 79, 184, 0, 15, 58, 5, 3, 54, 6]
abbrev dktX1_requireParts_0 : List UInt8 := dkwX1_requireParts_0 ++ dktX1_requireParts_1
theorem dksX1_requireParts_0 : cX1_requireParts.data.toList.drop 0 = dktX1_requireParts_0 := by decide +kernel
theorem dksX1_requireParts_1 : cX1_requireParts.data.toList.drop 23 = dktX1_requireParts_1 := dk_seg dksX1_requireParts_0 23 rfl rfl
theorem dksX1_requireParts_2 : cX1_requireParts.data.toList.drop 45 = dktX1_requireParts_2 := dk_seg dksX1_requireParts_1 22 rfl rfl
theorem dksX1_requireParts_3 : cX1_requireParts.data.toList.drop 68 = dktX1_requireParts_3 := dk_seg dksX1_requireParts_2 23 rfl rfl
theorem dX1_requireParts_0 : decode cX1_requireParts 0 = .ok (.iconst 3, 1) := dk_6 (dk_at dksX1_requireParts_0 0 rfl rfl)
theorem dX1_requireParts_1 : decode cX1_requireParts 1 = .ok (.newarray .int, 2) := dk_188_10 (dk_at dksX1_requireParts_0 1 rfl rfl)
theorem dX1_requireParts_3 : decode cX1_requireParts 3 = .ok (.dup, 1) := dk_89 (dk_at dksX1_requireParts_0 3 rfl rfl)
theorem dX1_requireParts_4 : decode cX1_requireParts 4 = .ok (.iconst 0, 1) := dk_3 (dk_at dksX1_requireParts_0 4 rfl rfl)
theorem dX1_requireParts_5 : decode cX1_requireParts 5 = .ok (.iload_n 1, 1) := dk_27 (dk_at dksX1_requireParts_0 5 rfl rfl)
theorem dX1_requireParts_6 : decode cX1_requireParts 6 = .ok (.iastore, 1) := dk_79 (dk_at dksX1_requireParts_0 6 rfl rfl)
theorem dX1_requireParts_7 : decode cX1_requireParts 7 = .ok (.dup, 1) := dk_89 (dk_at dksX1_requireParts_0 7 rfl rfl)
theorem dX1_requireParts_8 : decode cX1_requireParts 8 = .ok (.iconst 1, 1) := dk_4 (dk_at dksX1_requireParts_0 8 rfl rfl)
theorem dX1_requireParts_9 : decode cX1_requireParts 9 = .ok (.iload_n 2, 1) := dk_28 (dk_at dksX1_requireParts_0 9 rfl rfl)
theorem dX1_requireParts_10 : decode cX1_requireParts 10 = .ok (.iastore, 1) := dk_79 (dk_at dksX1_requireParts_0 10 rfl rfl)
theorem dX1_requireParts_11 : decode cX1_requireParts 11 = .ok (.dup, 1) := dk_89 (dk_at dksX1_requireParts_0 11 rfl rfl)
theorem dX1_requireParts_12 : decode cX1_requireParts 12 = .ok (.iconst 2, 1) := dk_5 (dk_at dksX1_requireParts_0 12 rfl rfl)
theorem dX1_requireParts_13 : decode cX1_requireParts 13 = .ok (.iload_n 3, 1) := dk_29 (dk_at dksX1_requireParts_0 13 rfl rfl)
theorem dX1_requireParts_14 : decode cX1_requireParts 14 = .ok (.iastore, 1) := dk_79 (dk_at dksX1_requireParts_0 14 rfl rfl)
theorem dX1_requireParts_15 : decode cX1_requireParts 15 = .ok (.invokestatic 15, 3) := dk_184 0 15 (dk_at dksX1_requireParts_0 15 rfl rfl)
theorem dX1_requireParts_18 : decode cX1_requireParts 18 = .ok (.astore 5, 2) := dk_58 5 (dk_at dksX1_requireParts_0 18 rfl rfl)
theorem dX1_requireParts_20 : decode cX1_requireParts 20 = .ok (.iconst 0, 1) := dk_3 (dk_at dksX1_requireParts_0 20 rfl rfl)
theorem dX1_requireParts_21 : decode cX1_requireParts 21 = .ok (.istore 6, 2) := dk_54 6 (dk_at dksX1_requireParts_0 21 rfl rfl)
theorem dX1_requireParts_23 : decode cX1_requireParts 23 = .ok (.iload 6, 2) := dk_21 6 (dk_at dksX1_requireParts_1 0 rfl rfl)
theorem dX1_requireParts_25 : decode cX1_requireParts 25 = .ok (.iload_n 0, 1) := dk_26 (dk_at dksX1_requireParts_1 2 rfl rfl)
theorem dX1_requireParts_26 : decode cX1_requireParts 26 = .ok (.if_icmp .ge 25, 3) := dk_162 0 25 (dk_at dksX1_requireParts_1 3 rfl rfl)
theorem dX1_requireParts_29 : decode cX1_requireParts 29 = .ok (.aload 5, 2) := dk_25 5 (dk_at dksX1_requireParts_1 6 rfl rfl)
theorem dX1_requireParts_31 : decode cX1_requireParts 31 = .ok (.iload 6, 2) := dk_21 6 (dk_at dksX1_requireParts_1 8 rfl rfl)
theorem dX1_requireParts_33 : decode cX1_requireParts 33 = .ok (.iaload, 1) := dk_46 (dk_at dksX1_requireParts_1 10 rfl rfl)
theorem dX1_requireParts_34 : decode cX1_requireParts 34 = .ok (.iconst 0, 1) := dk_3 (dk_at dksX1_requireParts_1 11 rfl rfl)
theorem dX1_requireParts_35 : decode cX1_requireParts 35 = .ok (.iload 4, 2) := dk_21 4 (dk_at dksX1_requireParts_1 12 rfl rfl)
theorem dX1_requireParts_37 : decode cX1_requireParts 37 = .ok (.iconst 1, 1) := dk_4 (dk_at dksX1_requireParts_1 14 rfl rfl)
theorem dX1_requireParts_38 : decode cX1_requireParts 38 = .ok (.isub, 1) := dk_100 (dk_at dksX1_requireParts_1 15 rfl rfl)
theorem dX1_requireParts_39 : decode cX1_requireParts 39 = .ok (.invokestatic 91, 3) := dk_184 0 91 (dk_at dksX1_requireParts_1 16 rfl rfl)
theorem dX1_requireParts_42 : decode cX1_requireParts 42 = .ok (.invokestatic 105, 3) := dk_184 0 105 (dk_at dksX1_requireParts_1 19 rfl rfl)
theorem dX1_requireParts_45 : decode cX1_requireParts 45 = .ok (.iinc 6 1, 3) := dk_132 6 1 (dk_at dksX1_requireParts_2 0 rfl rfl)
theorem dX1_requireParts_48 : decode cX1_requireParts 48 = .ok (.goto (-25), 3) := dk_167 255 231 (dk_at dksX1_requireParts_2 3 rfl rfl)
theorem dX1_requireParts_51 : decode cX1_requireParts 51 = .ok (.iload_n 0, 1) := dk_26 (dk_at dksX1_requireParts_2 6 rfl rfl)
theorem dX1_requireParts_52 : decode cX1_requireParts 52 = .ok (.istore 6, 2) := dk_54 6 (dk_at dksX1_requireParts_2 7 rfl rfl)
theorem dX1_requireParts_54 : decode cX1_requireParts 54 = .ok (.iload 6, 2) := dk_21 6 (dk_at dksX1_requireParts_2 9 rfl rfl)
theorem dX1_requireParts_56 : decode cX1_requireParts 56 = .ok (.aload 5, 2) := dk_25 5 (dk_at dksX1_requireParts_2 11 rfl rfl)
theorem dX1_requireParts_58 : decode cX1_requireParts 58 = .ok (.arraylength, 1) := dk_190 (dk_at dksX1_requireParts_2 13 rfl rfl)
theorem dX1_requireParts_59 : decode cX1_requireParts 59 = .ok (.if_icmp .ge 26, 3) := dk_162 0 26 (dk_at dksX1_requireParts_2 14 rfl rfl)
theorem dX1_requireParts_62 : decode cX1_requireParts 62 = .ok (.aload 5, 2) := dk_25 5 (dk_at dksX1_requireParts_2 17 rfl rfl)
theorem dX1_requireParts_64 : decode cX1_requireParts 64 = .ok (.iload 6, 2) := dk_21 6 (dk_at dksX1_requireParts_2 19 rfl rfl)
theorem dX1_requireParts_66 : decode cX1_requireParts 66 = .ok (.iaload, 1) := dk_46 (dk_at dksX1_requireParts_2 21 rfl rfl)
theorem dX1_requireParts_67 : decode cX1_requireParts 67 = .ok (.iconst (-1), 1) := dk_2 (dk_at dksX1_requireParts_2 22 rfl rfl)
theorem dX1_requireParts_68 : decode cX1_requireParts 68 = .ok (.if_icmp .ne 7, 3) := dk_160 0 7 (dk_at dksX1_requireParts_3 0 rfl rfl)
theorem dX1_requireParts_71 : decode cX1_requireParts 71 = .ok (.iconst 1, 1) := dk_4 (dk_at dksX1_requireParts_3 3 rfl rfl)
theorem dX1_requireParts_72 : decode cX1_requireParts 72 = .ok (.goto 4, 3) := dk_167 0 4 (dk_at dksX1_requireParts_3 4 rfl rfl)
theorem dX1_requireParts_75 : decode cX1_requireParts 75 = .ok (.iconst 0, 1) := dk_3 (dk_at dksX1_requireParts_3 7 rfl rfl)
theorem dX1_requireParts_76 : decode cX1_requireParts 76 = .ok (.invokestatic 117, 3) := dk_184 0 117 (dk_at dksX1_requireParts_3 8 rfl rfl)
theorem dX1_requireParts_79 : decode cX1_requireParts 79 = .ok (.iinc 6 1, 3) := dk_132 6 1 (dk_at dksX1_requireParts_3 11 rfl rfl)
theorem dX1_requireParts_82 : decode cX1_requireParts 82 = .ok (.goto (-28), 3) := dk_167 255 228 (dk_at dksX1_requireParts_3 14 rfl rfl)
theorem dX1_requireParts_85 : decode cX1_requireParts 85 = .ok (.return_, 1) := dk_177 (dk_at dksX1_requireParts_3 17 rfl rfl)
abbrev cX1_any : ByteArray := prog_1_method_24_code
def yX1_any : MethodName := ⟨RX1, "any", "()I"⟩
def dkwX1_any_0 : List UInt8 := [42, 187, 0, 159, 89, 183, 0, 161, 2, 3, 4, 4, 4, 4, 182, 0, 162, 172]
abbrev dktX1_any_0 : List UInt8 := dkwX1_any_0 ++ []
theorem dksX1_any_0 : cX1_any.data.toList.drop 0 = dktX1_any_0 := by decide +kernel
theorem dX1_any_0 : decode cX1_any 0 = .ok (.aload_n 0, 1) := dk_42 (dk_at dksX1_any_0 0 rfl rfl)
theorem dX1_any_1 : decode cX1_any 1 = .ok (.new 159, 3) := dk_187 0 159 (dk_at dksX1_any_0 1 rfl rfl)
theorem dX1_any_4 : decode cX1_any 4 = .ok (.dup, 1) := dk_89 (dk_at dksX1_any_0 4 rfl rfl)
theorem dX1_any_5 : decode cX1_any 5 = .ok (.invokespecial 161, 3) := dk_183 0 161 (dk_at dksX1_any_0 5 rfl rfl)
theorem dX1_any_8 : decode cX1_any 8 = .ok (.iconst (-1), 1) := dk_2 (dk_at dksX1_any_0 8 rfl rfl)
theorem dX1_any_9 : decode cX1_any 9 = .ok (.iconst 0, 1) := dk_3 (dk_at dksX1_any_0 9 rfl rfl)
theorem dX1_any_10 : decode cX1_any 10 = .ok (.iconst 1, 1) := dk_4 (dk_at dksX1_any_0 10 rfl rfl)
theorem dX1_any_11 : decode cX1_any 11 = .ok (.iconst 1, 1) := dk_4 (dk_at dksX1_any_0 11 rfl rfl)
theorem dX1_any_12 : decode cX1_any 12 = .ok (.iconst 1, 1) := dk_4 (dk_at dksX1_any_0 12 rfl rfl)
theorem dX1_any_13 : decode cX1_any 13 = .ok (.iconst 1, 1) := dk_4 (dk_at dksX1_any_0 13 rfl rfl)
theorem dX1_any_14 : decode cX1_any 14 = .ok (.invokevirtual 162, 3) := dk_182 0 162 (dk_at dksX1_any_0 14 rfl rfl)
theorem dX1_any_17 : decode cX1_any 17 = .ok (.ireturn, 1) := dk_172 (dk_at dksX1_any_0 17 rfl rfl)
abbrev cX1_addPattern : ByteArray := prog_1_method_23_code
def yX1_addPattern : MethodName := ⟨RX1, "addPattern", "(LPatternforge$Pattern;IIIIZZ)I"⟩
def dkwX1_addPattern_3 : List UInt8 := [180, 0, 32, 182, 0, 101, 4, 100, 172]
abbrev dktX1_addPattern_3 : List UInt8 := dkwX1_addPattern_3 ++ []
def dkwX1_addPattern_2 : List UInt8 := [187, 0, 99, 89, 43, 28, 29, 21, 4, 21, 5, 21, 6, 21, 7, 183, 0, 156, 182, 0, 79, 87, 42]
abbrev dktX1_addPattern_2 : List UInt8 := dkwX1_addPattern_2 ++ dktX1_addPattern_3
def dkwX1_addPattern_1 : List UInt8 := [180, 0, 32, 182, 0, 101, 16, 60, 162, 0, 7, 4, 167, 0, 4, 3, 184, 0, 120, 42, 180, 0, 32]
abbrev dktX1_addPattern_1 : List UInt8 := dkwX1_addPattern_1 ++ dktX1_addPattern_2
def dkwX1_addPattern_0 : List UInt8 := [21, 5, 16, 40, 163, 0, 13, 21, 4, 7, 163, 0, 7, 4, 167, 0, 4, 3, 184, 0, 117, 42]
abbrev dktX1_addPattern_0 : List UInt8 := dkwX1_addPattern_0 ++ dktX1_addPattern_1
theorem dksX1_addPattern_0 : cX1_addPattern.data.toList.drop 0 = dktX1_addPattern_0 := by decide +kernel
theorem dksX1_addPattern_1 : cX1_addPattern.data.toList.drop 22 = dktX1_addPattern_1 := dk_seg dksX1_addPattern_0 22 rfl rfl
theorem dksX1_addPattern_2 : cX1_addPattern.data.toList.drop 45 = dktX1_addPattern_2 := dk_seg dksX1_addPattern_1 23 rfl rfl
theorem dksX1_addPattern_3 : cX1_addPattern.data.toList.drop 68 = dktX1_addPattern_3 := dk_seg dksX1_addPattern_2 23 rfl rfl
theorem dX1_addPattern_0 : decode cX1_addPattern 0 = .ok (.iload 5, 2) := dk_21 5 (dk_at dksX1_addPattern_0 0 rfl rfl)
theorem dX1_addPattern_2 : decode cX1_addPattern 2 = .ok (.bipush 40, 2) := dk_16 40 (dk_at dksX1_addPattern_0 2 rfl rfl)
theorem dX1_addPattern_4 : decode cX1_addPattern 4 = .ok (.if_icmp .gt 13, 3) := dk_163 0 13 (dk_at dksX1_addPattern_0 4 rfl rfl)
theorem dX1_addPattern_7 : decode cX1_addPattern 7 = .ok (.iload 4, 2) := dk_21 4 (dk_at dksX1_addPattern_0 7 rfl rfl)
theorem dX1_addPattern_9 : decode cX1_addPattern 9 = .ok (.iconst 4, 1) := dk_7 (dk_at dksX1_addPattern_0 9 rfl rfl)
theorem dX1_addPattern_10 : decode cX1_addPattern 10 = .ok (.if_icmp .gt 7, 3) := dk_163 0 7 (dk_at dksX1_addPattern_0 10 rfl rfl)
theorem dX1_addPattern_13 : decode cX1_addPattern 13 = .ok (.iconst 1, 1) := dk_4 (dk_at dksX1_addPattern_0 13 rfl rfl)
theorem dX1_addPattern_14 : decode cX1_addPattern 14 = .ok (.goto 4, 3) := dk_167 0 4 (dk_at dksX1_addPattern_0 14 rfl rfl)
theorem dX1_addPattern_17 : decode cX1_addPattern 17 = .ok (.iconst 0, 1) := dk_3 (dk_at dksX1_addPattern_0 17 rfl rfl)
theorem dX1_addPattern_18 : decode cX1_addPattern 18 = .ok (.invokestatic 117, 3) := dk_184 0 117 (dk_at dksX1_addPattern_0 18 rfl rfl)
theorem dX1_addPattern_21 : decode cX1_addPattern 21 = .ok (.aload_n 0, 1) := dk_42 (dk_at dksX1_addPattern_0 21 rfl rfl)
theorem dX1_addPattern_22 : decode cX1_addPattern 22 = .ok (.getfield 32, 3) := dk_180 0 32 (dk_at dksX1_addPattern_1 0 rfl rfl)
theorem dX1_addPattern_25 : decode cX1_addPattern 25 = .ok (.invokevirtual 101, 3) := dk_182 0 101 (dk_at dksX1_addPattern_1 3 rfl rfl)
theorem dX1_addPattern_28 : decode cX1_addPattern 28 = .ok (.bipush 60, 2) := dk_16 60 (dk_at dksX1_addPattern_1 6 rfl rfl)
theorem dX1_addPattern_30 : decode cX1_addPattern 30 = .ok (.if_icmp .ge 7, 3) := dk_162 0 7 (dk_at dksX1_addPattern_1 8 rfl rfl)
theorem dX1_addPattern_33 : decode cX1_addPattern 33 = .ok (.iconst 1, 1) := dk_4 (dk_at dksX1_addPattern_1 11 rfl rfl)
theorem dX1_addPattern_34 : decode cX1_addPattern 34 = .ok (.goto 4, 3) := dk_167 0 4 (dk_at dksX1_addPattern_1 12 rfl rfl)
theorem dX1_addPattern_37 : decode cX1_addPattern 37 = .ok (.iconst 0, 1) := dk_3 (dk_at dksX1_addPattern_1 15 rfl rfl)
theorem dX1_addPattern_38 : decode cX1_addPattern 38 = .ok (.invokestatic 120, 3) := dk_184 0 120 (dk_at dksX1_addPattern_1 16 rfl rfl)
theorem dX1_addPattern_41 : decode cX1_addPattern 41 = .ok (.aload_n 0, 1) := dk_42 (dk_at dksX1_addPattern_1 19 rfl rfl)
theorem dX1_addPattern_42 : decode cX1_addPattern 42 = .ok (.getfield 32, 3) := dk_180 0 32 (dk_at dksX1_addPattern_1 20 rfl rfl)
theorem dX1_addPattern_45 : decode cX1_addPattern 45 = .ok (.new 99, 3) := dk_187 0 99 (dk_at dksX1_addPattern_2 0 rfl rfl)
theorem dX1_addPattern_48 : decode cX1_addPattern 48 = .ok (.dup, 1) := dk_89 (dk_at dksX1_addPattern_2 3 rfl rfl)
theorem dX1_addPattern_49 : decode cX1_addPattern 49 = .ok (.aload_n 1, 1) := dk_43 (dk_at dksX1_addPattern_2 4 rfl rfl)
theorem dX1_addPattern_50 : decode cX1_addPattern 50 = .ok (.iload_n 2, 1) := dk_28 (dk_at dksX1_addPattern_2 5 rfl rfl)
theorem dX1_addPattern_51 : decode cX1_addPattern 51 = .ok (.iload_n 3, 1) := dk_29 (dk_at dksX1_addPattern_2 6 rfl rfl)
theorem dX1_addPattern_52 : decode cX1_addPattern 52 = .ok (.iload 4, 2) := dk_21 4 (dk_at dksX1_addPattern_2 7 rfl rfl)
theorem dX1_addPattern_54 : decode cX1_addPattern 54 = .ok (.iload 5, 2) := dk_21 5 (dk_at dksX1_addPattern_2 9 rfl rfl)
theorem dX1_addPattern_56 : decode cX1_addPattern 56 = .ok (.iload 6, 2) := dk_21 6 (dk_at dksX1_addPattern_2 11 rfl rfl)
theorem dX1_addPattern_58 : decode cX1_addPattern 58 = .ok (.iload 7, 2) := dk_21 7 (dk_at dksX1_addPattern_2 13 rfl rfl)
theorem dX1_addPattern_60 : decode cX1_addPattern 60 = .ok (.invokespecial 156, 3) := dk_183 0 156 (dk_at dksX1_addPattern_2 15 rfl rfl)
theorem dX1_addPattern_63 : decode cX1_addPattern 63 = .ok (.invokevirtual 79, 3) := dk_182 0 79 (dk_at dksX1_addPattern_2 18 rfl rfl)
theorem dX1_addPattern_66 : decode cX1_addPattern 66 = .ok (.pop, 1) := dk_87 (dk_at dksX1_addPattern_2 21 rfl rfl)
theorem dX1_addPattern_67 : decode cX1_addPattern 67 = .ok (.aload_n 0, 1) := dk_42 (dk_at dksX1_addPattern_2 22 rfl rfl)
theorem dX1_addPattern_68 : decode cX1_addPattern 68 = .ok (.getfield 32, 3) := dk_180 0 32 (dk_at dksX1_addPattern_3 0 rfl rfl)
theorem dX1_addPattern_71 : decode cX1_addPattern 71 = .ok (.invokevirtual 101, 3) := dk_182 0 101 (dk_at dksX1_addPattern_3 3 rfl rfl)
theorem dX1_addPattern_74 : decode cX1_addPattern 74 = .ok (.iconst 1, 1) := dk_4 (dk_at dksX1_addPattern_3 6 rfl rfl)
theorem dX1_addPattern_75 : decode cX1_addPattern 75 = .ok (.isub, 1) := dk_100 (dk_at dksX1_addPattern_3 7 rfl rfl)
theorem dX1_addPattern_76 : decode cX1_addPattern 76 = .ok (.ireturn, 1) := dk_172 (dk_at dksX1_addPattern_3 8 rfl rfl)
abbrev cX1_name : ByteArray := prog_1_method_25_code
def yX1_name : MethodName := ⟨RX1, "name", "(II)I"⟩
def dkwX1_name_3 : List UInt8 := [182, 0, 194, 4, 96, 45, 182, 0, 195, 3, 182, 0, 162, 172]
abbrev dktX1_name_3 : List UInt8 := dkwX1_name_3 ++ []
def dkwX1_name_2 : List UInt8 := [182, 0, 183, 183, 0, 187, 45, 182, 0, 190, 45, 182, 0, 174, 4, 27, 120, 128, 45, 182, 0, 191, 45]
abbrev dktX1_name_2 : List UInt8 := dkwX1_name_2 ++ dktX1_name_3
def dkwX1_name_1 : List UInt8 := [27, 184, 0, 177, 154, 0, 7, 4, 167, 0, 4, 3, 184, 0, 117, 42, 187, 0, 181, 89, 27, 45]
abbrev dktX1_name_1 : List UInt8 := dkwX1_name_1 ++ dktX1_name_2
def dkwX1_name_0 : List UInt8 := [27, 3, 8, 184, 0, 91, 184, 0, 105, 42, 28, 182, 0, 166, 42, 28, 182, 0, 170, 78, 45, 182, 0, 174]
abbrev dktX1_name_0 : List UInt8 := dkwX1_name_0 ++ dktX1_name_1
theorem dksX1_name_0 : cX1_name.data.toList.drop 0 = dktX1_name_0 := by decide +kernel
theorem dksX1_name_1 : cX1_name.data.toList.drop 24 = dktX1_name_1 := dk_seg dksX1_name_0 24 rfl rfl
theorem dksX1_name_2 : cX1_name.data.toList.drop 46 = dktX1_name_2 := dk_seg dksX1_name_1 22 rfl rfl
theorem dksX1_name_3 : cX1_name.data.toList.drop 69 = dktX1_name_3 := dk_seg dksX1_name_2 23 rfl rfl
theorem dX1_name_0 : decode cX1_name 0 = .ok (.iload_n 1, 1) := dk_27 (dk_at dksX1_name_0 0 rfl rfl)
theorem dX1_name_1 : decode cX1_name 1 = .ok (.iconst 0, 1) := dk_3 (dk_at dksX1_name_0 1 rfl rfl)
theorem dX1_name_2 : decode cX1_name 2 = .ok (.iconst 5, 1) := dk_8 (dk_at dksX1_name_0 2 rfl rfl)
theorem dX1_name_3 : decode cX1_name 3 = .ok (.invokestatic 91, 3) := dk_184 0 91 (dk_at dksX1_name_0 3 rfl rfl)
theorem dX1_name_6 : decode cX1_name 6 = .ok (.invokestatic 105, 3) := dk_184 0 105 (dk_at dksX1_name_0 6 rfl rfl)
theorem dX1_name_9 : decode cX1_name 9 = .ok (.aload_n 0, 1) := dk_42 (dk_at dksX1_name_0 9 rfl rfl)
theorem dX1_name_10 : decode cX1_name 10 = .ok (.iload_n 2, 1) := dk_28 (dk_at dksX1_name_0 10 rfl rfl)
theorem dX1_name_11 : decode cX1_name 11 = .ok (.invokevirtual 166, 3) := dk_182 0 166 (dk_at dksX1_name_0 11 rfl rfl)
theorem dX1_name_14 : decode cX1_name 14 = .ok (.aload_n 0, 1) := dk_42 (dk_at dksX1_name_0 14 rfl rfl)
theorem dX1_name_15 : decode cX1_name 15 = .ok (.iload_n 2, 1) := dk_28 (dk_at dksX1_name_0 15 rfl rfl)
theorem dX1_name_16 : decode cX1_name 16 = .ok (.invokevirtual 170, 3) := dk_182 0 170 (dk_at dksX1_name_0 16 rfl rfl)
theorem dX1_name_19 : decode cX1_name 19 = .ok (.astore_n 3, 1) := dk_78 (dk_at dksX1_name_0 19 rfl rfl)
theorem dX1_name_20 : decode cX1_name 20 = .ok (.aload_n 3, 1) := dk_45 (dk_at dksX1_name_0 20 rfl rfl)
theorem dX1_name_21 : decode cX1_name 21 = .ok (.invokevirtual 174, 3) := dk_182 0 174 (dk_at dksX1_name_0 21 rfl rfl)
theorem dX1_name_24 : decode cX1_name 24 = .ok (.iload_n 1, 1) := dk_27 (dk_at dksX1_name_1 0 rfl rfl)
theorem dX1_name_25 : decode cX1_name 25 = .ok (.invokestatic 177, 3) := dk_184 0 177 (dk_at dksX1_name_1 1 rfl rfl)
theorem dX1_name_28 : decode cX1_name 28 = .ok (.ifCond .ne 7, 3) := dk_154 0 7 (dk_at dksX1_name_1 4 rfl rfl)
theorem dX1_name_31 : decode cX1_name 31 = .ok (.iconst 1, 1) := dk_4 (dk_at dksX1_name_1 7 rfl rfl)
theorem dX1_name_32 : decode cX1_name 32 = .ok (.goto 4, 3) := dk_167 0 4 (dk_at dksX1_name_1 8 rfl rfl)
theorem dX1_name_35 : decode cX1_name 35 = .ok (.iconst 0, 1) := dk_3 (dk_at dksX1_name_1 11 rfl rfl)
theorem dX1_name_36 : decode cX1_name 36 = .ok (.invokestatic 117, 3) := dk_184 0 117 (dk_at dksX1_name_1 12 rfl rfl)
theorem dX1_name_39 : decode cX1_name 39 = .ok (.aload_n 0, 1) := dk_42 (dk_at dksX1_name_1 15 rfl rfl)
theorem dX1_name_40 : decode cX1_name 40 = .ok (.new 181, 3) := dk_187 0 181 (dk_at dksX1_name_1 16 rfl rfl)
theorem dX1_name_43 : decode cX1_name 43 = .ok (.dup, 1) := dk_89 (dk_at dksX1_name_1 19 rfl rfl)
theorem dX1_name_44 : decode cX1_name 44 = .ok (.iload_n 1, 1) := dk_27 (dk_at dksX1_name_1 20 rfl rfl)
theorem dX1_name_45 : decode cX1_name 45 = .ok (.aload_n 3, 1) := dk_45 (dk_at dksX1_name_1 21 rfl rfl)
theorem dX1_name_46 : decode cX1_name 46 = .ok (.invokevirtual 183, 3) := dk_182 0 183 (dk_at dksX1_name_2 0 rfl rfl)
theorem dX1_name_49 : decode cX1_name 49 = .ok (.invokespecial 187, 3) := dk_183 0 187 (dk_at dksX1_name_2 3 rfl rfl)
theorem dX1_name_52 : decode cX1_name 52 = .ok (.aload_n 3, 1) := dk_45 (dk_at dksX1_name_2 6 rfl rfl)
theorem dX1_name_53 : decode cX1_name 53 = .ok (.invokevirtual 190, 3) := dk_182 0 190 (dk_at dksX1_name_2 7 rfl rfl)
theorem dX1_name_56 : decode cX1_name 56 = .ok (.aload_n 3, 1) := dk_45 (dk_at dksX1_name_2 10 rfl rfl)
theorem dX1_name_57 : decode cX1_name 57 = .ok (.invokevirtual 174, 3) := dk_182 0 174 (dk_at dksX1_name_2 11 rfl rfl)
theorem dX1_name_60 : decode cX1_name 60 = .ok (.iconst 1, 1) := dk_4 (dk_at dksX1_name_2 14 rfl rfl)
theorem dX1_name_61 : decode cX1_name 61 = .ok (.iload_n 1, 1) := dk_27 (dk_at dksX1_name_2 15 rfl rfl)
theorem dX1_name_62 : decode cX1_name 62 = .ok (.ishl, 1) := dk_120 (dk_at dksX1_name_2 16 rfl rfl)
theorem dX1_name_63 : decode cX1_name 63 = .ok (.ior, 1) := dk_128 (dk_at dksX1_name_2 17 rfl rfl)
theorem dX1_name_64 : decode cX1_name 64 = .ok (.aload_n 3, 1) := dk_45 (dk_at dksX1_name_2 18 rfl rfl)
theorem dX1_name_65 : decode cX1_name 65 = .ok (.invokevirtual 191, 3) := dk_182 0 191 (dk_at dksX1_name_2 19 rfl rfl)
theorem dX1_name_68 : decode cX1_name 68 = .ok (.aload_n 3, 1) := dk_45 (dk_at dksX1_name_2 22 rfl rfl)
theorem dX1_name_69 : decode cX1_name 69 = .ok (.invokevirtual 194, 3) := dk_182 0 194 (dk_at dksX1_name_3 0 rfl rfl)
theorem dX1_name_72 : decode cX1_name 72 = .ok (.iconst 1, 1) := dk_4 (dk_at dksX1_name_3 3 rfl rfl)
theorem dX1_name_73 : decode cX1_name 73 = .ok (.iadd, 1) := dk_96 (dk_at dksX1_name_3 4 rfl rfl)
theorem dX1_name_74 : decode cX1_name 74 = .ok (.aload_n 3, 1) := dk_45 (dk_at dksX1_name_3 5 rfl rfl)
theorem dX1_name_75 : decode cX1_name 75 = .ok (.invokevirtual 195, 3) := dk_182 0 195 (dk_at dksX1_name_3 6 rfl rfl)
theorem dX1_name_78 : decode cX1_name 78 = .ok (.iconst 0, 1) := dk_3 (dk_at dksX1_name_3 9 rfl rfl)
theorem dX1_name_79 : decode cX1_name 79 = .ok (.invokevirtual 162, 3) := dk_182 0 162 (dk_at dksX1_name_3 10 rfl rfl)
theorem dX1_name_82 : decode cX1_name 82 = .ok (.ireturn, 1) := dk_172 (dk_at dksX1_name_3 13 rfl rfl)
abbrev cX1_requirePattern : ByteArray := prog_1_method_13_code
def yX1_requirePattern : MethodName := ⟨RX1, "requirePattern", "(I)V"⟩
def dkwX1_requirePattern_0 : List UInt8 := [27, 3, 42, 180, 0, 32, 182, 0, 101, 4, 100, 184, 0, 91, 184, 0, 105, 177]
abbrev dktX1_requirePattern_0 : List UInt8 := dkwX1_requirePattern_0 ++ []
theorem dksX1_requirePattern_0 : cX1_requirePattern.data.toList.drop 0 = dktX1_requirePattern_0 := by decide +kernel
theorem dX1_requirePattern_0 : decode cX1_requirePattern 0 = .ok (.iload_n 1, 1) := dk_27 (dk_at dksX1_requirePattern_0 0 rfl rfl)
theorem dX1_requirePattern_1 : decode cX1_requirePattern 1 = .ok (.iconst 0, 1) := dk_3 (dk_at dksX1_requirePattern_0 1 rfl rfl)
theorem dX1_requirePattern_2 : decode cX1_requirePattern 2 = .ok (.aload_n 0, 1) := dk_42 (dk_at dksX1_requirePattern_0 2 rfl rfl)
theorem dX1_requirePattern_3 : decode cX1_requirePattern 3 = .ok (.getfield 32, 3) := dk_180 0 32 (dk_at dksX1_requirePattern_0 3 rfl rfl)
theorem dX1_requirePattern_6 : decode cX1_requirePattern 6 = .ok (.invokevirtual 101, 3) := dk_182 0 101 (dk_at dksX1_requirePattern_0 6 rfl rfl)
theorem dX1_requirePattern_9 : decode cX1_requirePattern 9 = .ok (.iconst 1, 1) := dk_4 (dk_at dksX1_requirePattern_0 9 rfl rfl)
theorem dX1_requirePattern_10 : decode cX1_requirePattern 10 = .ok (.isub, 1) := dk_100 (dk_at dksX1_requirePattern_0 10 rfl rfl)
theorem dX1_requirePattern_11 : decode cX1_requirePattern 11 = .ok (.invokestatic 91, 3) := dk_184 0 91 (dk_at dksX1_requirePattern_0 11 rfl rfl)
theorem dX1_requirePattern_14 : decode cX1_requirePattern 14 = .ok (.invokestatic 105, 3) := dk_184 0 105 (dk_at dksX1_requirePattern_0 14 rfl rfl)
theorem dX1_requirePattern_17 : decode cX1_requirePattern 17 = .ok (.return_, 1) := dk_177 (dk_at dksX1_requirePattern_0 17 rfl rfl)
abbrev cX1_told : ByteArray := prog_1_method_12_code
def yX1_told : MethodName := ⟨RX1, "told", "(I)LPatternforge$Told;"⟩
def dkwX1_told_0 : List UInt8 := [42, 180, 0, 32, 27, 182, 0, 95, 192, 0, 99, 176]
abbrev dktX1_told_0 : List UInt8 := dkwX1_told_0 ++ []
theorem dksX1_told_0 : cX1_told.data.toList.drop 0 = dktX1_told_0 := by decide +kernel
theorem dX1_told_0 : decode cX1_told 0 = .ok (.aload_n 0, 1) := dk_42 (dk_at dksX1_told_0 0 rfl rfl)
theorem dX1_told_1 : decode cX1_told 1 = .ok (.getfield 32, 3) := dk_180 0 32 (dk_at dksX1_told_0 1 rfl rfl)
theorem dX1_told_4 : decode cX1_told 4 = .ok (.iload_n 1, 1) := dk_27 (dk_at dksX1_told_0 4 rfl rfl)
theorem dX1_told_5 : decode cX1_told 5 = .ok (.invokevirtual 95, 3) := dk_182 0 95 (dk_at dksX1_told_0 5 rfl rfl)
theorem dX1_told_8 : decode cX1_told 8 = .ok (.checkcast 99, 3) := dk_192 0 99 (dk_at dksX1_told_0 8 rfl rfl)
theorem dX1_told_11 : decode cX1_told 11 = .ok (.areturn, 1) := dk_176 (dk_at dksX1_told_0 11 rfl rfl)
abbrev cX1_has : ByteArray := prog_1_method_5_code
def yX1_has : MethodName := ⟨RX1, "has", "(II)Z"⟩
def dkwX1_has_0 : List UInt8 := [26, 27, 122, 4, 126, 4, 160, 0, 7, 4, 167, 0, 4, 3, 172]
abbrev dktX1_has_0 : List UInt8 := dkwX1_has_0 ++ []
theorem dksX1_has_0 : cX1_has.data.toList.drop 0 = dktX1_has_0 := by decide +kernel
theorem dX1_has_0 : decode cX1_has 0 = .ok (.iload_n 0, 1) := dk_26 (dk_at dksX1_has_0 0 rfl rfl)
theorem dX1_has_1 : decode cX1_has 1 = .ok (.iload_n 1, 1) := dk_27 (dk_at dksX1_has_0 1 rfl rfl)
theorem dX1_has_2 : decode cX1_has 2 = .ok (.ishr, 1) := dk_122 (dk_at dksX1_has_0 2 rfl rfl)
theorem dX1_has_3 : decode cX1_has 3 = .ok (.iconst 1, 1) := dk_4 (dk_at dksX1_has_0 3 rfl rfl)
theorem dX1_has_4 : decode cX1_has 4 = .ok (.iand, 1) := dk_126 (dk_at dksX1_has_0 4 rfl rfl)
theorem dX1_has_5 : decode cX1_has 5 = .ok (.iconst 1, 1) := dk_4 (dk_at dksX1_has_0 5 rfl rfl)
theorem dX1_has_6 : decode cX1_has 6 = .ok (.if_icmp .ne 7, 3) := dk_160 0 7 (dk_at dksX1_has_0 6 rfl rfl)
theorem dX1_has_9 : decode cX1_has 9 = .ok (.iconst 1, 1) := dk_4 (dk_at dksX1_has_0 9 rfl rfl)
theorem dX1_has_10 : decode cX1_has 10 = .ok (.goto 4, 3) := dk_167 0 4 (dk_at dksX1_has_0 10 rfl rfl)
theorem dX1_has_13 : decode cX1_has 13 = .ok (.iconst 0, 1) := dk_3 (dk_at dksX1_has_0 13 rfl rfl)
theorem dX1_has_14 : decode cX1_has 14 = .ok (.ireturn, 1) := dk_172 (dk_at dksX1_has_0 14 rfl rfl)
abbrev cX1_range : ByteArray := prog_1_method_26_code
def yX1_range : MethodName := ⟨RX1, "range", "(II)I"⟩
def dkwX1_range_1 : List UInt8 := [3, 184, 0, 117, 42, 187, 0, 199, 89, 27, 28, 183, 0, 201, 7, 3, 4, 4, 4, 4, 182, 0, 162, 172]
abbrev dktX1_range_1 : List UInt8 := dkwX1_range_1 ++ []
def dkwX1_range_0 : List UInt8 := [27, 3, 16, 9, 184, 0, 91, 153, 0, 17, 28, 27, 16, 9, 184, 0, 91, 153, 0, 7, 4, 167, 0, 4]
abbrev dktX1_range_0 : List UInt8 := dkwX1_range_0 ++ dktX1_range_1
theorem dksX1_range_0 : cX1_range.data.toList.drop 0 = dktX1_range_0 := by decide +kernel
theorem dksX1_range_1 : cX1_range.data.toList.drop 24 = dktX1_range_1 := dk_seg dksX1_range_0 24 rfl rfl
theorem dX1_range_0 : decode cX1_range 0 = .ok (.iload_n 1, 1) := dk_27 (dk_at dksX1_range_0 0 rfl rfl)
theorem dX1_range_1 : decode cX1_range 1 = .ok (.iconst 0, 1) := dk_3 (dk_at dksX1_range_0 1 rfl rfl)
theorem dX1_range_2 : decode cX1_range 2 = .ok (.bipush 9, 2) := dk_16 9 (dk_at dksX1_range_0 2 rfl rfl)
theorem dX1_range_4 : decode cX1_range 4 = .ok (.invokestatic 91, 3) := dk_184 0 91 (dk_at dksX1_range_0 4 rfl rfl)
theorem dX1_range_7 : decode cX1_range 7 = .ok (.ifCond .eq 17, 3) := dk_153 0 17 (dk_at dksX1_range_0 7 rfl rfl)
theorem dX1_range_10 : decode cX1_range 10 = .ok (.iload_n 2, 1) := dk_28 (dk_at dksX1_range_0 10 rfl rfl)
theorem dX1_range_11 : decode cX1_range 11 = .ok (.iload_n 1, 1) := dk_27 (dk_at dksX1_range_0 11 rfl rfl)
theorem dX1_range_12 : decode cX1_range 12 = .ok (.bipush 9, 2) := dk_16 9 (dk_at dksX1_range_0 12 rfl rfl)
theorem dX1_range_14 : decode cX1_range 14 = .ok (.invokestatic 91, 3) := dk_184 0 91 (dk_at dksX1_range_0 14 rfl rfl)
theorem dX1_range_17 : decode cX1_range 17 = .ok (.ifCond .eq 7, 3) := dk_153 0 7 (dk_at dksX1_range_0 17 rfl rfl)
theorem dX1_range_20 : decode cX1_range 20 = .ok (.iconst 1, 1) := dk_4 (dk_at dksX1_range_0 20 rfl rfl)
theorem dX1_range_21 : decode cX1_range 21 = .ok (.goto 4, 3) := dk_167 0 4 (dk_at dksX1_range_0 21 rfl rfl)
theorem dX1_range_24 : decode cX1_range 24 = .ok (.iconst 0, 1) := dk_3 (dk_at dksX1_range_1 0 rfl rfl)
theorem dX1_range_25 : decode cX1_range 25 = .ok (.invokestatic 117, 3) := dk_184 0 117 (dk_at dksX1_range_1 1 rfl rfl)
theorem dX1_range_28 : decode cX1_range 28 = .ok (.aload_n 0, 1) := dk_42 (dk_at dksX1_range_1 4 rfl rfl)
theorem dX1_range_29 : decode cX1_range 29 = .ok (.new 199, 3) := dk_187 0 199 (dk_at dksX1_range_1 5 rfl rfl)
theorem dX1_range_32 : decode cX1_range 32 = .ok (.dup, 1) := dk_89 (dk_at dksX1_range_1 8 rfl rfl)
theorem dX1_range_33 : decode cX1_range 33 = .ok (.iload_n 1, 1) := dk_27 (dk_at dksX1_range_1 9 rfl rfl)
theorem dX1_range_34 : decode cX1_range 34 = .ok (.iload_n 2, 1) := dk_28 (dk_at dksX1_range_1 10 rfl rfl)
theorem dX1_range_35 : decode cX1_range 35 = .ok (.invokespecial 201, 3) := dk_183 0 201 (dk_at dksX1_range_1 11 rfl rfl)
theorem dX1_range_38 : decode cX1_range 38 = .ok (.iconst 4, 1) := dk_7 (dk_at dksX1_range_1 14 rfl rfl)
theorem dX1_range_39 : decode cX1_range 39 = .ok (.iconst 0, 1) := dk_3 (dk_at dksX1_range_1 15 rfl rfl)
theorem dX1_range_40 : decode cX1_range 40 = .ok (.iconst 1, 1) := dk_4 (dk_at dksX1_range_1 16 rfl rfl)
theorem dX1_range_41 : decode cX1_range 41 = .ok (.iconst 1, 1) := dk_4 (dk_at dksX1_range_1 17 rfl rfl)
theorem dX1_range_42 : decode cX1_range 42 = .ok (.iconst 1, 1) := dk_4 (dk_at dksX1_range_1 18 rfl rfl)
theorem dX1_range_43 : decode cX1_range 43 = .ok (.iconst 1, 1) := dk_4 (dk_at dksX1_range_1 19 rfl rfl)
theorem dX1_range_44 : decode cX1_range 44 = .ok (.invokevirtual 162, 3) := dk_182 0 162 (dk_at dksX1_range_1 20 rfl rfl)
theorem dX1_range_47 : decode cX1_range 47 = .ok (.ireturn, 1) := dk_172 (dk_at dksX1_range_1 23 rfl rfl)
abbrev cX1_make : ByteArray := prog_1_method_29_code
def yX1_make : MethodName := ⟨RX1, "make", "(IIIII)I"⟩
def dkwX1_make_2 : List UInt8 := [25, 7, 25, 6, 182, 0, 217, 183, 0, 221, 27, 25, 7, 182, 0, 224, 172]
abbrev dktX1_make_2 : List UInt8 := dkwX1_make_2 ++ []
def dkwX1_make_1 : List UInt8 := [184, 0, 146, 25, 6, 190, 29, 21, 4, 21, 5, 184, 0, 123, 58, 7, 42, 187, 0, 215, 89, 27, 28, 42]
abbrev dktX1_make_1 : List UInt8 := dkwX1_make_1 ++ dktX1_make_2
def dkwX1_make_0 : List UInt8 := [42, 27, 28, 182, 0, 142, 58, 6, 25, 6, 190, 29, 21, 4, 21, 5, 42, 180, 0, 32, 182, 0, 101]
abbrev dktX1_make_0 : List UInt8 := dkwX1_make_0 ++ dktX1_make_1
theorem dksX1_make_0 : cX1_make.data.toList.drop 0 = dktX1_make_0 := by decide +kernel
theorem dksX1_make_1 : cX1_make.data.toList.drop 23 = dktX1_make_1 := dk_seg dksX1_make_0 23 rfl rfl
theorem dksX1_make_2 : cX1_make.data.toList.drop 47 = dktX1_make_2 := dk_seg dksX1_make_1 24 rfl rfl
theorem dX1_make_0 : decode cX1_make 0 = .ok (.aload_n 0, 1) := dk_42 (dk_at dksX1_make_0 0 rfl rfl)
theorem dX1_make_1 : decode cX1_make 1 = .ok (.iload_n 1, 1) := dk_27 (dk_at dksX1_make_0 1 rfl rfl)
theorem dX1_make_2 : decode cX1_make 2 = .ok (.iload_n 2, 1) := dk_28 (dk_at dksX1_make_0 2 rfl rfl)
theorem dX1_make_3 : decode cX1_make 3 = .ok (.invokevirtual 142, 3) := dk_182 0 142 (dk_at dksX1_make_0 3 rfl rfl)
theorem dX1_make_6 : decode cX1_make 6 = .ok (.astore 6, 2) := dk_58 6 (dk_at dksX1_make_0 6 rfl rfl)
theorem dX1_make_8 : decode cX1_make 8 = .ok (.aload 6, 2) := dk_25 6 (dk_at dksX1_make_0 8 rfl rfl)
theorem dX1_make_10 : decode cX1_make 10 = .ok (.arraylength, 1) := dk_190 (dk_at dksX1_make_0 10 rfl rfl)
theorem dX1_make_11 : decode cX1_make 11 = .ok (.iload_n 3, 1) := dk_29 (dk_at dksX1_make_0 11 rfl rfl)
theorem dX1_make_12 : decode cX1_make 12 = .ok (.iload 4, 2) := dk_21 4 (dk_at dksX1_make_0 12 rfl rfl)
theorem dX1_make_14 : decode cX1_make 14 = .ok (.iload 5, 2) := dk_21 5 (dk_at dksX1_make_0 14 rfl rfl)
theorem dX1_make_16 : decode cX1_make 16 = .ok (.aload_n 0, 1) := dk_42 (dk_at dksX1_make_0 16 rfl rfl)
theorem dX1_make_17 : decode cX1_make 17 = .ok (.getfield 32, 3) := dk_180 0 32 (dk_at dksX1_make_0 17 rfl rfl)
theorem dX1_make_20 : decode cX1_make 20 = .ok (.invokevirtual 101, 3) := dk_182 0 101 (dk_at dksX1_make_0 20 rfl rfl)
theorem dX1_make_23 : decode cX1_make 23 = .ok (.invokestatic 146, 3) := dk_184 0 146 (dk_at dksX1_make_1 0 rfl rfl)
theorem dX1_make_26 : decode cX1_make 26 = .ok (.aload 6, 2) := dk_25 6 (dk_at dksX1_make_1 3 rfl rfl)
theorem dX1_make_28 : decode cX1_make 28 = .ok (.arraylength, 1) := dk_190 (dk_at dksX1_make_1 5 rfl rfl)
theorem dX1_make_29 : decode cX1_make 29 = .ok (.iload_n 3, 1) := dk_29 (dk_at dksX1_make_1 6 rfl rfl)
theorem dX1_make_30 : decode cX1_make 30 = .ok (.iload 4, 2) := dk_21 4 (dk_at dksX1_make_1 7 rfl rfl)
theorem dX1_make_32 : decode cX1_make 32 = .ok (.iload 5, 2) := dk_21 5 (dk_at dksX1_make_1 9 rfl rfl)
theorem dX1_make_34 : decode cX1_make 34 = .ok (.invokestatic 123, 3) := dk_184 0 123 (dk_at dksX1_make_1 11 rfl rfl)
theorem dX1_make_37 : decode cX1_make 37 = .ok (.astore 7, 2) := dk_58 7 (dk_at dksX1_make_1 14 rfl rfl)
theorem dX1_make_39 : decode cX1_make 39 = .ok (.aload_n 0, 1) := dk_42 (dk_at dksX1_make_1 16 rfl rfl)
theorem dX1_make_40 : decode cX1_make 40 = .ok (.new 215, 3) := dk_187 0 215 (dk_at dksX1_make_1 17 rfl rfl)
theorem dX1_make_43 : decode cX1_make 43 = .ok (.dup, 1) := dk_89 (dk_at dksX1_make_1 20 rfl rfl)
theorem dX1_make_44 : decode cX1_make 44 = .ok (.iload_n 1, 1) := dk_27 (dk_at dksX1_make_1 21 rfl rfl)
theorem dX1_make_45 : decode cX1_make 45 = .ok (.iload_n 2, 1) := dk_28 (dk_at dksX1_make_1 22 rfl rfl)
theorem dX1_make_46 : decode cX1_make 46 = .ok (.aload_n 0, 1) := dk_42 (dk_at dksX1_make_1 23 rfl rfl)
theorem dX1_make_47 : decode cX1_make 47 = .ok (.aload 7, 2) := dk_25 7 (dk_at dksX1_make_2 0 rfl rfl)
theorem dX1_make_49 : decode cX1_make 49 = .ok (.aload 6, 2) := dk_25 6 (dk_at dksX1_make_2 2 rfl rfl)
theorem dX1_make_51 : decode cX1_make 51 = .ok (.invokevirtual 217, 3) := dk_182 0 217 (dk_at dksX1_make_2 4 rfl rfl)
theorem dX1_make_54 : decode cX1_make 54 = .ok (.invokespecial 221, 3) := dk_183 0 221 (dk_at dksX1_make_2 7 rfl rfl)
theorem dX1_make_57 : decode cX1_make 57 = .ok (.iload_n 1, 1) := dk_27 (dk_at dksX1_make_2 10 rfl rfl)
theorem dX1_make_58 : decode cX1_make 58 = .ok (.aload 7, 2) := dk_25 7 (dk_at dksX1_make_2 11 rfl rfl)
theorem dX1_make_60 : decode cX1_make 60 = .ok (.invokevirtual 224, 3) := dk_182 0 224 (dk_at dksX1_make_2 13 rfl rfl)
theorem dX1_make_63 : decode cX1_make 63 = .ok (.ireturn, 1) := dk_172 (dk_at dksX1_make_2 16 rfl rfl)
abbrev cX1_partsOf : ByteArray := prog_1_method_27_code
def yX1_partsOf : MethodName := ⟨RX1, "partsOf", "([I[I)[LPatternforge$Pattern;"⟩
def dkwX1_partsOf_3 : List UInt8 := [21, 5, 25, 6, 182, 0, 183, 83, 132, 5, 1, 167, 255, 186, 45, 176]
abbrev dktX1_partsOf_3 : List UInt8 := dkwX1_partsOf_3 ++ []
def dkwX1_partsOf_2 : List UInt8 := [126, 154, 0, 7, 4, 167, 0, 4, 3, 184, 0, 117, 21, 4, 25, 6, 182, 0, 174, 128, 54, 4, 45]
abbrev dktX1_partsOf_2 : List UInt8 := dkwX1_partsOf_2 ++ dktX1_partsOf_3
def dkwX1_partsOf_1 : List UInt8 := [182, 0, 170, 58, 6, 25, 6, 44, 21, 5, 46, 182, 0, 206, 153, 0, 18, 25, 6, 182, 0, 174, 21, 4]
abbrev dktX1_partsOf_1 : List UInt8 := dkwX1_partsOf_1 ++ dktX1_partsOf_2
def dkwX1_partsOf_0 : List UInt8 := [43, 190, 189, 0, 204, 78, 3, 54, 4, 3, 54, 5, 21, 5, 43, 190, 162, 0, 69, 42, 43, 21, 5, 46]
abbrev dktX1_partsOf_0 : List UInt8 := dkwX1_partsOf_0 ++ dktX1_partsOf_1
theorem dksX1_partsOf_0 : cX1_partsOf.data.toList.drop 0 = dktX1_partsOf_0 := by decide +kernel
theorem dksX1_partsOf_1 : cX1_partsOf.data.toList.drop 24 = dktX1_partsOf_1 := dk_seg dksX1_partsOf_0 24 rfl rfl
theorem dksX1_partsOf_2 : cX1_partsOf.data.toList.drop 48 = dktX1_partsOf_2 := dk_seg dksX1_partsOf_1 24 rfl rfl
theorem dksX1_partsOf_3 : cX1_partsOf.data.toList.drop 71 = dktX1_partsOf_3 := dk_seg dksX1_partsOf_2 23 rfl rfl
theorem dX1_partsOf_0 : decode cX1_partsOf 0 = .ok (.aload_n 1, 1) := dk_43 (dk_at dksX1_partsOf_0 0 rfl rfl)
theorem dX1_partsOf_1 : decode cX1_partsOf 1 = .ok (.arraylength, 1) := dk_190 (dk_at dksX1_partsOf_0 1 rfl rfl)
theorem dX1_partsOf_2 : decode cX1_partsOf 2 = .ok (.anewarray 204, 3) := dk_189 0 204 (dk_at dksX1_partsOf_0 2 rfl rfl)
theorem dX1_partsOf_5 : decode cX1_partsOf 5 = .ok (.astore_n 3, 1) := dk_78 (dk_at dksX1_partsOf_0 5 rfl rfl)
theorem dX1_partsOf_6 : decode cX1_partsOf 6 = .ok (.iconst 0, 1) := dk_3 (dk_at dksX1_partsOf_0 6 rfl rfl)
theorem dX1_partsOf_7 : decode cX1_partsOf 7 = .ok (.istore 4, 2) := dk_54 4 (dk_at dksX1_partsOf_0 7 rfl rfl)
theorem dX1_partsOf_9 : decode cX1_partsOf 9 = .ok (.iconst 0, 1) := dk_3 (dk_at dksX1_partsOf_0 9 rfl rfl)
theorem dX1_partsOf_10 : decode cX1_partsOf 10 = .ok (.istore 5, 2) := dk_54 5 (dk_at dksX1_partsOf_0 10 rfl rfl)
theorem dX1_partsOf_12 : decode cX1_partsOf 12 = .ok (.iload 5, 2) := dk_21 5 (dk_at dksX1_partsOf_0 12 rfl rfl)
theorem dX1_partsOf_14 : decode cX1_partsOf 14 = .ok (.aload_n 1, 1) := dk_43 (dk_at dksX1_partsOf_0 14 rfl rfl)
theorem dX1_partsOf_15 : decode cX1_partsOf 15 = .ok (.arraylength, 1) := dk_190 (dk_at dksX1_partsOf_0 15 rfl rfl)
theorem dX1_partsOf_16 : decode cX1_partsOf 16 = .ok (.if_icmp .ge 69, 3) := dk_162 0 69 (dk_at dksX1_partsOf_0 16 rfl rfl)
theorem dX1_partsOf_19 : decode cX1_partsOf 19 = .ok (.aload_n 0, 1) := dk_42 (dk_at dksX1_partsOf_0 19 rfl rfl)
theorem dX1_partsOf_20 : decode cX1_partsOf 20 = .ok (.aload_n 1, 1) := dk_43 (dk_at dksX1_partsOf_0 20 rfl rfl)
theorem dX1_partsOf_21 : decode cX1_partsOf 21 = .ok (.iload 5, 2) := dk_21 5 (dk_at dksX1_partsOf_0 21 rfl rfl)
theorem dX1_partsOf_23 : decode cX1_partsOf 23 = .ok (.iaload, 1) := dk_46 (dk_at dksX1_partsOf_0 23 rfl rfl)
theorem dX1_partsOf_24 : decode cX1_partsOf 24 = .ok (.invokevirtual 170, 3) := dk_182 0 170 (dk_at dksX1_partsOf_1 0 rfl rfl)
theorem dX1_partsOf_27 : decode cX1_partsOf 27 = .ok (.astore 6, 2) := dk_58 6 (dk_at dksX1_partsOf_1 3 rfl rfl)
theorem dX1_partsOf_29 : decode cX1_partsOf 29 = .ok (.aload 6, 2) := dk_25 6 (dk_at dksX1_partsOf_1 5 rfl rfl)
theorem dX1_partsOf_31 : decode cX1_partsOf 31 = .ok (.aload_n 2, 1) := dk_44 (dk_at dksX1_partsOf_1 7 rfl rfl)
theorem dX1_partsOf_32 : decode cX1_partsOf 32 = .ok (.iload 5, 2) := dk_21 5 (dk_at dksX1_partsOf_1 8 rfl rfl)
theorem dX1_partsOf_34 : decode cX1_partsOf 34 = .ok (.iaload, 1) := dk_46 (dk_at dksX1_partsOf_1 10 rfl rfl)
theorem dX1_partsOf_35 : decode cX1_partsOf 35 = .ok (.invokevirtual 206, 3) := dk_182 0 206 (dk_at dksX1_partsOf_1 11 rfl rfl)
theorem dX1_partsOf_38 : decode cX1_partsOf 38 = .ok (.ifCond .eq 18, 3) := dk_153 0 18 (dk_at dksX1_partsOf_1 14 rfl rfl)
theorem dX1_partsOf_41 : decode cX1_partsOf 41 = .ok (.aload 6, 2) := dk_25 6 (dk_at dksX1_partsOf_1 17 rfl rfl)
theorem dX1_partsOf_43 : decode cX1_partsOf 43 = .ok (.invokevirtual 174, 3) := dk_182 0 174 (dk_at dksX1_partsOf_1 19 rfl rfl)
theorem dX1_partsOf_46 : decode cX1_partsOf 46 = .ok (.iload 4, 2) := dk_21 4 (dk_at dksX1_partsOf_1 22 rfl rfl)
theorem dX1_partsOf_48 : decode cX1_partsOf 48 = .ok (.iand, 1) := dk_126 (dk_at dksX1_partsOf_2 0 rfl rfl)
theorem dX1_partsOf_49 : decode cX1_partsOf 49 = .ok (.ifCond .ne 7, 3) := dk_154 0 7 (dk_at dksX1_partsOf_2 1 rfl rfl)
theorem dX1_partsOf_52 : decode cX1_partsOf 52 = .ok (.iconst 1, 1) := dk_4 (dk_at dksX1_partsOf_2 4 rfl rfl)
theorem dX1_partsOf_53 : decode cX1_partsOf 53 = .ok (.goto 4, 3) := dk_167 0 4 (dk_at dksX1_partsOf_2 5 rfl rfl)
theorem dX1_partsOf_56 : decode cX1_partsOf 56 = .ok (.iconst 0, 1) := dk_3 (dk_at dksX1_partsOf_2 8 rfl rfl)
theorem dX1_partsOf_57 : decode cX1_partsOf 57 = .ok (.invokestatic 117, 3) := dk_184 0 117 (dk_at dksX1_partsOf_2 9 rfl rfl)
theorem dX1_partsOf_60 : decode cX1_partsOf 60 = .ok (.iload 4, 2) := dk_21 4 (dk_at dksX1_partsOf_2 12 rfl rfl)
theorem dX1_partsOf_62 : decode cX1_partsOf 62 = .ok (.aload 6, 2) := dk_25 6 (dk_at dksX1_partsOf_2 14 rfl rfl)
theorem dX1_partsOf_64 : decode cX1_partsOf 64 = .ok (.invokevirtual 174, 3) := dk_182 0 174 (dk_at dksX1_partsOf_2 16 rfl rfl)
theorem dX1_partsOf_67 : decode cX1_partsOf 67 = .ok (.ior, 1) := dk_128 (dk_at dksX1_partsOf_2 19 rfl rfl)
theorem dX1_partsOf_68 : decode cX1_partsOf 68 = .ok (.istore 4, 2) := dk_54 4 (dk_at dksX1_partsOf_2 20 rfl rfl)
theorem dX1_partsOf_70 : decode cX1_partsOf 70 = .ok (.aload_n 3, 1) := dk_45 (dk_at dksX1_partsOf_2 22 rfl rfl)
theorem dX1_partsOf_71 : decode cX1_partsOf 71 = .ok (.iload 5, 2) := dk_21 5 (dk_at dksX1_partsOf_3 0 rfl rfl)
theorem dX1_partsOf_73 : decode cX1_partsOf 73 = .ok (.aload 6, 2) := dk_25 6 (dk_at dksX1_partsOf_3 2 rfl rfl)
theorem dX1_partsOf_75 : decode cX1_partsOf 75 = .ok (.invokevirtual 183, 3) := dk_182 0 183 (dk_at dksX1_partsOf_3 4 rfl rfl)
theorem dX1_partsOf_78 : decode cX1_partsOf 78 = .ok (.aastore, 1) := dk_83 (dk_at dksX1_partsOf_3 7 rfl rfl)
theorem dX1_partsOf_79 : decode cX1_partsOf 79 = .ok (.iinc 5 1, 3) := dk_132 5 1 (dk_at dksX1_partsOf_3 8 rfl rfl)
theorem dX1_partsOf_82 : decode cX1_partsOf 82 = .ok (.goto (-70), 3) := dk_167 255 186 (dk_at dksX1_partsOf_3 11 rfl rfl)
theorem dX1_partsOf_85 : decode cX1_partsOf 85 = .ok (.aload_n 3, 1) := dk_45 (dk_at dksX1_partsOf_3 14 rfl rfl)
theorem dX1_partsOf_86 : decode cX1_partsOf 86 = .ok (.areturn, 1) := dk_176 (dk_at dksX1_partsOf_3 15 rfl rfl)
abbrev cX1_addMade : ByteArray := prog_1_method_28_code
def yX1_addMade : MethodName := ⟨RX1, "addMade", "(LPatternforge$Pattern;I[I)I"⟩
def dkwX1_addMade_5 : List UInt8 := [182, 0, 162, 172]
abbrev dktX1_addMade_5 : List UInt8 := dkwX1_addMade_5 ++ []
def dkwX1_addMade_4 : List UInt8 := [54, 7, 132, 10, 1, 167, 255, 179, 42, 43, 28, 21, 4, 21, 5, 4, 96, 21, 6, 21, 7, 3]
abbrev dktX1_addMade_4 : List UInt8 := dkwX1_addMade_4 ++ dktX1_addMade_5
def dkwX1_addMade_3 : List UInt8 := [182, 0, 194, 96, 54, 6, 21, 7, 153, 0, 15, 25, 12, 182, 0, 195, 153, 0, 7, 4, 167, 0, 4, 3]
abbrev dktX1_addMade_3 : List UInt8 := dkwX1_addMade_3 ++ dktX1_addMade_4
def dkwX1_addMade_2 : List UInt8 := [25, 12, 182, 0, 174, 128, 54, 4, 21, 5, 25, 12, 182, 0, 191, 184, 0, 209, 54, 5, 21, 6, 25, 12]
abbrev dktX1_addMade_2 : List UInt8 := dkwX1_addMade_2 ++ dktX1_addMade_3
def dkwX1_addMade_1 : List UInt8 := [21, 10, 21, 9, 162, 0, 76, 25, 8, 21, 10, 46, 54, 11, 42, 21, 11, 182, 0, 170, 58, 12, 21, 4]
abbrev dktX1_addMade_1 : List UInt8 := dkwX1_addMade_1 ++ dktX1_addMade_2
def dkwX1_addMade_0 : List UInt8 := [3, 54, 4, 3, 54, 5, 4, 54, 6, 4, 54, 7, 45, 58, 8, 25, 8, 190, 54, 9, 3, 54, 10]
abbrev dktX1_addMade_0 : List UInt8 := dkwX1_addMade_0 ++ dktX1_addMade_1
theorem dksX1_addMade_0 : cX1_addMade.data.toList.drop 0 = dktX1_addMade_0 := by decide +kernel
theorem dksX1_addMade_1 : cX1_addMade.data.toList.drop 23 = dktX1_addMade_1 := dk_seg dksX1_addMade_0 23 rfl rfl
theorem dksX1_addMade_2 : cX1_addMade.data.toList.drop 47 = dktX1_addMade_2 := dk_seg dksX1_addMade_1 24 rfl rfl
theorem dksX1_addMade_3 : cX1_addMade.data.toList.drop 71 = dktX1_addMade_3 := dk_seg dksX1_addMade_2 24 rfl rfl
theorem dksX1_addMade_4 : cX1_addMade.data.toList.drop 95 = dktX1_addMade_4 := dk_seg dksX1_addMade_3 24 rfl rfl
theorem dksX1_addMade_5 : cX1_addMade.data.toList.drop 117 = dktX1_addMade_5 := dk_seg dksX1_addMade_4 22 rfl rfl
theorem dX1_addMade_0 : decode cX1_addMade 0 = .ok (.iconst 0, 1) := dk_3 (dk_at dksX1_addMade_0 0 rfl rfl)
theorem dX1_addMade_1 : decode cX1_addMade 1 = .ok (.istore 4, 2) := dk_54 4 (dk_at dksX1_addMade_0 1 rfl rfl)
theorem dX1_addMade_3 : decode cX1_addMade 3 = .ok (.iconst 0, 1) := dk_3 (dk_at dksX1_addMade_0 3 rfl rfl)
theorem dX1_addMade_4 : decode cX1_addMade 4 = .ok (.istore 5, 2) := dk_54 5 (dk_at dksX1_addMade_0 4 rfl rfl)
theorem dX1_addMade_6 : decode cX1_addMade 6 = .ok (.iconst 1, 1) := dk_4 (dk_at dksX1_addMade_0 6 rfl rfl)
theorem dX1_addMade_7 : decode cX1_addMade 7 = .ok (.istore 6, 2) := dk_54 6 (dk_at dksX1_addMade_0 7 rfl rfl)
theorem dX1_addMade_9 : decode cX1_addMade 9 = .ok (.iconst 1, 1) := dk_4 (dk_at dksX1_addMade_0 9 rfl rfl)
theorem dX1_addMade_10 : decode cX1_addMade 10 = .ok (.istore 7, 2) := dk_54 7 (dk_at dksX1_addMade_0 10 rfl rfl)
theorem dX1_addMade_12 : decode cX1_addMade 12 = .ok (.aload_n 3, 1) := dk_45 (dk_at dksX1_addMade_0 12 rfl rfl)
theorem dX1_addMade_13 : decode cX1_addMade 13 = .ok (.astore 8, 2) := dk_58 8 (dk_at dksX1_addMade_0 13 rfl rfl)
theorem dX1_addMade_15 : decode cX1_addMade 15 = .ok (.aload 8, 2) := dk_25 8 (dk_at dksX1_addMade_0 15 rfl rfl)
theorem dX1_addMade_17 : decode cX1_addMade 17 = .ok (.arraylength, 1) := dk_190 (dk_at dksX1_addMade_0 17 rfl rfl)
theorem dX1_addMade_18 : decode cX1_addMade 18 = .ok (.istore 9, 2) := dk_54 9 (dk_at dksX1_addMade_0 18 rfl rfl)
theorem dX1_addMade_20 : decode cX1_addMade 20 = .ok (.iconst 0, 1) := dk_3 (dk_at dksX1_addMade_0 20 rfl rfl)
theorem dX1_addMade_21 : decode cX1_addMade 21 = .ok (.istore 10, 2) := dk_54 10 (dk_at dksX1_addMade_0 21 rfl rfl)
theorem dX1_addMade_23 : decode cX1_addMade 23 = .ok (.iload 10, 2) := dk_21 10 (dk_at dksX1_addMade_1 0 rfl rfl)
theorem dX1_addMade_25 : decode cX1_addMade 25 = .ok (.iload 9, 2) := dk_21 9 (dk_at dksX1_addMade_1 2 rfl rfl)
theorem dX1_addMade_27 : decode cX1_addMade 27 = .ok (.if_icmp .ge 76, 3) := dk_162 0 76 (dk_at dksX1_addMade_1 4 rfl rfl)
theorem dX1_addMade_30 : decode cX1_addMade 30 = .ok (.aload 8, 2) := dk_25 8 (dk_at dksX1_addMade_1 7 rfl rfl)
theorem dX1_addMade_32 : decode cX1_addMade 32 = .ok (.iload 10, 2) := dk_21 10 (dk_at dksX1_addMade_1 9 rfl rfl)
theorem dX1_addMade_34 : decode cX1_addMade 34 = .ok (.iaload, 1) := dk_46 (dk_at dksX1_addMade_1 11 rfl rfl)
theorem dX1_addMade_35 : decode cX1_addMade 35 = .ok (.istore 11, 2) := dk_54 11 (dk_at dksX1_addMade_1 12 rfl rfl)
theorem dX1_addMade_37 : decode cX1_addMade 37 = .ok (.aload_n 0, 1) := dk_42 (dk_at dksX1_addMade_1 14 rfl rfl)
theorem dX1_addMade_38 : decode cX1_addMade 38 = .ok (.iload 11, 2) := dk_21 11 (dk_at dksX1_addMade_1 15 rfl rfl)
theorem dX1_addMade_40 : decode cX1_addMade 40 = .ok (.invokevirtual 170, 3) := dk_182 0 170 (dk_at dksX1_addMade_1 17 rfl rfl)
theorem dX1_addMade_43 : decode cX1_addMade 43 = .ok (.astore 12, 2) := dk_58 12 (dk_at dksX1_addMade_1 20 rfl rfl)
theorem dX1_addMade_45 : decode cX1_addMade 45 = .ok (.iload 4, 2) := dk_21 4 (dk_at dksX1_addMade_1 22 rfl rfl)
theorem dX1_addMade_47 : decode cX1_addMade 47 = .ok (.aload 12, 2) := dk_25 12 (dk_at dksX1_addMade_2 0 rfl rfl)
theorem dX1_addMade_49 : decode cX1_addMade 49 = .ok (.invokevirtual 174, 3) := dk_182 0 174 (dk_at dksX1_addMade_2 2 rfl rfl)
theorem dX1_addMade_52 : decode cX1_addMade 52 = .ok (.ior, 1) := dk_128 (dk_at dksX1_addMade_2 5 rfl rfl)
theorem dX1_addMade_53 : decode cX1_addMade 53 = .ok (.istore 4, 2) := dk_54 4 (dk_at dksX1_addMade_2 6 rfl rfl)
theorem dX1_addMade_55 : decode cX1_addMade 55 = .ok (.iload 5, 2) := dk_21 5 (dk_at dksX1_addMade_2 8 rfl rfl)
theorem dX1_addMade_57 : decode cX1_addMade 57 = .ok (.aload 12, 2) := dk_25 12 (dk_at dksX1_addMade_2 10 rfl rfl)
theorem dX1_addMade_59 : decode cX1_addMade 59 = .ok (.invokevirtual 191, 3) := dk_182 0 191 (dk_at dksX1_addMade_2 12 rfl rfl)
theorem dX1_addMade_62 : decode cX1_addMade 62 = .ok (.invokestatic 209, 3) := dk_184 0 209 (dk_at dksX1_addMade_2 15 rfl rfl)
theorem dX1_addMade_65 : decode cX1_addMade 65 = .ok (.istore 5, 2) := dk_54 5 (dk_at dksX1_addMade_2 18 rfl rfl)
theorem dX1_addMade_67 : decode cX1_addMade 67 = .ok (.iload 6, 2) := dk_21 6 (dk_at dksX1_addMade_2 20 rfl rfl)
theorem dX1_addMade_69 : decode cX1_addMade 69 = .ok (.aload 12, 2) := dk_25 12 (dk_at dksX1_addMade_2 22 rfl rfl)
theorem dX1_addMade_71 : decode cX1_addMade 71 = .ok (.invokevirtual 194, 3) := dk_182 0 194 (dk_at dksX1_addMade_3 0 rfl rfl)
theorem dX1_addMade_74 : decode cX1_addMade 74 = .ok (.iadd, 1) := dk_96 (dk_at dksX1_addMade_3 3 rfl rfl)
theorem dX1_addMade_75 : decode cX1_addMade 75 = .ok (.istore 6, 2) := dk_54 6 (dk_at dksX1_addMade_3 4 rfl rfl)
theorem dX1_addMade_77 : decode cX1_addMade 77 = .ok (.iload 7, 2) := dk_21 7 (dk_at dksX1_addMade_3 6 rfl rfl)
theorem dX1_addMade_79 : decode cX1_addMade 79 = .ok (.ifCond .eq 15, 3) := dk_153 0 15 (dk_at dksX1_addMade_3 8 rfl rfl)
theorem dX1_addMade_82 : decode cX1_addMade 82 = .ok (.aload 12, 2) := dk_25 12 (dk_at dksX1_addMade_3 11 rfl rfl)
theorem dX1_addMade_84 : decode cX1_addMade 84 = .ok (.invokevirtual 195, 3) := dk_182 0 195 (dk_at dksX1_addMade_3 13 rfl rfl)
theorem dX1_addMade_87 : decode cX1_addMade 87 = .ok (.ifCond .eq 7, 3) := dk_153 0 7 (dk_at dksX1_addMade_3 16 rfl rfl)
theorem dX1_addMade_90 : decode cX1_addMade 90 = .ok (.iconst 1, 1) := dk_4 (dk_at dksX1_addMade_3 19 rfl rfl)
theorem dX1_addMade_91 : decode cX1_addMade 91 = .ok (.goto 4, 3) := dk_167 0 4 (dk_at dksX1_addMade_3 20 rfl rfl)
theorem dX1_addMade_94 : decode cX1_addMade 94 = .ok (.iconst 0, 1) := dk_3 (dk_at dksX1_addMade_3 23 rfl rfl)
theorem dX1_addMade_95 : decode cX1_addMade 95 = .ok (.istore 7, 2) := dk_54 7 (dk_at dksX1_addMade_4 0 rfl rfl)
theorem dX1_addMade_97 : decode cX1_addMade 97 = .ok (.iinc 10 1, 3) := dk_132 10 1 (dk_at dksX1_addMade_4 2 rfl rfl)
theorem dX1_addMade_100 : decode cX1_addMade 100 = .ok (.goto (-77), 3) := dk_167 255 179 (dk_at dksX1_addMade_4 5 rfl rfl)
theorem dX1_addMade_103 : decode cX1_addMade 103 = .ok (.aload_n 0, 1) := dk_42 (dk_at dksX1_addMade_4 8 rfl rfl)
theorem dX1_addMade_104 : decode cX1_addMade 104 = .ok (.aload_n 1, 1) := dk_43 (dk_at dksX1_addMade_4 9 rfl rfl)
theorem dX1_addMade_105 : decode cX1_addMade 105 = .ok (.iload_n 2, 1) := dk_28 (dk_at dksX1_addMade_4 10 rfl rfl)
theorem dX1_addMade_106 : decode cX1_addMade 106 = .ok (.iload 4, 2) := dk_21 4 (dk_at dksX1_addMade_4 11 rfl rfl)
theorem dX1_addMade_108 : decode cX1_addMade 108 = .ok (.iload 5, 2) := dk_21 5 (dk_at dksX1_addMade_4 13 rfl rfl)
theorem dX1_addMade_110 : decode cX1_addMade 110 = .ok (.iconst 1, 1) := dk_4 (dk_at dksX1_addMade_4 15 rfl rfl)
theorem dX1_addMade_111 : decode cX1_addMade 111 = .ok (.iadd, 1) := dk_96 (dk_at dksX1_addMade_4 16 rfl rfl)
theorem dX1_addMade_112 : decode cX1_addMade 112 = .ok (.iload 6, 2) := dk_21 6 (dk_at dksX1_addMade_4 17 rfl rfl)
theorem dX1_addMade_114 : decode cX1_addMade 114 = .ok (.iload 7, 2) := dk_21 7 (dk_at dksX1_addMade_4 19 rfl rfl)
theorem dX1_addMade_116 : decode cX1_addMade 116 = .ok (.iconst 0, 1) := dk_3 (dk_at dksX1_addMade_4 21 rfl rfl)
theorem dX1_addMade_117 : decode cX1_addMade 117 = .ok (.invokevirtual 162, 3) := dk_182 0 162 (dk_at dksX1_addMade_5 0 rfl rfl)
theorem dX1_addMade_120 : decode cX1_addMade 120 = .ok (.ireturn, 1) := dk_172 (dk_at dksX1_addMade_5 3 rfl rfl)
abbrev cX1_either : ByteArray := prog_1_method_32_code
def yX1_either : MethodName := ⟨RX1, "either", "(II)I"⟩
def dkwX1_either_1 : List UInt8 := [184, 0, 117, 42, 42, 27, 182, 0, 170, 42, 28, 182, 0, 170, 182, 0, 240, 172]
abbrev dktX1_either_1 : List UInt8 := dkwX1_either_1 ++ []
def dkwX1_either_0 : List UInt8 := [42, 27, 182, 0, 166, 42, 28, 182, 0, 166, 42, 27, 182, 0, 170, 42, 28, 182, 0, 170, 184, 0, 236]
abbrev dktX1_either_0 : List UInt8 := dkwX1_either_0 ++ dktX1_either_1
theorem dksX1_either_0 : cX1_either.data.toList.drop 0 = dktX1_either_0 := by decide +kernel
theorem dksX1_either_1 : cX1_either.data.toList.drop 23 = dktX1_either_1 := dk_seg dksX1_either_0 23 rfl rfl
theorem dX1_either_0 : decode cX1_either 0 = .ok (.aload_n 0, 1) := dk_42 (dk_at dksX1_either_0 0 rfl rfl)
theorem dX1_either_1 : decode cX1_either 1 = .ok (.iload_n 1, 1) := dk_27 (dk_at dksX1_either_0 1 rfl rfl)
theorem dX1_either_2 : decode cX1_either 2 = .ok (.invokevirtual 166, 3) := dk_182 0 166 (dk_at dksX1_either_0 2 rfl rfl)
theorem dX1_either_5 : decode cX1_either 5 = .ok (.aload_n 0, 1) := dk_42 (dk_at dksX1_either_0 5 rfl rfl)
theorem dX1_either_6 : decode cX1_either 6 = .ok (.iload_n 2, 1) := dk_28 (dk_at dksX1_either_0 6 rfl rfl)
theorem dX1_either_7 : decode cX1_either 7 = .ok (.invokevirtual 166, 3) := dk_182 0 166 (dk_at dksX1_either_0 7 rfl rfl)
theorem dX1_either_10 : decode cX1_either 10 = .ok (.aload_n 0, 1) := dk_42 (dk_at dksX1_either_0 10 rfl rfl)
theorem dX1_either_11 : decode cX1_either 11 = .ok (.iload_n 1, 1) := dk_27 (dk_at dksX1_either_0 11 rfl rfl)
theorem dX1_either_12 : decode cX1_either 12 = .ok (.invokevirtual 170, 3) := dk_182 0 170 (dk_at dksX1_either_0 12 rfl rfl)
theorem dX1_either_15 : decode cX1_either 15 = .ok (.aload_n 0, 1) := dk_42 (dk_at dksX1_either_0 15 rfl rfl)
theorem dX1_either_16 : decode cX1_either 16 = .ok (.iload_n 2, 1) := dk_28 (dk_at dksX1_either_0 16 rfl rfl)
theorem dX1_either_17 : decode cX1_either 17 = .ok (.invokevirtual 170, 3) := dk_182 0 170 (dk_at dksX1_either_0 17 rfl rfl)
theorem dX1_either_20 : decode cX1_either 20 = .ok (.invokestatic 236, 3) := dk_184 0 236 (dk_at dksX1_either_0 20 rfl rfl)
theorem dX1_either_23 : decode cX1_either 23 = .ok (.invokestatic 117, 3) := dk_184 0 117 (dk_at dksX1_either_1 0 rfl rfl)
theorem dX1_either_26 : decode cX1_either 26 = .ok (.aload_n 0, 1) := dk_42 (dk_at dksX1_either_1 3 rfl rfl)
theorem dX1_either_27 : decode cX1_either 27 = .ok (.aload_n 0, 1) := dk_42 (dk_at dksX1_either_1 4 rfl rfl)
theorem dX1_either_28 : decode cX1_either 28 = .ok (.iload_n 1, 1) := dk_27 (dk_at dksX1_either_1 5 rfl rfl)
theorem dX1_either_29 : decode cX1_either 29 = .ok (.invokevirtual 170, 3) := dk_182 0 170 (dk_at dksX1_either_1 6 rfl rfl)
theorem dX1_either_32 : decode cX1_either 32 = .ok (.aload_n 0, 1) := dk_42 (dk_at dksX1_either_1 9 rfl rfl)
theorem dX1_either_33 : decode cX1_either 33 = .ok (.iload_n 2, 1) := dk_28 (dk_at dksX1_either_1 10 rfl rfl)
theorem dX1_either_34 : decode cX1_either 34 = .ok (.invokevirtual 170, 3) := dk_182 0 170 (dk_at dksX1_either_1 11 rfl rfl)
theorem dX1_either_37 : decode cX1_either 37 = .ok (.invokevirtual 240, 3) := dk_182 0 240 (dk_at dksX1_either_1 14 rfl rfl)
theorem dX1_either_40 : decode cX1_either 40 = .ok (.ireturn, 1) := dk_172 (dk_at dksX1_either_1 17 rfl rfl)
abbrev cX1_canBeEither : ByteArray := prog_1_method_30_code
def yX1_canBeEither : MethodName := ⟨RX1, "canBeEither", "(LPatternforge$Told;LPatternforge$Told;)Z"⟩
def dkwX1_canBeEither_2 : List UInt8 := [96, 16, 40, 162, 0, 7, 4, 167, 0, 4, 3, 172]
abbrev dktX1_canBeEither_2 : List UInt8 := dkwX1_canBeEither_2 ++ []
def dkwX1_canBeEither_1 : List UInt8 := [61, 28, 153, 0, 32, 42, 182, 0, 174, 43, 182, 0, 174, 160, 0, 21, 42, 182, 0, 194, 43, 182, 0, 194]
abbrev dktX1_canBeEither_1 : List UInt8 := dkwX1_canBeEither_1 ++ dktX1_canBeEither_2
def dkwX1_canBeEither_0 : List UInt8 := [42, 182, 0, 190, 2, 159, 0, 14, 43, 42, 182, 0, 190, 182, 0, 206, 153, 0, 7, 4, 167, 0, 4, 3]
abbrev dktX1_canBeEither_0 : List UInt8 := dkwX1_canBeEither_0 ++ dktX1_canBeEither_1
theorem dksX1_canBeEither_0 : cX1_canBeEither.data.toList.drop 0 = dktX1_canBeEither_0 := by decide +kernel
theorem dksX1_canBeEither_1 : cX1_canBeEither.data.toList.drop 24 = dktX1_canBeEither_1 := dk_seg dksX1_canBeEither_0 24 rfl rfl
theorem dksX1_canBeEither_2 : cX1_canBeEither.data.toList.drop 48 = dktX1_canBeEither_2 := dk_seg dksX1_canBeEither_1 24 rfl rfl
theorem dX1_canBeEither_0 : decode cX1_canBeEither 0 = .ok (.aload_n 0, 1) := dk_42 (dk_at dksX1_canBeEither_0 0 rfl rfl)
theorem dX1_canBeEither_1 : decode cX1_canBeEither 1 = .ok (.invokevirtual 190, 3) := dk_182 0 190 (dk_at dksX1_canBeEither_0 1 rfl rfl)
theorem dX1_canBeEither_4 : decode cX1_canBeEither 4 = .ok (.iconst (-1), 1) := dk_2 (dk_at dksX1_canBeEither_0 4 rfl rfl)
theorem dX1_canBeEither_5 : decode cX1_canBeEither 5 = .ok (.if_icmp .eq 14, 3) := dk_159 0 14 (dk_at dksX1_canBeEither_0 5 rfl rfl)
theorem dX1_canBeEither_8 : decode cX1_canBeEither 8 = .ok (.aload_n 1, 1) := dk_43 (dk_at dksX1_canBeEither_0 8 rfl rfl)
theorem dX1_canBeEither_9 : decode cX1_canBeEither 9 = .ok (.aload_n 0, 1) := dk_42 (dk_at dksX1_canBeEither_0 9 rfl rfl)
theorem dX1_canBeEither_10 : decode cX1_canBeEither 10 = .ok (.invokevirtual 190, 3) := dk_182 0 190 (dk_at dksX1_canBeEither_0 10 rfl rfl)
theorem dX1_canBeEither_13 : decode cX1_canBeEither 13 = .ok (.invokevirtual 206, 3) := dk_182 0 206 (dk_at dksX1_canBeEither_0 13 rfl rfl)
theorem dX1_canBeEither_16 : decode cX1_canBeEither 16 = .ok (.ifCond .eq 7, 3) := dk_153 0 7 (dk_at dksX1_canBeEither_0 16 rfl rfl)
theorem dX1_canBeEither_19 : decode cX1_canBeEither 19 = .ok (.iconst 1, 1) := dk_4 (dk_at dksX1_canBeEither_0 19 rfl rfl)
theorem dX1_canBeEither_20 : decode cX1_canBeEither 20 = .ok (.goto 4, 3) := dk_167 0 4 (dk_at dksX1_canBeEither_0 20 rfl rfl)
theorem dX1_canBeEither_23 : decode cX1_canBeEither 23 = .ok (.iconst 0, 1) := dk_3 (dk_at dksX1_canBeEither_0 23 rfl rfl)
theorem dX1_canBeEither_24 : decode cX1_canBeEither 24 = .ok (.istore_n 2, 1) := dk_61 (dk_at dksX1_canBeEither_1 0 rfl rfl)
theorem dX1_canBeEither_25 : decode cX1_canBeEither 25 = .ok (.iload_n 2, 1) := dk_28 (dk_at dksX1_canBeEither_1 1 rfl rfl)
theorem dX1_canBeEither_26 : decode cX1_canBeEither 26 = .ok (.ifCond .eq 32, 3) := dk_153 0 32 (dk_at dksX1_canBeEither_1 2 rfl rfl)
theorem dX1_canBeEither_29 : decode cX1_canBeEither 29 = .ok (.aload_n 0, 1) := dk_42 (dk_at dksX1_canBeEither_1 5 rfl rfl)
theorem dX1_canBeEither_30 : decode cX1_canBeEither 30 = .ok (.invokevirtual 174, 3) := dk_182 0 174 (dk_at dksX1_canBeEither_1 6 rfl rfl)
theorem dX1_canBeEither_33 : decode cX1_canBeEither 33 = .ok (.aload_n 1, 1) := dk_43 (dk_at dksX1_canBeEither_1 9 rfl rfl)
theorem dX1_canBeEither_34 : decode cX1_canBeEither 34 = .ok (.invokevirtual 174, 3) := dk_182 0 174 (dk_at dksX1_canBeEither_1 10 rfl rfl)
theorem dX1_canBeEither_37 : decode cX1_canBeEither 37 = .ok (.if_icmp .ne 21, 3) := dk_160 0 21 (dk_at dksX1_canBeEither_1 13 rfl rfl)
theorem dX1_canBeEither_40 : decode cX1_canBeEither 40 = .ok (.aload_n 0, 1) := dk_42 (dk_at dksX1_canBeEither_1 16 rfl rfl)
theorem dX1_canBeEither_41 : decode cX1_canBeEither 41 = .ok (.invokevirtual 194, 3) := dk_182 0 194 (dk_at dksX1_canBeEither_1 17 rfl rfl)
theorem dX1_canBeEither_44 : decode cX1_canBeEither 44 = .ok (.aload_n 1, 1) := dk_43 (dk_at dksX1_canBeEither_1 20 rfl rfl)
theorem dX1_canBeEither_45 : decode cX1_canBeEither 45 = .ok (.invokevirtual 194, 3) := dk_182 0 194 (dk_at dksX1_canBeEither_1 21 rfl rfl)
theorem dX1_canBeEither_48 : decode cX1_canBeEither 48 = .ok (.iadd, 1) := dk_96 (dk_at dksX1_canBeEither_2 0 rfl rfl)
theorem dX1_canBeEither_49 : decode cX1_canBeEither 49 = .ok (.bipush 40, 2) := dk_16 40 (dk_at dksX1_canBeEither_2 1 rfl rfl)
theorem dX1_canBeEither_51 : decode cX1_canBeEither 51 = .ok (.if_icmp .ge 7, 3) := dk_162 0 7 (dk_at dksX1_canBeEither_2 3 rfl rfl)
theorem dX1_canBeEither_54 : decode cX1_canBeEither 54 = .ok (.iconst 1, 1) := dk_4 (dk_at dksX1_canBeEither_2 6 rfl rfl)
theorem dX1_canBeEither_55 : decode cX1_canBeEither 55 = .ok (.goto 4, 3) := dk_167 0 4 (dk_at dksX1_canBeEither_2 7 rfl rfl)
theorem dX1_canBeEither_58 : decode cX1_canBeEither 58 = .ok (.iconst 0, 1) := dk_3 (dk_at dksX1_canBeEither_2 10 rfl rfl)
theorem dX1_canBeEither_59 : decode cX1_canBeEither 59 = .ok (.ireturn, 1) := dk_172 (dk_at dksX1_canBeEither_2 11 rfl rfl)
abbrev cX1_addEither : ByteArray := prog_1_method_31_code
def yX1_addEither : MethodName := ⟨RX1, "addEither", "(LPatternforge$Told;LPatternforge$Told;)I"⟩
def dkwX1_addEither_4 : List UInt8 := [153, 0, 7, 4, 167, 0, 4, 3, 182, 0, 162, 172]
abbrev dktX1_addEither_4 : List UInt8 := dkwX1_addEither_4 ++ []
def dkwX1_addEither_3 : List UInt8 := [44, 182, 0, 195, 153, 0, 7, 4, 167, 0, 4, 3, 43, 182, 0, 233, 153, 0, 14, 44, 182, 0, 233]
abbrev dktX1_addEither_3 : List UInt8 := dkwX1_addEither_3 ++ dktX1_addEither_4
def dkwX1_addEither_2 : List UInt8 := [182, 0, 191, 184, 0, 209, 43, 182, 0, 194, 44, 182, 0, 194, 96, 4, 96, 43, 182, 0, 195, 153, 0, 14]
abbrev dktX1_addEither_2 : List UInt8 := dkwX1_addEither_2 ++ dktX1_addEither_3
def dkwX1_addEither_1 : List UInt8 := [89, 43, 182, 0, 183, 44, 182, 0, 183, 183, 0, 230, 29, 43, 182, 0, 174, 43, 182, 0, 191, 44]
abbrev dktX1_addEither_1 : List UInt8 := dkwX1_addEither_1 ++ dktX1_addEither_2
def dkwX1_addEither_0 : List UInt8 := [43, 182, 0, 190, 2, 160, 0, 10, 44, 182, 0, 190, 167, 0, 7, 43, 182, 0, 190, 62, 42, 187, 0, 228]
abbrev dktX1_addEither_0 : List UInt8 := dkwX1_addEither_0 ++ dktX1_addEither_1
theorem dksX1_addEither_0 : cX1_addEither.data.toList.drop 0 = dktX1_addEither_0 := by decide +kernel
theorem dksX1_addEither_1 : cX1_addEither.data.toList.drop 24 = dktX1_addEither_1 := dk_seg dksX1_addEither_0 24 rfl rfl
theorem dksX1_addEither_2 : cX1_addEither.data.toList.drop 46 = dktX1_addEither_2 := dk_seg dksX1_addEither_1 22 rfl rfl
theorem dksX1_addEither_3 : cX1_addEither.data.toList.drop 70 = dktX1_addEither_3 := dk_seg dksX1_addEither_2 24 rfl rfl
theorem dksX1_addEither_4 : cX1_addEither.data.toList.drop 93 = dktX1_addEither_4 := dk_seg dksX1_addEither_3 23 rfl rfl
theorem dX1_addEither_0 : decode cX1_addEither 0 = .ok (.aload_n 1, 1) := dk_43 (dk_at dksX1_addEither_0 0 rfl rfl)
theorem dX1_addEither_1 : decode cX1_addEither 1 = .ok (.invokevirtual 190, 3) := dk_182 0 190 (dk_at dksX1_addEither_0 1 rfl rfl)
theorem dX1_addEither_4 : decode cX1_addEither 4 = .ok (.iconst (-1), 1) := dk_2 (dk_at dksX1_addEither_0 4 rfl rfl)
theorem dX1_addEither_5 : decode cX1_addEither 5 = .ok (.if_icmp .ne 10, 3) := dk_160 0 10 (dk_at dksX1_addEither_0 5 rfl rfl)
theorem dX1_addEither_8 : decode cX1_addEither 8 = .ok (.aload_n 2, 1) := dk_44 (dk_at dksX1_addEither_0 8 rfl rfl)
theorem dX1_addEither_9 : decode cX1_addEither 9 = .ok (.invokevirtual 190, 3) := dk_182 0 190 (dk_at dksX1_addEither_0 9 rfl rfl)
theorem dX1_addEither_12 : decode cX1_addEither 12 = .ok (.goto 7, 3) := dk_167 0 7 (dk_at dksX1_addEither_0 12 rfl rfl)
theorem dX1_addEither_15 : decode cX1_addEither 15 = .ok (.aload_n 1, 1) := dk_43 (dk_at dksX1_addEither_0 15 rfl rfl)
theorem dX1_addEither_16 : decode cX1_addEither 16 = .ok (.invokevirtual 190, 3) := dk_182 0 190 (dk_at dksX1_addEither_0 16 rfl rfl)
theorem dX1_addEither_19 : decode cX1_addEither 19 = .ok (.istore_n 3, 1) := dk_62 (dk_at dksX1_addEither_0 19 rfl rfl)
theorem dX1_addEither_20 : decode cX1_addEither 20 = .ok (.aload_n 0, 1) := dk_42 (dk_at dksX1_addEither_0 20 rfl rfl)
theorem dX1_addEither_21 : decode cX1_addEither 21 = .ok (.new 228, 3) := dk_187 0 228 (dk_at dksX1_addEither_0 21 rfl rfl)
theorem dX1_addEither_24 : decode cX1_addEither 24 = .ok (.dup, 1) := dk_89 (dk_at dksX1_addEither_1 0 rfl rfl)
theorem dX1_addEither_25 : decode cX1_addEither 25 = .ok (.aload_n 1, 1) := dk_43 (dk_at dksX1_addEither_1 1 rfl rfl)
theorem dX1_addEither_26 : decode cX1_addEither 26 = .ok (.invokevirtual 183, 3) := dk_182 0 183 (dk_at dksX1_addEither_1 2 rfl rfl)
theorem dX1_addEither_29 : decode cX1_addEither 29 = .ok (.aload_n 2, 1) := dk_44 (dk_at dksX1_addEither_1 5 rfl rfl)
theorem dX1_addEither_30 : decode cX1_addEither 30 = .ok (.invokevirtual 183, 3) := dk_182 0 183 (dk_at dksX1_addEither_1 6 rfl rfl)
theorem dX1_addEither_33 : decode cX1_addEither 33 = .ok (.invokespecial 230, 3) := dk_183 0 230 (dk_at dksX1_addEither_1 9 rfl rfl)
theorem dX1_addEither_36 : decode cX1_addEither 36 = .ok (.iload_n 3, 1) := dk_29 (dk_at dksX1_addEither_1 12 rfl rfl)
theorem dX1_addEither_37 : decode cX1_addEither 37 = .ok (.aload_n 1, 1) := dk_43 (dk_at dksX1_addEither_1 13 rfl rfl)
theorem dX1_addEither_38 : decode cX1_addEither 38 = .ok (.invokevirtual 174, 3) := dk_182 0 174 (dk_at dksX1_addEither_1 14 rfl rfl)
theorem dX1_addEither_41 : decode cX1_addEither 41 = .ok (.aload_n 1, 1) := dk_43 (dk_at dksX1_addEither_1 17 rfl rfl)
theorem dX1_addEither_42 : decode cX1_addEither 42 = .ok (.invokevirtual 191, 3) := dk_182 0 191 (dk_at dksX1_addEither_1 18 rfl rfl)
theorem dX1_addEither_45 : decode cX1_addEither 45 = .ok (.aload_n 2, 1) := dk_44 (dk_at dksX1_addEither_1 21 rfl rfl)
theorem dX1_addEither_46 : decode cX1_addEither 46 = .ok (.invokevirtual 191, 3) := dk_182 0 191 (dk_at dksX1_addEither_2 0 rfl rfl)
theorem dX1_addEither_49 : decode cX1_addEither 49 = .ok (.invokestatic 209, 3) := dk_184 0 209 (dk_at dksX1_addEither_2 3 rfl rfl)
theorem dX1_addEither_52 : decode cX1_addEither 52 = .ok (.aload_n 1, 1) := dk_43 (dk_at dksX1_addEither_2 6 rfl rfl)
theorem dX1_addEither_53 : decode cX1_addEither 53 = .ok (.invokevirtual 194, 3) := dk_182 0 194 (dk_at dksX1_addEither_2 7 rfl rfl)
theorem dX1_addEither_56 : decode cX1_addEither 56 = .ok (.aload_n 2, 1) := dk_44 (dk_at dksX1_addEither_2 10 rfl rfl)
theorem dX1_addEither_57 : decode cX1_addEither 57 = .ok (.invokevirtual 194, 3) := dk_182 0 194 (dk_at dksX1_addEither_2 11 rfl rfl)
theorem dX1_addEither_60 : decode cX1_addEither 60 = .ok (.iadd, 1) := dk_96 (dk_at dksX1_addEither_2 14 rfl rfl)
theorem dX1_addEither_61 : decode cX1_addEither 61 = .ok (.iconst 1, 1) := dk_4 (dk_at dksX1_addEither_2 15 rfl rfl)
theorem dX1_addEither_62 : decode cX1_addEither 62 = .ok (.iadd, 1) := dk_96 (dk_at dksX1_addEither_2 16 rfl rfl)
theorem dX1_addEither_63 : decode cX1_addEither 63 = .ok (.aload_n 1, 1) := dk_43 (dk_at dksX1_addEither_2 17 rfl rfl)
theorem dX1_addEither_64 : decode cX1_addEither 64 = .ok (.invokevirtual 195, 3) := dk_182 0 195 (dk_at dksX1_addEither_2 18 rfl rfl)
theorem dX1_addEither_67 : decode cX1_addEither 67 = .ok (.ifCond .eq 14, 3) := dk_153 0 14 (dk_at dksX1_addEither_2 21 rfl rfl)
theorem dX1_addEither_70 : decode cX1_addEither 70 = .ok (.aload_n 2, 1) := dk_44 (dk_at dksX1_addEither_3 0 rfl rfl)
theorem dX1_addEither_71 : decode cX1_addEither 71 = .ok (.invokevirtual 195, 3) := dk_182 0 195 (dk_at dksX1_addEither_3 1 rfl rfl)
theorem dX1_addEither_74 : decode cX1_addEither 74 = .ok (.ifCond .eq 7, 3) := dk_153 0 7 (dk_at dksX1_addEither_3 4 rfl rfl)
theorem dX1_addEither_77 : decode cX1_addEither 77 = .ok (.iconst 1, 1) := dk_4 (dk_at dksX1_addEither_3 7 rfl rfl)
theorem dX1_addEither_78 : decode cX1_addEither 78 = .ok (.goto 4, 3) := dk_167 0 4 (dk_at dksX1_addEither_3 8 rfl rfl)
theorem dX1_addEither_81 : decode cX1_addEither 81 = .ok (.iconst 0, 1) := dk_3 (dk_at dksX1_addEither_3 11 rfl rfl)
theorem dX1_addEither_82 : decode cX1_addEither 82 = .ok (.aload_n 1, 1) := dk_43 (dk_at dksX1_addEither_3 12 rfl rfl)
theorem dX1_addEither_83 : decode cX1_addEither 83 = .ok (.invokevirtual 233, 3) := dk_182 0 233 (dk_at dksX1_addEither_3 13 rfl rfl)
theorem dX1_addEither_86 : decode cX1_addEither 86 = .ok (.ifCond .eq 14, 3) := dk_153 0 14 (dk_at dksX1_addEither_3 16 rfl rfl)
theorem dX1_addEither_89 : decode cX1_addEither 89 = .ok (.aload_n 2, 1) := dk_44 (dk_at dksX1_addEither_3 19 rfl rfl)
theorem dX1_addEither_90 : decode cX1_addEither 90 = .ok (.invokevirtual 233, 3) := dk_182 0 233 (dk_at dksX1_addEither_3 20 rfl rfl)
theorem dX1_addEither_93 : decode cX1_addEither 93 = .ok (.ifCond .eq 7, 3) := dk_153 0 7 (dk_at dksX1_addEither_4 0 rfl rfl)
theorem dX1_addEither_96 : decode cX1_addEither 96 = .ok (.iconst 1, 1) := dk_4 (dk_at dksX1_addEither_4 3 rfl rfl)
theorem dX1_addEither_97 : decode cX1_addEither 97 = .ok (.goto 4, 3) := dk_167 0 4 (dk_at dksX1_addEither_4 4 rfl rfl)
theorem dX1_addEither_100 : decode cX1_addEither 100 = .ok (.iconst 0, 1) := dk_3 (dk_at dksX1_addEither_4 7 rfl rfl)
theorem dX1_addEither_101 : decode cX1_addEither 101 = .ok (.invokevirtual 162, 3) := dk_182 0 162 (dk_at dksX1_addEither_4 8 rfl rfl)
theorem dX1_addEither_104 : decode cX1_addEither 104 = .ok (.ireturn, 1) := dk_172 (dk_at dksX1_addEither_4 11 rfl rfl)
abbrev cX1_view : ByteArray := prog_1_method_33_code
def yX1_view : MethodName := ⟨RX1, "view", "(II)I"⟩
def dkwX1_view_2 : List UInt8 := [182, 0, 194, 4, 96, 3, 3, 182, 0, 162, 172]
abbrev dktX1_view_2 : List UInt8 := dkwX1_view_2 ++ []
def dkwX1_view_1 : List UInt8 := [184, 0, 117, 42, 187, 0, 244, 89, 27, 45, 182, 0, 183, 183, 0, 246, 2, 3, 45, 182, 0, 191, 45]
abbrev dktX1_view_1 : List UInt8 := dkwX1_view_1 ++ dktX1_view_2
def dkwX1_view_0 : List UInt8 := [27, 3, 5, 184, 0, 91, 184, 0, 105, 42, 28, 182, 0, 166, 42, 28, 182, 0, 170, 78, 45, 182, 0, 233]
abbrev dktX1_view_0 : List UInt8 := dkwX1_view_0 ++ dktX1_view_1
theorem dksX1_view_0 : cX1_view.data.toList.drop 0 = dktX1_view_0 := by decide +kernel
theorem dksX1_view_1 : cX1_view.data.toList.drop 24 = dktX1_view_1 := dk_seg dksX1_view_0 24 rfl rfl
theorem dksX1_view_2 : cX1_view.data.toList.drop 47 = dktX1_view_2 := dk_seg dksX1_view_1 23 rfl rfl
theorem dX1_view_0 : decode cX1_view 0 = .ok (.iload_n 1, 1) := dk_27 (dk_at dksX1_view_0 0 rfl rfl)
theorem dX1_view_1 : decode cX1_view 1 = .ok (.iconst 0, 1) := dk_3 (dk_at dksX1_view_0 1 rfl rfl)
theorem dX1_view_2 : decode cX1_view 2 = .ok (.iconst 2, 1) := dk_5 (dk_at dksX1_view_0 2 rfl rfl)
theorem dX1_view_3 : decode cX1_view 3 = .ok (.invokestatic 91, 3) := dk_184 0 91 (dk_at dksX1_view_0 3 rfl rfl)
theorem dX1_view_6 : decode cX1_view 6 = .ok (.invokestatic 105, 3) := dk_184 0 105 (dk_at dksX1_view_0 6 rfl rfl)
theorem dX1_view_9 : decode cX1_view 9 = .ok (.aload_n 0, 1) := dk_42 (dk_at dksX1_view_0 9 rfl rfl)
theorem dX1_view_10 : decode cX1_view 10 = .ok (.iload_n 2, 1) := dk_28 (dk_at dksX1_view_0 10 rfl rfl)
theorem dX1_view_11 : decode cX1_view 11 = .ok (.invokevirtual 166, 3) := dk_182 0 166 (dk_at dksX1_view_0 11 rfl rfl)
theorem dX1_view_14 : decode cX1_view 14 = .ok (.aload_n 0, 1) := dk_42 (dk_at dksX1_view_0 14 rfl rfl)
theorem dX1_view_15 : decode cX1_view 15 = .ok (.iload_n 2, 1) := dk_28 (dk_at dksX1_view_0 15 rfl rfl)
theorem dX1_view_16 : decode cX1_view 16 = .ok (.invokevirtual 170, 3) := dk_182 0 170 (dk_at dksX1_view_0 16 rfl rfl)
theorem dX1_view_19 : decode cX1_view 19 = .ok (.astore_n 3, 1) := dk_78 (dk_at dksX1_view_0 19 rfl rfl)
theorem dX1_view_20 : decode cX1_view 20 = .ok (.aload_n 3, 1) := dk_45 (dk_at dksX1_view_0 20 rfl rfl)
theorem dX1_view_21 : decode cX1_view 21 = .ok (.invokevirtual 233, 3) := dk_182 0 233 (dk_at dksX1_view_0 21 rfl rfl)
theorem dX1_view_24 : decode cX1_view 24 = .ok (.invokestatic 117, 3) := dk_184 0 117 (dk_at dksX1_view_1 0 rfl rfl)
theorem dX1_view_27 : decode cX1_view 27 = .ok (.aload_n 0, 1) := dk_42 (dk_at dksX1_view_1 3 rfl rfl)
theorem dX1_view_28 : decode cX1_view 28 = .ok (.new 244, 3) := dk_187 0 244 (dk_at dksX1_view_1 4 rfl rfl)
theorem dX1_view_31 : decode cX1_view 31 = .ok (.dup, 1) := dk_89 (dk_at dksX1_view_1 7 rfl rfl)
theorem dX1_view_32 : decode cX1_view 32 = .ok (.iload_n 1, 1) := dk_27 (dk_at dksX1_view_1 8 rfl rfl)
theorem dX1_view_33 : decode cX1_view 33 = .ok (.aload_n 3, 1) := dk_45 (dk_at dksX1_view_1 9 rfl rfl)
theorem dX1_view_34 : decode cX1_view 34 = .ok (.invokevirtual 183, 3) := dk_182 0 183 (dk_at dksX1_view_1 10 rfl rfl)
theorem dX1_view_37 : decode cX1_view 37 = .ok (.invokespecial 246, 3) := dk_183 0 246 (dk_at dksX1_view_1 13 rfl rfl)
theorem dX1_view_40 : decode cX1_view 40 = .ok (.iconst (-1), 1) := dk_2 (dk_at dksX1_view_1 16 rfl rfl)
theorem dX1_view_41 : decode cX1_view 41 = .ok (.iconst 0, 1) := dk_3 (dk_at dksX1_view_1 17 rfl rfl)
theorem dX1_view_42 : decode cX1_view 42 = .ok (.aload_n 3, 1) := dk_45 (dk_at dksX1_view_1 18 rfl rfl)
theorem dX1_view_43 : decode cX1_view 43 = .ok (.invokevirtual 191, 3) := dk_182 0 191 (dk_at dksX1_view_1 19 rfl rfl)
theorem dX1_view_46 : decode cX1_view 46 = .ok (.aload_n 3, 1) := dk_45 (dk_at dksX1_view_1 22 rfl rfl)
theorem dX1_view_47 : decode cX1_view 47 = .ok (.invokevirtual 194, 3) := dk_182 0 194 (dk_at dksX1_view_2 0 rfl rfl)
theorem dX1_view_50 : decode cX1_view 50 = .ok (.iconst 1, 1) := dk_4 (dk_at dksX1_view_2 3 rfl rfl)
theorem dX1_view_51 : decode cX1_view 51 = .ok (.iadd, 1) := dk_96 (dk_at dksX1_view_2 4 rfl rfl)
theorem dX1_view_52 : decode cX1_view 52 = .ok (.iconst 0, 1) := dk_3 (dk_at dksX1_view_2 5 rfl rfl)
theorem dX1_view_53 : decode cX1_view 53 = .ok (.iconst 0, 1) := dk_3 (dk_at dksX1_view_2 6 rfl rfl)
theorem dX1_view_54 : decode cX1_view 54 = .ok (.invokevirtual 162, 3) := dk_182 0 162 (dk_at dksX1_view_2 7 rfl rfl)
theorem dX1_view_57 : decode cX1_view 57 = .ok (.ireturn, 1) := dk_172 (dk_at dksX1_view_2 10 rfl rfl)
abbrev cX1_list : ByteArray := prog_1_method_34_code
def yX1_list : MethodName := ⟨RX1, "list", "(IIII)I"⟩
def dkwX1_list_3 : List UInt8 := [8, 25, 5, 182, 0, 224, 172]
abbrev dktX1_list_3 : List UInt8 := dkwX1_list_3 ++ []
def dkwX1_list_2 : List UInt8 := [25, 5, 5, 188, 10, 89, 3, 7, 79, 89, 4, 7, 79, 184, 0, 15, 182, 0, 217, 21, 4, 183, 0, 249]
abbrev dktX1_list_2 : List UInt8 := dkwX1_list_2 ++ dktX1_list_3
def dkwX1_list_1 : List UInt8 := [180, 0, 32, 182, 0, 101, 184, 0, 146, 27, 28, 29, 2, 184, 0, 123, 58, 5, 42, 187, 0, 247, 89, 42]
abbrev dktX1_list_1 : List UInt8 := dkwX1_list_1 ++ dktX1_list_2
def dkwX1_list_0 : List UInt8 := [21, 4, 3, 5, 184, 0, 91, 184, 0, 105, 27, 3, 5, 184, 0, 91, 184, 0, 117, 27, 28, 29, 2, 42]
abbrev dktX1_list_0 : List UInt8 := dkwX1_list_0 ++ dktX1_list_1
theorem dksX1_list_0 : cX1_list.data.toList.drop 0 = dktX1_list_0 := by decide +kernel
theorem dksX1_list_1 : cX1_list.data.toList.drop 24 = dktX1_list_1 := dk_seg dksX1_list_0 24 rfl rfl
theorem dksX1_list_2 : cX1_list.data.toList.drop 48 = dktX1_list_2 := dk_seg dksX1_list_1 24 rfl rfl
theorem dksX1_list_3 : cX1_list.data.toList.drop 72 = dktX1_list_3 := dk_seg dksX1_list_2 24 rfl rfl
theorem dX1_list_0 : decode cX1_list 0 = .ok (.iload 4, 2) := dk_21 4 (dk_at dksX1_list_0 0 rfl rfl)
theorem dX1_list_2 : decode cX1_list 2 = .ok (.iconst 0, 1) := dk_3 (dk_at dksX1_list_0 2 rfl rfl)
theorem dX1_list_3 : decode cX1_list 3 = .ok (.iconst 2, 1) := dk_5 (dk_at dksX1_list_0 3 rfl rfl)
theorem dX1_list_4 : decode cX1_list 4 = .ok (.invokestatic 91, 3) := dk_184 0 91 (dk_at dksX1_list_0 4 rfl rfl)
theorem dX1_list_7 : decode cX1_list 7 = .ok (.invokestatic 105, 3) := dk_184 0 105 (dk_at dksX1_list_0 7 rfl rfl)
theorem dX1_list_10 : decode cX1_list 10 = .ok (.iload_n 1, 1) := dk_27 (dk_at dksX1_list_0 10 rfl rfl)
theorem dX1_list_11 : decode cX1_list 11 = .ok (.iconst 0, 1) := dk_3 (dk_at dksX1_list_0 11 rfl rfl)
theorem dX1_list_12 : decode cX1_list 12 = .ok (.iconst 2, 1) := dk_5 (dk_at dksX1_list_0 12 rfl rfl)
theorem dX1_list_13 : decode cX1_list 13 = .ok (.invokestatic 91, 3) := dk_184 0 91 (dk_at dksX1_list_0 13 rfl rfl)
theorem dX1_list_16 : decode cX1_list 16 = .ok (.invokestatic 117, 3) := dk_184 0 117 (dk_at dksX1_list_0 16 rfl rfl)
theorem dX1_list_19 : decode cX1_list 19 = .ok (.iload_n 1, 1) := dk_27 (dk_at dksX1_list_0 19 rfl rfl)
theorem dX1_list_20 : decode cX1_list 20 = .ok (.iload_n 2, 1) := dk_28 (dk_at dksX1_list_0 20 rfl rfl)
theorem dX1_list_21 : decode cX1_list 21 = .ok (.iload_n 3, 1) := dk_29 (dk_at dksX1_list_0 21 rfl rfl)
theorem dX1_list_22 : decode cX1_list 22 = .ok (.iconst (-1), 1) := dk_2 (dk_at dksX1_list_0 22 rfl rfl)
theorem dX1_list_23 : decode cX1_list 23 = .ok (.aload_n 0, 1) := dk_42 (dk_at dksX1_list_0 23 rfl rfl)
theorem dX1_list_24 : decode cX1_list 24 = .ok (.getfield 32, 3) := dk_180 0 32 (dk_at dksX1_list_1 0 rfl rfl)
theorem dX1_list_27 : decode cX1_list 27 = .ok (.invokevirtual 101, 3) := dk_182 0 101 (dk_at dksX1_list_1 3 rfl rfl)
theorem dX1_list_30 : decode cX1_list 30 = .ok (.invokestatic 146, 3) := dk_184 0 146 (dk_at dksX1_list_1 6 rfl rfl)
theorem dX1_list_33 : decode cX1_list 33 = .ok (.iload_n 1, 1) := dk_27 (dk_at dksX1_list_1 9 rfl rfl)
theorem dX1_list_34 : decode cX1_list 34 = .ok (.iload_n 2, 1) := dk_28 (dk_at dksX1_list_1 10 rfl rfl)
theorem dX1_list_35 : decode cX1_list 35 = .ok (.iload_n 3, 1) := dk_29 (dk_at dksX1_list_1 11 rfl rfl)
theorem dX1_list_36 : decode cX1_list 36 = .ok (.iconst (-1), 1) := dk_2 (dk_at dksX1_list_1 12 rfl rfl)
theorem dX1_list_37 : decode cX1_list 37 = .ok (.invokestatic 123, 3) := dk_184 0 123 (dk_at dksX1_list_1 13 rfl rfl)
theorem dX1_list_40 : decode cX1_list 40 = .ok (.astore 5, 2) := dk_58 5 (dk_at dksX1_list_1 16 rfl rfl)
theorem dX1_list_42 : decode cX1_list 42 = .ok (.aload_n 0, 1) := dk_42 (dk_at dksX1_list_1 18 rfl rfl)
theorem dX1_list_43 : decode cX1_list 43 = .ok (.new 247, 3) := dk_187 0 247 (dk_at dksX1_list_1 19 rfl rfl)
theorem dX1_list_46 : decode cX1_list 46 = .ok (.dup, 1) := dk_89 (dk_at dksX1_list_1 22 rfl rfl)
theorem dX1_list_47 : decode cX1_list 47 = .ok (.aload_n 0, 1) := dk_42 (dk_at dksX1_list_1 23 rfl rfl)
theorem dX1_list_48 : decode cX1_list 48 = .ok (.aload 5, 2) := dk_25 5 (dk_at dksX1_list_2 0 rfl rfl)
theorem dX1_list_50 : decode cX1_list 50 = .ok (.iconst 2, 1) := dk_5 (dk_at dksX1_list_2 2 rfl rfl)
theorem dX1_list_51 : decode cX1_list 51 = .ok (.newarray .int, 2) := dk_188_10 (dk_at dksX1_list_2 3 rfl rfl)
theorem dX1_list_53 : decode cX1_list 53 = .ok (.dup, 1) := dk_89 (dk_at dksX1_list_2 5 rfl rfl)
theorem dX1_list_54 : decode cX1_list 54 = .ok (.iconst 0, 1) := dk_3 (dk_at dksX1_list_2 6 rfl rfl)
theorem dX1_list_55 : decode cX1_list 55 = .ok (.iconst 4, 1) := dk_7 (dk_at dksX1_list_2 7 rfl rfl)
theorem dX1_list_56 : decode cX1_list 56 = .ok (.iastore, 1) := dk_79 (dk_at dksX1_list_2 8 rfl rfl)
theorem dX1_list_57 : decode cX1_list 57 = .ok (.dup, 1) := dk_89 (dk_at dksX1_list_2 9 rfl rfl)
theorem dX1_list_58 : decode cX1_list 58 = .ok (.iconst 1, 1) := dk_4 (dk_at dksX1_list_2 10 rfl rfl)
theorem dX1_list_59 : decode cX1_list 59 = .ok (.iconst 4, 1) := dk_7 (dk_at dksX1_list_2 11 rfl rfl)
theorem dX1_list_60 : decode cX1_list 60 = .ok (.iastore, 1) := dk_79 (dk_at dksX1_list_2 12 rfl rfl)
theorem dX1_list_61 : decode cX1_list 61 = .ok (.invokestatic 15, 3) := dk_184 0 15 (dk_at dksX1_list_2 13 rfl rfl)
theorem dX1_list_64 : decode cX1_list 64 = .ok (.invokevirtual 217, 3) := dk_182 0 217 (dk_at dksX1_list_2 16 rfl rfl)
theorem dX1_list_67 : decode cX1_list 67 = .ok (.iload 4, 2) := dk_21 4 (dk_at dksX1_list_2 19 rfl rfl)
theorem dX1_list_69 : decode cX1_list 69 = .ok (.invokespecial 249, 3) := dk_183 0 249 (dk_at dksX1_list_2 21 rfl rfl)
theorem dX1_list_72 : decode cX1_list 72 = .ok (.iconst 5, 1) := dk_8 (dk_at dksX1_list_3 0 rfl rfl)
theorem dX1_list_73 : decode cX1_list 73 = .ok (.aload 5, 2) := dk_25 5 (dk_at dksX1_list_3 1 rfl rfl)
theorem dX1_list_75 : decode cX1_list 75 = .ok (.invokevirtual 224, 3) := dk_182 0 224 (dk_at dksX1_list_3 3 rfl rfl)
theorem dX1_list_78 : decode cX1_list 78 = .ok (.ireturn, 1) := dk_172 (dk_at dksX1_list_3 6 rfl rfl)
abbrev cX1_setView : ByteArray := prog_1_method_35_code
def yX1_setView : MethodName := ⟨RX1, "setView", "(IIIII)I"⟩
def dkwX1_setView_4 : List UInt8 := [6, 21, 5, 79, 184, 0, 15, 83, 42, 182, 0, 127, 21, 6, 172]
abbrev dktX1_setView_4 : List UInt8 := dkwX1_setView_4 ++ []
def dkwX1_setView_3 : List UInt8 := [54, 6, 42, 180, 0, 37, 27, 7, 188, 10, 89, 3, 28, 79, 89, 4, 29, 79, 89, 5, 21, 4, 79, 89]
abbrev dktX1_setView_3 : List UInt8 := dkwX1_setView_3 ++ dktX1_setView_4
def dkwX1_setView_2 : List UInt8 := [16, 10, 184, 0, 91, 153, 0, 7, 4, 167, 0, 4, 3, 184, 0, 117, 42, 180, 0, 37, 27, 50, 6, 46]
abbrev dktX1_setView_2 : List UInt8 := dkwX1_setView_2 ++ dktX1_setView_3
def dkwX1_setView_1 : List UInt8 := [16, 9, 184, 0, 91, 153, 0, 30, 21, 4, 16, 247, 16, 9, 184, 0, 91, 153, 0, 18, 21, 5, 4]
abbrev dktX1_setView_1 : List UInt8 := dkwX1_setView_1 ++ dktX1_setView_2
def dkwX1_setView_0 : List UInt8 := [27, 3, 5, 184, 0, 91, 184, 0, 105, 28, 16, 247, 16, 9, 184, 0, 91, 153, 0, 41, 29, 16, 247]
abbrev dktX1_setView_0 : List UInt8 := dkwX1_setView_0 ++ dktX1_setView_1
theorem dksX1_setView_0 : cX1_setView.data.toList.drop 0 = dktX1_setView_0 := by decide +kernel
theorem dksX1_setView_1 : cX1_setView.data.toList.drop 23 = dktX1_setView_1 := dk_seg dksX1_setView_0 23 rfl rfl
theorem dksX1_setView_2 : cX1_setView.data.toList.drop 46 = dktX1_setView_2 := dk_seg dksX1_setView_1 23 rfl rfl
theorem dksX1_setView_3 : cX1_setView.data.toList.drop 70 = dktX1_setView_3 := dk_seg dksX1_setView_2 24 rfl rfl
theorem dksX1_setView_4 : cX1_setView.data.toList.drop 94 = dktX1_setView_4 := dk_seg dksX1_setView_3 24 rfl rfl
theorem dX1_setView_0 : decode cX1_setView 0 = .ok (.iload_n 1, 1) := dk_27 (dk_at dksX1_setView_0 0 rfl rfl)
theorem dX1_setView_1 : decode cX1_setView 1 = .ok (.iconst 0, 1) := dk_3 (dk_at dksX1_setView_0 1 rfl rfl)
theorem dX1_setView_2 : decode cX1_setView 2 = .ok (.iconst 2, 1) := dk_5 (dk_at dksX1_setView_0 2 rfl rfl)
theorem dX1_setView_3 : decode cX1_setView 3 = .ok (.invokestatic 91, 3) := dk_184 0 91 (dk_at dksX1_setView_0 3 rfl rfl)
theorem dX1_setView_6 : decode cX1_setView 6 = .ok (.invokestatic 105, 3) := dk_184 0 105 (dk_at dksX1_setView_0 6 rfl rfl)
theorem dX1_setView_9 : decode cX1_setView 9 = .ok (.iload_n 2, 1) := dk_28 (dk_at dksX1_setView_0 9 rfl rfl)
theorem dX1_setView_10 : decode cX1_setView 10 = .ok (.bipush (-9), 2) := dk_16 247 (dk_at dksX1_setView_0 10 rfl rfl)
theorem dX1_setView_12 : decode cX1_setView 12 = .ok (.bipush 9, 2) := dk_16 9 (dk_at dksX1_setView_0 12 rfl rfl)
theorem dX1_setView_14 : decode cX1_setView 14 = .ok (.invokestatic 91, 3) := dk_184 0 91 (dk_at dksX1_setView_0 14 rfl rfl)
theorem dX1_setView_17 : decode cX1_setView 17 = .ok (.ifCond .eq 41, 3) := dk_153 0 41 (dk_at dksX1_setView_0 17 rfl rfl)
theorem dX1_setView_20 : decode cX1_setView 20 = .ok (.iload_n 3, 1) := dk_29 (dk_at dksX1_setView_0 20 rfl rfl)
theorem dX1_setView_21 : decode cX1_setView 21 = .ok (.bipush (-9), 2) := dk_16 247 (dk_at dksX1_setView_0 21 rfl rfl)
theorem dX1_setView_23 : decode cX1_setView 23 = .ok (.bipush 9, 2) := dk_16 9 (dk_at dksX1_setView_1 0 rfl rfl)
theorem dX1_setView_25 : decode cX1_setView 25 = .ok (.invokestatic 91, 3) := dk_184 0 91 (dk_at dksX1_setView_1 2 rfl rfl)
theorem dX1_setView_28 : decode cX1_setView 28 = .ok (.ifCond .eq 30, 3) := dk_153 0 30 (dk_at dksX1_setView_1 5 rfl rfl)
theorem dX1_setView_31 : decode cX1_setView 31 = .ok (.iload 4, 2) := dk_21 4 (dk_at dksX1_setView_1 8 rfl rfl)
theorem dX1_setView_33 : decode cX1_setView 33 = .ok (.bipush (-9), 2) := dk_16 247 (dk_at dksX1_setView_1 10 rfl rfl)
theorem dX1_setView_35 : decode cX1_setView 35 = .ok (.bipush 9, 2) := dk_16 9 (dk_at dksX1_setView_1 12 rfl rfl)
theorem dX1_setView_37 : decode cX1_setView 37 = .ok (.invokestatic 91, 3) := dk_184 0 91 (dk_at dksX1_setView_1 14 rfl rfl)
theorem dX1_setView_40 : decode cX1_setView 40 = .ok (.ifCond .eq 18, 3) := dk_153 0 18 (dk_at dksX1_setView_1 17 rfl rfl)
theorem dX1_setView_43 : decode cX1_setView 43 = .ok (.iload 5, 2) := dk_21 5 (dk_at dksX1_setView_1 20 rfl rfl)
theorem dX1_setView_45 : decode cX1_setView 45 = .ok (.iconst 1, 1) := dk_4 (dk_at dksX1_setView_1 22 rfl rfl)
theorem dX1_setView_46 : decode cX1_setView 46 = .ok (.bipush 10, 2) := dk_16 10 (dk_at dksX1_setView_2 0 rfl rfl)
theorem dX1_setView_48 : decode cX1_setView 48 = .ok (.invokestatic 91, 3) := dk_184 0 91 (dk_at dksX1_setView_2 2 rfl rfl)
theorem dX1_setView_51 : decode cX1_setView 51 = .ok (.ifCond .eq 7, 3) := dk_153 0 7 (dk_at dksX1_setView_2 5 rfl rfl)
theorem dX1_setView_54 : decode cX1_setView 54 = .ok (.iconst 1, 1) := dk_4 (dk_at dksX1_setView_2 8 rfl rfl)
theorem dX1_setView_55 : decode cX1_setView 55 = .ok (.goto 4, 3) := dk_167 0 4 (dk_at dksX1_setView_2 9 rfl rfl)
theorem dX1_setView_58 : decode cX1_setView 58 = .ok (.iconst 0, 1) := dk_3 (dk_at dksX1_setView_2 12 rfl rfl)
theorem dX1_setView_59 : decode cX1_setView 59 = .ok (.invokestatic 117, 3) := dk_184 0 117 (dk_at dksX1_setView_2 13 rfl rfl)
theorem dX1_setView_62 : decode cX1_setView 62 = .ok (.aload_n 0, 1) := dk_42 (dk_at dksX1_setView_2 16 rfl rfl)
theorem dX1_setView_63 : decode cX1_setView 63 = .ok (.getfield 37, 3) := dk_180 0 37 (dk_at dksX1_setView_2 17 rfl rfl)
theorem dX1_setView_66 : decode cX1_setView 66 = .ok (.iload_n 1, 1) := dk_27 (dk_at dksX1_setView_2 20 rfl rfl)
theorem dX1_setView_67 : decode cX1_setView 67 = .ok (.aaload, 1) := dk_50 (dk_at dksX1_setView_2 21 rfl rfl)
theorem dX1_setView_68 : decode cX1_setView 68 = .ok (.iconst 3, 1) := dk_6 (dk_at dksX1_setView_2 22 rfl rfl)
theorem dX1_setView_69 : decode cX1_setView 69 = .ok (.iaload, 1) := dk_46 (dk_at dksX1_setView_2 23 rfl rfl)
theorem dX1_setView_70 : decode cX1_setView 70 = .ok (.istore 6, 2) := dk_54 6 (dk_at dksX1_setView_3 0 rfl rfl)
theorem dX1_setView_72 : decode cX1_setView 72 = .ok (.aload_n 0, 1) := dk_42 (dk_at dksX1_setView_3 2 rfl rfl)
theorem dX1_setView_73 : decode cX1_setView 73 = .ok (.getfield 37, 3) := dk_180 0 37 (dk_at dksX1_setView_3 3 rfl rfl)
theorem dX1_setView_76 : decode cX1_setView 76 = .ok (.iload_n 1, 1) := dk_27 (dk_at dksX1_setView_3 6 rfl rfl)
theorem dX1_setView_77 : decode cX1_setView 77 = .ok (.iconst 4, 1) := dk_7 (dk_at dksX1_setView_3 7 rfl rfl)
theorem dX1_setView_78 : decode cX1_setView 78 = .ok (.newarray .int, 2) := dk_188_10 (dk_at dksX1_setView_3 8 rfl rfl)
theorem dX1_setView_80 : decode cX1_setView 80 = .ok (.dup, 1) := dk_89 (dk_at dksX1_setView_3 10 rfl rfl)
theorem dX1_setView_81 : decode cX1_setView 81 = .ok (.iconst 0, 1) := dk_3 (dk_at dksX1_setView_3 11 rfl rfl)
theorem dX1_setView_82 : decode cX1_setView 82 = .ok (.iload_n 2, 1) := dk_28 (dk_at dksX1_setView_3 12 rfl rfl)
theorem dX1_setView_83 : decode cX1_setView 83 = .ok (.iastore, 1) := dk_79 (dk_at dksX1_setView_3 13 rfl rfl)
theorem dX1_setView_84 : decode cX1_setView 84 = .ok (.dup, 1) := dk_89 (dk_at dksX1_setView_3 14 rfl rfl)
theorem dX1_setView_85 : decode cX1_setView 85 = .ok (.iconst 1, 1) := dk_4 (dk_at dksX1_setView_3 15 rfl rfl)
theorem dX1_setView_86 : decode cX1_setView 86 = .ok (.iload_n 3, 1) := dk_29 (dk_at dksX1_setView_3 16 rfl rfl)
theorem dX1_setView_87 : decode cX1_setView 87 = .ok (.iastore, 1) := dk_79 (dk_at dksX1_setView_3 17 rfl rfl)
theorem dX1_setView_88 : decode cX1_setView 88 = .ok (.dup, 1) := dk_89 (dk_at dksX1_setView_3 18 rfl rfl)
theorem dX1_setView_89 : decode cX1_setView 89 = .ok (.iconst 2, 1) := dk_5 (dk_at dksX1_setView_3 19 rfl rfl)
theorem dX1_setView_90 : decode cX1_setView 90 = .ok (.iload 4, 2) := dk_21 4 (dk_at dksX1_setView_3 20 rfl rfl)
theorem dX1_setView_92 : decode cX1_setView 92 = .ok (.iastore, 1) := dk_79 (dk_at dksX1_setView_3 22 rfl rfl)
theorem dX1_setView_93 : decode cX1_setView 93 = .ok (.dup, 1) := dk_89 (dk_at dksX1_setView_3 23 rfl rfl)
theorem dX1_setView_94 : decode cX1_setView 94 = .ok (.iconst 3, 1) := dk_6 (dk_at dksX1_setView_4 0 rfl rfl)
theorem dX1_setView_95 : decode cX1_setView 95 = .ok (.iload 5, 2) := dk_21 5 (dk_at dksX1_setView_4 1 rfl rfl)
theorem dX1_setView_97 : decode cX1_setView 97 = .ok (.iastore, 1) := dk_79 (dk_at dksX1_setView_4 3 rfl rfl)
theorem dX1_setView_98 : decode cX1_setView 98 = .ok (.invokestatic 15, 3) := dk_184 0 15 (dk_at dksX1_setView_4 4 rfl rfl)
theorem dX1_setView_101 : decode cX1_setView 101 = .ok (.aastore, 1) := dk_83 (dk_at dksX1_setView_4 7 rfl rfl)
theorem dX1_setView_102 : decode cX1_setView 102 = .ok (.aload_n 0, 1) := dk_42 (dk_at dksX1_setView_4 8 rfl rfl)
theorem dX1_setView_103 : decode cX1_setView 103 = .ok (.invokevirtual 127, 3) := dk_182 0 127 (dk_at dksX1_setView_4 9 rfl rfl)
theorem dX1_setView_106 : decode cX1_setView 106 = .ok (.iload 6, 2) := dk_21 6 (dk_at dksX1_setView_4 12 rfl rfl)
theorem dX1_setView_108 : decode cX1_setView 108 = .ok (.ireturn, 1) := dk_172 (dk_at dksX1_setView_4 14 rfl rfl)
abbrev cX1_begin : ByteArray := prog_1_method_36_code
def yX1_begin : MethodName := ⟨RX1, "begin", "(IIII)I"⟩
def dkwX1_begin_5 : List UInt8 := [182, 0, 127, 21, 5, 172]
abbrev dktX1_begin_5 : List UInt8 := dkwX1_begin_5 ++ []
def dkwX1_begin_4 : List UInt8 := [79, 42, 180, 0, 41, 5, 21, 4, 79, 42, 2, 181, 0, 75, 42, 180, 0, 52, 182, 1, 2, 42]
abbrev dktX1_begin_4 : List UInt8 := dkwX1_begin_4 ++ dktX1_begin_5
def dkwX1_begin_3 : List UInt8 := [180, 0, 44, 182, 0, 252, 42, 27, 181, 0, 255, 42, 180, 0, 41, 3, 28, 79, 42, 180, 0, 41, 4, 29]
abbrev dktX1_begin_3 : List UInt8 := dkwX1_begin_3 ++ dktX1_begin_4
def dkwX1_begin_2 : List UInt8 := [184, 0, 113, 153, 0, 7, 4, 167, 0, 4, 3, 184, 0, 117, 42, 180, 0, 44, 182, 0, 101, 54, 5, 42]
abbrev dktX1_begin_2 : List UInt8 := dkwX1_begin_2 ++ dktX1_begin_3
def dkwX1_begin_1 : List UInt8 := [167, 0, 4, 3, 184, 0, 113, 153, 0, 25, 21, 4, 27, 5, 164, 0, 7, 4, 167, 0, 4, 3]
abbrev dktX1_begin_1 : List UInt8 := dkwX1_begin_1 ++ dktX1_begin_2
def dkwX1_begin_0 : List UInt8 := [27, 4, 6, 184, 0, 91, 153, 0, 50, 28, 4, 184, 0, 113, 153, 0, 42, 29, 27, 4, 164, 0, 7, 4]
abbrev dktX1_begin_0 : List UInt8 := dkwX1_begin_0 ++ dktX1_begin_1
theorem dksX1_begin_0 : cX1_begin.data.toList.drop 0 = dktX1_begin_0 := by decide +kernel
theorem dksX1_begin_1 : cX1_begin.data.toList.drop 24 = dktX1_begin_1 := dk_seg dksX1_begin_0 24 rfl rfl
theorem dksX1_begin_2 : cX1_begin.data.toList.drop 46 = dktX1_begin_2 := dk_seg dksX1_begin_1 22 rfl rfl
theorem dksX1_begin_3 : cX1_begin.data.toList.drop 70 = dktX1_begin_3 := dk_seg dksX1_begin_2 24 rfl rfl
theorem dksX1_begin_4 : cX1_begin.data.toList.drop 94 = dktX1_begin_4 := dk_seg dksX1_begin_3 24 rfl rfl
theorem dksX1_begin_5 : cX1_begin.data.toList.drop 116 = dktX1_begin_5 := dk_seg dksX1_begin_4 22 rfl rfl
theorem dX1_begin_0 : decode cX1_begin 0 = .ok (.iload_n 1, 1) := dk_27 (dk_at dksX1_begin_0 0 rfl rfl)
theorem dX1_begin_1 : decode cX1_begin 1 = .ok (.iconst 1, 1) := dk_4 (dk_at dksX1_begin_0 1 rfl rfl)
theorem dX1_begin_2 : decode cX1_begin 2 = .ok (.iconst 3, 1) := dk_6 (dk_at dksX1_begin_0 2 rfl rfl)
theorem dX1_begin_3 : decode cX1_begin 3 = .ok (.invokestatic 91, 3) := dk_184 0 91 (dk_at dksX1_begin_0 3 rfl rfl)
theorem dX1_begin_6 : decode cX1_begin 6 = .ok (.ifCond .eq 50, 3) := dk_153 0 50 (dk_at dksX1_begin_0 6 rfl rfl)
theorem dX1_begin_9 : decode cX1_begin 9 = .ok (.iload_n 2, 1) := dk_28 (dk_at dksX1_begin_0 9 rfl rfl)
theorem dX1_begin_10 : decode cX1_begin 10 = .ok (.iconst 1, 1) := dk_4 (dk_at dksX1_begin_0 10 rfl rfl)
theorem dX1_begin_11 : decode cX1_begin 11 = .ok (.invokestatic 113, 3) := dk_184 0 113 (dk_at dksX1_begin_0 11 rfl rfl)
theorem dX1_begin_14 : decode cX1_begin 14 = .ok (.ifCond .eq 42, 3) := dk_153 0 42 (dk_at dksX1_begin_0 14 rfl rfl)
theorem dX1_begin_17 : decode cX1_begin 17 = .ok (.iload_n 3, 1) := dk_29 (dk_at dksX1_begin_0 17 rfl rfl)
theorem dX1_begin_18 : decode cX1_begin 18 = .ok (.iload_n 1, 1) := dk_27 (dk_at dksX1_begin_0 18 rfl rfl)
theorem dX1_begin_19 : decode cX1_begin 19 = .ok (.iconst 1, 1) := dk_4 (dk_at dksX1_begin_0 19 rfl rfl)
theorem dX1_begin_20 : decode cX1_begin 20 = .ok (.if_icmp .le 7, 3) := dk_164 0 7 (dk_at dksX1_begin_0 20 rfl rfl)
theorem dX1_begin_23 : decode cX1_begin 23 = .ok (.iconst 1, 1) := dk_4 (dk_at dksX1_begin_0 23 rfl rfl)
theorem dX1_begin_24 : decode cX1_begin 24 = .ok (.goto 4, 3) := dk_167 0 4 (dk_at dksX1_begin_1 0 rfl rfl)
theorem dX1_begin_27 : decode cX1_begin 27 = .ok (.iconst 0, 1) := dk_3 (dk_at dksX1_begin_1 3 rfl rfl)
theorem dX1_begin_28 : decode cX1_begin 28 = .ok (.invokestatic 113, 3) := dk_184 0 113 (dk_at dksX1_begin_1 4 rfl rfl)
theorem dX1_begin_31 : decode cX1_begin 31 = .ok (.ifCond .eq 25, 3) := dk_153 0 25 (dk_at dksX1_begin_1 7 rfl rfl)
theorem dX1_begin_34 : decode cX1_begin 34 = .ok (.iload 4, 2) := dk_21 4 (dk_at dksX1_begin_1 10 rfl rfl)
theorem dX1_begin_36 : decode cX1_begin 36 = .ok (.iload_n 1, 1) := dk_27 (dk_at dksX1_begin_1 12 rfl rfl)
theorem dX1_begin_37 : decode cX1_begin 37 = .ok (.iconst 2, 1) := dk_5 (dk_at dksX1_begin_1 13 rfl rfl)
theorem dX1_begin_38 : decode cX1_begin 38 = .ok (.if_icmp .le 7, 3) := dk_164 0 7 (dk_at dksX1_begin_1 14 rfl rfl)
theorem dX1_begin_41 : decode cX1_begin 41 = .ok (.iconst 1, 1) := dk_4 (dk_at dksX1_begin_1 17 rfl rfl)
theorem dX1_begin_42 : decode cX1_begin 42 = .ok (.goto 4, 3) := dk_167 0 4 (dk_at dksX1_begin_1 18 rfl rfl)
theorem dX1_begin_45 : decode cX1_begin 45 = .ok (.iconst 0, 1) := dk_3 (dk_at dksX1_begin_1 21 rfl rfl)
theorem dX1_begin_46 : decode cX1_begin 46 = .ok (.invokestatic 113, 3) := dk_184 0 113 (dk_at dksX1_begin_2 0 rfl rfl)
theorem dX1_begin_49 : decode cX1_begin 49 = .ok (.ifCond .eq 7, 3) := dk_153 0 7 (dk_at dksX1_begin_2 3 rfl rfl)
theorem dX1_begin_52 : decode cX1_begin 52 = .ok (.iconst 1, 1) := dk_4 (dk_at dksX1_begin_2 6 rfl rfl)
theorem dX1_begin_53 : decode cX1_begin 53 = .ok (.goto 4, 3) := dk_167 0 4 (dk_at dksX1_begin_2 7 rfl rfl)
theorem dX1_begin_56 : decode cX1_begin 56 = .ok (.iconst 0, 1) := dk_3 (dk_at dksX1_begin_2 10 rfl rfl)
theorem dX1_begin_57 : decode cX1_begin 57 = .ok (.invokestatic 117, 3) := dk_184 0 117 (dk_at dksX1_begin_2 11 rfl rfl)
theorem dX1_begin_60 : decode cX1_begin 60 = .ok (.aload_n 0, 1) := dk_42 (dk_at dksX1_begin_2 14 rfl rfl)
theorem dX1_begin_61 : decode cX1_begin 61 = .ok (.getfield 44, 3) := dk_180 0 44 (dk_at dksX1_begin_2 15 rfl rfl)
theorem dX1_begin_64 : decode cX1_begin 64 = .ok (.invokevirtual 101, 3) := dk_182 0 101 (dk_at dksX1_begin_2 18 rfl rfl)
theorem dX1_begin_67 : decode cX1_begin 67 = .ok (.istore 5, 2) := dk_54 5 (dk_at dksX1_begin_2 21 rfl rfl)
theorem dX1_begin_69 : decode cX1_begin 69 = .ok (.aload_n 0, 1) := dk_42 (dk_at dksX1_begin_2 23 rfl rfl)
theorem dX1_begin_70 : decode cX1_begin 70 = .ok (.getfield 44, 3) := dk_180 0 44 (dk_at dksX1_begin_3 0 rfl rfl)
theorem dX1_begin_73 : decode cX1_begin 73 = .ok (.invokevirtual 252, 3) := dk_182 0 252 (dk_at dksX1_begin_3 3 rfl rfl)
theorem dX1_begin_76 : decode cX1_begin 76 = .ok (.aload_n 0, 1) := dk_42 (dk_at dksX1_begin_3 6 rfl rfl)
theorem dX1_begin_77 : decode cX1_begin 77 = .ok (.iload_n 1, 1) := dk_27 (dk_at dksX1_begin_3 7 rfl rfl)
theorem dX1_begin_78 : decode cX1_begin 78 = .ok (.putfield 255, 3) := dk_181 0 255 (dk_at dksX1_begin_3 8 rfl rfl)
theorem dX1_begin_81 : decode cX1_begin 81 = .ok (.aload_n 0, 1) := dk_42 (dk_at dksX1_begin_3 11 rfl rfl)
theorem dX1_begin_82 : decode cX1_begin 82 = .ok (.getfield 41, 3) := dk_180 0 41 (dk_at dksX1_begin_3 12 rfl rfl)
theorem dX1_begin_85 : decode cX1_begin 85 = .ok (.iconst 0, 1) := dk_3 (dk_at dksX1_begin_3 15 rfl rfl)
theorem dX1_begin_86 : decode cX1_begin 86 = .ok (.iload_n 2, 1) := dk_28 (dk_at dksX1_begin_3 16 rfl rfl)
theorem dX1_begin_87 : decode cX1_begin 87 = .ok (.iastore, 1) := dk_79 (dk_at dksX1_begin_3 17 rfl rfl)
theorem dX1_begin_88 : decode cX1_begin 88 = .ok (.aload_n 0, 1) := dk_42 (dk_at dksX1_begin_3 18 rfl rfl)
theorem dX1_begin_89 : decode cX1_begin 89 = .ok (.getfield 41, 3) := dk_180 0 41 (dk_at dksX1_begin_3 19 rfl rfl)
theorem dX1_begin_92 : decode cX1_begin 92 = .ok (.iconst 1, 1) := dk_4 (dk_at dksX1_begin_3 22 rfl rfl)
theorem dX1_begin_93 : decode cX1_begin 93 = .ok (.iload_n 3, 1) := dk_29 (dk_at dksX1_begin_3 23 rfl rfl)
theorem dX1_begin_94 : decode cX1_begin 94 = .ok (.iastore, 1) := dk_79 (dk_at dksX1_begin_4 0 rfl rfl)
theorem dX1_begin_95 : decode cX1_begin 95 = .ok (.aload_n 0, 1) := dk_42 (dk_at dksX1_begin_4 1 rfl rfl)
theorem dX1_begin_96 : decode cX1_begin 96 = .ok (.getfield 41, 3) := dk_180 0 41 (dk_at dksX1_begin_4 2 rfl rfl)
theorem dX1_begin_99 : decode cX1_begin 99 = .ok (.iconst 2, 1) := dk_5 (dk_at dksX1_begin_4 5 rfl rfl)
theorem dX1_begin_100 : decode cX1_begin 100 = .ok (.iload 4, 2) := dk_21 4 (dk_at dksX1_begin_4 6 rfl rfl)
theorem dX1_begin_102 : decode cX1_begin 102 = .ok (.iastore, 1) := dk_79 (dk_at dksX1_begin_4 8 rfl rfl)
theorem dX1_begin_103 : decode cX1_begin 103 = .ok (.aload_n 0, 1) := dk_42 (dk_at dksX1_begin_4 9 rfl rfl)
theorem dX1_begin_104 : decode cX1_begin 104 = .ok (.iconst (-1), 1) := dk_2 (dk_at dksX1_begin_4 10 rfl rfl)
theorem dX1_begin_105 : decode cX1_begin 105 = .ok (.putfield 75, 3) := dk_181 0 75 (dk_at dksX1_begin_4 11 rfl rfl)
theorem dX1_begin_108 : decode cX1_begin 108 = .ok (.aload_n 0, 1) := dk_42 (dk_at dksX1_begin_4 14 rfl rfl)
theorem dX1_begin_109 : decode cX1_begin 109 = .ok (.getfield 52, 3) := dk_180 0 52 (dk_at dksX1_begin_4 15 rfl rfl)
theorem dX1_begin_112 : decode cX1_begin 112 = .ok (.invokevirtual 258, 3) := dk_182 1 2 (dk_at dksX1_begin_4 18 rfl rfl)
theorem dX1_begin_115 : decode cX1_begin 115 = .ok (.aload_n 0, 1) := dk_42 (dk_at dksX1_begin_4 21 rfl rfl)
theorem dX1_begin_116 : decode cX1_begin 116 = .ok (.invokevirtual 127, 3) := dk_182 0 127 (dk_at dksX1_begin_5 0 rfl rfl)
theorem dX1_begin_119 : decode cX1_begin 119 = .ok (.iload 5, 2) := dk_21 5 (dk_at dksX1_begin_5 3 rfl rfl)
theorem dX1_begin_121 : decode cX1_begin 121 = .ok (.ireturn, 1) := dk_172 (dk_at dksX1_begin_5 5 rfl rfl)
abbrev cX1_add : ByteArray := prog_1_method_37_code
def yX1_add : MethodName := ⟨RX1, "add", "(IIII)I"⟩
def dkwX1_add_8 : List UInt8 := [182, 0, 101, 4, 100, 172]
abbrev dktX1_add_8 : List UInt8 := dkwX1_add_8 ++ []
def dkwX1_add_7 : List UInt8 := [187, 1, 5, 89, 25, 6, 21, 4, 183, 1, 7, 182, 0, 79, 87, 42, 182, 0, 127, 42, 180, 0, 44]
abbrev dktX1_add_7 : List UInt8 := dkwX1_add_7 ++ dktX1_add_8
def dkwX1_add_6 : List UInt8 := [42, 180, 0, 44, 182, 0, 101, 16, 8, 162, 0, 7, 4, 167, 0, 4, 3, 184, 0, 120, 42, 180, 0, 44]
abbrev dktX1_add_6 : List UInt8 := dkwX1_add_6 ++ dktX1_add_7
def dkwX1_add_5 : List UInt8 := [182, 0, 174, 128, 54, 7, 132, 8, 1, 167, 255, 175, 21, 5, 184, 0, 117, 42, 180, 0, 255, 158, 0, 19]
abbrev dktX1_add_5 : List UInt8 := dkwX1_add_5 ++ dktX1_add_6
def dkwX1_add_4 : List UInt8 := [21, 7, 126, 154, 0, 7, 4, 167, 0, 4, 3, 54, 5, 21, 7, 42, 25, 6, 21, 8, 46, 182, 0, 170]
abbrev dktX1_add_4 : List UInt8 := dkwX1_add_4 ++ dktX1_add_5
def dkwX1_add_3 : List UInt8 := [180, 0, 41, 21, 8, 46, 182, 0, 206, 153, 0, 25, 42, 25, 6, 21, 8, 46, 182, 0, 170, 182, 0, 174]
abbrev dktX1_add_3 : List UInt8 := dkwX1_add_3 ++ dktX1_add_4
def dkwX1_add_2 : List UInt8 := [21, 8, 42, 180, 0, 255, 162, 0, 78, 21, 5, 153, 0, 73, 42, 25, 6, 21, 8, 46, 182, 0, 170, 42]
abbrev dktX1_add_2 : List UInt8 := dkwX1_add_2 ++ dktX1_add_3
def dkwX1_add_1 : List UInt8 := [184, 0, 91, 54, 5, 42, 180, 0, 255, 27, 28, 29, 184, 0, 123, 58, 6, 3, 54, 7, 3, 54, 8]
abbrev dktX1_add_1 : List UInt8 := dkwX1_add_1 ++ dktX1_add_2
def dkwX1_add_0 : List UInt8 := [42, 180, 0, 255, 27, 28, 29, 42, 180, 0, 32, 182, 0, 101, 184, 0, 146, 21, 4, 3, 16, 99]
abbrev dktX1_add_0 : List UInt8 := dkwX1_add_0 ++ dktX1_add_1
theorem dksX1_add_0 : cX1_add.data.toList.drop 0 = dktX1_add_0 := by decide +kernel
theorem dksX1_add_1 : cX1_add.data.toList.drop 22 = dktX1_add_1 := dk_seg dksX1_add_0 22 rfl rfl
theorem dksX1_add_2 : cX1_add.data.toList.drop 45 = dktX1_add_2 := dk_seg dksX1_add_1 23 rfl rfl
theorem dksX1_add_3 : cX1_add.data.toList.drop 69 = dktX1_add_3 := dk_seg dksX1_add_2 24 rfl rfl
theorem dksX1_add_4 : cX1_add.data.toList.drop 93 = dktX1_add_4 := dk_seg dksX1_add_3 24 rfl rfl
theorem dksX1_add_5 : cX1_add.data.toList.drop 117 = dktX1_add_5 := dk_seg dksX1_add_4 24 rfl rfl
theorem dksX1_add_6 : cX1_add.data.toList.drop 141 = dktX1_add_6 := dk_seg dksX1_add_5 24 rfl rfl
theorem dksX1_add_7 : cX1_add.data.toList.drop 165 = dktX1_add_7 := dk_seg dksX1_add_6 24 rfl rfl
theorem dksX1_add_8 : cX1_add.data.toList.drop 188 = dktX1_add_8 := dk_seg dksX1_add_7 23 rfl rfl
theorem dX1_add_0 : decode cX1_add 0 = .ok (.aload_n 0, 1) := dk_42 (dk_at dksX1_add_0 0 rfl rfl)
theorem dX1_add_1 : decode cX1_add 1 = .ok (.getfield 255, 3) := dk_180 0 255 (dk_at dksX1_add_0 1 rfl rfl)
theorem dX1_add_4 : decode cX1_add 4 = .ok (.iload_n 1, 1) := dk_27 (dk_at dksX1_add_0 4 rfl rfl)
theorem dX1_add_5 : decode cX1_add 5 = .ok (.iload_n 2, 1) := dk_28 (dk_at dksX1_add_0 5 rfl rfl)
theorem dX1_add_6 : decode cX1_add 6 = .ok (.iload_n 3, 1) := dk_29 (dk_at dksX1_add_0 6 rfl rfl)
theorem dX1_add_7 : decode cX1_add 7 = .ok (.aload_n 0, 1) := dk_42 (dk_at dksX1_add_0 7 rfl rfl)
theorem dX1_add_8 : decode cX1_add 8 = .ok (.getfield 32, 3) := dk_180 0 32 (dk_at dksX1_add_0 8 rfl rfl)
theorem dX1_add_11 : decode cX1_add 11 = .ok (.invokevirtual 101, 3) := dk_182 0 101 (dk_at dksX1_add_0 11 rfl rfl)
theorem dX1_add_14 : decode cX1_add 14 = .ok (.invokestatic 146, 3) := dk_184 0 146 (dk_at dksX1_add_0 14 rfl rfl)
theorem dX1_add_17 : decode cX1_add 17 = .ok (.iload 4, 2) := dk_21 4 (dk_at dksX1_add_0 17 rfl rfl)
theorem dX1_add_19 : decode cX1_add 19 = .ok (.iconst 0, 1) := dk_3 (dk_at dksX1_add_0 19 rfl rfl)
theorem dX1_add_20 : decode cX1_add 20 = .ok (.bipush 99, 2) := dk_16 99 (dk_at dksX1_add_0 20 rfl rfl)
theorem dX1_add_22 : decode cX1_add 22 = .ok (.invokestatic 91, 3) := dk_184 0 91 (dk_at dksX1_add_1 0 rfl rfl)
theorem dX1_add_25 : decode cX1_add 25 = .ok (.istore 5, 2) := dk_54 5 (dk_at dksX1_add_1 3 rfl rfl)
theorem dX1_add_27 : decode cX1_add 27 = .ok (.aload_n 0, 1) := dk_42 (dk_at dksX1_add_1 5 rfl rfl)
theorem dX1_add_28 : decode cX1_add 28 = .ok (.getfield 255, 3) := dk_180 0 255 (dk_at dksX1_add_1 6 rfl rfl)
theorem dX1_add_31 : decode cX1_add 31 = .ok (.iload_n 1, 1) := dk_27 (dk_at dksX1_add_1 9 rfl rfl)
theorem dX1_add_32 : decode cX1_add 32 = .ok (.iload_n 2, 1) := dk_28 (dk_at dksX1_add_1 10 rfl rfl)
theorem dX1_add_33 : decode cX1_add 33 = .ok (.iload_n 3, 1) := dk_29 (dk_at dksX1_add_1 11 rfl rfl)
theorem dX1_add_34 : decode cX1_add 34 = .ok (.invokestatic 123, 3) := dk_184 0 123 (dk_at dksX1_add_1 12 rfl rfl)
theorem dX1_add_37 : decode cX1_add 37 = .ok (.astore 6, 2) := dk_58 6 (dk_at dksX1_add_1 15 rfl rfl)
theorem dX1_add_39 : decode cX1_add 39 = .ok (.iconst 0, 1) := dk_3 (dk_at dksX1_add_1 17 rfl rfl)
theorem dX1_add_40 : decode cX1_add 40 = .ok (.istore 7, 2) := dk_54 7 (dk_at dksX1_add_1 18 rfl rfl)
theorem dX1_add_42 : decode cX1_add 42 = .ok (.iconst 0, 1) := dk_3 (dk_at dksX1_add_1 20 rfl rfl)
theorem dX1_add_43 : decode cX1_add 43 = .ok (.istore 8, 2) := dk_54 8 (dk_at dksX1_add_1 21 rfl rfl)
theorem dX1_add_45 : decode cX1_add 45 = .ok (.iload 8, 2) := dk_21 8 (dk_at dksX1_add_2 0 rfl rfl)
theorem dX1_add_47 : decode cX1_add 47 = .ok (.aload_n 0, 1) := dk_42 (dk_at dksX1_add_2 2 rfl rfl)
theorem dX1_add_48 : decode cX1_add 48 = .ok (.getfield 255, 3) := dk_180 0 255 (dk_at dksX1_add_2 3 rfl rfl)
theorem dX1_add_51 : decode cX1_add 51 = .ok (.if_icmp .ge 78, 3) := dk_162 0 78 (dk_at dksX1_add_2 6 rfl rfl)
theorem dX1_add_54 : decode cX1_add 54 = .ok (.iload 5, 2) := dk_21 5 (dk_at dksX1_add_2 9 rfl rfl)
theorem dX1_add_56 : decode cX1_add 56 = .ok (.ifCond .eq 73, 3) := dk_153 0 73 (dk_at dksX1_add_2 11 rfl rfl)
theorem dX1_add_59 : decode cX1_add 59 = .ok (.aload_n 0, 1) := dk_42 (dk_at dksX1_add_2 14 rfl rfl)
theorem dX1_add_60 : decode cX1_add 60 = .ok (.aload 6, 2) := dk_25 6 (dk_at dksX1_add_2 15 rfl rfl)
theorem dX1_add_62 : decode cX1_add 62 = .ok (.iload 8, 2) := dk_21 8 (dk_at dksX1_add_2 17 rfl rfl)
theorem dX1_add_64 : decode cX1_add 64 = .ok (.iaload, 1) := dk_46 (dk_at dksX1_add_2 19 rfl rfl)
theorem dX1_add_65 : decode cX1_add 65 = .ok (.invokevirtual 170, 3) := dk_182 0 170 (dk_at dksX1_add_2 20 rfl rfl)
theorem dX1_add_68 : decode cX1_add 68 = .ok (.aload_n 0, 1) := dk_42 (dk_at dksX1_add_2 23 rfl rfl)
theorem dX1_add_69 : decode cX1_add 69 = .ok (.getfield 41, 3) := dk_180 0 41 (dk_at dksX1_add_3 0 rfl rfl)
theorem dX1_add_72 : decode cX1_add 72 = .ok (.iload 8, 2) := dk_21 8 (dk_at dksX1_add_3 3 rfl rfl)
theorem dX1_add_74 : decode cX1_add 74 = .ok (.iaload, 1) := dk_46 (dk_at dksX1_add_3 5 rfl rfl)
theorem dX1_add_75 : decode cX1_add 75 = .ok (.invokevirtual 206, 3) := dk_182 0 206 (dk_at dksX1_add_3 6 rfl rfl)
theorem dX1_add_78 : decode cX1_add 78 = .ok (.ifCond .eq 25, 3) := dk_153 0 25 (dk_at dksX1_add_3 9 rfl rfl)
theorem dX1_add_81 : decode cX1_add 81 = .ok (.aload_n 0, 1) := dk_42 (dk_at dksX1_add_3 12 rfl rfl)
theorem dX1_add_82 : decode cX1_add 82 = .ok (.aload 6, 2) := dk_25 6 (dk_at dksX1_add_3 13 rfl rfl)
theorem dX1_add_84 : decode cX1_add 84 = .ok (.iload 8, 2) := dk_21 8 (dk_at dksX1_add_3 15 rfl rfl)
theorem dX1_add_86 : decode cX1_add 86 = .ok (.iaload, 1) := dk_46 (dk_at dksX1_add_3 17 rfl rfl)
theorem dX1_add_87 : decode cX1_add 87 = .ok (.invokevirtual 170, 3) := dk_182 0 170 (dk_at dksX1_add_3 18 rfl rfl)
theorem dX1_add_90 : decode cX1_add 90 = .ok (.invokevirtual 174, 3) := dk_182 0 174 (dk_at dksX1_add_3 21 rfl rfl)
theorem dX1_add_93 : decode cX1_add 93 = .ok (.iload 7, 2) := dk_21 7 (dk_at dksX1_add_4 0 rfl rfl)
theorem dX1_add_95 : decode cX1_add 95 = .ok (.iand, 1) := dk_126 (dk_at dksX1_add_4 2 rfl rfl)
theorem dX1_add_96 : decode cX1_add 96 = .ok (.ifCond .ne 7, 3) := dk_154 0 7 (dk_at dksX1_add_4 3 rfl rfl)
theorem dX1_add_99 : decode cX1_add 99 = .ok (.iconst 1, 1) := dk_4 (dk_at dksX1_add_4 6 rfl rfl)
theorem dX1_add_100 : decode cX1_add 100 = .ok (.goto 4, 3) := dk_167 0 4 (dk_at dksX1_add_4 7 rfl rfl)
theorem dX1_add_103 : decode cX1_add 103 = .ok (.iconst 0, 1) := dk_3 (dk_at dksX1_add_4 10 rfl rfl)
theorem dX1_add_104 : decode cX1_add 104 = .ok (.istore 5, 2) := dk_54 5 (dk_at dksX1_add_4 11 rfl rfl)
theorem dX1_add_106 : decode cX1_add 106 = .ok (.iload 7, 2) := dk_21 7 (dk_at dksX1_add_4 13 rfl rfl)
theorem dX1_add_108 : decode cX1_add 108 = .ok (.aload_n 0, 1) := dk_42 (dk_at dksX1_add_4 15 rfl rfl)
theorem dX1_add_109 : decode cX1_add 109 = .ok (.aload 6, 2) := dk_25 6 (dk_at dksX1_add_4 16 rfl rfl)
theorem dX1_add_111 : decode cX1_add 111 = .ok (.iload 8, 2) := dk_21 8 (dk_at dksX1_add_4 18 rfl rfl)
theorem dX1_add_113 : decode cX1_add 113 = .ok (.iaload, 1) := dk_46 (dk_at dksX1_add_4 20 rfl rfl)
theorem dX1_add_114 : decode cX1_add 114 = .ok (.invokevirtual 170, 3) := dk_182 0 170 (dk_at dksX1_add_4 21 rfl rfl)
theorem dX1_add_117 : decode cX1_add 117 = .ok (.invokevirtual 174, 3) := dk_182 0 174 (dk_at dksX1_add_5 0 rfl rfl)
theorem dX1_add_120 : decode cX1_add 120 = .ok (.ior, 1) := dk_128 (dk_at dksX1_add_5 3 rfl rfl)
theorem dX1_add_121 : decode cX1_add 121 = .ok (.istore 7, 2) := dk_54 7 (dk_at dksX1_add_5 4 rfl rfl)
theorem dX1_add_123 : decode cX1_add 123 = .ok (.iinc 8 1, 3) := dk_132 8 1 (dk_at dksX1_add_5 6 rfl rfl)
theorem dX1_add_126 : decode cX1_add 126 = .ok (.goto (-81), 3) := dk_167 255 175 (dk_at dksX1_add_5 9 rfl rfl)
theorem dX1_add_129 : decode cX1_add 129 = .ok (.iload 5, 2) := dk_21 5 (dk_at dksX1_add_5 12 rfl rfl)
theorem dX1_add_131 : decode cX1_add 131 = .ok (.invokestatic 117, 3) := dk_184 0 117 (dk_at dksX1_add_5 14 rfl rfl)
theorem dX1_add_134 : decode cX1_add 134 = .ok (.aload_n 0, 1) := dk_42 (dk_at dksX1_add_5 17 rfl rfl)
theorem dX1_add_135 : decode cX1_add 135 = .ok (.getfield 255, 3) := dk_180 0 255 (dk_at dksX1_add_5 18 rfl rfl)
theorem dX1_add_138 : decode cX1_add 138 = .ok (.ifCond .le 19, 3) := dk_158 0 19 (dk_at dksX1_add_5 21 rfl rfl)
theorem dX1_add_141 : decode cX1_add 141 = .ok (.aload_n 0, 1) := dk_42 (dk_at dksX1_add_6 0 rfl rfl)
theorem dX1_add_142 : decode cX1_add 142 = .ok (.getfield 44, 3) := dk_180 0 44 (dk_at dksX1_add_6 1 rfl rfl)
theorem dX1_add_145 : decode cX1_add 145 = .ok (.invokevirtual 101, 3) := dk_182 0 101 (dk_at dksX1_add_6 4 rfl rfl)
theorem dX1_add_148 : decode cX1_add 148 = .ok (.bipush 8, 2) := dk_16 8 (dk_at dksX1_add_6 7 rfl rfl)
theorem dX1_add_150 : decode cX1_add 150 = .ok (.if_icmp .ge 7, 3) := dk_162 0 7 (dk_at dksX1_add_6 9 rfl rfl)
theorem dX1_add_153 : decode cX1_add 153 = .ok (.iconst 1, 1) := dk_4 (dk_at dksX1_add_6 12 rfl rfl)
theorem dX1_add_154 : decode cX1_add 154 = .ok (.goto 4, 3) := dk_167 0 4 (dk_at dksX1_add_6 13 rfl rfl)
theorem dX1_add_157 : decode cX1_add 157 = .ok (.iconst 0, 1) := dk_3 (dk_at dksX1_add_6 16 rfl rfl)
theorem dX1_add_158 : decode cX1_add 158 = .ok (.invokestatic 120, 3) := dk_184 0 120 (dk_at dksX1_add_6 17 rfl rfl)
theorem dX1_add_161 : decode cX1_add 161 = .ok (.aload_n 0, 1) := dk_42 (dk_at dksX1_add_6 20 rfl rfl)
theorem dX1_add_162 : decode cX1_add 162 = .ok (.getfield 44, 3) := dk_180 0 44 (dk_at dksX1_add_6 21 rfl rfl)
theorem dX1_add_165 : decode cX1_add 165 = .ok (.new 261, 3) := dk_187 1 5 (dk_at dksX1_add_7 0 rfl rfl)
theorem dX1_add_168 : decode cX1_add 168 = .ok (.dup, 1) := dk_89 (dk_at dksX1_add_7 3 rfl rfl)
theorem dX1_add_169 : decode cX1_add 169 = .ok (.aload 6, 2) := dk_25 6 (dk_at dksX1_add_7 4 rfl rfl)
theorem dX1_add_171 : decode cX1_add 171 = .ok (.iload 4, 2) := dk_21 4 (dk_at dksX1_add_7 6 rfl rfl)
theorem dX1_add_173 : decode cX1_add 173 = .ok (.invokespecial 263, 3) := dk_183 1 7 (dk_at dksX1_add_7 8 rfl rfl)
theorem dX1_add_176 : decode cX1_add 176 = .ok (.invokevirtual 79, 3) := dk_182 0 79 (dk_at dksX1_add_7 11 rfl rfl)
theorem dX1_add_179 : decode cX1_add 179 = .ok (.pop, 1) := dk_87 (dk_at dksX1_add_7 14 rfl rfl)
theorem dX1_add_180 : decode cX1_add 180 = .ok (.aload_n 0, 1) := dk_42 (dk_at dksX1_add_7 15 rfl rfl)
theorem dX1_add_181 : decode cX1_add 181 = .ok (.invokevirtual 127, 3) := dk_182 0 127 (dk_at dksX1_add_7 16 rfl rfl)
theorem dX1_add_184 : decode cX1_add 184 = .ok (.aload_n 0, 1) := dk_42 (dk_at dksX1_add_7 19 rfl rfl)
theorem dX1_add_185 : decode cX1_add 185 = .ok (.getfield 44, 3) := dk_180 0 44 (dk_at dksX1_add_7 20 rfl rfl)
theorem dX1_add_188 : decode cX1_add 188 = .ok (.invokevirtual 101, 3) := dk_182 0 101 (dk_at dksX1_add_8 0 rfl rfl)
theorem dX1_add_191 : decode cX1_add 191 = .ok (.iconst 1, 1) := dk_4 (dk_at dksX1_add_8 3 rfl rfl)
theorem dX1_add_192 : decode cX1_add 192 = .ok (.isub, 1) := dk_100 (dk_at dksX1_add_8 4 rfl rfl)
theorem dX1_add_193 : decode cX1_add 193 = .ok (.ireturn, 1) := dk_172 (dk_at dksX1_add_8 5 rfl rfl)
abbrev cX1_guard : ByteArray := prog_1_method_41_code
def yX1_guard : MethodName := ⟨RX1, "guard", "(IIII)I"⟩
def dkwX1_guard_5 : List UInt8 := [181, 1, 58, 25, 5, 21, 4, 181, 1, 60, 42, 182, 0, 127, 21, 6, 172]
abbrev dktX1_guard_5 : List UInt8 := dkwX1_guard_5 ++ []
def dkwX1_guard_4 : List UInt8 := [54, 6, 25, 5, 28, 2, 160, 0, 7, 1, 167, 0, 8, 184, 1, 54, 28, 50, 181, 1, 45, 25, 5, 29]
abbrev dktX1_guard_4 : List UInt8 := dkwX1_guard_4 ++ dktX1_guard_5
def dkwX1_guard_3 : List UInt8 := [3, 184, 0, 117, 25, 5, 180, 1, 45, 199, 0, 7, 2, 167, 0, 11, 25, 5, 180, 1, 45, 182, 1, 49]
abbrev dktX1_guard_3 : List UInt8 := dkwX1_guard_3 ++ dktX1_guard_4
def dkwX1_guard_2 : List UInt8 := [160, 0, 10, 29, 154, 0, 20, 167, 0, 13, 42, 25, 5, 29, 182, 1, 42, 153, 0, 7, 4, 167, 0, 4]
abbrev dktX1_guard_2 : List UInt8 := dkwX1_guard_2 ++ dktX1_guard_3
def dkwX1_guard_1 : List UInt8 := [153, 0, 7, 4, 167, 0, 4, 3, 184, 0, 105, 21, 4, 3, 16, 9, 184, 0, 91, 153, 0, 29, 28, 2]
abbrev dktX1_guard_1 : List UInt8 := dkwX1_guard_1 ++ dktX1_guard_2
def dkwX1_guard_0 : List UInt8 := [42, 27, 182, 1, 38, 58, 5, 28, 2, 6, 184, 0, 91, 153, 0, 16, 29, 3, 8, 184, 0, 91]
abbrev dktX1_guard_0 : List UInt8 := dkwX1_guard_0 ++ dktX1_guard_1
theorem dksX1_guard_0 : cX1_guard.data.toList.drop 0 = dktX1_guard_0 := by decide +kernel
theorem dksX1_guard_1 : cX1_guard.data.toList.drop 22 = dktX1_guard_1 := dk_seg dksX1_guard_0 22 rfl rfl
theorem dksX1_guard_2 : cX1_guard.data.toList.drop 46 = dktX1_guard_2 := dk_seg dksX1_guard_1 24 rfl rfl
theorem dksX1_guard_3 : cX1_guard.data.toList.drop 70 = dktX1_guard_3 := dk_seg dksX1_guard_2 24 rfl rfl
theorem dksX1_guard_4 : cX1_guard.data.toList.drop 94 = dktX1_guard_4 := dk_seg dksX1_guard_3 24 rfl rfl
theorem dksX1_guard_5 : cX1_guard.data.toList.drop 118 = dktX1_guard_5 := dk_seg dksX1_guard_4 24 rfl rfl
theorem dX1_guard_0 : decode cX1_guard 0 = .ok (.aload_n 0, 1) := dk_42 (dk_at dksX1_guard_0 0 rfl rfl)
theorem dX1_guard_1 : decode cX1_guard 1 = .ok (.iload_n 1, 1) := dk_27 (dk_at dksX1_guard_0 1 rfl rfl)
theorem dX1_guard_2 : decode cX1_guard 2 = .ok (.invokevirtual 294, 3) := dk_182 1 38 (dk_at dksX1_guard_0 2 rfl rfl)
theorem dX1_guard_5 : decode cX1_guard 5 = .ok (.astore 5, 2) := dk_58 5 (dk_at dksX1_guard_0 5 rfl rfl)
theorem dX1_guard_7 : decode cX1_guard 7 = .ok (.iload_n 2, 1) := dk_28 (dk_at dksX1_guard_0 7 rfl rfl)
theorem dX1_guard_8 : decode cX1_guard 8 = .ok (.iconst (-1), 1) := dk_2 (dk_at dksX1_guard_0 8 rfl rfl)
theorem dX1_guard_9 : decode cX1_guard 9 = .ok (.iconst 3, 1) := dk_6 (dk_at dksX1_guard_0 9 rfl rfl)
theorem dX1_guard_10 : decode cX1_guard 10 = .ok (.invokestatic 91, 3) := dk_184 0 91 (dk_at dksX1_guard_0 10 rfl rfl)
theorem dX1_guard_13 : decode cX1_guard 13 = .ok (.ifCond .eq 16, 3) := dk_153 0 16 (dk_at dksX1_guard_0 13 rfl rfl)
theorem dX1_guard_16 : decode cX1_guard 16 = .ok (.iload_n 3, 1) := dk_29 (dk_at dksX1_guard_0 16 rfl rfl)
theorem dX1_guard_17 : decode cX1_guard 17 = .ok (.iconst 0, 1) := dk_3 (dk_at dksX1_guard_0 17 rfl rfl)
theorem dX1_guard_18 : decode cX1_guard 18 = .ok (.iconst 5, 1) := dk_8 (dk_at dksX1_guard_0 18 rfl rfl)
theorem dX1_guard_19 : decode cX1_guard 19 = .ok (.invokestatic 91, 3) := dk_184 0 91 (dk_at dksX1_guard_0 19 rfl rfl)
theorem dX1_guard_22 : decode cX1_guard 22 = .ok (.ifCond .eq 7, 3) := dk_153 0 7 (dk_at dksX1_guard_1 0 rfl rfl)
theorem dX1_guard_25 : decode cX1_guard 25 = .ok (.iconst 1, 1) := dk_4 (dk_at dksX1_guard_1 3 rfl rfl)
theorem dX1_guard_26 : decode cX1_guard 26 = .ok (.goto 4, 3) := dk_167 0 4 (dk_at dksX1_guard_1 4 rfl rfl)
theorem dX1_guard_29 : decode cX1_guard 29 = .ok (.iconst 0, 1) := dk_3 (dk_at dksX1_guard_1 7 rfl rfl)
theorem dX1_guard_30 : decode cX1_guard 30 = .ok (.invokestatic 105, 3) := dk_184 0 105 (dk_at dksX1_guard_1 8 rfl rfl)
theorem dX1_guard_33 : decode cX1_guard 33 = .ok (.iload 4, 2) := dk_21 4 (dk_at dksX1_guard_1 11 rfl rfl)
theorem dX1_guard_35 : decode cX1_guard 35 = .ok (.iconst 0, 1) := dk_3 (dk_at dksX1_guard_1 13 rfl rfl)
theorem dX1_guard_36 : decode cX1_guard 36 = .ok (.bipush 9, 2) := dk_16 9 (dk_at dksX1_guard_1 14 rfl rfl)
theorem dX1_guard_38 : decode cX1_guard 38 = .ok (.invokestatic 91, 3) := dk_184 0 91 (dk_at dksX1_guard_1 16 rfl rfl)
theorem dX1_guard_41 : decode cX1_guard 41 = .ok (.ifCond .eq 29, 3) := dk_153 0 29 (dk_at dksX1_guard_1 19 rfl rfl)
theorem dX1_guard_44 : decode cX1_guard 44 = .ok (.iload_n 2, 1) := dk_28 (dk_at dksX1_guard_1 22 rfl rfl)
theorem dX1_guard_45 : decode cX1_guard 45 = .ok (.iconst (-1), 1) := dk_2 (dk_at dksX1_guard_1 23 rfl rfl)
theorem dX1_guard_46 : decode cX1_guard 46 = .ok (.if_icmp .ne 10, 3) := dk_160 0 10 (dk_at dksX1_guard_2 0 rfl rfl)
theorem dX1_guard_49 : decode cX1_guard 49 = .ok (.iload_n 3, 1) := dk_29 (dk_at dksX1_guard_2 3 rfl rfl)
theorem dX1_guard_50 : decode cX1_guard 50 = .ok (.ifCond .ne 20, 3) := dk_154 0 20 (dk_at dksX1_guard_2 4 rfl rfl)
theorem dX1_guard_53 : decode cX1_guard 53 = .ok (.goto 13, 3) := dk_167 0 13 (dk_at dksX1_guard_2 7 rfl rfl)
theorem dX1_guard_56 : decode cX1_guard 56 = .ok (.aload_n 0, 1) := dk_42 (dk_at dksX1_guard_2 10 rfl rfl)
theorem dX1_guard_57 : decode cX1_guard 57 = .ok (.aload 5, 2) := dk_25 5 (dk_at dksX1_guard_2 11 rfl rfl)
theorem dX1_guard_59 : decode cX1_guard 59 = .ok (.iload_n 3, 1) := dk_29 (dk_at dksX1_guard_2 13 rfl rfl)
theorem dX1_guard_60 : decode cX1_guard 60 = .ok (.invokevirtual 298, 3) := dk_182 1 42 (dk_at dksX1_guard_2 14 rfl rfl)
theorem dX1_guard_63 : decode cX1_guard 63 = .ok (.ifCond .eq 7, 3) := dk_153 0 7 (dk_at dksX1_guard_2 17 rfl rfl)
theorem dX1_guard_66 : decode cX1_guard 66 = .ok (.iconst 1, 1) := dk_4 (dk_at dksX1_guard_2 20 rfl rfl)
theorem dX1_guard_67 : decode cX1_guard 67 = .ok (.goto 4, 3) := dk_167 0 4 (dk_at dksX1_guard_2 21 rfl rfl)
theorem dX1_guard_70 : decode cX1_guard 70 = .ok (.iconst 0, 1) := dk_3 (dk_at dksX1_guard_3 0 rfl rfl)
theorem dX1_guard_71 : decode cX1_guard 71 = .ok (.invokestatic 117, 3) := dk_184 0 117 (dk_at dksX1_guard_3 1 rfl rfl)
theorem dX1_guard_74 : decode cX1_guard 74 = .ok (.aload 5, 2) := dk_25 5 (dk_at dksX1_guard_3 4 rfl rfl)
theorem dX1_guard_76 : decode cX1_guard 76 = .ok (.getfield 301, 3) := dk_180 1 45 (dk_at dksX1_guard_3 6 rfl rfl)
theorem dX1_guard_79 : decode cX1_guard 79 = .ok (.ifnonnull 7, 3) := dk_199 0 7 (dk_at dksX1_guard_3 9 rfl rfl)
theorem dX1_guard_82 : decode cX1_guard 82 = .ok (.iconst (-1), 1) := dk_2 (dk_at dksX1_guard_3 12 rfl rfl)
theorem dX1_guard_83 : decode cX1_guard 83 = .ok (.goto 11, 3) := dk_167 0 11 (dk_at dksX1_guard_3 13 rfl rfl)
theorem dX1_guard_86 : decode cX1_guard 86 = .ok (.aload 5, 2) := dk_25 5 (dk_at dksX1_guard_3 16 rfl rfl)
theorem dX1_guard_88 : decode cX1_guard 88 = .ok (.getfield 301, 3) := dk_180 1 45 (dk_at dksX1_guard_3 18 rfl rfl)
theorem dX1_guard_91 : decode cX1_guard 91 = .ok (.invokevirtual 305, 3) := dk_182 1 49 (dk_at dksX1_guard_3 21 rfl rfl)
theorem dX1_guard_94 : decode cX1_guard 94 = .ok (.istore 6, 2) := dk_54 6 (dk_at dksX1_guard_4 0 rfl rfl)
theorem dX1_guard_96 : decode cX1_guard 96 = .ok (.aload 5, 2) := dk_25 5 (dk_at dksX1_guard_4 2 rfl rfl)
theorem dX1_guard_98 : decode cX1_guard 98 = .ok (.iload_n 2, 1) := dk_28 (dk_at dksX1_guard_4 4 rfl rfl)
theorem dX1_guard_99 : decode cX1_guard 99 = .ok (.iconst (-1), 1) := dk_2 (dk_at dksX1_guard_4 5 rfl rfl)
theorem dX1_guard_100 : decode cX1_guard 100 = .ok (.if_icmp .ne 7, 3) := dk_160 0 7 (dk_at dksX1_guard_4 6 rfl rfl)
theorem dX1_guard_103 : decode cX1_guard 103 = .ok (.aconst_null, 1) := dk_1 (dk_at dksX1_guard_4 9 rfl rfl)
theorem dX1_guard_104 : decode cX1_guard 104 = .ok (.goto 8, 3) := dk_167 0 8 (dk_at dksX1_guard_4 10 rfl rfl)
theorem dX1_guard_107 : decode cX1_guard 107 = .ok (.invokestatic 310, 3) := dk_184 1 54 (dk_at dksX1_guard_4 13 rfl rfl)
theorem dX1_guard_110 : decode cX1_guard 110 = .ok (.iload_n 2, 1) := dk_28 (dk_at dksX1_guard_4 16 rfl rfl)
theorem dX1_guard_111 : decode cX1_guard 111 = .ok (.aaload, 1) := dk_50 (dk_at dksX1_guard_4 17 rfl rfl)
theorem dX1_guard_112 : decode cX1_guard 112 = .ok (.putfield 301, 3) := dk_181 1 45 (dk_at dksX1_guard_4 18 rfl rfl)
theorem dX1_guard_115 : decode cX1_guard 115 = .ok (.aload 5, 2) := dk_25 5 (dk_at dksX1_guard_4 21 rfl rfl)
theorem dX1_guard_117 : decode cX1_guard 117 = .ok (.iload_n 3, 1) := dk_29 (dk_at dksX1_guard_4 23 rfl rfl)
theorem dX1_guard_118 : decode cX1_guard 118 = .ok (.putfield 314, 3) := dk_181 1 58 (dk_at dksX1_guard_5 0 rfl rfl)
theorem dX1_guard_121 : decode cX1_guard 121 = .ok (.aload 5, 2) := dk_25 5 (dk_at dksX1_guard_5 3 rfl rfl)
theorem dX1_guard_123 : decode cX1_guard 123 = .ok (.iload 4, 2) := dk_21 4 (dk_at dksX1_guard_5 5 rfl rfl)
theorem dX1_guard_125 : decode cX1_guard 125 = .ok (.putfield 316, 3) := dk_181 1 60 (dk_at dksX1_guard_5 7 rfl rfl)
theorem dX1_guard_128 : decode cX1_guard 128 = .ok (.aload_n 0, 1) := dk_42 (dk_at dksX1_guard_5 10 rfl rfl)
theorem dX1_guard_129 : decode cX1_guard 129 = .ok (.invokevirtual 127, 3) := dk_182 0 127 (dk_at dksX1_guard_5 11 rfl rfl)
theorem dX1_guard_132 : decode cX1_guard 132 = .ok (.iload 6, 2) := dk_21 6 (dk_at dksX1_guard_5 14 rfl rfl)
theorem dX1_guard_134 : decode cX1_guard 134 = .ok (.ireturn, 1) := dk_172 (dk_at dksX1_guard_5 16 rfl rfl)
abbrev cX1_caseAt : ByteArray := prog_1_method_38_code
def yX1_caseAt : MethodName := ⟨RX1, "caseAt", "(I)LPatternforge$Case;"⟩
def dkwX1_caseAt_1 : List UInt8 := [182, 0, 95, 192, 1, 5, 176]
abbrev dktX1_caseAt_1 : List UInt8 := dkwX1_caseAt_1 ++ []
def dkwX1_caseAt_0 : List UInt8 := [27, 3, 42, 180, 0, 44, 182, 0, 101, 4, 100, 184, 0, 91, 184, 0, 105, 42, 180, 0, 44, 27]
abbrev dktX1_caseAt_0 : List UInt8 := dkwX1_caseAt_0 ++ dktX1_caseAt_1
theorem dksX1_caseAt_0 : cX1_caseAt.data.toList.drop 0 = dktX1_caseAt_0 := by decide +kernel
theorem dksX1_caseAt_1 : cX1_caseAt.data.toList.drop 22 = dktX1_caseAt_1 := dk_seg dksX1_caseAt_0 22 rfl rfl
theorem dX1_caseAt_0 : decode cX1_caseAt 0 = .ok (.iload_n 1, 1) := dk_27 (dk_at dksX1_caseAt_0 0 rfl rfl)
theorem dX1_caseAt_1 : decode cX1_caseAt 1 = .ok (.iconst 0, 1) := dk_3 (dk_at dksX1_caseAt_0 1 rfl rfl)
theorem dX1_caseAt_2 : decode cX1_caseAt 2 = .ok (.aload_n 0, 1) := dk_42 (dk_at dksX1_caseAt_0 2 rfl rfl)
theorem dX1_caseAt_3 : decode cX1_caseAt 3 = .ok (.getfield 44, 3) := dk_180 0 44 (dk_at dksX1_caseAt_0 3 rfl rfl)
theorem dX1_caseAt_6 : decode cX1_caseAt 6 = .ok (.invokevirtual 101, 3) := dk_182 0 101 (dk_at dksX1_caseAt_0 6 rfl rfl)
theorem dX1_caseAt_9 : decode cX1_caseAt 9 = .ok (.iconst 1, 1) := dk_4 (dk_at dksX1_caseAt_0 9 rfl rfl)
theorem dX1_caseAt_10 : decode cX1_caseAt 10 = .ok (.isub, 1) := dk_100 (dk_at dksX1_caseAt_0 10 rfl rfl)
theorem dX1_caseAt_11 : decode cX1_caseAt 11 = .ok (.invokestatic 91, 3) := dk_184 0 91 (dk_at dksX1_caseAt_0 11 rfl rfl)
theorem dX1_caseAt_14 : decode cX1_caseAt 14 = .ok (.invokestatic 105, 3) := dk_184 0 105 (dk_at dksX1_caseAt_0 14 rfl rfl)
theorem dX1_caseAt_17 : decode cX1_caseAt 17 = .ok (.aload_n 0, 1) := dk_42 (dk_at dksX1_caseAt_0 17 rfl rfl)
theorem dX1_caseAt_18 : decode cX1_caseAt 18 = .ok (.getfield 44, 3) := dk_180 0 44 (dk_at dksX1_caseAt_0 18 rfl rfl)
theorem dX1_caseAt_21 : decode cX1_caseAt 21 = .ok (.iload_n 1, 1) := dk_27 (dk_at dksX1_caseAt_0 21 rfl rfl)
theorem dX1_caseAt_22 : decode cX1_caseAt 22 = .ok (.invokevirtual 95, 3) := dk_182 0 95 (dk_at dksX1_caseAt_1 0 rfl rfl)
theorem dX1_caseAt_25 : decode cX1_caseAt 25 = .ok (.checkcast 261, 3) := dk_192 1 5 (dk_at dksX1_caseAt_1 3 rfl rfl)
theorem dX1_caseAt_28 : decode cX1_caseAt 28 = .ok (.areturn, 1) := dk_176 (dk_at dksX1_caseAt_1 6 rfl rfl)
abbrev cX1_isNumberIn : ByteArray := prog_1_method_40_code
def yX1_isNumberIn : MethodName := ⟨RX1, "isNumberIn", "(LPatternforge$Case;I)Z"⟩
def dkwX1_isNumberIn_4 : List UInt8 := [153, 0, 7, 4, 167, 0, 4, 3, 172]
abbrev dktX1_isNumberIn_4 : List UInt8 := dkwX1_isNumberIn_4 ++ []
def dkwX1_isNumberIn_3 : List UInt8 := [167, 0, 4, 3, 54, 4, 132, 5, 1, 167, 255, 186, 21, 4, 153, 0, 15, 29, 28, 184, 0, 177]
abbrev dktX1_isNumberIn_3 : List UInt8 := dkwX1_isNumberIn_3 ++ dktX1_isNumberIn_4
def dkwX1_isNumberIn_2 : List UInt8 := [46, 182, 0, 170, 182, 0, 183, 28, 42, 180, 0, 41, 21, 5, 46, 182, 1, 16, 153, 0, 7, 4]
abbrev dktX1_isNumberIn_2 : List UInt8 := dkwX1_isNumberIn_2 ++ dktX1_isNumberIn_3
def dkwX1_isNumberIn_1 : List UInt8 := [21, 5, 46, 182, 0, 170, 182, 0, 174, 128, 62, 21, 4, 153, 0, 36, 42, 42, 43, 180, 1, 36, 21, 5]
abbrev dktX1_isNumberIn_1 : List UInt8 := dkwX1_isNumberIn_1 ++ dktX1_isNumberIn_2
def dkwX1_isNumberIn_0 : List UInt8 := [3, 62, 4, 54, 4, 3, 54, 5, 21, 5, 42, 180, 0, 255, 162, 0, 67, 29, 42, 43, 180, 1, 36]
abbrev dktX1_isNumberIn_0 : List UInt8 := dkwX1_isNumberIn_0 ++ dktX1_isNumberIn_1
theorem dksX1_isNumberIn_0 : cX1_isNumberIn.data.toList.drop 0 = dktX1_isNumberIn_0 := by decide +kernel
theorem dksX1_isNumberIn_1 : cX1_isNumberIn.data.toList.drop 23 = dktX1_isNumberIn_1 := dk_seg dksX1_isNumberIn_0 23 rfl rfl
theorem dksX1_isNumberIn_2 : cX1_isNumberIn.data.toList.drop 47 = dktX1_isNumberIn_2 := dk_seg dksX1_isNumberIn_1 24 rfl rfl
theorem dksX1_isNumberIn_3 : cX1_isNumberIn.data.toList.drop 69 = dktX1_isNumberIn_3 := dk_seg dksX1_isNumberIn_2 22 rfl rfl
theorem dksX1_isNumberIn_4 : cX1_isNumberIn.data.toList.drop 91 = dktX1_isNumberIn_4 := dk_seg dksX1_isNumberIn_3 22 rfl rfl
theorem dX1_isNumberIn_0 : decode cX1_isNumberIn 0 = .ok (.iconst 0, 1) := dk_3 (dk_at dksX1_isNumberIn_0 0 rfl rfl)
theorem dX1_isNumberIn_1 : decode cX1_isNumberIn 1 = .ok (.istore_n 3, 1) := dk_62 (dk_at dksX1_isNumberIn_0 1 rfl rfl)
theorem dX1_isNumberIn_2 : decode cX1_isNumberIn 2 = .ok (.iconst 1, 1) := dk_4 (dk_at dksX1_isNumberIn_0 2 rfl rfl)
theorem dX1_isNumberIn_3 : decode cX1_isNumberIn 3 = .ok (.istore 4, 2) := dk_54 4 (dk_at dksX1_isNumberIn_0 3 rfl rfl)
theorem dX1_isNumberIn_5 : decode cX1_isNumberIn 5 = .ok (.iconst 0, 1) := dk_3 (dk_at dksX1_isNumberIn_0 5 rfl rfl)
theorem dX1_isNumberIn_6 : decode cX1_isNumberIn 6 = .ok (.istore 5, 2) := dk_54 5 (dk_at dksX1_isNumberIn_0 6 rfl rfl)
theorem dX1_isNumberIn_8 : decode cX1_isNumberIn 8 = .ok (.iload 5, 2) := dk_21 5 (dk_at dksX1_isNumberIn_0 8 rfl rfl)
theorem dX1_isNumberIn_10 : decode cX1_isNumberIn 10 = .ok (.aload_n 0, 1) := dk_42 (dk_at dksX1_isNumberIn_0 10 rfl rfl)
theorem dX1_isNumberIn_11 : decode cX1_isNumberIn 11 = .ok (.getfield 255, 3) := dk_180 0 255 (dk_at dksX1_isNumberIn_0 11 rfl rfl)
theorem dX1_isNumberIn_14 : decode cX1_isNumberIn 14 = .ok (.if_icmp .ge 67, 3) := dk_162 0 67 (dk_at dksX1_isNumberIn_0 14 rfl rfl)
theorem dX1_isNumberIn_17 : decode cX1_isNumberIn 17 = .ok (.iload_n 3, 1) := dk_29 (dk_at dksX1_isNumberIn_0 17 rfl rfl)
theorem dX1_isNumberIn_18 : decode cX1_isNumberIn 18 = .ok (.aload_n 0, 1) := dk_42 (dk_at dksX1_isNumberIn_0 18 rfl rfl)
theorem dX1_isNumberIn_19 : decode cX1_isNumberIn 19 = .ok (.aload_n 1, 1) := dk_43 (dk_at dksX1_isNumberIn_0 19 rfl rfl)
theorem dX1_isNumberIn_20 : decode cX1_isNumberIn 20 = .ok (.getfield 292, 3) := dk_180 1 36 (dk_at dksX1_isNumberIn_0 20 rfl rfl)
theorem dX1_isNumberIn_23 : decode cX1_isNumberIn 23 = .ok (.iload 5, 2) := dk_21 5 (dk_at dksX1_isNumberIn_1 0 rfl rfl)
theorem dX1_isNumberIn_25 : decode cX1_isNumberIn 25 = .ok (.iaload, 1) := dk_46 (dk_at dksX1_isNumberIn_1 2 rfl rfl)
theorem dX1_isNumberIn_26 : decode cX1_isNumberIn 26 = .ok (.invokevirtual 170, 3) := dk_182 0 170 (dk_at dksX1_isNumberIn_1 3 rfl rfl)
theorem dX1_isNumberIn_29 : decode cX1_isNumberIn 29 = .ok (.invokevirtual 174, 3) := dk_182 0 174 (dk_at dksX1_isNumberIn_1 6 rfl rfl)
theorem dX1_isNumberIn_32 : decode cX1_isNumberIn 32 = .ok (.ior, 1) := dk_128 (dk_at dksX1_isNumberIn_1 9 rfl rfl)
theorem dX1_isNumberIn_33 : decode cX1_isNumberIn 33 = .ok (.istore_n 3, 1) := dk_62 (dk_at dksX1_isNumberIn_1 10 rfl rfl)
theorem dX1_isNumberIn_34 : decode cX1_isNumberIn 34 = .ok (.iload 4, 2) := dk_21 4 (dk_at dksX1_isNumberIn_1 11 rfl rfl)
theorem dX1_isNumberIn_36 : decode cX1_isNumberIn 36 = .ok (.ifCond .eq 36, 3) := dk_153 0 36 (dk_at dksX1_isNumberIn_1 13 rfl rfl)
theorem dX1_isNumberIn_39 : decode cX1_isNumberIn 39 = .ok (.aload_n 0, 1) := dk_42 (dk_at dksX1_isNumberIn_1 16 rfl rfl)
theorem dX1_isNumberIn_40 : decode cX1_isNumberIn 40 = .ok (.aload_n 0, 1) := dk_42 (dk_at dksX1_isNumberIn_1 17 rfl rfl)
theorem dX1_isNumberIn_41 : decode cX1_isNumberIn 41 = .ok (.aload_n 1, 1) := dk_43 (dk_at dksX1_isNumberIn_1 18 rfl rfl)
theorem dX1_isNumberIn_42 : decode cX1_isNumberIn 42 = .ok (.getfield 292, 3) := dk_180 1 36 (dk_at dksX1_isNumberIn_1 19 rfl rfl)
theorem dX1_isNumberIn_45 : decode cX1_isNumberIn 45 = .ok (.iload 5, 2) := dk_21 5 (dk_at dksX1_isNumberIn_1 22 rfl rfl)
theorem dX1_isNumberIn_47 : decode cX1_isNumberIn 47 = .ok (.iaload, 1) := dk_46 (dk_at dksX1_isNumberIn_2 0 rfl rfl)
theorem dX1_isNumberIn_48 : decode cX1_isNumberIn 48 = .ok (.invokevirtual 170, 3) := dk_182 0 170 (dk_at dksX1_isNumberIn_2 1 rfl rfl)
theorem dX1_isNumberIn_51 : decode cX1_isNumberIn 51 = .ok (.invokevirtual 183, 3) := dk_182 0 183 (dk_at dksX1_isNumberIn_2 4 rfl rfl)
theorem dX1_isNumberIn_54 : decode cX1_isNumberIn 54 = .ok (.iload_n 2, 1) := dk_28 (dk_at dksX1_isNumberIn_2 7 rfl rfl)
theorem dX1_isNumberIn_55 : decode cX1_isNumberIn 55 = .ok (.aload_n 0, 1) := dk_42 (dk_at dksX1_isNumberIn_2 8 rfl rfl)
theorem dX1_isNumberIn_56 : decode cX1_isNumberIn 56 = .ok (.getfield 41, 3) := dk_180 0 41 (dk_at dksX1_isNumberIn_2 9 rfl rfl)
theorem dX1_isNumberIn_59 : decode cX1_isNumberIn 59 = .ok (.iload 5, 2) := dk_21 5 (dk_at dksX1_isNumberIn_2 12 rfl rfl)
theorem dX1_isNumberIn_61 : decode cX1_isNumberIn 61 = .ok (.iaload, 1) := dk_46 (dk_at dksX1_isNumberIn_2 14 rfl rfl)
theorem dX1_isNumberIn_62 : decode cX1_isNumberIn 62 = .ok (.invokevirtual 272, 3) := dk_182 1 16 (dk_at dksX1_isNumberIn_2 15 rfl rfl)
theorem dX1_isNumberIn_65 : decode cX1_isNumberIn 65 = .ok (.ifCond .eq 7, 3) := dk_153 0 7 (dk_at dksX1_isNumberIn_2 18 rfl rfl)
theorem dX1_isNumberIn_68 : decode cX1_isNumberIn 68 = .ok (.iconst 1, 1) := dk_4 (dk_at dksX1_isNumberIn_2 21 rfl rfl)
theorem dX1_isNumberIn_69 : decode cX1_isNumberIn 69 = .ok (.goto 4, 3) := dk_167 0 4 (dk_at dksX1_isNumberIn_3 0 rfl rfl)
theorem dX1_isNumberIn_72 : decode cX1_isNumberIn 72 = .ok (.iconst 0, 1) := dk_3 (dk_at dksX1_isNumberIn_3 3 rfl rfl)
theorem dX1_isNumberIn_73 : decode cX1_isNumberIn 73 = .ok (.istore 4, 2) := dk_54 4 (dk_at dksX1_isNumberIn_3 4 rfl rfl)
theorem dX1_isNumberIn_75 : decode cX1_isNumberIn 75 = .ok (.iinc 5 1, 3) := dk_132 5 1 (dk_at dksX1_isNumberIn_3 6 rfl rfl)
theorem dX1_isNumberIn_78 : decode cX1_isNumberIn 78 = .ok (.goto (-70), 3) := dk_167 255 186 (dk_at dksX1_isNumberIn_3 9 rfl rfl)
theorem dX1_isNumberIn_81 : decode cX1_isNumberIn 81 = .ok (.iload 4, 2) := dk_21 4 (dk_at dksX1_isNumberIn_3 12 rfl rfl)
theorem dX1_isNumberIn_83 : decode cX1_isNumberIn 83 = .ok (.ifCond .eq 15, 3) := dk_153 0 15 (dk_at dksX1_isNumberIn_3 14 rfl rfl)
theorem dX1_isNumberIn_86 : decode cX1_isNumberIn 86 = .ok (.iload_n 3, 1) := dk_29 (dk_at dksX1_isNumberIn_3 17 rfl rfl)
theorem dX1_isNumberIn_87 : decode cX1_isNumberIn 87 = .ok (.iload_n 2, 1) := dk_28 (dk_at dksX1_isNumberIn_3 18 rfl rfl)
theorem dX1_isNumberIn_88 : decode cX1_isNumberIn 88 = .ok (.invokestatic 177, 3) := dk_184 0 177 (dk_at dksX1_isNumberIn_3 19 rfl rfl)
theorem dX1_isNumberIn_91 : decode cX1_isNumberIn 91 = .ok (.ifCond .eq 7, 3) := dk_153 0 7 (dk_at dksX1_isNumberIn_4 0 rfl rfl)
theorem dX1_isNumberIn_94 : decode cX1_isNumberIn 94 = .ok (.iconst 1, 1) := dk_4 (dk_at dksX1_isNumberIn_4 3 rfl rfl)
theorem dX1_isNumberIn_95 : decode cX1_isNumberIn 95 = .ok (.goto 4, 3) := dk_167 0 4 (dk_at dksX1_isNumberIn_4 4 rfl rfl)
theorem dX1_isNumberIn_98 : decode cX1_isNumberIn 98 = .ok (.iconst 0, 1) := dk_3 (dk_at dksX1_isNumberIn_4 7 rfl rfl)
theorem dX1_isNumberIn_99 : decode cX1_isNumberIn 99 = .ok (.ireturn, 1) := dk_172 (dk_at dksX1_isNumberIn_4 8 rfl rfl)
abbrev cX1_isNumberIn_2 : ByteArray := prog_1_method_39_code
def yX1_isNumberIn_2 : MethodName := ⟨RX1, "isNumberIn", "(LPatternforge$Pattern;II)Z"⟩
def dkwX1_isNumberIn_2_8 : List UInt8 := [172]
abbrev dktX1_isNumberIn_2_8 : List UInt8 := dkwX1_isNumberIn_2_8 ++ []
def dkwX1_isNumberIn_2_7 : List UInt8 := [21, 7, 46, 182, 1, 16, 153, 0, 7, 4, 167, 0, 4, 3, 54, 4, 132, 7, 1, 167, 255, 212, 21, 4]
abbrev dktX1_isNumberIn_2_7 : List UInt8 := dkwX1_isNumberIn_2_7 ++ dktX1_isNumberIn_2_8
def dkwX1_isNumberIn_2_6 : List UInt8 := [25, 6, 190, 162, 0, 42, 21, 4, 153, 0, 28, 42, 25, 5, 182, 1, 32, 21, 7, 50, 28, 25, 6]
abbrev dktX1_isNumberIn_2_6 : List UInt8 := dkwX1_isNumberIn_2_6 ++ dktX1_isNumberIn_2_7
def dkwX1_isNumberIn_2_5 : List UInt8 := [182, 0, 95, 192, 0, 22, 25, 5, 182, 1, 29, 182, 0, 95, 192, 0, 35, 58, 6, 3, 54, 7, 21, 7]
abbrev dktX1_isNumberIn_2_5 : List UInt8 := dkwX1_isNumberIn_2_5 ++ dktX1_isNumberIn_2_6
def dkwX1_isNumberIn_2_4 : List UInt8 := [54, 4, 43, 193, 0, 215, 153, 0, 87, 43, 192, 0, 215, 58, 5, 42, 180, 0, 25, 25, 5, 182, 1, 26]
abbrev dktX1_isNumberIn_2_4 : List UInt8 := dkwX1_isNumberIn_2_4 ++ dktX1_isNumberIn_2_5
def dkwX1_isNumberIn_2_3 : List UInt8 := [153, 0, 21, 42, 25, 4, 182, 1, 23, 28, 29, 182, 1, 16, 153, 0, 7, 4, 167, 0, 4, 3, 172, 4]
abbrev dktX1_isNumberIn_2_3 : List UInt8 := dkwX1_isNumberIn_2_3 ++ dktX1_isNumberIn_2_4
def dkwX1_isNumberIn_2_2 : List UInt8 := [193, 0, 228, 153, 0, 43, 43, 192, 0, 228, 58, 4, 42, 25, 4, 182, 1, 20, 28, 29, 182, 1, 16]
abbrev dktX1_isNumberIn_2_2 : List UInt8 := dkwX1_isNumberIn_2_2 ++ dktX1_isNumberIn_2_3
def dkwX1_isNumberIn_2_1 : List UInt8 := [160, 0, 21, 42, 25, 4, 182, 1, 13, 28, 29, 182, 1, 16, 153, 0, 7, 4, 167, 0, 4, 3, 172, 43]
abbrev dktX1_isNumberIn_2_1 : List UInt8 := dkwX1_isNumberIn_2_1 ++ dktX1_isNumberIn_2_2
def dkwX1_isNumberIn_2_0 : List UInt8 := [43, 193, 0, 181, 153, 0, 43, 43, 192, 0, 181, 58, 4, 25, 4, 182, 1, 10, 28, 160, 0, 8, 29, 7]
abbrev dktX1_isNumberIn_2_0 : List UInt8 := dkwX1_isNumberIn_2_0 ++ dktX1_isNumberIn_2_1
theorem dksX1_isNumberIn_2_0 : cX1_isNumberIn_2.data.toList.drop 0 = dktX1_isNumberIn_2_0 := by decide +kernel
theorem dksX1_isNumberIn_2_1 : cX1_isNumberIn_2.data.toList.drop 24 = dktX1_isNumberIn_2_1 := dk_seg dksX1_isNumberIn_2_0 24 rfl rfl
theorem dksX1_isNumberIn_2_2 : cX1_isNumberIn_2.data.toList.drop 48 = dktX1_isNumberIn_2_2 := dk_seg dksX1_isNumberIn_2_1 24 rfl rfl
theorem dksX1_isNumberIn_2_3 : cX1_isNumberIn_2.data.toList.drop 71 = dktX1_isNumberIn_2_3 := dk_seg dksX1_isNumberIn_2_2 23 rfl rfl
theorem dksX1_isNumberIn_2_4 : cX1_isNumberIn_2.data.toList.drop 95 = dktX1_isNumberIn_2_4 := dk_seg dksX1_isNumberIn_2_3 24 rfl rfl
theorem dksX1_isNumberIn_2_5 : cX1_isNumberIn_2.data.toList.drop 119 = dktX1_isNumberIn_2_5 := dk_seg dksX1_isNumberIn_2_4 24 rfl rfl
theorem dksX1_isNumberIn_2_6 : cX1_isNumberIn_2.data.toList.drop 143 = dktX1_isNumberIn_2_6 := dk_seg dksX1_isNumberIn_2_5 24 rfl rfl
theorem dksX1_isNumberIn_2_7 : cX1_isNumberIn_2.data.toList.drop 166 = dktX1_isNumberIn_2_7 := dk_seg dksX1_isNumberIn_2_6 23 rfl rfl
theorem dksX1_isNumberIn_2_8 : cX1_isNumberIn_2.data.toList.drop 190 = dktX1_isNumberIn_2_8 := dk_seg dksX1_isNumberIn_2_7 24 rfl rfl
theorem dX1_isNumberIn_2_0 : decode cX1_isNumberIn_2 0 = .ok (.aload_n 1, 1) := dk_43 (dk_at dksX1_isNumberIn_2_0 0 rfl rfl)
theorem dX1_isNumberIn_2_1 : decode cX1_isNumberIn_2 1 = .ok (.instanceof 181, 3) := dk_193 0 181 (dk_at dksX1_isNumberIn_2_0 1 rfl rfl)
theorem dX1_isNumberIn_2_4 : decode cX1_isNumberIn_2 4 = .ok (.ifCond .eq 43, 3) := dk_153 0 43 (dk_at dksX1_isNumberIn_2_0 4 rfl rfl)
theorem dX1_isNumberIn_2_7 : decode cX1_isNumberIn_2 7 = .ok (.aload_n 1, 1) := dk_43 (dk_at dksX1_isNumberIn_2_0 7 rfl rfl)
theorem dX1_isNumberIn_2_8 : decode cX1_isNumberIn_2 8 = .ok (.checkcast 181, 3) := dk_192 0 181 (dk_at dksX1_isNumberIn_2_0 8 rfl rfl)
theorem dX1_isNumberIn_2_11 : decode cX1_isNumberIn_2 11 = .ok (.astore 4, 2) := dk_58 4 (dk_at dksX1_isNumberIn_2_0 11 rfl rfl)
theorem dX1_isNumberIn_2_13 : decode cX1_isNumberIn_2 13 = .ok (.aload 4, 2) := dk_25 4 (dk_at dksX1_isNumberIn_2_0 13 rfl rfl)
theorem dX1_isNumberIn_2_15 : decode cX1_isNumberIn_2 15 = .ok (.invokevirtual 266, 3) := dk_182 1 10 (dk_at dksX1_isNumberIn_2_0 15 rfl rfl)
theorem dX1_isNumberIn_2_18 : decode cX1_isNumberIn_2 18 = .ok (.iload_n 2, 1) := dk_28 (dk_at dksX1_isNumberIn_2_0 18 rfl rfl)
theorem dX1_isNumberIn_2_19 : decode cX1_isNumberIn_2 19 = .ok (.if_icmp .ne 8, 3) := dk_160 0 8 (dk_at dksX1_isNumberIn_2_0 19 rfl rfl)
theorem dX1_isNumberIn_2_22 : decode cX1_isNumberIn_2 22 = .ok (.iload_n 3, 1) := dk_29 (dk_at dksX1_isNumberIn_2_0 22 rfl rfl)
theorem dX1_isNumberIn_2_23 : decode cX1_isNumberIn_2 23 = .ok (.iconst 4, 1) := dk_7 (dk_at dksX1_isNumberIn_2_0 23 rfl rfl)
theorem dX1_isNumberIn_2_24 : decode cX1_isNumberIn_2 24 = .ok (.if_icmp .ne 21, 3) := dk_160 0 21 (dk_at dksX1_isNumberIn_2_1 0 rfl rfl)
theorem dX1_isNumberIn_2_27 : decode cX1_isNumberIn_2 27 = .ok (.aload_n 0, 1) := dk_42 (dk_at dksX1_isNumberIn_2_1 3 rfl rfl)
theorem dX1_isNumberIn_2_28 : decode cX1_isNumberIn_2 28 = .ok (.aload 4, 2) := dk_25 4 (dk_at dksX1_isNumberIn_2_1 4 rfl rfl)
theorem dX1_isNumberIn_2_30 : decode cX1_isNumberIn_2 30 = .ok (.invokevirtual 269, 3) := dk_182 1 13 (dk_at dksX1_isNumberIn_2_1 6 rfl rfl)
theorem dX1_isNumberIn_2_33 : decode cX1_isNumberIn_2 33 = .ok (.iload_n 2, 1) := dk_28 (dk_at dksX1_isNumberIn_2_1 9 rfl rfl)
theorem dX1_isNumberIn_2_34 : decode cX1_isNumberIn_2 34 = .ok (.iload_n 3, 1) := dk_29 (dk_at dksX1_isNumberIn_2_1 10 rfl rfl)
theorem dX1_isNumberIn_2_35 : decode cX1_isNumberIn_2 35 = .ok (.invokevirtual 272, 3) := dk_182 1 16 (dk_at dksX1_isNumberIn_2_1 11 rfl rfl)
theorem dX1_isNumberIn_2_38 : decode cX1_isNumberIn_2 38 = .ok (.ifCond .eq 7, 3) := dk_153 0 7 (dk_at dksX1_isNumberIn_2_1 14 rfl rfl)
theorem dX1_isNumberIn_2_41 : decode cX1_isNumberIn_2 41 = .ok (.iconst 1, 1) := dk_4 (dk_at dksX1_isNumberIn_2_1 17 rfl rfl)
theorem dX1_isNumberIn_2_42 : decode cX1_isNumberIn_2 42 = .ok (.goto 4, 3) := dk_167 0 4 (dk_at dksX1_isNumberIn_2_1 18 rfl rfl)
theorem dX1_isNumberIn_2_45 : decode cX1_isNumberIn_2 45 = .ok (.iconst 0, 1) := dk_3 (dk_at dksX1_isNumberIn_2_1 21 rfl rfl)
theorem dX1_isNumberIn_2_46 : decode cX1_isNumberIn_2 46 = .ok (.ireturn, 1) := dk_172 (dk_at dksX1_isNumberIn_2_1 22 rfl rfl)
theorem dX1_isNumberIn_2_47 : decode cX1_isNumberIn_2 47 = .ok (.aload_n 1, 1) := dk_43 (dk_at dksX1_isNumberIn_2_1 23 rfl rfl)
theorem dX1_isNumberIn_2_48 : decode cX1_isNumberIn_2 48 = .ok (.instanceof 228, 3) := dk_193 0 228 (dk_at dksX1_isNumberIn_2_2 0 rfl rfl)
theorem dX1_isNumberIn_2_51 : decode cX1_isNumberIn_2 51 = .ok (.ifCond .eq 43, 3) := dk_153 0 43 (dk_at dksX1_isNumberIn_2_2 3 rfl rfl)
theorem dX1_isNumberIn_2_54 : decode cX1_isNumberIn_2 54 = .ok (.aload_n 1, 1) := dk_43 (dk_at dksX1_isNumberIn_2_2 6 rfl rfl)
theorem dX1_isNumberIn_2_55 : decode cX1_isNumberIn_2 55 = .ok (.checkcast 228, 3) := dk_192 0 228 (dk_at dksX1_isNumberIn_2_2 7 rfl rfl)
theorem dX1_isNumberIn_2_58 : decode cX1_isNumberIn_2 58 = .ok (.astore 4, 2) := dk_58 4 (dk_at dksX1_isNumberIn_2_2 10 rfl rfl)
theorem dX1_isNumberIn_2_60 : decode cX1_isNumberIn_2 60 = .ok (.aload_n 0, 1) := dk_42 (dk_at dksX1_isNumberIn_2_2 12 rfl rfl)
theorem dX1_isNumberIn_2_61 : decode cX1_isNumberIn_2 61 = .ok (.aload 4, 2) := dk_25 4 (dk_at dksX1_isNumberIn_2_2 13 rfl rfl)
theorem dX1_isNumberIn_2_63 : decode cX1_isNumberIn_2 63 = .ok (.invokevirtual 276, 3) := dk_182 1 20 (dk_at dksX1_isNumberIn_2_2 15 rfl rfl)
theorem dX1_isNumberIn_2_66 : decode cX1_isNumberIn_2 66 = .ok (.iload_n 2, 1) := dk_28 (dk_at dksX1_isNumberIn_2_2 18 rfl rfl)
theorem dX1_isNumberIn_2_67 : decode cX1_isNumberIn_2 67 = .ok (.iload_n 3, 1) := dk_29 (dk_at dksX1_isNumberIn_2_2 19 rfl rfl)
theorem dX1_isNumberIn_2_68 : decode cX1_isNumberIn_2 68 = .ok (.invokevirtual 272, 3) := dk_182 1 16 (dk_at dksX1_isNumberIn_2_2 20 rfl rfl)
theorem dX1_isNumberIn_2_71 : decode cX1_isNumberIn_2 71 = .ok (.ifCond .eq 21, 3) := dk_153 0 21 (dk_at dksX1_isNumberIn_2_3 0 rfl rfl)
theorem dX1_isNumberIn_2_74 : decode cX1_isNumberIn_2 74 = .ok (.aload_n 0, 1) := dk_42 (dk_at dksX1_isNumberIn_2_3 3 rfl rfl)
theorem dX1_isNumberIn_2_75 : decode cX1_isNumberIn_2 75 = .ok (.aload 4, 2) := dk_25 4 (dk_at dksX1_isNumberIn_2_3 4 rfl rfl)
theorem dX1_isNumberIn_2_77 : decode cX1_isNumberIn_2 77 = .ok (.invokevirtual 279, 3) := dk_182 1 23 (dk_at dksX1_isNumberIn_2_3 6 rfl rfl)
theorem dX1_isNumberIn_2_80 : decode cX1_isNumberIn_2 80 = .ok (.iload_n 2, 1) := dk_28 (dk_at dksX1_isNumberIn_2_3 9 rfl rfl)
theorem dX1_isNumberIn_2_81 : decode cX1_isNumberIn_2 81 = .ok (.iload_n 3, 1) := dk_29 (dk_at dksX1_isNumberIn_2_3 10 rfl rfl)
theorem dX1_isNumberIn_2_82 : decode cX1_isNumberIn_2 82 = .ok (.invokevirtual 272, 3) := dk_182 1 16 (dk_at dksX1_isNumberIn_2_3 11 rfl rfl)
theorem dX1_isNumberIn_2_85 : decode cX1_isNumberIn_2 85 = .ok (.ifCond .eq 7, 3) := dk_153 0 7 (dk_at dksX1_isNumberIn_2_3 14 rfl rfl)
theorem dX1_isNumberIn_2_88 : decode cX1_isNumberIn_2 88 = .ok (.iconst 1, 1) := dk_4 (dk_at dksX1_isNumberIn_2_3 17 rfl rfl)
theorem dX1_isNumberIn_2_89 : decode cX1_isNumberIn_2 89 = .ok (.goto 4, 3) := dk_167 0 4 (dk_at dksX1_isNumberIn_2_3 18 rfl rfl)
theorem dX1_isNumberIn_2_92 : decode cX1_isNumberIn_2 92 = .ok (.iconst 0, 1) := dk_3 (dk_at dksX1_isNumberIn_2_3 21 rfl rfl)
theorem dX1_isNumberIn_2_93 : decode cX1_isNumberIn_2 93 = .ok (.ireturn, 1) := dk_172 (dk_at dksX1_isNumberIn_2_3 22 rfl rfl)
theorem dX1_isNumberIn_2_94 : decode cX1_isNumberIn_2 94 = .ok (.iconst 1, 1) := dk_4 (dk_at dksX1_isNumberIn_2_3 23 rfl rfl)
theorem dX1_isNumberIn_2_95 : decode cX1_isNumberIn_2 95 = .ok (.istore 4, 2) := dk_54 4 (dk_at dksX1_isNumberIn_2_4 0 rfl rfl)
theorem dX1_isNumberIn_2_97 : decode cX1_isNumberIn_2 97 = .ok (.aload_n 1, 1) := dk_43 (dk_at dksX1_isNumberIn_2_4 2 rfl rfl)
theorem dX1_isNumberIn_2_98 : decode cX1_isNumberIn_2 98 = .ok (.instanceof 215, 3) := dk_193 0 215 (dk_at dksX1_isNumberIn_2_4 3 rfl rfl)
theorem dX1_isNumberIn_2_101 : decode cX1_isNumberIn_2 101 = .ok (.ifCond .eq 87, 3) := dk_153 0 87 (dk_at dksX1_isNumberIn_2_4 6 rfl rfl)
theorem dX1_isNumberIn_2_104 : decode cX1_isNumberIn_2 104 = .ok (.aload_n 1, 1) := dk_43 (dk_at dksX1_isNumberIn_2_4 9 rfl rfl)
theorem dX1_isNumberIn_2_105 : decode cX1_isNumberIn_2 105 = .ok (.checkcast 215, 3) := dk_192 0 215 (dk_at dksX1_isNumberIn_2_4 10 rfl rfl)
theorem dX1_isNumberIn_2_108 : decode cX1_isNumberIn_2 108 = .ok (.astore 5, 2) := dk_58 5 (dk_at dksX1_isNumberIn_2_4 13 rfl rfl)
theorem dX1_isNumberIn_2_110 : decode cX1_isNumberIn_2 110 = .ok (.aload_n 0, 1) := dk_42 (dk_at dksX1_isNumberIn_2_4 15 rfl rfl)
theorem dX1_isNumberIn_2_111 : decode cX1_isNumberIn_2 111 = .ok (.getfield 25, 3) := dk_180 0 25 (dk_at dksX1_isNumberIn_2_4 16 rfl rfl)
theorem dX1_isNumberIn_2_114 : decode cX1_isNumberIn_2 114 = .ok (.aload 5, 2) := dk_25 5 (dk_at dksX1_isNumberIn_2_4 19 rfl rfl)
theorem dX1_isNumberIn_2_116 : decode cX1_isNumberIn_2 116 = .ok (.invokevirtual 282, 3) := dk_182 1 26 (dk_at dksX1_isNumberIn_2_4 21 rfl rfl)
theorem dX1_isNumberIn_2_119 : decode cX1_isNumberIn_2 119 = .ok (.invokevirtual 95, 3) := dk_182 0 95 (dk_at dksX1_isNumberIn_2_5 0 rfl rfl)
theorem dX1_isNumberIn_2_122 : decode cX1_isNumberIn_2 122 = .ok (.checkcast 22, 3) := dk_192 0 22 (dk_at dksX1_isNumberIn_2_5 3 rfl rfl)
theorem dX1_isNumberIn_2_125 : decode cX1_isNumberIn_2 125 = .ok (.aload 5, 2) := dk_25 5 (dk_at dksX1_isNumberIn_2_5 6 rfl rfl)
theorem dX1_isNumberIn_2_127 : decode cX1_isNumberIn_2 127 = .ok (.invokevirtual 285, 3) := dk_182 1 29 (dk_at dksX1_isNumberIn_2_5 8 rfl rfl)
theorem dX1_isNumberIn_2_130 : decode cX1_isNumberIn_2 130 = .ok (.invokevirtual 95, 3) := dk_182 0 95 (dk_at dksX1_isNumberIn_2_5 11 rfl rfl)
theorem dX1_isNumberIn_2_133 : decode cX1_isNumberIn_2 133 = .ok (.checkcast 35, 3) := dk_192 0 35 (dk_at dksX1_isNumberIn_2_5 14 rfl rfl)
theorem dX1_isNumberIn_2_136 : decode cX1_isNumberIn_2 136 = .ok (.astore 6, 2) := dk_58 6 (dk_at dksX1_isNumberIn_2_5 17 rfl rfl)
theorem dX1_isNumberIn_2_138 : decode cX1_isNumberIn_2 138 = .ok (.iconst 0, 1) := dk_3 (dk_at dksX1_isNumberIn_2_5 19 rfl rfl)
theorem dX1_isNumberIn_2_139 : decode cX1_isNumberIn_2 139 = .ok (.istore 7, 2) := dk_54 7 (dk_at dksX1_isNumberIn_2_5 20 rfl rfl)
theorem dX1_isNumberIn_2_141 : decode cX1_isNumberIn_2 141 = .ok (.iload 7, 2) := dk_21 7 (dk_at dksX1_isNumberIn_2_5 22 rfl rfl)
theorem dX1_isNumberIn_2_143 : decode cX1_isNumberIn_2 143 = .ok (.aload 6, 2) := dk_25 6 (dk_at dksX1_isNumberIn_2_6 0 rfl rfl)
theorem dX1_isNumberIn_2_145 : decode cX1_isNumberIn_2 145 = .ok (.arraylength, 1) := dk_190 (dk_at dksX1_isNumberIn_2_6 2 rfl rfl)
theorem dX1_isNumberIn_2_146 : decode cX1_isNumberIn_2 146 = .ok (.if_icmp .ge 42, 3) := dk_162 0 42 (dk_at dksX1_isNumberIn_2_6 3 rfl rfl)
theorem dX1_isNumberIn_2_149 : decode cX1_isNumberIn_2 149 = .ok (.iload 4, 2) := dk_21 4 (dk_at dksX1_isNumberIn_2_6 6 rfl rfl)
theorem dX1_isNumberIn_2_151 : decode cX1_isNumberIn_2 151 = .ok (.ifCond .eq 28, 3) := dk_153 0 28 (dk_at dksX1_isNumberIn_2_6 8 rfl rfl)
theorem dX1_isNumberIn_2_154 : decode cX1_isNumberIn_2 154 = .ok (.aload_n 0, 1) := dk_42 (dk_at dksX1_isNumberIn_2_6 11 rfl rfl)
theorem dX1_isNumberIn_2_155 : decode cX1_isNumberIn_2 155 = .ok (.aload 5, 2) := dk_25 5 (dk_at dksX1_isNumberIn_2_6 12 rfl rfl)
theorem dX1_isNumberIn_2_157 : decode cX1_isNumberIn_2 157 = .ok (.invokevirtual 288, 3) := dk_182 1 32 (dk_at dksX1_isNumberIn_2_6 14 rfl rfl)
theorem dX1_isNumberIn_2_160 : decode cX1_isNumberIn_2 160 = .ok (.iload 7, 2) := dk_21 7 (dk_at dksX1_isNumberIn_2_6 17 rfl rfl)
theorem dX1_isNumberIn_2_162 : decode cX1_isNumberIn_2 162 = .ok (.aaload, 1) := dk_50 (dk_at dksX1_isNumberIn_2_6 19 rfl rfl)
theorem dX1_isNumberIn_2_163 : decode cX1_isNumberIn_2 163 = .ok (.iload_n 2, 1) := dk_28 (dk_at dksX1_isNumberIn_2_6 20 rfl rfl)
theorem dX1_isNumberIn_2_164 : decode cX1_isNumberIn_2 164 = .ok (.aload 6, 2) := dk_25 6 (dk_at dksX1_isNumberIn_2_6 21 rfl rfl)
theorem dX1_isNumberIn_2_166 : decode cX1_isNumberIn_2 166 = .ok (.iload 7, 2) := dk_21 7 (dk_at dksX1_isNumberIn_2_7 0 rfl rfl)
theorem dX1_isNumberIn_2_168 : decode cX1_isNumberIn_2 168 = .ok (.iaload, 1) := dk_46 (dk_at dksX1_isNumberIn_2_7 2 rfl rfl)
theorem dX1_isNumberIn_2_169 : decode cX1_isNumberIn_2 169 = .ok (.invokevirtual 272, 3) := dk_182 1 16 (dk_at dksX1_isNumberIn_2_7 3 rfl rfl)
theorem dX1_isNumberIn_2_172 : decode cX1_isNumberIn_2 172 = .ok (.ifCond .eq 7, 3) := dk_153 0 7 (dk_at dksX1_isNumberIn_2_7 6 rfl rfl)
theorem dX1_isNumberIn_2_175 : decode cX1_isNumberIn_2 175 = .ok (.iconst 1, 1) := dk_4 (dk_at dksX1_isNumberIn_2_7 9 rfl rfl)
theorem dX1_isNumberIn_2_176 : decode cX1_isNumberIn_2 176 = .ok (.goto 4, 3) := dk_167 0 4 (dk_at dksX1_isNumberIn_2_7 10 rfl rfl)
theorem dX1_isNumberIn_2_179 : decode cX1_isNumberIn_2 179 = .ok (.iconst 0, 1) := dk_3 (dk_at dksX1_isNumberIn_2_7 13 rfl rfl)
theorem dX1_isNumberIn_2_180 : decode cX1_isNumberIn_2 180 = .ok (.istore 4, 2) := dk_54 4 (dk_at dksX1_isNumberIn_2_7 14 rfl rfl)
theorem dX1_isNumberIn_2_182 : decode cX1_isNumberIn_2 182 = .ok (.iinc 7 1, 3) := dk_132 7 1 (dk_at dksX1_isNumberIn_2_7 16 rfl rfl)
theorem dX1_isNumberIn_2_185 : decode cX1_isNumberIn_2 185 = .ok (.goto (-44), 3) := dk_167 255 212 (dk_at dksX1_isNumberIn_2_7 19 rfl rfl)
theorem dX1_isNumberIn_2_188 : decode cX1_isNumberIn_2 188 = .ok (.iload 4, 2) := dk_21 4 (dk_at dksX1_isNumberIn_2_7 22 rfl rfl)
theorem dX1_isNumberIn_2_190 : decode cX1_isNumberIn_2 190 = .ok (.ireturn, 1) := dk_172 (dk_at dksX1_isNumberIn_2_8 0 rfl rfl)
abbrev cX1_split : ByteArray := prog_1_method_45_code
def yX1_split : MethodName := ⟨RX1, "split", "(II)I"⟩
def dkwX1_split_7 : List UInt8 := [172]
abbrev dktX1_split_7 : List UInt8 := dkwX1_split_7 ++ []
def dkwX1_split_6 : List UInt8 := [184, 1, 74, 45, 180, 1, 78, 183, 1, 7, 182, 1, 85, 42, 182, 0, 127, 42, 180, 0, 44, 182, 0, 101]
abbrev dktX1_split_6 : List UInt8 := dkwX1_split_6 ++ dktX1_split_7
def dkwX1_split_5 : List UInt8 := [180, 0, 44, 27, 4, 96, 187, 1, 5, 89, 45, 180, 1, 36, 28, 42, 25, 5, 182, 1, 23, 182, 1, 70]
abbrev dktX1_split_5 : List UInt8 := dkwX1_split_5 ++ dktX1_split_6
def dkwX1_split_4 : List UInt8 := [42, 25, 5, 182, 1, 20, 182, 1, 70, 184, 1, 74, 45, 180, 1, 78, 183, 1, 7, 182, 1, 81, 87, 42]
abbrev dktX1_split_4 : List UInt8 := dkwX1_split_4 ++ dktX1_split_5
def dkwX1_split_3 : List UInt8 := [25, 4, 182, 0, 183, 192, 0, 228, 58, 5, 42, 180, 0, 44, 27, 187, 1, 5, 89, 45, 180, 1, 36, 28]
abbrev dktX1_split_3 : List UInt8 := dkwX1_split_3 ++ dktX1_split_4
def dkwX1_split_2 : List UInt8 := [153, 0, 19, 42, 180, 0, 44, 182, 0, 101, 16, 8, 162, 0, 7, 4, 167, 0, 4, 3, 184, 0, 120]
abbrev dktX1_split_2 : List UInt8 := dkwX1_split_2 ++ dktX1_split_3
def dkwX1_split_1 : List UInt8 := [180, 1, 45, 199, 0, 38, 25, 4, 182, 0, 183, 193, 0, 228, 153, 0, 27, 25, 4, 182, 0, 195]
abbrev dktX1_split_1 : List UInt8 := dkwX1_split_1 ++ dktX1_split_2
def dkwX1_split_0 : List UInt8 := [42, 27, 182, 1, 38, 78, 42, 28, 182, 1, 67, 42, 45, 180, 1, 36, 28, 46, 182, 0, 170, 58, 4, 45]
abbrev dktX1_split_0 : List UInt8 := dkwX1_split_0 ++ dktX1_split_1
theorem dksX1_split_0 : cX1_split.data.toList.drop 0 = dktX1_split_0 := by decide +kernel
theorem dksX1_split_1 : cX1_split.data.toList.drop 24 = dktX1_split_1 := dk_seg dksX1_split_0 24 rfl rfl
theorem dksX1_split_2 : cX1_split.data.toList.drop 46 = dktX1_split_2 := dk_seg dksX1_split_1 22 rfl rfl
theorem dksX1_split_3 : cX1_split.data.toList.drop 69 = dktX1_split_3 := dk_seg dksX1_split_2 23 rfl rfl
theorem dksX1_split_4 : cX1_split.data.toList.drop 93 = dktX1_split_4 := dk_seg dksX1_split_3 24 rfl rfl
theorem dksX1_split_5 : cX1_split.data.toList.drop 117 = dktX1_split_5 := dk_seg dksX1_split_4 24 rfl rfl
theorem dksX1_split_6 : cX1_split.data.toList.drop 141 = dktX1_split_6 := dk_seg dksX1_split_5 24 rfl rfl
theorem dksX1_split_7 : cX1_split.data.toList.drop 165 = dktX1_split_7 := dk_seg dksX1_split_6 24 rfl rfl
theorem dX1_split_0 : decode cX1_split 0 = .ok (.aload_n 0, 1) := dk_42 (dk_at dksX1_split_0 0 rfl rfl)
theorem dX1_split_1 : decode cX1_split 1 = .ok (.iload_n 1, 1) := dk_27 (dk_at dksX1_split_0 1 rfl rfl)
theorem dX1_split_2 : decode cX1_split 2 = .ok (.invokevirtual 294, 3) := dk_182 1 38 (dk_at dksX1_split_0 2 rfl rfl)
theorem dX1_split_5 : decode cX1_split 5 = .ok (.astore_n 3, 1) := dk_78 (dk_at dksX1_split_0 5 rfl rfl)
theorem dX1_split_6 : decode cX1_split 6 = .ok (.aload_n 0, 1) := dk_42 (dk_at dksX1_split_0 6 rfl rfl)
theorem dX1_split_7 : decode cX1_split 7 = .ok (.iload_n 2, 1) := dk_28 (dk_at dksX1_split_0 7 rfl rfl)
theorem dX1_split_8 : decode cX1_split 8 = .ok (.invokevirtual 323, 3) := dk_182 1 67 (dk_at dksX1_split_0 8 rfl rfl)
theorem dX1_split_11 : decode cX1_split 11 = .ok (.aload_n 0, 1) := dk_42 (dk_at dksX1_split_0 11 rfl rfl)
theorem dX1_split_12 : decode cX1_split 12 = .ok (.aload_n 3, 1) := dk_45 (dk_at dksX1_split_0 12 rfl rfl)
theorem dX1_split_13 : decode cX1_split 13 = .ok (.getfield 292, 3) := dk_180 1 36 (dk_at dksX1_split_0 13 rfl rfl)
theorem dX1_split_16 : decode cX1_split 16 = .ok (.iload_n 2, 1) := dk_28 (dk_at dksX1_split_0 16 rfl rfl)
theorem dX1_split_17 : decode cX1_split 17 = .ok (.iaload, 1) := dk_46 (dk_at dksX1_split_0 17 rfl rfl)
theorem dX1_split_18 : decode cX1_split 18 = .ok (.invokevirtual 170, 3) := dk_182 0 170 (dk_at dksX1_split_0 18 rfl rfl)
theorem dX1_split_21 : decode cX1_split 21 = .ok (.astore 4, 2) := dk_58 4 (dk_at dksX1_split_0 21 rfl rfl)
theorem dX1_split_23 : decode cX1_split 23 = .ok (.aload_n 3, 1) := dk_45 (dk_at dksX1_split_0 23 rfl rfl)
theorem dX1_split_24 : decode cX1_split 24 = .ok (.getfield 301, 3) := dk_180 1 45 (dk_at dksX1_split_1 0 rfl rfl)
theorem dX1_split_27 : decode cX1_split 27 = .ok (.ifnonnull 38, 3) := dk_199 0 38 (dk_at dksX1_split_1 3 rfl rfl)
theorem dX1_split_30 : decode cX1_split 30 = .ok (.aload 4, 2) := dk_25 4 (dk_at dksX1_split_1 6 rfl rfl)
theorem dX1_split_32 : decode cX1_split 32 = .ok (.invokevirtual 183, 3) := dk_182 0 183 (dk_at dksX1_split_1 8 rfl rfl)
theorem dX1_split_35 : decode cX1_split 35 = .ok (.instanceof 228, 3) := dk_193 0 228 (dk_at dksX1_split_1 11 rfl rfl)
theorem dX1_split_38 : decode cX1_split 38 = .ok (.ifCond .eq 27, 3) := dk_153 0 27 (dk_at dksX1_split_1 14 rfl rfl)
theorem dX1_split_41 : decode cX1_split 41 = .ok (.aload 4, 2) := dk_25 4 (dk_at dksX1_split_1 17 rfl rfl)
theorem dX1_split_43 : decode cX1_split 43 = .ok (.invokevirtual 195, 3) := dk_182 0 195 (dk_at dksX1_split_1 19 rfl rfl)
theorem dX1_split_46 : decode cX1_split 46 = .ok (.ifCond .eq 19, 3) := dk_153 0 19 (dk_at dksX1_split_2 0 rfl rfl)
theorem dX1_split_49 : decode cX1_split 49 = .ok (.aload_n 0, 1) := dk_42 (dk_at dksX1_split_2 3 rfl rfl)
theorem dX1_split_50 : decode cX1_split 50 = .ok (.getfield 44, 3) := dk_180 0 44 (dk_at dksX1_split_2 4 rfl rfl)
theorem dX1_split_53 : decode cX1_split 53 = .ok (.invokevirtual 101, 3) := dk_182 0 101 (dk_at dksX1_split_2 7 rfl rfl)
theorem dX1_split_56 : decode cX1_split 56 = .ok (.bipush 8, 2) := dk_16 8 (dk_at dksX1_split_2 10 rfl rfl)
theorem dX1_split_58 : decode cX1_split 58 = .ok (.if_icmp .ge 7, 3) := dk_162 0 7 (dk_at dksX1_split_2 12 rfl rfl)
theorem dX1_split_61 : decode cX1_split 61 = .ok (.iconst 1, 1) := dk_4 (dk_at dksX1_split_2 15 rfl rfl)
theorem dX1_split_62 : decode cX1_split 62 = .ok (.goto 4, 3) := dk_167 0 4 (dk_at dksX1_split_2 16 rfl rfl)
theorem dX1_split_65 : decode cX1_split 65 = .ok (.iconst 0, 1) := dk_3 (dk_at dksX1_split_2 19 rfl rfl)
theorem dX1_split_66 : decode cX1_split 66 = .ok (.invokestatic 120, 3) := dk_184 0 120 (dk_at dksX1_split_2 20 rfl rfl)
theorem dX1_split_69 : decode cX1_split 69 = .ok (.aload 4, 2) := dk_25 4 (dk_at dksX1_split_3 0 rfl rfl)
theorem dX1_split_71 : decode cX1_split 71 = .ok (.invokevirtual 183, 3) := dk_182 0 183 (dk_at dksX1_split_3 2 rfl rfl)
theorem dX1_split_74 : decode cX1_split 74 = .ok (.checkcast 228, 3) := dk_192 0 228 (dk_at dksX1_split_3 5 rfl rfl)
theorem dX1_split_77 : decode cX1_split 77 = .ok (.astore 5, 2) := dk_58 5 (dk_at dksX1_split_3 8 rfl rfl)
theorem dX1_split_79 : decode cX1_split 79 = .ok (.aload_n 0, 1) := dk_42 (dk_at dksX1_split_3 10 rfl rfl)
theorem dX1_split_80 : decode cX1_split 80 = .ok (.getfield 44, 3) := dk_180 0 44 (dk_at dksX1_split_3 11 rfl rfl)
theorem dX1_split_83 : decode cX1_split 83 = .ok (.iload_n 1, 1) := dk_27 (dk_at dksX1_split_3 14 rfl rfl)
theorem dX1_split_84 : decode cX1_split 84 = .ok (.new 261, 3) := dk_187 1 5 (dk_at dksX1_split_3 15 rfl rfl)
theorem dX1_split_87 : decode cX1_split 87 = .ok (.dup, 1) := dk_89 (dk_at dksX1_split_3 18 rfl rfl)
theorem dX1_split_88 : decode cX1_split 88 = .ok (.aload_n 3, 1) := dk_45 (dk_at dksX1_split_3 19 rfl rfl)
theorem dX1_split_89 : decode cX1_split 89 = .ok (.getfield 292, 3) := dk_180 1 36 (dk_at dksX1_split_3 20 rfl rfl)
theorem dX1_split_92 : decode cX1_split 92 = .ok (.iload_n 2, 1) := dk_28 (dk_at dksX1_split_3 23 rfl rfl)
theorem dX1_split_93 : decode cX1_split 93 = .ok (.aload_n 0, 1) := dk_42 (dk_at dksX1_split_4 0 rfl rfl)
theorem dX1_split_94 : decode cX1_split 94 = .ok (.aload 5, 2) := dk_25 5 (dk_at dksX1_split_4 1 rfl rfl)
theorem dX1_split_96 : decode cX1_split 96 = .ok (.invokevirtual 276, 3) := dk_182 1 20 (dk_at dksX1_split_4 3 rfl rfl)
theorem dX1_split_99 : decode cX1_split 99 = .ok (.invokevirtual 326, 3) := dk_182 1 70 (dk_at dksX1_split_4 6 rfl rfl)
theorem dX1_split_102 : decode cX1_split 102 = .ok (.invokestatic 330, 3) := dk_184 1 74 (dk_at dksX1_split_4 9 rfl rfl)
theorem dX1_split_105 : decode cX1_split 105 = .ok (.aload_n 3, 1) := dk_45 (dk_at dksX1_split_4 12 rfl rfl)
theorem dX1_split_106 : decode cX1_split 106 = .ok (.getfield 334, 3) := dk_180 1 78 (dk_at dksX1_split_4 13 rfl rfl)
theorem dX1_split_109 : decode cX1_split 109 = .ok (.invokespecial 263, 3) := dk_183 1 7 (dk_at dksX1_split_4 16 rfl rfl)
theorem dX1_split_112 : decode cX1_split 112 = .ok (.invokevirtual 337, 3) := dk_182 1 81 (dk_at dksX1_split_4 19 rfl rfl)
theorem dX1_split_115 : decode cX1_split 115 = .ok (.pop, 1) := dk_87 (dk_at dksX1_split_4 22 rfl rfl)
theorem dX1_split_116 : decode cX1_split 116 = .ok (.aload_n 0, 1) := dk_42 (dk_at dksX1_split_4 23 rfl rfl)
theorem dX1_split_117 : decode cX1_split 117 = .ok (.getfield 44, 3) := dk_180 0 44 (dk_at dksX1_split_5 0 rfl rfl)
theorem dX1_split_120 : decode cX1_split 120 = .ok (.iload_n 1, 1) := dk_27 (dk_at dksX1_split_5 3 rfl rfl)
theorem dX1_split_121 : decode cX1_split 121 = .ok (.iconst 1, 1) := dk_4 (dk_at dksX1_split_5 4 rfl rfl)
theorem dX1_split_122 : decode cX1_split 122 = .ok (.iadd, 1) := dk_96 (dk_at dksX1_split_5 5 rfl rfl)
theorem dX1_split_123 : decode cX1_split 123 = .ok (.new 261, 3) := dk_187 1 5 (dk_at dksX1_split_5 6 rfl rfl)
theorem dX1_split_126 : decode cX1_split 126 = .ok (.dup, 1) := dk_89 (dk_at dksX1_split_5 9 rfl rfl)
theorem dX1_split_127 : decode cX1_split 127 = .ok (.aload_n 3, 1) := dk_45 (dk_at dksX1_split_5 10 rfl rfl)
theorem dX1_split_128 : decode cX1_split 128 = .ok (.getfield 292, 3) := dk_180 1 36 (dk_at dksX1_split_5 11 rfl rfl)
theorem dX1_split_131 : decode cX1_split 131 = .ok (.iload_n 2, 1) := dk_28 (dk_at dksX1_split_5 14 rfl rfl)
theorem dX1_split_132 : decode cX1_split 132 = .ok (.aload_n 0, 1) := dk_42 (dk_at dksX1_split_5 15 rfl rfl)
theorem dX1_split_133 : decode cX1_split 133 = .ok (.aload 5, 2) := dk_25 5 (dk_at dksX1_split_5 16 rfl rfl)
theorem dX1_split_135 : decode cX1_split 135 = .ok (.invokevirtual 279, 3) := dk_182 1 23 (dk_at dksX1_split_5 18 rfl rfl)
theorem dX1_split_138 : decode cX1_split 138 = .ok (.invokevirtual 326, 3) := dk_182 1 70 (dk_at dksX1_split_5 21 rfl rfl)
theorem dX1_split_141 : decode cX1_split 141 = .ok (.invokestatic 330, 3) := dk_184 1 74 (dk_at dksX1_split_6 0 rfl rfl)
theorem dX1_split_144 : decode cX1_split 144 = .ok (.aload_n 3, 1) := dk_45 (dk_at dksX1_split_6 3 rfl rfl)
theorem dX1_split_145 : decode cX1_split 145 = .ok (.getfield 334, 3) := dk_180 1 78 (dk_at dksX1_split_6 4 rfl rfl)
theorem dX1_split_148 : decode cX1_split 148 = .ok (.invokespecial 263, 3) := dk_183 1 7 (dk_at dksX1_split_6 7 rfl rfl)
theorem dX1_split_151 : decode cX1_split 151 = .ok (.invokevirtual 341, 3) := dk_182 1 85 (dk_at dksX1_split_6 10 rfl rfl)
theorem dX1_split_154 : decode cX1_split 154 = .ok (.aload_n 0, 1) := dk_42 (dk_at dksX1_split_6 13 rfl rfl)
theorem dX1_split_155 : decode cX1_split 155 = .ok (.invokevirtual 127, 3) := dk_182 0 127 (dk_at dksX1_split_6 14 rfl rfl)
theorem dX1_split_158 : decode cX1_split 158 = .ok (.aload_n 0, 1) := dk_42 (dk_at dksX1_split_6 17 rfl rfl)
theorem dX1_split_159 : decode cX1_split 159 = .ok (.getfield 44, 3) := dk_180 0 44 (dk_at dksX1_split_6 18 rfl rfl)
theorem dX1_split_162 : decode cX1_split 162 = .ok (.invokevirtual 101, 3) := dk_182 0 101 (dk_at dksX1_split_6 21 rfl rfl)
theorem dX1_split_165 : decode cX1_split 165 = .ok (.ireturn, 1) := dk_172 (dk_at dksX1_split_7 0 rfl rfl)
abbrev cX1_requireColumn : ByteArray := prog_1_method_42_code
def yX1_requireColumn : MethodName := ⟨RX1, "requireColumn", "(I)V"⟩
def dkwX1_requireColumn_0 : List UInt8 := [27, 3, 42, 180, 0, 255, 4, 100, 184, 0, 91, 184, 0, 105, 177]
abbrev dktX1_requireColumn_0 : List UInt8 := dkwX1_requireColumn_0 ++ []
theorem dksX1_requireColumn_0 : cX1_requireColumn.data.toList.drop 0 = dktX1_requireColumn_0 := by decide +kernel
theorem dX1_requireColumn_0 : decode cX1_requireColumn 0 = .ok (.iload_n 1, 1) := dk_27 (dk_at dksX1_requireColumn_0 0 rfl rfl)
theorem dX1_requireColumn_1 : decode cX1_requireColumn 1 = .ok (.iconst 0, 1) := dk_3 (dk_at dksX1_requireColumn_0 1 rfl rfl)
theorem dX1_requireColumn_2 : decode cX1_requireColumn 2 = .ok (.aload_n 0, 1) := dk_42 (dk_at dksX1_requireColumn_0 2 rfl rfl)
theorem dX1_requireColumn_3 : decode cX1_requireColumn 3 = .ok (.getfield 255, 3) := dk_180 0 255 (dk_at dksX1_requireColumn_0 3 rfl rfl)
theorem dX1_requireColumn_6 : decode cX1_requireColumn 6 = .ok (.iconst 1, 1) := dk_4 (dk_at dksX1_requireColumn_0 6 rfl rfl)
theorem dX1_requireColumn_7 : decode cX1_requireColumn 7 = .ok (.isub, 1) := dk_100 (dk_at dksX1_requireColumn_0 7 rfl rfl)
theorem dX1_requireColumn_8 : decode cX1_requireColumn 8 = .ok (.invokestatic 91, 3) := dk_184 0 91 (dk_at dksX1_requireColumn_0 8 rfl rfl)
theorem dX1_requireColumn_11 : decode cX1_requireColumn 11 = .ok (.invokestatic 105, 3) := dk_184 0 105 (dk_at dksX1_requireColumn_0 11 rfl rfl)
theorem dX1_requireColumn_14 : decode cX1_requireColumn 14 = .ok (.return_, 1) := dk_177 (dk_at dksX1_requireColumn_0 14 rfl rfl)
abbrev cX1_numberOf : ByteArray := prog_1_method_43_code
def yX1_numberOf : MethodName := ⟨RX1, "numberOf", "(LPatternforge$Pattern;)I"⟩
def dkwX1_numberOf_0 : List UInt8 := [3, 61, 42, 28, 182, 0, 170, 182, 0, 183, 43, 165, 0, 9, 132, 2, 1, 167, 255, 241, 28, 172]
abbrev dktX1_numberOf_0 : List UInt8 := dkwX1_numberOf_0 ++ []
theorem dksX1_numberOf_0 : cX1_numberOf.data.toList.drop 0 = dktX1_numberOf_0 := by decide +kernel
theorem dX1_numberOf_0 : decode cX1_numberOf 0 = .ok (.iconst 0, 1) := dk_3 (dk_at dksX1_numberOf_0 0 rfl rfl)
theorem dX1_numberOf_1 : decode cX1_numberOf 1 = .ok (.istore_n 2, 1) := dk_61 (dk_at dksX1_numberOf_0 1 rfl rfl)
theorem dX1_numberOf_2 : decode cX1_numberOf 2 = .ok (.aload_n 0, 1) := dk_42 (dk_at dksX1_numberOf_0 2 rfl rfl)
theorem dX1_numberOf_3 : decode cX1_numberOf 3 = .ok (.iload_n 2, 1) := dk_28 (dk_at dksX1_numberOf_0 3 rfl rfl)
theorem dX1_numberOf_4 : decode cX1_numberOf 4 = .ok (.invokevirtual 170, 3) := dk_182 0 170 (dk_at dksX1_numberOf_0 4 rfl rfl)
theorem dX1_numberOf_7 : decode cX1_numberOf 7 = .ok (.invokevirtual 183, 3) := dk_182 0 183 (dk_at dksX1_numberOf_0 7 rfl rfl)
theorem dX1_numberOf_10 : decode cX1_numberOf 10 = .ok (.aload_n 1, 1) := dk_43 (dk_at dksX1_numberOf_0 10 rfl rfl)
theorem dX1_numberOf_11 : decode cX1_numberOf 11 = .ok (.if_acmp .eq 9, 3) := dk_165 0 9 (dk_at dksX1_numberOf_0 11 rfl rfl)
theorem dX1_numberOf_14 : decode cX1_numberOf 14 = .ok (.iinc 2 1, 3) := dk_132 2 1 (dk_at dksX1_numberOf_0 14 rfl rfl)
theorem dX1_numberOf_17 : decode cX1_numberOf 17 = .ok (.goto (-15), 3) := dk_167 255 241 (dk_at dksX1_numberOf_0 17 rfl rfl)
theorem dX1_numberOf_20 : decode cX1_numberOf 20 = .ok (.iload_n 2, 1) := dk_28 (dk_at dksX1_numberOf_0 20 rfl rfl)
theorem dX1_numberOf_21 : decode cX1_numberOf 21 = .ok (.ireturn, 1) := dk_172 (dk_at dksX1_numberOf_0 21 rfl rfl)
abbrev cX1_with : ByteArray := prog_1_method_44_code
def yX1_with : MethodName := ⟨RX1, "with", "([III)[I"⟩
def dkwX1_with_0 : List UInt8 := [42, 182, 1, 63, 192, 0, 35, 78, 45, 27, 28, 79, 45, 176]
abbrev dktX1_with_0 : List UInt8 := dkwX1_with_0 ++ []
theorem dksX1_with_0 : cX1_with.data.toList.drop 0 = dktX1_with_0 := by decide +kernel
theorem dX1_with_0 : decode cX1_with 0 = .ok (.aload_n 0, 1) := dk_42 (dk_at dksX1_with_0 0 rfl rfl)
theorem dX1_with_1 : decode cX1_with 1 = .ok (.invokevirtual 319, 3) := dk_182 1 63 (dk_at dksX1_with_0 1 rfl rfl)
theorem dX1_with_4 : decode cX1_with 4 = .ok (.checkcast 35, 3) := dk_192 0 35 (dk_at dksX1_with_0 4 rfl rfl)
theorem dX1_with_7 : decode cX1_with 7 = .ok (.astore_n 3, 1) := dk_78 (dk_at dksX1_with_0 7 rfl rfl)
theorem dX1_with_8 : decode cX1_with 8 = .ok (.aload_n 3, 1) := dk_45 (dk_at dksX1_with_0 8 rfl rfl)
theorem dX1_with_9 : decode cX1_with 9 = .ok (.iload_n 1, 1) := dk_27 (dk_at dksX1_with_0 9 rfl rfl)
theorem dX1_with_10 : decode cX1_with 10 = .ok (.iload_n 2, 1) := dk_28 (dk_at dksX1_with_0 10 rfl rfl)
theorem dX1_with_11 : decode cX1_with 11 = .ok (.iastore, 1) := dk_79 (dk_at dksX1_with_0 11 rfl rfl)
theorem dX1_with_12 : decode cX1_with 12 = .ok (.aload_n 3, 1) := dk_45 (dk_at dksX1_with_0 12 rfl rfl)
theorem dX1_with_13 : decode cX1_with 13 = .ok (.areturn, 1) := dk_176 (dk_at dksX1_with_0 13 rfl rfl)
abbrev cX1_merge : ByteArray := prog_1_method_46_code
def yX1_merge : MethodName := ⟨RX1, "merge", "(II)I"⟩
def dkwX1_merge_11 : List UInt8 := [27, 4, 96, 182, 1, 88, 87, 42, 182, 0, 127, 42, 180, 0, 44, 182, 0, 101, 172]
abbrev dktX1_merge_11 : List UInt8 := dkwX1_merge_11 ++ []
def dkwX1_merge_10 : List UInt8 := [180, 1, 36, 28, 21, 8, 184, 1, 74, 45, 180, 1, 78, 183, 1, 7, 182, 1, 81, 87, 42, 180, 0, 44]
abbrev dktX1_merge_10 : List UInt8 := dkwX1_merge_10 ++ dktX1_merge_11
def dkwX1_merge_9 : List UInt8 := [3, 184, 0, 120, 42, 25, 6, 25, 7, 182, 0, 240, 54, 8, 42, 180, 0, 44, 27, 187, 1, 5, 89, 45]
abbrev dktX1_merge_9 : List UInt8 := dkwX1_merge_9 ++ dktX1_merge_10
def dkwX1_merge_8 : List UInt8 := [25, 7, 184, 0, 236, 153, 0, 19, 42, 180, 0, 32, 182, 0, 101, 16, 60, 162, 0, 7, 4, 167, 0, 4]
abbrev dktX1_merge_8 : List UInt8 := dkwX1_merge_8 ++ dktX1_merge_9
def dkwX1_merge_7 : List UInt8 := [21, 5, 153, 0, 45, 25, 6, 182, 0, 195, 153, 0, 37, 25, 7, 182, 0, 195, 153, 0, 29, 25, 6]
abbrev dktX1_merge_7 : List UInt8 := dkwX1_merge_7 ++ dktX1_merge_8
def dkwX1_merge_6 : List UInt8 := [180, 1, 36, 28, 46, 182, 0, 170, 58, 6, 42, 25, 4, 180, 1, 36, 28, 46, 182, 0, 170, 58, 7]
abbrev dktX1_merge_6 : List UInt8 := dkwX1_merge_6 ++ dktX1_merge_7
def dkwX1_merge_5 : List UInt8 := [180, 1, 36, 21, 6, 46, 160, 0, 7, 4, 167, 0, 4, 3, 54, 5, 132, 6, 1, 167, 255, 208, 42, 45]
abbrev dktX1_merge_5 : List UInt8 := dkwX1_merge_5 ++ dktX1_merge_6
def dkwX1_merge_4 : List UInt8 := [162, 0, 45, 21, 5, 153, 0, 31, 21, 6, 28, 159, 0, 21, 45, 180, 1, 36, 21, 6, 46, 25, 4]
abbrev dktX1_merge_4 : List UInt8 := dkwX1_merge_4 ++ dktX1_merge_5
def dkwX1_merge_3 : List UInt8 := [180, 1, 78, 160, 0, 7, 4, 167, 0, 4, 3, 54, 5, 3, 54, 6, 21, 6, 42, 180, 0, 255]
abbrev dktX1_merge_3 : List UInt8 := dkwX1_merge_3 ++ dktX1_merge_4
def dkwX1_merge_2 : List UInt8 := [58, 4, 45, 180, 1, 45, 199, 0, 27, 25, 4, 180, 1, 45, 199, 0, 19, 45, 180, 1, 78, 25, 4]
abbrev dktX1_merge_2 : List UInt8 := dkwX1_merge_2 ++ dktX1_merge_3
def dkwX1_merge_1 : List UInt8 := [180, 0, 44, 27, 182, 0, 95, 192, 1, 5, 78, 42, 180, 0, 44, 27, 4, 96, 182, 0, 95, 192, 1, 5]
abbrev dktX1_merge_1 : List UInt8 := dkwX1_merge_1 ++ dktX1_merge_2
def dkwX1_merge_0 : List UInt8 := [27, 3, 42, 180, 0, 44, 182, 0, 101, 5, 100, 184, 0, 91, 184, 0, 105, 42, 28, 182, 1, 67, 42]
abbrev dktX1_merge_0 : List UInt8 := dkwX1_merge_0 ++ dktX1_merge_1
theorem dksX1_merge_0 : cX1_merge.data.toList.drop 0 = dktX1_merge_0 := by decide +kernel
theorem dksX1_merge_1 : cX1_merge.data.toList.drop 23 = dktX1_merge_1 := dk_seg dksX1_merge_0 23 rfl rfl
theorem dksX1_merge_2 : cX1_merge.data.toList.drop 47 = dktX1_merge_2 := dk_seg dksX1_merge_1 24 rfl rfl
theorem dksX1_merge_3 : cX1_merge.data.toList.drop 70 = dktX1_merge_3 := dk_seg dksX1_merge_2 23 rfl rfl
theorem dksX1_merge_4 : cX1_merge.data.toList.drop 92 = dktX1_merge_4 := dk_seg dksX1_merge_3 22 rfl rfl
theorem dksX1_merge_5 : cX1_merge.data.toList.drop 115 = dktX1_merge_5 := dk_seg dksX1_merge_4 23 rfl rfl
theorem dksX1_merge_6 : cX1_merge.data.toList.drop 139 = dktX1_merge_6 := dk_seg dksX1_merge_5 24 rfl rfl
theorem dksX1_merge_7 : cX1_merge.data.toList.drop 162 = dktX1_merge_7 := dk_seg dksX1_merge_6 23 rfl rfl
theorem dksX1_merge_8 : cX1_merge.data.toList.drop 185 = dktX1_merge_8 := dk_seg dksX1_merge_7 23 rfl rfl
theorem dksX1_merge_9 : cX1_merge.data.toList.drop 209 = dktX1_merge_9 := dk_seg dksX1_merge_8 24 rfl rfl
theorem dksX1_merge_10 : cX1_merge.data.toList.drop 233 = dktX1_merge_10 := dk_seg dksX1_merge_9 24 rfl rfl
theorem dksX1_merge_11 : cX1_merge.data.toList.drop 257 = dktX1_merge_11 := dk_seg dksX1_merge_10 24 rfl rfl
theorem dX1_merge_0 : decode cX1_merge 0 = .ok (.iload_n 1, 1) := dk_27 (dk_at dksX1_merge_0 0 rfl rfl)
theorem dX1_merge_1 : decode cX1_merge 1 = .ok (.iconst 0, 1) := dk_3 (dk_at dksX1_merge_0 1 rfl rfl)
theorem dX1_merge_2 : decode cX1_merge 2 = .ok (.aload_n 0, 1) := dk_42 (dk_at dksX1_merge_0 2 rfl rfl)
theorem dX1_merge_3 : decode cX1_merge 3 = .ok (.getfield 44, 3) := dk_180 0 44 (dk_at dksX1_merge_0 3 rfl rfl)
theorem dX1_merge_6 : decode cX1_merge 6 = .ok (.invokevirtual 101, 3) := dk_182 0 101 (dk_at dksX1_merge_0 6 rfl rfl)
theorem dX1_merge_9 : decode cX1_merge 9 = .ok (.iconst 2, 1) := dk_5 (dk_at dksX1_merge_0 9 rfl rfl)
theorem dX1_merge_10 : decode cX1_merge 10 = .ok (.isub, 1) := dk_100 (dk_at dksX1_merge_0 10 rfl rfl)
theorem dX1_merge_11 : decode cX1_merge 11 = .ok (.invokestatic 91, 3) := dk_184 0 91 (dk_at dksX1_merge_0 11 rfl rfl)
theorem dX1_merge_14 : decode cX1_merge 14 = .ok (.invokestatic 105, 3) := dk_184 0 105 (dk_at dksX1_merge_0 14 rfl rfl)
theorem dX1_merge_17 : decode cX1_merge 17 = .ok (.aload_n 0, 1) := dk_42 (dk_at dksX1_merge_0 17 rfl rfl)
theorem dX1_merge_18 : decode cX1_merge 18 = .ok (.iload_n 2, 1) := dk_28 (dk_at dksX1_merge_0 18 rfl rfl)
theorem dX1_merge_19 : decode cX1_merge 19 = .ok (.invokevirtual 323, 3) := dk_182 1 67 (dk_at dksX1_merge_0 19 rfl rfl)
theorem dX1_merge_22 : decode cX1_merge 22 = .ok (.aload_n 0, 1) := dk_42 (dk_at dksX1_merge_0 22 rfl rfl)
theorem dX1_merge_23 : decode cX1_merge 23 = .ok (.getfield 44, 3) := dk_180 0 44 (dk_at dksX1_merge_1 0 rfl rfl)
theorem dX1_merge_26 : decode cX1_merge 26 = .ok (.iload_n 1, 1) := dk_27 (dk_at dksX1_merge_1 3 rfl rfl)
theorem dX1_merge_27 : decode cX1_merge 27 = .ok (.invokevirtual 95, 3) := dk_182 0 95 (dk_at dksX1_merge_1 4 rfl rfl)
theorem dX1_merge_30 : decode cX1_merge 30 = .ok (.checkcast 261, 3) := dk_192 1 5 (dk_at dksX1_merge_1 7 rfl rfl)
theorem dX1_merge_33 : decode cX1_merge 33 = .ok (.astore_n 3, 1) := dk_78 (dk_at dksX1_merge_1 10 rfl rfl)
theorem dX1_merge_34 : decode cX1_merge 34 = .ok (.aload_n 0, 1) := dk_42 (dk_at dksX1_merge_1 11 rfl rfl)
theorem dX1_merge_35 : decode cX1_merge 35 = .ok (.getfield 44, 3) := dk_180 0 44 (dk_at dksX1_merge_1 12 rfl rfl)
theorem dX1_merge_38 : decode cX1_merge 38 = .ok (.iload_n 1, 1) := dk_27 (dk_at dksX1_merge_1 15 rfl rfl)
theorem dX1_merge_39 : decode cX1_merge 39 = .ok (.iconst 1, 1) := dk_4 (dk_at dksX1_merge_1 16 rfl rfl)
theorem dX1_merge_40 : decode cX1_merge 40 = .ok (.iadd, 1) := dk_96 (dk_at dksX1_merge_1 17 rfl rfl)
theorem dX1_merge_41 : decode cX1_merge 41 = .ok (.invokevirtual 95, 3) := dk_182 0 95 (dk_at dksX1_merge_1 18 rfl rfl)
theorem dX1_merge_44 : decode cX1_merge 44 = .ok (.checkcast 261, 3) := dk_192 1 5 (dk_at dksX1_merge_1 21 rfl rfl)
theorem dX1_merge_47 : decode cX1_merge 47 = .ok (.astore 4, 2) := dk_58 4 (dk_at dksX1_merge_2 0 rfl rfl)
theorem dX1_merge_49 : decode cX1_merge 49 = .ok (.aload_n 3, 1) := dk_45 (dk_at dksX1_merge_2 2 rfl rfl)
theorem dX1_merge_50 : decode cX1_merge 50 = .ok (.getfield 301, 3) := dk_180 1 45 (dk_at dksX1_merge_2 3 rfl rfl)
theorem dX1_merge_53 : decode cX1_merge 53 = .ok (.ifnonnull 27, 3) := dk_199 0 27 (dk_at dksX1_merge_2 6 rfl rfl)
theorem dX1_merge_56 : decode cX1_merge 56 = .ok (.aload 4, 2) := dk_25 4 (dk_at dksX1_merge_2 9 rfl rfl)
theorem dX1_merge_58 : decode cX1_merge 58 = .ok (.getfield 301, 3) := dk_180 1 45 (dk_at dksX1_merge_2 11 rfl rfl)
theorem dX1_merge_61 : decode cX1_merge 61 = .ok (.ifnonnull 19, 3) := dk_199 0 19 (dk_at dksX1_merge_2 14 rfl rfl)
theorem dX1_merge_64 : decode cX1_merge 64 = .ok (.aload_n 3, 1) := dk_45 (dk_at dksX1_merge_2 17 rfl rfl)
theorem dX1_merge_65 : decode cX1_merge 65 = .ok (.getfield 334, 3) := dk_180 1 78 (dk_at dksX1_merge_2 18 rfl rfl)
theorem dX1_merge_68 : decode cX1_merge 68 = .ok (.aload 4, 2) := dk_25 4 (dk_at dksX1_merge_2 21 rfl rfl)
theorem dX1_merge_70 : decode cX1_merge 70 = .ok (.getfield 334, 3) := dk_180 1 78 (dk_at dksX1_merge_3 0 rfl rfl)
theorem dX1_merge_73 : decode cX1_merge 73 = .ok (.if_icmp .ne 7, 3) := dk_160 0 7 (dk_at dksX1_merge_3 3 rfl rfl)
theorem dX1_merge_76 : decode cX1_merge 76 = .ok (.iconst 1, 1) := dk_4 (dk_at dksX1_merge_3 6 rfl rfl)
theorem dX1_merge_77 : decode cX1_merge 77 = .ok (.goto 4, 3) := dk_167 0 4 (dk_at dksX1_merge_3 7 rfl rfl)
theorem dX1_merge_80 : decode cX1_merge 80 = .ok (.iconst 0, 1) := dk_3 (dk_at dksX1_merge_3 10 rfl rfl)
theorem dX1_merge_81 : decode cX1_merge 81 = .ok (.istore 5, 2) := dk_54 5 (dk_at dksX1_merge_3 11 rfl rfl)
theorem dX1_merge_83 : decode cX1_merge 83 = .ok (.iconst 0, 1) := dk_3 (dk_at dksX1_merge_3 13 rfl rfl)
theorem dX1_merge_84 : decode cX1_merge 84 = .ok (.istore 6, 2) := dk_54 6 (dk_at dksX1_merge_3 14 rfl rfl)
theorem dX1_merge_86 : decode cX1_merge 86 = .ok (.iload 6, 2) := dk_21 6 (dk_at dksX1_merge_3 16 rfl rfl)
theorem dX1_merge_88 : decode cX1_merge 88 = .ok (.aload_n 0, 1) := dk_42 (dk_at dksX1_merge_3 18 rfl rfl)
theorem dX1_merge_89 : decode cX1_merge 89 = .ok (.getfield 255, 3) := dk_180 0 255 (dk_at dksX1_merge_3 19 rfl rfl)
theorem dX1_merge_92 : decode cX1_merge 92 = .ok (.if_icmp .ge 45, 3) := dk_162 0 45 (dk_at dksX1_merge_4 0 rfl rfl)
theorem dX1_merge_95 : decode cX1_merge 95 = .ok (.iload 5, 2) := dk_21 5 (dk_at dksX1_merge_4 3 rfl rfl)
theorem dX1_merge_97 : decode cX1_merge 97 = .ok (.ifCond .eq 31, 3) := dk_153 0 31 (dk_at dksX1_merge_4 5 rfl rfl)
theorem dX1_merge_100 : decode cX1_merge 100 = .ok (.iload 6, 2) := dk_21 6 (dk_at dksX1_merge_4 8 rfl rfl)
theorem dX1_merge_102 : decode cX1_merge 102 = .ok (.iload_n 2, 1) := dk_28 (dk_at dksX1_merge_4 10 rfl rfl)
theorem dX1_merge_103 : decode cX1_merge 103 = .ok (.if_icmp .eq 21, 3) := dk_159 0 21 (dk_at dksX1_merge_4 11 rfl rfl)
theorem dX1_merge_106 : decode cX1_merge 106 = .ok (.aload_n 3, 1) := dk_45 (dk_at dksX1_merge_4 14 rfl rfl)
theorem dX1_merge_107 : decode cX1_merge 107 = .ok (.getfield 292, 3) := dk_180 1 36 (dk_at dksX1_merge_4 15 rfl rfl)
theorem dX1_merge_110 : decode cX1_merge 110 = .ok (.iload 6, 2) := dk_21 6 (dk_at dksX1_merge_4 18 rfl rfl)
theorem dX1_merge_112 : decode cX1_merge 112 = .ok (.iaload, 1) := dk_46 (dk_at dksX1_merge_4 20 rfl rfl)
theorem dX1_merge_113 : decode cX1_merge 113 = .ok (.aload 4, 2) := dk_25 4 (dk_at dksX1_merge_4 21 rfl rfl)
theorem dX1_merge_115 : decode cX1_merge 115 = .ok (.getfield 292, 3) := dk_180 1 36 (dk_at dksX1_merge_5 0 rfl rfl)
theorem dX1_merge_118 : decode cX1_merge 118 = .ok (.iload 6, 2) := dk_21 6 (dk_at dksX1_merge_5 3 rfl rfl)
theorem dX1_merge_120 : decode cX1_merge 120 = .ok (.iaload, 1) := dk_46 (dk_at dksX1_merge_5 5 rfl rfl)
theorem dX1_merge_121 : decode cX1_merge 121 = .ok (.if_icmp .ne 7, 3) := dk_160 0 7 (dk_at dksX1_merge_5 6 rfl rfl)
theorem dX1_merge_124 : decode cX1_merge 124 = .ok (.iconst 1, 1) := dk_4 (dk_at dksX1_merge_5 9 rfl rfl)
theorem dX1_merge_125 : decode cX1_merge 125 = .ok (.goto 4, 3) := dk_167 0 4 (dk_at dksX1_merge_5 10 rfl rfl)
theorem dX1_merge_128 : decode cX1_merge 128 = .ok (.iconst 0, 1) := dk_3 (dk_at dksX1_merge_5 13 rfl rfl)
theorem dX1_merge_129 : decode cX1_merge 129 = .ok (.istore 5, 2) := dk_54 5 (dk_at dksX1_merge_5 14 rfl rfl)
theorem dX1_merge_131 : decode cX1_merge 131 = .ok (.iinc 6 1, 3) := dk_132 6 1 (dk_at dksX1_merge_5 16 rfl rfl)
theorem dX1_merge_134 : decode cX1_merge 134 = .ok (.goto (-48), 3) := dk_167 255 208 (dk_at dksX1_merge_5 19 rfl rfl)
theorem dX1_merge_137 : decode cX1_merge 137 = .ok (.aload_n 0, 1) := dk_42 (dk_at dksX1_merge_5 22 rfl rfl)
theorem dX1_merge_138 : decode cX1_merge 138 = .ok (.aload_n 3, 1) := dk_45 (dk_at dksX1_merge_5 23 rfl rfl)
theorem dX1_merge_139 : decode cX1_merge 139 = .ok (.getfield 292, 3) := dk_180 1 36 (dk_at dksX1_merge_6 0 rfl rfl)
theorem dX1_merge_142 : decode cX1_merge 142 = .ok (.iload_n 2, 1) := dk_28 (dk_at dksX1_merge_6 3 rfl rfl)
theorem dX1_merge_143 : decode cX1_merge 143 = .ok (.iaload, 1) := dk_46 (dk_at dksX1_merge_6 4 rfl rfl)
theorem dX1_merge_144 : decode cX1_merge 144 = .ok (.invokevirtual 170, 3) := dk_182 0 170 (dk_at dksX1_merge_6 5 rfl rfl)
theorem dX1_merge_147 : decode cX1_merge 147 = .ok (.astore 6, 2) := dk_58 6 (dk_at dksX1_merge_6 8 rfl rfl)
theorem dX1_merge_149 : decode cX1_merge 149 = .ok (.aload_n 0, 1) := dk_42 (dk_at dksX1_merge_6 10 rfl rfl)
theorem dX1_merge_150 : decode cX1_merge 150 = .ok (.aload 4, 2) := dk_25 4 (dk_at dksX1_merge_6 11 rfl rfl)
theorem dX1_merge_152 : decode cX1_merge 152 = .ok (.getfield 292, 3) := dk_180 1 36 (dk_at dksX1_merge_6 13 rfl rfl)
theorem dX1_merge_155 : decode cX1_merge 155 = .ok (.iload_n 2, 1) := dk_28 (dk_at dksX1_merge_6 16 rfl rfl)
theorem dX1_merge_156 : decode cX1_merge 156 = .ok (.iaload, 1) := dk_46 (dk_at dksX1_merge_6 17 rfl rfl)
theorem dX1_merge_157 : decode cX1_merge 157 = .ok (.invokevirtual 170, 3) := dk_182 0 170 (dk_at dksX1_merge_6 18 rfl rfl)
theorem dX1_merge_160 : decode cX1_merge 160 = .ok (.astore 7, 2) := dk_58 7 (dk_at dksX1_merge_6 21 rfl rfl)
theorem dX1_merge_162 : decode cX1_merge 162 = .ok (.iload 5, 2) := dk_21 5 (dk_at dksX1_merge_7 0 rfl rfl)
theorem dX1_merge_164 : decode cX1_merge 164 = .ok (.ifCond .eq 45, 3) := dk_153 0 45 (dk_at dksX1_merge_7 2 rfl rfl)
theorem dX1_merge_167 : decode cX1_merge 167 = .ok (.aload 6, 2) := dk_25 6 (dk_at dksX1_merge_7 5 rfl rfl)
theorem dX1_merge_169 : decode cX1_merge 169 = .ok (.invokevirtual 195, 3) := dk_182 0 195 (dk_at dksX1_merge_7 7 rfl rfl)
theorem dX1_merge_172 : decode cX1_merge 172 = .ok (.ifCond .eq 37, 3) := dk_153 0 37 (dk_at dksX1_merge_7 10 rfl rfl)
theorem dX1_merge_175 : decode cX1_merge 175 = .ok (.aload 7, 2) := dk_25 7 (dk_at dksX1_merge_7 13 rfl rfl)
theorem dX1_merge_177 : decode cX1_merge 177 = .ok (.invokevirtual 195, 3) := dk_182 0 195 (dk_at dksX1_merge_7 15 rfl rfl)
theorem dX1_merge_180 : decode cX1_merge 180 = .ok (.ifCond .eq 29, 3) := dk_153 0 29 (dk_at dksX1_merge_7 18 rfl rfl)
theorem dX1_merge_183 : decode cX1_merge 183 = .ok (.aload 6, 2) := dk_25 6 (dk_at dksX1_merge_7 21 rfl rfl)
theorem dX1_merge_185 : decode cX1_merge 185 = .ok (.aload 7, 2) := dk_25 7 (dk_at dksX1_merge_8 0 rfl rfl)
theorem dX1_merge_187 : decode cX1_merge 187 = .ok (.invokestatic 236, 3) := dk_184 0 236 (dk_at dksX1_merge_8 2 rfl rfl)
theorem dX1_merge_190 : decode cX1_merge 190 = .ok (.ifCond .eq 19, 3) := dk_153 0 19 (dk_at dksX1_merge_8 5 rfl rfl)
theorem dX1_merge_193 : decode cX1_merge 193 = .ok (.aload_n 0, 1) := dk_42 (dk_at dksX1_merge_8 8 rfl rfl)
theorem dX1_merge_194 : decode cX1_merge 194 = .ok (.getfield 32, 3) := dk_180 0 32 (dk_at dksX1_merge_8 9 rfl rfl)
theorem dX1_merge_197 : decode cX1_merge 197 = .ok (.invokevirtual 101, 3) := dk_182 0 101 (dk_at dksX1_merge_8 12 rfl rfl)
theorem dX1_merge_200 : decode cX1_merge 200 = .ok (.bipush 60, 2) := dk_16 60 (dk_at dksX1_merge_8 15 rfl rfl)
theorem dX1_merge_202 : decode cX1_merge 202 = .ok (.if_icmp .ge 7, 3) := dk_162 0 7 (dk_at dksX1_merge_8 17 rfl rfl)
theorem dX1_merge_205 : decode cX1_merge 205 = .ok (.iconst 1, 1) := dk_4 (dk_at dksX1_merge_8 20 rfl rfl)
theorem dX1_merge_206 : decode cX1_merge 206 = .ok (.goto 4, 3) := dk_167 0 4 (dk_at dksX1_merge_8 21 rfl rfl)
theorem dX1_merge_209 : decode cX1_merge 209 = .ok (.iconst 0, 1) := dk_3 (dk_at dksX1_merge_9 0 rfl rfl)
theorem dX1_merge_210 : decode cX1_merge 210 = .ok (.invokestatic 120, 3) := dk_184 0 120 (dk_at dksX1_merge_9 1 rfl rfl)
theorem dX1_merge_213 : decode cX1_merge 213 = .ok (.aload_n 0, 1) := dk_42 (dk_at dksX1_merge_9 4 rfl rfl)
theorem dX1_merge_214 : decode cX1_merge 214 = .ok (.aload 6, 2) := dk_25 6 (dk_at dksX1_merge_9 5 rfl rfl)
theorem dX1_merge_216 : decode cX1_merge 216 = .ok (.aload 7, 2) := dk_25 7 (dk_at dksX1_merge_9 7 rfl rfl)
theorem dX1_merge_218 : decode cX1_merge 218 = .ok (.invokevirtual 240, 3) := dk_182 0 240 (dk_at dksX1_merge_9 9 rfl rfl)
theorem dX1_merge_221 : decode cX1_merge 221 = .ok (.istore 8, 2) := dk_54 8 (dk_at dksX1_merge_9 12 rfl rfl)
theorem dX1_merge_223 : decode cX1_merge 223 = .ok (.aload_n 0, 1) := dk_42 (dk_at dksX1_merge_9 14 rfl rfl)
theorem dX1_merge_224 : decode cX1_merge 224 = .ok (.getfield 44, 3) := dk_180 0 44 (dk_at dksX1_merge_9 15 rfl rfl)
theorem dX1_merge_227 : decode cX1_merge 227 = .ok (.iload_n 1, 1) := dk_27 (dk_at dksX1_merge_9 18 rfl rfl)
theorem dX1_merge_228 : decode cX1_merge 228 = .ok (.new 261, 3) := dk_187 1 5 (dk_at dksX1_merge_9 19 rfl rfl)
theorem dX1_merge_231 : decode cX1_merge 231 = .ok (.dup, 1) := dk_89 (dk_at dksX1_merge_9 22 rfl rfl)
theorem dX1_merge_232 : decode cX1_merge 232 = .ok (.aload_n 3, 1) := dk_45 (dk_at dksX1_merge_9 23 rfl rfl)
theorem dX1_merge_233 : decode cX1_merge 233 = .ok (.getfield 292, 3) := dk_180 1 36 (dk_at dksX1_merge_10 0 rfl rfl)
theorem dX1_merge_236 : decode cX1_merge 236 = .ok (.iload_n 2, 1) := dk_28 (dk_at dksX1_merge_10 3 rfl rfl)
theorem dX1_merge_237 : decode cX1_merge 237 = .ok (.iload 8, 2) := dk_21 8 (dk_at dksX1_merge_10 4 rfl rfl)
theorem dX1_merge_239 : decode cX1_merge 239 = .ok (.invokestatic 330, 3) := dk_184 1 74 (dk_at dksX1_merge_10 6 rfl rfl)
theorem dX1_merge_242 : decode cX1_merge 242 = .ok (.aload_n 3, 1) := dk_45 (dk_at dksX1_merge_10 9 rfl rfl)
theorem dX1_merge_243 : decode cX1_merge 243 = .ok (.getfield 334, 3) := dk_180 1 78 (dk_at dksX1_merge_10 10 rfl rfl)
theorem dX1_merge_246 : decode cX1_merge 246 = .ok (.invokespecial 263, 3) := dk_183 1 7 (dk_at dksX1_merge_10 13 rfl rfl)
theorem dX1_merge_249 : decode cX1_merge 249 = .ok (.invokevirtual 337, 3) := dk_182 1 81 (dk_at dksX1_merge_10 16 rfl rfl)
theorem dX1_merge_252 : decode cX1_merge 252 = .ok (.pop, 1) := dk_87 (dk_at dksX1_merge_10 19 rfl rfl)
theorem dX1_merge_253 : decode cX1_merge 253 = .ok (.aload_n 0, 1) := dk_42 (dk_at dksX1_merge_10 20 rfl rfl)
theorem dX1_merge_254 : decode cX1_merge 254 = .ok (.getfield 44, 3) := dk_180 0 44 (dk_at dksX1_merge_10 21 rfl rfl)
theorem dX1_merge_257 : decode cX1_merge 257 = .ok (.iload_n 1, 1) := dk_27 (dk_at dksX1_merge_11 0 rfl rfl)
theorem dX1_merge_258 : decode cX1_merge 258 = .ok (.iconst 1, 1) := dk_4 (dk_at dksX1_merge_11 1 rfl rfl)
theorem dX1_merge_259 : decode cX1_merge 259 = .ok (.iadd, 1) := dk_96 (dk_at dksX1_merge_11 2 rfl rfl)
theorem dX1_merge_260 : decode cX1_merge 260 = .ok (.invokevirtual 344, 3) := dk_182 1 88 (dk_at dksX1_merge_11 3 rfl rfl)
theorem dX1_merge_263 : decode cX1_merge 263 = .ok (.pop, 1) := dk_87 (dk_at dksX1_merge_11 6 rfl rfl)
theorem dX1_merge_264 : decode cX1_merge 264 = .ok (.aload_n 0, 1) := dk_42 (dk_at dksX1_merge_11 7 rfl rfl)
theorem dX1_merge_265 : decode cX1_merge 265 = .ok (.invokevirtual 127, 3) := dk_182 0 127 (dk_at dksX1_merge_11 8 rfl rfl)
theorem dX1_merge_268 : decode cX1_merge 268 = .ok (.aload_n 0, 1) := dk_42 (dk_at dksX1_merge_11 11 rfl rfl)
theorem dX1_merge_269 : decode cX1_merge 269 = .ok (.getfield 44, 3) := dk_180 0 44 (dk_at dksX1_merge_11 12 rfl rfl)
theorem dX1_merge_272 : decode cX1_merge 272 = .ok (.invokevirtual 101, 3) := dk_182 0 101 (dk_at dksX1_merge_11 15 rfl rfl)
theorem dX1_merge_275 : decode cX1_merge 275 = .ok (.ireturn, 1) := dk_172 (dk_at dksX1_merge_11 18 rfl rfl)
abbrev cX1_run : ByteArray := prog_1_method_50_code
def yX1_run : MethodName := ⟨RX1, "run", "(IIII)I"⟩
def dkwX1_run_12 : List UInt8 := [160, 0, 6, 16, 254, 172, 25, 7, 89, 180, 1, 133, 4, 96, 181, 1, 133, 25, 7, 180, 1, 78, 172]
abbrev dktX1_run_12 : List UInt8 := dkwX1_run_12 ++ []
def dkwX1_run_11 : List UInt8 := [192, 1, 5, 58, 7, 42, 180, 0, 52, 25, 7, 182, 1, 129, 42, 180, 0, 52, 25, 7, 182, 1, 98, 5]
abbrev dktX1_run_11 : List UInt8 := dkwX1_run_11 ++ dktX1_run_12
def dkwX1_run_10 : List UInt8 := [182, 0, 83, 42, 180, 0, 75, 2, 160, 0, 5, 2, 172, 42, 180, 0, 44, 42, 180, 0, 75, 182, 0, 95]
abbrev dktX1_run_10 : List UInt8 := dkwX1_run_10 ++ dktX1_run_11
def dkwX1_run_9 : List UInt8 := [182, 1, 122, 167, 0, 12, 42, 42, 27, 182, 1, 109, 182, 1, 125, 181, 0, 75, 42, 180, 0, 52]
abbrev dktX1_run_9 : List UInt8 := dkwX1_run_9 ++ dktX1_run_10
def dkwX1_run_8 : List UInt8 := [182, 1, 118, 42, 27, 154, 0, 10, 42, 182, 1, 119, 167, 0, 27, 27, 4, 160, 0, 13, 42, 180, 0, 71]
abbrev dktX1_run_8 : List UInt8 := dkwX1_run_8 ++ dktX1_run_9
def dkwX1_run_7 : List UInt8 := [25, 5, 21, 7, 46, 79, 132, 7, 1, 167, 255, 229, 42, 180, 0, 52, 182, 1, 2, 42, 180, 0, 71]
abbrev dktX1_run_7 : List UInt8 := dkwX1_run_7 ++ dktX1_run_8
def dkwX1_run_6 : List UInt8 := [184, 0, 120, 3, 54, 7, 21, 7, 42, 180, 0, 255, 162, 0, 24, 42, 180, 0, 52, 180, 1, 116, 21, 7]
abbrev dktX1_run_6 : List UInt8 := dkwX1_run_6 ++ dktX1_run_7
def dkwX1_run_5 : List UInt8 := [158, 0, 23, 27, 5, 161, 0, 14, 42, 27, 182, 1, 109, 180, 1, 113, 154, 0, 7, 4, 167, 0, 4, 3]
abbrev dktX1_run_5 : List UInt8 := dkwX1_run_5 ++ dktX1_run_6
def dkwX1_run_4 : List UInt8 := [4, 167, 0, 4, 3, 54, 6, 132, 7, 1, 167, 255, 204, 21, 6, 184, 0, 117, 42, 180, 0, 255]
abbrev dktX1_run_4 : List UInt8 := dkwX1_run_4 ++ dktX1_run_5
def dkwX1_run_3 : List UInt8 := [25, 5, 21, 7, 46, 182, 0, 95, 192, 0, 130, 182, 0, 150, 42, 180, 0, 41, 21, 7, 46, 160, 0, 7]
abbrev dktX1_run_3 : List UInt8 := dkwX1_run_3 ++ dktX1_run_4
def dkwX1_run_2 : List UInt8 := [4, 54, 6, 3, 54, 7, 21, 7, 42, 180, 0, 255, 162, 0, 49, 21, 6, 153, 0, 44, 42, 180, 0, 29]
abbrev dktX1_run_2 : List UInt8 := dkwX1_run_2 ++ dktX1_run_3
def dkwX1_run_1 : List UInt8 := [184, 0, 146, 6, 188, 10, 89, 3, 28, 79, 89, 4, 29, 79, 89, 5, 21, 4, 79, 184, 0, 15, 58, 5]
abbrev dktX1_run_1 : List UInt8 := dkwX1_run_1 ++ dktX1_run_2
def dkwX1_run_0 : List UInt8 := [27, 3, 6, 184, 0, 91, 184, 0, 105, 42, 180, 0, 255, 28, 29, 21, 4, 42, 180, 0, 29, 182, 0, 101]
abbrev dktX1_run_0 : List UInt8 := dkwX1_run_0 ++ dktX1_run_1
theorem dksX1_run_0 : cX1_run.data.toList.drop 0 = dktX1_run_0 := by decide +kernel
theorem dksX1_run_1 : cX1_run.data.toList.drop 24 = dktX1_run_1 := dk_seg dksX1_run_0 24 rfl rfl
theorem dksX1_run_2 : cX1_run.data.toList.drop 48 = dktX1_run_2 := dk_seg dksX1_run_1 24 rfl rfl
theorem dksX1_run_3 : cX1_run.data.toList.drop 72 = dktX1_run_3 := dk_seg dksX1_run_2 24 rfl rfl
theorem dksX1_run_4 : cX1_run.data.toList.drop 96 = dktX1_run_4 := dk_seg dksX1_run_3 24 rfl rfl
theorem dksX1_run_5 : cX1_run.data.toList.drop 118 = dktX1_run_5 := dk_seg dksX1_run_4 22 rfl rfl
theorem dksX1_run_6 : cX1_run.data.toList.drop 142 = dktX1_run_6 := dk_seg dksX1_run_5 24 rfl rfl
theorem dksX1_run_7 : cX1_run.data.toList.drop 166 = dktX1_run_7 := dk_seg dksX1_run_6 24 rfl rfl
theorem dksX1_run_8 : cX1_run.data.toList.drop 189 = dktX1_run_8 := dk_seg dksX1_run_7 23 rfl rfl
theorem dksX1_run_9 : cX1_run.data.toList.drop 213 = dktX1_run_9 := dk_seg dksX1_run_8 24 rfl rfl
theorem dksX1_run_10 : cX1_run.data.toList.drop 235 = dktX1_run_10 := dk_seg dksX1_run_9 22 rfl rfl
theorem dksX1_run_11 : cX1_run.data.toList.drop 259 = dktX1_run_11 := dk_seg dksX1_run_10 24 rfl rfl
theorem dksX1_run_12 : cX1_run.data.toList.drop 283 = dktX1_run_12 := dk_seg dksX1_run_11 24 rfl rfl
theorem dX1_run_0 : decode cX1_run 0 = .ok (.iload_n 1, 1) := dk_27 (dk_at dksX1_run_0 0 rfl rfl)
theorem dX1_run_1 : decode cX1_run 1 = .ok (.iconst 0, 1) := dk_3 (dk_at dksX1_run_0 1 rfl rfl)
theorem dX1_run_2 : decode cX1_run 2 = .ok (.iconst 3, 1) := dk_6 (dk_at dksX1_run_0 2 rfl rfl)
theorem dX1_run_3 : decode cX1_run 3 = .ok (.invokestatic 91, 3) := dk_184 0 91 (dk_at dksX1_run_0 3 rfl rfl)
theorem dX1_run_6 : decode cX1_run 6 = .ok (.invokestatic 105, 3) := dk_184 0 105 (dk_at dksX1_run_0 6 rfl rfl)
theorem dX1_run_9 : decode cX1_run 9 = .ok (.aload_n 0, 1) := dk_42 (dk_at dksX1_run_0 9 rfl rfl)
theorem dX1_run_10 : decode cX1_run 10 = .ok (.getfield 255, 3) := dk_180 0 255 (dk_at dksX1_run_0 10 rfl rfl)
theorem dX1_run_13 : decode cX1_run 13 = .ok (.iload_n 2, 1) := dk_28 (dk_at dksX1_run_0 13 rfl rfl)
theorem dX1_run_14 : decode cX1_run 14 = .ok (.iload_n 3, 1) := dk_29 (dk_at dksX1_run_0 14 rfl rfl)
theorem dX1_run_15 : decode cX1_run 15 = .ok (.iload 4, 2) := dk_21 4 (dk_at dksX1_run_0 15 rfl rfl)
theorem dX1_run_17 : decode cX1_run 17 = .ok (.aload_n 0, 1) := dk_42 (dk_at dksX1_run_0 17 rfl rfl)
theorem dX1_run_18 : decode cX1_run 18 = .ok (.getfield 29, 3) := dk_180 0 29 (dk_at dksX1_run_0 18 rfl rfl)
theorem dX1_run_21 : decode cX1_run 21 = .ok (.invokevirtual 101, 3) := dk_182 0 101 (dk_at dksX1_run_0 21 rfl rfl)
theorem dX1_run_24 : decode cX1_run 24 = .ok (.invokestatic 146, 3) := dk_184 0 146 (dk_at dksX1_run_1 0 rfl rfl)
theorem dX1_run_27 : decode cX1_run 27 = .ok (.iconst 3, 1) := dk_6 (dk_at dksX1_run_1 3 rfl rfl)
theorem dX1_run_28 : decode cX1_run 28 = .ok (.newarray .int, 2) := dk_188_10 (dk_at dksX1_run_1 4 rfl rfl)
theorem dX1_run_30 : decode cX1_run 30 = .ok (.dup, 1) := dk_89 (dk_at dksX1_run_1 6 rfl rfl)
theorem dX1_run_31 : decode cX1_run 31 = .ok (.iconst 0, 1) := dk_3 (dk_at dksX1_run_1 7 rfl rfl)
theorem dX1_run_32 : decode cX1_run 32 = .ok (.iload_n 2, 1) := dk_28 (dk_at dksX1_run_1 8 rfl rfl)
theorem dX1_run_33 : decode cX1_run 33 = .ok (.iastore, 1) := dk_79 (dk_at dksX1_run_1 9 rfl rfl)
theorem dX1_run_34 : decode cX1_run 34 = .ok (.dup, 1) := dk_89 (dk_at dksX1_run_1 10 rfl rfl)
theorem dX1_run_35 : decode cX1_run 35 = .ok (.iconst 1, 1) := dk_4 (dk_at dksX1_run_1 11 rfl rfl)
theorem dX1_run_36 : decode cX1_run 36 = .ok (.iload_n 3, 1) := dk_29 (dk_at dksX1_run_1 12 rfl rfl)
theorem dX1_run_37 : decode cX1_run 37 = .ok (.iastore, 1) := dk_79 (dk_at dksX1_run_1 13 rfl rfl)
theorem dX1_run_38 : decode cX1_run 38 = .ok (.dup, 1) := dk_89 (dk_at dksX1_run_1 14 rfl rfl)
theorem dX1_run_39 : decode cX1_run 39 = .ok (.iconst 2, 1) := dk_5 (dk_at dksX1_run_1 15 rfl rfl)
theorem dX1_run_40 : decode cX1_run 40 = .ok (.iload 4, 2) := dk_21 4 (dk_at dksX1_run_1 16 rfl rfl)
theorem dX1_run_42 : decode cX1_run 42 = .ok (.iastore, 1) := dk_79 (dk_at dksX1_run_1 18 rfl rfl)
theorem dX1_run_43 : decode cX1_run 43 = .ok (.invokestatic 15, 3) := dk_184 0 15 (dk_at dksX1_run_1 19 rfl rfl)
theorem dX1_run_46 : decode cX1_run 46 = .ok (.astore 5, 2) := dk_58 5 (dk_at dksX1_run_1 22 rfl rfl)
theorem dX1_run_48 : decode cX1_run 48 = .ok (.iconst 1, 1) := dk_4 (dk_at dksX1_run_2 0 rfl rfl)
theorem dX1_run_49 : decode cX1_run 49 = .ok (.istore 6, 2) := dk_54 6 (dk_at dksX1_run_2 1 rfl rfl)
theorem dX1_run_51 : decode cX1_run 51 = .ok (.iconst 0, 1) := dk_3 (dk_at dksX1_run_2 3 rfl rfl)
theorem dX1_run_52 : decode cX1_run 52 = .ok (.istore 7, 2) := dk_54 7 (dk_at dksX1_run_2 4 rfl rfl)
theorem dX1_run_54 : decode cX1_run 54 = .ok (.iload 7, 2) := dk_21 7 (dk_at dksX1_run_2 6 rfl rfl)
theorem dX1_run_56 : decode cX1_run 56 = .ok (.aload_n 0, 1) := dk_42 (dk_at dksX1_run_2 8 rfl rfl)
theorem dX1_run_57 : decode cX1_run 57 = .ok (.getfield 255, 3) := dk_180 0 255 (dk_at dksX1_run_2 9 rfl rfl)
theorem dX1_run_60 : decode cX1_run 60 = .ok (.if_icmp .ge 49, 3) := dk_162 0 49 (dk_at dksX1_run_2 12 rfl rfl)
theorem dX1_run_63 : decode cX1_run 63 = .ok (.iload 6, 2) := dk_21 6 (dk_at dksX1_run_2 15 rfl rfl)
theorem dX1_run_65 : decode cX1_run 65 = .ok (.ifCond .eq 44, 3) := dk_153 0 44 (dk_at dksX1_run_2 17 rfl rfl)
theorem dX1_run_68 : decode cX1_run 68 = .ok (.aload_n 0, 1) := dk_42 (dk_at dksX1_run_2 20 rfl rfl)
theorem dX1_run_69 : decode cX1_run 69 = .ok (.getfield 29, 3) := dk_180 0 29 (dk_at dksX1_run_2 21 rfl rfl)
theorem dX1_run_72 : decode cX1_run 72 = .ok (.aload 5, 2) := dk_25 5 (dk_at dksX1_run_3 0 rfl rfl)
theorem dX1_run_74 : decode cX1_run 74 = .ok (.iload 7, 2) := dk_21 7 (dk_at dksX1_run_3 2 rfl rfl)
theorem dX1_run_76 : decode cX1_run 76 = .ok (.iaload, 1) := dk_46 (dk_at dksX1_run_3 4 rfl rfl)
theorem dX1_run_77 : decode cX1_run 77 = .ok (.invokevirtual 95, 3) := dk_182 0 95 (dk_at dksX1_run_3 5 rfl rfl)
theorem dX1_run_80 : decode cX1_run 80 = .ok (.checkcast 130, 3) := dk_192 0 130 (dk_at dksX1_run_3 8 rfl rfl)
theorem dX1_run_83 : decode cX1_run 83 = .ok (.invokevirtual 150, 3) := dk_182 0 150 (dk_at dksX1_run_3 11 rfl rfl)
theorem dX1_run_86 : decode cX1_run 86 = .ok (.aload_n 0, 1) := dk_42 (dk_at dksX1_run_3 14 rfl rfl)
theorem dX1_run_87 : decode cX1_run 87 = .ok (.getfield 41, 3) := dk_180 0 41 (dk_at dksX1_run_3 15 rfl rfl)
theorem dX1_run_90 : decode cX1_run 90 = .ok (.iload 7, 2) := dk_21 7 (dk_at dksX1_run_3 18 rfl rfl)
theorem dX1_run_92 : decode cX1_run 92 = .ok (.iaload, 1) := dk_46 (dk_at dksX1_run_3 20 rfl rfl)
theorem dX1_run_93 : decode cX1_run 93 = .ok (.if_icmp .ne 7, 3) := dk_160 0 7 (dk_at dksX1_run_3 21 rfl rfl)
theorem dX1_run_96 : decode cX1_run 96 = .ok (.iconst 1, 1) := dk_4 (dk_at dksX1_run_4 0 rfl rfl)
theorem dX1_run_97 : decode cX1_run 97 = .ok (.goto 4, 3) := dk_167 0 4 (dk_at dksX1_run_4 1 rfl rfl)
theorem dX1_run_100 : decode cX1_run 100 = .ok (.iconst 0, 1) := dk_3 (dk_at dksX1_run_4 4 rfl rfl)
theorem dX1_run_101 : decode cX1_run 101 = .ok (.istore 6, 2) := dk_54 6 (dk_at dksX1_run_4 5 rfl rfl)
theorem dX1_run_103 : decode cX1_run 103 = .ok (.iinc 7 1, 3) := dk_132 7 1 (dk_at dksX1_run_4 7 rfl rfl)
theorem dX1_run_106 : decode cX1_run 106 = .ok (.goto (-52), 3) := dk_167 255 204 (dk_at dksX1_run_4 10 rfl rfl)
theorem dX1_run_109 : decode cX1_run 109 = .ok (.iload 6, 2) := dk_21 6 (dk_at dksX1_run_4 13 rfl rfl)
theorem dX1_run_111 : decode cX1_run 111 = .ok (.invokestatic 117, 3) := dk_184 0 117 (dk_at dksX1_run_4 15 rfl rfl)
theorem dX1_run_114 : decode cX1_run 114 = .ok (.aload_n 0, 1) := dk_42 (dk_at dksX1_run_4 18 rfl rfl)
theorem dX1_run_115 : decode cX1_run 115 = .ok (.getfield 255, 3) := dk_180 0 255 (dk_at dksX1_run_4 19 rfl rfl)
theorem dX1_run_118 : decode cX1_run 118 = .ok (.ifCond .le 23, 3) := dk_158 0 23 (dk_at dksX1_run_5 0 rfl rfl)
theorem dX1_run_121 : decode cX1_run 121 = .ok (.iload_n 1, 1) := dk_27 (dk_at dksX1_run_5 3 rfl rfl)
theorem dX1_run_122 : decode cX1_run 122 = .ok (.iconst 2, 1) := dk_5 (dk_at dksX1_run_5 4 rfl rfl)
theorem dX1_run_123 : decode cX1_run 123 = .ok (.if_icmp .lt 14, 3) := dk_161 0 14 (dk_at dksX1_run_5 5 rfl rfl)
theorem dX1_run_126 : decode cX1_run 126 = .ok (.aload_n 0, 1) := dk_42 (dk_at dksX1_run_5 8 rfl rfl)
theorem dX1_run_127 : decode cX1_run 127 = .ok (.iload_n 1, 1) := dk_27 (dk_at dksX1_run_5 9 rfl rfl)
theorem dX1_run_128 : decode cX1_run 128 = .ok (.invokevirtual 365, 3) := dk_182 1 109 (dk_at dksX1_run_5 10 rfl rfl)
theorem dX1_run_131 : decode cX1_run 131 = .ok (.getfield 369, 3) := dk_180 1 113 (dk_at dksX1_run_5 13 rfl rfl)
theorem dX1_run_134 : decode cX1_run 134 = .ok (.ifCond .ne 7, 3) := dk_154 0 7 (dk_at dksX1_run_5 16 rfl rfl)
theorem dX1_run_137 : decode cX1_run 137 = .ok (.iconst 1, 1) := dk_4 (dk_at dksX1_run_5 19 rfl rfl)
theorem dX1_run_138 : decode cX1_run 138 = .ok (.goto 4, 3) := dk_167 0 4 (dk_at dksX1_run_5 20 rfl rfl)
theorem dX1_run_141 : decode cX1_run 141 = .ok (.iconst 0, 1) := dk_3 (dk_at dksX1_run_5 23 rfl rfl)
theorem dX1_run_142 : decode cX1_run 142 = .ok (.invokestatic 120, 3) := dk_184 0 120 (dk_at dksX1_run_6 0 rfl rfl)
theorem dX1_run_145 : decode cX1_run 145 = .ok (.iconst 0, 1) := dk_3 (dk_at dksX1_run_6 3 rfl rfl)
theorem dX1_run_146 : decode cX1_run 146 = .ok (.istore 7, 2) := dk_54 7 (dk_at dksX1_run_6 4 rfl rfl)
theorem dX1_run_148 : decode cX1_run 148 = .ok (.iload 7, 2) := dk_21 7 (dk_at dksX1_run_6 6 rfl rfl)
theorem dX1_run_150 : decode cX1_run 150 = .ok (.aload_n 0, 1) := dk_42 (dk_at dksX1_run_6 8 rfl rfl)
theorem dX1_run_151 : decode cX1_run 151 = .ok (.getfield 255, 3) := dk_180 0 255 (dk_at dksX1_run_6 9 rfl rfl)
theorem dX1_run_154 : decode cX1_run 154 = .ok (.if_icmp .ge 24, 3) := dk_162 0 24 (dk_at dksX1_run_6 12 rfl rfl)
theorem dX1_run_157 : decode cX1_run 157 = .ok (.aload_n 0, 1) := dk_42 (dk_at dksX1_run_6 15 rfl rfl)
theorem dX1_run_158 : decode cX1_run 158 = .ok (.getfield 52, 3) := dk_180 0 52 (dk_at dksX1_run_6 16 rfl rfl)
theorem dX1_run_161 : decode cX1_run 161 = .ok (.getfield 372, 3) := dk_180 1 116 (dk_at dksX1_run_6 19 rfl rfl)
theorem dX1_run_164 : decode cX1_run 164 = .ok (.iload 7, 2) := dk_21 7 (dk_at dksX1_run_6 22 rfl rfl)
theorem dX1_run_166 : decode cX1_run 166 = .ok (.aload 5, 2) := dk_25 5 (dk_at dksX1_run_7 0 rfl rfl)
theorem dX1_run_168 : decode cX1_run 168 = .ok (.iload 7, 2) := dk_21 7 (dk_at dksX1_run_7 2 rfl rfl)
theorem dX1_run_170 : decode cX1_run 170 = .ok (.iaload, 1) := dk_46 (dk_at dksX1_run_7 4 rfl rfl)
theorem dX1_run_171 : decode cX1_run 171 = .ok (.iastore, 1) := dk_79 (dk_at dksX1_run_7 5 rfl rfl)
theorem dX1_run_172 : decode cX1_run 172 = .ok (.iinc 7 1, 3) := dk_132 7 1 (dk_at dksX1_run_7 6 rfl rfl)
theorem dX1_run_175 : decode cX1_run 175 = .ok (.goto (-27), 3) := dk_167 255 229 (dk_at dksX1_run_7 9 rfl rfl)
theorem dX1_run_178 : decode cX1_run 178 = .ok (.aload_n 0, 1) := dk_42 (dk_at dksX1_run_7 12 rfl rfl)
theorem dX1_run_179 : decode cX1_run 179 = .ok (.getfield 52, 3) := dk_180 0 52 (dk_at dksX1_run_7 13 rfl rfl)
theorem dX1_run_182 : decode cX1_run 182 = .ok (.invokevirtual 258, 3) := dk_182 1 2 (dk_at dksX1_run_7 16 rfl rfl)
theorem dX1_run_185 : decode cX1_run 185 = .ok (.aload_n 0, 1) := dk_42 (dk_at dksX1_run_7 19 rfl rfl)
theorem dX1_run_186 : decode cX1_run 186 = .ok (.getfield 71, 3) := dk_180 0 71 (dk_at dksX1_run_7 20 rfl rfl)
theorem dX1_run_189 : decode cX1_run 189 = .ok (.invokevirtual 374, 3) := dk_182 1 118 (dk_at dksX1_run_8 0 rfl rfl)
theorem dX1_run_192 : decode cX1_run 192 = .ok (.aload_n 0, 1) := dk_42 (dk_at dksX1_run_8 3 rfl rfl)
theorem dX1_run_193 : decode cX1_run 193 = .ok (.iload_n 1, 1) := dk_27 (dk_at dksX1_run_8 4 rfl rfl)
theorem dX1_run_194 : decode cX1_run 194 = .ok (.ifCond .ne 10, 3) := dk_154 0 10 (dk_at dksX1_run_8 5 rfl rfl)
theorem dX1_run_197 : decode cX1_run 197 = .ok (.aload_n 0, 1) := dk_42 (dk_at dksX1_run_8 8 rfl rfl)
theorem dX1_run_198 : decode cX1_run 198 = .ok (.invokevirtual 375, 3) := dk_182 1 119 (dk_at dksX1_run_8 9 rfl rfl)
theorem dX1_run_201 : decode cX1_run 201 = .ok (.goto 27, 3) := dk_167 0 27 (dk_at dksX1_run_8 12 rfl rfl)
theorem dX1_run_204 : decode cX1_run 204 = .ok (.iload_n 1, 1) := dk_27 (dk_at dksX1_run_8 15 rfl rfl)
theorem dX1_run_205 : decode cX1_run 205 = .ok (.iconst 1, 1) := dk_4 (dk_at dksX1_run_8 16 rfl rfl)
theorem dX1_run_206 : decode cX1_run 206 = .ok (.if_icmp .ne 13, 3) := dk_160 0 13 (dk_at dksX1_run_8 17 rfl rfl)
theorem dX1_run_209 : decode cX1_run 209 = .ok (.aload_n 0, 1) := dk_42 (dk_at dksX1_run_8 20 rfl rfl)
theorem dX1_run_210 : decode cX1_run 210 = .ok (.getfield 71, 3) := dk_180 0 71 (dk_at dksX1_run_8 21 rfl rfl)
theorem dX1_run_213 : decode cX1_run 213 = .ok (.invokevirtual 378, 3) := dk_182 1 122 (dk_at dksX1_run_9 0 rfl rfl)
theorem dX1_run_216 : decode cX1_run 216 = .ok (.goto 12, 3) := dk_167 0 12 (dk_at dksX1_run_9 3 rfl rfl)
theorem dX1_run_219 : decode cX1_run 219 = .ok (.aload_n 0, 1) := dk_42 (dk_at dksX1_run_9 6 rfl rfl)
theorem dX1_run_220 : decode cX1_run 220 = .ok (.aload_n 0, 1) := dk_42 (dk_at dksX1_run_9 7 rfl rfl)
theorem dX1_run_221 : decode cX1_run 221 = .ok (.iload_n 1, 1) := dk_27 (dk_at dksX1_run_9 8 rfl rfl)
theorem dX1_run_222 : decode cX1_run 222 = .ok (.invokevirtual 365, 3) := dk_182 1 109 (dk_at dksX1_run_9 9 rfl rfl)
theorem dX1_run_225 : decode cX1_run 225 = .ok (.invokevirtual 381, 3) := dk_182 1 125 (dk_at dksX1_run_9 12 rfl rfl)
theorem dX1_run_228 : decode cX1_run 228 = .ok (.putfield 75, 3) := dk_181 0 75 (dk_at dksX1_run_9 15 rfl rfl)
theorem dX1_run_231 : decode cX1_run 231 = .ok (.aload_n 0, 1) := dk_42 (dk_at dksX1_run_9 18 rfl rfl)
theorem dX1_run_232 : decode cX1_run 232 = .ok (.getfield 52, 3) := dk_180 0 52 (dk_at dksX1_run_9 19 rfl rfl)
theorem dX1_run_235 : decode cX1_run 235 = .ok (.invokevirtual 83, 3) := dk_182 0 83 (dk_at dksX1_run_10 0 rfl rfl)
theorem dX1_run_238 : decode cX1_run 238 = .ok (.aload_n 0, 1) := dk_42 (dk_at dksX1_run_10 3 rfl rfl)
theorem dX1_run_239 : decode cX1_run 239 = .ok (.getfield 75, 3) := dk_180 0 75 (dk_at dksX1_run_10 4 rfl rfl)
theorem dX1_run_242 : decode cX1_run 242 = .ok (.iconst (-1), 1) := dk_2 (dk_at dksX1_run_10 7 rfl rfl)
theorem dX1_run_243 : decode cX1_run 243 = .ok (.if_icmp .ne 5, 3) := dk_160 0 5 (dk_at dksX1_run_10 8 rfl rfl)
theorem dX1_run_246 : decode cX1_run 246 = .ok (.iconst (-1), 1) := dk_2 (dk_at dksX1_run_10 11 rfl rfl)
theorem dX1_run_247 : decode cX1_run 247 = .ok (.ireturn, 1) := dk_172 (dk_at dksX1_run_10 12 rfl rfl)
theorem dX1_run_248 : decode cX1_run 248 = .ok (.aload_n 0, 1) := dk_42 (dk_at dksX1_run_10 13 rfl rfl)
theorem dX1_run_249 : decode cX1_run 249 = .ok (.getfield 44, 3) := dk_180 0 44 (dk_at dksX1_run_10 14 rfl rfl)
theorem dX1_run_252 : decode cX1_run 252 = .ok (.aload_n 0, 1) := dk_42 (dk_at dksX1_run_10 17 rfl rfl)
theorem dX1_run_253 : decode cX1_run 253 = .ok (.getfield 75, 3) := dk_180 0 75 (dk_at dksX1_run_10 18 rfl rfl)
theorem dX1_run_256 : decode cX1_run 256 = .ok (.invokevirtual 95, 3) := dk_182 0 95 (dk_at dksX1_run_10 21 rfl rfl)
theorem dX1_run_259 : decode cX1_run 259 = .ok (.checkcast 261, 3) := dk_192 1 5 (dk_at dksX1_run_11 0 rfl rfl)
theorem dX1_run_262 : decode cX1_run 262 = .ok (.astore 7, 2) := dk_58 7 (dk_at dksX1_run_11 3 rfl rfl)
theorem dX1_run_264 : decode cX1_run 264 = .ok (.aload_n 0, 1) := dk_42 (dk_at dksX1_run_11 5 rfl rfl)
theorem dX1_run_265 : decode cX1_run 265 = .ok (.getfield 52, 3) := dk_180 0 52 (dk_at dksX1_run_11 6 rfl rfl)
theorem dX1_run_268 : decode cX1_run 268 = .ok (.aload 7, 2) := dk_25 7 (dk_at dksX1_run_11 9 rfl rfl)
theorem dX1_run_270 : decode cX1_run 270 = .ok (.invokevirtual 385, 3) := dk_182 1 129 (dk_at dksX1_run_11 11 rfl rfl)
theorem dX1_run_273 : decode cX1_run 273 = .ok (.aload_n 0, 1) := dk_42 (dk_at dksX1_run_11 14 rfl rfl)
theorem dX1_run_274 : decode cX1_run 274 = .ok (.getfield 52, 3) := dk_180 0 52 (dk_at dksX1_run_11 15 rfl rfl)
theorem dX1_run_277 : decode cX1_run 277 = .ok (.aload 7, 2) := dk_25 7 (dk_at dksX1_run_11 18 rfl rfl)
theorem dX1_run_279 : decode cX1_run 279 = .ok (.invokevirtual 354, 3) := dk_182 1 98 (dk_at dksX1_run_11 20 rfl rfl)
theorem dX1_run_282 : decode cX1_run 282 = .ok (.iconst 2, 1) := dk_5 (dk_at dksX1_run_11 23 rfl rfl)
theorem dX1_run_283 : decode cX1_run 283 = .ok (.if_icmp .ne 6, 3) := dk_160 0 6 (dk_at dksX1_run_12 0 rfl rfl)
theorem dX1_run_286 : decode cX1_run 286 = .ok (.bipush (-2), 2) := dk_16 254 (dk_at dksX1_run_12 3 rfl rfl)
theorem dX1_run_288 : decode cX1_run 288 = .ok (.ireturn, 1) := dk_172 (dk_at dksX1_run_12 5 rfl rfl)
theorem dX1_run_289 : decode cX1_run 289 = .ok (.aload 7, 2) := dk_25 7 (dk_at dksX1_run_12 6 rfl rfl)
theorem dX1_run_291 : decode cX1_run 291 = .ok (.dup, 1) := dk_89 (dk_at dksX1_run_12 8 rfl rfl)
theorem dX1_run_292 : decode cX1_run 292 = .ok (.getfield 389, 3) := dk_180 1 133 (dk_at dksX1_run_12 9 rfl rfl)
theorem dX1_run_295 : decode cX1_run 295 = .ok (.iconst 1, 1) := dk_4 (dk_at dksX1_run_12 12 rfl rfl)
theorem dX1_run_296 : decode cX1_run 296 = .ok (.iadd, 1) := dk_96 (dk_at dksX1_run_12 13 rfl rfl)
theorem dX1_run_297 : decode cX1_run 297 = .ok (.putfield 389, 3) := dk_181 1 133 (dk_at dksX1_run_12 14 rfl rfl)
theorem dX1_run_300 : decode cX1_run 300 = .ok (.aload 7, 2) := dk_25 7 (dk_at dksX1_run_12 17 rfl rfl)
theorem dX1_run_302 : decode cX1_run 302 = .ok (.getfield 334, 3) := dk_180 1 78 (dk_at dksX1_run_12 19 rfl rfl)
theorem dX1_run_305 : decode cX1_run 305 = .ok (.ireturn, 1) := dk_172 (dk_at dksX1_run_12 22 rfl rfl)
abbrev cX1_treeAt : ByteArray := prog_1_method_47_code
def yX1_treeAt : MethodName := ⟨RX1, "treeAt", "(I)LPatternforge$Tree;"⟩
def dkwX1_treeAt_0 : List UInt8 := [27, 5, 160, 0, 10, 42, 180, 0, 61, 167, 0, 7, 42, 180, 0, 65, 77, 44, 182, 1, 91, 44, 176]
abbrev dktX1_treeAt_0 : List UInt8 := dkwX1_treeAt_0 ++ []
theorem dksX1_treeAt_0 : cX1_treeAt.data.toList.drop 0 = dktX1_treeAt_0 := by decide +kernel
theorem dX1_treeAt_0 : decode cX1_treeAt 0 = .ok (.iload_n 1, 1) := dk_27 (dk_at dksX1_treeAt_0 0 rfl rfl)
theorem dX1_treeAt_1 : decode cX1_treeAt 1 = .ok (.iconst 2, 1) := dk_5 (dk_at dksX1_treeAt_0 1 rfl rfl)
theorem dX1_treeAt_2 : decode cX1_treeAt 2 = .ok (.if_icmp .ne 10, 3) := dk_160 0 10 (dk_at dksX1_treeAt_0 2 rfl rfl)
theorem dX1_treeAt_5 : decode cX1_treeAt 5 = .ok (.aload_n 0, 1) := dk_42 (dk_at dksX1_treeAt_0 5 rfl rfl)
theorem dX1_treeAt_6 : decode cX1_treeAt 6 = .ok (.getfield 61, 3) := dk_180 0 61 (dk_at dksX1_treeAt_0 6 rfl rfl)
theorem dX1_treeAt_9 : decode cX1_treeAt 9 = .ok (.goto 7, 3) := dk_167 0 7 (dk_at dksX1_treeAt_0 9 rfl rfl)
theorem dX1_treeAt_12 : decode cX1_treeAt 12 = .ok (.aload_n 0, 1) := dk_42 (dk_at dksX1_treeAt_0 12 rfl rfl)
theorem dX1_treeAt_13 : decode cX1_treeAt 13 = .ok (.getfield 65, 3) := dk_180 0 65 (dk_at dksX1_treeAt_0 13 rfl rfl)
theorem dX1_treeAt_16 : decode cX1_treeAt 16 = .ok (.astore_n 2, 1) := dk_77 (dk_at dksX1_treeAt_0 16 rfl rfl)
theorem dX1_treeAt_17 : decode cX1_treeAt 17 = .ok (.aload_n 2, 1) := dk_44 (dk_at dksX1_treeAt_0 17 rfl rfl)
theorem dX1_treeAt_18 : decode cX1_treeAt 18 = .ok (.invokevirtual 347, 3) := dk_182 1 91 (dk_at dksX1_treeAt_0 18 rfl rfl)
theorem dX1_treeAt_21 : decode cX1_treeAt 21 = .ok (.aload_n 2, 1) := dk_44 (dk_at dksX1_treeAt_0 21 rfl rfl)
theorem dX1_treeAt_22 : decode cX1_treeAt 22 = .ok (.areturn, 1) := dk_176 (dk_at dksX1_treeAt_0 22 rfl rfl)
abbrev cX1_field : ByteArray := prog_1_method_6_code
def yX1_field : MethodName := ⟨RX1, "field", "(II)I"⟩
def dkwX1_field_0 : List UInt8 := [8, 26, 104, 27, 96, 4, 96, 172]
abbrev dktX1_field_0 : List UInt8 := dkwX1_field_0 ++ []
theorem dksX1_field_0 : cX1_field.data.toList.drop 0 = dktX1_field_0 := by decide +kernel
theorem dX1_field_0 : decode cX1_field 0 = .ok (.iconst 5, 1) := dk_8 (dk_at dksX1_field_0 0 rfl rfl)
theorem dX1_field_1 : decode cX1_field 1 = .ok (.iload_n 0, 1) := dk_26 (dk_at dksX1_field_0 1 rfl rfl)
theorem dX1_field_2 : decode cX1_field 2 = .ok (.imul, 1) := dk_104 (dk_at dksX1_field_0 2 rfl rfl)
theorem dX1_field_3 : decode cX1_field 3 = .ok (.iload_n 1, 1) := dk_27 (dk_at dksX1_field_0 3 rfl rfl)
theorem dX1_field_4 : decode cX1_field 4 = .ok (.iadd, 1) := dk_96 (dk_at dksX1_field_0 4 rfl rfl)
theorem dX1_field_5 : decode cX1_field 5 = .ok (.iconst 1, 1) := dk_4 (dk_at dksX1_field_0 5 rfl rfl)
theorem dX1_field_6 : decode cX1_field 6 = .ok (.iadd, 1) := dk_96 (dk_at dksX1_field_0 6 rfl rfl)
theorem dX1_field_7 : decode cX1_field 7 = .ok (.ireturn, 1) := dk_172 (dk_at dksX1_field_0 7 rfl rfl)
abbrev cX1_tryPlain : ByteArray := prog_1_method_48_code
def yX1_tryPlain : MethodName := ⟨RX1, "tryPlain", "()I"⟩
def dkwX1_tryPlain_3 : List UInt8 := [167, 255, 189, 2, 172]
abbrev dktX1_tryPlain_3 : List UInt8 := dkwX1_tryPlain_3 ++ []
def dkwX1_tryPlain_2 : List UInt8 := [180, 0, 44, 27, 182, 0, 95, 192, 1, 5, 182, 1, 98, 4, 159, 0, 5, 27, 172, 132, 1, 1]
abbrev dktX1_tryPlain_2 : List UInt8 := dkwX1_tryPlain_2 ++ dktX1_tryPlain_3
def dkwX1_tryPlain_1 : List UInt8 := [42, 180, 0, 44, 27, 182, 0, 95, 192, 1, 5, 182, 1, 94, 4, 160, 0, 27, 42, 180, 0, 52, 42]
abbrev dktX1_tryPlain_1 : List UInt8 := dkwX1_tryPlain_1 ++ dktX1_tryPlain_2
def dkwX1_tryPlain_0 : List UInt8 := [3, 60, 27, 42, 180, 0, 44, 182, 0, 101, 162, 0, 62, 42, 180, 0, 52, 182, 0, 83, 42, 180, 0, 52]
abbrev dktX1_tryPlain_0 : List UInt8 := dkwX1_tryPlain_0 ++ dktX1_tryPlain_1
theorem dksX1_tryPlain_0 : cX1_tryPlain.data.toList.drop 0 = dktX1_tryPlain_0 := by decide +kernel
theorem dksX1_tryPlain_1 : cX1_tryPlain.data.toList.drop 24 = dktX1_tryPlain_1 := dk_seg dksX1_tryPlain_0 24 rfl rfl
theorem dksX1_tryPlain_2 : cX1_tryPlain.data.toList.drop 47 = dktX1_tryPlain_2 := dk_seg dksX1_tryPlain_1 23 rfl rfl
theorem dksX1_tryPlain_3 : cX1_tryPlain.data.toList.drop 69 = dktX1_tryPlain_3 := dk_seg dksX1_tryPlain_2 22 rfl rfl
theorem dX1_tryPlain_0 : decode cX1_tryPlain 0 = .ok (.iconst 0, 1) := dk_3 (dk_at dksX1_tryPlain_0 0 rfl rfl)
theorem dX1_tryPlain_1 : decode cX1_tryPlain 1 = .ok (.istore_n 1, 1) := dk_60 (dk_at dksX1_tryPlain_0 1 rfl rfl)
theorem dX1_tryPlain_2 : decode cX1_tryPlain 2 = .ok (.iload_n 1, 1) := dk_27 (dk_at dksX1_tryPlain_0 2 rfl rfl)
theorem dX1_tryPlain_3 : decode cX1_tryPlain 3 = .ok (.aload_n 0, 1) := dk_42 (dk_at dksX1_tryPlain_0 3 rfl rfl)
theorem dX1_tryPlain_4 : decode cX1_tryPlain 4 = .ok (.getfield 44, 3) := dk_180 0 44 (dk_at dksX1_tryPlain_0 4 rfl rfl)
theorem dX1_tryPlain_7 : decode cX1_tryPlain 7 = .ok (.invokevirtual 101, 3) := dk_182 0 101 (dk_at dksX1_tryPlain_0 7 rfl rfl)
theorem dX1_tryPlain_10 : decode cX1_tryPlain 10 = .ok (.if_icmp .ge 62, 3) := dk_162 0 62 (dk_at dksX1_tryPlain_0 10 rfl rfl)
theorem dX1_tryPlain_13 : decode cX1_tryPlain 13 = .ok (.aload_n 0, 1) := dk_42 (dk_at dksX1_tryPlain_0 13 rfl rfl)
theorem dX1_tryPlain_14 : decode cX1_tryPlain 14 = .ok (.getfield 52, 3) := dk_180 0 52 (dk_at dksX1_tryPlain_0 14 rfl rfl)
theorem dX1_tryPlain_17 : decode cX1_tryPlain 17 = .ok (.invokevirtual 83, 3) := dk_182 0 83 (dk_at dksX1_tryPlain_0 17 rfl rfl)
theorem dX1_tryPlain_20 : decode cX1_tryPlain 20 = .ok (.aload_n 0, 1) := dk_42 (dk_at dksX1_tryPlain_0 20 rfl rfl)
theorem dX1_tryPlain_21 : decode cX1_tryPlain 21 = .ok (.getfield 52, 3) := dk_180 0 52 (dk_at dksX1_tryPlain_0 21 rfl rfl)
theorem dX1_tryPlain_24 : decode cX1_tryPlain 24 = .ok (.aload_n 0, 1) := dk_42 (dk_at dksX1_tryPlain_1 0 rfl rfl)
theorem dX1_tryPlain_25 : decode cX1_tryPlain 25 = .ok (.getfield 44, 3) := dk_180 0 44 (dk_at dksX1_tryPlain_1 1 rfl rfl)
theorem dX1_tryPlain_28 : decode cX1_tryPlain 28 = .ok (.iload_n 1, 1) := dk_27 (dk_at dksX1_tryPlain_1 4 rfl rfl)
theorem dX1_tryPlain_29 : decode cX1_tryPlain 29 = .ok (.invokevirtual 95, 3) := dk_182 0 95 (dk_at dksX1_tryPlain_1 5 rfl rfl)
theorem dX1_tryPlain_32 : decode cX1_tryPlain 32 = .ok (.checkcast 261, 3) := dk_192 1 5 (dk_at dksX1_tryPlain_1 8 rfl rfl)
theorem dX1_tryPlain_35 : decode cX1_tryPlain 35 = .ok (.invokevirtual 350, 3) := dk_182 1 94 (dk_at dksX1_tryPlain_1 11 rfl rfl)
theorem dX1_tryPlain_38 : decode cX1_tryPlain 38 = .ok (.iconst 1, 1) := dk_4 (dk_at dksX1_tryPlain_1 14 rfl rfl)
theorem dX1_tryPlain_39 : decode cX1_tryPlain 39 = .ok (.if_icmp .ne 27, 3) := dk_160 0 27 (dk_at dksX1_tryPlain_1 15 rfl rfl)
theorem dX1_tryPlain_42 : decode cX1_tryPlain 42 = .ok (.aload_n 0, 1) := dk_42 (dk_at dksX1_tryPlain_1 18 rfl rfl)
theorem dX1_tryPlain_43 : decode cX1_tryPlain 43 = .ok (.getfield 52, 3) := dk_180 0 52 (dk_at dksX1_tryPlain_1 19 rfl rfl)
theorem dX1_tryPlain_46 : decode cX1_tryPlain 46 = .ok (.aload_n 0, 1) := dk_42 (dk_at dksX1_tryPlain_1 22 rfl rfl)
theorem dX1_tryPlain_47 : decode cX1_tryPlain 47 = .ok (.getfield 44, 3) := dk_180 0 44 (dk_at dksX1_tryPlain_2 0 rfl rfl)
theorem dX1_tryPlain_50 : decode cX1_tryPlain 50 = .ok (.iload_n 1, 1) := dk_27 (dk_at dksX1_tryPlain_2 3 rfl rfl)
theorem dX1_tryPlain_51 : decode cX1_tryPlain 51 = .ok (.invokevirtual 95, 3) := dk_182 0 95 (dk_at dksX1_tryPlain_2 4 rfl rfl)
theorem dX1_tryPlain_54 : decode cX1_tryPlain 54 = .ok (.checkcast 261, 3) := dk_192 1 5 (dk_at dksX1_tryPlain_2 7 rfl rfl)
theorem dX1_tryPlain_57 : decode cX1_tryPlain 57 = .ok (.invokevirtual 354, 3) := dk_182 1 98 (dk_at dksX1_tryPlain_2 10 rfl rfl)
theorem dX1_tryPlain_60 : decode cX1_tryPlain 60 = .ok (.iconst 1, 1) := dk_4 (dk_at dksX1_tryPlain_2 13 rfl rfl)
theorem dX1_tryPlain_61 : decode cX1_tryPlain 61 = .ok (.if_icmp .eq 5, 3) := dk_159 0 5 (dk_at dksX1_tryPlain_2 14 rfl rfl)
theorem dX1_tryPlain_64 : decode cX1_tryPlain 64 = .ok (.iload_n 1, 1) := dk_27 (dk_at dksX1_tryPlain_2 17 rfl rfl)
theorem dX1_tryPlain_65 : decode cX1_tryPlain 65 = .ok (.ireturn, 1) := dk_172 (dk_at dksX1_tryPlain_2 18 rfl rfl)
theorem dX1_tryPlain_66 : decode cX1_tryPlain 66 = .ok (.iinc 1 1, 3) := dk_132 1 1 (dk_at dksX1_tryPlain_2 19 rfl rfl)
theorem dX1_tryPlain_69 : decode cX1_tryPlain 69 = .ok (.goto (-67), 3) := dk_167 255 189 (dk_at dksX1_tryPlain_3 0 rfl rfl)
theorem dX1_tryPlain_72 : decode cX1_tryPlain 72 = .ok (.iconst (-1), 1) := dk_2 (dk_at dksX1_tryPlain_3 3 rfl rfl)
theorem dX1_tryPlain_73 : decode cX1_tryPlain 73 = .ok (.ireturn, 1) := dk_172 (dk_at dksX1_tryPlain_3 4 rfl rfl)
abbrev cX1_tryTree : ByteArray := prog_1_method_49_code
def yX1_tryTree : MethodName := ⟨RX1, "tryTree", "(LPatternforge$Tree;)I"⟩
def dkwX1_tryTree_1 : List UInt8 := [46, 172]
abbrev dktX1_tryTree_1 : List UInt8 := dkwX1_tryTree_1 ++ []
def dkwX1_tryTree_0 : List UInt8 := [43, 182, 1, 101, 61, 43, 180, 1, 104, 28, 46, 8, 160, 0, 7, 2, 167, 0, 9, 43, 180, 1, 107, 28]
abbrev dktX1_tryTree_0 : List UInt8 := dkwX1_tryTree_0 ++ dktX1_tryTree_1
theorem dksX1_tryTree_0 : cX1_tryTree.data.toList.drop 0 = dktX1_tryTree_0 := by decide +kernel
theorem dksX1_tryTree_1 : cX1_tryTree.data.toList.drop 24 = dktX1_tryTree_1 := dk_seg dksX1_tryTree_0 24 rfl rfl
theorem dX1_tryTree_0 : decode cX1_tryTree 0 = .ok (.aload_n 1, 1) := dk_43 (dk_at dksX1_tryTree_0 0 rfl rfl)
theorem dX1_tryTree_1 : decode cX1_tryTree 1 = .ok (.invokevirtual 357, 3) := dk_182 1 101 (dk_at dksX1_tryTree_0 1 rfl rfl)
theorem dX1_tryTree_4 : decode cX1_tryTree 4 = .ok (.istore_n 2, 1) := dk_61 (dk_at dksX1_tryTree_0 4 rfl rfl)
theorem dX1_tryTree_5 : decode cX1_tryTree 5 = .ok (.aload_n 1, 1) := dk_43 (dk_at dksX1_tryTree_0 5 rfl rfl)
theorem dX1_tryTree_6 : decode cX1_tryTree 6 = .ok (.getfield 360, 3) := dk_180 1 104 (dk_at dksX1_tryTree_0 6 rfl rfl)
theorem dX1_tryTree_9 : decode cX1_tryTree 9 = .ok (.iload_n 2, 1) := dk_28 (dk_at dksX1_tryTree_0 9 rfl rfl)
theorem dX1_tryTree_10 : decode cX1_tryTree 10 = .ok (.iaload, 1) := dk_46 (dk_at dksX1_tryTree_0 10 rfl rfl)
theorem dX1_tryTree_11 : decode cX1_tryTree 11 = .ok (.iconst 5, 1) := dk_8 (dk_at dksX1_tryTree_0 11 rfl rfl)
theorem dX1_tryTree_12 : decode cX1_tryTree 12 = .ok (.if_icmp .ne 7, 3) := dk_160 0 7 (dk_at dksX1_tryTree_0 12 rfl rfl)
theorem dX1_tryTree_15 : decode cX1_tryTree 15 = .ok (.iconst (-1), 1) := dk_2 (dk_at dksX1_tryTree_0 15 rfl rfl)
theorem dX1_tryTree_16 : decode cX1_tryTree 16 = .ok (.goto 9, 3) := dk_167 0 9 (dk_at dksX1_tryTree_0 16 rfl rfl)
theorem dX1_tryTree_19 : decode cX1_tryTree 19 = .ok (.aload_n 1, 1) := dk_43 (dk_at dksX1_tryTree_0 19 rfl rfl)
theorem dX1_tryTree_20 : decode cX1_tryTree 20 = .ok (.getfield 363, 3) := dk_180 1 107 (dk_at dksX1_tryTree_0 20 rfl rfl)
theorem dX1_tryTree_23 : decode cX1_tryTree 23 = .ok (.iload_n 2, 1) := dk_28 (dk_at dksX1_tryTree_0 23 rfl rfl)
theorem dX1_tryTree_24 : decode cX1_tryTree 24 = .ok (.iaload, 1) := dk_46 (dk_at dksX1_tryTree_1 0 rfl rfl)
theorem dX1_tryTree_25 : decode cX1_tryTree 25 = .ok (.ireturn, 1) := dk_172 (dk_at dksX1_tryTree_1 1 rfl rfl)
abbrev cX1_viewAt : ByteArray := prog_1_method_53_code
def yX1_viewAt : MethodName := ⟨RX1, "viewAt", "(I)I"⟩
def dkwX1_viewAt_2 : List UInt8 := [180, 1, 149, 27, 46, 96, 172]
abbrev dktX1_viewAt_2 : List UInt8 := dkwX1_viewAt_2 ++ []
def dkwX1_viewAt_1 : List UInt8 := [180, 1, 143, 27, 46, 104, 16, 10, 42, 180, 0, 52, 180, 1, 146, 27, 46, 104, 96, 42, 180, 0, 52]
abbrev dktX1_viewAt_1 : List UInt8 := dkwX1_viewAt_1 ++ dktX1_viewAt_2
def dkwX1_viewAt_0 : List UInt8 := [27, 3, 42, 180, 0, 52, 180, 1, 139, 4, 100, 184, 0, 91, 184, 0, 105, 19, 1, 142, 42, 180, 0, 52]
abbrev dktX1_viewAt_0 : List UInt8 := dkwX1_viewAt_0 ++ dktX1_viewAt_1
theorem dksX1_viewAt_0 : cX1_viewAt.data.toList.drop 0 = dktX1_viewAt_0 := by decide +kernel
theorem dksX1_viewAt_1 : cX1_viewAt.data.toList.drop 24 = dktX1_viewAt_1 := dk_seg dksX1_viewAt_0 24 rfl rfl
theorem dksX1_viewAt_2 : cX1_viewAt.data.toList.drop 47 = dktX1_viewAt_2 := dk_seg dksX1_viewAt_1 23 rfl rfl
theorem dX1_viewAt_0 : decode cX1_viewAt 0 = .ok (.iload_n 1, 1) := dk_27 (dk_at dksX1_viewAt_0 0 rfl rfl)
theorem dX1_viewAt_1 : decode cX1_viewAt 1 = .ok (.iconst 0, 1) := dk_3 (dk_at dksX1_viewAt_0 1 rfl rfl)
theorem dX1_viewAt_2 : decode cX1_viewAt 2 = .ok (.aload_n 0, 1) := dk_42 (dk_at dksX1_viewAt_0 2 rfl rfl)
theorem dX1_viewAt_3 : decode cX1_viewAt 3 = .ok (.getfield 52, 3) := dk_180 0 52 (dk_at dksX1_viewAt_0 3 rfl rfl)
theorem dX1_viewAt_6 : decode cX1_viewAt 6 = .ok (.getfield 395, 3) := dk_180 1 139 (dk_at dksX1_viewAt_0 6 rfl rfl)
theorem dX1_viewAt_9 : decode cX1_viewAt 9 = .ok (.iconst 1, 1) := dk_4 (dk_at dksX1_viewAt_0 9 rfl rfl)
theorem dX1_viewAt_10 : decode cX1_viewAt 10 = .ok (.isub, 1) := dk_100 (dk_at dksX1_viewAt_0 10 rfl rfl)
theorem dX1_viewAt_11 : decode cX1_viewAt 11 = .ok (.invokestatic 91, 3) := dk_184 0 91 (dk_at dksX1_viewAt_0 11 rfl rfl)
theorem dX1_viewAt_14 : decode cX1_viewAt 14 = .ok (.invokestatic 105, 3) := dk_184 0 105 (dk_at dksX1_viewAt_0 14 rfl rfl)
theorem dX1_viewAt_17 : decode cX1_viewAt 17 = .ok (.ldc_w 398, 3) := dk_19 1 142 (dk_at dksX1_viewAt_0 17 rfl rfl)
theorem dX1_viewAt_20 : decode cX1_viewAt 20 = .ok (.aload_n 0, 1) := dk_42 (dk_at dksX1_viewAt_0 20 rfl rfl)
theorem dX1_viewAt_21 : decode cX1_viewAt 21 = .ok (.getfield 52, 3) := dk_180 0 52 (dk_at dksX1_viewAt_0 21 rfl rfl)
theorem dX1_viewAt_24 : decode cX1_viewAt 24 = .ok (.getfield 399, 3) := dk_180 1 143 (dk_at dksX1_viewAt_1 0 rfl rfl)
theorem dX1_viewAt_27 : decode cX1_viewAt 27 = .ok (.iload_n 1, 1) := dk_27 (dk_at dksX1_viewAt_1 3 rfl rfl)
theorem dX1_viewAt_28 : decode cX1_viewAt 28 = .ok (.iaload, 1) := dk_46 (dk_at dksX1_viewAt_1 4 rfl rfl)
theorem dX1_viewAt_29 : decode cX1_viewAt 29 = .ok (.imul, 1) := dk_104 (dk_at dksX1_viewAt_1 5 rfl rfl)
theorem dX1_viewAt_30 : decode cX1_viewAt 30 = .ok (.bipush 10, 2) := dk_16 10 (dk_at dksX1_viewAt_1 6 rfl rfl)
theorem dX1_viewAt_32 : decode cX1_viewAt 32 = .ok (.aload_n 0, 1) := dk_42 (dk_at dksX1_viewAt_1 8 rfl rfl)
theorem dX1_viewAt_33 : decode cX1_viewAt 33 = .ok (.getfield 52, 3) := dk_180 0 52 (dk_at dksX1_viewAt_1 9 rfl rfl)
theorem dX1_viewAt_36 : decode cX1_viewAt 36 = .ok (.getfield 402, 3) := dk_180 1 146 (dk_at dksX1_viewAt_1 12 rfl rfl)
theorem dX1_viewAt_39 : decode cX1_viewAt 39 = .ok (.iload_n 1, 1) := dk_27 (dk_at dksX1_viewAt_1 15 rfl rfl)
theorem dX1_viewAt_40 : decode cX1_viewAt 40 = .ok (.iaload, 1) := dk_46 (dk_at dksX1_viewAt_1 16 rfl rfl)
theorem dX1_viewAt_41 : decode cX1_viewAt 41 = .ok (.imul, 1) := dk_104 (dk_at dksX1_viewAt_1 17 rfl rfl)
theorem dX1_viewAt_42 : decode cX1_viewAt 42 = .ok (.iadd, 1) := dk_96 (dk_at dksX1_viewAt_1 18 rfl rfl)
theorem dX1_viewAt_43 : decode cX1_viewAt 43 = .ok (.aload_n 0, 1) := dk_42 (dk_at dksX1_viewAt_1 19 rfl rfl)
theorem dX1_viewAt_44 : decode cX1_viewAt 44 = .ok (.getfield 52, 3) := dk_180 0 52 (dk_at dksX1_viewAt_1 20 rfl rfl)
theorem dX1_viewAt_47 : decode cX1_viewAt 47 = .ok (.getfield 405, 3) := dk_180 1 149 (dk_at dksX1_viewAt_2 0 rfl rfl)
theorem dX1_viewAt_50 : decode cX1_viewAt 50 = .ok (.iload_n 1, 1) := dk_27 (dk_at dksX1_viewAt_2 3 rfl rfl)
theorem dX1_viewAt_51 : decode cX1_viewAt 51 = .ok (.iaload, 1) := dk_46 (dk_at dksX1_viewAt_2 4 rfl rfl)
theorem dX1_viewAt_52 : decode cX1_viewAt 52 = .ok (.iadd, 1) := dk_96 (dk_at dksX1_viewAt_2 5 rfl rfl)
theorem dX1_viewAt_53 : decode cX1_viewAt 53 = .ok (.ireturn, 1) := dk_172 (dk_at dksX1_viewAt_2 6 rfl rfl)
abbrev cX1_bound : ByteArray := prog_1_method_54_code
def yX1_bound : MethodName := ⟨RX1, "bound", "(I)I"⟩
def dkwX1_bound_1 : List UInt8 := [180, 0, 52, 180, 1, 152, 27, 46, 172]
abbrev dktX1_bound_1 : List UInt8 := dkwX1_bound_1 ++ []
def dkwX1_bound_0 : List UInt8 := [27, 3, 8, 184, 0, 91, 184, 0, 105, 42, 180, 0, 75, 2, 160, 0, 7, 2, 167, 0, 12, 42]
abbrev dktX1_bound_0 : List UInt8 := dkwX1_bound_0 ++ dktX1_bound_1
theorem dksX1_bound_0 : cX1_bound.data.toList.drop 0 = dktX1_bound_0 := by decide +kernel
theorem dksX1_bound_1 : cX1_bound.data.toList.drop 22 = dktX1_bound_1 := dk_seg dksX1_bound_0 22 rfl rfl
theorem dX1_bound_0 : decode cX1_bound 0 = .ok (.iload_n 1, 1) := dk_27 (dk_at dksX1_bound_0 0 rfl rfl)
theorem dX1_bound_1 : decode cX1_bound 1 = .ok (.iconst 0, 1) := dk_3 (dk_at dksX1_bound_0 1 rfl rfl)
theorem dX1_bound_2 : decode cX1_bound 2 = .ok (.iconst 5, 1) := dk_8 (dk_at dksX1_bound_0 2 rfl rfl)
theorem dX1_bound_3 : decode cX1_bound 3 = .ok (.invokestatic 91, 3) := dk_184 0 91 (dk_at dksX1_bound_0 3 rfl rfl)
theorem dX1_bound_6 : decode cX1_bound 6 = .ok (.invokestatic 105, 3) := dk_184 0 105 (dk_at dksX1_bound_0 6 rfl rfl)
theorem dX1_bound_9 : decode cX1_bound 9 = .ok (.aload_n 0, 1) := dk_42 (dk_at dksX1_bound_0 9 rfl rfl)
theorem dX1_bound_10 : decode cX1_bound 10 = .ok (.getfield 75, 3) := dk_180 0 75 (dk_at dksX1_bound_0 10 rfl rfl)
theorem dX1_bound_13 : decode cX1_bound 13 = .ok (.iconst (-1), 1) := dk_2 (dk_at dksX1_bound_0 13 rfl rfl)
theorem dX1_bound_14 : decode cX1_bound 14 = .ok (.if_icmp .ne 7, 3) := dk_160 0 7 (dk_at dksX1_bound_0 14 rfl rfl)
theorem dX1_bound_17 : decode cX1_bound 17 = .ok (.iconst (-1), 1) := dk_2 (dk_at dksX1_bound_0 17 rfl rfl)
theorem dX1_bound_18 : decode cX1_bound 18 = .ok (.goto 12, 3) := dk_167 0 12 (dk_at dksX1_bound_0 18 rfl rfl)
theorem dX1_bound_21 : decode cX1_bound 21 = .ok (.aload_n 0, 1) := dk_42 (dk_at dksX1_bound_0 21 rfl rfl)
theorem dX1_bound_22 : decode cX1_bound 22 = .ok (.getfield 52, 3) := dk_180 0 52 (dk_at dksX1_bound_1 0 rfl rfl)
theorem dX1_bound_25 : decode cX1_bound 25 = .ok (.getfield 408, 3) := dk_180 1 152 (dk_at dksX1_bound_1 3 rfl rfl)
theorem dX1_bound_28 : decode cX1_bound 28 = .ok (.iload_n 1, 1) := dk_27 (dk_at dksX1_bound_1 6 rfl rfl)
theorem dX1_bound_29 : decode cX1_bound 29 = .ok (.iaload, 1) := dk_46 (dk_at dksX1_bound_1 7 rfl rfl)
theorem dX1_bound_30 : decode cX1_bound 30 = .ok (.ireturn, 1) := dk_172 (dk_at dksX1_bound_1 8 rfl rfl)
abbrev cX1_taken : ByteArray := prog_1_method_55_code
def yX1_taken : MethodName := ⟨RX1, "taken", "(I)I"⟩
def dkwX1_taken_0 : List UInt8 := [42, 27, 182, 1, 38, 180, 1, 133, 172]
abbrev dktX1_taken_0 : List UInt8 := dkwX1_taken_0 ++ []
theorem dksX1_taken_0 : cX1_taken.data.toList.drop 0 = dktX1_taken_0 := by decide +kernel
theorem dX1_taken_0 : decode cX1_taken 0 = .ok (.aload_n 0, 1) := dk_42 (dk_at dksX1_taken_0 0 rfl rfl)
theorem dX1_taken_1 : decode cX1_taken 1 = .ok (.iload_n 1, 1) := dk_27 (dk_at dksX1_taken_0 1 rfl rfl)
theorem dX1_taken_2 : decode cX1_taken 2 = .ok (.invokevirtual 294, 3) := dk_182 1 38 (dk_at dksX1_taken_0 2 rfl rfl)
theorem dX1_taken_5 : decode cX1_taken 5 = .ok (.getfield 389, 3) := dk_180 1 133 (dk_at dksX1_taken_0 5 rfl rfl)
theorem dX1_taken_8 : decode cX1_taken 8 = .ok (.ireturn, 1) := dk_172 (dk_at dksX1_taken_0 8 rfl rfl)
abbrev cX1_size : ByteArray := prog_1_method_56_code
def yX1_size : MethodName := ⟨RX1, "size", "(IZ)I"⟩
def dkwX1_size_2 : List UInt8 := [182, 1, 157, 167, 0, 7, 45, 180, 1, 160, 172]
abbrev dktX1_size_2 : List UInt8 := dkwX1_size_2 ++ []
def dkwX1_size_1 : List UInt8 := [42, 27, 182, 1, 109, 78, 45, 180, 1, 113, 153, 0, 8, 16, 253, 167, 0, 18, 28, 153, 0, 10, 45]
abbrev dktX1_size_1 : List UInt8 := dkwX1_size_1 ++ dktX1_size_2
def dkwX1_size_0 : List UInt8 := [27, 5, 6, 184, 0, 91, 184, 0, 105, 42, 180, 0, 255, 158, 0, 7, 4, 167, 0, 4, 3, 184, 0, 120]
abbrev dktX1_size_0 : List UInt8 := dkwX1_size_0 ++ dktX1_size_1
theorem dksX1_size_0 : cX1_size.data.toList.drop 0 = dktX1_size_0 := by decide +kernel
theorem dksX1_size_1 : cX1_size.data.toList.drop 24 = dktX1_size_1 := dk_seg dksX1_size_0 24 rfl rfl
theorem dksX1_size_2 : cX1_size.data.toList.drop 47 = dktX1_size_2 := dk_seg dksX1_size_1 23 rfl rfl
theorem dX1_size_0 : decode cX1_size 0 = .ok (.iload_n 1, 1) := dk_27 (dk_at dksX1_size_0 0 rfl rfl)
theorem dX1_size_1 : decode cX1_size 1 = .ok (.iconst 2, 1) := dk_5 (dk_at dksX1_size_0 1 rfl rfl)
theorem dX1_size_2 : decode cX1_size 2 = .ok (.iconst 3, 1) := dk_6 (dk_at dksX1_size_0 2 rfl rfl)
theorem dX1_size_3 : decode cX1_size 3 = .ok (.invokestatic 91, 3) := dk_184 0 91 (dk_at dksX1_size_0 3 rfl rfl)
theorem dX1_size_6 : decode cX1_size 6 = .ok (.invokestatic 105, 3) := dk_184 0 105 (dk_at dksX1_size_0 6 rfl rfl)
theorem dX1_size_9 : decode cX1_size 9 = .ok (.aload_n 0, 1) := dk_42 (dk_at dksX1_size_0 9 rfl rfl)
theorem dX1_size_10 : decode cX1_size 10 = .ok (.getfield 255, 3) := dk_180 0 255 (dk_at dksX1_size_0 10 rfl rfl)
theorem dX1_size_13 : decode cX1_size 13 = .ok (.ifCond .le 7, 3) := dk_158 0 7 (dk_at dksX1_size_0 13 rfl rfl)
theorem dX1_size_16 : decode cX1_size 16 = .ok (.iconst 1, 1) := dk_4 (dk_at dksX1_size_0 16 rfl rfl)
theorem dX1_size_17 : decode cX1_size 17 = .ok (.goto 4, 3) := dk_167 0 4 (dk_at dksX1_size_0 17 rfl rfl)
theorem dX1_size_20 : decode cX1_size 20 = .ok (.iconst 0, 1) := dk_3 (dk_at dksX1_size_0 20 rfl rfl)
theorem dX1_size_21 : decode cX1_size 21 = .ok (.invokestatic 120, 3) := dk_184 0 120 (dk_at dksX1_size_0 21 rfl rfl)
theorem dX1_size_24 : decode cX1_size 24 = .ok (.aload_n 0, 1) := dk_42 (dk_at dksX1_size_1 0 rfl rfl)
theorem dX1_size_25 : decode cX1_size 25 = .ok (.iload_n 1, 1) := dk_27 (dk_at dksX1_size_1 1 rfl rfl)
theorem dX1_size_26 : decode cX1_size 26 = .ok (.invokevirtual 365, 3) := dk_182 1 109 (dk_at dksX1_size_1 2 rfl rfl)
theorem dX1_size_29 : decode cX1_size 29 = .ok (.astore_n 3, 1) := dk_78 (dk_at dksX1_size_1 5 rfl rfl)
theorem dX1_size_30 : decode cX1_size 30 = .ok (.aload_n 3, 1) := dk_45 (dk_at dksX1_size_1 6 rfl rfl)
theorem dX1_size_31 : decode cX1_size 31 = .ok (.getfield 369, 3) := dk_180 1 113 (dk_at dksX1_size_1 7 rfl rfl)
theorem dX1_size_34 : decode cX1_size 34 = .ok (.ifCond .eq 8, 3) := dk_153 0 8 (dk_at dksX1_size_1 10 rfl rfl)
theorem dX1_size_37 : decode cX1_size 37 = .ok (.bipush (-3), 2) := dk_16 253 (dk_at dksX1_size_1 13 rfl rfl)
theorem dX1_size_39 : decode cX1_size 39 = .ok (.goto 18, 3) := dk_167 0 18 (dk_at dksX1_size_1 15 rfl rfl)
theorem dX1_size_42 : decode cX1_size 42 = .ok (.iload_n 2, 1) := dk_28 (dk_at dksX1_size_1 18 rfl rfl)
theorem dX1_size_43 : decode cX1_size 43 = .ok (.ifCond .eq 10, 3) := dk_153 0 10 (dk_at dksX1_size_1 19 rfl rfl)
theorem dX1_size_46 : decode cX1_size 46 = .ok (.aload_n 3, 1) := dk_45 (dk_at dksX1_size_1 22 rfl rfl)
theorem dX1_size_47 : decode cX1_size 47 = .ok (.invokevirtual 413, 3) := dk_182 1 157 (dk_at dksX1_size_2 0 rfl rfl)
theorem dX1_size_50 : decode cX1_size 50 = .ok (.goto 7, 3) := dk_167 0 7 (dk_at dksX1_size_2 3 rfl rfl)
theorem dX1_size_53 : decode cX1_size 53 = .ok (.aload_n 3, 1) := dk_45 (dk_at dksX1_size_2 6 rfl rfl)
theorem dX1_size_54 : decode cX1_size 54 = .ok (.getfield 416, 3) := dk_180 1 160 (dk_at dksX1_size_2 7 rfl rfl)
theorem dX1_size_57 : decode cX1_size 57 = .ok (.ireturn, 1) := dk_172 (dk_at dksX1_size_2 10 rfl rfl)
abbrev cX1_missing : ByteArray := prog_1_method_57_code
def yX1_missing : MethodName := ⟨RX1, "missing", "()I"⟩
def dkwX1_missing_1 : List UInt8 := [180, 1, 113, 153, 0, 8, 16, 253, 167, 0, 8, 43, 8, 182, 1, 163, 172]
abbrev dktX1_missing_1 : List UInt8 := dkwX1_missing_1 ++ []
def dkwX1_missing_0 : List UInt8 := [42, 180, 0, 255, 158, 0, 7, 4, 167, 0, 4, 3, 184, 0, 120, 42, 5, 182, 1, 109, 76, 43]
abbrev dktX1_missing_0 : List UInt8 := dkwX1_missing_0 ++ dktX1_missing_1
theorem dksX1_missing_0 : cX1_missing.data.toList.drop 0 = dktX1_missing_0 := by decide +kernel
theorem dksX1_missing_1 : cX1_missing.data.toList.drop 22 = dktX1_missing_1 := dk_seg dksX1_missing_0 22 rfl rfl
theorem dX1_missing_0 : decode cX1_missing 0 = .ok (.aload_n 0, 1) := dk_42 (dk_at dksX1_missing_0 0 rfl rfl)
theorem dX1_missing_1 : decode cX1_missing 1 = .ok (.getfield 255, 3) := dk_180 0 255 (dk_at dksX1_missing_0 1 rfl rfl)
theorem dX1_missing_4 : decode cX1_missing 4 = .ok (.ifCond .le 7, 3) := dk_158 0 7 (dk_at dksX1_missing_0 4 rfl rfl)
theorem dX1_missing_7 : decode cX1_missing 7 = .ok (.iconst 1, 1) := dk_4 (dk_at dksX1_missing_0 7 rfl rfl)
theorem dX1_missing_8 : decode cX1_missing 8 = .ok (.goto 4, 3) := dk_167 0 4 (dk_at dksX1_missing_0 8 rfl rfl)
theorem dX1_missing_11 : decode cX1_missing 11 = .ok (.iconst 0, 1) := dk_3 (dk_at dksX1_missing_0 11 rfl rfl)
theorem dX1_missing_12 : decode cX1_missing 12 = .ok (.invokestatic 120, 3) := dk_184 0 120 (dk_at dksX1_missing_0 12 rfl rfl)
theorem dX1_missing_15 : decode cX1_missing 15 = .ok (.aload_n 0, 1) := dk_42 (dk_at dksX1_missing_0 15 rfl rfl)
theorem dX1_missing_16 : decode cX1_missing 16 = .ok (.iconst 2, 1) := dk_5 (dk_at dksX1_missing_0 16 rfl rfl)
theorem dX1_missing_17 : decode cX1_missing 17 = .ok (.invokevirtual 365, 3) := dk_182 1 109 (dk_at dksX1_missing_0 17 rfl rfl)
theorem dX1_missing_20 : decode cX1_missing 20 = .ok (.astore_n 1, 1) := dk_76 (dk_at dksX1_missing_0 20 rfl rfl)
theorem dX1_missing_21 : decode cX1_missing 21 = .ok (.aload_n 1, 1) := dk_43 (dk_at dksX1_missing_0 21 rfl rfl)
theorem dX1_missing_22 : decode cX1_missing 22 = .ok (.getfield 369, 3) := dk_180 1 113 (dk_at dksX1_missing_1 0 rfl rfl)
theorem dX1_missing_25 : decode cX1_missing 25 = .ok (.ifCond .eq 8, 3) := dk_153 0 8 (dk_at dksX1_missing_1 3 rfl rfl)
theorem dX1_missing_28 : decode cX1_missing 28 = .ok (.bipush (-3), 2) := dk_16 253 (dk_at dksX1_missing_1 6 rfl rfl)
theorem dX1_missing_30 : decode cX1_missing 30 = .ok (.goto 8, 3) := dk_167 0 8 (dk_at dksX1_missing_1 8 rfl rfl)
theorem dX1_missing_33 : decode cX1_missing 33 = .ok (.aload_n 1, 1) := dk_43 (dk_at dksX1_missing_1 11 rfl rfl)
theorem dX1_missing_34 : decode cX1_missing 34 = .ok (.iconst 5, 1) := dk_8 (dk_at dksX1_missing_1 12 rfl rfl)
theorem dX1_missing_35 : decode cX1_missing 35 = .ok (.invokevirtual 419, 3) := dk_182 1 163 (dk_at dksX1_missing_1 13 rfl rfl)
theorem dX1_missing_38 : decode cX1_missing 38 = .ok (.ireturn, 1) := dk_172 (dk_at dksX1_missing_1 16 rfl rfl)
abbrev cX1_example : ByteArray := prog_1_method_58_code
def yX1_example : MethodName := ⟨RX1, "example", "(I)I"⟩
def dkwX1_example_1 : List UInt8 := [182, 1, 163, 158, 0, 7, 4, 167, 0, 4, 3, 184, 0, 120, 42, 180, 0, 61, 27, 182, 1, 167, 172]
abbrev dktX1_example_1 : List UInt8 := dkwX1_example_1 ++ []
def dkwX1_example_0 : List UInt8 := [42, 180, 0, 255, 158, 0, 29, 42, 5, 182, 1, 109, 180, 1, 113, 154, 0, 18, 42, 180, 0, 61, 8]
abbrev dktX1_example_0 : List UInt8 := dkwX1_example_0 ++ dktX1_example_1
theorem dksX1_example_0 : cX1_example.data.toList.drop 0 = dktX1_example_0 := by decide +kernel
theorem dksX1_example_1 : cX1_example.data.toList.drop 23 = dktX1_example_1 := dk_seg dksX1_example_0 23 rfl rfl
theorem dX1_example_0 : decode cX1_example 0 = .ok (.aload_n 0, 1) := dk_42 (dk_at dksX1_example_0 0 rfl rfl)
theorem dX1_example_1 : decode cX1_example 1 = .ok (.getfield 255, 3) := dk_180 0 255 (dk_at dksX1_example_0 1 rfl rfl)
theorem dX1_example_4 : decode cX1_example 4 = .ok (.ifCond .le 29, 3) := dk_158 0 29 (dk_at dksX1_example_0 4 rfl rfl)
theorem dX1_example_7 : decode cX1_example 7 = .ok (.aload_n 0, 1) := dk_42 (dk_at dksX1_example_0 7 rfl rfl)
theorem dX1_example_8 : decode cX1_example 8 = .ok (.iconst 2, 1) := dk_5 (dk_at dksX1_example_0 8 rfl rfl)
theorem dX1_example_9 : decode cX1_example 9 = .ok (.invokevirtual 365, 3) := dk_182 1 109 (dk_at dksX1_example_0 9 rfl rfl)
theorem dX1_example_12 : decode cX1_example 12 = .ok (.getfield 369, 3) := dk_180 1 113 (dk_at dksX1_example_0 12 rfl rfl)
theorem dX1_example_15 : decode cX1_example 15 = .ok (.ifCond .ne 18, 3) := dk_154 0 18 (dk_at dksX1_example_0 15 rfl rfl)
theorem dX1_example_18 : decode cX1_example 18 = .ok (.aload_n 0, 1) := dk_42 (dk_at dksX1_example_0 18 rfl rfl)
theorem dX1_example_19 : decode cX1_example 19 = .ok (.getfield 61, 3) := dk_180 0 61 (dk_at dksX1_example_0 19 rfl rfl)
theorem dX1_example_22 : decode cX1_example 22 = .ok (.iconst 5, 1) := dk_8 (dk_at dksX1_example_0 22 rfl rfl)
theorem dX1_example_23 : decode cX1_example 23 = .ok (.invokevirtual 419, 3) := dk_182 1 163 (dk_at dksX1_example_1 0 rfl rfl)
theorem dX1_example_26 : decode cX1_example 26 = .ok (.ifCond .le 7, 3) := dk_158 0 7 (dk_at dksX1_example_1 3 rfl rfl)
theorem dX1_example_29 : decode cX1_example 29 = .ok (.iconst 1, 1) := dk_4 (dk_at dksX1_example_1 6 rfl rfl)
theorem dX1_example_30 : decode cX1_example 30 = .ok (.goto 4, 3) := dk_167 0 4 (dk_at dksX1_example_1 7 rfl rfl)
theorem dX1_example_33 : decode cX1_example 33 = .ok (.iconst 0, 1) := dk_3 (dk_at dksX1_example_1 10 rfl rfl)
theorem dX1_example_34 : decode cX1_example 34 = .ok (.invokestatic 120, 3) := dk_184 0 120 (dk_at dksX1_example_1 11 rfl rfl)
theorem dX1_example_37 : decode cX1_example 37 = .ok (.aload_n 0, 1) := dk_42 (dk_at dksX1_example_1 14 rfl rfl)
theorem dX1_example_38 : decode cX1_example 38 = .ok (.getfield 61, 3) := dk_180 0 61 (dk_at dksX1_example_1 15 rfl rfl)
theorem dX1_example_41 : decode cX1_example 41 = .ok (.iload_n 1, 1) := dk_27 (dk_at dksX1_example_1 18 rfl rfl)
theorem dX1_example_42 : decode cX1_example 42 = .ok (.invokevirtual 423, 3) := dk_182 1 167 (dk_at dksX1_example_1 19 rfl rfl)
theorem dX1_example_45 : decode cX1_example 45 = .ok (.ireturn, 1) := dk_172 (dk_at dksX1_example_1 22 rfl rfl)
abbrev cX1_isUsed : ByteArray := prog_1_method_59_code
def yX1_isUsed : MethodName := ⟨RX1, "isUsed", "(I)Z"⟩
def dkwX1_isUsed_4 : List UInt8 := [132, 4, 1, 167, 255, 189, 29, 172]
abbrev dktX1_isUsed_4 : List UInt8 := dkwX1_isUsed_4 ++ []
def dkwX1_isUsed_3 : List UInt8 := [6, 159, 0, 17, 42, 180, 0, 61, 180, 1, 104, 21, 4, 46, 7, 160, 0, 7, 4, 167, 0, 4, 3, 62]
abbrev dktX1_isUsed_3 : List UInt8 := dkwX1_isUsed_3 ++ dktX1_isUsed_4
def dkwX1_isUsed_2 : List UInt8 := [42, 180, 0, 61, 180, 1, 107, 21, 4, 46, 27, 160, 0, 35, 42, 180, 0, 61, 180, 1, 104, 21, 4, 46]
abbrev dktX1_isUsed_2 : List UInt8 := dkwX1_isUsed_2 ++ dktX1_isUsed_3
def dkwX1_isUsed_1 : List UInt8 := [184, 0, 120, 3, 62, 3, 54, 4, 21, 4, 42, 180, 0, 61, 180, 1, 160, 162, 0, 61, 29, 154, 0, 45]
abbrev dktX1_isUsed_1 : List UInt8 := dkwX1_isUsed_1 ++ dktX1_isUsed_2
def dkwX1_isUsed_0 : List UInt8 := [42, 27, 182, 1, 38, 77, 42, 5, 182, 1, 109, 180, 1, 113, 154, 0, 7, 4, 167, 0, 4, 3]
abbrev dktX1_isUsed_0 : List UInt8 := dkwX1_isUsed_0 ++ dktX1_isUsed_1
theorem dksX1_isUsed_0 : cX1_isUsed.data.toList.drop 0 = dktX1_isUsed_0 := by decide +kernel
theorem dksX1_isUsed_1 : cX1_isUsed.data.toList.drop 22 = dktX1_isUsed_1 := dk_seg dksX1_isUsed_0 22 rfl rfl
theorem dksX1_isUsed_2 : cX1_isUsed.data.toList.drop 46 = dktX1_isUsed_2 := dk_seg dksX1_isUsed_1 24 rfl rfl
theorem dksX1_isUsed_3 : cX1_isUsed.data.toList.drop 70 = dktX1_isUsed_3 := dk_seg dksX1_isUsed_2 24 rfl rfl
theorem dksX1_isUsed_4 : cX1_isUsed.data.toList.drop 94 = dktX1_isUsed_4 := dk_seg dksX1_isUsed_3 24 rfl rfl
theorem dX1_isUsed_0 : decode cX1_isUsed 0 = .ok (.aload_n 0, 1) := dk_42 (dk_at dksX1_isUsed_0 0 rfl rfl)
theorem dX1_isUsed_1 : decode cX1_isUsed 1 = .ok (.iload_n 1, 1) := dk_27 (dk_at dksX1_isUsed_0 1 rfl rfl)
theorem dX1_isUsed_2 : decode cX1_isUsed 2 = .ok (.invokevirtual 294, 3) := dk_182 1 38 (dk_at dksX1_isUsed_0 2 rfl rfl)
theorem dX1_isUsed_5 : decode cX1_isUsed 5 = .ok (.astore_n 2, 1) := dk_77 (dk_at dksX1_isUsed_0 5 rfl rfl)
theorem dX1_isUsed_6 : decode cX1_isUsed 6 = .ok (.aload_n 0, 1) := dk_42 (dk_at dksX1_isUsed_0 6 rfl rfl)
theorem dX1_isUsed_7 : decode cX1_isUsed 7 = .ok (.iconst 2, 1) := dk_5 (dk_at dksX1_isUsed_0 7 rfl rfl)
theorem dX1_isUsed_8 : decode cX1_isUsed 8 = .ok (.invokevirtual 365, 3) := dk_182 1 109 (dk_at dksX1_isUsed_0 8 rfl rfl)
theorem dX1_isUsed_11 : decode cX1_isUsed 11 = .ok (.getfield 369, 3) := dk_180 1 113 (dk_at dksX1_isUsed_0 11 rfl rfl)
theorem dX1_isUsed_14 : decode cX1_isUsed 14 = .ok (.ifCond .ne 7, 3) := dk_154 0 7 (dk_at dksX1_isUsed_0 14 rfl rfl)
theorem dX1_isUsed_17 : decode cX1_isUsed 17 = .ok (.iconst 1, 1) := dk_4 (dk_at dksX1_isUsed_0 17 rfl rfl)
theorem dX1_isUsed_18 : decode cX1_isUsed 18 = .ok (.goto 4, 3) := dk_167 0 4 (dk_at dksX1_isUsed_0 18 rfl rfl)
theorem dX1_isUsed_21 : decode cX1_isUsed 21 = .ok (.iconst 0, 1) := dk_3 (dk_at dksX1_isUsed_0 21 rfl rfl)
theorem dX1_isUsed_22 : decode cX1_isUsed 22 = .ok (.invokestatic 120, 3) := dk_184 0 120 (dk_at dksX1_isUsed_1 0 rfl rfl)
theorem dX1_isUsed_25 : decode cX1_isUsed 25 = .ok (.iconst 0, 1) := dk_3 (dk_at dksX1_isUsed_1 3 rfl rfl)
theorem dX1_isUsed_26 : decode cX1_isUsed 26 = .ok (.istore_n 3, 1) := dk_62 (dk_at dksX1_isUsed_1 4 rfl rfl)
theorem dX1_isUsed_27 : decode cX1_isUsed 27 = .ok (.iconst 0, 1) := dk_3 (dk_at dksX1_isUsed_1 5 rfl rfl)
theorem dX1_isUsed_28 : decode cX1_isUsed 28 = .ok (.istore 4, 2) := dk_54 4 (dk_at dksX1_isUsed_1 6 rfl rfl)
theorem dX1_isUsed_30 : decode cX1_isUsed 30 = .ok (.iload 4, 2) := dk_21 4 (dk_at dksX1_isUsed_1 8 rfl rfl)
theorem dX1_isUsed_32 : decode cX1_isUsed 32 = .ok (.aload_n 0, 1) := dk_42 (dk_at dksX1_isUsed_1 10 rfl rfl)
theorem dX1_isUsed_33 : decode cX1_isUsed 33 = .ok (.getfield 61, 3) := dk_180 0 61 (dk_at dksX1_isUsed_1 11 rfl rfl)
theorem dX1_isUsed_36 : decode cX1_isUsed 36 = .ok (.getfield 416, 3) := dk_180 1 160 (dk_at dksX1_isUsed_1 14 rfl rfl)
theorem dX1_isUsed_39 : decode cX1_isUsed 39 = .ok (.if_icmp .ge 61, 3) := dk_162 0 61 (dk_at dksX1_isUsed_1 17 rfl rfl)
theorem dX1_isUsed_42 : decode cX1_isUsed 42 = .ok (.iload_n 3, 1) := dk_29 (dk_at dksX1_isUsed_1 20 rfl rfl)
theorem dX1_isUsed_43 : decode cX1_isUsed 43 = .ok (.ifCond .ne 45, 3) := dk_154 0 45 (dk_at dksX1_isUsed_1 21 rfl rfl)
theorem dX1_isUsed_46 : decode cX1_isUsed 46 = .ok (.aload_n 0, 1) := dk_42 (dk_at dksX1_isUsed_2 0 rfl rfl)
theorem dX1_isUsed_47 : decode cX1_isUsed 47 = .ok (.getfield 61, 3) := dk_180 0 61 (dk_at dksX1_isUsed_2 1 rfl rfl)
theorem dX1_isUsed_50 : decode cX1_isUsed 50 = .ok (.getfield 363, 3) := dk_180 1 107 (dk_at dksX1_isUsed_2 4 rfl rfl)
theorem dX1_isUsed_53 : decode cX1_isUsed 53 = .ok (.iload 4, 2) := dk_21 4 (dk_at dksX1_isUsed_2 7 rfl rfl)
theorem dX1_isUsed_55 : decode cX1_isUsed 55 = .ok (.iaload, 1) := dk_46 (dk_at dksX1_isUsed_2 9 rfl rfl)
theorem dX1_isUsed_56 : decode cX1_isUsed 56 = .ok (.iload_n 1, 1) := dk_27 (dk_at dksX1_isUsed_2 10 rfl rfl)
theorem dX1_isUsed_57 : decode cX1_isUsed 57 = .ok (.if_icmp .ne 35, 3) := dk_160 0 35 (dk_at dksX1_isUsed_2 11 rfl rfl)
theorem dX1_isUsed_60 : decode cX1_isUsed 60 = .ok (.aload_n 0, 1) := dk_42 (dk_at dksX1_isUsed_2 14 rfl rfl)
theorem dX1_isUsed_61 : decode cX1_isUsed 61 = .ok (.getfield 61, 3) := dk_180 0 61 (dk_at dksX1_isUsed_2 15 rfl rfl)
theorem dX1_isUsed_64 : decode cX1_isUsed 64 = .ok (.getfield 360, 3) := dk_180 1 104 (dk_at dksX1_isUsed_2 18 rfl rfl)
theorem dX1_isUsed_67 : decode cX1_isUsed 67 = .ok (.iload 4, 2) := dk_21 4 (dk_at dksX1_isUsed_2 21 rfl rfl)
theorem dX1_isUsed_69 : decode cX1_isUsed 69 = .ok (.iaload, 1) := dk_46 (dk_at dksX1_isUsed_2 23 rfl rfl)
theorem dX1_isUsed_70 : decode cX1_isUsed 70 = .ok (.iconst 3, 1) := dk_6 (dk_at dksX1_isUsed_3 0 rfl rfl)
theorem dX1_isUsed_71 : decode cX1_isUsed 71 = .ok (.if_icmp .eq 17, 3) := dk_159 0 17 (dk_at dksX1_isUsed_3 1 rfl rfl)
theorem dX1_isUsed_74 : decode cX1_isUsed 74 = .ok (.aload_n 0, 1) := dk_42 (dk_at dksX1_isUsed_3 4 rfl rfl)
theorem dX1_isUsed_75 : decode cX1_isUsed 75 = .ok (.getfield 61, 3) := dk_180 0 61 (dk_at dksX1_isUsed_3 5 rfl rfl)
theorem dX1_isUsed_78 : decode cX1_isUsed 78 = .ok (.getfield 360, 3) := dk_180 1 104 (dk_at dksX1_isUsed_3 8 rfl rfl)
theorem dX1_isUsed_81 : decode cX1_isUsed 81 = .ok (.iload 4, 2) := dk_21 4 (dk_at dksX1_isUsed_3 11 rfl rfl)
theorem dX1_isUsed_83 : decode cX1_isUsed 83 = .ok (.iaload, 1) := dk_46 (dk_at dksX1_isUsed_3 13 rfl rfl)
theorem dX1_isUsed_84 : decode cX1_isUsed 84 = .ok (.iconst 4, 1) := dk_7 (dk_at dksX1_isUsed_3 14 rfl rfl)
theorem dX1_isUsed_85 : decode cX1_isUsed 85 = .ok (.if_icmp .ne 7, 3) := dk_160 0 7 (dk_at dksX1_isUsed_3 15 rfl rfl)
theorem dX1_isUsed_88 : decode cX1_isUsed 88 = .ok (.iconst 1, 1) := dk_4 (dk_at dksX1_isUsed_3 18 rfl rfl)
theorem dX1_isUsed_89 : decode cX1_isUsed 89 = .ok (.goto 4, 3) := dk_167 0 4 (dk_at dksX1_isUsed_3 19 rfl rfl)
theorem dX1_isUsed_92 : decode cX1_isUsed 92 = .ok (.iconst 0, 1) := dk_3 (dk_at dksX1_isUsed_3 22 rfl rfl)
theorem dX1_isUsed_93 : decode cX1_isUsed 93 = .ok (.istore_n 3, 1) := dk_62 (dk_at dksX1_isUsed_3 23 rfl rfl)
theorem dX1_isUsed_94 : decode cX1_isUsed 94 = .ok (.iinc 4 1, 3) := dk_132 4 1 (dk_at dksX1_isUsed_4 0 rfl rfl)
theorem dX1_isUsed_97 : decode cX1_isUsed 97 = .ok (.goto (-67), 3) := dk_167 255 189 (dk_at dksX1_isUsed_4 3 rfl rfl)
theorem dX1_isUsed_100 : decode cX1_isUsed 100 = .ok (.iload_n 3, 1) := dk_29 (dk_at dksX1_isUsed_4 6 rfl rfl)
theorem dX1_isUsed_101 : decode cX1_isUsed 101 = .ok (.ireturn, 1) := dk_172 (dk_at dksX1_isUsed_4 7 rfl rfl)
theorem q96 : (Jvm.Cond.initialized "Patternforge") ∈ lw_all := lw_g (lw_at lw_m1 1 rfl) rfl
theorem q138 : (Jvm.Cond.instantiable "Patternforge" (12 : Nat)) ∈ lw_all := lw_g (lw_at lw_m1 43 rfl) rfl
theorem q140 : (Jvm.Cond.instanceMethod ({ cls := "Patternforge", name := "<init>", desc := "()V" } : Jvm.MethodName)) ∈ lw_all := lw_g (lw_at lw_m1 45 rfl) rfl
theorem q141 : (Jvm.Cond.code ({ cls := "Patternforge", name := "<init>", desc := "()V" } : Jvm.MethodName) prog_1_method_9_code (2 : Nat) (Option.none : Option Jvm.ClassFile.FieldType)) ∈ lw_all := lw_g (lw_at lw_m1 46 rfl) rfl
theorem q142 : (Jvm.Cond.methodLink "Patternforge" (19 : Nat) ({ cls := "java/lang/Object", name := "<init>", desc := "()V" } : Jvm.MethodName)) ∈ lw_all := lw_g (lw_at lw_m1 47 rfl) rfl
theorem q145 : (Jvm.Cond.classLink "Patternforge" (22 : Nat) "java/util/ArrayList") ∈ lw_all := lw_g (lw_at lw_m1 50 rfl) rfl
theorem q147 : (Jvm.Cond.methodLink "Patternforge" (24 : Nat) ({ cls := "java/util/ArrayList", name := "<init>", desc := "()V" } : Jvm.MethodName)) ∈ lw_all := lw_g (lw_at lw_m1 52 rfl) rfl
theorem q171 : (Jvm.Cond.classLink "Patternforge" (35 : Nat) "[I") ∈ lw_all := lw_g (lw_at lw_m1 76 rfl) rfl
theorem q173 : (Jvm.Cond.classLink "Patternforge" (47 : Nat) "Patternforge$Running") ∈ lw_all := lw_g (lw_at lw_m1 78 rfl) rfl
theorem q175 : (Jvm.Cond.methodLinkNest "Patternforge" (49 : Nat) ({ cls := "Patternforge$Running", name := "<init>", desc := "(LPatternforge;)V" } : Jvm.MethodName) "Patternforge") ∈ lw_tbl := lw_at lw_m1 80 rfl
theorem q183 : (Jvm.Cond.fieldLinkNest "Patternforge" (372 : Nat) "Patternforge$Running" "values" "[I" "Patternforge") ∈ lw_tbl := lw_at lw_m1 88 rfl
theorem q185 : (Jvm.Cond.fieldLinkNest "Patternforge" (399 : Nat) "Patternforge$Running" "ranView" "[I" "Patternforge") ∈ lw_tbl := lw_at lw_m1 90 rfl
theorem q187 : (Jvm.Cond.fieldLinkNest "Patternforge" (402 : Nat) "Patternforge$Running" "ranPlace" "[I" "Patternforge") ∈ lw_tbl := lw_at lw_m1 92 rfl
theorem q189 : (Jvm.Cond.fieldLinkNest "Patternforge" (405 : Nat) "Patternforge$Running" "gave" "[I" "Patternforge") ∈ lw_tbl := lw_at lw_m1 94 rfl
theorem q191 : (Jvm.Cond.fieldLinkNest "Patternforge" (395 : Nat) "Patternforge$Running" "ran" "I" "Patternforge") ∈ lw_tbl := lw_at lw_m1 96 rfl
theorem q195 : (Jvm.Cond.fieldLinkNest "Patternforge" (392 : Nat) "Patternforge$Running" "tests" "I" "Patternforge") ∈ lw_tbl := lw_at lw_m1 100 rfl
theorem q200 : (Jvm.Cond.fieldLinkNest "Patternforge" (408 : Nat) "Patternforge$Matching" "places" "[I" "Patternforge") ∈ lw_tbl := lw_at lw_m1 105 rfl
theorem q224 : (Jvm.Cond.classLink "Patternforge" (56 : Nat) "Patternforge$Tree") ∈ lw_all := lw_g (lw_at lw_m1 129 rfl) rfl
theorem q226 : (Jvm.Cond.methodLink "Patternforge" (58 : Nat) ({ cls := "Patternforge$Tree", name := "<init>", desc := "(LPatternforge;Z)V" } : Jvm.MethodName)) ∈ lw_all := lw_g (lw_at lw_m1 131 rfl) rfl
theorem q233 : (Jvm.Cond.fieldLinkNest "Patternforge" (360 : Nat) "Patternforge$Tree" "what" "[I" "Patternforge") ∈ lw_tbl := lw_at lw_m1 138 rfl
theorem q236 : (Jvm.Cond.fieldLinkNest "Patternforge" (363 : Nat) "Patternforge$Tree" "of" "[I" "Patternforge") ∈ lw_tbl := lw_at lw_m1 141 rfl
theorem q241 : (Jvm.Cond.fieldLinkNest "Patternforge" (416 : Nat) "Patternforge$Tree" "many" "I" "Patternforge") ∈ lw_tbl := lw_at lw_m1 146 rfl
theorem q243 : (Jvm.Cond.fieldLinkNest "Patternforge" (369 : Nat) "Patternforge$Tree" "isLarge" "Z" "Patternforge") ∈ lw_tbl := lw_at lw_m1 148 rfl
theorem q245 : (Jvm.Cond.fieldLinkNest "Patternforge" (86 : Nat) "Patternforge$Tree" "isBuilt" "Z" "Patternforge") ∈ lw_tbl := lw_at lw_m1 150 rfl
theorem q308 : (Jvm.Cond.classLink "Patternforge" (68 : Nat) "Patternforge$Automaton") ∈ lw_all := lw_g (lw_at lw_m1 213 rfl) rfl
theorem q310 : (Jvm.Cond.methodLinkNest "Patternforge" (70 : Nat) ({ cls := "Patternforge$Automaton", name := "<init>", desc := "(LPatternforge;)V" } : Jvm.MethodName) "Patternforge") ∈ lw_tbl := lw_at lw_m1 215 rfl
theorem q317 : (Jvm.Cond.fieldLinkNest "Patternforge" (90 : Nat) "Patternforge$Automaton" "isBuilt" "Z" "Patternforge") ∈ lw_tbl := lw_at lw_m1 222 rfl
theorem q328 : (Jvm.Cond.methodLink "Patternforge" (79 : Nat) ({ cls := "java/util/ArrayList", name := "add", desc := "(Ljava/lang/Object;)Z" } : Jvm.MethodName)) ∈ lw_all := lw_g (lw_at lw_m1 233 rfl) rfl
theorem q360 : (Jvm.Cond.selects "Patternforge" ({ cls := "java/lang/Object", name := "getClass", desc := "()Ljava/lang/Class;" } : Jvm.MethodName) ({ cls := "java/lang/Object", name := "getClass", desc := "()Ljava/lang/Class;" } : Jvm.MethodName)) ∈ lw_all := lw_g (lw_at lw_m2 25 rfl) rfl
theorem q401 : (Jvm.Cond.methodLink "Patternforge" (15 : Nat) ({ cls := "Patternforge", name := "row", desc := "([I)[I" } : Jvm.MethodName)) ∈ lw_all := lw_g (lw_at lw_m2 66 rfl) rfl
theorem q402 : (Jvm.Cond.static ({ cls := "Patternforge", name := "row", desc := "([I)[I" } : Jvm.MethodName)) ∈ lw_all := lw_g (lw_at lw_m2 67 rfl) rfl
theorem q403 : (Jvm.Cond.code ({ cls := "Patternforge", name := "row", desc := "([I)[I" } : Jvm.MethodName) prog_1_method_7_code (1 : Nat) (Option.some (Jvm.ClassFile.FieldType.array Jvm.ClassFile.FieldType.int))) ∈ lw_all := lw_g (lw_at lw_m2 68 rfl) rfl
theorem q404 : (Jvm.Cond.methodLink "Patternforge" (83 : Nat) ({ cls := "Patternforge$Running", name := "clearNames", desc := "()V" } : Jvm.MethodName)) ∈ lw_all := lw_g (lw_at lw_m2 69 rfl) rfl
theorem q410 : (Jvm.Cond.fieldLink "Patternforge" (25 : Nat) "Patternforge" "types" "Ljava/util/ArrayList;") ∈ lw_all := lw_g (lw_at lw_m2 75 rfl) rfl
theorem q413 : (Jvm.Cond.fieldLink "Patternforge" (29 : Nat) "Patternforge" "allValues" "Ljava/util/ArrayList;") ∈ lw_all := lw_g (lw_at lw_m2 78 rfl) rfl
theorem q414 : (Jvm.Cond.fieldLink "Patternforge" (32 : Nat) "Patternforge" "patterns" "Ljava/util/ArrayList;") ∈ lw_all := lw_g (lw_at lw_m2 79 rfl) rfl
theorem q417 : (Jvm.Cond.fieldLink "Patternforge" (37 : Nat) "Patternforge" "views" "[[I") ∈ lw_all := lw_g (lw_at lw_m2 82 rfl) rfl
theorem q418 : (Jvm.Cond.fieldLink "Patternforge" (41 : Nat) "Patternforge" "kinds" "[I") ∈ lw_all := lw_g (lw_at lw_m2 83 rfl) rfl
theorem q422 : (Jvm.Cond.fieldLink "Patternforge" (255 : Nat) "Patternforge" "columns" "I") ∈ lw_all := lw_g (lw_at lw_m2 87 rfl) rfl
theorem q425 : (Jvm.Cond.fieldLink "Patternforge" (44 : Nat) "Patternforge" "cases" "Ljava/util/ArrayList;") ∈ lw_all := lw_g (lw_at lw_m2 90 rfl) rfl
theorem q426 : (Jvm.Cond.fieldLink "Patternforge" (52 : Nat) "Patternforge" "running" "LPatternforge$Running;") ∈ lw_all := lw_g (lw_at lw_m2 91 rfl) rfl
theorem q429 : (Jvm.Cond.fieldLink "Patternforge" (61 : Nat) "Patternforge" "firstTree" "LPatternforge$Tree;") ∈ lw_all := lw_g (lw_at lw_m2 94 rfl) rfl
theorem q430 : (Jvm.Cond.fieldLink "Patternforge" (65 : Nat) "Patternforge" "mostTree" "LPatternforge$Tree;") ∈ lw_all := lw_g (lw_at lw_m2 95 rfl) rfl
theorem q431 : (Jvm.Cond.fieldLink "Patternforge" (71 : Nat) "Patternforge" "automaton" "LPatternforge$Automaton;") ∈ lw_all := lw_g (lw_at lw_m2 96 rfl) rfl
theorem q432 : (Jvm.Cond.fieldLink "Patternforge" (75 : Nat) "Patternforge" "latest" "I") ∈ lw_all := lw_g (lw_at lw_m2 97 rfl) rfl
theorem q433 : (Jvm.Cond.laysFinal "Patternforge" "Patternforge" "types" "Ljava/util/ArrayList;") ∈ lw_all := lw_g (lw_at lw_m2 98 rfl) rfl
theorem q434 : (Jvm.Cond.soleField "Patternforge" "types") ∈ lw_all := lw_g (lw_at lw_m2 99 rfl) rfl
theorem q435 : (Jvm.Cond.laysFinal "Patternforge" "Patternforge" "allValues" "Ljava/util/ArrayList;") ∈ lw_all := lw_g (lw_at lw_m2 100 rfl) rfl
theorem q436 : (Jvm.Cond.soleField "Patternforge" "allValues") ∈ lw_all := lw_g (lw_at lw_m2 101 rfl) rfl
theorem q437 : (Jvm.Cond.laysFinal "Patternforge" "Patternforge" "patterns" "Ljava/util/ArrayList;") ∈ lw_all := lw_g (lw_at lw_m2 102 rfl) rfl
theorem q438 : (Jvm.Cond.soleField "Patternforge" "patterns") ∈ lw_all := lw_g (lw_at lw_m2 103 rfl) rfl
theorem q439 : (Jvm.Cond.laysFinal "Patternforge" "Patternforge" "views" "[[I") ∈ lw_all := lw_g (lw_at lw_m2 104 rfl) rfl
theorem q440 : (Jvm.Cond.soleField "Patternforge" "views") ∈ lw_all := lw_g (lw_at lw_m2 105 rfl) rfl
theorem q441 : (Jvm.Cond.laysFinal "Patternforge" "Patternforge" "kinds" "[I") ∈ lw_all := lw_g (lw_at lw_m2 106 rfl) rfl
theorem q442 : (Jvm.Cond.soleField "Patternforge" "kinds") ∈ lw_all := lw_g (lw_at lw_m2 107 rfl) rfl
theorem q443 : (Jvm.Cond.lays "Patternforge" "Patternforge" "columns" "I") ∈ lw_all := lw_g (lw_at lw_m2 108 rfl) rfl
theorem q444 : (Jvm.Cond.soleField "Patternforge" "columns") ∈ lw_all := lw_g (lw_at lw_m2 109 rfl) rfl
theorem q445 : (Jvm.Cond.laysFinal "Patternforge" "Patternforge" "cases" "Ljava/util/ArrayList;") ∈ lw_all := lw_g (lw_at lw_m2 110 rfl) rfl
theorem q446 : (Jvm.Cond.soleField "Patternforge" "cases") ∈ lw_all := lw_g (lw_at lw_m2 111 rfl) rfl
theorem q447 : (Jvm.Cond.laysFinal "Patternforge" "Patternforge" "running" "LPatternforge$Running;") ∈ lw_all := lw_g (lw_at lw_m2 112 rfl) rfl
theorem q448 : (Jvm.Cond.soleField "Patternforge" "running") ∈ lw_all := lw_g (lw_at lw_m2 113 rfl) rfl
theorem q449 : (Jvm.Cond.laysFinal "Patternforge" "Patternforge" "firstTree" "LPatternforge$Tree;") ∈ lw_all := lw_g (lw_at lw_m2 114 rfl) rfl
theorem q450 : (Jvm.Cond.soleField "Patternforge" "firstTree") ∈ lw_all := lw_g (lw_at lw_m2 115 rfl) rfl
theorem q451 : (Jvm.Cond.laysFinal "Patternforge" "Patternforge" "mostTree" "LPatternforge$Tree;") ∈ lw_all := lw_g (lw_at lw_m2 116 rfl) rfl
theorem q452 : (Jvm.Cond.soleField "Patternforge" "mostTree") ∈ lw_all := lw_g (lw_at lw_m2 117 rfl) rfl
theorem q453 : (Jvm.Cond.laysFinal "Patternforge" "Patternforge" "automaton" "LPatternforge$Automaton;") ∈ lw_all := lw_g (lw_at lw_m2 118 rfl) rfl
theorem q454 : (Jvm.Cond.soleField "Patternforge" "automaton") ∈ lw_all := lw_g (lw_at lw_m2 119 rfl) rfl
theorem q455 : (Jvm.Cond.lays "Patternforge" "Patternforge" "latest" "I") ∈ lw_all := lw_g (lw_at lw_m2 120 rfl) rfl
theorem q456 : (Jvm.Cond.soleField "Patternforge" "latest") ∈ lw_all := lw_g (lw_at lw_m2 121 rfl) rfl
theorem q457 : (Jvm.Cond.superclass "Patternforge" "java/lang/Object") ∈ lw_all := lw_g (lw_at lw_m2 122 rfl) rfl
theorem q459 : (Jvm.Cond.instanceMethod ({ cls := "Patternforge", name := "tests", desc := "()I" } : Jvm.MethodName)) ∈ lw_all := lw_g (lw_at lw_m2 124 rfl) rfl
theorem q460 : (Jvm.Cond.selects "Patternforge" ({ cls := "Patternforge", name := "tests", desc := "()I" } : Jvm.MethodName) ({ cls := "Patternforge", name := "tests", desc := "()I" } : Jvm.MethodName)) ∈ lw_all := lw_g (lw_at lw_m2 125 rfl) rfl
theorem q461 : (Jvm.Cond.code ({ cls := "Patternforge", name := "tests", desc := "()I" } : Jvm.MethodName) prog_1_method_51_code (1 : Nat) (Option.some Jvm.ClassFile.FieldType.int)) ∈ lw_all := lw_g (lw_at lw_m2 126 rfl) rfl
theorem q463 : (Jvm.Cond.instanceMethod ({ cls := "Patternforge", name := "views", desc := "()I" } : Jvm.MethodName)) ∈ lw_all := lw_g (lw_at lw_m2 128 rfl) rfl
theorem q464 : (Jvm.Cond.selects "Patternforge" ({ cls := "Patternforge", name := "views", desc := "()I" } : Jvm.MethodName) ({ cls := "Patternforge", name := "views", desc := "()I" } : Jvm.MethodName)) ∈ lw_all := lw_g (lw_at lw_m2 129 rfl) rfl
theorem q465 : (Jvm.Cond.code ({ cls := "Patternforge", name := "views", desc := "()I" } : Jvm.MethodName) prog_1_method_52_code (1 : Nat) (Option.some Jvm.ClassFile.FieldType.int)) ∈ lw_all := lw_g (lw_at lw_m2 130 rfl) rfl
theorem q549 : (Jvm.Cond.instanceMethod ({ cls := "Patternforge", name := "constructor", desc := "(IIIII)I" } : Jvm.MethodName)) ∈ lw_all := lw_g (lw_at lw_m2 214 rfl) rfl
theorem q550 : (Jvm.Cond.selects "Patternforge" ({ cls := "Patternforge", name := "constructor", desc := "(IIIII)I" } : Jvm.MethodName) ({ cls := "Patternforge", name := "constructor", desc := "(IIIII)I" } : Jvm.MethodName)) ∈ lw_all := lw_g (lw_at lw_m2 215 rfl) rfl
theorem q551 : (Jvm.Cond.code ({ cls := "Patternforge", name := "constructor", desc := "(IIIII)I" } : Jvm.MethodName) prog_1_method_15_code (6 : Nat) (Option.some Jvm.ClassFile.FieldType.int)) ∈ lw_all := lw_g (lw_at lw_m2 216 rfl) rfl
theorem q552 : (Jvm.Cond.methodLink "Patternforge" (91 : Nat) ({ cls := "Patternforge", name := "inRange", desc := "(III)Z" } : Jvm.MethodName)) ∈ lw_all := lw_g (lw_at lw_m2 217 rfl) rfl
theorem q553 : (Jvm.Cond.static ({ cls := "Patternforge", name := "inRange", desc := "(III)Z" } : Jvm.MethodName)) ∈ lw_all := lw_g (lw_at lw_m2 218 rfl) rfl
theorem q554 : (Jvm.Cond.code ({ cls := "Patternforge", name := "inRange", desc := "(III)Z" } : Jvm.MethodName) prog_1_method_1_code (3 : Nat) (Option.some Jvm.ClassFile.FieldType.boolean)) ∈ lw_all := lw_g (lw_at lw_m2 219 rfl) rfl
theorem q555 : (Jvm.Cond.methodLink "Patternforge" (105 : Nat) ({ cls := "Patternforge", name := "requireIndex", desc := "(Z)V" } : Jvm.MethodName)) ∈ lw_all := lw_g (lw_at lw_m2 220 rfl) rfl
theorem q556 : (Jvm.Cond.static ({ cls := "Patternforge", name := "requireIndex", desc := "(Z)V" } : Jvm.MethodName)) ∈ lw_all := lw_g (lw_at lw_m2 221 rfl) rfl
theorem q557 : (Jvm.Cond.code ({ cls := "Patternforge", name := "requireIndex", desc := "(Z)V" } : Jvm.MethodName) prog_1_method_2_code (1 : Nat) (Option.none : Option Jvm.ClassFile.FieldType)) ∈ lw_all := lw_g (lw_at lw_m2 222 rfl) rfl
theorem q558 : (Jvm.Cond.classLink "Patternforge" (1 : Nat) "java/lang/IndexOutOfBoundsException") ∈ lw_all := lw_g (lw_at lw_m2 223 rfl) rfl
theorem q567 : (Jvm.Cond.methodLink "Patternforge" (3 : Nat) ({ cls := "java/lang/IndexOutOfBoundsException", name := "<init>", desc := "()V" } : Jvm.MethodName)) ∈ lw_all := lw_g (lw_at lw_m2 232 rfl) rfl
theorem q579 : (Jvm.Cond.methodLink "Patternforge" (113 : Nat) ({ cls := "Patternforge", name := "isKindOf", desc := "(IZ)Z" } : Jvm.MethodName)) ∈ lw_all := lw_g (lw_at lw_m3 4 rfl) rfl
theorem q580 : (Jvm.Cond.static ({ cls := "Patternforge", name := "isKindOf", desc := "(IZ)Z" } : Jvm.MethodName)) ∈ lw_all := lw_g (lw_at lw_m3 5 rfl) rfl
theorem q581 : (Jvm.Cond.code ({ cls := "Patternforge", name := "isKindOf", desc := "(IZ)Z" } : Jvm.MethodName) prog_1_method_14_code (2 : Nat) (Option.some Jvm.ClassFile.FieldType.boolean)) ∈ lw_all := lw_g (lw_at lw_m3 6 rfl) rfl
theorem q582 : (Jvm.Cond.methodLink "Patternforge" (109 : Nat) ({ cls := "Patternforge", name := "isKind", desc := "(I)Z" } : Jvm.MethodName)) ∈ lw_all := lw_g (lw_at lw_m3 7 rfl) rfl
theorem q583 : (Jvm.Cond.static ({ cls := "Patternforge", name := "isKind", desc := "(I)Z" } : Jvm.MethodName)) ∈ lw_all := lw_g (lw_at lw_m3 8 rfl) rfl
theorem q584 : (Jvm.Cond.code ({ cls := "Patternforge", name := "isKind", desc := "(I)Z" } : Jvm.MethodName) prog_1_method_11_code (1 : Nat) (Option.some Jvm.ClassFile.FieldType.boolean)) ∈ lw_all := lw_g (lw_at lw_m3 9 rfl) rfl
theorem q585 : (Jvm.Cond.methodLink "Patternforge" (117 : Nat) ({ cls := "Patternforge", name := "requireArgument", desc := "(Z)V" } : Jvm.MethodName)) ∈ lw_all := lw_g (lw_at lw_m3 10 rfl) rfl
theorem q586 : (Jvm.Cond.static ({ cls := "Patternforge", name := "requireArgument", desc := "(Z)V" } : Jvm.MethodName)) ∈ lw_all := lw_g (lw_at lw_m3 11 rfl) rfl
theorem q587 : (Jvm.Cond.code ({ cls := "Patternforge", name := "requireArgument", desc := "(Z)V" } : Jvm.MethodName) prog_1_method_3_code (1 : Nat) (Option.none : Option Jvm.ClassFile.FieldType)) ∈ lw_all := lw_g (lw_at lw_m3 12 rfl) rfl
theorem q588 : (Jvm.Cond.classLink "Patternforge" (7 : Nat) "java/lang/IllegalArgumentException") ∈ lw_all := lw_g (lw_at lw_m3 13 rfl) rfl
theorem q597 : (Jvm.Cond.methodLink "Patternforge" (9 : Nat) ({ cls := "java/lang/IllegalArgumentException", name := "<init>", desc := "()V" } : Jvm.MethodName)) ∈ lw_all := lw_g (lw_at lw_m3 22 rfl) rfl
theorem q603 : (Jvm.Cond.methodLink "Patternforge" (95 : Nat) ({ cls := "java/util/ArrayList", name := "get", desc := "(I)Ljava/lang/Object;" } : Jvm.MethodName)) ∈ lw_all := lw_g (lw_at lw_m3 28 rfl) rfl
theorem q617 : (Jvm.Cond.methodLink "Patternforge" (101 : Nat) ({ cls := "java/util/ArrayList", name := "size", desc := "()I" } : Jvm.MethodName)) ∈ lw_all := lw_g (lw_at lw_m3 42 rfl) rfl
theorem q621 : (Jvm.Cond.methodLink "Patternforge" (120 : Nat) ({ cls := "Patternforge", name := "requireState", desc := "(Z)V" } : Jvm.MethodName)) ∈ lw_all := lw_g (lw_at lw_m3 46 rfl) rfl
theorem q622 : (Jvm.Cond.static ({ cls := "Patternforge", name := "requireState", desc := "(Z)V" } : Jvm.MethodName)) ∈ lw_all := lw_g (lw_at lw_m3 47 rfl) rfl
theorem q623 : (Jvm.Cond.code ({ cls := "Patternforge", name := "requireState", desc := "(Z)V" } : Jvm.MethodName) prog_1_method_4_code (1 : Nat) (Option.none : Option Jvm.ClassFile.FieldType)) ∈ lw_all := lw_g (lw_at lw_m3 48 rfl) rfl
theorem q624 : (Jvm.Cond.classLink "Patternforge" (10 : Nat) "java/lang/IllegalStateException") ∈ lw_all := lw_g (lw_at lw_m3 49 rfl) rfl
theorem q633 : (Jvm.Cond.methodLink "Patternforge" (12 : Nat) ({ cls := "java/lang/IllegalStateException", name := "<init>", desc := "()V" } : Jvm.MethodName)) ∈ lw_all := lw_g (lw_at lw_m3 58 rfl) rfl
theorem q639 : (Jvm.Cond.methodLink "Patternforge" (123 : Nat) ({ cls := "Patternforge", name := "firstOf", desc := "(IIII)[I" } : Jvm.MethodName)) ∈ lw_all := lw_g (lw_at lw_m3 64 rfl) rfl
theorem q640 : (Jvm.Cond.static ({ cls := "Patternforge", name := "firstOf", desc := "(IIII)[I" } : Jvm.MethodName)) ∈ lw_all := lw_g (lw_at lw_m3 65 rfl) rfl
theorem q641 : (Jvm.Cond.code ({ cls := "Patternforge", name := "firstOf", desc := "(IIII)[I" } : Jvm.MethodName) prog_1_method_8_code (4 : Nat) (Option.some (Jvm.ClassFile.FieldType.array Jvm.ClassFile.FieldType.int))) ∈ lw_all := lw_g (lw_at lw_m3 66 rfl) rfl
theorem q642 : (Jvm.Cond.methodLink "Patternforge" (127 : Nat) ({ cls := "Patternforge", name := "changed", desc := "()V" } : Jvm.MethodName)) ∈ lw_all := lw_g (lw_at lw_m3 67 rfl) rfl
theorem q643 : (Jvm.Cond.privateMethod ({ cls := "Patternforge", name := "changed", desc := "()V" } : Jvm.MethodName)) ∈ lw_tbl := lw_at lw_m3 68 rfl
theorem q644 : (Jvm.Cond.instanceMethod ({ cls := "Patternforge", name := "changed", desc := "()V" } : Jvm.MethodName)) ∈ lw_all := lw_g (lw_at lw_m3 69 rfl) rfl
theorem q645 : (Jvm.Cond.code ({ cls := "Patternforge", name := "changed", desc := "()V" } : Jvm.MethodName) prog_1_method_10_code (1 : Nat) (Option.none : Option Jvm.ClassFile.FieldType)) ∈ lw_all := lw_g (lw_at lw_m3 70 rfl) rfl
theorem q650 : (Jvm.Cond.instanceMethod ({ cls := "Patternforge", name := "num", desc := "(I)I" } : Jvm.MethodName)) ∈ lw_all := lw_g (lw_at lw_m3 75 rfl) rfl
theorem q651 : (Jvm.Cond.selects "Patternforge" ({ cls := "Patternforge", name := "num", desc := "(I)I" } : Jvm.MethodName) ({ cls := "Patternforge", name := "num", desc := "(I)I" } : Jvm.MethodName)) ∈ lw_all := lw_g (lw_at lw_m3 76 rfl) rfl
theorem q652 : (Jvm.Cond.code ({ cls := "Patternforge", name := "num", desc := "(I)I" } : Jvm.MethodName) prog_1_method_17_code (2 : Nat) (Option.some Jvm.ClassFile.FieldType.int)) ∈ lw_all := lw_g (lw_at lw_m3 77 rfl) rfl
theorem q653 : (Jvm.Cond.classLink "Patternforge" (130 : Nat) "Patternforge$Value") ∈ lw_all := lw_g (lw_at lw_m3 78 rfl) rfl
theorem q655 : (Jvm.Cond.methodLinkNest "Patternforge" (132 : Nat) ({ cls := "Patternforge$Value", name := "<init>", desc := "(II[II)V" } : Jvm.MethodName) "Patternforge") ∈ lw_tbl := lw_at lw_m3 80 rfl
theorem q675 : (Jvm.Cond.methodLink "Patternforge" (135 : Nat) ({ cls := "Patternforge", name := "addValue", desc := "(LPatternforge$Value;)I" } : Jvm.MethodName)) ∈ lw_all := lw_g (lw_at lw_m3 100 rfl) rfl
theorem q676 : (Jvm.Cond.privateMethod ({ cls := "Patternforge", name := "addValue", desc := "(LPatternforge$Value;)I" } : Jvm.MethodName)) ∈ lw_tbl := lw_at lw_m3 101 rfl
theorem q677 : (Jvm.Cond.instanceMethod ({ cls := "Patternforge", name := "addValue", desc := "(LPatternforge$Value;)I" } : Jvm.MethodName)) ∈ lw_all := lw_g (lw_at lw_m3 102 rfl) rfl
theorem q678 : (Jvm.Cond.code ({ cls := "Patternforge", name := "addValue", desc := "(LPatternforge$Value;)I" } : Jvm.MethodName) prog_1_method_16_code (2 : Nat) (Option.some Jvm.ClassFile.FieldType.int)) ∈ lw_all := lw_g (lw_at lw_m3 103 rfl) rfl
theorem q683 : (Jvm.Cond.instanceMethod ({ cls := "Patternforge", name := "seq", desc := "(IIII)I" } : Jvm.MethodName)) ∈ lw_all := lw_g (lw_at lw_m3 108 rfl) rfl
theorem q684 : (Jvm.Cond.selects "Patternforge" ({ cls := "Patternforge", name := "seq", desc := "(IIII)I" } : Jvm.MethodName) ({ cls := "Patternforge", name := "seq", desc := "(IIII)I" } : Jvm.MethodName)) ∈ lw_all := lw_g (lw_at lw_m3 109 rfl) rfl
theorem q685 : (Jvm.Cond.code ({ cls := "Patternforge", name := "seq", desc := "(IIII)I" } : Jvm.MethodName) prog_1_method_19_code (5 : Nat) (Option.some Jvm.ClassFile.FieldType.int)) ∈ lw_all := lw_g (lw_at lw_m3 110 rfl) rfl
theorem q686 : (Jvm.Cond.methodLink "Patternforge" (139 : Nat) ({ cls := "Patternforge", name := "isNumberOf", desc := "(IZ)Z" } : Jvm.MethodName)) ∈ lw_all := lw_g (lw_at lw_m3 111 rfl) rfl
theorem q687 : (Jvm.Cond.static ({ cls := "Patternforge", name := "isNumberOf", desc := "(IZ)Z" } : Jvm.MethodName)) ∈ lw_all := lw_g (lw_at lw_m3 112 rfl) rfl
theorem q688 : (Jvm.Cond.code ({ cls := "Patternforge", name := "isNumberOf", desc := "(IZ)Z" } : Jvm.MethodName) prog_1_method_18_code (2 : Nat) (Option.some Jvm.ClassFile.FieldType.boolean)) ∈ lw_all := lw_g (lw_at lw_m3 113 rfl) rfl
theorem q693 : (Jvm.Cond.instanceMethod ({ cls := "Patternforge", name := "data", desc := "(IIIII)I" } : Jvm.MethodName)) ∈ lw_all := lw_g (lw_at lw_m3 118 rfl) rfl
theorem q694 : (Jvm.Cond.selects "Patternforge" ({ cls := "Patternforge", name := "data", desc := "(IIIII)I" } : Jvm.MethodName) ({ cls := "Patternforge", name := "data", desc := "(IIIII)I" } : Jvm.MethodName)) ∈ lw_all := lw_g (lw_at lw_m3 119 rfl) rfl
theorem q695 : (Jvm.Cond.code ({ cls := "Patternforge", name := "data", desc := "(IIIII)I" } : Jvm.MethodName) prog_1_method_22_code (10 : Nat) (Option.some Jvm.ClassFile.FieldType.int)) ∈ lw_all := lw_g (lw_at lw_m3 120 rfl) rfl
theorem q696 : (Jvm.Cond.methodLink "Patternforge" (142 : Nat) ({ cls := "Patternforge", name := "fieldsOf", desc := "(II)[I" } : Jvm.MethodName)) ∈ lw_all := lw_g (lw_at lw_m3 121 rfl) rfl
theorem q697 : (Jvm.Cond.privateMethod ({ cls := "Patternforge", name := "fieldsOf", desc := "(II)[I" } : Jvm.MethodName)) ∈ lw_tbl := lw_at lw_m3 122 rfl
theorem q698 : (Jvm.Cond.instanceMethod ({ cls := "Patternforge", name := "fieldsOf", desc := "(II)[I" } : Jvm.MethodName)) ∈ lw_all := lw_g (lw_at lw_m3 123 rfl) rfl
theorem q699 : (Jvm.Cond.code ({ cls := "Patternforge", name := "fieldsOf", desc := "(II)[I" } : Jvm.MethodName) prog_1_method_20_code (3 : Nat) (Option.some (Jvm.ClassFile.FieldType.array Jvm.ClassFile.FieldType.int))) ∈ lw_all := lw_g (lw_at lw_m3 124 rfl) rfl
theorem q700 : (Jvm.Cond.methodLink "Patternforge" (146 : Nat) ({ cls := "Patternforge", name := "requireParts", desc := "(IIIII)V" } : Jvm.MethodName)) ∈ lw_all := lw_g (lw_at lw_m3 125 rfl) rfl
theorem q701 : (Jvm.Cond.static ({ cls := "Patternforge", name := "requireParts", desc := "(IIIII)V" } : Jvm.MethodName)) ∈ lw_all := lw_g (lw_at lw_m3 126 rfl) rfl
theorem q702 : (Jvm.Cond.code ({ cls := "Patternforge", name := "requireParts", desc := "(IIIII)V" } : Jvm.MethodName) prog_1_method_21_code (7 : Nat) (Option.none : Option Jvm.ClassFile.FieldType)) ∈ lw_all := lw_g (lw_at lw_m3 127 rfl) rfl
theorem q703 : (Jvm.Cond.methodLink "Patternforge" (150 : Nat) ({ cls := "Patternforge$Value", name := "kind", desc := "()I" } : Jvm.MethodName)) ∈ lw_all := lw_g (lw_at lw_m3 128 rfl) rfl
theorem q707 : (Jvm.Cond.methodLink "Patternforge" (153 : Nat) ({ cls := "Patternforge$Value", name := "measure", desc := "()I" } : Jvm.MethodName)) ∈ lw_all := lw_g (lw_at lw_m3 132 rfl) rfl
theorem q715 : (Jvm.Cond.instanceMethod ({ cls := "Patternforge", name := "any", desc := "()I" } : Jvm.MethodName)) ∈ lw_all := lw_g (lw_at lw_m3 140 rfl) rfl
theorem q716 : (Jvm.Cond.selects "Patternforge" ({ cls := "Patternforge", name := "any", desc := "()I" } : Jvm.MethodName) ({ cls := "Patternforge", name := "any", desc := "()I" } : Jvm.MethodName)) ∈ lw_all := lw_g (lw_at lw_m3 141 rfl) rfl
theorem q717 : (Jvm.Cond.code ({ cls := "Patternforge", name := "any", desc := "()I" } : Jvm.MethodName) prog_1_method_24_code (1 : Nat) (Option.some Jvm.ClassFile.FieldType.int)) ∈ lw_all := lw_g (lw_at lw_m3 142 rfl) rfl
theorem q718 : (Jvm.Cond.classLink "Patternforge" (159 : Nat) "Patternforge$Any") ∈ lw_all := lw_g (lw_at lw_m3 143 rfl) rfl
theorem q720 : (Jvm.Cond.methodLinkNest "Patternforge" (161 : Nat) ({ cls := "Patternforge$Any", name := "<init>", desc := "()V" } : Jvm.MethodName) "Patternforge") ∈ lw_tbl := lw_at lw_m3 145 rfl
theorem q725 : (Jvm.Cond.methodLink "Patternforge" (162 : Nat) ({ cls := "Patternforge", name := "addPattern", desc := "(LPatternforge$Pattern;IIIIZZ)I" } : Jvm.MethodName)) ∈ lw_all := lw_g (lw_at lw_m3 150 rfl) rfl
theorem q726 : (Jvm.Cond.privateMethod ({ cls := "Patternforge", name := "addPattern", desc := "(LPatternforge$Pattern;IIIIZZ)I" } : Jvm.MethodName)) ∈ lw_tbl := lw_at lw_m3 151 rfl
theorem q727 : (Jvm.Cond.instanceMethod ({ cls := "Patternforge", name := "addPattern", desc := "(LPatternforge$Pattern;IIIIZZ)I" } : Jvm.MethodName)) ∈ lw_all := lw_g (lw_at lw_m3 152 rfl) rfl
theorem q728 : (Jvm.Cond.code ({ cls := "Patternforge", name := "addPattern", desc := "(LPatternforge$Pattern;IIIIZZ)I" } : Jvm.MethodName) prog_1_method_23_code (8 : Nat) (Option.some Jvm.ClassFile.FieldType.int)) ∈ lw_all := lw_g (lw_at lw_m3 153 rfl) rfl
theorem q729 : (Jvm.Cond.classLink "Patternforge" (99 : Nat) "Patternforge$Told") ∈ lw_all := lw_g (lw_at lw_m3 154 rfl) rfl
theorem q731 : (Jvm.Cond.methodLinkNest "Patternforge" (156 : Nat) ({ cls := "Patternforge$Told", name := "<init>", desc := "(LPatternforge$Pattern;IIIIZZ)V" } : Jvm.MethodName) "Patternforge") ∈ lw_tbl := lw_at lw_m3 156 rfl
theorem q761 : (Jvm.Cond.instanceMethod ({ cls := "Patternforge", name := "name", desc := "(II)I" } : Jvm.MethodName)) ∈ lw_all := lw_g (lw_at lw_m3 186 rfl) rfl
theorem q762 : (Jvm.Cond.selects "Patternforge" ({ cls := "Patternforge", name := "name", desc := "(II)I" } : Jvm.MethodName) ({ cls := "Patternforge", name := "name", desc := "(II)I" } : Jvm.MethodName)) ∈ lw_all := lw_g (lw_at lw_m3 187 rfl) rfl
theorem q763 : (Jvm.Cond.code ({ cls := "Patternforge", name := "name", desc := "(II)I" } : Jvm.MethodName) prog_1_method_25_code (4 : Nat) (Option.some Jvm.ClassFile.FieldType.int)) ∈ lw_all := lw_g (lw_at lw_m3 188 rfl) rfl
theorem q764 : (Jvm.Cond.methodLink "Patternforge" (166 : Nat) ({ cls := "Patternforge", name := "requirePattern", desc := "(I)V" } : Jvm.MethodName)) ∈ lw_all := lw_g (lw_at lw_m3 189 rfl) rfl
theorem q765 : (Jvm.Cond.privateMethod ({ cls := "Patternforge", name := "requirePattern", desc := "(I)V" } : Jvm.MethodName)) ∈ lw_tbl := lw_at lw_m3 190 rfl
theorem q766 : (Jvm.Cond.instanceMethod ({ cls := "Patternforge", name := "requirePattern", desc := "(I)V" } : Jvm.MethodName)) ∈ lw_all := lw_g (lw_at lw_m3 191 rfl) rfl
theorem q767 : (Jvm.Cond.code ({ cls := "Patternforge", name := "requirePattern", desc := "(I)V" } : Jvm.MethodName) prog_1_method_13_code (2 : Nat) (Option.none : Option Jvm.ClassFile.FieldType)) ∈ lw_all := lw_g (lw_at lw_m3 192 rfl) rfl
theorem q768 : (Jvm.Cond.methodLink "Patternforge" (170 : Nat) ({ cls := "Patternforge", name := "told", desc := "(I)LPatternforge$Told;" } : Jvm.MethodName)) ∈ lw_all := lw_g (lw_at lw_m3 193 rfl) rfl
theorem q769 : (Jvm.Cond.privateMethod ({ cls := "Patternforge", name := "told", desc := "(I)LPatternforge$Told;" } : Jvm.MethodName)) ∈ lw_tbl := lw_at lw_m3 194 rfl
theorem q770 : (Jvm.Cond.instanceMethod ({ cls := "Patternforge", name := "told", desc := "(I)LPatternforge$Told;" } : Jvm.MethodName)) ∈ lw_all := lw_g (lw_at lw_m3 195 rfl) rfl
theorem q771 : (Jvm.Cond.code ({ cls := "Patternforge", name := "told", desc := "(I)LPatternforge$Told;" } : Jvm.MethodName) prog_1_method_12_code (2 : Nat) (Option.some (Jvm.ClassFile.FieldType.object "Patternforge$Told"))) ∈ lw_all := lw_g (lw_at lw_m3 196 rfl) rfl
theorem q772 : (Jvm.Cond.methodLink "Patternforge" (174 : Nat) ({ cls := "Patternforge$Told", name := "names", desc := "()I" } : Jvm.MethodName)) ∈ lw_all := lw_g (lw_at lw_m3 197 rfl) rfl
theorem q776 : (Jvm.Cond.methodLink "Patternforge" (177 : Nat) ({ cls := "Patternforge", name := "has", desc := "(II)Z" } : Jvm.MethodName)) ∈ lw_all := lw_g (lw_at lw_m3 201 rfl) rfl
theorem q777 : (Jvm.Cond.static ({ cls := "Patternforge", name := "has", desc := "(II)Z" } : Jvm.MethodName)) ∈ lw_all := lw_g (lw_at lw_m3 202 rfl) rfl
theorem q778 : (Jvm.Cond.code ({ cls := "Patternforge", name := "has", desc := "(II)Z" } : Jvm.MethodName) prog_1_method_5_code (2 : Nat) (Option.some Jvm.ClassFile.FieldType.boolean)) ∈ lw_all := lw_g (lw_at lw_m3 203 rfl) rfl
theorem q779 : (Jvm.Cond.classLink "Patternforge" (181 : Nat) "Patternforge$Name") ∈ lw_all := lw_g (lw_at lw_m3 204 rfl) rfl
theorem q781 : (Jvm.Cond.methodLink "Patternforge" (183 : Nat) ({ cls := "Patternforge$Told", name := "pattern", desc := "()LPatternforge$Pattern;" } : Jvm.MethodName)) ∈ lw_all := lw_g (lw_at lw_m3 206 rfl) rfl
theorem q785 : (Jvm.Cond.methodLinkNest "Patternforge" (187 : Nat) ({ cls := "Patternforge$Name", name := "<init>", desc := "(ILPatternforge$Pattern;)V" } : Jvm.MethodName) "Patternforge") ∈ lw_tbl := lw_at lw_m3 210 rfl
theorem q796 : (Jvm.Cond.methodLink "Patternforge" (190 : Nat) ({ cls := "Patternforge$Told", name := "kind", desc := "()I" } : Jvm.MethodName)) ∈ lw_all := lw_g (lw_at lw_m3 221 rfl) rfl
theorem q800 : (Jvm.Cond.methodLink "Patternforge" (191 : Nat) ({ cls := "Patternforge$Told", name := "depth", desc := "()I" } : Jvm.MethodName)) ∈ lw_all := lw_g (lw_at lw_m3 225 rfl) rfl
theorem q804 : (Jvm.Cond.methodLink "Patternforge" (194 : Nat) ({ cls := "Patternforge$Told", name := "size", desc := "()I" } : Jvm.MethodName)) ∈ lw_all := lw_g (lw_at lw_m3 229 rfl) rfl
theorem q808 : (Jvm.Cond.methodLink "Patternforge" (195 : Nat) ({ cls := "Patternforge$Told", name := "isPure", desc := "()Z" } : Jvm.MethodName)) ∈ lw_all := lw_g (lw_at lw_m3 233 rfl) rfl
theorem q816 : (Jvm.Cond.instanceMethod ({ cls := "Patternforge", name := "range", desc := "(II)I" } : Jvm.MethodName)) ∈ lw_all := lw_g (lw_at lw_m4 1 rfl) rfl
theorem q817 : (Jvm.Cond.selects "Patternforge" ({ cls := "Patternforge", name := "range", desc := "(II)I" } : Jvm.MethodName) ({ cls := "Patternforge", name := "range", desc := "(II)I" } : Jvm.MethodName)) ∈ lw_all := lw_g (lw_at lw_m4 2 rfl) rfl
theorem q818 : (Jvm.Cond.code ({ cls := "Patternforge", name := "range", desc := "(II)I" } : Jvm.MethodName) prog_1_method_26_code (3 : Nat) (Option.some Jvm.ClassFile.FieldType.int)) ∈ lw_all := lw_g (lw_at lw_m4 3 rfl) rfl
theorem q819 : (Jvm.Cond.classLink "Patternforge" (199 : Nat) "Patternforge$Range") ∈ lw_all := lw_g (lw_at lw_m4 4 rfl) rfl
theorem q821 : (Jvm.Cond.methodLinkNest "Patternforge" (201 : Nat) ({ cls := "Patternforge$Range", name := "<init>", desc := "(II)V" } : Jvm.MethodName) "Patternforge") ∈ lw_tbl := lw_at lw_m4 6 rfl
theorem q836 : (Jvm.Cond.instanceMethod ({ cls := "Patternforge", name := "make", desc := "(IIIII)I" } : Jvm.MethodName)) ∈ lw_all := lw_g (lw_at lw_m4 21 rfl) rfl
theorem q837 : (Jvm.Cond.selects "Patternforge" ({ cls := "Patternforge", name := "make", desc := "(IIIII)I" } : Jvm.MethodName) ({ cls := "Patternforge", name := "make", desc := "(IIIII)I" } : Jvm.MethodName)) ∈ lw_all := lw_g (lw_at lw_m4 22 rfl) rfl
theorem q838 : (Jvm.Cond.code ({ cls := "Patternforge", name := "make", desc := "(IIIII)I" } : Jvm.MethodName) prog_1_method_29_code (8 : Nat) (Option.some Jvm.ClassFile.FieldType.int)) ∈ lw_all := lw_g (lw_at lw_m4 23 rfl) rfl
theorem q839 : (Jvm.Cond.classLink "Patternforge" (215 : Nat) "Patternforge$Make") ∈ lw_all := lw_g (lw_at lw_m4 24 rfl) rfl
theorem q841 : (Jvm.Cond.methodLink "Patternforge" (217 : Nat) ({ cls := "Patternforge", name := "partsOf", desc := "([I[I)[LPatternforge$Pattern;" } : Jvm.MethodName)) ∈ lw_all := lw_g (lw_at lw_m4 26 rfl) rfl
theorem q842 : (Jvm.Cond.privateMethod ({ cls := "Patternforge", name := "partsOf", desc := "([I[I)[LPatternforge$Pattern;" } : Jvm.MethodName)) ∈ lw_tbl := lw_at lw_m4 27 rfl
theorem q843 : (Jvm.Cond.instanceMethod ({ cls := "Patternforge", name := "partsOf", desc := "([I[I)[LPatternforge$Pattern;" } : Jvm.MethodName)) ∈ lw_all := lw_g (lw_at lw_m4 28 rfl) rfl
theorem q844 : (Jvm.Cond.code ({ cls := "Patternforge", name := "partsOf", desc := "([I[I)[LPatternforge$Pattern;" } : Jvm.MethodName) prog_1_method_27_code (7 : Nat) (Option.some (Jvm.ClassFile.FieldType.array (Jvm.ClassFile.FieldType.object "Patternforge$Pattern")))) ∈ lw_all := lw_g (lw_at lw_m4 29 rfl) rfl
theorem q845 : (Jvm.Cond.classLink "Patternforge" (204 : Nat) "Patternforge$Pattern") ∈ lw_all := lw_g (lw_at lw_m4 30 rfl) rfl
theorem q847 : (Jvm.Cond.methodLink "Patternforge" (206 : Nat) ({ cls := "Patternforge$Told", name := "fits", desc := "(I)Z" } : Jvm.MethodName)) ∈ lw_all := lw_g (lw_at lw_m4 32 rfl) rfl
theorem q851 : (Jvm.Cond.methodLinkNest "Patternforge" (221 : Nat) ({ cls := "Patternforge$Make", name := "<init>", desc := "(II[LPatternforge$Pattern;)V" } : Jvm.MethodName) "Patternforge") ∈ lw_tbl := lw_at lw_m4 36 rfl
theorem q865 : (Jvm.Cond.methodLink "Patternforge" (224 : Nat) ({ cls := "Patternforge", name := "addMade", desc := "(LPatternforge$Pattern;I[I)I" } : Jvm.MethodName)) ∈ lw_all := lw_g (lw_at lw_m4 50 rfl) rfl
theorem q866 : (Jvm.Cond.privateMethod ({ cls := "Patternforge", name := "addMade", desc := "(LPatternforge$Pattern;I[I)I" } : Jvm.MethodName)) ∈ lw_tbl := lw_at lw_m4 51 rfl
theorem q867 : (Jvm.Cond.instanceMethod ({ cls := "Patternforge", name := "addMade", desc := "(LPatternforge$Pattern;I[I)I" } : Jvm.MethodName)) ∈ lw_all := lw_g (lw_at lw_m4 52 rfl) rfl
theorem q868 : (Jvm.Cond.code ({ cls := "Patternforge", name := "addMade", desc := "(LPatternforge$Pattern;I[I)I" } : Jvm.MethodName) prog_1_method_28_code (13 : Nat) (Option.some Jvm.ClassFile.FieldType.int)) ∈ lw_all := lw_g (lw_at lw_m4 53 rfl) rfl
theorem q869 : (Jvm.Cond.methodLink "Patternforge" (209 : Nat) ({ cls := "java/lang/Math", name := "max", desc := "(II)I" } : Jvm.MethodName)) ∈ lw_all := lw_g (lw_at lw_m4 54 rfl) rfl
theorem q874 : (Jvm.Cond.instanceMethod ({ cls := "Patternforge", name := "either", desc := "(II)I" } : Jvm.MethodName)) ∈ lw_all := lw_g (lw_at lw_m4 59 rfl) rfl
theorem q875 : (Jvm.Cond.selects "Patternforge" ({ cls := "Patternforge", name := "either", desc := "(II)I" } : Jvm.MethodName) ({ cls := "Patternforge", name := "either", desc := "(II)I" } : Jvm.MethodName)) ∈ lw_all := lw_g (lw_at lw_m4 60 rfl) rfl
theorem q876 : (Jvm.Cond.code ({ cls := "Patternforge", name := "either", desc := "(II)I" } : Jvm.MethodName) prog_1_method_32_code (3 : Nat) (Option.some Jvm.ClassFile.FieldType.int)) ∈ lw_all := lw_g (lw_at lw_m4 61 rfl) rfl
theorem q877 : (Jvm.Cond.methodLink "Patternforge" (236 : Nat) ({ cls := "Patternforge", name := "canBeEither", desc := "(LPatternforge$Told;LPatternforge$Told;)Z" } : Jvm.MethodName)) ∈ lw_all := lw_g (lw_at lw_m4 62 rfl) rfl
theorem q878 : (Jvm.Cond.static ({ cls := "Patternforge", name := "canBeEither", desc := "(LPatternforge$Told;LPatternforge$Told;)Z" } : Jvm.MethodName)) ∈ lw_all := lw_g (lw_at lw_m4 63 rfl) rfl
theorem q879 : (Jvm.Cond.code ({ cls := "Patternforge", name := "canBeEither", desc := "(LPatternforge$Told;LPatternforge$Told;)Z" } : Jvm.MethodName) prog_1_method_30_code (3 : Nat) (Option.some Jvm.ClassFile.FieldType.boolean)) ∈ lw_all := lw_g (lw_at lw_m4 64 rfl) rfl
theorem q880 : (Jvm.Cond.methodLink "Patternforge" (240 : Nat) ({ cls := "Patternforge", name := "addEither", desc := "(LPatternforge$Told;LPatternforge$Told;)I" } : Jvm.MethodName)) ∈ lw_all := lw_g (lw_at lw_m4 65 rfl) rfl
theorem q881 : (Jvm.Cond.privateMethod ({ cls := "Patternforge", name := "addEither", desc := "(LPatternforge$Told;LPatternforge$Told;)I" } : Jvm.MethodName)) ∈ lw_tbl := lw_at lw_m4 66 rfl
theorem q882 : (Jvm.Cond.instanceMethod ({ cls := "Patternforge", name := "addEither", desc := "(LPatternforge$Told;LPatternforge$Told;)I" } : Jvm.MethodName)) ∈ lw_all := lw_g (lw_at lw_m4 67 rfl) rfl
theorem q883 : (Jvm.Cond.code ({ cls := "Patternforge", name := "addEither", desc := "(LPatternforge$Told;LPatternforge$Told;)I" } : Jvm.MethodName) prog_1_method_31_code (4 : Nat) (Option.some Jvm.ClassFile.FieldType.int)) ∈ lw_all := lw_g (lw_at lw_m4 68 rfl) rfl
theorem q884 : (Jvm.Cond.classLink "Patternforge" (228 : Nat) "Patternforge$Either") ∈ lw_all := lw_g (lw_at lw_m4 69 rfl) rfl
theorem q886 : (Jvm.Cond.methodLinkNest "Patternforge" (230 : Nat) ({ cls := "Patternforge$Either", name := "<init>", desc := "(LPatternforge$Pattern;LPatternforge$Pattern;)V" } : Jvm.MethodName) "Patternforge") ∈ lw_tbl := lw_at lw_m4 71 rfl
theorem q897 : (Jvm.Cond.methodLink "Patternforge" (233 : Nat) ({ cls := "Patternforge$Told", name := "isForNumbers", desc := "()Z" } : Jvm.MethodName)) ∈ lw_all := lw_g (lw_at lw_m4 82 rfl) rfl
theorem q905 : (Jvm.Cond.instanceMethod ({ cls := "Patternforge", name := "view", desc := "(II)I" } : Jvm.MethodName)) ∈ lw_all := lw_g (lw_at lw_m4 90 rfl) rfl
theorem q906 : (Jvm.Cond.selects "Patternforge" ({ cls := "Patternforge", name := "view", desc := "(II)I" } : Jvm.MethodName) ({ cls := "Patternforge", name := "view", desc := "(II)I" } : Jvm.MethodName)) ∈ lw_all := lw_g (lw_at lw_m4 91 rfl) rfl
theorem q907 : (Jvm.Cond.code ({ cls := "Patternforge", name := "view", desc := "(II)I" } : Jvm.MethodName) prog_1_method_33_code (4 : Nat) (Option.some Jvm.ClassFile.FieldType.int)) ∈ lw_all := lw_g (lw_at lw_m4 92 rfl) rfl
theorem q908 : (Jvm.Cond.classLink "Patternforge" (244 : Nat) "Patternforge$Looked") ∈ lw_all := lw_g (lw_at lw_m4 93 rfl) rfl
theorem q910 : (Jvm.Cond.methodLinkNest "Patternforge" (246 : Nat) ({ cls := "Patternforge$Looked", name := "<init>", desc := "(ILPatternforge$Pattern;)V" } : Jvm.MethodName) "Patternforge") ∈ lw_tbl := lw_at lw_m4 95 rfl
theorem q925 : (Jvm.Cond.instanceMethod ({ cls := "Patternforge", name := "list", desc := "(IIII)I" } : Jvm.MethodName)) ∈ lw_all := lw_g (lw_at lw_m4 110 rfl) rfl
theorem q926 : (Jvm.Cond.selects "Patternforge" ({ cls := "Patternforge", name := "list", desc := "(IIII)I" } : Jvm.MethodName) ({ cls := "Patternforge", name := "list", desc := "(IIII)I" } : Jvm.MethodName)) ∈ lw_all := lw_g (lw_at lw_m4 111 rfl) rfl
theorem q927 : (Jvm.Cond.code ({ cls := "Patternforge", name := "list", desc := "(IIII)I" } : Jvm.MethodName) prog_1_method_34_code (6 : Nat) (Option.some Jvm.ClassFile.FieldType.int)) ∈ lw_all := lw_g (lw_at lw_m4 112 rfl) rfl
theorem q928 : (Jvm.Cond.classLink "Patternforge" (247 : Nat) "Patternforge$Listed") ∈ lw_all := lw_g (lw_at lw_m4 113 rfl) rfl
theorem q930 : (Jvm.Cond.methodLinkNest "Patternforge" (249 : Nat) ({ cls := "Patternforge$Listed", name := "<init>", desc := "([LPatternforge$Pattern;I)V" } : Jvm.MethodName) "Patternforge") ∈ lw_tbl := lw_at lw_m4 115 rfl
theorem q945 : (Jvm.Cond.instanceMethod ({ cls := "Patternforge", name := "setView", desc := "(IIIII)I" } : Jvm.MethodName)) ∈ lw_all := lw_g (lw_at lw_m4 130 rfl) rfl
theorem q946 : (Jvm.Cond.selects "Patternforge" ({ cls := "Patternforge", name := "setView", desc := "(IIIII)I" } : Jvm.MethodName) ({ cls := "Patternforge", name := "setView", desc := "(IIIII)I" } : Jvm.MethodName)) ∈ lw_all := lw_g (lw_at lw_m4 131 rfl) rfl
theorem q947 : (Jvm.Cond.code ({ cls := "Patternforge", name := "setView", desc := "(IIIII)I" } : Jvm.MethodName) prog_1_method_35_code (7 : Nat) (Option.some Jvm.ClassFile.FieldType.int)) ∈ lw_all := lw_g (lw_at lw_m4 132 rfl) rfl
theorem q952 : (Jvm.Cond.instanceMethod ({ cls := "Patternforge", name := "begin", desc := "(IIII)I" } : Jvm.MethodName)) ∈ lw_all := lw_g (lw_at lw_m4 137 rfl) rfl
theorem q953 : (Jvm.Cond.selects "Patternforge" ({ cls := "Patternforge", name := "begin", desc := "(IIII)I" } : Jvm.MethodName) ({ cls := "Patternforge", name := "begin", desc := "(IIII)I" } : Jvm.MethodName)) ∈ lw_all := lw_g (lw_at lw_m4 138 rfl) rfl
theorem q954 : (Jvm.Cond.code ({ cls := "Patternforge", name := "begin", desc := "(IIII)I" } : Jvm.MethodName) prog_1_method_36_code (6 : Nat) (Option.some Jvm.ClassFile.FieldType.int)) ∈ lw_all := lw_g (lw_at lw_m4 139 rfl) rfl
theorem q955 : (Jvm.Cond.methodLink "Patternforge" (252 : Nat) ({ cls := "java/util/ArrayList", name := "clear", desc := "()V" } : Jvm.MethodName)) ∈ lw_all := lw_g (lw_at lw_m4 140 rfl) rfl
theorem q959 : (Jvm.Cond.methodLink "Patternforge" (258 : Nat) ({ cls := "Patternforge$Running", name := "begin", desc := "()V" } : Jvm.MethodName)) ∈ lw_all := lw_g (lw_at lw_m4 144 rfl) rfl
theorem q968 : (Jvm.Cond.instanceMethod ({ cls := "Patternforge", name := "add", desc := "(IIII)I" } : Jvm.MethodName)) ∈ lw_all := lw_g (lw_at lw_m4 153 rfl) rfl
theorem q969 : (Jvm.Cond.selects "Patternforge" ({ cls := "Patternforge", name := "add", desc := "(IIII)I" } : Jvm.MethodName) ({ cls := "Patternforge", name := "add", desc := "(IIII)I" } : Jvm.MethodName)) ∈ lw_all := lw_g (lw_at lw_m4 154 rfl) rfl
theorem q970 : (Jvm.Cond.code ({ cls := "Patternforge", name := "add", desc := "(IIII)I" } : Jvm.MethodName) prog_1_method_37_code (9 : Nat) (Option.some Jvm.ClassFile.FieldType.int)) ∈ lw_all := lw_g (lw_at lw_m4 155 rfl) rfl
theorem q971 : (Jvm.Cond.classLink "Patternforge" (261 : Nat) "Patternforge$Case") ∈ lw_all := lw_g (lw_at lw_m4 156 rfl) rfl
theorem q973 : (Jvm.Cond.methodLink "Patternforge" (263 : Nat) ({ cls := "Patternforge$Case", name := "<init>", desc := "([II)V" } : Jvm.MethodName)) ∈ lw_all := lw_g (lw_at lw_m4 158 rfl) rfl
theorem q981 : (Jvm.Cond.fieldLinkNest "Patternforge" (292 : Nat) "Patternforge$Case" "patterns" "[I" "Patternforge") ∈ lw_tbl := lw_at lw_m4 166 rfl
theorem q983 : (Jvm.Cond.fieldLinkNest "Patternforge" (334 : Nat) "Patternforge$Case" "result" "I" "Patternforge") ∈ lw_tbl := lw_at lw_m4 168 rfl
theorem q986 : (Jvm.Cond.fieldLinkNest "Patternforge" (301 : Nat) "Patternforge$Case" "guard" "LPatternforge$Test;" "Patternforge") ∈ lw_tbl := lw_at lw_m4 171 rfl
theorem q988 : (Jvm.Cond.fieldLinkNest "Patternforge" (314 : Nat) "Patternforge$Case" "name" "I" "Patternforge") ∈ lw_tbl := lw_at lw_m4 173 rfl
theorem q990 : (Jvm.Cond.fieldLinkNest "Patternforge" (316 : Nat) "Patternforge$Case" "than" "I" "Patternforge") ∈ lw_tbl := lw_at lw_m4 175 rfl
theorem q991 : (Jvm.Cond.fieldLinkNest "Patternforge" (389 : Nat) "Patternforge$Case" "taken" "I" "Patternforge") ∈ lw_tbl := lw_at lw_m4 176 rfl
theorem q1009 : (Jvm.Cond.instanceMethod ({ cls := "Patternforge", name := "guard", desc := "(IIII)I" } : Jvm.MethodName)) ∈ lw_all := lw_g (lw_at lw_m4 194 rfl) rfl
theorem q1010 : (Jvm.Cond.selects "Patternforge" ({ cls := "Patternforge", name := "guard", desc := "(IIII)I" } : Jvm.MethodName) ({ cls := "Patternforge", name := "guard", desc := "(IIII)I" } : Jvm.MethodName)) ∈ lw_all := lw_g (lw_at lw_m4 195 rfl) rfl
theorem q1011 : (Jvm.Cond.code ({ cls := "Patternforge", name := "guard", desc := "(IIII)I" } : Jvm.MethodName) prog_1_method_41_code (7 : Nat) (Option.some Jvm.ClassFile.FieldType.int)) ∈ lw_all := lw_g (lw_at lw_m4 196 rfl) rfl
theorem q1012 : (Jvm.Cond.methodLink "Patternforge" (294 : Nat) ({ cls := "Patternforge", name := "caseAt", desc := "(I)LPatternforge$Case;" } : Jvm.MethodName)) ∈ lw_all := lw_g (lw_at lw_m4 197 rfl) rfl
theorem q1013 : (Jvm.Cond.privateMethod ({ cls := "Patternforge", name := "caseAt", desc := "(I)LPatternforge$Case;" } : Jvm.MethodName)) ∈ lw_tbl := lw_at lw_m4 198 rfl
theorem q1014 : (Jvm.Cond.instanceMethod ({ cls := "Patternforge", name := "caseAt", desc := "(I)LPatternforge$Case;" } : Jvm.MethodName)) ∈ lw_all := lw_g (lw_at lw_m4 199 rfl) rfl
theorem q1015 : (Jvm.Cond.code ({ cls := "Patternforge", name := "caseAt", desc := "(I)LPatternforge$Case;" } : Jvm.MethodName) prog_1_method_38_code (2 : Nat) (Option.some (Jvm.ClassFile.FieldType.object "Patternforge$Case"))) ∈ lw_all := lw_g (lw_at lw_m4 200 rfl) rfl
theorem q1016 : (Jvm.Cond.methodLink "Patternforge" (298 : Nat) ({ cls := "Patternforge", name := "isNumberIn", desc := "(LPatternforge$Case;I)Z" } : Jvm.MethodName)) ∈ lw_all := lw_g (lw_at lw_m4 201 rfl) rfl
theorem q1017 : (Jvm.Cond.privateMethod ({ cls := "Patternforge", name := "isNumberIn", desc := "(LPatternforge$Case;I)Z" } : Jvm.MethodName)) ∈ lw_tbl := lw_at lw_m4 202 rfl
theorem q1018 : (Jvm.Cond.instanceMethod ({ cls := "Patternforge", name := "isNumberIn", desc := "(LPatternforge$Case;I)Z" } : Jvm.MethodName)) ∈ lw_all := lw_g (lw_at lw_m4 203 rfl) rfl
theorem q1019 : (Jvm.Cond.code ({ cls := "Patternforge", name := "isNumberIn", desc := "(LPatternforge$Case;I)Z" } : Jvm.MethodName) prog_1_method_40_code (6 : Nat) (Option.some Jvm.ClassFile.FieldType.boolean)) ∈ lw_all := lw_g (lw_at lw_m4 204 rfl) rfl
theorem q1020 : (Jvm.Cond.methodLink "Patternforge" (272 : Nat) ({ cls := "Patternforge", name := "isNumberIn", desc := "(LPatternforge$Pattern;II)Z" } : Jvm.MethodName)) ∈ lw_all := lw_g (lw_at lw_m4 205 rfl) rfl
theorem q1021 : (Jvm.Cond.privateMethod ({ cls := "Patternforge", name := "isNumberIn", desc := "(LPatternforge$Pattern;II)Z" } : Jvm.MethodName)) ∈ lw_tbl := lw_at lw_m4 206 rfl
theorem q1022 : (Jvm.Cond.instanceMethod ({ cls := "Patternforge", name := "isNumberIn", desc := "(LPatternforge$Pattern;II)Z" } : Jvm.MethodName)) ∈ lw_all := lw_g (lw_at lw_m4 207 rfl) rfl
theorem q1023 : (Jvm.Cond.code ({ cls := "Patternforge", name := "isNumberIn", desc := "(LPatternforge$Pattern;II)Z" } : Jvm.MethodName) prog_1_method_39_code (8 : Nat) (Option.some Jvm.ClassFile.FieldType.boolean)) ∈ lw_all := lw_g (lw_at lw_m4 208 rfl) rfl
theorem q1024 : (Jvm.Cond.methodLink "Patternforge" (266 : Nat) ({ cls := "Patternforge$Name", name := "name", desc := "()I" } : Jvm.MethodName)) ∈ lw_all := lw_g (lw_at lw_m4 209 rfl) rfl
theorem q1028 : (Jvm.Cond.methodLink "Patternforge" (269 : Nat) ({ cls := "Patternforge$Name", name := "of", desc := "()LPatternforge$Pattern;" } : Jvm.MethodName)) ∈ lw_all := lw_g (lw_at lw_m4 213 rfl) rfl
theorem q1032 : (Jvm.Cond.methodLink "Patternforge" (276 : Nat) ({ cls := "Patternforge$Either", name := "first", desc := "()LPatternforge$Pattern;" } : Jvm.MethodName)) ∈ lw_all := lw_g (lw_at lw_m4 217 rfl) rfl
theorem q1036 : (Jvm.Cond.methodLink "Patternforge" (279 : Nat) ({ cls := "Patternforge$Either", name := "second", desc := "()LPatternforge$Pattern;" } : Jvm.MethodName)) ∈ lw_all := lw_g (lw_at lw_m4 221 rfl) rfl
theorem q1040 : (Jvm.Cond.methodLink "Patternforge" (282 : Nat) ({ cls := "Patternforge$Make", name := "type", desc := "()I" } : Jvm.MethodName)) ∈ lw_all := lw_g (lw_at lw_m4 225 rfl) rfl
theorem q1044 : (Jvm.Cond.methodLink "Patternforge" (285 : Nat) ({ cls := "Patternforge$Make", name := "constructor", desc := "()I" } : Jvm.MethodName)) ∈ lw_all := lw_g (lw_at lw_m4 229 rfl) rfl
theorem q1048 : (Jvm.Cond.methodLink "Patternforge" (288 : Nat) ({ cls := "Patternforge$Make", name := "fields", desc := "()[LPatternforge$Pattern;" } : Jvm.MethodName)) ∈ lw_all := lw_g (lw_at lw_m4 233 rfl) rfl
theorem q1052 : (Jvm.Cond.methodLink "Patternforge" (305 : Nat) ({ cls := "Patternforge$Test", name := "ordinal", desc := "()I" } : Jvm.MethodName)) ∈ lw_all := lw_g (lw_at lw_m4 237 rfl) rfl
theorem q1061 : (Jvm.Cond.methodLink "Patternforge" (310 : Nat) ({ cls := "Patternforge$Test", name := "values", desc := "()[LPatternforge$Test;" } : Jvm.MethodName)) ∈ lw_all := lw_g (lw_at lw_m5 6 rfl) rfl
theorem q1078 : (Jvm.Cond.instanceMethod ({ cls := "Patternforge", name := "split", desc := "(II)I" } : Jvm.MethodName)) ∈ lw_all := lw_g (lw_at lw_m5 23 rfl) rfl
theorem q1079 : (Jvm.Cond.selects "Patternforge" ({ cls := "Patternforge", name := "split", desc := "(II)I" } : Jvm.MethodName) ({ cls := "Patternforge", name := "split", desc := "(II)I" } : Jvm.MethodName)) ∈ lw_all := lw_g (lw_at lw_m5 24 rfl) rfl
theorem q1080 : (Jvm.Cond.code ({ cls := "Patternforge", name := "split", desc := "(II)I" } : Jvm.MethodName) prog_1_method_45_code (6 : Nat) (Option.some Jvm.ClassFile.FieldType.int)) ∈ lw_all := lw_g (lw_at lw_m5 25 rfl) rfl
theorem q1081 : (Jvm.Cond.methodLink "Patternforge" (323 : Nat) ({ cls := "Patternforge", name := "requireColumn", desc := "(I)V" } : Jvm.MethodName)) ∈ lw_all := lw_g (lw_at lw_m5 26 rfl) rfl
theorem q1082 : (Jvm.Cond.privateMethod ({ cls := "Patternforge", name := "requireColumn", desc := "(I)V" } : Jvm.MethodName)) ∈ lw_tbl := lw_at lw_m5 27 rfl
theorem q1083 : (Jvm.Cond.instanceMethod ({ cls := "Patternforge", name := "requireColumn", desc := "(I)V" } : Jvm.MethodName)) ∈ lw_all := lw_g (lw_at lw_m5 28 rfl) rfl
theorem q1084 : (Jvm.Cond.code ({ cls := "Patternforge", name := "requireColumn", desc := "(I)V" } : Jvm.MethodName) prog_1_method_42_code (2 : Nat) (Option.none : Option Jvm.ClassFile.FieldType)) ∈ lw_all := lw_g (lw_at lw_m5 29 rfl) rfl
theorem q1085 : (Jvm.Cond.methodLink "Patternforge" (326 : Nat) ({ cls := "Patternforge", name := "numberOf", desc := "(LPatternforge$Pattern;)I" } : Jvm.MethodName)) ∈ lw_all := lw_g (lw_at lw_m5 30 rfl) rfl
theorem q1086 : (Jvm.Cond.privateMethod ({ cls := "Patternforge", name := "numberOf", desc := "(LPatternforge$Pattern;)I" } : Jvm.MethodName)) ∈ lw_tbl := lw_at lw_m5 31 rfl
theorem q1087 : (Jvm.Cond.instanceMethod ({ cls := "Patternforge", name := "numberOf", desc := "(LPatternforge$Pattern;)I" } : Jvm.MethodName)) ∈ lw_all := lw_g (lw_at lw_m5 32 rfl) rfl
theorem q1088 : (Jvm.Cond.code ({ cls := "Patternforge", name := "numberOf", desc := "(LPatternforge$Pattern;)I" } : Jvm.MethodName) prog_1_method_43_code (3 : Nat) (Option.some Jvm.ClassFile.FieldType.int)) ∈ lw_all := lw_g (lw_at lw_m5 33 rfl) rfl
theorem q1089 : (Jvm.Cond.methodLink "Patternforge" (330 : Nat) ({ cls := "Patternforge", name := "with", desc := "([III)[I" } : Jvm.MethodName)) ∈ lw_all := lw_g (lw_at lw_m5 34 rfl) rfl
theorem q1090 : (Jvm.Cond.static ({ cls := "Patternforge", name := "with", desc := "([III)[I" } : Jvm.MethodName)) ∈ lw_all := lw_g (lw_at lw_m5 35 rfl) rfl
theorem q1091 : (Jvm.Cond.code ({ cls := "Patternforge", name := "with", desc := "([III)[I" } : Jvm.MethodName) prog_1_method_44_code (4 : Nat) (Option.some (Jvm.ClassFile.FieldType.array Jvm.ClassFile.FieldType.int))) ∈ lw_all := lw_g (lw_at lw_m5 36 rfl) rfl
theorem q1092 : (Jvm.Cond.methodLink "Patternforge" (319 : Nat) ({ cls := "[I", name := "clone", desc := "()Ljava/lang/Object;" } : Jvm.MethodName)) ∈ lw_all := lw_g (lw_at lw_m5 37 rfl) rfl
theorem q1096 : (Jvm.Cond.methodLink "Patternforge" (337 : Nat) ({ cls := "java/util/ArrayList", name := "set", desc := "(ILjava/lang/Object;)Ljava/lang/Object;" } : Jvm.MethodName)) ∈ lw_all := lw_g (lw_at lw_m5 41 rfl) rfl
theorem q1100 : (Jvm.Cond.methodLink "Patternforge" (341 : Nat) ({ cls := "java/util/ArrayList", name := "add", desc := "(ILjava/lang/Object;)V" } : Jvm.MethodName)) ∈ lw_all := lw_g (lw_at lw_m5 45 rfl) rfl
theorem q1346 : (Jvm.Cond.instanceMethod ({ cls := "Patternforge", name := "merge", desc := "(II)I" } : Jvm.MethodName)) ∈ lw_all := lw_g (lw_at lw_m6 51 rfl) rfl
theorem q1347 : (Jvm.Cond.selects "Patternforge" ({ cls := "Patternforge", name := "merge", desc := "(II)I" } : Jvm.MethodName) ({ cls := "Patternforge", name := "merge", desc := "(II)I" } : Jvm.MethodName)) ∈ lw_all := lw_g (lw_at lw_m6 52 rfl) rfl
theorem q1348 : (Jvm.Cond.code ({ cls := "Patternforge", name := "merge", desc := "(II)I" } : Jvm.MethodName) prog_1_method_46_code (9 : Nat) (Option.some Jvm.ClassFile.FieldType.int)) ∈ lw_all := lw_g (lw_at lw_m6 53 rfl) rfl
theorem q1349 : (Jvm.Cond.methodLink "Patternforge" (344 : Nat) ({ cls := "java/util/ArrayList", name := "remove", desc := "(I)Ljava/lang/Object;" } : Jvm.MethodName)) ∈ lw_all := lw_g (lw_at lw_m6 54 rfl) rfl
theorem q1361 : (Jvm.Cond.instanceMethod ({ cls := "Patternforge", name := "run", desc := "(IIII)I" } : Jvm.MethodName)) ∈ lw_all := lw_g (lw_at lw_m6 66 rfl) rfl
theorem q1362 : (Jvm.Cond.selects "Patternforge" ({ cls := "Patternforge", name := "run", desc := "(IIII)I" } : Jvm.MethodName) ({ cls := "Patternforge", name := "run", desc := "(IIII)I" } : Jvm.MethodName)) ∈ lw_all := lw_g (lw_at lw_m6 67 rfl) rfl
theorem q1363 : (Jvm.Cond.code ({ cls := "Patternforge", name := "run", desc := "(IIII)I" } : Jvm.MethodName) prog_1_method_50_code (8 : Nat) (Option.some Jvm.ClassFile.FieldType.int)) ∈ lw_all := lw_g (lw_at lw_m6 68 rfl) rfl
theorem q1364 : (Jvm.Cond.methodLink "Patternforge" (365 : Nat) ({ cls := "Patternforge", name := "treeAt", desc := "(I)LPatternforge$Tree;" } : Jvm.MethodName)) ∈ lw_all := lw_g (lw_at lw_m6 69 rfl) rfl
theorem q1365 : (Jvm.Cond.privateMethod ({ cls := "Patternforge", name := "treeAt", desc := "(I)LPatternforge$Tree;" } : Jvm.MethodName)) ∈ lw_tbl := lw_at lw_m6 70 rfl
theorem q1366 : (Jvm.Cond.instanceMethod ({ cls := "Patternforge", name := "treeAt", desc := "(I)LPatternforge$Tree;" } : Jvm.MethodName)) ∈ lw_all := lw_g (lw_at lw_m6 71 rfl) rfl
theorem q1367 : (Jvm.Cond.code ({ cls := "Patternforge", name := "treeAt", desc := "(I)LPatternforge$Tree;" } : Jvm.MethodName) prog_1_method_47_code (3 : Nat) (Option.some (Jvm.ClassFile.FieldType.object "Patternforge$Tree"))) ∈ lw_all := lw_g (lw_at lw_m6 72 rfl) rfl
theorem q1368 : (Jvm.Cond.methodLink "Patternforge" (347 : Nat) ({ cls := "Patternforge$Tree", name := "refresh", desc := "()V" } : Jvm.MethodName)) ∈ lw_all := lw_g (lw_at lw_m6 73 rfl) rfl
theorem q1446 : (Jvm.Cond.static ({ cls := "Patternforge", name := "field", desc := "(II)I" } : Jvm.MethodName)) ∈ lw_all := lw_g (lw_at lw_m6 151 rfl) rfl
theorem q1447 : (Jvm.Cond.code ({ cls := "Patternforge", name := "field", desc := "(II)I" } : Jvm.MethodName) prog_1_method_6_code (2 : Nat) (Option.some Jvm.ClassFile.FieldType.int)) ∈ lw_all := lw_g (lw_at lw_m6 152 rfl) rfl
theorem q1565 : (Jvm.Cond.methodLink "Patternforge" (374 : Nat) ({ cls := "Patternforge$Automaton", name := "refresh", desc := "()V" } : Jvm.MethodName)) ∈ lw_all := lw_g (lw_at lw_m7 30 rfl) rfl
theorem q1627 : (Jvm.Cond.methodLink "Patternforge" (375 : Nat) ({ cls := "Patternforge", name := "tryPlain", desc := "()I" } : Jvm.MethodName)) ∈ lw_all := lw_g (lw_at lw_m7 92 rfl) rfl
theorem q1628 : (Jvm.Cond.privateMethod ({ cls := "Patternforge", name := "tryPlain", desc := "()I" } : Jvm.MethodName)) ∈ lw_tbl := lw_at lw_m7 93 rfl
theorem q1629 : (Jvm.Cond.instanceMethod ({ cls := "Patternforge", name := "tryPlain", desc := "()I" } : Jvm.MethodName)) ∈ lw_all := lw_g (lw_at lw_m7 94 rfl) rfl
theorem q1630 : (Jvm.Cond.code ({ cls := "Patternforge", name := "tryPlain", desc := "()I" } : Jvm.MethodName) prog_1_method_48_code (2 : Nat) (Option.some Jvm.ClassFile.FieldType.int)) ∈ lw_all := lw_g (lw_at lw_m7 95 rfl) rfl
theorem q1631 : (Jvm.Cond.methodLink "Patternforge" (350 : Nat) ({ cls := "Patternforge$Running", name := "matches", desc := "(LPatternforge$Case;)I" } : Jvm.MethodName)) ∈ lw_all := lw_g (lw_at lw_m7 96 rfl) rfl
theorem q1634 : (Jvm.Cond.methodLink "Patternforge" (354 : Nat) ({ cls := "Patternforge$Running", name := "guards", desc := "(LPatternforge$Case;)I" } : Jvm.MethodName)) ∈ lw_all := lw_g (lw_at lw_m7 99 rfl) rfl
theorem q1657 : (Jvm.Cond.methodLink "Patternforge" (378 : Nat) ({ cls := "Patternforge$Automaton", name := "go", desc := "()I" } : Jvm.MethodName)) ∈ lw_all := lw_g (lw_at lw_m7 122 rfl) rfl
theorem q1671 : (Jvm.Cond.methodLink "Patternforge" (381 : Nat) ({ cls := "Patternforge", name := "tryTree", desc := "(LPatternforge$Tree;)I" } : Jvm.MethodName)) ∈ lw_all := lw_g (lw_at lw_m7 136 rfl) rfl
theorem q1672 : (Jvm.Cond.privateMethod ({ cls := "Patternforge", name := "tryTree", desc := "(LPatternforge$Tree;)I" } : Jvm.MethodName)) ∈ lw_tbl := lw_at lw_m7 137 rfl
theorem q1673 : (Jvm.Cond.instanceMethod ({ cls := "Patternforge", name := "tryTree", desc := "(LPatternforge$Tree;)I" } : Jvm.MethodName)) ∈ lw_all := lw_g (lw_at lw_m7 138 rfl) rfl
theorem q1674 : (Jvm.Cond.code ({ cls := "Patternforge", name := "tryTree", desc := "(LPatternforge$Tree;)I" } : Jvm.MethodName) prog_1_method_49_code (3 : Nat) (Option.some Jvm.ClassFile.FieldType.int)) ∈ lw_all := lw_g (lw_at lw_m7 139 rfl) rfl
theorem q1675 : (Jvm.Cond.methodLink "Patternforge" (357 : Nat) ({ cls := "Patternforge$Tree", name := "descend", desc := "()I" } : Jvm.MethodName)) ∈ lw_all := lw_g (lw_at lw_m7 140 rfl) rfl
theorem q1683 : (Jvm.Cond.methodLink "Patternforge" (385 : Nat) ({ cls := "Patternforge$Running", name := "binds", desc := "(LPatternforge$Case;)V" } : Jvm.MethodName)) ∈ lw_all := lw_g (lw_at lw_m7 148 rfl) rfl
theorem q1688 : (Jvm.Cond.instanceMethod ({ cls := "Patternforge", name := "viewAt", desc := "(I)I" } : Jvm.MethodName)) ∈ lw_all := lw_g (lw_at lw_m7 153 rfl) rfl
theorem q1689 : (Jvm.Cond.selects "Patternforge" ({ cls := "Patternforge", name := "viewAt", desc := "(I)I" } : Jvm.MethodName) ({ cls := "Patternforge", name := "viewAt", desc := "(I)I" } : Jvm.MethodName)) ∈ lw_all := lw_g (lw_at lw_m7 154 rfl) rfl
theorem q1690 : (Jvm.Cond.code ({ cls := "Patternforge", name := "viewAt", desc := "(I)I" } : Jvm.MethodName) prog_1_method_53_code (2 : Nat) (Option.some Jvm.ClassFile.FieldType.int)) ∈ lw_all := lw_g (lw_at lw_m7 155 rfl) rfl
theorem q1691 : (Jvm.Cond.constant "Patternforge" (398 : Nat) (100000 : Int32)) ∈ lw_all := lw_g (lw_at lw_m7 156 rfl) rfl
theorem q1696 : (Jvm.Cond.instanceMethod ({ cls := "Patternforge", name := "bound", desc := "(I)I" } : Jvm.MethodName)) ∈ lw_all := lw_g (lw_at lw_m7 161 rfl) rfl
theorem q1697 : (Jvm.Cond.selects "Patternforge" ({ cls := "Patternforge", name := "bound", desc := "(I)I" } : Jvm.MethodName) ({ cls := "Patternforge", name := "bound", desc := "(I)I" } : Jvm.MethodName)) ∈ lw_all := lw_g (lw_at lw_m7 162 rfl) rfl
theorem q1698 : (Jvm.Cond.code ({ cls := "Patternforge", name := "bound", desc := "(I)I" } : Jvm.MethodName) prog_1_method_54_code (2 : Nat) (Option.some Jvm.ClassFile.FieldType.int)) ∈ lw_all := lw_g (lw_at lw_m7 163 rfl) rfl
theorem q1703 : (Jvm.Cond.instanceMethod ({ cls := "Patternforge", name := "taken", desc := "(I)I" } : Jvm.MethodName)) ∈ lw_all := lw_g (lw_at lw_m7 168 rfl) rfl
theorem q1704 : (Jvm.Cond.selects "Patternforge" ({ cls := "Patternforge", name := "taken", desc := "(I)I" } : Jvm.MethodName) ({ cls := "Patternforge", name := "taken", desc := "(I)I" } : Jvm.MethodName)) ∈ lw_all := lw_g (lw_at lw_m7 169 rfl) rfl
theorem q1705 : (Jvm.Cond.code ({ cls := "Patternforge", name := "taken", desc := "(I)I" } : Jvm.MethodName) prog_1_method_55_code (2 : Nat) (Option.some Jvm.ClassFile.FieldType.int)) ∈ lw_all := lw_g (lw_at lw_m7 170 rfl) rfl
theorem q1710 : (Jvm.Cond.instanceMethod ({ cls := "Patternforge", name := "size", desc := "(IZ)I" } : Jvm.MethodName)) ∈ lw_all := lw_g (lw_at lw_m7 175 rfl) rfl
theorem q1711 : (Jvm.Cond.selects "Patternforge" ({ cls := "Patternforge", name := "size", desc := "(IZ)I" } : Jvm.MethodName) ({ cls := "Patternforge", name := "size", desc := "(IZ)I" } : Jvm.MethodName)) ∈ lw_all := lw_g (lw_at lw_m7 176 rfl) rfl
theorem q1712 : (Jvm.Cond.code ({ cls := "Patternforge", name := "size", desc := "(IZ)I" } : Jvm.MethodName) prog_1_method_56_code (4 : Nat) (Option.some Jvm.ClassFile.FieldType.int)) ∈ lw_all := lw_g (lw_at lw_m7 177 rfl) rfl
theorem q1713 : (Jvm.Cond.methodLink "Patternforge" (413 : Nat) ({ cls := "Patternforge$Tree", name := "shared", desc := "()I" } : Jvm.MethodName)) ∈ lw_all := lw_g (lw_at lw_m7 178 rfl) rfl
theorem q1729 : (Jvm.Cond.instanceMethod ({ cls := "Patternforge", name := "missing", desc := "()I" } : Jvm.MethodName)) ∈ lw_all := lw_g (lw_at lw_m7 194 rfl) rfl
theorem q1730 : (Jvm.Cond.selects "Patternforge" ({ cls := "Patternforge", name := "missing", desc := "()I" } : Jvm.MethodName) ({ cls := "Patternforge", name := "missing", desc := "()I" } : Jvm.MethodName)) ∈ lw_all := lw_g (lw_at lw_m7 195 rfl) rfl
theorem q1731 : (Jvm.Cond.code ({ cls := "Patternforge", name := "missing", desc := "()I" } : Jvm.MethodName) prog_1_method_57_code (2 : Nat) (Option.some Jvm.ClassFile.FieldType.int)) ∈ lw_all := lw_g (lw_at lw_m7 196 rfl) rfl
theorem q1732 : (Jvm.Cond.methodLink "Patternforge" (419 : Nat) ({ cls := "Patternforge$Tree", name := "manyOfKind", desc := "(I)I" } : Jvm.MethodName)) ∈ lw_all := lw_g (lw_at lw_m7 197 rfl) rfl
theorem q1740 : (Jvm.Cond.instanceMethod ({ cls := "Patternforge", name := "example", desc := "(I)I" } : Jvm.MethodName)) ∈ lw_all := lw_g (lw_at lw_m7 205 rfl) rfl
theorem q1741 : (Jvm.Cond.selects "Patternforge" ({ cls := "Patternforge", name := "example", desc := "(I)I" } : Jvm.MethodName) ({ cls := "Patternforge", name := "example", desc := "(I)I" } : Jvm.MethodName)) ∈ lw_all := lw_g (lw_at lw_m7 206 rfl) rfl
theorem q1742 : (Jvm.Cond.code ({ cls := "Patternforge", name := "example", desc := "(I)I" } : Jvm.MethodName) prog_1_method_58_code (2 : Nat) (Option.some Jvm.ClassFile.FieldType.int)) ∈ lw_all := lw_g (lw_at lw_m7 207 rfl) rfl
theorem q1743 : (Jvm.Cond.methodLink "Patternforge" (423 : Nat) ({ cls := "Patternforge$Tree", name := "example", desc := "(I)I" } : Jvm.MethodName)) ∈ lw_all := lw_g (lw_at lw_m7 208 rfl) rfl
theorem q1755 : (Jvm.Cond.instanceMethod ({ cls := "Patternforge", name := "isUsed", desc := "(I)Z" } : Jvm.MethodName)) ∈ lw_all := lw_g (lw_at lw_m7 220 rfl) rfl
theorem q1756 : (Jvm.Cond.selects "Patternforge" ({ cls := "Patternforge", name := "isUsed", desc := "(I)Z" } : Jvm.MethodName) ({ cls := "Patternforge", name := "isUsed", desc := "(I)Z" } : Jvm.MethodName)) ∈ lw_all := lw_g (lw_at lw_m7 221 rfl) rfl
theorem q1757 : (Jvm.Cond.code ({ cls := "Patternforge", name := "isUsed", desc := "(I)Z" } : Jvm.MethodName) prog_1_method_59_code (5 : Nat) (Option.some Jvm.ClassFile.FieldType.boolean)) ∈ lw_all := lw_g (lw_at lw_m7 222 rfl) rfl
theorem q2302 : (Jvm.Cond.castable "Patternforge" "java/lang/Object") ∈ lw_tbl := lw_at lw_m10 47 rfl
theorem in_X1 : ∀ w ∈ wsX10, w ∈ lw_all := lw_in wsX10 [433, 435, 437, 439, 441, 443, 445, 447, 449, 451, 453, 455] (by decide +kernel) (by decide +kernel)
