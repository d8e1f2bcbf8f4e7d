/-! PatternforgeModel -/
set_option maxRecDepth 100000
def RX6 : String := "PatternforgeModel"
def TX6 : u_T := fun k => match k with
  | 0 => ("PatternforgeModel", "refusal", "I", false)
  | 1 => ("PatternforgeModel", "constructors", "[I", true)
  | 2 => ("PatternforgeModel", "fieldCount", "[I", true)
  | 3 => ("PatternforgeModel", "fieldKind", "[I", true)
  | 4 => ("PatternforgeModel", "values", "I", false)
  | 5 => ("PatternforgeModel", "valueKind", "[I", true)
  | 6 => ("PatternforgeModel", "valueHead", "[I", true)
  | 7 => ("PatternforgeModel", "valueParts", "[I", true)
  | 8 => ("PatternforgeModel", "measures", "[I", true)
  | 9 => ("PatternforgeModel", "patterns", "I", false)
  | 10 => ("PatternforgeModel", "forms", "[I", true)
  | 11 => ("PatternforgeModel", "heads", "[I", true)
  | 12 => ("PatternforgeModel", "rests", "[I", true)
  | 13 => ("PatternforgeModel", "parts", "[I", true)
  | 14 => ("PatternforgeModel", "kinds", "[I", true)
  | 15 => ("PatternforgeModel", "depths", "[I", true)
  | 16 => ("PatternforgeModel", "sizes", "[I", true)
  | 17 => ("PatternforgeModel", "names", "[I", true)
  | 18 => ("PatternforgeModel", "hasView", "[Z", true)
  | 19 => ("PatternforgeModel", "isBare", "[Z", true)
  | 20 => ("PatternforgeModel", "viewNumbers", "[I", true)
  | 21 => ("PatternforgeModel", "columns", "I", false)
  | 22 => ("PatternforgeModel", "columnKinds", "[I", true)
  | 23 => ("PatternforgeModel", "cases", "I", false)
  | 24 => ("PatternforgeModel", "casePatterns", "[I", true)
  | 25 => ("PatternforgeModel", "results", "[I", true)
  | 26 => ("PatternforgeModel", "guards", "[I", true)
  | 27 => ("PatternforgeModel", "guardNames", "[I", true)
  | 28 => ("PatternforgeModel", "guardNumbers", "[I", true)
  | 29 => ("PatternforgeModel", "takens", "[I", true)
  | 30 => ("PatternforgeModel", "wait", "[I", true)
  | 31 => ("PatternforgeModel", "waitKinds", "[I", true)
  | 32 => ("PatternforgeModel", "heap", "[I", true)
  | 33 => ("PatternforgeModel", "heapPlaces", "[I", true)
  | 34 => ("PatternforgeModel", "top", "I", false)
  | 35 => ("PatternforgeModel", "choiceTops", "[I", true)
  | 36 => ("PatternforgeModel", "choicePatterns", "[I", true)
  | 37 => ("PatternforgeModel", "choicePlaces", "[I", true)
  | 38 => ("PatternforgeModel", "choices", "I", false)
  | 39 => ("PatternforgeModel", "binds", "[I", true)
  | 40 => ("PatternforgeModel", "isReal", "Z", false)
  | 41 => ("PatternforgeModel", "knownAt", "I", false)
  | 42 => ("PatternforgeModel", "askedKind", "I", false)
  | 43 => ("PatternforgeModel", "askedWhat", "I", false)
  | 44 => ("PatternforgeModel", "askedPlace", "I", false)
  | 45 => ("PatternforgeModel", "way", "[I", true)
  | 46 => ("PatternforgeModel", "given", "[I", true)
  | 47 => ("PatternforgeModel", "tests", "I", false)
  | 48 => ("PatternforgeModel", "ran", "I", false)
  | 49 => ("PatternforgeModel", "ranViews", "[I", true)
  | 50 => ("PatternforgeModel", "ranPlaces", "[I", true)
  | 51 => ("PatternforgeModel", "ranGave", "[I", true)
  | 52 => ("PatternforgeModel", "ended", "I", false)
  | 53 => ("PatternforgeModel", "lastBinds", "[I", true)
  | 54 => ("PatternforgeModel", "built", "I", false)
  | 55 => ("PatternforgeModel", "isLarge", "Z", false)
  | 56 => ("PatternforgeModel", "nodes", "I", false)
  | 57 => ("PatternforgeModel", "above", "[I", true)
  | 58 => ("PatternforgeModel", "asks", "[I", true)
  | 59 => ("PatternforgeModel", "askWhats", "[I", true)
  | 60 => ("PatternforgeModel", "askPlaces", "[I", true)
  | 61 => ("PatternforgeModel", "firsts", "[I", true)
  | 62 => ("PatternforgeModel", "behinds", "[I", true)
  | 63 => ("PatternforgeModel", "classes", "[I", true)
  | 64 => ("PatternforgeModel", "needPlaces", "[I", true)
  | 65 => ("PatternforgeModel", "needCounts", "[I", true)
  | 66 => ("PatternforgeModel", "needCase", "[I", true)
  | 67 => ("PatternforgeModel", "needs", "I", false)
  | _ => ("PatternforgeModel", "waitPlaces", "[I", true)
def tyX6 : Nat → FieldType := fun k => match k with
  | 0 => .int
  | 1 => .array .int
  | 2 => .array .int
  | 3 => .array .int
  | 4 => .int
  | 5 => .array .int
  | 6 => .array .int
  | 7 => .array .int
  | 8 => .array .int
  | 9 => .int
  | 10 => .array .int
  | 11 => .array .int
  | 12 => .array .int
  | 13 => .array .int
  | 14 => .array .int
  | 15 => .array .int
  | 16 => .array .int
  | 17 => .array .int
  | 18 => .array .boolean
  | 19 => .array .boolean
  | 20 => .array .int
  | 21 => .int
  | 22 => .array .int
  | 23 => .int
  | 24 => .array .int
  | 25 => .array .int
  | 26 => .array .int
  | 27 => .array .int
  | 28 => .array .int
  | 29 => .array .int
  | 30 => .array .int
  | 31 => .array .int
  | 32 => .array .int
  | 33 => .array .int
  | 34 => .int
  | 35 => .array .int
  | 36 => .array .int
  | 37 => .array .int
  | 38 => .int
  | 39 => .array .int
  | 40 => .boolean
  | 41 => .int
  | 42 => .int
  | 43 => .int
  | 44 => .int
  | 45 => .array .int
  | 46 => .array .int
  | 47 => .int
  | 48 => .int
  | 49 => .array .int
  | 50 => .array .int
  | 51 => .array .int
  | 52 => .int
  | 53 => .array .int
  | 54 => .int
  | 55 => .boolean
  | 56 => .int
  | 57 => .array .int
  | 58 => .array .int
  | 59 => .array .int
  | 60 => .array .int
  | 61 => .array .int
  | 62 => .array .int
  | 63 => .array .int
  | 64 => .array .int
  | 65 => .array .int
  | 66 => .array .int
  | 67 => .int
  | _ => .array .int
abbrev wsX60 : List Cond := u_ws RX6 TX6 69
set_option maxRecDepth 100000 in
theorem nmX6 : ∀ a, a < 69 → ∀ b, b < 69 → a ≠ b → (TX6 a).2.1 ≠ (TX6 b).2.1 := by decide +kernel
set_option maxRecDepth 100000 in
theorem tyX6_ok : ∀ k, k < 69 → parseFieldDescriptor (TX6 k).2.2.1 = some (tyX6 k) := by decide +kernel
abbrev cX6_init : ByteArray := prog_23_method_1_code
def yX6_init : MethodName := ⟨RX6, "<init>", "()V"⟩
def dkwX6_init_19 : List UInt8 := [27, 104, 6, 96, 16, 10, 79, 132, 1, 1, 167, 255, 227, 42, 2, 181, 0, 161, 42, 2, 181, 0, 165, 177]
abbrev dktX6_init_19 : List UInt8 := dkwX6_init_19 ++ []
def dkwX6_init_18 : List UInt8 := [181, 0, 158, 3, 60, 27, 6, 162, 0, 30, 42, 180, 0, 62, 7, 27, 104, 4, 79, 42, 180, 0, 62, 7]
abbrev dktX6_init_18 : List UInt8 := dkwX6_init_18 ++ dktX6_init_19
def dkwX6_init_17 : List UInt8 := [17, 2, 0, 188, 10, 181, 0, 152, 42, 17, 2, 0, 188, 10, 181, 0, 155, 42, 17, 1, 0, 188, 10]
abbrev dktX6_init_17 : List UInt8 := dkwX6_init_17 ++ dktX6_init_18
def dkwX6_init_16 : List UInt8 := [181, 0, 143, 42, 17, 2, 0, 188, 10, 181, 0, 146, 42, 17, 2, 0, 188, 10, 181, 0, 149, 42]
abbrev dktX6_init_16 : List UInt8 := dkwX6_init_16 ++ dktX6_init_17
def dkwX6_init_15 : List UInt8 := [17, 2, 0, 188, 10, 181, 0, 137, 42, 17, 2, 0, 188, 10, 181, 0, 140, 42, 17, 2, 0, 188, 10]
abbrev dktX6_init_15 : List UInt8 := dkwX6_init_15 ++ dktX6_init_16
def dkwX6_init_14 : List UInt8 := [181, 0, 128, 42, 17, 2, 0, 188, 10, 181, 0, 131, 42, 17, 2, 0, 188, 10, 181, 0, 134, 42]
abbrev dktX6_init_14 : List UInt8 := dkwX6_init_14 ++ dktX6_init_15
def dkwX6_init_13 : List UInt8 := [17, 5, 220, 188, 10, 181, 0, 122, 42, 16, 6, 188, 10, 181, 0, 125, 42, 17, 2, 0, 188, 10]
abbrev dktX6_init_13 : List UInt8 := dkwX6_init_13 ++ dktX6_init_14
def dkwX6_init_12 : List UInt8 := [181, 0, 113, 42, 17, 5, 220, 188, 10, 181, 0, 116, 42, 17, 5, 220, 188, 10, 181, 0, 119, 42]
abbrev dktX6_init_12 : List UInt8 := dkwX6_init_12 ++ dktX6_init_13
def dkwX6_init_11 : List UInt8 := [181, 0, 104, 42, 16, 6, 188, 10, 181, 0, 107, 42, 16, 8, 188, 10, 181, 0, 110, 42, 6, 188, 10]
abbrev dktX6_init_11 : List UInt8 := dkwX6_init_11 ++ dktX6_init_12
def dkwX6_init_10 : List UInt8 := [181, 0, 95, 42, 16, 64, 188, 10, 181, 0, 98, 42, 16, 64, 188, 10, 181, 0, 101, 42, 16, 64, 188, 10]
abbrev dktX6_init_10 : List UInt8 := dkwX6_init_10 ++ dktX6_init_11
def dkwX6_init_9 : List UInt8 := [17, 1, 0, 188, 10, 181, 0, 89, 42, 17, 1, 0, 188, 10, 181, 0, 92, 42, 17, 1, 0, 188, 10]
abbrev dktX6_init_9 : List UInt8 := dkwX6_init_9 ++ dktX6_init_10
def dkwX6_init_8 : List UInt8 := [188, 10, 181, 0, 80, 42, 16, 8, 188, 10, 181, 0, 83, 42, 17, 1, 0, 188, 10, 181, 0, 86, 42]
abbrev dktX6_init_8 : List UInt8 := dkwX6_init_8 ++ dktX6_init_9
def dkwX6_init_7 : List UInt8 := [188, 10, 181, 0, 71, 42, 16, 8, 188, 10, 181, 0, 74, 42, 16, 8, 188, 10, 181, 0, 77, 42, 16, 8]
abbrev dktX6_init_7 : List UInt8 := dkwX6_init_7 ++ dktX6_init_8
def dkwX6_init_6 : List UInt8 := [188, 10, 181, 0, 62, 42, 6, 188, 10, 181, 0, 65, 42, 16, 24, 188, 10, 181, 0, 68, 42, 16, 8]
abbrev dktX6_init_6 : List UInt8 := dkwX6_init_6 ++ dktX6_init_7
def dkwX6_init_5 : List UInt8 := [188, 10, 181, 0, 52, 42, 16, 60, 188, 4, 181, 0, 55, 42, 16, 60, 188, 4, 181, 0, 59, 42, 16, 12]
abbrev dktX6_init_5 : List UInt8 := dkwX6_init_5 ++ dktX6_init_6
def dkwX6_init_4 : List UInt8 := [188, 10, 181, 0, 43, 42, 16, 60, 188, 10, 181, 0, 46, 42, 16, 60, 188, 10, 181, 0, 49, 42, 16, 60]
abbrev dktX6_init_4 : List UInt8 := dkwX6_init_4 ++ dktX6_init_5
def dkwX6_init_3 : List UInt8 := [181, 0, 34, 42, 16, 60, 188, 10, 181, 0, 37, 42, 17, 0, 180, 188, 10, 181, 0, 40, 42, 16, 60]
abbrev dktX6_init_3 : List UInt8 := dkwX6_init_3 ++ dktX6_init_4
def dkwX6_init_2 : List UInt8 := [181, 0, 25, 42, 16, 40, 188, 10, 181, 0, 28, 42, 16, 60, 188, 10, 181, 0, 31, 42, 16, 60, 188, 10]
abbrev dktX6_init_2 : List UInt8 := dkwX6_init_2 ++ dktX6_init_3
def dkwX6_init_1 : List UInt8 := [181, 0, 16, 42, 16, 40, 188, 10, 181, 0, 19, 42, 16, 40, 188, 10, 181, 0, 22, 42, 16, 120, 188, 10]
abbrev dktX6_init_1 : List UInt8 := dkwX6_init_1 ++ dktX6_init_2
def dkwX6_init_0 : List UInt8 := [42, 183, 0, 1, 42, 7, 188, 10, 181, 0, 7, 42, 16, 16, 188, 10, 181, 0, 13, 42, 16, 48, 188, 10]
abbrev dktX6_init_0 : List UInt8 := dkwX6_init_0 ++ dktX6_init_1
theorem dksX6_init_0 : cX6_init.data.toList.drop 0 = dktX6_init_0 := by decide +kernel
theorem dksX6_init_1 : cX6_init.data.toList.drop 24 = dktX6_init_1 := dk_seg dksX6_init_0 24 rfl rfl
theorem dksX6_init_2 : cX6_init.data.toList.drop 48 = dktX6_init_2 := dk_seg dksX6_init_1 24 rfl rfl
theorem dksX6_init_3 : cX6_init.data.toList.drop 72 = dktX6_init_3 := dk_seg dksX6_init_2 24 rfl rfl
theorem dksX6_init_4 : cX6_init.data.toList.drop 95 = dktX6_init_4 := dk_seg dksX6_init_3 23 rfl rfl
theorem dksX6_init_5 : cX6_init.data.toList.drop 119 = dktX6_init_5 := dk_seg dksX6_init_4 24 rfl rfl
theorem dksX6_init_6 : cX6_init.data.toList.drop 143 = dktX6_init_6 := dk_seg dksX6_init_5 24 rfl rfl
theorem dksX6_init_7 : cX6_init.data.toList.drop 166 = dktX6_init_7 := dk_seg dksX6_init_6 23 rfl rfl
theorem dksX6_init_8 : cX6_init.data.toList.drop 190 = dktX6_init_8 := dk_seg dksX6_init_7 24 rfl rfl
theorem dksX6_init_9 : cX6_init.data.toList.drop 213 = dktX6_init_9 := dk_seg dksX6_init_8 23 rfl rfl
theorem dksX6_init_10 : cX6_init.data.toList.drop 236 = dktX6_init_10 := dk_seg dksX6_init_9 23 rfl rfl
theorem dksX6_init_11 : cX6_init.data.toList.drop 260 = dktX6_init_11 := dk_seg dksX6_init_10 24 rfl rfl
theorem dksX6_init_12 : cX6_init.data.toList.drop 283 = dktX6_init_12 := dk_seg dksX6_init_11 23 rfl rfl
theorem dksX6_init_13 : cX6_init.data.toList.drop 305 = dktX6_init_13 := dk_seg dksX6_init_12 22 rfl rfl
theorem dksX6_init_14 : cX6_init.data.toList.drop 327 = dktX6_init_14 := dk_seg dksX6_init_13 22 rfl rfl
theorem dksX6_init_15 : cX6_init.data.toList.drop 349 = dktX6_init_15 := dk_seg dksX6_init_14 22 rfl rfl
theorem dksX6_init_16 : cX6_init.data.toList.drop 372 = dktX6_init_16 := dk_seg dksX6_init_15 23 rfl rfl
theorem dksX6_init_17 : cX6_init.data.toList.drop 394 = dktX6_init_17 := dk_seg dksX6_init_16 22 rfl rfl
theorem dksX6_init_18 : cX6_init.data.toList.drop 417 = dktX6_init_18 := dk_seg dksX6_init_17 23 rfl rfl
theorem dksX6_init_19 : cX6_init.data.toList.drop 441 = dktX6_init_19 := dk_seg dksX6_init_18 24 rfl rfl
theorem dX6_init_0 : decode cX6_init 0 = .ok (.aload_n 0, 1) := dk_42 (dk_at dksX6_init_0 0 rfl rfl)
theorem dX6_init_1 : decode cX6_init 1 = .ok (.invokespecial 1, 3) := dk_183 0 1 (dk_at dksX6_init_0 1 rfl rfl)
theorem dX6_init_4 : decode cX6_init 4 = .ok (.aload_n 0, 1) := dk_42 (dk_at dksX6_init_0 4 rfl rfl)
theorem dX6_init_5 : decode cX6_init 5 = .ok (.iconst 4, 1) := dk_7 (dk_at dksX6_init_0 5 rfl rfl)
theorem dX6_init_6 : decode cX6_init 6 = .ok (.newarray .int, 2) := dk_188_10 (dk_at dksX6_init_0 6 rfl rfl)
theorem dX6_init_8 : decode cX6_init 8 = .ok (.putfield 7, 3) := dk_181 0 7 (dk_at dksX6_init_0 8 rfl rfl)
theorem dX6_init_11 : decode cX6_init 11 = .ok (.aload_n 0, 1) := dk_42 (dk_at dksX6_init_0 11 rfl rfl)
theorem dX6_init_12 : decode cX6_init 12 = .ok (.bipush 16, 2) := dk_16 16 (dk_at dksX6_init_0 12 rfl rfl)
theorem dX6_init_14 : decode cX6_init 14 = .ok (.newarray .int, 2) := dk_188_10 (dk_at dksX6_init_0 14 rfl rfl)
theorem dX6_init_16 : decode cX6_init 16 = .ok (.putfield 13, 3) := dk_181 0 13 (dk_at dksX6_init_0 16 rfl rfl)
theorem dX6_init_19 : decode cX6_init 19 = .ok (.aload_n 0, 1) := dk_42 (dk_at dksX6_init_0 19 rfl rfl)
theorem dX6_init_20 : decode cX6_init 20 = .ok (.bipush 48, 2) := dk_16 48 (dk_at dksX6_init_0 20 rfl rfl)
theorem dX6_init_22 : decode cX6_init 22 = .ok (.newarray .int, 2) := dk_188_10 (dk_at dksX6_init_0 22 rfl rfl)
theorem dX6_init_24 : decode cX6_init 24 = .ok (.putfield 16, 3) := dk_181 0 16 (dk_at dksX6_init_1 0 rfl rfl)
theorem dX6_init_27 : decode cX6_init 27 = .ok (.aload_n 0, 1) := dk_42 (dk_at dksX6_init_1 3 rfl rfl)
theorem dX6_init_28 : decode cX6_init 28 = .ok (.bipush 40, 2) := dk_16 40 (dk_at dksX6_init_1 4 rfl rfl)
theorem dX6_init_30 : decode cX6_init 30 = .ok (.newarray .int, 2) := dk_188_10 (dk_at dksX6_init_1 6 rfl rfl)
theorem dX6_init_32 : decode cX6_init 32 = .ok (.putfield 19, 3) := dk_181 0 19 (dk_at dksX6_init_1 8 rfl rfl)
theorem dX6_init_35 : decode cX6_init 35 = .ok (.aload_n 0, 1) := dk_42 (dk_at dksX6_init_1 11 rfl rfl)
theorem dX6_init_36 : decode cX6_init 36 = .ok (.bipush 40, 2) := dk_16 40 (dk_at dksX6_init_1 12 rfl rfl)
theorem dX6_init_38 : decode cX6_init 38 = .ok (.newarray .int, 2) := dk_188_10 (dk_at dksX6_init_1 14 rfl rfl)
theorem dX6_init_40 : decode cX6_init 40 = .ok (.putfield 22, 3) := dk_181 0 22 (dk_at dksX6_init_1 16 rfl rfl)
theorem dX6_init_43 : decode cX6_init 43 = .ok (.aload_n 0, 1) := dk_42 (dk_at dksX6_init_1 19 rfl rfl)
theorem dX6_init_44 : decode cX6_init 44 = .ok (.bipush 120, 2) := dk_16 120 (dk_at dksX6_init_1 20 rfl rfl)
theorem dX6_init_46 : decode cX6_init 46 = .ok (.newarray .int, 2) := dk_188_10 (dk_at dksX6_init_1 22 rfl rfl)
theorem dX6_init_48 : decode cX6_init 48 = .ok (.putfield 25, 3) := dk_181 0 25 (dk_at dksX6_init_2 0 rfl rfl)
theorem dX6_init_51 : decode cX6_init 51 = .ok (.aload_n 0, 1) := dk_42 (dk_at dksX6_init_2 3 rfl rfl)
theorem dX6_init_52 : decode cX6_init 52 = .ok (.bipush 40, 2) := dk_16 40 (dk_at dksX6_init_2 4 rfl rfl)
theorem dX6_init_54 : decode cX6_init 54 = .ok (.newarray .int, 2) := dk_188_10 (dk_at dksX6_init_2 6 rfl rfl)
theorem dX6_init_56 : decode cX6_init 56 = .ok (.putfield 28, 3) := dk_181 0 28 (dk_at dksX6_init_2 8 rfl rfl)
theorem dX6_init_59 : decode cX6_init 59 = .ok (.aload_n 0, 1) := dk_42 (dk_at dksX6_init_2 11 rfl rfl)
theorem dX6_init_60 : decode cX6_init 60 = .ok (.bipush 60, 2) := dk_16 60 (dk_at dksX6_init_2 12 rfl rfl)
theorem dX6_init_62 : decode cX6_init 62 = .ok (.newarray .int, 2) := dk_188_10 (dk_at dksX6_init_2 14 rfl rfl)
theorem dX6_init_64 : decode cX6_init 64 = .ok (.putfield 31, 3) := dk_181 0 31 (dk_at dksX6_init_2 16 rfl rfl)
theorem dX6_init_67 : decode cX6_init 67 = .ok (.aload_n 0, 1) := dk_42 (dk_at dksX6_init_2 19 rfl rfl)
theorem dX6_init_68 : decode cX6_init 68 = .ok (.bipush 60, 2) := dk_16 60 (dk_at dksX6_init_2 20 rfl rfl)
theorem dX6_init_70 : decode cX6_init 70 = .ok (.newarray .int, 2) := dk_188_10 (dk_at dksX6_init_2 22 rfl rfl)
theorem dX6_init_72 : decode cX6_init 72 = .ok (.putfield 34, 3) := dk_181 0 34 (dk_at dksX6_init_3 0 rfl rfl)
theorem dX6_init_75 : decode cX6_init 75 = .ok (.aload_n 0, 1) := dk_42 (dk_at dksX6_init_3 3 rfl rfl)
theorem dX6_init_76 : decode cX6_init 76 = .ok (.bipush 60, 2) := dk_16 60 (dk_at dksX6_init_3 4 rfl rfl)
theorem dX6_init_78 : decode cX6_init 78 = .ok (.newarray .int, 2) := dk_188_10 (dk_at dksX6_init_3 6 rfl rfl)
theorem dX6_init_80 : decode cX6_init 80 = .ok (.putfield 37, 3) := dk_181 0 37 (dk_at dksX6_init_3 8 rfl rfl)
theorem dX6_init_83 : decode cX6_init 83 = .ok (.aload_n 0, 1) := dk_42 (dk_at dksX6_init_3 11 rfl rfl)
theorem dX6_init_84 : decode cX6_init 84 = .ok (.sipush 180, 3) := dk_17 0 180 (dk_at dksX6_init_3 12 rfl rfl)
theorem dX6_init_87 : decode cX6_init 87 = .ok (.newarray .int, 2) := dk_188_10 (dk_at dksX6_init_3 15 rfl rfl)
theorem dX6_init_89 : decode cX6_init 89 = .ok (.putfield 40, 3) := dk_181 0 40 (dk_at dksX6_init_3 17 rfl rfl)
theorem dX6_init_92 : decode cX6_init 92 = .ok (.aload_n 0, 1) := dk_42 (dk_at dksX6_init_3 20 rfl rfl)
theorem dX6_init_93 : decode cX6_init 93 = .ok (.bipush 60, 2) := dk_16 60 (dk_at dksX6_init_3 21 rfl rfl)
theorem dX6_init_95 : decode cX6_init 95 = .ok (.newarray .int, 2) := dk_188_10 (dk_at dksX6_init_4 0 rfl rfl)
theorem dX6_init_97 : decode cX6_init 97 = .ok (.putfield 43, 3) := dk_181 0 43 (dk_at dksX6_init_4 2 rfl rfl)
theorem dX6_init_100 : decode cX6_init 100 = .ok (.aload_n 0, 1) := dk_42 (dk_at dksX6_init_4 5 rfl rfl)
theorem dX6_init_101 : decode cX6_init 101 = .ok (.bipush 60, 2) := dk_16 60 (dk_at dksX6_init_4 6 rfl rfl)
theorem dX6_init_103 : decode cX6_init 103 = .ok (.newarray .int, 2) := dk_188_10 (dk_at dksX6_init_4 8 rfl rfl)
theorem dX6_init_105 : decode cX6_init 105 = .ok (.putfield 46, 3) := dk_181 0 46 (dk_at dksX6_init_4 10 rfl rfl)
theorem dX6_init_108 : decode cX6_init 108 = .ok (.aload_n 0, 1) := dk_42 (dk_at dksX6_init_4 13 rfl rfl)
theorem dX6_init_109 : decode cX6_init 109 = .ok (.bipush 60, 2) := dk_16 60 (dk_at dksX6_init_4 14 rfl rfl)
theorem dX6_init_111 : decode cX6_init 111 = .ok (.newarray .int, 2) := dk_188_10 (dk_at dksX6_init_4 16 rfl rfl)
theorem dX6_init_113 : decode cX6_init 113 = .ok (.putfield 49, 3) := dk_181 0 49 (dk_at dksX6_init_4 18 rfl rfl)
theorem dX6_init_116 : decode cX6_init 116 = .ok (.aload_n 0, 1) := dk_42 (dk_at dksX6_init_4 21 rfl rfl)
theorem dX6_init_117 : decode cX6_init 117 = .ok (.bipush 60, 2) := dk_16 60 (dk_at dksX6_init_4 22 rfl rfl)
theorem dX6_init_119 : decode cX6_init 119 = .ok (.newarray .int, 2) := dk_188_10 (dk_at dksX6_init_5 0 rfl rfl)
theorem dX6_init_121 : decode cX6_init 121 = .ok (.putfield 52, 3) := dk_181 0 52 (dk_at dksX6_init_5 2 rfl rfl)
theorem dX6_init_124 : decode cX6_init 124 = .ok (.aload_n 0, 1) := dk_42 (dk_at dksX6_init_5 5 rfl rfl)
theorem dX6_init_125 : decode cX6_init 125 = .ok (.bipush 60, 2) := dk_16 60 (dk_at dksX6_init_5 6 rfl rfl)
theorem dX6_init_127 : decode cX6_init 127 = .ok (.newarray .boolean, 2) := dk_188_4 (dk_at dksX6_init_5 8 rfl rfl)
theorem dX6_init_129 : decode cX6_init 129 = .ok (.putfield 55, 3) := dk_181 0 55 (dk_at dksX6_init_5 10 rfl rfl)
theorem dX6_init_132 : decode cX6_init 132 = .ok (.aload_n 0, 1) := dk_42 (dk_at dksX6_init_5 13 rfl rfl)
theorem dX6_init_133 : decode cX6_init 133 = .ok (.bipush 60, 2) := dk_16 60 (dk_at dksX6_init_5 14 rfl rfl)
theorem dX6_init_135 : decode cX6_init 135 = .ok (.newarray .boolean, 2) := dk_188_4 (dk_at dksX6_init_5 16 rfl rfl)
theorem dX6_init_137 : decode cX6_init 137 = .ok (.putfield 59, 3) := dk_181 0 59 (dk_at dksX6_init_5 18 rfl rfl)
theorem dX6_init_140 : decode cX6_init 140 = .ok (.aload_n 0, 1) := dk_42 (dk_at dksX6_init_5 21 rfl rfl)
theorem dX6_init_141 : decode cX6_init 141 = .ok (.bipush 12, 2) := dk_16 12 (dk_at dksX6_init_5 22 rfl rfl)
theorem dX6_init_143 : decode cX6_init 143 = .ok (.newarray .int, 2) := dk_188_10 (dk_at dksX6_init_6 0 rfl rfl)
theorem dX6_init_145 : decode cX6_init 145 = .ok (.putfield 62, 3) := dk_181 0 62 (dk_at dksX6_init_6 2 rfl rfl)
theorem dX6_init_148 : decode cX6_init 148 = .ok (.aload_n 0, 1) := dk_42 (dk_at dksX6_init_6 5 rfl rfl)
theorem dX6_init_149 : decode cX6_init 149 = .ok (.iconst 3, 1) := dk_6 (dk_at dksX6_init_6 6 rfl rfl)
theorem dX6_init_150 : decode cX6_init 150 = .ok (.newarray .int, 2) := dk_188_10 (dk_at dksX6_init_6 7 rfl rfl)
theorem dX6_init_152 : decode cX6_init 152 = .ok (.putfield 65, 3) := dk_181 0 65 (dk_at dksX6_init_6 9 rfl rfl)
theorem dX6_init_155 : decode cX6_init 155 = .ok (.aload_n 0, 1) := dk_42 (dk_at dksX6_init_6 12 rfl rfl)
theorem dX6_init_156 : decode cX6_init 156 = .ok (.bipush 24, 2) := dk_16 24 (dk_at dksX6_init_6 13 rfl rfl)
theorem dX6_init_158 : decode cX6_init 158 = .ok (.newarray .int, 2) := dk_188_10 (dk_at dksX6_init_6 15 rfl rfl)
theorem dX6_init_160 : decode cX6_init 160 = .ok (.putfield 68, 3) := dk_181 0 68 (dk_at dksX6_init_6 17 rfl rfl)
theorem dX6_init_163 : decode cX6_init 163 = .ok (.aload_n 0, 1) := dk_42 (dk_at dksX6_init_6 20 rfl rfl)
theorem dX6_init_164 : decode cX6_init 164 = .ok (.bipush 8, 2) := dk_16 8 (dk_at dksX6_init_6 21 rfl rfl)
theorem dX6_init_166 : decode cX6_init 166 = .ok (.newarray .int, 2) := dk_188_10 (dk_at dksX6_init_7 0 rfl rfl)
theorem dX6_init_168 : decode cX6_init 168 = .ok (.putfield 71, 3) := dk_181 0 71 (dk_at dksX6_init_7 2 rfl rfl)
theorem dX6_init_171 : decode cX6_init 171 = .ok (.aload_n 0, 1) := dk_42 (dk_at dksX6_init_7 5 rfl rfl)
theorem dX6_init_172 : decode cX6_init 172 = .ok (.bipush 8, 2) := dk_16 8 (dk_at dksX6_init_7 6 rfl rfl)
theorem dX6_init_174 : decode cX6_init 174 = .ok (.newarray .int, 2) := dk_188_10 (dk_at dksX6_init_7 8 rfl rfl)
theorem dX6_init_176 : decode cX6_init 176 = .ok (.putfield 74, 3) := dk_181 0 74 (dk_at dksX6_init_7 10 rfl rfl)
theorem dX6_init_179 : decode cX6_init 179 = .ok (.aload_n 0, 1) := dk_42 (dk_at dksX6_init_7 13 rfl rfl)
theorem dX6_init_180 : decode cX6_init 180 = .ok (.bipush 8, 2) := dk_16 8 (dk_at dksX6_init_7 14 rfl rfl)
theorem dX6_init_182 : decode cX6_init 182 = .ok (.newarray .int, 2) := dk_188_10 (dk_at dksX6_init_7 16 rfl rfl)
theorem dX6_init_184 : decode cX6_init 184 = .ok (.putfield 77, 3) := dk_181 0 77 (dk_at dksX6_init_7 18 rfl rfl)
theorem dX6_init_187 : decode cX6_init 187 = .ok (.aload_n 0, 1) := dk_42 (dk_at dksX6_init_7 21 rfl rfl)
theorem dX6_init_188 : decode cX6_init 188 = .ok (.bipush 8, 2) := dk_16 8 (dk_at dksX6_init_7 22 rfl rfl)
theorem dX6_init_190 : decode cX6_init 190 = .ok (.newarray .int, 2) := dk_188_10 (dk_at dksX6_init_8 0 rfl rfl)
theorem dX6_init_192 : decode cX6_init 192 = .ok (.putfield 80, 3) := dk_181 0 80 (dk_at dksX6_init_8 2 rfl rfl)
theorem dX6_init_195 : decode cX6_init 195 = .ok (.aload_n 0, 1) := dk_42 (dk_at dksX6_init_8 5 rfl rfl)
theorem dX6_init_196 : decode cX6_init 196 = .ok (.bipush 8, 2) := dk_16 8 (dk_at dksX6_init_8 6 rfl rfl)
theorem dX6_init_198 : decode cX6_init 198 = .ok (.newarray .int, 2) := dk_188_10 (dk_at dksX6_init_8 8 rfl rfl)
theorem dX6_init_200 : decode cX6_init 200 = .ok (.putfield 83, 3) := dk_181 0 83 (dk_at dksX6_init_8 10 rfl rfl)
theorem dX6_init_203 : decode cX6_init 203 = .ok (.aload_n 0, 1) := dk_42 (dk_at dksX6_init_8 13 rfl rfl)
theorem dX6_init_204 : decode cX6_init 204 = .ok (.sipush 256, 3) := dk_17 1 0 (dk_at dksX6_init_8 14 rfl rfl)
theorem dX6_init_207 : decode cX6_init 207 = .ok (.newarray .int, 2) := dk_188_10 (dk_at dksX6_init_8 17 rfl rfl)
theorem dX6_init_209 : decode cX6_init 209 = .ok (.putfield 86, 3) := dk_181 0 86 (dk_at dksX6_init_8 19 rfl rfl)
theorem dX6_init_212 : decode cX6_init 212 = .ok (.aload_n 0, 1) := dk_42 (dk_at dksX6_init_8 22 rfl rfl)
theorem dX6_init_213 : decode cX6_init 213 = .ok (.sipush 256, 3) := dk_17 1 0 (dk_at dksX6_init_9 0 rfl rfl)
theorem dX6_init_216 : decode cX6_init 216 = .ok (.newarray .int, 2) := dk_188_10 (dk_at dksX6_init_9 3 rfl rfl)
theorem dX6_init_218 : decode cX6_init 218 = .ok (.putfield 89, 3) := dk_181 0 89 (dk_at dksX6_init_9 5 rfl rfl)
theorem dX6_init_221 : decode cX6_init 221 = .ok (.aload_n 0, 1) := dk_42 (dk_at dksX6_init_9 8 rfl rfl)
theorem dX6_init_222 : decode cX6_init 222 = .ok (.sipush 256, 3) := dk_17 1 0 (dk_at dksX6_init_9 9 rfl rfl)
theorem dX6_init_225 : decode cX6_init 225 = .ok (.newarray .int, 2) := dk_188_10 (dk_at dksX6_init_9 12 rfl rfl)
theorem dX6_init_227 : decode cX6_init 227 = .ok (.putfield 92, 3) := dk_181 0 92 (dk_at dksX6_init_9 14 rfl rfl)
theorem dX6_init_230 : decode cX6_init 230 = .ok (.aload_n 0, 1) := dk_42 (dk_at dksX6_init_9 17 rfl rfl)
theorem dX6_init_231 : decode cX6_init 231 = .ok (.sipush 256, 3) := dk_17 1 0 (dk_at dksX6_init_9 18 rfl rfl)
theorem dX6_init_234 : decode cX6_init 234 = .ok (.newarray .int, 2) := dk_188_10 (dk_at dksX6_init_9 21 rfl rfl)
theorem dX6_init_236 : decode cX6_init 236 = .ok (.putfield 95, 3) := dk_181 0 95 (dk_at dksX6_init_10 0 rfl rfl)
theorem dX6_init_239 : decode cX6_init 239 = .ok (.aload_n 0, 1) := dk_42 (dk_at dksX6_init_10 3 rfl rfl)
theorem dX6_init_240 : decode cX6_init 240 = .ok (.bipush 64, 2) := dk_16 64 (dk_at dksX6_init_10 4 rfl rfl)
theorem dX6_init_242 : decode cX6_init 242 = .ok (.newarray .int, 2) := dk_188_10 (dk_at dksX6_init_10 6 rfl rfl)
theorem dX6_init_244 : decode cX6_init 244 = .ok (.putfield 98, 3) := dk_181 0 98 (dk_at dksX6_init_10 8 rfl rfl)
theorem dX6_init_247 : decode cX6_init 247 = .ok (.aload_n 0, 1) := dk_42 (dk_at dksX6_init_10 11 rfl rfl)
theorem dX6_init_248 : decode cX6_init 248 = .ok (.bipush 64, 2) := dk_16 64 (dk_at dksX6_init_10 12 rfl rfl)
theorem dX6_init_250 : decode cX6_init 250 = .ok (.newarray .int, 2) := dk_188_10 (dk_at dksX6_init_10 14 rfl rfl)
theorem dX6_init_252 : decode cX6_init 252 = .ok (.putfield 101, 3) := dk_181 0 101 (dk_at dksX6_init_10 16 rfl rfl)
theorem dX6_init_255 : decode cX6_init 255 = .ok (.aload_n 0, 1) := dk_42 (dk_at dksX6_init_10 19 rfl rfl)
theorem dX6_init_256 : decode cX6_init 256 = .ok (.bipush 64, 2) := dk_16 64 (dk_at dksX6_init_10 20 rfl rfl)
theorem dX6_init_258 : decode cX6_init 258 = .ok (.newarray .int, 2) := dk_188_10 (dk_at dksX6_init_10 22 rfl rfl)
theorem dX6_init_260 : decode cX6_init 260 = .ok (.putfield 104, 3) := dk_181 0 104 (dk_at dksX6_init_11 0 rfl rfl)
theorem dX6_init_263 : decode cX6_init 263 = .ok (.aload_n 0, 1) := dk_42 (dk_at dksX6_init_11 3 rfl rfl)
theorem dX6_init_264 : decode cX6_init 264 = .ok (.bipush 6, 2) := dk_16 6 (dk_at dksX6_init_11 4 rfl rfl)
theorem dX6_init_266 : decode cX6_init 266 = .ok (.newarray .int, 2) := dk_188_10 (dk_at dksX6_init_11 6 rfl rfl)
theorem dX6_init_268 : decode cX6_init 268 = .ok (.putfield 107, 3) := dk_181 0 107 (dk_at dksX6_init_11 8 rfl rfl)
theorem dX6_init_271 : decode cX6_init 271 = .ok (.aload_n 0, 1) := dk_42 (dk_at dksX6_init_11 11 rfl rfl)
theorem dX6_init_272 : decode cX6_init 272 = .ok (.bipush 8, 2) := dk_16 8 (dk_at dksX6_init_11 12 rfl rfl)
theorem dX6_init_274 : decode cX6_init 274 = .ok (.newarray .int, 2) := dk_188_10 (dk_at dksX6_init_11 14 rfl rfl)
theorem dX6_init_276 : decode cX6_init 276 = .ok (.putfield 110, 3) := dk_181 0 110 (dk_at dksX6_init_11 16 rfl rfl)
theorem dX6_init_279 : decode cX6_init 279 = .ok (.aload_n 0, 1) := dk_42 (dk_at dksX6_init_11 19 rfl rfl)
theorem dX6_init_280 : decode cX6_init 280 = .ok (.iconst 3, 1) := dk_6 (dk_at dksX6_init_11 20 rfl rfl)
theorem dX6_init_281 : decode cX6_init 281 = .ok (.newarray .int, 2) := dk_188_10 (dk_at dksX6_init_11 21 rfl rfl)
theorem dX6_init_283 : decode cX6_init 283 = .ok (.putfield 113, 3) := dk_181 0 113 (dk_at dksX6_init_12 0 rfl rfl)
theorem dX6_init_286 : decode cX6_init 286 = .ok (.aload_n 0, 1) := dk_42 (dk_at dksX6_init_12 3 rfl rfl)
theorem dX6_init_287 : decode cX6_init 287 = .ok (.sipush 1500, 3) := dk_17 5 220 (dk_at dksX6_init_12 4 rfl rfl)
theorem dX6_init_290 : decode cX6_init 290 = .ok (.newarray .int, 2) := dk_188_10 (dk_at dksX6_init_12 7 rfl rfl)
theorem dX6_init_292 : decode cX6_init 292 = .ok (.putfield 116, 3) := dk_181 0 116 (dk_at dksX6_init_12 9 rfl rfl)
theorem dX6_init_295 : decode cX6_init 295 = .ok (.aload_n 0, 1) := dk_42 (dk_at dksX6_init_12 12 rfl rfl)
theorem dX6_init_296 : decode cX6_init 296 = .ok (.sipush 1500, 3) := dk_17 5 220 (dk_at dksX6_init_12 13 rfl rfl)
theorem dX6_init_299 : decode cX6_init 299 = .ok (.newarray .int, 2) := dk_188_10 (dk_at dksX6_init_12 16 rfl rfl)
theorem dX6_init_301 : decode cX6_init 301 = .ok (.putfield 119, 3) := dk_181 0 119 (dk_at dksX6_init_12 18 rfl rfl)
theorem dX6_init_304 : decode cX6_init 304 = .ok (.aload_n 0, 1) := dk_42 (dk_at dksX6_init_12 21 rfl rfl)
theorem dX6_init_305 : decode cX6_init 305 = .ok (.sipush 1500, 3) := dk_17 5 220 (dk_at dksX6_init_13 0 rfl rfl)
theorem dX6_init_308 : decode cX6_init 308 = .ok (.newarray .int, 2) := dk_188_10 (dk_at dksX6_init_13 3 rfl rfl)
theorem dX6_init_310 : decode cX6_init 310 = .ok (.putfield 122, 3) := dk_181 0 122 (dk_at dksX6_init_13 5 rfl rfl)
theorem dX6_init_313 : decode cX6_init 313 = .ok (.aload_n 0, 1) := dk_42 (dk_at dksX6_init_13 8 rfl rfl)
theorem dX6_init_314 : decode cX6_init 314 = .ok (.bipush 6, 2) := dk_16 6 (dk_at dksX6_init_13 9 rfl rfl)
theorem dX6_init_316 : decode cX6_init 316 = .ok (.newarray .int, 2) := dk_188_10 (dk_at dksX6_init_13 11 rfl rfl)
theorem dX6_init_318 : decode cX6_init 318 = .ok (.putfield 125, 3) := dk_181 0 125 (dk_at dksX6_init_13 13 rfl rfl)
theorem dX6_init_321 : decode cX6_init 321 = .ok (.aload_n 0, 1) := dk_42 (dk_at dksX6_init_13 16 rfl rfl)
theorem dX6_init_322 : decode cX6_init 322 = .ok (.sipush 512, 3) := dk_17 2 0 (dk_at dksX6_init_13 17 rfl rfl)
theorem dX6_init_325 : decode cX6_init 325 = .ok (.newarray .int, 2) := dk_188_10 (dk_at dksX6_init_13 20 rfl rfl)
theorem dX6_init_327 : decode cX6_init 327 = .ok (.putfield 128, 3) := dk_181 0 128 (dk_at dksX6_init_14 0 rfl rfl)
theorem dX6_init_330 : decode cX6_init 330 = .ok (.aload_n 0, 1) := dk_42 (dk_at dksX6_init_14 3 rfl rfl)
theorem dX6_init_331 : decode cX6_init 331 = .ok (.sipush 512, 3) := dk_17 2 0 (dk_at dksX6_init_14 4 rfl rfl)
theorem dX6_init_334 : decode cX6_init 334 = .ok (.newarray .int, 2) := dk_188_10 (dk_at dksX6_init_14 7 rfl rfl)
theorem dX6_init_336 : decode cX6_init 336 = .ok (.putfield 131, 3) := dk_181 0 131 (dk_at dksX6_init_14 9 rfl rfl)
theorem dX6_init_339 : decode cX6_init 339 = .ok (.aload_n 0, 1) := dk_42 (dk_at dksX6_init_14 12 rfl rfl)
theorem dX6_init_340 : decode cX6_init 340 = .ok (.sipush 512, 3) := dk_17 2 0 (dk_at dksX6_init_14 13 rfl rfl)
theorem dX6_init_343 : decode cX6_init 343 = .ok (.newarray .int, 2) := dk_188_10 (dk_at dksX6_init_14 16 rfl rfl)
theorem dX6_init_345 : decode cX6_init 345 = .ok (.putfield 134, 3) := dk_181 0 134 (dk_at dksX6_init_14 18 rfl rfl)
theorem dX6_init_348 : decode cX6_init 348 = .ok (.aload_n 0, 1) := dk_42 (dk_at dksX6_init_14 21 rfl rfl)
theorem dX6_init_349 : decode cX6_init 349 = .ok (.sipush 512, 3) := dk_17 2 0 (dk_at dksX6_init_15 0 rfl rfl)
theorem dX6_init_352 : decode cX6_init 352 = .ok (.newarray .int, 2) := dk_188_10 (dk_at dksX6_init_15 3 rfl rfl)
theorem dX6_init_354 : decode cX6_init 354 = .ok (.putfield 137, 3) := dk_181 0 137 (dk_at dksX6_init_15 5 rfl rfl)
theorem dX6_init_357 : decode cX6_init 357 = .ok (.aload_n 0, 1) := dk_42 (dk_at dksX6_init_15 8 rfl rfl)
theorem dX6_init_358 : decode cX6_init 358 = .ok (.sipush 512, 3) := dk_17 2 0 (dk_at dksX6_init_15 9 rfl rfl)
theorem dX6_init_361 : decode cX6_init 361 = .ok (.newarray .int, 2) := dk_188_10 (dk_at dksX6_init_15 12 rfl rfl)
theorem dX6_init_363 : decode cX6_init 363 = .ok (.putfield 140, 3) := dk_181 0 140 (dk_at dksX6_init_15 14 rfl rfl)
theorem dX6_init_366 : decode cX6_init 366 = .ok (.aload_n 0, 1) := dk_42 (dk_at dksX6_init_15 17 rfl rfl)
theorem dX6_init_367 : decode cX6_init 367 = .ok (.sipush 512, 3) := dk_17 2 0 (dk_at dksX6_init_15 18 rfl rfl)
theorem dX6_init_370 : decode cX6_init 370 = .ok (.newarray .int, 2) := dk_188_10 (dk_at dksX6_init_15 21 rfl rfl)
theorem dX6_init_372 : decode cX6_init 372 = .ok (.putfield 143, 3) := dk_181 0 143 (dk_at dksX6_init_16 0 rfl rfl)
theorem dX6_init_375 : decode cX6_init 375 = .ok (.aload_n 0, 1) := dk_42 (dk_at dksX6_init_16 3 rfl rfl)
theorem dX6_init_376 : decode cX6_init 376 = .ok (.sipush 512, 3) := dk_17 2 0 (dk_at dksX6_init_16 4 rfl rfl)
theorem dX6_init_379 : decode cX6_init 379 = .ok (.newarray .int, 2) := dk_188_10 (dk_at dksX6_init_16 7 rfl rfl)
theorem dX6_init_381 : decode cX6_init 381 = .ok (.putfield 146, 3) := dk_181 0 146 (dk_at dksX6_init_16 9 rfl rfl)
theorem dX6_init_384 : decode cX6_init 384 = .ok (.aload_n 0, 1) := dk_42 (dk_at dksX6_init_16 12 rfl rfl)
theorem dX6_init_385 : decode cX6_init 385 = .ok (.sipush 512, 3) := dk_17 2 0 (dk_at dksX6_init_16 13 rfl rfl)
theorem dX6_init_388 : decode cX6_init 388 = .ok (.newarray .int, 2) := dk_188_10 (dk_at dksX6_init_16 16 rfl rfl)
theorem dX6_init_390 : decode cX6_init 390 = .ok (.putfield 149, 3) := dk_181 0 149 (dk_at dksX6_init_16 18 rfl rfl)
theorem dX6_init_393 : decode cX6_init 393 = .ok (.aload_n 0, 1) := dk_42 (dk_at dksX6_init_16 21 rfl rfl)
theorem dX6_init_394 : decode cX6_init 394 = .ok (.sipush 512, 3) := dk_17 2 0 (dk_at dksX6_init_17 0 rfl rfl)
theorem dX6_init_397 : decode cX6_init 397 = .ok (.newarray .int, 2) := dk_188_10 (dk_at dksX6_init_17 3 rfl rfl)
theorem dX6_init_399 : decode cX6_init 399 = .ok (.putfield 152, 3) := dk_181 0 152 (dk_at dksX6_init_17 5 rfl rfl)
theorem dX6_init_402 : decode cX6_init 402 = .ok (.aload_n 0, 1) := dk_42 (dk_at dksX6_init_17 8 rfl rfl)
theorem dX6_init_403 : decode cX6_init 403 = .ok (.sipush 512, 3) := dk_17 2 0 (dk_at dksX6_init_17 9 rfl rfl)
theorem dX6_init_406 : decode cX6_init 406 = .ok (.newarray .int, 2) := dk_188_10 (dk_at dksX6_init_17 12 rfl rfl)
theorem dX6_init_408 : decode cX6_init 408 = .ok (.putfield 155, 3) := dk_181 0 155 (dk_at dksX6_init_17 14 rfl rfl)
theorem dX6_init_411 : decode cX6_init 411 = .ok (.aload_n 0, 1) := dk_42 (dk_at dksX6_init_17 17 rfl rfl)
theorem dX6_init_412 : decode cX6_init 412 = .ok (.sipush 256, 3) := dk_17 1 0 (dk_at dksX6_init_17 18 rfl rfl)
theorem dX6_init_415 : decode cX6_init 415 = .ok (.newarray .int, 2) := dk_188_10 (dk_at dksX6_init_17 21 rfl rfl)
theorem dX6_init_417 : decode cX6_init 417 = .ok (.putfield 158, 3) := dk_181 0 158 (dk_at dksX6_init_18 0 rfl rfl)
theorem dX6_init_420 : decode cX6_init 420 = .ok (.iconst 0, 1) := dk_3 (dk_at dksX6_init_18 3 rfl rfl)
theorem dX6_init_421 : decode cX6_init 421 = .ok (.istore_n 1, 1) := dk_60 (dk_at dksX6_init_18 4 rfl rfl)
theorem dX6_init_422 : decode cX6_init 422 = .ok (.iload_n 1, 1) := dk_27 (dk_at dksX6_init_18 5 rfl rfl)
theorem dX6_init_423 : decode cX6_init 423 = .ok (.iconst 3, 1) := dk_6 (dk_at dksX6_init_18 6 rfl rfl)
theorem dX6_init_424 : decode cX6_init 424 = .ok (.if_icmp .ge 30, 3) := dk_162 0 30 (dk_at dksX6_init_18 7 rfl rfl)
theorem dX6_init_427 : decode cX6_init 427 = .ok (.aload_n 0, 1) := dk_42 (dk_at dksX6_init_18 10 rfl rfl)
theorem dX6_init_428 : decode cX6_init 428 = .ok (.getfield 62, 3) := dk_180 0 62 (dk_at dksX6_init_18 11 rfl rfl)
theorem dX6_init_431 : decode cX6_init 431 = .ok (.iconst 4, 1) := dk_7 (dk_at dksX6_init_18 14 rfl rfl)
theorem dX6_init_432 : decode cX6_init 432 = .ok (.iload_n 1, 1) := dk_27 (dk_at dksX6_init_18 15 rfl rfl)
theorem dX6_init_433 : decode cX6_init 433 = .ok (.imul, 1) := dk_104 (dk_at dksX6_init_18 16 rfl rfl)
theorem dX6_init_434 : decode cX6_init 434 = .ok (.iconst 1, 1) := dk_4 (dk_at dksX6_init_18 17 rfl rfl)
theorem dX6_init_435 : decode cX6_init 435 = .ok (.iastore, 1) := dk_79 (dk_at dksX6_init_18 18 rfl rfl)
theorem dX6_init_436 : decode cX6_init 436 = .ok (.aload_n 0, 1) := dk_42 (dk_at dksX6_init_18 19 rfl rfl)
theorem dX6_init_437 : decode cX6_init 437 = .ok (.getfield 62, 3) := dk_180 0 62 (dk_at dksX6_init_18 20 rfl rfl)
theorem dX6_init_440 : decode cX6_init 440 = .ok (.iconst 4, 1) := dk_7 (dk_at dksX6_init_18 23 rfl rfl)
theorem dX6_init_441 : decode cX6_init 441 = .ok (.iload_n 1, 1) := dk_27 (dk_at dksX6_init_19 0 rfl rfl)
theorem dX6_init_442 : decode cX6_init 442 = .ok (.imul, 1) := dk_104 (dk_at dksX6_init_19 1 rfl rfl)
theorem dX6_init_443 : decode cX6_init 443 = .ok (.iconst 3, 1) := dk_6 (dk_at dksX6_init_19 2 rfl rfl)
theorem dX6_init_444 : decode cX6_init 444 = .ok (.iadd, 1) := dk_96 (dk_at dksX6_init_19 3 rfl rfl)
theorem dX6_init_445 : decode cX6_init 445 = .ok (.bipush 10, 2) := dk_16 10 (dk_at dksX6_init_19 4 rfl rfl)
theorem dX6_init_447 : decode cX6_init 447 = .ok (.iastore, 1) := dk_79 (dk_at dksX6_init_19 6 rfl rfl)
theorem dX6_init_448 : decode cX6_init 448 = .ok (.iinc 1 1, 3) := dk_132 1 1 (dk_at dksX6_init_19 7 rfl rfl)
theorem dX6_init_451 : decode cX6_init 451 = .ok (.goto (-29), 3) := dk_167 255 227 (dk_at dksX6_init_19 10 rfl rfl)
theorem dX6_init_454 : decode cX6_init 454 = .ok (.aload_n 0, 1) := dk_42 (dk_at dksX6_init_19 13 rfl rfl)
theorem dX6_init_455 : decode cX6_init 455 = .ok (.iconst (-1), 1) := dk_2 (dk_at dksX6_init_19 14 rfl rfl)
theorem dX6_init_456 : decode cX6_init 456 = .ok (.putfield 161, 3) := dk_181 0 161 (dk_at dksX6_init_19 15 rfl rfl)
theorem dX6_init_459 : decode cX6_init 459 = .ok (.aload_n 0, 1) := dk_42 (dk_at dksX6_init_19 18 rfl rfl)
theorem dX6_init_460 : decode cX6_init 460 = .ok (.iconst (-1), 1) := dk_2 (dk_at dksX6_init_19 19 rfl rfl)
theorem dX6_init_461 : decode cX6_init 461 = .ok (.putfield 165, 3) := dk_181 0 165 (dk_at dksX6_init_19 20 rfl rfl)
theorem dX6_init_464 : decode cX6_init 464 = .ok (.return_, 1) := dk_177 (dk_at dksX6_init_19 23 rfl rfl)
abbrev cX6_thrown : ByteArray := prog_23_method_2_code
def yX6_thrown : MethodName := ⟨RX6, "thrown", "()I"⟩
theorem dX6_thrown_0 : decode cX6_thrown 0 = .ok (.aload_n 0, 1) := by decide +kernel
theorem dX6_thrown_1 : decode cX6_thrown 1 = .ok (.getfield 168, 3) := by decide +kernel
theorem dX6_thrown_4 : decode cX6_thrown 4 = .ok (.ireturn, 1) := by decide +kernel
abbrev cX6_constructor : ByteArray := prog_23_method_7_code
def yX6_constructor : MethodName := ⟨RX6, "constructor", "(IIIII)I"⟩
def dkwX6_constructor_8 : List UInt8 := [180, 0, 7, 27, 46, 4, 100, 172]
abbrev dktX6_constructor_8 : List UInt8 := dkwX6_constructor_8 ++ []
def dkwX6_constructor_7 : List UInt8 := [79, 132, 8, 1, 167, 255, 225, 42, 180, 0, 7, 27, 92, 46, 4, 96, 79, 42, 2, 181, 0, 161, 42]
abbrev dktX6_constructor_7 : List UInt8 := dkwX6_constructor_7 ++ dktX6_constructor_8
def dkwX6_constructor_6 : List UInt8 := [162, 0, 31, 42, 180, 0, 16, 6, 21, 7, 104, 21, 8, 96, 29, 21, 4, 21, 5, 21, 8, 184, 0, 175]
abbrev dktX6_constructor_6 : List UInt8 := dkwX6_constructor_6 ++ dktX6_constructor_7
def dkwX6_constructor_5 : List UInt8 := [180, 0, 7, 27, 46, 96, 54, 7, 42, 180, 0, 13, 21, 7, 28, 79, 3, 54, 8, 21, 8, 6]
abbrev dktX6_constructor_5 : List UInt8 := dkwX6_constructor_5 ++ dktX6_constructor_6
def dkwX6_constructor_4 : List UInt8 := [27, 46, 7, 160, 0, 7, 6, 167, 0, 4, 3, 182, 0, 183, 153, 0, 5, 3, 172, 7, 27, 104, 42]
abbrev dktX6_constructor_4 : List UInt8 := dkwX6_constructor_4 ++ dktX6_constructor_5
def dkwX6_constructor_3 : List UInt8 := [6, 184, 0, 171, 154, 0, 7, 4, 167, 0, 27, 21, 6, 154, 0, 7, 5, 167, 0, 18, 42, 180, 0, 7]
abbrev dktX6_constructor_3 : List UInt8 := dkwX6_constructor_3 ++ dktX6_constructor_4
def dkwX6_constructor_2 : List UInt8 := [167, 0, 8, 21, 8, 154, 0, 7, 4, 167, 0, 4, 3, 54, 6, 132, 7, 1, 167, 255, 201, 42, 27, 3]
abbrev dktX6_constructor_2 : List UInt8 := dkwX6_constructor_2 ++ dktX6_constructor_3
def dkwX6_constructor_1 : List UInt8 := [184, 0, 175, 54, 8, 21, 6, 153, 0, 29, 21, 7, 28, 162, 0, 14, 21, 8, 184, 0, 179, 153, 0, 15]
abbrev dktX6_constructor_1 : List UInt8 := dkwX6_constructor_1 ++ dktX6_constructor_2
def dkwX6_constructor_0 : List UInt8 := [28, 3, 6, 184, 0, 171, 54, 6, 3, 54, 7, 21, 7, 6, 162, 0, 55, 29, 21, 4, 21, 5, 21, 7]
abbrev dktX6_constructor_0 : List UInt8 := dkwX6_constructor_0 ++ dktX6_constructor_1
theorem dksX6_constructor_0 : cX6_constructor.data.toList.drop 0 = dktX6_constructor_0 := by decide +kernel
theorem dksX6_constructor_1 : cX6_constructor.data.toList.drop 24 = dktX6_constructor_1 := dk_seg dksX6_constructor_0 24 rfl rfl
theorem dksX6_constructor_2 : cX6_constructor.data.toList.drop 48 = dktX6_constructor_2 := dk_seg dksX6_constructor_1 24 rfl rfl
theorem dksX6_constructor_3 : cX6_constructor.data.toList.drop 72 = dktX6_constructor_3 := dk_seg dksX6_constructor_2 24 rfl rfl
theorem dksX6_constructor_4 : cX6_constructor.data.toList.drop 96 = dktX6_constructor_4 := dk_seg dksX6_constructor_3 24 rfl rfl
theorem dksX6_constructor_5 : cX6_constructor.data.toList.drop 119 = dktX6_constructor_5 := dk_seg dksX6_constructor_4 23 rfl rfl
theorem dksX6_constructor_6 : cX6_constructor.data.toList.drop 141 = dktX6_constructor_6 := dk_seg dksX6_constructor_5 22 rfl rfl
theorem dksX6_constructor_7 : cX6_constructor.data.toList.drop 165 = dktX6_constructor_7 := dk_seg dksX6_constructor_6 24 rfl rfl
theorem dksX6_constructor_8 : cX6_constructor.data.toList.drop 188 = dktX6_constructor_8 := dk_seg dksX6_constructor_7 23 rfl rfl
theorem dX6_constructor_0 : decode cX6_constructor 0 = .ok (.iload_n 2, 1) := dk_28 (dk_at dksX6_constructor_0 0 rfl rfl)
theorem dX6_constructor_1 : decode cX6_constructor 1 = .ok (.iconst 0, 1) := dk_3 (dk_at dksX6_constructor_0 1 rfl rfl)
theorem dX6_constructor_2 : decode cX6_constructor 2 = .ok (.iconst 3, 1) := dk_6 (dk_at dksX6_constructor_0 2 rfl rfl)
theorem dX6_constructor_3 : decode cX6_constructor 3 = .ok (.invokestatic 171, 3) := dk_184 0 171 (dk_at dksX6_constructor_0 3 rfl rfl)
theorem dX6_constructor_6 : decode cX6_constructor 6 = .ok (.istore 6, 2) := dk_54 6 (dk_at dksX6_constructor_0 6 rfl rfl)
theorem dX6_constructor_8 : decode cX6_constructor 8 = .ok (.iconst 0, 1) := dk_3 (dk_at dksX6_constructor_0 8 rfl rfl)
theorem dX6_constructor_9 : decode cX6_constructor 9 = .ok (.istore 7, 2) := dk_54 7 (dk_at dksX6_constructor_0 9 rfl rfl)
theorem dX6_constructor_11 : decode cX6_constructor 11 = .ok (.iload 7, 2) := dk_21 7 (dk_at dksX6_constructor_0 11 rfl rfl)
theorem dX6_constructor_13 : decode cX6_constructor 13 = .ok (.iconst 3, 1) := dk_6 (dk_at dksX6_constructor_0 13 rfl rfl)
theorem dX6_constructor_14 : decode cX6_constructor 14 = .ok (.if_icmp .ge 55, 3) := dk_162 0 55 (dk_at dksX6_constructor_0 14 rfl rfl)
theorem dX6_constructor_17 : decode cX6_constructor 17 = .ok (.iload_n 3, 1) := dk_29 (dk_at dksX6_constructor_0 17 rfl rfl)
theorem dX6_constructor_18 : decode cX6_constructor 18 = .ok (.iload 4, 2) := dk_21 4 (dk_at dksX6_constructor_0 18 rfl rfl)
theorem dX6_constructor_20 : decode cX6_constructor 20 = .ok (.iload 5, 2) := dk_21 5 (dk_at dksX6_constructor_0 20 rfl rfl)
theorem dX6_constructor_22 : decode cX6_constructor 22 = .ok (.iload 7, 2) := dk_21 7 (dk_at dksX6_constructor_0 22 rfl rfl)
theorem dX6_constructor_24 : decode cX6_constructor 24 = .ok (.invokestatic 175, 3) := dk_184 0 175 (dk_at dksX6_constructor_1 0 rfl rfl)
theorem dX6_constructor_27 : decode cX6_constructor 27 = .ok (.istore 8, 2) := dk_54 8 (dk_at dksX6_constructor_1 3 rfl rfl)
theorem dX6_constructor_29 : decode cX6_constructor 29 = .ok (.iload 6, 2) := dk_21 6 (dk_at dksX6_constructor_1 5 rfl rfl)
theorem dX6_constructor_31 : decode cX6_constructor 31 = .ok (.ifCond .eq 29, 3) := dk_153 0 29 (dk_at dksX6_constructor_1 7 rfl rfl)
theorem dX6_constructor_34 : decode cX6_constructor 34 = .ok (.iload 7, 2) := dk_21 7 (dk_at dksX6_constructor_1 10 rfl rfl)
theorem dX6_constructor_36 : decode cX6_constructor 36 = .ok (.iload_n 2, 1) := dk_28 (dk_at dksX6_constructor_1 12 rfl rfl)
theorem dX6_constructor_37 : decode cX6_constructor 37 = .ok (.if_icmp .ge 14, 3) := dk_162 0 14 (dk_at dksX6_constructor_1 13 rfl rfl)
theorem dX6_constructor_40 : decode cX6_constructor 40 = .ok (.iload 8, 2) := dk_21 8 (dk_at dksX6_constructor_1 16 rfl rfl)
theorem dX6_constructor_42 : decode cX6_constructor 42 = .ok (.invokestatic 179, 3) := dk_184 0 179 (dk_at dksX6_constructor_1 18 rfl rfl)
theorem dX6_constructor_45 : decode cX6_constructor 45 = .ok (.ifCond .eq 15, 3) := dk_153 0 15 (dk_at dksX6_constructor_1 21 rfl rfl)
theorem dX6_constructor_48 : decode cX6_constructor 48 = .ok (.goto 8, 3) := dk_167 0 8 (dk_at dksX6_constructor_2 0 rfl rfl)
theorem dX6_constructor_51 : decode cX6_constructor 51 = .ok (.iload 8, 2) := dk_21 8 (dk_at dksX6_constructor_2 3 rfl rfl)
theorem dX6_constructor_53 : decode cX6_constructor 53 = .ok (.ifCond .ne 7, 3) := dk_154 0 7 (dk_at dksX6_constructor_2 5 rfl rfl)
theorem dX6_constructor_56 : decode cX6_constructor 56 = .ok (.iconst 1, 1) := dk_4 (dk_at dksX6_constructor_2 8 rfl rfl)
theorem dX6_constructor_57 : decode cX6_constructor 57 = .ok (.goto 4, 3) := dk_167 0 4 (dk_at dksX6_constructor_2 9 rfl rfl)
theorem dX6_constructor_60 : decode cX6_constructor 60 = .ok (.iconst 0, 1) := dk_3 (dk_at dksX6_constructor_2 12 rfl rfl)
theorem dX6_constructor_61 : decode cX6_constructor 61 = .ok (.istore 6, 2) := dk_54 6 (dk_at dksX6_constructor_2 13 rfl rfl)
theorem dX6_constructor_63 : decode cX6_constructor 63 = .ok (.iinc 7 1, 3) := dk_132 7 1 (dk_at dksX6_constructor_2 15 rfl rfl)
theorem dX6_constructor_66 : decode cX6_constructor 66 = .ok (.goto (-55), 3) := dk_167 255 201 (dk_at dksX6_constructor_2 18 rfl rfl)
theorem dX6_constructor_69 : decode cX6_constructor 69 = .ok (.aload_n 0, 1) := dk_42 (dk_at dksX6_constructor_2 21 rfl rfl)
theorem dX6_constructor_70 : decode cX6_constructor 70 = .ok (.iload_n 1, 1) := dk_27 (dk_at dksX6_constructor_2 22 rfl rfl)
theorem dX6_constructor_71 : decode cX6_constructor 71 = .ok (.iconst 0, 1) := dk_3 (dk_at dksX6_constructor_2 23 rfl rfl)
theorem dX6_constructor_72 : decode cX6_constructor 72 = .ok (.iconst 3, 1) := dk_6 (dk_at dksX6_constructor_3 0 rfl rfl)
theorem dX6_constructor_73 : decode cX6_constructor 73 = .ok (.invokestatic 171, 3) := dk_184 0 171 (dk_at dksX6_constructor_3 1 rfl rfl)
theorem dX6_constructor_76 : decode cX6_constructor 76 = .ok (.ifCond .ne 7, 3) := dk_154 0 7 (dk_at dksX6_constructor_3 4 rfl rfl)
theorem dX6_constructor_79 : decode cX6_constructor 79 = .ok (.iconst 1, 1) := dk_4 (dk_at dksX6_constructor_3 7 rfl rfl)
theorem dX6_constructor_80 : decode cX6_constructor 80 = .ok (.goto 27, 3) := dk_167 0 27 (dk_at dksX6_constructor_3 8 rfl rfl)
theorem dX6_constructor_83 : decode cX6_constructor 83 = .ok (.iload 6, 2) := dk_21 6 (dk_at dksX6_constructor_3 11 rfl rfl)
theorem dX6_constructor_85 : decode cX6_constructor 85 = .ok (.ifCond .ne 7, 3) := dk_154 0 7 (dk_at dksX6_constructor_3 13 rfl rfl)
theorem dX6_constructor_88 : decode cX6_constructor 88 = .ok (.iconst 2, 1) := dk_5 (dk_at dksX6_constructor_3 16 rfl rfl)
theorem dX6_constructor_89 : decode cX6_constructor 89 = .ok (.goto 18, 3) := dk_167 0 18 (dk_at dksX6_constructor_3 17 rfl rfl)
theorem dX6_constructor_92 : decode cX6_constructor 92 = .ok (.aload_n 0, 1) := dk_42 (dk_at dksX6_constructor_3 20 rfl rfl)
theorem dX6_constructor_93 : decode cX6_constructor 93 = .ok (.getfield 7, 3) := dk_180 0 7 (dk_at dksX6_constructor_3 21 rfl rfl)
theorem dX6_constructor_96 : decode cX6_constructor 96 = .ok (.iload_n 1, 1) := dk_27 (dk_at dksX6_constructor_4 0 rfl rfl)
theorem dX6_constructor_97 : decode cX6_constructor 97 = .ok (.iaload, 1) := dk_46 (dk_at dksX6_constructor_4 1 rfl rfl)
theorem dX6_constructor_98 : decode cX6_constructor 98 = .ok (.iconst 4, 1) := dk_7 (dk_at dksX6_constructor_4 2 rfl rfl)
theorem dX6_constructor_99 : decode cX6_constructor 99 = .ok (.if_icmp .ne 7, 3) := dk_160 0 7 (dk_at dksX6_constructor_4 3 rfl rfl)
theorem dX6_constructor_102 : decode cX6_constructor 102 = .ok (.iconst 3, 1) := dk_6 (dk_at dksX6_constructor_4 6 rfl rfl)
theorem dX6_constructor_103 : decode cX6_constructor 103 = .ok (.goto 4, 3) := dk_167 0 4 (dk_at dksX6_constructor_4 7 rfl rfl)
theorem dX6_constructor_106 : decode cX6_constructor 106 = .ok (.iconst 0, 1) := dk_3 (dk_at dksX6_constructor_4 10 rfl rfl)
theorem dX6_constructor_107 : decode cX6_constructor 107 = .ok (.invokevirtual 183, 3) := dk_182 0 183 (dk_at dksX6_constructor_4 11 rfl rfl)
theorem dX6_constructor_110 : decode cX6_constructor 110 = .ok (.ifCond .eq 5, 3) := dk_153 0 5 (dk_at dksX6_constructor_4 14 rfl rfl)
theorem dX6_constructor_113 : decode cX6_constructor 113 = .ok (.iconst 0, 1) := dk_3 (dk_at dksX6_constructor_4 17 rfl rfl)
theorem dX6_constructor_114 : decode cX6_constructor 114 = .ok (.ireturn, 1) := dk_172 (dk_at dksX6_constructor_4 18 rfl rfl)
theorem dX6_constructor_115 : decode cX6_constructor 115 = .ok (.iconst 4, 1) := dk_7 (dk_at dksX6_constructor_4 19 rfl rfl)
theorem dX6_constructor_116 : decode cX6_constructor 116 = .ok (.iload_n 1, 1) := dk_27 (dk_at dksX6_constructor_4 20 rfl rfl)
theorem dX6_constructor_117 : decode cX6_constructor 117 = .ok (.imul, 1) := dk_104 (dk_at dksX6_constructor_4 21 rfl rfl)
theorem dX6_constructor_118 : decode cX6_constructor 118 = .ok (.aload_n 0, 1) := dk_42 (dk_at dksX6_constructor_4 22 rfl rfl)
theorem dX6_constructor_119 : decode cX6_constructor 119 = .ok (.getfield 7, 3) := dk_180 0 7 (dk_at dksX6_constructor_5 0 rfl rfl)
theorem dX6_constructor_122 : decode cX6_constructor 122 = .ok (.iload_n 1, 1) := dk_27 (dk_at dksX6_constructor_5 3 rfl rfl)
theorem dX6_constructor_123 : decode cX6_constructor 123 = .ok (.iaload, 1) := dk_46 (dk_at dksX6_constructor_5 4 rfl rfl)
theorem dX6_constructor_124 : decode cX6_constructor 124 = .ok (.iadd, 1) := dk_96 (dk_at dksX6_constructor_5 5 rfl rfl)
theorem dX6_constructor_125 : decode cX6_constructor 125 = .ok (.istore 7, 2) := dk_54 7 (dk_at dksX6_constructor_5 6 rfl rfl)
theorem dX6_constructor_127 : decode cX6_constructor 127 = .ok (.aload_n 0, 1) := dk_42 (dk_at dksX6_constructor_5 8 rfl rfl)
theorem dX6_constructor_128 : decode cX6_constructor 128 = .ok (.getfield 13, 3) := dk_180 0 13 (dk_at dksX6_constructor_5 9 rfl rfl)
theorem dX6_constructor_131 : decode cX6_constructor 131 = .ok (.iload 7, 2) := dk_21 7 (dk_at dksX6_constructor_5 12 rfl rfl)
theorem dX6_constructor_133 : decode cX6_constructor 133 = .ok (.iload_n 2, 1) := dk_28 (dk_at dksX6_constructor_5 14 rfl rfl)
theorem dX6_constructor_134 : decode cX6_constructor 134 = .ok (.iastore, 1) := dk_79 (dk_at dksX6_constructor_5 15 rfl rfl)
theorem dX6_constructor_135 : decode cX6_constructor 135 = .ok (.iconst 0, 1) := dk_3 (dk_at dksX6_constructor_5 16 rfl rfl)
theorem dX6_constructor_136 : decode cX6_constructor 136 = .ok (.istore 8, 2) := dk_54 8 (dk_at dksX6_constructor_5 17 rfl rfl)
theorem dX6_constructor_138 : decode cX6_constructor 138 = .ok (.iload 8, 2) := dk_21 8 (dk_at dksX6_constructor_5 19 rfl rfl)
theorem dX6_constructor_140 : decode cX6_constructor 140 = .ok (.iconst 3, 1) := dk_6 (dk_at dksX6_constructor_5 21 rfl rfl)
theorem dX6_constructor_141 : decode cX6_constructor 141 = .ok (.if_icmp .ge 31, 3) := dk_162 0 31 (dk_at dksX6_constructor_6 0 rfl rfl)
theorem dX6_constructor_144 : decode cX6_constructor 144 = .ok (.aload_n 0, 1) := dk_42 (dk_at dksX6_constructor_6 3 rfl rfl)
theorem dX6_constructor_145 : decode cX6_constructor 145 = .ok (.getfield 16, 3) := dk_180 0 16 (dk_at dksX6_constructor_6 4 rfl rfl)
theorem dX6_constructor_148 : decode cX6_constructor 148 = .ok (.iconst 3, 1) := dk_6 (dk_at dksX6_constructor_6 7 rfl rfl)
theorem dX6_constructor_149 : decode cX6_constructor 149 = .ok (.iload 7, 2) := dk_21 7 (dk_at dksX6_constructor_6 8 rfl rfl)
theorem dX6_constructor_151 : decode cX6_constructor 151 = .ok (.imul, 1) := dk_104 (dk_at dksX6_constructor_6 10 rfl rfl)
theorem dX6_constructor_152 : decode cX6_constructor 152 = .ok (.iload 8, 2) := dk_21 8 (dk_at dksX6_constructor_6 11 rfl rfl)
theorem dX6_constructor_154 : decode cX6_constructor 154 = .ok (.iadd, 1) := dk_96 (dk_at dksX6_constructor_6 13 rfl rfl)
theorem dX6_constructor_155 : decode cX6_constructor 155 = .ok (.iload_n 3, 1) := dk_29 (dk_at dksX6_constructor_6 14 rfl rfl)
theorem dX6_constructor_156 : decode cX6_constructor 156 = .ok (.iload 4, 2) := dk_21 4 (dk_at dksX6_constructor_6 15 rfl rfl)
theorem dX6_constructor_158 : decode cX6_constructor 158 = .ok (.iload 5, 2) := dk_21 5 (dk_at dksX6_constructor_6 17 rfl rfl)
theorem dX6_constructor_160 : decode cX6_constructor 160 = .ok (.iload 8, 2) := dk_21 8 (dk_at dksX6_constructor_6 19 rfl rfl)
theorem dX6_constructor_162 : decode cX6_constructor 162 = .ok (.invokestatic 175, 3) := dk_184 0 175 (dk_at dksX6_constructor_6 21 rfl rfl)
theorem dX6_constructor_165 : decode cX6_constructor 165 = .ok (.iastore, 1) := dk_79 (dk_at dksX6_constructor_7 0 rfl rfl)
theorem dX6_constructor_166 : decode cX6_constructor 166 = .ok (.iinc 8 1, 3) := dk_132 8 1 (dk_at dksX6_constructor_7 1 rfl rfl)
theorem dX6_constructor_169 : decode cX6_constructor 169 = .ok (.goto (-31), 3) := dk_167 255 225 (dk_at dksX6_constructor_7 4 rfl rfl)
theorem dX6_constructor_172 : decode cX6_constructor 172 = .ok (.aload_n 0, 1) := dk_42 (dk_at dksX6_constructor_7 7 rfl rfl)
theorem dX6_constructor_173 : decode cX6_constructor 173 = .ok (.getfield 7, 3) := dk_180 0 7 (dk_at dksX6_constructor_7 8 rfl rfl)
theorem dX6_constructor_176 : decode cX6_constructor 176 = .ok (.iload_n 1, 1) := dk_27 (dk_at dksX6_constructor_7 11 rfl rfl)
theorem dX6_constructor_177 : decode cX6_constructor 177 = .ok (.dup2, 1) := dk_92 (dk_at dksX6_constructor_7 12 rfl rfl)
theorem dX6_constructor_178 : decode cX6_constructor 178 = .ok (.iaload, 1) := dk_46 (dk_at dksX6_constructor_7 13 rfl rfl)
theorem dX6_constructor_179 : decode cX6_constructor 179 = .ok (.iconst 1, 1) := dk_4 (dk_at dksX6_constructor_7 14 rfl rfl)
theorem dX6_constructor_180 : decode cX6_constructor 180 = .ok (.iadd, 1) := dk_96 (dk_at dksX6_constructor_7 15 rfl rfl)
theorem dX6_constructor_181 : decode cX6_constructor 181 = .ok (.iastore, 1) := dk_79 (dk_at dksX6_constructor_7 16 rfl rfl)
theorem dX6_constructor_182 : decode cX6_constructor 182 = .ok (.aload_n 0, 1) := dk_42 (dk_at dksX6_constructor_7 17 rfl rfl)
theorem dX6_constructor_183 : decode cX6_constructor 183 = .ok (.iconst (-1), 1) := dk_2 (dk_at dksX6_constructor_7 18 rfl rfl)
theorem dX6_constructor_184 : decode cX6_constructor 184 = .ok (.putfield 161, 3) := dk_181 0 161 (dk_at dksX6_constructor_7 19 rfl rfl)
theorem dX6_constructor_187 : decode cX6_constructor 187 = .ok (.aload_n 0, 1) := dk_42 (dk_at dksX6_constructor_7 22 rfl rfl)
theorem dX6_constructor_188 : decode cX6_constructor 188 = .ok (.getfield 7, 3) := dk_180 0 7 (dk_at dksX6_constructor_8 0 rfl rfl)
theorem dX6_constructor_191 : decode cX6_constructor 191 = .ok (.iload_n 1, 1) := dk_27 (dk_at dksX6_constructor_8 3 rfl rfl)
theorem dX6_constructor_192 : decode cX6_constructor 192 = .ok (.iaload, 1) := dk_46 (dk_at dksX6_constructor_8 4 rfl rfl)
theorem dX6_constructor_193 : decode cX6_constructor 193 = .ok (.iconst 1, 1) := dk_4 (dk_at dksX6_constructor_8 5 rfl rfl)
theorem dX6_constructor_194 : decode cX6_constructor 194 = .ok (.isub, 1) := dk_100 (dk_at dksX6_constructor_8 6 rfl rfl)
theorem dX6_constructor_195 : decode cX6_constructor 195 = .ok (.ireturn, 1) := dk_172 (dk_at dksX6_constructor_8 7 rfl rfl)
abbrev cX6_in : ByteArray := prog_23_method_4_code
def yX6_in : MethodName := ⟨RX6, "in", "(III)Z"⟩
def dkwX6_in_0 : List UInt8 := [26, 27, 161, 0, 12, 26, 28, 163, 0, 7, 4, 167, 0, 4, 3, 172]
abbrev dktX6_in_0 : List UInt8 := dkwX6_in_0 ++ []
theorem dksX6_in_0 : cX6_in.data.toList.drop 0 = dktX6_in_0 := by decide +kernel
theorem dX6_in_0 : decode cX6_in 0 = .ok (.iload_n 0, 1) := dk_26 (dk_at dksX6_in_0 0 rfl rfl)
theorem dX6_in_1 : decode cX6_in 1 = .ok (.iload_n 1, 1) := dk_27 (dk_at dksX6_in_0 1 rfl rfl)
theorem dX6_in_2 : decode cX6_in 2 = .ok (.if_icmp .lt 12, 3) := dk_161 0 12 (dk_at dksX6_in_0 2 rfl rfl)
theorem dX6_in_5 : decode cX6_in 5 = .ok (.iload_n 0, 1) := dk_26 (dk_at dksX6_in_0 5 rfl rfl)
theorem dX6_in_6 : decode cX6_in 6 = .ok (.iload_n 2, 1) := dk_28 (dk_at dksX6_in_0 6 rfl rfl)
theorem dX6_in_7 : decode cX6_in 7 = .ok (.if_icmp .gt 7, 3) := dk_163 0 7 (dk_at dksX6_in_0 7 rfl rfl)
theorem dX6_in_10 : decode cX6_in 10 = .ok (.iconst 1, 1) := dk_4 (dk_at dksX6_in_0 10 rfl rfl)
theorem dX6_in_11 : decode cX6_in 11 = .ok (.goto 4, 3) := dk_167 0 4 (dk_at dksX6_in_0 11 rfl rfl)
theorem dX6_in_14 : decode cX6_in 14 = .ok (.iconst 0, 1) := dk_3 (dk_at dksX6_in_0 14 rfl rfl)
theorem dX6_in_15 : decode cX6_in 15 = .ok (.ireturn, 1) := dk_172 (dk_at dksX6_in_0 15 rfl rfl)
abbrev cX6_pick : ByteArray := prog_23_method_6_code
def yX6_pick : MethodName := ⟨RX6, "pick", "(IIII)I"⟩
def dkwX6_pick_0 : List UInt8 := [29, 154, 0, 7, 26, 167, 0, 13, 29, 4, 160, 0, 7, 27, 167, 0, 4, 28, 172]
abbrev dktX6_pick_0 : List UInt8 := dkwX6_pick_0 ++ []
theorem dksX6_pick_0 : cX6_pick.data.toList.drop 0 = dktX6_pick_0 := by decide +kernel
theorem dX6_pick_0 : decode cX6_pick 0 = .ok (.iload_n 3, 1) := dk_29 (dk_at dksX6_pick_0 0 rfl rfl)
theorem dX6_pick_1 : decode cX6_pick 1 = .ok (.ifCond .ne 7, 3) := dk_154 0 7 (dk_at dksX6_pick_0 1 rfl rfl)
theorem dX6_pick_4 : decode cX6_pick 4 = .ok (.iload_n 0, 1) := dk_26 (dk_at dksX6_pick_0 4 rfl rfl)
theorem dX6_pick_5 : decode cX6_pick 5 = .ok (.goto 13, 3) := dk_167 0 13 (dk_at dksX6_pick_0 5 rfl rfl)
theorem dX6_pick_8 : decode cX6_pick 8 = .ok (.iload_n 3, 1) := dk_29 (dk_at dksX6_pick_0 8 rfl rfl)
theorem dX6_pick_9 : decode cX6_pick 9 = .ok (.iconst 1, 1) := dk_4 (dk_at dksX6_pick_0 9 rfl rfl)
theorem dX6_pick_10 : decode cX6_pick 10 = .ok (.if_icmp .ne 7, 3) := dk_160 0 7 (dk_at dksX6_pick_0 10 rfl rfl)
theorem dX6_pick_13 : decode cX6_pick 13 = .ok (.iload_n 1, 1) := dk_27 (dk_at dksX6_pick_0 13 rfl rfl)
theorem dX6_pick_14 : decode cX6_pick 14 = .ok (.goto 4, 3) := dk_167 0 4 (dk_at dksX6_pick_0 14 rfl rfl)
theorem dX6_pick_17 : decode cX6_pick 17 = .ok (.iload_n 2, 1) := dk_28 (dk_at dksX6_pick_0 17 rfl rfl)
theorem dX6_pick_18 : decode cX6_pick 18 = .ok (.ireturn, 1) := dk_172 (dk_at dksX6_pick_0 18 rfl rfl)
abbrev cX6_isKind : ByteArray := prog_23_method_5_code
def yX6_isKind : MethodName := ⟨RX6, "isKind", "(I)Z"⟩
def dkwX6_isKind_0 : List UInt8 := [26, 3, 8, 184, 0, 171, 172]
abbrev dktX6_isKind_0 : List UInt8 := dkwX6_isKind_0 ++ []
theorem dksX6_isKind_0 : cX6_isKind.data.toList.drop 0 = dktX6_isKind_0 := by decide +kernel
theorem dX6_isKind_0 : decode cX6_isKind 0 = .ok (.iload_n 0, 1) := dk_26 (dk_at dksX6_isKind_0 0 rfl rfl)
theorem dX6_isKind_1 : decode cX6_isKind 1 = .ok (.iconst 0, 1) := dk_3 (dk_at dksX6_isKind_0 1 rfl rfl)
theorem dX6_isKind_2 : decode cX6_isKind 2 = .ok (.iconst 5, 1) := dk_8 (dk_at dksX6_isKind_0 2 rfl rfl)
theorem dX6_isKind_3 : decode cX6_isKind 3 = .ok (.invokestatic 171, 3) := dk_184 0 171 (dk_at dksX6_isKind_0 3 rfl rfl)
theorem dX6_isKind_6 : decode cX6_isKind 6 = .ok (.ireturn, 1) := dk_172 (dk_at dksX6_isKind_0 6 rfl rfl)
abbrev cX6_refused : ByteArray := prog_23_method_3_code
def yX6_refused : MethodName := ⟨RX6, "refused", "(I)Z"⟩
def dkwX6_refused_0 : List UInt8 := [42, 27, 181, 0, 168, 27, 153, 0, 7, 4, 167, 0, 4, 3, 172]
abbrev dktX6_refused_0 : List UInt8 := dkwX6_refused_0 ++ []
theorem dksX6_refused_0 : cX6_refused.data.toList.drop 0 = dktX6_refused_0 := by decide +kernel
theorem dX6_refused_0 : decode cX6_refused 0 = .ok (.aload_n 0, 1) := dk_42 (dk_at dksX6_refused_0 0 rfl rfl)
theorem dX6_refused_1 : decode cX6_refused 1 = .ok (.iload_n 1, 1) := dk_27 (dk_at dksX6_refused_0 1 rfl rfl)
theorem dX6_refused_2 : decode cX6_refused 2 = .ok (.putfield 168, 3) := dk_181 0 168 (dk_at dksX6_refused_0 2 rfl rfl)
theorem dX6_refused_5 : decode cX6_refused 5 = .ok (.iload_n 1, 1) := dk_27 (dk_at dksX6_refused_0 5 rfl rfl)
theorem dX6_refused_6 : decode cX6_refused 6 = .ok (.ifCond .eq 7, 3) := dk_153 0 7 (dk_at dksX6_refused_0 6 rfl rfl)
theorem dX6_refused_9 : decode cX6_refused 9 = .ok (.iconst 1, 1) := dk_4 (dk_at dksX6_refused_0 9 rfl rfl)
theorem dX6_refused_10 : decode cX6_refused 10 = .ok (.goto 4, 3) := dk_167 0 4 (dk_at dksX6_refused_0 10 rfl rfl)
theorem dX6_refused_13 : decode cX6_refused 13 = .ok (.iconst 0, 1) := dk_3 (dk_at dksX6_refused_0 13 rfl rfl)
theorem dX6_refused_14 : decode cX6_refused 14 = .ok (.ireturn, 1) := dk_172 (dk_at dksX6_refused_0 14 rfl rfl)
abbrev cX6_num : ByteArray := prog_23_method_9_code
def yX6_num : MethodName := ⟨RX6, "num", "(I)I"⟩
def dkwX6_num_1 : List UInt8 := [5, 167, 0, 4, 3, 182, 0, 183, 153, 0, 5, 3, 172, 42, 7, 27, 3, 3, 3, 27, 182, 0, 189, 172]
abbrev dktX6_num_1 : List UInt8 := dkwX6_num_1 ++ []
def dkwX6_num_0 : List UInt8 := [42, 27, 3, 16, 9, 184, 0, 171, 154, 0, 7, 4, 167, 0, 17, 42, 180, 0, 186, 16, 40, 160, 0, 7]
abbrev dktX6_num_0 : List UInt8 := dkwX6_num_0 ++ dktX6_num_1
theorem dksX6_num_0 : cX6_num.data.toList.drop 0 = dktX6_num_0 := by decide +kernel
theorem dksX6_num_1 : cX6_num.data.toList.drop 24 = dktX6_num_1 := dk_seg dksX6_num_0 24 rfl rfl
theorem dX6_num_0 : decode cX6_num 0 = .ok (.aload_n 0, 1) := dk_42 (dk_at dksX6_num_0 0 rfl rfl)
theorem dX6_num_1 : decode cX6_num 1 = .ok (.iload_n 1, 1) := dk_27 (dk_at dksX6_num_0 1 rfl rfl)
theorem dX6_num_2 : decode cX6_num 2 = .ok (.iconst 0, 1) := dk_3 (dk_at dksX6_num_0 2 rfl rfl)
theorem dX6_num_3 : decode cX6_num 3 = .ok (.bipush 9, 2) := dk_16 9 (dk_at dksX6_num_0 3 rfl rfl)
theorem dX6_num_5 : decode cX6_num 5 = .ok (.invokestatic 171, 3) := dk_184 0 171 (dk_at dksX6_num_0 5 rfl rfl)
theorem dX6_num_8 : decode cX6_num 8 = .ok (.ifCond .ne 7, 3) := dk_154 0 7 (dk_at dksX6_num_0 8 rfl rfl)
theorem dX6_num_11 : decode cX6_num 11 = .ok (.iconst 1, 1) := dk_4 (dk_at dksX6_num_0 11 rfl rfl)
theorem dX6_num_12 : decode cX6_num 12 = .ok (.goto 17, 3) := dk_167 0 17 (dk_at dksX6_num_0 12 rfl rfl)
theorem dX6_num_15 : decode cX6_num 15 = .ok (.aload_n 0, 1) := dk_42 (dk_at dksX6_num_0 15 rfl rfl)
theorem dX6_num_16 : decode cX6_num 16 = .ok (.getfield 186, 3) := dk_180 0 186 (dk_at dksX6_num_0 16 rfl rfl)
theorem dX6_num_19 : decode cX6_num 19 = .ok (.bipush 40, 2) := dk_16 40 (dk_at dksX6_num_0 19 rfl rfl)
theorem dX6_num_21 : decode cX6_num 21 = .ok (.if_icmp .ne 7, 3) := dk_160 0 7 (dk_at dksX6_num_0 21 rfl rfl)
theorem dX6_num_24 : decode cX6_num 24 = .ok (.iconst 2, 1) := dk_5 (dk_at dksX6_num_1 0 rfl rfl)
theorem dX6_num_25 : decode cX6_num 25 = .ok (.goto 4, 3) := dk_167 0 4 (dk_at dksX6_num_1 1 rfl rfl)
theorem dX6_num_28 : decode cX6_num 28 = .ok (.iconst 0, 1) := dk_3 (dk_at dksX6_num_1 4 rfl rfl)
theorem dX6_num_29 : decode cX6_num 29 = .ok (.invokevirtual 183, 3) := dk_182 0 183 (dk_at dksX6_num_1 5 rfl rfl)
theorem dX6_num_32 : decode cX6_num 32 = .ok (.ifCond .eq 5, 3) := dk_153 0 5 (dk_at dksX6_num_1 8 rfl rfl)
theorem dX6_num_35 : decode cX6_num 35 = .ok (.iconst 0, 1) := dk_3 (dk_at dksX6_num_1 11 rfl rfl)
theorem dX6_num_36 : decode cX6_num 36 = .ok (.ireturn, 1) := dk_172 (dk_at dksX6_num_1 12 rfl rfl)
theorem dX6_num_37 : decode cX6_num 37 = .ok (.aload_n 0, 1) := dk_42 (dk_at dksX6_num_1 13 rfl rfl)
theorem dX6_num_38 : decode cX6_num 38 = .ok (.iconst 4, 1) := dk_7 (dk_at dksX6_num_1 14 rfl rfl)
theorem dX6_num_39 : decode cX6_num 39 = .ok (.iload_n 1, 1) := dk_27 (dk_at dksX6_num_1 15 rfl rfl)
theorem dX6_num_40 : decode cX6_num 40 = .ok (.iconst 0, 1) := dk_3 (dk_at dksX6_num_1 16 rfl rfl)
theorem dX6_num_41 : decode cX6_num 41 = .ok (.iconst 0, 1) := dk_3 (dk_at dksX6_num_1 17 rfl rfl)
theorem dX6_num_42 : decode cX6_num 42 = .ok (.iconst 0, 1) := dk_3 (dk_at dksX6_num_1 18 rfl rfl)
theorem dX6_num_43 : decode cX6_num 43 = .ok (.iload_n 1, 1) := dk_27 (dk_at dksX6_num_1 19 rfl rfl)
theorem dX6_num_44 : decode cX6_num 44 = .ok (.invokevirtual 189, 3) := dk_182 0 189 (dk_at dksX6_num_1 20 rfl rfl)
theorem dX6_num_47 : decode cX6_num 47 = .ok (.ireturn, 1) := dk_172 (dk_at dksX6_num_1 23 rfl rfl)
abbrev cX6_value : ByteArray := prog_23_method_8_code
def yX6_value : MethodName := ⟨RX6, "value", "(IIIIII)I"⟩
def dkwX6_value_3 : List UInt8 := [16, 97, 112, 79, 42, 89, 180, 0, 186, 4, 96, 181, 0, 186, 42, 180, 0, 186, 4, 100, 172]
abbrev dktX6_value_3 : List UInt8 := dkwX6_value_3 ++ []
def dkwX6_value_2 : List UInt8 := [180, 0, 25, 6, 42, 180, 0, 186, 104, 5, 96, 21, 5, 79, 42, 180, 0, 28, 42, 180, 0, 186, 21, 6]
abbrev dktX6_value_2 : List UInt8 := dkwX6_value_2 ++ dktX6_value_3
def dkwX6_value_1 : List UInt8 := [6, 42, 180, 0, 186, 104, 29, 79, 42, 180, 0, 25, 6, 42, 180, 0, 186, 104, 4, 96, 21, 4, 79, 42]
abbrev dktX6_value_1 : List UInt8 := dkwX6_value_1 ++ dktX6_value_2
def dkwX6_value_0 : List UInt8 := [42, 180, 0, 19, 42, 180, 0, 186, 27, 79, 42, 180, 0, 22, 42, 180, 0, 186, 28, 79, 42, 180, 0, 25]
abbrev dktX6_value_0 : List UInt8 := dkwX6_value_0 ++ dktX6_value_1
theorem dksX6_value_0 : cX6_value.data.toList.drop 0 = dktX6_value_0 := by decide +kernel
theorem dksX6_value_1 : cX6_value.data.toList.drop 24 = dktX6_value_1 := dk_seg dksX6_value_0 24 rfl rfl
theorem dksX6_value_2 : cX6_value.data.toList.drop 48 = dktX6_value_2 := dk_seg dksX6_value_1 24 rfl rfl
theorem dksX6_value_3 : cX6_value.data.toList.drop 72 = dktX6_value_3 := dk_seg dksX6_value_2 24 rfl rfl
theorem dX6_value_0 : decode cX6_value 0 = .ok (.aload_n 0, 1) := dk_42 (dk_at dksX6_value_0 0 rfl rfl)
theorem dX6_value_1 : decode cX6_value 1 = .ok (.getfield 19, 3) := dk_180 0 19 (dk_at dksX6_value_0 1 rfl rfl)
theorem dX6_value_4 : decode cX6_value 4 = .ok (.aload_n 0, 1) := dk_42 (dk_at dksX6_value_0 4 rfl rfl)
theorem dX6_value_5 : decode cX6_value 5 = .ok (.getfield 186, 3) := dk_180 0 186 (dk_at dksX6_value_0 5 rfl rfl)
theorem dX6_value_8 : decode cX6_value 8 = .ok (.iload_n 1, 1) := dk_27 (dk_at dksX6_value_0 8 rfl rfl)
theorem dX6_value_9 : decode cX6_value 9 = .ok (.iastore, 1) := dk_79 (dk_at dksX6_value_0 9 rfl rfl)
theorem dX6_value_10 : decode cX6_value 10 = .ok (.aload_n 0, 1) := dk_42 (dk_at dksX6_value_0 10 rfl rfl)
theorem dX6_value_11 : decode cX6_value 11 = .ok (.getfield 22, 3) := dk_180 0 22 (dk_at dksX6_value_0 11 rfl rfl)
theorem dX6_value_14 : decode cX6_value 14 = .ok (.aload_n 0, 1) := dk_42 (dk_at dksX6_value_0 14 rfl rfl)
theorem dX6_value_15 : decode cX6_value 15 = .ok (.getfield 186, 3) := dk_180 0 186 (dk_at dksX6_value_0 15 rfl rfl)
theorem dX6_value_18 : decode cX6_value 18 = .ok (.iload_n 2, 1) := dk_28 (dk_at dksX6_value_0 18 rfl rfl)
theorem dX6_value_19 : decode cX6_value 19 = .ok (.iastore, 1) := dk_79 (dk_at dksX6_value_0 19 rfl rfl)
theorem dX6_value_20 : decode cX6_value 20 = .ok (.aload_n 0, 1) := dk_42 (dk_at dksX6_value_0 20 rfl rfl)
theorem dX6_value_21 : decode cX6_value 21 = .ok (.getfield 25, 3) := dk_180 0 25 (dk_at dksX6_value_0 21 rfl rfl)
theorem dX6_value_24 : decode cX6_value 24 = .ok (.iconst 3, 1) := dk_6 (dk_at dksX6_value_1 0 rfl rfl)
theorem dX6_value_25 : decode cX6_value 25 = .ok (.aload_n 0, 1) := dk_42 (dk_at dksX6_value_1 1 rfl rfl)
theorem dX6_value_26 : decode cX6_value 26 = .ok (.getfield 186, 3) := dk_180 0 186 (dk_at dksX6_value_1 2 rfl rfl)
theorem dX6_value_29 : decode cX6_value 29 = .ok (.imul, 1) := dk_104 (dk_at dksX6_value_1 5 rfl rfl)
theorem dX6_value_30 : decode cX6_value 30 = .ok (.iload_n 3, 1) := dk_29 (dk_at dksX6_value_1 6 rfl rfl)
theorem dX6_value_31 : decode cX6_value 31 = .ok (.iastore, 1) := dk_79 (dk_at dksX6_value_1 7 rfl rfl)
theorem dX6_value_32 : decode cX6_value 32 = .ok (.aload_n 0, 1) := dk_42 (dk_at dksX6_value_1 8 rfl rfl)
theorem dX6_value_33 : decode cX6_value 33 = .ok (.getfield 25, 3) := dk_180 0 25 (dk_at dksX6_value_1 9 rfl rfl)
theorem dX6_value_36 : decode cX6_value 36 = .ok (.iconst 3, 1) := dk_6 (dk_at dksX6_value_1 12 rfl rfl)
theorem dX6_value_37 : decode cX6_value 37 = .ok (.aload_n 0, 1) := dk_42 (dk_at dksX6_value_1 13 rfl rfl)
theorem dX6_value_38 : decode cX6_value 38 = .ok (.getfield 186, 3) := dk_180 0 186 (dk_at dksX6_value_1 14 rfl rfl)
theorem dX6_value_41 : decode cX6_value 41 = .ok (.imul, 1) := dk_104 (dk_at dksX6_value_1 17 rfl rfl)
theorem dX6_value_42 : decode cX6_value 42 = .ok (.iconst 1, 1) := dk_4 (dk_at dksX6_value_1 18 rfl rfl)
theorem dX6_value_43 : decode cX6_value 43 = .ok (.iadd, 1) := dk_96 (dk_at dksX6_value_1 19 rfl rfl)
theorem dX6_value_44 : decode cX6_value 44 = .ok (.iload 4, 2) := dk_21 4 (dk_at dksX6_value_1 20 rfl rfl)
theorem dX6_value_46 : decode cX6_value 46 = .ok (.iastore, 1) := dk_79 (dk_at dksX6_value_1 22 rfl rfl)
theorem dX6_value_47 : decode cX6_value 47 = .ok (.aload_n 0, 1) := dk_42 (dk_at dksX6_value_1 23 rfl rfl)
theorem dX6_value_48 : decode cX6_value 48 = .ok (.getfield 25, 3) := dk_180 0 25 (dk_at dksX6_value_2 0 rfl rfl)
theorem dX6_value_51 : decode cX6_value 51 = .ok (.iconst 3, 1) := dk_6 (dk_at dksX6_value_2 3 rfl rfl)
theorem dX6_value_52 : decode cX6_value 52 = .ok (.aload_n 0, 1) := dk_42 (dk_at dksX6_value_2 4 rfl rfl)
theorem dX6_value_53 : decode cX6_value 53 = .ok (.getfield 186, 3) := dk_180 0 186 (dk_at dksX6_value_2 5 rfl rfl)
theorem dX6_value_56 : decode cX6_value 56 = .ok (.imul, 1) := dk_104 (dk_at dksX6_value_2 8 rfl rfl)
theorem dX6_value_57 : decode cX6_value 57 = .ok (.iconst 2, 1) := dk_5 (dk_at dksX6_value_2 9 rfl rfl)
theorem dX6_value_58 : decode cX6_value 58 = .ok (.iadd, 1) := dk_96 (dk_at dksX6_value_2 10 rfl rfl)
theorem dX6_value_59 : decode cX6_value 59 = .ok (.iload 5, 2) := dk_21 5 (dk_at dksX6_value_2 11 rfl rfl)
theorem dX6_value_61 : decode cX6_value 61 = .ok (.iastore, 1) := dk_79 (dk_at dksX6_value_2 13 rfl rfl)
theorem dX6_value_62 : decode cX6_value 62 = .ok (.aload_n 0, 1) := dk_42 (dk_at dksX6_value_2 14 rfl rfl)
theorem dX6_value_63 : decode cX6_value 63 = .ok (.getfield 28, 3) := dk_180 0 28 (dk_at dksX6_value_2 15 rfl rfl)
theorem dX6_value_66 : decode cX6_value 66 = .ok (.aload_n 0, 1) := dk_42 (dk_at dksX6_value_2 18 rfl rfl)
theorem dX6_value_67 : decode cX6_value 67 = .ok (.getfield 186, 3) := dk_180 0 186 (dk_at dksX6_value_2 19 rfl rfl)
theorem dX6_value_70 : decode cX6_value 70 = .ok (.iload 6, 2) := dk_21 6 (dk_at dksX6_value_2 22 rfl rfl)
theorem dX6_value_72 : decode cX6_value 72 = .ok (.bipush 97, 2) := dk_16 97 (dk_at dksX6_value_3 0 rfl rfl)
theorem dX6_value_74 : decode cX6_value 74 = .ok (.irem, 1) := dk_112 (dk_at dksX6_value_3 2 rfl rfl)
theorem dX6_value_75 : decode cX6_value 75 = .ok (.iastore, 1) := dk_79 (dk_at dksX6_value_3 3 rfl rfl)
theorem dX6_value_76 : decode cX6_value 76 = .ok (.aload_n 0, 1) := dk_42 (dk_at dksX6_value_3 4 rfl rfl)
theorem dX6_value_77 : decode cX6_value 77 = .ok (.dup, 1) := dk_89 (dk_at dksX6_value_3 5 rfl rfl)
theorem dX6_value_78 : decode cX6_value 78 = .ok (.getfield 186, 3) := dk_180 0 186 (dk_at dksX6_value_3 6 rfl rfl)
theorem dX6_value_81 : decode cX6_value 81 = .ok (.iconst 1, 1) := dk_4 (dk_at dksX6_value_3 9 rfl rfl)
theorem dX6_value_82 : decode cX6_value 82 = .ok (.iadd, 1) := dk_96 (dk_at dksX6_value_3 10 rfl rfl)
theorem dX6_value_83 : decode cX6_value 83 = .ok (.putfield 186, 3) := dk_181 0 186 (dk_at dksX6_value_3 11 rfl rfl)
theorem dX6_value_86 : decode cX6_value 86 = .ok (.aload_n 0, 1) := dk_42 (dk_at dksX6_value_3 14 rfl rfl)
theorem dX6_value_87 : decode cX6_value 87 = .ok (.getfield 186, 3) := dk_180 0 186 (dk_at dksX6_value_3 15 rfl rfl)
theorem dX6_value_90 : decode cX6_value 90 = .ok (.iconst 1, 1) := dk_4 (dk_at dksX6_value_3 18 rfl rfl)
theorem dX6_value_91 : decode cX6_value 91 = .ok (.isub, 1) := dk_100 (dk_at dksX6_value_3 19 rfl rfl)
theorem dX6_value_92 : decode cX6_value 92 = .ok (.ireturn, 1) := dk_172 (dk_at dksX6_value_3 20 rfl rfl)
abbrev cX6_seq : ByteArray := prog_23_method_10_code
def yX6_seq : MethodName := ⟨RX6, "seq", "(IIII)I"⟩
def dkwX6_seq_4 : List UInt8 := [172, 42, 8, 27, 28, 29, 21, 4, 6, 27, 104, 28, 96, 29, 96, 21, 4, 96, 182, 0, 189, 172]
abbrev dktX6_seq_4 : List UInt8 := dkwX6_seq_4 ++ []
def dkwX6_seq_3 : List UInt8 := [167, 0, 17, 42, 180, 0, 186, 16, 40, 160, 0, 7, 5, 167, 0, 4, 3, 182, 0, 183, 153, 0, 5, 3]
abbrev dktX6_seq_3 : List UInt8 := dkwX6_seq_3 ++ dktX6_seq_4
def dkwX6_seq_2 : List UInt8 := [153, 0, 7, 4, 167, 0, 4, 3, 54, 5, 132, 6, 1, 167, 255, 207, 42, 21, 5, 154, 0, 7, 4]
abbrev dktX6_seq_2 : List UInt8 := dkwX6_seq_2 ++ dktX6_seq_3
def dkwX6_seq_1 : List UInt8 := [21, 4, 21, 6, 184, 0, 175, 3, 21, 6, 27, 162, 0, 8, 16, 9, 167, 0, 4, 3, 184, 0, 171]
abbrev dktX6_seq_1 : List UInt8 := dkwX6_seq_1 ++ dktX6_seq_2
def dkwX6_seq_0 : List UInt8 := [27, 3, 6, 184, 0, 171, 54, 5, 3, 54, 6, 21, 6, 6, 162, 0, 49, 21, 5, 153, 0, 35, 28, 29]
abbrev dktX6_seq_0 : List UInt8 := dkwX6_seq_0 ++ dktX6_seq_1
theorem dksX6_seq_0 : cX6_seq.data.toList.drop 0 = dktX6_seq_0 := by decide +kernel
theorem dksX6_seq_1 : cX6_seq.data.toList.drop 24 = dktX6_seq_1 := dk_seg dksX6_seq_0 24 rfl rfl
theorem dksX6_seq_2 : cX6_seq.data.toList.drop 47 = dktX6_seq_2 := dk_seg dksX6_seq_1 23 rfl rfl
theorem dksX6_seq_3 : cX6_seq.data.toList.drop 70 = dktX6_seq_3 := dk_seg dksX6_seq_2 23 rfl rfl
theorem dksX6_seq_4 : cX6_seq.data.toList.drop 94 = dktX6_seq_4 := dk_seg dksX6_seq_3 24 rfl rfl
theorem dX6_seq_0 : decode cX6_seq 0 = .ok (.iload_n 1, 1) := dk_27 (dk_at dksX6_seq_0 0 rfl rfl)
theorem dX6_seq_1 : decode cX6_seq 1 = .ok (.iconst 0, 1) := dk_3 (dk_at dksX6_seq_0 1 rfl rfl)
theorem dX6_seq_2 : decode cX6_seq 2 = .ok (.iconst 3, 1) := dk_6 (dk_at dksX6_seq_0 2 rfl rfl)
theorem dX6_seq_3 : decode cX6_seq 3 = .ok (.invokestatic 171, 3) := dk_184 0 171 (dk_at dksX6_seq_0 3 rfl rfl)
theorem dX6_seq_6 : decode cX6_seq 6 = .ok (.istore 5, 2) := dk_54 5 (dk_at dksX6_seq_0 6 rfl rfl)
theorem dX6_seq_8 : decode cX6_seq 8 = .ok (.iconst 0, 1) := dk_3 (dk_at dksX6_seq_0 8 rfl rfl)
theorem dX6_seq_9 : decode cX6_seq 9 = .ok (.istore 6, 2) := dk_54 6 (dk_at dksX6_seq_0 9 rfl rfl)
theorem dX6_seq_11 : decode cX6_seq 11 = .ok (.iload 6, 2) := dk_21 6 (dk_at dksX6_seq_0 11 rfl rfl)
theorem dX6_seq_13 : decode cX6_seq 13 = .ok (.iconst 3, 1) := dk_6 (dk_at dksX6_seq_0 13 rfl rfl)
theorem dX6_seq_14 : decode cX6_seq 14 = .ok (.if_icmp .ge 49, 3) := dk_162 0 49 (dk_at dksX6_seq_0 14 rfl rfl)
theorem dX6_seq_17 : decode cX6_seq 17 = .ok (.iload 5, 2) := dk_21 5 (dk_at dksX6_seq_0 17 rfl rfl)
theorem dX6_seq_19 : decode cX6_seq 19 = .ok (.ifCond .eq 35, 3) := dk_153 0 35 (dk_at dksX6_seq_0 19 rfl rfl)
theorem dX6_seq_22 : decode cX6_seq 22 = .ok (.iload_n 2, 1) := dk_28 (dk_at dksX6_seq_0 22 rfl rfl)
theorem dX6_seq_23 : decode cX6_seq 23 = .ok (.iload_n 3, 1) := dk_29 (dk_at dksX6_seq_0 23 rfl rfl)
theorem dX6_seq_24 : decode cX6_seq 24 = .ok (.iload 4, 2) := dk_21 4 (dk_at dksX6_seq_1 0 rfl rfl)
theorem dX6_seq_26 : decode cX6_seq 26 = .ok (.iload 6, 2) := dk_21 6 (dk_at dksX6_seq_1 2 rfl rfl)
theorem dX6_seq_28 : decode cX6_seq 28 = .ok (.invokestatic 175, 3) := dk_184 0 175 (dk_at dksX6_seq_1 4 rfl rfl)
theorem dX6_seq_31 : decode cX6_seq 31 = .ok (.iconst 0, 1) := dk_3 (dk_at dksX6_seq_1 7 rfl rfl)
theorem dX6_seq_32 : decode cX6_seq 32 = .ok (.iload 6, 2) := dk_21 6 (dk_at dksX6_seq_1 8 rfl rfl)
theorem dX6_seq_34 : decode cX6_seq 34 = .ok (.iload_n 1, 1) := dk_27 (dk_at dksX6_seq_1 10 rfl rfl)
theorem dX6_seq_35 : decode cX6_seq 35 = .ok (.if_icmp .ge 8, 3) := dk_162 0 8 (dk_at dksX6_seq_1 11 rfl rfl)
theorem dX6_seq_38 : decode cX6_seq 38 = .ok (.bipush 9, 2) := dk_16 9 (dk_at dksX6_seq_1 14 rfl rfl)
theorem dX6_seq_40 : decode cX6_seq 40 = .ok (.goto 4, 3) := dk_167 0 4 (dk_at dksX6_seq_1 16 rfl rfl)
theorem dX6_seq_43 : decode cX6_seq 43 = .ok (.iconst 0, 1) := dk_3 (dk_at dksX6_seq_1 19 rfl rfl)
theorem dX6_seq_44 : decode cX6_seq 44 = .ok (.invokestatic 171, 3) := dk_184 0 171 (dk_at dksX6_seq_1 20 rfl rfl)
theorem dX6_seq_47 : decode cX6_seq 47 = .ok (.ifCond .eq 7, 3) := dk_153 0 7 (dk_at dksX6_seq_2 0 rfl rfl)
theorem dX6_seq_50 : decode cX6_seq 50 = .ok (.iconst 1, 1) := dk_4 (dk_at dksX6_seq_2 3 rfl rfl)
theorem dX6_seq_51 : decode cX6_seq 51 = .ok (.goto 4, 3) := dk_167 0 4 (dk_at dksX6_seq_2 4 rfl rfl)
theorem dX6_seq_54 : decode cX6_seq 54 = .ok (.iconst 0, 1) := dk_3 (dk_at dksX6_seq_2 7 rfl rfl)
theorem dX6_seq_55 : decode cX6_seq 55 = .ok (.istore 5, 2) := dk_54 5 (dk_at dksX6_seq_2 8 rfl rfl)
theorem dX6_seq_57 : decode cX6_seq 57 = .ok (.iinc 6 1, 3) := dk_132 6 1 (dk_at dksX6_seq_2 10 rfl rfl)
theorem dX6_seq_60 : decode cX6_seq 60 = .ok (.goto (-49), 3) := dk_167 255 207 (dk_at dksX6_seq_2 13 rfl rfl)
theorem dX6_seq_63 : decode cX6_seq 63 = .ok (.aload_n 0, 1) := dk_42 (dk_at dksX6_seq_2 16 rfl rfl)
theorem dX6_seq_64 : decode cX6_seq 64 = .ok (.iload 5, 2) := dk_21 5 (dk_at dksX6_seq_2 17 rfl rfl)
theorem dX6_seq_66 : decode cX6_seq 66 = .ok (.ifCond .ne 7, 3) := dk_154 0 7 (dk_at dksX6_seq_2 19 rfl rfl)
theorem dX6_seq_69 : decode cX6_seq 69 = .ok (.iconst 1, 1) := dk_4 (dk_at dksX6_seq_2 22 rfl rfl)
theorem dX6_seq_70 : decode cX6_seq 70 = .ok (.goto 17, 3) := dk_167 0 17 (dk_at dksX6_seq_3 0 rfl rfl)
theorem dX6_seq_73 : decode cX6_seq 73 = .ok (.aload_n 0, 1) := dk_42 (dk_at dksX6_seq_3 3 rfl rfl)
theorem dX6_seq_74 : decode cX6_seq 74 = .ok (.getfield 186, 3) := dk_180 0 186 (dk_at dksX6_seq_3 4 rfl rfl)
theorem dX6_seq_77 : decode cX6_seq 77 = .ok (.bipush 40, 2) := dk_16 40 (dk_at dksX6_seq_3 7 rfl rfl)
theorem dX6_seq_79 : decode cX6_seq 79 = .ok (.if_icmp .ne 7, 3) := dk_160 0 7 (dk_at dksX6_seq_3 9 rfl rfl)
theorem dX6_seq_82 : decode cX6_seq 82 = .ok (.iconst 2, 1) := dk_5 (dk_at dksX6_seq_3 12 rfl rfl)
theorem dX6_seq_83 : decode cX6_seq 83 = .ok (.goto 4, 3) := dk_167 0 4 (dk_at dksX6_seq_3 13 rfl rfl)
theorem dX6_seq_86 : decode cX6_seq 86 = .ok (.iconst 0, 1) := dk_3 (dk_at dksX6_seq_3 16 rfl rfl)
theorem dX6_seq_87 : decode cX6_seq 87 = .ok (.invokevirtual 183, 3) := dk_182 0 183 (dk_at dksX6_seq_3 17 rfl rfl)
theorem dX6_seq_90 : decode cX6_seq 90 = .ok (.ifCond .eq 5, 3) := dk_153 0 5 (dk_at dksX6_seq_3 20 rfl rfl)
theorem dX6_seq_93 : decode cX6_seq 93 = .ok (.iconst 0, 1) := dk_3 (dk_at dksX6_seq_3 23 rfl rfl)
theorem dX6_seq_94 : decode cX6_seq 94 = .ok (.ireturn, 1) := dk_172 (dk_at dksX6_seq_4 0 rfl rfl)
theorem dX6_seq_95 : decode cX6_seq 95 = .ok (.aload_n 0, 1) := dk_42 (dk_at dksX6_seq_4 1 rfl rfl)
theorem dX6_seq_96 : decode cX6_seq 96 = .ok (.iconst 5, 1) := dk_8 (dk_at dksX6_seq_4 2 rfl rfl)
theorem dX6_seq_97 : decode cX6_seq 97 = .ok (.iload_n 1, 1) := dk_27 (dk_at dksX6_seq_4 3 rfl rfl)
theorem dX6_seq_98 : decode cX6_seq 98 = .ok (.iload_n 2, 1) := dk_28 (dk_at dksX6_seq_4 4 rfl rfl)
theorem dX6_seq_99 : decode cX6_seq 99 = .ok (.iload_n 3, 1) := dk_29 (dk_at dksX6_seq_4 5 rfl rfl)
theorem dX6_seq_100 : decode cX6_seq 100 = .ok (.iload 4, 2) := dk_21 4 (dk_at dksX6_seq_4 6 rfl rfl)
theorem dX6_seq_102 : decode cX6_seq 102 = .ok (.iconst 3, 1) := dk_6 (dk_at dksX6_seq_4 8 rfl rfl)
theorem dX6_seq_103 : decode cX6_seq 103 = .ok (.iload_n 1, 1) := dk_27 (dk_at dksX6_seq_4 9 rfl rfl)
theorem dX6_seq_104 : decode cX6_seq 104 = .ok (.imul, 1) := dk_104 (dk_at dksX6_seq_4 10 rfl rfl)
theorem dX6_seq_105 : decode cX6_seq 105 = .ok (.iload_n 2, 1) := dk_28 (dk_at dksX6_seq_4 11 rfl rfl)
theorem dX6_seq_106 : decode cX6_seq 106 = .ok (.iadd, 1) := dk_96 (dk_at dksX6_seq_4 12 rfl rfl)
theorem dX6_seq_107 : decode cX6_seq 107 = .ok (.iload_n 3, 1) := dk_29 (dk_at dksX6_seq_4 13 rfl rfl)
theorem dX6_seq_108 : decode cX6_seq 108 = .ok (.iadd, 1) := dk_96 (dk_at dksX6_seq_4 14 rfl rfl)
theorem dX6_seq_109 : decode cX6_seq 109 = .ok (.iload 4, 2) := dk_21 4 (dk_at dksX6_seq_4 15 rfl rfl)
theorem dX6_seq_111 : decode cX6_seq 111 = .ok (.iadd, 1) := dk_96 (dk_at dksX6_seq_4 17 rfl rfl)
theorem dX6_seq_112 : decode cX6_seq 112 = .ok (.invokevirtual 189, 3) := dk_182 0 189 (dk_at dksX6_seq_4 18 rfl rfl)
theorem dX6_seq_115 : decode cX6_seq 115 = .ok (.ireturn, 1) := dk_172 (dk_at dksX6_seq_4 21 rfl rfl)
abbrev cX6_data : ByteArray := prog_23_method_12_code
def yX6_data : MethodName := ⟨RX6, "data", "(IIIII)I"⟩
def dkwX6_data_11 : List UInt8 := [21, 9, 182, 0, 189, 172]
abbrev dktX6_data_11 : List UInt8 := dkwX6_data_11 ++ []
def dkwX6_data_10 : List UInt8 := [21, 10, 184, 0, 175, 46, 104, 96, 54, 9, 132, 10, 1, 167, 255, 216, 42, 27, 28, 29, 21, 4, 21, 5]
abbrev dktX6_data_10 : List UInt8 := dkwX6_data_10 ++ dktX6_data_11
def dkwX6_data_9 : List UInt8 := [180, 0, 13, 21, 8, 46, 162, 0, 34, 21, 9, 21, 10, 4, 96, 42, 180, 0, 28, 29, 21, 4, 21, 5]
abbrev dktX6_data_9 : List UInt8 := dkwX6_data_9 ++ dktX6_data_10
def dkwX6_data_8 : List UInt8 := [167, 0, 4, 3, 182, 0, 183, 153, 0, 5, 3, 172, 8, 28, 104, 54, 9, 3, 54, 10, 21, 10, 42]
abbrev dktX6_data_8 : List UInt8 := dkwX6_data_8 ++ dktX6_data_9
def dkwX6_data_7 : List UInt8 := [167, 0, 26, 21, 7, 154, 0, 7, 5, 167, 0, 17, 42, 180, 0, 186, 16, 40, 160, 0, 7, 6]
abbrev dktX6_data_7 : List UInt8 := dkwX6_data_7 ++ dktX6_data_8
def dkwX6_data_6 : List UInt8 := [160, 0, 7, 4, 167, 0, 4, 3, 54, 7, 132, 9, 1, 167, 255, 131, 42, 21, 6, 154, 0, 7, 4]
abbrev dktX6_data_6 : List UInt8 := dkwX6_data_6 ++ dktX6_data_7
def dkwX6_data_5 : List UInt8 := [46, 42, 180, 0, 16, 6, 21, 8, 104, 21, 9, 96, 46, 160, 0, 16, 167, 0, 9, 21, 10, 2]
abbrev dktX6_data_5 : List UInt8 := dkwX6_data_5 ++ dktX6_data_6
def dkwX6_data_4 : List UInt8 := [3, 54, 6, 21, 7, 153, 0, 48, 21, 11, 153, 0, 33, 21, 6, 153, 0, 38, 42, 180, 0, 19, 21, 10]
abbrev dktX6_data_4 : List UInt8 := dkwX6_data_4 ++ dktX6_data_5
def dkwX6_data_3 : List UInt8 := [21, 11, 153, 0, 18, 21, 10, 3, 42, 180, 0, 186, 4, 100, 184, 0, 171, 153, 0, 7, 4, 167, 0, 4]
abbrev dktX6_data_3 : List UInt8 := dkwX6_data_3 ++ dktX6_data_4
def dkwX6_data_2 : List UInt8 := [184, 0, 175, 54, 10, 21, 9, 42, 180, 0, 13, 21, 8, 46, 162, 0, 7, 4, 167, 0, 4, 3, 54, 11]
abbrev dktX6_data_2 : List UInt8 := dkwX6_data_2 ++ dktX6_data_3
def dkwX6_data_1 : List UInt8 := [3, 54, 8, 3, 54, 9, 21, 9, 6, 162, 0, 125, 21, 6, 153, 0, 120, 29, 21, 4, 21, 5, 21, 9]
abbrev dktX6_data_1 : List UInt8 := dkwX6_data_1 ++ dktX6_data_2
def dkwX6_data_0 : List UInt8 := [42, 27, 28, 182, 0, 193, 54, 6, 4, 54, 7, 21, 6, 153, 0, 11, 7, 27, 104, 28, 96, 167, 0, 4]
abbrev dktX6_data_0 : List UInt8 := dkwX6_data_0 ++ dktX6_data_1
theorem dksX6_data_0 : cX6_data.data.toList.drop 0 = dktX6_data_0 := by decide +kernel
theorem dksX6_data_1 : cX6_data.data.toList.drop 24 = dktX6_data_1 := dk_seg dksX6_data_0 24 rfl rfl
theorem dksX6_data_2 : cX6_data.data.toList.drop 48 = dktX6_data_2 := dk_seg dksX6_data_1 24 rfl rfl
theorem dksX6_data_3 : cX6_data.data.toList.drop 72 = dktX6_data_3 := dk_seg dksX6_data_2 24 rfl rfl
theorem dksX6_data_4 : cX6_data.data.toList.drop 96 = dktX6_data_4 := dk_seg dksX6_data_3 24 rfl rfl
theorem dksX6_data_5 : cX6_data.data.toList.drop 120 = dktX6_data_5 := dk_seg dksX6_data_4 24 rfl rfl
theorem dksX6_data_6 : cX6_data.data.toList.drop 142 = dktX6_data_6 := dk_seg dksX6_data_5 22 rfl rfl
theorem dksX6_data_7 : cX6_data.data.toList.drop 165 = dktX6_data_7 := dk_seg dksX6_data_6 23 rfl rfl
theorem dksX6_data_8 : cX6_data.data.toList.drop 187 = dktX6_data_8 := dk_seg dksX6_data_7 22 rfl rfl
theorem dksX6_data_9 : cX6_data.data.toList.drop 210 = dktX6_data_9 := dk_seg dksX6_data_8 23 rfl rfl
theorem dksX6_data_10 : cX6_data.data.toList.drop 234 = dktX6_data_10 := dk_seg dksX6_data_9 24 rfl rfl
theorem dksX6_data_11 : cX6_data.data.toList.drop 258 = dktX6_data_11 := dk_seg dksX6_data_10 24 rfl rfl
theorem dX6_data_0 : decode cX6_data 0 = .ok (.aload_n 0, 1) := dk_42 (dk_at dksX6_data_0 0 rfl rfl)
theorem dX6_data_1 : decode cX6_data 1 = .ok (.iload_n 1, 1) := dk_27 (dk_at dksX6_data_0 1 rfl rfl)
theorem dX6_data_2 : decode cX6_data 2 = .ok (.iload_n 2, 1) := dk_28 (dk_at dksX6_data_0 2 rfl rfl)
theorem dX6_data_3 : decode cX6_data 3 = .ok (.invokevirtual 193, 3) := dk_182 0 193 (dk_at dksX6_data_0 3 rfl rfl)
theorem dX6_data_6 : decode cX6_data 6 = .ok (.istore 6, 2) := dk_54 6 (dk_at dksX6_data_0 6 rfl rfl)
theorem dX6_data_8 : decode cX6_data 8 = .ok (.iconst 1, 1) := dk_4 (dk_at dksX6_data_0 8 rfl rfl)
theorem dX6_data_9 : decode cX6_data 9 = .ok (.istore 7, 2) := dk_54 7 (dk_at dksX6_data_0 9 rfl rfl)
theorem dX6_data_11 : decode cX6_data 11 = .ok (.iload 6, 2) := dk_21 6 (dk_at dksX6_data_0 11 rfl rfl)
theorem dX6_data_13 : decode cX6_data 13 = .ok (.ifCond .eq 11, 3) := dk_153 0 11 (dk_at dksX6_data_0 13 rfl rfl)
theorem dX6_data_16 : decode cX6_data 16 = .ok (.iconst 4, 1) := dk_7 (dk_at dksX6_data_0 16 rfl rfl)
theorem dX6_data_17 : decode cX6_data 17 = .ok (.iload_n 1, 1) := dk_27 (dk_at dksX6_data_0 17 rfl rfl)
theorem dX6_data_18 : decode cX6_data 18 = .ok (.imul, 1) := dk_104 (dk_at dksX6_data_0 18 rfl rfl)
theorem dX6_data_19 : decode cX6_data 19 = .ok (.iload_n 2, 1) := dk_28 (dk_at dksX6_data_0 19 rfl rfl)
theorem dX6_data_20 : decode cX6_data 20 = .ok (.iadd, 1) := dk_96 (dk_at dksX6_data_0 20 rfl rfl)
theorem dX6_data_21 : decode cX6_data 21 = .ok (.goto 4, 3) := dk_167 0 4 (dk_at dksX6_data_0 21 rfl rfl)
theorem dX6_data_24 : decode cX6_data 24 = .ok (.iconst 0, 1) := dk_3 (dk_at dksX6_data_1 0 rfl rfl)
theorem dX6_data_25 : decode cX6_data 25 = .ok (.istore 8, 2) := dk_54 8 (dk_at dksX6_data_1 1 rfl rfl)
theorem dX6_data_27 : decode cX6_data 27 = .ok (.iconst 0, 1) := dk_3 (dk_at dksX6_data_1 3 rfl rfl)
theorem dX6_data_28 : decode cX6_data 28 = .ok (.istore 9, 2) := dk_54 9 (dk_at dksX6_data_1 4 rfl rfl)
theorem dX6_data_30 : decode cX6_data 30 = .ok (.iload 9, 2) := dk_21 9 (dk_at dksX6_data_1 6 rfl rfl)
theorem dX6_data_32 : decode cX6_data 32 = .ok (.iconst 3, 1) := dk_6 (dk_at dksX6_data_1 8 rfl rfl)
theorem dX6_data_33 : decode cX6_data 33 = .ok (.if_icmp .ge 125, 3) := dk_162 0 125 (dk_at dksX6_data_1 9 rfl rfl)
theorem dX6_data_36 : decode cX6_data 36 = .ok (.iload 6, 2) := dk_21 6 (dk_at dksX6_data_1 12 rfl rfl)
theorem dX6_data_38 : decode cX6_data 38 = .ok (.ifCond .eq 120, 3) := dk_153 0 120 (dk_at dksX6_data_1 14 rfl rfl)
theorem dX6_data_41 : decode cX6_data 41 = .ok (.iload_n 3, 1) := dk_29 (dk_at dksX6_data_1 17 rfl rfl)
theorem dX6_data_42 : decode cX6_data 42 = .ok (.iload 4, 2) := dk_21 4 (dk_at dksX6_data_1 18 rfl rfl)
theorem dX6_data_44 : decode cX6_data 44 = .ok (.iload 5, 2) := dk_21 5 (dk_at dksX6_data_1 20 rfl rfl)
theorem dX6_data_46 : decode cX6_data 46 = .ok (.iload 9, 2) := dk_21 9 (dk_at dksX6_data_1 22 rfl rfl)
theorem dX6_data_48 : decode cX6_data 48 = .ok (.invokestatic 175, 3) := dk_184 0 175 (dk_at dksX6_data_2 0 rfl rfl)
theorem dX6_data_51 : decode cX6_data 51 = .ok (.istore 10, 2) := dk_54 10 (dk_at dksX6_data_2 3 rfl rfl)
theorem dX6_data_53 : decode cX6_data 53 = .ok (.iload 9, 2) := dk_21 9 (dk_at dksX6_data_2 5 rfl rfl)
theorem dX6_data_55 : decode cX6_data 55 = .ok (.aload_n 0, 1) := dk_42 (dk_at dksX6_data_2 7 rfl rfl)
theorem dX6_data_56 : decode cX6_data 56 = .ok (.getfield 13, 3) := dk_180 0 13 (dk_at dksX6_data_2 8 rfl rfl)
theorem dX6_data_59 : decode cX6_data 59 = .ok (.iload 8, 2) := dk_21 8 (dk_at dksX6_data_2 11 rfl rfl)
theorem dX6_data_61 : decode cX6_data 61 = .ok (.iaload, 1) := dk_46 (dk_at dksX6_data_2 13 rfl rfl)
theorem dX6_data_62 : decode cX6_data 62 = .ok (.if_icmp .ge 7, 3) := dk_162 0 7 (dk_at dksX6_data_2 14 rfl rfl)
theorem dX6_data_65 : decode cX6_data 65 = .ok (.iconst 1, 1) := dk_4 (dk_at dksX6_data_2 17 rfl rfl)
theorem dX6_data_66 : decode cX6_data 66 = .ok (.goto 4, 3) := dk_167 0 4 (dk_at dksX6_data_2 18 rfl rfl)
theorem dX6_data_69 : decode cX6_data 69 = .ok (.iconst 0, 1) := dk_3 (dk_at dksX6_data_2 21 rfl rfl)
theorem dX6_data_70 : decode cX6_data 70 = .ok (.istore 11, 2) := dk_54 11 (dk_at dksX6_data_2 22 rfl rfl)
theorem dX6_data_72 : decode cX6_data 72 = .ok (.iload 11, 2) := dk_21 11 (dk_at dksX6_data_3 0 rfl rfl)
theorem dX6_data_74 : decode cX6_data 74 = .ok (.ifCond .eq 18, 3) := dk_153 0 18 (dk_at dksX6_data_3 2 rfl rfl)
theorem dX6_data_77 : decode cX6_data 77 = .ok (.iload 10, 2) := dk_21 10 (dk_at dksX6_data_3 5 rfl rfl)
theorem dX6_data_79 : decode cX6_data 79 = .ok (.iconst 0, 1) := dk_3 (dk_at dksX6_data_3 7 rfl rfl)
theorem dX6_data_80 : decode cX6_data 80 = .ok (.aload_n 0, 1) := dk_42 (dk_at dksX6_data_3 8 rfl rfl)
theorem dX6_data_81 : decode cX6_data 81 = .ok (.getfield 186, 3) := dk_180 0 186 (dk_at dksX6_data_3 9 rfl rfl)
theorem dX6_data_84 : decode cX6_data 84 = .ok (.iconst 1, 1) := dk_4 (dk_at dksX6_data_3 12 rfl rfl)
theorem dX6_data_85 : decode cX6_data 85 = .ok (.isub, 1) := dk_100 (dk_at dksX6_data_3 13 rfl rfl)
theorem dX6_data_86 : decode cX6_data 86 = .ok (.invokestatic 171, 3) := dk_184 0 171 (dk_at dksX6_data_3 14 rfl rfl)
theorem dX6_data_89 : decode cX6_data 89 = .ok (.ifCond .eq 7, 3) := dk_153 0 7 (dk_at dksX6_data_3 17 rfl rfl)
theorem dX6_data_92 : decode cX6_data 92 = .ok (.iconst 1, 1) := dk_4 (dk_at dksX6_data_3 20 rfl rfl)
theorem dX6_data_93 : decode cX6_data 93 = .ok (.goto 4, 3) := dk_167 0 4 (dk_at dksX6_data_3 21 rfl rfl)
theorem dX6_data_96 : decode cX6_data 96 = .ok (.iconst 0, 1) := dk_3 (dk_at dksX6_data_4 0 rfl rfl)
theorem dX6_data_97 : decode cX6_data 97 = .ok (.istore 6, 2) := dk_54 6 (dk_at dksX6_data_4 1 rfl rfl)
theorem dX6_data_99 : decode cX6_data 99 = .ok (.iload 7, 2) := dk_21 7 (dk_at dksX6_data_4 3 rfl rfl)
theorem dX6_data_101 : decode cX6_data 101 = .ok (.ifCond .eq 48, 3) := dk_153 0 48 (dk_at dksX6_data_4 5 rfl rfl)
theorem dX6_data_104 : decode cX6_data 104 = .ok (.iload 11, 2) := dk_21 11 (dk_at dksX6_data_4 8 rfl rfl)
theorem dX6_data_106 : decode cX6_data 106 = .ok (.ifCond .eq 33, 3) := dk_153 0 33 (dk_at dksX6_data_4 10 rfl rfl)
theorem dX6_data_109 : decode cX6_data 109 = .ok (.iload 6, 2) := dk_21 6 (dk_at dksX6_data_4 13 rfl rfl)
theorem dX6_data_111 : decode cX6_data 111 = .ok (.ifCond .eq 38, 3) := dk_153 0 38 (dk_at dksX6_data_4 15 rfl rfl)
theorem dX6_data_114 : decode cX6_data 114 = .ok (.aload_n 0, 1) := dk_42 (dk_at dksX6_data_4 18 rfl rfl)
theorem dX6_data_115 : decode cX6_data 115 = .ok (.getfield 19, 3) := dk_180 0 19 (dk_at dksX6_data_4 19 rfl rfl)
theorem dX6_data_118 : decode cX6_data 118 = .ok (.iload 10, 2) := dk_21 10 (dk_at dksX6_data_4 22 rfl rfl)
theorem dX6_data_120 : decode cX6_data 120 = .ok (.iaload, 1) := dk_46 (dk_at dksX6_data_5 0 rfl rfl)
theorem dX6_data_121 : decode cX6_data 121 = .ok (.aload_n 0, 1) := dk_42 (dk_at dksX6_data_5 1 rfl rfl)
theorem dX6_data_122 : decode cX6_data 122 = .ok (.getfield 16, 3) := dk_180 0 16 (dk_at dksX6_data_5 2 rfl rfl)
theorem dX6_data_125 : decode cX6_data 125 = .ok (.iconst 3, 1) := dk_6 (dk_at dksX6_data_5 5 rfl rfl)
theorem dX6_data_126 : decode cX6_data 126 = .ok (.iload 8, 2) := dk_21 8 (dk_at dksX6_data_5 6 rfl rfl)
theorem dX6_data_128 : decode cX6_data 128 = .ok (.imul, 1) := dk_104 (dk_at dksX6_data_5 8 rfl rfl)
theorem dX6_data_129 : decode cX6_data 129 = .ok (.iload 9, 2) := dk_21 9 (dk_at dksX6_data_5 9 rfl rfl)
theorem dX6_data_131 : decode cX6_data 131 = .ok (.iadd, 1) := dk_96 (dk_at dksX6_data_5 11 rfl rfl)
theorem dX6_data_132 : decode cX6_data 132 = .ok (.iaload, 1) := dk_46 (dk_at dksX6_data_5 12 rfl rfl)
theorem dX6_data_133 : decode cX6_data 133 = .ok (.if_icmp .ne 16, 3) := dk_160 0 16 (dk_at dksX6_data_5 13 rfl rfl)
theorem dX6_data_136 : decode cX6_data 136 = .ok (.goto 9, 3) := dk_167 0 9 (dk_at dksX6_data_5 16 rfl rfl)
theorem dX6_data_139 : decode cX6_data 139 = .ok (.iload 10, 2) := dk_21 10 (dk_at dksX6_data_5 19 rfl rfl)
theorem dX6_data_141 : decode cX6_data 141 = .ok (.iconst (-1), 1) := dk_2 (dk_at dksX6_data_5 21 rfl rfl)
theorem dX6_data_142 : decode cX6_data 142 = .ok (.if_icmp .ne 7, 3) := dk_160 0 7 (dk_at dksX6_data_6 0 rfl rfl)
theorem dX6_data_145 : decode cX6_data 145 = .ok (.iconst 1, 1) := dk_4 (dk_at dksX6_data_6 3 rfl rfl)
theorem dX6_data_146 : decode cX6_data 146 = .ok (.goto 4, 3) := dk_167 0 4 (dk_at dksX6_data_6 4 rfl rfl)
theorem dX6_data_149 : decode cX6_data 149 = .ok (.iconst 0, 1) := dk_3 (dk_at dksX6_data_6 7 rfl rfl)
theorem dX6_data_150 : decode cX6_data 150 = .ok (.istore 7, 2) := dk_54 7 (dk_at dksX6_data_6 8 rfl rfl)
theorem dX6_data_152 : decode cX6_data 152 = .ok (.iinc 9 1, 3) := dk_132 9 1 (dk_at dksX6_data_6 10 rfl rfl)
theorem dX6_data_155 : decode cX6_data 155 = .ok (.goto (-125), 3) := dk_167 255 131 (dk_at dksX6_data_6 13 rfl rfl)
theorem dX6_data_158 : decode cX6_data 158 = .ok (.aload_n 0, 1) := dk_42 (dk_at dksX6_data_6 16 rfl rfl)
theorem dX6_data_159 : decode cX6_data 159 = .ok (.iload 6, 2) := dk_21 6 (dk_at dksX6_data_6 17 rfl rfl)
theorem dX6_data_161 : decode cX6_data 161 = .ok (.ifCond .ne 7, 3) := dk_154 0 7 (dk_at dksX6_data_6 19 rfl rfl)
theorem dX6_data_164 : decode cX6_data 164 = .ok (.iconst 1, 1) := dk_4 (dk_at dksX6_data_6 22 rfl rfl)
theorem dX6_data_165 : decode cX6_data 165 = .ok (.goto 26, 3) := dk_167 0 26 (dk_at dksX6_data_7 0 rfl rfl)
theorem dX6_data_168 : decode cX6_data 168 = .ok (.iload 7, 2) := dk_21 7 (dk_at dksX6_data_7 3 rfl rfl)
theorem dX6_data_170 : decode cX6_data 170 = .ok (.ifCond .ne 7, 3) := dk_154 0 7 (dk_at dksX6_data_7 5 rfl rfl)
theorem dX6_data_173 : decode cX6_data 173 = .ok (.iconst 2, 1) := dk_5 (dk_at dksX6_data_7 8 rfl rfl)
theorem dX6_data_174 : decode cX6_data 174 = .ok (.goto 17, 3) := dk_167 0 17 (dk_at dksX6_data_7 9 rfl rfl)
theorem dX6_data_177 : decode cX6_data 177 = .ok (.aload_n 0, 1) := dk_42 (dk_at dksX6_data_7 12 rfl rfl)
theorem dX6_data_178 : decode cX6_data 178 = .ok (.getfield 186, 3) := dk_180 0 186 (dk_at dksX6_data_7 13 rfl rfl)
theorem dX6_data_181 : decode cX6_data 181 = .ok (.bipush 40, 2) := dk_16 40 (dk_at dksX6_data_7 16 rfl rfl)
theorem dX6_data_183 : decode cX6_data 183 = .ok (.if_icmp .ne 7, 3) := dk_160 0 7 (dk_at dksX6_data_7 18 rfl rfl)
theorem dX6_data_186 : decode cX6_data 186 = .ok (.iconst 3, 1) := dk_6 (dk_at dksX6_data_7 21 rfl rfl)
theorem dX6_data_187 : decode cX6_data 187 = .ok (.goto 4, 3) := dk_167 0 4 (dk_at dksX6_data_8 0 rfl rfl)
theorem dX6_data_190 : decode cX6_data 190 = .ok (.iconst 0, 1) := dk_3 (dk_at dksX6_data_8 3 rfl rfl)
theorem dX6_data_191 : decode cX6_data 191 = .ok (.invokevirtual 183, 3) := dk_182 0 183 (dk_at dksX6_data_8 4 rfl rfl)
theorem dX6_data_194 : decode cX6_data 194 = .ok (.ifCond .eq 5, 3) := dk_153 0 5 (dk_at dksX6_data_8 7 rfl rfl)
theorem dX6_data_197 : decode cX6_data 197 = .ok (.iconst 0, 1) := dk_3 (dk_at dksX6_data_8 10 rfl rfl)
theorem dX6_data_198 : decode cX6_data 198 = .ok (.ireturn, 1) := dk_172 (dk_at dksX6_data_8 11 rfl rfl)
theorem dX6_data_199 : decode cX6_data 199 = .ok (.iconst 5, 1) := dk_8 (dk_at dksX6_data_8 12 rfl rfl)
theorem dX6_data_200 : decode cX6_data 200 = .ok (.iload_n 2, 1) := dk_28 (dk_at dksX6_data_8 13 rfl rfl)
theorem dX6_data_201 : decode cX6_data 201 = .ok (.imul, 1) := dk_104 (dk_at dksX6_data_8 14 rfl rfl)
theorem dX6_data_202 : decode cX6_data 202 = .ok (.istore 9, 2) := dk_54 9 (dk_at dksX6_data_8 15 rfl rfl)
theorem dX6_data_204 : decode cX6_data 204 = .ok (.iconst 0, 1) := dk_3 (dk_at dksX6_data_8 17 rfl rfl)
theorem dX6_data_205 : decode cX6_data 205 = .ok (.istore 10, 2) := dk_54 10 (dk_at dksX6_data_8 18 rfl rfl)
theorem dX6_data_207 : decode cX6_data 207 = .ok (.iload 10, 2) := dk_21 10 (dk_at dksX6_data_8 20 rfl rfl)
theorem dX6_data_209 : decode cX6_data 209 = .ok (.aload_n 0, 1) := dk_42 (dk_at dksX6_data_8 22 rfl rfl)
theorem dX6_data_210 : decode cX6_data 210 = .ok (.getfield 13, 3) := dk_180 0 13 (dk_at dksX6_data_9 0 rfl rfl)
theorem dX6_data_213 : decode cX6_data 213 = .ok (.iload 8, 2) := dk_21 8 (dk_at dksX6_data_9 3 rfl rfl)
theorem dX6_data_215 : decode cX6_data 215 = .ok (.iaload, 1) := dk_46 (dk_at dksX6_data_9 5 rfl rfl)
theorem dX6_data_216 : decode cX6_data 216 = .ok (.if_icmp .ge 34, 3) := dk_162 0 34 (dk_at dksX6_data_9 6 rfl rfl)
theorem dX6_data_219 : decode cX6_data 219 = .ok (.iload 9, 2) := dk_21 9 (dk_at dksX6_data_9 9 rfl rfl)
theorem dX6_data_221 : decode cX6_data 221 = .ok (.iload 10, 2) := dk_21 10 (dk_at dksX6_data_9 11 rfl rfl)
theorem dX6_data_223 : decode cX6_data 223 = .ok (.iconst 1, 1) := dk_4 (dk_at dksX6_data_9 13 rfl rfl)
theorem dX6_data_224 : decode cX6_data 224 = .ok (.iadd, 1) := dk_96 (dk_at dksX6_data_9 14 rfl rfl)
theorem dX6_data_225 : decode cX6_data 225 = .ok (.aload_n 0, 1) := dk_42 (dk_at dksX6_data_9 15 rfl rfl)
theorem dX6_data_226 : decode cX6_data 226 = .ok (.getfield 28, 3) := dk_180 0 28 (dk_at dksX6_data_9 16 rfl rfl)
theorem dX6_data_229 : decode cX6_data 229 = .ok (.iload_n 3, 1) := dk_29 (dk_at dksX6_data_9 19 rfl rfl)
theorem dX6_data_230 : decode cX6_data 230 = .ok (.iload 4, 2) := dk_21 4 (dk_at dksX6_data_9 20 rfl rfl)
theorem dX6_data_232 : decode cX6_data 232 = .ok (.iload 5, 2) := dk_21 5 (dk_at dksX6_data_9 22 rfl rfl)
theorem dX6_data_234 : decode cX6_data 234 = .ok (.iload 10, 2) := dk_21 10 (dk_at dksX6_data_10 0 rfl rfl)
theorem dX6_data_236 : decode cX6_data 236 = .ok (.invokestatic 175, 3) := dk_184 0 175 (dk_at dksX6_data_10 2 rfl rfl)
theorem dX6_data_239 : decode cX6_data 239 = .ok (.iaload, 1) := dk_46 (dk_at dksX6_data_10 5 rfl rfl)
theorem dX6_data_240 : decode cX6_data 240 = .ok (.imul, 1) := dk_104 (dk_at dksX6_data_10 6 rfl rfl)
theorem dX6_data_241 : decode cX6_data 241 = .ok (.iadd, 1) := dk_96 (dk_at dksX6_data_10 7 rfl rfl)
theorem dX6_data_242 : decode cX6_data 242 = .ok (.istore 9, 2) := dk_54 9 (dk_at dksX6_data_10 8 rfl rfl)
theorem dX6_data_244 : decode cX6_data 244 = .ok (.iinc 10 1, 3) := dk_132 10 1 (dk_at dksX6_data_10 10 rfl rfl)
theorem dX6_data_247 : decode cX6_data 247 = .ok (.goto (-40), 3) := dk_167 255 216 (dk_at dksX6_data_10 13 rfl rfl)
theorem dX6_data_250 : decode cX6_data 250 = .ok (.aload_n 0, 1) := dk_42 (dk_at dksX6_data_10 16 rfl rfl)
theorem dX6_data_251 : decode cX6_data 251 = .ok (.iload_n 1, 1) := dk_27 (dk_at dksX6_data_10 17 rfl rfl)
theorem dX6_data_252 : decode cX6_data 252 = .ok (.iload_n 2, 1) := dk_28 (dk_at dksX6_data_10 18 rfl rfl)
theorem dX6_data_253 : decode cX6_data 253 = .ok (.iload_n 3, 1) := dk_29 (dk_at dksX6_data_10 19 rfl rfl)
theorem dX6_data_254 : decode cX6_data 254 = .ok (.iload 4, 2) := dk_21 4 (dk_at dksX6_data_10 20 rfl rfl)
theorem dX6_data_256 : decode cX6_data 256 = .ok (.iload 5, 2) := dk_21 5 (dk_at dksX6_data_10 22 rfl rfl)
theorem dX6_data_258 : decode cX6_data 258 = .ok (.iload 9, 2) := dk_21 9 (dk_at dksX6_data_11 0 rfl rfl)
theorem dX6_data_260 : decode cX6_data 260 = .ok (.invokevirtual 189, 3) := dk_182 0 189 (dk_at dksX6_data_11 2 rfl rfl)
theorem dX6_data_263 : decode cX6_data 263 = .ok (.ireturn, 1) := dk_172 (dk_at dksX6_data_11 5 rfl rfl)
abbrev cX6_isConstructor : ByteArray := prog_23_method_11_code
def yX6_isConstructor : MethodName := ⟨RX6, "isConstructor", "(II)Z"⟩
def dkwX6_isConstructor_1 : List UInt8 := [153, 0, 7, 4, 167, 0, 4, 3, 172]
abbrev dktX6_isConstructor_1 : List UInt8 := dkwX6_isConstructor_1 ++ []
def dkwX6_isConstructor_0 : List UInt8 := [27, 3, 6, 184, 0, 171, 153, 0, 23, 28, 3, 42, 180, 0, 7, 27, 46, 4, 100, 184, 0, 171]
abbrev dktX6_isConstructor_0 : List UInt8 := dkwX6_isConstructor_0 ++ dktX6_isConstructor_1
theorem dksX6_isConstructor_0 : cX6_isConstructor.data.toList.drop 0 = dktX6_isConstructor_0 := by decide +kernel
theorem dksX6_isConstructor_1 : cX6_isConstructor.data.toList.drop 22 = dktX6_isConstructor_1 := dk_seg dksX6_isConstructor_0 22 rfl rfl
theorem dX6_isConstructor_0 : decode cX6_isConstructor 0 = .ok (.iload_n 1, 1) := dk_27 (dk_at dksX6_isConstructor_0 0 rfl rfl)
theorem dX6_isConstructor_1 : decode cX6_isConstructor 1 = .ok (.iconst 0, 1) := dk_3 (dk_at dksX6_isConstructor_0 1 rfl rfl)
theorem dX6_isConstructor_2 : decode cX6_isConstructor 2 = .ok (.iconst 3, 1) := dk_6 (dk_at dksX6_isConstructor_0 2 rfl rfl)
theorem dX6_isConstructor_3 : decode cX6_isConstructor 3 = .ok (.invokestatic 171, 3) := dk_184 0 171 (dk_at dksX6_isConstructor_0 3 rfl rfl)
theorem dX6_isConstructor_6 : decode cX6_isConstructor 6 = .ok (.ifCond .eq 23, 3) := dk_153 0 23 (dk_at dksX6_isConstructor_0 6 rfl rfl)
theorem dX6_isConstructor_9 : decode cX6_isConstructor 9 = .ok (.iload_n 2, 1) := dk_28 (dk_at dksX6_isConstructor_0 9 rfl rfl)
theorem dX6_isConstructor_10 : decode cX6_isConstructor 10 = .ok (.iconst 0, 1) := dk_3 (dk_at dksX6_isConstructor_0 10 rfl rfl)
theorem dX6_isConstructor_11 : decode cX6_isConstructor 11 = .ok (.aload_n 0, 1) := dk_42 (dk_at dksX6_isConstructor_0 11 rfl rfl)
theorem dX6_isConstructor_12 : decode cX6_isConstructor 12 = .ok (.getfield 7, 3) := dk_180 0 7 (dk_at dksX6_isConstructor_0 12 rfl rfl)
theorem dX6_isConstructor_15 : decode cX6_isConstructor 15 = .ok (.iload_n 1, 1) := dk_27 (dk_at dksX6_isConstructor_0 15 rfl rfl)
theorem dX6_isConstructor_16 : decode cX6_isConstructor 16 = .ok (.iaload, 1) := dk_46 (dk_at dksX6_isConstructor_0 16 rfl rfl)
theorem dX6_isConstructor_17 : decode cX6_isConstructor 17 = .ok (.iconst 1, 1) := dk_4 (dk_at dksX6_isConstructor_0 17 rfl rfl)
theorem dX6_isConstructor_18 : decode cX6_isConstructor 18 = .ok (.isub, 1) := dk_100 (dk_at dksX6_isConstructor_0 18 rfl rfl)
theorem dX6_isConstructor_19 : decode cX6_isConstructor 19 = .ok (.invokestatic 171, 3) := dk_184 0 171 (dk_at dksX6_isConstructor_0 19 rfl rfl)
theorem dX6_isConstructor_22 : decode cX6_isConstructor 22 = .ok (.ifCond .eq 7, 3) := dk_153 0 7 (dk_at dksX6_isConstructor_1 0 rfl rfl)
theorem dX6_isConstructor_25 : decode cX6_isConstructor 25 = .ok (.iconst 1, 1) := dk_4 (dk_at dksX6_isConstructor_1 3 rfl rfl)
theorem dX6_isConstructor_26 : decode cX6_isConstructor 26 = .ok (.goto 4, 3) := dk_167 0 4 (dk_at dksX6_isConstructor_1 4 rfl rfl)
theorem dX6_isConstructor_29 : decode cX6_isConstructor 29 = .ok (.iconst 0, 1) := dk_3 (dk_at dksX6_isConstructor_1 7 rfl rfl)
theorem dX6_isConstructor_30 : decode cX6_isConstructor 30 = .ok (.ireturn, 1) := dk_172 (dk_at dksX6_isConstructor_1 8 rfl rfl)
abbrev cX6_any : ByteArray := prog_23_method_19_code
def yX6_any : MethodName := ⟨RX6, "any", "()I"⟩
def dkwX6_any_1 : List UInt8 := [3, 3, 3, 2, 2, 2, 2, 182, 0, 208, 172]
abbrev dktX6_any_1 : List UInt8 := dkwX6_any_1 ++ []
def dkwX6_any_0 : List UInt8 := [42, 42, 182, 0, 204, 153, 0, 7, 4, 167, 0, 4, 3, 182, 0, 183, 153, 0, 7, 3, 167, 0, 14, 42]
abbrev dktX6_any_0 : List UInt8 := dkwX6_any_0 ++ dktX6_any_1
theorem dksX6_any_0 : cX6_any.data.toList.drop 0 = dktX6_any_0 := by decide +kernel
theorem dksX6_any_1 : cX6_any.data.toList.drop 24 = dktX6_any_1 := dk_seg dksX6_any_0 24 rfl rfl
theorem dX6_any_0 : decode cX6_any 0 = .ok (.aload_n 0, 1) := dk_42 (dk_at dksX6_any_0 0 rfl rfl)
theorem dX6_any_1 : decode cX6_any 1 = .ok (.aload_n 0, 1) := dk_42 (dk_at dksX6_any_0 1 rfl rfl)
theorem dX6_any_2 : decode cX6_any 2 = .ok (.invokevirtual 204, 3) := dk_182 0 204 (dk_at dksX6_any_0 2 rfl rfl)
theorem dX6_any_5 : decode cX6_any 5 = .ok (.ifCond .eq 7, 3) := dk_153 0 7 (dk_at dksX6_any_0 5 rfl rfl)
theorem dX6_any_8 : decode cX6_any 8 = .ok (.iconst 1, 1) := dk_4 (dk_at dksX6_any_0 8 rfl rfl)
theorem dX6_any_9 : decode cX6_any 9 = .ok (.goto 4, 3) := dk_167 0 4 (dk_at dksX6_any_0 9 rfl rfl)
theorem dX6_any_12 : decode cX6_any 12 = .ok (.iconst 0, 1) := dk_3 (dk_at dksX6_any_0 12 rfl rfl)
theorem dX6_any_13 : decode cX6_any 13 = .ok (.invokevirtual 183, 3) := dk_182 0 183 (dk_at dksX6_any_0 13 rfl rfl)
theorem dX6_any_16 : decode cX6_any 16 = .ok (.ifCond .eq 7, 3) := dk_153 0 7 (dk_at dksX6_any_0 16 rfl rfl)
theorem dX6_any_19 : decode cX6_any 19 = .ok (.iconst 0, 1) := dk_3 (dk_at dksX6_any_0 19 rfl rfl)
theorem dX6_any_20 : decode cX6_any 20 = .ok (.goto 14, 3) := dk_167 0 14 (dk_at dksX6_any_0 20 rfl rfl)
theorem dX6_any_23 : decode cX6_any 23 = .ok (.aload_n 0, 1) := dk_42 (dk_at dksX6_any_0 23 rfl rfl)
theorem dX6_any_24 : decode cX6_any 24 = .ok (.iconst 0, 1) := dk_3 (dk_at dksX6_any_1 0 rfl rfl)
theorem dX6_any_25 : decode cX6_any 25 = .ok (.iconst 0, 1) := dk_3 (dk_at dksX6_any_1 1 rfl rfl)
theorem dX6_any_26 : decode cX6_any 26 = .ok (.iconst 0, 1) := dk_3 (dk_at dksX6_any_1 2 rfl rfl)
theorem dX6_any_27 : decode cX6_any 27 = .ok (.iconst (-1), 1) := dk_2 (dk_at dksX6_any_1 3 rfl rfl)
theorem dX6_any_28 : decode cX6_any 28 = .ok (.iconst (-1), 1) := dk_2 (dk_at dksX6_any_1 4 rfl rfl)
theorem dX6_any_29 : decode cX6_any 29 = .ok (.iconst (-1), 1) := dk_2 (dk_at dksX6_any_1 5 rfl rfl)
theorem dX6_any_30 : decode cX6_any 30 = .ok (.iconst (-1), 1) := dk_2 (dk_at dksX6_any_1 6 rfl rfl)
theorem dX6_any_31 : decode cX6_any 31 = .ok (.invokevirtual 208, 3) := dk_182 0 208 (dk_at dksX6_any_1 7 rfl rfl)
theorem dX6_any_34 : decode cX6_any 34 = .ok (.ireturn, 1) := dk_172 (dk_at dksX6_any_1 10 rfl rfl)
abbrev cX6_isFull : ByteArray := prog_23_method_18_code
def yX6_isFull : MethodName := ⟨RX6, "isFull", "()Z"⟩
def dkwX6_isFull_0 : List UInt8 := [42, 180, 0, 197, 16, 60, 160, 0, 7, 4, 167, 0, 4, 3, 172]
abbrev dktX6_isFull_0 : List UInt8 := dkwX6_isFull_0 ++ []
theorem dksX6_isFull_0 : cX6_isFull.data.toList.drop 0 = dktX6_isFull_0 := by decide +kernel
theorem dX6_isFull_0 : decode cX6_isFull 0 = .ok (.aload_n 0, 1) := dk_42 (dk_at dksX6_isFull_0 0 rfl rfl)
theorem dX6_isFull_1 : decode cX6_isFull 1 = .ok (.getfield 197, 3) := dk_180 0 197 (dk_at dksX6_isFull_0 1 rfl rfl)
theorem dX6_isFull_4 : decode cX6_isFull 4 = .ok (.bipush 60, 2) := dk_16 60 (dk_at dksX6_isFull_0 4 rfl rfl)
theorem dX6_isFull_6 : decode cX6_isFull 6 = .ok (.if_icmp .ne 7, 3) := dk_160 0 7 (dk_at dksX6_isFull_0 6 rfl rfl)
theorem dX6_isFull_9 : decode cX6_isFull 9 = .ok (.iconst 1, 1) := dk_4 (dk_at dksX6_isFull_0 9 rfl rfl)
theorem dX6_isFull_10 : decode cX6_isFull 10 = .ok (.goto 4, 3) := dk_167 0 4 (dk_at dksX6_isFull_0 10 rfl rfl)
theorem dX6_isFull_13 : decode cX6_isFull 13 = .ok (.iconst 0, 1) := dk_3 (dk_at dksX6_isFull_0 13 rfl rfl)
theorem dX6_isFull_14 : decode cX6_isFull 14 = .ok (.ireturn, 1) := dk_172 (dk_at dksX6_isFull_0 14 rfl rfl)
abbrev cX6_pattern : ByteArray := prog_23_method_15_code
def yX6_pattern : MethodName := ⟨RX6, "pattern", "(IIIIIII)I"⟩
def dkwX6_pattern_15 : List UInt8 := [89, 180, 0, 197, 4, 96, 181, 0, 197, 21, 8, 172]
abbrev dktX6_pattern_15 : List UInt8 := dkwX6_pattern_15 ++ []
def dkwX6_pattern_14 : List UInt8 := [167, 0, 4, 4, 96, 79, 42, 180, 0, 49, 21, 8, 42, 21, 4, 21, 5, 21, 6, 182, 0, 200, 79, 42]
abbrev dktX6_pattern_14 : List UInt8 := dkwX6_pattern_14 ++ dktX6_pattern_15
def dkwX6_pattern_13 : List UInt8 := [160, 0, 7, 4, 167, 0, 4, 3, 54, 9, 42, 180, 0, 46, 21, 8, 92, 46, 21, 9, 153, 0, 7, 3]
abbrev dktX6_pattern_13 : List UInt8 := dkwX6_pattern_13 ++ dktX6_pattern_14
def dkwX6_pattern_12 : List UInt8 := [21, 8, 46, 79, 132, 9, 1, 167, 255, 92, 27, 4, 159, 0, 13, 27, 7, 159, 0, 8, 27, 8]
abbrev dktX6_pattern_12 : List UInt8 := dkwX6_pattern_12 ++ dktX6_pattern_13
def dkwX6_pattern_11 : List UInt8 := [180, 0, 46, 21, 8, 46, 164, 0, 13, 42, 180, 0, 46, 21, 10, 46, 167, 0, 10, 42, 180, 0, 46]
abbrev dktX6_pattern_11 : List UInt8 := dkwX6_pattern_11 ++ dktX6_pattern_12
def dkwX6_pattern_10 : List UInt8 := [153, 0, 7, 4, 167, 0, 4, 3, 84, 42, 180, 0, 46, 21, 8, 42, 180, 0, 46, 21, 10, 46, 42]
abbrev dktX6_pattern_10 : List UInt8 := dkwX6_pattern_10 ++ dktX6_pattern_11
def dkwX6_pattern_9 : List UInt8 := [180, 0, 59, 21, 8, 42, 180, 0, 59, 21, 8, 51, 153, 0, 17, 42, 180, 0, 59, 21, 10, 51]
abbrev dktX6_pattern_9 : List UInt8 := dkwX6_pattern_9 ++ dktX6_pattern_10
def dkwX6_pattern_8 : List UInt8 := [21, 8, 51, 154, 0, 13, 42, 180, 0, 55, 21, 10, 51, 153, 0, 7, 4, 167, 0, 4, 3, 84, 42]
abbrev dktX6_pattern_8 : List UInt8 := dkwX6_pattern_8 ++ dktX6_pattern_9
def dkwX6_pattern_7 : List UInt8 := [21, 8, 92, 46, 42, 180, 0, 52, 21, 10, 46, 128, 79, 42, 180, 0, 55, 21, 8, 42, 180, 0, 55]
abbrev dktX6_pattern_7 : List UInt8 := dkwX6_pattern_7 ++ dktX6_pattern_8
def dkwX6_pattern_6 : List UInt8 := [180, 0, 40, 6, 21, 8, 104, 21, 9, 96, 21, 10, 79, 21, 10, 2, 159, 0, 125, 42, 180, 0, 52]
abbrev dktX6_pattern_6 : List UInt8 := dkwX6_pattern_6 ++ dktX6_pattern_7
def dkwX6_pattern_5 : List UInt8 := [54, 9, 21, 9, 6, 162, 0, 164, 21, 4, 21, 5, 21, 6, 21, 9, 184, 0, 175, 54, 10, 42]
abbrev dktX6_pattern_5 : List UInt8 := dkwX6_pattern_5 ++ dktX6_pattern_6
def dkwX6_pattern_4 : List UInt8 := [159, 0, 13, 27, 16, 6, 159, 0, 7, 4, 167, 0, 4, 3, 84, 42, 180, 0, 46, 21, 8, 3, 79, 3]
abbrev dktX6_pattern_4 : List UInt8 := dkwX6_pattern_4 ++ dktX6_pattern_5
def dkwX6_pattern_3 : List UInt8 := [167, 0, 4, 3, 84, 42, 180, 0, 59, 21, 8, 27, 4, 159, 0, 23, 27, 8, 159, 0, 18, 27, 6]
abbrev dktX6_pattern_3 : List UInt8 := dkwX6_pattern_3 ++ dktX6_pattern_4
def dkwX6_pattern_2 : List UInt8 := [160, 0, 9, 4, 28, 120, 167, 0, 4, 3, 79, 42, 180, 0, 55, 21, 8, 27, 8, 160, 0, 7, 4]
abbrev dktX6_pattern_2 : List UInt8 := dkwX6_pattern_2 ++ dktX6_pattern_3
def dkwX6_pattern_1 : List UInt8 := [180, 0, 37, 21, 8, 29, 79, 42, 180, 0, 43, 21, 8, 21, 7, 79, 42, 180, 0, 52, 21, 8, 27, 4]
abbrev dktX6_pattern_1 : List UInt8 := dkwX6_pattern_1 ++ dktX6_pattern_2
def dkwX6_pattern_0 : List UInt8 := [42, 180, 0, 197, 54, 8, 42, 180, 0, 31, 21, 8, 27, 79, 42, 180, 0, 34, 21, 8, 28, 79, 42]
abbrev dktX6_pattern_0 : List UInt8 := dkwX6_pattern_0 ++ dktX6_pattern_1
theorem dksX6_pattern_0 : cX6_pattern.data.toList.drop 0 = dktX6_pattern_0 := by decide +kernel
theorem dksX6_pattern_1 : cX6_pattern.data.toList.drop 23 = dktX6_pattern_1 := dk_seg dksX6_pattern_0 23 rfl rfl
theorem dksX6_pattern_2 : cX6_pattern.data.toList.drop 47 = dktX6_pattern_2 := dk_seg dksX6_pattern_1 24 rfl rfl
theorem dksX6_pattern_3 : cX6_pattern.data.toList.drop 70 = dktX6_pattern_3 := dk_seg dksX6_pattern_2 23 rfl rfl
theorem dksX6_pattern_4 : cX6_pattern.data.toList.drop 93 = dktX6_pattern_4 := dk_seg dksX6_pattern_3 23 rfl rfl
theorem dksX6_pattern_5 : cX6_pattern.data.toList.drop 117 = dktX6_pattern_5 := dk_seg dksX6_pattern_4 24 rfl rfl
theorem dksX6_pattern_6 : cX6_pattern.data.toList.drop 139 = dktX6_pattern_6 := dk_seg dksX6_pattern_5 22 rfl rfl
theorem dksX6_pattern_7 : cX6_pattern.data.toList.drop 162 = dktX6_pattern_7 := dk_seg dksX6_pattern_6 23 rfl rfl
theorem dksX6_pattern_8 : cX6_pattern.data.toList.drop 185 = dktX6_pattern_8 := dk_seg dksX6_pattern_7 23 rfl rfl
theorem dksX6_pattern_9 : cX6_pattern.data.toList.drop 208 = dktX6_pattern_9 := dk_seg dksX6_pattern_8 23 rfl rfl
theorem dksX6_pattern_10 : cX6_pattern.data.toList.drop 230 = dktX6_pattern_10 := dk_seg dksX6_pattern_9 22 rfl rfl
theorem dksX6_pattern_11 : cX6_pattern.data.toList.drop 253 = dktX6_pattern_11 := dk_seg dksX6_pattern_10 23 rfl rfl
theorem dksX6_pattern_12 : cX6_pattern.data.toList.drop 276 = dktX6_pattern_12 := dk_seg dksX6_pattern_11 23 rfl rfl
theorem dksX6_pattern_13 : cX6_pattern.data.toList.drop 298 = dktX6_pattern_13 := dk_seg dksX6_pattern_12 22 rfl rfl
theorem dksX6_pattern_14 : cX6_pattern.data.toList.drop 322 = dktX6_pattern_14 := dk_seg dksX6_pattern_13 24 rfl rfl
theorem dksX6_pattern_15 : cX6_pattern.data.toList.drop 346 = dktX6_pattern_15 := dk_seg dksX6_pattern_14 24 rfl rfl
theorem dX6_pattern_0 : decode cX6_pattern 0 = .ok (.aload_n 0, 1) := dk_42 (dk_at dksX6_pattern_0 0 rfl rfl)
theorem dX6_pattern_1 : decode cX6_pattern 1 = .ok (.getfield 197, 3) := dk_180 0 197 (dk_at dksX6_pattern_0 1 rfl rfl)
theorem dX6_pattern_4 : decode cX6_pattern 4 = .ok (.istore 8, 2) := dk_54 8 (dk_at dksX6_pattern_0 4 rfl rfl)
theorem dX6_pattern_6 : decode cX6_pattern 6 = .ok (.aload_n 0, 1) := dk_42 (dk_at dksX6_pattern_0 6 rfl rfl)
theorem dX6_pattern_7 : decode cX6_pattern 7 = .ok (.getfield 31, 3) := dk_180 0 31 (dk_at dksX6_pattern_0 7 rfl rfl)
theorem dX6_pattern_10 : decode cX6_pattern 10 = .ok (.iload 8, 2) := dk_21 8 (dk_at dksX6_pattern_0 10 rfl rfl)
theorem dX6_pattern_12 : decode cX6_pattern 12 = .ok (.iload_n 1, 1) := dk_27 (dk_at dksX6_pattern_0 12 rfl rfl)
theorem dX6_pattern_13 : decode cX6_pattern 13 = .ok (.iastore, 1) := dk_79 (dk_at dksX6_pattern_0 13 rfl rfl)
theorem dX6_pattern_14 : decode cX6_pattern 14 = .ok (.aload_n 0, 1) := dk_42 (dk_at dksX6_pattern_0 14 rfl rfl)
theorem dX6_pattern_15 : decode cX6_pattern 15 = .ok (.getfield 34, 3) := dk_180 0 34 (dk_at dksX6_pattern_0 15 rfl rfl)
theorem dX6_pattern_18 : decode cX6_pattern 18 = .ok (.iload 8, 2) := dk_21 8 (dk_at dksX6_pattern_0 18 rfl rfl)
theorem dX6_pattern_20 : decode cX6_pattern 20 = .ok (.iload_n 2, 1) := dk_28 (dk_at dksX6_pattern_0 20 rfl rfl)
theorem dX6_pattern_21 : decode cX6_pattern 21 = .ok (.iastore, 1) := dk_79 (dk_at dksX6_pattern_0 21 rfl rfl)
theorem dX6_pattern_22 : decode cX6_pattern 22 = .ok (.aload_n 0, 1) := dk_42 (dk_at dksX6_pattern_0 22 rfl rfl)
theorem dX6_pattern_23 : decode cX6_pattern 23 = .ok (.getfield 37, 3) := dk_180 0 37 (dk_at dksX6_pattern_1 0 rfl rfl)
theorem dX6_pattern_26 : decode cX6_pattern 26 = .ok (.iload 8, 2) := dk_21 8 (dk_at dksX6_pattern_1 3 rfl rfl)
theorem dX6_pattern_28 : decode cX6_pattern 28 = .ok (.iload_n 3, 1) := dk_29 (dk_at dksX6_pattern_1 5 rfl rfl)
theorem dX6_pattern_29 : decode cX6_pattern 29 = .ok (.iastore, 1) := dk_79 (dk_at dksX6_pattern_1 6 rfl rfl)
theorem dX6_pattern_30 : decode cX6_pattern 30 = .ok (.aload_n 0, 1) := dk_42 (dk_at dksX6_pattern_1 7 rfl rfl)
theorem dX6_pattern_31 : decode cX6_pattern 31 = .ok (.getfield 43, 3) := dk_180 0 43 (dk_at dksX6_pattern_1 8 rfl rfl)
theorem dX6_pattern_34 : decode cX6_pattern 34 = .ok (.iload 8, 2) := dk_21 8 (dk_at dksX6_pattern_1 11 rfl rfl)
theorem dX6_pattern_36 : decode cX6_pattern 36 = .ok (.iload 7, 2) := dk_21 7 (dk_at dksX6_pattern_1 13 rfl rfl)
theorem dX6_pattern_38 : decode cX6_pattern 38 = .ok (.iastore, 1) := dk_79 (dk_at dksX6_pattern_1 15 rfl rfl)
theorem dX6_pattern_39 : decode cX6_pattern 39 = .ok (.aload_n 0, 1) := dk_42 (dk_at dksX6_pattern_1 16 rfl rfl)
theorem dX6_pattern_40 : decode cX6_pattern 40 = .ok (.getfield 52, 3) := dk_180 0 52 (dk_at dksX6_pattern_1 17 rfl rfl)
theorem dX6_pattern_43 : decode cX6_pattern 43 = .ok (.iload 8, 2) := dk_21 8 (dk_at dksX6_pattern_1 20 rfl rfl)
theorem dX6_pattern_45 : decode cX6_pattern 45 = .ok (.iload_n 1, 1) := dk_27 (dk_at dksX6_pattern_1 22 rfl rfl)
theorem dX6_pattern_46 : decode cX6_pattern 46 = .ok (.iconst 1, 1) := dk_4 (dk_at dksX6_pattern_1 23 rfl rfl)
theorem dX6_pattern_47 : decode cX6_pattern 47 = .ok (.if_icmp .ne 9, 3) := dk_160 0 9 (dk_at dksX6_pattern_2 0 rfl rfl)
theorem dX6_pattern_50 : decode cX6_pattern 50 = .ok (.iconst 1, 1) := dk_4 (dk_at dksX6_pattern_2 3 rfl rfl)
theorem dX6_pattern_51 : decode cX6_pattern 51 = .ok (.iload_n 2, 1) := dk_28 (dk_at dksX6_pattern_2 4 rfl rfl)
theorem dX6_pattern_52 : decode cX6_pattern 52 = .ok (.ishl, 1) := dk_120 (dk_at dksX6_pattern_2 5 rfl rfl)
theorem dX6_pattern_53 : decode cX6_pattern 53 = .ok (.goto 4, 3) := dk_167 0 4 (dk_at dksX6_pattern_2 6 rfl rfl)
theorem dX6_pattern_56 : decode cX6_pattern 56 = .ok (.iconst 0, 1) := dk_3 (dk_at dksX6_pattern_2 9 rfl rfl)
theorem dX6_pattern_57 : decode cX6_pattern 57 = .ok (.iastore, 1) := dk_79 (dk_at dksX6_pattern_2 10 rfl rfl)
theorem dX6_pattern_58 : decode cX6_pattern 58 = .ok (.aload_n 0, 1) := dk_42 (dk_at dksX6_pattern_2 11 rfl rfl)
theorem dX6_pattern_59 : decode cX6_pattern 59 = .ok (.getfield 55, 3) := dk_180 0 55 (dk_at dksX6_pattern_2 12 rfl rfl)
theorem dX6_pattern_62 : decode cX6_pattern 62 = .ok (.iload 8, 2) := dk_21 8 (dk_at dksX6_pattern_2 15 rfl rfl)
theorem dX6_pattern_64 : decode cX6_pattern 64 = .ok (.iload_n 1, 1) := dk_27 (dk_at dksX6_pattern_2 17 rfl rfl)
theorem dX6_pattern_65 : decode cX6_pattern 65 = .ok (.iconst 5, 1) := dk_8 (dk_at dksX6_pattern_2 18 rfl rfl)
theorem dX6_pattern_66 : decode cX6_pattern 66 = .ok (.if_icmp .ne 7, 3) := dk_160 0 7 (dk_at dksX6_pattern_2 19 rfl rfl)
theorem dX6_pattern_69 : decode cX6_pattern 69 = .ok (.iconst 1, 1) := dk_4 (dk_at dksX6_pattern_2 22 rfl rfl)
theorem dX6_pattern_70 : decode cX6_pattern 70 = .ok (.goto 4, 3) := dk_167 0 4 (dk_at dksX6_pattern_3 0 rfl rfl)
theorem dX6_pattern_73 : decode cX6_pattern 73 = .ok (.iconst 0, 1) := dk_3 (dk_at dksX6_pattern_3 3 rfl rfl)
theorem dX6_pattern_74 : decode cX6_pattern 74 = .ok (.bastore, 1) := dk_84 (dk_at dksX6_pattern_3 4 rfl rfl)
theorem dX6_pattern_75 : decode cX6_pattern 75 = .ok (.aload_n 0, 1) := dk_42 (dk_at dksX6_pattern_3 5 rfl rfl)
theorem dX6_pattern_76 : decode cX6_pattern 76 = .ok (.getfield 59, 3) := dk_180 0 59 (dk_at dksX6_pattern_3 6 rfl rfl)
theorem dX6_pattern_79 : decode cX6_pattern 79 = .ok (.iload 8, 2) := dk_21 8 (dk_at dksX6_pattern_3 9 rfl rfl)
theorem dX6_pattern_81 : decode cX6_pattern 81 = .ok (.iload_n 1, 1) := dk_27 (dk_at dksX6_pattern_3 11 rfl rfl)
theorem dX6_pattern_82 : decode cX6_pattern 82 = .ok (.iconst 1, 1) := dk_4 (dk_at dksX6_pattern_3 12 rfl rfl)
theorem dX6_pattern_83 : decode cX6_pattern 83 = .ok (.if_icmp .eq 23, 3) := dk_159 0 23 (dk_at dksX6_pattern_3 13 rfl rfl)
theorem dX6_pattern_86 : decode cX6_pattern 86 = .ok (.iload_n 1, 1) := dk_27 (dk_at dksX6_pattern_3 16 rfl rfl)
theorem dX6_pattern_87 : decode cX6_pattern 87 = .ok (.iconst 5, 1) := dk_8 (dk_at dksX6_pattern_3 17 rfl rfl)
theorem dX6_pattern_88 : decode cX6_pattern 88 = .ok (.if_icmp .eq 18, 3) := dk_159 0 18 (dk_at dksX6_pattern_3 18 rfl rfl)
theorem dX6_pattern_91 : decode cX6_pattern 91 = .ok (.iload_n 1, 1) := dk_27 (dk_at dksX6_pattern_3 21 rfl rfl)
theorem dX6_pattern_92 : decode cX6_pattern 92 = .ok (.iconst 3, 1) := dk_6 (dk_at dksX6_pattern_3 22 rfl rfl)
theorem dX6_pattern_93 : decode cX6_pattern 93 = .ok (.if_icmp .eq 13, 3) := dk_159 0 13 (dk_at dksX6_pattern_4 0 rfl rfl)
theorem dX6_pattern_96 : decode cX6_pattern 96 = .ok (.iload_n 1, 1) := dk_27 (dk_at dksX6_pattern_4 3 rfl rfl)
theorem dX6_pattern_97 : decode cX6_pattern 97 = .ok (.bipush 6, 2) := dk_16 6 (dk_at dksX6_pattern_4 4 rfl rfl)
theorem dX6_pattern_99 : decode cX6_pattern 99 = .ok (.if_icmp .eq 7, 3) := dk_159 0 7 (dk_at dksX6_pattern_4 6 rfl rfl)
theorem dX6_pattern_102 : decode cX6_pattern 102 = .ok (.iconst 1, 1) := dk_4 (dk_at dksX6_pattern_4 9 rfl rfl)
theorem dX6_pattern_103 : decode cX6_pattern 103 = .ok (.goto 4, 3) := dk_167 0 4 (dk_at dksX6_pattern_4 10 rfl rfl)
theorem dX6_pattern_106 : decode cX6_pattern 106 = .ok (.iconst 0, 1) := dk_3 (dk_at dksX6_pattern_4 13 rfl rfl)
theorem dX6_pattern_107 : decode cX6_pattern 107 = .ok (.bastore, 1) := dk_84 (dk_at dksX6_pattern_4 14 rfl rfl)
theorem dX6_pattern_108 : decode cX6_pattern 108 = .ok (.aload_n 0, 1) := dk_42 (dk_at dksX6_pattern_4 15 rfl rfl)
theorem dX6_pattern_109 : decode cX6_pattern 109 = .ok (.getfield 46, 3) := dk_180 0 46 (dk_at dksX6_pattern_4 16 rfl rfl)
theorem dX6_pattern_112 : decode cX6_pattern 112 = .ok (.iload 8, 2) := dk_21 8 (dk_at dksX6_pattern_4 19 rfl rfl)
theorem dX6_pattern_114 : decode cX6_pattern 114 = .ok (.iconst 0, 1) := dk_3 (dk_at dksX6_pattern_4 21 rfl rfl)
theorem dX6_pattern_115 : decode cX6_pattern 115 = .ok (.iastore, 1) := dk_79 (dk_at dksX6_pattern_4 22 rfl rfl)
theorem dX6_pattern_116 : decode cX6_pattern 116 = .ok (.iconst 0, 1) := dk_3 (dk_at dksX6_pattern_4 23 rfl rfl)
theorem dX6_pattern_117 : decode cX6_pattern 117 = .ok (.istore 9, 2) := dk_54 9 (dk_at dksX6_pattern_5 0 rfl rfl)
theorem dX6_pattern_119 : decode cX6_pattern 119 = .ok (.iload 9, 2) := dk_21 9 (dk_at dksX6_pattern_5 2 rfl rfl)
theorem dX6_pattern_121 : decode cX6_pattern 121 = .ok (.iconst 3, 1) := dk_6 (dk_at dksX6_pattern_5 4 rfl rfl)
theorem dX6_pattern_122 : decode cX6_pattern 122 = .ok (.if_icmp .ge 164, 3) := dk_162 0 164 (dk_at dksX6_pattern_5 5 rfl rfl)
theorem dX6_pattern_125 : decode cX6_pattern 125 = .ok (.iload 4, 2) := dk_21 4 (dk_at dksX6_pattern_5 8 rfl rfl)
theorem dX6_pattern_127 : decode cX6_pattern 127 = .ok (.iload 5, 2) := dk_21 5 (dk_at dksX6_pattern_5 10 rfl rfl)
theorem dX6_pattern_129 : decode cX6_pattern 129 = .ok (.iload 6, 2) := dk_21 6 (dk_at dksX6_pattern_5 12 rfl rfl)
theorem dX6_pattern_131 : decode cX6_pattern 131 = .ok (.iload 9, 2) := dk_21 9 (dk_at dksX6_pattern_5 14 rfl rfl)
theorem dX6_pattern_133 : decode cX6_pattern 133 = .ok (.invokestatic 175, 3) := dk_184 0 175 (dk_at dksX6_pattern_5 16 rfl rfl)
theorem dX6_pattern_136 : decode cX6_pattern 136 = .ok (.istore 10, 2) := dk_54 10 (dk_at dksX6_pattern_5 19 rfl rfl)
theorem dX6_pattern_138 : decode cX6_pattern 138 = .ok (.aload_n 0, 1) := dk_42 (dk_at dksX6_pattern_5 21 rfl rfl)
theorem dX6_pattern_139 : decode cX6_pattern 139 = .ok (.getfield 40, 3) := dk_180 0 40 (dk_at dksX6_pattern_6 0 rfl rfl)
theorem dX6_pattern_142 : decode cX6_pattern 142 = .ok (.iconst 3, 1) := dk_6 (dk_at dksX6_pattern_6 3 rfl rfl)
theorem dX6_pattern_143 : decode cX6_pattern 143 = .ok (.iload 8, 2) := dk_21 8 (dk_at dksX6_pattern_6 4 rfl rfl)
theorem dX6_pattern_145 : decode cX6_pattern 145 = .ok (.imul, 1) := dk_104 (dk_at dksX6_pattern_6 6 rfl rfl)
theorem dX6_pattern_146 : decode cX6_pattern 146 = .ok (.iload 9, 2) := dk_21 9 (dk_at dksX6_pattern_6 7 rfl rfl)
theorem dX6_pattern_148 : decode cX6_pattern 148 = .ok (.iadd, 1) := dk_96 (dk_at dksX6_pattern_6 9 rfl rfl)
theorem dX6_pattern_149 : decode cX6_pattern 149 = .ok (.iload 10, 2) := dk_21 10 (dk_at dksX6_pattern_6 10 rfl rfl)
theorem dX6_pattern_151 : decode cX6_pattern 151 = .ok (.iastore, 1) := dk_79 (dk_at dksX6_pattern_6 12 rfl rfl)
theorem dX6_pattern_152 : decode cX6_pattern 152 = .ok (.iload 10, 2) := dk_21 10 (dk_at dksX6_pattern_6 13 rfl rfl)
theorem dX6_pattern_154 : decode cX6_pattern 154 = .ok (.iconst (-1), 1) := dk_2 (dk_at dksX6_pattern_6 15 rfl rfl)
theorem dX6_pattern_155 : decode cX6_pattern 155 = .ok (.if_icmp .eq 125, 3) := dk_159 0 125 (dk_at dksX6_pattern_6 16 rfl rfl)
theorem dX6_pattern_158 : decode cX6_pattern 158 = .ok (.aload_n 0, 1) := dk_42 (dk_at dksX6_pattern_6 19 rfl rfl)
theorem dX6_pattern_159 : decode cX6_pattern 159 = .ok (.getfield 52, 3) := dk_180 0 52 (dk_at dksX6_pattern_6 20 rfl rfl)
theorem dX6_pattern_162 : decode cX6_pattern 162 = .ok (.iload 8, 2) := dk_21 8 (dk_at dksX6_pattern_7 0 rfl rfl)
theorem dX6_pattern_164 : decode cX6_pattern 164 = .ok (.dup2, 1) := dk_92 (dk_at dksX6_pattern_7 2 rfl rfl)
theorem dX6_pattern_165 : decode cX6_pattern 165 = .ok (.iaload, 1) := dk_46 (dk_at dksX6_pattern_7 3 rfl rfl)
theorem dX6_pattern_166 : decode cX6_pattern 166 = .ok (.aload_n 0, 1) := dk_42 (dk_at dksX6_pattern_7 4 rfl rfl)
theorem dX6_pattern_167 : decode cX6_pattern 167 = .ok (.getfield 52, 3) := dk_180 0 52 (dk_at dksX6_pattern_7 5 rfl rfl)
theorem dX6_pattern_170 : decode cX6_pattern 170 = .ok (.iload 10, 2) := dk_21 10 (dk_at dksX6_pattern_7 8 rfl rfl)
theorem dX6_pattern_172 : decode cX6_pattern 172 = .ok (.iaload, 1) := dk_46 (dk_at dksX6_pattern_7 10 rfl rfl)
theorem dX6_pattern_173 : decode cX6_pattern 173 = .ok (.ior, 1) := dk_128 (dk_at dksX6_pattern_7 11 rfl rfl)
theorem dX6_pattern_174 : decode cX6_pattern 174 = .ok (.iastore, 1) := dk_79 (dk_at dksX6_pattern_7 12 rfl rfl)
theorem dX6_pattern_175 : decode cX6_pattern 175 = .ok (.aload_n 0, 1) := dk_42 (dk_at dksX6_pattern_7 13 rfl rfl)
theorem dX6_pattern_176 : decode cX6_pattern 176 = .ok (.getfield 55, 3) := dk_180 0 55 (dk_at dksX6_pattern_7 14 rfl rfl)
theorem dX6_pattern_179 : decode cX6_pattern 179 = .ok (.iload 8, 2) := dk_21 8 (dk_at dksX6_pattern_7 17 rfl rfl)
theorem dX6_pattern_181 : decode cX6_pattern 181 = .ok (.aload_n 0, 1) := dk_42 (dk_at dksX6_pattern_7 19 rfl rfl)
theorem dX6_pattern_182 : decode cX6_pattern 182 = .ok (.getfield 55, 3) := dk_180 0 55 (dk_at dksX6_pattern_7 20 rfl rfl)
theorem dX6_pattern_185 : decode cX6_pattern 185 = .ok (.iload 8, 2) := dk_21 8 (dk_at dksX6_pattern_8 0 rfl rfl)
theorem dX6_pattern_187 : decode cX6_pattern 187 = .ok (.baload, 1) := dk_51 (dk_at dksX6_pattern_8 2 rfl rfl)
theorem dX6_pattern_188 : decode cX6_pattern 188 = .ok (.ifCond .ne 13, 3) := dk_154 0 13 (dk_at dksX6_pattern_8 3 rfl rfl)
theorem dX6_pattern_191 : decode cX6_pattern 191 = .ok (.aload_n 0, 1) := dk_42 (dk_at dksX6_pattern_8 6 rfl rfl)
theorem dX6_pattern_192 : decode cX6_pattern 192 = .ok (.getfield 55, 3) := dk_180 0 55 (dk_at dksX6_pattern_8 7 rfl rfl)
theorem dX6_pattern_195 : decode cX6_pattern 195 = .ok (.iload 10, 2) := dk_21 10 (dk_at dksX6_pattern_8 10 rfl rfl)
theorem dX6_pattern_197 : decode cX6_pattern 197 = .ok (.baload, 1) := dk_51 (dk_at dksX6_pattern_8 12 rfl rfl)
theorem dX6_pattern_198 : decode cX6_pattern 198 = .ok (.ifCond .eq 7, 3) := dk_153 0 7 (dk_at dksX6_pattern_8 13 rfl rfl)
theorem dX6_pattern_201 : decode cX6_pattern 201 = .ok (.iconst 1, 1) := dk_4 (dk_at dksX6_pattern_8 16 rfl rfl)
theorem dX6_pattern_202 : decode cX6_pattern 202 = .ok (.goto 4, 3) := dk_167 0 4 (dk_at dksX6_pattern_8 17 rfl rfl)
theorem dX6_pattern_205 : decode cX6_pattern 205 = .ok (.iconst 0, 1) := dk_3 (dk_at dksX6_pattern_8 20 rfl rfl)
theorem dX6_pattern_206 : decode cX6_pattern 206 = .ok (.bastore, 1) := dk_84 (dk_at dksX6_pattern_8 21 rfl rfl)
theorem dX6_pattern_207 : decode cX6_pattern 207 = .ok (.aload_n 0, 1) := dk_42 (dk_at dksX6_pattern_8 22 rfl rfl)
theorem dX6_pattern_208 : decode cX6_pattern 208 = .ok (.getfield 59, 3) := dk_180 0 59 (dk_at dksX6_pattern_9 0 rfl rfl)
theorem dX6_pattern_211 : decode cX6_pattern 211 = .ok (.iload 8, 2) := dk_21 8 (dk_at dksX6_pattern_9 3 rfl rfl)
theorem dX6_pattern_213 : decode cX6_pattern 213 = .ok (.aload_n 0, 1) := dk_42 (dk_at dksX6_pattern_9 5 rfl rfl)
theorem dX6_pattern_214 : decode cX6_pattern 214 = .ok (.getfield 59, 3) := dk_180 0 59 (dk_at dksX6_pattern_9 6 rfl rfl)
theorem dX6_pattern_217 : decode cX6_pattern 217 = .ok (.iload 8, 2) := dk_21 8 (dk_at dksX6_pattern_9 9 rfl rfl)
theorem dX6_pattern_219 : decode cX6_pattern 219 = .ok (.baload, 1) := dk_51 (dk_at dksX6_pattern_9 11 rfl rfl)
theorem dX6_pattern_220 : decode cX6_pattern 220 = .ok (.ifCond .eq 17, 3) := dk_153 0 17 (dk_at dksX6_pattern_9 12 rfl rfl)
theorem dX6_pattern_223 : decode cX6_pattern 223 = .ok (.aload_n 0, 1) := dk_42 (dk_at dksX6_pattern_9 15 rfl rfl)
theorem dX6_pattern_224 : decode cX6_pattern 224 = .ok (.getfield 59, 3) := dk_180 0 59 (dk_at dksX6_pattern_9 16 rfl rfl)
theorem dX6_pattern_227 : decode cX6_pattern 227 = .ok (.iload 10, 2) := dk_21 10 (dk_at dksX6_pattern_9 19 rfl rfl)
theorem dX6_pattern_229 : decode cX6_pattern 229 = .ok (.baload, 1) := dk_51 (dk_at dksX6_pattern_9 21 rfl rfl)
theorem dX6_pattern_230 : decode cX6_pattern 230 = .ok (.ifCond .eq 7, 3) := dk_153 0 7 (dk_at dksX6_pattern_10 0 rfl rfl)
theorem dX6_pattern_233 : decode cX6_pattern 233 = .ok (.iconst 1, 1) := dk_4 (dk_at dksX6_pattern_10 3 rfl rfl)
theorem dX6_pattern_234 : decode cX6_pattern 234 = .ok (.goto 4, 3) := dk_167 0 4 (dk_at dksX6_pattern_10 4 rfl rfl)
theorem dX6_pattern_237 : decode cX6_pattern 237 = .ok (.iconst 0, 1) := dk_3 (dk_at dksX6_pattern_10 7 rfl rfl)
theorem dX6_pattern_238 : decode cX6_pattern 238 = .ok (.bastore, 1) := dk_84 (dk_at dksX6_pattern_10 8 rfl rfl)
theorem dX6_pattern_239 : decode cX6_pattern 239 = .ok (.aload_n 0, 1) := dk_42 (dk_at dksX6_pattern_10 9 rfl rfl)
theorem dX6_pattern_240 : decode cX6_pattern 240 = .ok (.getfield 46, 3) := dk_180 0 46 (dk_at dksX6_pattern_10 10 rfl rfl)
theorem dX6_pattern_243 : decode cX6_pattern 243 = .ok (.iload 8, 2) := dk_21 8 (dk_at dksX6_pattern_10 13 rfl rfl)
theorem dX6_pattern_245 : decode cX6_pattern 245 = .ok (.aload_n 0, 1) := dk_42 (dk_at dksX6_pattern_10 15 rfl rfl)
theorem dX6_pattern_246 : decode cX6_pattern 246 = .ok (.getfield 46, 3) := dk_180 0 46 (dk_at dksX6_pattern_10 16 rfl rfl)
theorem dX6_pattern_249 : decode cX6_pattern 249 = .ok (.iload 10, 2) := dk_21 10 (dk_at dksX6_pattern_10 19 rfl rfl)
theorem dX6_pattern_251 : decode cX6_pattern 251 = .ok (.iaload, 1) := dk_46 (dk_at dksX6_pattern_10 21 rfl rfl)
theorem dX6_pattern_252 : decode cX6_pattern 252 = .ok (.aload_n 0, 1) := dk_42 (dk_at dksX6_pattern_10 22 rfl rfl)
theorem dX6_pattern_253 : decode cX6_pattern 253 = .ok (.getfield 46, 3) := dk_180 0 46 (dk_at dksX6_pattern_11 0 rfl rfl)
theorem dX6_pattern_256 : decode cX6_pattern 256 = .ok (.iload 8, 2) := dk_21 8 (dk_at dksX6_pattern_11 3 rfl rfl)
theorem dX6_pattern_258 : decode cX6_pattern 258 = .ok (.iaload, 1) := dk_46 (dk_at dksX6_pattern_11 5 rfl rfl)
theorem dX6_pattern_259 : decode cX6_pattern 259 = .ok (.if_icmp .le 13, 3) := dk_164 0 13 (dk_at dksX6_pattern_11 6 rfl rfl)
theorem dX6_pattern_262 : decode cX6_pattern 262 = .ok (.aload_n 0, 1) := dk_42 (dk_at dksX6_pattern_11 9 rfl rfl)
theorem dX6_pattern_263 : decode cX6_pattern 263 = .ok (.getfield 46, 3) := dk_180 0 46 (dk_at dksX6_pattern_11 10 rfl rfl)
theorem dX6_pattern_266 : decode cX6_pattern 266 = .ok (.iload 10, 2) := dk_21 10 (dk_at dksX6_pattern_11 13 rfl rfl)
theorem dX6_pattern_268 : decode cX6_pattern 268 = .ok (.iaload, 1) := dk_46 (dk_at dksX6_pattern_11 15 rfl rfl)
theorem dX6_pattern_269 : decode cX6_pattern 269 = .ok (.goto 10, 3) := dk_167 0 10 (dk_at dksX6_pattern_11 16 rfl rfl)
theorem dX6_pattern_272 : decode cX6_pattern 272 = .ok (.aload_n 0, 1) := dk_42 (dk_at dksX6_pattern_11 19 rfl rfl)
theorem dX6_pattern_273 : decode cX6_pattern 273 = .ok (.getfield 46, 3) := dk_180 0 46 (dk_at dksX6_pattern_11 20 rfl rfl)
theorem dX6_pattern_276 : decode cX6_pattern 276 = .ok (.iload 8, 2) := dk_21 8 (dk_at dksX6_pattern_12 0 rfl rfl)
theorem dX6_pattern_278 : decode cX6_pattern 278 = .ok (.iaload, 1) := dk_46 (dk_at dksX6_pattern_12 2 rfl rfl)
theorem dX6_pattern_279 : decode cX6_pattern 279 = .ok (.iastore, 1) := dk_79 (dk_at dksX6_pattern_12 3 rfl rfl)
theorem dX6_pattern_280 : decode cX6_pattern 280 = .ok (.iinc 9 1, 3) := dk_132 9 1 (dk_at dksX6_pattern_12 4 rfl rfl)
theorem dX6_pattern_283 : decode cX6_pattern 283 = .ok (.goto (-164), 3) := dk_167 255 92 (dk_at dksX6_pattern_12 7 rfl rfl)
theorem dX6_pattern_286 : decode cX6_pattern 286 = .ok (.iload_n 1, 1) := dk_27 (dk_at dksX6_pattern_12 10 rfl rfl)
theorem dX6_pattern_287 : decode cX6_pattern 287 = .ok (.iconst 1, 1) := dk_4 (dk_at dksX6_pattern_12 11 rfl rfl)
theorem dX6_pattern_288 : decode cX6_pattern 288 = .ok (.if_icmp .eq 13, 3) := dk_159 0 13 (dk_at dksX6_pattern_12 12 rfl rfl)
theorem dX6_pattern_291 : decode cX6_pattern 291 = .ok (.iload_n 1, 1) := dk_27 (dk_at dksX6_pattern_12 15 rfl rfl)
theorem dX6_pattern_292 : decode cX6_pattern 292 = .ok (.iconst 4, 1) := dk_7 (dk_at dksX6_pattern_12 16 rfl rfl)
theorem dX6_pattern_293 : decode cX6_pattern 293 = .ok (.if_icmp .eq 8, 3) := dk_159 0 8 (dk_at dksX6_pattern_12 17 rfl rfl)
theorem dX6_pattern_296 : decode cX6_pattern 296 = .ok (.iload_n 1, 1) := dk_27 (dk_at dksX6_pattern_12 20 rfl rfl)
theorem dX6_pattern_297 : decode cX6_pattern 297 = .ok (.iconst 5, 1) := dk_8 (dk_at dksX6_pattern_12 21 rfl rfl)
theorem dX6_pattern_298 : decode cX6_pattern 298 = .ok (.if_icmp .ne 7, 3) := dk_160 0 7 (dk_at dksX6_pattern_13 0 rfl rfl)
theorem dX6_pattern_301 : decode cX6_pattern 301 = .ok (.iconst 1, 1) := dk_4 (dk_at dksX6_pattern_13 3 rfl rfl)
theorem dX6_pattern_302 : decode cX6_pattern 302 = .ok (.goto 4, 3) := dk_167 0 4 (dk_at dksX6_pattern_13 4 rfl rfl)
theorem dX6_pattern_305 : decode cX6_pattern 305 = .ok (.iconst 0, 1) := dk_3 (dk_at dksX6_pattern_13 7 rfl rfl)
theorem dX6_pattern_306 : decode cX6_pattern 306 = .ok (.istore 9, 2) := dk_54 9 (dk_at dksX6_pattern_13 8 rfl rfl)
theorem dX6_pattern_308 : decode cX6_pattern 308 = .ok (.aload_n 0, 1) := dk_42 (dk_at dksX6_pattern_13 10 rfl rfl)
theorem dX6_pattern_309 : decode cX6_pattern 309 = .ok (.getfield 46, 3) := dk_180 0 46 (dk_at dksX6_pattern_13 11 rfl rfl)
theorem dX6_pattern_312 : decode cX6_pattern 312 = .ok (.iload 8, 2) := dk_21 8 (dk_at dksX6_pattern_13 14 rfl rfl)
theorem dX6_pattern_314 : decode cX6_pattern 314 = .ok (.dup2, 1) := dk_92 (dk_at dksX6_pattern_13 16 rfl rfl)
theorem dX6_pattern_315 : decode cX6_pattern 315 = .ok (.iaload, 1) := dk_46 (dk_at dksX6_pattern_13 17 rfl rfl)
theorem dX6_pattern_316 : decode cX6_pattern 316 = .ok (.iload 9, 2) := dk_21 9 (dk_at dksX6_pattern_13 18 rfl rfl)
theorem dX6_pattern_318 : decode cX6_pattern 318 = .ok (.ifCond .eq 7, 3) := dk_153 0 7 (dk_at dksX6_pattern_13 20 rfl rfl)
theorem dX6_pattern_321 : decode cX6_pattern 321 = .ok (.iconst 0, 1) := dk_3 (dk_at dksX6_pattern_13 23 rfl rfl)
theorem dX6_pattern_322 : decode cX6_pattern 322 = .ok (.goto 4, 3) := dk_167 0 4 (dk_at dksX6_pattern_14 0 rfl rfl)
theorem dX6_pattern_325 : decode cX6_pattern 325 = .ok (.iconst 1, 1) := dk_4 (dk_at dksX6_pattern_14 3 rfl rfl)
theorem dX6_pattern_326 : decode cX6_pattern 326 = .ok (.iadd, 1) := dk_96 (dk_at dksX6_pattern_14 4 rfl rfl)
theorem dX6_pattern_327 : decode cX6_pattern 327 = .ok (.iastore, 1) := dk_79 (dk_at dksX6_pattern_14 5 rfl rfl)
theorem dX6_pattern_328 : decode cX6_pattern 328 = .ok (.aload_n 0, 1) := dk_42 (dk_at dksX6_pattern_14 6 rfl rfl)
theorem dX6_pattern_329 : decode cX6_pattern 329 = .ok (.getfield 49, 3) := dk_180 0 49 (dk_at dksX6_pattern_14 7 rfl rfl)
theorem dX6_pattern_332 : decode cX6_pattern 332 = .ok (.iload 8, 2) := dk_21 8 (dk_at dksX6_pattern_14 10 rfl rfl)
theorem dX6_pattern_334 : decode cX6_pattern 334 = .ok (.aload_n 0, 1) := dk_42 (dk_at dksX6_pattern_14 12 rfl rfl)
theorem dX6_pattern_335 : decode cX6_pattern 335 = .ok (.iload 4, 2) := dk_21 4 (dk_at dksX6_pattern_14 13 rfl rfl)
theorem dX6_pattern_337 : decode cX6_pattern 337 = .ok (.iload 5, 2) := dk_21 5 (dk_at dksX6_pattern_14 15 rfl rfl)
theorem dX6_pattern_339 : decode cX6_pattern 339 = .ok (.iload 6, 2) := dk_21 6 (dk_at dksX6_pattern_14 17 rfl rfl)
theorem dX6_pattern_341 : decode cX6_pattern 341 = .ok (.invokevirtual 200, 3) := dk_182 0 200 (dk_at dksX6_pattern_14 19 rfl rfl)
theorem dX6_pattern_344 : decode cX6_pattern 344 = .ok (.iastore, 1) := dk_79 (dk_at dksX6_pattern_14 22 rfl rfl)
theorem dX6_pattern_345 : decode cX6_pattern 345 = .ok (.aload_n 0, 1) := dk_42 (dk_at dksX6_pattern_14 23 rfl rfl)
theorem dX6_pattern_346 : decode cX6_pattern 346 = .ok (.dup, 1) := dk_89 (dk_at dksX6_pattern_15 0 rfl rfl)
theorem dX6_pattern_347 : decode cX6_pattern 347 = .ok (.getfield 197, 3) := dk_180 0 197 (dk_at dksX6_pattern_15 1 rfl rfl)
theorem dX6_pattern_350 : decode cX6_pattern 350 = .ok (.iconst 1, 1) := dk_4 (dk_at dksX6_pattern_15 4 rfl rfl)
theorem dX6_pattern_351 : decode cX6_pattern 351 = .ok (.iadd, 1) := dk_96 (dk_at dksX6_pattern_15 5 rfl rfl)
theorem dX6_pattern_352 : decode cX6_pattern 352 = .ok (.putfield 197, 3) := dk_181 0 197 (dk_at dksX6_pattern_15 6 rfl rfl)
theorem dX6_pattern_355 : decode cX6_pattern 355 = .ok (.iload 8, 2) := dk_21 8 (dk_at dksX6_pattern_15 9 rfl rfl)
theorem dX6_pattern_357 : decode cX6_pattern 357 = .ok (.ireturn, 1) := dk_172 (dk_at dksX6_pattern_15 11 rfl rfl)
abbrev cX6_sizeOf : ByteArray := prog_23_method_16_code
def yX6_sizeOf : MethodName := ⟨RX6, "sizeOf", "(III)I"⟩
def dkwX6_sizeOf_2 : List UInt8 := [46, 96, 172]
abbrev dktX6_sizeOf_2 : List UInt8 := dkwX6_sizeOf_2 ++ []
def dkwX6_sizeOf_1 : List UInt8 := [167, 0, 9, 42, 180, 0, 49, 28, 46, 96, 29, 2, 160, 0, 7, 3, 167, 0, 9, 42, 180, 0, 49, 29]
abbrev dktX6_sizeOf_1 : List UInt8 := dkwX6_sizeOf_1 ++ dktX6_sizeOf_2
def dkwX6_sizeOf_0 : List UInt8 := [4, 27, 2, 160, 0, 7, 3, 167, 0, 9, 42, 180, 0, 49, 27, 46, 96, 28, 2, 160, 0, 7, 3]
abbrev dktX6_sizeOf_0 : List UInt8 := dkwX6_sizeOf_0 ++ dktX6_sizeOf_1
theorem dksX6_sizeOf_0 : cX6_sizeOf.data.toList.drop 0 = dktX6_sizeOf_0 := by decide +kernel
theorem dksX6_sizeOf_1 : cX6_sizeOf.data.toList.drop 23 = dktX6_sizeOf_1 := dk_seg dksX6_sizeOf_0 23 rfl rfl
theorem dksX6_sizeOf_2 : cX6_sizeOf.data.toList.drop 47 = dktX6_sizeOf_2 := dk_seg dksX6_sizeOf_1 24 rfl rfl
theorem dX6_sizeOf_0 : decode cX6_sizeOf 0 = .ok (.iconst 1, 1) := dk_4 (dk_at dksX6_sizeOf_0 0 rfl rfl)
theorem dX6_sizeOf_1 : decode cX6_sizeOf 1 = .ok (.iload_n 1, 1) := dk_27 (dk_at dksX6_sizeOf_0 1 rfl rfl)
theorem dX6_sizeOf_2 : decode cX6_sizeOf 2 = .ok (.iconst (-1), 1) := dk_2 (dk_at dksX6_sizeOf_0 2 rfl rfl)
theorem dX6_sizeOf_3 : decode cX6_sizeOf 3 = .ok (.if_icmp .ne 7, 3) := dk_160 0 7 (dk_at dksX6_sizeOf_0 3 rfl rfl)
theorem dX6_sizeOf_6 : decode cX6_sizeOf 6 = .ok (.iconst 0, 1) := dk_3 (dk_at dksX6_sizeOf_0 6 rfl rfl)
theorem dX6_sizeOf_7 : decode cX6_sizeOf 7 = .ok (.goto 9, 3) := dk_167 0 9 (dk_at dksX6_sizeOf_0 7 rfl rfl)
theorem dX6_sizeOf_10 : decode cX6_sizeOf 10 = .ok (.aload_n 0, 1) := dk_42 (dk_at dksX6_sizeOf_0 10 rfl rfl)
theorem dX6_sizeOf_11 : decode cX6_sizeOf 11 = .ok (.getfield 49, 3) := dk_180 0 49 (dk_at dksX6_sizeOf_0 11 rfl rfl)
theorem dX6_sizeOf_14 : decode cX6_sizeOf 14 = .ok (.iload_n 1, 1) := dk_27 (dk_at dksX6_sizeOf_0 14 rfl rfl)
theorem dX6_sizeOf_15 : decode cX6_sizeOf 15 = .ok (.iaload, 1) := dk_46 (dk_at dksX6_sizeOf_0 15 rfl rfl)
theorem dX6_sizeOf_16 : decode cX6_sizeOf 16 = .ok (.iadd, 1) := dk_96 (dk_at dksX6_sizeOf_0 16 rfl rfl)
theorem dX6_sizeOf_17 : decode cX6_sizeOf 17 = .ok (.iload_n 2, 1) := dk_28 (dk_at dksX6_sizeOf_0 17 rfl rfl)
theorem dX6_sizeOf_18 : decode cX6_sizeOf 18 = .ok (.iconst (-1), 1) := dk_2 (dk_at dksX6_sizeOf_0 18 rfl rfl)
theorem dX6_sizeOf_19 : decode cX6_sizeOf 19 = .ok (.if_icmp .ne 7, 3) := dk_160 0 7 (dk_at dksX6_sizeOf_0 19 rfl rfl)
theorem dX6_sizeOf_22 : decode cX6_sizeOf 22 = .ok (.iconst 0, 1) := dk_3 (dk_at dksX6_sizeOf_0 22 rfl rfl)
theorem dX6_sizeOf_23 : decode cX6_sizeOf 23 = .ok (.goto 9, 3) := dk_167 0 9 (dk_at dksX6_sizeOf_1 0 rfl rfl)
theorem dX6_sizeOf_26 : decode cX6_sizeOf 26 = .ok (.aload_n 0, 1) := dk_42 (dk_at dksX6_sizeOf_1 3 rfl rfl)
theorem dX6_sizeOf_27 : decode cX6_sizeOf 27 = .ok (.getfield 49, 3) := dk_180 0 49 (dk_at dksX6_sizeOf_1 4 rfl rfl)
theorem dX6_sizeOf_30 : decode cX6_sizeOf 30 = .ok (.iload_n 2, 1) := dk_28 (dk_at dksX6_sizeOf_1 7 rfl rfl)
theorem dX6_sizeOf_31 : decode cX6_sizeOf 31 = .ok (.iaload, 1) := dk_46 (dk_at dksX6_sizeOf_1 8 rfl rfl)
theorem dX6_sizeOf_32 : decode cX6_sizeOf 32 = .ok (.iadd, 1) := dk_96 (dk_at dksX6_sizeOf_1 9 rfl rfl)
theorem dX6_sizeOf_33 : decode cX6_sizeOf 33 = .ok (.iload_n 3, 1) := dk_29 (dk_at dksX6_sizeOf_1 10 rfl rfl)
theorem dX6_sizeOf_34 : decode cX6_sizeOf 34 = .ok (.iconst (-1), 1) := dk_2 (dk_at dksX6_sizeOf_1 11 rfl rfl)
theorem dX6_sizeOf_35 : decode cX6_sizeOf 35 = .ok (.if_icmp .ne 7, 3) := dk_160 0 7 (dk_at dksX6_sizeOf_1 12 rfl rfl)
theorem dX6_sizeOf_38 : decode cX6_sizeOf 38 = .ok (.iconst 0, 1) := dk_3 (dk_at dksX6_sizeOf_1 15 rfl rfl)
theorem dX6_sizeOf_39 : decode cX6_sizeOf 39 = .ok (.goto 9, 3) := dk_167 0 9 (dk_at dksX6_sizeOf_1 16 rfl rfl)
theorem dX6_sizeOf_42 : decode cX6_sizeOf 42 = .ok (.aload_n 0, 1) := dk_42 (dk_at dksX6_sizeOf_1 19 rfl rfl)
theorem dX6_sizeOf_43 : decode cX6_sizeOf 43 = .ok (.getfield 49, 3) := dk_180 0 49 (dk_at dksX6_sizeOf_1 20 rfl rfl)
theorem dX6_sizeOf_46 : decode cX6_sizeOf 46 = .ok (.iload_n 3, 1) := dk_29 (dk_at dksX6_sizeOf_1 23 rfl rfl)
theorem dX6_sizeOf_47 : decode cX6_sizeOf 47 = .ok (.iaload, 1) := dk_46 (dk_at dksX6_sizeOf_2 0 rfl rfl)
theorem dX6_sizeOf_48 : decode cX6_sizeOf 48 = .ok (.iadd, 1) := dk_96 (dk_at dksX6_sizeOf_2 1 rfl rfl)
theorem dX6_sizeOf_49 : decode cX6_sizeOf 49 = .ok (.ireturn, 1) := dk_172 (dk_at dksX6_sizeOf_2 2 rfl rfl)
abbrev cX6_name : ByteArray := prog_23_method_20_code
def yX6_name : MethodName := ⟨RX6, "name", "(II)I"⟩
def dkwX6_name_4 : List UInt8 := [153, 0, 7, 3, 167, 0, 19, 42, 4, 27, 3, 28, 2, 2, 42, 180, 0, 43, 28, 46, 182, 0, 208, 172]
abbrev dktX6_name_4 : List UInt8 := dkwX6_name_4 ++ []
def dkwX6_name_3 : List UInt8 := [154, 0, 7, 5, 167, 0, 15, 42, 182, 0, 204, 153, 0, 7, 6, 167, 0, 4, 3, 182, 0, 183]
abbrev dktX6_name_3 : List UInt8 := dkwX6_name_3 ++ dktX6_name_4
def dkwX6_name_2 : List UInt8 := [16, 40, 163, 0, 7, 4, 167, 0, 4, 3, 54, 4, 42, 29, 154, 0, 7, 4, 167, 0, 24, 21, 4]
abbrev dktX6_name_2 : List UInt8 := dkwX6_name_2 ++ dktX6_name_3
def dkwX6_name_1 : List UInt8 := [153, 0, 32, 42, 180, 0, 52, 28, 46, 27, 122, 4, 126, 154, 0, 19, 42, 28, 2, 2, 182, 0, 200]
abbrev dktX6_name_1 : List UInt8 := dkwX6_name_1 ++ dktX6_name_2
def dkwX6_name_0 : List UInt8 := [27, 3, 8, 184, 0, 171, 153, 0, 15, 42, 28, 182, 0, 212, 153, 0, 7, 4, 167, 0, 4, 3, 62, 29]
abbrev dktX6_name_0 : List UInt8 := dkwX6_name_0 ++ dktX6_name_1
theorem dksX6_name_0 : cX6_name.data.toList.drop 0 = dktX6_name_0 := by decide +kernel
theorem dksX6_name_1 : cX6_name.data.toList.drop 24 = dktX6_name_1 := dk_seg dksX6_name_0 24 rfl rfl
theorem dksX6_name_2 : cX6_name.data.toList.drop 47 = dktX6_name_2 := dk_seg dksX6_name_1 23 rfl rfl
theorem dksX6_name_3 : cX6_name.data.toList.drop 70 = dktX6_name_3 := dk_seg dksX6_name_2 23 rfl rfl
theorem dksX6_name_4 : cX6_name.data.toList.drop 92 = dktX6_name_4 := dk_seg dksX6_name_3 22 rfl rfl
theorem dX6_name_0 : decode cX6_name 0 = .ok (.iload_n 1, 1) := dk_27 (dk_at dksX6_name_0 0 rfl rfl)
theorem dX6_name_1 : decode cX6_name 1 = .ok (.iconst 0, 1) := dk_3 (dk_at dksX6_name_0 1 rfl rfl)
theorem dX6_name_2 : decode cX6_name 2 = .ok (.iconst 5, 1) := dk_8 (dk_at dksX6_name_0 2 rfl rfl)
theorem dX6_name_3 : decode cX6_name 3 = .ok (.invokestatic 171, 3) := dk_184 0 171 (dk_at dksX6_name_0 3 rfl rfl)
theorem dX6_name_6 : decode cX6_name 6 = .ok (.ifCond .eq 15, 3) := dk_153 0 15 (dk_at dksX6_name_0 6 rfl rfl)
theorem dX6_name_9 : decode cX6_name 9 = .ok (.aload_n 0, 1) := dk_42 (dk_at dksX6_name_0 9 rfl rfl)
theorem dX6_name_10 : decode cX6_name 10 = .ok (.iload_n 2, 1) := dk_28 (dk_at dksX6_name_0 10 rfl rfl)
theorem dX6_name_11 : decode cX6_name 11 = .ok (.invokevirtual 212, 3) := dk_182 0 212 (dk_at dksX6_name_0 11 rfl rfl)
theorem dX6_name_14 : decode cX6_name 14 = .ok (.ifCond .eq 7, 3) := dk_153 0 7 (dk_at dksX6_name_0 14 rfl rfl)
theorem dX6_name_17 : decode cX6_name 17 = .ok (.iconst 1, 1) := dk_4 (dk_at dksX6_name_0 17 rfl rfl)
theorem dX6_name_18 : decode cX6_name 18 = .ok (.goto 4, 3) := dk_167 0 4 (dk_at dksX6_name_0 18 rfl rfl)
theorem dX6_name_21 : decode cX6_name 21 = .ok (.iconst 0, 1) := dk_3 (dk_at dksX6_name_0 21 rfl rfl)
theorem dX6_name_22 : decode cX6_name 22 = .ok (.istore_n 3, 1) := dk_62 (dk_at dksX6_name_0 22 rfl rfl)
theorem dX6_name_23 : decode cX6_name 23 = .ok (.iload_n 3, 1) := dk_29 (dk_at dksX6_name_0 23 rfl rfl)
theorem dX6_name_24 : decode cX6_name 24 = .ok (.ifCond .eq 32, 3) := dk_153 0 32 (dk_at dksX6_name_1 0 rfl rfl)
theorem dX6_name_27 : decode cX6_name 27 = .ok (.aload_n 0, 1) := dk_42 (dk_at dksX6_name_1 3 rfl rfl)
theorem dX6_name_28 : decode cX6_name 28 = .ok (.getfield 52, 3) := dk_180 0 52 (dk_at dksX6_name_1 4 rfl rfl)
theorem dX6_name_31 : decode cX6_name 31 = .ok (.iload_n 2, 1) := dk_28 (dk_at dksX6_name_1 7 rfl rfl)
theorem dX6_name_32 : decode cX6_name 32 = .ok (.iaload, 1) := dk_46 (dk_at dksX6_name_1 8 rfl rfl)
theorem dX6_name_33 : decode cX6_name 33 = .ok (.iload_n 1, 1) := dk_27 (dk_at dksX6_name_1 9 rfl rfl)
theorem dX6_name_34 : decode cX6_name 34 = .ok (.ishr, 1) := dk_122 (dk_at dksX6_name_1 10 rfl rfl)
theorem dX6_name_35 : decode cX6_name 35 = .ok (.iconst 1, 1) := dk_4 (dk_at dksX6_name_1 11 rfl rfl)
theorem dX6_name_36 : decode cX6_name 36 = .ok (.iand, 1) := dk_126 (dk_at dksX6_name_1 12 rfl rfl)
theorem dX6_name_37 : decode cX6_name 37 = .ok (.ifCond .ne 19, 3) := dk_154 0 19 (dk_at dksX6_name_1 13 rfl rfl)
theorem dX6_name_40 : decode cX6_name 40 = .ok (.aload_n 0, 1) := dk_42 (dk_at dksX6_name_1 16 rfl rfl)
theorem dX6_name_41 : decode cX6_name 41 = .ok (.iload_n 2, 1) := dk_28 (dk_at dksX6_name_1 17 rfl rfl)
theorem dX6_name_42 : decode cX6_name 42 = .ok (.iconst (-1), 1) := dk_2 (dk_at dksX6_name_1 18 rfl rfl)
theorem dX6_name_43 : decode cX6_name 43 = .ok (.iconst (-1), 1) := dk_2 (dk_at dksX6_name_1 19 rfl rfl)
theorem dX6_name_44 : decode cX6_name 44 = .ok (.invokevirtual 200, 3) := dk_182 0 200 (dk_at dksX6_name_1 20 rfl rfl)
theorem dX6_name_47 : decode cX6_name 47 = .ok (.bipush 40, 2) := dk_16 40 (dk_at dksX6_name_2 0 rfl rfl)
theorem dX6_name_49 : decode cX6_name 49 = .ok (.if_icmp .gt 7, 3) := dk_163 0 7 (dk_at dksX6_name_2 2 rfl rfl)
theorem dX6_name_52 : decode cX6_name 52 = .ok (.iconst 1, 1) := dk_4 (dk_at dksX6_name_2 5 rfl rfl)
theorem dX6_name_53 : decode cX6_name 53 = .ok (.goto 4, 3) := dk_167 0 4 (dk_at dksX6_name_2 6 rfl rfl)
theorem dX6_name_56 : decode cX6_name 56 = .ok (.iconst 0, 1) := dk_3 (dk_at dksX6_name_2 9 rfl rfl)
theorem dX6_name_57 : decode cX6_name 57 = .ok (.istore 4, 2) := dk_54 4 (dk_at dksX6_name_2 10 rfl rfl)
theorem dX6_name_59 : decode cX6_name 59 = .ok (.aload_n 0, 1) := dk_42 (dk_at dksX6_name_2 12 rfl rfl)
theorem dX6_name_60 : decode cX6_name 60 = .ok (.iload_n 3, 1) := dk_29 (dk_at dksX6_name_2 13 rfl rfl)
theorem dX6_name_61 : decode cX6_name 61 = .ok (.ifCond .ne 7, 3) := dk_154 0 7 (dk_at dksX6_name_2 14 rfl rfl)
theorem dX6_name_64 : decode cX6_name 64 = .ok (.iconst 1, 1) := dk_4 (dk_at dksX6_name_2 17 rfl rfl)
theorem dX6_name_65 : decode cX6_name 65 = .ok (.goto 24, 3) := dk_167 0 24 (dk_at dksX6_name_2 18 rfl rfl)
theorem dX6_name_68 : decode cX6_name 68 = .ok (.iload 4, 2) := dk_21 4 (dk_at dksX6_name_2 21 rfl rfl)
theorem dX6_name_70 : decode cX6_name 70 = .ok (.ifCond .ne 7, 3) := dk_154 0 7 (dk_at dksX6_name_3 0 rfl rfl)
theorem dX6_name_73 : decode cX6_name 73 = .ok (.iconst 2, 1) := dk_5 (dk_at dksX6_name_3 3 rfl rfl)
theorem dX6_name_74 : decode cX6_name 74 = .ok (.goto 15, 3) := dk_167 0 15 (dk_at dksX6_name_3 4 rfl rfl)
theorem dX6_name_77 : decode cX6_name 77 = .ok (.aload_n 0, 1) := dk_42 (dk_at dksX6_name_3 7 rfl rfl)
theorem dX6_name_78 : decode cX6_name 78 = .ok (.invokevirtual 204, 3) := dk_182 0 204 (dk_at dksX6_name_3 8 rfl rfl)
theorem dX6_name_81 : decode cX6_name 81 = .ok (.ifCond .eq 7, 3) := dk_153 0 7 (dk_at dksX6_name_3 11 rfl rfl)
theorem dX6_name_84 : decode cX6_name 84 = .ok (.iconst 3, 1) := dk_6 (dk_at dksX6_name_3 14 rfl rfl)
theorem dX6_name_85 : decode cX6_name 85 = .ok (.goto 4, 3) := dk_167 0 4 (dk_at dksX6_name_3 15 rfl rfl)
theorem dX6_name_88 : decode cX6_name 88 = .ok (.iconst 0, 1) := dk_3 (dk_at dksX6_name_3 18 rfl rfl)
theorem dX6_name_89 : decode cX6_name 89 = .ok (.invokevirtual 183, 3) := dk_182 0 183 (dk_at dksX6_name_3 19 rfl rfl)
theorem dX6_name_92 : decode cX6_name 92 = .ok (.ifCond .eq 7, 3) := dk_153 0 7 (dk_at dksX6_name_4 0 rfl rfl)
theorem dX6_name_95 : decode cX6_name 95 = .ok (.iconst 0, 1) := dk_3 (dk_at dksX6_name_4 3 rfl rfl)
theorem dX6_name_96 : decode cX6_name 96 = .ok (.goto 19, 3) := dk_167 0 19 (dk_at dksX6_name_4 4 rfl rfl)
theorem dX6_name_99 : decode cX6_name 99 = .ok (.aload_n 0, 1) := dk_42 (dk_at dksX6_name_4 7 rfl rfl)
theorem dX6_name_100 : decode cX6_name 100 = .ok (.iconst 1, 1) := dk_4 (dk_at dksX6_name_4 8 rfl rfl)
theorem dX6_name_101 : decode cX6_name 101 = .ok (.iload_n 1, 1) := dk_27 (dk_at dksX6_name_4 9 rfl rfl)
theorem dX6_name_102 : decode cX6_name 102 = .ok (.iconst 0, 1) := dk_3 (dk_at dksX6_name_4 10 rfl rfl)
theorem dX6_name_103 : decode cX6_name 103 = .ok (.iload_n 2, 1) := dk_28 (dk_at dksX6_name_4 11 rfl rfl)
theorem dX6_name_104 : decode cX6_name 104 = .ok (.iconst (-1), 1) := dk_2 (dk_at dksX6_name_4 12 rfl rfl)
theorem dX6_name_105 : decode cX6_name 105 = .ok (.iconst (-1), 1) := dk_2 (dk_at dksX6_name_4 13 rfl rfl)
theorem dX6_name_106 : decode cX6_name 106 = .ok (.aload_n 0, 1) := dk_42 (dk_at dksX6_name_4 14 rfl rfl)
theorem dX6_name_107 : decode cX6_name 107 = .ok (.getfield 43, 3) := dk_180 0 43 (dk_at dksX6_name_4 15 rfl rfl)
theorem dX6_name_110 : decode cX6_name 110 = .ok (.iload_n 2, 1) := dk_28 (dk_at dksX6_name_4 18 rfl rfl)
theorem dX6_name_111 : decode cX6_name 111 = .ok (.iaload, 1) := dk_46 (dk_at dksX6_name_4 19 rfl rfl)
theorem dX6_name_112 : decode cX6_name 112 = .ok (.invokevirtual 208, 3) := dk_182 0 208 (dk_at dksX6_name_4 20 rfl rfl)
theorem dX6_name_115 : decode cX6_name 115 = .ok (.ireturn, 1) := dk_172 (dk_at dksX6_name_4 23 rfl rfl)
abbrev cX6_isPattern : ByteArray := prog_23_method_13_code
def yX6_isPattern : MethodName := ⟨RX6, "isPattern", "(I)Z"⟩
def dkwX6_isPattern_0 : List UInt8 := [27, 3, 42, 180, 0, 197, 4, 100, 184, 0, 171, 172]
abbrev dktX6_isPattern_0 : List UInt8 := dkwX6_isPattern_0 ++ []
theorem dksX6_isPattern_0 : cX6_isPattern.data.toList.drop 0 = dktX6_isPattern_0 := by decide +kernel
theorem dX6_isPattern_0 : decode cX6_isPattern 0 = .ok (.iload_n 1, 1) := dk_27 (dk_at dksX6_isPattern_0 0 rfl rfl)
theorem dX6_isPattern_1 : decode cX6_isPattern 1 = .ok (.iconst 0, 1) := dk_3 (dk_at dksX6_isPattern_0 1 rfl rfl)
theorem dX6_isPattern_2 : decode cX6_isPattern 2 = .ok (.aload_n 0, 1) := dk_42 (dk_at dksX6_isPattern_0 2 rfl rfl)
theorem dX6_isPattern_3 : decode cX6_isPattern 3 = .ok (.getfield 197, 3) := dk_180 0 197 (dk_at dksX6_isPattern_0 3 rfl rfl)
theorem dX6_isPattern_6 : decode cX6_isPattern 6 = .ok (.iconst 1, 1) := dk_4 (dk_at dksX6_isPattern_0 6 rfl rfl)
theorem dX6_isPattern_7 : decode cX6_isPattern 7 = .ok (.isub, 1) := dk_100 (dk_at dksX6_isPattern_0 7 rfl rfl)
theorem dX6_isPattern_8 : decode cX6_isPattern 8 = .ok (.invokestatic 171, 3) := dk_184 0 171 (dk_at dksX6_isPattern_0 8 rfl rfl)
theorem dX6_isPattern_11 : decode cX6_isPattern 11 = .ok (.ireturn, 1) := dk_172 (dk_at dksX6_isPattern_0 11 rfl rfl)
abbrev cX6_range : ByteArray := prog_23_method_21_code
def yX6_range : MethodName := ⟨RX6, "range", "(II)I"⟩
def dkwX6_range_2 : List UInt8 := [182, 0, 183, 153, 0, 7, 3, 167, 0, 14, 42, 5, 27, 28, 2, 2, 2, 7, 182, 0, 208, 172]
abbrev dktX6_range_2 : List UInt8 := dkwX6_range_2 ++ []
def dkwX6_range_1 : List UInt8 := [3, 62, 42, 29, 154, 0, 7, 4, 167, 0, 15, 42, 182, 0, 204, 153, 0, 7, 5, 167, 0, 4, 3]
abbrev dktX6_range_1 : List UInt8 := dkwX6_range_1 ++ dktX6_range_2
def dkwX6_range_0 : List UInt8 := [27, 3, 16, 9, 184, 0, 171, 153, 0, 17, 28, 27, 16, 9, 184, 0, 171, 153, 0, 7, 4, 167, 0, 4]
abbrev dktX6_range_0 : List UInt8 := dkwX6_range_0 ++ dktX6_range_1
theorem dksX6_range_0 : cX6_range.data.toList.drop 0 = dktX6_range_0 := by decide +kernel
theorem dksX6_range_1 : cX6_range.data.toList.drop 24 = dktX6_range_1 := dk_seg dksX6_range_0 24 rfl rfl
theorem dksX6_range_2 : cX6_range.data.toList.drop 47 = dktX6_range_2 := dk_seg dksX6_range_1 23 rfl rfl
theorem dX6_range_0 : decode cX6_range 0 = .ok (.iload_n 1, 1) := dk_27 (dk_at dksX6_range_0 0 rfl rfl)
theorem dX6_range_1 : decode cX6_range 1 = .ok (.iconst 0, 1) := dk_3 (dk_at dksX6_range_0 1 rfl rfl)
theorem dX6_range_2 : decode cX6_range 2 = .ok (.bipush 9, 2) := dk_16 9 (dk_at dksX6_range_0 2 rfl rfl)
theorem dX6_range_4 : decode cX6_range 4 = .ok (.invokestatic 171, 3) := dk_184 0 171 (dk_at dksX6_range_0 4 rfl rfl)
theorem dX6_range_7 : decode cX6_range 7 = .ok (.ifCond .eq 17, 3) := dk_153 0 17 (dk_at dksX6_range_0 7 rfl rfl)
theorem dX6_range_10 : decode cX6_range 10 = .ok (.iload_n 2, 1) := dk_28 (dk_at dksX6_range_0 10 rfl rfl)
theorem dX6_range_11 : decode cX6_range 11 = .ok (.iload_n 1, 1) := dk_27 (dk_at dksX6_range_0 11 rfl rfl)
theorem dX6_range_12 : decode cX6_range 12 = .ok (.bipush 9, 2) := dk_16 9 (dk_at dksX6_range_0 12 rfl rfl)
theorem dX6_range_14 : decode cX6_range 14 = .ok (.invokestatic 171, 3) := dk_184 0 171 (dk_at dksX6_range_0 14 rfl rfl)
theorem dX6_range_17 : decode cX6_range 17 = .ok (.ifCond .eq 7, 3) := dk_153 0 7 (dk_at dksX6_range_0 17 rfl rfl)
theorem dX6_range_20 : decode cX6_range 20 = .ok (.iconst 1, 1) := dk_4 (dk_at dksX6_range_0 20 rfl rfl)
theorem dX6_range_21 : decode cX6_range 21 = .ok (.goto 4, 3) := dk_167 0 4 (dk_at dksX6_range_0 21 rfl rfl)
theorem dX6_range_24 : decode cX6_range 24 = .ok (.iconst 0, 1) := dk_3 (dk_at dksX6_range_1 0 rfl rfl)
theorem dX6_range_25 : decode cX6_range 25 = .ok (.istore_n 3, 1) := dk_62 (dk_at dksX6_range_1 1 rfl rfl)
theorem dX6_range_26 : decode cX6_range 26 = .ok (.aload_n 0, 1) := dk_42 (dk_at dksX6_range_1 2 rfl rfl)
theorem dX6_range_27 : decode cX6_range 27 = .ok (.iload_n 3, 1) := dk_29 (dk_at dksX6_range_1 3 rfl rfl)
theorem dX6_range_28 : decode cX6_range 28 = .ok (.ifCond .ne 7, 3) := dk_154 0 7 (dk_at dksX6_range_1 4 rfl rfl)
theorem dX6_range_31 : decode cX6_range 31 = .ok (.iconst 1, 1) := dk_4 (dk_at dksX6_range_1 7 rfl rfl)
theorem dX6_range_32 : decode cX6_range 32 = .ok (.goto 15, 3) := dk_167 0 15 (dk_at dksX6_range_1 8 rfl rfl)
theorem dX6_range_35 : decode cX6_range 35 = .ok (.aload_n 0, 1) := dk_42 (dk_at dksX6_range_1 11 rfl rfl)
theorem dX6_range_36 : decode cX6_range 36 = .ok (.invokevirtual 204, 3) := dk_182 0 204 (dk_at dksX6_range_1 12 rfl rfl)
theorem dX6_range_39 : decode cX6_range 39 = .ok (.ifCond .eq 7, 3) := dk_153 0 7 (dk_at dksX6_range_1 15 rfl rfl)
theorem dX6_range_42 : decode cX6_range 42 = .ok (.iconst 2, 1) := dk_5 (dk_at dksX6_range_1 18 rfl rfl)
theorem dX6_range_43 : decode cX6_range 43 = .ok (.goto 4, 3) := dk_167 0 4 (dk_at dksX6_range_1 19 rfl rfl)
theorem dX6_range_46 : decode cX6_range 46 = .ok (.iconst 0, 1) := dk_3 (dk_at dksX6_range_1 22 rfl rfl)
theorem dX6_range_47 : decode cX6_range 47 = .ok (.invokevirtual 183, 3) := dk_182 0 183 (dk_at dksX6_range_2 0 rfl rfl)
theorem dX6_range_50 : decode cX6_range 50 = .ok (.ifCond .eq 7, 3) := dk_153 0 7 (dk_at dksX6_range_2 3 rfl rfl)
theorem dX6_range_53 : decode cX6_range 53 = .ok (.iconst 0, 1) := dk_3 (dk_at dksX6_range_2 6 rfl rfl)
theorem dX6_range_54 : decode cX6_range 54 = .ok (.goto 14, 3) := dk_167 0 14 (dk_at dksX6_range_2 7 rfl rfl)
theorem dX6_range_57 : decode cX6_range 57 = .ok (.aload_n 0, 1) := dk_42 (dk_at dksX6_range_2 10 rfl rfl)
theorem dX6_range_58 : decode cX6_range 58 = .ok (.iconst 2, 1) := dk_5 (dk_at dksX6_range_2 11 rfl rfl)
theorem dX6_range_59 : decode cX6_range 59 = .ok (.iload_n 1, 1) := dk_27 (dk_at dksX6_range_2 12 rfl rfl)
theorem dX6_range_60 : decode cX6_range 60 = .ok (.iload_n 2, 1) := dk_28 (dk_at dksX6_range_2 13 rfl rfl)
theorem dX6_range_61 : decode cX6_range 61 = .ok (.iconst (-1), 1) := dk_2 (dk_at dksX6_range_2 14 rfl rfl)
theorem dX6_range_62 : decode cX6_range 62 = .ok (.iconst (-1), 1) := dk_2 (dk_at dksX6_range_2 15 rfl rfl)
theorem dX6_range_63 : decode cX6_range 63 = .ok (.iconst (-1), 1) := dk_2 (dk_at dksX6_range_2 16 rfl rfl)
theorem dX6_range_64 : decode cX6_range 64 = .ok (.iconst 4, 1) := dk_7 (dk_at dksX6_range_2 17 rfl rfl)
theorem dX6_range_65 : decode cX6_range 65 = .ok (.invokevirtual 208, 3) := dk_182 0 208 (dk_at dksX6_range_2 18 rfl rfl)
theorem dX6_range_68 : decode cX6_range 68 = .ok (.ireturn, 1) := dk_172 (dk_at dksX6_range_2 21 rfl rfl)
abbrev cX6_make : ByteArray := prog_23_method_22_code
def yX6_make : MethodName := ⟨RX6, "make", "(IIIII)I"⟩
def dkwX6_make_12 : List UInt8 := [167, 0, 17, 42, 6, 21, 7, 3, 29, 21, 4, 21, 5, 27, 182, 0, 208, 172]
abbrev dktX6_make_12 : List UInt8 := dkwX6_make_12 ++ []
def dkwX6_make_11 : List UInt8 := [167, 0, 15, 42, 182, 0, 204, 153, 0, 7, 6, 167, 0, 4, 3, 182, 0, 183, 153, 0, 7, 3]
abbrev dktX6_make_11 : List UInt8 := dkwX6_make_11 ++ dktX6_make_12
def dkwX6_make_10 : List UInt8 := [167, 0, 4, 3, 54, 8, 42, 21, 6, 154, 0, 7, 4, 167, 0, 24, 21, 8, 154, 0, 7, 5]
abbrev dktX6_make_10 : List UInt8 := dkwX6_make_10 ++ dktX6_make_11
def dkwX6_make_9 : List UInt8 := [182, 0, 218, 7, 163, 0, 21, 42, 29, 21, 4, 21, 5, 182, 0, 200, 16, 40, 163, 0, 7, 4]
abbrev dktX6_make_9 : List UInt8 := dkwX6_make_9 ++ dktX6_make_10
def dkwX6_make_8 : List UInt8 := [132, 10, 1, 167, 255, 99, 21, 6, 153, 0, 39, 21, 8, 153, 0, 34, 42, 29, 21, 4, 21, 5]
abbrev dktX6_make_8 : List UInt8 := dkwX6_make_8 ++ dktX6_make_9
def dkwX6_make_7 : List UInt8 := [21, 12, 153, 0, 18, 21, 6, 153, 0, 13, 42, 180, 0, 52, 21, 11, 46, 167, 0, 4, 3, 128, 54, 9]
abbrev dktX6_make_7 : List UInt8 := dkwX6_make_7 ++ dktX6_make_8
def dkwX6_make_6 : List UInt8 := [21, 9, 126, 154, 0, 16, 167, 0, 9, 21, 11, 2, 160, 0, 7, 4, 167, 0, 4, 3, 54, 8, 21, 9]
abbrev dktX6_make_6 : List UInt8 := dkwX6_make_6 ++ dktX6_make_7
def dkwX6_make_5 : List UInt8 := [180, 0, 16, 6, 21, 7, 104, 21, 10, 96, 46, 182, 0, 215, 153, 0, 29, 42, 180, 0, 52, 21, 11, 46]
abbrev dktX6_make_5 : List UInt8 := dkwX6_make_5 ++ dktX6_make_6
def dkwX6_make_4 : List UInt8 := [3, 54, 6, 21, 8, 153, 0, 60, 21, 12, 153, 0, 45, 21, 6, 153, 0, 50, 42, 21, 11, 42]
abbrev dktX6_make_4 : List UInt8 := dkwX6_make_4 ++ dktX6_make_5
def dkwX6_make_3 : List UInt8 := [167, 0, 4, 3, 54, 12, 21, 12, 153, 0, 12, 42, 21, 11, 182, 0, 212, 153, 0, 7, 4, 167, 0, 4]
abbrev dktX6_make_3 : List UInt8 := dkwX6_make_3 ++ dktX6_make_4
def dkwX6_make_2 : List UInt8 := [21, 5, 21, 10, 184, 0, 175, 54, 11, 21, 10, 42, 180, 0, 13, 21, 7, 46, 162, 0, 7, 4]
abbrev dktX6_make_2 : List UInt8 := dkwX6_make_2 ++ dktX6_make_3
def dkwX6_make_1 : List UInt8 := [4, 54, 8, 3, 54, 9, 3, 54, 10, 21, 10, 6, 162, 0, 157, 21, 6, 153, 0, 152, 29, 21, 4]
abbrev dktX6_make_1 : List UInt8 := dkwX6_make_1 ++ dktX6_make_2
def dkwX6_make_0 : List UInt8 := [42, 27, 28, 182, 0, 193, 54, 6, 21, 6, 153, 0, 11, 7, 27, 104, 28, 96, 167, 0, 4, 3, 54, 7]
abbrev dktX6_make_0 : List UInt8 := dkwX6_make_0 ++ dktX6_make_1
theorem dksX6_make_0 : cX6_make.data.toList.drop 0 = dktX6_make_0 := by decide +kernel
theorem dksX6_make_1 : cX6_make.data.toList.drop 24 = dktX6_make_1 := dk_seg dksX6_make_0 24 rfl rfl
theorem dksX6_make_2 : cX6_make.data.toList.drop 47 = dktX6_make_2 := dk_seg dksX6_make_1 23 rfl rfl
theorem dksX6_make_3 : cX6_make.data.toList.drop 69 = dktX6_make_3 := dk_seg dksX6_make_2 22 rfl rfl
theorem dksX6_make_4 : cX6_make.data.toList.drop 93 = dktX6_make_4 := dk_seg dksX6_make_3 24 rfl rfl
theorem dksX6_make_5 : cX6_make.data.toList.drop 115 = dktX6_make_5 := dk_seg dksX6_make_4 22 rfl rfl
theorem dksX6_make_6 : cX6_make.data.toList.drop 139 = dktX6_make_6 := dk_seg dksX6_make_5 24 rfl rfl
theorem dksX6_make_7 : cX6_make.data.toList.drop 163 = dktX6_make_7 := dk_seg dksX6_make_6 24 rfl rfl
theorem dksX6_make_8 : cX6_make.data.toList.drop 187 = dktX6_make_8 := dk_seg dksX6_make_7 24 rfl rfl
theorem dksX6_make_9 : cX6_make.data.toList.drop 209 = dktX6_make_9 := dk_seg dksX6_make_8 22 rfl rfl
theorem dksX6_make_10 : cX6_make.data.toList.drop 231 = dktX6_make_10 := dk_seg dksX6_make_9 22 rfl rfl
theorem dksX6_make_11 : cX6_make.data.toList.drop 253 = dktX6_make_11 := dk_seg dksX6_make_10 22 rfl rfl
theorem dksX6_make_12 : cX6_make.data.toList.drop 275 = dktX6_make_12 := dk_seg dksX6_make_11 22 rfl rfl
theorem dX6_make_0 : decode cX6_make 0 = .ok (.aload_n 0, 1) := dk_42 (dk_at dksX6_make_0 0 rfl rfl)
theorem dX6_make_1 : decode cX6_make 1 = .ok (.iload_n 1, 1) := dk_27 (dk_at dksX6_make_0 1 rfl rfl)
theorem dX6_make_2 : decode cX6_make 2 = .ok (.iload_n 2, 1) := dk_28 (dk_at dksX6_make_0 2 rfl rfl)
theorem dX6_make_3 : decode cX6_make 3 = .ok (.invokevirtual 193, 3) := dk_182 0 193 (dk_at dksX6_make_0 3 rfl rfl)
theorem dX6_make_6 : decode cX6_make 6 = .ok (.istore 6, 2) := dk_54 6 (dk_at dksX6_make_0 6 rfl rfl)
theorem dX6_make_8 : decode cX6_make 8 = .ok (.iload 6, 2) := dk_21 6 (dk_at dksX6_make_0 8 rfl rfl)
theorem dX6_make_10 : decode cX6_make 10 = .ok (.ifCond .eq 11, 3) := dk_153 0 11 (dk_at dksX6_make_0 10 rfl rfl)
theorem dX6_make_13 : decode cX6_make 13 = .ok (.iconst 4, 1) := dk_7 (dk_at dksX6_make_0 13 rfl rfl)
theorem dX6_make_14 : decode cX6_make 14 = .ok (.iload_n 1, 1) := dk_27 (dk_at dksX6_make_0 14 rfl rfl)
theorem dX6_make_15 : decode cX6_make 15 = .ok (.imul, 1) := dk_104 (dk_at dksX6_make_0 15 rfl rfl)
theorem dX6_make_16 : decode cX6_make 16 = .ok (.iload_n 2, 1) := dk_28 (dk_at dksX6_make_0 16 rfl rfl)
theorem dX6_make_17 : decode cX6_make 17 = .ok (.iadd, 1) := dk_96 (dk_at dksX6_make_0 17 rfl rfl)
theorem dX6_make_18 : decode cX6_make 18 = .ok (.goto 4, 3) := dk_167 0 4 (dk_at dksX6_make_0 18 rfl rfl)
theorem dX6_make_21 : decode cX6_make 21 = .ok (.iconst 0, 1) := dk_3 (dk_at dksX6_make_0 21 rfl rfl)
theorem dX6_make_22 : decode cX6_make 22 = .ok (.istore 7, 2) := dk_54 7 (dk_at dksX6_make_0 22 rfl rfl)
theorem dX6_make_24 : decode cX6_make 24 = .ok (.iconst 1, 1) := dk_4 (dk_at dksX6_make_1 0 rfl rfl)
theorem dX6_make_25 : decode cX6_make 25 = .ok (.istore 8, 2) := dk_54 8 (dk_at dksX6_make_1 1 rfl rfl)
theorem dX6_make_27 : decode cX6_make 27 = .ok (.iconst 0, 1) := dk_3 (dk_at dksX6_make_1 3 rfl rfl)
theorem dX6_make_28 : decode cX6_make 28 = .ok (.istore 9, 2) := dk_54 9 (dk_at dksX6_make_1 4 rfl rfl)
theorem dX6_make_30 : decode cX6_make 30 = .ok (.iconst 0, 1) := dk_3 (dk_at dksX6_make_1 6 rfl rfl)
theorem dX6_make_31 : decode cX6_make 31 = .ok (.istore 10, 2) := dk_54 10 (dk_at dksX6_make_1 7 rfl rfl)
theorem dX6_make_33 : decode cX6_make 33 = .ok (.iload 10, 2) := dk_21 10 (dk_at dksX6_make_1 9 rfl rfl)
theorem dX6_make_35 : decode cX6_make 35 = .ok (.iconst 3, 1) := dk_6 (dk_at dksX6_make_1 11 rfl rfl)
theorem dX6_make_36 : decode cX6_make 36 = .ok (.if_icmp .ge 157, 3) := dk_162 0 157 (dk_at dksX6_make_1 12 rfl rfl)
theorem dX6_make_39 : decode cX6_make 39 = .ok (.iload 6, 2) := dk_21 6 (dk_at dksX6_make_1 15 rfl rfl)
theorem dX6_make_41 : decode cX6_make 41 = .ok (.ifCond .eq 152, 3) := dk_153 0 152 (dk_at dksX6_make_1 17 rfl rfl)
theorem dX6_make_44 : decode cX6_make 44 = .ok (.iload_n 3, 1) := dk_29 (dk_at dksX6_make_1 20 rfl rfl)
theorem dX6_make_45 : decode cX6_make 45 = .ok (.iload 4, 2) := dk_21 4 (dk_at dksX6_make_1 21 rfl rfl)
theorem dX6_make_47 : decode cX6_make 47 = .ok (.iload 5, 2) := dk_21 5 (dk_at dksX6_make_2 0 rfl rfl)
theorem dX6_make_49 : decode cX6_make 49 = .ok (.iload 10, 2) := dk_21 10 (dk_at dksX6_make_2 2 rfl rfl)
theorem dX6_make_51 : decode cX6_make 51 = .ok (.invokestatic 175, 3) := dk_184 0 175 (dk_at dksX6_make_2 4 rfl rfl)
theorem dX6_make_54 : decode cX6_make 54 = .ok (.istore 11, 2) := dk_54 11 (dk_at dksX6_make_2 7 rfl rfl)
theorem dX6_make_56 : decode cX6_make 56 = .ok (.iload 10, 2) := dk_21 10 (dk_at dksX6_make_2 9 rfl rfl)
theorem dX6_make_58 : decode cX6_make 58 = .ok (.aload_n 0, 1) := dk_42 (dk_at dksX6_make_2 11 rfl rfl)
theorem dX6_make_59 : decode cX6_make 59 = .ok (.getfield 13, 3) := dk_180 0 13 (dk_at dksX6_make_2 12 rfl rfl)
theorem dX6_make_62 : decode cX6_make 62 = .ok (.iload 7, 2) := dk_21 7 (dk_at dksX6_make_2 15 rfl rfl)
theorem dX6_make_64 : decode cX6_make 64 = .ok (.iaload, 1) := dk_46 (dk_at dksX6_make_2 17 rfl rfl)
theorem dX6_make_65 : decode cX6_make 65 = .ok (.if_icmp .ge 7, 3) := dk_162 0 7 (dk_at dksX6_make_2 18 rfl rfl)
theorem dX6_make_68 : decode cX6_make 68 = .ok (.iconst 1, 1) := dk_4 (dk_at dksX6_make_2 21 rfl rfl)
theorem dX6_make_69 : decode cX6_make 69 = .ok (.goto 4, 3) := dk_167 0 4 (dk_at dksX6_make_3 0 rfl rfl)
theorem dX6_make_72 : decode cX6_make 72 = .ok (.iconst 0, 1) := dk_3 (dk_at dksX6_make_3 3 rfl rfl)
theorem dX6_make_73 : decode cX6_make 73 = .ok (.istore 12, 2) := dk_54 12 (dk_at dksX6_make_3 4 rfl rfl)
theorem dX6_make_75 : decode cX6_make 75 = .ok (.iload 12, 2) := dk_21 12 (dk_at dksX6_make_3 6 rfl rfl)
theorem dX6_make_77 : decode cX6_make 77 = .ok (.ifCond .eq 12, 3) := dk_153 0 12 (dk_at dksX6_make_3 8 rfl rfl)
theorem dX6_make_80 : decode cX6_make 80 = .ok (.aload_n 0, 1) := dk_42 (dk_at dksX6_make_3 11 rfl rfl)
theorem dX6_make_81 : decode cX6_make 81 = .ok (.iload 11, 2) := dk_21 11 (dk_at dksX6_make_3 12 rfl rfl)
theorem dX6_make_83 : decode cX6_make 83 = .ok (.invokevirtual 212, 3) := dk_182 0 212 (dk_at dksX6_make_3 14 rfl rfl)
theorem dX6_make_86 : decode cX6_make 86 = .ok (.ifCond .eq 7, 3) := dk_153 0 7 (dk_at dksX6_make_3 17 rfl rfl)
theorem dX6_make_89 : decode cX6_make 89 = .ok (.iconst 1, 1) := dk_4 (dk_at dksX6_make_3 20 rfl rfl)
theorem dX6_make_90 : decode cX6_make 90 = .ok (.goto 4, 3) := dk_167 0 4 (dk_at dksX6_make_3 21 rfl rfl)
theorem dX6_make_93 : decode cX6_make 93 = .ok (.iconst 0, 1) := dk_3 (dk_at dksX6_make_4 0 rfl rfl)
theorem dX6_make_94 : decode cX6_make 94 = .ok (.istore 6, 2) := dk_54 6 (dk_at dksX6_make_4 1 rfl rfl)
theorem dX6_make_96 : decode cX6_make 96 = .ok (.iload 8, 2) := dk_21 8 (dk_at dksX6_make_4 3 rfl rfl)
theorem dX6_make_98 : decode cX6_make 98 = .ok (.ifCond .eq 60, 3) := dk_153 0 60 (dk_at dksX6_make_4 5 rfl rfl)
theorem dX6_make_101 : decode cX6_make 101 = .ok (.iload 12, 2) := dk_21 12 (dk_at dksX6_make_4 8 rfl rfl)
theorem dX6_make_103 : decode cX6_make 103 = .ok (.ifCond .eq 45, 3) := dk_153 0 45 (dk_at dksX6_make_4 10 rfl rfl)
theorem dX6_make_106 : decode cX6_make 106 = .ok (.iload 6, 2) := dk_21 6 (dk_at dksX6_make_4 13 rfl rfl)
theorem dX6_make_108 : decode cX6_make 108 = .ok (.ifCond .eq 50, 3) := dk_153 0 50 (dk_at dksX6_make_4 15 rfl rfl)
theorem dX6_make_111 : decode cX6_make 111 = .ok (.aload_n 0, 1) := dk_42 (dk_at dksX6_make_4 18 rfl rfl)
theorem dX6_make_112 : decode cX6_make 112 = .ok (.iload 11, 2) := dk_21 11 (dk_at dksX6_make_4 19 rfl rfl)
theorem dX6_make_114 : decode cX6_make 114 = .ok (.aload_n 0, 1) := dk_42 (dk_at dksX6_make_4 21 rfl rfl)
theorem dX6_make_115 : decode cX6_make 115 = .ok (.getfield 16, 3) := dk_180 0 16 (dk_at dksX6_make_5 0 rfl rfl)
theorem dX6_make_118 : decode cX6_make 118 = .ok (.iconst 3, 1) := dk_6 (dk_at dksX6_make_5 3 rfl rfl)
theorem dX6_make_119 : decode cX6_make 119 = .ok (.iload 7, 2) := dk_21 7 (dk_at dksX6_make_5 4 rfl rfl)
theorem dX6_make_121 : decode cX6_make 121 = .ok (.imul, 1) := dk_104 (dk_at dksX6_make_5 6 rfl rfl)
theorem dX6_make_122 : decode cX6_make 122 = .ok (.iload 10, 2) := dk_21 10 (dk_at dksX6_make_5 7 rfl rfl)
theorem dX6_make_124 : decode cX6_make 124 = .ok (.iadd, 1) := dk_96 (dk_at dksX6_make_5 9 rfl rfl)
theorem dX6_make_125 : decode cX6_make 125 = .ok (.iaload, 1) := dk_46 (dk_at dksX6_make_5 10 rfl rfl)
theorem dX6_make_126 : decode cX6_make 126 = .ok (.invokevirtual 215, 3) := dk_182 0 215 (dk_at dksX6_make_5 11 rfl rfl)
theorem dX6_make_129 : decode cX6_make 129 = .ok (.ifCond .eq 29, 3) := dk_153 0 29 (dk_at dksX6_make_5 14 rfl rfl)
theorem dX6_make_132 : decode cX6_make 132 = .ok (.aload_n 0, 1) := dk_42 (dk_at dksX6_make_5 17 rfl rfl)
theorem dX6_make_133 : decode cX6_make 133 = .ok (.getfield 52, 3) := dk_180 0 52 (dk_at dksX6_make_5 18 rfl rfl)
theorem dX6_make_136 : decode cX6_make 136 = .ok (.iload 11, 2) := dk_21 11 (dk_at dksX6_make_5 21 rfl rfl)
theorem dX6_make_138 : decode cX6_make 138 = .ok (.iaload, 1) := dk_46 (dk_at dksX6_make_5 23 rfl rfl)
theorem dX6_make_139 : decode cX6_make 139 = .ok (.iload 9, 2) := dk_21 9 (dk_at dksX6_make_6 0 rfl rfl)
theorem dX6_make_141 : decode cX6_make 141 = .ok (.iand, 1) := dk_126 (dk_at dksX6_make_6 2 rfl rfl)
theorem dX6_make_142 : decode cX6_make 142 = .ok (.ifCond .ne 16, 3) := dk_154 0 16 (dk_at dksX6_make_6 3 rfl rfl)
theorem dX6_make_145 : decode cX6_make 145 = .ok (.goto 9, 3) := dk_167 0 9 (dk_at dksX6_make_6 6 rfl rfl)
theorem dX6_make_148 : decode cX6_make 148 = .ok (.iload 11, 2) := dk_21 11 (dk_at dksX6_make_6 9 rfl rfl)
theorem dX6_make_150 : decode cX6_make 150 = .ok (.iconst (-1), 1) := dk_2 (dk_at dksX6_make_6 11 rfl rfl)
theorem dX6_make_151 : decode cX6_make 151 = .ok (.if_icmp .ne 7, 3) := dk_160 0 7 (dk_at dksX6_make_6 12 rfl rfl)
theorem dX6_make_154 : decode cX6_make 154 = .ok (.iconst 1, 1) := dk_4 (dk_at dksX6_make_6 15 rfl rfl)
theorem dX6_make_155 : decode cX6_make 155 = .ok (.goto 4, 3) := dk_167 0 4 (dk_at dksX6_make_6 16 rfl rfl)
theorem dX6_make_158 : decode cX6_make 158 = .ok (.iconst 0, 1) := dk_3 (dk_at dksX6_make_6 19 rfl rfl)
theorem dX6_make_159 : decode cX6_make 159 = .ok (.istore 8, 2) := dk_54 8 (dk_at dksX6_make_6 20 rfl rfl)
theorem dX6_make_161 : decode cX6_make 161 = .ok (.iload 9, 2) := dk_21 9 (dk_at dksX6_make_6 22 rfl rfl)
theorem dX6_make_163 : decode cX6_make 163 = .ok (.iload 12, 2) := dk_21 12 (dk_at dksX6_make_7 0 rfl rfl)
theorem dX6_make_165 : decode cX6_make 165 = .ok (.ifCond .eq 18, 3) := dk_153 0 18 (dk_at dksX6_make_7 2 rfl rfl)
theorem dX6_make_168 : decode cX6_make 168 = .ok (.iload 6, 2) := dk_21 6 (dk_at dksX6_make_7 5 rfl rfl)
theorem dX6_make_170 : decode cX6_make 170 = .ok (.ifCond .eq 13, 3) := dk_153 0 13 (dk_at dksX6_make_7 7 rfl rfl)
theorem dX6_make_173 : decode cX6_make 173 = .ok (.aload_n 0, 1) := dk_42 (dk_at dksX6_make_7 10 rfl rfl)
theorem dX6_make_174 : decode cX6_make 174 = .ok (.getfield 52, 3) := dk_180 0 52 (dk_at dksX6_make_7 11 rfl rfl)
theorem dX6_make_177 : decode cX6_make 177 = .ok (.iload 11, 2) := dk_21 11 (dk_at dksX6_make_7 14 rfl rfl)
theorem dX6_make_179 : decode cX6_make 179 = .ok (.iaload, 1) := dk_46 (dk_at dksX6_make_7 16 rfl rfl)
theorem dX6_make_180 : decode cX6_make 180 = .ok (.goto 4, 3) := dk_167 0 4 (dk_at dksX6_make_7 17 rfl rfl)
theorem dX6_make_183 : decode cX6_make 183 = .ok (.iconst 0, 1) := dk_3 (dk_at dksX6_make_7 20 rfl rfl)
theorem dX6_make_184 : decode cX6_make 184 = .ok (.ior, 1) := dk_128 (dk_at dksX6_make_7 21 rfl rfl)
theorem dX6_make_185 : decode cX6_make 185 = .ok (.istore 9, 2) := dk_54 9 (dk_at dksX6_make_7 22 rfl rfl)
theorem dX6_make_187 : decode cX6_make 187 = .ok (.iinc 10 1, 3) := dk_132 10 1 (dk_at dksX6_make_8 0 rfl rfl)
theorem dX6_make_190 : decode cX6_make 190 = .ok (.goto (-157), 3) := dk_167 255 99 (dk_at dksX6_make_8 3 rfl rfl)
theorem dX6_make_193 : decode cX6_make 193 = .ok (.iload 6, 2) := dk_21 6 (dk_at dksX6_make_8 6 rfl rfl)
theorem dX6_make_195 : decode cX6_make 195 = .ok (.ifCond .eq 39, 3) := dk_153 0 39 (dk_at dksX6_make_8 8 rfl rfl)
theorem dX6_make_198 : decode cX6_make 198 = .ok (.iload 8, 2) := dk_21 8 (dk_at dksX6_make_8 11 rfl rfl)
theorem dX6_make_200 : decode cX6_make 200 = .ok (.ifCond .eq 34, 3) := dk_153 0 34 (dk_at dksX6_make_8 13 rfl rfl)
theorem dX6_make_203 : decode cX6_make 203 = .ok (.aload_n 0, 1) := dk_42 (dk_at dksX6_make_8 16 rfl rfl)
theorem dX6_make_204 : decode cX6_make 204 = .ok (.iload_n 3, 1) := dk_29 (dk_at dksX6_make_8 17 rfl rfl)
theorem dX6_make_205 : decode cX6_make 205 = .ok (.iload 4, 2) := dk_21 4 (dk_at dksX6_make_8 18 rfl rfl)
theorem dX6_make_207 : decode cX6_make 207 = .ok (.iload 5, 2) := dk_21 5 (dk_at dksX6_make_8 20 rfl rfl)
theorem dX6_make_209 : decode cX6_make 209 = .ok (.invokevirtual 218, 3) := dk_182 0 218 (dk_at dksX6_make_9 0 rfl rfl)
theorem dX6_make_212 : decode cX6_make 212 = .ok (.iconst 4, 1) := dk_7 (dk_at dksX6_make_9 3 rfl rfl)
theorem dX6_make_213 : decode cX6_make 213 = .ok (.if_icmp .gt 21, 3) := dk_163 0 21 (dk_at dksX6_make_9 4 rfl rfl)
theorem dX6_make_216 : decode cX6_make 216 = .ok (.aload_n 0, 1) := dk_42 (dk_at dksX6_make_9 7 rfl rfl)
theorem dX6_make_217 : decode cX6_make 217 = .ok (.iload_n 3, 1) := dk_29 (dk_at dksX6_make_9 8 rfl rfl)
theorem dX6_make_218 : decode cX6_make 218 = .ok (.iload 4, 2) := dk_21 4 (dk_at dksX6_make_9 9 rfl rfl)
theorem dX6_make_220 : decode cX6_make 220 = .ok (.iload 5, 2) := dk_21 5 (dk_at dksX6_make_9 11 rfl rfl)
theorem dX6_make_222 : decode cX6_make 222 = .ok (.invokevirtual 200, 3) := dk_182 0 200 (dk_at dksX6_make_9 13 rfl rfl)
theorem dX6_make_225 : decode cX6_make 225 = .ok (.bipush 40, 2) := dk_16 40 (dk_at dksX6_make_9 16 rfl rfl)
theorem dX6_make_227 : decode cX6_make 227 = .ok (.if_icmp .gt 7, 3) := dk_163 0 7 (dk_at dksX6_make_9 18 rfl rfl)
theorem dX6_make_230 : decode cX6_make 230 = .ok (.iconst 1, 1) := dk_4 (dk_at dksX6_make_9 21 rfl rfl)
theorem dX6_make_231 : decode cX6_make 231 = .ok (.goto 4, 3) := dk_167 0 4 (dk_at dksX6_make_10 0 rfl rfl)
theorem dX6_make_234 : decode cX6_make 234 = .ok (.iconst 0, 1) := dk_3 (dk_at dksX6_make_10 3 rfl rfl)
theorem dX6_make_235 : decode cX6_make 235 = .ok (.istore 8, 2) := dk_54 8 (dk_at dksX6_make_10 4 rfl rfl)
theorem dX6_make_237 : decode cX6_make 237 = .ok (.aload_n 0, 1) := dk_42 (dk_at dksX6_make_10 6 rfl rfl)
theorem dX6_make_238 : decode cX6_make 238 = .ok (.iload 6, 2) := dk_21 6 (dk_at dksX6_make_10 7 rfl rfl)
theorem dX6_make_240 : decode cX6_make 240 = .ok (.ifCond .ne 7, 3) := dk_154 0 7 (dk_at dksX6_make_10 9 rfl rfl)
theorem dX6_make_243 : decode cX6_make 243 = .ok (.iconst 1, 1) := dk_4 (dk_at dksX6_make_10 12 rfl rfl)
theorem dX6_make_244 : decode cX6_make 244 = .ok (.goto 24, 3) := dk_167 0 24 (dk_at dksX6_make_10 13 rfl rfl)
theorem dX6_make_247 : decode cX6_make 247 = .ok (.iload 8, 2) := dk_21 8 (dk_at dksX6_make_10 16 rfl rfl)
theorem dX6_make_249 : decode cX6_make 249 = .ok (.ifCond .ne 7, 3) := dk_154 0 7 (dk_at dksX6_make_10 18 rfl rfl)
theorem dX6_make_252 : decode cX6_make 252 = .ok (.iconst 2, 1) := dk_5 (dk_at dksX6_make_10 21 rfl rfl)
theorem dX6_make_253 : decode cX6_make 253 = .ok (.goto 15, 3) := dk_167 0 15 (dk_at dksX6_make_11 0 rfl rfl)
theorem dX6_make_256 : decode cX6_make 256 = .ok (.aload_n 0, 1) := dk_42 (dk_at dksX6_make_11 3 rfl rfl)
theorem dX6_make_257 : decode cX6_make 257 = .ok (.invokevirtual 204, 3) := dk_182 0 204 (dk_at dksX6_make_11 4 rfl rfl)
theorem dX6_make_260 : decode cX6_make 260 = .ok (.ifCond .eq 7, 3) := dk_153 0 7 (dk_at dksX6_make_11 7 rfl rfl)
theorem dX6_make_263 : decode cX6_make 263 = .ok (.iconst 3, 1) := dk_6 (dk_at dksX6_make_11 10 rfl rfl)
theorem dX6_make_264 : decode cX6_make 264 = .ok (.goto 4, 3) := dk_167 0 4 (dk_at dksX6_make_11 11 rfl rfl)
theorem dX6_make_267 : decode cX6_make 267 = .ok (.iconst 0, 1) := dk_3 (dk_at dksX6_make_11 14 rfl rfl)
theorem dX6_make_268 : decode cX6_make 268 = .ok (.invokevirtual 183, 3) := dk_182 0 183 (dk_at dksX6_make_11 15 rfl rfl)
theorem dX6_make_271 : decode cX6_make 271 = .ok (.ifCond .eq 7, 3) := dk_153 0 7 (dk_at dksX6_make_11 18 rfl rfl)
theorem dX6_make_274 : decode cX6_make 274 = .ok (.iconst 0, 1) := dk_3 (dk_at dksX6_make_11 21 rfl rfl)
theorem dX6_make_275 : decode cX6_make 275 = .ok (.goto 17, 3) := dk_167 0 17 (dk_at dksX6_make_12 0 rfl rfl)
theorem dX6_make_278 : decode cX6_make 278 = .ok (.aload_n 0, 1) := dk_42 (dk_at dksX6_make_12 3 rfl rfl)
theorem dX6_make_279 : decode cX6_make 279 = .ok (.iconst 3, 1) := dk_6 (dk_at dksX6_make_12 4 rfl rfl)
theorem dX6_make_280 : decode cX6_make 280 = .ok (.iload 7, 2) := dk_21 7 (dk_at dksX6_make_12 5 rfl rfl)
theorem dX6_make_282 : decode cX6_make 282 = .ok (.iconst 0, 1) := dk_3 (dk_at dksX6_make_12 7 rfl rfl)
theorem dX6_make_283 : decode cX6_make 283 = .ok (.iload_n 3, 1) := dk_29 (dk_at dksX6_make_12 8 rfl rfl)
theorem dX6_make_284 : decode cX6_make 284 = .ok (.iload 4, 2) := dk_21 4 (dk_at dksX6_make_12 9 rfl rfl)
theorem dX6_make_286 : decode cX6_make 286 = .ok (.iload 5, 2) := dk_21 5 (dk_at dksX6_make_12 11 rfl rfl)
theorem dX6_make_288 : decode cX6_make 288 = .ok (.iload_n 1, 1) := dk_27 (dk_at dksX6_make_12 13 rfl rfl)
theorem dX6_make_289 : decode cX6_make 289 = .ok (.invokevirtual 208, 3) := dk_182 0 208 (dk_at dksX6_make_12 14 rfl rfl)
theorem dX6_make_292 : decode cX6_make 292 = .ok (.ireturn, 1) := dk_172 (dk_at dksX6_make_12 17 rfl rfl)
abbrev cX6_suits : ByteArray := prog_23_method_14_code
def yX6_suits : MethodName := ⟨RX6, "suits", "(II)Z"⟩
def dkwX6_suits_1 : List UInt8 := [3, 172]
abbrev dktX6_suits_1 : List UInt8 := dkwX6_suits_1 ++ []
def dkwX6_suits_0 : List UInt8 := [42, 180, 0, 43, 27, 46, 2, 159, 0, 13, 42, 180, 0, 43, 27, 46, 28, 160, 0, 7, 4, 167, 0, 4]
abbrev dktX6_suits_0 : List UInt8 := dkwX6_suits_0 ++ dktX6_suits_1
theorem dksX6_suits_0 : cX6_suits.data.toList.drop 0 = dktX6_suits_0 := by decide +kernel
theorem dksX6_suits_1 : cX6_suits.data.toList.drop 24 = dktX6_suits_1 := dk_seg dksX6_suits_0 24 rfl rfl
theorem dX6_suits_0 : decode cX6_suits 0 = .ok (.aload_n 0, 1) := dk_42 (dk_at dksX6_suits_0 0 rfl rfl)
theorem dX6_suits_1 : decode cX6_suits 1 = .ok (.getfield 43, 3) := dk_180 0 43 (dk_at dksX6_suits_0 1 rfl rfl)
theorem dX6_suits_4 : decode cX6_suits 4 = .ok (.iload_n 1, 1) := dk_27 (dk_at dksX6_suits_0 4 rfl rfl)
theorem dX6_suits_5 : decode cX6_suits 5 = .ok (.iaload, 1) := dk_46 (dk_at dksX6_suits_0 5 rfl rfl)
theorem dX6_suits_6 : decode cX6_suits 6 = .ok (.iconst (-1), 1) := dk_2 (dk_at dksX6_suits_0 6 rfl rfl)
theorem dX6_suits_7 : decode cX6_suits 7 = .ok (.if_icmp .eq 13, 3) := dk_159 0 13 (dk_at dksX6_suits_0 7 rfl rfl)
theorem dX6_suits_10 : decode cX6_suits 10 = .ok (.aload_n 0, 1) := dk_42 (dk_at dksX6_suits_0 10 rfl rfl)
theorem dX6_suits_11 : decode cX6_suits 11 = .ok (.getfield 43, 3) := dk_180 0 43 (dk_at dksX6_suits_0 11 rfl rfl)
theorem dX6_suits_14 : decode cX6_suits 14 = .ok (.iload_n 1, 1) := dk_27 (dk_at dksX6_suits_0 14 rfl rfl)
theorem dX6_suits_15 : decode cX6_suits 15 = .ok (.iaload, 1) := dk_46 (dk_at dksX6_suits_0 15 rfl rfl)
theorem dX6_suits_16 : decode cX6_suits 16 = .ok (.iload_n 2, 1) := dk_28 (dk_at dksX6_suits_0 16 rfl rfl)
theorem dX6_suits_17 : decode cX6_suits 17 = .ok (.if_icmp .ne 7, 3) := dk_160 0 7 (dk_at dksX6_suits_0 17 rfl rfl)
theorem dX6_suits_20 : decode cX6_suits 20 = .ok (.iconst 1, 1) := dk_4 (dk_at dksX6_suits_0 20 rfl rfl)
theorem dX6_suits_21 : decode cX6_suits 21 = .ok (.goto 4, 3) := dk_167 0 4 (dk_at dksX6_suits_0 21 rfl rfl)
theorem dX6_suits_24 : decode cX6_suits 24 = .ok (.iconst 0, 1) := dk_3 (dk_at dksX6_suits_1 0 rfl rfl)
theorem dX6_suits_25 : decode cX6_suits 25 = .ok (.ireturn, 1) := dk_172 (dk_at dksX6_suits_1 1 rfl rfl)
abbrev cX6_depthOf : ByteArray := prog_23_method_17_code
def yX6_depthOf : MethodName := ⟨RX6, "depthOf", "(III)I"⟩
def dkwX6_depthOf_2 : List UInt8 := [167, 0, 5, 21, 4, 54, 4, 132, 5, 1, 167, 255, 205, 21, 4, 4, 96, 172]
abbrev dktX6_depthOf_2 : List UInt8 := dkwX6_depthOf_2 ++ []
def dkwX6_depthOf_1 : List UInt8 := [2, 159, 0, 25, 42, 180, 0, 46, 21, 6, 46, 21, 4, 164, 0, 13, 42, 180, 0, 46, 21, 6, 46]
abbrev dktX6_depthOf_1 : List UInt8 := dkwX6_depthOf_1 ++ dktX6_depthOf_2
def dkwX6_depthOf_0 : List UInt8 := [3, 54, 4, 3, 54, 5, 21, 5, 6, 162, 0, 51, 27, 28, 29, 21, 5, 184, 0, 175, 54, 6, 21, 6]
abbrev dktX6_depthOf_0 : List UInt8 := dkwX6_depthOf_0 ++ dktX6_depthOf_1
theorem dksX6_depthOf_0 : cX6_depthOf.data.toList.drop 0 = dktX6_depthOf_0 := by decide +kernel
theorem dksX6_depthOf_1 : cX6_depthOf.data.toList.drop 24 = dktX6_depthOf_1 := dk_seg dksX6_depthOf_0 24 rfl rfl
theorem dksX6_depthOf_2 : cX6_depthOf.data.toList.drop 47 = dktX6_depthOf_2 := dk_seg dksX6_depthOf_1 23 rfl rfl
theorem dX6_depthOf_0 : decode cX6_depthOf 0 = .ok (.iconst 0, 1) := dk_3 (dk_at dksX6_depthOf_0 0 rfl rfl)
theorem dX6_depthOf_1 : decode cX6_depthOf 1 = .ok (.istore 4, 2) := dk_54 4 (dk_at dksX6_depthOf_0 1 rfl rfl)
theorem dX6_depthOf_3 : decode cX6_depthOf 3 = .ok (.iconst 0, 1) := dk_3 (dk_at dksX6_depthOf_0 3 rfl rfl)
theorem dX6_depthOf_4 : decode cX6_depthOf 4 = .ok (.istore 5, 2) := dk_54 5 (dk_at dksX6_depthOf_0 4 rfl rfl)
theorem dX6_depthOf_6 : decode cX6_depthOf 6 = .ok (.iload 5, 2) := dk_21 5 (dk_at dksX6_depthOf_0 6 rfl rfl)
theorem dX6_depthOf_8 : decode cX6_depthOf 8 = .ok (.iconst 3, 1) := dk_6 (dk_at dksX6_depthOf_0 8 rfl rfl)
theorem dX6_depthOf_9 : decode cX6_depthOf 9 = .ok (.if_icmp .ge 51, 3) := dk_162 0 51 (dk_at dksX6_depthOf_0 9 rfl rfl)
theorem dX6_depthOf_12 : decode cX6_depthOf 12 = .ok (.iload_n 1, 1) := dk_27 (dk_at dksX6_depthOf_0 12 rfl rfl)
theorem dX6_depthOf_13 : decode cX6_depthOf 13 = .ok (.iload_n 2, 1) := dk_28 (dk_at dksX6_depthOf_0 13 rfl rfl)
theorem dX6_depthOf_14 : decode cX6_depthOf 14 = .ok (.iload_n 3, 1) := dk_29 (dk_at dksX6_depthOf_0 14 rfl rfl)
theorem dX6_depthOf_15 : decode cX6_depthOf 15 = .ok (.iload 5, 2) := dk_21 5 (dk_at dksX6_depthOf_0 15 rfl rfl)
theorem dX6_depthOf_17 : decode cX6_depthOf 17 = .ok (.invokestatic 175, 3) := dk_184 0 175 (dk_at dksX6_depthOf_0 17 rfl rfl)
theorem dX6_depthOf_20 : decode cX6_depthOf 20 = .ok (.istore 6, 2) := dk_54 6 (dk_at dksX6_depthOf_0 20 rfl rfl)
theorem dX6_depthOf_22 : decode cX6_depthOf 22 = .ok (.iload 6, 2) := dk_21 6 (dk_at dksX6_depthOf_0 22 rfl rfl)
theorem dX6_depthOf_24 : decode cX6_depthOf 24 = .ok (.iconst (-1), 1) := dk_2 (dk_at dksX6_depthOf_1 0 rfl rfl)
theorem dX6_depthOf_25 : decode cX6_depthOf 25 = .ok (.if_icmp .eq 25, 3) := dk_159 0 25 (dk_at dksX6_depthOf_1 1 rfl rfl)
theorem dX6_depthOf_28 : decode cX6_depthOf 28 = .ok (.aload_n 0, 1) := dk_42 (dk_at dksX6_depthOf_1 4 rfl rfl)
theorem dX6_depthOf_29 : decode cX6_depthOf 29 = .ok (.getfield 46, 3) := dk_180 0 46 (dk_at dksX6_depthOf_1 5 rfl rfl)
theorem dX6_depthOf_32 : decode cX6_depthOf 32 = .ok (.iload 6, 2) := dk_21 6 (dk_at dksX6_depthOf_1 8 rfl rfl)
theorem dX6_depthOf_34 : decode cX6_depthOf 34 = .ok (.iaload, 1) := dk_46 (dk_at dksX6_depthOf_1 10 rfl rfl)
theorem dX6_depthOf_35 : decode cX6_depthOf 35 = .ok (.iload 4, 2) := dk_21 4 (dk_at dksX6_depthOf_1 11 rfl rfl)
theorem dX6_depthOf_37 : decode cX6_depthOf 37 = .ok (.if_icmp .le 13, 3) := dk_164 0 13 (dk_at dksX6_depthOf_1 13 rfl rfl)
theorem dX6_depthOf_40 : decode cX6_depthOf 40 = .ok (.aload_n 0, 1) := dk_42 (dk_at dksX6_depthOf_1 16 rfl rfl)
theorem dX6_depthOf_41 : decode cX6_depthOf 41 = .ok (.getfield 46, 3) := dk_180 0 46 (dk_at dksX6_depthOf_1 17 rfl rfl)
theorem dX6_depthOf_44 : decode cX6_depthOf 44 = .ok (.iload 6, 2) := dk_21 6 (dk_at dksX6_depthOf_1 20 rfl rfl)
theorem dX6_depthOf_46 : decode cX6_depthOf 46 = .ok (.iaload, 1) := dk_46 (dk_at dksX6_depthOf_1 22 rfl rfl)
theorem dX6_depthOf_47 : decode cX6_depthOf 47 = .ok (.goto 5, 3) := dk_167 0 5 (dk_at dksX6_depthOf_2 0 rfl rfl)
theorem dX6_depthOf_50 : decode cX6_depthOf 50 = .ok (.iload 4, 2) := dk_21 4 (dk_at dksX6_depthOf_2 3 rfl rfl)
theorem dX6_depthOf_52 : decode cX6_depthOf 52 = .ok (.istore 4, 2) := dk_54 4 (dk_at dksX6_depthOf_2 5 rfl rfl)
theorem dX6_depthOf_54 : decode cX6_depthOf 54 = .ok (.iinc 5 1, 3) := dk_132 5 1 (dk_at dksX6_depthOf_2 7 rfl rfl)
theorem dX6_depthOf_57 : decode cX6_depthOf 57 = .ok (.goto (-51), 3) := dk_167 255 205 (dk_at dksX6_depthOf_2 10 rfl rfl)
theorem dX6_depthOf_60 : decode cX6_depthOf 60 = .ok (.iload 4, 2) := dk_21 4 (dk_at dksX6_depthOf_2 13 rfl rfl)
theorem dX6_depthOf_62 : decode cX6_depthOf 62 = .ok (.iconst 1, 1) := dk_4 (dk_at dksX6_depthOf_2 15 rfl rfl)
theorem dX6_depthOf_63 : decode cX6_depthOf 63 = .ok (.iadd, 1) := dk_96 (dk_at dksX6_depthOf_2 16 rfl rfl)
theorem dX6_depthOf_64 : decode cX6_depthOf 64 = .ok (.ireturn, 1) := dk_172 (dk_at dksX6_depthOf_2 17 rfl rfl)
abbrev cX6_either : ByteArray := prog_23_method_25_code
def yX6_either : MethodName := ⟨RX6, "either", "(II)I"⟩
def dkwX6_either_3 : List UInt8 := [172]
abbrev dktX6_either_3 : List UInt8 := dkwX6_either_3 ++ []
def dkwX6_either_2 : List UInt8 := [153, 0, 7, 6, 167, 0, 4, 3, 182, 0, 183, 153, 0, 7, 3, 167, 0, 9, 42, 27, 28, 182, 0, 224]
abbrev dktX6_either_2 : List UInt8 := dkwX6_either_2 ++ dktX6_either_3
def dkwX6_either_1 : List UInt8 := [154, 0, 7, 4, 167, 0, 28, 42, 27, 28, 182, 0, 221, 154, 0, 7, 5, 167, 0, 15, 42, 182, 0, 204]
abbrev dktX6_either_1 : List UInt8 := dkwX6_either_1 ++ dktX6_either_2
def dkwX6_either_0 : List UInt8 := [42, 27, 182, 0, 212, 153, 0, 15, 42, 28, 182, 0, 212, 153, 0, 7, 4, 167, 0, 4, 3, 62, 42, 29]
abbrev dktX6_either_0 : List UInt8 := dkwX6_either_0 ++ dktX6_either_1
theorem dksX6_either_0 : cX6_either.data.toList.drop 0 = dktX6_either_0 := by decide +kernel
theorem dksX6_either_1 : cX6_either.data.toList.drop 24 = dktX6_either_1 := dk_seg dksX6_either_0 24 rfl rfl
theorem dksX6_either_2 : cX6_either.data.toList.drop 48 = dktX6_either_2 := dk_seg dksX6_either_1 24 rfl rfl
theorem dksX6_either_3 : cX6_either.data.toList.drop 72 = dktX6_either_3 := dk_seg dksX6_either_2 24 rfl rfl
theorem dX6_either_0 : decode cX6_either 0 = .ok (.aload_n 0, 1) := dk_42 (dk_at dksX6_either_0 0 rfl rfl)
theorem dX6_either_1 : decode cX6_either 1 = .ok (.iload_n 1, 1) := dk_27 (dk_at dksX6_either_0 1 rfl rfl)
theorem dX6_either_2 : decode cX6_either 2 = .ok (.invokevirtual 212, 3) := dk_182 0 212 (dk_at dksX6_either_0 2 rfl rfl)
theorem dX6_either_5 : decode cX6_either 5 = .ok (.ifCond .eq 15, 3) := dk_153 0 15 (dk_at dksX6_either_0 5 rfl rfl)
theorem dX6_either_8 : decode cX6_either 8 = .ok (.aload_n 0, 1) := dk_42 (dk_at dksX6_either_0 8 rfl rfl)
theorem dX6_either_9 : decode cX6_either 9 = .ok (.iload_n 2, 1) := dk_28 (dk_at dksX6_either_0 9 rfl rfl)
theorem dX6_either_10 : decode cX6_either 10 = .ok (.invokevirtual 212, 3) := dk_182 0 212 (dk_at dksX6_either_0 10 rfl rfl)
theorem dX6_either_13 : decode cX6_either 13 = .ok (.ifCond .eq 7, 3) := dk_153 0 7 (dk_at dksX6_either_0 13 rfl rfl)
theorem dX6_either_16 : decode cX6_either 16 = .ok (.iconst 1, 1) := dk_4 (dk_at dksX6_either_0 16 rfl rfl)
theorem dX6_either_17 : decode cX6_either 17 = .ok (.goto 4, 3) := dk_167 0 4 (dk_at dksX6_either_0 17 rfl rfl)
theorem dX6_either_20 : decode cX6_either 20 = .ok (.iconst 0, 1) := dk_3 (dk_at dksX6_either_0 20 rfl rfl)
theorem dX6_either_21 : decode cX6_either 21 = .ok (.istore_n 3, 1) := dk_62 (dk_at dksX6_either_0 21 rfl rfl)
theorem dX6_either_22 : decode cX6_either 22 = .ok (.aload_n 0, 1) := dk_42 (dk_at dksX6_either_0 22 rfl rfl)
theorem dX6_either_23 : decode cX6_either 23 = .ok (.iload_n 3, 1) := dk_29 (dk_at dksX6_either_0 23 rfl rfl)
theorem dX6_either_24 : decode cX6_either 24 = .ok (.ifCond .ne 7, 3) := dk_154 0 7 (dk_at dksX6_either_1 0 rfl rfl)
theorem dX6_either_27 : decode cX6_either 27 = .ok (.iconst 1, 1) := dk_4 (dk_at dksX6_either_1 3 rfl rfl)
theorem dX6_either_28 : decode cX6_either 28 = .ok (.goto 28, 3) := dk_167 0 28 (dk_at dksX6_either_1 4 rfl rfl)
theorem dX6_either_31 : decode cX6_either 31 = .ok (.aload_n 0, 1) := dk_42 (dk_at dksX6_either_1 7 rfl rfl)
theorem dX6_either_32 : decode cX6_either 32 = .ok (.iload_n 1, 1) := dk_27 (dk_at dksX6_either_1 8 rfl rfl)
theorem dX6_either_33 : decode cX6_either 33 = .ok (.iload_n 2, 1) := dk_28 (dk_at dksX6_either_1 9 rfl rfl)
theorem dX6_either_34 : decode cX6_either 34 = .ok (.invokevirtual 221, 3) := dk_182 0 221 (dk_at dksX6_either_1 10 rfl rfl)
theorem dX6_either_37 : decode cX6_either 37 = .ok (.ifCond .ne 7, 3) := dk_154 0 7 (dk_at dksX6_either_1 13 rfl rfl)
theorem dX6_either_40 : decode cX6_either 40 = .ok (.iconst 2, 1) := dk_5 (dk_at dksX6_either_1 16 rfl rfl)
theorem dX6_either_41 : decode cX6_either 41 = .ok (.goto 15, 3) := dk_167 0 15 (dk_at dksX6_either_1 17 rfl rfl)
theorem dX6_either_44 : decode cX6_either 44 = .ok (.aload_n 0, 1) := dk_42 (dk_at dksX6_either_1 20 rfl rfl)
theorem dX6_either_45 : decode cX6_either 45 = .ok (.invokevirtual 204, 3) := dk_182 0 204 (dk_at dksX6_either_1 21 rfl rfl)
theorem dX6_either_48 : decode cX6_either 48 = .ok (.ifCond .eq 7, 3) := dk_153 0 7 (dk_at dksX6_either_2 0 rfl rfl)
theorem dX6_either_51 : decode cX6_either 51 = .ok (.iconst 3, 1) := dk_6 (dk_at dksX6_either_2 3 rfl rfl)
theorem dX6_either_52 : decode cX6_either 52 = .ok (.goto 4, 3) := dk_167 0 4 (dk_at dksX6_either_2 4 rfl rfl)
theorem dX6_either_55 : decode cX6_either 55 = .ok (.iconst 0, 1) := dk_3 (dk_at dksX6_either_2 7 rfl rfl)
theorem dX6_either_56 : decode cX6_either 56 = .ok (.invokevirtual 183, 3) := dk_182 0 183 (dk_at dksX6_either_2 8 rfl rfl)
theorem dX6_either_59 : decode cX6_either 59 = .ok (.ifCond .eq 7, 3) := dk_153 0 7 (dk_at dksX6_either_2 11 rfl rfl)
theorem dX6_either_62 : decode cX6_either 62 = .ok (.iconst 0, 1) := dk_3 (dk_at dksX6_either_2 14 rfl rfl)
theorem dX6_either_63 : decode cX6_either 63 = .ok (.goto 9, 3) := dk_167 0 9 (dk_at dksX6_either_2 15 rfl rfl)
theorem dX6_either_66 : decode cX6_either 66 = .ok (.aload_n 0, 1) := dk_42 (dk_at dksX6_either_2 18 rfl rfl)
theorem dX6_either_67 : decode cX6_either 67 = .ok (.iload_n 1, 1) := dk_27 (dk_at dksX6_either_2 19 rfl rfl)
theorem dX6_either_68 : decode cX6_either 68 = .ok (.iload_n 2, 1) := dk_28 (dk_at dksX6_either_2 20 rfl rfl)
theorem dX6_either_69 : decode cX6_either 69 = .ok (.invokevirtual 224, 3) := dk_182 0 224 (dk_at dksX6_either_2 21 rfl rfl)
theorem dX6_either_72 : decode cX6_either 72 = .ok (.ireturn, 1) := dk_172 (dk_at dksX6_either_3 0 rfl rfl)
abbrev cX6_areAlternatives : ByteArray := prog_23_method_23_code
def yX6_areAlternatives : MethodName := ⟨RX6, "areAlternatives", "(II)Z"⟩
def dkwX6_areAlternatives_3 : List UInt8 := [163, 0, 7, 4, 167, 0, 4, 3, 172]
abbrev dktX6_areAlternatives_3 : List UInt8 := dkwX6_areAlternatives_3 ++ []
def dkwX6_areAlternatives_2 : List UInt8 := [180, 0, 52, 27, 46, 42, 180, 0, 52, 28, 46, 160, 0, 19, 42, 27, 28, 2, 182, 0, 200, 16, 40]
abbrev dktX6_areAlternatives_2 : List UInt8 := dkwX6_areAlternatives_2 ++ dktX6_areAlternatives_3
def dkwX6_areAlternatives_1 : List UInt8 := [27, 46, 42, 180, 0, 43, 28, 46, 160, 0, 7, 4, 167, 0, 4, 3, 62, 29, 153, 0, 34, 42]
abbrev dktX6_areAlternatives_1 : List UInt8 := dkwX6_areAlternatives_1 ++ dktX6_areAlternatives_2
def dkwX6_areAlternatives_0 : List UInt8 := [42, 180, 0, 43, 27, 46, 2, 159, 0, 28, 42, 180, 0, 43, 28, 46, 2, 159, 0, 18, 42, 180, 0, 43]
abbrev dktX6_areAlternatives_0 : List UInt8 := dkwX6_areAlternatives_0 ++ dktX6_areAlternatives_1
theorem dksX6_areAlternatives_0 : cX6_areAlternatives.data.toList.drop 0 = dktX6_areAlternatives_0 := by decide +kernel
theorem dksX6_areAlternatives_1 : cX6_areAlternatives.data.toList.drop 24 = dktX6_areAlternatives_1 := dk_seg dksX6_areAlternatives_0 24 rfl rfl
theorem dksX6_areAlternatives_2 : cX6_areAlternatives.data.toList.drop 46 = dktX6_areAlternatives_2 := dk_seg dksX6_areAlternatives_1 22 rfl rfl
theorem dksX6_areAlternatives_3 : cX6_areAlternatives.data.toList.drop 69 = dktX6_areAlternatives_3 := dk_seg dksX6_areAlternatives_2 23 rfl rfl
theorem dX6_areAlternatives_0 : decode cX6_areAlternatives 0 = .ok (.aload_n 0, 1) := dk_42 (dk_at dksX6_areAlternatives_0 0 rfl rfl)
theorem dX6_areAlternatives_1 : decode cX6_areAlternatives 1 = .ok (.getfield 43, 3) := dk_180 0 43 (dk_at dksX6_areAlternatives_0 1 rfl rfl)
theorem dX6_areAlternatives_4 : decode cX6_areAlternatives 4 = .ok (.iload_n 1, 1) := dk_27 (dk_at dksX6_areAlternatives_0 4 rfl rfl)
theorem dX6_areAlternatives_5 : decode cX6_areAlternatives 5 = .ok (.iaload, 1) := dk_46 (dk_at dksX6_areAlternatives_0 5 rfl rfl)
theorem dX6_areAlternatives_6 : decode cX6_areAlternatives 6 = .ok (.iconst (-1), 1) := dk_2 (dk_at dksX6_areAlternatives_0 6 rfl rfl)
theorem dX6_areAlternatives_7 : decode cX6_areAlternatives 7 = .ok (.if_icmp .eq 28, 3) := dk_159 0 28 (dk_at dksX6_areAlternatives_0 7 rfl rfl)
theorem dX6_areAlternatives_10 : decode cX6_areAlternatives 10 = .ok (.aload_n 0, 1) := dk_42 (dk_at dksX6_areAlternatives_0 10 rfl rfl)
theorem dX6_areAlternatives_11 : decode cX6_areAlternatives 11 = .ok (.getfield 43, 3) := dk_180 0 43 (dk_at dksX6_areAlternatives_0 11 rfl rfl)
theorem dX6_areAlternatives_14 : decode cX6_areAlternatives 14 = .ok (.iload_n 2, 1) := dk_28 (dk_at dksX6_areAlternatives_0 14 rfl rfl)
theorem dX6_areAlternatives_15 : decode cX6_areAlternatives 15 = .ok (.iaload, 1) := dk_46 (dk_at dksX6_areAlternatives_0 15 rfl rfl)
theorem dX6_areAlternatives_16 : decode cX6_areAlternatives 16 = .ok (.iconst (-1), 1) := dk_2 (dk_at dksX6_areAlternatives_0 16 rfl rfl)
theorem dX6_areAlternatives_17 : decode cX6_areAlternatives 17 = .ok (.if_icmp .eq 18, 3) := dk_159 0 18 (dk_at dksX6_areAlternatives_0 17 rfl rfl)
theorem dX6_areAlternatives_20 : decode cX6_areAlternatives 20 = .ok (.aload_n 0, 1) := dk_42 (dk_at dksX6_areAlternatives_0 20 rfl rfl)
theorem dX6_areAlternatives_21 : decode cX6_areAlternatives 21 = .ok (.getfield 43, 3) := dk_180 0 43 (dk_at dksX6_areAlternatives_0 21 rfl rfl)
theorem dX6_areAlternatives_24 : decode cX6_areAlternatives 24 = .ok (.iload_n 1, 1) := dk_27 (dk_at dksX6_areAlternatives_1 0 rfl rfl)
theorem dX6_areAlternatives_25 : decode cX6_areAlternatives 25 = .ok (.iaload, 1) := dk_46 (dk_at dksX6_areAlternatives_1 1 rfl rfl)
theorem dX6_areAlternatives_26 : decode cX6_areAlternatives 26 = .ok (.aload_n 0, 1) := dk_42 (dk_at dksX6_areAlternatives_1 2 rfl rfl)
theorem dX6_areAlternatives_27 : decode cX6_areAlternatives 27 = .ok (.getfield 43, 3) := dk_180 0 43 (dk_at dksX6_areAlternatives_1 3 rfl rfl)
theorem dX6_areAlternatives_30 : decode cX6_areAlternatives 30 = .ok (.iload_n 2, 1) := dk_28 (dk_at dksX6_areAlternatives_1 6 rfl rfl)
theorem dX6_areAlternatives_31 : decode cX6_areAlternatives 31 = .ok (.iaload, 1) := dk_46 (dk_at dksX6_areAlternatives_1 7 rfl rfl)
theorem dX6_areAlternatives_32 : decode cX6_areAlternatives 32 = .ok (.if_icmp .ne 7, 3) := dk_160 0 7 (dk_at dksX6_areAlternatives_1 8 rfl rfl)
theorem dX6_areAlternatives_35 : decode cX6_areAlternatives 35 = .ok (.iconst 1, 1) := dk_4 (dk_at dksX6_areAlternatives_1 11 rfl rfl)
theorem dX6_areAlternatives_36 : decode cX6_areAlternatives 36 = .ok (.goto 4, 3) := dk_167 0 4 (dk_at dksX6_areAlternatives_1 12 rfl rfl)
theorem dX6_areAlternatives_39 : decode cX6_areAlternatives 39 = .ok (.iconst 0, 1) := dk_3 (dk_at dksX6_areAlternatives_1 15 rfl rfl)
theorem dX6_areAlternatives_40 : decode cX6_areAlternatives 40 = .ok (.istore_n 3, 1) := dk_62 (dk_at dksX6_areAlternatives_1 16 rfl rfl)
theorem dX6_areAlternatives_41 : decode cX6_areAlternatives 41 = .ok (.iload_n 3, 1) := dk_29 (dk_at dksX6_areAlternatives_1 17 rfl rfl)
theorem dX6_areAlternatives_42 : decode cX6_areAlternatives 42 = .ok (.ifCond .eq 34, 3) := dk_153 0 34 (dk_at dksX6_areAlternatives_1 18 rfl rfl)
theorem dX6_areAlternatives_45 : decode cX6_areAlternatives 45 = .ok (.aload_n 0, 1) := dk_42 (dk_at dksX6_areAlternatives_1 21 rfl rfl)
theorem dX6_areAlternatives_46 : decode cX6_areAlternatives 46 = .ok (.getfield 52, 3) := dk_180 0 52 (dk_at dksX6_areAlternatives_2 0 rfl rfl)
theorem dX6_areAlternatives_49 : decode cX6_areAlternatives 49 = .ok (.iload_n 1, 1) := dk_27 (dk_at dksX6_areAlternatives_2 3 rfl rfl)
theorem dX6_areAlternatives_50 : decode cX6_areAlternatives 50 = .ok (.iaload, 1) := dk_46 (dk_at dksX6_areAlternatives_2 4 rfl rfl)
theorem dX6_areAlternatives_51 : decode cX6_areAlternatives 51 = .ok (.aload_n 0, 1) := dk_42 (dk_at dksX6_areAlternatives_2 5 rfl rfl)
theorem dX6_areAlternatives_52 : decode cX6_areAlternatives 52 = .ok (.getfield 52, 3) := dk_180 0 52 (dk_at dksX6_areAlternatives_2 6 rfl rfl)
theorem dX6_areAlternatives_55 : decode cX6_areAlternatives 55 = .ok (.iload_n 2, 1) := dk_28 (dk_at dksX6_areAlternatives_2 9 rfl rfl)
theorem dX6_areAlternatives_56 : decode cX6_areAlternatives 56 = .ok (.iaload, 1) := dk_46 (dk_at dksX6_areAlternatives_2 10 rfl rfl)
theorem dX6_areAlternatives_57 : decode cX6_areAlternatives 57 = .ok (.if_icmp .ne 19, 3) := dk_160 0 19 (dk_at dksX6_areAlternatives_2 11 rfl rfl)
theorem dX6_areAlternatives_60 : decode cX6_areAlternatives 60 = .ok (.aload_n 0, 1) := dk_42 (dk_at dksX6_areAlternatives_2 14 rfl rfl)
theorem dX6_areAlternatives_61 : decode cX6_areAlternatives 61 = .ok (.iload_n 1, 1) := dk_27 (dk_at dksX6_areAlternatives_2 15 rfl rfl)
theorem dX6_areAlternatives_62 : decode cX6_areAlternatives 62 = .ok (.iload_n 2, 1) := dk_28 (dk_at dksX6_areAlternatives_2 16 rfl rfl)
theorem dX6_areAlternatives_63 : decode cX6_areAlternatives 63 = .ok (.iconst (-1), 1) := dk_2 (dk_at dksX6_areAlternatives_2 17 rfl rfl)
theorem dX6_areAlternatives_64 : decode cX6_areAlternatives 64 = .ok (.invokevirtual 200, 3) := dk_182 0 200 (dk_at dksX6_areAlternatives_2 18 rfl rfl)
theorem dX6_areAlternatives_67 : decode cX6_areAlternatives 67 = .ok (.bipush 40, 2) := dk_16 40 (dk_at dksX6_areAlternatives_2 21 rfl rfl)
theorem dX6_areAlternatives_69 : decode cX6_areAlternatives 69 = .ok (.if_icmp .gt 7, 3) := dk_163 0 7 (dk_at dksX6_areAlternatives_3 0 rfl rfl)
theorem dX6_areAlternatives_72 : decode cX6_areAlternatives 72 = .ok (.iconst 1, 1) := dk_4 (dk_at dksX6_areAlternatives_3 3 rfl rfl)
theorem dX6_areAlternatives_73 : decode cX6_areAlternatives 73 = .ok (.goto 4, 3) := dk_167 0 4 (dk_at dksX6_areAlternatives_3 4 rfl rfl)
theorem dX6_areAlternatives_76 : decode cX6_areAlternatives 76 = .ok (.iconst 0, 1) := dk_3 (dk_at dksX6_areAlternatives_3 7 rfl rfl)
theorem dX6_areAlternatives_77 : decode cX6_areAlternatives 77 = .ok (.ireturn, 1) := dk_172 (dk_at dksX6_areAlternatives_3 8 rfl rfl)
abbrev cX6_alternatives : ByteArray := prog_23_method_24_code
def yX6_alternatives : MethodName := ⟨RX6, "alternatives", "(II)I"⟩
def dkwX6_alternatives_1 : List UInt8 := [167, 0, 9, 42, 180, 0, 43, 27, 46, 182, 0, 208, 172]
abbrev dktX6_alternatives_1 : List UInt8 := dkwX6_alternatives_1 ++ []
def dkwX6_alternatives_0 : List UInt8 := [42, 7, 3, 3, 27, 28, 2, 42, 180, 0, 43, 27, 46, 2, 160, 0, 12, 42, 180, 0, 43, 28, 46]
abbrev dktX6_alternatives_0 : List UInt8 := dkwX6_alternatives_0 ++ dktX6_alternatives_1
theorem dksX6_alternatives_0 : cX6_alternatives.data.toList.drop 0 = dktX6_alternatives_0 := by decide +kernel
theorem dksX6_alternatives_1 : cX6_alternatives.data.toList.drop 23 = dktX6_alternatives_1 := dk_seg dksX6_alternatives_0 23 rfl rfl
theorem dX6_alternatives_0 : decode cX6_alternatives 0 = .ok (.aload_n 0, 1) := dk_42 (dk_at dksX6_alternatives_0 0 rfl rfl)
theorem dX6_alternatives_1 : decode cX6_alternatives 1 = .ok (.iconst 4, 1) := dk_7 (dk_at dksX6_alternatives_0 1 rfl rfl)
theorem dX6_alternatives_2 : decode cX6_alternatives 2 = .ok (.iconst 0, 1) := dk_3 (dk_at dksX6_alternatives_0 2 rfl rfl)
theorem dX6_alternatives_3 : decode cX6_alternatives 3 = .ok (.iconst 0, 1) := dk_3 (dk_at dksX6_alternatives_0 3 rfl rfl)
theorem dX6_alternatives_4 : decode cX6_alternatives 4 = .ok (.iload_n 1, 1) := dk_27 (dk_at dksX6_alternatives_0 4 rfl rfl)
theorem dX6_alternatives_5 : decode cX6_alternatives 5 = .ok (.iload_n 2, 1) := dk_28 (dk_at dksX6_alternatives_0 5 rfl rfl)
theorem dX6_alternatives_6 : decode cX6_alternatives 6 = .ok (.iconst (-1), 1) := dk_2 (dk_at dksX6_alternatives_0 6 rfl rfl)
theorem dX6_alternatives_7 : decode cX6_alternatives 7 = .ok (.aload_n 0, 1) := dk_42 (dk_at dksX6_alternatives_0 7 rfl rfl)
theorem dX6_alternatives_8 : decode cX6_alternatives 8 = .ok (.getfield 43, 3) := dk_180 0 43 (dk_at dksX6_alternatives_0 8 rfl rfl)
theorem dX6_alternatives_11 : decode cX6_alternatives 11 = .ok (.iload_n 1, 1) := dk_27 (dk_at dksX6_alternatives_0 11 rfl rfl)
theorem dX6_alternatives_12 : decode cX6_alternatives 12 = .ok (.iaload, 1) := dk_46 (dk_at dksX6_alternatives_0 12 rfl rfl)
theorem dX6_alternatives_13 : decode cX6_alternatives 13 = .ok (.iconst (-1), 1) := dk_2 (dk_at dksX6_alternatives_0 13 rfl rfl)
theorem dX6_alternatives_14 : decode cX6_alternatives 14 = .ok (.if_icmp .ne 12, 3) := dk_160 0 12 (dk_at dksX6_alternatives_0 14 rfl rfl)
theorem dX6_alternatives_17 : decode cX6_alternatives 17 = .ok (.aload_n 0, 1) := dk_42 (dk_at dksX6_alternatives_0 17 rfl rfl)
theorem dX6_alternatives_18 : decode cX6_alternatives 18 = .ok (.getfield 43, 3) := dk_180 0 43 (dk_at dksX6_alternatives_0 18 rfl rfl)
theorem dX6_alternatives_21 : decode cX6_alternatives 21 = .ok (.iload_n 2, 1) := dk_28 (dk_at dksX6_alternatives_0 21 rfl rfl)
theorem dX6_alternatives_22 : decode cX6_alternatives 22 = .ok (.iaload, 1) := dk_46 (dk_at dksX6_alternatives_0 22 rfl rfl)
theorem dX6_alternatives_23 : decode cX6_alternatives 23 = .ok (.goto 9, 3) := dk_167 0 9 (dk_at dksX6_alternatives_1 0 rfl rfl)
theorem dX6_alternatives_26 : decode cX6_alternatives 26 = .ok (.aload_n 0, 1) := dk_42 (dk_at dksX6_alternatives_1 3 rfl rfl)
theorem dX6_alternatives_27 : decode cX6_alternatives 27 = .ok (.getfield 43, 3) := dk_180 0 43 (dk_at dksX6_alternatives_1 4 rfl rfl)
theorem dX6_alternatives_30 : decode cX6_alternatives 30 = .ok (.iload_n 1, 1) := dk_27 (dk_at dksX6_alternatives_1 7 rfl rfl)
theorem dX6_alternatives_31 : decode cX6_alternatives 31 = .ok (.iaload, 1) := dk_46 (dk_at dksX6_alternatives_1 8 rfl rfl)
theorem dX6_alternatives_32 : decode cX6_alternatives 32 = .ok (.invokevirtual 208, 3) := dk_182 0 208 (dk_at dksX6_alternatives_1 9 rfl rfl)
theorem dX6_alternatives_35 : decode cX6_alternatives 35 = .ok (.ireturn, 1) := dk_172 (dk_at dksX6_alternatives_1 12 rfl rfl)
abbrev cX6_view : ByteArray := prog_23_method_26_code
def yX6_view : MethodName := ⟨RX6, "view", "(II)I"⟩
def dkwX6_view_4 : List UInt8 := [167, 0, 14, 42, 8, 27, 3, 28, 2, 2, 2, 182, 0, 208, 172]
abbrev dktX6_view_4 : List UInt8 := dkwX6_view_4 ++ []
def dkwX6_view_3 : List UInt8 := [167, 0, 15, 42, 182, 0, 204, 153, 0, 7, 6, 167, 0, 4, 3, 182, 0, 183, 153, 0, 7, 3]
abbrev dktX6_view_3 : List UInt8 := dkwX6_view_3 ++ dktX6_view_4
def dkwX6_view_2 : List UInt8 := [4, 167, 0, 4, 3, 54, 4, 42, 29, 154, 0, 7, 4, 167, 0, 24, 21, 4, 154, 0, 7, 5]
abbrev dktX6_view_2 : List UInt8 := dkwX6_view_2 ++ dktX6_view_3
def dkwX6_view_1 : List UInt8 := [153, 0, 28, 42, 180, 0, 59, 28, 51, 153, 0, 19, 42, 28, 2, 2, 182, 0, 200, 16, 40, 163, 0, 7]
abbrev dktX6_view_1 : List UInt8 := dkwX6_view_1 ++ dktX6_view_2
def dkwX6_view_0 : List UInt8 := [27, 3, 5, 184, 0, 171, 153, 0, 15, 42, 28, 182, 0, 212, 153, 0, 7, 4, 167, 0, 4, 3, 62, 29]
abbrev dktX6_view_0 : List UInt8 := dkwX6_view_0 ++ dktX6_view_1
theorem dksX6_view_0 : cX6_view.data.toList.drop 0 = dktX6_view_0 := by decide +kernel
theorem dksX6_view_1 : cX6_view.data.toList.drop 24 = dktX6_view_1 := dk_seg dksX6_view_0 24 rfl rfl
theorem dksX6_view_2 : cX6_view.data.toList.drop 48 = dktX6_view_2 := dk_seg dksX6_view_1 24 rfl rfl
theorem dksX6_view_3 : cX6_view.data.toList.drop 70 = dktX6_view_3 := dk_seg dksX6_view_2 22 rfl rfl
theorem dksX6_view_4 : cX6_view.data.toList.drop 92 = dktX6_view_4 := dk_seg dksX6_view_3 22 rfl rfl
theorem dX6_view_0 : decode cX6_view 0 = .ok (.iload_n 1, 1) := dk_27 (dk_at dksX6_view_0 0 rfl rfl)
theorem dX6_view_1 : decode cX6_view 1 = .ok (.iconst 0, 1) := dk_3 (dk_at dksX6_view_0 1 rfl rfl)
theorem dX6_view_2 : decode cX6_view 2 = .ok (.iconst 2, 1) := dk_5 (dk_at dksX6_view_0 2 rfl rfl)
theorem dX6_view_3 : decode cX6_view 3 = .ok (.invokestatic 171, 3) := dk_184 0 171 (dk_at dksX6_view_0 3 rfl rfl)
theorem dX6_view_6 : decode cX6_view 6 = .ok (.ifCond .eq 15, 3) := dk_153 0 15 (dk_at dksX6_view_0 6 rfl rfl)
theorem dX6_view_9 : decode cX6_view 9 = .ok (.aload_n 0, 1) := dk_42 (dk_at dksX6_view_0 9 rfl rfl)
theorem dX6_view_10 : decode cX6_view 10 = .ok (.iload_n 2, 1) := dk_28 (dk_at dksX6_view_0 10 rfl rfl)
theorem dX6_view_11 : decode cX6_view 11 = .ok (.invokevirtual 212, 3) := dk_182 0 212 (dk_at dksX6_view_0 11 rfl rfl)
theorem dX6_view_14 : decode cX6_view 14 = .ok (.ifCond .eq 7, 3) := dk_153 0 7 (dk_at dksX6_view_0 14 rfl rfl)
theorem dX6_view_17 : decode cX6_view 17 = .ok (.iconst 1, 1) := dk_4 (dk_at dksX6_view_0 17 rfl rfl)
theorem dX6_view_18 : decode cX6_view 18 = .ok (.goto 4, 3) := dk_167 0 4 (dk_at dksX6_view_0 18 rfl rfl)
theorem dX6_view_21 : decode cX6_view 21 = .ok (.iconst 0, 1) := dk_3 (dk_at dksX6_view_0 21 rfl rfl)
theorem dX6_view_22 : decode cX6_view 22 = .ok (.istore_n 3, 1) := dk_62 (dk_at dksX6_view_0 22 rfl rfl)
theorem dX6_view_23 : decode cX6_view 23 = .ok (.iload_n 3, 1) := dk_29 (dk_at dksX6_view_0 23 rfl rfl)
theorem dX6_view_24 : decode cX6_view 24 = .ok (.ifCond .eq 28, 3) := dk_153 0 28 (dk_at dksX6_view_1 0 rfl rfl)
theorem dX6_view_27 : decode cX6_view 27 = .ok (.aload_n 0, 1) := dk_42 (dk_at dksX6_view_1 3 rfl rfl)
theorem dX6_view_28 : decode cX6_view 28 = .ok (.getfield 59, 3) := dk_180 0 59 (dk_at dksX6_view_1 4 rfl rfl)
theorem dX6_view_31 : decode cX6_view 31 = .ok (.iload_n 2, 1) := dk_28 (dk_at dksX6_view_1 7 rfl rfl)
theorem dX6_view_32 : decode cX6_view 32 = .ok (.baload, 1) := dk_51 (dk_at dksX6_view_1 8 rfl rfl)
theorem dX6_view_33 : decode cX6_view 33 = .ok (.ifCond .eq 19, 3) := dk_153 0 19 (dk_at dksX6_view_1 9 rfl rfl)
theorem dX6_view_36 : decode cX6_view 36 = .ok (.aload_n 0, 1) := dk_42 (dk_at dksX6_view_1 12 rfl rfl)
theorem dX6_view_37 : decode cX6_view 37 = .ok (.iload_n 2, 1) := dk_28 (dk_at dksX6_view_1 13 rfl rfl)
theorem dX6_view_38 : decode cX6_view 38 = .ok (.iconst (-1), 1) := dk_2 (dk_at dksX6_view_1 14 rfl rfl)
theorem dX6_view_39 : decode cX6_view 39 = .ok (.iconst (-1), 1) := dk_2 (dk_at dksX6_view_1 15 rfl rfl)
theorem dX6_view_40 : decode cX6_view 40 = .ok (.invokevirtual 200, 3) := dk_182 0 200 (dk_at dksX6_view_1 16 rfl rfl)
theorem dX6_view_43 : decode cX6_view 43 = .ok (.bipush 40, 2) := dk_16 40 (dk_at dksX6_view_1 19 rfl rfl)
theorem dX6_view_45 : decode cX6_view 45 = .ok (.if_icmp .gt 7, 3) := dk_163 0 7 (dk_at dksX6_view_1 21 rfl rfl)
theorem dX6_view_48 : decode cX6_view 48 = .ok (.iconst 1, 1) := dk_4 (dk_at dksX6_view_2 0 rfl rfl)
theorem dX6_view_49 : decode cX6_view 49 = .ok (.goto 4, 3) := dk_167 0 4 (dk_at dksX6_view_2 1 rfl rfl)
theorem dX6_view_52 : decode cX6_view 52 = .ok (.iconst 0, 1) := dk_3 (dk_at dksX6_view_2 4 rfl rfl)
theorem dX6_view_53 : decode cX6_view 53 = .ok (.istore 4, 2) := dk_54 4 (dk_at dksX6_view_2 5 rfl rfl)
theorem dX6_view_55 : decode cX6_view 55 = .ok (.aload_n 0, 1) := dk_42 (dk_at dksX6_view_2 7 rfl rfl)
theorem dX6_view_56 : decode cX6_view 56 = .ok (.iload_n 3, 1) := dk_29 (dk_at dksX6_view_2 8 rfl rfl)
theorem dX6_view_57 : decode cX6_view 57 = .ok (.ifCond .ne 7, 3) := dk_154 0 7 (dk_at dksX6_view_2 9 rfl rfl)
theorem dX6_view_60 : decode cX6_view 60 = .ok (.iconst 1, 1) := dk_4 (dk_at dksX6_view_2 12 rfl rfl)
theorem dX6_view_61 : decode cX6_view 61 = .ok (.goto 24, 3) := dk_167 0 24 (dk_at dksX6_view_2 13 rfl rfl)
theorem dX6_view_64 : decode cX6_view 64 = .ok (.iload 4, 2) := dk_21 4 (dk_at dksX6_view_2 16 rfl rfl)
theorem dX6_view_66 : decode cX6_view 66 = .ok (.ifCond .ne 7, 3) := dk_154 0 7 (dk_at dksX6_view_2 18 rfl rfl)
theorem dX6_view_69 : decode cX6_view 69 = .ok (.iconst 2, 1) := dk_5 (dk_at dksX6_view_2 21 rfl rfl)
theorem dX6_view_70 : decode cX6_view 70 = .ok (.goto 15, 3) := dk_167 0 15 (dk_at dksX6_view_3 0 rfl rfl)
theorem dX6_view_73 : decode cX6_view 73 = .ok (.aload_n 0, 1) := dk_42 (dk_at dksX6_view_3 3 rfl rfl)
theorem dX6_view_74 : decode cX6_view 74 = .ok (.invokevirtual 204, 3) := dk_182 0 204 (dk_at dksX6_view_3 4 rfl rfl)
theorem dX6_view_77 : decode cX6_view 77 = .ok (.ifCond .eq 7, 3) := dk_153 0 7 (dk_at dksX6_view_3 7 rfl rfl)
theorem dX6_view_80 : decode cX6_view 80 = .ok (.iconst 3, 1) := dk_6 (dk_at dksX6_view_3 10 rfl rfl)
theorem dX6_view_81 : decode cX6_view 81 = .ok (.goto 4, 3) := dk_167 0 4 (dk_at dksX6_view_3 11 rfl rfl)
theorem dX6_view_84 : decode cX6_view 84 = .ok (.iconst 0, 1) := dk_3 (dk_at dksX6_view_3 14 rfl rfl)
theorem dX6_view_85 : decode cX6_view 85 = .ok (.invokevirtual 183, 3) := dk_182 0 183 (dk_at dksX6_view_3 15 rfl rfl)
theorem dX6_view_88 : decode cX6_view 88 = .ok (.ifCond .eq 7, 3) := dk_153 0 7 (dk_at dksX6_view_3 18 rfl rfl)
theorem dX6_view_91 : decode cX6_view 91 = .ok (.iconst 0, 1) := dk_3 (dk_at dksX6_view_3 21 rfl rfl)
theorem dX6_view_92 : decode cX6_view 92 = .ok (.goto 14, 3) := dk_167 0 14 (dk_at dksX6_view_4 0 rfl rfl)
theorem dX6_view_95 : decode cX6_view 95 = .ok (.aload_n 0, 1) := dk_42 (dk_at dksX6_view_4 3 rfl rfl)
theorem dX6_view_96 : decode cX6_view 96 = .ok (.iconst 5, 1) := dk_8 (dk_at dksX6_view_4 4 rfl rfl)
theorem dX6_view_97 : decode cX6_view 97 = .ok (.iload_n 1, 1) := dk_27 (dk_at dksX6_view_4 5 rfl rfl)
theorem dX6_view_98 : decode cX6_view 98 = .ok (.iconst 0, 1) := dk_3 (dk_at dksX6_view_4 6 rfl rfl)
theorem dX6_view_99 : decode cX6_view 99 = .ok (.iload_n 2, 1) := dk_28 (dk_at dksX6_view_4 7 rfl rfl)
theorem dX6_view_100 : decode cX6_view 100 = .ok (.iconst (-1), 1) := dk_2 (dk_at dksX6_view_4 8 rfl rfl)
theorem dX6_view_101 : decode cX6_view 101 = .ok (.iconst (-1), 1) := dk_2 (dk_at dksX6_view_4 9 rfl rfl)
theorem dX6_view_102 : decode cX6_view 102 = .ok (.iconst (-1), 1) := dk_2 (dk_at dksX6_view_4 10 rfl rfl)
theorem dX6_view_103 : decode cX6_view 103 = .ok (.invokevirtual 208, 3) := dk_182 0 208 (dk_at dksX6_view_4 11 rfl rfl)
theorem dX6_view_106 : decode cX6_view 106 = .ok (.ireturn, 1) := dk_172 (dk_at dksX6_view_4 14 rfl rfl)
abbrev cX6_list : ByteArray := prog_23_method_27_code
def yX6_list : MethodName := ⟨RX6, "list", "(IIII)I"⟩
def dkwX6_list_11 : List UInt8 := [167, 0, 16, 42, 16, 6, 27, 21, 4, 28, 29, 2, 8, 182, 0, 208, 172]
abbrev dktX6_list_11 : List UInt8 := dkwX6_list_11 ++ []
def dkwX6_list_10 : List UInt8 := [167, 0, 15, 42, 182, 0, 204, 153, 0, 7, 6, 167, 0, 4, 3, 182, 0, 183, 153, 0, 7, 3]
abbrev dktX6_list_10 : List UInt8 := dkwX6_list_10 ++ dktX6_list_11
def dkwX6_list_9 : List UInt8 := [167, 0, 4, 3, 54, 7, 42, 21, 6, 154, 0, 7, 4, 167, 0, 24, 21, 7, 154, 0, 7, 5]
abbrev dktX6_list_9 : List UInt8 := dkwX6_list_9 ++ dktX6_list_10
def dkwX6_list_8 : List UInt8 := [42, 28, 29, 2, 182, 0, 218, 7, 163, 0, 19, 42, 28, 29, 2, 182, 0, 200, 16, 40, 163, 0, 7, 4]
abbrev dktX6_list_8 : List UInt8 := dkwX6_list_8 ++ dktX6_list_9
def dkwX6_list_7 : List UInt8 := [46, 167, 0, 4, 3, 128, 54, 8, 132, 9, 1, 167, 255, 107, 21, 6, 153, 0, 35, 21, 7, 153, 0, 30]
abbrev dktX6_list_7 : List UInt8 := dkwX6_list_7 ++ dktX6_list_8
def dkwX6_list_6 : List UInt8 := [167, 0, 4, 3, 54, 7, 21, 8, 21, 11, 153, 0, 18, 21, 12, 153, 0, 13, 42, 180, 0, 52, 21, 10]
abbrev dktX6_list_6 : List UInt8 := dkwX6_list_6 ++ dktX6_list_7
def dkwX6_list_5 : List UInt8 := [180, 0, 52, 21, 10, 46, 21, 8, 126, 154, 0, 16, 167, 0, 9, 21, 10, 2, 160, 0, 7, 4]
abbrev dktX6_list_5 : List UInt8 := dkwX6_list_5 ++ dktX6_list_6
def dkwX6_list_4 : List UInt8 := [153, 0, 49, 21, 11, 153, 0, 34, 21, 12, 153, 0, 39, 42, 21, 10, 7, 182, 0, 215, 153, 0, 29, 42]
abbrev dktX6_list_4 : List UInt8 := dkwX6_list_4 ++ dktX6_list_5
def dkwX6_list_3 : List UInt8 := [21, 6, 153, 0, 17, 21, 11, 153, 0, 8, 21, 12, 153, 0, 7, 4, 167, 0, 4, 3, 54, 6, 21, 7]
abbrev dktX6_list_3 : List UInt8 := dkwX6_list_3 ++ dktX6_list_4
def dkwX6_list_2 : List UInt8 := [153, 0, 13, 21, 9, 27, 162, 0, 7, 4, 167, 0, 4, 3, 54, 11, 42, 21, 10, 182, 0, 212, 54, 12]
abbrev dktX6_list_2 : List UInt8 := dkwX6_list_2 ++ dktX6_list_3
def dkwX6_list_1 : List UInt8 := [3, 54, 9, 21, 9, 5, 162, 0, 149, 21, 9, 154, 0, 7, 28, 167, 0, 4, 29, 54, 10, 21, 5]
abbrev dktX6_list_1 : List UInt8 := dkwX6_list_1 ++ dktX6_list_2
def dkwX6_list_0 : List UInt8 := [27, 3, 5, 184, 0, 171, 54, 5, 21, 4, 3, 5, 184, 0, 171, 54, 6, 21, 5, 54, 7, 3, 54, 8]
abbrev dktX6_list_0 : List UInt8 := dkwX6_list_0 ++ dktX6_list_1
theorem dksX6_list_0 : cX6_list.data.toList.drop 0 = dktX6_list_0 := by decide +kernel
theorem dksX6_list_1 : cX6_list.data.toList.drop 24 = dktX6_list_1 := dk_seg dksX6_list_0 24 rfl rfl
theorem dksX6_list_2 : cX6_list.data.toList.drop 47 = dktX6_list_2 := dk_seg dksX6_list_1 23 rfl rfl
theorem dksX6_list_3 : cX6_list.data.toList.drop 71 = dktX6_list_3 := dk_seg dksX6_list_2 24 rfl rfl
theorem dksX6_list_4 : cX6_list.data.toList.drop 95 = dktX6_list_4 := dk_seg dksX6_list_3 24 rfl rfl
theorem dksX6_list_5 : cX6_list.data.toList.drop 119 = dktX6_list_5 := dk_seg dksX6_list_4 24 rfl rfl
theorem dksX6_list_6 : cX6_list.data.toList.drop 141 = dktX6_list_6 := dk_seg dksX6_list_5 22 rfl rfl
theorem dksX6_list_7 : cX6_list.data.toList.drop 165 = dktX6_list_7 := dk_seg dksX6_list_6 24 rfl rfl
theorem dksX6_list_8 : cX6_list.data.toList.drop 189 = dktX6_list_8 := dk_seg dksX6_list_7 24 rfl rfl
theorem dksX6_list_9 : cX6_list.data.toList.drop 213 = dktX6_list_9 := dk_seg dksX6_list_8 24 rfl rfl
theorem dksX6_list_10 : cX6_list.data.toList.drop 235 = dktX6_list_10 := dk_seg dksX6_list_9 22 rfl rfl
theorem dksX6_list_11 : cX6_list.data.toList.drop 257 = dktX6_list_11 := dk_seg dksX6_list_10 22 rfl rfl
theorem dX6_list_0 : decode cX6_list 0 = .ok (.iload_n 1, 1) := dk_27 (dk_at dksX6_list_0 0 rfl rfl)
theorem dX6_list_1 : decode cX6_list 1 = .ok (.iconst 0, 1) := dk_3 (dk_at dksX6_list_0 1 rfl rfl)
theorem dX6_list_2 : decode cX6_list 2 = .ok (.iconst 2, 1) := dk_5 (dk_at dksX6_list_0 2 rfl rfl)
theorem dX6_list_3 : decode cX6_list 3 = .ok (.invokestatic 171, 3) := dk_184 0 171 (dk_at dksX6_list_0 3 rfl rfl)
theorem dX6_list_6 : decode cX6_list 6 = .ok (.istore 5, 2) := dk_54 5 (dk_at dksX6_list_0 6 rfl rfl)
theorem dX6_list_8 : decode cX6_list 8 = .ok (.iload 4, 2) := dk_21 4 (dk_at dksX6_list_0 8 rfl rfl)
theorem dX6_list_10 : decode cX6_list 10 = .ok (.iconst 0, 1) := dk_3 (dk_at dksX6_list_0 10 rfl rfl)
theorem dX6_list_11 : decode cX6_list 11 = .ok (.iconst 2, 1) := dk_5 (dk_at dksX6_list_0 11 rfl rfl)
theorem dX6_list_12 : decode cX6_list 12 = .ok (.invokestatic 171, 3) := dk_184 0 171 (dk_at dksX6_list_0 12 rfl rfl)
theorem dX6_list_15 : decode cX6_list 15 = .ok (.istore 6, 2) := dk_54 6 (dk_at dksX6_list_0 15 rfl rfl)
theorem dX6_list_17 : decode cX6_list 17 = .ok (.iload 5, 2) := dk_21 5 (dk_at dksX6_list_0 17 rfl rfl)
theorem dX6_list_19 : decode cX6_list 19 = .ok (.istore 7, 2) := dk_54 7 (dk_at dksX6_list_0 19 rfl rfl)
theorem dX6_list_21 : decode cX6_list 21 = .ok (.iconst 0, 1) := dk_3 (dk_at dksX6_list_0 21 rfl rfl)
theorem dX6_list_22 : decode cX6_list 22 = .ok (.istore 8, 2) := dk_54 8 (dk_at dksX6_list_0 22 rfl rfl)
theorem dX6_list_24 : decode cX6_list 24 = .ok (.iconst 0, 1) := dk_3 (dk_at dksX6_list_1 0 rfl rfl)
theorem dX6_list_25 : decode cX6_list 25 = .ok (.istore 9, 2) := dk_54 9 (dk_at dksX6_list_1 1 rfl rfl)
theorem dX6_list_27 : decode cX6_list 27 = .ok (.iload 9, 2) := dk_21 9 (dk_at dksX6_list_1 3 rfl rfl)
theorem dX6_list_29 : decode cX6_list 29 = .ok (.iconst 2, 1) := dk_5 (dk_at dksX6_list_1 5 rfl rfl)
theorem dX6_list_30 : decode cX6_list 30 = .ok (.if_icmp .ge 149, 3) := dk_162 0 149 (dk_at dksX6_list_1 6 rfl rfl)
theorem dX6_list_33 : decode cX6_list 33 = .ok (.iload 9, 2) := dk_21 9 (dk_at dksX6_list_1 9 rfl rfl)
theorem dX6_list_35 : decode cX6_list 35 = .ok (.ifCond .ne 7, 3) := dk_154 0 7 (dk_at dksX6_list_1 11 rfl rfl)
theorem dX6_list_38 : decode cX6_list 38 = .ok (.iload_n 2, 1) := dk_28 (dk_at dksX6_list_1 14 rfl rfl)
theorem dX6_list_39 : decode cX6_list 39 = .ok (.goto 4, 3) := dk_167 0 4 (dk_at dksX6_list_1 15 rfl rfl)
theorem dX6_list_42 : decode cX6_list 42 = .ok (.iload_n 3, 1) := dk_29 (dk_at dksX6_list_1 18 rfl rfl)
theorem dX6_list_43 : decode cX6_list 43 = .ok (.istore 10, 2) := dk_54 10 (dk_at dksX6_list_1 19 rfl rfl)
theorem dX6_list_45 : decode cX6_list 45 = .ok (.iload 5, 2) := dk_21 5 (dk_at dksX6_list_1 21 rfl rfl)
theorem dX6_list_47 : decode cX6_list 47 = .ok (.ifCond .eq 13, 3) := dk_153 0 13 (dk_at dksX6_list_2 0 rfl rfl)
theorem dX6_list_50 : decode cX6_list 50 = .ok (.iload 9, 2) := dk_21 9 (dk_at dksX6_list_2 3 rfl rfl)
theorem dX6_list_52 : decode cX6_list 52 = .ok (.iload_n 1, 1) := dk_27 (dk_at dksX6_list_2 5 rfl rfl)
theorem dX6_list_53 : decode cX6_list 53 = .ok (.if_icmp .ge 7, 3) := dk_162 0 7 (dk_at dksX6_list_2 6 rfl rfl)
theorem dX6_list_56 : decode cX6_list 56 = .ok (.iconst 1, 1) := dk_4 (dk_at dksX6_list_2 9 rfl rfl)
theorem dX6_list_57 : decode cX6_list 57 = .ok (.goto 4, 3) := dk_167 0 4 (dk_at dksX6_list_2 10 rfl rfl)
theorem dX6_list_60 : decode cX6_list 60 = .ok (.iconst 0, 1) := dk_3 (dk_at dksX6_list_2 13 rfl rfl)
theorem dX6_list_61 : decode cX6_list 61 = .ok (.istore 11, 2) := dk_54 11 (dk_at dksX6_list_2 14 rfl rfl)
theorem dX6_list_63 : decode cX6_list 63 = .ok (.aload_n 0, 1) := dk_42 (dk_at dksX6_list_2 16 rfl rfl)
theorem dX6_list_64 : decode cX6_list 64 = .ok (.iload 10, 2) := dk_21 10 (dk_at dksX6_list_2 17 rfl rfl)
theorem dX6_list_66 : decode cX6_list 66 = .ok (.invokevirtual 212, 3) := dk_182 0 212 (dk_at dksX6_list_2 19 rfl rfl)
theorem dX6_list_69 : decode cX6_list 69 = .ok (.istore 12, 2) := dk_54 12 (dk_at dksX6_list_2 22 rfl rfl)
theorem dX6_list_71 : decode cX6_list 71 = .ok (.iload 6, 2) := dk_21 6 (dk_at dksX6_list_3 0 rfl rfl)
theorem dX6_list_73 : decode cX6_list 73 = .ok (.ifCond .eq 17, 3) := dk_153 0 17 (dk_at dksX6_list_3 2 rfl rfl)
theorem dX6_list_76 : decode cX6_list 76 = .ok (.iload 11, 2) := dk_21 11 (dk_at dksX6_list_3 5 rfl rfl)
theorem dX6_list_78 : decode cX6_list 78 = .ok (.ifCond .eq 8, 3) := dk_153 0 8 (dk_at dksX6_list_3 7 rfl rfl)
theorem dX6_list_81 : decode cX6_list 81 = .ok (.iload 12, 2) := dk_21 12 (dk_at dksX6_list_3 10 rfl rfl)
theorem dX6_list_83 : decode cX6_list 83 = .ok (.ifCond .eq 7, 3) := dk_153 0 7 (dk_at dksX6_list_3 12 rfl rfl)
theorem dX6_list_86 : decode cX6_list 86 = .ok (.iconst 1, 1) := dk_4 (dk_at dksX6_list_3 15 rfl rfl)
theorem dX6_list_87 : decode cX6_list 87 = .ok (.goto 4, 3) := dk_167 0 4 (dk_at dksX6_list_3 16 rfl rfl)
theorem dX6_list_90 : decode cX6_list 90 = .ok (.iconst 0, 1) := dk_3 (dk_at dksX6_list_3 19 rfl rfl)
theorem dX6_list_91 : decode cX6_list 91 = .ok (.istore 6, 2) := dk_54 6 (dk_at dksX6_list_3 20 rfl rfl)
theorem dX6_list_93 : decode cX6_list 93 = .ok (.iload 7, 2) := dk_21 7 (dk_at dksX6_list_3 22 rfl rfl)
theorem dX6_list_95 : decode cX6_list 95 = .ok (.ifCond .eq 49, 3) := dk_153 0 49 (dk_at dksX6_list_4 0 rfl rfl)
theorem dX6_list_98 : decode cX6_list 98 = .ok (.iload 11, 2) := dk_21 11 (dk_at dksX6_list_4 3 rfl rfl)
theorem dX6_list_100 : decode cX6_list 100 = .ok (.ifCond .eq 34, 3) := dk_153 0 34 (dk_at dksX6_list_4 5 rfl rfl)
theorem dX6_list_103 : decode cX6_list 103 = .ok (.iload 12, 2) := dk_21 12 (dk_at dksX6_list_4 8 rfl rfl)
theorem dX6_list_105 : decode cX6_list 105 = .ok (.ifCond .eq 39, 3) := dk_153 0 39 (dk_at dksX6_list_4 10 rfl rfl)
theorem dX6_list_108 : decode cX6_list 108 = .ok (.aload_n 0, 1) := dk_42 (dk_at dksX6_list_4 13 rfl rfl)
theorem dX6_list_109 : decode cX6_list 109 = .ok (.iload 10, 2) := dk_21 10 (dk_at dksX6_list_4 14 rfl rfl)
theorem dX6_list_111 : decode cX6_list 111 = .ok (.iconst 4, 1) := dk_7 (dk_at dksX6_list_4 16 rfl rfl)
theorem dX6_list_112 : decode cX6_list 112 = .ok (.invokevirtual 215, 3) := dk_182 0 215 (dk_at dksX6_list_4 17 rfl rfl)
theorem dX6_list_115 : decode cX6_list 115 = .ok (.ifCond .eq 29, 3) := dk_153 0 29 (dk_at dksX6_list_4 20 rfl rfl)
theorem dX6_list_118 : decode cX6_list 118 = .ok (.aload_n 0, 1) := dk_42 (dk_at dksX6_list_4 23 rfl rfl)
theorem dX6_list_119 : decode cX6_list 119 = .ok (.getfield 52, 3) := dk_180 0 52 (dk_at dksX6_list_5 0 rfl rfl)
theorem dX6_list_122 : decode cX6_list 122 = .ok (.iload 10, 2) := dk_21 10 (dk_at dksX6_list_5 3 rfl rfl)
theorem dX6_list_124 : decode cX6_list 124 = .ok (.iaload, 1) := dk_46 (dk_at dksX6_list_5 5 rfl rfl)
theorem dX6_list_125 : decode cX6_list 125 = .ok (.iload 8, 2) := dk_21 8 (dk_at dksX6_list_5 6 rfl rfl)
theorem dX6_list_127 : decode cX6_list 127 = .ok (.iand, 1) := dk_126 (dk_at dksX6_list_5 8 rfl rfl)
theorem dX6_list_128 : decode cX6_list 128 = .ok (.ifCond .ne 16, 3) := dk_154 0 16 (dk_at dksX6_list_5 9 rfl rfl)
theorem dX6_list_131 : decode cX6_list 131 = .ok (.goto 9, 3) := dk_167 0 9 (dk_at dksX6_list_5 12 rfl rfl)
theorem dX6_list_134 : decode cX6_list 134 = .ok (.iload 10, 2) := dk_21 10 (dk_at dksX6_list_5 15 rfl rfl)
theorem dX6_list_136 : decode cX6_list 136 = .ok (.iconst (-1), 1) := dk_2 (dk_at dksX6_list_5 17 rfl rfl)
theorem dX6_list_137 : decode cX6_list 137 = .ok (.if_icmp .ne 7, 3) := dk_160 0 7 (dk_at dksX6_list_5 18 rfl rfl)
theorem dX6_list_140 : decode cX6_list 140 = .ok (.iconst 1, 1) := dk_4 (dk_at dksX6_list_5 21 rfl rfl)
theorem dX6_list_141 : decode cX6_list 141 = .ok (.goto 4, 3) := dk_167 0 4 (dk_at dksX6_list_6 0 rfl rfl)
theorem dX6_list_144 : decode cX6_list 144 = .ok (.iconst 0, 1) := dk_3 (dk_at dksX6_list_6 3 rfl rfl)
theorem dX6_list_145 : decode cX6_list 145 = .ok (.istore 7, 2) := dk_54 7 (dk_at dksX6_list_6 4 rfl rfl)
theorem dX6_list_147 : decode cX6_list 147 = .ok (.iload 8, 2) := dk_21 8 (dk_at dksX6_list_6 6 rfl rfl)
theorem dX6_list_149 : decode cX6_list 149 = .ok (.iload 11, 2) := dk_21 11 (dk_at dksX6_list_6 8 rfl rfl)
theorem dX6_list_151 : decode cX6_list 151 = .ok (.ifCond .eq 18, 3) := dk_153 0 18 (dk_at dksX6_list_6 10 rfl rfl)
theorem dX6_list_154 : decode cX6_list 154 = .ok (.iload 12, 2) := dk_21 12 (dk_at dksX6_list_6 13 rfl rfl)
theorem dX6_list_156 : decode cX6_list 156 = .ok (.ifCond .eq 13, 3) := dk_153 0 13 (dk_at dksX6_list_6 15 rfl rfl)
theorem dX6_list_159 : decode cX6_list 159 = .ok (.aload_n 0, 1) := dk_42 (dk_at dksX6_list_6 18 rfl rfl)
theorem dX6_list_160 : decode cX6_list 160 = .ok (.getfield 52, 3) := dk_180 0 52 (dk_at dksX6_list_6 19 rfl rfl)
theorem dX6_list_163 : decode cX6_list 163 = .ok (.iload 10, 2) := dk_21 10 (dk_at dksX6_list_6 22 rfl rfl)
theorem dX6_list_165 : decode cX6_list 165 = .ok (.iaload, 1) := dk_46 (dk_at dksX6_list_7 0 rfl rfl)
theorem dX6_list_166 : decode cX6_list 166 = .ok (.goto 4, 3) := dk_167 0 4 (dk_at dksX6_list_7 1 rfl rfl)
theorem dX6_list_169 : decode cX6_list 169 = .ok (.iconst 0, 1) := dk_3 (dk_at dksX6_list_7 4 rfl rfl)
theorem dX6_list_170 : decode cX6_list 170 = .ok (.ior, 1) := dk_128 (dk_at dksX6_list_7 5 rfl rfl)
theorem dX6_list_171 : decode cX6_list 171 = .ok (.istore 8, 2) := dk_54 8 (dk_at dksX6_list_7 6 rfl rfl)
theorem dX6_list_173 : decode cX6_list 173 = .ok (.iinc 9 1, 3) := dk_132 9 1 (dk_at dksX6_list_7 8 rfl rfl)
theorem dX6_list_176 : decode cX6_list 176 = .ok (.goto (-149), 3) := dk_167 255 107 (dk_at dksX6_list_7 11 rfl rfl)
theorem dX6_list_179 : decode cX6_list 179 = .ok (.iload 6, 2) := dk_21 6 (dk_at dksX6_list_7 14 rfl rfl)
theorem dX6_list_181 : decode cX6_list 181 = .ok (.ifCond .eq 35, 3) := dk_153 0 35 (dk_at dksX6_list_7 16 rfl rfl)
theorem dX6_list_184 : decode cX6_list 184 = .ok (.iload 7, 2) := dk_21 7 (dk_at dksX6_list_7 19 rfl rfl)
theorem dX6_list_186 : decode cX6_list 186 = .ok (.ifCond .eq 30, 3) := dk_153 0 30 (dk_at dksX6_list_7 21 rfl rfl)
theorem dX6_list_189 : decode cX6_list 189 = .ok (.aload_n 0, 1) := dk_42 (dk_at dksX6_list_8 0 rfl rfl)
theorem dX6_list_190 : decode cX6_list 190 = .ok (.iload_n 2, 1) := dk_28 (dk_at dksX6_list_8 1 rfl rfl)
theorem dX6_list_191 : decode cX6_list 191 = .ok (.iload_n 3, 1) := dk_29 (dk_at dksX6_list_8 2 rfl rfl)
theorem dX6_list_192 : decode cX6_list 192 = .ok (.iconst (-1), 1) := dk_2 (dk_at dksX6_list_8 3 rfl rfl)
theorem dX6_list_193 : decode cX6_list 193 = .ok (.invokevirtual 218, 3) := dk_182 0 218 (dk_at dksX6_list_8 4 rfl rfl)
theorem dX6_list_196 : decode cX6_list 196 = .ok (.iconst 4, 1) := dk_7 (dk_at dksX6_list_8 7 rfl rfl)
theorem dX6_list_197 : decode cX6_list 197 = .ok (.if_icmp .gt 19, 3) := dk_163 0 19 (dk_at dksX6_list_8 8 rfl rfl)
theorem dX6_list_200 : decode cX6_list 200 = .ok (.aload_n 0, 1) := dk_42 (dk_at dksX6_list_8 11 rfl rfl)
theorem dX6_list_201 : decode cX6_list 201 = .ok (.iload_n 2, 1) := dk_28 (dk_at dksX6_list_8 12 rfl rfl)
theorem dX6_list_202 : decode cX6_list 202 = .ok (.iload_n 3, 1) := dk_29 (dk_at dksX6_list_8 13 rfl rfl)
theorem dX6_list_203 : decode cX6_list 203 = .ok (.iconst (-1), 1) := dk_2 (dk_at dksX6_list_8 14 rfl rfl)
theorem dX6_list_204 : decode cX6_list 204 = .ok (.invokevirtual 200, 3) := dk_182 0 200 (dk_at dksX6_list_8 15 rfl rfl)
theorem dX6_list_207 : decode cX6_list 207 = .ok (.bipush 40, 2) := dk_16 40 (dk_at dksX6_list_8 18 rfl rfl)
theorem dX6_list_209 : decode cX6_list 209 = .ok (.if_icmp .gt 7, 3) := dk_163 0 7 (dk_at dksX6_list_8 20 rfl rfl)
theorem dX6_list_212 : decode cX6_list 212 = .ok (.iconst 1, 1) := dk_4 (dk_at dksX6_list_8 23 rfl rfl)
theorem dX6_list_213 : decode cX6_list 213 = .ok (.goto 4, 3) := dk_167 0 4 (dk_at dksX6_list_9 0 rfl rfl)
theorem dX6_list_216 : decode cX6_list 216 = .ok (.iconst 0, 1) := dk_3 (dk_at dksX6_list_9 3 rfl rfl)
theorem dX6_list_217 : decode cX6_list 217 = .ok (.istore 7, 2) := dk_54 7 (dk_at dksX6_list_9 4 rfl rfl)
theorem dX6_list_219 : decode cX6_list 219 = .ok (.aload_n 0, 1) := dk_42 (dk_at dksX6_list_9 6 rfl rfl)
theorem dX6_list_220 : decode cX6_list 220 = .ok (.iload 6, 2) := dk_21 6 (dk_at dksX6_list_9 7 rfl rfl)
theorem dX6_list_222 : decode cX6_list 222 = .ok (.ifCond .ne 7, 3) := dk_154 0 7 (dk_at dksX6_list_9 9 rfl rfl)
theorem dX6_list_225 : decode cX6_list 225 = .ok (.iconst 1, 1) := dk_4 (dk_at dksX6_list_9 12 rfl rfl)
theorem dX6_list_226 : decode cX6_list 226 = .ok (.goto 24, 3) := dk_167 0 24 (dk_at dksX6_list_9 13 rfl rfl)
theorem dX6_list_229 : decode cX6_list 229 = .ok (.iload 7, 2) := dk_21 7 (dk_at dksX6_list_9 16 rfl rfl)
theorem dX6_list_231 : decode cX6_list 231 = .ok (.ifCond .ne 7, 3) := dk_154 0 7 (dk_at dksX6_list_9 18 rfl rfl)
theorem dX6_list_234 : decode cX6_list 234 = .ok (.iconst 2, 1) := dk_5 (dk_at dksX6_list_9 21 rfl rfl)
theorem dX6_list_235 : decode cX6_list 235 = .ok (.goto 15, 3) := dk_167 0 15 (dk_at dksX6_list_10 0 rfl rfl)
theorem dX6_list_238 : decode cX6_list 238 = .ok (.aload_n 0, 1) := dk_42 (dk_at dksX6_list_10 3 rfl rfl)
theorem dX6_list_239 : decode cX6_list 239 = .ok (.invokevirtual 204, 3) := dk_182 0 204 (dk_at dksX6_list_10 4 rfl rfl)
theorem dX6_list_242 : decode cX6_list 242 = .ok (.ifCond .eq 7, 3) := dk_153 0 7 (dk_at dksX6_list_10 7 rfl rfl)
theorem dX6_list_245 : decode cX6_list 245 = .ok (.iconst 3, 1) := dk_6 (dk_at dksX6_list_10 10 rfl rfl)
theorem dX6_list_246 : decode cX6_list 246 = .ok (.goto 4, 3) := dk_167 0 4 (dk_at dksX6_list_10 11 rfl rfl)
theorem dX6_list_249 : decode cX6_list 249 = .ok (.iconst 0, 1) := dk_3 (dk_at dksX6_list_10 14 rfl rfl)
theorem dX6_list_250 : decode cX6_list 250 = .ok (.invokevirtual 183, 3) := dk_182 0 183 (dk_at dksX6_list_10 15 rfl rfl)
theorem dX6_list_253 : decode cX6_list 253 = .ok (.ifCond .eq 7, 3) := dk_153 0 7 (dk_at dksX6_list_10 18 rfl rfl)
theorem dX6_list_256 : decode cX6_list 256 = .ok (.iconst 0, 1) := dk_3 (dk_at dksX6_list_10 21 rfl rfl)
theorem dX6_list_257 : decode cX6_list 257 = .ok (.goto 16, 3) := dk_167 0 16 (dk_at dksX6_list_11 0 rfl rfl)
theorem dX6_list_260 : decode cX6_list 260 = .ok (.aload_n 0, 1) := dk_42 (dk_at dksX6_list_11 3 rfl rfl)
theorem dX6_list_261 : decode cX6_list 261 = .ok (.bipush 6, 2) := dk_16 6 (dk_at dksX6_list_11 4 rfl rfl)
theorem dX6_list_263 : decode cX6_list 263 = .ok (.iload_n 1, 1) := dk_27 (dk_at dksX6_list_11 6 rfl rfl)
theorem dX6_list_264 : decode cX6_list 264 = .ok (.iload 4, 2) := dk_21 4 (dk_at dksX6_list_11 7 rfl rfl)
theorem dX6_list_266 : decode cX6_list 266 = .ok (.iload_n 2, 1) := dk_28 (dk_at dksX6_list_11 9 rfl rfl)
theorem dX6_list_267 : decode cX6_list 267 = .ok (.iload_n 3, 1) := dk_29 (dk_at dksX6_list_11 10 rfl rfl)
theorem dX6_list_268 : decode cX6_list 268 = .ok (.iconst (-1), 1) := dk_2 (dk_at dksX6_list_11 11 rfl rfl)
theorem dX6_list_269 : decode cX6_list 269 = .ok (.iconst 5, 1) := dk_8 (dk_at dksX6_list_11 12 rfl rfl)
theorem dX6_list_270 : decode cX6_list 270 = .ok (.invokevirtual 208, 3) := dk_182 0 208 (dk_at dksX6_list_11 13 rfl rfl)
theorem dX6_list_273 : decode cX6_list 273 = .ok (.ireturn, 1) := dk_172 (dk_at dksX6_list_11 16 rfl rfl)
abbrev cX6_setView : ByteArray := prog_23_method_28_code
def yX6_setView : MethodName := ⟨RX6, "setView", "(IIIII)I"⟩
def dkwX6_setView_6 : List UInt8 := [42, 2, 181, 0, 161, 21, 7, 172]
abbrev dktX6_setView_6 : List UInt8 := dkwX6_setView_6 ++ []
def dkwX6_setView_5 : List UInt8 := [42, 180, 0, 62, 7, 27, 104, 5, 96, 21, 4, 79, 42, 180, 0, 62, 7, 27, 104, 6, 96, 21, 5, 79]
abbrev dktX6_setView_5 : List UInt8 := dkwX6_setView_5 ++ dktX6_setView_6
def dkwX6_setView_4 : List UInt8 := [96, 46, 54, 7, 42, 180, 0, 62, 7, 27, 104, 28, 79, 42, 180, 0, 62, 7, 27, 104, 4, 96, 29, 79]
abbrev dktX6_setView_4 : List UInt8 := dkwX6_setView_4 ++ dktX6_setView_5
def dkwX6_setView_3 : List UInt8 := [153, 0, 7, 3, 167, 0, 4, 5, 182, 0, 183, 153, 0, 5, 3, 172, 42, 180, 0, 62, 7, 27, 104, 6]
abbrev dktX6_setView_3 : List UInt8 := dkwX6_setView_3 ++ dktX6_setView_4
def dkwX6_setView_2 : List UInt8 := [167, 0, 4, 3, 54, 6, 42, 27, 3, 5, 184, 0, 171, 154, 0, 7, 4, 167, 0, 13, 21, 6]
abbrev dktX6_setView_2 : List UInt8 := dkwX6_setView_2 ++ dktX6_setView_3
def dkwX6_setView_1 : List UInt8 := [16, 247, 16, 9, 184, 0, 171, 153, 0, 18, 21, 5, 4, 16, 10, 184, 0, 171, 153, 0, 7, 4]
abbrev dktX6_setView_1 : List UInt8 := dkwX6_setView_1 ++ dktX6_setView_2
def dkwX6_setView_0 : List UInt8 := [28, 16, 247, 16, 9, 184, 0, 171, 153, 0, 41, 29, 16, 247, 16, 9, 184, 0, 171, 153, 0, 30, 21, 4]
abbrev dktX6_setView_0 : List UInt8 := dkwX6_setView_0 ++ dktX6_setView_1
theorem dksX6_setView_0 : cX6_setView.data.toList.drop 0 = dktX6_setView_0 := by decide +kernel
theorem dksX6_setView_1 : cX6_setView.data.toList.drop 24 = dktX6_setView_1 := dk_seg dksX6_setView_0 24 rfl rfl
theorem dksX6_setView_2 : cX6_setView.data.toList.drop 46 = dktX6_setView_2 := dk_seg dksX6_setView_1 22 rfl rfl
theorem dksX6_setView_3 : cX6_setView.data.toList.drop 68 = dktX6_setView_3 := dk_seg dksX6_setView_2 22 rfl rfl
theorem dksX6_setView_4 : cX6_setView.data.toList.drop 92 = dktX6_setView_4 := dk_seg dksX6_setView_3 24 rfl rfl
theorem dksX6_setView_5 : cX6_setView.data.toList.drop 116 = dktX6_setView_5 := dk_seg dksX6_setView_4 24 rfl rfl
theorem dksX6_setView_6 : cX6_setView.data.toList.drop 140 = dktX6_setView_6 := dk_seg dksX6_setView_5 24 rfl rfl
theorem dX6_setView_0 : decode cX6_setView 0 = .ok (.iload_n 2, 1) := dk_28 (dk_at dksX6_setView_0 0 rfl rfl)
theorem dX6_setView_1 : decode cX6_setView 1 = .ok (.bipush (-9), 2) := dk_16 247 (dk_at dksX6_setView_0 1 rfl rfl)
theorem dX6_setView_3 : decode cX6_setView 3 = .ok (.bipush 9, 2) := dk_16 9 (dk_at dksX6_setView_0 3 rfl rfl)
theorem dX6_setView_5 : decode cX6_setView 5 = .ok (.invokestatic 171, 3) := dk_184 0 171 (dk_at dksX6_setView_0 5 rfl rfl)
theorem dX6_setView_8 : decode cX6_setView 8 = .ok (.ifCond .eq 41, 3) := dk_153 0 41 (dk_at dksX6_setView_0 8 rfl rfl)
theorem dX6_setView_11 : decode cX6_setView 11 = .ok (.iload_n 3, 1) := dk_29 (dk_at dksX6_setView_0 11 rfl rfl)
theorem dX6_setView_12 : decode cX6_setView 12 = .ok (.bipush (-9), 2) := dk_16 247 (dk_at dksX6_setView_0 12 rfl rfl)
theorem dX6_setView_14 : decode cX6_setView 14 = .ok (.bipush 9, 2) := dk_16 9 (dk_at dksX6_setView_0 14 rfl rfl)
theorem dX6_setView_16 : decode cX6_setView 16 = .ok (.invokestatic 171, 3) := dk_184 0 171 (dk_at dksX6_setView_0 16 rfl rfl)
theorem dX6_setView_19 : decode cX6_setView 19 = .ok (.ifCond .eq 30, 3) := dk_153 0 30 (dk_at dksX6_setView_0 19 rfl rfl)
theorem dX6_setView_22 : decode cX6_setView 22 = .ok (.iload 4, 2) := dk_21 4 (dk_at dksX6_setView_0 22 rfl rfl)
theorem dX6_setView_24 : decode cX6_setView 24 = .ok (.bipush (-9), 2) := dk_16 247 (dk_at dksX6_setView_1 0 rfl rfl)
theorem dX6_setView_26 : decode cX6_setView 26 = .ok (.bipush 9, 2) := dk_16 9 (dk_at dksX6_setView_1 2 rfl rfl)
theorem dX6_setView_28 : decode cX6_setView 28 = .ok (.invokestatic 171, 3) := dk_184 0 171 (dk_at dksX6_setView_1 4 rfl rfl)
theorem dX6_setView_31 : decode cX6_setView 31 = .ok (.ifCond .eq 18, 3) := dk_153 0 18 (dk_at dksX6_setView_1 7 rfl rfl)
theorem dX6_setView_34 : decode cX6_setView 34 = .ok (.iload 5, 2) := dk_21 5 (dk_at dksX6_setView_1 10 rfl rfl)
theorem dX6_setView_36 : decode cX6_setView 36 = .ok (.iconst 1, 1) := dk_4 (dk_at dksX6_setView_1 12 rfl rfl)
theorem dX6_setView_37 : decode cX6_setView 37 = .ok (.bipush 10, 2) := dk_16 10 (dk_at dksX6_setView_1 13 rfl rfl)
theorem dX6_setView_39 : decode cX6_setView 39 = .ok (.invokestatic 171, 3) := dk_184 0 171 (dk_at dksX6_setView_1 15 rfl rfl)
theorem dX6_setView_42 : decode cX6_setView 42 = .ok (.ifCond .eq 7, 3) := dk_153 0 7 (dk_at dksX6_setView_1 18 rfl rfl)
theorem dX6_setView_45 : decode cX6_setView 45 = .ok (.iconst 1, 1) := dk_4 (dk_at dksX6_setView_1 21 rfl rfl)
theorem dX6_setView_46 : decode cX6_setView 46 = .ok (.goto 4, 3) := dk_167 0 4 (dk_at dksX6_setView_2 0 rfl rfl)
theorem dX6_setView_49 : decode cX6_setView 49 = .ok (.iconst 0, 1) := dk_3 (dk_at dksX6_setView_2 3 rfl rfl)
theorem dX6_setView_50 : decode cX6_setView 50 = .ok (.istore 6, 2) := dk_54 6 (dk_at dksX6_setView_2 4 rfl rfl)
theorem dX6_setView_52 : decode cX6_setView 52 = .ok (.aload_n 0, 1) := dk_42 (dk_at dksX6_setView_2 6 rfl rfl)
theorem dX6_setView_53 : decode cX6_setView 53 = .ok (.iload_n 1, 1) := dk_27 (dk_at dksX6_setView_2 7 rfl rfl)
theorem dX6_setView_54 : decode cX6_setView 54 = .ok (.iconst 0, 1) := dk_3 (dk_at dksX6_setView_2 8 rfl rfl)
theorem dX6_setView_55 : decode cX6_setView 55 = .ok (.iconst 2, 1) := dk_5 (dk_at dksX6_setView_2 9 rfl rfl)
theorem dX6_setView_56 : decode cX6_setView 56 = .ok (.invokestatic 171, 3) := dk_184 0 171 (dk_at dksX6_setView_2 10 rfl rfl)
theorem dX6_setView_59 : decode cX6_setView 59 = .ok (.ifCond .ne 7, 3) := dk_154 0 7 (dk_at dksX6_setView_2 13 rfl rfl)
theorem dX6_setView_62 : decode cX6_setView 62 = .ok (.iconst 1, 1) := dk_4 (dk_at dksX6_setView_2 16 rfl rfl)
theorem dX6_setView_63 : decode cX6_setView 63 = .ok (.goto 13, 3) := dk_167 0 13 (dk_at dksX6_setView_2 17 rfl rfl)
theorem dX6_setView_66 : decode cX6_setView 66 = .ok (.iload 6, 2) := dk_21 6 (dk_at dksX6_setView_2 20 rfl rfl)
theorem dX6_setView_68 : decode cX6_setView 68 = .ok (.ifCond .eq 7, 3) := dk_153 0 7 (dk_at dksX6_setView_3 0 rfl rfl)
theorem dX6_setView_71 : decode cX6_setView 71 = .ok (.iconst 0, 1) := dk_3 (dk_at dksX6_setView_3 3 rfl rfl)
theorem dX6_setView_72 : decode cX6_setView 72 = .ok (.goto 4, 3) := dk_167 0 4 (dk_at dksX6_setView_3 4 rfl rfl)
theorem dX6_setView_75 : decode cX6_setView 75 = .ok (.iconst 2, 1) := dk_5 (dk_at dksX6_setView_3 7 rfl rfl)
theorem dX6_setView_76 : decode cX6_setView 76 = .ok (.invokevirtual 183, 3) := dk_182 0 183 (dk_at dksX6_setView_3 8 rfl rfl)
theorem dX6_setView_79 : decode cX6_setView 79 = .ok (.ifCond .eq 5, 3) := dk_153 0 5 (dk_at dksX6_setView_3 11 rfl rfl)
theorem dX6_setView_82 : decode cX6_setView 82 = .ok (.iconst 0, 1) := dk_3 (dk_at dksX6_setView_3 14 rfl rfl)
theorem dX6_setView_83 : decode cX6_setView 83 = .ok (.ireturn, 1) := dk_172 (dk_at dksX6_setView_3 15 rfl rfl)
theorem dX6_setView_84 : decode cX6_setView 84 = .ok (.aload_n 0, 1) := dk_42 (dk_at dksX6_setView_3 16 rfl rfl)
theorem dX6_setView_85 : decode cX6_setView 85 = .ok (.getfield 62, 3) := dk_180 0 62 (dk_at dksX6_setView_3 17 rfl rfl)
theorem dX6_setView_88 : decode cX6_setView 88 = .ok (.iconst 4, 1) := dk_7 (dk_at dksX6_setView_3 20 rfl rfl)
theorem dX6_setView_89 : decode cX6_setView 89 = .ok (.iload_n 1, 1) := dk_27 (dk_at dksX6_setView_3 21 rfl rfl)
theorem dX6_setView_90 : decode cX6_setView 90 = .ok (.imul, 1) := dk_104 (dk_at dksX6_setView_3 22 rfl rfl)
theorem dX6_setView_91 : decode cX6_setView 91 = .ok (.iconst 3, 1) := dk_6 (dk_at dksX6_setView_3 23 rfl rfl)
theorem dX6_setView_92 : decode cX6_setView 92 = .ok (.iadd, 1) := dk_96 (dk_at dksX6_setView_4 0 rfl rfl)
theorem dX6_setView_93 : decode cX6_setView 93 = .ok (.iaload, 1) := dk_46 (dk_at dksX6_setView_4 1 rfl rfl)
theorem dX6_setView_94 : decode cX6_setView 94 = .ok (.istore 7, 2) := dk_54 7 (dk_at dksX6_setView_4 2 rfl rfl)
theorem dX6_setView_96 : decode cX6_setView 96 = .ok (.aload_n 0, 1) := dk_42 (dk_at dksX6_setView_4 4 rfl rfl)
theorem dX6_setView_97 : decode cX6_setView 97 = .ok (.getfield 62, 3) := dk_180 0 62 (dk_at dksX6_setView_4 5 rfl rfl)
theorem dX6_setView_100 : decode cX6_setView 100 = .ok (.iconst 4, 1) := dk_7 (dk_at dksX6_setView_4 8 rfl rfl)
theorem dX6_setView_101 : decode cX6_setView 101 = .ok (.iload_n 1, 1) := dk_27 (dk_at dksX6_setView_4 9 rfl rfl)
theorem dX6_setView_102 : decode cX6_setView 102 = .ok (.imul, 1) := dk_104 (dk_at dksX6_setView_4 10 rfl rfl)
theorem dX6_setView_103 : decode cX6_setView 103 = .ok (.iload_n 2, 1) := dk_28 (dk_at dksX6_setView_4 11 rfl rfl)
theorem dX6_setView_104 : decode cX6_setView 104 = .ok (.iastore, 1) := dk_79 (dk_at dksX6_setView_4 12 rfl rfl)
theorem dX6_setView_105 : decode cX6_setView 105 = .ok (.aload_n 0, 1) := dk_42 (dk_at dksX6_setView_4 13 rfl rfl)
theorem dX6_setView_106 : decode cX6_setView 106 = .ok (.getfield 62, 3) := dk_180 0 62 (dk_at dksX6_setView_4 14 rfl rfl)
theorem dX6_setView_109 : decode cX6_setView 109 = .ok (.iconst 4, 1) := dk_7 (dk_at dksX6_setView_4 17 rfl rfl)
theorem dX6_setView_110 : decode cX6_setView 110 = .ok (.iload_n 1, 1) := dk_27 (dk_at dksX6_setView_4 18 rfl rfl)
theorem dX6_setView_111 : decode cX6_setView 111 = .ok (.imul, 1) := dk_104 (dk_at dksX6_setView_4 19 rfl rfl)
theorem dX6_setView_112 : decode cX6_setView 112 = .ok (.iconst 1, 1) := dk_4 (dk_at dksX6_setView_4 20 rfl rfl)
theorem dX6_setView_113 : decode cX6_setView 113 = .ok (.iadd, 1) := dk_96 (dk_at dksX6_setView_4 21 rfl rfl)
theorem dX6_setView_114 : decode cX6_setView 114 = .ok (.iload_n 3, 1) := dk_29 (dk_at dksX6_setView_4 22 rfl rfl)
theorem dX6_setView_115 : decode cX6_setView 115 = .ok (.iastore, 1) := dk_79 (dk_at dksX6_setView_4 23 rfl rfl)
theorem dX6_setView_116 : decode cX6_setView 116 = .ok (.aload_n 0, 1) := dk_42 (dk_at dksX6_setView_5 0 rfl rfl)
theorem dX6_setView_117 : decode cX6_setView 117 = .ok (.getfield 62, 3) := dk_180 0 62 (dk_at dksX6_setView_5 1 rfl rfl)
theorem dX6_setView_120 : decode cX6_setView 120 = .ok (.iconst 4, 1) := dk_7 (dk_at dksX6_setView_5 4 rfl rfl)
theorem dX6_setView_121 : decode cX6_setView 121 = .ok (.iload_n 1, 1) := dk_27 (dk_at dksX6_setView_5 5 rfl rfl)
theorem dX6_setView_122 : decode cX6_setView 122 = .ok (.imul, 1) := dk_104 (dk_at dksX6_setView_5 6 rfl rfl)
theorem dX6_setView_123 : decode cX6_setView 123 = .ok (.iconst 2, 1) := dk_5 (dk_at dksX6_setView_5 7 rfl rfl)
theorem dX6_setView_124 : decode cX6_setView 124 = .ok (.iadd, 1) := dk_96 (dk_at dksX6_setView_5 8 rfl rfl)
theorem dX6_setView_125 : decode cX6_setView 125 = .ok (.iload 4, 2) := dk_21 4 (dk_at dksX6_setView_5 9 rfl rfl)
theorem dX6_setView_127 : decode cX6_setView 127 = .ok (.iastore, 1) := dk_79 (dk_at dksX6_setView_5 11 rfl rfl)
theorem dX6_setView_128 : decode cX6_setView 128 = .ok (.aload_n 0, 1) := dk_42 (dk_at dksX6_setView_5 12 rfl rfl)
theorem dX6_setView_129 : decode cX6_setView 129 = .ok (.getfield 62, 3) := dk_180 0 62 (dk_at dksX6_setView_5 13 rfl rfl)
theorem dX6_setView_132 : decode cX6_setView 132 = .ok (.iconst 4, 1) := dk_7 (dk_at dksX6_setView_5 16 rfl rfl)
theorem dX6_setView_133 : decode cX6_setView 133 = .ok (.iload_n 1, 1) := dk_27 (dk_at dksX6_setView_5 17 rfl rfl)
theorem dX6_setView_134 : decode cX6_setView 134 = .ok (.imul, 1) := dk_104 (dk_at dksX6_setView_5 18 rfl rfl)
theorem dX6_setView_135 : decode cX6_setView 135 = .ok (.iconst 3, 1) := dk_6 (dk_at dksX6_setView_5 19 rfl rfl)
theorem dX6_setView_136 : decode cX6_setView 136 = .ok (.iadd, 1) := dk_96 (dk_at dksX6_setView_5 20 rfl rfl)
theorem dX6_setView_137 : decode cX6_setView 137 = .ok (.iload 5, 2) := dk_21 5 (dk_at dksX6_setView_5 21 rfl rfl)
theorem dX6_setView_139 : decode cX6_setView 139 = .ok (.iastore, 1) := dk_79 (dk_at dksX6_setView_5 23 rfl rfl)
theorem dX6_setView_140 : decode cX6_setView 140 = .ok (.aload_n 0, 1) := dk_42 (dk_at dksX6_setView_6 0 rfl rfl)
theorem dX6_setView_141 : decode cX6_setView 141 = .ok (.iconst (-1), 1) := dk_2 (dk_at dksX6_setView_6 1 rfl rfl)
theorem dX6_setView_142 : decode cX6_setView 142 = .ok (.putfield 161, 3) := dk_181 0 161 (dk_at dksX6_setView_6 2 rfl rfl)
theorem dX6_setView_145 : decode cX6_setView 145 = .ok (.iload 7, 2) := dk_21 7 (dk_at dksX6_setView_6 5 rfl rfl)
theorem dX6_setView_147 : decode cX6_setView 147 = .ok (.ireturn, 1) := dk_172 (dk_at dksX6_setView_6 7 rfl rfl)
abbrev cX6_begin : ByteArray := prog_23_method_29_code
def yX6_begin : MethodName := ⟨RX6, "begin", "(IIII)I"⟩
def dkwX6_begin_6 : List UInt8 := [181, 0, 237, 42, 2, 181, 0, 165, 42, 2, 181, 0, 161, 21, 6, 172]
abbrev dktX6_begin_6 : List UInt8 := dkwX6_begin_6 ++ []
def dkwX6_begin_5 : List UInt8 := [184, 0, 175, 79, 132, 7, 1, 167, 255, 231, 42, 3, 181, 0, 228, 42, 3, 181, 0, 234, 42, 3]
abbrev dktX6_begin_5 : List UInt8 := dkwX6_begin_5 ++ dktX6_begin_6
def dkwX6_begin_4 : List UInt8 := [181, 0, 231, 3, 54, 7, 21, 7, 6, 162, 0, 25, 42, 180, 0, 65, 21, 7, 28, 29, 21, 4, 21, 7]
abbrev dktX6_begin_4 : List UInt8 := dkwX6_begin_4 ++ dktX6_begin_5
def dkwX6_begin_3 : List UInt8 := [153, 0, 7, 3, 167, 0, 4, 4, 182, 0, 183, 153, 0, 5, 3, 172, 42, 180, 0, 228, 54, 6, 42, 27]
abbrev dktX6_begin_3 : List UInt8 := dkwX6_begin_3 ++ dktX6_begin_4
def dkwX6_begin_2 : List UInt8 := [167, 0, 8, 21, 7, 154, 0, 7, 4, 167, 0, 4, 3, 54, 5, 132, 6, 1, 167, 255, 202, 42, 21, 5]
abbrev dktX6_begin_2 : List UInt8 := dkwX6_begin_2 ++ dktX6_begin_3
def dkwX6_begin_1 : List UInt8 := [184, 0, 175, 54, 7, 21, 5, 153, 0, 29, 21, 6, 27, 162, 0, 14, 21, 7, 184, 0, 179, 153, 0, 15]
abbrev dktX6_begin_1 : List UInt8 := dkwX6_begin_1 ++ dktX6_begin_2
def dkwX6_begin_0 : List UInt8 := [27, 4, 6, 184, 0, 171, 54, 5, 3, 54, 6, 21, 6, 6, 162, 0, 54, 28, 29, 21, 4, 21, 6]
abbrev dktX6_begin_0 : List UInt8 := dkwX6_begin_0 ++ dktX6_begin_1
theorem dksX6_begin_0 : cX6_begin.data.toList.drop 0 = dktX6_begin_0 := by decide +kernel
theorem dksX6_begin_1 : cX6_begin.data.toList.drop 23 = dktX6_begin_1 := dk_seg dksX6_begin_0 23 rfl rfl
theorem dksX6_begin_2 : cX6_begin.data.toList.drop 47 = dktX6_begin_2 := dk_seg dksX6_begin_1 24 rfl rfl
theorem dksX6_begin_3 : cX6_begin.data.toList.drop 71 = dktX6_begin_3 := dk_seg dksX6_begin_2 24 rfl rfl
theorem dksX6_begin_4 : cX6_begin.data.toList.drop 95 = dktX6_begin_4 := dk_seg dksX6_begin_3 24 rfl rfl
theorem dksX6_begin_5 : cX6_begin.data.toList.drop 119 = dktX6_begin_5 := dk_seg dksX6_begin_4 24 rfl rfl
theorem dksX6_begin_6 : cX6_begin.data.toList.drop 141 = dktX6_begin_6 := dk_seg dksX6_begin_5 22 rfl rfl
theorem dX6_begin_0 : decode cX6_begin 0 = .ok (.iload_n 1, 1) := dk_27 (dk_at dksX6_begin_0 0 rfl rfl)
theorem dX6_begin_1 : decode cX6_begin 1 = .ok (.iconst 1, 1) := dk_4 (dk_at dksX6_begin_0 1 rfl rfl)
theorem dX6_begin_2 : decode cX6_begin 2 = .ok (.iconst 3, 1) := dk_6 (dk_at dksX6_begin_0 2 rfl rfl)
theorem dX6_begin_3 : decode cX6_begin 3 = .ok (.invokestatic 171, 3) := dk_184 0 171 (dk_at dksX6_begin_0 3 rfl rfl)
theorem dX6_begin_6 : decode cX6_begin 6 = .ok (.istore 5, 2) := dk_54 5 (dk_at dksX6_begin_0 6 rfl rfl)
theorem dX6_begin_8 : decode cX6_begin 8 = .ok (.iconst 0, 1) := dk_3 (dk_at dksX6_begin_0 8 rfl rfl)
theorem dX6_begin_9 : decode cX6_begin 9 = .ok (.istore 6, 2) := dk_54 6 (dk_at dksX6_begin_0 9 rfl rfl)
theorem dX6_begin_11 : decode cX6_begin 11 = .ok (.iload 6, 2) := dk_21 6 (dk_at dksX6_begin_0 11 rfl rfl)
theorem dX6_begin_13 : decode cX6_begin 13 = .ok (.iconst 3, 1) := dk_6 (dk_at dksX6_begin_0 13 rfl rfl)
theorem dX6_begin_14 : decode cX6_begin 14 = .ok (.if_icmp .ge 54, 3) := dk_162 0 54 (dk_at dksX6_begin_0 14 rfl rfl)
theorem dX6_begin_17 : decode cX6_begin 17 = .ok (.iload_n 2, 1) := dk_28 (dk_at dksX6_begin_0 17 rfl rfl)
theorem dX6_begin_18 : decode cX6_begin 18 = .ok (.iload_n 3, 1) := dk_29 (dk_at dksX6_begin_0 18 rfl rfl)
theorem dX6_begin_19 : decode cX6_begin 19 = .ok (.iload 4, 2) := dk_21 4 (dk_at dksX6_begin_0 19 rfl rfl)
theorem dX6_begin_21 : decode cX6_begin 21 = .ok (.iload 6, 2) := dk_21 6 (dk_at dksX6_begin_0 21 rfl rfl)
theorem dX6_begin_23 : decode cX6_begin 23 = .ok (.invokestatic 175, 3) := dk_184 0 175 (dk_at dksX6_begin_1 0 rfl rfl)
theorem dX6_begin_26 : decode cX6_begin 26 = .ok (.istore 7, 2) := dk_54 7 (dk_at dksX6_begin_1 3 rfl rfl)
theorem dX6_begin_28 : decode cX6_begin 28 = .ok (.iload 5, 2) := dk_21 5 (dk_at dksX6_begin_1 5 rfl rfl)
theorem dX6_begin_30 : decode cX6_begin 30 = .ok (.ifCond .eq 29, 3) := dk_153 0 29 (dk_at dksX6_begin_1 7 rfl rfl)
theorem dX6_begin_33 : decode cX6_begin 33 = .ok (.iload 6, 2) := dk_21 6 (dk_at dksX6_begin_1 10 rfl rfl)
theorem dX6_begin_35 : decode cX6_begin 35 = .ok (.iload_n 1, 1) := dk_27 (dk_at dksX6_begin_1 12 rfl rfl)
theorem dX6_begin_36 : decode cX6_begin 36 = .ok (.if_icmp .ge 14, 3) := dk_162 0 14 (dk_at dksX6_begin_1 13 rfl rfl)
theorem dX6_begin_39 : decode cX6_begin 39 = .ok (.iload 7, 2) := dk_21 7 (dk_at dksX6_begin_1 16 rfl rfl)
theorem dX6_begin_41 : decode cX6_begin 41 = .ok (.invokestatic 179, 3) := dk_184 0 179 (dk_at dksX6_begin_1 18 rfl rfl)
theorem dX6_begin_44 : decode cX6_begin 44 = .ok (.ifCond .eq 15, 3) := dk_153 0 15 (dk_at dksX6_begin_1 21 rfl rfl)
theorem dX6_begin_47 : decode cX6_begin 47 = .ok (.goto 8, 3) := dk_167 0 8 (dk_at dksX6_begin_2 0 rfl rfl)
theorem dX6_begin_50 : decode cX6_begin 50 = .ok (.iload 7, 2) := dk_21 7 (dk_at dksX6_begin_2 3 rfl rfl)
theorem dX6_begin_52 : decode cX6_begin 52 = .ok (.ifCond .ne 7, 3) := dk_154 0 7 (dk_at dksX6_begin_2 5 rfl rfl)
theorem dX6_begin_55 : decode cX6_begin 55 = .ok (.iconst 1, 1) := dk_4 (dk_at dksX6_begin_2 8 rfl rfl)
theorem dX6_begin_56 : decode cX6_begin 56 = .ok (.goto 4, 3) := dk_167 0 4 (dk_at dksX6_begin_2 9 rfl rfl)
theorem dX6_begin_59 : decode cX6_begin 59 = .ok (.iconst 0, 1) := dk_3 (dk_at dksX6_begin_2 12 rfl rfl)
theorem dX6_begin_60 : decode cX6_begin 60 = .ok (.istore 5, 2) := dk_54 5 (dk_at dksX6_begin_2 13 rfl rfl)
theorem dX6_begin_62 : decode cX6_begin 62 = .ok (.iinc 6 1, 3) := dk_132 6 1 (dk_at dksX6_begin_2 15 rfl rfl)
theorem dX6_begin_65 : decode cX6_begin 65 = .ok (.goto (-54), 3) := dk_167 255 202 (dk_at dksX6_begin_2 18 rfl rfl)
theorem dX6_begin_68 : decode cX6_begin 68 = .ok (.aload_n 0, 1) := dk_42 (dk_at dksX6_begin_2 21 rfl rfl)
theorem dX6_begin_69 : decode cX6_begin 69 = .ok (.iload 5, 2) := dk_21 5 (dk_at dksX6_begin_2 22 rfl rfl)
theorem dX6_begin_71 : decode cX6_begin 71 = .ok (.ifCond .eq 7, 3) := dk_153 0 7 (dk_at dksX6_begin_3 0 rfl rfl)
theorem dX6_begin_74 : decode cX6_begin 74 = .ok (.iconst 0, 1) := dk_3 (dk_at dksX6_begin_3 3 rfl rfl)
theorem dX6_begin_75 : decode cX6_begin 75 = .ok (.goto 4, 3) := dk_167 0 4 (dk_at dksX6_begin_3 4 rfl rfl)
theorem dX6_begin_78 : decode cX6_begin 78 = .ok (.iconst 1, 1) := dk_4 (dk_at dksX6_begin_3 7 rfl rfl)
theorem dX6_begin_79 : decode cX6_begin 79 = .ok (.invokevirtual 183, 3) := dk_182 0 183 (dk_at dksX6_begin_3 8 rfl rfl)
theorem dX6_begin_82 : decode cX6_begin 82 = .ok (.ifCond .eq 5, 3) := dk_153 0 5 (dk_at dksX6_begin_3 11 rfl rfl)
theorem dX6_begin_85 : decode cX6_begin 85 = .ok (.iconst 0, 1) := dk_3 (dk_at dksX6_begin_3 14 rfl rfl)
theorem dX6_begin_86 : decode cX6_begin 86 = .ok (.ireturn, 1) := dk_172 (dk_at dksX6_begin_3 15 rfl rfl)
theorem dX6_begin_87 : decode cX6_begin 87 = .ok (.aload_n 0, 1) := dk_42 (dk_at dksX6_begin_3 16 rfl rfl)
theorem dX6_begin_88 : decode cX6_begin 88 = .ok (.getfield 228, 3) := dk_180 0 228 (dk_at dksX6_begin_3 17 rfl rfl)
theorem dX6_begin_91 : decode cX6_begin 91 = .ok (.istore 6, 2) := dk_54 6 (dk_at dksX6_begin_3 20 rfl rfl)
theorem dX6_begin_93 : decode cX6_begin 93 = .ok (.aload_n 0, 1) := dk_42 (dk_at dksX6_begin_3 22 rfl rfl)
theorem dX6_begin_94 : decode cX6_begin 94 = .ok (.iload_n 1, 1) := dk_27 (dk_at dksX6_begin_3 23 rfl rfl)
theorem dX6_begin_95 : decode cX6_begin 95 = .ok (.putfield 231, 3) := dk_181 0 231 (dk_at dksX6_begin_4 0 rfl rfl)
theorem dX6_begin_98 : decode cX6_begin 98 = .ok (.iconst 0, 1) := dk_3 (dk_at dksX6_begin_4 3 rfl rfl)
theorem dX6_begin_99 : decode cX6_begin 99 = .ok (.istore 7, 2) := dk_54 7 (dk_at dksX6_begin_4 4 rfl rfl)
theorem dX6_begin_101 : decode cX6_begin 101 = .ok (.iload 7, 2) := dk_21 7 (dk_at dksX6_begin_4 6 rfl rfl)
theorem dX6_begin_103 : decode cX6_begin 103 = .ok (.iconst 3, 1) := dk_6 (dk_at dksX6_begin_4 8 rfl rfl)
theorem dX6_begin_104 : decode cX6_begin 104 = .ok (.if_icmp .ge 25, 3) := dk_162 0 25 (dk_at dksX6_begin_4 9 rfl rfl)
theorem dX6_begin_107 : decode cX6_begin 107 = .ok (.aload_n 0, 1) := dk_42 (dk_at dksX6_begin_4 12 rfl rfl)
theorem dX6_begin_108 : decode cX6_begin 108 = .ok (.getfield 65, 3) := dk_180 0 65 (dk_at dksX6_begin_4 13 rfl rfl)
theorem dX6_begin_111 : decode cX6_begin 111 = .ok (.iload 7, 2) := dk_21 7 (dk_at dksX6_begin_4 16 rfl rfl)
theorem dX6_begin_113 : decode cX6_begin 113 = .ok (.iload_n 2, 1) := dk_28 (dk_at dksX6_begin_4 18 rfl rfl)
theorem dX6_begin_114 : decode cX6_begin 114 = .ok (.iload_n 3, 1) := dk_29 (dk_at dksX6_begin_4 19 rfl rfl)
theorem dX6_begin_115 : decode cX6_begin 115 = .ok (.iload 4, 2) := dk_21 4 (dk_at dksX6_begin_4 20 rfl rfl)
theorem dX6_begin_117 : decode cX6_begin 117 = .ok (.iload 7, 2) := dk_21 7 (dk_at dksX6_begin_4 22 rfl rfl)
theorem dX6_begin_119 : decode cX6_begin 119 = .ok (.invokestatic 175, 3) := dk_184 0 175 (dk_at dksX6_begin_5 0 rfl rfl)
theorem dX6_begin_122 : decode cX6_begin 122 = .ok (.iastore, 1) := dk_79 (dk_at dksX6_begin_5 3 rfl rfl)
theorem dX6_begin_123 : decode cX6_begin 123 = .ok (.iinc 7 1, 3) := dk_132 7 1 (dk_at dksX6_begin_5 4 rfl rfl)
theorem dX6_begin_126 : decode cX6_begin 126 = .ok (.goto (-25), 3) := dk_167 255 231 (dk_at dksX6_begin_5 7 rfl rfl)
theorem dX6_begin_129 : decode cX6_begin 129 = .ok (.aload_n 0, 1) := dk_42 (dk_at dksX6_begin_5 10 rfl rfl)
theorem dX6_begin_130 : decode cX6_begin 130 = .ok (.iconst 0, 1) := dk_3 (dk_at dksX6_begin_5 11 rfl rfl)
theorem dX6_begin_131 : decode cX6_begin 131 = .ok (.putfield 228, 3) := dk_181 0 228 (dk_at dksX6_begin_5 12 rfl rfl)
theorem dX6_begin_134 : decode cX6_begin 134 = .ok (.aload_n 0, 1) := dk_42 (dk_at dksX6_begin_5 15 rfl rfl)
theorem dX6_begin_135 : decode cX6_begin 135 = .ok (.iconst 0, 1) := dk_3 (dk_at dksX6_begin_5 16 rfl rfl)
theorem dX6_begin_136 : decode cX6_begin 136 = .ok (.putfield 234, 3) := dk_181 0 234 (dk_at dksX6_begin_5 17 rfl rfl)
theorem dX6_begin_139 : decode cX6_begin 139 = .ok (.aload_n 0, 1) := dk_42 (dk_at dksX6_begin_5 20 rfl rfl)
theorem dX6_begin_140 : decode cX6_begin 140 = .ok (.iconst 0, 1) := dk_3 (dk_at dksX6_begin_5 21 rfl rfl)
theorem dX6_begin_141 : decode cX6_begin 141 = .ok (.putfield 237, 3) := dk_181 0 237 (dk_at dksX6_begin_6 0 rfl rfl)
theorem dX6_begin_144 : decode cX6_begin 144 = .ok (.aload_n 0, 1) := dk_42 (dk_at dksX6_begin_6 3 rfl rfl)
theorem dX6_begin_145 : decode cX6_begin 145 = .ok (.iconst (-1), 1) := dk_2 (dk_at dksX6_begin_6 4 rfl rfl)
theorem dX6_begin_146 : decode cX6_begin 146 = .ok (.putfield 165, 3) := dk_181 0 165 (dk_at dksX6_begin_6 5 rfl rfl)
theorem dX6_begin_149 : decode cX6_begin 149 = .ok (.aload_n 0, 1) := dk_42 (dk_at dksX6_begin_6 8 rfl rfl)
theorem dX6_begin_150 : decode cX6_begin 150 = .ok (.iconst (-1), 1) := dk_2 (dk_at dksX6_begin_6 9 rfl rfl)
theorem dX6_begin_151 : decode cX6_begin 151 = .ok (.putfield 161, 3) := dk_181 0 161 (dk_at dksX6_begin_6 10 rfl rfl)
theorem dX6_begin_154 : decode cX6_begin 154 = .ok (.iload 6, 2) := dk_21 6 (dk_at dksX6_begin_6 13 rfl rfl)
theorem dX6_begin_156 : decode cX6_begin 156 = .ok (.ireturn, 1) := dk_172 (dk_at dksX6_begin_6 15 rfl rfl)
abbrev cX6_add : ByteArray := prog_23_method_32_code
def yX6_add : MethodName := ⟨RX6, "add", "(IIII)I"⟩
def dkwX6_add_11 : List UInt8 := [21, 9, 184, 0, 175, 79, 132, 9, 1, 167, 255, 227, 42, 180, 0, 71, 21, 8, 21, 4, 79, 21, 8, 172]
abbrev dktX6_add_11 : List UInt8 := dkwX6_add_11 ++ []
def dkwX6_add_10 : List UInt8 := [3, 54, 9, 21, 9, 6, 162, 0, 29, 42, 180, 0, 68, 6, 21, 8, 104, 21, 9, 96, 27, 28, 29]
abbrev dktX6_add_10 : List UInt8 := dkwX6_add_10 ++ dktX6_add_11
def dkwX6_add_9 : List UInt8 := [167, 0, 4, 3, 182, 0, 183, 153, 0, 5, 3, 172, 42, 180, 0, 228, 54, 8, 42, 21, 8, 182, 0, 244]
abbrev dktX6_add_9 : List UInt8 := dkwX6_add_9 ++ dktX6_add_10
def dkwX6_add_8 : List UInt8 := [154, 0, 7, 5, 167, 0, 24, 42, 180, 0, 231, 153, 0, 12, 42, 180, 0, 228, 16, 8, 160, 0, 7, 6]
abbrev dktX6_add_8 : List UInt8 := dkwX6_add_8 ++ dktX6_add_9
def dkwX6_add_7 : List UInt8 := [3, 128, 54, 7, 132, 8, 1, 167, 255, 105, 42, 21, 5, 154, 0, 7, 4, 167, 0, 33, 21, 6]
abbrev dktX6_add_7 : List UInt8 := dkwX6_add_7 ++ dktX6_add_8
def dkwX6_add_6 : List UInt8 := [54, 6, 21, 7, 21, 10, 153, 0, 18, 21, 11, 153, 0, 13, 42, 180, 0, 52, 21, 9, 46, 167, 0, 4]
abbrev dktX6_add_6 : List UInt8 := dkwX6_add_6 ++ dktX6_add_7
def dkwX6_add_5 : List UInt8 := [21, 9, 46, 21, 7, 126, 154, 0, 16, 167, 0, 9, 21, 9, 2, 160, 0, 7, 4, 167, 0, 4, 3]
abbrev dktX6_add_5 : List UInt8 := dkwX6_add_5 ++ dktX6_add_6
def dkwX6_add_4 : List UInt8 := [153, 0, 45, 42, 21, 9, 42, 180, 0, 65, 21, 8, 46, 182, 0, 215, 153, 0, 29, 42, 180, 0, 52]
abbrev dktX6_add_4 : List UInt8 := dkwX6_add_4 ++ dktX6_add_5
def dkwX6_add_3 : List UInt8 := [21, 11, 153, 0, 7, 4, 167, 0, 4, 3, 54, 5, 21, 6, 153, 0, 55, 21, 10, 153, 0, 40, 21, 11]
abbrev dktX6_add_3 : List UInt8 := dkwX6_add_3 ++ dktX6_add_4
def dkwX6_add_2 : List UInt8 := [167, 0, 4, 3, 54, 10, 42, 21, 9, 182, 0, 212, 54, 11, 21, 5, 153, 0, 17, 21, 10, 153, 0, 8]
abbrev dktX6_add_2 : List UInt8 := dkwX6_add_2 ++ dktX6_add_3
def dkwX6_add_1 : List UInt8 := [162, 0, 151, 27, 28, 29, 21, 8, 184, 0, 175, 54, 9, 21, 8, 42, 180, 0, 231, 162, 0, 7, 4]
abbrev dktX6_add_1 : List UInt8 := dkwX6_add_1 ++ dktX6_add_2
def dkwX6_add_0 : List UInt8 := [4, 54, 5, 21, 4, 3, 16, 99, 184, 0, 171, 54, 6, 3, 54, 7, 3, 54, 8, 21, 8, 6]
abbrev dktX6_add_0 : List UInt8 := dkwX6_add_0 ++ dktX6_add_1
theorem dksX6_add_0 : cX6_add.data.toList.drop 0 = dktX6_add_0 := by decide +kernel
theorem dksX6_add_1 : cX6_add.data.toList.drop 22 = dktX6_add_1 := dk_seg dksX6_add_0 22 rfl rfl
theorem dksX6_add_2 : cX6_add.data.toList.drop 45 = dktX6_add_2 := dk_seg dksX6_add_1 23 rfl rfl
theorem dksX6_add_3 : cX6_add.data.toList.drop 69 = dktX6_add_3 := dk_seg dksX6_add_2 24 rfl rfl
theorem dksX6_add_4 : cX6_add.data.toList.drop 93 = dktX6_add_4 := dk_seg dksX6_add_3 24 rfl rfl
theorem dksX6_add_5 : cX6_add.data.toList.drop 116 = dktX6_add_5 := dk_seg dksX6_add_4 23 rfl rfl
theorem dksX6_add_6 : cX6_add.data.toList.drop 139 = dktX6_add_6 := dk_seg dksX6_add_5 23 rfl rfl
theorem dksX6_add_7 : cX6_add.data.toList.drop 163 = dktX6_add_7 := dk_seg dksX6_add_6 24 rfl rfl
theorem dksX6_add_8 : cX6_add.data.toList.drop 185 = dktX6_add_8 := dk_seg dksX6_add_7 22 rfl rfl
theorem dksX6_add_9 : cX6_add.data.toList.drop 209 = dktX6_add_9 := dk_seg dksX6_add_8 24 rfl rfl
theorem dksX6_add_10 : cX6_add.data.toList.drop 233 = dktX6_add_10 := dk_seg dksX6_add_9 24 rfl rfl
theorem dksX6_add_11 : cX6_add.data.toList.drop 256 = dktX6_add_11 := dk_seg dksX6_add_10 23 rfl rfl
theorem dX6_add_0 : decode cX6_add 0 = .ok (.iconst 1, 1) := dk_4 (dk_at dksX6_add_0 0 rfl rfl)
theorem dX6_add_1 : decode cX6_add 1 = .ok (.istore 5, 2) := dk_54 5 (dk_at dksX6_add_0 1 rfl rfl)
theorem dX6_add_3 : decode cX6_add 3 = .ok (.iload 4, 2) := dk_21 4 (dk_at dksX6_add_0 3 rfl rfl)
theorem dX6_add_5 : decode cX6_add 5 = .ok (.iconst 0, 1) := dk_3 (dk_at dksX6_add_0 5 rfl rfl)
theorem dX6_add_6 : decode cX6_add 6 = .ok (.bipush 99, 2) := dk_16 99 (dk_at dksX6_add_0 6 rfl rfl)
theorem dX6_add_8 : decode cX6_add 8 = .ok (.invokestatic 171, 3) := dk_184 0 171 (dk_at dksX6_add_0 8 rfl rfl)
theorem dX6_add_11 : decode cX6_add 11 = .ok (.istore 6, 2) := dk_54 6 (dk_at dksX6_add_0 11 rfl rfl)
theorem dX6_add_13 : decode cX6_add 13 = .ok (.iconst 0, 1) := dk_3 (dk_at dksX6_add_0 13 rfl rfl)
theorem dX6_add_14 : decode cX6_add 14 = .ok (.istore 7, 2) := dk_54 7 (dk_at dksX6_add_0 14 rfl rfl)
theorem dX6_add_16 : decode cX6_add 16 = .ok (.iconst 0, 1) := dk_3 (dk_at dksX6_add_0 16 rfl rfl)
theorem dX6_add_17 : decode cX6_add 17 = .ok (.istore 8, 2) := dk_54 8 (dk_at dksX6_add_0 17 rfl rfl)
theorem dX6_add_19 : decode cX6_add 19 = .ok (.iload 8, 2) := dk_21 8 (dk_at dksX6_add_0 19 rfl rfl)
theorem dX6_add_21 : decode cX6_add 21 = .ok (.iconst 3, 1) := dk_6 (dk_at dksX6_add_0 21 rfl rfl)
theorem dX6_add_22 : decode cX6_add 22 = .ok (.if_icmp .ge 151, 3) := dk_162 0 151 (dk_at dksX6_add_1 0 rfl rfl)
theorem dX6_add_25 : decode cX6_add 25 = .ok (.iload_n 1, 1) := dk_27 (dk_at dksX6_add_1 3 rfl rfl)
theorem dX6_add_26 : decode cX6_add 26 = .ok (.iload_n 2, 1) := dk_28 (dk_at dksX6_add_1 4 rfl rfl)
theorem dX6_add_27 : decode cX6_add 27 = .ok (.iload_n 3, 1) := dk_29 (dk_at dksX6_add_1 5 rfl rfl)
theorem dX6_add_28 : decode cX6_add 28 = .ok (.iload 8, 2) := dk_21 8 (dk_at dksX6_add_1 6 rfl rfl)
theorem dX6_add_30 : decode cX6_add 30 = .ok (.invokestatic 175, 3) := dk_184 0 175 (dk_at dksX6_add_1 8 rfl rfl)
theorem dX6_add_33 : decode cX6_add 33 = .ok (.istore 9, 2) := dk_54 9 (dk_at dksX6_add_1 11 rfl rfl)
theorem dX6_add_35 : decode cX6_add 35 = .ok (.iload 8, 2) := dk_21 8 (dk_at dksX6_add_1 13 rfl rfl)
theorem dX6_add_37 : decode cX6_add 37 = .ok (.aload_n 0, 1) := dk_42 (dk_at dksX6_add_1 15 rfl rfl)
theorem dX6_add_38 : decode cX6_add 38 = .ok (.getfield 231, 3) := dk_180 0 231 (dk_at dksX6_add_1 16 rfl rfl)
theorem dX6_add_41 : decode cX6_add 41 = .ok (.if_icmp .ge 7, 3) := dk_162 0 7 (dk_at dksX6_add_1 19 rfl rfl)
theorem dX6_add_44 : decode cX6_add 44 = .ok (.iconst 1, 1) := dk_4 (dk_at dksX6_add_1 22 rfl rfl)
theorem dX6_add_45 : decode cX6_add 45 = .ok (.goto 4, 3) := dk_167 0 4 (dk_at dksX6_add_2 0 rfl rfl)
theorem dX6_add_48 : decode cX6_add 48 = .ok (.iconst 0, 1) := dk_3 (dk_at dksX6_add_2 3 rfl rfl)
theorem dX6_add_49 : decode cX6_add 49 = .ok (.istore 10, 2) := dk_54 10 (dk_at dksX6_add_2 4 rfl rfl)
theorem dX6_add_51 : decode cX6_add 51 = .ok (.aload_n 0, 1) := dk_42 (dk_at dksX6_add_2 6 rfl rfl)
theorem dX6_add_52 : decode cX6_add 52 = .ok (.iload 9, 2) := dk_21 9 (dk_at dksX6_add_2 7 rfl rfl)
theorem dX6_add_54 : decode cX6_add 54 = .ok (.invokevirtual 212, 3) := dk_182 0 212 (dk_at dksX6_add_2 9 rfl rfl)
theorem dX6_add_57 : decode cX6_add 57 = .ok (.istore 11, 2) := dk_54 11 (dk_at dksX6_add_2 12 rfl rfl)
theorem dX6_add_59 : decode cX6_add 59 = .ok (.iload 5, 2) := dk_21 5 (dk_at dksX6_add_2 14 rfl rfl)
theorem dX6_add_61 : decode cX6_add 61 = .ok (.ifCond .eq 17, 3) := dk_153 0 17 (dk_at dksX6_add_2 16 rfl rfl)
theorem dX6_add_64 : decode cX6_add 64 = .ok (.iload 10, 2) := dk_21 10 (dk_at dksX6_add_2 19 rfl rfl)
theorem dX6_add_66 : decode cX6_add 66 = .ok (.ifCond .eq 8, 3) := dk_153 0 8 (dk_at dksX6_add_2 21 rfl rfl)
theorem dX6_add_69 : decode cX6_add 69 = .ok (.iload 11, 2) := dk_21 11 (dk_at dksX6_add_3 0 rfl rfl)
theorem dX6_add_71 : decode cX6_add 71 = .ok (.ifCond .eq 7, 3) := dk_153 0 7 (dk_at dksX6_add_3 2 rfl rfl)
theorem dX6_add_74 : decode cX6_add 74 = .ok (.iconst 1, 1) := dk_4 (dk_at dksX6_add_3 5 rfl rfl)
theorem dX6_add_75 : decode cX6_add 75 = .ok (.goto 4, 3) := dk_167 0 4 (dk_at dksX6_add_3 6 rfl rfl)
theorem dX6_add_78 : decode cX6_add 78 = .ok (.iconst 0, 1) := dk_3 (dk_at dksX6_add_3 9 rfl rfl)
theorem dX6_add_79 : decode cX6_add 79 = .ok (.istore 5, 2) := dk_54 5 (dk_at dksX6_add_3 10 rfl rfl)
theorem dX6_add_81 : decode cX6_add 81 = .ok (.iload 6, 2) := dk_21 6 (dk_at dksX6_add_3 12 rfl rfl)
theorem dX6_add_83 : decode cX6_add 83 = .ok (.ifCond .eq 55, 3) := dk_153 0 55 (dk_at dksX6_add_3 14 rfl rfl)
theorem dX6_add_86 : decode cX6_add 86 = .ok (.iload 10, 2) := dk_21 10 (dk_at dksX6_add_3 17 rfl rfl)
theorem dX6_add_88 : decode cX6_add 88 = .ok (.ifCond .eq 40, 3) := dk_153 0 40 (dk_at dksX6_add_3 19 rfl rfl)
theorem dX6_add_91 : decode cX6_add 91 = .ok (.iload 11, 2) := dk_21 11 (dk_at dksX6_add_3 22 rfl rfl)
theorem dX6_add_93 : decode cX6_add 93 = .ok (.ifCond .eq 45, 3) := dk_153 0 45 (dk_at dksX6_add_4 0 rfl rfl)
theorem dX6_add_96 : decode cX6_add 96 = .ok (.aload_n 0, 1) := dk_42 (dk_at dksX6_add_4 3 rfl rfl)
theorem dX6_add_97 : decode cX6_add 97 = .ok (.iload 9, 2) := dk_21 9 (dk_at dksX6_add_4 4 rfl rfl)
theorem dX6_add_99 : decode cX6_add 99 = .ok (.aload_n 0, 1) := dk_42 (dk_at dksX6_add_4 6 rfl rfl)
theorem dX6_add_100 : decode cX6_add 100 = .ok (.getfield 65, 3) := dk_180 0 65 (dk_at dksX6_add_4 7 rfl rfl)
theorem dX6_add_103 : decode cX6_add 103 = .ok (.iload 8, 2) := dk_21 8 (dk_at dksX6_add_4 10 rfl rfl)
theorem dX6_add_105 : decode cX6_add 105 = .ok (.iaload, 1) := dk_46 (dk_at dksX6_add_4 12 rfl rfl)
theorem dX6_add_106 : decode cX6_add 106 = .ok (.invokevirtual 215, 3) := dk_182 0 215 (dk_at dksX6_add_4 13 rfl rfl)
theorem dX6_add_109 : decode cX6_add 109 = .ok (.ifCond .eq 29, 3) := dk_153 0 29 (dk_at dksX6_add_4 16 rfl rfl)
theorem dX6_add_112 : decode cX6_add 112 = .ok (.aload_n 0, 1) := dk_42 (dk_at dksX6_add_4 19 rfl rfl)
theorem dX6_add_113 : decode cX6_add 113 = .ok (.getfield 52, 3) := dk_180 0 52 (dk_at dksX6_add_4 20 rfl rfl)
theorem dX6_add_116 : decode cX6_add 116 = .ok (.iload 9, 2) := dk_21 9 (dk_at dksX6_add_5 0 rfl rfl)
theorem dX6_add_118 : decode cX6_add 118 = .ok (.iaload, 1) := dk_46 (dk_at dksX6_add_5 2 rfl rfl)
theorem dX6_add_119 : decode cX6_add 119 = .ok (.iload 7, 2) := dk_21 7 (dk_at dksX6_add_5 3 rfl rfl)
theorem dX6_add_121 : decode cX6_add 121 = .ok (.iand, 1) := dk_126 (dk_at dksX6_add_5 5 rfl rfl)
theorem dX6_add_122 : decode cX6_add 122 = .ok (.ifCond .ne 16, 3) := dk_154 0 16 (dk_at dksX6_add_5 6 rfl rfl)
theorem dX6_add_125 : decode cX6_add 125 = .ok (.goto 9, 3) := dk_167 0 9 (dk_at dksX6_add_5 9 rfl rfl)
theorem dX6_add_128 : decode cX6_add 128 = .ok (.iload 9, 2) := dk_21 9 (dk_at dksX6_add_5 12 rfl rfl)
theorem dX6_add_130 : decode cX6_add 130 = .ok (.iconst (-1), 1) := dk_2 (dk_at dksX6_add_5 14 rfl rfl)
theorem dX6_add_131 : decode cX6_add 131 = .ok (.if_icmp .ne 7, 3) := dk_160 0 7 (dk_at dksX6_add_5 15 rfl rfl)
theorem dX6_add_134 : decode cX6_add 134 = .ok (.iconst 1, 1) := dk_4 (dk_at dksX6_add_5 18 rfl rfl)
theorem dX6_add_135 : decode cX6_add 135 = .ok (.goto 4, 3) := dk_167 0 4 (dk_at dksX6_add_5 19 rfl rfl)
theorem dX6_add_138 : decode cX6_add 138 = .ok (.iconst 0, 1) := dk_3 (dk_at dksX6_add_5 22 rfl rfl)
theorem dX6_add_139 : decode cX6_add 139 = .ok (.istore 6, 2) := dk_54 6 (dk_at dksX6_add_6 0 rfl rfl)
theorem dX6_add_141 : decode cX6_add 141 = .ok (.iload 7, 2) := dk_21 7 (dk_at dksX6_add_6 2 rfl rfl)
theorem dX6_add_143 : decode cX6_add 143 = .ok (.iload 10, 2) := dk_21 10 (dk_at dksX6_add_6 4 rfl rfl)
theorem dX6_add_145 : decode cX6_add 145 = .ok (.ifCond .eq 18, 3) := dk_153 0 18 (dk_at dksX6_add_6 6 rfl rfl)
theorem dX6_add_148 : decode cX6_add 148 = .ok (.iload 11, 2) := dk_21 11 (dk_at dksX6_add_6 9 rfl rfl)
theorem dX6_add_150 : decode cX6_add 150 = .ok (.ifCond .eq 13, 3) := dk_153 0 13 (dk_at dksX6_add_6 11 rfl rfl)
theorem dX6_add_153 : decode cX6_add 153 = .ok (.aload_n 0, 1) := dk_42 (dk_at dksX6_add_6 14 rfl rfl)
theorem dX6_add_154 : decode cX6_add 154 = .ok (.getfield 52, 3) := dk_180 0 52 (dk_at dksX6_add_6 15 rfl rfl)
theorem dX6_add_157 : decode cX6_add 157 = .ok (.iload 9, 2) := dk_21 9 (dk_at dksX6_add_6 18 rfl rfl)
theorem dX6_add_159 : decode cX6_add 159 = .ok (.iaload, 1) := dk_46 (dk_at dksX6_add_6 20 rfl rfl)
theorem dX6_add_160 : decode cX6_add 160 = .ok (.goto 4, 3) := dk_167 0 4 (dk_at dksX6_add_6 21 rfl rfl)
theorem dX6_add_163 : decode cX6_add 163 = .ok (.iconst 0, 1) := dk_3 (dk_at dksX6_add_7 0 rfl rfl)
theorem dX6_add_164 : decode cX6_add 164 = .ok (.ior, 1) := dk_128 (dk_at dksX6_add_7 1 rfl rfl)
theorem dX6_add_165 : decode cX6_add 165 = .ok (.istore 7, 2) := dk_54 7 (dk_at dksX6_add_7 2 rfl rfl)
theorem dX6_add_167 : decode cX6_add 167 = .ok (.iinc 8 1, 3) := dk_132 8 1 (dk_at dksX6_add_7 4 rfl rfl)
theorem dX6_add_170 : decode cX6_add 170 = .ok (.goto (-151), 3) := dk_167 255 105 (dk_at dksX6_add_7 7 rfl rfl)
theorem dX6_add_173 : decode cX6_add 173 = .ok (.aload_n 0, 1) := dk_42 (dk_at dksX6_add_7 10 rfl rfl)
theorem dX6_add_174 : decode cX6_add 174 = .ok (.iload 5, 2) := dk_21 5 (dk_at dksX6_add_7 11 rfl rfl)
theorem dX6_add_176 : decode cX6_add 176 = .ok (.ifCond .ne 7, 3) := dk_154 0 7 (dk_at dksX6_add_7 13 rfl rfl)
theorem dX6_add_179 : decode cX6_add 179 = .ok (.iconst 1, 1) := dk_4 (dk_at dksX6_add_7 16 rfl rfl)
theorem dX6_add_180 : decode cX6_add 180 = .ok (.goto 33, 3) := dk_167 0 33 (dk_at dksX6_add_7 17 rfl rfl)
theorem dX6_add_183 : decode cX6_add 183 = .ok (.iload 6, 2) := dk_21 6 (dk_at dksX6_add_7 20 rfl rfl)
theorem dX6_add_185 : decode cX6_add 185 = .ok (.ifCond .ne 7, 3) := dk_154 0 7 (dk_at dksX6_add_8 0 rfl rfl)
theorem dX6_add_188 : decode cX6_add 188 = .ok (.iconst 2, 1) := dk_5 (dk_at dksX6_add_8 3 rfl rfl)
theorem dX6_add_189 : decode cX6_add 189 = .ok (.goto 24, 3) := dk_167 0 24 (dk_at dksX6_add_8 4 rfl rfl)
theorem dX6_add_192 : decode cX6_add 192 = .ok (.aload_n 0, 1) := dk_42 (dk_at dksX6_add_8 7 rfl rfl)
theorem dX6_add_193 : decode cX6_add 193 = .ok (.getfield 231, 3) := dk_180 0 231 (dk_at dksX6_add_8 8 rfl rfl)
theorem dX6_add_196 : decode cX6_add 196 = .ok (.ifCond .eq 12, 3) := dk_153 0 12 (dk_at dksX6_add_8 11 rfl rfl)
theorem dX6_add_199 : decode cX6_add 199 = .ok (.aload_n 0, 1) := dk_42 (dk_at dksX6_add_8 14 rfl rfl)
theorem dX6_add_200 : decode cX6_add 200 = .ok (.getfield 228, 3) := dk_180 0 228 (dk_at dksX6_add_8 15 rfl rfl)
theorem dX6_add_203 : decode cX6_add 203 = .ok (.bipush 8, 2) := dk_16 8 (dk_at dksX6_add_8 18 rfl rfl)
theorem dX6_add_205 : decode cX6_add 205 = .ok (.if_icmp .ne 7, 3) := dk_160 0 7 (dk_at dksX6_add_8 20 rfl rfl)
theorem dX6_add_208 : decode cX6_add 208 = .ok (.iconst 3, 1) := dk_6 (dk_at dksX6_add_8 23 rfl rfl)
theorem dX6_add_209 : decode cX6_add 209 = .ok (.goto 4, 3) := dk_167 0 4 (dk_at dksX6_add_9 0 rfl rfl)
theorem dX6_add_212 : decode cX6_add 212 = .ok (.iconst 0, 1) := dk_3 (dk_at dksX6_add_9 3 rfl rfl)
theorem dX6_add_213 : decode cX6_add 213 = .ok (.invokevirtual 183, 3) := dk_182 0 183 (dk_at dksX6_add_9 4 rfl rfl)
theorem dX6_add_216 : decode cX6_add 216 = .ok (.ifCond .eq 5, 3) := dk_153 0 5 (dk_at dksX6_add_9 7 rfl rfl)
theorem dX6_add_219 : decode cX6_add 219 = .ok (.iconst 0, 1) := dk_3 (dk_at dksX6_add_9 10 rfl rfl)
theorem dX6_add_220 : decode cX6_add 220 = .ok (.ireturn, 1) := dk_172 (dk_at dksX6_add_9 11 rfl rfl)
theorem dX6_add_221 : decode cX6_add 221 = .ok (.aload_n 0, 1) := dk_42 (dk_at dksX6_add_9 12 rfl rfl)
theorem dX6_add_222 : decode cX6_add 222 = .ok (.getfield 228, 3) := dk_180 0 228 (dk_at dksX6_add_9 13 rfl rfl)
theorem dX6_add_225 : decode cX6_add 225 = .ok (.istore 8, 2) := dk_54 8 (dk_at dksX6_add_9 16 rfl rfl)
theorem dX6_add_227 : decode cX6_add 227 = .ok (.aload_n 0, 1) := dk_42 (dk_at dksX6_add_9 18 rfl rfl)
theorem dX6_add_228 : decode cX6_add 228 = .ok (.iload 8, 2) := dk_21 8 (dk_at dksX6_add_9 19 rfl rfl)
theorem dX6_add_230 : decode cX6_add 230 = .ok (.invokevirtual 244, 3) := dk_182 0 244 (dk_at dksX6_add_9 21 rfl rfl)
theorem dX6_add_233 : decode cX6_add 233 = .ok (.iconst 0, 1) := dk_3 (dk_at dksX6_add_10 0 rfl rfl)
theorem dX6_add_234 : decode cX6_add 234 = .ok (.istore 9, 2) := dk_54 9 (dk_at dksX6_add_10 1 rfl rfl)
theorem dX6_add_236 : decode cX6_add 236 = .ok (.iload 9, 2) := dk_21 9 (dk_at dksX6_add_10 3 rfl rfl)
theorem dX6_add_238 : decode cX6_add 238 = .ok (.iconst 3, 1) := dk_6 (dk_at dksX6_add_10 5 rfl rfl)
theorem dX6_add_239 : decode cX6_add 239 = .ok (.if_icmp .ge 29, 3) := dk_162 0 29 (dk_at dksX6_add_10 6 rfl rfl)
theorem dX6_add_242 : decode cX6_add 242 = .ok (.aload_n 0, 1) := dk_42 (dk_at dksX6_add_10 9 rfl rfl)
theorem dX6_add_243 : decode cX6_add 243 = .ok (.getfield 68, 3) := dk_180 0 68 (dk_at dksX6_add_10 10 rfl rfl)
theorem dX6_add_246 : decode cX6_add 246 = .ok (.iconst 3, 1) := dk_6 (dk_at dksX6_add_10 13 rfl rfl)
theorem dX6_add_247 : decode cX6_add 247 = .ok (.iload 8, 2) := dk_21 8 (dk_at dksX6_add_10 14 rfl rfl)
theorem dX6_add_249 : decode cX6_add 249 = .ok (.imul, 1) := dk_104 (dk_at dksX6_add_10 16 rfl rfl)
theorem dX6_add_250 : decode cX6_add 250 = .ok (.iload 9, 2) := dk_21 9 (dk_at dksX6_add_10 17 rfl rfl)
theorem dX6_add_252 : decode cX6_add 252 = .ok (.iadd, 1) := dk_96 (dk_at dksX6_add_10 19 rfl rfl)
theorem dX6_add_253 : decode cX6_add 253 = .ok (.iload_n 1, 1) := dk_27 (dk_at dksX6_add_10 20 rfl rfl)
theorem dX6_add_254 : decode cX6_add 254 = .ok (.iload_n 2, 1) := dk_28 (dk_at dksX6_add_10 21 rfl rfl)
theorem dX6_add_255 : decode cX6_add 255 = .ok (.iload_n 3, 1) := dk_29 (dk_at dksX6_add_10 22 rfl rfl)
theorem dX6_add_256 : decode cX6_add 256 = .ok (.iload 9, 2) := dk_21 9 (dk_at dksX6_add_11 0 rfl rfl)
theorem dX6_add_258 : decode cX6_add 258 = .ok (.invokestatic 175, 3) := dk_184 0 175 (dk_at dksX6_add_11 2 rfl rfl)
theorem dX6_add_261 : decode cX6_add 261 = .ok (.iastore, 1) := dk_79 (dk_at dksX6_add_11 5 rfl rfl)
theorem dX6_add_262 : decode cX6_add 262 = .ok (.iinc 9 1, 3) := dk_132 9 1 (dk_at dksX6_add_11 6 rfl rfl)
theorem dX6_add_265 : decode cX6_add 265 = .ok (.goto (-29), 3) := dk_167 255 227 (dk_at dksX6_add_11 9 rfl rfl)
theorem dX6_add_268 : decode cX6_add 268 = .ok (.aload_n 0, 1) := dk_42 (dk_at dksX6_add_11 12 rfl rfl)
theorem dX6_add_269 : decode cX6_add 269 = .ok (.getfield 71, 3) := dk_180 0 71 (dk_at dksX6_add_11 13 rfl rfl)
theorem dX6_add_272 : decode cX6_add 272 = .ok (.iload 8, 2) := dk_21 8 (dk_at dksX6_add_11 16 rfl rfl)
theorem dX6_add_274 : decode cX6_add 274 = .ok (.iload 4, 2) := dk_21 4 (dk_at dksX6_add_11 18 rfl rfl)
theorem dX6_add_276 : decode cX6_add 276 = .ok (.iastore, 1) := dk_79 (dk_at dksX6_add_11 20 rfl rfl)
theorem dX6_add_277 : decode cX6_add 277 = .ok (.iload 8, 2) := dk_21 8 (dk_at dksX6_add_11 21 rfl rfl)
theorem dX6_add_279 : decode cX6_add 279 = .ok (.ireturn, 1) := dk_172 (dk_at dksX6_add_11 23 rfl rfl)
abbrev cX6_open : ByteArray := prog_23_method_30_code
def yX6_open : MethodName := ⟨RX6, "open", "(I)V"⟩
def dkwX6_open_2 : List UInt8 := [42, 2, 181, 0, 161, 177]
abbrev dktX6_open_2 : List UInt8 := dkwX6_open_2 ++ []
def dkwX6_open_1 : List UInt8 := [42, 89, 180, 0, 228, 4, 96, 181, 0, 228, 42, 180, 0, 83, 27, 3, 79, 42, 180, 0, 74, 27, 2, 79]
abbrev dktX6_open_1 : List UInt8 := dkwX6_open_1 ++ dktX6_open_2
def dkwX6_open_0 : List UInt8 := [42, 180, 0, 228, 61, 28, 27, 164, 0, 17, 42, 28, 4, 100, 28, 182, 0, 240, 132, 2, 255, 167, 255, 240]
abbrev dktX6_open_0 : List UInt8 := dkwX6_open_0 ++ dktX6_open_1
theorem dksX6_open_0 : cX6_open.data.toList.drop 0 = dktX6_open_0 := by decide +kernel
theorem dksX6_open_1 : cX6_open.data.toList.drop 24 = dktX6_open_1 := dk_seg dksX6_open_0 24 rfl rfl
theorem dksX6_open_2 : cX6_open.data.toList.drop 48 = dktX6_open_2 := dk_seg dksX6_open_1 24 rfl rfl
theorem dX6_open_0 : decode cX6_open 0 = .ok (.aload_n 0, 1) := dk_42 (dk_at dksX6_open_0 0 rfl rfl)
theorem dX6_open_1 : decode cX6_open 1 = .ok (.getfield 228, 3) := dk_180 0 228 (dk_at dksX6_open_0 1 rfl rfl)
theorem dX6_open_4 : decode cX6_open 4 = .ok (.istore_n 2, 1) := dk_61 (dk_at dksX6_open_0 4 rfl rfl)
theorem dX6_open_5 : decode cX6_open 5 = .ok (.iload_n 2, 1) := dk_28 (dk_at dksX6_open_0 5 rfl rfl)
theorem dX6_open_6 : decode cX6_open 6 = .ok (.iload_n 1, 1) := dk_27 (dk_at dksX6_open_0 6 rfl rfl)
theorem dX6_open_7 : decode cX6_open 7 = .ok (.if_icmp .le 17, 3) := dk_164 0 17 (dk_at dksX6_open_0 7 rfl rfl)
theorem dX6_open_10 : decode cX6_open 10 = .ok (.aload_n 0, 1) := dk_42 (dk_at dksX6_open_0 10 rfl rfl)
theorem dX6_open_11 : decode cX6_open 11 = .ok (.iload_n 2, 1) := dk_28 (dk_at dksX6_open_0 11 rfl rfl)
theorem dX6_open_12 : decode cX6_open 12 = .ok (.iconst 1, 1) := dk_4 (dk_at dksX6_open_0 12 rfl rfl)
theorem dX6_open_13 : decode cX6_open 13 = .ok (.isub, 1) := dk_100 (dk_at dksX6_open_0 13 rfl rfl)
theorem dX6_open_14 : decode cX6_open 14 = .ok (.iload_n 2, 1) := dk_28 (dk_at dksX6_open_0 14 rfl rfl)
theorem dX6_open_15 : decode cX6_open 15 = .ok (.invokevirtual 240, 3) := dk_182 0 240 (dk_at dksX6_open_0 15 rfl rfl)
theorem dX6_open_18 : decode cX6_open 18 = .ok (.iinc 2 (-1), 3) := dk_132 2 255 (dk_at dksX6_open_0 18 rfl rfl)
theorem dX6_open_21 : decode cX6_open 21 = .ok (.goto (-16), 3) := dk_167 255 240 (dk_at dksX6_open_0 21 rfl rfl)
theorem dX6_open_24 : decode cX6_open 24 = .ok (.aload_n 0, 1) := dk_42 (dk_at dksX6_open_1 0 rfl rfl)
theorem dX6_open_25 : decode cX6_open 25 = .ok (.dup, 1) := dk_89 (dk_at dksX6_open_1 1 rfl rfl)
theorem dX6_open_26 : decode cX6_open 26 = .ok (.getfield 228, 3) := dk_180 0 228 (dk_at dksX6_open_1 2 rfl rfl)
theorem dX6_open_29 : decode cX6_open 29 = .ok (.iconst 1, 1) := dk_4 (dk_at dksX6_open_1 5 rfl rfl)
theorem dX6_open_30 : decode cX6_open 30 = .ok (.iadd, 1) := dk_96 (dk_at dksX6_open_1 6 rfl rfl)
theorem dX6_open_31 : decode cX6_open 31 = .ok (.putfield 228, 3) := dk_181 0 228 (dk_at dksX6_open_1 7 rfl rfl)
theorem dX6_open_34 : decode cX6_open 34 = .ok (.aload_n 0, 1) := dk_42 (dk_at dksX6_open_1 10 rfl rfl)
theorem dX6_open_35 : decode cX6_open 35 = .ok (.getfield 83, 3) := dk_180 0 83 (dk_at dksX6_open_1 11 rfl rfl)
theorem dX6_open_38 : decode cX6_open 38 = .ok (.iload_n 1, 1) := dk_27 (dk_at dksX6_open_1 14 rfl rfl)
theorem dX6_open_39 : decode cX6_open 39 = .ok (.iconst 0, 1) := dk_3 (dk_at dksX6_open_1 15 rfl rfl)
theorem dX6_open_40 : decode cX6_open 40 = .ok (.iastore, 1) := dk_79 (dk_at dksX6_open_1 16 rfl rfl)
theorem dX6_open_41 : decode cX6_open 41 = .ok (.aload_n 0, 1) := dk_42 (dk_at dksX6_open_1 17 rfl rfl)
theorem dX6_open_42 : decode cX6_open 42 = .ok (.getfield 74, 3) := dk_180 0 74 (dk_at dksX6_open_1 18 rfl rfl)
theorem dX6_open_45 : decode cX6_open 45 = .ok (.iload_n 1, 1) := dk_27 (dk_at dksX6_open_1 21 rfl rfl)
theorem dX6_open_46 : decode cX6_open 46 = .ok (.iconst (-1), 1) := dk_2 (dk_at dksX6_open_1 22 rfl rfl)
theorem dX6_open_47 : decode cX6_open 47 = .ok (.iastore, 1) := dk_79 (dk_at dksX6_open_1 23 rfl rfl)
theorem dX6_open_48 : decode cX6_open 48 = .ok (.aload_n 0, 1) := dk_42 (dk_at dksX6_open_2 0 rfl rfl)
theorem dX6_open_49 : decode cX6_open 49 = .ok (.iconst (-1), 1) := dk_2 (dk_at dksX6_open_2 1 rfl rfl)
theorem dX6_open_50 : decode cX6_open 50 = .ok (.putfield 161, 3) := dk_181 0 161 (dk_at dksX6_open_2 2 rfl rfl)
theorem dX6_open_53 : decode cX6_open 53 = .ok (.return_, 1) := dk_177 (dk_at dksX6_open_2 5 rfl rfl)
abbrev cX6_copyCase : ByteArray := prog_23_method_31_code
def yX6_copyCase : MethodName := ⟨RX6, "copyCase", "(II)V"⟩
def dkwX6_copyCase_3 : List UInt8 := [180, 0, 80, 28, 42, 180, 0, 80, 27, 46, 79, 42, 180, 0, 83, 28, 42, 180, 0, 83, 27, 46, 79, 177]
abbrev dktX6_copyCase_3 : List UInt8 := dkwX6_copyCase_3 ++ []
def dkwX6_copyCase_2 : List UInt8 := [180, 0, 74, 28, 42, 180, 0, 74, 27, 46, 79, 42, 180, 0, 77, 28, 42, 180, 0, 77, 27, 46, 79, 42]
abbrev dktX6_copyCase_2 : List UInt8 := dkwX6_copyCase_2 ++ dktX6_copyCase_3
def dkwX6_copyCase_1 : List UInt8 := [96, 46, 79, 132, 3, 1, 167, 255, 228, 42, 180, 0, 71, 28, 42, 180, 0, 71, 27, 46, 79, 42]
abbrev dktX6_copyCase_1 : List UInt8 := dkwX6_copyCase_1 ++ dktX6_copyCase_2
def dkwX6_copyCase_0 : List UInt8 := [3, 62, 29, 6, 162, 0, 29, 42, 180, 0, 68, 6, 28, 104, 29, 96, 42, 180, 0, 68, 6, 27, 104, 29]
abbrev dktX6_copyCase_0 : List UInt8 := dkwX6_copyCase_0 ++ dktX6_copyCase_1
theorem dksX6_copyCase_0 : cX6_copyCase.data.toList.drop 0 = dktX6_copyCase_0 := by decide +kernel
theorem dksX6_copyCase_1 : cX6_copyCase.data.toList.drop 24 = dktX6_copyCase_1 := dk_seg dksX6_copyCase_0 24 rfl rfl
theorem dksX6_copyCase_2 : cX6_copyCase.data.toList.drop 46 = dktX6_copyCase_2 := dk_seg dksX6_copyCase_1 22 rfl rfl
theorem dksX6_copyCase_3 : cX6_copyCase.data.toList.drop 70 = dktX6_copyCase_3 := dk_seg dksX6_copyCase_2 24 rfl rfl
theorem dX6_copyCase_0 : decode cX6_copyCase 0 = .ok (.iconst 0, 1) := dk_3 (dk_at dksX6_copyCase_0 0 rfl rfl)
theorem dX6_copyCase_1 : decode cX6_copyCase 1 = .ok (.istore_n 3, 1) := dk_62 (dk_at dksX6_copyCase_0 1 rfl rfl)
theorem dX6_copyCase_2 : decode cX6_copyCase 2 = .ok (.iload_n 3, 1) := dk_29 (dk_at dksX6_copyCase_0 2 rfl rfl)
theorem dX6_copyCase_3 : decode cX6_copyCase 3 = .ok (.iconst 3, 1) := dk_6 (dk_at dksX6_copyCase_0 3 rfl rfl)
theorem dX6_copyCase_4 : decode cX6_copyCase 4 = .ok (.if_icmp .ge 29, 3) := dk_162 0 29 (dk_at dksX6_copyCase_0 4 rfl rfl)
theorem dX6_copyCase_7 : decode cX6_copyCase 7 = .ok (.aload_n 0, 1) := dk_42 (dk_at dksX6_copyCase_0 7 rfl rfl)
theorem dX6_copyCase_8 : decode cX6_copyCase 8 = .ok (.getfield 68, 3) := dk_180 0 68 (dk_at dksX6_copyCase_0 8 rfl rfl)
theorem dX6_copyCase_11 : decode cX6_copyCase 11 = .ok (.iconst 3, 1) := dk_6 (dk_at dksX6_copyCase_0 11 rfl rfl)
theorem dX6_copyCase_12 : decode cX6_copyCase 12 = .ok (.iload_n 2, 1) := dk_28 (dk_at dksX6_copyCase_0 12 rfl rfl)
theorem dX6_copyCase_13 : decode cX6_copyCase 13 = .ok (.imul, 1) := dk_104 (dk_at dksX6_copyCase_0 13 rfl rfl)
theorem dX6_copyCase_14 : decode cX6_copyCase 14 = .ok (.iload_n 3, 1) := dk_29 (dk_at dksX6_copyCase_0 14 rfl rfl)
theorem dX6_copyCase_15 : decode cX6_copyCase 15 = .ok (.iadd, 1) := dk_96 (dk_at dksX6_copyCase_0 15 rfl rfl)
theorem dX6_copyCase_16 : decode cX6_copyCase 16 = .ok (.aload_n 0, 1) := dk_42 (dk_at dksX6_copyCase_0 16 rfl rfl)
theorem dX6_copyCase_17 : decode cX6_copyCase 17 = .ok (.getfield 68, 3) := dk_180 0 68 (dk_at dksX6_copyCase_0 17 rfl rfl)
theorem dX6_copyCase_20 : decode cX6_copyCase 20 = .ok (.iconst 3, 1) := dk_6 (dk_at dksX6_copyCase_0 20 rfl rfl)
theorem dX6_copyCase_21 : decode cX6_copyCase 21 = .ok (.iload_n 1, 1) := dk_27 (dk_at dksX6_copyCase_0 21 rfl rfl)
theorem dX6_copyCase_22 : decode cX6_copyCase 22 = .ok (.imul, 1) := dk_104 (dk_at dksX6_copyCase_0 22 rfl rfl)
theorem dX6_copyCase_23 : decode cX6_copyCase 23 = .ok (.iload_n 3, 1) := dk_29 (dk_at dksX6_copyCase_0 23 rfl rfl)
theorem dX6_copyCase_24 : decode cX6_copyCase 24 = .ok (.iadd, 1) := dk_96 (dk_at dksX6_copyCase_1 0 rfl rfl)
theorem dX6_copyCase_25 : decode cX6_copyCase 25 = .ok (.iaload, 1) := dk_46 (dk_at dksX6_copyCase_1 1 rfl rfl)
theorem dX6_copyCase_26 : decode cX6_copyCase 26 = .ok (.iastore, 1) := dk_79 (dk_at dksX6_copyCase_1 2 rfl rfl)
theorem dX6_copyCase_27 : decode cX6_copyCase 27 = .ok (.iinc 3 1, 3) := dk_132 3 1 (dk_at dksX6_copyCase_1 3 rfl rfl)
theorem dX6_copyCase_30 : decode cX6_copyCase 30 = .ok (.goto (-28), 3) := dk_167 255 228 (dk_at dksX6_copyCase_1 6 rfl rfl)
theorem dX6_copyCase_33 : decode cX6_copyCase 33 = .ok (.aload_n 0, 1) := dk_42 (dk_at dksX6_copyCase_1 9 rfl rfl)
theorem dX6_copyCase_34 : decode cX6_copyCase 34 = .ok (.getfield 71, 3) := dk_180 0 71 (dk_at dksX6_copyCase_1 10 rfl rfl)
theorem dX6_copyCase_37 : decode cX6_copyCase 37 = .ok (.iload_n 2, 1) := dk_28 (dk_at dksX6_copyCase_1 13 rfl rfl)
theorem dX6_copyCase_38 : decode cX6_copyCase 38 = .ok (.aload_n 0, 1) := dk_42 (dk_at dksX6_copyCase_1 14 rfl rfl)
theorem dX6_copyCase_39 : decode cX6_copyCase 39 = .ok (.getfield 71, 3) := dk_180 0 71 (dk_at dksX6_copyCase_1 15 rfl rfl)
theorem dX6_copyCase_42 : decode cX6_copyCase 42 = .ok (.iload_n 1, 1) := dk_27 (dk_at dksX6_copyCase_1 18 rfl rfl)
theorem dX6_copyCase_43 : decode cX6_copyCase 43 = .ok (.iaload, 1) := dk_46 (dk_at dksX6_copyCase_1 19 rfl rfl)
theorem dX6_copyCase_44 : decode cX6_copyCase 44 = .ok (.iastore, 1) := dk_79 (dk_at dksX6_copyCase_1 20 rfl rfl)
theorem dX6_copyCase_45 : decode cX6_copyCase 45 = .ok (.aload_n 0, 1) := dk_42 (dk_at dksX6_copyCase_1 21 rfl rfl)
theorem dX6_copyCase_46 : decode cX6_copyCase 46 = .ok (.getfield 74, 3) := dk_180 0 74 (dk_at dksX6_copyCase_2 0 rfl rfl)
theorem dX6_copyCase_49 : decode cX6_copyCase 49 = .ok (.iload_n 2, 1) := dk_28 (dk_at dksX6_copyCase_2 3 rfl rfl)
theorem dX6_copyCase_50 : decode cX6_copyCase 50 = .ok (.aload_n 0, 1) := dk_42 (dk_at dksX6_copyCase_2 4 rfl rfl)
theorem dX6_copyCase_51 : decode cX6_copyCase 51 = .ok (.getfield 74, 3) := dk_180 0 74 (dk_at dksX6_copyCase_2 5 rfl rfl)
theorem dX6_copyCase_54 : decode cX6_copyCase 54 = .ok (.iload_n 1, 1) := dk_27 (dk_at dksX6_copyCase_2 8 rfl rfl)
theorem dX6_copyCase_55 : decode cX6_copyCase 55 = .ok (.iaload, 1) := dk_46 (dk_at dksX6_copyCase_2 9 rfl rfl)
theorem dX6_copyCase_56 : decode cX6_copyCase 56 = .ok (.iastore, 1) := dk_79 (dk_at dksX6_copyCase_2 10 rfl rfl)
theorem dX6_copyCase_57 : decode cX6_copyCase 57 = .ok (.aload_n 0, 1) := dk_42 (dk_at dksX6_copyCase_2 11 rfl rfl)
theorem dX6_copyCase_58 : decode cX6_copyCase 58 = .ok (.getfield 77, 3) := dk_180 0 77 (dk_at dksX6_copyCase_2 12 rfl rfl)
theorem dX6_copyCase_61 : decode cX6_copyCase 61 = .ok (.iload_n 2, 1) := dk_28 (dk_at dksX6_copyCase_2 15 rfl rfl)
theorem dX6_copyCase_62 : decode cX6_copyCase 62 = .ok (.aload_n 0, 1) := dk_42 (dk_at dksX6_copyCase_2 16 rfl rfl)
theorem dX6_copyCase_63 : decode cX6_copyCase 63 = .ok (.getfield 77, 3) := dk_180 0 77 (dk_at dksX6_copyCase_2 17 rfl rfl)
theorem dX6_copyCase_66 : decode cX6_copyCase 66 = .ok (.iload_n 1, 1) := dk_27 (dk_at dksX6_copyCase_2 20 rfl rfl)
theorem dX6_copyCase_67 : decode cX6_copyCase 67 = .ok (.iaload, 1) := dk_46 (dk_at dksX6_copyCase_2 21 rfl rfl)
theorem dX6_copyCase_68 : decode cX6_copyCase 68 = .ok (.iastore, 1) := dk_79 (dk_at dksX6_copyCase_2 22 rfl rfl)
theorem dX6_copyCase_69 : decode cX6_copyCase 69 = .ok (.aload_n 0, 1) := dk_42 (dk_at dksX6_copyCase_2 23 rfl rfl)
theorem dX6_copyCase_70 : decode cX6_copyCase 70 = .ok (.getfield 80, 3) := dk_180 0 80 (dk_at dksX6_copyCase_3 0 rfl rfl)
theorem dX6_copyCase_73 : decode cX6_copyCase 73 = .ok (.iload_n 2, 1) := dk_28 (dk_at dksX6_copyCase_3 3 rfl rfl)
theorem dX6_copyCase_74 : decode cX6_copyCase 74 = .ok (.aload_n 0, 1) := dk_42 (dk_at dksX6_copyCase_3 4 rfl rfl)
theorem dX6_copyCase_75 : decode cX6_copyCase 75 = .ok (.getfield 80, 3) := dk_180 0 80 (dk_at dksX6_copyCase_3 5 rfl rfl)
theorem dX6_copyCase_78 : decode cX6_copyCase 78 = .ok (.iload_n 1, 1) := dk_27 (dk_at dksX6_copyCase_3 8 rfl rfl)
theorem dX6_copyCase_79 : decode cX6_copyCase 79 = .ok (.iaload, 1) := dk_46 (dk_at dksX6_copyCase_3 9 rfl rfl)
theorem dX6_copyCase_80 : decode cX6_copyCase 80 = .ok (.iastore, 1) := dk_79 (dk_at dksX6_copyCase_3 10 rfl rfl)
theorem dX6_copyCase_81 : decode cX6_copyCase 81 = .ok (.aload_n 0, 1) := dk_42 (dk_at dksX6_copyCase_3 11 rfl rfl)
theorem dX6_copyCase_82 : decode cX6_copyCase 82 = .ok (.getfield 83, 3) := dk_180 0 83 (dk_at dksX6_copyCase_3 12 rfl rfl)
theorem dX6_copyCase_85 : decode cX6_copyCase 85 = .ok (.iload_n 2, 1) := dk_28 (dk_at dksX6_copyCase_3 15 rfl rfl)
theorem dX6_copyCase_86 : decode cX6_copyCase 86 = .ok (.aload_n 0, 1) := dk_42 (dk_at dksX6_copyCase_3 16 rfl rfl)
theorem dX6_copyCase_87 : decode cX6_copyCase 87 = .ok (.getfield 83, 3) := dk_180 0 83 (dk_at dksX6_copyCase_3 17 rfl rfl)
theorem dX6_copyCase_90 : decode cX6_copyCase 90 = .ok (.iload_n 1, 1) := dk_27 (dk_at dksX6_copyCase_3 20 rfl rfl)
theorem dX6_copyCase_91 : decode cX6_copyCase 91 = .ok (.iaload, 1) := dk_46 (dk_at dksX6_copyCase_3 21 rfl rfl)
theorem dX6_copyCase_92 : decode cX6_copyCase 92 = .ok (.iastore, 1) := dk_79 (dk_at dksX6_copyCase_3 22 rfl rfl)
theorem dX6_copyCase_93 : decode cX6_copyCase 93 = .ok (.return_, 1) := dk_177 (dk_at dksX6_copyCase_3 23 rfl rfl)
abbrev cX6_guard : ByteArray := prog_23_method_35_code
def yX6_guard : MethodName := ⟨RX6, "guard", "(IIII)I"⟩
def dkwX6_guard_6 : List UInt8 := [21, 7, 172]
abbrev dktX6_guard_6 : List UInt8 := dkwX6_guard_6 ++ []
def dkwX6_guard_5 : List UInt8 := [27, 28, 79, 42, 180, 0, 77, 27, 29, 79, 42, 180, 0, 80, 27, 21, 4, 79, 42, 2, 181, 0, 161]
abbrev dktX6_guard_5 : List UInt8 := dkwX6_guard_5 ++ dktX6_guard_6
def dkwX6_guard_4 : List UInt8 := [167, 0, 4, 5, 182, 0, 183, 153, 0, 5, 3, 172, 42, 180, 0, 74, 27, 46, 54, 7, 42, 180, 0, 74]
abbrev dktX6_guard_4 : List UInt8 := dkwX6_guard_4 ++ dktX6_guard_5
def dkwX6_guard_3 : List UInt8 := [4, 167, 0, 4, 3, 54, 6, 42, 21, 5, 154, 0, 7, 4, 167, 0, 13, 21, 6, 153, 0, 7, 3]
abbrev dktX6_guard_3 : List UInt8 := dkwX6_guard_3 ++ dktX6_guard_4
def dkwX6_guard_2 : List UInt8 := [153, 0, 28, 28, 2, 160, 0, 10, 29, 154, 0, 19, 167, 0, 12, 42, 27, 29, 182, 0, 251, 153, 0, 7]
abbrev dktX6_guard_2 : List UInt8 := dkwX6_guard_2 ++ dktX6_guard_3
def dkwX6_guard_1 : List UInt8 := [153, 0, 7, 4, 167, 0, 4, 3, 54, 5, 21, 5, 153, 0, 39, 21, 4, 3, 16, 9, 184, 0, 171]
abbrev dktX6_guard_1 : List UInt8 := dkwX6_guard_1 ++ dktX6_guard_2
def dkwX6_guard_0 : List UInt8 := [42, 27, 182, 0, 248, 153, 0, 25, 28, 2, 6, 184, 0, 171, 153, 0, 16, 29, 3, 8, 184, 0, 171]
abbrev dktX6_guard_0 : List UInt8 := dkwX6_guard_0 ++ dktX6_guard_1
theorem dksX6_guard_0 : cX6_guard.data.toList.drop 0 = dktX6_guard_0 := by decide +kernel
theorem dksX6_guard_1 : cX6_guard.data.toList.drop 23 = dktX6_guard_1 := dk_seg dksX6_guard_0 23 rfl rfl
theorem dksX6_guard_2 : cX6_guard.data.toList.drop 46 = dktX6_guard_2 := dk_seg dksX6_guard_1 23 rfl rfl
theorem dksX6_guard_3 : cX6_guard.data.toList.drop 70 = dktX6_guard_3 := dk_seg dksX6_guard_2 24 rfl rfl
theorem dksX6_guard_4 : cX6_guard.data.toList.drop 93 = dktX6_guard_4 := dk_seg dksX6_guard_3 23 rfl rfl
theorem dksX6_guard_5 : cX6_guard.data.toList.drop 117 = dktX6_guard_5 := dk_seg dksX6_guard_4 24 rfl rfl
theorem dksX6_guard_6 : cX6_guard.data.toList.drop 140 = dktX6_guard_6 := dk_seg dksX6_guard_5 23 rfl rfl
theorem dX6_guard_0 : decode cX6_guard 0 = .ok (.aload_n 0, 1) := dk_42 (dk_at dksX6_guard_0 0 rfl rfl)
theorem dX6_guard_1 : decode cX6_guard 1 = .ok (.iload_n 1, 1) := dk_27 (dk_at dksX6_guard_0 1 rfl rfl)
theorem dX6_guard_2 : decode cX6_guard 2 = .ok (.invokevirtual 248, 3) := dk_182 0 248 (dk_at dksX6_guard_0 2 rfl rfl)
theorem dX6_guard_5 : decode cX6_guard 5 = .ok (.ifCond .eq 25, 3) := dk_153 0 25 (dk_at dksX6_guard_0 5 rfl rfl)
theorem dX6_guard_8 : decode cX6_guard 8 = .ok (.iload_n 2, 1) := dk_28 (dk_at dksX6_guard_0 8 rfl rfl)
theorem dX6_guard_9 : decode cX6_guard 9 = .ok (.iconst (-1), 1) := dk_2 (dk_at dksX6_guard_0 9 rfl rfl)
theorem dX6_guard_10 : decode cX6_guard 10 = .ok (.iconst 3, 1) := dk_6 (dk_at dksX6_guard_0 10 rfl rfl)
theorem dX6_guard_11 : decode cX6_guard 11 = .ok (.invokestatic 171, 3) := dk_184 0 171 (dk_at dksX6_guard_0 11 rfl rfl)
theorem dX6_guard_14 : decode cX6_guard 14 = .ok (.ifCond .eq 16, 3) := dk_153 0 16 (dk_at dksX6_guard_0 14 rfl rfl)
theorem dX6_guard_17 : decode cX6_guard 17 = .ok (.iload_n 3, 1) := dk_29 (dk_at dksX6_guard_0 17 rfl rfl)
theorem dX6_guard_18 : decode cX6_guard 18 = .ok (.iconst 0, 1) := dk_3 (dk_at dksX6_guard_0 18 rfl rfl)
theorem dX6_guard_19 : decode cX6_guard 19 = .ok (.iconst 5, 1) := dk_8 (dk_at dksX6_guard_0 19 rfl rfl)
theorem dX6_guard_20 : decode cX6_guard 20 = .ok (.invokestatic 171, 3) := dk_184 0 171 (dk_at dksX6_guard_0 20 rfl rfl)
theorem dX6_guard_23 : decode cX6_guard 23 = .ok (.ifCond .eq 7, 3) := dk_153 0 7 (dk_at dksX6_guard_1 0 rfl rfl)
theorem dX6_guard_26 : decode cX6_guard 26 = .ok (.iconst 1, 1) := dk_4 (dk_at dksX6_guard_1 3 rfl rfl)
theorem dX6_guard_27 : decode cX6_guard 27 = .ok (.goto 4, 3) := dk_167 0 4 (dk_at dksX6_guard_1 4 rfl rfl)
theorem dX6_guard_30 : decode cX6_guard 30 = .ok (.iconst 0, 1) := dk_3 (dk_at dksX6_guard_1 7 rfl rfl)
theorem dX6_guard_31 : decode cX6_guard 31 = .ok (.istore 5, 2) := dk_54 5 (dk_at dksX6_guard_1 8 rfl rfl)
theorem dX6_guard_33 : decode cX6_guard 33 = .ok (.iload 5, 2) := dk_21 5 (dk_at dksX6_guard_1 10 rfl rfl)
theorem dX6_guard_35 : decode cX6_guard 35 = .ok (.ifCond .eq 39, 3) := dk_153 0 39 (dk_at dksX6_guard_1 12 rfl rfl)
theorem dX6_guard_38 : decode cX6_guard 38 = .ok (.iload 4, 2) := dk_21 4 (dk_at dksX6_guard_1 15 rfl rfl)
theorem dX6_guard_40 : decode cX6_guard 40 = .ok (.iconst 0, 1) := dk_3 (dk_at dksX6_guard_1 17 rfl rfl)
theorem dX6_guard_41 : decode cX6_guard 41 = .ok (.bipush 9, 2) := dk_16 9 (dk_at dksX6_guard_1 18 rfl rfl)
theorem dX6_guard_43 : decode cX6_guard 43 = .ok (.invokestatic 171, 3) := dk_184 0 171 (dk_at dksX6_guard_1 20 rfl rfl)
theorem dX6_guard_46 : decode cX6_guard 46 = .ok (.ifCond .eq 28, 3) := dk_153 0 28 (dk_at dksX6_guard_2 0 rfl rfl)
theorem dX6_guard_49 : decode cX6_guard 49 = .ok (.iload_n 2, 1) := dk_28 (dk_at dksX6_guard_2 3 rfl rfl)
theorem dX6_guard_50 : decode cX6_guard 50 = .ok (.iconst (-1), 1) := dk_2 (dk_at dksX6_guard_2 4 rfl rfl)
theorem dX6_guard_51 : decode cX6_guard 51 = .ok (.if_icmp .ne 10, 3) := dk_160 0 10 (dk_at dksX6_guard_2 5 rfl rfl)
theorem dX6_guard_54 : decode cX6_guard 54 = .ok (.iload_n 3, 1) := dk_29 (dk_at dksX6_guard_2 8 rfl rfl)
theorem dX6_guard_55 : decode cX6_guard 55 = .ok (.ifCond .ne 19, 3) := dk_154 0 19 (dk_at dksX6_guard_2 9 rfl rfl)
theorem dX6_guard_58 : decode cX6_guard 58 = .ok (.goto 12, 3) := dk_167 0 12 (dk_at dksX6_guard_2 12 rfl rfl)
theorem dX6_guard_61 : decode cX6_guard 61 = .ok (.aload_n 0, 1) := dk_42 (dk_at dksX6_guard_2 15 rfl rfl)
theorem dX6_guard_62 : decode cX6_guard 62 = .ok (.iload_n 1, 1) := dk_27 (dk_at dksX6_guard_2 16 rfl rfl)
theorem dX6_guard_63 : decode cX6_guard 63 = .ok (.iload_n 3, 1) := dk_29 (dk_at dksX6_guard_2 17 rfl rfl)
theorem dX6_guard_64 : decode cX6_guard 64 = .ok (.invokevirtual 251, 3) := dk_182 0 251 (dk_at dksX6_guard_2 18 rfl rfl)
theorem dX6_guard_67 : decode cX6_guard 67 = .ok (.ifCond .eq 7, 3) := dk_153 0 7 (dk_at dksX6_guard_2 21 rfl rfl)
theorem dX6_guard_70 : decode cX6_guard 70 = .ok (.iconst 1, 1) := dk_4 (dk_at dksX6_guard_3 0 rfl rfl)
theorem dX6_guard_71 : decode cX6_guard 71 = .ok (.goto 4, 3) := dk_167 0 4 (dk_at dksX6_guard_3 1 rfl rfl)
theorem dX6_guard_74 : decode cX6_guard 74 = .ok (.iconst 0, 1) := dk_3 (dk_at dksX6_guard_3 4 rfl rfl)
theorem dX6_guard_75 : decode cX6_guard 75 = .ok (.istore 6, 2) := dk_54 6 (dk_at dksX6_guard_3 5 rfl rfl)
theorem dX6_guard_77 : decode cX6_guard 77 = .ok (.aload_n 0, 1) := dk_42 (dk_at dksX6_guard_3 7 rfl rfl)
theorem dX6_guard_78 : decode cX6_guard 78 = .ok (.iload 5, 2) := dk_21 5 (dk_at dksX6_guard_3 8 rfl rfl)
theorem dX6_guard_80 : decode cX6_guard 80 = .ok (.ifCond .ne 7, 3) := dk_154 0 7 (dk_at dksX6_guard_3 10 rfl rfl)
theorem dX6_guard_83 : decode cX6_guard 83 = .ok (.iconst 1, 1) := dk_4 (dk_at dksX6_guard_3 13 rfl rfl)
theorem dX6_guard_84 : decode cX6_guard 84 = .ok (.goto 13, 3) := dk_167 0 13 (dk_at dksX6_guard_3 14 rfl rfl)
theorem dX6_guard_87 : decode cX6_guard 87 = .ok (.iload 6, 2) := dk_21 6 (dk_at dksX6_guard_3 17 rfl rfl)
theorem dX6_guard_89 : decode cX6_guard 89 = .ok (.ifCond .eq 7, 3) := dk_153 0 7 (dk_at dksX6_guard_3 19 rfl rfl)
theorem dX6_guard_92 : decode cX6_guard 92 = .ok (.iconst 0, 1) := dk_3 (dk_at dksX6_guard_3 22 rfl rfl)
theorem dX6_guard_93 : decode cX6_guard 93 = .ok (.goto 4, 3) := dk_167 0 4 (dk_at dksX6_guard_4 0 rfl rfl)
theorem dX6_guard_96 : decode cX6_guard 96 = .ok (.iconst 2, 1) := dk_5 (dk_at dksX6_guard_4 3 rfl rfl)
theorem dX6_guard_97 : decode cX6_guard 97 = .ok (.invokevirtual 183, 3) := dk_182 0 183 (dk_at dksX6_guard_4 4 rfl rfl)
theorem dX6_guard_100 : decode cX6_guard 100 = .ok (.ifCond .eq 5, 3) := dk_153 0 5 (dk_at dksX6_guard_4 7 rfl rfl)
theorem dX6_guard_103 : decode cX6_guard 103 = .ok (.iconst 0, 1) := dk_3 (dk_at dksX6_guard_4 10 rfl rfl)
theorem dX6_guard_104 : decode cX6_guard 104 = .ok (.ireturn, 1) := dk_172 (dk_at dksX6_guard_4 11 rfl rfl)
theorem dX6_guard_105 : decode cX6_guard 105 = .ok (.aload_n 0, 1) := dk_42 (dk_at dksX6_guard_4 12 rfl rfl)
theorem dX6_guard_106 : decode cX6_guard 106 = .ok (.getfield 74, 3) := dk_180 0 74 (dk_at dksX6_guard_4 13 rfl rfl)
theorem dX6_guard_109 : decode cX6_guard 109 = .ok (.iload_n 1, 1) := dk_27 (dk_at dksX6_guard_4 16 rfl rfl)
theorem dX6_guard_110 : decode cX6_guard 110 = .ok (.iaload, 1) := dk_46 (dk_at dksX6_guard_4 17 rfl rfl)
theorem dX6_guard_111 : decode cX6_guard 111 = .ok (.istore 7, 2) := dk_54 7 (dk_at dksX6_guard_4 18 rfl rfl)
theorem dX6_guard_113 : decode cX6_guard 113 = .ok (.aload_n 0, 1) := dk_42 (dk_at dksX6_guard_4 20 rfl rfl)
theorem dX6_guard_114 : decode cX6_guard 114 = .ok (.getfield 74, 3) := dk_180 0 74 (dk_at dksX6_guard_4 21 rfl rfl)
theorem dX6_guard_117 : decode cX6_guard 117 = .ok (.iload_n 1, 1) := dk_27 (dk_at dksX6_guard_5 0 rfl rfl)
theorem dX6_guard_118 : decode cX6_guard 118 = .ok (.iload_n 2, 1) := dk_28 (dk_at dksX6_guard_5 1 rfl rfl)
theorem dX6_guard_119 : decode cX6_guard 119 = .ok (.iastore, 1) := dk_79 (dk_at dksX6_guard_5 2 rfl rfl)
theorem dX6_guard_120 : decode cX6_guard 120 = .ok (.aload_n 0, 1) := dk_42 (dk_at dksX6_guard_5 3 rfl rfl)
theorem dX6_guard_121 : decode cX6_guard 121 = .ok (.getfield 77, 3) := dk_180 0 77 (dk_at dksX6_guard_5 4 rfl rfl)
theorem dX6_guard_124 : decode cX6_guard 124 = .ok (.iload_n 1, 1) := dk_27 (dk_at dksX6_guard_5 7 rfl rfl)
theorem dX6_guard_125 : decode cX6_guard 125 = .ok (.iload_n 3, 1) := dk_29 (dk_at dksX6_guard_5 8 rfl rfl)
theorem dX6_guard_126 : decode cX6_guard 126 = .ok (.iastore, 1) := dk_79 (dk_at dksX6_guard_5 9 rfl rfl)
theorem dX6_guard_127 : decode cX6_guard 127 = .ok (.aload_n 0, 1) := dk_42 (dk_at dksX6_guard_5 10 rfl rfl)
theorem dX6_guard_128 : decode cX6_guard 128 = .ok (.getfield 80, 3) := dk_180 0 80 (dk_at dksX6_guard_5 11 rfl rfl)
theorem dX6_guard_131 : decode cX6_guard 131 = .ok (.iload_n 1, 1) := dk_27 (dk_at dksX6_guard_5 14 rfl rfl)
theorem dX6_guard_132 : decode cX6_guard 132 = .ok (.iload 4, 2) := dk_21 4 (dk_at dksX6_guard_5 15 rfl rfl)
theorem dX6_guard_134 : decode cX6_guard 134 = .ok (.iastore, 1) := dk_79 (dk_at dksX6_guard_5 17 rfl rfl)
theorem dX6_guard_135 : decode cX6_guard 135 = .ok (.aload_n 0, 1) := dk_42 (dk_at dksX6_guard_5 18 rfl rfl)
theorem dX6_guard_136 : decode cX6_guard 136 = .ok (.iconst (-1), 1) := dk_2 (dk_at dksX6_guard_5 19 rfl rfl)
theorem dX6_guard_137 : decode cX6_guard 137 = .ok (.putfield 161, 3) := dk_181 0 161 (dk_at dksX6_guard_5 20 rfl rfl)
theorem dX6_guard_140 : decode cX6_guard 140 = .ok (.iload 7, 2) := dk_21 7 (dk_at dksX6_guard_6 0 rfl rfl)
theorem dX6_guard_142 : decode cX6_guard 142 = .ok (.ireturn, 1) := dk_172 (dk_at dksX6_guard_6 2 rfl rfl)
abbrev cX6_isCase : ByteArray := prog_23_method_33_code
def yX6_isCase : MethodName := ⟨RX6, "isCase", "(I)Z"⟩
def dkwX6_isCase_0 : List UInt8 := [27, 3, 42, 180, 0, 228, 4, 100, 184, 0, 171, 172]
abbrev dktX6_isCase_0 : List UInt8 := dkwX6_isCase_0 ++ []
theorem dksX6_isCase_0 : cX6_isCase.data.toList.drop 0 = dktX6_isCase_0 := by decide +kernel
theorem dX6_isCase_0 : decode cX6_isCase 0 = .ok (.iload_n 1, 1) := dk_27 (dk_at dksX6_isCase_0 0 rfl rfl)
theorem dX6_isCase_1 : decode cX6_isCase 1 = .ok (.iconst 0, 1) := dk_3 (dk_at dksX6_isCase_0 1 rfl rfl)
theorem dX6_isCase_2 : decode cX6_isCase 2 = .ok (.aload_n 0, 1) := dk_42 (dk_at dksX6_isCase_0 2 rfl rfl)
theorem dX6_isCase_3 : decode cX6_isCase 3 = .ok (.getfield 228, 3) := dk_180 0 228 (dk_at dksX6_isCase_0 3 rfl rfl)
theorem dX6_isCase_6 : decode cX6_isCase 6 = .ok (.iconst 1, 1) := dk_4 (dk_at dksX6_isCase_0 6 rfl rfl)
theorem dX6_isCase_7 : decode cX6_isCase 7 = .ok (.isub, 1) := dk_100 (dk_at dksX6_isCase_0 7 rfl rfl)
theorem dX6_isCase_8 : decode cX6_isCase 8 = .ok (.invokestatic 171, 3) := dk_184 0 171 (dk_at dksX6_isCase_0 8 rfl rfl)
theorem dX6_isCase_11 : decode cX6_isCase 11 = .ok (.ireturn, 1) := dk_172 (dk_at dksX6_isCase_0 11 rfl rfl)
abbrev cX6_bindsNumber : ByteArray := prog_23_method_34_code
def yX6_bindsNumber : MethodName := ⟨RX6, "bindsNumber", "(II)Z"⟩
def dkwX6_bindsNumber_11 : List UInt8 := [21, 5, 153, 0, 7, 4, 167, 0, 4, 3, 172]
abbrev dktX6_bindsNumber_11 : List UInt8 := dkwX6_bindsNumber_11 ++ []
def dkwX6_bindsNumber_10 : List UInt8 := [167, 0, 5, 21, 7, 79, 132, 3, 1, 132, 9, 1, 167, 255, 161, 167, 255, 63, 21, 4, 153, 0, 12]
abbrev dktX6_bindsNumber_10 : List UInt8 := dkwX6_bindsNumber_10 ++ dktX6_bindsNumber_11
def dkwX6_bindsNumber_9 : List UInt8 := [21, 6, 46, 104, 21, 9, 96, 46, 167, 0, 21, 42, 180, 0, 31, 21, 6, 46, 16, 6, 160, 0, 7, 7]
abbrev dktX6_bindsNumber_9 : List UInt8 := dkwX6_bindsNumber_9 ++ dktX6_bindsNumber_10
def dkwX6_bindsNumber_8 : List UInt8 := [180, 0, 89, 29, 42, 180, 0, 31, 21, 6, 46, 6, 160, 0, 23, 42, 180, 0, 16, 6, 42, 180, 0, 34]
abbrev dktX6_bindsNumber_8 : List UInt8 := dkwX6_bindsNumber_8 ++ dktX6_bindsNumber_9
def dkwX6_bindsNumber_7 : List UInt8 := [21, 6, 104, 21, 9, 96, 46, 54, 10, 21, 10, 2, 159, 0, 69, 42, 180, 0, 86, 29, 21, 10, 79, 42]
abbrev dktX6_bindsNumber_7 : List UInt8 := dkwX6_bindsNumber_7 ++ dktX6_bindsNumber_8
def dkwX6_bindsNumber_6 : List UInt8 := [160, 0, 7, 4, 167, 0, 4, 3, 54, 5, 3, 54, 9, 21, 9, 6, 162, 0, 95, 42, 180, 0, 40, 6]
abbrev dktX6_bindsNumber_6 : List UInt8 := dkwX6_bindsNumber_6 ++ dktX6_bindsNumber_7
def dkwX6_bindsNumber_5 : List UInt8 := [153, 0, 7, 4, 167, 0, 4, 3, 54, 4, 21, 5, 153, 0, 18, 21, 8, 153, 0, 9, 21, 7, 7]
abbrev dktX6_bindsNumber_5 : List UInt8 := dkwX6_bindsNumber_5 ++ dktX6_bindsNumber_6
def dkwX6_bindsNumber_4 : List UInt8 := [180, 0, 34, 21, 6, 46, 28, 160, 0, 7, 4, 167, 0, 4, 3, 54, 8, 21, 4, 154, 0, 8, 21, 8]
abbrev dktX6_bindsNumber_4 : List UInt8 := dkwX6_bindsNumber_4 ++ dktX6_bindsNumber_5
def dkwX6_bindsNumber_3 : List UInt8 := [54, 6, 42, 180, 0, 89, 29, 46, 54, 7, 42, 180, 0, 31, 21, 6, 46, 4, 160, 0, 18, 42]
abbrev dktX6_bindsNumber_3 : List UInt8 := dkwX6_bindsNumber_3 ++ dktX6_bindsNumber_4
def dkwX6_bindsNumber_2 : List UInt8 := [46, 79, 132, 3, 1, 132, 6, 1, 167, 255, 211, 29, 158, 0, 195, 132, 3, 255, 42, 180, 0, 86, 29, 46]
abbrev dktX6_bindsNumber_2 : List UInt8 := dkwX6_bindsNumber_2 ++ dktX6_bindsNumber_3
def dkwX6_bindsNumber_1 : List UInt8 := [29, 42, 180, 0, 68, 6, 27, 104, 21, 6, 96, 46, 79, 42, 180, 0, 89, 29, 42, 180, 0, 65, 21, 6]
abbrev dktX6_bindsNumber_1 : List UInt8 := dkwX6_bindsNumber_1 ++ dktX6_bindsNumber_2
def dkwX6_bindsNumber_0 : List UInt8 := [3, 62, 3, 54, 4, 4, 54, 5, 3, 54, 6, 21, 6, 42, 180, 0, 231, 162, 0, 42, 42, 180, 0, 86]
abbrev dktX6_bindsNumber_0 : List UInt8 := dkwX6_bindsNumber_0 ++ dktX6_bindsNumber_1
theorem dksX6_bindsNumber_0 : cX6_bindsNumber.data.toList.drop 0 = dktX6_bindsNumber_0 := by decide +kernel
theorem dksX6_bindsNumber_1 : cX6_bindsNumber.data.toList.drop 24 = dktX6_bindsNumber_1 := dk_seg dksX6_bindsNumber_0 24 rfl rfl
theorem dksX6_bindsNumber_2 : cX6_bindsNumber.data.toList.drop 48 = dktX6_bindsNumber_2 := dk_seg dksX6_bindsNumber_1 24 rfl rfl
theorem dksX6_bindsNumber_3 : cX6_bindsNumber.data.toList.drop 72 = dktX6_bindsNumber_3 := dk_seg dksX6_bindsNumber_2 24 rfl rfl
theorem dksX6_bindsNumber_4 : cX6_bindsNumber.data.toList.drop 94 = dktX6_bindsNumber_4 := dk_seg dksX6_bindsNumber_3 22 rfl rfl
theorem dksX6_bindsNumber_5 : cX6_bindsNumber.data.toList.drop 118 = dktX6_bindsNumber_5 := dk_seg dksX6_bindsNumber_4 24 rfl rfl
theorem dksX6_bindsNumber_6 : cX6_bindsNumber.data.toList.drop 141 = dktX6_bindsNumber_6 := dk_seg dksX6_bindsNumber_5 23 rfl rfl
theorem dksX6_bindsNumber_7 : cX6_bindsNumber.data.toList.drop 165 = dktX6_bindsNumber_7 := dk_seg dksX6_bindsNumber_6 24 rfl rfl
theorem dksX6_bindsNumber_8 : cX6_bindsNumber.data.toList.drop 189 = dktX6_bindsNumber_8 := dk_seg dksX6_bindsNumber_7 24 rfl rfl
theorem dksX6_bindsNumber_9 : cX6_bindsNumber.data.toList.drop 213 = dktX6_bindsNumber_9 := dk_seg dksX6_bindsNumber_8 24 rfl rfl
theorem dksX6_bindsNumber_10 : cX6_bindsNumber.data.toList.drop 237 = dktX6_bindsNumber_10 := dk_seg dksX6_bindsNumber_9 24 rfl rfl
theorem dksX6_bindsNumber_11 : cX6_bindsNumber.data.toList.drop 260 = dktX6_bindsNumber_11 := dk_seg dksX6_bindsNumber_10 23 rfl rfl
theorem dX6_bindsNumber_0 : decode cX6_bindsNumber 0 = .ok (.iconst 0, 1) := dk_3 (dk_at dksX6_bindsNumber_0 0 rfl rfl)
theorem dX6_bindsNumber_1 : decode cX6_bindsNumber 1 = .ok (.istore_n 3, 1) := dk_62 (dk_at dksX6_bindsNumber_0 1 rfl rfl)
theorem dX6_bindsNumber_2 : decode cX6_bindsNumber 2 = .ok (.iconst 0, 1) := dk_3 (dk_at dksX6_bindsNumber_0 2 rfl rfl)
theorem dX6_bindsNumber_3 : decode cX6_bindsNumber 3 = .ok (.istore 4, 2) := dk_54 4 (dk_at dksX6_bindsNumber_0 3 rfl rfl)
theorem dX6_bindsNumber_5 : decode cX6_bindsNumber 5 = .ok (.iconst 1, 1) := dk_4 (dk_at dksX6_bindsNumber_0 5 rfl rfl)
theorem dX6_bindsNumber_6 : decode cX6_bindsNumber 6 = .ok (.istore 5, 2) := dk_54 5 (dk_at dksX6_bindsNumber_0 6 rfl rfl)
theorem dX6_bindsNumber_8 : decode cX6_bindsNumber 8 = .ok (.iconst 0, 1) := dk_3 (dk_at dksX6_bindsNumber_0 8 rfl rfl)
theorem dX6_bindsNumber_9 : decode cX6_bindsNumber 9 = .ok (.istore 6, 2) := dk_54 6 (dk_at dksX6_bindsNumber_0 9 rfl rfl)
theorem dX6_bindsNumber_11 : decode cX6_bindsNumber 11 = .ok (.iload 6, 2) := dk_21 6 (dk_at dksX6_bindsNumber_0 11 rfl rfl)
theorem dX6_bindsNumber_13 : decode cX6_bindsNumber 13 = .ok (.aload_n 0, 1) := dk_42 (dk_at dksX6_bindsNumber_0 13 rfl rfl)
theorem dX6_bindsNumber_14 : decode cX6_bindsNumber 14 = .ok (.getfield 231, 3) := dk_180 0 231 (dk_at dksX6_bindsNumber_0 14 rfl rfl)
theorem dX6_bindsNumber_17 : decode cX6_bindsNumber 17 = .ok (.if_icmp .ge 42, 3) := dk_162 0 42 (dk_at dksX6_bindsNumber_0 17 rfl rfl)
theorem dX6_bindsNumber_20 : decode cX6_bindsNumber 20 = .ok (.aload_n 0, 1) := dk_42 (dk_at dksX6_bindsNumber_0 20 rfl rfl)
theorem dX6_bindsNumber_21 : decode cX6_bindsNumber 21 = .ok (.getfield 86, 3) := dk_180 0 86 (dk_at dksX6_bindsNumber_0 21 rfl rfl)
theorem dX6_bindsNumber_24 : decode cX6_bindsNumber 24 = .ok (.iload_n 3, 1) := dk_29 (dk_at dksX6_bindsNumber_1 0 rfl rfl)
theorem dX6_bindsNumber_25 : decode cX6_bindsNumber 25 = .ok (.aload_n 0, 1) := dk_42 (dk_at dksX6_bindsNumber_1 1 rfl rfl)
theorem dX6_bindsNumber_26 : decode cX6_bindsNumber 26 = .ok (.getfield 68, 3) := dk_180 0 68 (dk_at dksX6_bindsNumber_1 2 rfl rfl)
theorem dX6_bindsNumber_29 : decode cX6_bindsNumber 29 = .ok (.iconst 3, 1) := dk_6 (dk_at dksX6_bindsNumber_1 5 rfl rfl)
theorem dX6_bindsNumber_30 : decode cX6_bindsNumber 30 = .ok (.iload_n 1, 1) := dk_27 (dk_at dksX6_bindsNumber_1 6 rfl rfl)
theorem dX6_bindsNumber_31 : decode cX6_bindsNumber 31 = .ok (.imul, 1) := dk_104 (dk_at dksX6_bindsNumber_1 7 rfl rfl)
theorem dX6_bindsNumber_32 : decode cX6_bindsNumber 32 = .ok (.iload 6, 2) := dk_21 6 (dk_at dksX6_bindsNumber_1 8 rfl rfl)
theorem dX6_bindsNumber_34 : decode cX6_bindsNumber 34 = .ok (.iadd, 1) := dk_96 (dk_at dksX6_bindsNumber_1 10 rfl rfl)
theorem dX6_bindsNumber_35 : decode cX6_bindsNumber 35 = .ok (.iaload, 1) := dk_46 (dk_at dksX6_bindsNumber_1 11 rfl rfl)
theorem dX6_bindsNumber_36 : decode cX6_bindsNumber 36 = .ok (.iastore, 1) := dk_79 (dk_at dksX6_bindsNumber_1 12 rfl rfl)
theorem dX6_bindsNumber_37 : decode cX6_bindsNumber 37 = .ok (.aload_n 0, 1) := dk_42 (dk_at dksX6_bindsNumber_1 13 rfl rfl)
theorem dX6_bindsNumber_38 : decode cX6_bindsNumber 38 = .ok (.getfield 89, 3) := dk_180 0 89 (dk_at dksX6_bindsNumber_1 14 rfl rfl)
theorem dX6_bindsNumber_41 : decode cX6_bindsNumber 41 = .ok (.iload_n 3, 1) := dk_29 (dk_at dksX6_bindsNumber_1 17 rfl rfl)
theorem dX6_bindsNumber_42 : decode cX6_bindsNumber 42 = .ok (.aload_n 0, 1) := dk_42 (dk_at dksX6_bindsNumber_1 18 rfl rfl)
theorem dX6_bindsNumber_43 : decode cX6_bindsNumber 43 = .ok (.getfield 65, 3) := dk_180 0 65 (dk_at dksX6_bindsNumber_1 19 rfl rfl)
theorem dX6_bindsNumber_46 : decode cX6_bindsNumber 46 = .ok (.iload 6, 2) := dk_21 6 (dk_at dksX6_bindsNumber_1 22 rfl rfl)
theorem dX6_bindsNumber_48 : decode cX6_bindsNumber 48 = .ok (.iaload, 1) := dk_46 (dk_at dksX6_bindsNumber_2 0 rfl rfl)
theorem dX6_bindsNumber_49 : decode cX6_bindsNumber 49 = .ok (.iastore, 1) := dk_79 (dk_at dksX6_bindsNumber_2 1 rfl rfl)
theorem dX6_bindsNumber_50 : decode cX6_bindsNumber 50 = .ok (.iinc 3 1, 3) := dk_132 3 1 (dk_at dksX6_bindsNumber_2 2 rfl rfl)
theorem dX6_bindsNumber_53 : decode cX6_bindsNumber 53 = .ok (.iinc 6 1, 3) := dk_132 6 1 (dk_at dksX6_bindsNumber_2 5 rfl rfl)
theorem dX6_bindsNumber_56 : decode cX6_bindsNumber 56 = .ok (.goto (-45), 3) := dk_167 255 211 (dk_at dksX6_bindsNumber_2 8 rfl rfl)
theorem dX6_bindsNumber_59 : decode cX6_bindsNumber 59 = .ok (.iload_n 3, 1) := dk_29 (dk_at dksX6_bindsNumber_2 11 rfl rfl)
theorem dX6_bindsNumber_60 : decode cX6_bindsNumber 60 = .ok (.ifCond .le 195, 3) := dk_158 0 195 (dk_at dksX6_bindsNumber_2 12 rfl rfl)
theorem dX6_bindsNumber_63 : decode cX6_bindsNumber 63 = .ok (.iinc 3 (-1), 3) := dk_132 3 255 (dk_at dksX6_bindsNumber_2 15 rfl rfl)
theorem dX6_bindsNumber_66 : decode cX6_bindsNumber 66 = .ok (.aload_n 0, 1) := dk_42 (dk_at dksX6_bindsNumber_2 18 rfl rfl)
theorem dX6_bindsNumber_67 : decode cX6_bindsNumber 67 = .ok (.getfield 86, 3) := dk_180 0 86 (dk_at dksX6_bindsNumber_2 19 rfl rfl)
theorem dX6_bindsNumber_70 : decode cX6_bindsNumber 70 = .ok (.iload_n 3, 1) := dk_29 (dk_at dksX6_bindsNumber_2 22 rfl rfl)
theorem dX6_bindsNumber_71 : decode cX6_bindsNumber 71 = .ok (.iaload, 1) := dk_46 (dk_at dksX6_bindsNumber_2 23 rfl rfl)
theorem dX6_bindsNumber_72 : decode cX6_bindsNumber 72 = .ok (.istore 6, 2) := dk_54 6 (dk_at dksX6_bindsNumber_3 0 rfl rfl)
theorem dX6_bindsNumber_74 : decode cX6_bindsNumber 74 = .ok (.aload_n 0, 1) := dk_42 (dk_at dksX6_bindsNumber_3 2 rfl rfl)
theorem dX6_bindsNumber_75 : decode cX6_bindsNumber 75 = .ok (.getfield 89, 3) := dk_180 0 89 (dk_at dksX6_bindsNumber_3 3 rfl rfl)
theorem dX6_bindsNumber_78 : decode cX6_bindsNumber 78 = .ok (.iload_n 3, 1) := dk_29 (dk_at dksX6_bindsNumber_3 6 rfl rfl)
theorem dX6_bindsNumber_79 : decode cX6_bindsNumber 79 = .ok (.iaload, 1) := dk_46 (dk_at dksX6_bindsNumber_3 7 rfl rfl)
theorem dX6_bindsNumber_80 : decode cX6_bindsNumber 80 = .ok (.istore 7, 2) := dk_54 7 (dk_at dksX6_bindsNumber_3 8 rfl rfl)
theorem dX6_bindsNumber_82 : decode cX6_bindsNumber 82 = .ok (.aload_n 0, 1) := dk_42 (dk_at dksX6_bindsNumber_3 10 rfl rfl)
theorem dX6_bindsNumber_83 : decode cX6_bindsNumber 83 = .ok (.getfield 31, 3) := dk_180 0 31 (dk_at dksX6_bindsNumber_3 11 rfl rfl)
theorem dX6_bindsNumber_86 : decode cX6_bindsNumber 86 = .ok (.iload 6, 2) := dk_21 6 (dk_at dksX6_bindsNumber_3 14 rfl rfl)
theorem dX6_bindsNumber_88 : decode cX6_bindsNumber 88 = .ok (.iaload, 1) := dk_46 (dk_at dksX6_bindsNumber_3 16 rfl rfl)
theorem dX6_bindsNumber_89 : decode cX6_bindsNumber 89 = .ok (.iconst 1, 1) := dk_4 (dk_at dksX6_bindsNumber_3 17 rfl rfl)
theorem dX6_bindsNumber_90 : decode cX6_bindsNumber 90 = .ok (.if_icmp .ne 18, 3) := dk_160 0 18 (dk_at dksX6_bindsNumber_3 18 rfl rfl)
theorem dX6_bindsNumber_93 : decode cX6_bindsNumber 93 = .ok (.aload_n 0, 1) := dk_42 (dk_at dksX6_bindsNumber_3 21 rfl rfl)
theorem dX6_bindsNumber_94 : decode cX6_bindsNumber 94 = .ok (.getfield 34, 3) := dk_180 0 34 (dk_at dksX6_bindsNumber_4 0 rfl rfl)
theorem dX6_bindsNumber_97 : decode cX6_bindsNumber 97 = .ok (.iload 6, 2) := dk_21 6 (dk_at dksX6_bindsNumber_4 3 rfl rfl)
theorem dX6_bindsNumber_99 : decode cX6_bindsNumber 99 = .ok (.iaload, 1) := dk_46 (dk_at dksX6_bindsNumber_4 5 rfl rfl)
theorem dX6_bindsNumber_100 : decode cX6_bindsNumber 100 = .ok (.iload_n 2, 1) := dk_28 (dk_at dksX6_bindsNumber_4 6 rfl rfl)
theorem dX6_bindsNumber_101 : decode cX6_bindsNumber 101 = .ok (.if_icmp .ne 7, 3) := dk_160 0 7 (dk_at dksX6_bindsNumber_4 7 rfl rfl)
theorem dX6_bindsNumber_104 : decode cX6_bindsNumber 104 = .ok (.iconst 1, 1) := dk_4 (dk_at dksX6_bindsNumber_4 10 rfl rfl)
theorem dX6_bindsNumber_105 : decode cX6_bindsNumber 105 = .ok (.goto 4, 3) := dk_167 0 4 (dk_at dksX6_bindsNumber_4 11 rfl rfl)
theorem dX6_bindsNumber_108 : decode cX6_bindsNumber 108 = .ok (.iconst 0, 1) := dk_3 (dk_at dksX6_bindsNumber_4 14 rfl rfl)
theorem dX6_bindsNumber_109 : decode cX6_bindsNumber 109 = .ok (.istore 8, 2) := dk_54 8 (dk_at dksX6_bindsNumber_4 15 rfl rfl)
theorem dX6_bindsNumber_111 : decode cX6_bindsNumber 111 = .ok (.iload 4, 2) := dk_21 4 (dk_at dksX6_bindsNumber_4 17 rfl rfl)
theorem dX6_bindsNumber_113 : decode cX6_bindsNumber 113 = .ok (.ifCond .ne 8, 3) := dk_154 0 8 (dk_at dksX6_bindsNumber_4 19 rfl rfl)
theorem dX6_bindsNumber_116 : decode cX6_bindsNumber 116 = .ok (.iload 8, 2) := dk_21 8 (dk_at dksX6_bindsNumber_4 22 rfl rfl)
theorem dX6_bindsNumber_118 : decode cX6_bindsNumber 118 = .ok (.ifCond .eq 7, 3) := dk_153 0 7 (dk_at dksX6_bindsNumber_5 0 rfl rfl)
theorem dX6_bindsNumber_121 : decode cX6_bindsNumber 121 = .ok (.iconst 1, 1) := dk_4 (dk_at dksX6_bindsNumber_5 3 rfl rfl)
theorem dX6_bindsNumber_122 : decode cX6_bindsNumber 122 = .ok (.goto 4, 3) := dk_167 0 4 (dk_at dksX6_bindsNumber_5 4 rfl rfl)
theorem dX6_bindsNumber_125 : decode cX6_bindsNumber 125 = .ok (.iconst 0, 1) := dk_3 (dk_at dksX6_bindsNumber_5 7 rfl rfl)
theorem dX6_bindsNumber_126 : decode cX6_bindsNumber 126 = .ok (.istore 4, 2) := dk_54 4 (dk_at dksX6_bindsNumber_5 8 rfl rfl)
theorem dX6_bindsNumber_128 : decode cX6_bindsNumber 128 = .ok (.iload 5, 2) := dk_21 5 (dk_at dksX6_bindsNumber_5 10 rfl rfl)
theorem dX6_bindsNumber_130 : decode cX6_bindsNumber 130 = .ok (.ifCond .eq 18, 3) := dk_153 0 18 (dk_at dksX6_bindsNumber_5 12 rfl rfl)
theorem dX6_bindsNumber_133 : decode cX6_bindsNumber 133 = .ok (.iload 8, 2) := dk_21 8 (dk_at dksX6_bindsNumber_5 15 rfl rfl)
theorem dX6_bindsNumber_135 : decode cX6_bindsNumber 135 = .ok (.ifCond .eq 9, 3) := dk_153 0 9 (dk_at dksX6_bindsNumber_5 17 rfl rfl)
theorem dX6_bindsNumber_138 : decode cX6_bindsNumber 138 = .ok (.iload 7, 2) := dk_21 7 (dk_at dksX6_bindsNumber_5 20 rfl rfl)
theorem dX6_bindsNumber_140 : decode cX6_bindsNumber 140 = .ok (.iconst 4, 1) := dk_7 (dk_at dksX6_bindsNumber_5 22 rfl rfl)
theorem dX6_bindsNumber_141 : decode cX6_bindsNumber 141 = .ok (.if_icmp .ne 7, 3) := dk_160 0 7 (dk_at dksX6_bindsNumber_6 0 rfl rfl)
theorem dX6_bindsNumber_144 : decode cX6_bindsNumber 144 = .ok (.iconst 1, 1) := dk_4 (dk_at dksX6_bindsNumber_6 3 rfl rfl)
theorem dX6_bindsNumber_145 : decode cX6_bindsNumber 145 = .ok (.goto 4, 3) := dk_167 0 4 (dk_at dksX6_bindsNumber_6 4 rfl rfl)
theorem dX6_bindsNumber_148 : decode cX6_bindsNumber 148 = .ok (.iconst 0, 1) := dk_3 (dk_at dksX6_bindsNumber_6 7 rfl rfl)
theorem dX6_bindsNumber_149 : decode cX6_bindsNumber 149 = .ok (.istore 5, 2) := dk_54 5 (dk_at dksX6_bindsNumber_6 8 rfl rfl)
theorem dX6_bindsNumber_151 : decode cX6_bindsNumber 151 = .ok (.iconst 0, 1) := dk_3 (dk_at dksX6_bindsNumber_6 10 rfl rfl)
theorem dX6_bindsNumber_152 : decode cX6_bindsNumber 152 = .ok (.istore 9, 2) := dk_54 9 (dk_at dksX6_bindsNumber_6 11 rfl rfl)
theorem dX6_bindsNumber_154 : decode cX6_bindsNumber 154 = .ok (.iload 9, 2) := dk_21 9 (dk_at dksX6_bindsNumber_6 13 rfl rfl)
theorem dX6_bindsNumber_156 : decode cX6_bindsNumber 156 = .ok (.iconst 3, 1) := dk_6 (dk_at dksX6_bindsNumber_6 15 rfl rfl)
theorem dX6_bindsNumber_157 : decode cX6_bindsNumber 157 = .ok (.if_icmp .ge 95, 3) := dk_162 0 95 (dk_at dksX6_bindsNumber_6 16 rfl rfl)
theorem dX6_bindsNumber_160 : decode cX6_bindsNumber 160 = .ok (.aload_n 0, 1) := dk_42 (dk_at dksX6_bindsNumber_6 19 rfl rfl)
theorem dX6_bindsNumber_161 : decode cX6_bindsNumber 161 = .ok (.getfield 40, 3) := dk_180 0 40 (dk_at dksX6_bindsNumber_6 20 rfl rfl)
theorem dX6_bindsNumber_164 : decode cX6_bindsNumber 164 = .ok (.iconst 3, 1) := dk_6 (dk_at dksX6_bindsNumber_6 23 rfl rfl)
theorem dX6_bindsNumber_165 : decode cX6_bindsNumber 165 = .ok (.iload 6, 2) := dk_21 6 (dk_at dksX6_bindsNumber_7 0 rfl rfl)
theorem dX6_bindsNumber_167 : decode cX6_bindsNumber 167 = .ok (.imul, 1) := dk_104 (dk_at dksX6_bindsNumber_7 2 rfl rfl)
theorem dX6_bindsNumber_168 : decode cX6_bindsNumber 168 = .ok (.iload 9, 2) := dk_21 9 (dk_at dksX6_bindsNumber_7 3 rfl rfl)
theorem dX6_bindsNumber_170 : decode cX6_bindsNumber 170 = .ok (.iadd, 1) := dk_96 (dk_at dksX6_bindsNumber_7 5 rfl rfl)
theorem dX6_bindsNumber_171 : decode cX6_bindsNumber 171 = .ok (.iaload, 1) := dk_46 (dk_at dksX6_bindsNumber_7 6 rfl rfl)
theorem dX6_bindsNumber_172 : decode cX6_bindsNumber 172 = .ok (.istore 10, 2) := dk_54 10 (dk_at dksX6_bindsNumber_7 7 rfl rfl)
theorem dX6_bindsNumber_174 : decode cX6_bindsNumber 174 = .ok (.iload 10, 2) := dk_21 10 (dk_at dksX6_bindsNumber_7 9 rfl rfl)
theorem dX6_bindsNumber_176 : decode cX6_bindsNumber 176 = .ok (.iconst (-1), 1) := dk_2 (dk_at dksX6_bindsNumber_7 11 rfl rfl)
theorem dX6_bindsNumber_177 : decode cX6_bindsNumber 177 = .ok (.if_icmp .eq 69, 3) := dk_159 0 69 (dk_at dksX6_bindsNumber_7 12 rfl rfl)
theorem dX6_bindsNumber_180 : decode cX6_bindsNumber 180 = .ok (.aload_n 0, 1) := dk_42 (dk_at dksX6_bindsNumber_7 15 rfl rfl)
theorem dX6_bindsNumber_181 : decode cX6_bindsNumber 181 = .ok (.getfield 86, 3) := dk_180 0 86 (dk_at dksX6_bindsNumber_7 16 rfl rfl)
theorem dX6_bindsNumber_184 : decode cX6_bindsNumber 184 = .ok (.iload_n 3, 1) := dk_29 (dk_at dksX6_bindsNumber_7 19 rfl rfl)
theorem dX6_bindsNumber_185 : decode cX6_bindsNumber 185 = .ok (.iload 10, 2) := dk_21 10 (dk_at dksX6_bindsNumber_7 20 rfl rfl)
theorem dX6_bindsNumber_187 : decode cX6_bindsNumber 187 = .ok (.iastore, 1) := dk_79 (dk_at dksX6_bindsNumber_7 22 rfl rfl)
theorem dX6_bindsNumber_188 : decode cX6_bindsNumber 188 = .ok (.aload_n 0, 1) := dk_42 (dk_at dksX6_bindsNumber_7 23 rfl rfl)
theorem dX6_bindsNumber_189 : decode cX6_bindsNumber 189 = .ok (.getfield 89, 3) := dk_180 0 89 (dk_at dksX6_bindsNumber_8 0 rfl rfl)
theorem dX6_bindsNumber_192 : decode cX6_bindsNumber 192 = .ok (.iload_n 3, 1) := dk_29 (dk_at dksX6_bindsNumber_8 3 rfl rfl)
theorem dX6_bindsNumber_193 : decode cX6_bindsNumber 193 = .ok (.aload_n 0, 1) := dk_42 (dk_at dksX6_bindsNumber_8 4 rfl rfl)
theorem dX6_bindsNumber_194 : decode cX6_bindsNumber 194 = .ok (.getfield 31, 3) := dk_180 0 31 (dk_at dksX6_bindsNumber_8 5 rfl rfl)
theorem dX6_bindsNumber_197 : decode cX6_bindsNumber 197 = .ok (.iload 6, 2) := dk_21 6 (dk_at dksX6_bindsNumber_8 8 rfl rfl)
theorem dX6_bindsNumber_199 : decode cX6_bindsNumber 199 = .ok (.iaload, 1) := dk_46 (dk_at dksX6_bindsNumber_8 10 rfl rfl)
theorem dX6_bindsNumber_200 : decode cX6_bindsNumber 200 = .ok (.iconst 3, 1) := dk_6 (dk_at dksX6_bindsNumber_8 11 rfl rfl)
theorem dX6_bindsNumber_201 : decode cX6_bindsNumber 201 = .ok (.if_icmp .ne 23, 3) := dk_160 0 23 (dk_at dksX6_bindsNumber_8 12 rfl rfl)
theorem dX6_bindsNumber_204 : decode cX6_bindsNumber 204 = .ok (.aload_n 0, 1) := dk_42 (dk_at dksX6_bindsNumber_8 15 rfl rfl)
theorem dX6_bindsNumber_205 : decode cX6_bindsNumber 205 = .ok (.getfield 16, 3) := dk_180 0 16 (dk_at dksX6_bindsNumber_8 16 rfl rfl)
theorem dX6_bindsNumber_208 : decode cX6_bindsNumber 208 = .ok (.iconst 3, 1) := dk_6 (dk_at dksX6_bindsNumber_8 19 rfl rfl)
theorem dX6_bindsNumber_209 : decode cX6_bindsNumber 209 = .ok (.aload_n 0, 1) := dk_42 (dk_at dksX6_bindsNumber_8 20 rfl rfl)
theorem dX6_bindsNumber_210 : decode cX6_bindsNumber 210 = .ok (.getfield 34, 3) := dk_180 0 34 (dk_at dksX6_bindsNumber_8 21 rfl rfl)
theorem dX6_bindsNumber_213 : decode cX6_bindsNumber 213 = .ok (.iload 6, 2) := dk_21 6 (dk_at dksX6_bindsNumber_9 0 rfl rfl)
theorem dX6_bindsNumber_215 : decode cX6_bindsNumber 215 = .ok (.iaload, 1) := dk_46 (dk_at dksX6_bindsNumber_9 2 rfl rfl)
theorem dX6_bindsNumber_216 : decode cX6_bindsNumber 216 = .ok (.imul, 1) := dk_104 (dk_at dksX6_bindsNumber_9 3 rfl rfl)
theorem dX6_bindsNumber_217 : decode cX6_bindsNumber 217 = .ok (.iload 9, 2) := dk_21 9 (dk_at dksX6_bindsNumber_9 4 rfl rfl)
theorem dX6_bindsNumber_219 : decode cX6_bindsNumber 219 = .ok (.iadd, 1) := dk_96 (dk_at dksX6_bindsNumber_9 6 rfl rfl)
theorem dX6_bindsNumber_220 : decode cX6_bindsNumber 220 = .ok (.iaload, 1) := dk_46 (dk_at dksX6_bindsNumber_9 7 rfl rfl)
theorem dX6_bindsNumber_221 : decode cX6_bindsNumber 221 = .ok (.goto 21, 3) := dk_167 0 21 (dk_at dksX6_bindsNumber_9 8 rfl rfl)
theorem dX6_bindsNumber_224 : decode cX6_bindsNumber 224 = .ok (.aload_n 0, 1) := dk_42 (dk_at dksX6_bindsNumber_9 11 rfl rfl)
theorem dX6_bindsNumber_225 : decode cX6_bindsNumber 225 = .ok (.getfield 31, 3) := dk_180 0 31 (dk_at dksX6_bindsNumber_9 12 rfl rfl)
theorem dX6_bindsNumber_228 : decode cX6_bindsNumber 228 = .ok (.iload 6, 2) := dk_21 6 (dk_at dksX6_bindsNumber_9 15 rfl rfl)
theorem dX6_bindsNumber_230 : decode cX6_bindsNumber 230 = .ok (.iaload, 1) := dk_46 (dk_at dksX6_bindsNumber_9 17 rfl rfl)
theorem dX6_bindsNumber_231 : decode cX6_bindsNumber 231 = .ok (.bipush 6, 2) := dk_16 6 (dk_at dksX6_bindsNumber_9 18 rfl rfl)
theorem dX6_bindsNumber_233 : decode cX6_bindsNumber 233 = .ok (.if_icmp .ne 7, 3) := dk_160 0 7 (dk_at dksX6_bindsNumber_9 20 rfl rfl)
theorem dX6_bindsNumber_236 : decode cX6_bindsNumber 236 = .ok (.iconst 4, 1) := dk_7 (dk_at dksX6_bindsNumber_9 23 rfl rfl)
theorem dX6_bindsNumber_237 : decode cX6_bindsNumber 237 = .ok (.goto 5, 3) := dk_167 0 5 (dk_at dksX6_bindsNumber_10 0 rfl rfl)
theorem dX6_bindsNumber_240 : decode cX6_bindsNumber 240 = .ok (.iload 7, 2) := dk_21 7 (dk_at dksX6_bindsNumber_10 3 rfl rfl)
theorem dX6_bindsNumber_242 : decode cX6_bindsNumber 242 = .ok (.iastore, 1) := dk_79 (dk_at dksX6_bindsNumber_10 5 rfl rfl)
theorem dX6_bindsNumber_243 : decode cX6_bindsNumber 243 = .ok (.iinc 3 1, 3) := dk_132 3 1 (dk_at dksX6_bindsNumber_10 6 rfl rfl)
theorem dX6_bindsNumber_246 : decode cX6_bindsNumber 246 = .ok (.iinc 9 1, 3) := dk_132 9 1 (dk_at dksX6_bindsNumber_10 9 rfl rfl)
theorem dX6_bindsNumber_249 : decode cX6_bindsNumber 249 = .ok (.goto (-95), 3) := dk_167 255 161 (dk_at dksX6_bindsNumber_10 12 rfl rfl)
theorem dX6_bindsNumber_252 : decode cX6_bindsNumber 252 = .ok (.goto (-193), 3) := dk_167 255 63 (dk_at dksX6_bindsNumber_10 15 rfl rfl)
theorem dX6_bindsNumber_255 : decode cX6_bindsNumber 255 = .ok (.iload 4, 2) := dk_21 4 (dk_at dksX6_bindsNumber_10 18 rfl rfl)
theorem dX6_bindsNumber_257 : decode cX6_bindsNumber 257 = .ok (.ifCond .eq 12, 3) := dk_153 0 12 (dk_at dksX6_bindsNumber_10 20 rfl rfl)
theorem dX6_bindsNumber_260 : decode cX6_bindsNumber 260 = .ok (.iload 5, 2) := dk_21 5 (dk_at dksX6_bindsNumber_11 0 rfl rfl)
theorem dX6_bindsNumber_262 : decode cX6_bindsNumber 262 = .ok (.ifCond .eq 7, 3) := dk_153 0 7 (dk_at dksX6_bindsNumber_11 2 rfl rfl)
theorem dX6_bindsNumber_265 : decode cX6_bindsNumber 265 = .ok (.iconst 1, 1) := dk_4 (dk_at dksX6_bindsNumber_11 5 rfl rfl)
theorem dX6_bindsNumber_266 : decode cX6_bindsNumber 266 = .ok (.goto 4, 3) := dk_167 0 4 (dk_at dksX6_bindsNumber_11 6 rfl rfl)
theorem dX6_bindsNumber_269 : decode cX6_bindsNumber 269 = .ok (.iconst 0, 1) := dk_3 (dk_at dksX6_bindsNumber_11 9 rfl rfl)
theorem dX6_bindsNumber_270 : decode cX6_bindsNumber 270 = .ok (.ireturn, 1) := dk_172 (dk_at dksX6_bindsNumber_11 10 rfl rfl)
abbrev cX6_split : ByteArray := prog_23_method_36_code
def yX6_split : MethodName := ⟨RX6, "split", "(II)I"⟩
def dkwX6_split_8 : List UInt8 := [180, 0, 40, 6, 21, 4, 104, 4, 96, 46, 79, 42, 180, 0, 228, 172]
abbrev dktX6_split_8 : List UInt8 := dkwX6_split_8 ++ []
def dkwX6_split_7 : List UInt8 := [42, 180, 0, 40, 6, 21, 4, 104, 46, 79, 42, 180, 0, 68, 6, 27, 104, 6, 96, 28, 96, 42]
abbrev dktX6_split_7 : List UInt8 := dkwX6_split_7 ++ dktX6_split_8
def dkwX6_split_6 : List UInt8 := [180, 0, 83, 27, 3, 79, 42, 180, 0, 83, 27, 4, 96, 3, 79, 42, 180, 0, 68, 6, 27, 104, 28, 96]
abbrev dktX6_split_6 : List UInt8 := dkwX6_split_6 ++ dktX6_split_7
def dkwX6_split_5 : List UInt8 := [5, 182, 0, 183, 153, 0, 5, 3, 172, 42, 27, 182, 0, 244, 42, 27, 4, 96, 27, 182, 0, 240, 42]
abbrev dktX6_split_5 : List UInt8 := dkwX6_split_5 ++ dktX6_split_6
def dkwX6_split_4 : List UInt8 := [167, 0, 4, 3, 54, 5, 42, 29, 154, 0, 7, 4, 167, 0, 13, 21, 5, 153, 0, 7, 3, 167, 0, 4]
abbrev dktX6_split_4 : List UInt8 := dkwX6_split_4 ++ dktX6_split_5
def dkwX6_split_3 : List UInt8 := [160, 0, 26, 42, 180, 0, 55, 21, 4, 51, 154, 0, 16, 42, 180, 0, 228, 16, 8, 162, 0, 7, 4]
abbrev dktX6_split_3 : List UInt8 := dkwX6_split_3 ++ dktX6_split_4
def dkwX6_split_2 : List UInt8 := [54, 4, 29, 153, 0, 47, 42, 180, 0, 74, 27, 46, 2, 160, 0, 37, 42, 180, 0, 31, 21, 4, 46, 7]
abbrev dktX6_split_2 : List UInt8 := dkwX6_split_2 ++ dktX6_split_3
def dkwX6_split_1 : List UInt8 := [167, 0, 4, 3, 62, 29, 153, 0, 16, 42, 180, 0, 68, 6, 27, 104, 28, 96, 46, 167, 0, 4, 3]
abbrev dktX6_split_1 : List UInt8 := dkwX6_split_1 ++ dktX6_split_2
def dkwX6_split_0 : List UInt8 := [42, 27, 182, 0, 248, 153, 0, 21, 28, 3, 42, 180, 0, 231, 4, 100, 184, 0, 171, 153, 0, 7, 4]
abbrev dktX6_split_0 : List UInt8 := dkwX6_split_0 ++ dktX6_split_1
theorem dksX6_split_0 : cX6_split.data.toList.drop 0 = dktX6_split_0 := by decide +kernel
theorem dksX6_split_1 : cX6_split.data.toList.drop 23 = dktX6_split_1 := dk_seg dksX6_split_0 23 rfl rfl
theorem dksX6_split_2 : cX6_split.data.toList.drop 46 = dktX6_split_2 := dk_seg dksX6_split_1 23 rfl rfl
theorem dksX6_split_3 : cX6_split.data.toList.drop 70 = dktX6_split_3 := dk_seg dksX6_split_2 24 rfl rfl
theorem dksX6_split_4 : cX6_split.data.toList.drop 93 = dktX6_split_4 := dk_seg dksX6_split_3 23 rfl rfl
theorem dksX6_split_5 : cX6_split.data.toList.drop 117 = dktX6_split_5 := dk_seg dksX6_split_4 24 rfl rfl
theorem dksX6_split_6 : cX6_split.data.toList.drop 140 = dktX6_split_6 := dk_seg dksX6_split_5 23 rfl rfl
theorem dksX6_split_7 : cX6_split.data.toList.drop 164 = dktX6_split_7 := dk_seg dksX6_split_6 24 rfl rfl
theorem dksX6_split_8 : cX6_split.data.toList.drop 186 = dktX6_split_8 := dk_seg dksX6_split_7 22 rfl rfl
theorem dX6_split_0 : decode cX6_split 0 = .ok (.aload_n 0, 1) := dk_42 (dk_at dksX6_split_0 0 rfl rfl)
theorem dX6_split_1 : decode cX6_split 1 = .ok (.iload_n 1, 1) := dk_27 (dk_at dksX6_split_0 1 rfl rfl)
theorem dX6_split_2 : decode cX6_split 2 = .ok (.invokevirtual 248, 3) := dk_182 0 248 (dk_at dksX6_split_0 2 rfl rfl)
theorem dX6_split_5 : decode cX6_split 5 = .ok (.ifCond .eq 21, 3) := dk_153 0 21 (dk_at dksX6_split_0 5 rfl rfl)
theorem dX6_split_8 : decode cX6_split 8 = .ok (.iload_n 2, 1) := dk_28 (dk_at dksX6_split_0 8 rfl rfl)
theorem dX6_split_9 : decode cX6_split 9 = .ok (.iconst 0, 1) := dk_3 (dk_at dksX6_split_0 9 rfl rfl)
theorem dX6_split_10 : decode cX6_split 10 = .ok (.aload_n 0, 1) := dk_42 (dk_at dksX6_split_0 10 rfl rfl)
theorem dX6_split_11 : decode cX6_split 11 = .ok (.getfield 231, 3) := dk_180 0 231 (dk_at dksX6_split_0 11 rfl rfl)
theorem dX6_split_14 : decode cX6_split 14 = .ok (.iconst 1, 1) := dk_4 (dk_at dksX6_split_0 14 rfl rfl)
theorem dX6_split_15 : decode cX6_split 15 = .ok (.isub, 1) := dk_100 (dk_at dksX6_split_0 15 rfl rfl)
theorem dX6_split_16 : decode cX6_split 16 = .ok (.invokestatic 171, 3) := dk_184 0 171 (dk_at dksX6_split_0 16 rfl rfl)
theorem dX6_split_19 : decode cX6_split 19 = .ok (.ifCond .eq 7, 3) := dk_153 0 7 (dk_at dksX6_split_0 19 rfl rfl)
theorem dX6_split_22 : decode cX6_split 22 = .ok (.iconst 1, 1) := dk_4 (dk_at dksX6_split_0 22 rfl rfl)
theorem dX6_split_23 : decode cX6_split 23 = .ok (.goto 4, 3) := dk_167 0 4 (dk_at dksX6_split_1 0 rfl rfl)
theorem dX6_split_26 : decode cX6_split 26 = .ok (.iconst 0, 1) := dk_3 (dk_at dksX6_split_1 3 rfl rfl)
theorem dX6_split_27 : decode cX6_split 27 = .ok (.istore_n 3, 1) := dk_62 (dk_at dksX6_split_1 4 rfl rfl)
theorem dX6_split_28 : decode cX6_split 28 = .ok (.iload_n 3, 1) := dk_29 (dk_at dksX6_split_1 5 rfl rfl)
theorem dX6_split_29 : decode cX6_split 29 = .ok (.ifCond .eq 16, 3) := dk_153 0 16 (dk_at dksX6_split_1 6 rfl rfl)
theorem dX6_split_32 : decode cX6_split 32 = .ok (.aload_n 0, 1) := dk_42 (dk_at dksX6_split_1 9 rfl rfl)
theorem dX6_split_33 : decode cX6_split 33 = .ok (.getfield 68, 3) := dk_180 0 68 (dk_at dksX6_split_1 10 rfl rfl)
theorem dX6_split_36 : decode cX6_split 36 = .ok (.iconst 3, 1) := dk_6 (dk_at dksX6_split_1 13 rfl rfl)
theorem dX6_split_37 : decode cX6_split 37 = .ok (.iload_n 1, 1) := dk_27 (dk_at dksX6_split_1 14 rfl rfl)
theorem dX6_split_38 : decode cX6_split 38 = .ok (.imul, 1) := dk_104 (dk_at dksX6_split_1 15 rfl rfl)
theorem dX6_split_39 : decode cX6_split 39 = .ok (.iload_n 2, 1) := dk_28 (dk_at dksX6_split_1 16 rfl rfl)
theorem dX6_split_40 : decode cX6_split 40 = .ok (.iadd, 1) := dk_96 (dk_at dksX6_split_1 17 rfl rfl)
theorem dX6_split_41 : decode cX6_split 41 = .ok (.iaload, 1) := dk_46 (dk_at dksX6_split_1 18 rfl rfl)
theorem dX6_split_42 : decode cX6_split 42 = .ok (.goto 4, 3) := dk_167 0 4 (dk_at dksX6_split_1 19 rfl rfl)
theorem dX6_split_45 : decode cX6_split 45 = .ok (.iconst 0, 1) := dk_3 (dk_at dksX6_split_1 22 rfl rfl)
theorem dX6_split_46 : decode cX6_split 46 = .ok (.istore 4, 2) := dk_54 4 (dk_at dksX6_split_2 0 rfl rfl)
theorem dX6_split_48 : decode cX6_split 48 = .ok (.iload_n 3, 1) := dk_29 (dk_at dksX6_split_2 2 rfl rfl)
theorem dX6_split_49 : decode cX6_split 49 = .ok (.ifCond .eq 47, 3) := dk_153 0 47 (dk_at dksX6_split_2 3 rfl rfl)
theorem dX6_split_52 : decode cX6_split 52 = .ok (.aload_n 0, 1) := dk_42 (dk_at dksX6_split_2 6 rfl rfl)
theorem dX6_split_53 : decode cX6_split 53 = .ok (.getfield 74, 3) := dk_180 0 74 (dk_at dksX6_split_2 7 rfl rfl)
theorem dX6_split_56 : decode cX6_split 56 = .ok (.iload_n 1, 1) := dk_27 (dk_at dksX6_split_2 10 rfl rfl)
theorem dX6_split_57 : decode cX6_split 57 = .ok (.iaload, 1) := dk_46 (dk_at dksX6_split_2 11 rfl rfl)
theorem dX6_split_58 : decode cX6_split 58 = .ok (.iconst (-1), 1) := dk_2 (dk_at dksX6_split_2 12 rfl rfl)
theorem dX6_split_59 : decode cX6_split 59 = .ok (.if_icmp .ne 37, 3) := dk_160 0 37 (dk_at dksX6_split_2 13 rfl rfl)
theorem dX6_split_62 : decode cX6_split 62 = .ok (.aload_n 0, 1) := dk_42 (dk_at dksX6_split_2 16 rfl rfl)
theorem dX6_split_63 : decode cX6_split 63 = .ok (.getfield 31, 3) := dk_180 0 31 (dk_at dksX6_split_2 17 rfl rfl)
theorem dX6_split_66 : decode cX6_split 66 = .ok (.iload 4, 2) := dk_21 4 (dk_at dksX6_split_2 20 rfl rfl)
theorem dX6_split_68 : decode cX6_split 68 = .ok (.iaload, 1) := dk_46 (dk_at dksX6_split_2 22 rfl rfl)
theorem dX6_split_69 : decode cX6_split 69 = .ok (.iconst 4, 1) := dk_7 (dk_at dksX6_split_2 23 rfl rfl)
theorem dX6_split_70 : decode cX6_split 70 = .ok (.if_icmp .ne 26, 3) := dk_160 0 26 (dk_at dksX6_split_3 0 rfl rfl)
theorem dX6_split_73 : decode cX6_split 73 = .ok (.aload_n 0, 1) := dk_42 (dk_at dksX6_split_3 3 rfl rfl)
theorem dX6_split_74 : decode cX6_split 74 = .ok (.getfield 55, 3) := dk_180 0 55 (dk_at dksX6_split_3 4 rfl rfl)
theorem dX6_split_77 : decode cX6_split 77 = .ok (.iload 4, 2) := dk_21 4 (dk_at dksX6_split_3 7 rfl rfl)
theorem dX6_split_79 : decode cX6_split 79 = .ok (.baload, 1) := dk_51 (dk_at dksX6_split_3 9 rfl rfl)
theorem dX6_split_80 : decode cX6_split 80 = .ok (.ifCond .ne 16, 3) := dk_154 0 16 (dk_at dksX6_split_3 10 rfl rfl)
theorem dX6_split_83 : decode cX6_split 83 = .ok (.aload_n 0, 1) := dk_42 (dk_at dksX6_split_3 13 rfl rfl)
theorem dX6_split_84 : decode cX6_split 84 = .ok (.getfield 228, 3) := dk_180 0 228 (dk_at dksX6_split_3 14 rfl rfl)
theorem dX6_split_87 : decode cX6_split 87 = .ok (.bipush 8, 2) := dk_16 8 (dk_at dksX6_split_3 17 rfl rfl)
theorem dX6_split_89 : decode cX6_split 89 = .ok (.if_icmp .ge 7, 3) := dk_162 0 7 (dk_at dksX6_split_3 19 rfl rfl)
theorem dX6_split_92 : decode cX6_split 92 = .ok (.iconst 1, 1) := dk_4 (dk_at dksX6_split_3 22 rfl rfl)
theorem dX6_split_93 : decode cX6_split 93 = .ok (.goto 4, 3) := dk_167 0 4 (dk_at dksX6_split_4 0 rfl rfl)
theorem dX6_split_96 : decode cX6_split 96 = .ok (.iconst 0, 1) := dk_3 (dk_at dksX6_split_4 3 rfl rfl)
theorem dX6_split_97 : decode cX6_split 97 = .ok (.istore 5, 2) := dk_54 5 (dk_at dksX6_split_4 4 rfl rfl)
theorem dX6_split_99 : decode cX6_split 99 = .ok (.aload_n 0, 1) := dk_42 (dk_at dksX6_split_4 6 rfl rfl)
theorem dX6_split_100 : decode cX6_split 100 = .ok (.iload_n 3, 1) := dk_29 (dk_at dksX6_split_4 7 rfl rfl)
theorem dX6_split_101 : decode cX6_split 101 = .ok (.ifCond .ne 7, 3) := dk_154 0 7 (dk_at dksX6_split_4 8 rfl rfl)
theorem dX6_split_104 : decode cX6_split 104 = .ok (.iconst 1, 1) := dk_4 (dk_at dksX6_split_4 11 rfl rfl)
theorem dX6_split_105 : decode cX6_split 105 = .ok (.goto 13, 3) := dk_167 0 13 (dk_at dksX6_split_4 12 rfl rfl)
theorem dX6_split_108 : decode cX6_split 108 = .ok (.iload 5, 2) := dk_21 5 (dk_at dksX6_split_4 15 rfl rfl)
theorem dX6_split_110 : decode cX6_split 110 = .ok (.ifCond .eq 7, 3) := dk_153 0 7 (dk_at dksX6_split_4 17 rfl rfl)
theorem dX6_split_113 : decode cX6_split 113 = .ok (.iconst 0, 1) := dk_3 (dk_at dksX6_split_4 20 rfl rfl)
theorem dX6_split_114 : decode cX6_split 114 = .ok (.goto 4, 3) := dk_167 0 4 (dk_at dksX6_split_4 21 rfl rfl)
theorem dX6_split_117 : decode cX6_split 117 = .ok (.iconst 2, 1) := dk_5 (dk_at dksX6_split_5 0 rfl rfl)
theorem dX6_split_118 : decode cX6_split 118 = .ok (.invokevirtual 183, 3) := dk_182 0 183 (dk_at dksX6_split_5 1 rfl rfl)
theorem dX6_split_121 : decode cX6_split 121 = .ok (.ifCond .eq 5, 3) := dk_153 0 5 (dk_at dksX6_split_5 4 rfl rfl)
theorem dX6_split_124 : decode cX6_split 124 = .ok (.iconst 0, 1) := dk_3 (dk_at dksX6_split_5 7 rfl rfl)
theorem dX6_split_125 : decode cX6_split 125 = .ok (.ireturn, 1) := dk_172 (dk_at dksX6_split_5 8 rfl rfl)
theorem dX6_split_126 : decode cX6_split 126 = .ok (.aload_n 0, 1) := dk_42 (dk_at dksX6_split_5 9 rfl rfl)
theorem dX6_split_127 : decode cX6_split 127 = .ok (.iload_n 1, 1) := dk_27 (dk_at dksX6_split_5 10 rfl rfl)
theorem dX6_split_128 : decode cX6_split 128 = .ok (.invokevirtual 244, 3) := dk_182 0 244 (dk_at dksX6_split_5 11 rfl rfl)
theorem dX6_split_131 : decode cX6_split 131 = .ok (.aload_n 0, 1) := dk_42 (dk_at dksX6_split_5 14 rfl rfl)
theorem dX6_split_132 : decode cX6_split 132 = .ok (.iload_n 1, 1) := dk_27 (dk_at dksX6_split_5 15 rfl rfl)
theorem dX6_split_133 : decode cX6_split 133 = .ok (.iconst 1, 1) := dk_4 (dk_at dksX6_split_5 16 rfl rfl)
theorem dX6_split_134 : decode cX6_split 134 = .ok (.iadd, 1) := dk_96 (dk_at dksX6_split_5 17 rfl rfl)
theorem dX6_split_135 : decode cX6_split 135 = .ok (.iload_n 1, 1) := dk_27 (dk_at dksX6_split_5 18 rfl rfl)
theorem dX6_split_136 : decode cX6_split 136 = .ok (.invokevirtual 240, 3) := dk_182 0 240 (dk_at dksX6_split_5 19 rfl rfl)
theorem dX6_split_139 : decode cX6_split 139 = .ok (.aload_n 0, 1) := dk_42 (dk_at dksX6_split_5 22 rfl rfl)
theorem dX6_split_140 : decode cX6_split 140 = .ok (.getfield 83, 3) := dk_180 0 83 (dk_at dksX6_split_6 0 rfl rfl)
theorem dX6_split_143 : decode cX6_split 143 = .ok (.iload_n 1, 1) := dk_27 (dk_at dksX6_split_6 3 rfl rfl)
theorem dX6_split_144 : decode cX6_split 144 = .ok (.iconst 0, 1) := dk_3 (dk_at dksX6_split_6 4 rfl rfl)
theorem dX6_split_145 : decode cX6_split 145 = .ok (.iastore, 1) := dk_79 (dk_at dksX6_split_6 5 rfl rfl)
theorem dX6_split_146 : decode cX6_split 146 = .ok (.aload_n 0, 1) := dk_42 (dk_at dksX6_split_6 6 rfl rfl)
theorem dX6_split_147 : decode cX6_split 147 = .ok (.getfield 83, 3) := dk_180 0 83 (dk_at dksX6_split_6 7 rfl rfl)
theorem dX6_split_150 : decode cX6_split 150 = .ok (.iload_n 1, 1) := dk_27 (dk_at dksX6_split_6 10 rfl rfl)
theorem dX6_split_151 : decode cX6_split 151 = .ok (.iconst 1, 1) := dk_4 (dk_at dksX6_split_6 11 rfl rfl)
theorem dX6_split_152 : decode cX6_split 152 = .ok (.iadd, 1) := dk_96 (dk_at dksX6_split_6 12 rfl rfl)
theorem dX6_split_153 : decode cX6_split 153 = .ok (.iconst 0, 1) := dk_3 (dk_at dksX6_split_6 13 rfl rfl)
theorem dX6_split_154 : decode cX6_split 154 = .ok (.iastore, 1) := dk_79 (dk_at dksX6_split_6 14 rfl rfl)
theorem dX6_split_155 : decode cX6_split 155 = .ok (.aload_n 0, 1) := dk_42 (dk_at dksX6_split_6 15 rfl rfl)
theorem dX6_split_156 : decode cX6_split 156 = .ok (.getfield 68, 3) := dk_180 0 68 (dk_at dksX6_split_6 16 rfl rfl)
theorem dX6_split_159 : decode cX6_split 159 = .ok (.iconst 3, 1) := dk_6 (dk_at dksX6_split_6 19 rfl rfl)
theorem dX6_split_160 : decode cX6_split 160 = .ok (.iload_n 1, 1) := dk_27 (dk_at dksX6_split_6 20 rfl rfl)
theorem dX6_split_161 : decode cX6_split 161 = .ok (.imul, 1) := dk_104 (dk_at dksX6_split_6 21 rfl rfl)
theorem dX6_split_162 : decode cX6_split 162 = .ok (.iload_n 2, 1) := dk_28 (dk_at dksX6_split_6 22 rfl rfl)
theorem dX6_split_163 : decode cX6_split 163 = .ok (.iadd, 1) := dk_96 (dk_at dksX6_split_6 23 rfl rfl)
theorem dX6_split_164 : decode cX6_split 164 = .ok (.aload_n 0, 1) := dk_42 (dk_at dksX6_split_7 0 rfl rfl)
theorem dX6_split_165 : decode cX6_split 165 = .ok (.getfield 40, 3) := dk_180 0 40 (dk_at dksX6_split_7 1 rfl rfl)
theorem dX6_split_168 : decode cX6_split 168 = .ok (.iconst 3, 1) := dk_6 (dk_at dksX6_split_7 4 rfl rfl)
theorem dX6_split_169 : decode cX6_split 169 = .ok (.iload 4, 2) := dk_21 4 (dk_at dksX6_split_7 5 rfl rfl)
theorem dX6_split_171 : decode cX6_split 171 = .ok (.imul, 1) := dk_104 (dk_at dksX6_split_7 7 rfl rfl)
theorem dX6_split_172 : decode cX6_split 172 = .ok (.iaload, 1) := dk_46 (dk_at dksX6_split_7 8 rfl rfl)
theorem dX6_split_173 : decode cX6_split 173 = .ok (.iastore, 1) := dk_79 (dk_at dksX6_split_7 9 rfl rfl)
theorem dX6_split_174 : decode cX6_split 174 = .ok (.aload_n 0, 1) := dk_42 (dk_at dksX6_split_7 10 rfl rfl)
theorem dX6_split_175 : decode cX6_split 175 = .ok (.getfield 68, 3) := dk_180 0 68 (dk_at dksX6_split_7 11 rfl rfl)
theorem dX6_split_178 : decode cX6_split 178 = .ok (.iconst 3, 1) := dk_6 (dk_at dksX6_split_7 14 rfl rfl)
theorem dX6_split_179 : decode cX6_split 179 = .ok (.iload_n 1, 1) := dk_27 (dk_at dksX6_split_7 15 rfl rfl)
theorem dX6_split_180 : decode cX6_split 180 = .ok (.imul, 1) := dk_104 (dk_at dksX6_split_7 16 rfl rfl)
theorem dX6_split_181 : decode cX6_split 181 = .ok (.iconst 3, 1) := dk_6 (dk_at dksX6_split_7 17 rfl rfl)
theorem dX6_split_182 : decode cX6_split 182 = .ok (.iadd, 1) := dk_96 (dk_at dksX6_split_7 18 rfl rfl)
theorem dX6_split_183 : decode cX6_split 183 = .ok (.iload_n 2, 1) := dk_28 (dk_at dksX6_split_7 19 rfl rfl)
theorem dX6_split_184 : decode cX6_split 184 = .ok (.iadd, 1) := dk_96 (dk_at dksX6_split_7 20 rfl rfl)
theorem dX6_split_185 : decode cX6_split 185 = .ok (.aload_n 0, 1) := dk_42 (dk_at dksX6_split_7 21 rfl rfl)
theorem dX6_split_186 : decode cX6_split 186 = .ok (.getfield 40, 3) := dk_180 0 40 (dk_at dksX6_split_8 0 rfl rfl)
theorem dX6_split_189 : decode cX6_split 189 = .ok (.iconst 3, 1) := dk_6 (dk_at dksX6_split_8 3 rfl rfl)
theorem dX6_split_190 : decode cX6_split 190 = .ok (.iload 4, 2) := dk_21 4 (dk_at dksX6_split_8 4 rfl rfl)
theorem dX6_split_192 : decode cX6_split 192 = .ok (.imul, 1) := dk_104 (dk_at dksX6_split_8 6 rfl rfl)
theorem dX6_split_193 : decode cX6_split 193 = .ok (.iconst 1, 1) := dk_4 (dk_at dksX6_split_8 7 rfl rfl)
theorem dX6_split_194 : decode cX6_split 194 = .ok (.iadd, 1) := dk_96 (dk_at dksX6_split_8 8 rfl rfl)
theorem dX6_split_195 : decode cX6_split 195 = .ok (.iaload, 1) := dk_46 (dk_at dksX6_split_8 9 rfl rfl)
theorem dX6_split_196 : decode cX6_split 196 = .ok (.iastore, 1) := dk_79 (dk_at dksX6_split_8 10 rfl rfl)
theorem dX6_split_197 : decode cX6_split 197 = .ok (.aload_n 0, 1) := dk_42 (dk_at dksX6_split_8 11 rfl rfl)
theorem dX6_split_198 : decode cX6_split 198 = .ok (.getfield 228, 3) := dk_180 0 228 (dk_at dksX6_split_8 12 rfl rfl)
theorem dX6_split_201 : decode cX6_split 201 = .ok (.ireturn, 1) := dk_172 (dk_at dksX6_split_8 15 rfl rfl)
abbrev cX6_merge : ByteArray := prog_23_method_37_code
def yX6_merge : MethodName := ⟨RX6, "merge", "(II)I"⟩
def dkwX6_merge_13 : List UInt8 := [167, 255, 232, 42, 89, 180, 0, 228, 4, 100, 181, 0, 228, 42, 2, 181, 0, 161, 42, 180, 0, 228, 172]
abbrev dktX6_merge_13 : List UInt8 := dkwX6_merge_13 ++ []
def dkwX6_merge_12 : List UInt8 := [21, 5, 42, 180, 0, 228, 4, 100, 162, 0, 19, 42, 21, 5, 4, 96, 21, 5, 182, 0, 240, 132, 5, 1]
abbrev dktX6_merge_12 : List UInt8 := dkwX6_merge_12 ++ dktX6_merge_13
def dkwX6_merge_11 : List UInt8 := [27, 104, 6, 96, 28, 96, 46, 182, 0, 224, 79, 42, 180, 0, 83, 27, 3, 79, 27, 4, 96, 54, 5]
abbrev dktX6_merge_11 : List UInt8 := dkwX6_merge_11 ++ dktX6_merge_12
def dkwX6_merge_10 : List UInt8 := [180, 0, 68, 6, 27, 104, 28, 96, 42, 42, 180, 0, 68, 6, 27, 104, 28, 96, 46, 42, 180, 0, 68, 6]
abbrev dktX6_merge_10 : List UInt8 := dkwX6_merge_10 ++ dktX6_merge_11
def dkwX6_merge_9 : List UInt8 := [167, 0, 13, 21, 4, 153, 0, 7, 3, 167, 0, 4, 5, 182, 0, 183, 153, 0, 5, 3, 172, 42]
abbrev dktX6_merge_9 : List UInt8 := dkwX6_merge_9 ++ dktX6_merge_10
def dkwX6_merge_8 : List UInt8 := [21, 7, 160, 0, 7, 4, 167, 0, 4, 3, 54, 4, 132, 5, 1, 167, 255, 145, 42, 29, 154, 0, 7, 4]
abbrev dktX6_merge_8 : List UInt8 := dkwX6_merge_8 ++ dktX6_merge_9
def dkwX6_merge_7 : List UInt8 := [182, 0, 221, 153, 0, 14, 42, 182, 0, 204, 154, 0, 7, 4, 167, 0, 19, 3, 167, 0, 15, 21, 6]
abbrev dktX6_merge_7 : List UInt8 := dkwX6_merge_7 ++ dktX6_merge_8
def dkwX6_merge_6 : List UInt8 := [180, 0, 55, 21, 6, 51, 154, 0, 35, 42, 180, 0, 55, 21, 7, 51, 154, 0, 25, 42, 21, 6, 21, 7]
abbrev dktX6_merge_6 : List UInt8 := dkwX6_merge_6 ++ dktX6_merge_7
def dkwX6_merge_5 : List UInt8 := [42, 180, 0, 68, 6, 27, 104, 6, 96, 21, 5, 96, 46, 54, 7, 21, 5, 28, 160, 0, 49, 42]
abbrev dktX6_merge_5 : List UInt8 := dkwX6_merge_5 ++ dktX6_merge_6
def dkwX6_merge_4 : List UInt8 := [180, 0, 231, 162, 0, 108, 21, 4, 153, 0, 103, 42, 180, 0, 68, 6, 27, 104, 21, 5, 96, 46, 54, 6]
abbrev dktX6_merge_4 : List UInt8 := dkwX6_merge_4 ++ dktX6_merge_5
def dkwX6_merge_3 : List UInt8 := [180, 0, 71, 27, 4, 96, 46, 160, 0, 7, 4, 167, 0, 4, 3, 54, 4, 3, 54, 5, 21, 5, 42]
abbrev dktX6_merge_3 : List UInt8 := dkwX6_merge_3 ++ dktX6_merge_4
def dkwX6_merge_2 : List UInt8 := [160, 0, 36, 42, 180, 0, 74, 27, 4, 96, 46, 2, 160, 0, 24, 42, 180, 0, 71, 27, 46, 42]
abbrev dktX6_merge_2 : List UInt8 := dkwX6_merge_2 ++ dktX6_merge_3
def dkwX6_merge_1 : List UInt8 := [184, 0, 171, 153, 0, 7, 4, 167, 0, 4, 3, 62, 29, 153, 0, 46, 42, 180, 0, 74, 27, 46, 2]
abbrev dktX6_merge_1 : List UInt8 := dkwX6_merge_1 ++ dktX6_merge_2
def dkwX6_merge_0 : List UInt8 := [27, 3, 42, 180, 0, 228, 5, 100, 184, 0, 171, 153, 0, 21, 28, 3, 42, 180, 0, 231, 4, 100]
abbrev dktX6_merge_0 : List UInt8 := dkwX6_merge_0 ++ dktX6_merge_1
theorem dksX6_merge_0 : cX6_merge.data.toList.drop 0 = dktX6_merge_0 := by decide +kernel
theorem dksX6_merge_1 : cX6_merge.data.toList.drop 22 = dktX6_merge_1 := dk_seg dksX6_merge_0 22 rfl rfl
theorem dksX6_merge_2 : cX6_merge.data.toList.drop 45 = dktX6_merge_2 := dk_seg dksX6_merge_1 23 rfl rfl
theorem dksX6_merge_3 : cX6_merge.data.toList.drop 67 = dktX6_merge_3 := dk_seg dksX6_merge_2 22 rfl rfl
theorem dksX6_merge_4 : cX6_merge.data.toList.drop 90 = dktX6_merge_4 := dk_seg dksX6_merge_3 23 rfl rfl
theorem dksX6_merge_5 : cX6_merge.data.toList.drop 114 = dktX6_merge_5 := dk_seg dksX6_merge_4 24 rfl rfl
theorem dksX6_merge_6 : cX6_merge.data.toList.drop 136 = dktX6_merge_6 := dk_seg dksX6_merge_5 22 rfl rfl
theorem dksX6_merge_7 : cX6_merge.data.toList.drop 160 = dktX6_merge_7 := dk_seg dksX6_merge_6 24 rfl rfl
theorem dksX6_merge_8 : cX6_merge.data.toList.drop 183 = dktX6_merge_8 := dk_seg dksX6_merge_7 23 rfl rfl
theorem dksX6_merge_9 : cX6_merge.data.toList.drop 207 = dktX6_merge_9 := dk_seg dksX6_merge_8 24 rfl rfl
theorem dksX6_merge_10 : cX6_merge.data.toList.drop 229 = dktX6_merge_10 := dk_seg dksX6_merge_9 22 rfl rfl
theorem dksX6_merge_11 : cX6_merge.data.toList.drop 253 = dktX6_merge_11 := dk_seg dksX6_merge_10 24 rfl rfl
theorem dksX6_merge_12 : cX6_merge.data.toList.drop 276 = dktX6_merge_12 := dk_seg dksX6_merge_11 23 rfl rfl
theorem dksX6_merge_13 : cX6_merge.data.toList.drop 300 = dktX6_merge_13 := dk_seg dksX6_merge_12 24 rfl rfl
theorem dX6_merge_0 : decode cX6_merge 0 = .ok (.iload_n 1, 1) := dk_27 (dk_at dksX6_merge_0 0 rfl rfl)
theorem dX6_merge_1 : decode cX6_merge 1 = .ok (.iconst 0, 1) := dk_3 (dk_at dksX6_merge_0 1 rfl rfl)
theorem dX6_merge_2 : decode cX6_merge 2 = .ok (.aload_n 0, 1) := dk_42 (dk_at dksX6_merge_0 2 rfl rfl)
theorem dX6_merge_3 : decode cX6_merge 3 = .ok (.getfield 228, 3) := dk_180 0 228 (dk_at dksX6_merge_0 3 rfl rfl)
theorem dX6_merge_6 : decode cX6_merge 6 = .ok (.iconst 2, 1) := dk_5 (dk_at dksX6_merge_0 6 rfl rfl)
theorem dX6_merge_7 : decode cX6_merge 7 = .ok (.isub, 1) := dk_100 (dk_at dksX6_merge_0 7 rfl rfl)
theorem dX6_merge_8 : decode cX6_merge 8 = .ok (.invokestatic 171, 3) := dk_184 0 171 (dk_at dksX6_merge_0 8 rfl rfl)
theorem dX6_merge_11 : decode cX6_merge 11 = .ok (.ifCond .eq 21, 3) := dk_153 0 21 (dk_at dksX6_merge_0 11 rfl rfl)
theorem dX6_merge_14 : decode cX6_merge 14 = .ok (.iload_n 2, 1) := dk_28 (dk_at dksX6_merge_0 14 rfl rfl)
theorem dX6_merge_15 : decode cX6_merge 15 = .ok (.iconst 0, 1) := dk_3 (dk_at dksX6_merge_0 15 rfl rfl)
theorem dX6_merge_16 : decode cX6_merge 16 = .ok (.aload_n 0, 1) := dk_42 (dk_at dksX6_merge_0 16 rfl rfl)
theorem dX6_merge_17 : decode cX6_merge 17 = .ok (.getfield 231, 3) := dk_180 0 231 (dk_at dksX6_merge_0 17 rfl rfl)
theorem dX6_merge_20 : decode cX6_merge 20 = .ok (.iconst 1, 1) := dk_4 (dk_at dksX6_merge_0 20 rfl rfl)
theorem dX6_merge_21 : decode cX6_merge 21 = .ok (.isub, 1) := dk_100 (dk_at dksX6_merge_0 21 rfl rfl)
theorem dX6_merge_22 : decode cX6_merge 22 = .ok (.invokestatic 171, 3) := dk_184 0 171 (dk_at dksX6_merge_1 0 rfl rfl)
theorem dX6_merge_25 : decode cX6_merge 25 = .ok (.ifCond .eq 7, 3) := dk_153 0 7 (dk_at dksX6_merge_1 3 rfl rfl)
theorem dX6_merge_28 : decode cX6_merge 28 = .ok (.iconst 1, 1) := dk_4 (dk_at dksX6_merge_1 6 rfl rfl)
theorem dX6_merge_29 : decode cX6_merge 29 = .ok (.goto 4, 3) := dk_167 0 4 (dk_at dksX6_merge_1 7 rfl rfl)
theorem dX6_merge_32 : decode cX6_merge 32 = .ok (.iconst 0, 1) := dk_3 (dk_at dksX6_merge_1 10 rfl rfl)
theorem dX6_merge_33 : decode cX6_merge 33 = .ok (.istore_n 3, 1) := dk_62 (dk_at dksX6_merge_1 11 rfl rfl)
theorem dX6_merge_34 : decode cX6_merge 34 = .ok (.iload_n 3, 1) := dk_29 (dk_at dksX6_merge_1 12 rfl rfl)
theorem dX6_merge_35 : decode cX6_merge 35 = .ok (.ifCond .eq 46, 3) := dk_153 0 46 (dk_at dksX6_merge_1 13 rfl rfl)
theorem dX6_merge_38 : decode cX6_merge 38 = .ok (.aload_n 0, 1) := dk_42 (dk_at dksX6_merge_1 16 rfl rfl)
theorem dX6_merge_39 : decode cX6_merge 39 = .ok (.getfield 74, 3) := dk_180 0 74 (dk_at dksX6_merge_1 17 rfl rfl)
theorem dX6_merge_42 : decode cX6_merge 42 = .ok (.iload_n 1, 1) := dk_27 (dk_at dksX6_merge_1 20 rfl rfl)
theorem dX6_merge_43 : decode cX6_merge 43 = .ok (.iaload, 1) := dk_46 (dk_at dksX6_merge_1 21 rfl rfl)
theorem dX6_merge_44 : decode cX6_merge 44 = .ok (.iconst (-1), 1) := dk_2 (dk_at dksX6_merge_1 22 rfl rfl)
theorem dX6_merge_45 : decode cX6_merge 45 = .ok (.if_icmp .ne 36, 3) := dk_160 0 36 (dk_at dksX6_merge_2 0 rfl rfl)
theorem dX6_merge_48 : decode cX6_merge 48 = .ok (.aload_n 0, 1) := dk_42 (dk_at dksX6_merge_2 3 rfl rfl)
theorem dX6_merge_49 : decode cX6_merge 49 = .ok (.getfield 74, 3) := dk_180 0 74 (dk_at dksX6_merge_2 4 rfl rfl)
theorem dX6_merge_52 : decode cX6_merge 52 = .ok (.iload_n 1, 1) := dk_27 (dk_at dksX6_merge_2 7 rfl rfl)
theorem dX6_merge_53 : decode cX6_merge 53 = .ok (.iconst 1, 1) := dk_4 (dk_at dksX6_merge_2 8 rfl rfl)
theorem dX6_merge_54 : decode cX6_merge 54 = .ok (.iadd, 1) := dk_96 (dk_at dksX6_merge_2 9 rfl rfl)
theorem dX6_merge_55 : decode cX6_merge 55 = .ok (.iaload, 1) := dk_46 (dk_at dksX6_merge_2 10 rfl rfl)
theorem dX6_merge_56 : decode cX6_merge 56 = .ok (.iconst (-1), 1) := dk_2 (dk_at dksX6_merge_2 11 rfl rfl)
theorem dX6_merge_57 : decode cX6_merge 57 = .ok (.if_icmp .ne 24, 3) := dk_160 0 24 (dk_at dksX6_merge_2 12 rfl rfl)
theorem dX6_merge_60 : decode cX6_merge 60 = .ok (.aload_n 0, 1) := dk_42 (dk_at dksX6_merge_2 15 rfl rfl)
theorem dX6_merge_61 : decode cX6_merge 61 = .ok (.getfield 71, 3) := dk_180 0 71 (dk_at dksX6_merge_2 16 rfl rfl)
theorem dX6_merge_64 : decode cX6_merge 64 = .ok (.iload_n 1, 1) := dk_27 (dk_at dksX6_merge_2 19 rfl rfl)
theorem dX6_merge_65 : decode cX6_merge 65 = .ok (.iaload, 1) := dk_46 (dk_at dksX6_merge_2 20 rfl rfl)
theorem dX6_merge_66 : decode cX6_merge 66 = .ok (.aload_n 0, 1) := dk_42 (dk_at dksX6_merge_2 21 rfl rfl)
theorem dX6_merge_67 : decode cX6_merge 67 = .ok (.getfield 71, 3) := dk_180 0 71 (dk_at dksX6_merge_3 0 rfl rfl)
theorem dX6_merge_70 : decode cX6_merge 70 = .ok (.iload_n 1, 1) := dk_27 (dk_at dksX6_merge_3 3 rfl rfl)
theorem dX6_merge_71 : decode cX6_merge 71 = .ok (.iconst 1, 1) := dk_4 (dk_at dksX6_merge_3 4 rfl rfl)
theorem dX6_merge_72 : decode cX6_merge 72 = .ok (.iadd, 1) := dk_96 (dk_at dksX6_merge_3 5 rfl rfl)
theorem dX6_merge_73 : decode cX6_merge 73 = .ok (.iaload, 1) := dk_46 (dk_at dksX6_merge_3 6 rfl rfl)
theorem dX6_merge_74 : decode cX6_merge 74 = .ok (.if_icmp .ne 7, 3) := dk_160 0 7 (dk_at dksX6_merge_3 7 rfl rfl)
theorem dX6_merge_77 : decode cX6_merge 77 = .ok (.iconst 1, 1) := dk_4 (dk_at dksX6_merge_3 10 rfl rfl)
theorem dX6_merge_78 : decode cX6_merge 78 = .ok (.goto 4, 3) := dk_167 0 4 (dk_at dksX6_merge_3 11 rfl rfl)
theorem dX6_merge_81 : decode cX6_merge 81 = .ok (.iconst 0, 1) := dk_3 (dk_at dksX6_merge_3 14 rfl rfl)
theorem dX6_merge_82 : decode cX6_merge 82 = .ok (.istore 4, 2) := dk_54 4 (dk_at dksX6_merge_3 15 rfl rfl)
theorem dX6_merge_84 : decode cX6_merge 84 = .ok (.iconst 0, 1) := dk_3 (dk_at dksX6_merge_3 17 rfl rfl)
theorem dX6_merge_85 : decode cX6_merge 85 = .ok (.istore 5, 2) := dk_54 5 (dk_at dksX6_merge_3 18 rfl rfl)
theorem dX6_merge_87 : decode cX6_merge 87 = .ok (.iload 5, 2) := dk_21 5 (dk_at dksX6_merge_3 20 rfl rfl)
theorem dX6_merge_89 : decode cX6_merge 89 = .ok (.aload_n 0, 1) := dk_42 (dk_at dksX6_merge_3 22 rfl rfl)
theorem dX6_merge_90 : decode cX6_merge 90 = .ok (.getfield 231, 3) := dk_180 0 231 (dk_at dksX6_merge_4 0 rfl rfl)
theorem dX6_merge_93 : decode cX6_merge 93 = .ok (.if_icmp .ge 108, 3) := dk_162 0 108 (dk_at dksX6_merge_4 3 rfl rfl)
theorem dX6_merge_96 : decode cX6_merge 96 = .ok (.iload 4, 2) := dk_21 4 (dk_at dksX6_merge_4 6 rfl rfl)
theorem dX6_merge_98 : decode cX6_merge 98 = .ok (.ifCond .eq 103, 3) := dk_153 0 103 (dk_at dksX6_merge_4 8 rfl rfl)
theorem dX6_merge_101 : decode cX6_merge 101 = .ok (.aload_n 0, 1) := dk_42 (dk_at dksX6_merge_4 11 rfl rfl)
theorem dX6_merge_102 : decode cX6_merge 102 = .ok (.getfield 68, 3) := dk_180 0 68 (dk_at dksX6_merge_4 12 rfl rfl)
theorem dX6_merge_105 : decode cX6_merge 105 = .ok (.iconst 3, 1) := dk_6 (dk_at dksX6_merge_4 15 rfl rfl)
theorem dX6_merge_106 : decode cX6_merge 106 = .ok (.iload_n 1, 1) := dk_27 (dk_at dksX6_merge_4 16 rfl rfl)
theorem dX6_merge_107 : decode cX6_merge 107 = .ok (.imul, 1) := dk_104 (dk_at dksX6_merge_4 17 rfl rfl)
theorem dX6_merge_108 : decode cX6_merge 108 = .ok (.iload 5, 2) := dk_21 5 (dk_at dksX6_merge_4 18 rfl rfl)
theorem dX6_merge_110 : decode cX6_merge 110 = .ok (.iadd, 1) := dk_96 (dk_at dksX6_merge_4 20 rfl rfl)
theorem dX6_merge_111 : decode cX6_merge 111 = .ok (.iaload, 1) := dk_46 (dk_at dksX6_merge_4 21 rfl rfl)
theorem dX6_merge_112 : decode cX6_merge 112 = .ok (.istore 6, 2) := dk_54 6 (dk_at dksX6_merge_4 22 rfl rfl)
theorem dX6_merge_114 : decode cX6_merge 114 = .ok (.aload_n 0, 1) := dk_42 (dk_at dksX6_merge_5 0 rfl rfl)
theorem dX6_merge_115 : decode cX6_merge 115 = .ok (.getfield 68, 3) := dk_180 0 68 (dk_at dksX6_merge_5 1 rfl rfl)
theorem dX6_merge_118 : decode cX6_merge 118 = .ok (.iconst 3, 1) := dk_6 (dk_at dksX6_merge_5 4 rfl rfl)
theorem dX6_merge_119 : decode cX6_merge 119 = .ok (.iload_n 1, 1) := dk_27 (dk_at dksX6_merge_5 5 rfl rfl)
theorem dX6_merge_120 : decode cX6_merge 120 = .ok (.imul, 1) := dk_104 (dk_at dksX6_merge_5 6 rfl rfl)
theorem dX6_merge_121 : decode cX6_merge 121 = .ok (.iconst 3, 1) := dk_6 (dk_at dksX6_merge_5 7 rfl rfl)
theorem dX6_merge_122 : decode cX6_merge 122 = .ok (.iadd, 1) := dk_96 (dk_at dksX6_merge_5 8 rfl rfl)
theorem dX6_merge_123 : decode cX6_merge 123 = .ok (.iload 5, 2) := dk_21 5 (dk_at dksX6_merge_5 9 rfl rfl)
theorem dX6_merge_125 : decode cX6_merge 125 = .ok (.iadd, 1) := dk_96 (dk_at dksX6_merge_5 11 rfl rfl)
theorem dX6_merge_126 : decode cX6_merge 126 = .ok (.iaload, 1) := dk_46 (dk_at dksX6_merge_5 12 rfl rfl)
theorem dX6_merge_127 : decode cX6_merge 127 = .ok (.istore 7, 2) := dk_54 7 (dk_at dksX6_merge_5 13 rfl rfl)
theorem dX6_merge_129 : decode cX6_merge 129 = .ok (.iload 5, 2) := dk_21 5 (dk_at dksX6_merge_5 15 rfl rfl)
theorem dX6_merge_131 : decode cX6_merge 131 = .ok (.iload_n 2, 1) := dk_28 (dk_at dksX6_merge_5 17 rfl rfl)
theorem dX6_merge_132 : decode cX6_merge 132 = .ok (.if_icmp .ne 49, 3) := dk_160 0 49 (dk_at dksX6_merge_5 18 rfl rfl)
theorem dX6_merge_135 : decode cX6_merge 135 = .ok (.aload_n 0, 1) := dk_42 (dk_at dksX6_merge_5 21 rfl rfl)
theorem dX6_merge_136 : decode cX6_merge 136 = .ok (.getfield 55, 3) := dk_180 0 55 (dk_at dksX6_merge_6 0 rfl rfl)
theorem dX6_merge_139 : decode cX6_merge 139 = .ok (.iload 6, 2) := dk_21 6 (dk_at dksX6_merge_6 3 rfl rfl)
theorem dX6_merge_141 : decode cX6_merge 141 = .ok (.baload, 1) := dk_51 (dk_at dksX6_merge_6 5 rfl rfl)
theorem dX6_merge_142 : decode cX6_merge 142 = .ok (.ifCond .ne 35, 3) := dk_154 0 35 (dk_at dksX6_merge_6 6 rfl rfl)
theorem dX6_merge_145 : decode cX6_merge 145 = .ok (.aload_n 0, 1) := dk_42 (dk_at dksX6_merge_6 9 rfl rfl)
theorem dX6_merge_146 : decode cX6_merge 146 = .ok (.getfield 55, 3) := dk_180 0 55 (dk_at dksX6_merge_6 10 rfl rfl)
theorem dX6_merge_149 : decode cX6_merge 149 = .ok (.iload 7, 2) := dk_21 7 (dk_at dksX6_merge_6 13 rfl rfl)
theorem dX6_merge_151 : decode cX6_merge 151 = .ok (.baload, 1) := dk_51 (dk_at dksX6_merge_6 15 rfl rfl)
theorem dX6_merge_152 : decode cX6_merge 152 = .ok (.ifCond .ne 25, 3) := dk_154 0 25 (dk_at dksX6_merge_6 16 rfl rfl)
theorem dX6_merge_155 : decode cX6_merge 155 = .ok (.aload_n 0, 1) := dk_42 (dk_at dksX6_merge_6 19 rfl rfl)
theorem dX6_merge_156 : decode cX6_merge 156 = .ok (.iload 6, 2) := dk_21 6 (dk_at dksX6_merge_6 20 rfl rfl)
theorem dX6_merge_158 : decode cX6_merge 158 = .ok (.iload 7, 2) := dk_21 7 (dk_at dksX6_merge_6 22 rfl rfl)
theorem dX6_merge_160 : decode cX6_merge 160 = .ok (.invokevirtual 221, 3) := dk_182 0 221 (dk_at dksX6_merge_7 0 rfl rfl)
theorem dX6_merge_163 : decode cX6_merge 163 = .ok (.ifCond .eq 14, 3) := dk_153 0 14 (dk_at dksX6_merge_7 3 rfl rfl)
theorem dX6_merge_166 : decode cX6_merge 166 = .ok (.aload_n 0, 1) := dk_42 (dk_at dksX6_merge_7 6 rfl rfl)
theorem dX6_merge_167 : decode cX6_merge 167 = .ok (.invokevirtual 204, 3) := dk_182 0 204 (dk_at dksX6_merge_7 7 rfl rfl)
theorem dX6_merge_170 : decode cX6_merge 170 = .ok (.ifCond .ne 7, 3) := dk_154 0 7 (dk_at dksX6_merge_7 10 rfl rfl)
theorem dX6_merge_173 : decode cX6_merge 173 = .ok (.iconst 1, 1) := dk_4 (dk_at dksX6_merge_7 13 rfl rfl)
theorem dX6_merge_174 : decode cX6_merge 174 = .ok (.goto 19, 3) := dk_167 0 19 (dk_at dksX6_merge_7 14 rfl rfl)
theorem dX6_merge_177 : decode cX6_merge 177 = .ok (.iconst 0, 1) := dk_3 (dk_at dksX6_merge_7 17 rfl rfl)
theorem dX6_merge_178 : decode cX6_merge 178 = .ok (.goto 15, 3) := dk_167 0 15 (dk_at dksX6_merge_7 18 rfl rfl)
theorem dX6_merge_181 : decode cX6_merge 181 = .ok (.iload 6, 2) := dk_21 6 (dk_at dksX6_merge_7 21 rfl rfl)
theorem dX6_merge_183 : decode cX6_merge 183 = .ok (.iload 7, 2) := dk_21 7 (dk_at dksX6_merge_8 0 rfl rfl)
theorem dX6_merge_185 : decode cX6_merge 185 = .ok (.if_icmp .ne 7, 3) := dk_160 0 7 (dk_at dksX6_merge_8 2 rfl rfl)
theorem dX6_merge_188 : decode cX6_merge 188 = .ok (.iconst 1, 1) := dk_4 (dk_at dksX6_merge_8 5 rfl rfl)
theorem dX6_merge_189 : decode cX6_merge 189 = .ok (.goto 4, 3) := dk_167 0 4 (dk_at dksX6_merge_8 6 rfl rfl)
theorem dX6_merge_192 : decode cX6_merge 192 = .ok (.iconst 0, 1) := dk_3 (dk_at dksX6_merge_8 9 rfl rfl)
theorem dX6_merge_193 : decode cX6_merge 193 = .ok (.istore 4, 2) := dk_54 4 (dk_at dksX6_merge_8 10 rfl rfl)
theorem dX6_merge_195 : decode cX6_merge 195 = .ok (.iinc 5 1, 3) := dk_132 5 1 (dk_at dksX6_merge_8 12 rfl rfl)
theorem dX6_merge_198 : decode cX6_merge 198 = .ok (.goto (-111), 3) := dk_167 255 145 (dk_at dksX6_merge_8 15 rfl rfl)
theorem dX6_merge_201 : decode cX6_merge 201 = .ok (.aload_n 0, 1) := dk_42 (dk_at dksX6_merge_8 18 rfl rfl)
theorem dX6_merge_202 : decode cX6_merge 202 = .ok (.iload_n 3, 1) := dk_29 (dk_at dksX6_merge_8 19 rfl rfl)
theorem dX6_merge_203 : decode cX6_merge 203 = .ok (.ifCond .ne 7, 3) := dk_154 0 7 (dk_at dksX6_merge_8 20 rfl rfl)
theorem dX6_merge_206 : decode cX6_merge 206 = .ok (.iconst 1, 1) := dk_4 (dk_at dksX6_merge_8 23 rfl rfl)
theorem dX6_merge_207 : decode cX6_merge 207 = .ok (.goto 13, 3) := dk_167 0 13 (dk_at dksX6_merge_9 0 rfl rfl)
theorem dX6_merge_210 : decode cX6_merge 210 = .ok (.iload 4, 2) := dk_21 4 (dk_at dksX6_merge_9 3 rfl rfl)
theorem dX6_merge_212 : decode cX6_merge 212 = .ok (.ifCond .eq 7, 3) := dk_153 0 7 (dk_at dksX6_merge_9 5 rfl rfl)
theorem dX6_merge_215 : decode cX6_merge 215 = .ok (.iconst 0, 1) := dk_3 (dk_at dksX6_merge_9 8 rfl rfl)
theorem dX6_merge_216 : decode cX6_merge 216 = .ok (.goto 4, 3) := dk_167 0 4 (dk_at dksX6_merge_9 9 rfl rfl)
theorem dX6_merge_219 : decode cX6_merge 219 = .ok (.iconst 2, 1) := dk_5 (dk_at dksX6_merge_9 12 rfl rfl)
theorem dX6_merge_220 : decode cX6_merge 220 = .ok (.invokevirtual 183, 3) := dk_182 0 183 (dk_at dksX6_merge_9 13 rfl rfl)
theorem dX6_merge_223 : decode cX6_merge 223 = .ok (.ifCond .eq 5, 3) := dk_153 0 5 (dk_at dksX6_merge_9 16 rfl rfl)
theorem dX6_merge_226 : decode cX6_merge 226 = .ok (.iconst 0, 1) := dk_3 (dk_at dksX6_merge_9 19 rfl rfl)
theorem dX6_merge_227 : decode cX6_merge 227 = .ok (.ireturn, 1) := dk_172 (dk_at dksX6_merge_9 20 rfl rfl)
theorem dX6_merge_228 : decode cX6_merge 228 = .ok (.aload_n 0, 1) := dk_42 (dk_at dksX6_merge_9 21 rfl rfl)
theorem dX6_merge_229 : decode cX6_merge 229 = .ok (.getfield 68, 3) := dk_180 0 68 (dk_at dksX6_merge_10 0 rfl rfl)
theorem dX6_merge_232 : decode cX6_merge 232 = .ok (.iconst 3, 1) := dk_6 (dk_at dksX6_merge_10 3 rfl rfl)
theorem dX6_merge_233 : decode cX6_merge 233 = .ok (.iload_n 1, 1) := dk_27 (dk_at dksX6_merge_10 4 rfl rfl)
theorem dX6_merge_234 : decode cX6_merge 234 = .ok (.imul, 1) := dk_104 (dk_at dksX6_merge_10 5 rfl rfl)
theorem dX6_merge_235 : decode cX6_merge 235 = .ok (.iload_n 2, 1) := dk_28 (dk_at dksX6_merge_10 6 rfl rfl)
theorem dX6_merge_236 : decode cX6_merge 236 = .ok (.iadd, 1) := dk_96 (dk_at dksX6_merge_10 7 rfl rfl)
theorem dX6_merge_237 : decode cX6_merge 237 = .ok (.aload_n 0, 1) := dk_42 (dk_at dksX6_merge_10 8 rfl rfl)
theorem dX6_merge_238 : decode cX6_merge 238 = .ok (.aload_n 0, 1) := dk_42 (dk_at dksX6_merge_10 9 rfl rfl)
theorem dX6_merge_239 : decode cX6_merge 239 = .ok (.getfield 68, 3) := dk_180 0 68 (dk_at dksX6_merge_10 10 rfl rfl)
theorem dX6_merge_242 : decode cX6_merge 242 = .ok (.iconst 3, 1) := dk_6 (dk_at dksX6_merge_10 13 rfl rfl)
theorem dX6_merge_243 : decode cX6_merge 243 = .ok (.iload_n 1, 1) := dk_27 (dk_at dksX6_merge_10 14 rfl rfl)
theorem dX6_merge_244 : decode cX6_merge 244 = .ok (.imul, 1) := dk_104 (dk_at dksX6_merge_10 15 rfl rfl)
theorem dX6_merge_245 : decode cX6_merge 245 = .ok (.iload_n 2, 1) := dk_28 (dk_at dksX6_merge_10 16 rfl rfl)
theorem dX6_merge_246 : decode cX6_merge 246 = .ok (.iadd, 1) := dk_96 (dk_at dksX6_merge_10 17 rfl rfl)
theorem dX6_merge_247 : decode cX6_merge 247 = .ok (.iaload, 1) := dk_46 (dk_at dksX6_merge_10 18 rfl rfl)
theorem dX6_merge_248 : decode cX6_merge 248 = .ok (.aload_n 0, 1) := dk_42 (dk_at dksX6_merge_10 19 rfl rfl)
theorem dX6_merge_249 : decode cX6_merge 249 = .ok (.getfield 68, 3) := dk_180 0 68 (dk_at dksX6_merge_10 20 rfl rfl)
theorem dX6_merge_252 : decode cX6_merge 252 = .ok (.iconst 3, 1) := dk_6 (dk_at dksX6_merge_10 23 rfl rfl)
theorem dX6_merge_253 : decode cX6_merge 253 = .ok (.iload_n 1, 1) := dk_27 (dk_at dksX6_merge_11 0 rfl rfl)
theorem dX6_merge_254 : decode cX6_merge 254 = .ok (.imul, 1) := dk_104 (dk_at dksX6_merge_11 1 rfl rfl)
theorem dX6_merge_255 : decode cX6_merge 255 = .ok (.iconst 3, 1) := dk_6 (dk_at dksX6_merge_11 2 rfl rfl)
theorem dX6_merge_256 : decode cX6_merge 256 = .ok (.iadd, 1) := dk_96 (dk_at dksX6_merge_11 3 rfl rfl)
theorem dX6_merge_257 : decode cX6_merge 257 = .ok (.iload_n 2, 1) := dk_28 (dk_at dksX6_merge_11 4 rfl rfl)
theorem dX6_merge_258 : decode cX6_merge 258 = .ok (.iadd, 1) := dk_96 (dk_at dksX6_merge_11 5 rfl rfl)
theorem dX6_merge_259 : decode cX6_merge 259 = .ok (.iaload, 1) := dk_46 (dk_at dksX6_merge_11 6 rfl rfl)
theorem dX6_merge_260 : decode cX6_merge 260 = .ok (.invokevirtual 224, 3) := dk_182 0 224 (dk_at dksX6_merge_11 7 rfl rfl)
theorem dX6_merge_263 : decode cX6_merge 263 = .ok (.iastore, 1) := dk_79 (dk_at dksX6_merge_11 10 rfl rfl)
theorem dX6_merge_264 : decode cX6_merge 264 = .ok (.aload_n 0, 1) := dk_42 (dk_at dksX6_merge_11 11 rfl rfl)
theorem dX6_merge_265 : decode cX6_merge 265 = .ok (.getfield 83, 3) := dk_180 0 83 (dk_at dksX6_merge_11 12 rfl rfl)
theorem dX6_merge_268 : decode cX6_merge 268 = .ok (.iload_n 1, 1) := dk_27 (dk_at dksX6_merge_11 15 rfl rfl)
theorem dX6_merge_269 : decode cX6_merge 269 = .ok (.iconst 0, 1) := dk_3 (dk_at dksX6_merge_11 16 rfl rfl)
theorem dX6_merge_270 : decode cX6_merge 270 = .ok (.iastore, 1) := dk_79 (dk_at dksX6_merge_11 17 rfl rfl)
theorem dX6_merge_271 : decode cX6_merge 271 = .ok (.iload_n 1, 1) := dk_27 (dk_at dksX6_merge_11 18 rfl rfl)
theorem dX6_merge_272 : decode cX6_merge 272 = .ok (.iconst 1, 1) := dk_4 (dk_at dksX6_merge_11 19 rfl rfl)
theorem dX6_merge_273 : decode cX6_merge 273 = .ok (.iadd, 1) := dk_96 (dk_at dksX6_merge_11 20 rfl rfl)
theorem dX6_merge_274 : decode cX6_merge 274 = .ok (.istore 5, 2) := dk_54 5 (dk_at dksX6_merge_11 21 rfl rfl)
theorem dX6_merge_276 : decode cX6_merge 276 = .ok (.iload 5, 2) := dk_21 5 (dk_at dksX6_merge_12 0 rfl rfl)
theorem dX6_merge_278 : decode cX6_merge 278 = .ok (.aload_n 0, 1) := dk_42 (dk_at dksX6_merge_12 2 rfl rfl)
theorem dX6_merge_279 : decode cX6_merge 279 = .ok (.getfield 228, 3) := dk_180 0 228 (dk_at dksX6_merge_12 3 rfl rfl)
theorem dX6_merge_282 : decode cX6_merge 282 = .ok (.iconst 1, 1) := dk_4 (dk_at dksX6_merge_12 6 rfl rfl)
theorem dX6_merge_283 : decode cX6_merge 283 = .ok (.isub, 1) := dk_100 (dk_at dksX6_merge_12 7 rfl rfl)
theorem dX6_merge_284 : decode cX6_merge 284 = .ok (.if_icmp .ge 19, 3) := dk_162 0 19 (dk_at dksX6_merge_12 8 rfl rfl)
theorem dX6_merge_287 : decode cX6_merge 287 = .ok (.aload_n 0, 1) := dk_42 (dk_at dksX6_merge_12 11 rfl rfl)
theorem dX6_merge_288 : decode cX6_merge 288 = .ok (.iload 5, 2) := dk_21 5 (dk_at dksX6_merge_12 12 rfl rfl)
theorem dX6_merge_290 : decode cX6_merge 290 = .ok (.iconst 1, 1) := dk_4 (dk_at dksX6_merge_12 14 rfl rfl)
theorem dX6_merge_291 : decode cX6_merge 291 = .ok (.iadd, 1) := dk_96 (dk_at dksX6_merge_12 15 rfl rfl)
theorem dX6_merge_292 : decode cX6_merge 292 = .ok (.iload 5, 2) := dk_21 5 (dk_at dksX6_merge_12 16 rfl rfl)
theorem dX6_merge_294 : decode cX6_merge 294 = .ok (.invokevirtual 240, 3) := dk_182 0 240 (dk_at dksX6_merge_12 18 rfl rfl)
theorem dX6_merge_297 : decode cX6_merge 297 = .ok (.iinc 5 1, 3) := dk_132 5 1 (dk_at dksX6_merge_12 21 rfl rfl)
theorem dX6_merge_300 : decode cX6_merge 300 = .ok (.goto (-24), 3) := dk_167 255 232 (dk_at dksX6_merge_13 0 rfl rfl)
theorem dX6_merge_303 : decode cX6_merge 303 = .ok (.aload_n 0, 1) := dk_42 (dk_at dksX6_merge_13 3 rfl rfl)
theorem dX6_merge_304 : decode cX6_merge 304 = .ok (.dup, 1) := dk_89 (dk_at dksX6_merge_13 4 rfl rfl)
theorem dX6_merge_305 : decode cX6_merge 305 = .ok (.getfield 228, 3) := dk_180 0 228 (dk_at dksX6_merge_13 5 rfl rfl)
theorem dX6_merge_308 : decode cX6_merge 308 = .ok (.iconst 1, 1) := dk_4 (dk_at dksX6_merge_13 8 rfl rfl)
theorem dX6_merge_309 : decode cX6_merge 309 = .ok (.isub, 1) := dk_100 (dk_at dksX6_merge_13 9 rfl rfl)
theorem dX6_merge_310 : decode cX6_merge 310 = .ok (.putfield 228, 3) := dk_181 0 228 (dk_at dksX6_merge_13 10 rfl rfl)
theorem dX6_merge_313 : decode cX6_merge 313 = .ok (.aload_n 0, 1) := dk_42 (dk_at dksX6_merge_13 13 rfl rfl)
theorem dX6_merge_314 : decode cX6_merge 314 = .ok (.iconst (-1), 1) := dk_2 (dk_at dksX6_merge_13 14 rfl rfl)
theorem dX6_merge_315 : decode cX6_merge 315 = .ok (.putfield 161, 3) := dk_181 0 161 (dk_at dksX6_merge_13 15 rfl rfl)
theorem dX6_merge_318 : decode cX6_merge 318 = .ok (.aload_n 0, 1) := dk_42 (dk_at dksX6_merge_13 18 rfl rfl)
theorem dX6_merge_319 : decode cX6_merge 319 = .ok (.getfield 228, 3) := dk_180 0 228 (dk_at dksX6_merge_13 19 rfl rfl)
theorem dX6_merge_322 : decode cX6_merge 322 = .ok (.ireturn, 1) := dk_172 (dk_at dksX6_merge_13 22 rfl rfl)
abbrev cX6_run : ByteArray := prog_23_method_66_code
def yX6_run : MethodName := ⟨RX6, "run", "(IIII)I"⟩
def dkwX6_run_12 : List UInt8 := [182, 1, 111, 167, 0, 7, 42, 182, 1, 114, 172]
abbrev dktX6_run_12 : List UInt8 := dkwX6_run_12 ++ []
def dkwX6_run_11 : List UInt8 := [79, 132, 8, 1, 167, 255, 228, 42, 3, 181, 0, 234, 42, 3, 181, 0, 237, 27, 5, 161, 0, 10, 42]
abbrev dktX6_run_11 : List UInt8 := dkwX6_run_11 ++ dktX6_run_12
def dkwX6_run_10 : List UInt8 := [21, 8, 42, 180, 0, 231, 162, 0, 25, 42, 180, 0, 113, 21, 8, 28, 29, 21, 4, 21, 8, 184, 0, 175]
abbrev dktX6_run_10 : List UInt8 := dkwX6_run_10 ++ dktX6_run_11
def dkwX6_run_9 : List UInt8 := [167, 0, 13, 21, 7, 153, 0, 7, 3, 167, 0, 4, 6, 182, 0, 183, 153, 0, 5, 3, 172, 3, 54, 8]
abbrev dktX6_run_9 : List UInt8 := dkwX6_run_9 ++ dktX6_run_10
def dkwX6_run_8 : List UInt8 := [167, 0, 4, 3, 54, 7, 42, 21, 5, 154, 0, 7, 4, 167, 0, 22, 21, 6, 154, 0, 7, 5]
abbrev dktX6_run_8 : List UInt8 := dkwX6_run_8 ++ dktX6_run_9
def dkwX6_run_7 : List UInt8 := [21, 5, 153, 0, 20, 21, 6, 153, 0, 15, 27, 5, 161, 0, 10, 42, 180, 1, 92, 154, 0, 7, 4]
abbrev dktX6_run_7 : List UInt8 := dkwX6_run_7 ++ dktX6_run_8
def dkwX6_run_6 : List UInt8 := [180, 0, 231, 158, 0, 13, 27, 5, 161, 0, 8, 42, 27, 182, 1, 108, 42, 180, 0, 231, 158, 0, 29]
abbrev dktX6_run_6 : List UInt8 := dkwX6_run_6 ++ dktX6_run_7
def dkwX6_run_5 : List UInt8 := [167, 0, 4, 3, 54, 6, 132, 7, 1, 167, 255, 144, 21, 5, 153, 0, 25, 21, 6, 153, 0, 20, 42]
abbrev dktX6_run_5 : List UInt8 := dkwX6_run_5 ++ dktX6_run_6
def dkwX6_run_4 : List UInt8 := [21, 8, 46, 42, 180, 0, 65, 21, 7, 46, 160, 0, 16, 167, 0, 9, 21, 8, 2, 160, 0, 7, 4]
abbrev dktX6_run_4 : List UInt8 := dkwX6_run_4 ++ dktX6_run_5
def dkwX6_run_3 : List UInt8 := [21, 6, 153, 0, 47, 21, 7, 42, 180, 0, 231, 162, 0, 28, 21, 9, 153, 0, 33, 42, 180, 0, 19]
abbrev dktX6_run_3 : List UInt8 := dkwX6_run_3 ++ dktX6_run_4
def dkwX6_run_2 : List UInt8 := [153, 0, 21, 21, 7, 42, 180, 0, 231, 162, 0, 8, 21, 9, 153, 0, 7, 4, 167, 0, 4, 3, 54, 5]
abbrev dktX6_run_2 : List UInt8 := dkwX6_run_2 ++ dktX6_run_3
def dkwX6_run_1 : List UInt8 := [21, 7, 184, 0, 175, 54, 8, 21, 8, 3, 42, 180, 0, 186, 4, 100, 184, 0, 171, 54, 9, 21, 5]
abbrev dktX6_run_1 : List UInt8 := dkwX6_run_1 ++ dktX6_run_2
def dkwX6_run_0 : List UInt8 := [27, 3, 6, 184, 0, 171, 54, 5, 4, 54, 6, 3, 54, 7, 21, 7, 6, 162, 0, 112, 28, 29, 21, 4]
abbrev dktX6_run_0 : List UInt8 := dkwX6_run_0 ++ dktX6_run_1
theorem dksX6_run_0 : cX6_run.data.toList.drop 0 = dktX6_run_0 := by decide +kernel
theorem dksX6_run_1 : cX6_run.data.toList.drop 24 = dktX6_run_1 := dk_seg dksX6_run_0 24 rfl rfl
theorem dksX6_run_2 : cX6_run.data.toList.drop 47 = dktX6_run_2 := dk_seg dksX6_run_1 23 rfl rfl
theorem dksX6_run_3 : cX6_run.data.toList.drop 71 = dktX6_run_3 := dk_seg dksX6_run_2 24 rfl rfl
theorem dksX6_run_4 : cX6_run.data.toList.drop 94 = dktX6_run_4 := dk_seg dksX6_run_3 23 rfl rfl
theorem dksX6_run_5 : cX6_run.data.toList.drop 117 = dktX6_run_5 := dk_seg dksX6_run_4 23 rfl rfl
theorem dksX6_run_6 : cX6_run.data.toList.drop 140 = dktX6_run_6 := dk_seg dksX6_run_5 23 rfl rfl
theorem dksX6_run_7 : cX6_run.data.toList.drop 163 = dktX6_run_7 := dk_seg dksX6_run_6 23 rfl rfl
theorem dksX6_run_8 : cX6_run.data.toList.drop 186 = dktX6_run_8 := dk_seg dksX6_run_7 23 rfl rfl
theorem dksX6_run_9 : cX6_run.data.toList.drop 208 = dktX6_run_9 := dk_seg dksX6_run_8 22 rfl rfl
theorem dksX6_run_10 : cX6_run.data.toList.drop 232 = dktX6_run_10 := dk_seg dksX6_run_9 24 rfl rfl
theorem dksX6_run_11 : cX6_run.data.toList.drop 256 = dktX6_run_11 := dk_seg dksX6_run_10 24 rfl rfl
theorem dksX6_run_12 : cX6_run.data.toList.drop 279 = dktX6_run_12 := dk_seg dksX6_run_11 23 rfl rfl
theorem dX6_run_0 : decode cX6_run 0 = .ok (.iload_n 1, 1) := dk_27 (dk_at dksX6_run_0 0 rfl rfl)
theorem dX6_run_1 : decode cX6_run 1 = .ok (.iconst 0, 1) := dk_3 (dk_at dksX6_run_0 1 rfl rfl)
theorem dX6_run_2 : decode cX6_run 2 = .ok (.iconst 3, 1) := dk_6 (dk_at dksX6_run_0 2 rfl rfl)
theorem dX6_run_3 : decode cX6_run 3 = .ok (.invokestatic 171, 3) := dk_184 0 171 (dk_at dksX6_run_0 3 rfl rfl)
theorem dX6_run_6 : decode cX6_run 6 = .ok (.istore 5, 2) := dk_54 5 (dk_at dksX6_run_0 6 rfl rfl)
theorem dX6_run_8 : decode cX6_run 8 = .ok (.iconst 1, 1) := dk_4 (dk_at dksX6_run_0 8 rfl rfl)
theorem dX6_run_9 : decode cX6_run 9 = .ok (.istore 6, 2) := dk_54 6 (dk_at dksX6_run_0 9 rfl rfl)
theorem dX6_run_11 : decode cX6_run 11 = .ok (.iconst 0, 1) := dk_3 (dk_at dksX6_run_0 11 rfl rfl)
theorem dX6_run_12 : decode cX6_run 12 = .ok (.istore 7, 2) := dk_54 7 (dk_at dksX6_run_0 12 rfl rfl)
theorem dX6_run_14 : decode cX6_run 14 = .ok (.iload 7, 2) := dk_21 7 (dk_at dksX6_run_0 14 rfl rfl)
theorem dX6_run_16 : decode cX6_run 16 = .ok (.iconst 3, 1) := dk_6 (dk_at dksX6_run_0 16 rfl rfl)
theorem dX6_run_17 : decode cX6_run 17 = .ok (.if_icmp .ge 112, 3) := dk_162 0 112 (dk_at dksX6_run_0 17 rfl rfl)
theorem dX6_run_20 : decode cX6_run 20 = .ok (.iload_n 2, 1) := dk_28 (dk_at dksX6_run_0 20 rfl rfl)
theorem dX6_run_21 : decode cX6_run 21 = .ok (.iload_n 3, 1) := dk_29 (dk_at dksX6_run_0 21 rfl rfl)
theorem dX6_run_22 : decode cX6_run 22 = .ok (.iload 4, 2) := dk_21 4 (dk_at dksX6_run_0 22 rfl rfl)
theorem dX6_run_24 : decode cX6_run 24 = .ok (.iload 7, 2) := dk_21 7 (dk_at dksX6_run_1 0 rfl rfl)
theorem dX6_run_26 : decode cX6_run 26 = .ok (.invokestatic 175, 3) := dk_184 0 175 (dk_at dksX6_run_1 2 rfl rfl)
theorem dX6_run_29 : decode cX6_run 29 = .ok (.istore 8, 2) := dk_54 8 (dk_at dksX6_run_1 5 rfl rfl)
theorem dX6_run_31 : decode cX6_run 31 = .ok (.iload 8, 2) := dk_21 8 (dk_at dksX6_run_1 7 rfl rfl)
theorem dX6_run_33 : decode cX6_run 33 = .ok (.iconst 0, 1) := dk_3 (dk_at dksX6_run_1 9 rfl rfl)
theorem dX6_run_34 : decode cX6_run 34 = .ok (.aload_n 0, 1) := dk_42 (dk_at dksX6_run_1 10 rfl rfl)
theorem dX6_run_35 : decode cX6_run 35 = .ok (.getfield 186, 3) := dk_180 0 186 (dk_at dksX6_run_1 11 rfl rfl)
theorem dX6_run_38 : decode cX6_run 38 = .ok (.iconst 1, 1) := dk_4 (dk_at dksX6_run_1 14 rfl rfl)
theorem dX6_run_39 : decode cX6_run 39 = .ok (.isub, 1) := dk_100 (dk_at dksX6_run_1 15 rfl rfl)
theorem dX6_run_40 : decode cX6_run 40 = .ok (.invokestatic 171, 3) := dk_184 0 171 (dk_at dksX6_run_1 16 rfl rfl)
theorem dX6_run_43 : decode cX6_run 43 = .ok (.istore 9, 2) := dk_54 9 (dk_at dksX6_run_1 19 rfl rfl)
theorem dX6_run_45 : decode cX6_run 45 = .ok (.iload 5, 2) := dk_21 5 (dk_at dksX6_run_1 21 rfl rfl)
theorem dX6_run_47 : decode cX6_run 47 = .ok (.ifCond .eq 21, 3) := dk_153 0 21 (dk_at dksX6_run_2 0 rfl rfl)
theorem dX6_run_50 : decode cX6_run 50 = .ok (.iload 7, 2) := dk_21 7 (dk_at dksX6_run_2 3 rfl rfl)
theorem dX6_run_52 : decode cX6_run 52 = .ok (.aload_n 0, 1) := dk_42 (dk_at dksX6_run_2 5 rfl rfl)
theorem dX6_run_53 : decode cX6_run 53 = .ok (.getfield 231, 3) := dk_180 0 231 (dk_at dksX6_run_2 6 rfl rfl)
theorem dX6_run_56 : decode cX6_run 56 = .ok (.if_icmp .ge 8, 3) := dk_162 0 8 (dk_at dksX6_run_2 9 rfl rfl)
theorem dX6_run_59 : decode cX6_run 59 = .ok (.iload 9, 2) := dk_21 9 (dk_at dksX6_run_2 12 rfl rfl)
theorem dX6_run_61 : decode cX6_run 61 = .ok (.ifCond .eq 7, 3) := dk_153 0 7 (dk_at dksX6_run_2 14 rfl rfl)
theorem dX6_run_64 : decode cX6_run 64 = .ok (.iconst 1, 1) := dk_4 (dk_at dksX6_run_2 17 rfl rfl)
theorem dX6_run_65 : decode cX6_run 65 = .ok (.goto 4, 3) := dk_167 0 4 (dk_at dksX6_run_2 18 rfl rfl)
theorem dX6_run_68 : decode cX6_run 68 = .ok (.iconst 0, 1) := dk_3 (dk_at dksX6_run_2 21 rfl rfl)
theorem dX6_run_69 : decode cX6_run 69 = .ok (.istore 5, 2) := dk_54 5 (dk_at dksX6_run_2 22 rfl rfl)
theorem dX6_run_71 : decode cX6_run 71 = .ok (.iload 6, 2) := dk_21 6 (dk_at dksX6_run_3 0 rfl rfl)
theorem dX6_run_73 : decode cX6_run 73 = .ok (.ifCond .eq 47, 3) := dk_153 0 47 (dk_at dksX6_run_3 2 rfl rfl)
theorem dX6_run_76 : decode cX6_run 76 = .ok (.iload 7, 2) := dk_21 7 (dk_at dksX6_run_3 5 rfl rfl)
theorem dX6_run_78 : decode cX6_run 78 = .ok (.aload_n 0, 1) := dk_42 (dk_at dksX6_run_3 7 rfl rfl)
theorem dX6_run_79 : decode cX6_run 79 = .ok (.getfield 231, 3) := dk_180 0 231 (dk_at dksX6_run_3 8 rfl rfl)
theorem dX6_run_82 : decode cX6_run 82 = .ok (.if_icmp .ge 28, 3) := dk_162 0 28 (dk_at dksX6_run_3 11 rfl rfl)
theorem dX6_run_85 : decode cX6_run 85 = .ok (.iload 9, 2) := dk_21 9 (dk_at dksX6_run_3 14 rfl rfl)
theorem dX6_run_87 : decode cX6_run 87 = .ok (.ifCond .eq 33, 3) := dk_153 0 33 (dk_at dksX6_run_3 16 rfl rfl)
theorem dX6_run_90 : decode cX6_run 90 = .ok (.aload_n 0, 1) := dk_42 (dk_at dksX6_run_3 19 rfl rfl)
theorem dX6_run_91 : decode cX6_run 91 = .ok (.getfield 19, 3) := dk_180 0 19 (dk_at dksX6_run_3 20 rfl rfl)
theorem dX6_run_94 : decode cX6_run 94 = .ok (.iload 8, 2) := dk_21 8 (dk_at dksX6_run_4 0 rfl rfl)
theorem dX6_run_96 : decode cX6_run 96 = .ok (.iaload, 1) := dk_46 (dk_at dksX6_run_4 2 rfl rfl)
theorem dX6_run_97 : decode cX6_run 97 = .ok (.aload_n 0, 1) := dk_42 (dk_at dksX6_run_4 3 rfl rfl)
theorem dX6_run_98 : decode cX6_run 98 = .ok (.getfield 65, 3) := dk_180 0 65 (dk_at dksX6_run_4 4 rfl rfl)
theorem dX6_run_101 : decode cX6_run 101 = .ok (.iload 7, 2) := dk_21 7 (dk_at dksX6_run_4 7 rfl rfl)
theorem dX6_run_103 : decode cX6_run 103 = .ok (.iaload, 1) := dk_46 (dk_at dksX6_run_4 9 rfl rfl)
theorem dX6_run_104 : decode cX6_run 104 = .ok (.if_icmp .ne 16, 3) := dk_160 0 16 (dk_at dksX6_run_4 10 rfl rfl)
theorem dX6_run_107 : decode cX6_run 107 = .ok (.goto 9, 3) := dk_167 0 9 (dk_at dksX6_run_4 13 rfl rfl)
theorem dX6_run_110 : decode cX6_run 110 = .ok (.iload 8, 2) := dk_21 8 (dk_at dksX6_run_4 16 rfl rfl)
theorem dX6_run_112 : decode cX6_run 112 = .ok (.iconst (-1), 1) := dk_2 (dk_at dksX6_run_4 18 rfl rfl)
theorem dX6_run_113 : decode cX6_run 113 = .ok (.if_icmp .ne 7, 3) := dk_160 0 7 (dk_at dksX6_run_4 19 rfl rfl)
theorem dX6_run_116 : decode cX6_run 116 = .ok (.iconst 1, 1) := dk_4 (dk_at dksX6_run_4 22 rfl rfl)
theorem dX6_run_117 : decode cX6_run 117 = .ok (.goto 4, 3) := dk_167 0 4 (dk_at dksX6_run_5 0 rfl rfl)
theorem dX6_run_120 : decode cX6_run 120 = .ok (.iconst 0, 1) := dk_3 (dk_at dksX6_run_5 3 rfl rfl)
theorem dX6_run_121 : decode cX6_run 121 = .ok (.istore 6, 2) := dk_54 6 (dk_at dksX6_run_5 4 rfl rfl)
theorem dX6_run_123 : decode cX6_run 123 = .ok (.iinc 7 1, 3) := dk_132 7 1 (dk_at dksX6_run_5 6 rfl rfl)
theorem dX6_run_126 : decode cX6_run 126 = .ok (.goto (-112), 3) := dk_167 255 144 (dk_at dksX6_run_5 9 rfl rfl)
theorem dX6_run_129 : decode cX6_run 129 = .ok (.iload 5, 2) := dk_21 5 (dk_at dksX6_run_5 12 rfl rfl)
theorem dX6_run_131 : decode cX6_run 131 = .ok (.ifCond .eq 25, 3) := dk_153 0 25 (dk_at dksX6_run_5 14 rfl rfl)
theorem dX6_run_134 : decode cX6_run 134 = .ok (.iload 6, 2) := dk_21 6 (dk_at dksX6_run_5 17 rfl rfl)
theorem dX6_run_136 : decode cX6_run 136 = .ok (.ifCond .eq 20, 3) := dk_153 0 20 (dk_at dksX6_run_5 19 rfl rfl)
theorem dX6_run_139 : decode cX6_run 139 = .ok (.aload_n 0, 1) := dk_42 (dk_at dksX6_run_5 22 rfl rfl)
theorem dX6_run_140 : decode cX6_run 140 = .ok (.getfield 231, 3) := dk_180 0 231 (dk_at dksX6_run_6 0 rfl rfl)
theorem dX6_run_143 : decode cX6_run 143 = .ok (.ifCond .le 13, 3) := dk_158 0 13 (dk_at dksX6_run_6 3 rfl rfl)
theorem dX6_run_146 : decode cX6_run 146 = .ok (.iload_n 1, 1) := dk_27 (dk_at dksX6_run_6 6 rfl rfl)
theorem dX6_run_147 : decode cX6_run 147 = .ok (.iconst 2, 1) := dk_5 (dk_at dksX6_run_6 7 rfl rfl)
theorem dX6_run_148 : decode cX6_run 148 = .ok (.if_icmp .lt 8, 3) := dk_161 0 8 (dk_at dksX6_run_6 8 rfl rfl)
theorem dX6_run_151 : decode cX6_run 151 = .ok (.aload_n 0, 1) := dk_42 (dk_at dksX6_run_6 11 rfl rfl)
theorem dX6_run_152 : decode cX6_run 152 = .ok (.iload_n 1, 1) := dk_27 (dk_at dksX6_run_6 12 rfl rfl)
theorem dX6_run_153 : decode cX6_run 153 = .ok (.invokevirtual 364, 3) := dk_182 1 108 (dk_at dksX6_run_6 13 rfl rfl)
theorem dX6_run_156 : decode cX6_run 156 = .ok (.aload_n 0, 1) := dk_42 (dk_at dksX6_run_6 16 rfl rfl)
theorem dX6_run_157 : decode cX6_run 157 = .ok (.getfield 231, 3) := dk_180 0 231 (dk_at dksX6_run_6 17 rfl rfl)
theorem dX6_run_160 : decode cX6_run 160 = .ok (.ifCond .le 29, 3) := dk_158 0 29 (dk_at dksX6_run_6 20 rfl rfl)
theorem dX6_run_163 : decode cX6_run 163 = .ok (.iload 5, 2) := dk_21 5 (dk_at dksX6_run_7 0 rfl rfl)
theorem dX6_run_165 : decode cX6_run 165 = .ok (.ifCond .eq 20, 3) := dk_153 0 20 (dk_at dksX6_run_7 2 rfl rfl)
theorem dX6_run_168 : decode cX6_run 168 = .ok (.iload 6, 2) := dk_21 6 (dk_at dksX6_run_7 5 rfl rfl)
theorem dX6_run_170 : decode cX6_run 170 = .ok (.ifCond .eq 15, 3) := dk_153 0 15 (dk_at dksX6_run_7 7 rfl rfl)
theorem dX6_run_173 : decode cX6_run 173 = .ok (.iload_n 1, 1) := dk_27 (dk_at dksX6_run_7 10 rfl rfl)
theorem dX6_run_174 : decode cX6_run 174 = .ok (.iconst 2, 1) := dk_5 (dk_at dksX6_run_7 11 rfl rfl)
theorem dX6_run_175 : decode cX6_run 175 = .ok (.if_icmp .lt 10, 3) := dk_161 0 10 (dk_at dksX6_run_7 12 rfl rfl)
theorem dX6_run_178 : decode cX6_run 178 = .ok (.aload_n 0, 1) := dk_42 (dk_at dksX6_run_7 15 rfl rfl)
theorem dX6_run_179 : decode cX6_run 179 = .ok (.getfield 348, 3) := dk_180 1 92 (dk_at dksX6_run_7 16 rfl rfl)
theorem dX6_run_182 : decode cX6_run 182 = .ok (.ifCond .ne 7, 3) := dk_154 0 7 (dk_at dksX6_run_7 19 rfl rfl)
theorem dX6_run_185 : decode cX6_run 185 = .ok (.iconst 1, 1) := dk_4 (dk_at dksX6_run_7 22 rfl rfl)
theorem dX6_run_186 : decode cX6_run 186 = .ok (.goto 4, 3) := dk_167 0 4 (dk_at dksX6_run_8 0 rfl rfl)
theorem dX6_run_189 : decode cX6_run 189 = .ok (.iconst 0, 1) := dk_3 (dk_at dksX6_run_8 3 rfl rfl)
theorem dX6_run_190 : decode cX6_run 190 = .ok (.istore 7, 2) := dk_54 7 (dk_at dksX6_run_8 4 rfl rfl)
theorem dX6_run_192 : decode cX6_run 192 = .ok (.aload_n 0, 1) := dk_42 (dk_at dksX6_run_8 6 rfl rfl)
theorem dX6_run_193 : decode cX6_run 193 = .ok (.iload 5, 2) := dk_21 5 (dk_at dksX6_run_8 7 rfl rfl)
theorem dX6_run_195 : decode cX6_run 195 = .ok (.ifCond .ne 7, 3) := dk_154 0 7 (dk_at dksX6_run_8 9 rfl rfl)
theorem dX6_run_198 : decode cX6_run 198 = .ok (.iconst 1, 1) := dk_4 (dk_at dksX6_run_8 12 rfl rfl)
theorem dX6_run_199 : decode cX6_run 199 = .ok (.goto 22, 3) := dk_167 0 22 (dk_at dksX6_run_8 13 rfl rfl)
theorem dX6_run_202 : decode cX6_run 202 = .ok (.iload 6, 2) := dk_21 6 (dk_at dksX6_run_8 16 rfl rfl)
theorem dX6_run_204 : decode cX6_run 204 = .ok (.ifCond .ne 7, 3) := dk_154 0 7 (dk_at dksX6_run_8 18 rfl rfl)
theorem dX6_run_207 : decode cX6_run 207 = .ok (.iconst 2, 1) := dk_5 (dk_at dksX6_run_8 21 rfl rfl)
theorem dX6_run_208 : decode cX6_run 208 = .ok (.goto 13, 3) := dk_167 0 13 (dk_at dksX6_run_9 0 rfl rfl)
theorem dX6_run_211 : decode cX6_run 211 = .ok (.iload 7, 2) := dk_21 7 (dk_at dksX6_run_9 3 rfl rfl)
theorem dX6_run_213 : decode cX6_run 213 = .ok (.ifCond .eq 7, 3) := dk_153 0 7 (dk_at dksX6_run_9 5 rfl rfl)
theorem dX6_run_216 : decode cX6_run 216 = .ok (.iconst 0, 1) := dk_3 (dk_at dksX6_run_9 8 rfl rfl)
theorem dX6_run_217 : decode cX6_run 217 = .ok (.goto 4, 3) := dk_167 0 4 (dk_at dksX6_run_9 9 rfl rfl)
theorem dX6_run_220 : decode cX6_run 220 = .ok (.iconst 3, 1) := dk_6 (dk_at dksX6_run_9 12 rfl rfl)
theorem dX6_run_221 : decode cX6_run 221 = .ok (.invokevirtual 183, 3) := dk_182 0 183 (dk_at dksX6_run_9 13 rfl rfl)
theorem dX6_run_224 : decode cX6_run 224 = .ok (.ifCond .eq 5, 3) := dk_153 0 5 (dk_at dksX6_run_9 16 rfl rfl)
theorem dX6_run_227 : decode cX6_run 227 = .ok (.iconst 0, 1) := dk_3 (dk_at dksX6_run_9 19 rfl rfl)
theorem dX6_run_228 : decode cX6_run 228 = .ok (.ireturn, 1) := dk_172 (dk_at dksX6_run_9 20 rfl rfl)
theorem dX6_run_229 : decode cX6_run 229 = .ok (.iconst 0, 1) := dk_3 (dk_at dksX6_run_9 21 rfl rfl)
theorem dX6_run_230 : decode cX6_run 230 = .ok (.istore 8, 2) := dk_54 8 (dk_at dksX6_run_9 22 rfl rfl)
theorem dX6_run_232 : decode cX6_run 232 = .ok (.iload 8, 2) := dk_21 8 (dk_at dksX6_run_10 0 rfl rfl)
theorem dX6_run_234 : decode cX6_run 234 = .ok (.aload_n 0, 1) := dk_42 (dk_at dksX6_run_10 2 rfl rfl)
theorem dX6_run_235 : decode cX6_run 235 = .ok (.getfield 231, 3) := dk_180 0 231 (dk_at dksX6_run_10 3 rfl rfl)
theorem dX6_run_238 : decode cX6_run 238 = .ok (.if_icmp .ge 25, 3) := dk_162 0 25 (dk_at dksX6_run_10 6 rfl rfl)
theorem dX6_run_241 : decode cX6_run 241 = .ok (.aload_n 0, 1) := dk_42 (dk_at dksX6_run_10 9 rfl rfl)
theorem dX6_run_242 : decode cX6_run 242 = .ok (.getfield 113, 3) := dk_180 0 113 (dk_at dksX6_run_10 10 rfl rfl)
theorem dX6_run_245 : decode cX6_run 245 = .ok (.iload 8, 2) := dk_21 8 (dk_at dksX6_run_10 13 rfl rfl)
theorem dX6_run_247 : decode cX6_run 247 = .ok (.iload_n 2, 1) := dk_28 (dk_at dksX6_run_10 15 rfl rfl)
theorem dX6_run_248 : decode cX6_run 248 = .ok (.iload_n 3, 1) := dk_29 (dk_at dksX6_run_10 16 rfl rfl)
theorem dX6_run_249 : decode cX6_run 249 = .ok (.iload 4, 2) := dk_21 4 (dk_at dksX6_run_10 17 rfl rfl)
theorem dX6_run_251 : decode cX6_run 251 = .ok (.iload 8, 2) := dk_21 8 (dk_at dksX6_run_10 19 rfl rfl)
theorem dX6_run_253 : decode cX6_run 253 = .ok (.invokestatic 175, 3) := dk_184 0 175 (dk_at dksX6_run_10 21 rfl rfl)
theorem dX6_run_256 : decode cX6_run 256 = .ok (.iastore, 1) := dk_79 (dk_at dksX6_run_11 0 rfl rfl)
theorem dX6_run_257 : decode cX6_run 257 = .ok (.iinc 8 1, 3) := dk_132 8 1 (dk_at dksX6_run_11 1 rfl rfl)
theorem dX6_run_260 : decode cX6_run 260 = .ok (.goto (-28), 3) := dk_167 255 228 (dk_at dksX6_run_11 4 rfl rfl)
theorem dX6_run_263 : decode cX6_run 263 = .ok (.aload_n 0, 1) := dk_42 (dk_at dksX6_run_11 7 rfl rfl)
theorem dX6_run_264 : decode cX6_run 264 = .ok (.iconst 0, 1) := dk_3 (dk_at dksX6_run_11 8 rfl rfl)
theorem dX6_run_265 : decode cX6_run 265 = .ok (.putfield 234, 3) := dk_181 0 234 (dk_at dksX6_run_11 9 rfl rfl)
theorem dX6_run_268 : decode cX6_run 268 = .ok (.aload_n 0, 1) := dk_42 (dk_at dksX6_run_11 12 rfl rfl)
theorem dX6_run_269 : decode cX6_run 269 = .ok (.iconst 0, 1) := dk_3 (dk_at dksX6_run_11 13 rfl rfl)
theorem dX6_run_270 : decode cX6_run 270 = .ok (.putfield 237, 3) := dk_181 0 237 (dk_at dksX6_run_11 14 rfl rfl)
theorem dX6_run_273 : decode cX6_run 273 = .ok (.iload_n 1, 1) := dk_27 (dk_at dksX6_run_11 17 rfl rfl)
theorem dX6_run_274 : decode cX6_run 274 = .ok (.iconst 2, 1) := dk_5 (dk_at dksX6_run_11 18 rfl rfl)
theorem dX6_run_275 : decode cX6_run 275 = .ok (.if_icmp .lt 10, 3) := dk_161 0 10 (dk_at dksX6_run_11 19 rfl rfl)
theorem dX6_run_278 : decode cX6_run 278 = .ok (.aload_n 0, 1) := dk_42 (dk_at dksX6_run_11 22 rfl rfl)
theorem dX6_run_279 : decode cX6_run 279 = .ok (.invokevirtual 367, 3) := dk_182 1 111 (dk_at dksX6_run_12 0 rfl rfl)
theorem dX6_run_282 : decode cX6_run 282 = .ok (.goto 7, 3) := dk_167 0 7 (dk_at dksX6_run_12 3 rfl rfl)
theorem dX6_run_285 : decode cX6_run 285 = .ok (.aload_n 0, 1) := dk_42 (dk_at dksX6_run_12 6 rfl rfl)
theorem dX6_run_286 : decode cX6_run 286 = .ok (.invokevirtual 370, 3) := dk_182 1 114 (dk_at dksX6_run_12 7 rfl rfl)
theorem dX6_run_289 : decode cX6_run 289 = .ok (.ireturn, 1) := dk_172 (dk_at dksX6_run_12 10 rfl rfl)
abbrev cX6_build : ByteArray := prog_23_method_60_code
def yX6_build : MethodName := ⟨RX6, "build", "(I)V"⟩
def dkwX6_build_3 : List UInt8 := [27, 182, 1, 95, 154, 0, 7, 4, 167, 0, 4, 3, 181, 1, 92, 132, 2, 1, 167, 255, 209, 177]
abbrev dktX6_build_3 : List UInt8 := dkwX6_build_3 ++ []
def dkwX6_build_2 : List UInt8 := [162, 0, 45, 42, 180, 1, 92, 154, 0, 38, 42, 42, 180, 0, 131, 28, 46, 16, 247, 160, 0, 16, 42, 28]
abbrev dktX6_build_2 : List UInt8 := dkwX6_build_2 ++ dktX6_build_3
def dkwX6_build_1 : List UInt8 := [42, 3, 181, 1, 65, 42, 2, 16, 247, 3, 3, 182, 1, 89, 87, 3, 61, 28, 42, 180, 1, 65]
abbrev dktX6_build_1 : List UInt8 := dkwX6_build_1 ++ dktX6_build_2
def dkwX6_build_0 : List UInt8 := [42, 180, 0, 161, 27, 160, 0, 4, 177, 42, 27, 181, 0, 161, 42, 3, 181, 1, 5, 42, 3, 181, 1, 92]
abbrev dktX6_build_0 : List UInt8 := dkwX6_build_0 ++ dktX6_build_1
theorem dksX6_build_0 : cX6_build.data.toList.drop 0 = dktX6_build_0 := by decide +kernel
theorem dksX6_build_1 : cX6_build.data.toList.drop 24 = dktX6_build_1 := dk_seg dksX6_build_0 24 rfl rfl
theorem dksX6_build_2 : cX6_build.data.toList.drop 46 = dktX6_build_2 := dk_seg dksX6_build_1 22 rfl rfl
theorem dksX6_build_3 : cX6_build.data.toList.drop 70 = dktX6_build_3 := dk_seg dksX6_build_2 24 rfl rfl
theorem dX6_build_0 : decode cX6_build 0 = .ok (.aload_n 0, 1) := dk_42 (dk_at dksX6_build_0 0 rfl rfl)
theorem dX6_build_1 : decode cX6_build 1 = .ok (.getfield 161, 3) := dk_180 0 161 (dk_at dksX6_build_0 1 rfl rfl)
theorem dX6_build_4 : decode cX6_build 4 = .ok (.iload_n 1, 1) := dk_27 (dk_at dksX6_build_0 4 rfl rfl)
theorem dX6_build_5 : decode cX6_build 5 = .ok (.if_icmp .ne 4, 3) := dk_160 0 4 (dk_at dksX6_build_0 5 rfl rfl)
theorem dX6_build_8 : decode cX6_build 8 = .ok (.return_, 1) := dk_177 (dk_at dksX6_build_0 8 rfl rfl)
theorem dX6_build_9 : decode cX6_build 9 = .ok (.aload_n 0, 1) := dk_42 (dk_at dksX6_build_0 9 rfl rfl)
theorem dX6_build_10 : decode cX6_build 10 = .ok (.iload_n 1, 1) := dk_27 (dk_at dksX6_build_0 10 rfl rfl)
theorem dX6_build_11 : decode cX6_build 11 = .ok (.putfield 161, 3) := dk_181 0 161 (dk_at dksX6_build_0 11 rfl rfl)
theorem dX6_build_14 : decode cX6_build 14 = .ok (.aload_n 0, 1) := dk_42 (dk_at dksX6_build_0 14 rfl rfl)
theorem dX6_build_15 : decode cX6_build 15 = .ok (.iconst 0, 1) := dk_3 (dk_at dksX6_build_0 15 rfl rfl)
theorem dX6_build_16 : decode cX6_build 16 = .ok (.putfield 261, 3) := dk_181 1 5 (dk_at dksX6_build_0 16 rfl rfl)
theorem dX6_build_19 : decode cX6_build 19 = .ok (.aload_n 0, 1) := dk_42 (dk_at dksX6_build_0 19 rfl rfl)
theorem dX6_build_20 : decode cX6_build 20 = .ok (.iconst 0, 1) := dk_3 (dk_at dksX6_build_0 20 rfl rfl)
theorem dX6_build_21 : decode cX6_build 21 = .ok (.putfield 348, 3) := dk_181 1 92 (dk_at dksX6_build_0 21 rfl rfl)
theorem dX6_build_24 : decode cX6_build 24 = .ok (.aload_n 0, 1) := dk_42 (dk_at dksX6_build_1 0 rfl rfl)
theorem dX6_build_25 : decode cX6_build 25 = .ok (.iconst 0, 1) := dk_3 (dk_at dksX6_build_1 1 rfl rfl)
theorem dX6_build_26 : decode cX6_build 26 = .ok (.putfield 321, 3) := dk_181 1 65 (dk_at dksX6_build_1 2 rfl rfl)
theorem dX6_build_29 : decode cX6_build 29 = .ok (.aload_n 0, 1) := dk_42 (dk_at dksX6_build_1 5 rfl rfl)
theorem dX6_build_30 : decode cX6_build 30 = .ok (.iconst (-1), 1) := dk_2 (dk_at dksX6_build_1 6 rfl rfl)
theorem dX6_build_31 : decode cX6_build 31 = .ok (.bipush (-9), 2) := dk_16 247 (dk_at dksX6_build_1 7 rfl rfl)
theorem dX6_build_33 : decode cX6_build 33 = .ok (.iconst 0, 1) := dk_3 (dk_at dksX6_build_1 9 rfl rfl)
theorem dX6_build_34 : decode cX6_build 34 = .ok (.iconst 0, 1) := dk_3 (dk_at dksX6_build_1 10 rfl rfl)
theorem dX6_build_35 : decode cX6_build 35 = .ok (.invokevirtual 345, 3) := dk_182 1 89 (dk_at dksX6_build_1 11 rfl rfl)
theorem dX6_build_38 : decode cX6_build 38 = .ok (.pop, 1) := dk_87 (dk_at dksX6_build_1 14 rfl rfl)
theorem dX6_build_39 : decode cX6_build 39 = .ok (.iconst 0, 1) := dk_3 (dk_at dksX6_build_1 15 rfl rfl)
theorem dX6_build_40 : decode cX6_build 40 = .ok (.istore_n 2, 1) := dk_61 (dk_at dksX6_build_1 16 rfl rfl)
theorem dX6_build_41 : decode cX6_build 41 = .ok (.iload_n 2, 1) := dk_28 (dk_at dksX6_build_1 17 rfl rfl)
theorem dX6_build_42 : decode cX6_build 42 = .ok (.aload_n 0, 1) := dk_42 (dk_at dksX6_build_1 18 rfl rfl)
theorem dX6_build_43 : decode cX6_build 43 = .ok (.getfield 321, 3) := dk_180 1 65 (dk_at dksX6_build_1 19 rfl rfl)
theorem dX6_build_46 : decode cX6_build 46 = .ok (.if_icmp .ge 45, 3) := dk_162 0 45 (dk_at dksX6_build_2 0 rfl rfl)
theorem dX6_build_49 : decode cX6_build 49 = .ok (.aload_n 0, 1) := dk_42 (dk_at dksX6_build_2 3 rfl rfl)
theorem dX6_build_50 : decode cX6_build 50 = .ok (.getfield 348, 3) := dk_180 1 92 (dk_at dksX6_build_2 4 rfl rfl)
theorem dX6_build_53 : decode cX6_build 53 = .ok (.ifCond .ne 38, 3) := dk_154 0 38 (dk_at dksX6_build_2 7 rfl rfl)
theorem dX6_build_56 : decode cX6_build 56 = .ok (.aload_n 0, 1) := dk_42 (dk_at dksX6_build_2 10 rfl rfl)
theorem dX6_build_57 : decode cX6_build 57 = .ok (.aload_n 0, 1) := dk_42 (dk_at dksX6_build_2 11 rfl rfl)
theorem dX6_build_58 : decode cX6_build 58 = .ok (.getfield 131, 3) := dk_180 0 131 (dk_at dksX6_build_2 12 rfl rfl)
theorem dX6_build_61 : decode cX6_build 61 = .ok (.iload_n 2, 1) := dk_28 (dk_at dksX6_build_2 15 rfl rfl)
theorem dX6_build_62 : decode cX6_build 62 = .ok (.iaload, 1) := dk_46 (dk_at dksX6_build_2 16 rfl rfl)
theorem dX6_build_63 : decode cX6_build 63 = .ok (.bipush (-9), 2) := dk_16 247 (dk_at dksX6_build_2 17 rfl rfl)
theorem dX6_build_65 : decode cX6_build 65 = .ok (.if_icmp .ne 16, 3) := dk_160 0 16 (dk_at dksX6_build_2 19 rfl rfl)
theorem dX6_build_68 : decode cX6_build 68 = .ok (.aload_n 0, 1) := dk_42 (dk_at dksX6_build_2 22 rfl rfl)
theorem dX6_build_69 : decode cX6_build 69 = .ok (.iload_n 2, 1) := dk_28 (dk_at dksX6_build_2 23 rfl rfl)
theorem dX6_build_70 : decode cX6_build 70 = .ok (.iload_n 1, 1) := dk_27 (dk_at dksX6_build_3 0 rfl rfl)
theorem dX6_build_71 : decode cX6_build 71 = .ok (.invokevirtual 351, 3) := dk_182 1 95 (dk_at dksX6_build_3 1 rfl rfl)
theorem dX6_build_74 : decode cX6_build 74 = .ok (.ifCond .ne 7, 3) := dk_154 0 7 (dk_at dksX6_build_3 4 rfl rfl)
theorem dX6_build_77 : decode cX6_build 77 = .ok (.iconst 1, 1) := dk_4 (dk_at dksX6_build_3 7 rfl rfl)
theorem dX6_build_78 : decode cX6_build 78 = .ok (.goto 4, 3) := dk_167 0 4 (dk_at dksX6_build_3 8 rfl rfl)
theorem dX6_build_81 : decode cX6_build 81 = .ok (.iconst 0, 1) := dk_3 (dk_at dksX6_build_3 11 rfl rfl)
theorem dX6_build_82 : decode cX6_build 82 = .ok (.putfield 348, 3) := dk_181 1 92 (dk_at dksX6_build_3 12 rfl rfl)
theorem dX6_build_85 : decode cX6_build 85 = .ok (.iinc 2 1, 3) := dk_132 2 1 (dk_at dksX6_build_3 15 rfl rfl)
theorem dX6_build_88 : decode cX6_build 88 = .ok (.goto (-47), 3) := dk_167 255 209 (dk_at dksX6_build_3 18 rfl rfl)
theorem dX6_build_91 : decode cX6_build 91 = .ok (.return_, 1) := dk_177 (dk_at dksX6_build_3 21 rfl rfl)
abbrev cX6_node : ByteArray := prog_23_method_55_code
def yX6_node : MethodName := ⟨RX6, "node", "(IIII)I"⟩
def dkwX6_node_3 : List UInt8 := [96, 181, 1, 65, 42, 180, 1, 65, 4, 100, 172]
abbrev dktX6_node_3 : List UInt8 := dkwX6_node_3 ++ []
def dkwX6_node_2 : List UInt8 := [180, 1, 65, 42, 180, 1, 65, 79, 42, 180, 0, 143, 42, 180, 1, 65, 3, 79, 42, 89, 180, 1, 65, 4]
abbrev dktX6_node_2 : List UInt8 := dkwX6_node_2 ++ dktX6_node_3
def dkwX6_node_1 : List UInt8 := [42, 180, 1, 65, 29, 79, 42, 180, 0, 137, 42, 180, 1, 65, 21, 4, 79, 42, 180, 0, 140, 42]
abbrev dktX6_node_1 : List UInt8 := dkwX6_node_1 ++ dktX6_node_2
def dkwX6_node_0 : List UInt8 := [42, 180, 0, 128, 42, 180, 1, 65, 27, 79, 42, 180, 0, 131, 42, 180, 1, 65, 28, 79, 42, 180, 0, 134]
abbrev dktX6_node_0 : List UInt8 := dkwX6_node_0 ++ dktX6_node_1
theorem dksX6_node_0 : cX6_node.data.toList.drop 0 = dktX6_node_0 := by decide +kernel
theorem dksX6_node_1 : cX6_node.data.toList.drop 24 = dktX6_node_1 := dk_seg dksX6_node_0 24 rfl rfl
theorem dksX6_node_2 : cX6_node.data.toList.drop 46 = dktX6_node_2 := dk_seg dksX6_node_1 22 rfl rfl
theorem dksX6_node_3 : cX6_node.data.toList.drop 70 = dktX6_node_3 := dk_seg dksX6_node_2 24 rfl rfl
theorem dX6_node_0 : decode cX6_node 0 = .ok (.aload_n 0, 1) := dk_42 (dk_at dksX6_node_0 0 rfl rfl)
theorem dX6_node_1 : decode cX6_node 1 = .ok (.getfield 128, 3) := dk_180 0 128 (dk_at dksX6_node_0 1 rfl rfl)
theorem dX6_node_4 : decode cX6_node 4 = .ok (.aload_n 0, 1) := dk_42 (dk_at dksX6_node_0 4 rfl rfl)
theorem dX6_node_5 : decode cX6_node 5 = .ok (.getfield 321, 3) := dk_180 1 65 (dk_at dksX6_node_0 5 rfl rfl)
theorem dX6_node_8 : decode cX6_node 8 = .ok (.iload_n 1, 1) := dk_27 (dk_at dksX6_node_0 8 rfl rfl)
theorem dX6_node_9 : decode cX6_node 9 = .ok (.iastore, 1) := dk_79 (dk_at dksX6_node_0 9 rfl rfl)
theorem dX6_node_10 : decode cX6_node 10 = .ok (.aload_n 0, 1) := dk_42 (dk_at dksX6_node_0 10 rfl rfl)
theorem dX6_node_11 : decode cX6_node 11 = .ok (.getfield 131, 3) := dk_180 0 131 (dk_at dksX6_node_0 11 rfl rfl)
theorem dX6_node_14 : decode cX6_node 14 = .ok (.aload_n 0, 1) := dk_42 (dk_at dksX6_node_0 14 rfl rfl)
theorem dX6_node_15 : decode cX6_node 15 = .ok (.getfield 321, 3) := dk_180 1 65 (dk_at dksX6_node_0 15 rfl rfl)
theorem dX6_node_18 : decode cX6_node 18 = .ok (.iload_n 2, 1) := dk_28 (dk_at dksX6_node_0 18 rfl rfl)
theorem dX6_node_19 : decode cX6_node 19 = .ok (.iastore, 1) := dk_79 (dk_at dksX6_node_0 19 rfl rfl)
theorem dX6_node_20 : decode cX6_node 20 = .ok (.aload_n 0, 1) := dk_42 (dk_at dksX6_node_0 20 rfl rfl)
theorem dX6_node_21 : decode cX6_node 21 = .ok (.getfield 134, 3) := dk_180 0 134 (dk_at dksX6_node_0 21 rfl rfl)
theorem dX6_node_24 : decode cX6_node 24 = .ok (.aload_n 0, 1) := dk_42 (dk_at dksX6_node_1 0 rfl rfl)
theorem dX6_node_25 : decode cX6_node 25 = .ok (.getfield 321, 3) := dk_180 1 65 (dk_at dksX6_node_1 1 rfl rfl)
theorem dX6_node_28 : decode cX6_node 28 = .ok (.iload_n 3, 1) := dk_29 (dk_at dksX6_node_1 4 rfl rfl)
theorem dX6_node_29 : decode cX6_node 29 = .ok (.iastore, 1) := dk_79 (dk_at dksX6_node_1 5 rfl rfl)
theorem dX6_node_30 : decode cX6_node 30 = .ok (.aload_n 0, 1) := dk_42 (dk_at dksX6_node_1 6 rfl rfl)
theorem dX6_node_31 : decode cX6_node 31 = .ok (.getfield 137, 3) := dk_180 0 137 (dk_at dksX6_node_1 7 rfl rfl)
theorem dX6_node_34 : decode cX6_node 34 = .ok (.aload_n 0, 1) := dk_42 (dk_at dksX6_node_1 10 rfl rfl)
theorem dX6_node_35 : decode cX6_node 35 = .ok (.getfield 321, 3) := dk_180 1 65 (dk_at dksX6_node_1 11 rfl rfl)
theorem dX6_node_38 : decode cX6_node 38 = .ok (.iload 4, 2) := dk_21 4 (dk_at dksX6_node_1 14 rfl rfl)
theorem dX6_node_40 : decode cX6_node 40 = .ok (.iastore, 1) := dk_79 (dk_at dksX6_node_1 16 rfl rfl)
theorem dX6_node_41 : decode cX6_node 41 = .ok (.aload_n 0, 1) := dk_42 (dk_at dksX6_node_1 17 rfl rfl)
theorem dX6_node_42 : decode cX6_node 42 = .ok (.getfield 140, 3) := dk_180 0 140 (dk_at dksX6_node_1 18 rfl rfl)
theorem dX6_node_45 : decode cX6_node 45 = .ok (.aload_n 0, 1) := dk_42 (dk_at dksX6_node_1 21 rfl rfl)
theorem dX6_node_46 : decode cX6_node 46 = .ok (.getfield 321, 3) := dk_180 1 65 (dk_at dksX6_node_2 0 rfl rfl)
theorem dX6_node_49 : decode cX6_node 49 = .ok (.aload_n 0, 1) := dk_42 (dk_at dksX6_node_2 3 rfl rfl)
theorem dX6_node_50 : decode cX6_node 50 = .ok (.getfield 321, 3) := dk_180 1 65 (dk_at dksX6_node_2 4 rfl rfl)
theorem dX6_node_53 : decode cX6_node 53 = .ok (.iastore, 1) := dk_79 (dk_at dksX6_node_2 7 rfl rfl)
theorem dX6_node_54 : decode cX6_node 54 = .ok (.aload_n 0, 1) := dk_42 (dk_at dksX6_node_2 8 rfl rfl)
theorem dX6_node_55 : decode cX6_node 55 = .ok (.getfield 143, 3) := dk_180 0 143 (dk_at dksX6_node_2 9 rfl rfl)
theorem dX6_node_58 : decode cX6_node 58 = .ok (.aload_n 0, 1) := dk_42 (dk_at dksX6_node_2 12 rfl rfl)
theorem dX6_node_59 : decode cX6_node 59 = .ok (.getfield 321, 3) := dk_180 1 65 (dk_at dksX6_node_2 13 rfl rfl)
theorem dX6_node_62 : decode cX6_node 62 = .ok (.iconst 0, 1) := dk_3 (dk_at dksX6_node_2 16 rfl rfl)
theorem dX6_node_63 : decode cX6_node 63 = .ok (.iastore, 1) := dk_79 (dk_at dksX6_node_2 17 rfl rfl)
theorem dX6_node_64 : decode cX6_node 64 = .ok (.aload_n 0, 1) := dk_42 (dk_at dksX6_node_2 18 rfl rfl)
theorem dX6_node_65 : decode cX6_node 65 = .ok (.dup, 1) := dk_89 (dk_at dksX6_node_2 19 rfl rfl)
theorem dX6_node_66 : decode cX6_node 66 = .ok (.getfield 321, 3) := dk_180 1 65 (dk_at dksX6_node_2 20 rfl rfl)
theorem dX6_node_69 : decode cX6_node 69 = .ok (.iconst 1, 1) := dk_4 (dk_at dksX6_node_2 23 rfl rfl)
theorem dX6_node_70 : decode cX6_node 70 = .ok (.iadd, 1) := dk_96 (dk_at dksX6_node_3 0 rfl rfl)
theorem dX6_node_71 : decode cX6_node 71 = .ok (.putfield 321, 3) := dk_181 1 65 (dk_at dksX6_node_3 1 rfl rfl)
theorem dX6_node_74 : decode cX6_node 74 = .ok (.aload_n 0, 1) := dk_42 (dk_at dksX6_node_3 4 rfl rfl)
theorem dX6_node_75 : decode cX6_node 75 = .ok (.getfield 321, 3) := dk_180 1 65 (dk_at dksX6_node_3 5 rfl rfl)
theorem dX6_node_78 : decode cX6_node 78 = .ok (.iconst 1, 1) := dk_4 (dk_at dksX6_node_3 8 rfl rfl)
theorem dX6_node_79 : decode cX6_node 79 = .ok (.isub, 1) := dk_100 (dk_at dksX6_node_3 9 rfl rfl)
theorem dX6_node_80 : decode cX6_node 80 = .ok (.ireturn, 1) := dk_172 (dk_at dksX6_node_3 10 rfl rfl)
abbrev cX6_lay : ByteArray := prog_23_method_59_code
def yX6_lay : MethodName := ⟨RX6, "lay", "(II)Z"⟩
def dkwX6_lay_16 : List UInt8 := [167, 255, 190, 4, 172]
abbrev dktX6_lay_16 : List UInt8 := dkwX6_lay_16 ++ []
def dkwX6_lay_15 : List UInt8 := [21, 8, 154, 0, 7, 3, 167, 0, 9, 4, 167, 0, 5, 16, 247, 29, 3, 182, 1, 89, 87, 132, 8, 1]
abbrev dktX6_lay_15 : List UInt8 := dkwX6_lay_15 ++ dktX6_lay_16
def dkwX6_lay_14 : List UInt8 := [42, 180, 0, 74, 29, 46, 6, 160, 0, 7, 4, 167, 0, 4, 3, 54, 9, 42, 27, 21, 9, 153, 0, 16]
abbrev dktX6_lay_14 : List UInt8 := dkwX6_lay_14 ++ dktX6_lay_15
def dkwX6_lay_13 : List UInt8 := [21, 6, 79, 3, 54, 8, 21, 8, 21, 6, 162, 0, 65, 21, 7, 6, 160, 0, 22, 21, 8, 153, 0, 13]
abbrev dktX6_lay_13 : List UInt8 := dkwX6_lay_13 ++ dktX6_lay_14
def dkwX6_lay_12 : List UInt8 := [17, 1, 244, 164, 0, 5, 3, 172, 42, 180, 0, 140, 27, 42, 180, 1, 65, 79, 42, 180, 0, 143, 27]
abbrev dktX6_lay_12 : List UInt8 := dkwX6_lay_12 ++ dktX6_lay_13
def dkwX6_lay_11 : List UInt8 := [180, 0, 134, 27, 46, 46, 54, 6, 42, 180, 0, 131, 27, 21, 7, 79, 42, 180, 1, 65, 21, 6, 96]
abbrev dktX6_lay_11 : List UInt8 := dkwX6_lay_11 ++ dktX6_lay_12
def dkwX6_lay_10 : List UInt8 := [167, 0, 28, 42, 180, 0, 134, 27, 46, 8, 160, 0, 7, 7, 167, 0, 14, 42, 180, 0, 7, 42]
abbrev dktX6_lay_10 : List UInt8 := dkwX6_lay_10 ++ dktX6_lay_11
def dkwX6_lay_9 : List UInt8 := [42, 180, 0, 137, 27, 46, 182, 1, 86, 79, 42, 180, 0, 134, 27, 46, 7, 160, 0, 8, 16, 10]
abbrev dktX6_lay_9 : List UInt8 := dkwX6_lay_9 ++ dktX6_lay_10
def dkwX6_lay_8 : List UInt8 := [27, 28, 6, 160, 0, 10, 42, 182, 1, 83, 167, 0, 7, 42, 180, 1, 30, 79, 42, 180, 0, 134, 27, 42]
abbrev dktX6_lay_8 : List UInt8 := dkwX6_lay_8 ++ dktX6_lay_9
def dkwX6_lay_7 : List UInt8 := [7, 42, 180, 1, 46, 104, 6, 96, 46, 54, 6, 167, 0, 89, 21, 7, 8, 160, 0, 83, 42, 180, 0, 137]
abbrev dktX6_lay_7 : List UInt8 := dkwX6_lay_7 ++ dktX6_lay_8
def dkwX6_lay_6 : List UInt8 := [42, 180, 0, 134, 27, 42, 180, 1, 46, 79, 42, 180, 0, 137, 27, 42, 180, 1, 30, 79, 42, 180, 0, 62]
abbrev dktX6_lay_6 : List UInt8 := dkwX6_lay_6 ++ dktX6_lay_7
def dkwX6_lay_5 : List UInt8 := [5, 54, 6, 21, 4, 154, 0, 7, 6, 167, 0, 7, 42, 180, 1, 27, 54, 7, 21, 7, 7, 160, 0, 41]
abbrev dktX6_lay_5 : List UInt8 := dkwX6_lay_5 ++ dktX6_lay_6
def dkwX6_lay_4 : List UInt8 := [21, 4, 154, 0, 22, 42, 180, 0, 74, 29, 46, 2, 160, 0, 12, 42, 180, 0, 131, 27, 3, 79, 4, 172]
abbrev dktX6_lay_4 : List UInt8 := dkwX6_lay_4 ++ dktX6_lay_5
def dkwX6_lay_3 : List UInt8 := [167, 255, 198, 21, 5, 153, 0, 12, 42, 180, 0, 131, 27, 5, 79, 4, 172, 42, 180, 0, 134, 27, 29, 79]
abbrev dktX6_lay_3 : List UInt8 := dkwX6_lay_3 ++ dktX6_lay_4
def dkwX6_lay_2 : List UInt8 := [4, 160, 0, 7, 4, 167, 0, 4, 3, 54, 5, 29, 21, 5, 153, 0, 7, 4, 167, 0, 4, 3, 96, 62]
abbrev dktX6_lay_2 : List UInt8 := dkwX6_lay_2 ++ dktX6_lay_3
def dkwX6_lay_1 : List UInt8 := [162, 0, 51, 42, 29, 182, 1, 74, 153, 0, 7, 4, 167, 0, 8, 42, 29, 182, 1, 77, 54, 4, 21, 4]
abbrev dktX6_lay_1 : List UInt8 := dkwX6_lay_1 ++ dktX6_lay_2
def dkwX6_lay_0 : List UInt8 := [42, 27, 181, 1, 12, 3, 62, 4, 54, 4, 4, 54, 5, 21, 5, 153, 0, 59, 29, 42, 180, 0, 228]
abbrev dktX6_lay_0 : List UInt8 := dkwX6_lay_0 ++ dktX6_lay_1
theorem dksX6_lay_0 : cX6_lay.data.toList.drop 0 = dktX6_lay_0 := by decide +kernel
theorem dksX6_lay_1 : cX6_lay.data.toList.drop 23 = dktX6_lay_1 := dk_seg dksX6_lay_0 23 rfl rfl
theorem dksX6_lay_2 : cX6_lay.data.toList.drop 47 = dktX6_lay_2 := dk_seg dksX6_lay_1 24 rfl rfl
theorem dksX6_lay_3 : cX6_lay.data.toList.drop 71 = dktX6_lay_3 := dk_seg dksX6_lay_2 24 rfl rfl
theorem dksX6_lay_4 : cX6_lay.data.toList.drop 95 = dktX6_lay_4 := dk_seg dksX6_lay_3 24 rfl rfl
theorem dksX6_lay_5 : cX6_lay.data.toList.drop 119 = dktX6_lay_5 := dk_seg dksX6_lay_4 24 rfl rfl
theorem dksX6_lay_6 : cX6_lay.data.toList.drop 143 = dktX6_lay_6 := dk_seg dksX6_lay_5 24 rfl rfl
theorem dksX6_lay_7 : cX6_lay.data.toList.drop 167 = dktX6_lay_7 := dk_seg dksX6_lay_6 24 rfl rfl
theorem dksX6_lay_8 : cX6_lay.data.toList.drop 191 = dktX6_lay_8 := dk_seg dksX6_lay_7 24 rfl rfl
theorem dksX6_lay_9 : cX6_lay.data.toList.drop 215 = dktX6_lay_9 := dk_seg dksX6_lay_8 24 rfl rfl
theorem dksX6_lay_10 : cX6_lay.data.toList.drop 237 = dktX6_lay_10 := dk_seg dksX6_lay_9 22 rfl rfl
theorem dksX6_lay_11 : cX6_lay.data.toList.drop 259 = dktX6_lay_11 := dk_seg dksX6_lay_10 22 rfl rfl
theorem dksX6_lay_12 : cX6_lay.data.toList.drop 282 = dktX6_lay_12 := dk_seg dksX6_lay_11 23 rfl rfl
theorem dksX6_lay_13 : cX6_lay.data.toList.drop 305 = dktX6_lay_13 := dk_seg dksX6_lay_12 23 rfl rfl
theorem dksX6_lay_14 : cX6_lay.data.toList.drop 329 = dktX6_lay_14 := dk_seg dksX6_lay_13 24 rfl rfl
theorem dksX6_lay_15 : cX6_lay.data.toList.drop 353 = dktX6_lay_15 := dk_seg dksX6_lay_14 24 rfl rfl
theorem dksX6_lay_16 : cX6_lay.data.toList.drop 377 = dktX6_lay_16 := dk_seg dksX6_lay_15 24 rfl rfl
theorem dX6_lay_0 : decode cX6_lay 0 = .ok (.aload_n 0, 1) := dk_42 (dk_at dksX6_lay_0 0 rfl rfl)
theorem dX6_lay_1 : decode cX6_lay 1 = .ok (.iload_n 1, 1) := dk_27 (dk_at dksX6_lay_0 1 rfl rfl)
theorem dX6_lay_2 : decode cX6_lay 2 = .ok (.putfield 268, 3) := dk_181 1 12 (dk_at dksX6_lay_0 2 rfl rfl)
theorem dX6_lay_5 : decode cX6_lay 5 = .ok (.iconst 0, 1) := dk_3 (dk_at dksX6_lay_0 5 rfl rfl)
theorem dX6_lay_6 : decode cX6_lay 6 = .ok (.istore_n 3, 1) := dk_62 (dk_at dksX6_lay_0 6 rfl rfl)
theorem dX6_lay_7 : decode cX6_lay 7 = .ok (.iconst 1, 1) := dk_4 (dk_at dksX6_lay_0 7 rfl rfl)
theorem dX6_lay_8 : decode cX6_lay 8 = .ok (.istore 4, 2) := dk_54 4 (dk_at dksX6_lay_0 8 rfl rfl)
theorem dX6_lay_10 : decode cX6_lay 10 = .ok (.iconst 1, 1) := dk_4 (dk_at dksX6_lay_0 10 rfl rfl)
theorem dX6_lay_11 : decode cX6_lay 11 = .ok (.istore 5, 2) := dk_54 5 (dk_at dksX6_lay_0 11 rfl rfl)
theorem dX6_lay_13 : decode cX6_lay 13 = .ok (.iload 5, 2) := dk_21 5 (dk_at dksX6_lay_0 13 rfl rfl)
theorem dX6_lay_15 : decode cX6_lay 15 = .ok (.ifCond .eq 59, 3) := dk_153 0 59 (dk_at dksX6_lay_0 15 rfl rfl)
theorem dX6_lay_18 : decode cX6_lay 18 = .ok (.iload_n 3, 1) := dk_29 (dk_at dksX6_lay_0 18 rfl rfl)
theorem dX6_lay_19 : decode cX6_lay 19 = .ok (.aload_n 0, 1) := dk_42 (dk_at dksX6_lay_0 19 rfl rfl)
theorem dX6_lay_20 : decode cX6_lay 20 = .ok (.getfield 228, 3) := dk_180 0 228 (dk_at dksX6_lay_0 20 rfl rfl)
theorem dX6_lay_23 : decode cX6_lay 23 = .ok (.if_icmp .ge 51, 3) := dk_162 0 51 (dk_at dksX6_lay_1 0 rfl rfl)
theorem dX6_lay_26 : decode cX6_lay 26 = .ok (.aload_n 0, 1) := dk_42 (dk_at dksX6_lay_1 3 rfl rfl)
theorem dX6_lay_27 : decode cX6_lay 27 = .ok (.iload_n 3, 1) := dk_29 (dk_at dksX6_lay_1 4 rfl rfl)
theorem dX6_lay_28 : decode cX6_lay 28 = .ok (.invokevirtual 330, 3) := dk_182 1 74 (dk_at dksX6_lay_1 5 rfl rfl)
theorem dX6_lay_31 : decode cX6_lay 31 = .ok (.ifCond .eq 7, 3) := dk_153 0 7 (dk_at dksX6_lay_1 8 rfl rfl)
theorem dX6_lay_34 : decode cX6_lay 34 = .ok (.iconst 1, 1) := dk_4 (dk_at dksX6_lay_1 11 rfl rfl)
theorem dX6_lay_35 : decode cX6_lay 35 = .ok (.goto 8, 3) := dk_167 0 8 (dk_at dksX6_lay_1 12 rfl rfl)
theorem dX6_lay_38 : decode cX6_lay 38 = .ok (.aload_n 0, 1) := dk_42 (dk_at dksX6_lay_1 15 rfl rfl)
theorem dX6_lay_39 : decode cX6_lay 39 = .ok (.iload_n 3, 1) := dk_29 (dk_at dksX6_lay_1 16 rfl rfl)
theorem dX6_lay_40 : decode cX6_lay 40 = .ok (.invokevirtual 333, 3) := dk_182 1 77 (dk_at dksX6_lay_1 17 rfl rfl)
theorem dX6_lay_43 : decode cX6_lay 43 = .ok (.istore 4, 2) := dk_54 4 (dk_at dksX6_lay_1 20 rfl rfl)
theorem dX6_lay_45 : decode cX6_lay 45 = .ok (.iload 4, 2) := dk_21 4 (dk_at dksX6_lay_1 22 rfl rfl)
theorem dX6_lay_47 : decode cX6_lay 47 = .ok (.iconst 1, 1) := dk_4 (dk_at dksX6_lay_2 0 rfl rfl)
theorem dX6_lay_48 : decode cX6_lay 48 = .ok (.if_icmp .ne 7, 3) := dk_160 0 7 (dk_at dksX6_lay_2 1 rfl rfl)
theorem dX6_lay_51 : decode cX6_lay 51 = .ok (.iconst 1, 1) := dk_4 (dk_at dksX6_lay_2 4 rfl rfl)
theorem dX6_lay_52 : decode cX6_lay 52 = .ok (.goto 4, 3) := dk_167 0 4 (dk_at dksX6_lay_2 5 rfl rfl)
theorem dX6_lay_55 : decode cX6_lay 55 = .ok (.iconst 0, 1) := dk_3 (dk_at dksX6_lay_2 8 rfl rfl)
theorem dX6_lay_56 : decode cX6_lay 56 = .ok (.istore 5, 2) := dk_54 5 (dk_at dksX6_lay_2 9 rfl rfl)
theorem dX6_lay_58 : decode cX6_lay 58 = .ok (.iload_n 3, 1) := dk_29 (dk_at dksX6_lay_2 11 rfl rfl)
theorem dX6_lay_59 : decode cX6_lay 59 = .ok (.iload 5, 2) := dk_21 5 (dk_at dksX6_lay_2 12 rfl rfl)
theorem dX6_lay_61 : decode cX6_lay 61 = .ok (.ifCond .eq 7, 3) := dk_153 0 7 (dk_at dksX6_lay_2 14 rfl rfl)
theorem dX6_lay_64 : decode cX6_lay 64 = .ok (.iconst 1, 1) := dk_4 (dk_at dksX6_lay_2 17 rfl rfl)
theorem dX6_lay_65 : decode cX6_lay 65 = .ok (.goto 4, 3) := dk_167 0 4 (dk_at dksX6_lay_2 18 rfl rfl)
theorem dX6_lay_68 : decode cX6_lay 68 = .ok (.iconst 0, 1) := dk_3 (dk_at dksX6_lay_2 21 rfl rfl)
theorem dX6_lay_69 : decode cX6_lay 69 = .ok (.iadd, 1) := dk_96 (dk_at dksX6_lay_2 22 rfl rfl)
theorem dX6_lay_70 : decode cX6_lay 70 = .ok (.istore_n 3, 1) := dk_62 (dk_at dksX6_lay_2 23 rfl rfl)
theorem dX6_lay_71 : decode cX6_lay 71 = .ok (.goto (-58), 3) := dk_167 255 198 (dk_at dksX6_lay_3 0 rfl rfl)
theorem dX6_lay_74 : decode cX6_lay 74 = .ok (.iload 5, 2) := dk_21 5 (dk_at dksX6_lay_3 3 rfl rfl)
theorem dX6_lay_76 : decode cX6_lay 76 = .ok (.ifCond .eq 12, 3) := dk_153 0 12 (dk_at dksX6_lay_3 5 rfl rfl)
theorem dX6_lay_79 : decode cX6_lay 79 = .ok (.aload_n 0, 1) := dk_42 (dk_at dksX6_lay_3 8 rfl rfl)
theorem dX6_lay_80 : decode cX6_lay 80 = .ok (.getfield 131, 3) := dk_180 0 131 (dk_at dksX6_lay_3 9 rfl rfl)
theorem dX6_lay_83 : decode cX6_lay 83 = .ok (.iload_n 1, 1) := dk_27 (dk_at dksX6_lay_3 12 rfl rfl)
theorem dX6_lay_84 : decode cX6_lay 84 = .ok (.iconst 2, 1) := dk_5 (dk_at dksX6_lay_3 13 rfl rfl)
theorem dX6_lay_85 : decode cX6_lay 85 = .ok (.iastore, 1) := dk_79 (dk_at dksX6_lay_3 14 rfl rfl)
theorem dX6_lay_86 : decode cX6_lay 86 = .ok (.iconst 1, 1) := dk_4 (dk_at dksX6_lay_3 15 rfl rfl)
theorem dX6_lay_87 : decode cX6_lay 87 = .ok (.ireturn, 1) := dk_172 (dk_at dksX6_lay_3 16 rfl rfl)
theorem dX6_lay_88 : decode cX6_lay 88 = .ok (.aload_n 0, 1) := dk_42 (dk_at dksX6_lay_3 17 rfl rfl)
theorem dX6_lay_89 : decode cX6_lay 89 = .ok (.getfield 134, 3) := dk_180 0 134 (dk_at dksX6_lay_3 18 rfl rfl)
theorem dX6_lay_92 : decode cX6_lay 92 = .ok (.iload_n 1, 1) := dk_27 (dk_at dksX6_lay_3 21 rfl rfl)
theorem dX6_lay_93 : decode cX6_lay 93 = .ok (.iload_n 3, 1) := dk_29 (dk_at dksX6_lay_3 22 rfl rfl)
theorem dX6_lay_94 : decode cX6_lay 94 = .ok (.iastore, 1) := dk_79 (dk_at dksX6_lay_3 23 rfl rfl)
theorem dX6_lay_95 : decode cX6_lay 95 = .ok (.iload 4, 2) := dk_21 4 (dk_at dksX6_lay_4 0 rfl rfl)
theorem dX6_lay_97 : decode cX6_lay 97 = .ok (.ifCond .ne 22, 3) := dk_154 0 22 (dk_at dksX6_lay_4 2 rfl rfl)
theorem dX6_lay_100 : decode cX6_lay 100 = .ok (.aload_n 0, 1) := dk_42 (dk_at dksX6_lay_4 5 rfl rfl)
theorem dX6_lay_101 : decode cX6_lay 101 = .ok (.getfield 74, 3) := dk_180 0 74 (dk_at dksX6_lay_4 6 rfl rfl)
theorem dX6_lay_104 : decode cX6_lay 104 = .ok (.iload_n 3, 1) := dk_29 (dk_at dksX6_lay_4 9 rfl rfl)
theorem dX6_lay_105 : decode cX6_lay 105 = .ok (.iaload, 1) := dk_46 (dk_at dksX6_lay_4 10 rfl rfl)
theorem dX6_lay_106 : decode cX6_lay 106 = .ok (.iconst (-1), 1) := dk_2 (dk_at dksX6_lay_4 11 rfl rfl)
theorem dX6_lay_107 : decode cX6_lay 107 = .ok (.if_icmp .ne 12, 3) := dk_160 0 12 (dk_at dksX6_lay_4 12 rfl rfl)
theorem dX6_lay_110 : decode cX6_lay 110 = .ok (.aload_n 0, 1) := dk_42 (dk_at dksX6_lay_4 15 rfl rfl)
theorem dX6_lay_111 : decode cX6_lay 111 = .ok (.getfield 131, 3) := dk_180 0 131 (dk_at dksX6_lay_4 16 rfl rfl)
theorem dX6_lay_114 : decode cX6_lay 114 = .ok (.iload_n 1, 1) := dk_27 (dk_at dksX6_lay_4 19 rfl rfl)
theorem dX6_lay_115 : decode cX6_lay 115 = .ok (.iconst 0, 1) := dk_3 (dk_at dksX6_lay_4 20 rfl rfl)
theorem dX6_lay_116 : decode cX6_lay 116 = .ok (.iastore, 1) := dk_79 (dk_at dksX6_lay_4 21 rfl rfl)
theorem dX6_lay_117 : decode cX6_lay 117 = .ok (.iconst 1, 1) := dk_4 (dk_at dksX6_lay_4 22 rfl rfl)
theorem dX6_lay_118 : decode cX6_lay 118 = .ok (.ireturn, 1) := dk_172 (dk_at dksX6_lay_4 23 rfl rfl)
theorem dX6_lay_119 : decode cX6_lay 119 = .ok (.iconst 2, 1) := dk_5 (dk_at dksX6_lay_5 0 rfl rfl)
theorem dX6_lay_120 : decode cX6_lay 120 = .ok (.istore 6, 2) := dk_54 6 (dk_at dksX6_lay_5 1 rfl rfl)
theorem dX6_lay_122 : decode cX6_lay 122 = .ok (.iload 4, 2) := dk_21 4 (dk_at dksX6_lay_5 3 rfl rfl)
theorem dX6_lay_124 : decode cX6_lay 124 = .ok (.ifCond .ne 7, 3) := dk_154 0 7 (dk_at dksX6_lay_5 5 rfl rfl)
theorem dX6_lay_127 : decode cX6_lay 127 = .ok (.iconst 3, 1) := dk_6 (dk_at dksX6_lay_5 8 rfl rfl)
theorem dX6_lay_128 : decode cX6_lay 128 = .ok (.goto 7, 3) := dk_167 0 7 (dk_at dksX6_lay_5 9 rfl rfl)
theorem dX6_lay_131 : decode cX6_lay 131 = .ok (.aload_n 0, 1) := dk_42 (dk_at dksX6_lay_5 12 rfl rfl)
theorem dX6_lay_132 : decode cX6_lay 132 = .ok (.getfield 283, 3) := dk_180 1 27 (dk_at dksX6_lay_5 13 rfl rfl)
theorem dX6_lay_135 : decode cX6_lay 135 = .ok (.istore 7, 2) := dk_54 7 (dk_at dksX6_lay_5 16 rfl rfl)
theorem dX6_lay_137 : decode cX6_lay 137 = .ok (.iload 7, 2) := dk_21 7 (dk_at dksX6_lay_5 18 rfl rfl)
theorem dX6_lay_139 : decode cX6_lay 139 = .ok (.iconst 4, 1) := dk_7 (dk_at dksX6_lay_5 20 rfl rfl)
theorem dX6_lay_140 : decode cX6_lay 140 = .ok (.if_icmp .ne 41, 3) := dk_160 0 41 (dk_at dksX6_lay_5 21 rfl rfl)
theorem dX6_lay_143 : decode cX6_lay 143 = .ok (.aload_n 0, 1) := dk_42 (dk_at dksX6_lay_6 0 rfl rfl)
theorem dX6_lay_144 : decode cX6_lay 144 = .ok (.getfield 134, 3) := dk_180 0 134 (dk_at dksX6_lay_6 1 rfl rfl)
theorem dX6_lay_147 : decode cX6_lay 147 = .ok (.iload_n 1, 1) := dk_27 (dk_at dksX6_lay_6 4 rfl rfl)
theorem dX6_lay_148 : decode cX6_lay 148 = .ok (.aload_n 0, 1) := dk_42 (dk_at dksX6_lay_6 5 rfl rfl)
theorem dX6_lay_149 : decode cX6_lay 149 = .ok (.getfield 302, 3) := dk_180 1 46 (dk_at dksX6_lay_6 6 rfl rfl)
theorem dX6_lay_152 : decode cX6_lay 152 = .ok (.iastore, 1) := dk_79 (dk_at dksX6_lay_6 9 rfl rfl)
theorem dX6_lay_153 : decode cX6_lay 153 = .ok (.aload_n 0, 1) := dk_42 (dk_at dksX6_lay_6 10 rfl rfl)
theorem dX6_lay_154 : decode cX6_lay 154 = .ok (.getfield 137, 3) := dk_180 0 137 (dk_at dksX6_lay_6 11 rfl rfl)
theorem dX6_lay_157 : decode cX6_lay 157 = .ok (.iload_n 1, 1) := dk_27 (dk_at dksX6_lay_6 14 rfl rfl)
theorem dX6_lay_158 : decode cX6_lay 158 = .ok (.aload_n 0, 1) := dk_42 (dk_at dksX6_lay_6 15 rfl rfl)
theorem dX6_lay_159 : decode cX6_lay 159 = .ok (.getfield 286, 3) := dk_180 1 30 (dk_at dksX6_lay_6 16 rfl rfl)
theorem dX6_lay_162 : decode cX6_lay 162 = .ok (.iastore, 1) := dk_79 (dk_at dksX6_lay_6 19 rfl rfl)
theorem dX6_lay_163 : decode cX6_lay 163 = .ok (.aload_n 0, 1) := dk_42 (dk_at dksX6_lay_6 20 rfl rfl)
theorem dX6_lay_164 : decode cX6_lay 164 = .ok (.getfield 62, 3) := dk_180 0 62 (dk_at dksX6_lay_6 21 rfl rfl)
theorem dX6_lay_167 : decode cX6_lay 167 = .ok (.iconst 4, 1) := dk_7 (dk_at dksX6_lay_7 0 rfl rfl)
theorem dX6_lay_168 : decode cX6_lay 168 = .ok (.aload_n 0, 1) := dk_42 (dk_at dksX6_lay_7 1 rfl rfl)
theorem dX6_lay_169 : decode cX6_lay 169 = .ok (.getfield 302, 3) := dk_180 1 46 (dk_at dksX6_lay_7 2 rfl rfl)
theorem dX6_lay_172 : decode cX6_lay 172 = .ok (.imul, 1) := dk_104 (dk_at dksX6_lay_7 5 rfl rfl)
theorem dX6_lay_173 : decode cX6_lay 173 = .ok (.iconst 3, 1) := dk_6 (dk_at dksX6_lay_7 6 rfl rfl)
theorem dX6_lay_174 : decode cX6_lay 174 = .ok (.iadd, 1) := dk_96 (dk_at dksX6_lay_7 7 rfl rfl)
theorem dX6_lay_175 : decode cX6_lay 175 = .ok (.iaload, 1) := dk_46 (dk_at dksX6_lay_7 8 rfl rfl)
theorem dX6_lay_176 : decode cX6_lay 176 = .ok (.istore 6, 2) := dk_54 6 (dk_at dksX6_lay_7 9 rfl rfl)
theorem dX6_lay_178 : decode cX6_lay 178 = .ok (.goto 89, 3) := dk_167 0 89 (dk_at dksX6_lay_7 11 rfl rfl)
theorem dX6_lay_181 : decode cX6_lay 181 = .ok (.iload 7, 2) := dk_21 7 (dk_at dksX6_lay_7 14 rfl rfl)
theorem dX6_lay_183 : decode cX6_lay 183 = .ok (.iconst 5, 1) := dk_8 (dk_at dksX6_lay_7 16 rfl rfl)
theorem dX6_lay_184 : decode cX6_lay 184 = .ok (.if_icmp .ne 83, 3) := dk_160 0 83 (dk_at dksX6_lay_7 17 rfl rfl)
theorem dX6_lay_187 : decode cX6_lay 187 = .ok (.aload_n 0, 1) := dk_42 (dk_at dksX6_lay_7 20 rfl rfl)
theorem dX6_lay_188 : decode cX6_lay 188 = .ok (.getfield 137, 3) := dk_180 0 137 (dk_at dksX6_lay_7 21 rfl rfl)
theorem dX6_lay_191 : decode cX6_lay 191 = .ok (.iload_n 1, 1) := dk_27 (dk_at dksX6_lay_8 0 rfl rfl)
theorem dX6_lay_192 : decode cX6_lay 192 = .ok (.iload_n 2, 1) := dk_28 (dk_at dksX6_lay_8 1 rfl rfl)
theorem dX6_lay_193 : decode cX6_lay 193 = .ok (.iconst 3, 1) := dk_6 (dk_at dksX6_lay_8 2 rfl rfl)
theorem dX6_lay_194 : decode cX6_lay 194 = .ok (.if_icmp .ne 10, 3) := dk_160 0 10 (dk_at dksX6_lay_8 3 rfl rfl)
theorem dX6_lay_197 : decode cX6_lay 197 = .ok (.aload_n 0, 1) := dk_42 (dk_at dksX6_lay_8 6 rfl rfl)
theorem dX6_lay_198 : decode cX6_lay 198 = .ok (.invokevirtual 339, 3) := dk_182 1 83 (dk_at dksX6_lay_8 7 rfl rfl)
theorem dX6_lay_201 : decode cX6_lay 201 = .ok (.goto 7, 3) := dk_167 0 7 (dk_at dksX6_lay_8 10 rfl rfl)
theorem dX6_lay_204 : decode cX6_lay 204 = .ok (.aload_n 0, 1) := dk_42 (dk_at dksX6_lay_8 13 rfl rfl)
theorem dX6_lay_205 : decode cX6_lay 205 = .ok (.getfield 286, 3) := dk_180 1 30 (dk_at dksX6_lay_8 14 rfl rfl)
theorem dX6_lay_208 : decode cX6_lay 208 = .ok (.iastore, 1) := dk_79 (dk_at dksX6_lay_8 17 rfl rfl)
theorem dX6_lay_209 : decode cX6_lay 209 = .ok (.aload_n 0, 1) := dk_42 (dk_at dksX6_lay_8 18 rfl rfl)
theorem dX6_lay_210 : decode cX6_lay 210 = .ok (.getfield 134, 3) := dk_180 0 134 (dk_at dksX6_lay_8 19 rfl rfl)
theorem dX6_lay_213 : decode cX6_lay 213 = .ok (.iload_n 1, 1) := dk_27 (dk_at dksX6_lay_8 22 rfl rfl)
theorem dX6_lay_214 : decode cX6_lay 214 = .ok (.aload_n 0, 1) := dk_42 (dk_at dksX6_lay_8 23 rfl rfl)
theorem dX6_lay_215 : decode cX6_lay 215 = .ok (.aload_n 0, 1) := dk_42 (dk_at dksX6_lay_9 0 rfl rfl)
theorem dX6_lay_216 : decode cX6_lay 216 = .ok (.getfield 137, 3) := dk_180 0 137 (dk_at dksX6_lay_9 1 rfl rfl)
theorem dX6_lay_219 : decode cX6_lay 219 = .ok (.iload_n 1, 1) := dk_27 (dk_at dksX6_lay_9 4 rfl rfl)
theorem dX6_lay_220 : decode cX6_lay 220 = .ok (.iaload, 1) := dk_46 (dk_at dksX6_lay_9 5 rfl rfl)
theorem dX6_lay_221 : decode cX6_lay 221 = .ok (.invokevirtual 342, 3) := dk_182 1 86 (dk_at dksX6_lay_9 6 rfl rfl)
theorem dX6_lay_224 : decode cX6_lay 224 = .ok (.iastore, 1) := dk_79 (dk_at dksX6_lay_9 9 rfl rfl)
theorem dX6_lay_225 : decode cX6_lay 225 = .ok (.aload_n 0, 1) := dk_42 (dk_at dksX6_lay_9 10 rfl rfl)
theorem dX6_lay_226 : decode cX6_lay 226 = .ok (.getfield 134, 3) := dk_180 0 134 (dk_at dksX6_lay_9 11 rfl rfl)
theorem dX6_lay_229 : decode cX6_lay 229 = .ok (.iload_n 1, 1) := dk_27 (dk_at dksX6_lay_9 14 rfl rfl)
theorem dX6_lay_230 : decode cX6_lay 230 = .ok (.iaload, 1) := dk_46 (dk_at dksX6_lay_9 15 rfl rfl)
theorem dX6_lay_231 : decode cX6_lay 231 = .ok (.iconst 4, 1) := dk_7 (dk_at dksX6_lay_9 16 rfl rfl)
theorem dX6_lay_232 : decode cX6_lay 232 = .ok (.if_icmp .ne 8, 3) := dk_160 0 8 (dk_at dksX6_lay_9 17 rfl rfl)
theorem dX6_lay_235 : decode cX6_lay 235 = .ok (.bipush 10, 2) := dk_16 10 (dk_at dksX6_lay_9 20 rfl rfl)
theorem dX6_lay_237 : decode cX6_lay 237 = .ok (.goto 28, 3) := dk_167 0 28 (dk_at dksX6_lay_10 0 rfl rfl)
theorem dX6_lay_240 : decode cX6_lay 240 = .ok (.aload_n 0, 1) := dk_42 (dk_at dksX6_lay_10 3 rfl rfl)
theorem dX6_lay_241 : decode cX6_lay 241 = .ok (.getfield 134, 3) := dk_180 0 134 (dk_at dksX6_lay_10 4 rfl rfl)
theorem dX6_lay_244 : decode cX6_lay 244 = .ok (.iload_n 1, 1) := dk_27 (dk_at dksX6_lay_10 7 rfl rfl)
theorem dX6_lay_245 : decode cX6_lay 245 = .ok (.iaload, 1) := dk_46 (dk_at dksX6_lay_10 8 rfl rfl)
theorem dX6_lay_246 : decode cX6_lay 246 = .ok (.iconst 5, 1) := dk_8 (dk_at dksX6_lay_10 9 rfl rfl)
theorem dX6_lay_247 : decode cX6_lay 247 = .ok (.if_icmp .ne 7, 3) := dk_160 0 7 (dk_at dksX6_lay_10 10 rfl rfl)
theorem dX6_lay_250 : decode cX6_lay 250 = .ok (.iconst 4, 1) := dk_7 (dk_at dksX6_lay_10 13 rfl rfl)
theorem dX6_lay_251 : decode cX6_lay 251 = .ok (.goto 14, 3) := dk_167 0 14 (dk_at dksX6_lay_10 14 rfl rfl)
theorem dX6_lay_254 : decode cX6_lay 254 = .ok (.aload_n 0, 1) := dk_42 (dk_at dksX6_lay_10 17 rfl rfl)
theorem dX6_lay_255 : decode cX6_lay 255 = .ok (.getfield 7, 3) := dk_180 0 7 (dk_at dksX6_lay_10 18 rfl rfl)
theorem dX6_lay_258 : decode cX6_lay 258 = .ok (.aload_n 0, 1) := dk_42 (dk_at dksX6_lay_10 21 rfl rfl)
theorem dX6_lay_259 : decode cX6_lay 259 = .ok (.getfield 134, 3) := dk_180 0 134 (dk_at dksX6_lay_11 0 rfl rfl)
theorem dX6_lay_262 : decode cX6_lay 262 = .ok (.iload_n 1, 1) := dk_27 (dk_at dksX6_lay_11 3 rfl rfl)
theorem dX6_lay_263 : decode cX6_lay 263 = .ok (.iaload, 1) := dk_46 (dk_at dksX6_lay_11 4 rfl rfl)
theorem dX6_lay_264 : decode cX6_lay 264 = .ok (.iaload, 1) := dk_46 (dk_at dksX6_lay_11 5 rfl rfl)
theorem dX6_lay_265 : decode cX6_lay 265 = .ok (.istore 6, 2) := dk_54 6 (dk_at dksX6_lay_11 6 rfl rfl)
theorem dX6_lay_267 : decode cX6_lay 267 = .ok (.aload_n 0, 1) := dk_42 (dk_at dksX6_lay_11 8 rfl rfl)
theorem dX6_lay_268 : decode cX6_lay 268 = .ok (.getfield 131, 3) := dk_180 0 131 (dk_at dksX6_lay_11 9 rfl rfl)
theorem dX6_lay_271 : decode cX6_lay 271 = .ok (.iload_n 1, 1) := dk_27 (dk_at dksX6_lay_11 12 rfl rfl)
theorem dX6_lay_272 : decode cX6_lay 272 = .ok (.iload 7, 2) := dk_21 7 (dk_at dksX6_lay_11 13 rfl rfl)
theorem dX6_lay_274 : decode cX6_lay 274 = .ok (.iastore, 1) := dk_79 (dk_at dksX6_lay_11 15 rfl rfl)
theorem dX6_lay_275 : decode cX6_lay 275 = .ok (.aload_n 0, 1) := dk_42 (dk_at dksX6_lay_11 16 rfl rfl)
theorem dX6_lay_276 : decode cX6_lay 276 = .ok (.getfield 321, 3) := dk_180 1 65 (dk_at dksX6_lay_11 17 rfl rfl)
theorem dX6_lay_279 : decode cX6_lay 279 = .ok (.iload 6, 2) := dk_21 6 (dk_at dksX6_lay_11 20 rfl rfl)
theorem dX6_lay_281 : decode cX6_lay 281 = .ok (.iadd, 1) := dk_96 (dk_at dksX6_lay_11 22 rfl rfl)
theorem dX6_lay_282 : decode cX6_lay 282 = .ok (.sipush 500, 3) := dk_17 1 244 (dk_at dksX6_lay_12 0 rfl rfl)
theorem dX6_lay_285 : decode cX6_lay 285 = .ok (.if_icmp .le 5, 3) := dk_164 0 5 (dk_at dksX6_lay_12 3 rfl rfl)
theorem dX6_lay_288 : decode cX6_lay 288 = .ok (.iconst 0, 1) := dk_3 (dk_at dksX6_lay_12 6 rfl rfl)
theorem dX6_lay_289 : decode cX6_lay 289 = .ok (.ireturn, 1) := dk_172 (dk_at dksX6_lay_12 7 rfl rfl)
theorem dX6_lay_290 : decode cX6_lay 290 = .ok (.aload_n 0, 1) := dk_42 (dk_at dksX6_lay_12 8 rfl rfl)
theorem dX6_lay_291 : decode cX6_lay 291 = .ok (.getfield 140, 3) := dk_180 0 140 (dk_at dksX6_lay_12 9 rfl rfl)
theorem dX6_lay_294 : decode cX6_lay 294 = .ok (.iload_n 1, 1) := dk_27 (dk_at dksX6_lay_12 12 rfl rfl)
theorem dX6_lay_295 : decode cX6_lay 295 = .ok (.aload_n 0, 1) := dk_42 (dk_at dksX6_lay_12 13 rfl rfl)
theorem dX6_lay_296 : decode cX6_lay 296 = .ok (.getfield 321, 3) := dk_180 1 65 (dk_at dksX6_lay_12 14 rfl rfl)
theorem dX6_lay_299 : decode cX6_lay 299 = .ok (.iastore, 1) := dk_79 (dk_at dksX6_lay_12 17 rfl rfl)
theorem dX6_lay_300 : decode cX6_lay 300 = .ok (.aload_n 0, 1) := dk_42 (dk_at dksX6_lay_12 18 rfl rfl)
theorem dX6_lay_301 : decode cX6_lay 301 = .ok (.getfield 143, 3) := dk_180 0 143 (dk_at dksX6_lay_12 19 rfl rfl)
theorem dX6_lay_304 : decode cX6_lay 304 = .ok (.iload_n 1, 1) := dk_27 (dk_at dksX6_lay_12 22 rfl rfl)
theorem dX6_lay_305 : decode cX6_lay 305 = .ok (.iload 6, 2) := dk_21 6 (dk_at dksX6_lay_13 0 rfl rfl)
theorem dX6_lay_307 : decode cX6_lay 307 = .ok (.iastore, 1) := dk_79 (dk_at dksX6_lay_13 2 rfl rfl)
theorem dX6_lay_308 : decode cX6_lay 308 = .ok (.iconst 0, 1) := dk_3 (dk_at dksX6_lay_13 3 rfl rfl)
theorem dX6_lay_309 : decode cX6_lay 309 = .ok (.istore 8, 2) := dk_54 8 (dk_at dksX6_lay_13 4 rfl rfl)
theorem dX6_lay_311 : decode cX6_lay 311 = .ok (.iload 8, 2) := dk_21 8 (dk_at dksX6_lay_13 6 rfl rfl)
theorem dX6_lay_313 : decode cX6_lay 313 = .ok (.iload 6, 2) := dk_21 6 (dk_at dksX6_lay_13 8 rfl rfl)
theorem dX6_lay_315 : decode cX6_lay 315 = .ok (.if_icmp .ge 65, 3) := dk_162 0 65 (dk_at dksX6_lay_13 10 rfl rfl)
theorem dX6_lay_318 : decode cX6_lay 318 = .ok (.iload 7, 2) := dk_21 7 (dk_at dksX6_lay_13 13 rfl rfl)
theorem dX6_lay_320 : decode cX6_lay 320 = .ok (.iconst 3, 1) := dk_6 (dk_at dksX6_lay_13 15 rfl rfl)
theorem dX6_lay_321 : decode cX6_lay 321 = .ok (.if_icmp .ne 22, 3) := dk_160 0 22 (dk_at dksX6_lay_13 16 rfl rfl)
theorem dX6_lay_324 : decode cX6_lay 324 = .ok (.iload 8, 2) := dk_21 8 (dk_at dksX6_lay_13 19 rfl rfl)
theorem dX6_lay_326 : decode cX6_lay 326 = .ok (.ifCond .eq 13, 3) := dk_153 0 13 (dk_at dksX6_lay_13 21 rfl rfl)
theorem dX6_lay_329 : decode cX6_lay 329 = .ok (.aload_n 0, 1) := dk_42 (dk_at dksX6_lay_14 0 rfl rfl)
theorem dX6_lay_330 : decode cX6_lay 330 = .ok (.getfield 74, 3) := dk_180 0 74 (dk_at dksX6_lay_14 1 rfl rfl)
theorem dX6_lay_333 : decode cX6_lay 333 = .ok (.iload_n 3, 1) := dk_29 (dk_at dksX6_lay_14 4 rfl rfl)
theorem dX6_lay_334 : decode cX6_lay 334 = .ok (.iaload, 1) := dk_46 (dk_at dksX6_lay_14 5 rfl rfl)
theorem dX6_lay_335 : decode cX6_lay 335 = .ok (.iconst 3, 1) := dk_6 (dk_at dksX6_lay_14 6 rfl rfl)
theorem dX6_lay_336 : decode cX6_lay 336 = .ok (.if_icmp .ne 7, 3) := dk_160 0 7 (dk_at dksX6_lay_14 7 rfl rfl)
theorem dX6_lay_339 : decode cX6_lay 339 = .ok (.iconst 1, 1) := dk_4 (dk_at dksX6_lay_14 10 rfl rfl)
theorem dX6_lay_340 : decode cX6_lay 340 = .ok (.goto 4, 3) := dk_167 0 4 (dk_at dksX6_lay_14 11 rfl rfl)
theorem dX6_lay_343 : decode cX6_lay 343 = .ok (.iconst 0, 1) := dk_3 (dk_at dksX6_lay_14 14 rfl rfl)
theorem dX6_lay_344 : decode cX6_lay 344 = .ok (.istore 9, 2) := dk_54 9 (dk_at dksX6_lay_14 15 rfl rfl)
theorem dX6_lay_346 : decode cX6_lay 346 = .ok (.aload_n 0, 1) := dk_42 (dk_at dksX6_lay_14 17 rfl rfl)
theorem dX6_lay_347 : decode cX6_lay 347 = .ok (.iload_n 1, 1) := dk_27 (dk_at dksX6_lay_14 18 rfl rfl)
theorem dX6_lay_348 : decode cX6_lay 348 = .ok (.iload 9, 2) := dk_21 9 (dk_at dksX6_lay_14 19 rfl rfl)
theorem dX6_lay_350 : decode cX6_lay 350 = .ok (.ifCond .eq 16, 3) := dk_153 0 16 (dk_at dksX6_lay_14 21 rfl rfl)
theorem dX6_lay_353 : decode cX6_lay 353 = .ok (.iload 8, 2) := dk_21 8 (dk_at dksX6_lay_15 0 rfl rfl)
theorem dX6_lay_355 : decode cX6_lay 355 = .ok (.ifCond .ne 7, 3) := dk_154 0 7 (dk_at dksX6_lay_15 2 rfl rfl)
theorem dX6_lay_358 : decode cX6_lay 358 = .ok (.iconst 0, 1) := dk_3 (dk_at dksX6_lay_15 5 rfl rfl)
theorem dX6_lay_359 : decode cX6_lay 359 = .ok (.goto 9, 3) := dk_167 0 9 (dk_at dksX6_lay_15 6 rfl rfl)
theorem dX6_lay_362 : decode cX6_lay 362 = .ok (.iconst 1, 1) := dk_4 (dk_at dksX6_lay_15 9 rfl rfl)
theorem dX6_lay_363 : decode cX6_lay 363 = .ok (.goto 5, 3) := dk_167 0 5 (dk_at dksX6_lay_15 10 rfl rfl)
theorem dX6_lay_366 : decode cX6_lay 366 = .ok (.bipush (-9), 2) := dk_16 247 (dk_at dksX6_lay_15 13 rfl rfl)
theorem dX6_lay_368 : decode cX6_lay 368 = .ok (.iload_n 3, 1) := dk_29 (dk_at dksX6_lay_15 15 rfl rfl)
theorem dX6_lay_369 : decode cX6_lay 369 = .ok (.iconst 0, 1) := dk_3 (dk_at dksX6_lay_15 16 rfl rfl)
theorem dX6_lay_370 : decode cX6_lay 370 = .ok (.invokevirtual 345, 3) := dk_182 1 89 (dk_at dksX6_lay_15 17 rfl rfl)
theorem dX6_lay_373 : decode cX6_lay 373 = .ok (.pop, 1) := dk_87 (dk_at dksX6_lay_15 20 rfl rfl)
theorem dX6_lay_374 : decode cX6_lay 374 = .ok (.iinc 8 1, 3) := dk_132 8 1 (dk_at dksX6_lay_15 21 rfl rfl)
theorem dX6_lay_377 : decode cX6_lay 377 = .ok (.goto (-66), 3) := dk_167 255 190 (dk_at dksX6_lay_16 0 rfl rfl)
theorem dX6_lay_380 : decode cX6_lay 380 = .ok (.iconst 1, 1) := dk_4 (dk_at dksX6_lay_16 3 rfl rfl)
theorem dX6_lay_381 : decode cX6_lay 381 = .ok (.ireturn, 1) := dk_172 (dk_at dksX6_lay_16 4 rfl rfl)
abbrev cX6_hasFailed : ByteArray := prog_23_method_44_code
def yX6_hasFailed : MethodName := ⟨RX6, "hasFailed", "(I)Z"⟩
def dkwX6_hasFailed_3 : List UInt8 := [46, 62, 167, 255, 190, 28, 172]
abbrev dktX6_hasFailed_3 : List UInt8 := dkwX6_hasFailed_3 ++ []
def dkwX6_hasFailed_2 : List UInt8 := [180, 0, 140, 42, 180, 0, 128, 29, 46, 46, 164, 0, 7, 4, 167, 0, 4, 3, 61, 42, 180, 0, 128, 29]
abbrev dktX6_hasFailed_2 : List UInt8 := dkwX6_hasFailed_2 ++ dktX6_hasFailed_3
def dkwX6_hasFailed_1 : List UInt8 := [46, 46, 6, 160, 0, 37, 42, 180, 0, 134, 42, 180, 0, 128, 29, 46, 46, 27, 160, 0, 22, 29, 42]
abbrev dktX6_hasFailed_1 : List UInt8 := dkwX6_hasFailed_1 ++ dktX6_hasFailed_2
def dkwX6_hasFailed_0 : List UInt8 := [3, 61, 42, 180, 1, 12, 62, 29, 158, 0, 68, 28, 154, 0, 48, 42, 180, 0, 131, 42, 180, 0, 128, 29]
abbrev dktX6_hasFailed_0 : List UInt8 := dkwX6_hasFailed_0 ++ dktX6_hasFailed_1
theorem dksX6_hasFailed_0 : cX6_hasFailed.data.toList.drop 0 = dktX6_hasFailed_0 := by decide +kernel
theorem dksX6_hasFailed_1 : cX6_hasFailed.data.toList.drop 24 = dktX6_hasFailed_1 := dk_seg dksX6_hasFailed_0 24 rfl rfl
theorem dksX6_hasFailed_2 : cX6_hasFailed.data.toList.drop 47 = dktX6_hasFailed_2 := dk_seg dksX6_hasFailed_1 23 rfl rfl
theorem dksX6_hasFailed_3 : cX6_hasFailed.data.toList.drop 71 = dktX6_hasFailed_3 := dk_seg dksX6_hasFailed_2 24 rfl rfl
theorem dX6_hasFailed_0 : decode cX6_hasFailed 0 = .ok (.iconst 0, 1) := dk_3 (dk_at dksX6_hasFailed_0 0 rfl rfl)
theorem dX6_hasFailed_1 : decode cX6_hasFailed 1 = .ok (.istore_n 2, 1) := dk_61 (dk_at dksX6_hasFailed_0 1 rfl rfl)
theorem dX6_hasFailed_2 : decode cX6_hasFailed 2 = .ok (.aload_n 0, 1) := dk_42 (dk_at dksX6_hasFailed_0 2 rfl rfl)
theorem dX6_hasFailed_3 : decode cX6_hasFailed 3 = .ok (.getfield 268, 3) := dk_180 1 12 (dk_at dksX6_hasFailed_0 3 rfl rfl)
theorem dX6_hasFailed_6 : decode cX6_hasFailed 6 = .ok (.istore_n 3, 1) := dk_62 (dk_at dksX6_hasFailed_0 6 rfl rfl)
theorem dX6_hasFailed_7 : decode cX6_hasFailed 7 = .ok (.iload_n 3, 1) := dk_29 (dk_at dksX6_hasFailed_0 7 rfl rfl)
theorem dX6_hasFailed_8 : decode cX6_hasFailed 8 = .ok (.ifCond .le 68, 3) := dk_158 0 68 (dk_at dksX6_hasFailed_0 8 rfl rfl)
theorem dX6_hasFailed_11 : decode cX6_hasFailed 11 = .ok (.iload_n 2, 1) := dk_28 (dk_at dksX6_hasFailed_0 11 rfl rfl)
theorem dX6_hasFailed_12 : decode cX6_hasFailed 12 = .ok (.ifCond .ne 48, 3) := dk_154 0 48 (dk_at dksX6_hasFailed_0 12 rfl rfl)
theorem dX6_hasFailed_15 : decode cX6_hasFailed 15 = .ok (.aload_n 0, 1) := dk_42 (dk_at dksX6_hasFailed_0 15 rfl rfl)
theorem dX6_hasFailed_16 : decode cX6_hasFailed 16 = .ok (.getfield 131, 3) := dk_180 0 131 (dk_at dksX6_hasFailed_0 16 rfl rfl)
theorem dX6_hasFailed_19 : decode cX6_hasFailed 19 = .ok (.aload_n 0, 1) := dk_42 (dk_at dksX6_hasFailed_0 19 rfl rfl)
theorem dX6_hasFailed_20 : decode cX6_hasFailed 20 = .ok (.getfield 128, 3) := dk_180 0 128 (dk_at dksX6_hasFailed_0 20 rfl rfl)
theorem dX6_hasFailed_23 : decode cX6_hasFailed 23 = .ok (.iload_n 3, 1) := dk_29 (dk_at dksX6_hasFailed_0 23 rfl rfl)
theorem dX6_hasFailed_24 : decode cX6_hasFailed 24 = .ok (.iaload, 1) := dk_46 (dk_at dksX6_hasFailed_1 0 rfl rfl)
theorem dX6_hasFailed_25 : decode cX6_hasFailed 25 = .ok (.iaload, 1) := dk_46 (dk_at dksX6_hasFailed_1 1 rfl rfl)
theorem dX6_hasFailed_26 : decode cX6_hasFailed 26 = .ok (.iconst 3, 1) := dk_6 (dk_at dksX6_hasFailed_1 2 rfl rfl)
theorem dX6_hasFailed_27 : decode cX6_hasFailed 27 = .ok (.if_icmp .ne 37, 3) := dk_160 0 37 (dk_at dksX6_hasFailed_1 3 rfl rfl)
theorem dX6_hasFailed_30 : decode cX6_hasFailed 30 = .ok (.aload_n 0, 1) := dk_42 (dk_at dksX6_hasFailed_1 6 rfl rfl)
theorem dX6_hasFailed_31 : decode cX6_hasFailed 31 = .ok (.getfield 134, 3) := dk_180 0 134 (dk_at dksX6_hasFailed_1 7 rfl rfl)
theorem dX6_hasFailed_34 : decode cX6_hasFailed 34 = .ok (.aload_n 0, 1) := dk_42 (dk_at dksX6_hasFailed_1 10 rfl rfl)
theorem dX6_hasFailed_35 : decode cX6_hasFailed 35 = .ok (.getfield 128, 3) := dk_180 0 128 (dk_at dksX6_hasFailed_1 11 rfl rfl)
theorem dX6_hasFailed_38 : decode cX6_hasFailed 38 = .ok (.iload_n 3, 1) := dk_29 (dk_at dksX6_hasFailed_1 14 rfl rfl)
theorem dX6_hasFailed_39 : decode cX6_hasFailed 39 = .ok (.iaload, 1) := dk_46 (dk_at dksX6_hasFailed_1 15 rfl rfl)
theorem dX6_hasFailed_40 : decode cX6_hasFailed 40 = .ok (.iaload, 1) := dk_46 (dk_at dksX6_hasFailed_1 16 rfl rfl)
theorem dX6_hasFailed_41 : decode cX6_hasFailed 41 = .ok (.iload_n 1, 1) := dk_27 (dk_at dksX6_hasFailed_1 17 rfl rfl)
theorem dX6_hasFailed_42 : decode cX6_hasFailed 42 = .ok (.if_icmp .ne 22, 3) := dk_160 0 22 (dk_at dksX6_hasFailed_1 18 rfl rfl)
theorem dX6_hasFailed_45 : decode cX6_hasFailed 45 = .ok (.iload_n 3, 1) := dk_29 (dk_at dksX6_hasFailed_1 21 rfl rfl)
theorem dX6_hasFailed_46 : decode cX6_hasFailed 46 = .ok (.aload_n 0, 1) := dk_42 (dk_at dksX6_hasFailed_1 22 rfl rfl)
theorem dX6_hasFailed_47 : decode cX6_hasFailed 47 = .ok (.getfield 140, 3) := dk_180 0 140 (dk_at dksX6_hasFailed_2 0 rfl rfl)
theorem dX6_hasFailed_50 : decode cX6_hasFailed 50 = .ok (.aload_n 0, 1) := dk_42 (dk_at dksX6_hasFailed_2 3 rfl rfl)
theorem dX6_hasFailed_51 : decode cX6_hasFailed 51 = .ok (.getfield 128, 3) := dk_180 0 128 (dk_at dksX6_hasFailed_2 4 rfl rfl)
theorem dX6_hasFailed_54 : decode cX6_hasFailed 54 = .ok (.iload_n 3, 1) := dk_29 (dk_at dksX6_hasFailed_2 7 rfl rfl)
theorem dX6_hasFailed_55 : decode cX6_hasFailed 55 = .ok (.iaload, 1) := dk_46 (dk_at dksX6_hasFailed_2 8 rfl rfl)
theorem dX6_hasFailed_56 : decode cX6_hasFailed 56 = .ok (.iaload, 1) := dk_46 (dk_at dksX6_hasFailed_2 9 rfl rfl)
theorem dX6_hasFailed_57 : decode cX6_hasFailed 57 = .ok (.if_icmp .le 7, 3) := dk_164 0 7 (dk_at dksX6_hasFailed_2 10 rfl rfl)
theorem dX6_hasFailed_60 : decode cX6_hasFailed 60 = .ok (.iconst 1, 1) := dk_4 (dk_at dksX6_hasFailed_2 13 rfl rfl)
theorem dX6_hasFailed_61 : decode cX6_hasFailed 61 = .ok (.goto 4, 3) := dk_167 0 4 (dk_at dksX6_hasFailed_2 14 rfl rfl)
theorem dX6_hasFailed_64 : decode cX6_hasFailed 64 = .ok (.iconst 0, 1) := dk_3 (dk_at dksX6_hasFailed_2 17 rfl rfl)
theorem dX6_hasFailed_65 : decode cX6_hasFailed 65 = .ok (.istore_n 2, 1) := dk_61 (dk_at dksX6_hasFailed_2 18 rfl rfl)
theorem dX6_hasFailed_66 : decode cX6_hasFailed 66 = .ok (.aload_n 0, 1) := dk_42 (dk_at dksX6_hasFailed_2 19 rfl rfl)
theorem dX6_hasFailed_67 : decode cX6_hasFailed 67 = .ok (.getfield 128, 3) := dk_180 0 128 (dk_at dksX6_hasFailed_2 20 rfl rfl)
theorem dX6_hasFailed_70 : decode cX6_hasFailed 70 = .ok (.iload_n 3, 1) := dk_29 (dk_at dksX6_hasFailed_2 23 rfl rfl)
theorem dX6_hasFailed_71 : decode cX6_hasFailed 71 = .ok (.iaload, 1) := dk_46 (dk_at dksX6_hasFailed_3 0 rfl rfl)
theorem dX6_hasFailed_72 : decode cX6_hasFailed 72 = .ok (.istore_n 3, 1) := dk_62 (dk_at dksX6_hasFailed_3 1 rfl rfl)
theorem dX6_hasFailed_73 : decode cX6_hasFailed 73 = .ok (.goto (-66), 3) := dk_167 255 190 (dk_at dksX6_hasFailed_3 2 rfl rfl)
theorem dX6_hasFailed_76 : decode cX6_hasFailed 76 = .ok (.iload_n 2, 1) := dk_28 (dk_at dksX6_hasFailed_3 5 rfl rfl)
theorem dX6_hasFailed_77 : decode cX6_hasFailed 77 = .ok (.ireturn, 1) := dk_172 (dk_at dksX6_hasFailed_3 6 rfl rfl)
abbrev cX6_tryCase : ByteArray := prog_23_method_50_code
def yX6_tryCase : MethodName := ⟨RX6, "tryCase", "(I)I"⟩
def dkwX6_tryCase_6 : List UInt8 := [167, 255, 177, 3, 172]
abbrev dktX6_tryCase_6 : List UInt8 := dkwX6_tryCase_6 ++ []
def dkwX6_tryCase_5 : List UInt8 := [46, 182, 1, 37, 61, 28, 5, 159, 0, 15, 28, 4, 160, 0, 12, 42, 182, 1, 40, 154, 0, 5, 28, 172]
abbrev dktX6_tryCase_5 : List UInt8 := dkwX6_tryCase_5 ++ dktX6_tryCase_6
def dkwX6_tryCase_4 : List UInt8 := [182, 1, 33, 167, 0, 25, 42, 42, 180, 0, 92, 42, 180, 1, 18, 46, 42, 180, 0, 95, 42, 180, 1, 18]
abbrev dktX6_tryCase_4 : List UInt8 := dkwX6_tryCase_4 ++ dktX6_tryCase_5
def dkwX6_tryCase_3 : List UInt8 := [42, 89, 180, 1, 18, 4, 100, 181, 1, 18, 42, 180, 0, 92, 42, 180, 1, 18, 46, 2, 160, 0, 10, 42]
abbrev dktX6_tryCase_3 : List UInt8 := dkwX6_tryCase_3 ++ dktX6_tryCase_4
def dkwX6_tryCase_2 : List UInt8 := [27, 104, 28, 96, 46, 28, 4, 96, 182, 1, 24, 132, 2, 255, 167, 255, 232, 42, 180, 1, 18, 158, 0, 78]
abbrev dktX6_tryCase_2 : List UInt8 := dkwX6_tryCase_2 ++ dktX6_tryCase_3
def dkwX6_tryCase_1 : List UInt8 := [79, 132, 2, 1, 167, 255, 240, 42, 180, 0, 231, 4, 100, 61, 28, 155, 0, 26, 42, 42, 180, 0, 68, 6]
abbrev dktX6_tryCase_1 : List UInt8 := dkwX6_tryCase_1 ++ dktX6_tryCase_2
def dkwX6_tryCase_0 : List UInt8 := [42, 3, 181, 1, 18, 42, 3, 181, 1, 21, 3, 61, 28, 16, 6, 162, 0, 16, 42, 180, 0, 107, 28, 2]
abbrev dktX6_tryCase_0 : List UInt8 := dkwX6_tryCase_0 ++ dktX6_tryCase_1
theorem dksX6_tryCase_0 : cX6_tryCase.data.toList.drop 0 = dktX6_tryCase_0 := by decide +kernel
theorem dksX6_tryCase_1 : cX6_tryCase.data.toList.drop 24 = dktX6_tryCase_1 := dk_seg dksX6_tryCase_0 24 rfl rfl
theorem dksX6_tryCase_2 : cX6_tryCase.data.toList.drop 48 = dktX6_tryCase_2 := dk_seg dksX6_tryCase_1 24 rfl rfl
theorem dksX6_tryCase_3 : cX6_tryCase.data.toList.drop 72 = dktX6_tryCase_3 := dk_seg dksX6_tryCase_2 24 rfl rfl
theorem dksX6_tryCase_4 : cX6_tryCase.data.toList.drop 96 = dktX6_tryCase_4 := dk_seg dksX6_tryCase_3 24 rfl rfl
theorem dksX6_tryCase_5 : cX6_tryCase.data.toList.drop 120 = dktX6_tryCase_5 := dk_seg dksX6_tryCase_4 24 rfl rfl
theorem dksX6_tryCase_6 : cX6_tryCase.data.toList.drop 144 = dktX6_tryCase_6 := dk_seg dksX6_tryCase_5 24 rfl rfl
theorem dX6_tryCase_0 : decode cX6_tryCase 0 = .ok (.aload_n 0, 1) := dk_42 (dk_at dksX6_tryCase_0 0 rfl rfl)
theorem dX6_tryCase_1 : decode cX6_tryCase 1 = .ok (.iconst 0, 1) := dk_3 (dk_at dksX6_tryCase_0 1 rfl rfl)
theorem dX6_tryCase_2 : decode cX6_tryCase 2 = .ok (.putfield 274, 3) := dk_181 1 18 (dk_at dksX6_tryCase_0 2 rfl rfl)
theorem dX6_tryCase_5 : decode cX6_tryCase 5 = .ok (.aload_n 0, 1) := dk_42 (dk_at dksX6_tryCase_0 5 rfl rfl)
theorem dX6_tryCase_6 : decode cX6_tryCase 6 = .ok (.iconst 0, 1) := dk_3 (dk_at dksX6_tryCase_0 6 rfl rfl)
theorem dX6_tryCase_7 : decode cX6_tryCase 7 = .ok (.putfield 277, 3) := dk_181 1 21 (dk_at dksX6_tryCase_0 7 rfl rfl)
theorem dX6_tryCase_10 : decode cX6_tryCase 10 = .ok (.iconst 0, 1) := dk_3 (dk_at dksX6_tryCase_0 10 rfl rfl)
theorem dX6_tryCase_11 : decode cX6_tryCase 11 = .ok (.istore_n 2, 1) := dk_61 (dk_at dksX6_tryCase_0 11 rfl rfl)
theorem dX6_tryCase_12 : decode cX6_tryCase 12 = .ok (.iload_n 2, 1) := dk_28 (dk_at dksX6_tryCase_0 12 rfl rfl)
theorem dX6_tryCase_13 : decode cX6_tryCase 13 = .ok (.bipush 6, 2) := dk_16 6 (dk_at dksX6_tryCase_0 13 rfl rfl)
theorem dX6_tryCase_15 : decode cX6_tryCase 15 = .ok (.if_icmp .ge 16, 3) := dk_162 0 16 (dk_at dksX6_tryCase_0 15 rfl rfl)
theorem dX6_tryCase_18 : decode cX6_tryCase 18 = .ok (.aload_n 0, 1) := dk_42 (dk_at dksX6_tryCase_0 18 rfl rfl)
theorem dX6_tryCase_19 : decode cX6_tryCase 19 = .ok (.getfield 107, 3) := dk_180 0 107 (dk_at dksX6_tryCase_0 19 rfl rfl)
theorem dX6_tryCase_22 : decode cX6_tryCase 22 = .ok (.iload_n 2, 1) := dk_28 (dk_at dksX6_tryCase_0 22 rfl rfl)
theorem dX6_tryCase_23 : decode cX6_tryCase 23 = .ok (.iconst (-1), 1) := dk_2 (dk_at dksX6_tryCase_0 23 rfl rfl)
theorem dX6_tryCase_24 : decode cX6_tryCase 24 = .ok (.iastore, 1) := dk_79 (dk_at dksX6_tryCase_1 0 rfl rfl)
theorem dX6_tryCase_25 : decode cX6_tryCase 25 = .ok (.iinc 2 1, 3) := dk_132 2 1 (dk_at dksX6_tryCase_1 1 rfl rfl)
theorem dX6_tryCase_28 : decode cX6_tryCase 28 = .ok (.goto (-16), 3) := dk_167 255 240 (dk_at dksX6_tryCase_1 4 rfl rfl)
theorem dX6_tryCase_31 : decode cX6_tryCase 31 = .ok (.aload_n 0, 1) := dk_42 (dk_at dksX6_tryCase_1 7 rfl rfl)
theorem dX6_tryCase_32 : decode cX6_tryCase 32 = .ok (.getfield 231, 3) := dk_180 0 231 (dk_at dksX6_tryCase_1 8 rfl rfl)
theorem dX6_tryCase_35 : decode cX6_tryCase 35 = .ok (.iconst 1, 1) := dk_4 (dk_at dksX6_tryCase_1 11 rfl rfl)
theorem dX6_tryCase_36 : decode cX6_tryCase 36 = .ok (.isub, 1) := dk_100 (dk_at dksX6_tryCase_1 12 rfl rfl)
theorem dX6_tryCase_37 : decode cX6_tryCase 37 = .ok (.istore_n 2, 1) := dk_61 (dk_at dksX6_tryCase_1 13 rfl rfl)
theorem dX6_tryCase_38 : decode cX6_tryCase 38 = .ok (.iload_n 2, 1) := dk_28 (dk_at dksX6_tryCase_1 14 rfl rfl)
theorem dX6_tryCase_39 : decode cX6_tryCase 39 = .ok (.ifCond .lt 26, 3) := dk_155 0 26 (dk_at dksX6_tryCase_1 15 rfl rfl)
theorem dX6_tryCase_42 : decode cX6_tryCase 42 = .ok (.aload_n 0, 1) := dk_42 (dk_at dksX6_tryCase_1 18 rfl rfl)
theorem dX6_tryCase_43 : decode cX6_tryCase 43 = .ok (.aload_n 0, 1) := dk_42 (dk_at dksX6_tryCase_1 19 rfl rfl)
theorem dX6_tryCase_44 : decode cX6_tryCase 44 = .ok (.getfield 68, 3) := dk_180 0 68 (dk_at dksX6_tryCase_1 20 rfl rfl)
theorem dX6_tryCase_47 : decode cX6_tryCase 47 = .ok (.iconst 3, 1) := dk_6 (dk_at dksX6_tryCase_1 23 rfl rfl)
theorem dX6_tryCase_48 : decode cX6_tryCase 48 = .ok (.iload_n 1, 1) := dk_27 (dk_at dksX6_tryCase_2 0 rfl rfl)
theorem dX6_tryCase_49 : decode cX6_tryCase 49 = .ok (.imul, 1) := dk_104 (dk_at dksX6_tryCase_2 1 rfl rfl)
theorem dX6_tryCase_50 : decode cX6_tryCase 50 = .ok (.iload_n 2, 1) := dk_28 (dk_at dksX6_tryCase_2 2 rfl rfl)
theorem dX6_tryCase_51 : decode cX6_tryCase 51 = .ok (.iadd, 1) := dk_96 (dk_at dksX6_tryCase_2 3 rfl rfl)
theorem dX6_tryCase_52 : decode cX6_tryCase 52 = .ok (.iaload, 1) := dk_46 (dk_at dksX6_tryCase_2 4 rfl rfl)
theorem dX6_tryCase_53 : decode cX6_tryCase 53 = .ok (.iload_n 2, 1) := dk_28 (dk_at dksX6_tryCase_2 5 rfl rfl)
theorem dX6_tryCase_54 : decode cX6_tryCase 54 = .ok (.iconst 1, 1) := dk_4 (dk_at dksX6_tryCase_2 6 rfl rfl)
theorem dX6_tryCase_55 : decode cX6_tryCase 55 = .ok (.iadd, 1) := dk_96 (dk_at dksX6_tryCase_2 7 rfl rfl)
theorem dX6_tryCase_56 : decode cX6_tryCase 56 = .ok (.invokevirtual 280, 3) := dk_182 1 24 (dk_at dksX6_tryCase_2 8 rfl rfl)
theorem dX6_tryCase_59 : decode cX6_tryCase 59 = .ok (.iinc 2 (-1), 3) := dk_132 2 255 (dk_at dksX6_tryCase_2 11 rfl rfl)
theorem dX6_tryCase_62 : decode cX6_tryCase 62 = .ok (.goto (-24), 3) := dk_167 255 232 (dk_at dksX6_tryCase_2 14 rfl rfl)
theorem dX6_tryCase_65 : decode cX6_tryCase 65 = .ok (.aload_n 0, 1) := dk_42 (dk_at dksX6_tryCase_2 17 rfl rfl)
theorem dX6_tryCase_66 : decode cX6_tryCase 66 = .ok (.getfield 274, 3) := dk_180 1 18 (dk_at dksX6_tryCase_2 18 rfl rfl)
theorem dX6_tryCase_69 : decode cX6_tryCase 69 = .ok (.ifCond .le 78, 3) := dk_158 0 78 (dk_at dksX6_tryCase_2 21 rfl rfl)
theorem dX6_tryCase_72 : decode cX6_tryCase 72 = .ok (.aload_n 0, 1) := dk_42 (dk_at dksX6_tryCase_3 0 rfl rfl)
theorem dX6_tryCase_73 : decode cX6_tryCase 73 = .ok (.dup, 1) := dk_89 (dk_at dksX6_tryCase_3 1 rfl rfl)
theorem dX6_tryCase_74 : decode cX6_tryCase 74 = .ok (.getfield 274, 3) := dk_180 1 18 (dk_at dksX6_tryCase_3 2 rfl rfl)
theorem dX6_tryCase_77 : decode cX6_tryCase 77 = .ok (.iconst 1, 1) := dk_4 (dk_at dksX6_tryCase_3 5 rfl rfl)
theorem dX6_tryCase_78 : decode cX6_tryCase 78 = .ok (.isub, 1) := dk_100 (dk_at dksX6_tryCase_3 6 rfl rfl)
theorem dX6_tryCase_79 : decode cX6_tryCase 79 = .ok (.putfield 274, 3) := dk_181 1 18 (dk_at dksX6_tryCase_3 7 rfl rfl)
theorem dX6_tryCase_82 : decode cX6_tryCase 82 = .ok (.aload_n 0, 1) := dk_42 (dk_at dksX6_tryCase_3 10 rfl rfl)
theorem dX6_tryCase_83 : decode cX6_tryCase 83 = .ok (.getfield 92, 3) := dk_180 0 92 (dk_at dksX6_tryCase_3 11 rfl rfl)
theorem dX6_tryCase_86 : decode cX6_tryCase 86 = .ok (.aload_n 0, 1) := dk_42 (dk_at dksX6_tryCase_3 14 rfl rfl)
theorem dX6_tryCase_87 : decode cX6_tryCase 87 = .ok (.getfield 274, 3) := dk_180 1 18 (dk_at dksX6_tryCase_3 15 rfl rfl)
theorem dX6_tryCase_90 : decode cX6_tryCase 90 = .ok (.iaload, 1) := dk_46 (dk_at dksX6_tryCase_3 18 rfl rfl)
theorem dX6_tryCase_91 : decode cX6_tryCase 91 = .ok (.iconst (-1), 1) := dk_2 (dk_at dksX6_tryCase_3 19 rfl rfl)
theorem dX6_tryCase_92 : decode cX6_tryCase 92 = .ok (.if_icmp .ne 10, 3) := dk_160 0 10 (dk_at dksX6_tryCase_3 20 rfl rfl)
theorem dX6_tryCase_95 : decode cX6_tryCase 95 = .ok (.aload_n 0, 1) := dk_42 (dk_at dksX6_tryCase_3 23 rfl rfl)
theorem dX6_tryCase_96 : decode cX6_tryCase 96 = .ok (.invokevirtual 289, 3) := dk_182 1 33 (dk_at dksX6_tryCase_4 0 rfl rfl)
theorem dX6_tryCase_99 : decode cX6_tryCase 99 = .ok (.goto 25, 3) := dk_167 0 25 (dk_at dksX6_tryCase_4 3 rfl rfl)
theorem dX6_tryCase_102 : decode cX6_tryCase 102 = .ok (.aload_n 0, 1) := dk_42 (dk_at dksX6_tryCase_4 6 rfl rfl)
theorem dX6_tryCase_103 : decode cX6_tryCase 103 = .ok (.aload_n 0, 1) := dk_42 (dk_at dksX6_tryCase_4 7 rfl rfl)
theorem dX6_tryCase_104 : decode cX6_tryCase 104 = .ok (.getfield 92, 3) := dk_180 0 92 (dk_at dksX6_tryCase_4 8 rfl rfl)
theorem dX6_tryCase_107 : decode cX6_tryCase 107 = .ok (.aload_n 0, 1) := dk_42 (dk_at dksX6_tryCase_4 11 rfl rfl)
theorem dX6_tryCase_108 : decode cX6_tryCase 108 = .ok (.getfield 274, 3) := dk_180 1 18 (dk_at dksX6_tryCase_4 12 rfl rfl)
theorem dX6_tryCase_111 : decode cX6_tryCase 111 = .ok (.iaload, 1) := dk_46 (dk_at dksX6_tryCase_4 15 rfl rfl)
theorem dX6_tryCase_112 : decode cX6_tryCase 112 = .ok (.aload_n 0, 1) := dk_42 (dk_at dksX6_tryCase_4 16 rfl rfl)
theorem dX6_tryCase_113 : decode cX6_tryCase 113 = .ok (.getfield 95, 3) := dk_180 0 95 (dk_at dksX6_tryCase_4 17 rfl rfl)
theorem dX6_tryCase_116 : decode cX6_tryCase 116 = .ok (.aload_n 0, 1) := dk_42 (dk_at dksX6_tryCase_4 20 rfl rfl)
theorem dX6_tryCase_117 : decode cX6_tryCase 117 = .ok (.getfield 274, 3) := dk_180 1 18 (dk_at dksX6_tryCase_4 21 rfl rfl)
theorem dX6_tryCase_120 : decode cX6_tryCase 120 = .ok (.iaload, 1) := dk_46 (dk_at dksX6_tryCase_5 0 rfl rfl)
theorem dX6_tryCase_121 : decode cX6_tryCase 121 = .ok (.invokevirtual 293, 3) := dk_182 1 37 (dk_at dksX6_tryCase_5 1 rfl rfl)
theorem dX6_tryCase_124 : decode cX6_tryCase 124 = .ok (.istore_n 2, 1) := dk_61 (dk_at dksX6_tryCase_5 4 rfl rfl)
theorem dX6_tryCase_125 : decode cX6_tryCase 125 = .ok (.iload_n 2, 1) := dk_28 (dk_at dksX6_tryCase_5 5 rfl rfl)
theorem dX6_tryCase_126 : decode cX6_tryCase 126 = .ok (.iconst 2, 1) := dk_5 (dk_at dksX6_tryCase_5 6 rfl rfl)
theorem dX6_tryCase_127 : decode cX6_tryCase 127 = .ok (.if_icmp .eq 15, 3) := dk_159 0 15 (dk_at dksX6_tryCase_5 7 rfl rfl)
theorem dX6_tryCase_130 : decode cX6_tryCase 130 = .ok (.iload_n 2, 1) := dk_28 (dk_at dksX6_tryCase_5 10 rfl rfl)
theorem dX6_tryCase_131 : decode cX6_tryCase 131 = .ok (.iconst 1, 1) := dk_4 (dk_at dksX6_tryCase_5 11 rfl rfl)
theorem dX6_tryCase_132 : decode cX6_tryCase 132 = .ok (.if_icmp .ne 12, 3) := dk_160 0 12 (dk_at dksX6_tryCase_5 12 rfl rfl)
theorem dX6_tryCase_135 : decode cX6_tryCase 135 = .ok (.aload_n 0, 1) := dk_42 (dk_at dksX6_tryCase_5 15 rfl rfl)
theorem dX6_tryCase_136 : decode cX6_tryCase 136 = .ok (.invokevirtual 296, 3) := dk_182 1 40 (dk_at dksX6_tryCase_5 16 rfl rfl)
theorem dX6_tryCase_139 : decode cX6_tryCase 139 = .ok (.ifCond .ne 5, 3) := dk_154 0 5 (dk_at dksX6_tryCase_5 19 rfl rfl)
theorem dX6_tryCase_142 : decode cX6_tryCase 142 = .ok (.iload_n 2, 1) := dk_28 (dk_at dksX6_tryCase_5 22 rfl rfl)
theorem dX6_tryCase_143 : decode cX6_tryCase 143 = .ok (.ireturn, 1) := dk_172 (dk_at dksX6_tryCase_5 23 rfl rfl)
theorem dX6_tryCase_144 : decode cX6_tryCase 144 = .ok (.goto (-79), 3) := dk_167 255 177 (dk_at dksX6_tryCase_6 0 rfl rfl)
theorem dX6_tryCase_147 : decode cX6_tryCase 147 = .ok (.iconst 0, 1) := dk_3 (dk_at dksX6_tryCase_6 3 rfl rfl)
theorem dX6_tryCase_148 : decode cX6_tryCase 148 = .ok (.ireturn, 1) := dk_172 (dk_at dksX6_tryCase_6 4 rfl rfl)
abbrev cX6_push : ByteArray := prog_23_method_45_code
def yX6_push : MethodName := ⟨RX6, "push", "(II)V"⟩
def dkwX6_push_1 : List UInt8 := [180, 1, 18, 4, 96, 181, 1, 18, 177]
abbrev dktX6_push_1 : List UInt8 := dkwX6_push_1 ++ []
def dkwX6_push_0 : List UInt8 := [42, 180, 0, 92, 42, 180, 1, 18, 27, 79, 42, 180, 0, 95, 42, 180, 1, 18, 28, 79, 42, 89]
abbrev dktX6_push_0 : List UInt8 := dkwX6_push_0 ++ dktX6_push_1
theorem dksX6_push_0 : cX6_push.data.toList.drop 0 = dktX6_push_0 := by decide +kernel
theorem dksX6_push_1 : cX6_push.data.toList.drop 22 = dktX6_push_1 := dk_seg dksX6_push_0 22 rfl rfl
theorem dX6_push_0 : decode cX6_push 0 = .ok (.aload_n 0, 1) := dk_42 (dk_at dksX6_push_0 0 rfl rfl)
theorem dX6_push_1 : decode cX6_push 1 = .ok (.getfield 92, 3) := dk_180 0 92 (dk_at dksX6_push_0 1 rfl rfl)
theorem dX6_push_4 : decode cX6_push 4 = .ok (.aload_n 0, 1) := dk_42 (dk_at dksX6_push_0 4 rfl rfl)
theorem dX6_push_5 : decode cX6_push 5 = .ok (.getfield 274, 3) := dk_180 1 18 (dk_at dksX6_push_0 5 rfl rfl)
theorem dX6_push_8 : decode cX6_push 8 = .ok (.iload_n 1, 1) := dk_27 (dk_at dksX6_push_0 8 rfl rfl)
theorem dX6_push_9 : decode cX6_push 9 = .ok (.iastore, 1) := dk_79 (dk_at dksX6_push_0 9 rfl rfl)
theorem dX6_push_10 : decode cX6_push 10 = .ok (.aload_n 0, 1) := dk_42 (dk_at dksX6_push_0 10 rfl rfl)
theorem dX6_push_11 : decode cX6_push 11 = .ok (.getfield 95, 3) := dk_180 0 95 (dk_at dksX6_push_0 11 rfl rfl)
theorem dX6_push_14 : decode cX6_push 14 = .ok (.aload_n 0, 1) := dk_42 (dk_at dksX6_push_0 14 rfl rfl)
theorem dX6_push_15 : decode cX6_push 15 = .ok (.getfield 274, 3) := dk_180 1 18 (dk_at dksX6_push_0 15 rfl rfl)
theorem dX6_push_18 : decode cX6_push 18 = .ok (.iload_n 2, 1) := dk_28 (dk_at dksX6_push_0 18 rfl rfl)
theorem dX6_push_19 : decode cX6_push 19 = .ok (.iastore, 1) := dk_79 (dk_at dksX6_push_0 19 rfl rfl)
theorem dX6_push_20 : decode cX6_push 20 = .ok (.aload_n 0, 1) := dk_42 (dk_at dksX6_push_0 20 rfl rfl)
theorem dX6_push_21 : decode cX6_push 21 = .ok (.dup, 1) := dk_89 (dk_at dksX6_push_0 21 rfl rfl)
theorem dX6_push_22 : decode cX6_push 22 = .ok (.getfield 274, 3) := dk_180 1 18 (dk_at dksX6_push_1 0 rfl rfl)
theorem dX6_push_25 : decode cX6_push 25 = .ok (.iconst 1, 1) := dk_4 (dk_at dksX6_push_1 3 rfl rfl)
theorem dX6_push_26 : decode cX6_push 26 = .ok (.iadd, 1) := dk_96 (dk_at dksX6_push_1 4 rfl rfl)
theorem dX6_push_27 : decode cX6_push 27 = .ok (.putfield 274, 3) := dk_181 1 18 (dk_at dksX6_push_1 5 rfl rfl)
theorem dX6_push_30 : decode cX6_push 30 = .ok (.return_, 1) := dk_177 (dk_at dksX6_push_1 8 rfl rfl)
abbrev cX6_took : ByteArray := prog_23_method_51_code
def yX6_took : MethodName := ⟨RX6, "took", "()I"⟩
def dkwX6_took_0 : List UInt8 := [42, 89, 180, 1, 21, 4, 100, 181, 1, 21, 3, 172]
abbrev dktX6_took_0 : List UInt8 := dkwX6_took_0 ++ []
theorem dksX6_took_0 : cX6_took.data.toList.drop 0 = dktX6_took_0 := by decide +kernel
theorem dX6_took_0 : decode cX6_took 0 = .ok (.aload_n 0, 1) := dk_42 (dk_at dksX6_took_0 0 rfl rfl)
theorem dX6_took_1 : decode cX6_took 1 = .ok (.dup, 1) := dk_89 (dk_at dksX6_took_0 1 rfl rfl)
theorem dX6_took_2 : decode cX6_took 2 = .ok (.getfield 277, 3) := dk_180 1 21 (dk_at dksX6_took_0 2 rfl rfl)
theorem dX6_took_5 : decode cX6_took 5 = .ok (.iconst 1, 1) := dk_4 (dk_at dksX6_took_0 5 rfl rfl)
theorem dX6_took_6 : decode cX6_took 6 = .ok (.isub, 1) := dk_100 (dk_at dksX6_took_0 6 rfl rfl)
theorem dX6_took_7 : decode cX6_took 7 = .ok (.putfield 277, 3) := dk_181 1 21 (dk_at dksX6_took_0 7 rfl rfl)
theorem dX6_took_10 : decode cX6_took 10 = .ok (.iconst 0, 1) := dk_3 (dk_at dksX6_took_0 10 rfl rfl)
theorem dX6_took_11 : decode cX6_took 11 = .ok (.ireturn, 1) := dk_172 (dk_at dksX6_took_0 11 rfl rfl)
abbrev cX6_matches : ByteArray := prog_23_method_52_code
def yX6_matches : MethodName := ⟨RX6, "matches", "(II)I"⟩
def dkwX6_matches_12 : List UInt8 := [153, 0, 7, 3, 167, 0, 4, 4, 172]
abbrev dktX6_matches_12 : List UInt8 := dkwX6_matches_12 ++ []
def dkwX6_matches_11 : List UInt8 := [153, 0, 20, 42, 180, 0, 31, 27, 46, 5, 159, 0, 10, 42, 27, 28, 29, 182, 1, 58, 21, 4]
abbrev dktX6_matches_11 : List UInt8 := dkwX6_matches_11 ++ dktX6_matches_12
def dkwX6_matches_10 : List UInt8 := [153, 0, 7, 4, 167, 0, 4, 3, 96, 181, 0, 234, 42, 27, 29, 182, 1, 55, 54, 4, 21, 4]
abbrev dktX6_matches_10 : List UInt8 := dkwX6_matches_10 ++ dktX6_matches_11
def dkwX6_matches_9 : List UInt8 := [182, 1, 49, 62, 42, 29, 28, 182, 1, 52, 153, 0, 5, 5, 172, 42, 89, 180, 0, 234, 42, 180, 1, 5]
abbrev dktX6_matches_9 : List UInt8 := dkwX6_matches_9 ++ dktX6_matches_10
def dkwX6_matches_8 : List UInt8 := [172, 42, 42, 180, 0, 40, 6, 27, 104, 46, 2, 29, 100, 182, 1, 24, 3, 172, 3, 172, 42, 28]
abbrev dktX6_matches_8 : List UInt8 := dkwX6_matches_8 ++ dktX6_matches_9
def dkwX6_matches_7 : List UInt8 := [160, 0, 25, 42, 7, 181, 1, 27, 42, 42, 180, 0, 34, 27, 46, 181, 1, 46, 42, 28, 181, 1, 30, 5]
abbrev dktX6_matches_7 : List UInt8 := dkwX6_matches_7 ++ dktX6_matches_8
def dkwX6_matches_6 : List UInt8 := [46, 28, 182, 1, 24, 3, 172, 42, 42, 180, 0, 34, 27, 46, 28, 182, 1, 43, 62, 29, 16, 247]
abbrev dktX6_matches_6 : List UInt8 := dkwX6_matches_6 ++ dktX6_matches_7
def dkwX6_matches_5 : List UInt8 := [42, 89, 180, 1, 21, 4, 96, 181, 1, 21, 42, 2, 3, 182, 1, 24, 42, 42, 180, 0, 40, 6, 27, 104]
abbrev dktX6_matches_5 : List UInt8 := dkwX6_matches_5 ++ dktX6_matches_6
def dkwX6_matches_4 : List UInt8 := [180, 1, 21, 42, 180, 0, 40, 6, 27, 104, 4, 96, 46, 79, 42, 180, 0, 104, 42, 180, 1, 21, 28, 79]
abbrev dktX6_matches_4 : List UInt8 := dkwX6_matches_4 ++ dktX6_matches_5
def dkwX6_matches_3 : List UInt8 := [182, 1, 24, 3, 172, 42, 180, 0, 98, 42, 180, 1, 21, 42, 180, 1, 18, 79, 42, 180, 0, 101, 42]
abbrev dktX6_matches_3 : List UInt8 := dkwX6_matches_3 ++ dktX6_matches_4
def dkwX6_matches_2 : List UInt8 := [42, 180, 0, 107, 42, 180, 0, 34, 27, 46, 28, 79, 42, 42, 180, 0, 40, 6, 27, 104, 46, 28]
abbrev dktX6_matches_2 : List UInt8 := dkwX6_matches_2 ++ dktX6_matches_3
def dkwX6_matches_1 : List UInt8 := [170, 0, 0, 0, 0, 0, 0, 199, 0, 0, 0, 0, 0, 0, 0, 5, 0, 0, 0, 197, 0, 0, 0, 40, 0, 0, 0, 199, 0, 0, 0, 199, 0, 0, 0, 67, 0, 0, 0, 140]
abbrev dktX6_matches_1 : List UInt8 := dkwX6_matches_1 ++ dktX6_matches_2
def dkwX6_matches_0 : List UInt8 := [3, 62, 42, 180, 0, 31, 27, 46]
abbrev dktX6_matches_0 : List UInt8 := dkwX6_matches_0 ++ dktX6_matches_1
theorem dksX6_matches_0 : cX6_matches.data.toList.drop 0 = dktX6_matches_0 := by decide +kernel
theorem dksX6_matches_1 : cX6_matches.data.toList.drop 8 = dktX6_matches_1 := dk_seg dksX6_matches_0 8 rfl rfl
theorem dksX6_matches_2 : cX6_matches.data.toList.drop 48 = dktX6_matches_2 := dk_seg dksX6_matches_1 40 rfl rfl
theorem dksX6_matches_3 : cX6_matches.data.toList.drop 70 = dktX6_matches_3 := dk_seg dksX6_matches_2 22 rfl rfl
theorem dksX6_matches_4 : cX6_matches.data.toList.drop 93 = dktX6_matches_4 := dk_seg dksX6_matches_3 23 rfl rfl
theorem dksX6_matches_5 : cX6_matches.data.toList.drop 117 = dktX6_matches_5 := dk_seg dksX6_matches_4 24 rfl rfl
theorem dksX6_matches_6 : cX6_matches.data.toList.drop 141 = dktX6_matches_6 := dk_seg dksX6_matches_5 24 rfl rfl
theorem dksX6_matches_7 : cX6_matches.data.toList.drop 163 = dktX6_matches_7 := dk_seg dksX6_matches_6 22 rfl rfl
theorem dksX6_matches_8 : cX6_matches.data.toList.drop 187 = dktX6_matches_8 := dk_seg dksX6_matches_7 24 rfl rfl
theorem dksX6_matches_9 : cX6_matches.data.toList.drop 209 = dktX6_matches_9 := dk_seg dksX6_matches_8 22 rfl rfl
theorem dksX6_matches_10 : cX6_matches.data.toList.drop 233 = dktX6_matches_10 := dk_seg dksX6_matches_9 24 rfl rfl
theorem dksX6_matches_11 : cX6_matches.data.toList.drop 255 = dktX6_matches_11 := dk_seg dksX6_matches_10 22 rfl rfl
theorem dksX6_matches_12 : cX6_matches.data.toList.drop 277 = dktX6_matches_12 := dk_seg dksX6_matches_11 22 rfl rfl
theorem dX6_matches_0 : decode cX6_matches 0 = .ok (.iconst 0, 1) := dk_3 (dk_at dksX6_matches_0 0 rfl rfl)
theorem dX6_matches_1 : decode cX6_matches 1 = .ok (.istore_n 3, 1) := dk_62 (dk_at dksX6_matches_0 1 rfl rfl)
theorem dX6_matches_2 : decode cX6_matches 2 = .ok (.aload_n 0, 1) := dk_42 (dk_at dksX6_matches_0 2 rfl rfl)
theorem dX6_matches_3 : decode cX6_matches 3 = .ok (.getfield 31, 3) := dk_180 0 31 (dk_at dksX6_matches_0 3 rfl rfl)
theorem dX6_matches_6 : decode cX6_matches 6 = .ok (.iload_n 1, 1) := dk_27 (dk_at dksX6_matches_0 6 rfl rfl)
theorem dX6_matches_7 : decode cX6_matches 7 = .ok (.iaload, 1) := dk_46 (dk_at dksX6_matches_0 7 rfl rfl)
theorem dX6_matches_8 : decode cX6_matches 8 = .ok (.tableswitch 199 0 5 #[197, 40, 199, 199, 67, 140], 40) := by decide +kernel
theorem dX6_matches_48 : decode cX6_matches 48 = .ok (.aload_n 0, 1) := dk_42 (dk_at dksX6_matches_2 0 rfl rfl)
theorem dX6_matches_49 : decode cX6_matches 49 = .ok (.getfield 107, 3) := dk_180 0 107 (dk_at dksX6_matches_2 1 rfl rfl)
theorem dX6_matches_52 : decode cX6_matches 52 = .ok (.aload_n 0, 1) := dk_42 (dk_at dksX6_matches_2 4 rfl rfl)
theorem dX6_matches_53 : decode cX6_matches 53 = .ok (.getfield 34, 3) := dk_180 0 34 (dk_at dksX6_matches_2 5 rfl rfl)
theorem dX6_matches_56 : decode cX6_matches 56 = .ok (.iload_n 1, 1) := dk_27 (dk_at dksX6_matches_2 8 rfl rfl)
theorem dX6_matches_57 : decode cX6_matches 57 = .ok (.iaload, 1) := dk_46 (dk_at dksX6_matches_2 9 rfl rfl)
theorem dX6_matches_58 : decode cX6_matches 58 = .ok (.iload_n 2, 1) := dk_28 (dk_at dksX6_matches_2 10 rfl rfl)
theorem dX6_matches_59 : decode cX6_matches 59 = .ok (.iastore, 1) := dk_79 (dk_at dksX6_matches_2 11 rfl rfl)
theorem dX6_matches_60 : decode cX6_matches 60 = .ok (.aload_n 0, 1) := dk_42 (dk_at dksX6_matches_2 12 rfl rfl)
theorem dX6_matches_61 : decode cX6_matches 61 = .ok (.aload_n 0, 1) := dk_42 (dk_at dksX6_matches_2 13 rfl rfl)
theorem dX6_matches_62 : decode cX6_matches 62 = .ok (.getfield 40, 3) := dk_180 0 40 (dk_at dksX6_matches_2 14 rfl rfl)
theorem dX6_matches_65 : decode cX6_matches 65 = .ok (.iconst 3, 1) := dk_6 (dk_at dksX6_matches_2 17 rfl rfl)
theorem dX6_matches_66 : decode cX6_matches 66 = .ok (.iload_n 1, 1) := dk_27 (dk_at dksX6_matches_2 18 rfl rfl)
theorem dX6_matches_67 : decode cX6_matches 67 = .ok (.imul, 1) := dk_104 (dk_at dksX6_matches_2 19 rfl rfl)
theorem dX6_matches_68 : decode cX6_matches 68 = .ok (.iaload, 1) := dk_46 (dk_at dksX6_matches_2 20 rfl rfl)
theorem dX6_matches_69 : decode cX6_matches 69 = .ok (.iload_n 2, 1) := dk_28 (dk_at dksX6_matches_2 21 rfl rfl)
theorem dX6_matches_70 : decode cX6_matches 70 = .ok (.invokevirtual 280, 3) := dk_182 1 24 (dk_at dksX6_matches_3 0 rfl rfl)
theorem dX6_matches_73 : decode cX6_matches 73 = .ok (.iconst 0, 1) := dk_3 (dk_at dksX6_matches_3 3 rfl rfl)
theorem dX6_matches_74 : decode cX6_matches 74 = .ok (.ireturn, 1) := dk_172 (dk_at dksX6_matches_3 4 rfl rfl)
theorem dX6_matches_75 : decode cX6_matches 75 = .ok (.aload_n 0, 1) := dk_42 (dk_at dksX6_matches_3 5 rfl rfl)
theorem dX6_matches_76 : decode cX6_matches 76 = .ok (.getfield 98, 3) := dk_180 0 98 (dk_at dksX6_matches_3 6 rfl rfl)
theorem dX6_matches_79 : decode cX6_matches 79 = .ok (.aload_n 0, 1) := dk_42 (dk_at dksX6_matches_3 9 rfl rfl)
theorem dX6_matches_80 : decode cX6_matches 80 = .ok (.getfield 277, 3) := dk_180 1 21 (dk_at dksX6_matches_3 10 rfl rfl)
theorem dX6_matches_83 : decode cX6_matches 83 = .ok (.aload_n 0, 1) := dk_42 (dk_at dksX6_matches_3 13 rfl rfl)
theorem dX6_matches_84 : decode cX6_matches 84 = .ok (.getfield 274, 3) := dk_180 1 18 (dk_at dksX6_matches_3 14 rfl rfl)
theorem dX6_matches_87 : decode cX6_matches 87 = .ok (.iastore, 1) := dk_79 (dk_at dksX6_matches_3 17 rfl rfl)
theorem dX6_matches_88 : decode cX6_matches 88 = .ok (.aload_n 0, 1) := dk_42 (dk_at dksX6_matches_3 18 rfl rfl)
theorem dX6_matches_89 : decode cX6_matches 89 = .ok (.getfield 101, 3) := dk_180 0 101 (dk_at dksX6_matches_3 19 rfl rfl)
theorem dX6_matches_92 : decode cX6_matches 92 = .ok (.aload_n 0, 1) := dk_42 (dk_at dksX6_matches_3 22 rfl rfl)
theorem dX6_matches_93 : decode cX6_matches 93 = .ok (.getfield 277, 3) := dk_180 1 21 (dk_at dksX6_matches_4 0 rfl rfl)
theorem dX6_matches_96 : decode cX6_matches 96 = .ok (.aload_n 0, 1) := dk_42 (dk_at dksX6_matches_4 3 rfl rfl)
theorem dX6_matches_97 : decode cX6_matches 97 = .ok (.getfield 40, 3) := dk_180 0 40 (dk_at dksX6_matches_4 4 rfl rfl)
theorem dX6_matches_100 : decode cX6_matches 100 = .ok (.iconst 3, 1) := dk_6 (dk_at dksX6_matches_4 7 rfl rfl)
theorem dX6_matches_101 : decode cX6_matches 101 = .ok (.iload_n 1, 1) := dk_27 (dk_at dksX6_matches_4 8 rfl rfl)
theorem dX6_matches_102 : decode cX6_matches 102 = .ok (.imul, 1) := dk_104 (dk_at dksX6_matches_4 9 rfl rfl)
theorem dX6_matches_103 : decode cX6_matches 103 = .ok (.iconst 1, 1) := dk_4 (dk_at dksX6_matches_4 10 rfl rfl)
theorem dX6_matches_104 : decode cX6_matches 104 = .ok (.iadd, 1) := dk_96 (dk_at dksX6_matches_4 11 rfl rfl)
theorem dX6_matches_105 : decode cX6_matches 105 = .ok (.iaload, 1) := dk_46 (dk_at dksX6_matches_4 12 rfl rfl)
theorem dX6_matches_106 : decode cX6_matches 106 = .ok (.iastore, 1) := dk_79 (dk_at dksX6_matches_4 13 rfl rfl)
theorem dX6_matches_107 : decode cX6_matches 107 = .ok (.aload_n 0, 1) := dk_42 (dk_at dksX6_matches_4 14 rfl rfl)
theorem dX6_matches_108 : decode cX6_matches 108 = .ok (.getfield 104, 3) := dk_180 0 104 (dk_at dksX6_matches_4 15 rfl rfl)
theorem dX6_matches_111 : decode cX6_matches 111 = .ok (.aload_n 0, 1) := dk_42 (dk_at dksX6_matches_4 18 rfl rfl)
theorem dX6_matches_112 : decode cX6_matches 112 = .ok (.getfield 277, 3) := dk_180 1 21 (dk_at dksX6_matches_4 19 rfl rfl)
theorem dX6_matches_115 : decode cX6_matches 115 = .ok (.iload_n 2, 1) := dk_28 (dk_at dksX6_matches_4 22 rfl rfl)
theorem dX6_matches_116 : decode cX6_matches 116 = .ok (.iastore, 1) := dk_79 (dk_at dksX6_matches_4 23 rfl rfl)
theorem dX6_matches_117 : decode cX6_matches 117 = .ok (.aload_n 0, 1) := dk_42 (dk_at dksX6_matches_5 0 rfl rfl)
theorem dX6_matches_118 : decode cX6_matches 118 = .ok (.dup, 1) := dk_89 (dk_at dksX6_matches_5 1 rfl rfl)
theorem dX6_matches_119 : decode cX6_matches 119 = .ok (.getfield 277, 3) := dk_180 1 21 (dk_at dksX6_matches_5 2 rfl rfl)
theorem dX6_matches_122 : decode cX6_matches 122 = .ok (.iconst 1, 1) := dk_4 (dk_at dksX6_matches_5 5 rfl rfl)
theorem dX6_matches_123 : decode cX6_matches 123 = .ok (.iadd, 1) := dk_96 (dk_at dksX6_matches_5 6 rfl rfl)
theorem dX6_matches_124 : decode cX6_matches 124 = .ok (.putfield 277, 3) := dk_181 1 21 (dk_at dksX6_matches_5 7 rfl rfl)
theorem dX6_matches_127 : decode cX6_matches 127 = .ok (.aload_n 0, 1) := dk_42 (dk_at dksX6_matches_5 10 rfl rfl)
theorem dX6_matches_128 : decode cX6_matches 128 = .ok (.iconst (-1), 1) := dk_2 (dk_at dksX6_matches_5 11 rfl rfl)
theorem dX6_matches_129 : decode cX6_matches 129 = .ok (.iconst 0, 1) := dk_3 (dk_at dksX6_matches_5 12 rfl rfl)
theorem dX6_matches_130 : decode cX6_matches 130 = .ok (.invokevirtual 280, 3) := dk_182 1 24 (dk_at dksX6_matches_5 13 rfl rfl)
theorem dX6_matches_133 : decode cX6_matches 133 = .ok (.aload_n 0, 1) := dk_42 (dk_at dksX6_matches_5 16 rfl rfl)
theorem dX6_matches_134 : decode cX6_matches 134 = .ok (.aload_n 0, 1) := dk_42 (dk_at dksX6_matches_5 17 rfl rfl)
theorem dX6_matches_135 : decode cX6_matches 135 = .ok (.getfield 40, 3) := dk_180 0 40 (dk_at dksX6_matches_5 18 rfl rfl)
theorem dX6_matches_138 : decode cX6_matches 138 = .ok (.iconst 3, 1) := dk_6 (dk_at dksX6_matches_5 21 rfl rfl)
theorem dX6_matches_139 : decode cX6_matches 139 = .ok (.iload_n 1, 1) := dk_27 (dk_at dksX6_matches_5 22 rfl rfl)
theorem dX6_matches_140 : decode cX6_matches 140 = .ok (.imul, 1) := dk_104 (dk_at dksX6_matches_5 23 rfl rfl)
theorem dX6_matches_141 : decode cX6_matches 141 = .ok (.iaload, 1) := dk_46 (dk_at dksX6_matches_6 0 rfl rfl)
theorem dX6_matches_142 : decode cX6_matches 142 = .ok (.iload_n 2, 1) := dk_28 (dk_at dksX6_matches_6 1 rfl rfl)
theorem dX6_matches_143 : decode cX6_matches 143 = .ok (.invokevirtual 280, 3) := dk_182 1 24 (dk_at dksX6_matches_6 2 rfl rfl)
theorem dX6_matches_146 : decode cX6_matches 146 = .ok (.iconst 0, 1) := dk_3 (dk_at dksX6_matches_6 5 rfl rfl)
theorem dX6_matches_147 : decode cX6_matches 147 = .ok (.ireturn, 1) := dk_172 (dk_at dksX6_matches_6 6 rfl rfl)
theorem dX6_matches_148 : decode cX6_matches 148 = .ok (.aload_n 0, 1) := dk_42 (dk_at dksX6_matches_6 7 rfl rfl)
theorem dX6_matches_149 : decode cX6_matches 149 = .ok (.aload_n 0, 1) := dk_42 (dk_at dksX6_matches_6 8 rfl rfl)
theorem dX6_matches_150 : decode cX6_matches 150 = .ok (.getfield 34, 3) := dk_180 0 34 (dk_at dksX6_matches_6 9 rfl rfl)
theorem dX6_matches_153 : decode cX6_matches 153 = .ok (.iload_n 1, 1) := dk_27 (dk_at dksX6_matches_6 12 rfl rfl)
theorem dX6_matches_154 : decode cX6_matches 154 = .ok (.iaload, 1) := dk_46 (dk_at dksX6_matches_6 13 rfl rfl)
theorem dX6_matches_155 : decode cX6_matches 155 = .ok (.iload_n 2, 1) := dk_28 (dk_at dksX6_matches_6 14 rfl rfl)
theorem dX6_matches_156 : decode cX6_matches 156 = .ok (.invokevirtual 299, 3) := dk_182 1 43 (dk_at dksX6_matches_6 15 rfl rfl)
theorem dX6_matches_159 : decode cX6_matches 159 = .ok (.istore_n 3, 1) := dk_62 (dk_at dksX6_matches_6 18 rfl rfl)
theorem dX6_matches_160 : decode cX6_matches 160 = .ok (.iload_n 3, 1) := dk_29 (dk_at dksX6_matches_6 19 rfl rfl)
theorem dX6_matches_161 : decode cX6_matches 161 = .ok (.bipush (-9), 2) := dk_16 247 (dk_at dksX6_matches_6 20 rfl rfl)
theorem dX6_matches_163 : decode cX6_matches 163 = .ok (.if_icmp .ne 25, 3) := dk_160 0 25 (dk_at dksX6_matches_7 0 rfl rfl)
theorem dX6_matches_166 : decode cX6_matches 166 = .ok (.aload_n 0, 1) := dk_42 (dk_at dksX6_matches_7 3 rfl rfl)
theorem dX6_matches_167 : decode cX6_matches 167 = .ok (.iconst 4, 1) := dk_7 (dk_at dksX6_matches_7 4 rfl rfl)
theorem dX6_matches_168 : decode cX6_matches 168 = .ok (.putfield 283, 3) := dk_181 1 27 (dk_at dksX6_matches_7 5 rfl rfl)
theorem dX6_matches_171 : decode cX6_matches 171 = .ok (.aload_n 0, 1) := dk_42 (dk_at dksX6_matches_7 8 rfl rfl)
theorem dX6_matches_172 : decode cX6_matches 172 = .ok (.aload_n 0, 1) := dk_42 (dk_at dksX6_matches_7 9 rfl rfl)
theorem dX6_matches_173 : decode cX6_matches 173 = .ok (.getfield 34, 3) := dk_180 0 34 (dk_at dksX6_matches_7 10 rfl rfl)
theorem dX6_matches_176 : decode cX6_matches 176 = .ok (.iload_n 1, 1) := dk_27 (dk_at dksX6_matches_7 13 rfl rfl)
theorem dX6_matches_177 : decode cX6_matches 177 = .ok (.iaload, 1) := dk_46 (dk_at dksX6_matches_7 14 rfl rfl)
theorem dX6_matches_178 : decode cX6_matches 178 = .ok (.putfield 302, 3) := dk_181 1 46 (dk_at dksX6_matches_7 15 rfl rfl)
theorem dX6_matches_181 : decode cX6_matches 181 = .ok (.aload_n 0, 1) := dk_42 (dk_at dksX6_matches_7 18 rfl rfl)
theorem dX6_matches_182 : decode cX6_matches 182 = .ok (.iload_n 2, 1) := dk_28 (dk_at dksX6_matches_7 19 rfl rfl)
theorem dX6_matches_183 : decode cX6_matches 183 = .ok (.putfield 286, 3) := dk_181 1 30 (dk_at dksX6_matches_7 20 rfl rfl)
theorem dX6_matches_186 : decode cX6_matches 186 = .ok (.iconst 2, 1) := dk_5 (dk_at dksX6_matches_7 23 rfl rfl)
theorem dX6_matches_187 : decode cX6_matches 187 = .ok (.ireturn, 1) := dk_172 (dk_at dksX6_matches_8 0 rfl rfl)
theorem dX6_matches_188 : decode cX6_matches 188 = .ok (.aload_n 0, 1) := dk_42 (dk_at dksX6_matches_8 1 rfl rfl)
theorem dX6_matches_189 : decode cX6_matches 189 = .ok (.aload_n 0, 1) := dk_42 (dk_at dksX6_matches_8 2 rfl rfl)
theorem dX6_matches_190 : decode cX6_matches 190 = .ok (.getfield 40, 3) := dk_180 0 40 (dk_at dksX6_matches_8 3 rfl rfl)
theorem dX6_matches_193 : decode cX6_matches 193 = .ok (.iconst 3, 1) := dk_6 (dk_at dksX6_matches_8 6 rfl rfl)
theorem dX6_matches_194 : decode cX6_matches 194 = .ok (.iload_n 1, 1) := dk_27 (dk_at dksX6_matches_8 7 rfl rfl)
theorem dX6_matches_195 : decode cX6_matches 195 = .ok (.imul, 1) := dk_104 (dk_at dksX6_matches_8 8 rfl rfl)
theorem dX6_matches_196 : decode cX6_matches 196 = .ok (.iaload, 1) := dk_46 (dk_at dksX6_matches_8 9 rfl rfl)
theorem dX6_matches_197 : decode cX6_matches 197 = .ok (.iconst (-1), 1) := dk_2 (dk_at dksX6_matches_8 10 rfl rfl)
theorem dX6_matches_198 : decode cX6_matches 198 = .ok (.iload_n 3, 1) := dk_29 (dk_at dksX6_matches_8 11 rfl rfl)
theorem dX6_matches_199 : decode cX6_matches 199 = .ok (.isub, 1) := dk_100 (dk_at dksX6_matches_8 12 rfl rfl)
theorem dX6_matches_200 : decode cX6_matches 200 = .ok (.invokevirtual 280, 3) := dk_182 1 24 (dk_at dksX6_matches_8 13 rfl rfl)
theorem dX6_matches_203 : decode cX6_matches 203 = .ok (.iconst 0, 1) := dk_3 (dk_at dksX6_matches_8 16 rfl rfl)
theorem dX6_matches_204 : decode cX6_matches 204 = .ok (.ireturn, 1) := dk_172 (dk_at dksX6_matches_8 17 rfl rfl)
theorem dX6_matches_205 : decode cX6_matches 205 = .ok (.iconst 0, 1) := dk_3 (dk_at dksX6_matches_8 18 rfl rfl)
theorem dX6_matches_206 : decode cX6_matches 206 = .ok (.ireturn, 1) := dk_172 (dk_at dksX6_matches_8 19 rfl rfl)
theorem dX6_matches_207 : decode cX6_matches 207 = .ok (.aload_n 0, 1) := dk_42 (dk_at dksX6_matches_8 20 rfl rfl)
theorem dX6_matches_208 : decode cX6_matches 208 = .ok (.iload_n 2, 1) := dk_28 (dk_at dksX6_matches_8 21 rfl rfl)
theorem dX6_matches_209 : decode cX6_matches 209 = .ok (.invokevirtual 305, 3) := dk_182 1 49 (dk_at dksX6_matches_9 0 rfl rfl)
theorem dX6_matches_212 : decode cX6_matches 212 = .ok (.istore_n 3, 1) := dk_62 (dk_at dksX6_matches_9 3 rfl rfl)
theorem dX6_matches_213 : decode cX6_matches 213 = .ok (.aload_n 0, 1) := dk_42 (dk_at dksX6_matches_9 4 rfl rfl)
theorem dX6_matches_214 : decode cX6_matches 214 = .ok (.iload_n 3, 1) := dk_29 (dk_at dksX6_matches_9 5 rfl rfl)
theorem dX6_matches_215 : decode cX6_matches 215 = .ok (.iload_n 2, 1) := dk_28 (dk_at dksX6_matches_9 6 rfl rfl)
theorem dX6_matches_216 : decode cX6_matches 216 = .ok (.invokevirtual 308, 3) := dk_182 1 52 (dk_at dksX6_matches_9 7 rfl rfl)
theorem dX6_matches_219 : decode cX6_matches 219 = .ok (.ifCond .eq 5, 3) := dk_153 0 5 (dk_at dksX6_matches_9 10 rfl rfl)
theorem dX6_matches_222 : decode cX6_matches 222 = .ok (.iconst 2, 1) := dk_5 (dk_at dksX6_matches_9 13 rfl rfl)
theorem dX6_matches_223 : decode cX6_matches 223 = .ok (.ireturn, 1) := dk_172 (dk_at dksX6_matches_9 14 rfl rfl)
theorem dX6_matches_224 : decode cX6_matches 224 = .ok (.aload_n 0, 1) := dk_42 (dk_at dksX6_matches_9 15 rfl rfl)
theorem dX6_matches_225 : decode cX6_matches 225 = .ok (.dup, 1) := dk_89 (dk_at dksX6_matches_9 16 rfl rfl)
theorem dX6_matches_226 : decode cX6_matches 226 = .ok (.getfield 234, 3) := dk_180 0 234 (dk_at dksX6_matches_9 17 rfl rfl)
theorem dX6_matches_229 : decode cX6_matches 229 = .ok (.aload_n 0, 1) := dk_42 (dk_at dksX6_matches_9 20 rfl rfl)
theorem dX6_matches_230 : decode cX6_matches 230 = .ok (.getfield 261, 3) := dk_180 1 5 (dk_at dksX6_matches_9 21 rfl rfl)
theorem dX6_matches_233 : decode cX6_matches 233 = .ok (.ifCond .eq 7, 3) := dk_153 0 7 (dk_at dksX6_matches_10 0 rfl rfl)
theorem dX6_matches_236 : decode cX6_matches 236 = .ok (.iconst 1, 1) := dk_4 (dk_at dksX6_matches_10 3 rfl rfl)
theorem dX6_matches_237 : decode cX6_matches 237 = .ok (.goto 4, 3) := dk_167 0 4 (dk_at dksX6_matches_10 4 rfl rfl)
theorem dX6_matches_240 : decode cX6_matches 240 = .ok (.iconst 0, 1) := dk_3 (dk_at dksX6_matches_10 7 rfl rfl)
theorem dX6_matches_241 : decode cX6_matches 241 = .ok (.iadd, 1) := dk_96 (dk_at dksX6_matches_10 8 rfl rfl)
theorem dX6_matches_242 : decode cX6_matches 242 = .ok (.putfield 234, 3) := dk_181 0 234 (dk_at dksX6_matches_10 9 rfl rfl)
theorem dX6_matches_245 : decode cX6_matches 245 = .ok (.aload_n 0, 1) := dk_42 (dk_at dksX6_matches_10 12 rfl rfl)
theorem dX6_matches_246 : decode cX6_matches 246 = .ok (.iload_n 1, 1) := dk_27 (dk_at dksX6_matches_10 13 rfl rfl)
theorem dX6_matches_247 : decode cX6_matches 247 = .ok (.iload_n 3, 1) := dk_29 (dk_at dksX6_matches_10 14 rfl rfl)
theorem dX6_matches_248 : decode cX6_matches 248 = .ok (.invokevirtual 311, 3) := dk_182 1 55 (dk_at dksX6_matches_10 15 rfl rfl)
theorem dX6_matches_251 : decode cX6_matches 251 = .ok (.istore 4, 2) := dk_54 4 (dk_at dksX6_matches_10 18 rfl rfl)
theorem dX6_matches_253 : decode cX6_matches 253 = .ok (.iload 4, 2) := dk_21 4 (dk_at dksX6_matches_10 20 rfl rfl)
theorem dX6_matches_255 : decode cX6_matches 255 = .ok (.ifCond .eq 20, 3) := dk_153 0 20 (dk_at dksX6_matches_11 0 rfl rfl)
theorem dX6_matches_258 : decode cX6_matches 258 = .ok (.aload_n 0, 1) := dk_42 (dk_at dksX6_matches_11 3 rfl rfl)
theorem dX6_matches_259 : decode cX6_matches 259 = .ok (.getfield 31, 3) := dk_180 0 31 (dk_at dksX6_matches_11 4 rfl rfl)
theorem dX6_matches_262 : decode cX6_matches 262 = .ok (.iload_n 1, 1) := dk_27 (dk_at dksX6_matches_11 7 rfl rfl)
theorem dX6_matches_263 : decode cX6_matches 263 = .ok (.iaload, 1) := dk_46 (dk_at dksX6_matches_11 8 rfl rfl)
theorem dX6_matches_264 : decode cX6_matches 264 = .ok (.iconst 2, 1) := dk_5 (dk_at dksX6_matches_11 9 rfl rfl)
theorem dX6_matches_265 : decode cX6_matches 265 = .ok (.if_icmp .eq 10, 3) := dk_159 0 10 (dk_at dksX6_matches_11 10 rfl rfl)
theorem dX6_matches_268 : decode cX6_matches 268 = .ok (.aload_n 0, 1) := dk_42 (dk_at dksX6_matches_11 13 rfl rfl)
theorem dX6_matches_269 : decode cX6_matches 269 = .ok (.iload_n 1, 1) := dk_27 (dk_at dksX6_matches_11 14 rfl rfl)
theorem dX6_matches_270 : decode cX6_matches 270 = .ok (.iload_n 2, 1) := dk_28 (dk_at dksX6_matches_11 15 rfl rfl)
theorem dX6_matches_271 : decode cX6_matches 271 = .ok (.iload_n 3, 1) := dk_29 (dk_at dksX6_matches_11 16 rfl rfl)
theorem dX6_matches_272 : decode cX6_matches 272 = .ok (.invokevirtual 314, 3) := dk_182 1 58 (dk_at dksX6_matches_11 17 rfl rfl)
theorem dX6_matches_275 : decode cX6_matches 275 = .ok (.iload 4, 2) := dk_21 4 (dk_at dksX6_matches_11 20 rfl rfl)
theorem dX6_matches_277 : decode cX6_matches 277 = .ok (.ifCond .eq 7, 3) := dk_153 0 7 (dk_at dksX6_matches_12 0 rfl rfl)
theorem dX6_matches_280 : decode cX6_matches 280 = .ok (.iconst 0, 1) := dk_3 (dk_at dksX6_matches_12 3 rfl rfl)
theorem dX6_matches_281 : decode cX6_matches 281 = .ok (.goto 4, 3) := dk_167 0 4 (dk_at dksX6_matches_12 4 rfl rfl)
theorem dX6_matches_284 : decode cX6_matches 284 = .ok (.iconst 1, 1) := dk_4 (dk_at dksX6_matches_12 7 rfl rfl)
theorem dX6_matches_285 : decode cX6_matches 285 = .ok (.ireturn, 1) := dk_172 (dk_at dksX6_matches_12 8 rfl rfl)
abbrev cX6_gave : ByteArray := prog_23_method_43_code
def yX6_gave : MethodName := ⟨RX6, "gave", "(II)I"⟩
def dkwX6_gave_12 : List UInt8 := [181, 0, 237, 29, 172]
abbrev dktX6_gave_12 : List UInt8 := dkwX6_gave_12 ++ []
def dkwX6_gave_11 : List UInt8 := [180, 0, 237, 28, 79, 42, 180, 0, 122, 42, 180, 0, 237, 29, 79, 42, 89, 180, 0, 237, 4, 96]
abbrev dktX6_gave_11 : List UInt8 := dkwX6_gave_11 ++ dktX6_gave_12
def dkwX6_gave_10 : List UInt8 := [21, 4, 96, 21, 4, 112, 62, 42, 180, 0, 116, 42, 180, 0, 237, 27, 79, 42, 180, 0, 119, 42]
abbrev dktX6_gave_10 : List UInt8 := dkwX6_gave_10 ++ dktX6_gave_11
def dkwX6_gave_9 : List UInt8 := [42, 180, 0, 237, 104, 96, 42, 180, 0, 62, 7, 27, 104, 5, 96, 46, 96, 54, 5, 21, 5, 21, 4, 112]
abbrev dktX6_gave_9 : List UInt8 := dkwX6_gave_9 ++ dktX6_gave_10
def dkwX6_gave_8 : List UInt8 := [42, 180, 0, 62, 7, 27, 104, 46, 42, 28, 182, 1, 15, 104, 42, 180, 0, 62, 7, 27, 104, 4, 96, 46]
abbrev dktX6_gave_8 : List UInt8 := dkwX6_gave_8 ++ dktX6_gave_9
def dkwX6_gave_7 : List UInt8 := [132, 4, 1, 167, 255, 210, 29, 16, 247, 160, 0, 110, 42, 180, 0, 62, 7, 27, 104, 6, 96, 46, 54, 4]
abbrev dktX6_gave_7 : List UInt8 := dkwX6_gave_7 ++ dktX6_gave_8
def dkwX6_gave_6 : List UInt8 := [180, 0, 119, 21, 4, 46, 28, 160, 0, 13, 42, 180, 0, 122, 21, 4, 46, 167, 0, 4, 29, 62]
abbrev dktX6_gave_6 : List UInt8 := dkwX6_gave_6 ++ dktX6_gave_7
def dkwX6_gave_5 : List UInt8 := [54, 4, 21, 4, 42, 180, 0, 237, 162, 0, 43, 42, 180, 0, 116, 21, 4, 46, 27, 160, 0, 24, 42]
abbrev dktX6_gave_5 : List UInt8 := dkwX6_gave_5 ++ dktX6_gave_6
def dkwX6_gave_4 : List UInt8 := [46, 46, 100, 167, 0, 4, 29, 62, 42, 180, 0, 128, 21, 4, 46, 54, 4, 167, 255, 162, 29, 172, 3]
abbrev dktX6_gave_4 : List UInt8 := dkwX6_gave_4 ++ dktX6_gave_5
def dkwX6_gave_3 : List UInt8 := [4, 167, 0, 4, 3, 54, 5, 21, 5, 153, 0, 21, 21, 4, 42, 180, 0, 140, 42, 180, 0, 128, 21, 4]
abbrev dktX6_gave_3 : List UInt8 := dkwX6_gave_3 ++ dktX6_gave_4
def dkwX6_gave_2 : List UInt8 := [21, 4, 46, 46, 27, 160, 0, 23, 42, 180, 0, 137, 42, 180, 0, 128, 21, 4, 46, 46, 28, 160, 0, 7]
abbrev dktX6_gave_2 : List UInt8 := dkwX6_gave_2 ++ dktX6_gave_3
def dkwX6_gave_1 : List UInt8 := [180, 0, 131, 42, 180, 0, 128, 21, 4, 46, 46, 7, 160, 0, 39, 42, 180, 0, 134, 42, 180, 0, 128]
abbrev dktX6_gave_1 : List UInt8 := dkwX6_gave_1 ++ dktX6_gave_2
def dkwX6_gave_0 : List UInt8 := [16, 247, 62, 42, 180, 1, 5, 154, 0, 108, 42, 180, 1, 12, 54, 4, 21, 4, 158, 0, 95, 42]
abbrev dktX6_gave_0 : List UInt8 := dkwX6_gave_0 ++ dktX6_gave_1
theorem dksX6_gave_0 : cX6_gave.data.toList.drop 0 = dktX6_gave_0 := by decide +kernel
theorem dksX6_gave_1 : cX6_gave.data.toList.drop 22 = dktX6_gave_1 := dk_seg dksX6_gave_0 22 rfl rfl
theorem dksX6_gave_2 : cX6_gave.data.toList.drop 45 = dktX6_gave_2 := dk_seg dksX6_gave_1 23 rfl rfl
theorem dksX6_gave_3 : cX6_gave.data.toList.drop 69 = dktX6_gave_3 := dk_seg dksX6_gave_2 24 rfl rfl
theorem dksX6_gave_4 : cX6_gave.data.toList.drop 93 = dktX6_gave_4 := dk_seg dksX6_gave_3 24 rfl rfl
theorem dksX6_gave_5 : cX6_gave.data.toList.drop 116 = dktX6_gave_5 := dk_seg dksX6_gave_4 23 rfl rfl
theorem dksX6_gave_6 : cX6_gave.data.toList.drop 139 = dktX6_gave_6 := dk_seg dksX6_gave_5 23 rfl rfl
theorem dksX6_gave_7 : cX6_gave.data.toList.drop 161 = dktX6_gave_7 := dk_seg dksX6_gave_6 22 rfl rfl
theorem dksX6_gave_8 : cX6_gave.data.toList.drop 185 = dktX6_gave_8 := dk_seg dksX6_gave_7 24 rfl rfl
theorem dksX6_gave_9 : cX6_gave.data.toList.drop 209 = dktX6_gave_9 := dk_seg dksX6_gave_8 24 rfl rfl
theorem dksX6_gave_10 : cX6_gave.data.toList.drop 233 = dktX6_gave_10 := dk_seg dksX6_gave_9 24 rfl rfl
theorem dksX6_gave_11 : cX6_gave.data.toList.drop 255 = dktX6_gave_11 := dk_seg dksX6_gave_10 22 rfl rfl
theorem dksX6_gave_12 : cX6_gave.data.toList.drop 277 = dktX6_gave_12 := dk_seg dksX6_gave_11 22 rfl rfl
theorem dX6_gave_0 : decode cX6_gave 0 = .ok (.bipush (-9), 2) := dk_16 247 (dk_at dksX6_gave_0 0 rfl rfl)
theorem dX6_gave_2 : decode cX6_gave 2 = .ok (.istore_n 3, 1) := dk_62 (dk_at dksX6_gave_0 2 rfl rfl)
theorem dX6_gave_3 : decode cX6_gave 3 = .ok (.aload_n 0, 1) := dk_42 (dk_at dksX6_gave_0 3 rfl rfl)
theorem dX6_gave_4 : decode cX6_gave 4 = .ok (.getfield 261, 3) := dk_180 1 5 (dk_at dksX6_gave_0 4 rfl rfl)
theorem dX6_gave_7 : decode cX6_gave 7 = .ok (.ifCond .ne 108, 3) := dk_154 0 108 (dk_at dksX6_gave_0 7 rfl rfl)
theorem dX6_gave_10 : decode cX6_gave 10 = .ok (.aload_n 0, 1) := dk_42 (dk_at dksX6_gave_0 10 rfl rfl)
theorem dX6_gave_11 : decode cX6_gave 11 = .ok (.getfield 268, 3) := dk_180 1 12 (dk_at dksX6_gave_0 11 rfl rfl)
theorem dX6_gave_14 : decode cX6_gave 14 = .ok (.istore 4, 2) := dk_54 4 (dk_at dksX6_gave_0 14 rfl rfl)
theorem dX6_gave_16 : decode cX6_gave 16 = .ok (.iload 4, 2) := dk_21 4 (dk_at dksX6_gave_0 16 rfl rfl)
theorem dX6_gave_18 : decode cX6_gave 18 = .ok (.ifCond .le 95, 3) := dk_158 0 95 (dk_at dksX6_gave_0 18 rfl rfl)
theorem dX6_gave_21 : decode cX6_gave 21 = .ok (.aload_n 0, 1) := dk_42 (dk_at dksX6_gave_0 21 rfl rfl)
theorem dX6_gave_22 : decode cX6_gave 22 = .ok (.getfield 131, 3) := dk_180 0 131 (dk_at dksX6_gave_1 0 rfl rfl)
theorem dX6_gave_25 : decode cX6_gave 25 = .ok (.aload_n 0, 1) := dk_42 (dk_at dksX6_gave_1 3 rfl rfl)
theorem dX6_gave_26 : decode cX6_gave 26 = .ok (.getfield 128, 3) := dk_180 0 128 (dk_at dksX6_gave_1 4 rfl rfl)
theorem dX6_gave_29 : decode cX6_gave 29 = .ok (.iload 4, 2) := dk_21 4 (dk_at dksX6_gave_1 7 rfl rfl)
theorem dX6_gave_31 : decode cX6_gave 31 = .ok (.iaload, 1) := dk_46 (dk_at dksX6_gave_1 9 rfl rfl)
theorem dX6_gave_32 : decode cX6_gave 32 = .ok (.iaload, 1) := dk_46 (dk_at dksX6_gave_1 10 rfl rfl)
theorem dX6_gave_33 : decode cX6_gave 33 = .ok (.iconst 4, 1) := dk_7 (dk_at dksX6_gave_1 11 rfl rfl)
theorem dX6_gave_34 : decode cX6_gave 34 = .ok (.if_icmp .ne 39, 3) := dk_160 0 39 (dk_at dksX6_gave_1 12 rfl rfl)
theorem dX6_gave_37 : decode cX6_gave 37 = .ok (.aload_n 0, 1) := dk_42 (dk_at dksX6_gave_1 15 rfl rfl)
theorem dX6_gave_38 : decode cX6_gave 38 = .ok (.getfield 134, 3) := dk_180 0 134 (dk_at dksX6_gave_1 16 rfl rfl)
theorem dX6_gave_41 : decode cX6_gave 41 = .ok (.aload_n 0, 1) := dk_42 (dk_at dksX6_gave_1 19 rfl rfl)
theorem dX6_gave_42 : decode cX6_gave 42 = .ok (.getfield 128, 3) := dk_180 0 128 (dk_at dksX6_gave_1 20 rfl rfl)
theorem dX6_gave_45 : decode cX6_gave 45 = .ok (.iload 4, 2) := dk_21 4 (dk_at dksX6_gave_2 0 rfl rfl)
theorem dX6_gave_47 : decode cX6_gave 47 = .ok (.iaload, 1) := dk_46 (dk_at dksX6_gave_2 2 rfl rfl)
theorem dX6_gave_48 : decode cX6_gave 48 = .ok (.iaload, 1) := dk_46 (dk_at dksX6_gave_2 3 rfl rfl)
theorem dX6_gave_49 : decode cX6_gave 49 = .ok (.iload_n 1, 1) := dk_27 (dk_at dksX6_gave_2 4 rfl rfl)
theorem dX6_gave_50 : decode cX6_gave 50 = .ok (.if_icmp .ne 23, 3) := dk_160 0 23 (dk_at dksX6_gave_2 5 rfl rfl)
theorem dX6_gave_53 : decode cX6_gave 53 = .ok (.aload_n 0, 1) := dk_42 (dk_at dksX6_gave_2 8 rfl rfl)
theorem dX6_gave_54 : decode cX6_gave 54 = .ok (.getfield 137, 3) := dk_180 0 137 (dk_at dksX6_gave_2 9 rfl rfl)
theorem dX6_gave_57 : decode cX6_gave 57 = .ok (.aload_n 0, 1) := dk_42 (dk_at dksX6_gave_2 12 rfl rfl)
theorem dX6_gave_58 : decode cX6_gave 58 = .ok (.getfield 128, 3) := dk_180 0 128 (dk_at dksX6_gave_2 13 rfl rfl)
theorem dX6_gave_61 : decode cX6_gave 61 = .ok (.iload 4, 2) := dk_21 4 (dk_at dksX6_gave_2 16 rfl rfl)
theorem dX6_gave_63 : decode cX6_gave 63 = .ok (.iaload, 1) := dk_46 (dk_at dksX6_gave_2 18 rfl rfl)
theorem dX6_gave_64 : decode cX6_gave 64 = .ok (.iaload, 1) := dk_46 (dk_at dksX6_gave_2 19 rfl rfl)
theorem dX6_gave_65 : decode cX6_gave 65 = .ok (.iload_n 2, 1) := dk_28 (dk_at dksX6_gave_2 20 rfl rfl)
theorem dX6_gave_66 : decode cX6_gave 66 = .ok (.if_icmp .ne 7, 3) := dk_160 0 7 (dk_at dksX6_gave_2 21 rfl rfl)
theorem dX6_gave_69 : decode cX6_gave 69 = .ok (.iconst 1, 1) := dk_4 (dk_at dksX6_gave_3 0 rfl rfl)
theorem dX6_gave_70 : decode cX6_gave 70 = .ok (.goto 4, 3) := dk_167 0 4 (dk_at dksX6_gave_3 1 rfl rfl)
theorem dX6_gave_73 : decode cX6_gave 73 = .ok (.iconst 0, 1) := dk_3 (dk_at dksX6_gave_3 4 rfl rfl)
theorem dX6_gave_74 : decode cX6_gave 74 = .ok (.istore 5, 2) := dk_54 5 (dk_at dksX6_gave_3 5 rfl rfl)
theorem dX6_gave_76 : decode cX6_gave 76 = .ok (.iload 5, 2) := dk_21 5 (dk_at dksX6_gave_3 7 rfl rfl)
theorem dX6_gave_78 : decode cX6_gave 78 = .ok (.ifCond .eq 21, 3) := dk_153 0 21 (dk_at dksX6_gave_3 9 rfl rfl)
theorem dX6_gave_81 : decode cX6_gave 81 = .ok (.iload 4, 2) := dk_21 4 (dk_at dksX6_gave_3 12 rfl rfl)
theorem dX6_gave_83 : decode cX6_gave 83 = .ok (.aload_n 0, 1) := dk_42 (dk_at dksX6_gave_3 14 rfl rfl)
theorem dX6_gave_84 : decode cX6_gave 84 = .ok (.getfield 140, 3) := dk_180 0 140 (dk_at dksX6_gave_3 15 rfl rfl)
theorem dX6_gave_87 : decode cX6_gave 87 = .ok (.aload_n 0, 1) := dk_42 (dk_at dksX6_gave_3 18 rfl rfl)
theorem dX6_gave_88 : decode cX6_gave 88 = .ok (.getfield 128, 3) := dk_180 0 128 (dk_at dksX6_gave_3 19 rfl rfl)
theorem dX6_gave_91 : decode cX6_gave 91 = .ok (.iload 4, 2) := dk_21 4 (dk_at dksX6_gave_3 22 rfl rfl)
theorem dX6_gave_93 : decode cX6_gave 93 = .ok (.iaload, 1) := dk_46 (dk_at dksX6_gave_4 0 rfl rfl)
theorem dX6_gave_94 : decode cX6_gave 94 = .ok (.iaload, 1) := dk_46 (dk_at dksX6_gave_4 1 rfl rfl)
theorem dX6_gave_95 : decode cX6_gave 95 = .ok (.isub, 1) := dk_100 (dk_at dksX6_gave_4 2 rfl rfl)
theorem dX6_gave_96 : decode cX6_gave 96 = .ok (.goto 4, 3) := dk_167 0 4 (dk_at dksX6_gave_4 3 rfl rfl)
theorem dX6_gave_99 : decode cX6_gave 99 = .ok (.iload_n 3, 1) := dk_29 (dk_at dksX6_gave_4 6 rfl rfl)
theorem dX6_gave_100 : decode cX6_gave 100 = .ok (.istore_n 3, 1) := dk_62 (dk_at dksX6_gave_4 7 rfl rfl)
theorem dX6_gave_101 : decode cX6_gave 101 = .ok (.aload_n 0, 1) := dk_42 (dk_at dksX6_gave_4 8 rfl rfl)
theorem dX6_gave_102 : decode cX6_gave 102 = .ok (.getfield 128, 3) := dk_180 0 128 (dk_at dksX6_gave_4 9 rfl rfl)
theorem dX6_gave_105 : decode cX6_gave 105 = .ok (.iload 4, 2) := dk_21 4 (dk_at dksX6_gave_4 12 rfl rfl)
theorem dX6_gave_107 : decode cX6_gave 107 = .ok (.iaload, 1) := dk_46 (dk_at dksX6_gave_4 14 rfl rfl)
theorem dX6_gave_108 : decode cX6_gave 108 = .ok (.istore 4, 2) := dk_54 4 (dk_at dksX6_gave_4 15 rfl rfl)
theorem dX6_gave_110 : decode cX6_gave 110 = .ok (.goto (-94), 3) := dk_167 255 162 (dk_at dksX6_gave_4 17 rfl rfl)
theorem dX6_gave_113 : decode cX6_gave 113 = .ok (.iload_n 3, 1) := dk_29 (dk_at dksX6_gave_4 20 rfl rfl)
theorem dX6_gave_114 : decode cX6_gave 114 = .ok (.ireturn, 1) := dk_172 (dk_at dksX6_gave_4 21 rfl rfl)
theorem dX6_gave_115 : decode cX6_gave 115 = .ok (.iconst 0, 1) := dk_3 (dk_at dksX6_gave_4 22 rfl rfl)
theorem dX6_gave_116 : decode cX6_gave 116 = .ok (.istore 4, 2) := dk_54 4 (dk_at dksX6_gave_5 0 rfl rfl)
theorem dX6_gave_118 : decode cX6_gave 118 = .ok (.iload 4, 2) := dk_21 4 (dk_at dksX6_gave_5 2 rfl rfl)
theorem dX6_gave_120 : decode cX6_gave 120 = .ok (.aload_n 0, 1) := dk_42 (dk_at dksX6_gave_5 4 rfl rfl)
theorem dX6_gave_121 : decode cX6_gave 121 = .ok (.getfield 237, 3) := dk_180 0 237 (dk_at dksX6_gave_5 5 rfl rfl)
theorem dX6_gave_124 : decode cX6_gave 124 = .ok (.if_icmp .ge 43, 3) := dk_162 0 43 (dk_at dksX6_gave_5 8 rfl rfl)
theorem dX6_gave_127 : decode cX6_gave 127 = .ok (.aload_n 0, 1) := dk_42 (dk_at dksX6_gave_5 11 rfl rfl)
theorem dX6_gave_128 : decode cX6_gave 128 = .ok (.getfield 116, 3) := dk_180 0 116 (dk_at dksX6_gave_5 12 rfl rfl)
theorem dX6_gave_131 : decode cX6_gave 131 = .ok (.iload 4, 2) := dk_21 4 (dk_at dksX6_gave_5 15 rfl rfl)
theorem dX6_gave_133 : decode cX6_gave 133 = .ok (.iaload, 1) := dk_46 (dk_at dksX6_gave_5 17 rfl rfl)
theorem dX6_gave_134 : decode cX6_gave 134 = .ok (.iload_n 1, 1) := dk_27 (dk_at dksX6_gave_5 18 rfl rfl)
theorem dX6_gave_135 : decode cX6_gave 135 = .ok (.if_icmp .ne 24, 3) := dk_160 0 24 (dk_at dksX6_gave_5 19 rfl rfl)
theorem dX6_gave_138 : decode cX6_gave 138 = .ok (.aload_n 0, 1) := dk_42 (dk_at dksX6_gave_5 22 rfl rfl)
theorem dX6_gave_139 : decode cX6_gave 139 = .ok (.getfield 119, 3) := dk_180 0 119 (dk_at dksX6_gave_6 0 rfl rfl)
theorem dX6_gave_142 : decode cX6_gave 142 = .ok (.iload 4, 2) := dk_21 4 (dk_at dksX6_gave_6 3 rfl rfl)
theorem dX6_gave_144 : decode cX6_gave 144 = .ok (.iaload, 1) := dk_46 (dk_at dksX6_gave_6 5 rfl rfl)
theorem dX6_gave_145 : decode cX6_gave 145 = .ok (.iload_n 2, 1) := dk_28 (dk_at dksX6_gave_6 6 rfl rfl)
theorem dX6_gave_146 : decode cX6_gave 146 = .ok (.if_icmp .ne 13, 3) := dk_160 0 13 (dk_at dksX6_gave_6 7 rfl rfl)
theorem dX6_gave_149 : decode cX6_gave 149 = .ok (.aload_n 0, 1) := dk_42 (dk_at dksX6_gave_6 10 rfl rfl)
theorem dX6_gave_150 : decode cX6_gave 150 = .ok (.getfield 122, 3) := dk_180 0 122 (dk_at dksX6_gave_6 11 rfl rfl)
theorem dX6_gave_153 : decode cX6_gave 153 = .ok (.iload 4, 2) := dk_21 4 (dk_at dksX6_gave_6 14 rfl rfl)
theorem dX6_gave_155 : decode cX6_gave 155 = .ok (.iaload, 1) := dk_46 (dk_at dksX6_gave_6 16 rfl rfl)
theorem dX6_gave_156 : decode cX6_gave 156 = .ok (.goto 4, 3) := dk_167 0 4 (dk_at dksX6_gave_6 17 rfl rfl)
theorem dX6_gave_159 : decode cX6_gave 159 = .ok (.iload_n 3, 1) := dk_29 (dk_at dksX6_gave_6 20 rfl rfl)
theorem dX6_gave_160 : decode cX6_gave 160 = .ok (.istore_n 3, 1) := dk_62 (dk_at dksX6_gave_6 21 rfl rfl)
theorem dX6_gave_161 : decode cX6_gave 161 = .ok (.iinc 4 1, 3) := dk_132 4 1 (dk_at dksX6_gave_7 0 rfl rfl)
theorem dX6_gave_164 : decode cX6_gave 164 = .ok (.goto (-46), 3) := dk_167 255 210 (dk_at dksX6_gave_7 3 rfl rfl)
theorem dX6_gave_167 : decode cX6_gave 167 = .ok (.iload_n 3, 1) := dk_29 (dk_at dksX6_gave_7 6 rfl rfl)
theorem dX6_gave_168 : decode cX6_gave 168 = .ok (.bipush (-9), 2) := dk_16 247 (dk_at dksX6_gave_7 7 rfl rfl)
theorem dX6_gave_170 : decode cX6_gave 170 = .ok (.if_icmp .ne 110, 3) := dk_160 0 110 (dk_at dksX6_gave_7 9 rfl rfl)
theorem dX6_gave_173 : decode cX6_gave 173 = .ok (.aload_n 0, 1) := dk_42 (dk_at dksX6_gave_7 12 rfl rfl)
theorem dX6_gave_174 : decode cX6_gave 174 = .ok (.getfield 62, 3) := dk_180 0 62 (dk_at dksX6_gave_7 13 rfl rfl)
theorem dX6_gave_177 : decode cX6_gave 177 = .ok (.iconst 4, 1) := dk_7 (dk_at dksX6_gave_7 16 rfl rfl)
theorem dX6_gave_178 : decode cX6_gave 178 = .ok (.iload_n 1, 1) := dk_27 (dk_at dksX6_gave_7 17 rfl rfl)
theorem dX6_gave_179 : decode cX6_gave 179 = .ok (.imul, 1) := dk_104 (dk_at dksX6_gave_7 18 rfl rfl)
theorem dX6_gave_180 : decode cX6_gave 180 = .ok (.iconst 3, 1) := dk_6 (dk_at dksX6_gave_7 19 rfl rfl)
theorem dX6_gave_181 : decode cX6_gave 181 = .ok (.iadd, 1) := dk_96 (dk_at dksX6_gave_7 20 rfl rfl)
theorem dX6_gave_182 : decode cX6_gave 182 = .ok (.iaload, 1) := dk_46 (dk_at dksX6_gave_7 21 rfl rfl)
theorem dX6_gave_183 : decode cX6_gave 183 = .ok (.istore 4, 2) := dk_54 4 (dk_at dksX6_gave_7 22 rfl rfl)
theorem dX6_gave_185 : decode cX6_gave 185 = .ok (.aload_n 0, 1) := dk_42 (dk_at dksX6_gave_8 0 rfl rfl)
theorem dX6_gave_186 : decode cX6_gave 186 = .ok (.getfield 62, 3) := dk_180 0 62 (dk_at dksX6_gave_8 1 rfl rfl)
theorem dX6_gave_189 : decode cX6_gave 189 = .ok (.iconst 4, 1) := dk_7 (dk_at dksX6_gave_8 4 rfl rfl)
theorem dX6_gave_190 : decode cX6_gave 190 = .ok (.iload_n 1, 1) := dk_27 (dk_at dksX6_gave_8 5 rfl rfl)
theorem dX6_gave_191 : decode cX6_gave 191 = .ok (.imul, 1) := dk_104 (dk_at dksX6_gave_8 6 rfl rfl)
theorem dX6_gave_192 : decode cX6_gave 192 = .ok (.iaload, 1) := dk_46 (dk_at dksX6_gave_8 7 rfl rfl)
theorem dX6_gave_193 : decode cX6_gave 193 = .ok (.aload_n 0, 1) := dk_42 (dk_at dksX6_gave_8 8 rfl rfl)
theorem dX6_gave_194 : decode cX6_gave 194 = .ok (.iload_n 2, 1) := dk_28 (dk_at dksX6_gave_8 9 rfl rfl)
theorem dX6_gave_195 : decode cX6_gave 195 = .ok (.invokevirtual 271, 3) := dk_182 1 15 (dk_at dksX6_gave_8 10 rfl rfl)
theorem dX6_gave_198 : decode cX6_gave 198 = .ok (.imul, 1) := dk_104 (dk_at dksX6_gave_8 13 rfl rfl)
theorem dX6_gave_199 : decode cX6_gave 199 = .ok (.aload_n 0, 1) := dk_42 (dk_at dksX6_gave_8 14 rfl rfl)
theorem dX6_gave_200 : decode cX6_gave 200 = .ok (.getfield 62, 3) := dk_180 0 62 (dk_at dksX6_gave_8 15 rfl rfl)
theorem dX6_gave_203 : decode cX6_gave 203 = .ok (.iconst 4, 1) := dk_7 (dk_at dksX6_gave_8 18 rfl rfl)
theorem dX6_gave_204 : decode cX6_gave 204 = .ok (.iload_n 1, 1) := dk_27 (dk_at dksX6_gave_8 19 rfl rfl)
theorem dX6_gave_205 : decode cX6_gave 205 = .ok (.imul, 1) := dk_104 (dk_at dksX6_gave_8 20 rfl rfl)
theorem dX6_gave_206 : decode cX6_gave 206 = .ok (.iconst 1, 1) := dk_4 (dk_at dksX6_gave_8 21 rfl rfl)
theorem dX6_gave_207 : decode cX6_gave 207 = .ok (.iadd, 1) := dk_96 (dk_at dksX6_gave_8 22 rfl rfl)
theorem dX6_gave_208 : decode cX6_gave 208 = .ok (.iaload, 1) := dk_46 (dk_at dksX6_gave_8 23 rfl rfl)
theorem dX6_gave_209 : decode cX6_gave 209 = .ok (.aload_n 0, 1) := dk_42 (dk_at dksX6_gave_9 0 rfl rfl)
theorem dX6_gave_210 : decode cX6_gave 210 = .ok (.getfield 237, 3) := dk_180 0 237 (dk_at dksX6_gave_9 1 rfl rfl)
theorem dX6_gave_213 : decode cX6_gave 213 = .ok (.imul, 1) := dk_104 (dk_at dksX6_gave_9 4 rfl rfl)
theorem dX6_gave_214 : decode cX6_gave 214 = .ok (.iadd, 1) := dk_96 (dk_at dksX6_gave_9 5 rfl rfl)
theorem dX6_gave_215 : decode cX6_gave 215 = .ok (.aload_n 0, 1) := dk_42 (dk_at dksX6_gave_9 6 rfl rfl)
theorem dX6_gave_216 : decode cX6_gave 216 = .ok (.getfield 62, 3) := dk_180 0 62 (dk_at dksX6_gave_9 7 rfl rfl)
theorem dX6_gave_219 : decode cX6_gave 219 = .ok (.iconst 4, 1) := dk_7 (dk_at dksX6_gave_9 10 rfl rfl)
theorem dX6_gave_220 : decode cX6_gave 220 = .ok (.iload_n 1, 1) := dk_27 (dk_at dksX6_gave_9 11 rfl rfl)
theorem dX6_gave_221 : decode cX6_gave 221 = .ok (.imul, 1) := dk_104 (dk_at dksX6_gave_9 12 rfl rfl)
theorem dX6_gave_222 : decode cX6_gave 222 = .ok (.iconst 2, 1) := dk_5 (dk_at dksX6_gave_9 13 rfl rfl)
theorem dX6_gave_223 : decode cX6_gave 223 = .ok (.iadd, 1) := dk_96 (dk_at dksX6_gave_9 14 rfl rfl)
theorem dX6_gave_224 : decode cX6_gave 224 = .ok (.iaload, 1) := dk_46 (dk_at dksX6_gave_9 15 rfl rfl)
theorem dX6_gave_225 : decode cX6_gave 225 = .ok (.iadd, 1) := dk_96 (dk_at dksX6_gave_9 16 rfl rfl)
theorem dX6_gave_226 : decode cX6_gave 226 = .ok (.istore 5, 2) := dk_54 5 (dk_at dksX6_gave_9 17 rfl rfl)
theorem dX6_gave_228 : decode cX6_gave 228 = .ok (.iload 5, 2) := dk_21 5 (dk_at dksX6_gave_9 19 rfl rfl)
theorem dX6_gave_230 : decode cX6_gave 230 = .ok (.iload 4, 2) := dk_21 4 (dk_at dksX6_gave_9 21 rfl rfl)
theorem dX6_gave_232 : decode cX6_gave 232 = .ok (.irem, 1) := dk_112 (dk_at dksX6_gave_9 23 rfl rfl)
theorem dX6_gave_233 : decode cX6_gave 233 = .ok (.iload 4, 2) := dk_21 4 (dk_at dksX6_gave_10 0 rfl rfl)
theorem dX6_gave_235 : decode cX6_gave 235 = .ok (.iadd, 1) := dk_96 (dk_at dksX6_gave_10 2 rfl rfl)
theorem dX6_gave_236 : decode cX6_gave 236 = .ok (.iload 4, 2) := dk_21 4 (dk_at dksX6_gave_10 3 rfl rfl)
theorem dX6_gave_238 : decode cX6_gave 238 = .ok (.irem, 1) := dk_112 (dk_at dksX6_gave_10 5 rfl rfl)
theorem dX6_gave_239 : decode cX6_gave 239 = .ok (.istore_n 3, 1) := dk_62 (dk_at dksX6_gave_10 6 rfl rfl)
theorem dX6_gave_240 : decode cX6_gave 240 = .ok (.aload_n 0, 1) := dk_42 (dk_at dksX6_gave_10 7 rfl rfl)
theorem dX6_gave_241 : decode cX6_gave 241 = .ok (.getfield 116, 3) := dk_180 0 116 (dk_at dksX6_gave_10 8 rfl rfl)
theorem dX6_gave_244 : decode cX6_gave 244 = .ok (.aload_n 0, 1) := dk_42 (dk_at dksX6_gave_10 11 rfl rfl)
theorem dX6_gave_245 : decode cX6_gave 245 = .ok (.getfield 237, 3) := dk_180 0 237 (dk_at dksX6_gave_10 12 rfl rfl)
theorem dX6_gave_248 : decode cX6_gave 248 = .ok (.iload_n 1, 1) := dk_27 (dk_at dksX6_gave_10 15 rfl rfl)
theorem dX6_gave_249 : decode cX6_gave 249 = .ok (.iastore, 1) := dk_79 (dk_at dksX6_gave_10 16 rfl rfl)
theorem dX6_gave_250 : decode cX6_gave 250 = .ok (.aload_n 0, 1) := dk_42 (dk_at dksX6_gave_10 17 rfl rfl)
theorem dX6_gave_251 : decode cX6_gave 251 = .ok (.getfield 119, 3) := dk_180 0 119 (dk_at dksX6_gave_10 18 rfl rfl)
theorem dX6_gave_254 : decode cX6_gave 254 = .ok (.aload_n 0, 1) := dk_42 (dk_at dksX6_gave_10 21 rfl rfl)
theorem dX6_gave_255 : decode cX6_gave 255 = .ok (.getfield 237, 3) := dk_180 0 237 (dk_at dksX6_gave_11 0 rfl rfl)
theorem dX6_gave_258 : decode cX6_gave 258 = .ok (.iload_n 2, 1) := dk_28 (dk_at dksX6_gave_11 3 rfl rfl)
theorem dX6_gave_259 : decode cX6_gave 259 = .ok (.iastore, 1) := dk_79 (dk_at dksX6_gave_11 4 rfl rfl)
theorem dX6_gave_260 : decode cX6_gave 260 = .ok (.aload_n 0, 1) := dk_42 (dk_at dksX6_gave_11 5 rfl rfl)
theorem dX6_gave_261 : decode cX6_gave 261 = .ok (.getfield 122, 3) := dk_180 0 122 (dk_at dksX6_gave_11 6 rfl rfl)
theorem dX6_gave_264 : decode cX6_gave 264 = .ok (.aload_n 0, 1) := dk_42 (dk_at dksX6_gave_11 9 rfl rfl)
theorem dX6_gave_265 : decode cX6_gave 265 = .ok (.getfield 237, 3) := dk_180 0 237 (dk_at dksX6_gave_11 10 rfl rfl)
theorem dX6_gave_268 : decode cX6_gave 268 = .ok (.iload_n 3, 1) := dk_29 (dk_at dksX6_gave_11 13 rfl rfl)
theorem dX6_gave_269 : decode cX6_gave 269 = .ok (.iastore, 1) := dk_79 (dk_at dksX6_gave_11 14 rfl rfl)
theorem dX6_gave_270 : decode cX6_gave 270 = .ok (.aload_n 0, 1) := dk_42 (dk_at dksX6_gave_11 15 rfl rfl)
theorem dX6_gave_271 : decode cX6_gave 271 = .ok (.dup, 1) := dk_89 (dk_at dksX6_gave_11 16 rfl rfl)
theorem dX6_gave_272 : decode cX6_gave 272 = .ok (.getfield 237, 3) := dk_180 0 237 (dk_at dksX6_gave_11 17 rfl rfl)
theorem dX6_gave_275 : decode cX6_gave 275 = .ok (.iconst 1, 1) := dk_4 (dk_at dksX6_gave_11 20 rfl rfl)
theorem dX6_gave_276 : decode cX6_gave 276 = .ok (.iadd, 1) := dk_96 (dk_at dksX6_gave_11 21 rfl rfl)
theorem dX6_gave_277 : decode cX6_gave 277 = .ok (.putfield 237, 3) := dk_181 0 237 (dk_at dksX6_gave_12 0 rfl rfl)
theorem dX6_gave_280 : decode cX6_gave 280 = .ok (.iload_n 3, 1) := dk_29 (dk_at dksX6_gave_12 3 rfl rfl)
theorem dX6_gave_281 : decode cX6_gave 281 = .ok (.ireturn, 1) := dk_172 (dk_at dksX6_gave_12 4 rfl rfl)
abbrev cX6_measureAt : ByteArray := prog_23_method_41_code
def yX6_measureAt : MethodName := ⟨RX6, "measureAt", "(I)I"⟩
def dkwX6_measureAt_0 : List UInt8 := [42, 27, 182, 1, 2, 61, 28, 156, 0, 9, 2, 28, 100, 167, 0, 9, 42, 180, 0, 28, 28, 46, 172]
abbrev dktX6_measureAt_0 : List UInt8 := dkwX6_measureAt_0 ++ []
theorem dksX6_measureAt_0 : cX6_measureAt.data.toList.drop 0 = dktX6_measureAt_0 := by decide +kernel
theorem dX6_measureAt_0 : decode cX6_measureAt 0 = .ok (.aload_n 0, 1) := dk_42 (dk_at dksX6_measureAt_0 0 rfl rfl)
theorem dX6_measureAt_1 : decode cX6_measureAt 1 = .ok (.iload_n 1, 1) := dk_27 (dk_at dksX6_measureAt_0 1 rfl rfl)
theorem dX6_measureAt_2 : decode cX6_measureAt 2 = .ok (.invokevirtual 258, 3) := dk_182 1 2 (dk_at dksX6_measureAt_0 2 rfl rfl)
theorem dX6_measureAt_5 : decode cX6_measureAt 5 = .ok (.istore_n 2, 1) := dk_61 (dk_at dksX6_measureAt_0 5 rfl rfl)
theorem dX6_measureAt_6 : decode cX6_measureAt 6 = .ok (.iload_n 2, 1) := dk_28 (dk_at dksX6_measureAt_0 6 rfl rfl)
theorem dX6_measureAt_7 : decode cX6_measureAt 7 = .ok (.ifCond .ge 9, 3) := dk_156 0 9 (dk_at dksX6_measureAt_0 7 rfl rfl)
theorem dX6_measureAt_10 : decode cX6_measureAt 10 = .ok (.iconst (-1), 1) := dk_2 (dk_at dksX6_measureAt_0 10 rfl rfl)
theorem dX6_measureAt_11 : decode cX6_measureAt 11 = .ok (.iload_n 2, 1) := dk_28 (dk_at dksX6_measureAt_0 11 rfl rfl)
theorem dX6_measureAt_12 : decode cX6_measureAt 12 = .ok (.isub, 1) := dk_100 (dk_at dksX6_measureAt_0 12 rfl rfl)
theorem dX6_measureAt_13 : decode cX6_measureAt 13 = .ok (.goto 9, 3) := dk_167 0 9 (dk_at dksX6_measureAt_0 13 rfl rfl)
theorem dX6_measureAt_16 : decode cX6_measureAt 16 = .ok (.aload_n 0, 1) := dk_42 (dk_at dksX6_measureAt_0 16 rfl rfl)
theorem dX6_measureAt_17 : decode cX6_measureAt 17 = .ok (.getfield 28, 3) := dk_180 0 28 (dk_at dksX6_measureAt_0 17 rfl rfl)
theorem dX6_measureAt_20 : decode cX6_measureAt 20 = .ok (.iload_n 2, 1) := dk_28 (dk_at dksX6_measureAt_0 20 rfl rfl)
theorem dX6_measureAt_21 : decode cX6_measureAt 21 = .ok (.iaload, 1) := dk_46 (dk_at dksX6_measureAt_0 21 rfl rfl)
theorem dX6_measureAt_22 : decode cX6_measureAt 22 = .ok (.ireturn, 1) := dk_172 (dk_at dksX6_measureAt_0 22 rfl rfl)
abbrev cX6_valueAt : ByteArray := prog_23_method_39_code
def yX6_valueAt : MethodName := ⟨RX6, "valueAt", "(I)I"⟩
def dkwX6_valueAt_3 : List UInt8 := [167, 255, 210, 29, 172]
abbrev dktX6_valueAt_3 : List UInt8 := dkwX6_valueAt_3 ++ []
def dkwX6_valueAt_2 : List UInt8 := [180, 0, 19, 29, 46, 8, 160, 0, 10, 2, 21, 5, 100, 167, 0, 5, 21, 5, 62, 132, 4, 255]
abbrev dktX6_valueAt_2 : List UInt8 := dkwX6_valueAt_2 ++ dktX6_valueAt_3
def dkwX6_valueAt_1 : List UInt8 := [21, 4, 155, 0, 47, 42, 180, 0, 25, 6, 29, 104, 42, 180, 0, 110, 21, 4, 46, 96, 46, 54, 5, 42]
abbrev dktX6_valueAt_1 : List UInt8 := dkwX6_valueAt_1 ++ dktX6_valueAt_2
def dkwX6_valueAt_0 : List UInt8 := [42, 27, 182, 0, 254, 61, 42, 180, 0, 113, 42, 180, 0, 110, 28, 46, 46, 62, 28, 4, 100, 54, 4]
abbrev dktX6_valueAt_0 : List UInt8 := dkwX6_valueAt_0 ++ dktX6_valueAt_1
theorem dksX6_valueAt_0 : cX6_valueAt.data.toList.drop 0 = dktX6_valueAt_0 := by decide +kernel
theorem dksX6_valueAt_1 : cX6_valueAt.data.toList.drop 23 = dktX6_valueAt_1 := dk_seg dksX6_valueAt_0 23 rfl rfl
theorem dksX6_valueAt_2 : cX6_valueAt.data.toList.drop 47 = dktX6_valueAt_2 := dk_seg dksX6_valueAt_1 24 rfl rfl
theorem dksX6_valueAt_3 : cX6_valueAt.data.toList.drop 69 = dktX6_valueAt_3 := dk_seg dksX6_valueAt_2 22 rfl rfl
theorem dX6_valueAt_0 : decode cX6_valueAt 0 = .ok (.aload_n 0, 1) := dk_42 (dk_at dksX6_valueAt_0 0 rfl rfl)
theorem dX6_valueAt_1 : decode cX6_valueAt 1 = .ok (.iload_n 1, 1) := dk_27 (dk_at dksX6_valueAt_0 1 rfl rfl)
theorem dX6_valueAt_2 : decode cX6_valueAt 2 = .ok (.invokevirtual 254, 3) := dk_182 0 254 (dk_at dksX6_valueAt_0 2 rfl rfl)
theorem dX6_valueAt_5 : decode cX6_valueAt 5 = .ok (.istore_n 2, 1) := dk_61 (dk_at dksX6_valueAt_0 5 rfl rfl)
theorem dX6_valueAt_6 : decode cX6_valueAt 6 = .ok (.aload_n 0, 1) := dk_42 (dk_at dksX6_valueAt_0 6 rfl rfl)
theorem dX6_valueAt_7 : decode cX6_valueAt 7 = .ok (.getfield 113, 3) := dk_180 0 113 (dk_at dksX6_valueAt_0 7 rfl rfl)
theorem dX6_valueAt_10 : decode cX6_valueAt 10 = .ok (.aload_n 0, 1) := dk_42 (dk_at dksX6_valueAt_0 10 rfl rfl)
theorem dX6_valueAt_11 : decode cX6_valueAt 11 = .ok (.getfield 110, 3) := dk_180 0 110 (dk_at dksX6_valueAt_0 11 rfl rfl)
theorem dX6_valueAt_14 : decode cX6_valueAt 14 = .ok (.iload_n 2, 1) := dk_28 (dk_at dksX6_valueAt_0 14 rfl rfl)
theorem dX6_valueAt_15 : decode cX6_valueAt 15 = .ok (.iaload, 1) := dk_46 (dk_at dksX6_valueAt_0 15 rfl rfl)
theorem dX6_valueAt_16 : decode cX6_valueAt 16 = .ok (.iaload, 1) := dk_46 (dk_at dksX6_valueAt_0 16 rfl rfl)
theorem dX6_valueAt_17 : decode cX6_valueAt 17 = .ok (.istore_n 3, 1) := dk_62 (dk_at dksX6_valueAt_0 17 rfl rfl)
theorem dX6_valueAt_18 : decode cX6_valueAt 18 = .ok (.iload_n 2, 1) := dk_28 (dk_at dksX6_valueAt_0 18 rfl rfl)
theorem dX6_valueAt_19 : decode cX6_valueAt 19 = .ok (.iconst 1, 1) := dk_4 (dk_at dksX6_valueAt_0 19 rfl rfl)
theorem dX6_valueAt_20 : decode cX6_valueAt 20 = .ok (.isub, 1) := dk_100 (dk_at dksX6_valueAt_0 20 rfl rfl)
theorem dX6_valueAt_21 : decode cX6_valueAt 21 = .ok (.istore 4, 2) := dk_54 4 (dk_at dksX6_valueAt_0 21 rfl rfl)
theorem dX6_valueAt_23 : decode cX6_valueAt 23 = .ok (.iload 4, 2) := dk_21 4 (dk_at dksX6_valueAt_1 0 rfl rfl)
theorem dX6_valueAt_25 : decode cX6_valueAt 25 = .ok (.ifCond .lt 47, 3) := dk_155 0 47 (dk_at dksX6_valueAt_1 2 rfl rfl)
theorem dX6_valueAt_28 : decode cX6_valueAt 28 = .ok (.aload_n 0, 1) := dk_42 (dk_at dksX6_valueAt_1 5 rfl rfl)
theorem dX6_valueAt_29 : decode cX6_valueAt 29 = .ok (.getfield 25, 3) := dk_180 0 25 (dk_at dksX6_valueAt_1 6 rfl rfl)
theorem dX6_valueAt_32 : decode cX6_valueAt 32 = .ok (.iconst 3, 1) := dk_6 (dk_at dksX6_valueAt_1 9 rfl rfl)
theorem dX6_valueAt_33 : decode cX6_valueAt 33 = .ok (.iload_n 3, 1) := dk_29 (dk_at dksX6_valueAt_1 10 rfl rfl)
theorem dX6_valueAt_34 : decode cX6_valueAt 34 = .ok (.imul, 1) := dk_104 (dk_at dksX6_valueAt_1 11 rfl rfl)
theorem dX6_valueAt_35 : decode cX6_valueAt 35 = .ok (.aload_n 0, 1) := dk_42 (dk_at dksX6_valueAt_1 12 rfl rfl)
theorem dX6_valueAt_36 : decode cX6_valueAt 36 = .ok (.getfield 110, 3) := dk_180 0 110 (dk_at dksX6_valueAt_1 13 rfl rfl)
theorem dX6_valueAt_39 : decode cX6_valueAt 39 = .ok (.iload 4, 2) := dk_21 4 (dk_at dksX6_valueAt_1 16 rfl rfl)
theorem dX6_valueAt_41 : decode cX6_valueAt 41 = .ok (.iaload, 1) := dk_46 (dk_at dksX6_valueAt_1 18 rfl rfl)
theorem dX6_valueAt_42 : decode cX6_valueAt 42 = .ok (.iadd, 1) := dk_96 (dk_at dksX6_valueAt_1 19 rfl rfl)
theorem dX6_valueAt_43 : decode cX6_valueAt 43 = .ok (.iaload, 1) := dk_46 (dk_at dksX6_valueAt_1 20 rfl rfl)
theorem dX6_valueAt_44 : decode cX6_valueAt 44 = .ok (.istore 5, 2) := dk_54 5 (dk_at dksX6_valueAt_1 21 rfl rfl)
theorem dX6_valueAt_46 : decode cX6_valueAt 46 = .ok (.aload_n 0, 1) := dk_42 (dk_at dksX6_valueAt_1 23 rfl rfl)
theorem dX6_valueAt_47 : decode cX6_valueAt 47 = .ok (.getfield 19, 3) := dk_180 0 19 (dk_at dksX6_valueAt_2 0 rfl rfl)
theorem dX6_valueAt_50 : decode cX6_valueAt 50 = .ok (.iload_n 3, 1) := dk_29 (dk_at dksX6_valueAt_2 3 rfl rfl)
theorem dX6_valueAt_51 : decode cX6_valueAt 51 = .ok (.iaload, 1) := dk_46 (dk_at dksX6_valueAt_2 4 rfl rfl)
theorem dX6_valueAt_52 : decode cX6_valueAt 52 = .ok (.iconst 5, 1) := dk_8 (dk_at dksX6_valueAt_2 5 rfl rfl)
theorem dX6_valueAt_53 : decode cX6_valueAt 53 = .ok (.if_icmp .ne 10, 3) := dk_160 0 10 (dk_at dksX6_valueAt_2 6 rfl rfl)
theorem dX6_valueAt_56 : decode cX6_valueAt 56 = .ok (.iconst (-1), 1) := dk_2 (dk_at dksX6_valueAt_2 9 rfl rfl)
theorem dX6_valueAt_57 : decode cX6_valueAt 57 = .ok (.iload 5, 2) := dk_21 5 (dk_at dksX6_valueAt_2 10 rfl rfl)
theorem dX6_valueAt_59 : decode cX6_valueAt 59 = .ok (.isub, 1) := dk_100 (dk_at dksX6_valueAt_2 12 rfl rfl)
theorem dX6_valueAt_60 : decode cX6_valueAt 60 = .ok (.goto 5, 3) := dk_167 0 5 (dk_at dksX6_valueAt_2 13 rfl rfl)
theorem dX6_valueAt_63 : decode cX6_valueAt 63 = .ok (.iload 5, 2) := dk_21 5 (dk_at dksX6_valueAt_2 16 rfl rfl)
theorem dX6_valueAt_65 : decode cX6_valueAt 65 = .ok (.istore_n 3, 1) := dk_62 (dk_at dksX6_valueAt_2 18 rfl rfl)
theorem dX6_valueAt_66 : decode cX6_valueAt 66 = .ok (.iinc 4 (-1), 3) := dk_132 4 255 (dk_at dksX6_valueAt_2 19 rfl rfl)
theorem dX6_valueAt_69 : decode cX6_valueAt 69 = .ok (.goto (-46), 3) := dk_167 255 210 (dk_at dksX6_valueAt_3 0 rfl rfl)
theorem dX6_valueAt_72 : decode cX6_valueAt 72 = .ok (.iload_n 3, 1) := dk_29 (dk_at dksX6_valueAt_3 3 rfl rfl)
theorem dX6_valueAt_73 : decode cX6_valueAt 73 = .ok (.ireturn, 1) := dk_172 (dk_at dksX6_valueAt_3 4 rfl rfl)
abbrev cX6_wayTo : ByteArray := prog_23_method_38_code
def yX6_wayTo : MethodName := ⟨RX6, "wayTo", "(I)I"⟩
def dkwX6_wayTo_1 : List UInt8 := [4, 100, 8, 108, 62, 167, 255, 231, 42, 180, 0, 110, 28, 29, 4, 100, 79, 28, 172]
abbrev dktX6_wayTo_1 : List UInt8 := dkwX6_wayTo_1 ++ []
def dkwX6_wayTo_0 : List UInt8 := [3, 61, 27, 62, 29, 6, 164, 0, 26, 42, 180, 0, 110, 28, 29, 4, 100, 8, 112, 79, 132, 2, 1, 29]
abbrev dktX6_wayTo_0 : List UInt8 := dkwX6_wayTo_0 ++ dktX6_wayTo_1
theorem dksX6_wayTo_0 : cX6_wayTo.data.toList.drop 0 = dktX6_wayTo_0 := by decide +kernel
theorem dksX6_wayTo_1 : cX6_wayTo.data.toList.drop 24 = dktX6_wayTo_1 := dk_seg dksX6_wayTo_0 24 rfl rfl
theorem dX6_wayTo_0 : decode cX6_wayTo 0 = .ok (.iconst 0, 1) := dk_3 (dk_at dksX6_wayTo_0 0 rfl rfl)
theorem dX6_wayTo_1 : decode cX6_wayTo 1 = .ok (.istore_n 2, 1) := dk_61 (dk_at dksX6_wayTo_0 1 rfl rfl)
theorem dX6_wayTo_2 : decode cX6_wayTo 2 = .ok (.iload_n 1, 1) := dk_27 (dk_at dksX6_wayTo_0 2 rfl rfl)
theorem dX6_wayTo_3 : decode cX6_wayTo 3 = .ok (.istore_n 3, 1) := dk_62 (dk_at dksX6_wayTo_0 3 rfl rfl)
theorem dX6_wayTo_4 : decode cX6_wayTo 4 = .ok (.iload_n 3, 1) := dk_29 (dk_at dksX6_wayTo_0 4 rfl rfl)
theorem dX6_wayTo_5 : decode cX6_wayTo 5 = .ok (.iconst 3, 1) := dk_6 (dk_at dksX6_wayTo_0 5 rfl rfl)
theorem dX6_wayTo_6 : decode cX6_wayTo 6 = .ok (.if_icmp .le 26, 3) := dk_164 0 26 (dk_at dksX6_wayTo_0 6 rfl rfl)
theorem dX6_wayTo_9 : decode cX6_wayTo 9 = .ok (.aload_n 0, 1) := dk_42 (dk_at dksX6_wayTo_0 9 rfl rfl)
theorem dX6_wayTo_10 : decode cX6_wayTo 10 = .ok (.getfield 110, 3) := dk_180 0 110 (dk_at dksX6_wayTo_0 10 rfl rfl)
theorem dX6_wayTo_13 : decode cX6_wayTo 13 = .ok (.iload_n 2, 1) := dk_28 (dk_at dksX6_wayTo_0 13 rfl rfl)
theorem dX6_wayTo_14 : decode cX6_wayTo 14 = .ok (.iload_n 3, 1) := dk_29 (dk_at dksX6_wayTo_0 14 rfl rfl)
theorem dX6_wayTo_15 : decode cX6_wayTo 15 = .ok (.iconst 1, 1) := dk_4 (dk_at dksX6_wayTo_0 15 rfl rfl)
theorem dX6_wayTo_16 : decode cX6_wayTo 16 = .ok (.isub, 1) := dk_100 (dk_at dksX6_wayTo_0 16 rfl rfl)
theorem dX6_wayTo_17 : decode cX6_wayTo 17 = .ok (.iconst 5, 1) := dk_8 (dk_at dksX6_wayTo_0 17 rfl rfl)
theorem dX6_wayTo_18 : decode cX6_wayTo 18 = .ok (.irem, 1) := dk_112 (dk_at dksX6_wayTo_0 18 rfl rfl)
theorem dX6_wayTo_19 : decode cX6_wayTo 19 = .ok (.iastore, 1) := dk_79 (dk_at dksX6_wayTo_0 19 rfl rfl)
theorem dX6_wayTo_20 : decode cX6_wayTo 20 = .ok (.iinc 2 1, 3) := dk_132 2 1 (dk_at dksX6_wayTo_0 20 rfl rfl)
theorem dX6_wayTo_23 : decode cX6_wayTo 23 = .ok (.iload_n 3, 1) := dk_29 (dk_at dksX6_wayTo_0 23 rfl rfl)
theorem dX6_wayTo_24 : decode cX6_wayTo 24 = .ok (.iconst 1, 1) := dk_4 (dk_at dksX6_wayTo_1 0 rfl rfl)
theorem dX6_wayTo_25 : decode cX6_wayTo 25 = .ok (.isub, 1) := dk_100 (dk_at dksX6_wayTo_1 1 rfl rfl)
theorem dX6_wayTo_26 : decode cX6_wayTo 26 = .ok (.iconst 5, 1) := dk_8 (dk_at dksX6_wayTo_1 2 rfl rfl)
theorem dX6_wayTo_27 : decode cX6_wayTo 27 = .ok (.idiv, 1) := dk_108 (dk_at dksX6_wayTo_1 3 rfl rfl)
theorem dX6_wayTo_28 : decode cX6_wayTo 28 = .ok (.istore_n 3, 1) := dk_62 (dk_at dksX6_wayTo_1 4 rfl rfl)
theorem dX6_wayTo_29 : decode cX6_wayTo 29 = .ok (.goto (-25), 3) := dk_167 255 231 (dk_at dksX6_wayTo_1 5 rfl rfl)
theorem dX6_wayTo_32 : decode cX6_wayTo 32 = .ok (.aload_n 0, 1) := dk_42 (dk_at dksX6_wayTo_1 8 rfl rfl)
theorem dX6_wayTo_33 : decode cX6_wayTo 33 = .ok (.getfield 110, 3) := dk_180 0 110 (dk_at dksX6_wayTo_1 9 rfl rfl)
theorem dX6_wayTo_36 : decode cX6_wayTo 36 = .ok (.iload_n 2, 1) := dk_28 (dk_at dksX6_wayTo_1 12 rfl rfl)
theorem dX6_wayTo_37 : decode cX6_wayTo 37 = .ok (.iload_n 3, 1) := dk_29 (dk_at dksX6_wayTo_1 13 rfl rfl)
theorem dX6_wayTo_38 : decode cX6_wayTo 38 = .ok (.iconst 1, 1) := dk_4 (dk_at dksX6_wayTo_1 14 rfl rfl)
theorem dX6_wayTo_39 : decode cX6_wayTo 39 = .ok (.isub, 1) := dk_100 (dk_at dksX6_wayTo_1 15 rfl rfl)
theorem dX6_wayTo_40 : decode cX6_wayTo 40 = .ok (.iastore, 1) := dk_79 (dk_at dksX6_wayTo_1 16 rfl rfl)
theorem dX6_wayTo_41 : decode cX6_wayTo 41 = .ok (.iload_n 2, 1) := dk_28 (dk_at dksX6_wayTo_1 17 rfl rfl)
theorem dX6_wayTo_42 : decode cX6_wayTo 42 = .ok (.ireturn, 1) := dk_172 (dk_at dksX6_wayTo_1 18 rfl rfl)
abbrev cX6_factAt : ByteArray := prog_23_method_42_code
def yX6_factAt : MethodName := ⟨RX6, "factAt", "(I)I"⟩
def dkwX6_factAt_3 : List UInt8 := [29, 46, 46, 100, 167, 0, 4, 28, 61, 42, 180, 0, 128, 29, 46, 62, 167, 255, 197, 28, 172]
abbrev dktX6_factAt_3 : List UInt8 := dkwX6_factAt_3 ++ []
def dkwX6_factAt_2 : List UInt8 := [42, 180, 0, 137, 42, 180, 0, 128, 29, 46, 46, 27, 160, 0, 19, 29, 42, 180, 0, 140, 42, 180, 0, 128]
abbrev dktX6_factAt_2 : List UInt8 := dkwX6_factAt_2 ++ dktX6_factAt_3
def dkwX6_factAt_1 : List UInt8 := [42, 180, 1, 12, 62, 29, 158, 0, 61, 42, 180, 0, 131, 42, 180, 0, 128, 29, 46, 46, 8, 160, 0, 34]
abbrev dktX6_factAt_1 : List UInt8 := dkwX6_factAt_1 ++ dktX6_factAt_2
def dkwX6_factAt_0 : List UInt8 := [27, 156, 0, 7, 2, 27, 100, 172, 42, 180, 1, 5, 153, 0, 9, 42, 27, 182, 1, 9, 172, 16, 247, 61]
abbrev dktX6_factAt_0 : List UInt8 := dkwX6_factAt_0 ++ dktX6_factAt_1
theorem dksX6_factAt_0 : cX6_factAt.data.toList.drop 0 = dktX6_factAt_0 := by decide +kernel
theorem dksX6_factAt_1 : cX6_factAt.data.toList.drop 24 = dktX6_factAt_1 := dk_seg dksX6_factAt_0 24 rfl rfl
theorem dksX6_factAt_2 : cX6_factAt.data.toList.drop 48 = dktX6_factAt_2 := dk_seg dksX6_factAt_1 24 rfl rfl
theorem dksX6_factAt_3 : cX6_factAt.data.toList.drop 72 = dktX6_factAt_3 := dk_seg dksX6_factAt_2 24 rfl rfl
theorem dX6_factAt_0 : decode cX6_factAt 0 = .ok (.iload_n 1, 1) := dk_27 (dk_at dksX6_factAt_0 0 rfl rfl)
theorem dX6_factAt_1 : decode cX6_factAt 1 = .ok (.ifCond .ge 7, 3) := dk_156 0 7 (dk_at dksX6_factAt_0 1 rfl rfl)
theorem dX6_factAt_4 : decode cX6_factAt 4 = .ok (.iconst (-1), 1) := dk_2 (dk_at dksX6_factAt_0 4 rfl rfl)
theorem dX6_factAt_5 : decode cX6_factAt 5 = .ok (.iload_n 1, 1) := dk_27 (dk_at dksX6_factAt_0 5 rfl rfl)
theorem dX6_factAt_6 : decode cX6_factAt 6 = .ok (.isub, 1) := dk_100 (dk_at dksX6_factAt_0 6 rfl rfl)
theorem dX6_factAt_7 : decode cX6_factAt 7 = .ok (.ireturn, 1) := dk_172 (dk_at dksX6_factAt_0 7 rfl rfl)
theorem dX6_factAt_8 : decode cX6_factAt 8 = .ok (.aload_n 0, 1) := dk_42 (dk_at dksX6_factAt_0 8 rfl rfl)
theorem dX6_factAt_9 : decode cX6_factAt 9 = .ok (.getfield 261, 3) := dk_180 1 5 (dk_at dksX6_factAt_0 9 rfl rfl)
theorem dX6_factAt_12 : decode cX6_factAt 12 = .ok (.ifCond .eq 9, 3) := dk_153 0 9 (dk_at dksX6_factAt_0 12 rfl rfl)
theorem dX6_factAt_15 : decode cX6_factAt 15 = .ok (.aload_n 0, 1) := dk_42 (dk_at dksX6_factAt_0 15 rfl rfl)
theorem dX6_factAt_16 : decode cX6_factAt 16 = .ok (.iload_n 1, 1) := dk_27 (dk_at dksX6_factAt_0 16 rfl rfl)
theorem dX6_factAt_17 : decode cX6_factAt 17 = .ok (.invokevirtual 265, 3) := dk_182 1 9 (dk_at dksX6_factAt_0 17 rfl rfl)
theorem dX6_factAt_20 : decode cX6_factAt 20 = .ok (.ireturn, 1) := dk_172 (dk_at dksX6_factAt_0 20 rfl rfl)
theorem dX6_factAt_21 : decode cX6_factAt 21 = .ok (.bipush (-9), 2) := dk_16 247 (dk_at dksX6_factAt_0 21 rfl rfl)
theorem dX6_factAt_23 : decode cX6_factAt 23 = .ok (.istore_n 2, 1) := dk_61 (dk_at dksX6_factAt_0 23 rfl rfl)
theorem dX6_factAt_24 : decode cX6_factAt 24 = .ok (.aload_n 0, 1) := dk_42 (dk_at dksX6_factAt_1 0 rfl rfl)
theorem dX6_factAt_25 : decode cX6_factAt 25 = .ok (.getfield 268, 3) := dk_180 1 12 (dk_at dksX6_factAt_1 1 rfl rfl)
theorem dX6_factAt_28 : decode cX6_factAt 28 = .ok (.istore_n 3, 1) := dk_62 (dk_at dksX6_factAt_1 4 rfl rfl)
theorem dX6_factAt_29 : decode cX6_factAt 29 = .ok (.iload_n 3, 1) := dk_29 (dk_at dksX6_factAt_1 5 rfl rfl)
theorem dX6_factAt_30 : decode cX6_factAt 30 = .ok (.ifCond .le 61, 3) := dk_158 0 61 (dk_at dksX6_factAt_1 6 rfl rfl)
theorem dX6_factAt_33 : decode cX6_factAt 33 = .ok (.aload_n 0, 1) := dk_42 (dk_at dksX6_factAt_1 9 rfl rfl)
theorem dX6_factAt_34 : decode cX6_factAt 34 = .ok (.getfield 131, 3) := dk_180 0 131 (dk_at dksX6_factAt_1 10 rfl rfl)
theorem dX6_factAt_37 : decode cX6_factAt 37 = .ok (.aload_n 0, 1) := dk_42 (dk_at dksX6_factAt_1 13 rfl rfl)
theorem dX6_factAt_38 : decode cX6_factAt 38 = .ok (.getfield 128, 3) := dk_180 0 128 (dk_at dksX6_factAt_1 14 rfl rfl)
theorem dX6_factAt_41 : decode cX6_factAt 41 = .ok (.iload_n 3, 1) := dk_29 (dk_at dksX6_factAt_1 17 rfl rfl)
theorem dX6_factAt_42 : decode cX6_factAt 42 = .ok (.iaload, 1) := dk_46 (dk_at dksX6_factAt_1 18 rfl rfl)
theorem dX6_factAt_43 : decode cX6_factAt 43 = .ok (.iaload, 1) := dk_46 (dk_at dksX6_factAt_1 19 rfl rfl)
theorem dX6_factAt_44 : decode cX6_factAt 44 = .ok (.iconst 5, 1) := dk_8 (dk_at dksX6_factAt_1 20 rfl rfl)
theorem dX6_factAt_45 : decode cX6_factAt 45 = .ok (.if_icmp .ne 34, 3) := dk_160 0 34 (dk_at dksX6_factAt_1 21 rfl rfl)
theorem dX6_factAt_48 : decode cX6_factAt 48 = .ok (.aload_n 0, 1) := dk_42 (dk_at dksX6_factAt_2 0 rfl rfl)
theorem dX6_factAt_49 : decode cX6_factAt 49 = .ok (.getfield 137, 3) := dk_180 0 137 (dk_at dksX6_factAt_2 1 rfl rfl)
theorem dX6_factAt_52 : decode cX6_factAt 52 = .ok (.aload_n 0, 1) := dk_42 (dk_at dksX6_factAt_2 4 rfl rfl)
theorem dX6_factAt_53 : decode cX6_factAt 53 = .ok (.getfield 128, 3) := dk_180 0 128 (dk_at dksX6_factAt_2 5 rfl rfl)
theorem dX6_factAt_56 : decode cX6_factAt 56 = .ok (.iload_n 3, 1) := dk_29 (dk_at dksX6_factAt_2 8 rfl rfl)
theorem dX6_factAt_57 : decode cX6_factAt 57 = .ok (.iaload, 1) := dk_46 (dk_at dksX6_factAt_2 9 rfl rfl)
theorem dX6_factAt_58 : decode cX6_factAt 58 = .ok (.iaload, 1) := dk_46 (dk_at dksX6_factAt_2 10 rfl rfl)
theorem dX6_factAt_59 : decode cX6_factAt 59 = .ok (.iload_n 1, 1) := dk_27 (dk_at dksX6_factAt_2 11 rfl rfl)
theorem dX6_factAt_60 : decode cX6_factAt 60 = .ok (.if_icmp .ne 19, 3) := dk_160 0 19 (dk_at dksX6_factAt_2 12 rfl rfl)
theorem dX6_factAt_63 : decode cX6_factAt 63 = .ok (.iload_n 3, 1) := dk_29 (dk_at dksX6_factAt_2 15 rfl rfl)
theorem dX6_factAt_64 : decode cX6_factAt 64 = .ok (.aload_n 0, 1) := dk_42 (dk_at dksX6_factAt_2 16 rfl rfl)
theorem dX6_factAt_65 : decode cX6_factAt 65 = .ok (.getfield 140, 3) := dk_180 0 140 (dk_at dksX6_factAt_2 17 rfl rfl)
theorem dX6_factAt_68 : decode cX6_factAt 68 = .ok (.aload_n 0, 1) := dk_42 (dk_at dksX6_factAt_2 20 rfl rfl)
theorem dX6_factAt_69 : decode cX6_factAt 69 = .ok (.getfield 128, 3) := dk_180 0 128 (dk_at dksX6_factAt_2 21 rfl rfl)
theorem dX6_factAt_72 : decode cX6_factAt 72 = .ok (.iload_n 3, 1) := dk_29 (dk_at dksX6_factAt_3 0 rfl rfl)
theorem dX6_factAt_73 : decode cX6_factAt 73 = .ok (.iaload, 1) := dk_46 (dk_at dksX6_factAt_3 1 rfl rfl)
theorem dX6_factAt_74 : decode cX6_factAt 74 = .ok (.iaload, 1) := dk_46 (dk_at dksX6_factAt_3 2 rfl rfl)
theorem dX6_factAt_75 : decode cX6_factAt 75 = .ok (.isub, 1) := dk_100 (dk_at dksX6_factAt_3 3 rfl rfl)
theorem dX6_factAt_76 : decode cX6_factAt 76 = .ok (.goto 4, 3) := dk_167 0 4 (dk_at dksX6_factAt_3 4 rfl rfl)
theorem dX6_factAt_79 : decode cX6_factAt 79 = .ok (.iload_n 2, 1) := dk_28 (dk_at dksX6_factAt_3 7 rfl rfl)
theorem dX6_factAt_80 : decode cX6_factAt 80 = .ok (.istore_n 2, 1) := dk_61 (dk_at dksX6_factAt_3 8 rfl rfl)
theorem dX6_factAt_81 : decode cX6_factAt 81 = .ok (.aload_n 0, 1) := dk_42 (dk_at dksX6_factAt_3 9 rfl rfl)
theorem dX6_factAt_82 : decode cX6_factAt 82 = .ok (.getfield 128, 3) := dk_180 0 128 (dk_at dksX6_factAt_3 10 rfl rfl)
theorem dX6_factAt_85 : decode cX6_factAt 85 = .ok (.iload_n 3, 1) := dk_29 (dk_at dksX6_factAt_3 13 rfl rfl)
theorem dX6_factAt_86 : decode cX6_factAt 86 = .ok (.iaload, 1) := dk_46 (dk_at dksX6_factAt_3 14 rfl rfl)
theorem dX6_factAt_87 : decode cX6_factAt 87 = .ok (.istore_n 3, 1) := dk_62 (dk_at dksX6_factAt_3 15 rfl rfl)
theorem dX6_factAt_88 : decode cX6_factAt 88 = .ok (.goto (-59), 3) := dk_167 255 197 (dk_at dksX6_factAt_3 16 rfl rfl)
theorem dX6_factAt_91 : decode cX6_factAt 91 = .ok (.iload_n 2, 1) := dk_28 (dk_at dksX6_factAt_3 19 rfl rfl)
theorem dX6_factAt_92 : decode cX6_factAt 92 = .ok (.ireturn, 1) := dk_172 (dk_at dksX6_factAt_3 20 rfl rfl)
abbrev cX6_headAt : ByteArray := prog_23_method_40_code
def yX6_headAt : MethodName := ⟨RX6, "headAt", "(I)I"⟩
def dkwX6_headAt_0 : List UInt8 := [42, 27, 182, 1, 2, 61, 28, 156, 0, 9, 2, 28, 100, 167, 0, 9, 42, 180, 0, 22, 28, 46, 172]
abbrev dktX6_headAt_0 : List UInt8 := dkwX6_headAt_0 ++ []
theorem dksX6_headAt_0 : cX6_headAt.data.toList.drop 0 = dktX6_headAt_0 := by decide +kernel
theorem dX6_headAt_0 : decode cX6_headAt 0 = .ok (.aload_n 0, 1) := dk_42 (dk_at dksX6_headAt_0 0 rfl rfl)
theorem dX6_headAt_1 : decode cX6_headAt 1 = .ok (.iload_n 1, 1) := dk_27 (dk_at dksX6_headAt_0 1 rfl rfl)
theorem dX6_headAt_2 : decode cX6_headAt 2 = .ok (.invokevirtual 258, 3) := dk_182 1 2 (dk_at dksX6_headAt_0 2 rfl rfl)
theorem dX6_headAt_5 : decode cX6_headAt 5 = .ok (.istore_n 2, 1) := dk_61 (dk_at dksX6_headAt_0 5 rfl rfl)
theorem dX6_headAt_6 : decode cX6_headAt 6 = .ok (.iload_n 2, 1) := dk_28 (dk_at dksX6_headAt_0 6 rfl rfl)
theorem dX6_headAt_7 : decode cX6_headAt 7 = .ok (.ifCond .ge 9, 3) := dk_156 0 9 (dk_at dksX6_headAt_0 7 rfl rfl)
theorem dX6_headAt_10 : decode cX6_headAt 10 = .ok (.iconst (-1), 1) := dk_2 (dk_at dksX6_headAt_0 10 rfl rfl)
theorem dX6_headAt_11 : decode cX6_headAt 11 = .ok (.iload_n 2, 1) := dk_28 (dk_at dksX6_headAt_0 11 rfl rfl)
theorem dX6_headAt_12 : decode cX6_headAt 12 = .ok (.isub, 1) := dk_100 (dk_at dksX6_headAt_0 12 rfl rfl)
theorem dX6_headAt_13 : decode cX6_headAt 13 = .ok (.goto 9, 3) := dk_167 0 9 (dk_at dksX6_headAt_0 13 rfl rfl)
theorem dX6_headAt_16 : decode cX6_headAt 16 = .ok (.aload_n 0, 1) := dk_42 (dk_at dksX6_headAt_0 16 rfl rfl)
theorem dX6_headAt_17 : decode cX6_headAt 17 = .ok (.getfield 22, 3) := dk_180 0 22 (dk_at dksX6_headAt_0 17 rfl rfl)
theorem dX6_headAt_20 : decode cX6_headAt 20 = .ok (.iload_n 2, 1) := dk_28 (dk_at dksX6_headAt_0 20 rfl rfl)
theorem dX6_headAt_21 : decode cX6_headAt 21 = .ok (.iaload, 1) := dk_46 (dk_at dksX6_headAt_0 21 rfl rfl)
theorem dX6_headAt_22 : decode cX6_headAt 22 = .ok (.ireturn, 1) := dk_172 (dk_at dksX6_headAt_0 22 rfl rfl)
abbrev cX6_isAsked : ByteArray := prog_23_method_47_code
def yX6_isAsked : MethodName := ⟨RX6, "isAsked", "(II)Z"⟩
def dkwX6_isAsked_1 : List UInt8 := [167, 0, 4, 3, 172]
abbrev dktX6_isAsked_1 : List UInt8 := dkwX6_isAsked_1 ++ []
def dkwX6_isAsked_0 : List UInt8 := [27, 16, 247, 160, 0, 13, 42, 8, 181, 1, 27, 42, 28, 181, 1, 30, 27, 16, 247, 160, 0, 7, 4]
abbrev dktX6_isAsked_0 : List UInt8 := dkwX6_isAsked_0 ++ dktX6_isAsked_1
theorem dksX6_isAsked_0 : cX6_isAsked.data.toList.drop 0 = dktX6_isAsked_0 := by decide +kernel
theorem dksX6_isAsked_1 : cX6_isAsked.data.toList.drop 23 = dktX6_isAsked_1 := dk_seg dksX6_isAsked_0 23 rfl rfl
theorem dX6_isAsked_0 : decode cX6_isAsked 0 = .ok (.iload_n 1, 1) := dk_27 (dk_at dksX6_isAsked_0 0 rfl rfl)
theorem dX6_isAsked_1 : decode cX6_isAsked 1 = .ok (.bipush (-9), 2) := dk_16 247 (dk_at dksX6_isAsked_0 1 rfl rfl)
theorem dX6_isAsked_3 : decode cX6_isAsked 3 = .ok (.if_icmp .ne 13, 3) := dk_160 0 13 (dk_at dksX6_isAsked_0 3 rfl rfl)
theorem dX6_isAsked_6 : decode cX6_isAsked 6 = .ok (.aload_n 0, 1) := dk_42 (dk_at dksX6_isAsked_0 6 rfl rfl)
theorem dX6_isAsked_7 : decode cX6_isAsked 7 = .ok (.iconst 5, 1) := dk_8 (dk_at dksX6_isAsked_0 7 rfl rfl)
theorem dX6_isAsked_8 : decode cX6_isAsked 8 = .ok (.putfield 283, 3) := dk_181 1 27 (dk_at dksX6_isAsked_0 8 rfl rfl)
theorem dX6_isAsked_11 : decode cX6_isAsked 11 = .ok (.aload_n 0, 1) := dk_42 (dk_at dksX6_isAsked_0 11 rfl rfl)
theorem dX6_isAsked_12 : decode cX6_isAsked 12 = .ok (.iload_n 2, 1) := dk_28 (dk_at dksX6_isAsked_0 12 rfl rfl)
theorem dX6_isAsked_13 : decode cX6_isAsked 13 = .ok (.putfield 286, 3) := dk_181 1 30 (dk_at dksX6_isAsked_0 13 rfl rfl)
theorem dX6_isAsked_16 : decode cX6_isAsked 16 = .ok (.iload_n 1, 1) := dk_27 (dk_at dksX6_isAsked_0 16 rfl rfl)
theorem dX6_isAsked_17 : decode cX6_isAsked 17 = .ok (.bipush (-9), 2) := dk_16 247 (dk_at dksX6_isAsked_0 17 rfl rfl)
theorem dX6_isAsked_19 : decode cX6_isAsked 19 = .ok (.if_icmp .ne 7, 3) := dk_160 0 7 (dk_at dksX6_isAsked_0 19 rfl rfl)
theorem dX6_isAsked_22 : decode cX6_isAsked 22 = .ok (.iconst 1, 1) := dk_4 (dk_at dksX6_isAsked_0 22 rfl rfl)
theorem dX6_isAsked_23 : decode cX6_isAsked 23 = .ok (.goto 4, 3) := dk_167 0 4 (dk_at dksX6_isAsked_1 0 rfl rfl)
theorem dX6_isAsked_26 : decode cX6_isAsked 26 = .ok (.iconst 0, 1) := dk_3 (dk_at dksX6_isAsked_1 3 rfl rfl)
theorem dX6_isAsked_27 : decode cX6_isAsked 27 = .ok (.ireturn, 1) := dk_172 (dk_at dksX6_isAsked_1 4 rfl rfl)
abbrev cX6_isRight : ByteArray := prog_23_method_53_code
def yX6_isRight : MethodName := ⟨RX6, "isRight", "(II)Z"⟩
def dkwX6_isRight_2 : List UInt8 := [112, 160, 0, 7, 4, 167, 0, 13, 3, 167, 0, 9, 42, 27, 28, 182, 1, 62, 172]
abbrev dktX6_isRight_2 : List UInt8 := dkwX6_isRight_2 ++ []
def dkwX6_isRight_1 : List UInt8 := [184, 0, 171, 167, 0, 39, 42, 180, 0, 31, 27, 46, 6, 160, 0, 23, 28, 42, 180, 0, 34, 27, 46, 7]
abbrev dktX6_isRight_1 : List UInt8 := dkwX6_isRight_1 ++ dktX6_isRight_2
def dkwX6_isRight_0 : List UInt8 := [42, 180, 0, 31, 27, 46, 5, 160, 0, 22, 28, 42, 180, 0, 34, 27, 46, 42, 180, 0, 37, 27, 46]
abbrev dktX6_isRight_0 : List UInt8 := dkwX6_isRight_0 ++ dktX6_isRight_1
theorem dksX6_isRight_0 : cX6_isRight.data.toList.drop 0 = dktX6_isRight_0 := by decide +kernel
theorem dksX6_isRight_1 : cX6_isRight.data.toList.drop 23 = dktX6_isRight_1 := dk_seg dksX6_isRight_0 23 rfl rfl
theorem dksX6_isRight_2 : cX6_isRight.data.toList.drop 47 = dktX6_isRight_2 := dk_seg dksX6_isRight_1 24 rfl rfl
theorem dX6_isRight_0 : decode cX6_isRight 0 = .ok (.aload_n 0, 1) := dk_42 (dk_at dksX6_isRight_0 0 rfl rfl)
theorem dX6_isRight_1 : decode cX6_isRight 1 = .ok (.getfield 31, 3) := dk_180 0 31 (dk_at dksX6_isRight_0 1 rfl rfl)
theorem dX6_isRight_4 : decode cX6_isRight 4 = .ok (.iload_n 1, 1) := dk_27 (dk_at dksX6_isRight_0 4 rfl rfl)
theorem dX6_isRight_5 : decode cX6_isRight 5 = .ok (.iaload, 1) := dk_46 (dk_at dksX6_isRight_0 5 rfl rfl)
theorem dX6_isRight_6 : decode cX6_isRight 6 = .ok (.iconst 2, 1) := dk_5 (dk_at dksX6_isRight_0 6 rfl rfl)
theorem dX6_isRight_7 : decode cX6_isRight 7 = .ok (.if_icmp .ne 22, 3) := dk_160 0 22 (dk_at dksX6_isRight_0 7 rfl rfl)
theorem dX6_isRight_10 : decode cX6_isRight 10 = .ok (.iload_n 2, 1) := dk_28 (dk_at dksX6_isRight_0 10 rfl rfl)
theorem dX6_isRight_11 : decode cX6_isRight 11 = .ok (.aload_n 0, 1) := dk_42 (dk_at dksX6_isRight_0 11 rfl rfl)
theorem dX6_isRight_12 : decode cX6_isRight 12 = .ok (.getfield 34, 3) := dk_180 0 34 (dk_at dksX6_isRight_0 12 rfl rfl)
theorem dX6_isRight_15 : decode cX6_isRight 15 = .ok (.iload_n 1, 1) := dk_27 (dk_at dksX6_isRight_0 15 rfl rfl)
theorem dX6_isRight_16 : decode cX6_isRight 16 = .ok (.iaload, 1) := dk_46 (dk_at dksX6_isRight_0 16 rfl rfl)
theorem dX6_isRight_17 : decode cX6_isRight 17 = .ok (.aload_n 0, 1) := dk_42 (dk_at dksX6_isRight_0 17 rfl rfl)
theorem dX6_isRight_18 : decode cX6_isRight 18 = .ok (.getfield 37, 3) := dk_180 0 37 (dk_at dksX6_isRight_0 18 rfl rfl)
theorem dX6_isRight_21 : decode cX6_isRight 21 = .ok (.iload_n 1, 1) := dk_27 (dk_at dksX6_isRight_0 21 rfl rfl)
theorem dX6_isRight_22 : decode cX6_isRight 22 = .ok (.iaload, 1) := dk_46 (dk_at dksX6_isRight_0 22 rfl rfl)
theorem dX6_isRight_23 : decode cX6_isRight 23 = .ok (.invokestatic 171, 3) := dk_184 0 171 (dk_at dksX6_isRight_1 0 rfl rfl)
theorem dX6_isRight_26 : decode cX6_isRight 26 = .ok (.goto 39, 3) := dk_167 0 39 (dk_at dksX6_isRight_1 3 rfl rfl)
theorem dX6_isRight_29 : decode cX6_isRight 29 = .ok (.aload_n 0, 1) := dk_42 (dk_at dksX6_isRight_1 6 rfl rfl)
theorem dX6_isRight_30 : decode cX6_isRight 30 = .ok (.getfield 31, 3) := dk_180 0 31 (dk_at dksX6_isRight_1 7 rfl rfl)
theorem dX6_isRight_33 : decode cX6_isRight 33 = .ok (.iload_n 1, 1) := dk_27 (dk_at dksX6_isRight_1 10 rfl rfl)
theorem dX6_isRight_34 : decode cX6_isRight 34 = .ok (.iaload, 1) := dk_46 (dk_at dksX6_isRight_1 11 rfl rfl)
theorem dX6_isRight_35 : decode cX6_isRight 35 = .ok (.iconst 3, 1) := dk_6 (dk_at dksX6_isRight_1 12 rfl rfl)
theorem dX6_isRight_36 : decode cX6_isRight 36 = .ok (.if_icmp .ne 23, 3) := dk_160 0 23 (dk_at dksX6_isRight_1 13 rfl rfl)
theorem dX6_isRight_39 : decode cX6_isRight 39 = .ok (.iload_n 2, 1) := dk_28 (dk_at dksX6_isRight_1 16 rfl rfl)
theorem dX6_isRight_40 : decode cX6_isRight 40 = .ok (.aload_n 0, 1) := dk_42 (dk_at dksX6_isRight_1 17 rfl rfl)
theorem dX6_isRight_41 : decode cX6_isRight 41 = .ok (.getfield 34, 3) := dk_180 0 34 (dk_at dksX6_isRight_1 18 rfl rfl)
theorem dX6_isRight_44 : decode cX6_isRight 44 = .ok (.iload_n 1, 1) := dk_27 (dk_at dksX6_isRight_1 21 rfl rfl)
theorem dX6_isRight_45 : decode cX6_isRight 45 = .ok (.iaload, 1) := dk_46 (dk_at dksX6_isRight_1 22 rfl rfl)
theorem dX6_isRight_46 : decode cX6_isRight 46 = .ok (.iconst 4, 1) := dk_7 (dk_at dksX6_isRight_1 23 rfl rfl)
theorem dX6_isRight_47 : decode cX6_isRight 47 = .ok (.irem, 1) := dk_112 (dk_at dksX6_isRight_2 0 rfl rfl)
theorem dX6_isRight_48 : decode cX6_isRight 48 = .ok (.if_icmp .ne 7, 3) := dk_160 0 7 (dk_at dksX6_isRight_2 1 rfl rfl)
theorem dX6_isRight_51 : decode cX6_isRight 51 = .ok (.iconst 1, 1) := dk_4 (dk_at dksX6_isRight_2 4 rfl rfl)
theorem dX6_isRight_52 : decode cX6_isRight 52 = .ok (.goto 13, 3) := dk_167 0 13 (dk_at dksX6_isRight_2 5 rfl rfl)
theorem dX6_isRight_55 : decode cX6_isRight 55 = .ok (.iconst 0, 1) := dk_3 (dk_at dksX6_isRight_2 8 rfl rfl)
theorem dX6_isRight_56 : decode cX6_isRight 56 = .ok (.goto 9, 3) := dk_167 0 9 (dk_at dksX6_isRight_2 9 rfl rfl)
theorem dX6_isRight_59 : decode cX6_isRight 59 = .ok (.aload_n 0, 1) := dk_42 (dk_at dksX6_isRight_2 12 rfl rfl)
theorem dX6_isRight_60 : decode cX6_isRight 60 = .ok (.iload_n 1, 1) := dk_27 (dk_at dksX6_isRight_2 13 rfl rfl)
theorem dX6_isRight_61 : decode cX6_isRight 61 = .ok (.iload_n 2, 1) := dk_28 (dk_at dksX6_isRight_2 14 rfl rfl)
theorem dX6_isRight_62 : decode cX6_isRight 62 = .ok (.invokevirtual 318, 3) := dk_182 1 62 (dk_at dksX6_isRight_2 15 rfl rfl)
theorem dX6_isRight_65 : decode cX6_isRight 65 = .ok (.ireturn, 1) := dk_172 (dk_at dksX6_isRight_2 18 rfl rfl)
abbrev cX6_fitsLength : ByteArray := prog_23_method_48_code
def yX6_fitsLength : MethodName := ⟨RX6, "fitsLength", "(II)Z"⟩
def dkwX6_fitsLength_1 : List UInt8 := [167, 0, 18, 28, 42, 180, 0, 34, 27, 46, 161, 0, 7, 4, 167, 0, 4, 3, 172]
abbrev dktX6_fitsLength_1 : List UInt8 := dkwX6_fitsLength_1 ++ []
def dkwX6_fitsLength_0 : List UInt8 := [42, 180, 0, 37, 27, 46, 154, 0, 21, 28, 42, 180, 0, 34, 27, 46, 160, 0, 7, 4, 167, 0, 22, 3]
abbrev dktX6_fitsLength_0 : List UInt8 := dkwX6_fitsLength_0 ++ dktX6_fitsLength_1
theorem dksX6_fitsLength_0 : cX6_fitsLength.data.toList.drop 0 = dktX6_fitsLength_0 := by decide +kernel
theorem dksX6_fitsLength_1 : cX6_fitsLength.data.toList.drop 24 = dktX6_fitsLength_1 := dk_seg dksX6_fitsLength_0 24 rfl rfl
theorem dX6_fitsLength_0 : decode cX6_fitsLength 0 = .ok (.aload_n 0, 1) := dk_42 (dk_at dksX6_fitsLength_0 0 rfl rfl)
theorem dX6_fitsLength_1 : decode cX6_fitsLength 1 = .ok (.getfield 37, 3) := dk_180 0 37 (dk_at dksX6_fitsLength_0 1 rfl rfl)
theorem dX6_fitsLength_4 : decode cX6_fitsLength 4 = .ok (.iload_n 1, 1) := dk_27 (dk_at dksX6_fitsLength_0 4 rfl rfl)
theorem dX6_fitsLength_5 : decode cX6_fitsLength 5 = .ok (.iaload, 1) := dk_46 (dk_at dksX6_fitsLength_0 5 rfl rfl)
theorem dX6_fitsLength_6 : decode cX6_fitsLength 6 = .ok (.ifCond .ne 21, 3) := dk_154 0 21 (dk_at dksX6_fitsLength_0 6 rfl rfl)
theorem dX6_fitsLength_9 : decode cX6_fitsLength 9 = .ok (.iload_n 2, 1) := dk_28 (dk_at dksX6_fitsLength_0 9 rfl rfl)
theorem dX6_fitsLength_10 : decode cX6_fitsLength 10 = .ok (.aload_n 0, 1) := dk_42 (dk_at dksX6_fitsLength_0 10 rfl rfl)
theorem dX6_fitsLength_11 : decode cX6_fitsLength 11 = .ok (.getfield 34, 3) := dk_180 0 34 (dk_at dksX6_fitsLength_0 11 rfl rfl)
theorem dX6_fitsLength_14 : decode cX6_fitsLength 14 = .ok (.iload_n 1, 1) := dk_27 (dk_at dksX6_fitsLength_0 14 rfl rfl)
theorem dX6_fitsLength_15 : decode cX6_fitsLength 15 = .ok (.iaload, 1) := dk_46 (dk_at dksX6_fitsLength_0 15 rfl rfl)
theorem dX6_fitsLength_16 : decode cX6_fitsLength 16 = .ok (.if_icmp .ne 7, 3) := dk_160 0 7 (dk_at dksX6_fitsLength_0 16 rfl rfl)
theorem dX6_fitsLength_19 : decode cX6_fitsLength 19 = .ok (.iconst 1, 1) := dk_4 (dk_at dksX6_fitsLength_0 19 rfl rfl)
theorem dX6_fitsLength_20 : decode cX6_fitsLength 20 = .ok (.goto 22, 3) := dk_167 0 22 (dk_at dksX6_fitsLength_0 20 rfl rfl)
theorem dX6_fitsLength_23 : decode cX6_fitsLength 23 = .ok (.iconst 0, 1) := dk_3 (dk_at dksX6_fitsLength_0 23 rfl rfl)
theorem dX6_fitsLength_24 : decode cX6_fitsLength 24 = .ok (.goto 18, 3) := dk_167 0 18 (dk_at dksX6_fitsLength_1 0 rfl rfl)
theorem dX6_fitsLength_27 : decode cX6_fitsLength 27 = .ok (.iload_n 2, 1) := dk_28 (dk_at dksX6_fitsLength_1 3 rfl rfl)
theorem dX6_fitsLength_28 : decode cX6_fitsLength 28 = .ok (.aload_n 0, 1) := dk_42 (dk_at dksX6_fitsLength_1 4 rfl rfl)
theorem dX6_fitsLength_29 : decode cX6_fitsLength 29 = .ok (.getfield 34, 3) := dk_180 0 34 (dk_at dksX6_fitsLength_1 5 rfl rfl)
theorem dX6_fitsLength_32 : decode cX6_fitsLength 32 = .ok (.iload_n 1, 1) := dk_27 (dk_at dksX6_fitsLength_1 8 rfl rfl)
theorem dX6_fitsLength_33 : decode cX6_fitsLength 33 = .ok (.iaload, 1) := dk_46 (dk_at dksX6_fitsLength_1 9 rfl rfl)
theorem dX6_fitsLength_34 : decode cX6_fitsLength 34 = .ok (.if_icmp .lt 7, 3) := dk_161 0 7 (dk_at dksX6_fitsLength_1 10 rfl rfl)
theorem dX6_fitsLength_37 : decode cX6_fitsLength 37 = .ok (.iconst 1, 1) := dk_4 (dk_at dksX6_fitsLength_1 13 rfl rfl)
theorem dX6_fitsLength_38 : decode cX6_fitsLength 38 = .ok (.goto 4, 3) := dk_167 0 4 (dk_at dksX6_fitsLength_1 14 rfl rfl)
theorem dX6_fitsLength_41 : decode cX6_fitsLength 41 = .ok (.iconst 0, 1) := dk_3 (dk_at dksX6_fitsLength_1 17 rfl rfl)
theorem dX6_fitsLength_42 : decode cX6_fitsLength 42 = .ok (.ireturn, 1) := dk_172 (dk_at dksX6_fitsLength_1 18 rfl rfl)
abbrev cX6_pushParts : ByteArray := prog_23_method_49_code
def yX6_pushParts : MethodName := ⟨RX6, "pushParts", "(III)V"⟩
def dkwX6_pushParts_3 : List UInt8 := [28, 104, 21, 4, 96, 21, 5, 96, 4, 96, 182, 1, 24, 132, 5, 255, 167, 255, 207, 177]
abbrev dktX6_pushParts_3 : List UInt8 := dkwX6_pushParts_3 ++ []
def dkwX6_pushParts_2 : List UInt8 := [6, 27, 104, 21, 5, 96, 46, 2, 159, 0, 29, 42, 42, 180, 0, 40, 6, 27, 104, 21, 5, 96, 46, 8]
abbrev dktX6_pushParts_2 : List UInt8 := dkwX6_pushParts_2 ++ dktX6_pushParts_3
def dkwX6_pushParts_1 : List UInt8 := [180, 0, 34, 27, 46, 100, 167, 0, 4, 3, 54, 4, 5, 54, 5, 21, 5, 155, 0, 50, 42, 180, 0, 40]
abbrev dktX6_pushParts_1 : List UInt8 := dkwX6_pushParts_1 ++ dktX6_pushParts_2
def dkwX6_pushParts_0 : List UInt8 := [42, 180, 0, 31, 27, 46, 16, 6, 160, 0, 24, 42, 180, 0, 37, 27, 46, 5, 160, 0, 14, 29, 42]
abbrev dktX6_pushParts_0 : List UInt8 := dkwX6_pushParts_0 ++ dktX6_pushParts_1
theorem dksX6_pushParts_0 : cX6_pushParts.data.toList.drop 0 = dktX6_pushParts_0 := by decide +kernel
theorem dksX6_pushParts_1 : cX6_pushParts.data.toList.drop 23 = dktX6_pushParts_1 := dk_seg dksX6_pushParts_0 23 rfl rfl
theorem dksX6_pushParts_2 : cX6_pushParts.data.toList.drop 47 = dktX6_pushParts_2 := dk_seg dksX6_pushParts_1 24 rfl rfl
theorem dksX6_pushParts_3 : cX6_pushParts.data.toList.drop 71 = dktX6_pushParts_3 := dk_seg dksX6_pushParts_2 24 rfl rfl
theorem dX6_pushParts_0 : decode cX6_pushParts 0 = .ok (.aload_n 0, 1) := dk_42 (dk_at dksX6_pushParts_0 0 rfl rfl)
theorem dX6_pushParts_1 : decode cX6_pushParts 1 = .ok (.getfield 31, 3) := dk_180 0 31 (dk_at dksX6_pushParts_0 1 rfl rfl)
theorem dX6_pushParts_4 : decode cX6_pushParts 4 = .ok (.iload_n 1, 1) := dk_27 (dk_at dksX6_pushParts_0 4 rfl rfl)
theorem dX6_pushParts_5 : decode cX6_pushParts 5 = .ok (.iaload, 1) := dk_46 (dk_at dksX6_pushParts_0 5 rfl rfl)
theorem dX6_pushParts_6 : decode cX6_pushParts 6 = .ok (.bipush 6, 2) := dk_16 6 (dk_at dksX6_pushParts_0 6 rfl rfl)
theorem dX6_pushParts_8 : decode cX6_pushParts 8 = .ok (.if_icmp .ne 24, 3) := dk_160 0 24 (dk_at dksX6_pushParts_0 8 rfl rfl)
theorem dX6_pushParts_11 : decode cX6_pushParts 11 = .ok (.aload_n 0, 1) := dk_42 (dk_at dksX6_pushParts_0 11 rfl rfl)
theorem dX6_pushParts_12 : decode cX6_pushParts 12 = .ok (.getfield 37, 3) := dk_180 0 37 (dk_at dksX6_pushParts_0 12 rfl rfl)
theorem dX6_pushParts_15 : decode cX6_pushParts 15 = .ok (.iload_n 1, 1) := dk_27 (dk_at dksX6_pushParts_0 15 rfl rfl)
theorem dX6_pushParts_16 : decode cX6_pushParts 16 = .ok (.iaload, 1) := dk_46 (dk_at dksX6_pushParts_0 16 rfl rfl)
theorem dX6_pushParts_17 : decode cX6_pushParts 17 = .ok (.iconst 2, 1) := dk_5 (dk_at dksX6_pushParts_0 17 rfl rfl)
theorem dX6_pushParts_18 : decode cX6_pushParts 18 = .ok (.if_icmp .ne 14, 3) := dk_160 0 14 (dk_at dksX6_pushParts_0 18 rfl rfl)
theorem dX6_pushParts_21 : decode cX6_pushParts 21 = .ok (.iload_n 3, 1) := dk_29 (dk_at dksX6_pushParts_0 21 rfl rfl)
theorem dX6_pushParts_22 : decode cX6_pushParts 22 = .ok (.aload_n 0, 1) := dk_42 (dk_at dksX6_pushParts_0 22 rfl rfl)
theorem dX6_pushParts_23 : decode cX6_pushParts 23 = .ok (.getfield 34, 3) := dk_180 0 34 (dk_at dksX6_pushParts_1 0 rfl rfl)
theorem dX6_pushParts_26 : decode cX6_pushParts 26 = .ok (.iload_n 1, 1) := dk_27 (dk_at dksX6_pushParts_1 3 rfl rfl)
theorem dX6_pushParts_27 : decode cX6_pushParts 27 = .ok (.iaload, 1) := dk_46 (dk_at dksX6_pushParts_1 4 rfl rfl)
theorem dX6_pushParts_28 : decode cX6_pushParts 28 = .ok (.isub, 1) := dk_100 (dk_at dksX6_pushParts_1 5 rfl rfl)
theorem dX6_pushParts_29 : decode cX6_pushParts 29 = .ok (.goto 4, 3) := dk_167 0 4 (dk_at dksX6_pushParts_1 6 rfl rfl)
theorem dX6_pushParts_32 : decode cX6_pushParts 32 = .ok (.iconst 0, 1) := dk_3 (dk_at dksX6_pushParts_1 9 rfl rfl)
theorem dX6_pushParts_33 : decode cX6_pushParts 33 = .ok (.istore 4, 2) := dk_54 4 (dk_at dksX6_pushParts_1 10 rfl rfl)
theorem dX6_pushParts_35 : decode cX6_pushParts 35 = .ok (.iconst 2, 1) := dk_5 (dk_at dksX6_pushParts_1 12 rfl rfl)
theorem dX6_pushParts_36 : decode cX6_pushParts 36 = .ok (.istore 5, 2) := dk_54 5 (dk_at dksX6_pushParts_1 13 rfl rfl)
theorem dX6_pushParts_38 : decode cX6_pushParts 38 = .ok (.iload 5, 2) := dk_21 5 (dk_at dksX6_pushParts_1 15 rfl rfl)
theorem dX6_pushParts_40 : decode cX6_pushParts 40 = .ok (.ifCond .lt 50, 3) := dk_155 0 50 (dk_at dksX6_pushParts_1 17 rfl rfl)
theorem dX6_pushParts_43 : decode cX6_pushParts 43 = .ok (.aload_n 0, 1) := dk_42 (dk_at dksX6_pushParts_1 20 rfl rfl)
theorem dX6_pushParts_44 : decode cX6_pushParts 44 = .ok (.getfield 40, 3) := dk_180 0 40 (dk_at dksX6_pushParts_1 21 rfl rfl)
theorem dX6_pushParts_47 : decode cX6_pushParts 47 = .ok (.iconst 3, 1) := dk_6 (dk_at dksX6_pushParts_2 0 rfl rfl)
theorem dX6_pushParts_48 : decode cX6_pushParts 48 = .ok (.iload_n 1, 1) := dk_27 (dk_at dksX6_pushParts_2 1 rfl rfl)
theorem dX6_pushParts_49 : decode cX6_pushParts 49 = .ok (.imul, 1) := dk_104 (dk_at dksX6_pushParts_2 2 rfl rfl)
theorem dX6_pushParts_50 : decode cX6_pushParts 50 = .ok (.iload 5, 2) := dk_21 5 (dk_at dksX6_pushParts_2 3 rfl rfl)
theorem dX6_pushParts_52 : decode cX6_pushParts 52 = .ok (.iadd, 1) := dk_96 (dk_at dksX6_pushParts_2 5 rfl rfl)
theorem dX6_pushParts_53 : decode cX6_pushParts 53 = .ok (.iaload, 1) := dk_46 (dk_at dksX6_pushParts_2 6 rfl rfl)
theorem dX6_pushParts_54 : decode cX6_pushParts 54 = .ok (.iconst (-1), 1) := dk_2 (dk_at dksX6_pushParts_2 7 rfl rfl)
theorem dX6_pushParts_55 : decode cX6_pushParts 55 = .ok (.if_icmp .eq 29, 3) := dk_159 0 29 (dk_at dksX6_pushParts_2 8 rfl rfl)
theorem dX6_pushParts_58 : decode cX6_pushParts 58 = .ok (.aload_n 0, 1) := dk_42 (dk_at dksX6_pushParts_2 11 rfl rfl)
theorem dX6_pushParts_59 : decode cX6_pushParts 59 = .ok (.aload_n 0, 1) := dk_42 (dk_at dksX6_pushParts_2 12 rfl rfl)
theorem dX6_pushParts_60 : decode cX6_pushParts 60 = .ok (.getfield 40, 3) := dk_180 0 40 (dk_at dksX6_pushParts_2 13 rfl rfl)
theorem dX6_pushParts_63 : decode cX6_pushParts 63 = .ok (.iconst 3, 1) := dk_6 (dk_at dksX6_pushParts_2 16 rfl rfl)
theorem dX6_pushParts_64 : decode cX6_pushParts 64 = .ok (.iload_n 1, 1) := dk_27 (dk_at dksX6_pushParts_2 17 rfl rfl)
theorem dX6_pushParts_65 : decode cX6_pushParts 65 = .ok (.imul, 1) := dk_104 (dk_at dksX6_pushParts_2 18 rfl rfl)
theorem dX6_pushParts_66 : decode cX6_pushParts 66 = .ok (.iload 5, 2) := dk_21 5 (dk_at dksX6_pushParts_2 19 rfl rfl)
theorem dX6_pushParts_68 : decode cX6_pushParts 68 = .ok (.iadd, 1) := dk_96 (dk_at dksX6_pushParts_2 21 rfl rfl)
theorem dX6_pushParts_69 : decode cX6_pushParts 69 = .ok (.iaload, 1) := dk_46 (dk_at dksX6_pushParts_2 22 rfl rfl)
theorem dX6_pushParts_70 : decode cX6_pushParts 70 = .ok (.iconst 5, 1) := dk_8 (dk_at dksX6_pushParts_2 23 rfl rfl)
theorem dX6_pushParts_71 : decode cX6_pushParts 71 = .ok (.iload_n 2, 1) := dk_28 (dk_at dksX6_pushParts_3 0 rfl rfl)
theorem dX6_pushParts_72 : decode cX6_pushParts 72 = .ok (.imul, 1) := dk_104 (dk_at dksX6_pushParts_3 1 rfl rfl)
theorem dX6_pushParts_73 : decode cX6_pushParts 73 = .ok (.iload 4, 2) := dk_21 4 (dk_at dksX6_pushParts_3 2 rfl rfl)
theorem dX6_pushParts_75 : decode cX6_pushParts 75 = .ok (.iadd, 1) := dk_96 (dk_at dksX6_pushParts_3 4 rfl rfl)
theorem dX6_pushParts_76 : decode cX6_pushParts 76 = .ok (.iload 5, 2) := dk_21 5 (dk_at dksX6_pushParts_3 5 rfl rfl)
theorem dX6_pushParts_78 : decode cX6_pushParts 78 = .ok (.iadd, 1) := dk_96 (dk_at dksX6_pushParts_3 7 rfl rfl)
theorem dX6_pushParts_79 : decode cX6_pushParts 79 = .ok (.iconst 1, 1) := dk_4 (dk_at dksX6_pushParts_3 8 rfl rfl)
theorem dX6_pushParts_80 : decode cX6_pushParts 80 = .ok (.iadd, 1) := dk_96 (dk_at dksX6_pushParts_3 9 rfl rfl)
theorem dX6_pushParts_81 : decode cX6_pushParts 81 = .ok (.invokevirtual 280, 3) := dk_182 1 24 (dk_at dksX6_pushParts_3 10 rfl rfl)
theorem dX6_pushParts_84 : decode cX6_pushParts 84 = .ok (.iinc 5 (-1), 3) := dk_132 5 255 (dk_at dksX6_pushParts_3 13 rfl rfl)
theorem dX6_pushParts_87 : decode cX6_pushParts 87 = .ok (.goto (-49), 3) := dk_167 255 207 (dk_at dksX6_pushParts_3 16 rfl rfl)
theorem dX6_pushParts_90 : decode cX6_pushParts 90 = .ok (.return_, 1) := dk_177 (dk_at dksX6_pushParts_3 19 rfl rfl)
abbrev cX6_turns : ByteArray := prog_23_method_46_code
def yX6_turns : MethodName := ⟨RX6, "turns", "()Z"⟩
def dkwX6_turns_2 : List UInt8 := [180, 1, 21, 46, 182, 1, 24, 4, 172]
abbrev dktX6_turns_2 : List UInt8 := dkwX6_turns_2 ++ []
def dkwX6_turns_1 : List UInt8 := [42, 180, 1, 21, 46, 181, 1, 18, 42, 42, 180, 0, 101, 42, 180, 1, 21, 46, 42, 180, 0, 104, 42]
abbrev dktX6_turns_1 : List UInt8 := dkwX6_turns_1 ++ dktX6_turns_2
def dkwX6_turns_0 : List UInt8 := [42, 180, 1, 21, 154, 0, 5, 3, 172, 42, 89, 180, 1, 21, 4, 100, 181, 1, 21, 42, 42, 180, 0, 98]
abbrev dktX6_turns_0 : List UInt8 := dkwX6_turns_0 ++ dktX6_turns_1
theorem dksX6_turns_0 : cX6_turns.data.toList.drop 0 = dktX6_turns_0 := by decide +kernel
theorem dksX6_turns_1 : cX6_turns.data.toList.drop 24 = dktX6_turns_1 := dk_seg dksX6_turns_0 24 rfl rfl
theorem dksX6_turns_2 : cX6_turns.data.toList.drop 47 = dktX6_turns_2 := dk_seg dksX6_turns_1 23 rfl rfl
theorem dX6_turns_0 : decode cX6_turns 0 = .ok (.aload_n 0, 1) := dk_42 (dk_at dksX6_turns_0 0 rfl rfl)
theorem dX6_turns_1 : decode cX6_turns 1 = .ok (.getfield 277, 3) := dk_180 1 21 (dk_at dksX6_turns_0 1 rfl rfl)
theorem dX6_turns_4 : decode cX6_turns 4 = .ok (.ifCond .ne 5, 3) := dk_154 0 5 (dk_at dksX6_turns_0 4 rfl rfl)
theorem dX6_turns_7 : decode cX6_turns 7 = .ok (.iconst 0, 1) := dk_3 (dk_at dksX6_turns_0 7 rfl rfl)
theorem dX6_turns_8 : decode cX6_turns 8 = .ok (.ireturn, 1) := dk_172 (dk_at dksX6_turns_0 8 rfl rfl)
theorem dX6_turns_9 : decode cX6_turns 9 = .ok (.aload_n 0, 1) := dk_42 (dk_at dksX6_turns_0 9 rfl rfl)
theorem dX6_turns_10 : decode cX6_turns 10 = .ok (.dup, 1) := dk_89 (dk_at dksX6_turns_0 10 rfl rfl)
theorem dX6_turns_11 : decode cX6_turns 11 = .ok (.getfield 277, 3) := dk_180 1 21 (dk_at dksX6_turns_0 11 rfl rfl)
theorem dX6_turns_14 : decode cX6_turns 14 = .ok (.iconst 1, 1) := dk_4 (dk_at dksX6_turns_0 14 rfl rfl)
theorem dX6_turns_15 : decode cX6_turns 15 = .ok (.isub, 1) := dk_100 (dk_at dksX6_turns_0 15 rfl rfl)
theorem dX6_turns_16 : decode cX6_turns 16 = .ok (.putfield 277, 3) := dk_181 1 21 (dk_at dksX6_turns_0 16 rfl rfl)
theorem dX6_turns_19 : decode cX6_turns 19 = .ok (.aload_n 0, 1) := dk_42 (dk_at dksX6_turns_0 19 rfl rfl)
theorem dX6_turns_20 : decode cX6_turns 20 = .ok (.aload_n 0, 1) := dk_42 (dk_at dksX6_turns_0 20 rfl rfl)
theorem dX6_turns_21 : decode cX6_turns 21 = .ok (.getfield 98, 3) := dk_180 0 98 (dk_at dksX6_turns_0 21 rfl rfl)
theorem dX6_turns_24 : decode cX6_turns 24 = .ok (.aload_n 0, 1) := dk_42 (dk_at dksX6_turns_1 0 rfl rfl)
theorem dX6_turns_25 : decode cX6_turns 25 = .ok (.getfield 277, 3) := dk_180 1 21 (dk_at dksX6_turns_1 1 rfl rfl)
theorem dX6_turns_28 : decode cX6_turns 28 = .ok (.iaload, 1) := dk_46 (dk_at dksX6_turns_1 4 rfl rfl)
theorem dX6_turns_29 : decode cX6_turns 29 = .ok (.putfield 274, 3) := dk_181 1 18 (dk_at dksX6_turns_1 5 rfl rfl)
theorem dX6_turns_32 : decode cX6_turns 32 = .ok (.aload_n 0, 1) := dk_42 (dk_at dksX6_turns_1 8 rfl rfl)
theorem dX6_turns_33 : decode cX6_turns 33 = .ok (.aload_n 0, 1) := dk_42 (dk_at dksX6_turns_1 9 rfl rfl)
theorem dX6_turns_34 : decode cX6_turns 34 = .ok (.getfield 101, 3) := dk_180 0 101 (dk_at dksX6_turns_1 10 rfl rfl)
theorem dX6_turns_37 : decode cX6_turns 37 = .ok (.aload_n 0, 1) := dk_42 (dk_at dksX6_turns_1 13 rfl rfl)
theorem dX6_turns_38 : decode cX6_turns 38 = .ok (.getfield 277, 3) := dk_180 1 21 (dk_at dksX6_turns_1 14 rfl rfl)
theorem dX6_turns_41 : decode cX6_turns 41 = .ok (.iaload, 1) := dk_46 (dk_at dksX6_turns_1 17 rfl rfl)
theorem dX6_turns_42 : decode cX6_turns 42 = .ok (.aload_n 0, 1) := dk_42 (dk_at dksX6_turns_1 18 rfl rfl)
theorem dX6_turns_43 : decode cX6_turns 43 = .ok (.getfield 104, 3) := dk_180 0 104 (dk_at dksX6_turns_1 19 rfl rfl)
theorem dX6_turns_46 : decode cX6_turns 46 = .ok (.aload_n 0, 1) := dk_42 (dk_at dksX6_turns_1 22 rfl rfl)
theorem dX6_turns_47 : decode cX6_turns 47 = .ok (.getfield 277, 3) := dk_180 1 21 (dk_at dksX6_turns_2 0 rfl rfl)
theorem dX6_turns_50 : decode cX6_turns 50 = .ok (.iaload, 1) := dk_46 (dk_at dksX6_turns_2 3 rfl rfl)
theorem dX6_turns_51 : decode cX6_turns 51 = .ok (.invokevirtual 280, 3) := dk_182 1 24 (dk_at dksX6_turns_2 4 rfl rfl)
theorem dX6_turns_54 : decode cX6_turns 54 = .ok (.iconst 1, 1) := dk_4 (dk_at dksX6_turns_2 7 rfl rfl)
theorem dX6_turns_55 : decode cX6_turns 55 = .ok (.ireturn, 1) := dk_172 (dk_at dksX6_turns_2 8 rfl rfl)
abbrev cX6_mostNeeded : ByteArray := prog_23_method_58_code
def yX6_mostNeeded : MethodName := ⟨RX6, "mostNeeded", "()I"⟩
def dkwX6_mostNeeded_5 : List UInt8 := [167, 255, 184, 42, 180, 0, 149, 27, 46, 172]
abbrev dktX6_mostNeeded_5 : List UInt8 := dkwX6_mostNeeded_5 ++ []
def dkwX6_mostNeeded_4 : List UInt8 := [27, 46, 162, 0, 7, 4, 167, 0, 4, 3, 62, 29, 153, 0, 7, 28, 167, 0, 4, 27, 60, 132, 2, 1]
abbrev dktX6_mostNeeded_4 : List UInt8 := dkwX6_mostNeeded_4 ++ dktX6_mostNeeded_5
def dkwX6_mostNeeded_3 : List UInt8 := [180, 0, 152, 28, 46, 42, 180, 0, 152, 27, 46, 160, 0, 22, 42, 180, 0, 149, 28, 46, 42, 180, 0, 149]
abbrev dktX6_mostNeeded_3 : List UInt8 := dkwX6_mostNeeded_3 ++ dktX6_mostNeeded_4
def dkwX6_mostNeeded_2 : List UInt8 := [42, 180, 1, 68, 162, 0, 70, 42, 180, 0, 152, 28, 46, 42, 180, 0, 152, 27, 46, 163, 0, 33, 42]
abbrev dktX6_mostNeeded_2 : List UInt8 := dkwX6_mostNeeded_2 ++ dktX6_mostNeeded_3
def dkwX6_mostNeeded_1 : List UInt8 := [27, 182, 1, 77, 4, 159, 0, 8, 42, 27, 182, 1, 80, 132, 1, 1, 167, 255, 223, 3, 60, 3, 61, 28]
abbrev dktX6_mostNeeded_1 : List UInt8 := dkwX6_mostNeeded_1 ++ dktX6_mostNeeded_2
def dkwX6_mostNeeded_0 : List UInt8 := [42, 3, 181, 1, 68, 3, 60, 27, 42, 180, 0, 228, 162, 0, 31, 42, 27, 182, 1, 74, 154, 0, 17, 42]
abbrev dktX6_mostNeeded_0 : List UInt8 := dkwX6_mostNeeded_0 ++ dktX6_mostNeeded_1
theorem dksX6_mostNeeded_0 : cX6_mostNeeded.data.toList.drop 0 = dktX6_mostNeeded_0 := by decide +kernel
theorem dksX6_mostNeeded_1 : cX6_mostNeeded.data.toList.drop 24 = dktX6_mostNeeded_1 := dk_seg dksX6_mostNeeded_0 24 rfl rfl
theorem dksX6_mostNeeded_2 : cX6_mostNeeded.data.toList.drop 48 = dktX6_mostNeeded_2 := dk_seg dksX6_mostNeeded_1 24 rfl rfl
theorem dksX6_mostNeeded_3 : cX6_mostNeeded.data.toList.drop 71 = dktX6_mostNeeded_3 := dk_seg dksX6_mostNeeded_2 23 rfl rfl
theorem dksX6_mostNeeded_4 : cX6_mostNeeded.data.toList.drop 95 = dktX6_mostNeeded_4 := dk_seg dksX6_mostNeeded_3 24 rfl rfl
theorem dksX6_mostNeeded_5 : cX6_mostNeeded.data.toList.drop 119 = dktX6_mostNeeded_5 := dk_seg dksX6_mostNeeded_4 24 rfl rfl
theorem dX6_mostNeeded_0 : decode cX6_mostNeeded 0 = .ok (.aload_n 0, 1) := dk_42 (dk_at dksX6_mostNeeded_0 0 rfl rfl)
theorem dX6_mostNeeded_1 : decode cX6_mostNeeded 1 = .ok (.iconst 0, 1) := dk_3 (dk_at dksX6_mostNeeded_0 1 rfl rfl)
theorem dX6_mostNeeded_2 : decode cX6_mostNeeded 2 = .ok (.putfield 324, 3) := dk_181 1 68 (dk_at dksX6_mostNeeded_0 2 rfl rfl)
theorem dX6_mostNeeded_5 : decode cX6_mostNeeded 5 = .ok (.iconst 0, 1) := dk_3 (dk_at dksX6_mostNeeded_0 5 rfl rfl)
theorem dX6_mostNeeded_6 : decode cX6_mostNeeded 6 = .ok (.istore_n 1, 1) := dk_60 (dk_at dksX6_mostNeeded_0 6 rfl rfl)
theorem dX6_mostNeeded_7 : decode cX6_mostNeeded 7 = .ok (.iload_n 1, 1) := dk_27 (dk_at dksX6_mostNeeded_0 7 rfl rfl)
theorem dX6_mostNeeded_8 : decode cX6_mostNeeded 8 = .ok (.aload_n 0, 1) := dk_42 (dk_at dksX6_mostNeeded_0 8 rfl rfl)
theorem dX6_mostNeeded_9 : decode cX6_mostNeeded 9 = .ok (.getfield 228, 3) := dk_180 0 228 (dk_at dksX6_mostNeeded_0 9 rfl rfl)
theorem dX6_mostNeeded_12 : decode cX6_mostNeeded 12 = .ok (.if_icmp .ge 31, 3) := dk_162 0 31 (dk_at dksX6_mostNeeded_0 12 rfl rfl)
theorem dX6_mostNeeded_15 : decode cX6_mostNeeded 15 = .ok (.aload_n 0, 1) := dk_42 (dk_at dksX6_mostNeeded_0 15 rfl rfl)
theorem dX6_mostNeeded_16 : decode cX6_mostNeeded 16 = .ok (.iload_n 1, 1) := dk_27 (dk_at dksX6_mostNeeded_0 16 rfl rfl)
theorem dX6_mostNeeded_17 : decode cX6_mostNeeded 17 = .ok (.invokevirtual 330, 3) := dk_182 1 74 (dk_at dksX6_mostNeeded_0 17 rfl rfl)
theorem dX6_mostNeeded_20 : decode cX6_mostNeeded 20 = .ok (.ifCond .ne 17, 3) := dk_154 0 17 (dk_at dksX6_mostNeeded_0 20 rfl rfl)
theorem dX6_mostNeeded_23 : decode cX6_mostNeeded 23 = .ok (.aload_n 0, 1) := dk_42 (dk_at dksX6_mostNeeded_0 23 rfl rfl)
theorem dX6_mostNeeded_24 : decode cX6_mostNeeded 24 = .ok (.iload_n 1, 1) := dk_27 (dk_at dksX6_mostNeeded_1 0 rfl rfl)
theorem dX6_mostNeeded_25 : decode cX6_mostNeeded 25 = .ok (.invokevirtual 333, 3) := dk_182 1 77 (dk_at dksX6_mostNeeded_1 1 rfl rfl)
theorem dX6_mostNeeded_28 : decode cX6_mostNeeded 28 = .ok (.iconst 1, 1) := dk_4 (dk_at dksX6_mostNeeded_1 4 rfl rfl)
theorem dX6_mostNeeded_29 : decode cX6_mostNeeded 29 = .ok (.if_icmp .eq 8, 3) := dk_159 0 8 (dk_at dksX6_mostNeeded_1 5 rfl rfl)
theorem dX6_mostNeeded_32 : decode cX6_mostNeeded 32 = .ok (.aload_n 0, 1) := dk_42 (dk_at dksX6_mostNeeded_1 8 rfl rfl)
theorem dX6_mostNeeded_33 : decode cX6_mostNeeded 33 = .ok (.iload_n 1, 1) := dk_27 (dk_at dksX6_mostNeeded_1 9 rfl rfl)
theorem dX6_mostNeeded_34 : decode cX6_mostNeeded 34 = .ok (.invokevirtual 336, 3) := dk_182 1 80 (dk_at dksX6_mostNeeded_1 10 rfl rfl)
theorem dX6_mostNeeded_37 : decode cX6_mostNeeded 37 = .ok (.iinc 1 1, 3) := dk_132 1 1 (dk_at dksX6_mostNeeded_1 13 rfl rfl)
theorem dX6_mostNeeded_40 : decode cX6_mostNeeded 40 = .ok (.goto (-33), 3) := dk_167 255 223 (dk_at dksX6_mostNeeded_1 16 rfl rfl)
theorem dX6_mostNeeded_43 : decode cX6_mostNeeded 43 = .ok (.iconst 0, 1) := dk_3 (dk_at dksX6_mostNeeded_1 19 rfl rfl)
theorem dX6_mostNeeded_44 : decode cX6_mostNeeded 44 = .ok (.istore_n 1, 1) := dk_60 (dk_at dksX6_mostNeeded_1 20 rfl rfl)
theorem dX6_mostNeeded_45 : decode cX6_mostNeeded 45 = .ok (.iconst 0, 1) := dk_3 (dk_at dksX6_mostNeeded_1 21 rfl rfl)
theorem dX6_mostNeeded_46 : decode cX6_mostNeeded 46 = .ok (.istore_n 2, 1) := dk_61 (dk_at dksX6_mostNeeded_1 22 rfl rfl)
theorem dX6_mostNeeded_47 : decode cX6_mostNeeded 47 = .ok (.iload_n 2, 1) := dk_28 (dk_at dksX6_mostNeeded_1 23 rfl rfl)
theorem dX6_mostNeeded_48 : decode cX6_mostNeeded 48 = .ok (.aload_n 0, 1) := dk_42 (dk_at dksX6_mostNeeded_2 0 rfl rfl)
theorem dX6_mostNeeded_49 : decode cX6_mostNeeded 49 = .ok (.getfield 324, 3) := dk_180 1 68 (dk_at dksX6_mostNeeded_2 1 rfl rfl)
theorem dX6_mostNeeded_52 : decode cX6_mostNeeded 52 = .ok (.if_icmp .ge 70, 3) := dk_162 0 70 (dk_at dksX6_mostNeeded_2 4 rfl rfl)
theorem dX6_mostNeeded_55 : decode cX6_mostNeeded 55 = .ok (.aload_n 0, 1) := dk_42 (dk_at dksX6_mostNeeded_2 7 rfl rfl)
theorem dX6_mostNeeded_56 : decode cX6_mostNeeded 56 = .ok (.getfield 152, 3) := dk_180 0 152 (dk_at dksX6_mostNeeded_2 8 rfl rfl)
theorem dX6_mostNeeded_59 : decode cX6_mostNeeded 59 = .ok (.iload_n 2, 1) := dk_28 (dk_at dksX6_mostNeeded_2 11 rfl rfl)
theorem dX6_mostNeeded_60 : decode cX6_mostNeeded 60 = .ok (.iaload, 1) := dk_46 (dk_at dksX6_mostNeeded_2 12 rfl rfl)
theorem dX6_mostNeeded_61 : decode cX6_mostNeeded 61 = .ok (.aload_n 0, 1) := dk_42 (dk_at dksX6_mostNeeded_2 13 rfl rfl)
theorem dX6_mostNeeded_62 : decode cX6_mostNeeded 62 = .ok (.getfield 152, 3) := dk_180 0 152 (dk_at dksX6_mostNeeded_2 14 rfl rfl)
theorem dX6_mostNeeded_65 : decode cX6_mostNeeded 65 = .ok (.iload_n 1, 1) := dk_27 (dk_at dksX6_mostNeeded_2 17 rfl rfl)
theorem dX6_mostNeeded_66 : decode cX6_mostNeeded 66 = .ok (.iaload, 1) := dk_46 (dk_at dksX6_mostNeeded_2 18 rfl rfl)
theorem dX6_mostNeeded_67 : decode cX6_mostNeeded 67 = .ok (.if_icmp .gt 33, 3) := dk_163 0 33 (dk_at dksX6_mostNeeded_2 19 rfl rfl)
theorem dX6_mostNeeded_70 : decode cX6_mostNeeded 70 = .ok (.aload_n 0, 1) := dk_42 (dk_at dksX6_mostNeeded_2 22 rfl rfl)
theorem dX6_mostNeeded_71 : decode cX6_mostNeeded 71 = .ok (.getfield 152, 3) := dk_180 0 152 (dk_at dksX6_mostNeeded_3 0 rfl rfl)
theorem dX6_mostNeeded_74 : decode cX6_mostNeeded 74 = .ok (.iload_n 2, 1) := dk_28 (dk_at dksX6_mostNeeded_3 3 rfl rfl)
theorem dX6_mostNeeded_75 : decode cX6_mostNeeded 75 = .ok (.iaload, 1) := dk_46 (dk_at dksX6_mostNeeded_3 4 rfl rfl)
theorem dX6_mostNeeded_76 : decode cX6_mostNeeded 76 = .ok (.aload_n 0, 1) := dk_42 (dk_at dksX6_mostNeeded_3 5 rfl rfl)
theorem dX6_mostNeeded_77 : decode cX6_mostNeeded 77 = .ok (.getfield 152, 3) := dk_180 0 152 (dk_at dksX6_mostNeeded_3 6 rfl rfl)
theorem dX6_mostNeeded_80 : decode cX6_mostNeeded 80 = .ok (.iload_n 1, 1) := dk_27 (dk_at dksX6_mostNeeded_3 9 rfl rfl)
theorem dX6_mostNeeded_81 : decode cX6_mostNeeded 81 = .ok (.iaload, 1) := dk_46 (dk_at dksX6_mostNeeded_3 10 rfl rfl)
theorem dX6_mostNeeded_82 : decode cX6_mostNeeded 82 = .ok (.if_icmp .ne 22, 3) := dk_160 0 22 (dk_at dksX6_mostNeeded_3 11 rfl rfl)
theorem dX6_mostNeeded_85 : decode cX6_mostNeeded 85 = .ok (.aload_n 0, 1) := dk_42 (dk_at dksX6_mostNeeded_3 14 rfl rfl)
theorem dX6_mostNeeded_86 : decode cX6_mostNeeded 86 = .ok (.getfield 149, 3) := dk_180 0 149 (dk_at dksX6_mostNeeded_3 15 rfl rfl)
theorem dX6_mostNeeded_89 : decode cX6_mostNeeded 89 = .ok (.iload_n 2, 1) := dk_28 (dk_at dksX6_mostNeeded_3 18 rfl rfl)
theorem dX6_mostNeeded_90 : decode cX6_mostNeeded 90 = .ok (.iaload, 1) := dk_46 (dk_at dksX6_mostNeeded_3 19 rfl rfl)
theorem dX6_mostNeeded_91 : decode cX6_mostNeeded 91 = .ok (.aload_n 0, 1) := dk_42 (dk_at dksX6_mostNeeded_3 20 rfl rfl)
theorem dX6_mostNeeded_92 : decode cX6_mostNeeded 92 = .ok (.getfield 149, 3) := dk_180 0 149 (dk_at dksX6_mostNeeded_3 21 rfl rfl)
theorem dX6_mostNeeded_95 : decode cX6_mostNeeded 95 = .ok (.iload_n 1, 1) := dk_27 (dk_at dksX6_mostNeeded_4 0 rfl rfl)
theorem dX6_mostNeeded_96 : decode cX6_mostNeeded 96 = .ok (.iaload, 1) := dk_46 (dk_at dksX6_mostNeeded_4 1 rfl rfl)
theorem dX6_mostNeeded_97 : decode cX6_mostNeeded 97 = .ok (.if_icmp .ge 7, 3) := dk_162 0 7 (dk_at dksX6_mostNeeded_4 2 rfl rfl)
theorem dX6_mostNeeded_100 : decode cX6_mostNeeded 100 = .ok (.iconst 1, 1) := dk_4 (dk_at dksX6_mostNeeded_4 5 rfl rfl)
theorem dX6_mostNeeded_101 : decode cX6_mostNeeded 101 = .ok (.goto 4, 3) := dk_167 0 4 (dk_at dksX6_mostNeeded_4 6 rfl rfl)
theorem dX6_mostNeeded_104 : decode cX6_mostNeeded 104 = .ok (.iconst 0, 1) := dk_3 (dk_at dksX6_mostNeeded_4 9 rfl rfl)
theorem dX6_mostNeeded_105 : decode cX6_mostNeeded 105 = .ok (.istore_n 3, 1) := dk_62 (dk_at dksX6_mostNeeded_4 10 rfl rfl)
theorem dX6_mostNeeded_106 : decode cX6_mostNeeded 106 = .ok (.iload_n 3, 1) := dk_29 (dk_at dksX6_mostNeeded_4 11 rfl rfl)
theorem dX6_mostNeeded_107 : decode cX6_mostNeeded 107 = .ok (.ifCond .eq 7, 3) := dk_153 0 7 (dk_at dksX6_mostNeeded_4 12 rfl rfl)
theorem dX6_mostNeeded_110 : decode cX6_mostNeeded 110 = .ok (.iload_n 2, 1) := dk_28 (dk_at dksX6_mostNeeded_4 15 rfl rfl)
theorem dX6_mostNeeded_111 : decode cX6_mostNeeded 111 = .ok (.goto 4, 3) := dk_167 0 4 (dk_at dksX6_mostNeeded_4 16 rfl rfl)
theorem dX6_mostNeeded_114 : decode cX6_mostNeeded 114 = .ok (.iload_n 1, 1) := dk_27 (dk_at dksX6_mostNeeded_4 19 rfl rfl)
theorem dX6_mostNeeded_115 : decode cX6_mostNeeded 115 = .ok (.istore_n 1, 1) := dk_60 (dk_at dksX6_mostNeeded_4 20 rfl rfl)
theorem dX6_mostNeeded_116 : decode cX6_mostNeeded 116 = .ok (.iinc 2 1, 3) := dk_132 2 1 (dk_at dksX6_mostNeeded_4 21 rfl rfl)
theorem dX6_mostNeeded_119 : decode cX6_mostNeeded 119 = .ok (.goto (-72), 3) := dk_167 255 184 (dk_at dksX6_mostNeeded_5 0 rfl rfl)
theorem dX6_mostNeeded_122 : decode cX6_mostNeeded 122 = .ok (.aload_n 0, 1) := dk_42 (dk_at dksX6_mostNeeded_5 3 rfl rfl)
theorem dX6_mostNeeded_123 : decode cX6_mostNeeded 123 = .ok (.getfield 149, 3) := dk_180 0 149 (dk_at dksX6_mostNeeded_5 4 rfl rfl)
theorem dX6_mostNeeded_126 : decode cX6_mostNeeded 126 = .ok (.iload_n 1, 1) := dk_27 (dk_at dksX6_mostNeeded_5 7 rfl rfl)
theorem dX6_mostNeeded_127 : decode cX6_mostNeeded 127 = .ok (.iaload, 1) := dk_46 (dk_at dksX6_mostNeeded_5 8 rfl rfl)
theorem dX6_mostNeeded_128 : decode cX6_mostNeeded 128 = .ok (.ireturn, 1) := dk_172 (dk_at dksX6_mostNeeded_5 9 rfl rfl)
abbrev cX6_needsOf : ByteArray := prog_23_method_57_code
def yX6_needsOf : MethodName := ⟨RX6, "needsOf", "(I)V"⟩
def dkwX6_needsOf_13 : List UInt8 := [167, 255, 172, 167, 254, 249, 177]
abbrev dktX6_needsOf_13 : List UInt8 := dkwX6_needsOf_13 ++ []
def dkwX6_needsOf_12 : List UInt8 := [21, 4, 167, 0, 15, 8, 21, 4, 104, 21, 9, 96, 21, 10, 96, 4, 96, 79, 132, 2, 1, 132, 10, 1]
abbrev dktX6_needsOf_12 : List UInt8 := dkwX6_needsOf_12 ++ dktX6_needsOf_13
def dkwX6_needsOf_11 : List UInt8 := [29, 104, 21, 10, 96, 46, 79, 42, 180, 0, 158, 28, 21, 5, 4, 159, 0, 9, 21, 5, 7, 160, 0, 8]
abbrev dktX6_needsOf_11 : List UInt8 := dkwX6_needsOf_11 ++ dktX6_needsOf_12
def dkwX6_needsOf_10 : List UInt8 := [180, 0, 40, 6, 29, 104, 21, 10, 96, 46, 2, 159, 0, 58, 42, 180, 0, 86, 28, 42, 180, 0, 40, 6]
abbrev dktX6_needsOf_10 : List UInt8 := dkwX6_needsOf_10 ++ dktX6_needsOf_11
def dkwX6_needsOf_9 : List UInt8 := [46, 100, 167, 0, 4, 3, 54, 9, 3, 54, 10, 21, 10, 6, 162, 0, 84, 21, 8, 153, 0, 79, 42]
abbrev dktX6_needsOf_9 : List UInt8 := dkwX6_needsOf_9 ++ dktX6_needsOf_10
def dkwX6_needsOf_8 : List UInt8 := [21, 5, 16, 6, 160, 0, 25, 42, 180, 0, 37, 29, 46, 5, 160, 0, 15, 21, 7, 42, 180, 0, 34, 29]
abbrev dktX6_needsOf_8 : List UInt8 := dkwX6_needsOf_8 ++ dktX6_needsOf_9
def dkwX6_needsOf_7 : List UInt8 := [21, 7, 16, 247, 159, 0, 17, 42, 29, 21, 7, 182, 1, 55, 153, 0, 7, 4, 167, 0, 4, 3, 54, 8]
abbrev dktX6_needsOf_7 : List UInt8 := dkwX6_needsOf_7 ++ dktX6_needsOf_8
def dkwX6_needsOf_6 : List UInt8 := [4, 159, 0, 39, 21, 5, 7, 159, 0, 33, 21, 5, 6, 159, 0, 10, 21, 5, 16, 6, 160, 0, 24]
abbrev dktX6_needsOf_6 : List UInt8 := dkwX6_needsOf_6 ++ dktX6_needsOf_7
def dkwX6_needsOf_5 : List UInt8 := [3, 54, 7, 21, 6, 153, 0, 17, 21, 7, 16, 247, 160, 0, 10, 42, 21, 4, 27, 182, 1, 71, 21, 5]
abbrev dktX6_needsOf_5 : List UInt8 := dkwX6_needsOf_5 ++ dktX6_needsOf_6
def dkwX6_needsOf_4 : List UInt8 := [160, 0, 7, 4, 167, 0, 4, 3, 54, 6, 21, 6, 153, 0, 12, 42, 21, 4, 182, 1, 49, 167, 0, 4]
abbrev dktX6_needsOf_4 : List UInt8 := dkwX6_needsOf_4 ++ dktX6_needsOf_5
def dkwX6_needsOf_3 : List UInt8 := [180, 0, 31, 29, 46, 54, 5, 21, 5, 5, 159, 0, 16, 21, 5, 6, 159, 0, 10, 21, 5, 16, 6]
abbrev dktX6_needsOf_3 : List UInt8 := dkwX6_needsOf_3 ++ dktX6_needsOf_4
def dkwX6_needsOf_2 : List UInt8 := [158, 1, 9, 132, 2, 255, 42, 180, 0, 86, 28, 46, 62, 42, 180, 0, 158, 28, 46, 54, 4, 42]
abbrev dktX6_needsOf_2 : List UInt8 := dkwX6_needsOf_2 ++ dktX6_needsOf_3
def dkwX6_needsOf_1 : List UInt8 := [29, 96, 46, 79, 42, 180, 0, 158, 28, 29, 4, 96, 79, 132, 2, 1, 132, 3, 1, 167, 255, 217, 28]
abbrev dktX6_needsOf_1 : List UInt8 := dkwX6_needsOf_1 ++ dktX6_needsOf_2
def dkwX6_needsOf_0 : List UInt8 := [3, 61, 3, 62, 29, 42, 180, 0, 231, 162, 0, 37, 42, 180, 0, 86, 28, 42, 180, 0, 68, 6, 27, 104]
abbrev dktX6_needsOf_0 : List UInt8 := dkwX6_needsOf_0 ++ dktX6_needsOf_1
theorem dksX6_needsOf_0 : cX6_needsOf.data.toList.drop 0 = dktX6_needsOf_0 := by decide +kernel
theorem dksX6_needsOf_1 : cX6_needsOf.data.toList.drop 24 = dktX6_needsOf_1 := dk_seg dksX6_needsOf_0 24 rfl rfl
theorem dksX6_needsOf_2 : cX6_needsOf.data.toList.drop 47 = dktX6_needsOf_2 := dk_seg dksX6_needsOf_1 23 rfl rfl
theorem dksX6_needsOf_3 : cX6_needsOf.data.toList.drop 69 = dktX6_needsOf_3 := dk_seg dksX6_needsOf_2 22 rfl rfl
theorem dksX6_needsOf_4 : cX6_needsOf.data.toList.drop 92 = dktX6_needsOf_4 := dk_seg dksX6_needsOf_3 23 rfl rfl
theorem dksX6_needsOf_5 : cX6_needsOf.data.toList.drop 116 = dktX6_needsOf_5 := dk_seg dksX6_needsOf_4 24 rfl rfl
theorem dksX6_needsOf_6 : cX6_needsOf.data.toList.drop 140 = dktX6_needsOf_6 := dk_seg dksX6_needsOf_5 24 rfl rfl
theorem dksX6_needsOf_7 : cX6_needsOf.data.toList.drop 163 = dktX6_needsOf_7 := dk_seg dksX6_needsOf_6 23 rfl rfl
theorem dksX6_needsOf_8 : cX6_needsOf.data.toList.drop 187 = dktX6_needsOf_8 := dk_seg dksX6_needsOf_7 24 rfl rfl
theorem dksX6_needsOf_9 : cX6_needsOf.data.toList.drop 211 = dktX6_needsOf_9 := dk_seg dksX6_needsOf_8 24 rfl rfl
theorem dksX6_needsOf_10 : cX6_needsOf.data.toList.drop 234 = dktX6_needsOf_10 := dk_seg dksX6_needsOf_9 23 rfl rfl
theorem dksX6_needsOf_11 : cX6_needsOf.data.toList.drop 258 = dktX6_needsOf_11 := dk_seg dksX6_needsOf_10 24 rfl rfl
theorem dksX6_needsOf_12 : cX6_needsOf.data.toList.drop 282 = dktX6_needsOf_12 := dk_seg dksX6_needsOf_11 24 rfl rfl
theorem dksX6_needsOf_13 : cX6_needsOf.data.toList.drop 306 = dktX6_needsOf_13 := dk_seg dksX6_needsOf_12 24 rfl rfl
theorem dX6_needsOf_0 : decode cX6_needsOf 0 = .ok (.iconst 0, 1) := dk_3 (dk_at dksX6_needsOf_0 0 rfl rfl)
theorem dX6_needsOf_1 : decode cX6_needsOf 1 = .ok (.istore_n 2, 1) := dk_61 (dk_at dksX6_needsOf_0 1 rfl rfl)
theorem dX6_needsOf_2 : decode cX6_needsOf 2 = .ok (.iconst 0, 1) := dk_3 (dk_at dksX6_needsOf_0 2 rfl rfl)
theorem dX6_needsOf_3 : decode cX6_needsOf 3 = .ok (.istore_n 3, 1) := dk_62 (dk_at dksX6_needsOf_0 3 rfl rfl)
theorem dX6_needsOf_4 : decode cX6_needsOf 4 = .ok (.iload_n 3, 1) := dk_29 (dk_at dksX6_needsOf_0 4 rfl rfl)
theorem dX6_needsOf_5 : decode cX6_needsOf 5 = .ok (.aload_n 0, 1) := dk_42 (dk_at dksX6_needsOf_0 5 rfl rfl)
theorem dX6_needsOf_6 : decode cX6_needsOf 6 = .ok (.getfield 231, 3) := dk_180 0 231 (dk_at dksX6_needsOf_0 6 rfl rfl)
theorem dX6_needsOf_9 : decode cX6_needsOf 9 = .ok (.if_icmp .ge 37, 3) := dk_162 0 37 (dk_at dksX6_needsOf_0 9 rfl rfl)
theorem dX6_needsOf_12 : decode cX6_needsOf 12 = .ok (.aload_n 0, 1) := dk_42 (dk_at dksX6_needsOf_0 12 rfl rfl)
theorem dX6_needsOf_13 : decode cX6_needsOf 13 = .ok (.getfield 86, 3) := dk_180 0 86 (dk_at dksX6_needsOf_0 13 rfl rfl)
theorem dX6_needsOf_16 : decode cX6_needsOf 16 = .ok (.iload_n 2, 1) := dk_28 (dk_at dksX6_needsOf_0 16 rfl rfl)
theorem dX6_needsOf_17 : decode cX6_needsOf 17 = .ok (.aload_n 0, 1) := dk_42 (dk_at dksX6_needsOf_0 17 rfl rfl)
theorem dX6_needsOf_18 : decode cX6_needsOf 18 = .ok (.getfield 68, 3) := dk_180 0 68 (dk_at dksX6_needsOf_0 18 rfl rfl)
theorem dX6_needsOf_21 : decode cX6_needsOf 21 = .ok (.iconst 3, 1) := dk_6 (dk_at dksX6_needsOf_0 21 rfl rfl)
theorem dX6_needsOf_22 : decode cX6_needsOf 22 = .ok (.iload_n 1, 1) := dk_27 (dk_at dksX6_needsOf_0 22 rfl rfl)
theorem dX6_needsOf_23 : decode cX6_needsOf 23 = .ok (.imul, 1) := dk_104 (dk_at dksX6_needsOf_0 23 rfl rfl)
theorem dX6_needsOf_24 : decode cX6_needsOf 24 = .ok (.iload_n 3, 1) := dk_29 (dk_at dksX6_needsOf_1 0 rfl rfl)
theorem dX6_needsOf_25 : decode cX6_needsOf 25 = .ok (.iadd, 1) := dk_96 (dk_at dksX6_needsOf_1 1 rfl rfl)
theorem dX6_needsOf_26 : decode cX6_needsOf 26 = .ok (.iaload, 1) := dk_46 (dk_at dksX6_needsOf_1 2 rfl rfl)
theorem dX6_needsOf_27 : decode cX6_needsOf 27 = .ok (.iastore, 1) := dk_79 (dk_at dksX6_needsOf_1 3 rfl rfl)
theorem dX6_needsOf_28 : decode cX6_needsOf 28 = .ok (.aload_n 0, 1) := dk_42 (dk_at dksX6_needsOf_1 4 rfl rfl)
theorem dX6_needsOf_29 : decode cX6_needsOf 29 = .ok (.getfield 158, 3) := dk_180 0 158 (dk_at dksX6_needsOf_1 5 rfl rfl)
theorem dX6_needsOf_32 : decode cX6_needsOf 32 = .ok (.iload_n 2, 1) := dk_28 (dk_at dksX6_needsOf_1 8 rfl rfl)
theorem dX6_needsOf_33 : decode cX6_needsOf 33 = .ok (.iload_n 3, 1) := dk_29 (dk_at dksX6_needsOf_1 9 rfl rfl)
theorem dX6_needsOf_34 : decode cX6_needsOf 34 = .ok (.iconst 1, 1) := dk_4 (dk_at dksX6_needsOf_1 10 rfl rfl)
theorem dX6_needsOf_35 : decode cX6_needsOf 35 = .ok (.iadd, 1) := dk_96 (dk_at dksX6_needsOf_1 11 rfl rfl)
theorem dX6_needsOf_36 : decode cX6_needsOf 36 = .ok (.iastore, 1) := dk_79 (dk_at dksX6_needsOf_1 12 rfl rfl)
theorem dX6_needsOf_37 : decode cX6_needsOf 37 = .ok (.iinc 2 1, 3) := dk_132 2 1 (dk_at dksX6_needsOf_1 13 rfl rfl)
theorem dX6_needsOf_40 : decode cX6_needsOf 40 = .ok (.iinc 3 1, 3) := dk_132 3 1 (dk_at dksX6_needsOf_1 16 rfl rfl)
theorem dX6_needsOf_43 : decode cX6_needsOf 43 = .ok (.goto (-39), 3) := dk_167 255 217 (dk_at dksX6_needsOf_1 19 rfl rfl)
theorem dX6_needsOf_46 : decode cX6_needsOf 46 = .ok (.iload_n 2, 1) := dk_28 (dk_at dksX6_needsOf_1 22 rfl rfl)
theorem dX6_needsOf_47 : decode cX6_needsOf 47 = .ok (.ifCond .le 265, 3) := dk_158 1 9 (dk_at dksX6_needsOf_2 0 rfl rfl)
theorem dX6_needsOf_50 : decode cX6_needsOf 50 = .ok (.iinc 2 (-1), 3) := dk_132 2 255 (dk_at dksX6_needsOf_2 3 rfl rfl)
theorem dX6_needsOf_53 : decode cX6_needsOf 53 = .ok (.aload_n 0, 1) := dk_42 (dk_at dksX6_needsOf_2 6 rfl rfl)
theorem dX6_needsOf_54 : decode cX6_needsOf 54 = .ok (.getfield 86, 3) := dk_180 0 86 (dk_at dksX6_needsOf_2 7 rfl rfl)
theorem dX6_needsOf_57 : decode cX6_needsOf 57 = .ok (.iload_n 2, 1) := dk_28 (dk_at dksX6_needsOf_2 10 rfl rfl)
theorem dX6_needsOf_58 : decode cX6_needsOf 58 = .ok (.iaload, 1) := dk_46 (dk_at dksX6_needsOf_2 11 rfl rfl)
theorem dX6_needsOf_59 : decode cX6_needsOf 59 = .ok (.istore_n 3, 1) := dk_62 (dk_at dksX6_needsOf_2 12 rfl rfl)
theorem dX6_needsOf_60 : decode cX6_needsOf 60 = .ok (.aload_n 0, 1) := dk_42 (dk_at dksX6_needsOf_2 13 rfl rfl)
theorem dX6_needsOf_61 : decode cX6_needsOf 61 = .ok (.getfield 158, 3) := dk_180 0 158 (dk_at dksX6_needsOf_2 14 rfl rfl)
theorem dX6_needsOf_64 : decode cX6_needsOf 64 = .ok (.iload_n 2, 1) := dk_28 (dk_at dksX6_needsOf_2 17 rfl rfl)
theorem dX6_needsOf_65 : decode cX6_needsOf 65 = .ok (.iaload, 1) := dk_46 (dk_at dksX6_needsOf_2 18 rfl rfl)
theorem dX6_needsOf_66 : decode cX6_needsOf 66 = .ok (.istore 4, 2) := dk_54 4 (dk_at dksX6_needsOf_2 19 rfl rfl)
theorem dX6_needsOf_68 : decode cX6_needsOf 68 = .ok (.aload_n 0, 1) := dk_42 (dk_at dksX6_needsOf_2 21 rfl rfl)
theorem dX6_needsOf_69 : decode cX6_needsOf 69 = .ok (.getfield 31, 3) := dk_180 0 31 (dk_at dksX6_needsOf_3 0 rfl rfl)
theorem dX6_needsOf_72 : decode cX6_needsOf 72 = .ok (.iload_n 3, 1) := dk_29 (dk_at dksX6_needsOf_3 3 rfl rfl)
theorem dX6_needsOf_73 : decode cX6_needsOf 73 = .ok (.iaload, 1) := dk_46 (dk_at dksX6_needsOf_3 4 rfl rfl)
theorem dX6_needsOf_74 : decode cX6_needsOf 74 = .ok (.istore 5, 2) := dk_54 5 (dk_at dksX6_needsOf_3 5 rfl rfl)
theorem dX6_needsOf_76 : decode cX6_needsOf 76 = .ok (.iload 5, 2) := dk_21 5 (dk_at dksX6_needsOf_3 7 rfl rfl)
theorem dX6_needsOf_78 : decode cX6_needsOf 78 = .ok (.iconst 2, 1) := dk_5 (dk_at dksX6_needsOf_3 9 rfl rfl)
theorem dX6_needsOf_79 : decode cX6_needsOf 79 = .ok (.if_icmp .eq 16, 3) := dk_159 0 16 (dk_at dksX6_needsOf_3 10 rfl rfl)
theorem dX6_needsOf_82 : decode cX6_needsOf 82 = .ok (.iload 5, 2) := dk_21 5 (dk_at dksX6_needsOf_3 13 rfl rfl)
theorem dX6_needsOf_84 : decode cX6_needsOf 84 = .ok (.iconst 3, 1) := dk_6 (dk_at dksX6_needsOf_3 15 rfl rfl)
theorem dX6_needsOf_85 : decode cX6_needsOf 85 = .ok (.if_icmp .eq 10, 3) := dk_159 0 10 (dk_at dksX6_needsOf_3 16 rfl rfl)
theorem dX6_needsOf_88 : decode cX6_needsOf 88 = .ok (.iload 5, 2) := dk_21 5 (dk_at dksX6_needsOf_3 19 rfl rfl)
theorem dX6_needsOf_90 : decode cX6_needsOf 90 = .ok (.bipush 6, 2) := dk_16 6 (dk_at dksX6_needsOf_3 21 rfl rfl)
theorem dX6_needsOf_92 : decode cX6_needsOf 92 = .ok (.if_icmp .ne 7, 3) := dk_160 0 7 (dk_at dksX6_needsOf_4 0 rfl rfl)
theorem dX6_needsOf_95 : decode cX6_needsOf 95 = .ok (.iconst 1, 1) := dk_4 (dk_at dksX6_needsOf_4 3 rfl rfl)
theorem dX6_needsOf_96 : decode cX6_needsOf 96 = .ok (.goto 4, 3) := dk_167 0 4 (dk_at dksX6_needsOf_4 4 rfl rfl)
theorem dX6_needsOf_99 : decode cX6_needsOf 99 = .ok (.iconst 0, 1) := dk_3 (dk_at dksX6_needsOf_4 7 rfl rfl)
theorem dX6_needsOf_100 : decode cX6_needsOf 100 = .ok (.istore 6, 2) := dk_54 6 (dk_at dksX6_needsOf_4 8 rfl rfl)
theorem dX6_needsOf_102 : decode cX6_needsOf 102 = .ok (.iload 6, 2) := dk_21 6 (dk_at dksX6_needsOf_4 10 rfl rfl)
theorem dX6_needsOf_104 : decode cX6_needsOf 104 = .ok (.ifCond .eq 12, 3) := dk_153 0 12 (dk_at dksX6_needsOf_4 12 rfl rfl)
theorem dX6_needsOf_107 : decode cX6_needsOf 107 = .ok (.aload_n 0, 1) := dk_42 (dk_at dksX6_needsOf_4 15 rfl rfl)
theorem dX6_needsOf_108 : decode cX6_needsOf 108 = .ok (.iload 4, 2) := dk_21 4 (dk_at dksX6_needsOf_4 16 rfl rfl)
theorem dX6_needsOf_110 : decode cX6_needsOf 110 = .ok (.invokevirtual 305, 3) := dk_182 1 49 (dk_at dksX6_needsOf_4 18 rfl rfl)
theorem dX6_needsOf_113 : decode cX6_needsOf 113 = .ok (.goto 4, 3) := dk_167 0 4 (dk_at dksX6_needsOf_4 21 rfl rfl)
theorem dX6_needsOf_116 : decode cX6_needsOf 116 = .ok (.iconst 0, 1) := dk_3 (dk_at dksX6_needsOf_5 0 rfl rfl)
theorem dX6_needsOf_117 : decode cX6_needsOf 117 = .ok (.istore 7, 2) := dk_54 7 (dk_at dksX6_needsOf_5 1 rfl rfl)
theorem dX6_needsOf_119 : decode cX6_needsOf 119 = .ok (.iload 6, 2) := dk_21 6 (dk_at dksX6_needsOf_5 3 rfl rfl)
theorem dX6_needsOf_121 : decode cX6_needsOf 121 = .ok (.ifCond .eq 17, 3) := dk_153 0 17 (dk_at dksX6_needsOf_5 5 rfl rfl)
theorem dX6_needsOf_124 : decode cX6_needsOf 124 = .ok (.iload 7, 2) := dk_21 7 (dk_at dksX6_needsOf_5 8 rfl rfl)
theorem dX6_needsOf_126 : decode cX6_needsOf 126 = .ok (.bipush (-9), 2) := dk_16 247 (dk_at dksX6_needsOf_5 10 rfl rfl)
theorem dX6_needsOf_128 : decode cX6_needsOf 128 = .ok (.if_icmp .ne 10, 3) := dk_160 0 10 (dk_at dksX6_needsOf_5 12 rfl rfl)
theorem dX6_needsOf_131 : decode cX6_needsOf 131 = .ok (.aload_n 0, 1) := dk_42 (dk_at dksX6_needsOf_5 15 rfl rfl)
theorem dX6_needsOf_132 : decode cX6_needsOf 132 = .ok (.iload 4, 2) := dk_21 4 (dk_at dksX6_needsOf_5 16 rfl rfl)
theorem dX6_needsOf_134 : decode cX6_needsOf 134 = .ok (.iload_n 1, 1) := dk_27 (dk_at dksX6_needsOf_5 18 rfl rfl)
theorem dX6_needsOf_135 : decode cX6_needsOf 135 = .ok (.invokevirtual 327, 3) := dk_182 1 71 (dk_at dksX6_needsOf_5 19 rfl rfl)
theorem dX6_needsOf_138 : decode cX6_needsOf 138 = .ok (.iload 5, 2) := dk_21 5 (dk_at dksX6_needsOf_5 22 rfl rfl)
theorem dX6_needsOf_140 : decode cX6_needsOf 140 = .ok (.iconst 1, 1) := dk_4 (dk_at dksX6_needsOf_6 0 rfl rfl)
theorem dX6_needsOf_141 : decode cX6_needsOf 141 = .ok (.if_icmp .eq 39, 3) := dk_159 0 39 (dk_at dksX6_needsOf_6 1 rfl rfl)
theorem dX6_needsOf_144 : decode cX6_needsOf 144 = .ok (.iload 5, 2) := dk_21 5 (dk_at dksX6_needsOf_6 4 rfl rfl)
theorem dX6_needsOf_146 : decode cX6_needsOf 146 = .ok (.iconst 4, 1) := dk_7 (dk_at dksX6_needsOf_6 6 rfl rfl)
theorem dX6_needsOf_147 : decode cX6_needsOf 147 = .ok (.if_icmp .eq 33, 3) := dk_159 0 33 (dk_at dksX6_needsOf_6 7 rfl rfl)
theorem dX6_needsOf_150 : decode cX6_needsOf 150 = .ok (.iload 5, 2) := dk_21 5 (dk_at dksX6_needsOf_6 10 rfl rfl)
theorem dX6_needsOf_152 : decode cX6_needsOf 152 = .ok (.iconst 3, 1) := dk_6 (dk_at dksX6_needsOf_6 12 rfl rfl)
theorem dX6_needsOf_153 : decode cX6_needsOf 153 = .ok (.if_icmp .eq 10, 3) := dk_159 0 10 (dk_at dksX6_needsOf_6 13 rfl rfl)
theorem dX6_needsOf_156 : decode cX6_needsOf 156 = .ok (.iload 5, 2) := dk_21 5 (dk_at dksX6_needsOf_6 16 rfl rfl)
theorem dX6_needsOf_158 : decode cX6_needsOf 158 = .ok (.bipush 6, 2) := dk_16 6 (dk_at dksX6_needsOf_6 18 rfl rfl)
theorem dX6_needsOf_160 : decode cX6_needsOf 160 = .ok (.if_icmp .ne 24, 3) := dk_160 0 24 (dk_at dksX6_needsOf_6 20 rfl rfl)
theorem dX6_needsOf_163 : decode cX6_needsOf 163 = .ok (.iload 7, 2) := dk_21 7 (dk_at dksX6_needsOf_7 0 rfl rfl)
theorem dX6_needsOf_165 : decode cX6_needsOf 165 = .ok (.bipush (-9), 2) := dk_16 247 (dk_at dksX6_needsOf_7 2 rfl rfl)
theorem dX6_needsOf_167 : decode cX6_needsOf 167 = .ok (.if_icmp .eq 17, 3) := dk_159 0 17 (dk_at dksX6_needsOf_7 4 rfl rfl)
theorem dX6_needsOf_170 : decode cX6_needsOf 170 = .ok (.aload_n 0, 1) := dk_42 (dk_at dksX6_needsOf_7 7 rfl rfl)
theorem dX6_needsOf_171 : decode cX6_needsOf 171 = .ok (.iload_n 3, 1) := dk_29 (dk_at dksX6_needsOf_7 8 rfl rfl)
theorem dX6_needsOf_172 : decode cX6_needsOf 172 = .ok (.iload 7, 2) := dk_21 7 (dk_at dksX6_needsOf_7 9 rfl rfl)
theorem dX6_needsOf_174 : decode cX6_needsOf 174 = .ok (.invokevirtual 311, 3) := dk_182 1 55 (dk_at dksX6_needsOf_7 11 rfl rfl)
theorem dX6_needsOf_177 : decode cX6_needsOf 177 = .ok (.ifCond .eq 7, 3) := dk_153 0 7 (dk_at dksX6_needsOf_7 14 rfl rfl)
theorem dX6_needsOf_180 : decode cX6_needsOf 180 = .ok (.iconst 1, 1) := dk_4 (dk_at dksX6_needsOf_7 17 rfl rfl)
theorem dX6_needsOf_181 : decode cX6_needsOf 181 = .ok (.goto 4, 3) := dk_167 0 4 (dk_at dksX6_needsOf_7 18 rfl rfl)
theorem dX6_needsOf_184 : decode cX6_needsOf 184 = .ok (.iconst 0, 1) := dk_3 (dk_at dksX6_needsOf_7 21 rfl rfl)
theorem dX6_needsOf_185 : decode cX6_needsOf 185 = .ok (.istore 8, 2) := dk_54 8 (dk_at dksX6_needsOf_7 22 rfl rfl)
theorem dX6_needsOf_187 : decode cX6_needsOf 187 = .ok (.iload 5, 2) := dk_21 5 (dk_at dksX6_needsOf_8 0 rfl rfl)
theorem dX6_needsOf_189 : decode cX6_needsOf 189 = .ok (.bipush 6, 2) := dk_16 6 (dk_at dksX6_needsOf_8 2 rfl rfl)
theorem dX6_needsOf_191 : decode cX6_needsOf 191 = .ok (.if_icmp .ne 25, 3) := dk_160 0 25 (dk_at dksX6_needsOf_8 4 rfl rfl)
theorem dX6_needsOf_194 : decode cX6_needsOf 194 = .ok (.aload_n 0, 1) := dk_42 (dk_at dksX6_needsOf_8 7 rfl rfl)
theorem dX6_needsOf_195 : decode cX6_needsOf 195 = .ok (.getfield 37, 3) := dk_180 0 37 (dk_at dksX6_needsOf_8 8 rfl rfl)
theorem dX6_needsOf_198 : decode cX6_needsOf 198 = .ok (.iload_n 3, 1) := dk_29 (dk_at dksX6_needsOf_8 11 rfl rfl)
theorem dX6_needsOf_199 : decode cX6_needsOf 199 = .ok (.iaload, 1) := dk_46 (dk_at dksX6_needsOf_8 12 rfl rfl)
theorem dX6_needsOf_200 : decode cX6_needsOf 200 = .ok (.iconst 2, 1) := dk_5 (dk_at dksX6_needsOf_8 13 rfl rfl)
theorem dX6_needsOf_201 : decode cX6_needsOf 201 = .ok (.if_icmp .ne 15, 3) := dk_160 0 15 (dk_at dksX6_needsOf_8 14 rfl rfl)
theorem dX6_needsOf_204 : decode cX6_needsOf 204 = .ok (.iload 7, 2) := dk_21 7 (dk_at dksX6_needsOf_8 17 rfl rfl)
theorem dX6_needsOf_206 : decode cX6_needsOf 206 = .ok (.aload_n 0, 1) := dk_42 (dk_at dksX6_needsOf_8 19 rfl rfl)
theorem dX6_needsOf_207 : decode cX6_needsOf 207 = .ok (.getfield 34, 3) := dk_180 0 34 (dk_at dksX6_needsOf_8 20 rfl rfl)
theorem dX6_needsOf_210 : decode cX6_needsOf 210 = .ok (.iload_n 3, 1) := dk_29 (dk_at dksX6_needsOf_8 23 rfl rfl)
theorem dX6_needsOf_211 : decode cX6_needsOf 211 = .ok (.iaload, 1) := dk_46 (dk_at dksX6_needsOf_9 0 rfl rfl)
theorem dX6_needsOf_212 : decode cX6_needsOf 212 = .ok (.isub, 1) := dk_100 (dk_at dksX6_needsOf_9 1 rfl rfl)
theorem dX6_needsOf_213 : decode cX6_needsOf 213 = .ok (.goto 4, 3) := dk_167 0 4 (dk_at dksX6_needsOf_9 2 rfl rfl)
theorem dX6_needsOf_216 : decode cX6_needsOf 216 = .ok (.iconst 0, 1) := dk_3 (dk_at dksX6_needsOf_9 5 rfl rfl)
theorem dX6_needsOf_217 : decode cX6_needsOf 217 = .ok (.istore 9, 2) := dk_54 9 (dk_at dksX6_needsOf_9 6 rfl rfl)
theorem dX6_needsOf_219 : decode cX6_needsOf 219 = .ok (.iconst 0, 1) := dk_3 (dk_at dksX6_needsOf_9 8 rfl rfl)
theorem dX6_needsOf_220 : decode cX6_needsOf 220 = .ok (.istore 10, 2) := dk_54 10 (dk_at dksX6_needsOf_9 9 rfl rfl)
theorem dX6_needsOf_222 : decode cX6_needsOf 222 = .ok (.iload 10, 2) := dk_21 10 (dk_at dksX6_needsOf_9 11 rfl rfl)
theorem dX6_needsOf_224 : decode cX6_needsOf 224 = .ok (.iconst 3, 1) := dk_6 (dk_at dksX6_needsOf_9 13 rfl rfl)
theorem dX6_needsOf_225 : decode cX6_needsOf 225 = .ok (.if_icmp .ge 84, 3) := dk_162 0 84 (dk_at dksX6_needsOf_9 14 rfl rfl)
theorem dX6_needsOf_228 : decode cX6_needsOf 228 = .ok (.iload 8, 2) := dk_21 8 (dk_at dksX6_needsOf_9 17 rfl rfl)
theorem dX6_needsOf_230 : decode cX6_needsOf 230 = .ok (.ifCond .eq 79, 3) := dk_153 0 79 (dk_at dksX6_needsOf_9 19 rfl rfl)
theorem dX6_needsOf_233 : decode cX6_needsOf 233 = .ok (.aload_n 0, 1) := dk_42 (dk_at dksX6_needsOf_9 22 rfl rfl)
theorem dX6_needsOf_234 : decode cX6_needsOf 234 = .ok (.getfield 40, 3) := dk_180 0 40 (dk_at dksX6_needsOf_10 0 rfl rfl)
theorem dX6_needsOf_237 : decode cX6_needsOf 237 = .ok (.iconst 3, 1) := dk_6 (dk_at dksX6_needsOf_10 3 rfl rfl)
theorem dX6_needsOf_238 : decode cX6_needsOf 238 = .ok (.iload_n 3, 1) := dk_29 (dk_at dksX6_needsOf_10 4 rfl rfl)
theorem dX6_needsOf_239 : decode cX6_needsOf 239 = .ok (.imul, 1) := dk_104 (dk_at dksX6_needsOf_10 5 rfl rfl)
theorem dX6_needsOf_240 : decode cX6_needsOf 240 = .ok (.iload 10, 2) := dk_21 10 (dk_at dksX6_needsOf_10 6 rfl rfl)
theorem dX6_needsOf_242 : decode cX6_needsOf 242 = .ok (.iadd, 1) := dk_96 (dk_at dksX6_needsOf_10 8 rfl rfl)
theorem dX6_needsOf_243 : decode cX6_needsOf 243 = .ok (.iaload, 1) := dk_46 (dk_at dksX6_needsOf_10 9 rfl rfl)
theorem dX6_needsOf_244 : decode cX6_needsOf 244 = .ok (.iconst (-1), 1) := dk_2 (dk_at dksX6_needsOf_10 10 rfl rfl)
theorem dX6_needsOf_245 : decode cX6_needsOf 245 = .ok (.if_icmp .eq 58, 3) := dk_159 0 58 (dk_at dksX6_needsOf_10 11 rfl rfl)
theorem dX6_needsOf_248 : decode cX6_needsOf 248 = .ok (.aload_n 0, 1) := dk_42 (dk_at dksX6_needsOf_10 14 rfl rfl)
theorem dX6_needsOf_249 : decode cX6_needsOf 249 = .ok (.getfield 86, 3) := dk_180 0 86 (dk_at dksX6_needsOf_10 15 rfl rfl)
theorem dX6_needsOf_252 : decode cX6_needsOf 252 = .ok (.iload_n 2, 1) := dk_28 (dk_at dksX6_needsOf_10 18 rfl rfl)
theorem dX6_needsOf_253 : decode cX6_needsOf 253 = .ok (.aload_n 0, 1) := dk_42 (dk_at dksX6_needsOf_10 19 rfl rfl)
theorem dX6_needsOf_254 : decode cX6_needsOf 254 = .ok (.getfield 40, 3) := dk_180 0 40 (dk_at dksX6_needsOf_10 20 rfl rfl)
theorem dX6_needsOf_257 : decode cX6_needsOf 257 = .ok (.iconst 3, 1) := dk_6 (dk_at dksX6_needsOf_10 23 rfl rfl)
theorem dX6_needsOf_258 : decode cX6_needsOf 258 = .ok (.iload_n 3, 1) := dk_29 (dk_at dksX6_needsOf_11 0 rfl rfl)
theorem dX6_needsOf_259 : decode cX6_needsOf 259 = .ok (.imul, 1) := dk_104 (dk_at dksX6_needsOf_11 1 rfl rfl)
theorem dX6_needsOf_260 : decode cX6_needsOf 260 = .ok (.iload 10, 2) := dk_21 10 (dk_at dksX6_needsOf_11 2 rfl rfl)
theorem dX6_needsOf_262 : decode cX6_needsOf 262 = .ok (.iadd, 1) := dk_96 (dk_at dksX6_needsOf_11 4 rfl rfl)
theorem dX6_needsOf_263 : decode cX6_needsOf 263 = .ok (.iaload, 1) := dk_46 (dk_at dksX6_needsOf_11 5 rfl rfl)
theorem dX6_needsOf_264 : decode cX6_needsOf 264 = .ok (.iastore, 1) := dk_79 (dk_at dksX6_needsOf_11 6 rfl rfl)
theorem dX6_needsOf_265 : decode cX6_needsOf 265 = .ok (.aload_n 0, 1) := dk_42 (dk_at dksX6_needsOf_11 7 rfl rfl)
theorem dX6_needsOf_266 : decode cX6_needsOf 266 = .ok (.getfield 158, 3) := dk_180 0 158 (dk_at dksX6_needsOf_11 8 rfl rfl)
theorem dX6_needsOf_269 : decode cX6_needsOf 269 = .ok (.iload_n 2, 1) := dk_28 (dk_at dksX6_needsOf_11 11 rfl rfl)
theorem dX6_needsOf_270 : decode cX6_needsOf 270 = .ok (.iload 5, 2) := dk_21 5 (dk_at dksX6_needsOf_11 12 rfl rfl)
theorem dX6_needsOf_272 : decode cX6_needsOf 272 = .ok (.iconst 1, 1) := dk_4 (dk_at dksX6_needsOf_11 14 rfl rfl)
theorem dX6_needsOf_273 : decode cX6_needsOf 273 = .ok (.if_icmp .eq 9, 3) := dk_159 0 9 (dk_at dksX6_needsOf_11 15 rfl rfl)
theorem dX6_needsOf_276 : decode cX6_needsOf 276 = .ok (.iload 5, 2) := dk_21 5 (dk_at dksX6_needsOf_11 18 rfl rfl)
theorem dX6_needsOf_278 : decode cX6_needsOf 278 = .ok (.iconst 4, 1) := dk_7 (dk_at dksX6_needsOf_11 20 rfl rfl)
theorem dX6_needsOf_279 : decode cX6_needsOf 279 = .ok (.if_icmp .ne 8, 3) := dk_160 0 8 (dk_at dksX6_needsOf_11 21 rfl rfl)
theorem dX6_needsOf_282 : decode cX6_needsOf 282 = .ok (.iload 4, 2) := dk_21 4 (dk_at dksX6_needsOf_12 0 rfl rfl)
theorem dX6_needsOf_284 : decode cX6_needsOf 284 = .ok (.goto 15, 3) := dk_167 0 15 (dk_at dksX6_needsOf_12 2 rfl rfl)
theorem dX6_needsOf_287 : decode cX6_needsOf 287 = .ok (.iconst 5, 1) := dk_8 (dk_at dksX6_needsOf_12 5 rfl rfl)
theorem dX6_needsOf_288 : decode cX6_needsOf 288 = .ok (.iload 4, 2) := dk_21 4 (dk_at dksX6_needsOf_12 6 rfl rfl)
theorem dX6_needsOf_290 : decode cX6_needsOf 290 = .ok (.imul, 1) := dk_104 (dk_at dksX6_needsOf_12 8 rfl rfl)
theorem dX6_needsOf_291 : decode cX6_needsOf 291 = .ok (.iload 9, 2) := dk_21 9 (dk_at dksX6_needsOf_12 9 rfl rfl)
theorem dX6_needsOf_293 : decode cX6_needsOf 293 = .ok (.iadd, 1) := dk_96 (dk_at dksX6_needsOf_12 11 rfl rfl)
theorem dX6_needsOf_294 : decode cX6_needsOf 294 = .ok (.iload 10, 2) := dk_21 10 (dk_at dksX6_needsOf_12 12 rfl rfl)
theorem dX6_needsOf_296 : decode cX6_needsOf 296 = .ok (.iadd, 1) := dk_96 (dk_at dksX6_needsOf_12 14 rfl rfl)
theorem dX6_needsOf_297 : decode cX6_needsOf 297 = .ok (.iconst 1, 1) := dk_4 (dk_at dksX6_needsOf_12 15 rfl rfl)
theorem dX6_needsOf_298 : decode cX6_needsOf 298 = .ok (.iadd, 1) := dk_96 (dk_at dksX6_needsOf_12 16 rfl rfl)
theorem dX6_needsOf_299 : decode cX6_needsOf 299 = .ok (.iastore, 1) := dk_79 (dk_at dksX6_needsOf_12 17 rfl rfl)
theorem dX6_needsOf_300 : decode cX6_needsOf 300 = .ok (.iinc 2 1, 3) := dk_132 2 1 (dk_at dksX6_needsOf_12 18 rfl rfl)
theorem dX6_needsOf_303 : decode cX6_needsOf 303 = .ok (.iinc 10 1, 3) := dk_132 10 1 (dk_at dksX6_needsOf_12 21 rfl rfl)
theorem dX6_needsOf_306 : decode cX6_needsOf 306 = .ok (.goto (-84), 3) := dk_167 255 172 (dk_at dksX6_needsOf_13 0 rfl rfl)
theorem dX6_needsOf_309 : decode cX6_needsOf 309 = .ok (.goto (-263), 3) := dk_167 254 249 (dk_at dksX6_needsOf_13 3 rfl rfl)
theorem dX6_needsOf_312 : decode cX6_needsOf 312 = .ok (.return_, 1) := dk_177 (dk_at dksX6_needsOf_13 6 rfl rfl)
abbrev cX6_need : ByteArray := prog_23_method_56_code
def yX6_need : MethodName := ⟨RX6, "need", "(II)V"⟩
def dkwX6_need_4 : List UInt8 := [28, 160, 0, 7, 3, 167, 0, 4, 4, 96, 79, 42, 180, 0, 155, 29, 28, 79, 177]
abbrev dktX6_need_4 : List UInt8 := dkwX6_need_4 ++ []
def dkwX6_need_3 : List UInt8 := [79, 42, 89, 180, 1, 68, 4, 96, 181, 1, 68, 42, 180, 0, 152, 29, 92, 46, 42, 180, 0, 155, 29, 46]
abbrev dktX6_need_3 : List UInt8 := dkwX6_need_3 ++ dktX6_need_4
def dkwX6_need_2 : List UInt8 := [180, 1, 68, 62, 42, 180, 0, 149, 29, 27, 79, 42, 180, 0, 152, 29, 3, 79, 42, 180, 0, 155, 29, 2]
abbrev dktX6_need_2 : List UInt8 := dkwX6_need_2 ++ dktX6_need_3
def dkwX6_need_1 : List UInt8 := [160, 0, 8, 21, 4, 167, 0, 4, 29, 62, 132, 4, 1, 167, 255, 226, 29, 2, 160, 0, 39, 42]
abbrev dktX6_need_1 : List UInt8 := dkwX6_need_1 ++ dktX6_need_2
def dkwX6_need_0 : List UInt8 := [2, 62, 3, 54, 4, 21, 4, 42, 180, 1, 68, 162, 0, 27, 42, 180, 0, 149, 21, 4, 46, 27]
abbrev dktX6_need_0 : List UInt8 := dkwX6_need_0 ++ dktX6_need_1
theorem dksX6_need_0 : cX6_need.data.toList.drop 0 = dktX6_need_0 := by decide +kernel
theorem dksX6_need_1 : cX6_need.data.toList.drop 22 = dktX6_need_1 := dk_seg dksX6_need_0 22 rfl rfl
theorem dksX6_need_2 : cX6_need.data.toList.drop 44 = dktX6_need_2 := dk_seg dksX6_need_1 22 rfl rfl
theorem dksX6_need_3 : cX6_need.data.toList.drop 68 = dktX6_need_3 := dk_seg dksX6_need_2 24 rfl rfl
theorem dksX6_need_4 : cX6_need.data.toList.drop 92 = dktX6_need_4 := dk_seg dksX6_need_3 24 rfl rfl
theorem dX6_need_0 : decode cX6_need 0 = .ok (.iconst (-1), 1) := dk_2 (dk_at dksX6_need_0 0 rfl rfl)
theorem dX6_need_1 : decode cX6_need 1 = .ok (.istore_n 3, 1) := dk_62 (dk_at dksX6_need_0 1 rfl rfl)
theorem dX6_need_2 : decode cX6_need 2 = .ok (.iconst 0, 1) := dk_3 (dk_at dksX6_need_0 2 rfl rfl)
theorem dX6_need_3 : decode cX6_need 3 = .ok (.istore 4, 2) := dk_54 4 (dk_at dksX6_need_0 3 rfl rfl)
theorem dX6_need_5 : decode cX6_need 5 = .ok (.iload 4, 2) := dk_21 4 (dk_at dksX6_need_0 5 rfl rfl)
theorem dX6_need_7 : decode cX6_need 7 = .ok (.aload_n 0, 1) := dk_42 (dk_at dksX6_need_0 7 rfl rfl)
theorem dX6_need_8 : decode cX6_need 8 = .ok (.getfield 324, 3) := dk_180 1 68 (dk_at dksX6_need_0 8 rfl rfl)
theorem dX6_need_11 : decode cX6_need 11 = .ok (.if_icmp .ge 27, 3) := dk_162 0 27 (dk_at dksX6_need_0 11 rfl rfl)
theorem dX6_need_14 : decode cX6_need 14 = .ok (.aload_n 0, 1) := dk_42 (dk_at dksX6_need_0 14 rfl rfl)
theorem dX6_need_15 : decode cX6_need 15 = .ok (.getfield 149, 3) := dk_180 0 149 (dk_at dksX6_need_0 15 rfl rfl)
theorem dX6_need_18 : decode cX6_need 18 = .ok (.iload 4, 2) := dk_21 4 (dk_at dksX6_need_0 18 rfl rfl)
theorem dX6_need_20 : decode cX6_need 20 = .ok (.iaload, 1) := dk_46 (dk_at dksX6_need_0 20 rfl rfl)
theorem dX6_need_21 : decode cX6_need 21 = .ok (.iload_n 1, 1) := dk_27 (dk_at dksX6_need_0 21 rfl rfl)
theorem dX6_need_22 : decode cX6_need 22 = .ok (.if_icmp .ne 8, 3) := dk_160 0 8 (dk_at dksX6_need_1 0 rfl rfl)
theorem dX6_need_25 : decode cX6_need 25 = .ok (.iload 4, 2) := dk_21 4 (dk_at dksX6_need_1 3 rfl rfl)
theorem dX6_need_27 : decode cX6_need 27 = .ok (.goto 4, 3) := dk_167 0 4 (dk_at dksX6_need_1 5 rfl rfl)
theorem dX6_need_30 : decode cX6_need 30 = .ok (.iload_n 3, 1) := dk_29 (dk_at dksX6_need_1 8 rfl rfl)
theorem dX6_need_31 : decode cX6_need 31 = .ok (.istore_n 3, 1) := dk_62 (dk_at dksX6_need_1 9 rfl rfl)
theorem dX6_need_32 : decode cX6_need 32 = .ok (.iinc 4 1, 3) := dk_132 4 1 (dk_at dksX6_need_1 10 rfl rfl)
theorem dX6_need_35 : decode cX6_need 35 = .ok (.goto (-30), 3) := dk_167 255 226 (dk_at dksX6_need_1 13 rfl rfl)
theorem dX6_need_38 : decode cX6_need 38 = .ok (.iload_n 3, 1) := dk_29 (dk_at dksX6_need_1 16 rfl rfl)
theorem dX6_need_39 : decode cX6_need 39 = .ok (.iconst (-1), 1) := dk_2 (dk_at dksX6_need_1 17 rfl rfl)
theorem dX6_need_40 : decode cX6_need 40 = .ok (.if_icmp .ne 39, 3) := dk_160 0 39 (dk_at dksX6_need_1 18 rfl rfl)
theorem dX6_need_43 : decode cX6_need 43 = .ok (.aload_n 0, 1) := dk_42 (dk_at dksX6_need_1 21 rfl rfl)
theorem dX6_need_44 : decode cX6_need 44 = .ok (.getfield 324, 3) := dk_180 1 68 (dk_at dksX6_need_2 0 rfl rfl)
theorem dX6_need_47 : decode cX6_need 47 = .ok (.istore_n 3, 1) := dk_62 (dk_at dksX6_need_2 3 rfl rfl)
theorem dX6_need_48 : decode cX6_need 48 = .ok (.aload_n 0, 1) := dk_42 (dk_at dksX6_need_2 4 rfl rfl)
theorem dX6_need_49 : decode cX6_need 49 = .ok (.getfield 149, 3) := dk_180 0 149 (dk_at dksX6_need_2 5 rfl rfl)
theorem dX6_need_52 : decode cX6_need 52 = .ok (.iload_n 3, 1) := dk_29 (dk_at dksX6_need_2 8 rfl rfl)
theorem dX6_need_53 : decode cX6_need 53 = .ok (.iload_n 1, 1) := dk_27 (dk_at dksX6_need_2 9 rfl rfl)
theorem dX6_need_54 : decode cX6_need 54 = .ok (.iastore, 1) := dk_79 (dk_at dksX6_need_2 10 rfl rfl)
theorem dX6_need_55 : decode cX6_need 55 = .ok (.aload_n 0, 1) := dk_42 (dk_at dksX6_need_2 11 rfl rfl)
theorem dX6_need_56 : decode cX6_need 56 = .ok (.getfield 152, 3) := dk_180 0 152 (dk_at dksX6_need_2 12 rfl rfl)
theorem dX6_need_59 : decode cX6_need 59 = .ok (.iload_n 3, 1) := dk_29 (dk_at dksX6_need_2 15 rfl rfl)
theorem dX6_need_60 : decode cX6_need 60 = .ok (.iconst 0, 1) := dk_3 (dk_at dksX6_need_2 16 rfl rfl)
theorem dX6_need_61 : decode cX6_need 61 = .ok (.iastore, 1) := dk_79 (dk_at dksX6_need_2 17 rfl rfl)
theorem dX6_need_62 : decode cX6_need 62 = .ok (.aload_n 0, 1) := dk_42 (dk_at dksX6_need_2 18 rfl rfl)
theorem dX6_need_63 : decode cX6_need 63 = .ok (.getfield 155, 3) := dk_180 0 155 (dk_at dksX6_need_2 19 rfl rfl)
theorem dX6_need_66 : decode cX6_need 66 = .ok (.iload_n 3, 1) := dk_29 (dk_at dksX6_need_2 22 rfl rfl)
theorem dX6_need_67 : decode cX6_need 67 = .ok (.iconst (-1), 1) := dk_2 (dk_at dksX6_need_2 23 rfl rfl)
theorem dX6_need_68 : decode cX6_need 68 = .ok (.iastore, 1) := dk_79 (dk_at dksX6_need_3 0 rfl rfl)
theorem dX6_need_69 : decode cX6_need 69 = .ok (.aload_n 0, 1) := dk_42 (dk_at dksX6_need_3 1 rfl rfl)
theorem dX6_need_70 : decode cX6_need 70 = .ok (.dup, 1) := dk_89 (dk_at dksX6_need_3 2 rfl rfl)
theorem dX6_need_71 : decode cX6_need 71 = .ok (.getfield 324, 3) := dk_180 1 68 (dk_at dksX6_need_3 3 rfl rfl)
theorem dX6_need_74 : decode cX6_need 74 = .ok (.iconst 1, 1) := dk_4 (dk_at dksX6_need_3 6 rfl rfl)
theorem dX6_need_75 : decode cX6_need 75 = .ok (.iadd, 1) := dk_96 (dk_at dksX6_need_3 7 rfl rfl)
theorem dX6_need_76 : decode cX6_need 76 = .ok (.putfield 324, 3) := dk_181 1 68 (dk_at dksX6_need_3 8 rfl rfl)
theorem dX6_need_79 : decode cX6_need 79 = .ok (.aload_n 0, 1) := dk_42 (dk_at dksX6_need_3 11 rfl rfl)
theorem dX6_need_80 : decode cX6_need 80 = .ok (.getfield 152, 3) := dk_180 0 152 (dk_at dksX6_need_3 12 rfl rfl)
theorem dX6_need_83 : decode cX6_need 83 = .ok (.iload_n 3, 1) := dk_29 (dk_at dksX6_need_3 15 rfl rfl)
theorem dX6_need_84 : decode cX6_need 84 = .ok (.dup2, 1) := dk_92 (dk_at dksX6_need_3 16 rfl rfl)
theorem dX6_need_85 : decode cX6_need 85 = .ok (.iaload, 1) := dk_46 (dk_at dksX6_need_3 17 rfl rfl)
theorem dX6_need_86 : decode cX6_need 86 = .ok (.aload_n 0, 1) := dk_42 (dk_at dksX6_need_3 18 rfl rfl)
theorem dX6_need_87 : decode cX6_need 87 = .ok (.getfield 155, 3) := dk_180 0 155 (dk_at dksX6_need_3 19 rfl rfl)
theorem dX6_need_90 : decode cX6_need 90 = .ok (.iload_n 3, 1) := dk_29 (dk_at dksX6_need_3 22 rfl rfl)
theorem dX6_need_91 : decode cX6_need 91 = .ok (.iaload, 1) := dk_46 (dk_at dksX6_need_3 23 rfl rfl)
theorem dX6_need_92 : decode cX6_need 92 = .ok (.iload_n 2, 1) := dk_28 (dk_at dksX6_need_4 0 rfl rfl)
theorem dX6_need_93 : decode cX6_need 93 = .ok (.if_icmp .ne 7, 3) := dk_160 0 7 (dk_at dksX6_need_4 1 rfl rfl)
theorem dX6_need_96 : decode cX6_need 96 = .ok (.iconst 0, 1) := dk_3 (dk_at dksX6_need_4 4 rfl rfl)
theorem dX6_need_97 : decode cX6_need 97 = .ok (.goto 4, 3) := dk_167 0 4 (dk_at dksX6_need_4 5 rfl rfl)
theorem dX6_need_100 : decode cX6_need 100 = .ok (.iconst 1, 1) := dk_4 (dk_at dksX6_need_4 8 rfl rfl)
theorem dX6_need_101 : decode cX6_need 101 = .ok (.iadd, 1) := dk_96 (dk_at dksX6_need_4 9 rfl rfl)
theorem dX6_need_102 : decode cX6_need 102 = .ok (.iastore, 1) := dk_79 (dk_at dksX6_need_4 10 rfl rfl)
theorem dX6_need_103 : decode cX6_need 103 = .ok (.aload_n 0, 1) := dk_42 (dk_at dksX6_need_4 11 rfl rfl)
theorem dX6_need_104 : decode cX6_need 104 = .ok (.getfield 155, 3) := dk_180 0 155 (dk_at dksX6_need_4 12 rfl rfl)
theorem dX6_need_107 : decode cX6_need 107 = .ok (.iload_n 3, 1) := dk_29 (dk_at dksX6_need_4 15 rfl rfl)
theorem dX6_need_108 : decode cX6_need 108 = .ok (.iload_n 2, 1) := dk_28 (dk_at dksX6_need_4 16 rfl rfl)
theorem dX6_need_109 : decode cX6_need 109 = .ok (.iastore, 1) := dk_79 (dk_at dksX6_need_4 17 rfl rfl)
theorem dX6_need_110 : decode cX6_need 110 = .ok (.return_, 1) := dk_177 (dk_at dksX6_need_4 18 rfl rfl)
abbrev cX6_kindOf : ByteArray := prog_23_method_54_code
def yX6_kindOf : MethodName := ⟨RX6, "kindOf", "(I)I"⟩
def dkwX6_kindOf_4 : List UInt8 := [167, 255, 194, 29, 172]
abbrev dktX6_kindOf_4 : List UInt8 := dkwX6_kindOf_4 ++ []
def dkwX6_kindOf_3 : List UInt8 := [21, 7, 96, 104, 21, 6, 96, 46, 62, 8, 21, 4, 104, 21, 6, 96, 4, 96, 54, 4, 132, 5, 255]
abbrev dktX6_kindOf_3 : List UInt8 := dkwX6_kindOf_3 ++ dktX6_kindOf_4
def dkwX6_kindOf_2 : List UInt8 := [21, 4, 182, 1, 49, 54, 7, 29, 8, 160, 0, 7, 7, 167, 0, 19, 42, 180, 0, 16, 6, 7, 29, 104]
abbrev dktX6_kindOf_2 : List UInt8 := dkwX6_kindOf_2 ++ dktX6_kindOf_3
def dkwX6_kindOf_1 : List UInt8 := [4, 96, 54, 4, 28, 4, 100, 54, 5, 21, 5, 155, 0, 63, 42, 180, 0, 110, 21, 5, 46, 54, 6, 42]
abbrev dktX6_kindOf_1 : List UInt8 := dkwX6_kindOf_1 ++ dktX6_kindOf_2
def dkwX6_kindOf_0 : List UInt8 := [42, 27, 182, 0, 254, 61, 42, 180, 0, 65, 42, 180, 0, 110, 28, 46, 46, 62, 42, 180, 0, 110, 28, 46]
abbrev dktX6_kindOf_0 : List UInt8 := dkwX6_kindOf_0 ++ dktX6_kindOf_1
theorem dksX6_kindOf_0 : cX6_kindOf.data.toList.drop 0 = dktX6_kindOf_0 := by decide +kernel
theorem dksX6_kindOf_1 : cX6_kindOf.data.toList.drop 24 = dktX6_kindOf_1 := dk_seg dksX6_kindOf_0 24 rfl rfl
theorem dksX6_kindOf_2 : cX6_kindOf.data.toList.drop 48 = dktX6_kindOf_2 := dk_seg dksX6_kindOf_1 24 rfl rfl
theorem dksX6_kindOf_3 : cX6_kindOf.data.toList.drop 72 = dktX6_kindOf_3 := dk_seg dksX6_kindOf_2 24 rfl rfl
theorem dksX6_kindOf_4 : cX6_kindOf.data.toList.drop 95 = dktX6_kindOf_4 := dk_seg dksX6_kindOf_3 23 rfl rfl
theorem dX6_kindOf_0 : decode cX6_kindOf 0 = .ok (.aload_n 0, 1) := dk_42 (dk_at dksX6_kindOf_0 0 rfl rfl)
theorem dX6_kindOf_1 : decode cX6_kindOf 1 = .ok (.iload_n 1, 1) := dk_27 (dk_at dksX6_kindOf_0 1 rfl rfl)
theorem dX6_kindOf_2 : decode cX6_kindOf 2 = .ok (.invokevirtual 254, 3) := dk_182 0 254 (dk_at dksX6_kindOf_0 2 rfl rfl)
theorem dX6_kindOf_5 : decode cX6_kindOf 5 = .ok (.istore_n 2, 1) := dk_61 (dk_at dksX6_kindOf_0 5 rfl rfl)
theorem dX6_kindOf_6 : decode cX6_kindOf 6 = .ok (.aload_n 0, 1) := dk_42 (dk_at dksX6_kindOf_0 6 rfl rfl)
theorem dX6_kindOf_7 : decode cX6_kindOf 7 = .ok (.getfield 65, 3) := dk_180 0 65 (dk_at dksX6_kindOf_0 7 rfl rfl)
theorem dX6_kindOf_10 : decode cX6_kindOf 10 = .ok (.aload_n 0, 1) := dk_42 (dk_at dksX6_kindOf_0 10 rfl rfl)
theorem dX6_kindOf_11 : decode cX6_kindOf 11 = .ok (.getfield 110, 3) := dk_180 0 110 (dk_at dksX6_kindOf_0 11 rfl rfl)
theorem dX6_kindOf_14 : decode cX6_kindOf 14 = .ok (.iload_n 2, 1) := dk_28 (dk_at dksX6_kindOf_0 14 rfl rfl)
theorem dX6_kindOf_15 : decode cX6_kindOf 15 = .ok (.iaload, 1) := dk_46 (dk_at dksX6_kindOf_0 15 rfl rfl)
theorem dX6_kindOf_16 : decode cX6_kindOf 16 = .ok (.iaload, 1) := dk_46 (dk_at dksX6_kindOf_0 16 rfl rfl)
theorem dX6_kindOf_17 : decode cX6_kindOf 17 = .ok (.istore_n 3, 1) := dk_62 (dk_at dksX6_kindOf_0 17 rfl rfl)
theorem dX6_kindOf_18 : decode cX6_kindOf 18 = .ok (.aload_n 0, 1) := dk_42 (dk_at dksX6_kindOf_0 18 rfl rfl)
theorem dX6_kindOf_19 : decode cX6_kindOf 19 = .ok (.getfield 110, 3) := dk_180 0 110 (dk_at dksX6_kindOf_0 19 rfl rfl)
theorem dX6_kindOf_22 : decode cX6_kindOf 22 = .ok (.iload_n 2, 1) := dk_28 (dk_at dksX6_kindOf_0 22 rfl rfl)
theorem dX6_kindOf_23 : decode cX6_kindOf 23 = .ok (.iaload, 1) := dk_46 (dk_at dksX6_kindOf_0 23 rfl rfl)
theorem dX6_kindOf_24 : decode cX6_kindOf 24 = .ok (.iconst 1, 1) := dk_4 (dk_at dksX6_kindOf_1 0 rfl rfl)
theorem dX6_kindOf_25 : decode cX6_kindOf 25 = .ok (.iadd, 1) := dk_96 (dk_at dksX6_kindOf_1 1 rfl rfl)
theorem dX6_kindOf_26 : decode cX6_kindOf 26 = .ok (.istore 4, 2) := dk_54 4 (dk_at dksX6_kindOf_1 2 rfl rfl)
theorem dX6_kindOf_28 : decode cX6_kindOf 28 = .ok (.iload_n 2, 1) := dk_28 (dk_at dksX6_kindOf_1 4 rfl rfl)
theorem dX6_kindOf_29 : decode cX6_kindOf 29 = .ok (.iconst 1, 1) := dk_4 (dk_at dksX6_kindOf_1 5 rfl rfl)
theorem dX6_kindOf_30 : decode cX6_kindOf 30 = .ok (.isub, 1) := dk_100 (dk_at dksX6_kindOf_1 6 rfl rfl)
theorem dX6_kindOf_31 : decode cX6_kindOf 31 = .ok (.istore 5, 2) := dk_54 5 (dk_at dksX6_kindOf_1 7 rfl rfl)
theorem dX6_kindOf_33 : decode cX6_kindOf 33 = .ok (.iload 5, 2) := dk_21 5 (dk_at dksX6_kindOf_1 9 rfl rfl)
theorem dX6_kindOf_35 : decode cX6_kindOf 35 = .ok (.ifCond .lt 63, 3) := dk_155 0 63 (dk_at dksX6_kindOf_1 11 rfl rfl)
theorem dX6_kindOf_38 : decode cX6_kindOf 38 = .ok (.aload_n 0, 1) := dk_42 (dk_at dksX6_kindOf_1 14 rfl rfl)
theorem dX6_kindOf_39 : decode cX6_kindOf 39 = .ok (.getfield 110, 3) := dk_180 0 110 (dk_at dksX6_kindOf_1 15 rfl rfl)
theorem dX6_kindOf_42 : decode cX6_kindOf 42 = .ok (.iload 5, 2) := dk_21 5 (dk_at dksX6_kindOf_1 18 rfl rfl)
theorem dX6_kindOf_44 : decode cX6_kindOf 44 = .ok (.iaload, 1) := dk_46 (dk_at dksX6_kindOf_1 20 rfl rfl)
theorem dX6_kindOf_45 : decode cX6_kindOf 45 = .ok (.istore 6, 2) := dk_54 6 (dk_at dksX6_kindOf_1 21 rfl rfl)
theorem dX6_kindOf_47 : decode cX6_kindOf 47 = .ok (.aload_n 0, 1) := dk_42 (dk_at dksX6_kindOf_1 23 rfl rfl)
theorem dX6_kindOf_48 : decode cX6_kindOf 48 = .ok (.iload 4, 2) := dk_21 4 (dk_at dksX6_kindOf_2 0 rfl rfl)
theorem dX6_kindOf_50 : decode cX6_kindOf 50 = .ok (.invokevirtual 305, 3) := dk_182 1 49 (dk_at dksX6_kindOf_2 2 rfl rfl)
theorem dX6_kindOf_53 : decode cX6_kindOf 53 = .ok (.istore 7, 2) := dk_54 7 (dk_at dksX6_kindOf_2 5 rfl rfl)
theorem dX6_kindOf_55 : decode cX6_kindOf 55 = .ok (.iload_n 3, 1) := dk_29 (dk_at dksX6_kindOf_2 7 rfl rfl)
theorem dX6_kindOf_56 : decode cX6_kindOf 56 = .ok (.iconst 5, 1) := dk_8 (dk_at dksX6_kindOf_2 8 rfl rfl)
theorem dX6_kindOf_57 : decode cX6_kindOf 57 = .ok (.if_icmp .ne 7, 3) := dk_160 0 7 (dk_at dksX6_kindOf_2 9 rfl rfl)
theorem dX6_kindOf_60 : decode cX6_kindOf 60 = .ok (.iconst 4, 1) := dk_7 (dk_at dksX6_kindOf_2 12 rfl rfl)
theorem dX6_kindOf_61 : decode cX6_kindOf 61 = .ok (.goto 19, 3) := dk_167 0 19 (dk_at dksX6_kindOf_2 13 rfl rfl)
theorem dX6_kindOf_64 : decode cX6_kindOf 64 = .ok (.aload_n 0, 1) := dk_42 (dk_at dksX6_kindOf_2 16 rfl rfl)
theorem dX6_kindOf_65 : decode cX6_kindOf 65 = .ok (.getfield 16, 3) := dk_180 0 16 (dk_at dksX6_kindOf_2 17 rfl rfl)
theorem dX6_kindOf_68 : decode cX6_kindOf 68 = .ok (.iconst 3, 1) := dk_6 (dk_at dksX6_kindOf_2 20 rfl rfl)
theorem dX6_kindOf_69 : decode cX6_kindOf 69 = .ok (.iconst 4, 1) := dk_7 (dk_at dksX6_kindOf_2 21 rfl rfl)
theorem dX6_kindOf_70 : decode cX6_kindOf 70 = .ok (.iload_n 3, 1) := dk_29 (dk_at dksX6_kindOf_2 22 rfl rfl)
theorem dX6_kindOf_71 : decode cX6_kindOf 71 = .ok (.imul, 1) := dk_104 (dk_at dksX6_kindOf_2 23 rfl rfl)
theorem dX6_kindOf_72 : decode cX6_kindOf 72 = .ok (.iload 7, 2) := dk_21 7 (dk_at dksX6_kindOf_3 0 rfl rfl)
theorem dX6_kindOf_74 : decode cX6_kindOf 74 = .ok (.iadd, 1) := dk_96 (dk_at dksX6_kindOf_3 2 rfl rfl)
theorem dX6_kindOf_75 : decode cX6_kindOf 75 = .ok (.imul, 1) := dk_104 (dk_at dksX6_kindOf_3 3 rfl rfl)
theorem dX6_kindOf_76 : decode cX6_kindOf 76 = .ok (.iload 6, 2) := dk_21 6 (dk_at dksX6_kindOf_3 4 rfl rfl)
theorem dX6_kindOf_78 : decode cX6_kindOf 78 = .ok (.iadd, 1) := dk_96 (dk_at dksX6_kindOf_3 6 rfl rfl)
theorem dX6_kindOf_79 : decode cX6_kindOf 79 = .ok (.iaload, 1) := dk_46 (dk_at dksX6_kindOf_3 7 rfl rfl)
theorem dX6_kindOf_80 : decode cX6_kindOf 80 = .ok (.istore_n 3, 1) := dk_62 (dk_at dksX6_kindOf_3 8 rfl rfl)
theorem dX6_kindOf_81 : decode cX6_kindOf 81 = .ok (.iconst 5, 1) := dk_8 (dk_at dksX6_kindOf_3 9 rfl rfl)
theorem dX6_kindOf_82 : decode cX6_kindOf 82 = .ok (.iload 4, 2) := dk_21 4 (dk_at dksX6_kindOf_3 10 rfl rfl)
theorem dX6_kindOf_84 : decode cX6_kindOf 84 = .ok (.imul, 1) := dk_104 (dk_at dksX6_kindOf_3 12 rfl rfl)
theorem dX6_kindOf_85 : decode cX6_kindOf 85 = .ok (.iload 6, 2) := dk_21 6 (dk_at dksX6_kindOf_3 13 rfl rfl)
theorem dX6_kindOf_87 : decode cX6_kindOf 87 = .ok (.iadd, 1) := dk_96 (dk_at dksX6_kindOf_3 15 rfl rfl)
theorem dX6_kindOf_88 : decode cX6_kindOf 88 = .ok (.iconst 1, 1) := dk_4 (dk_at dksX6_kindOf_3 16 rfl rfl)
theorem dX6_kindOf_89 : decode cX6_kindOf 89 = .ok (.iadd, 1) := dk_96 (dk_at dksX6_kindOf_3 17 rfl rfl)
theorem dX6_kindOf_90 : decode cX6_kindOf 90 = .ok (.istore 4, 2) := dk_54 4 (dk_at dksX6_kindOf_3 18 rfl rfl)
theorem dX6_kindOf_92 : decode cX6_kindOf 92 = .ok (.iinc 5 (-1), 3) := dk_132 5 255 (dk_at dksX6_kindOf_3 20 rfl rfl)
theorem dX6_kindOf_95 : decode cX6_kindOf 95 = .ok (.goto (-62), 3) := dk_167 255 194 (dk_at dksX6_kindOf_4 0 rfl rfl)
theorem dX6_kindOf_98 : decode cX6_kindOf 98 = .ok (.iload_n 3, 1) := dk_29 (dk_at dksX6_kindOf_4 3 rfl rfl)
theorem dX6_kindOf_99 : decode cX6_kindOf 99 = .ok (.ireturn, 1) := dk_172 (dk_at dksX6_kindOf_4 4 rfl rfl)
abbrev cX6_runTree : ByteArray := prog_23_method_64_code
def yX6_runTree : MethodName := ⟨RX6, "runTree", "()I"⟩
def dkwX6_runTree_7 : List UInt8 := [160, 0, 7, 4, 167, 0, 4, 3, 182, 1, 101, 172]
abbrev dktX6_runTree_7 : List UInt8 := dkwX6_runTree_7 ++ []
def dkwX6_runTree_6 : List UInt8 := [180, 0, 134, 27, 46, 27, 182, 1, 105, 42, 42, 180, 0, 134, 27, 46, 42, 180, 0, 131, 27, 46, 4]
abbrev dktX6_runTree_6 : List UInt8 := dkwX6_runTree_6 ++ dktX6_runTree_7
def dkwX6_runTree_5 : List UInt8 := [60, 167, 255, 137, 42, 180, 0, 131, 27, 46, 5, 160, 0, 10, 42, 2, 3, 182, 1, 101, 172, 42, 42]
abbrev dktX6_runTree_5 : List UInt8 := dkwX6_runTree_5 ++ dktX6_runTree_6
def dkwX6_runTree_4 : List UInt8 := [27, 46, 182, 1, 9, 61, 42, 89, 180, 0, 234, 4, 96, 181, 0, 234, 42, 180, 0, 140, 27, 46, 28, 96]
abbrev dktX6_runTree_4 : List UInt8 := dkwX6_runTree_4 ++ dktX6_runTree_5
def dkwX6_runTree_3 : List UInt8 := [42, 42, 180, 0, 134, 27, 46, 42, 180, 0, 137, 27, 46, 182, 1, 43, 167, 0, 13, 42, 42, 180, 0, 137]
abbrev dktX6_runTree_3 : List UInt8 := dkwX6_runTree_3 ++ dktX6_runTree_4
def dkwX6_runTree_2 : List UInt8 := [3, 167, 0, 4, 4, 61, 167, 0, 58, 42, 4, 181, 1, 5, 42, 180, 0, 131, 27, 46, 7, 160, 0, 22]
abbrev dktX6_runTree_2 : List UInt8 := dkwX6_runTree_2 ++ dktX6_runTree_3
def dkwX6_runTree_1 : List UInt8 := [42, 42, 180, 0, 134, 27, 46, 27, 182, 1, 105, 42, 42, 180, 0, 134, 27, 46, 182, 1, 98, 154, 0, 7]
abbrev dktX6_runTree_1 : List UInt8 := dkwX6_runTree_1 ++ dktX6_runTree_2
def dkwX6_runTree_0 : List UInt8 := [3, 60, 42, 180, 0, 131, 27, 46, 5, 164, 0, 115, 3, 61, 42, 180, 0, 131, 27, 46, 6, 160, 0, 36]
abbrev dktX6_runTree_0 : List UInt8 := dkwX6_runTree_0 ++ dktX6_runTree_1
theorem dksX6_runTree_0 : cX6_runTree.data.toList.drop 0 = dktX6_runTree_0 := by decide +kernel
theorem dksX6_runTree_1 : cX6_runTree.data.toList.drop 24 = dktX6_runTree_1 := dk_seg dksX6_runTree_0 24 rfl rfl
theorem dksX6_runTree_2 : cX6_runTree.data.toList.drop 48 = dktX6_runTree_2 := dk_seg dksX6_runTree_1 24 rfl rfl
theorem dksX6_runTree_3 : cX6_runTree.data.toList.drop 72 = dktX6_runTree_3 := dk_seg dksX6_runTree_2 24 rfl rfl
theorem dksX6_runTree_4 : cX6_runTree.data.toList.drop 96 = dktX6_runTree_4 := dk_seg dksX6_runTree_3 24 rfl rfl
theorem dksX6_runTree_5 : cX6_runTree.data.toList.drop 120 = dktX6_runTree_5 := dk_seg dksX6_runTree_4 24 rfl rfl
theorem dksX6_runTree_6 : cX6_runTree.data.toList.drop 143 = dktX6_runTree_6 := dk_seg dksX6_runTree_5 23 rfl rfl
theorem dksX6_runTree_7 : cX6_runTree.data.toList.drop 166 = dktX6_runTree_7 := dk_seg dksX6_runTree_6 23 rfl rfl
theorem dX6_runTree_0 : decode cX6_runTree 0 = .ok (.iconst 0, 1) := dk_3 (dk_at dksX6_runTree_0 0 rfl rfl)
theorem dX6_runTree_1 : decode cX6_runTree 1 = .ok (.istore_n 1, 1) := dk_60 (dk_at dksX6_runTree_0 1 rfl rfl)
theorem dX6_runTree_2 : decode cX6_runTree 2 = .ok (.aload_n 0, 1) := dk_42 (dk_at dksX6_runTree_0 2 rfl rfl)
theorem dX6_runTree_3 : decode cX6_runTree 3 = .ok (.getfield 131, 3) := dk_180 0 131 (dk_at dksX6_runTree_0 3 rfl rfl)
theorem dX6_runTree_6 : decode cX6_runTree 6 = .ok (.iload_n 1, 1) := dk_27 (dk_at dksX6_runTree_0 6 rfl rfl)
theorem dX6_runTree_7 : decode cX6_runTree 7 = .ok (.iaload, 1) := dk_46 (dk_at dksX6_runTree_0 7 rfl rfl)
theorem dX6_runTree_8 : decode cX6_runTree 8 = .ok (.iconst 2, 1) := dk_5 (dk_at dksX6_runTree_0 8 rfl rfl)
theorem dX6_runTree_9 : decode cX6_runTree 9 = .ok (.if_icmp .le 115, 3) := dk_164 0 115 (dk_at dksX6_runTree_0 9 rfl rfl)
theorem dX6_runTree_12 : decode cX6_runTree 12 = .ok (.iconst 0, 1) := dk_3 (dk_at dksX6_runTree_0 12 rfl rfl)
theorem dX6_runTree_13 : decode cX6_runTree 13 = .ok (.istore_n 2, 1) := dk_61 (dk_at dksX6_runTree_0 13 rfl rfl)
theorem dX6_runTree_14 : decode cX6_runTree 14 = .ok (.aload_n 0, 1) := dk_42 (dk_at dksX6_runTree_0 14 rfl rfl)
theorem dX6_runTree_15 : decode cX6_runTree 15 = .ok (.getfield 131, 3) := dk_180 0 131 (dk_at dksX6_runTree_0 15 rfl rfl)
theorem dX6_runTree_18 : decode cX6_runTree 18 = .ok (.iload_n 1, 1) := dk_27 (dk_at dksX6_runTree_0 18 rfl rfl)
theorem dX6_runTree_19 : decode cX6_runTree 19 = .ok (.iaload, 1) := dk_46 (dk_at dksX6_runTree_0 19 rfl rfl)
theorem dX6_runTree_20 : decode cX6_runTree 20 = .ok (.iconst 3, 1) := dk_6 (dk_at dksX6_runTree_0 20 rfl rfl)
theorem dX6_runTree_21 : decode cX6_runTree 21 = .ok (.if_icmp .ne 36, 3) := dk_160 0 36 (dk_at dksX6_runTree_0 21 rfl rfl)
theorem dX6_runTree_24 : decode cX6_runTree 24 = .ok (.aload_n 0, 1) := dk_42 (dk_at dksX6_runTree_1 0 rfl rfl)
theorem dX6_runTree_25 : decode cX6_runTree 25 = .ok (.aload_n 0, 1) := dk_42 (dk_at dksX6_runTree_1 1 rfl rfl)
theorem dX6_runTree_26 : decode cX6_runTree 26 = .ok (.getfield 134, 3) := dk_180 0 134 (dk_at dksX6_runTree_1 2 rfl rfl)
theorem dX6_runTree_29 : decode cX6_runTree 29 = .ok (.iload_n 1, 1) := dk_27 (dk_at dksX6_runTree_1 5 rfl rfl)
theorem dX6_runTree_30 : decode cX6_runTree 30 = .ok (.iaload, 1) := dk_46 (dk_at dksX6_runTree_1 6 rfl rfl)
theorem dX6_runTree_31 : decode cX6_runTree 31 = .ok (.iload_n 1, 1) := dk_27 (dk_at dksX6_runTree_1 7 rfl rfl)
theorem dX6_runTree_32 : decode cX6_runTree 32 = .ok (.invokevirtual 361, 3) := dk_182 1 105 (dk_at dksX6_runTree_1 8 rfl rfl)
theorem dX6_runTree_35 : decode cX6_runTree 35 = .ok (.aload_n 0, 1) := dk_42 (dk_at dksX6_runTree_1 11 rfl rfl)
theorem dX6_runTree_36 : decode cX6_runTree 36 = .ok (.aload_n 0, 1) := dk_42 (dk_at dksX6_runTree_1 12 rfl rfl)
theorem dX6_runTree_37 : decode cX6_runTree 37 = .ok (.getfield 134, 3) := dk_180 0 134 (dk_at dksX6_runTree_1 13 rfl rfl)
theorem dX6_runTree_40 : decode cX6_runTree 40 = .ok (.iload_n 1, 1) := dk_27 (dk_at dksX6_runTree_1 16 rfl rfl)
theorem dX6_runTree_41 : decode cX6_runTree 41 = .ok (.iaload, 1) := dk_46 (dk_at dksX6_runTree_1 17 rfl rfl)
theorem dX6_runTree_42 : decode cX6_runTree 42 = .ok (.invokevirtual 354, 3) := dk_182 1 98 (dk_at dksX6_runTree_1 18 rfl rfl)
theorem dX6_runTree_45 : decode cX6_runTree 45 = .ok (.ifCond .ne 7, 3) := dk_154 0 7 (dk_at dksX6_runTree_1 21 rfl rfl)
theorem dX6_runTree_48 : decode cX6_runTree 48 = .ok (.iconst 0, 1) := dk_3 (dk_at dksX6_runTree_2 0 rfl rfl)
theorem dX6_runTree_49 : decode cX6_runTree 49 = .ok (.goto 4, 3) := dk_167 0 4 (dk_at dksX6_runTree_2 1 rfl rfl)
theorem dX6_runTree_52 : decode cX6_runTree 52 = .ok (.iconst 1, 1) := dk_4 (dk_at dksX6_runTree_2 4 rfl rfl)
theorem dX6_runTree_53 : decode cX6_runTree 53 = .ok (.istore_n 2, 1) := dk_61 (dk_at dksX6_runTree_2 5 rfl rfl)
theorem dX6_runTree_54 : decode cX6_runTree 54 = .ok (.goto 58, 3) := dk_167 0 58 (dk_at dksX6_runTree_2 6 rfl rfl)
theorem dX6_runTree_57 : decode cX6_runTree 57 = .ok (.aload_n 0, 1) := dk_42 (dk_at dksX6_runTree_2 9 rfl rfl)
theorem dX6_runTree_58 : decode cX6_runTree 58 = .ok (.iconst 1, 1) := dk_4 (dk_at dksX6_runTree_2 10 rfl rfl)
theorem dX6_runTree_59 : decode cX6_runTree 59 = .ok (.putfield 261, 3) := dk_181 1 5 (dk_at dksX6_runTree_2 11 rfl rfl)
theorem dX6_runTree_62 : decode cX6_runTree 62 = .ok (.aload_n 0, 1) := dk_42 (dk_at dksX6_runTree_2 14 rfl rfl)
theorem dX6_runTree_63 : decode cX6_runTree 63 = .ok (.getfield 131, 3) := dk_180 0 131 (dk_at dksX6_runTree_2 15 rfl rfl)
theorem dX6_runTree_66 : decode cX6_runTree 66 = .ok (.iload_n 1, 1) := dk_27 (dk_at dksX6_runTree_2 18 rfl rfl)
theorem dX6_runTree_67 : decode cX6_runTree 67 = .ok (.iaload, 1) := dk_46 (dk_at dksX6_runTree_2 19 rfl rfl)
theorem dX6_runTree_68 : decode cX6_runTree 68 = .ok (.iconst 4, 1) := dk_7 (dk_at dksX6_runTree_2 20 rfl rfl)
theorem dX6_runTree_69 : decode cX6_runTree 69 = .ok (.if_icmp .ne 22, 3) := dk_160 0 22 (dk_at dksX6_runTree_2 21 rfl rfl)
theorem dX6_runTree_72 : decode cX6_runTree 72 = .ok (.aload_n 0, 1) := dk_42 (dk_at dksX6_runTree_3 0 rfl rfl)
theorem dX6_runTree_73 : decode cX6_runTree 73 = .ok (.aload_n 0, 1) := dk_42 (dk_at dksX6_runTree_3 1 rfl rfl)
theorem dX6_runTree_74 : decode cX6_runTree 74 = .ok (.getfield 134, 3) := dk_180 0 134 (dk_at dksX6_runTree_3 2 rfl rfl)
theorem dX6_runTree_77 : decode cX6_runTree 77 = .ok (.iload_n 1, 1) := dk_27 (dk_at dksX6_runTree_3 5 rfl rfl)
theorem dX6_runTree_78 : decode cX6_runTree 78 = .ok (.iaload, 1) := dk_46 (dk_at dksX6_runTree_3 6 rfl rfl)
theorem dX6_runTree_79 : decode cX6_runTree 79 = .ok (.aload_n 0, 1) := dk_42 (dk_at dksX6_runTree_3 7 rfl rfl)
theorem dX6_runTree_80 : decode cX6_runTree 80 = .ok (.getfield 137, 3) := dk_180 0 137 (dk_at dksX6_runTree_3 8 rfl rfl)
theorem dX6_runTree_83 : decode cX6_runTree 83 = .ok (.iload_n 1, 1) := dk_27 (dk_at dksX6_runTree_3 11 rfl rfl)
theorem dX6_runTree_84 : decode cX6_runTree 84 = .ok (.iaload, 1) := dk_46 (dk_at dksX6_runTree_3 12 rfl rfl)
theorem dX6_runTree_85 : decode cX6_runTree 85 = .ok (.invokevirtual 299, 3) := dk_182 1 43 (dk_at dksX6_runTree_3 13 rfl rfl)
theorem dX6_runTree_88 : decode cX6_runTree 88 = .ok (.goto 13, 3) := dk_167 0 13 (dk_at dksX6_runTree_3 16 rfl rfl)
theorem dX6_runTree_91 : decode cX6_runTree 91 = .ok (.aload_n 0, 1) := dk_42 (dk_at dksX6_runTree_3 19 rfl rfl)
theorem dX6_runTree_92 : decode cX6_runTree 92 = .ok (.aload_n 0, 1) := dk_42 (dk_at dksX6_runTree_3 20 rfl rfl)
theorem dX6_runTree_93 : decode cX6_runTree 93 = .ok (.getfield 137, 3) := dk_180 0 137 (dk_at dksX6_runTree_3 21 rfl rfl)
theorem dX6_runTree_96 : decode cX6_runTree 96 = .ok (.iload_n 1, 1) := dk_27 (dk_at dksX6_runTree_4 0 rfl rfl)
theorem dX6_runTree_97 : decode cX6_runTree 97 = .ok (.iaload, 1) := dk_46 (dk_at dksX6_runTree_4 1 rfl rfl)
theorem dX6_runTree_98 : decode cX6_runTree 98 = .ok (.invokevirtual 265, 3) := dk_182 1 9 (dk_at dksX6_runTree_4 2 rfl rfl)
theorem dX6_runTree_101 : decode cX6_runTree 101 = .ok (.istore_n 2, 1) := dk_61 (dk_at dksX6_runTree_4 5 rfl rfl)
theorem dX6_runTree_102 : decode cX6_runTree 102 = .ok (.aload_n 0, 1) := dk_42 (dk_at dksX6_runTree_4 6 rfl rfl)
theorem dX6_runTree_103 : decode cX6_runTree 103 = .ok (.dup, 1) := dk_89 (dk_at dksX6_runTree_4 7 rfl rfl)
theorem dX6_runTree_104 : decode cX6_runTree 104 = .ok (.getfield 234, 3) := dk_180 0 234 (dk_at dksX6_runTree_4 8 rfl rfl)
theorem dX6_runTree_107 : decode cX6_runTree 107 = .ok (.iconst 1, 1) := dk_4 (dk_at dksX6_runTree_4 11 rfl rfl)
theorem dX6_runTree_108 : decode cX6_runTree 108 = .ok (.iadd, 1) := dk_96 (dk_at dksX6_runTree_4 12 rfl rfl)
theorem dX6_runTree_109 : decode cX6_runTree 109 = .ok (.putfield 234, 3) := dk_181 0 234 (dk_at dksX6_runTree_4 13 rfl rfl)
theorem dX6_runTree_112 : decode cX6_runTree 112 = .ok (.aload_n 0, 1) := dk_42 (dk_at dksX6_runTree_4 16 rfl rfl)
theorem dX6_runTree_113 : decode cX6_runTree 113 = .ok (.getfield 140, 3) := dk_180 0 140 (dk_at dksX6_runTree_4 17 rfl rfl)
theorem dX6_runTree_116 : decode cX6_runTree 116 = .ok (.iload_n 1, 1) := dk_27 (dk_at dksX6_runTree_4 20 rfl rfl)
theorem dX6_runTree_117 : decode cX6_runTree 117 = .ok (.iaload, 1) := dk_46 (dk_at dksX6_runTree_4 21 rfl rfl)
theorem dX6_runTree_118 : decode cX6_runTree 118 = .ok (.iload_n 2, 1) := dk_28 (dk_at dksX6_runTree_4 22 rfl rfl)
theorem dX6_runTree_119 : decode cX6_runTree 119 = .ok (.iadd, 1) := dk_96 (dk_at dksX6_runTree_4 23 rfl rfl)
theorem dX6_runTree_120 : decode cX6_runTree 120 = .ok (.istore_n 1, 1) := dk_60 (dk_at dksX6_runTree_5 0 rfl rfl)
theorem dX6_runTree_121 : decode cX6_runTree 121 = .ok (.goto (-119), 3) := dk_167 255 137 (dk_at dksX6_runTree_5 1 rfl rfl)
theorem dX6_runTree_124 : decode cX6_runTree 124 = .ok (.aload_n 0, 1) := dk_42 (dk_at dksX6_runTree_5 4 rfl rfl)
theorem dX6_runTree_125 : decode cX6_runTree 125 = .ok (.getfield 131, 3) := dk_180 0 131 (dk_at dksX6_runTree_5 5 rfl rfl)
theorem dX6_runTree_128 : decode cX6_runTree 128 = .ok (.iload_n 1, 1) := dk_27 (dk_at dksX6_runTree_5 8 rfl rfl)
theorem dX6_runTree_129 : decode cX6_runTree 129 = .ok (.iaload, 1) := dk_46 (dk_at dksX6_runTree_5 9 rfl rfl)
theorem dX6_runTree_130 : decode cX6_runTree 130 = .ok (.iconst 2, 1) := dk_5 (dk_at dksX6_runTree_5 10 rfl rfl)
theorem dX6_runTree_131 : decode cX6_runTree 131 = .ok (.if_icmp .ne 10, 3) := dk_160 0 10 (dk_at dksX6_runTree_5 11 rfl rfl)
theorem dX6_runTree_134 : decode cX6_runTree 134 = .ok (.aload_n 0, 1) := dk_42 (dk_at dksX6_runTree_5 14 rfl rfl)
theorem dX6_runTree_135 : decode cX6_runTree 135 = .ok (.iconst (-1), 1) := dk_2 (dk_at dksX6_runTree_5 15 rfl rfl)
theorem dX6_runTree_136 : decode cX6_runTree 136 = .ok (.iconst 0, 1) := dk_3 (dk_at dksX6_runTree_5 16 rfl rfl)
theorem dX6_runTree_137 : decode cX6_runTree 137 = .ok (.invokevirtual 357, 3) := dk_182 1 101 (dk_at dksX6_runTree_5 17 rfl rfl)
theorem dX6_runTree_140 : decode cX6_runTree 140 = .ok (.ireturn, 1) := dk_172 (dk_at dksX6_runTree_5 20 rfl rfl)
theorem dX6_runTree_141 : decode cX6_runTree 141 = .ok (.aload_n 0, 1) := dk_42 (dk_at dksX6_runTree_5 21 rfl rfl)
theorem dX6_runTree_142 : decode cX6_runTree 142 = .ok (.aload_n 0, 1) := dk_42 (dk_at dksX6_runTree_5 22 rfl rfl)
theorem dX6_runTree_143 : decode cX6_runTree 143 = .ok (.getfield 134, 3) := dk_180 0 134 (dk_at dksX6_runTree_6 0 rfl rfl)
theorem dX6_runTree_146 : decode cX6_runTree 146 = .ok (.iload_n 1, 1) := dk_27 (dk_at dksX6_runTree_6 3 rfl rfl)
theorem dX6_runTree_147 : decode cX6_runTree 147 = .ok (.iaload, 1) := dk_46 (dk_at dksX6_runTree_6 4 rfl rfl)
theorem dX6_runTree_148 : decode cX6_runTree 148 = .ok (.iload_n 1, 1) := dk_27 (dk_at dksX6_runTree_6 5 rfl rfl)
theorem dX6_runTree_149 : decode cX6_runTree 149 = .ok (.invokevirtual 361, 3) := dk_182 1 105 (dk_at dksX6_runTree_6 6 rfl rfl)
theorem dX6_runTree_152 : decode cX6_runTree 152 = .ok (.aload_n 0, 1) := dk_42 (dk_at dksX6_runTree_6 9 rfl rfl)
theorem dX6_runTree_153 : decode cX6_runTree 153 = .ok (.aload_n 0, 1) := dk_42 (dk_at dksX6_runTree_6 10 rfl rfl)
theorem dX6_runTree_154 : decode cX6_runTree 154 = .ok (.getfield 134, 3) := dk_180 0 134 (dk_at dksX6_runTree_6 11 rfl rfl)
theorem dX6_runTree_157 : decode cX6_runTree 157 = .ok (.iload_n 1, 1) := dk_27 (dk_at dksX6_runTree_6 14 rfl rfl)
theorem dX6_runTree_158 : decode cX6_runTree 158 = .ok (.iaload, 1) := dk_46 (dk_at dksX6_runTree_6 15 rfl rfl)
theorem dX6_runTree_159 : decode cX6_runTree 159 = .ok (.aload_n 0, 1) := dk_42 (dk_at dksX6_runTree_6 16 rfl rfl)
theorem dX6_runTree_160 : decode cX6_runTree 160 = .ok (.getfield 131, 3) := dk_180 0 131 (dk_at dksX6_runTree_6 17 rfl rfl)
theorem dX6_runTree_163 : decode cX6_runTree 163 = .ok (.iload_n 1, 1) := dk_27 (dk_at dksX6_runTree_6 20 rfl rfl)
theorem dX6_runTree_164 : decode cX6_runTree 164 = .ok (.iaload, 1) := dk_46 (dk_at dksX6_runTree_6 21 rfl rfl)
theorem dX6_runTree_165 : decode cX6_runTree 165 = .ok (.iconst 1, 1) := dk_4 (dk_at dksX6_runTree_6 22 rfl rfl)
theorem dX6_runTree_166 : decode cX6_runTree 166 = .ok (.if_icmp .ne 7, 3) := dk_160 0 7 (dk_at dksX6_runTree_7 0 rfl rfl)
theorem dX6_runTree_169 : decode cX6_runTree 169 = .ok (.iconst 1, 1) := dk_4 (dk_at dksX6_runTree_7 3 rfl rfl)
theorem dX6_runTree_170 : decode cX6_runTree 170 = .ok (.goto 4, 3) := dk_167 0 4 (dk_at dksX6_runTree_7 4 rfl rfl)
theorem dX6_runTree_173 : decode cX6_runTree 173 = .ok (.iconst 0, 1) := dk_3 (dk_at dksX6_runTree_7 7 rfl rfl)
theorem dX6_runTree_174 : decode cX6_runTree 174 = .ok (.invokevirtual 357, 3) := dk_182 1 101 (dk_at dksX6_runTree_7 8 rfl rfl)
theorem dX6_runTree_177 : decode cX6_runTree 177 = .ok (.ireturn, 1) := dk_172 (dk_at dksX6_runTree_7 11 rfl rfl)
abbrev cX6_bindBy : ByteArray := prog_23_method_65_code
def yX6_bindBy : MethodName := ⟨RX6, "bindBy", "(II)V"⟩
def dkwX6_bindBy_0 : List UInt8 := [42, 3, 181, 1, 5, 42, 28, 181, 1, 12, 42, 27, 182, 1, 77, 87, 177]
abbrev dktX6_bindBy_0 : List UInt8 := dkwX6_bindBy_0 ++ []
theorem dksX6_bindBy_0 : cX6_bindBy.data.toList.drop 0 = dktX6_bindBy_0 := by decide +kernel
theorem dX6_bindBy_0 : decode cX6_bindBy 0 = .ok (.aload_n 0, 1) := dk_42 (dk_at dksX6_bindBy_0 0 rfl rfl)
theorem dX6_bindBy_1 : decode cX6_bindBy 1 = .ok (.iconst 0, 1) := dk_3 (dk_at dksX6_bindBy_0 1 rfl rfl)
theorem dX6_bindBy_2 : decode cX6_bindBy 2 = .ok (.putfield 261, 3) := dk_181 1 5 (dk_at dksX6_bindBy_0 2 rfl rfl)
theorem dX6_bindBy_5 : decode cX6_bindBy 5 = .ok (.aload_n 0, 1) := dk_42 (dk_at dksX6_bindBy_0 5 rfl rfl)
theorem dX6_bindBy_6 : decode cX6_bindBy 6 = .ok (.iload_n 2, 1) := dk_28 (dk_at dksX6_bindBy_0 6 rfl rfl)
theorem dX6_bindBy_7 : decode cX6_bindBy 7 = .ok (.putfield 268, 3) := dk_181 1 12 (dk_at dksX6_bindBy_0 7 rfl rfl)
theorem dX6_bindBy_10 : decode cX6_bindBy 10 = .ok (.aload_n 0, 1) := dk_42 (dk_at dksX6_bindBy_0 10 rfl rfl)
theorem dX6_bindBy_11 : decode cX6_bindBy 11 = .ok (.iload_n 1, 1) := dk_27 (dk_at dksX6_bindBy_0 11 rfl rfl)
theorem dX6_bindBy_12 : decode cX6_bindBy 12 = .ok (.invokevirtual 333, 3) := dk_182 1 77 (dk_at dksX6_bindBy_0 12 rfl rfl)
theorem dX6_bindBy_15 : decode cX6_bindBy 15 = .ok (.pop, 1) := dk_87 (dk_at dksX6_bindBy_0 15 rfl rfl)
theorem dX6_bindBy_16 : decode cX6_bindBy 16 = .ok (.return_, 1) := dk_177 (dk_at dksX6_bindBy_0 16 rfl rfl)
abbrev cX6_guarded : ByteArray := prog_23_method_61_code
def yX6_guarded : MethodName := ⟨RX6, "guarded", "(I)I"⟩
def dkwX6_guarded_5 : List UInt8 := [167, 0, 4, 4, 172]
abbrev dktX6_guarded_5 : List UInt8 := dkwX6_guarded_5 ++ []
def dkwX6_guarded_4 : List UInt8 := [167, 0, 4, 3, 54, 5, 21, 5, 153, 0, 7, 3, 167, 0, 14, 21, 4, 6, 160, 0, 7, 5]
abbrev dktX6_guarded_4 : List UInt8 := dkwX6_guarded_4 ++ dktX6_guarded_5
def dkwX6_guarded_3 : List UInt8 := [5, 160, 0, 16, 28, 29, 164, 0, 7, 4, 167, 0, 17, 3, 167, 0, 13, 28, 29, 159, 0, 7, 4]
abbrev dktX6_guarded_3 : List UInt8 := dkwX6_guarded_3 ++ dktX6_guarded_4
def dkwX6_guarded_2 : List UInt8 := [167, 0, 51, 21, 4, 4, 160, 0, 16, 28, 29, 160, 0, 7, 4, 167, 0, 36, 3, 167, 0, 32, 21, 4]
abbrev dktX6_guarded_2 : List UInt8 := dkwX6_guarded_2 ++ dktX6_guarded_3
def dkwX6_guarded_1 : List UInt8 := [180, 0, 74, 27, 46, 54, 4, 21, 4, 154, 0, 16, 28, 29, 162, 0, 7, 4, 167, 0, 55, 3]
abbrev dktX6_guarded_1 : List UInt8 := dkwX6_guarded_1 ++ dktX6_guarded_2
def dkwX6_guarded_0 : List UInt8 := [42, 42, 180, 0, 107, 42, 180, 0, 77, 27, 46, 46, 182, 1, 9, 61, 42, 180, 0, 80, 27, 46, 62, 42]
abbrev dktX6_guarded_0 : List UInt8 := dkwX6_guarded_0 ++ dktX6_guarded_1
theorem dksX6_guarded_0 : cX6_guarded.data.toList.drop 0 = dktX6_guarded_0 := by decide +kernel
theorem dksX6_guarded_1 : cX6_guarded.data.toList.drop 24 = dktX6_guarded_1 := dk_seg dksX6_guarded_0 24 rfl rfl
theorem dksX6_guarded_2 : cX6_guarded.data.toList.drop 46 = dktX6_guarded_2 := dk_seg dksX6_guarded_1 22 rfl rfl
theorem dksX6_guarded_3 : cX6_guarded.data.toList.drop 70 = dktX6_guarded_3 := dk_seg dksX6_guarded_2 24 rfl rfl
theorem dksX6_guarded_4 : cX6_guarded.data.toList.drop 93 = dktX6_guarded_4 := dk_seg dksX6_guarded_3 23 rfl rfl
theorem dksX6_guarded_5 : cX6_guarded.data.toList.drop 115 = dktX6_guarded_5 := dk_seg dksX6_guarded_4 22 rfl rfl
theorem dX6_guarded_0 : decode cX6_guarded 0 = .ok (.aload_n 0, 1) := dk_42 (dk_at dksX6_guarded_0 0 rfl rfl)
theorem dX6_guarded_1 : decode cX6_guarded 1 = .ok (.aload_n 0, 1) := dk_42 (dk_at dksX6_guarded_0 1 rfl rfl)
theorem dX6_guarded_2 : decode cX6_guarded 2 = .ok (.getfield 107, 3) := dk_180 0 107 (dk_at dksX6_guarded_0 2 rfl rfl)
theorem dX6_guarded_5 : decode cX6_guarded 5 = .ok (.aload_n 0, 1) := dk_42 (dk_at dksX6_guarded_0 5 rfl rfl)
theorem dX6_guarded_6 : decode cX6_guarded 6 = .ok (.getfield 77, 3) := dk_180 0 77 (dk_at dksX6_guarded_0 6 rfl rfl)
theorem dX6_guarded_9 : decode cX6_guarded 9 = .ok (.iload_n 1, 1) := dk_27 (dk_at dksX6_guarded_0 9 rfl rfl)
theorem dX6_guarded_10 : decode cX6_guarded 10 = .ok (.iaload, 1) := dk_46 (dk_at dksX6_guarded_0 10 rfl rfl)
theorem dX6_guarded_11 : decode cX6_guarded 11 = .ok (.iaload, 1) := dk_46 (dk_at dksX6_guarded_0 11 rfl rfl)
theorem dX6_guarded_12 : decode cX6_guarded 12 = .ok (.invokevirtual 265, 3) := dk_182 1 9 (dk_at dksX6_guarded_0 12 rfl rfl)
theorem dX6_guarded_15 : decode cX6_guarded 15 = .ok (.istore_n 2, 1) := dk_61 (dk_at dksX6_guarded_0 15 rfl rfl)
theorem dX6_guarded_16 : decode cX6_guarded 16 = .ok (.aload_n 0, 1) := dk_42 (dk_at dksX6_guarded_0 16 rfl rfl)
theorem dX6_guarded_17 : decode cX6_guarded 17 = .ok (.getfield 80, 3) := dk_180 0 80 (dk_at dksX6_guarded_0 17 rfl rfl)
theorem dX6_guarded_20 : decode cX6_guarded 20 = .ok (.iload_n 1, 1) := dk_27 (dk_at dksX6_guarded_0 20 rfl rfl)
theorem dX6_guarded_21 : decode cX6_guarded 21 = .ok (.iaload, 1) := dk_46 (dk_at dksX6_guarded_0 21 rfl rfl)
theorem dX6_guarded_22 : decode cX6_guarded 22 = .ok (.istore_n 3, 1) := dk_62 (dk_at dksX6_guarded_0 22 rfl rfl)
theorem dX6_guarded_23 : decode cX6_guarded 23 = .ok (.aload_n 0, 1) := dk_42 (dk_at dksX6_guarded_0 23 rfl rfl)
theorem dX6_guarded_24 : decode cX6_guarded 24 = .ok (.getfield 74, 3) := dk_180 0 74 (dk_at dksX6_guarded_1 0 rfl rfl)
theorem dX6_guarded_27 : decode cX6_guarded 27 = .ok (.iload_n 1, 1) := dk_27 (dk_at dksX6_guarded_1 3 rfl rfl)
theorem dX6_guarded_28 : decode cX6_guarded 28 = .ok (.iaload, 1) := dk_46 (dk_at dksX6_guarded_1 4 rfl rfl)
theorem dX6_guarded_29 : decode cX6_guarded 29 = .ok (.istore 4, 2) := dk_54 4 (dk_at dksX6_guarded_1 5 rfl rfl)
theorem dX6_guarded_31 : decode cX6_guarded 31 = .ok (.iload 4, 2) := dk_21 4 (dk_at dksX6_guarded_1 7 rfl rfl)
theorem dX6_guarded_33 : decode cX6_guarded 33 = .ok (.ifCond .ne 16, 3) := dk_154 0 16 (dk_at dksX6_guarded_1 9 rfl rfl)
theorem dX6_guarded_36 : decode cX6_guarded 36 = .ok (.iload_n 2, 1) := dk_28 (dk_at dksX6_guarded_1 12 rfl rfl)
theorem dX6_guarded_37 : decode cX6_guarded 37 = .ok (.iload_n 3, 1) := dk_29 (dk_at dksX6_guarded_1 13 rfl rfl)
theorem dX6_guarded_38 : decode cX6_guarded 38 = .ok (.if_icmp .ge 7, 3) := dk_162 0 7 (dk_at dksX6_guarded_1 14 rfl rfl)
theorem dX6_guarded_41 : decode cX6_guarded 41 = .ok (.iconst 1, 1) := dk_4 (dk_at dksX6_guarded_1 17 rfl rfl)
theorem dX6_guarded_42 : decode cX6_guarded 42 = .ok (.goto 55, 3) := dk_167 0 55 (dk_at dksX6_guarded_1 18 rfl rfl)
theorem dX6_guarded_45 : decode cX6_guarded 45 = .ok (.iconst 0, 1) := dk_3 (dk_at dksX6_guarded_1 21 rfl rfl)
theorem dX6_guarded_46 : decode cX6_guarded 46 = .ok (.goto 51, 3) := dk_167 0 51 (dk_at dksX6_guarded_2 0 rfl rfl)
theorem dX6_guarded_49 : decode cX6_guarded 49 = .ok (.iload 4, 2) := dk_21 4 (dk_at dksX6_guarded_2 3 rfl rfl)
theorem dX6_guarded_51 : decode cX6_guarded 51 = .ok (.iconst 1, 1) := dk_4 (dk_at dksX6_guarded_2 5 rfl rfl)
theorem dX6_guarded_52 : decode cX6_guarded 52 = .ok (.if_icmp .ne 16, 3) := dk_160 0 16 (dk_at dksX6_guarded_2 6 rfl rfl)
theorem dX6_guarded_55 : decode cX6_guarded 55 = .ok (.iload_n 2, 1) := dk_28 (dk_at dksX6_guarded_2 9 rfl rfl)
theorem dX6_guarded_56 : decode cX6_guarded 56 = .ok (.iload_n 3, 1) := dk_29 (dk_at dksX6_guarded_2 10 rfl rfl)
theorem dX6_guarded_57 : decode cX6_guarded 57 = .ok (.if_icmp .ne 7, 3) := dk_160 0 7 (dk_at dksX6_guarded_2 11 rfl rfl)
theorem dX6_guarded_60 : decode cX6_guarded 60 = .ok (.iconst 1, 1) := dk_4 (dk_at dksX6_guarded_2 14 rfl rfl)
theorem dX6_guarded_61 : decode cX6_guarded 61 = .ok (.goto 36, 3) := dk_167 0 36 (dk_at dksX6_guarded_2 15 rfl rfl)
theorem dX6_guarded_64 : decode cX6_guarded 64 = .ok (.iconst 0, 1) := dk_3 (dk_at dksX6_guarded_2 18 rfl rfl)
theorem dX6_guarded_65 : decode cX6_guarded 65 = .ok (.goto 32, 3) := dk_167 0 32 (dk_at dksX6_guarded_2 19 rfl rfl)
theorem dX6_guarded_68 : decode cX6_guarded 68 = .ok (.iload 4, 2) := dk_21 4 (dk_at dksX6_guarded_2 22 rfl rfl)
theorem dX6_guarded_70 : decode cX6_guarded 70 = .ok (.iconst 2, 1) := dk_5 (dk_at dksX6_guarded_3 0 rfl rfl)
theorem dX6_guarded_71 : decode cX6_guarded 71 = .ok (.if_icmp .ne 16, 3) := dk_160 0 16 (dk_at dksX6_guarded_3 1 rfl rfl)
theorem dX6_guarded_74 : decode cX6_guarded 74 = .ok (.iload_n 2, 1) := dk_28 (dk_at dksX6_guarded_3 4 rfl rfl)
theorem dX6_guarded_75 : decode cX6_guarded 75 = .ok (.iload_n 3, 1) := dk_29 (dk_at dksX6_guarded_3 5 rfl rfl)
theorem dX6_guarded_76 : decode cX6_guarded 76 = .ok (.if_icmp .le 7, 3) := dk_164 0 7 (dk_at dksX6_guarded_3 6 rfl rfl)
theorem dX6_guarded_79 : decode cX6_guarded 79 = .ok (.iconst 1, 1) := dk_4 (dk_at dksX6_guarded_3 9 rfl rfl)
theorem dX6_guarded_80 : decode cX6_guarded 80 = .ok (.goto 17, 3) := dk_167 0 17 (dk_at dksX6_guarded_3 10 rfl rfl)
theorem dX6_guarded_83 : decode cX6_guarded 83 = .ok (.iconst 0, 1) := dk_3 (dk_at dksX6_guarded_3 13 rfl rfl)
theorem dX6_guarded_84 : decode cX6_guarded 84 = .ok (.goto 13, 3) := dk_167 0 13 (dk_at dksX6_guarded_3 14 rfl rfl)
theorem dX6_guarded_87 : decode cX6_guarded 87 = .ok (.iload_n 2, 1) := dk_28 (dk_at dksX6_guarded_3 17 rfl rfl)
theorem dX6_guarded_88 : decode cX6_guarded 88 = .ok (.iload_n 3, 1) := dk_29 (dk_at dksX6_guarded_3 18 rfl rfl)
theorem dX6_guarded_89 : decode cX6_guarded 89 = .ok (.if_icmp .eq 7, 3) := dk_159 0 7 (dk_at dksX6_guarded_3 19 rfl rfl)
theorem dX6_guarded_92 : decode cX6_guarded 92 = .ok (.iconst 1, 1) := dk_4 (dk_at dksX6_guarded_3 22 rfl rfl)
theorem dX6_guarded_93 : decode cX6_guarded 93 = .ok (.goto 4, 3) := dk_167 0 4 (dk_at dksX6_guarded_4 0 rfl rfl)
theorem dX6_guarded_96 : decode cX6_guarded 96 = .ok (.iconst 0, 1) := dk_3 (dk_at dksX6_guarded_4 3 rfl rfl)
theorem dX6_guarded_97 : decode cX6_guarded 97 = .ok (.istore 5, 2) := dk_54 5 (dk_at dksX6_guarded_4 4 rfl rfl)
theorem dX6_guarded_99 : decode cX6_guarded 99 = .ok (.iload 5, 2) := dk_21 5 (dk_at dksX6_guarded_4 6 rfl rfl)
theorem dX6_guarded_101 : decode cX6_guarded 101 = .ok (.ifCond .eq 7, 3) := dk_153 0 7 (dk_at dksX6_guarded_4 8 rfl rfl)
theorem dX6_guarded_104 : decode cX6_guarded 104 = .ok (.iconst 0, 1) := dk_3 (dk_at dksX6_guarded_4 11 rfl rfl)
theorem dX6_guarded_105 : decode cX6_guarded 105 = .ok (.goto 14, 3) := dk_167 0 14 (dk_at dksX6_guarded_4 12 rfl rfl)
theorem dX6_guarded_108 : decode cX6_guarded 108 = .ok (.iload 4, 2) := dk_21 4 (dk_at dksX6_guarded_4 15 rfl rfl)
theorem dX6_guarded_110 : decode cX6_guarded 110 = .ok (.iconst 3, 1) := dk_6 (dk_at dksX6_guarded_4 17 rfl rfl)
theorem dX6_guarded_111 : decode cX6_guarded 111 = .ok (.if_icmp .ne 7, 3) := dk_160 0 7 (dk_at dksX6_guarded_4 18 rfl rfl)
theorem dX6_guarded_114 : decode cX6_guarded 114 = .ok (.iconst 2, 1) := dk_5 (dk_at dksX6_guarded_4 21 rfl rfl)
theorem dX6_guarded_115 : decode cX6_guarded 115 = .ok (.goto 4, 3) := dk_167 0 4 (dk_at dksX6_guarded_5 0 rfl rfl)
theorem dX6_guarded_118 : decode cX6_guarded 118 = .ok (.iconst 1, 1) := dk_4 (dk_at dksX6_guarded_5 3 rfl rfl)
theorem dX6_guarded_119 : decode cX6_guarded 119 = .ok (.ireturn, 1) := dk_172 (dk_at dksX6_guarded_5 4 rfl rfl)
abbrev cX6_end : ByteArray := prog_23_method_62_code
def yX6_end : MethodName := ⟨RX6, "end", "(IZ)I"⟩
def dkwX6_end_4 : List UInt8 := [27, 46, 172]
abbrev dktX6_end_4 : List UInt8 := dkwX6_end_4 ++ []
def dkwX6_end_3 : List UInt8 := [96, 79, 27, 2, 160, 0, 7, 2, 167, 0, 18, 28, 153, 0, 8, 16, 254, 167, 0, 9, 42, 180, 0, 71]
abbrev dktX6_end_3 : List UInt8 := dkwX6_end_3 ++ dktX6_end_4
def dkwX6_end_2 : List UInt8 := [160, 0, 7, 3, 167, 0, 4, 27, 92, 46, 27, 2, 159, 0, 7, 28, 153, 0, 7, 3, 167, 0, 4, 4]
abbrev dktX6_end_2 : List UInt8 := dkwX6_end_2 ++ dktX6_end_3
def dkwX6_end_1 : List UInt8 := [167, 0, 9, 42, 180, 0, 107, 29, 46, 79, 132, 3, 1, 167, 255, 226, 42, 180, 0, 83, 27, 2]
abbrev dktX6_end_1 : List UInt8 := dkwX6_end_1 ++ dktX6_end_2
def dkwX6_end_0 : List UInt8 := [42, 27, 181, 0, 165, 3, 62, 29, 16, 6, 162, 0, 30, 42, 180, 0, 125, 29, 27, 2, 160, 0, 7, 2]
abbrev dktX6_end_0 : List UInt8 := dkwX6_end_0 ++ dktX6_end_1
theorem dksX6_end_0 : cX6_end.data.toList.drop 0 = dktX6_end_0 := by decide +kernel
theorem dksX6_end_1 : cX6_end.data.toList.drop 24 = dktX6_end_1 := dk_seg dksX6_end_0 24 rfl rfl
theorem dksX6_end_2 : cX6_end.data.toList.drop 46 = dktX6_end_2 := dk_seg dksX6_end_1 22 rfl rfl
theorem dksX6_end_3 : cX6_end.data.toList.drop 70 = dktX6_end_3 := dk_seg dksX6_end_2 24 rfl rfl
theorem dksX6_end_4 : cX6_end.data.toList.drop 94 = dktX6_end_4 := dk_seg dksX6_end_3 24 rfl rfl
theorem dX6_end_0 : decode cX6_end 0 = .ok (.aload_n 0, 1) := dk_42 (dk_at dksX6_end_0 0 rfl rfl)
theorem dX6_end_1 : decode cX6_end 1 = .ok (.iload_n 1, 1) := dk_27 (dk_at dksX6_end_0 1 rfl rfl)
theorem dX6_end_2 : decode cX6_end 2 = .ok (.putfield 165, 3) := dk_181 0 165 (dk_at dksX6_end_0 2 rfl rfl)
theorem dX6_end_5 : decode cX6_end 5 = .ok (.iconst 0, 1) := dk_3 (dk_at dksX6_end_0 5 rfl rfl)
theorem dX6_end_6 : decode cX6_end 6 = .ok (.istore_n 3, 1) := dk_62 (dk_at dksX6_end_0 6 rfl rfl)
theorem dX6_end_7 : decode cX6_end 7 = .ok (.iload_n 3, 1) := dk_29 (dk_at dksX6_end_0 7 rfl rfl)
theorem dX6_end_8 : decode cX6_end 8 = .ok (.bipush 6, 2) := dk_16 6 (dk_at dksX6_end_0 8 rfl rfl)
theorem dX6_end_10 : decode cX6_end 10 = .ok (.if_icmp .ge 30, 3) := dk_162 0 30 (dk_at dksX6_end_0 10 rfl rfl)
theorem dX6_end_13 : decode cX6_end 13 = .ok (.aload_n 0, 1) := dk_42 (dk_at dksX6_end_0 13 rfl rfl)
theorem dX6_end_14 : decode cX6_end 14 = .ok (.getfield 125, 3) := dk_180 0 125 (dk_at dksX6_end_0 14 rfl rfl)
theorem dX6_end_17 : decode cX6_end 17 = .ok (.iload_n 3, 1) := dk_29 (dk_at dksX6_end_0 17 rfl rfl)
theorem dX6_end_18 : decode cX6_end 18 = .ok (.iload_n 1, 1) := dk_27 (dk_at dksX6_end_0 18 rfl rfl)
theorem dX6_end_19 : decode cX6_end 19 = .ok (.iconst (-1), 1) := dk_2 (dk_at dksX6_end_0 19 rfl rfl)
theorem dX6_end_20 : decode cX6_end 20 = .ok (.if_icmp .ne 7, 3) := dk_160 0 7 (dk_at dksX6_end_0 20 rfl rfl)
theorem dX6_end_23 : decode cX6_end 23 = .ok (.iconst (-1), 1) := dk_2 (dk_at dksX6_end_0 23 rfl rfl)
theorem dX6_end_24 : decode cX6_end 24 = .ok (.goto 9, 3) := dk_167 0 9 (dk_at dksX6_end_1 0 rfl rfl)
theorem dX6_end_27 : decode cX6_end 27 = .ok (.aload_n 0, 1) := dk_42 (dk_at dksX6_end_1 3 rfl rfl)
theorem dX6_end_28 : decode cX6_end 28 = .ok (.getfield 107, 3) := dk_180 0 107 (dk_at dksX6_end_1 4 rfl rfl)
theorem dX6_end_31 : decode cX6_end 31 = .ok (.iload_n 3, 1) := dk_29 (dk_at dksX6_end_1 7 rfl rfl)
theorem dX6_end_32 : decode cX6_end 32 = .ok (.iaload, 1) := dk_46 (dk_at dksX6_end_1 8 rfl rfl)
theorem dX6_end_33 : decode cX6_end 33 = .ok (.iastore, 1) := dk_79 (dk_at dksX6_end_1 9 rfl rfl)
theorem dX6_end_34 : decode cX6_end 34 = .ok (.iinc 3 1, 3) := dk_132 3 1 (dk_at dksX6_end_1 10 rfl rfl)
theorem dX6_end_37 : decode cX6_end 37 = .ok (.goto (-30), 3) := dk_167 255 226 (dk_at dksX6_end_1 13 rfl rfl)
theorem dX6_end_40 : decode cX6_end 40 = .ok (.aload_n 0, 1) := dk_42 (dk_at dksX6_end_1 16 rfl rfl)
theorem dX6_end_41 : decode cX6_end 41 = .ok (.getfield 83, 3) := dk_180 0 83 (dk_at dksX6_end_1 17 rfl rfl)
theorem dX6_end_44 : decode cX6_end 44 = .ok (.iload_n 1, 1) := dk_27 (dk_at dksX6_end_1 20 rfl rfl)
theorem dX6_end_45 : decode cX6_end 45 = .ok (.iconst (-1), 1) := dk_2 (dk_at dksX6_end_1 21 rfl rfl)
theorem dX6_end_46 : decode cX6_end 46 = .ok (.if_icmp .ne 7, 3) := dk_160 0 7 (dk_at dksX6_end_2 0 rfl rfl)
theorem dX6_end_49 : decode cX6_end 49 = .ok (.iconst 0, 1) := dk_3 (dk_at dksX6_end_2 3 rfl rfl)
theorem dX6_end_50 : decode cX6_end 50 = .ok (.goto 4, 3) := dk_167 0 4 (dk_at dksX6_end_2 4 rfl rfl)
theorem dX6_end_53 : decode cX6_end 53 = .ok (.iload_n 1, 1) := dk_27 (dk_at dksX6_end_2 7 rfl rfl)
theorem dX6_end_54 : decode cX6_end 54 = .ok (.dup2, 1) := dk_92 (dk_at dksX6_end_2 8 rfl rfl)
theorem dX6_end_55 : decode cX6_end 55 = .ok (.iaload, 1) := dk_46 (dk_at dksX6_end_2 9 rfl rfl)
theorem dX6_end_56 : decode cX6_end 56 = .ok (.iload_n 1, 1) := dk_27 (dk_at dksX6_end_2 10 rfl rfl)
theorem dX6_end_57 : decode cX6_end 57 = .ok (.iconst (-1), 1) := dk_2 (dk_at dksX6_end_2 11 rfl rfl)
theorem dX6_end_58 : decode cX6_end 58 = .ok (.if_icmp .eq 7, 3) := dk_159 0 7 (dk_at dksX6_end_2 12 rfl rfl)
theorem dX6_end_61 : decode cX6_end 61 = .ok (.iload_n 2, 1) := dk_28 (dk_at dksX6_end_2 15 rfl rfl)
theorem dX6_end_62 : decode cX6_end 62 = .ok (.ifCond .eq 7, 3) := dk_153 0 7 (dk_at dksX6_end_2 16 rfl rfl)
theorem dX6_end_65 : decode cX6_end 65 = .ok (.iconst 0, 1) := dk_3 (dk_at dksX6_end_2 19 rfl rfl)
theorem dX6_end_66 : decode cX6_end 66 = .ok (.goto 4, 3) := dk_167 0 4 (dk_at dksX6_end_2 20 rfl rfl)
theorem dX6_end_69 : decode cX6_end 69 = .ok (.iconst 1, 1) := dk_4 (dk_at dksX6_end_2 23 rfl rfl)
theorem dX6_end_70 : decode cX6_end 70 = .ok (.iadd, 1) := dk_96 (dk_at dksX6_end_3 0 rfl rfl)
theorem dX6_end_71 : decode cX6_end 71 = .ok (.iastore, 1) := dk_79 (dk_at dksX6_end_3 1 rfl rfl)
theorem dX6_end_72 : decode cX6_end 72 = .ok (.iload_n 1, 1) := dk_27 (dk_at dksX6_end_3 2 rfl rfl)
theorem dX6_end_73 : decode cX6_end 73 = .ok (.iconst (-1), 1) := dk_2 (dk_at dksX6_end_3 3 rfl rfl)
theorem dX6_end_74 : decode cX6_end 74 = .ok (.if_icmp .ne 7, 3) := dk_160 0 7 (dk_at dksX6_end_3 4 rfl rfl)
theorem dX6_end_77 : decode cX6_end 77 = .ok (.iconst (-1), 1) := dk_2 (dk_at dksX6_end_3 7 rfl rfl)
theorem dX6_end_78 : decode cX6_end 78 = .ok (.goto 18, 3) := dk_167 0 18 (dk_at dksX6_end_3 8 rfl rfl)
theorem dX6_end_81 : decode cX6_end 81 = .ok (.iload_n 2, 1) := dk_28 (dk_at dksX6_end_3 11 rfl rfl)
theorem dX6_end_82 : decode cX6_end 82 = .ok (.ifCond .eq 8, 3) := dk_153 0 8 (dk_at dksX6_end_3 12 rfl rfl)
theorem dX6_end_85 : decode cX6_end 85 = .ok (.bipush (-2), 2) := dk_16 254 (dk_at dksX6_end_3 15 rfl rfl)
theorem dX6_end_87 : decode cX6_end 87 = .ok (.goto 9, 3) := dk_167 0 9 (dk_at dksX6_end_3 17 rfl rfl)
theorem dX6_end_90 : decode cX6_end 90 = .ok (.aload_n 0, 1) := dk_42 (dk_at dksX6_end_3 20 rfl rfl)
theorem dX6_end_91 : decode cX6_end 91 = .ok (.getfield 71, 3) := dk_180 0 71 (dk_at dksX6_end_3 21 rfl rfl)
theorem dX6_end_94 : decode cX6_end 94 = .ok (.iload_n 1, 1) := dk_27 (dk_at dksX6_end_4 0 rfl rfl)
theorem dX6_end_95 : decode cX6_end 95 = .ok (.iaload, 1) := dk_46 (dk_at dksX6_end_4 1 rfl rfl)
theorem dX6_end_96 : decode cX6_end 96 = .ok (.ireturn, 1) := dk_172 (dk_at dksX6_end_4 2 rfl rfl)
abbrev cX6_runPlain : ByteArray := prog_23_method_63_code
def yX6_runPlain : MethodName := ⟨RX6, "runPlain", "()I"⟩
def dkwX6_runPlain_3 : List UInt8 := [3, 182, 1, 101, 172]
abbrev dktX6_runPlain_3 : List UInt8 := dkwX6_runPlain_3 ++ []
def dkwX6_runPlain_2 : List UInt8 := [42, 27, 28, 5, 160, 0, 7, 4, 167, 0, 4, 3, 182, 1, 101, 172, 132, 1, 1, 167, 255, 196, 42, 2]
abbrev dktX6_runPlain_2 : List UInt8 := dkwX6_runPlain_2 ++ dktX6_runPlain_3
def dkwX6_runPlain_1 : List UInt8 := [180, 0, 74, 27, 46, 2, 160, 0, 7, 3, 167, 0, 8, 42, 27, 182, 1, 98, 61, 28, 4, 159, 0, 19]
abbrev dktX6_runPlain_1 : List UInt8 := dkwX6_runPlain_1 ++ dktX6_runPlain_2
def dkwX6_runPlain_0 : List UInt8 := [42, 4, 181, 1, 5, 3, 60, 27, 42, 180, 0, 228, 162, 0, 58, 42, 27, 182, 1, 77, 154, 0, 44, 42]
abbrev dktX6_runPlain_0 : List UInt8 := dkwX6_runPlain_0 ++ dktX6_runPlain_1
theorem dksX6_runPlain_0 : cX6_runPlain.data.toList.drop 0 = dktX6_runPlain_0 := by decide +kernel
theorem dksX6_runPlain_1 : cX6_runPlain.data.toList.drop 24 = dktX6_runPlain_1 := dk_seg dksX6_runPlain_0 24 rfl rfl
theorem dksX6_runPlain_2 : cX6_runPlain.data.toList.drop 48 = dktX6_runPlain_2 := dk_seg dksX6_runPlain_1 24 rfl rfl
theorem dksX6_runPlain_3 : cX6_runPlain.data.toList.drop 72 = dktX6_runPlain_3 := dk_seg dksX6_runPlain_2 24 rfl rfl
theorem dX6_runPlain_0 : decode cX6_runPlain 0 = .ok (.aload_n 0, 1) := dk_42 (dk_at dksX6_runPlain_0 0 rfl rfl)
theorem dX6_runPlain_1 : decode cX6_runPlain 1 = .ok (.iconst 1, 1) := dk_4 (dk_at dksX6_runPlain_0 1 rfl rfl)
theorem dX6_runPlain_2 : decode cX6_runPlain 2 = .ok (.putfield 261, 3) := dk_181 1 5 (dk_at dksX6_runPlain_0 2 rfl rfl)
theorem dX6_runPlain_5 : decode cX6_runPlain 5 = .ok (.iconst 0, 1) := dk_3 (dk_at dksX6_runPlain_0 5 rfl rfl)
theorem dX6_runPlain_6 : decode cX6_runPlain 6 = .ok (.istore_n 1, 1) := dk_60 (dk_at dksX6_runPlain_0 6 rfl rfl)
theorem dX6_runPlain_7 : decode cX6_runPlain 7 = .ok (.iload_n 1, 1) := dk_27 (dk_at dksX6_runPlain_0 7 rfl rfl)
theorem dX6_runPlain_8 : decode cX6_runPlain 8 = .ok (.aload_n 0, 1) := dk_42 (dk_at dksX6_runPlain_0 8 rfl rfl)
theorem dX6_runPlain_9 : decode cX6_runPlain 9 = .ok (.getfield 228, 3) := dk_180 0 228 (dk_at dksX6_runPlain_0 9 rfl rfl)
theorem dX6_runPlain_12 : decode cX6_runPlain 12 = .ok (.if_icmp .ge 58, 3) := dk_162 0 58 (dk_at dksX6_runPlain_0 12 rfl rfl)
theorem dX6_runPlain_15 : decode cX6_runPlain 15 = .ok (.aload_n 0, 1) := dk_42 (dk_at dksX6_runPlain_0 15 rfl rfl)
theorem dX6_runPlain_16 : decode cX6_runPlain 16 = .ok (.iload_n 1, 1) := dk_27 (dk_at dksX6_runPlain_0 16 rfl rfl)
theorem dX6_runPlain_17 : decode cX6_runPlain 17 = .ok (.invokevirtual 333, 3) := dk_182 1 77 (dk_at dksX6_runPlain_0 17 rfl rfl)
theorem dX6_runPlain_20 : decode cX6_runPlain 20 = .ok (.ifCond .ne 44, 3) := dk_154 0 44 (dk_at dksX6_runPlain_0 20 rfl rfl)
theorem dX6_runPlain_23 : decode cX6_runPlain 23 = .ok (.aload_n 0, 1) := dk_42 (dk_at dksX6_runPlain_0 23 rfl rfl)
theorem dX6_runPlain_24 : decode cX6_runPlain 24 = .ok (.getfield 74, 3) := dk_180 0 74 (dk_at dksX6_runPlain_1 0 rfl rfl)
theorem dX6_runPlain_27 : decode cX6_runPlain 27 = .ok (.iload_n 1, 1) := dk_27 (dk_at dksX6_runPlain_1 3 rfl rfl)
theorem dX6_runPlain_28 : decode cX6_runPlain 28 = .ok (.iaload, 1) := dk_46 (dk_at dksX6_runPlain_1 4 rfl rfl)
theorem dX6_runPlain_29 : decode cX6_runPlain 29 = .ok (.iconst (-1), 1) := dk_2 (dk_at dksX6_runPlain_1 5 rfl rfl)
theorem dX6_runPlain_30 : decode cX6_runPlain 30 = .ok (.if_icmp .ne 7, 3) := dk_160 0 7 (dk_at dksX6_runPlain_1 6 rfl rfl)
theorem dX6_runPlain_33 : decode cX6_runPlain 33 = .ok (.iconst 0, 1) := dk_3 (dk_at dksX6_runPlain_1 9 rfl rfl)
theorem dX6_runPlain_34 : decode cX6_runPlain 34 = .ok (.goto 8, 3) := dk_167 0 8 (dk_at dksX6_runPlain_1 10 rfl rfl)
theorem dX6_runPlain_37 : decode cX6_runPlain 37 = .ok (.aload_n 0, 1) := dk_42 (dk_at dksX6_runPlain_1 13 rfl rfl)
theorem dX6_runPlain_38 : decode cX6_runPlain 38 = .ok (.iload_n 1, 1) := dk_27 (dk_at dksX6_runPlain_1 14 rfl rfl)
theorem dX6_runPlain_39 : decode cX6_runPlain 39 = .ok (.invokevirtual 354, 3) := dk_182 1 98 (dk_at dksX6_runPlain_1 15 rfl rfl)
theorem dX6_runPlain_42 : decode cX6_runPlain 42 = .ok (.istore_n 2, 1) := dk_61 (dk_at dksX6_runPlain_1 18 rfl rfl)
theorem dX6_runPlain_43 : decode cX6_runPlain 43 = .ok (.iload_n 2, 1) := dk_28 (dk_at dksX6_runPlain_1 19 rfl rfl)
theorem dX6_runPlain_44 : decode cX6_runPlain 44 = .ok (.iconst 1, 1) := dk_4 (dk_at dksX6_runPlain_1 20 rfl rfl)
theorem dX6_runPlain_45 : decode cX6_runPlain 45 = .ok (.if_icmp .eq 19, 3) := dk_159 0 19 (dk_at dksX6_runPlain_1 21 rfl rfl)
theorem dX6_runPlain_48 : decode cX6_runPlain 48 = .ok (.aload_n 0, 1) := dk_42 (dk_at dksX6_runPlain_2 0 rfl rfl)
theorem dX6_runPlain_49 : decode cX6_runPlain 49 = .ok (.iload_n 1, 1) := dk_27 (dk_at dksX6_runPlain_2 1 rfl rfl)
theorem dX6_runPlain_50 : decode cX6_runPlain 50 = .ok (.iload_n 2, 1) := dk_28 (dk_at dksX6_runPlain_2 2 rfl rfl)
theorem dX6_runPlain_51 : decode cX6_runPlain 51 = .ok (.iconst 2, 1) := dk_5 (dk_at dksX6_runPlain_2 3 rfl rfl)
theorem dX6_runPlain_52 : decode cX6_runPlain 52 = .ok (.if_icmp .ne 7, 3) := dk_160 0 7 (dk_at dksX6_runPlain_2 4 rfl rfl)
theorem dX6_runPlain_55 : decode cX6_runPlain 55 = .ok (.iconst 1, 1) := dk_4 (dk_at dksX6_runPlain_2 7 rfl rfl)
theorem dX6_runPlain_56 : decode cX6_runPlain 56 = .ok (.goto 4, 3) := dk_167 0 4 (dk_at dksX6_runPlain_2 8 rfl rfl)
theorem dX6_runPlain_59 : decode cX6_runPlain 59 = .ok (.iconst 0, 1) := dk_3 (dk_at dksX6_runPlain_2 11 rfl rfl)
theorem dX6_runPlain_60 : decode cX6_runPlain 60 = .ok (.invokevirtual 357, 3) := dk_182 1 101 (dk_at dksX6_runPlain_2 12 rfl rfl)
theorem dX6_runPlain_63 : decode cX6_runPlain 63 = .ok (.ireturn, 1) := dk_172 (dk_at dksX6_runPlain_2 15 rfl rfl)
theorem dX6_runPlain_64 : decode cX6_runPlain 64 = .ok (.iinc 1 1, 3) := dk_132 1 1 (dk_at dksX6_runPlain_2 16 rfl rfl)
theorem dX6_runPlain_67 : decode cX6_runPlain 67 = .ok (.goto (-60), 3) := dk_167 255 196 (dk_at dksX6_runPlain_2 19 rfl rfl)
theorem dX6_runPlain_70 : decode cX6_runPlain 70 = .ok (.aload_n 0, 1) := dk_42 (dk_at dksX6_runPlain_2 22 rfl rfl)
theorem dX6_runPlain_71 : decode cX6_runPlain 71 = .ok (.iconst (-1), 1) := dk_2 (dk_at dksX6_runPlain_2 23 rfl rfl)
theorem dX6_runPlain_72 : decode cX6_runPlain 72 = .ok (.iconst 0, 1) := dk_3 (dk_at dksX6_runPlain_3 0 rfl rfl)
theorem dX6_runPlain_73 : decode cX6_runPlain 73 = .ok (.invokevirtual 357, 3) := dk_182 1 101 (dk_at dksX6_runPlain_3 1 rfl rfl)
theorem dX6_runPlain_76 : decode cX6_runPlain 76 = .ok (.ireturn, 1) := dk_172 (dk_at dksX6_runPlain_3 4 rfl rfl)
abbrev cX6_tests : ByteArray := prog_23_method_67_code
def yX6_tests : MethodName := ⟨RX6, "tests", "()I"⟩
def dkwX6_tests_0 : List UInt8 := [42, 3, 181, 0, 168, 42, 180, 0, 234, 172]
abbrev dktX6_tests_0 : List UInt8 := dkwX6_tests_0 ++ []
theorem dksX6_tests_0 : cX6_tests.data.toList.drop 0 = dktX6_tests_0 := by decide +kernel
theorem dX6_tests_0 : decode cX6_tests 0 = .ok (.aload_n 0, 1) := dk_42 (dk_at dksX6_tests_0 0 rfl rfl)
theorem dX6_tests_1 : decode cX6_tests 1 = .ok (.iconst 0, 1) := dk_3 (dk_at dksX6_tests_0 1 rfl rfl)
theorem dX6_tests_2 : decode cX6_tests 2 = .ok (.putfield 168, 3) := dk_181 0 168 (dk_at dksX6_tests_0 2 rfl rfl)
theorem dX6_tests_5 : decode cX6_tests 5 = .ok (.aload_n 0, 1) := dk_42 (dk_at dksX6_tests_0 5 rfl rfl)
theorem dX6_tests_6 : decode cX6_tests 6 = .ok (.getfield 234, 3) := dk_180 0 234 (dk_at dksX6_tests_0 6 rfl rfl)
theorem dX6_tests_9 : decode cX6_tests 9 = .ok (.ireturn, 1) := dk_172 (dk_at dksX6_tests_0 9 rfl rfl)
abbrev cX6_views : ByteArray := prog_23_method_68_code
def yX6_views : MethodName := ⟨RX6, "views", "()I"⟩
def dkwX6_views_0 : List UInt8 := [42, 3, 181, 0, 168, 42, 180, 0, 237, 172]
abbrev dktX6_views_0 : List UInt8 := dkwX6_views_0 ++ []
theorem dksX6_views_0 : cX6_views.data.toList.drop 0 = dktX6_views_0 := by decide +kernel
theorem dX6_views_0 : decode cX6_views 0 = .ok (.aload_n 0, 1) := dk_42 (dk_at dksX6_views_0 0 rfl rfl)
theorem dX6_views_1 : decode cX6_views 1 = .ok (.iconst 0, 1) := dk_3 (dk_at dksX6_views_0 1 rfl rfl)
theorem dX6_views_2 : decode cX6_views 2 = .ok (.putfield 168, 3) := dk_181 0 168 (dk_at dksX6_views_0 2 rfl rfl)
theorem dX6_views_5 : decode cX6_views 5 = .ok (.aload_n 0, 1) := dk_42 (dk_at dksX6_views_0 5 rfl rfl)
theorem dX6_views_6 : decode cX6_views 6 = .ok (.getfield 237, 3) := dk_180 0 237 (dk_at dksX6_views_0 6 rfl rfl)
theorem dX6_views_9 : decode cX6_views 9 = .ok (.ireturn, 1) := dk_172 (dk_at dksX6_views_0 9 rfl rfl)
abbrev cX6_viewAt : ByteArray := prog_23_method_69_code
def yX6_viewAt : MethodName := ⟨RX6, "viewAt", "(I)I"⟩
def dkwX6_viewAt_2 : List UInt8 := [46, 104, 96, 42, 180, 0, 122, 27, 46, 96, 172]
abbrev dktX6_viewAt_2 : List UInt8 := dkwX6_viewAt_2 ++ []
def dkwX6_viewAt_1 : List UInt8 := [153, 0, 7, 3, 167, 0, 30, 19, 1, 117, 42, 180, 0, 116, 27, 46, 104, 16, 10, 42, 180, 0, 119, 27]
abbrev dktX6_viewAt_1 : List UInt8 := dkwX6_viewAt_1 ++ dktX6_viewAt_2
def dkwX6_viewAt_0 : List UInt8 := [42, 27, 3, 42, 180, 0, 237, 4, 100, 184, 0, 171, 153, 0, 7, 3, 167, 0, 4, 4, 182, 0, 183]
abbrev dktX6_viewAt_0 : List UInt8 := dkwX6_viewAt_0 ++ dktX6_viewAt_1
theorem dksX6_viewAt_0 : cX6_viewAt.data.toList.drop 0 = dktX6_viewAt_0 := by decide +kernel
theorem dksX6_viewAt_1 : cX6_viewAt.data.toList.drop 23 = dktX6_viewAt_1 := dk_seg dksX6_viewAt_0 23 rfl rfl
theorem dksX6_viewAt_2 : cX6_viewAt.data.toList.drop 47 = dktX6_viewAt_2 := dk_seg dksX6_viewAt_1 24 rfl rfl
theorem dX6_viewAt_0 : decode cX6_viewAt 0 = .ok (.aload_n 0, 1) := dk_42 (dk_at dksX6_viewAt_0 0 rfl rfl)
theorem dX6_viewAt_1 : decode cX6_viewAt 1 = .ok (.iload_n 1, 1) := dk_27 (dk_at dksX6_viewAt_0 1 rfl rfl)
theorem dX6_viewAt_2 : decode cX6_viewAt 2 = .ok (.iconst 0, 1) := dk_3 (dk_at dksX6_viewAt_0 2 rfl rfl)
theorem dX6_viewAt_3 : decode cX6_viewAt 3 = .ok (.aload_n 0, 1) := dk_42 (dk_at dksX6_viewAt_0 3 rfl rfl)
theorem dX6_viewAt_4 : decode cX6_viewAt 4 = .ok (.getfield 237, 3) := dk_180 0 237 (dk_at dksX6_viewAt_0 4 rfl rfl)
theorem dX6_viewAt_7 : decode cX6_viewAt 7 = .ok (.iconst 1, 1) := dk_4 (dk_at dksX6_viewAt_0 7 rfl rfl)
theorem dX6_viewAt_8 : decode cX6_viewAt 8 = .ok (.isub, 1) := dk_100 (dk_at dksX6_viewAt_0 8 rfl rfl)
theorem dX6_viewAt_9 : decode cX6_viewAt 9 = .ok (.invokestatic 171, 3) := dk_184 0 171 (dk_at dksX6_viewAt_0 9 rfl rfl)
theorem dX6_viewAt_12 : decode cX6_viewAt 12 = .ok (.ifCond .eq 7, 3) := dk_153 0 7 (dk_at dksX6_viewAt_0 12 rfl rfl)
theorem dX6_viewAt_15 : decode cX6_viewAt 15 = .ok (.iconst 0, 1) := dk_3 (dk_at dksX6_viewAt_0 15 rfl rfl)
theorem dX6_viewAt_16 : decode cX6_viewAt 16 = .ok (.goto 4, 3) := dk_167 0 4 (dk_at dksX6_viewAt_0 16 rfl rfl)
theorem dX6_viewAt_19 : decode cX6_viewAt 19 = .ok (.iconst 1, 1) := dk_4 (dk_at dksX6_viewAt_0 19 rfl rfl)
theorem dX6_viewAt_20 : decode cX6_viewAt 20 = .ok (.invokevirtual 183, 3) := dk_182 0 183 (dk_at dksX6_viewAt_0 20 rfl rfl)
theorem dX6_viewAt_23 : decode cX6_viewAt 23 = .ok (.ifCond .eq 7, 3) := dk_153 0 7 (dk_at dksX6_viewAt_1 0 rfl rfl)
theorem dX6_viewAt_26 : decode cX6_viewAt 26 = .ok (.iconst 0, 1) := dk_3 (dk_at dksX6_viewAt_1 3 rfl rfl)
theorem dX6_viewAt_27 : decode cX6_viewAt 27 = .ok (.goto 30, 3) := dk_167 0 30 (dk_at dksX6_viewAt_1 4 rfl rfl)
theorem dX6_viewAt_30 : decode cX6_viewAt 30 = .ok (.ldc_w 373, 3) := dk_19 1 117 (dk_at dksX6_viewAt_1 7 rfl rfl)
theorem dX6_viewAt_33 : decode cX6_viewAt 33 = .ok (.aload_n 0, 1) := dk_42 (dk_at dksX6_viewAt_1 10 rfl rfl)
theorem dX6_viewAt_34 : decode cX6_viewAt 34 = .ok (.getfield 116, 3) := dk_180 0 116 (dk_at dksX6_viewAt_1 11 rfl rfl)
theorem dX6_viewAt_37 : decode cX6_viewAt 37 = .ok (.iload_n 1, 1) := dk_27 (dk_at dksX6_viewAt_1 14 rfl rfl)
theorem dX6_viewAt_38 : decode cX6_viewAt 38 = .ok (.iaload, 1) := dk_46 (dk_at dksX6_viewAt_1 15 rfl rfl)
theorem dX6_viewAt_39 : decode cX6_viewAt 39 = .ok (.imul, 1) := dk_104 (dk_at dksX6_viewAt_1 16 rfl rfl)
theorem dX6_viewAt_40 : decode cX6_viewAt 40 = .ok (.bipush 10, 2) := dk_16 10 (dk_at dksX6_viewAt_1 17 rfl rfl)
theorem dX6_viewAt_42 : decode cX6_viewAt 42 = .ok (.aload_n 0, 1) := dk_42 (dk_at dksX6_viewAt_1 19 rfl rfl)
theorem dX6_viewAt_43 : decode cX6_viewAt 43 = .ok (.getfield 119, 3) := dk_180 0 119 (dk_at dksX6_viewAt_1 20 rfl rfl)
theorem dX6_viewAt_46 : decode cX6_viewAt 46 = .ok (.iload_n 1, 1) := dk_27 (dk_at dksX6_viewAt_1 23 rfl rfl)
theorem dX6_viewAt_47 : decode cX6_viewAt 47 = .ok (.iaload, 1) := dk_46 (dk_at dksX6_viewAt_2 0 rfl rfl)
theorem dX6_viewAt_48 : decode cX6_viewAt 48 = .ok (.imul, 1) := dk_104 (dk_at dksX6_viewAt_2 1 rfl rfl)
theorem dX6_viewAt_49 : decode cX6_viewAt 49 = .ok (.iadd, 1) := dk_96 (dk_at dksX6_viewAt_2 2 rfl rfl)
theorem dX6_viewAt_50 : decode cX6_viewAt 50 = .ok (.aload_n 0, 1) := dk_42 (dk_at dksX6_viewAt_2 3 rfl rfl)
theorem dX6_viewAt_51 : decode cX6_viewAt 51 = .ok (.getfield 122, 3) := dk_180 0 122 (dk_at dksX6_viewAt_2 4 rfl rfl)
theorem dX6_viewAt_54 : decode cX6_viewAt 54 = .ok (.iload_n 1, 1) := dk_27 (dk_at dksX6_viewAt_2 7 rfl rfl)
theorem dX6_viewAt_55 : decode cX6_viewAt 55 = .ok (.iaload, 1) := dk_46 (dk_at dksX6_viewAt_2 8 rfl rfl)
theorem dX6_viewAt_56 : decode cX6_viewAt 56 = .ok (.iadd, 1) := dk_96 (dk_at dksX6_viewAt_2 9 rfl rfl)
theorem dX6_viewAt_57 : decode cX6_viewAt 57 = .ok (.ireturn, 1) := dk_172 (dk_at dksX6_viewAt_2 10 rfl rfl)
abbrev cX6_bound : ByteArray := prog_23_method_70_code
def yX6_bound : MethodName := ⟨RX6, "bound", "(I)I"⟩
def dkwX6_bound_1 : List UInt8 := [167, 0, 21, 42, 180, 0, 165, 2, 160, 0, 7, 2, 167, 0, 9, 42, 180, 0, 125, 27, 46, 172]
abbrev dktX6_bound_1 : List UInt8 := dkwX6_bound_1 ++ []
def dkwX6_bound_0 : List UInt8 := [42, 27, 3, 8, 184, 0, 171, 153, 0, 7, 3, 167, 0, 4, 4, 182, 0, 183, 153, 0, 7, 3]
abbrev dktX6_bound_0 : List UInt8 := dkwX6_bound_0 ++ dktX6_bound_1
theorem dksX6_bound_0 : cX6_bound.data.toList.drop 0 = dktX6_bound_0 := by decide +kernel
theorem dksX6_bound_1 : cX6_bound.data.toList.drop 22 = dktX6_bound_1 := dk_seg dksX6_bound_0 22 rfl rfl
theorem dX6_bound_0 : decode cX6_bound 0 = .ok (.aload_n 0, 1) := dk_42 (dk_at dksX6_bound_0 0 rfl rfl)
theorem dX6_bound_1 : decode cX6_bound 1 = .ok (.iload_n 1, 1) := dk_27 (dk_at dksX6_bound_0 1 rfl rfl)
theorem dX6_bound_2 : decode cX6_bound 2 = .ok (.iconst 0, 1) := dk_3 (dk_at dksX6_bound_0 2 rfl rfl)
theorem dX6_bound_3 : decode cX6_bound 3 = .ok (.iconst 5, 1) := dk_8 (dk_at dksX6_bound_0 3 rfl rfl)
theorem dX6_bound_4 : decode cX6_bound 4 = .ok (.invokestatic 171, 3) := dk_184 0 171 (dk_at dksX6_bound_0 4 rfl rfl)
theorem dX6_bound_7 : decode cX6_bound 7 = .ok (.ifCond .eq 7, 3) := dk_153 0 7 (dk_at dksX6_bound_0 7 rfl rfl)
theorem dX6_bound_10 : decode cX6_bound 10 = .ok (.iconst 0, 1) := dk_3 (dk_at dksX6_bound_0 10 rfl rfl)
theorem dX6_bound_11 : decode cX6_bound 11 = .ok (.goto 4, 3) := dk_167 0 4 (dk_at dksX6_bound_0 11 rfl rfl)
theorem dX6_bound_14 : decode cX6_bound 14 = .ok (.iconst 1, 1) := dk_4 (dk_at dksX6_bound_0 14 rfl rfl)
theorem dX6_bound_15 : decode cX6_bound 15 = .ok (.invokevirtual 183, 3) := dk_182 0 183 (dk_at dksX6_bound_0 15 rfl rfl)
theorem dX6_bound_18 : decode cX6_bound 18 = .ok (.ifCond .eq 7, 3) := dk_153 0 7 (dk_at dksX6_bound_0 18 rfl rfl)
theorem dX6_bound_21 : decode cX6_bound 21 = .ok (.iconst 0, 1) := dk_3 (dk_at dksX6_bound_0 21 rfl rfl)
theorem dX6_bound_22 : decode cX6_bound 22 = .ok (.goto 21, 3) := dk_167 0 21 (dk_at dksX6_bound_1 0 rfl rfl)
theorem dX6_bound_25 : decode cX6_bound 25 = .ok (.aload_n 0, 1) := dk_42 (dk_at dksX6_bound_1 3 rfl rfl)
theorem dX6_bound_26 : decode cX6_bound 26 = .ok (.getfield 165, 3) := dk_180 0 165 (dk_at dksX6_bound_1 4 rfl rfl)
theorem dX6_bound_29 : decode cX6_bound 29 = .ok (.iconst (-1), 1) := dk_2 (dk_at dksX6_bound_1 7 rfl rfl)
theorem dX6_bound_30 : decode cX6_bound 30 = .ok (.if_icmp .ne 7, 3) := dk_160 0 7 (dk_at dksX6_bound_1 8 rfl rfl)
theorem dX6_bound_33 : decode cX6_bound 33 = .ok (.iconst (-1), 1) := dk_2 (dk_at dksX6_bound_1 11 rfl rfl)
theorem dX6_bound_34 : decode cX6_bound 34 = .ok (.goto 9, 3) := dk_167 0 9 (dk_at dksX6_bound_1 12 rfl rfl)
theorem dX6_bound_37 : decode cX6_bound 37 = .ok (.aload_n 0, 1) := dk_42 (dk_at dksX6_bound_1 15 rfl rfl)
theorem dX6_bound_38 : decode cX6_bound 38 = .ok (.getfield 125, 3) := dk_180 0 125 (dk_at dksX6_bound_1 16 rfl rfl)
theorem dX6_bound_41 : decode cX6_bound 41 = .ok (.iload_n 1, 1) := dk_27 (dk_at dksX6_bound_1 19 rfl rfl)
theorem dX6_bound_42 : decode cX6_bound 42 = .ok (.iaload, 1) := dk_46 (dk_at dksX6_bound_1 20 rfl rfl)
theorem dX6_bound_43 : decode cX6_bound 43 = .ok (.ireturn, 1) := dk_172 (dk_at dksX6_bound_1 21 rfl rfl)
abbrev cX6_taken : ByteArray := prog_23_method_71_code
def yX6_taken : MethodName := ⟨RX6, "taken", "(I)I"⟩
def dkwX6_taken_1 : List UInt8 := [42, 180, 0, 83, 27, 46, 172]
abbrev dktX6_taken_1 : List UInt8 := dkwX6_taken_1 ++ []
def dkwX6_taken_0 : List UInt8 := [42, 42, 27, 182, 0, 248, 153, 0, 7, 3, 167, 0, 4, 4, 182, 0, 183, 153, 0, 7, 3, 167, 0, 9]
abbrev dktX6_taken_0 : List UInt8 := dkwX6_taken_0 ++ dktX6_taken_1
theorem dksX6_taken_0 : cX6_taken.data.toList.drop 0 = dktX6_taken_0 := by decide +kernel
theorem dksX6_taken_1 : cX6_taken.data.toList.drop 24 = dktX6_taken_1 := dk_seg dksX6_taken_0 24 rfl rfl
theorem dX6_taken_0 : decode cX6_taken 0 = .ok (.aload_n 0, 1) := dk_42 (dk_at dksX6_taken_0 0 rfl rfl)
theorem dX6_taken_1 : decode cX6_taken 1 = .ok (.aload_n 0, 1) := dk_42 (dk_at dksX6_taken_0 1 rfl rfl)
theorem dX6_taken_2 : decode cX6_taken 2 = .ok (.iload_n 1, 1) := dk_27 (dk_at dksX6_taken_0 2 rfl rfl)
theorem dX6_taken_3 : decode cX6_taken 3 = .ok (.invokevirtual 248, 3) := dk_182 0 248 (dk_at dksX6_taken_0 3 rfl rfl)
theorem dX6_taken_6 : decode cX6_taken 6 = .ok (.ifCond .eq 7, 3) := dk_153 0 7 (dk_at dksX6_taken_0 6 rfl rfl)
theorem dX6_taken_9 : decode cX6_taken 9 = .ok (.iconst 0, 1) := dk_3 (dk_at dksX6_taken_0 9 rfl rfl)
theorem dX6_taken_10 : decode cX6_taken 10 = .ok (.goto 4, 3) := dk_167 0 4 (dk_at dksX6_taken_0 10 rfl rfl)
theorem dX6_taken_13 : decode cX6_taken 13 = .ok (.iconst 1, 1) := dk_4 (dk_at dksX6_taken_0 13 rfl rfl)
theorem dX6_taken_14 : decode cX6_taken 14 = .ok (.invokevirtual 183, 3) := dk_182 0 183 (dk_at dksX6_taken_0 14 rfl rfl)
theorem dX6_taken_17 : decode cX6_taken 17 = .ok (.ifCond .eq 7, 3) := dk_153 0 7 (dk_at dksX6_taken_0 17 rfl rfl)
theorem dX6_taken_20 : decode cX6_taken 20 = .ok (.iconst 0, 1) := dk_3 (dk_at dksX6_taken_0 20 rfl rfl)
theorem dX6_taken_21 : decode cX6_taken 21 = .ok (.goto 9, 3) := dk_167 0 9 (dk_at dksX6_taken_0 21 rfl rfl)
theorem dX6_taken_24 : decode cX6_taken 24 = .ok (.aload_n 0, 1) := dk_42 (dk_at dksX6_taken_1 0 rfl rfl)
theorem dX6_taken_25 : decode cX6_taken 25 = .ok (.getfield 83, 3) := dk_180 0 83 (dk_at dksX6_taken_1 1 rfl rfl)
theorem dX6_taken_28 : decode cX6_taken 28 = .ok (.iload_n 1, 1) := dk_27 (dk_at dksX6_taken_1 4 rfl rfl)
theorem dX6_taken_29 : decode cX6_taken 29 = .ok (.iaload, 1) := dk_46 (dk_at dksX6_taken_1 5 rfl rfl)
theorem dX6_taken_30 : decode cX6_taken 30 = .ok (.ireturn, 1) := dk_172 (dk_at dksX6_taken_1 6 rfl rfl)
abbrev cX6_size : ByteArray := prog_23_method_75_code
def yX6_size : MethodName := ⟨RX6, "size", "(IZ)I"⟩
def dkwX6_size_2 : List UInt8 := [16, 253, 167, 0, 18, 28, 153, 0, 10, 42, 182, 1, 124, 167, 0, 7, 42, 180, 1, 65, 172]
abbrev dktX6_size_2 : List UInt8 := dkwX6_size_2 ++ []
def dkwX6_size_1 : List UInt8 := [167, 0, 4, 3, 182, 0, 183, 153, 0, 5, 3, 172, 42, 27, 182, 1, 108, 42, 180, 1, 92, 153, 0, 8]
abbrev dktX6_size_1 : List UInt8 := dkwX6_size_1 ++ dktX6_size_2
def dkwX6_size_0 : List UInt8 := [42, 27, 5, 6, 184, 0, 171, 154, 0, 7, 4, 167, 0, 15, 42, 180, 0, 231, 154, 0, 7, 5]
abbrev dktX6_size_0 : List UInt8 := dkwX6_size_0 ++ dktX6_size_1
theorem dksX6_size_0 : cX6_size.data.toList.drop 0 = dktX6_size_0 := by decide +kernel
theorem dksX6_size_1 : cX6_size.data.toList.drop 22 = dktX6_size_1 := dk_seg dksX6_size_0 22 rfl rfl
theorem dksX6_size_2 : cX6_size.data.toList.drop 46 = dktX6_size_2 := dk_seg dksX6_size_1 24 rfl rfl
theorem dX6_size_0 : decode cX6_size 0 = .ok (.aload_n 0, 1) := dk_42 (dk_at dksX6_size_0 0 rfl rfl)
theorem dX6_size_1 : decode cX6_size 1 = .ok (.iload_n 1, 1) := dk_27 (dk_at dksX6_size_0 1 rfl rfl)
theorem dX6_size_2 : decode cX6_size 2 = .ok (.iconst 2, 1) := dk_5 (dk_at dksX6_size_0 2 rfl rfl)
theorem dX6_size_3 : decode cX6_size 3 = .ok (.iconst 3, 1) := dk_6 (dk_at dksX6_size_0 3 rfl rfl)
theorem dX6_size_4 : decode cX6_size 4 = .ok (.invokestatic 171, 3) := dk_184 0 171 (dk_at dksX6_size_0 4 rfl rfl)
theorem dX6_size_7 : decode cX6_size 7 = .ok (.ifCond .ne 7, 3) := dk_154 0 7 (dk_at dksX6_size_0 7 rfl rfl)
theorem dX6_size_10 : decode cX6_size 10 = .ok (.iconst 1, 1) := dk_4 (dk_at dksX6_size_0 10 rfl rfl)
theorem dX6_size_11 : decode cX6_size 11 = .ok (.goto 15, 3) := dk_167 0 15 (dk_at dksX6_size_0 11 rfl rfl)
theorem dX6_size_14 : decode cX6_size 14 = .ok (.aload_n 0, 1) := dk_42 (dk_at dksX6_size_0 14 rfl rfl)
theorem dX6_size_15 : decode cX6_size 15 = .ok (.getfield 231, 3) := dk_180 0 231 (dk_at dksX6_size_0 15 rfl rfl)
theorem dX6_size_18 : decode cX6_size 18 = .ok (.ifCond .ne 7, 3) := dk_154 0 7 (dk_at dksX6_size_0 18 rfl rfl)
theorem dX6_size_21 : decode cX6_size 21 = .ok (.iconst 2, 1) := dk_5 (dk_at dksX6_size_0 21 rfl rfl)
theorem dX6_size_22 : decode cX6_size 22 = .ok (.goto 4, 3) := dk_167 0 4 (dk_at dksX6_size_1 0 rfl rfl)
theorem dX6_size_25 : decode cX6_size 25 = .ok (.iconst 0, 1) := dk_3 (dk_at dksX6_size_1 3 rfl rfl)
theorem dX6_size_26 : decode cX6_size 26 = .ok (.invokevirtual 183, 3) := dk_182 0 183 (dk_at dksX6_size_1 4 rfl rfl)
theorem dX6_size_29 : decode cX6_size 29 = .ok (.ifCond .eq 5, 3) := dk_153 0 5 (dk_at dksX6_size_1 7 rfl rfl)
theorem dX6_size_32 : decode cX6_size 32 = .ok (.iconst 0, 1) := dk_3 (dk_at dksX6_size_1 10 rfl rfl)
theorem dX6_size_33 : decode cX6_size 33 = .ok (.ireturn, 1) := dk_172 (dk_at dksX6_size_1 11 rfl rfl)
theorem dX6_size_34 : decode cX6_size 34 = .ok (.aload_n 0, 1) := dk_42 (dk_at dksX6_size_1 12 rfl rfl)
theorem dX6_size_35 : decode cX6_size 35 = .ok (.iload_n 1, 1) := dk_27 (dk_at dksX6_size_1 13 rfl rfl)
theorem dX6_size_36 : decode cX6_size 36 = .ok (.invokevirtual 364, 3) := dk_182 1 108 (dk_at dksX6_size_1 14 rfl rfl)
theorem dX6_size_39 : decode cX6_size 39 = .ok (.aload_n 0, 1) := dk_42 (dk_at dksX6_size_1 17 rfl rfl)
theorem dX6_size_40 : decode cX6_size 40 = .ok (.getfield 348, 3) := dk_180 1 92 (dk_at dksX6_size_1 18 rfl rfl)
theorem dX6_size_43 : decode cX6_size 43 = .ok (.ifCond .eq 8, 3) := dk_153 0 8 (dk_at dksX6_size_1 21 rfl rfl)
theorem dX6_size_46 : decode cX6_size 46 = .ok (.bipush (-3), 2) := dk_16 253 (dk_at dksX6_size_2 0 rfl rfl)
theorem dX6_size_48 : decode cX6_size 48 = .ok (.goto 18, 3) := dk_167 0 18 (dk_at dksX6_size_2 2 rfl rfl)
theorem dX6_size_51 : decode cX6_size 51 = .ok (.iload_n 2, 1) := dk_28 (dk_at dksX6_size_2 5 rfl rfl)
theorem dX6_size_52 : decode cX6_size 52 = .ok (.ifCond .eq 10, 3) := dk_153 0 10 (dk_at dksX6_size_2 6 rfl rfl)
theorem dX6_size_55 : decode cX6_size 55 = .ok (.aload_n 0, 1) := dk_42 (dk_at dksX6_size_2 9 rfl rfl)
theorem dX6_size_56 : decode cX6_size 56 = .ok (.invokevirtual 380, 3) := dk_182 1 124 (dk_at dksX6_size_2 10 rfl rfl)
theorem dX6_size_59 : decode cX6_size 59 = .ok (.goto 7, 3) := dk_167 0 7 (dk_at dksX6_size_2 13 rfl rfl)
theorem dX6_size_62 : decode cX6_size 62 = .ok (.aload_n 0, 1) := dk_42 (dk_at dksX6_size_2 16 rfl rfl)
theorem dX6_size_63 : decode cX6_size 63 = .ok (.getfield 321, 3) := dk_180 1 65 (dk_at dksX6_size_2 17 rfl rfl)
theorem dX6_size_66 : decode cX6_size 66 = .ok (.ireturn, 1) := dk_172 (dk_at dksX6_size_2 20 rfl rfl)
abbrev cX6_sharedSize : ByteArray := prog_23_method_73_code
def yX6_sharedSize : MethodName := ⟨RX6, "sharedSize", "()I"⟩
def dkwX6_sharedSize_9 : List UInt8 := [180, 0, 146, 28, 27, 79, 132, 1, 1, 132, 2, 255, 167, 255, 45, 27, 172]
abbrev dktX6_sharedSize_9 : List UInt8 := dkwX6_sharedSize_9 ++ []
def dkwX6_sharedSize_8 : List UInt8 := [167, 0, 4, 2, 79, 132, 4, 255, 167, 255, 191, 42, 180, 0, 146, 28, 46, 2, 160, 0, 13, 42]
abbrev dktX6_sharedSize_8 : List UInt8 := dkwX6_sharedSize_8 ++ dktX6_sharedSize_9
def dkwX6_sharedSize_7 : List UInt8 := [182, 1, 118, 153, 0, 23, 42, 21, 4, 28, 182, 1, 121, 153, 0, 13, 42, 180, 0, 146, 21, 4, 46]
abbrev dktX6_sharedSize_7 : List UInt8 := dkwX6_sharedSize_7 ++ dktX6_sharedSize_8
def dkwX6_sharedSize_6 : List UInt8 := [46, 2, 160, 0, 55, 42, 180, 0, 146, 28, 42, 180, 0, 146, 21, 4, 46, 155, 0, 32, 42, 21, 4]
abbrev dktX6_sharedSize_6 : List UInt8 := dkwX6_sharedSize_6 ++ dktX6_sharedSize_7
def dkwX6_sharedSize_5 : List UInt8 := [167, 0, 4, 2, 79, 42, 180, 1, 65, 4, 100, 54, 4, 21, 4, 28, 164, 0, 65, 42, 180, 0, 146, 28]
abbrev dktX6_sharedSize_5 : List UInt8 := dkwX6_sharedSize_5 ++ dktX6_sharedSize_6
def dkwX6_sharedSize_4 : List UInt8 := [167, 255, 204, 42, 180, 0, 146, 28, 29, 153, 0, 17, 42, 180, 0, 146, 42, 180, 0, 140, 28, 46, 46]
abbrev dktX6_sharedSize_4 : List UInt8 := dkwX6_sharedSize_4 ++ dktX6_sharedSize_5
def dkwX6_sharedSize_3 : List UInt8 := [180, 0, 146, 42, 180, 0, 140, 28, 46, 46, 160, 0, 7, 4, 167, 0, 4, 3, 62, 132, 4, 1]
abbrev dktX6_sharedSize_3 : List UInt8 := dkwX6_sharedSize_3 ++ dktX6_sharedSize_4
def dkwX6_sharedSize_2 : List UInt8 := [46, 162, 0, 47, 29, 153, 0, 43, 42, 180, 0, 146, 42, 180, 0, 140, 28, 46, 21, 4, 96, 46, 42]
abbrev dktX6_sharedSize_2 : List UInt8 := dkwX6_sharedSize_2 ++ dktX6_sharedSize_3
def dkwX6_sharedSize_1 : List UInt8 := [180, 0, 143, 28, 46, 158, 0, 7, 4, 167, 0, 4, 3, 62, 4, 54, 4, 21, 4, 42, 180, 0, 143, 28]
abbrev dktX6_sharedSize_1 : List UInt8 := dkwX6_sharedSize_1 ++ dktX6_sharedSize_2
def dkwX6_sharedSize_0 : List UInt8 := [3, 60, 42, 180, 1, 65, 4, 100, 61, 28, 155, 0, 213, 42, 180, 0, 131, 28, 46, 8, 160, 0, 16, 42]
abbrev dktX6_sharedSize_0 : List UInt8 := dkwX6_sharedSize_0 ++ dktX6_sharedSize_1
theorem dksX6_sharedSize_0 : cX6_sharedSize.data.toList.drop 0 = dktX6_sharedSize_0 := by decide +kernel
theorem dksX6_sharedSize_1 : cX6_sharedSize.data.toList.drop 24 = dktX6_sharedSize_1 := dk_seg dksX6_sharedSize_0 24 rfl rfl
theorem dksX6_sharedSize_2 : cX6_sharedSize.data.toList.drop 48 = dktX6_sharedSize_2 := dk_seg dksX6_sharedSize_1 24 rfl rfl
theorem dksX6_sharedSize_3 : cX6_sharedSize.data.toList.drop 71 = dktX6_sharedSize_3 := dk_seg dksX6_sharedSize_2 23 rfl rfl
theorem dksX6_sharedSize_4 : cX6_sharedSize.data.toList.drop 93 = dktX6_sharedSize_4 := dk_seg dksX6_sharedSize_3 22 rfl rfl
theorem dksX6_sharedSize_5 : cX6_sharedSize.data.toList.drop 116 = dktX6_sharedSize_5 := dk_seg dksX6_sharedSize_4 23 rfl rfl
theorem dksX6_sharedSize_6 : cX6_sharedSize.data.toList.drop 140 = dktX6_sharedSize_6 := dk_seg dksX6_sharedSize_5 24 rfl rfl
theorem dksX6_sharedSize_7 : cX6_sharedSize.data.toList.drop 163 = dktX6_sharedSize_7 := dk_seg dksX6_sharedSize_6 23 rfl rfl
theorem dksX6_sharedSize_8 : cX6_sharedSize.data.toList.drop 186 = dktX6_sharedSize_8 := dk_seg dksX6_sharedSize_7 23 rfl rfl
theorem dksX6_sharedSize_9 : cX6_sharedSize.data.toList.drop 208 = dktX6_sharedSize_9 := dk_seg dksX6_sharedSize_8 22 rfl rfl
theorem dX6_sharedSize_0 : decode cX6_sharedSize 0 = .ok (.iconst 0, 1) := dk_3 (dk_at dksX6_sharedSize_0 0 rfl rfl)
theorem dX6_sharedSize_1 : decode cX6_sharedSize 1 = .ok (.istore_n 1, 1) := dk_60 (dk_at dksX6_sharedSize_0 1 rfl rfl)
theorem dX6_sharedSize_2 : decode cX6_sharedSize 2 = .ok (.aload_n 0, 1) := dk_42 (dk_at dksX6_sharedSize_0 2 rfl rfl)
theorem dX6_sharedSize_3 : decode cX6_sharedSize 3 = .ok (.getfield 321, 3) := dk_180 1 65 (dk_at dksX6_sharedSize_0 3 rfl rfl)
theorem dX6_sharedSize_6 : decode cX6_sharedSize 6 = .ok (.iconst 1, 1) := dk_4 (dk_at dksX6_sharedSize_0 6 rfl rfl)
theorem dX6_sharedSize_7 : decode cX6_sharedSize 7 = .ok (.isub, 1) := dk_100 (dk_at dksX6_sharedSize_0 7 rfl rfl)
theorem dX6_sharedSize_8 : decode cX6_sharedSize 8 = .ok (.istore_n 2, 1) := dk_61 (dk_at dksX6_sharedSize_0 8 rfl rfl)
theorem dX6_sharedSize_9 : decode cX6_sharedSize 9 = .ok (.iload_n 2, 1) := dk_28 (dk_at dksX6_sharedSize_0 9 rfl rfl)
theorem dX6_sharedSize_10 : decode cX6_sharedSize 10 = .ok (.ifCond .lt 213, 3) := dk_155 0 213 (dk_at dksX6_sharedSize_0 10 rfl rfl)
theorem dX6_sharedSize_13 : decode cX6_sharedSize 13 = .ok (.aload_n 0, 1) := dk_42 (dk_at dksX6_sharedSize_0 13 rfl rfl)
theorem dX6_sharedSize_14 : decode cX6_sharedSize 14 = .ok (.getfield 131, 3) := dk_180 0 131 (dk_at dksX6_sharedSize_0 14 rfl rfl)
theorem dX6_sharedSize_17 : decode cX6_sharedSize 17 = .ok (.iload_n 2, 1) := dk_28 (dk_at dksX6_sharedSize_0 17 rfl rfl)
theorem dX6_sharedSize_18 : decode cX6_sharedSize 18 = .ok (.iaload, 1) := dk_46 (dk_at dksX6_sharedSize_0 18 rfl rfl)
theorem dX6_sharedSize_19 : decode cX6_sharedSize 19 = .ok (.iconst 5, 1) := dk_8 (dk_at dksX6_sharedSize_0 19 rfl rfl)
theorem dX6_sharedSize_20 : decode cX6_sharedSize 20 = .ok (.if_icmp .ne 16, 3) := dk_160 0 16 (dk_at dksX6_sharedSize_0 20 rfl rfl)
theorem dX6_sharedSize_23 : decode cX6_sharedSize 23 = .ok (.aload_n 0, 1) := dk_42 (dk_at dksX6_sharedSize_0 23 rfl rfl)
theorem dX6_sharedSize_24 : decode cX6_sharedSize 24 = .ok (.getfield 143, 3) := dk_180 0 143 (dk_at dksX6_sharedSize_1 0 rfl rfl)
theorem dX6_sharedSize_27 : decode cX6_sharedSize 27 = .ok (.iload_n 2, 1) := dk_28 (dk_at dksX6_sharedSize_1 3 rfl rfl)
theorem dX6_sharedSize_28 : decode cX6_sharedSize 28 = .ok (.iaload, 1) := dk_46 (dk_at dksX6_sharedSize_1 4 rfl rfl)
theorem dX6_sharedSize_29 : decode cX6_sharedSize 29 = .ok (.ifCond .le 7, 3) := dk_158 0 7 (dk_at dksX6_sharedSize_1 5 rfl rfl)
theorem dX6_sharedSize_32 : decode cX6_sharedSize 32 = .ok (.iconst 1, 1) := dk_4 (dk_at dksX6_sharedSize_1 8 rfl rfl)
theorem dX6_sharedSize_33 : decode cX6_sharedSize 33 = .ok (.goto 4, 3) := dk_167 0 4 (dk_at dksX6_sharedSize_1 9 rfl rfl)
theorem dX6_sharedSize_36 : decode cX6_sharedSize 36 = .ok (.iconst 0, 1) := dk_3 (dk_at dksX6_sharedSize_1 12 rfl rfl)
theorem dX6_sharedSize_37 : decode cX6_sharedSize 37 = .ok (.istore_n 3, 1) := dk_62 (dk_at dksX6_sharedSize_1 13 rfl rfl)
theorem dX6_sharedSize_38 : decode cX6_sharedSize 38 = .ok (.iconst 1, 1) := dk_4 (dk_at dksX6_sharedSize_1 14 rfl rfl)
theorem dX6_sharedSize_39 : decode cX6_sharedSize 39 = .ok (.istore 4, 2) := dk_54 4 (dk_at dksX6_sharedSize_1 15 rfl rfl)
theorem dX6_sharedSize_41 : decode cX6_sharedSize 41 = .ok (.iload 4, 2) := dk_21 4 (dk_at dksX6_sharedSize_1 17 rfl rfl)
theorem dX6_sharedSize_43 : decode cX6_sharedSize 43 = .ok (.aload_n 0, 1) := dk_42 (dk_at dksX6_sharedSize_1 19 rfl rfl)
theorem dX6_sharedSize_44 : decode cX6_sharedSize 44 = .ok (.getfield 143, 3) := dk_180 0 143 (dk_at dksX6_sharedSize_1 20 rfl rfl)
theorem dX6_sharedSize_47 : decode cX6_sharedSize 47 = .ok (.iload_n 2, 1) := dk_28 (dk_at dksX6_sharedSize_1 23 rfl rfl)
theorem dX6_sharedSize_48 : decode cX6_sharedSize 48 = .ok (.iaload, 1) := dk_46 (dk_at dksX6_sharedSize_2 0 rfl rfl)
theorem dX6_sharedSize_49 : decode cX6_sharedSize 49 = .ok (.if_icmp .ge 47, 3) := dk_162 0 47 (dk_at dksX6_sharedSize_2 1 rfl rfl)
theorem dX6_sharedSize_52 : decode cX6_sharedSize 52 = .ok (.iload_n 3, 1) := dk_29 (dk_at dksX6_sharedSize_2 4 rfl rfl)
theorem dX6_sharedSize_53 : decode cX6_sharedSize 53 = .ok (.ifCond .eq 43, 3) := dk_153 0 43 (dk_at dksX6_sharedSize_2 5 rfl rfl)
theorem dX6_sharedSize_56 : decode cX6_sharedSize 56 = .ok (.aload_n 0, 1) := dk_42 (dk_at dksX6_sharedSize_2 8 rfl rfl)
theorem dX6_sharedSize_57 : decode cX6_sharedSize 57 = .ok (.getfield 146, 3) := dk_180 0 146 (dk_at dksX6_sharedSize_2 9 rfl rfl)
theorem dX6_sharedSize_60 : decode cX6_sharedSize 60 = .ok (.aload_n 0, 1) := dk_42 (dk_at dksX6_sharedSize_2 12 rfl rfl)
theorem dX6_sharedSize_61 : decode cX6_sharedSize 61 = .ok (.getfield 140, 3) := dk_180 0 140 (dk_at dksX6_sharedSize_2 13 rfl rfl)
theorem dX6_sharedSize_64 : decode cX6_sharedSize 64 = .ok (.iload_n 2, 1) := dk_28 (dk_at dksX6_sharedSize_2 16 rfl rfl)
theorem dX6_sharedSize_65 : decode cX6_sharedSize 65 = .ok (.iaload, 1) := dk_46 (dk_at dksX6_sharedSize_2 17 rfl rfl)
theorem dX6_sharedSize_66 : decode cX6_sharedSize 66 = .ok (.iload 4, 2) := dk_21 4 (dk_at dksX6_sharedSize_2 18 rfl rfl)
theorem dX6_sharedSize_68 : decode cX6_sharedSize 68 = .ok (.iadd, 1) := dk_96 (dk_at dksX6_sharedSize_2 20 rfl rfl)
theorem dX6_sharedSize_69 : decode cX6_sharedSize 69 = .ok (.iaload, 1) := dk_46 (dk_at dksX6_sharedSize_2 21 rfl rfl)
theorem dX6_sharedSize_70 : decode cX6_sharedSize 70 = .ok (.aload_n 0, 1) := dk_42 (dk_at dksX6_sharedSize_2 22 rfl rfl)
theorem dX6_sharedSize_71 : decode cX6_sharedSize 71 = .ok (.getfield 146, 3) := dk_180 0 146 (dk_at dksX6_sharedSize_3 0 rfl rfl)
theorem dX6_sharedSize_74 : decode cX6_sharedSize 74 = .ok (.aload_n 0, 1) := dk_42 (dk_at dksX6_sharedSize_3 3 rfl rfl)
theorem dX6_sharedSize_75 : decode cX6_sharedSize 75 = .ok (.getfield 140, 3) := dk_180 0 140 (dk_at dksX6_sharedSize_3 4 rfl rfl)
theorem dX6_sharedSize_78 : decode cX6_sharedSize 78 = .ok (.iload_n 2, 1) := dk_28 (dk_at dksX6_sharedSize_3 7 rfl rfl)
theorem dX6_sharedSize_79 : decode cX6_sharedSize 79 = .ok (.iaload, 1) := dk_46 (dk_at dksX6_sharedSize_3 8 rfl rfl)
theorem dX6_sharedSize_80 : decode cX6_sharedSize 80 = .ok (.iaload, 1) := dk_46 (dk_at dksX6_sharedSize_3 9 rfl rfl)
theorem dX6_sharedSize_81 : decode cX6_sharedSize 81 = .ok (.if_icmp .ne 7, 3) := dk_160 0 7 (dk_at dksX6_sharedSize_3 10 rfl rfl)
theorem dX6_sharedSize_84 : decode cX6_sharedSize 84 = .ok (.iconst 1, 1) := dk_4 (dk_at dksX6_sharedSize_3 13 rfl rfl)
theorem dX6_sharedSize_85 : decode cX6_sharedSize 85 = .ok (.goto 4, 3) := dk_167 0 4 (dk_at dksX6_sharedSize_3 14 rfl rfl)
theorem dX6_sharedSize_88 : decode cX6_sharedSize 88 = .ok (.iconst 0, 1) := dk_3 (dk_at dksX6_sharedSize_3 17 rfl rfl)
theorem dX6_sharedSize_89 : decode cX6_sharedSize 89 = .ok (.istore_n 3, 1) := dk_62 (dk_at dksX6_sharedSize_3 18 rfl rfl)
theorem dX6_sharedSize_90 : decode cX6_sharedSize 90 = .ok (.iinc 4 1, 3) := dk_132 4 1 (dk_at dksX6_sharedSize_3 19 rfl rfl)
theorem dX6_sharedSize_93 : decode cX6_sharedSize 93 = .ok (.goto (-52), 3) := dk_167 255 204 (dk_at dksX6_sharedSize_4 0 rfl rfl)
theorem dX6_sharedSize_96 : decode cX6_sharedSize 96 = .ok (.aload_n 0, 1) := dk_42 (dk_at dksX6_sharedSize_4 3 rfl rfl)
theorem dX6_sharedSize_97 : decode cX6_sharedSize 97 = .ok (.getfield 146, 3) := dk_180 0 146 (dk_at dksX6_sharedSize_4 4 rfl rfl)
theorem dX6_sharedSize_100 : decode cX6_sharedSize 100 = .ok (.iload_n 2, 1) := dk_28 (dk_at dksX6_sharedSize_4 7 rfl rfl)
theorem dX6_sharedSize_101 : decode cX6_sharedSize 101 = .ok (.iload_n 3, 1) := dk_29 (dk_at dksX6_sharedSize_4 8 rfl rfl)
theorem dX6_sharedSize_102 : decode cX6_sharedSize 102 = .ok (.ifCond .eq 17, 3) := dk_153 0 17 (dk_at dksX6_sharedSize_4 9 rfl rfl)
theorem dX6_sharedSize_105 : decode cX6_sharedSize 105 = .ok (.aload_n 0, 1) := dk_42 (dk_at dksX6_sharedSize_4 12 rfl rfl)
theorem dX6_sharedSize_106 : decode cX6_sharedSize 106 = .ok (.getfield 146, 3) := dk_180 0 146 (dk_at dksX6_sharedSize_4 13 rfl rfl)
theorem dX6_sharedSize_109 : decode cX6_sharedSize 109 = .ok (.aload_n 0, 1) := dk_42 (dk_at dksX6_sharedSize_4 16 rfl rfl)
theorem dX6_sharedSize_110 : decode cX6_sharedSize 110 = .ok (.getfield 140, 3) := dk_180 0 140 (dk_at dksX6_sharedSize_4 17 rfl rfl)
theorem dX6_sharedSize_113 : decode cX6_sharedSize 113 = .ok (.iload_n 2, 1) := dk_28 (dk_at dksX6_sharedSize_4 20 rfl rfl)
theorem dX6_sharedSize_114 : decode cX6_sharedSize 114 = .ok (.iaload, 1) := dk_46 (dk_at dksX6_sharedSize_4 21 rfl rfl)
theorem dX6_sharedSize_115 : decode cX6_sharedSize 115 = .ok (.iaload, 1) := dk_46 (dk_at dksX6_sharedSize_4 22 rfl rfl)
theorem dX6_sharedSize_116 : decode cX6_sharedSize 116 = .ok (.goto 4, 3) := dk_167 0 4 (dk_at dksX6_sharedSize_5 0 rfl rfl)
theorem dX6_sharedSize_119 : decode cX6_sharedSize 119 = .ok (.iconst (-1), 1) := dk_2 (dk_at dksX6_sharedSize_5 3 rfl rfl)
theorem dX6_sharedSize_120 : decode cX6_sharedSize 120 = .ok (.iastore, 1) := dk_79 (dk_at dksX6_sharedSize_5 4 rfl rfl)
theorem dX6_sharedSize_121 : decode cX6_sharedSize 121 = .ok (.aload_n 0, 1) := dk_42 (dk_at dksX6_sharedSize_5 5 rfl rfl)
theorem dX6_sharedSize_122 : decode cX6_sharedSize 122 = .ok (.getfield 321, 3) := dk_180 1 65 (dk_at dksX6_sharedSize_5 6 rfl rfl)
theorem dX6_sharedSize_125 : decode cX6_sharedSize 125 = .ok (.iconst 1, 1) := dk_4 (dk_at dksX6_sharedSize_5 9 rfl rfl)
theorem dX6_sharedSize_126 : decode cX6_sharedSize 126 = .ok (.isub, 1) := dk_100 (dk_at dksX6_sharedSize_5 10 rfl rfl)
theorem dX6_sharedSize_127 : decode cX6_sharedSize 127 = .ok (.istore 4, 2) := dk_54 4 (dk_at dksX6_sharedSize_5 11 rfl rfl)
theorem dX6_sharedSize_129 : decode cX6_sharedSize 129 = .ok (.iload 4, 2) := dk_21 4 (dk_at dksX6_sharedSize_5 13 rfl rfl)
theorem dX6_sharedSize_131 : decode cX6_sharedSize 131 = .ok (.iload_n 2, 1) := dk_28 (dk_at dksX6_sharedSize_5 15 rfl rfl)
theorem dX6_sharedSize_132 : decode cX6_sharedSize 132 = .ok (.if_icmp .le 65, 3) := dk_164 0 65 (dk_at dksX6_sharedSize_5 16 rfl rfl)
theorem dX6_sharedSize_135 : decode cX6_sharedSize 135 = .ok (.aload_n 0, 1) := dk_42 (dk_at dksX6_sharedSize_5 19 rfl rfl)
theorem dX6_sharedSize_136 : decode cX6_sharedSize 136 = .ok (.getfield 146, 3) := dk_180 0 146 (dk_at dksX6_sharedSize_5 20 rfl rfl)
theorem dX6_sharedSize_139 : decode cX6_sharedSize 139 = .ok (.iload_n 2, 1) := dk_28 (dk_at dksX6_sharedSize_5 23 rfl rfl)
theorem dX6_sharedSize_140 : decode cX6_sharedSize 140 = .ok (.iaload, 1) := dk_46 (dk_at dksX6_sharedSize_6 0 rfl rfl)
theorem dX6_sharedSize_141 : decode cX6_sharedSize 141 = .ok (.iconst (-1), 1) := dk_2 (dk_at dksX6_sharedSize_6 1 rfl rfl)
theorem dX6_sharedSize_142 : decode cX6_sharedSize 142 = .ok (.if_icmp .ne 55, 3) := dk_160 0 55 (dk_at dksX6_sharedSize_6 2 rfl rfl)
theorem dX6_sharedSize_145 : decode cX6_sharedSize 145 = .ok (.aload_n 0, 1) := dk_42 (dk_at dksX6_sharedSize_6 5 rfl rfl)
theorem dX6_sharedSize_146 : decode cX6_sharedSize 146 = .ok (.getfield 146, 3) := dk_180 0 146 (dk_at dksX6_sharedSize_6 6 rfl rfl)
theorem dX6_sharedSize_149 : decode cX6_sharedSize 149 = .ok (.iload_n 2, 1) := dk_28 (dk_at dksX6_sharedSize_6 9 rfl rfl)
theorem dX6_sharedSize_150 : decode cX6_sharedSize 150 = .ok (.aload_n 0, 1) := dk_42 (dk_at dksX6_sharedSize_6 10 rfl rfl)
theorem dX6_sharedSize_151 : decode cX6_sharedSize 151 = .ok (.getfield 146, 3) := dk_180 0 146 (dk_at dksX6_sharedSize_6 11 rfl rfl)
theorem dX6_sharedSize_154 : decode cX6_sharedSize 154 = .ok (.iload 4, 2) := dk_21 4 (dk_at dksX6_sharedSize_6 14 rfl rfl)
theorem dX6_sharedSize_156 : decode cX6_sharedSize 156 = .ok (.iaload, 1) := dk_46 (dk_at dksX6_sharedSize_6 16 rfl rfl)
theorem dX6_sharedSize_157 : decode cX6_sharedSize 157 = .ok (.ifCond .lt 32, 3) := dk_155 0 32 (dk_at dksX6_sharedSize_6 17 rfl rfl)
theorem dX6_sharedSize_160 : decode cX6_sharedSize 160 = .ok (.aload_n 0, 1) := dk_42 (dk_at dksX6_sharedSize_6 20 rfl rfl)
theorem dX6_sharedSize_161 : decode cX6_sharedSize 161 = .ok (.iload 4, 2) := dk_21 4 (dk_at dksX6_sharedSize_6 21 rfl rfl)
theorem dX6_sharedSize_163 : decode cX6_sharedSize 163 = .ok (.invokevirtual 374, 3) := dk_182 1 118 (dk_at dksX6_sharedSize_7 0 rfl rfl)
theorem dX6_sharedSize_166 : decode cX6_sharedSize 166 = .ok (.ifCond .eq 23, 3) := dk_153 0 23 (dk_at dksX6_sharedSize_7 3 rfl rfl)
theorem dX6_sharedSize_169 : decode cX6_sharedSize 169 = .ok (.aload_n 0, 1) := dk_42 (dk_at dksX6_sharedSize_7 6 rfl rfl)
theorem dX6_sharedSize_170 : decode cX6_sharedSize 170 = .ok (.iload 4, 2) := dk_21 4 (dk_at dksX6_sharedSize_7 7 rfl rfl)
theorem dX6_sharedSize_172 : decode cX6_sharedSize 172 = .ok (.iload_n 2, 1) := dk_28 (dk_at dksX6_sharedSize_7 9 rfl rfl)
theorem dX6_sharedSize_173 : decode cX6_sharedSize 173 = .ok (.invokevirtual 377, 3) := dk_182 1 121 (dk_at dksX6_sharedSize_7 10 rfl rfl)
theorem dX6_sharedSize_176 : decode cX6_sharedSize 176 = .ok (.ifCond .eq 13, 3) := dk_153 0 13 (dk_at dksX6_sharedSize_7 13 rfl rfl)
theorem dX6_sharedSize_179 : decode cX6_sharedSize 179 = .ok (.aload_n 0, 1) := dk_42 (dk_at dksX6_sharedSize_7 16 rfl rfl)
theorem dX6_sharedSize_180 : decode cX6_sharedSize 180 = .ok (.getfield 146, 3) := dk_180 0 146 (dk_at dksX6_sharedSize_7 17 rfl rfl)
theorem dX6_sharedSize_183 : decode cX6_sharedSize 183 = .ok (.iload 4, 2) := dk_21 4 (dk_at dksX6_sharedSize_7 20 rfl rfl)
theorem dX6_sharedSize_185 : decode cX6_sharedSize 185 = .ok (.iaload, 1) := dk_46 (dk_at dksX6_sharedSize_7 22 rfl rfl)
theorem dX6_sharedSize_186 : decode cX6_sharedSize 186 = .ok (.goto 4, 3) := dk_167 0 4 (dk_at dksX6_sharedSize_8 0 rfl rfl)
theorem dX6_sharedSize_189 : decode cX6_sharedSize 189 = .ok (.iconst (-1), 1) := dk_2 (dk_at dksX6_sharedSize_8 3 rfl rfl)
theorem dX6_sharedSize_190 : decode cX6_sharedSize 190 = .ok (.iastore, 1) := dk_79 (dk_at dksX6_sharedSize_8 4 rfl rfl)
theorem dX6_sharedSize_191 : decode cX6_sharedSize 191 = .ok (.iinc 4 (-1), 3) := dk_132 4 255 (dk_at dksX6_sharedSize_8 5 rfl rfl)
theorem dX6_sharedSize_194 : decode cX6_sharedSize 194 = .ok (.goto (-65), 3) := dk_167 255 191 (dk_at dksX6_sharedSize_8 8 rfl rfl)
theorem dX6_sharedSize_197 : decode cX6_sharedSize 197 = .ok (.aload_n 0, 1) := dk_42 (dk_at dksX6_sharedSize_8 11 rfl rfl)
theorem dX6_sharedSize_198 : decode cX6_sharedSize 198 = .ok (.getfield 146, 3) := dk_180 0 146 (dk_at dksX6_sharedSize_8 12 rfl rfl)
theorem dX6_sharedSize_201 : decode cX6_sharedSize 201 = .ok (.iload_n 2, 1) := dk_28 (dk_at dksX6_sharedSize_8 15 rfl rfl)
theorem dX6_sharedSize_202 : decode cX6_sharedSize 202 = .ok (.iaload, 1) := dk_46 (dk_at dksX6_sharedSize_8 16 rfl rfl)
theorem dX6_sharedSize_203 : decode cX6_sharedSize 203 = .ok (.iconst (-1), 1) := dk_2 (dk_at dksX6_sharedSize_8 17 rfl rfl)
theorem dX6_sharedSize_204 : decode cX6_sharedSize 204 = .ok (.if_icmp .ne 13, 3) := dk_160 0 13 (dk_at dksX6_sharedSize_8 18 rfl rfl)
theorem dX6_sharedSize_207 : decode cX6_sharedSize 207 = .ok (.aload_n 0, 1) := dk_42 (dk_at dksX6_sharedSize_8 21 rfl rfl)
theorem dX6_sharedSize_208 : decode cX6_sharedSize 208 = .ok (.getfield 146, 3) := dk_180 0 146 (dk_at dksX6_sharedSize_9 0 rfl rfl)
theorem dX6_sharedSize_211 : decode cX6_sharedSize 211 = .ok (.iload_n 2, 1) := dk_28 (dk_at dksX6_sharedSize_9 3 rfl rfl)
theorem dX6_sharedSize_212 : decode cX6_sharedSize 212 = .ok (.iload_n 1, 1) := dk_27 (dk_at dksX6_sharedSize_9 4 rfl rfl)
theorem dX6_sharedSize_213 : decode cX6_sharedSize 213 = .ok (.iastore, 1) := dk_79 (dk_at dksX6_sharedSize_9 5 rfl rfl)
theorem dX6_sharedSize_214 : decode cX6_sharedSize 214 = .ok (.iinc 1 1, 3) := dk_132 1 1 (dk_at dksX6_sharedSize_9 6 rfl rfl)
theorem dX6_sharedSize_217 : decode cX6_sharedSize 217 = .ok (.iinc 2 (-1), 3) := dk_132 2 255 (dk_at dksX6_sharedSize_9 9 rfl rfl)
theorem dX6_sharedSize_220 : decode cX6_sharedSize 220 = .ok (.goto (-211), 3) := dk_167 255 45 (dk_at dksX6_sharedSize_9 12 rfl rfl)
theorem dX6_sharedSize_223 : decode cX6_sharedSize 223 = .ok (.iload_n 1, 1) := dk_27 (dk_at dksX6_sharedSize_9 15 rfl rfl)
theorem dX6_sharedSize_224 : decode cX6_sharedSize 224 = .ok (.ireturn, 1) := dk_172 (dk_at dksX6_sharedSize_9 16 rfl rfl)
abbrev cX6_isOwn : ByteArray := prog_23_method_74_code
def yX6_isOwn : MethodName := ⟨RX6, "isOwn", "(I)Z"⟩
def dkwX6_isOwn_3 : List UInt8 := [167, 0, 4, 3, 61, 132, 3, 1, 167, 255, 206, 28, 154, 0, 7, 4, 167, 0, 4, 3, 172]
abbrev dktX6_isOwn_3 : List UInt8 := dkwX6_isOwn_3 ++ []
def dkwX6_isOwn_2 : List UInt8 := [180, 0, 140, 27, 46, 29, 96, 46, 42, 180, 0, 146, 42, 180, 0, 140, 27, 46, 46, 160, 0, 7, 4]
abbrev dktX6_isOwn_2 : List UInt8 := dkwX6_isOwn_2 ++ dktX6_isOwn_3
def dkwX6_isOwn_1 : List UInt8 := [61, 4, 62, 29, 42, 180, 0, 143, 27, 46, 162, 0, 46, 28, 153, 0, 42, 42, 180, 0, 146, 42]
abbrev dktX6_isOwn_1 : List UInt8 := dkwX6_isOwn_1 ++ dktX6_isOwn_2
def dkwX6_isOwn_0 : List UInt8 := [42, 180, 0, 131, 27, 46, 8, 160, 0, 16, 42, 180, 0, 143, 27, 46, 158, 0, 7, 4, 167, 0, 4, 3]
abbrev dktX6_isOwn_0 : List UInt8 := dkwX6_isOwn_0 ++ dktX6_isOwn_1
theorem dksX6_isOwn_0 : cX6_isOwn.data.toList.drop 0 = dktX6_isOwn_0 := by decide +kernel
theorem dksX6_isOwn_1 : cX6_isOwn.data.toList.drop 24 = dktX6_isOwn_1 := dk_seg dksX6_isOwn_0 24 rfl rfl
theorem dksX6_isOwn_2 : cX6_isOwn.data.toList.drop 46 = dktX6_isOwn_2 := dk_seg dksX6_isOwn_1 22 rfl rfl
theorem dksX6_isOwn_3 : cX6_isOwn.data.toList.drop 69 = dktX6_isOwn_3 := dk_seg dksX6_isOwn_2 23 rfl rfl
theorem dX6_isOwn_0 : decode cX6_isOwn 0 = .ok (.aload_n 0, 1) := dk_42 (dk_at dksX6_isOwn_0 0 rfl rfl)
theorem dX6_isOwn_1 : decode cX6_isOwn 1 = .ok (.getfield 131, 3) := dk_180 0 131 (dk_at dksX6_isOwn_0 1 rfl rfl)
theorem dX6_isOwn_4 : decode cX6_isOwn 4 = .ok (.iload_n 1, 1) := dk_27 (dk_at dksX6_isOwn_0 4 rfl rfl)
theorem dX6_isOwn_5 : decode cX6_isOwn 5 = .ok (.iaload, 1) := dk_46 (dk_at dksX6_isOwn_0 5 rfl rfl)
theorem dX6_isOwn_6 : decode cX6_isOwn 6 = .ok (.iconst 5, 1) := dk_8 (dk_at dksX6_isOwn_0 6 rfl rfl)
theorem dX6_isOwn_7 : decode cX6_isOwn 7 = .ok (.if_icmp .ne 16, 3) := dk_160 0 16 (dk_at dksX6_isOwn_0 7 rfl rfl)
theorem dX6_isOwn_10 : decode cX6_isOwn 10 = .ok (.aload_n 0, 1) := dk_42 (dk_at dksX6_isOwn_0 10 rfl rfl)
theorem dX6_isOwn_11 : decode cX6_isOwn 11 = .ok (.getfield 143, 3) := dk_180 0 143 (dk_at dksX6_isOwn_0 11 rfl rfl)
theorem dX6_isOwn_14 : decode cX6_isOwn 14 = .ok (.iload_n 1, 1) := dk_27 (dk_at dksX6_isOwn_0 14 rfl rfl)
theorem dX6_isOwn_15 : decode cX6_isOwn 15 = .ok (.iaload, 1) := dk_46 (dk_at dksX6_isOwn_0 15 rfl rfl)
theorem dX6_isOwn_16 : decode cX6_isOwn 16 = .ok (.ifCond .le 7, 3) := dk_158 0 7 (dk_at dksX6_isOwn_0 16 rfl rfl)
theorem dX6_isOwn_19 : decode cX6_isOwn 19 = .ok (.iconst 1, 1) := dk_4 (dk_at dksX6_isOwn_0 19 rfl rfl)
theorem dX6_isOwn_20 : decode cX6_isOwn 20 = .ok (.goto 4, 3) := dk_167 0 4 (dk_at dksX6_isOwn_0 20 rfl rfl)
theorem dX6_isOwn_23 : decode cX6_isOwn 23 = .ok (.iconst 0, 1) := dk_3 (dk_at dksX6_isOwn_0 23 rfl rfl)
theorem dX6_isOwn_24 : decode cX6_isOwn 24 = .ok (.istore_n 2, 1) := dk_61 (dk_at dksX6_isOwn_1 0 rfl rfl)
theorem dX6_isOwn_25 : decode cX6_isOwn 25 = .ok (.iconst 1, 1) := dk_4 (dk_at dksX6_isOwn_1 1 rfl rfl)
theorem dX6_isOwn_26 : decode cX6_isOwn 26 = .ok (.istore_n 3, 1) := dk_62 (dk_at dksX6_isOwn_1 2 rfl rfl)
theorem dX6_isOwn_27 : decode cX6_isOwn 27 = .ok (.iload_n 3, 1) := dk_29 (dk_at dksX6_isOwn_1 3 rfl rfl)
theorem dX6_isOwn_28 : decode cX6_isOwn 28 = .ok (.aload_n 0, 1) := dk_42 (dk_at dksX6_isOwn_1 4 rfl rfl)
theorem dX6_isOwn_29 : decode cX6_isOwn 29 = .ok (.getfield 143, 3) := dk_180 0 143 (dk_at dksX6_isOwn_1 5 rfl rfl)
theorem dX6_isOwn_32 : decode cX6_isOwn 32 = .ok (.iload_n 1, 1) := dk_27 (dk_at dksX6_isOwn_1 8 rfl rfl)
theorem dX6_isOwn_33 : decode cX6_isOwn 33 = .ok (.iaload, 1) := dk_46 (dk_at dksX6_isOwn_1 9 rfl rfl)
theorem dX6_isOwn_34 : decode cX6_isOwn 34 = .ok (.if_icmp .ge 46, 3) := dk_162 0 46 (dk_at dksX6_isOwn_1 10 rfl rfl)
theorem dX6_isOwn_37 : decode cX6_isOwn 37 = .ok (.iload_n 2, 1) := dk_28 (dk_at dksX6_isOwn_1 13 rfl rfl)
theorem dX6_isOwn_38 : decode cX6_isOwn 38 = .ok (.ifCond .eq 42, 3) := dk_153 0 42 (dk_at dksX6_isOwn_1 14 rfl rfl)
theorem dX6_isOwn_41 : decode cX6_isOwn 41 = .ok (.aload_n 0, 1) := dk_42 (dk_at dksX6_isOwn_1 17 rfl rfl)
theorem dX6_isOwn_42 : decode cX6_isOwn 42 = .ok (.getfield 146, 3) := dk_180 0 146 (dk_at dksX6_isOwn_1 18 rfl rfl)
theorem dX6_isOwn_45 : decode cX6_isOwn 45 = .ok (.aload_n 0, 1) := dk_42 (dk_at dksX6_isOwn_1 21 rfl rfl)
theorem dX6_isOwn_46 : decode cX6_isOwn 46 = .ok (.getfield 140, 3) := dk_180 0 140 (dk_at dksX6_isOwn_2 0 rfl rfl)
theorem dX6_isOwn_49 : decode cX6_isOwn 49 = .ok (.iload_n 1, 1) := dk_27 (dk_at dksX6_isOwn_2 3 rfl rfl)
theorem dX6_isOwn_50 : decode cX6_isOwn 50 = .ok (.iaload, 1) := dk_46 (dk_at dksX6_isOwn_2 4 rfl rfl)
theorem dX6_isOwn_51 : decode cX6_isOwn 51 = .ok (.iload_n 3, 1) := dk_29 (dk_at dksX6_isOwn_2 5 rfl rfl)
theorem dX6_isOwn_52 : decode cX6_isOwn 52 = .ok (.iadd, 1) := dk_96 (dk_at dksX6_isOwn_2 6 rfl rfl)
theorem dX6_isOwn_53 : decode cX6_isOwn 53 = .ok (.iaload, 1) := dk_46 (dk_at dksX6_isOwn_2 7 rfl rfl)
theorem dX6_isOwn_54 : decode cX6_isOwn 54 = .ok (.aload_n 0, 1) := dk_42 (dk_at dksX6_isOwn_2 8 rfl rfl)
theorem dX6_isOwn_55 : decode cX6_isOwn 55 = .ok (.getfield 146, 3) := dk_180 0 146 (dk_at dksX6_isOwn_2 9 rfl rfl)
theorem dX6_isOwn_58 : decode cX6_isOwn 58 = .ok (.aload_n 0, 1) := dk_42 (dk_at dksX6_isOwn_2 12 rfl rfl)
theorem dX6_isOwn_59 : decode cX6_isOwn 59 = .ok (.getfield 140, 3) := dk_180 0 140 (dk_at dksX6_isOwn_2 13 rfl rfl)
theorem dX6_isOwn_62 : decode cX6_isOwn 62 = .ok (.iload_n 1, 1) := dk_27 (dk_at dksX6_isOwn_2 16 rfl rfl)
theorem dX6_isOwn_63 : decode cX6_isOwn 63 = .ok (.iaload, 1) := dk_46 (dk_at dksX6_isOwn_2 17 rfl rfl)
theorem dX6_isOwn_64 : decode cX6_isOwn 64 = .ok (.iaload, 1) := dk_46 (dk_at dksX6_isOwn_2 18 rfl rfl)
theorem dX6_isOwn_65 : decode cX6_isOwn 65 = .ok (.if_icmp .ne 7, 3) := dk_160 0 7 (dk_at dksX6_isOwn_2 19 rfl rfl)
theorem dX6_isOwn_68 : decode cX6_isOwn 68 = .ok (.iconst 1, 1) := dk_4 (dk_at dksX6_isOwn_2 22 rfl rfl)
theorem dX6_isOwn_69 : decode cX6_isOwn 69 = .ok (.goto 4, 3) := dk_167 0 4 (dk_at dksX6_isOwn_3 0 rfl rfl)
theorem dX6_isOwn_72 : decode cX6_isOwn 72 = .ok (.iconst 0, 1) := dk_3 (dk_at dksX6_isOwn_3 3 rfl rfl)
theorem dX6_isOwn_73 : decode cX6_isOwn 73 = .ok (.istore_n 2, 1) := dk_61 (dk_at dksX6_isOwn_3 4 rfl rfl)
theorem dX6_isOwn_74 : decode cX6_isOwn 74 = .ok (.iinc 3 1, 3) := dk_132 3 1 (dk_at dksX6_isOwn_3 5 rfl rfl)
theorem dX6_isOwn_77 : decode cX6_isOwn 77 = .ok (.goto (-50), 3) := dk_167 255 206 (dk_at dksX6_isOwn_3 8 rfl rfl)
theorem dX6_isOwn_80 : decode cX6_isOwn 80 = .ok (.iload_n 2, 1) := dk_28 (dk_at dksX6_isOwn_3 11 rfl rfl)
theorem dX6_isOwn_81 : decode cX6_isOwn 81 = .ok (.ifCond .ne 7, 3) := dk_154 0 7 (dk_at dksX6_isOwn_3 12 rfl rfl)
theorem dX6_isOwn_84 : decode cX6_isOwn 84 = .ok (.iconst 1, 1) := dk_4 (dk_at dksX6_isOwn_3 15 rfl rfl)
theorem dX6_isOwn_85 : decode cX6_isOwn 85 = .ok (.goto 4, 3) := dk_167 0 4 (dk_at dksX6_isOwn_3 16 rfl rfl)
theorem dX6_isOwn_88 : decode cX6_isOwn 88 = .ok (.iconst 0, 1) := dk_3 (dk_at dksX6_isOwn_3 19 rfl rfl)
theorem dX6_isOwn_89 : decode cX6_isOwn 89 = .ok (.ireturn, 1) := dk_172 (dk_at dksX6_isOwn_3 20 rfl rfl)
abbrev cX6_isSame : ByteArray := prog_23_method_72_code
def yX6_isSame : MethodName := ⟨RX6, "isSame", "(II)Z"⟩
def dkwX6_isSame_6 : List UInt8 := [160, 0, 7, 4, 167, 0, 4, 3, 62, 132, 4, 1, 167, 255, 201, 29, 172]
abbrev dktX6_isSame_6 : List UInt8 := dkwX6_isSame_6 ++ []
def dkwX6_isSame_5 : List UInt8 := [42, 180, 0, 140, 27, 46, 21, 4, 96, 46, 42, 180, 0, 146, 42, 180, 0, 140, 28, 46, 21, 4, 96, 46]
abbrev dktX6_isSame_5 : List UInt8 := dkwX6_isSame_5 ++ dktX6_isSame_6
def dkwX6_isSame_4 : List UInt8 := [3, 62, 3, 54, 4, 21, 4, 42, 180, 0, 143, 27, 46, 162, 0, 50, 29, 153, 0, 46, 42, 180, 0, 146]
abbrev dktX6_isSame_4 : List UInt8 := dkwX6_isSame_4 ++ dktX6_isSame_5
def dkwX6_isSame_3 : List UInt8 := [46, 7, 161, 0, 18, 42, 180, 0, 137, 27, 46, 42, 180, 0, 137, 28, 46, 160, 0, 7, 4, 167, 0, 4]
abbrev dktX6_isSame_3 : List UInt8 := dkwX6_isSame_3 ++ dktX6_isSame_4
def dkwX6_isSame_2 : List UInt8 := [5, 159, 0, 18, 42, 180, 0, 134, 27, 46, 42, 180, 0, 134, 28, 46, 160, 0, 32, 42, 180, 0, 131, 27]
abbrev dktX6_isSame_2 : List UInt8 := dkwX6_isSame_2 ++ dktX6_isSame_3
def dkwX6_isSame_1 : List UInt8 := [180, 0, 143, 28, 46, 160, 0, 7, 4, 167, 0, 4, 3, 62, 29, 153, 0, 57, 42, 180, 0, 131, 27, 46]
abbrev dktX6_isSame_1 : List UInt8 := dkwX6_isSame_1 ++ dktX6_isSame_2
def dkwX6_isSame_0 : List UInt8 := [42, 180, 0, 131, 27, 46, 42, 180, 0, 131, 28, 46, 160, 0, 22, 42, 180, 0, 143, 27, 46, 42]
abbrev dktX6_isSame_0 : List UInt8 := dkwX6_isSame_0 ++ dktX6_isSame_1
theorem dksX6_isSame_0 : cX6_isSame.data.toList.drop 0 = dktX6_isSame_0 := by decide +kernel
theorem dksX6_isSame_1 : cX6_isSame.data.toList.drop 22 = dktX6_isSame_1 := dk_seg dksX6_isSame_0 22 rfl rfl
theorem dksX6_isSame_2 : cX6_isSame.data.toList.drop 46 = dktX6_isSame_2 := dk_seg dksX6_isSame_1 24 rfl rfl
theorem dksX6_isSame_3 : cX6_isSame.data.toList.drop 70 = dktX6_isSame_3 := dk_seg dksX6_isSame_2 24 rfl rfl
theorem dksX6_isSame_4 : cX6_isSame.data.toList.drop 94 = dktX6_isSame_4 := dk_seg dksX6_isSame_3 24 rfl rfl
theorem dksX6_isSame_5 : cX6_isSame.data.toList.drop 118 = dktX6_isSame_5 := dk_seg dksX6_isSame_4 24 rfl rfl
theorem dksX6_isSame_6 : cX6_isSame.data.toList.drop 142 = dktX6_isSame_6 := dk_seg dksX6_isSame_5 24 rfl rfl
theorem dX6_isSame_0 : decode cX6_isSame 0 = .ok (.aload_n 0, 1) := dk_42 (dk_at dksX6_isSame_0 0 rfl rfl)
theorem dX6_isSame_1 : decode cX6_isSame 1 = .ok (.getfield 131, 3) := dk_180 0 131 (dk_at dksX6_isSame_0 1 rfl rfl)
theorem dX6_isSame_4 : decode cX6_isSame 4 = .ok (.iload_n 1, 1) := dk_27 (dk_at dksX6_isSame_0 4 rfl rfl)
theorem dX6_isSame_5 : decode cX6_isSame 5 = .ok (.iaload, 1) := dk_46 (dk_at dksX6_isSame_0 5 rfl rfl)
theorem dX6_isSame_6 : decode cX6_isSame 6 = .ok (.aload_n 0, 1) := dk_42 (dk_at dksX6_isSame_0 6 rfl rfl)
theorem dX6_isSame_7 : decode cX6_isSame 7 = .ok (.getfield 131, 3) := dk_180 0 131 (dk_at dksX6_isSame_0 7 rfl rfl)
theorem dX6_isSame_10 : decode cX6_isSame 10 = .ok (.iload_n 2, 1) := dk_28 (dk_at dksX6_isSame_0 10 rfl rfl)
theorem dX6_isSame_11 : decode cX6_isSame 11 = .ok (.iaload, 1) := dk_46 (dk_at dksX6_isSame_0 11 rfl rfl)
theorem dX6_isSame_12 : decode cX6_isSame 12 = .ok (.if_icmp .ne 22, 3) := dk_160 0 22 (dk_at dksX6_isSame_0 12 rfl rfl)
theorem dX6_isSame_15 : decode cX6_isSame 15 = .ok (.aload_n 0, 1) := dk_42 (dk_at dksX6_isSame_0 15 rfl rfl)
theorem dX6_isSame_16 : decode cX6_isSame 16 = .ok (.getfield 143, 3) := dk_180 0 143 (dk_at dksX6_isSame_0 16 rfl rfl)
theorem dX6_isSame_19 : decode cX6_isSame 19 = .ok (.iload_n 1, 1) := dk_27 (dk_at dksX6_isSame_0 19 rfl rfl)
theorem dX6_isSame_20 : decode cX6_isSame 20 = .ok (.iaload, 1) := dk_46 (dk_at dksX6_isSame_0 20 rfl rfl)
theorem dX6_isSame_21 : decode cX6_isSame 21 = .ok (.aload_n 0, 1) := dk_42 (dk_at dksX6_isSame_0 21 rfl rfl)
theorem dX6_isSame_22 : decode cX6_isSame 22 = .ok (.getfield 143, 3) := dk_180 0 143 (dk_at dksX6_isSame_1 0 rfl rfl)
theorem dX6_isSame_25 : decode cX6_isSame 25 = .ok (.iload_n 2, 1) := dk_28 (dk_at dksX6_isSame_1 3 rfl rfl)
theorem dX6_isSame_26 : decode cX6_isSame 26 = .ok (.iaload, 1) := dk_46 (dk_at dksX6_isSame_1 4 rfl rfl)
theorem dX6_isSame_27 : decode cX6_isSame 27 = .ok (.if_icmp .ne 7, 3) := dk_160 0 7 (dk_at dksX6_isSame_1 5 rfl rfl)
theorem dX6_isSame_30 : decode cX6_isSame 30 = .ok (.iconst 1, 1) := dk_4 (dk_at dksX6_isSame_1 8 rfl rfl)
theorem dX6_isSame_31 : decode cX6_isSame 31 = .ok (.goto 4, 3) := dk_167 0 4 (dk_at dksX6_isSame_1 9 rfl rfl)
theorem dX6_isSame_34 : decode cX6_isSame 34 = .ok (.iconst 0, 1) := dk_3 (dk_at dksX6_isSame_1 12 rfl rfl)
theorem dX6_isSame_35 : decode cX6_isSame 35 = .ok (.istore_n 3, 1) := dk_62 (dk_at dksX6_isSame_1 13 rfl rfl)
theorem dX6_isSame_36 : decode cX6_isSame 36 = .ok (.iload_n 3, 1) := dk_29 (dk_at dksX6_isSame_1 14 rfl rfl)
theorem dX6_isSame_37 : decode cX6_isSame 37 = .ok (.ifCond .eq 57, 3) := dk_153 0 57 (dk_at dksX6_isSame_1 15 rfl rfl)
theorem dX6_isSame_40 : decode cX6_isSame 40 = .ok (.aload_n 0, 1) := dk_42 (dk_at dksX6_isSame_1 18 rfl rfl)
theorem dX6_isSame_41 : decode cX6_isSame 41 = .ok (.getfield 131, 3) := dk_180 0 131 (dk_at dksX6_isSame_1 19 rfl rfl)
theorem dX6_isSame_44 : decode cX6_isSame 44 = .ok (.iload_n 1, 1) := dk_27 (dk_at dksX6_isSame_1 22 rfl rfl)
theorem dX6_isSame_45 : decode cX6_isSame 45 = .ok (.iaload, 1) := dk_46 (dk_at dksX6_isSame_1 23 rfl rfl)
theorem dX6_isSame_46 : decode cX6_isSame 46 = .ok (.iconst 2, 1) := dk_5 (dk_at dksX6_isSame_2 0 rfl rfl)
theorem dX6_isSame_47 : decode cX6_isSame 47 = .ok (.if_icmp .eq 18, 3) := dk_159 0 18 (dk_at dksX6_isSame_2 1 rfl rfl)
theorem dX6_isSame_50 : decode cX6_isSame 50 = .ok (.aload_n 0, 1) := dk_42 (dk_at dksX6_isSame_2 4 rfl rfl)
theorem dX6_isSame_51 : decode cX6_isSame 51 = .ok (.getfield 134, 3) := dk_180 0 134 (dk_at dksX6_isSame_2 5 rfl rfl)
theorem dX6_isSame_54 : decode cX6_isSame 54 = .ok (.iload_n 1, 1) := dk_27 (dk_at dksX6_isSame_2 8 rfl rfl)
theorem dX6_isSame_55 : decode cX6_isSame 55 = .ok (.iaload, 1) := dk_46 (dk_at dksX6_isSame_2 9 rfl rfl)
theorem dX6_isSame_56 : decode cX6_isSame 56 = .ok (.aload_n 0, 1) := dk_42 (dk_at dksX6_isSame_2 10 rfl rfl)
theorem dX6_isSame_57 : decode cX6_isSame 57 = .ok (.getfield 134, 3) := dk_180 0 134 (dk_at dksX6_isSame_2 11 rfl rfl)
theorem dX6_isSame_60 : decode cX6_isSame 60 = .ok (.iload_n 2, 1) := dk_28 (dk_at dksX6_isSame_2 14 rfl rfl)
theorem dX6_isSame_61 : decode cX6_isSame 61 = .ok (.iaload, 1) := dk_46 (dk_at dksX6_isSame_2 15 rfl rfl)
theorem dX6_isSame_62 : decode cX6_isSame 62 = .ok (.if_icmp .ne 32, 3) := dk_160 0 32 (dk_at dksX6_isSame_2 16 rfl rfl)
theorem dX6_isSame_65 : decode cX6_isSame 65 = .ok (.aload_n 0, 1) := dk_42 (dk_at dksX6_isSame_2 19 rfl rfl)
theorem dX6_isSame_66 : decode cX6_isSame 66 = .ok (.getfield 131, 3) := dk_180 0 131 (dk_at dksX6_isSame_2 20 rfl rfl)
theorem dX6_isSame_69 : decode cX6_isSame 69 = .ok (.iload_n 1, 1) := dk_27 (dk_at dksX6_isSame_2 23 rfl rfl)
theorem dX6_isSame_70 : decode cX6_isSame 70 = .ok (.iaload, 1) := dk_46 (dk_at dksX6_isSame_3 0 rfl rfl)
theorem dX6_isSame_71 : decode cX6_isSame 71 = .ok (.iconst 4, 1) := dk_7 (dk_at dksX6_isSame_3 1 rfl rfl)
theorem dX6_isSame_72 : decode cX6_isSame 72 = .ok (.if_icmp .lt 18, 3) := dk_161 0 18 (dk_at dksX6_isSame_3 2 rfl rfl)
theorem dX6_isSame_75 : decode cX6_isSame 75 = .ok (.aload_n 0, 1) := dk_42 (dk_at dksX6_isSame_3 5 rfl rfl)
theorem dX6_isSame_76 : decode cX6_isSame 76 = .ok (.getfield 137, 3) := dk_180 0 137 (dk_at dksX6_isSame_3 6 rfl rfl)
theorem dX6_isSame_79 : decode cX6_isSame 79 = .ok (.iload_n 1, 1) := dk_27 (dk_at dksX6_isSame_3 9 rfl rfl)
theorem dX6_isSame_80 : decode cX6_isSame 80 = .ok (.iaload, 1) := dk_46 (dk_at dksX6_isSame_3 10 rfl rfl)
theorem dX6_isSame_81 : decode cX6_isSame 81 = .ok (.aload_n 0, 1) := dk_42 (dk_at dksX6_isSame_3 11 rfl rfl)
theorem dX6_isSame_82 : decode cX6_isSame 82 = .ok (.getfield 137, 3) := dk_180 0 137 (dk_at dksX6_isSame_3 12 rfl rfl)
theorem dX6_isSame_85 : decode cX6_isSame 85 = .ok (.iload_n 2, 1) := dk_28 (dk_at dksX6_isSame_3 15 rfl rfl)
theorem dX6_isSame_86 : decode cX6_isSame 86 = .ok (.iaload, 1) := dk_46 (dk_at dksX6_isSame_3 16 rfl rfl)
theorem dX6_isSame_87 : decode cX6_isSame 87 = .ok (.if_icmp .ne 7, 3) := dk_160 0 7 (dk_at dksX6_isSame_3 17 rfl rfl)
theorem dX6_isSame_90 : decode cX6_isSame 90 = .ok (.iconst 1, 1) := dk_4 (dk_at dksX6_isSame_3 20 rfl rfl)
theorem dX6_isSame_91 : decode cX6_isSame 91 = .ok (.goto 4, 3) := dk_167 0 4 (dk_at dksX6_isSame_3 21 rfl rfl)
theorem dX6_isSame_94 : decode cX6_isSame 94 = .ok (.iconst 0, 1) := dk_3 (dk_at dksX6_isSame_4 0 rfl rfl)
theorem dX6_isSame_95 : decode cX6_isSame 95 = .ok (.istore_n 3, 1) := dk_62 (dk_at dksX6_isSame_4 1 rfl rfl)
theorem dX6_isSame_96 : decode cX6_isSame 96 = .ok (.iconst 0, 1) := dk_3 (dk_at dksX6_isSame_4 2 rfl rfl)
theorem dX6_isSame_97 : decode cX6_isSame 97 = .ok (.istore 4, 2) := dk_54 4 (dk_at dksX6_isSame_4 3 rfl rfl)
theorem dX6_isSame_99 : decode cX6_isSame 99 = .ok (.iload 4, 2) := dk_21 4 (dk_at dksX6_isSame_4 5 rfl rfl)
theorem dX6_isSame_101 : decode cX6_isSame 101 = .ok (.aload_n 0, 1) := dk_42 (dk_at dksX6_isSame_4 7 rfl rfl)
theorem dX6_isSame_102 : decode cX6_isSame 102 = .ok (.getfield 143, 3) := dk_180 0 143 (dk_at dksX6_isSame_4 8 rfl rfl)
theorem dX6_isSame_105 : decode cX6_isSame 105 = .ok (.iload_n 1, 1) := dk_27 (dk_at dksX6_isSame_4 11 rfl rfl)
theorem dX6_isSame_106 : decode cX6_isSame 106 = .ok (.iaload, 1) := dk_46 (dk_at dksX6_isSame_4 12 rfl rfl)
theorem dX6_isSame_107 : decode cX6_isSame 107 = .ok (.if_icmp .ge 50, 3) := dk_162 0 50 (dk_at dksX6_isSame_4 13 rfl rfl)
theorem dX6_isSame_110 : decode cX6_isSame 110 = .ok (.iload_n 3, 1) := dk_29 (dk_at dksX6_isSame_4 16 rfl rfl)
theorem dX6_isSame_111 : decode cX6_isSame 111 = .ok (.ifCond .eq 46, 3) := dk_153 0 46 (dk_at dksX6_isSame_4 17 rfl rfl)
theorem dX6_isSame_114 : decode cX6_isSame 114 = .ok (.aload_n 0, 1) := dk_42 (dk_at dksX6_isSame_4 20 rfl rfl)
theorem dX6_isSame_115 : decode cX6_isSame 115 = .ok (.getfield 146, 3) := dk_180 0 146 (dk_at dksX6_isSame_4 21 rfl rfl)
theorem dX6_isSame_118 : decode cX6_isSame 118 = .ok (.aload_n 0, 1) := dk_42 (dk_at dksX6_isSame_5 0 rfl rfl)
theorem dX6_isSame_119 : decode cX6_isSame 119 = .ok (.getfield 140, 3) := dk_180 0 140 (dk_at dksX6_isSame_5 1 rfl rfl)
theorem dX6_isSame_122 : decode cX6_isSame 122 = .ok (.iload_n 1, 1) := dk_27 (dk_at dksX6_isSame_5 4 rfl rfl)
theorem dX6_isSame_123 : decode cX6_isSame 123 = .ok (.iaload, 1) := dk_46 (dk_at dksX6_isSame_5 5 rfl rfl)
theorem dX6_isSame_124 : decode cX6_isSame 124 = .ok (.iload 4, 2) := dk_21 4 (dk_at dksX6_isSame_5 6 rfl rfl)
theorem dX6_isSame_126 : decode cX6_isSame 126 = .ok (.iadd, 1) := dk_96 (dk_at dksX6_isSame_5 8 rfl rfl)
theorem dX6_isSame_127 : decode cX6_isSame 127 = .ok (.iaload, 1) := dk_46 (dk_at dksX6_isSame_5 9 rfl rfl)
theorem dX6_isSame_128 : decode cX6_isSame 128 = .ok (.aload_n 0, 1) := dk_42 (dk_at dksX6_isSame_5 10 rfl rfl)
theorem dX6_isSame_129 : decode cX6_isSame 129 = .ok (.getfield 146, 3) := dk_180 0 146 (dk_at dksX6_isSame_5 11 rfl rfl)
theorem dX6_isSame_132 : decode cX6_isSame 132 = .ok (.aload_n 0, 1) := dk_42 (dk_at dksX6_isSame_5 14 rfl rfl)
theorem dX6_isSame_133 : decode cX6_isSame 133 = .ok (.getfield 140, 3) := dk_180 0 140 (dk_at dksX6_isSame_5 15 rfl rfl)
theorem dX6_isSame_136 : decode cX6_isSame 136 = .ok (.iload_n 2, 1) := dk_28 (dk_at dksX6_isSame_5 18 rfl rfl)
theorem dX6_isSame_137 : decode cX6_isSame 137 = .ok (.iaload, 1) := dk_46 (dk_at dksX6_isSame_5 19 rfl rfl)
theorem dX6_isSame_138 : decode cX6_isSame 138 = .ok (.iload 4, 2) := dk_21 4 (dk_at dksX6_isSame_5 20 rfl rfl)
theorem dX6_isSame_140 : decode cX6_isSame 140 = .ok (.iadd, 1) := dk_96 (dk_at dksX6_isSame_5 22 rfl rfl)
theorem dX6_isSame_141 : decode cX6_isSame 141 = .ok (.iaload, 1) := dk_46 (dk_at dksX6_isSame_5 23 rfl rfl)
theorem dX6_isSame_142 : decode cX6_isSame 142 = .ok (.if_icmp .ne 7, 3) := dk_160 0 7 (dk_at dksX6_isSame_6 0 rfl rfl)
theorem dX6_isSame_145 : decode cX6_isSame 145 = .ok (.iconst 1, 1) := dk_4 (dk_at dksX6_isSame_6 3 rfl rfl)
theorem dX6_isSame_146 : decode cX6_isSame 146 = .ok (.goto 4, 3) := dk_167 0 4 (dk_at dksX6_isSame_6 4 rfl rfl)
theorem dX6_isSame_149 : decode cX6_isSame 149 = .ok (.iconst 0, 1) := dk_3 (dk_at dksX6_isSame_6 7 rfl rfl)
theorem dX6_isSame_150 : decode cX6_isSame 150 = .ok (.istore_n 3, 1) := dk_62 (dk_at dksX6_isSame_6 8 rfl rfl)
theorem dX6_isSame_151 : decode cX6_isSame 151 = .ok (.iinc 4 1, 3) := dk_132 4 1 (dk_at dksX6_isSame_6 9 rfl rfl)
theorem dX6_isSame_154 : decode cX6_isSame 154 = .ok (.goto (-55), 3) := dk_167 255 201 (dk_at dksX6_isSame_6 12 rfl rfl)
theorem dX6_isSame_157 : decode cX6_isSame 157 = .ok (.iload_n 3, 1) := dk_29 (dk_at dksX6_isSame_6 15 rfl rfl)
theorem dX6_isSame_158 : decode cX6_isSame 158 = .ok (.ireturn, 1) := dk_172 (dk_at dksX6_isSame_6 16 rfl rfl)
abbrev cX6_missing : ByteArray := prog_23_method_76_code
def yX6_missing : MethodName := ⟨RX6, "missing", "()I"⟩
def dkwX6_missing_3 : List UInt8 := [16, 253, 167, 0, 4, 27, 172]
abbrev dktX6_missing_3 : List UInt8 := dkwX6_missing_3 ++ []
def dkwX6_missing_2 : List UInt8 := [160, 0, 7, 4, 167, 0, 4, 3, 96, 60, 132, 2, 1, 167, 255, 227, 42, 180, 1, 92, 153, 0, 8]
abbrev dktX6_missing_2 : List UInt8 := dkwX6_missing_2 ++ dktX6_missing_3
def dkwX6_missing_1 : List UInt8 := [182, 1, 108, 3, 60, 3, 61, 28, 42, 180, 1, 65, 162, 0, 27, 27, 42, 180, 0, 131, 28, 46, 5]
abbrev dktX6_missing_1 : List UInt8 := dkwX6_missing_1 ++ dktX6_missing_2
def dkwX6_missing_0 : List UInt8 := [42, 42, 180, 0, 231, 154, 0, 7, 4, 167, 0, 4, 3, 182, 0, 183, 153, 0, 5, 3, 172, 42, 5]
abbrev dktX6_missing_0 : List UInt8 := dkwX6_missing_0 ++ dktX6_missing_1
theorem dksX6_missing_0 : cX6_missing.data.toList.drop 0 = dktX6_missing_0 := by decide +kernel
theorem dksX6_missing_1 : cX6_missing.data.toList.drop 23 = dktX6_missing_1 := dk_seg dksX6_missing_0 23 rfl rfl
theorem dksX6_missing_2 : cX6_missing.data.toList.drop 46 = dktX6_missing_2 := dk_seg dksX6_missing_1 23 rfl rfl
theorem dksX6_missing_3 : cX6_missing.data.toList.drop 69 = dktX6_missing_3 := dk_seg dksX6_missing_2 23 rfl rfl
theorem dX6_missing_0 : decode cX6_missing 0 = .ok (.aload_n 0, 1) := dk_42 (dk_at dksX6_missing_0 0 rfl rfl)
theorem dX6_missing_1 : decode cX6_missing 1 = .ok (.aload_n 0, 1) := dk_42 (dk_at dksX6_missing_0 1 rfl rfl)
theorem dX6_missing_2 : decode cX6_missing 2 = .ok (.getfield 231, 3) := dk_180 0 231 (dk_at dksX6_missing_0 2 rfl rfl)
theorem dX6_missing_5 : decode cX6_missing 5 = .ok (.ifCond .ne 7, 3) := dk_154 0 7 (dk_at dksX6_missing_0 5 rfl rfl)
theorem dX6_missing_8 : decode cX6_missing 8 = .ok (.iconst 1, 1) := dk_4 (dk_at dksX6_missing_0 8 rfl rfl)
theorem dX6_missing_9 : decode cX6_missing 9 = .ok (.goto 4, 3) := dk_167 0 4 (dk_at dksX6_missing_0 9 rfl rfl)
theorem dX6_missing_12 : decode cX6_missing 12 = .ok (.iconst 0, 1) := dk_3 (dk_at dksX6_missing_0 12 rfl rfl)
theorem dX6_missing_13 : decode cX6_missing 13 = .ok (.invokevirtual 183, 3) := dk_182 0 183 (dk_at dksX6_missing_0 13 rfl rfl)
theorem dX6_missing_16 : decode cX6_missing 16 = .ok (.ifCond .eq 5, 3) := dk_153 0 5 (dk_at dksX6_missing_0 16 rfl rfl)
theorem dX6_missing_19 : decode cX6_missing 19 = .ok (.iconst 0, 1) := dk_3 (dk_at dksX6_missing_0 19 rfl rfl)
theorem dX6_missing_20 : decode cX6_missing 20 = .ok (.ireturn, 1) := dk_172 (dk_at dksX6_missing_0 20 rfl rfl)
theorem dX6_missing_21 : decode cX6_missing 21 = .ok (.aload_n 0, 1) := dk_42 (dk_at dksX6_missing_0 21 rfl rfl)
theorem dX6_missing_22 : decode cX6_missing 22 = .ok (.iconst 2, 1) := dk_5 (dk_at dksX6_missing_0 22 rfl rfl)
theorem dX6_missing_23 : decode cX6_missing 23 = .ok (.invokevirtual 364, 3) := dk_182 1 108 (dk_at dksX6_missing_1 0 rfl rfl)
theorem dX6_missing_26 : decode cX6_missing 26 = .ok (.iconst 0, 1) := dk_3 (dk_at dksX6_missing_1 3 rfl rfl)
theorem dX6_missing_27 : decode cX6_missing 27 = .ok (.istore_n 1, 1) := dk_60 (dk_at dksX6_missing_1 4 rfl rfl)
theorem dX6_missing_28 : decode cX6_missing 28 = .ok (.iconst 0, 1) := dk_3 (dk_at dksX6_missing_1 5 rfl rfl)
theorem dX6_missing_29 : decode cX6_missing 29 = .ok (.istore_n 2, 1) := dk_61 (dk_at dksX6_missing_1 6 rfl rfl)
theorem dX6_missing_30 : decode cX6_missing 30 = .ok (.iload_n 2, 1) := dk_28 (dk_at dksX6_missing_1 7 rfl rfl)
theorem dX6_missing_31 : decode cX6_missing 31 = .ok (.aload_n 0, 1) := dk_42 (dk_at dksX6_missing_1 8 rfl rfl)
theorem dX6_missing_32 : decode cX6_missing 32 = .ok (.getfield 321, 3) := dk_180 1 65 (dk_at dksX6_missing_1 9 rfl rfl)
theorem dX6_missing_35 : decode cX6_missing 35 = .ok (.if_icmp .ge 27, 3) := dk_162 0 27 (dk_at dksX6_missing_1 12 rfl rfl)
theorem dX6_missing_38 : decode cX6_missing 38 = .ok (.iload_n 1, 1) := dk_27 (dk_at dksX6_missing_1 15 rfl rfl)
theorem dX6_missing_39 : decode cX6_missing 39 = .ok (.aload_n 0, 1) := dk_42 (dk_at dksX6_missing_1 16 rfl rfl)
theorem dX6_missing_40 : decode cX6_missing 40 = .ok (.getfield 131, 3) := dk_180 0 131 (dk_at dksX6_missing_1 17 rfl rfl)
theorem dX6_missing_43 : decode cX6_missing 43 = .ok (.iload_n 2, 1) := dk_28 (dk_at dksX6_missing_1 20 rfl rfl)
theorem dX6_missing_44 : decode cX6_missing 44 = .ok (.iaload, 1) := dk_46 (dk_at dksX6_missing_1 21 rfl rfl)
theorem dX6_missing_45 : decode cX6_missing 45 = .ok (.iconst 2, 1) := dk_5 (dk_at dksX6_missing_1 22 rfl rfl)
theorem dX6_missing_46 : decode cX6_missing 46 = .ok (.if_icmp .ne 7, 3) := dk_160 0 7 (dk_at dksX6_missing_2 0 rfl rfl)
theorem dX6_missing_49 : decode cX6_missing 49 = .ok (.iconst 1, 1) := dk_4 (dk_at dksX6_missing_2 3 rfl rfl)
theorem dX6_missing_50 : decode cX6_missing 50 = .ok (.goto 4, 3) := dk_167 0 4 (dk_at dksX6_missing_2 4 rfl rfl)
theorem dX6_missing_53 : decode cX6_missing 53 = .ok (.iconst 0, 1) := dk_3 (dk_at dksX6_missing_2 7 rfl rfl)
theorem dX6_missing_54 : decode cX6_missing 54 = .ok (.iadd, 1) := dk_96 (dk_at dksX6_missing_2 8 rfl rfl)
theorem dX6_missing_55 : decode cX6_missing 55 = .ok (.istore_n 1, 1) := dk_60 (dk_at dksX6_missing_2 9 rfl rfl)
theorem dX6_missing_56 : decode cX6_missing 56 = .ok (.iinc 2 1, 3) := dk_132 2 1 (dk_at dksX6_missing_2 10 rfl rfl)
theorem dX6_missing_59 : decode cX6_missing 59 = .ok (.goto (-29), 3) := dk_167 255 227 (dk_at dksX6_missing_2 13 rfl rfl)
theorem dX6_missing_62 : decode cX6_missing 62 = .ok (.aload_n 0, 1) := dk_42 (dk_at dksX6_missing_2 16 rfl rfl)
theorem dX6_missing_63 : decode cX6_missing 63 = .ok (.getfield 348, 3) := dk_180 1 92 (dk_at dksX6_missing_2 17 rfl rfl)
theorem dX6_missing_66 : decode cX6_missing 66 = .ok (.ifCond .eq 8, 3) := dk_153 0 8 (dk_at dksX6_missing_2 20 rfl rfl)
theorem dX6_missing_69 : decode cX6_missing 69 = .ok (.bipush (-3), 2) := dk_16 253 (dk_at dksX6_missing_3 0 rfl rfl)
theorem dX6_missing_71 : decode cX6_missing 71 = .ok (.goto 4, 3) := dk_167 0 4 (dk_at dksX6_missing_3 2 rfl rfl)
theorem dX6_missing_74 : decode cX6_missing 74 = .ok (.iload_n 1, 1) := dk_27 (dk_at dksX6_missing_3 5 rfl rfl)
theorem dX6_missing_75 : decode cX6_missing 75 = .ok (.ireturn, 1) := dk_172 (dk_at dksX6_missing_3 6 rfl rfl)
abbrev cX6_example : ByteArray := prog_23_method_78_code
def yX6_example : MethodName := ⟨RX6, "example", "(I)I"⟩
def dkwX6_example_3 : List UInt8 := [167, 0, 8, 42, 27, 182, 1, 49, 62, 29, 16, 247, 160, 0, 8, 16, 252, 167, 0, 4, 29, 172]
abbrev dktX6_example_3 : List UInt8 := dkwX6_example_3 ++ []
def dkwX6_example_2 : List UInt8 := [153, 0, 5, 3, 172, 42, 3, 181, 1, 5, 42, 28, 181, 1, 12, 27, 4, 162, 0, 8, 16, 247]
abbrev dktX6_example_2 : List UInt8 := dkwX6_example_2 ++ dktX6_example_3
def dkwX6_example_1 : List UInt8 := [167, 0, 7, 42, 182, 1, 127, 61, 42, 28, 2, 160, 0, 7, 4, 167, 0, 4, 3, 182, 0, 183]
abbrev dktX6_example_1 : List UInt8 := dkwX6_example_1 ++ dktX6_example_2
def dkwX6_example_0 : List UInt8 := [2, 61, 42, 180, 0, 231, 158, 0, 24, 42, 5, 182, 1, 108, 42, 180, 1, 92, 153, 0, 7, 2]
abbrev dktX6_example_0 : List UInt8 := dkwX6_example_0 ++ dktX6_example_1
theorem dksX6_example_0 : cX6_example.data.toList.drop 0 = dktX6_example_0 := by decide +kernel
theorem dksX6_example_1 : cX6_example.data.toList.drop 22 = dktX6_example_1 := dk_seg dksX6_example_0 22 rfl rfl
theorem dksX6_example_2 : cX6_example.data.toList.drop 44 = dktX6_example_2 := dk_seg dksX6_example_1 22 rfl rfl
theorem dksX6_example_3 : cX6_example.data.toList.drop 66 = dktX6_example_3 := dk_seg dksX6_example_2 22 rfl rfl
theorem dX6_example_0 : decode cX6_example 0 = .ok (.iconst (-1), 1) := dk_2 (dk_at dksX6_example_0 0 rfl rfl)
theorem dX6_example_1 : decode cX6_example 1 = .ok (.istore_n 2, 1) := dk_61 (dk_at dksX6_example_0 1 rfl rfl)
theorem dX6_example_2 : decode cX6_example 2 = .ok (.aload_n 0, 1) := dk_42 (dk_at dksX6_example_0 2 rfl rfl)
theorem dX6_example_3 : decode cX6_example 3 = .ok (.getfield 231, 3) := dk_180 0 231 (dk_at dksX6_example_0 3 rfl rfl)
theorem dX6_example_6 : decode cX6_example 6 = .ok (.ifCond .le 24, 3) := dk_158 0 24 (dk_at dksX6_example_0 6 rfl rfl)
theorem dX6_example_9 : decode cX6_example 9 = .ok (.aload_n 0, 1) := dk_42 (dk_at dksX6_example_0 9 rfl rfl)
theorem dX6_example_10 : decode cX6_example 10 = .ok (.iconst 2, 1) := dk_5 (dk_at dksX6_example_0 10 rfl rfl)
theorem dX6_example_11 : decode cX6_example 11 = .ok (.invokevirtual 364, 3) := dk_182 1 108 (dk_at dksX6_example_0 11 rfl rfl)
theorem dX6_example_14 : decode cX6_example 14 = .ok (.aload_n 0, 1) := dk_42 (dk_at dksX6_example_0 14 rfl rfl)
theorem dX6_example_15 : decode cX6_example 15 = .ok (.getfield 348, 3) := dk_180 1 92 (dk_at dksX6_example_0 15 rfl rfl)
theorem dX6_example_18 : decode cX6_example 18 = .ok (.ifCond .eq 7, 3) := dk_153 0 7 (dk_at dksX6_example_0 18 rfl rfl)
theorem dX6_example_21 : decode cX6_example 21 = .ok (.iconst (-1), 1) := dk_2 (dk_at dksX6_example_0 21 rfl rfl)
theorem dX6_example_22 : decode cX6_example 22 = .ok (.goto 7, 3) := dk_167 0 7 (dk_at dksX6_example_1 0 rfl rfl)
theorem dX6_example_25 : decode cX6_example 25 = .ok (.aload_n 0, 1) := dk_42 (dk_at dksX6_example_1 3 rfl rfl)
theorem dX6_example_26 : decode cX6_example 26 = .ok (.invokevirtual 383, 3) := dk_182 1 127 (dk_at dksX6_example_1 4 rfl rfl)
theorem dX6_example_29 : decode cX6_example 29 = .ok (.istore_n 2, 1) := dk_61 (dk_at dksX6_example_1 7 rfl rfl)
theorem dX6_example_30 : decode cX6_example 30 = .ok (.aload_n 0, 1) := dk_42 (dk_at dksX6_example_1 8 rfl rfl)
theorem dX6_example_31 : decode cX6_example 31 = .ok (.iload_n 2, 1) := dk_28 (dk_at dksX6_example_1 9 rfl rfl)
theorem dX6_example_32 : decode cX6_example 32 = .ok (.iconst (-1), 1) := dk_2 (dk_at dksX6_example_1 10 rfl rfl)
theorem dX6_example_33 : decode cX6_example 33 = .ok (.if_icmp .ne 7, 3) := dk_160 0 7 (dk_at dksX6_example_1 11 rfl rfl)
theorem dX6_example_36 : decode cX6_example 36 = .ok (.iconst 1, 1) := dk_4 (dk_at dksX6_example_1 14 rfl rfl)
theorem dX6_example_37 : decode cX6_example 37 = .ok (.goto 4, 3) := dk_167 0 4 (dk_at dksX6_example_1 15 rfl rfl)
theorem dX6_example_40 : decode cX6_example 40 = .ok (.iconst 0, 1) := dk_3 (dk_at dksX6_example_1 18 rfl rfl)
theorem dX6_example_41 : decode cX6_example 41 = .ok (.invokevirtual 183, 3) := dk_182 0 183 (dk_at dksX6_example_1 19 rfl rfl)
theorem dX6_example_44 : decode cX6_example 44 = .ok (.ifCond .eq 5, 3) := dk_153 0 5 (dk_at dksX6_example_2 0 rfl rfl)
theorem dX6_example_47 : decode cX6_example 47 = .ok (.iconst 0, 1) := dk_3 (dk_at dksX6_example_2 3 rfl rfl)
theorem dX6_example_48 : decode cX6_example 48 = .ok (.ireturn, 1) := dk_172 (dk_at dksX6_example_2 4 rfl rfl)
theorem dX6_example_49 : decode cX6_example 49 = .ok (.aload_n 0, 1) := dk_42 (dk_at dksX6_example_2 5 rfl rfl)
theorem dX6_example_50 : decode cX6_example 50 = .ok (.iconst 0, 1) := dk_3 (dk_at dksX6_example_2 6 rfl rfl)
theorem dX6_example_51 : decode cX6_example 51 = .ok (.putfield 261, 3) := dk_181 1 5 (dk_at dksX6_example_2 7 rfl rfl)
theorem dX6_example_54 : decode cX6_example 54 = .ok (.aload_n 0, 1) := dk_42 (dk_at dksX6_example_2 10 rfl rfl)
theorem dX6_example_55 : decode cX6_example 55 = .ok (.iload_n 2, 1) := dk_28 (dk_at dksX6_example_2 11 rfl rfl)
theorem dX6_example_56 : decode cX6_example 56 = .ok (.putfield 268, 3) := dk_181 1 12 (dk_at dksX6_example_2 12 rfl rfl)
theorem dX6_example_59 : decode cX6_example 59 = .ok (.iload_n 1, 1) := dk_27 (dk_at dksX6_example_2 15 rfl rfl)
theorem dX6_example_60 : decode cX6_example 60 = .ok (.iconst 1, 1) := dk_4 (dk_at dksX6_example_2 16 rfl rfl)
theorem dX6_example_61 : decode cX6_example 61 = .ok (.if_icmp .ge 8, 3) := dk_162 0 8 (dk_at dksX6_example_2 17 rfl rfl)
theorem dX6_example_64 : decode cX6_example 64 = .ok (.bipush (-9), 2) := dk_16 247 (dk_at dksX6_example_2 20 rfl rfl)
theorem dX6_example_66 : decode cX6_example 66 = .ok (.goto 8, 3) := dk_167 0 8 (dk_at dksX6_example_3 0 rfl rfl)
theorem dX6_example_69 : decode cX6_example 69 = .ok (.aload_n 0, 1) := dk_42 (dk_at dksX6_example_3 3 rfl rfl)
theorem dX6_example_70 : decode cX6_example 70 = .ok (.iload_n 1, 1) := dk_27 (dk_at dksX6_example_3 4 rfl rfl)
theorem dX6_example_71 : decode cX6_example 71 = .ok (.invokevirtual 305, 3) := dk_182 1 49 (dk_at dksX6_example_3 5 rfl rfl)
theorem dX6_example_74 : decode cX6_example 74 = .ok (.istore_n 3, 1) := dk_62 (dk_at dksX6_example_3 8 rfl rfl)
theorem dX6_example_75 : decode cX6_example 75 = .ok (.iload_n 3, 1) := dk_29 (dk_at dksX6_example_3 9 rfl rfl)
theorem dX6_example_76 : decode cX6_example 76 = .ok (.bipush (-9), 2) := dk_16 247 (dk_at dksX6_example_3 10 rfl rfl)
theorem dX6_example_78 : decode cX6_example 78 = .ok (.if_icmp .ne 8, 3) := dk_160 0 8 (dk_at dksX6_example_3 12 rfl rfl)
theorem dX6_example_81 : decode cX6_example 81 = .ok (.bipush (-4), 2) := dk_16 252 (dk_at dksX6_example_3 15 rfl rfl)
theorem dX6_example_83 : decode cX6_example 83 = .ok (.goto 4, 3) := dk_167 0 4 (dk_at dksX6_example_3 17 rfl rfl)
theorem dX6_example_86 : decode cX6_example 86 = .ok (.iload_n 3, 1) := dk_29 (dk_at dksX6_example_3 20 rfl rfl)
theorem dX6_example_87 : decode cX6_example 87 = .ok (.ireturn, 1) := dk_172 (dk_at dksX6_example_3 21 rfl rfl)
abbrev cX6_firstMissed : ByteArray := prog_23_method_77_code
def yX6_firstMissed : MethodName := ⟨RX6, "firstMissed", "()I"⟩
def dkwX6_firstMissed_3 : List UInt8 := [167, 255, 194, 2, 172]
abbrev dktX6_firstMissed_3 : List UInt8 := dkwX6_firstMissed_3 ++ []
def dkwX6_firstMissed_2 : List UInt8 := [42, 180, 0, 146, 27, 42, 180, 0, 140, 28, 46, 29, 96, 79, 132, 1, 1, 132, 3, 255, 167, 255, 232]
abbrev dktX6_firstMissed_2 : List UInt8 := dkwX6_firstMissed_2 ++ dktX6_firstMissed_3
def dkwX6_firstMissed_1 : List UInt8 := [180, 0, 131, 28, 46, 5, 160, 0, 5, 28, 172, 42, 180, 0, 143, 28, 46, 4, 100, 62, 29, 155, 0, 26]
abbrev dktX6_firstMissed_1 : List UInt8 := dkwX6_firstMissed_1 ++ dktX6_firstMissed_2
def dkwX6_firstMissed_0 : List UInt8 := [4, 60, 42, 180, 0, 146, 3, 3, 79, 27, 158, 0, 64, 132, 1, 255, 42, 180, 0, 146, 27, 46, 61, 42]
abbrev dktX6_firstMissed_0 : List UInt8 := dkwX6_firstMissed_0 ++ dktX6_firstMissed_1
theorem dksX6_firstMissed_0 : cX6_firstMissed.data.toList.drop 0 = dktX6_firstMissed_0 := by decide +kernel
theorem dksX6_firstMissed_1 : cX6_firstMissed.data.toList.drop 24 = dktX6_firstMissed_1 := dk_seg dksX6_firstMissed_0 24 rfl rfl
theorem dksX6_firstMissed_2 : cX6_firstMissed.data.toList.drop 48 = dktX6_firstMissed_2 := dk_seg dksX6_firstMissed_1 24 rfl rfl
theorem dksX6_firstMissed_3 : cX6_firstMissed.data.toList.drop 71 = dktX6_firstMissed_3 := dk_seg dksX6_firstMissed_2 23 rfl rfl
theorem dX6_firstMissed_0 : decode cX6_firstMissed 0 = .ok (.iconst 1, 1) := dk_4 (dk_at dksX6_firstMissed_0 0 rfl rfl)
theorem dX6_firstMissed_1 : decode cX6_firstMissed 1 = .ok (.istore_n 1, 1) := dk_60 (dk_at dksX6_firstMissed_0 1 rfl rfl)
theorem dX6_firstMissed_2 : decode cX6_firstMissed 2 = .ok (.aload_n 0, 1) := dk_42 (dk_at dksX6_firstMissed_0 2 rfl rfl)
theorem dX6_firstMissed_3 : decode cX6_firstMissed 3 = .ok (.getfield 146, 3) := dk_180 0 146 (dk_at dksX6_firstMissed_0 3 rfl rfl)
theorem dX6_firstMissed_6 : decode cX6_firstMissed 6 = .ok (.iconst 0, 1) := dk_3 (dk_at dksX6_firstMissed_0 6 rfl rfl)
theorem dX6_firstMissed_7 : decode cX6_firstMissed 7 = .ok (.iconst 0, 1) := dk_3 (dk_at dksX6_firstMissed_0 7 rfl rfl)
theorem dX6_firstMissed_8 : decode cX6_firstMissed 8 = .ok (.iastore, 1) := dk_79 (dk_at dksX6_firstMissed_0 8 rfl rfl)
theorem dX6_firstMissed_9 : decode cX6_firstMissed 9 = .ok (.iload_n 1, 1) := dk_27 (dk_at dksX6_firstMissed_0 9 rfl rfl)
theorem dX6_firstMissed_10 : decode cX6_firstMissed 10 = .ok (.ifCond .le 64, 3) := dk_158 0 64 (dk_at dksX6_firstMissed_0 10 rfl rfl)
theorem dX6_firstMissed_13 : decode cX6_firstMissed 13 = .ok (.iinc 1 (-1), 3) := dk_132 1 255 (dk_at dksX6_firstMissed_0 13 rfl rfl)
theorem dX6_firstMissed_16 : decode cX6_firstMissed 16 = .ok (.aload_n 0, 1) := dk_42 (dk_at dksX6_firstMissed_0 16 rfl rfl)
theorem dX6_firstMissed_17 : decode cX6_firstMissed 17 = .ok (.getfield 146, 3) := dk_180 0 146 (dk_at dksX6_firstMissed_0 17 rfl rfl)
theorem dX6_firstMissed_20 : decode cX6_firstMissed 20 = .ok (.iload_n 1, 1) := dk_27 (dk_at dksX6_firstMissed_0 20 rfl rfl)
theorem dX6_firstMissed_21 : decode cX6_firstMissed 21 = .ok (.iaload, 1) := dk_46 (dk_at dksX6_firstMissed_0 21 rfl rfl)
theorem dX6_firstMissed_22 : decode cX6_firstMissed 22 = .ok (.istore_n 2, 1) := dk_61 (dk_at dksX6_firstMissed_0 22 rfl rfl)
theorem dX6_firstMissed_23 : decode cX6_firstMissed 23 = .ok (.aload_n 0, 1) := dk_42 (dk_at dksX6_firstMissed_0 23 rfl rfl)
theorem dX6_firstMissed_24 : decode cX6_firstMissed 24 = .ok (.getfield 131, 3) := dk_180 0 131 (dk_at dksX6_firstMissed_1 0 rfl rfl)
theorem dX6_firstMissed_27 : decode cX6_firstMissed 27 = .ok (.iload_n 2, 1) := dk_28 (dk_at dksX6_firstMissed_1 3 rfl rfl)
theorem dX6_firstMissed_28 : decode cX6_firstMissed 28 = .ok (.iaload, 1) := dk_46 (dk_at dksX6_firstMissed_1 4 rfl rfl)
theorem dX6_firstMissed_29 : decode cX6_firstMissed 29 = .ok (.iconst 2, 1) := dk_5 (dk_at dksX6_firstMissed_1 5 rfl rfl)
theorem dX6_firstMissed_30 : decode cX6_firstMissed 30 = .ok (.if_icmp .ne 5, 3) := dk_160 0 5 (dk_at dksX6_firstMissed_1 6 rfl rfl)
theorem dX6_firstMissed_33 : decode cX6_firstMissed 33 = .ok (.iload_n 2, 1) := dk_28 (dk_at dksX6_firstMissed_1 9 rfl rfl)
theorem dX6_firstMissed_34 : decode cX6_firstMissed 34 = .ok (.ireturn, 1) := dk_172 (dk_at dksX6_firstMissed_1 10 rfl rfl)
theorem dX6_firstMissed_35 : decode cX6_firstMissed 35 = .ok (.aload_n 0, 1) := dk_42 (dk_at dksX6_firstMissed_1 11 rfl rfl)
theorem dX6_firstMissed_36 : decode cX6_firstMissed 36 = .ok (.getfield 143, 3) := dk_180 0 143 (dk_at dksX6_firstMissed_1 12 rfl rfl)
theorem dX6_firstMissed_39 : decode cX6_firstMissed 39 = .ok (.iload_n 2, 1) := dk_28 (dk_at dksX6_firstMissed_1 15 rfl rfl)
theorem dX6_firstMissed_40 : decode cX6_firstMissed 40 = .ok (.iaload, 1) := dk_46 (dk_at dksX6_firstMissed_1 16 rfl rfl)
theorem dX6_firstMissed_41 : decode cX6_firstMissed 41 = .ok (.iconst 1, 1) := dk_4 (dk_at dksX6_firstMissed_1 17 rfl rfl)
theorem dX6_firstMissed_42 : decode cX6_firstMissed 42 = .ok (.isub, 1) := dk_100 (dk_at dksX6_firstMissed_1 18 rfl rfl)
theorem dX6_firstMissed_43 : decode cX6_firstMissed 43 = .ok (.istore_n 3, 1) := dk_62 (dk_at dksX6_firstMissed_1 19 rfl rfl)
theorem dX6_firstMissed_44 : decode cX6_firstMissed 44 = .ok (.iload_n 3, 1) := dk_29 (dk_at dksX6_firstMissed_1 20 rfl rfl)
theorem dX6_firstMissed_45 : decode cX6_firstMissed 45 = .ok (.ifCond .lt 26, 3) := dk_155 0 26 (dk_at dksX6_firstMissed_1 21 rfl rfl)
theorem dX6_firstMissed_48 : decode cX6_firstMissed 48 = .ok (.aload_n 0, 1) := dk_42 (dk_at dksX6_firstMissed_2 0 rfl rfl)
theorem dX6_firstMissed_49 : decode cX6_firstMissed 49 = .ok (.getfield 146, 3) := dk_180 0 146 (dk_at dksX6_firstMissed_2 1 rfl rfl)
theorem dX6_firstMissed_52 : decode cX6_firstMissed 52 = .ok (.iload_n 1, 1) := dk_27 (dk_at dksX6_firstMissed_2 4 rfl rfl)
theorem dX6_firstMissed_53 : decode cX6_firstMissed 53 = .ok (.aload_n 0, 1) := dk_42 (dk_at dksX6_firstMissed_2 5 rfl rfl)
theorem dX6_firstMissed_54 : decode cX6_firstMissed 54 = .ok (.getfield 140, 3) := dk_180 0 140 (dk_at dksX6_firstMissed_2 6 rfl rfl)
theorem dX6_firstMissed_57 : decode cX6_firstMissed 57 = .ok (.iload_n 2, 1) := dk_28 (dk_at dksX6_firstMissed_2 9 rfl rfl)
theorem dX6_firstMissed_58 : decode cX6_firstMissed 58 = .ok (.iaload, 1) := dk_46 (dk_at dksX6_firstMissed_2 10 rfl rfl)
theorem dX6_firstMissed_59 : decode cX6_firstMissed 59 = .ok (.iload_n 3, 1) := dk_29 (dk_at dksX6_firstMissed_2 11 rfl rfl)
theorem dX6_firstMissed_60 : decode cX6_firstMissed 60 = .ok (.iadd, 1) := dk_96 (dk_at dksX6_firstMissed_2 12 rfl rfl)
theorem dX6_firstMissed_61 : decode cX6_firstMissed 61 = .ok (.iastore, 1) := dk_79 (dk_at dksX6_firstMissed_2 13 rfl rfl)
theorem dX6_firstMissed_62 : decode cX6_firstMissed 62 = .ok (.iinc 1 1, 3) := dk_132 1 1 (dk_at dksX6_firstMissed_2 14 rfl rfl)
theorem dX6_firstMissed_65 : decode cX6_firstMissed 65 = .ok (.iinc 3 (-1), 3) := dk_132 3 255 (dk_at dksX6_firstMissed_2 17 rfl rfl)
theorem dX6_firstMissed_68 : decode cX6_firstMissed 68 = .ok (.goto (-24), 3) := dk_167 255 232 (dk_at dksX6_firstMissed_2 20 rfl rfl)
theorem dX6_firstMissed_71 : decode cX6_firstMissed 71 = .ok (.goto (-62), 3) := dk_167 255 194 (dk_at dksX6_firstMissed_3 0 rfl rfl)
theorem dX6_firstMissed_74 : decode cX6_firstMissed 74 = .ok (.iconst (-1), 1) := dk_2 (dk_at dksX6_firstMissed_3 3 rfl rfl)
theorem dX6_firstMissed_75 : decode cX6_firstMissed 75 = .ok (.ireturn, 1) := dk_172 (dk_at dksX6_firstMissed_3 4 rfl rfl)
abbrev cX6_isUsed : ByteArray := prog_23_method_79_code
def yX6_isUsed : MethodName := ⟨RX6, "isUsed", "(I)Z"⟩
def dkwX6_isUsed_4 : List UInt8 := [160, 0, 7, 4, 167, 0, 4, 3, 62, 132, 4, 1, 167, 255, 202, 29, 172]
abbrev dktX6_isUsed_4 : List UInt8 := dkwX6_isUsed_4 ++ []
def dkwX6_isUsed_3 : List UInt8 := [153, 0, 14, 42, 180, 0, 131, 21, 4, 46, 4, 160, 0, 18, 42, 180, 0, 134, 21, 4, 46, 27]
abbrev dktX6_isUsed_3 : List UInt8 := dkwX6_isUsed_3 ++ dktX6_isUsed_4
def dkwX6_isUsed_2 : List UInt8 := [54, 4, 21, 4, 42, 180, 1, 65, 162, 0, 51, 29, 154, 0, 35, 42, 180, 0, 131, 21, 4, 46]
abbrev dktX6_isUsed_2 : List UInt8 := dkwX6_isUsed_2 ++ dktX6_isUsed_3
def dkwX6_isUsed_1 : List UInt8 := [42, 180, 1, 92, 153, 0, 7, 5, 167, 0, 4, 3, 182, 0, 183, 153, 0, 5, 3, 172, 3, 62, 3]
abbrev dktX6_isUsed_1 : List UInt8 := dkwX6_isUsed_1 ++ dktX6_isUsed_2
def dkwX6_isUsed_0 : List UInt8 := [42, 27, 182, 0, 248, 61, 28, 153, 0, 8, 42, 5, 182, 1, 108, 42, 28, 154, 0, 7, 4, 167, 0, 15]
abbrev dktX6_isUsed_0 : List UInt8 := dkwX6_isUsed_0 ++ dktX6_isUsed_1
theorem dksX6_isUsed_0 : cX6_isUsed.data.toList.drop 0 = dktX6_isUsed_0 := by decide +kernel
theorem dksX6_isUsed_1 : cX6_isUsed.data.toList.drop 24 = dktX6_isUsed_1 := dk_seg dksX6_isUsed_0 24 rfl rfl
theorem dksX6_isUsed_2 : cX6_isUsed.data.toList.drop 47 = dktX6_isUsed_2 := dk_seg dksX6_isUsed_1 23 rfl rfl
theorem dksX6_isUsed_3 : cX6_isUsed.data.toList.drop 69 = dktX6_isUsed_3 := dk_seg dksX6_isUsed_2 22 rfl rfl
theorem dksX6_isUsed_4 : cX6_isUsed.data.toList.drop 91 = dktX6_isUsed_4 := dk_seg dksX6_isUsed_3 22 rfl rfl
theorem dX6_isUsed_0 : decode cX6_isUsed 0 = .ok (.aload_n 0, 1) := dk_42 (dk_at dksX6_isUsed_0 0 rfl rfl)
theorem dX6_isUsed_1 : decode cX6_isUsed 1 = .ok (.iload_n 1, 1) := dk_27 (dk_at dksX6_isUsed_0 1 rfl rfl)
theorem dX6_isUsed_2 : decode cX6_isUsed 2 = .ok (.invokevirtual 248, 3) := dk_182 0 248 (dk_at dksX6_isUsed_0 2 rfl rfl)
theorem dX6_isUsed_5 : decode cX6_isUsed 5 = .ok (.istore_n 2, 1) := dk_61 (dk_at dksX6_isUsed_0 5 rfl rfl)
theorem dX6_isUsed_6 : decode cX6_isUsed 6 = .ok (.iload_n 2, 1) := dk_28 (dk_at dksX6_isUsed_0 6 rfl rfl)
theorem dX6_isUsed_7 : decode cX6_isUsed 7 = .ok (.ifCond .eq 8, 3) := dk_153 0 8 (dk_at dksX6_isUsed_0 7 rfl rfl)
theorem dX6_isUsed_10 : decode cX6_isUsed 10 = .ok (.aload_n 0, 1) := dk_42 (dk_at dksX6_isUsed_0 10 rfl rfl)
theorem dX6_isUsed_11 : decode cX6_isUsed 11 = .ok (.iconst 2, 1) := dk_5 (dk_at dksX6_isUsed_0 11 rfl rfl)
theorem dX6_isUsed_12 : decode cX6_isUsed 12 = .ok (.invokevirtual 364, 3) := dk_182 1 108 (dk_at dksX6_isUsed_0 12 rfl rfl)
theorem dX6_isUsed_15 : decode cX6_isUsed 15 = .ok (.aload_n 0, 1) := dk_42 (dk_at dksX6_isUsed_0 15 rfl rfl)
theorem dX6_isUsed_16 : decode cX6_isUsed 16 = .ok (.iload_n 2, 1) := dk_28 (dk_at dksX6_isUsed_0 16 rfl rfl)
theorem dX6_isUsed_17 : decode cX6_isUsed 17 = .ok (.ifCond .ne 7, 3) := dk_154 0 7 (dk_at dksX6_isUsed_0 17 rfl rfl)
theorem dX6_isUsed_20 : decode cX6_isUsed 20 = .ok (.iconst 1, 1) := dk_4 (dk_at dksX6_isUsed_0 20 rfl rfl)
theorem dX6_isUsed_21 : decode cX6_isUsed 21 = .ok (.goto 15, 3) := dk_167 0 15 (dk_at dksX6_isUsed_0 21 rfl rfl)
theorem dX6_isUsed_24 : decode cX6_isUsed 24 = .ok (.aload_n 0, 1) := dk_42 (dk_at dksX6_isUsed_1 0 rfl rfl)
theorem dX6_isUsed_25 : decode cX6_isUsed 25 = .ok (.getfield 348, 3) := dk_180 1 92 (dk_at dksX6_isUsed_1 1 rfl rfl)
theorem dX6_isUsed_28 : decode cX6_isUsed 28 = .ok (.ifCond .eq 7, 3) := dk_153 0 7 (dk_at dksX6_isUsed_1 4 rfl rfl)
theorem dX6_isUsed_31 : decode cX6_isUsed 31 = .ok (.iconst 2, 1) := dk_5 (dk_at dksX6_isUsed_1 7 rfl rfl)
theorem dX6_isUsed_32 : decode cX6_isUsed 32 = .ok (.goto 4, 3) := dk_167 0 4 (dk_at dksX6_isUsed_1 8 rfl rfl)
theorem dX6_isUsed_35 : decode cX6_isUsed 35 = .ok (.iconst 0, 1) := dk_3 (dk_at dksX6_isUsed_1 11 rfl rfl)
theorem dX6_isUsed_36 : decode cX6_isUsed 36 = .ok (.invokevirtual 183, 3) := dk_182 0 183 (dk_at dksX6_isUsed_1 12 rfl rfl)
theorem dX6_isUsed_39 : decode cX6_isUsed 39 = .ok (.ifCond .eq 5, 3) := dk_153 0 5 (dk_at dksX6_isUsed_1 15 rfl rfl)
theorem dX6_isUsed_42 : decode cX6_isUsed 42 = .ok (.iconst 0, 1) := dk_3 (dk_at dksX6_isUsed_1 18 rfl rfl)
theorem dX6_isUsed_43 : decode cX6_isUsed 43 = .ok (.ireturn, 1) := dk_172 (dk_at dksX6_isUsed_1 19 rfl rfl)
theorem dX6_isUsed_44 : decode cX6_isUsed 44 = .ok (.iconst 0, 1) := dk_3 (dk_at dksX6_isUsed_1 20 rfl rfl)
theorem dX6_isUsed_45 : decode cX6_isUsed 45 = .ok (.istore_n 3, 1) := dk_62 (dk_at dksX6_isUsed_1 21 rfl rfl)
theorem dX6_isUsed_46 : decode cX6_isUsed 46 = .ok (.iconst 0, 1) := dk_3 (dk_at dksX6_isUsed_1 22 rfl rfl)
theorem dX6_isUsed_47 : decode cX6_isUsed 47 = .ok (.istore 4, 2) := dk_54 4 (dk_at dksX6_isUsed_2 0 rfl rfl)
theorem dX6_isUsed_49 : decode cX6_isUsed 49 = .ok (.iload 4, 2) := dk_21 4 (dk_at dksX6_isUsed_2 2 rfl rfl)
theorem dX6_isUsed_51 : decode cX6_isUsed 51 = .ok (.aload_n 0, 1) := dk_42 (dk_at dksX6_isUsed_2 4 rfl rfl)
theorem dX6_isUsed_52 : decode cX6_isUsed 52 = .ok (.getfield 321, 3) := dk_180 1 65 (dk_at dksX6_isUsed_2 5 rfl rfl)
theorem dX6_isUsed_55 : decode cX6_isUsed 55 = .ok (.if_icmp .ge 51, 3) := dk_162 0 51 (dk_at dksX6_isUsed_2 8 rfl rfl)
theorem dX6_isUsed_58 : decode cX6_isUsed 58 = .ok (.iload_n 3, 1) := dk_29 (dk_at dksX6_isUsed_2 11 rfl rfl)
theorem dX6_isUsed_59 : decode cX6_isUsed 59 = .ok (.ifCond .ne 35, 3) := dk_154 0 35 (dk_at dksX6_isUsed_2 12 rfl rfl)
theorem dX6_isUsed_62 : decode cX6_isUsed 62 = .ok (.aload_n 0, 1) := dk_42 (dk_at dksX6_isUsed_2 15 rfl rfl)
theorem dX6_isUsed_63 : decode cX6_isUsed 63 = .ok (.getfield 131, 3) := dk_180 0 131 (dk_at dksX6_isUsed_2 16 rfl rfl)
theorem dX6_isUsed_66 : decode cX6_isUsed 66 = .ok (.iload 4, 2) := dk_21 4 (dk_at dksX6_isUsed_2 19 rfl rfl)
theorem dX6_isUsed_68 : decode cX6_isUsed 68 = .ok (.iaload, 1) := dk_46 (dk_at dksX6_isUsed_2 21 rfl rfl)
theorem dX6_isUsed_69 : decode cX6_isUsed 69 = .ok (.ifCond .eq 14, 3) := dk_153 0 14 (dk_at dksX6_isUsed_3 0 rfl rfl)
theorem dX6_isUsed_72 : decode cX6_isUsed 72 = .ok (.aload_n 0, 1) := dk_42 (dk_at dksX6_isUsed_3 3 rfl rfl)
theorem dX6_isUsed_73 : decode cX6_isUsed 73 = .ok (.getfield 131, 3) := dk_180 0 131 (dk_at dksX6_isUsed_3 4 rfl rfl)
theorem dX6_isUsed_76 : decode cX6_isUsed 76 = .ok (.iload 4, 2) := dk_21 4 (dk_at dksX6_isUsed_3 7 rfl rfl)
theorem dX6_isUsed_78 : decode cX6_isUsed 78 = .ok (.iaload, 1) := dk_46 (dk_at dksX6_isUsed_3 9 rfl rfl)
theorem dX6_isUsed_79 : decode cX6_isUsed 79 = .ok (.iconst 1, 1) := dk_4 (dk_at dksX6_isUsed_3 10 rfl rfl)
theorem dX6_isUsed_80 : decode cX6_isUsed 80 = .ok (.if_icmp .ne 18, 3) := dk_160 0 18 (dk_at dksX6_isUsed_3 11 rfl rfl)
theorem dX6_isUsed_83 : decode cX6_isUsed 83 = .ok (.aload_n 0, 1) := dk_42 (dk_at dksX6_isUsed_3 14 rfl rfl)
theorem dX6_isUsed_84 : decode cX6_isUsed 84 = .ok (.getfield 134, 3) := dk_180 0 134 (dk_at dksX6_isUsed_3 15 rfl rfl)
theorem dX6_isUsed_87 : decode cX6_isUsed 87 = .ok (.iload 4, 2) := dk_21 4 (dk_at dksX6_isUsed_3 18 rfl rfl)
theorem dX6_isUsed_89 : decode cX6_isUsed 89 = .ok (.iaload, 1) := dk_46 (dk_at dksX6_isUsed_3 20 rfl rfl)
theorem dX6_isUsed_90 : decode cX6_isUsed 90 = .ok (.iload_n 1, 1) := dk_27 (dk_at dksX6_isUsed_3 21 rfl rfl)
theorem dX6_isUsed_91 : decode cX6_isUsed 91 = .ok (.if_icmp .ne 7, 3) := dk_160 0 7 (dk_at dksX6_isUsed_4 0 rfl rfl)
theorem dX6_isUsed_94 : decode cX6_isUsed 94 = .ok (.iconst 1, 1) := dk_4 (dk_at dksX6_isUsed_4 3 rfl rfl)
theorem dX6_isUsed_95 : decode cX6_isUsed 95 = .ok (.goto 4, 3) := dk_167 0 4 (dk_at dksX6_isUsed_4 4 rfl rfl)
theorem dX6_isUsed_98 : decode cX6_isUsed 98 = .ok (.iconst 0, 1) := dk_3 (dk_at dksX6_isUsed_4 7 rfl rfl)
theorem dX6_isUsed_99 : decode cX6_isUsed 99 = .ok (.istore_n 3, 1) := dk_62 (dk_at dksX6_isUsed_4 8 rfl rfl)
theorem dX6_isUsed_100 : decode cX6_isUsed 100 = .ok (.iinc 4 1, 3) := dk_132 4 1 (dk_at dksX6_isUsed_4 9 rfl rfl)
theorem dX6_isUsed_103 : decode cX6_isUsed 103 = .ok (.goto (-54), 3) := dk_167 255 202 (dk_at dksX6_isUsed_4 12 rfl rfl)
theorem dX6_isUsed_106 : decode cX6_isUsed 106 = .ok (.iload_n 3, 1) := dk_29 (dk_at dksX6_isUsed_4 15 rfl rfl)
theorem dX6_isUsed_107 : decode cX6_isUsed 107 = .ok (.ireturn, 1) := dk_172 (dk_at dksX6_isUsed_4 16 rfl rfl)
theorem q108 : (Jvm.Cond.initialized "PatternforgeModel") ∈ lw_all := lw_g (lw_at lw_m1 13 rfl) rfl
theorem q378 : (Jvm.Cond.selects "PatternforgeModel" ({ cls := "java/lang/Object", name := "getClass", desc := "()Ljava/lang/Class;" } : Jvm.MethodName) ({ cls := "java/lang/Object", name := "getClass", desc := "()Ljava/lang/Class;" } : Jvm.MethodName)) ∈ lw_all := lw_g (lw_at lw_m2 43 rfl) rfl
theorem q1759 : (Jvm.Cond.instantiable "PatternforgeModel" (69 : Nat)) ∈ lw_all := lw_g (lw_at lw_m7 224 rfl) rfl
theorem q1761 : (Jvm.Cond.instanceMethod ({ cls := "PatternforgeModel", name := "<init>", desc := "()V" } : Jvm.MethodName)) ∈ lw_all := lw_g (lw_at lw_m7 226 rfl) rfl
theorem q1762 : (Jvm.Cond.code ({ cls := "PatternforgeModel", name := "<init>", desc := "()V" } : Jvm.MethodName) prog_23_method_1_code (2 : Nat) (Option.none : Option Jvm.ClassFile.FieldType)) ∈ lw_all := lw_g (lw_at lw_m7 227 rfl) rfl
theorem q1763 : (Jvm.Cond.methodLink "PatternforgeModel" (1 : Nat) ({ cls := "java/lang/Object", name := "<init>", desc := "()V" } : Jvm.MethodName)) ∈ lw_all := lw_g (lw_at lw_m7 228 rfl) rfl
theorem q1764 : (Jvm.Cond.fieldLink "PatternforgeModel" (168 : Nat) "PatternforgeModel" "refusal" "I") ∈ lw_all := lw_g (lw_at lw_m7 229 rfl) rfl
theorem q1765 : (Jvm.Cond.fieldLink "PatternforgeModel" (7 : Nat) "PatternforgeModel" "constructors" "[I") ∈ lw_all := lw_g (lw_at lw_m7 230 rfl) rfl
theorem q1766 : (Jvm.Cond.fieldLink "PatternforgeModel" (13 : Nat) "PatternforgeModel" "fieldCount" "[I") ∈ lw_all := lw_g (lw_at lw_m7 231 rfl) rfl
theorem q1767 : (Jvm.Cond.fieldLink "PatternforgeModel" (16 : Nat) "PatternforgeModel" "fieldKind" "[I") ∈ lw_all := lw_g (lw_at lw_m7 232 rfl) rfl
theorem q1768 : (Jvm.Cond.fieldLink "PatternforgeModel" (186 : Nat) "PatternforgeModel" "values" "I") ∈ lw_all := lw_g (lw_at lw_m7 233 rfl) rfl
theorem q1769 : (Jvm.Cond.fieldLink "PatternforgeModel" (19 : Nat) "PatternforgeModel" "valueKind" "[I") ∈ lw_all := lw_g (lw_at lw_m7 234 rfl) rfl
theorem q1770 : (Jvm.Cond.fieldLink "PatternforgeModel" (22 : Nat) "PatternforgeModel" "valueHead" "[I") ∈ lw_all := lw_g (lw_at lw_m7 235 rfl) rfl
theorem q1771 : (Jvm.Cond.fieldLink "PatternforgeModel" (25 : Nat) "PatternforgeModel" "valueParts" "[I") ∈ lw_all := lw_g (lw_at lw_m7 236 rfl) rfl
theorem q1772 : (Jvm.Cond.fieldLink "PatternforgeModel" (28 : Nat) "PatternforgeModel" "measures" "[I") ∈ lw_all := lw_g (lw_at lw_m7 237 rfl) rfl
theorem q1773 : (Jvm.Cond.fieldLink "PatternforgeModel" (197 : Nat) "PatternforgeModel" "patterns" "I") ∈ lw_all := lw_g (lw_at lw_m7 238 rfl) rfl
theorem q1774 : (Jvm.Cond.fieldLink "PatternforgeModel" (31 : Nat) "PatternforgeModel" "forms" "[I") ∈ lw_all := lw_g (lw_at lw_m7 239 rfl) rfl
theorem q1775 : (Jvm.Cond.fieldLink "PatternforgeModel" (34 : Nat) "PatternforgeModel" "heads" "[I") ∈ lw_all := lw_g (lw_at lw_m8 0 rfl) rfl
theorem q1776 : (Jvm.Cond.fieldLink "PatternforgeModel" (37 : Nat) "PatternforgeModel" "rests" "[I") ∈ lw_all := lw_g (lw_at lw_m8 1 rfl) rfl
theorem q1777 : (Jvm.Cond.fieldLink "PatternforgeModel" (40 : Nat) "PatternforgeModel" "parts" "[I") ∈ lw_all := lw_g (lw_at lw_m8 2 rfl) rfl
theorem q1778 : (Jvm.Cond.fieldLink "PatternforgeModel" (43 : Nat) "PatternforgeModel" "kinds" "[I") ∈ lw_all := lw_g (lw_at lw_m8 3 rfl) rfl
theorem q1779 : (Jvm.Cond.fieldLink "PatternforgeModel" (46 : Nat) "PatternforgeModel" "depths" "[I") ∈ lw_all := lw_g (lw_at lw_m8 4 rfl) rfl
theorem q1780 : (Jvm.Cond.fieldLink "PatternforgeModel" (49 : Nat) "PatternforgeModel" "sizes" "[I") ∈ lw_all := lw_g (lw_at lw_m8 5 rfl) rfl
theorem q1781 : (Jvm.Cond.fieldLink "PatternforgeModel" (52 : Nat) "PatternforgeModel" "names" "[I") ∈ lw_all := lw_g (lw_at lw_m8 6 rfl) rfl
theorem q1782 : (Jvm.Cond.fieldLink "PatternforgeModel" (55 : Nat) "PatternforgeModel" "hasView" "[Z") ∈ lw_all := lw_g (lw_at lw_m8 7 rfl) rfl
theorem q1783 : (Jvm.Cond.fieldLink "PatternforgeModel" (59 : Nat) "PatternforgeModel" "isBare" "[Z") ∈ lw_all := lw_g (lw_at lw_m8 8 rfl) rfl
theorem q1784 : (Jvm.Cond.fieldLink "PatternforgeModel" (62 : Nat) "PatternforgeModel" "viewNumbers" "[I") ∈ lw_all := lw_g (lw_at lw_m8 9 rfl) rfl
theorem q1785 : (Jvm.Cond.fieldLink "PatternforgeModel" (231 : Nat) "PatternforgeModel" "columns" "I") ∈ lw_all := lw_g (lw_at lw_m8 10 rfl) rfl
theorem q1786 : (Jvm.Cond.fieldLink "PatternforgeModel" (65 : Nat) "PatternforgeModel" "columnKinds" "[I") ∈ lw_all := lw_g (lw_at lw_m8 11 rfl) rfl
theorem q1787 : (Jvm.Cond.fieldLink "PatternforgeModel" (228 : Nat) "PatternforgeModel" "cases" "I") ∈ lw_all := lw_g (lw_at lw_m8 12 rfl) rfl
theorem q1788 : (Jvm.Cond.fieldLink "PatternforgeModel" (68 : Nat) "PatternforgeModel" "casePatterns" "[I") ∈ lw_all := lw_g (lw_at lw_m8 13 rfl) rfl
theorem q1789 : (Jvm.Cond.fieldLink "PatternforgeModel" (71 : Nat) "PatternforgeModel" "results" "[I") ∈ lw_all := lw_g (lw_at lw_m8 14 rfl) rfl
theorem q1790 : (Jvm.Cond.fieldLink "PatternforgeModel" (74 : Nat) "PatternforgeModel" "guards" "[I") ∈ lw_all := lw_g (lw_at lw_m8 15 rfl) rfl
theorem q1791 : (Jvm.Cond.fieldLink "PatternforgeModel" (77 : Nat) "PatternforgeModel" "guardNames" "[I") ∈ lw_all := lw_g (lw_at lw_m8 16 rfl) rfl
theorem q1792 : (Jvm.Cond.fieldLink "PatternforgeModel" (80 : Nat) "PatternforgeModel" "guardNumbers" "[I") ∈ lw_all := lw_g (lw_at lw_m8 17 rfl) rfl
theorem q1793 : (Jvm.Cond.fieldLink "PatternforgeModel" (83 : Nat) "PatternforgeModel" "takens" "[I") ∈ lw_all := lw_g (lw_at lw_m8 18 rfl) rfl
theorem q1794 : (Jvm.Cond.fieldLink "PatternforgeModel" (86 : Nat) "PatternforgeModel" "wait" "[I") ∈ lw_all := lw_g (lw_at lw_m8 19 rfl) rfl
theorem q1795 : (Jvm.Cond.fieldLink "PatternforgeModel" (89 : Nat) "PatternforgeModel" "waitKinds" "[I") ∈ lw_all := lw_g (lw_at lw_m8 20 rfl) rfl
theorem q1796 : (Jvm.Cond.fieldLink "PatternforgeModel" (92 : Nat) "PatternforgeModel" "heap" "[I") ∈ lw_all := lw_g (lw_at lw_m8 21 rfl) rfl
theorem q1797 : (Jvm.Cond.fieldLink "PatternforgeModel" (95 : Nat) "PatternforgeModel" "heapPlaces" "[I") ∈ lw_all := lw_g (lw_at lw_m8 22 rfl) rfl
theorem q1798 : (Jvm.Cond.fieldLink "PatternforgeModel" (274 : Nat) "PatternforgeModel" "top" "I") ∈ lw_all := lw_g (lw_at lw_m8 23 rfl) rfl
theorem q1799 : (Jvm.Cond.fieldLink "PatternforgeModel" (98 : Nat) "PatternforgeModel" "choiceTops" "[I") ∈ lw_all := lw_g (lw_at lw_m8 24 rfl) rfl
theorem q1800 : (Jvm.Cond.fieldLink "PatternforgeModel" (101 : Nat) "PatternforgeModel" "choicePatterns" "[I") ∈ lw_all := lw_g (lw_at lw_m8 25 rfl) rfl
theorem q1801 : (Jvm.Cond.fieldLink "PatternforgeModel" (104 : Nat) "PatternforgeModel" "choicePlaces" "[I") ∈ lw_all := lw_g (lw_at lw_m8 26 rfl) rfl
theorem q1802 : (Jvm.Cond.fieldLink "PatternforgeModel" (277 : Nat) "PatternforgeModel" "choices" "I") ∈ lw_all := lw_g (lw_at lw_m8 27 rfl) rfl
theorem q1803 : (Jvm.Cond.fieldLink "PatternforgeModel" (107 : Nat) "PatternforgeModel" "binds" "[I") ∈ lw_all := lw_g (lw_at lw_m8 28 rfl) rfl
theorem q1804 : (Jvm.Cond.fieldLink "PatternforgeModel" (261 : Nat) "PatternforgeModel" "isReal" "Z") ∈ lw_all := lw_g (lw_at lw_m8 29 rfl) rfl
theorem q1805 : (Jvm.Cond.fieldLink "PatternforgeModel" (268 : Nat) "PatternforgeModel" "knownAt" "I") ∈ lw_all := lw_g (lw_at lw_m8 30 rfl) rfl
theorem q1806 : (Jvm.Cond.fieldLink "PatternforgeModel" (283 : Nat) "PatternforgeModel" "askedKind" "I") ∈ lw_all := lw_g (lw_at lw_m8 31 rfl) rfl
theorem q1807 : (Jvm.Cond.fieldLink "PatternforgeModel" (302 : Nat) "PatternforgeModel" "askedWhat" "I") ∈ lw_all := lw_g (lw_at lw_m8 32 rfl) rfl
theorem q1808 : (Jvm.Cond.fieldLink "PatternforgeModel" (286 : Nat) "PatternforgeModel" "askedPlace" "I") ∈ lw_all := lw_g (lw_at lw_m8 33 rfl) rfl
theorem q1809 : (Jvm.Cond.fieldLink "PatternforgeModel" (110 : Nat) "PatternforgeModel" "way" "[I") ∈ lw_all := lw_g (lw_at lw_m8 34 rfl) rfl
theorem q1810 : (Jvm.Cond.fieldLink "PatternforgeModel" (113 : Nat) "PatternforgeModel" "given" "[I") ∈ lw_all := lw_g (lw_at lw_m8 35 rfl) rfl
theorem q1811 : (Jvm.Cond.fieldLink "PatternforgeModel" (234 : Nat) "PatternforgeModel" "tests" "I") ∈ lw_all := lw_g (lw_at lw_m8 36 rfl) rfl
theorem q1812 : (Jvm.Cond.fieldLink "PatternforgeModel" (237 : Nat) "PatternforgeModel" "ran" "I") ∈ lw_all := lw_g (lw_at lw_m8 37 rfl) rfl
theorem q1813 : (Jvm.Cond.fieldLink "PatternforgeModel" (116 : Nat) "PatternforgeModel" "ranViews" "[I") ∈ lw_all := lw_g (lw_at lw_m8 38 rfl) rfl
theorem q1814 : (Jvm.Cond.fieldLink "PatternforgeModel" (119 : Nat) "PatternforgeModel" "ranPlaces" "[I") ∈ lw_all := lw_g (lw_at lw_m8 39 rfl) rfl
theorem q1815 : (Jvm.Cond.fieldLink "PatternforgeModel" (122 : Nat) "PatternforgeModel" "ranGave" "[I") ∈ lw_all := lw_g (lw_at lw_m8 40 rfl) rfl
theorem q1816 : (Jvm.Cond.fieldLink "PatternforgeModel" (165 : Nat) "PatternforgeModel" "ended" "I") ∈ lw_all := lw_g (lw_at lw_m8 41 rfl) rfl
theorem q1817 : (Jvm.Cond.fieldLink "PatternforgeModel" (125 : Nat) "PatternforgeModel" "lastBinds" "[I") ∈ lw_all := lw_g (lw_at lw_m8 42 rfl) rfl
theorem q1818 : (Jvm.Cond.fieldLink "PatternforgeModel" (161 : Nat) "PatternforgeModel" "built" "I") ∈ lw_all := lw_g (lw_at lw_m8 43 rfl) rfl
theorem q1819 : (Jvm.Cond.fieldLink "PatternforgeModel" (348 : Nat) "PatternforgeModel" "isLarge" "Z") ∈ lw_all := lw_g (lw_at lw_m8 44 rfl) rfl
theorem q1820 : (Jvm.Cond.fieldLink "PatternforgeModel" (321 : Nat) "PatternforgeModel" "nodes" "I") ∈ lw_all := lw_g (lw_at lw_m8 45 rfl) rfl
theorem q1821 : (Jvm.Cond.fieldLink "PatternforgeModel" (128 : Nat) "PatternforgeModel" "above" "[I") ∈ lw_all := lw_g (lw_at lw_m8 46 rfl) rfl
theorem q1822 : (Jvm.Cond.fieldLink "PatternforgeModel" (131 : Nat) "PatternforgeModel" "asks" "[I") ∈ lw_all := lw_g (lw_at lw_m8 47 rfl) rfl
theorem q1823 : (Jvm.Cond.fieldLink "PatternforgeModel" (134 : Nat) "PatternforgeModel" "askWhats" "[I") ∈ lw_all := lw_g (lw_at lw_m8 48 rfl) rfl
theorem q1824 : (Jvm.Cond.fieldLink "PatternforgeModel" (137 : Nat) "PatternforgeModel" "askPlaces" "[I") ∈ lw_all := lw_g (lw_at lw_m8 49 rfl) rfl
theorem q1825 : (Jvm.Cond.fieldLink "PatternforgeModel" (140 : Nat) "PatternforgeModel" "firsts" "[I") ∈ lw_all := lw_g (lw_at lw_m8 50 rfl) rfl
theorem q1826 : (Jvm.Cond.fieldLink "PatternforgeModel" (143 : Nat) "PatternforgeModel" "behinds" "[I") ∈ lw_all := lw_g (lw_at lw_m8 51 rfl) rfl
theorem q1827 : (Jvm.Cond.fieldLink "PatternforgeModel" (146 : Nat) "PatternforgeModel" "classes" "[I") ∈ lw_all := lw_g (lw_at lw_m8 52 rfl) rfl
theorem q1828 : (Jvm.Cond.fieldLink "PatternforgeModel" (149 : Nat) "PatternforgeModel" "needPlaces" "[I") ∈ lw_all := lw_g (lw_at lw_m8 53 rfl) rfl
theorem q1829 : (Jvm.Cond.fieldLink "PatternforgeModel" (152 : Nat) "PatternforgeModel" "needCounts" "[I") ∈ lw_all := lw_g (lw_at lw_m8 54 rfl) rfl
theorem q1830 : (Jvm.Cond.fieldLink "PatternforgeModel" (155 : Nat) "PatternforgeModel" "needCase" "[I") ∈ lw_all := lw_g (lw_at lw_m8 55 rfl) rfl
theorem q1831 : (Jvm.Cond.fieldLink "PatternforgeModel" (324 : Nat) "PatternforgeModel" "needs" "I") ∈ lw_all := lw_g (lw_at lw_m8 56 rfl) rfl
theorem q1832 : (Jvm.Cond.fieldLink "PatternforgeModel" (158 : Nat) "PatternforgeModel" "waitPlaces" "[I") ∈ lw_all := lw_g (lw_at lw_m8 57 rfl) rfl
theorem q1833 : (Jvm.Cond.lays "PatternforgeModel" "PatternforgeModel" "refusal" "I") ∈ lw_all := lw_g (lw_at lw_m8 58 rfl) rfl
theorem q1834 : (Jvm.Cond.soleField "PatternforgeModel" "refusal") ∈ lw_all := lw_g (lw_at lw_m8 59 rfl) rfl
theorem q1835 : (Jvm.Cond.laysFinal "PatternforgeModel" "PatternforgeModel" "constructors" "[I") ∈ lw_all := lw_g (lw_at lw_m8 60 rfl) rfl
theorem q1836 : (Jvm.Cond.soleField "PatternforgeModel" "constructors") ∈ lw_all := lw_g (lw_at lw_m8 61 rfl) rfl
theorem q1837 : (Jvm.Cond.laysFinal "PatternforgeModel" "PatternforgeModel" "fieldCount" "[I") ∈ lw_all := lw_g (lw_at lw_m8 62 rfl) rfl
theorem q1838 : (Jvm.Cond.soleField "PatternforgeModel" "fieldCount") ∈ lw_all := lw_g (lw_at lw_m8 63 rfl) rfl
theorem q1839 : (Jvm.Cond.laysFinal "PatternforgeModel" "PatternforgeModel" "fieldKind" "[I") ∈ lw_all := lw_g (lw_at lw_m8 64 rfl) rfl
theorem q1840 : (Jvm.Cond.soleField "PatternforgeModel" "fieldKind") ∈ lw_all := lw_g (lw_at lw_m8 65 rfl) rfl
theorem q1841 : (Jvm.Cond.lays "PatternforgeModel" "PatternforgeModel" "values" "I") ∈ lw_all := lw_g (lw_at lw_m8 66 rfl) rfl
theorem q1842 : (Jvm.Cond.soleField "PatternforgeModel" "values") ∈ lw_all := lw_g (lw_at lw_m8 67 rfl) rfl
theorem q1843 : (Jvm.Cond.laysFinal "PatternforgeModel" "PatternforgeModel" "valueKind" "[I") ∈ lw_all := lw_g (lw_at lw_m8 68 rfl) rfl
theorem q1844 : (Jvm.Cond.soleField "PatternforgeModel" "valueKind") ∈ lw_all := lw_g (lw_at lw_m8 69 rfl) rfl
theorem q1845 : (Jvm.Cond.laysFinal "PatternforgeModel" "PatternforgeModel" "valueHead" "[I") ∈ lw_all := lw_g (lw_at lw_m8 70 rfl) rfl
theorem q1846 : (Jvm.Cond.soleField "PatternforgeModel" "valueHead") ∈ lw_all := lw_g (lw_at lw_m8 71 rfl) rfl
theorem q1847 : (Jvm.Cond.laysFinal "PatternforgeModel" "PatternforgeModel" "valueParts" "[I") ∈ lw_all := lw_g (lw_at lw_m8 72 rfl) rfl
theorem q1848 : (Jvm.Cond.soleField "PatternforgeModel" "valueParts") ∈ lw_all := lw_g (lw_at lw_m8 73 rfl) rfl
theorem q1849 : (Jvm.Cond.laysFinal "PatternforgeModel" "PatternforgeModel" "measures" "[I") ∈ lw_all := lw_g (lw_at lw_m8 74 rfl) rfl
theorem q1850 : (Jvm.Cond.soleField "PatternforgeModel" "measures") ∈ lw_all := lw_g (lw_at lw_m8 75 rfl) rfl
theorem q1851 : (Jvm.Cond.lays "PatternforgeModel" "PatternforgeModel" "patterns" "I") ∈ lw_all := lw_g (lw_at lw_m8 76 rfl) rfl
theorem q1852 : (Jvm.Cond.soleField "PatternforgeModel" "patterns") ∈ lw_all := lw_g (lw_at lw_m8 77 rfl) rfl
theorem q1853 : (Jvm.Cond.laysFinal "PatternforgeModel" "PatternforgeModel" "forms" "[I") ∈ lw_all := lw_g (lw_at lw_m8 78 rfl) rfl
theorem q1854 : (Jvm.Cond.soleField "PatternforgeModel" "forms") ∈ lw_all := lw_g (lw_at lw_m8 79 rfl) rfl
theorem q1855 : (Jvm.Cond.laysFinal "PatternforgeModel" "PatternforgeModel" "heads" "[I") ∈ lw_all := lw_g (lw_at lw_m8 80 rfl) rfl
theorem q1856 : (Jvm.Cond.soleField "PatternforgeModel" "heads") ∈ lw_all := lw_g (lw_at lw_m8 81 rfl) rfl
theorem q1857 : (Jvm.Cond.laysFinal "PatternforgeModel" "PatternforgeModel" "rests" "[I") ∈ lw_all := lw_g (lw_at lw_m8 82 rfl) rfl
theorem q1858 : (Jvm.Cond.soleField "PatternforgeModel" "rests") ∈ lw_all := lw_g (lw_at lw_m8 83 rfl) rfl
theorem q1859 : (Jvm.Cond.laysFinal "PatternforgeModel" "PatternforgeModel" "parts" "[I") ∈ lw_all := lw_g (lw_at lw_m8 84 rfl) rfl
theorem q1860 : (Jvm.Cond.soleField "PatternforgeModel" "parts") ∈ lw_all := lw_g (lw_at lw_m8 85 rfl) rfl
theorem q1861 : (Jvm.Cond.laysFinal "PatternforgeModel" "PatternforgeModel" "kinds" "[I") ∈ lw_all := lw_g (lw_at lw_m8 86 rfl) rfl
theorem q1862 : (Jvm.Cond.soleField "PatternforgeModel" "kinds") ∈ lw_all := lw_g (lw_at lw_m8 87 rfl) rfl
theorem q1863 : (Jvm.Cond.laysFinal "PatternforgeModel" "PatternforgeModel" "depths" "[I") ∈ lw_all := lw_g (lw_at lw_m8 88 rfl) rfl
theorem q1864 : (Jvm.Cond.soleField "PatternforgeModel" "depths") ∈ lw_all := lw_g (lw_at lw_m8 89 rfl) rfl
theorem q1865 : (Jvm.Cond.laysFinal "PatternforgeModel" "PatternforgeModel" "sizes" "[I") ∈ lw_all := lw_g (lw_at lw_m8 90 rfl) rfl
theorem q1866 : (Jvm.Cond.soleField "PatternforgeModel" "sizes") ∈ lw_all := lw_g (lw_at lw_m8 91 rfl) rfl
theorem q1867 : (Jvm.Cond.laysFinal "PatternforgeModel" "PatternforgeModel" "names" "[I") ∈ lw_all := lw_g (lw_at lw_m8 92 rfl) rfl
theorem q1868 : (Jvm.Cond.soleField "PatternforgeModel" "names") ∈ lw_all := lw_g (lw_at lw_m8 93 rfl) rfl
theorem q1869 : (Jvm.Cond.laysFinal "PatternforgeModel" "PatternforgeModel" "hasView" "[Z") ∈ lw_all := lw_g (lw_at lw_m8 94 rfl) rfl
theorem q1870 : (Jvm.Cond.soleField "PatternforgeModel" "hasView") ∈ lw_all := lw_g (lw_at lw_m8 95 rfl) rfl
theorem q1871 : (Jvm.Cond.laysFinal "PatternforgeModel" "PatternforgeModel" "isBare" "[Z") ∈ lw_all := lw_g (lw_at lw_m8 96 rfl) rfl
theorem q1872 : (Jvm.Cond.soleField "PatternforgeModel" "isBare") ∈ lw_all := lw_g (lw_at lw_m8 97 rfl) rfl
theorem q1873 : (Jvm.Cond.laysFinal "PatternforgeModel" "PatternforgeModel" "viewNumbers" "[I") ∈ lw_all := lw_g (lw_at lw_m8 98 rfl) rfl
theorem q1874 : (Jvm.Cond.soleField "PatternforgeModel" "viewNumbers") ∈ lw_all := lw_g (lw_at lw_m8 99 rfl) rfl
theorem q1875 : (Jvm.Cond.lays "PatternforgeModel" "PatternforgeModel" "columns" "I") ∈ lw_all := lw_g (lw_at lw_m8 100 rfl) rfl
theorem q1876 : (Jvm.Cond.soleField "PatternforgeModel" "columns") ∈ lw_all := lw_g (lw_at lw_m8 101 rfl) rfl
theorem q1877 : (Jvm.Cond.laysFinal "PatternforgeModel" "PatternforgeModel" "columnKinds" "[I") ∈ lw_all := lw_g (lw_at lw_m8 102 rfl) rfl
theorem q1878 : (Jvm.Cond.soleField "PatternforgeModel" "columnKinds") ∈ lw_all := lw_g (lw_at lw_m8 103 rfl) rfl
theorem q1879 : (Jvm.Cond.lays "PatternforgeModel" "PatternforgeModel" "cases" "I") ∈ lw_all := lw_g (lw_at lw_m8 104 rfl) rfl
theorem q1880 : (Jvm.Cond.soleField "PatternforgeModel" "cases") ∈ lw_all := lw_g (lw_at lw_m8 105 rfl) rfl
theorem q1881 : (Jvm.Cond.laysFinal "PatternforgeModel" "PatternforgeModel" "casePatterns" "[I") ∈ lw_all := lw_g (lw_at lw_m8 106 rfl) rfl
theorem q1882 : (Jvm.Cond.soleField "PatternforgeModel" "casePatterns") ∈ lw_all := lw_g (lw_at lw_m8 107 rfl) rfl
theorem q1883 : (Jvm.Cond.laysFinal "PatternforgeModel" "PatternforgeModel" "results" "[I") ∈ lw_all := lw_g (lw_at lw_m8 108 rfl) rfl
theorem q1884 : (Jvm.Cond.soleField "PatternforgeModel" "results") ∈ lw_all := lw_g (lw_at lw_m8 109 rfl) rfl
theorem q1885 : (Jvm.Cond.laysFinal "PatternforgeModel" "PatternforgeModel" "guards" "[I") ∈ lw_all := lw_g (lw_at lw_m8 110 rfl) rfl
theorem q1886 : (Jvm.Cond.soleField "PatternforgeModel" "guards") ∈ lw_all := lw_g (lw_at lw_m8 111 rfl) rfl
theorem q1887 : (Jvm.Cond.laysFinal "PatternforgeModel" "PatternforgeModel" "guardNames" "[I") ∈ lw_all := lw_g (lw_at lw_m8 112 rfl) rfl
theorem q1888 : (Jvm.Cond.soleField "PatternforgeModel" "guardNames") ∈ lw_all := lw_g (lw_at lw_m8 113 rfl) rfl
theorem q1889 : (Jvm.Cond.laysFinal "PatternforgeModel" "PatternforgeModel" "guardNumbers" "[I") ∈ lw_all := lw_g (lw_at lw_m8 114 rfl) rfl
theorem q1890 : (Jvm.Cond.soleField "PatternforgeModel" "guardNumbers") ∈ lw_all := lw_g (lw_at lw_m8 115 rfl) rfl
theorem q1891 : (Jvm.Cond.laysFinal "PatternforgeModel" "PatternforgeModel" "takens" "[I") ∈ lw_all := lw_g (lw_at lw_m8 116 rfl) rfl
theorem q1892 : (Jvm.Cond.soleField "PatternforgeModel" "takens") ∈ lw_all := lw_g (lw_at lw_m8 117 rfl) rfl
theorem q1893 : (Jvm.Cond.laysFinal "PatternforgeModel" "PatternforgeModel" "wait" "[I") ∈ lw_all := lw_g (lw_at lw_m8 118 rfl) rfl
theorem q1894 : (Jvm.Cond.soleField "PatternforgeModel" "wait") ∈ lw_all := lw_g (lw_at lw_m8 119 rfl) rfl
theorem q1895 : (Jvm.Cond.laysFinal "PatternforgeModel" "PatternforgeModel" "waitKinds" "[I") ∈ lw_all := lw_g (lw_at lw_m8 120 rfl) rfl
theorem q1896 : (Jvm.Cond.soleField "PatternforgeModel" "waitKinds") ∈ lw_all := lw_g (lw_at lw_m8 121 rfl) rfl
theorem q1897 : (Jvm.Cond.laysFinal "PatternforgeModel" "PatternforgeModel" "heap" "[I") ∈ lw_all := lw_g (lw_at lw_m8 122 rfl) rfl
theorem q1898 : (Jvm.Cond.soleField "PatternforgeModel" "heap") ∈ lw_all := lw_g (lw_at lw_m8 123 rfl) rfl
theorem q1899 : (Jvm.Cond.laysFinal "PatternforgeModel" "PatternforgeModel" "heapPlaces" "[I") ∈ lw_all := lw_g (lw_at lw_m8 124 rfl) rfl
theorem q1900 : (Jvm.Cond.soleField "PatternforgeModel" "heapPlaces") ∈ lw_all := lw_g (lw_at lw_m8 125 rfl) rfl
theorem q1901 : (Jvm.Cond.lays "PatternforgeModel" "PatternforgeModel" "top" "I") ∈ lw_all := lw_g (lw_at lw_m8 126 rfl) rfl
theorem q1902 : (Jvm.Cond.soleField "PatternforgeModel" "top") ∈ lw_all := lw_g (lw_at lw_m8 127 rfl) rfl
theorem q1903 : (Jvm.Cond.laysFinal "PatternforgeModel" "PatternforgeModel" "choiceTops" "[I") ∈ lw_all := lw_g (lw_at lw_m8 128 rfl) rfl
theorem q1904 : (Jvm.Cond.soleField "PatternforgeModel" "choiceTops") ∈ lw_all := lw_g (lw_at lw_m8 129 rfl) rfl
theorem q1905 : (Jvm.Cond.laysFinal "PatternforgeModel" "PatternforgeModel" "choicePatterns" "[I") ∈ lw_all := lw_g (lw_at lw_m8 130 rfl) rfl
theorem q1906 : (Jvm.Cond.soleField "PatternforgeModel" "choicePatterns") ∈ lw_all := lw_g (lw_at lw_m8 131 rfl) rfl
theorem q1907 : (Jvm.Cond.laysFinal "PatternforgeModel" "PatternforgeModel" "choicePlaces" "[I") ∈ lw_all := lw_g (lw_at lw_m8 132 rfl) rfl
theorem q1908 : (Jvm.Cond.soleField "PatternforgeModel" "choicePlaces") ∈ lw_all := lw_g (lw_at lw_m8 133 rfl) rfl
theorem q1909 : (Jvm.Cond.lays "PatternforgeModel" "PatternforgeModel" "choices" "I") ∈ lw_all := lw_g (lw_at lw_m8 134 rfl) rfl
theorem q1910 : (Jvm.Cond.soleField "PatternforgeModel" "choices") ∈ lw_all := lw_g (lw_at lw_m8 135 rfl) rfl
theorem q1911 : (Jvm.Cond.laysFinal "PatternforgeModel" "PatternforgeModel" "binds" "[I") ∈ lw_all := lw_g (lw_at lw_m8 136 rfl) rfl
theorem q1912 : (Jvm.Cond.soleField "PatternforgeModel" "binds") ∈ lw_all := lw_g (lw_at lw_m8 137 rfl) rfl
theorem q1913 : (Jvm.Cond.lays "PatternforgeModel" "PatternforgeModel" "isReal" "Z") ∈ lw_all := lw_g (lw_at lw_m8 138 rfl) rfl
theorem q1914 : (Jvm.Cond.soleField "PatternforgeModel" "isReal") ∈ lw_all := lw_g (lw_at lw_m8 139 rfl) rfl
theorem q1915 : (Jvm.Cond.lays "PatternforgeModel" "PatternforgeModel" "knownAt" "I") ∈ lw_all := lw_g (lw_at lw_m8 140 rfl) rfl
theorem q1916 : (Jvm.Cond.soleField "PatternforgeModel" "knownAt") ∈ lw_all := lw_g (lw_at lw_m8 141 rfl) rfl
theorem q1917 : (Jvm.Cond.lays "PatternforgeModel" "PatternforgeModel" "askedKind" "I") ∈ lw_all := lw_g (lw_at lw_m8 142 rfl) rfl
theorem q1918 : (Jvm.Cond.soleField "PatternforgeModel" "askedKind") ∈ lw_all := lw_g (lw_at lw_m8 143 rfl) rfl
theorem q1919 : (Jvm.Cond.lays "PatternforgeModel" "PatternforgeModel" "askedWhat" "I") ∈ lw_all := lw_g (lw_at lw_m8 144 rfl) rfl
theorem q1920 : (Jvm.Cond.soleField "PatternforgeModel" "askedWhat") ∈ lw_all := lw_g (lw_at lw_m8 145 rfl) rfl
theorem q1921 : (Jvm.Cond.lays "PatternforgeModel" "PatternforgeModel" "askedPlace" "I") ∈ lw_all := lw_g (lw_at lw_m8 146 rfl) rfl
theorem q1922 : (Jvm.Cond.soleField "PatternforgeModel" "askedPlace") ∈ lw_all := lw_g (lw_at lw_m8 147 rfl) rfl
theorem q1923 : (Jvm.Cond.laysFinal "PatternforgeModel" "PatternforgeModel" "way" "[I") ∈ lw_all := lw_g (lw_at lw_m8 148 rfl) rfl
theorem q1924 : (Jvm.Cond.soleField "PatternforgeModel" "way") ∈ lw_all := lw_g (lw_at lw_m8 149 rfl) rfl
theorem q1925 : (Jvm.Cond.laysFinal "PatternforgeModel" "PatternforgeModel" "given" "[I") ∈ lw_all := lw_g (lw_at lw_m8 150 rfl) rfl
theorem q1926 : (Jvm.Cond.soleField "PatternforgeModel" "given") ∈ lw_all := lw_g (lw_at lw_m8 151 rfl) rfl
theorem q1927 : (Jvm.Cond.lays "PatternforgeModel" "PatternforgeModel" "tests" "I") ∈ lw_all := lw_g (lw_at lw_m8 152 rfl) rfl
theorem q1928 : (Jvm.Cond.soleField "PatternforgeModel" "tests") ∈ lw_all := lw_g (lw_at lw_m8 153 rfl) rfl
theorem q1929 : (Jvm.Cond.lays "PatternforgeModel" "PatternforgeModel" "ran" "I") ∈ lw_all := lw_g (lw_at lw_m8 154 rfl) rfl
theorem q1930 : (Jvm.Cond.soleField "PatternforgeModel" "ran") ∈ lw_all := lw_g (lw_at lw_m8 155 rfl) rfl
theorem q1931 : (Jvm.Cond.laysFinal "PatternforgeModel" "PatternforgeModel" "ranViews" "[I") ∈ lw_all := lw_g (lw_at lw_m8 156 rfl) rfl
theorem q1932 : (Jvm.Cond.soleField "PatternforgeModel" "ranViews") ∈ lw_all := lw_g (lw_at lw_m8 157 rfl) rfl
theorem q1933 : (Jvm.Cond.laysFinal "PatternforgeModel" "PatternforgeModel" "ranPlaces" "[I") ∈ lw_all := lw_g (lw_at lw_m8 158 rfl) rfl
theorem q1934 : (Jvm.Cond.soleField "PatternforgeModel" "ranPlaces") ∈ lw_all := lw_g (lw_at lw_m8 159 rfl) rfl
theorem q1935 : (Jvm.Cond.laysFinal "PatternforgeModel" "PatternforgeModel" "ranGave" "[I") ∈ lw_all := lw_g (lw_at lw_m8 160 rfl) rfl
theorem q1936 : (Jvm.Cond.soleField "PatternforgeModel" "ranGave") ∈ lw_all := lw_g (lw_at lw_m8 161 rfl) rfl
theorem q1937 : (Jvm.Cond.lays "PatternforgeModel" "PatternforgeModel" "ended" "I") ∈ lw_all := lw_g (lw_at lw_m8 162 rfl) rfl
theorem q1938 : (Jvm.Cond.soleField "PatternforgeModel" "ended") ∈ lw_all := lw_g (lw_at lw_m8 163 rfl) rfl
theorem q1939 : (Jvm.Cond.laysFinal "PatternforgeModel" "PatternforgeModel" "lastBinds" "[I") ∈ lw_all := lw_g (lw_at lw_m8 164 rfl) rfl
theorem q1940 : (Jvm.Cond.soleField "PatternforgeModel" "lastBinds") ∈ lw_all := lw_g (lw_at lw_m8 165 rfl) rfl
theorem q1941 : (Jvm.Cond.lays "PatternforgeModel" "PatternforgeModel" "built" "I") ∈ lw_all := lw_g (lw_at lw_m8 166 rfl) rfl
theorem q1942 : (Jvm.Cond.soleField "PatternforgeModel" "built") ∈ lw_all := lw_g (lw_at lw_m8 167 rfl) rfl
theorem q1943 : (Jvm.Cond.lays "PatternforgeModel" "PatternforgeModel" "isLarge" "Z") ∈ lw_all := lw_g (lw_at lw_m8 168 rfl) rfl
theorem q1944 : (Jvm.Cond.soleField "PatternforgeModel" "isLarge") ∈ lw_all := lw_g (lw_at lw_m8 169 rfl) rfl
theorem q1945 : (Jvm.Cond.lays "PatternforgeModel" "PatternforgeModel" "nodes" "I") ∈ lw_all := lw_g (lw_at lw_m8 170 rfl) rfl
theorem q1946 : (Jvm.Cond.soleField "PatternforgeModel" "nodes") ∈ lw_all := lw_g (lw_at lw_m8 171 rfl) rfl
theorem q1947 : (Jvm.Cond.laysFinal "PatternforgeModel" "PatternforgeModel" "above" "[I") ∈ lw_all := lw_g (lw_at lw_m8 172 rfl) rfl
theorem q1948 : (Jvm.Cond.soleField "PatternforgeModel" "above") ∈ lw_all := lw_g (lw_at lw_m8 173 rfl) rfl
theorem q1949 : (Jvm.Cond.laysFinal "PatternforgeModel" "PatternforgeModel" "asks" "[I") ∈ lw_all := lw_g (lw_at lw_m8 174 rfl) rfl
theorem q1950 : (Jvm.Cond.soleField "PatternforgeModel" "asks") ∈ lw_all := lw_g (lw_at lw_m8 175 rfl) rfl
theorem q1951 : (Jvm.Cond.laysFinal "PatternforgeModel" "PatternforgeModel" "askWhats" "[I") ∈ lw_all := lw_g (lw_at lw_m8 176 rfl) rfl
theorem q1952 : (Jvm.Cond.soleField "PatternforgeModel" "askWhats") ∈ lw_all := lw_g (lw_at lw_m8 177 rfl) rfl
theorem q1953 : (Jvm.Cond.laysFinal "PatternforgeModel" "PatternforgeModel" "askPlaces" "[I") ∈ lw_all := lw_g (lw_at lw_m8 178 rfl) rfl
theorem q1954 : (Jvm.Cond.soleField "PatternforgeModel" "askPlaces") ∈ lw_all := lw_g (lw_at lw_m8 179 rfl) rfl
theorem q1955 : (Jvm.Cond.laysFinal "PatternforgeModel" "PatternforgeModel" "firsts" "[I") ∈ lw_all := lw_g (lw_at lw_m8 180 rfl) rfl
theorem q1956 : (Jvm.Cond.soleField "PatternforgeModel" "firsts") ∈ lw_all := lw_g (lw_at lw_m8 181 rfl) rfl
theorem q1957 : (Jvm.Cond.laysFinal "PatternforgeModel" "PatternforgeModel" "behinds" "[I") ∈ lw_all := lw_g (lw_at lw_m8 182 rfl) rfl
theorem q1958 : (Jvm.Cond.soleField "PatternforgeModel" "behinds") ∈ lw_all := lw_g (lw_at lw_m8 183 rfl) rfl
theorem q1959 : (Jvm.Cond.laysFinal "PatternforgeModel" "PatternforgeModel" "classes" "[I") ∈ lw_all := lw_g (lw_at lw_m8 184 rfl) rfl
theorem q1960 : (Jvm.Cond.soleField "PatternforgeModel" "classes") ∈ lw_all := lw_g (lw_at lw_m8 185 rfl) rfl
theorem q1961 : (Jvm.Cond.laysFinal "PatternforgeModel" "PatternforgeModel" "needPlaces" "[I") ∈ lw_all := lw_g (lw_at lw_m8 186 rfl) rfl
theorem q1962 : (Jvm.Cond.soleField "PatternforgeModel" "needPlaces") ∈ lw_all := lw_g (lw_at lw_m8 187 rfl) rfl
theorem q1963 : (Jvm.Cond.laysFinal "PatternforgeModel" "PatternforgeModel" "needCounts" "[I") ∈ lw_all := lw_g (lw_at lw_m8 188 rfl) rfl
theorem q1964 : (Jvm.Cond.soleField "PatternforgeModel" "needCounts") ∈ lw_all := lw_g (lw_at lw_m8 189 rfl) rfl
theorem q1965 : (Jvm.Cond.laysFinal "PatternforgeModel" "PatternforgeModel" "needCase" "[I") ∈ lw_all := lw_g (lw_at lw_m8 190 rfl) rfl
theorem q1966 : (Jvm.Cond.soleField "PatternforgeModel" "needCase") ∈ lw_all := lw_g (lw_at lw_m8 191 rfl) rfl
theorem q1967 : (Jvm.Cond.lays "PatternforgeModel" "PatternforgeModel" "needs" "I") ∈ lw_all := lw_g (lw_at lw_m8 192 rfl) rfl
theorem q1968 : (Jvm.Cond.soleField "PatternforgeModel" "needs") ∈ lw_all := lw_g (lw_at lw_m8 193 rfl) rfl
theorem q1969 : (Jvm.Cond.laysFinal "PatternforgeModel" "PatternforgeModel" "waitPlaces" "[I") ∈ lw_all := lw_g (lw_at lw_m8 194 rfl) rfl
theorem q1970 : (Jvm.Cond.soleField "PatternforgeModel" "waitPlaces") ∈ lw_all := lw_g (lw_at lw_m8 195 rfl) rfl
theorem q1971 : (Jvm.Cond.superclass "PatternforgeModel" "java/lang/Object") ∈ lw_all := lw_g (lw_at lw_m8 196 rfl) rfl
theorem q1974 : (Jvm.Cond.instanceMethod ({ cls := "PatternforgeModel", name := "thrown", desc := "()I" } : Jvm.MethodName)) ∈ lw_all := lw_g (lw_at lw_m8 199 rfl) rfl
theorem q1975 : (Jvm.Cond.selects "PatternforgeModel" ({ cls := "PatternforgeModel", name := "thrown", desc := "()I" } : Jvm.MethodName) ({ cls := "PatternforgeModel", name := "thrown", desc := "()I" } : Jvm.MethodName)) ∈ lw_all := lw_g (lw_at lw_m8 200 rfl) rfl
theorem q1976 : (Jvm.Cond.code ({ cls := "PatternforgeModel", name := "thrown", desc := "()I" } : Jvm.MethodName) prog_23_method_2_code (1 : Nat) (Option.some Jvm.ClassFile.FieldType.int)) ∈ lw_all := lw_g (lw_at lw_m8 201 rfl) rfl
theorem q1978 : (Jvm.Cond.instanceMethod ({ cls := "PatternforgeModel", name := "constructor", desc := "(IIIII)I" } : Jvm.MethodName)) ∈ lw_all := lw_g (lw_at lw_m8 203 rfl) rfl
theorem q1979 : (Jvm.Cond.selects "PatternforgeModel" ({ cls := "PatternforgeModel", name := "constructor", desc := "(IIIII)I" } : Jvm.MethodName) ({ cls := "PatternforgeModel", name := "constructor", desc := "(IIIII)I" } : Jvm.MethodName)) ∈ lw_all := lw_g (lw_at lw_m8 204 rfl) rfl
theorem q1980 : (Jvm.Cond.code ({ cls := "PatternforgeModel", name := "constructor", desc := "(IIIII)I" } : Jvm.MethodName) prog_23_method_7_code (9 : Nat) (Option.some Jvm.ClassFile.FieldType.int)) ∈ lw_all := lw_g (lw_at lw_m8 205 rfl) rfl
theorem q1981 : (Jvm.Cond.methodLink "PatternforgeModel" (171 : Nat) ({ cls := "PatternforgeModel", name := "in", desc := "(III)Z" } : Jvm.MethodName)) ∈ lw_all := lw_g (lw_at lw_m8 206 rfl) rfl
theorem q1982 : (Jvm.Cond.static ({ cls := "PatternforgeModel", name := "in", desc := "(III)Z" } : Jvm.MethodName)) ∈ lw_all := lw_g (lw_at lw_m8 207 rfl) rfl
theorem q1983 : (Jvm.Cond.code ({ cls := "PatternforgeModel", name := "in", desc := "(III)Z" } : Jvm.MethodName) prog_23_method_4_code (3 : Nat) (Option.some Jvm.ClassFile.FieldType.boolean)) ∈ lw_all := lw_g (lw_at lw_m8 208 rfl) rfl
theorem q1984 : (Jvm.Cond.methodLink "PatternforgeModel" (175 : Nat) ({ cls := "PatternforgeModel", name := "pick", desc := "(IIII)I" } : Jvm.MethodName)) ∈ lw_all := lw_g (lw_at lw_m8 209 rfl) rfl
theorem q1985 : (Jvm.Cond.static ({ cls := "PatternforgeModel", name := "pick", desc := "(IIII)I" } : Jvm.MethodName)) ∈ lw_all := lw_g (lw_at lw_m8 210 rfl) rfl
theorem q1986 : (Jvm.Cond.code ({ cls := "PatternforgeModel", name := "pick", desc := "(IIII)I" } : Jvm.MethodName) prog_23_method_6_code (4 : Nat) (Option.some Jvm.ClassFile.FieldType.int)) ∈ lw_all := lw_g (lw_at lw_m8 211 rfl) rfl
theorem q1987 : (Jvm.Cond.methodLink "PatternforgeModel" (179 : Nat) ({ cls := "PatternforgeModel", name := "isKind", desc := "(I)Z" } : Jvm.MethodName)) ∈ lw_all := lw_g (lw_at lw_m8 212 rfl) rfl
theorem q1988 : (Jvm.Cond.static ({ cls := "PatternforgeModel", name := "isKind", desc := "(I)Z" } : Jvm.MethodName)) ∈ lw_all := lw_g (lw_at lw_m8 213 rfl) rfl
theorem q1989 : (Jvm.Cond.code ({ cls := "PatternforgeModel", name := "isKind", desc := "(I)Z" } : Jvm.MethodName) prog_23_method_5_code (1 : Nat) (Option.some Jvm.ClassFile.FieldType.boolean)) ∈ lw_all := lw_g (lw_at lw_m8 214 rfl) rfl
theorem q1990 : (Jvm.Cond.methodLink "PatternforgeModel" (183 : Nat) ({ cls := "PatternforgeModel", name := "refused", desc := "(I)Z" } : Jvm.MethodName)) ∈ lw_all := lw_g (lw_at lw_m8 215 rfl) rfl
theorem q1991 : (Jvm.Cond.privateMethod ({ cls := "PatternforgeModel", name := "refused", desc := "(I)Z" } : Jvm.MethodName)) ∈ lw_tbl := lw_at lw_m8 216 rfl
theorem q1992 : (Jvm.Cond.instanceMethod ({ cls := "PatternforgeModel", name := "refused", desc := "(I)Z" } : Jvm.MethodName)) ∈ lw_all := lw_g (lw_at lw_m8 217 rfl) rfl
theorem q1993 : (Jvm.Cond.code ({ cls := "PatternforgeModel", name := "refused", desc := "(I)Z" } : Jvm.MethodName) prog_23_method_3_code (2 : Nat) (Option.some Jvm.ClassFile.FieldType.boolean)) ∈ lw_all := lw_g (lw_at lw_m8 218 rfl) rfl
theorem q1995 : (Jvm.Cond.instanceMethod ({ cls := "PatternforgeModel", name := "num", desc := "(I)I" } : Jvm.MethodName)) ∈ lw_all := lw_g (lw_at lw_m8 220 rfl) rfl
theorem q1996 : (Jvm.Cond.selects "PatternforgeModel" ({ cls := "PatternforgeModel", name := "num", desc := "(I)I" } : Jvm.MethodName) ({ cls := "PatternforgeModel", name := "num", desc := "(I)I" } : Jvm.MethodName)) ∈ lw_all := lw_g (lw_at lw_m8 221 rfl) rfl
theorem q1997 : (Jvm.Cond.code ({ cls := "PatternforgeModel", name := "num", desc := "(I)I" } : Jvm.MethodName) prog_23_method_9_code (2 : Nat) (Option.some Jvm.ClassFile.FieldType.int)) ∈ lw_all := lw_g (lw_at lw_m8 222 rfl) rfl
theorem q1998 : (Jvm.Cond.methodLink "PatternforgeModel" (189 : Nat) ({ cls := "PatternforgeModel", name := "value", desc := "(IIIIII)I" } : Jvm.MethodName)) ∈ lw_all := lw_g (lw_at lw_m8 223 rfl) rfl
theorem q1999 : (Jvm.Cond.privateMethod ({ cls := "PatternforgeModel", name := "value", desc := "(IIIIII)I" } : Jvm.MethodName)) ∈ lw_tbl := lw_at lw_m8 224 rfl
theorem q2000 : (Jvm.Cond.instanceMethod ({ cls := "PatternforgeModel", name := "value", desc := "(IIIIII)I" } : Jvm.MethodName)) ∈ lw_all := lw_g (lw_at lw_m8 225 rfl) rfl
theorem q2001 : (Jvm.Cond.code ({ cls := "PatternforgeModel", name := "value", desc := "(IIIIII)I" } : Jvm.MethodName) prog_23_method_8_code (7 : Nat) (Option.some Jvm.ClassFile.FieldType.int)) ∈ lw_all := lw_g (lw_at lw_m8 226 rfl) rfl
theorem q2003 : (Jvm.Cond.instanceMethod ({ cls := "PatternforgeModel", name := "seq", desc := "(IIII)I" } : Jvm.MethodName)) ∈ lw_all := lw_g (lw_at lw_m8 228 rfl) rfl
theorem q2004 : (Jvm.Cond.selects "PatternforgeModel" ({ cls := "PatternforgeModel", name := "seq", desc := "(IIII)I" } : Jvm.MethodName) ({ cls := "PatternforgeModel", name := "seq", desc := "(IIII)I" } : Jvm.MethodName)) ∈ lw_all := lw_g (lw_at lw_m8 229 rfl) rfl
theorem q2005 : (Jvm.Cond.code ({ cls := "PatternforgeModel", name := "seq", desc := "(IIII)I" } : Jvm.MethodName) prog_23_method_10_code (7 : Nat) (Option.some Jvm.ClassFile.FieldType.int)) ∈ lw_all := lw_g (lw_at lw_m8 230 rfl) rfl
theorem q2007 : (Jvm.Cond.instanceMethod ({ cls := "PatternforgeModel", name := "data", desc := "(IIIII)I" } : Jvm.MethodName)) ∈ lw_all := lw_g (lw_at lw_m8 232 rfl) rfl
theorem q2008 : (Jvm.Cond.selects "PatternforgeModel" ({ cls := "PatternforgeModel", name := "data", desc := "(IIIII)I" } : Jvm.MethodName) ({ cls := "PatternforgeModel", name := "data", desc := "(IIIII)I" } : Jvm.MethodName)) ∈ lw_all := lw_g (lw_at lw_m8 233 rfl) rfl
theorem q2009 : (Jvm.Cond.code ({ cls := "PatternforgeModel", name := "data", desc := "(IIIII)I" } : Jvm.MethodName) prog_23_method_12_code (12 : Nat) (Option.some Jvm.ClassFile.FieldType.int)) ∈ lw_all := lw_g (lw_at lw_m8 234 rfl) rfl
theorem q2010 : (Jvm.Cond.methodLink "PatternforgeModel" (193 : Nat) ({ cls := "PatternforgeModel", name := "isConstructor", desc := "(II)Z" } : Jvm.MethodName)) ∈ lw_all := lw_g (lw_at lw_m8 235 rfl) rfl
theorem q2011 : (Jvm.Cond.privateMethod ({ cls := "PatternforgeModel", name := "isConstructor", desc := "(II)Z" } : Jvm.MethodName)) ∈ lw_tbl := lw_at lw_m8 236 rfl
theorem q2012 : (Jvm.Cond.instanceMethod ({ cls := "PatternforgeModel", name := "isConstructor", desc := "(II)Z" } : Jvm.MethodName)) ∈ lw_all := lw_g (lw_at lw_m8 237 rfl) rfl
theorem q2013 : (Jvm.Cond.code ({ cls := "PatternforgeModel", name := "isConstructor", desc := "(II)Z" } : Jvm.MethodName) prog_23_method_11_code (3 : Nat) (Option.some Jvm.ClassFile.FieldType.boolean)) ∈ lw_all := lw_g (lw_at lw_m8 238 rfl) rfl
theorem q2015 : (Jvm.Cond.instanceMethod ({ cls := "PatternforgeModel", name := "any", desc := "()I" } : Jvm.MethodName)) ∈ lw_all := lw_g (lw_at lw_m9 0 rfl) rfl
theorem q2016 : (Jvm.Cond.selects "PatternforgeModel" ({ cls := "PatternforgeModel", name := "any", desc := "()I" } : Jvm.MethodName) ({ cls := "PatternforgeModel", name := "any", desc := "()I" } : Jvm.MethodName)) ∈ lw_all := lw_g (lw_at lw_m9 1 rfl) rfl
theorem q2017 : (Jvm.Cond.code ({ cls := "PatternforgeModel", name := "any", desc := "()I" } : Jvm.MethodName) prog_23_method_19_code (1 : Nat) (Option.some Jvm.ClassFile.FieldType.int)) ∈ lw_all := lw_g (lw_at lw_m9 2 rfl) rfl
theorem q2018 : (Jvm.Cond.methodLink "PatternforgeModel" (204 : Nat) ({ cls := "PatternforgeModel", name := "isFull", desc := "()Z" } : Jvm.MethodName)) ∈ lw_all := lw_g (lw_at lw_m9 3 rfl) rfl
theorem q2019 : (Jvm.Cond.privateMethod ({ cls := "PatternforgeModel", name := "isFull", desc := "()Z" } : Jvm.MethodName)) ∈ lw_tbl := lw_at lw_m9 4 rfl
theorem q2020 : (Jvm.Cond.instanceMethod ({ cls := "PatternforgeModel", name := "isFull", desc := "()Z" } : Jvm.MethodName)) ∈ lw_all := lw_g (lw_at lw_m9 5 rfl) rfl
theorem q2021 : (Jvm.Cond.code ({ cls := "PatternforgeModel", name := "isFull", desc := "()Z" } : Jvm.MethodName) prog_23_method_18_code (1 : Nat) (Option.some Jvm.ClassFile.FieldType.boolean)) ∈ lw_all := lw_g (lw_at lw_m9 6 rfl) rfl
theorem q2022 : (Jvm.Cond.methodLink "PatternforgeModel" (208 : Nat) ({ cls := "PatternforgeModel", name := "pattern", desc := "(IIIIIII)I" } : Jvm.MethodName)) ∈ lw_all := lw_g (lw_at lw_m9 7 rfl) rfl
theorem q2023 : (Jvm.Cond.privateMethod ({ cls := "PatternforgeModel", name := "pattern", desc := "(IIIIIII)I" } : Jvm.MethodName)) ∈ lw_tbl := lw_at lw_m9 8 rfl
theorem q2024 : (Jvm.Cond.instanceMethod ({ cls := "PatternforgeModel", name := "pattern", desc := "(IIIIIII)I" } : Jvm.MethodName)) ∈ lw_all := lw_g (lw_at lw_m9 9 rfl) rfl
theorem q2025 : (Jvm.Cond.code ({ cls := "PatternforgeModel", name := "pattern", desc := "(IIIIIII)I" } : Jvm.MethodName) prog_23_method_15_code (11 : Nat) (Option.some Jvm.ClassFile.FieldType.int)) ∈ lw_all := lw_g (lw_at lw_m9 10 rfl) rfl
theorem q2026 : (Jvm.Cond.methodLink "PatternforgeModel" (200 : Nat) ({ cls := "PatternforgeModel", name := "sizeOf", desc := "(III)I" } : Jvm.MethodName)) ∈ lw_all := lw_g (lw_at lw_m9 11 rfl) rfl
theorem q2027 : (Jvm.Cond.privateMethod ({ cls := "PatternforgeModel", name := "sizeOf", desc := "(III)I" } : Jvm.MethodName)) ∈ lw_tbl := lw_at lw_m9 12 rfl
theorem q2028 : (Jvm.Cond.instanceMethod ({ cls := "PatternforgeModel", name := "sizeOf", desc := "(III)I" } : Jvm.MethodName)) ∈ lw_all := lw_g (lw_at lw_m9 13 rfl) rfl
theorem q2029 : (Jvm.Cond.code ({ cls := "PatternforgeModel", name := "sizeOf", desc := "(III)I" } : Jvm.MethodName) prog_23_method_16_code (4 : Nat) (Option.some Jvm.ClassFile.FieldType.int)) ∈ lw_all := lw_g (lw_at lw_m9 14 rfl) rfl
theorem q2031 : (Jvm.Cond.instanceMethod ({ cls := "PatternforgeModel", name := "name", desc := "(II)I" } : Jvm.MethodName)) ∈ lw_all := lw_g (lw_at lw_m9 16 rfl) rfl
theorem q2032 : (Jvm.Cond.selects "PatternforgeModel" ({ cls := "PatternforgeModel", name := "name", desc := "(II)I" } : Jvm.MethodName) ({ cls := "PatternforgeModel", name := "name", desc := "(II)I" } : Jvm.MethodName)) ∈ lw_all := lw_g (lw_at lw_m9 17 rfl) rfl
theorem q2033 : (Jvm.Cond.code ({ cls := "PatternforgeModel", name := "name", desc := "(II)I" } : Jvm.MethodName) prog_23_method_20_code (5 : Nat) (Option.some Jvm.ClassFile.FieldType.int)) ∈ lw_all := lw_g (lw_at lw_m9 18 rfl) rfl
theorem q2034 : (Jvm.Cond.methodLink "PatternforgeModel" (212 : Nat) ({ cls := "PatternforgeModel", name := "isPattern", desc := "(I)Z" } : Jvm.MethodName)) ∈ lw_all := lw_g (lw_at lw_m9 19 rfl) rfl
theorem q2035 : (Jvm.Cond.privateMethod ({ cls := "PatternforgeModel", name := "isPattern", desc := "(I)Z" } : Jvm.MethodName)) ∈ lw_tbl := lw_at lw_m9 20 rfl
theorem q2036 : (Jvm.Cond.instanceMethod ({ cls := "PatternforgeModel", name := "isPattern", desc := "(I)Z" } : Jvm.MethodName)) ∈ lw_all := lw_g (lw_at lw_m9 21 rfl) rfl
theorem q2037 : (Jvm.Cond.code ({ cls := "PatternforgeModel", name := "isPattern", desc := "(I)Z" } : Jvm.MethodName) prog_23_method_13_code (2 : Nat) (Option.some Jvm.ClassFile.FieldType.boolean)) ∈ lw_all := lw_g (lw_at lw_m9 22 rfl) rfl
theorem q2039 : (Jvm.Cond.instanceMethod ({ cls := "PatternforgeModel", name := "range", desc := "(II)I" } : Jvm.MethodName)) ∈ lw_all := lw_g (lw_at lw_m9 24 rfl) rfl
theorem q2040 : (Jvm.Cond.selects "PatternforgeModel" ({ cls := "PatternforgeModel", name := "range", desc := "(II)I" } : Jvm.MethodName) ({ cls := "PatternforgeModel", name := "range", desc := "(II)I" } : Jvm.MethodName)) ∈ lw_all := lw_g (lw_at lw_m9 25 rfl) rfl
theorem q2041 : (Jvm.Cond.code ({ cls := "PatternforgeModel", name := "range", desc := "(II)I" } : Jvm.MethodName) prog_23_method_21_code (4 : Nat) (Option.some Jvm.ClassFile.FieldType.int)) ∈ lw_all := lw_g (lw_at lw_m9 26 rfl) rfl
theorem q2043 : (Jvm.Cond.instanceMethod ({ cls := "PatternforgeModel", name := "make", desc := "(IIIII)I" } : Jvm.MethodName)) ∈ lw_all := lw_g (lw_at lw_m9 28 rfl) rfl
theorem q2044 : (Jvm.Cond.selects "PatternforgeModel" ({ cls := "PatternforgeModel", name := "make", desc := "(IIIII)I" } : Jvm.MethodName) ({ cls := "PatternforgeModel", name := "make", desc := "(IIIII)I" } : Jvm.MethodName)) ∈ lw_all := lw_g (lw_at lw_m9 29 rfl) rfl
theorem q2045 : (Jvm.Cond.code ({ cls := "PatternforgeModel", name := "make", desc := "(IIIII)I" } : Jvm.MethodName) prog_23_method_22_code (13 : Nat) (Option.some Jvm.ClassFile.FieldType.int)) ∈ lw_all := lw_g (lw_at lw_m9 30 rfl) rfl
theorem q2046 : (Jvm.Cond.methodLink "PatternforgeModel" (215 : Nat) ({ cls := "PatternforgeModel", name := "suits", desc := "(II)Z" } : Jvm.MethodName)) ∈ lw_all := lw_g (lw_at lw_m9 31 rfl) rfl
theorem q2047 : (Jvm.Cond.privateMethod ({ cls := "PatternforgeModel", name := "suits", desc := "(II)Z" } : Jvm.MethodName)) ∈ lw_tbl := lw_at lw_m9 32 rfl
theorem q2048 : (Jvm.Cond.instanceMethod ({ cls := "PatternforgeModel", name := "suits", desc := "(II)Z" } : Jvm.MethodName)) ∈ lw_all := lw_g (lw_at lw_m9 33 rfl) rfl
theorem q2049 : (Jvm.Cond.code ({ cls := "PatternforgeModel", name := "suits", desc := "(II)Z" } : Jvm.MethodName) prog_23_method_14_code (3 : Nat) (Option.some Jvm.ClassFile.FieldType.boolean)) ∈ lw_all := lw_g (lw_at lw_m9 34 rfl) rfl
theorem q2050 : (Jvm.Cond.methodLink "PatternforgeModel" (218 : Nat) ({ cls := "PatternforgeModel", name := "depthOf", desc := "(III)I" } : Jvm.MethodName)) ∈ lw_all := lw_g (lw_at lw_m9 35 rfl) rfl
theorem q2051 : (Jvm.Cond.privateMethod ({ cls := "PatternforgeModel", name := "depthOf", desc := "(III)I" } : Jvm.MethodName)) ∈ lw_tbl := lw_at lw_m9 36 rfl
theorem q2052 : (Jvm.Cond.instanceMethod ({ cls := "PatternforgeModel", name := "depthOf", desc := "(III)I" } : Jvm.MethodName)) ∈ lw_all := lw_g (lw_at lw_m9 37 rfl) rfl
theorem q2053 : (Jvm.Cond.code ({ cls := "PatternforgeModel", name := "depthOf", desc := "(III)I" } : Jvm.MethodName) prog_23_method_17_code (7 : Nat) (Option.some Jvm.ClassFile.FieldType.int)) ∈ lw_all := lw_g (lw_at lw_m9 38 rfl) rfl
theorem q2055 : (Jvm.Cond.instanceMethod ({ cls := "PatternforgeModel", name := "either", desc := "(II)I" } : Jvm.MethodName)) ∈ lw_all := lw_g (lw_at lw_m9 40 rfl) rfl
theorem q2056 : (Jvm.Cond.selects "PatternforgeModel" ({ cls := "PatternforgeModel", name := "either", desc := "(II)I" } : Jvm.MethodName) ({ cls := "PatternforgeModel", name := "either", desc := "(II)I" } : Jvm.MethodName)) ∈ lw_all := lw_g (lw_at lw_m9 41 rfl) rfl
theorem q2057 : (Jvm.Cond.code ({ cls := "PatternforgeModel", name := "either", desc := "(II)I" } : Jvm.MethodName) prog_23_method_25_code (4 : Nat) (Option.some Jvm.ClassFile.FieldType.int)) ∈ lw_all := lw_g (lw_at lw_m9 42 rfl) rfl
theorem q2058 : (Jvm.Cond.methodLink "PatternforgeModel" (221 : Nat) ({ cls := "PatternforgeModel", name := "areAlternatives", desc := "(II)Z" } : Jvm.MethodName)) ∈ lw_all := lw_g (lw_at lw_m9 43 rfl) rfl
theorem q2059 : (Jvm.Cond.privateMethod ({ cls := "PatternforgeModel", name := "areAlternatives", desc := "(II)Z" } : Jvm.MethodName)) ∈ lw_tbl := lw_at lw_m9 44 rfl
theorem q2060 : (Jvm.Cond.instanceMethod ({ cls := "PatternforgeModel", name := "areAlternatives", desc := "(II)Z" } : Jvm.MethodName)) ∈ lw_all := lw_g (lw_at lw_m9 45 rfl) rfl
theorem q2061 : (Jvm.Cond.code ({ cls := "PatternforgeModel", name := "areAlternatives", desc := "(II)Z" } : Jvm.MethodName) prog_23_method_23_code (4 : Nat) (Option.some Jvm.ClassFile.FieldType.boolean)) ∈ lw_all := lw_g (lw_at lw_m9 46 rfl) rfl
theorem q2062 : (Jvm.Cond.methodLink "PatternforgeModel" (224 : Nat) ({ cls := "PatternforgeModel", name := "alternatives", desc := "(II)I" } : Jvm.MethodName)) ∈ lw_all := lw_g (lw_at lw_m9 47 rfl) rfl
theorem q2063 : (Jvm.Cond.privateMethod ({ cls := "PatternforgeModel", name := "alternatives", desc := "(II)I" } : Jvm.MethodName)) ∈ lw_tbl := lw_at lw_m9 48 rfl
theorem q2064 : (Jvm.Cond.instanceMethod ({ cls := "PatternforgeModel", name := "alternatives", desc := "(II)I" } : Jvm.MethodName)) ∈ lw_all := lw_g (lw_at lw_m9 49 rfl) rfl
theorem q2065 : (Jvm.Cond.code ({ cls := "PatternforgeModel", name := "alternatives", desc := "(II)I" } : Jvm.MethodName) prog_23_method_24_code (3 : Nat) (Option.some Jvm.ClassFile.FieldType.int)) ∈ lw_all := lw_g (lw_at lw_m9 50 rfl) rfl
theorem q2067 : (Jvm.Cond.instanceMethod ({ cls := "PatternforgeModel", name := "view", desc := "(II)I" } : Jvm.MethodName)) ∈ lw_all := lw_g (lw_at lw_m9 52 rfl) rfl
theorem q2068 : (Jvm.Cond.selects "PatternforgeModel" ({ cls := "PatternforgeModel", name := "view", desc := "(II)I" } : Jvm.MethodName) ({ cls := "PatternforgeModel", name := "view", desc := "(II)I" } : Jvm.MethodName)) ∈ lw_all := lw_g (lw_at lw_m9 53 rfl) rfl
theorem q2069 : (Jvm.Cond.code ({ cls := "PatternforgeModel", name := "view", desc := "(II)I" } : Jvm.MethodName) prog_23_method_26_code (5 : Nat) (Option.some Jvm.ClassFile.FieldType.int)) ∈ lw_all := lw_g (lw_at lw_m9 54 rfl) rfl
theorem q2071 : (Jvm.Cond.instanceMethod ({ cls := "PatternforgeModel", name := "list", desc := "(IIII)I" } : Jvm.MethodName)) ∈ lw_all := lw_g (lw_at lw_m9 56 rfl) rfl
theorem q2072 : (Jvm.Cond.selects "PatternforgeModel" ({ cls := "PatternforgeModel", name := "list", desc := "(IIII)I" } : Jvm.MethodName) ({ cls := "PatternforgeModel", name := "list", desc := "(IIII)I" } : Jvm.MethodName)) ∈ lw_all := lw_g (lw_at lw_m9 57 rfl) rfl
theorem q2073 : (Jvm.Cond.code ({ cls := "PatternforgeModel", name := "list", desc := "(IIII)I" } : Jvm.MethodName) prog_23_method_27_code (13 : Nat) (Option.some Jvm.ClassFile.FieldType.int)) ∈ lw_all := lw_g (lw_at lw_m9 58 rfl) rfl
theorem q2075 : (Jvm.Cond.instanceMethod ({ cls := "PatternforgeModel", name := "setView", desc := "(IIIII)I" } : Jvm.MethodName)) ∈ lw_all := lw_g (lw_at lw_m9 60 rfl) rfl
theorem q2076 : (Jvm.Cond.selects "PatternforgeModel" ({ cls := "PatternforgeModel", name := "setView", desc := "(IIIII)I" } : Jvm.MethodName) ({ cls := "PatternforgeModel", name := "setView", desc := "(IIIII)I" } : Jvm.MethodName)) ∈ lw_all := lw_g (lw_at lw_m9 61 rfl) rfl
theorem q2077 : (Jvm.Cond.code ({ cls := "PatternforgeModel", name := "setView", desc := "(IIIII)I" } : Jvm.MethodName) prog_23_method_28_code (8 : Nat) (Option.some Jvm.ClassFile.FieldType.int)) ∈ lw_all := lw_g (lw_at lw_m9 62 rfl) rfl
theorem q2079 : (Jvm.Cond.instanceMethod ({ cls := "PatternforgeModel", name := "begin", desc := "(IIII)I" } : Jvm.MethodName)) ∈ lw_all := lw_g (lw_at lw_m9 64 rfl) rfl
theorem q2080 : (Jvm.Cond.selects "PatternforgeModel" ({ cls := "PatternforgeModel", name := "begin", desc := "(IIII)I" } : Jvm.MethodName) ({ cls := "PatternforgeModel", name := "begin", desc := "(IIII)I" } : Jvm.MethodName)) ∈ lw_all := lw_g (lw_at lw_m9 65 rfl) rfl
theorem q2081 : (Jvm.Cond.code ({ cls := "PatternforgeModel", name := "begin", desc := "(IIII)I" } : Jvm.MethodName) prog_23_method_29_code (8 : Nat) (Option.some Jvm.ClassFile.FieldType.int)) ∈ lw_all := lw_g (lw_at lw_m9 66 rfl) rfl
theorem q2083 : (Jvm.Cond.instanceMethod ({ cls := "PatternforgeModel", name := "add", desc := "(IIII)I" } : Jvm.MethodName)) ∈ lw_all := lw_g (lw_at lw_m9 68 rfl) rfl
theorem q2084 : (Jvm.Cond.selects "PatternforgeModel" ({ cls := "PatternforgeModel", name := "add", desc := "(IIII)I" } : Jvm.MethodName) ({ cls := "PatternforgeModel", name := "add", desc := "(IIII)I" } : Jvm.MethodName)) ∈ lw_all := lw_g (lw_at lw_m9 69 rfl) rfl
theorem q2085 : (Jvm.Cond.code ({ cls := "PatternforgeModel", name := "add", desc := "(IIII)I" } : Jvm.MethodName) prog_23_method_32_code (12 : Nat) (Option.some Jvm.ClassFile.FieldType.int)) ∈ lw_all := lw_g (lw_at lw_m9 70 rfl) rfl
theorem q2086 : (Jvm.Cond.methodLink "PatternforgeModel" (244 : Nat) ({ cls := "PatternforgeModel", name := "open", desc := "(I)V" } : Jvm.MethodName)) ∈ lw_all := lw_g (lw_at lw_m9 71 rfl) rfl
theorem q2087 : (Jvm.Cond.privateMethod ({ cls := "PatternforgeModel", name := "open", desc := "(I)V" } : Jvm.MethodName)) ∈ lw_tbl := lw_at lw_m9 72 rfl
theorem q2088 : (Jvm.Cond.instanceMethod ({ cls := "PatternforgeModel", name := "open", desc := "(I)V" } : Jvm.MethodName)) ∈ lw_all := lw_g (lw_at lw_m9 73 rfl) rfl
theorem q2089 : (Jvm.Cond.code ({ cls := "PatternforgeModel", name := "open", desc := "(I)V" } : Jvm.MethodName) prog_23_method_30_code (3 : Nat) (Option.none : Option Jvm.ClassFile.FieldType)) ∈ lw_all := lw_g (lw_at lw_m9 74 rfl) rfl
theorem q2090 : (Jvm.Cond.methodLink "PatternforgeModel" (240 : Nat) ({ cls := "PatternforgeModel", name := "copyCase", desc := "(II)V" } : Jvm.MethodName)) ∈ lw_all := lw_g (lw_at lw_m9 75 rfl) rfl
theorem q2091 : (Jvm.Cond.privateMethod ({ cls := "PatternforgeModel", name := "copyCase", desc := "(II)V" } : Jvm.MethodName)) ∈ lw_tbl := lw_at lw_m9 76 rfl
theorem q2092 : (Jvm.Cond.instanceMethod ({ cls := "PatternforgeModel", name := "copyCase", desc := "(II)V" } : Jvm.MethodName)) ∈ lw_all := lw_g (lw_at lw_m9 77 rfl) rfl
theorem q2093 : (Jvm.Cond.code ({ cls := "PatternforgeModel", name := "copyCase", desc := "(II)V" } : Jvm.MethodName) prog_23_method_31_code (4 : Nat) (Option.none : Option Jvm.ClassFile.FieldType)) ∈ lw_all := lw_g (lw_at lw_m9 78 rfl) rfl
theorem q2095 : (Jvm.Cond.instanceMethod ({ cls := "PatternforgeModel", name := "guard", desc := "(IIII)I" } : Jvm.MethodName)) ∈ lw_all := lw_g (lw_at lw_m9 80 rfl) rfl
theorem q2096 : (Jvm.Cond.selects "PatternforgeModel" ({ cls := "PatternforgeModel", name := "guard", desc := "(IIII)I" } : Jvm.MethodName) ({ cls := "PatternforgeModel", name := "guard", desc := "(IIII)I" } : Jvm.MethodName)) ∈ lw_all := lw_g (lw_at lw_m9 81 rfl) rfl
theorem q2097 : (Jvm.Cond.code ({ cls := "PatternforgeModel", name := "guard", desc := "(IIII)I" } : Jvm.MethodName) prog_23_method_35_code (8 : Nat) (Option.some Jvm.ClassFile.FieldType.int)) ∈ lw_all := lw_g (lw_at lw_m9 82 rfl) rfl
theorem q2098 : (Jvm.Cond.methodLink "PatternforgeModel" (248 : Nat) ({ cls := "PatternforgeModel", name := "isCase", desc := "(I)Z" } : Jvm.MethodName)) ∈ lw_all := lw_g (lw_at lw_m9 83 rfl) rfl
theorem q2099 : (Jvm.Cond.privateMethod ({ cls := "PatternforgeModel", name := "isCase", desc := "(I)Z" } : Jvm.MethodName)) ∈ lw_tbl := lw_at lw_m9 84 rfl
theorem q2100 : (Jvm.Cond.instanceMethod ({ cls := "PatternforgeModel", name := "isCase", desc := "(I)Z" } : Jvm.MethodName)) ∈ lw_all := lw_g (lw_at lw_m9 85 rfl) rfl
theorem q2101 : (Jvm.Cond.code ({ cls := "PatternforgeModel", name := "isCase", desc := "(I)Z" } : Jvm.MethodName) prog_23_method_33_code (2 : Nat) (Option.some Jvm.ClassFile.FieldType.boolean)) ∈ lw_all := lw_g (lw_at lw_m9 86 rfl) rfl
theorem q2102 : (Jvm.Cond.methodLink "PatternforgeModel" (251 : Nat) ({ cls := "PatternforgeModel", name := "bindsNumber", desc := "(II)Z" } : Jvm.MethodName)) ∈ lw_all := lw_g (lw_at lw_m9 87 rfl) rfl
theorem q2103 : (Jvm.Cond.privateMethod ({ cls := "PatternforgeModel", name := "bindsNumber", desc := "(II)Z" } : Jvm.MethodName)) ∈ lw_tbl := lw_at lw_m9 88 rfl
theorem q2104 : (Jvm.Cond.instanceMethod ({ cls := "PatternforgeModel", name := "bindsNumber", desc := "(II)Z" } : Jvm.MethodName)) ∈ lw_all := lw_g (lw_at lw_m9 89 rfl) rfl
theorem q2105 : (Jvm.Cond.code ({ cls := "PatternforgeModel", name := "bindsNumber", desc := "(II)Z" } : Jvm.MethodName) prog_23_method_34_code (11 : Nat) (Option.some Jvm.ClassFile.FieldType.boolean)) ∈ lw_all := lw_g (lw_at lw_m9 90 rfl) rfl
theorem q2107 : (Jvm.Cond.instanceMethod ({ cls := "PatternforgeModel", name := "split", desc := "(II)I" } : Jvm.MethodName)) ∈ lw_all := lw_g (lw_at lw_m9 92 rfl) rfl
theorem q2108 : (Jvm.Cond.selects "PatternforgeModel" ({ cls := "PatternforgeModel", name := "split", desc := "(II)I" } : Jvm.MethodName) ({ cls := "PatternforgeModel", name := "split", desc := "(II)I" } : Jvm.MethodName)) ∈ lw_all := lw_g (lw_at lw_m9 93 rfl) rfl
theorem q2109 : (Jvm.Cond.code ({ cls := "PatternforgeModel", name := "split", desc := "(II)I" } : Jvm.MethodName) prog_23_method_36_code (6 : Nat) (Option.some Jvm.ClassFile.FieldType.int)) ∈ lw_all := lw_g (lw_at lw_m9 94 rfl) rfl
theorem q2111 : (Jvm.Cond.instanceMethod ({ cls := "PatternforgeModel", name := "merge", desc := "(II)I" } : Jvm.MethodName)) ∈ lw_all := lw_g (lw_at lw_m9 96 rfl) rfl
theorem q2112 : (Jvm.Cond.selects "PatternforgeModel" ({ cls := "PatternforgeModel", name := "merge", desc := "(II)I" } : Jvm.MethodName) ({ cls := "PatternforgeModel", name := "merge", desc := "(II)I" } : Jvm.MethodName)) ∈ lw_all := lw_g (lw_at lw_m9 97 rfl) rfl
theorem q2113 : (Jvm.Cond.code ({ cls := "PatternforgeModel", name := "merge", desc := "(II)I" } : Jvm.MethodName) prog_23_method_37_code (8 : Nat) (Option.some Jvm.ClassFile.FieldType.int)) ∈ lw_all := lw_g (lw_at lw_m9 98 rfl) rfl
theorem q2115 : (Jvm.Cond.instanceMethod ({ cls := "PatternforgeModel", name := "run", desc := "(IIII)I" } : Jvm.MethodName)) ∈ lw_all := lw_g (lw_at lw_m9 100 rfl) rfl
theorem q2116 : (Jvm.Cond.selects "PatternforgeModel" ({ cls := "PatternforgeModel", name := "run", desc := "(IIII)I" } : Jvm.MethodName) ({ cls := "PatternforgeModel", name := "run", desc := "(IIII)I" } : Jvm.MethodName)) ∈ lw_all := lw_g (lw_at lw_m9 101 rfl) rfl
theorem q2117 : (Jvm.Cond.code ({ cls := "PatternforgeModel", name := "run", desc := "(IIII)I" } : Jvm.MethodName) prog_23_method_66_code (10 : Nat) (Option.some Jvm.ClassFile.FieldType.int)) ∈ lw_all := lw_g (lw_at lw_m9 102 rfl) rfl
theorem q2118 : (Jvm.Cond.methodLink "PatternforgeModel" (364 : Nat) ({ cls := "PatternforgeModel", name := "build", desc := "(I)V" } : Jvm.MethodName)) ∈ lw_all := lw_g (lw_at lw_m9 103 rfl) rfl
theorem q2119 : (Jvm.Cond.privateMethod ({ cls := "PatternforgeModel", name := "build", desc := "(I)V" } : Jvm.MethodName)) ∈ lw_tbl := lw_at lw_m9 104 rfl
theorem q2120 : (Jvm.Cond.instanceMethod ({ cls := "PatternforgeModel", name := "build", desc := "(I)V" } : Jvm.MethodName)) ∈ lw_all := lw_g (lw_at lw_m9 105 rfl) rfl
theorem q2121 : (Jvm.Cond.code ({ cls := "PatternforgeModel", name := "build", desc := "(I)V" } : Jvm.MethodName) prog_23_method_60_code (3 : Nat) (Option.none : Option Jvm.ClassFile.FieldType)) ∈ lw_all := lw_g (lw_at lw_m9 106 rfl) rfl
theorem q2122 : (Jvm.Cond.methodLink "PatternforgeModel" (345 : Nat) ({ cls := "PatternforgeModel", name := "node", desc := "(IIII)I" } : Jvm.MethodName)) ∈ lw_all := lw_g (lw_at lw_m9 107 rfl) rfl
theorem q2123 : (Jvm.Cond.privateMethod ({ cls := "PatternforgeModel", name := "node", desc := "(IIII)I" } : Jvm.MethodName)) ∈ lw_tbl := lw_at lw_m9 108 rfl
theorem q2124 : (Jvm.Cond.instanceMethod ({ cls := "PatternforgeModel", name := "node", desc := "(IIII)I" } : Jvm.MethodName)) ∈ lw_all := lw_g (lw_at lw_m9 109 rfl) rfl
theorem q2125 : (Jvm.Cond.code ({ cls := "PatternforgeModel", name := "node", desc := "(IIII)I" } : Jvm.MethodName) prog_23_method_55_code (5 : Nat) (Option.some Jvm.ClassFile.FieldType.int)) ∈ lw_all := lw_g (lw_at lw_m9 110 rfl) rfl
theorem q2126 : (Jvm.Cond.methodLink "PatternforgeModel" (351 : Nat) ({ cls := "PatternforgeModel", name := "lay", desc := "(II)Z" } : Jvm.MethodName)) ∈ lw_all := lw_g (lw_at lw_m9 111 rfl) rfl
theorem q2127 : (Jvm.Cond.privateMethod ({ cls := "PatternforgeModel", name := "lay", desc := "(II)Z" } : Jvm.MethodName)) ∈ lw_tbl := lw_at lw_m9 112 rfl
theorem q2128 : (Jvm.Cond.instanceMethod ({ cls := "PatternforgeModel", name := "lay", desc := "(II)Z" } : Jvm.MethodName)) ∈ lw_all := lw_g (lw_at lw_m9 113 rfl) rfl
theorem q2129 : (Jvm.Cond.code ({ cls := "PatternforgeModel", name := "lay", desc := "(II)Z" } : Jvm.MethodName) prog_23_method_59_code (10 : Nat) (Option.some Jvm.ClassFile.FieldType.boolean)) ∈ lw_all := lw_g (lw_at lw_m9 114 rfl) rfl
theorem q2130 : (Jvm.Cond.methodLink "PatternforgeModel" (330 : Nat) ({ cls := "PatternforgeModel", name := "hasFailed", desc := "(I)Z" } : Jvm.MethodName)) ∈ lw_all := lw_g (lw_at lw_m9 115 rfl) rfl
theorem q2131 : (Jvm.Cond.privateMethod ({ cls := "PatternforgeModel", name := "hasFailed", desc := "(I)Z" } : Jvm.MethodName)) ∈ lw_tbl := lw_at lw_m9 116 rfl
theorem q2132 : (Jvm.Cond.instanceMethod ({ cls := "PatternforgeModel", name := "hasFailed", desc := "(I)Z" } : Jvm.MethodName)) ∈ lw_all := lw_g (lw_at lw_m9 117 rfl) rfl
theorem q2133 : (Jvm.Cond.code ({ cls := "PatternforgeModel", name := "hasFailed", desc := "(I)Z" } : Jvm.MethodName) prog_23_method_44_code (4 : Nat) (Option.some Jvm.ClassFile.FieldType.boolean)) ∈ lw_all := lw_g (lw_at lw_m9 118 rfl) rfl
theorem q2134 : (Jvm.Cond.methodLink "PatternforgeModel" (333 : Nat) ({ cls := "PatternforgeModel", name := "tryCase", desc := "(I)I" } : Jvm.MethodName)) ∈ lw_all := lw_g (lw_at lw_m9 119 rfl) rfl
theorem q2135 : (Jvm.Cond.privateMethod ({ cls := "PatternforgeModel", name := "tryCase", desc := "(I)I" } : Jvm.MethodName)) ∈ lw_tbl := lw_at lw_m9 120 rfl
theorem q2136 : (Jvm.Cond.instanceMethod ({ cls := "PatternforgeModel", name := "tryCase", desc := "(I)I" } : Jvm.MethodName)) ∈ lw_all := lw_g (lw_at lw_m9 121 rfl) rfl
theorem q2137 : (Jvm.Cond.code ({ cls := "PatternforgeModel", name := "tryCase", desc := "(I)I" } : Jvm.MethodName) prog_23_method_50_code (3 : Nat) (Option.some Jvm.ClassFile.FieldType.int)) ∈ lw_all := lw_g (lw_at lw_m9 122 rfl) rfl
theorem q2138 : (Jvm.Cond.methodLink "PatternforgeModel" (280 : Nat) ({ cls := "PatternforgeModel", name := "push", desc := "(II)V" } : Jvm.MethodName)) ∈ lw_all := lw_g (lw_at lw_m9 123 rfl) rfl
theorem q2139 : (Jvm.Cond.privateMethod ({ cls := "PatternforgeModel", name := "push", desc := "(II)V" } : Jvm.MethodName)) ∈ lw_tbl := lw_at lw_m9 124 rfl
theorem q2140 : (Jvm.Cond.instanceMethod ({ cls := "PatternforgeModel", name := "push", desc := "(II)V" } : Jvm.MethodName)) ∈ lw_all := lw_g (lw_at lw_m9 125 rfl) rfl
theorem q2141 : (Jvm.Cond.code ({ cls := "PatternforgeModel", name := "push", desc := "(II)V" } : Jvm.MethodName) prog_23_method_45_code (3 : Nat) (Option.none : Option Jvm.ClassFile.FieldType)) ∈ lw_all := lw_g (lw_at lw_m9 126 rfl) rfl
theorem q2142 : (Jvm.Cond.methodLink "PatternforgeModel" (289 : Nat) ({ cls := "PatternforgeModel", name := "took", desc := "()I" } : Jvm.MethodName)) ∈ lw_all := lw_g (lw_at lw_m9 127 rfl) rfl
theorem q2143 : (Jvm.Cond.privateMethod ({ cls := "PatternforgeModel", name := "took", desc := "()I" } : Jvm.MethodName)) ∈ lw_tbl := lw_at lw_m9 128 rfl
theorem q2144 : (Jvm.Cond.instanceMethod ({ cls := "PatternforgeModel", name := "took", desc := "()I" } : Jvm.MethodName)) ∈ lw_all := lw_g (lw_at lw_m9 129 rfl) rfl
theorem q2145 : (Jvm.Cond.code ({ cls := "PatternforgeModel", name := "took", desc := "()I" } : Jvm.MethodName) prog_23_method_51_code (1 : Nat) (Option.some Jvm.ClassFile.FieldType.int)) ∈ lw_all := lw_g (lw_at lw_m9 130 rfl) rfl
theorem q2146 : (Jvm.Cond.methodLink "PatternforgeModel" (293 : Nat) ({ cls := "PatternforgeModel", name := "matches", desc := "(II)I" } : Jvm.MethodName)) ∈ lw_all := lw_g (lw_at lw_m9 131 rfl) rfl
theorem q2147 : (Jvm.Cond.privateMethod ({ cls := "PatternforgeModel", name := "matches", desc := "(II)I" } : Jvm.MethodName)) ∈ lw_tbl := lw_at lw_m9 132 rfl
theorem q2148 : (Jvm.Cond.instanceMethod ({ cls := "PatternforgeModel", name := "matches", desc := "(II)I" } : Jvm.MethodName)) ∈ lw_all := lw_g (lw_at lw_m9 133 rfl) rfl
theorem q2149 : (Jvm.Cond.code ({ cls := "PatternforgeModel", name := "matches", desc := "(II)I" } : Jvm.MethodName) prog_23_method_52_code (5 : Nat) (Option.some Jvm.ClassFile.FieldType.int)) ∈ lw_all := lw_g (lw_at lw_m9 134 rfl) rfl
theorem q2150 : (Jvm.Cond.methodLink "PatternforgeModel" (299 : Nat) ({ cls := "PatternforgeModel", name := "gave", desc := "(II)I" } : Jvm.MethodName)) ∈ lw_all := lw_g (lw_at lw_m9 135 rfl) rfl
theorem q2151 : (Jvm.Cond.privateMethod ({ cls := "PatternforgeModel", name := "gave", desc := "(II)I" } : Jvm.MethodName)) ∈ lw_tbl := lw_at lw_m9 136 rfl
theorem q2152 : (Jvm.Cond.instanceMethod ({ cls := "PatternforgeModel", name := "gave", desc := "(II)I" } : Jvm.MethodName)) ∈ lw_all := lw_g (lw_at lw_m9 137 rfl) rfl
theorem q2153 : (Jvm.Cond.code ({ cls := "PatternforgeModel", name := "gave", desc := "(II)I" } : Jvm.MethodName) prog_23_method_43_code (6 : Nat) (Option.some Jvm.ClassFile.FieldType.int)) ∈ lw_all := lw_g (lw_at lw_m9 138 rfl) rfl
theorem q2154 : (Jvm.Cond.methodLink "PatternforgeModel" (271 : Nat) ({ cls := "PatternforgeModel", name := "measureAt", desc := "(I)I" } : Jvm.MethodName)) ∈ lw_all := lw_g (lw_at lw_m9 139 rfl) rfl
theorem q2155 : (Jvm.Cond.privateMethod ({ cls := "PatternforgeModel", name := "measureAt", desc := "(I)I" } : Jvm.MethodName)) ∈ lw_tbl := lw_at lw_m9 140 rfl
theorem q2156 : (Jvm.Cond.instanceMethod ({ cls := "PatternforgeModel", name := "measureAt", desc := "(I)I" } : Jvm.MethodName)) ∈ lw_all := lw_g (lw_at lw_m9 141 rfl) rfl
theorem q2157 : (Jvm.Cond.code ({ cls := "PatternforgeModel", name := "measureAt", desc := "(I)I" } : Jvm.MethodName) prog_23_method_41_code (3 : Nat) (Option.some Jvm.ClassFile.FieldType.int)) ∈ lw_all := lw_g (lw_at lw_m9 142 rfl) rfl
theorem q2158 : (Jvm.Cond.methodLink "PatternforgeModel" (258 : Nat) ({ cls := "PatternforgeModel", name := "valueAt", desc := "(I)I" } : Jvm.MethodName)) ∈ lw_all := lw_g (lw_at lw_m9 143 rfl) rfl
theorem q2159 : (Jvm.Cond.privateMethod ({ cls := "PatternforgeModel", name := "valueAt", desc := "(I)I" } : Jvm.MethodName)) ∈ lw_tbl := lw_at lw_m9 144 rfl
theorem q2160 : (Jvm.Cond.instanceMethod ({ cls := "PatternforgeModel", name := "valueAt", desc := "(I)I" } : Jvm.MethodName)) ∈ lw_all := lw_g (lw_at lw_m9 145 rfl) rfl
theorem q2161 : (Jvm.Cond.code ({ cls := "PatternforgeModel", name := "valueAt", desc := "(I)I" } : Jvm.MethodName) prog_23_method_39_code (6 : Nat) (Option.some Jvm.ClassFile.FieldType.int)) ∈ lw_all := lw_g (lw_at lw_m9 146 rfl) rfl
theorem q2162 : (Jvm.Cond.methodLink "PatternforgeModel" (254 : Nat) ({ cls := "PatternforgeModel", name := "wayTo", desc := "(I)I" } : Jvm.MethodName)) ∈ lw_all := lw_g (lw_at lw_m9 147 rfl) rfl
theorem q2163 : (Jvm.Cond.privateMethod ({ cls := "PatternforgeModel", name := "wayTo", desc := "(I)I" } : Jvm.MethodName)) ∈ lw_tbl := lw_at lw_m9 148 rfl
theorem q2164 : (Jvm.Cond.instanceMethod ({ cls := "PatternforgeModel", name := "wayTo", desc := "(I)I" } : Jvm.MethodName)) ∈ lw_all := lw_g (lw_at lw_m9 149 rfl) rfl
theorem q2165 : (Jvm.Cond.code ({ cls := "PatternforgeModel", name := "wayTo", desc := "(I)I" } : Jvm.MethodName) prog_23_method_38_code (4 : Nat) (Option.some Jvm.ClassFile.FieldType.int)) ∈ lw_all := lw_g (lw_at lw_m9 150 rfl) rfl
theorem q2166 : (Jvm.Cond.methodLink "PatternforgeModel" (305 : Nat) ({ cls := "PatternforgeModel", name := "factAt", desc := "(I)I" } : Jvm.MethodName)) ∈ lw_all := lw_g (lw_at lw_m9 151 rfl) rfl
theorem q2167 : (Jvm.Cond.privateMethod ({ cls := "PatternforgeModel", name := "factAt", desc := "(I)I" } : Jvm.MethodName)) ∈ lw_tbl := lw_at lw_m9 152 rfl
theorem q2168 : (Jvm.Cond.instanceMethod ({ cls := "PatternforgeModel", name := "factAt", desc := "(I)I" } : Jvm.MethodName)) ∈ lw_all := lw_g (lw_at lw_m9 153 rfl) rfl
theorem q2169 : (Jvm.Cond.code ({ cls := "PatternforgeModel", name := "factAt", desc := "(I)I" } : Jvm.MethodName) prog_23_method_42_code (4 : Nat) (Option.some Jvm.ClassFile.FieldType.int)) ∈ lw_all := lw_g (lw_at lw_m9 154 rfl) rfl
theorem q2170 : (Jvm.Cond.methodLink "PatternforgeModel" (265 : Nat) ({ cls := "PatternforgeModel", name := "headAt", desc := "(I)I" } : Jvm.MethodName)) ∈ lw_all := lw_g (lw_at lw_m9 155 rfl) rfl
theorem q2171 : (Jvm.Cond.privateMethod ({ cls := "PatternforgeModel", name := "headAt", desc := "(I)I" } : Jvm.MethodName)) ∈ lw_tbl := lw_at lw_m9 156 rfl
theorem q2172 : (Jvm.Cond.instanceMethod ({ cls := "PatternforgeModel", name := "headAt", desc := "(I)I" } : Jvm.MethodName)) ∈ lw_all := lw_g (lw_at lw_m9 157 rfl) rfl
theorem q2173 : (Jvm.Cond.code ({ cls := "PatternforgeModel", name := "headAt", desc := "(I)I" } : Jvm.MethodName) prog_23_method_40_code (3 : Nat) (Option.some Jvm.ClassFile.FieldType.int)) ∈ lw_all := lw_g (lw_at lw_m9 158 rfl) rfl
theorem q2174 : (Jvm.Cond.methodLink "PatternforgeModel" (308 : Nat) ({ cls := "PatternforgeModel", name := "isAsked", desc := "(II)Z" } : Jvm.MethodName)) ∈ lw_all := lw_g (lw_at lw_m9 159 rfl) rfl
theorem q2175 : (Jvm.Cond.privateMethod ({ cls := "PatternforgeModel", name := "isAsked", desc := "(II)Z" } : Jvm.MethodName)) ∈ lw_tbl := lw_at lw_m9 160 rfl
theorem q2176 : (Jvm.Cond.instanceMethod ({ cls := "PatternforgeModel", name := "isAsked", desc := "(II)Z" } : Jvm.MethodName)) ∈ lw_all := lw_g (lw_at lw_m9 161 rfl) rfl
theorem q2177 : (Jvm.Cond.code ({ cls := "PatternforgeModel", name := "isAsked", desc := "(II)Z" } : Jvm.MethodName) prog_23_method_47_code (3 : Nat) (Option.some Jvm.ClassFile.FieldType.boolean)) ∈ lw_all := lw_g (lw_at lw_m9 162 rfl) rfl
theorem q2178 : (Jvm.Cond.methodLink "PatternforgeModel" (311 : Nat) ({ cls := "PatternforgeModel", name := "isRight", desc := "(II)Z" } : Jvm.MethodName)) ∈ lw_all := lw_g (lw_at lw_m9 163 rfl) rfl
theorem q2179 : (Jvm.Cond.privateMethod ({ cls := "PatternforgeModel", name := "isRight", desc := "(II)Z" } : Jvm.MethodName)) ∈ lw_tbl := lw_at lw_m9 164 rfl
theorem q2180 : (Jvm.Cond.instanceMethod ({ cls := "PatternforgeModel", name := "isRight", desc := "(II)Z" } : Jvm.MethodName)) ∈ lw_all := lw_g (lw_at lw_m9 165 rfl) rfl
theorem q2181 : (Jvm.Cond.code ({ cls := "PatternforgeModel", name := "isRight", desc := "(II)Z" } : Jvm.MethodName) prog_23_method_53_code (3 : Nat) (Option.some Jvm.ClassFile.FieldType.boolean)) ∈ lw_all := lw_g (lw_at lw_m9 166 rfl) rfl
theorem q2182 : (Jvm.Cond.methodLink "PatternforgeModel" (318 : Nat) ({ cls := "PatternforgeModel", name := "fitsLength", desc := "(II)Z" } : Jvm.MethodName)) ∈ lw_all := lw_g (lw_at lw_m9 167 rfl) rfl
theorem q2183 : (Jvm.Cond.privateMethod ({ cls := "PatternforgeModel", name := "fitsLength", desc := "(II)Z" } : Jvm.MethodName)) ∈ lw_tbl := lw_at lw_m9 168 rfl
theorem q2184 : (Jvm.Cond.instanceMethod ({ cls := "PatternforgeModel", name := "fitsLength", desc := "(II)Z" } : Jvm.MethodName)) ∈ lw_all := lw_g (lw_at lw_m9 169 rfl) rfl
theorem q2185 : (Jvm.Cond.code ({ cls := "PatternforgeModel", name := "fitsLength", desc := "(II)Z" } : Jvm.MethodName) prog_23_method_48_code (3 : Nat) (Option.some Jvm.ClassFile.FieldType.boolean)) ∈ lw_all := lw_g (lw_at lw_m9 170 rfl) rfl
theorem q2186 : (Jvm.Cond.methodLink "PatternforgeModel" (314 : Nat) ({ cls := "PatternforgeModel", name := "pushParts", desc := "(III)V" } : Jvm.MethodName)) ∈ lw_all := lw_g (lw_at lw_m9 171 rfl) rfl
theorem q2187 : (Jvm.Cond.privateMethod ({ cls := "PatternforgeModel", name := "pushParts", desc := "(III)V" } : Jvm.MethodName)) ∈ lw_tbl := lw_at lw_m9 172 rfl
theorem q2188 : (Jvm.Cond.instanceMethod ({ cls := "PatternforgeModel", name := "pushParts", desc := "(III)V" } : Jvm.MethodName)) ∈ lw_all := lw_g (lw_at lw_m9 173 rfl) rfl
theorem q2189 : (Jvm.Cond.code ({ cls := "PatternforgeModel", name := "pushParts", desc := "(III)V" } : Jvm.MethodName) prog_23_method_49_code (6 : Nat) (Option.none : Option Jvm.ClassFile.FieldType)) ∈ lw_all := lw_g (lw_at lw_m9 174 rfl) rfl
theorem q2190 : (Jvm.Cond.methodLink "PatternforgeModel" (296 : Nat) ({ cls := "PatternforgeModel", name := "turns", desc := "()Z" } : Jvm.MethodName)) ∈ lw_all := lw_g (lw_at lw_m9 175 rfl) rfl
theorem q2191 : (Jvm.Cond.privateMethod ({ cls := "PatternforgeModel", name := "turns", desc := "()Z" } : Jvm.MethodName)) ∈ lw_tbl := lw_at lw_m9 176 rfl
theorem q2192 : (Jvm.Cond.instanceMethod ({ cls := "PatternforgeModel", name := "turns", desc := "()Z" } : Jvm.MethodName)) ∈ lw_all := lw_g (lw_at lw_m9 177 rfl) rfl
theorem q2193 : (Jvm.Cond.code ({ cls := "PatternforgeModel", name := "turns", desc := "()Z" } : Jvm.MethodName) prog_23_method_46_code (1 : Nat) (Option.some Jvm.ClassFile.FieldType.boolean)) ∈ lw_all := lw_g (lw_at lw_m9 178 rfl) rfl
theorem q2194 : (Jvm.Cond.methodLink "PatternforgeModel" (339 : Nat) ({ cls := "PatternforgeModel", name := "mostNeeded", desc := "()I" } : Jvm.MethodName)) ∈ lw_all := lw_g (lw_at lw_m9 179 rfl) rfl
theorem q2195 : (Jvm.Cond.privateMethod ({ cls := "PatternforgeModel", name := "mostNeeded", desc := "()I" } : Jvm.MethodName)) ∈ lw_tbl := lw_at lw_m9 180 rfl
theorem q2196 : (Jvm.Cond.instanceMethod ({ cls := "PatternforgeModel", name := "mostNeeded", desc := "()I" } : Jvm.MethodName)) ∈ lw_all := lw_g (lw_at lw_m9 181 rfl) rfl
theorem q2197 : (Jvm.Cond.code ({ cls := "PatternforgeModel", name := "mostNeeded", desc := "()I" } : Jvm.MethodName) prog_23_method_58_code (4 : Nat) (Option.some Jvm.ClassFile.FieldType.int)) ∈ lw_all := lw_g (lw_at lw_m9 182 rfl) rfl
theorem q2198 : (Jvm.Cond.methodLink "PatternforgeModel" (336 : Nat) ({ cls := "PatternforgeModel", name := "needsOf", desc := "(I)V" } : Jvm.MethodName)) ∈ lw_all := lw_g (lw_at lw_m9 183 rfl) rfl
theorem q2199 : (Jvm.Cond.privateMethod ({ cls := "PatternforgeModel", name := "needsOf", desc := "(I)V" } : Jvm.MethodName)) ∈ lw_tbl := lw_at lw_m9 184 rfl
theorem q2200 : (Jvm.Cond.instanceMethod ({ cls := "PatternforgeModel", name := "needsOf", desc := "(I)V" } : Jvm.MethodName)) ∈ lw_all := lw_g (lw_at lw_m9 185 rfl) rfl
theorem q2201 : (Jvm.Cond.code ({ cls := "PatternforgeModel", name := "needsOf", desc := "(I)V" } : Jvm.MethodName) prog_23_method_57_code (11 : Nat) (Option.none : Option Jvm.ClassFile.FieldType)) ∈ lw_all := lw_g (lw_at lw_m9 186 rfl) rfl
theorem q2202 : (Jvm.Cond.methodLink "PatternforgeModel" (327 : Nat) ({ cls := "PatternforgeModel", name := "need", desc := "(II)V" } : Jvm.MethodName)) ∈ lw_all := lw_g (lw_at lw_m9 187 rfl) rfl
theorem q2203 : (Jvm.Cond.privateMethod ({ cls := "PatternforgeModel", name := "need", desc := "(II)V" } : Jvm.MethodName)) ∈ lw_tbl := lw_at lw_m9 188 rfl
theorem q2204 : (Jvm.Cond.instanceMethod ({ cls := "PatternforgeModel", name := "need", desc := "(II)V" } : Jvm.MethodName)) ∈ lw_all := lw_g (lw_at lw_m9 189 rfl) rfl
theorem q2205 : (Jvm.Cond.code ({ cls := "PatternforgeModel", name := "need", desc := "(II)V" } : Jvm.MethodName) prog_23_method_56_code (5 : Nat) (Option.none : Option Jvm.ClassFile.FieldType)) ∈ lw_all := lw_g (lw_at lw_m9 190 rfl) rfl
theorem q2206 : (Jvm.Cond.methodLink "PatternforgeModel" (342 : Nat) ({ cls := "PatternforgeModel", name := "kindOf", desc := "(I)I" } : Jvm.MethodName)) ∈ lw_all := lw_g (lw_at lw_m9 191 rfl) rfl
theorem q2207 : (Jvm.Cond.privateMethod ({ cls := "PatternforgeModel", name := "kindOf", desc := "(I)I" } : Jvm.MethodName)) ∈ lw_tbl := lw_at lw_m9 192 rfl
theorem q2208 : (Jvm.Cond.instanceMethod ({ cls := "PatternforgeModel", name := "kindOf", desc := "(I)I" } : Jvm.MethodName)) ∈ lw_all := lw_g (lw_at lw_m9 193 rfl) rfl
theorem q2209 : (Jvm.Cond.code ({ cls := "PatternforgeModel", name := "kindOf", desc := "(I)I" } : Jvm.MethodName) prog_23_method_54_code (8 : Nat) (Option.some Jvm.ClassFile.FieldType.int)) ∈ lw_all := lw_g (lw_at lw_m9 194 rfl) rfl
theorem q2210 : (Jvm.Cond.methodLink "PatternforgeModel" (367 : Nat) ({ cls := "PatternforgeModel", name := "runTree", desc := "()I" } : Jvm.MethodName)) ∈ lw_all := lw_g (lw_at lw_m9 195 rfl) rfl
theorem q2211 : (Jvm.Cond.privateMethod ({ cls := "PatternforgeModel", name := "runTree", desc := "()I" } : Jvm.MethodName)) ∈ lw_tbl := lw_at lw_m9 196 rfl
theorem q2212 : (Jvm.Cond.instanceMethod ({ cls := "PatternforgeModel", name := "runTree", desc := "()I" } : Jvm.MethodName)) ∈ lw_all := lw_g (lw_at lw_m9 197 rfl) rfl
theorem q2213 : (Jvm.Cond.code ({ cls := "PatternforgeModel", name := "runTree", desc := "()I" } : Jvm.MethodName) prog_23_method_64_code (3 : Nat) (Option.some Jvm.ClassFile.FieldType.int)) ∈ lw_all := lw_g (lw_at lw_m9 198 rfl) rfl
theorem q2214 : (Jvm.Cond.methodLink "PatternforgeModel" (361 : Nat) ({ cls := "PatternforgeModel", name := "bindBy", desc := "(II)V" } : Jvm.MethodName)) ∈ lw_all := lw_g (lw_at lw_m9 199 rfl) rfl
theorem q2215 : (Jvm.Cond.privateMethod ({ cls := "PatternforgeModel", name := "bindBy", desc := "(II)V" } : Jvm.MethodName)) ∈ lw_tbl := lw_at lw_m9 200 rfl
theorem q2216 : (Jvm.Cond.instanceMethod ({ cls := "PatternforgeModel", name := "bindBy", desc := "(II)V" } : Jvm.MethodName)) ∈ lw_all := lw_g (lw_at lw_m9 201 rfl) rfl
theorem q2217 : (Jvm.Cond.code ({ cls := "PatternforgeModel", name := "bindBy", desc := "(II)V" } : Jvm.MethodName) prog_23_method_65_code (3 : Nat) (Option.none : Option Jvm.ClassFile.FieldType)) ∈ lw_all := lw_g (lw_at lw_m9 202 rfl) rfl
theorem q2218 : (Jvm.Cond.methodLink "PatternforgeModel" (354 : Nat) ({ cls := "PatternforgeModel", name := "guarded", desc := "(I)I" } : Jvm.MethodName)) ∈ lw_all := lw_g (lw_at lw_m9 203 rfl) rfl
theorem q2219 : (Jvm.Cond.privateMethod ({ cls := "PatternforgeModel", name := "guarded", desc := "(I)I" } : Jvm.MethodName)) ∈ lw_tbl := lw_at lw_m9 204 rfl
theorem q2220 : (Jvm.Cond.instanceMethod ({ cls := "PatternforgeModel", name := "guarded", desc := "(I)I" } : Jvm.MethodName)) ∈ lw_all := lw_g (lw_at lw_m9 205 rfl) rfl
theorem q2221 : (Jvm.Cond.code ({ cls := "PatternforgeModel", name := "guarded", desc := "(I)I" } : Jvm.MethodName) prog_23_method_61_code (6 : Nat) (Option.some Jvm.ClassFile.FieldType.int)) ∈ lw_all := lw_g (lw_at lw_m9 206 rfl) rfl
theorem q2222 : (Jvm.Cond.methodLink "PatternforgeModel" (357 : Nat) ({ cls := "PatternforgeModel", name := "end", desc := "(IZ)I" } : Jvm.MethodName)) ∈ lw_all := lw_g (lw_at lw_m9 207 rfl) rfl
theorem q2223 : (Jvm.Cond.privateMethod ({ cls := "PatternforgeModel", name := "end", desc := "(IZ)I" } : Jvm.MethodName)) ∈ lw_tbl := lw_at lw_m9 208 rfl
theorem q2224 : (Jvm.Cond.instanceMethod ({ cls := "PatternforgeModel", name := "end", desc := "(IZ)I" } : Jvm.MethodName)) ∈ lw_all := lw_g (lw_at lw_m9 209 rfl) rfl
theorem q2225 : (Jvm.Cond.code ({ cls := "PatternforgeModel", name := "end", desc := "(IZ)I" } : Jvm.MethodName) prog_23_method_62_code (4 : Nat) (Option.some Jvm.ClassFile.FieldType.int)) ∈ lw_all := lw_g (lw_at lw_m9 210 rfl) rfl
theorem q2226 : (Jvm.Cond.methodLink "PatternforgeModel" (370 : Nat) ({ cls := "PatternforgeModel", name := "runPlain", desc := "()I" } : Jvm.MethodName)) ∈ lw_all := lw_g (lw_at lw_m9 211 rfl) rfl
theorem q2227 : (Jvm.Cond.privateMethod ({ cls := "PatternforgeModel", name := "runPlain", desc := "()I" } : Jvm.MethodName)) ∈ lw_tbl := lw_at lw_m9 212 rfl
theorem q2228 : (Jvm.Cond.instanceMethod ({ cls := "PatternforgeModel", name := "runPlain", desc := "()I" } : Jvm.MethodName)) ∈ lw_all := lw_g (lw_at lw_m9 213 rfl) rfl
theorem q2229 : (Jvm.Cond.code ({ cls := "PatternforgeModel", name := "runPlain", desc := "()I" } : Jvm.MethodName) prog_23_method_63_code (3 : Nat) (Option.some Jvm.ClassFile.FieldType.int)) ∈ lw_all := lw_g (lw_at lw_m9 214 rfl) rfl
theorem q2231 : (Jvm.Cond.instanceMethod ({ cls := "PatternforgeModel", name := "tests", desc := "()I" } : Jvm.MethodName)) ∈ lw_all := lw_g (lw_at lw_m9 216 rfl) rfl
theorem q2232 : (Jvm.Cond.selects "PatternforgeModel" ({ cls := "PatternforgeModel", name := "tests", desc := "()I" } : Jvm.MethodName) ({ cls := "PatternforgeModel", name := "tests", desc := "()I" } : Jvm.MethodName)) ∈ lw_all := lw_g (lw_at lw_m9 217 rfl) rfl
theorem q2233 : (Jvm.Cond.code ({ cls := "PatternforgeModel", name := "tests", desc := "()I" } : Jvm.MethodName) prog_23_method_67_code (1 : Nat) (Option.some Jvm.ClassFile.FieldType.int)) ∈ lw_all := lw_g (lw_at lw_m9 218 rfl) rfl
theorem q2235 : (Jvm.Cond.instanceMethod ({ cls := "PatternforgeModel", name := "views", desc := "()I" } : Jvm.MethodName)) ∈ lw_all := lw_g (lw_at lw_m9 220 rfl) rfl
theorem q2236 : (Jvm.Cond.selects "PatternforgeModel" ({ cls := "PatternforgeModel", name := "views", desc := "()I" } : Jvm.MethodName) ({ cls := "PatternforgeModel", name := "views", desc := "()I" } : Jvm.MethodName)) ∈ lw_all := lw_g (lw_at lw_m9 221 rfl) rfl
theorem q2237 : (Jvm.Cond.code ({ cls := "PatternforgeModel", name := "views", desc := "()I" } : Jvm.MethodName) prog_23_method_68_code (1 : Nat) (Option.some Jvm.ClassFile.FieldType.int)) ∈ lw_all := lw_g (lw_at lw_m9 222 rfl) rfl
theorem q2239 : (Jvm.Cond.instanceMethod ({ cls := "PatternforgeModel", name := "viewAt", desc := "(I)I" } : Jvm.MethodName)) ∈ lw_all := lw_g (lw_at lw_m9 224 rfl) rfl
theorem q2240 : (Jvm.Cond.selects "PatternforgeModel" ({ cls := "PatternforgeModel", name := "viewAt", desc := "(I)I" } : Jvm.MethodName) ({ cls := "PatternforgeModel", name := "viewAt", desc := "(I)I" } : Jvm.MethodName)) ∈ lw_all := lw_g (lw_at lw_m9 225 rfl) rfl
theorem q2241 : (Jvm.Cond.code ({ cls := "PatternforgeModel", name := "viewAt", desc := "(I)I" } : Jvm.MethodName) prog_23_method_69_code (2 : Nat) (Option.some Jvm.ClassFile.FieldType.int)) ∈ lw_all := lw_g (lw_at lw_m9 226 rfl) rfl
theorem q2242 : (Jvm.Cond.constant "PatternforgeModel" (373 : Nat) (100000 : Int32)) ∈ lw_all := lw_g (lw_at lw_m9 227 rfl) rfl
theorem q2244 : (Jvm.Cond.instanceMethod ({ cls := "PatternforgeModel", name := "bound", desc := "(I)I" } : Jvm.MethodName)) ∈ lw_all := lw_g (lw_at lw_m9 229 rfl) rfl
theorem q2245 : (Jvm.Cond.selects "PatternforgeModel" ({ cls := "PatternforgeModel", name := "bound", desc := "(I)I" } : Jvm.MethodName) ({ cls := "PatternforgeModel", name := "bound", desc := "(I)I" } : Jvm.MethodName)) ∈ lw_all := lw_g (lw_at lw_m9 230 rfl) rfl
theorem q2246 : (Jvm.Cond.code ({ cls := "PatternforgeModel", name := "bound", desc := "(I)I" } : Jvm.MethodName) prog_23_method_70_code (2 : Nat) (Option.some Jvm.ClassFile.FieldType.int)) ∈ lw_all := lw_g (lw_at lw_m9 231 rfl) rfl
theorem q2248 : (Jvm.Cond.instanceMethod ({ cls := "PatternforgeModel", name := "taken", desc := "(I)I" } : Jvm.MethodName)) ∈ lw_all := lw_g (lw_at lw_m9 233 rfl) rfl
theorem q2249 : (Jvm.Cond.selects "PatternforgeModel" ({ cls := "PatternforgeModel", name := "taken", desc := "(I)I" } : Jvm.MethodName) ({ cls := "PatternforgeModel", name := "taken", desc := "(I)I" } : Jvm.MethodName)) ∈ lw_all := lw_g (lw_at lw_m9 234 rfl) rfl
theorem q2250 : (Jvm.Cond.code ({ cls := "PatternforgeModel", name := "taken", desc := "(I)I" } : Jvm.MethodName) prog_23_method_71_code (2 : Nat) (Option.some Jvm.ClassFile.FieldType.int)) ∈ lw_all := lw_g (lw_at lw_m9 235 rfl) rfl
theorem q2252 : (Jvm.Cond.instanceMethod ({ cls := "PatternforgeModel", name := "size", desc := "(IZ)I" } : Jvm.MethodName)) ∈ lw_all := lw_g (lw_at lw_m9 237 rfl) rfl
theorem q2253 : (Jvm.Cond.selects "PatternforgeModel" ({ cls := "PatternforgeModel", name := "size", desc := "(IZ)I" } : Jvm.MethodName) ({ cls := "PatternforgeModel", name := "size", desc := "(IZ)I" } : Jvm.MethodName)) ∈ lw_all := lw_g (lw_at lw_m9 238 rfl) rfl
theorem q2254 : (Jvm.Cond.code ({ cls := "PatternforgeModel", name := "size", desc := "(IZ)I" } : Jvm.MethodName) prog_23_method_75_code (3 : Nat) (Option.some Jvm.ClassFile.FieldType.int)) ∈ lw_all := lw_g (lw_at lw_m9 239 rfl) rfl
theorem q2255 : (Jvm.Cond.methodLink "PatternforgeModel" (380 : Nat) ({ cls := "PatternforgeModel", name := "sharedSize", desc := "()I" } : Jvm.MethodName)) ∈ lw_all := lw_g (lw_at lw_m10 0 rfl) rfl
theorem q2256 : (Jvm.Cond.privateMethod ({ cls := "PatternforgeModel", name := "sharedSize", desc := "()I" } : Jvm.MethodName)) ∈ lw_tbl := lw_at lw_m10 1 rfl
theorem q2257 : (Jvm.Cond.instanceMethod ({ cls := "PatternforgeModel", name := "sharedSize", desc := "()I" } : Jvm.MethodName)) ∈ lw_all := lw_g (lw_at lw_m10 2 rfl) rfl
theorem q2258 : (Jvm.Cond.code ({ cls := "PatternforgeModel", name := "sharedSize", desc := "()I" } : Jvm.MethodName) prog_23_method_73_code (5 : Nat) (Option.some Jvm.ClassFile.FieldType.int)) ∈ lw_all := lw_g (lw_at lw_m10 3 rfl) rfl
theorem q2259 : (Jvm.Cond.methodLink "PatternforgeModel" (374 : Nat) ({ cls := "PatternforgeModel", name := "isOwn", desc := "(I)Z" } : Jvm.MethodName)) ∈ lw_all := lw_g (lw_at lw_m10 4 rfl) rfl
theorem q2260 : (Jvm.Cond.privateMethod ({ cls := "PatternforgeModel", name := "isOwn", desc := "(I)Z" } : Jvm.MethodName)) ∈ lw_tbl := lw_at lw_m10 5 rfl
theorem q2261 : (Jvm.Cond.instanceMethod ({ cls := "PatternforgeModel", name := "isOwn", desc := "(I)Z" } : Jvm.MethodName)) ∈ lw_all := lw_g (lw_at lw_m10 6 rfl) rfl
theorem q2262 : (Jvm.Cond.code ({ cls := "PatternforgeModel", name := "isOwn", desc := "(I)Z" } : Jvm.MethodName) prog_23_method_74_code (4 : Nat) (Option.some Jvm.ClassFile.FieldType.boolean)) ∈ lw_all := lw_g (lw_at lw_m10 7 rfl) rfl
theorem q2263 : (Jvm.Cond.methodLink "PatternforgeModel" (377 : Nat) ({ cls := "PatternforgeModel", name := "isSame", desc := "(II)Z" } : Jvm.MethodName)) ∈ lw_all := lw_g (lw_at lw_m10 8 rfl) rfl
theorem q2264 : (Jvm.Cond.privateMethod ({ cls := "PatternforgeModel", name := "isSame", desc := "(II)Z" } : Jvm.MethodName)) ∈ lw_tbl := lw_at lw_m10 9 rfl
theorem q2265 : (Jvm.Cond.instanceMethod ({ cls := "PatternforgeModel", name := "isSame", desc := "(II)Z" } : Jvm.MethodName)) ∈ lw_all := lw_g (lw_at lw_m10 10 rfl) rfl
theorem q2266 : (Jvm.Cond.code ({ cls := "PatternforgeModel", name := "isSame", desc := "(II)Z" } : Jvm.MethodName) prog_23_method_72_code (5 : Nat) (Option.some Jvm.ClassFile.FieldType.boolean)) ∈ lw_all := lw_g (lw_at lw_m10 11 rfl) rfl
theorem q2268 : (Jvm.Cond.instanceMethod ({ cls := "PatternforgeModel", name := "missing", desc := "()I" } : Jvm.MethodName)) ∈ lw_all := lw_g (lw_at lw_m10 13 rfl) rfl
theorem q2269 : (Jvm.Cond.selects "PatternforgeModel" ({ cls := "PatternforgeModel", name := "missing", desc := "()I" } : Jvm.MethodName) ({ cls := "PatternforgeModel", name := "missing", desc := "()I" } : Jvm.MethodName)) ∈ lw_all := lw_g (lw_at lw_m10 14 rfl) rfl
theorem q2270 : (Jvm.Cond.code ({ cls := "PatternforgeModel", name := "missing", desc := "()I" } : Jvm.MethodName) prog_23_method_76_code (3 : Nat) (Option.some Jvm.ClassFile.FieldType.int)) ∈ lw_all := lw_g (lw_at lw_m10 15 rfl) rfl
theorem q2272 : (Jvm.Cond.instanceMethod ({ cls := "PatternforgeModel", name := "example", desc := "(I)I" } : Jvm.MethodName)) ∈ lw_all := lw_g (lw_at lw_m10 17 rfl) rfl
theorem q2273 : (Jvm.Cond.selects "PatternforgeModel" ({ cls := "PatternforgeModel", name := "example", desc := "(I)I" } : Jvm.MethodName) ({ cls := "PatternforgeModel", name := "example", desc := "(I)I" } : Jvm.MethodName)) ∈ lw_all := lw_g (lw_at lw_m10 18 rfl) rfl
theorem q2274 : (Jvm.Cond.code ({ cls := "PatternforgeModel", name := "example", desc := "(I)I" } : Jvm.MethodName) prog_23_method_78_code (4 : Nat) (Option.some Jvm.ClassFile.FieldType.int)) ∈ lw_all := lw_g (lw_at lw_m10 19 rfl) rfl
theorem q2275 : (Jvm.Cond.methodLink "PatternforgeModel" (383 : Nat) ({ cls := "PatternforgeModel", name := "firstMissed", desc := "()I" } : Jvm.MethodName)) ∈ lw_all := lw_g (lw_at lw_m10 20 rfl) rfl
theorem q2276 : (Jvm.Cond.privateMethod ({ cls := "PatternforgeModel", name := "firstMissed", desc := "()I" } : Jvm.MethodName)) ∈ lw_tbl := lw_at lw_m10 21 rfl
theorem q2277 : (Jvm.Cond.instanceMethod ({ cls := "PatternforgeModel", name := "firstMissed", desc := "()I" } : Jvm.MethodName)) ∈ lw_all := lw_g (lw_at lw_m10 22 rfl) rfl
theorem q2278 : (Jvm.Cond.code ({ cls := "PatternforgeModel", name := "firstMissed", desc := "()I" } : Jvm.MethodName) prog_23_method_77_code (4 : Nat) (Option.some Jvm.ClassFile.FieldType.int)) ∈ lw_all := lw_g (lw_at lw_m10 23 rfl) rfl
theorem q2280 : (Jvm.Cond.instanceMethod ({ cls := "PatternforgeModel", name := "isUsed", desc := "(I)Z" } : Jvm.MethodName)) ∈ lw_all := lw_g (lw_at lw_m10 25 rfl) rfl
theorem q2281 : (Jvm.Cond.selects "PatternforgeModel" ({ cls := "PatternforgeModel", name := "isUsed", desc := "(I)Z" } : Jvm.MethodName) ({ cls := "PatternforgeModel", name := "isUsed", desc := "(I)Z" } : Jvm.MethodName)) ∈ lw_all := lw_g (lw_at lw_m10 26 rfl) rfl
theorem q2282 : (Jvm.Cond.code ({ cls := "PatternforgeModel", name := "isUsed", desc := "(I)Z" } : Jvm.MethodName) prog_23_method_79_code (5 : Nat) (Option.some Jvm.ClassFile.FieldType.boolean)) ∈ lw_all := lw_g (lw_at lw_m10 27 rfl) rfl
theorem q2307 : (Jvm.Cond.castable "PatternforgeModel" "java/lang/Object") ∈ lw_tbl := lw_at lw_m10 52 rfl
theorem in_X6 : ∀ w ∈ wsX60, w ∈ lw_all := lw_in wsX60 [1833, 1835, 1837, 1839, 1841, 1843, 1845, 1847, 1849, 1851, 1853, 1855, 1857, 1859, 1861, 1863, 1865, 1867, 1869, 1871, 1873, 1875, 1877, 1879, 1881, 1883, 1885, 1887, 1889, 1891, 1893, 1895, 1897, 1899, 1901, 1903, 1905, 1907, 1909, 1911, 1913, 1915, 1917, 1919, 1921, 1923, 1925, 1927, 1929, 1931, 1933, 1935, 1937, 1939, 1941, 1943, 1945, 1947, 1949, 1951, 1953, 1955, 1957, 1959, 1961, 1963, 1965, 1967, 1969] (by decide +kernel) (by decide +kernel)
