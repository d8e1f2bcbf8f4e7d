/-! words that do not ride in the lists; printed by gen_nx.py -/
set_option maxRecDepth 100000
def znx0 : List Cond := [
  Jvm.Cond.castable "java/lang/ArrayIndexOutOfBoundsException" "java/lang/ArrayIndexOutOfBoundsException",
  Jvm.Cond.castable "java/lang/ArrayIndexOutOfBoundsException" "java/lang/IndexOutOfBoundsException",
  Jvm.Cond.castable "java/lang/ArrayIndexOutOfBoundsException" "java/lang/Object",
  Jvm.Cond.castable "java/lang/IllegalArgumentException" "java/lang/IllegalArgumentException",
  Jvm.Cond.castable "java/lang/IllegalArgumentException" "java/lang/Object",
  Jvm.Cond.castable "java/lang/IllegalStateException" "java/lang/IllegalStateException",
  Jvm.Cond.castable "java/lang/IllegalStateException" "java/lang/Object",
  Jvm.Cond.declares ({ cls := "java/lang/Enum", name := "ordinal", desc := "()I" } : Jvm.MethodName),
  Jvm.Cond.castable "java/util/ArrayList" "java/lang/Object",
  Jvm.Cond.declares ({ cls := "java/lang/Object", name := "getClass", desc := "()Ljava/lang/Class;" } : Jvm.MethodName),
  Jvm.Cond.declares ({ cls := "java/lang/Throwable", name := "<init>", desc := "()V" } : Jvm.MethodName),
  Jvm.Cond.declares ({ cls := "java/lang/Throwable", name := "<init>", desc := "(Ljava/lang/String;)V" } : Jvm.MethodName),
  Jvm.Cond.declares ({ cls := "java/lang/Exception", name := "<init>", desc := "()V" } : Jvm.MethodName),
  Jvm.Cond.declares ({ cls := "java/lang/Exception", name := "<init>", desc := "(Ljava/lang/String;)V" } : Jvm.MethodName),
  Jvm.Cond.declares ({ cls := "java/lang/RuntimeException", name := "<init>", desc := "()V" } : Jvm.MethodName),
  Jvm.Cond.declares ({ cls := "java/lang/RuntimeException", name := "<init>", desc := "(Ljava/lang/String;)V" } : Jvm.MethodName),
  Jvm.Cond.declares ({ cls := "java/lang/IndexOutOfBoundsException", name := "<init>", desc := "()V" } : Jvm.MethodName),
  Jvm.Cond.declares ({ cls := "java/lang/IndexOutOfBoundsException", name := "<init>", desc := "(Ljava/lang/String;)V" } : Jvm.MethodName),
  Jvm.Cond.castable "java/lang/IndexOutOfBoundsException" "java/lang/IndexOutOfBoundsException",
  Jvm.Cond.castable "java/lang/IndexOutOfBoundsException" "java/lang/Object",
  Jvm.Cond.methodLinkNest "Patternforge" (49 : Nat) ({ cls := "Patternforge$Running", name := "<init>", desc := "(LPatternforge;)V" } : Jvm.MethodName) "Patternforge",
  Jvm.Cond.fieldLinkNest "Patternforge" (372 : Nat) "Patternforge$Running" "values" "[I" "Patternforge",
  Jvm.Cond.fieldLinkNest "Patternforge" (399 : Nat) "Patternforge$Running" "ranView" "[I" "Patternforge",
  Jvm.Cond.fieldLinkNest "Patternforge" (402 : Nat) "Patternforge$Running" "ranPlace" "[I" "Patternforge",
  Jvm.Cond.fieldLinkNest "Patternforge" (405 : Nat) "Patternforge$Running" "gave" "[I" "Patternforge",
  Jvm.Cond.fieldLinkNest "Patternforge" (395 : Nat) "Patternforge$Running" "ran" "I" "Patternforge",
  Jvm.Cond.fieldLinkNest "Patternforge" (392 : Nat) "Patternforge$Running" "tests" "I" "Patternforge",
  Jvm.Cond.fieldLinkNest "Patternforge" (408 : Nat) "Patternforge$Matching" "places" "[I" "Patternforge",
  Jvm.Cond.fieldLinkNest "Patternforge" (360 : Nat) "Patternforge$Tree" "what" "[I" "Patternforge",
  Jvm.Cond.fieldLinkNest "Patternforge" (363 : Nat) "Patternforge$Tree" "of" "[I" "Patternforge",
  Jvm.Cond.fieldLinkNest "Patternforge" (416 : Nat) "Patternforge$Tree" "many" "I" "Patternforge",
  Jvm.Cond.fieldLinkNest "Patternforge" (369 : Nat) "Patternforge$Tree" "isLarge" "Z" "Patternforge",
  Jvm.Cond.fieldLinkNest "Patternforge" (86 : Nat) "Patternforge$Tree" "isBuilt" "Z" "Patternforge",
  Jvm.Cond.methodLinkNest "Patternforge" (70 : Nat) ({ cls := "Patternforge$Automaton", name := "<init>", desc := "(LPatternforge;)V" } : Jvm.MethodName) "Patternforge",
  Jvm.Cond.fieldLinkNest "Patternforge" (90 : Nat) "Patternforge$Automaton" "isBuilt" "Z" "Patternforge",
  Jvm.Cond.methodLinkNest "Patternforge" (132 : Nat) ({ cls := "Patternforge$Value", name := "<init>", desc := "(II[II)V" } : Jvm.MethodName) "Patternforge",
  Jvm.Cond.methodLinkNest "Patternforge" (161 : Nat) ({ cls := "Patternforge$Any", name := "<init>", desc := "()V" } : Jvm.MethodName) "Patternforge",
  Jvm.Cond.methodLinkNest "Patternforge" (156 : Nat) ({ cls := "Patternforge$Told", name := "<init>", desc := "(LPatternforge$Pattern;IIIIZZ)V" } : Jvm.MethodName) "Patternforge",
  Jvm.Cond.methodLinkNest "Patternforge" (187 : Nat) ({ cls := "Patternforge$Name", name := "<init>", desc := "(ILPatternforge$Pattern;)V" } : Jvm.MethodName) "Patternforge",
  Jvm.Cond.methodLinkNest "Patternforge" (201 : Nat) ({ cls := "Patternforge$Range", name := "<init>", desc := "(II)V" } : Jvm.MethodName) "Patternforge",
  Jvm.Cond.methodLinkNest "Patternforge" (221 : Nat) ({ cls := "Patternforge$Make", name := "<init>", desc := "(II[LPatternforge$Pattern;)V" } : Jvm.MethodName) "Patternforge",
  Jvm.Cond.methodLinkNest "Patternforge" (230 : Nat) ({ cls := "Patternforge$Either", name := "<init>", desc := "(LPatternforge$Pattern;LPatternforge$Pattern;)V" } : Jvm.MethodName) "Patternforge",
  Jvm.Cond.methodLinkNest "Patternforge" (246 : Nat) ({ cls := "Patternforge$Looked", name := "<init>", desc := "(ILPatternforge$Pattern;)V" } : Jvm.MethodName) "Patternforge",
  Jvm.Cond.methodLinkNest "Patternforge" (249 : Nat) ({ cls := "Patternforge$Listed", name := "<init>", desc := "([LPatternforge$Pattern;I)V" } : Jvm.MethodName) "Patternforge",
  Jvm.Cond.fieldLinkNest "Patternforge" (292 : Nat) "Patternforge$Case" "patterns" "[I" "Patternforge",
  Jvm.Cond.fieldLinkNest "Patternforge" (334 : Nat) "Patternforge$Case" "result" "I" "Patternforge",
  Jvm.Cond.fieldLinkNest "Patternforge" (301 : Nat) "Patternforge$Case" "guard" "LPatternforge$Test;" "Patternforge",
  Jvm.Cond.fieldLinkNest "Patternforge" (314 : Nat) "Patternforge$Case" "name" "I" "Patternforge",
  Jvm.Cond.fieldLinkNest "Patternforge" (316 : Nat) "Patternforge$Case" "than" "I" "Patternforge",
  Jvm.Cond.fieldLinkNest "Patternforge" (389 : Nat) "Patternforge$Case" "taken" "I" "Patternforge",
  Jvm.Cond.castable "Patternforge" "java/lang/Object",
  Jvm.Cond.castable "Patternforge$Name" "java/lang/Object",
  Jvm.Cond.castable "Patternforge$Name" "Patternforge$Pattern",
  Jvm.Cond.methodLinkNest "Patternforge$Range" (16 : Nat) ({ cls := "Patternforge", name := "inRange", desc := "(III)Z" } : Jvm.MethodName) "Patternforge",
  Jvm.Cond.castable "Patternforge$Range" "java/lang/Object",
  Jvm.Cond.castable "Patternforge$Range" "Patternforge$Pattern",
  Jvm.Cond.castable "Patternforge$Make" "java/lang/Object",
  Jvm.Cond.castable "Patternforge$Make" "Patternforge$Pattern",
  Jvm.Cond.castable "Patternforge$Either" "java/lang/Object",
  Jvm.Cond.castable "Patternforge$Either" "Patternforge$Pattern",
  Jvm.Cond.castable "Patternforge$Looked" "java/lang/Object",
  Jvm.Cond.castable "Patternforge$Looked" "Patternforge$Pattern",
  Jvm.Cond.castable "Patternforge$Listed" "java/lang/Object",
  Jvm.Cond.castable "Patternforge$Listed" "Patternforge$Pattern",
  Jvm.Cond.castable "Patternforge$Case" "java/lang/Object",
  Jvm.Cond.declares ({ cls := "Patternforge$Test", name := "goesOut", desc := "(II)I" } : Jvm.MethodName),
  Jvm.Cond.castable "Patternforge$Test" "java/lang/Object",
  Jvm.Cond.castable "Patternforge$Test$1" "java/lang/Object",
  Jvm.Cond.castable "Patternforge$Test$1" "Patternforge$Test",
  Jvm.Cond.castable "Patternforge$Test$2" "java/lang/Object",
  Jvm.Cond.castable "Patternforge$Test$2" "Patternforge$Test",
  Jvm.Cond.declares ({ cls := "Patternforge$Matching", name := "clearNames", desc := "()V" } : Jvm.MethodName),
  Jvm.Cond.fieldLinkNest "Patternforge$Matching" (19 : Nat) "Patternforge" "columns" "I" "Patternforge",
  Jvm.Cond.fieldLinkNest "Patternforge$Matching" (23 : Nat) "Patternforge$Case" "patterns" "[I" "Patternforge",
  Jvm.Cond.declares ({ cls := "Patternforge$Matching", name := "matches", desc := "(LPatternforge$Case;)I" } : Jvm.MethodName),
  Jvm.Cond.methodLinkNest "Patternforge$Matching" (28 : Nat) ({ cls := "Patternforge", name := "told", desc := "(I)LPatternforge$Told;" } : Jvm.MethodName) "Patternforge",
  Jvm.Cond.declares ({ cls := "Patternforge$Matching", name := "at", desc := "(II)I" } : Jvm.MethodName),
  Jvm.Cond.methodLinkNest "Patternforge$Matching" (109 : Nat) ({ cls := "Patternforge", name := "field", desc := "(II)I" } : Jvm.MethodName) "Patternforge",
  Jvm.Cond.declares ({ cls := "Patternforge$Matching", name := "seen", desc := "(II)I" } : Jvm.MethodName),
  Jvm.Cond.castable "Patternforge$Test$3" "java/lang/Object",
  Jvm.Cond.castable "Patternforge$Test$3" "Patternforge$Test",
  Jvm.Cond.castable "Patternforge$Test$4" "java/lang/Object",
  Jvm.Cond.castable "Patternforge$Test$4" "Patternforge$Test",
  Jvm.Cond.methodLinkNest "Patternforge$Running" (9 : Nat) ({ cls := "Patternforge$Matching", name := "<init>", desc := "(LPatternforge;)V" } : Jvm.MethodName) "Patternforge",
  Jvm.Cond.fieldLinkNest "Patternforge$Running" (103 : Nat) "Patternforge$Matching" "places" "[I" "Patternforge",
  Jvm.Cond.fieldLinkNest "Patternforge$Running" (28 : Nat) "Patternforge" "allValues" "Ljava/util/ArrayList;" "Patternforge",
  Jvm.Cond.fieldLinkNest "Patternforge$Running" (78 : Nat) "Patternforge" "views" "[[I" "Patternforge",
  Jvm.Cond.fieldLinkNest "Patternforge$Running" (95 : Nat) "Patternforge$Case" "guard" "LPatternforge$Test;" "Patternforge",
  Jvm.Cond.fieldLinkNest "Patternforge$Running" (106 : Nat) "Patternforge$Case" "name" "I" "Patternforge",
  Jvm.Cond.fieldLinkNest "Patternforge$Running" (112 : Nat) "Patternforge$Case" "than" "I" "Patternforge",
  Jvm.Cond.castable "Patternforge$Running" "java/lang/Object",
  Jvm.Cond.fieldLinkNest "Patternforge$Tree" (251 : Nat) "Patternforge$Running" "tests" "I" "Patternforge",
  Jvm.Cond.methodLinkNest "Patternforge$Tree" (9 : Nat) ({ cls := "Patternforge$Matching", name := "<init>", desc := "(LPatternforge;)V" } : Jvm.MethodName) "Patternforge",
  Jvm.Cond.fieldLinkNest "Patternforge$Tree" (143 : Nat) "Patternforge" "types" "Ljava/util/ArrayList;" "Patternforge",
  Jvm.Cond.fieldLinkNest "Patternforge$Tree" (129 : Nat) "Patternforge" "views" "[[I" "Patternforge",
  Jvm.Cond.fieldLinkNest "Patternforge$Tree" (156 : Nat) "Patternforge" "columns" "I" "Patternforge",
  Jvm.Cond.fieldLinkNest "Patternforge$Tree" (95 : Nat) "Patternforge" "cases" "Ljava/util/ArrayList;" "Patternforge",
  Jvm.Cond.fieldLinkNest "Patternforge$Tree" (238 : Nat) "Patternforge" "running" "LPatternforge$Running;" "Patternforge",
  Jvm.Cond.fieldLinkNest "Patternforge$Tree" (159 : Nat) "Patternforge$Case" "patterns" "[I" "Patternforge",
  Jvm.Cond.fieldLinkNest "Patternforge$Tree" (118 : Nat) "Patternforge$Case" "guard" "LPatternforge$Test;" "Patternforge",
  Jvm.Cond.methodLinkNest "Patternforge$Tree" (104 : Nat) ({ cls := "Patternforge", name := "has", desc := "(II)Z" } : Jvm.MethodName) "Patternforge",
  Jvm.Cond.methodLinkNest "Patternforge$Tree" (162 : Nat) ({ cls := "Patternforge", name := "told", desc := "(I)LPatternforge$Told;" } : Jvm.MethodName) "Patternforge",
  Jvm.Cond.methodLinkNest "Patternforge$Tree" (226 : Nat) ({ cls := "Patternforge", name := "field", desc := "(II)I" } : Jvm.MethodName) "Patternforge",
  Jvm.Cond.castable "Patternforge$Tree" "java/lang/Object",
  Jvm.Cond.fieldLinkNest "Patternforge$Automaton" (157 : Nat) "Patternforge$Running" "tests" "I" "Patternforge",
  Jvm.Cond.fieldLinkNest "Patternforge$Automaton" (43 : Nat) "Patternforge" "columns" "I" "Patternforge",
  Jvm.Cond.fieldLinkNest "Patternforge$Automaton" (33 : Nat) "Patternforge" "cases" "Ljava/util/ArrayList;" "Patternforge",
  Jvm.Cond.fieldLinkNest "Patternforge$Automaton" (141 : Nat) "Patternforge" "running" "LPatternforge$Running;" "Patternforge",
  Jvm.Cond.fieldLinkNest "Patternforge$Automaton" (52 : Nat) "Patternforge$Case" "patterns" "[I" "Patternforge",
  Jvm.Cond.methodLinkNest "Patternforge$Automaton" (55 : Nat) ({ cls := "Patternforge", name := "told", desc := "(I)LPatternforge$Told;" } : Jvm.MethodName) "Patternforge",
  Jvm.Cond.methodLinkNest "Patternforge$Automaton" (127 : Nat) ({ cls := "Patternforge", name := "field", desc := "(II)I" } : Jvm.MethodName) "Patternforge",
  Jvm.Cond.methodLinkNest "Patternforge$Automaton" (150 : Nat) ({ cls := "Patternforge", name := "inRange", desc := "(III)Z" } : Jvm.MethodName) "Patternforge",
  Jvm.Cond.castable "Patternforge$Automaton" "java/lang/Object",
  Jvm.Cond.castable "PatternforgeModel" "java/lang/Object",
  Jvm.Cond.castable "Patternforge$Value" "java/lang/Object",
  Jvm.Cond.castable "Patternforge$Any" "java/lang/Object",
  Jvm.Cond.castable "Patternforge$Any" "Patternforge$Pattern",
  Jvm.Cond.castable "Patternforge$Told" "java/lang/Object",
  Jvm.Cond.castable "Patternforge$Pattern" "java/lang/Object",
  Jvm.Cond.castable "[I" "java/lang/Cloneable",
  Jvm.Cond.castable "[I" "java/lang/Object",
  Jvm.Cond.castable "[LPatternforge$Pattern;" "java/lang/Object",
  Jvm.Cond.castable "[LPatternforge$Test;" "java/lang/Cloneable",
  Jvm.Cond.castable "[LPatternforge$Test;" "java/lang/Object",
  Jvm.Cond.castable "[[I" "java/lang/Object",
  Jvm.Cond.arrayOver (Jvm.ClassFile.FieldType.array Jvm.ClassFile.FieldType.int),
  Jvm.Cond.arrayOver (Jvm.ClassFile.FieldType.object "java/lang/Object"),
  Jvm.Cond.arrayOver (Jvm.ClassFile.FieldType.object "Patternforge$Pattern"),
  Jvm.Cond.arrayOver (Jvm.ClassFile.FieldType.object "Patternforge$Test")]
def znx1 : List Cond := [
  Jvm.Cond.selects "Patternforge$Running" ({ cls := "Patternforge$Matching", name := "matches", desc := "(LPatternforge$Pattern;I)I" } : Jvm.MethodName) ({ cls := "Patternforge$Matching", name := "matches", desc := "(LPatternforge$Pattern;I)I" } : Jvm.MethodName),
  Jvm.Cond.selects "Patternforge$Running" ({ cls := "Patternforge$Matching", name := "all", desc := "([LPatternforge$Pattern;II)I" } : Jvm.MethodName) ({ cls := "Patternforge$Matching", name := "all", desc := "([LPatternforge$Pattern;II)I" } : Jvm.MethodName),
  Jvm.Cond.selects "Patternforge$Running" ({ cls := "Patternforge$Matching", name := "holds", desc := "(LPatternforge$Pattern;I)Z" } : Jvm.MethodName) ({ cls := "Patternforge$Matching", name := "holds", desc := "(LPatternforge$Pattern;I)Z" } : Jvm.MethodName),
  Jvm.Cond.selects "Patternforge$Tree" ({ cls := "Patternforge$Matching", name := "matches", desc := "(LPatternforge$Pattern;I)I" } : Jvm.MethodName) ({ cls := "Patternforge$Matching", name := "matches", desc := "(LPatternforge$Pattern;I)I" } : Jvm.MethodName),
  Jvm.Cond.selects "Patternforge$Tree" ({ cls := "Patternforge$Matching", name := "all", desc := "([LPatternforge$Pattern;II)I" } : Jvm.MethodName) ({ cls := "Patternforge$Matching", name := "all", desc := "([LPatternforge$Pattern;II)I" } : Jvm.MethodName),
  Jvm.Cond.selects "Patternforge$Tree" ({ cls := "Patternforge$Matching", name := "holds", desc := "(LPatternforge$Pattern;I)Z" } : Jvm.MethodName) ({ cls := "Patternforge$Matching", name := "holds", desc := "(LPatternforge$Pattern;I)Z" } : Jvm.MethodName)]
def znx : List Cond := znx0 ++ znx1
theorem xq521 : (Jvm.Cond.castable "java/lang/ArrayIndexOutOfBoundsException" "java/lang/ArrayIndexOutOfBoundsException") ∈ znx := List.mem_append_left _ (List.mem_of_getElem? (i := 0) rfl)
theorem xq2299 : (Jvm.Cond.castable "java/lang/ArrayIndexOutOfBoundsException" "java/lang/IndexOutOfBoundsException") ∈ znx := List.mem_append_left _ (List.mem_of_getElem? (i := 1) rfl)
theorem xq2308 : (Jvm.Cond.castable "java/lang/ArrayIndexOutOfBoundsException" "java/lang/Object") ∈ znx := List.mem_append_left _ (List.mem_of_getElem? (i := 2) rfl)
theorem xq590 : (Jvm.Cond.castable "java/lang/IllegalArgumentException" "java/lang/IllegalArgumentException") ∈ znx := List.mem_append_left _ (List.mem_of_getElem? (i := 3) rfl)
theorem xq2310 : (Jvm.Cond.castable "java/lang/IllegalArgumentException" "java/lang/Object") ∈ znx := List.mem_append_left _ (List.mem_of_getElem? (i := 4) rfl)
theorem xq626 : (Jvm.Cond.castable "java/lang/IllegalStateException" "java/lang/IllegalStateException") ∈ znx := List.mem_append_left _ (List.mem_of_getElem? (i := 5) rfl)
theorem xq2311 : (Jvm.Cond.castable "java/lang/IllegalStateException" "java/lang/Object") ∈ znx := List.mem_append_left _ (List.mem_of_getElem? (i := 6) rfl)
theorem xq1054 : (Jvm.Cond.declares ({ cls := "java/lang/Enum", name := "ordinal", desc := "()I" } : Jvm.MethodName)) ∈ znx := List.mem_append_left _ (List.mem_of_getElem? (i := 7) rfl)
theorem xq2303 : (Jvm.Cond.castable "java/util/ArrayList" "java/lang/Object") ∈ znx := List.mem_append_left _ (List.mem_of_getElem? (i := 8) rfl)
theorem xq2342 : (Jvm.Cond.declares ({ cls := "java/lang/Object", name := "getClass", desc := "()Ljava/lang/Class;" } : Jvm.MethodName)) ∈ znx := List.mem_append_left _ (List.mem_of_getElem? (i := 9) rfl)
theorem xq528 : (Jvm.Cond.declares ({ cls := "java/lang/Throwable", name := "<init>", desc := "()V" } : Jvm.MethodName)) ∈ znx := List.mem_append_left _ (List.mem_of_getElem? (i := 10) rfl)
theorem xq529 : (Jvm.Cond.declares ({ cls := "java/lang/Throwable", name := "<init>", desc := "(Ljava/lang/String;)V" } : Jvm.MethodName)) ∈ znx := List.mem_append_left _ (List.mem_of_getElem? (i := 11) rfl)
theorem xq526 : (Jvm.Cond.declares ({ cls := "java/lang/Exception", name := "<init>", desc := "()V" } : Jvm.MethodName)) ∈ znx := List.mem_append_left _ (List.mem_of_getElem? (i := 12) rfl)
theorem xq527 : (Jvm.Cond.declares ({ cls := "java/lang/Exception", name := "<init>", desc := "(Ljava/lang/String;)V" } : Jvm.MethodName)) ∈ znx := List.mem_append_left _ (List.mem_of_getElem? (i := 13) rfl)
theorem xq524 : (Jvm.Cond.declares ({ cls := "java/lang/RuntimeException", name := "<init>", desc := "()V" } : Jvm.MethodName)) ∈ znx := List.mem_append_left _ (List.mem_of_getElem? (i := 14) rfl)
theorem xq525 : (Jvm.Cond.declares ({ cls := "java/lang/RuntimeException", name := "<init>", desc := "(Ljava/lang/String;)V" } : Jvm.MethodName)) ∈ znx := List.mem_append_left _ (List.mem_of_getElem? (i := 15) rfl)
theorem xq522 : (Jvm.Cond.declares ({ cls := "java/lang/IndexOutOfBoundsException", name := "<init>", desc := "()V" } : Jvm.MethodName)) ∈ znx := List.mem_append_left _ (List.mem_of_getElem? (i := 16) rfl)
theorem xq523 : (Jvm.Cond.declares ({ cls := "java/lang/IndexOutOfBoundsException", name := "<init>", desc := "(Ljava/lang/String;)V" } : Jvm.MethodName)) ∈ znx := List.mem_append_left _ (List.mem_of_getElem? (i := 17) rfl)
theorem xq560 : (Jvm.Cond.castable "java/lang/IndexOutOfBoundsException" "java/lang/IndexOutOfBoundsException") ∈ znx := List.mem_append_left _ (List.mem_of_getElem? (i := 18) rfl)
theorem xq2309 : (Jvm.Cond.castable "java/lang/IndexOutOfBoundsException" "java/lang/Object") ∈ znx := List.mem_append_left _ (List.mem_of_getElem? (i := 19) rfl)
theorem xq175 : (Jvm.Cond.methodLinkNest "Patternforge" (49 : Nat) ({ cls := "Patternforge$Running", name := "<init>", desc := "(LPatternforge;)V" } : Jvm.MethodName) "Patternforge") ∈ znx := List.mem_append_left _ (List.mem_of_getElem? (i := 20) rfl)
theorem xq183 : (Jvm.Cond.fieldLinkNest "Patternforge" (372 : Nat) "Patternforge$Running" "values" "[I" "Patternforge") ∈ znx := List.mem_append_left _ (List.mem_of_getElem? (i := 21) rfl)
theorem xq185 : (Jvm.Cond.fieldLinkNest "Patternforge" (399 : Nat) "Patternforge$Running" "ranView" "[I" "Patternforge") ∈ znx := List.mem_append_left _ (List.mem_of_getElem? (i := 22) rfl)
theorem xq187 : (Jvm.Cond.fieldLinkNest "Patternforge" (402 : Nat) "Patternforge$Running" "ranPlace" "[I" "Patternforge") ∈ znx := List.mem_append_left _ (List.mem_of_getElem? (i := 23) rfl)
theorem xq189 : (Jvm.Cond.fieldLinkNest "Patternforge" (405 : Nat) "Patternforge$Running" "gave" "[I" "Patternforge") ∈ znx := List.mem_append_left _ (List.mem_of_getElem? (i := 24) rfl)
theorem xq191 : (Jvm.Cond.fieldLinkNest "Patternforge" (395 : Nat) "Patternforge$Running" "ran" "I" "Patternforge") ∈ znx := List.mem_append_left _ (List.mem_of_getElem? (i := 25) rfl)
theorem xq195 : (Jvm.Cond.fieldLinkNest "Patternforge" (392 : Nat) "Patternforge$Running" "tests" "I" "Patternforge") ∈ znx := List.mem_append_left _ (List.mem_of_getElem? (i := 26) rfl)
theorem xq200 : (Jvm.Cond.fieldLinkNest "Patternforge" (408 : Nat) "Patternforge$Matching" "places" "[I" "Patternforge") ∈ znx := List.mem_append_left _ (List.mem_of_getElem? (i := 27) rfl)
theorem xq233 : (Jvm.Cond.fieldLinkNest "Patternforge" (360 : Nat) "Patternforge$Tree" "what" "[I" "Patternforge") ∈ znx := List.mem_append_left _ (List.mem_of_getElem? (i := 28) rfl)
theorem xq236 : (Jvm.Cond.fieldLinkNest "Patternforge" (363 : Nat) "Patternforge$Tree" "of" "[I" "Patternforge") ∈ znx := List.mem_append_left _ (List.mem_of_getElem? (i := 29) rfl)
theorem xq241 : (Jvm.Cond.fieldLinkNest "Patternforge" (416 : Nat) "Patternforge$Tree" "many" "I" "Patternforge") ∈ znx := List.mem_append_left _ (List.mem_of_getElem? (i := 30) rfl)
theorem xq243 : (Jvm.Cond.fieldLinkNest "Patternforge" (369 : Nat) "Patternforge$Tree" "isLarge" "Z" "Patternforge") ∈ znx := List.mem_append_left _ (List.mem_of_getElem? (i := 31) rfl)
theorem xq245 : (Jvm.Cond.fieldLinkNest "Patternforge" (86 : Nat) "Patternforge$Tree" "isBuilt" "Z" "Patternforge") ∈ znx := List.mem_append_left _ (List.mem_of_getElem? (i := 32) rfl)
theorem xq310 : (Jvm.Cond.methodLinkNest "Patternforge" (70 : Nat) ({ cls := "Patternforge$Automaton", name := "<init>", desc := "(LPatternforge;)V" } : Jvm.MethodName) "Patternforge") ∈ znx := List.mem_append_left _ (List.mem_of_getElem? (i := 33) rfl)
theorem xq317 : (Jvm.Cond.fieldLinkNest "Patternforge" (90 : Nat) "Patternforge$Automaton" "isBuilt" "Z" "Patternforge") ∈ znx := List.mem_append_left _ (List.mem_of_getElem? (i := 34) rfl)
theorem xq655 : (Jvm.Cond.methodLinkNest "Patternforge" (132 : Nat) ({ cls := "Patternforge$Value", name := "<init>", desc := "(II[II)V" } : Jvm.MethodName) "Patternforge") ∈ znx := List.mem_append_left _ (List.mem_of_getElem? (i := 35) rfl)
theorem xq720 : (Jvm.Cond.methodLinkNest "Patternforge" (161 : Nat) ({ cls := "Patternforge$Any", name := "<init>", desc := "()V" } : Jvm.MethodName) "Patternforge") ∈ znx := List.mem_append_left _ (List.mem_of_getElem? (i := 36) rfl)
theorem xq731 : (Jvm.Cond.methodLinkNest "Patternforge" (156 : Nat) ({ cls := "Patternforge$Told", name := "<init>", desc := "(LPatternforge$Pattern;IIIIZZ)V" } : Jvm.MethodName) "Patternforge") ∈ znx := List.mem_append_left _ (List.mem_of_getElem? (i := 37) rfl)
theorem xq785 : (Jvm.Cond.methodLinkNest "Patternforge" (187 : Nat) ({ cls := "Patternforge$Name", name := "<init>", desc := "(ILPatternforge$Pattern;)V" } : Jvm.MethodName) "Patternforge") ∈ znx := List.mem_append_left _ (List.mem_of_getElem? (i := 38) rfl)
theorem xq821 : (Jvm.Cond.methodLinkNest "Patternforge" (201 : Nat) ({ cls := "Patternforge$Range", name := "<init>", desc := "(II)V" } : Jvm.MethodName) "Patternforge") ∈ znx := List.mem_append_left _ (List.mem_of_getElem? (i := 39) rfl)
theorem xq851 : (Jvm.Cond.methodLinkNest "Patternforge" (221 : Nat) ({ cls := "Patternforge$Make", name := "<init>", desc := "(II[LPatternforge$Pattern;)V" } : Jvm.MethodName) "Patternforge") ∈ znx := List.mem_append_left _ (List.mem_of_getElem? (i := 40) rfl)
theorem xq886 : (Jvm.Cond.methodLinkNest "Patternforge" (230 : Nat) ({ cls := "Patternforge$Either", name := "<init>", desc := "(LPatternforge$Pattern;LPatternforge$Pattern;)V" } : Jvm.MethodName) "Patternforge") ∈ znx := List.mem_append_left _ (List.mem_of_getElem? (i := 41) rfl)
theorem xq910 : (Jvm.Cond.methodLinkNest "Patternforge" (246 : Nat) ({ cls := "Patternforge$Looked", name := "<init>", desc := "(ILPatternforge$Pattern;)V" } : Jvm.MethodName) "Patternforge") ∈ znx := List.mem_append_left _ (List.mem_of_getElem? (i := 42) rfl)
theorem xq930 : (Jvm.Cond.methodLinkNest "Patternforge" (249 : Nat) ({ cls := "Patternforge$Listed", name := "<init>", desc := "([LPatternforge$Pattern;I)V" } : Jvm.MethodName) "Patternforge") ∈ znx := List.mem_append_left _ (List.mem_of_getElem? (i := 43) rfl)
theorem xq981 : (Jvm.Cond.fieldLinkNest "Patternforge" (292 : Nat) "Patternforge$Case" "patterns" "[I" "Patternforge") ∈ znx := List.mem_append_left _ (List.mem_of_getElem? (i := 44) rfl)
theorem xq983 : (Jvm.Cond.fieldLinkNest "Patternforge" (334 : Nat) "Patternforge$Case" "result" "I" "Patternforge") ∈ znx := List.mem_append_left _ (List.mem_of_getElem? (i := 45) rfl)
theorem xq986 : (Jvm.Cond.fieldLinkNest "Patternforge" (301 : Nat) "Patternforge$Case" "guard" "LPatternforge$Test;" "Patternforge") ∈ znx := List.mem_append_left _ (List.mem_of_getElem? (i := 46) rfl)
theorem xq988 : (Jvm.Cond.fieldLinkNest "Patternforge" (314 : Nat) "Patternforge$Case" "name" "I" "Patternforge") ∈ znx := List.mem_append_left _ (List.mem_of_getElem? (i := 47) rfl)
theorem xq990 : (Jvm.Cond.fieldLinkNest "Patternforge" (316 : Nat) "Patternforge$Case" "than" "I" "Patternforge") ∈ znx := List.mem_append_left _ (List.mem_of_getElem? (i := 48) rfl)
theorem xq991 : (Jvm.Cond.fieldLinkNest "Patternforge" (389 : Nat) "Patternforge$Case" "taken" "I" "Patternforge") ∈ znx := List.mem_append_left _ (List.mem_of_getElem? (i := 49) rfl)
theorem xq2302 : (Jvm.Cond.castable "Patternforge" "java/lang/Object") ∈ znx := List.mem_append_left _ (List.mem_of_getElem? (i := 50) rfl)
theorem xq2315 : (Jvm.Cond.castable "Patternforge$Name" "java/lang/Object") ∈ znx := List.mem_append_left _ (List.mem_of_getElem? (i := 51) rfl)
theorem xq2330 : (Jvm.Cond.castable "Patternforge$Name" "Patternforge$Pattern") ∈ znx := List.mem_append_left _ (List.mem_of_getElem? (i := 52) rfl)
theorem xq1436 : (Jvm.Cond.methodLinkNest "Patternforge$Range" (16 : Nat) ({ cls := "Patternforge", name := "inRange", desc := "(III)Z" } : Jvm.MethodName) "Patternforge") ∈ znx := List.mem_append_left _ (List.mem_of_getElem? (i := 53) rfl)
theorem xq2316 : (Jvm.Cond.castable "Patternforge$Range" "java/lang/Object") ∈ znx := List.mem_append_left _ (List.mem_of_getElem? (i := 54) rfl)
theorem xq2331 : (Jvm.Cond.castable "Patternforge$Range" "Patternforge$Pattern") ∈ znx := List.mem_append_left _ (List.mem_of_getElem? (i := 55) rfl)
theorem xq2317 : (Jvm.Cond.castable "Patternforge$Make" "java/lang/Object") ∈ znx := List.mem_append_left _ (List.mem_of_getElem? (i := 56) rfl)
theorem xq2332 : (Jvm.Cond.castable "Patternforge$Make" "Patternforge$Pattern") ∈ znx := List.mem_append_left _ (List.mem_of_getElem? (i := 57) rfl)
theorem xq2318 : (Jvm.Cond.castable "Patternforge$Either" "java/lang/Object") ∈ znx := List.mem_append_left _ (List.mem_of_getElem? (i := 58) rfl)
theorem xq2333 : (Jvm.Cond.castable "Patternforge$Either" "Patternforge$Pattern") ∈ znx := List.mem_append_left _ (List.mem_of_getElem? (i := 59) rfl)
theorem xq2319 : (Jvm.Cond.castable "Patternforge$Looked" "java/lang/Object") ∈ znx := List.mem_append_left _ (List.mem_of_getElem? (i := 60) rfl)
theorem xq2334 : (Jvm.Cond.castable "Patternforge$Looked" "Patternforge$Pattern") ∈ znx := List.mem_append_left _ (List.mem_of_getElem? (i := 61) rfl)
theorem xq2320 : (Jvm.Cond.castable "Patternforge$Listed" "java/lang/Object") ∈ znx := List.mem_append_left _ (List.mem_of_getElem? (i := 62) rfl)
theorem xq2335 : (Jvm.Cond.castable "Patternforge$Listed" "Patternforge$Pattern") ∈ znx := List.mem_append_left _ (List.mem_of_getElem? (i := 63) rfl)
theorem xq2321 : (Jvm.Cond.castable "Patternforge$Case" "java/lang/Object") ∈ znx := List.mem_append_left _ (List.mem_of_getElem? (i := 64) rfl)
theorem xq1643 : (Jvm.Cond.declares ({ cls := "Patternforge$Test", name := "goesOut", desc := "(II)I" } : Jvm.MethodName)) ∈ znx := List.mem_append_left _ (List.mem_of_getElem? (i := 65) rfl)
theorem xq2301 : (Jvm.Cond.castable "Patternforge$Test" "java/lang/Object") ∈ znx := List.mem_append_left _ (List.mem_of_getElem? (i := 66) rfl)
theorem xq2322 : (Jvm.Cond.castable "Patternforge$Test$1" "java/lang/Object") ∈ znx := List.mem_append_left _ (List.mem_of_getElem? (i := 67) rfl)
theorem xq2336 : (Jvm.Cond.castable "Patternforge$Test$1" "Patternforge$Test") ∈ znx := List.mem_append_left _ (List.mem_of_getElem? (i := 68) rfl)
theorem xq2323 : (Jvm.Cond.castable "Patternforge$Test$2" "java/lang/Object") ∈ znx := List.mem_append_left _ (List.mem_of_getElem? (i := 69) rfl)
theorem xq2337 : (Jvm.Cond.castable "Patternforge$Test$2" "Patternforge$Test") ∈ znx := List.mem_append_left _ (List.mem_of_getElem? (i := 70) rfl)
theorem xq406 : (Jvm.Cond.declares ({ cls := "Patternforge$Matching", name := "clearNames", desc := "()V" } : Jvm.MethodName)) ∈ znx := List.mem_append_left _ (List.mem_of_getElem? (i := 71) rfl)
theorem xq420 : (Jvm.Cond.fieldLinkNest "Patternforge$Matching" (19 : Nat) "Patternforge" "columns" "I" "Patternforge") ∈ znx := List.mem_append_left _ (List.mem_of_getElem? (i := 72) rfl)
theorem xq979 : (Jvm.Cond.fieldLinkNest "Patternforge$Matching" (23 : Nat) "Patternforge$Case" "patterns" "[I" "Patternforge") ∈ znx := List.mem_append_left _ (List.mem_of_getElem? (i := 73) rfl)
theorem xq1382 : (Jvm.Cond.declares ({ cls := "Patternforge$Matching", name := "matches", desc := "(LPatternforge$Case;)I" } : Jvm.MethodName)) ∈ znx := List.mem_append_left _ (List.mem_of_getElem? (i := 74) rfl)
theorem xq1386 : (Jvm.Cond.methodLinkNest "Patternforge$Matching" (28 : Nat) ({ cls := "Patternforge", name := "told", desc := "(I)LPatternforge$Told;" } : Jvm.MethodName) "Patternforge") ∈ znx := List.mem_append_left _ (List.mem_of_getElem? (i := 75) rfl)
theorem xq1397 : (Jvm.Cond.declares ({ cls := "Patternforge$Matching", name := "at", desc := "(II)I" } : Jvm.MethodName)) ∈ znx := List.mem_append_left _ (List.mem_of_getElem? (i := 76) rfl)
theorem xq1445 : (Jvm.Cond.methodLinkNest "Patternforge$Matching" (109 : Nat) ({ cls := "Patternforge", name := "field", desc := "(II)I" } : Jvm.MethodName) "Patternforge") ∈ znx := List.mem_append_left _ (List.mem_of_getElem? (i := 77) rfl)
theorem xq1457 : (Jvm.Cond.declares ({ cls := "Patternforge$Matching", name := "seen", desc := "(II)I" } : Jvm.MethodName)) ∈ znx := List.mem_append_left _ (List.mem_of_getElem? (i := 78) rfl)
theorem xq2324 : (Jvm.Cond.castable "Patternforge$Test$3" "java/lang/Object") ∈ znx := List.mem_append_left _ (List.mem_of_getElem? (i := 79) rfl)
theorem xq2338 : (Jvm.Cond.castable "Patternforge$Test$3" "Patternforge$Test") ∈ znx := List.mem_append_left _ (List.mem_of_getElem? (i := 80) rfl)
theorem xq2325 : (Jvm.Cond.castable "Patternforge$Test$4" "java/lang/Object") ∈ znx := List.mem_append_left _ (List.mem_of_getElem? (i := 81) rfl)
theorem xq2339 : (Jvm.Cond.castable "Patternforge$Test$4" "Patternforge$Test") ∈ znx := List.mem_append_left _ (List.mem_of_getElem? (i := 82) rfl)
theorem xq178 : (Jvm.Cond.methodLinkNest "Patternforge$Running" (9 : Nat) ({ cls := "Patternforge$Matching", name := "<init>", desc := "(LPatternforge;)V" } : Jvm.MethodName) "Patternforge") ∈ znx := List.mem_append_left _ (List.mem_of_getElem? (i := 83) rfl)
theorem xq199 : (Jvm.Cond.fieldLinkNest "Patternforge$Running" (103 : Nat) "Patternforge$Matching" "places" "[I" "Patternforge") ∈ znx := List.mem_append_left _ (List.mem_of_getElem? (i := 84) rfl)
theorem xq412 : (Jvm.Cond.fieldLinkNest "Patternforge$Running" (28 : Nat) "Patternforge" "allValues" "Ljava/util/ArrayList;" "Patternforge") ∈ znx := List.mem_append_left _ (List.mem_of_getElem? (i := 85) rfl)
theorem xq415 : (Jvm.Cond.fieldLinkNest "Patternforge$Running" (78 : Nat) "Patternforge" "views" "[[I" "Patternforge") ∈ znx := List.mem_append_left _ (List.mem_of_getElem? (i := 86) rfl)
theorem xq985 : (Jvm.Cond.fieldLinkNest "Patternforge$Running" (95 : Nat) "Patternforge$Case" "guard" "LPatternforge$Test;" "Patternforge") ∈ znx := List.mem_append_left _ (List.mem_of_getElem? (i := 87) rfl)
theorem xq987 : (Jvm.Cond.fieldLinkNest "Patternforge$Running" (106 : Nat) "Patternforge$Case" "name" "I" "Patternforge") ∈ znx := List.mem_append_left _ (List.mem_of_getElem? (i := 88) rfl)
theorem xq989 : (Jvm.Cond.fieldLinkNest "Patternforge$Running" (112 : Nat) "Patternforge$Case" "than" "I" "Patternforge") ∈ znx := List.mem_append_left _ (List.mem_of_getElem? (i := 89) rfl)
theorem xq2304 : (Jvm.Cond.castable "Patternforge$Running" "java/lang/Object") ∈ znx := List.mem_append_left _ (List.mem_of_getElem? (i := 90) rfl)
theorem xq194 : (Jvm.Cond.fieldLinkNest "Patternforge$Tree" (251 : Nat) "Patternforge$Running" "tests" "I" "Patternforge") ∈ znx := List.mem_append_left _ (List.mem_of_getElem? (i := 91) rfl)
theorem xq229 : (Jvm.Cond.methodLinkNest "Patternforge$Tree" (9 : Nat) ({ cls := "Patternforge$Matching", name := "<init>", desc := "(LPatternforge;)V" } : Jvm.MethodName) "Patternforge") ∈ znx := List.mem_append_left _ (List.mem_of_getElem? (i := 92) rfl)
theorem xq411 : (Jvm.Cond.fieldLinkNest "Patternforge$Tree" (143 : Nat) "Patternforge" "types" "Ljava/util/ArrayList;" "Patternforge") ∈ znx := List.mem_append_left _ (List.mem_of_getElem? (i := 93) rfl)
theorem xq416 : (Jvm.Cond.fieldLinkNest "Patternforge$Tree" (129 : Nat) "Patternforge" "views" "[[I" "Patternforge") ∈ znx := List.mem_append_left _ (List.mem_of_getElem? (i := 94) rfl)
theorem xq421 : (Jvm.Cond.fieldLinkNest "Patternforge$Tree" (156 : Nat) "Patternforge" "columns" "I" "Patternforge") ∈ znx := List.mem_append_left _ (List.mem_of_getElem? (i := 95) rfl)
theorem xq424 : (Jvm.Cond.fieldLinkNest "Patternforge$Tree" (95 : Nat) "Patternforge" "cases" "Ljava/util/ArrayList;" "Patternforge") ∈ znx := List.mem_append_left _ (List.mem_of_getElem? (i := 96) rfl)
theorem xq428 : (Jvm.Cond.fieldLinkNest "Patternforge$Tree" (238 : Nat) "Patternforge" "running" "LPatternforge$Running;" "Patternforge") ∈ znx := List.mem_append_left _ (List.mem_of_getElem? (i := 97) rfl)
theorem xq980 : (Jvm.Cond.fieldLinkNest "Patternforge$Tree" (159 : Nat) "Patternforge$Case" "patterns" "[I" "Patternforge") ∈ znx := List.mem_append_left _ (List.mem_of_getElem? (i := 98) rfl)
theorem xq984 : (Jvm.Cond.fieldLinkNest "Patternforge$Tree" (118 : Nat) "Patternforge$Case" "guard" "LPatternforge$Test;" "Patternforge") ∈ znx := List.mem_append_left _ (List.mem_of_getElem? (i := 99) rfl)
theorem xq1377 : (Jvm.Cond.methodLinkNest "Patternforge$Tree" (104 : Nat) ({ cls := "Patternforge", name := "has", desc := "(II)Z" } : Jvm.MethodName) "Patternforge") ∈ znx := List.mem_append_left _ (List.mem_of_getElem? (i := 100) rfl)
theorem xq1525 : (Jvm.Cond.methodLinkNest "Patternforge$Tree" (162 : Nat) ({ cls := "Patternforge", name := "told", desc := "(I)LPatternforge$Told;" } : Jvm.MethodName) "Patternforge") ∈ znx := List.mem_append_left _ (List.mem_of_getElem? (i := 101) rfl)
theorem xq1550 : (Jvm.Cond.methodLinkNest "Patternforge$Tree" (226 : Nat) ({ cls := "Patternforge", name := "field", desc := "(II)I" } : Jvm.MethodName) "Patternforge") ∈ znx := List.mem_append_left _ (List.mem_of_getElem? (i := 102) rfl)
theorem xq2305 : (Jvm.Cond.castable "Patternforge$Tree" "java/lang/Object") ∈ znx := List.mem_append_left _ (List.mem_of_getElem? (i := 103) rfl)
theorem xq193 : (Jvm.Cond.fieldLinkNest "Patternforge$Automaton" (157 : Nat) "Patternforge$Running" "tests" "I" "Patternforge") ∈ znx := List.mem_append_left _ (List.mem_of_getElem? (i := 104) rfl)
theorem xq419 : (Jvm.Cond.fieldLinkNest "Patternforge$Automaton" (43 : Nat) "Patternforge" "columns" "I" "Patternforge") ∈ znx := List.mem_append_left _ (List.mem_of_getElem? (i := 105) rfl)
theorem xq423 : (Jvm.Cond.fieldLinkNest "Patternforge$Automaton" (33 : Nat) "Patternforge" "cases" "Ljava/util/ArrayList;" "Patternforge") ∈ znx := List.mem_append_left _ (List.mem_of_getElem? (i := 106) rfl)
theorem xq427 : (Jvm.Cond.fieldLinkNest "Patternforge$Automaton" (141 : Nat) "Patternforge" "running" "LPatternforge$Running;" "Patternforge") ∈ znx := List.mem_append_left _ (List.mem_of_getElem? (i := 107) rfl)
theorem xq978 : (Jvm.Cond.fieldLinkNest "Patternforge$Automaton" (52 : Nat) "Patternforge$Case" "patterns" "[I" "Patternforge") ∈ znx := List.mem_append_left _ (List.mem_of_getElem? (i := 108) rfl)
theorem xq1572 : (Jvm.Cond.methodLinkNest "Patternforge$Automaton" (55 : Nat) ({ cls := "Patternforge", name := "told", desc := "(I)LPatternforge$Told;" } : Jvm.MethodName) "Patternforge") ∈ znx := List.mem_append_left _ (List.mem_of_getElem? (i := 109) rfl)
theorem xq1601 : (Jvm.Cond.methodLinkNest "Patternforge$Automaton" (127 : Nat) ({ cls := "Patternforge", name := "field", desc := "(II)I" } : Jvm.MethodName) "Patternforge") ∈ znx := List.mem_append_left _ (List.mem_of_getElem? (i := 110) rfl)
theorem xq1662 : (Jvm.Cond.methodLinkNest "Patternforge$Automaton" (150 : Nat) ({ cls := "Patternforge", name := "inRange", desc := "(III)Z" } : Jvm.MethodName) "Patternforge") ∈ znx := List.mem_append_left _ (List.mem_of_getElem? (i := 111) rfl)
theorem xq2306 : (Jvm.Cond.castable "Patternforge$Automaton" "java/lang/Object") ∈ znx := List.mem_append_left _ (List.mem_of_getElem? (i := 112) rfl)
theorem xq2307 : (Jvm.Cond.castable "PatternforgeModel" "java/lang/Object") ∈ znx := List.mem_append_left _ (List.mem_of_getElem? (i := 113) rfl)
theorem xq2312 : (Jvm.Cond.castable "Patternforge$Value" "java/lang/Object") ∈ znx := List.mem_append_left _ (List.mem_of_getElem? (i := 114) rfl)
theorem xq2313 : (Jvm.Cond.castable "Patternforge$Any" "java/lang/Object") ∈ znx := List.mem_append_left _ (List.mem_of_getElem? (i := 115) rfl)
theorem xq2329 : (Jvm.Cond.castable "Patternforge$Any" "Patternforge$Pattern") ∈ znx := List.mem_append_left _ (List.mem_of_getElem? (i := 116) rfl)
theorem xq2314 : (Jvm.Cond.castable "Patternforge$Told" "java/lang/Object") ∈ znx := List.mem_append_left _ (List.mem_of_getElem? (i := 117) rfl)
theorem xq2300 : (Jvm.Cond.castable "Patternforge$Pattern" "java/lang/Object") ∈ znx := List.mem_append_left _ (List.mem_of_getElem? (i := 118) rfl)
theorem xq1095 : (Jvm.Cond.castable "[I" "java/lang/Cloneable") ∈ znx := List.mem_append_left _ (List.mem_of_getElem? (i := 119) rfl)
theorem xq2344 : (Jvm.Cond.castable "[I" "java/lang/Object") ∈ znx := List.mem_append_left _ (List.mem_of_getElem? (i := 120) rfl)
theorem xq2347 : (Jvm.Cond.castable "[LPatternforge$Pattern;" "java/lang/Object") ∈ znx := List.mem_append_left _ (List.mem_of_getElem? (i := 121) rfl)
theorem xq1071 : (Jvm.Cond.castable "[LPatternforge$Test;" "java/lang/Cloneable") ∈ znx := List.mem_append_left _ (List.mem_of_getElem? (i := 122) rfl)
theorem xq2348 : (Jvm.Cond.castable "[LPatternforge$Test;" "java/lang/Object") ∈ znx := List.mem_append_left _ (List.mem_of_getElem? (i := 123) rfl)
theorem xq2343 : (Jvm.Cond.castable "[[I" "java/lang/Object") ∈ znx := List.mem_append_left _ (List.mem_of_getElem? (i := 124) rfl)
theorem xq172 : (Jvm.Cond.arrayOver (Jvm.ClassFile.FieldType.array Jvm.ClassFile.FieldType.int)) ∈ znx := List.mem_append_left _ (List.mem_of_getElem? (i := 125) rfl)
theorem xq391 : (Jvm.Cond.arrayOver (Jvm.ClassFile.FieldType.object "java/lang/Object")) ∈ znx := List.mem_append_left _ (List.mem_of_getElem? (i := 126) rfl)
theorem xq846 : (Jvm.Cond.arrayOver (Jvm.ClassFile.FieldType.object "Patternforge$Pattern")) ∈ znx := List.mem_append_left _ (List.mem_of_getElem? (i := 127) rfl)
theorem xq1072 : (Jvm.Cond.arrayOver (Jvm.ClassFile.FieldType.object "Patternforge$Test")) ∈ znx := List.mem_append_left _ (List.mem_of_getElem? (i := 128) rfl)
theorem xs_Running_matches : (Jvm.Cond.selects "Patternforge$Running" ({ cls := "Patternforge$Matching", name := "matches", desc := "(LPatternforge$Pattern;I)I" } : Jvm.MethodName) ({ cls := "Patternforge$Matching", name := "matches", desc := "(LPatternforge$Pattern;I)I" } : Jvm.MethodName)) ∈ znx := List.mem_append_right _ (List.mem_of_getElem? (i := 0) rfl)
theorem xs_Running_all : (Jvm.Cond.selects "Patternforge$Running" ({ cls := "Patternforge$Matching", name := "all", desc := "([LPatternforge$Pattern;II)I" } : Jvm.MethodName) ({ cls := "Patternforge$Matching", name := "all", desc := "([LPatternforge$Pattern;II)I" } : Jvm.MethodName)) ∈ znx := List.mem_append_right _ (List.mem_of_getElem? (i := 1) rfl)
theorem xs_Running_holds : (Jvm.Cond.selects "Patternforge$Running" ({ cls := "Patternforge$Matching", name := "holds", desc := "(LPatternforge$Pattern;I)Z" } : Jvm.MethodName) ({ cls := "Patternforge$Matching", name := "holds", desc := "(LPatternforge$Pattern;I)Z" } : Jvm.MethodName)) ∈ znx := List.mem_append_right _ (List.mem_of_getElem? (i := 2) rfl)
theorem xs_Tree_matches : (Jvm.Cond.selects "Patternforge$Tree" ({ cls := "Patternforge$Matching", name := "matches", desc := "(LPatternforge$Pattern;I)I" } : Jvm.MethodName) ({ cls := "Patternforge$Matching", name := "matches", desc := "(LPatternforge$Pattern;I)I" } : Jvm.MethodName)) ∈ znx := List.mem_append_right _ (List.mem_of_getElem? (i := 3) rfl)
theorem xs_Tree_all : (Jvm.Cond.selects "Patternforge$Tree" ({ cls := "Patternforge$Matching", name := "all", desc := "([LPatternforge$Pattern;II)I" } : Jvm.MethodName) ({ cls := "Patternforge$Matching", name := "all", desc := "([LPatternforge$Pattern;II)I" } : Jvm.MethodName)) ∈ znx := List.mem_append_right _ (List.mem_of_getElem? (i := 4) rfl)
theorem xs_Tree_holds : (Jvm.Cond.selects "Patternforge$Tree" ({ cls := "Patternforge$Matching", name := "holds", desc := "(LPatternforge$Pattern;I)Z" } : Jvm.MethodName) ({ cls := "Patternforge$Matching", name := "holds", desc := "(LPatternforge$Pattern;I)Z" } : Jvm.MethodName)) ∈ znx := List.mem_append_right _ (List.mem_of_getElem? (i := 5) rfl)
theorem znx0_tbl : ∀ w ∈ znx0, w ∈ lw_tbl := by
  intro w hw
  simp only [znx0, List.mem_cons, List.not_mem_nil, or_false] at hw
  rcases hw with rfl | rfl | rfl | rfl | rfl | rfl | rfl | rfl | rfl | rfl | rfl | rfl | rfl | rfl | rfl | rfl | rfl | rfl | rfl | rfl | rfl | rfl | rfl | rfl | rfl | rfl | rfl | rfl | rfl | rfl | rfl | rfl | rfl | rfl | rfl | rfl | rfl | rfl | rfl | rfl | rfl | rfl | rfl | rfl | rfl | rfl | rfl | rfl | rfl | rfl | rfl | rfl | rfl | rfl | rfl | rfl | rfl | rfl | rfl | rfl | rfl | rfl | rfl | rfl | rfl | rfl | rfl | rfl | rfl | rfl | rfl | rfl | rfl | rfl | rfl | rfl | rfl | rfl | rfl | rfl | rfl | rfl | rfl | rfl | rfl | rfl | rfl | rfl | rfl | rfl | rfl | rfl | rfl | rfl | rfl | rfl | rfl | rfl | rfl | rfl | rfl | rfl | rfl | rfl | rfl | rfl | rfl | rfl | rfl | rfl | rfl | rfl | rfl | rfl | rfl | rfl | rfl | rfl | rfl | rfl | rfl | rfl | rfl | rfl | rfl | rfl | rfl | rfl | rfl
  · exact q521
  · exact q2299
  · exact q2308
  · exact q590
  · exact q2310
  · exact q626
  · exact q2311
  · exact q1054
  · exact q2303
  · exact q2342
  · exact q528
  · exact q529
  · exact q526
  · exact q527
  · exact q524
  · exact q525
  · exact q522
  · exact q523
  · exact q560
  · exact q2309
  · exact q175
  · exact q183
  · exact q185
  · exact q187
  · exact q189
  · exact q191
  · exact q195
  · exact q200
  · exact q233
  · exact q236
  · exact q241
  · exact q243
  · exact q245
  · exact q310
  · exact q317
  · exact q655
  · exact q720
  · exact q731
  · exact q785
  · exact q821
  · exact q851
  · exact q886
  · exact q910
  · exact q930
  · exact q981
  · exact q983
  · exact q986
  · exact q988
  · exact q990
  · exact q991
  · exact q2302
  · exact q2315
  · exact q2330
  · exact q1436
  · exact q2316
  · exact q2331
  · exact q2317
  · exact q2332
  · exact q2318
  · exact q2333
  · exact q2319
  · exact q2334
  · exact q2320
  · exact q2335
  · exact q2321
  · exact q1643
  · exact q2301
  · exact q2322
  · exact q2336
  · exact q2323
  · exact q2337
  · exact q406
  · exact q420
  · exact q979
  · exact q1382
  · exact q1386
  · exact q1397
  · exact q1445
  · exact q1457
  · exact q2324
  · exact q2338
  · exact q2325
  · exact q2339
  · exact q178
  · exact q199
  · exact q412
  · exact q415
  · exact q985
  · exact q987
  · exact q989
  · exact q2304
  · exact q194
  · exact q229
  · exact q411
  · exact q416
  · exact q421
  · exact q424
  · exact q428
  · exact q980
  · exact q984
  · exact q1377
  · exact q1525
  · exact q1550
  · exact q2305
  · exact q193
  · exact q419
  · exact q423
  · exact q427
  · exact q978
  · exact q1572
  · exact q1601
  · exact q1662
  · exact q2306
  · exact q2307
  · exact q2312
  · exact q2313
  · exact q2329
  · exact q2314
  · exact q2300
  · exact q1095
  · exact q2344
  · exact q2347
  · exact q1071
  · exact q2348
  · exact q2343
  · exact q172
  · exact q391
  · exact q846
  · exact q1072
