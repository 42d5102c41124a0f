/-! printed: 25.object -/
set_option maxRecDepth 100000
theorem q87 : (Jvm.Cond.initialized "java/lang/IndexOutOfBoundsException") ∈ lw_all := lw_g (lw_at lw_m1 21 rfl) rfl
theorem q89 : (Jvm.Cond.initialized "java/lang/IllegalArgumentException") ∈ lw_all := lw_g (lw_at lw_m1 23 rfl) rfl
theorem q103 : (Jvm.Cond.initialized "java/util/NoSuchElementException") ∈ lw_all := lw_g (lw_at lw_m1 37 rfl) rfl
theorem q123 : (Jvm.Cond.initialized "java/lang/UnsupportedOperationException") ∈ lw_all := lw_g (lw_at lw_m1 57 rfl) rfl
theorem q129 : (Jvm.Cond.initialized "java/lang/ArithmeticException") ∈ lw_all := lw_g (lw_at lw_m1 63 rfl) rfl
theorem q139 : (Jvm.Cond.methodLink "ExcuseLedger" (39 : Nat) ({ cls := "java/lang/Object", name := "<init>", desc := "()V" } : Jvm.MethodName)) ∈ lw_all := lw_g (lw_at lw_m1 73 rfl) rfl
theorem q142 : (Jvm.Cond.methodLink "ExcuseLedger" (42 : Nat) ({ cls := "ExcuseLedger$Ledger", name := "first", desc := "()LExcuseLedger$Ledger;" } : Jvm.MethodName)) ∈ lw_all := lw_g (lw_at lw_m1 76 rfl) rfl
theorem q143 : (Jvm.Cond.static ({ cls := "ExcuseLedger$Ledger", name := "first", desc := "()LExcuseLedger$Ledger;" } : Jvm.MethodName)) ∈ lw_all := lw_g (lw_at lw_m1 77 rfl) rfl
theorem q144 : (Jvm.Cond.code ({ cls := "ExcuseLedger$Ledger", name := "first", desc := "()LExcuseLedger$Ledger;" } : Jvm.MethodName) prog_5_method_2_code (2 : Nat) (Option.some (Jvm.ClassFile.FieldType.object "ExcuseLedger$Ledger"))) ∈ lw_all := lw_g (lw_at lw_m1 78 rfl) rfl
theorem q232 : (Jvm.Cond.fieldLinkNest "ExcuseLedger" (117 : Nat) "ExcuseLedger$Ledger" "excuses" "Ljava/util/LinkedHashMap;" "ExcuseLedger") ∈ lw_tbl := lw_at lw_m1 166 rfl
theorem q235 : (Jvm.Cond.fieldLinkNest "ExcuseLedger" (245 : Nat) "ExcuseLedger$Ledger" "schools" "[LExcuseLedger$School;" "ExcuseLedger") ∈ lw_tbl := lw_at lw_m1 169 rfl
theorem q237 : (Jvm.Cond.fieldLinkNest "ExcuseLedger" (218 : Nat) "ExcuseLedger$Ledger" "pupils" "[LExcuseLedger$Pupil;" "ExcuseLedger") ∈ lw_tbl := lw_at lw_m1 171 rfl
theorem q239 : (Jvm.Cond.fieldLinkNest "ExcuseLedger" (366 : Nat) "ExcuseLedger$Ledger" "day" "I" "ExcuseLedger") ∈ lw_tbl := lw_at lw_m1 173 rfl
theorem q241 : (Jvm.Cond.fieldLinkNest "ExcuseLedger" (368 : Nat) "ExcuseLedger$Ledger" "weather" "I" "ExcuseLedger") ∈ lw_tbl := lw_at lw_m1 175 rfl
theorem q243 : (Jvm.Cond.fieldLinkNest "ExcuseLedger" (370 : Nat) "ExcuseLedger$Ledger" "fund" "I" "ExcuseLedger") ∈ lw_tbl := lw_at lw_m1 177 rfl
theorem q245 : (Jvm.Cond.fieldLinkNest "ExcuseLedger" (373 : Nat) "ExcuseLedger$Ledger" "loans" "I" "ExcuseLedger") ∈ lw_tbl := lw_at lw_m1 179 rfl
theorem q247 : (Jvm.Cond.fieldLinkNest "ExcuseLedger" (376 : Nat) "ExcuseLedger$Ledger" "ended" "I" "ExcuseLedger") ∈ lw_tbl := lw_at lw_m1 181 rfl
theorem q292 : (Jvm.Cond.fieldLinkNest "ExcuseLedger" (256 : Nat) "ExcuseLedger$School" "heard" "Ljava/util/HashSet;" "ExcuseLedger") ∈ lw_tbl := lw_at lw_m1 226 rfl
theorem q315 : (Jvm.Cond.fieldLinkNest "ExcuseLedger" (222 : Nat) "ExcuseLedger$Pupil" "coins" "I" "ExcuseLedger") ∈ lw_tbl := lw_at lw_m2 9 rfl
theorem q317 : (Jvm.Cond.fieldLinkNest "ExcuseLedger" (235 : Nat) "ExcuseLedger$Pupil" "uses" "I" "ExcuseLedger") ∈ lw_tbl := lw_at lw_m2 11 rfl
theorem q320 : (Jvm.Cond.fieldLinkNest "ExcuseLedger" (238 : Nat) "ExcuseLedger$Pupil" "believed" "I" "ExcuseLedger") ∈ lw_tbl := lw_at lw_m2 14 rfl
theorem q329 : (Jvm.Cond.classLink "ExcuseLedger" (52 : Nat) "java/util/ArrayList") ∈ lw_all := lw_g (lw_at lw_m2 23 rfl) rfl
theorem q331 : (Jvm.Cond.methodLink "ExcuseLedger" (54 : Nat) ({ cls := "java/util/ArrayList", name := "<init>", desc := "()V" } : Jvm.MethodName)) ∈ lw_all := lw_g (lw_at lw_m2 25 rfl) rfl
theorem q355 : (Jvm.Cond.classLink "ExcuseLedger" (59 : Nat) "java/lang/StringBuilder") ∈ lw_all := lw_g (lw_at lw_m2 49 rfl) rfl
theorem q357 : (Jvm.Cond.methodLink "ExcuseLedger" (61 : Nat) ({ cls := "java/lang/StringBuilder", name := "<init>", desc := "()V" } : Jvm.MethodName)) ∈ lw_all := lw_g (lw_at lw_m2 51 rfl) rfl
theorem q389 : (Jvm.Cond.fieldLink "ExcuseLedger" (48 : Nat) "ExcuseLedger" "ledger" "LExcuseLedger$Ledger;") ∈ lw_all := lw_g (lw_at lw_m2 83 rfl) rfl
theorem q390 : (Jvm.Cond.fieldLink "ExcuseLedger" (414 : Nat) "ExcuseLedger" "saved" "LExcuseLedger$Ledger;") ∈ lw_all := lw_g (lw_at lw_m2 84 rfl) rfl
theorem q391 : (Jvm.Cond.fieldLink "ExcuseLedger" (55 : Nat) "ExcuseLedger" "history" "Ljava/util/ArrayList;") ∈ lw_all := lw_g (lw_at lw_m2 85 rfl) rfl
theorem q392 : (Jvm.Cond.fieldLink "ExcuseLedger" (62 : Nat) "ExcuseLedger" "input" "Ljava/lang/StringBuilder;") ∈ lw_all := lw_g (lw_at lw_m2 86 rfl) rfl
theorem q393 : (Jvm.Cond.fieldLink "ExcuseLedger" (68 : Nat) "ExcuseLedger" "line" "Ljava/lang/String;") ∈ lw_all := lw_g (lw_at lw_m2 87 rfl) rfl
theorem q394 : (Jvm.Cond.fieldLink "ExcuseLedger" (401 : Nat) "ExcuseLedger" "badText" "LExcuseLedger$BadText;") ∈ lw_all := lw_g (lw_at lw_m2 88 rfl) rfl
theorem q395 : (Jvm.Cond.fieldLink "ExcuseLedger" (84 : Nat) "ExcuseLedger" "refusal" "LExcuseLedger$Refusal;") ∈ lw_all := lw_g (lw_at lw_m2 89 rfl) rfl
theorem q416 : (Jvm.Cond.methodLink "ExcuseLedger" (158 : Nat) ({ cls := "ExcuseLedger", name := "command", desc := "(Ljava/lang/String;ILExcuseLedger$Name;I)LExcuseLedger$Command;" } : Jvm.MethodName)) ∈ lw_all := lw_g (lw_at lw_m2 110 rfl) rfl
theorem q438 : (Jvm.Cond.methodLink "ExcuseLedger" (162 : Nat) ({ cls := "ExcuseLedger", name := "does", desc := "(LExcuseLedger$Command;)I" } : Jvm.MethodName)) ∈ lw_all := lw_g (lw_at lw_m2 132 rfl) rfl
theorem q440 : (Jvm.Cond.instanceMethod ({ cls := "ExcuseLedger", name := "does", desc := "(LExcuseLedger$Command;)I" } : Jvm.MethodName)) ∈ lw_all := lw_g (lw_at lw_m2 134 rfl) rfl
theorem q441 : (Jvm.Cond.codeWith ({ cls := "ExcuseLedger", name := "does", desc := "(LExcuseLedger$Command;)I" } : Jvm.MethodName) prog_1_method_19_code (4 : Nat) (Option.some Jvm.ClassFile.FieldType.int) [((8 : Nat), (20 : Nat), (21 : Nat), (29 : Nat))]) ∈ lw_all := lw_g (lw_at lw_m2 135 rfl) rfl
theorem q443 : (Jvm.Cond.methodLink "ExcuseLedger" (91 : Nat) ({ cls := "ExcuseLedger$Ledger", name := "copy", desc := "()LExcuseLedger$Ledger;" } : Jvm.MethodName)) ∈ lw_all := lw_g (lw_at lw_m2 137 rfl) rfl
theorem q444 : (Jvm.Cond.instanceMethod ({ cls := "ExcuseLedger$Ledger", name := "copy", desc := "()LExcuseLedger$Ledger;" } : Jvm.MethodName)) ∈ lw_all := lw_g (lw_at lw_m2 138 rfl) rfl
theorem q445 : (Jvm.Cond.selects "ExcuseLedger$Ledger" ({ cls := "ExcuseLedger$Ledger", name := "copy", desc := "()LExcuseLedger$Ledger;" } : Jvm.MethodName) ({ cls := "ExcuseLedger$Ledger", name := "copy", desc := "()LExcuseLedger$Ledger;" } : Jvm.MethodName)) ∈ lw_all := lw_g (lw_at lw_m2 139 rfl) rfl
theorem q446 : (Jvm.Cond.code ({ cls := "ExcuseLedger$Ledger", name := "copy", desc := "()LExcuseLedger$Ledger;" } : Jvm.MethodName) prog_5_method_3_code (4 : Nat) (Option.some (Jvm.ClassFile.FieldType.object "ExcuseLedger$Ledger"))) ∈ lw_all := lw_g (lw_at lw_m2 140 rfl) rfl
theorem q863 : (Jvm.Cond.fieldLinkNest "ExcuseLedger" (207 : Nat) "ExcuseLedger$Excuse" "name" "LExcuseLedger$Name;" "ExcuseLedger") ∈ lw_tbl := lw_at lw_m4 77 rfl
theorem q872 : (Jvm.Cond.fieldLinkNest "ExcuseLedger" (356 : Nat) "ExcuseLedger$Excuse" "wear" "I" "ExcuseLedger") ∈ lw_tbl := lw_at lw_m4 86 rfl
theorem q1962 : (Jvm.Cond.methodLink "ExcuseLedger" (94 : Nat) ({ cls := "ExcuseLedger$Command", name := "in", desc := "(LExcuseLedger$Ledger;)I" } : Jvm.MethodName)) ∈ lw_all := lw_g (lw_at lw_m8 216 rfl) rfl
theorem q1963 : (Jvm.Cond.instanceMethod ({ cls := "ExcuseLedger$Command", name := "in", desc := "(LExcuseLedger$Ledger;)I" } : Jvm.MethodName)) ∈ lw_all := lw_g (lw_at lw_m8 217 rfl) rfl
theorem q1964 : (Jvm.Cond.selects "ExcuseLedger$Command" ({ cls := "ExcuseLedger$Command", name := "in", desc := "(LExcuseLedger$Ledger;)I" } : Jvm.MethodName) ({ cls := "ExcuseLedger$Command", name := "in", desc := "(LExcuseLedger$Ledger;)I" } : Jvm.MethodName)) ∈ lw_all := lw_g (lw_at lw_m8 218 rfl) rfl
theorem q1965 : (Jvm.Cond.code ({ cls := "ExcuseLedger$Command", name := "in", desc := "(LExcuseLedger$Ledger;)I" } : Jvm.MethodName) prog_3_method_3_code (4 : Nat) (Option.some Jvm.ClassFile.FieldType.int)) ∈ lw_all := lw_g (lw_at lw_m8 219 rfl) rfl
theorem q2025 : (Jvm.Cond.castable "ExcuseLedger$Refusal" "ExcuseLedger$Refusal") ∈ lw_tbl := lw_at lw_m9 39 rfl
theorem q2037 : (Jvm.Cond.fieldLinkNest "ExcuseLedger" (411 : Nat) "ExcuseLedger$Refusal" "reason" "I" "ExcuseLedger") ∈ lw_tbl := lw_at lw_m9 51 rfl
theorem q2039 : (Jvm.Cond.fieldLinkNest "ExcuseLedger" (408 : Nat) "ExcuseLedger$Refusal" "detail" "I" "ExcuseLedger") ∈ lw_tbl := lw_at lw_m9 53 rfl
theorem q2232 : (Jvm.Cond.methodLink "ExcuseLedger" (98 : Nat) ({ cls := "ExcuseLedger", name := "become", desc := "(LExcuseLedger$Ledger;I)I" } : Jvm.MethodName)) ∈ lw_all := lw_g (lw_at lw_m10 6 rfl) rfl
theorem q2234 : (Jvm.Cond.instanceMethod ({ cls := "ExcuseLedger", name := "become", desc := "(LExcuseLedger$Ledger;I)I" } : Jvm.MethodName)) ∈ lw_all := lw_g (lw_at lw_m10 8 rfl) rfl
theorem q2235 : (Jvm.Cond.code ({ cls := "ExcuseLedger", name := "become", desc := "(LExcuseLedger$Ledger;I)I" } : Jvm.MethodName) prog_1_method_17_code (3 : Nat) (Option.some Jvm.ClassFile.FieldType.int)) ∈ lw_all := lw_g (lw_at lw_m10 9 rfl) rfl
theorem q2236 : (Jvm.Cond.methodLink "ExcuseLedger" (72 : Nat) ({ cls := "java/util/ArrayList", name := "size", desc := "()I" } : Jvm.MethodName)) ∈ lw_all := lw_g (lw_at lw_m10 10 rfl) rfl
theorem q2240 : (Jvm.Cond.methodLink "ExcuseLedger" (76 : Nat) ({ cls := "java/util/ArrayList", name := "remove", desc := "(I)Ljava/lang/Object;" } : Jvm.MethodName)) ∈ lw_all := lw_g (lw_at lw_m10 14 rfl) rfl
theorem q2241 : (Jvm.Cond.instanceMethod ({ cls := "java/util/ArrayList", name := "remove", desc := "(I)Ljava/lang/Object;" } : Jvm.MethodName)) ∈ lw_all := lw_g (lw_at lw_m10 15 rfl) rfl
theorem q2242 : (Jvm.Cond.selects "java/util/ArrayList" ({ cls := "java/util/ArrayList", name := "remove", desc := "(I)Ljava/lang/Object;" } : Jvm.MethodName) ({ cls := "java/util/ArrayList", name := "remove", desc := "(I)Ljava/lang/Object;" } : Jvm.MethodName)) ∈ lw_all := lw_g (lw_at lw_m10 16 rfl) rfl
theorem q2243 : (Jvm.Cond.code ({ cls := "java/util/ArrayList", name := "remove", desc := "(I)Ljava/lang/Object;" } : Jvm.MethodName) prog_51_method_29_code (4 : Nat) (Option.some (Jvm.ClassFile.FieldType.object "java/lang/Object"))) ∈ lw_all := lw_g (lw_at lw_m10 17 rfl) rfl
theorem q2250 : (Jvm.Cond.methodLink "java/util/ArrayList" (144 : Nat) ({ cls := "java/util/ArrayList", name := "fastRemove", desc := "([Ljava/lang/Object;I)V" } : Jvm.MethodName)) ∈ lw_all := lw_g (lw_at lw_m10 24 rfl) rfl
theorem q2252 : (Jvm.Cond.instanceMethod ({ cls := "java/util/ArrayList", name := "fastRemove", desc := "([Ljava/lang/Object;I)V" } : Jvm.MethodName)) ∈ lw_all := lw_g (lw_at lw_m10 26 rfl) rfl
theorem q2253 : (Jvm.Cond.code ({ cls := "java/util/ArrayList", name := "fastRemove", desc := "([Ljava/lang/Object;I)V" } : Jvm.MethodName) prog_51_method_39_code (4 : Nat) (Option.none : Option Jvm.ClassFile.FieldType)) ∈ lw_all := lw_g (lw_at lw_m10 27 rfl) rfl
theorem q2254 : (Jvm.Cond.methodLink "java/util/ArrayList" (112 : Nat) ({ cls := "java/lang/System", name := "arraycopy", desc := "(Ljava/lang/Object;ILjava/lang/Object;II)V" } : Jvm.MethodName)) ∈ lw_all := lw_g (lw_at lw_m10 28 rfl) rfl
theorem q2255 : (Jvm.Cond.methodLink "ExcuseLedger" (80 : Nat) ({ cls := "java/util/ArrayList", name := "add", desc := "(Ljava/lang/Object;)Z" } : Jvm.MethodName)) ∈ lw_all := lw_g (lw_at lw_m10 29 rfl) rfl
theorem q2256 : (Jvm.Cond.methodLink "ExcuseLedger" (102 : Nat) ({ cls := "ExcuseLedger", name := "kept", desc := "(LExcuseLedger$Refusal;)Ljava/lang/UnsupportedOperationException;" } : Jvm.MethodName)) ∈ lw_all := lw_g (lw_at lw_m10 30 rfl) rfl
theorem q2258 : (Jvm.Cond.instanceMethod ({ cls := "ExcuseLedger", name := "kept", desc := "(LExcuseLedger$Refusal;)Ljava/lang/UnsupportedOperationException;" } : Jvm.MethodName)) ∈ lw_all := lw_g (lw_at lw_m10 32 rfl) rfl
theorem q2259 : (Jvm.Cond.code ({ cls := "ExcuseLedger", name := "kept", desc := "(LExcuseLedger$Refusal;)Ljava/lang/UnsupportedOperationException;" } : Jvm.MethodName) prog_1_method_18_code (2 : Nat) (Option.some (Jvm.ClassFile.FieldType.object "java/lang/UnsupportedOperationException"))) ∈ lw_all := lw_g (lw_at lw_m10 33 rfl) rfl
theorem q2260 : (Jvm.Cond.classLink "ExcuseLedger" (88 : Nat) "java/lang/UnsupportedOperationException") ∈ lw_all := lw_g (lw_at lw_m10 34 rfl) rfl
theorem q2266 : (Jvm.Cond.methodLink "ExcuseLedger" (290 : Nat) ({ cls := "ExcuseLedger$Ledger", name := "chances", desc := "()I" } : Jvm.MethodName)) ∈ lw_all := lw_g (lw_at lw_m10 40 rfl) rfl
theorem q2278 : (Jvm.Cond.methodLink "ExcuseLedger" (293 : Nat) ({ cls := "ExcuseLedger$Ledger", name := "chancesAgain", desc := "()I" } : Jvm.MethodName)) ∈ lw_all := lw_g (lw_at lw_m10 52 rfl) rfl
theorem q2286 : (Jvm.Cond.methodLink "ExcuseLedger" (201 : Nat) ({ cls := "ExcuseLedger$Ledger", name := "all", desc := "()Ljava/util/ArrayList;" } : Jvm.MethodName)) ∈ lw_all := lw_g (lw_at lw_m10 60 rfl) rfl
theorem q2293 : (Jvm.Cond.methodLinkNest "ExcuseLedger" (241 : Nat) ({ cls := "ExcuseLedger$Ledger", name := "worn", desc := "(Ljava/util/ArrayList;)I" } : Jvm.MethodName) "ExcuseLedger") ∈ lw_tbl := lw_at lw_m10 67 rfl
theorem q2294 : (Jvm.Cond.static ({ cls := "ExcuseLedger$Ledger", name := "worn", desc := "(Ljava/util/ArrayList;)I" } : Jvm.MethodName)) ∈ lw_all := lw_g (lw_at lw_m10 68 rfl) rfl
theorem q2295 : (Jvm.Cond.code ({ cls := "ExcuseLedger$Ledger", name := "worn", desc := "(Ljava/util/ArrayList;)I" } : Jvm.MethodName) prog_5_method_9_code (4 : Nat) (Option.some Jvm.ClassFile.FieldType.int)) ∈ lw_all := lw_g (lw_at lw_m10 69 rfl) rfl
theorem q2301 : (Jvm.Cond.methodLink "ExcuseLedger" (296 : Nat) ({ cls := "ExcuseLedger$Ledger", name := "due", desc := "()I" } : Jvm.MethodName)) ∈ lw_all := lw_g (lw_at lw_m10 75 rfl) rfl
theorem q2306 : (Jvm.Cond.methodLink "ExcuseLedger" (308 : Nat) ({ cls := "ExcuseLedger$Ledger", name := "isFair", desc := "()Z" } : Jvm.MethodName)) ∈ lw_all := lw_g (lw_at lw_m10 80 rfl) rfl
theorem q2307 : (Jvm.Cond.instanceMethod ({ cls := "ExcuseLedger$Ledger", name := "isFair", desc := "()Z" } : Jvm.MethodName)) ∈ lw_all := lw_g (lw_at lw_m10 81 rfl) rfl
theorem q2308 : (Jvm.Cond.selects "ExcuseLedger$Ledger" ({ cls := "ExcuseLedger$Ledger", name := "isFair", desc := "()Z" } : Jvm.MethodName) ({ cls := "ExcuseLedger$Ledger", name := "isFair", desc := "()Z" } : Jvm.MethodName)) ∈ lw_all := lw_g (lw_at lw_m10 82 rfl) rfl
theorem q2309 : (Jvm.Cond.code ({ cls := "ExcuseLedger$Ledger", name := "isFair", desc := "()Z" } : Jvm.MethodName) prog_5_method_29_code (5 : Nat) (Option.some Jvm.ClassFile.FieldType.boolean)) ∈ lw_all := lw_g (lw_at lw_m10 83 rfl) rfl
theorem q2336 : (Jvm.Cond.fieldLinkNest "ExcuseLedger" (215 : Nat) "ExcuseLedger$Name" "kind" "I" "ExcuseLedger") ∈ lw_tbl := lw_at lw_m10 110 rfl
theorem q2339 : (Jvm.Cond.fieldLinkNest "ExcuseLedger" (211 : Nat) "ExcuseLedger$Name" "topic" "I" "ExcuseLedger") ∈ lw_tbl := lw_at lw_m10 113 rfl
theorem q2353 : (Jvm.Cond.methodLink "ExcuseLedger" (200 : Nat) ({ cls := "java/util/LinkedHashMap", name := "size", desc := "()I" } : Jvm.MethodName)) ∈ lw_all := lw_g (lw_at lw_m10 127 rfl) rfl
theorem q2382 : (Jvm.Cond.methodLink "ExcuseLedger" (147 : Nat) ({ cls := "ExcuseLedger", name := "isPupil", desc := "(I)Z" } : Jvm.MethodName)) ∈ lw_all := lw_g (lw_at lw_m10 156 rfl) rfl
theorem q2383 : (Jvm.Cond.methodLink "ExcuseLedger" (150 : Nat) ({ cls := "ExcuseLedger", name := "checkIndex", desc := "(Z)V" } : Jvm.MethodName)) ∈ lw_all := lw_g (lw_at lw_m10 157 rfl) rfl
theorem q2384 : (Jvm.Cond.static ({ cls := "ExcuseLedger", name := "checkIndex", desc := "(Z)V" } : Jvm.MethodName)) ∈ lw_all := lw_g (lw_at lw_m10 158 rfl) rfl
theorem q2385 : (Jvm.Cond.code ({ cls := "ExcuseLedger", name := "checkIndex", desc := "(Z)V" } : Jvm.MethodName) prog_1_method_10_code (1 : Nat) (Option.none : Option Jvm.ClassFile.FieldType)) ∈ lw_all := lw_g (lw_at lw_m10 159 rfl) rfl
theorem q2386 : (Jvm.Cond.classLink "ExcuseLedger" (17 : Nat) "java/lang/IndexOutOfBoundsException") ∈ lw_all := lw_g (lw_at lw_m10 160 rfl) rfl
theorem q2401 : (Jvm.Cond.methodLink "ExcuseLedger" (153 : Nat) ({ cls := "ExcuseLedger", name := "isLevel", desc := "(I)Z" } : Jvm.MethodName)) ∈ lw_all := lw_g (lw_at lw_m10 175 rfl) rfl
theorem q2402 : (Jvm.Cond.methodLink "ExcuseLedger" (110 : Nat) ({ cls := "ExcuseLedger", name := "checkArgument", desc := "(Z)V" } : Jvm.MethodName)) ∈ lw_all := lw_g (lw_at lw_m10 176 rfl) rfl
theorem q2403 : (Jvm.Cond.static ({ cls := "ExcuseLedger", name := "checkArgument", desc := "(Z)V" } : Jvm.MethodName)) ∈ lw_all := lw_g (lw_at lw_m10 177 rfl) rfl
theorem q2404 : (Jvm.Cond.code ({ cls := "ExcuseLedger", name := "checkArgument", desc := "(Z)V" } : Jvm.MethodName) prog_1_method_9_code (1 : Nat) (Option.none : Option Jvm.ClassFile.FieldType)) ∈ lw_all := lw_g (lw_at lw_m10 178 rfl) rfl
theorem q2405 : (Jvm.Cond.classLink "ExcuseLedger" (11 : Nat) "java/lang/IllegalArgumentException") ∈ lw_all := lw_g (lw_at lw_m10 179 rfl) rfl
theorem q2411 : (Jvm.Cond.methodLink "ExcuseLedger" (121 : Nat) ({ cls := "ExcuseLedger", name := "checkedName", desc := "(II)LExcuseLedger$Name;" } : Jvm.MethodName)) ∈ lw_all := lw_g (lw_at lw_m10 185 rfl) rfl
theorem q2412 : (Jvm.Cond.static ({ cls := "ExcuseLedger", name := "checkedName", desc := "(II)LExcuseLedger$Name;" } : Jvm.MethodName)) ∈ lw_all := lw_g (lw_at lw_m10 186 rfl) rfl
theorem q2413 : (Jvm.Cond.code ({ cls := "ExcuseLedger", name := "checkedName", desc := "(II)LExcuseLedger$Name;" } : Jvm.MethodName) prog_1_method_20_code (2 : Nat) (Option.some (Jvm.ClassFile.FieldType.object "ExcuseLedger$Name"))) ∈ lw_all := lw_g (lw_at lw_m10 187 rfl) rfl
theorem q2414 : (Jvm.Cond.methodLink "ExcuseLedger" (106 : Nat) ({ cls := "ExcuseLedger", name := "isExcuse", desc := "(II)Z" } : Jvm.MethodName)) ∈ lw_all := lw_g (lw_at lw_m10 188 rfl) rfl
theorem q2415 : (Jvm.Cond.static ({ cls := "ExcuseLedger", name := "isExcuse", desc := "(II)Z" } : Jvm.MethodName)) ∈ lw_all := lw_g (lw_at lw_m10 189 rfl) rfl
theorem q2416 : (Jvm.Cond.code ({ cls := "ExcuseLedger", name := "isExcuse", desc := "(II)Z" } : Jvm.MethodName) prog_1_method_5_code (2 : Nat) (Option.some Jvm.ClassFile.FieldType.boolean)) ∈ lw_all := lw_g (lw_at lw_m10 190 rfl) rfl
theorem q2417 : (Jvm.Cond.methodLink "ExcuseLedger" (7 : Nat) ({ cls := "ExcuseLedger", name := "isTopic", desc := "(I)Z" } : Jvm.MethodName)) ∈ lw_all := lw_g (lw_at lw_m10 191 rfl) rfl
theorem q2418 : (Jvm.Cond.static ({ cls := "ExcuseLedger", name := "isTopic", desc := "(I)Z" } : Jvm.MethodName)) ∈ lw_all := lw_g (lw_at lw_m10 192 rfl) rfl
theorem q2419 : (Jvm.Cond.code ({ cls := "ExcuseLedger", name := "isTopic", desc := "(I)Z" } : Jvm.MethodName) prog_1_method_4_code (1 : Nat) (Option.some Jvm.ClassFile.FieldType.boolean)) ∈ lw_all := lw_g (lw_at lw_m10 193 rfl) rfl
theorem q2420 : (Jvm.Cond.classLink "ExcuseLedger" (114 : Nat) "ExcuseLedger$Name") ∈ lw_all := lw_g (lw_at lw_m10 194 rfl) rfl
theorem q2421 : (Jvm.Cond.methodLink "ExcuseLedger" (116 : Nat) ({ cls := "ExcuseLedger$Name", name := "<init>", desc := "(II)V" } : Jvm.MethodName)) ∈ lw_all := lw_g (lw_at lw_m10 195 rfl) rfl
theorem q2437 : (Jvm.Cond.methodLink "ExcuseLedger" (168 : Nat) ({ cls := "ExcuseLedger", name := "isFee", desc := "(I)Z" } : Jvm.MethodName)) ∈ lw_all := lw_g (lw_at lw_m10 211 rfl) rfl
theorem q2462 : (Jvm.Cond.methodLink "ExcuseLedger" (177 : Nat) ({ cls := "ExcuseLedger", name := "isSchool", desc := "(I)Z" } : Jvm.MethodName)) ∈ lw_all := lw_g (lw_at lw_m10 236 rfl) rfl
theorem q2488 : (Jvm.Cond.methodLink "ExcuseLedger" (188 : Nat) ({ cls := "ExcuseLedger", name := "checkedExcuse", desc := "(II)LExcuseLedger$Excuse;" } : Jvm.MethodName)) ∈ lw_all := lw_g (lw_at lw_m11 22 rfl) rfl
theorem q2490 : (Jvm.Cond.instanceMethod ({ cls := "ExcuseLedger", name := "checkedExcuse", desc := "(II)LExcuseLedger$Excuse;" } : Jvm.MethodName)) ∈ lw_all := lw_g (lw_at lw_m11 24 rfl) rfl
theorem q2491 : (Jvm.Cond.code ({ cls := "ExcuseLedger", name := "checkedExcuse", desc := "(II)LExcuseLedger$Excuse;" } : Jvm.MethodName) prog_1_method_21_code (4 : Nat) (Option.some (Jvm.ClassFile.FieldType.object "ExcuseLedger$Excuse"))) ∈ lw_all := lw_g (lw_at lw_m11 25 rfl) rfl
theorem q2492 : (Jvm.Cond.methodLink "ExcuseLedger" (125 : Nat) ({ cls := "java/util/LinkedHashMap", name := "get", desc := "(Ljava/lang/Object;)Ljava/lang/Object;" } : Jvm.MethodName)) ∈ lw_all := lw_g (lw_at lw_m11 26 rfl) rfl
theorem q2493 : (Jvm.Cond.classLink "ExcuseLedger" (131 : Nat) "ExcuseLedger$Excuse") ∈ lw_all := lw_g (lw_at lw_m11 27 rfl) rfl
theorem q2494 : (Jvm.Cond.methodLink "ExcuseLedger" (133 : Nat) ({ cls := "ExcuseLedger", name := "checkElement", desc := "(Z)V" } : Jvm.MethodName)) ∈ lw_all := lw_g (lw_at lw_m11 28 rfl) rfl
theorem q2495 : (Jvm.Cond.static ({ cls := "ExcuseLedger", name := "checkElement", desc := "(Z)V" } : Jvm.MethodName)) ∈ lw_all := lw_g (lw_at lw_m11 29 rfl) rfl
theorem q2496 : (Jvm.Cond.code ({ cls := "ExcuseLedger", name := "checkElement", desc := "(Z)V" } : Jvm.MethodName) prog_1_method_12_code (1 : Nat) (Option.none : Option Jvm.ClassFile.FieldType)) ∈ lw_all := lw_g (lw_at lw_m11 30 rfl) rfl
theorem q2497 : (Jvm.Cond.classLink "ExcuseLedger" (23 : Nat) "java/util/NoSuchElementException") ∈ lw_all := lw_g (lw_at lw_m11 31 rfl) rfl
theorem q2499 : (Jvm.Cond.methodLink "ExcuseLedger" (192 : Nat) ({ cls := "ExcuseLedger$Ledger", name := "placeOf", desc := "(LExcuseLedger$Excuse;)I" } : Jvm.MethodName)) ∈ lw_all := lw_g (lw_at lw_m11 33 rfl) rfl
theorem q2513 : (Jvm.Cond.methodLink "ExcuseLedger" (196 : Nat) ({ cls := "ExcuseLedger$Excuse", name := "number", desc := "(II)I" } : Jvm.MethodName)) ∈ lw_all := lw_g (lw_at lw_m11 47 rfl) rfl
theorem q2514 : (Jvm.Cond.instanceMethod ({ cls := "ExcuseLedger$Excuse", name := "number", desc := "(II)I" } : Jvm.MethodName)) ∈ lw_all := lw_g (lw_at lw_m11 48 rfl) rfl
theorem q2515 : (Jvm.Cond.selects "ExcuseLedger$Excuse" ({ cls := "ExcuseLedger$Excuse", name := "number", desc := "(II)I" } : Jvm.MethodName) ({ cls := "ExcuseLedger$Excuse", name := "number", desc := "(II)I" } : Jvm.MethodName)) ∈ lw_all := lw_g (lw_at lw_m11 49 rfl) rfl
theorem q2516 : (Jvm.Cond.code ({ cls := "ExcuseLedger$Excuse", name := "number", desc := "(II)I" } : Jvm.MethodName) prog_4_method_6_code (3 : Nat) (Option.some Jvm.ClassFile.FieldType.int)) ∈ lw_all := lw_g (lw_at lw_m11 50 rfl) rfl
theorem q2524 : (Jvm.Cond.methodLink "ExcuseLedger" (205 : Nat) ({ cls := "java/util/ArrayList", name := "get", desc := "(I)Ljava/lang/Object;" } : Jvm.MethodName)) ∈ lw_all := lw_g (lw_at lw_m11 58 rfl) rfl
theorem q2539 : (Jvm.Cond.methodLink "ExcuseLedger" (227 : Nat) ({ cls := "ExcuseLedger$Ledger", name := "ownedBy", desc := "(I)I" } : Jvm.MethodName)) ∈ lw_all := lw_g (lw_at lw_m11 73 rfl) rfl
theorem q2540 : (Jvm.Cond.instanceMethod ({ cls := "ExcuseLedger$Ledger", name := "ownedBy", desc := "(I)I" } : Jvm.MethodName)) ∈ lw_all := lw_g (lw_at lw_m11 74 rfl) rfl
theorem q2541 : (Jvm.Cond.selects "ExcuseLedger$Ledger" ({ cls := "ExcuseLedger$Ledger", name := "ownedBy", desc := "(I)I" } : Jvm.MethodName) ({ cls := "ExcuseLedger$Ledger", name := "ownedBy", desc := "(I)I" } : Jvm.MethodName)) ∈ lw_all := lw_g (lw_at lw_m11 75 rfl) rfl
theorem q2542 : (Jvm.Cond.code ({ cls := "ExcuseLedger$Ledger", name := "ownedBy", desc := "(I)I" } : Jvm.MethodName) prog_5_method_6_code (5 : Nat) (Option.some Jvm.ClassFile.FieldType.int)) ∈ lw_all := lw_g (lw_at lw_m11 76 rfl) rfl
theorem q2543 : (Jvm.Cond.methodLink "ExcuseLedger" (231 : Nat) ({ cls := "ExcuseLedger$Ledger", name := "heldBy", desc := "(I)Ljava/util/ArrayList;" } : Jvm.MethodName)) ∈ lw_all := lw_g (lw_at lw_m11 77 rfl) rfl
theorem q2551 : (Jvm.Cond.methodLink "ExcuseLedger" (249 : Nat) ({ cls := "ExcuseLedger$School", name := "number", desc := "(I)I" } : Jvm.MethodName)) ∈ lw_all := lw_g (lw_at lw_m11 85 rfl) rfl
theorem q2552 : (Jvm.Cond.instanceMethod ({ cls := "ExcuseLedger$School", name := "number", desc := "(I)I" } : Jvm.MethodName)) ∈ lw_all := lw_g (lw_at lw_m11 86 rfl) rfl
theorem q2553 : (Jvm.Cond.selects "ExcuseLedger$School" ({ cls := "ExcuseLedger$School", name := "number", desc := "(I)I" } : Jvm.MethodName) ({ cls := "ExcuseLedger$School", name := "number", desc := "(I)I" } : Jvm.MethodName)) ∈ lw_all := lw_g (lw_at lw_m11 87 rfl) rfl
theorem q2554 : (Jvm.Cond.code ({ cls := "ExcuseLedger$School", name := "number", desc := "(I)I" } : Jvm.MethodName) prog_10_method_3_code (2 : Nat) (Option.some Jvm.ClassFile.FieldType.int)) ∈ lw_all := lw_g (lw_at lw_m11 88 rfl) rfl
theorem q2567 : (Jvm.Cond.methodLink "ExcuseLedger" (253 : Nat) ({ cls := "ExcuseLedger$Ledger", name := "dog", desc := "(I)I" } : Jvm.MethodName)) ∈ lw_all := lw_g (lw_at lw_m11 101 rfl) rfl
theorem q2575 : (Jvm.Cond.classLink "ExcuseLedger" (260 : Nat) "ExcuseLedger$Story") ∈ lw_all := lw_g (lw_at lw_m11 109 rfl) rfl
theorem q2576 : (Jvm.Cond.methodLink "ExcuseLedger" (262 : Nat) ({ cls := "ExcuseLedger$Story", name := "<init>", desc := "(LExcuseLedger$Name;I)V" } : Jvm.MethodName)) ∈ lw_all := lw_g (lw_at lw_m11 110 rfl) rfl
theorem q2577 : (Jvm.Cond.methodLink "ExcuseLedger" (265 : Nat) ({ cls := "java/util/HashSet", name := "contains", desc := "(Ljava/lang/Object;)Z" } : Jvm.MethodName)) ∈ lw_all := lw_g (lw_at lw_m11 111 rfl) rfl
theorem q2585 : (Jvm.Cond.methodLink "ExcuseLedger" (270 : Nat) ({ cls := "ExcuseLedger$Ledger", name := "would", desc := "(ILExcuseLedger$Excuse;I)Z" } : Jvm.MethodName)) ∈ lw_all := lw_g (lw_at lw_m11 119 rfl) rfl
theorem q2593 : (Jvm.Cond.methodLink "ExcuseLedger" (274 : Nat) ({ cls := "ExcuseLedger$Ledger", name := "believers", desc := "(ILExcuseLedger$Excuse;)I" } : Jvm.MethodName)) ∈ lw_all := lw_g (lw_at lw_m11 127 rfl) rfl
theorem q2601 : (Jvm.Cond.methodLink "ExcuseLedger" (278 : Nat) ({ cls := "ExcuseLedger$Ledger", name := "left", desc := "(I)I" } : Jvm.MethodName)) ∈ lw_all := lw_g (lw_at lw_m11 135 rfl) rfl
theorem q2609 : (Jvm.Cond.methodLink "ExcuseLedger" (281 : Nat) ({ cls := "ExcuseLedger$Ledger", name := "leftAgain", desc := "(I)I" } : Jvm.MethodName)) ∈ lw_all := lw_g (lw_at lw_m11 143 rfl) rfl
theorem q2617 : (Jvm.Cond.methodLink "ExcuseLedger" (284 : Nat) ({ cls := "ExcuseLedger$Ledger", name := "best", desc := "(II)I" } : Jvm.MethodName)) ∈ lw_all := lw_g (lw_at lw_m11 151 rfl) rfl
theorem q2618 : (Jvm.Cond.instanceMethod ({ cls := "ExcuseLedger$Ledger", name := "best", desc := "(II)I" } : Jvm.MethodName)) ∈ lw_all := lw_g (lw_at lw_m11 152 rfl) rfl
theorem q2619 : (Jvm.Cond.selects "ExcuseLedger$Ledger" ({ cls := "ExcuseLedger$Ledger", name := "best", desc := "(II)I" } : Jvm.MethodName) ({ cls := "ExcuseLedger$Ledger", name := "best", desc := "(II)I" } : Jvm.MethodName)) ∈ lw_all := lw_g (lw_at lw_m11 153 rfl) rfl
theorem q2620 : (Jvm.Cond.code ({ cls := "ExcuseLedger$Ledger", name := "best", desc := "(II)I" } : Jvm.MethodName) prog_5_method_19_code (7 : Nat) (Option.some Jvm.ClassFile.FieldType.int)) ∈ lw_all := lw_g (lw_at lw_m11 154 rfl) rfl
theorem q2622 : (Jvm.Cond.methodLink "ExcuseLedger" (287 : Nat) ({ cls := "ExcuseLedger", name := "checkedFound", desc := "(I)I" } : Jvm.MethodName)) ∈ lw_all := lw_g (lw_at lw_m11 156 rfl) rfl
theorem q2623 : (Jvm.Cond.static ({ cls := "ExcuseLedger", name := "checkedFound", desc := "(I)I" } : Jvm.MethodName)) ∈ lw_all := lw_g (lw_at lw_m11 157 rfl) rfl
theorem q2624 : (Jvm.Cond.code ({ cls := "ExcuseLedger", name := "checkedFound", desc := "(I)I" } : Jvm.MethodName) prog_1_method_22_code (1 : Nat) (Option.some Jvm.ClassFile.FieldType.int)) ∈ lw_all := lw_g (lw_at lw_m11 158 rfl) rfl
theorem q2632 : (Jvm.Cond.methodLink "ExcuseLedger" (299 : Nat) ({ cls := "ExcuseLedger$Ledger", name := "ranked", desc := "(I)I" } : Jvm.MethodName)) ∈ lw_all := lw_g (lw_at lw_m11 166 rfl) rfl
theorem q2633 : (Jvm.Cond.instanceMethod ({ cls := "ExcuseLedger$Ledger", name := "ranked", desc := "(I)I" } : Jvm.MethodName)) ∈ lw_all := lw_g (lw_at lw_m11 167 rfl) rfl
theorem q2634 : (Jvm.Cond.selects "ExcuseLedger$Ledger" ({ cls := "ExcuseLedger$Ledger", name := "ranked", desc := "(I)I" } : Jvm.MethodName) ({ cls := "ExcuseLedger$Ledger", name := "ranked", desc := "(I)I" } : Jvm.MethodName)) ∈ lw_all := lw_g (lw_at lw_m11 168 rfl) rfl
theorem q2635 : (Jvm.Cond.code ({ cls := "ExcuseLedger$Ledger", name := "ranked", desc := "(I)I" } : Jvm.MethodName) prog_5_method_24_code (6 : Nat) (Option.some Jvm.ClassFile.FieldType.int)) ∈ lw_all := lw_g (lw_at lw_m11 169 rfl) rfl
theorem q2648 : (Jvm.Cond.methodLink "ExcuseLedger" (302 : Nat) ({ cls := "ExcuseLedger$Ledger", name := "freshest", desc := "(I)I" } : Jvm.MethodName)) ∈ lw_all := lw_g (lw_at lw_m11 182 rfl) rfl
theorem q2649 : (Jvm.Cond.instanceMethod ({ cls := "ExcuseLedger$Ledger", name := "freshest", desc := "(I)I" } : Jvm.MethodName)) ∈ lw_all := lw_g (lw_at lw_m11 183 rfl) rfl
theorem q2650 : (Jvm.Cond.selects "ExcuseLedger$Ledger" ({ cls := "ExcuseLedger$Ledger", name := "freshest", desc := "(I)I" } : Jvm.MethodName) ({ cls := "ExcuseLedger$Ledger", name := "freshest", desc := "(I)I" } : Jvm.MethodName)) ∈ lw_all := lw_g (lw_at lw_m11 184 rfl) rfl
theorem q2651 : (Jvm.Cond.code ({ cls := "ExcuseLedger$Ledger", name := "freshest", desc := "(I)I" } : Jvm.MethodName) prog_5_method_26_code (7 : Nat) (Option.some Jvm.ClassFile.FieldType.int)) ∈ lw_all := lw_g (lw_at lw_m11 185 rfl) rfl
theorem q2663 : (Jvm.Cond.methodLink "ExcuseLedger" (305 : Nat) ({ cls := "ExcuseLedger$Ledger", name := "strongest", desc := "()I" } : Jvm.MethodName)) ∈ lw_all := lw_g (lw_at lw_m11 197 rfl) rfl
theorem q2664 : (Jvm.Cond.instanceMethod ({ cls := "ExcuseLedger$Ledger", name := "strongest", desc := "()I" } : Jvm.MethodName)) ∈ lw_all := lw_g (lw_at lw_m11 198 rfl) rfl
theorem q2665 : (Jvm.Cond.selects "ExcuseLedger$Ledger" ({ cls := "ExcuseLedger$Ledger", name := "strongest", desc := "()I" } : Jvm.MethodName) ({ cls := "ExcuseLedger$Ledger", name := "strongest", desc := "()I" } : Jvm.MethodName)) ∈ lw_all := lw_g (lw_at lw_m11 199 rfl) rfl
theorem q2666 : (Jvm.Cond.code ({ cls := "ExcuseLedger$Ledger", name := "strongest", desc := "()I" } : Jvm.MethodName) prog_5_method_27_code (4 : Nat) (Option.some Jvm.ClassFile.FieldType.int)) ∈ lw_all := lw_g (lw_at lw_m11 200 rfl) rfl
theorem q2681 : (Jvm.Cond.methodLink "ExcuseLedger" (312 : Nat) ({ cls := "ExcuseLedger$Excuse", name := "line", desc := "()Ljava/lang/String;" } : Jvm.MethodName)) ∈ lw_all := lw_g (lw_at lw_m11 215 rfl) rfl
theorem q2682 : (Jvm.Cond.instanceMethod ({ cls := "ExcuseLedger$Excuse", name := "line", desc := "()Ljava/lang/String;" } : Jvm.MethodName)) ∈ lw_all := lw_g (lw_at lw_m11 216 rfl) rfl
theorem q2683 : (Jvm.Cond.selects "ExcuseLedger$Excuse" ({ cls := "ExcuseLedger$Excuse", name := "line", desc := "()Ljava/lang/String;" } : Jvm.MethodName) ({ cls := "ExcuseLedger$Excuse", name := "line", desc := "()Ljava/lang/String;" } : Jvm.MethodName)) ∈ lw_all := lw_g (lw_at lw_m11 217 rfl) rfl
theorem q2684 : (Jvm.Cond.code ({ cls := "ExcuseLedger$Excuse", name := "line", desc := "()Ljava/lang/String;" } : Jvm.MethodName) prog_4_method_7_code (1 : Nat) (Option.some (Jvm.ClassFile.FieldType.object "java/lang/String"))) ∈ lw_all := lw_g (lw_at lw_m11 218 rfl) rfl
theorem q2738 : (Jvm.Cond.methodLink "ExcuseLedger" (314 : Nat) ({ cls := "ExcuseLedger", name := "written", desc := "(Ljava/lang/CharSequence;)I" } : Jvm.MethodName)) ∈ lw_all := lw_g (lw_at lw_m12 32 rfl) rfl
theorem q2740 : (Jvm.Cond.instanceMethod ({ cls := "ExcuseLedger", name := "written", desc := "(Ljava/lang/CharSequence;)I" } : Jvm.MethodName)) ∈ lw_all := lw_g (lw_at lw_m12 34 rfl) rfl
theorem q2741 : (Jvm.Cond.code ({ cls := "ExcuseLedger", name := "written", desc := "(Ljava/lang/CharSequence;)I" } : Jvm.MethodName) prog_1_method_23_code (2 : Nat) (Option.some Jvm.ClassFile.FieldType.int)) ∈ lw_all := lw_g (lw_at lw_m12 35 rfl) rfl
theorem q2743 : (Jvm.Cond.methodLink "ExcuseLedger" (136 : Nat) ({ cls := "java/lang/CharSequence", name := "toString", desc := "()Ljava/lang/String;" } : Jvm.MethodName)) ∈ lw_all := lw_g (lw_at lw_m12 37 rfl) rfl
theorem q2744 : (Jvm.Cond.interfaceMethod "java/lang/CharSequence" "java/lang/CharSequence" "toString" "()Ljava/lang/String;") ∈ lw_tbl := lw_at lw_m12 38 rfl
theorem q2745 : (Jvm.Cond.declares ({ cls := "java/lang/CharSequence", name := "toString", desc := "()Ljava/lang/String;" } : Jvm.MethodName)) ∈ lw_tbl := lw_at lw_m12 39 rfl
theorem q2747 : (Jvm.Cond.selects "java/lang/String" ({ cls := "java/lang/CharSequence", name := "toString", desc := "()Ljava/lang/String;" } : Jvm.MethodName) ({ cls := "java/lang/String", name := "toString", desc := "()Ljava/lang/String;" } : Jvm.MethodName)) ∈ lw_all := lw_g (lw_at lw_m12 41 rfl) rfl
theorem q2748 : (Jvm.Cond.unhidden "java/lang/String" "toString" "()Ljava/lang/String;") ∈ lw_tbl := lw_at lw_m12 42 rfl
theorem q2749 : (Jvm.Cond.instanceMethod ({ cls := "java/lang/String", name := "toString", desc := "()Ljava/lang/String;" } : Jvm.MethodName)) ∈ lw_all := lw_g (lw_at lw_m12 43 rfl) rfl
theorem q2750 : (Jvm.Cond.publicMethod ({ cls := "java/lang/String", name := "toString", desc := "()Ljava/lang/String;" } : Jvm.MethodName)) ∈ lw_tbl := lw_at lw_m12 44 rfl
theorem q2751 : (Jvm.Cond.code ({ cls := "java/lang/String", name := "toString", desc := "()Ljava/lang/String;" } : Jvm.MethodName) prog_36_method_126_code (1 : Nat) (Option.some (Jvm.ClassFile.FieldType.object "java/lang/String"))) ∈ lw_all := lw_g (lw_at lw_m12 45 rfl) rfl
theorem q2752 : (Jvm.Cond.castable "java/lang/StringBuilder" "java/lang/CharSequence") ∈ lw_tbl := lw_at lw_m12 46 rfl
theorem q2753 : (Jvm.Cond.selects "java/lang/StringBuilder" ({ cls := "java/lang/CharSequence", name := "toString", desc := "()Ljava/lang/String;" } : Jvm.MethodName) ({ cls := "java/lang/StringBuilder", name := "toString", desc := "()Ljava/lang/String;" } : Jvm.MethodName)) ∈ lw_all := lw_g (lw_at lw_m12 47 rfl) rfl
theorem q2754 : (Jvm.Cond.unhidden "java/lang/StringBuilder" "toString" "()Ljava/lang/String;") ∈ lw_tbl := lw_at lw_m12 48 rfl
theorem q2755 : (Jvm.Cond.publicMethod ({ cls := "java/lang/StringBuilder", name := "toString", desc := "()Ljava/lang/String;" } : Jvm.MethodName)) ∈ lw_tbl := lw_at lw_m12 49 rfl
theorem q2756 : (Jvm.Cond.methodLink "ExcuseLedger" (142 : Nat) ({ cls := "java/lang/String", name := "length", desc := "()I" } : Jvm.MethodName)) ∈ lw_all := lw_g (lw_at lw_m12 50 rfl) rfl
theorem q2764 : (Jvm.Cond.methodLink "ExcuseLedger" (318 : Nat) ({ cls := "java/util/ArrayList", name := "iterator", desc := "()Ljava/util/Iterator;" } : Jvm.MethodName)) ∈ lw_all := lw_g (lw_at lw_m12 58 rfl) rfl
theorem q2766 : (Jvm.Cond.methodLink "ExcuseLedger" (322 : Nat) ({ cls := "java/util/Iterator", name := "hasNext", desc := "()Z" } : Jvm.MethodName)) ∈ lw_all := lw_g (lw_at lw_m12 60 rfl) rfl
theorem q2768 : (Jvm.Cond.methodLink "ExcuseLedger" (327 : Nat) ({ cls := "java/util/Iterator", name := "next", desc := "()Ljava/lang/Object;" } : Jvm.MethodName)) ∈ lw_all := lw_g (lw_at lw_m12 62 rfl) rfl
theorem q2769 : (Jvm.Cond.methodLink "ExcuseLedger" (331 : Nat) ({ cls := "java/lang/StringBuilder", name := "length", desc := "()I" } : Jvm.MethodName)) ∈ lw_all := lw_g (lw_at lw_m12 63 rfl) rfl
theorem q2771 : (Jvm.Cond.methodLink "ExcuseLedger" (334 : Nat) ({ cls := "java/lang/StringBuilder", name := "append", desc := "(Ljava/lang/String;)Ljava/lang/StringBuilder;" } : Jvm.MethodName)) ∈ lw_all := lw_g (lw_at lw_m12 65 rfl) rfl
theorem q2772 : (Jvm.Cond.methodLink "ExcuseLedger" (338 : Nat) ({ cls := "ExcuseLedger$Name", name := "told", desc := "()Ljava/lang/String;" } : Jvm.MethodName)) ∈ lw_all := lw_g (lw_at lw_m12 66 rfl) rfl
theorem q2780 : (Jvm.Cond.methodLink "ExcuseLedger" (341 : Nat) ({ cls := "java/lang/String", name := "charAt", desc := "(I)C" } : Jvm.MethodName)) ∈ lw_all := lw_g (lw_at lw_m12 74 rfl) rfl
theorem q2802 : (Jvm.Cond.methodLink "ExcuseLedger" (345 : Nat) ({ cls := "ExcuseLedger", name := "checkCount", desc := "(I)V" } : Jvm.MethodName)) ∈ lw_all := lw_g (lw_at lw_m12 96 rfl) rfl
theorem q2803 : (Jvm.Cond.static ({ cls := "ExcuseLedger", name := "checkCount", desc := "(I)V" } : Jvm.MethodName)) ∈ lw_all := lw_g (lw_at lw_m12 97 rfl) rfl
theorem q2804 : (Jvm.Cond.code ({ cls := "ExcuseLedger", name := "checkCount", desc := "(I)V" } : Jvm.MethodName) prog_1_method_13_code (1 : Nat) (Option.none : Option Jvm.ClassFile.FieldType)) ∈ lw_all := lw_g (lw_at lw_m12 98 rfl) rfl
theorem q2805 : (Jvm.Cond.classLink "ExcuseLedger" (26 : Nat) "java/lang/ArithmeticException") ∈ lw_all := lw_g (lw_at lw_m12 99 rfl) rfl
theorem q2810 : (Jvm.Cond.methodLink "ExcuseLedger" (349 : Nat) ({ cls := "java/util/LinkedHashMap", name := "values", desc := "()Ljava/util/Collection;" } : Jvm.MethodName)) ∈ lw_all := lw_g (lw_at lw_m12 104 rfl) rfl
theorem q2812 : (Jvm.Cond.methodLink "ExcuseLedger" (353 : Nat) ({ cls := "java/util/Collection", name := "iterator", desc := "()Ljava/util/Iterator;" } : Jvm.MethodName)) ∈ lw_all := lw_g (lw_at lw_m12 106 rfl) rfl
theorem q2820 : (Jvm.Cond.methodLink "ExcuseLedger" (359 : Nat) ({ cls := "ExcuseLedger$Ledger", name := "uses", desc := "()I" } : Jvm.MethodName)) ∈ lw_all := lw_g (lw_at lw_m12 114 rfl) rfl
theorem q2821 : (Jvm.Cond.methodLink "ExcuseLedger" (361 : Nat) ({ cls := "ExcuseLedger$Ledger", name := "believed", desc := "()I" } : Jvm.MethodName)) ∈ lw_all := lw_g (lw_at lw_m12 115 rfl) rfl
theorem q2822 : (Jvm.Cond.instanceMethod ({ cls := "ExcuseLedger$Ledger", name := "believed", desc := "()I" } : Jvm.MethodName)) ∈ lw_all := lw_g (lw_at lw_m12 116 rfl) rfl
theorem q2823 : (Jvm.Cond.selects "ExcuseLedger$Ledger" ({ cls := "ExcuseLedger$Ledger", name := "believed", desc := "()I" } : Jvm.MethodName) ({ cls := "ExcuseLedger$Ledger", name := "believed", desc := "()I" } : Jvm.MethodName)) ∈ lw_all := lw_g (lw_at lw_m12 117 rfl) rfl
theorem q2824 : (Jvm.Cond.code ({ cls := "ExcuseLedger$Ledger", name := "believed", desc := "()I" } : Jvm.MethodName) prog_5_method_12_code (1 : Nat) (Option.some Jvm.ClassFile.FieldType.int)) ∈ lw_all := lw_g (lw_at lw_m12 118 rfl) rfl
theorem q2832 : (Jvm.Cond.methodLink "ExcuseLedger" (363 : Nat) ({ cls := "ExcuseLedger$Ledger", name := "lent", desc := "()I" } : Jvm.MethodName)) ∈ lw_all := lw_g (lw_at lw_m12 126 rfl) rfl
theorem q2833 : (Jvm.Cond.instanceMethod ({ cls := "ExcuseLedger$Ledger", name := "lent", desc := "()I" } : Jvm.MethodName)) ∈ lw_all := lw_g (lw_at lw_m12 127 rfl) rfl
theorem q2834 : (Jvm.Cond.selects "ExcuseLedger$Ledger" ({ cls := "ExcuseLedger$Ledger", name := "lent", desc := "()I" } : Jvm.MethodName) ({ cls := "ExcuseLedger$Ledger", name := "lent", desc := "()I" } : Jvm.MethodName)) ∈ lw_all := lw_g (lw_at lw_m12 128 rfl) rfl
theorem q2835 : (Jvm.Cond.code ({ cls := "ExcuseLedger$Ledger", name := "lent", desc := "()I" } : Jvm.MethodName) prog_5_method_8_code (4 : Nat) (Option.some Jvm.ClassFile.FieldType.int)) ∈ lw_all := lw_g (lw_at lw_m12 129 rfl) rfl
theorem q2844 : (Jvm.Cond.methodLink "ExcuseLedger" (379 : Nat) ({ cls := "ExcuseLedger", name := "checkState", desc := "(Z)V" } : Jvm.MethodName)) ∈ lw_all := lw_g (lw_at lw_m12 138 rfl) rfl
theorem q2845 : (Jvm.Cond.methodLink "ExcuseLedger" (382 : Nat) ({ cls := "java/lang/StringBuilder", name := "append", desc := "(C)Ljava/lang/StringBuilder;" } : Jvm.MethodName)) ∈ lw_all := lw_g (lw_at lw_m12 139 rfl) rfl
theorem q2853 : (Jvm.Cond.classLink "ExcuseLedger" (399 : Nat) "ExcuseLedger$BadText") ∈ lw_all := lw_g (lw_at lw_m12 147 rfl) rfl
theorem q2854 : (Jvm.Cond.classLink "ExcuseLedger" (385 : Nat) "ExcuseLedger$Parser") ∈ lw_all := lw_g (lw_at lw_m12 148 rfl) rfl
theorem q2855 : (Jvm.Cond.instantiable "ExcuseLedger$Parser" (3 : Nat)) ∈ lw_all := lw_g (lw_at lw_m12 149 rfl) rfl
theorem q2856 : (Jvm.Cond.methodLink "ExcuseLedger" (387 : Nat) ({ cls := "java/lang/StringBuilder", name := "toString", desc := "()Ljava/lang/String;" } : Jvm.MethodName)) ∈ lw_all := lw_g (lw_at lw_m12 150 rfl) rfl
theorem q2857 : (Jvm.Cond.methodLink "ExcuseLedger" (388 : Nat) ({ cls := "ExcuseLedger$Parser", name := "<init>", desc := "(Ljava/lang/CharSequence;)V" } : Jvm.MethodName)) ∈ lw_all := lw_g (lw_at lw_m12 151 rfl) rfl
theorem q2858 : (Jvm.Cond.instanceMethod ({ cls := "ExcuseLedger$Parser", name := "<init>", desc := "(Ljava/lang/CharSequence;)V" } : Jvm.MethodName)) ∈ lw_all := lw_g (lw_at lw_m12 152 rfl) rfl
theorem q2859 : (Jvm.Cond.code ({ cls := "ExcuseLedger$Parser", name := "<init>", desc := "(Ljava/lang/CharSequence;)V" } : Jvm.MethodName) prog_7_method_1_code (2 : Nat) (Option.none : Option Jvm.ClassFile.FieldType)) ∈ lw_all := lw_g (lw_at lw_m12 153 rfl) rfl
theorem q2865 : (Jvm.Cond.fieldLinkNest "ExcuseLedger" (396 : Nat) "ExcuseLedger$Parser" "commands" "Ljava/util/ArrayList;" "ExcuseLedger") ∈ lw_tbl := lw_at lw_m12 159 rfl
theorem q2874 : (Jvm.Cond.methodLink "ExcuseLedger" (391 : Nat) ({ cls := "java/lang/StringBuilder", name := "setLength", desc := "(I)V" } : Jvm.MethodName)) ∈ lw_all := lw_g (lw_at lw_m12 168 rfl) rfl
theorem q2875 : (Jvm.Cond.instanceMethod ({ cls := "java/lang/StringBuilder", name := "setLength", desc := "(I)V" } : Jvm.MethodName)) ∈ lw_all := lw_g (lw_at lw_m12 169 rfl) rfl
theorem q2876 : (Jvm.Cond.selects "java/lang/StringBuilder" ({ cls := "java/lang/StringBuilder", name := "setLength", desc := "(I)V" } : Jvm.MethodName) ({ cls := "java/lang/StringBuilder", name := "setLength", desc := "(I)V" } : Jvm.MethodName)) ∈ lw_all := lw_g (lw_at lw_m12 170 rfl) rfl
theorem q2877 : (Jvm.Cond.code ({ cls := "java/lang/StringBuilder", name := "setLength", desc := "(I)V" } : Jvm.MethodName) prog_37_method_89_code (2 : Nat) (Option.none : Option Jvm.ClassFile.FieldType)) ∈ lw_all := lw_g (lw_at lw_m12 171 rfl) rfl
theorem q2926 : (Jvm.Cond.methodLink "ExcuseLedger" (394 : Nat) ({ cls := "ExcuseLedger$Parser", name := "all", desc := "()V" } : Jvm.MethodName)) ∈ lw_all := lw_g (lw_at lw_m12 220 rfl) rfl
theorem q2927 : (Jvm.Cond.instanceMethod ({ cls := "ExcuseLedger$Parser", name := "all", desc := "()V" } : Jvm.MethodName)) ∈ lw_all := lw_g (lw_at lw_m12 221 rfl) rfl
theorem q2928 : (Jvm.Cond.selects "ExcuseLedger$Parser" ({ cls := "ExcuseLedger$Parser", name := "all", desc := "()V" } : Jvm.MethodName) ({ cls := "ExcuseLedger$Parser", name := "all", desc := "()V" } : Jvm.MethodName)) ∈ lw_all := lw_g (lw_at lw_m12 222 rfl) rfl
theorem q2929 : (Jvm.Cond.code ({ cls := "ExcuseLedger$Parser", name := "all", desc := "()V" } : Jvm.MethodName) prog_7_method_9_code (2 : Nat) (Option.none : Option Jvm.ClassFile.FieldType)) ∈ lw_all := lw_g (lw_at lw_m12 223 rfl) rfl
theorem q3017 : (Jvm.Cond.castable "ExcuseLedger$BadText" "ExcuseLedger$BadText") ∈ lw_tbl := lw_at lw_m13 71 rfl
theorem q3029 : (Jvm.Cond.fieldLinkNest "ExcuseLedger" (405 : Nat) "ExcuseLedger$BadText" "position" "I" "ExcuseLedger") ∈ lw_tbl := lw_at lw_m13 83 rfl
theorem q3087 : (Jvm.Cond.classLink "ExcuseLedger" (43 : Nat) "ExcuseLedger$Ledger") ∈ lw_all := lw_g (lw_at lw_m13 141 rfl) rfl
theorem q3095 : (Jvm.Cond.methodLink "ExcuseLedger" (417 : Nat) ({ cls := "java/util/ArrayList", name := "clear", desc := "()V" } : Jvm.MethodName)) ∈ lw_all := lw_g (lw_at lw_m13 149 rfl) rfl
theorem q3096 : (Jvm.Cond.instanceMethod ({ cls := "java/util/ArrayList", name := "clear", desc := "()V" } : Jvm.MethodName)) ∈ lw_all := lw_g (lw_at lw_m13 150 rfl) rfl
theorem q3097 : (Jvm.Cond.selects "java/util/ArrayList" ({ cls := "java/util/ArrayList", name := "clear", desc := "()V" } : Jvm.MethodName) ({ cls := "java/util/ArrayList", name := "clear", desc := "()V" } : Jvm.MethodName)) ∈ lw_all := lw_g (lw_at lw_m13 151 rfl) rfl
theorem q3098 : (Jvm.Cond.code ({ cls := "java/util/ArrayList", name := "clear", desc := "()V" } : Jvm.MethodName) prog_51_method_40_code (4 : Nat) (Option.none : Option Jvm.ClassFile.FieldType)) ∈ lw_all := lw_g (lw_at lw_m13 152 rfl) rfl
theorem q3546 : (Jvm.Cond.selects "java/lang/StringBuilder" ({ cls := "java/lang/StringBuilder", name := "length", desc := "()I" } : Jvm.MethodName) ({ cls := "java/lang/StringBuilder", name := "length", desc := "()I" } : Jvm.MethodName)) ∈ lw_all := lw_g (lw_at lw_m15 120 rfl) rfl
theorem fo_0_0 : fOk [0] 0 "ExcuseLedger" "ledger" "LExcuseLedger$Ledger;" (.object "ExcuseLedger$Ledger") false := List.forall_mem_singleton.mpr ⟨_, _, _, tyX1, rfl, in_X1, tyX1_ok, nmX1, by decide, rfl, rfl⟩
theorem fo_0_1 : fOk [0] 1 "ExcuseLedger" "saved" "LExcuseLedger$Ledger;" (.object "ExcuseLedger$Ledger") false := List.forall_mem_singleton.mpr ⟨_, _, _, tyX1, rfl, in_X1, tyX1_ok, nmX1, by decide, rfl, rfl⟩
theorem fo_0_2 : fOk [0] 2 "ExcuseLedger" "history" "Ljava/util/ArrayList;" (.object "java/util/ArrayList") true := List.forall_mem_singleton.mpr ⟨_, _, _, tyX1, rfl, in_X1, tyX1_ok, nmX1, by decide, rfl, rfl⟩
theorem fo_0_3 : fOk [0] 3 "ExcuseLedger" "input" "Ljava/lang/StringBuilder;" (.object "java/lang/StringBuilder") true := List.forall_mem_singleton.mpr ⟨_, _, _, tyX1, rfl, in_X1, tyX1_ok, nmX1, by decide, rfl, rfl⟩
theorem fo_0_4 : fOk [0] 4 "ExcuseLedger" "line" "Ljava/lang/String;" (.object "java/lang/String") false := List.forall_mem_singleton.mpr ⟨_, _, _, tyX1, rfl, in_X1, tyX1_ok, nmX1, by decide, rfl, rfl⟩
theorem fo_0_5 : fOk [0] 5 "ExcuseLedger" "badText" "LExcuseLedger$BadText;" (.object "ExcuseLedger$BadText") false := List.forall_mem_singleton.mpr ⟨_, _, _, tyX1, rfl, in_X1, tyX1_ok, nmX1, by decide, rfl, rfl⟩
theorem fo_0_6 : fOk [0] 6 "ExcuseLedger" "refusal" "LExcuseLedger$Refusal;" (.object "ExcuseLedger$Refusal") false := List.forall_mem_singleton.mpr ⟨_, _, _, tyX1, rfl, in_X1, tyX1_ok, nmX1, by decide, rfl, rfl⟩
abbrev dfX11 : List Value := [.null, .null, .int 0]
theorem dfX11_ok : ∀ j, j < 3 → defaultValue (tyX11 j) = vp_V dfX11 j := fun j h => match j, h with | 0, _ => rfl | 1, _ => rfl | 2, _ => rfl | j + 3, h => absurd h (by omega)
theorem ca_9 : ∀ ci ∈ ([6] : List Nat), ∃ r : vw_C, gCL[ci]? = some r ∧ (Cond.castable r.1 "ExcuseLedger$Command" ∈ lw_tbl ∨ r.1 = "ExcuseLedger$Command") := List.forall_mem_singleton.mpr ⟨_, rfl, Or.inr rfl⟩
theorem ca_10 : ∀ ci ∈ ([1] : List Nat), ∃ r : vw_C, gCL[ci]? = some r ∧ (Cond.castable r.1 "ExcuseLedger$Ledger" ∈ lw_tbl ∨ r.1 = "ExcuseLedger$Ledger") := List.forall_mem_singleton.mpr ⟨_, rfl, Or.inr rfl⟩
theorem xa30_90 : ∀ w ∈ vx_at0 "ExcuseLedger" 90 "java/lang/UnsupportedOperationException" ["java/lang/RuntimeException", "java/lang/Exception"], w ∈ lw_tbl ∧ anyOk w = true := xw_in _ [84, 736, 745, 756, 759, 761, 737, 738, 140, 141, 739, 744, 757, 774, 726, 775, 728, 776, 730, 740, 742, 732, 1951, 1952, 1953, 766, 717, 766, 767, 768, 769, 719, 769, 770, 771, 737, 721, 2261, 1942, 1943, 1944, 755, 1945, 1946, 1947, 1948, 772, 734, 1949] rfl (by decide +kernel)
theorem xa30_90g : ∀ w ∈ Cond.classLink "ExcuseLedger" 88 "java/lang/UnsupportedOperationException" :: Cond.initialized "java/lang/UnsupportedOperationException" :: vx_at0 "ExcuseLedger" 90 "java/lang/UnsupportedOperationException" ["java/lang/RuntimeException", "java/lang/Exception"], vx_ot w = true := by decide +kernel
theorem xa29_13 : ∀ w ∈ vx_at0 "ExcuseLedger" 13 "java/lang/IllegalArgumentException" ["java/lang/RuntimeException", "java/lang/Exception"], w ∈ lw_tbl ∧ anyOk w = true := xw_in _ [84, 736, 745, 756, 759, 761, 737, 738, 140, 141, 739, 744, 757, 774, 726, 775, 728, 776, 730, 740, 742, 732, 2407, 2408, 2409, 766, 717, 766, 767, 768, 769, 719, 769, 770, 771, 737, 721, 2406, 998, 999, 1000, 751, 1001, 1002, 1003, 1004, 772, 734, 1005] rfl (by decide +kernel)
theorem xa29_13g : ∀ w ∈ Cond.classLink "ExcuseLedger" 11 "java/lang/IllegalArgumentException" :: Cond.initialized "java/lang/IllegalArgumentException" :: vx_at0 "ExcuseLedger" 13 "java/lang/IllegalArgumentException" ["java/lang/RuntimeException", "java/lang/Exception"], vx_ot w = true := by decide +kernel
theorem xa32_19 : ∀ w ∈ vx_at0 "ExcuseLedger" 19 "java/lang/IndexOutOfBoundsException" ["java/lang/RuntimeException", "java/lang/Exception"], w ∈ lw_tbl ∧ anyOk w = true := xw_in _ [84, 736, 745, 756, 759, 761, 737, 738, 140, 141, 739, 744, 757, 774, 726, 775, 728, 776, 730, 740, 742, 732, 2396, 2397, 2398, 766, 717, 766, 767, 768, 769, 719, 769, 770, 771, 737, 721, 2395, 2387, 2388, 2389, 753, 2390, 2391, 2392, 2393, 772, 734, 2394] rfl (by decide +kernel)
theorem xa32_19g : ∀ w ∈ Cond.classLink "ExcuseLedger" 17 "java/lang/IndexOutOfBoundsException" :: Cond.initialized "java/lang/IndexOutOfBoundsException" :: vx_at0 "ExcuseLedger" 19 "java/lang/IndexOutOfBoundsException" ["java/lang/RuntimeException", "java/lang/Exception"], vx_ot w = true := by decide +kernel
theorem xa28_25 : ∀ w ∈ vx_at0 "ExcuseLedger" 25 "java/util/NoSuchElementException" ["java/lang/RuntimeException", "java/lang/Exception"], w ∈ lw_tbl ∧ anyOk w = true := xw_in _ [84, 736, 745, 756, 759, 761, 737, 738, 140, 141, 739, 744, 757, 774, 726, 775, 728, 776, 730, 740, 742, 732, 763, 764, 765, 766, 717, 766, 767, 768, 769, 719, 769, 770, 771, 737, 721, 2498, 715, 716, 723, 724, 725, 727, 729, 731, 772, 734, 733] rfl (by decide +kernel)
theorem xa28_25g : ∀ w ∈ Cond.classLink "ExcuseLedger" 23 "java/util/NoSuchElementException" :: Cond.initialized "java/util/NoSuchElementException" :: vx_at0 "ExcuseLedger" 25 "java/util/NoSuchElementException" ["java/lang/RuntimeException", "java/lang/Exception"], vx_ot w = true := by decide +kernel
theorem xa33_28 : ∀ w ∈ vx_at0 "ExcuseLedger" 28 "java/lang/ArithmeticException" ["java/lang/RuntimeException", "java/lang/Exception"], w ∈ lw_tbl ∧ anyOk w = true := xw_in _ [84, 736, 745, 756, 759, 761, 737, 738, 140, 141, 739, 744, 757, 774, 726, 775, 728, 776, 730, 740, 742, 732, 2807, 2808, 2809, 766, 717, 766, 767, 768, 769, 719, 769, 770, 771, 737, 721, 2806, 2785, 2796, 2797, 749, 2791, 2792, 2794, 2790, 772, 734, 2789] rfl (by decide +kernel)
theorem xa33_28g : ∀ w ∈ Cond.classLink "ExcuseLedger" 26 "java/lang/ArithmeticException" :: Cond.initialized "java/lang/ArithmeticException" :: vx_at0 "ExcuseLedger" 28 "java/lang/ArithmeticException" ["java/lang/RuntimeException", "java/lang/Exception"], vx_ot w = true := by decide +kernel
abbrev cX1_init : ByteArray := prog_1_method_16_code
def yX1_init : MethodName := ⟨RX1, "<init>", "()V"⟩
def dkwX1_init_1 : List UInt8 := [187, 0, 59, 89, 183, 0, 61, 181, 0, 62, 42, 18, 66, 181, 0, 68, 177]
abbrev dktX1_init_1 : List UInt8 := dkwX1_init_1 ++ []
def dkwX1_init_0 : List UInt8 := [42, 183, 0, 39, 42, 184, 0, 42, 181, 0, 48, 42, 187, 0, 52, 89, 183, 0, 54, 181, 0, 55, 42]
abbrev dktX1_init_0 : List UInt8 := dkwX1_init_0 ++ dktX1_init_1
theorem dksX1_init_0 : cX1_init.data.toList.drop 0 = dktX1_init_0 := by decide +kernel
theorem dksX1_init_1 : cX1_init.data.toList.drop 23 = dktX1_init_1 := dk_seg dksX1_init_0 23 rfl rfl
theorem dX1_init_0 : decode cX1_init 0 = .ok (.aload_n 0, 1) := dk_42 (dk_at dksX1_init_0 0 rfl rfl)
theorem dX1_init_1 : decode cX1_init 1 = .ok (.invokespecial 39, 3) := dk_183 0 39 (dk_at dksX1_init_0 1 rfl rfl)
theorem dX1_init_4 : decode cX1_init 4 = .ok (.aload_n 0, 1) := dk_42 (dk_at dksX1_init_0 4 rfl rfl)
theorem dX1_init_5 : decode cX1_init 5 = .ok (.invokestatic 42, 3) := dk_184 0 42 (dk_at dksX1_init_0 5 rfl rfl)
theorem dX1_init_8 : decode cX1_init 8 = .ok (.putfield 48, 3) := dk_181 0 48 (dk_at dksX1_init_0 8 rfl rfl)
theorem dX1_init_11 : decode cX1_init 11 = .ok (.aload_n 0, 1) := dk_42 (dk_at dksX1_init_0 11 rfl rfl)
theorem dX1_init_12 : decode cX1_init 12 = .ok (.new 52, 3) := dk_187 0 52 (dk_at dksX1_init_0 12 rfl rfl)
theorem dX1_init_15 : decode cX1_init 15 = .ok (.dup, 1) := dk_89 (dk_at dksX1_init_0 15 rfl rfl)
theorem dX1_init_16 : decode cX1_init 16 = .ok (.invokespecial 54, 3) := dk_183 0 54 (dk_at dksX1_init_0 16 rfl rfl)
theorem dX1_init_19 : decode cX1_init 19 = .ok (.putfield 55, 3) := dk_181 0 55 (dk_at dksX1_init_0 19 rfl rfl)
theorem dX1_init_22 : decode cX1_init 22 = .ok (.aload_n 0, 1) := dk_42 (dk_at dksX1_init_0 22 rfl rfl)
theorem dX1_init_23 : decode cX1_init 23 = .ok (.new 59, 3) := dk_187 0 59 (dk_at dksX1_init_1 0 rfl rfl)
theorem dX1_init_26 : decode cX1_init 26 = .ok (.dup, 1) := dk_89 (dk_at dksX1_init_1 3 rfl rfl)
theorem dX1_init_27 : decode cX1_init 27 = .ok (.invokespecial 61, 3) := dk_183 0 61 (dk_at dksX1_init_1 4 rfl rfl)
theorem dX1_init_30 : decode cX1_init 30 = .ok (.putfield 62, 3) := dk_181 0 62 (dk_at dksX1_init_1 7 rfl rfl)
theorem dX1_init_33 : decode cX1_init 33 = .ok (.aload_n 0, 1) := dk_42 (dk_at dksX1_init_1 10 rfl rfl)
theorem dX1_init_34 : decode cX1_init 34 = .ok (.ldc 66, 2) := dk_18 66 (dk_at dksX1_init_1 11 rfl rfl)
theorem dX1_init_36 : decode cX1_init 36 = .ok (.putfield 68, 3) := dk_181 0 68 (dk_at dksX1_init_1 13 rfl rfl)
theorem dX1_init_39 : decode cX1_init 39 = .ok (.return_, 1) := dk_177 (dk_at dksX1_init_1 16 rfl rfl)
abbrev cX1_day : ByteArray := prog_1_method_32_code
def yX1_day : MethodName := ⟨RX1, "day", "()I"⟩
def dkwX1_day_0 : List UInt8 := [42, 18, 186, 2, 1, 2, 184, 0, 158, 182, 0, 162, 172]
abbrev dktX1_day_0 : List UInt8 := dkwX1_day_0 ++ []
theorem dksX1_day_0 : cX1_day.data.toList.drop 0 = dktX1_day_0 := by decide +kernel
theorem dX1_day_0 : decode cX1_day 0 = .ok (.aload_n 0, 1) := dk_42 (dk_at dksX1_day_0 0 rfl rfl)
theorem dX1_day_1 : decode cX1_day 1 = .ok (.ldc 186, 2) := dk_18 186 (dk_at dksX1_day_0 1 rfl rfl)
theorem dX1_day_3 : decode cX1_day 3 = .ok (.iconst (-1), 1) := dk_2 (dk_at dksX1_day_0 3 rfl rfl)
theorem dX1_day_4 : decode cX1_day 4 = .ok (.aconst_null, 1) := dk_1 (dk_at dksX1_day_0 4 rfl rfl)
theorem dX1_day_5 : decode cX1_day 5 = .ok (.iconst (-1), 1) := dk_2 (dk_at dksX1_day_0 5 rfl rfl)
theorem dX1_day_6 : decode cX1_day 6 = .ok (.invokestatic 158, 3) := dk_184 0 158 (dk_at dksX1_day_0 6 rfl rfl)
theorem dX1_day_9 : decode cX1_day 9 = .ok (.invokevirtual 162, 3) := dk_182 0 162 (dk_at dksX1_day_0 9 rfl rfl)
theorem dX1_day_12 : decode cX1_day 12 = .ok (.ireturn, 1) := dk_172 (dk_at dksX1_day_0 12 rfl rfl)
abbrev cX1_does : ByteArray := prog_1_method_19_code
def yX1_does : MethodName := ⟨RX1, "does", "(LExcuseLedger$Command;)I"⟩
def dkwX1_does_1 : List UInt8 := [182, 0, 102, 191]
abbrev dktX1_does_1 : List UInt8 := dkwX1_does_1 ++ []
def dkwX1_does_0 : List UInt8 := [42, 180, 0, 48, 182, 0, 91, 77, 43, 44, 182, 0, 94, 62, 42, 44, 29, 182, 0, 98, 172, 78, 42, 45]
abbrev dktX1_does_0 : List UInt8 := dkwX1_does_0 ++ dktX1_does_1
theorem dksX1_does_0 : cX1_does.data.toList.drop 0 = dktX1_does_0 := by decide +kernel
theorem dksX1_does_1 : cX1_does.data.toList.drop 24 = dktX1_does_1 := dk_seg dksX1_does_0 24 rfl rfl
theorem dX1_does_0 : decode cX1_does 0 = .ok (.aload_n 0, 1) := dk_42 (dk_at dksX1_does_0 0 rfl rfl)
theorem dX1_does_1 : decode cX1_does 1 = .ok (.getfield 48, 3) := dk_180 0 48 (dk_at dksX1_does_0 1 rfl rfl)
theorem dX1_does_4 : decode cX1_does 4 = .ok (.invokevirtual 91, 3) := dk_182 0 91 (dk_at dksX1_does_0 4 rfl rfl)
theorem dX1_does_7 : decode cX1_does 7 = .ok (.astore_n 2, 1) := dk_77 (dk_at dksX1_does_0 7 rfl rfl)
theorem dX1_does_8 : decode cX1_does 8 = .ok (.aload_n 1, 1) := dk_43 (dk_at dksX1_does_0 8 rfl rfl)
theorem dX1_does_9 : decode cX1_does 9 = .ok (.aload_n 2, 1) := dk_44 (dk_at dksX1_does_0 9 rfl rfl)
theorem dX1_does_10 : decode cX1_does 10 = .ok (.invokevirtual 94, 3) := dk_182 0 94 (dk_at dksX1_does_0 10 rfl rfl)
theorem dX1_does_13 : decode cX1_does 13 = .ok (.istore_n 3, 1) := dk_62 (dk_at dksX1_does_0 13 rfl rfl)
theorem dX1_does_14 : decode cX1_does 14 = .ok (.aload_n 0, 1) := dk_42 (dk_at dksX1_does_0 14 rfl rfl)
theorem dX1_does_15 : decode cX1_does 15 = .ok (.aload_n 2, 1) := dk_44 (dk_at dksX1_does_0 15 rfl rfl)
theorem dX1_does_16 : decode cX1_does 16 = .ok (.iload_n 3, 1) := dk_29 (dk_at dksX1_does_0 16 rfl rfl)
theorem dX1_does_17 : decode cX1_does 17 = .ok (.invokevirtual 98, 3) := dk_182 0 98 (dk_at dksX1_does_0 17 rfl rfl)
theorem dX1_does_20 : decode cX1_does 20 = .ok (.ireturn, 1) := dk_172 (dk_at dksX1_does_0 20 rfl rfl)
theorem dX1_does_21 : decode cX1_does 21 = .ok (.astore_n 3, 1) := dk_78 (dk_at dksX1_does_0 21 rfl rfl)
theorem dX1_does_22 : decode cX1_does 22 = .ok (.aload_n 0, 1) := dk_42 (dk_at dksX1_does_0 22 rfl rfl)
theorem dX1_does_23 : decode cX1_does 23 = .ok (.aload_n 3, 1) := dk_45 (dk_at dksX1_does_0 23 rfl rfl)
theorem dX1_does_24 : decode cX1_does 24 = .ok (.invokevirtual 102, 3) := dk_182 0 102 (dk_at dksX1_does_1 0 rfl rfl)
theorem dX1_does_27 : decode cX1_does 27 = .ok (.athrow, 1) := dk_191 (dk_at dksX1_does_1 3 rfl rfl)
abbrev cX1_become : ByteArray := prog_1_method_17_code
def yX1_become : MethodName := ⟨RX1, "become", "(LExcuseLedger$Ledger;I)I"⟩
def dkwX1_become_1 : List UInt8 := [180, 0, 55, 42, 180, 0, 48, 182, 0, 80, 87, 42, 43, 181, 0, 48, 28, 172]
abbrev dktX1_become_1 : List UInt8 := dkwX1_become_1 ++ []
def dkwX1_become_0 : List UInt8 := [42, 180, 0, 55, 182, 0, 72, 16, 6, 160, 0, 12, 42, 180, 0, 55, 3, 182, 0, 76, 87, 42]
abbrev dktX1_become_0 : List UInt8 := dkwX1_become_0 ++ dktX1_become_1
theorem dksX1_become_0 : cX1_become.data.toList.drop 0 = dktX1_become_0 := by decide +kernel
theorem dksX1_become_1 : cX1_become.data.toList.drop 22 = dktX1_become_1 := dk_seg dksX1_become_0 22 rfl rfl
theorem dX1_become_0 : decode cX1_become 0 = .ok (.aload_n 0, 1) := dk_42 (dk_at dksX1_become_0 0 rfl rfl)
theorem dX1_become_1 : decode cX1_become 1 = .ok (.getfield 55, 3) := dk_180 0 55 (dk_at dksX1_become_0 1 rfl rfl)
theorem dX1_become_4 : decode cX1_become 4 = .ok (.invokevirtual 72, 3) := dk_182 0 72 (dk_at dksX1_become_0 4 rfl rfl)
theorem dX1_become_7 : decode cX1_become 7 = .ok (.bipush 6, 2) := dk_16 6 (dk_at dksX1_become_0 7 rfl rfl)
theorem dX1_become_9 : decode cX1_become 9 = .ok (.if_icmp .ne 12, 3) := dk_160 0 12 (dk_at dksX1_become_0 9 rfl rfl)
theorem dX1_become_12 : decode cX1_become 12 = .ok (.aload_n 0, 1) := dk_42 (dk_at dksX1_become_0 12 rfl rfl)
theorem dX1_become_13 : decode cX1_become 13 = .ok (.getfield 55, 3) := dk_180 0 55 (dk_at dksX1_become_0 13 rfl rfl)
theorem dX1_become_16 : decode cX1_become 16 = .ok (.iconst 0, 1) := dk_3 (dk_at dksX1_become_0 16 rfl rfl)
theorem dX1_become_17 : decode cX1_become 17 = .ok (.invokevirtual 76, 3) := dk_182 0 76 (dk_at dksX1_become_0 17 rfl rfl)
theorem dX1_become_20 : decode cX1_become 20 = .ok (.pop, 1) := dk_87 (dk_at dksX1_become_0 20 rfl rfl)
theorem dX1_become_21 : decode cX1_become 21 = .ok (.aload_n 0, 1) := dk_42 (dk_at dksX1_become_0 21 rfl rfl)
theorem dX1_become_22 : decode cX1_become 22 = .ok (.getfield 55, 3) := dk_180 0 55 (dk_at dksX1_become_1 0 rfl rfl)
theorem dX1_become_25 : decode cX1_become 25 = .ok (.aload_n 0, 1) := dk_42 (dk_at dksX1_become_1 3 rfl rfl)
theorem dX1_become_26 : decode cX1_become 26 = .ok (.getfield 48, 3) := dk_180 0 48 (dk_at dksX1_become_1 4 rfl rfl)
theorem dX1_become_29 : decode cX1_become 29 = .ok (.invokevirtual 80, 3) := dk_182 0 80 (dk_at dksX1_become_1 7 rfl rfl)
theorem dX1_become_32 : decode cX1_become 32 = .ok (.pop, 1) := dk_87 (dk_at dksX1_become_1 10 rfl rfl)
theorem dX1_become_33 : decode cX1_become 33 = .ok (.aload_n 0, 1) := dk_42 (dk_at dksX1_become_1 11 rfl rfl)
theorem dX1_become_34 : decode cX1_become 34 = .ok (.aload_n 1, 1) := dk_43 (dk_at dksX1_become_1 12 rfl rfl)
theorem dX1_become_35 : decode cX1_become 35 = .ok (.putfield 48, 3) := dk_181 0 48 (dk_at dksX1_become_1 13 rfl rfl)
theorem dX1_become_38 : decode cX1_become 38 = .ok (.iload_n 2, 1) := dk_28 (dk_at dksX1_become_1 16 rfl rfl)
theorem dX1_become_39 : decode cX1_become 39 = .ok (.ireturn, 1) := dk_172 (dk_at dksX1_become_1 17 rfl rfl)
abbrev cX1_kept : ByteArray := prog_1_method_18_code
def yX1_kept : MethodName := ⟨RX1, "kept", "(LExcuseLedger$Refusal;)Ljava/lang/UnsupportedOperationException;"⟩
def dkwX1_kept_0 : List UInt8 := [42, 43, 181, 0, 84, 187, 0, 88, 89, 183, 0, 90, 176]
abbrev dktX1_kept_0 : List UInt8 := dkwX1_kept_0 ++ []
theorem dksX1_kept_0 : cX1_kept.data.toList.drop 0 = dktX1_kept_0 := by decide +kernel
theorem dX1_kept_0 : decode cX1_kept 0 = .ok (.aload_n 0, 1) := dk_42 (dk_at dksX1_kept_0 0 rfl rfl)
theorem dX1_kept_1 : decode cX1_kept 1 = .ok (.aload_n 1, 1) := dk_43 (dk_at dksX1_kept_0 1 rfl rfl)
theorem dX1_kept_2 : decode cX1_kept 2 = .ok (.putfield 84, 3) := dk_181 0 84 (dk_at dksX1_kept_0 2 rfl rfl)
theorem dX1_kept_5 : decode cX1_kept 5 = .ok (.new 88, 3) := dk_187 0 88 (dk_at dksX1_kept_0 5 rfl rfl)
theorem dX1_kept_8 : decode cX1_kept 8 = .ok (.dup, 1) := dk_89 (dk_at dksX1_kept_0 8 rfl rfl)
theorem dX1_kept_9 : decode cX1_kept 9 = .ok (.invokespecial 90, 3) := dk_183 0 90 (dk_at dksX1_kept_0 9 rfl rfl)
theorem dX1_kept_12 : decode cX1_kept 12 = .ok (.areturn, 1) := dk_176 (dk_at dksX1_kept_0 12 rfl rfl)
abbrev cX1_chances : ByteArray := prog_1_method_44_code
def yX1_chances : MethodName := ⟨RX1, "chances", "()I"⟩
def dkwX1_chances_0 : List UInt8 := [42, 180, 0, 48, 182, 1, 34, 172]
abbrev dktX1_chances_0 : List UInt8 := dkwX1_chances_0 ++ []
theorem dksX1_chances_0 : cX1_chances.data.toList.drop 0 = dktX1_chances_0 := by decide +kernel
theorem dX1_chances_0 : decode cX1_chances 0 = .ok (.aload_n 0, 1) := dk_42 (dk_at dksX1_chances_0 0 rfl rfl)
theorem dX1_chances_1 : decode cX1_chances 1 = .ok (.getfield 48, 3) := dk_180 0 48 (dk_at dksX1_chances_0 1 rfl rfl)
theorem dX1_chances_4 : decode cX1_chances 4 = .ok (.invokevirtual 290, 3) := dk_182 1 34 (dk_at dksX1_chances_0 4 rfl rfl)
theorem dX1_chances_7 : decode cX1_chances 7 = .ok (.ireturn, 1) := dk_172 (dk_at dksX1_chances_0 7 rfl rfl)
abbrev cX1_chancesAgain : ByteArray := prog_1_method_45_code
def yX1_chancesAgain : MethodName := ⟨RX1, "chancesAgain", "()I"⟩
def dkwX1_chancesAgain_0 : List UInt8 := [42, 180, 0, 48, 182, 1, 37, 172]
abbrev dktX1_chancesAgain_0 : List UInt8 := dkwX1_chancesAgain_0 ++ []
theorem dksX1_chancesAgain_0 : cX1_chancesAgain.data.toList.drop 0 = dktX1_chancesAgain_0 := by decide +kernel
theorem dX1_chancesAgain_0 : decode cX1_chancesAgain 0 = .ok (.aload_n 0, 1) := dk_42 (dk_at dksX1_chancesAgain_0 0 rfl rfl)
theorem dX1_chancesAgain_1 : decode cX1_chancesAgain 1 = .ok (.getfield 48, 3) := dk_180 0 48 (dk_at dksX1_chancesAgain_0 1 rfl rfl)
theorem dX1_chancesAgain_4 : decode cX1_chancesAgain 4 = .ok (.invokevirtual 293, 3) := dk_182 1 37 (dk_at dksX1_chancesAgain_0 4 rfl rfl)
theorem dX1_chancesAgain_7 : decode cX1_chancesAgain 7 = .ok (.ireturn, 1) := dk_172 (dk_at dksX1_chancesAgain_0 7 rfl rfl)
abbrev cX1_worn : ByteArray := prog_1_method_46_code
def yX1_worn : MethodName := ⟨RX1, "worn", "()I"⟩
def dkwX1_worn_0 : List UInt8 := [42, 180, 0, 48, 182, 0, 201, 184, 0, 241, 172]
abbrev dktX1_worn_0 : List UInt8 := dkwX1_worn_0 ++ []
theorem dksX1_worn_0 : cX1_worn.data.toList.drop 0 = dktX1_worn_0 := by decide +kernel
theorem dX1_worn_0 : decode cX1_worn 0 = .ok (.aload_n 0, 1) := dk_42 (dk_at dksX1_worn_0 0 rfl rfl)
theorem dX1_worn_1 : decode cX1_worn 1 = .ok (.getfield 48, 3) := dk_180 0 48 (dk_at dksX1_worn_0 1 rfl rfl)
theorem dX1_worn_4 : decode cX1_worn 4 = .ok (.invokevirtual 201, 3) := dk_182 0 201 (dk_at dksX1_worn_0 4 rfl rfl)
theorem dX1_worn_7 : decode cX1_worn 7 = .ok (.invokestatic 241, 3) := dk_184 0 241 (dk_at dksX1_worn_0 7 rfl rfl)
theorem dX1_worn_10 : decode cX1_worn 10 = .ok (.ireturn, 1) := dk_172 (dk_at dksX1_worn_0 10 rfl rfl)
abbrev cX1_due : ByteArray := prog_1_method_47_code
def yX1_due : MethodName := ⟨RX1, "due", "()I"⟩
def dkwX1_due_0 : List UInt8 := [42, 180, 0, 48, 182, 1, 40, 172]
abbrev dktX1_due_0 : List UInt8 := dkwX1_due_0 ++ []
theorem dksX1_due_0 : cX1_due.data.toList.drop 0 = dktX1_due_0 := by decide +kernel
theorem dX1_due_0 : decode cX1_due 0 = .ok (.aload_n 0, 1) := dk_42 (dk_at dksX1_due_0 0 rfl rfl)
theorem dX1_due_1 : decode cX1_due 1 = .ok (.getfield 48, 3) := dk_180 0 48 (dk_at dksX1_due_0 1 rfl rfl)
theorem dX1_due_4 : decode cX1_due 4 = .ok (.invokevirtual 296, 3) := dk_182 1 40 (dk_at dksX1_due_0 4 rfl rfl)
theorem dX1_due_7 : decode cX1_due 7 = .ok (.ireturn, 1) := dk_172 (dk_at dksX1_due_0 7 rfl rfl)
abbrev cX1_isFair : ByteArray := prog_1_method_51_code
def yX1_isFair : MethodName := ⟨RX1, "isFair", "()Z"⟩
def dkwX1_isFair_0 : List UInt8 := [42, 180, 0, 48, 182, 1, 52, 172]
abbrev dktX1_isFair_0 : List UInt8 := dkwX1_isFair_0 ++ []
theorem dksX1_isFair_0 : cX1_isFair.data.toList.drop 0 = dktX1_isFair_0 := by decide +kernel
theorem dX1_isFair_0 : decode cX1_isFair 0 = .ok (.aload_n 0, 1) := dk_42 (dk_at dksX1_isFair_0 0 rfl rfl)
theorem dX1_isFair_1 : decode cX1_isFair 1 = .ok (.getfield 48, 3) := dk_180 0 48 (dk_at dksX1_isFair_0 1 rfl rfl)
theorem dX1_isFair_4 : decode cX1_isFair 4 = .ok (.invokevirtual 308, 3) := dk_182 1 52 (dk_at dksX1_isFair_0 4 rfl rfl)
theorem dX1_isFair_7 : decode cX1_isFair 7 = .ok (.ireturn, 1) := dk_172 (dk_at dksX1_isFair_0 7 rfl rfl)
abbrev cX1_save : ByteArray := prog_1_method_63_code
def yX1_save : MethodName := ⟨RX1, "save", "()I"⟩
def dkwX1_save_0 : List UInt8 := [42, 42, 180, 0, 48, 182, 0, 91, 181, 1, 158, 42, 180, 1, 158, 180, 0, 117, 182, 0, 200, 172]
abbrev dktX1_save_0 : List UInt8 := dkwX1_save_0 ++ []
theorem dksX1_save_0 : cX1_save.data.toList.drop 0 = dktX1_save_0 := by decide +kernel
theorem dX1_save_0 : decode cX1_save 0 = .ok (.aload_n 0, 1) := dk_42 (dk_at dksX1_save_0 0 rfl rfl)
theorem dX1_save_1 : decode cX1_save 1 = .ok (.aload_n 0, 1) := dk_42 (dk_at dksX1_save_0 1 rfl rfl)
theorem dX1_save_2 : decode cX1_save 2 = .ok (.getfield 48, 3) := dk_180 0 48 (dk_at dksX1_save_0 2 rfl rfl)
theorem dX1_save_5 : decode cX1_save 5 = .ok (.invokevirtual 91, 3) := dk_182 0 91 (dk_at dksX1_save_0 5 rfl rfl)
theorem dX1_save_8 : decode cX1_save 8 = .ok (.putfield 414, 3) := dk_181 1 158 (dk_at dksX1_save_0 8 rfl rfl)
theorem dX1_save_11 : decode cX1_save 11 = .ok (.aload_n 0, 1) := dk_42 (dk_at dksX1_save_0 11 rfl rfl)
theorem dX1_save_12 : decode cX1_save 12 = .ok (.getfield 414, 3) := dk_180 1 158 (dk_at dksX1_save_0 12 rfl rfl)
theorem dX1_save_15 : decode cX1_save 15 = .ok (.getfield 117, 3) := dk_180 0 117 (dk_at dksX1_save_0 15 rfl rfl)
theorem dX1_save_18 : decode cX1_save 18 = .ok (.invokevirtual 200, 3) := dk_182 0 200 (dk_at dksX1_save_0 18 rfl rfl)
theorem dX1_save_21 : decode cX1_save 21 = .ok (.ireturn, 1) := dk_172 (dk_at dksX1_save_0 21 rfl rfl)
abbrev cX1_enter : ByteArray := prog_1_method_24_code
def yX1_enter : MethodName := ⟨RX1, "enter", "(IIII)I"⟩
def dkwX1_enter_1 : List UInt8 := [21, 4, 184, 0, 158, 182, 0, 162, 172]
abbrev dktX1_enter_1 : List UInt8 := dkwX1_enter_1 ++ []
def dkwX1_enter_0 : List UInt8 := [27, 184, 0, 147, 184, 0, 150, 21, 4, 184, 0, 153, 184, 0, 110, 42, 18, 156, 27, 28, 29, 184, 0, 121]
abbrev dktX1_enter_0 : List UInt8 := dkwX1_enter_0 ++ dktX1_enter_1
theorem dksX1_enter_0 : cX1_enter.data.toList.drop 0 = dktX1_enter_0 := by decide +kernel
theorem dksX1_enter_1 : cX1_enter.data.toList.drop 24 = dktX1_enter_1 := dk_seg dksX1_enter_0 24 rfl rfl
theorem dX1_enter_0 : decode cX1_enter 0 = .ok (.iload_n 1, 1) := dk_27 (dk_at dksX1_enter_0 0 rfl rfl)
theorem dX1_enter_1 : decode cX1_enter 1 = .ok (.invokestatic 147, 3) := dk_184 0 147 (dk_at dksX1_enter_0 1 rfl rfl)
theorem dX1_enter_4 : decode cX1_enter 4 = .ok (.invokestatic 150, 3) := dk_184 0 150 (dk_at dksX1_enter_0 4 rfl rfl)
theorem dX1_enter_7 : decode cX1_enter 7 = .ok (.iload 4, 2) := dk_21 4 (dk_at dksX1_enter_0 7 rfl rfl)
theorem dX1_enter_9 : decode cX1_enter 9 = .ok (.invokestatic 153, 3) := dk_184 0 153 (dk_at dksX1_enter_0 9 rfl rfl)
theorem dX1_enter_12 : decode cX1_enter 12 = .ok (.invokestatic 110, 3) := dk_184 0 110 (dk_at dksX1_enter_0 12 rfl rfl)
theorem dX1_enter_15 : decode cX1_enter 15 = .ok (.aload_n 0, 1) := dk_42 (dk_at dksX1_enter_0 15 rfl rfl)
theorem dX1_enter_16 : decode cX1_enter 16 = .ok (.ldc 156, 2) := dk_18 156 (dk_at dksX1_enter_0 16 rfl rfl)
theorem dX1_enter_18 : decode cX1_enter 18 = .ok (.iload_n 1, 1) := dk_27 (dk_at dksX1_enter_0 18 rfl rfl)
theorem dX1_enter_19 : decode cX1_enter 19 = .ok (.iload_n 2, 1) := dk_28 (dk_at dksX1_enter_0 19 rfl rfl)
theorem dX1_enter_20 : decode cX1_enter 20 = .ok (.iload_n 3, 1) := dk_29 (dk_at dksX1_enter_0 20 rfl rfl)
theorem dX1_enter_21 : decode cX1_enter 21 = .ok (.invokestatic 121, 3) := dk_184 0 121 (dk_at dksX1_enter_0 21 rfl rfl)
theorem dX1_enter_24 : decode cX1_enter 24 = .ok (.iload 4, 2) := dk_21 4 (dk_at dksX1_enter_1 0 rfl rfl)
theorem dX1_enter_26 : decode cX1_enter 26 = .ok (.invokestatic 158, 3) := dk_184 0 158 (dk_at dksX1_enter_1 2 rfl rfl)
theorem dX1_enter_29 : decode cX1_enter 29 = .ok (.invokevirtual 162, 3) := dk_182 0 162 (dk_at dksX1_enter_1 5 rfl rfl)
theorem dX1_enter_32 : decode cX1_enter 32 = .ok (.ireturn, 1) := dk_172 (dk_at dksX1_enter_1 8 rfl rfl)
abbrev cX1_checkIndex : ByteArray := prog_1_method_10_code
def yX1_checkIndex : MethodName := ⟨RX1, "checkIndex", "(Z)V"⟩
def dkwX1_checkIndex_0 : List UInt8 := [26, 154, 0, 11, 187, 0, 17, 89, 183, 0, 19, 191, 177]
abbrev dktX1_checkIndex_0 : List UInt8 := dkwX1_checkIndex_0 ++ []
theorem dksX1_checkIndex_0 : cX1_checkIndex.data.toList.drop 0 = dktX1_checkIndex_0 := by decide +kernel
theorem dX1_checkIndex_0 : decode cX1_checkIndex 0 = .ok (.iload_n 0, 1) := dk_26 (dk_at dksX1_checkIndex_0 0 rfl rfl)
theorem dX1_checkIndex_1 : decode cX1_checkIndex 1 = .ok (.ifCond .ne 11, 3) := dk_154 0 11 (dk_at dksX1_checkIndex_0 1 rfl rfl)
theorem dX1_checkIndex_4 : decode cX1_checkIndex 4 = .ok (.new 17, 3) := dk_187 0 17 (dk_at dksX1_checkIndex_0 4 rfl rfl)
theorem dX1_checkIndex_7 : decode cX1_checkIndex 7 = .ok (.dup, 1) := dk_89 (dk_at dksX1_checkIndex_0 7 rfl rfl)
theorem dX1_checkIndex_8 : decode cX1_checkIndex 8 = .ok (.invokespecial 19, 3) := dk_183 0 19 (dk_at dksX1_checkIndex_0 8 rfl rfl)
theorem dX1_checkIndex_11 : decode cX1_checkIndex 11 = .ok (.athrow, 1) := dk_191 (dk_at dksX1_checkIndex_0 11 rfl rfl)
theorem dX1_checkIndex_12 : decode cX1_checkIndex 12 = .ok (.return_, 1) := dk_177 (dk_at dksX1_checkIndex_0 12 rfl rfl)
abbrev cX1_checkArgument : ByteArray := prog_1_method_9_code
def yX1_checkArgument : MethodName := ⟨RX1, "checkArgument", "(Z)V"⟩
def dkwX1_checkArgument_0 : List UInt8 := [26, 154, 0, 11, 187, 0, 11, 89, 183, 0, 13, 191, 177]
abbrev dktX1_checkArgument_0 : List UInt8 := dkwX1_checkArgument_0 ++ []
theorem dksX1_checkArgument_0 : cX1_checkArgument.data.toList.drop 0 = dktX1_checkArgument_0 := by decide +kernel
theorem dX1_checkArgument_0 : decode cX1_checkArgument 0 = .ok (.iload_n 0, 1) := dk_26 (dk_at dksX1_checkArgument_0 0 rfl rfl)
theorem dX1_checkArgument_1 : decode cX1_checkArgument 1 = .ok (.ifCond .ne 11, 3) := dk_154 0 11 (dk_at dksX1_checkArgument_0 1 rfl rfl)
theorem dX1_checkArgument_4 : decode cX1_checkArgument 4 = .ok (.new 11, 3) := dk_187 0 11 (dk_at dksX1_checkArgument_0 4 rfl rfl)
theorem dX1_checkArgument_7 : decode cX1_checkArgument 7 = .ok (.dup, 1) := dk_89 (dk_at dksX1_checkArgument_0 7 rfl rfl)
theorem dX1_checkArgument_8 : decode cX1_checkArgument 8 = .ok (.invokespecial 13, 3) := dk_183 0 13 (dk_at dksX1_checkArgument_0 8 rfl rfl)
theorem dX1_checkArgument_11 : decode cX1_checkArgument 11 = .ok (.athrow, 1) := dk_191 (dk_at dksX1_checkArgument_0 11 rfl rfl)
theorem dX1_checkArgument_12 : decode cX1_checkArgument 12 = .ok (.return_, 1) := dk_177 (dk_at dksX1_checkArgument_0 12 rfl rfl)
abbrev cX1_checkedName : ByteArray := prog_1_method_20_code
def yX1_checkedName : MethodName := ⟨RX1, "checkedName", "(II)LExcuseLedger$Name;"⟩
def dkwX1_checkedName_0 : List UInt8 := [26, 27, 184, 0, 106, 184, 0, 110, 187, 0, 114, 89, 26, 27, 183, 0, 116, 176]
abbrev dktX1_checkedName_0 : List UInt8 := dkwX1_checkedName_0 ++ []
theorem dksX1_checkedName_0 : cX1_checkedName.data.toList.drop 0 = dktX1_checkedName_0 := by decide +kernel
theorem dX1_checkedName_0 : decode cX1_checkedName 0 = .ok (.iload_n 0, 1) := dk_26 (dk_at dksX1_checkedName_0 0 rfl rfl)
theorem dX1_checkedName_1 : decode cX1_checkedName 1 = .ok (.iload_n 1, 1) := dk_27 (dk_at dksX1_checkedName_0 1 rfl rfl)
theorem dX1_checkedName_2 : decode cX1_checkedName 2 = .ok (.invokestatic 106, 3) := dk_184 0 106 (dk_at dksX1_checkedName_0 2 rfl rfl)
theorem dX1_checkedName_5 : decode cX1_checkedName 5 = .ok (.invokestatic 110, 3) := dk_184 0 110 (dk_at dksX1_checkedName_0 5 rfl rfl)
theorem dX1_checkedName_8 : decode cX1_checkedName 8 = .ok (.new 114, 3) := dk_187 0 114 (dk_at dksX1_checkedName_0 8 rfl rfl)
theorem dX1_checkedName_11 : decode cX1_checkedName 11 = .ok (.dup, 1) := dk_89 (dk_at dksX1_checkedName_0 11 rfl rfl)
theorem dX1_checkedName_12 : decode cX1_checkedName 12 = .ok (.iload_n 0, 1) := dk_26 (dk_at dksX1_checkedName_0 12 rfl rfl)
theorem dX1_checkedName_13 : decode cX1_checkedName 13 = .ok (.iload_n 1, 1) := dk_27 (dk_at dksX1_checkedName_0 13 rfl rfl)
theorem dX1_checkedName_14 : decode cX1_checkedName 14 = .ok (.invokespecial 116, 3) := dk_183 0 116 (dk_at dksX1_checkedName_0 14 rfl rfl)
theorem dX1_checkedName_17 : decode cX1_checkedName 17 = .ok (.areturn, 1) := dk_176 (dk_at dksX1_checkedName_0 17 rfl rfl)
abbrev cX1_isExcuse : ByteArray := prog_1_method_5_code
def yX1_isExcuse : MethodName := ⟨RX1, "isExcuse", "(II)Z"⟩
def dkwX1_isExcuse_0 : List UInt8 := [26, 3, 6, 184, 0, 3, 153, 0, 14, 27, 184, 0, 7, 153, 0, 7, 4, 167, 0, 4, 3, 172]
abbrev dktX1_isExcuse_0 : List UInt8 := dkwX1_isExcuse_0 ++ []
theorem dksX1_isExcuse_0 : cX1_isExcuse.data.toList.drop 0 = dktX1_isExcuse_0 := by decide +kernel
theorem dX1_isExcuse_0 : decode cX1_isExcuse 0 = .ok (.iload_n 0, 1) := dk_26 (dk_at dksX1_isExcuse_0 0 rfl rfl)
theorem dX1_isExcuse_1 : decode cX1_isExcuse 1 = .ok (.iconst 0, 1) := dk_3 (dk_at dksX1_isExcuse_0 1 rfl rfl)
theorem dX1_isExcuse_2 : decode cX1_isExcuse 2 = .ok (.iconst 3, 1) := dk_6 (dk_at dksX1_isExcuse_0 2 rfl rfl)
theorem dX1_isExcuse_3 : decode cX1_isExcuse 3 = .ok (.invokestatic 3, 3) := dk_184 0 3 (dk_at dksX1_isExcuse_0 3 rfl rfl)
theorem dX1_isExcuse_6 : decode cX1_isExcuse 6 = .ok (.ifCond .eq 14, 3) := dk_153 0 14 (dk_at dksX1_isExcuse_0 6 rfl rfl)
theorem dX1_isExcuse_9 : decode cX1_isExcuse 9 = .ok (.iload_n 1, 1) := dk_27 (dk_at dksX1_isExcuse_0 9 rfl rfl)
theorem dX1_isExcuse_10 : decode cX1_isExcuse 10 = .ok (.invokestatic 7, 3) := dk_184 0 7 (dk_at dksX1_isExcuse_0 10 rfl rfl)
theorem dX1_isExcuse_13 : decode cX1_isExcuse 13 = .ok (.ifCond .eq 7, 3) := dk_153 0 7 (dk_at dksX1_isExcuse_0 13 rfl rfl)
theorem dX1_isExcuse_16 : decode cX1_isExcuse 16 = .ok (.iconst 1, 1) := dk_4 (dk_at dksX1_isExcuse_0 16 rfl rfl)
theorem dX1_isExcuse_17 : decode cX1_isExcuse 17 = .ok (.goto 4, 3) := dk_167 0 4 (dk_at dksX1_isExcuse_0 17 rfl rfl)
theorem dX1_isExcuse_20 : decode cX1_isExcuse 20 = .ok (.iconst 0, 1) := dk_3 (dk_at dksX1_isExcuse_0 20 rfl rfl)
theorem dX1_isExcuse_21 : decode cX1_isExcuse 21 = .ok (.ireturn, 1) := dk_172 (dk_at dksX1_isExcuse_0 21 rfl rfl)
abbrev cX1_isTopic : ByteArray := prog_1_method_4_code
def yX1_isTopic : MethodName := ⟨RX1, "isTopic", "(I)Z"⟩
def dkwX1_isTopic_0 : List UInt8 := [26, 3, 16, 9, 184, 0, 3, 172]
abbrev dktX1_isTopic_0 : List UInt8 := dkwX1_isTopic_0 ++ []
theorem dksX1_isTopic_0 : cX1_isTopic.data.toList.drop 0 = dktX1_isTopic_0 := by decide +kernel
theorem dX1_isTopic_0 : decode cX1_isTopic 0 = .ok (.iload_n 0, 1) := dk_26 (dk_at dksX1_isTopic_0 0 rfl rfl)
theorem dX1_isTopic_1 : decode cX1_isTopic 1 = .ok (.iconst 0, 1) := dk_3 (dk_at dksX1_isTopic_0 1 rfl rfl)
theorem dX1_isTopic_2 : decode cX1_isTopic 2 = .ok (.bipush 9, 2) := dk_16 9 (dk_at dksX1_isTopic_0 2 rfl rfl)
theorem dX1_isTopic_4 : decode cX1_isTopic 4 = .ok (.invokestatic 3, 3) := dk_184 0 3 (dk_at dksX1_isTopic_0 4 rfl rfl)
theorem dX1_isTopic_7 : decode cX1_isTopic 7 = .ok (.ireturn, 1) := dk_172 (dk_at dksX1_isTopic_0 7 rfl rfl)
abbrev cX1_strike : ByteArray := prog_1_method_25_code
def yX1_strike : MethodName := ⟨RX1, "strike", "(II)I"⟩
def dkwX1_strike_0 : List UInt8 := [42, 18, 166, 2, 27, 28, 184, 0, 121, 2, 184, 0, 158, 182, 0, 162, 172]
abbrev dktX1_strike_0 : List UInt8 := dkwX1_strike_0 ++ []
theorem dksX1_strike_0 : cX1_strike.data.toList.drop 0 = dktX1_strike_0 := by decide +kernel
theorem dX1_strike_0 : decode cX1_strike 0 = .ok (.aload_n 0, 1) := dk_42 (dk_at dksX1_strike_0 0 rfl rfl)
theorem dX1_strike_1 : decode cX1_strike 1 = .ok (.ldc 166, 2) := dk_18 166 (dk_at dksX1_strike_0 1 rfl rfl)
theorem dX1_strike_3 : decode cX1_strike 3 = .ok (.iconst (-1), 1) := dk_2 (dk_at dksX1_strike_0 3 rfl rfl)
theorem dX1_strike_4 : decode cX1_strike 4 = .ok (.iload_n 1, 1) := dk_27 (dk_at dksX1_strike_0 4 rfl rfl)
theorem dX1_strike_5 : decode cX1_strike 5 = .ok (.iload_n 2, 1) := dk_28 (dk_at dksX1_strike_0 5 rfl rfl)
theorem dX1_strike_6 : decode cX1_strike 6 = .ok (.invokestatic 121, 3) := dk_184 0 121 (dk_at dksX1_strike_0 6 rfl rfl)
theorem dX1_strike_9 : decode cX1_strike 9 = .ok (.iconst (-1), 1) := dk_2 (dk_at dksX1_strike_0 9 rfl rfl)
theorem dX1_strike_10 : decode cX1_strike 10 = .ok (.invokestatic 158, 3) := dk_184 0 158 (dk_at dksX1_strike_0 10 rfl rfl)
theorem dX1_strike_13 : decode cX1_strike 13 = .ok (.invokevirtual 162, 3) := dk_182 0 162 (dk_at dksX1_strike_0 13 rfl rfl)
theorem dX1_strike_16 : decode cX1_strike 16 = .ok (.ireturn, 1) := dk_172 (dk_at dksX1_strike_0 16 rfl rfl)
abbrev cX1_lend : ByteArray := prog_1_method_26_code
def yX1_lend : MethodName := ⟨RX1, "lend", "(IIII)I"⟩
def dkwX1_lend_1 : List UInt8 := [18, 171, 29, 25, 5, 21, 4, 184, 0, 158, 182, 0, 162, 172]
abbrev dktX1_lend_1 : List UInt8 := dkwX1_lend_1 ++ []
def dkwX1_lend_0 : List UInt8 := [27, 28, 184, 0, 121, 58, 5, 21, 4, 184, 0, 168, 184, 0, 110, 29, 184, 0, 147, 184, 0, 150, 42]
abbrev dktX1_lend_0 : List UInt8 := dkwX1_lend_0 ++ dktX1_lend_1
theorem dksX1_lend_0 : cX1_lend.data.toList.drop 0 = dktX1_lend_0 := by decide +kernel
theorem dksX1_lend_1 : cX1_lend.data.toList.drop 23 = dktX1_lend_1 := dk_seg dksX1_lend_0 23 rfl rfl
theorem dX1_lend_0 : decode cX1_lend 0 = .ok (.iload_n 1, 1) := dk_27 (dk_at dksX1_lend_0 0 rfl rfl)
theorem dX1_lend_1 : decode cX1_lend 1 = .ok (.iload_n 2, 1) := dk_28 (dk_at dksX1_lend_0 1 rfl rfl)
theorem dX1_lend_2 : decode cX1_lend 2 = .ok (.invokestatic 121, 3) := dk_184 0 121 (dk_at dksX1_lend_0 2 rfl rfl)
theorem dX1_lend_5 : decode cX1_lend 5 = .ok (.astore 5, 2) := dk_58 5 (dk_at dksX1_lend_0 5 rfl rfl)
theorem dX1_lend_7 : decode cX1_lend 7 = .ok (.iload 4, 2) := dk_21 4 (dk_at dksX1_lend_0 7 rfl rfl)
theorem dX1_lend_9 : decode cX1_lend 9 = .ok (.invokestatic 168, 3) := dk_184 0 168 (dk_at dksX1_lend_0 9 rfl rfl)
theorem dX1_lend_12 : decode cX1_lend 12 = .ok (.invokestatic 110, 3) := dk_184 0 110 (dk_at dksX1_lend_0 12 rfl rfl)
theorem dX1_lend_15 : decode cX1_lend 15 = .ok (.iload_n 3, 1) := dk_29 (dk_at dksX1_lend_0 15 rfl rfl)
theorem dX1_lend_16 : decode cX1_lend 16 = .ok (.invokestatic 147, 3) := dk_184 0 147 (dk_at dksX1_lend_0 16 rfl rfl)
theorem dX1_lend_19 : decode cX1_lend 19 = .ok (.invokestatic 150, 3) := dk_184 0 150 (dk_at dksX1_lend_0 19 rfl rfl)
theorem dX1_lend_22 : decode cX1_lend 22 = .ok (.aload_n 0, 1) := dk_42 (dk_at dksX1_lend_0 22 rfl rfl)
theorem dX1_lend_23 : decode cX1_lend 23 = .ok (.ldc 171, 2) := dk_18 171 (dk_at dksX1_lend_1 0 rfl rfl)
theorem dX1_lend_25 : decode cX1_lend 25 = .ok (.iload_n 3, 1) := dk_29 (dk_at dksX1_lend_1 2 rfl rfl)
theorem dX1_lend_26 : decode cX1_lend 26 = .ok (.aload 5, 2) := dk_25 5 (dk_at dksX1_lend_1 3 rfl rfl)
theorem dX1_lend_28 : decode cX1_lend 28 = .ok (.iload 4, 2) := dk_21 4 (dk_at dksX1_lend_1 5 rfl rfl)
theorem dX1_lend_30 : decode cX1_lend 30 = .ok (.invokestatic 158, 3) := dk_184 0 158 (dk_at dksX1_lend_1 7 rfl rfl)
theorem dX1_lend_33 : decode cX1_lend 33 = .ok (.invokevirtual 162, 3) := dk_182 0 162 (dk_at dksX1_lend_1 10 rfl rfl)
theorem dX1_lend_36 : decode cX1_lend 36 = .ok (.ireturn, 1) := dk_172 (dk_at dksX1_lend_1 13 rfl rfl)
abbrev cX1_back : ByteArray := prog_1_method_27_code
def yX1_back : MethodName := ⟨RX1, "back", "(II)I"⟩
def dkwX1_back_0 : List UInt8 := [42, 18, 173, 2, 27, 28, 184, 0, 121, 2, 184, 0, 158, 182, 0, 162, 172]
abbrev dktX1_back_0 : List UInt8 := dkwX1_back_0 ++ []
theorem dksX1_back_0 : cX1_back.data.toList.drop 0 = dktX1_back_0 := by decide +kernel
theorem dX1_back_0 : decode cX1_back 0 = .ok (.aload_n 0, 1) := dk_42 (dk_at dksX1_back_0 0 rfl rfl)
theorem dX1_back_1 : decode cX1_back 1 = .ok (.ldc 173, 2) := dk_18 173 (dk_at dksX1_back_0 1 rfl rfl)
theorem dX1_back_3 : decode cX1_back 3 = .ok (.iconst (-1), 1) := dk_2 (dk_at dksX1_back_0 3 rfl rfl)
theorem dX1_back_4 : decode cX1_back 4 = .ok (.iload_n 1, 1) := dk_27 (dk_at dksX1_back_0 4 rfl rfl)
theorem dX1_back_5 : decode cX1_back 5 = .ok (.iload_n 2, 1) := dk_28 (dk_at dksX1_back_0 5 rfl rfl)
theorem dX1_back_6 : decode cX1_back 6 = .ok (.invokestatic 121, 3) := dk_184 0 121 (dk_at dksX1_back_0 6 rfl rfl)
theorem dX1_back_9 : decode cX1_back 9 = .ok (.iconst (-1), 1) := dk_2 (dk_at dksX1_back_0 9 rfl rfl)
theorem dX1_back_10 : decode cX1_back 10 = .ok (.invokestatic 158, 3) := dk_184 0 158 (dk_at dksX1_back_0 10 rfl rfl)
theorem dX1_back_13 : decode cX1_back 13 = .ok (.invokevirtual 162, 3) := dk_182 0 162 (dk_at dksX1_back_0 13 rfl rfl)
theorem dX1_back_16 : decode cX1_back 16 = .ok (.ireturn, 1) := dk_172 (dk_at dksX1_back_0 16 rfl rfl)
abbrev cX1_mend : ByteArray := prog_1_method_28_code
def yX1_mend : MethodName := ⟨RX1, "mend", "(III)I"⟩
def dkwX1_mend_1 : List UInt8 := [182, 0, 162, 172]
abbrev dktX1_mend_1 : List UInt8 := dkwX1_mend_1 ++ []
def dkwX1_mend_0 : List UInt8 := [27, 28, 184, 0, 121, 58, 4, 29, 184, 0, 153, 184, 0, 110, 42, 18, 175, 2, 25, 4, 29, 184, 0, 158]
abbrev dktX1_mend_0 : List UInt8 := dkwX1_mend_0 ++ dktX1_mend_1
theorem dksX1_mend_0 : cX1_mend.data.toList.drop 0 = dktX1_mend_0 := by decide +kernel
theorem dksX1_mend_1 : cX1_mend.data.toList.drop 24 = dktX1_mend_1 := dk_seg dksX1_mend_0 24 rfl rfl
theorem dX1_mend_0 : decode cX1_mend 0 = .ok (.iload_n 1, 1) := dk_27 (dk_at dksX1_mend_0 0 rfl rfl)
theorem dX1_mend_1 : decode cX1_mend 1 = .ok (.iload_n 2, 1) := dk_28 (dk_at dksX1_mend_0 1 rfl rfl)
theorem dX1_mend_2 : decode cX1_mend 2 = .ok (.invokestatic 121, 3) := dk_184 0 121 (dk_at dksX1_mend_0 2 rfl rfl)
theorem dX1_mend_5 : decode cX1_mend 5 = .ok (.astore 4, 2) := dk_58 4 (dk_at dksX1_mend_0 5 rfl rfl)
theorem dX1_mend_7 : decode cX1_mend 7 = .ok (.iload_n 3, 1) := dk_29 (dk_at dksX1_mend_0 7 rfl rfl)
theorem dX1_mend_8 : decode cX1_mend 8 = .ok (.invokestatic 153, 3) := dk_184 0 153 (dk_at dksX1_mend_0 8 rfl rfl)
theorem dX1_mend_11 : decode cX1_mend 11 = .ok (.invokestatic 110, 3) := dk_184 0 110 (dk_at dksX1_mend_0 11 rfl rfl)
theorem dX1_mend_14 : decode cX1_mend 14 = .ok (.aload_n 0, 1) := dk_42 (dk_at dksX1_mend_0 14 rfl rfl)
theorem dX1_mend_15 : decode cX1_mend 15 = .ok (.ldc 175, 2) := dk_18 175 (dk_at dksX1_mend_0 15 rfl rfl)
theorem dX1_mend_17 : decode cX1_mend 17 = .ok (.iconst (-1), 1) := dk_2 (dk_at dksX1_mend_0 17 rfl rfl)
theorem dX1_mend_18 : decode cX1_mend 18 = .ok (.aload 4, 2) := dk_25 4 (dk_at dksX1_mend_0 18 rfl rfl)
theorem dX1_mend_20 : decode cX1_mend 20 = .ok (.iload_n 3, 1) := dk_29 (dk_at dksX1_mend_0 20 rfl rfl)
theorem dX1_mend_21 : decode cX1_mend 21 = .ok (.invokestatic 158, 3) := dk_184 0 158 (dk_at dksX1_mend_0 21 rfl rfl)
theorem dX1_mend_24 : decode cX1_mend 24 = .ok (.invokevirtual 162, 3) := dk_182 0 162 (dk_at dksX1_mend_1 0 rfl rfl)
theorem dX1_mend_27 : decode cX1_mend 27 = .ok (.ireturn, 1) := dk_172 (dk_at dksX1_mend_1 3 rfl rfl)
abbrev cX1_use : ByteArray := prog_1_method_29_code
def yX1_use : MethodName := ⟨RX1, "use", "(IIII)Z"⟩
def dkwX1_use_2 : List UInt8 := [3, 172]
abbrev dktX1_use_2 : List UInt8 := dkwX1_use_2 ++ []
def dkwX1_use_1 : List UInt8 := [18, 180, 27, 28, 29, 184, 0, 121, 21, 4, 184, 0, 158, 182, 0, 162, 4, 160, 0, 7, 4, 167, 0, 4]
abbrev dktX1_use_1 : List UInt8 := dkwX1_use_1 ++ dktX1_use_2
def dkwX1_use_0 : List UInt8 := [27, 184, 0, 147, 153, 0, 15, 21, 4, 184, 0, 177, 153, 0, 7, 4, 167, 0, 4, 3, 184, 0, 150, 42]
abbrev dktX1_use_0 : List UInt8 := dkwX1_use_0 ++ dktX1_use_1
theorem dksX1_use_0 : cX1_use.data.toList.drop 0 = dktX1_use_0 := by decide +kernel
theorem dksX1_use_1 : cX1_use.data.toList.drop 24 = dktX1_use_1 := dk_seg dksX1_use_0 24 rfl rfl
theorem dksX1_use_2 : cX1_use.data.toList.drop 48 = dktX1_use_2 := dk_seg dksX1_use_1 24 rfl rfl
theorem dX1_use_0 : decode cX1_use 0 = .ok (.iload_n 1, 1) := dk_27 (dk_at dksX1_use_0 0 rfl rfl)
theorem dX1_use_1 : decode cX1_use 1 = .ok (.invokestatic 147, 3) := dk_184 0 147 (dk_at dksX1_use_0 1 rfl rfl)
theorem dX1_use_4 : decode cX1_use 4 = .ok (.ifCond .eq 15, 3) := dk_153 0 15 (dk_at dksX1_use_0 4 rfl rfl)
theorem dX1_use_7 : decode cX1_use 7 = .ok (.iload 4, 2) := dk_21 4 (dk_at dksX1_use_0 7 rfl rfl)
theorem dX1_use_9 : decode cX1_use 9 = .ok (.invokestatic 177, 3) := dk_184 0 177 (dk_at dksX1_use_0 9 rfl rfl)
theorem dX1_use_12 : decode cX1_use 12 = .ok (.ifCond .eq 7, 3) := dk_153 0 7 (dk_at dksX1_use_0 12 rfl rfl)
theorem dX1_use_15 : decode cX1_use 15 = .ok (.iconst 1, 1) := dk_4 (dk_at dksX1_use_0 15 rfl rfl)
theorem dX1_use_16 : decode cX1_use 16 = .ok (.goto 4, 3) := dk_167 0 4 (dk_at dksX1_use_0 16 rfl rfl)
theorem dX1_use_19 : decode cX1_use 19 = .ok (.iconst 0, 1) := dk_3 (dk_at dksX1_use_0 19 rfl rfl)
theorem dX1_use_20 : decode cX1_use 20 = .ok (.invokestatic 150, 3) := dk_184 0 150 (dk_at dksX1_use_0 20 rfl rfl)
theorem dX1_use_23 : decode cX1_use 23 = .ok (.aload_n 0, 1) := dk_42 (dk_at dksX1_use_0 23 rfl rfl)
theorem dX1_use_24 : decode cX1_use 24 = .ok (.ldc 180, 2) := dk_18 180 (dk_at dksX1_use_1 0 rfl rfl)
theorem dX1_use_26 : decode cX1_use 26 = .ok (.iload_n 1, 1) := dk_27 (dk_at dksX1_use_1 2 rfl rfl)
theorem dX1_use_27 : decode cX1_use 27 = .ok (.iload_n 2, 1) := dk_28 (dk_at dksX1_use_1 3 rfl rfl)
theorem dX1_use_28 : decode cX1_use 28 = .ok (.iload_n 3, 1) := dk_29 (dk_at dksX1_use_1 4 rfl rfl)
theorem dX1_use_29 : decode cX1_use 29 = .ok (.invokestatic 121, 3) := dk_184 0 121 (dk_at dksX1_use_1 5 rfl rfl)
theorem dX1_use_32 : decode cX1_use 32 = .ok (.iload 4, 2) := dk_21 4 (dk_at dksX1_use_1 8 rfl rfl)
theorem dX1_use_34 : decode cX1_use 34 = .ok (.invokestatic 158, 3) := dk_184 0 158 (dk_at dksX1_use_1 10 rfl rfl)
theorem dX1_use_37 : decode cX1_use 37 = .ok (.invokevirtual 162, 3) := dk_182 0 162 (dk_at dksX1_use_1 13 rfl rfl)
theorem dX1_use_40 : decode cX1_use 40 = .ok (.iconst 1, 1) := dk_4 (dk_at dksX1_use_1 16 rfl rfl)
theorem dX1_use_41 : decode cX1_use 41 = .ok (.if_icmp .ne 7, 3) := dk_160 0 7 (dk_at dksX1_use_1 17 rfl rfl)
theorem dX1_use_44 : decode cX1_use 44 = .ok (.iconst 1, 1) := dk_4 (dk_at dksX1_use_1 20 rfl rfl)
theorem dX1_use_45 : decode cX1_use 45 = .ok (.goto 4, 3) := dk_167 0 4 (dk_at dksX1_use_1 21 rfl rfl)
theorem dX1_use_48 : decode cX1_use 48 = .ok (.iconst 0, 1) := dk_3 (dk_at dksX1_use_2 0 rfl rfl)
theorem dX1_use_49 : decode cX1_use 49 = .ok (.ireturn, 1) := dk_172 (dk_at dksX1_use_2 1 rfl rfl)
abbrev cX1_strict : ByteArray := prog_1_method_30_code
def yX1_strict : MethodName := ⟨RX1, "strict", "(II)I"⟩
def dkwX1_strict_1 : List UInt8 := [182, 0, 162, 172]
abbrev dktX1_strict_1 : List UInt8 := dkwX1_strict_1 ++ []
def dkwX1_strict_0 : List UInt8 := [27, 184, 0, 177, 184, 0, 150, 28, 184, 0, 153, 184, 0, 110, 42, 18, 182, 27, 1, 28, 184, 0, 158]
abbrev dktX1_strict_0 : List UInt8 := dkwX1_strict_0 ++ dktX1_strict_1
theorem dksX1_strict_0 : cX1_strict.data.toList.drop 0 = dktX1_strict_0 := by decide +kernel
theorem dksX1_strict_1 : cX1_strict.data.toList.drop 23 = dktX1_strict_1 := dk_seg dksX1_strict_0 23 rfl rfl
theorem dX1_strict_0 : decode cX1_strict 0 = .ok (.iload_n 1, 1) := dk_27 (dk_at dksX1_strict_0 0 rfl rfl)
theorem dX1_strict_1 : decode cX1_strict 1 = .ok (.invokestatic 177, 3) := dk_184 0 177 (dk_at dksX1_strict_0 1 rfl rfl)
theorem dX1_strict_4 : decode cX1_strict 4 = .ok (.invokestatic 150, 3) := dk_184 0 150 (dk_at dksX1_strict_0 4 rfl rfl)
theorem dX1_strict_7 : decode cX1_strict 7 = .ok (.iload_n 2, 1) := dk_28 (dk_at dksX1_strict_0 7 rfl rfl)
theorem dX1_strict_8 : decode cX1_strict 8 = .ok (.invokestatic 153, 3) := dk_184 0 153 (dk_at dksX1_strict_0 8 rfl rfl)
theorem dX1_strict_11 : decode cX1_strict 11 = .ok (.invokestatic 110, 3) := dk_184 0 110 (dk_at dksX1_strict_0 11 rfl rfl)
theorem dX1_strict_14 : decode cX1_strict 14 = .ok (.aload_n 0, 1) := dk_42 (dk_at dksX1_strict_0 14 rfl rfl)
theorem dX1_strict_15 : decode cX1_strict 15 = .ok (.ldc 182, 2) := dk_18 182 (dk_at dksX1_strict_0 15 rfl rfl)
theorem dX1_strict_17 : decode cX1_strict 17 = .ok (.iload_n 1, 1) := dk_27 (dk_at dksX1_strict_0 17 rfl rfl)
theorem dX1_strict_18 : decode cX1_strict 18 = .ok (.aconst_null, 1) := dk_1 (dk_at dksX1_strict_0 18 rfl rfl)
theorem dX1_strict_19 : decode cX1_strict 19 = .ok (.iload_n 2, 1) := dk_28 (dk_at dksX1_strict_0 19 rfl rfl)
theorem dX1_strict_20 : decode cX1_strict 20 = .ok (.invokestatic 158, 3) := dk_184 0 158 (dk_at dksX1_strict_0 20 rfl rfl)
theorem dX1_strict_23 : decode cX1_strict 23 = .ok (.invokevirtual 162, 3) := dk_182 0 162 (dk_at dksX1_strict_1 0 rfl rfl)
theorem dX1_strict_26 : decode cX1_strict 26 = .ok (.ireturn, 1) := dk_172 (dk_at dksX1_strict_1 3 rfl rfl)
abbrev cX1_weather : ByteArray := prog_1_method_31_code
def yX1_weather : MethodName := ⟨RX1, "weather", "(I)I"⟩
def dkwX1_weather_0 : List UInt8 := [27, 184, 0, 7, 184, 0, 110, 42, 18, 184, 2, 1, 27, 184, 0, 158, 182, 0, 162, 172]
abbrev dktX1_weather_0 : List UInt8 := dkwX1_weather_0 ++ []
theorem dksX1_weather_0 : cX1_weather.data.toList.drop 0 = dktX1_weather_0 := by decide +kernel
theorem dX1_weather_0 : decode cX1_weather 0 = .ok (.iload_n 1, 1) := dk_27 (dk_at dksX1_weather_0 0 rfl rfl)
theorem dX1_weather_1 : decode cX1_weather 1 = .ok (.invokestatic 7, 3) := dk_184 0 7 (dk_at dksX1_weather_0 1 rfl rfl)
theorem dX1_weather_4 : decode cX1_weather 4 = .ok (.invokestatic 110, 3) := dk_184 0 110 (dk_at dksX1_weather_0 4 rfl rfl)
theorem dX1_weather_7 : decode cX1_weather 7 = .ok (.aload_n 0, 1) := dk_42 (dk_at dksX1_weather_0 7 rfl rfl)
theorem dX1_weather_8 : decode cX1_weather 8 = .ok (.ldc 184, 2) := dk_18 184 (dk_at dksX1_weather_0 8 rfl rfl)
theorem dX1_weather_10 : decode cX1_weather 10 = .ok (.iconst (-1), 1) := dk_2 (dk_at dksX1_weather_0 10 rfl rfl)
theorem dX1_weather_11 : decode cX1_weather 11 = .ok (.aconst_null, 1) := dk_1 (dk_at dksX1_weather_0 11 rfl rfl)
theorem dX1_weather_12 : decode cX1_weather 12 = .ok (.iload_n 1, 1) := dk_27 (dk_at dksX1_weather_0 12 rfl rfl)
theorem dX1_weather_13 : decode cX1_weather 13 = .ok (.invokestatic 158, 3) := dk_184 0 158 (dk_at dksX1_weather_0 13 rfl rfl)
theorem dX1_weather_16 : decode cX1_weather 16 = .ok (.invokevirtual 162, 3) := dk_182 0 162 (dk_at dksX1_weather_0 16 rfl rfl)
theorem dX1_weather_19 : decode cX1_weather 19 = .ok (.ireturn, 1) := dk_172 (dk_at dksX1_weather_0 19 rfl rfl)
abbrev cX1_excuseOf : ByteArray := prog_1_method_33_code
def yX1_excuseOf : MethodName := ⟨RX1, "excuseOf", "(III)I"⟩
def dkwX1_excuseOf_1 : List UInt8 := [180, 0, 48, 25, 4, 182, 0, 192, 182, 0, 196, 172]
abbrev dktX1_excuseOf_1 : List UInt8 := dkwX1_excuseOf_1 ++ []
def dkwX1_excuseOf_0 : List UInt8 := [29, 3, 16, 7, 184, 0, 3, 184, 0, 110, 42, 27, 28, 182, 0, 188, 58, 4, 25, 4, 29, 42]
abbrev dktX1_excuseOf_0 : List UInt8 := dkwX1_excuseOf_0 ++ dktX1_excuseOf_1
theorem dksX1_excuseOf_0 : cX1_excuseOf.data.toList.drop 0 = dktX1_excuseOf_0 := by decide +kernel
theorem dksX1_excuseOf_1 : cX1_excuseOf.data.toList.drop 22 = dktX1_excuseOf_1 := dk_seg dksX1_excuseOf_0 22 rfl rfl
theorem dX1_excuseOf_0 : decode cX1_excuseOf 0 = .ok (.iload_n 3, 1) := dk_29 (dk_at dksX1_excuseOf_0 0 rfl rfl)
theorem dX1_excuseOf_1 : decode cX1_excuseOf 1 = .ok (.iconst 0, 1) := dk_3 (dk_at dksX1_excuseOf_0 1 rfl rfl)
theorem dX1_excuseOf_2 : decode cX1_excuseOf 2 = .ok (.bipush 7, 2) := dk_16 7 (dk_at dksX1_excuseOf_0 2 rfl rfl)
theorem dX1_excuseOf_4 : decode cX1_excuseOf 4 = .ok (.invokestatic 3, 3) := dk_184 0 3 (dk_at dksX1_excuseOf_0 4 rfl rfl)
theorem dX1_excuseOf_7 : decode cX1_excuseOf 7 = .ok (.invokestatic 110, 3) := dk_184 0 110 (dk_at dksX1_excuseOf_0 7 rfl rfl)
theorem dX1_excuseOf_10 : decode cX1_excuseOf 10 = .ok (.aload_n 0, 1) := dk_42 (dk_at dksX1_excuseOf_0 10 rfl rfl)
theorem dX1_excuseOf_11 : decode cX1_excuseOf 11 = .ok (.iload_n 1, 1) := dk_27 (dk_at dksX1_excuseOf_0 11 rfl rfl)
theorem dX1_excuseOf_12 : decode cX1_excuseOf 12 = .ok (.iload_n 2, 1) := dk_28 (dk_at dksX1_excuseOf_0 12 rfl rfl)
theorem dX1_excuseOf_13 : decode cX1_excuseOf 13 = .ok (.invokevirtual 188, 3) := dk_182 0 188 (dk_at dksX1_excuseOf_0 13 rfl rfl)
theorem dX1_excuseOf_16 : decode cX1_excuseOf 16 = .ok (.astore 4, 2) := dk_58 4 (dk_at dksX1_excuseOf_0 16 rfl rfl)
theorem dX1_excuseOf_18 : decode cX1_excuseOf 18 = .ok (.aload 4, 2) := dk_25 4 (dk_at dksX1_excuseOf_0 18 rfl rfl)
theorem dX1_excuseOf_20 : decode cX1_excuseOf 20 = .ok (.iload_n 3, 1) := dk_29 (dk_at dksX1_excuseOf_0 20 rfl rfl)
theorem dX1_excuseOf_21 : decode cX1_excuseOf 21 = .ok (.aload_n 0, 1) := dk_42 (dk_at dksX1_excuseOf_0 21 rfl rfl)
theorem dX1_excuseOf_22 : decode cX1_excuseOf 22 = .ok (.getfield 48, 3) := dk_180 0 48 (dk_at dksX1_excuseOf_1 0 rfl rfl)
theorem dX1_excuseOf_25 : decode cX1_excuseOf 25 = .ok (.aload 4, 2) := dk_25 4 (dk_at dksX1_excuseOf_1 3 rfl rfl)
theorem dX1_excuseOf_27 : decode cX1_excuseOf 27 = .ok (.invokevirtual 192, 3) := dk_182 0 192 (dk_at dksX1_excuseOf_1 5 rfl rfl)
theorem dX1_excuseOf_30 : decode cX1_excuseOf 30 = .ok (.invokevirtual 196, 3) := dk_182 0 196 (dk_at dksX1_excuseOf_1 8 rfl rfl)
theorem dX1_excuseOf_33 : decode cX1_excuseOf 33 = .ok (.ireturn, 1) := dk_172 (dk_at dksX1_excuseOf_1 11 rfl rfl)
abbrev cX1_checkedExcuse : ByteArray := prog_1_method_21_code
def yX1_checkedExcuse : MethodName := ⟨RX1, "checkedExcuse", "(II)LExcuseLedger$Excuse;"⟩
def dkwX1_checkedExcuse_1 : List UInt8 := [167, 0, 4, 3, 184, 0, 133, 45, 176]
abbrev dktX1_checkedExcuse_1 : List UInt8 := dkwX1_checkedExcuse_1 ++ []
def dkwX1_checkedExcuse_0 : List UInt8 := [42, 180, 0, 48, 180, 0, 117, 27, 28, 184, 0, 121, 182, 0, 125, 192, 0, 131, 78, 45, 198, 0, 7, 4]
abbrev dktX1_checkedExcuse_0 : List UInt8 := dkwX1_checkedExcuse_0 ++ dktX1_checkedExcuse_1
theorem dksX1_checkedExcuse_0 : cX1_checkedExcuse.data.toList.drop 0 = dktX1_checkedExcuse_0 := by decide +kernel
theorem dksX1_checkedExcuse_1 : cX1_checkedExcuse.data.toList.drop 24 = dktX1_checkedExcuse_1 := dk_seg dksX1_checkedExcuse_0 24 rfl rfl
theorem dX1_checkedExcuse_0 : decode cX1_checkedExcuse 0 = .ok (.aload_n 0, 1) := dk_42 (dk_at dksX1_checkedExcuse_0 0 rfl rfl)
theorem dX1_checkedExcuse_1 : decode cX1_checkedExcuse 1 = .ok (.getfield 48, 3) := dk_180 0 48 (dk_at dksX1_checkedExcuse_0 1 rfl rfl)
theorem dX1_checkedExcuse_4 : decode cX1_checkedExcuse 4 = .ok (.getfield 117, 3) := dk_180 0 117 (dk_at dksX1_checkedExcuse_0 4 rfl rfl)
theorem dX1_checkedExcuse_7 : decode cX1_checkedExcuse 7 = .ok (.iload_n 1, 1) := dk_27 (dk_at dksX1_checkedExcuse_0 7 rfl rfl)
theorem dX1_checkedExcuse_8 : decode cX1_checkedExcuse 8 = .ok (.iload_n 2, 1) := dk_28 (dk_at dksX1_checkedExcuse_0 8 rfl rfl)
theorem dX1_checkedExcuse_9 : decode cX1_checkedExcuse 9 = .ok (.invokestatic 121, 3) := dk_184 0 121 (dk_at dksX1_checkedExcuse_0 9 rfl rfl)
theorem dX1_checkedExcuse_12 : decode cX1_checkedExcuse 12 = .ok (.invokevirtual 125, 3) := dk_182 0 125 (dk_at dksX1_checkedExcuse_0 12 rfl rfl)
theorem dX1_checkedExcuse_15 : decode cX1_checkedExcuse 15 = .ok (.checkcast 131, 3) := dk_192 0 131 (dk_at dksX1_checkedExcuse_0 15 rfl rfl)
theorem dX1_checkedExcuse_18 : decode cX1_checkedExcuse 18 = .ok (.astore_n 3, 1) := dk_78 (dk_at dksX1_checkedExcuse_0 18 rfl rfl)
theorem dX1_checkedExcuse_19 : decode cX1_checkedExcuse 19 = .ok (.aload_n 3, 1) := dk_45 (dk_at dksX1_checkedExcuse_0 19 rfl rfl)
theorem dX1_checkedExcuse_20 : decode cX1_checkedExcuse 20 = .ok (.ifnull 7, 3) := dk_198 0 7 (dk_at dksX1_checkedExcuse_0 20 rfl rfl)
theorem dX1_checkedExcuse_23 : decode cX1_checkedExcuse 23 = .ok (.iconst 1, 1) := dk_4 (dk_at dksX1_checkedExcuse_0 23 rfl rfl)
theorem dX1_checkedExcuse_24 : decode cX1_checkedExcuse 24 = .ok (.goto 4, 3) := dk_167 0 4 (dk_at dksX1_checkedExcuse_1 0 rfl rfl)
theorem dX1_checkedExcuse_27 : decode cX1_checkedExcuse 27 = .ok (.iconst 0, 1) := dk_3 (dk_at dksX1_checkedExcuse_1 3 rfl rfl)
theorem dX1_checkedExcuse_28 : decode cX1_checkedExcuse 28 = .ok (.invokestatic 133, 3) := dk_184 0 133 (dk_at dksX1_checkedExcuse_1 4 rfl rfl)
theorem dX1_checkedExcuse_31 : decode cX1_checkedExcuse 31 = .ok (.aload_n 3, 1) := dk_45 (dk_at dksX1_checkedExcuse_1 7 rfl rfl)
theorem dX1_checkedExcuse_32 : decode cX1_checkedExcuse 32 = .ok (.areturn, 1) := dk_176 (dk_at dksX1_checkedExcuse_1 8 rfl rfl)
abbrev cX1_checkElement : ByteArray := prog_1_method_12_code
def yX1_checkElement : MethodName := ⟨RX1, "checkElement", "(Z)V"⟩
def dkwX1_checkElement_0 : List UInt8 := [26, 154, 0, 11, 187, 0, 23, 89, 183, 0, 25, 191, 177]
abbrev dktX1_checkElement_0 : List UInt8 := dkwX1_checkElement_0 ++ []
theorem dksX1_checkElement_0 : cX1_checkElement.data.toList.drop 0 = dktX1_checkElement_0 := by decide +kernel
theorem dX1_checkElement_0 : decode cX1_checkElement 0 = .ok (.iload_n 0, 1) := dk_26 (dk_at dksX1_checkElement_0 0 rfl rfl)
theorem dX1_checkElement_1 : decode cX1_checkElement 1 = .ok (.ifCond .ne 11, 3) := dk_154 0 11 (dk_at dksX1_checkElement_0 1 rfl rfl)
theorem dX1_checkElement_4 : decode cX1_checkElement 4 = .ok (.new 23, 3) := dk_187 0 23 (dk_at dksX1_checkElement_0 4 rfl rfl)
theorem dX1_checkElement_7 : decode cX1_checkElement 7 = .ok (.dup, 1) := dk_89 (dk_at dksX1_checkElement_0 7 rfl rfl)
theorem dX1_checkElement_8 : decode cX1_checkElement 8 = .ok (.invokespecial 25, 3) := dk_183 0 25 (dk_at dksX1_checkElement_0 8 rfl rfl)
theorem dX1_checkElement_11 : decode cX1_checkElement 11 = .ok (.athrow, 1) := dk_191 (dk_at dksX1_checkElement_0 11 rfl rfl)
theorem dX1_checkElement_12 : decode cX1_checkElement 12 = .ok (.return_, 1) := dk_177 (dk_at dksX1_checkElement_0 12 rfl rfl)
abbrev cX1_at : ByteArray := prog_1_method_34_code
def yX1_at : MethodName := ⟨RX1, "at", "(IZ)I"⟩
def dkwX1_at_2 : List UInt8 := [167, 0, 7, 45, 180, 0, 215, 172]
abbrev dktX1_at_2 : List UInt8 := dkwX1_at_2 ++ []
def dkwX1_at_1 : List UInt8 := [182, 0, 201, 27, 182, 0, 205, 192, 0, 131, 180, 0, 207, 78, 28, 153, 0, 10, 45, 180, 0, 211]
abbrev dktX1_at_1 : List UInt8 := dkwX1_at_1 ++ dktX1_at_2
def dkwX1_at_0 : List UInt8 := [27, 3, 42, 180, 0, 48, 180, 0, 117, 182, 0, 200, 4, 100, 184, 0, 3, 184, 0, 133, 42, 180, 0, 48]
abbrev dktX1_at_0 : List UInt8 := dkwX1_at_0 ++ dktX1_at_1
theorem dksX1_at_0 : cX1_at.data.toList.drop 0 = dktX1_at_0 := by decide +kernel
theorem dksX1_at_1 : cX1_at.data.toList.drop 24 = dktX1_at_1 := dk_seg dksX1_at_0 24 rfl rfl
theorem dksX1_at_2 : cX1_at.data.toList.drop 46 = dktX1_at_2 := dk_seg dksX1_at_1 22 rfl rfl
theorem dX1_at_0 : decode cX1_at 0 = .ok (.iload_n 1, 1) := dk_27 (dk_at dksX1_at_0 0 rfl rfl)
theorem dX1_at_1 : decode cX1_at 1 = .ok (.iconst 0, 1) := dk_3 (dk_at dksX1_at_0 1 rfl rfl)
theorem dX1_at_2 : decode cX1_at 2 = .ok (.aload_n 0, 1) := dk_42 (dk_at dksX1_at_0 2 rfl rfl)
theorem dX1_at_3 : decode cX1_at 3 = .ok (.getfield 48, 3) := dk_180 0 48 (dk_at dksX1_at_0 3 rfl rfl)
theorem dX1_at_6 : decode cX1_at 6 = .ok (.getfield 117, 3) := dk_180 0 117 (dk_at dksX1_at_0 6 rfl rfl)
theorem dX1_at_9 : decode cX1_at 9 = .ok (.invokevirtual 200, 3) := dk_182 0 200 (dk_at dksX1_at_0 9 rfl rfl)
theorem dX1_at_12 : decode cX1_at 12 = .ok (.iconst 1, 1) := dk_4 (dk_at dksX1_at_0 12 rfl rfl)
theorem dX1_at_13 : decode cX1_at 13 = .ok (.isub, 1) := dk_100 (dk_at dksX1_at_0 13 rfl rfl)
theorem dX1_at_14 : decode cX1_at 14 = .ok (.invokestatic 3, 3) := dk_184 0 3 (dk_at dksX1_at_0 14 rfl rfl)
theorem dX1_at_17 : decode cX1_at 17 = .ok (.invokestatic 133, 3) := dk_184 0 133 (dk_at dksX1_at_0 17 rfl rfl)
theorem dX1_at_20 : decode cX1_at 20 = .ok (.aload_n 0, 1) := dk_42 (dk_at dksX1_at_0 20 rfl rfl)
theorem dX1_at_21 : decode cX1_at 21 = .ok (.getfield 48, 3) := dk_180 0 48 (dk_at dksX1_at_0 21 rfl rfl)
theorem dX1_at_24 : decode cX1_at 24 = .ok (.invokevirtual 201, 3) := dk_182 0 201 (dk_at dksX1_at_1 0 rfl rfl)
theorem dX1_at_27 : decode cX1_at 27 = .ok (.iload_n 1, 1) := dk_27 (dk_at dksX1_at_1 3 rfl rfl)
theorem dX1_at_28 : decode cX1_at 28 = .ok (.invokevirtual 205, 3) := dk_182 0 205 (dk_at dksX1_at_1 4 rfl rfl)
theorem dX1_at_31 : decode cX1_at 31 = .ok (.checkcast 131, 3) := dk_192 0 131 (dk_at dksX1_at_1 7 rfl rfl)
theorem dX1_at_34 : decode cX1_at 34 = .ok (.getfield 207, 3) := dk_180 0 207 (dk_at dksX1_at_1 10 rfl rfl)
theorem dX1_at_37 : decode cX1_at 37 = .ok (.astore_n 3, 1) := dk_78 (dk_at dksX1_at_1 13 rfl rfl)
theorem dX1_at_38 : decode cX1_at 38 = .ok (.iload_n 2, 1) := dk_28 (dk_at dksX1_at_1 14 rfl rfl)
theorem dX1_at_39 : decode cX1_at 39 = .ok (.ifCond .eq 10, 3) := dk_153 0 10 (dk_at dksX1_at_1 15 rfl rfl)
theorem dX1_at_42 : decode cX1_at 42 = .ok (.aload_n 3, 1) := dk_45 (dk_at dksX1_at_1 18 rfl rfl)
theorem dX1_at_43 : decode cX1_at 43 = .ok (.getfield 211, 3) := dk_180 0 211 (dk_at dksX1_at_1 19 rfl rfl)
theorem dX1_at_46 : decode cX1_at 46 = .ok (.goto 7, 3) := dk_167 0 7 (dk_at dksX1_at_2 0 rfl rfl)
theorem dX1_at_49 : decode cX1_at 49 = .ok (.aload_n 3, 1) := dk_45 (dk_at dksX1_at_2 3 rfl rfl)
theorem dX1_at_50 : decode cX1_at 50 = .ok (.getfield 215, 3) := dk_180 0 215 (dk_at dksX1_at_2 4 rfl rfl)
theorem dX1_at_53 : decode cX1_at 53 = .ok (.ireturn, 1) := dk_172 (dk_at dksX1_at_2 7 rfl rfl)
abbrev cX1_pupilOf : ByteArray := prog_1_method_35_code
def yX1_pupilOf : MethodName := ⟨RX1, "pupilOf", "(II)I"⟩
def dkwX1_pupilOf_5 : List UInt8 := [180, 0, 48, 27, 182, 0, 231, 184, 0, 241, 172]
abbrev dktX1_pupilOf_5 : List UInt8 := dkwX1_pupilOf_5 ++ []
def dkwX1_pupilOf_4 : List UInt8 := [182, 0, 231, 182, 0, 72, 167, 0, 28, 45, 180, 0, 235, 167, 0, 21, 45, 180, 0, 238, 167, 0, 14, 42]
abbrev dktX1_pupilOf_4 : List UInt8 := dkwX1_pupilOf_4 ++ dktX1_pupilOf_5
def dkwX1_pupilOf_3 : List UInt8 := [45, 180, 0, 222, 167, 0, 53, 42, 180, 0, 48, 27, 182, 0, 227, 167, 0, 42, 42, 180, 0, 48, 27]
abbrev dktX1_pupilOf_3 : List UInt8 := dkwX1_pupilOf_3 ++ dktX1_pupilOf_4
def dkwX1_pupilOf_2 : List UInt8 := [170, 0, 0, 0, 79, 0, 0, 0, 0, 0, 0, 0, 4, 0, 0, 0, 33, 0, 0, 0, 40, 0, 0, 0, 51, 0, 0, 0, 65, 0, 0, 0, 72]
abbrev dktX1_pupilOf_2 : List UInt8 := dkwX1_pupilOf_2 ++ dktX1_pupilOf_3
def dkwX1_pupilOf_1 : List UInt8 := [50, 78, 28]
abbrev dktX1_pupilOf_1 : List UInt8 := dkwX1_pupilOf_1 ++ dktX1_pupilOf_2
def dkwX1_pupilOf_0 : List UInt8 := [27, 184, 0, 147, 184, 0, 150, 28, 3, 8, 184, 0, 3, 184, 0, 110, 42, 180, 0, 48, 180, 0, 218, 27]
abbrev dktX1_pupilOf_0 : List UInt8 := dkwX1_pupilOf_0 ++ dktX1_pupilOf_1
theorem dksX1_pupilOf_0 : cX1_pupilOf.data.toList.drop 0 = dktX1_pupilOf_0 := by decide +kernel
theorem dksX1_pupilOf_1 : cX1_pupilOf.data.toList.drop 24 = dktX1_pupilOf_1 := dk_seg dksX1_pupilOf_0 24 rfl rfl
theorem dksX1_pupilOf_2 : cX1_pupilOf.data.toList.drop 27 = dktX1_pupilOf_2 := dk_seg dksX1_pupilOf_1 3 rfl rfl
theorem dksX1_pupilOf_3 : cX1_pupilOf.data.toList.drop 60 = dktX1_pupilOf_3 := dk_seg dksX1_pupilOf_2 33 rfl rfl
theorem dksX1_pupilOf_4 : cX1_pupilOf.data.toList.drop 83 = dktX1_pupilOf_4 := dk_seg dksX1_pupilOf_3 23 rfl rfl
theorem dksX1_pupilOf_5 : cX1_pupilOf.data.toList.drop 107 = dktX1_pupilOf_5 := dk_seg dksX1_pupilOf_4 24 rfl rfl
theorem dX1_pupilOf_0 : decode cX1_pupilOf 0 = .ok (.iload_n 1, 1) := dk_27 (dk_at dksX1_pupilOf_0 0 rfl rfl)
theorem dX1_pupilOf_1 : decode cX1_pupilOf 1 = .ok (.invokestatic 147, 3) := dk_184 0 147 (dk_at dksX1_pupilOf_0 1 rfl rfl)
theorem dX1_pupilOf_4 : decode cX1_pupilOf 4 = .ok (.invokestatic 150, 3) := dk_184 0 150 (dk_at dksX1_pupilOf_0 4 rfl rfl)
theorem dX1_pupilOf_7 : decode cX1_pupilOf 7 = .ok (.iload_n 2, 1) := dk_28 (dk_at dksX1_pupilOf_0 7 rfl rfl)
theorem dX1_pupilOf_8 : decode cX1_pupilOf 8 = .ok (.iconst 0, 1) := dk_3 (dk_at dksX1_pupilOf_0 8 rfl rfl)
theorem dX1_pupilOf_9 : decode cX1_pupilOf 9 = .ok (.iconst 5, 1) := dk_8 (dk_at dksX1_pupilOf_0 9 rfl rfl)
theorem dX1_pupilOf_10 : decode cX1_pupilOf 10 = .ok (.invokestatic 3, 3) := dk_184 0 3 (dk_at dksX1_pupilOf_0 10 rfl rfl)
theorem dX1_pupilOf_13 : decode cX1_pupilOf 13 = .ok (.invokestatic 110, 3) := dk_184 0 110 (dk_at dksX1_pupilOf_0 13 rfl rfl)
theorem dX1_pupilOf_16 : decode cX1_pupilOf 16 = .ok (.aload_n 0, 1) := dk_42 (dk_at dksX1_pupilOf_0 16 rfl rfl)
theorem dX1_pupilOf_17 : decode cX1_pupilOf 17 = .ok (.getfield 48, 3) := dk_180 0 48 (dk_at dksX1_pupilOf_0 17 rfl rfl)
theorem dX1_pupilOf_20 : decode cX1_pupilOf 20 = .ok (.getfield 218, 3) := dk_180 0 218 (dk_at dksX1_pupilOf_0 20 rfl rfl)
theorem dX1_pupilOf_23 : decode cX1_pupilOf 23 = .ok (.iload_n 1, 1) := dk_27 (dk_at dksX1_pupilOf_0 23 rfl rfl)
theorem dX1_pupilOf_24 : decode cX1_pupilOf 24 = .ok (.aaload, 1) := dk_50 (dk_at dksX1_pupilOf_1 0 rfl rfl)
theorem dX1_pupilOf_25 : decode cX1_pupilOf 25 = .ok (.astore_n 3, 1) := dk_78 (dk_at dksX1_pupilOf_1 1 rfl rfl)
theorem dX1_pupilOf_26 : decode cX1_pupilOf 26 = .ok (.iload_n 2, 1) := dk_28 (dk_at dksX1_pupilOf_1 2 rfl rfl)
theorem dX1_pupilOf_27 : decode cX1_pupilOf 27 = .ok (.tableswitch 79 0 4 #[33, 40, 51, 65, 72], 33) := by decide +kernel
theorem dX1_pupilOf_60 : decode cX1_pupilOf 60 = .ok (.aload_n 3, 1) := dk_45 (dk_at dksX1_pupilOf_3 0 rfl rfl)
theorem dX1_pupilOf_61 : decode cX1_pupilOf 61 = .ok (.getfield 222, 3) := dk_180 0 222 (dk_at dksX1_pupilOf_3 1 rfl rfl)
theorem dX1_pupilOf_64 : decode cX1_pupilOf 64 = .ok (.goto 53, 3) := dk_167 0 53 (dk_at dksX1_pupilOf_3 4 rfl rfl)
theorem dX1_pupilOf_67 : decode cX1_pupilOf 67 = .ok (.aload_n 0, 1) := dk_42 (dk_at dksX1_pupilOf_3 7 rfl rfl)
theorem dX1_pupilOf_68 : decode cX1_pupilOf 68 = .ok (.getfield 48, 3) := dk_180 0 48 (dk_at dksX1_pupilOf_3 8 rfl rfl)
theorem dX1_pupilOf_71 : decode cX1_pupilOf 71 = .ok (.iload_n 1, 1) := dk_27 (dk_at dksX1_pupilOf_3 11 rfl rfl)
theorem dX1_pupilOf_72 : decode cX1_pupilOf 72 = .ok (.invokevirtual 227, 3) := dk_182 0 227 (dk_at dksX1_pupilOf_3 12 rfl rfl)
theorem dX1_pupilOf_75 : decode cX1_pupilOf 75 = .ok (.goto 42, 3) := dk_167 0 42 (dk_at dksX1_pupilOf_3 15 rfl rfl)
theorem dX1_pupilOf_78 : decode cX1_pupilOf 78 = .ok (.aload_n 0, 1) := dk_42 (dk_at dksX1_pupilOf_3 18 rfl rfl)
theorem dX1_pupilOf_79 : decode cX1_pupilOf 79 = .ok (.getfield 48, 3) := dk_180 0 48 (dk_at dksX1_pupilOf_3 19 rfl rfl)
theorem dX1_pupilOf_82 : decode cX1_pupilOf 82 = .ok (.iload_n 1, 1) := dk_27 (dk_at dksX1_pupilOf_3 22 rfl rfl)
theorem dX1_pupilOf_83 : decode cX1_pupilOf 83 = .ok (.invokevirtual 231, 3) := dk_182 0 231 (dk_at dksX1_pupilOf_4 0 rfl rfl)
theorem dX1_pupilOf_86 : decode cX1_pupilOf 86 = .ok (.invokevirtual 72, 3) := dk_182 0 72 (dk_at dksX1_pupilOf_4 3 rfl rfl)
theorem dX1_pupilOf_89 : decode cX1_pupilOf 89 = .ok (.goto 28, 3) := dk_167 0 28 (dk_at dksX1_pupilOf_4 6 rfl rfl)
theorem dX1_pupilOf_92 : decode cX1_pupilOf 92 = .ok (.aload_n 3, 1) := dk_45 (dk_at dksX1_pupilOf_4 9 rfl rfl)
theorem dX1_pupilOf_93 : decode cX1_pupilOf 93 = .ok (.getfield 235, 3) := dk_180 0 235 (dk_at dksX1_pupilOf_4 10 rfl rfl)
theorem dX1_pupilOf_96 : decode cX1_pupilOf 96 = .ok (.goto 21, 3) := dk_167 0 21 (dk_at dksX1_pupilOf_4 13 rfl rfl)
theorem dX1_pupilOf_99 : decode cX1_pupilOf 99 = .ok (.aload_n 3, 1) := dk_45 (dk_at dksX1_pupilOf_4 16 rfl rfl)
theorem dX1_pupilOf_100 : decode cX1_pupilOf 100 = .ok (.getfield 238, 3) := dk_180 0 238 (dk_at dksX1_pupilOf_4 17 rfl rfl)
theorem dX1_pupilOf_103 : decode cX1_pupilOf 103 = .ok (.goto 14, 3) := dk_167 0 14 (dk_at dksX1_pupilOf_4 20 rfl rfl)
theorem dX1_pupilOf_106 : decode cX1_pupilOf 106 = .ok (.aload_n 0, 1) := dk_42 (dk_at dksX1_pupilOf_4 23 rfl rfl)
theorem dX1_pupilOf_107 : decode cX1_pupilOf 107 = .ok (.getfield 48, 3) := dk_180 0 48 (dk_at dksX1_pupilOf_5 0 rfl rfl)
theorem dX1_pupilOf_110 : decode cX1_pupilOf 110 = .ok (.iload_n 1, 1) := dk_27 (dk_at dksX1_pupilOf_5 3 rfl rfl)
theorem dX1_pupilOf_111 : decode cX1_pupilOf 111 = .ok (.invokevirtual 231, 3) := dk_182 0 231 (dk_at dksX1_pupilOf_5 4 rfl rfl)
theorem dX1_pupilOf_114 : decode cX1_pupilOf 114 = .ok (.invokestatic 241, 3) := dk_184 0 241 (dk_at dksX1_pupilOf_5 7 rfl rfl)
theorem dX1_pupilOf_117 : decode cX1_pupilOf 117 = .ok (.ireturn, 1) := dk_172 (dk_at dksX1_pupilOf_5 10 rfl rfl)
abbrev cX1_schoolOf : ByteArray := prog_1_method_36_code
def yX1_schoolOf : MethodName := ⟨RX1, "schoolOf", "(II)I"⟩
def dkwX1_schoolOf_1 : List UInt8 := [50, 28, 182, 0, 249, 172]
abbrev dktX1_schoolOf_1 : List UInt8 := dkwX1_schoolOf_1 ++ []
def dkwX1_schoolOf_0 : List UInt8 := [27, 184, 0, 177, 184, 0, 150, 28, 3, 6, 184, 0, 3, 184, 0, 110, 42, 180, 0, 48, 180, 0, 245, 27]
abbrev dktX1_schoolOf_0 : List UInt8 := dkwX1_schoolOf_0 ++ dktX1_schoolOf_1
theorem dksX1_schoolOf_0 : cX1_schoolOf.data.toList.drop 0 = dktX1_schoolOf_0 := by decide +kernel
theorem dksX1_schoolOf_1 : cX1_schoolOf.data.toList.drop 24 = dktX1_schoolOf_1 := dk_seg dksX1_schoolOf_0 24 rfl rfl
theorem dX1_schoolOf_0 : decode cX1_schoolOf 0 = .ok (.iload_n 1, 1) := dk_27 (dk_at dksX1_schoolOf_0 0 rfl rfl)
theorem dX1_schoolOf_1 : decode cX1_schoolOf 1 = .ok (.invokestatic 177, 3) := dk_184 0 177 (dk_at dksX1_schoolOf_0 1 rfl rfl)
theorem dX1_schoolOf_4 : decode cX1_schoolOf 4 = .ok (.invokestatic 150, 3) := dk_184 0 150 (dk_at dksX1_schoolOf_0 4 rfl rfl)
theorem dX1_schoolOf_7 : decode cX1_schoolOf 7 = .ok (.iload_n 2, 1) := dk_28 (dk_at dksX1_schoolOf_0 7 rfl rfl)
theorem dX1_schoolOf_8 : decode cX1_schoolOf 8 = .ok (.iconst 0, 1) := dk_3 (dk_at dksX1_schoolOf_0 8 rfl rfl)
theorem dX1_schoolOf_9 : decode cX1_schoolOf 9 = .ok (.iconst 3, 1) := dk_6 (dk_at dksX1_schoolOf_0 9 rfl rfl)
theorem dX1_schoolOf_10 : decode cX1_schoolOf 10 = .ok (.invokestatic 3, 3) := dk_184 0 3 (dk_at dksX1_schoolOf_0 10 rfl rfl)
theorem dX1_schoolOf_13 : decode cX1_schoolOf 13 = .ok (.invokestatic 110, 3) := dk_184 0 110 (dk_at dksX1_schoolOf_0 13 rfl rfl)
theorem dX1_schoolOf_16 : decode cX1_schoolOf 16 = .ok (.aload_n 0, 1) := dk_42 (dk_at dksX1_schoolOf_0 16 rfl rfl)
theorem dX1_schoolOf_17 : decode cX1_schoolOf 17 = .ok (.getfield 48, 3) := dk_180 0 48 (dk_at dksX1_schoolOf_0 17 rfl rfl)
theorem dX1_schoolOf_20 : decode cX1_schoolOf 20 = .ok (.getfield 245, 3) := dk_180 0 245 (dk_at dksX1_schoolOf_0 20 rfl rfl)
theorem dX1_schoolOf_23 : decode cX1_schoolOf 23 = .ok (.iload_n 1, 1) := dk_27 (dk_at dksX1_schoolOf_0 23 rfl rfl)
theorem dX1_schoolOf_24 : decode cX1_schoolOf 24 = .ok (.aaload, 1) := dk_50 (dk_at dksX1_schoolOf_1 0 rfl rfl)
theorem dX1_schoolOf_25 : decode cX1_schoolOf 25 = .ok (.iload_n 2, 1) := dk_28 (dk_at dksX1_schoolOf_1 1 rfl rfl)
theorem dX1_schoolOf_26 : decode cX1_schoolOf 26 = .ok (.invokevirtual 249, 3) := dk_182 0 249 (dk_at dksX1_schoolOf_1 2 rfl rfl)
theorem dX1_schoolOf_29 : decode cX1_schoolOf 29 = .ok (.ireturn, 1) := dk_172 (dk_at dksX1_schoolOf_1 5 rfl rfl)
abbrev cX1_dog : ByteArray := prog_1_method_37_code
def yX1_dog : MethodName := ⟨RX1, "dog", "(I)I"⟩
def dkwX1_dog_0 : List UInt8 := [27, 184, 0, 7, 184, 0, 110, 42, 180, 0, 48, 27, 182, 0, 253, 172]
abbrev dktX1_dog_0 : List UInt8 := dkwX1_dog_0 ++ []
theorem dksX1_dog_0 : cX1_dog.data.toList.drop 0 = dktX1_dog_0 := by decide +kernel
theorem dX1_dog_0 : decode cX1_dog 0 = .ok (.iload_n 1, 1) := dk_27 (dk_at dksX1_dog_0 0 rfl rfl)
theorem dX1_dog_1 : decode cX1_dog 1 = .ok (.invokestatic 7, 3) := dk_184 0 7 (dk_at dksX1_dog_0 1 rfl rfl)
theorem dX1_dog_4 : decode cX1_dog 4 = .ok (.invokestatic 110, 3) := dk_184 0 110 (dk_at dksX1_dog_0 4 rfl rfl)
theorem dX1_dog_7 : decode cX1_dog 7 = .ok (.aload_n 0, 1) := dk_42 (dk_at dksX1_dog_0 7 rfl rfl)
theorem dX1_dog_8 : decode cX1_dog 8 = .ok (.getfield 48, 3) := dk_180 0 48 (dk_at dksX1_dog_0 8 rfl rfl)
theorem dX1_dog_11 : decode cX1_dog 11 = .ok (.iload_n 1, 1) := dk_27 (dk_at dksX1_dog_0 11 rfl rfl)
theorem dX1_dog_12 : decode cX1_dog 12 = .ok (.invokevirtual 253, 3) := dk_182 0 253 (dk_at dksX1_dog_0 12 rfl rfl)
theorem dX1_dog_15 : decode cX1_dog 15 = .ok (.ireturn, 1) := dk_172 (dk_at dksX1_dog_0 15 rfl rfl)
abbrev cX1_heard : ByteArray := prog_1_method_38_code
def yX1_heard : MethodName := ⟨RX1, "heard", "(IIII)Z"⟩
def dkwX1_heard_2 : List UInt8 := [183, 1, 6, 182, 1, 9, 172]
abbrev dktX1_heard_2 : List UInt8 := dkwX1_heard_2 ++ []
def dkwX1_heard_1 : List UInt8 := [180, 0, 48, 180, 0, 245, 27, 50, 180, 1, 0, 187, 1, 4, 89, 29, 21, 4, 184, 0, 121, 28]
abbrev dktX1_heard_1 : List UInt8 := dkwX1_heard_1 ++ dktX1_heard_2
def dkwX1_heard_0 : List UInt8 := [27, 184, 0, 177, 153, 0, 14, 28, 184, 0, 147, 153, 0, 7, 4, 167, 0, 4, 3, 184, 0, 150, 42]
abbrev dktX1_heard_0 : List UInt8 := dkwX1_heard_0 ++ dktX1_heard_1
theorem dksX1_heard_0 : cX1_heard.data.toList.drop 0 = dktX1_heard_0 := by decide +kernel
theorem dksX1_heard_1 : cX1_heard.data.toList.drop 23 = dktX1_heard_1 := dk_seg dksX1_heard_0 23 rfl rfl
theorem dksX1_heard_2 : cX1_heard.data.toList.drop 45 = dktX1_heard_2 := dk_seg dksX1_heard_1 22 rfl rfl
theorem dX1_heard_0 : decode cX1_heard 0 = .ok (.iload_n 1, 1) := dk_27 (dk_at dksX1_heard_0 0 rfl rfl)
theorem dX1_heard_1 : decode cX1_heard 1 = .ok (.invokestatic 177, 3) := dk_184 0 177 (dk_at dksX1_heard_0 1 rfl rfl)
theorem dX1_heard_4 : decode cX1_heard 4 = .ok (.ifCond .eq 14, 3) := dk_153 0 14 (dk_at dksX1_heard_0 4 rfl rfl)
theorem dX1_heard_7 : decode cX1_heard 7 = .ok (.iload_n 2, 1) := dk_28 (dk_at dksX1_heard_0 7 rfl rfl)
theorem dX1_heard_8 : decode cX1_heard 8 = .ok (.invokestatic 147, 3) := dk_184 0 147 (dk_at dksX1_heard_0 8 rfl rfl)
theorem dX1_heard_11 : decode cX1_heard 11 = .ok (.ifCond .eq 7, 3) := dk_153 0 7 (dk_at dksX1_heard_0 11 rfl rfl)
theorem dX1_heard_14 : decode cX1_heard 14 = .ok (.iconst 1, 1) := dk_4 (dk_at dksX1_heard_0 14 rfl rfl)
theorem dX1_heard_15 : decode cX1_heard 15 = .ok (.goto 4, 3) := dk_167 0 4 (dk_at dksX1_heard_0 15 rfl rfl)
theorem dX1_heard_18 : decode cX1_heard 18 = .ok (.iconst 0, 1) := dk_3 (dk_at dksX1_heard_0 18 rfl rfl)
theorem dX1_heard_19 : decode cX1_heard 19 = .ok (.invokestatic 150, 3) := dk_184 0 150 (dk_at dksX1_heard_0 19 rfl rfl)
theorem dX1_heard_22 : decode cX1_heard 22 = .ok (.aload_n 0, 1) := dk_42 (dk_at dksX1_heard_0 22 rfl rfl)
theorem dX1_heard_23 : decode cX1_heard 23 = .ok (.getfield 48, 3) := dk_180 0 48 (dk_at dksX1_heard_1 0 rfl rfl)
theorem dX1_heard_26 : decode cX1_heard 26 = .ok (.getfield 245, 3) := dk_180 0 245 (dk_at dksX1_heard_1 3 rfl rfl)
theorem dX1_heard_29 : decode cX1_heard 29 = .ok (.iload_n 1, 1) := dk_27 (dk_at dksX1_heard_1 6 rfl rfl)
theorem dX1_heard_30 : decode cX1_heard 30 = .ok (.aaload, 1) := dk_50 (dk_at dksX1_heard_1 7 rfl rfl)
theorem dX1_heard_31 : decode cX1_heard 31 = .ok (.getfield 256, 3) := dk_180 1 0 (dk_at dksX1_heard_1 8 rfl rfl)
theorem dX1_heard_34 : decode cX1_heard 34 = .ok (.new 260, 3) := dk_187 1 4 (dk_at dksX1_heard_1 11 rfl rfl)
theorem dX1_heard_37 : decode cX1_heard 37 = .ok (.dup, 1) := dk_89 (dk_at dksX1_heard_1 14 rfl rfl)
theorem dX1_heard_38 : decode cX1_heard 38 = .ok (.iload_n 3, 1) := dk_29 (dk_at dksX1_heard_1 15 rfl rfl)
theorem dX1_heard_39 : decode cX1_heard 39 = .ok (.iload 4, 2) := dk_21 4 (dk_at dksX1_heard_1 16 rfl rfl)
theorem dX1_heard_41 : decode cX1_heard 41 = .ok (.invokestatic 121, 3) := dk_184 0 121 (dk_at dksX1_heard_1 18 rfl rfl)
theorem dX1_heard_44 : decode cX1_heard 44 = .ok (.iload_n 2, 1) := dk_28 (dk_at dksX1_heard_1 21 rfl rfl)
theorem dX1_heard_45 : decode cX1_heard 45 = .ok (.invokespecial 262, 3) := dk_183 1 6 (dk_at dksX1_heard_2 0 rfl rfl)
theorem dX1_heard_48 : decode cX1_heard 48 = .ok (.invokevirtual 265, 3) := dk_182 1 9 (dk_at dksX1_heard_2 3 rfl rfl)
theorem dX1_heard_51 : decode cX1_heard 51 = .ok (.ireturn, 1) := dk_172 (dk_at dksX1_heard_2 6 rfl rfl)
abbrev cX1_would : ByteArray := prog_1_method_39_code
def yX1_would : MethodName := ⟨RX1, "would", "(IIII)Z"⟩
def dkwX1_would_1 : List UInt8 := [180, 0, 48, 27, 42, 28, 29, 182, 0, 188, 21, 4, 182, 1, 14, 172]
abbrev dktX1_would_1 : List UInt8 := dkwX1_would_1 ++ []
def dkwX1_would_0 : List UInt8 := [27, 184, 0, 147, 153, 0, 15, 21, 4, 184, 0, 177, 153, 0, 7, 4, 167, 0, 4, 3, 184, 0, 150, 42]
abbrev dktX1_would_0 : List UInt8 := dkwX1_would_0 ++ dktX1_would_1
theorem dksX1_would_0 : cX1_would.data.toList.drop 0 = dktX1_would_0 := by decide +kernel
theorem dksX1_would_1 : cX1_would.data.toList.drop 24 = dktX1_would_1 := dk_seg dksX1_would_0 24 rfl rfl
theorem dX1_would_0 : decode cX1_would 0 = .ok (.iload_n 1, 1) := dk_27 (dk_at dksX1_would_0 0 rfl rfl)
theorem dX1_would_1 : decode cX1_would 1 = .ok (.invokestatic 147, 3) := dk_184 0 147 (dk_at dksX1_would_0 1 rfl rfl)
theorem dX1_would_4 : decode cX1_would 4 = .ok (.ifCond .eq 15, 3) := dk_153 0 15 (dk_at dksX1_would_0 4 rfl rfl)
theorem dX1_would_7 : decode cX1_would 7 = .ok (.iload 4, 2) := dk_21 4 (dk_at dksX1_would_0 7 rfl rfl)
theorem dX1_would_9 : decode cX1_would 9 = .ok (.invokestatic 177, 3) := dk_184 0 177 (dk_at dksX1_would_0 9 rfl rfl)
theorem dX1_would_12 : decode cX1_would 12 = .ok (.ifCond .eq 7, 3) := dk_153 0 7 (dk_at dksX1_would_0 12 rfl rfl)
theorem dX1_would_15 : decode cX1_would 15 = .ok (.iconst 1, 1) := dk_4 (dk_at dksX1_would_0 15 rfl rfl)
theorem dX1_would_16 : decode cX1_would 16 = .ok (.goto 4, 3) := dk_167 0 4 (dk_at dksX1_would_0 16 rfl rfl)
theorem dX1_would_19 : decode cX1_would 19 = .ok (.iconst 0, 1) := dk_3 (dk_at dksX1_would_0 19 rfl rfl)
theorem dX1_would_20 : decode cX1_would 20 = .ok (.invokestatic 150, 3) := dk_184 0 150 (dk_at dksX1_would_0 20 rfl rfl)
theorem dX1_would_23 : decode cX1_would 23 = .ok (.aload_n 0, 1) := dk_42 (dk_at dksX1_would_0 23 rfl rfl)
theorem dX1_would_24 : decode cX1_would 24 = .ok (.getfield 48, 3) := dk_180 0 48 (dk_at dksX1_would_1 0 rfl rfl)
theorem dX1_would_27 : decode cX1_would 27 = .ok (.iload_n 1, 1) := dk_27 (dk_at dksX1_would_1 3 rfl rfl)
theorem dX1_would_28 : decode cX1_would 28 = .ok (.aload_n 0, 1) := dk_42 (dk_at dksX1_would_1 4 rfl rfl)
theorem dX1_would_29 : decode cX1_would 29 = .ok (.iload_n 2, 1) := dk_28 (dk_at dksX1_would_1 5 rfl rfl)
theorem dX1_would_30 : decode cX1_would 30 = .ok (.iload_n 3, 1) := dk_29 (dk_at dksX1_would_1 6 rfl rfl)
theorem dX1_would_31 : decode cX1_would 31 = .ok (.invokevirtual 188, 3) := dk_182 0 188 (dk_at dksX1_would_1 7 rfl rfl)
theorem dX1_would_34 : decode cX1_would 34 = .ok (.iload 4, 2) := dk_21 4 (dk_at dksX1_would_1 10 rfl rfl)
theorem dX1_would_36 : decode cX1_would 36 = .ok (.invokevirtual 270, 3) := dk_182 1 14 (dk_at dksX1_would_1 12 rfl rfl)
theorem dX1_would_39 : decode cX1_would 39 = .ok (.ireturn, 1) := dk_172 (dk_at dksX1_would_1 15 rfl rfl)
abbrev cX1_believers : ByteArray := prog_1_method_40_code
def yX1_believers : MethodName := ⟨RX1, "believers", "(III)I"⟩
def dkwX1_believers_0 : List UInt8 := [27, 184, 0, 147, 184, 0, 150, 42, 180, 0, 48, 27, 42, 28, 29, 182, 0, 188, 182, 1, 18, 172]
abbrev dktX1_believers_0 : List UInt8 := dkwX1_believers_0 ++ []
theorem dksX1_believers_0 : cX1_believers.data.toList.drop 0 = dktX1_believers_0 := by decide +kernel
theorem dX1_believers_0 : decode cX1_believers 0 = .ok (.iload_n 1, 1) := dk_27 (dk_at dksX1_believers_0 0 rfl rfl)
theorem dX1_believers_1 : decode cX1_believers 1 = .ok (.invokestatic 147, 3) := dk_184 0 147 (dk_at dksX1_believers_0 1 rfl rfl)
theorem dX1_believers_4 : decode cX1_believers 4 = .ok (.invokestatic 150, 3) := dk_184 0 150 (dk_at dksX1_believers_0 4 rfl rfl)
theorem dX1_believers_7 : decode cX1_believers 7 = .ok (.aload_n 0, 1) := dk_42 (dk_at dksX1_believers_0 7 rfl rfl)
theorem dX1_believers_8 : decode cX1_believers 8 = .ok (.getfield 48, 3) := dk_180 0 48 (dk_at dksX1_believers_0 8 rfl rfl)
theorem dX1_believers_11 : decode cX1_believers 11 = .ok (.iload_n 1, 1) := dk_27 (dk_at dksX1_believers_0 11 rfl rfl)
theorem dX1_believers_12 : decode cX1_believers 12 = .ok (.aload_n 0, 1) := dk_42 (dk_at dksX1_believers_0 12 rfl rfl)
theorem dX1_believers_13 : decode cX1_believers 13 = .ok (.iload_n 2, 1) := dk_28 (dk_at dksX1_believers_0 13 rfl rfl)
theorem dX1_believers_14 : decode cX1_believers 14 = .ok (.iload_n 3, 1) := dk_29 (dk_at dksX1_believers_0 14 rfl rfl)
theorem dX1_believers_15 : decode cX1_believers 15 = .ok (.invokevirtual 188, 3) := dk_182 0 188 (dk_at dksX1_believers_0 15 rfl rfl)
theorem dX1_believers_18 : decode cX1_believers 18 = .ok (.invokevirtual 274, 3) := dk_182 1 18 (dk_at dksX1_believers_0 18 rfl rfl)
theorem dX1_believers_21 : decode cX1_believers 21 = .ok (.ireturn, 1) := dk_172 (dk_at dksX1_believers_0 21 rfl rfl)
abbrev cX1_left : ByteArray := prog_1_method_41_code
def yX1_left : MethodName := ⟨RX1, "left", "(I)I"⟩
def dkwX1_left_0 : List UInt8 := [27, 184, 0, 147, 184, 0, 150, 42, 180, 0, 48, 27, 182, 1, 22, 172]
abbrev dktX1_left_0 : List UInt8 := dkwX1_left_0 ++ []
theorem dksX1_left_0 : cX1_left.data.toList.drop 0 = dktX1_left_0 := by decide +kernel
theorem dX1_left_0 : decode cX1_left 0 = .ok (.iload_n 1, 1) := dk_27 (dk_at dksX1_left_0 0 rfl rfl)
theorem dX1_left_1 : decode cX1_left 1 = .ok (.invokestatic 147, 3) := dk_184 0 147 (dk_at dksX1_left_0 1 rfl rfl)
theorem dX1_left_4 : decode cX1_left 4 = .ok (.invokestatic 150, 3) := dk_184 0 150 (dk_at dksX1_left_0 4 rfl rfl)
theorem dX1_left_7 : decode cX1_left 7 = .ok (.aload_n 0, 1) := dk_42 (dk_at dksX1_left_0 7 rfl rfl)
theorem dX1_left_8 : decode cX1_left 8 = .ok (.getfield 48, 3) := dk_180 0 48 (dk_at dksX1_left_0 8 rfl rfl)
theorem dX1_left_11 : decode cX1_left 11 = .ok (.iload_n 1, 1) := dk_27 (dk_at dksX1_left_0 11 rfl rfl)
theorem dX1_left_12 : decode cX1_left 12 = .ok (.invokevirtual 278, 3) := dk_182 1 22 (dk_at dksX1_left_0 12 rfl rfl)
theorem dX1_left_15 : decode cX1_left 15 = .ok (.ireturn, 1) := dk_172 (dk_at dksX1_left_0 15 rfl rfl)
abbrev cX1_leftAgain : ByteArray := prog_1_method_42_code
def yX1_leftAgain : MethodName := ⟨RX1, "leftAgain", "(I)I"⟩
def dkwX1_leftAgain_0 : List UInt8 := [27, 184, 0, 147, 184, 0, 150, 42, 180, 0, 48, 27, 182, 1, 25, 172]
abbrev dktX1_leftAgain_0 : List UInt8 := dkwX1_leftAgain_0 ++ []
theorem dksX1_leftAgain_0 : cX1_leftAgain.data.toList.drop 0 = dktX1_leftAgain_0 := by decide +kernel
theorem dX1_leftAgain_0 : decode cX1_leftAgain 0 = .ok (.iload_n 1, 1) := dk_27 (dk_at dksX1_leftAgain_0 0 rfl rfl)
theorem dX1_leftAgain_1 : decode cX1_leftAgain 1 = .ok (.invokestatic 147, 3) := dk_184 0 147 (dk_at dksX1_leftAgain_0 1 rfl rfl)
theorem dX1_leftAgain_4 : decode cX1_leftAgain 4 = .ok (.invokestatic 150, 3) := dk_184 0 150 (dk_at dksX1_leftAgain_0 4 rfl rfl)
theorem dX1_leftAgain_7 : decode cX1_leftAgain 7 = .ok (.aload_n 0, 1) := dk_42 (dk_at dksX1_leftAgain_0 7 rfl rfl)
theorem dX1_leftAgain_8 : decode cX1_leftAgain 8 = .ok (.getfield 48, 3) := dk_180 0 48 (dk_at dksX1_leftAgain_0 8 rfl rfl)
theorem dX1_leftAgain_11 : decode cX1_leftAgain 11 = .ok (.iload_n 1, 1) := dk_27 (dk_at dksX1_leftAgain_0 11 rfl rfl)
theorem dX1_leftAgain_12 : decode cX1_leftAgain 12 = .ok (.invokevirtual 281, 3) := dk_182 1 25 (dk_at dksX1_leftAgain_0 12 rfl rfl)
theorem dX1_leftAgain_15 : decode cX1_leftAgain 15 = .ok (.ireturn, 1) := dk_172 (dk_at dksX1_leftAgain_0 15 rfl rfl)
abbrev cX1_best : ByteArray := prog_1_method_43_code
def yX1_best : MethodName := ⟨RX1, "best", "(II)I"⟩
def dkwX1_best_1 : List UInt8 := [180, 0, 48, 27, 28, 182, 1, 28, 184, 1, 31, 172]
abbrev dktX1_best_1 : List UInt8 := dkwX1_best_1 ++ []
def dkwX1_best_0 : List UInt8 := [27, 184, 0, 147, 153, 0, 14, 28, 184, 0, 177, 153, 0, 7, 4, 167, 0, 4, 3, 184, 0, 150, 42]
abbrev dktX1_best_0 : List UInt8 := dkwX1_best_0 ++ dktX1_best_1
theorem dksX1_best_0 : cX1_best.data.toList.drop 0 = dktX1_best_0 := by decide +kernel
theorem dksX1_best_1 : cX1_best.data.toList.drop 23 = dktX1_best_1 := dk_seg dksX1_best_0 23 rfl rfl
theorem dX1_best_0 : decode cX1_best 0 = .ok (.iload_n 1, 1) := dk_27 (dk_at dksX1_best_0 0 rfl rfl)
theorem dX1_best_1 : decode cX1_best 1 = .ok (.invokestatic 147, 3) := dk_184 0 147 (dk_at dksX1_best_0 1 rfl rfl)
theorem dX1_best_4 : decode cX1_best 4 = .ok (.ifCond .eq 14, 3) := dk_153 0 14 (dk_at dksX1_best_0 4 rfl rfl)
theorem dX1_best_7 : decode cX1_best 7 = .ok (.iload_n 2, 1) := dk_28 (dk_at dksX1_best_0 7 rfl rfl)
theorem dX1_best_8 : decode cX1_best 8 = .ok (.invokestatic 177, 3) := dk_184 0 177 (dk_at dksX1_best_0 8 rfl rfl)
theorem dX1_best_11 : decode cX1_best 11 = .ok (.ifCond .eq 7, 3) := dk_153 0 7 (dk_at dksX1_best_0 11 rfl rfl)
theorem dX1_best_14 : decode cX1_best 14 = .ok (.iconst 1, 1) := dk_4 (dk_at dksX1_best_0 14 rfl rfl)
theorem dX1_best_15 : decode cX1_best 15 = .ok (.goto 4, 3) := dk_167 0 4 (dk_at dksX1_best_0 15 rfl rfl)
theorem dX1_best_18 : decode cX1_best 18 = .ok (.iconst 0, 1) := dk_3 (dk_at dksX1_best_0 18 rfl rfl)
theorem dX1_best_19 : decode cX1_best 19 = .ok (.invokestatic 150, 3) := dk_184 0 150 (dk_at dksX1_best_0 19 rfl rfl)
theorem dX1_best_22 : decode cX1_best 22 = .ok (.aload_n 0, 1) := dk_42 (dk_at dksX1_best_0 22 rfl rfl)
theorem dX1_best_23 : decode cX1_best 23 = .ok (.getfield 48, 3) := dk_180 0 48 (dk_at dksX1_best_1 0 rfl rfl)
theorem dX1_best_26 : decode cX1_best 26 = .ok (.iload_n 1, 1) := dk_27 (dk_at dksX1_best_1 3 rfl rfl)
theorem dX1_best_27 : decode cX1_best 27 = .ok (.iload_n 2, 1) := dk_28 (dk_at dksX1_best_1 4 rfl rfl)
theorem dX1_best_28 : decode cX1_best 28 = .ok (.invokevirtual 284, 3) := dk_182 1 28 (dk_at dksX1_best_1 5 rfl rfl)
theorem dX1_best_31 : decode cX1_best 31 = .ok (.invokestatic 287, 3) := dk_184 1 31 (dk_at dksX1_best_1 8 rfl rfl)
theorem dX1_best_34 : decode cX1_best 34 = .ok (.ireturn, 1) := dk_172 (dk_at dksX1_best_1 11 rfl rfl)
abbrev cX1_checkedFound : ByteArray := prog_1_method_22_code
def yX1_checkedFound : MethodName := ⟨RX1, "checkedFound", "(I)I"⟩
def dkwX1_checkedFound_0 : List UInt8 := [26, 2, 159, 0, 7, 4, 167, 0, 4, 3, 184, 0, 133, 26, 172]
abbrev dktX1_checkedFound_0 : List UInt8 := dkwX1_checkedFound_0 ++ []
theorem dksX1_checkedFound_0 : cX1_checkedFound.data.toList.drop 0 = dktX1_checkedFound_0 := by decide +kernel
theorem dX1_checkedFound_0 : decode cX1_checkedFound 0 = .ok (.iload_n 0, 1) := dk_26 (dk_at dksX1_checkedFound_0 0 rfl rfl)
theorem dX1_checkedFound_1 : decode cX1_checkedFound 1 = .ok (.iconst (-1), 1) := dk_2 (dk_at dksX1_checkedFound_0 1 rfl rfl)
theorem dX1_checkedFound_2 : decode cX1_checkedFound 2 = .ok (.if_icmp .eq 7, 3) := dk_159 0 7 (dk_at dksX1_checkedFound_0 2 rfl rfl)
theorem dX1_checkedFound_5 : decode cX1_checkedFound 5 = .ok (.iconst 1, 1) := dk_4 (dk_at dksX1_checkedFound_0 5 rfl rfl)
theorem dX1_checkedFound_6 : decode cX1_checkedFound 6 = .ok (.goto 4, 3) := dk_167 0 4 (dk_at dksX1_checkedFound_0 6 rfl rfl)
theorem dX1_checkedFound_9 : decode cX1_checkedFound 9 = .ok (.iconst 0, 1) := dk_3 (dk_at dksX1_checkedFound_0 9 rfl rfl)
theorem dX1_checkedFound_10 : decode cX1_checkedFound 10 = .ok (.invokestatic 133, 3) := dk_184 0 133 (dk_at dksX1_checkedFound_0 10 rfl rfl)
theorem dX1_checkedFound_13 : decode cX1_checkedFound 13 = .ok (.iload_n 0, 1) := dk_26 (dk_at dksX1_checkedFound_0 13 rfl rfl)
theorem dX1_checkedFound_14 : decode cX1_checkedFound 14 = .ok (.ireturn, 1) := dk_172 (dk_at dksX1_checkedFound_0 14 rfl rfl)
abbrev cX1_ranked : ByteArray := prog_1_method_48_code
def yX1_ranked : MethodName := ⟨RX1, "ranked", "(I)I"⟩
def dkwX1_ranked_0 : List UInt8 := [42, 180, 0, 48, 27, 182, 1, 43, 184, 1, 31, 172]
abbrev dktX1_ranked_0 : List UInt8 := dkwX1_ranked_0 ++ []
theorem dksX1_ranked_0 : cX1_ranked.data.toList.drop 0 = dktX1_ranked_0 := by decide +kernel
theorem dX1_ranked_0 : decode cX1_ranked 0 = .ok (.aload_n 0, 1) := dk_42 (dk_at dksX1_ranked_0 0 rfl rfl)
theorem dX1_ranked_1 : decode cX1_ranked 1 = .ok (.getfield 48, 3) := dk_180 0 48 (dk_at dksX1_ranked_0 1 rfl rfl)
theorem dX1_ranked_4 : decode cX1_ranked 4 = .ok (.iload_n 1, 1) := dk_27 (dk_at dksX1_ranked_0 4 rfl rfl)
theorem dX1_ranked_5 : decode cX1_ranked 5 = .ok (.invokevirtual 299, 3) := dk_182 1 43 (dk_at dksX1_ranked_0 5 rfl rfl)
theorem dX1_ranked_8 : decode cX1_ranked 8 = .ok (.invokestatic 287, 3) := dk_184 1 31 (dk_at dksX1_ranked_0 8 rfl rfl)
theorem dX1_ranked_11 : decode cX1_ranked 11 = .ok (.ireturn, 1) := dk_172 (dk_at dksX1_ranked_0 11 rfl rfl)
abbrev cX1_freshest : ByteArray := prog_1_method_49_code
def yX1_freshest : MethodName := ⟨RX1, "freshest", "(I)I"⟩
def dkwX1_freshest_0 : List UInt8 := [42, 180, 0, 48, 27, 182, 1, 46, 184, 1, 31, 172]
abbrev dktX1_freshest_0 : List UInt8 := dkwX1_freshest_0 ++ []
theorem dksX1_freshest_0 : cX1_freshest.data.toList.drop 0 = dktX1_freshest_0 := by decide +kernel
theorem dX1_freshest_0 : decode cX1_freshest 0 = .ok (.aload_n 0, 1) := dk_42 (dk_at dksX1_freshest_0 0 rfl rfl)
theorem dX1_freshest_1 : decode cX1_freshest 1 = .ok (.getfield 48, 3) := dk_180 0 48 (dk_at dksX1_freshest_0 1 rfl rfl)
theorem dX1_freshest_4 : decode cX1_freshest 4 = .ok (.iload_n 1, 1) := dk_27 (dk_at dksX1_freshest_0 4 rfl rfl)
theorem dX1_freshest_5 : decode cX1_freshest 5 = .ok (.invokevirtual 302, 3) := dk_182 1 46 (dk_at dksX1_freshest_0 5 rfl rfl)
theorem dX1_freshest_8 : decode cX1_freshest 8 = .ok (.invokestatic 287, 3) := dk_184 1 31 (dk_at dksX1_freshest_0 8 rfl rfl)
theorem dX1_freshest_11 : decode cX1_freshest 11 = .ok (.ireturn, 1) := dk_172 (dk_at dksX1_freshest_0 11 rfl rfl)
abbrev cX1_strongest : ByteArray := prog_1_method_50_code
def yX1_strongest : MethodName := ⟨RX1, "strongest", "()I"⟩
def dkwX1_strongest_0 : List UInt8 := [42, 180, 0, 48, 182, 1, 49, 184, 1, 31, 172]
abbrev dktX1_strongest_0 : List UInt8 := dkwX1_strongest_0 ++ []
theorem dksX1_strongest_0 : cX1_strongest.data.toList.drop 0 = dktX1_strongest_0 := by decide +kernel
theorem dX1_strongest_0 : decode cX1_strongest 0 = .ok (.aload_n 0, 1) := dk_42 (dk_at dksX1_strongest_0 0 rfl rfl)
theorem dX1_strongest_1 : decode cX1_strongest 1 = .ok (.getfield 48, 3) := dk_180 0 48 (dk_at dksX1_strongest_0 1 rfl rfl)
theorem dX1_strongest_4 : decode cX1_strongest 4 = .ok (.invokevirtual 305, 3) := dk_182 1 49 (dk_at dksX1_strongest_0 4 rfl rfl)
theorem dX1_strongest_7 : decode cX1_strongest 7 = .ok (.invokestatic 287, 3) := dk_184 1 31 (dk_at dksX1_strongest_0 7 rfl rfl)
theorem dX1_strongest_10 : decode cX1_strongest 10 = .ok (.ireturn, 1) := dk_172 (dk_at dksX1_strongest_0 10 rfl rfl)
abbrev cX1_tell : ByteArray := prog_1_method_52_code
def yX1_tell : MethodName := ⟨RX1, "tell", "(II)I"⟩
def dkwX1_tell_0 : List UInt8 := [42, 42, 27, 28, 182, 0, 188, 182, 1, 56, 182, 1, 58, 172]
abbrev dktX1_tell_0 : List UInt8 := dkwX1_tell_0 ++ []
theorem dksX1_tell_0 : cX1_tell.data.toList.drop 0 = dktX1_tell_0 := by decide +kernel
theorem dX1_tell_0 : decode cX1_tell 0 = .ok (.aload_n 0, 1) := dk_42 (dk_at dksX1_tell_0 0 rfl rfl)
theorem dX1_tell_1 : decode cX1_tell 1 = .ok (.aload_n 0, 1) := dk_42 (dk_at dksX1_tell_0 1 rfl rfl)
theorem dX1_tell_2 : decode cX1_tell 2 = .ok (.iload_n 1, 1) := dk_27 (dk_at dksX1_tell_0 2 rfl rfl)
theorem dX1_tell_3 : decode cX1_tell 3 = .ok (.iload_n 2, 1) := dk_28 (dk_at dksX1_tell_0 3 rfl rfl)
theorem dX1_tell_4 : decode cX1_tell 4 = .ok (.invokevirtual 188, 3) := dk_182 0 188 (dk_at dksX1_tell_0 4 rfl rfl)
theorem dX1_tell_7 : decode cX1_tell 7 = .ok (.invokevirtual 312, 3) := dk_182 1 56 (dk_at dksX1_tell_0 7 rfl rfl)
theorem dX1_tell_10 : decode cX1_tell 10 = .ok (.invokevirtual 314, 3) := dk_182 1 58 (dk_at dksX1_tell_0 10 rfl rfl)
theorem dX1_tell_13 : decode cX1_tell 13 = .ok (.ireturn, 1) := dk_172 (dk_at dksX1_tell_0 13 rfl rfl)
abbrev cX1_written : ByteArray := prog_1_method_23_code
def yX1_written : MethodName := ⟨RX1, "written", "(Ljava/lang/CharSequence;)I"⟩
def dkwX1_written_0 : List UInt8 := [42, 43, 185, 0, 136, 1, 0, 181, 0, 68, 42, 180, 0, 68, 182, 0, 142, 172]
abbrev dktX1_written_0 : List UInt8 := dkwX1_written_0 ++ []
theorem dksX1_written_0 : cX1_written.data.toList.drop 0 = dktX1_written_0 := by decide +kernel
theorem dX1_written_0 : decode cX1_written 0 = .ok (.aload_n 0, 1) := dk_42 (dk_at dksX1_written_0 0 rfl rfl)
theorem dX1_written_1 : decode cX1_written 1 = .ok (.aload_n 1, 1) := dk_43 (dk_at dksX1_written_0 1 rfl rfl)
theorem dX1_written_2 : decode cX1_written 2 = .ok (.invokeinterface 136 1, 5) := by decide +kernel
theorem dX1_written_7 : decode cX1_written 7 = .ok (.putfield 68, 3) := dk_181 0 68 (dk_at dksX1_written_0 7 rfl rfl)
theorem dX1_written_10 : decode cX1_written 10 = .ok (.aload_n 0, 1) := dk_42 (dk_at dksX1_written_0 10 rfl rfl)
theorem dX1_written_11 : decode cX1_written 11 = .ok (.getfield 68, 3) := dk_180 0 68 (dk_at dksX1_written_0 11 rfl rfl)
theorem dX1_written_14 : decode cX1_written 14 = .ok (.invokevirtual 142, 3) := dk_182 0 142 (dk_at dksX1_written_0 14 rfl rfl)
theorem dX1_written_17 : decode cX1_written 17 = .ok (.ireturn, 1) := dk_172 (dk_at dksX1_written_0 17 rfl rfl)
abbrev cX1_bag : ByteArray := prog_1_method_53_code
def yX1_bag : MethodName := ⟨RX1, "bag", "(I)I"⟩
def dkwX1_bag_3 : List UInt8 := [182, 1, 82, 182, 1, 78, 87, 167, 255, 205, 42, 44, 182, 1, 58, 172]
abbrev dktX1_bag_3 : List UInt8 := dkwX1_bag_3 ++ []
def dkwX1_bag_2 : List UInt8 := [44, 44, 182, 1, 75, 154, 0, 8, 18, 66, 167, 0, 6, 19, 1, 76, 182, 1, 78, 25, 4, 180, 0, 207]
abbrev dktX1_bag_2 : List UInt8 := dkwX1_bag_2 ++ dktX1_bag_3
def dkwX1_bag_1 : List UInt8 := [182, 1, 62, 78, 45, 185, 1, 66, 1, 0, 153, 0, 48, 45, 185, 1, 71, 1, 0, 192, 0, 131, 58, 4]
abbrev dktX1_bag_1 : List UInt8 := dkwX1_bag_1 ++ dktX1_bag_2
def dkwX1_bag_0 : List UInt8 := [27, 184, 0, 147, 184, 0, 150, 187, 0, 59, 89, 183, 0, 61, 77, 42, 180, 0, 48, 27, 182, 0, 231]
abbrev dktX1_bag_0 : List UInt8 := dkwX1_bag_0 ++ dktX1_bag_1
theorem dksX1_bag_0 : cX1_bag.data.toList.drop 0 = dktX1_bag_0 := by decide +kernel
theorem dksX1_bag_1 : cX1_bag.data.toList.drop 23 = dktX1_bag_1 := dk_seg dksX1_bag_0 23 rfl rfl
theorem dksX1_bag_2 : cX1_bag.data.toList.drop 47 = dktX1_bag_2 := dk_seg dksX1_bag_1 24 rfl rfl
theorem dksX1_bag_3 : cX1_bag.data.toList.drop 71 = dktX1_bag_3 := dk_seg dksX1_bag_2 24 rfl rfl
theorem dX1_bag_0 : decode cX1_bag 0 = .ok (.iload_n 1, 1) := dk_27 (dk_at dksX1_bag_0 0 rfl rfl)
theorem dX1_bag_1 : decode cX1_bag 1 = .ok (.invokestatic 147, 3) := dk_184 0 147 (dk_at dksX1_bag_0 1 rfl rfl)
theorem dX1_bag_4 : decode cX1_bag 4 = .ok (.invokestatic 150, 3) := dk_184 0 150 (dk_at dksX1_bag_0 4 rfl rfl)
theorem dX1_bag_7 : decode cX1_bag 7 = .ok (.new 59, 3) := dk_187 0 59 (dk_at dksX1_bag_0 7 rfl rfl)
theorem dX1_bag_10 : decode cX1_bag 10 = .ok (.dup, 1) := dk_89 (dk_at dksX1_bag_0 10 rfl rfl)
theorem dX1_bag_11 : decode cX1_bag 11 = .ok (.invokespecial 61, 3) := dk_183 0 61 (dk_at dksX1_bag_0 11 rfl rfl)
theorem dX1_bag_14 : decode cX1_bag 14 = .ok (.astore_n 2, 1) := dk_77 (dk_at dksX1_bag_0 14 rfl rfl)
theorem dX1_bag_15 : decode cX1_bag 15 = .ok (.aload_n 0, 1) := dk_42 (dk_at dksX1_bag_0 15 rfl rfl)
theorem dX1_bag_16 : decode cX1_bag 16 = .ok (.getfield 48, 3) := dk_180 0 48 (dk_at dksX1_bag_0 16 rfl rfl)
theorem dX1_bag_19 : decode cX1_bag 19 = .ok (.iload_n 1, 1) := dk_27 (dk_at dksX1_bag_0 19 rfl rfl)
theorem dX1_bag_20 : decode cX1_bag 20 = .ok (.invokevirtual 231, 3) := dk_182 0 231 (dk_at dksX1_bag_0 20 rfl rfl)
theorem dX1_bag_23 : decode cX1_bag 23 = .ok (.invokevirtual 318, 3) := dk_182 1 62 (dk_at dksX1_bag_1 0 rfl rfl)
theorem dX1_bag_26 : decode cX1_bag 26 = .ok (.astore_n 3, 1) := dk_78 (dk_at dksX1_bag_1 3 rfl rfl)
theorem dX1_bag_27 : decode cX1_bag 27 = .ok (.aload_n 3, 1) := dk_45 (dk_at dksX1_bag_1 4 rfl rfl)
theorem dX1_bag_28 : decode cX1_bag 28 = .ok (.invokeinterface 322 1, 5) := by decide +kernel
theorem dX1_bag_33 : decode cX1_bag 33 = .ok (.ifCond .eq 48, 3) := dk_153 0 48 (dk_at dksX1_bag_1 10 rfl rfl)
theorem dX1_bag_36 : decode cX1_bag 36 = .ok (.aload_n 3, 1) := dk_45 (dk_at dksX1_bag_1 13 rfl rfl)
theorem dX1_bag_37 : decode cX1_bag 37 = .ok (.invokeinterface 327 1, 5) := by decide +kernel
theorem dX1_bag_42 : decode cX1_bag 42 = .ok (.checkcast 131, 3) := dk_192 0 131 (dk_at dksX1_bag_1 19 rfl rfl)
theorem dX1_bag_45 : decode cX1_bag 45 = .ok (.astore 4, 2) := dk_58 4 (dk_at dksX1_bag_1 22 rfl rfl)
theorem dX1_bag_47 : decode cX1_bag 47 = .ok (.aload_n 2, 1) := dk_44 (dk_at dksX1_bag_2 0 rfl rfl)
theorem dX1_bag_48 : decode cX1_bag 48 = .ok (.aload_n 2, 1) := dk_44 (dk_at dksX1_bag_2 1 rfl rfl)
theorem dX1_bag_49 : decode cX1_bag 49 = .ok (.invokevirtual 331, 3) := dk_182 1 75 (dk_at dksX1_bag_2 2 rfl rfl)
theorem dX1_bag_52 : decode cX1_bag 52 = .ok (.ifCond .ne 8, 3) := dk_154 0 8 (dk_at dksX1_bag_2 5 rfl rfl)
theorem dX1_bag_55 : decode cX1_bag 55 = .ok (.ldc 66, 2) := dk_18 66 (dk_at dksX1_bag_2 8 rfl rfl)
theorem dX1_bag_57 : decode cX1_bag 57 = .ok (.goto 6, 3) := dk_167 0 6 (dk_at dksX1_bag_2 10 rfl rfl)
theorem dX1_bag_60 : decode cX1_bag 60 = .ok (.ldc_w 332, 3) := dk_19 1 76 (dk_at dksX1_bag_2 13 rfl rfl)
theorem dX1_bag_63 : decode cX1_bag 63 = .ok (.invokevirtual 334, 3) := dk_182 1 78 (dk_at dksX1_bag_2 16 rfl rfl)
theorem dX1_bag_66 : decode cX1_bag 66 = .ok (.aload 4, 2) := dk_25 4 (dk_at dksX1_bag_2 19 rfl rfl)
theorem dX1_bag_68 : decode cX1_bag 68 = .ok (.getfield 207, 3) := dk_180 0 207 (dk_at dksX1_bag_2 21 rfl rfl)
theorem dX1_bag_71 : decode cX1_bag 71 = .ok (.invokevirtual 338, 3) := dk_182 1 82 (dk_at dksX1_bag_3 0 rfl rfl)
theorem dX1_bag_74 : decode cX1_bag 74 = .ok (.invokevirtual 334, 3) := dk_182 1 78 (dk_at dksX1_bag_3 3 rfl rfl)
theorem dX1_bag_77 : decode cX1_bag 77 = .ok (.pop, 1) := dk_87 (dk_at dksX1_bag_3 6 rfl rfl)
theorem dX1_bag_78 : decode cX1_bag 78 = .ok (.goto (-51), 3) := dk_167 255 205 (dk_at dksX1_bag_3 7 rfl rfl)
theorem dX1_bag_81 : decode cX1_bag 81 = .ok (.aload_n 0, 1) := dk_42 (dk_at dksX1_bag_3 10 rfl rfl)
theorem dX1_bag_82 : decode cX1_bag 82 = .ok (.aload_n 2, 1) := dk_44 (dk_at dksX1_bag_3 11 rfl rfl)
theorem dX1_bag_83 : decode cX1_bag 83 = .ok (.invokevirtual 314, 3) := dk_182 1 58 (dk_at dksX1_bag_3 12 rfl rfl)
theorem dX1_bag_86 : decode cX1_bag 86 = .ok (.ireturn, 1) := dk_172 (dk_at dksX1_bag_3 15 rfl rfl)
abbrev cX1_character : ByteArray := prog_1_method_54_code
def yX1_character : MethodName := ⟨RX1, "character", "(I)C"⟩
def dkwX1_character_1 : List UInt8 := [182, 1, 85, 172]
abbrev dktX1_character_1 : List UInt8 := dkwX1_character_1 ++ []
def dkwX1_character_0 : List UInt8 := [27, 3, 42, 180, 0, 68, 182, 0, 142, 4, 100, 184, 0, 3, 184, 0, 133, 42, 180, 0, 68, 27]
abbrev dktX1_character_0 : List UInt8 := dkwX1_character_0 ++ dktX1_character_1
theorem dksX1_character_0 : cX1_character.data.toList.drop 0 = dktX1_character_0 := by decide +kernel
theorem dksX1_character_1 : cX1_character.data.toList.drop 22 = dktX1_character_1 := dk_seg dksX1_character_0 22 rfl rfl
theorem dX1_character_0 : decode cX1_character 0 = .ok (.iload_n 1, 1) := dk_27 (dk_at dksX1_character_0 0 rfl rfl)
theorem dX1_character_1 : decode cX1_character 1 = .ok (.iconst 0, 1) := dk_3 (dk_at dksX1_character_0 1 rfl rfl)
theorem dX1_character_2 : decode cX1_character 2 = .ok (.aload_n 0, 1) := dk_42 (dk_at dksX1_character_0 2 rfl rfl)
theorem dX1_character_3 : decode cX1_character 3 = .ok (.getfield 68, 3) := dk_180 0 68 (dk_at dksX1_character_0 3 rfl rfl)
theorem dX1_character_6 : decode cX1_character 6 = .ok (.invokevirtual 142, 3) := dk_182 0 142 (dk_at dksX1_character_0 6 rfl rfl)
theorem dX1_character_9 : decode cX1_character 9 = .ok (.iconst 1, 1) := dk_4 (dk_at dksX1_character_0 9 rfl rfl)
theorem dX1_character_10 : decode cX1_character 10 = .ok (.isub, 1) := dk_100 (dk_at dksX1_character_0 10 rfl rfl)
theorem dX1_character_11 : decode cX1_character 11 = .ok (.invokestatic 3, 3) := dk_184 0 3 (dk_at dksX1_character_0 11 rfl rfl)
theorem dX1_character_14 : decode cX1_character 14 = .ok (.invokestatic 133, 3) := dk_184 0 133 (dk_at dksX1_character_0 14 rfl rfl)
theorem dX1_character_17 : decode cX1_character 17 = .ok (.aload_n 0, 1) := dk_42 (dk_at dksX1_character_0 17 rfl rfl)
theorem dX1_character_18 : decode cX1_character 18 = .ok (.getfield 68, 3) := dk_180 0 68 (dk_at dksX1_character_0 18 rfl rfl)
theorem dX1_character_21 : decode cX1_character 21 = .ok (.iload_n 1, 1) := dk_27 (dk_at dksX1_character_0 21 rfl rfl)
theorem dX1_character_22 : decode cX1_character 22 = .ok (.invokevirtual 341, 3) := dk_182 1 85 (dk_at dksX1_character_1 0 rfl rfl)
theorem dX1_character_25 : decode cX1_character 25 = .ok (.ireturn, 1) := dk_172 (dk_at dksX1_character_1 3 rfl rfl)
abbrev cX1_meanWear : ByteArray := prog_1_method_55_code
def yX1_meanWear : MethodName := ⟨RX1, "meanWear", "()D"⟩
def dkwX1_meanWear_3 : List UInt8 := [182, 0, 200, 135, 111, 175]
abbrev dktX1_meanWear_3 : List UInt8 := dkwX1_meanWear_3 ++ []
def dkwX1_meanWear_2 : List UInt8 := [192, 0, 131, 78, 27, 45, 180, 1, 100, 96, 60, 167, 255, 230, 27, 135, 42, 180, 0, 48, 180, 0, 117]
abbrev dktX1_meanWear_2 : List UInt8 := dkwX1_meanWear_2 ++ dktX1_meanWear_3
def dkwX1_meanWear_1 : List UInt8 := [182, 1, 93, 185, 1, 97, 1, 0, 77, 44, 185, 1, 66, 1, 0, 153, 0, 23, 44, 185, 1, 71, 1, 0]
abbrev dktX1_meanWear_1 : List UInt8 := dkwX1_meanWear_1 ++ dktX1_meanWear_2
def dkwX1_meanWear_0 : List UInt8 := [42, 180, 0, 48, 180, 0, 117, 182, 0, 200, 184, 1, 89, 3, 60, 42, 180, 0, 48, 180, 0, 117]
abbrev dktX1_meanWear_0 : List UInt8 := dkwX1_meanWear_0 ++ dktX1_meanWear_1
theorem dksX1_meanWear_0 : cX1_meanWear.data.toList.drop 0 = dktX1_meanWear_0 := by decide +kernel
theorem dksX1_meanWear_1 : cX1_meanWear.data.toList.drop 22 = dktX1_meanWear_1 := dk_seg dksX1_meanWear_0 22 rfl rfl
theorem dksX1_meanWear_2 : cX1_meanWear.data.toList.drop 46 = dktX1_meanWear_2 := dk_seg dksX1_meanWear_1 24 rfl rfl
theorem dksX1_meanWear_3 : cX1_meanWear.data.toList.drop 69 = dktX1_meanWear_3 := dk_seg dksX1_meanWear_2 23 rfl rfl
theorem dX1_meanWear_0 : decode cX1_meanWear 0 = .ok (.aload_n 0, 1) := dk_42 (dk_at dksX1_meanWear_0 0 rfl rfl)
theorem dX1_meanWear_1 : decode cX1_meanWear 1 = .ok (.getfield 48, 3) := dk_180 0 48 (dk_at dksX1_meanWear_0 1 rfl rfl)
theorem dX1_meanWear_4 : decode cX1_meanWear 4 = .ok (.getfield 117, 3) := dk_180 0 117 (dk_at dksX1_meanWear_0 4 rfl rfl)
theorem dX1_meanWear_7 : decode cX1_meanWear 7 = .ok (.invokevirtual 200, 3) := dk_182 0 200 (dk_at dksX1_meanWear_0 7 rfl rfl)
theorem dX1_meanWear_10 : decode cX1_meanWear 10 = .ok (.invokestatic 345, 3) := dk_184 1 89 (dk_at dksX1_meanWear_0 10 rfl rfl)
theorem dX1_meanWear_13 : decode cX1_meanWear 13 = .ok (.iconst 0, 1) := dk_3 (dk_at dksX1_meanWear_0 13 rfl rfl)
theorem dX1_meanWear_14 : decode cX1_meanWear 14 = .ok (.istore_n 1, 1) := dk_60 (dk_at dksX1_meanWear_0 14 rfl rfl)
theorem dX1_meanWear_15 : decode cX1_meanWear 15 = .ok (.aload_n 0, 1) := dk_42 (dk_at dksX1_meanWear_0 15 rfl rfl)
theorem dX1_meanWear_16 : decode cX1_meanWear 16 = .ok (.getfield 48, 3) := dk_180 0 48 (dk_at dksX1_meanWear_0 16 rfl rfl)
theorem dX1_meanWear_19 : decode cX1_meanWear 19 = .ok (.getfield 117, 3) := dk_180 0 117 (dk_at dksX1_meanWear_0 19 rfl rfl)
theorem dX1_meanWear_22 : decode cX1_meanWear 22 = .ok (.invokevirtual 349, 3) := dk_182 1 93 (dk_at dksX1_meanWear_1 0 rfl rfl)
theorem dX1_meanWear_25 : decode cX1_meanWear 25 = .ok (.invokeinterface 353 1, 5) := by decide +kernel
theorem dX1_meanWear_30 : decode cX1_meanWear 30 = .ok (.astore_n 2, 1) := dk_77 (dk_at dksX1_meanWear_1 8 rfl rfl)
theorem dX1_meanWear_31 : decode cX1_meanWear 31 = .ok (.aload_n 2, 1) := dk_44 (dk_at dksX1_meanWear_1 9 rfl rfl)
theorem dX1_meanWear_32 : decode cX1_meanWear 32 = .ok (.invokeinterface 322 1, 5) := by decide +kernel
theorem dX1_meanWear_37 : decode cX1_meanWear 37 = .ok (.ifCond .eq 23, 3) := dk_153 0 23 (dk_at dksX1_meanWear_1 15 rfl rfl)
theorem dX1_meanWear_40 : decode cX1_meanWear 40 = .ok (.aload_n 2, 1) := dk_44 (dk_at dksX1_meanWear_1 18 rfl rfl)
theorem dX1_meanWear_41 : decode cX1_meanWear 41 = .ok (.invokeinterface 327 1, 5) := by decide +kernel
theorem dX1_meanWear_46 : decode cX1_meanWear 46 = .ok (.checkcast 131, 3) := dk_192 0 131 (dk_at dksX1_meanWear_2 0 rfl rfl)
theorem dX1_meanWear_49 : decode cX1_meanWear 49 = .ok (.astore_n 3, 1) := dk_78 (dk_at dksX1_meanWear_2 3 rfl rfl)
theorem dX1_meanWear_50 : decode cX1_meanWear 50 = .ok (.iload_n 1, 1) := dk_27 (dk_at dksX1_meanWear_2 4 rfl rfl)
theorem dX1_meanWear_51 : decode cX1_meanWear 51 = .ok (.aload_n 3, 1) := dk_45 (dk_at dksX1_meanWear_2 5 rfl rfl)
theorem dX1_meanWear_52 : decode cX1_meanWear 52 = .ok (.getfield 356, 3) := dk_180 1 100 (dk_at dksX1_meanWear_2 6 rfl rfl)
theorem dX1_meanWear_55 : decode cX1_meanWear 55 = .ok (.iadd, 1) := dk_96 (dk_at dksX1_meanWear_2 9 rfl rfl)
theorem dX1_meanWear_56 : decode cX1_meanWear 56 = .ok (.istore_n 1, 1) := dk_60 (dk_at dksX1_meanWear_2 10 rfl rfl)
theorem dX1_meanWear_57 : decode cX1_meanWear 57 = .ok (.goto (-26), 3) := dk_167 255 230 (dk_at dksX1_meanWear_2 11 rfl rfl)
theorem dX1_meanWear_60 : decode cX1_meanWear 60 = .ok (.iload_n 1, 1) := dk_27 (dk_at dksX1_meanWear_2 14 rfl rfl)
theorem dX1_meanWear_61 : decode cX1_meanWear 61 = .ok (.i2d, 1) := dk_135 (dk_at dksX1_meanWear_2 15 rfl rfl)
theorem dX1_meanWear_62 : decode cX1_meanWear 62 = .ok (.aload_n 0, 1) := dk_42 (dk_at dksX1_meanWear_2 16 rfl rfl)
theorem dX1_meanWear_63 : decode cX1_meanWear 63 = .ok (.getfield 48, 3) := dk_180 0 48 (dk_at dksX1_meanWear_2 17 rfl rfl)
theorem dX1_meanWear_66 : decode cX1_meanWear 66 = .ok (.getfield 117, 3) := dk_180 0 117 (dk_at dksX1_meanWear_2 20 rfl rfl)
theorem dX1_meanWear_69 : decode cX1_meanWear 69 = .ok (.invokevirtual 200, 3) := dk_182 0 200 (dk_at dksX1_meanWear_3 0 rfl rfl)
theorem dX1_meanWear_72 : decode cX1_meanWear 72 = .ok (.i2d, 1) := dk_135 (dk_at dksX1_meanWear_3 3 rfl rfl)
theorem dX1_meanWear_73 : decode cX1_meanWear 73 = .ok (.ddiv, 1) := dk_111 (dk_at dksX1_meanWear_3 4 rfl rfl)
theorem dX1_meanWear_74 : decode cX1_meanWear 74 = .ok (.dreturn, 1) := dk_175 (dk_at dksX1_meanWear_3 5 rfl rfl)
abbrev cX1_checkCount : ByteArray := prog_1_method_13_code
def yX1_checkCount : MethodName := ⟨RX1, "checkCount", "(I)V"⟩
def dkwX1_checkCount_0 : List UInt8 := [26, 154, 0, 11, 187, 0, 26, 89, 183, 0, 28, 191, 177]
abbrev dktX1_checkCount_0 : List UInt8 := dkwX1_checkCount_0 ++ []
theorem dksX1_checkCount_0 : cX1_checkCount.data.toList.drop 0 = dktX1_checkCount_0 := by decide +kernel
theorem dX1_checkCount_0 : decode cX1_checkCount 0 = .ok (.iload_n 0, 1) := dk_26 (dk_at dksX1_checkCount_0 0 rfl rfl)
theorem dX1_checkCount_1 : decode cX1_checkCount 1 = .ok (.ifCond .ne 11, 3) := dk_154 0 11 (dk_at dksX1_checkCount_0 1 rfl rfl)
theorem dX1_checkCount_4 : decode cX1_checkCount 4 = .ok (.new 26, 3) := dk_187 0 26 (dk_at dksX1_checkCount_0 4 rfl rfl)
theorem dX1_checkCount_7 : decode cX1_checkCount 7 = .ok (.dup, 1) := dk_89 (dk_at dksX1_checkCount_0 7 rfl rfl)
theorem dX1_checkCount_8 : decode cX1_checkCount 8 = .ok (.invokespecial 28, 3) := dk_183 0 28 (dk_at dksX1_checkCount_0 8 rfl rfl)
theorem dX1_checkCount_11 : decode cX1_checkCount 11 = .ok (.athrow, 1) := dk_191 (dk_at dksX1_checkCount_0 11 rfl rfl)
theorem dX1_checkCount_12 : decode cX1_checkCount 12 = .ok (.return_, 1) := dk_177 (dk_at dksX1_checkCount_0 12 rfl rfl)
abbrev cX1_believedShare : ByteArray := prog_1_method_56_code
def yX1_believedShare : MethodName := ⟨RX1, "believedShare", "()F"⟩
def dkwX1_believedShare_1 : List UInt8 := [182, 1, 103, 134, 110, 174]
abbrev dktX1_believedShare_1 : List UInt8 := dkwX1_believedShare_1 ++ []
def dkwX1_believedShare_0 : List UInt8 := [42, 180, 0, 48, 182, 1, 103, 184, 1, 89, 42, 180, 0, 48, 182, 1, 105, 134, 42, 180, 0, 48]
abbrev dktX1_believedShare_0 : List UInt8 := dkwX1_believedShare_0 ++ dktX1_believedShare_1
theorem dksX1_believedShare_0 : cX1_believedShare.data.toList.drop 0 = dktX1_believedShare_0 := by decide +kernel
theorem dksX1_believedShare_1 : cX1_believedShare.data.toList.drop 22 = dktX1_believedShare_1 := dk_seg dksX1_believedShare_0 22 rfl rfl
theorem dX1_believedShare_0 : decode cX1_believedShare 0 = .ok (.aload_n 0, 1) := dk_42 (dk_at dksX1_believedShare_0 0 rfl rfl)
theorem dX1_believedShare_1 : decode cX1_believedShare 1 = .ok (.getfield 48, 3) := dk_180 0 48 (dk_at dksX1_believedShare_0 1 rfl rfl)
theorem dX1_believedShare_4 : decode cX1_believedShare 4 = .ok (.invokevirtual 359, 3) := dk_182 1 103 (dk_at dksX1_believedShare_0 4 rfl rfl)
theorem dX1_believedShare_7 : decode cX1_believedShare 7 = .ok (.invokestatic 345, 3) := dk_184 1 89 (dk_at dksX1_believedShare_0 7 rfl rfl)
theorem dX1_believedShare_10 : decode cX1_believedShare 10 = .ok (.aload_n 0, 1) := dk_42 (dk_at dksX1_believedShare_0 10 rfl rfl)
theorem dX1_believedShare_11 : decode cX1_believedShare 11 = .ok (.getfield 48, 3) := dk_180 0 48 (dk_at dksX1_believedShare_0 11 rfl rfl)
theorem dX1_believedShare_14 : decode cX1_believedShare 14 = .ok (.invokevirtual 361, 3) := dk_182 1 105 (dk_at dksX1_believedShare_0 14 rfl rfl)
theorem dX1_believedShare_17 : decode cX1_believedShare 17 = .ok (.i2f, 1) := dk_134 (dk_at dksX1_believedShare_0 17 rfl rfl)
theorem dX1_believedShare_18 : decode cX1_believedShare 18 = .ok (.aload_n 0, 1) := dk_42 (dk_at dksX1_believedShare_0 18 rfl rfl)
theorem dX1_believedShare_19 : decode cX1_believedShare 19 = .ok (.getfield 48, 3) := dk_180 0 48 (dk_at dksX1_believedShare_0 19 rfl rfl)
theorem dX1_believedShare_22 : decode cX1_believedShare 22 = .ok (.invokevirtual 359, 3) := dk_182 1 103 (dk_at dksX1_believedShare_1 0 rfl rfl)
theorem dX1_believedShare_25 : decode cX1_believedShare 25 = .ok (.i2f, 1) := dk_134 (dk_at dksX1_believedShare_1 3 rfl rfl)
theorem dX1_believedShare_26 : decode cX1_believedShare 26 = .ok (.fdiv, 1) := dk_110 (dk_at dksX1_believedShare_1 4 rfl rfl)
theorem dX1_believedShare_27 : decode cX1_believedShare 27 = .ok (.freturn, 1) := dk_174 (dk_at dksX1_believedShare_1 5 rfl rfl)
abbrev cX1_account : ByteArray := prog_1_method_57_code
def yX1_account : MethodName := ⟨RX1, "account", "(I)I"⟩
def dkwX1_account_6 : List UInt8 := [180, 0, 62, 182, 1, 75, 167, 0, 10, 42, 180, 0, 55, 182, 0, 72, 172]
abbrev dktX1_account_6 : List UInt8 := dkwX1_account_6 ++ []
def dkwX1_account_5 : List UInt8 := [167, 0, 40, 42, 180, 0, 48, 180, 1, 117, 167, 0, 30, 42, 180, 0, 48, 180, 1, 120, 167, 0, 20, 42]
abbrev dktX1_account_5 : List UInt8 := dkwX1_account_5 ++ dktX1_account_6
def dkwX1_account_4 : List UInt8 := [180, 1, 114, 167, 0, 60, 42, 180, 0, 48, 182, 1, 103, 167, 0, 50, 42, 180, 0, 48, 182, 1, 105]
abbrev dktX1_account_4 : List UInt8 := dkwX1_account_4 ++ dktX1_account_5
def dkwX1_account_3 : List UInt8 := [180, 0, 48, 180, 1, 110, 167, 0, 80, 42, 180, 0, 48, 180, 1, 112, 167, 0, 70, 42, 180, 0, 48]
abbrev dktX1_account_3 : List UInt8 := dkwX1_account_3 ++ dktX1_account_4
def dkwX1_account_2 : List UInt8 := [42, 180, 0, 48, 180, 0, 117, 182, 0, 200, 167, 0, 100, 42, 180, 0, 48, 182, 1, 107, 167, 0, 90, 42]
abbrev dktX1_account_2 : List UInt8 := dkwX1_account_2 ++ dktX1_account_3
def dkwX1_account_1 : List UInt8 := [170, 0, 0, 0, 156, 0, 0, 0, 0, 0, 0, 0, 9, 0, 0, 0, 53, 0, 0, 0, 66, 0, 0, 0, 76, 0, 0, 0, 86, 0, 0, 0, 96, 0, 0, 0, 106, 0, 0, 0, 116, 0, 0, 0, 126, 0, 0, 0, 136, 0, 0, 0, 146]
abbrev dktX1_account_1 : List UInt8 := dkwX1_account_1 ++ dktX1_account_2
def dkwX1_account_0 : List UInt8 := [27, 3, 16, 10, 184, 0, 3, 184, 0, 110, 27]
abbrev dktX1_account_0 : List UInt8 := dkwX1_account_0 ++ dktX1_account_1
theorem dksX1_account_0 : cX1_account.data.toList.drop 0 = dktX1_account_0 := by decide +kernel
theorem dksX1_account_1 : cX1_account.data.toList.drop 11 = dktX1_account_1 := dk_seg dksX1_account_0 11 rfl rfl
theorem dksX1_account_2 : cX1_account.data.toList.drop 64 = dktX1_account_2 := dk_seg dksX1_account_1 53 rfl rfl
theorem dksX1_account_3 : cX1_account.data.toList.drop 88 = dktX1_account_3 := dk_seg dksX1_account_2 24 rfl rfl
theorem dksX1_account_4 : cX1_account.data.toList.drop 111 = dktX1_account_4 := dk_seg dksX1_account_3 23 rfl rfl
theorem dksX1_account_5 : cX1_account.data.toList.drop 134 = dktX1_account_5 := dk_seg dksX1_account_4 23 rfl rfl
theorem dksX1_account_6 : cX1_account.data.toList.drop 158 = dktX1_account_6 := dk_seg dksX1_account_5 24 rfl rfl
theorem dX1_account_0 : decode cX1_account 0 = .ok (.iload_n 1, 1) := dk_27 (dk_at dksX1_account_0 0 rfl rfl)
theorem dX1_account_1 : decode cX1_account 1 = .ok (.iconst 0, 1) := dk_3 (dk_at dksX1_account_0 1 rfl rfl)
theorem dX1_account_2 : decode cX1_account 2 = .ok (.bipush 10, 2) := dk_16 10 (dk_at dksX1_account_0 2 rfl rfl)
theorem dX1_account_4 : decode cX1_account 4 = .ok (.invokestatic 3, 3) := dk_184 0 3 (dk_at dksX1_account_0 4 rfl rfl)
theorem dX1_account_7 : decode cX1_account 7 = .ok (.invokestatic 110, 3) := dk_184 0 110 (dk_at dksX1_account_0 7 rfl rfl)
theorem dX1_account_10 : decode cX1_account 10 = .ok (.iload_n 1, 1) := dk_27 (dk_at dksX1_account_0 10 rfl rfl)
theorem dX1_account_11 : decode cX1_account 11 = .ok (.tableswitch 156 0 9 #[53, 66, 76, 86, 96, 106, 116, 126, 136, 146], 53) := by decide +kernel
theorem dX1_account_64 : decode cX1_account 64 = .ok (.aload_n 0, 1) := dk_42 (dk_at dksX1_account_2 0 rfl rfl)
theorem dX1_account_65 : decode cX1_account 65 = .ok (.getfield 48, 3) := dk_180 0 48 (dk_at dksX1_account_2 1 rfl rfl)
theorem dX1_account_68 : decode cX1_account 68 = .ok (.getfield 117, 3) := dk_180 0 117 (dk_at dksX1_account_2 4 rfl rfl)
theorem dX1_account_71 : decode cX1_account 71 = .ok (.invokevirtual 200, 3) := dk_182 0 200 (dk_at dksX1_account_2 7 rfl rfl)
theorem dX1_account_74 : decode cX1_account 74 = .ok (.goto 100, 3) := dk_167 0 100 (dk_at dksX1_account_2 10 rfl rfl)
theorem dX1_account_77 : decode cX1_account 77 = .ok (.aload_n 0, 1) := dk_42 (dk_at dksX1_account_2 13 rfl rfl)
theorem dX1_account_78 : decode cX1_account 78 = .ok (.getfield 48, 3) := dk_180 0 48 (dk_at dksX1_account_2 14 rfl rfl)
theorem dX1_account_81 : decode cX1_account 81 = .ok (.invokevirtual 363, 3) := dk_182 1 107 (dk_at dksX1_account_2 17 rfl rfl)
theorem dX1_account_84 : decode cX1_account 84 = .ok (.goto 90, 3) := dk_167 0 90 (dk_at dksX1_account_2 20 rfl rfl)
theorem dX1_account_87 : decode cX1_account 87 = .ok (.aload_n 0, 1) := dk_42 (dk_at dksX1_account_2 23 rfl rfl)
theorem dX1_account_88 : decode cX1_account 88 = .ok (.getfield 48, 3) := dk_180 0 48 (dk_at dksX1_account_3 0 rfl rfl)
theorem dX1_account_91 : decode cX1_account 91 = .ok (.getfield 366, 3) := dk_180 1 110 (dk_at dksX1_account_3 3 rfl rfl)
theorem dX1_account_94 : decode cX1_account 94 = .ok (.goto 80, 3) := dk_167 0 80 (dk_at dksX1_account_3 6 rfl rfl)
theorem dX1_account_97 : decode cX1_account 97 = .ok (.aload_n 0, 1) := dk_42 (dk_at dksX1_account_3 9 rfl rfl)
theorem dX1_account_98 : decode cX1_account 98 = .ok (.getfield 48, 3) := dk_180 0 48 (dk_at dksX1_account_3 10 rfl rfl)
theorem dX1_account_101 : decode cX1_account 101 = .ok (.getfield 368, 3) := dk_180 1 112 (dk_at dksX1_account_3 13 rfl rfl)
theorem dX1_account_104 : decode cX1_account 104 = .ok (.goto 70, 3) := dk_167 0 70 (dk_at dksX1_account_3 16 rfl rfl)
theorem dX1_account_107 : decode cX1_account 107 = .ok (.aload_n 0, 1) := dk_42 (dk_at dksX1_account_3 19 rfl rfl)
theorem dX1_account_108 : decode cX1_account 108 = .ok (.getfield 48, 3) := dk_180 0 48 (dk_at dksX1_account_3 20 rfl rfl)
theorem dX1_account_111 : decode cX1_account 111 = .ok (.getfield 370, 3) := dk_180 1 114 (dk_at dksX1_account_4 0 rfl rfl)
theorem dX1_account_114 : decode cX1_account 114 = .ok (.goto 60, 3) := dk_167 0 60 (dk_at dksX1_account_4 3 rfl rfl)
theorem dX1_account_117 : decode cX1_account 117 = .ok (.aload_n 0, 1) := dk_42 (dk_at dksX1_account_4 6 rfl rfl)
theorem dX1_account_118 : decode cX1_account 118 = .ok (.getfield 48, 3) := dk_180 0 48 (dk_at dksX1_account_4 7 rfl rfl)
theorem dX1_account_121 : decode cX1_account 121 = .ok (.invokevirtual 359, 3) := dk_182 1 103 (dk_at dksX1_account_4 10 rfl rfl)
theorem dX1_account_124 : decode cX1_account 124 = .ok (.goto 50, 3) := dk_167 0 50 (dk_at dksX1_account_4 13 rfl rfl)
theorem dX1_account_127 : decode cX1_account 127 = .ok (.aload_n 0, 1) := dk_42 (dk_at dksX1_account_4 16 rfl rfl)
theorem dX1_account_128 : decode cX1_account 128 = .ok (.getfield 48, 3) := dk_180 0 48 (dk_at dksX1_account_4 17 rfl rfl)
theorem dX1_account_131 : decode cX1_account 131 = .ok (.invokevirtual 361, 3) := dk_182 1 105 (dk_at dksX1_account_4 20 rfl rfl)
theorem dX1_account_134 : decode cX1_account 134 = .ok (.goto 40, 3) := dk_167 0 40 (dk_at dksX1_account_5 0 rfl rfl)
theorem dX1_account_137 : decode cX1_account 137 = .ok (.aload_n 0, 1) := dk_42 (dk_at dksX1_account_5 3 rfl rfl)
theorem dX1_account_138 : decode cX1_account 138 = .ok (.getfield 48, 3) := dk_180 0 48 (dk_at dksX1_account_5 4 rfl rfl)
theorem dX1_account_141 : decode cX1_account 141 = .ok (.getfield 373, 3) := dk_180 1 117 (dk_at dksX1_account_5 7 rfl rfl)
theorem dX1_account_144 : decode cX1_account 144 = .ok (.goto 30, 3) := dk_167 0 30 (dk_at dksX1_account_5 10 rfl rfl)
theorem dX1_account_147 : decode cX1_account 147 = .ok (.aload_n 0, 1) := dk_42 (dk_at dksX1_account_5 13 rfl rfl)
theorem dX1_account_148 : decode cX1_account 148 = .ok (.getfield 48, 3) := dk_180 0 48 (dk_at dksX1_account_5 14 rfl rfl)
theorem dX1_account_151 : decode cX1_account 151 = .ok (.getfield 376, 3) := dk_180 1 120 (dk_at dksX1_account_5 17 rfl rfl)
theorem dX1_account_154 : decode cX1_account 154 = .ok (.goto 20, 3) := dk_167 0 20 (dk_at dksX1_account_5 20 rfl rfl)
theorem dX1_account_157 : decode cX1_account 157 = .ok (.aload_n 0, 1) := dk_42 (dk_at dksX1_account_5 23 rfl rfl)
theorem dX1_account_158 : decode cX1_account 158 = .ok (.getfield 62, 3) := dk_180 0 62 (dk_at dksX1_account_6 0 rfl rfl)
theorem dX1_account_161 : decode cX1_account 161 = .ok (.invokevirtual 331, 3) := dk_182 1 75 (dk_at dksX1_account_6 3 rfl rfl)
theorem dX1_account_164 : decode cX1_account 164 = .ok (.goto 10, 3) := dk_167 0 10 (dk_at dksX1_account_6 6 rfl rfl)
theorem dX1_account_167 : decode cX1_account 167 = .ok (.aload_n 0, 1) := dk_42 (dk_at dksX1_account_6 9 rfl rfl)
theorem dX1_account_168 : decode cX1_account 168 = .ok (.getfield 55, 3) := dk_180 0 55 (dk_at dksX1_account_6 10 rfl rfl)
theorem dX1_account_171 : decode cX1_account 171 = .ok (.invokevirtual 72, 3) := dk_182 0 72 (dk_at dksX1_account_6 13 rfl rfl)
theorem dX1_account_174 : decode cX1_account 174 = .ok (.ireturn, 1) := dk_172 (dk_at dksX1_account_6 16 rfl rfl)
abbrev cX1_append : ByteArray := prog_1_method_58_code
def yX1_append : MethodName := ⟨RX1, "append", "(C)I"⟩
def dkwX1_append_1 : List UInt8 := [167, 0, 4, 3, 184, 1, 123, 42, 180, 0, 62, 27, 182, 1, 126, 87, 42, 180, 0, 62, 182, 1, 75, 172]
abbrev dktX1_append_1 : List UInt8 := dkwX1_append_1 ++ []
def dkwX1_append_0 : List UInt8 := [27, 16, 32, 16, 126, 184, 0, 3, 184, 0, 110, 42, 180, 0, 62, 182, 1, 75, 16, 60, 162, 0, 7, 4]
abbrev dktX1_append_0 : List UInt8 := dkwX1_append_0 ++ dktX1_append_1
theorem dksX1_append_0 : cX1_append.data.toList.drop 0 = dktX1_append_0 := by decide +kernel
theorem dksX1_append_1 : cX1_append.data.toList.drop 24 = dktX1_append_1 := dk_seg dksX1_append_0 24 rfl rfl
theorem dX1_append_0 : decode cX1_append 0 = .ok (.iload_n 1, 1) := dk_27 (dk_at dksX1_append_0 0 rfl rfl)
theorem dX1_append_1 : decode cX1_append 1 = .ok (.bipush 32, 2) := dk_16 32 (dk_at dksX1_append_0 1 rfl rfl)
theorem dX1_append_3 : decode cX1_append 3 = .ok (.bipush 126, 2) := dk_16 126 (dk_at dksX1_append_0 3 rfl rfl)
theorem dX1_append_5 : decode cX1_append 5 = .ok (.invokestatic 3, 3) := dk_184 0 3 (dk_at dksX1_append_0 5 rfl rfl)
theorem dX1_append_8 : decode cX1_append 8 = .ok (.invokestatic 110, 3) := dk_184 0 110 (dk_at dksX1_append_0 8 rfl rfl)
theorem dX1_append_11 : decode cX1_append 11 = .ok (.aload_n 0, 1) := dk_42 (dk_at dksX1_append_0 11 rfl rfl)
theorem dX1_append_12 : decode cX1_append 12 = .ok (.getfield 62, 3) := dk_180 0 62 (dk_at dksX1_append_0 12 rfl rfl)
theorem dX1_append_15 : decode cX1_append 15 = .ok (.invokevirtual 331, 3) := dk_182 1 75 (dk_at dksX1_append_0 15 rfl rfl)
theorem dX1_append_18 : decode cX1_append 18 = .ok (.bipush 60, 2) := dk_16 60 (dk_at dksX1_append_0 18 rfl rfl)
theorem dX1_append_20 : decode cX1_append 20 = .ok (.if_icmp .ge 7, 3) := dk_162 0 7 (dk_at dksX1_append_0 20 rfl rfl)
theorem dX1_append_23 : decode cX1_append 23 = .ok (.iconst 1, 1) := dk_4 (dk_at dksX1_append_0 23 rfl rfl)
theorem dX1_append_24 : decode cX1_append 24 = .ok (.goto 4, 3) := dk_167 0 4 (dk_at dksX1_append_1 0 rfl rfl)
theorem dX1_append_27 : decode cX1_append 27 = .ok (.iconst 0, 1) := dk_3 (dk_at dksX1_append_1 3 rfl rfl)
theorem dX1_append_28 : decode cX1_append 28 = .ok (.invokestatic 379, 3) := dk_184 1 123 (dk_at dksX1_append_1 4 rfl rfl)
theorem dX1_append_31 : decode cX1_append 31 = .ok (.aload_n 0, 1) := dk_42 (dk_at dksX1_append_1 7 rfl rfl)
theorem dX1_append_32 : decode cX1_append 32 = .ok (.getfield 62, 3) := dk_180 0 62 (dk_at dksX1_append_1 8 rfl rfl)
theorem dX1_append_35 : decode cX1_append 35 = .ok (.iload_n 1, 1) := dk_27 (dk_at dksX1_append_1 11 rfl rfl)
theorem dX1_append_36 : decode cX1_append 36 = .ok (.invokevirtual 382, 3) := dk_182 1 126 (dk_at dksX1_append_1 12 rfl rfl)
theorem dX1_append_39 : decode cX1_append 39 = .ok (.pop, 1) := dk_87 (dk_at dksX1_append_1 15 rfl rfl)
theorem dX1_append_40 : decode cX1_append 40 = .ok (.aload_n 0, 1) := dk_42 (dk_at dksX1_append_1 16 rfl rfl)
theorem dX1_append_41 : decode cX1_append 41 = .ok (.getfield 62, 3) := dk_180 0 62 (dk_at dksX1_append_1 17 rfl rfl)
theorem dX1_append_44 : decode cX1_append 44 = .ok (.invokevirtual 331, 3) := dk_182 1 75 (dk_at dksX1_append_1 20 rfl rfl)
theorem dX1_append_47 : decode cX1_append 47 = .ok (.ireturn, 1) := dk_172 (dk_at dksX1_append_1 23 rfl rfl)
abbrev cX1_read : ByteArray := prog_1_method_59_code
def yX1_read : MethodName := ⟨RX1, "read", "()I"⟩
def dkwX1_read_4 : List UInt8 := [181, 1, 145, 187, 0, 11, 89, 183, 0, 13, 191, 77, 42, 44, 182, 0, 102, 191]
abbrev dktX1_read_4 : List UInt8 := dkwX1_read_4 ++ []
def dkwX1_read_3 : List UInt8 := [182, 0, 94, 54, 5, 167, 255, 228, 42, 44, 43, 180, 1, 140, 182, 0, 72, 182, 0, 98, 172, 77, 42, 44]
abbrev dktX1_read_3 : List UInt8 := dkwX1_read_3 ++ dktX1_read_4
def dkwX1_read_2 : List UInt8 := [185, 1, 66, 1, 0, 153, 0, 25, 45, 185, 1, 71, 1, 0, 192, 0, 34, 58, 4, 25, 4, 44]
abbrev dktX1_read_2 : List UInt8 := dkwX1_read_2 ++ dktX1_read_3
def dkwX1_read_1 : List UInt8 := [182, 1, 138, 42, 180, 0, 48, 182, 0, 91, 77, 43, 180, 1, 140, 182, 1, 62, 78, 45]
abbrev dktX1_read_1 : List UInt8 := dkwX1_read_1 ++ dktX1_read_2
def dkwX1_read_0 : List UInt8 := [187, 1, 129, 89, 42, 180, 0, 62, 182, 1, 131, 183, 1, 132, 76, 42, 180, 0, 62, 3, 182, 1, 135, 43]
abbrev dktX1_read_0 : List UInt8 := dkwX1_read_0 ++ dktX1_read_1
theorem dksX1_read_0 : cX1_read.data.toList.drop 0 = dktX1_read_0 := by decide +kernel
theorem dksX1_read_1 : cX1_read.data.toList.drop 24 = dktX1_read_1 := dk_seg dksX1_read_0 24 rfl rfl
theorem dksX1_read_2 : cX1_read.data.toList.drop 44 = dktX1_read_2 := dk_seg dksX1_read_1 20 rfl rfl
theorem dksX1_read_3 : cX1_read.data.toList.drop 66 = dktX1_read_3 := dk_seg dksX1_read_2 22 rfl rfl
theorem dksX1_read_4 : cX1_read.data.toList.drop 90 = dktX1_read_4 := dk_seg dksX1_read_3 24 rfl rfl
theorem dX1_read_0 : decode cX1_read 0 = .ok (.new 385, 3) := dk_187 1 129 (dk_at dksX1_read_0 0 rfl rfl)
theorem dX1_read_3 : decode cX1_read 3 = .ok (.dup, 1) := dk_89 (dk_at dksX1_read_0 3 rfl rfl)
theorem dX1_read_4 : decode cX1_read 4 = .ok (.aload_n 0, 1) := dk_42 (dk_at dksX1_read_0 4 rfl rfl)
theorem dX1_read_5 : decode cX1_read 5 = .ok (.getfield 62, 3) := dk_180 0 62 (dk_at dksX1_read_0 5 rfl rfl)
theorem dX1_read_8 : decode cX1_read 8 = .ok (.invokevirtual 387, 3) := dk_182 1 131 (dk_at dksX1_read_0 8 rfl rfl)
theorem dX1_read_11 : decode cX1_read 11 = .ok (.invokespecial 388, 3) := dk_183 1 132 (dk_at dksX1_read_0 11 rfl rfl)
theorem dX1_read_14 : decode cX1_read 14 = .ok (.astore_n 1, 1) := dk_76 (dk_at dksX1_read_0 14 rfl rfl)
theorem dX1_read_15 : decode cX1_read 15 = .ok (.aload_n 0, 1) := dk_42 (dk_at dksX1_read_0 15 rfl rfl)
theorem dX1_read_16 : decode cX1_read 16 = .ok (.getfield 62, 3) := dk_180 0 62 (dk_at dksX1_read_0 16 rfl rfl)
theorem dX1_read_19 : decode cX1_read 19 = .ok (.iconst 0, 1) := dk_3 (dk_at dksX1_read_0 19 rfl rfl)
theorem dX1_read_20 : decode cX1_read 20 = .ok (.invokevirtual 391, 3) := dk_182 1 135 (dk_at dksX1_read_0 20 rfl rfl)
theorem dX1_read_23 : decode cX1_read 23 = .ok (.aload_n 1, 1) := dk_43 (dk_at dksX1_read_0 23 rfl rfl)
theorem dX1_read_24 : decode cX1_read 24 = .ok (.invokevirtual 394, 3) := dk_182 1 138 (dk_at dksX1_read_1 0 rfl rfl)
theorem dX1_read_27 : decode cX1_read 27 = .ok (.aload_n 0, 1) := dk_42 (dk_at dksX1_read_1 3 rfl rfl)
theorem dX1_read_28 : decode cX1_read 28 = .ok (.getfield 48, 3) := dk_180 0 48 (dk_at dksX1_read_1 4 rfl rfl)
theorem dX1_read_31 : decode cX1_read 31 = .ok (.invokevirtual 91, 3) := dk_182 0 91 (dk_at dksX1_read_1 7 rfl rfl)
theorem dX1_read_34 : decode cX1_read 34 = .ok (.astore_n 2, 1) := dk_77 (dk_at dksX1_read_1 10 rfl rfl)
theorem dX1_read_35 : decode cX1_read 35 = .ok (.aload_n 1, 1) := dk_43 (dk_at dksX1_read_1 11 rfl rfl)
theorem dX1_read_36 : decode cX1_read 36 = .ok (.getfield 396, 3) := dk_180 1 140 (dk_at dksX1_read_1 12 rfl rfl)
theorem dX1_read_39 : decode cX1_read 39 = .ok (.invokevirtual 318, 3) := dk_182 1 62 (dk_at dksX1_read_1 15 rfl rfl)
theorem dX1_read_42 : decode cX1_read 42 = .ok (.astore_n 3, 1) := dk_78 (dk_at dksX1_read_1 18 rfl rfl)
theorem dX1_read_43 : decode cX1_read 43 = .ok (.aload_n 3, 1) := dk_45 (dk_at dksX1_read_1 19 rfl rfl)
theorem dX1_read_44 : decode cX1_read 44 = .ok (.invokeinterface 322 1, 5) := by decide +kernel
theorem dX1_read_49 : decode cX1_read 49 = .ok (.ifCond .eq 25, 3) := dk_153 0 25 (dk_at dksX1_read_2 5 rfl rfl)
theorem dX1_read_52 : decode cX1_read 52 = .ok (.aload_n 3, 1) := dk_45 (dk_at dksX1_read_2 8 rfl rfl)
theorem dX1_read_53 : decode cX1_read 53 = .ok (.invokeinterface 327 1, 5) := by decide +kernel
theorem dX1_read_58 : decode cX1_read 58 = .ok (.checkcast 34, 3) := dk_192 0 34 (dk_at dksX1_read_2 14 rfl rfl)
theorem dX1_read_61 : decode cX1_read 61 = .ok (.astore 4, 2) := dk_58 4 (dk_at dksX1_read_2 17 rfl rfl)
theorem dX1_read_63 : decode cX1_read 63 = .ok (.aload 4, 2) := dk_25 4 (dk_at dksX1_read_2 19 rfl rfl)
theorem dX1_read_65 : decode cX1_read 65 = .ok (.aload_n 2, 1) := dk_44 (dk_at dksX1_read_2 21 rfl rfl)
theorem dX1_read_66 : decode cX1_read 66 = .ok (.invokevirtual 94, 3) := dk_182 0 94 (dk_at dksX1_read_3 0 rfl rfl)
theorem dX1_read_69 : decode cX1_read 69 = .ok (.istore 5, 2) := dk_54 5 (dk_at dksX1_read_3 3 rfl rfl)
theorem dX1_read_71 : decode cX1_read 71 = .ok (.goto (-28), 3) := dk_167 255 228 (dk_at dksX1_read_3 5 rfl rfl)
theorem dX1_read_74 : decode cX1_read 74 = .ok (.aload_n 0, 1) := dk_42 (dk_at dksX1_read_3 8 rfl rfl)
theorem dX1_read_75 : decode cX1_read 75 = .ok (.aload_n 2, 1) := dk_44 (dk_at dksX1_read_3 9 rfl rfl)
theorem dX1_read_76 : decode cX1_read 76 = .ok (.aload_n 1, 1) := dk_43 (dk_at dksX1_read_3 10 rfl rfl)
theorem dX1_read_77 : decode cX1_read 77 = .ok (.getfield 396, 3) := dk_180 1 140 (dk_at dksX1_read_3 11 rfl rfl)
theorem dX1_read_80 : decode cX1_read 80 = .ok (.invokevirtual 72, 3) := dk_182 0 72 (dk_at dksX1_read_3 14 rfl rfl)
theorem dX1_read_83 : decode cX1_read 83 = .ok (.invokevirtual 98, 3) := dk_182 0 98 (dk_at dksX1_read_3 17 rfl rfl)
theorem dX1_read_86 : decode cX1_read 86 = .ok (.ireturn, 1) := dk_172 (dk_at dksX1_read_3 20 rfl rfl)
theorem dX1_read_87 : decode cX1_read 87 = .ok (.astore_n 2, 1) := dk_77 (dk_at dksX1_read_3 21 rfl rfl)
theorem dX1_read_88 : decode cX1_read 88 = .ok (.aload_n 0, 1) := dk_42 (dk_at dksX1_read_3 22 rfl rfl)
theorem dX1_read_89 : decode cX1_read 89 = .ok (.aload_n 2, 1) := dk_44 (dk_at dksX1_read_3 23 rfl rfl)
theorem dX1_read_90 : decode cX1_read 90 = .ok (.putfield 401, 3) := dk_181 1 145 (dk_at dksX1_read_4 0 rfl rfl)
theorem dX1_read_93 : decode cX1_read 93 = .ok (.new 11, 3) := dk_187 0 11 (dk_at dksX1_read_4 3 rfl rfl)
theorem dX1_read_96 : decode cX1_read 96 = .ok (.dup, 1) := dk_89 (dk_at dksX1_read_4 6 rfl rfl)
theorem dX1_read_97 : decode cX1_read 97 = .ok (.invokespecial 13, 3) := dk_183 0 13 (dk_at dksX1_read_4 7 rfl rfl)
theorem dX1_read_100 : decode cX1_read 100 = .ok (.athrow, 1) := dk_191 (dk_at dksX1_read_4 10 rfl rfl)
theorem dX1_read_101 : decode cX1_read 101 = .ok (.astore_n 2, 1) := dk_77 (dk_at dksX1_read_4 11 rfl rfl)
theorem dX1_read_102 : decode cX1_read 102 = .ok (.aload_n 0, 1) := dk_42 (dk_at dksX1_read_4 12 rfl rfl)
theorem dX1_read_103 : decode cX1_read 103 = .ok (.aload_n 2, 1) := dk_44 (dk_at dksX1_read_4 13 rfl rfl)
theorem dX1_read_104 : decode cX1_read 104 = .ok (.invokevirtual 102, 3) := dk_182 0 102 (dk_at dksX1_read_4 14 rfl rfl)
theorem dX1_read_107 : decode cX1_read 107 = .ok (.athrow, 1) := dk_191 (dk_at dksX1_read_4 17 rfl rfl)
abbrev cX1_errorPosition : ByteArray := prog_1_method_60_code
def yX1_errorPosition : MethodName := ⟨RX1, "errorPosition", "()I"⟩
def dkwX1_errorPosition_0 : List UInt8 := [42, 180, 1, 145, 198, 0, 7, 4, 167, 0, 4, 3, 184, 0, 133, 42, 180, 1, 145, 180, 1, 149, 172]
abbrev dktX1_errorPosition_0 : List UInt8 := dkwX1_errorPosition_0 ++ []
theorem dksX1_errorPosition_0 : cX1_errorPosition.data.toList.drop 0 = dktX1_errorPosition_0 := by decide +kernel
theorem dX1_errorPosition_0 : decode cX1_errorPosition 0 = .ok (.aload_n 0, 1) := dk_42 (dk_at dksX1_errorPosition_0 0 rfl rfl)
theorem dX1_errorPosition_1 : decode cX1_errorPosition 1 = .ok (.getfield 401, 3) := dk_180 1 145 (dk_at dksX1_errorPosition_0 1 rfl rfl)
theorem dX1_errorPosition_4 : decode cX1_errorPosition 4 = .ok (.ifnull 7, 3) := dk_198 0 7 (dk_at dksX1_errorPosition_0 4 rfl rfl)
theorem dX1_errorPosition_7 : decode cX1_errorPosition 7 = .ok (.iconst 1, 1) := dk_4 (dk_at dksX1_errorPosition_0 7 rfl rfl)
theorem dX1_errorPosition_8 : decode cX1_errorPosition 8 = .ok (.goto 4, 3) := dk_167 0 4 (dk_at dksX1_errorPosition_0 8 rfl rfl)
theorem dX1_errorPosition_11 : decode cX1_errorPosition 11 = .ok (.iconst 0, 1) := dk_3 (dk_at dksX1_errorPosition_0 11 rfl rfl)
theorem dX1_errorPosition_12 : decode cX1_errorPosition 12 = .ok (.invokestatic 133, 3) := dk_184 0 133 (dk_at dksX1_errorPosition_0 12 rfl rfl)
theorem dX1_errorPosition_15 : decode cX1_errorPosition 15 = .ok (.aload_n 0, 1) := dk_42 (dk_at dksX1_errorPosition_0 15 rfl rfl)
theorem dX1_errorPosition_16 : decode cX1_errorPosition 16 = .ok (.getfield 401, 3) := dk_180 1 145 (dk_at dksX1_errorPosition_0 16 rfl rfl)
theorem dX1_errorPosition_19 : decode cX1_errorPosition 19 = .ok (.getfield 405, 3) := dk_180 1 149 (dk_at dksX1_errorPosition_0 19 rfl rfl)
theorem dX1_errorPosition_22 : decode cX1_errorPosition 22 = .ok (.ireturn, 1) := dk_172 (dk_at dksX1_errorPosition_0 22 rfl rfl)
abbrev cX1_reason : ByteArray := prog_1_method_61_code
def yX1_reason : MethodName := ⟨RX1, "reason", "(Z)I"⟩
def dkwX1_reason_1 : List UInt8 := [180, 1, 152, 167, 0, 10, 42, 180, 0, 84, 180, 1, 155, 172]
abbrev dktX1_reason_1 : List UInt8 := dkwX1_reason_1 ++ []
def dkwX1_reason_0 : List UInt8 := [42, 180, 0, 84, 198, 0, 7, 4, 167, 0, 4, 3, 184, 0, 133, 27, 153, 0, 13, 42, 180, 0, 84]
abbrev dktX1_reason_0 : List UInt8 := dkwX1_reason_0 ++ dktX1_reason_1
theorem dksX1_reason_0 : cX1_reason.data.toList.drop 0 = dktX1_reason_0 := by decide +kernel
theorem dksX1_reason_1 : cX1_reason.data.toList.drop 23 = dktX1_reason_1 := dk_seg dksX1_reason_0 23 rfl rfl
theorem dX1_reason_0 : decode cX1_reason 0 = .ok (.aload_n 0, 1) := dk_42 (dk_at dksX1_reason_0 0 rfl rfl)
theorem dX1_reason_1 : decode cX1_reason 1 = .ok (.getfield 84, 3) := dk_180 0 84 (dk_at dksX1_reason_0 1 rfl rfl)
theorem dX1_reason_4 : decode cX1_reason 4 = .ok (.ifnull 7, 3) := dk_198 0 7 (dk_at dksX1_reason_0 4 rfl rfl)
theorem dX1_reason_7 : decode cX1_reason 7 = .ok (.iconst 1, 1) := dk_4 (dk_at dksX1_reason_0 7 rfl rfl)
theorem dX1_reason_8 : decode cX1_reason 8 = .ok (.goto 4, 3) := dk_167 0 4 (dk_at dksX1_reason_0 8 rfl rfl)
theorem dX1_reason_11 : decode cX1_reason 11 = .ok (.iconst 0, 1) := dk_3 (dk_at dksX1_reason_0 11 rfl rfl)
theorem dX1_reason_12 : decode cX1_reason 12 = .ok (.invokestatic 133, 3) := dk_184 0 133 (dk_at dksX1_reason_0 12 rfl rfl)
theorem dX1_reason_15 : decode cX1_reason 15 = .ok (.iload_n 1, 1) := dk_27 (dk_at dksX1_reason_0 15 rfl rfl)
theorem dX1_reason_16 : decode cX1_reason 16 = .ok (.ifCond .eq 13, 3) := dk_153 0 13 (dk_at dksX1_reason_0 16 rfl rfl)
theorem dX1_reason_19 : decode cX1_reason 19 = .ok (.aload_n 0, 1) := dk_42 (dk_at dksX1_reason_0 19 rfl rfl)
theorem dX1_reason_20 : decode cX1_reason 20 = .ok (.getfield 84, 3) := dk_180 0 84 (dk_at dksX1_reason_0 20 rfl rfl)
theorem dX1_reason_23 : decode cX1_reason 23 = .ok (.getfield 408, 3) := dk_180 1 152 (dk_at dksX1_reason_1 0 rfl rfl)
theorem dX1_reason_26 : decode cX1_reason 26 = .ok (.goto 10, 3) := dk_167 0 10 (dk_at dksX1_reason_1 3 rfl rfl)
theorem dX1_reason_29 : decode cX1_reason 29 = .ok (.aload_n 0, 1) := dk_42 (dk_at dksX1_reason_1 6 rfl rfl)
theorem dX1_reason_30 : decode cX1_reason 30 = .ok (.getfield 84, 3) := dk_180 0 84 (dk_at dksX1_reason_1 7 rfl rfl)
theorem dX1_reason_33 : decode cX1_reason 33 = .ok (.getfield 411, 3) := dk_180 1 155 (dk_at dksX1_reason_1 10 rfl rfl)
theorem dX1_reason_36 : decode cX1_reason 36 = .ok (.ireturn, 1) := dk_172 (dk_at dksX1_reason_1 13 rfl rfl)
abbrev cX1_undo : ByteArray := prog_1_method_62_code
def yX1_undo : MethodName := ⟨RX1, "undo", "()I"⟩
def dkwX1_undo_2 : List UInt8 := [172]
abbrev dktX1_undo_2 : List UInt8 := dkwX1_undo_2 ++ []
def dkwX1_undo_1 : List UInt8 := [180, 0, 55, 182, 0, 72, 4, 100, 182, 0, 76, 192, 0, 43, 181, 0, 48, 42, 180, 0, 55, 182, 0, 72]
abbrev dktX1_undo_1 : List UInt8 := dkwX1_undo_1 ++ dktX1_undo_2
def dkwX1_undo_0 : List UInt8 := [42, 180, 0, 55, 182, 0, 72, 158, 0, 7, 4, 167, 0, 4, 3, 184, 0, 133, 42, 42, 180, 0, 55, 42]
abbrev dktX1_undo_0 : List UInt8 := dkwX1_undo_0 ++ dktX1_undo_1
theorem dksX1_undo_0 : cX1_undo.data.toList.drop 0 = dktX1_undo_0 := by decide +kernel
theorem dksX1_undo_1 : cX1_undo.data.toList.drop 24 = dktX1_undo_1 := dk_seg dksX1_undo_0 24 rfl rfl
theorem dksX1_undo_2 : cX1_undo.data.toList.drop 48 = dktX1_undo_2 := dk_seg dksX1_undo_1 24 rfl rfl
theorem dX1_undo_0 : decode cX1_undo 0 = .ok (.aload_n 0, 1) := dk_42 (dk_at dksX1_undo_0 0 rfl rfl)
theorem dX1_undo_1 : decode cX1_undo 1 = .ok (.getfield 55, 3) := dk_180 0 55 (dk_at dksX1_undo_0 1 rfl rfl)
theorem dX1_undo_4 : decode cX1_undo 4 = .ok (.invokevirtual 72, 3) := dk_182 0 72 (dk_at dksX1_undo_0 4 rfl rfl)
theorem dX1_undo_7 : decode cX1_undo 7 = .ok (.ifCond .le 7, 3) := dk_158 0 7 (dk_at dksX1_undo_0 7 rfl rfl)
theorem dX1_undo_10 : decode cX1_undo 10 = .ok (.iconst 1, 1) := dk_4 (dk_at dksX1_undo_0 10 rfl rfl)
theorem dX1_undo_11 : decode cX1_undo 11 = .ok (.goto 4, 3) := dk_167 0 4 (dk_at dksX1_undo_0 11 rfl rfl)
theorem dX1_undo_14 : decode cX1_undo 14 = .ok (.iconst 0, 1) := dk_3 (dk_at dksX1_undo_0 14 rfl rfl)
theorem dX1_undo_15 : decode cX1_undo 15 = .ok (.invokestatic 133, 3) := dk_184 0 133 (dk_at dksX1_undo_0 15 rfl rfl)
theorem dX1_undo_18 : decode cX1_undo 18 = .ok (.aload_n 0, 1) := dk_42 (dk_at dksX1_undo_0 18 rfl rfl)
theorem dX1_undo_19 : decode cX1_undo 19 = .ok (.aload_n 0, 1) := dk_42 (dk_at dksX1_undo_0 19 rfl rfl)
theorem dX1_undo_20 : decode cX1_undo 20 = .ok (.getfield 55, 3) := dk_180 0 55 (dk_at dksX1_undo_0 20 rfl rfl)
theorem dX1_undo_23 : decode cX1_undo 23 = .ok (.aload_n 0, 1) := dk_42 (dk_at dksX1_undo_0 23 rfl rfl)
theorem dX1_undo_24 : decode cX1_undo 24 = .ok (.getfield 55, 3) := dk_180 0 55 (dk_at dksX1_undo_1 0 rfl rfl)
theorem dX1_undo_27 : decode cX1_undo 27 = .ok (.invokevirtual 72, 3) := dk_182 0 72 (dk_at dksX1_undo_1 3 rfl rfl)
theorem dX1_undo_30 : decode cX1_undo 30 = .ok (.iconst 1, 1) := dk_4 (dk_at dksX1_undo_1 6 rfl rfl)
theorem dX1_undo_31 : decode cX1_undo 31 = .ok (.isub, 1) := dk_100 (dk_at dksX1_undo_1 7 rfl rfl)
theorem dX1_undo_32 : decode cX1_undo 32 = .ok (.invokevirtual 76, 3) := dk_182 0 76 (dk_at dksX1_undo_1 8 rfl rfl)
theorem dX1_undo_35 : decode cX1_undo 35 = .ok (.checkcast 43, 3) := dk_192 0 43 (dk_at dksX1_undo_1 11 rfl rfl)
theorem dX1_undo_38 : decode cX1_undo 38 = .ok (.putfield 48, 3) := dk_181 0 48 (dk_at dksX1_undo_1 14 rfl rfl)
theorem dX1_undo_41 : decode cX1_undo 41 = .ok (.aload_n 0, 1) := dk_42 (dk_at dksX1_undo_1 17 rfl rfl)
theorem dX1_undo_42 : decode cX1_undo 42 = .ok (.getfield 55, 3) := dk_180 0 55 (dk_at dksX1_undo_1 18 rfl rfl)
theorem dX1_undo_45 : decode cX1_undo 45 = .ok (.invokevirtual 72, 3) := dk_182 0 72 (dk_at dksX1_undo_1 21 rfl rfl)
theorem dX1_undo_48 : decode cX1_undo 48 = .ok (.ireturn, 1) := dk_172 (dk_at dksX1_undo_2 0 rfl rfl)
abbrev cX1_restore : ByteArray := prog_1_method_64_code
def yX1_restore : MethodName := ⟨RX1, "restore", "()I"⟩
def dkwX1_restore_1 : List UInt8 := [181, 0, 48, 42, 180, 0, 55, 182, 1, 161, 42, 180, 0, 48, 180, 0, 117, 182, 0, 200, 172]
abbrev dktX1_restore_1 : List UInt8 := dkwX1_restore_1 ++ []
def dkwX1_restore_0 : List UInt8 := [42, 180, 1, 158, 198, 0, 7, 4, 167, 0, 4, 3, 184, 1, 123, 42, 42, 180, 1, 158, 182, 0, 91]
abbrev dktX1_restore_0 : List UInt8 := dkwX1_restore_0 ++ dktX1_restore_1
theorem dksX1_restore_0 : cX1_restore.data.toList.drop 0 = dktX1_restore_0 := by decide +kernel
theorem dksX1_restore_1 : cX1_restore.data.toList.drop 23 = dktX1_restore_1 := dk_seg dksX1_restore_0 23 rfl rfl
theorem dX1_restore_0 : decode cX1_restore 0 = .ok (.aload_n 0, 1) := dk_42 (dk_at dksX1_restore_0 0 rfl rfl)
theorem dX1_restore_1 : decode cX1_restore 1 = .ok (.getfield 414, 3) := dk_180 1 158 (dk_at dksX1_restore_0 1 rfl rfl)
theorem dX1_restore_4 : decode cX1_restore 4 = .ok (.ifnull 7, 3) := dk_198 0 7 (dk_at dksX1_restore_0 4 rfl rfl)
theorem dX1_restore_7 : decode cX1_restore 7 = .ok (.iconst 1, 1) := dk_4 (dk_at dksX1_restore_0 7 rfl rfl)
theorem dX1_restore_8 : decode cX1_restore 8 = .ok (.goto 4, 3) := dk_167 0 4 (dk_at dksX1_restore_0 8 rfl rfl)
theorem dX1_restore_11 : decode cX1_restore 11 = .ok (.iconst 0, 1) := dk_3 (dk_at dksX1_restore_0 11 rfl rfl)
theorem dX1_restore_12 : decode cX1_restore 12 = .ok (.invokestatic 379, 3) := dk_184 1 123 (dk_at dksX1_restore_0 12 rfl rfl)
theorem dX1_restore_15 : decode cX1_restore 15 = .ok (.aload_n 0, 1) := dk_42 (dk_at dksX1_restore_0 15 rfl rfl)
theorem dX1_restore_16 : decode cX1_restore 16 = .ok (.aload_n 0, 1) := dk_42 (dk_at dksX1_restore_0 16 rfl rfl)
theorem dX1_restore_17 : decode cX1_restore 17 = .ok (.getfield 414, 3) := dk_180 1 158 (dk_at dksX1_restore_0 17 rfl rfl)
theorem dX1_restore_20 : decode cX1_restore 20 = .ok (.invokevirtual 91, 3) := dk_182 0 91 (dk_at dksX1_restore_0 20 rfl rfl)
theorem dX1_restore_23 : decode cX1_restore 23 = .ok (.putfield 48, 3) := dk_181 0 48 (dk_at dksX1_restore_1 0 rfl rfl)
theorem dX1_restore_26 : decode cX1_restore 26 = .ok (.aload_n 0, 1) := dk_42 (dk_at dksX1_restore_1 3 rfl rfl)
theorem dX1_restore_27 : decode cX1_restore 27 = .ok (.getfield 55, 3) := dk_180 0 55 (dk_at dksX1_restore_1 4 rfl rfl)
theorem dX1_restore_30 : decode cX1_restore 30 = .ok (.invokevirtual 417, 3) := dk_182 1 161 (dk_at dksX1_restore_1 7 rfl rfl)
theorem dX1_restore_33 : decode cX1_restore 33 = .ok (.aload_n 0, 1) := dk_42 (dk_at dksX1_restore_1 10 rfl rfl)
theorem dX1_restore_34 : decode cX1_restore 34 = .ok (.getfield 48, 3) := dk_180 0 48 (dk_at dksX1_restore_1 11 rfl rfl)
theorem dX1_restore_37 : decode cX1_restore 37 = .ok (.getfield 117, 3) := dk_180 0 117 (dk_at dksX1_restore_1 14 rfl rfl)
theorem dX1_restore_40 : decode cX1_restore 40 = .ok (.invokevirtual 200, 3) := dk_182 0 200 (dk_at dksX1_restore_1 17 rfl rfl)
theorem dX1_restore_43 : decode cX1_restore 43 = .ok (.ireturn, 1) := dk_172 (dk_at dksX1_restore_1 20 rfl rfl)
abbrev cJ7_remove : ByteArray := prog_51_method_29_code
def yJ7_remove : MethodName := ⟨RJ7, "remove", "(I)Ljava/lang/Object;"⟩
def dkwJ7_remove_1 : List UInt8 := [45, 176]
abbrev dktJ7_remove_1 : List UInt8 := dkwJ7_remove_1 ++ []
def dkwJ7_remove_0 : List UInt8 := [27, 42, 180, 0, 48, 184, 0, 118, 87, 42, 180, 0, 9, 77, 44, 27, 50, 78, 42, 44, 27, 182, 0, 144]
abbrev dktJ7_remove_0 : List UInt8 := dkwJ7_remove_0 ++ dktJ7_remove_1
theorem dksJ7_remove_0 : cJ7_remove.data.toList.drop 0 = dktJ7_remove_0 := by decide +kernel
theorem dksJ7_remove_1 : cJ7_remove.data.toList.drop 24 = dktJ7_remove_1 := dk_seg dksJ7_remove_0 24 rfl rfl
theorem dJ7_remove_0 : decode cJ7_remove 0 = .ok (.iload_n 1, 1) := dk_27 (dk_at dksJ7_remove_0 0 rfl rfl)
theorem dJ7_remove_1 : decode cJ7_remove 1 = .ok (.aload_n 0, 1) := dk_42 (dk_at dksJ7_remove_0 1 rfl rfl)
theorem dJ7_remove_2 : decode cJ7_remove 2 = .ok (.getfield 48, 3) := dk_180 0 48 (dk_at dksJ7_remove_0 2 rfl rfl)
theorem dJ7_remove_5 : decode cJ7_remove 5 = .ok (.invokestatic 118, 3) := dk_184 0 118 (dk_at dksJ7_remove_0 5 rfl rfl)
theorem dJ7_remove_8 : decode cJ7_remove 8 = .ok (.pop, 1) := dk_87 (dk_at dksJ7_remove_0 8 rfl rfl)
theorem dJ7_remove_9 : decode cJ7_remove 9 = .ok (.aload_n 0, 1) := dk_42 (dk_at dksJ7_remove_0 9 rfl rfl)
theorem dJ7_remove_10 : decode cJ7_remove 10 = .ok (.getfield 9, 3) := dk_180 0 9 (dk_at dksJ7_remove_0 10 rfl rfl)
theorem dJ7_remove_13 : decode cJ7_remove 13 = .ok (.astore_n 2, 1) := dk_77 (dk_at dksJ7_remove_0 13 rfl rfl)
theorem dJ7_remove_14 : decode cJ7_remove 14 = .ok (.aload_n 2, 1) := dk_44 (dk_at dksJ7_remove_0 14 rfl rfl)
theorem dJ7_remove_15 : decode cJ7_remove 15 = .ok (.iload_n 1, 1) := dk_27 (dk_at dksJ7_remove_0 15 rfl rfl)
theorem dJ7_remove_16 : decode cJ7_remove 16 = .ok (.aaload, 1) := dk_50 (dk_at dksJ7_remove_0 16 rfl rfl)
theorem dJ7_remove_17 : decode cJ7_remove 17 = .ok (.astore_n 3, 1) := dk_78 (dk_at dksJ7_remove_0 17 rfl rfl)
theorem dJ7_remove_18 : decode cJ7_remove 18 = .ok (.aload_n 0, 1) := dk_42 (dk_at dksJ7_remove_0 18 rfl rfl)
theorem dJ7_remove_19 : decode cJ7_remove 19 = .ok (.aload_n 2, 1) := dk_44 (dk_at dksJ7_remove_0 19 rfl rfl)
theorem dJ7_remove_20 : decode cJ7_remove 20 = .ok (.iload_n 1, 1) := dk_27 (dk_at dksJ7_remove_0 20 rfl rfl)
theorem dJ7_remove_21 : decode cJ7_remove 21 = .ok (.invokevirtual 144, 3) := dk_182 0 144 (dk_at dksJ7_remove_0 21 rfl rfl)
theorem dJ7_remove_24 : decode cJ7_remove 24 = .ok (.aload_n 3, 1) := dk_45 (dk_at dksJ7_remove_1 0 rfl rfl)
theorem dJ7_remove_25 : decode cJ7_remove 25 = .ok (.areturn, 1) := dk_176 (dk_at dksJ7_remove_1 1 rfl rfl)
abbrev cJ7_fastRemove : ByteArray := prog_51_method_39_code
def yJ7_fastRemove : MethodName := ⟨RJ7, "fastRemove", "([Ljava/lang/Object;I)V"⟩
def dkwJ7_fastRemove_1 : List UInt8 := [4, 96, 43, 28, 29, 28, 100, 184, 0, 112, 43, 42, 29, 90, 181, 0, 48, 1, 83, 177]
abbrev dktJ7_fastRemove_1 : List UInt8 := dkwJ7_fastRemove_1 ++ []
def dkwJ7_fastRemove_0 : List UInt8 := [42, 89, 180, 0, 63, 4, 96, 181, 0, 63, 42, 180, 0, 48, 4, 100, 89, 62, 28, 164, 0, 15, 43, 28]
abbrev dktJ7_fastRemove_0 : List UInt8 := dkwJ7_fastRemove_0 ++ dktJ7_fastRemove_1
theorem dksJ7_fastRemove_0 : cJ7_fastRemove.data.toList.drop 0 = dktJ7_fastRemove_0 := by decide +kernel
theorem dksJ7_fastRemove_1 : cJ7_fastRemove.data.toList.drop 24 = dktJ7_fastRemove_1 := dk_seg dksJ7_fastRemove_0 24 rfl rfl
theorem dJ7_fastRemove_0 : decode cJ7_fastRemove 0 = .ok (.aload_n 0, 1) := dk_42 (dk_at dksJ7_fastRemove_0 0 rfl rfl)
theorem dJ7_fastRemove_1 : decode cJ7_fastRemove 1 = .ok (.dup, 1) := dk_89 (dk_at dksJ7_fastRemove_0 1 rfl rfl)
theorem dJ7_fastRemove_2 : decode cJ7_fastRemove 2 = .ok (.getfield 63, 3) := dk_180 0 63 (dk_at dksJ7_fastRemove_0 2 rfl rfl)
theorem dJ7_fastRemove_5 : decode cJ7_fastRemove 5 = .ok (.iconst 1, 1) := dk_4 (dk_at dksJ7_fastRemove_0 5 rfl rfl)
theorem dJ7_fastRemove_6 : decode cJ7_fastRemove 6 = .ok (.iadd, 1) := dk_96 (dk_at dksJ7_fastRemove_0 6 rfl rfl)
theorem dJ7_fastRemove_7 : decode cJ7_fastRemove 7 = .ok (.putfield 63, 3) := dk_181 0 63 (dk_at dksJ7_fastRemove_0 7 rfl rfl)
theorem dJ7_fastRemove_10 : decode cJ7_fastRemove 10 = .ok (.aload_n 0, 1) := dk_42 (dk_at dksJ7_fastRemove_0 10 rfl rfl)
theorem dJ7_fastRemove_11 : decode cJ7_fastRemove 11 = .ok (.getfield 48, 3) := dk_180 0 48 (dk_at dksJ7_fastRemove_0 11 rfl rfl)
theorem dJ7_fastRemove_14 : decode cJ7_fastRemove 14 = .ok (.iconst 1, 1) := dk_4 (dk_at dksJ7_fastRemove_0 14 rfl rfl)
theorem dJ7_fastRemove_15 : decode cJ7_fastRemove 15 = .ok (.isub, 1) := dk_100 (dk_at dksJ7_fastRemove_0 15 rfl rfl)
theorem dJ7_fastRemove_16 : decode cJ7_fastRemove 16 = .ok (.dup, 1) := dk_89 (dk_at dksJ7_fastRemove_0 16 rfl rfl)
theorem dJ7_fastRemove_17 : decode cJ7_fastRemove 17 = .ok (.istore_n 3, 1) := dk_62 (dk_at dksJ7_fastRemove_0 17 rfl rfl)
theorem dJ7_fastRemove_18 : decode cJ7_fastRemove 18 = .ok (.iload_n 2, 1) := dk_28 (dk_at dksJ7_fastRemove_0 18 rfl rfl)
theorem dJ7_fastRemove_19 : decode cJ7_fastRemove 19 = .ok (.if_icmp .le 15, 3) := dk_164 0 15 (dk_at dksJ7_fastRemove_0 19 rfl rfl)
theorem dJ7_fastRemove_22 : decode cJ7_fastRemove 22 = .ok (.aload_n 1, 1) := dk_43 (dk_at dksJ7_fastRemove_0 22 rfl rfl)
theorem dJ7_fastRemove_23 : decode cJ7_fastRemove 23 = .ok (.iload_n 2, 1) := dk_28 (dk_at dksJ7_fastRemove_0 23 rfl rfl)
theorem dJ7_fastRemove_24 : decode cJ7_fastRemove 24 = .ok (.iconst 1, 1) := dk_4 (dk_at dksJ7_fastRemove_1 0 rfl rfl)
theorem dJ7_fastRemove_25 : decode cJ7_fastRemove 25 = .ok (.iadd, 1) := dk_96 (dk_at dksJ7_fastRemove_1 1 rfl rfl)
theorem dJ7_fastRemove_26 : decode cJ7_fastRemove 26 = .ok (.aload_n 1, 1) := dk_43 (dk_at dksJ7_fastRemove_1 2 rfl rfl)
theorem dJ7_fastRemove_27 : decode cJ7_fastRemove 27 = .ok (.iload_n 2, 1) := dk_28 (dk_at dksJ7_fastRemove_1 3 rfl rfl)
theorem dJ7_fastRemove_28 : decode cJ7_fastRemove 28 = .ok (.iload_n 3, 1) := dk_29 (dk_at dksJ7_fastRemove_1 4 rfl rfl)
theorem dJ7_fastRemove_29 : decode cJ7_fastRemove 29 = .ok (.iload_n 2, 1) := dk_28 (dk_at dksJ7_fastRemove_1 5 rfl rfl)
theorem dJ7_fastRemove_30 : decode cJ7_fastRemove 30 = .ok (.isub, 1) := dk_100 (dk_at dksJ7_fastRemove_1 6 rfl rfl)
theorem dJ7_fastRemove_31 : decode cJ7_fastRemove 31 = .ok (.invokestatic 112, 3) := dk_184 0 112 (dk_at dksJ7_fastRemove_1 7 rfl rfl)
theorem dJ7_fastRemove_34 : decode cJ7_fastRemove 34 = .ok (.aload_n 1, 1) := dk_43 (dk_at dksJ7_fastRemove_1 10 rfl rfl)
theorem dJ7_fastRemove_35 : decode cJ7_fastRemove 35 = .ok (.aload_n 0, 1) := dk_42 (dk_at dksJ7_fastRemove_1 11 rfl rfl)
theorem dJ7_fastRemove_36 : decode cJ7_fastRemove 36 = .ok (.iload_n 3, 1) := dk_29 (dk_at dksJ7_fastRemove_1 12 rfl rfl)
theorem dJ7_fastRemove_37 : decode cJ7_fastRemove 37 = .ok (.dup_x1, 1) := dk_90 (dk_at dksJ7_fastRemove_1 13 rfl rfl)
theorem dJ7_fastRemove_38 : decode cJ7_fastRemove 38 = .ok (.putfield 48, 3) := dk_181 0 48 (dk_at dksJ7_fastRemove_1 14 rfl rfl)
theorem dJ7_fastRemove_41 : decode cJ7_fastRemove 41 = .ok (.aconst_null, 1) := dk_1 (dk_at dksJ7_fastRemove_1 17 rfl rfl)
theorem dJ7_fastRemove_42 : decode cJ7_fastRemove 42 = .ok (.aastore, 1) := dk_83 (dk_at dksJ7_fastRemove_1 18 rfl rfl)
theorem dJ7_fastRemove_43 : decode cJ7_fastRemove 43 = .ok (.return_, 1) := dk_177 (dk_at dksJ7_fastRemove_1 19 rfl rfl)
abbrev cJ7_clear : ByteArray := prog_51_method_40_code
def yJ7_clear : MethodName := ⟨RJ7, "clear", "()V"⟩
def dkwJ7_clear_1 : List UInt8 := [181, 0, 48, 62, 29, 28, 162, 0, 13, 43, 29, 1, 83, 132, 3, 1, 167, 255, 244, 177]
abbrev dktJ7_clear_1 : List UInt8 := dkwJ7_clear_1 ++ []
def dkwJ7_clear_0 : List UInt8 := [42, 89, 180, 0, 63, 4, 96, 181, 0, 63, 42, 180, 0, 9, 76, 42, 180, 0, 48, 61, 42, 3, 90]
abbrev dktJ7_clear_0 : List UInt8 := dkwJ7_clear_0 ++ dktJ7_clear_1
theorem dksJ7_clear_0 : cJ7_clear.data.toList.drop 0 = dktJ7_clear_0 := by decide +kernel
theorem dksJ7_clear_1 : cJ7_clear.data.toList.drop 23 = dktJ7_clear_1 := dk_seg dksJ7_clear_0 23 rfl rfl
theorem dJ7_clear_0 : decode cJ7_clear 0 = .ok (.aload_n 0, 1) := dk_42 (dk_at dksJ7_clear_0 0 rfl rfl)
theorem dJ7_clear_1 : decode cJ7_clear 1 = .ok (.dup, 1) := dk_89 (dk_at dksJ7_clear_0 1 rfl rfl)
theorem dJ7_clear_2 : decode cJ7_clear 2 = .ok (.getfield 63, 3) := dk_180 0 63 (dk_at dksJ7_clear_0 2 rfl rfl)
theorem dJ7_clear_5 : decode cJ7_clear 5 = .ok (.iconst 1, 1) := dk_4 (dk_at dksJ7_clear_0 5 rfl rfl)
theorem dJ7_clear_6 : decode cJ7_clear 6 = .ok (.iadd, 1) := dk_96 (dk_at dksJ7_clear_0 6 rfl rfl)
theorem dJ7_clear_7 : decode cJ7_clear 7 = .ok (.putfield 63, 3) := dk_181 0 63 (dk_at dksJ7_clear_0 7 rfl rfl)
theorem dJ7_clear_10 : decode cJ7_clear 10 = .ok (.aload_n 0, 1) := dk_42 (dk_at dksJ7_clear_0 10 rfl rfl)
theorem dJ7_clear_11 : decode cJ7_clear 11 = .ok (.getfield 9, 3) := dk_180 0 9 (dk_at dksJ7_clear_0 11 rfl rfl)
theorem dJ7_clear_14 : decode cJ7_clear 14 = .ok (.astore_n 1, 1) := dk_76 (dk_at dksJ7_clear_0 14 rfl rfl)
theorem dJ7_clear_15 : decode cJ7_clear 15 = .ok (.aload_n 0, 1) := dk_42 (dk_at dksJ7_clear_0 15 rfl rfl)
theorem dJ7_clear_16 : decode cJ7_clear 16 = .ok (.getfield 48, 3) := dk_180 0 48 (dk_at dksJ7_clear_0 16 rfl rfl)
theorem dJ7_clear_19 : decode cJ7_clear 19 = .ok (.istore_n 2, 1) := dk_61 (dk_at dksJ7_clear_0 19 rfl rfl)
theorem dJ7_clear_20 : decode cJ7_clear 20 = .ok (.aload_n 0, 1) := dk_42 (dk_at dksJ7_clear_0 20 rfl rfl)
theorem dJ7_clear_21 : decode cJ7_clear 21 = .ok (.iconst 0, 1) := dk_3 (dk_at dksJ7_clear_0 21 rfl rfl)
theorem dJ7_clear_22 : decode cJ7_clear 22 = .ok (.dup_x1, 1) := dk_90 (dk_at dksJ7_clear_0 22 rfl rfl)
theorem dJ7_clear_23 : decode cJ7_clear 23 = .ok (.putfield 48, 3) := dk_181 0 48 (dk_at dksJ7_clear_1 0 rfl rfl)
theorem dJ7_clear_26 : decode cJ7_clear 26 = .ok (.istore_n 3, 1) := dk_62 (dk_at dksJ7_clear_1 3 rfl rfl)
theorem dJ7_clear_27 : decode cJ7_clear 27 = .ok (.iload_n 3, 1) := dk_29 (dk_at dksJ7_clear_1 4 rfl rfl)
theorem dJ7_clear_28 : decode cJ7_clear 28 = .ok (.iload_n 2, 1) := dk_28 (dk_at dksJ7_clear_1 5 rfl rfl)
theorem dJ7_clear_29 : decode cJ7_clear 29 = .ok (.if_icmp .ge 13, 3) := dk_162 0 13 (dk_at dksJ7_clear_1 6 rfl rfl)
theorem dJ7_clear_32 : decode cJ7_clear 32 = .ok (.aload_n 1, 1) := dk_43 (dk_at dksJ7_clear_1 9 rfl rfl)
theorem dJ7_clear_33 : decode cJ7_clear 33 = .ok (.iload_n 3, 1) := dk_29 (dk_at dksJ7_clear_1 10 rfl rfl)
theorem dJ7_clear_34 : decode cJ7_clear 34 = .ok (.aconst_null, 1) := dk_1 (dk_at dksJ7_clear_1 11 rfl rfl)
theorem dJ7_clear_35 : decode cJ7_clear 35 = .ok (.aastore, 1) := dk_83 (dk_at dksJ7_clear_1 12 rfl rfl)
theorem dJ7_clear_36 : decode cJ7_clear 36 = .ok (.iinc 3 1, 3) := dk_132 3 1 (dk_at dksJ7_clear_1 13 rfl rfl)
theorem dJ7_clear_39 : decode cJ7_clear 39 = .ok (.goto (-12), 3) := dk_167 255 244 (dk_at dksJ7_clear_1 16 rfl rfl)
theorem dJ7_clear_42 : decode cJ7_clear 42 = .ok (.return_, 1) := dk_177 (dk_at dksJ7_clear_1 19 rfl rfl)
abbrev rmX1_init (mc ms : Nat) : Room := { frames := 15, cells := mc, slots := ms, locals := 261 }
def wX1_initb0 (G : gE) (P : hSt → Prop) (PX : Nat → Nat → hSt → Prop)  (v0 : Option Nat) (z : hSt) : Prop :=
  (nnl v0 ∧ wX2_first G (fun x2 z1 => ptV G z1 v0 [0] 0 (va_rf x2) (fun z3 => nwO G z3 15 3 dfJ7 (fun x4 z5 => (nnl (some x4) ∧ wJ7_init G (fun z6 => ptV G z6 v0 [0] 2 (va_rf (some x4)) (fun z7 => nwO G z7 16 4 dfJ9 (fun x8 z9 => (nnl (some x8) ∧ wJ9_init G (fun z10 => ptV G z10 v0 [0] 3 (va_rf (some x8)) (fun z11 => ptV G z11 v0 [0] 4 (va_rf (some (gA G 0))) (fun z12 => P z12))) PX (some x8)  z9)))) PX (some x4)  z5)))) PX  z)
def wX1_init (G : gE) (P : hSt → Prop) (PX : Nat → Nat → hSt → Prop) (v0 : Option Nat) (z : hSt) : Prop := wX1_initb0 G P PX v0 z
section
variable {p : Program} {l : Launch} {e : Env} {s : State} {m : MethodId} {args : Array Value} {below : List Frame} {meth : Method} {c : Code} {G : gE} {mc ms : Nat} {P : hSt → Prop} {PX : Nat → Nat → hSt → Prop}
theorem kX1_initb0 (C : xC G p l s m args meth c cX1_init 1 "ExcuseLedger") (hr : meth.sig.returnType = (Option.none : Option Jvm.ClassFile.FieldType)) (hin : meth.name = "<init>") (hT : ∀ x ∈ c.exceptionTable.toList, False) (hmc : mc = gL G - s.heap.size ∧ ms = gU G - hsum s.heap)   {v0 : Option Nat} {z : hSt} (hw : wX1_initb0 G P PX  v0 z) : kt G p l e (rmX1_init mc ms) s m args below meth c 1 (vx_MQ below (cQ G (pV P)) (cX G PX) args s mc ms (gF G)) 0 [(0, va_rf v0)] [] z := by
  intro H locs ls hS hl
  refine r_aload_n C.1 C.2.1 dX1_init_0 rfl (lv_at hl 0 rfl) ?_
  refine r_objInit C hl.1 hw.1 q139 q140 q141 rfl dX1_init_1 (Nat.le_of_ble_eq_true rfl) (Nat.le_of_ble_eq_true rfl) ?_
  have hw := hw.2
  refine r_aload_n C.1 C.2.1 dX1_init_4 rfl (lv_at hl 0 rfl) ?_
  refine c_S C hS hmc hl.1 (kX2_first C.2.2.2.2.2.2.1) hw (lw_S q142 q143 q68 q144) hdX2_first ⟨Nat.le_of_ble_eq_true rfl, Nat.le_of_ble_eq_true rfl⟩ (rest := [va_rf v0]) rfl rfl (Nat.le_of_ble_eq_true rfl) dX1_init_5 (fun ci q z H locs hx hS ht => r_out C hS hmc (fun x hx => (hT x hx).elim) ht hx) (fun v z1 H locs hv hS => ?_)
  obtain ⟨x2, rfl, hw⟩ := hv
  refine r_put C hS fo_0_0 (fl_d C q389) (fun _ h => h) (narrow_rfO _ _) (fits_rfO _ _) dX1_init_8 hw (fun z3 H locs hw hS => ?_)
  refine r_aload_n C.1 C.2.1 dX1_init_11 rfl (lv_at hl 0 rfl) ?_
  refine r_new C hS (ci := 15) rfl in_J7 tyJ7_ok q329 q330 q78 rfl dfJ7_ok hmc dX1_init_12 hw (fun x4 z5 H locs hw hS => ?_)
  refine lv_dup C.1 C.2.1 dX1_init_15 (va_rf_cat _) ?_
  refine c_I C hS hmc hl.1 hw.1 (kJ7_init C.2.2.2.2.2.2.1) hw.2 (lw_meth q333) q78 q331 q332 rfl hdJ7_init ⟨Nat.le_of_ble_eq_true rfl, Nat.le_of_ble_eq_true rfl⟩ (rest := [va_rf (some x4), va_rf v0]) rfl rfl (Nat.le_of_ble_eq_true rfl) dX1_init_16 (fun ci q z H locs hx hS ht => r_out C hS hmc (fun x hx => (hT x hx).elim) ht hx) (fun v z6 H locs hv hS => ?_)
  obtain ⟨rfl, hw⟩ := hv
  refine r_putF C hS fo_0_2 (C.2.2.2.2.1 _ q391) (fun _ h => h) hin rfl (narrow_rfO _ _) (fits_rfO _ _) dX1_init_19 hw (fun z7 H locs hw hS => ?_)
  refine r_aload_n C.1 C.2.1 dX1_init_22 rfl (lv_at hl 0 rfl) ?_
  refine r_new C hS (ci := 16) rfl in_J9 tyJ9_ok q355 q356 q80 rfl dfJ9_ok hmc dX1_init_23 hw (fun x8 z9 H locs hw hS => ?_)
  refine lv_dup C.1 C.2.1 dX1_init_26 (va_rf_cat _) ?_
  refine c_I C hS hmc hl.1 hw.1 (kJ9_init C.2.2.2.2.2.2.1) hw.2 (lw_meth q359) q80 q357 q358 rfl hdJ9_init ⟨Nat.le_of_ble_eq_true rfl, Nat.le_of_ble_eq_true rfl⟩ (rest := [va_rf (some x8), va_rf v0]) rfl rfl (Nat.le_of_ble_eq_true rfl) dX1_init_27 (fun ci q z H locs hx hS ht => r_out C hS hmc (fun x hx => (hT x hx).elim) ht hx) (fun v z10 H locs hv hS => ?_)
  obtain ⟨rfl, hw⟩ := hv
  refine r_putF C hS fo_0_3 (C.2.2.2.2.1 _ q392) (fun _ h => h) hin rfl (narrow_rfO _ _) (fits_rfO _ _) dX1_init_30 hw (fun z11 H locs hw hS => ?_)
  refine r_aload_n C.1 C.2.1 dX1_init_33 rfl (lv_at hl 0 rfl) ?_
  refine r_ldcS C (k := 0) (tx := "") (by decide +kernel) dX1_init_34 ?_
  refine r_put C hS fo_0_4 (fl_d C q393) (fun _ h => h) (narrow_rfO _ _) (fits_rfO _ _) dX1_init_36 hw (fun z12 H locs hw hS => ?_)
  exact r_vret C hS hmc hr dX1_init_39 hw
end
theorem kX1_init {l : Launch} (hl : l.stackTraces = false) {G : gE} {P : hSt → Prop} {PX : Nat → Nat → hSt → Prop} {v0 : Option Nat} {z : hSt} : cM l G yX1_init (ws_ yX1_init cX1_init 1 (Option.none : Option Jvm.ClassFile.FieldType)) 15 261 z [va_rf v0] (wX1_init G P PX v0 z) (pV P) PX := by
  refine m_of hl (plainFor_of_name (by decide)) (by rw [lg_sl1 (va_rf_cat _)]; exact Nat.le_of_ble_eq_true rfl) ?_
  intro p e s m args below meth c C hr hin hT hmc hw
  rw [lv_args1 (va_rf_cat _)]
  intro H locs ls hS hl
  exact kX1_initb0 C hr hin hT hmc hw H locs ls hS (lv_sub hl [0] rfl)
theorem hdX1_init : yX1_init.cls ≠ "java/lang/invoke/MethodHandle" ∧ yX1_init.cls ≠ "java/lang/invoke/VarHandle" ∧ (parseMethodDescriptor yX1_init.desc).map (fun d => d.parameters.length) = some 0 := ⟨by decide +kernel, by decide +kernel, by decide +kernel⟩
abbrev rmJ7_fastRemove (mc ms : Nat) : Room := { frames := 10, cells := mc, slots := ms, locals := 160 }
def wJ7_fastRemoveb34 (G : gE) (P : hSt → Prop) (PX : Nat → Nat → hSt → Prop)  (v0 : Option Nat) (v1 : Option Nat) (v3 : Int32) (z : hSt) : Prop :=
  ptV G z v0 [15] 2 (.int v3) (fun z5 => asR G z5 v1 asLT v3 none (fun z6 => P z6))
def wJ7_fastRemoveb0 (G : gE) (P : hSt → Prop) (PX : Nat → Nat → hSt → Prop)  (v0 : Option Nat) (v1 : Option Nat) (v2 : Int32) (z : hSt) : Prop :=
  gtI z v0 [15] 0 (fun x1 => ptV G z v0 [15] 0 (.int (x1 + 1)) (fun z2 => gtI z2 v0 [15] 2 (fun x3 => (((x3 - 1) ≤ v2 → wJ7_fastRemoveb34 G P PX  v0 v1 (x3 - 1) z2) ∧ (¬ (x3 - 1) ≤ v2 → acA G z2 v1 (v2 + 1) v1 v2 ((x3 - 1) - v2) (fun z4 => wJ7_fastRemoveb34 G P PX  v0 v1 (x3 - 1) z4))))))
def wJ7_fastRemove (G : gE) (P : hSt → Prop) (PX : Nat → Nat → hSt → Prop) (v0 : Option Nat) (v1 : Option Nat) (v2 : Int32) (z : hSt) : Prop := wJ7_fastRemoveb0 G P PX v0 v1 v2 z
section
variable {p : Program} {l : Launch} {e : Env} {s : State} {m : MethodId} {args : Array Value} {below : List Frame} {meth : Method} {c : Code} {G : gE} {mc ms : Nat} {P : hSt → Prop} {PX : Nat → Nat → hSt → Prop}
theorem kJ7_fastRemoveb34 (C : xC G p l s m args meth c cJ7_fastRemove 4 "java/util/ArrayList") (hr : meth.sig.returnType = (Option.none : Option Jvm.ClassFile.FieldType)) (hin : meth.name = "fastRemove") (hT : ∀ x ∈ c.exceptionTable.toList, False) (hmc : mc = gL G - s.heap.size ∧ ms = gU G - hsum s.heap)   {v0 : Option Nat} {v1 : Option Nat} {v3 : Int32} {z : hSt} (hw : wJ7_fastRemoveb34 G P PX  v0 v1 v3 z) : kt G p l e (rmJ7_fastRemove mc ms) s m args below meth c 4 (vx_MQ below (cQ G (pV P)) (cX G PX) args s mc ms (gF G)) 34 [(0, va_rf v0), (1, va_rf v1), (3, .int v3)] [] z := by
  intro H locs ls hS hl
  refine r_aload_n C.1 C.2.1 dJ7_fastRemove_34 rfl (lv_at hl 1 rfl) ?_
  refine r_aload_n C.1 C.2.1 dJ7_fastRemove_35 rfl (lv_at hl 0 rfl) ?_
  refine lv_iload_n C.1 C.2.1 dJ7_fastRemove_36 rfl (lv_at hl 2 rfl) ?_
  refine lv_dup_x1 C.1 C.2.1 dJ7_fastRemove_37 rfl (va_rf_cat _) ?_
  refine r_put C hS fo_15_2 (fl_d C q343) (fun _ h => h) rfl rfl dJ7_fastRemove_38 hw (fun z5 H locs hw hS => ?_)
  refine r_null C dJ7_fastRemove_41 ?_
  refine r_aast C hS asLT_ok dJ7_fastRemove_42 hw (fun z6 H locs hw hS => ?_)
  exact r_vret C hS hmc hr dJ7_fastRemove_43 hw
theorem kJ7_fastRemoveb0 (C : xC G p l s m args meth c cJ7_fastRemove 4 "java/util/ArrayList") (hr : meth.sig.returnType = (Option.none : Option Jvm.ClassFile.FieldType)) (hin : meth.name = "fastRemove") (hT : ∀ x ∈ c.exceptionTable.toList, False) (hmc : mc = gL G - s.heap.size ∧ ms = gU G - hsum s.heap)   {v0 : Option Nat} {v1 : Option Nat} {v2 : Int32} {z : hSt} (hw : wJ7_fastRemoveb0 G P PX  v0 v1 v2 z) : kt G p l e (rmJ7_fastRemove mc ms) s m args below meth c 4 (vx_MQ below (cQ G (pV P)) (cX G PX) args s mc ms (gF G)) 0 [(0, va_rf v0), (1, va_rf v1), (2, .int v2)] [] z := by
  intro H locs ls hS hl
  refine r_aload_n C.1 C.2.1 dJ7_fastRemove_0 rfl (lv_at hl 0 rfl) ?_
  refine lv_dup C.1 C.2.1 dJ7_fastRemove_1 (va_rf_cat _) ?_
  refine r_getI C hS fo_15_0 (fl_d C q347) (sf_w C q346) dJ7_fastRemove_2 hw (fun x1 hw => ?_)
  refine lv_iconst C.1 C.2.1 (v := 1) dJ7_fastRemove_5 rfl ?_
  refine lv_iadd C.1 C.2.1 dJ7_fastRemove_6 ?_
  refine r_put C hS fo_15_0 (fl_d C q347) (sf_w C q346) rfl rfl dJ7_fastRemove_7 hw (fun z2 H locs hw hS => ?_)
  refine r_aload_n C.1 C.2.1 dJ7_fastRemove_10 rfl (lv_at hl 0 rfl) ?_
  refine r_getI C hS fo_15_2 (fl_d C q343) (fun _ h => h) dJ7_fastRemove_11 hw (fun x3 hw => ?_)
  refine lv_iconst C.1 C.2.1 (v := 1) dJ7_fastRemove_14 rfl ?_
  refine lv_isub C.1 C.2.1 dJ7_fastRemove_15 ?_
  refine lv_dup C.1 C.2.1 dJ7_fastRemove_16 rfl ?_
  refine r_istore_n C.1 C.2.1 dJ7_fastRemove_17 rfl hl (Nat.le_of_ble_eq_true rfl) (ls_new (ls_old 0 rfl rfl (.inl rfl) (ls_old 1 rfl rfl (.inl rfl) (ls_old 2 rfl rfl (.inr rfl) ls_nil)))) (fun ls hl => ?_)
  refine lv_iload_n C.1 C.2.1 dJ7_fastRemove_18 rfl (lv_at hl 3 rfl) ?_
  refine lv_icmp_le C.1 C.2.1 dJ7_fastRemove_19 rfl (fun h => ?_) (fun h => ?_)
  · have hw := hw.1 h
    exact kJ7_fastRemoveb34 C hr hin hT hmc  hw H locs ls hS (lv_sub hl [1, 2, 0] rfl)
  · have hw := hw.2 h
    refine r_aload_n C.1 C.2.1 dJ7_fastRemove_22 rfl (lv_at hl 2 rfl) ?_
    refine lv_iload_n C.1 C.2.1 dJ7_fastRemove_23 rfl (lv_at hl 3 rfl) ?_
    refine lv_iconst C.1 C.2.1 (v := 1) dJ7_fastRemove_24 rfl ?_
    refine lv_iadd C.1 C.2.1 dJ7_fastRemove_25 ?_
    refine r_aload_n C.1 C.2.1 dJ7_fastRemove_26 rfl (lv_at hl 2 rfl) ?_
    refine lv_iload_n C.1 C.2.1 dJ7_fastRemove_27 rfl (lv_at hl 3 rfl) ?_
    refine lv_iload_n C.1 C.2.1 dJ7_fastRemove_28 rfl (lv_at hl 0 rfl) ?_
    refine lv_iload_n C.1 C.2.1 dJ7_fastRemove_29 rfl (lv_at hl 3 rfl) ?_
    refine lv_isub C.1 C.2.1 dJ7_fastRemove_30 ?_
    refine r_acA C hS hl.1 q2254 q1054 q1053 q111 acL_ok (Nat.le_of_ble_eq_true rfl) (Nat.le_of_ble_eq_true rfl) (Nat.le_of_ble_eq_true rfl) dJ7_fastRemove_31 hw (fun z4 H locs hw hS => ?_)
    exact kJ7_fastRemoveb34 C hr hin hT hmc  hw H locs ls hS (lv_sub hl [1, 2, 0] rfl)
end
theorem kJ7_fastRemove {l : Launch} (hl : l.stackTraces = false) {G : gE} {P : hSt → Prop} {PX : Nat → Nat → hSt → Prop} {v0 : Option Nat} {v1 : Option Nat} {v2 : Int32} {z : hSt} : cM l G yJ7_fastRemove (ws_ yJ7_fastRemove cJ7_fastRemove 4 (Option.none : Option Jvm.ClassFile.FieldType)) 10 160 z [va_rf v0, va_rf v1, .int v2] (wJ7_fastRemove G P PX v0 v1 v2 z) (pV P) PX := by
  refine m_of hl (plainFor_of_name (by decide)) (by rw [lg_sl1 (va_rf_cat _), lg_sl1 (va_rf_cat _), lg_sl1 rfl]; exact Nat.le_of_ble_eq_true rfl) ?_
  intro p e s m args below meth c C hr hin hT hmc hw
  rw [lv_args1 (va_rf_cat _), lv_args1 (va_rf_cat _), lv_args1 rfl]
  intro H locs ls hS hl
  exact kJ7_fastRemoveb0 C hr hin hT hmc hw H locs ls hS (lv_sub hl [0, 1, 2] rfl)
theorem hdJ7_fastRemove : yJ7_fastRemove.cls ≠ "java/lang/invoke/MethodHandle" ∧ yJ7_fastRemove.cls ≠ "java/lang/invoke/VarHandle" ∧ (parseMethodDescriptor yJ7_fastRemove.desc).map (fun d => d.parameters.length) = some 2 := ⟨by decide +kernel, by decide +kernel, by decide +kernel⟩
abbrev rmJ7_remove (mc ms : Nat) : Room := { frames := 12, cells := mc, slots := ms, locals := 203 }
def wJ7_removeb0 (G : gE) (P : Option Nat → hSt → Prop) (PX : Nat → Nat → hSt → Prop)  (v0 : Option Nat) (v1 : Int32) (z : hSt) : Prop :=
  gtI z v0 [15] 2 (fun x1 => wJ47_checkIndex G (fun x3 z2 => gtR z2 v0 [15] 1 (fun x4 => alR z2 x4 arL v1 (fun x5 => (rcv z2 v0 15 ∧ wJ7_fastRemove G (fun z6 => P x5 z6) PX v0 x4 v1 z2)))) PX v1 x1 z)
def wJ7_remove (G : gE) (P : Option Nat → hSt → Prop) (PX : Nat → Nat → hSt → Prop) (v0 : Option Nat) (v1 : Int32) (z : hSt) : Prop := wJ7_removeb0 G P PX v0 v1 z
section
variable {p : Program} {l : Launch} {e : Env} {s : State} {m : MethodId} {args : Array Value} {below : List Frame} {meth : Method} {c : Code} {G : gE} {mc ms : Nat} {P : Option Nat → hSt → Prop} {PX : Nat → Nat → hSt → Prop}
theorem kJ7_removeb0 (C : xC G p l s m args meth c cJ7_remove 4 "java/util/ArrayList") (hr : meth.sig.returnType = (Option.some (Jvm.ClassFile.FieldType.object "java/lang/Object"))) (hin : meth.name = "remove") (hT : ∀ x ∈ c.exceptionTable.toList, False) (hmc : mc = gL G - s.heap.size ∧ ms = gU G - hsum s.heap)   {v0 : Option Nat} {v1 : Int32} {z : hSt} (hw : wJ7_removeb0 G P PX  v0 v1 z) : kt G p l e (rmJ7_remove mc ms) s m args below meth c 4 (vx_MQ below (cQ G (pR P)) (cX G PX) args s mc ms (gF G)) 0 [(0, va_rf v0), (1, .int v1)] [] z := by
  intro H locs ls hS hl
  refine lv_iload_n C.1 C.2.1 dJ7_remove_0 rfl (lv_at hl 1 rfl) ?_
  refine r_aload_n C.1 C.2.1 dJ7_remove_1 rfl (lv_at hl 0 rfl) ?_
  refine r_getI C hS fo_15_2 (fl_d C q343) (fun _ h => h) dJ7_remove_2 hw (fun x1 hw => ?_)
  refine c_S C hS hmc hl.1 (kJ47_checkIndex C.2.2.2.2.2.2.1) hw (lw_S q2244 q2245 q128 q2246) hdJ47_checkIndex ⟨Nat.le_of_ble_eq_true rfl, Nat.le_of_ble_eq_true rfl⟩ (rest := []) rfl rfl (Nat.le_of_ble_eq_true rfl) dJ7_remove_5 (fun ci q z H locs hx hS ht => r_out C hS hmc (fun x hx => (hT x hx).elim) ht hx) (fun v z2 H locs hv hS => ?_)
  obtain ⟨x3, rfl, hw⟩ := hv
  refine lv_pop C.1 C.2.1 dJ7_remove_8 rfl ?_
  refine r_aload_n C.1 C.2.1 dJ7_remove_9 rfl (lv_at hl 0 rfl) ?_
  refine r_getR C hS fo_15_1 (fl_d C q340) (fun _ h => h) dJ7_remove_10 hw (fun x4 hw => ?_)
  refine r_astore_n C.1 C.2.1 dJ7_remove_13 rfl hl (Nat.le_of_ble_eq_true rfl) (ls_new (ls_old 0 rfl rfl (.inl rfl) (ls_old 1 rfl rfl (.inr rfl) ls_nil))) (fun ls hl => ?_)
  refine r_aload_n C.1 C.2.1 dJ7_remove_14 rfl (lv_at hl 0 rfl) ?_
  refine lv_iload_n C.1 C.2.1 dJ7_remove_15 rfl (lv_at hl 2 rfl) ?_
  refine r_aald C hS arL_ok dJ7_remove_16 hw (fun x5 hw => ?_)
  refine r_astore_n C.1 C.2.1 dJ7_remove_17 rfl hl (Nat.le_of_ble_eq_true rfl) (ls_new (ls_old 0 rfl rfl (.inr (va_rf_cat _)) (ls_old 1 rfl rfl (.inl rfl) (ls_old 2 rfl rfl (.inl rfl) ls_nil)))) (fun ls hl => ?_)
  refine r_aload_n C.1 C.2.1 dJ7_remove_18 rfl (lv_at hl 2 rfl) ?_
  refine r_aload_n C.1 C.2.1 dJ7_remove_19 rfl (lv_at hl 1 rfl) ?_
  refine lv_iload_n C.1 C.2.1 dJ7_remove_20 rfl (lv_at hl 3 rfl) ?_
  refine c_V C hS hmc hl.1 (ci := 15) rfl hw.1 (kJ7_fastRemove C.2.2.2.2.2.2.1) hw.2 (lw_V q2250 q2252 qs12 q78 q2253) ⟨rfl, hdJ7_fastRemove⟩ ⟨Nat.le_of_ble_eq_true rfl, Nat.le_of_ble_eq_true rfl⟩ (rest := []) rfl rfl (Nat.le_of_ble_eq_true rfl) dJ7_remove_21 (fun ci q z H locs hx hS ht => r_out C hS hmc (fun x hx => (hT x hx).elim) ht hx) (fun v z6 H locs hv hS => ?_)
  obtain ⟨rfl, hw⟩ := hv
  refine r_aload_n C.1 C.2.1 dJ7_remove_24 rfl (lv_at hl 0 rfl) ?_
  exact r_aret C hS hmc hr (Or.inl ⟨_, rfl⟩) dJ7_remove_25 hw
end
theorem kJ7_remove {l : Launch} (hl : l.stackTraces = false) {G : gE} {P : Option Nat → hSt → Prop} {PX : Nat → Nat → hSt → Prop} {v0 : Option Nat} {v1 : Int32} {z : hSt} : cM l G yJ7_remove (ws_ yJ7_remove cJ7_remove 4 (Option.some (Jvm.ClassFile.FieldType.object "java/lang/Object"))) 12 203 z [va_rf v0, .int v1] (wJ7_remove G P PX v0 v1 z) (pR P) PX := by
  refine m_of hl (plainFor_of_name (by decide)) (by rw [lg_sl1 (va_rf_cat _), lg_sl1 rfl]; exact Nat.le_of_ble_eq_true rfl) ?_
  intro p e s m args below meth c C hr hin hT hmc hw
  rw [lv_args1 (va_rf_cat _), lv_args1 rfl]
  intro H locs ls hS hl
  exact kJ7_removeb0 C hr hin hT hmc hw H locs ls hS (lv_sub hl [0, 1] rfl)
theorem hdJ7_remove : yJ7_remove.cls ≠ "java/lang/invoke/MethodHandle" ∧ yJ7_remove.cls ≠ "java/lang/invoke/VarHandle" ∧ (parseMethodDescriptor yJ7_remove.desc).map (fun d => d.parameters.length) = some 1 := ⟨by decide +kernel, by decide +kernel, by decide +kernel⟩
abbrev rmX1_become (mc ms : Nat) : Room := { frames := 16, cells := mc, slots := ms, locals := 291 }
def wX1_becomeb21 (G : gE) (P : Int32 → hSt → Prop) (PX : Nat → Nat → hSt → Prop)  (v0 : Option Nat) (v1 : Option Nat) (v2 : Int32) (z : hSt) : Prop :=
  gtR z v0 [0] 2 (fun x7 => gtR z v0 [0] 0 (fun x8 => (rcv z x7 15 ∧ wJ7_add G (fun x10 z9 => ptV G z9 v0 [0] 0 (va_rf v1) (fun z11 => P v2 z11)) PX x7 x8 z)))
def wX1_becomeb0 (G : gE) (P : Int32 → hSt → Prop) (PX : Nat → Nat → hSt → Prop)  (v0 : Option Nat) (v1 : Option Nat) (v2 : Int32) (z : hSt) : Prop :=
  gtR z v0 [0] 2 (fun x1 => (rcv z x1 15 ∧ wJ7_size G (fun x3 z2 => ((¬ x3 = 6 → wX1_becomeb21 G P PX  v0 v1 v2 z2) ∧ (x3 = 6 → gtR z2 v0 [0] 2 (fun x4 => (rcv z2 x4 15 ∧ wJ7_remove G (fun x6 z5 => wX1_becomeb21 G P PX  v0 v1 v2 z5) PX x4 0 z2))))) PX x1  z))
def wX1_become (G : gE) (P : Int32 → hSt → Prop) (PX : Nat → Nat → hSt → Prop) (v0 : Option Nat) (v1 : Option Nat) (v2 : Int32) (z : hSt) : Prop := wX1_becomeb0 G P PX v0 v1 v2 z
section
variable {p : Program} {l : Launch} {e : Env} {s : State} {m : MethodId} {args : Array Value} {below : List Frame} {meth : Method} {c : Code} {G : gE} {mc ms : Nat} {P : Int32 → hSt → Prop} {PX : Nat → Nat → hSt → Prop}
theorem kX1_becomeb21 (C : xC G p l s m args meth c cX1_become 3 "ExcuseLedger") (hr : meth.sig.returnType = (Option.some Jvm.ClassFile.FieldType.int)) (hin : meth.name = "become") (hT : ∀ x ∈ c.exceptionTable.toList, False) (hmc : mc = gL G - s.heap.size ∧ ms = gU G - hsum s.heap)   {v0 : Option Nat} {v1 : Option Nat} {v2 : Int32} {z : hSt} (hw : wX1_becomeb21 G P PX  v0 v1 v2 z) : kt G p l e (rmX1_become mc ms) s m args below meth c 3 (vx_MQ below (cQ G (pI P)) (cX G PX) args s mc ms (gF G)) 21 [(0, va_rf v0), (1, va_rf v1), (2, .int v2)] [] z := by
  intro H locs ls hS hl
  refine r_aload_n C.1 C.2.1 dX1_become_21 rfl (lv_at hl 0 rfl) ?_
  refine r_getR C hS fo_0_2 (fl_d C q391) (fun _ h => h) dX1_become_22 hw (fun x7 hw => ?_)
  refine r_aload_n C.1 C.2.1 dX1_become_25 rfl (lv_at hl 0 rfl) ?_
  refine r_getR C hS fo_0_0 (fl_d C q389) (fun _ h => h) dX1_become_26 hw (fun x8 hw => ?_)
  refine c_V C hS hmc hl.1 (ci := 15) rfl hw.1 (kJ7_add C.2.2.2.2.2.2.1) hw.2 (lw_V q2255 q1902 q3540 q78 q1903) ⟨rfl, hdJ7_add⟩ ⟨Nat.le_of_ble_eq_true rfl, Nat.le_of_ble_eq_true rfl⟩ (rest := []) rfl rfl (Nat.le_of_ble_eq_true rfl) dX1_become_29 (fun ci q z H locs hx hS ht => r_out C hS hmc (fun x hx => (hT x hx).elim) ht hx) (fun v z9 H locs hv hS => ?_)
  obtain ⟨x10, rfl, hw⟩ := hv
  refine lv_pop C.1 C.2.1 dX1_become_32 rfl ?_
  refine r_aload_n C.1 C.2.1 dX1_become_33 rfl (lv_at hl 0 rfl) ?_
  refine r_aload_n C.1 C.2.1 dX1_become_34 rfl (lv_at hl 1 rfl) ?_
  refine r_put C hS fo_0_0 (fl_d C q389) (fun _ h => h) (narrow_rfO _ _) (fits_rfO _ _) dX1_become_35 hw (fun z11 H locs hw hS => ?_)
  refine lv_iload_n C.1 C.2.1 dX1_become_38 rfl (lv_at hl 2 rfl) ?_
  exact r_iret C hS hmc hr dX1_become_39 hw
theorem kX1_becomeb0 (C : xC G p l s m args meth c cX1_become 3 "ExcuseLedger") (hr : meth.sig.returnType = (Option.some Jvm.ClassFile.FieldType.int)) (hin : meth.name = "become") (hT : ∀ x ∈ c.exceptionTable.toList, False) (hmc : mc = gL G - s.heap.size ∧ ms = gU G - hsum s.heap)   {v0 : Option Nat} {v1 : Option Nat} {v2 : Int32} {z : hSt} (hw : wX1_becomeb0 G P PX  v0 v1 v2 z) : kt G p l e (rmX1_become mc ms) s m args below meth c 3 (vx_MQ below (cQ G (pI P)) (cX G PX) args s mc ms (gF G)) 0 [(0, va_rf v0), (1, va_rf v1), (2, .int v2)] [] z := by
  intro H locs ls hS hl
  refine r_aload_n C.1 C.2.1 dX1_become_0 rfl (lv_at hl 0 rfl) ?_
  refine r_getR C hS fo_0_2 (fl_d C q391) (fun _ h => h) dX1_become_1 hw (fun x1 hw => ?_)
  refine c_V C hS hmc hl.1 (ci := 15) rfl hw.1 (kJ7_size C.2.2.2.2.2.2.1) hw.2 (lw_V q2236 q2237 q2238 q78 q2239) ⟨rfl, hdJ7_size⟩ ⟨Nat.le_of_ble_eq_true rfl, Nat.le_of_ble_eq_true rfl⟩ (rest := []) rfl rfl (Nat.le_of_ble_eq_true rfl) dX1_become_4 (fun ci q z H locs hx hS ht => r_out C hS hmc (fun x hx => (hT x hx).elim) ht hx) (fun v z2 H locs hv hS => ?_)
  obtain ⟨x3, rfl, hw⟩ := hv
  refine lv_bipush C.1 C.2.1 (v := 6) dX1_become_7 rfl ?_
  refine lv_icmp_ne C.1 C.2.1 dX1_become_9 rfl (fun h => ?_) (fun h => ?_)
  · have hw := hw.1 h
    exact kX1_becomeb21 C hr hin hT hmc  hw H locs ls hS (lv_sub hl [0, 1, 2] rfl)
  · have hw := hw.2 h
    refine r_aload_n C.1 C.2.1 dX1_become_12 rfl (lv_at hl 0 rfl) ?_
    refine r_getR C hS fo_0_2 (fl_d C q391) (fun _ h => h) dX1_become_13 hw (fun x4 hw => ?_)
    refine lv_iconst C.1 C.2.1 (v := 0) dX1_become_16 rfl ?_
    refine c_V C hS hmc hl.1 (ci := 15) rfl hw.1 (kJ7_remove C.2.2.2.2.2.2.1) hw.2 (lw_V q2240 q2241 q2242 q78 q2243) ⟨rfl, hdJ7_remove⟩ ⟨Nat.le_of_ble_eq_true rfl, Nat.le_of_ble_eq_true rfl⟩ (rest := []) rfl rfl (Nat.le_of_ble_eq_true rfl) dX1_become_17 (fun ci q z H locs hx hS ht => r_out C hS hmc (fun x hx => (hT x hx).elim) ht hx) (fun v z5 H locs hv hS => ?_)
    obtain ⟨x6, rfl, hw⟩ := hv
    refine lv_pop C.1 C.2.1 dX1_become_20 (va_rf_cat _) ?_
    exact kX1_becomeb21 C hr hin hT hmc  hw H locs ls hS (lv_sub hl [0, 1, 2] rfl)
end
theorem kX1_become {l : Launch} (hl : l.stackTraces = false) {G : gE} {P : Int32 → hSt → Prop} {PX : Nat → Nat → hSt → Prop} {v0 : Option Nat} {v1 : Option Nat} {v2 : Int32} {z : hSt} : cM l G yX1_become (ws_ yX1_become cX1_become 3 (Option.some Jvm.ClassFile.FieldType.int)) 16 291 z [va_rf v0, va_rf v1, .int v2] (wX1_become G P PX v0 v1 v2 z) (pI P) PX := by
  refine m_of hl (plainFor_of_name (by decide)) (by rw [lg_sl1 (va_rf_cat _), lg_sl1 (va_rf_cat _), lg_sl1 rfl]; exact Nat.le_of_ble_eq_true rfl) ?_
  intro p e s m args below meth c C hr hin hT hmc hw
  rw [lv_args1 (va_rf_cat _), lv_args1 (va_rf_cat _), lv_args1 rfl]
  intro H locs ls hS hl
  exact kX1_becomeb0 C hr hin hT hmc hw H locs ls hS (lv_sub hl [0, 1, 2] rfl)
theorem hdX1_become : yX1_become.cls ≠ "java/lang/invoke/MethodHandle" ∧ yX1_become.cls ≠ "java/lang/invoke/VarHandle" ∧ (parseMethodDescriptor yX1_become.desc).map (fun d => d.parameters.length) = some 2 := ⟨by decide +kernel, by decide +kernel, by decide +kernel⟩
abbrev rmX1_kept (mc ms : Nat) : Room := { frames := 10, cells := mc, slots := ms, locals := 160 }
def wX1_keptb0 (G : gE) (P : Option Nat → hSt → Prop) (PX : Nat → Nat → hSt → Prop)  (v0 : Option Nat) (v1 : Option Nat) (z : hSt) : Prop :=
  ptV G z v0 [0] 6 (va_rf v1) (fun z1 => mkE G z1 30 (fun x2 z3 => P (some x2) z3))
def wX1_kept (G : gE) (P : Option Nat → hSt → Prop) (PX : Nat → Nat → hSt → Prop) (v0 : Option Nat) (v1 : Option Nat) (z : hSt) : Prop := wX1_keptb0 G P PX v0 v1 z
section
variable {p : Program} {l : Launch} {e : Env} {s : State} {m : MethodId} {args : Array Value} {below : List Frame} {meth : Method} {c : Code} {G : gE} {mc ms : Nat} {P : Option Nat → hSt → Prop} {PX : Nat → Nat → hSt → Prop}
theorem kX1_keptb0 (C : xC G p l s m args meth c cX1_kept 2 "ExcuseLedger") (hr : meth.sig.returnType = (Option.some (Jvm.ClassFile.FieldType.object "java/lang/UnsupportedOperationException"))) (hin : meth.name = "kept") (hT : ∀ x ∈ c.exceptionTable.toList, False) (hmc : mc = gL G - s.heap.size ∧ ms = gU G - hsum s.heap)   {v0 : Option Nat} {v1 : Option Nat} {z : hSt} (hw : wX1_keptb0 G P PX  v0 v1 z) : kt G p l e (rmX1_kept mc ms) s m args below meth c 2 (vx_MQ below (cQ G (pR P)) (cX G PX) args s mc ms (gF G)) 0 [(0, va_rf v0), (1, va_rf v1)] [] z := by
  intro H locs ls hS hl
  refine r_aload_n C.1 C.2.1 dX1_kept_0 rfl (lv_at hl 0 rfl) ?_
  refine r_aload_n C.1 C.2.1 dX1_kept_1 rfl (lv_at hl 1 rfl) ?_
  refine r_put C hS fo_0_6 (fl_d C q395) (fun _ h => h) (narrow_rfO _ _) (fits_rfO _ _) dX1_kept_2 hw (fun z1 H locs hw hS => ?_)
  refine r_make C hS hl.1 (ci := 30) (cls := "java/lang/UnsupportedOperationException") (names := ["java/lang/RuntimeException", "java/lang/Exception"]) rfl (by decide +kernel) (by decide +kernel) q2260 q123 xa30_90 xa30_90g hmc dX1_kept_5 dX1_kept_8 dX1_kept_9 (Nat.le_of_ble_eq_true rfl) (Nat.le_of_ble_eq_true rfl) (Nat.le_of_ble_eq_true rfl) hw (fun x2 z3 H locs hw hS => ?_)
  exact r_aret C hS hmc hr (Or.inl ⟨_, rfl⟩) dX1_kept_12 hw
end
theorem kX1_kept {l : Launch} (hl : l.stackTraces = false) {G : gE} {P : Option Nat → hSt → Prop} {PX : Nat → Nat → hSt → Prop} {v0 : Option Nat} {v1 : Option Nat} {z : hSt} : cM l G yX1_kept (ws_ yX1_kept cX1_kept 2 (Option.some (Jvm.ClassFile.FieldType.object "java/lang/UnsupportedOperationException"))) 10 160 z [va_rf v0, va_rf v1] (wX1_kept G P PX v0 v1 z) (pR P) PX := by
  refine m_of hl (plainFor_of_name (by decide)) (by rw [lg_sl1 (va_rf_cat _), lg_sl1 (va_rf_cat _)]; exact Nat.le_of_ble_eq_true rfl) ?_
  intro p e s m args below meth c C hr hin hT hmc hw
  rw [lv_args1 (va_rf_cat _), lv_args1 (va_rf_cat _)]
  intro H locs ls hS hl
  exact kX1_keptb0 C hr hin hT hmc hw H locs ls hS (lv_sub hl [0, 1] rfl)
theorem hdX1_kept : yX1_kept.cls ≠ "java/lang/invoke/MethodHandle" ∧ yX1_kept.cls ≠ "java/lang/invoke/VarHandle" ∧ (parseMethodDescriptor yX1_kept.desc).map (fun d => d.parameters.length) = some 1 := ⟨by decide +kernel, by decide +kernel, by decide +kernel⟩
abbrev rmX1_does (mc ms : Nat) : Room := { frames := 19, cells := mc, slots := ms, locals := 1407 }
def wX1_doesb21 (G : gE) (P : Int32 → hSt → Prop) (PX : Nat → Nat → hSt → Prop)  (v0 : Option Nat) (s0 : Option Nat) (z : hSt) : Prop :=
  (rcv z v0 0 ∧ wX1_kept G (fun x15 z14 => (rcv z14 x15 30 ∧ ∀ q, x15 = some q → PX 30 q z14)) PX v0 s0 z)
def wX1_doesb0 (G : gE) (P : Int32 → hSt → Prop) (PX : Nat → Nat → hSt → Prop)  (v0 : Option Nat) (v1 : Option Nat) (z : hSt) : Prop :=
  gtR z v0 [0] 0 (fun x1 => (rcv z x1 1 ∧ wX2_copy G (fun x3 z2 => (rcv z2 v1 6 ∧ wX7_in G (fun x8 z7 => (rcv z7 v0 0 ∧ wX1_become G (fun x13 z12 => P x13 z12) (fun c11 e10 z9 => (c11 = 8 ∧ wX1_doesb21 G P PX  v0 (some e10) z9) ∨ (c11 ∈ ([11, 28, 29, 30, 31, 32, 33] : List Nat) ∧ PX c11 e10 z9)) v0 x3 x8 z7)) (fun c6 e5 z4 => (c6 = 8 ∧ wX1_doesb21 G P PX  v0 (some e5) z4) ∨ (c6 ∈ ([11, 28, 29, 30, 31, 32, 33] : List Nat) ∧ PX c6 e5 z4)) v1 x3 z2)) PX x1  z))
def wX1_does (G : gE) (P : Int32 → hSt → Prop) (PX : Nat → Nat → hSt → Prop) (v0 : Option Nat) (v1 : Option Nat) (z : hSt) : Prop := wX1_doesb0 G P PX v0 v1 z
section
variable {p : Program} {l : Launch} {e : Env} {s : State} {m : MethodId} {args : Array Value} {below : List Frame} {meth : Method} {c : Code} {G : gE} {mc ms : Nat} {P : Int32 → hSt → Prop} {PX : Nat → Nat → hSt → Prop}
theorem kX1_doesb21 (C : xC G p l s m args meth c cX1_does 4 "ExcuseLedger") (hr : meth.sig.returnType = (Option.some Jvm.ClassFile.FieldType.int)) (hin : meth.name = "does") (hT : c.exceptionTable.toList = tableOf [((8 : Nat), (20 : Nat), (21 : Nat), (29 : Nat))]) (hmc : mc = gL G - s.heap.size ∧ ms = gU G - hsum s.heap)   {v0 : Option Nat} {s0 : Option Nat} {z : hSt} (hw : wX1_doesb21 G P PX  v0 s0 z) : kt G p l e (rmX1_does mc ms) s m args below meth c 4 (vx_MQ below (cQ G (pI P)) (cX G PX) args s mc ms (gF G)) 21 [(0, va_rf v0)] [va_rf s0] z := by
  intro H locs ls hS hl
  refine r_astore_n C.1 C.2.1 dX1_does_21 rfl hl (Nat.le_of_ble_eq_true rfl) (ls_new (ls_old 0 rfl rfl (.inl rfl) ls_nil)) (fun ls hl => ?_)
  refine r_aload_n C.1 C.2.1 dX1_does_22 rfl (lv_at hl 1 rfl) ?_
  refine r_aload_n C.1 C.2.1 dX1_does_23 rfl (lv_at hl 0 rfl) ?_
  refine c_V C hS hmc hl.1 (ci := 0) rfl hw.1 (kX1_kept C.2.2.2.2.2.2.1) hw.2 (lw_V q2256 q2258 qs13 q67 q2259) ⟨rfl, hdX1_kept⟩ ⟨Nat.le_of_ble_eq_true rfl, Nat.le_of_ble_eq_true rfl⟩ (rest := []) rfl rfl (Nat.le_of_ble_eq_true rfl) dX1_does_24 (fun ci q z H locs hx hS ht => r_out C hS hmc (by rw [hT]; decide) ht hx) (fun v z14 H locs hv hS => ?_)
  obtain ⟨x15, rfl, hw⟩ := hv
  exact r_athrow C hS (by decide) dX1_does_27 hw.1 (fun q hq ht => r_out C hS hmc (by rw [hT]; decide) ht (hw.2 q hq))
theorem kX1_doesb0 (C : xC G p l s m args meth c cX1_does 4 "ExcuseLedger") (hr : meth.sig.returnType = (Option.some Jvm.ClassFile.FieldType.int)) (hin : meth.name = "does") (hT : c.exceptionTable.toList = tableOf [((8 : Nat), (20 : Nat), (21 : Nat), (29 : Nat))]) (hmc : mc = gL G - s.heap.size ∧ ms = gU G - hsum s.heap)   {v0 : Option Nat} {v1 : Option Nat} {z : hSt} (hw : wX1_doesb0 G P PX  v0 v1 z) : kt G p l e (rmX1_does mc ms) s m args below meth c 4 (vx_MQ below (cQ G (pI P)) (cX G PX) args s mc ms (gF G)) 0 [(0, va_rf v0), (1, va_rf v1)] [] z := by
  intro H locs ls hS hl
  refine r_aload_n C.1 C.2.1 dX1_does_0 rfl (lv_at hl 0 rfl) ?_
  refine r_getR C hS fo_0_0 (fl_d C q389) (fun _ h => h) dX1_does_1 hw (fun x1 hw => ?_)
  refine c_V C hS hmc hl.1 (ci := 1) rfl hw.1 (kX2_copy C.2.2.2.2.2.2.1) hw.2 (lw_V q443 q444 q445 q68 q446) ⟨rfl, hdX2_copy⟩ ⟨Nat.le_of_ble_eq_true rfl, Nat.le_of_ble_eq_true rfl⟩ (rest := []) rfl rfl (Nat.le_of_ble_eq_true rfl) dX1_does_4 (fun ci q z H locs hx hS ht => r_out C hS hmc (by rw [hT]; decide) ht hx) (fun v z2 H locs hv hS => ?_)
  obtain ⟨x3, rfl, hw⟩ := hv
  refine r_astore_n C.1 C.2.1 dX1_does_7 rfl hl (Nat.le_of_ble_eq_true rfl) (ls_new (ls_old 0 rfl rfl (.inl rfl) (ls_old 1 rfl rfl (.inr (va_rf_cat _)) ls_nil))) (fun ls hl => ?_)
  refine r_aload_n C.1 C.2.1 dX1_does_8 rfl (lv_at hl 2 rfl) ?_
  refine r_aload_n C.1 C.2.1 dX1_does_9 rfl (lv_at hl 0 rfl) ?_
  refine c_V C hS hmc hl.1 (ci := 6) rfl hw.1 (kX7_in C.2.2.2.2.2.2.1) hw.2 (lw_V q1962 q1963 q1964 q91 q1965) ⟨rfl, hdX7_in⟩ ⟨Nat.le_of_ble_eq_true rfl, Nat.le_of_ble_eq_true rfl⟩ (rest := []) rfl rfl (Nat.le_of_ble_eq_true rfl) dX1_does_10 (fun c6 e5 z4 H locs hx hS ht => ?_) (fun v z7 H locs hv hS => ?_)
  · rcases hx with ⟨rfl, hw⟩ | ⟨h9, hx⟩
    · refine r_catch C [] (⟨8, 20, 21, 29⟩ : ExceptionTableEntry) [] (by rw [hT]; rfl) (ci := 8) rfl (fun _ h => absurd h List.not_mem_nil) (by decide) (by decide) q442 q2025 ht ?_
      exact kX1_doesb21 C hr hin hT hmc  hw H locs ls hS (lv_sub hl [1] rfl)
    · simp only [List.mem_cons, List.not_mem_nil, or_false] at h9
      rcases h9 with rfl | rfl | rfl | rfl | rfl | rfl | rfl
      · exact r_pass C hS hmc rfl (by rw [hT]; exact List.forall_mem_cons.mpr ⟨Or.inr ⟨by decide, _, q442, by decide +kernel⟩, fun _ h => absurd h List.not_mem_nil⟩) ht hx
      · exact r_pass C hS hmc rfl (by rw [hT]; exact List.forall_mem_cons.mpr ⟨Or.inr ⟨by decide, _, q442, by decide +kernel⟩, fun _ h => absurd h List.not_mem_nil⟩) ht hx
      · exact r_pass C hS hmc rfl (by rw [hT]; exact List.forall_mem_cons.mpr ⟨Or.inr ⟨by decide, _, q442, by decide +kernel⟩, fun _ h => absurd h List.not_mem_nil⟩) ht hx
      · exact r_pass C hS hmc rfl (by rw [hT]; exact List.forall_mem_cons.mpr ⟨Or.inr ⟨by decide, _, q442, by decide +kernel⟩, fun _ h => absurd h List.not_mem_nil⟩) ht hx
      · exact r_pass C hS hmc rfl (by rw [hT]; exact List.forall_mem_cons.mpr ⟨Or.inr ⟨by decide, _, q442, by decide +kernel⟩, fun _ h => absurd h List.not_mem_nil⟩) ht hx
      · exact r_pass C hS hmc rfl (by rw [hT]; exact List.forall_mem_cons.mpr ⟨Or.inr ⟨by decide, _, q442, by decide +kernel⟩, fun _ h => absurd h List.not_mem_nil⟩) ht hx
      · exact r_pass C hS hmc rfl (by rw [hT]; exact List.forall_mem_cons.mpr ⟨Or.inr ⟨by decide, _, q442, by decide +kernel⟩, fun _ h => absurd h List.not_mem_nil⟩) ht hx
  · obtain ⟨x8, rfl, hw⟩ := hv
    refine r_istore_n C.1 C.2.1 dX1_does_13 rfl hl (Nat.le_of_ble_eq_true rfl) (ls_new (ls_old 0 rfl rfl (.inr (va_rf_cat _)) (ls_old 1 rfl rfl (.inl rfl) ls_nil))) (fun ls hl => ?_)
    refine r_aload_n C.1 C.2.1 dX1_does_14 rfl (lv_at hl 2 rfl) ?_
    refine r_aload_n C.1 C.2.1 dX1_does_15 rfl (lv_at hl 1 rfl) ?_
    refine lv_iload_n C.1 C.2.1 dX1_does_16 rfl (lv_at hl 0 rfl) ?_
    refine c_V C hS hmc hl.1 (ci := 0) rfl hw.1 (kX1_become C.2.2.2.2.2.2.1) hw.2 (lw_V q2232 q2234 qs11 q67 q2235) ⟨rfl, hdX1_become⟩ ⟨Nat.le_of_ble_eq_true rfl, Nat.le_of_ble_eq_true rfl⟩ (rest := []) rfl rfl (Nat.le_of_ble_eq_true rfl) dX1_does_17 (fun c11 e10 z9 H locs hx hS ht => ?_) (fun v z12 H locs hv hS => ?_)
    · rcases hx with ⟨rfl, hw⟩ | ⟨h9, hx⟩
      · refine r_catch C [] (⟨8, 20, 21, 29⟩ : ExceptionTableEntry) [] (by rw [hT]; rfl) (ci := 8) rfl (fun _ h => absurd h List.not_mem_nil) (by decide) (by decide) q442 q2025 ht ?_
        exact kX1_doesb21 C hr hin hT hmc  hw H locs ls hS (lv_sub hl [2] rfl)
      · simp only [List.mem_cons, List.not_mem_nil, or_false] at h9
        rcases h9 with rfl | rfl | rfl | rfl | rfl | rfl | rfl
        · exact r_pass C hS hmc rfl (by rw [hT]; exact List.forall_mem_cons.mpr ⟨Or.inr ⟨by decide, _, q442, by decide +kernel⟩, fun _ h => absurd h List.not_mem_nil⟩) ht hx
        · exact r_pass C hS hmc rfl (by rw [hT]; exact List.forall_mem_cons.mpr ⟨Or.inr ⟨by decide, _, q442, by decide +kernel⟩, fun _ h => absurd h List.not_mem_nil⟩) ht hx
        · exact r_pass C hS hmc rfl (by rw [hT]; exact List.forall_mem_cons.mpr ⟨Or.inr ⟨by decide, _, q442, by decide +kernel⟩, fun _ h => absurd h List.not_mem_nil⟩) ht hx
        · exact r_pass C hS hmc rfl (by rw [hT]; exact List.forall_mem_cons.mpr ⟨Or.inr ⟨by decide, _, q442, by decide +kernel⟩, fun _ h => absurd h List.not_mem_nil⟩) ht hx
        · exact r_pass C hS hmc rfl (by rw [hT]; exact List.forall_mem_cons.mpr ⟨Or.inr ⟨by decide, _, q442, by decide +kernel⟩, fun _ h => absurd h List.not_mem_nil⟩) ht hx
        · exact r_pass C hS hmc rfl (by rw [hT]; exact List.forall_mem_cons.mpr ⟨Or.inr ⟨by decide, _, q442, by decide +kernel⟩, fun _ h => absurd h List.not_mem_nil⟩) ht hx
        · exact r_pass C hS hmc rfl (by rw [hT]; exact List.forall_mem_cons.mpr ⟨Or.inr ⟨by decide, _, q442, by decide +kernel⟩, fun _ h => absurd h List.not_mem_nil⟩) ht hx
    · obtain ⟨x13, rfl, hw⟩ := hv
      exact r_iret C hS hmc hr dX1_does_20 hw
end
theorem kX1_does {l : Launch} (hl : l.stackTraces = false) {G : gE} {P : Int32 → hSt → Prop} {PX : Nat → Nat → hSt → Prop} {v0 : Option Nat} {v1 : Option Nat} {z : hSt} : cM l G yX1_does (wsW_ yX1_does cX1_does 4 (Option.some Jvm.ClassFile.FieldType.int) [((8 : Nat), (20 : Nat), (21 : Nat), (29 : Nat))]) 19 1407 z [va_rf v0, va_rf v1] (wX1_does G P PX v0 v1 z) (pI P) PX := by
  refine m_ofH hl (plainFor_of_name (by decide)) (by rw [lg_sl1 (va_rf_cat _), lg_sl1 (va_rf_cat _)]; exact Nat.le_of_ble_eq_true rfl) ?_
  intro p e s m args below meth c C hr hin hT hmc hw
  rw [lv_args1 (va_rf_cat _), lv_args1 (va_rf_cat _)]
  intro H locs ls hS hl
  exact kX1_doesb0 C hr hin hT hmc hw H locs ls hS (lv_sub hl [0, 1] rfl)
theorem hdX1_does : yX1_does.cls ≠ "java/lang/invoke/MethodHandle" ∧ yX1_does.cls ≠ "java/lang/invoke/VarHandle" ∧ (parseMethodDescriptor yX1_does.desc).map (fun d => d.parameters.length) = some 1 := ⟨by decide +kernel, by decide +kernel, by decide +kernel⟩
abbrev rmX1_checkArgument (mc ms : Nat) : Room := { frames := 10, cells := mc, slots := ms, locals := 160 }
def wX1_checkArgumentb0 (G : gE) (P : hSt → Prop) (PX : Nat → Nat → hSt → Prop)  (v0 : Int32) (z : hSt) : Prop :=
  ((¬ v0 = 0 → P z) ∧ (v0 = 0 → mkE G z 29 (fun x1 z2 => (rcv z2 (some x1) 29 ∧ ∀ q, (some x1) = some q → PX 29 q z2))))
def wX1_checkArgument (G : gE) (P : hSt → Prop) (PX : Nat → Nat → hSt → Prop) (v0 : Int32) (z : hSt) : Prop := wX1_checkArgumentb0 G P PX v0 z
section
variable {p : Program} {l : Launch} {e : Env} {s : State} {m : MethodId} {args : Array Value} {below : List Frame} {meth : Method} {c : Code} {G : gE} {mc ms : Nat} {P : hSt → Prop} {PX : Nat → Nat → hSt → Prop}
theorem kX1_checkArgumentb0 (C : xC G p l s m args meth c cX1_checkArgument 1 "ExcuseLedger") (hr : meth.sig.returnType = (Option.none : Option Jvm.ClassFile.FieldType)) (hin : meth.name = "checkArgument") (hT : ∀ x ∈ c.exceptionTable.toList, False) (hmc : mc = gL G - s.heap.size ∧ ms = gU G - hsum s.heap)   {v0 : Int32} {z : hSt} (hw : wX1_checkArgumentb0 G P PX  v0 z) : kt G p l e (rmX1_checkArgument mc ms) s m args below meth c 1 (vx_MQ below (cQ G (pV P)) (cX G PX) args s mc ms (gF G)) 0 [(0, .int v0)] [] z := by
  intro H locs ls hS hl
  refine lv_iload_n C.1 C.2.1 dX1_checkArgument_0 rfl (lv_at hl 0 rfl) ?_
  refine lv_if_ne C.1 C.2.1 dX1_checkArgument_1 rfl (fun h => ?_) (fun h => ?_)
  · have hw := hw.1 h
    exact r_vret C hS hmc hr dX1_checkArgument_12 hw
  · have hw := hw.2 h
    refine r_make C hS hl.1 (ci := 29) (cls := "java/lang/IllegalArgumentException") (names := ["java/lang/RuntimeException", "java/lang/Exception"]) rfl (by decide +kernel) (by decide +kernel) q2405 q89 xa29_13 xa29_13g hmc dX1_checkArgument_4 dX1_checkArgument_7 dX1_checkArgument_8 (Nat.le_of_ble_eq_true rfl) (Nat.le_of_ble_eq_true rfl) (Nat.le_of_ble_eq_true rfl) hw (fun x1 z2 H locs hw hS => ?_)
    exact r_athrow C hS (by decide) dX1_checkArgument_11 hw.1 (fun q hq ht => r_out C hS hmc (fun x hx => (hT x hx).elim) ht (hw.2 q hq))
end
theorem kX1_checkArgument {l : Launch} (hl : l.stackTraces = false) {G : gE} {P : hSt → Prop} {PX : Nat → Nat → hSt → Prop} {v0 : Int32} {z : hSt} : cM l G yX1_checkArgument (ws_ yX1_checkArgument cX1_checkArgument 1 (Option.none : Option Jvm.ClassFile.FieldType)) 10 160 z [.int v0] (wX1_checkArgument G P PX v0 z) (pV P) PX := by
  refine m_of hl (plainFor_of_name (by decide)) (by rw [lg_sl1 rfl]; exact Nat.le_of_ble_eq_true rfl) ?_
  intro p e s m args below meth c C hr hin hT hmc hw
  rw [lv_args1 rfl]
  intro H locs ls hS hl
  exact kX1_checkArgumentb0 C hr hin hT hmc hw H locs ls hS (lv_sub hl [0] rfl)
theorem hdX1_checkArgument : yX1_checkArgument.cls ≠ "java/lang/invoke/MethodHandle" ∧ yX1_checkArgument.cls ≠ "java/lang/invoke/VarHandle" ∧ (parseMethodDescriptor yX1_checkArgument.desc).map (fun d => d.parameters.length) = some 1 := ⟨by decide +kernel, by decide +kernel, by decide +kernel⟩
abbrev rmX1_isTopic (mc ms : Nat) : Room := { frames := 11, cells := mc, slots := ms, locals := 182 }
def wX1_isTopicb0 (G : gE) (P : Int32 → hSt → Prop) (PX : Nat → Nat → hSt → Prop)  (v0 : Int32) (z : hSt) : Prop :=
  wX1_isIn G (fun x2 z1 => (okN .boolean x2 ∧ P x2 z1)) PX v0 0 9 z
def wX1_isTopic (G : gE) (P : Int32 → hSt → Prop) (PX : Nat → Nat → hSt → Prop) (v0 : Int32) (z : hSt) : Prop := wX1_isTopicb0 G P PX v0 z
section
variable {p : Program} {l : Launch} {e : Env} {s : State} {m : MethodId} {args : Array Value} {below : List Frame} {meth : Method} {c : Code} {G : gE} {mc ms : Nat} {P : Int32 → hSt → Prop} {PX : Nat → Nat → hSt → Prop}
theorem kX1_isTopicb0 (C : xC G p l s m args meth c cX1_isTopic 1 "ExcuseLedger") (hr : meth.sig.returnType = (Option.some Jvm.ClassFile.FieldType.boolean)) (hin : meth.name = "isTopic") (hT : ∀ x ∈ c.exceptionTable.toList, False) (hmc : mc = gL G - s.heap.size ∧ ms = gU G - hsum s.heap)   {v0 : Int32} {z : hSt} (hw : wX1_isTopicb0 G P PX  v0 z) : kt G p l e (rmX1_isTopic mc ms) s m args below meth c 1 (vx_MQ below (cQ G (pI P)) (cX G PX) args s mc ms (gF G)) 0 [(0, .int v0)] [] z := by
  intro H locs ls hS hl
  refine lv_iload_n C.1 C.2.1 dX1_isTopic_0 rfl (lv_at hl 0 rfl) ?_
  refine lv_iconst C.1 C.2.1 (v := 0) dX1_isTopic_1 rfl ?_
  refine lv_bipush C.1 C.2.1 (v := 9) dX1_isTopic_2 rfl ?_
  refine c_S C hS hmc hl.1 (kX1_isIn C.2.2.2.2.2.2.1) hw (lw_S q1980 q1981 q67 q1982) hdX1_isIn ⟨Nat.le_of_ble_eq_true rfl, Nat.le_of_ble_eq_true rfl⟩ (rest := []) rfl rfl (Nat.le_of_ble_eq_true rfl) dX1_isTopic_4 (fun ci q z H locs hx hS ht => r_out C hS hmc (fun x hx => (hT x hx).elim) ht hx) (fun v z1 H locs hv hS => ?_)
  obtain ⟨x2, rfl, hw⟩ := hv
  exact r_zret C hS hmc hr dX1_isTopic_7 hw
end
theorem kX1_isTopic {l : Launch} (hl : l.stackTraces = false) {G : gE} {P : Int32 → hSt → Prop} {PX : Nat → Nat → hSt → Prop} {v0 : Int32} {z : hSt} : cM l G yX1_isTopic (ws_ yX1_isTopic cX1_isTopic 1 (Option.some Jvm.ClassFile.FieldType.boolean)) 11 182 z [.int v0] (wX1_isTopic G P PX v0 z) (pI P) PX := by
  refine m_of hl (plainFor_of_name (by decide)) (by rw [lg_sl1 rfl]; exact Nat.le_of_ble_eq_true rfl) ?_
  intro p e s m args below meth c C hr hin hT hmc hw
  rw [lv_args1 rfl]
  intro H locs ls hS hl
  exact kX1_isTopicb0 C hr hin hT hmc hw H locs ls hS (lv_sub hl [0] rfl)
theorem hdX1_isTopic : yX1_isTopic.cls ≠ "java/lang/invoke/MethodHandle" ∧ yX1_isTopic.cls ≠ "java/lang/invoke/VarHandle" ∧ (parseMethodDescriptor yX1_isTopic.desc).map (fun d => d.parameters.length) = some 1 := ⟨by decide +kernel, by decide +kernel, by decide +kernel⟩
abbrev rmX1_isExcuse (mc ms : Nat) : Room := { frames := 12, cells := mc, slots := ms, locals := 202 }
def wX1_isExcuseb20 (G : gE) (P : Int32 → hSt → Prop) (PX : Nat → Nat → hSt → Prop)   (z : hSt) : Prop :=
  (okN .boolean 0 ∧ P 0 z)
def wX1_isExcuseb0 (G : gE) (P : Int32 → hSt → Prop) (PX : Nat → Nat → hSt → Prop)  (v0 : Int32) (v1 : Int32) (z : hSt) : Prop :=
  wX1_isIn G (fun x2 z1 => ((x2 = 0 → wX1_isExcuseb20 G P PX   z1) ∧ (¬ x2 = 0 → wX1_isTopic G (fun x4 z3 => ((x4 = 0 → wX1_isExcuseb20 G P PX   z3) ∧ (¬ x4 = 0 → (okN .boolean 1 ∧ P 1 z3)))) PX v1 z1))) PX v0 0 3 z
def wX1_isExcuse (G : gE) (P : Int32 → hSt → Prop) (PX : Nat → Nat → hSt → Prop) (v0 : Int32) (v1 : Int32) (z : hSt) : Prop := wX1_isExcuseb0 G P PX v0 v1 z
section
variable {p : Program} {l : Launch} {e : Env} {s : State} {m : MethodId} {args : Array Value} {below : List Frame} {meth : Method} {c : Code} {G : gE} {mc ms : Nat} {P : Int32 → hSt → Prop} {PX : Nat → Nat → hSt → Prop}
theorem kX1_isExcuseb20 (C : xC G p l s m args meth c cX1_isExcuse 2 "ExcuseLedger") (hr : meth.sig.returnType = (Option.some Jvm.ClassFile.FieldType.boolean)) (hin : meth.name = "isExcuse") (hT : ∀ x ∈ c.exceptionTable.toList, False) (hmc : mc = gL G - s.heap.size ∧ ms = gU G - hsum s.heap)    {z : hSt} (hw : wX1_isExcuseb20 G P PX   z) : kt G p l e (rmX1_isExcuse mc ms) s m args below meth c 2 (vx_MQ below (cQ G (pI P)) (cX G PX) args s mc ms (gF G)) 20 [] [] z := by
  intro H locs ls hS hl
  refine lv_iconst C.1 C.2.1 (v := 0) dX1_isExcuse_20 rfl ?_
  exact r_zret C hS hmc hr dX1_isExcuse_21 hw
theorem kX1_isExcuseb0 (C : xC G p l s m args meth c cX1_isExcuse 2 "ExcuseLedger") (hr : meth.sig.returnType = (Option.some Jvm.ClassFile.FieldType.boolean)) (hin : meth.name = "isExcuse") (hT : ∀ x ∈ c.exceptionTable.toList, False) (hmc : mc = gL G - s.heap.size ∧ ms = gU G - hsum s.heap)   {v0 : Int32} {v1 : Int32} {z : hSt} (hw : wX1_isExcuseb0 G P PX  v0 v1 z) : kt G p l e (rmX1_isExcuse mc ms) s m args below meth c 2 (vx_MQ below (cQ G (pI P)) (cX G PX) args s mc ms (gF G)) 0 [(0, .int v0), (1, .int v1)] [] z := by
  intro H locs ls hS hl
  refine lv_iload_n C.1 C.2.1 dX1_isExcuse_0 rfl (lv_at hl 0 rfl) ?_
  refine lv_iconst C.1 C.2.1 (v := 0) dX1_isExcuse_1 rfl ?_
  refine lv_iconst C.1 C.2.1 (v := 3) dX1_isExcuse_2 rfl ?_
  refine c_S C hS hmc hl.1 (kX1_isIn C.2.2.2.2.2.2.1) hw (lw_S q1980 q1981 q67 q1982) hdX1_isIn ⟨Nat.le_of_ble_eq_true rfl, Nat.le_of_ble_eq_true rfl⟩ (rest := []) rfl rfl (Nat.le_of_ble_eq_true rfl) dX1_isExcuse_3 (fun ci q z H locs hx hS ht => r_out C hS hmc (fun x hx => (hT x hx).elim) ht hx) (fun v z1 H locs hv hS => ?_)
  obtain ⟨x2, rfl, hw⟩ := hv
  refine lv_if_eq C.1 C.2.1 dX1_isExcuse_6 rfl (fun h => ?_) (fun h => ?_)
  · have hw := hw.1 h
    exact kX1_isExcuseb20 C hr hin hT hmc  hw H locs ls hS (lv_sub hl [] rfl)
  · have hw := hw.2 h
    refine lv_iload_n C.1 C.2.1 dX1_isExcuse_9 rfl (lv_at hl 1 rfl) ?_
    refine c_S C hS hmc hl.1 (kX1_isTopic C.2.2.2.2.2.2.1) hw (lw_S q2417 q2418 q67 q2419) hdX1_isTopic ⟨Nat.le_of_ble_eq_true rfl, Nat.le_of_ble_eq_true rfl⟩ (rest := []) rfl rfl (Nat.le_of_ble_eq_true rfl) dX1_isExcuse_10 (fun ci q z H locs hx hS ht => r_out C hS hmc (fun x hx => (hT x hx).elim) ht hx) (fun v z3 H locs hv hS => ?_)
    obtain ⟨x4, rfl, hw⟩ := hv
    refine lv_if_eq C.1 C.2.1 dX1_isExcuse_13 rfl (fun h => ?_) (fun h => ?_)
    · have hw := hw.1 h
      exact kX1_isExcuseb20 C hr hin hT hmc  hw H locs ls hS (lv_sub hl [] rfl)
    · have hw := hw.2 h
      refine lv_iconst C.1 C.2.1 (v := 1) dX1_isExcuse_16 rfl ?_
      refine lv_goto C.1 C.2.1 dX1_isExcuse_17 rfl ?_
      exact r_zret C hS hmc hr dX1_isExcuse_21 hw
end
theorem kX1_isExcuse {l : Launch} (hl : l.stackTraces = false) {G : gE} {P : Int32 → hSt → Prop} {PX : Nat → Nat → hSt → Prop} {v0 : Int32} {v1 : Int32} {z : hSt} : cM l G yX1_isExcuse (ws_ yX1_isExcuse cX1_isExcuse 2 (Option.some Jvm.ClassFile.FieldType.boolean)) 12 202 z [.int v0, .int v1] (wX1_isExcuse G P PX v0 v1 z) (pI P) PX := by
  refine m_of hl (plainFor_of_name (by decide)) (by rw [lg_sl1 rfl, lg_sl1 rfl]; exact Nat.le_of_ble_eq_true rfl) ?_
  intro p e s m args below meth c C hr hin hT hmc hw
  rw [lv_args1 rfl, lv_args1 rfl]
  intro H locs ls hS hl
  exact kX1_isExcuseb0 C hr hin hT hmc hw H locs ls hS (lv_sub hl [0, 1] rfl)
theorem hdX1_isExcuse : yX1_isExcuse.cls ≠ "java/lang/invoke/MethodHandle" ∧ yX1_isExcuse.cls ≠ "java/lang/invoke/VarHandle" ∧ (parseMethodDescriptor yX1_isExcuse.desc).map (fun d => d.parameters.length) = some 2 := ⟨by decide +kernel, by decide +kernel, by decide +kernel⟩
abbrev rmX1_checkedName (mc ms : Nat) : Room := { frames := 13, cells := mc, slots := ms, locals := 223 }
def wX1_checkedNameb0 (G : gE) (P : Option Nat → hSt → Prop) (PX : Nat → Nat → hSt → Prop)  (v0 : Int32) (v1 : Int32) (z : hSt) : Prop :=
  wX1_isExcuse G (fun x2 z1 => wX1_checkArgument G (fun z3 => nwO G z3 5 2 dfX6 (fun x4 z5 => (nnl (some x4) ∧ wX6_init G (fun z6 => P (some x4) z6) PX (some x4) v0 v1 z5))) PX x2 z1) PX v0 v1 z
def wX1_checkedName (G : gE) (P : Option Nat → hSt → Prop) (PX : Nat → Nat → hSt → Prop) (v0 : Int32) (v1 : Int32) (z : hSt) : Prop := wX1_checkedNameb0 G P PX v0 v1 z
section
variable {p : Program} {l : Launch} {e : Env} {s : State} {m : MethodId} {args : Array Value} {below : List Frame} {meth : Method} {c : Code} {G : gE} {mc ms : Nat} {P : Option Nat → hSt → Prop} {PX : Nat → Nat → hSt → Prop}
theorem kX1_checkedNameb0 (C : xC G p l s m args meth c cX1_checkedName 2 "ExcuseLedger") (hr : meth.sig.returnType = (Option.some (Jvm.ClassFile.FieldType.object "ExcuseLedger$Name"))) (hin : meth.name = "checkedName") (hT : ∀ x ∈ c.exceptionTable.toList, False) (hmc : mc = gL G - s.heap.size ∧ ms = gU G - hsum s.heap)   {v0 : Int32} {v1 : Int32} {z : hSt} (hw : wX1_checkedNameb0 G P PX  v0 v1 z) : kt G p l e (rmX1_checkedName mc ms) s m args below meth c 2 (vx_MQ below (cQ G (pR P)) (cX G PX) args s mc ms (gF G)) 0 [(0, .int v0), (1, .int v1)] [] z := by
  intro H locs ls hS hl
  refine lv_iload_n C.1 C.2.1 dX1_checkedName_0 rfl (lv_at hl 0 rfl) ?_
  refine lv_iload_n C.1 C.2.1 dX1_checkedName_1 rfl (lv_at hl 1 rfl) ?_
  refine c_S C hS hmc hl.1 (kX1_isExcuse C.2.2.2.2.2.2.1) hw (lw_S q2414 q2415 q67 q2416) hdX1_isExcuse ⟨Nat.le_of_ble_eq_true rfl, Nat.le_of_ble_eq_true rfl⟩ (rest := []) rfl rfl (Nat.le_of_ble_eq_true rfl) dX1_checkedName_2 (fun ci q z H locs hx hS ht => r_out C hS hmc (fun x hx => (hT x hx).elim) ht hx) (fun v z1 H locs hv hS => ?_)
  obtain ⟨x2, rfl, hw⟩ := hv
  refine c_S C hS hmc hl.1 (kX1_checkArgument C.2.2.2.2.2.2.1) hw (lw_S q2402 q2403 q67 q2404) hdX1_checkArgument ⟨Nat.le_of_ble_eq_true rfl, Nat.le_of_ble_eq_true rfl⟩ (rest := []) rfl rfl (Nat.le_of_ble_eq_true rfl) dX1_checkedName_5 (fun ci q z H locs hx hS ht => r_out C hS hmc (fun x hx => (hT x hx).elim) ht hx) (fun v z3 H locs hv hS => ?_)
  obtain ⟨rfl, hw⟩ := hv
  refine r_new C hS (ci := 5) rfl in_X6 tyX6_ok q2420 q2329 q90 rfl dfX6_ok hmc dX1_checkedName_8 hw (fun x4 z5 H locs hw hS => ?_)
  refine lv_dup C.1 C.2.1 dX1_checkedName_11 (va_rf_cat _) ?_
  refine lv_iload_n C.1 C.2.1 dX1_checkedName_12 rfl (lv_at hl 0 rfl) ?_
  refine lv_iload_n C.1 C.2.1 dX1_checkedName_13 rfl (lv_at hl 1 rfl) ?_
  refine c_I C hS hmc hl.1 hw.1 (kX6_init C.2.2.2.2.2.2.1) hw.2 (lw_meth q2332) q90 q2421 q2331 rfl hdX6_init ⟨Nat.le_of_ble_eq_true rfl, Nat.le_of_ble_eq_true rfl⟩ (rest := [va_rf (some x4)]) rfl rfl (Nat.le_of_ble_eq_true rfl) dX1_checkedName_14 (fun ci q z H locs hx hS ht => r_out C hS hmc (fun x hx => (hT x hx).elim) ht hx) (fun v z6 H locs hv hS => ?_)
  obtain ⟨rfl, hw⟩ := hv
  exact r_aret C hS hmc hr (Or.inl ⟨_, rfl⟩) dX1_checkedName_17 hw
end
theorem kX1_checkedName {l : Launch} (hl : l.stackTraces = false) {G : gE} {P : Option Nat → hSt → Prop} {PX : Nat → Nat → hSt → Prop} {v0 : Int32} {v1 : Int32} {z : hSt} : cM l G yX1_checkedName (ws_ yX1_checkedName cX1_checkedName 2 (Option.some (Jvm.ClassFile.FieldType.object "ExcuseLedger$Name"))) 13 223 z [.int v0, .int v1] (wX1_checkedName G P PX v0 v1 z) (pR P) PX := by
  refine m_of hl (plainFor_of_name (by decide)) (by rw [lg_sl1 rfl, lg_sl1 rfl]; exact Nat.le_of_ble_eq_true rfl) ?_
  intro p e s m args below meth c C hr hin hT hmc hw
  rw [lv_args1 rfl, lv_args1 rfl]
  intro H locs ls hS hl
  exact kX1_checkedNameb0 C hr hin hT hmc hw H locs ls hS (lv_sub hl [0, 1] rfl)
theorem hdX1_checkedName : yX1_checkedName.cls ≠ "java/lang/invoke/MethodHandle" ∧ yX1_checkedName.cls ≠ "java/lang/invoke/VarHandle" ∧ (parseMethodDescriptor yX1_checkedName.desc).map (fun d => d.parameters.length) = some 2 := ⟨by decide +kernel, by decide +kernel, by decide +kernel⟩
abbrev rmX1_checkIndex (mc ms : Nat) : Room := { frames := 10, cells := mc, slots := ms, locals := 160 }
def wX1_checkIndexb0 (G : gE) (P : hSt → Prop) (PX : Nat → Nat → hSt → Prop)  (v0 : Int32) (z : hSt) : Prop :=
  ((¬ v0 = 0 → P z) ∧ (v0 = 0 → mkE G z 32 (fun x1 z2 => (rcv z2 (some x1) 32 ∧ ∀ q, (some x1) = some q → PX 32 q z2))))
def wX1_checkIndex (G : gE) (P : hSt → Prop) (PX : Nat → Nat → hSt → Prop) (v0 : Int32) (z : hSt) : Prop := wX1_checkIndexb0 G P PX v0 z
section
variable {p : Program} {l : Launch} {e : Env} {s : State} {m : MethodId} {args : Array Value} {below : List Frame} {meth : Method} {c : Code} {G : gE} {mc ms : Nat} {P : hSt → Prop} {PX : Nat → Nat → hSt → Prop}
theorem kX1_checkIndexb0 (C : xC G p l s m args meth c cX1_checkIndex 1 "ExcuseLedger") (hr : meth.sig.returnType = (Option.none : Option Jvm.ClassFile.FieldType)) (hin : meth.name = "checkIndex") (hT : ∀ x ∈ c.exceptionTable.toList, False) (hmc : mc = gL G - s.heap.size ∧ ms = gU G - hsum s.heap)   {v0 : Int32} {z : hSt} (hw : wX1_checkIndexb0 G P PX  v0 z) : kt G p l e (rmX1_checkIndex mc ms) s m args below meth c 1 (vx_MQ below (cQ G (pV P)) (cX G PX) args s mc ms (gF G)) 0 [(0, .int v0)] [] z := by
  intro H locs ls hS hl
  refine lv_iload_n C.1 C.2.1 dX1_checkIndex_0 rfl (lv_at hl 0 rfl) ?_
  refine lv_if_ne C.1 C.2.1 dX1_checkIndex_1 rfl (fun h => ?_) (fun h => ?_)
  · have hw := hw.1 h
    exact r_vret C hS hmc hr dX1_checkIndex_12 hw
  · have hw := hw.2 h
    refine r_make C hS hl.1 (ci := 32) (cls := "java/lang/IndexOutOfBoundsException") (names := ["java/lang/RuntimeException", "java/lang/Exception"]) rfl (by decide +kernel) (by decide +kernel) q2386 q87 xa32_19 xa32_19g hmc dX1_checkIndex_4 dX1_checkIndex_7 dX1_checkIndex_8 (Nat.le_of_ble_eq_true rfl) (Nat.le_of_ble_eq_true rfl) (Nat.le_of_ble_eq_true rfl) hw (fun x1 z2 H locs hw hS => ?_)
    exact r_athrow C hS (by decide) dX1_checkIndex_11 hw.1 (fun q hq ht => r_out C hS hmc (fun x hx => (hT x hx).elim) ht (hw.2 q hq))
end
theorem kX1_checkIndex {l : Launch} (hl : l.stackTraces = false) {G : gE} {P : hSt → Prop} {PX : Nat → Nat → hSt → Prop} {v0 : Int32} {z : hSt} : cM l G yX1_checkIndex (ws_ yX1_checkIndex cX1_checkIndex 1 (Option.none : Option Jvm.ClassFile.FieldType)) 10 160 z [.int v0] (wX1_checkIndex G P PX v0 z) (pV P) PX := by
  refine m_of hl (plainFor_of_name (by decide)) (by rw [lg_sl1 rfl]; exact Nat.le_of_ble_eq_true rfl) ?_
  intro p e s m args below meth c C hr hin hT hmc hw
  rw [lv_args1 rfl]
  intro H locs ls hS hl
  exact kX1_checkIndexb0 C hr hin hT hmc hw H locs ls hS (lv_sub hl [0] rfl)
theorem hdX1_checkIndex : yX1_checkIndex.cls ≠ "java/lang/invoke/MethodHandle" ∧ yX1_checkIndex.cls ≠ "java/lang/invoke/VarHandle" ∧ (parseMethodDescriptor yX1_checkIndex.desc).map (fun d => d.parameters.length) = some 1 := ⟨by decide +kernel, by decide +kernel, by decide +kernel⟩
abbrev rmX1_enter (mc ms : Nat) : Room := { frames := 20, cells := mc, slots := ms, locals := 1430 }
def wX1_enterb0 (G : gE) (P : Int32 → hSt → Prop) (PX : Nat → Nat → hSt → Prop)  (v0 : Option Nat) (v1 : Int32) (v2 : Int32) (v3 : Int32) (v4 : Int32) (z : hSt) : Prop :=
  wX1_isPupil G (fun x2 z1 => wX1_checkIndex G (fun z3 => wX1_isLevel G (fun x5 z4 => wX1_checkArgument G (fun z6 => wX1_checkedName G (fun x8 z7 => wX1_command G (fun x10 z9 => (rcv z9 v0 0 ∧ wX1_does G (fun x12 z11 => P x12 z11) PX v0 x10 z9)) PX (some (gA G 1)) v1 x8 v4 z7) PX v2 v3 z6) PX x5 z4) PX v4 z3) PX x2 z1) PX v1 z
def wX1_enter (G : gE) (P : Int32 → hSt → Prop) (PX : Nat → Nat → hSt → Prop) (v0 : Option Nat) (v1 : Int32) (v2 : Int32) (v3 : Int32) (v4 : Int32) (z : hSt) : Prop := wX1_enterb0 G P PX v0 v1 v2 v3 v4 z
section
variable {p : Program} {l : Launch} {e : Env} {s : State} {m : MethodId} {args : Array Value} {below : List Frame} {meth : Method} {c : Code} {G : gE} {mc ms : Nat} {P : Int32 → hSt → Prop} {PX : Nat → Nat → hSt → Prop}
theorem kX1_enterb0 (C : xC G p l s m args meth c cX1_enter 5 "ExcuseLedger") (hr : meth.sig.returnType = (Option.some Jvm.ClassFile.FieldType.int)) (hin : meth.name = "enter") (hT : ∀ x ∈ c.exceptionTable.toList, False) (hmc : mc = gL G - s.heap.size ∧ ms = gU G - hsum s.heap)   {v0 : Option Nat} {v1 : Int32} {v2 : Int32} {v3 : Int32} {v4 : Int32} {z : hSt} (hw : wX1_enterb0 G P PX  v0 v1 v2 v3 v4 z) : kt G p l e (rmX1_enter mc ms) s m args below meth c 5 (vx_MQ below (cQ G (pI P)) (cX G PX) args s mc ms (gF G)) 0 [(0, va_rf v0), (1, .int v1), (2, .int v2), (3, .int v3), (4, .int v4)] [] z := by
  intro H locs ls hS hl
  refine lv_iload_n C.1 C.2.1 dX1_enter_0 rfl (lv_at hl 1 rfl) ?_
  refine c_S C hS hmc hl.1 (kX1_isPupil C.2.2.2.2.2.2.1) hw (lw_S q2382 q1978 q67 q1979) hdX1_isPupil ⟨Nat.le_of_ble_eq_true rfl, Nat.le_of_ble_eq_true rfl⟩ (rest := []) rfl rfl (Nat.le_of_ble_eq_true rfl) dX1_enter_1 (fun ci q z H locs hx hS ht => r_out C hS hmc (fun x hx => (hT x hx).elim) ht hx) (fun v z1 H locs hv hS => ?_)
  obtain ⟨x2, rfl, hw⟩ := hv
  refine c_S C hS hmc hl.1 (kX1_checkIndex C.2.2.2.2.2.2.1) hw (lw_S q2383 q2384 q67 q2385) hdX1_checkIndex ⟨Nat.le_of_ble_eq_true rfl, Nat.le_of_ble_eq_true rfl⟩ (rest := []) rfl rfl (Nat.le_of_ble_eq_true rfl) dX1_enter_4 (fun ci q z H locs hx hS ht => r_out C hS hmc (fun x hx => (hT x hx).elim) ht hx) (fun v z3 H locs hv hS => ?_)
  obtain ⟨rfl, hw⟩ := hv
  refine lv_iload C.1 C.2.1 dX1_enter_7 (lv_at hl 4 rfl) ?_
  refine c_S C hS hmc hl.1 (kX1_isLevel C.2.2.2.2.2.2.1) hw (lw_S q2401 q1984 q67 q1985) hdX1_isLevel ⟨Nat.le_of_ble_eq_true rfl, Nat.le_of_ble_eq_true rfl⟩ (rest := []) rfl rfl (Nat.le_of_ble_eq_true rfl) dX1_enter_9 (fun ci q z H locs hx hS ht => r_out C hS hmc (fun x hx => (hT x hx).elim) ht hx) (fun v z4 H locs hv hS => ?_)
  obtain ⟨x5, rfl, hw⟩ := hv
  refine c_S C hS hmc hl.1 (kX1_checkArgument C.2.2.2.2.2.2.1) hw (lw_S q2402 q2403 q67 q2404) hdX1_checkArgument ⟨Nat.le_of_ble_eq_true rfl, Nat.le_of_ble_eq_true rfl⟩ (rest := []) rfl rfl (Nat.le_of_ble_eq_true rfl) dX1_enter_12 (fun ci q z H locs hx hS ht => r_out C hS hmc (fun x hx => (hT x hx).elim) ht hx) (fun v z6 H locs hv hS => ?_)
  obtain ⟨rfl, hw⟩ := hv
  refine r_aload_n C.1 C.2.1 dX1_enter_15 rfl (lv_at hl 0 rfl) ?_
  refine r_ldcS C (k := 1) (tx := "enter") (by decide +kernel) dX1_enter_16 ?_
  refine lv_iload_n C.1 C.2.1 dX1_enter_18 rfl (lv_at hl 1 rfl) ?_
  refine lv_iload_n C.1 C.2.1 dX1_enter_19 rfl (lv_at hl 2 rfl) ?_
  refine lv_iload_n C.1 C.2.1 dX1_enter_20 rfl (lv_at hl 3 rfl) ?_
  refine c_S C hS hmc hl.1 (kX1_checkedName C.2.2.2.2.2.2.1) hw (lw_S q2411 q2412 q67 q2413) hdX1_checkedName ⟨Nat.le_of_ble_eq_true rfl, Nat.le_of_ble_eq_true rfl⟩ (rest := [.int v1, va_rf (some (gA G 1)), va_rf v0]) rfl rfl (Nat.le_of_ble_eq_true rfl) dX1_enter_21 (fun ci q z H locs hx hS ht => r_out C hS hmc (fun x hx => (hT x hx).elim) ht hx) (fun v z7 H locs hv hS => ?_)
  obtain ⟨x8, rfl, hw⟩ := hv
  refine lv_iload C.1 C.2.1 dX1_enter_24 (lv_at hl 4 rfl) ?_
  refine c_S C hS hmc hl.1 (kX1_command C.2.2.2.2.2.2.1) hw (lw_S q416 q417 q67 q418) hdX1_command ⟨Nat.le_of_ble_eq_true rfl, Nat.le_of_ble_eq_true rfl⟩ (rest := [va_rf v0]) rfl rfl (Nat.le_of_ble_eq_true rfl) dX1_enter_26 (fun ci q z H locs hx hS ht => r_out C hS hmc (fun x hx => (hT x hx).elim) ht hx) (fun v z9 H locs hv hS => ?_)
  obtain ⟨x10, rfl, hw⟩ := hv
  refine c_VX C hS hmc hl.1 (ci := 0) rfl hw.1 (kX1_does C.2.2.2.2.2.2.1) hw.2 (lw_VW q438 q440 qs0 q67 q441) ⟨rfl, hdX1_does⟩ ⟨Nat.le_of_ble_eq_true rfl, Nat.le_of_ble_eq_true rfl⟩ (rest := []) rfl rfl (Nat.le_of_ble_eq_true rfl) dX1_enter_29 (fun ci q z H locs hx hS ht => r_out C hS hmc (fun x hx => (hT x hx).elim) ht hx) (fun v z11 H locs hv hS => ?_)
  obtain ⟨x12, rfl, hw⟩ := hv
  exact r_iret C hS hmc hr dX1_enter_32 hw
end
theorem kX1_enter {l : Launch} (hl : l.stackTraces = false) {G : gE} {P : Int32 → hSt → Prop} {PX : Nat → Nat → hSt → Prop} {v0 : Option Nat} {v1 : Int32} {v2 : Int32} {v3 : Int32} {v4 : Int32} {z : hSt} : cM l G yX1_enter (ws_ yX1_enter cX1_enter 5 (Option.some Jvm.ClassFile.FieldType.int)) 20 1430 z [va_rf v0, .int v1, .int v2, .int v3, .int v4] (wX1_enter G P PX v0 v1 v2 v3 v4 z) (pI P) PX := by
  refine m_of hl (plainFor_of_name (by decide)) (by rw [lg_sl1 (va_rf_cat _), lg_sl1 rfl, lg_sl1 rfl, lg_sl1 rfl, lg_sl1 rfl]; exact Nat.le_of_ble_eq_true rfl) ?_
  intro p e s m args below meth c C hr hin hT hmc hw
  rw [lv_args1 (va_rf_cat _), lv_args1 rfl, lv_args1 rfl, lv_args1 rfl, lv_args1 rfl]
  intro H locs ls hS hl
  exact kX1_enterb0 C hr hin hT hmc hw H locs ls hS (lv_sub hl [0, 1, 2, 3, 4] rfl)
theorem hdX1_enter : yX1_enter.cls ≠ "java/lang/invoke/MethodHandle" ∧ yX1_enter.cls ≠ "java/lang/invoke/VarHandle" ∧ (parseMethodDescriptor yX1_enter.desc).map (fun d => d.parameters.length) = some 4 := ⟨by decide +kernel, by decide +kernel, by decide +kernel⟩
abbrev rmX1_strike (mc ms : Nat) : Room := { frames := 20, cells := mc, slots := ms, locals := 1430 }
def wX1_strikeb0 (G : gE) (P : Int32 → hSt → Prop) (PX : Nat → Nat → hSt → Prop)  (v0 : Option Nat) (v1 : Int32) (v2 : Int32) (z : hSt) : Prop :=
  wX1_checkedName G (fun x2 z1 => wX1_command G (fun x4 z3 => (rcv z3 v0 0 ∧ wX1_does G (fun x6 z5 => P x6 z5) PX v0 x4 z3)) PX (some (gA G 2)) (-1) x2 (-1) z1) PX v1 v2 z
def wX1_strike (G : gE) (P : Int32 → hSt → Prop) (PX : Nat → Nat → hSt → Prop) (v0 : Option Nat) (v1 : Int32) (v2 : Int32) (z : hSt) : Prop := wX1_strikeb0 G P PX v0 v1 v2 z
section
variable {p : Program} {l : Launch} {e : Env} {s : State} {m : MethodId} {args : Array Value} {below : List Frame} {meth : Method} {c : Code} {G : gE} {mc ms : Nat} {P : Int32 → hSt → Prop} {PX : Nat → Nat → hSt → Prop}
theorem kX1_strikeb0 (C : xC G p l s m args meth c cX1_strike 3 "ExcuseLedger") (hr : meth.sig.returnType = (Option.some Jvm.ClassFile.FieldType.int)) (hin : meth.name = "strike") (hT : ∀ x ∈ c.exceptionTable.toList, False) (hmc : mc = gL G - s.heap.size ∧ ms = gU G - hsum s.heap)   {v0 : Option Nat} {v1 : Int32} {v2 : Int32} {z : hSt} (hw : wX1_strikeb0 G P PX  v0 v1 v2 z) : kt G p l e (rmX1_strike mc ms) s m args below meth c 3 (vx_MQ below (cQ G (pI P)) (cX G PX) args s mc ms (gF G)) 0 [(0, va_rf v0), (1, .int v1), (2, .int v2)] [] z := by
  intro H locs ls hS hl
  refine r_aload_n C.1 C.2.1 dX1_strike_0 rfl (lv_at hl 0 rfl) ?_
  refine r_ldcS C (k := 2) (tx := "strike") (by decide +kernel) dX1_strike_1 ?_
  refine lv_iconst C.1 C.2.1 (v := (-1)) dX1_strike_3 rfl ?_
  refine lv_iload_n C.1 C.2.1 dX1_strike_4 rfl (lv_at hl 1 rfl) ?_
  refine lv_iload_n C.1 C.2.1 dX1_strike_5 rfl (lv_at hl 2 rfl) ?_
  refine c_S C hS hmc hl.1 (kX1_checkedName C.2.2.2.2.2.2.1) hw (lw_S q2411 q2412 q67 q2413) hdX1_checkedName ⟨Nat.le_of_ble_eq_true rfl, Nat.le_of_ble_eq_true rfl⟩ (rest := [.int (-1), va_rf (some (gA G 2)), va_rf v0]) rfl rfl (Nat.le_of_ble_eq_true rfl) dX1_strike_6 (fun ci q z H locs hx hS ht => r_out C hS hmc (fun x hx => (hT x hx).elim) ht hx) (fun v z1 H locs hv hS => ?_)
  obtain ⟨x2, rfl, hw⟩ := hv
  refine lv_iconst C.1 C.2.1 (v := (-1)) dX1_strike_9 rfl ?_
  refine c_S C hS hmc hl.1 (kX1_command C.2.2.2.2.2.2.1) hw (lw_S q416 q417 q67 q418) hdX1_command ⟨Nat.le_of_ble_eq_true rfl, Nat.le_of_ble_eq_true rfl⟩ (rest := [va_rf v0]) rfl rfl (Nat.le_of_ble_eq_true rfl) dX1_strike_10 (fun ci q z H locs hx hS ht => r_out C hS hmc (fun x hx => (hT x hx).elim) ht hx) (fun v z3 H locs hv hS => ?_)
  obtain ⟨x4, rfl, hw⟩ := hv
  refine c_VX C hS hmc hl.1 (ci := 0) rfl hw.1 (kX1_does C.2.2.2.2.2.2.1) hw.2 (lw_VW q438 q440 qs0 q67 q441) ⟨rfl, hdX1_does⟩ ⟨Nat.le_of_ble_eq_true rfl, Nat.le_of_ble_eq_true rfl⟩ (rest := []) rfl rfl (Nat.le_of_ble_eq_true rfl) dX1_strike_13 (fun ci q z H locs hx hS ht => r_out C hS hmc (fun x hx => (hT x hx).elim) ht hx) (fun v z5 H locs hv hS => ?_)
  obtain ⟨x6, rfl, hw⟩ := hv
  exact r_iret C hS hmc hr dX1_strike_16 hw
end
theorem kX1_strike {l : Launch} (hl : l.stackTraces = false) {G : gE} {P : Int32 → hSt → Prop} {PX : Nat → Nat → hSt → Prop} {v0 : Option Nat} {v1 : Int32} {v2 : Int32} {z : hSt} : cM l G yX1_strike (ws_ yX1_strike cX1_strike 3 (Option.some Jvm.ClassFile.FieldType.int)) 20 1430 z [va_rf v0, .int v1, .int v2] (wX1_strike G P PX v0 v1 v2 z) (pI P) PX := by
  refine m_of hl (plainFor_of_name (by decide)) (by rw [lg_sl1 (va_rf_cat _), lg_sl1 rfl, lg_sl1 rfl]; exact Nat.le_of_ble_eq_true rfl) ?_
  intro p e s m args below meth c C hr hin hT hmc hw
  rw [lv_args1 (va_rf_cat _), lv_args1 rfl, lv_args1 rfl]
  intro H locs ls hS hl
  exact kX1_strikeb0 C hr hin hT hmc hw H locs ls hS (lv_sub hl [0, 1, 2] rfl)
theorem hdX1_strike : yX1_strike.cls ≠ "java/lang/invoke/MethodHandle" ∧ yX1_strike.cls ≠ "java/lang/invoke/VarHandle" ∧ (parseMethodDescriptor yX1_strike.desc).map (fun d => d.parameters.length) = some 2 := ⟨by decide +kernel, by decide +kernel, by decide +kernel⟩
abbrev rmX1_lend (mc ms : Nat) : Room := { frames := 20, cells := mc, slots := ms, locals := 1430 }
def wX1_lendb0 (G : gE) (P : Int32 → hSt → Prop) (PX : Nat → Nat → hSt → Prop)  (v0 : Option Nat) (v1 : Int32) (v2 : Int32) (v3 : Int32) (v4 : Int32) (z : hSt) : Prop :=
  wX1_checkedName G (fun x2 z1 => wX1_isFee G (fun x4 z3 => wX1_checkArgument G (fun z5 => wX1_isPupil G (fun x7 z6 => wX1_checkIndex G (fun z8 => wX1_command G (fun x10 z9 => (rcv z9 v0 0 ∧ wX1_does G (fun x12 z11 => P x12 z11) PX v0 x10 z9)) PX (some (gA G 3)) v3 x2 v4 z8) PX x7 z6) PX v3 z5) PX x4 z3) PX v4 z1) PX v1 v2 z
def wX1_lend (G : gE) (P : Int32 → hSt → Prop) (PX : Nat → Nat → hSt → Prop) (v0 : Option Nat) (v1 : Int32) (v2 : Int32) (v3 : Int32) (v4 : Int32) (z : hSt) : Prop := wX1_lendb0 G P PX v0 v1 v2 v3 v4 z
section
variable {p : Program} {l : Launch} {e : Env} {s : State} {m : MethodId} {args : Array Value} {below : List Frame} {meth : Method} {c : Code} {G : gE} {mc ms : Nat} {P : Int32 → hSt → Prop} {PX : Nat → Nat → hSt → Prop}
theorem kX1_lendb0 (C : xC G p l s m args meth c cX1_lend 6 "ExcuseLedger") (hr : meth.sig.returnType = (Option.some Jvm.ClassFile.FieldType.int)) (hin : meth.name = "lend") (hT : ∀ x ∈ c.exceptionTable.toList, False) (hmc : mc = gL G - s.heap.size ∧ ms = gU G - hsum s.heap)   {v0 : Option Nat} {v1 : Int32} {v2 : Int32} {v3 : Int32} {v4 : Int32} {z : hSt} (hw : wX1_lendb0 G P PX  v0 v1 v2 v3 v4 z) : kt G p l e (rmX1_lend mc ms) s m args below meth c 6 (vx_MQ below (cQ G (pI P)) (cX G PX) args s mc ms (gF G)) 0 [(0, va_rf v0), (1, .int v1), (2, .int v2), (3, .int v3), (4, .int v4)] [] z := by
  intro H locs ls hS hl
  refine lv_iload_n C.1 C.2.1 dX1_lend_0 rfl (lv_at hl 1 rfl) ?_
  refine lv_iload_n C.1 C.2.1 dX1_lend_1 rfl (lv_at hl 2 rfl) ?_
  refine c_S C hS hmc hl.1 (kX1_checkedName C.2.2.2.2.2.2.1) hw (lw_S q2411 q2412 q67 q2413) hdX1_checkedName ⟨Nat.le_of_ble_eq_true rfl, Nat.le_of_ble_eq_true rfl⟩ (rest := []) rfl rfl (Nat.le_of_ble_eq_true rfl) dX1_lend_2 (fun ci q z H locs hx hS ht => r_out C hS hmc (fun x hx => (hT x hx).elim) ht hx) (fun v z1 H locs hv hS => ?_)
  obtain ⟨x2, rfl, hw⟩ := hv
  refine r_astore C.1 C.2.1 dX1_lend_5 hl (Nat.le_of_ble_eq_true rfl) (ls_new (ls_old 0 rfl rfl (.inl rfl) (ls_old 3 rfl rfl (.inl rfl) (ls_old 4 rfl rfl (.inr rfl) ls_nil)))) (fun ls hl => ?_)
  refine lv_iload C.1 C.2.1 dX1_lend_7 (lv_at hl 3 rfl) ?_
  refine c_S C hS hmc hl.1 (kX1_isFee C.2.2.2.2.2.2.1) hw (lw_S q2437 q1987 q67 q1988) hdX1_isFee ⟨Nat.le_of_ble_eq_true rfl, Nat.le_of_ble_eq_true rfl⟩ (rest := []) rfl rfl (Nat.le_of_ble_eq_true rfl) dX1_lend_9 (fun ci q z H locs hx hS ht => r_out C hS hmc (fun x hx => (hT x hx).elim) ht hx) (fun v z3 H locs hv hS => ?_)
  obtain ⟨x4, rfl, hw⟩ := hv
  refine c_S C hS hmc hl.1 (kX1_checkArgument C.2.2.2.2.2.2.1) hw (lw_S q2402 q2403 q67 q2404) hdX1_checkArgument ⟨Nat.le_of_ble_eq_true rfl, Nat.le_of_ble_eq_true rfl⟩ (rest := []) rfl rfl (Nat.le_of_ble_eq_true rfl) dX1_lend_12 (fun ci q z H locs hx hS ht => r_out C hS hmc (fun x hx => (hT x hx).elim) ht hx) (fun v z5 H locs hv hS => ?_)
  obtain ⟨rfl, hw⟩ := hv
  refine lv_iload_n C.1 C.2.1 dX1_lend_15 rfl (lv_at hl 2 rfl) ?_
  refine c_S C hS hmc hl.1 (kX1_isPupil C.2.2.2.2.2.2.1) hw (lw_S q2382 q1978 q67 q1979) hdX1_isPupil ⟨Nat.le_of_ble_eq_true rfl, Nat.le_of_ble_eq_true rfl⟩ (rest := []) rfl rfl (Nat.le_of_ble_eq_true rfl) dX1_lend_16 (fun ci q z H locs hx hS ht => r_out C hS hmc (fun x hx => (hT x hx).elim) ht hx) (fun v z6 H locs hv hS => ?_)
  obtain ⟨x7, rfl, hw⟩ := hv
  refine c_S C hS hmc hl.1 (kX1_checkIndex C.2.2.2.2.2.2.1) hw (lw_S q2383 q2384 q67 q2385) hdX1_checkIndex ⟨Nat.le_of_ble_eq_true rfl, Nat.le_of_ble_eq_true rfl⟩ (rest := []) rfl rfl (Nat.le_of_ble_eq_true rfl) dX1_lend_19 (fun ci q z H locs hx hS ht => r_out C hS hmc (fun x hx => (hT x hx).elim) ht hx) (fun v z8 H locs hv hS => ?_)
  obtain ⟨rfl, hw⟩ := hv
  refine r_aload_n C.1 C.2.1 dX1_lend_22 rfl (lv_at hl 1 rfl) ?_
  refine r_ldcS C (k := 3) (tx := "lend") (by decide +kernel) dX1_lend_23 ?_
  refine lv_iload_n C.1 C.2.1 dX1_lend_25 rfl (lv_at hl 2 rfl) ?_
  refine r_aload C.1 C.2.1 dX1_lend_26 (lv_at hl 0 rfl) ?_
  refine lv_iload C.1 C.2.1 dX1_lend_28 (lv_at hl 3 rfl) ?_
  refine c_S C hS hmc hl.1 (kX1_command C.2.2.2.2.2.2.1) hw (lw_S q416 q417 q67 q418) hdX1_command ⟨Nat.le_of_ble_eq_true rfl, Nat.le_of_ble_eq_true rfl⟩ (rest := [va_rf v0]) rfl rfl (Nat.le_of_ble_eq_true rfl) dX1_lend_30 (fun ci q z H locs hx hS ht => r_out C hS hmc (fun x hx => (hT x hx).elim) ht hx) (fun v z9 H locs hv hS => ?_)
  obtain ⟨x10, rfl, hw⟩ := hv
  refine c_VX C hS hmc hl.1 (ci := 0) rfl hw.1 (kX1_does C.2.2.2.2.2.2.1) hw.2 (lw_VW q438 q440 qs0 q67 q441) ⟨rfl, hdX1_does⟩ ⟨Nat.le_of_ble_eq_true rfl, Nat.le_of_ble_eq_true rfl⟩ (rest := []) rfl rfl (Nat.le_of_ble_eq_true rfl) dX1_lend_33 (fun ci q z H locs hx hS ht => r_out C hS hmc (fun x hx => (hT x hx).elim) ht hx) (fun v z11 H locs hv hS => ?_)
  obtain ⟨x12, rfl, hw⟩ := hv
  exact r_iret C hS hmc hr dX1_lend_36 hw
end
theorem kX1_lend {l : Launch} (hl : l.stackTraces = false) {G : gE} {P : Int32 → hSt → Prop} {PX : Nat → Nat → hSt → Prop} {v0 : Option Nat} {v1 : Int32} {v2 : Int32} {v3 : Int32} {v4 : Int32} {z : hSt} : cM l G yX1_lend (ws_ yX1_lend cX1_lend 6 (Option.some Jvm.ClassFile.FieldType.int)) 20 1430 z [va_rf v0, .int v1, .int v2, .int v3, .int v4] (wX1_lend G P PX v0 v1 v2 v3 v4 z) (pI P) PX := by
  refine m_of hl (plainFor_of_name (by decide)) (by rw [lg_sl1 (va_rf_cat _), lg_sl1 rfl, lg_sl1 rfl, lg_sl1 rfl, lg_sl1 rfl]; exact Nat.le_of_ble_eq_true rfl) ?_
  intro p e s m args below meth c C hr hin hT hmc hw
  rw [lv_args1 (va_rf_cat _), lv_args1 rfl, lv_args1 rfl, lv_args1 rfl, lv_args1 rfl]
  intro H locs ls hS hl
  exact kX1_lendb0 C hr hin hT hmc hw H locs ls hS (lv_sub hl [0, 1, 2, 3, 4] rfl)
theorem hdX1_lend : yX1_lend.cls ≠ "java/lang/invoke/MethodHandle" ∧ yX1_lend.cls ≠ "java/lang/invoke/VarHandle" ∧ (parseMethodDescriptor yX1_lend.desc).map (fun d => d.parameters.length) = some 4 := ⟨by decide +kernel, by decide +kernel, by decide +kernel⟩
abbrev rmX1_back (mc ms : Nat) : Room := { frames := 20, cells := mc, slots := ms, locals := 1430 }
def wX1_backb0 (G : gE) (P : Int32 → hSt → Prop) (PX : Nat → Nat → hSt → Prop)  (v0 : Option Nat) (v1 : Int32) (v2 : Int32) (z : hSt) : Prop :=
  wX1_checkedName G (fun x2 z1 => wX1_command G (fun x4 z3 => (rcv z3 v0 0 ∧ wX1_does G (fun x6 z5 => P x6 z5) PX v0 x4 z3)) PX (some (gA G 4)) (-1) x2 (-1) z1) PX v1 v2 z
def wX1_back (G : gE) (P : Int32 → hSt → Prop) (PX : Nat → Nat → hSt → Prop) (v0 : Option Nat) (v1 : Int32) (v2 : Int32) (z : hSt) : Prop := wX1_backb0 G P PX v0 v1 v2 z
section
variable {p : Program} {l : Launch} {e : Env} {s : State} {m : MethodId} {args : Array Value} {below : List Frame} {meth : Method} {c : Code} {G : gE} {mc ms : Nat} {P : Int32 → hSt → Prop} {PX : Nat → Nat → hSt → Prop}
theorem kX1_backb0 (C : xC G p l s m args meth c cX1_back 3 "ExcuseLedger") (hr : meth.sig.returnType = (Option.some Jvm.ClassFile.FieldType.int)) (hin : meth.name = "back") (hT : ∀ x ∈ c.exceptionTable.toList, False) (hmc : mc = gL G - s.heap.size ∧ ms = gU G - hsum s.heap)   {v0 : Option Nat} {v1 : Int32} {v2 : Int32} {z : hSt} (hw : wX1_backb0 G P PX  v0 v1 v2 z) : kt G p l e (rmX1_back mc ms) s m args below meth c 3 (vx_MQ below (cQ G (pI P)) (cX G PX) args s mc ms (gF G)) 0 [(0, va_rf v0), (1, .int v1), (2, .int v2)] [] z := by
  intro H locs ls hS hl
  refine r_aload_n C.1 C.2.1 dX1_back_0 rfl (lv_at hl 0 rfl) ?_
  refine r_ldcS C (k := 4) (tx := "back") (by decide +kernel) dX1_back_1 ?_
  refine lv_iconst C.1 C.2.1 (v := (-1)) dX1_back_3 rfl ?_
  refine lv_iload_n C.1 C.2.1 dX1_back_4 rfl (lv_at hl 1 rfl) ?_
  refine lv_iload_n C.1 C.2.1 dX1_back_5 rfl (lv_at hl 2 rfl) ?_
  refine c_S C hS hmc hl.1 (kX1_checkedName C.2.2.2.2.2.2.1) hw (lw_S q2411 q2412 q67 q2413) hdX1_checkedName ⟨Nat.le_of_ble_eq_true rfl, Nat.le_of_ble_eq_true rfl⟩ (rest := [.int (-1), va_rf (some (gA G 4)), va_rf v0]) rfl rfl (Nat.le_of_ble_eq_true rfl) dX1_back_6 (fun ci q z H locs hx hS ht => r_out C hS hmc (fun x hx => (hT x hx).elim) ht hx) (fun v z1 H locs hv hS => ?_)
  obtain ⟨x2, rfl, hw⟩ := hv
  refine lv_iconst C.1 C.2.1 (v := (-1)) dX1_back_9 rfl ?_
  refine c_S C hS hmc hl.1 (kX1_command C.2.2.2.2.2.2.1) hw (lw_S q416 q417 q67 q418) hdX1_command ⟨Nat.le_of_ble_eq_true rfl, Nat.le_of_ble_eq_true rfl⟩ (rest := [va_rf v0]) rfl rfl (Nat.le_of_ble_eq_true rfl) dX1_back_10 (fun ci q z H locs hx hS ht => r_out C hS hmc (fun x hx => (hT x hx).elim) ht hx) (fun v z3 H locs hv hS => ?_)
  obtain ⟨x4, rfl, hw⟩ := hv
  refine c_VX C hS hmc hl.1 (ci := 0) rfl hw.1 (kX1_does C.2.2.2.2.2.2.1) hw.2 (lw_VW q438 q440 qs0 q67 q441) ⟨rfl, hdX1_does⟩ ⟨Nat.le_of_ble_eq_true rfl, Nat.le_of_ble_eq_true rfl⟩ (rest := []) rfl rfl (Nat.le_of_ble_eq_true rfl) dX1_back_13 (fun ci q z H locs hx hS ht => r_out C hS hmc (fun x hx => (hT x hx).elim) ht hx) (fun v z5 H locs hv hS => ?_)
  obtain ⟨x6, rfl, hw⟩ := hv
  exact r_iret C hS hmc hr dX1_back_16 hw
end
theorem kX1_back {l : Launch} (hl : l.stackTraces = false) {G : gE} {P : Int32 → hSt → Prop} {PX : Nat → Nat → hSt → Prop} {v0 : Option Nat} {v1 : Int32} {v2 : Int32} {z : hSt} : cM l G yX1_back (ws_ yX1_back cX1_back 3 (Option.some Jvm.ClassFile.FieldType.int)) 20 1430 z [va_rf v0, .int v1, .int v2] (wX1_back G P PX v0 v1 v2 z) (pI P) PX := by
  refine m_of hl (plainFor_of_name (by decide)) (by rw [lg_sl1 (va_rf_cat _), lg_sl1 rfl, lg_sl1 rfl]; exact Nat.le_of_ble_eq_true rfl) ?_
  intro p e s m args below meth c C hr hin hT hmc hw
  rw [lv_args1 (va_rf_cat _), lv_args1 rfl, lv_args1 rfl]
  intro H locs ls hS hl
  exact kX1_backb0 C hr hin hT hmc hw H locs ls hS (lv_sub hl [0, 1, 2] rfl)
theorem hdX1_back : yX1_back.cls ≠ "java/lang/invoke/MethodHandle" ∧ yX1_back.cls ≠ "java/lang/invoke/VarHandle" ∧ (parseMethodDescriptor yX1_back.desc).map (fun d => d.parameters.length) = some 2 := ⟨by decide +kernel, by decide +kernel, by decide +kernel⟩
abbrev rmX1_mend (mc ms : Nat) : Room := { frames := 20, cells := mc, slots := ms, locals := 1430 }
def wX1_mendb0 (G : gE) (P : Int32 → hSt → Prop) (PX : Nat → Nat → hSt → Prop)  (v0 : Option Nat) (v1 : Int32) (v2 : Int32) (v3 : Int32) (z : hSt) : Prop :=
  wX1_checkedName G (fun x2 z1 => wX1_isLevel G (fun x4 z3 => wX1_checkArgument G (fun z5 => wX1_command G (fun x7 z6 => (rcv z6 v0 0 ∧ wX1_does G (fun x9 z8 => P x9 z8) PX v0 x7 z6)) PX (some (gA G 5)) (-1) x2 v3 z5) PX x4 z3) PX v3 z1) PX v1 v2 z
def wX1_mend (G : gE) (P : Int32 → hSt → Prop) (PX : Nat → Nat → hSt → Prop) (v0 : Option Nat) (v1 : Int32) (v2 : Int32) (v3 : Int32) (z : hSt) : Prop := wX1_mendb0 G P PX v0 v1 v2 v3 z
section
variable {p : Program} {l : Launch} {e : Env} {s : State} {m : MethodId} {args : Array Value} {below : List Frame} {meth : Method} {c : Code} {G : gE} {mc ms : Nat} {P : Int32 → hSt → Prop} {PX : Nat → Nat → hSt → Prop}
theorem kX1_mendb0 (C : xC G p l s m args meth c cX1_mend 5 "ExcuseLedger") (hr : meth.sig.returnType = (Option.some Jvm.ClassFile.FieldType.int)) (hin : meth.name = "mend") (hT : ∀ x ∈ c.exceptionTable.toList, False) (hmc : mc = gL G - s.heap.size ∧ ms = gU G - hsum s.heap)   {v0 : Option Nat} {v1 : Int32} {v2 : Int32} {v3 : Int32} {z : hSt} (hw : wX1_mendb0 G P PX  v0 v1 v2 v3 z) : kt G p l e (rmX1_mend mc ms) s m args below meth c 5 (vx_MQ below (cQ G (pI P)) (cX G PX) args s mc ms (gF G)) 0 [(0, va_rf v0), (1, .int v1), (2, .int v2), (3, .int v3)] [] z := by
  intro H locs ls hS hl
  refine lv_iload_n C.1 C.2.1 dX1_mend_0 rfl (lv_at hl 1 rfl) ?_
  refine lv_iload_n C.1 C.2.1 dX1_mend_1 rfl (lv_at hl 2 rfl) ?_
  refine c_S C hS hmc hl.1 (kX1_checkedName C.2.2.2.2.2.2.1) hw (lw_S q2411 q2412 q67 q2413) hdX1_checkedName ⟨Nat.le_of_ble_eq_true rfl, Nat.le_of_ble_eq_true rfl⟩ (rest := []) rfl rfl (Nat.le_of_ble_eq_true rfl) dX1_mend_2 (fun ci q z H locs hx hS ht => r_out C hS hmc (fun x hx => (hT x hx).elim) ht hx) (fun v z1 H locs hv hS => ?_)
  obtain ⟨x2, rfl, hw⟩ := hv
  refine r_astore C.1 C.2.1 dX1_mend_5 hl (Nat.le_of_ble_eq_true rfl) (ls_new (ls_old 0 rfl rfl (.inl rfl) (ls_old 3 rfl rfl (.inr rfl) ls_nil))) (fun ls hl => ?_)
  refine lv_iload_n C.1 C.2.1 dX1_mend_7 rfl (lv_at hl 2 rfl) ?_
  refine c_S C hS hmc hl.1 (kX1_isLevel C.2.2.2.2.2.2.1) hw (lw_S q2401 q1984 q67 q1985) hdX1_isLevel ⟨Nat.le_of_ble_eq_true rfl, Nat.le_of_ble_eq_true rfl⟩ (rest := []) rfl rfl (Nat.le_of_ble_eq_true rfl) dX1_mend_8 (fun ci q z H locs hx hS ht => r_out C hS hmc (fun x hx => (hT x hx).elim) ht hx) (fun v z3 H locs hv hS => ?_)
  obtain ⟨x4, rfl, hw⟩ := hv
  refine c_S C hS hmc hl.1 (kX1_checkArgument C.2.2.2.2.2.2.1) hw (lw_S q2402 q2403 q67 q2404) hdX1_checkArgument ⟨Nat.le_of_ble_eq_true rfl, Nat.le_of_ble_eq_true rfl⟩ (rest := []) rfl rfl (Nat.le_of_ble_eq_true rfl) dX1_mend_11 (fun ci q z H locs hx hS ht => r_out C hS hmc (fun x hx => (hT x hx).elim) ht hx) (fun v z5 H locs hv hS => ?_)
  obtain ⟨rfl, hw⟩ := hv
  refine r_aload_n C.1 C.2.1 dX1_mend_14 rfl (lv_at hl 1 rfl) ?_
  refine r_ldcS C (k := 5) (tx := "mend") (by decide +kernel) dX1_mend_15 ?_
  refine lv_iconst C.1 C.2.1 (v := (-1)) dX1_mend_17 rfl ?_
  refine r_aload C.1 C.2.1 dX1_mend_18 (lv_at hl 0 rfl) ?_
  refine lv_iload_n C.1 C.2.1 dX1_mend_20 rfl (lv_at hl 2 rfl) ?_
  refine c_S C hS hmc hl.1 (kX1_command C.2.2.2.2.2.2.1) hw (lw_S q416 q417 q67 q418) hdX1_command ⟨Nat.le_of_ble_eq_true rfl, Nat.le_of_ble_eq_true rfl⟩ (rest := [va_rf v0]) rfl rfl (Nat.le_of_ble_eq_true rfl) dX1_mend_21 (fun ci q z H locs hx hS ht => r_out C hS hmc (fun x hx => (hT x hx).elim) ht hx) (fun v z6 H locs hv hS => ?_)
  obtain ⟨x7, rfl, hw⟩ := hv
  refine c_VX C hS hmc hl.1 (ci := 0) rfl hw.1 (kX1_does C.2.2.2.2.2.2.1) hw.2 (lw_VW q438 q440 qs0 q67 q441) ⟨rfl, hdX1_does⟩ ⟨Nat.le_of_ble_eq_true rfl, Nat.le_of_ble_eq_true rfl⟩ (rest := []) rfl rfl (Nat.le_of_ble_eq_true rfl) dX1_mend_24 (fun ci q z H locs hx hS ht => r_out C hS hmc (fun x hx => (hT x hx).elim) ht hx) (fun v z8 H locs hv hS => ?_)
  obtain ⟨x9, rfl, hw⟩ := hv
  exact r_iret C hS hmc hr dX1_mend_27 hw
end
theorem kX1_mend {l : Launch} (hl : l.stackTraces = false) {G : gE} {P : Int32 → hSt → Prop} {PX : Nat → Nat → hSt → Prop} {v0 : Option Nat} {v1 : Int32} {v2 : Int32} {v3 : Int32} {z : hSt} : cM l G yX1_mend (ws_ yX1_mend cX1_mend 5 (Option.some Jvm.ClassFile.FieldType.int)) 20 1430 z [va_rf v0, .int v1, .int v2, .int v3] (wX1_mend G P PX v0 v1 v2 v3 z) (pI P) PX := by
  refine m_of hl (plainFor_of_name (by decide)) (by rw [lg_sl1 (va_rf_cat _), lg_sl1 rfl, lg_sl1 rfl, lg_sl1 rfl]; exact Nat.le_of_ble_eq_true rfl) ?_
  intro p e s m args below meth c C hr hin hT hmc hw
  rw [lv_args1 (va_rf_cat _), lv_args1 rfl, lv_args1 rfl, lv_args1 rfl]
  intro H locs ls hS hl
  exact kX1_mendb0 C hr hin hT hmc hw H locs ls hS (lv_sub hl [0, 1, 2, 3] rfl)
theorem hdX1_mend : yX1_mend.cls ≠ "java/lang/invoke/MethodHandle" ∧ yX1_mend.cls ≠ "java/lang/invoke/VarHandle" ∧ (parseMethodDescriptor yX1_mend.desc).map (fun d => d.parameters.length) = some 3 := ⟨by decide +kernel, by decide +kernel, by decide +kernel⟩
abbrev rmX1_use (mc ms : Nat) : Room := { frames := 20, cells := mc, slots := ms, locals := 1430 }
def wX1_useb20 (G : gE) (P : Int32 → hSt → Prop) (PX : Nat → Nat → hSt → Prop)  (v0 : Option Nat) (v1 : Int32) (v2 : Int32) (v3 : Int32) (v4 : Int32) (s0 : Int32) (z : hSt) : Prop :=
  wX1_checkIndex G (fun z5 => wX1_checkedName G (fun x7 z6 => wX1_command G (fun x9 z8 => (rcv z8 v0 0 ∧ wX1_does G (fun x11 z10 => ((¬ x11 = 1 → (okN .boolean 0 ∧ P 0 z10)) ∧ (x11 = 1 → (okN .boolean 1 ∧ P 1 z10)))) PX v0 x9 z8)) PX (some (gA G 6)) v1 x7 v4 z6) PX v2 v3 z5) PX s0 z
def wX1_useb19 (G : gE) (P : Int32 → hSt → Prop) (PX : Nat → Nat → hSt → Prop)  (v0 : Option Nat) (v1 : Int32) (v2 : Int32) (v3 : Int32) (v4 : Int32) (z : hSt) : Prop :=
  wX1_useb20 G P PX  v0 v1 v2 v3 v4 0 z
def wX1_useb0 (G : gE) (P : Int32 → hSt → Prop) (PX : Nat → Nat → hSt → Prop)  (v0 : Option Nat) (v1 : Int32) (v2 : Int32) (v3 : Int32) (v4 : Int32) (z : hSt) : Prop :=
  wX1_isPupil G (fun x2 z1 => ((x2 = 0 → wX1_useb19 G P PX  v0 v1 v2 v3 v4 z1) ∧ (¬ x2 = 0 → wX1_isSchool G (fun x4 z3 => ((x4 = 0 → wX1_useb19 G P PX  v0 v1 v2 v3 v4 z3) ∧ (¬ x4 = 0 → wX1_useb20 G P PX  v0 v1 v2 v3 v4 1 z3))) PX v4 z1))) PX v1 z
def wX1_use (G : gE) (P : Int32 → hSt → Prop) (PX : Nat → Nat → hSt → Prop) (v0 : Option Nat) (v1 : Int32) (v2 : Int32) (v3 : Int32) (v4 : Int32) (z : hSt) : Prop := wX1_useb0 G P PX v0 v1 v2 v3 v4 z
section
variable {p : Program} {l : Launch} {e : Env} {s : State} {m : MethodId} {args : Array Value} {below : List Frame} {meth : Method} {c : Code} {G : gE} {mc ms : Nat} {P : Int32 → hSt → Prop} {PX : Nat → Nat → hSt → Prop}
theorem kX1_useb20 (C : xC G p l s m args meth c cX1_use 5 "ExcuseLedger") (hr : meth.sig.returnType = (Option.some Jvm.ClassFile.FieldType.boolean)) (hin : meth.name = "use") (hT : ∀ x ∈ c.exceptionTable.toList, False) (hmc : mc = gL G - s.heap.size ∧ ms = gU G - hsum s.heap)   {v0 : Option Nat} {v1 : Int32} {v2 : Int32} {v3 : Int32} {v4 : Int32} {s0 : Int32} {z : hSt} (hw : wX1_useb20 G P PX  v0 v1 v2 v3 v4 s0 z) : kt G p l e (rmX1_use mc ms) s m args below meth c 5 (vx_MQ below (cQ G (pI P)) (cX G PX) args s mc ms (gF G)) 20 [(0, va_rf v0), (1, .int v1), (2, .int v2), (3, .int v3), (4, .int v4)] [.int s0] z := by
  intro H locs ls hS hl
  refine c_S C hS hmc hl.1 (kX1_checkIndex C.2.2.2.2.2.2.1) hw (lw_S q2383 q2384 q67 q2385) hdX1_checkIndex ⟨Nat.le_of_ble_eq_true rfl, Nat.le_of_ble_eq_true rfl⟩ (rest := []) rfl rfl (Nat.le_of_ble_eq_true rfl) dX1_use_20 (fun ci q z H locs hx hS ht => r_out C hS hmc (fun x hx => (hT x hx).elim) ht hx) (fun v z5 H locs hv hS => ?_)
  obtain ⟨rfl, hw⟩ := hv
  refine r_aload_n C.1 C.2.1 dX1_use_23 rfl (lv_at hl 0 rfl) ?_
  refine r_ldcS C (k := 6) (tx := "use") (by decide +kernel) dX1_use_24 ?_
  refine lv_iload_n C.1 C.2.1 dX1_use_26 rfl (lv_at hl 1 rfl) ?_
  refine lv_iload_n C.1 C.2.1 dX1_use_27 rfl (lv_at hl 2 rfl) ?_
  refine lv_iload_n C.1 C.2.1 dX1_use_28 rfl (lv_at hl 3 rfl) ?_
  refine c_S C hS hmc hl.1 (kX1_checkedName C.2.2.2.2.2.2.1) hw (lw_S q2411 q2412 q67 q2413) hdX1_checkedName ⟨Nat.le_of_ble_eq_true rfl, Nat.le_of_ble_eq_true rfl⟩ (rest := [.int v1, va_rf (some (gA G 6)), va_rf v0]) rfl rfl (Nat.le_of_ble_eq_true rfl) dX1_use_29 (fun ci q z H locs hx hS ht => r_out C hS hmc (fun x hx => (hT x hx).elim) ht hx) (fun v z6 H locs hv hS => ?_)
  obtain ⟨x7, rfl, hw⟩ := hv
  refine lv_iload C.1 C.2.1 dX1_use_32 (lv_at hl 4 rfl) ?_
  refine c_S C hS hmc hl.1 (kX1_command C.2.2.2.2.2.2.1) hw (lw_S q416 q417 q67 q418) hdX1_command ⟨Nat.le_of_ble_eq_true rfl, Nat.le_of_ble_eq_true rfl⟩ (rest := [va_rf v0]) rfl rfl (Nat.le_of_ble_eq_true rfl) dX1_use_34 (fun ci q z H locs hx hS ht => r_out C hS hmc (fun x hx => (hT x hx).elim) ht hx) (fun v z8 H locs hv hS => ?_)
  obtain ⟨x9, rfl, hw⟩ := hv
  refine c_VX C hS hmc hl.1 (ci := 0) rfl hw.1 (kX1_does C.2.2.2.2.2.2.1) hw.2 (lw_VW q438 q440 qs0 q67 q441) ⟨rfl, hdX1_does⟩ ⟨Nat.le_of_ble_eq_true rfl, Nat.le_of_ble_eq_true rfl⟩ (rest := []) rfl rfl (Nat.le_of_ble_eq_true rfl) dX1_use_37 (fun ci q z H locs hx hS ht => r_out C hS hmc (fun x hx => (hT x hx).elim) ht hx) (fun v z10 H locs hv hS => ?_)
  obtain ⟨x11, rfl, hw⟩ := hv
  refine lv_iconst C.1 C.2.1 (v := 1) dX1_use_40 rfl ?_
  refine lv_icmp_ne C.1 C.2.1 dX1_use_41 rfl (fun h => ?_) (fun h => ?_)
  · have hw := hw.1 h
    refine lv_iconst C.1 C.2.1 (v := 0) dX1_use_48 rfl ?_
    exact r_zret C hS hmc hr dX1_use_49 hw
  · have hw := hw.2 h
    refine lv_iconst C.1 C.2.1 (v := 1) dX1_use_44 rfl ?_
    refine lv_goto C.1 C.2.1 dX1_use_45 rfl ?_
    exact r_zret C hS hmc hr dX1_use_49 hw
theorem kX1_useb19 (C : xC G p l s m args meth c cX1_use 5 "ExcuseLedger") (hr : meth.sig.returnType = (Option.some Jvm.ClassFile.FieldType.boolean)) (hin : meth.name = "use") (hT : ∀ x ∈ c.exceptionTable.toList, False) (hmc : mc = gL G - s.heap.size ∧ ms = gU G - hsum s.heap)   {v0 : Option Nat} {v1 : Int32} {v2 : Int32} {v3 : Int32} {v4 : Int32} {z : hSt} (hw : wX1_useb19 G P PX  v0 v1 v2 v3 v4 z) : kt G p l e (rmX1_use mc ms) s m args below meth c 5 (vx_MQ below (cQ G (pI P)) (cX G PX) args s mc ms (gF G)) 19 [(0, va_rf v0), (1, .int v1), (2, .int v2), (3, .int v3), (4, .int v4)] [] z := by
  intro H locs ls hS hl
  refine lv_iconst C.1 C.2.1 (v := 0) dX1_use_19 rfl ?_
  exact kX1_useb20 C hr hin hT hmc  hw H locs ls hS (lv_sub hl [0, 1, 2, 3, 4] rfl)
theorem kX1_useb0 (C : xC G p l s m args meth c cX1_use 5 "ExcuseLedger") (hr : meth.sig.returnType = (Option.some Jvm.ClassFile.FieldType.boolean)) (hin : meth.name = "use") (hT : ∀ x ∈ c.exceptionTable.toList, False) (hmc : mc = gL G - s.heap.size ∧ ms = gU G - hsum s.heap)   {v0 : Option Nat} {v1 : Int32} {v2 : Int32} {v3 : Int32} {v4 : Int32} {z : hSt} (hw : wX1_useb0 G P PX  v0 v1 v2 v3 v4 z) : kt G p l e (rmX1_use mc ms) s m args below meth c 5 (vx_MQ below (cQ G (pI P)) (cX G PX) args s mc ms (gF G)) 0 [(0, va_rf v0), (1, .int v1), (2, .int v2), (3, .int v3), (4, .int v4)] [] z := by
  intro H locs ls hS hl
  refine lv_iload_n C.1 C.2.1 dX1_use_0 rfl (lv_at hl 1 rfl) ?_
  refine c_S C hS hmc hl.1 (kX1_isPupil C.2.2.2.2.2.2.1) hw (lw_S q2382 q1978 q67 q1979) hdX1_isPupil ⟨Nat.le_of_ble_eq_true rfl, Nat.le_of_ble_eq_true rfl⟩ (rest := []) rfl rfl (Nat.le_of_ble_eq_true rfl) dX1_use_1 (fun ci q z H locs hx hS ht => r_out C hS hmc (fun x hx => (hT x hx).elim) ht hx) (fun v z1 H locs hv hS => ?_)
  obtain ⟨x2, rfl, hw⟩ := hv
  refine lv_if_eq C.1 C.2.1 dX1_use_4 rfl (fun h => ?_) (fun h => ?_)
  · have hw := hw.1 h
    exact kX1_useb19 C hr hin hT hmc  hw H locs ls hS (lv_sub hl [0, 1, 2, 3, 4] rfl)
  · have hw := hw.2 h
    refine lv_iload C.1 C.2.1 dX1_use_7 (lv_at hl 4 rfl) ?_
    refine c_S C hS hmc hl.1 (kX1_isSchool C.2.2.2.2.2.2.1) hw (lw_S q2462 q1990 q67 q1991) hdX1_isSchool ⟨Nat.le_of_ble_eq_true rfl, Nat.le_of_ble_eq_true rfl⟩ (rest := []) rfl rfl (Nat.le_of_ble_eq_true rfl) dX1_use_9 (fun ci q z H locs hx hS ht => r_out C hS hmc (fun x hx => (hT x hx).elim) ht hx) (fun v z3 H locs hv hS => ?_)
    obtain ⟨x4, rfl, hw⟩ := hv
    refine lv_if_eq C.1 C.2.1 dX1_use_12 rfl (fun h => ?_) (fun h => ?_)
    · have hw := hw.1 h
      exact kX1_useb19 C hr hin hT hmc  hw H locs ls hS (lv_sub hl [0, 1, 2, 3, 4] rfl)
    · have hw := hw.2 h
      refine lv_iconst C.1 C.2.1 (v := 1) dX1_use_15 rfl ?_
      refine lv_goto C.1 C.2.1 dX1_use_16 rfl ?_
      exact kX1_useb20 C hr hin hT hmc  hw H locs ls hS (lv_sub hl [0, 1, 2, 3, 4] rfl)
end
theorem kX1_use {l : Launch} (hl : l.stackTraces = false) {G : gE} {P : Int32 → hSt → Prop} {PX : Nat → Nat → hSt → Prop} {v0 : Option Nat} {v1 : Int32} {v2 : Int32} {v3 : Int32} {v4 : Int32} {z : hSt} : cM l G yX1_use (ws_ yX1_use cX1_use 5 (Option.some Jvm.ClassFile.FieldType.boolean)) 20 1430 z [va_rf v0, .int v1, .int v2, .int v3, .int v4] (wX1_use G P PX v0 v1 v2 v3 v4 z) (pI P) PX := by
  refine m_of hl (plainFor_of_name (by decide)) (by rw [lg_sl1 (va_rf_cat _), lg_sl1 rfl, lg_sl1 rfl, lg_sl1 rfl, lg_sl1 rfl]; exact Nat.le_of_ble_eq_true rfl) ?_
  intro p e s m args below meth c C hr hin hT hmc hw
  rw [lv_args1 (va_rf_cat _), lv_args1 rfl, lv_args1 rfl, lv_args1 rfl, lv_args1 rfl]
  intro H locs ls hS hl
  exact kX1_useb0 C hr hin hT hmc hw H locs ls hS (lv_sub hl [0, 1, 2, 3, 4] rfl)
theorem hdX1_use : yX1_use.cls ≠ "java/lang/invoke/MethodHandle" ∧ yX1_use.cls ≠ "java/lang/invoke/VarHandle" ∧ (parseMethodDescriptor yX1_use.desc).map (fun d => d.parameters.length) = some 4 := ⟨by decide +kernel, by decide +kernel, by decide +kernel⟩
abbrev rmX1_strict (mc ms : Nat) : Room := { frames := 20, cells := mc, slots := ms, locals := 1430 }
def wX1_strictb0 (G : gE) (P : Int32 → hSt → Prop) (PX : Nat → Nat → hSt → Prop)  (v0 : Option Nat) (v1 : Int32) (v2 : Int32) (z : hSt) : Prop :=
  wX1_isSchool G (fun x2 z1 => wX1_checkIndex G (fun z3 => wX1_isLevel G (fun x5 z4 => wX1_checkArgument G (fun z6 => wX1_command G (fun x8 z7 => (rcv z7 v0 0 ∧ wX1_does G (fun x10 z9 => P x10 z9) PX v0 x8 z7)) PX (some (gA G 7)) v1 none v2 z6) PX x5 z4) PX v2 z3) PX x2 z1) PX v1 z
def wX1_strict (G : gE) (P : Int32 → hSt → Prop) (PX : Nat → Nat → hSt → Prop) (v0 : Option Nat) (v1 : Int32) (v2 : Int32) (z : hSt) : Prop := wX1_strictb0 G P PX v0 v1 v2 z
section
variable {p : Program} {l : Launch} {e : Env} {s : State} {m : MethodId} {args : Array Value} {below : List Frame} {meth : Method} {c : Code} {G : gE} {mc ms : Nat} {P : Int32 → hSt → Prop} {PX : Nat → Nat → hSt → Prop}
theorem kX1_strictb0 (C : xC G p l s m args meth c cX1_strict 3 "ExcuseLedger") (hr : meth.sig.returnType = (Option.some Jvm.ClassFile.FieldType.int)) (hin : meth.name = "strict") (hT : ∀ x ∈ c.exceptionTable.toList, False) (hmc : mc = gL G - s.heap.size ∧ ms = gU G - hsum s.heap)   {v0 : Option Nat} {v1 : Int32} {v2 : Int32} {z : hSt} (hw : wX1_strictb0 G P PX  v0 v1 v2 z) : kt G p l e (rmX1_strict mc ms) s m args below meth c 3 (vx_MQ below (cQ G (pI P)) (cX G PX) args s mc ms (gF G)) 0 [(0, va_rf v0), (1, .int v1), (2, .int v2)] [] z := by
  intro H locs ls hS hl
  refine lv_iload_n C.1 C.2.1 dX1_strict_0 rfl (lv_at hl 1 rfl) ?_
  refine c_S C hS hmc hl.1 (kX1_isSchool C.2.2.2.2.2.2.1) hw (lw_S q2462 q1990 q67 q1991) hdX1_isSchool ⟨Nat.le_of_ble_eq_true rfl, Nat.le_of_ble_eq_true rfl⟩ (rest := []) rfl rfl (Nat.le_of_ble_eq_true rfl) dX1_strict_1 (fun ci q z H locs hx hS ht => r_out C hS hmc (fun x hx => (hT x hx).elim) ht hx) (fun v z1 H locs hv hS => ?_)
  obtain ⟨x2, rfl, hw⟩ := hv
  refine c_S C hS hmc hl.1 (kX1_checkIndex C.2.2.2.2.2.2.1) hw (lw_S q2383 q2384 q67 q2385) hdX1_checkIndex ⟨Nat.le_of_ble_eq_true rfl, Nat.le_of_ble_eq_true rfl⟩ (rest := []) rfl rfl (Nat.le_of_ble_eq_true rfl) dX1_strict_4 (fun ci q z H locs hx hS ht => r_out C hS hmc (fun x hx => (hT x hx).elim) ht hx) (fun v z3 H locs hv hS => ?_)
  obtain ⟨rfl, hw⟩ := hv
  refine lv_iload_n C.1 C.2.1 dX1_strict_7 rfl (lv_at hl 2 rfl) ?_
  refine c_S C hS hmc hl.1 (kX1_isLevel C.2.2.2.2.2.2.1) hw (lw_S q2401 q1984 q67 q1985) hdX1_isLevel ⟨Nat.le_of_ble_eq_true rfl, Nat.le_of_ble_eq_true rfl⟩ (rest := []) rfl rfl (Nat.le_of_ble_eq_true rfl) dX1_strict_8 (fun ci q z H locs hx hS ht => r_out C hS hmc (fun x hx => (hT x hx).elim) ht hx) (fun v z4 H locs hv hS => ?_)
  obtain ⟨x5, rfl, hw⟩ := hv
  refine c_S C hS hmc hl.1 (kX1_checkArgument C.2.2.2.2.2.2.1) hw (lw_S q2402 q2403 q67 q2404) hdX1_checkArgument ⟨Nat.le_of_ble_eq_true rfl, Nat.le_of_ble_eq_true rfl⟩ (rest := []) rfl rfl (Nat.le_of_ble_eq_true rfl) dX1_strict_11 (fun ci q z H locs hx hS ht => r_out C hS hmc (fun x hx => (hT x hx).elim) ht hx) (fun v z6 H locs hv hS => ?_)
  obtain ⟨rfl, hw⟩ := hv
  refine r_aload_n C.1 C.2.1 dX1_strict_14 rfl (lv_at hl 0 rfl) ?_
  refine r_ldcS C (k := 7) (tx := "strict") (by decide +kernel) dX1_strict_15 ?_
  refine lv_iload_n C.1 C.2.1 dX1_strict_17 rfl (lv_at hl 1 rfl) ?_
  refine r_null C dX1_strict_18 ?_
  refine lv_iload_n C.1 C.2.1 dX1_strict_19 rfl (lv_at hl 2 rfl) ?_
  refine c_S C hS hmc hl.1 (kX1_command C.2.2.2.2.2.2.1) hw (lw_S q416 q417 q67 q418) hdX1_command ⟨Nat.le_of_ble_eq_true rfl, Nat.le_of_ble_eq_true rfl⟩ (rest := [va_rf v0]) rfl rfl (Nat.le_of_ble_eq_true rfl) dX1_strict_20 (fun ci q z H locs hx hS ht => r_out C hS hmc (fun x hx => (hT x hx).elim) ht hx) (fun v z7 H locs hv hS => ?_)
  obtain ⟨x8, rfl, hw⟩ := hv
  refine c_VX C hS hmc hl.1 (ci := 0) rfl hw.1 (kX1_does C.2.2.2.2.2.2.1) hw.2 (lw_VW q438 q440 qs0 q67 q441) ⟨rfl, hdX1_does⟩ ⟨Nat.le_of_ble_eq_true rfl, Nat.le_of_ble_eq_true rfl⟩ (rest := []) rfl rfl (Nat.le_of_ble_eq_true rfl) dX1_strict_23 (fun ci q z H locs hx hS ht => r_out C hS hmc (fun x hx => (hT x hx).elim) ht hx) (fun v z9 H locs hv hS => ?_)
  obtain ⟨x10, rfl, hw⟩ := hv
  exact r_iret C hS hmc hr dX1_strict_26 hw
end
theorem kX1_strict {l : Launch} (hl : l.stackTraces = false) {G : gE} {P : Int32 → hSt → Prop} {PX : Nat → Nat → hSt → Prop} {v0 : Option Nat} {v1 : Int32} {v2 : Int32} {z : hSt} : cM l G yX1_strict (ws_ yX1_strict cX1_strict 3 (Option.some Jvm.ClassFile.FieldType.int)) 20 1430 z [va_rf v0, .int v1, .int v2] (wX1_strict G P PX v0 v1 v2 z) (pI P) PX := by
  refine m_of hl (plainFor_of_name (by decide)) (by rw [lg_sl1 (va_rf_cat _), lg_sl1 rfl, lg_sl1 rfl]; exact Nat.le_of_ble_eq_true rfl) ?_
  intro p e s m args below meth c C hr hin hT hmc hw
  rw [lv_args1 (va_rf_cat _), lv_args1 rfl, lv_args1 rfl]
  intro H locs ls hS hl
  exact kX1_strictb0 C hr hin hT hmc hw H locs ls hS (lv_sub hl [0, 1, 2] rfl)
theorem hdX1_strict : yX1_strict.cls ≠ "java/lang/invoke/MethodHandle" ∧ yX1_strict.cls ≠ "java/lang/invoke/VarHandle" ∧ (parseMethodDescriptor yX1_strict.desc).map (fun d => d.parameters.length) = some 2 := ⟨by decide +kernel, by decide +kernel, by decide +kernel⟩
abbrev rmX1_weather (mc ms : Nat) : Room := { frames := 20, cells := mc, slots := ms, locals := 1430 }
def wX1_weatherb0 (G : gE) (P : Int32 → hSt → Prop) (PX : Nat → Nat → hSt → Prop)  (v0 : Option Nat) (v1 : Int32) (z : hSt) : Prop :=
  wX1_isTopic G (fun x2 z1 => wX1_checkArgument G (fun z3 => wX1_command G (fun x5 z4 => (rcv z4 v0 0 ∧ wX1_does G (fun x7 z6 => P x7 z6) PX v0 x5 z4)) PX (some (gA G 8)) (-1) none v1 z3) PX x2 z1) PX v1 z
def wX1_weather (G : gE) (P : Int32 → hSt → Prop) (PX : Nat → Nat → hSt → Prop) (v0 : Option Nat) (v1 : Int32) (z : hSt) : Prop := wX1_weatherb0 G P PX v0 v1 z
section
variable {p : Program} {l : Launch} {e : Env} {s : State} {m : MethodId} {args : Array Value} {below : List Frame} {meth : Method} {c : Code} {G : gE} {mc ms : Nat} {P : Int32 → hSt → Prop} {PX : Nat → Nat → hSt → Prop}
theorem kX1_weatherb0 (C : xC G p l s m args meth c cX1_weather 2 "ExcuseLedger") (hr : meth.sig.returnType = (Option.some Jvm.ClassFile.FieldType.int)) (hin : meth.name = "weather") (hT : ∀ x ∈ c.exceptionTable.toList, False) (hmc : mc = gL G - s.heap.size ∧ ms = gU G - hsum s.heap)   {v0 : Option Nat} {v1 : Int32} {z : hSt} (hw : wX1_weatherb0 G P PX  v0 v1 z) : kt G p l e (rmX1_weather mc ms) s m args below meth c 2 (vx_MQ below (cQ G (pI P)) (cX G PX) args s mc ms (gF G)) 0 [(0, va_rf v0), (1, .int v1)] [] z := by
  intro H locs ls hS hl
  refine lv_iload_n C.1 C.2.1 dX1_weather_0 rfl (lv_at hl 1 rfl) ?_
  refine c_S C hS hmc hl.1 (kX1_isTopic C.2.2.2.2.2.2.1) hw (lw_S q2417 q2418 q67 q2419) hdX1_isTopic ⟨Nat.le_of_ble_eq_true rfl, Nat.le_of_ble_eq_true rfl⟩ (rest := []) rfl rfl (Nat.le_of_ble_eq_true rfl) dX1_weather_1 (fun ci q z H locs hx hS ht => r_out C hS hmc (fun x hx => (hT x hx).elim) ht hx) (fun v z1 H locs hv hS => ?_)
  obtain ⟨x2, rfl, hw⟩ := hv
  refine c_S C hS hmc hl.1 (kX1_checkArgument C.2.2.2.2.2.2.1) hw (lw_S q2402 q2403 q67 q2404) hdX1_checkArgument ⟨Nat.le_of_ble_eq_true rfl, Nat.le_of_ble_eq_true rfl⟩ (rest := []) rfl rfl (Nat.le_of_ble_eq_true rfl) dX1_weather_4 (fun ci q z H locs hx hS ht => r_out C hS hmc (fun x hx => (hT x hx).elim) ht hx) (fun v z3 H locs hv hS => ?_)
  obtain ⟨rfl, hw⟩ := hv
  refine r_aload_n C.1 C.2.1 dX1_weather_7 rfl (lv_at hl 0 rfl) ?_
  refine r_ldcS C (k := 8) (tx := "weather") (by decide +kernel) dX1_weather_8 ?_
  refine lv_iconst C.1 C.2.1 (v := (-1)) dX1_weather_10 rfl ?_
  refine r_null C dX1_weather_11 ?_
  refine lv_iload_n C.1 C.2.1 dX1_weather_12 rfl (lv_at hl 1 rfl) ?_
  refine c_S C hS hmc hl.1 (kX1_command C.2.2.2.2.2.2.1) hw (lw_S q416 q417 q67 q418) hdX1_command ⟨Nat.le_of_ble_eq_true rfl, Nat.le_of_ble_eq_true rfl⟩ (rest := [va_rf v0]) rfl rfl (Nat.le_of_ble_eq_true rfl) dX1_weather_13 (fun ci q z H locs hx hS ht => r_out C hS hmc (fun x hx => (hT x hx).elim) ht hx) (fun v z4 H locs hv hS => ?_)
  obtain ⟨x5, rfl, hw⟩ := hv
  refine c_VX C hS hmc hl.1 (ci := 0) rfl hw.1 (kX1_does C.2.2.2.2.2.2.1) hw.2 (lw_VW q438 q440 qs0 q67 q441) ⟨rfl, hdX1_does⟩ ⟨Nat.le_of_ble_eq_true rfl, Nat.le_of_ble_eq_true rfl⟩ (rest := []) rfl rfl (Nat.le_of_ble_eq_true rfl) dX1_weather_16 (fun ci q z H locs hx hS ht => r_out C hS hmc (fun x hx => (hT x hx).elim) ht hx) (fun v z6 H locs hv hS => ?_)
  obtain ⟨x7, rfl, hw⟩ := hv
  exact r_iret C hS hmc hr dX1_weather_19 hw
end
theorem kX1_weather {l : Launch} (hl : l.stackTraces = false) {G : gE} {P : Int32 → hSt → Prop} {PX : Nat → Nat → hSt → Prop} {v0 : Option Nat} {v1 : Int32} {z : hSt} : cM l G yX1_weather (ws_ yX1_weather cX1_weather 2 (Option.some Jvm.ClassFile.FieldType.int)) 20 1430 z [va_rf v0, .int v1] (wX1_weather G P PX v0 v1 z) (pI P) PX := by
  refine m_of hl (plainFor_of_name (by decide)) (by rw [lg_sl1 (va_rf_cat _), lg_sl1 rfl]; exact Nat.le_of_ble_eq_true rfl) ?_
  intro p e s m args below meth c C hr hin hT hmc hw
  rw [lv_args1 (va_rf_cat _), lv_args1 rfl]
  intro H locs ls hS hl
  exact kX1_weatherb0 C hr hin hT hmc hw H locs ls hS (lv_sub hl [0, 1] rfl)
theorem hdX1_weather : yX1_weather.cls ≠ "java/lang/invoke/MethodHandle" ∧ yX1_weather.cls ≠ "java/lang/invoke/VarHandle" ∧ (parseMethodDescriptor yX1_weather.desc).map (fun d => d.parameters.length) = some 1 := ⟨by decide +kernel, by decide +kernel, by decide +kernel⟩
abbrev rmX1_day (mc ms : Nat) : Room := { frames := 20, cells := mc, slots := ms, locals := 1430 }
def wX1_dayb0 (G : gE) (P : Int32 → hSt → Prop) (PX : Nat → Nat → hSt → Prop)  (v0 : Option Nat) (z : hSt) : Prop :=
  wX1_command G (fun x2 z1 => (rcv z1 v0 0 ∧ wX1_does G (fun x4 z3 => P x4 z3) PX v0 x2 z1)) PX (some (gA G 9)) (-1) none (-1) z
def wX1_day (G : gE) (P : Int32 → hSt → Prop) (PX : Nat → Nat → hSt → Prop) (v0 : Option Nat) (z : hSt) : Prop := wX1_dayb0 G P PX v0 z
section
variable {p : Program} {l : Launch} {e : Env} {s : State} {m : MethodId} {args : Array Value} {below : List Frame} {meth : Method} {c : Code} {G : gE} {mc ms : Nat} {P : Int32 → hSt → Prop} {PX : Nat → Nat → hSt → Prop}
theorem kX1_dayb0 (C : xC G p l s m args meth c cX1_day 1 "ExcuseLedger") (hr : meth.sig.returnType = (Option.some Jvm.ClassFile.FieldType.int)) (hin : meth.name = "day") (hT : ∀ x ∈ c.exceptionTable.toList, False) (hmc : mc = gL G - s.heap.size ∧ ms = gU G - hsum s.heap)   {v0 : Option Nat} {z : hSt} (hw : wX1_dayb0 G P PX  v0 z) : kt G p l e (rmX1_day mc ms) s m args below meth c 1 (vx_MQ below (cQ G (pI P)) (cX G PX) args s mc ms (gF G)) 0 [(0, va_rf v0)] [] z := by
  intro H locs ls hS hl
  refine r_aload_n C.1 C.2.1 dX1_day_0 rfl (lv_at hl 0 rfl) ?_
  refine r_ldcS C (k := 9) (tx := "day") (by decide +kernel) dX1_day_1 ?_
  refine lv_iconst C.1 C.2.1 (v := (-1)) dX1_day_3 rfl ?_
  refine r_null C dX1_day_4 ?_
  refine lv_iconst C.1 C.2.1 (v := (-1)) dX1_day_5 rfl ?_
  refine c_S C hS hmc hl.1 (kX1_command C.2.2.2.2.2.2.1) hw (lw_S q416 q417 q67 q418) hdX1_command ⟨Nat.le_of_ble_eq_true rfl, Nat.le_of_ble_eq_true rfl⟩ (rest := [va_rf v0]) rfl rfl (Nat.le_of_ble_eq_true rfl) dX1_day_6 (fun ci q z H locs hx hS ht => r_out C hS hmc (fun x hx => (hT x hx).elim) ht hx) (fun v z1 H locs hv hS => ?_)
  obtain ⟨x2, rfl, hw⟩ := hv
  refine c_VX C hS hmc hl.1 (ci := 0) rfl hw.1 (kX1_does C.2.2.2.2.2.2.1) hw.2 (lw_VW q438 q440 qs0 q67 q441) ⟨rfl, hdX1_does⟩ ⟨Nat.le_of_ble_eq_true rfl, Nat.le_of_ble_eq_true rfl⟩ (rest := []) rfl rfl (Nat.le_of_ble_eq_true rfl) dX1_day_9 (fun ci q z H locs hx hS ht => r_out C hS hmc (fun x hx => (hT x hx).elim) ht hx) (fun v z3 H locs hv hS => ?_)
  obtain ⟨x4, rfl, hw⟩ := hv
  exact r_iret C hS hmc hr dX1_day_12 hw
end
theorem kX1_day {l : Launch} (hl : l.stackTraces = false) {G : gE} {P : Int32 → hSt → Prop} {PX : Nat → Nat → hSt → Prop} {v0 : Option Nat} {z : hSt} : cM l G yX1_day (ws_ yX1_day cX1_day 1 (Option.some Jvm.ClassFile.FieldType.int)) 20 1430 z [va_rf v0] (wX1_day G P PX v0 z) (pI P) PX := by
  refine m_of hl (plainFor_of_name (by decide)) (by rw [lg_sl1 (va_rf_cat _)]; exact Nat.le_of_ble_eq_true rfl) ?_
  intro p e s m args below meth c C hr hin hT hmc hw
  rw [lv_args1 (va_rf_cat _)]
  intro H locs ls hS hl
  exact kX1_dayb0 C hr hin hT hmc hw H locs ls hS (lv_sub hl [0] rfl)
theorem hdX1_day : yX1_day.cls ≠ "java/lang/invoke/MethodHandle" ∧ yX1_day.cls ≠ "java/lang/invoke/VarHandle" ∧ (parseMethodDescriptor yX1_day.desc).map (fun d => d.parameters.length) = some 0 := ⟨by decide +kernel, by decide +kernel, by decide +kernel⟩
abbrev rmX1_checkElement (mc ms : Nat) : Room := { frames := 10, cells := mc, slots := ms, locals := 160 }
def wX1_checkElementb0 (G : gE) (P : hSt → Prop) (PX : Nat → Nat → hSt → Prop)  (v0 : Int32) (z : hSt) : Prop :=
  ((¬ v0 = 0 → P z) ∧ (v0 = 0 → mkE G z 28 (fun x1 z2 => (rcv z2 (some x1) 28 ∧ ∀ q, (some x1) = some q → PX 28 q z2))))
def wX1_checkElement (G : gE) (P : hSt → Prop) (PX : Nat → Nat → hSt → Prop) (v0 : Int32) (z : hSt) : Prop := wX1_checkElementb0 G P PX v0 z
section
variable {p : Program} {l : Launch} {e : Env} {s : State} {m : MethodId} {args : Array Value} {below : List Frame} {meth : Method} {c : Code} {G : gE} {mc ms : Nat} {P : hSt → Prop} {PX : Nat → Nat → hSt → Prop}
theorem kX1_checkElementb0 (C : xC G p l s m args meth c cX1_checkElement 1 "ExcuseLedger") (hr : meth.sig.returnType = (Option.none : Option Jvm.ClassFile.FieldType)) (hin : meth.name = "checkElement") (hT : ∀ x ∈ c.exceptionTable.toList, False) (hmc : mc = gL G - s.heap.size ∧ ms = gU G - hsum s.heap)   {v0 : Int32} {z : hSt} (hw : wX1_checkElementb0 G P PX  v0 z) : kt G p l e (rmX1_checkElement mc ms) s m args below meth c 1 (vx_MQ below (cQ G (pV P)) (cX G PX) args s mc ms (gF G)) 0 [(0, .int v0)] [] z := by
  intro H locs ls hS hl
  refine lv_iload_n C.1 C.2.1 dX1_checkElement_0 rfl (lv_at hl 0 rfl) ?_
  refine lv_if_ne C.1 C.2.1 dX1_checkElement_1 rfl (fun h => ?_) (fun h => ?_)
  · have hw := hw.1 h
    exact r_vret C hS hmc hr dX1_checkElement_12 hw
  · have hw := hw.2 h
    refine r_make C hS hl.1 (ci := 28) (cls := "java/util/NoSuchElementException") (names := ["java/lang/RuntimeException", "java/lang/Exception"]) rfl (by decide +kernel) (by decide +kernel) q2497 q103 xa28_25 xa28_25g hmc dX1_checkElement_4 dX1_checkElement_7 dX1_checkElement_8 (Nat.le_of_ble_eq_true rfl) (Nat.le_of_ble_eq_true rfl) (Nat.le_of_ble_eq_true rfl) hw (fun x1 z2 H locs hw hS => ?_)
    exact r_athrow C hS (by decide) dX1_checkElement_11 hw.1 (fun q hq ht => r_out C hS hmc (fun x hx => (hT x hx).elim) ht (hw.2 q hq))
end
theorem kX1_checkElement {l : Launch} (hl : l.stackTraces = false) {G : gE} {P : hSt → Prop} {PX : Nat → Nat → hSt → Prop} {v0 : Int32} {z : hSt} : cM l G yX1_checkElement (ws_ yX1_checkElement cX1_checkElement 1 (Option.none : Option Jvm.ClassFile.FieldType)) 10 160 z [.int v0] (wX1_checkElement G P PX v0 z) (pV P) PX := by
  refine m_of hl (plainFor_of_name (by decide)) (by rw [lg_sl1 rfl]; exact Nat.le_of_ble_eq_true rfl) ?_
  intro p e s m args below meth c C hr hin hT hmc hw
  rw [lv_args1 rfl]
  intro H locs ls hS hl
  exact kX1_checkElementb0 C hr hin hT hmc hw H locs ls hS (lv_sub hl [0] rfl)
theorem hdX1_checkElement : yX1_checkElement.cls ≠ "java/lang/invoke/MethodHandle" ∧ yX1_checkElement.cls ≠ "java/lang/invoke/VarHandle" ∧ (parseMethodDescriptor yX1_checkElement.desc).map (fun d => d.parameters.length) = some 1 := ⟨by decide +kernel, by decide +kernel, by decide +kernel⟩
abbrev rmX1_checkedExcuse (mc ms : Nat) : Room := { frames := 15, cells := mc, slots := ms, locals := 270 }
def wX1_checkedExcuseb28 (G : gE) (P : Option Nat → hSt → Prop) (PX : Nat → Nat → hSt → Prop)  (v3 : Option Nat) (s0 : Int32) (z : hSt) : Prop :=
  wX1_checkElement G (fun z7 => P v3 z7) PX s0 z
def wX1_checkedExcuseb0 (G : gE) (P : Option Nat → hSt → Prop) (PX : Nat → Nat → hSt → Prop)  (v0 : Option Nat) (v1 : Int32) (v2 : Int32) (z : hSt) : Prop :=
  gtR z v0 [0] 0 (fun x1 => gtR z x1 [1] 0 (fun x2 => wX1_checkedName G (fun x4 z3 => (rcv z3 x2 13 ∧ wJ2_get G (fun x6 z5 => (ckO z5 x6 [7] ∧ ((x6 = none → wX1_checkedExcuseb28 G P PX  x6 0 z5) ∧ (¬ x6 = none → wX1_checkedExcuseb28 G P PX  x6 1 z5)))) PX x2 x4 z3)) PX v1 v2 z))
def wX1_checkedExcuse (G : gE) (P : Option Nat → hSt → Prop) (PX : Nat → Nat → hSt → Prop) (v0 : Option Nat) (v1 : Int32) (v2 : Int32) (z : hSt) : Prop := wX1_checkedExcuseb0 G P PX v0 v1 v2 z
section
variable {p : Program} {l : Launch} {e : Env} {s : State} {m : MethodId} {args : Array Value} {below : List Frame} {meth : Method} {c : Code} {G : gE} {mc ms : Nat} {P : Option Nat → hSt → Prop} {PX : Nat → Nat → hSt → Prop}
theorem kX1_checkedExcuseb28 (C : xC G p l s m args meth c cX1_checkedExcuse 4 "ExcuseLedger") (hr : meth.sig.returnType = (Option.some (Jvm.ClassFile.FieldType.object "ExcuseLedger$Excuse"))) (hin : meth.name = "checkedExcuse") (hT : ∀ x ∈ c.exceptionTable.toList, False) (hmc : mc = gL G - s.heap.size ∧ ms = gU G - hsum s.heap)   {v3 : Option Nat} {s0 : Int32} {z : hSt} (hw : wX1_checkedExcuseb28 G P PX  v3 s0 z) : kt G p l e (rmX1_checkedExcuse mc ms) s m args below meth c 4 (vx_MQ below (cQ G (pR P)) (cX G PX) args s mc ms (gF G)) 28 [(3, va_rf v3)] [.int s0] z := by
  intro H locs ls hS hl
  refine c_S C hS hmc hl.1 (kX1_checkElement C.2.2.2.2.2.2.1) hw (lw_S q2494 q2495 q67 q2496) hdX1_checkElement ⟨Nat.le_of_ble_eq_true rfl, Nat.le_of_ble_eq_true rfl⟩ (rest := []) rfl rfl (Nat.le_of_ble_eq_true rfl) dX1_checkedExcuse_28 (fun ci q z H locs hx hS ht => r_out C hS hmc (fun x hx => (hT x hx).elim) ht hx) (fun v z7 H locs hv hS => ?_)
  obtain ⟨rfl, hw⟩ := hv
  refine r_aload_n C.1 C.2.1 dX1_checkedExcuse_31 rfl (lv_at hl 0 rfl) ?_
  exact r_aret C hS hmc hr (Or.inl ⟨_, rfl⟩) dX1_checkedExcuse_32 hw
theorem kX1_checkedExcuseb0 (C : xC G p l s m args meth c cX1_checkedExcuse 4 "ExcuseLedger") (hr : meth.sig.returnType = (Option.some (Jvm.ClassFile.FieldType.object "ExcuseLedger$Excuse"))) (hin : meth.name = "checkedExcuse") (hT : ∀ x ∈ c.exceptionTable.toList, False) (hmc : mc = gL G - s.heap.size ∧ ms = gU G - hsum s.heap)   {v0 : Option Nat} {v1 : Int32} {v2 : Int32} {z : hSt} (hw : wX1_checkedExcuseb0 G P PX  v0 v1 v2 z) : kt G p l e (rmX1_checkedExcuse mc ms) s m args below meth c 4 (vx_MQ below (cQ G (pR P)) (cX G PX) args s mc ms (gF G)) 0 [(0, va_rf v0), (1, .int v1), (2, .int v2)] [] z := by
  intro H locs ls hS hl
  refine r_aload_n C.1 C.2.1 dX1_checkedExcuse_0 rfl (lv_at hl 0 rfl) ?_
  refine r_getR C hS fo_0_0 (fl_d C q389) (fun _ h => h) dX1_checkedExcuse_1 hw (fun x1 hw => ?_)
  refine r_getR C hS fo_1_0 (fl_n C q232) (fun _ h => h) dX1_checkedExcuse_4 hw (fun x2 hw => ?_)
  refine lv_iload_n C.1 C.2.1 dX1_checkedExcuse_7 rfl (lv_at hl 1 rfl) ?_
  refine lv_iload_n C.1 C.2.1 dX1_checkedExcuse_8 rfl (lv_at hl 2 rfl) ?_
  refine c_S C hS hmc hl.1 (kX1_checkedName C.2.2.2.2.2.2.1) hw (lw_S q2411 q2412 q67 q2413) hdX1_checkedName ⟨Nat.le_of_ble_eq_true rfl, Nat.le_of_ble_eq_true rfl⟩ (rest := [va_rf x2]) rfl rfl (Nat.le_of_ble_eq_true rfl) dX1_checkedExcuse_9 (fun ci q z H locs hx hS ht => r_out C hS hmc (fun x hx => (hT x hx).elim) ht hx) (fun v z3 H locs hv hS => ?_)
  obtain ⟨x4, rfl, hw⟩ := hv
  refine c_V C hS hmc hl.1 (ci := 13) rfl hw.1 (kJ2_get C.2.2.2.2.2.2.1) hw.2 (lw_V q2492 q2047 q2048 q71 q2049) ⟨rfl, hdJ2_get⟩ ⟨Nat.le_of_ble_eq_true rfl, Nat.le_of_ble_eq_true rfl⟩ (rest := []) rfl rfl (Nat.le_of_ble_eq_true rfl) dX1_checkedExcuse_12 (fun ci q z H locs hx hS ht => r_out C hS hmc (fun x hx => (hT x hx).elim) ht hx) (fun v z5 H locs hv hS => ?_)
  obtain ⟨x6, rfl, hw⟩ := hv
  refine r_cast0 C hS q2493 ca_1 dX1_checkedExcuse_15 hw.1 ?_
  have hw := hw.2
  refine r_astore_n C.1 C.2.1 dX1_checkedExcuse_18 rfl hl (Nat.le_of_ble_eq_true rfl) (ls_new ls_nil) (fun ls hl => ?_)
  refine r_aload_n C.1 C.2.1 dX1_checkedExcuse_19 rfl (lv_at hl 0 rfl) ?_
  refine r_ifnull C.1 C.2.1 dX1_checkedExcuse_20 rfl (fun h => ?_) (fun h => ?_)
  · have hw := hw.1 h
    refine lv_iconst C.1 C.2.1 (v := 0) dX1_checkedExcuse_27 rfl ?_
    exact kX1_checkedExcuseb28 C hr hin hT hmc  hw H locs ls hS (lv_sub hl [0] rfl)
  · have hw := hw.2 h
    refine lv_iconst C.1 C.2.1 (v := 1) dX1_checkedExcuse_23 rfl ?_
    refine lv_goto C.1 C.2.1 dX1_checkedExcuse_24 rfl ?_
    exact kX1_checkedExcuseb28 C hr hin hT hmc  hw H locs ls hS (lv_sub hl [0] rfl)
end
theorem kX1_checkedExcuse {l : Launch} (hl : l.stackTraces = false) {G : gE} {P : Option Nat → hSt → Prop} {PX : Nat → Nat → hSt → Prop} {v0 : Option Nat} {v1 : Int32} {v2 : Int32} {z : hSt} : cM l G yX1_checkedExcuse (ws_ yX1_checkedExcuse cX1_checkedExcuse 4 (Option.some (Jvm.ClassFile.FieldType.object "ExcuseLedger$Excuse"))) 15 270 z [va_rf v0, .int v1, .int v2] (wX1_checkedExcuse G P PX v0 v1 v2 z) (pR P) PX := by
  refine m_of hl (plainFor_of_name (by decide)) (by rw [lg_sl1 (va_rf_cat _), lg_sl1 rfl, lg_sl1 rfl]; exact Nat.le_of_ble_eq_true rfl) ?_
  intro p e s m args below meth c C hr hin hT hmc hw
  rw [lv_args1 (va_rf_cat _), lv_args1 rfl, lv_args1 rfl]
  intro H locs ls hS hl
  exact kX1_checkedExcuseb0 C hr hin hT hmc hw H locs ls hS (lv_sub hl [0, 1, 2] rfl)
theorem hdX1_checkedExcuse : yX1_checkedExcuse.cls ≠ "java/lang/invoke/MethodHandle" ∧ yX1_checkedExcuse.cls ≠ "java/lang/invoke/VarHandle" ∧ (parseMethodDescriptor yX1_checkedExcuse.desc).map (fun d => d.parameters.length) = some 2 := ⟨by decide +kernel, by decide +kernel, by decide +kernel⟩
abbrev rmX1_excuseOf (mc ms : Nat) : Room := { frames := 18, cells := mc, slots := ms, locals := 335 }
def wX1_excuseOfb0 (G : gE) (P : Int32 → hSt → Prop) (PX : Nat → Nat → hSt → Prop)  (v0 : Option Nat) (v1 : Int32) (v2 : Int32) (v3 : Int32) (z : hSt) : Prop :=
  wX1_isIn G (fun x2 z1 => wX1_checkArgument G (fun z3 => (rcv z3 v0 0 ∧ wX1_checkedExcuse G (fun x5 z4 => gtR z4 v0 [0] 0 (fun x6 => (rcv z4 x6 1 ∧ wX2_placeOf G (fun x8 z7 => (rcv z7 x5 7 ∧ wX8_number G (fun x10 z9 => P x10 z9) PX x5 v3 x8 z7)) PX x6 x5 z4))) PX v0 v1 v2 z3)) PX x2 z1) PX v3 0 7 z
def wX1_excuseOf (G : gE) (P : Int32 → hSt → Prop) (PX : Nat → Nat → hSt → Prop) (v0 : Option Nat) (v1 : Int32) (v2 : Int32) (v3 : Int32) (z : hSt) : Prop := wX1_excuseOfb0 G P PX v0 v1 v2 v3 z
section
variable {p : Program} {l : Launch} {e : Env} {s : State} {m : MethodId} {args : Array Value} {below : List Frame} {meth : Method} {c : Code} {G : gE} {mc ms : Nat} {P : Int32 → hSt → Prop} {PX : Nat → Nat → hSt → Prop}
theorem kX1_excuseOfb0 (C : xC G p l s m args meth c cX1_excuseOf 5 "ExcuseLedger") (hr : meth.sig.returnType = (Option.some Jvm.ClassFile.FieldType.int)) (hin : meth.name = "excuseOf") (hT : ∀ x ∈ c.exceptionTable.toList, False) (hmc : mc = gL G - s.heap.size ∧ ms = gU G - hsum s.heap)   {v0 : Option Nat} {v1 : Int32} {v2 : Int32} {v3 : Int32} {z : hSt} (hw : wX1_excuseOfb0 G P PX  v0 v1 v2 v3 z) : kt G p l e (rmX1_excuseOf mc ms) s m args below meth c 5 (vx_MQ below (cQ G (pI P)) (cX G PX) args s mc ms (gF G)) 0 [(0, va_rf v0), (1, .int v1), (2, .int v2), (3, .int v3)] [] z := by
  intro H locs ls hS hl
  refine lv_iload_n C.1 C.2.1 dX1_excuseOf_0 rfl (lv_at hl 3 rfl) ?_
  refine lv_iconst C.1 C.2.1 (v := 0) dX1_excuseOf_1 rfl ?_
  refine lv_bipush C.1 C.2.1 (v := 7) dX1_excuseOf_2 rfl ?_
  refine c_S C hS hmc hl.1 (kX1_isIn C.2.2.2.2.2.2.1) hw (lw_S q1980 q1981 q67 q1982) hdX1_isIn ⟨Nat.le_of_ble_eq_true rfl, Nat.le_of_ble_eq_true rfl⟩ (rest := []) rfl rfl (Nat.le_of_ble_eq_true rfl) dX1_excuseOf_4 (fun ci q z H locs hx hS ht => r_out C hS hmc (fun x hx => (hT x hx).elim) ht hx) (fun v z1 H locs hv hS => ?_)
  obtain ⟨x2, rfl, hw⟩ := hv
  refine c_S C hS hmc hl.1 (kX1_checkArgument C.2.2.2.2.2.2.1) hw (lw_S q2402 q2403 q67 q2404) hdX1_checkArgument ⟨Nat.le_of_ble_eq_true rfl, Nat.le_of_ble_eq_true rfl⟩ (rest := []) rfl rfl (Nat.le_of_ble_eq_true rfl) dX1_excuseOf_7 (fun ci q z H locs hx hS ht => r_out C hS hmc (fun x hx => (hT x hx).elim) ht hx) (fun v z3 H locs hv hS => ?_)
  obtain ⟨rfl, hw⟩ := hv
  refine r_aload_n C.1 C.2.1 dX1_excuseOf_10 rfl (lv_at hl 0 rfl) ?_
  refine lv_iload_n C.1 C.2.1 dX1_excuseOf_11 rfl (lv_at hl 1 rfl) ?_
  refine lv_iload_n C.1 C.2.1 dX1_excuseOf_12 rfl (lv_at hl 2 rfl) ?_
  refine c_V C hS hmc hl.1 (ci := 0) rfl hw.1 (kX1_checkedExcuse C.2.2.2.2.2.2.1) hw.2 (lw_V q2488 q2490 qs15 q67 q2491) ⟨rfl, hdX1_checkedExcuse⟩ ⟨Nat.le_of_ble_eq_true rfl, Nat.le_of_ble_eq_true rfl⟩ (rest := []) rfl rfl (Nat.le_of_ble_eq_true rfl) dX1_excuseOf_13 (fun ci q z H locs hx hS ht => r_out C hS hmc (fun x hx => (hT x hx).elim) ht hx) (fun v z4 H locs hv hS => ?_)
  obtain ⟨x5, rfl, hw⟩ := hv
  refine r_astore C.1 C.2.1 dX1_excuseOf_16 hl (Nat.le_of_ble_eq_true rfl) (ls_new (ls_old 0 rfl rfl (.inl rfl) (ls_old 3 rfl rfl (.inr rfl) ls_nil))) (fun ls hl => ?_)
  refine r_aload C.1 C.2.1 dX1_excuseOf_18 (lv_at hl 0 rfl) ?_
  refine lv_iload_n C.1 C.2.1 dX1_excuseOf_20 rfl (lv_at hl 2 rfl) ?_
  refine r_aload_n C.1 C.2.1 dX1_excuseOf_21 rfl (lv_at hl 1 rfl) ?_
  refine r_getR C hS fo_0_0 (fl_d C q389) (fun _ h => h) dX1_excuseOf_22 hw (fun x6 hw => ?_)
  refine r_aload C.1 C.2.1 dX1_excuseOf_25 (lv_at hl 0 rfl) ?_
  refine c_V C hS hmc hl.1 (ci := 1) rfl hw.1 (kX2_placeOf C.2.2.2.2.2.2.1) hw.2 (lw_V q2499 q2500 q2501 q68 q2502) ⟨rfl, hdX2_placeOf⟩ ⟨Nat.le_of_ble_eq_true rfl, Nat.le_of_ble_eq_true rfl⟩ (rest := [.int v3, va_rf x5]) rfl rfl (Nat.le_of_ble_eq_true rfl) dX1_excuseOf_27 (fun ci q z H locs hx hS ht => r_out C hS hmc (fun x hx => (hT x hx).elim) ht hx) (fun v z7 H locs hv hS => ?_)
  obtain ⟨x8, rfl, hw⟩ := hv
  refine c_V C hS hmc hl.1 (ci := 7) rfl hw.1 (kX8_number C.2.2.2.2.2.2.1) hw.2 (lw_V q2513 q2514 q2515 q104 q2516) ⟨rfl, hdX8_number⟩ ⟨Nat.le_of_ble_eq_true rfl, Nat.le_of_ble_eq_true rfl⟩ (rest := []) rfl rfl (Nat.le_of_ble_eq_true rfl) dX1_excuseOf_30 (fun ci q z H locs hx hS ht => r_out C hS hmc (fun x hx => (hT x hx).elim) ht hx) (fun v z9 H locs hv hS => ?_)
  obtain ⟨x10, rfl, hw⟩ := hv
  exact r_iret C hS hmc hr dX1_excuseOf_33 hw
end
theorem kX1_excuseOf {l : Launch} (hl : l.stackTraces = false) {G : gE} {P : Int32 → hSt → Prop} {PX : Nat → Nat → hSt → Prop} {v0 : Option Nat} {v1 : Int32} {v2 : Int32} {v3 : Int32} {z : hSt} : cM l G yX1_excuseOf (ws_ yX1_excuseOf cX1_excuseOf 5 (Option.some Jvm.ClassFile.FieldType.int)) 18 335 z [va_rf v0, .int v1, .int v2, .int v3] (wX1_excuseOf G P PX v0 v1 v2 v3 z) (pI P) PX := by
  refine m_of hl (plainFor_of_name (by decide)) (by rw [lg_sl1 (va_rf_cat _), lg_sl1 rfl, lg_sl1 rfl, lg_sl1 rfl]; exact Nat.le_of_ble_eq_true rfl) ?_
  intro p e s m args below meth c C hr hin hT hmc hw
  rw [lv_args1 (va_rf_cat _), lv_args1 rfl, lv_args1 rfl, lv_args1 rfl]
  intro H locs ls hS hl
  exact kX1_excuseOfb0 C hr hin hT hmc hw H locs ls hS (lv_sub hl [0, 1, 2, 3] rfl)
theorem hdX1_excuseOf : yX1_excuseOf.cls ≠ "java/lang/invoke/MethodHandle" ∧ yX1_excuseOf.cls ≠ "java/lang/invoke/VarHandle" ∧ (parseMethodDescriptor yX1_excuseOf.desc).map (fun d => d.parameters.length) = some 3 := ⟨by decide +kernel, by decide +kernel, by decide +kernel⟩
abbrev rmX1_pupilOf (mc ms : Nat) : Room := { frames := 17, cells := mc, slots := ms, locals := 315 }
def wX1_pupilOfb0 (G : gE) (P : Int32 → hSt → Prop) (PX : Nat → Nat → hSt → Prop)  (v0 : Option Nat) (v1 : Int32) (v2 : Int32) (z : hSt) : Prop :=
  wX1_isPupil G (fun x2 z1 => wX1_checkIndex G (fun z3 => wX1_isIn G (fun x5 z4 => wX1_checkArgument G (fun z6 => gtR z6 v0 [0] 0 (fun x7 => gtR z6 x7 [1] 3 (fun x8 => alR z6 x8 arL v1 (fun x9 => ((v2 = 0 → gtI z6 x9 [3] 0 (fun x10 => P x10 z6)) ∧ (v2 = 1 → gtR z6 v0 [0] 0 (fun x11 => (rcv z6 x11 1 ∧ wX2_ownedBy G (fun x13 z12 => P x13 z12) PX x11 v1 z6))) ∧ (v2 = 2 → gtR z6 v0 [0] 0 (fun x14 => (rcv z6 x14 1 ∧ wX2_heldBy G (fun x16 z15 => (rcv z15 x16 15 ∧ wJ7_size G (fun x18 z17 => P x18 z17) PX x16  z15)) PX x14 v1 z6))) ∧ (v2 = 3 → gtI z6 x9 [3] 1 (fun x19 => P x19 z6)) ∧ (v2 = 4 → gtI z6 x9 [3] 2 (fun x20 => P x20 z6)) ∧ (v2 ∉ ([0, 1, 2, 3, 4] : List Int32) → gtR z6 v0 [0] 0 (fun x21 => (rcv z6 x21 1 ∧ wX2_heldBy G (fun x23 z22 => wX2_worn G (fun x25 z24 => P x25 z24) PX x23 z22) PX x21 v1 z6)))))))) PX x5 z4) PX v2 0 5 z3) PX x2 z1) PX v1 z
def wX1_pupilOf (G : gE) (P : Int32 → hSt → Prop) (PX : Nat → Nat → hSt → Prop) (v0 : Option Nat) (v1 : Int32) (v2 : Int32) (z : hSt) : Prop := wX1_pupilOfb0 G P PX v0 v1 v2 z
section
variable {p : Program} {l : Launch} {e : Env} {s : State} {m : MethodId} {args : Array Value} {below : List Frame} {meth : Method} {c : Code} {G : gE} {mc ms : Nat} {P : Int32 → hSt → Prop} {PX : Nat → Nat → hSt → Prop}
theorem kX1_pupilOfb0 (C : xC G p l s m args meth c cX1_pupilOf 4 "ExcuseLedger") (hr : meth.sig.returnType = (Option.some Jvm.ClassFile.FieldType.int)) (hin : meth.name = "pupilOf") (hT : ∀ x ∈ c.exceptionTable.toList, False) (hmc : mc = gL G - s.heap.size ∧ ms = gU G - hsum s.heap)   {v0 : Option Nat} {v1 : Int32} {v2 : Int32} {z : hSt} (hw : wX1_pupilOfb0 G P PX  v0 v1 v2 z) : kt G p l e (rmX1_pupilOf mc ms) s m args below meth c 4 (vx_MQ below (cQ G (pI P)) (cX G PX) args s mc ms (gF G)) 0 [(0, va_rf v0), (1, .int v1), (2, .int v2)] [] z := by
  intro H locs ls hS hl
  refine lv_iload_n C.1 C.2.1 dX1_pupilOf_0 rfl (lv_at hl 1 rfl) ?_
  refine c_S C hS hmc hl.1 (kX1_isPupil C.2.2.2.2.2.2.1) hw (lw_S q2382 q1978 q67 q1979) hdX1_isPupil ⟨Nat.le_of_ble_eq_true rfl, Nat.le_of_ble_eq_true rfl⟩ (rest := []) rfl rfl (Nat.le_of_ble_eq_true rfl) dX1_pupilOf_1 (fun ci q z H locs hx hS ht => r_out C hS hmc (fun x hx => (hT x hx).elim) ht hx) (fun v z1 H locs hv hS => ?_)
  obtain ⟨x2, rfl, hw⟩ := hv
  refine c_S C hS hmc hl.1 (kX1_checkIndex C.2.2.2.2.2.2.1) hw (lw_S q2383 q2384 q67 q2385) hdX1_checkIndex ⟨Nat.le_of_ble_eq_true rfl, Nat.le_of_ble_eq_true rfl⟩ (rest := []) rfl rfl (Nat.le_of_ble_eq_true rfl) dX1_pupilOf_4 (fun ci q z H locs hx hS ht => r_out C hS hmc (fun x hx => (hT x hx).elim) ht hx) (fun v z3 H locs hv hS => ?_)
  obtain ⟨rfl, hw⟩ := hv
  refine lv_iload_n C.1 C.2.1 dX1_pupilOf_7 rfl (lv_at hl 2 rfl) ?_
  refine lv_iconst C.1 C.2.1 (v := 0) dX1_pupilOf_8 rfl ?_
  refine lv_iconst C.1 C.2.1 (v := 5) dX1_pupilOf_9 rfl ?_
  refine c_S C hS hmc hl.1 (kX1_isIn C.2.2.2.2.2.2.1) hw (lw_S q1980 q1981 q67 q1982) hdX1_isIn ⟨Nat.le_of_ble_eq_true rfl, Nat.le_of_ble_eq_true rfl⟩ (rest := []) rfl rfl (Nat.le_of_ble_eq_true rfl) dX1_pupilOf_10 (fun ci q z H locs hx hS ht => r_out C hS hmc (fun x hx => (hT x hx).elim) ht hx) (fun v z4 H locs hv hS => ?_)
  obtain ⟨x5, rfl, hw⟩ := hv
  refine c_S C hS hmc hl.1 (kX1_checkArgument C.2.2.2.2.2.2.1) hw (lw_S q2402 q2403 q67 q2404) hdX1_checkArgument ⟨Nat.le_of_ble_eq_true rfl, Nat.le_of_ble_eq_true rfl⟩ (rest := []) rfl rfl (Nat.le_of_ble_eq_true rfl) dX1_pupilOf_13 (fun ci q z H locs hx hS ht => r_out C hS hmc (fun x hx => (hT x hx).elim) ht hx) (fun v z6 H locs hv hS => ?_)
  obtain ⟨rfl, hw⟩ := hv
  refine r_aload_n C.1 C.2.1 dX1_pupilOf_16 rfl (lv_at hl 0 rfl) ?_
  refine r_getR C hS fo_0_0 (fl_d C q389) (fun _ h => h) dX1_pupilOf_17 hw (fun x7 hw => ?_)
  refine r_getR C hS fo_1_3 (fl_n C q237) (fun _ h => h) dX1_pupilOf_20 hw (fun x8 hw => ?_)
  refine lv_iload_n C.1 C.2.1 dX1_pupilOf_23 rfl (lv_at hl 1 rfl) ?_
  refine r_aald C hS arL_ok dX1_pupilOf_24 hw (fun x9 hw => ?_)
  refine r_astore_n C.1 C.2.1 dX1_pupilOf_25 rfl hl (Nat.le_of_ble_eq_true rfl) (ls_new (ls_old 0 rfl rfl (.inl rfl) (ls_old 1 rfl rfl (.inl rfl) (ls_old 2 rfl rfl (.inr rfl) ls_nil)))) (fun ls hl => ?_)
  refine lv_iload_n C.1 C.2.1 dX1_pupilOf_26 rfl (lv_at hl 3 rfl) ?_
  refine r_tsw C dX1_pupilOf_27 (dt := 106) rfl (tgts := [60, 67, 78, 92, 99]) rfl (Nat.le_of_ble_eq_true rfl) (fun i t ht hx => ?_) (fun ho => ?_)
  · match i, ht, hx with
    | 0, ht, hx =>
      cases ht
      have hw := hw.1 (sw_eq 0 hx rfl)
      refine r_aload_n C.1 C.2.1 dX1_pupilOf_60 rfl (lv_at hl 0 rfl) ?_
      refine r_getI C hS fo_3_0 (fl_n C q315) (fun _ h => h) dX1_pupilOf_61 hw (fun x10 hw => ?_)
      refine lv_goto C.1 C.2.1 dX1_pupilOf_64 rfl ?_
      exact r_iret C hS hmc hr dX1_pupilOf_117 hw
    | 1, ht, hx =>
      cases ht
      have hw := hw.2.1 (sw_eq 1 hx rfl)
      refine r_aload_n C.1 C.2.1 dX1_pupilOf_67 rfl (lv_at hl 1 rfl) ?_
      refine r_getR C hS fo_0_0 (fl_d C q389) (fun _ h => h) dX1_pupilOf_68 hw (fun x11 hw => ?_)
      refine lv_iload_n C.1 C.2.1 dX1_pupilOf_71 rfl (lv_at hl 2 rfl) ?_
      refine c_V C hS hmc hl.1 (ci := 1) rfl hw.1 (kX2_ownedBy C.2.2.2.2.2.2.1) hw.2 (lw_V q2539 q2540 q2541 q68 q2542) ⟨rfl, hdX2_ownedBy⟩ ⟨Nat.le_of_ble_eq_true rfl, Nat.le_of_ble_eq_true rfl⟩ (rest := []) rfl rfl (Nat.le_of_ble_eq_true rfl) dX1_pupilOf_72 (fun ci q z H locs hx hS ht => r_out C hS hmc (fun x hx => (hT x hx).elim) ht hx) (fun v z12 H locs hv hS => ?_)
      obtain ⟨x13, rfl, hw⟩ := hv
      refine lv_goto C.1 C.2.1 dX1_pupilOf_75 rfl ?_
      exact r_iret C hS hmc hr dX1_pupilOf_117 hw
    | 2, ht, hx =>
      cases ht
      have hw := hw.2.2.1 (sw_eq 2 hx rfl)
      refine r_aload_n C.1 C.2.1 dX1_pupilOf_78 rfl (lv_at hl 1 rfl) ?_
      refine r_getR C hS fo_0_0 (fl_d C q389) (fun _ h => h) dX1_pupilOf_79 hw (fun x14 hw => ?_)
      refine lv_iload_n C.1 C.2.1 dX1_pupilOf_82 rfl (lv_at hl 2 rfl) ?_
      refine c_V C hS hmc hl.1 (ci := 1) rfl hw.1 (kX2_heldBy C.2.2.2.2.2.2.1) hw.2 (lw_V q2543 q2321 q2322 q68 q2323) ⟨rfl, hdX2_heldBy⟩ ⟨Nat.le_of_ble_eq_true rfl, Nat.le_of_ble_eq_true rfl⟩ (rest := []) rfl rfl (Nat.le_of_ble_eq_true rfl) dX1_pupilOf_83 (fun ci q z H locs hx hS ht => r_out C hS hmc (fun x hx => (hT x hx).elim) ht hx) (fun v z15 H locs hv hS => ?_)
      obtain ⟨x16, rfl, hw⟩ := hv
      refine c_V C hS hmc hl.1 (ci := 15) rfl hw.1 (kJ7_size C.2.2.2.2.2.2.1) hw.2 (lw_V q2236 q2237 q2238 q78 q2239) ⟨rfl, hdJ7_size⟩ ⟨Nat.le_of_ble_eq_true rfl, Nat.le_of_ble_eq_true rfl⟩ (rest := []) rfl rfl (Nat.le_of_ble_eq_true rfl) dX1_pupilOf_86 (fun ci q z H locs hx hS ht => r_out C hS hmc (fun x hx => (hT x hx).elim) ht hx) (fun v z17 H locs hv hS => ?_)
      obtain ⟨x18, rfl, hw⟩ := hv
      refine lv_goto C.1 C.2.1 dX1_pupilOf_89 rfl ?_
      exact r_iret C hS hmc hr dX1_pupilOf_117 hw
    | 3, ht, hx =>
      cases ht
      have hw := hw.2.2.2.1 (sw_eq 3 hx rfl)
      refine r_aload_n C.1 C.2.1 dX1_pupilOf_92 rfl (lv_at hl 0 rfl) ?_
      refine r_getI C hS fo_3_1 (fl_n C q317) (fun _ h => h) dX1_pupilOf_93 hw (fun x19 hw => ?_)
      refine lv_goto C.1 C.2.1 dX1_pupilOf_96 rfl ?_
      exact r_iret C hS hmc hr dX1_pupilOf_117 hw
    | 4, ht, hx =>
      cases ht
      have hw := hw.2.2.2.2.1 (sw_eq 4 hx rfl)
      refine r_aload_n C.1 C.2.1 dX1_pupilOf_99 rfl (lv_at hl 0 rfl) ?_
      refine r_getI C hS fo_3_2 (fl_n C q320) (fun _ h => h) dX1_pupilOf_100 hw (fun x20 hw => ?_)
      refine lv_goto C.1 C.2.1 dX1_pupilOf_103 rfl ?_
      exact r_iret C hS hmc hr dX1_pupilOf_117 hw
    | i + 5, ht, hx => exact nomatch ht
  · have hw := hw.2.2.2.2.2 (sw_out ho (by decide))
    refine r_aload_n C.1 C.2.1 dX1_pupilOf_106 rfl (lv_at hl 1 rfl) ?_
    refine r_getR C hS fo_0_0 (fl_d C q389) (fun _ h => h) dX1_pupilOf_107 hw (fun x21 hw => ?_)
    refine lv_iload_n C.1 C.2.1 dX1_pupilOf_110 rfl (lv_at hl 2 rfl) ?_
    refine c_V C hS hmc hl.1 (ci := 1) rfl hw.1 (kX2_heldBy C.2.2.2.2.2.2.1) hw.2 (lw_V q2543 q2321 q2322 q68 q2323) ⟨rfl, hdX2_heldBy⟩ ⟨Nat.le_of_ble_eq_true rfl, Nat.le_of_ble_eq_true rfl⟩ (rest := []) rfl rfl (Nat.le_of_ble_eq_true rfl) dX1_pupilOf_111 (fun ci q z H locs hx hS ht => r_out C hS hmc (fun x hx => (hT x hx).elim) ht hx) (fun v z22 H locs hv hS => ?_)
    obtain ⟨x23, rfl, hw⟩ := hv
    refine c_SN C hS hmc hl.1 (kX2_worn C.2.2.2.2.2.2.1) hw q2295 q2293 q68 q2294 hdX2_worn ⟨Nat.le_of_ble_eq_true rfl, Nat.le_of_ble_eq_true rfl⟩ (rest := []) rfl rfl (Nat.le_of_ble_eq_true rfl) dX1_pupilOf_114 (fun ci q z H locs hx hS ht => r_out C hS hmc (fun x hx => (hT x hx).elim) ht hx) (fun v z24 H locs hv hS => ?_)
    obtain ⟨x25, rfl, hw⟩ := hv
    exact r_iret C hS hmc hr dX1_pupilOf_117 hw
end
theorem kX1_pupilOf {l : Launch} (hl : l.stackTraces = false) {G : gE} {P : Int32 → hSt → Prop} {PX : Nat → Nat → hSt → Prop} {v0 : Option Nat} {v1 : Int32} {v2 : Int32} {z : hSt} : cM l G yX1_pupilOf (ws_ yX1_pupilOf cX1_pupilOf 4 (Option.some Jvm.ClassFile.FieldType.int)) 17 315 z [va_rf v0, .int v1, .int v2] (wX1_pupilOf G P PX v0 v1 v2 z) (pI P) PX := by
  refine m_of hl (plainFor_of_name (by decide)) (by rw [lg_sl1 (va_rf_cat _), lg_sl1 rfl, lg_sl1 rfl]; exact Nat.le_of_ble_eq_true rfl) ?_
  intro p e s m args below meth c C hr hin hT hmc hw
  rw [lv_args1 (va_rf_cat _), lv_args1 rfl, lv_args1 rfl]
  intro H locs ls hS hl
  exact kX1_pupilOfb0 C hr hin hT hmc hw H locs ls hS (lv_sub hl [0, 1, 2] rfl)
theorem hdX1_pupilOf : yX1_pupilOf.cls ≠ "java/lang/invoke/MethodHandle" ∧ yX1_pupilOf.cls ≠ "java/lang/invoke/VarHandle" ∧ (parseMethodDescriptor yX1_pupilOf.desc).map (fun d => d.parameters.length) = some 2 := ⟨by decide +kernel, by decide +kernel, by decide +kernel⟩
abbrev rmX1_schoolOf (mc ms : Nat) : Room := { frames := 13, cells := mc, slots := ms, locals := 221 }
def wX1_schoolOfb0 (G : gE) (P : Int32 → hSt → Prop) (PX : Nat → Nat → hSt → Prop)  (v0 : Option Nat) (v1 : Int32) (v2 : Int32) (z : hSt) : Prop :=
  wX1_isSchool G (fun x2 z1 => wX1_checkIndex G (fun z3 => wX1_isIn G (fun x5 z4 => wX1_checkArgument G (fun z6 => gtR z6 v0 [0] 0 (fun x7 => gtR z6 x7 [1] 2 (fun x8 => alR z6 x8 arL v1 (fun x9 => (rcv z6 x9 2 ∧ wX3_number G (fun x11 z10 => P x11 z10) PX x9 v2 z6))))) PX x5 z4) PX v2 0 3 z3) PX x2 z1) PX v1 z
def wX1_schoolOf (G : gE) (P : Int32 → hSt → Prop) (PX : Nat → Nat → hSt → Prop) (v0 : Option Nat) (v1 : Int32) (v2 : Int32) (z : hSt) : Prop := wX1_schoolOfb0 G P PX v0 v1 v2 z
section
variable {p : Program} {l : Launch} {e : Env} {s : State} {m : MethodId} {args : Array Value} {below : List Frame} {meth : Method} {c : Code} {G : gE} {mc ms : Nat} {P : Int32 → hSt → Prop} {PX : Nat → Nat → hSt → Prop}
theorem kX1_schoolOfb0 (C : xC G p l s m args meth c cX1_schoolOf 3 "ExcuseLedger") (hr : meth.sig.returnType = (Option.some Jvm.ClassFile.FieldType.int)) (hin : meth.name = "schoolOf") (hT : ∀ x ∈ c.exceptionTable.toList, False) (hmc : mc = gL G - s.heap.size ∧ ms = gU G - hsum s.heap)   {v0 : Option Nat} {v1 : Int32} {v2 : Int32} {z : hSt} (hw : wX1_schoolOfb0 G P PX  v0 v1 v2 z) : kt G p l e (rmX1_schoolOf mc ms) s m args below meth c 3 (vx_MQ below (cQ G (pI P)) (cX G PX) args s mc ms (gF G)) 0 [(0, va_rf v0), (1, .int v1), (2, .int v2)] [] z := by
  intro H locs ls hS hl
  refine lv_iload_n C.1 C.2.1 dX1_schoolOf_0 rfl (lv_at hl 1 rfl) ?_
  refine c_S C hS hmc hl.1 (kX1_isSchool C.2.2.2.2.2.2.1) hw (lw_S q2462 q1990 q67 q1991) hdX1_isSchool ⟨Nat.le_of_ble_eq_true rfl, Nat.le_of_ble_eq_true rfl⟩ (rest := []) rfl rfl (Nat.le_of_ble_eq_true rfl) dX1_schoolOf_1 (fun ci q z H locs hx hS ht => r_out C hS hmc (fun x hx => (hT x hx).elim) ht hx) (fun v z1 H locs hv hS => ?_)
  obtain ⟨x2, rfl, hw⟩ := hv
  refine c_S C hS hmc hl.1 (kX1_checkIndex C.2.2.2.2.2.2.1) hw (lw_S q2383 q2384 q67 q2385) hdX1_checkIndex ⟨Nat.le_of_ble_eq_true rfl, Nat.le_of_ble_eq_true rfl⟩ (rest := []) rfl rfl (Nat.le_of_ble_eq_true rfl) dX1_schoolOf_4 (fun ci q z H locs hx hS ht => r_out C hS hmc (fun x hx => (hT x hx).elim) ht hx) (fun v z3 H locs hv hS => ?_)
  obtain ⟨rfl, hw⟩ := hv
  refine lv_iload_n C.1 C.2.1 dX1_schoolOf_7 rfl (lv_at hl 2 rfl) ?_
  refine lv_iconst C.1 C.2.1 (v := 0) dX1_schoolOf_8 rfl ?_
  refine lv_iconst C.1 C.2.1 (v := 3) dX1_schoolOf_9 rfl ?_
  refine c_S C hS hmc hl.1 (kX1_isIn C.2.2.2.2.2.2.1) hw (lw_S q1980 q1981 q67 q1982) hdX1_isIn ⟨Nat.le_of_ble_eq_true rfl, Nat.le_of_ble_eq_true rfl⟩ (rest := []) rfl rfl (Nat.le_of_ble_eq_true rfl) dX1_schoolOf_10 (fun ci q z H locs hx hS ht => r_out C hS hmc (fun x hx => (hT x hx).elim) ht hx) (fun v z4 H locs hv hS => ?_)
  obtain ⟨x5, rfl, hw⟩ := hv
  refine c_S C hS hmc hl.1 (kX1_checkArgument C.2.2.2.2.2.2.1) hw (lw_S q2402 q2403 q67 q2404) hdX1_checkArgument ⟨Nat.le_of_ble_eq_true rfl, Nat.le_of_ble_eq_true rfl⟩ (rest := []) rfl rfl (Nat.le_of_ble_eq_true rfl) dX1_schoolOf_13 (fun ci q z H locs hx hS ht => r_out C hS hmc (fun x hx => (hT x hx).elim) ht hx) (fun v z6 H locs hv hS => ?_)
  obtain ⟨rfl, hw⟩ := hv
  refine r_aload_n C.1 C.2.1 dX1_schoolOf_16 rfl (lv_at hl 0 rfl) ?_
  refine r_getR C hS fo_0_0 (fl_d C q389) (fun _ h => h) dX1_schoolOf_17 hw (fun x7 hw => ?_)
  refine r_getR C hS fo_1_2 (fl_n C q235) (fun _ h => h) dX1_schoolOf_20 hw (fun x8 hw => ?_)
  refine lv_iload_n C.1 C.2.1 dX1_schoolOf_23 rfl (lv_at hl 1 rfl) ?_
  refine r_aald C hS arL_ok dX1_schoolOf_24 hw (fun x9 hw => ?_)
  refine lv_iload_n C.1 C.2.1 dX1_schoolOf_25 rfl (lv_at hl 2 rfl) ?_
  refine c_V C hS hmc hl.1 (ci := 2) rfl hw.1 (kX3_number C.2.2.2.2.2.2.1) hw.2 (lw_V q2551 q2552 q2553 q72 q2554) ⟨rfl, hdX3_number⟩ ⟨Nat.le_of_ble_eq_true rfl, Nat.le_of_ble_eq_true rfl⟩ (rest := []) rfl rfl (Nat.le_of_ble_eq_true rfl) dX1_schoolOf_26 (fun ci q z H locs hx hS ht => r_out C hS hmc (fun x hx => (hT x hx).elim) ht hx) (fun v z10 H locs hv hS => ?_)
  obtain ⟨x11, rfl, hw⟩ := hv
  exact r_iret C hS hmc hr dX1_schoolOf_29 hw
end
theorem kX1_schoolOf {l : Launch} (hl : l.stackTraces = false) {G : gE} {P : Int32 → hSt → Prop} {PX : Nat → Nat → hSt → Prop} {v0 : Option Nat} {v1 : Int32} {v2 : Int32} {z : hSt} : cM l G yX1_schoolOf (ws_ yX1_schoolOf cX1_schoolOf 3 (Option.some Jvm.ClassFile.FieldType.int)) 13 221 z [va_rf v0, .int v1, .int v2] (wX1_schoolOf G P PX v0 v1 v2 z) (pI P) PX := by
  refine m_of hl (plainFor_of_name (by decide)) (by rw [lg_sl1 (va_rf_cat _), lg_sl1 rfl, lg_sl1 rfl]; exact Nat.le_of_ble_eq_true rfl) ?_
  intro p e s m args below meth c C hr hin hT hmc hw
  rw [lv_args1 (va_rf_cat _), lv_args1 rfl, lv_args1 rfl]
  intro H locs ls hS hl
  exact kX1_schoolOfb0 C hr hin hT hmc hw H locs ls hS (lv_sub hl [0, 1, 2] rfl)
theorem hdX1_schoolOf : yX1_schoolOf.cls ≠ "java/lang/invoke/MethodHandle" ∧ yX1_schoolOf.cls ≠ "java/lang/invoke/VarHandle" ∧ (parseMethodDescriptor yX1_schoolOf.desc).map (fun d => d.parameters.length) = some 2 := ⟨by decide +kernel, by decide +kernel, by decide +kernel⟩
abbrev rmX1_dog (mc ms : Nat) : Room := { frames := 16, cells := mc, slots := ms, locals := 292 }
def wX1_dogb0 (G : gE) (P : Int32 → hSt → Prop) (PX : Nat → Nat → hSt → Prop)  (v0 : Option Nat) (v1 : Int32) (z : hSt) : Prop :=
  wX1_isTopic G (fun x2 z1 => wX1_checkArgument G (fun z3 => gtR z3 v0 [0] 0 (fun x4 => (rcv z3 x4 1 ∧ wX2_dog G (fun x6 z5 => P x6 z5) PX x4 v1 z3))) PX x2 z1) PX v1 z
def wX1_dog (G : gE) (P : Int32 → hSt → Prop) (PX : Nat → Nat → hSt → Prop) (v0 : Option Nat) (v1 : Int32) (z : hSt) : Prop := wX1_dogb0 G P PX v0 v1 z
section
variable {p : Program} {l : Launch} {e : Env} {s : State} {m : MethodId} {args : Array Value} {below : List Frame} {meth : Method} {c : Code} {G : gE} {mc ms : Nat} {P : Int32 → hSt → Prop} {PX : Nat → Nat → hSt → Prop}
theorem kX1_dogb0 (C : xC G p l s m args meth c cX1_dog 2 "ExcuseLedger") (hr : meth.sig.returnType = (Option.some Jvm.ClassFile.FieldType.int)) (hin : meth.name = "dog") (hT : ∀ x ∈ c.exceptionTable.toList, False) (hmc : mc = gL G - s.heap.size ∧ ms = gU G - hsum s.heap)   {v0 : Option Nat} {v1 : Int32} {z : hSt} (hw : wX1_dogb0 G P PX  v0 v1 z) : kt G p l e (rmX1_dog mc ms) s m args below meth c 2 (vx_MQ below (cQ G (pI P)) (cX G PX) args s mc ms (gF G)) 0 [(0, va_rf v0), (1, .int v1)] [] z := by
  intro H locs ls hS hl
  refine lv_iload_n C.1 C.2.1 dX1_dog_0 rfl (lv_at hl 1 rfl) ?_
  refine c_S C hS hmc hl.1 (kX1_isTopic C.2.2.2.2.2.2.1) hw (lw_S q2417 q2418 q67 q2419) hdX1_isTopic ⟨Nat.le_of_ble_eq_true rfl, Nat.le_of_ble_eq_true rfl⟩ (rest := []) rfl rfl (Nat.le_of_ble_eq_true rfl) dX1_dog_1 (fun ci q z H locs hx hS ht => r_out C hS hmc (fun x hx => (hT x hx).elim) ht hx) (fun v z1 H locs hv hS => ?_)
  obtain ⟨x2, rfl, hw⟩ := hv
  refine c_S C hS hmc hl.1 (kX1_checkArgument C.2.2.2.2.2.2.1) hw (lw_S q2402 q2403 q67 q2404) hdX1_checkArgument ⟨Nat.le_of_ble_eq_true rfl, Nat.le_of_ble_eq_true rfl⟩ (rest := []) rfl rfl (Nat.le_of_ble_eq_true rfl) dX1_dog_4 (fun ci q z H locs hx hS ht => r_out C hS hmc (fun x hx => (hT x hx).elim) ht hx) (fun v z3 H locs hv hS => ?_)
  obtain ⟨rfl, hw⟩ := hv
  refine r_aload_n C.1 C.2.1 dX1_dog_7 rfl (lv_at hl 0 rfl) ?_
  refine r_getR C hS fo_0_0 (fl_d C q389) (fun _ h => h) dX1_dog_8 hw (fun x4 hw => ?_)
  refine lv_iload_n C.1 C.2.1 dX1_dog_11 rfl (lv_at hl 1 rfl) ?_
  refine c_V C hS hmc hl.1 (ci := 1) rfl hw.1 (kX2_dog C.2.2.2.2.2.2.1) hw.2 (lw_V q2567 q2130 q2131 q68 q2132) ⟨rfl, hdX2_dog⟩ ⟨Nat.le_of_ble_eq_true rfl, Nat.le_of_ble_eq_true rfl⟩ (rest := []) rfl rfl (Nat.le_of_ble_eq_true rfl) dX1_dog_12 (fun ci q z H locs hx hS ht => r_out C hS hmc (fun x hx => (hT x hx).elim) ht hx) (fun v z5 H locs hv hS => ?_)
  obtain ⟨x6, rfl, hw⟩ := hv
  exact r_iret C hS hmc hr dX1_dog_15 hw
end
theorem kX1_dog {l : Launch} (hl : l.stackTraces = false) {G : gE} {P : Int32 → hSt → Prop} {PX : Nat → Nat → hSt → Prop} {v0 : Option Nat} {v1 : Int32} {z : hSt} : cM l G yX1_dog (ws_ yX1_dog cX1_dog 2 (Option.some Jvm.ClassFile.FieldType.int)) 16 292 z [va_rf v0, .int v1] (wX1_dog G P PX v0 v1 z) (pI P) PX := by
  refine m_of hl (plainFor_of_name (by decide)) (by rw [lg_sl1 (va_rf_cat _), lg_sl1 rfl]; exact Nat.le_of_ble_eq_true rfl) ?_
  intro p e s m args below meth c C hr hin hT hmc hw
  rw [lv_args1 (va_rf_cat _), lv_args1 rfl]
  intro H locs ls hS hl
  exact kX1_dogb0 C hr hin hT hmc hw H locs ls hS (lv_sub hl [0, 1] rfl)
theorem hdX1_dog : yX1_dog.cls ≠ "java/lang/invoke/MethodHandle" ∧ yX1_dog.cls ≠ "java/lang/invoke/VarHandle" ∧ (parseMethodDescriptor yX1_dog.desc).map (fun d => d.parameters.length) = some 1 := ⟨by decide +kernel, by decide +kernel, by decide +kernel⟩
abbrev rmX1_heard (mc ms : Nat) : Room := { frames := 16, cells := mc, slots := ms, locals := 290 }
def wX1_heardb19 (G : gE) (P : Int32 → hSt → Prop) (PX : Nat → Nat → hSt → Prop)  (v0 : Option Nat) (v1 : Int32) (v2 : Int32) (v3 : Int32) (v4 : Int32) (s0 : Int32) (z : hSt) : Prop :=
  wX1_checkIndex G (fun z5 => gtR z5 v0 [0] 0 (fun x6 => gtR z5 x6 [1] 2 (fun x7 => alR z5 x7 arL v1 (fun x8 => gtR z5 x8 [2] 0 (fun x9 => nwO G z5 9 2 dfX10 (fun x10 z11 => wX1_checkedName G (fun x13 z12 => (nnl (some x10) ∧ wX10_init G (fun z14 => (rcv z14 x9 14 ∧ wJ5_contains G (fun x16 z15 => (okN .boolean x16 ∧ P x16 z15)) PX x9 (some x10) z14)) PX (some x10) x13 v2 z12)) PX v3 v4 z11)))))) PX s0 z
def wX1_heardb18 (G : gE) (P : Int32 → hSt → Prop) (PX : Nat → Nat → hSt → Prop)  (v0 : Option Nat) (v1 : Int32) (v2 : Int32) (v3 : Int32) (v4 : Int32) (z : hSt) : Prop :=
  wX1_heardb19 G P PX  v0 v1 v2 v3 v4 0 z
def wX1_heardb0 (G : gE) (P : Int32 → hSt → Prop) (PX : Nat → Nat → hSt → Prop)  (v0 : Option Nat) (v1 : Int32) (v2 : Int32) (v3 : Int32) (v4 : Int32) (z : hSt) : Prop :=
  wX1_isSchool G (fun x2 z1 => ((x2 = 0 → wX1_heardb18 G P PX  v0 v1 v2 v3 v4 z1) ∧ (¬ x2 = 0 → wX1_isPupil G (fun x4 z3 => ((x4 = 0 → wX1_heardb18 G P PX  v0 v1 v2 v3 v4 z3) ∧ (¬ x4 = 0 → wX1_heardb19 G P PX  v0 v1 v2 v3 v4 1 z3))) PX v2 z1))) PX v1 z
def wX1_heard (G : gE) (P : Int32 → hSt → Prop) (PX : Nat → Nat → hSt → Prop) (v0 : Option Nat) (v1 : Int32) (v2 : Int32) (v3 : Int32) (v4 : Int32) (z : hSt) : Prop := wX1_heardb0 G P PX v0 v1 v2 v3 v4 z
section
variable {p : Program} {l : Launch} {e : Env} {s : State} {m : MethodId} {args : Array Value} {below : List Frame} {meth : Method} {c : Code} {G : gE} {mc ms : Nat} {P : Int32 → hSt → Prop} {PX : Nat → Nat → hSt → Prop}
theorem kX1_heardb19 (C : xC G p l s m args meth c cX1_heard 5 "ExcuseLedger") (hr : meth.sig.returnType = (Option.some Jvm.ClassFile.FieldType.boolean)) (hin : meth.name = "heard") (hT : ∀ x ∈ c.exceptionTable.toList, False) (hmc : mc = gL G - s.heap.size ∧ ms = gU G - hsum s.heap)   {v0 : Option Nat} {v1 : Int32} {v2 : Int32} {v3 : Int32} {v4 : Int32} {s0 : Int32} {z : hSt} (hw : wX1_heardb19 G P PX  v0 v1 v2 v3 v4 s0 z) : kt G p l e (rmX1_heard mc ms) s m args below meth c 5 (vx_MQ below (cQ G (pI P)) (cX G PX) args s mc ms (gF G)) 19 [(0, va_rf v0), (1, .int v1), (2, .int v2), (3, .int v3), (4, .int v4)] [.int s0] z := by
  intro H locs ls hS hl
  refine c_S C hS hmc hl.1 (kX1_checkIndex C.2.2.2.2.2.2.1) hw (lw_S q2383 q2384 q67 q2385) hdX1_checkIndex ⟨Nat.le_of_ble_eq_true rfl, Nat.le_of_ble_eq_true rfl⟩ (rest := []) rfl rfl (Nat.le_of_ble_eq_true rfl) dX1_heard_19 (fun ci q z H locs hx hS ht => r_out C hS hmc (fun x hx => (hT x hx).elim) ht hx) (fun v z5 H locs hv hS => ?_)
  obtain ⟨rfl, hw⟩ := hv
  refine r_aload_n C.1 C.2.1 dX1_heard_22 rfl (lv_at hl 0 rfl) ?_
  refine r_getR C hS fo_0_0 (fl_d C q389) (fun _ h => h) dX1_heard_23 hw (fun x6 hw => ?_)
  refine r_getR C hS fo_1_2 (fl_n C q235) (fun _ h => h) dX1_heard_26 hw (fun x7 hw => ?_)
  refine lv_iload_n C.1 C.2.1 dX1_heard_29 rfl (lv_at hl 1 rfl) ?_
  refine r_aald C hS arL_ok dX1_heard_30 hw (fun x8 hw => ?_)
  refine r_getR C hS fo_2_0 (fl_n C q292) (fun _ h => h) dX1_heard_31 hw (fun x9 hw => ?_)
  refine r_new C hS (ci := 9) rfl in_X10 tyX10_ok q2575 q2166 q127 rfl dfX10_ok hmc dX1_heard_34 hw (fun x10 z11 H locs hw hS => ?_)
  refine lv_dup C.1 C.2.1 dX1_heard_37 (va_rf_cat _) ?_
  refine lv_iload_n C.1 C.2.1 dX1_heard_38 rfl (lv_at hl 3 rfl) ?_
  refine lv_iload C.1 C.2.1 dX1_heard_39 (lv_at hl 4 rfl) ?_
  refine c_S C hS hmc hl.1 (kX1_checkedName C.2.2.2.2.2.2.1) hw (lw_S q2411 q2412 q67 q2413) hdX1_checkedName ⟨Nat.le_of_ble_eq_true rfl, Nat.le_of_ble_eq_true rfl⟩ (rest := [va_rf (some x10), va_rf (some x10), va_rf x9]) rfl rfl (Nat.le_of_ble_eq_true rfl) dX1_heard_41 (fun ci q z H locs hx hS ht => r_out C hS hmc (fun x hx => (hT x hx).elim) ht hx) (fun v z12 H locs hv hS => ?_)
  obtain ⟨x13, rfl, hw⟩ := hv
  refine lv_iload_n C.1 C.2.1 dX1_heard_44 rfl (lv_at hl 2 rfl) ?_
  refine c_I C hS hmc hl.1 hw.1 (kX10_init C.2.2.2.2.2.2.1) hw.2 (lw_meth q2169) q127 q2576 q2168 rfl hdX10_init ⟨Nat.le_of_ble_eq_true rfl, Nat.le_of_ble_eq_true rfl⟩ (rest := [va_rf (some x10), va_rf x9]) rfl rfl (Nat.le_of_ble_eq_true rfl) dX1_heard_45 (fun ci q z H locs hx hS ht => r_out C hS hmc (fun x hx => (hT x hx).elim) ht hx) (fun v z14 H locs hv hS => ?_)
  obtain ⟨rfl, hw⟩ := hv
  refine c_V C hS hmc hl.1 (ci := 14) rfl hw.1 (kJ5_contains C.2.2.2.2.2.2.1) hw.2 (lw_V q2577 q2179 q2180 q75 q2181) ⟨rfl, hdJ5_contains⟩ ⟨Nat.le_of_ble_eq_true rfl, Nat.le_of_ble_eq_true rfl⟩ (rest := []) rfl rfl (Nat.le_of_ble_eq_true rfl) dX1_heard_48 (fun ci q z H locs hx hS ht => r_out C hS hmc (fun x hx => (hT x hx).elim) ht hx) (fun v z15 H locs hv hS => ?_)
  obtain ⟨x16, rfl, hw⟩ := hv
  exact r_zret C hS hmc hr dX1_heard_51 hw
theorem kX1_heardb18 (C : xC G p l s m args meth c cX1_heard 5 "ExcuseLedger") (hr : meth.sig.returnType = (Option.some Jvm.ClassFile.FieldType.boolean)) (hin : meth.name = "heard") (hT : ∀ x ∈ c.exceptionTable.toList, False) (hmc : mc = gL G - s.heap.size ∧ ms = gU G - hsum s.heap)   {v0 : Option Nat} {v1 : Int32} {v2 : Int32} {v3 : Int32} {v4 : Int32} {z : hSt} (hw : wX1_heardb18 G P PX  v0 v1 v2 v3 v4 z) : kt G p l e (rmX1_heard mc ms) s m args below meth c 5 (vx_MQ below (cQ G (pI P)) (cX G PX) args s mc ms (gF G)) 18 [(0, va_rf v0), (1, .int v1), (2, .int v2), (3, .int v3), (4, .int v4)] [] z := by
  intro H locs ls hS hl
  refine lv_iconst C.1 C.2.1 (v := 0) dX1_heard_18 rfl ?_
  exact kX1_heardb19 C hr hin hT hmc  hw H locs ls hS (lv_sub hl [0, 1, 2, 3, 4] rfl)
theorem kX1_heardb0 (C : xC G p l s m args meth c cX1_heard 5 "ExcuseLedger") (hr : meth.sig.returnType = (Option.some Jvm.ClassFile.FieldType.boolean)) (hin : meth.name = "heard") (hT : ∀ x ∈ c.exceptionTable.toList, False) (hmc : mc = gL G - s.heap.size ∧ ms = gU G - hsum s.heap)   {v0 : Option Nat} {v1 : Int32} {v2 : Int32} {v3 : Int32} {v4 : Int32} {z : hSt} (hw : wX1_heardb0 G P PX  v0 v1 v2 v3 v4 z) : kt G p l e (rmX1_heard mc ms) s m args below meth c 5 (vx_MQ below (cQ G (pI P)) (cX G PX) args s mc ms (gF G)) 0 [(0, va_rf v0), (1, .int v1), (2, .int v2), (3, .int v3), (4, .int v4)] [] z := by
  intro H locs ls hS hl
  refine lv_iload_n C.1 C.2.1 dX1_heard_0 rfl (lv_at hl 1 rfl) ?_
  refine c_S C hS hmc hl.1 (kX1_isSchool C.2.2.2.2.2.2.1) hw (lw_S q2462 q1990 q67 q1991) hdX1_isSchool ⟨Nat.le_of_ble_eq_true rfl, Nat.le_of_ble_eq_true rfl⟩ (rest := []) rfl rfl (Nat.le_of_ble_eq_true rfl) dX1_heard_1 (fun ci q z H locs hx hS ht => r_out C hS hmc (fun x hx => (hT x hx).elim) ht hx) (fun v z1 H locs hv hS => ?_)
  obtain ⟨x2, rfl, hw⟩ := hv
  refine lv_if_eq C.1 C.2.1 dX1_heard_4 rfl (fun h => ?_) (fun h => ?_)
  · have hw := hw.1 h
    exact kX1_heardb18 C hr hin hT hmc  hw H locs ls hS (lv_sub hl [0, 1, 2, 3, 4] rfl)
  · have hw := hw.2 h
    refine lv_iload_n C.1 C.2.1 dX1_heard_7 rfl (lv_at hl 2 rfl) ?_
    refine c_S C hS hmc hl.1 (kX1_isPupil C.2.2.2.2.2.2.1) hw (lw_S q2382 q1978 q67 q1979) hdX1_isPupil ⟨Nat.le_of_ble_eq_true rfl, Nat.le_of_ble_eq_true rfl⟩ (rest := []) rfl rfl (Nat.le_of_ble_eq_true rfl) dX1_heard_8 (fun ci q z H locs hx hS ht => r_out C hS hmc (fun x hx => (hT x hx).elim) ht hx) (fun v z3 H locs hv hS => ?_)
    obtain ⟨x4, rfl, hw⟩ := hv
    refine lv_if_eq C.1 C.2.1 dX1_heard_11 rfl (fun h => ?_) (fun h => ?_)
    · have hw := hw.1 h
      exact kX1_heardb18 C hr hin hT hmc  hw H locs ls hS (lv_sub hl [0, 1, 2, 3, 4] rfl)
    · have hw := hw.2 h
      refine lv_iconst C.1 C.2.1 (v := 1) dX1_heard_14 rfl ?_
      refine lv_goto C.1 C.2.1 dX1_heard_15 rfl ?_
      exact kX1_heardb19 C hr hin hT hmc  hw H locs ls hS (lv_sub hl [0, 1, 2, 3, 4] rfl)
end
theorem kX1_heard {l : Launch} (hl : l.stackTraces = false) {G : gE} {P : Int32 → hSt → Prop} {PX : Nat → Nat → hSt → Prop} {v0 : Option Nat} {v1 : Int32} {v2 : Int32} {v3 : Int32} {v4 : Int32} {z : hSt} : cM l G yX1_heard (ws_ yX1_heard cX1_heard 5 (Option.some Jvm.ClassFile.FieldType.boolean)) 16 290 z [va_rf v0, .int v1, .int v2, .int v3, .int v4] (wX1_heard G P PX v0 v1 v2 v3 v4 z) (pI P) PX := by
  refine m_of hl (plainFor_of_name (by decide)) (by rw [lg_sl1 (va_rf_cat _), lg_sl1 rfl, lg_sl1 rfl, lg_sl1 rfl, lg_sl1 rfl]; exact Nat.le_of_ble_eq_true rfl) ?_
  intro p e s m args below meth c C hr hin hT hmc hw
  rw [lv_args1 (va_rf_cat _), lv_args1 rfl, lv_args1 rfl, lv_args1 rfl, lv_args1 rfl]
  intro H locs ls hS hl
  exact kX1_heardb0 C hr hin hT hmc hw H locs ls hS (lv_sub hl [0, 1, 2, 3, 4] rfl)
theorem hdX1_heard : yX1_heard.cls ≠ "java/lang/invoke/MethodHandle" ∧ yX1_heard.cls ≠ "java/lang/invoke/VarHandle" ∧ (parseMethodDescriptor yX1_heard.desc).map (fun d => d.parameters.length) = some 4 := ⟨by decide +kernel, by decide +kernel, by decide +kernel⟩
abbrev rmX1_would (mc ms : Nat) : Room := { frames := 17, cells := mc, slots := ms, locals := 314 }
def wX1_wouldb20 (G : gE) (P : Int32 → hSt → Prop) (PX : Nat → Nat → hSt → Prop)  (v0 : Option Nat) (v1 : Int32) (v2 : Int32) (v3 : Int32) (v4 : Int32) (s0 : Int32) (z : hSt) : Prop :=
  wX1_checkIndex G (fun z5 => gtR z5 v0 [0] 0 (fun x6 => (rcv z5 v0 0 ∧ wX1_checkedExcuse G (fun x8 z7 => (rcv z7 x6 1 ∧ wX2_would G (fun x10 z9 => (okN .boolean x10 ∧ P x10 z9)) PX x6 v1 x8 v4 z7)) PX v0 v2 v3 z5))) PX s0 z
def wX1_wouldb19 (G : gE) (P : Int32 → hSt → Prop) (PX : Nat → Nat → hSt → Prop)  (v0 : Option Nat) (v1 : Int32) (v2 : Int32) (v3 : Int32) (v4 : Int32) (z : hSt) : Prop :=
  wX1_wouldb20 G P PX  v0 v1 v2 v3 v4 0 z
def wX1_wouldb0 (G : gE) (P : Int32 → hSt → Prop) (PX : Nat → Nat → hSt → Prop)  (v0 : Option Nat) (v1 : Int32) (v2 : Int32) (v3 : Int32) (v4 : Int32) (z : hSt) : Prop :=
  wX1_isPupil G (fun x2 z1 => ((x2 = 0 → wX1_wouldb19 G P PX  v0 v1 v2 v3 v4 z1) ∧ (¬ x2 = 0 → wX1_isSchool G (fun x4 z3 => ((x4 = 0 → wX1_wouldb19 G P PX  v0 v1 v2 v3 v4 z3) ∧ (¬ x4 = 0 → wX1_wouldb20 G P PX  v0 v1 v2 v3 v4 1 z3))) PX v4 z1))) PX v1 z
def wX1_would (G : gE) (P : Int32 → hSt → Prop) (PX : Nat → Nat → hSt → Prop) (v0 : Option Nat) (v1 : Int32) (v2 : Int32) (v3 : Int32) (v4 : Int32) (z : hSt) : Prop := wX1_wouldb0 G P PX v0 v1 v2 v3 v4 z
section
variable {p : Program} {l : Launch} {e : Env} {s : State} {m : MethodId} {args : Array Value} {below : List Frame} {meth : Method} {c : Code} {G : gE} {mc ms : Nat} {P : Int32 → hSt → Prop} {PX : Nat → Nat → hSt → Prop}
theorem kX1_wouldb20 (C : xC G p l s m args meth c cX1_would 5 "ExcuseLedger") (hr : meth.sig.returnType = (Option.some Jvm.ClassFile.FieldType.boolean)) (hin : meth.name = "would") (hT : ∀ x ∈ c.exceptionTable.toList, False) (hmc : mc = gL G - s.heap.size ∧ ms = gU G - hsum s.heap)   {v0 : Option Nat} {v1 : Int32} {v2 : Int32} {v3 : Int32} {v4 : Int32} {s0 : Int32} {z : hSt} (hw : wX1_wouldb20 G P PX  v0 v1 v2 v3 v4 s0 z) : kt G p l e (rmX1_would mc ms) s m args below meth c 5 (vx_MQ below (cQ G (pI P)) (cX G PX) args s mc ms (gF G)) 20 [(0, va_rf v0), (1, .int v1), (2, .int v2), (3, .int v3), (4, .int v4)] [.int s0] z := by
  intro H locs ls hS hl
  refine c_S C hS hmc hl.1 (kX1_checkIndex C.2.2.2.2.2.2.1) hw (lw_S q2383 q2384 q67 q2385) hdX1_checkIndex ⟨Nat.le_of_ble_eq_true rfl, Nat.le_of_ble_eq_true rfl⟩ (rest := []) rfl rfl (Nat.le_of_ble_eq_true rfl) dX1_would_20 (fun ci q z H locs hx hS ht => r_out C hS hmc (fun x hx => (hT x hx).elim) ht hx) (fun v z5 H locs hv hS => ?_)
  obtain ⟨rfl, hw⟩ := hv
  refine r_aload_n C.1 C.2.1 dX1_would_23 rfl (lv_at hl 0 rfl) ?_
  refine r_getR C hS fo_0_0 (fl_d C q389) (fun _ h => h) dX1_would_24 hw (fun x6 hw => ?_)
  refine lv_iload_n C.1 C.2.1 dX1_would_27 rfl (lv_at hl 1 rfl) ?_
  refine r_aload_n C.1 C.2.1 dX1_would_28 rfl (lv_at hl 0 rfl) ?_
  refine lv_iload_n C.1 C.2.1 dX1_would_29 rfl (lv_at hl 2 rfl) ?_
  refine lv_iload_n C.1 C.2.1 dX1_would_30 rfl (lv_at hl 3 rfl) ?_
  refine c_V C hS hmc hl.1 (ci := 0) rfl hw.1 (kX1_checkedExcuse C.2.2.2.2.2.2.1) hw.2 (lw_V q2488 q2490 qs15 q67 q2491) ⟨rfl, hdX1_checkedExcuse⟩ ⟨Nat.le_of_ble_eq_true rfl, Nat.le_of_ble_eq_true rfl⟩ (rest := [.int v1, va_rf x6]) rfl rfl (Nat.le_of_ble_eq_true rfl) dX1_would_31 (fun ci q z H locs hx hS ht => r_out C hS hmc (fun x hx => (hT x hx).elim) ht hx) (fun v z7 H locs hv hS => ?_)
  obtain ⟨x8, rfl, hw⟩ := hv
  refine lv_iload C.1 C.2.1 dX1_would_34 (lv_at hl 4 rfl) ?_
  refine c_V C hS hmc hl.1 (ci := 1) rfl hw.1 (kX2_would C.2.2.2.2.2.2.1) hw.2 (lw_V q2585 q2162 q2163 q68 q2164) ⟨rfl, hdX2_would⟩ ⟨Nat.le_of_ble_eq_true rfl, Nat.le_of_ble_eq_true rfl⟩ (rest := []) rfl rfl (Nat.le_of_ble_eq_true rfl) dX1_would_36 (fun ci q z H locs hx hS ht => r_out C hS hmc (fun x hx => (hT x hx).elim) ht hx) (fun v z9 H locs hv hS => ?_)
  obtain ⟨x10, rfl, hw⟩ := hv
  exact r_zret C hS hmc hr dX1_would_39 hw
theorem kX1_wouldb19 (C : xC G p l s m args meth c cX1_would 5 "ExcuseLedger") (hr : meth.sig.returnType = (Option.some Jvm.ClassFile.FieldType.boolean)) (hin : meth.name = "would") (hT : ∀ x ∈ c.exceptionTable.toList, False) (hmc : mc = gL G - s.heap.size ∧ ms = gU G - hsum s.heap)   {v0 : Option Nat} {v1 : Int32} {v2 : Int32} {v3 : Int32} {v4 : Int32} {z : hSt} (hw : wX1_wouldb19 G P PX  v0 v1 v2 v3 v4 z) : kt G p l e (rmX1_would mc ms) s m args below meth c 5 (vx_MQ below (cQ G (pI P)) (cX G PX) args s mc ms (gF G)) 19 [(0, va_rf v0), (1, .int v1), (2, .int v2), (3, .int v3), (4, .int v4)] [] z := by
  intro H locs ls hS hl
  refine lv_iconst C.1 C.2.1 (v := 0) dX1_would_19 rfl ?_
  exact kX1_wouldb20 C hr hin hT hmc  hw H locs ls hS (lv_sub hl [0, 1, 2, 3, 4] rfl)
theorem kX1_wouldb0 (C : xC G p l s m args meth c cX1_would 5 "ExcuseLedger") (hr : meth.sig.returnType = (Option.some Jvm.ClassFile.FieldType.boolean)) (hin : meth.name = "would") (hT : ∀ x ∈ c.exceptionTable.toList, False) (hmc : mc = gL G - s.heap.size ∧ ms = gU G - hsum s.heap)   {v0 : Option Nat} {v1 : Int32} {v2 : Int32} {v3 : Int32} {v4 : Int32} {z : hSt} (hw : wX1_wouldb0 G P PX  v0 v1 v2 v3 v4 z) : kt G p l e (rmX1_would mc ms) s m args below meth c 5 (vx_MQ below (cQ G (pI P)) (cX G PX) args s mc ms (gF G)) 0 [(0, va_rf v0), (1, .int v1), (2, .int v2), (3, .int v3), (4, .int v4)] [] z := by
  intro H locs ls hS hl
  refine lv_iload_n C.1 C.2.1 dX1_would_0 rfl (lv_at hl 1 rfl) ?_
  refine c_S C hS hmc hl.1 (kX1_isPupil C.2.2.2.2.2.2.1) hw (lw_S q2382 q1978 q67 q1979) hdX1_isPupil ⟨Nat.le_of_ble_eq_true rfl, Nat.le_of_ble_eq_true rfl⟩ (rest := []) rfl rfl (Nat.le_of_ble_eq_true rfl) dX1_would_1 (fun ci q z H locs hx hS ht => r_out C hS hmc (fun x hx => (hT x hx).elim) ht hx) (fun v z1 H locs hv hS => ?_)
  obtain ⟨x2, rfl, hw⟩ := hv
  refine lv_if_eq C.1 C.2.1 dX1_would_4 rfl (fun h => ?_) (fun h => ?_)
  · have hw := hw.1 h
    exact kX1_wouldb19 C hr hin hT hmc  hw H locs ls hS (lv_sub hl [0, 1, 2, 3, 4] rfl)
  · have hw := hw.2 h
    refine lv_iload C.1 C.2.1 dX1_would_7 (lv_at hl 4 rfl) ?_
    refine c_S C hS hmc hl.1 (kX1_isSchool C.2.2.2.2.2.2.1) hw (lw_S q2462 q1990 q67 q1991) hdX1_isSchool ⟨Nat.le_of_ble_eq_true rfl, Nat.le_of_ble_eq_true rfl⟩ (rest := []) rfl rfl (Nat.le_of_ble_eq_true rfl) dX1_would_9 (fun ci q z H locs hx hS ht => r_out C hS hmc (fun x hx => (hT x hx).elim) ht hx) (fun v z3 H locs hv hS => ?_)
    obtain ⟨x4, rfl, hw⟩ := hv
    refine lv_if_eq C.1 C.2.1 dX1_would_12 rfl (fun h => ?_) (fun h => ?_)
    · have hw := hw.1 h
      exact kX1_wouldb19 C hr hin hT hmc  hw H locs ls hS (lv_sub hl [0, 1, 2, 3, 4] rfl)
    · have hw := hw.2 h
      refine lv_iconst C.1 C.2.1 (v := 1) dX1_would_15 rfl ?_
      refine lv_goto C.1 C.2.1 dX1_would_16 rfl ?_
      exact kX1_wouldb20 C hr hin hT hmc  hw H locs ls hS (lv_sub hl [0, 1, 2, 3, 4] rfl)
end
theorem kX1_would {l : Launch} (hl : l.stackTraces = false) {G : gE} {P : Int32 → hSt → Prop} {PX : Nat → Nat → hSt → Prop} {v0 : Option Nat} {v1 : Int32} {v2 : Int32} {v3 : Int32} {v4 : Int32} {z : hSt} : cM l G yX1_would (ws_ yX1_would cX1_would 5 (Option.some Jvm.ClassFile.FieldType.boolean)) 17 314 z [va_rf v0, .int v1, .int v2, .int v3, .int v4] (wX1_would G P PX v0 v1 v2 v3 v4 z) (pI P) PX := by
  refine m_of hl (plainFor_of_name (by decide)) (by rw [lg_sl1 (va_rf_cat _), lg_sl1 rfl, lg_sl1 rfl, lg_sl1 rfl, lg_sl1 rfl]; exact Nat.le_of_ble_eq_true rfl) ?_
  intro p e s m args below meth c C hr hin hT hmc hw
  rw [lv_args1 (va_rf_cat _), lv_args1 rfl, lv_args1 rfl, lv_args1 rfl, lv_args1 rfl]
  intro H locs ls hS hl
  exact kX1_wouldb0 C hr hin hT hmc hw H locs ls hS (lv_sub hl [0, 1, 2, 3, 4] rfl)
theorem hdX1_would : yX1_would.cls ≠ "java/lang/invoke/MethodHandle" ∧ yX1_would.cls ≠ "java/lang/invoke/VarHandle" ∧ (parseMethodDescriptor yX1_would.desc).map (fun d => d.parameters.length) = some 4 := ⟨by decide +kernel, by decide +kernel, by decide +kernel⟩
abbrev rmX1_believers (mc ms : Nat) : Room := { frames := 18, cells := mc, slots := ms, locals := 338 }
def wX1_believersb0 (G : gE) (P : Int32 → hSt → Prop) (PX : Nat → Nat → hSt → Prop)  (v0 : Option Nat) (v1 : Int32) (v2 : Int32) (v3 : Int32) (z : hSt) : Prop :=
  wX1_isPupil G (fun x2 z1 => wX1_checkIndex G (fun z3 => gtR z3 v0 [0] 0 (fun x4 => (rcv z3 v0 0 ∧ wX1_checkedExcuse G (fun x6 z5 => (rcv z5 x4 1 ∧ wX2_believers G (fun x8 z7 => P x8 z7) PX x4 v1 x6 z5)) PX v0 v2 v3 z3))) PX x2 z1) PX v1 z
def wX1_believers (G : gE) (P : Int32 → hSt → Prop) (PX : Nat → Nat → hSt → Prop) (v0 : Option Nat) (v1 : Int32) (v2 : Int32) (v3 : Int32) (z : hSt) : Prop := wX1_believersb0 G P PX v0 v1 v2 v3 z
section
variable {p : Program} {l : Launch} {e : Env} {s : State} {m : MethodId} {args : Array Value} {below : List Frame} {meth : Method} {c : Code} {G : gE} {mc ms : Nat} {P : Int32 → hSt → Prop} {PX : Nat → Nat → hSt → Prop}
theorem kX1_believersb0 (C : xC G p l s m args meth c cX1_believers 4 "ExcuseLedger") (hr : meth.sig.returnType = (Option.some Jvm.ClassFile.FieldType.int)) (hin : meth.name = "believers") (hT : ∀ x ∈ c.exceptionTable.toList, False) (hmc : mc = gL G - s.heap.size ∧ ms = gU G - hsum s.heap)   {v0 : Option Nat} {v1 : Int32} {v2 : Int32} {v3 : Int32} {z : hSt} (hw : wX1_believersb0 G P PX  v0 v1 v2 v3 z) : kt G p l e (rmX1_believers mc ms) s m args below meth c 4 (vx_MQ below (cQ G (pI P)) (cX G PX) args s mc ms (gF G)) 0 [(0, va_rf v0), (1, .int v1), (2, .int v2), (3, .int v3)] [] z := by
  intro H locs ls hS hl
  refine lv_iload_n C.1 C.2.1 dX1_believers_0 rfl (lv_at hl 1 rfl) ?_
  refine c_S C hS hmc hl.1 (kX1_isPupil C.2.2.2.2.2.2.1) hw (lw_S q2382 q1978 q67 q1979) hdX1_isPupil ⟨Nat.le_of_ble_eq_true rfl, Nat.le_of_ble_eq_true rfl⟩ (rest := []) rfl rfl (Nat.le_of_ble_eq_true rfl) dX1_believers_1 (fun ci q z H locs hx hS ht => r_out C hS hmc (fun x hx => (hT x hx).elim) ht hx) (fun v z1 H locs hv hS => ?_)
  obtain ⟨x2, rfl, hw⟩ := hv
  refine c_S C hS hmc hl.1 (kX1_checkIndex C.2.2.2.2.2.2.1) hw (lw_S q2383 q2384 q67 q2385) hdX1_checkIndex ⟨Nat.le_of_ble_eq_true rfl, Nat.le_of_ble_eq_true rfl⟩ (rest := []) rfl rfl (Nat.le_of_ble_eq_true rfl) dX1_believers_4 (fun ci q z H locs hx hS ht => r_out C hS hmc (fun x hx => (hT x hx).elim) ht hx) (fun v z3 H locs hv hS => ?_)
  obtain ⟨rfl, hw⟩ := hv
  refine r_aload_n C.1 C.2.1 dX1_believers_7 rfl (lv_at hl 0 rfl) ?_
  refine r_getR C hS fo_0_0 (fl_d C q389) (fun _ h => h) dX1_believers_8 hw (fun x4 hw => ?_)
  refine lv_iload_n C.1 C.2.1 dX1_believers_11 rfl (lv_at hl 1 rfl) ?_
  refine r_aload_n C.1 C.2.1 dX1_believers_12 rfl (lv_at hl 0 rfl) ?_
  refine lv_iload_n C.1 C.2.1 dX1_believers_13 rfl (lv_at hl 2 rfl) ?_
  refine lv_iload_n C.1 C.2.1 dX1_believers_14 rfl (lv_at hl 3 rfl) ?_
  refine c_V C hS hmc hl.1 (ci := 0) rfl hw.1 (kX1_checkedExcuse C.2.2.2.2.2.2.1) hw.2 (lw_V q2488 q2490 qs15 q67 q2491) ⟨rfl, hdX1_checkedExcuse⟩ ⟨Nat.le_of_ble_eq_true rfl, Nat.le_of_ble_eq_true rfl⟩ (rest := [.int v1, va_rf x4]) rfl rfl (Nat.le_of_ble_eq_true rfl) dX1_believers_15 (fun ci q z H locs hx hS ht => r_out C hS hmc (fun x hx => (hT x hx).elim) ht hx) (fun v z5 H locs hv hS => ?_)
  obtain ⟨x6, rfl, hw⟩ := hv
  refine c_V C hS hmc hl.1 (ci := 1) rfl hw.1 (kX2_believers C.2.2.2.2.2.2.1) hw.2 (lw_V q2593 q2271 q2272 q68 q2273) ⟨rfl, hdX2_believers⟩ ⟨Nat.le_of_ble_eq_true rfl, Nat.le_of_ble_eq_true rfl⟩ (rest := []) rfl rfl (Nat.le_of_ble_eq_true rfl) dX1_believers_18 (fun ci q z H locs hx hS ht => r_out C hS hmc (fun x hx => (hT x hx).elim) ht hx) (fun v z7 H locs hv hS => ?_)
  obtain ⟨x8, rfl, hw⟩ := hv
  exact r_iret C hS hmc hr dX1_believers_21 hw
end
theorem kX1_believers {l : Launch} (hl : l.stackTraces = false) {G : gE} {P : Int32 → hSt → Prop} {PX : Nat → Nat → hSt → Prop} {v0 : Option Nat} {v1 : Int32} {v2 : Int32} {v3 : Int32} {z : hSt} : cM l G yX1_believers (ws_ yX1_believers cX1_believers 4 (Option.some Jvm.ClassFile.FieldType.int)) 18 338 z [va_rf v0, .int v1, .int v2, .int v3] (wX1_believers G P PX v0 v1 v2 v3 z) (pI P) PX := by
  refine m_of hl (plainFor_of_name (by decide)) (by rw [lg_sl1 (va_rf_cat _), lg_sl1 rfl, lg_sl1 rfl, lg_sl1 rfl]; exact Nat.le_of_ble_eq_true rfl) ?_
  intro p e s m args below meth c C hr hin hT hmc hw
  rw [lv_args1 (va_rf_cat _), lv_args1 rfl, lv_args1 rfl, lv_args1 rfl]
  intro H locs ls hS hl
  exact kX1_believersb0 C hr hin hT hmc hw H locs ls hS (lv_sub hl [0, 1, 2, 3] rfl)
theorem hdX1_believers : yX1_believers.cls ≠ "java/lang/invoke/MethodHandle" ∧ yX1_believers.cls ≠ "java/lang/invoke/VarHandle" ∧ (parseMethodDescriptor yX1_believers.desc).map (fun d => d.parameters.length) = some 3 := ⟨by decide +kernel, by decide +kernel, by decide +kernel⟩
abbrev rmX1_left (mc ms : Nat) : Room := { frames := 18, cells := mc, slots := ms, locals := 339 }
def wX1_leftb0 (G : gE) (P : Int32 → hSt → Prop) (PX : Nat → Nat → hSt → Prop)  (v0 : Option Nat) (v1 : Int32) (z : hSt) : Prop :=
  wX1_isPupil G (fun x2 z1 => wX1_checkIndex G (fun z3 => gtR z3 v0 [0] 0 (fun x4 => (rcv z3 x4 1 ∧ wX2_left G (fun x6 z5 => P x6 z5) PX x4 v1 z3))) PX x2 z1) PX v1 z
def wX1_left (G : gE) (P : Int32 → hSt → Prop) (PX : Nat → Nat → hSt → Prop) (v0 : Option Nat) (v1 : Int32) (z : hSt) : Prop := wX1_leftb0 G P PX v0 v1 z
section
variable {p : Program} {l : Launch} {e : Env} {s : State} {m : MethodId} {args : Array Value} {below : List Frame} {meth : Method} {c : Code} {G : gE} {mc ms : Nat} {P : Int32 → hSt → Prop} {PX : Nat → Nat → hSt → Prop}
theorem kX1_leftb0 (C : xC G p l s m args meth c cX1_left 2 "ExcuseLedger") (hr : meth.sig.returnType = (Option.some Jvm.ClassFile.FieldType.int)) (hin : meth.name = "left") (hT : ∀ x ∈ c.exceptionTable.toList, False) (hmc : mc = gL G - s.heap.size ∧ ms = gU G - hsum s.heap)   {v0 : Option Nat} {v1 : Int32} {z : hSt} (hw : wX1_leftb0 G P PX  v0 v1 z) : kt G p l e (rmX1_left mc ms) s m args below meth c 2 (vx_MQ below (cQ G (pI P)) (cX G PX) args s mc ms (gF G)) 0 [(0, va_rf v0), (1, .int v1)] [] z := by
  intro H locs ls hS hl
  refine lv_iload_n C.1 C.2.1 dX1_left_0 rfl (lv_at hl 1 rfl) ?_
  refine c_S C hS hmc hl.1 (kX1_isPupil C.2.2.2.2.2.2.1) hw (lw_S q2382 q1978 q67 q1979) hdX1_isPupil ⟨Nat.le_of_ble_eq_true rfl, Nat.le_of_ble_eq_true rfl⟩ (rest := []) rfl rfl (Nat.le_of_ble_eq_true rfl) dX1_left_1 (fun ci q z H locs hx hS ht => r_out C hS hmc (fun x hx => (hT x hx).elim) ht hx) (fun v z1 H locs hv hS => ?_)
  obtain ⟨x2, rfl, hw⟩ := hv
  refine c_S C hS hmc hl.1 (kX1_checkIndex C.2.2.2.2.2.2.1) hw (lw_S q2383 q2384 q67 q2385) hdX1_checkIndex ⟨Nat.le_of_ble_eq_true rfl, Nat.le_of_ble_eq_true rfl⟩ (rest := []) rfl rfl (Nat.le_of_ble_eq_true rfl) dX1_left_4 (fun ci q z H locs hx hS ht => r_out C hS hmc (fun x hx => (hT x hx).elim) ht hx) (fun v z3 H locs hv hS => ?_)
  obtain ⟨rfl, hw⟩ := hv
  refine r_aload_n C.1 C.2.1 dX1_left_7 rfl (lv_at hl 0 rfl) ?_
  refine r_getR C hS fo_0_0 (fl_d C q389) (fun _ h => h) dX1_left_8 hw (fun x4 hw => ?_)
  refine lv_iload_n C.1 C.2.1 dX1_left_11 rfl (lv_at hl 1 rfl) ?_
  refine c_V C hS hmc hl.1 (ci := 1) rfl hw.1 (kX2_left C.2.2.2.2.2.2.1) hw.2 (lw_V q2601 q2317 q2318 q68 q2319) ⟨rfl, hdX2_left⟩ ⟨Nat.le_of_ble_eq_true rfl, Nat.le_of_ble_eq_true rfl⟩ (rest := []) rfl rfl (Nat.le_of_ble_eq_true rfl) dX1_left_12 (fun ci q z H locs hx hS ht => r_out C hS hmc (fun x hx => (hT x hx).elim) ht hx) (fun v z5 H locs hv hS => ?_)
  obtain ⟨x6, rfl, hw⟩ := hv
  exact r_iret C hS hmc hr dX1_left_15 hw
end
theorem kX1_left {l : Launch} (hl : l.stackTraces = false) {G : gE} {P : Int32 → hSt → Prop} {PX : Nat → Nat → hSt → Prop} {v0 : Option Nat} {v1 : Int32} {z : hSt} : cM l G yX1_left (ws_ yX1_left cX1_left 2 (Option.some Jvm.ClassFile.FieldType.int)) 18 339 z [va_rf v0, .int v1] (wX1_left G P PX v0 v1 z) (pI P) PX := by
  refine m_of hl (plainFor_of_name (by decide)) (by rw [lg_sl1 (va_rf_cat _), lg_sl1 rfl]; exact Nat.le_of_ble_eq_true rfl) ?_
  intro p e s m args below meth c C hr hin hT hmc hw
  rw [lv_args1 (va_rf_cat _), lv_args1 rfl]
  intro H locs ls hS hl
  exact kX1_leftb0 C hr hin hT hmc hw H locs ls hS (lv_sub hl [0, 1] rfl)
theorem hdX1_left : yX1_left.cls ≠ "java/lang/invoke/MethodHandle" ∧ yX1_left.cls ≠ "java/lang/invoke/VarHandle" ∧ (parseMethodDescriptor yX1_left.desc).map (fun d => d.parameters.length) = some 1 := ⟨by decide +kernel, by decide +kernel, by decide +kernel⟩
abbrev rmX1_leftAgain (mc ms : Nat) : Room := { frames := 16, cells := mc, slots := ms, locals := 294 }
def wX1_leftAgainb0 (G : gE) (P : Int32 → hSt → Prop) (PX : Nat → Nat → hSt → Prop)  (v0 : Option Nat) (v1 : Int32) (z : hSt) : Prop :=
  wX1_isPupil G (fun x2 z1 => wX1_checkIndex G (fun z3 => gtR z3 v0 [0] 0 (fun x4 => (rcv z3 x4 1 ∧ wX2_leftAgain G (fun x6 z5 => P x6 z5) PX x4 v1 z3))) PX x2 z1) PX v1 z
def wX1_leftAgain (G : gE) (P : Int32 → hSt → Prop) (PX : Nat → Nat → hSt → Prop) (v0 : Option Nat) (v1 : Int32) (z : hSt) : Prop := wX1_leftAgainb0 G P PX v0 v1 z
section
variable {p : Program} {l : Launch} {e : Env} {s : State} {m : MethodId} {args : Array Value} {below : List Frame} {meth : Method} {c : Code} {G : gE} {mc ms : Nat} {P : Int32 → hSt → Prop} {PX : Nat → Nat → hSt → Prop}
theorem kX1_leftAgainb0 (C : xC G p l s m args meth c cX1_leftAgain 2 "ExcuseLedger") (hr : meth.sig.returnType = (Option.some Jvm.ClassFile.FieldType.int)) (hin : meth.name = "leftAgain") (hT : ∀ x ∈ c.exceptionTable.toList, False) (hmc : mc = gL G - s.heap.size ∧ ms = gU G - hsum s.heap)   {v0 : Option Nat} {v1 : Int32} {z : hSt} (hw : wX1_leftAgainb0 G P PX  v0 v1 z) : kt G p l e (rmX1_leftAgain mc ms) s m args below meth c 2 (vx_MQ below (cQ G (pI P)) (cX G PX) args s mc ms (gF G)) 0 [(0, va_rf v0), (1, .int v1)] [] z := by
  intro H locs ls hS hl
  refine lv_iload_n C.1 C.2.1 dX1_leftAgain_0 rfl (lv_at hl 1 rfl) ?_
  refine c_S C hS hmc hl.1 (kX1_isPupil C.2.2.2.2.2.2.1) hw (lw_S q2382 q1978 q67 q1979) hdX1_isPupil ⟨Nat.le_of_ble_eq_true rfl, Nat.le_of_ble_eq_true rfl⟩ (rest := []) rfl rfl (Nat.le_of_ble_eq_true rfl) dX1_leftAgain_1 (fun ci q z H locs hx hS ht => r_out C hS hmc (fun x hx => (hT x hx).elim) ht hx) (fun v z1 H locs hv hS => ?_)
  obtain ⟨x2, rfl, hw⟩ := hv
  refine c_S C hS hmc hl.1 (kX1_checkIndex C.2.2.2.2.2.2.1) hw (lw_S q2383 q2384 q67 q2385) hdX1_checkIndex ⟨Nat.le_of_ble_eq_true rfl, Nat.le_of_ble_eq_true rfl⟩ (rest := []) rfl rfl (Nat.le_of_ble_eq_true rfl) dX1_leftAgain_4 (fun ci q z H locs hx hS ht => r_out C hS hmc (fun x hx => (hT x hx).elim) ht hx) (fun v z3 H locs hv hS => ?_)
  obtain ⟨rfl, hw⟩ := hv
  refine r_aload_n C.1 C.2.1 dX1_leftAgain_7 rfl (lv_at hl 0 rfl) ?_
  refine r_getR C hS fo_0_0 (fl_d C q389) (fun _ h => h) dX1_leftAgain_8 hw (fun x4 hw => ?_)
  refine lv_iload_n C.1 C.2.1 dX1_leftAgain_11 rfl (lv_at hl 1 rfl) ?_
  refine c_V C hS hmc hl.1 (ci := 1) rfl hw.1 (kX2_leftAgain C.2.2.2.2.2.2.1) hw.2 (lw_V q2609 q2325 q2326 q68 q2327) ⟨rfl, hdX2_leftAgain⟩ ⟨Nat.le_of_ble_eq_true rfl, Nat.le_of_ble_eq_true rfl⟩ (rest := []) rfl rfl (Nat.le_of_ble_eq_true rfl) dX1_leftAgain_12 (fun ci q z H locs hx hS ht => r_out C hS hmc (fun x hx => (hT x hx).elim) ht hx) (fun v z5 H locs hv hS => ?_)
  obtain ⟨x6, rfl, hw⟩ := hv
  exact r_iret C hS hmc hr dX1_leftAgain_15 hw
end
theorem kX1_leftAgain {l : Launch} (hl : l.stackTraces = false) {G : gE} {P : Int32 → hSt → Prop} {PX : Nat → Nat → hSt → Prop} {v0 : Option Nat} {v1 : Int32} {z : hSt} : cM l G yX1_leftAgain (ws_ yX1_leftAgain cX1_leftAgain 2 (Option.some Jvm.ClassFile.FieldType.int)) 16 294 z [va_rf v0, .int v1] (wX1_leftAgain G P PX v0 v1 z) (pI P) PX := by
  refine m_of hl (plainFor_of_name (by decide)) (by rw [lg_sl1 (va_rf_cat _), lg_sl1 rfl]; exact Nat.le_of_ble_eq_true rfl) ?_
  intro p e s m args below meth c C hr hin hT hmc hw
  rw [lv_args1 (va_rf_cat _), lv_args1 rfl]
  intro H locs ls hS hl
  exact kX1_leftAgainb0 C hr hin hT hmc hw H locs ls hS (lv_sub hl [0, 1] rfl)
theorem hdX1_leftAgain : yX1_leftAgain.cls ≠ "java/lang/invoke/MethodHandle" ∧ yX1_leftAgain.cls ≠ "java/lang/invoke/VarHandle" ∧ (parseMethodDescriptor yX1_leftAgain.desc).map (fun d => d.parameters.length) = some 1 := ⟨by decide +kernel, by decide +kernel, by decide +kernel⟩
abbrev rmX1_checkedFound (mc ms : Nat) : Room := { frames := 11, cells := mc, slots := ms, locals := 180 }
def wX1_checkedFoundb10 (G : gE) (P : Int32 → hSt → Prop) (PX : Nat → Nat → hSt → Prop)  (v0 : Int32) (s0 : Int32) (z : hSt) : Prop :=
  wX1_checkElement G (fun z1 => P v0 z1) PX s0 z
def wX1_checkedFoundb0 (G : gE) (P : Int32 → hSt → Prop) (PX : Nat → Nat → hSt → Prop)  (v0 : Int32) (z : hSt) : Prop :=
  ((v0 = (-1) → wX1_checkedFoundb10 G P PX  v0 0 z) ∧ (¬ v0 = (-1) → wX1_checkedFoundb10 G P PX  v0 1 z))
def wX1_checkedFound (G : gE) (P : Int32 → hSt → Prop) (PX : Nat → Nat → hSt → Prop) (v0 : Int32) (z : hSt) : Prop := wX1_checkedFoundb0 G P PX v0 z
section
variable {p : Program} {l : Launch} {e : Env} {s : State} {m : MethodId} {args : Array Value} {below : List Frame} {meth : Method} {c : Code} {G : gE} {mc ms : Nat} {P : Int32 → hSt → Prop} {PX : Nat → Nat → hSt → Prop}
theorem kX1_checkedFoundb10 (C : xC G p l s m args meth c cX1_checkedFound 1 "ExcuseLedger") (hr : meth.sig.returnType = (Option.some Jvm.ClassFile.FieldType.int)) (hin : meth.name = "checkedFound") (hT : ∀ x ∈ c.exceptionTable.toList, False) (hmc : mc = gL G - s.heap.size ∧ ms = gU G - hsum s.heap)   {v0 : Int32} {s0 : Int32} {z : hSt} (hw : wX1_checkedFoundb10 G P PX  v0 s0 z) : kt G p l e (rmX1_checkedFound mc ms) s m args below meth c 1 (vx_MQ below (cQ G (pI P)) (cX G PX) args s mc ms (gF G)) 10 [(0, .int v0)] [.int s0] z := by
  intro H locs ls hS hl
  refine c_S C hS hmc hl.1 (kX1_checkElement C.2.2.2.2.2.2.1) hw (lw_S q2494 q2495 q67 q2496) hdX1_checkElement ⟨Nat.le_of_ble_eq_true rfl, Nat.le_of_ble_eq_true rfl⟩ (rest := []) rfl rfl (Nat.le_of_ble_eq_true rfl) dX1_checkedFound_10 (fun ci q z H locs hx hS ht => r_out C hS hmc (fun x hx => (hT x hx).elim) ht hx) (fun v z1 H locs hv hS => ?_)
  obtain ⟨rfl, hw⟩ := hv
  refine lv_iload_n C.1 C.2.1 dX1_checkedFound_13 rfl (lv_at hl 0 rfl) ?_
  exact r_iret C hS hmc hr dX1_checkedFound_14 hw
theorem kX1_checkedFoundb0 (C : xC G p l s m args meth c cX1_checkedFound 1 "ExcuseLedger") (hr : meth.sig.returnType = (Option.some Jvm.ClassFile.FieldType.int)) (hin : meth.name = "checkedFound") (hT : ∀ x ∈ c.exceptionTable.toList, False) (hmc : mc = gL G - s.heap.size ∧ ms = gU G - hsum s.heap)   {v0 : Int32} {z : hSt} (hw : wX1_checkedFoundb0 G P PX  v0 z) : kt G p l e (rmX1_checkedFound mc ms) s m args below meth c 1 (vx_MQ below (cQ G (pI P)) (cX G PX) args s mc ms (gF G)) 0 [(0, .int v0)] [] z := by
  intro H locs ls hS hl
  refine lv_iload_n C.1 C.2.1 dX1_checkedFound_0 rfl (lv_at hl 0 rfl) ?_
  refine lv_iconst C.1 C.2.1 (v := (-1)) dX1_checkedFound_1 rfl ?_
  refine lv_icmp_eq C.1 C.2.1 dX1_checkedFound_2 rfl (fun h => ?_) (fun h => ?_)
  · have hw := hw.1 h
    refine lv_iconst C.1 C.2.1 (v := 0) dX1_checkedFound_9 rfl ?_
    exact kX1_checkedFoundb10 C hr hin hT hmc  hw H locs ls hS (lv_sub hl [0] rfl)
  · have hw := hw.2 h
    refine lv_iconst C.1 C.2.1 (v := 1) dX1_checkedFound_5 rfl ?_
    refine lv_goto C.1 C.2.1 dX1_checkedFound_6 rfl ?_
    exact kX1_checkedFoundb10 C hr hin hT hmc  hw H locs ls hS (lv_sub hl [0] rfl)
end
theorem kX1_checkedFound {l : Launch} (hl : l.stackTraces = false) {G : gE} {P : Int32 → hSt → Prop} {PX : Nat → Nat → hSt → Prop} {v0 : Int32} {z : hSt} : cM l G yX1_checkedFound (ws_ yX1_checkedFound cX1_checkedFound 1 (Option.some Jvm.ClassFile.FieldType.int)) 11 180 z [.int v0] (wX1_checkedFound G P PX v0 z) (pI P) PX := by
  refine m_of hl (plainFor_of_name (by decide)) (by rw [lg_sl1 rfl]; exact Nat.le_of_ble_eq_true rfl) ?_
  intro p e s m args below meth c C hr hin hT hmc hw
  rw [lv_args1 rfl]
  intro H locs ls hS hl
  exact kX1_checkedFoundb0 C hr hin hT hmc hw H locs ls hS (lv_sub hl [0] rfl)
theorem hdX1_checkedFound : yX1_checkedFound.cls ≠ "java/lang/invoke/MethodHandle" ∧ yX1_checkedFound.cls ≠ "java/lang/invoke/VarHandle" ∧ (parseMethodDescriptor yX1_checkedFound.desc).map (fun d => d.parameters.length) = some 1 := ⟨by decide +kernel, by decide +kernel, by decide +kernel⟩
abbrev rmX1_best (mc ms : Nat) : Room := { frames := 19, cells := mc, slots := ms, locals := 361 }
def wX1_bestb19 (G : gE) (P : Int32 → hSt → Prop) (PX : Nat → Nat → hSt → Prop)  (v0 : Option Nat) (v1 : Int32) (v2 : Int32) (s0 : Int32) (z : hSt) : Prop :=
  wX1_checkIndex G (fun z5 => gtR z5 v0 [0] 0 (fun x6 => (rcv z5 x6 1 ∧ wX2_best G (fun x8 z7 => wX1_checkedFound G (fun x10 z9 => P x10 z9) PX x8 z7) PX x6 v1 v2 z5))) PX s0 z
def wX1_bestb18 (G : gE) (P : Int32 → hSt → Prop) (PX : Nat → Nat → hSt → Prop)  (v0 : Option Nat) (v1 : Int32) (v2 : Int32) (z : hSt) : Prop :=
  wX1_bestb19 G P PX  v0 v1 v2 0 z
def wX1_bestb0 (G : gE) (P : Int32 → hSt → Prop) (PX : Nat → Nat → hSt → Prop)  (v0 : Option Nat) (v1 : Int32) (v2 : Int32) (z : hSt) : Prop :=
  wX1_isPupil G (fun x2 z1 => ((x2 = 0 → wX1_bestb18 G P PX  v0 v1 v2 z1) ∧ (¬ x2 = 0 → wX1_isSchool G (fun x4 z3 => ((x4 = 0 → wX1_bestb18 G P PX  v0 v1 v2 z3) ∧ (¬ x4 = 0 → wX1_bestb19 G P PX  v0 v1 v2 1 z3))) PX v2 z1))) PX v1 z
def wX1_best (G : gE) (P : Int32 → hSt → Prop) (PX : Nat → Nat → hSt → Prop) (v0 : Option Nat) (v1 : Int32) (v2 : Int32) (z : hSt) : Prop := wX1_bestb0 G P PX v0 v1 v2 z
section
variable {p : Program} {l : Launch} {e : Env} {s : State} {m : MethodId} {args : Array Value} {below : List Frame} {meth : Method} {c : Code} {G : gE} {mc ms : Nat} {P : Int32 → hSt → Prop} {PX : Nat → Nat → hSt → Prop}
theorem kX1_bestb19 (C : xC G p l s m args meth c cX1_best 3 "ExcuseLedger") (hr : meth.sig.returnType = (Option.some Jvm.ClassFile.FieldType.int)) (hin : meth.name = "best") (hT : ∀ x ∈ c.exceptionTable.toList, False) (hmc : mc = gL G - s.heap.size ∧ ms = gU G - hsum s.heap)   {v0 : Option Nat} {v1 : Int32} {v2 : Int32} {s0 : Int32} {z : hSt} (hw : wX1_bestb19 G P PX  v0 v1 v2 s0 z) : kt G p l e (rmX1_best mc ms) s m args below meth c 3 (vx_MQ below (cQ G (pI P)) (cX G PX) args s mc ms (gF G)) 19 [(0, va_rf v0), (1, .int v1), (2, .int v2)] [.int s0] z := by
  intro H locs ls hS hl
  refine c_S C hS hmc hl.1 (kX1_checkIndex C.2.2.2.2.2.2.1) hw (lw_S q2383 q2384 q67 q2385) hdX1_checkIndex ⟨Nat.le_of_ble_eq_true rfl, Nat.le_of_ble_eq_true rfl⟩ (rest := []) rfl rfl (Nat.le_of_ble_eq_true rfl) dX1_best_19 (fun ci q z H locs hx hS ht => r_out C hS hmc (fun x hx => (hT x hx).elim) ht hx) (fun v z5 H locs hv hS => ?_)
  obtain ⟨rfl, hw⟩ := hv
  refine r_aload_n C.1 C.2.1 dX1_best_22 rfl (lv_at hl 0 rfl) ?_
  refine r_getR C hS fo_0_0 (fl_d C q389) (fun _ h => h) dX1_best_23 hw (fun x6 hw => ?_)
  refine lv_iload_n C.1 C.2.1 dX1_best_26 rfl (lv_at hl 1 rfl) ?_
  refine lv_iload_n C.1 C.2.1 dX1_best_27 rfl (lv_at hl 2 rfl) ?_
  refine c_V C hS hmc hl.1 (ci := 1) rfl hw.1 (kX2_best C.2.2.2.2.2.2.1) hw.2 (lw_V q2617 q2618 q2619 q68 q2620) ⟨rfl, hdX2_best⟩ ⟨Nat.le_of_ble_eq_true rfl, Nat.le_of_ble_eq_true rfl⟩ (rest := []) rfl rfl (Nat.le_of_ble_eq_true rfl) dX1_best_28 (fun ci q z H locs hx hS ht => r_out C hS hmc (fun x hx => (hT x hx).elim) ht hx) (fun v z7 H locs hv hS => ?_)
  obtain ⟨x8, rfl, hw⟩ := hv
  refine c_S C hS hmc hl.1 (kX1_checkedFound C.2.2.2.2.2.2.1) hw (lw_S q2622 q2623 q67 q2624) hdX1_checkedFound ⟨Nat.le_of_ble_eq_true rfl, Nat.le_of_ble_eq_true rfl⟩ (rest := []) rfl rfl (Nat.le_of_ble_eq_true rfl) dX1_best_31 (fun ci q z H locs hx hS ht => r_out C hS hmc (fun x hx => (hT x hx).elim) ht hx) (fun v z9 H locs hv hS => ?_)
  obtain ⟨x10, rfl, hw⟩ := hv
  exact r_iret C hS hmc hr dX1_best_34 hw
theorem kX1_bestb18 (C : xC G p l s m args meth c cX1_best 3 "ExcuseLedger") (hr : meth.sig.returnType = (Option.some Jvm.ClassFile.FieldType.int)) (hin : meth.name = "best") (hT : ∀ x ∈ c.exceptionTable.toList, False) (hmc : mc = gL G - s.heap.size ∧ ms = gU G - hsum s.heap)   {v0 : Option Nat} {v1 : Int32} {v2 : Int32} {z : hSt} (hw : wX1_bestb18 G P PX  v0 v1 v2 z) : kt G p l e (rmX1_best mc ms) s m args below meth c 3 (vx_MQ below (cQ G (pI P)) (cX G PX) args s mc ms (gF G)) 18 [(0, va_rf v0), (1, .int v1), (2, .int v2)] [] z := by
  intro H locs ls hS hl
  refine lv_iconst C.1 C.2.1 (v := 0) dX1_best_18 rfl ?_
  exact kX1_bestb19 C hr hin hT hmc  hw H locs ls hS (lv_sub hl [0, 1, 2] rfl)
theorem kX1_bestb0 (C : xC G p l s m args meth c cX1_best 3 "ExcuseLedger") (hr : meth.sig.returnType = (Option.some Jvm.ClassFile.FieldType.int)) (hin : meth.name = "best") (hT : ∀ x ∈ c.exceptionTable.toList, False) (hmc : mc = gL G - s.heap.size ∧ ms = gU G - hsum s.heap)   {v0 : Option Nat} {v1 : Int32} {v2 : Int32} {z : hSt} (hw : wX1_bestb0 G P PX  v0 v1 v2 z) : kt G p l e (rmX1_best mc ms) s m args below meth c 3 (vx_MQ below (cQ G (pI P)) (cX G PX) args s mc ms (gF G)) 0 [(0, va_rf v0), (1, .int v1), (2, .int v2)] [] z := by
  intro H locs ls hS hl
  refine lv_iload_n C.1 C.2.1 dX1_best_0 rfl (lv_at hl 1 rfl) ?_
  refine c_S C hS hmc hl.1 (kX1_isPupil C.2.2.2.2.2.2.1) hw (lw_S q2382 q1978 q67 q1979) hdX1_isPupil ⟨Nat.le_of_ble_eq_true rfl, Nat.le_of_ble_eq_true rfl⟩ (rest := []) rfl rfl (Nat.le_of_ble_eq_true rfl) dX1_best_1 (fun ci q z H locs hx hS ht => r_out C hS hmc (fun x hx => (hT x hx).elim) ht hx) (fun v z1 H locs hv hS => ?_)
  obtain ⟨x2, rfl, hw⟩ := hv
  refine lv_if_eq C.1 C.2.1 dX1_best_4 rfl (fun h => ?_) (fun h => ?_)
  · have hw := hw.1 h
    exact kX1_bestb18 C hr hin hT hmc  hw H locs ls hS (lv_sub hl [0, 1, 2] rfl)
  · have hw := hw.2 h
    refine lv_iload_n C.1 C.2.1 dX1_best_7 rfl (lv_at hl 2 rfl) ?_
    refine c_S C hS hmc hl.1 (kX1_isSchool C.2.2.2.2.2.2.1) hw (lw_S q2462 q1990 q67 q1991) hdX1_isSchool ⟨Nat.le_of_ble_eq_true rfl, Nat.le_of_ble_eq_true rfl⟩ (rest := []) rfl rfl (Nat.le_of_ble_eq_true rfl) dX1_best_8 (fun ci q z H locs hx hS ht => r_out C hS hmc (fun x hx => (hT x hx).elim) ht hx) (fun v z3 H locs hv hS => ?_)
    obtain ⟨x4, rfl, hw⟩ := hv
    refine lv_if_eq C.1 C.2.1 dX1_best_11 rfl (fun h => ?_) (fun h => ?_)
    · have hw := hw.1 h
      exact kX1_bestb18 C hr hin hT hmc  hw H locs ls hS (lv_sub hl [0, 1, 2] rfl)
    · have hw := hw.2 h
      refine lv_iconst C.1 C.2.1 (v := 1) dX1_best_14 rfl ?_
      refine lv_goto C.1 C.2.1 dX1_best_15 rfl ?_
      exact kX1_bestb19 C hr hin hT hmc  hw H locs ls hS (lv_sub hl [0, 1, 2] rfl)
end
theorem kX1_best {l : Launch} (hl : l.stackTraces = false) {G : gE} {P : Int32 → hSt → Prop} {PX : Nat → Nat → hSt → Prop} {v0 : Option Nat} {v1 : Int32} {v2 : Int32} {z : hSt} : cM l G yX1_best (ws_ yX1_best cX1_best 3 (Option.some Jvm.ClassFile.FieldType.int)) 19 361 z [va_rf v0, .int v1, .int v2] (wX1_best G P PX v0 v1 v2 z) (pI P) PX := by
  refine m_of hl (plainFor_of_name (by decide)) (by rw [lg_sl1 (va_rf_cat _), lg_sl1 rfl, lg_sl1 rfl]; exact Nat.le_of_ble_eq_true rfl) ?_
  intro p e s m args below meth c C hr hin hT hmc hw
  rw [lv_args1 (va_rf_cat _), lv_args1 rfl, lv_args1 rfl]
  intro H locs ls hS hl
  exact kX1_bestb0 C hr hin hT hmc hw H locs ls hS (lv_sub hl [0, 1, 2] rfl)
theorem hdX1_best : yX1_best.cls ≠ "java/lang/invoke/MethodHandle" ∧ yX1_best.cls ≠ "java/lang/invoke/VarHandle" ∧ (parseMethodDescriptor yX1_best.desc).map (fun d => d.parameters.length) = some 2 := ⟨by decide +kernel, by decide +kernel, by decide +kernel⟩
abbrev rmX1_chances (mc ms : Nat) : Room := { frames := 19, cells := mc, slots := ms, locals := 361 }
def wX1_chancesb0 (G : gE) (P : Int32 → hSt → Prop) (PX : Nat → Nat → hSt → Prop)  (v0 : Option Nat) (z : hSt) : Prop :=
  gtR z v0 [0] 0 (fun x1 => (rcv z x1 1 ∧ wX2_chances G (fun x3 z2 => P x3 z2) PX x1  z))
def wX1_chances (G : gE) (P : Int32 → hSt → Prop) (PX : Nat → Nat → hSt → Prop) (v0 : Option Nat) (z : hSt) : Prop := wX1_chancesb0 G P PX v0 z
section
variable {p : Program} {l : Launch} {e : Env} {s : State} {m : MethodId} {args : Array Value} {below : List Frame} {meth : Method} {c : Code} {G : gE} {mc ms : Nat} {P : Int32 → hSt → Prop} {PX : Nat → Nat → hSt → Prop}
theorem kX1_chancesb0 (C : xC G p l s m args meth c cX1_chances 1 "ExcuseLedger") (hr : meth.sig.returnType = (Option.some Jvm.ClassFile.FieldType.int)) (hin : meth.name = "chances") (hT : ∀ x ∈ c.exceptionTable.toList, False) (hmc : mc = gL G - s.heap.size ∧ ms = gU G - hsum s.heap)   {v0 : Option Nat} {z : hSt} (hw : wX1_chancesb0 G P PX  v0 z) : kt G p l e (rmX1_chances mc ms) s m args below meth c 1 (vx_MQ below (cQ G (pI P)) (cX G PX) args s mc ms (gF G)) 0 [(0, va_rf v0)] [] z := by
  intro H locs ls hS hl
  refine r_aload_n C.1 C.2.1 dX1_chances_0 rfl (lv_at hl 0 rfl) ?_
  refine r_getR C hS fo_0_0 (fl_d C q389) (fun _ h => h) dX1_chances_1 hw (fun x1 hw => ?_)
  refine c_V C hS hmc hl.1 (ci := 1) rfl hw.1 (kX2_chances C.2.2.2.2.2.2.1) hw.2 (lw_V q2266 q2267 q2268 q68 q2269) ⟨rfl, hdX2_chances⟩ ⟨Nat.le_of_ble_eq_true rfl, Nat.le_of_ble_eq_true rfl⟩ (rest := []) rfl rfl (Nat.le_of_ble_eq_true rfl) dX1_chances_4 (fun ci q z H locs hx hS ht => r_out C hS hmc (fun x hx => (hT x hx).elim) ht hx) (fun v z2 H locs hv hS => ?_)
  obtain ⟨x3, rfl, hw⟩ := hv
  exact r_iret C hS hmc hr dX1_chances_7 hw
end
theorem kX1_chances {l : Launch} (hl : l.stackTraces = false) {G : gE} {P : Int32 → hSt → Prop} {PX : Nat → Nat → hSt → Prop} {v0 : Option Nat} {z : hSt} : cM l G yX1_chances (ws_ yX1_chances cX1_chances 1 (Option.some Jvm.ClassFile.FieldType.int)) 19 361 z [va_rf v0] (wX1_chances G P PX v0 z) (pI P) PX := by
  refine m_of hl (plainFor_of_name (by decide)) (by rw [lg_sl1 (va_rf_cat _)]; exact Nat.le_of_ble_eq_true rfl) ?_
  intro p e s m args below meth c C hr hin hT hmc hw
  rw [lv_args1 (va_rf_cat _)]
  intro H locs ls hS hl
  exact kX1_chancesb0 C hr hin hT hmc hw H locs ls hS (lv_sub hl [0] rfl)
theorem hdX1_chances : yX1_chances.cls ≠ "java/lang/invoke/MethodHandle" ∧ yX1_chances.cls ≠ "java/lang/invoke/VarHandle" ∧ (parseMethodDescriptor yX1_chances.desc).map (fun d => d.parameters.length) = some 0 := ⟨by decide +kernel, by decide +kernel, by decide +kernel⟩
abbrev rmX1_chancesAgain (mc ms : Nat) : Room := { frames := 18, cells := mc, slots := ms, locals := 338 }
def wX1_chancesAgainb0 (G : gE) (P : Int32 → hSt → Prop) (PX : Nat → Nat → hSt → Prop)  (v0 : Option Nat) (z : hSt) : Prop :=
  gtR z v0 [0] 0 (fun x1 => (rcv z x1 1 ∧ wX2_chancesAgain G (fun x3 z2 => P x3 z2) PX x1  z))
def wX1_chancesAgain (G : gE) (P : Int32 → hSt → Prop) (PX : Nat → Nat → hSt → Prop) (v0 : Option Nat) (z : hSt) : Prop := wX1_chancesAgainb0 G P PX v0 z
section
variable {p : Program} {l : Launch} {e : Env} {s : State} {m : MethodId} {args : Array Value} {below : List Frame} {meth : Method} {c : Code} {G : gE} {mc ms : Nat} {P : Int32 → hSt → Prop} {PX : Nat → Nat → hSt → Prop}
theorem kX1_chancesAgainb0 (C : xC G p l s m args meth c cX1_chancesAgain 1 "ExcuseLedger") (hr : meth.sig.returnType = (Option.some Jvm.ClassFile.FieldType.int)) (hin : meth.name = "chancesAgain") (hT : ∀ x ∈ c.exceptionTable.toList, False) (hmc : mc = gL G - s.heap.size ∧ ms = gU G - hsum s.heap)   {v0 : Option Nat} {z : hSt} (hw : wX1_chancesAgainb0 G P PX  v0 z) : kt G p l e (rmX1_chancesAgain mc ms) s m args below meth c 1 (vx_MQ below (cQ G (pI P)) (cX G PX) args s mc ms (gF G)) 0 [(0, va_rf v0)] [] z := by
  intro H locs ls hS hl
  refine r_aload_n C.1 C.2.1 dX1_chancesAgain_0 rfl (lv_at hl 0 rfl) ?_
  refine r_getR C hS fo_0_0 (fl_d C q389) (fun _ h => h) dX1_chancesAgain_1 hw (fun x1 hw => ?_)
  refine c_V C hS hmc hl.1 (ci := 1) rfl hw.1 (kX2_chancesAgain C.2.2.2.2.2.2.1) hw.2 (lw_V q2278 q2279 q2280 q68 q2281) ⟨rfl, hdX2_chancesAgain⟩ ⟨Nat.le_of_ble_eq_true rfl, Nat.le_of_ble_eq_true rfl⟩ (rest := []) rfl rfl (Nat.le_of_ble_eq_true rfl) dX1_chancesAgain_4 (fun ci q z H locs hx hS ht => r_out C hS hmc (fun x hx => (hT x hx).elim) ht hx) (fun v z2 H locs hv hS => ?_)
  obtain ⟨x3, rfl, hw⟩ := hv
  exact r_iret C hS hmc hr dX1_chancesAgain_7 hw
end
theorem kX1_chancesAgain {l : Launch} (hl : l.stackTraces = false) {G : gE} {P : Int32 → hSt → Prop} {PX : Nat → Nat → hSt → Prop} {v0 : Option Nat} {z : hSt} : cM l G yX1_chancesAgain (ws_ yX1_chancesAgain cX1_chancesAgain 1 (Option.some Jvm.ClassFile.FieldType.int)) 18 338 z [va_rf v0] (wX1_chancesAgain G P PX v0 z) (pI P) PX := by
  refine m_of hl (plainFor_of_name (by decide)) (by rw [lg_sl1 (va_rf_cat _)]; exact Nat.le_of_ble_eq_true rfl) ?_
  intro p e s m args below meth c C hr hin hT hmc hw
  rw [lv_args1 (va_rf_cat _)]
  intro H locs ls hS hl
  exact kX1_chancesAgainb0 C hr hin hT hmc hw H locs ls hS (lv_sub hl [0] rfl)
theorem hdX1_chancesAgain : yX1_chancesAgain.cls ≠ "java/lang/invoke/MethodHandle" ∧ yX1_chancesAgain.cls ≠ "java/lang/invoke/VarHandle" ∧ (parseMethodDescriptor yX1_chancesAgain.desc).map (fun d => d.parameters.length) = some 0 := ⟨by decide +kernel, by decide +kernel, by decide +kernel⟩
abbrev rmX1_worn (mc ms : Nat) : Room := { frames := 17, cells := mc, slots := ms, locals := 314 }
def wX1_wornb0 (G : gE) (P : Int32 → hSt → Prop) (PX : Nat → Nat → hSt → Prop)  (v0 : Option Nat) (z : hSt) : Prop :=
  gtR z v0 [0] 0 (fun x1 => (rcv z x1 1 ∧ wX2_all G (fun x3 z2 => wX2_worn G (fun x5 z4 => P x5 z4) PX x3 z2) PX x1  z))
def wX1_worn (G : gE) (P : Int32 → hSt → Prop) (PX : Nat → Nat → hSt → Prop) (v0 : Option Nat) (z : hSt) : Prop := wX1_wornb0 G P PX v0 z
section
variable {p : Program} {l : Launch} {e : Env} {s : State} {m : MethodId} {args : Array Value} {below : List Frame} {meth : Method} {c : Code} {G : gE} {mc ms : Nat} {P : Int32 → hSt → Prop} {PX : Nat → Nat → hSt → Prop}
theorem kX1_wornb0 (C : xC G p l s m args meth c cX1_worn 1 "ExcuseLedger") (hr : meth.sig.returnType = (Option.some Jvm.ClassFile.FieldType.int)) (hin : meth.name = "worn") (hT : ∀ x ∈ c.exceptionTable.toList, False) (hmc : mc = gL G - s.heap.size ∧ ms = gU G - hsum s.heap)   {v0 : Option Nat} {z : hSt} (hw : wX1_wornb0 G P PX  v0 z) : kt G p l e (rmX1_worn mc ms) s m args below meth c 1 (vx_MQ below (cQ G (pI P)) (cX G PX) args s mc ms (gF G)) 0 [(0, va_rf v0)] [] z := by
  intro H locs ls hS hl
  refine r_aload_n C.1 C.2.1 dX1_worn_0 rfl (lv_at hl 0 rfl) ?_
  refine r_getR C hS fo_0_0 (fl_d C q389) (fun _ h => h) dX1_worn_1 hw (fun x1 hw => ?_)
  refine c_V C hS hmc hl.1 (ci := 1) rfl hw.1 (kX2_all C.2.2.2.2.2.2.1) hw.2 (lw_V q2286 q2287 q2288 q68 q2289) ⟨rfl, hdX2_all⟩ ⟨Nat.le_of_ble_eq_true rfl, Nat.le_of_ble_eq_true rfl⟩ (rest := []) rfl rfl (Nat.le_of_ble_eq_true rfl) dX1_worn_4 (fun ci q z H locs hx hS ht => r_out C hS hmc (fun x hx => (hT x hx).elim) ht hx) (fun v z2 H locs hv hS => ?_)
  obtain ⟨x3, rfl, hw⟩ := hv
  refine c_SN C hS hmc hl.1 (kX2_worn C.2.2.2.2.2.2.1) hw q2295 q2293 q68 q2294 hdX2_worn ⟨Nat.le_of_ble_eq_true rfl, Nat.le_of_ble_eq_true rfl⟩ (rest := []) rfl rfl (Nat.le_of_ble_eq_true rfl) dX1_worn_7 (fun ci q z H locs hx hS ht => r_out C hS hmc (fun x hx => (hT x hx).elim) ht hx) (fun v z4 H locs hv hS => ?_)
  obtain ⟨x5, rfl, hw⟩ := hv
  exact r_iret C hS hmc hr dX1_worn_10 hw
end
theorem kX1_worn {l : Launch} (hl : l.stackTraces = false) {G : gE} {P : Int32 → hSt → Prop} {PX : Nat → Nat → hSt → Prop} {v0 : Option Nat} {z : hSt} : cM l G yX1_worn (ws_ yX1_worn cX1_worn 1 (Option.some Jvm.ClassFile.FieldType.int)) 17 314 z [va_rf v0] (wX1_worn G P PX v0 z) (pI P) PX := by
  refine m_of hl (plainFor_of_name (by decide)) (by rw [lg_sl1 (va_rf_cat _)]; exact Nat.le_of_ble_eq_true rfl) ?_
  intro p e s m args below meth c C hr hin hT hmc hw
  rw [lv_args1 (va_rf_cat _)]
  intro H locs ls hS hl
  exact kX1_wornb0 C hr hin hT hmc hw H locs ls hS (lv_sub hl [0] rfl)
theorem hdX1_worn : yX1_worn.cls ≠ "java/lang/invoke/MethodHandle" ∧ yX1_worn.cls ≠ "java/lang/invoke/VarHandle" ∧ (parseMethodDescriptor yX1_worn.desc).map (fun d => d.parameters.length) = some 0 := ⟨by decide +kernel, by decide +kernel, by decide +kernel⟩
abbrev rmX1_due (mc ms : Nat) : Room := { frames := 15, cells := mc, slots := ms, locals := 267 }
def wX1_dueb0 (G : gE) (P : Int32 → hSt → Prop) (PX : Nat → Nat → hSt → Prop)  (v0 : Option Nat) (z : hSt) : Prop :=
  gtR z v0 [0] 0 (fun x1 => (rcv z x1 1 ∧ wX2_due G (fun x3 z2 => P x3 z2) PX x1  z))
def wX1_due (G : gE) (P : Int32 → hSt → Prop) (PX : Nat → Nat → hSt → Prop) (v0 : Option Nat) (z : hSt) : Prop := wX1_dueb0 G P PX v0 z
section
variable {p : Program} {l : Launch} {e : Env} {s : State} {m : MethodId} {args : Array Value} {below : List Frame} {meth : Method} {c : Code} {G : gE} {mc ms : Nat} {P : Int32 → hSt → Prop} {PX : Nat → Nat → hSt → Prop}
theorem kX1_dueb0 (C : xC G p l s m args meth c cX1_due 1 "ExcuseLedger") (hr : meth.sig.returnType = (Option.some Jvm.ClassFile.FieldType.int)) (hin : meth.name = "due") (hT : ∀ x ∈ c.exceptionTable.toList, False) (hmc : mc = gL G - s.heap.size ∧ ms = gU G - hsum s.heap)   {v0 : Option Nat} {z : hSt} (hw : wX1_dueb0 G P PX  v0 z) : kt G p l e (rmX1_due mc ms) s m args below meth c 1 (vx_MQ below (cQ G (pI P)) (cX G PX) args s mc ms (gF G)) 0 [(0, va_rf v0)] [] z := by
  intro H locs ls hS hl
  refine r_aload_n C.1 C.2.1 dX1_due_0 rfl (lv_at hl 0 rfl) ?_
  refine r_getR C hS fo_0_0 (fl_d C q389) (fun _ h => h) dX1_due_1 hw (fun x1 hw => ?_)
  refine c_V C hS hmc hl.1 (ci := 1) rfl hw.1 (kX2_due C.2.2.2.2.2.2.1) hw.2 (lw_V q2301 q2220 q2221 q68 q2222) ⟨rfl, hdX2_due⟩ ⟨Nat.le_of_ble_eq_true rfl, Nat.le_of_ble_eq_true rfl⟩ (rest := []) rfl rfl (Nat.le_of_ble_eq_true rfl) dX1_due_4 (fun ci q z H locs hx hS ht => r_out C hS hmc (fun x hx => (hT x hx).elim) ht hx) (fun v z2 H locs hv hS => ?_)
  obtain ⟨x3, rfl, hw⟩ := hv
  exact r_iret C hS hmc hr dX1_due_7 hw
end
theorem kX1_due {l : Launch} (hl : l.stackTraces = false) {G : gE} {P : Int32 → hSt → Prop} {PX : Nat → Nat → hSt → Prop} {v0 : Option Nat} {z : hSt} : cM l G yX1_due (ws_ yX1_due cX1_due 1 (Option.some Jvm.ClassFile.FieldType.int)) 15 267 z [va_rf v0] (wX1_due G P PX v0 z) (pI P) PX := by
  refine m_of hl (plainFor_of_name (by decide)) (by rw [lg_sl1 (va_rf_cat _)]; exact Nat.le_of_ble_eq_true rfl) ?_
  intro p e s m args below meth c C hr hin hT hmc hw
  rw [lv_args1 (va_rf_cat _)]
  intro H locs ls hS hl
  exact kX1_dueb0 C hr hin hT hmc hw H locs ls hS (lv_sub hl [0] rfl)
theorem hdX1_due : yX1_due.cls ≠ "java/lang/invoke/MethodHandle" ∧ yX1_due.cls ≠ "java/lang/invoke/VarHandle" ∧ (parseMethodDescriptor yX1_due.desc).map (fun d => d.parameters.length) = some 0 := ⟨by decide +kernel, by decide +kernel, by decide +kernel⟩
abbrev rmX1_ranked (mc ms : Nat) : Room := { frames := 19, cells := mc, slots := ms, locals := 364 }
def wX1_rankedb0 (G : gE) (P : Int32 → hSt → Prop) (PX : Nat → Nat → hSt → Prop)  (v0 : Option Nat) (v1 : Int32) (z : hSt) : Prop :=
  gtR z v0 [0] 0 (fun x1 => (rcv z x1 1 ∧ wX2_ranked G (fun x3 z2 => wX1_checkedFound G (fun x5 z4 => P x5 z4) PX x3 z2) PX x1 v1 z))
def wX1_ranked (G : gE) (P : Int32 → hSt → Prop) (PX : Nat → Nat → hSt → Prop) (v0 : Option Nat) (v1 : Int32) (z : hSt) : Prop := wX1_rankedb0 G P PX v0 v1 z
section
variable {p : Program} {l : Launch} {e : Env} {s : State} {m : MethodId} {args : Array Value} {below : List Frame} {meth : Method} {c : Code} {G : gE} {mc ms : Nat} {P : Int32 → hSt → Prop} {PX : Nat → Nat → hSt → Prop}
theorem kX1_rankedb0 (C : xC G p l s m args meth c cX1_ranked 2 "ExcuseLedger") (hr : meth.sig.returnType = (Option.some Jvm.ClassFile.FieldType.int)) (hin : meth.name = "ranked") (hT : ∀ x ∈ c.exceptionTable.toList, False) (hmc : mc = gL G - s.heap.size ∧ ms = gU G - hsum s.heap)   {v0 : Option Nat} {v1 : Int32} {z : hSt} (hw : wX1_rankedb0 G P PX  v0 v1 z) : kt G p l e (rmX1_ranked mc ms) s m args below meth c 2 (vx_MQ below (cQ G (pI P)) (cX G PX) args s mc ms (gF G)) 0 [(0, va_rf v0), (1, .int v1)] [] z := by
  intro H locs ls hS hl
  refine r_aload_n C.1 C.2.1 dX1_ranked_0 rfl (lv_at hl 0 rfl) ?_
  refine r_getR C hS fo_0_0 (fl_d C q389) (fun _ h => h) dX1_ranked_1 hw (fun x1 hw => ?_)
  refine lv_iload_n C.1 C.2.1 dX1_ranked_4 rfl (lv_at hl 1 rfl) ?_
  refine c_V C hS hmc hl.1 (ci := 1) rfl hw.1 (kX2_ranked C.2.2.2.2.2.2.1) hw.2 (lw_V q2632 q2633 q2634 q68 q2635) ⟨rfl, hdX2_ranked⟩ ⟨Nat.le_of_ble_eq_true rfl, Nat.le_of_ble_eq_true rfl⟩ (rest := []) rfl rfl (Nat.le_of_ble_eq_true rfl) dX1_ranked_5 (fun ci q z H locs hx hS ht => r_out C hS hmc (fun x hx => (hT x hx).elim) ht hx) (fun v z2 H locs hv hS => ?_)
  obtain ⟨x3, rfl, hw⟩ := hv
  refine c_S C hS hmc hl.1 (kX1_checkedFound C.2.2.2.2.2.2.1) hw (lw_S q2622 q2623 q67 q2624) hdX1_checkedFound ⟨Nat.le_of_ble_eq_true rfl, Nat.le_of_ble_eq_true rfl⟩ (rest := []) rfl rfl (Nat.le_of_ble_eq_true rfl) dX1_ranked_8 (fun ci q z H locs hx hS ht => r_out C hS hmc (fun x hx => (hT x hx).elim) ht hx) (fun v z4 H locs hv hS => ?_)
  obtain ⟨x5, rfl, hw⟩ := hv
  exact r_iret C hS hmc hr dX1_ranked_11 hw
end
theorem kX1_ranked {l : Launch} (hl : l.stackTraces = false) {G : gE} {P : Int32 → hSt → Prop} {PX : Nat → Nat → hSt → Prop} {v0 : Option Nat} {v1 : Int32} {z : hSt} : cM l G yX1_ranked (ws_ yX1_ranked cX1_ranked 2 (Option.some Jvm.ClassFile.FieldType.int)) 19 364 z [va_rf v0, .int v1] (wX1_ranked G P PX v0 v1 z) (pI P) PX := by
  refine m_of hl (plainFor_of_name (by decide)) (by rw [lg_sl1 (va_rf_cat _), lg_sl1 rfl]; exact Nat.le_of_ble_eq_true rfl) ?_
  intro p e s m args below meth c C hr hin hT hmc hw
  rw [lv_args1 (va_rf_cat _), lv_args1 rfl]
  intro H locs ls hS hl
  exact kX1_rankedb0 C hr hin hT hmc hw H locs ls hS (lv_sub hl [0, 1] rfl)
theorem hdX1_ranked : yX1_ranked.cls ≠ "java/lang/invoke/MethodHandle" ∧ yX1_ranked.cls ≠ "java/lang/invoke/VarHandle" ∧ (parseMethodDescriptor yX1_ranked.desc).map (fun d => d.parameters.length) = some 1 := ⟨by decide +kernel, by decide +kernel, by decide +kernel⟩
abbrev rmX1_freshest (mc ms : Nat) : Room := { frames := 18, cells := mc, slots := ms, locals := 340 }
def wX1_freshestb0 (G : gE) (P : Int32 → hSt → Prop) (PX : Nat → Nat → hSt → Prop)  (v0 : Option Nat) (v1 : Int32) (z : hSt) : Prop :=
  gtR z v0 [0] 0 (fun x1 => (rcv z x1 1 ∧ wX2_freshest G (fun x3 z2 => wX1_checkedFound G (fun x5 z4 => P x5 z4) PX x3 z2) PX x1 v1 z))
def wX1_freshest (G : gE) (P : Int32 → hSt → Prop) (PX : Nat → Nat → hSt → Prop) (v0 : Option Nat) (v1 : Int32) (z : hSt) : Prop := wX1_freshestb0 G P PX v0 v1 z
section
variable {p : Program} {l : Launch} {e : Env} {s : State} {m : MethodId} {args : Array Value} {below : List Frame} {meth : Method} {c : Code} {G : gE} {mc ms : Nat} {P : Int32 → hSt → Prop} {PX : Nat → Nat → hSt → Prop}
theorem kX1_freshestb0 (C : xC G p l s m args meth c cX1_freshest 2 "ExcuseLedger") (hr : meth.sig.returnType = (Option.some Jvm.ClassFile.FieldType.int)) (hin : meth.name = "freshest") (hT : ∀ x ∈ c.exceptionTable.toList, False) (hmc : mc = gL G - s.heap.size ∧ ms = gU G - hsum s.heap)   {v0 : Option Nat} {v1 : Int32} {z : hSt} (hw : wX1_freshestb0 G P PX  v0 v1 z) : kt G p l e (rmX1_freshest mc ms) s m args below meth c 2 (vx_MQ below (cQ G (pI P)) (cX G PX) args s mc ms (gF G)) 0 [(0, va_rf v0), (1, .int v1)] [] z := by
  intro H locs ls hS hl
  refine r_aload_n C.1 C.2.1 dX1_freshest_0 rfl (lv_at hl 0 rfl) ?_
  refine r_getR C hS fo_0_0 (fl_d C q389) (fun _ h => h) dX1_freshest_1 hw (fun x1 hw => ?_)
  refine lv_iload_n C.1 C.2.1 dX1_freshest_4 rfl (lv_at hl 1 rfl) ?_
  refine c_V C hS hmc hl.1 (ci := 1) rfl hw.1 (kX2_freshest C.2.2.2.2.2.2.1) hw.2 (lw_V q2648 q2649 q2650 q68 q2651) ⟨rfl, hdX2_freshest⟩ ⟨Nat.le_of_ble_eq_true rfl, Nat.le_of_ble_eq_true rfl⟩ (rest := []) rfl rfl (Nat.le_of_ble_eq_true rfl) dX1_freshest_5 (fun ci q z H locs hx hS ht => r_out C hS hmc (fun x hx => (hT x hx).elim) ht hx) (fun v z2 H locs hv hS => ?_)
  obtain ⟨x3, rfl, hw⟩ := hv
  refine c_S C hS hmc hl.1 (kX1_checkedFound C.2.2.2.2.2.2.1) hw (lw_S q2622 q2623 q67 q2624) hdX1_checkedFound ⟨Nat.le_of_ble_eq_true rfl, Nat.le_of_ble_eq_true rfl⟩ (rest := []) rfl rfl (Nat.le_of_ble_eq_true rfl) dX1_freshest_8 (fun ci q z H locs hx hS ht => r_out C hS hmc (fun x hx => (hT x hx).elim) ht hx) (fun v z4 H locs hv hS => ?_)
  obtain ⟨x5, rfl, hw⟩ := hv
  exact r_iret C hS hmc hr dX1_freshest_11 hw
end
theorem kX1_freshest {l : Launch} (hl : l.stackTraces = false) {G : gE} {P : Int32 → hSt → Prop} {PX : Nat → Nat → hSt → Prop} {v0 : Option Nat} {v1 : Int32} {z : hSt} : cM l G yX1_freshest (ws_ yX1_freshest cX1_freshest 2 (Option.some Jvm.ClassFile.FieldType.int)) 18 340 z [va_rf v0, .int v1] (wX1_freshest G P PX v0 v1 z) (pI P) PX := by
  refine m_of hl (plainFor_of_name (by decide)) (by rw [lg_sl1 (va_rf_cat _), lg_sl1 rfl]; exact Nat.le_of_ble_eq_true rfl) ?_
  intro p e s m args below meth c C hr hin hT hmc hw
  rw [lv_args1 (va_rf_cat _), lv_args1 rfl]
  intro H locs ls hS hl
  exact kX1_freshestb0 C hr hin hT hmc hw H locs ls hS (lv_sub hl [0, 1] rfl)
theorem hdX1_freshest : yX1_freshest.cls ≠ "java/lang/invoke/MethodHandle" ∧ yX1_freshest.cls ≠ "java/lang/invoke/VarHandle" ∧ (parseMethodDescriptor yX1_freshest.desc).map (fun d => d.parameters.length) = some 1 := ⟨by decide +kernel, by decide +kernel, by decide +kernel⟩
abbrev rmX1_strongest (mc ms : Nat) : Room := { frames := 15, cells := mc, slots := ms, locals := 267 }
def wX1_strongestb0 (G : gE) (P : Int32 → hSt → Prop) (PX : Nat → Nat → hSt → Prop)  (v0 : Option Nat) (z : hSt) : Prop :=
  gtR z v0 [0] 0 (fun x1 => (rcv z x1 1 ∧ wX2_strongest G (fun x3 z2 => wX1_checkedFound G (fun x5 z4 => P x5 z4) PX x3 z2) PX x1  z))
def wX1_strongest (G : gE) (P : Int32 → hSt → Prop) (PX : Nat → Nat → hSt → Prop) (v0 : Option Nat) (z : hSt) : Prop := wX1_strongestb0 G P PX v0 z
section
variable {p : Program} {l : Launch} {e : Env} {s : State} {m : MethodId} {args : Array Value} {below : List Frame} {meth : Method} {c : Code} {G : gE} {mc ms : Nat} {P : Int32 → hSt → Prop} {PX : Nat → Nat → hSt → Prop}
theorem kX1_strongestb0 (C : xC G p l s m args meth c cX1_strongest 1 "ExcuseLedger") (hr : meth.sig.returnType = (Option.some Jvm.ClassFile.FieldType.int)) (hin : meth.name = "strongest") (hT : ∀ x ∈ c.exceptionTable.toList, False) (hmc : mc = gL G - s.heap.size ∧ ms = gU G - hsum s.heap)   {v0 : Option Nat} {z : hSt} (hw : wX1_strongestb0 G P PX  v0 z) : kt G p l e (rmX1_strongest mc ms) s m args below meth c 1 (vx_MQ below (cQ G (pI P)) (cX G PX) args s mc ms (gF G)) 0 [(0, va_rf v0)] [] z := by
  intro H locs ls hS hl
  refine r_aload_n C.1 C.2.1 dX1_strongest_0 rfl (lv_at hl 0 rfl) ?_
  refine r_getR C hS fo_0_0 (fl_d C q389) (fun _ h => h) dX1_strongest_1 hw (fun x1 hw => ?_)
  refine c_V C hS hmc hl.1 (ci := 1) rfl hw.1 (kX2_strongest C.2.2.2.2.2.2.1) hw.2 (lw_V q2663 q2664 q2665 q68 q2666) ⟨rfl, hdX2_strongest⟩ ⟨Nat.le_of_ble_eq_true rfl, Nat.le_of_ble_eq_true rfl⟩ (rest := []) rfl rfl (Nat.le_of_ble_eq_true rfl) dX1_strongest_4 (fun ci q z H locs hx hS ht => r_out C hS hmc (fun x hx => (hT x hx).elim) ht hx) (fun v z2 H locs hv hS => ?_)
  obtain ⟨x3, rfl, hw⟩ := hv
  refine c_S C hS hmc hl.1 (kX1_checkedFound C.2.2.2.2.2.2.1) hw (lw_S q2622 q2623 q67 q2624) hdX1_checkedFound ⟨Nat.le_of_ble_eq_true rfl, Nat.le_of_ble_eq_true rfl⟩ (rest := []) rfl rfl (Nat.le_of_ble_eq_true rfl) dX1_strongest_7 (fun ci q z H locs hx hS ht => r_out C hS hmc (fun x hx => (hT x hx).elim) ht hx) (fun v z4 H locs hv hS => ?_)
  obtain ⟨x5, rfl, hw⟩ := hv
  exact r_iret C hS hmc hr dX1_strongest_10 hw
end
theorem kX1_strongest {l : Launch} (hl : l.stackTraces = false) {G : gE} {P : Int32 → hSt → Prop} {PX : Nat → Nat → hSt → Prop} {v0 : Option Nat} {z : hSt} : cM l G yX1_strongest (ws_ yX1_strongest cX1_strongest 1 (Option.some Jvm.ClassFile.FieldType.int)) 15 267 z [va_rf v0] (wX1_strongest G P PX v0 z) (pI P) PX := by
  refine m_of hl (plainFor_of_name (by decide)) (by rw [lg_sl1 (va_rf_cat _)]; exact Nat.le_of_ble_eq_true rfl) ?_
  intro p e s m args below meth c C hr hin hT hmc hw
  rw [lv_args1 (va_rf_cat _)]
  intro H locs ls hS hl
  exact kX1_strongestb0 C hr hin hT hmc hw H locs ls hS (lv_sub hl [0] rfl)
theorem hdX1_strongest : yX1_strongest.cls ≠ "java/lang/invoke/MethodHandle" ∧ yX1_strongest.cls ≠ "java/lang/invoke/VarHandle" ∧ (parseMethodDescriptor yX1_strongest.desc).map (fun d => d.parameters.length) = some 0 := ⟨by decide +kernel, by decide +kernel, by decide +kernel⟩
abbrev rmX1_isFair (mc ms : Nat) : Room := { frames := 20, cells := mc, slots := ms, locals := 385 }
def wX1_isFairb0 (G : gE) (P : Int32 → hSt → Prop) (PX : Nat → Nat → hSt → Prop)  (v0 : Option Nat) (z : hSt) : Prop :=
  gtR z v0 [0] 0 (fun x1 => (rcv z x1 1 ∧ wX2_isFair G (fun x3 z2 => (okN .boolean x3 ∧ P x3 z2)) PX x1  z))
def wX1_isFair (G : gE) (P : Int32 → hSt → Prop) (PX : Nat → Nat → hSt → Prop) (v0 : Option Nat) (z : hSt) : Prop := wX1_isFairb0 G P PX v0 z
section
variable {p : Program} {l : Launch} {e : Env} {s : State} {m : MethodId} {args : Array Value} {below : List Frame} {meth : Method} {c : Code} {G : gE} {mc ms : Nat} {P : Int32 → hSt → Prop} {PX : Nat → Nat → hSt → Prop}
theorem kX1_isFairb0 (C : xC G p l s m args meth c cX1_isFair 1 "ExcuseLedger") (hr : meth.sig.returnType = (Option.some Jvm.ClassFile.FieldType.boolean)) (hin : meth.name = "isFair") (hT : ∀ x ∈ c.exceptionTable.toList, False) (hmc : mc = gL G - s.heap.size ∧ ms = gU G - hsum s.heap)   {v0 : Option Nat} {z : hSt} (hw : wX1_isFairb0 G P PX  v0 z) : kt G p l e (rmX1_isFair mc ms) s m args below meth c 1 (vx_MQ below (cQ G (pI P)) (cX G PX) args s mc ms (gF G)) 0 [(0, va_rf v0)] [] z := by
  intro H locs ls hS hl
  refine r_aload_n C.1 C.2.1 dX1_isFair_0 rfl (lv_at hl 0 rfl) ?_
  refine r_getR C hS fo_0_0 (fl_d C q389) (fun _ h => h) dX1_isFair_1 hw (fun x1 hw => ?_)
  refine c_V C hS hmc hl.1 (ci := 1) rfl hw.1 (kX2_isFair C.2.2.2.2.2.2.1) hw.2 (lw_V q2306 q2307 q2308 q68 q2309) ⟨rfl, hdX2_isFair⟩ ⟨Nat.le_of_ble_eq_true rfl, Nat.le_of_ble_eq_true rfl⟩ (rest := []) rfl rfl (Nat.le_of_ble_eq_true rfl) dX1_isFair_4 (fun ci q z H locs hx hS ht => r_out C hS hmc (fun x hx => (hT x hx).elim) ht hx) (fun v z2 H locs hv hS => ?_)
  obtain ⟨x3, rfl, hw⟩ := hv
  exact r_zret C hS hmc hr dX1_isFair_7 hw
end
theorem kX1_isFair {l : Launch} (hl : l.stackTraces = false) {G : gE} {P : Int32 → hSt → Prop} {PX : Nat → Nat → hSt → Prop} {v0 : Option Nat} {z : hSt} : cM l G yX1_isFair (ws_ yX1_isFair cX1_isFair 1 (Option.some Jvm.ClassFile.FieldType.boolean)) 20 385 z [va_rf v0] (wX1_isFair G P PX v0 z) (pI P) PX := by
  refine m_of hl (plainFor_of_name (by decide)) (by rw [lg_sl1 (va_rf_cat _)]; exact Nat.le_of_ble_eq_true rfl) ?_
  intro p e s m args below meth c C hr hin hT hmc hw
  rw [lv_args1 (va_rf_cat _)]
  intro H locs ls hS hl
  exact kX1_isFairb0 C hr hin hT hmc hw H locs ls hS (lv_sub hl [0] rfl)
theorem hdX1_isFair : yX1_isFair.cls ≠ "java/lang/invoke/MethodHandle" ∧ yX1_isFair.cls ≠ "java/lang/invoke/VarHandle" ∧ (parseMethodDescriptor yX1_isFair.desc).map (fun d => d.parameters.length) = some 0 := ⟨by decide +kernel, by decide +kernel, by decide +kernel⟩
abbrev rmX1_written (mc ms : Nat) : Room := { frames := 16, cells := mc, slots := ms, locals := 292 }
def wX1_writtenb7 (G : gE) (P : Int32 → hSt → Prop) (PX : Nat → Nat → hSt → Prop)  (v0 : Option Nat) (s0 : Option Nat) (s1 : Option Nat) (z : hSt) : Prop :=
  ptV G z s0 [0] 4 (va_rf s1) (fun z3 => gtR z3 v0 [0] 4 (fun x4 => (rcv z3 x4 17 ∧ wJ10_length G (fun x6 z5 => P x6 z5) PX x4  z3)))
def wX1_writtenb0 (G : gE) (P : Int32 → hSt → Prop) (PX : Nat → Nat → hSt → Prop)  (v0 : Option Nat) (v1 : Option Nat) (z : hSt) : Prop :=
  ((rcv z v1 17 ∧ wJ10_toString G (fun x2 z1 => wX1_writtenb7 G P PX  v0 v0 x2 z1) PX v1  z) ∨ (rcv z v1 16 ∧ wJ9_toString G (fun x2 z1 => wX1_writtenb7 G P PX  v0 v0 x2 z1) PX v1  z))
def wX1_written (G : gE) (P : Int32 → hSt → Prop) (PX : Nat → Nat → hSt → Prop) (v0 : Option Nat) (v1 : Option Nat) (z : hSt) : Prop := wX1_writtenb0 G P PX v0 v1 z
section
variable {p : Program} {l : Launch} {e : Env} {s : State} {m : MethodId} {args : Array Value} {below : List Frame} {meth : Method} {c : Code} {G : gE} {mc ms : Nat} {P : Int32 → hSt → Prop} {PX : Nat → Nat → hSt → Prop}
theorem kX1_writtenb7 (C : xC G p l s m args meth c cX1_written 2 "ExcuseLedger") (hr : meth.sig.returnType = (Option.some Jvm.ClassFile.FieldType.int)) (hin : meth.name = "written") (hT : ∀ x ∈ c.exceptionTable.toList, False) (hmc : mc = gL G - s.heap.size ∧ ms = gU G - hsum s.heap)   {v0 : Option Nat} {s0 : Option Nat} {s1 : Option Nat} {z : hSt} (hw : wX1_writtenb7 G P PX  v0 s0 s1 z) : kt G p l e (rmX1_written mc ms) s m args below meth c 2 (vx_MQ below (cQ G (pI P)) (cX G PX) args s mc ms (gF G)) 7 [(0, va_rf v0)] [va_rf s1, va_rf s0] z := by
  intro H locs ls hS hl
  refine r_put C hS fo_0_4 (fl_d C q393) (fun _ h => h) (narrow_rfO _ _) (fits_rfO _ _) dX1_written_7 hw (fun z3 H locs hw hS => ?_)
  refine r_aload_n C.1 C.2.1 dX1_written_10 rfl (lv_at hl 0 rfl) ?_
  refine r_getR C hS fo_0_4 (fl_d C q393) (fun _ h => h) dX1_written_11 hw (fun x4 hw => ?_)
  refine c_V C hS hmc hl.1 (ci := 17) rfl hw.1 (kJ10_length C.2.2.2.2.2.2.1) hw.2 (lw_V q2756 q1078 q1079 q81 q1080) ⟨rfl, hdJ10_length⟩ ⟨Nat.le_of_ble_eq_true rfl, Nat.le_of_ble_eq_true rfl⟩ (rest := []) rfl rfl (Nat.le_of_ble_eq_true rfl) dX1_written_14 (fun ci q z H locs hx hS ht => r_out C hS hmc (fun x hx => (hT x hx).elim) ht hx) (fun v z5 H locs hv hS => ?_)
  obtain ⟨x6, rfl, hw⟩ := hv
  exact r_iret C hS hmc hr dX1_written_17 hw
theorem kX1_writtenb0 (C : xC G p l s m args meth c cX1_written 2 "ExcuseLedger") (hr : meth.sig.returnType = (Option.some Jvm.ClassFile.FieldType.int)) (hin : meth.name = "written") (hT : ∀ x ∈ c.exceptionTable.toList, False) (hmc : mc = gL G - s.heap.size ∧ ms = gU G - hsum s.heap)   {v0 : Option Nat} {v1 : Option Nat} {z : hSt} (hw : wX1_writtenb0 G P PX  v0 v1 z) : kt G p l e (rmX1_written mc ms) s m args below meth c 2 (vx_MQ below (cQ G (pI P)) (cX G PX) args s mc ms (gF G)) 0 [(0, va_rf v0), (1, va_rf v1)] [] z := by
  intro H locs ls hS hl
  refine r_aload_n C.1 C.2.1 dX1_written_0 rfl (lv_at hl 0 rfl) ?_
  refine r_aload_n C.1 C.2.1 dX1_written_1 rfl (lv_at hl 1 rfl) ?_
  rcases hw with hw | hw
  · refine c_F C hS hmc hl.1 (ci := 17) rfl hw.1 (kJ10_toString C.2.2.2.2.2.2.1) hw.2 q2743 q2747 q2749 q81 q2751 (face_w C q2745 q2744 q2750 q2748 q2746 (by decide) (by decide)) ⟨by decide, by decide⟩ hdJ10_toString.2.2 ⟨Nat.le_of_ble_eq_true rfl, Nat.le_of_ble_eq_true rfl⟩ (rest := [va_rf v0]) rfl rfl (Nat.le_of_ble_eq_true rfl) dX1_written_2 (fun ci q z H locs hx hS ht => r_out C hS hmc (fun x hx => (hT x hx).elim) ht hx) (fun v z1 H locs hv hS => ?_)
    obtain ⟨x2, rfl, hw⟩ := hv
    exact kX1_writtenb7 C hr hin hT hmc  hw H locs ls hS (lv_sub hl [0] rfl)
  · refine c_F C hS hmc hl.1 (ci := 16) rfl hw.1 (kJ9_toString C.2.2.2.2.2.2.1) hw.2 q2743 q2753 q1145 q80 q1147 (face_w C q2745 q2744 q2755 q2754 q2752 (by decide) (by decide)) ⟨by decide, by decide⟩ hdJ9_toString.2.2 ⟨Nat.le_of_ble_eq_true rfl, Nat.le_of_ble_eq_true rfl⟩ (rest := [va_rf v0]) rfl rfl (Nat.le_of_ble_eq_true rfl) dX1_written_2 (fun ci q z H locs hx hS ht => r_out C hS hmc (fun x hx => (hT x hx).elim) ht hx) (fun v z1 H locs hv hS => ?_)
    obtain ⟨x2, rfl, hw⟩ := hv
    exact kX1_writtenb7 C hr hin hT hmc  hw H locs ls hS (lv_sub hl [0] rfl)
end
theorem kX1_written {l : Launch} (hl : l.stackTraces = false) {G : gE} {P : Int32 → hSt → Prop} {PX : Nat → Nat → hSt → Prop} {v0 : Option Nat} {v1 : Option Nat} {z : hSt} : cM l G yX1_written (ws_ yX1_written cX1_written 2 (Option.some Jvm.ClassFile.FieldType.int)) 16 292 z [va_rf v0, va_rf v1] (wX1_written G P PX v0 v1 z) (pI P) PX := by
  refine m_of hl (plainFor_of_name (by decide)) (by rw [lg_sl1 (va_rf_cat _), lg_sl1 (va_rf_cat _)]; exact Nat.le_of_ble_eq_true rfl) ?_
  intro p e s m args below meth c C hr hin hT hmc hw
  rw [lv_args1 (va_rf_cat _), lv_args1 (va_rf_cat _)]
  intro H locs ls hS hl
  exact kX1_writtenb0 C hr hin hT hmc hw H locs ls hS (lv_sub hl [0, 1] rfl)
theorem hdX1_written : yX1_written.cls ≠ "java/lang/invoke/MethodHandle" ∧ yX1_written.cls ≠ "java/lang/invoke/VarHandle" ∧ (parseMethodDescriptor yX1_written.desc).map (fun d => d.parameters.length) = some 1 := ⟨by decide +kernel, by decide +kernel, by decide +kernel⟩
abbrev rmX1_tell (mc ms : Nat) : Room := { frames := 18, cells := mc, slots := ms, locals := 332 }
def wX1_tellb0 (G : gE) (P : Int32 → hSt → Prop) (PX : Nat → Nat → hSt → Prop)  (v0 : Option Nat) (v1 : Int32) (v2 : Int32) (z : hSt) : Prop :=
  (rcv z v0 0 ∧ wX1_checkedExcuse G (fun x2 z1 => (rcv z1 x2 7 ∧ wX8_line G (fun x4 z3 => (rcv z3 v0 0 ∧ wX1_written G (fun x6 z5 => P x6 z5) PX v0 x4 z3)) PX x2  z1)) PX v0 v1 v2 z)
def wX1_tell (G : gE) (P : Int32 → hSt → Prop) (PX : Nat → Nat → hSt → Prop) (v0 : Option Nat) (v1 : Int32) (v2 : Int32) (z : hSt) : Prop := wX1_tellb0 G P PX v0 v1 v2 z
section
variable {p : Program} {l : Launch} {e : Env} {s : State} {m : MethodId} {args : Array Value} {below : List Frame} {meth : Method} {c : Code} {G : gE} {mc ms : Nat} {P : Int32 → hSt → Prop} {PX : Nat → Nat → hSt → Prop}
theorem kX1_tellb0 (C : xC G p l s m args meth c cX1_tell 3 "ExcuseLedger") (hr : meth.sig.returnType = (Option.some Jvm.ClassFile.FieldType.int)) (hin : meth.name = "tell") (hT : ∀ x ∈ c.exceptionTable.toList, False) (hmc : mc = gL G - s.heap.size ∧ ms = gU G - hsum s.heap)   {v0 : Option Nat} {v1 : Int32} {v2 : Int32} {z : hSt} (hw : wX1_tellb0 G P PX  v0 v1 v2 z) : kt G p l e (rmX1_tell mc ms) s m args below meth c 3 (vx_MQ below (cQ G (pI P)) (cX G PX) args s mc ms (gF G)) 0 [(0, va_rf v0), (1, .int v1), (2, .int v2)] [] z := by
  intro H locs ls hS hl
  refine r_aload_n C.1 C.2.1 dX1_tell_0 rfl (lv_at hl 0 rfl) ?_
  refine r_aload_n C.1 C.2.1 dX1_tell_1 rfl (lv_at hl 0 rfl) ?_
  refine lv_iload_n C.1 C.2.1 dX1_tell_2 rfl (lv_at hl 1 rfl) ?_
  refine lv_iload_n C.1 C.2.1 dX1_tell_3 rfl (lv_at hl 2 rfl) ?_
  refine c_V C hS hmc hl.1 (ci := 0) rfl hw.1 (kX1_checkedExcuse C.2.2.2.2.2.2.1) hw.2 (lw_V q2488 q2490 qs15 q67 q2491) ⟨rfl, hdX1_checkedExcuse⟩ ⟨Nat.le_of_ble_eq_true rfl, Nat.le_of_ble_eq_true rfl⟩ (rest := [va_rf v0]) rfl rfl (Nat.le_of_ble_eq_true rfl) dX1_tell_4 (fun ci q z H locs hx hS ht => r_out C hS hmc (fun x hx => (hT x hx).elim) ht hx) (fun v z1 H locs hv hS => ?_)
  obtain ⟨x2, rfl, hw⟩ := hv
  refine c_V C hS hmc hl.1 (ci := 7) rfl hw.1 (kX8_line C.2.2.2.2.2.2.1) hw.2 (lw_V q2681 q2682 q2683 q104 q2684) ⟨rfl, hdX8_line⟩ ⟨Nat.le_of_ble_eq_true rfl, Nat.le_of_ble_eq_true rfl⟩ (rest := [va_rf v0]) rfl rfl (Nat.le_of_ble_eq_true rfl) dX1_tell_7 (fun ci q z H locs hx hS ht => r_out C hS hmc (fun x hx => (hT x hx).elim) ht hx) (fun v z3 H locs hv hS => ?_)
  obtain ⟨x4, rfl, hw⟩ := hv
  refine c_V C hS hmc hl.1 (ci := 0) rfl hw.1 (kX1_written C.2.2.2.2.2.2.1) hw.2 (lw_V q2738 q2740 qs17 q67 q2741) ⟨rfl, hdX1_written⟩ ⟨Nat.le_of_ble_eq_true rfl, Nat.le_of_ble_eq_true rfl⟩ (rest := []) rfl rfl (Nat.le_of_ble_eq_true rfl) dX1_tell_10 (fun ci q z H locs hx hS ht => r_out C hS hmc (fun x hx => (hT x hx).elim) ht hx) (fun v z5 H locs hv hS => ?_)
  obtain ⟨x6, rfl, hw⟩ := hv
  exact r_iret C hS hmc hr dX1_tell_13 hw
end
theorem kX1_tell {l : Launch} (hl : l.stackTraces = false) {G : gE} {P : Int32 → hSt → Prop} {PX : Nat → Nat → hSt → Prop} {v0 : Option Nat} {v1 : Int32} {v2 : Int32} {z : hSt} : cM l G yX1_tell (ws_ yX1_tell cX1_tell 3 (Option.some Jvm.ClassFile.FieldType.int)) 18 332 z [va_rf v0, .int v1, .int v2] (wX1_tell G P PX v0 v1 v2 z) (pI P) PX := by
  refine m_of hl (plainFor_of_name (by decide)) (by rw [lg_sl1 (va_rf_cat _), lg_sl1 rfl, lg_sl1 rfl]; exact Nat.le_of_ble_eq_true rfl) ?_
  intro p e s m args below meth c C hr hin hT hmc hw
  rw [lv_args1 (va_rf_cat _), lv_args1 rfl, lv_args1 rfl]
  intro H locs ls hS hl
  exact kX1_tellb0 C hr hin hT hmc hw H locs ls hS (lv_sub hl [0, 1, 2] rfl)
theorem hdX1_tell : yX1_tell.cls ≠ "java/lang/invoke/MethodHandle" ∧ yX1_tell.cls ≠ "java/lang/invoke/VarHandle" ∧ (parseMethodDescriptor yX1_tell.desc).map (fun d => d.parameters.length) = some 2 := ⟨by decide +kernel, by decide +kernel, by decide +kernel⟩
abbrev rmX1_bag (mc ms : Nat) : Room := { frames := 17, cells := mc, slots := ms, locals := 315 }
def wX1_bagb63 (G : gE) (P : Int32 → hSt → Prop) (PX : Nat → Nat → hSt → Prop) (K27 : (Option Nat × Option Nat × Option Nat × hSt) → Prop) (v0 : Option Nat) (v2 : Option Nat) (v3 : Option Nat) (v4 : Option Nat) (s0 : Option Nat) (s1 : Option Nat) (z : hSt) : Prop :=
  (rcv z s0 16 ∧ wJ9_append G (fun x21 z20 => gtR z20 v4 [7] 0 (fun x22 => (rcv z20 x22 5 ∧ wX6_told G (fun x24 z23 => (rcv z23 x21 16 ∧ wJ9_append G (fun x26 z25 => K27 (v0, v2, v3, z25)) PX x21 x24 z23)) PX x22  z20))) PX s0 s1 z)
def wX1_bagb27 (G : gE) (P : Int32 → hSt → Prop) (PX : Nat → Nat → hSt → Prop) (K27 : (Option Nat × Option Nat × Option Nat × hSt) → Prop) (v0 : Option Nat) (v2 : Option Nat) (v3 : Option Nat) (z : hSt) : Prop :=
  (rcv z v3 19 ∧ wJ19_hasNext G (fun x13 z12 => ((x13 = 0 → (rcv z12 v0 0 ∧ wX1_written G (fun x15 z14 => P x15 z14) PX v0 v2 z12)) ∧ (¬ x13 = 0 → (rcv z12 v3 19 ∧ wJ19_next G (fun x17 z16 => (ckO z16 x17 [7] ∧ (rcv z16 v2 16 ∧ wJ9_length G (fun x19 z18 => ((¬ x19 = 0 → wX1_bagb63 G P PX K27 v0 v2 v3 x17 v2 (some (gA G 10)) z18) ∧ (x19 = 0 → wX1_bagb63 G P PX K27 v0 v2 v3 x17 v2 (some (gA G 0)) z18))) PX v2  z16))) PX v3  z12)))) PX v3  z)
def wX1_bagb0 (G : gE) (P : Int32 → hSt → Prop) (PX : Nat → Nat → hSt → Prop)  (v0 : Option Nat) (v1 : Int32) (z : hSt) : Prop :=
  wX1_isPupil G (fun x2 z1 => wX1_checkIndex G (fun z3 => nwO G z3 16 4 dfJ9 (fun x4 z5 => (nnl (some x4) ∧ wJ9_init G (fun z6 => gtR z6 v0 [0] 0 (fun x7 => (rcv z6 x7 1 ∧ wX2_heldBy G (fun x9 z8 => (rcv z8 x9 15 ∧ wJ7_iterator G (fun x11 z10 => lpI (fun (K27 : (Option Nat × Option Nat × Option Nat × hSt) → Prop) (y : (Option Nat × Option Nat × Option Nat × hSt)) => wX1_bagb27 G P PX  K27 (y.1) (y.2.1) (y.2.2.1) (y.2.2.2)) (v0, some x4, x11, z10)) PX x9  z8)) PX x7 v1 z6))) PX (some x4)  z5))) PX x2 z1) PX v1 z
def wX1_bag (G : gE) (P : Int32 → hSt → Prop) (PX : Nat → Nat → hSt → Prop) (v0 : Option Nat) (v1 : Int32) (z : hSt) : Prop := wX1_bagb0 G P PX v0 v1 z
section
variable {p : Program} {l : Launch} {e : Env} {s : State} {m : MethodId} {args : Array Value} {below : List Frame} {meth : Method} {c : Code} {G : gE} {mc ms : Nat} {P : Int32 → hSt → Prop} {PX : Nat → Nat → hSt → Prop}
theorem kX1_bagb63 (C : xC G p l s m args meth c cX1_bag 5 "ExcuseLedger") (hr : meth.sig.returnType = (Option.some Jvm.ClassFile.FieldType.int)) (hin : meth.name = "bag") (hT : ∀ x ∈ c.exceptionTable.toList, False) (hmc : mc = gL G - s.heap.size ∧ ms = gU G - hsum s.heap) {K27 : (Option Nat × Option Nat × Option Nat × hSt) → Prop} (hK27 : ∀ y : (Option Nat × Option Nat × Option Nat × hSt), K27 y → kt G p l e (rmX1_bag mc ms) s m args below meth c 5 (vx_MQ below (cQ G (pI P)) (cX G PX) args s mc ms (gF G)) 27 [(0, va_rf (y.1)), (2, va_rf (y.2.1)), (3, va_rf (y.2.2.1))] [] (y.2.2.2)) {v0 : Option Nat} {v2 : Option Nat} {v3 : Option Nat} {v4 : Option Nat} {s0 : Option Nat} {s1 : Option Nat} {z : hSt} (hw : wX1_bagb63 G P PX K27 v0 v2 v3 v4 s0 s1 z) : kt G p l e (rmX1_bag mc ms) s m args below meth c 5 (vx_MQ below (cQ G (pI P)) (cX G PX) args s mc ms (gF G)) 63 [(0, va_rf v0), (2, va_rf v2), (3, va_rf v3), (4, va_rf v4)] [va_rf s1, va_rf s0] z := by
  intro H locs ls hS hl
  refine c_V C hS hmc hl.1 (ci := 16) rfl hw.1 (kJ9_append C.2.2.2.2.2.2.1) hw.2 (lw_V q2771 q1010 q1011 q80 q1012) ⟨rfl, hdJ9_append⟩ ⟨Nat.le_of_ble_eq_true rfl, Nat.le_of_ble_eq_true rfl⟩ (rest := []) rfl rfl (Nat.le_of_ble_eq_true rfl) dX1_bag_63 (fun ci q z H locs hx hS ht => r_out C hS hmc (fun x hx => (hT x hx).elim) ht hx) (fun v z20 H locs hv hS => ?_)
  obtain ⟨x21, rfl, hw⟩ := hv
  refine r_aload C.1 C.2.1 dX1_bag_66 (lv_at hl 3 rfl) ?_
  refine r_getR C hS fo_7_0 (fl_n C q863) (fun _ h => h) dX1_bag_68 hw (fun x22 hw => ?_)
  refine c_V C hS hmc hl.1 (ci := 5) rfl hw.1 (kX6_told C.2.2.2.2.2.2.1) hw.2 (lw_V q2772 q2688 q2689 q90 q2690) ⟨rfl, hdX6_told⟩ ⟨Nat.le_of_ble_eq_true rfl, Nat.le_of_ble_eq_true rfl⟩ (rest := [va_rf x21]) rfl rfl (Nat.le_of_ble_eq_true rfl) dX1_bag_71 (fun ci q z H locs hx hS ht => r_out C hS hmc (fun x hx => (hT x hx).elim) ht hx) (fun v z23 H locs hv hS => ?_)
  obtain ⟨x24, rfl, hw⟩ := hv
  refine c_V C hS hmc hl.1 (ci := 16) rfl hw.1 (kJ9_append C.2.2.2.2.2.2.1) hw.2 (lw_V q2771 q1010 q1011 q80 q1012) ⟨rfl, hdJ9_append⟩ ⟨Nat.le_of_ble_eq_true rfl, Nat.le_of_ble_eq_true rfl⟩ (rest := []) rfl rfl (Nat.le_of_ble_eq_true rfl) dX1_bag_74 (fun ci q z H locs hx hS ht => r_out C hS hmc (fun x hx => (hT x hx).elim) ht hx) (fun v z25 H locs hv hS => ?_)
  obtain ⟨x26, rfl, hw⟩ := hv
  refine lv_pop C.1 C.2.1 dX1_bag_77 (va_rf_cat _) ?_
  refine lv_goto C.1 C.2.1 dX1_bag_78 rfl ?_
  exact hK27 _ hw H locs ls hS (lv_sub hl [0, 1, 2] rfl)
theorem kX1_bagb27 (C : xC G p l s m args meth c cX1_bag 5 "ExcuseLedger") (hr : meth.sig.returnType = (Option.some Jvm.ClassFile.FieldType.int)) (hin : meth.name = "bag") (hT : ∀ x ∈ c.exceptionTable.toList, False) (hmc : mc = gL G - s.heap.size ∧ ms = gU G - hsum s.heap) {K27 : (Option Nat × Option Nat × Option Nat × hSt) → Prop} (hK27 : ∀ y : (Option Nat × Option Nat × Option Nat × hSt), K27 y → kt G p l e (rmX1_bag mc ms) s m args below meth c 5 (vx_MQ below (cQ G (pI P)) (cX G PX) args s mc ms (gF G)) 27 [(0, va_rf (y.1)), (2, va_rf (y.2.1)), (3, va_rf (y.2.2.1))] [] (y.2.2.2)) {v0 : Option Nat} {v2 : Option Nat} {v3 : Option Nat} {z : hSt} (hw : wX1_bagb27 G P PX K27 v0 v2 v3 z) : kt G p l e (rmX1_bag mc ms) s m args below meth c 5 (vx_MQ below (cQ G (pI P)) (cX G PX) args s mc ms (gF G)) 27 [(0, va_rf v0), (2, va_rf v2), (3, va_rf v3)] [] z := by
  intro H locs ls hS hl
  refine r_aload_n C.1 C.2.1 dX1_bag_27 rfl (lv_at hl 2 rfl) ?_
  refine c_F C hS hmc hl.1 (ci := 19) rfl hw.1 (kJ19_hasNext C.2.2.2.2.2.2.1) hw.2 q2766 q675 q677 q93 q679 (face_w C q673 q672 q678 q676 q674 (by decide) (by decide)) ⟨by decide, by decide⟩ hdJ19_hasNext.2.2 ⟨Nat.le_of_ble_eq_true rfl, Nat.le_of_ble_eq_true rfl⟩ (rest := []) rfl rfl (Nat.le_of_ble_eq_true rfl) dX1_bag_28 (fun ci q z H locs hx hS ht => r_out C hS hmc (fun x hx => (hT x hx).elim) ht hx) (fun v z12 H locs hv hS => ?_)
  obtain ⟨x13, rfl, hw⟩ := hv
  refine lv_if_eq C.1 C.2.1 dX1_bag_33 rfl (fun h => ?_) (fun h => ?_)
  · have hw := hw.1 h
    refine r_aload_n C.1 C.2.1 dX1_bag_81 rfl (lv_at hl 0 rfl) ?_
    refine r_aload_n C.1 C.2.1 dX1_bag_82 rfl (lv_at hl 1 rfl) ?_
    refine c_V C hS hmc hl.1 (ci := 0) rfl hw.1 (kX1_written C.2.2.2.2.2.2.1) hw.2 (lw_V q2738 q2740 qs17 q67 q2741) ⟨rfl, hdX1_written⟩ ⟨Nat.le_of_ble_eq_true rfl, Nat.le_of_ble_eq_true rfl⟩ (rest := []) rfl rfl (Nat.le_of_ble_eq_true rfl) dX1_bag_83 (fun ci q z H locs hx hS ht => r_out C hS hmc (fun x hx => (hT x hx).elim) ht hx) (fun v z14 H locs hv hS => ?_)
    obtain ⟨x15, rfl, hw⟩ := hv
    exact r_iret C hS hmc hr dX1_bag_86 hw
  · have hw := hw.2 h
    refine r_aload_n C.1 C.2.1 dX1_bag_36 rfl (lv_at hl 2 rfl) ?_
    refine c_F C hS hmc hl.1 (ci := 19) rfl hw.1 (kJ19_next C.2.2.2.2.2.2.1) hw.2 q2768 q705 q707 q93 q709 (face_w C q704 q703 q708 q706 q674 (by decide) (by decide)) ⟨by decide, by decide⟩ hdJ19_next.2.2 ⟨Nat.le_of_ble_eq_true rfl, Nat.le_of_ble_eq_true rfl⟩ (rest := []) rfl rfl (Nat.le_of_ble_eq_true rfl) dX1_bag_37 (fun ci q z H locs hx hS ht => r_out C hS hmc (fun x hx => (hT x hx).elim) ht hx) (fun v z16 H locs hv hS => ?_)
    obtain ⟨x17, rfl, hw⟩ := hv
    refine r_cast0 C hS q2493 ca_1 dX1_bag_42 hw.1 ?_
    have hw := hw.2
    refine r_astore C.1 C.2.1 dX1_bag_45 hl (Nat.le_of_ble_eq_true rfl) (ls_new (ls_old 0 rfl rfl (.inl rfl) (ls_old 1 rfl rfl (.inl rfl) (ls_old 2 rfl rfl (.inr (va_rf_cat _)) ls_nil)))) (fun ls hl => ?_)
    refine r_aload_n C.1 C.2.1 dX1_bag_47 rfl (lv_at hl 2 rfl) ?_
    refine r_aload_n C.1 C.2.1 dX1_bag_48 rfl (lv_at hl 2 rfl) ?_
    refine c_V C hS hmc hl.1 (ci := 16) rfl hw.1 (kJ9_length C.2.2.2.2.2.2.1) hw.2 (lw_V q2769 q1166 q3546 q80 q1167) ⟨rfl, hdJ9_length⟩ ⟨Nat.le_of_ble_eq_true rfl, Nat.le_of_ble_eq_true rfl⟩ (rest := [va_rf v2]) rfl rfl (Nat.le_of_ble_eq_true rfl) dX1_bag_49 (fun ci q z H locs hx hS ht => r_out C hS hmc (fun x hx => (hT x hx).elim) ht hx) (fun v z18 H locs hv hS => ?_)
    obtain ⟨x19, rfl, hw⟩ := hv
    refine lv_if_ne C.1 C.2.1 dX1_bag_52 rfl (fun h => ?_) (fun h => ?_)
    · have hw := hw.1 h
      refine r_ldcSw C (k := 10) (tx := ",") (by decide +kernel) dX1_bag_60 ?_
      exact kX1_bagb63 C hr hin hT hmc hK27 hw H locs ls hS (lv_sub hl [1, 2, 3, 0] rfl)
    · have hw := hw.2 h
      refine r_ldcS C (k := 0) (tx := "") (by decide +kernel) dX1_bag_55 ?_
      refine lv_goto C.1 C.2.1 dX1_bag_57 rfl ?_
      exact kX1_bagb63 C hr hin hT hmc hK27 hw H locs ls hS (lv_sub hl [1, 2, 3, 0] rfl)
theorem kX1_bagb0 (C : xC G p l s m args meth c cX1_bag 5 "ExcuseLedger") (hr : meth.sig.returnType = (Option.some Jvm.ClassFile.FieldType.int)) (hin : meth.name = "bag") (hT : ∀ x ∈ c.exceptionTable.toList, False) (hmc : mc = gL G - s.heap.size ∧ ms = gU G - hsum s.heap)   {v0 : Option Nat} {v1 : Int32} {z : hSt} (hw : wX1_bagb0 G P PX  v0 v1 z) : kt G p l e (rmX1_bag mc ms) s m args below meth c 5 (vx_MQ below (cQ G (pI P)) (cX G PX) args s mc ms (gF G)) 0 [(0, va_rf v0), (1, .int v1)] [] z := by
  intro H locs ls hS hl
  refine lv_iload_n C.1 C.2.1 dX1_bag_0 rfl (lv_at hl 1 rfl) ?_
  refine c_S C hS hmc hl.1 (kX1_isPupil C.2.2.2.2.2.2.1) hw (lw_S q2382 q1978 q67 q1979) hdX1_isPupil ⟨Nat.le_of_ble_eq_true rfl, Nat.le_of_ble_eq_true rfl⟩ (rest := []) rfl rfl (Nat.le_of_ble_eq_true rfl) dX1_bag_1 (fun ci q z H locs hx hS ht => r_out C hS hmc (fun x hx => (hT x hx).elim) ht hx) (fun v z1 H locs hv hS => ?_)
  obtain ⟨x2, rfl, hw⟩ := hv
  refine c_S C hS hmc hl.1 (kX1_checkIndex C.2.2.2.2.2.2.1) hw (lw_S q2383 q2384 q67 q2385) hdX1_checkIndex ⟨Nat.le_of_ble_eq_true rfl, Nat.le_of_ble_eq_true rfl⟩ (rest := []) rfl rfl (Nat.le_of_ble_eq_true rfl) dX1_bag_4 (fun ci q z H locs hx hS ht => r_out C hS hmc (fun x hx => (hT x hx).elim) ht hx) (fun v z3 H locs hv hS => ?_)
  obtain ⟨rfl, hw⟩ := hv
  refine r_new C hS (ci := 16) rfl in_J9 tyJ9_ok q355 q356 q80 rfl dfJ9_ok hmc dX1_bag_7 hw (fun x4 z5 H locs hw hS => ?_)
  refine lv_dup C.1 C.2.1 dX1_bag_10 (va_rf_cat _) ?_
  refine c_I C hS hmc hl.1 hw.1 (kJ9_init C.2.2.2.2.2.2.1) hw.2 (lw_meth q359) q80 q357 q358 rfl hdJ9_init ⟨Nat.le_of_ble_eq_true rfl, Nat.le_of_ble_eq_true rfl⟩ (rest := [va_rf (some x4)]) rfl rfl (Nat.le_of_ble_eq_true rfl) dX1_bag_11 (fun ci q z H locs hx hS ht => r_out C hS hmc (fun x hx => (hT x hx).elim) ht hx) (fun v z6 H locs hv hS => ?_)
  obtain ⟨rfl, hw⟩ := hv
  refine r_astore_n C.1 C.2.1 dX1_bag_14 rfl hl (Nat.le_of_ble_eq_true rfl) (ls_new (ls_old 0 rfl rfl (.inl rfl) (ls_old 1 rfl rfl (.inr rfl) ls_nil))) (fun ls hl => ?_)
  refine r_aload_n C.1 C.2.1 dX1_bag_15 rfl (lv_at hl 1 rfl) ?_
  refine r_getR C hS fo_0_0 (fl_d C q389) (fun _ h => h) dX1_bag_16 hw (fun x7 hw => ?_)
  refine lv_iload_n C.1 C.2.1 dX1_bag_19 rfl (lv_at hl 2 rfl) ?_
  refine c_V C hS hmc hl.1 (ci := 1) rfl hw.1 (kX2_heldBy C.2.2.2.2.2.2.1) hw.2 (lw_V q2543 q2321 q2322 q68 q2323) ⟨rfl, hdX2_heldBy⟩ ⟨Nat.le_of_ble_eq_true rfl, Nat.le_of_ble_eq_true rfl⟩ (rest := []) rfl rfl (Nat.le_of_ble_eq_true rfl) dX1_bag_20 (fun ci q z H locs hx hS ht => r_out C hS hmc (fun x hx => (hT x hx).elim) ht hx) (fun v z8 H locs hv hS => ?_)
  obtain ⟨x9, rfl, hw⟩ := hv
  refine c_V C hS hmc hl.1 (ci := 15) rfl hw.1 (kJ7_iterator C.2.2.2.2.2.2.1) hw.2 (lw_V q2764 q476 q3541 q78 q478) ⟨rfl, hdJ7_iterator⟩ ⟨Nat.le_of_ble_eq_true rfl, Nat.le_of_ble_eq_true rfl⟩ (rest := []) rfl rfl (Nat.le_of_ble_eq_true rfl) dX1_bag_23 (fun ci q z H locs hx hS ht => r_out C hS hmc (fun x hx => (hT x hx).elim) ht hx) (fun v z10 H locs hv hS => ?_)
  obtain ⟨x11, rfl, hw⟩ := hv
  refine r_astore_n C.1 C.2.1 dX1_bag_26 rfl hl (Nat.le_of_ble_eq_true rfl) (ls_new (ls_old 0 rfl rfl (.inr (va_rf_cat _)) (ls_old 1 rfl rfl (.inl rfl) ls_nil))) (fun ls hl => ?_)
  exact lpI_sound (Wt := fun (y : (Option Nat × Option Nat × Option Nat × hSt)) => kt G p l e (rmX1_bag mc ms) s m args below meth c 5 (vx_MQ below (cQ G (pI P)) (cX G PX) args s mc ms (gF G)) 27 [(0, va_rf (y.1)), (2, va_rf (y.2.1)), (3, va_rf (y.2.2.1))] [] (y.2.2.2)) (fun K y hK hF => kX1_bagb27 C hr hin hT hmc  hK hF) hw H locs ls hS (lv_sub hl [2, 1, 0] rfl)
end
theorem kX1_bag {l : Launch} (hl : l.stackTraces = false) {G : gE} {P : Int32 → hSt → Prop} {PX : Nat → Nat → hSt → Prop} {v0 : Option Nat} {v1 : Int32} {z : hSt} : cM l G yX1_bag (ws_ yX1_bag cX1_bag 5 (Option.some Jvm.ClassFile.FieldType.int)) 17 315 z [va_rf v0, .int v1] (wX1_bag G P PX v0 v1 z) (pI P) PX := by
  refine m_of hl (plainFor_of_name (by decide)) (by rw [lg_sl1 (va_rf_cat _), lg_sl1 rfl]; exact Nat.le_of_ble_eq_true rfl) ?_
  intro p e s m args below meth c C hr hin hT hmc hw
  rw [lv_args1 (va_rf_cat _), lv_args1 rfl]
  intro H locs ls hS hl
  exact kX1_bagb0 C hr hin hT hmc hw H locs ls hS (lv_sub hl [0, 1] rfl)
theorem hdX1_bag : yX1_bag.cls ≠ "java/lang/invoke/MethodHandle" ∧ yX1_bag.cls ≠ "java/lang/invoke/VarHandle" ∧ (parseMethodDescriptor yX1_bag.desc).map (fun d => d.parameters.length) = some 1 := ⟨by decide +kernel, by decide +kernel, by decide +kernel⟩
abbrev rmX1_character (mc ms : Nat) : Room := { frames := 14, cells := mc, slots := ms, locals := 245 }
def wX1_characterb0 (G : gE) (P : Int32 → hSt → Prop) (PX : Nat → Nat → hSt → Prop)  (v0 : Option Nat) (v1 : Int32) (z : hSt) : Prop :=
  gtR z v0 [0] 4 (fun x1 => (rcv z x1 17 ∧ wJ10_length G (fun x3 z2 => wX1_isIn G (fun x5 z4 => wX1_checkElement G (fun z6 => gtR z6 v0 [0] 4 (fun x7 => (rcv z6 x7 17 ∧ wJ10_charAt G (fun x9 z8 => (okN .char x9 ∧ P x9 z8)) PX x7 v1 z6))) PX x5 z4) PX v1 0 (x3 - 1) z2) PX x1  z))
def wX1_character (G : gE) (P : Int32 → hSt → Prop) (PX : Nat → Nat → hSt → Prop) (v0 : Option Nat) (v1 : Int32) (z : hSt) : Prop := wX1_characterb0 G P PX v0 v1 z
section
variable {p : Program} {l : Launch} {e : Env} {s : State} {m : MethodId} {args : Array Value} {below : List Frame} {meth : Method} {c : Code} {G : gE} {mc ms : Nat} {P : Int32 → hSt → Prop} {PX : Nat → Nat → hSt → Prop}
theorem kX1_characterb0 (C : xC G p l s m args meth c cX1_character 2 "ExcuseLedger") (hr : meth.sig.returnType = (Option.some Jvm.ClassFile.FieldType.char)) (hin : meth.name = "character") (hT : ∀ x ∈ c.exceptionTable.toList, False) (hmc : mc = gL G - s.heap.size ∧ ms = gU G - hsum s.heap)   {v0 : Option Nat} {v1 : Int32} {z : hSt} (hw : wX1_characterb0 G P PX  v0 v1 z) : kt G p l e (rmX1_character mc ms) s m args below meth c 2 (vx_MQ below (cQ G (pI P)) (cX G PX) args s mc ms (gF G)) 0 [(0, va_rf v0), (1, .int v1)] [] z := by
  intro H locs ls hS hl
  refine lv_iload_n C.1 C.2.1 dX1_character_0 rfl (lv_at hl 1 rfl) ?_
  refine lv_iconst C.1 C.2.1 (v := 0) dX1_character_1 rfl ?_
  refine r_aload_n C.1 C.2.1 dX1_character_2 rfl (lv_at hl 0 rfl) ?_
  refine r_getR C hS fo_0_4 (fl_d C q393) (fun _ h => h) dX1_character_3 hw (fun x1 hw => ?_)
  refine c_V C hS hmc hl.1 (ci := 17) rfl hw.1 (kJ10_length C.2.2.2.2.2.2.1) hw.2 (lw_V q2756 q1078 q1079 q81 q1080) ⟨rfl, hdJ10_length⟩ ⟨Nat.le_of_ble_eq_true rfl, Nat.le_of_ble_eq_true rfl⟩ (rest := [.int 0, .int v1]) rfl rfl (Nat.le_of_ble_eq_true rfl) dX1_character_6 (fun ci q z H locs hx hS ht => r_out C hS hmc (fun x hx => (hT x hx).elim) ht hx) (fun v z2 H locs hv hS => ?_)
  obtain ⟨x3, rfl, hw⟩ := hv
  refine lv_iconst C.1 C.2.1 (v := 1) dX1_character_9 rfl ?_
  refine lv_isub C.1 C.2.1 dX1_character_10 ?_
  refine c_S C hS hmc hl.1 (kX1_isIn C.2.2.2.2.2.2.1) hw (lw_S q1980 q1981 q67 q1982) hdX1_isIn ⟨Nat.le_of_ble_eq_true rfl, Nat.le_of_ble_eq_true rfl⟩ (rest := []) rfl rfl (Nat.le_of_ble_eq_true rfl) dX1_character_11 (fun ci q z H locs hx hS ht => r_out C hS hmc (fun x hx => (hT x hx).elim) ht hx) (fun v z4 H locs hv hS => ?_)
  obtain ⟨x5, rfl, hw⟩ := hv
  refine c_S C hS hmc hl.1 (kX1_checkElement C.2.2.2.2.2.2.1) hw (lw_S q2494 q2495 q67 q2496) hdX1_checkElement ⟨Nat.le_of_ble_eq_true rfl, Nat.le_of_ble_eq_true rfl⟩ (rest := []) rfl rfl (Nat.le_of_ble_eq_true rfl) dX1_character_14 (fun ci q z H locs hx hS ht => r_out C hS hmc (fun x hx => (hT x hx).elim) ht hx) (fun v z6 H locs hv hS => ?_)
  obtain ⟨rfl, hw⟩ := hv
  refine r_aload_n C.1 C.2.1 dX1_character_17 rfl (lv_at hl 0 rfl) ?_
  refine r_getR C hS fo_0_4 (fl_d C q393) (fun _ h => h) dX1_character_18 hw (fun x7 hw => ?_)
  refine lv_iload_n C.1 C.2.1 dX1_character_21 rfl (lv_at hl 1 rfl) ?_
  refine c_V C hS hmc hl.1 (ci := 17) rfl hw.1 (kJ10_charAt C.2.2.2.2.2.2.1) hw.2 (lw_V q2780 q2697 q2698 q81 q2699) ⟨rfl, hdJ10_charAt⟩ ⟨Nat.le_of_ble_eq_true rfl, Nat.le_of_ble_eq_true rfl⟩ (rest := []) rfl rfl (Nat.le_of_ble_eq_true rfl) dX1_character_22 (fun ci q z H locs hx hS ht => r_out C hS hmc (fun x hx => (hT x hx).elim) ht hx) (fun v z8 H locs hv hS => ?_)
  obtain ⟨x9, rfl, hw⟩ := hv
  exact r_zret C hS hmc hr dX1_character_25 hw
end
theorem kX1_character {l : Launch} (hl : l.stackTraces = false) {G : gE} {P : Int32 → hSt → Prop} {PX : Nat → Nat → hSt → Prop} {v0 : Option Nat} {v1 : Int32} {z : hSt} : cM l G yX1_character (ws_ yX1_character cX1_character 2 (Option.some Jvm.ClassFile.FieldType.char)) 14 245 z [va_rf v0, .int v1] (wX1_character G P PX v0 v1 z) (pI P) PX := by
  refine m_of hl (plainFor_of_name (by decide)) (by rw [lg_sl1 (va_rf_cat _), lg_sl1 rfl]; exact Nat.le_of_ble_eq_true rfl) ?_
  intro p e s m args below meth c C hr hin hT hmc hw
  rw [lv_args1 (va_rf_cat _), lv_args1 rfl]
  intro H locs ls hS hl
  exact kX1_characterb0 C hr hin hT hmc hw H locs ls hS (lv_sub hl [0, 1] rfl)
theorem hdX1_character : yX1_character.cls ≠ "java/lang/invoke/MethodHandle" ∧ yX1_character.cls ≠ "java/lang/invoke/VarHandle" ∧ (parseMethodDescriptor yX1_character.desc).map (fun d => d.parameters.length) = some 1 := ⟨by decide +kernel, by decide +kernel, by decide +kernel⟩
abbrev rmX1_checkCount (mc ms : Nat) : Room := { frames := 10, cells := mc, slots := ms, locals := 160 }
def wX1_checkCountb0 (G : gE) (P : hSt → Prop) (PX : Nat → Nat → hSt → Prop)  (v0 : Int32) (z : hSt) : Prop :=
  ((¬ v0 = 0 → P z) ∧ (v0 = 0 → mkE G z 33 (fun x1 z2 => (rcv z2 (some x1) 33 ∧ ∀ q, (some x1) = some q → PX 33 q z2))))
def wX1_checkCount (G : gE) (P : hSt → Prop) (PX : Nat → Nat → hSt → Prop) (v0 : Int32) (z : hSt) : Prop := wX1_checkCountb0 G P PX v0 z
section
variable {p : Program} {l : Launch} {e : Env} {s : State} {m : MethodId} {args : Array Value} {below : List Frame} {meth : Method} {c : Code} {G : gE} {mc ms : Nat} {P : hSt → Prop} {PX : Nat → Nat → hSt → Prop}
theorem kX1_checkCountb0 (C : xC G p l s m args meth c cX1_checkCount 1 "ExcuseLedger") (hr : meth.sig.returnType = (Option.none : Option Jvm.ClassFile.FieldType)) (hin : meth.name = "checkCount") (hT : ∀ x ∈ c.exceptionTable.toList, False) (hmc : mc = gL G - s.heap.size ∧ ms = gU G - hsum s.heap)   {v0 : Int32} {z : hSt} (hw : wX1_checkCountb0 G P PX  v0 z) : kt G p l e (rmX1_checkCount mc ms) s m args below meth c 1 (vx_MQ below (cQ G (pV P)) (cX G PX) args s mc ms (gF G)) 0 [(0, .int v0)] [] z := by
  intro H locs ls hS hl
  refine lv_iload_n C.1 C.2.1 dX1_checkCount_0 rfl (lv_at hl 0 rfl) ?_
  refine lv_if_ne C.1 C.2.1 dX1_checkCount_1 rfl (fun h => ?_) (fun h => ?_)
  · have hw := hw.1 h
    exact r_vret C hS hmc hr dX1_checkCount_12 hw
  · have hw := hw.2 h
    refine r_make C hS hl.1 (ci := 33) (cls := "java/lang/ArithmeticException") (names := ["java/lang/RuntimeException", "java/lang/Exception"]) rfl (by decide +kernel) (by decide +kernel) q2805 q129 xa33_28 xa33_28g hmc dX1_checkCount_4 dX1_checkCount_7 dX1_checkCount_8 (Nat.le_of_ble_eq_true rfl) (Nat.le_of_ble_eq_true rfl) (Nat.le_of_ble_eq_true rfl) hw (fun x1 z2 H locs hw hS => ?_)
    exact r_athrow C hS (by decide) dX1_checkCount_11 hw.1 (fun q hq ht => r_out C hS hmc (fun x hx => (hT x hx).elim) ht (hw.2 q hq))
end
theorem kX1_checkCount {l : Launch} (hl : l.stackTraces = false) {G : gE} {P : hSt → Prop} {PX : Nat → Nat → hSt → Prop} {v0 : Int32} {z : hSt} : cM l G yX1_checkCount (ws_ yX1_checkCount cX1_checkCount 1 (Option.none : Option Jvm.ClassFile.FieldType)) 10 160 z [.int v0] (wX1_checkCount G P PX v0 z) (pV P) PX := by
  refine m_of hl (plainFor_of_name (by decide)) (by rw [lg_sl1 rfl]; exact Nat.le_of_ble_eq_true rfl) ?_
  intro p e s m args below meth c C hr hin hT hmc hw
  rw [lv_args1 rfl]
  intro H locs ls hS hl
  exact kX1_checkCountb0 C hr hin hT hmc hw H locs ls hS (lv_sub hl [0] rfl)
theorem hdX1_checkCount : yX1_checkCount.cls ≠ "java/lang/invoke/MethodHandle" ∧ yX1_checkCount.cls ≠ "java/lang/invoke/VarHandle" ∧ (parseMethodDescriptor yX1_checkCount.desc).map (fun d => d.parameters.length) = some 1 := ⟨by decide +kernel, by decide +kernel, by decide +kernel⟩
abbrev rmX1_meanWear (mc ms : Nat) : Room := { frames := 14, cells := mc, slots := ms, locals := 244 }
def wX1_meanWearb31 (G : gE) (P : UInt64 → hSt → Prop) (PX : Nat → Nat → hSt → Prop) (K31 : (Option Nat × Int32 × Option Nat × hSt) → Prop) (v0 : Option Nat) (v1 : Int32) (v2 : Option Nat) (z : hSt) : Prop :=
  (rcv z v2 23 ∧ wJ25_hasNext G (fun x13 z12 => ((x13 = 0 → gtR z12 v0 [0] 0 (fun x14 => gtR z12 x14 [1] 0 (fun x15 => (rcv z12 x15 13 ∧ wJ1_size G (fun x17 z16 => (vf_n64 (FP.ddiv (FP.i2d v1) (FP.i2d x17)) ∧ P (FP.ddiv (FP.i2d v1) (FP.i2d x17)) z16)) PX x15  z12)))) ∧ (¬ x13 = 0 → (rcv z12 v2 23 ∧ wJ28_next G (fun x19 z18 => (ckO z18 x19 [7] ∧ gtI z18 x19 [7] 4 (fun x20 => K31 (v0, v1 + x20, v2, z18)))) PX v2  z12)))) PX v2  z)
def wX1_meanWearb0 (G : gE) (P : UInt64 → hSt → Prop) (PX : Nat → Nat → hSt → Prop)  (v0 : Option Nat) (z : hSt) : Prop :=
  gtR z v0 [0] 0 (fun x1 => gtR z x1 [1] 0 (fun x2 => (rcv z x2 13 ∧ wJ1_size G (fun x4 z3 => wX1_checkCount G (fun z5 => gtR z5 v0 [0] 0 (fun x6 => gtR z5 x6 [1] 0 (fun x7 => (rcv z5 x7 13 ∧ wJ2_values G (fun x9 z8 => (rcv z8 x9 18 ∧ wJ18_iterator G (fun x11 z10 => lpI (fun (K31 : (Option Nat × Int32 × Option Nat × hSt) → Prop) (y : (Option Nat × Int32 × Option Nat × hSt)) => wX1_meanWearb31 G P PX  K31 (y.1) (y.2.1) (y.2.2.1) (y.2.2.2)) (v0, 0, x11, z10)) PX x9  z8)) PX x7  z5)))) PX x4 z3) PX x2  z)))
def wX1_meanWear (G : gE) (P : UInt64 → hSt → Prop) (PX : Nat → Nat → hSt → Prop) (v0 : Option Nat) (z : hSt) : Prop := wX1_meanWearb0 G P PX v0 z
section
variable {p : Program} {l : Launch} {e : Env} {s : State} {m : MethodId} {args : Array Value} {below : List Frame} {meth : Method} {c : Code} {G : gE} {mc ms : Nat} {P : UInt64 → hSt → Prop} {PX : Nat → Nat → hSt → Prop}
theorem kX1_meanWearb31 (C : xC G p l s m args meth c cX1_meanWear 4 "ExcuseLedger") (hr : meth.sig.returnType = (Option.some Jvm.ClassFile.FieldType.double)) (hin : meth.name = "meanWear") (hT : ∀ x ∈ c.exceptionTable.toList, False) (hmc : mc = gL G - s.heap.size ∧ ms = gU G - hsum s.heap) {K31 : (Option Nat × Int32 × Option Nat × hSt) → Prop} (hK31 : ∀ y : (Option Nat × Int32 × Option Nat × hSt), K31 y → kt G p l e (rmX1_meanWear mc ms) s m args below meth c 4 (vx_MQ below (cQ G (pD P)) (cX G PX) args s mc ms (gF G)) 31 [(0, va_rf (y.1)), (1, .int (y.2.1)), (2, va_rf (y.2.2.1))] [] (y.2.2.2)) {v0 : Option Nat} {v1 : Int32} {v2 : Option Nat} {z : hSt} (hw : wX1_meanWearb31 G P PX K31 v0 v1 v2 z) : kt G p l e (rmX1_meanWear mc ms) s m args below meth c 4 (vx_MQ below (cQ G (pD P)) (cX G PX) args s mc ms (gF G)) 31 [(0, va_rf v0), (1, .int v1), (2, va_rf v2)] [] z := by
  intro H locs ls hS hl
  refine r_aload_n C.1 C.2.1 dX1_meanWear_31 rfl (lv_at hl 2 rfl) ?_
  refine c_F C hS hmc hl.1 (ci := 23) rfl hw.1 (kJ25_hasNext C.2.2.2.2.2.2.1) hw.2 q2766 q699 q692 q99 q694 (face_w C q673 q672 q693 q700 q698 (by decide) (by decide)) ⟨by decide, by decide⟩ hdJ25_hasNext.2.2 ⟨Nat.le_of_ble_eq_true rfl, Nat.le_of_ble_eq_true rfl⟩ (rest := []) rfl rfl (Nat.le_of_ble_eq_true rfl) dX1_meanWear_32 (fun ci q z H locs hx hS ht => r_out C hS hmc (fun x hx => (hT x hx).elim) ht hx) (fun v z12 H locs hv hS => ?_)
  obtain ⟨x13, rfl, hw⟩ := hv
  refine lv_if_eq C.1 C.2.1 dX1_meanWear_37 rfl (fun h => ?_) (fun h => ?_)
  · have hw := hw.1 h
    refine lv_iload_n C.1 C.2.1 dX1_meanWear_60 rfl (lv_at hl 1 rfl) ?_
    refine lv_i2d C.1 C.2.1 dX1_meanWear_61 ?_
    refine r_aload_n C.1 C.2.1 dX1_meanWear_62 rfl (lv_at hl 0 rfl) ?_
    refine r_getR C hS fo_0_0 (fl_d C q389) (fun _ h => h) dX1_meanWear_63 hw (fun x14 hw => ?_)
    refine r_getR C hS fo_1_0 (fl_n C q232) (fun _ h => h) dX1_meanWear_66 hw (fun x15 hw => ?_)
    refine c_U C hS hmc hl.1 (ci := 13) rfl hw.1 (kJ1_size C.2.2.2.2.2.2.1) hw.2 q2353 q2018 (decl_w C q2019 (by decide)) (C.2.2.2.2.1 _ q2020) q1768 q70 q1770 ⟨by decide, by decide⟩ hdJ1_size.2.2 ⟨Nat.le_of_ble_eq_true rfl, Nat.le_of_ble_eq_true rfl⟩ (rest := [.double (FP.i2d v1)]) rfl rfl (Nat.le_of_ble_eq_true rfl) dX1_meanWear_69 (fun ci q z H locs hx hS ht => r_out C hS hmc (fun x hx => (hT x hx).elim) ht hx) (fun v z16 H locs hv hS => ?_)
    obtain ⟨x17, rfl, hw⟩ := hv
    refine lv_i2d C.1 C.2.1 dX1_meanWear_72 ?_
    refine lv_ddiv C.1 C.2.1 dX1_meanWear_73 hw.1 ?_
    have hw := hw.2
    exact r_dret C hS hmc hr dX1_meanWear_74 hw
  · have hw := hw.2 h
    refine r_aload_n C.1 C.2.1 dX1_meanWear_40 rfl (lv_at hl 2 rfl) ?_
    refine c_F C hS hmc hl.1 (ci := 23) rfl hw.1 (kJ28_next C.2.2.2.2.2.2.1) hw.2 q2768 q842 q844 q102 q846 (face_w C q704 q703 q845 q843 q698 (by decide) (by decide)) ⟨by decide, by decide⟩ hdJ28_next.2.2 ⟨Nat.le_of_ble_eq_true rfl, Nat.le_of_ble_eq_true rfl⟩ (rest := []) rfl rfl (Nat.le_of_ble_eq_true rfl) dX1_meanWear_41 (fun ci q z H locs hx hS ht => r_out C hS hmc (fun x hx => (hT x hx).elim) ht hx) (fun v z18 H locs hv hS => ?_)
    obtain ⟨x19, rfl, hw⟩ := hv
    refine r_cast0 C hS q2493 ca_1 dX1_meanWear_46 hw.1 ?_
    have hw := hw.2
    refine r_astore_n C.1 C.2.1 dX1_meanWear_49 rfl hl (Nat.le_of_ble_eq_true rfl) (ls_new (ls_old 0 rfl rfl (.inl rfl) (ls_old 1 rfl rfl (.inl rfl) (ls_old 2 rfl rfl (.inr (va_rf_cat _)) ls_nil)))) (fun ls hl => ?_)
    refine lv_iload_n C.1 C.2.1 dX1_meanWear_50 rfl (lv_at hl 2 rfl) ?_
    refine r_aload_n C.1 C.2.1 dX1_meanWear_51 rfl (lv_at hl 0 rfl) ?_
    refine r_getI C hS fo_7_4 (fl_n C q872) (fun _ h => h) dX1_meanWear_52 hw (fun x20 hw => ?_)
    refine lv_iadd C.1 C.2.1 dX1_meanWear_55 ?_
    refine r_istore_n C.1 C.2.1 dX1_meanWear_56 rfl hl (Nat.le_of_ble_eq_true rfl) (ls_new (ls_old 1 rfl rfl (.inr (va_rf_cat _)) (ls_old 3 rfl rfl (.inl rfl) ls_nil))) (fun ls hl => ?_)
    refine lv_goto C.1 C.2.1 dX1_meanWear_57 rfl ?_
    exact hK31 _ hw H locs ls hS (lv_sub hl [1, 0, 2] rfl)
theorem kX1_meanWearb0 (C : xC G p l s m args meth c cX1_meanWear 4 "ExcuseLedger") (hr : meth.sig.returnType = (Option.some Jvm.ClassFile.FieldType.double)) (hin : meth.name = "meanWear") (hT : ∀ x ∈ c.exceptionTable.toList, False) (hmc : mc = gL G - s.heap.size ∧ ms = gU G - hsum s.heap)   {v0 : Option Nat} {z : hSt} (hw : wX1_meanWearb0 G P PX  v0 z) : kt G p l e (rmX1_meanWear mc ms) s m args below meth c 4 (vx_MQ below (cQ G (pD P)) (cX G PX) args s mc ms (gF G)) 0 [(0, va_rf v0)] [] z := by
  intro H locs ls hS hl
  refine r_aload_n C.1 C.2.1 dX1_meanWear_0 rfl (lv_at hl 0 rfl) ?_
  refine r_getR C hS fo_0_0 (fl_d C q389) (fun _ h => h) dX1_meanWear_1 hw (fun x1 hw => ?_)
  refine r_getR C hS fo_1_0 (fl_n C q232) (fun _ h => h) dX1_meanWear_4 hw (fun x2 hw => ?_)
  refine c_U C hS hmc hl.1 (ci := 13) rfl hw.1 (kJ1_size C.2.2.2.2.2.2.1) hw.2 q2353 q2018 (decl_w C q2019 (by decide)) (C.2.2.2.2.1 _ q2020) q1768 q70 q1770 ⟨by decide, by decide⟩ hdJ1_size.2.2 ⟨Nat.le_of_ble_eq_true rfl, Nat.le_of_ble_eq_true rfl⟩ (rest := []) rfl rfl (Nat.le_of_ble_eq_true rfl) dX1_meanWear_7 (fun ci q z H locs hx hS ht => r_out C hS hmc (fun x hx => (hT x hx).elim) ht hx) (fun v z3 H locs hv hS => ?_)
  obtain ⟨x4, rfl, hw⟩ := hv
  refine c_S C hS hmc hl.1 (kX1_checkCount C.2.2.2.2.2.2.1) hw (lw_S q2802 q2803 q67 q2804) hdX1_checkCount ⟨Nat.le_of_ble_eq_true rfl, Nat.le_of_ble_eq_true rfl⟩ (rest := []) rfl rfl (Nat.le_of_ble_eq_true rfl) dX1_meanWear_10 (fun ci q z H locs hx hS ht => r_out C hS hmc (fun x hx => (hT x hx).elim) ht hx) (fun v z5 H locs hv hS => ?_)
  obtain ⟨rfl, hw⟩ := hv
  refine lv_iconst C.1 C.2.1 (v := 0) dX1_meanWear_13 rfl ?_
  refine r_istore_n C.1 C.2.1 dX1_meanWear_14 rfl hl (Nat.le_of_ble_eq_true rfl) (ls_new (ls_old 0 rfl rfl (.inr (va_rf_cat _)) ls_nil)) (fun ls hl => ?_)
  refine r_aload_n C.1 C.2.1 dX1_meanWear_15 rfl (lv_at hl 1 rfl) ?_
  refine r_getR C hS fo_0_0 (fl_d C q389) (fun _ h => h) dX1_meanWear_16 hw (fun x6 hw => ?_)
  refine r_getR C hS fo_1_0 (fl_n C q232) (fun _ h => h) dX1_meanWear_19 hw (fun x7 hw => ?_)
  refine c_V C hS hmc hl.1 (ci := 13) rfl hw.1 (kJ2_values C.2.2.2.2.2.2.1) hw.2 (lw_V q2810 q448 q449 q71 q450) ⟨rfl, hdJ2_values⟩ ⟨Nat.le_of_ble_eq_true rfl, Nat.le_of_ble_eq_true rfl⟩ (rest := []) rfl rfl (Nat.le_of_ble_eq_true rfl) dX1_meanWear_22 (fun ci q z H locs hx hS ht => r_out C hS hmc (fun x hx => (hT x hx).elim) ht hx) (fun v z8 H locs hv hS => ?_)
  obtain ⟨x9, rfl, hw⟩ := hv
  refine c_F C hS hmc hl.1 (ci := 18) rfl hw.1 (kJ18_iterator C.2.2.2.2.2.2.1) hw.2 q2812 q653 q655 q92 q657 (face_w C q472 q471 q656 q654 q652 (by decide) (by decide)) ⟨by decide, by decide⟩ hdJ18_iterator.2.2 ⟨Nat.le_of_ble_eq_true rfl, Nat.le_of_ble_eq_true rfl⟩ (rest := []) rfl rfl (Nat.le_of_ble_eq_true rfl) dX1_meanWear_25 (fun ci q z H locs hx hS ht => r_out C hS hmc (fun x hx => (hT x hx).elim) ht hx) (fun v z10 H locs hv hS => ?_)
  obtain ⟨x11, rfl, hw⟩ := hv
  refine r_astore_n C.1 C.2.1 dX1_meanWear_30 rfl hl (Nat.le_of_ble_eq_true rfl) (ls_new (ls_old 0 rfl rfl (.inr rfl) (ls_old 1 rfl rfl (.inl rfl) ls_nil))) (fun ls hl => ?_)
  exact lpI_sound (Wt := fun (y : (Option Nat × Int32 × Option Nat × hSt)) => kt G p l e (rmX1_meanWear mc ms) s m args below meth c 4 (vx_MQ below (cQ G (pD P)) (cX G PX) args s mc ms (gF G)) 31 [(0, va_rf (y.1)), (1, .int (y.2.1)), (2, va_rf (y.2.2.1))] [] (y.2.2.2)) (fun K y hK hF => kX1_meanWearb31 C hr hin hT hmc  hK hF) hw H locs ls hS (lv_sub hl [2, 1, 0] rfl)
end
theorem kX1_meanWear {l : Launch} (hl : l.stackTraces = false) {G : gE} {P : UInt64 → hSt → Prop} {PX : Nat → Nat → hSt → Prop} {v0 : Option Nat} {z : hSt} : cM l G yX1_meanWear (ws_ yX1_meanWear cX1_meanWear 4 (Option.some Jvm.ClassFile.FieldType.double)) 14 244 z [va_rf v0] (wX1_meanWear G P PX v0 z) (pD P) PX := by
  refine m_of hl (plainFor_of_name (by decide)) (by rw [lg_sl1 (va_rf_cat _)]; exact Nat.le_of_ble_eq_true rfl) ?_
  intro p e s m args below meth c C hr hin hT hmc hw
  rw [lv_args1 (va_rf_cat _)]
  intro H locs ls hS hl
  exact kX1_meanWearb0 C hr hin hT hmc hw H locs ls hS (lv_sub hl [0] rfl)
theorem hdX1_meanWear : yX1_meanWear.cls ≠ "java/lang/invoke/MethodHandle" ∧ yX1_meanWear.cls ≠ "java/lang/invoke/VarHandle" ∧ (parseMethodDescriptor yX1_meanWear.desc).map (fun d => d.parameters.length) = some 0 := ⟨by decide +kernel, by decide +kernel, by decide +kernel⟩
abbrev rmX1_believedShare (mc ms : Nat) : Room := { frames := 11, cells := mc, slots := ms, locals := 180 }
def wX1_believedShareb0 (G : gE) (P : UInt32 → hSt → Prop) (PX : Nat → Nat → hSt → Prop)  (v0 : Option Nat) (z : hSt) : Prop :=
  gtR z v0 [0] 0 (fun x1 => (rcv z x1 1 ∧ wX2_uses G (fun x3 z2 => wX1_checkCount G (fun z4 => gtR z4 v0 [0] 0 (fun x5 => (rcv z4 x5 1 ∧ wX2_believed G (fun x7 z6 => gtR z6 v0 [0] 0 (fun x8 => (rcv z6 x8 1 ∧ wX2_uses G (fun x10 z9 => (vf_n32 (FP.fdiv (FP.i2f x7) (FP.i2f x10)) ∧ P (FP.fdiv (FP.i2f x7) (FP.i2f x10)) z9)) PX x8  z6))) PX x5  z4))) PX x3 z2) PX x1  z))
def wX1_believedShare (G : gE) (P : UInt32 → hSt → Prop) (PX : Nat → Nat → hSt → Prop) (v0 : Option Nat) (z : hSt) : Prop := wX1_believedShareb0 G P PX v0 z
section
variable {p : Program} {l : Launch} {e : Env} {s : State} {m : MethodId} {args : Array Value} {below : List Frame} {meth : Method} {c : Code} {G : gE} {mc ms : Nat} {P : UInt32 → hSt → Prop} {PX : Nat → Nat → hSt → Prop}
theorem kX1_believedShareb0 (C : xC G p l s m args meth c cX1_believedShare 1 "ExcuseLedger") (hr : meth.sig.returnType = (Option.some Jvm.ClassFile.FieldType.float)) (hin : meth.name = "believedShare") (hT : ∀ x ∈ c.exceptionTable.toList, False) (hmc : mc = gL G - s.heap.size ∧ ms = gU G - hsum s.heap)   {v0 : Option Nat} {z : hSt} (hw : wX1_believedShareb0 G P PX  v0 z) : kt G p l e (rmX1_believedShare mc ms) s m args below meth c 1 (vx_MQ below (cQ G (pF P)) (cX G PX) args s mc ms (gF G)) 0 [(0, va_rf v0)] [] z := by
  intro H locs ls hS hl
  refine r_aload_n C.1 C.2.1 dX1_believedShare_0 rfl (lv_at hl 0 rfl) ?_
  refine r_getR C hS fo_0_0 (fl_d C q389) (fun _ h => h) dX1_believedShare_1 hw (fun x1 hw => ?_)
  refine c_V C hS hmc hl.1 (ci := 1) rfl hw.1 (kX2_uses C.2.2.2.2.2.2.1) hw.2 (lw_V q2820 q2346 q2347 q68 q2348) ⟨rfl, hdX2_uses⟩ ⟨Nat.le_of_ble_eq_true rfl, Nat.le_of_ble_eq_true rfl⟩ (rest := []) rfl rfl (Nat.le_of_ble_eq_true rfl) dX1_believedShare_4 (fun ci q z H locs hx hS ht => r_out C hS hmc (fun x hx => (hT x hx).elim) ht hx) (fun v z2 H locs hv hS => ?_)
  obtain ⟨x3, rfl, hw⟩ := hv
  refine c_S C hS hmc hl.1 (kX1_checkCount C.2.2.2.2.2.2.1) hw (lw_S q2802 q2803 q67 q2804) hdX1_checkCount ⟨Nat.le_of_ble_eq_true rfl, Nat.le_of_ble_eq_true rfl⟩ (rest := []) rfl rfl (Nat.le_of_ble_eq_true rfl) dX1_believedShare_7 (fun ci q z H locs hx hS ht => r_out C hS hmc (fun x hx => (hT x hx).elim) ht hx) (fun v z4 H locs hv hS => ?_)
  obtain ⟨rfl, hw⟩ := hv
  refine r_aload_n C.1 C.2.1 dX1_believedShare_10 rfl (lv_at hl 0 rfl) ?_
  refine r_getR C hS fo_0_0 (fl_d C q389) (fun _ h => h) dX1_believedShare_11 hw (fun x5 hw => ?_)
  refine c_V C hS hmc hl.1 (ci := 1) rfl hw.1 (kX2_believed C.2.2.2.2.2.2.1) hw.2 (lw_V q2821 q2822 q2823 q68 q2824) ⟨rfl, hdX2_believed⟩ ⟨Nat.le_of_ble_eq_true rfl, Nat.le_of_ble_eq_true rfl⟩ (rest := []) rfl rfl (Nat.le_of_ble_eq_true rfl) dX1_believedShare_14 (fun ci q z H locs hx hS ht => r_out C hS hmc (fun x hx => (hT x hx).elim) ht hx) (fun v z6 H locs hv hS => ?_)
  obtain ⟨x7, rfl, hw⟩ := hv
  refine lv_i2f C.1 C.2.1 dX1_believedShare_17 ?_
  refine r_aload_n C.1 C.2.1 dX1_believedShare_18 rfl (lv_at hl 0 rfl) ?_
  refine r_getR C hS fo_0_0 (fl_d C q389) (fun _ h => h) dX1_believedShare_19 hw (fun x8 hw => ?_)
  refine c_V C hS hmc hl.1 (ci := 1) rfl hw.1 (kX2_uses C.2.2.2.2.2.2.1) hw.2 (lw_V q2820 q2346 q2347 q68 q2348) ⟨rfl, hdX2_uses⟩ ⟨Nat.le_of_ble_eq_true rfl, Nat.le_of_ble_eq_true rfl⟩ (rest := [.float (FP.i2f x7)]) rfl rfl (Nat.le_of_ble_eq_true rfl) dX1_believedShare_22 (fun ci q z H locs hx hS ht => r_out C hS hmc (fun x hx => (hT x hx).elim) ht hx) (fun v z9 H locs hv hS => ?_)
  obtain ⟨x10, rfl, hw⟩ := hv
  refine lv_i2f C.1 C.2.1 dX1_believedShare_25 ?_
  refine lv_fdiv C.1 C.2.1 dX1_believedShare_26 hw.1 ?_
  have hw := hw.2
  exact r_fret C hS hmc hr dX1_believedShare_27 hw
end
theorem kX1_believedShare {l : Launch} (hl : l.stackTraces = false) {G : gE} {P : UInt32 → hSt → Prop} {PX : Nat → Nat → hSt → Prop} {v0 : Option Nat} {z : hSt} : cM l G yX1_believedShare (ws_ yX1_believedShare cX1_believedShare 1 (Option.some Jvm.ClassFile.FieldType.float)) 11 180 z [va_rf v0] (wX1_believedShare G P PX v0 z) (pF P) PX := by
  refine m_of hl (plainFor_of_name (by decide)) (by rw [lg_sl1 (va_rf_cat _)]; exact Nat.le_of_ble_eq_true rfl) ?_
  intro p e s m args below meth c C hr hin hT hmc hw
  rw [lv_args1 (va_rf_cat _)]
  intro H locs ls hS hl
  exact kX1_believedShareb0 C hr hin hT hmc hw H locs ls hS (lv_sub hl [0] rfl)
theorem hdX1_believedShare : yX1_believedShare.cls ≠ "java/lang/invoke/MethodHandle" ∧ yX1_believedShare.cls ≠ "java/lang/invoke/VarHandle" ∧ (parseMethodDescriptor yX1_believedShare.desc).map (fun d => d.parameters.length) = some 0 := ⟨by decide +kernel, by decide +kernel, by decide +kernel⟩
abbrev rmX1_account (mc ms : Nat) : Room := { frames := 15, cells := mc, slots := ms, locals := 267 }
def wX1_accountb0 (G : gE) (P : Int32 → hSt → Prop) (PX : Nat → Nat → hSt → Prop)  (v0 : Option Nat) (v1 : Int32) (z : hSt) : Prop :=
  wX1_isIn G (fun x2 z1 => wX1_checkArgument G (fun z3 => ((v1 = 0 → gtR z3 v0 [0] 0 (fun x4 => gtR z3 x4 [1] 0 (fun x5 => (rcv z3 x5 13 ∧ wJ1_size G (fun x7 z6 => P x7 z6) PX x5  z3)))) ∧ (v1 = 1 → gtR z3 v0 [0] 0 (fun x8 => (rcv z3 x8 1 ∧ wX2_lent G (fun x10 z9 => P x10 z9) PX x8  z3))) ∧ (v1 = 2 → gtR z3 v0 [0] 0 (fun x11 => gtI z3 x11 [1] 4 (fun x12 => P x12 z3))) ∧ (v1 = 3 → gtR z3 v0 [0] 0 (fun x13 => gtI z3 x13 [1] 5 (fun x14 => P x14 z3))) ∧ (v1 = 4 → gtR z3 v0 [0] 0 (fun x15 => gtI z3 x15 [1] 6 (fun x16 => P x16 z3))) ∧ (v1 = 5 → gtR z3 v0 [0] 0 (fun x17 => (rcv z3 x17 1 ∧ wX2_uses G (fun x19 z18 => P x19 z18) PX x17  z3))) ∧ (v1 = 6 → gtR z3 v0 [0] 0 (fun x20 => (rcv z3 x20 1 ∧ wX2_believed G (fun x22 z21 => P x22 z21) PX x20  z3))) ∧ (v1 = 7 → gtR z3 v0 [0] 0 (fun x23 => gtI z3 x23 [1] 7 (fun x24 => P x24 z3))) ∧ (v1 = 8 → gtR z3 v0 [0] 0 (fun x25 => gtI z3 x25 [1] 8 (fun x26 => P x26 z3))) ∧ (v1 = 9 → gtR z3 v0 [0] 3 (fun x27 => (rcv z3 x27 16 ∧ wJ9_length G (fun x29 z28 => P x29 z28) PX x27  z3))) ∧ (v1 ∉ ([0, 1, 2, 3, 4, 5, 6, 7, 8, 9] : List Int32) → gtR z3 v0 [0] 2 (fun x30 => (rcv z3 x30 15 ∧ wJ7_size G (fun x32 z31 => P x32 z31) PX x30  z3))))) PX x2 z1) PX v1 0 10 z
def wX1_account (G : gE) (P : Int32 → hSt → Prop) (PX : Nat → Nat → hSt → Prop) (v0 : Option Nat) (v1 : Int32) (z : hSt) : Prop := wX1_accountb0 G P PX v0 v1 z
section
variable {p : Program} {l : Launch} {e : Env} {s : State} {m : MethodId} {args : Array Value} {below : List Frame} {meth : Method} {c : Code} {G : gE} {mc ms : Nat} {P : Int32 → hSt → Prop} {PX : Nat → Nat → hSt → Prop}
theorem kX1_accountb0 (C : xC G p l s m args meth c cX1_account 2 "ExcuseLedger") (hr : meth.sig.returnType = (Option.some Jvm.ClassFile.FieldType.int)) (hin : meth.name = "account") (hT : ∀ x ∈ c.exceptionTable.toList, False) (hmc : mc = gL G - s.heap.size ∧ ms = gU G - hsum s.heap)   {v0 : Option Nat} {v1 : Int32} {z : hSt} (hw : wX1_accountb0 G P PX  v0 v1 z) : kt G p l e (rmX1_account mc ms) s m args below meth c 2 (vx_MQ below (cQ G (pI P)) (cX G PX) args s mc ms (gF G)) 0 [(0, va_rf v0), (1, .int v1)] [] z := by
  intro H locs ls hS hl
  refine lv_iload_n C.1 C.2.1 dX1_account_0 rfl (lv_at hl 1 rfl) ?_
  refine lv_iconst C.1 C.2.1 (v := 0) dX1_account_1 rfl ?_
  refine lv_bipush C.1 C.2.1 (v := 10) dX1_account_2 rfl ?_
  refine c_S C hS hmc hl.1 (kX1_isIn C.2.2.2.2.2.2.1) hw (lw_S q1980 q1981 q67 q1982) hdX1_isIn ⟨Nat.le_of_ble_eq_true rfl, Nat.le_of_ble_eq_true rfl⟩ (rest := []) rfl rfl (Nat.le_of_ble_eq_true rfl) dX1_account_4 (fun ci q z H locs hx hS ht => r_out C hS hmc (fun x hx => (hT x hx).elim) ht hx) (fun v z1 H locs hv hS => ?_)
  obtain ⟨x2, rfl, hw⟩ := hv
  refine c_S C hS hmc hl.1 (kX1_checkArgument C.2.2.2.2.2.2.1) hw (lw_S q2402 q2403 q67 q2404) hdX1_checkArgument ⟨Nat.le_of_ble_eq_true rfl, Nat.le_of_ble_eq_true rfl⟩ (rest := []) rfl rfl (Nat.le_of_ble_eq_true rfl) dX1_account_7 (fun ci q z H locs hx hS ht => r_out C hS hmc (fun x hx => (hT x hx).elim) ht hx) (fun v z3 H locs hv hS => ?_)
  obtain ⟨rfl, hw⟩ := hv
  refine lv_iload_n C.1 C.2.1 dX1_account_10 rfl (lv_at hl 1 rfl) ?_
  refine r_tsw C dX1_account_11 (dt := 167) rfl (tgts := [64, 77, 87, 97, 107, 117, 127, 137, 147, 157]) rfl (Nat.le_of_ble_eq_true rfl) (fun i t ht hx => ?_) (fun ho => ?_)
  · match i, ht, hx with
    | 0, ht, hx =>
      cases ht
      have hw := hw.1 (sw_eq 0 hx rfl)
      refine r_aload_n C.1 C.2.1 dX1_account_64 rfl (lv_at hl 0 rfl) ?_
      refine r_getR C hS fo_0_0 (fl_d C q389) (fun _ h => h) dX1_account_65 hw (fun x4 hw => ?_)
      refine r_getR C hS fo_1_0 (fl_n C q232) (fun _ h => h) dX1_account_68 hw (fun x5 hw => ?_)
      refine c_U C hS hmc hl.1 (ci := 13) rfl hw.1 (kJ1_size C.2.2.2.2.2.2.1) hw.2 q2353 q2018 (decl_w C q2019 (by decide)) (C.2.2.2.2.1 _ q2020) q1768 q70 q1770 ⟨by decide, by decide⟩ hdJ1_size.2.2 ⟨Nat.le_of_ble_eq_true rfl, Nat.le_of_ble_eq_true rfl⟩ (rest := []) rfl rfl (Nat.le_of_ble_eq_true rfl) dX1_account_71 (fun ci q z H locs hx hS ht => r_out C hS hmc (fun x hx => (hT x hx).elim) ht hx) (fun v z6 H locs hv hS => ?_)
      obtain ⟨x7, rfl, hw⟩ := hv
      refine lv_goto C.1 C.2.1 dX1_account_74 rfl ?_
      exact r_iret C hS hmc hr dX1_account_174 hw
    | 1, ht, hx =>
      cases ht
      have hw := hw.2.1 (sw_eq 1 hx rfl)
      refine r_aload_n C.1 C.2.1 dX1_account_77 rfl (lv_at hl 0 rfl) ?_
      refine r_getR C hS fo_0_0 (fl_d C q389) (fun _ h => h) dX1_account_78 hw (fun x8 hw => ?_)
      refine c_V C hS hmc hl.1 (ci := 1) rfl hw.1 (kX2_lent C.2.2.2.2.2.2.1) hw.2 (lw_V q2832 q2833 q2834 q68 q2835) ⟨rfl, hdX2_lent⟩ ⟨Nat.le_of_ble_eq_true rfl, Nat.le_of_ble_eq_true rfl⟩ (rest := []) rfl rfl (Nat.le_of_ble_eq_true rfl) dX1_account_81 (fun ci q z H locs hx hS ht => r_out C hS hmc (fun x hx => (hT x hx).elim) ht hx) (fun v z9 H locs hv hS => ?_)
      obtain ⟨x10, rfl, hw⟩ := hv
      refine lv_goto C.1 C.2.1 dX1_account_84 rfl ?_
      exact r_iret C hS hmc hr dX1_account_174 hw
    | 2, ht, hx =>
      cases ht
      have hw := hw.2.2.1 (sw_eq 2 hx rfl)
      refine r_aload_n C.1 C.2.1 dX1_account_87 rfl (lv_at hl 0 rfl) ?_
      refine r_getR C hS fo_0_0 (fl_d C q389) (fun _ h => h) dX1_account_88 hw (fun x11 hw => ?_)
      refine r_getI C hS fo_1_4 (fl_n C q239) (fun _ h => h) dX1_account_91 hw (fun x12 hw => ?_)
      refine lv_goto C.1 C.2.1 dX1_account_94 rfl ?_
      exact r_iret C hS hmc hr dX1_account_174 hw
    | 3, ht, hx =>
      cases ht
      have hw := hw.2.2.2.1 (sw_eq 3 hx rfl)
      refine r_aload_n C.1 C.2.1 dX1_account_97 rfl (lv_at hl 0 rfl) ?_
      refine r_getR C hS fo_0_0 (fl_d C q389) (fun _ h => h) dX1_account_98 hw (fun x13 hw => ?_)
      refine r_getI C hS fo_1_5 (fl_n C q241) (fun _ h => h) dX1_account_101 hw (fun x14 hw => ?_)
      refine lv_goto C.1 C.2.1 dX1_account_104 rfl ?_
      exact r_iret C hS hmc hr dX1_account_174 hw
    | 4, ht, hx =>
      cases ht
      have hw := hw.2.2.2.2.1 (sw_eq 4 hx rfl)
      refine r_aload_n C.1 C.2.1 dX1_account_107 rfl (lv_at hl 0 rfl) ?_
      refine r_getR C hS fo_0_0 (fl_d C q389) (fun _ h => h) dX1_account_108 hw (fun x15 hw => ?_)
      refine r_getI C hS fo_1_6 (fl_n C q243) (fun _ h => h) dX1_account_111 hw (fun x16 hw => ?_)
      refine lv_goto C.1 C.2.1 dX1_account_114 rfl ?_
      exact r_iret C hS hmc hr dX1_account_174 hw
    | 5, ht, hx =>
      cases ht
      have hw := hw.2.2.2.2.2.1 (sw_eq 5 hx rfl)
      refine r_aload_n C.1 C.2.1 dX1_account_117 rfl (lv_at hl 0 rfl) ?_
      refine r_getR C hS fo_0_0 (fl_d C q389) (fun _ h => h) dX1_account_118 hw (fun x17 hw => ?_)
      refine c_V C hS hmc hl.1 (ci := 1) rfl hw.1 (kX2_uses C.2.2.2.2.2.2.1) hw.2 (lw_V q2820 q2346 q2347 q68 q2348) ⟨rfl, hdX2_uses⟩ ⟨Nat.le_of_ble_eq_true rfl, Nat.le_of_ble_eq_true rfl⟩ (rest := []) rfl rfl (Nat.le_of_ble_eq_true rfl) dX1_account_121 (fun ci q z H locs hx hS ht => r_out C hS hmc (fun x hx => (hT x hx).elim) ht hx) (fun v z18 H locs hv hS => ?_)
      obtain ⟨x19, rfl, hw⟩ := hv
      refine lv_goto C.1 C.2.1 dX1_account_124 rfl ?_
      exact r_iret C hS hmc hr dX1_account_174 hw
    | 6, ht, hx =>
      cases ht
      have hw := hw.2.2.2.2.2.2.1 (sw_eq 6 hx rfl)
      refine r_aload_n C.1 C.2.1 dX1_account_127 rfl (lv_at hl 0 rfl) ?_
      refine r_getR C hS fo_0_0 (fl_d C q389) (fun _ h => h) dX1_account_128 hw (fun x20 hw => ?_)
      refine c_V C hS hmc hl.1 (ci := 1) rfl hw.1 (kX2_believed C.2.2.2.2.2.2.1) hw.2 (lw_V q2821 q2822 q2823 q68 q2824) ⟨rfl, hdX2_believed⟩ ⟨Nat.le_of_ble_eq_true rfl, Nat.le_of_ble_eq_true rfl⟩ (rest := []) rfl rfl (Nat.le_of_ble_eq_true rfl) dX1_account_131 (fun ci q z H locs hx hS ht => r_out C hS hmc (fun x hx => (hT x hx).elim) ht hx) (fun v z21 H locs hv hS => ?_)
      obtain ⟨x22, rfl, hw⟩ := hv
      refine lv_goto C.1 C.2.1 dX1_account_134 rfl ?_
      exact r_iret C hS hmc hr dX1_account_174 hw
    | 7, ht, hx =>
      cases ht
      have hw := hw.2.2.2.2.2.2.2.1 (sw_eq 7 hx rfl)
      refine r_aload_n C.1 C.2.1 dX1_account_137 rfl (lv_at hl 0 rfl) ?_
      refine r_getR C hS fo_0_0 (fl_d C q389) (fun _ h => h) dX1_account_138 hw (fun x23 hw => ?_)
      refine r_getI C hS fo_1_7 (fl_n C q245) (fun _ h => h) dX1_account_141 hw (fun x24 hw => ?_)
      refine lv_goto C.1 C.2.1 dX1_account_144 rfl ?_
      exact r_iret C hS hmc hr dX1_account_174 hw
    | 8, ht, hx =>
      cases ht
      have hw := hw.2.2.2.2.2.2.2.2.1 (sw_eq 8 hx rfl)
      refine r_aload_n C.1 C.2.1 dX1_account_147 rfl (lv_at hl 0 rfl) ?_
      refine r_getR C hS fo_0_0 (fl_d C q389) (fun _ h => h) dX1_account_148 hw (fun x25 hw => ?_)
      refine r_getI C hS fo_1_8 (fl_n C q247) (fun _ h => h) dX1_account_151 hw (fun x26 hw => ?_)
      refine lv_goto C.1 C.2.1 dX1_account_154 rfl ?_
      exact r_iret C hS hmc hr dX1_account_174 hw
    | 9, ht, hx =>
      cases ht
      have hw := hw.2.2.2.2.2.2.2.2.2.1 (sw_eq 9 hx rfl)
      refine r_aload_n C.1 C.2.1 dX1_account_157 rfl (lv_at hl 0 rfl) ?_
      refine r_getR C hS fo_0_3 (fl_d C q392) (fun _ h => h) dX1_account_158 hw (fun x27 hw => ?_)
      refine c_V C hS hmc hl.1 (ci := 16) rfl hw.1 (kJ9_length C.2.2.2.2.2.2.1) hw.2 (lw_V q2769 q1166 q3546 q80 q1167) ⟨rfl, hdJ9_length⟩ ⟨Nat.le_of_ble_eq_true rfl, Nat.le_of_ble_eq_true rfl⟩ (rest := []) rfl rfl (Nat.le_of_ble_eq_true rfl) dX1_account_161 (fun ci q z H locs hx hS ht => r_out C hS hmc (fun x hx => (hT x hx).elim) ht hx) (fun v z28 H locs hv hS => ?_)
      obtain ⟨x29, rfl, hw⟩ := hv
      refine lv_goto C.1 C.2.1 dX1_account_164 rfl ?_
      exact r_iret C hS hmc hr dX1_account_174 hw
    | i + 10, ht, hx => exact nomatch ht
  · have hw := hw.2.2.2.2.2.2.2.2.2.2 (sw_out ho (by decide))
    refine r_aload_n C.1 C.2.1 dX1_account_167 rfl (lv_at hl 0 rfl) ?_
    refine r_getR C hS fo_0_2 (fl_d C q391) (fun _ h => h) dX1_account_168 hw (fun x30 hw => ?_)
    refine c_V C hS hmc hl.1 (ci := 15) rfl hw.1 (kJ7_size C.2.2.2.2.2.2.1) hw.2 (lw_V q2236 q2237 q2238 q78 q2239) ⟨rfl, hdJ7_size⟩ ⟨Nat.le_of_ble_eq_true rfl, Nat.le_of_ble_eq_true rfl⟩ (rest := []) rfl rfl (Nat.le_of_ble_eq_true rfl) dX1_account_171 (fun ci q z H locs hx hS ht => r_out C hS hmc (fun x hx => (hT x hx).elim) ht hx) (fun v z31 H locs hv hS => ?_)
    obtain ⟨x32, rfl, hw⟩ := hv
    exact r_iret C hS hmc hr dX1_account_174 hw
end
theorem kX1_account {l : Launch} (hl : l.stackTraces = false) {G : gE} {P : Int32 → hSt → Prop} {PX : Nat → Nat → hSt → Prop} {v0 : Option Nat} {v1 : Int32} {z : hSt} : cM l G yX1_account (ws_ yX1_account cX1_account 2 (Option.some Jvm.ClassFile.FieldType.int)) 15 267 z [va_rf v0, .int v1] (wX1_account G P PX v0 v1 z) (pI P) PX := by
  refine m_of hl (plainFor_of_name (by decide)) (by rw [lg_sl1 (va_rf_cat _), lg_sl1 rfl]; exact Nat.le_of_ble_eq_true rfl) ?_
  intro p e s m args below meth c C hr hin hT hmc hw
  rw [lv_args1 (va_rf_cat _), lv_args1 rfl]
  intro H locs ls hS hl
  exact kX1_accountb0 C hr hin hT hmc hw H locs ls hS (lv_sub hl [0, 1] rfl)
theorem hdX1_account : yX1_account.cls ≠ "java/lang/invoke/MethodHandle" ∧ yX1_account.cls ≠ "java/lang/invoke/VarHandle" ∧ (parseMethodDescriptor yX1_account.desc).map (fun d => d.parameters.length) = some 1 := ⟨by decide +kernel, by decide +kernel, by decide +kernel⟩
abbrev rmX1_append (mc ms : Nat) : Room := { frames := 15, cells := mc, slots := ms, locals := 272 }
def wX1_appendb28 (G : gE) (P : Int32 → hSt → Prop) (PX : Nat → Nat → hSt → Prop)  (v0 : Option Nat) (v1 : Int32) (s0 : Int32) (z : hSt) : Prop :=
  wX1_checkState G (fun z7 => gtR z7 v0 [0] 3 (fun x8 => (rcv z7 x8 16 ∧ wJ9_append_3 G (fun x10 z9 => gtR z9 v0 [0] 3 (fun x11 => (rcv z9 x11 16 ∧ wJ9_length G (fun x13 z12 => P x13 z12) PX x11  z9))) PX x8 v1 z7))) PX s0 z
def wX1_appendb0 (G : gE) (P : Int32 → hSt → Prop) (PX : Nat → Nat → hSt → Prop)  (v0 : Option Nat) (v1 : Int32) (z : hSt) : Prop :=
  wX1_isIn G (fun x2 z1 => wX1_checkArgument G (fun z3 => gtR z3 v0 [0] 3 (fun x4 => (rcv z3 x4 16 ∧ wJ9_length G (fun x6 z5 => ((60 ≤ x6 → wX1_appendb28 G P PX  v0 v1 0 z5) ∧ (¬ 60 ≤ x6 → wX1_appendb28 G P PX  v0 v1 1 z5))) PX x4  z3))) PX x2 z1) PX v1 32 126 z
def wX1_append (G : gE) (P : Int32 → hSt → Prop) (PX : Nat → Nat → hSt → Prop) (v0 : Option Nat) (v1 : Int32) (z : hSt) : Prop := wX1_appendb0 G P PX v0 v1 z
section
variable {p : Program} {l : Launch} {e : Env} {s : State} {m : MethodId} {args : Array Value} {below : List Frame} {meth : Method} {c : Code} {G : gE} {mc ms : Nat} {P : Int32 → hSt → Prop} {PX : Nat → Nat → hSt → Prop}
theorem kX1_appendb28 (C : xC G p l s m args meth c cX1_append 2 "ExcuseLedger") (hr : meth.sig.returnType = (Option.some Jvm.ClassFile.FieldType.int)) (hin : meth.name = "append") (hT : ∀ x ∈ c.exceptionTable.toList, False) (hmc : mc = gL G - s.heap.size ∧ ms = gU G - hsum s.heap)   {v0 : Option Nat} {v1 : Int32} {s0 : Int32} {z : hSt} (hw : wX1_appendb28 G P PX  v0 v1 s0 z) : kt G p l e (rmX1_append mc ms) s m args below meth c 2 (vx_MQ below (cQ G (pI P)) (cX G PX) args s mc ms (gF G)) 28 [(0, va_rf v0), (1, .int v1)] [.int s0] z := by
  intro H locs ls hS hl
  refine c_S C hS hmc hl.1 (kX1_checkState C.2.2.2.2.2.2.1) hw (lw_S q2844 q1993 q67 q1994) hdX1_checkState ⟨Nat.le_of_ble_eq_true rfl, Nat.le_of_ble_eq_true rfl⟩ (rest := []) rfl rfl (Nat.le_of_ble_eq_true rfl) dX1_append_28 (fun ci q z H locs hx hS ht => r_out C hS hmc (fun x hx => (hT x hx).elim) ht hx) (fun v z7 H locs hv hS => ?_)
  obtain ⟨rfl, hw⟩ := hv
  refine r_aload_n C.1 C.2.1 dX1_append_31 rfl (lv_at hl 0 rfl) ?_
  refine r_getR C hS fo_0_3 (fl_d C q392) (fun _ h => h) dX1_append_32 hw (fun x8 hw => ?_)
  refine lv_iload_n C.1 C.2.1 dX1_append_35 rfl (lv_at hl 1 rfl) ?_
  refine c_V C hS hmc hl.1 (ci := 16) rfl hw.1 (kJ9_append_3 C.2.2.2.2.2.2.1) hw.2 (lw_V q2845 q2715 q2716 q80 q2717) ⟨rfl, hdJ9_append_3⟩ ⟨Nat.le_of_ble_eq_true rfl, Nat.le_of_ble_eq_true rfl⟩ (rest := []) rfl rfl (Nat.le_of_ble_eq_true rfl) dX1_append_36 (fun ci q z H locs hx hS ht => r_out C hS hmc (fun x hx => (hT x hx).elim) ht hx) (fun v z9 H locs hv hS => ?_)
  obtain ⟨x10, rfl, hw⟩ := hv
  refine lv_pop C.1 C.2.1 dX1_append_39 (va_rf_cat _) ?_
  refine r_aload_n C.1 C.2.1 dX1_append_40 rfl (lv_at hl 0 rfl) ?_
  refine r_getR C hS fo_0_3 (fl_d C q392) (fun _ h => h) dX1_append_41 hw (fun x11 hw => ?_)
  refine c_V C hS hmc hl.1 (ci := 16) rfl hw.1 (kJ9_length C.2.2.2.2.2.2.1) hw.2 (lw_V q2769 q1166 q3546 q80 q1167) ⟨rfl, hdJ9_length⟩ ⟨Nat.le_of_ble_eq_true rfl, Nat.le_of_ble_eq_true rfl⟩ (rest := []) rfl rfl (Nat.le_of_ble_eq_true rfl) dX1_append_44 (fun ci q z H locs hx hS ht => r_out C hS hmc (fun x hx => (hT x hx).elim) ht hx) (fun v z12 H locs hv hS => ?_)
  obtain ⟨x13, rfl, hw⟩ := hv
  exact r_iret C hS hmc hr dX1_append_47 hw
theorem kX1_appendb0 (C : xC G p l s m args meth c cX1_append 2 "ExcuseLedger") (hr : meth.sig.returnType = (Option.some Jvm.ClassFile.FieldType.int)) (hin : meth.name = "append") (hT : ∀ x ∈ c.exceptionTable.toList, False) (hmc : mc = gL G - s.heap.size ∧ ms = gU G - hsum s.heap)   {v0 : Option Nat} {v1 : Int32} {z : hSt} (hw : wX1_appendb0 G P PX  v0 v1 z) : kt G p l e (rmX1_append mc ms) s m args below meth c 2 (vx_MQ below (cQ G (pI P)) (cX G PX) args s mc ms (gF G)) 0 [(0, va_rf v0), (1, .int v1)] [] z := by
  intro H locs ls hS hl
  refine lv_iload_n C.1 C.2.1 dX1_append_0 rfl (lv_at hl 1 rfl) ?_
  refine lv_bipush C.1 C.2.1 (v := 32) dX1_append_1 rfl ?_
  refine lv_bipush C.1 C.2.1 (v := 126) dX1_append_3 rfl ?_
  refine c_S C hS hmc hl.1 (kX1_isIn C.2.2.2.2.2.2.1) hw (lw_S q1980 q1981 q67 q1982) hdX1_isIn ⟨Nat.le_of_ble_eq_true rfl, Nat.le_of_ble_eq_true rfl⟩ (rest := []) rfl rfl (Nat.le_of_ble_eq_true rfl) dX1_append_5 (fun ci q z H locs hx hS ht => r_out C hS hmc (fun x hx => (hT x hx).elim) ht hx) (fun v z1 H locs hv hS => ?_)
  obtain ⟨x2, rfl, hw⟩ := hv
  refine c_S C hS hmc hl.1 (kX1_checkArgument C.2.2.2.2.2.2.1) hw (lw_S q2402 q2403 q67 q2404) hdX1_checkArgument ⟨Nat.le_of_ble_eq_true rfl, Nat.le_of_ble_eq_true rfl⟩ (rest := []) rfl rfl (Nat.le_of_ble_eq_true rfl) dX1_append_8 (fun ci q z H locs hx hS ht => r_out C hS hmc (fun x hx => (hT x hx).elim) ht hx) (fun v z3 H locs hv hS => ?_)
  obtain ⟨rfl, hw⟩ := hv
  refine r_aload_n C.1 C.2.1 dX1_append_11 rfl (lv_at hl 0 rfl) ?_
  refine r_getR C hS fo_0_3 (fl_d C q392) (fun _ h => h) dX1_append_12 hw (fun x4 hw => ?_)
  refine c_V C hS hmc hl.1 (ci := 16) rfl hw.1 (kJ9_length C.2.2.2.2.2.2.1) hw.2 (lw_V q2769 q1166 q3546 q80 q1167) ⟨rfl, hdJ9_length⟩ ⟨Nat.le_of_ble_eq_true rfl, Nat.le_of_ble_eq_true rfl⟩ (rest := []) rfl rfl (Nat.le_of_ble_eq_true rfl) dX1_append_15 (fun ci q z H locs hx hS ht => r_out C hS hmc (fun x hx => (hT x hx).elim) ht hx) (fun v z5 H locs hv hS => ?_)
  obtain ⟨x6, rfl, hw⟩ := hv
  refine lv_bipush C.1 C.2.1 (v := 60) dX1_append_18 rfl ?_
  refine lv_icmp_ge C.1 C.2.1 dX1_append_20 rfl (fun h => ?_) (fun h => ?_)
  · have hw := hw.1 h
    refine lv_iconst C.1 C.2.1 (v := 0) dX1_append_27 rfl ?_
    exact kX1_appendb28 C hr hin hT hmc  hw H locs ls hS (lv_sub hl [0, 1] rfl)
  · have hw := hw.2 h
    refine lv_iconst C.1 C.2.1 (v := 1) dX1_append_23 rfl ?_
    refine lv_goto C.1 C.2.1 dX1_append_24 rfl ?_
    exact kX1_appendb28 C hr hin hT hmc  hw H locs ls hS (lv_sub hl [0, 1] rfl)
end
theorem kX1_append {l : Launch} (hl : l.stackTraces = false) {G : gE} {P : Int32 → hSt → Prop} {PX : Nat → Nat → hSt → Prop} {v0 : Option Nat} {v1 : Int32} {z : hSt} : cM l G yX1_append (ws_ yX1_append cX1_append 2 (Option.some Jvm.ClassFile.FieldType.int)) 15 272 z [va_rf v0, .int v1] (wX1_append G P PX v0 v1 z) (pI P) PX := by
  refine m_of hl (plainFor_of_name (by decide)) (by rw [lg_sl1 (va_rf_cat _), lg_sl1 rfl]; exact Nat.le_of_ble_eq_true rfl) ?_
  intro p e s m args below meth c C hr hin hT hmc hw
  rw [lv_args1 (va_rf_cat _), lv_args1 rfl]
  intro H locs ls hS hl
  exact kX1_appendb0 C hr hin hT hmc hw H locs ls hS (lv_sub hl [0, 1] rfl)
theorem hdX1_append : yX1_append.cls ≠ "java/lang/invoke/MethodHandle" ∧ yX1_append.cls ≠ "java/lang/invoke/VarHandle" ∧ (parseMethodDescriptor yX1_append.desc).map (fun d => d.parameters.length) = some 1 := ⟨by decide +kernel, by decide +kernel, by decide +kernel⟩
abbrev rmX1_read (mc ms : Nat) : Room := { frames := 20, cells := mc, slots := ms, locals := 1407 }
def wX1_readb101 (G : gE) (P : Int32 → hSt → Prop) (PX : Nat → Nat → hSt → Prop)  (v0 : Option Nat) (s0 : Option Nat) (z : hSt) : Prop :=
  (rcv z v0 0 ∧ wX1_kept G (fun x55 z54 => (rcv z54 x55 30 ∧ ∀ q, x55 = some q → PX 30 q z54)) PX v0 s0 z)
def wX1_readb87 (G : gE) (P : Int32 → hSt → Prop) (PX : Nat → Nat → hSt → Prop)  (v0 : Option Nat) (s0 : Option Nat) (z : hSt) : Prop :=
  ptV G z v0 [0] 5 (va_rf s0) (fun z51 => mkE G z51 29 (fun x52 z53 => (rcv z53 (some x52) 29 ∧ ∀ q, (some x52) = some q → PX 29 q z53)))
def wX1_readb43 (G : gE) (P : Int32 → hSt → Prop) (PX : Nat → Nat → hSt → Prop) (K43 : (Option Nat × Option Nat × Option Nat × Option Nat × hSt) → Prop) (v0 : Option Nat) (v1 : Option Nat) (v2 : Option Nat) (v3 : Option Nat) (z : hSt) : Prop :=
  (rcv z v3 19 ∧ wJ19_hasNext G (fun x29 z28 => ((x29 = 0 → gtR z28 v1 [10] 1 (fun x30 => (rcv z28 x30 15 ∧ wJ7_size G (fun x35 z34 => (rcv z34 v0 0 ∧ wX1_become G (fun x40 z39 => P x40 z39) (fun c38 e37 z36 => (c38 = 8 ∧ wX1_readb101 G P PX  v0 (some e37) z36) ∨ (c38 = 11 ∧ wX1_readb87 G P PX  v0 (some e37) z36) ∨ (c38 ∈ ([28, 29, 30, 31, 32, 33] : List Nat) ∧ PX c38 e37 z36)) v0 v2 x35 z34)) (fun c33 e32 z31 => (c33 = 8 ∧ wX1_readb101 G P PX  v0 (some e32) z31) ∨ (c33 = 11 ∧ wX1_readb87 G P PX  v0 (some e32) z31) ∨ (c33 ∈ ([28, 29, 30, 31, 32, 33] : List Nat) ∧ PX c33 e32 z31)) x30  z28))) ∧ (¬ x29 = 0 → (rcv z28 v3 19 ∧ wJ19_next G (fun x45 z44 => (ckO z44 x45 [6] ∧ (rcv z44 x45 6 ∧ wX7_in G (fun x50 z49 => K43 (v0, v1, v2, v3, z49)) (fun c48 e47 z46 => (c48 = 8 ∧ wX1_readb101 G P PX  v0 (some e47) z46) ∨ (c48 = 11 ∧ wX1_readb87 G P PX  v0 (some e47) z46) ∨ (c48 ∈ ([28, 29, 30, 31, 32, 33] : List Nat) ∧ PX c48 e47 z46)) x45 v2 z44))) (fun c43 e42 z41 => (c43 = 8 ∧ wX1_readb101 G P PX  v0 (some e42) z41) ∨ (c43 = 11 ∧ wX1_readb87 G P PX  v0 (some e42) z41) ∨ (c43 ∈ ([28, 29, 30, 31, 32, 33] : List Nat) ∧ PX c43 e42 z41)) v3  z28)))) (fun c27 e26 z25 => (c27 = 8 ∧ wX1_readb101 G P PX  v0 (some e26) z25) ∨ (c27 = 11 ∧ wX1_readb87 G P PX  v0 (some e26) z25) ∨ (c27 ∈ ([28, 29, 30, 31, 32, 33] : List Nat) ∧ PX c27 e26 z25)) v3  z)
def wX1_readb0 (G : gE) (P : Int32 → hSt → Prop) (PX : Nat → Nat → hSt → Prop)  (v0 : Option Nat) (z : hSt) : Prop :=
  nwO G z 10 3 dfX11 (fun x1 z2 => gtR z2 v0 [0] 3 (fun x3 => (rcv z2 x3 16 ∧ wJ9_toString G (fun x5 z4 => (nnl (some x1) ∧ wX11_init G (fun z6 => gtR z6 v0 [0] 3 (fun x7 => (rcv z6 x7 16 ∧ wJ9_setLength G (fun z8 => (rcv z8 (some x1) 10 ∧ wX11_all G (fun z12 => gtR z12 v0 [0] 0 (fun x13 => (rcv z12 x13 1 ∧ wX2_copy G (fun x18 z17 => gtR z17 (some x1) [10] 1 (fun x19 => (rcv z17 x19 15 ∧ wJ7_iterator G (fun x24 z23 => lpI (fun (K43 : (Option Nat × Option Nat × Option Nat × Option Nat × hSt) → Prop) (y : (Option Nat × Option Nat × Option Nat × Option Nat × hSt)) => wX1_readb43 G P PX  K43 (y.1) (y.2.1) (y.2.2.1) (y.2.2.2.1) (y.2.2.2.2)) (v0, some x1, x18, x24, z23)) (fun c22 e21 z20 => (c22 = 8 ∧ wX1_readb101 G P PX  v0 (some e21) z20) ∨ (c22 = 11 ∧ wX1_readb87 G P PX  v0 (some e21) z20) ∨ (c22 ∈ ([28, 29, 30, 31, 32, 33] : List Nat) ∧ PX c22 e21 z20)) x19  z17))) (fun c16 e15 z14 => (c16 = 8 ∧ wX1_readb101 G P PX  v0 (some e15) z14) ∨ (c16 = 11 ∧ wX1_readb87 G P PX  v0 (some e15) z14) ∨ (c16 ∈ ([28, 29, 30, 31, 32, 33] : List Nat) ∧ PX c16 e15 z14)) x13  z12))) (fun c11 e10 z9 => (c11 = 8 ∧ wX1_readb101 G P PX  v0 (some e10) z9) ∨ (c11 = 11 ∧ wX1_readb87 G P PX  v0 (some e10) z9) ∨ (c11 ∈ ([28, 29, 30, 31, 32, 33] : List Nat) ∧ PX c11 e10 z9)) (some x1)  z8)) PX x7 0 z6))) PX (some x1) x5 z4)) PX x3  z2)))
def wX1_read (G : gE) (P : Int32 → hSt → Prop) (PX : Nat → Nat → hSt → Prop) (v0 : Option Nat) (z : hSt) : Prop := wX1_readb0 G P PX v0 z
section
variable {p : Program} {l : Launch} {e : Env} {s : State} {m : MethodId} {args : Array Value} {below : List Frame} {meth : Method} {c : Code} {G : gE} {mc ms : Nat} {P : Int32 → hSt → Prop} {PX : Nat → Nat → hSt → Prop}
theorem kX1_readb101 (C : xC G p l s m args meth c cX1_read 6 "ExcuseLedger") (hr : meth.sig.returnType = (Option.some Jvm.ClassFile.FieldType.int)) (hin : meth.name = "read") (hT : c.exceptionTable.toList = tableOf [((23 : Nat), (86 : Nat), (87 : Nat), (399 : Nat)), ((23 : Nat), (86 : Nat), (101 : Nat), (29 : Nat))]) (hmc : mc = gL G - s.heap.size ∧ ms = gU G - hsum s.heap)   {v0 : Option Nat} {s0 : Option Nat} {z : hSt} (hw : wX1_readb101 G P PX  v0 s0 z) : kt G p l e (rmX1_read mc ms) s m args below meth c 6 (vx_MQ below (cQ G (pI P)) (cX G PX) args s mc ms (gF G)) 101 [(0, va_rf v0)] [va_rf s0] z := by
  intro H locs ls hS hl
  refine r_astore_n C.1 C.2.1 dX1_read_101 rfl hl (Nat.le_of_ble_eq_true rfl) (ls_new (ls_old 0 rfl rfl (.inl rfl) ls_nil)) (fun ls hl => ?_)
  refine r_aload_n C.1 C.2.1 dX1_read_102 rfl (lv_at hl 1 rfl) ?_
  refine r_aload_n C.1 C.2.1 dX1_read_103 rfl (lv_at hl 0 rfl) ?_
  refine c_V C hS hmc hl.1 (ci := 0) rfl hw.1 (kX1_kept C.2.2.2.2.2.2.1) hw.2 (lw_V q2256 q2258 qs13 q67 q2259) ⟨rfl, hdX1_kept⟩ ⟨Nat.le_of_ble_eq_true rfl, Nat.le_of_ble_eq_true rfl⟩ (rest := []) rfl rfl (Nat.le_of_ble_eq_true rfl) dX1_read_104 (fun ci q z H locs hx hS ht => r_out C hS hmc (by rw [hT]; decide) ht hx) (fun v z54 H locs hv hS => ?_)
  obtain ⟨x55, rfl, hw⟩ := hv
  exact r_athrow C hS (by decide) dX1_read_107 hw.1 (fun q hq ht => r_out C hS hmc (by rw [hT]; decide) ht (hw.2 q hq))
theorem kX1_readb87 (C : xC G p l s m args meth c cX1_read 6 "ExcuseLedger") (hr : meth.sig.returnType = (Option.some Jvm.ClassFile.FieldType.int)) (hin : meth.name = "read") (hT : c.exceptionTable.toList = tableOf [((23 : Nat), (86 : Nat), (87 : Nat), (399 : Nat)), ((23 : Nat), (86 : Nat), (101 : Nat), (29 : Nat))]) (hmc : mc = gL G - s.heap.size ∧ ms = gU G - hsum s.heap)   {v0 : Option Nat} {s0 : Option Nat} {z : hSt} (hw : wX1_readb87 G P PX  v0 s0 z) : kt G p l e (rmX1_read mc ms) s m args below meth c 6 (vx_MQ below (cQ G (pI P)) (cX G PX) args s mc ms (gF G)) 87 [(0, va_rf v0)] [va_rf s0] z := by
  intro H locs ls hS hl
  refine r_astore_n C.1 C.2.1 dX1_read_87 rfl hl (Nat.le_of_ble_eq_true rfl) (ls_new (ls_old 0 rfl rfl (.inl rfl) ls_nil)) (fun ls hl => ?_)
  refine r_aload_n C.1 C.2.1 dX1_read_88 rfl (lv_at hl 1 rfl) ?_
  refine r_aload_n C.1 C.2.1 dX1_read_89 rfl (lv_at hl 0 rfl) ?_
  refine r_put C hS fo_0_5 (fl_d C q394) (fun _ h => h) (narrow_rfO _ _) (fits_rfO _ _) dX1_read_90 hw (fun z51 H locs hw hS => ?_)
  refine r_make C hS hl.1 (ci := 29) (cls := "java/lang/IllegalArgumentException") (names := ["java/lang/RuntimeException", "java/lang/Exception"]) rfl (by decide +kernel) (by decide +kernel) q2405 q89 xa29_13 xa29_13g hmc dX1_read_93 dX1_read_96 dX1_read_97 (Nat.le_of_ble_eq_true rfl) (Nat.le_of_ble_eq_true rfl) (Nat.le_of_ble_eq_true rfl) hw (fun x52 z53 H locs hw hS => ?_)
  exact r_athrow C hS (by decide) dX1_read_100 hw.1 (fun q hq ht => r_out C hS hmc (by rw [hT]; decide) ht (hw.2 q hq))
theorem kX1_readb43 (C : xC G p l s m args meth c cX1_read 6 "ExcuseLedger") (hr : meth.sig.returnType = (Option.some Jvm.ClassFile.FieldType.int)) (hin : meth.name = "read") (hT : c.exceptionTable.toList = tableOf [((23 : Nat), (86 : Nat), (87 : Nat), (399 : Nat)), ((23 : Nat), (86 : Nat), (101 : Nat), (29 : Nat))]) (hmc : mc = gL G - s.heap.size ∧ ms = gU G - hsum s.heap) {K43 : (Option Nat × Option Nat × Option Nat × Option Nat × hSt) → Prop} (hK43 : ∀ y : (Option Nat × Option Nat × Option Nat × Option Nat × hSt), K43 y → kt G p l e (rmX1_read mc ms) s m args below meth c 6 (vx_MQ below (cQ G (pI P)) (cX G PX) args s mc ms (gF G)) 43 [(0, va_rf (y.1)), (1, va_rf (y.2.1)), (2, va_rf (y.2.2.1)), (3, va_rf (y.2.2.2.1))] [] (y.2.2.2.2)) {v0 : Option Nat} {v1 : Option Nat} {v2 : Option Nat} {v3 : Option Nat} {z : hSt} (hw : wX1_readb43 G P PX K43 v0 v1 v2 v3 z) : kt G p l e (rmX1_read mc ms) s m args below meth c 6 (vx_MQ below (cQ G (pI P)) (cX G PX) args s mc ms (gF G)) 43 [(0, va_rf v0), (1, va_rf v1), (2, va_rf v2), (3, va_rf v3)] [] z := by
  intro H locs ls hS hl
  refine r_aload_n C.1 C.2.1 dX1_read_43 rfl (lv_at hl 3 rfl) ?_
  refine c_F C hS hmc hl.1 (ci := 19) rfl hw.1 (kJ19_hasNext C.2.2.2.2.2.2.1) hw.2 q2766 q675 q677 q93 q679 (face_w C q673 q672 q678 q676 q674 (by decide) (by decide)) ⟨by decide, by decide⟩ hdJ19_hasNext.2.2 ⟨Nat.le_of_ble_eq_true rfl, Nat.le_of_ble_eq_true rfl⟩ (rest := []) rfl rfl (Nat.le_of_ble_eq_true rfl) dX1_read_44 (fun c27 e26 z25 H locs hx hS ht => ?_) (fun v z28 H locs hv hS => ?_)
  · rcases hx with ⟨rfl, hw⟩ | ⟨rfl, hw⟩ | ⟨h9, hx⟩
    · refine r_catch C [(⟨23, 86, 87, 399⟩ : ExceptionTableEntry)] (⟨23, 86, 101, 29⟩ : ExceptionTableEntry) [] (by rw [hT]; rfl) (ci := 8) rfl (List.forall_mem_cons.mpr ⟨Or.inr ⟨by decide, _, q2853, by decide +kernel⟩, fun _ h => absurd h List.not_mem_nil⟩) (by decide) (by decide) q442 q2025 ht ?_
      exact kX1_readb101 C hr hin hT hmc  hw H locs ls hS (lv_sub hl [0] rfl)
    · refine r_catch C [] (⟨23, 86, 87, 399⟩ : ExceptionTableEntry) [(⟨23, 86, 101, 29⟩ : ExceptionTableEntry)] (by rw [hT]; rfl) (ci := 11) rfl (fun _ h => absurd h List.not_mem_nil) (by decide) (by decide) q2853 q3017 ht ?_
      exact kX1_readb87 C hr hin hT hmc  hw H locs ls hS (lv_sub hl [0] rfl)
    · simp only [List.mem_cons, List.not_mem_nil, or_false] at h9
      rcases h9 with rfl | rfl | rfl | rfl | rfl | rfl
      · exact r_pass C hS hmc rfl (by rw [hT]; exact List.forall_mem_cons.mpr ⟨Or.inr ⟨by decide, _, q2853, by decide +kernel⟩, List.forall_mem_cons.mpr ⟨Or.inr ⟨by decide, _, q442, by decide +kernel⟩, fun _ h => absurd h List.not_mem_nil⟩⟩) ht hx
      · exact r_pass C hS hmc rfl (by rw [hT]; exact List.forall_mem_cons.mpr ⟨Or.inr ⟨by decide, _, q2853, by decide +kernel⟩, List.forall_mem_cons.mpr ⟨Or.inr ⟨by decide, _, q442, by decide +kernel⟩, fun _ h => absurd h List.not_mem_nil⟩⟩) ht hx
      · exact r_pass C hS hmc rfl (by rw [hT]; exact List.forall_mem_cons.mpr ⟨Or.inr ⟨by decide, _, q2853, by decide +kernel⟩, List.forall_mem_cons.mpr ⟨Or.inr ⟨by decide, _, q442, by decide +kernel⟩, fun _ h => absurd h List.not_mem_nil⟩⟩) ht hx
      · exact r_pass C hS hmc rfl (by rw [hT]; exact List.forall_mem_cons.mpr ⟨Or.inr ⟨by decide, _, q2853, by decide +kernel⟩, List.forall_mem_cons.mpr ⟨Or.inr ⟨by decide, _, q442, by decide +kernel⟩, fun _ h => absurd h List.not_mem_nil⟩⟩) ht hx
      · exact r_pass C hS hmc rfl (by rw [hT]; exact List.forall_mem_cons.mpr ⟨Or.inr ⟨by decide, _, q2853, by decide +kernel⟩, List.forall_mem_cons.mpr ⟨Or.inr ⟨by decide, _, q442, by decide +kernel⟩, fun _ h => absurd h List.not_mem_nil⟩⟩) ht hx
      · exact r_pass C hS hmc rfl (by rw [hT]; exact List.forall_mem_cons.mpr ⟨Or.inr ⟨by decide, _, q2853, by decide +kernel⟩, List.forall_mem_cons.mpr ⟨Or.inr ⟨by decide, _, q442, by decide +kernel⟩, fun _ h => absurd h List.not_mem_nil⟩⟩) ht hx
  · obtain ⟨x29, rfl, hw⟩ := hv
    refine lv_if_eq C.1 C.2.1 dX1_read_49 rfl (fun h => ?_) (fun h => ?_)
    · have hw := hw.1 h
      refine r_aload_n C.1 C.2.1 dX1_read_74 rfl (lv_at hl 0 rfl) ?_
      refine r_aload_n C.1 C.2.1 dX1_read_75 rfl (lv_at hl 2 rfl) ?_
      refine r_aload_n C.1 C.2.1 dX1_read_76 rfl (lv_at hl 1 rfl) ?_
      refine r_getR C hS fo_10_1 (fl_n C q2865) (fun _ h => h) dX1_read_77 hw (fun x30 hw => ?_)
      refine c_V C hS hmc hl.1 (ci := 15) rfl hw.1 (kJ7_size C.2.2.2.2.2.2.1) hw.2 (lw_V q2236 q2237 q2238 q78 q2239) ⟨rfl, hdJ7_size⟩ ⟨Nat.le_of_ble_eq_true rfl, Nat.le_of_ble_eq_true rfl⟩ (rest := [va_rf v2, va_rf v0]) rfl rfl (Nat.le_of_ble_eq_true rfl) dX1_read_80 (fun c33 e32 z31 H locs hx hS ht => ?_) (fun v z34 H locs hv hS => ?_)
      · rcases hx with ⟨rfl, hw⟩ | ⟨rfl, hw⟩ | ⟨h9, hx⟩
        · refine r_catch C [(⟨23, 86, 87, 399⟩ : ExceptionTableEntry)] (⟨23, 86, 101, 29⟩ : ExceptionTableEntry) [] (by rw [hT]; rfl) (ci := 8) rfl (List.forall_mem_cons.mpr ⟨Or.inr ⟨by decide, _, q2853, by decide +kernel⟩, fun _ h => absurd h List.not_mem_nil⟩) (by decide) (by decide) q442 q2025 ht ?_
          exact kX1_readb101 C hr hin hT hmc  hw H locs ls hS (lv_sub hl [0] rfl)
        · refine r_catch C [] (⟨23, 86, 87, 399⟩ : ExceptionTableEntry) [(⟨23, 86, 101, 29⟩ : ExceptionTableEntry)] (by rw [hT]; rfl) (ci := 11) rfl (fun _ h => absurd h List.not_mem_nil) (by decide) (by decide) q2853 q3017 ht ?_
          exact kX1_readb87 C hr hin hT hmc  hw H locs ls hS (lv_sub hl [0] rfl)
        · simp only [List.mem_cons, List.not_mem_nil, or_false] at h9
          rcases h9 with rfl | rfl | rfl | rfl | rfl | rfl
          · exact r_pass C hS hmc rfl (by rw [hT]; exact List.forall_mem_cons.mpr ⟨Or.inr ⟨by decide, _, q2853, by decide +kernel⟩, List.forall_mem_cons.mpr ⟨Or.inr ⟨by decide, _, q442, by decide +kernel⟩, fun _ h => absurd h List.not_mem_nil⟩⟩) ht hx
          · exact r_pass C hS hmc rfl (by rw [hT]; exact List.forall_mem_cons.mpr ⟨Or.inr ⟨by decide, _, q2853, by decide +kernel⟩, List.forall_mem_cons.mpr ⟨Or.inr ⟨by decide, _, q442, by decide +kernel⟩, fun _ h => absurd h List.not_mem_nil⟩⟩) ht hx
          · exact r_pass C hS hmc rfl (by rw [hT]; exact List.forall_mem_cons.mpr ⟨Or.inr ⟨by decide, _, q2853, by decide +kernel⟩, List.forall_mem_cons.mpr ⟨Or.inr ⟨by decide, _, q442, by decide +kernel⟩, fun _ h => absurd h List.not_mem_nil⟩⟩) ht hx
          · exact r_pass C hS hmc rfl (by rw [hT]; exact List.forall_mem_cons.mpr ⟨Or.inr ⟨by decide, _, q2853, by decide +kernel⟩, List.forall_mem_cons.mpr ⟨Or.inr ⟨by decide, _, q442, by decide +kernel⟩, fun _ h => absurd h List.not_mem_nil⟩⟩) ht hx
          · exact r_pass C hS hmc rfl (by rw [hT]; exact List.forall_mem_cons.mpr ⟨Or.inr ⟨by decide, _, q2853, by decide +kernel⟩, List.forall_mem_cons.mpr ⟨Or.inr ⟨by decide, _, q442, by decide +kernel⟩, fun _ h => absurd h List.not_mem_nil⟩⟩) ht hx
          · exact r_pass C hS hmc rfl (by rw [hT]; exact List.forall_mem_cons.mpr ⟨Or.inr ⟨by decide, _, q2853, by decide +kernel⟩, List.forall_mem_cons.mpr ⟨Or.inr ⟨by decide, _, q442, by decide +kernel⟩, fun _ h => absurd h List.not_mem_nil⟩⟩) ht hx
      · obtain ⟨x35, rfl, hw⟩ := hv
        refine c_V C hS hmc hl.1 (ci := 0) rfl hw.1 (kX1_become C.2.2.2.2.2.2.1) hw.2 (lw_V q2232 q2234 qs11 q67 q2235) ⟨rfl, hdX1_become⟩ ⟨Nat.le_of_ble_eq_true rfl, Nat.le_of_ble_eq_true rfl⟩ (rest := []) rfl rfl (Nat.le_of_ble_eq_true rfl) dX1_read_83 (fun c38 e37 z36 H locs hx hS ht => ?_) (fun v z39 H locs hv hS => ?_)
        · rcases hx with ⟨rfl, hw⟩ | ⟨rfl, hw⟩ | ⟨h9, hx⟩
          · refine r_catch C [(⟨23, 86, 87, 399⟩ : ExceptionTableEntry)] (⟨23, 86, 101, 29⟩ : ExceptionTableEntry) [] (by rw [hT]; rfl) (ci := 8) rfl (List.forall_mem_cons.mpr ⟨Or.inr ⟨by decide, _, q2853, by decide +kernel⟩, fun _ h => absurd h List.not_mem_nil⟩) (by decide) (by decide) q442 q2025 ht ?_
            exact kX1_readb101 C hr hin hT hmc  hw H locs ls hS (lv_sub hl [0] rfl)
          · refine r_catch C [] (⟨23, 86, 87, 399⟩ : ExceptionTableEntry) [(⟨23, 86, 101, 29⟩ : ExceptionTableEntry)] (by rw [hT]; rfl) (ci := 11) rfl (fun _ h => absurd h List.not_mem_nil) (by decide) (by decide) q2853 q3017 ht ?_
            exact kX1_readb87 C hr hin hT hmc  hw H locs ls hS (lv_sub hl [0] rfl)
          · simp only [List.mem_cons, List.not_mem_nil, or_false] at h9
            rcases h9 with rfl | rfl | rfl | rfl | rfl | rfl
            · exact r_pass C hS hmc rfl (by rw [hT]; exact List.forall_mem_cons.mpr ⟨Or.inr ⟨by decide, _, q2853, by decide +kernel⟩, List.forall_mem_cons.mpr ⟨Or.inr ⟨by decide, _, q442, by decide +kernel⟩, fun _ h => absurd h List.not_mem_nil⟩⟩) ht hx
            · exact r_pass C hS hmc rfl (by rw [hT]; exact List.forall_mem_cons.mpr ⟨Or.inr ⟨by decide, _, q2853, by decide +kernel⟩, List.forall_mem_cons.mpr ⟨Or.inr ⟨by decide, _, q442, by decide +kernel⟩, fun _ h => absurd h List.not_mem_nil⟩⟩) ht hx
            · exact r_pass C hS hmc rfl (by rw [hT]; exact List.forall_mem_cons.mpr ⟨Or.inr ⟨by decide, _, q2853, by decide +kernel⟩, List.forall_mem_cons.mpr ⟨Or.inr ⟨by decide, _, q442, by decide +kernel⟩, fun _ h => absurd h List.not_mem_nil⟩⟩) ht hx
            · exact r_pass C hS hmc rfl (by rw [hT]; exact List.forall_mem_cons.mpr ⟨Or.inr ⟨by decide, _, q2853, by decide +kernel⟩, List.forall_mem_cons.mpr ⟨Or.inr ⟨by decide, _, q442, by decide +kernel⟩, fun _ h => absurd h List.not_mem_nil⟩⟩) ht hx
            · exact r_pass C hS hmc rfl (by rw [hT]; exact List.forall_mem_cons.mpr ⟨Or.inr ⟨by decide, _, q2853, by decide +kernel⟩, List.forall_mem_cons.mpr ⟨Or.inr ⟨by decide, _, q442, by decide +kernel⟩, fun _ h => absurd h List.not_mem_nil⟩⟩) ht hx
            · exact r_pass C hS hmc rfl (by rw [hT]; exact List.forall_mem_cons.mpr ⟨Or.inr ⟨by decide, _, q2853, by decide +kernel⟩, List.forall_mem_cons.mpr ⟨Or.inr ⟨by decide, _, q442, by decide +kernel⟩, fun _ h => absurd h List.not_mem_nil⟩⟩) ht hx
        · obtain ⟨x40, rfl, hw⟩ := hv
          exact r_iret C hS hmc hr dX1_read_86 hw
    · have hw := hw.2 h
      refine r_aload_n C.1 C.2.1 dX1_read_52 rfl (lv_at hl 3 rfl) ?_
      refine c_F C hS hmc hl.1 (ci := 19) rfl hw.1 (kJ19_next C.2.2.2.2.2.2.1) hw.2 q2768 q705 q707 q93 q709 (face_w C q704 q703 q708 q706 q674 (by decide) (by decide)) ⟨by decide, by decide⟩ hdJ19_next.2.2 ⟨Nat.le_of_ble_eq_true rfl, Nat.le_of_ble_eq_true rfl⟩ (rest := []) rfl rfl (Nat.le_of_ble_eq_true rfl) dX1_read_53 (fun c43 e42 z41 H locs hx hS ht => ?_) (fun v z44 H locs hv hS => ?_)
      · rcases hx with ⟨rfl, hw⟩ | ⟨rfl, hw⟩ | ⟨h9, hx⟩
        · refine r_catch C [(⟨23, 86, 87, 399⟩ : ExceptionTableEntry)] (⟨23, 86, 101, 29⟩ : ExceptionTableEntry) [] (by rw [hT]; rfl) (ci := 8) rfl (List.forall_mem_cons.mpr ⟨Or.inr ⟨by decide, _, q2853, by decide +kernel⟩, fun _ h => absurd h List.not_mem_nil⟩) (by decide) (by decide) q442 q2025 ht ?_
          exact kX1_readb101 C hr hin hT hmc  hw H locs ls hS (lv_sub hl [0] rfl)
        · refine r_catch C [] (⟨23, 86, 87, 399⟩ : ExceptionTableEntry) [(⟨23, 86, 101, 29⟩ : ExceptionTableEntry)] (by rw [hT]; rfl) (ci := 11) rfl (fun _ h => absurd h List.not_mem_nil) (by decide) (by decide) q2853 q3017 ht ?_
          exact kX1_readb87 C hr hin hT hmc  hw H locs ls hS (lv_sub hl [0] rfl)
        · simp only [List.mem_cons, List.not_mem_nil, or_false] at h9
          rcases h9 with rfl | rfl | rfl | rfl | rfl | rfl
          · exact r_pass C hS hmc rfl (by rw [hT]; exact List.forall_mem_cons.mpr ⟨Or.inr ⟨by decide, _, q2853, by decide +kernel⟩, List.forall_mem_cons.mpr ⟨Or.inr ⟨by decide, _, q442, by decide +kernel⟩, fun _ h => absurd h List.not_mem_nil⟩⟩) ht hx
          · exact r_pass C hS hmc rfl (by rw [hT]; exact List.forall_mem_cons.mpr ⟨Or.inr ⟨by decide, _, q2853, by decide +kernel⟩, List.forall_mem_cons.mpr ⟨Or.inr ⟨by decide, _, q442, by decide +kernel⟩, fun _ h => absurd h List.not_mem_nil⟩⟩) ht hx
          · exact r_pass C hS hmc rfl (by rw [hT]; exact List.forall_mem_cons.mpr ⟨Or.inr ⟨by decide, _, q2853, by decide +kernel⟩, List.forall_mem_cons.mpr ⟨Or.inr ⟨by decide, _, q442, by decide +kernel⟩, fun _ h => absurd h List.not_mem_nil⟩⟩) ht hx
          · exact r_pass C hS hmc rfl (by rw [hT]; exact List.forall_mem_cons.mpr ⟨Or.inr ⟨by decide, _, q2853, by decide +kernel⟩, List.forall_mem_cons.mpr ⟨Or.inr ⟨by decide, _, q442, by decide +kernel⟩, fun _ h => absurd h List.not_mem_nil⟩⟩) ht hx
          · exact r_pass C hS hmc rfl (by rw [hT]; exact List.forall_mem_cons.mpr ⟨Or.inr ⟨by decide, _, q2853, by decide +kernel⟩, List.forall_mem_cons.mpr ⟨Or.inr ⟨by decide, _, q442, by decide +kernel⟩, fun _ h => absurd h List.not_mem_nil⟩⟩) ht hx
          · exact r_pass C hS hmc rfl (by rw [hT]; exact List.forall_mem_cons.mpr ⟨Or.inr ⟨by decide, _, q2853, by decide +kernel⟩, List.forall_mem_cons.mpr ⟨Or.inr ⟨by decide, _, q442, by decide +kernel⟩, fun _ h => absurd h List.not_mem_nil⟩⟩) ht hx
      · obtain ⟨x45, rfl, hw⟩ := hv
        refine r_cast0 C hS q419 ca_9 dX1_read_58 hw.1 ?_
        have hw := hw.2
        refine r_astore C.1 C.2.1 dX1_read_61 hl (Nat.le_of_ble_eq_true rfl) (ls_new (ls_old 0 rfl rfl (.inl rfl) (ls_old 1 rfl rfl (.inl rfl) (ls_old 2 rfl rfl (.inl rfl) (ls_old 3 rfl rfl (.inr (va_rf_cat _)) ls_nil))))) (fun ls hl => ?_)
        refine r_aload C.1 C.2.1 dX1_read_63 (lv_at hl 0 rfl) ?_
        refine r_aload_n C.1 C.2.1 dX1_read_65 rfl (lv_at hl 3 rfl) ?_
        refine c_V C hS hmc hl.1 (ci := 6) rfl hw.1 (kX7_in C.2.2.2.2.2.2.1) hw.2 (lw_V q1962 q1963 q1964 q91 q1965) ⟨rfl, hdX7_in⟩ ⟨Nat.le_of_ble_eq_true rfl, Nat.le_of_ble_eq_true rfl⟩ (rest := []) rfl rfl (Nat.le_of_ble_eq_true rfl) dX1_read_66 (fun c48 e47 z46 H locs hx hS ht => ?_) (fun v z49 H locs hv hS => ?_)
        · rcases hx with ⟨rfl, hw⟩ | ⟨rfl, hw⟩ | ⟨h9, hx⟩
          · refine r_catch C [(⟨23, 86, 87, 399⟩ : ExceptionTableEntry)] (⟨23, 86, 101, 29⟩ : ExceptionTableEntry) [] (by rw [hT]; rfl) (ci := 8) rfl (List.forall_mem_cons.mpr ⟨Or.inr ⟨by decide, _, q2853, by decide +kernel⟩, fun _ h => absurd h List.not_mem_nil⟩) (by decide) (by decide) q442 q2025 ht ?_
            exact kX1_readb101 C hr hin hT hmc  hw H locs ls hS (lv_sub hl [1] rfl)
          · refine r_catch C [] (⟨23, 86, 87, 399⟩ : ExceptionTableEntry) [(⟨23, 86, 101, 29⟩ : ExceptionTableEntry)] (by rw [hT]; rfl) (ci := 11) rfl (fun _ h => absurd h List.not_mem_nil) (by decide) (by decide) q2853 q3017 ht ?_
            exact kX1_readb87 C hr hin hT hmc  hw H locs ls hS (lv_sub hl [1] rfl)
          · simp only [List.mem_cons, List.not_mem_nil, or_false] at h9
            rcases h9 with rfl | rfl | rfl | rfl | rfl | rfl
            · exact r_pass C hS hmc rfl (by rw [hT]; exact List.forall_mem_cons.mpr ⟨Or.inr ⟨by decide, _, q2853, by decide +kernel⟩, List.forall_mem_cons.mpr ⟨Or.inr ⟨by decide, _, q442, by decide +kernel⟩, fun _ h => absurd h List.not_mem_nil⟩⟩) ht hx
            · exact r_pass C hS hmc rfl (by rw [hT]; exact List.forall_mem_cons.mpr ⟨Or.inr ⟨by decide, _, q2853, by decide +kernel⟩, List.forall_mem_cons.mpr ⟨Or.inr ⟨by decide, _, q442, by decide +kernel⟩, fun _ h => absurd h List.not_mem_nil⟩⟩) ht hx
            · exact r_pass C hS hmc rfl (by rw [hT]; exact List.forall_mem_cons.mpr ⟨Or.inr ⟨by decide, _, q2853, by decide +kernel⟩, List.forall_mem_cons.mpr ⟨Or.inr ⟨by decide, _, q442, by decide +kernel⟩, fun _ h => absurd h List.not_mem_nil⟩⟩) ht hx
            · exact r_pass C hS hmc rfl (by rw [hT]; exact List.forall_mem_cons.mpr ⟨Or.inr ⟨by decide, _, q2853, by decide +kernel⟩, List.forall_mem_cons.mpr ⟨Or.inr ⟨by decide, _, q442, by decide +kernel⟩, fun _ h => absurd h List.not_mem_nil⟩⟩) ht hx
            · exact r_pass C hS hmc rfl (by rw [hT]; exact List.forall_mem_cons.mpr ⟨Or.inr ⟨by decide, _, q2853, by decide +kernel⟩, List.forall_mem_cons.mpr ⟨Or.inr ⟨by decide, _, q442, by decide +kernel⟩, fun _ h => absurd h List.not_mem_nil⟩⟩) ht hx
            · exact r_pass C hS hmc rfl (by rw [hT]; exact List.forall_mem_cons.mpr ⟨Or.inr ⟨by decide, _, q2853, by decide +kernel⟩, List.forall_mem_cons.mpr ⟨Or.inr ⟨by decide, _, q442, by decide +kernel⟩, fun _ h => absurd h List.not_mem_nil⟩⟩) ht hx
        · obtain ⟨x50, rfl, hw⟩ := hv
          refine r_istore C.1 C.2.1 dX1_read_69 hl (Nat.le_of_ble_eq_true rfl) (ls_new (ls_old 1 rfl rfl (.inl rfl) (ls_old 2 rfl rfl (.inl rfl) (ls_old 3 rfl rfl (.inl rfl) (ls_old 4 rfl rfl (.inl rfl) ls_nil))))) (fun ls hl => ?_)
          refine lv_goto C.1 C.2.1 dX1_read_71 rfl ?_
          exact hK43 _ hw H locs ls hS (lv_sub hl [1, 2, 3, 4] rfl)
theorem kX1_readb0 (C : xC G p l s m args meth c cX1_read 6 "ExcuseLedger") (hr : meth.sig.returnType = (Option.some Jvm.ClassFile.FieldType.int)) (hin : meth.name = "read") (hT : c.exceptionTable.toList = tableOf [((23 : Nat), (86 : Nat), (87 : Nat), (399 : Nat)), ((23 : Nat), (86 : Nat), (101 : Nat), (29 : Nat))]) (hmc : mc = gL G - s.heap.size ∧ ms = gU G - hsum s.heap)   {v0 : Option Nat} {z : hSt} (hw : wX1_readb0 G P PX  v0 z) : kt G p l e (rmX1_read mc ms) s m args below meth c 6 (vx_MQ below (cQ G (pI P)) (cX G PX) args s mc ms (gF G)) 0 [(0, va_rf v0)] [] z := by
  intro H locs ls hS hl
  refine r_new C hS (ci := 10) rfl in_X11 tyX11_ok q2854 q2855 q130 rfl dfX11_ok hmc dX1_read_0 hw (fun x1 z2 H locs hw hS => ?_)
  refine lv_dup C.1 C.2.1 dX1_read_3 (va_rf_cat _) ?_
  refine r_aload_n C.1 C.2.1 dX1_read_4 rfl (lv_at hl 0 rfl) ?_
  refine r_getR C hS fo_0_3 (fl_d C q392) (fun _ h => h) dX1_read_5 hw (fun x3 hw => ?_)
  refine c_V C hS hmc hl.1 (ci := 16) rfl hw.1 (kJ9_toString C.2.2.2.2.2.2.1) hw.2 (lw_V q2856 q1145 q1146 q80 q1147) ⟨rfl, hdJ9_toString⟩ ⟨Nat.le_of_ble_eq_true rfl, Nat.le_of_ble_eq_true rfl⟩ (rest := [va_rf (some x1), va_rf (some x1)]) rfl rfl (Nat.le_of_ble_eq_true rfl) dX1_read_8 (fun ci q z H locs hx hS ht => r_out C hS hmc (by rw [hT]; decide) ht hx) (fun v z4 H locs hv hS => ?_)
  obtain ⟨x5, rfl, hw⟩ := hv
  refine c_I C hS hmc hl.1 hw.1 (kX11_init C.2.2.2.2.2.2.1) hw.2 (lw_meth q2859) q130 q2857 q2858 rfl hdX11_init ⟨Nat.le_of_ble_eq_true rfl, Nat.le_of_ble_eq_true rfl⟩ (rest := [va_rf (some x1)]) rfl rfl (Nat.le_of_ble_eq_true rfl) dX1_read_11 (fun ci q z H locs hx hS ht => r_out C hS hmc (by rw [hT]; decide) ht hx) (fun v z6 H locs hv hS => ?_)
  obtain ⟨rfl, hw⟩ := hv
  refine r_astore_n C.1 C.2.1 dX1_read_14 rfl hl (Nat.le_of_ble_eq_true rfl) (ls_new (ls_old 0 rfl rfl (.inr (va_rf_cat _)) ls_nil)) (fun ls hl => ?_)
  refine r_aload_n C.1 C.2.1 dX1_read_15 rfl (lv_at hl 1 rfl) ?_
  refine r_getR C hS fo_0_3 (fl_d C q392) (fun _ h => h) dX1_read_16 hw (fun x7 hw => ?_)
  refine lv_iconst C.1 C.2.1 (v := 0) dX1_read_19 rfl ?_
  refine c_V C hS hmc hl.1 (ci := 16) rfl hw.1 (kJ9_setLength C.2.2.2.2.2.2.1) hw.2 (lw_V q2874 q2875 q2876 q80 q2877) ⟨rfl, hdJ9_setLength⟩ ⟨Nat.le_of_ble_eq_true rfl, Nat.le_of_ble_eq_true rfl⟩ (rest := []) rfl rfl (Nat.le_of_ble_eq_true rfl) dX1_read_20 (fun ci q z H locs hx hS ht => r_out C hS hmc (by rw [hT]; decide) ht hx) (fun v z8 H locs hv hS => ?_)
  obtain ⟨rfl, hw⟩ := hv
  refine r_aload_n C.1 C.2.1 dX1_read_23 rfl (lv_at hl 0 rfl) ?_
  refine c_V C hS hmc hl.1 (ci := 10) rfl hw.1 (kX11_all C.2.2.2.2.2.2.1) hw.2 (lw_V q2926 q2927 q2928 q130 q2929) ⟨rfl, hdX11_all⟩ ⟨Nat.le_of_ble_eq_true rfl, Nat.le_of_ble_eq_true rfl⟩ (rest := []) rfl rfl (Nat.le_of_ble_eq_true rfl) dX1_read_24 (fun c11 e10 z9 H locs hx hS ht => ?_) (fun v z12 H locs hv hS => ?_)
  · rcases hx with ⟨rfl, hw⟩ | ⟨rfl, hw⟩ | ⟨h9, hx⟩
    · refine r_catch C [(⟨23, 86, 87, 399⟩ : ExceptionTableEntry)] (⟨23, 86, 101, 29⟩ : ExceptionTableEntry) [] (by rw [hT]; rfl) (ci := 8) rfl (List.forall_mem_cons.mpr ⟨Or.inr ⟨by decide, _, q2853, by decide +kernel⟩, fun _ h => absurd h List.not_mem_nil⟩) (by decide) (by decide) q442 q2025 ht ?_
      exact kX1_readb101 C hr hin hT hmc  hw H locs ls hS (lv_sub hl [1] rfl)
    · refine r_catch C [] (⟨23, 86, 87, 399⟩ : ExceptionTableEntry) [(⟨23, 86, 101, 29⟩ : ExceptionTableEntry)] (by rw [hT]; rfl) (ci := 11) rfl (fun _ h => absurd h List.not_mem_nil) (by decide) (by decide) q2853 q3017 ht ?_
      exact kX1_readb87 C hr hin hT hmc  hw H locs ls hS (lv_sub hl [1] rfl)
    · simp only [List.mem_cons, List.not_mem_nil, or_false] at h9
      rcases h9 with rfl | rfl | rfl | rfl | rfl | rfl
      · exact r_pass C hS hmc rfl (by rw [hT]; exact List.forall_mem_cons.mpr ⟨Or.inr ⟨by decide, _, q2853, by decide +kernel⟩, List.forall_mem_cons.mpr ⟨Or.inr ⟨by decide, _, q442, by decide +kernel⟩, fun _ h => absurd h List.not_mem_nil⟩⟩) ht hx
      · exact r_pass C hS hmc rfl (by rw [hT]; exact List.forall_mem_cons.mpr ⟨Or.inr ⟨by decide, _, q2853, by decide +kernel⟩, List.forall_mem_cons.mpr ⟨Or.inr ⟨by decide, _, q442, by decide +kernel⟩, fun _ h => absurd h List.not_mem_nil⟩⟩) ht hx
      · exact r_pass C hS hmc rfl (by rw [hT]; exact List.forall_mem_cons.mpr ⟨Or.inr ⟨by decide, _, q2853, by decide +kernel⟩, List.forall_mem_cons.mpr ⟨Or.inr ⟨by decide, _, q442, by decide +kernel⟩, fun _ h => absurd h List.not_mem_nil⟩⟩) ht hx
      · exact r_pass C hS hmc rfl (by rw [hT]; exact List.forall_mem_cons.mpr ⟨Or.inr ⟨by decide, _, q2853, by decide +kernel⟩, List.forall_mem_cons.mpr ⟨Or.inr ⟨by decide, _, q442, by decide +kernel⟩, fun _ h => absurd h List.not_mem_nil⟩⟩) ht hx
      · exact r_pass C hS hmc rfl (by rw [hT]; exact List.forall_mem_cons.mpr ⟨Or.inr ⟨by decide, _, q2853, by decide +kernel⟩, List.forall_mem_cons.mpr ⟨Or.inr ⟨by decide, _, q442, by decide +kernel⟩, fun _ h => absurd h List.not_mem_nil⟩⟩) ht hx
      · exact r_pass C hS hmc rfl (by rw [hT]; exact List.forall_mem_cons.mpr ⟨Or.inr ⟨by decide, _, q2853, by decide +kernel⟩, List.forall_mem_cons.mpr ⟨Or.inr ⟨by decide, _, q442, by decide +kernel⟩, fun _ h => absurd h List.not_mem_nil⟩⟩) ht hx
  · obtain ⟨rfl, hw⟩ := hv
    refine r_aload_n C.1 C.2.1 dX1_read_27 rfl (lv_at hl 1 rfl) ?_
    refine r_getR C hS fo_0_0 (fl_d C q389) (fun _ h => h) dX1_read_28 hw (fun x13 hw => ?_)
    refine c_V C hS hmc hl.1 (ci := 1) rfl hw.1 (kX2_copy C.2.2.2.2.2.2.1) hw.2 (lw_V q443 q444 q445 q68 q446) ⟨rfl, hdX2_copy⟩ ⟨Nat.le_of_ble_eq_true rfl, Nat.le_of_ble_eq_true rfl⟩ (rest := []) rfl rfl (Nat.le_of_ble_eq_true rfl) dX1_read_31 (fun c16 e15 z14 H locs hx hS ht => ?_) (fun v z17 H locs hv hS => ?_)
    · rcases hx with ⟨rfl, hw⟩ | ⟨rfl, hw⟩ | ⟨h9, hx⟩
      · refine r_catch C [(⟨23, 86, 87, 399⟩ : ExceptionTableEntry)] (⟨23, 86, 101, 29⟩ : ExceptionTableEntry) [] (by rw [hT]; rfl) (ci := 8) rfl (List.forall_mem_cons.mpr ⟨Or.inr ⟨by decide, _, q2853, by decide +kernel⟩, fun _ h => absurd h List.not_mem_nil⟩) (by decide) (by decide) q442 q2025 ht ?_
        exact kX1_readb101 C hr hin hT hmc  hw H locs ls hS (lv_sub hl [1] rfl)
      · refine r_catch C [] (⟨23, 86, 87, 399⟩ : ExceptionTableEntry) [(⟨23, 86, 101, 29⟩ : ExceptionTableEntry)] (by rw [hT]; rfl) (ci := 11) rfl (fun _ h => absurd h List.not_mem_nil) (by decide) (by decide) q2853 q3017 ht ?_
        exact kX1_readb87 C hr hin hT hmc  hw H locs ls hS (lv_sub hl [1] rfl)
      · simp only [List.mem_cons, List.not_mem_nil, or_false] at h9
        rcases h9 with rfl | rfl | rfl | rfl | rfl | rfl
        · exact r_pass C hS hmc rfl (by rw [hT]; exact List.forall_mem_cons.mpr ⟨Or.inr ⟨by decide, _, q2853, by decide +kernel⟩, List.forall_mem_cons.mpr ⟨Or.inr ⟨by decide, _, q442, by decide +kernel⟩, fun _ h => absurd h List.not_mem_nil⟩⟩) ht hx
        · exact r_pass C hS hmc rfl (by rw [hT]; exact List.forall_mem_cons.mpr ⟨Or.inr ⟨by decide, _, q2853, by decide +kernel⟩, List.forall_mem_cons.mpr ⟨Or.inr ⟨by decide, _, q442, by decide +kernel⟩, fun _ h => absurd h List.not_mem_nil⟩⟩) ht hx
        · exact r_pass C hS hmc rfl (by rw [hT]; exact List.forall_mem_cons.mpr ⟨Or.inr ⟨by decide, _, q2853, by decide +kernel⟩, List.forall_mem_cons.mpr ⟨Or.inr ⟨by decide, _, q442, by decide +kernel⟩, fun _ h => absurd h List.not_mem_nil⟩⟩) ht hx
        · exact r_pass C hS hmc rfl (by rw [hT]; exact List.forall_mem_cons.mpr ⟨Or.inr ⟨by decide, _, q2853, by decide +kernel⟩, List.forall_mem_cons.mpr ⟨Or.inr ⟨by decide, _, q442, by decide +kernel⟩, fun _ h => absurd h List.not_mem_nil⟩⟩) ht hx
        · exact r_pass C hS hmc rfl (by rw [hT]; exact List.forall_mem_cons.mpr ⟨Or.inr ⟨by decide, _, q2853, by decide +kernel⟩, List.forall_mem_cons.mpr ⟨Or.inr ⟨by decide, _, q442, by decide +kernel⟩, fun _ h => absurd h List.not_mem_nil⟩⟩) ht hx
        · exact r_pass C hS hmc rfl (by rw [hT]; exact List.forall_mem_cons.mpr ⟨Or.inr ⟨by decide, _, q2853, by decide +kernel⟩, List.forall_mem_cons.mpr ⟨Or.inr ⟨by decide, _, q442, by decide +kernel⟩, fun _ h => absurd h List.not_mem_nil⟩⟩) ht hx
    · obtain ⟨x18, rfl, hw⟩ := hv
      refine r_astore_n C.1 C.2.1 dX1_read_34 rfl hl (Nat.le_of_ble_eq_true rfl) (ls_new (ls_old 0 rfl rfl (.inr (va_rf_cat _)) (ls_old 1 rfl rfl (.inl rfl) ls_nil))) (fun ls hl => ?_)
      refine r_aload_n C.1 C.2.1 dX1_read_35 rfl (lv_at hl 1 rfl) ?_
      refine r_getR C hS fo_10_1 (fl_n C q2865) (fun _ h => h) dX1_read_36 hw (fun x19 hw => ?_)
      refine c_V C hS hmc hl.1 (ci := 15) rfl hw.1 (kJ7_iterator C.2.2.2.2.2.2.1) hw.2 (lw_V q2764 q476 q3541 q78 q478) ⟨rfl, hdJ7_iterator⟩ ⟨Nat.le_of_ble_eq_true rfl, Nat.le_of_ble_eq_true rfl⟩ (rest := []) rfl rfl (Nat.le_of_ble_eq_true rfl) dX1_read_39 (fun c22 e21 z20 H locs hx hS ht => ?_) (fun v z23 H locs hv hS => ?_)
      · rcases hx with ⟨rfl, hw⟩ | ⟨rfl, hw⟩ | ⟨h9, hx⟩
        · refine r_catch C [(⟨23, 86, 87, 399⟩ : ExceptionTableEntry)] (⟨23, 86, 101, 29⟩ : ExceptionTableEntry) [] (by rw [hT]; rfl) (ci := 8) rfl (List.forall_mem_cons.mpr ⟨Or.inr ⟨by decide, _, q2853, by decide +kernel⟩, fun _ h => absurd h List.not_mem_nil⟩) (by decide) (by decide) q442 q2025 ht ?_
          exact kX1_readb101 C hr hin hT hmc  hw H locs ls hS (lv_sub hl [2] rfl)
        · refine r_catch C [] (⟨23, 86, 87, 399⟩ : ExceptionTableEntry) [(⟨23, 86, 101, 29⟩ : ExceptionTableEntry)] (by rw [hT]; rfl) (ci := 11) rfl (fun _ h => absurd h List.not_mem_nil) (by decide) (by decide) q2853 q3017 ht ?_
          exact kX1_readb87 C hr hin hT hmc  hw H locs ls hS (lv_sub hl [2] rfl)
        · simp only [List.mem_cons, List.not_mem_nil, or_false] at h9
          rcases h9 with rfl | rfl | rfl | rfl | rfl | rfl
          · exact r_pass C hS hmc rfl (by rw [hT]; exact List.forall_mem_cons.mpr ⟨Or.inr ⟨by decide, _, q2853, by decide +kernel⟩, List.forall_mem_cons.mpr ⟨Or.inr ⟨by decide, _, q442, by decide +kernel⟩, fun _ h => absurd h List.not_mem_nil⟩⟩) ht hx
          · exact r_pass C hS hmc rfl (by rw [hT]; exact List.forall_mem_cons.mpr ⟨Or.inr ⟨by decide, _, q2853, by decide +kernel⟩, List.forall_mem_cons.mpr ⟨Or.inr ⟨by decide, _, q442, by decide +kernel⟩, fun _ h => absurd h List.not_mem_nil⟩⟩) ht hx
          · exact r_pass C hS hmc rfl (by rw [hT]; exact List.forall_mem_cons.mpr ⟨Or.inr ⟨by decide, _, q2853, by decide +kernel⟩, List.forall_mem_cons.mpr ⟨Or.inr ⟨by decide, _, q442, by decide +kernel⟩, fun _ h => absurd h List.not_mem_nil⟩⟩) ht hx
          · exact r_pass C hS hmc rfl (by rw [hT]; exact List.forall_mem_cons.mpr ⟨Or.inr ⟨by decide, _, q2853, by decide +kernel⟩, List.forall_mem_cons.mpr ⟨Or.inr ⟨by decide, _, q442, by decide +kernel⟩, fun _ h => absurd h List.not_mem_nil⟩⟩) ht hx
          · exact r_pass C hS hmc rfl (by rw [hT]; exact List.forall_mem_cons.mpr ⟨Or.inr ⟨by decide, _, q2853, by decide +kernel⟩, List.forall_mem_cons.mpr ⟨Or.inr ⟨by decide, _, q442, by decide +kernel⟩, fun _ h => absurd h List.not_mem_nil⟩⟩) ht hx
          · exact r_pass C hS hmc rfl (by rw [hT]; exact List.forall_mem_cons.mpr ⟨Or.inr ⟨by decide, _, q2853, by decide +kernel⟩, List.forall_mem_cons.mpr ⟨Or.inr ⟨by decide, _, q442, by decide +kernel⟩, fun _ h => absurd h List.not_mem_nil⟩⟩) ht hx
      · obtain ⟨x24, rfl, hw⟩ := hv
        refine r_astore_n C.1 C.2.1 dX1_read_42 rfl hl (Nat.le_of_ble_eq_true rfl) (ls_new (ls_old 0 rfl rfl (.inr (va_rf_cat _)) (ls_old 1 rfl rfl (.inl rfl) (ls_old 2 rfl rfl (.inl rfl) ls_nil)))) (fun ls hl => ?_)
        exact lpI_sound (Wt := fun (y : (Option Nat × Option Nat × Option Nat × Option Nat × hSt)) => kt G p l e (rmX1_read mc ms) s m args below meth c 6 (vx_MQ below (cQ G (pI P)) (cX G PX) args s mc ms (gF G)) 43 [(0, va_rf (y.1)), (1, va_rf (y.2.1)), (2, va_rf (y.2.2.1)), (3, va_rf (y.2.2.2.1))] [] (y.2.2.2.2)) (fun K y hK hF => kX1_readb43 C hr hin hT hmc  hK hF) hw H locs ls hS (lv_sub hl [3, 2, 1, 0] rfl)
end
theorem kX1_read {l : Launch} (hl : l.stackTraces = false) {G : gE} {P : Int32 → hSt → Prop} {PX : Nat → Nat → hSt → Prop} {v0 : Option Nat} {z : hSt} : cM l G yX1_read (wsW_ yX1_read cX1_read 6 (Option.some Jvm.ClassFile.FieldType.int) [((23 : Nat), (86 : Nat), (87 : Nat), (399 : Nat)), ((23 : Nat), (86 : Nat), (101 : Nat), (29 : Nat))]) 20 1407 z [va_rf v0] (wX1_read G P PX v0 z) (pI P) PX := by
  refine m_ofH hl (plainFor_of_name (by decide)) (by rw [lg_sl1 (va_rf_cat _)]; exact Nat.le_of_ble_eq_true rfl) ?_
  intro p e s m args below meth c C hr hin hT hmc hw
  rw [lv_args1 (va_rf_cat _)]
  intro H locs ls hS hl
  exact kX1_readb0 C hr hin hT hmc hw H locs ls hS (lv_sub hl [0] rfl)
theorem hdX1_read : yX1_read.cls ≠ "java/lang/invoke/MethodHandle" ∧ yX1_read.cls ≠ "java/lang/invoke/VarHandle" ∧ (parseMethodDescriptor yX1_read.desc).map (fun d => d.parameters.length) = some 0 := ⟨by decide +kernel, by decide +kernel, by decide +kernel⟩
abbrev rmX1_errorPosition (mc ms : Nat) : Room := { frames := 11, cells := mc, slots := ms, locals := 180 }
def wX1_errorPositionb12 (G : gE) (P : Int32 → hSt → Prop) (PX : Nat → Nat → hSt → Prop)  (v0 : Option Nat) (s0 : Int32) (z : hSt) : Prop :=
  wX1_checkElement G (fun z2 => gtR z2 v0 [0] 5 (fun x3 => gtI z2 x3 [11] 6 (fun x4 => P x4 z2))) PX s0 z
def wX1_errorPositionb0 (G : gE) (P : Int32 → hSt → Prop) (PX : Nat → Nat → hSt → Prop)  (v0 : Option Nat) (z : hSt) : Prop :=
  gtR z v0 [0] 5 (fun x1 => ((x1 = none → wX1_errorPositionb12 G P PX  v0 0 z) ∧ (¬ x1 = none → wX1_errorPositionb12 G P PX  v0 1 z)))
def wX1_errorPosition (G : gE) (P : Int32 → hSt → Prop) (PX : Nat → Nat → hSt → Prop) (v0 : Option Nat) (z : hSt) : Prop := wX1_errorPositionb0 G P PX v0 z
section
variable {p : Program} {l : Launch} {e : Env} {s : State} {m : MethodId} {args : Array Value} {below : List Frame} {meth : Method} {c : Code} {G : gE} {mc ms : Nat} {P : Int32 → hSt → Prop} {PX : Nat → Nat → hSt → Prop}
theorem kX1_errorPositionb12 (C : xC G p l s m args meth c cX1_errorPosition 1 "ExcuseLedger") (hr : meth.sig.returnType = (Option.some Jvm.ClassFile.FieldType.int)) (hin : meth.name = "errorPosition") (hT : ∀ x ∈ c.exceptionTable.toList, False) (hmc : mc = gL G - s.heap.size ∧ ms = gU G - hsum s.heap)   {v0 : Option Nat} {s0 : Int32} {z : hSt} (hw : wX1_errorPositionb12 G P PX  v0 s0 z) : kt G p l e (rmX1_errorPosition mc ms) s m args below meth c 1 (vx_MQ below (cQ G (pI P)) (cX G PX) args s mc ms (gF G)) 12 [(0, va_rf v0)] [.int s0] z := by
  intro H locs ls hS hl
  refine c_S C hS hmc hl.1 (kX1_checkElement C.2.2.2.2.2.2.1) hw (lw_S q2494 q2495 q67 q2496) hdX1_checkElement ⟨Nat.le_of_ble_eq_true rfl, Nat.le_of_ble_eq_true rfl⟩ (rest := []) rfl rfl (Nat.le_of_ble_eq_true rfl) dX1_errorPosition_12 (fun ci q z H locs hx hS ht => r_out C hS hmc (fun x hx => (hT x hx).elim) ht hx) (fun v z2 H locs hv hS => ?_)
  obtain ⟨rfl, hw⟩ := hv
  refine r_aload_n C.1 C.2.1 dX1_errorPosition_15 rfl (lv_at hl 0 rfl) ?_
  refine r_getR C hS fo_0_5 (fl_d C q394) (fun _ h => h) dX1_errorPosition_16 hw (fun x3 hw => ?_)
  refine r_getI C hS fo_11_6 (fl_n C q3029) (fun _ h => h) dX1_errorPosition_19 hw (fun x4 hw => ?_)
  exact r_iret C hS hmc hr dX1_errorPosition_22 hw
theorem kX1_errorPositionb0 (C : xC G p l s m args meth c cX1_errorPosition 1 "ExcuseLedger") (hr : meth.sig.returnType = (Option.some Jvm.ClassFile.FieldType.int)) (hin : meth.name = "errorPosition") (hT : ∀ x ∈ c.exceptionTable.toList, False) (hmc : mc = gL G - s.heap.size ∧ ms = gU G - hsum s.heap)   {v0 : Option Nat} {z : hSt} (hw : wX1_errorPositionb0 G P PX  v0 z) : kt G p l e (rmX1_errorPosition mc ms) s m args below meth c 1 (vx_MQ below (cQ G (pI P)) (cX G PX) args s mc ms (gF G)) 0 [(0, va_rf v0)] [] z := by
  intro H locs ls hS hl
  refine r_aload_n C.1 C.2.1 dX1_errorPosition_0 rfl (lv_at hl 0 rfl) ?_
  refine r_getR C hS fo_0_5 (fl_d C q394) (fun _ h => h) dX1_errorPosition_1 hw (fun x1 hw => ?_)
  refine r_ifnull C.1 C.2.1 dX1_errorPosition_4 rfl (fun h => ?_) (fun h => ?_)
  · have hw := hw.1 h
    refine lv_iconst C.1 C.2.1 (v := 0) dX1_errorPosition_11 rfl ?_
    exact kX1_errorPositionb12 C hr hin hT hmc  hw H locs ls hS (lv_sub hl [0] rfl)
  · have hw := hw.2 h
    refine lv_iconst C.1 C.2.1 (v := 1) dX1_errorPosition_7 rfl ?_
    refine lv_goto C.1 C.2.1 dX1_errorPosition_8 rfl ?_
    exact kX1_errorPositionb12 C hr hin hT hmc  hw H locs ls hS (lv_sub hl [0] rfl)
end
theorem kX1_errorPosition {l : Launch} (hl : l.stackTraces = false) {G : gE} {P : Int32 → hSt → Prop} {PX : Nat → Nat → hSt → Prop} {v0 : Option Nat} {z : hSt} : cM l G yX1_errorPosition (ws_ yX1_errorPosition cX1_errorPosition 1 (Option.some Jvm.ClassFile.FieldType.int)) 11 180 z [va_rf v0] (wX1_errorPosition G P PX v0 z) (pI P) PX := by
  refine m_of hl (plainFor_of_name (by decide)) (by rw [lg_sl1 (va_rf_cat _)]; exact Nat.le_of_ble_eq_true rfl) ?_
  intro p e s m args below meth c C hr hin hT hmc hw
  rw [lv_args1 (va_rf_cat _)]
  intro H locs ls hS hl
  exact kX1_errorPositionb0 C hr hin hT hmc hw H locs ls hS (lv_sub hl [0] rfl)
theorem hdX1_errorPosition : yX1_errorPosition.cls ≠ "java/lang/invoke/MethodHandle" ∧ yX1_errorPosition.cls ≠ "java/lang/invoke/VarHandle" ∧ (parseMethodDescriptor yX1_errorPosition.desc).map (fun d => d.parameters.length) = some 0 := ⟨by decide +kernel, by decide +kernel, by decide +kernel⟩
abbrev rmX1_undo (mc ms : Nat) : Room := { frames := 13, cells := mc, slots := ms, locals := 226 }
def wX1_undob15 (G : gE) (P : Int32 → hSt → Prop) (PX : Nat → Nat → hSt → Prop)  (v0 : Option Nat) (s0 : Int32) (z : hSt) : Prop :=
  wX1_checkElement G (fun z4 => gtR z4 v0 [0] 2 (fun x5 => gtR z4 v0 [0] 2 (fun x6 => (rcv z4 x6 15 ∧ wJ7_size G (fun x8 z7 => (rcv z7 x5 15 ∧ wJ7_remove G (fun x10 z9 => (ckO z9 x10 [1] ∧ ptV G z9 v0 [0] 0 (va_rf x10) (fun z11 => gtR z11 v0 [0] 2 (fun x12 => (rcv z11 x12 15 ∧ wJ7_size G (fun x14 z13 => P x14 z13) PX x12  z11))))) PX x5 (x8 - 1) z7)) PX x6  z4)))) PX s0 z
def wX1_undob0 (G : gE) (P : Int32 → hSt → Prop) (PX : Nat → Nat → hSt → Prop)  (v0 : Option Nat) (z : hSt) : Prop :=
  gtR z v0 [0] 2 (fun x1 => (rcv z x1 15 ∧ wJ7_size G (fun x3 z2 => ((x3 ≤ 0 → wX1_undob15 G P PX  v0 0 z2) ∧ (¬ x3 ≤ 0 → wX1_undob15 G P PX  v0 1 z2))) PX x1  z))
def wX1_undo (G : gE) (P : Int32 → hSt → Prop) (PX : Nat → Nat → hSt → Prop) (v0 : Option Nat) (z : hSt) : Prop := wX1_undob0 G P PX v0 z
section
variable {p : Program} {l : Launch} {e : Env} {s : State} {m : MethodId} {args : Array Value} {below : List Frame} {meth : Method} {c : Code} {G : gE} {mc ms : Nat} {P : Int32 → hSt → Prop} {PX : Nat → Nat → hSt → Prop}
theorem kX1_undob15 (C : xC G p l s m args meth c cX1_undo 1 "ExcuseLedger") (hr : meth.sig.returnType = (Option.some Jvm.ClassFile.FieldType.int)) (hin : meth.name = "undo") (hT : ∀ x ∈ c.exceptionTable.toList, False) (hmc : mc = gL G - s.heap.size ∧ ms = gU G - hsum s.heap)   {v0 : Option Nat} {s0 : Int32} {z : hSt} (hw : wX1_undob15 G P PX  v0 s0 z) : kt G p l e (rmX1_undo mc ms) s m args below meth c 1 (vx_MQ below (cQ G (pI P)) (cX G PX) args s mc ms (gF G)) 15 [(0, va_rf v0)] [.int s0] z := by
  intro H locs ls hS hl
  refine c_S C hS hmc hl.1 (kX1_checkElement C.2.2.2.2.2.2.1) hw (lw_S q2494 q2495 q67 q2496) hdX1_checkElement ⟨Nat.le_of_ble_eq_true rfl, Nat.le_of_ble_eq_true rfl⟩ (rest := []) rfl rfl (Nat.le_of_ble_eq_true rfl) dX1_undo_15 (fun ci q z H locs hx hS ht => r_out C hS hmc (fun x hx => (hT x hx).elim) ht hx) (fun v z4 H locs hv hS => ?_)
  obtain ⟨rfl, hw⟩ := hv
  refine r_aload_n C.1 C.2.1 dX1_undo_18 rfl (lv_at hl 0 rfl) ?_
  refine r_aload_n C.1 C.2.1 dX1_undo_19 rfl (lv_at hl 0 rfl) ?_
  refine r_getR C hS fo_0_2 (fl_d C q391) (fun _ h => h) dX1_undo_20 hw (fun x5 hw => ?_)
  refine r_aload_n C.1 C.2.1 dX1_undo_23 rfl (lv_at hl 0 rfl) ?_
  refine r_getR C hS fo_0_2 (fl_d C q391) (fun _ h => h) dX1_undo_24 hw (fun x6 hw => ?_)
  refine c_V C hS hmc hl.1 (ci := 15) rfl hw.1 (kJ7_size C.2.2.2.2.2.2.1) hw.2 (lw_V q2236 q2237 q2238 q78 q2239) ⟨rfl, hdJ7_size⟩ ⟨Nat.le_of_ble_eq_true rfl, Nat.le_of_ble_eq_true rfl⟩ (rest := [va_rf x5, va_rf v0]) rfl rfl (Nat.le_of_ble_eq_true rfl) dX1_undo_27 (fun ci q z H locs hx hS ht => r_out C hS hmc (fun x hx => (hT x hx).elim) ht hx) (fun v z7 H locs hv hS => ?_)
  obtain ⟨x8, rfl, hw⟩ := hv
  refine lv_iconst C.1 C.2.1 (v := 1) dX1_undo_30 rfl ?_
  refine lv_isub C.1 C.2.1 dX1_undo_31 ?_
  refine c_V C hS hmc hl.1 (ci := 15) rfl hw.1 (kJ7_remove C.2.2.2.2.2.2.1) hw.2 (lw_V q2240 q2241 q2242 q78 q2243) ⟨rfl, hdJ7_remove⟩ ⟨Nat.le_of_ble_eq_true rfl, Nat.le_of_ble_eq_true rfl⟩ (rest := [va_rf v0]) rfl rfl (Nat.le_of_ble_eq_true rfl) dX1_undo_32 (fun ci q z H locs hx hS ht => r_out C hS hmc (fun x hx => (hT x hx).elim) ht hx) (fun v z9 H locs hv hS => ?_)
  obtain ⟨x10, rfl, hw⟩ := hv
  refine r_cast0 C hS q3087 ca_10 dX1_undo_35 hw.1 ?_
  have hw := hw.2
  refine r_put C hS fo_0_0 (fl_d C q389) (fun _ h => h) (narrow_rfO _ _) (fits_rfO _ _) dX1_undo_38 hw (fun z11 H locs hw hS => ?_)
  refine r_aload_n C.1 C.2.1 dX1_undo_41 rfl (lv_at hl 0 rfl) ?_
  refine r_getR C hS fo_0_2 (fl_d C q391) (fun _ h => h) dX1_undo_42 hw (fun x12 hw => ?_)
  refine c_V C hS hmc hl.1 (ci := 15) rfl hw.1 (kJ7_size C.2.2.2.2.2.2.1) hw.2 (lw_V q2236 q2237 q2238 q78 q2239) ⟨rfl, hdJ7_size⟩ ⟨Nat.le_of_ble_eq_true rfl, Nat.le_of_ble_eq_true rfl⟩ (rest := []) rfl rfl (Nat.le_of_ble_eq_true rfl) dX1_undo_45 (fun ci q z H locs hx hS ht => r_out C hS hmc (fun x hx => (hT x hx).elim) ht hx) (fun v z13 H locs hv hS => ?_)
  obtain ⟨x14, rfl, hw⟩ := hv
  exact r_iret C hS hmc hr dX1_undo_48 hw
theorem kX1_undob0 (C : xC G p l s m args meth c cX1_undo 1 "ExcuseLedger") (hr : meth.sig.returnType = (Option.some Jvm.ClassFile.FieldType.int)) (hin : meth.name = "undo") (hT : ∀ x ∈ c.exceptionTable.toList, False) (hmc : mc = gL G - s.heap.size ∧ ms = gU G - hsum s.heap)   {v0 : Option Nat} {z : hSt} (hw : wX1_undob0 G P PX  v0 z) : kt G p l e (rmX1_undo mc ms) s m args below meth c 1 (vx_MQ below (cQ G (pI P)) (cX G PX) args s mc ms (gF G)) 0 [(0, va_rf v0)] [] z := by
  intro H locs ls hS hl
  refine r_aload_n C.1 C.2.1 dX1_undo_0 rfl (lv_at hl 0 rfl) ?_
  refine r_getR C hS fo_0_2 (fl_d C q391) (fun _ h => h) dX1_undo_1 hw (fun x1 hw => ?_)
  refine c_V C hS hmc hl.1 (ci := 15) rfl hw.1 (kJ7_size C.2.2.2.2.2.2.1) hw.2 (lw_V q2236 q2237 q2238 q78 q2239) ⟨rfl, hdJ7_size⟩ ⟨Nat.le_of_ble_eq_true rfl, Nat.le_of_ble_eq_true rfl⟩ (rest := []) rfl rfl (Nat.le_of_ble_eq_true rfl) dX1_undo_4 (fun ci q z H locs hx hS ht => r_out C hS hmc (fun x hx => (hT x hx).elim) ht hx) (fun v z2 H locs hv hS => ?_)
  obtain ⟨x3, rfl, hw⟩ := hv
  refine lv_if_le C.1 C.2.1 dX1_undo_7 rfl (fun h => ?_) (fun h => ?_)
  · have hw := hw.1 h
    refine lv_iconst C.1 C.2.1 (v := 0) dX1_undo_14 rfl ?_
    exact kX1_undob15 C hr hin hT hmc  hw H locs ls hS (lv_sub hl [0] rfl)
  · have hw := hw.2 h
    refine lv_iconst C.1 C.2.1 (v := 1) dX1_undo_10 rfl ?_
    refine lv_goto C.1 C.2.1 dX1_undo_11 rfl ?_
    exact kX1_undob15 C hr hin hT hmc  hw H locs ls hS (lv_sub hl [0] rfl)
end
theorem kX1_undo {l : Launch} (hl : l.stackTraces = false) {G : gE} {P : Int32 → hSt → Prop} {PX : Nat → Nat → hSt → Prop} {v0 : Option Nat} {z : hSt} : cM l G yX1_undo (ws_ yX1_undo cX1_undo 1 (Option.some Jvm.ClassFile.FieldType.int)) 13 226 z [va_rf v0] (wX1_undo G P PX v0 z) (pI P) PX := by
  refine m_of hl (plainFor_of_name (by decide)) (by rw [lg_sl1 (va_rf_cat _)]; exact Nat.le_of_ble_eq_true rfl) ?_
  intro p e s m args below meth c C hr hin hT hmc hw
  rw [lv_args1 (va_rf_cat _)]
  intro H locs ls hS hl
  exact kX1_undob0 C hr hin hT hmc hw H locs ls hS (lv_sub hl [0] rfl)
theorem hdX1_undo : yX1_undo.cls ≠ "java/lang/invoke/MethodHandle" ∧ yX1_undo.cls ≠ "java/lang/invoke/VarHandle" ∧ (parseMethodDescriptor yX1_undo.desc).map (fun d => d.parameters.length) = some 0 := ⟨by decide +kernel, by decide +kernel, by decide +kernel⟩
abbrev rmX1_save (mc ms : Nat) : Room := { frames := 19, cells := mc, slots := ms, locals := 1407 }
def wX1_saveb0 (G : gE) (P : Int32 → hSt → Prop) (PX : Nat → Nat → hSt → Prop)  (v0 : Option Nat) (z : hSt) : Prop :=
  gtR z v0 [0] 0 (fun x1 => (rcv z x1 1 ∧ wX2_copy G (fun x3 z2 => ptV G z2 v0 [0] 1 (va_rf x3) (fun z4 => gtR z4 v0 [0] 1 (fun x5 => gtR z4 x5 [1] 0 (fun x6 => (rcv z4 x6 13 ∧ wJ1_size G (fun x8 z7 => P x8 z7) PX x6  z4))))) PX x1  z))
def wX1_save (G : gE) (P : Int32 → hSt → Prop) (PX : Nat → Nat → hSt → Prop) (v0 : Option Nat) (z : hSt) : Prop := wX1_saveb0 G P PX v0 z
section
variable {p : Program} {l : Launch} {e : Env} {s : State} {m : MethodId} {args : Array Value} {below : List Frame} {meth : Method} {c : Code} {G : gE} {mc ms : Nat} {P : Int32 → hSt → Prop} {PX : Nat → Nat → hSt → Prop}
theorem kX1_saveb0 (C : xC G p l s m args meth c cX1_save 1 "ExcuseLedger") (hr : meth.sig.returnType = (Option.some Jvm.ClassFile.FieldType.int)) (hin : meth.name = "save") (hT : ∀ x ∈ c.exceptionTable.toList, False) (hmc : mc = gL G - s.heap.size ∧ ms = gU G - hsum s.heap)   {v0 : Option Nat} {z : hSt} (hw : wX1_saveb0 G P PX  v0 z) : kt G p l e (rmX1_save mc ms) s m args below meth c 1 (vx_MQ below (cQ G (pI P)) (cX G PX) args s mc ms (gF G)) 0 [(0, va_rf v0)] [] z := by
  intro H locs ls hS hl
  refine r_aload_n C.1 C.2.1 dX1_save_0 rfl (lv_at hl 0 rfl) ?_
  refine r_aload_n C.1 C.2.1 dX1_save_1 rfl (lv_at hl 0 rfl) ?_
  refine r_getR C hS fo_0_0 (fl_d C q389) (fun _ h => h) dX1_save_2 hw (fun x1 hw => ?_)
  refine c_V C hS hmc hl.1 (ci := 1) rfl hw.1 (kX2_copy C.2.2.2.2.2.2.1) hw.2 (lw_V q443 q444 q445 q68 q446) ⟨rfl, hdX2_copy⟩ ⟨Nat.le_of_ble_eq_true rfl, Nat.le_of_ble_eq_true rfl⟩ (rest := [va_rf v0]) rfl rfl (Nat.le_of_ble_eq_true rfl) dX1_save_5 (fun ci q z H locs hx hS ht => r_out C hS hmc (fun x hx => (hT x hx).elim) ht hx) (fun v z2 H locs hv hS => ?_)
  obtain ⟨x3, rfl, hw⟩ := hv
  refine r_put C hS fo_0_1 (fl_d C q390) (fun _ h => h) (narrow_rfO _ _) (fits_rfO _ _) dX1_save_8 hw (fun z4 H locs hw hS => ?_)
  refine r_aload_n C.1 C.2.1 dX1_save_11 rfl (lv_at hl 0 rfl) ?_
  refine r_getR C hS fo_0_1 (fl_d C q390) (fun _ h => h) dX1_save_12 hw (fun x5 hw => ?_)
  refine r_getR C hS fo_1_0 (fl_n C q232) (fun _ h => h) dX1_save_15 hw (fun x6 hw => ?_)
  refine c_U C hS hmc hl.1 (ci := 13) rfl hw.1 (kJ1_size C.2.2.2.2.2.2.1) hw.2 q2353 q2018 (decl_w C q2019 (by decide)) (C.2.2.2.2.1 _ q2020) q1768 q70 q1770 ⟨by decide, by decide⟩ hdJ1_size.2.2 ⟨Nat.le_of_ble_eq_true rfl, Nat.le_of_ble_eq_true rfl⟩ (rest := []) rfl rfl (Nat.le_of_ble_eq_true rfl) dX1_save_18 (fun ci q z H locs hx hS ht => r_out C hS hmc (fun x hx => (hT x hx).elim) ht hx) (fun v z7 H locs hv hS => ?_)
  obtain ⟨x8, rfl, hw⟩ := hv
  exact r_iret C hS hmc hr dX1_save_21 hw
end
theorem kX1_save {l : Launch} (hl : l.stackTraces = false) {G : gE} {P : Int32 → hSt → Prop} {PX : Nat → Nat → hSt → Prop} {v0 : Option Nat} {z : hSt} : cM l G yX1_save (ws_ yX1_save cX1_save 1 (Option.some Jvm.ClassFile.FieldType.int)) 19 1407 z [va_rf v0] (wX1_save G P PX v0 z) (pI P) PX := by
  refine m_of hl (plainFor_of_name (by decide)) (by rw [lg_sl1 (va_rf_cat _)]; exact Nat.le_of_ble_eq_true rfl) ?_
  intro p e s m args below meth c C hr hin hT hmc hw
  rw [lv_args1 (va_rf_cat _)]
  intro H locs ls hS hl
  exact kX1_saveb0 C hr hin hT hmc hw H locs ls hS (lv_sub hl [0] rfl)
theorem hdX1_save : yX1_save.cls ≠ "java/lang/invoke/MethodHandle" ∧ yX1_save.cls ≠ "java/lang/invoke/VarHandle" ∧ (parseMethodDescriptor yX1_save.desc).map (fun d => d.parameters.length) = some 0 := ⟨by decide +kernel, by decide +kernel, by decide +kernel⟩
abbrev rmJ7_clear (mc ms : Nat) : Room := { frames := 10, cells := mc, slots := ms, locals := 160 }
def wJ7_clearb27 (G : gE) (P : hSt → Prop) (PX : Nat → Nat → hSt → Prop) (K27 : (Option Nat × Int32 × Int32 × hSt) → Prop) (v1 : Option Nat) (v2 : Int32) (v3 : Int32) (z : hSt) : Prop :=
  ((v2 ≤ v3 → P z) ∧ (¬ v2 ≤ v3 → asR G z v1 asLT v3 none (fun z6 => K27 (v1, v2, v3 + 1, z6))))
def wJ7_clearb0 (G : gE) (P : hSt → Prop) (PX : Nat → Nat → hSt → Prop)  (v0 : Option Nat) (z : hSt) : Prop :=
  gtI z v0 [15] 0 (fun x1 => ptV G z v0 [15] 0 (.int (x1 + 1)) (fun z2 => gtR z2 v0 [15] 1 (fun x3 => gtI z2 v0 [15] 2 (fun x4 => ptV G z2 v0 [15] 2 (.int 0) (fun z5 => lpI (fun (K27 : (Option Nat × Int32 × Int32 × hSt) → Prop) (y : (Option Nat × Int32 × Int32 × hSt)) => wJ7_clearb27 G P PX  K27 (y.1) (y.2.1) (y.2.2.1) (y.2.2.2)) (x3, x4, 0, z5))))))
def wJ7_clear (G : gE) (P : hSt → Prop) (PX : Nat → Nat → hSt → Prop) (v0 : Option Nat) (z : hSt) : Prop := wJ7_clearb0 G P PX v0 z
section
variable {p : Program} {l : Launch} {e : Env} {s : State} {m : MethodId} {args : Array Value} {below : List Frame} {meth : Method} {c : Code} {G : gE} {mc ms : Nat} {P : hSt → Prop} {PX : Nat → Nat → hSt → Prop}
theorem kJ7_clearb27 (C : xC G p l s m args meth c cJ7_clear 4 "java/util/ArrayList") (hr : meth.sig.returnType = (Option.none : Option Jvm.ClassFile.FieldType)) (hin : meth.name = "clear") (hT : ∀ x ∈ c.exceptionTable.toList, False) (hmc : mc = gL G - s.heap.size ∧ ms = gU G - hsum s.heap) {K27 : (Option Nat × Int32 × Int32 × hSt) → Prop} (hK27 : ∀ y : (Option Nat × Int32 × Int32 × hSt), K27 y → kt G p l e (rmJ7_clear mc ms) s m args below meth c 4 (vx_MQ below (cQ G (pV P)) (cX G PX) args s mc ms (gF G)) 27 [(1, va_rf (y.1)), (2, .int (y.2.1)), (3, .int (y.2.2.1))] [] (y.2.2.2)) {v1 : Option Nat} {v2 : Int32} {v3 : Int32} {z : hSt} (hw : wJ7_clearb27 G P PX K27 v1 v2 v3 z) : kt G p l e (rmJ7_clear mc ms) s m args below meth c 4 (vx_MQ below (cQ G (pV P)) (cX G PX) args s mc ms (gF G)) 27 [(1, va_rf v1), (2, .int v2), (3, .int v3)] [] z := by
  intro H locs ls hS hl
  refine lv_iload_n C.1 C.2.1 dJ7_clear_27 rfl (lv_at hl 2 rfl) ?_
  refine lv_iload_n C.1 C.2.1 dJ7_clear_28 rfl (lv_at hl 1 rfl) ?_
  refine lv_icmp_ge C.1 C.2.1 dJ7_clear_29 rfl (fun h => ?_) (fun h => ?_)
  · have hw := hw.1 h
    exact r_vret C hS hmc hr dJ7_clear_42 hw
  · have hw := hw.2 h
    refine r_aload_n C.1 C.2.1 dJ7_clear_32 rfl (lv_at hl 0 rfl) ?_
    refine lv_iload_n C.1 C.2.1 dJ7_clear_33 rfl (lv_at hl 2 rfl) ?_
    refine r_null C dJ7_clear_34 ?_
    refine r_aast C hS asLT_ok dJ7_clear_35 hw (fun z6 H locs hw hS => ?_)
    refine r_iinc C.1 C.2.1 dJ7_clear_36 hl (k := 2) rfl (v := 1) rfl (Nat.le_of_ble_eq_true rfl) (ls_new (ls_old 0 rfl rfl (.inl rfl) (ls_old 1 rfl rfl (.inr rfl) ls_nil))) (fun ls hl => ?_)
    refine lv_goto C.1 C.2.1 dJ7_clear_39 rfl ?_
    exact hK27 _ hw H locs ls hS (lv_sub hl [1, 2, 0] rfl)
theorem kJ7_clearb0 (C : xC G p l s m args meth c cJ7_clear 4 "java/util/ArrayList") (hr : meth.sig.returnType = (Option.none : Option Jvm.ClassFile.FieldType)) (hin : meth.name = "clear") (hT : ∀ x ∈ c.exceptionTable.toList, False) (hmc : mc = gL G - s.heap.size ∧ ms = gU G - hsum s.heap)   {v0 : Option Nat} {z : hSt} (hw : wJ7_clearb0 G P PX  v0 z) : kt G p l e (rmJ7_clear mc ms) s m args below meth c 4 (vx_MQ below (cQ G (pV P)) (cX G PX) args s mc ms (gF G)) 0 [(0, va_rf v0)] [] z := by
  intro H locs ls hS hl
  refine r_aload_n C.1 C.2.1 dJ7_clear_0 rfl (lv_at hl 0 rfl) ?_
  refine lv_dup C.1 C.2.1 dJ7_clear_1 (va_rf_cat _) ?_
  refine r_getI C hS fo_15_0 (fl_d C q347) (sf_w C q346) dJ7_clear_2 hw (fun x1 hw => ?_)
  refine lv_iconst C.1 C.2.1 (v := 1) dJ7_clear_5 rfl ?_
  refine lv_iadd C.1 C.2.1 dJ7_clear_6 ?_
  refine r_put C hS fo_15_0 (fl_d C q347) (sf_w C q346) rfl rfl dJ7_clear_7 hw (fun z2 H locs hw hS => ?_)
  refine r_aload_n C.1 C.2.1 dJ7_clear_10 rfl (lv_at hl 0 rfl) ?_
  refine r_getR C hS fo_15_1 (fl_d C q340) (fun _ h => h) dJ7_clear_11 hw (fun x3 hw => ?_)
  refine r_astore_n C.1 C.2.1 dJ7_clear_14 rfl hl (Nat.le_of_ble_eq_true rfl) (ls_new (ls_old 0 rfl rfl (.inr (va_rf_cat _)) ls_nil)) (fun ls hl => ?_)
  refine r_aload_n C.1 C.2.1 dJ7_clear_15 rfl (lv_at hl 1 rfl) ?_
  refine r_getI C hS fo_15_2 (fl_d C q343) (fun _ h => h) dJ7_clear_16 hw (fun x4 hw => ?_)
  refine r_istore_n C.1 C.2.1 dJ7_clear_19 rfl hl (Nat.le_of_ble_eq_true rfl) (ls_new (ls_old 0 rfl rfl (.inr (va_rf_cat _)) (ls_old 1 rfl rfl (.inl rfl) ls_nil))) (fun ls hl => ?_)
  refine r_aload_n C.1 C.2.1 dJ7_clear_20 rfl (lv_at hl 2 rfl) ?_
  refine lv_iconst C.1 C.2.1 (v := 0) dJ7_clear_21 rfl ?_
  refine lv_dup_x1 C.1 C.2.1 dJ7_clear_22 rfl (va_rf_cat _) ?_
  refine r_put C hS fo_15_2 (fl_d C q343) (fun _ h => h) rfl rfl dJ7_clear_23 hw (fun z5 H locs hw hS => ?_)
  refine r_istore_n C.1 C.2.1 dJ7_clear_26 rfl hl (Nat.le_of_ble_eq_true rfl) (ls_new (ls_old 0 rfl rfl (.inr rfl) (ls_old 1 rfl rfl (.inl rfl) ls_nil))) (fun ls hl => ?_)
  exact lpI_sound (Wt := fun (y : (Option Nat × Int32 × Int32 × hSt)) => kt G p l e (rmJ7_clear mc ms) s m args below meth c 4 (vx_MQ below (cQ G (pV P)) (cX G PX) args s mc ms (gF G)) 27 [(1, va_rf (y.1)), (2, .int (y.2.1)), (3, .int (y.2.2.1))] [] (y.2.2.2)) (fun K y hK hF => kJ7_clearb27 C hr hin hT hmc  hK hF) hw H locs ls hS (lv_sub hl [2, 1, 0] rfl)
end
theorem kJ7_clear {l : Launch} (hl : l.stackTraces = false) {G : gE} {P : hSt → Prop} {PX : Nat → Nat → hSt → Prop} {v0 : Option Nat} {z : hSt} : cM l G yJ7_clear (ws_ yJ7_clear cJ7_clear 4 (Option.none : Option Jvm.ClassFile.FieldType)) 10 160 z [va_rf v0] (wJ7_clear G P PX v0 z) (pV P) PX := by
  refine m_of hl (plainFor_of_name (by decide)) (by rw [lg_sl1 (va_rf_cat _)]; exact Nat.le_of_ble_eq_true rfl) ?_
  intro p e s m args below meth c C hr hin hT hmc hw
  rw [lv_args1 (va_rf_cat _)]
  intro H locs ls hS hl
  exact kJ7_clearb0 C hr hin hT hmc hw H locs ls hS (lv_sub hl [0] rfl)
theorem hdJ7_clear : yJ7_clear.cls ≠ "java/lang/invoke/MethodHandle" ∧ yJ7_clear.cls ≠ "java/lang/invoke/VarHandle" ∧ (parseMethodDescriptor yJ7_clear.desc).map (fun d => d.parameters.length) = some 0 := ⟨by decide +kernel, by decide +kernel, by decide +kernel⟩
abbrev rmX1_restore (mc ms : Nat) : Room := { frames := 19, cells := mc, slots := ms, locals := 1407 }
def wX1_restoreb12 (G : gE) (P : Int32 → hSt → Prop) (PX : Nat → Nat → hSt → Prop)  (v0 : Option Nat) (s0 : Int32) (z : hSt) : Prop :=
  wX1_checkState G (fun z2 => gtR z2 v0 [0] 1 (fun x3 => (rcv z2 x3 1 ∧ wX2_copy G (fun x5 z4 => ptV G z4 v0 [0] 0 (va_rf x5) (fun z6 => gtR z6 v0 [0] 2 (fun x7 => (rcv z6 x7 15 ∧ wJ7_clear G (fun z8 => gtR z8 v0 [0] 0 (fun x9 => gtR z8 x9 [1] 0 (fun x10 => (rcv z8 x10 13 ∧ wJ1_size G (fun x12 z11 => P x12 z11) PX x10  z8)))) PX x7  z6)))) PX x3  z2))) PX s0 z
def wX1_restoreb0 (G : gE) (P : Int32 → hSt → Prop) (PX : Nat → Nat → hSt → Prop)  (v0 : Option Nat) (z : hSt) : Prop :=
  gtR z v0 [0] 1 (fun x1 => ((x1 = none → wX1_restoreb12 G P PX  v0 0 z) ∧ (¬ x1 = none → wX1_restoreb12 G P PX  v0 1 z)))
def wX1_restore (G : gE) (P : Int32 → hSt → Prop) (PX : Nat → Nat → hSt → Prop) (v0 : Option Nat) (z : hSt) : Prop := wX1_restoreb0 G P PX v0 z
section
variable {p : Program} {l : Launch} {e : Env} {s : State} {m : MethodId} {args : Array Value} {below : List Frame} {meth : Method} {c : Code} {G : gE} {mc ms : Nat} {P : Int32 → hSt → Prop} {PX : Nat → Nat → hSt → Prop}
theorem kX1_restoreb12 (C : xC G p l s m args meth c cX1_restore 1 "ExcuseLedger") (hr : meth.sig.returnType = (Option.some Jvm.ClassFile.FieldType.int)) (hin : meth.name = "restore") (hT : ∀ x ∈ c.exceptionTable.toList, False) (hmc : mc = gL G - s.heap.size ∧ ms = gU G - hsum s.heap)   {v0 : Option Nat} {s0 : Int32} {z : hSt} (hw : wX1_restoreb12 G P PX  v0 s0 z) : kt G p l e (rmX1_restore mc ms) s m args below meth c 1 (vx_MQ below (cQ G (pI P)) (cX G PX) args s mc ms (gF G)) 12 [(0, va_rf v0)] [.int s0] z := by
  intro H locs ls hS hl
  refine c_S C hS hmc hl.1 (kX1_checkState C.2.2.2.2.2.2.1) hw (lw_S q2844 q1993 q67 q1994) hdX1_checkState ⟨Nat.le_of_ble_eq_true rfl, Nat.le_of_ble_eq_true rfl⟩ (rest := []) rfl rfl (Nat.le_of_ble_eq_true rfl) dX1_restore_12 (fun ci q z H locs hx hS ht => r_out C hS hmc (fun x hx => (hT x hx).elim) ht hx) (fun v z2 H locs hv hS => ?_)
  obtain ⟨rfl, hw⟩ := hv
  refine r_aload_n C.1 C.2.1 dX1_restore_15 rfl (lv_at hl 0 rfl) ?_
  refine r_aload_n C.1 C.2.1 dX1_restore_16 rfl (lv_at hl 0 rfl) ?_
  refine r_getR C hS fo_0_1 (fl_d C q390) (fun _ h => h) dX1_restore_17 hw (fun x3 hw => ?_)
  refine c_V C hS hmc hl.1 (ci := 1) rfl hw.1 (kX2_copy C.2.2.2.2.2.2.1) hw.2 (lw_V q443 q444 q445 q68 q446) ⟨rfl, hdX2_copy⟩ ⟨Nat.le_of_ble_eq_true rfl, Nat.le_of_ble_eq_true rfl⟩ (rest := [va_rf v0]) rfl rfl (Nat.le_of_ble_eq_true rfl) dX1_restore_20 (fun ci q z H locs hx hS ht => r_out C hS hmc (fun x hx => (hT x hx).elim) ht hx) (fun v z4 H locs hv hS => ?_)
  obtain ⟨x5, rfl, hw⟩ := hv
  refine r_put C hS fo_0_0 (fl_d C q389) (fun _ h => h) (narrow_rfO _ _) (fits_rfO _ _) dX1_restore_23 hw (fun z6 H locs hw hS => ?_)
  refine r_aload_n C.1 C.2.1 dX1_restore_26 rfl (lv_at hl 0 rfl) ?_
  refine r_getR C hS fo_0_2 (fl_d C q391) (fun _ h => h) dX1_restore_27 hw (fun x7 hw => ?_)
  refine c_V C hS hmc hl.1 (ci := 15) rfl hw.1 (kJ7_clear C.2.2.2.2.2.2.1) hw.2 (lw_V q3095 q3096 q3097 q78 q3098) ⟨rfl, hdJ7_clear⟩ ⟨Nat.le_of_ble_eq_true rfl, Nat.le_of_ble_eq_true rfl⟩ (rest := []) rfl rfl (Nat.le_of_ble_eq_true rfl) dX1_restore_30 (fun ci q z H locs hx hS ht => r_out C hS hmc (fun x hx => (hT x hx).elim) ht hx) (fun v z8 H locs hv hS => ?_)
  obtain ⟨rfl, hw⟩ := hv
  refine r_aload_n C.1 C.2.1 dX1_restore_33 rfl (lv_at hl 0 rfl) ?_
  refine r_getR C hS fo_0_0 (fl_d C q389) (fun _ h => h) dX1_restore_34 hw (fun x9 hw => ?_)
  refine r_getR C hS fo_1_0 (fl_n C q232) (fun _ h => h) dX1_restore_37 hw (fun x10 hw => ?_)
  refine c_U C hS hmc hl.1 (ci := 13) rfl hw.1 (kJ1_size C.2.2.2.2.2.2.1) hw.2 q2353 q2018 (decl_w C q2019 (by decide)) (C.2.2.2.2.1 _ q2020) q1768 q70 q1770 ⟨by decide, by decide⟩ hdJ1_size.2.2 ⟨Nat.le_of_ble_eq_true rfl, Nat.le_of_ble_eq_true rfl⟩ (rest := []) rfl rfl (Nat.le_of_ble_eq_true rfl) dX1_restore_40 (fun ci q z H locs hx hS ht => r_out C hS hmc (fun x hx => (hT x hx).elim) ht hx) (fun v z11 H locs hv hS => ?_)
  obtain ⟨x12, rfl, hw⟩ := hv
  exact r_iret C hS hmc hr dX1_restore_43 hw
theorem kX1_restoreb0 (C : xC G p l s m args meth c cX1_restore 1 "ExcuseLedger") (hr : meth.sig.returnType = (Option.some Jvm.ClassFile.FieldType.int)) (hin : meth.name = "restore") (hT : ∀ x ∈ c.exceptionTable.toList, False) (hmc : mc = gL G - s.heap.size ∧ ms = gU G - hsum s.heap)   {v0 : Option Nat} {z : hSt} (hw : wX1_restoreb0 G P PX  v0 z) : kt G p l e (rmX1_restore mc ms) s m args below meth c 1 (vx_MQ below (cQ G (pI P)) (cX G PX) args s mc ms (gF G)) 0 [(0, va_rf v0)] [] z := by
  intro H locs ls hS hl
  refine r_aload_n C.1 C.2.1 dX1_restore_0 rfl (lv_at hl 0 rfl) ?_
  refine r_getR C hS fo_0_1 (fl_d C q390) (fun _ h => h) dX1_restore_1 hw (fun x1 hw => ?_)
  refine r_ifnull C.1 C.2.1 dX1_restore_4 rfl (fun h => ?_) (fun h => ?_)
  · have hw := hw.1 h
    refine lv_iconst C.1 C.2.1 (v := 0) dX1_restore_11 rfl ?_
    exact kX1_restoreb12 C hr hin hT hmc  hw H locs ls hS (lv_sub hl [0] rfl)
  · have hw := hw.2 h
    refine lv_iconst C.1 C.2.1 (v := 1) dX1_restore_7 rfl ?_
    refine lv_goto C.1 C.2.1 dX1_restore_8 rfl ?_
    exact kX1_restoreb12 C hr hin hT hmc  hw H locs ls hS (lv_sub hl [0] rfl)
end
theorem kX1_restore {l : Launch} (hl : l.stackTraces = false) {G : gE} {P : Int32 → hSt → Prop} {PX : Nat → Nat → hSt → Prop} {v0 : Option Nat} {z : hSt} : cM l G yX1_restore (ws_ yX1_restore cX1_restore 1 (Option.some Jvm.ClassFile.FieldType.int)) 19 1407 z [va_rf v0] (wX1_restore G P PX v0 z) (pI P) PX := by
  refine m_of hl (plainFor_of_name (by decide)) (by rw [lg_sl1 (va_rf_cat _)]; exact Nat.le_of_ble_eq_true rfl) ?_
  intro p e s m args below meth c C hr hin hT hmc hw
  rw [lv_args1 (va_rf_cat _)]
  intro H locs ls hS hl
  exact kX1_restoreb0 C hr hin hT hmc hw H locs ls hS (lv_sub hl [0] rfl)
theorem hdX1_restore : yX1_restore.cls ≠ "java/lang/invoke/MethodHandle" ∧ yX1_restore.cls ≠ "java/lang/invoke/VarHandle" ∧ (parseMethodDescriptor yX1_restore.desc).map (fun d => d.parameters.length) = some 0 := ⟨by decide +kernel, by decide +kernel, by decide +kernel⟩
abbrev rmX1_reason (mc ms : Nat) : Room := { frames := 11, cells := mc, slots := ms, locals := 180 }
def wX1_reasonb12 (G : gE) (P : Int32 → hSt → Prop) (PX : Nat → Nat → hSt → Prop)  (v0 : Option Nat) (v1 : Int32) (s0 : Int32) (z : hSt) : Prop :=
  wX1_checkElement G (fun z2 => ((v1 = 0 → gtR z2 v0 [0] 6 (fun x3 => gtI z2 x3 [8] 6 (fun x4 => P x4 z2))) ∧ (¬ v1 = 0 → gtR z2 v0 [0] 6 (fun x5 => gtI z2 x5 [8] 7 (fun x6 => P x6 z2))))) PX s0 z
def wX1_reasonb0 (G : gE) (P : Int32 → hSt → Prop) (PX : Nat → Nat → hSt → Prop)  (v0 : Option Nat) (v1 : Int32) (z : hSt) : Prop :=
  gtR z v0 [0] 6 (fun x1 => ((x1 = none → wX1_reasonb12 G P PX  v0 v1 0 z) ∧ (¬ x1 = none → wX1_reasonb12 G P PX  v0 v1 1 z)))
def wX1_reason (G : gE) (P : Int32 → hSt → Prop) (PX : Nat → Nat → hSt → Prop) (v0 : Option Nat) (v1 : Int32) (z : hSt) : Prop := wX1_reasonb0 G P PX v0 v1 z
section
variable {p : Program} {l : Launch} {e : Env} {s : State} {m : MethodId} {args : Array Value} {below : List Frame} {meth : Method} {c : Code} {G : gE} {mc ms : Nat} {P : Int32 → hSt → Prop} {PX : Nat → Nat → hSt → Prop}
theorem kX1_reasonb12 (C : xC G p l s m args meth c cX1_reason 2 "ExcuseLedger") (hr : meth.sig.returnType = (Option.some Jvm.ClassFile.FieldType.int)) (hin : meth.name = "reason") (hT : ∀ x ∈ c.exceptionTable.toList, False) (hmc : mc = gL G - s.heap.size ∧ ms = gU G - hsum s.heap)   {v0 : Option Nat} {v1 : Int32} {s0 : Int32} {z : hSt} (hw : wX1_reasonb12 G P PX  v0 v1 s0 z) : kt G p l e (rmX1_reason mc ms) s m args below meth c 2 (vx_MQ below (cQ G (pI P)) (cX G PX) args s mc ms (gF G)) 12 [(0, va_rf v0), (1, .int v1)] [.int s0] z := by
  intro H locs ls hS hl
  refine c_S C hS hmc hl.1 (kX1_checkElement C.2.2.2.2.2.2.1) hw (lw_S q2494 q2495 q67 q2496) hdX1_checkElement ⟨Nat.le_of_ble_eq_true rfl, Nat.le_of_ble_eq_true rfl⟩ (rest := []) rfl rfl (Nat.le_of_ble_eq_true rfl) dX1_reason_12 (fun ci q z H locs hx hS ht => r_out C hS hmc (fun x hx => (hT x hx).elim) ht hx) (fun v z2 H locs hv hS => ?_)
  obtain ⟨rfl, hw⟩ := hv
  refine lv_iload_n C.1 C.2.1 dX1_reason_15 rfl (lv_at hl 1 rfl) ?_
  refine lv_if_eq C.1 C.2.1 dX1_reason_16 rfl (fun h => ?_) (fun h => ?_)
  · have hw := hw.1 h
    refine r_aload_n C.1 C.2.1 dX1_reason_29 rfl (lv_at hl 0 rfl) ?_
    refine r_getR C hS fo_0_6 (fl_d C q395) (fun _ h => h) dX1_reason_30 hw (fun x3 hw => ?_)
    refine r_getI C hS fo_8_6 (fl_n C q2037) (fun _ h => h) dX1_reason_33 hw (fun x4 hw => ?_)
    exact r_iret C hS hmc hr dX1_reason_36 hw
  · have hw := hw.2 h
    refine r_aload_n C.1 C.2.1 dX1_reason_19 rfl (lv_at hl 0 rfl) ?_
    refine r_getR C hS fo_0_6 (fl_d C q395) (fun _ h => h) dX1_reason_20 hw (fun x5 hw => ?_)
    refine r_getI C hS fo_8_7 (fl_n C q2039) (fun _ h => h) dX1_reason_23 hw (fun x6 hw => ?_)
    refine lv_goto C.1 C.2.1 dX1_reason_26 rfl ?_
    exact r_iret C hS hmc hr dX1_reason_36 hw
theorem kX1_reasonb0 (C : xC G p l s m args meth c cX1_reason 2 "ExcuseLedger") (hr : meth.sig.returnType = (Option.some Jvm.ClassFile.FieldType.int)) (hin : meth.name = "reason") (hT : ∀ x ∈ c.exceptionTable.toList, False) (hmc : mc = gL G - s.heap.size ∧ ms = gU G - hsum s.heap)   {v0 : Option Nat} {v1 : Int32} {z : hSt} (hw : wX1_reasonb0 G P PX  v0 v1 z) : kt G p l e (rmX1_reason mc ms) s m args below meth c 2 (vx_MQ below (cQ G (pI P)) (cX G PX) args s mc ms (gF G)) 0 [(0, va_rf v0), (1, .int v1)] [] z := by
  intro H locs ls hS hl
  refine r_aload_n C.1 C.2.1 dX1_reason_0 rfl (lv_at hl 0 rfl) ?_
  refine r_getR C hS fo_0_6 (fl_d C q395) (fun _ h => h) dX1_reason_1 hw (fun x1 hw => ?_)
  refine r_ifnull C.1 C.2.1 dX1_reason_4 rfl (fun h => ?_) (fun h => ?_)
  · have hw := hw.1 h
    refine lv_iconst C.1 C.2.1 (v := 0) dX1_reason_11 rfl ?_
    exact kX1_reasonb12 C hr hin hT hmc  hw H locs ls hS (lv_sub hl [0, 1] rfl)
  · have hw := hw.2 h
    refine lv_iconst C.1 C.2.1 (v := 1) dX1_reason_7 rfl ?_
    refine lv_goto C.1 C.2.1 dX1_reason_8 rfl ?_
    exact kX1_reasonb12 C hr hin hT hmc  hw H locs ls hS (lv_sub hl [0, 1] rfl)
end
theorem kX1_reason {l : Launch} (hl : l.stackTraces = false) {G : gE} {P : Int32 → hSt → Prop} {PX : Nat → Nat → hSt → Prop} {v0 : Option Nat} {v1 : Int32} {z : hSt} : cM l G yX1_reason (ws_ yX1_reason cX1_reason 2 (Option.some Jvm.ClassFile.FieldType.int)) 11 180 z [va_rf v0, .int v1] (wX1_reason G P PX v0 v1 z) (pI P) PX := by
  refine m_of hl (plainFor_of_name (by decide)) (by rw [lg_sl1 (va_rf_cat _), lg_sl1 rfl]; exact Nat.le_of_ble_eq_true rfl) ?_
  intro p e s m args below meth c C hr hin hT hmc hw
  rw [lv_args1 (va_rf_cat _), lv_args1 rfl]
  intro H locs ls hS hl
  exact kX1_reasonb0 C hr hin hT hmc hw H locs ls hS (lv_sub hl [0, 1] rfl)
theorem hdX1_reason : yX1_reason.cls ≠ "java/lang/invoke/MethodHandle" ∧ yX1_reason.cls ≠ "java/lang/invoke/VarHandle" ∧ (parseMethodDescriptor yX1_reason.desc).map (fun d => d.parameters.length) = some 1 := ⟨by decide +kernel, by decide +kernel, by decide +kernel⟩
abbrev rmX1_at (mc ms : Nat) : Room := { frames := 17, cells := mc, slots := ms, locals := 314 }
def wX1_atb0 (G : gE) (P : Int32 → hSt → Prop) (PX : Nat → Nat → hSt → Prop)  (v0 : Option Nat) (v1 : Int32) (v2 : Int32) (z : hSt) : Prop :=
  gtR z v0 [0] 0 (fun x1 => gtR z x1 [1] 0 (fun x2 => (rcv z x2 13 ∧ wJ1_size G (fun x4 z3 => wX1_isIn G (fun x6 z5 => wX1_checkElement G (fun z7 => gtR z7 v0 [0] 0 (fun x8 => (rcv z7 x8 1 ∧ wX2_all G (fun x10 z9 => (rcv z9 x10 15 ∧ wJ7_get G (fun x12 z11 => (ckO z11 x12 [7] ∧ gtR z11 x12 [7] 0 (fun x13 => ((v2 = 0 → gtI z11 x13 [5] 0 (fun x14 => P x14 z11)) ∧ (¬ v2 = 0 → gtI z11 x13 [5] 1 (fun x15 => P x15 z11)))))) PX x10 v1 z9)) PX x8  z7))) PX x6 z5) PX v1 0 (x4 - 1) z3) PX x2  z)))
def wX1_at (G : gE) (P : Int32 → hSt → Prop) (PX : Nat → Nat → hSt → Prop) (v0 : Option Nat) (v1 : Int32) (v2 : Int32) (z : hSt) : Prop := wX1_atb0 G P PX v0 v1 v2 z
section
variable {p : Program} {l : Launch} {e : Env} {s : State} {m : MethodId} {args : Array Value} {below : List Frame} {meth : Method} {c : Code} {G : gE} {mc ms : Nat} {P : Int32 → hSt → Prop} {PX : Nat → Nat → hSt → Prop}
theorem kX1_atb0 (C : xC G p l s m args meth c cX1_at 4 "ExcuseLedger") (hr : meth.sig.returnType = (Option.some Jvm.ClassFile.FieldType.int)) (hin : meth.name = "at") (hT : ∀ x ∈ c.exceptionTable.toList, False) (hmc : mc = gL G - s.heap.size ∧ ms = gU G - hsum s.heap)   {v0 : Option Nat} {v1 : Int32} {v2 : Int32} {z : hSt} (hw : wX1_atb0 G P PX  v0 v1 v2 z) : kt G p l e (rmX1_at mc ms) s m args below meth c 4 (vx_MQ below (cQ G (pI P)) (cX G PX) args s mc ms (gF G)) 0 [(0, va_rf v0), (1, .int v1), (2, .int v2)] [] z := by
  intro H locs ls hS hl
  refine lv_iload_n C.1 C.2.1 dX1_at_0 rfl (lv_at hl 1 rfl) ?_
  refine lv_iconst C.1 C.2.1 (v := 0) dX1_at_1 rfl ?_
  refine r_aload_n C.1 C.2.1 dX1_at_2 rfl (lv_at hl 0 rfl) ?_
  refine r_getR C hS fo_0_0 (fl_d C q389) (fun _ h => h) dX1_at_3 hw (fun x1 hw => ?_)
  refine r_getR C hS fo_1_0 (fl_n C q232) (fun _ h => h) dX1_at_6 hw (fun x2 hw => ?_)
  refine c_U C hS hmc hl.1 (ci := 13) rfl hw.1 (kJ1_size C.2.2.2.2.2.2.1) hw.2 q2353 q2018 (decl_w C q2019 (by decide)) (C.2.2.2.2.1 _ q2020) q1768 q70 q1770 ⟨by decide, by decide⟩ hdJ1_size.2.2 ⟨Nat.le_of_ble_eq_true rfl, Nat.le_of_ble_eq_true rfl⟩ (rest := [.int 0, .int v1]) rfl rfl (Nat.le_of_ble_eq_true rfl) dX1_at_9 (fun ci q z H locs hx hS ht => r_out C hS hmc (fun x hx => (hT x hx).elim) ht hx) (fun v z3 H locs hv hS => ?_)
  obtain ⟨x4, rfl, hw⟩ := hv
  refine lv_iconst C.1 C.2.1 (v := 1) dX1_at_12 rfl ?_
  refine lv_isub C.1 C.2.1 dX1_at_13 ?_
  refine c_S C hS hmc hl.1 (kX1_isIn C.2.2.2.2.2.2.1) hw (lw_S q1980 q1981 q67 q1982) hdX1_isIn ⟨Nat.le_of_ble_eq_true rfl, Nat.le_of_ble_eq_true rfl⟩ (rest := []) rfl rfl (Nat.le_of_ble_eq_true rfl) dX1_at_14 (fun ci q z H locs hx hS ht => r_out C hS hmc (fun x hx => (hT x hx).elim) ht hx) (fun v z5 H locs hv hS => ?_)
  obtain ⟨x6, rfl, hw⟩ := hv
  refine c_S C hS hmc hl.1 (kX1_checkElement C.2.2.2.2.2.2.1) hw (lw_S q2494 q2495 q67 q2496) hdX1_checkElement ⟨Nat.le_of_ble_eq_true rfl, Nat.le_of_ble_eq_true rfl⟩ (rest := []) rfl rfl (Nat.le_of_ble_eq_true rfl) dX1_at_17 (fun ci q z H locs hx hS ht => r_out C hS hmc (fun x hx => (hT x hx).elim) ht hx) (fun v z7 H locs hv hS => ?_)
  obtain ⟨rfl, hw⟩ := hv
  refine r_aload_n C.1 C.2.1 dX1_at_20 rfl (lv_at hl 0 rfl) ?_
  refine r_getR C hS fo_0_0 (fl_d C q389) (fun _ h => h) dX1_at_21 hw (fun x8 hw => ?_)
  refine c_V C hS hmc hl.1 (ci := 1) rfl hw.1 (kX2_all C.2.2.2.2.2.2.1) hw.2 (lw_V q2286 q2287 q2288 q68 q2289) ⟨rfl, hdX2_all⟩ ⟨Nat.le_of_ble_eq_true rfl, Nat.le_of_ble_eq_true rfl⟩ (rest := []) rfl rfl (Nat.le_of_ble_eq_true rfl) dX1_at_24 (fun ci q z H locs hx hS ht => r_out C hS hmc (fun x hx => (hT x hx).elim) ht hx) (fun v z9 H locs hv hS => ?_)
  obtain ⟨x10, rfl, hw⟩ := hv
  refine lv_iload_n C.1 C.2.1 dX1_at_27 rfl (lv_at hl 1 rfl) ?_
  refine c_V C hS hmc hl.1 (ci := 15) rfl hw.1 (kJ7_get C.2.2.2.2.2.2.1) hw.2 (lw_V q2524 q2525 q2526 q78 q2527) ⟨rfl, hdJ7_get⟩ ⟨Nat.le_of_ble_eq_true rfl, Nat.le_of_ble_eq_true rfl⟩ (rest := []) rfl rfl (Nat.le_of_ble_eq_true rfl) dX1_at_28 (fun ci q z H locs hx hS ht => r_out C hS hmc (fun x hx => (hT x hx).elim) ht hx) (fun v z11 H locs hv hS => ?_)
  obtain ⟨x12, rfl, hw⟩ := hv
  refine r_cast0 C hS q2493 ca_1 dX1_at_31 hw.1 ?_
  have hw := hw.2
  refine r_getR C hS fo_7_0 (fl_n C q863) (fun _ h => h) dX1_at_34 hw (fun x13 hw => ?_)
  refine r_astore_n C.1 C.2.1 dX1_at_37 rfl hl (Nat.le_of_ble_eq_true rfl) (ls_new (ls_old 2 rfl rfl (.inr rfl) ls_nil)) (fun ls hl => ?_)
  refine lv_iload_n C.1 C.2.1 dX1_at_38 rfl (lv_at hl 1 rfl) ?_
  refine lv_if_eq C.1 C.2.1 dX1_at_39 rfl (fun h => ?_) (fun h => ?_)
  · have hw := hw.1 h
    refine r_aload_n C.1 C.2.1 dX1_at_49 rfl (lv_at hl 0 rfl) ?_
    refine r_getI C hS fo_5_0 (fl_n C q2336) (fun _ h => h) dX1_at_50 hw (fun x14 hw => ?_)
    exact r_iret C hS hmc hr dX1_at_53 hw
  · have hw := hw.2 h
    refine r_aload_n C.1 C.2.1 dX1_at_42 rfl (lv_at hl 0 rfl) ?_
    refine r_getI C hS fo_5_1 (fl_n C q2339) (fun _ h => h) dX1_at_43 hw (fun x15 hw => ?_)
    refine lv_goto C.1 C.2.1 dX1_at_46 rfl ?_
    exact r_iret C hS hmc hr dX1_at_53 hw
end
theorem kX1_at {l : Launch} (hl : l.stackTraces = false) {G : gE} {P : Int32 → hSt → Prop} {PX : Nat → Nat → hSt → Prop} {v0 : Option Nat} {v1 : Int32} {v2 : Int32} {z : hSt} : cM l G yX1_at (ws_ yX1_at cX1_at 4 (Option.some Jvm.ClassFile.FieldType.int)) 17 314 z [va_rf v0, .int v1, .int v2] (wX1_at G P PX v0 v1 v2 z) (pI P) PX := by
  refine m_of hl (plainFor_of_name (by decide)) (by rw [lg_sl1 (va_rf_cat _), lg_sl1 rfl, lg_sl1 rfl]; exact Nat.le_of_ble_eq_true rfl) ?_
  intro p e s m args below meth c C hr hin hT hmc hw
  rw [lv_args1 (va_rf_cat _), lv_args1 rfl, lv_args1 rfl]
  intro H locs ls hS hl
  exact kX1_atb0 C hr hin hT hmc hw H locs ls hS (lv_sub hl [0, 1, 2] rfl)
theorem hdX1_at : yX1_at.cls ≠ "java/lang/invoke/MethodHandle" ∧ yX1_at.cls ≠ "java/lang/invoke/VarHandle" ∧ (parseMethodDescriptor yX1_at.desc).map (fun d => d.parameters.length) = some 2 := ⟨by decide +kernel, by decide +kernel, by decide +kernel⟩
