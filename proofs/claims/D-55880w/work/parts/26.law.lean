/-! printed: 26.law -/
set_option maxRecDepth 100000
theorem q66 : (Jvm.Cond.initialized "ExcuseLedgerLaw") ∈ lw_all := lw_g (lw_at lw_m1 0 rfl) rfl
theorem q134 : (Jvm.Cond.classLink "ExcuseLedgerLaw" (8 : Nat) "ExcuseLedger") ∈ lw_all := lw_g (lw_at lw_m1 68 rfl) rfl
theorem q135 : (Jvm.Cond.instantiable "ExcuseLedger" (7 : Nat)) ∈ lw_all := lw_g (lw_at lw_m1 69 rfl) rfl
theorem q136 : (Jvm.Cond.methodLink "ExcuseLedgerLaw" (135 : Nat) ({ cls := "ExcuseLedger", name := "<init>", desc := "()V" } : Jvm.MethodName)) ∈ lw_all := lw_g (lw_at lw_m1 70 rfl) rfl
theorem q137 : (Jvm.Cond.instanceMethod ({ cls := "ExcuseLedger", name := "<init>", desc := "()V" } : Jvm.MethodName)) ∈ lw_all := lw_g (lw_at lw_m1 71 rfl) rfl
theorem q138 : (Jvm.Cond.code ({ cls := "ExcuseLedger", name := "<init>", desc := "()V" } : Jvm.MethodName) prog_1_method_16_code (1 : Nat) (Option.none : Option Jvm.ClassFile.FieldType)) ∈ lw_all := lw_g (lw_at lw_m1 72 rfl) rfl
theorem q411 : (Jvm.Cond.methodLink "ExcuseLedgerLaw" (172 : Nat) ({ cls := "ExcuseLedger", name := "day", desc := "()I" } : Jvm.MethodName)) ∈ lw_all := lw_g (lw_at lw_m2 105 rfl) rfl
theorem q412 : (Jvm.Cond.instanceMethod ({ cls := "ExcuseLedger", name := "day", desc := "()I" } : Jvm.MethodName)) ∈ lw_all := lw_g (lw_at lw_m2 106 rfl) rfl
theorem q413 : (Jvm.Cond.selects "ExcuseLedger" ({ cls := "ExcuseLedger", name := "day", desc := "()I" } : Jvm.MethodName) ({ cls := "ExcuseLedger", name := "day", desc := "()I" } : Jvm.MethodName)) ∈ lw_all := lw_g (lw_at lw_m2 107 rfl) rfl
theorem q414 : (Jvm.Cond.code ({ cls := "ExcuseLedger", name := "day", desc := "()I" } : Jvm.MethodName) prog_1_method_32_code (1 : Nat) (Option.some Jvm.ClassFile.FieldType.int)) ∈ lw_all := lw_g (lw_at lw_m2 108 rfl) rfl
theorem q716 : (Jvm.Cond.castable "java/util/NoSuchElementException" "java/util/NoSuchElementException") ∈ lw_tbl := lw_at lw_m3 170 rfl
theorem q999 : (Jvm.Cond.castable "java/lang/IllegalArgumentException" "java/lang/IllegalArgumentException") ∈ lw_tbl := lw_at lw_m4 213 rfl
theorem q1943 : (Jvm.Cond.castable "java/lang/UnsupportedOperationException" "java/lang/UnsupportedOperationException") ∈ lw_tbl := lw_at lw_m8 197 rfl
theorem q1997 : (Jvm.Cond.castable "java/lang/IllegalStateException" "java/lang/IllegalStateException") ∈ lw_tbl := lw_at lw_m9 11 rfl
theorem q2262 : (Jvm.Cond.methodLink "ExcuseLedgerLaw" (210 : Nat) ({ cls := "ExcuseLedger", name := "chances", desc := "()I" } : Jvm.MethodName)) ∈ lw_all := lw_g (lw_at lw_m10 36 rfl) rfl
theorem q2263 : (Jvm.Cond.instanceMethod ({ cls := "ExcuseLedger", name := "chances", desc := "()I" } : Jvm.MethodName)) ∈ lw_all := lw_g (lw_at lw_m10 37 rfl) rfl
theorem q2264 : (Jvm.Cond.selects "ExcuseLedger" ({ cls := "ExcuseLedger", name := "chances", desc := "()I" } : Jvm.MethodName) ({ cls := "ExcuseLedger", name := "chances", desc := "()I" } : Jvm.MethodName)) ∈ lw_all := lw_g (lw_at lw_m10 38 rfl) rfl
theorem q2265 : (Jvm.Cond.code ({ cls := "ExcuseLedger", name := "chances", desc := "()I" } : Jvm.MethodName) prog_1_method_44_code (1 : Nat) (Option.some Jvm.ClassFile.FieldType.int)) ∈ lw_all := lw_g (lw_at lw_m10 39 rfl) rfl
theorem q2274 : (Jvm.Cond.methodLink "ExcuseLedgerLaw" (214 : Nat) ({ cls := "ExcuseLedger", name := "chancesAgain", desc := "()I" } : Jvm.MethodName)) ∈ lw_all := lw_g (lw_at lw_m10 48 rfl) rfl
theorem q2275 : (Jvm.Cond.instanceMethod ({ cls := "ExcuseLedger", name := "chancesAgain", desc := "()I" } : Jvm.MethodName)) ∈ lw_all := lw_g (lw_at lw_m10 49 rfl) rfl
theorem q2276 : (Jvm.Cond.selects "ExcuseLedger" ({ cls := "ExcuseLedger", name := "chancesAgain", desc := "()I" } : Jvm.MethodName) ({ cls := "ExcuseLedger", name := "chancesAgain", desc := "()I" } : Jvm.MethodName)) ∈ lw_all := lw_g (lw_at lw_m10 50 rfl) rfl
theorem q2277 : (Jvm.Cond.code ({ cls := "ExcuseLedger", name := "chancesAgain", desc := "()I" } : Jvm.MethodName) prog_1_method_45_code (1 : Nat) (Option.some Jvm.ClassFile.FieldType.int)) ∈ lw_all := lw_g (lw_at lw_m10 51 rfl) rfl
theorem q2282 : (Jvm.Cond.methodLink "ExcuseLedgerLaw" (218 : Nat) ({ cls := "ExcuseLedger", name := "worn", desc := "()I" } : Jvm.MethodName)) ∈ lw_all := lw_g (lw_at lw_m10 56 rfl) rfl
theorem q2283 : (Jvm.Cond.instanceMethod ({ cls := "ExcuseLedger", name := "worn", desc := "()I" } : Jvm.MethodName)) ∈ lw_all := lw_g (lw_at lw_m10 57 rfl) rfl
theorem q2284 : (Jvm.Cond.selects "ExcuseLedger" ({ cls := "ExcuseLedger", name := "worn", desc := "()I" } : Jvm.MethodName) ({ cls := "ExcuseLedger", name := "worn", desc := "()I" } : Jvm.MethodName)) ∈ lw_all := lw_g (lw_at lw_m10 58 rfl) rfl
theorem q2285 : (Jvm.Cond.code ({ cls := "ExcuseLedger", name := "worn", desc := "()I" } : Jvm.MethodName) prog_1_method_46_code (1 : Nat) (Option.some Jvm.ClassFile.FieldType.int)) ∈ lw_all := lw_g (lw_at lw_m10 59 rfl) rfl
theorem q2297 : (Jvm.Cond.methodLink "ExcuseLedgerLaw" (222 : Nat) ({ cls := "ExcuseLedger", name := "due", desc := "()I" } : Jvm.MethodName)) ∈ lw_all := lw_g (lw_at lw_m10 71 rfl) rfl
theorem q2298 : (Jvm.Cond.instanceMethod ({ cls := "ExcuseLedger", name := "due", desc := "()I" } : Jvm.MethodName)) ∈ lw_all := lw_g (lw_at lw_m10 72 rfl) rfl
theorem q2299 : (Jvm.Cond.selects "ExcuseLedger" ({ cls := "ExcuseLedger", name := "due", desc := "()I" } : Jvm.MethodName) ({ cls := "ExcuseLedger", name := "due", desc := "()I" } : Jvm.MethodName)) ∈ lw_all := lw_g (lw_at lw_m10 73 rfl) rfl
theorem q2300 : (Jvm.Cond.code ({ cls := "ExcuseLedger", name := "due", desc := "()I" } : Jvm.MethodName) prog_1_method_47_code (1 : Nat) (Option.some Jvm.ClassFile.FieldType.int)) ∈ lw_all := lw_g (lw_at lw_m10 74 rfl) rfl
theorem q2302 : (Jvm.Cond.methodLink "ExcuseLedgerLaw" (236 : Nat) ({ cls := "ExcuseLedger", name := "isFair", desc := "()Z" } : Jvm.MethodName)) ∈ lw_all := lw_g (lw_at lw_m10 76 rfl) rfl
theorem q2303 : (Jvm.Cond.instanceMethod ({ cls := "ExcuseLedger", name := "isFair", desc := "()Z" } : Jvm.MethodName)) ∈ lw_all := lw_g (lw_at lw_m10 77 rfl) rfl
theorem q2304 : (Jvm.Cond.selects "ExcuseLedger" ({ cls := "ExcuseLedger", name := "isFair", desc := "()Z" } : Jvm.MethodName) ({ cls := "ExcuseLedger", name := "isFair", desc := "()Z" } : Jvm.MethodName)) ∈ lw_all := lw_g (lw_at lw_m10 78 rfl) rfl
theorem q2305 : (Jvm.Cond.code ({ cls := "ExcuseLedger", name := "isFair", desc := "()Z" } : Jvm.MethodName) prog_1_method_51_code (1 : Nat) (Option.some Jvm.ClassFile.FieldType.boolean)) ∈ lw_all := lw_g (lw_at lw_m10 79 rfl) rfl
theorem q2349 : (Jvm.Cond.methodLink "ExcuseLedgerLaw" (277 : Nat) ({ cls := "ExcuseLedger", name := "save", desc := "()I" } : Jvm.MethodName)) ∈ lw_all := lw_g (lw_at lw_m10 123 rfl) rfl
theorem q2350 : (Jvm.Cond.instanceMethod ({ cls := "ExcuseLedger", name := "save", desc := "()I" } : Jvm.MethodName)) ∈ lw_all := lw_g (lw_at lw_m10 124 rfl) rfl
theorem q2351 : (Jvm.Cond.selects "ExcuseLedger" ({ cls := "ExcuseLedger", name := "save", desc := "()I" } : Jvm.MethodName) ({ cls := "ExcuseLedger", name := "save", desc := "()I" } : Jvm.MethodName)) ∈ lw_all := lw_g (lw_at lw_m10 125 rfl) rfl
theorem q2352 : (Jvm.Cond.code ({ cls := "ExcuseLedger", name := "save", desc := "()I" } : Jvm.MethodName) prog_1_method_63_code (1 : Nat) (Option.some Jvm.ClassFile.FieldType.int)) ∈ lw_all := lw_g (lw_at lw_m10 126 rfl) rfl
theorem q2354 : (Jvm.Cond.methodLink "ExcuseLedgerLaw" (139 : Nat) ({ cls := "ExcuseLedgerLaw", name := "enter", desc := "(LExcuseLedger;IIII[J)I" } : Jvm.MethodName)) ∈ lw_all := lw_g (lw_at lw_m10 128 rfl) rfl
theorem q2355 : (Jvm.Cond.static ({ cls := "ExcuseLedgerLaw", name := "enter", desc := "(LExcuseLedger;IIII[J)I" } : Jvm.MethodName)) ∈ lw_all := lw_g (lw_at lw_m10 129 rfl) rfl
theorem q2356 : (Jvm.Cond.codeWith ({ cls := "ExcuseLedgerLaw", name := "enter", desc := "(LExcuseLedger;IIII[J)I" } : Jvm.MethodName) method_3_code (7 : Nat) (Option.some Jvm.ClassFile.FieldType.int) [((0 : Nat), (14 : Nat), (17 : Nat), (13 : Nat)), ((0 : Nat), (14 : Nat), (21 : Nat), (15 : Nat)), ((0 : Nat), (14 : Nat), (25 : Nat), (17 : Nat))]) ∈ lw_all := lw_g (lw_at lw_m10 130 rfl) rfl
theorem q2357 : (Jvm.Cond.classLink "ExcuseLedgerLaw" (13 : Nat) "java/lang/IndexOutOfBoundsException") ∈ lw_all := lw_g (lw_at lw_m10 131 rfl) rfl
theorem q2376 : (Jvm.Cond.classLink "ExcuseLedgerLaw" (15 : Nat) "java/lang/IllegalArgumentException") ∈ lw_all := lw_g (lw_at lw_m10 150 rfl) rfl
theorem q2377 : (Jvm.Cond.classLink "ExcuseLedgerLaw" (17 : Nat) "java/lang/UnsupportedOperationException") ∈ lw_all := lw_g (lw_at lw_m10 151 rfl) rfl
theorem q2378 : (Jvm.Cond.methodLink "ExcuseLedgerLaw" (7 : Nat) ({ cls := "ExcuseLedger", name := "enter", desc := "(IIII)I" } : Jvm.MethodName)) ∈ lw_all := lw_g (lw_at lw_m10 152 rfl) rfl
theorem q2379 : (Jvm.Cond.instanceMethod ({ cls := "ExcuseLedger", name := "enter", desc := "(IIII)I" } : Jvm.MethodName)) ∈ lw_all := lw_g (lw_at lw_m10 153 rfl) rfl
theorem q2380 : (Jvm.Cond.selects "ExcuseLedger" ({ cls := "ExcuseLedger", name := "enter", desc := "(IIII)I" } : Jvm.MethodName) ({ cls := "ExcuseLedger", name := "enter", desc := "(IIII)I" } : Jvm.MethodName)) ∈ lw_all := lw_g (lw_at lw_m10 154 rfl) rfl
theorem q2381 : (Jvm.Cond.code ({ cls := "ExcuseLedger", name := "enter", desc := "(IIII)I" } : Jvm.MethodName) prog_1_method_24_code (5 : Nat) (Option.some Jvm.ClassFile.FieldType.int)) ∈ lw_all := lw_g (lw_at lw_m10 155 rfl) rfl
theorem q2388 : (Jvm.Cond.castable "java/lang/IndexOutOfBoundsException" "java/lang/IndexOutOfBoundsException") ∈ lw_tbl := lw_at lw_m10 162 rfl
theorem q2422 : (Jvm.Cond.methodLink "ExcuseLedgerLaw" (148 : Nat) ({ cls := "ExcuseLedgerLaw", name := "strike", desc := "(LExcuseLedger;II[J)I" } : Jvm.MethodName)) ∈ lw_all := lw_g (lw_at lw_m10 196 rfl) rfl
theorem q2423 : (Jvm.Cond.static ({ cls := "ExcuseLedgerLaw", name := "strike", desc := "(LExcuseLedger;II[J)I" } : Jvm.MethodName)) ∈ lw_all := lw_g (lw_at lw_m10 197 rfl) rfl
theorem q2424 : (Jvm.Cond.codeWith ({ cls := "ExcuseLedgerLaw", name := "strike", desc := "(LExcuseLedger;II[J)I" } : Jvm.MethodName) method_4_code (5 : Nat) (Option.some Jvm.ClassFile.FieldType.int) [((0 : Nat), (10 : Nat), (13 : Nat), (15 : Nat)), ((0 : Nat), (10 : Nat), (17 : Nat), (17 : Nat))]) ∈ lw_all := lw_g (lw_at lw_m10 198 rfl) rfl
theorem q2425 : (Jvm.Cond.methodLink "ExcuseLedgerLaw" (19 : Nat) ({ cls := "ExcuseLedger", name := "strike", desc := "(II)I" } : Jvm.MethodName)) ∈ lw_all := lw_g (lw_at lw_m10 199 rfl) rfl
theorem q2426 : (Jvm.Cond.instanceMethod ({ cls := "ExcuseLedger", name := "strike", desc := "(II)I" } : Jvm.MethodName)) ∈ lw_all := lw_g (lw_at lw_m10 200 rfl) rfl
theorem q2427 : (Jvm.Cond.selects "ExcuseLedger" ({ cls := "ExcuseLedger", name := "strike", desc := "(II)I" } : Jvm.MethodName) ({ cls := "ExcuseLedger", name := "strike", desc := "(II)I" } : Jvm.MethodName)) ∈ lw_all := lw_g (lw_at lw_m10 201 rfl) rfl
theorem q2428 : (Jvm.Cond.code ({ cls := "ExcuseLedger", name := "strike", desc := "(II)I" } : Jvm.MethodName) prog_1_method_25_code (3 : Nat) (Option.some Jvm.ClassFile.FieldType.int)) ∈ lw_all := lw_g (lw_at lw_m10 202 rfl) rfl
theorem q2430 : (Jvm.Cond.methodLink "ExcuseLedgerLaw" (152 : Nat) ({ cls := "ExcuseLedgerLaw", name := "lend", desc := "(LExcuseLedger;IIII[J)I" } : Jvm.MethodName)) ∈ lw_all := lw_g (lw_at lw_m10 204 rfl) rfl
theorem q2431 : (Jvm.Cond.static ({ cls := "ExcuseLedgerLaw", name := "lend", desc := "(LExcuseLedger;IIII[J)I" } : Jvm.MethodName)) ∈ lw_all := lw_g (lw_at lw_m10 205 rfl) rfl
theorem q2432 : (Jvm.Cond.codeWith ({ cls := "ExcuseLedgerLaw", name := "lend", desc := "(LExcuseLedger;IIII[J)I" } : Jvm.MethodName) method_5_code (7 : Nat) (Option.some Jvm.ClassFile.FieldType.int) [((0 : Nat), (14 : Nat), (17 : Nat), (15 : Nat)), ((0 : Nat), (14 : Nat), (21 : Nat), (13 : Nat)), ((0 : Nat), (14 : Nat), (25 : Nat), (17 : Nat))]) ∈ lw_all := lw_g (lw_at lw_m10 206 rfl) rfl
theorem q2433 : (Jvm.Cond.methodLink "ExcuseLedgerLaw" (23 : Nat) ({ cls := "ExcuseLedger", name := "lend", desc := "(IIII)I" } : Jvm.MethodName)) ∈ lw_all := lw_g (lw_at lw_m10 207 rfl) rfl
theorem q2434 : (Jvm.Cond.instanceMethod ({ cls := "ExcuseLedger", name := "lend", desc := "(IIII)I" } : Jvm.MethodName)) ∈ lw_all := lw_g (lw_at lw_m10 208 rfl) rfl
theorem q2435 : (Jvm.Cond.selects "ExcuseLedger" ({ cls := "ExcuseLedger", name := "lend", desc := "(IIII)I" } : Jvm.MethodName) ({ cls := "ExcuseLedger", name := "lend", desc := "(IIII)I" } : Jvm.MethodName)) ∈ lw_all := lw_g (lw_at lw_m10 209 rfl) rfl
theorem q2436 : (Jvm.Cond.code ({ cls := "ExcuseLedger", name := "lend", desc := "(IIII)I" } : Jvm.MethodName) prog_1_method_26_code (6 : Nat) (Option.some Jvm.ClassFile.FieldType.int)) ∈ lw_all := lw_g (lw_at lw_m10 210 rfl) rfl
theorem q2439 : (Jvm.Cond.methodLink "ExcuseLedgerLaw" (155 : Nat) ({ cls := "ExcuseLedgerLaw", name := "back", desc := "(LExcuseLedger;II[J)I" } : Jvm.MethodName)) ∈ lw_all := lw_g (lw_at lw_m10 213 rfl) rfl
theorem q2440 : (Jvm.Cond.static ({ cls := "ExcuseLedgerLaw", name := "back", desc := "(LExcuseLedger;II[J)I" } : Jvm.MethodName)) ∈ lw_all := lw_g (lw_at lw_m10 214 rfl) rfl
theorem q2441 : (Jvm.Cond.codeWith ({ cls := "ExcuseLedgerLaw", name := "back", desc := "(LExcuseLedger;II[J)I" } : Jvm.MethodName) method_6_code (5 : Nat) (Option.some Jvm.ClassFile.FieldType.int) [((0 : Nat), (10 : Nat), (13 : Nat), (15 : Nat)), ((0 : Nat), (10 : Nat), (17 : Nat), (17 : Nat))]) ∈ lw_all := lw_g (lw_at lw_m10 215 rfl) rfl
theorem q2442 : (Jvm.Cond.methodLink "ExcuseLedgerLaw" (26 : Nat) ({ cls := "ExcuseLedger", name := "back", desc := "(II)I" } : Jvm.MethodName)) ∈ lw_all := lw_g (lw_at lw_m10 216 rfl) rfl
theorem q2443 : (Jvm.Cond.instanceMethod ({ cls := "ExcuseLedger", name := "back", desc := "(II)I" } : Jvm.MethodName)) ∈ lw_all := lw_g (lw_at lw_m10 217 rfl) rfl
theorem q2444 : (Jvm.Cond.selects "ExcuseLedger" ({ cls := "ExcuseLedger", name := "back", desc := "(II)I" } : Jvm.MethodName) ({ cls := "ExcuseLedger", name := "back", desc := "(II)I" } : Jvm.MethodName)) ∈ lw_all := lw_g (lw_at lw_m10 218 rfl) rfl
theorem q2445 : (Jvm.Cond.code ({ cls := "ExcuseLedger", name := "back", desc := "(II)I" } : Jvm.MethodName) prog_1_method_27_code (3 : Nat) (Option.some Jvm.ClassFile.FieldType.int)) ∈ lw_all := lw_g (lw_at lw_m10 219 rfl) rfl
theorem q2447 : (Jvm.Cond.methodLink "ExcuseLedgerLaw" (158 : Nat) ({ cls := "ExcuseLedgerLaw", name := "mend", desc := "(LExcuseLedger;III[J)I" } : Jvm.MethodName)) ∈ lw_all := lw_g (lw_at lw_m10 221 rfl) rfl
theorem q2448 : (Jvm.Cond.static ({ cls := "ExcuseLedgerLaw", name := "mend", desc := "(LExcuseLedger;III[J)I" } : Jvm.MethodName)) ∈ lw_all := lw_g (lw_at lw_m10 222 rfl) rfl
theorem q2449 : (Jvm.Cond.codeWith ({ cls := "ExcuseLedgerLaw", name := "mend", desc := "(LExcuseLedger;III[J)I" } : Jvm.MethodName) method_7_code (6 : Nat) (Option.some Jvm.ClassFile.FieldType.int) [((0 : Nat), (12 : Nat), (15 : Nat), (15 : Nat)), ((0 : Nat), (12 : Nat), (19 : Nat), (17 : Nat))]) ∈ lw_all := lw_g (lw_at lw_m10 223 rfl) rfl
theorem q2450 : (Jvm.Cond.methodLink "ExcuseLedgerLaw" (29 : Nat) ({ cls := "ExcuseLedger", name := "mend", desc := "(III)I" } : Jvm.MethodName)) ∈ lw_all := lw_g (lw_at lw_m10 224 rfl) rfl
theorem q2451 : (Jvm.Cond.instanceMethod ({ cls := "ExcuseLedger", name := "mend", desc := "(III)I" } : Jvm.MethodName)) ∈ lw_all := lw_g (lw_at lw_m10 225 rfl) rfl
theorem q2452 : (Jvm.Cond.selects "ExcuseLedger" ({ cls := "ExcuseLedger", name := "mend", desc := "(III)I" } : Jvm.MethodName) ({ cls := "ExcuseLedger", name := "mend", desc := "(III)I" } : Jvm.MethodName)) ∈ lw_all := lw_g (lw_at lw_m10 226 rfl) rfl
theorem q2453 : (Jvm.Cond.code ({ cls := "ExcuseLedger", name := "mend", desc := "(III)I" } : Jvm.MethodName) prog_1_method_28_code (5 : Nat) (Option.some Jvm.ClassFile.FieldType.int)) ∈ lw_all := lw_g (lw_at lw_m10 227 rfl) rfl
theorem q2455 : (Jvm.Cond.methodLink "ExcuseLedgerLaw" (162 : Nat) ({ cls := "ExcuseLedgerLaw", name := "use", desc := "(LExcuseLedger;IIII[J)I" } : Jvm.MethodName)) ∈ lw_all := lw_g (lw_at lw_m10 229 rfl) rfl
theorem q2456 : (Jvm.Cond.static ({ cls := "ExcuseLedgerLaw", name := "use", desc := "(LExcuseLedger;IIII[J)I" } : Jvm.MethodName)) ∈ lw_all := lw_g (lw_at lw_m10 230 rfl) rfl
theorem q2457 : (Jvm.Cond.codeWith ({ cls := "ExcuseLedgerLaw", name := "use", desc := "(LExcuseLedger;IIII[J)I" } : Jvm.MethodName) method_8_code (7 : Nat) (Option.some Jvm.ClassFile.FieldType.int) [((0 : Nat), (21 : Nat), (24 : Nat), (13 : Nat)), ((0 : Nat), (21 : Nat), (28 : Nat), (15 : Nat)), ((0 : Nat), (21 : Nat), (32 : Nat), (17 : Nat))]) ∈ lw_all := lw_g (lw_at lw_m10 231 rfl) rfl
theorem q2458 : (Jvm.Cond.methodLink "ExcuseLedgerLaw" (33 : Nat) ({ cls := "ExcuseLedger", name := "use", desc := "(IIII)Z" } : Jvm.MethodName)) ∈ lw_all := lw_g (lw_at lw_m10 232 rfl) rfl
theorem q2459 : (Jvm.Cond.instanceMethod ({ cls := "ExcuseLedger", name := "use", desc := "(IIII)Z" } : Jvm.MethodName)) ∈ lw_all := lw_g (lw_at lw_m10 233 rfl) rfl
theorem q2460 : (Jvm.Cond.selects "ExcuseLedger" ({ cls := "ExcuseLedger", name := "use", desc := "(IIII)Z" } : Jvm.MethodName) ({ cls := "ExcuseLedger", name := "use", desc := "(IIII)Z" } : Jvm.MethodName)) ∈ lw_all := lw_g (lw_at lw_m10 234 rfl) rfl
theorem q2461 : (Jvm.Cond.code ({ cls := "ExcuseLedger", name := "use", desc := "(IIII)Z" } : Jvm.MethodName) prog_1_method_29_code (5 : Nat) (Option.some Jvm.ClassFile.FieldType.boolean)) ∈ lw_all := lw_g (lw_at lw_m10 235 rfl) rfl
theorem q2464 : (Jvm.Cond.methodLink "ExcuseLedgerLaw" (165 : Nat) ({ cls := "ExcuseLedgerLaw", name := "strict", desc := "(LExcuseLedger;II[J)I" } : Jvm.MethodName)) ∈ lw_all := lw_g (lw_at lw_m10 238 rfl) rfl
theorem q2465 : (Jvm.Cond.static ({ cls := "ExcuseLedgerLaw", name := "strict", desc := "(LExcuseLedger;II[J)I" } : Jvm.MethodName)) ∈ lw_all := lw_g (lw_at lw_m10 239 rfl) rfl
theorem q2466 : (Jvm.Cond.codeWith ({ cls := "ExcuseLedgerLaw", name := "strict", desc := "(LExcuseLedger;II[J)I" } : Jvm.MethodName) method_9_code (5 : Nat) (Option.some Jvm.ClassFile.FieldType.int) [((0 : Nat), (10 : Nat), (13 : Nat), (13 : Nat)), ((0 : Nat), (10 : Nat), (17 : Nat), (15 : Nat)), ((0 : Nat), (10 : Nat), (21 : Nat), (17 : Nat))]) ∈ lw_all := lw_g (lw_at lw_m11 0 rfl) rfl
theorem q2467 : (Jvm.Cond.methodLink "ExcuseLedgerLaw" (37 : Nat) ({ cls := "ExcuseLedger", name := "strict", desc := "(II)I" } : Jvm.MethodName)) ∈ lw_all := lw_g (lw_at lw_m11 1 rfl) rfl
theorem q2468 : (Jvm.Cond.instanceMethod ({ cls := "ExcuseLedger", name := "strict", desc := "(II)I" } : Jvm.MethodName)) ∈ lw_all := lw_g (lw_at lw_m11 2 rfl) rfl
theorem q2469 : (Jvm.Cond.selects "ExcuseLedger" ({ cls := "ExcuseLedger", name := "strict", desc := "(II)I" } : Jvm.MethodName) ({ cls := "ExcuseLedger", name := "strict", desc := "(II)I" } : Jvm.MethodName)) ∈ lw_all := lw_g (lw_at lw_m11 3 rfl) rfl
theorem q2470 : (Jvm.Cond.code ({ cls := "ExcuseLedger", name := "strict", desc := "(II)I" } : Jvm.MethodName) prog_1_method_30_code (3 : Nat) (Option.some Jvm.ClassFile.FieldType.int)) ∈ lw_all := lw_g (lw_at lw_m11 4 rfl) rfl
theorem q2472 : (Jvm.Cond.methodLink "ExcuseLedgerLaw" (168 : Nat) ({ cls := "ExcuseLedgerLaw", name := "weather", desc := "(LExcuseLedger;I[J)I" } : Jvm.MethodName)) ∈ lw_all := lw_g (lw_at lw_m11 6 rfl) rfl
theorem q2473 : (Jvm.Cond.static ({ cls := "ExcuseLedgerLaw", name := "weather", desc := "(LExcuseLedger;I[J)I" } : Jvm.MethodName)) ∈ lw_all := lw_g (lw_at lw_m11 7 rfl) rfl
theorem q2474 : (Jvm.Cond.codeWith ({ cls := "ExcuseLedgerLaw", name := "weather", desc := "(LExcuseLedger;I[J)I" } : Jvm.MethodName) method_10_code (4 : Nat) (Option.some Jvm.ClassFile.FieldType.int) [((0 : Nat), (9 : Nat), (12 : Nat), (15 : Nat)), ((0 : Nat), (9 : Nat), (15 : Nat), (17 : Nat))]) ∈ lw_all := lw_g (lw_at lw_m11 8 rfl) rfl
theorem q2475 : (Jvm.Cond.methodLink "ExcuseLedgerLaw" (40 : Nat) ({ cls := "ExcuseLedger", name := "weather", desc := "(I)I" } : Jvm.MethodName)) ∈ lw_all := lw_g (lw_at lw_m11 9 rfl) rfl
theorem q2476 : (Jvm.Cond.instanceMethod ({ cls := "ExcuseLedger", name := "weather", desc := "(I)I" } : Jvm.MethodName)) ∈ lw_all := lw_g (lw_at lw_m11 10 rfl) rfl
theorem q2477 : (Jvm.Cond.selects "ExcuseLedger" ({ cls := "ExcuseLedger", name := "weather", desc := "(I)I" } : Jvm.MethodName) ({ cls := "ExcuseLedger", name := "weather", desc := "(I)I" } : Jvm.MethodName)) ∈ lw_all := lw_g (lw_at lw_m11 11 rfl) rfl
theorem q2478 : (Jvm.Cond.code ({ cls := "ExcuseLedger", name := "weather", desc := "(I)I" } : Jvm.MethodName) prog_1_method_31_code (2 : Nat) (Option.some Jvm.ClassFile.FieldType.int)) ∈ lw_all := lw_g (lw_at lw_m11 12 rfl) rfl
theorem q2480 : (Jvm.Cond.methodLink "ExcuseLedgerLaw" (176 : Nat) ({ cls := "ExcuseLedgerLaw", name := "excuseOf", desc := "(LExcuseLedger;III[J)I" } : Jvm.MethodName)) ∈ lw_all := lw_g (lw_at lw_m11 14 rfl) rfl
theorem q2481 : (Jvm.Cond.static ({ cls := "ExcuseLedgerLaw", name := "excuseOf", desc := "(LExcuseLedger;III[J)I" } : Jvm.MethodName)) ∈ lw_all := lw_g (lw_at lw_m11 15 rfl) rfl
theorem q2482 : (Jvm.Cond.codeWith ({ cls := "ExcuseLedgerLaw", name := "excuseOf", desc := "(LExcuseLedger;III[J)I" } : Jvm.MethodName) method_11_code (6 : Nat) (Option.some Jvm.ClassFile.FieldType.int) [((0 : Nat), (12 : Nat), (15 : Nat), (15 : Nat)), ((0 : Nat), (12 : Nat), (19 : Nat), (47 : Nat))]) ∈ lw_all := lw_g (lw_at lw_m11 16 rfl) rfl
theorem q2483 : (Jvm.Cond.classLink "ExcuseLedgerLaw" (47 : Nat) "java/util/NoSuchElementException") ∈ lw_all := lw_g (lw_at lw_m11 17 rfl) rfl
theorem q2484 : (Jvm.Cond.methodLink "ExcuseLedgerLaw" (44 : Nat) ({ cls := "ExcuseLedger", name := "excuseOf", desc := "(III)I" } : Jvm.MethodName)) ∈ lw_all := lw_g (lw_at lw_m11 18 rfl) rfl
theorem q2485 : (Jvm.Cond.instanceMethod ({ cls := "ExcuseLedger", name := "excuseOf", desc := "(III)I" } : Jvm.MethodName)) ∈ lw_all := lw_g (lw_at lw_m11 19 rfl) rfl
theorem q2486 : (Jvm.Cond.selects "ExcuseLedger" ({ cls := "ExcuseLedger", name := "excuseOf", desc := "(III)I" } : Jvm.MethodName) ({ cls := "ExcuseLedger", name := "excuseOf", desc := "(III)I" } : Jvm.MethodName)) ∈ lw_all := lw_g (lw_at lw_m11 20 rfl) rfl
theorem q2487 : (Jvm.Cond.code ({ cls := "ExcuseLedger", name := "excuseOf", desc := "(III)I" } : Jvm.MethodName) prog_1_method_33_code (5 : Nat) (Option.some Jvm.ClassFile.FieldType.int)) ∈ lw_all := lw_g (lw_at lw_m11 21 rfl) rfl
theorem q2517 : (Jvm.Cond.methodLink "ExcuseLedgerLaw" (179 : Nat) ({ cls := "ExcuseLedgerLaw", name := "at", desc := "(LExcuseLedger;IZ[J)I" } : Jvm.MethodName)) ∈ lw_all := lw_g (lw_at lw_m11 51 rfl) rfl
theorem q2518 : (Jvm.Cond.static ({ cls := "ExcuseLedgerLaw", name := "at", desc := "(LExcuseLedger;IZ[J)I" } : Jvm.MethodName)) ∈ lw_all := lw_g (lw_at lw_m11 52 rfl) rfl
theorem q2519 : (Jvm.Cond.codeWith ({ cls := "ExcuseLedgerLaw", name := "at", desc := "(LExcuseLedger;IZ[J)I" } : Jvm.MethodName) method_12_code (5 : Nat) (Option.some Jvm.ClassFile.FieldType.int) [((0 : Nat), (10 : Nat), (13 : Nat), (47 : Nat))]) ∈ lw_all := lw_g (lw_at lw_m11 53 rfl) rfl
theorem q2520 : (Jvm.Cond.methodLink "ExcuseLedgerLaw" (49 : Nat) ({ cls := "ExcuseLedger", name := "at", desc := "(IZ)I" } : Jvm.MethodName)) ∈ lw_all := lw_g (lw_at lw_m11 54 rfl) rfl
theorem q2521 : (Jvm.Cond.instanceMethod ({ cls := "ExcuseLedger", name := "at", desc := "(IZ)I" } : Jvm.MethodName)) ∈ lw_all := lw_g (lw_at lw_m11 55 rfl) rfl
theorem q2522 : (Jvm.Cond.selects "ExcuseLedger" ({ cls := "ExcuseLedger", name := "at", desc := "(IZ)I" } : Jvm.MethodName) ({ cls := "ExcuseLedger", name := "at", desc := "(IZ)I" } : Jvm.MethodName)) ∈ lw_all := lw_g (lw_at lw_m11 56 rfl) rfl
theorem q2523 : (Jvm.Cond.code ({ cls := "ExcuseLedger", name := "at", desc := "(IZ)I" } : Jvm.MethodName) prog_1_method_34_code (4 : Nat) (Option.some Jvm.ClassFile.FieldType.int)) ∈ lw_all := lw_g (lw_at lw_m11 57 rfl) rfl
theorem q2532 : (Jvm.Cond.methodLink "ExcuseLedgerLaw" (183 : Nat) ({ cls := "ExcuseLedgerLaw", name := "pupilOf", desc := "(LExcuseLedger;II[J)I" } : Jvm.MethodName)) ∈ lw_all := lw_g (lw_at lw_m11 66 rfl) rfl
theorem q2533 : (Jvm.Cond.static ({ cls := "ExcuseLedgerLaw", name := "pupilOf", desc := "(LExcuseLedger;II[J)I" } : Jvm.MethodName)) ∈ lw_all := lw_g (lw_at lw_m11 67 rfl) rfl
theorem q2534 : (Jvm.Cond.codeWith ({ cls := "ExcuseLedgerLaw", name := "pupilOf", desc := "(LExcuseLedger;II[J)I" } : Jvm.MethodName) method_13_code (5 : Nat) (Option.some Jvm.ClassFile.FieldType.int) [((0 : Nat), (10 : Nat), (13 : Nat), (13 : Nat)), ((0 : Nat), (10 : Nat), (17 : Nat), (15 : Nat))]) ∈ lw_all := lw_g (lw_at lw_m11 68 rfl) rfl
theorem q2535 : (Jvm.Cond.methodLink "ExcuseLedgerLaw" (53 : Nat) ({ cls := "ExcuseLedger", name := "pupilOf", desc := "(II)I" } : Jvm.MethodName)) ∈ lw_all := lw_g (lw_at lw_m11 69 rfl) rfl
theorem q2536 : (Jvm.Cond.instanceMethod ({ cls := "ExcuseLedger", name := "pupilOf", desc := "(II)I" } : Jvm.MethodName)) ∈ lw_all := lw_g (lw_at lw_m11 70 rfl) rfl
theorem q2537 : (Jvm.Cond.selects "ExcuseLedger" ({ cls := "ExcuseLedger", name := "pupilOf", desc := "(II)I" } : Jvm.MethodName) ({ cls := "ExcuseLedger", name := "pupilOf", desc := "(II)I" } : Jvm.MethodName)) ∈ lw_all := lw_g (lw_at lw_m11 71 rfl) rfl
theorem q2538 : (Jvm.Cond.code ({ cls := "ExcuseLedger", name := "pupilOf", desc := "(II)I" } : Jvm.MethodName) prog_1_method_35_code (4 : Nat) (Option.some Jvm.ClassFile.FieldType.int)) ∈ lw_all := lw_g (lw_at lw_m11 72 rfl) rfl
theorem q2544 : (Jvm.Cond.methodLink "ExcuseLedgerLaw" (186 : Nat) ({ cls := "ExcuseLedgerLaw", name := "schoolOf", desc := "(LExcuseLedger;II[J)I" } : Jvm.MethodName)) ∈ lw_all := lw_g (lw_at lw_m11 78 rfl) rfl
theorem q2545 : (Jvm.Cond.static ({ cls := "ExcuseLedgerLaw", name := "schoolOf", desc := "(LExcuseLedger;II[J)I" } : Jvm.MethodName)) ∈ lw_all := lw_g (lw_at lw_m11 79 rfl) rfl
theorem q2546 : (Jvm.Cond.codeWith ({ cls := "ExcuseLedgerLaw", name := "schoolOf", desc := "(LExcuseLedger;II[J)I" } : Jvm.MethodName) method_14_code (5 : Nat) (Option.some Jvm.ClassFile.FieldType.int) [((0 : Nat), (10 : Nat), (13 : Nat), (13 : Nat)), ((0 : Nat), (10 : Nat), (17 : Nat), (15 : Nat))]) ∈ lw_all := lw_g (lw_at lw_m11 80 rfl) rfl
theorem q2547 : (Jvm.Cond.methodLink "ExcuseLedgerLaw" (56 : Nat) ({ cls := "ExcuseLedger", name := "schoolOf", desc := "(II)I" } : Jvm.MethodName)) ∈ lw_all := lw_g (lw_at lw_m11 81 rfl) rfl
theorem q2548 : (Jvm.Cond.instanceMethod ({ cls := "ExcuseLedger", name := "schoolOf", desc := "(II)I" } : Jvm.MethodName)) ∈ lw_all := lw_g (lw_at lw_m11 82 rfl) rfl
theorem q2549 : (Jvm.Cond.selects "ExcuseLedger" ({ cls := "ExcuseLedger", name := "schoolOf", desc := "(II)I" } : Jvm.MethodName) ({ cls := "ExcuseLedger", name := "schoolOf", desc := "(II)I" } : Jvm.MethodName)) ∈ lw_all := lw_g (lw_at lw_m11 83 rfl) rfl
theorem q2550 : (Jvm.Cond.code ({ cls := "ExcuseLedger", name := "schoolOf", desc := "(II)I" } : Jvm.MethodName) prog_1_method_36_code (3 : Nat) (Option.some Jvm.ClassFile.FieldType.int)) ∈ lw_all := lw_g (lw_at lw_m11 84 rfl) rfl
theorem q2560 : (Jvm.Cond.methodLink "ExcuseLedgerLaw" (189 : Nat) ({ cls := "ExcuseLedgerLaw", name := "dog", desc := "(LExcuseLedger;I[J)I" } : Jvm.MethodName)) ∈ lw_all := lw_g (lw_at lw_m11 94 rfl) rfl
theorem q2561 : (Jvm.Cond.static ({ cls := "ExcuseLedgerLaw", name := "dog", desc := "(LExcuseLedger;I[J)I" } : Jvm.MethodName)) ∈ lw_all := lw_g (lw_at lw_m11 95 rfl) rfl
theorem q2562 : (Jvm.Cond.codeWith ({ cls := "ExcuseLedgerLaw", name := "dog", desc := "(LExcuseLedger;I[J)I" } : Jvm.MethodName) method_15_code (4 : Nat) (Option.some Jvm.ClassFile.FieldType.int) [((0 : Nat), (9 : Nat), (12 : Nat), (15 : Nat))]) ∈ lw_all := lw_g (lw_at lw_m11 96 rfl) rfl
theorem q2563 : (Jvm.Cond.methodLink "ExcuseLedgerLaw" (59 : Nat) ({ cls := "ExcuseLedger", name := "dog", desc := "(I)I" } : Jvm.MethodName)) ∈ lw_all := lw_g (lw_at lw_m11 97 rfl) rfl
theorem q2564 : (Jvm.Cond.instanceMethod ({ cls := "ExcuseLedger", name := "dog", desc := "(I)I" } : Jvm.MethodName)) ∈ lw_all := lw_g (lw_at lw_m11 98 rfl) rfl
theorem q2565 : (Jvm.Cond.selects "ExcuseLedger" ({ cls := "ExcuseLedger", name := "dog", desc := "(I)I" } : Jvm.MethodName) ({ cls := "ExcuseLedger", name := "dog", desc := "(I)I" } : Jvm.MethodName)) ∈ lw_all := lw_g (lw_at lw_m11 99 rfl) rfl
theorem q2566 : (Jvm.Cond.code ({ cls := "ExcuseLedger", name := "dog", desc := "(I)I" } : Jvm.MethodName) prog_1_method_37_code (2 : Nat) (Option.some Jvm.ClassFile.FieldType.int)) ∈ lw_all := lw_g (lw_at lw_m11 100 rfl) rfl
theorem q2568 : (Jvm.Cond.methodLink "ExcuseLedgerLaw" (192 : Nat) ({ cls := "ExcuseLedgerLaw", name := "heard", desc := "(LExcuseLedger;IIII[J)I" } : Jvm.MethodName)) ∈ lw_all := lw_g (lw_at lw_m11 102 rfl) rfl
theorem q2569 : (Jvm.Cond.static ({ cls := "ExcuseLedgerLaw", name := "heard", desc := "(LExcuseLedger;IIII[J)I" } : Jvm.MethodName)) ∈ lw_all := lw_g (lw_at lw_m11 103 rfl) rfl
theorem q2570 : (Jvm.Cond.codeWith ({ cls := "ExcuseLedgerLaw", name := "heard", desc := "(LExcuseLedger;IIII[J)I" } : Jvm.MethodName) method_16_code (7 : Nat) (Option.some Jvm.ClassFile.FieldType.int) [((0 : Nat), (21 : Nat), (24 : Nat), (13 : Nat)), ((0 : Nat), (21 : Nat), (28 : Nat), (15 : Nat))]) ∈ lw_all := lw_g (lw_at lw_m11 104 rfl) rfl
theorem q2571 : (Jvm.Cond.methodLink "ExcuseLedgerLaw" (62 : Nat) ({ cls := "ExcuseLedger", name := "heard", desc := "(IIII)Z" } : Jvm.MethodName)) ∈ lw_all := lw_g (lw_at lw_m11 105 rfl) rfl
theorem q2572 : (Jvm.Cond.instanceMethod ({ cls := "ExcuseLedger", name := "heard", desc := "(IIII)Z" } : Jvm.MethodName)) ∈ lw_all := lw_g (lw_at lw_m11 106 rfl) rfl
theorem q2573 : (Jvm.Cond.selects "ExcuseLedger" ({ cls := "ExcuseLedger", name := "heard", desc := "(IIII)Z" } : Jvm.MethodName) ({ cls := "ExcuseLedger", name := "heard", desc := "(IIII)Z" } : Jvm.MethodName)) ∈ lw_all := lw_g (lw_at lw_m11 107 rfl) rfl
theorem q2574 : (Jvm.Cond.code ({ cls := "ExcuseLedger", name := "heard", desc := "(IIII)Z" } : Jvm.MethodName) prog_1_method_38_code (5 : Nat) (Option.some Jvm.ClassFile.FieldType.boolean)) ∈ lw_all := lw_g (lw_at lw_m11 108 rfl) rfl
theorem q2578 : (Jvm.Cond.methodLink "ExcuseLedgerLaw" (195 : Nat) ({ cls := "ExcuseLedgerLaw", name := "would", desc := "(LExcuseLedger;IIII[J)I" } : Jvm.MethodName)) ∈ lw_all := lw_g (lw_at lw_m11 112 rfl) rfl
theorem q2579 : (Jvm.Cond.static ({ cls := "ExcuseLedgerLaw", name := "would", desc := "(LExcuseLedger;IIII[J)I" } : Jvm.MethodName)) ∈ lw_all := lw_g (lw_at lw_m11 113 rfl) rfl
theorem q2580 : (Jvm.Cond.codeWith ({ cls := "ExcuseLedgerLaw", name := "would", desc := "(LExcuseLedger;IIII[J)I" } : Jvm.MethodName) method_17_code (7 : Nat) (Option.some Jvm.ClassFile.FieldType.int) [((0 : Nat), (21 : Nat), (24 : Nat), (13 : Nat)), ((0 : Nat), (21 : Nat), (28 : Nat), (15 : Nat)), ((0 : Nat), (21 : Nat), (32 : Nat), (47 : Nat))]) ∈ lw_all := lw_g (lw_at lw_m11 114 rfl) rfl
theorem q2581 : (Jvm.Cond.methodLink "ExcuseLedgerLaw" (65 : Nat) ({ cls := "ExcuseLedger", name := "would", desc := "(IIII)Z" } : Jvm.MethodName)) ∈ lw_all := lw_g (lw_at lw_m11 115 rfl) rfl
theorem q2582 : (Jvm.Cond.instanceMethod ({ cls := "ExcuseLedger", name := "would", desc := "(IIII)Z" } : Jvm.MethodName)) ∈ lw_all := lw_g (lw_at lw_m11 116 rfl) rfl
theorem q2583 : (Jvm.Cond.selects "ExcuseLedger" ({ cls := "ExcuseLedger", name := "would", desc := "(IIII)Z" } : Jvm.MethodName) ({ cls := "ExcuseLedger", name := "would", desc := "(IIII)Z" } : Jvm.MethodName)) ∈ lw_all := lw_g (lw_at lw_m11 117 rfl) rfl
theorem q2584 : (Jvm.Cond.code ({ cls := "ExcuseLedger", name := "would", desc := "(IIII)Z" } : Jvm.MethodName) prog_1_method_39_code (5 : Nat) (Option.some Jvm.ClassFile.FieldType.boolean)) ∈ lw_all := lw_g (lw_at lw_m11 118 rfl) rfl
theorem q2586 : (Jvm.Cond.methodLink "ExcuseLedgerLaw" (198 : Nat) ({ cls := "ExcuseLedgerLaw", name := "believers", desc := "(LExcuseLedger;III[J)I" } : Jvm.MethodName)) ∈ lw_all := lw_g (lw_at lw_m11 120 rfl) rfl
theorem q2587 : (Jvm.Cond.static ({ cls := "ExcuseLedgerLaw", name := "believers", desc := "(LExcuseLedger;III[J)I" } : Jvm.MethodName)) ∈ lw_all := lw_g (lw_at lw_m11 121 rfl) rfl
theorem q2588 : (Jvm.Cond.codeWith ({ cls := "ExcuseLedgerLaw", name := "believers", desc := "(LExcuseLedger;III[J)I" } : Jvm.MethodName) method_18_code (6 : Nat) (Option.some Jvm.ClassFile.FieldType.int) [((0 : Nat), (12 : Nat), (15 : Nat), (13 : Nat)), ((0 : Nat), (12 : Nat), (19 : Nat), (15 : Nat)), ((0 : Nat), (12 : Nat), (23 : Nat), (47 : Nat))]) ∈ lw_all := lw_g (lw_at lw_m11 122 rfl) rfl
theorem q2589 : (Jvm.Cond.methodLink "ExcuseLedgerLaw" (68 : Nat) ({ cls := "ExcuseLedger", name := "believers", desc := "(III)I" } : Jvm.MethodName)) ∈ lw_all := lw_g (lw_at lw_m11 123 rfl) rfl
theorem q2590 : (Jvm.Cond.instanceMethod ({ cls := "ExcuseLedger", name := "believers", desc := "(III)I" } : Jvm.MethodName)) ∈ lw_all := lw_g (lw_at lw_m11 124 rfl) rfl
theorem q2591 : (Jvm.Cond.selects "ExcuseLedger" ({ cls := "ExcuseLedger", name := "believers", desc := "(III)I" } : Jvm.MethodName) ({ cls := "ExcuseLedger", name := "believers", desc := "(III)I" } : Jvm.MethodName)) ∈ lw_all := lw_g (lw_at lw_m11 125 rfl) rfl
theorem q2592 : (Jvm.Cond.code ({ cls := "ExcuseLedger", name := "believers", desc := "(III)I" } : Jvm.MethodName) prog_1_method_40_code (4 : Nat) (Option.some Jvm.ClassFile.FieldType.int)) ∈ lw_all := lw_g (lw_at lw_m11 126 rfl) rfl
theorem q2594 : (Jvm.Cond.methodLink "ExcuseLedgerLaw" (201 : Nat) ({ cls := "ExcuseLedgerLaw", name := "left", desc := "(LExcuseLedger;I[J)I" } : Jvm.MethodName)) ∈ lw_all := lw_g (lw_at lw_m11 128 rfl) rfl
theorem q2595 : (Jvm.Cond.static ({ cls := "ExcuseLedgerLaw", name := "left", desc := "(LExcuseLedger;I[J)I" } : Jvm.MethodName)) ∈ lw_all := lw_g (lw_at lw_m11 129 rfl) rfl
theorem q2596 : (Jvm.Cond.codeWith ({ cls := "ExcuseLedgerLaw", name := "left", desc := "(LExcuseLedger;I[J)I" } : Jvm.MethodName) method_19_code (4 : Nat) (Option.some Jvm.ClassFile.FieldType.int) [((0 : Nat), (9 : Nat), (12 : Nat), (13 : Nat))]) ∈ lw_all := lw_g (lw_at lw_m11 130 rfl) rfl
theorem q2597 : (Jvm.Cond.methodLink "ExcuseLedgerLaw" (71 : Nat) ({ cls := "ExcuseLedger", name := "left", desc := "(I)I" } : Jvm.MethodName)) ∈ lw_all := lw_g (lw_at lw_m11 131 rfl) rfl
theorem q2598 : (Jvm.Cond.instanceMethod ({ cls := "ExcuseLedger", name := "left", desc := "(I)I" } : Jvm.MethodName)) ∈ lw_all := lw_g (lw_at lw_m11 132 rfl) rfl
theorem q2599 : (Jvm.Cond.selects "ExcuseLedger" ({ cls := "ExcuseLedger", name := "left", desc := "(I)I" } : Jvm.MethodName) ({ cls := "ExcuseLedger", name := "left", desc := "(I)I" } : Jvm.MethodName)) ∈ lw_all := lw_g (lw_at lw_m11 133 rfl) rfl
theorem q2600 : (Jvm.Cond.code ({ cls := "ExcuseLedger", name := "left", desc := "(I)I" } : Jvm.MethodName) prog_1_method_41_code (2 : Nat) (Option.some Jvm.ClassFile.FieldType.int)) ∈ lw_all := lw_g (lw_at lw_m11 134 rfl) rfl
theorem q2602 : (Jvm.Cond.methodLink "ExcuseLedgerLaw" (204 : Nat) ({ cls := "ExcuseLedgerLaw", name := "leftAgain", desc := "(LExcuseLedger;I[J)I" } : Jvm.MethodName)) ∈ lw_all := lw_g (lw_at lw_m11 136 rfl) rfl
theorem q2603 : (Jvm.Cond.static ({ cls := "ExcuseLedgerLaw", name := "leftAgain", desc := "(LExcuseLedger;I[J)I" } : Jvm.MethodName)) ∈ lw_all := lw_g (lw_at lw_m11 137 rfl) rfl
theorem q2604 : (Jvm.Cond.codeWith ({ cls := "ExcuseLedgerLaw", name := "leftAgain", desc := "(LExcuseLedger;I[J)I" } : Jvm.MethodName) method_20_code (4 : Nat) (Option.some Jvm.ClassFile.FieldType.int) [((0 : Nat), (9 : Nat), (12 : Nat), (13 : Nat))]) ∈ lw_all := lw_g (lw_at lw_m11 138 rfl) rfl
theorem q2605 : (Jvm.Cond.methodLink "ExcuseLedgerLaw" (74 : Nat) ({ cls := "ExcuseLedger", name := "leftAgain", desc := "(I)I" } : Jvm.MethodName)) ∈ lw_all := lw_g (lw_at lw_m11 139 rfl) rfl
theorem q2606 : (Jvm.Cond.instanceMethod ({ cls := "ExcuseLedger", name := "leftAgain", desc := "(I)I" } : Jvm.MethodName)) ∈ lw_all := lw_g (lw_at lw_m11 140 rfl) rfl
theorem q2607 : (Jvm.Cond.selects "ExcuseLedger" ({ cls := "ExcuseLedger", name := "leftAgain", desc := "(I)I" } : Jvm.MethodName) ({ cls := "ExcuseLedger", name := "leftAgain", desc := "(I)I" } : Jvm.MethodName)) ∈ lw_all := lw_g (lw_at lw_m11 141 rfl) rfl
theorem q2608 : (Jvm.Cond.code ({ cls := "ExcuseLedger", name := "leftAgain", desc := "(I)I" } : Jvm.MethodName) prog_1_method_42_code (2 : Nat) (Option.some Jvm.ClassFile.FieldType.int)) ∈ lw_all := lw_g (lw_at lw_m11 142 rfl) rfl
theorem q2610 : (Jvm.Cond.methodLink "ExcuseLedgerLaw" (207 : Nat) ({ cls := "ExcuseLedgerLaw", name := "best", desc := "(LExcuseLedger;II[J)I" } : Jvm.MethodName)) ∈ lw_all := lw_g (lw_at lw_m11 144 rfl) rfl
theorem q2611 : (Jvm.Cond.static ({ cls := "ExcuseLedgerLaw", name := "best", desc := "(LExcuseLedger;II[J)I" } : Jvm.MethodName)) ∈ lw_all := lw_g (lw_at lw_m11 145 rfl) rfl
theorem q2612 : (Jvm.Cond.codeWith ({ cls := "ExcuseLedgerLaw", name := "best", desc := "(LExcuseLedger;II[J)I" } : Jvm.MethodName) method_21_code (5 : Nat) (Option.some Jvm.ClassFile.FieldType.int) [((0 : Nat), (10 : Nat), (13 : Nat), (13 : Nat)), ((0 : Nat), (10 : Nat), (17 : Nat), (47 : Nat))]) ∈ lw_all := lw_g (lw_at lw_m11 146 rfl) rfl
theorem q2613 : (Jvm.Cond.methodLink "ExcuseLedgerLaw" (77 : Nat) ({ cls := "ExcuseLedger", name := "best", desc := "(II)I" } : Jvm.MethodName)) ∈ lw_all := lw_g (lw_at lw_m11 147 rfl) rfl
theorem q2614 : (Jvm.Cond.instanceMethod ({ cls := "ExcuseLedger", name := "best", desc := "(II)I" } : Jvm.MethodName)) ∈ lw_all := lw_g (lw_at lw_m11 148 rfl) rfl
theorem q2615 : (Jvm.Cond.selects "ExcuseLedger" ({ cls := "ExcuseLedger", name := "best", desc := "(II)I" } : Jvm.MethodName) ({ cls := "ExcuseLedger", name := "best", desc := "(II)I" } : Jvm.MethodName)) ∈ lw_all := lw_g (lw_at lw_m11 149 rfl) rfl
theorem q2616 : (Jvm.Cond.code ({ cls := "ExcuseLedger", name := "best", desc := "(II)I" } : Jvm.MethodName) prog_1_method_43_code (3 : Nat) (Option.some Jvm.ClassFile.FieldType.int)) ∈ lw_all := lw_g (lw_at lw_m11 150 rfl) rfl
theorem q2625 : (Jvm.Cond.methodLink "ExcuseLedgerLaw" (226 : Nat) ({ cls := "ExcuseLedgerLaw", name := "ranked", desc := "(LExcuseLedger;I[J)I" } : Jvm.MethodName)) ∈ lw_all := lw_g (lw_at lw_m11 159 rfl) rfl
theorem q2626 : (Jvm.Cond.static ({ cls := "ExcuseLedgerLaw", name := "ranked", desc := "(LExcuseLedger;I[J)I" } : Jvm.MethodName)) ∈ lw_all := lw_g (lw_at lw_m11 160 rfl) rfl
theorem q2627 : (Jvm.Cond.codeWith ({ cls := "ExcuseLedgerLaw", name := "ranked", desc := "(LExcuseLedger;I[J)I" } : Jvm.MethodName) method_22_code (4 : Nat) (Option.some Jvm.ClassFile.FieldType.int) [((0 : Nat), (9 : Nat), (12 : Nat), (47 : Nat))]) ∈ lw_all := lw_g (lw_at lw_m11 161 rfl) rfl
theorem q2628 : (Jvm.Cond.methodLink "ExcuseLedgerLaw" (80 : Nat) ({ cls := "ExcuseLedger", name := "ranked", desc := "(I)I" } : Jvm.MethodName)) ∈ lw_all := lw_g (lw_at lw_m11 162 rfl) rfl
theorem q2629 : (Jvm.Cond.instanceMethod ({ cls := "ExcuseLedger", name := "ranked", desc := "(I)I" } : Jvm.MethodName)) ∈ lw_all := lw_g (lw_at lw_m11 163 rfl) rfl
theorem q2630 : (Jvm.Cond.selects "ExcuseLedger" ({ cls := "ExcuseLedger", name := "ranked", desc := "(I)I" } : Jvm.MethodName) ({ cls := "ExcuseLedger", name := "ranked", desc := "(I)I" } : Jvm.MethodName)) ∈ lw_all := lw_g (lw_at lw_m11 164 rfl) rfl
theorem q2631 : (Jvm.Cond.code ({ cls := "ExcuseLedger", name := "ranked", desc := "(I)I" } : Jvm.MethodName) prog_1_method_48_code (2 : Nat) (Option.some Jvm.ClassFile.FieldType.int)) ∈ lw_all := lw_g (lw_at lw_m11 165 rfl) rfl
theorem q2641 : (Jvm.Cond.methodLink "ExcuseLedgerLaw" (229 : Nat) ({ cls := "ExcuseLedgerLaw", name := "freshest", desc := "(LExcuseLedger;I[J)I" } : Jvm.MethodName)) ∈ lw_all := lw_g (lw_at lw_m11 175 rfl) rfl
theorem q2642 : (Jvm.Cond.static ({ cls := "ExcuseLedgerLaw", name := "freshest", desc := "(LExcuseLedger;I[J)I" } : Jvm.MethodName)) ∈ lw_all := lw_g (lw_at lw_m11 176 rfl) rfl
theorem q2643 : (Jvm.Cond.codeWith ({ cls := "ExcuseLedgerLaw", name := "freshest", desc := "(LExcuseLedger;I[J)I" } : Jvm.MethodName) method_23_code (4 : Nat) (Option.some Jvm.ClassFile.FieldType.int) [((0 : Nat), (9 : Nat), (12 : Nat), (47 : Nat))]) ∈ lw_all := lw_g (lw_at lw_m11 177 rfl) rfl
theorem q2644 : (Jvm.Cond.methodLink "ExcuseLedgerLaw" (83 : Nat) ({ cls := "ExcuseLedger", name := "freshest", desc := "(I)I" } : Jvm.MethodName)) ∈ lw_all := lw_g (lw_at lw_m11 178 rfl) rfl
theorem q2645 : (Jvm.Cond.instanceMethod ({ cls := "ExcuseLedger", name := "freshest", desc := "(I)I" } : Jvm.MethodName)) ∈ lw_all := lw_g (lw_at lw_m11 179 rfl) rfl
theorem q2646 : (Jvm.Cond.selects "ExcuseLedger" ({ cls := "ExcuseLedger", name := "freshest", desc := "(I)I" } : Jvm.MethodName) ({ cls := "ExcuseLedger", name := "freshest", desc := "(I)I" } : Jvm.MethodName)) ∈ lw_all := lw_g (lw_at lw_m11 180 rfl) rfl
theorem q2647 : (Jvm.Cond.code ({ cls := "ExcuseLedger", name := "freshest", desc := "(I)I" } : Jvm.MethodName) prog_1_method_49_code (2 : Nat) (Option.some Jvm.ClassFile.FieldType.int)) ∈ lw_all := lw_g (lw_at lw_m11 181 rfl) rfl
theorem q2656 : (Jvm.Cond.methodLink "ExcuseLedgerLaw" (232 : Nat) ({ cls := "ExcuseLedgerLaw", name := "strongest", desc := "(LExcuseLedger;[J)I" } : Jvm.MethodName)) ∈ lw_all := lw_g (lw_at lw_m11 190 rfl) rfl
theorem q2657 : (Jvm.Cond.static ({ cls := "ExcuseLedgerLaw", name := "strongest", desc := "(LExcuseLedger;[J)I" } : Jvm.MethodName)) ∈ lw_all := lw_g (lw_at lw_m11 191 rfl) rfl
theorem q2658 : (Jvm.Cond.codeWith ({ cls := "ExcuseLedgerLaw", name := "strongest", desc := "(LExcuseLedger;[J)I" } : Jvm.MethodName) method_24_code (3 : Nat) (Option.some Jvm.ClassFile.FieldType.int) [((0 : Nat), (8 : Nat), (11 : Nat), (47 : Nat))]) ∈ lw_all := lw_g (lw_at lw_m11 192 rfl) rfl
theorem q2659 : (Jvm.Cond.methodLink "ExcuseLedgerLaw" (86 : Nat) ({ cls := "ExcuseLedger", name := "strongest", desc := "()I" } : Jvm.MethodName)) ∈ lw_all := lw_g (lw_at lw_m11 193 rfl) rfl
theorem q2660 : (Jvm.Cond.instanceMethod ({ cls := "ExcuseLedger", name := "strongest", desc := "()I" } : Jvm.MethodName)) ∈ lw_all := lw_g (lw_at lw_m11 194 rfl) rfl
theorem q2661 : (Jvm.Cond.selects "ExcuseLedger" ({ cls := "ExcuseLedger", name := "strongest", desc := "()I" } : Jvm.MethodName) ({ cls := "ExcuseLedger", name := "strongest", desc := "()I" } : Jvm.MethodName)) ∈ lw_all := lw_g (lw_at lw_m11 195 rfl) rfl
theorem q2662 : (Jvm.Cond.code ({ cls := "ExcuseLedger", name := "strongest", desc := "()I" } : Jvm.MethodName) prog_1_method_50_code (1 : Nat) (Option.some Jvm.ClassFile.FieldType.int)) ∈ lw_all := lw_g (lw_at lw_m11 196 rfl) rfl
theorem q2674 : (Jvm.Cond.methodLink "ExcuseLedgerLaw" (241 : Nat) ({ cls := "ExcuseLedgerLaw", name := "tell", desc := "(LExcuseLedger;II[J)I" } : Jvm.MethodName)) ∈ lw_all := lw_g (lw_at lw_m11 208 rfl) rfl
theorem q2675 : (Jvm.Cond.static ({ cls := "ExcuseLedgerLaw", name := "tell", desc := "(LExcuseLedger;II[J)I" } : Jvm.MethodName)) ∈ lw_all := lw_g (lw_at lw_m11 209 rfl) rfl
theorem q2676 : (Jvm.Cond.codeWith ({ cls := "ExcuseLedgerLaw", name := "tell", desc := "(LExcuseLedger;II[J)I" } : Jvm.MethodName) method_25_code (5 : Nat) (Option.some Jvm.ClassFile.FieldType.int) [((0 : Nat), (10 : Nat), (13 : Nat), (15 : Nat)), ((0 : Nat), (10 : Nat), (17 : Nat), (47 : Nat))]) ∈ lw_all := lw_g (lw_at lw_m11 210 rfl) rfl
theorem q2677 : (Jvm.Cond.methodLink "ExcuseLedgerLaw" (90 : Nat) ({ cls := "ExcuseLedger", name := "tell", desc := "(II)I" } : Jvm.MethodName)) ∈ lw_all := lw_g (lw_at lw_m11 211 rfl) rfl
theorem q2678 : (Jvm.Cond.instanceMethod ({ cls := "ExcuseLedger", name := "tell", desc := "(II)I" } : Jvm.MethodName)) ∈ lw_all := lw_g (lw_at lw_m11 212 rfl) rfl
theorem q2679 : (Jvm.Cond.selects "ExcuseLedger" ({ cls := "ExcuseLedger", name := "tell", desc := "(II)I" } : Jvm.MethodName) ({ cls := "ExcuseLedger", name := "tell", desc := "(II)I" } : Jvm.MethodName)) ∈ lw_all := lw_g (lw_at lw_m11 213 rfl) rfl
theorem q2680 : (Jvm.Cond.code ({ cls := "ExcuseLedger", name := "tell", desc := "(II)I" } : Jvm.MethodName) prog_1_method_52_code (3 : Nat) (Option.some Jvm.ClassFile.FieldType.int)) ∈ lw_all := lw_g (lw_at lw_m11 214 rfl) rfl
theorem q2757 : (Jvm.Cond.methodLink "ExcuseLedgerLaw" (244 : Nat) ({ cls := "ExcuseLedgerLaw", name := "bag", desc := "(LExcuseLedger;I[J)I" } : Jvm.MethodName)) ∈ lw_all := lw_g (lw_at lw_m12 51 rfl) rfl
theorem q2758 : (Jvm.Cond.static ({ cls := "ExcuseLedgerLaw", name := "bag", desc := "(LExcuseLedger;I[J)I" } : Jvm.MethodName)) ∈ lw_all := lw_g (lw_at lw_m12 52 rfl) rfl
theorem q2759 : (Jvm.Cond.codeWith ({ cls := "ExcuseLedgerLaw", name := "bag", desc := "(LExcuseLedger;I[J)I" } : Jvm.MethodName) method_26_code (4 : Nat) (Option.some Jvm.ClassFile.FieldType.int) [((0 : Nat), (9 : Nat), (12 : Nat), (13 : Nat))]) ∈ lw_all := lw_g (lw_at lw_m12 53 rfl) rfl
theorem q2760 : (Jvm.Cond.methodLink "ExcuseLedgerLaw" (93 : Nat) ({ cls := "ExcuseLedger", name := "bag", desc := "(I)I" } : Jvm.MethodName)) ∈ lw_all := lw_g (lw_at lw_m12 54 rfl) rfl
theorem q2761 : (Jvm.Cond.instanceMethod ({ cls := "ExcuseLedger", name := "bag", desc := "(I)I" } : Jvm.MethodName)) ∈ lw_all := lw_g (lw_at lw_m12 55 rfl) rfl
theorem q2762 : (Jvm.Cond.selects "ExcuseLedger" ({ cls := "ExcuseLedger", name := "bag", desc := "(I)I" } : Jvm.MethodName) ({ cls := "ExcuseLedger", name := "bag", desc := "(I)I" } : Jvm.MethodName)) ∈ lw_all := lw_g (lw_at lw_m12 56 rfl) rfl
theorem q2763 : (Jvm.Cond.code ({ cls := "ExcuseLedger", name := "bag", desc := "(I)I" } : Jvm.MethodName) prog_1_method_53_code (5 : Nat) (Option.some Jvm.ClassFile.FieldType.int)) ∈ lw_all := lw_g (lw_at lw_m12 57 rfl) rfl
theorem q2773 : (Jvm.Cond.methodLink "ExcuseLedgerLaw" (247 : Nat) ({ cls := "ExcuseLedgerLaw", name := "character", desc := "(LExcuseLedger;I[J)I" } : Jvm.MethodName)) ∈ lw_all := lw_g (lw_at lw_m12 67 rfl) rfl
theorem q2774 : (Jvm.Cond.static ({ cls := "ExcuseLedgerLaw", name := "character", desc := "(LExcuseLedger;I[J)I" } : Jvm.MethodName)) ∈ lw_all := lw_g (lw_at lw_m12 68 rfl) rfl
theorem q2775 : (Jvm.Cond.codeWith ({ cls := "ExcuseLedgerLaw", name := "character", desc := "(LExcuseLedger;I[J)I" } : Jvm.MethodName) method_27_code (4 : Nat) (Option.some Jvm.ClassFile.FieldType.int) [((0 : Nat), (9 : Nat), (12 : Nat), (47 : Nat))]) ∈ lw_all := lw_g (lw_at lw_m12 69 rfl) rfl
theorem q2776 : (Jvm.Cond.methodLink "ExcuseLedgerLaw" (96 : Nat) ({ cls := "ExcuseLedger", name := "character", desc := "(I)C" } : Jvm.MethodName)) ∈ lw_all := lw_g (lw_at lw_m12 70 rfl) rfl
theorem q2777 : (Jvm.Cond.instanceMethod ({ cls := "ExcuseLedger", name := "character", desc := "(I)C" } : Jvm.MethodName)) ∈ lw_all := lw_g (lw_at lw_m12 71 rfl) rfl
theorem q2778 : (Jvm.Cond.selects "ExcuseLedger" ({ cls := "ExcuseLedger", name := "character", desc := "(I)C" } : Jvm.MethodName) ({ cls := "ExcuseLedger", name := "character", desc := "(I)C" } : Jvm.MethodName)) ∈ lw_all := lw_g (lw_at lw_m12 72 rfl) rfl
theorem q2779 : (Jvm.Cond.code ({ cls := "ExcuseLedger", name := "character", desc := "(I)C" } : Jvm.MethodName) prog_1_method_54_code (2 : Nat) (Option.some Jvm.ClassFile.FieldType.char)) ∈ lw_all := lw_g (lw_at lw_m12 73 rfl) rfl
theorem q2781 : (Jvm.Cond.methodLink "ExcuseLedgerLaw" (250 : Nat) ({ cls := "ExcuseLedgerLaw", name := "meanWear", desc := "(LExcuseLedger;[D)I" } : Jvm.MethodName)) ∈ lw_all := lw_g (lw_at lw_m12 75 rfl) rfl
theorem q2782 : (Jvm.Cond.static ({ cls := "ExcuseLedgerLaw", name := "meanWear", desc := "(LExcuseLedger;[D)I" } : Jvm.MethodName)) ∈ lw_all := lw_g (lw_at lw_m12 76 rfl) rfl
theorem q2783 : (Jvm.Cond.codeWith ({ cls := "ExcuseLedgerLaw", name := "meanWear", desc := "(LExcuseLedger;[D)I" } : Jvm.MethodName) method_28_code (3 : Nat) (Option.some Jvm.ClassFile.FieldType.int) [((0 : Nat), (7 : Nat), (10 : Nat), (104 : Nat))]) ∈ lw_all := lw_g (lw_at lw_m12 77 rfl) rfl
theorem q2784 : (Jvm.Cond.classLink "ExcuseLedgerLaw" (104 : Nat) "java/lang/ArithmeticException") ∈ lw_all := lw_g (lw_at lw_m12 78 rfl) rfl
theorem q2796 : (Jvm.Cond.castable "java/lang/ArithmeticException" "java/lang/ArithmeticException") ∈ lw_tbl := lw_at lw_m12 90 rfl
theorem q2798 : (Jvm.Cond.methodLink "ExcuseLedgerLaw" (100 : Nat) ({ cls := "ExcuseLedger", name := "meanWear", desc := "()D" } : Jvm.MethodName)) ∈ lw_all := lw_g (lw_at lw_m12 92 rfl) rfl
theorem q2799 : (Jvm.Cond.instanceMethod ({ cls := "ExcuseLedger", name := "meanWear", desc := "()D" } : Jvm.MethodName)) ∈ lw_all := lw_g (lw_at lw_m12 93 rfl) rfl
theorem q2800 : (Jvm.Cond.selects "ExcuseLedger" ({ cls := "ExcuseLedger", name := "meanWear", desc := "()D" } : Jvm.MethodName) ({ cls := "ExcuseLedger", name := "meanWear", desc := "()D" } : Jvm.MethodName)) ∈ lw_all := lw_g (lw_at lw_m12 94 rfl) rfl
theorem q2801 : (Jvm.Cond.code ({ cls := "ExcuseLedger", name := "meanWear", desc := "()D" } : Jvm.MethodName) prog_1_method_55_code (4 : Nat) (Option.some Jvm.ClassFile.FieldType.double)) ∈ lw_all := lw_g (lw_at lw_m12 95 rfl) rfl
theorem q2813 : (Jvm.Cond.methodLink "ExcuseLedgerLaw" (254 : Nat) ({ cls := "ExcuseLedgerLaw", name := "believedShare", desc := "(LExcuseLedger;[D)I" } : Jvm.MethodName)) ∈ lw_all := lw_g (lw_at lw_m12 107 rfl) rfl
theorem q2814 : (Jvm.Cond.static ({ cls := "ExcuseLedgerLaw", name := "believedShare", desc := "(LExcuseLedger;[D)I" } : Jvm.MethodName)) ∈ lw_all := lw_g (lw_at lw_m12 108 rfl) rfl
theorem q2815 : (Jvm.Cond.codeWith ({ cls := "ExcuseLedgerLaw", name := "believedShare", desc := "(LExcuseLedger;[D)I" } : Jvm.MethodName) method_29_code (3 : Nat) (Option.some Jvm.ClassFile.FieldType.int) [((0 : Nat), (8 : Nat), (11 : Nat), (104 : Nat))]) ∈ lw_all := lw_g (lw_at lw_m12 109 rfl) rfl
theorem q2816 : (Jvm.Cond.methodLink "ExcuseLedgerLaw" (106 : Nat) ({ cls := "ExcuseLedger", name := "believedShare", desc := "()F" } : Jvm.MethodName)) ∈ lw_all := lw_g (lw_at lw_m12 110 rfl) rfl
theorem q2817 : (Jvm.Cond.instanceMethod ({ cls := "ExcuseLedger", name := "believedShare", desc := "()F" } : Jvm.MethodName)) ∈ lw_all := lw_g (lw_at lw_m12 111 rfl) rfl
theorem q2818 : (Jvm.Cond.selects "ExcuseLedger" ({ cls := "ExcuseLedger", name := "believedShare", desc := "()F" } : Jvm.MethodName) ({ cls := "ExcuseLedger", name := "believedShare", desc := "()F" } : Jvm.MethodName)) ∈ lw_all := lw_g (lw_at lw_m12 112 rfl) rfl
theorem q2819 : (Jvm.Cond.code ({ cls := "ExcuseLedger", name := "believedShare", desc := "()F" } : Jvm.MethodName) prog_1_method_56_code (1 : Nat) (Option.some Jvm.ClassFile.FieldType.float)) ∈ lw_all := lw_g (lw_at lw_m12 113 rfl) rfl
theorem q2825 : (Jvm.Cond.methodLink "ExcuseLedgerLaw" (257 : Nat) ({ cls := "ExcuseLedgerLaw", name := "account", desc := "(LExcuseLedger;I[J)I" } : Jvm.MethodName)) ∈ lw_all := lw_g (lw_at lw_m12 119 rfl) rfl
theorem q2826 : (Jvm.Cond.static ({ cls := "ExcuseLedgerLaw", name := "account", desc := "(LExcuseLedger;I[J)I" } : Jvm.MethodName)) ∈ lw_all := lw_g (lw_at lw_m12 120 rfl) rfl
theorem q2827 : (Jvm.Cond.codeWith ({ cls := "ExcuseLedgerLaw", name := "account", desc := "(LExcuseLedger;I[J)I" } : Jvm.MethodName) method_30_code (4 : Nat) (Option.some Jvm.ClassFile.FieldType.int) [((0 : Nat), (9 : Nat), (12 : Nat), (15 : Nat))]) ∈ lw_all := lw_g (lw_at lw_m12 121 rfl) rfl
theorem q2828 : (Jvm.Cond.methodLink "ExcuseLedgerLaw" (110 : Nat) ({ cls := "ExcuseLedger", name := "account", desc := "(I)I" } : Jvm.MethodName)) ∈ lw_all := lw_g (lw_at lw_m12 122 rfl) rfl
theorem q2829 : (Jvm.Cond.instanceMethod ({ cls := "ExcuseLedger", name := "account", desc := "(I)I" } : Jvm.MethodName)) ∈ lw_all := lw_g (lw_at lw_m12 123 rfl) rfl
theorem q2830 : (Jvm.Cond.selects "ExcuseLedger" ({ cls := "ExcuseLedger", name := "account", desc := "(I)I" } : Jvm.MethodName) ({ cls := "ExcuseLedger", name := "account", desc := "(I)I" } : Jvm.MethodName)) ∈ lw_all := lw_g (lw_at lw_m12 124 rfl) rfl
theorem q2831 : (Jvm.Cond.code ({ cls := "ExcuseLedger", name := "account", desc := "(I)I" } : Jvm.MethodName) prog_1_method_57_code (2 : Nat) (Option.some Jvm.ClassFile.FieldType.int)) ∈ lw_all := lw_g (lw_at lw_m12 125 rfl) rfl
theorem q2836 : (Jvm.Cond.methodLink "ExcuseLedgerLaw" (260 : Nat) ({ cls := "ExcuseLedgerLaw", name := "append", desc := "(LExcuseLedger;C[J)I" } : Jvm.MethodName)) ∈ lw_all := lw_g (lw_at lw_m12 130 rfl) rfl
theorem q2837 : (Jvm.Cond.static ({ cls := "ExcuseLedgerLaw", name := "append", desc := "(LExcuseLedger;C[J)I" } : Jvm.MethodName)) ∈ lw_all := lw_g (lw_at lw_m12 131 rfl) rfl
theorem q2838 : (Jvm.Cond.codeWith ({ cls := "ExcuseLedgerLaw", name := "append", desc := "(LExcuseLedger;C[J)I" } : Jvm.MethodName) method_31_code (4 : Nat) (Option.some Jvm.ClassFile.FieldType.int) [((0 : Nat), (9 : Nat), (12 : Nat), (15 : Nat)), ((0 : Nat), (9 : Nat), (15 : Nat), (117 : Nat))]) ∈ lw_all := lw_g (lw_at lw_m12 132 rfl) rfl
theorem q2839 : (Jvm.Cond.classLink "ExcuseLedgerLaw" (117 : Nat) "java/lang/IllegalStateException") ∈ lw_all := lw_g (lw_at lw_m12 133 rfl) rfl
theorem q2840 : (Jvm.Cond.methodLink "ExcuseLedgerLaw" (113 : Nat) ({ cls := "ExcuseLedger", name := "append", desc := "(C)I" } : Jvm.MethodName)) ∈ lw_all := lw_g (lw_at lw_m12 134 rfl) rfl
theorem q2841 : (Jvm.Cond.instanceMethod ({ cls := "ExcuseLedger", name := "append", desc := "(C)I" } : Jvm.MethodName)) ∈ lw_all := lw_g (lw_at lw_m12 135 rfl) rfl
theorem q2842 : (Jvm.Cond.selects "ExcuseLedger" ({ cls := "ExcuseLedger", name := "append", desc := "(C)I" } : Jvm.MethodName) ({ cls := "ExcuseLedger", name := "append", desc := "(C)I" } : Jvm.MethodName)) ∈ lw_all := lw_g (lw_at lw_m12 136 rfl) rfl
theorem q2843 : (Jvm.Cond.code ({ cls := "ExcuseLedger", name := "append", desc := "(C)I" } : Jvm.MethodName) prog_1_method_58_code (2 : Nat) (Option.some Jvm.ClassFile.FieldType.int)) ∈ lw_all := lw_g (lw_at lw_m12 137 rfl) rfl
theorem q2846 : (Jvm.Cond.methodLink "ExcuseLedgerLaw" (264 : Nat) ({ cls := "ExcuseLedgerLaw", name := "read", desc := "(LExcuseLedger;[J)I" } : Jvm.MethodName)) ∈ lw_all := lw_g (lw_at lw_m12 140 rfl) rfl
theorem q2847 : (Jvm.Cond.static ({ cls := "ExcuseLedgerLaw", name := "read", desc := "(LExcuseLedger;[J)I" } : Jvm.MethodName)) ∈ lw_all := lw_g (lw_at lw_m12 141 rfl) rfl
theorem q2848 : (Jvm.Cond.codeWith ({ cls := "ExcuseLedgerLaw", name := "read", desc := "(LExcuseLedger;[J)I" } : Jvm.MethodName) method_32_code (3 : Nat) (Option.some Jvm.ClassFile.FieldType.int) [((0 : Nat), (8 : Nat), (11 : Nat), (15 : Nat)), ((0 : Nat), (8 : Nat), (14 : Nat), (117 : Nat)), ((0 : Nat), (8 : Nat), (17 : Nat), (17 : Nat))]) ∈ lw_all := lw_g (lw_at lw_m12 142 rfl) rfl
theorem q2849 : (Jvm.Cond.methodLink "ExcuseLedgerLaw" (119 : Nat) ({ cls := "ExcuseLedger", name := "read", desc := "()I" } : Jvm.MethodName)) ∈ lw_all := lw_g (lw_at lw_m12 143 rfl) rfl
theorem q2850 : (Jvm.Cond.instanceMethod ({ cls := "ExcuseLedger", name := "read", desc := "()I" } : Jvm.MethodName)) ∈ lw_all := lw_g (lw_at lw_m12 144 rfl) rfl
theorem q2851 : (Jvm.Cond.selects "ExcuseLedger" ({ cls := "ExcuseLedger", name := "read", desc := "()I" } : Jvm.MethodName) ({ cls := "ExcuseLedger", name := "read", desc := "()I" } : Jvm.MethodName)) ∈ lw_all := lw_g (lw_at lw_m12 145 rfl) rfl
theorem q2852 : (Jvm.Cond.codeWith ({ cls := "ExcuseLedger", name := "read", desc := "()I" } : Jvm.MethodName) prog_1_method_59_code (6 : Nat) (Option.some Jvm.ClassFile.FieldType.int) [((23 : Nat), (86 : Nat), (87 : Nat), (399 : Nat)), ((23 : Nat), (86 : Nat), (101 : Nat), (29 : Nat))]) ∈ lw_all := lw_g (lw_at lw_m12 146 rfl) rfl
theorem q3066 : (Jvm.Cond.methodLink "ExcuseLedgerLaw" (267 : Nat) ({ cls := "ExcuseLedgerLaw", name := "errorPosition", desc := "(LExcuseLedger;[J)I" } : Jvm.MethodName)) ∈ lw_all := lw_g (lw_at lw_m13 120 rfl) rfl
theorem q3067 : (Jvm.Cond.static ({ cls := "ExcuseLedgerLaw", name := "errorPosition", desc := "(LExcuseLedger;[J)I" } : Jvm.MethodName)) ∈ lw_all := lw_g (lw_at lw_m13 121 rfl) rfl
theorem q3068 : (Jvm.Cond.codeWith ({ cls := "ExcuseLedgerLaw", name := "errorPosition", desc := "(LExcuseLedger;[J)I" } : Jvm.MethodName) method_33_code (3 : Nat) (Option.some Jvm.ClassFile.FieldType.int) [((0 : Nat), (8 : Nat), (11 : Nat), (47 : Nat))]) ∈ lw_all := lw_g (lw_at lw_m13 122 rfl) rfl
theorem q3069 : (Jvm.Cond.methodLink "ExcuseLedgerLaw" (122 : Nat) ({ cls := "ExcuseLedger", name := "errorPosition", desc := "()I" } : Jvm.MethodName)) ∈ lw_all := lw_g (lw_at lw_m13 123 rfl) rfl
theorem q3070 : (Jvm.Cond.instanceMethod ({ cls := "ExcuseLedger", name := "errorPosition", desc := "()I" } : Jvm.MethodName)) ∈ lw_all := lw_g (lw_at lw_m13 124 rfl) rfl
theorem q3071 : (Jvm.Cond.selects "ExcuseLedger" ({ cls := "ExcuseLedger", name := "errorPosition", desc := "()I" } : Jvm.MethodName) ({ cls := "ExcuseLedger", name := "errorPosition", desc := "()I" } : Jvm.MethodName)) ∈ lw_all := lw_g (lw_at lw_m13 125 rfl) rfl
theorem q3072 : (Jvm.Cond.code ({ cls := "ExcuseLedger", name := "errorPosition", desc := "()I" } : Jvm.MethodName) prog_1_method_60_code (1 : Nat) (Option.some Jvm.ClassFile.FieldType.int)) ∈ lw_all := lw_g (lw_at lw_m13 126 rfl) rfl
theorem q3073 : (Jvm.Cond.methodLink "ExcuseLedgerLaw" (270 : Nat) ({ cls := "ExcuseLedgerLaw", name := "reason", desc := "(LExcuseLedger;Z[J)I" } : Jvm.MethodName)) ∈ lw_all := lw_g (lw_at lw_m13 127 rfl) rfl
theorem q3074 : (Jvm.Cond.static ({ cls := "ExcuseLedgerLaw", name := "reason", desc := "(LExcuseLedger;Z[J)I" } : Jvm.MethodName)) ∈ lw_all := lw_g (lw_at lw_m13 128 rfl) rfl
theorem q3075 : (Jvm.Cond.codeWith ({ cls := "ExcuseLedgerLaw", name := "reason", desc := "(LExcuseLedger;Z[J)I" } : Jvm.MethodName) method_34_code (4 : Nat) (Option.some Jvm.ClassFile.FieldType.int) [((0 : Nat), (9 : Nat), (12 : Nat), (47 : Nat))]) ∈ lw_all := lw_g (lw_at lw_m13 129 rfl) rfl
theorem q3076 : (Jvm.Cond.methodLink "ExcuseLedgerLaw" (125 : Nat) ({ cls := "ExcuseLedger", name := "reason", desc := "(Z)I" } : Jvm.MethodName)) ∈ lw_all := lw_g (lw_at lw_m13 130 rfl) rfl
theorem q3077 : (Jvm.Cond.instanceMethod ({ cls := "ExcuseLedger", name := "reason", desc := "(Z)I" } : Jvm.MethodName)) ∈ lw_all := lw_g (lw_at lw_m13 131 rfl) rfl
theorem q3078 : (Jvm.Cond.selects "ExcuseLedger" ({ cls := "ExcuseLedger", name := "reason", desc := "(Z)I" } : Jvm.MethodName) ({ cls := "ExcuseLedger", name := "reason", desc := "(Z)I" } : Jvm.MethodName)) ∈ lw_all := lw_g (lw_at lw_m13 132 rfl) rfl
theorem q3079 : (Jvm.Cond.code ({ cls := "ExcuseLedger", name := "reason", desc := "(Z)I" } : Jvm.MethodName) prog_1_method_61_code (2 : Nat) (Option.some Jvm.ClassFile.FieldType.int)) ∈ lw_all := lw_g (lw_at lw_m13 133 rfl) rfl
theorem q3080 : (Jvm.Cond.methodLink "ExcuseLedgerLaw" (274 : Nat) ({ cls := "ExcuseLedgerLaw", name := "undo", desc := "(LExcuseLedger;[J)I" } : Jvm.MethodName)) ∈ lw_all := lw_g (lw_at lw_m13 134 rfl) rfl
theorem q3081 : (Jvm.Cond.static ({ cls := "ExcuseLedgerLaw", name := "undo", desc := "(LExcuseLedger;[J)I" } : Jvm.MethodName)) ∈ lw_all := lw_g (lw_at lw_m13 135 rfl) rfl
theorem q3082 : (Jvm.Cond.codeWith ({ cls := "ExcuseLedgerLaw", name := "undo", desc := "(LExcuseLedger;[J)I" } : Jvm.MethodName) method_35_code (3 : Nat) (Option.some Jvm.ClassFile.FieldType.int) [((0 : Nat), (8 : Nat), (11 : Nat), (47 : Nat))]) ∈ lw_all := lw_g (lw_at lw_m13 136 rfl) rfl
theorem q3083 : (Jvm.Cond.methodLink "ExcuseLedgerLaw" (129 : Nat) ({ cls := "ExcuseLedger", name := "undo", desc := "()I" } : Jvm.MethodName)) ∈ lw_all := lw_g (lw_at lw_m13 137 rfl) rfl
theorem q3084 : (Jvm.Cond.instanceMethod ({ cls := "ExcuseLedger", name := "undo", desc := "()I" } : Jvm.MethodName)) ∈ lw_all := lw_g (lw_at lw_m13 138 rfl) rfl
theorem q3085 : (Jvm.Cond.selects "ExcuseLedger" ({ cls := "ExcuseLedger", name := "undo", desc := "()I" } : Jvm.MethodName) ({ cls := "ExcuseLedger", name := "undo", desc := "()I" } : Jvm.MethodName)) ∈ lw_all := lw_g (lw_at lw_m13 139 rfl) rfl
theorem q3086 : (Jvm.Cond.code ({ cls := "ExcuseLedger", name := "undo", desc := "()I" } : Jvm.MethodName) prog_1_method_62_code (1 : Nat) (Option.some Jvm.ClassFile.FieldType.int)) ∈ lw_all := lw_g (lw_at lw_m13 140 rfl) rfl
theorem q3088 : (Jvm.Cond.methodLink "ExcuseLedgerLaw" (281 : Nat) ({ cls := "ExcuseLedgerLaw", name := "restore", desc := "(LExcuseLedger;[J)I" } : Jvm.MethodName)) ∈ lw_all := lw_g (lw_at lw_m13 142 rfl) rfl
theorem q3089 : (Jvm.Cond.static ({ cls := "ExcuseLedgerLaw", name := "restore", desc := "(LExcuseLedger;[J)I" } : Jvm.MethodName)) ∈ lw_all := lw_g (lw_at lw_m13 143 rfl) rfl
theorem q3090 : (Jvm.Cond.codeWith ({ cls := "ExcuseLedgerLaw", name := "restore", desc := "(LExcuseLedger;[J)I" } : Jvm.MethodName) method_36_code (3 : Nat) (Option.some Jvm.ClassFile.FieldType.int) [((0 : Nat), (8 : Nat), (11 : Nat), (117 : Nat))]) ∈ lw_all := lw_g (lw_at lw_m13 144 rfl) rfl
theorem q3091 : (Jvm.Cond.methodLink "ExcuseLedgerLaw" (132 : Nat) ({ cls := "ExcuseLedger", name := "restore", desc := "()I" } : Jvm.MethodName)) ∈ lw_all := lw_g (lw_at lw_m13 145 rfl) rfl
theorem q3092 : (Jvm.Cond.instanceMethod ({ cls := "ExcuseLedger", name := "restore", desc := "()I" } : Jvm.MethodName)) ∈ lw_all := lw_g (lw_at lw_m13 146 rfl) rfl
theorem q3093 : (Jvm.Cond.selects "ExcuseLedger" ({ cls := "ExcuseLedger", name := "restore", desc := "()I" } : Jvm.MethodName) ({ cls := "ExcuseLedger", name := "restore", desc := "()I" } : Jvm.MethodName)) ∈ lw_all := lw_g (lw_at lw_m13 147 rfl) rfl
theorem q3094 : (Jvm.Cond.code ({ cls := "ExcuseLedger", name := "restore", desc := "()I" } : Jvm.MethodName) prog_1_method_64_code (1 : Nat) (Option.some Jvm.ClassFile.FieldType.int)) ∈ lw_all := lw_g (lw_at lw_m13 148 rfl) rfl
theorem q3099 : (Jvm.Cond.classLink "ExcuseLedgerLaw" (136 : Nat) "ExcuseLedgerModel") ∈ lw_all := lw_g (lw_at lw_m13 153 rfl) rfl
theorem q3100 : (Jvm.Cond.instantiable "ExcuseLedgerModel" (18 : Nat)) ∈ lw_all := lw_g (lw_at lw_m13 154 rfl) rfl
theorem q3101 : (Jvm.Cond.methodLink "ExcuseLedgerLaw" (138 : Nat) ({ cls := "ExcuseLedgerModel", name := "<init>", desc := "()V" } : Jvm.MethodName)) ∈ lw_all := lw_g (lw_at lw_m13 155 rfl) rfl
theorem q3102 : (Jvm.Cond.instanceMethod ({ cls := "ExcuseLedgerModel", name := "<init>", desc := "()V" } : Jvm.MethodName)) ∈ lw_all := lw_g (lw_at lw_m13 156 rfl) rfl
theorem q3103 : (Jvm.Cond.code ({ cls := "ExcuseLedgerModel", name := "<init>", desc := "()V" } : Jvm.MethodName) prog_13_method_1_code (2 : Nat) (Option.none : Option Jvm.ClassFile.FieldType)) ∈ lw_all := lw_g (lw_at lw_m13 157 rfl) rfl
theorem q3161 : (Jvm.Cond.methodLink "ExcuseLedgerLaw" (145 : Nat) ({ cls := "ExcuseLedgerModel", name := "thrown", desc := "()I" } : Jvm.MethodName)) ∈ lw_all := lw_g (lw_at lw_m13 215 rfl) rfl
theorem q3162 : (Jvm.Cond.instanceMethod ({ cls := "ExcuseLedgerModel", name := "thrown", desc := "()I" } : Jvm.MethodName)) ∈ lw_all := lw_g (lw_at lw_m13 216 rfl) rfl
theorem q3163 : (Jvm.Cond.selects "ExcuseLedgerModel" ({ cls := "ExcuseLedgerModel", name := "thrown", desc := "()I" } : Jvm.MethodName) ({ cls := "ExcuseLedgerModel", name := "thrown", desc := "()I" } : Jvm.MethodName)) ∈ lw_all := lw_g (lw_at lw_m13 217 rfl) rfl
theorem q3164 : (Jvm.Cond.code ({ cls := "ExcuseLedgerModel", name := "thrown", desc := "()I" } : Jvm.MethodName) prog_13_method_2_code (1 : Nat) (Option.some Jvm.ClassFile.FieldType.int)) ∈ lw_all := lw_g (lw_at lw_m13 218 rfl) rfl
theorem q3165 : (Jvm.Cond.methodLink "ExcuseLedgerLaw" (144 : Nat) ({ cls := "ExcuseLedgerModel", name := "enter", desc := "(IIII)I" } : Jvm.MethodName)) ∈ lw_all := lw_g (lw_at lw_m13 219 rfl) rfl
theorem q3166 : (Jvm.Cond.instanceMethod ({ cls := "ExcuseLedgerModel", name := "enter", desc := "(IIII)I" } : Jvm.MethodName)) ∈ lw_all := lw_g (lw_at lw_m13 220 rfl) rfl
theorem q3167 : (Jvm.Cond.selects "ExcuseLedgerModel" ({ cls := "ExcuseLedgerModel", name := "enter", desc := "(IIII)I" } : Jvm.MethodName) ({ cls := "ExcuseLedgerModel", name := "enter", desc := "(IIII)I" } : Jvm.MethodName)) ∈ lw_all := lw_g (lw_at lw_m13 221 rfl) rfl
theorem q3168 : (Jvm.Cond.code ({ cls := "ExcuseLedgerModel", name := "enter", desc := "(IIII)I" } : Jvm.MethodName) prog_13_method_21_code (5 : Nat) (Option.some Jvm.ClassFile.FieldType.int)) ∈ lw_all := lw_g (lw_at lw_m13 222 rfl) rfl
theorem q3209 : (Jvm.Cond.methodLink "ExcuseLedgerLaw" (151 : Nat) ({ cls := "ExcuseLedgerModel", name := "strike", desc := "(II)I" } : Jvm.MethodName)) ∈ lw_all := lw_g (lw_at lw_m14 23 rfl) rfl
theorem q3210 : (Jvm.Cond.instanceMethod ({ cls := "ExcuseLedgerModel", name := "strike", desc := "(II)I" } : Jvm.MethodName)) ∈ lw_all := lw_g (lw_at lw_m14 24 rfl) rfl
theorem q3211 : (Jvm.Cond.selects "ExcuseLedgerModel" ({ cls := "ExcuseLedgerModel", name := "strike", desc := "(II)I" } : Jvm.MethodName) ({ cls := "ExcuseLedgerModel", name := "strike", desc := "(II)I" } : Jvm.MethodName)) ∈ lw_all := lw_g (lw_at lw_m14 25 rfl) rfl
theorem q3212 : (Jvm.Cond.code ({ cls := "ExcuseLedgerModel", name := "strike", desc := "(II)I" } : Jvm.MethodName) prog_13_method_23_code (3 : Nat) (Option.some Jvm.ClassFile.FieldType.int)) ∈ lw_all := lw_g (lw_at lw_m14 26 rfl) rfl
theorem q3217 : (Jvm.Cond.methodLink "ExcuseLedgerLaw" (154 : Nat) ({ cls := "ExcuseLedgerModel", name := "lend", desc := "(IIII)I" } : Jvm.MethodName)) ∈ lw_all := lw_g (lw_at lw_m14 31 rfl) rfl
theorem q3218 : (Jvm.Cond.instanceMethod ({ cls := "ExcuseLedgerModel", name := "lend", desc := "(IIII)I" } : Jvm.MethodName)) ∈ lw_all := lw_g (lw_at lw_m14 32 rfl) rfl
theorem q3219 : (Jvm.Cond.selects "ExcuseLedgerModel" ({ cls := "ExcuseLedgerModel", name := "lend", desc := "(IIII)I" } : Jvm.MethodName) ({ cls := "ExcuseLedgerModel", name := "lend", desc := "(IIII)I" } : Jvm.MethodName)) ∈ lw_all := lw_g (lw_at lw_m14 33 rfl) rfl
theorem q3220 : (Jvm.Cond.code ({ cls := "ExcuseLedgerModel", name := "lend", desc := "(IIII)I" } : Jvm.MethodName) prog_13_method_25_code (5 : Nat) (Option.some Jvm.ClassFile.FieldType.int)) ∈ lw_all := lw_g (lw_at lw_m14 34 rfl) rfl
theorem q3225 : (Jvm.Cond.methodLink "ExcuseLedgerLaw" (157 : Nat) ({ cls := "ExcuseLedgerModel", name := "back", desc := "(II)I" } : Jvm.MethodName)) ∈ lw_all := lw_g (lw_at lw_m14 39 rfl) rfl
theorem q3226 : (Jvm.Cond.instanceMethod ({ cls := "ExcuseLedgerModel", name := "back", desc := "(II)I" } : Jvm.MethodName)) ∈ lw_all := lw_g (lw_at lw_m14 40 rfl) rfl
theorem q3227 : (Jvm.Cond.selects "ExcuseLedgerModel" ({ cls := "ExcuseLedgerModel", name := "back", desc := "(II)I" } : Jvm.MethodName) ({ cls := "ExcuseLedgerModel", name := "back", desc := "(II)I" } : Jvm.MethodName)) ∈ lw_all := lw_g (lw_at lw_m14 41 rfl) rfl
theorem q3228 : (Jvm.Cond.code ({ cls := "ExcuseLedgerModel", name := "back", desc := "(II)I" } : Jvm.MethodName) prog_13_method_28_code (3 : Nat) (Option.some Jvm.ClassFile.FieldType.int)) ∈ lw_all := lw_g (lw_at lw_m14 42 rfl) rfl
theorem q3237 : (Jvm.Cond.methodLink "ExcuseLedgerLaw" (161 : Nat) ({ cls := "ExcuseLedgerModel", name := "mend", desc := "(III)I" } : Jvm.MethodName)) ∈ lw_all := lw_g (lw_at lw_m14 51 rfl) rfl
theorem q3238 : (Jvm.Cond.instanceMethod ({ cls := "ExcuseLedgerModel", name := "mend", desc := "(III)I" } : Jvm.MethodName)) ∈ lw_all := lw_g (lw_at lw_m14 52 rfl) rfl
theorem q3239 : (Jvm.Cond.selects "ExcuseLedgerModel" ({ cls := "ExcuseLedgerModel", name := "mend", desc := "(III)I" } : Jvm.MethodName) ({ cls := "ExcuseLedgerModel", name := "mend", desc := "(III)I" } : Jvm.MethodName)) ∈ lw_all := lw_g (lw_at lw_m14 53 rfl) rfl
theorem q3240 : (Jvm.Cond.code ({ cls := "ExcuseLedgerModel", name := "mend", desc := "(III)I" } : Jvm.MethodName) prog_13_method_30_code (4 : Nat) (Option.some Jvm.ClassFile.FieldType.int)) ∈ lw_all := lw_g (lw_at lw_m14 54 rfl) rfl
theorem q3245 : (Jvm.Cond.methodLink "ExcuseLedgerLaw" (164 : Nat) ({ cls := "ExcuseLedgerModel", name := "use", desc := "(IIII)Z" } : Jvm.MethodName)) ∈ lw_all := lw_g (lw_at lw_m14 59 rfl) rfl
theorem q3246 : (Jvm.Cond.instanceMethod ({ cls := "ExcuseLedgerModel", name := "use", desc := "(IIII)Z" } : Jvm.MethodName)) ∈ lw_all := lw_g (lw_at lw_m14 60 rfl) rfl
theorem q3247 : (Jvm.Cond.selects "ExcuseLedgerModel" ({ cls := "ExcuseLedgerModel", name := "use", desc := "(IIII)Z" } : Jvm.MethodName) ({ cls := "ExcuseLedgerModel", name := "use", desc := "(IIII)Z" } : Jvm.MethodName)) ∈ lw_all := lw_g (lw_at lw_m14 61 rfl) rfl
theorem q3248 : (Jvm.Cond.code ({ cls := "ExcuseLedgerModel", name := "use", desc := "(IIII)Z" } : Jvm.MethodName) prog_13_method_33_code (5 : Nat) (Option.some Jvm.ClassFile.FieldType.boolean)) ∈ lw_all := lw_g (lw_at lw_m14 62 rfl) rfl
theorem q3283 : (Jvm.Cond.methodLink "ExcuseLedgerLaw" (167 : Nat) ({ cls := "ExcuseLedgerModel", name := "strict", desc := "(II)I" } : Jvm.MethodName)) ∈ lw_all := lw_g (lw_at lw_m14 97 rfl) rfl
theorem q3284 : (Jvm.Cond.instanceMethod ({ cls := "ExcuseLedgerModel", name := "strict", desc := "(II)I" } : Jvm.MethodName)) ∈ lw_all := lw_g (lw_at lw_m14 98 rfl) rfl
theorem q3285 : (Jvm.Cond.selects "ExcuseLedgerModel" ({ cls := "ExcuseLedgerModel", name := "strict", desc := "(II)I" } : Jvm.MethodName) ({ cls := "ExcuseLedgerModel", name := "strict", desc := "(II)I" } : Jvm.MethodName)) ∈ lw_all := lw_g (lw_at lw_m14 99 rfl) rfl
theorem q3286 : (Jvm.Cond.code ({ cls := "ExcuseLedgerModel", name := "strict", desc := "(II)I" } : Jvm.MethodName) prog_13_method_35_code (3 : Nat) (Option.some Jvm.ClassFile.FieldType.int)) ∈ lw_all := lw_g (lw_at lw_m14 100 rfl) rfl
theorem q3291 : (Jvm.Cond.methodLink "ExcuseLedgerLaw" (171 : Nat) ({ cls := "ExcuseLedgerModel", name := "weather", desc := "(I)I" } : Jvm.MethodName)) ∈ lw_all := lw_g (lw_at lw_m14 105 rfl) rfl
theorem q3292 : (Jvm.Cond.instanceMethod ({ cls := "ExcuseLedgerModel", name := "weather", desc := "(I)I" } : Jvm.MethodName)) ∈ lw_all := lw_g (lw_at lw_m14 106 rfl) rfl
theorem q3293 : (Jvm.Cond.selects "ExcuseLedgerModel" ({ cls := "ExcuseLedgerModel", name := "weather", desc := "(I)I" } : Jvm.MethodName) ({ cls := "ExcuseLedgerModel", name := "weather", desc := "(I)I" } : Jvm.MethodName)) ∈ lw_all := lw_g (lw_at lw_m14 107 rfl) rfl
theorem q3294 : (Jvm.Cond.code ({ cls := "ExcuseLedgerModel", name := "weather", desc := "(I)I" } : Jvm.MethodName) prog_13_method_37_code (2 : Nat) (Option.some Jvm.ClassFile.FieldType.int)) ∈ lw_all := lw_g (lw_at lw_m14 108 rfl) rfl
theorem q3299 : (Jvm.Cond.methodLink "ExcuseLedgerLaw" (175 : Nat) ({ cls := "ExcuseLedgerModel", name := "day", desc := "()I" } : Jvm.MethodName)) ∈ lw_all := lw_g (lw_at lw_m14 113 rfl) rfl
theorem q3300 : (Jvm.Cond.instanceMethod ({ cls := "ExcuseLedgerModel", name := "day", desc := "()I" } : Jvm.MethodName)) ∈ lw_all := lw_g (lw_at lw_m14 114 rfl) rfl
theorem q3301 : (Jvm.Cond.selects "ExcuseLedgerModel" ({ cls := "ExcuseLedgerModel", name := "day", desc := "()I" } : Jvm.MethodName) ({ cls := "ExcuseLedgerModel", name := "day", desc := "()I" } : Jvm.MethodName)) ∈ lw_all := lw_g (lw_at lw_m14 115 rfl) rfl
theorem q3302 : (Jvm.Cond.code ({ cls := "ExcuseLedgerModel", name := "day", desc := "()I" } : Jvm.MethodName) prog_13_method_40_code (1 : Nat) (Option.some Jvm.ClassFile.FieldType.int)) ∈ lw_all := lw_g (lw_at lw_m14 116 rfl) rfl
theorem q3311 : (Jvm.Cond.methodLink "ExcuseLedgerLaw" (178 : Nat) ({ cls := "ExcuseLedgerModel", name := "excuseOf", desc := "(III)I" } : Jvm.MethodName)) ∈ lw_all := lw_g (lw_at lw_m14 125 rfl) rfl
theorem q3312 : (Jvm.Cond.instanceMethod ({ cls := "ExcuseLedgerModel", name := "excuseOf", desc := "(III)I" } : Jvm.MethodName)) ∈ lw_all := lw_g (lw_at lw_m14 126 rfl) rfl
theorem q3313 : (Jvm.Cond.selects "ExcuseLedgerModel" ({ cls := "ExcuseLedgerModel", name := "excuseOf", desc := "(III)I" } : Jvm.MethodName) ({ cls := "ExcuseLedgerModel", name := "excuseOf", desc := "(III)I" } : Jvm.MethodName)) ∈ lw_all := lw_g (lw_at lw_m14 127 rfl) rfl
theorem q3314 : (Jvm.Cond.code ({ cls := "ExcuseLedgerModel", name := "excuseOf", desc := "(III)I" } : Jvm.MethodName) prog_13_method_41_code (5 : Nat) (Option.some Jvm.ClassFile.FieldType.int)) ∈ lw_all := lw_g (lw_at lw_m14 128 rfl) rfl
theorem q3315 : (Jvm.Cond.methodLink "ExcuseLedgerLaw" (182 : Nat) ({ cls := "ExcuseLedgerModel", name := "at", desc := "(IZ)I" } : Jvm.MethodName)) ∈ lw_all := lw_g (lw_at lw_m14 129 rfl) rfl
theorem q3316 : (Jvm.Cond.instanceMethod ({ cls := "ExcuseLedgerModel", name := "at", desc := "(IZ)I" } : Jvm.MethodName)) ∈ lw_all := lw_g (lw_at lw_m14 130 rfl) rfl
theorem q3317 : (Jvm.Cond.selects "ExcuseLedgerModel" ({ cls := "ExcuseLedgerModel", name := "at", desc := "(IZ)I" } : Jvm.MethodName) ({ cls := "ExcuseLedgerModel", name := "at", desc := "(IZ)I" } : Jvm.MethodName)) ∈ lw_all := lw_g (lw_at lw_m14 131 rfl) rfl
theorem q3318 : (Jvm.Cond.code ({ cls := "ExcuseLedgerModel", name := "at", desc := "(IZ)I" } : Jvm.MethodName) prog_13_method_42_code (3 : Nat) (Option.some Jvm.ClassFile.FieldType.int)) ∈ lw_all := lw_g (lw_at lw_m14 132 rfl) rfl
theorem q3319 : (Jvm.Cond.methodLink "ExcuseLedgerLaw" (185 : Nat) ({ cls := "ExcuseLedgerModel", name := "pupilOf", desc := "(II)I" } : Jvm.MethodName)) ∈ lw_all := lw_g (lw_at lw_m14 133 rfl) rfl
theorem q3320 : (Jvm.Cond.instanceMethod ({ cls := "ExcuseLedgerModel", name := "pupilOf", desc := "(II)I" } : Jvm.MethodName)) ∈ lw_all := lw_g (lw_at lw_m14 134 rfl) rfl
theorem q3321 : (Jvm.Cond.selects "ExcuseLedgerModel" ({ cls := "ExcuseLedgerModel", name := "pupilOf", desc := "(II)I" } : Jvm.MethodName) ({ cls := "ExcuseLedgerModel", name := "pupilOf", desc := "(II)I" } : Jvm.MethodName)) ∈ lw_all := lw_g (lw_at lw_m14 135 rfl) rfl
theorem q3322 : (Jvm.Cond.code ({ cls := "ExcuseLedgerModel", name := "pupilOf", desc := "(II)I" } : Jvm.MethodName) prog_13_method_45_code (3 : Nat) (Option.some Jvm.ClassFile.FieldType.int)) ∈ lw_all := lw_g (lw_at lw_m14 136 rfl) rfl
theorem q3331 : (Jvm.Cond.methodLink "ExcuseLedgerLaw" (188 : Nat) ({ cls := "ExcuseLedgerModel", name := "schoolOf", desc := "(II)I" } : Jvm.MethodName)) ∈ lw_all := lw_g (lw_at lw_m14 145 rfl) rfl
theorem q3332 : (Jvm.Cond.instanceMethod ({ cls := "ExcuseLedgerModel", name := "schoolOf", desc := "(II)I" } : Jvm.MethodName)) ∈ lw_all := lw_g (lw_at lw_m14 146 rfl) rfl
theorem q3333 : (Jvm.Cond.selects "ExcuseLedgerModel" ({ cls := "ExcuseLedgerModel", name := "schoolOf", desc := "(II)I" } : Jvm.MethodName) ({ cls := "ExcuseLedgerModel", name := "schoolOf", desc := "(II)I" } : Jvm.MethodName)) ∈ lw_all := lw_g (lw_at lw_m14 147 rfl) rfl
theorem q3334 : (Jvm.Cond.code ({ cls := "ExcuseLedgerModel", name := "schoolOf", desc := "(II)I" } : Jvm.MethodName) prog_13_method_47_code (3 : Nat) (Option.some Jvm.ClassFile.FieldType.int)) ∈ lw_all := lw_g (lw_at lw_m14 148 rfl) rfl
theorem q3339 : (Jvm.Cond.methodLink "ExcuseLedgerLaw" (191 : Nat) ({ cls := "ExcuseLedgerModel", name := "dog", desc := "(I)I" } : Jvm.MethodName)) ∈ lw_all := lw_g (lw_at lw_m14 153 rfl) rfl
theorem q3340 : (Jvm.Cond.instanceMethod ({ cls := "ExcuseLedgerModel", name := "dog", desc := "(I)I" } : Jvm.MethodName)) ∈ lw_all := lw_g (lw_at lw_m14 154 rfl) rfl
theorem q3341 : (Jvm.Cond.selects "ExcuseLedgerModel" ({ cls := "ExcuseLedgerModel", name := "dog", desc := "(I)I" } : Jvm.MethodName) ({ cls := "ExcuseLedgerModel", name := "dog", desc := "(I)I" } : Jvm.MethodName)) ∈ lw_all := lw_g (lw_at lw_m14 155 rfl) rfl
theorem q3342 : (Jvm.Cond.code ({ cls := "ExcuseLedgerModel", name := "dog", desc := "(I)I" } : Jvm.MethodName) prog_13_method_48_code (2 : Nat) (Option.some Jvm.ClassFile.FieldType.int)) ∈ lw_all := lw_g (lw_at lw_m14 156 rfl) rfl
theorem q3343 : (Jvm.Cond.methodLink "ExcuseLedgerLaw" (194 : Nat) ({ cls := "ExcuseLedgerModel", name := "heard", desc := "(IIII)Z" } : Jvm.MethodName)) ∈ lw_all := lw_g (lw_at lw_m14 157 rfl) rfl
theorem q3344 : (Jvm.Cond.instanceMethod ({ cls := "ExcuseLedgerModel", name := "heard", desc := "(IIII)Z" } : Jvm.MethodName)) ∈ lw_all := lw_g (lw_at lw_m14 158 rfl) rfl
theorem q3345 : (Jvm.Cond.selects "ExcuseLedgerModel" ({ cls := "ExcuseLedgerModel", name := "heard", desc := "(IIII)Z" } : Jvm.MethodName) ({ cls := "ExcuseLedgerModel", name := "heard", desc := "(IIII)Z" } : Jvm.MethodName)) ∈ lw_all := lw_g (lw_at lw_m14 159 rfl) rfl
theorem q3346 : (Jvm.Cond.code ({ cls := "ExcuseLedgerModel", name := "heard", desc := "(IIII)Z" } : Jvm.MethodName) prog_13_method_49_code (5 : Nat) (Option.some Jvm.ClassFile.FieldType.boolean)) ∈ lw_all := lw_g (lw_at lw_m14 160 rfl) rfl
theorem q3347 : (Jvm.Cond.methodLink "ExcuseLedgerLaw" (197 : Nat) ({ cls := "ExcuseLedgerModel", name := "would", desc := "(IIII)Z" } : Jvm.MethodName)) ∈ lw_all := lw_g (lw_at lw_m14 161 rfl) rfl
theorem q3348 : (Jvm.Cond.instanceMethod ({ cls := "ExcuseLedgerModel", name := "would", desc := "(IIII)Z" } : Jvm.MethodName)) ∈ lw_all := lw_g (lw_at lw_m14 162 rfl) rfl
theorem q3349 : (Jvm.Cond.selects "ExcuseLedgerModel" ({ cls := "ExcuseLedgerModel", name := "would", desc := "(IIII)Z" } : Jvm.MethodName) ({ cls := "ExcuseLedgerModel", name := "would", desc := "(IIII)Z" } : Jvm.MethodName)) ∈ lw_all := lw_g (lw_at lw_m14 163 rfl) rfl
theorem q3350 : (Jvm.Cond.code ({ cls := "ExcuseLedgerModel", name := "would", desc := "(IIII)Z" } : Jvm.MethodName) prog_13_method_50_code (5 : Nat) (Option.some Jvm.ClassFile.FieldType.boolean)) ∈ lw_all := lw_g (lw_at lw_m14 164 rfl) rfl
theorem q3351 : (Jvm.Cond.methodLink "ExcuseLedgerLaw" (200 : Nat) ({ cls := "ExcuseLedgerModel", name := "believers", desc := "(III)I" } : Jvm.MethodName)) ∈ lw_all := lw_g (lw_at lw_m14 165 rfl) rfl
theorem q3352 : (Jvm.Cond.instanceMethod ({ cls := "ExcuseLedgerModel", name := "believers", desc := "(III)I" } : Jvm.MethodName)) ∈ lw_all := lw_g (lw_at lw_m14 166 rfl) rfl
theorem q3353 : (Jvm.Cond.selects "ExcuseLedgerModel" ({ cls := "ExcuseLedgerModel", name := "believers", desc := "(III)I" } : Jvm.MethodName) ({ cls := "ExcuseLedgerModel", name := "believers", desc := "(III)I" } : Jvm.MethodName)) ∈ lw_all := lw_g (lw_at lw_m14 167 rfl) rfl
theorem q3354 : (Jvm.Cond.code ({ cls := "ExcuseLedgerModel", name := "believers", desc := "(III)I" } : Jvm.MethodName) prog_13_method_51_code (7 : Nat) (Option.some Jvm.ClassFile.FieldType.int)) ∈ lw_all := lw_g (lw_at lw_m14 168 rfl) rfl
theorem q3355 : (Jvm.Cond.methodLink "ExcuseLedgerLaw" (203 : Nat) ({ cls := "ExcuseLedgerModel", name := "left", desc := "(I)I" } : Jvm.MethodName)) ∈ lw_all := lw_g (lw_at lw_m14 169 rfl) rfl
theorem q3359 : (Jvm.Cond.methodLink "ExcuseLedgerLaw" (206 : Nat) ({ cls := "ExcuseLedgerModel", name := "leftAgain", desc := "(I)I" } : Jvm.MethodName)) ∈ lw_all := lw_g (lw_at lw_m14 173 rfl) rfl
theorem q3360 : (Jvm.Cond.instanceMethod ({ cls := "ExcuseLedgerModel", name := "leftAgain", desc := "(I)I" } : Jvm.MethodName)) ∈ lw_all := lw_g (lw_at lw_m14 174 rfl) rfl
theorem q3361 : (Jvm.Cond.selects "ExcuseLedgerModel" ({ cls := "ExcuseLedgerModel", name := "leftAgain", desc := "(I)I" } : Jvm.MethodName) ({ cls := "ExcuseLedgerModel", name := "leftAgain", desc := "(I)I" } : Jvm.MethodName)) ∈ lw_all := lw_g (lw_at lw_m14 175 rfl) rfl
theorem q3362 : (Jvm.Cond.code ({ cls := "ExcuseLedgerModel", name := "leftAgain", desc := "(I)I" } : Jvm.MethodName) prog_13_method_53_code (2 : Nat) (Option.some Jvm.ClassFile.FieldType.int)) ∈ lw_all := lw_g (lw_at lw_m14 176 rfl) rfl
theorem q3364 : (Jvm.Cond.methodLink "ExcuseLedgerLaw" (209 : Nat) ({ cls := "ExcuseLedgerModel", name := "best", desc := "(II)I" } : Jvm.MethodName)) ∈ lw_all := lw_g (lw_at lw_m14 178 rfl) rfl
theorem q3365 : (Jvm.Cond.instanceMethod ({ cls := "ExcuseLedgerModel", name := "best", desc := "(II)I" } : Jvm.MethodName)) ∈ lw_all := lw_g (lw_at lw_m14 179 rfl) rfl
theorem q3366 : (Jvm.Cond.selects "ExcuseLedgerModel" ({ cls := "ExcuseLedgerModel", name := "best", desc := "(II)I" } : Jvm.MethodName) ({ cls := "ExcuseLedgerModel", name := "best", desc := "(II)I" } : Jvm.MethodName)) ∈ lw_all := lw_g (lw_at lw_m14 180 rfl) rfl
theorem q3367 : (Jvm.Cond.code ({ cls := "ExcuseLedgerModel", name := "best", desc := "(II)I" } : Jvm.MethodName) prog_13_method_54_code (6 : Nat) (Option.some Jvm.ClassFile.FieldType.int)) ∈ lw_all := lw_g (lw_at lw_m14 181 rfl) rfl
theorem q3368 : (Jvm.Cond.methodLink "ExcuseLedgerLaw" (213 : Nat) ({ cls := "ExcuseLedgerModel", name := "chances", desc := "()I" } : Jvm.MethodName)) ∈ lw_all := lw_g (lw_at lw_m14 182 rfl) rfl
theorem q3372 : (Jvm.Cond.methodLink "ExcuseLedgerLaw" (217 : Nat) ({ cls := "ExcuseLedgerModel", name := "chancesAgain", desc := "()I" } : Jvm.MethodName)) ∈ lw_all := lw_g (lw_at lw_m14 186 rfl) rfl
theorem q3373 : (Jvm.Cond.instanceMethod ({ cls := "ExcuseLedgerModel", name := "chancesAgain", desc := "()I" } : Jvm.MethodName)) ∈ lw_all := lw_g (lw_at lw_m14 187 rfl) rfl
theorem q3374 : (Jvm.Cond.selects "ExcuseLedgerModel" ({ cls := "ExcuseLedgerModel", name := "chancesAgain", desc := "()I" } : Jvm.MethodName) ({ cls := "ExcuseLedgerModel", name := "chancesAgain", desc := "()I" } : Jvm.MethodName)) ∈ lw_all := lw_g (lw_at lw_m14 188 rfl) rfl
theorem q3375 : (Jvm.Cond.code ({ cls := "ExcuseLedgerModel", name := "chancesAgain", desc := "()I" } : Jvm.MethodName) prog_13_method_56_code (1 : Nat) (Option.some Jvm.ClassFile.FieldType.int)) ∈ lw_all := lw_g (lw_at lw_m14 189 rfl) rfl
theorem q3377 : (Jvm.Cond.methodLink "ExcuseLedgerLaw" (221 : Nat) ({ cls := "ExcuseLedgerModel", name := "worn", desc := "()I" } : Jvm.MethodName)) ∈ lw_all := lw_g (lw_at lw_m14 191 rfl) rfl
theorem q3378 : (Jvm.Cond.instanceMethod ({ cls := "ExcuseLedgerModel", name := "worn", desc := "()I" } : Jvm.MethodName)) ∈ lw_all := lw_g (lw_at lw_m14 192 rfl) rfl
theorem q3379 : (Jvm.Cond.selects "ExcuseLedgerModel" ({ cls := "ExcuseLedgerModel", name := "worn", desc := "()I" } : Jvm.MethodName) ({ cls := "ExcuseLedgerModel", name := "worn", desc := "()I" } : Jvm.MethodName)) ∈ lw_all := lw_g (lw_at lw_m14 193 rfl) rfl
theorem q3380 : (Jvm.Cond.code ({ cls := "ExcuseLedgerModel", name := "worn", desc := "()I" } : Jvm.MethodName) prog_13_method_57_code (3 : Nat) (Option.some Jvm.ClassFile.FieldType.int)) ∈ lw_all := lw_g (lw_at lw_m14 194 rfl) rfl
theorem q3381 : (Jvm.Cond.methodLink "ExcuseLedgerLaw" (225 : Nat) ({ cls := "ExcuseLedgerModel", name := "due", desc := "()I" } : Jvm.MethodName)) ∈ lw_all := lw_g (lw_at lw_m14 195 rfl) rfl
theorem q3382 : (Jvm.Cond.instanceMethod ({ cls := "ExcuseLedgerModel", name := "due", desc := "()I" } : Jvm.MethodName)) ∈ lw_all := lw_g (lw_at lw_m14 196 rfl) rfl
theorem q3383 : (Jvm.Cond.selects "ExcuseLedgerModel" ({ cls := "ExcuseLedgerModel", name := "due", desc := "()I" } : Jvm.MethodName) ({ cls := "ExcuseLedgerModel", name := "due", desc := "()I" } : Jvm.MethodName)) ∈ lw_all := lw_g (lw_at lw_m14 197 rfl) rfl
theorem q3384 : (Jvm.Cond.code ({ cls := "ExcuseLedgerModel", name := "due", desc := "()I" } : Jvm.MethodName) prog_13_method_58_code (3 : Nat) (Option.some Jvm.ClassFile.FieldType.int)) ∈ lw_all := lw_g (lw_at lw_m14 198 rfl) rfl
theorem q3385 : (Jvm.Cond.methodLink "ExcuseLedgerLaw" (228 : Nat) ({ cls := "ExcuseLedgerModel", name := "ranked", desc := "(I)I" } : Jvm.MethodName)) ∈ lw_all := lw_g (lw_at lw_m14 199 rfl) rfl
theorem q3386 : (Jvm.Cond.instanceMethod ({ cls := "ExcuseLedgerModel", name := "ranked", desc := "(I)I" } : Jvm.MethodName)) ∈ lw_all := lw_g (lw_at lw_m14 200 rfl) rfl
theorem q3387 : (Jvm.Cond.selects "ExcuseLedgerModel" ({ cls := "ExcuseLedgerModel", name := "ranked", desc := "(I)I" } : Jvm.MethodName) ({ cls := "ExcuseLedgerModel", name := "ranked", desc := "(I)I" } : Jvm.MethodName)) ∈ lw_all := lw_g (lw_at lw_m14 201 rfl) rfl
theorem q3388 : (Jvm.Cond.code ({ cls := "ExcuseLedgerModel", name := "ranked", desc := "(I)I" } : Jvm.MethodName) prog_13_method_60_code (5 : Nat) (Option.some Jvm.ClassFile.FieldType.int)) ∈ lw_all := lw_g (lw_at lw_m14 202 rfl) rfl
theorem q3393 : (Jvm.Cond.methodLink "ExcuseLedgerLaw" (231 : Nat) ({ cls := "ExcuseLedgerModel", name := "freshest", desc := "(I)I" } : Jvm.MethodName)) ∈ lw_all := lw_g (lw_at lw_m14 207 rfl) rfl
theorem q3394 : (Jvm.Cond.instanceMethod ({ cls := "ExcuseLedgerModel", name := "freshest", desc := "(I)I" } : Jvm.MethodName)) ∈ lw_all := lw_g (lw_at lw_m14 208 rfl) rfl
theorem q3395 : (Jvm.Cond.selects "ExcuseLedgerModel" ({ cls := "ExcuseLedgerModel", name := "freshest", desc := "(I)I" } : Jvm.MethodName) ({ cls := "ExcuseLedgerModel", name := "freshest", desc := "(I)I" } : Jvm.MethodName)) ∈ lw_all := lw_g (lw_at lw_m14 209 rfl) rfl
theorem q3396 : (Jvm.Cond.code ({ cls := "ExcuseLedgerModel", name := "freshest", desc := "(I)I" } : Jvm.MethodName) prog_13_method_62_code (5 : Nat) (Option.some Jvm.ClassFile.FieldType.int)) ∈ lw_all := lw_g (lw_at lw_m14 210 rfl) rfl
theorem q3401 : (Jvm.Cond.methodLink "ExcuseLedgerLaw" (235 : Nat) ({ cls := "ExcuseLedgerModel", name := "strongest", desc := "()I" } : Jvm.MethodName)) ∈ lw_all := lw_g (lw_at lw_m14 215 rfl) rfl
theorem q3402 : (Jvm.Cond.instanceMethod ({ cls := "ExcuseLedgerModel", name := "strongest", desc := "()I" } : Jvm.MethodName)) ∈ lw_all := lw_g (lw_at lw_m14 216 rfl) rfl
theorem q3403 : (Jvm.Cond.selects "ExcuseLedgerModel" ({ cls := "ExcuseLedgerModel", name := "strongest", desc := "()I" } : Jvm.MethodName) ({ cls := "ExcuseLedgerModel", name := "strongest", desc := "()I" } : Jvm.MethodName)) ∈ lw_all := lw_g (lw_at lw_m14 217 rfl) rfl
theorem q3404 : (Jvm.Cond.code ({ cls := "ExcuseLedgerModel", name := "strongest", desc := "()I" } : Jvm.MethodName) prog_13_method_64_code (3 : Nat) (Option.some Jvm.ClassFile.FieldType.int)) ∈ lw_all := lw_g (lw_at lw_m14 218 rfl) rfl
theorem q3409 : (Jvm.Cond.methodLink "ExcuseLedgerLaw" (240 : Nat) ({ cls := "ExcuseLedgerModel", name := "isFair", desc := "()Z" } : Jvm.MethodName)) ∈ lw_all := lw_g (lw_at lw_m14 223 rfl) rfl
theorem q3410 : (Jvm.Cond.instanceMethod ({ cls := "ExcuseLedgerModel", name := "isFair", desc := "()Z" } : Jvm.MethodName)) ∈ lw_all := lw_g (lw_at lw_m14 224 rfl) rfl
theorem q3411 : (Jvm.Cond.selects "ExcuseLedgerModel" ({ cls := "ExcuseLedgerModel", name := "isFair", desc := "()Z" } : Jvm.MethodName) ({ cls := "ExcuseLedgerModel", name := "isFair", desc := "()Z" } : Jvm.MethodName)) ∈ lw_all := lw_g (lw_at lw_m14 225 rfl) rfl
theorem q3412 : (Jvm.Cond.code ({ cls := "ExcuseLedgerModel", name := "isFair", desc := "()Z" } : Jvm.MethodName) prog_13_method_65_code (1 : Nat) (Option.some Jvm.ClassFile.FieldType.boolean)) ∈ lw_all := lw_g (lw_at lw_m14 226 rfl) rfl
theorem q3413 : (Jvm.Cond.methodLink "ExcuseLedgerLaw" (243 : Nat) ({ cls := "ExcuseLedgerModel", name := "tell", desc := "(II)I" } : Jvm.MethodName)) ∈ lw_all := lw_g (lw_at lw_m14 227 rfl) rfl
theorem q3414 : (Jvm.Cond.instanceMethod ({ cls := "ExcuseLedgerModel", name := "tell", desc := "(II)I" } : Jvm.MethodName)) ∈ lw_all := lw_g (lw_at lw_m14 228 rfl) rfl
theorem q3415 : (Jvm.Cond.selects "ExcuseLedgerModel" ({ cls := "ExcuseLedgerModel", name := "tell", desc := "(II)I" } : Jvm.MethodName) ({ cls := "ExcuseLedgerModel", name := "tell", desc := "(II)I" } : Jvm.MethodName)) ∈ lw_all := lw_g (lw_at lw_m14 229 rfl) rfl
theorem q3416 : (Jvm.Cond.code ({ cls := "ExcuseLedgerModel", name := "tell", desc := "(II)I" } : Jvm.MethodName) prog_13_method_69_code (4 : Nat) (Option.some Jvm.ClassFile.FieldType.int)) ∈ lw_all := lw_g (lw_at lw_m14 230 rfl) rfl
theorem q3429 : (Jvm.Cond.methodLink "ExcuseLedgerLaw" (246 : Nat) ({ cls := "ExcuseLedgerModel", name := "bag", desc := "(I)I" } : Jvm.MethodName)) ∈ lw_all := lw_g (lw_at lw_m15 3 rfl) rfl
theorem q3430 : (Jvm.Cond.instanceMethod ({ cls := "ExcuseLedgerModel", name := "bag", desc := "(I)I" } : Jvm.MethodName)) ∈ lw_all := lw_g (lw_at lw_m15 4 rfl) rfl
theorem q3431 : (Jvm.Cond.selects "ExcuseLedgerModel" ({ cls := "ExcuseLedgerModel", name := "bag", desc := "(I)I" } : Jvm.MethodName) ({ cls := "ExcuseLedgerModel", name := "bag", desc := "(I)I" } : Jvm.MethodName)) ∈ lw_all := lw_g (lw_at lw_m15 5 rfl) rfl
theorem q3432 : (Jvm.Cond.code ({ cls := "ExcuseLedgerModel", name := "bag", desc := "(I)I" } : Jvm.MethodName) prog_13_method_70_code (3 : Nat) (Option.some Jvm.ClassFile.FieldType.int)) ∈ lw_all := lw_g (lw_at lw_m15 6 rfl) rfl
theorem q3433 : (Jvm.Cond.methodLink "ExcuseLedgerLaw" (249 : Nat) ({ cls := "ExcuseLedgerModel", name := "character", desc := "(I)C" } : Jvm.MethodName)) ∈ lw_all := lw_g (lw_at lw_m15 7 rfl) rfl
theorem q3434 : (Jvm.Cond.instanceMethod ({ cls := "ExcuseLedgerModel", name := "character", desc := "(I)C" } : Jvm.MethodName)) ∈ lw_all := lw_g (lw_at lw_m15 8 rfl) rfl
theorem q3435 : (Jvm.Cond.selects "ExcuseLedgerModel" ({ cls := "ExcuseLedgerModel", name := "character", desc := "(I)C" } : Jvm.MethodName) ({ cls := "ExcuseLedgerModel", name := "character", desc := "(I)C" } : Jvm.MethodName)) ∈ lw_all := lw_g (lw_at lw_m15 9 rfl) rfl
theorem q3436 : (Jvm.Cond.code ({ cls := "ExcuseLedgerModel", name := "character", desc := "(I)C" } : Jvm.MethodName) prog_13_method_71_code (2 : Nat) (Option.some Jvm.ClassFile.FieldType.char)) ∈ lw_all := lw_g (lw_at lw_m15 10 rfl) rfl
theorem q3437 : (Jvm.Cond.methodLink "ExcuseLedgerLaw" (253 : Nat) ({ cls := "ExcuseLedgerModel", name := "meanWear", desc := "()D" } : Jvm.MethodName)) ∈ lw_all := lw_g (lw_at lw_m15 11 rfl) rfl
theorem q3438 : (Jvm.Cond.instanceMethod ({ cls := "ExcuseLedgerModel", name := "meanWear", desc := "()D" } : Jvm.MethodName)) ∈ lw_all := lw_g (lw_at lw_m15 12 rfl) rfl
theorem q3439 : (Jvm.Cond.selects "ExcuseLedgerModel" ({ cls := "ExcuseLedgerModel", name := "meanWear", desc := "()D" } : Jvm.MethodName) ({ cls := "ExcuseLedgerModel", name := "meanWear", desc := "()D" } : Jvm.MethodName)) ∈ lw_all := lw_g (lw_at lw_m15 13 rfl) rfl
theorem q3440 : (Jvm.Cond.code ({ cls := "ExcuseLedgerModel", name := "meanWear", desc := "()D" } : Jvm.MethodName) prog_13_method_73_code (1 : Nat) (Option.some Jvm.ClassFile.FieldType.double)) ∈ lw_all := lw_g (lw_at lw_m15 14 rfl) rfl
theorem q3445 : (Jvm.Cond.methodLink "ExcuseLedgerLaw" (256 : Nat) ({ cls := "ExcuseLedgerModel", name := "believedShare", desc := "()F" } : Jvm.MethodName)) ∈ lw_all := lw_g (lw_at lw_m15 19 rfl) rfl
theorem q3446 : (Jvm.Cond.instanceMethod ({ cls := "ExcuseLedgerModel", name := "believedShare", desc := "()F" } : Jvm.MethodName)) ∈ lw_all := lw_g (lw_at lw_m15 20 rfl) rfl
theorem q3447 : (Jvm.Cond.selects "ExcuseLedgerModel" ({ cls := "ExcuseLedgerModel", name := "believedShare", desc := "()F" } : Jvm.MethodName) ({ cls := "ExcuseLedgerModel", name := "believedShare", desc := "()F" } : Jvm.MethodName)) ∈ lw_all := lw_g (lw_at lw_m15 21 rfl) rfl
theorem q3448 : (Jvm.Cond.code ({ cls := "ExcuseLedgerModel", name := "believedShare", desc := "()F" } : Jvm.MethodName) prog_13_method_74_code (2 : Nat) (Option.some Jvm.ClassFile.FieldType.float)) ∈ lw_all := lw_g (lw_at lw_m15 22 rfl) rfl
theorem q3449 : (Jvm.Cond.methodLink "ExcuseLedgerLaw" (259 : Nat) ({ cls := "ExcuseLedgerModel", name := "account", desc := "(I)I" } : Jvm.MethodName)) ∈ lw_all := lw_g (lw_at lw_m15 23 rfl) rfl
theorem q3450 : (Jvm.Cond.instanceMethod ({ cls := "ExcuseLedgerModel", name := "account", desc := "(I)I" } : Jvm.MethodName)) ∈ lw_all := lw_g (lw_at lw_m15 24 rfl) rfl
theorem q3451 : (Jvm.Cond.selects "ExcuseLedgerModel" ({ cls := "ExcuseLedgerModel", name := "account", desc := "(I)I" } : Jvm.MethodName) ({ cls := "ExcuseLedgerModel", name := "account", desc := "(I)I" } : Jvm.MethodName)) ∈ lw_all := lw_g (lw_at lw_m15 25 rfl) rfl
theorem q3452 : (Jvm.Cond.code ({ cls := "ExcuseLedgerModel", name := "account", desc := "(I)I" } : Jvm.MethodName) prog_13_method_76_code (2 : Nat) (Option.some Jvm.ClassFile.FieldType.int)) ∈ lw_all := lw_g (lw_at lw_m15 26 rfl) rfl
theorem q3457 : (Jvm.Cond.methodLink "ExcuseLedgerLaw" (263 : Nat) ({ cls := "ExcuseLedgerModel", name := "append", desc := "(C)I" } : Jvm.MethodName)) ∈ lw_all := lw_g (lw_at lw_m15 31 rfl) rfl
theorem q3458 : (Jvm.Cond.instanceMethod ({ cls := "ExcuseLedgerModel", name := "append", desc := "(C)I" } : Jvm.MethodName)) ∈ lw_all := lw_g (lw_at lw_m15 32 rfl) rfl
theorem q3459 : (Jvm.Cond.selects "ExcuseLedgerModel" ({ cls := "ExcuseLedgerModel", name := "append", desc := "(C)I" } : Jvm.MethodName) ({ cls := "ExcuseLedgerModel", name := "append", desc := "(C)I" } : Jvm.MethodName)) ∈ lw_all := lw_g (lw_at lw_m15 33 rfl) rfl
theorem q3460 : (Jvm.Cond.code ({ cls := "ExcuseLedgerModel", name := "append", desc := "(C)I" } : Jvm.MethodName) prog_13_method_77_code (2 : Nat) (Option.some Jvm.ClassFile.FieldType.int)) ∈ lw_all := lw_g (lw_at lw_m15 34 rfl) rfl
theorem q3461 : (Jvm.Cond.methodLink "ExcuseLedgerLaw" (266 : Nat) ({ cls := "ExcuseLedgerModel", name := "read", desc := "()I" } : Jvm.MethodName)) ∈ lw_all := lw_g (lw_at lw_m15 35 rfl) rfl
theorem q3462 : (Jvm.Cond.instanceMethod ({ cls := "ExcuseLedgerModel", name := "read", desc := "()I" } : Jvm.MethodName)) ∈ lw_all := lw_g (lw_at lw_m15 36 rfl) rfl
theorem q3463 : (Jvm.Cond.selects "ExcuseLedgerModel" ({ cls := "ExcuseLedgerModel", name := "read", desc := "()I" } : Jvm.MethodName) ({ cls := "ExcuseLedgerModel", name := "read", desc := "()I" } : Jvm.MethodName)) ∈ lw_all := lw_g (lw_at lw_m15 37 rfl) rfl
theorem q3464 : (Jvm.Cond.code ({ cls := "ExcuseLedgerModel", name := "read", desc := "()I" } : Jvm.MethodName) prog_13_method_86_code (5 : Nat) (Option.some Jvm.ClassFile.FieldType.int)) ∈ lw_all := lw_g (lw_at lw_m15 38 rfl) rfl
theorem q3496 : (Jvm.Cond.methodLink "ExcuseLedgerLaw" (269 : Nat) ({ cls := "ExcuseLedgerModel", name := "errorPosition", desc := "()I" } : Jvm.MethodName)) ∈ lw_all := lw_g (lw_at lw_m15 70 rfl) rfl
theorem q3497 : (Jvm.Cond.instanceMethod ({ cls := "ExcuseLedgerModel", name := "errorPosition", desc := "()I" } : Jvm.MethodName)) ∈ lw_all := lw_g (lw_at lw_m15 71 rfl) rfl
theorem q3498 : (Jvm.Cond.selects "ExcuseLedgerModel" ({ cls := "ExcuseLedgerModel", name := "errorPosition", desc := "()I" } : Jvm.MethodName) ({ cls := "ExcuseLedgerModel", name := "errorPosition", desc := "()I" } : Jvm.MethodName)) ∈ lw_all := lw_g (lw_at lw_m15 72 rfl) rfl
theorem q3499 : (Jvm.Cond.code ({ cls := "ExcuseLedgerModel", name := "errorPosition", desc := "()I" } : Jvm.MethodName) prog_13_method_87_code (1 : Nat) (Option.some Jvm.ClassFile.FieldType.int)) ∈ lw_all := lw_g (lw_at lw_m15 73 rfl) rfl
theorem q3500 : (Jvm.Cond.methodLink "ExcuseLedgerLaw" (273 : Nat) ({ cls := "ExcuseLedgerModel", name := "reason", desc := "(Z)I" } : Jvm.MethodName)) ∈ lw_all := lw_g (lw_at lw_m15 74 rfl) rfl
theorem q3501 : (Jvm.Cond.instanceMethod ({ cls := "ExcuseLedgerModel", name := "reason", desc := "(Z)I" } : Jvm.MethodName)) ∈ lw_all := lw_g (lw_at lw_m15 75 rfl) rfl
theorem q3502 : (Jvm.Cond.selects "ExcuseLedgerModel" ({ cls := "ExcuseLedgerModel", name := "reason", desc := "(Z)I" } : Jvm.MethodName) ({ cls := "ExcuseLedgerModel", name := "reason", desc := "(Z)I" } : Jvm.MethodName)) ∈ lw_all := lw_g (lw_at lw_m15 76 rfl) rfl
theorem q3503 : (Jvm.Cond.code ({ cls := "ExcuseLedgerModel", name := "reason", desc := "(Z)I" } : Jvm.MethodName) prog_13_method_88_code (2 : Nat) (Option.some Jvm.ClassFile.FieldType.int)) ∈ lw_all := lw_g (lw_at lw_m15 77 rfl) rfl
theorem q3504 : (Jvm.Cond.methodLink "ExcuseLedgerLaw" (276 : Nat) ({ cls := "ExcuseLedgerModel", name := "undo", desc := "()I" } : Jvm.MethodName)) ∈ lw_all := lw_g (lw_at lw_m15 78 rfl) rfl
theorem q3505 : (Jvm.Cond.instanceMethod ({ cls := "ExcuseLedgerModel", name := "undo", desc := "()I" } : Jvm.MethodName)) ∈ lw_all := lw_g (lw_at lw_m15 79 rfl) rfl
theorem q3506 : (Jvm.Cond.selects "ExcuseLedgerModel" ({ cls := "ExcuseLedgerModel", name := "undo", desc := "()I" } : Jvm.MethodName) ({ cls := "ExcuseLedgerModel", name := "undo", desc := "()I" } : Jvm.MethodName)) ∈ lw_all := lw_g (lw_at lw_m15 80 rfl) rfl
theorem q3507 : (Jvm.Cond.code ({ cls := "ExcuseLedgerModel", name := "undo", desc := "()I" } : Jvm.MethodName) prog_13_method_89_code (1 : Nat) (Option.some Jvm.ClassFile.FieldType.int)) ∈ lw_all := lw_g (lw_at lw_m15 81 rfl) rfl
theorem q3508 : (Jvm.Cond.methodLink "ExcuseLedgerLaw" (280 : Nat) ({ cls := "ExcuseLedgerModel", name := "save", desc := "()I" } : Jvm.MethodName)) ∈ lw_all := lw_g (lw_at lw_m15 82 rfl) rfl
theorem q3509 : (Jvm.Cond.instanceMethod ({ cls := "ExcuseLedgerModel", name := "save", desc := "()I" } : Jvm.MethodName)) ∈ lw_all := lw_g (lw_at lw_m15 83 rfl) rfl
theorem q3510 : (Jvm.Cond.selects "ExcuseLedgerModel" ({ cls := "ExcuseLedgerModel", name := "save", desc := "()I" } : Jvm.MethodName) ({ cls := "ExcuseLedgerModel", name := "save", desc := "()I" } : Jvm.MethodName)) ∈ lw_all := lw_g (lw_at lw_m15 84 rfl) rfl
theorem q3511 : (Jvm.Cond.code ({ cls := "ExcuseLedgerModel", name := "save", desc := "()I" } : Jvm.MethodName) prog_13_method_90_code (1 : Nat) (Option.some Jvm.ClassFile.FieldType.int)) ∈ lw_all := lw_g (lw_at lw_m15 85 rfl) rfl
theorem q3512 : (Jvm.Cond.methodLink "ExcuseLedgerLaw" (283 : Nat) ({ cls := "ExcuseLedgerModel", name := "restore", desc := "()I" } : Jvm.MethodName)) ∈ lw_all := lw_g (lw_at lw_m15 86 rfl) rfl
theorem q3513 : (Jvm.Cond.instanceMethod ({ cls := "ExcuseLedgerModel", name := "restore", desc := "()I" } : Jvm.MethodName)) ∈ lw_all := lw_g (lw_at lw_m15 87 rfl) rfl
theorem q3514 : (Jvm.Cond.selects "ExcuseLedgerModel" ({ cls := "ExcuseLedgerModel", name := "restore", desc := "()I" } : Jvm.MethodName) ({ cls := "ExcuseLedgerModel", name := "restore", desc := "()I" } : Jvm.MethodName)) ∈ lw_all := lw_g (lw_at lw_m15 88 rfl) rfl
theorem q3515 : (Jvm.Cond.code ({ cls := "ExcuseLedgerModel", name := "restore", desc := "()I" } : Jvm.MethodName) prog_13_method_91_code (1 : Nat) (Option.some Jvm.ClassFile.FieldType.int)) ∈ lw_all := lw_g (lw_at lw_m15 89 rfl) rfl
abbrev dfX1 : List Value := [.null, .null, .null, .null, .null, .null, .null]
theorem dfX1_ok : ∀ j, j < 7 → defaultValue (tyX1 j) = vp_V dfX1 j := fun j h => match j, h with | 0, _ => rfl | 1, _ => rfl | 2, _ => rfl | 3, _ => rfl | 4, _ => rfl | 5, _ => rfl | 6, _ => rfl | j + 7, h => absurd h (by omega)
abbrev dfX5 : List Value := [.null, .null, .null, .int 0, .null, .int 0, .null, .int 0, .int 0, .int 0, .int 0, .int 0, .null, .int 0, .int 0, .int 0, .int 0, .null]
theorem dfX5_ok : ∀ j, j < 18 → defaultValue (tyX5 j) = vp_V dfX5 j := fun j h => match j, h with | 0, _ => rfl | 1, _ => rfl | 2, _ => rfl | 3, _ => rfl | 4, _ => rfl | 5, _ => rfl | 6, _ => rfl | 7, _ => rfl | 8, _ => rfl | 9, _ => rfl | 10, _ => rfl | 11, _ => rfl | 12, _ => rfl | 13, _ => rfl | 14, _ => rfl | 15, _ => rfl | 16, _ => rfl | 17, _ => rfl | j + 18, h => absurd h (by omega)
abbrev cX0_enter : ByteArray := method_3_code
def yX0_enter : MethodName := ⟨RX0, "enter", "(LExcuseLedger;IIII[J)I"⟩
def dkwX0_enter_1 : List UInt8 := [172, 58, 6, 6, 172, 3, 172]
abbrev dktX0_enter_1 : List UInt8 := dkwX0_enter_1 ++ []
def dkwX0_enter_0 : List UInt8 := [25, 5, 3, 42, 27, 28, 29, 21, 4, 182, 0, 7, 133, 80, 167, 0, 15, 58, 6, 4, 172, 58, 6, 5]
abbrev dktX0_enter_0 : List UInt8 := dkwX0_enter_0 ++ dktX0_enter_1
theorem dksX0_enter_0 : cX0_enter.data.toList.drop 0 = dktX0_enter_0 := by decide +kernel
theorem dksX0_enter_1 : cX0_enter.data.toList.drop 24 = dktX0_enter_1 := dk_seg dksX0_enter_0 24 rfl rfl
theorem dX0_enter_0 : decode cX0_enter 0 = .ok (.aload 5, 2) := dk_25 5 (dk_at dksX0_enter_0 0 rfl rfl)
theorem dX0_enter_2 : decode cX0_enter 2 = .ok (.iconst 0, 1) := dk_3 (dk_at dksX0_enter_0 2 rfl rfl)
theorem dX0_enter_3 : decode cX0_enter 3 = .ok (.aload_n 0, 1) := dk_42 (dk_at dksX0_enter_0 3 rfl rfl)
theorem dX0_enter_4 : decode cX0_enter 4 = .ok (.iload_n 1, 1) := dk_27 (dk_at dksX0_enter_0 4 rfl rfl)
theorem dX0_enter_5 : decode cX0_enter 5 = .ok (.iload_n 2, 1) := dk_28 (dk_at dksX0_enter_0 5 rfl rfl)
theorem dX0_enter_6 : decode cX0_enter 6 = .ok (.iload_n 3, 1) := dk_29 (dk_at dksX0_enter_0 6 rfl rfl)
theorem dX0_enter_7 : decode cX0_enter 7 = .ok (.iload 4, 2) := dk_21 4 (dk_at dksX0_enter_0 7 rfl rfl)
theorem dX0_enter_9 : decode cX0_enter 9 = .ok (.invokevirtual 7, 3) := dk_182 0 7 (dk_at dksX0_enter_0 9 rfl rfl)
theorem dX0_enter_12 : decode cX0_enter 12 = .ok (.i2l, 1) := dk_133 (dk_at dksX0_enter_0 12 rfl rfl)
theorem dX0_enter_13 : decode cX0_enter 13 = .ok (.lastore, 1) := dk_80 (dk_at dksX0_enter_0 13 rfl rfl)
theorem dX0_enter_14 : decode cX0_enter 14 = .ok (.goto 15, 3) := dk_167 0 15 (dk_at dksX0_enter_0 14 rfl rfl)
theorem dX0_enter_17 : decode cX0_enter 17 = .ok (.astore 6, 2) := dk_58 6 (dk_at dksX0_enter_0 17 rfl rfl)
theorem dX0_enter_19 : decode cX0_enter 19 = .ok (.iconst 1, 1) := dk_4 (dk_at dksX0_enter_0 19 rfl rfl)
theorem dX0_enter_20 : decode cX0_enter 20 = .ok (.ireturn, 1) := dk_172 (dk_at dksX0_enter_0 20 rfl rfl)
theorem dX0_enter_21 : decode cX0_enter 21 = .ok (.astore 6, 2) := dk_58 6 (dk_at dksX0_enter_0 21 rfl rfl)
theorem dX0_enter_23 : decode cX0_enter 23 = .ok (.iconst 2, 1) := dk_5 (dk_at dksX0_enter_0 23 rfl rfl)
theorem dX0_enter_24 : decode cX0_enter 24 = .ok (.ireturn, 1) := dk_172 (dk_at dksX0_enter_1 0 rfl rfl)
theorem dX0_enter_25 : decode cX0_enter 25 = .ok (.astore 6, 2) := dk_58 6 (dk_at dksX0_enter_1 1 rfl rfl)
theorem dX0_enter_27 : decode cX0_enter 27 = .ok (.iconst 3, 1) := dk_6 (dk_at dksX0_enter_1 3 rfl rfl)
theorem dX0_enter_28 : decode cX0_enter 28 = .ok (.ireturn, 1) := dk_172 (dk_at dksX0_enter_1 4 rfl rfl)
theorem dX0_enter_29 : decode cX0_enter 29 = .ok (.iconst 0, 1) := dk_3 (dk_at dksX0_enter_1 5 rfl rfl)
theorem dX0_enter_30 : decode cX0_enter 30 = .ok (.ireturn, 1) := dk_172 (dk_at dksX0_enter_1 6 rfl rfl)
abbrev cX0_strike : ByteArray := method_4_code
def yX0_strike : MethodName := ⟨RX0, "strike", "(LExcuseLedger;II[J)I"⟩
def dkwX0_strike_0 : List UInt8 := [45, 3, 42, 27, 28, 182, 0, 19, 133, 80, 167, 0, 11, 58, 4, 4, 172, 58, 4, 5, 172, 3, 172]
abbrev dktX0_strike_0 : List UInt8 := dkwX0_strike_0 ++ []
theorem dksX0_strike_0 : cX0_strike.data.toList.drop 0 = dktX0_strike_0 := by decide +kernel
theorem dX0_strike_0 : decode cX0_strike 0 = .ok (.aload_n 3, 1) := dk_45 (dk_at dksX0_strike_0 0 rfl rfl)
theorem dX0_strike_1 : decode cX0_strike 1 = .ok (.iconst 0, 1) := dk_3 (dk_at dksX0_strike_0 1 rfl rfl)
theorem dX0_strike_2 : decode cX0_strike 2 = .ok (.aload_n 0, 1) := dk_42 (dk_at dksX0_strike_0 2 rfl rfl)
theorem dX0_strike_3 : decode cX0_strike 3 = .ok (.iload_n 1, 1) := dk_27 (dk_at dksX0_strike_0 3 rfl rfl)
theorem dX0_strike_4 : decode cX0_strike 4 = .ok (.iload_n 2, 1) := dk_28 (dk_at dksX0_strike_0 4 rfl rfl)
theorem dX0_strike_5 : decode cX0_strike 5 = .ok (.invokevirtual 19, 3) := dk_182 0 19 (dk_at dksX0_strike_0 5 rfl rfl)
theorem dX0_strike_8 : decode cX0_strike 8 = .ok (.i2l, 1) := dk_133 (dk_at dksX0_strike_0 8 rfl rfl)
theorem dX0_strike_9 : decode cX0_strike 9 = .ok (.lastore, 1) := dk_80 (dk_at dksX0_strike_0 9 rfl rfl)
theorem dX0_strike_10 : decode cX0_strike 10 = .ok (.goto 11, 3) := dk_167 0 11 (dk_at dksX0_strike_0 10 rfl rfl)
theorem dX0_strike_13 : decode cX0_strike 13 = .ok (.astore 4, 2) := dk_58 4 (dk_at dksX0_strike_0 13 rfl rfl)
theorem dX0_strike_15 : decode cX0_strike 15 = .ok (.iconst 1, 1) := dk_4 (dk_at dksX0_strike_0 15 rfl rfl)
theorem dX0_strike_16 : decode cX0_strike 16 = .ok (.ireturn, 1) := dk_172 (dk_at dksX0_strike_0 16 rfl rfl)
theorem dX0_strike_17 : decode cX0_strike 17 = .ok (.astore 4, 2) := dk_58 4 (dk_at dksX0_strike_0 17 rfl rfl)
theorem dX0_strike_19 : decode cX0_strike 19 = .ok (.iconst 2, 1) := dk_5 (dk_at dksX0_strike_0 19 rfl rfl)
theorem dX0_strike_20 : decode cX0_strike 20 = .ok (.ireturn, 1) := dk_172 (dk_at dksX0_strike_0 20 rfl rfl)
theorem dX0_strike_21 : decode cX0_strike 21 = .ok (.iconst 0, 1) := dk_3 (dk_at dksX0_strike_0 21 rfl rfl)
theorem dX0_strike_22 : decode cX0_strike 22 = .ok (.ireturn, 1) := dk_172 (dk_at dksX0_strike_0 22 rfl rfl)
abbrev cX0_lend : ByteArray := method_5_code
def yX0_lend : MethodName := ⟨RX0, "lend", "(LExcuseLedger;IIII[J)I"⟩
def dkwX0_lend_1 : List UInt8 := [172, 58, 6, 6, 172, 3, 172]
abbrev dktX0_lend_1 : List UInt8 := dkwX0_lend_1 ++ []
def dkwX0_lend_0 : List UInt8 := [25, 5, 3, 42, 27, 28, 29, 21, 4, 182, 0, 23, 133, 80, 167, 0, 15, 58, 6, 4, 172, 58, 6, 5]
abbrev dktX0_lend_0 : List UInt8 := dkwX0_lend_0 ++ dktX0_lend_1
theorem dksX0_lend_0 : cX0_lend.data.toList.drop 0 = dktX0_lend_0 := by decide +kernel
theorem dksX0_lend_1 : cX0_lend.data.toList.drop 24 = dktX0_lend_1 := dk_seg dksX0_lend_0 24 rfl rfl
theorem dX0_lend_0 : decode cX0_lend 0 = .ok (.aload 5, 2) := dk_25 5 (dk_at dksX0_lend_0 0 rfl rfl)
theorem dX0_lend_2 : decode cX0_lend 2 = .ok (.iconst 0, 1) := dk_3 (dk_at dksX0_lend_0 2 rfl rfl)
theorem dX0_lend_3 : decode cX0_lend 3 = .ok (.aload_n 0, 1) := dk_42 (dk_at dksX0_lend_0 3 rfl rfl)
theorem dX0_lend_4 : decode cX0_lend 4 = .ok (.iload_n 1, 1) := dk_27 (dk_at dksX0_lend_0 4 rfl rfl)
theorem dX0_lend_5 : decode cX0_lend 5 = .ok (.iload_n 2, 1) := dk_28 (dk_at dksX0_lend_0 5 rfl rfl)
theorem dX0_lend_6 : decode cX0_lend 6 = .ok (.iload_n 3, 1) := dk_29 (dk_at dksX0_lend_0 6 rfl rfl)
theorem dX0_lend_7 : decode cX0_lend 7 = .ok (.iload 4, 2) := dk_21 4 (dk_at dksX0_lend_0 7 rfl rfl)
theorem dX0_lend_9 : decode cX0_lend 9 = .ok (.invokevirtual 23, 3) := dk_182 0 23 (dk_at dksX0_lend_0 9 rfl rfl)
theorem dX0_lend_12 : decode cX0_lend 12 = .ok (.i2l, 1) := dk_133 (dk_at dksX0_lend_0 12 rfl rfl)
theorem dX0_lend_13 : decode cX0_lend 13 = .ok (.lastore, 1) := dk_80 (dk_at dksX0_lend_0 13 rfl rfl)
theorem dX0_lend_14 : decode cX0_lend 14 = .ok (.goto 15, 3) := dk_167 0 15 (dk_at dksX0_lend_0 14 rfl rfl)
theorem dX0_lend_17 : decode cX0_lend 17 = .ok (.astore 6, 2) := dk_58 6 (dk_at dksX0_lend_0 17 rfl rfl)
theorem dX0_lend_19 : decode cX0_lend 19 = .ok (.iconst 1, 1) := dk_4 (dk_at dksX0_lend_0 19 rfl rfl)
theorem dX0_lend_20 : decode cX0_lend 20 = .ok (.ireturn, 1) := dk_172 (dk_at dksX0_lend_0 20 rfl rfl)
theorem dX0_lend_21 : decode cX0_lend 21 = .ok (.astore 6, 2) := dk_58 6 (dk_at dksX0_lend_0 21 rfl rfl)
theorem dX0_lend_23 : decode cX0_lend 23 = .ok (.iconst 2, 1) := dk_5 (dk_at dksX0_lend_0 23 rfl rfl)
theorem dX0_lend_24 : decode cX0_lend 24 = .ok (.ireturn, 1) := dk_172 (dk_at dksX0_lend_1 0 rfl rfl)
theorem dX0_lend_25 : decode cX0_lend 25 = .ok (.astore 6, 2) := dk_58 6 (dk_at dksX0_lend_1 1 rfl rfl)
theorem dX0_lend_27 : decode cX0_lend 27 = .ok (.iconst 3, 1) := dk_6 (dk_at dksX0_lend_1 3 rfl rfl)
theorem dX0_lend_28 : decode cX0_lend 28 = .ok (.ireturn, 1) := dk_172 (dk_at dksX0_lend_1 4 rfl rfl)
theorem dX0_lend_29 : decode cX0_lend 29 = .ok (.iconst 0, 1) := dk_3 (dk_at dksX0_lend_1 5 rfl rfl)
theorem dX0_lend_30 : decode cX0_lend 30 = .ok (.ireturn, 1) := dk_172 (dk_at dksX0_lend_1 6 rfl rfl)
abbrev cX0_back : ByteArray := method_6_code
def yX0_back : MethodName := ⟨RX0, "back", "(LExcuseLedger;II[J)I"⟩
def dkwX0_back_0 : List UInt8 := [45, 3, 42, 27, 28, 182, 0, 26, 133, 80, 167, 0, 11, 58, 4, 4, 172, 58, 4, 5, 172, 3, 172]
abbrev dktX0_back_0 : List UInt8 := dkwX0_back_0 ++ []
theorem dksX0_back_0 : cX0_back.data.toList.drop 0 = dktX0_back_0 := by decide +kernel
theorem dX0_back_0 : decode cX0_back 0 = .ok (.aload_n 3, 1) := dk_45 (dk_at dksX0_back_0 0 rfl rfl)
theorem dX0_back_1 : decode cX0_back 1 = .ok (.iconst 0, 1) := dk_3 (dk_at dksX0_back_0 1 rfl rfl)
theorem dX0_back_2 : decode cX0_back 2 = .ok (.aload_n 0, 1) := dk_42 (dk_at dksX0_back_0 2 rfl rfl)
theorem dX0_back_3 : decode cX0_back 3 = .ok (.iload_n 1, 1) := dk_27 (dk_at dksX0_back_0 3 rfl rfl)
theorem dX0_back_4 : decode cX0_back 4 = .ok (.iload_n 2, 1) := dk_28 (dk_at dksX0_back_0 4 rfl rfl)
theorem dX0_back_5 : decode cX0_back 5 = .ok (.invokevirtual 26, 3) := dk_182 0 26 (dk_at dksX0_back_0 5 rfl rfl)
theorem dX0_back_8 : decode cX0_back 8 = .ok (.i2l, 1) := dk_133 (dk_at dksX0_back_0 8 rfl rfl)
theorem dX0_back_9 : decode cX0_back 9 = .ok (.lastore, 1) := dk_80 (dk_at dksX0_back_0 9 rfl rfl)
theorem dX0_back_10 : decode cX0_back 10 = .ok (.goto 11, 3) := dk_167 0 11 (dk_at dksX0_back_0 10 rfl rfl)
theorem dX0_back_13 : decode cX0_back 13 = .ok (.astore 4, 2) := dk_58 4 (dk_at dksX0_back_0 13 rfl rfl)
theorem dX0_back_15 : decode cX0_back 15 = .ok (.iconst 1, 1) := dk_4 (dk_at dksX0_back_0 15 rfl rfl)
theorem dX0_back_16 : decode cX0_back 16 = .ok (.ireturn, 1) := dk_172 (dk_at dksX0_back_0 16 rfl rfl)
theorem dX0_back_17 : decode cX0_back 17 = .ok (.astore 4, 2) := dk_58 4 (dk_at dksX0_back_0 17 rfl rfl)
theorem dX0_back_19 : decode cX0_back 19 = .ok (.iconst 2, 1) := dk_5 (dk_at dksX0_back_0 19 rfl rfl)
theorem dX0_back_20 : decode cX0_back 20 = .ok (.ireturn, 1) := dk_172 (dk_at dksX0_back_0 20 rfl rfl)
theorem dX0_back_21 : decode cX0_back 21 = .ok (.iconst 0, 1) := dk_3 (dk_at dksX0_back_0 21 rfl rfl)
theorem dX0_back_22 : decode cX0_back 22 = .ok (.ireturn, 1) := dk_172 (dk_at dksX0_back_0 22 rfl rfl)
abbrev cX0_mend : ByteArray := method_7_code
def yX0_mend : MethodName := ⟨RX0, "mend", "(LExcuseLedger;III[J)I"⟩
def dkwX0_mend_1 : List UInt8 := [172]
abbrev dktX0_mend_1 : List UInt8 := dkwX0_mend_1 ++ []
def dkwX0_mend_0 : List UInt8 := [25, 4, 3, 42, 27, 28, 29, 182, 0, 29, 133, 80, 167, 0, 11, 58, 5, 4, 172, 58, 5, 5, 172, 3]
abbrev dktX0_mend_0 : List UInt8 := dkwX0_mend_0 ++ dktX0_mend_1
theorem dksX0_mend_0 : cX0_mend.data.toList.drop 0 = dktX0_mend_0 := by decide +kernel
theorem dksX0_mend_1 : cX0_mend.data.toList.drop 24 = dktX0_mend_1 := dk_seg dksX0_mend_0 24 rfl rfl
theorem dX0_mend_0 : decode cX0_mend 0 = .ok (.aload 4, 2) := dk_25 4 (dk_at dksX0_mend_0 0 rfl rfl)
theorem dX0_mend_2 : decode cX0_mend 2 = .ok (.iconst 0, 1) := dk_3 (dk_at dksX0_mend_0 2 rfl rfl)
theorem dX0_mend_3 : decode cX0_mend 3 = .ok (.aload_n 0, 1) := dk_42 (dk_at dksX0_mend_0 3 rfl rfl)
theorem dX0_mend_4 : decode cX0_mend 4 = .ok (.iload_n 1, 1) := dk_27 (dk_at dksX0_mend_0 4 rfl rfl)
theorem dX0_mend_5 : decode cX0_mend 5 = .ok (.iload_n 2, 1) := dk_28 (dk_at dksX0_mend_0 5 rfl rfl)
theorem dX0_mend_6 : decode cX0_mend 6 = .ok (.iload_n 3, 1) := dk_29 (dk_at dksX0_mend_0 6 rfl rfl)
theorem dX0_mend_7 : decode cX0_mend 7 = .ok (.invokevirtual 29, 3) := dk_182 0 29 (dk_at dksX0_mend_0 7 rfl rfl)
theorem dX0_mend_10 : decode cX0_mend 10 = .ok (.i2l, 1) := dk_133 (dk_at dksX0_mend_0 10 rfl rfl)
theorem dX0_mend_11 : decode cX0_mend 11 = .ok (.lastore, 1) := dk_80 (dk_at dksX0_mend_0 11 rfl rfl)
theorem dX0_mend_12 : decode cX0_mend 12 = .ok (.goto 11, 3) := dk_167 0 11 (dk_at dksX0_mend_0 12 rfl rfl)
theorem dX0_mend_15 : decode cX0_mend 15 = .ok (.astore 5, 2) := dk_58 5 (dk_at dksX0_mend_0 15 rfl rfl)
theorem dX0_mend_17 : decode cX0_mend 17 = .ok (.iconst 1, 1) := dk_4 (dk_at dksX0_mend_0 17 rfl rfl)
theorem dX0_mend_18 : decode cX0_mend 18 = .ok (.ireturn, 1) := dk_172 (dk_at dksX0_mend_0 18 rfl rfl)
theorem dX0_mend_19 : decode cX0_mend 19 = .ok (.astore 5, 2) := dk_58 5 (dk_at dksX0_mend_0 19 rfl rfl)
theorem dX0_mend_21 : decode cX0_mend 21 = .ok (.iconst 2, 1) := dk_5 (dk_at dksX0_mend_0 21 rfl rfl)
theorem dX0_mend_22 : decode cX0_mend 22 = .ok (.ireturn, 1) := dk_172 (dk_at dksX0_mend_0 22 rfl rfl)
theorem dX0_mend_23 : decode cX0_mend 23 = .ok (.iconst 0, 1) := dk_3 (dk_at dksX0_mend_0 23 rfl rfl)
theorem dX0_mend_24 : decode cX0_mend 24 = .ok (.ireturn, 1) := dk_172 (dk_at dksX0_mend_1 0 rfl rfl)
abbrev cX0_use : ByteArray := method_8_code
def yX0_use : MethodName := ⟨RX0, "use", "(LExcuseLedger;IIII[J)I"⟩
def dkwX0_use_1 : List UInt8 := [58, 6, 4, 172, 58, 6, 5, 172, 58, 6, 6, 172, 3, 172]
abbrev dktX0_use_1 : List UInt8 := dkwX0_use_1 ++ []
def dkwX0_use_0 : List UInt8 := [25, 5, 3, 42, 27, 28, 29, 21, 4, 182, 0, 33, 153, 0, 7, 10, 167, 0, 4, 9, 80, 167, 0, 15]
abbrev dktX0_use_0 : List UInt8 := dkwX0_use_0 ++ dktX0_use_1
theorem dksX0_use_0 : cX0_use.data.toList.drop 0 = dktX0_use_0 := by decide +kernel
theorem dksX0_use_1 : cX0_use.data.toList.drop 24 = dktX0_use_1 := dk_seg dksX0_use_0 24 rfl rfl
theorem dX0_use_0 : decode cX0_use 0 = .ok (.aload 5, 2) := dk_25 5 (dk_at dksX0_use_0 0 rfl rfl)
theorem dX0_use_2 : decode cX0_use 2 = .ok (.iconst 0, 1) := dk_3 (dk_at dksX0_use_0 2 rfl rfl)
theorem dX0_use_3 : decode cX0_use 3 = .ok (.aload_n 0, 1) := dk_42 (dk_at dksX0_use_0 3 rfl rfl)
theorem dX0_use_4 : decode cX0_use 4 = .ok (.iload_n 1, 1) := dk_27 (dk_at dksX0_use_0 4 rfl rfl)
theorem dX0_use_5 : decode cX0_use 5 = .ok (.iload_n 2, 1) := dk_28 (dk_at dksX0_use_0 5 rfl rfl)
theorem dX0_use_6 : decode cX0_use 6 = .ok (.iload_n 3, 1) := dk_29 (dk_at dksX0_use_0 6 rfl rfl)
theorem dX0_use_7 : decode cX0_use 7 = .ok (.iload 4, 2) := dk_21 4 (dk_at dksX0_use_0 7 rfl rfl)
theorem dX0_use_9 : decode cX0_use 9 = .ok (.invokevirtual 33, 3) := dk_182 0 33 (dk_at dksX0_use_0 9 rfl rfl)
theorem dX0_use_12 : decode cX0_use 12 = .ok (.ifCond .eq 7, 3) := dk_153 0 7 (dk_at dksX0_use_0 12 rfl rfl)
theorem dX0_use_15 : decode cX0_use 15 = .ok (.lconst 1, 1) := dk_10 (dk_at dksX0_use_0 15 rfl rfl)
theorem dX0_use_16 : decode cX0_use 16 = .ok (.goto 4, 3) := dk_167 0 4 (dk_at dksX0_use_0 16 rfl rfl)
theorem dX0_use_19 : decode cX0_use 19 = .ok (.lconst 0, 1) := dk_9 (dk_at dksX0_use_0 19 rfl rfl)
theorem dX0_use_20 : decode cX0_use 20 = .ok (.lastore, 1) := dk_80 (dk_at dksX0_use_0 20 rfl rfl)
theorem dX0_use_21 : decode cX0_use 21 = .ok (.goto 15, 3) := dk_167 0 15 (dk_at dksX0_use_0 21 rfl rfl)
theorem dX0_use_24 : decode cX0_use 24 = .ok (.astore 6, 2) := dk_58 6 (dk_at dksX0_use_1 0 rfl rfl)
theorem dX0_use_26 : decode cX0_use 26 = .ok (.iconst 1, 1) := dk_4 (dk_at dksX0_use_1 2 rfl rfl)
theorem dX0_use_27 : decode cX0_use 27 = .ok (.ireturn, 1) := dk_172 (dk_at dksX0_use_1 3 rfl rfl)
theorem dX0_use_28 : decode cX0_use 28 = .ok (.astore 6, 2) := dk_58 6 (dk_at dksX0_use_1 4 rfl rfl)
theorem dX0_use_30 : decode cX0_use 30 = .ok (.iconst 2, 1) := dk_5 (dk_at dksX0_use_1 6 rfl rfl)
theorem dX0_use_31 : decode cX0_use 31 = .ok (.ireturn, 1) := dk_172 (dk_at dksX0_use_1 7 rfl rfl)
theorem dX0_use_32 : decode cX0_use 32 = .ok (.astore 6, 2) := dk_58 6 (dk_at dksX0_use_1 8 rfl rfl)
theorem dX0_use_34 : decode cX0_use 34 = .ok (.iconst 3, 1) := dk_6 (dk_at dksX0_use_1 10 rfl rfl)
theorem dX0_use_35 : decode cX0_use 35 = .ok (.ireturn, 1) := dk_172 (dk_at dksX0_use_1 11 rfl rfl)
theorem dX0_use_36 : decode cX0_use 36 = .ok (.iconst 0, 1) := dk_3 (dk_at dksX0_use_1 12 rfl rfl)
theorem dX0_use_37 : decode cX0_use 37 = .ok (.ireturn, 1) := dk_172 (dk_at dksX0_use_1 13 rfl rfl)
abbrev cX0_strict : ByteArray := method_9_code
def yX0_strict : MethodName := ⟨RX0, "strict", "(LExcuseLedger;II[J)I"⟩
def dkwX0_strict_1 : List UInt8 := [172, 3, 172]
abbrev dktX0_strict_1 : List UInt8 := dkwX0_strict_1 ++ []
def dkwX0_strict_0 : List UInt8 := [45, 3, 42, 27, 28, 182, 0, 37, 133, 80, 167, 0, 15, 58, 4, 4, 172, 58, 4, 5, 172, 58, 4, 6]
abbrev dktX0_strict_0 : List UInt8 := dkwX0_strict_0 ++ dktX0_strict_1
theorem dksX0_strict_0 : cX0_strict.data.toList.drop 0 = dktX0_strict_0 := by decide +kernel
theorem dksX0_strict_1 : cX0_strict.data.toList.drop 24 = dktX0_strict_1 := dk_seg dksX0_strict_0 24 rfl rfl
theorem dX0_strict_0 : decode cX0_strict 0 = .ok (.aload_n 3, 1) := dk_45 (dk_at dksX0_strict_0 0 rfl rfl)
theorem dX0_strict_1 : decode cX0_strict 1 = .ok (.iconst 0, 1) := dk_3 (dk_at dksX0_strict_0 1 rfl rfl)
theorem dX0_strict_2 : decode cX0_strict 2 = .ok (.aload_n 0, 1) := dk_42 (dk_at dksX0_strict_0 2 rfl rfl)
theorem dX0_strict_3 : decode cX0_strict 3 = .ok (.iload_n 1, 1) := dk_27 (dk_at dksX0_strict_0 3 rfl rfl)
theorem dX0_strict_4 : decode cX0_strict 4 = .ok (.iload_n 2, 1) := dk_28 (dk_at dksX0_strict_0 4 rfl rfl)
theorem dX0_strict_5 : decode cX0_strict 5 = .ok (.invokevirtual 37, 3) := dk_182 0 37 (dk_at dksX0_strict_0 5 rfl rfl)
theorem dX0_strict_8 : decode cX0_strict 8 = .ok (.i2l, 1) := dk_133 (dk_at dksX0_strict_0 8 rfl rfl)
theorem dX0_strict_9 : decode cX0_strict 9 = .ok (.lastore, 1) := dk_80 (dk_at dksX0_strict_0 9 rfl rfl)
theorem dX0_strict_10 : decode cX0_strict 10 = .ok (.goto 15, 3) := dk_167 0 15 (dk_at dksX0_strict_0 10 rfl rfl)
theorem dX0_strict_13 : decode cX0_strict 13 = .ok (.astore 4, 2) := dk_58 4 (dk_at dksX0_strict_0 13 rfl rfl)
theorem dX0_strict_15 : decode cX0_strict 15 = .ok (.iconst 1, 1) := dk_4 (dk_at dksX0_strict_0 15 rfl rfl)
theorem dX0_strict_16 : decode cX0_strict 16 = .ok (.ireturn, 1) := dk_172 (dk_at dksX0_strict_0 16 rfl rfl)
theorem dX0_strict_17 : decode cX0_strict 17 = .ok (.astore 4, 2) := dk_58 4 (dk_at dksX0_strict_0 17 rfl rfl)
theorem dX0_strict_19 : decode cX0_strict 19 = .ok (.iconst 2, 1) := dk_5 (dk_at dksX0_strict_0 19 rfl rfl)
theorem dX0_strict_20 : decode cX0_strict 20 = .ok (.ireturn, 1) := dk_172 (dk_at dksX0_strict_0 20 rfl rfl)
theorem dX0_strict_21 : decode cX0_strict 21 = .ok (.astore 4, 2) := dk_58 4 (dk_at dksX0_strict_0 21 rfl rfl)
theorem dX0_strict_23 : decode cX0_strict 23 = .ok (.iconst 3, 1) := dk_6 (dk_at dksX0_strict_0 23 rfl rfl)
theorem dX0_strict_24 : decode cX0_strict 24 = .ok (.ireturn, 1) := dk_172 (dk_at dksX0_strict_1 0 rfl rfl)
theorem dX0_strict_25 : decode cX0_strict 25 = .ok (.iconst 0, 1) := dk_3 (dk_at dksX0_strict_1 1 rfl rfl)
theorem dX0_strict_26 : decode cX0_strict 26 = .ok (.ireturn, 1) := dk_172 (dk_at dksX0_strict_1 2 rfl rfl)
abbrev cX0_weather : ByteArray := method_10_code
def yX0_weather : MethodName := ⟨RX0, "weather", "(LExcuseLedger;I[J)I"⟩
def dkwX0_weather_0 : List UInt8 := [44, 3, 42, 27, 182, 0, 40, 133, 80, 167, 0, 9, 78, 4, 172, 78, 5, 172, 3, 172]
abbrev dktX0_weather_0 : List UInt8 := dkwX0_weather_0 ++ []
theorem dksX0_weather_0 : cX0_weather.data.toList.drop 0 = dktX0_weather_0 := by decide +kernel
theorem dX0_weather_0 : decode cX0_weather 0 = .ok (.aload_n 2, 1) := dk_44 (dk_at dksX0_weather_0 0 rfl rfl)
theorem dX0_weather_1 : decode cX0_weather 1 = .ok (.iconst 0, 1) := dk_3 (dk_at dksX0_weather_0 1 rfl rfl)
theorem dX0_weather_2 : decode cX0_weather 2 = .ok (.aload_n 0, 1) := dk_42 (dk_at dksX0_weather_0 2 rfl rfl)
theorem dX0_weather_3 : decode cX0_weather 3 = .ok (.iload_n 1, 1) := dk_27 (dk_at dksX0_weather_0 3 rfl rfl)
theorem dX0_weather_4 : decode cX0_weather 4 = .ok (.invokevirtual 40, 3) := dk_182 0 40 (dk_at dksX0_weather_0 4 rfl rfl)
theorem dX0_weather_7 : decode cX0_weather 7 = .ok (.i2l, 1) := dk_133 (dk_at dksX0_weather_0 7 rfl rfl)
theorem dX0_weather_8 : decode cX0_weather 8 = .ok (.lastore, 1) := dk_80 (dk_at dksX0_weather_0 8 rfl rfl)
theorem dX0_weather_9 : decode cX0_weather 9 = .ok (.goto 9, 3) := dk_167 0 9 (dk_at dksX0_weather_0 9 rfl rfl)
theorem dX0_weather_12 : decode cX0_weather 12 = .ok (.astore_n 3, 1) := dk_78 (dk_at dksX0_weather_0 12 rfl rfl)
theorem dX0_weather_13 : decode cX0_weather 13 = .ok (.iconst 1, 1) := dk_4 (dk_at dksX0_weather_0 13 rfl rfl)
theorem dX0_weather_14 : decode cX0_weather 14 = .ok (.ireturn, 1) := dk_172 (dk_at dksX0_weather_0 14 rfl rfl)
theorem dX0_weather_15 : decode cX0_weather 15 = .ok (.astore_n 3, 1) := dk_78 (dk_at dksX0_weather_0 15 rfl rfl)
theorem dX0_weather_16 : decode cX0_weather 16 = .ok (.iconst 2, 1) := dk_5 (dk_at dksX0_weather_0 16 rfl rfl)
theorem dX0_weather_17 : decode cX0_weather 17 = .ok (.ireturn, 1) := dk_172 (dk_at dksX0_weather_0 17 rfl rfl)
theorem dX0_weather_18 : decode cX0_weather 18 = .ok (.iconst 0, 1) := dk_3 (dk_at dksX0_weather_0 18 rfl rfl)
theorem dX0_weather_19 : decode cX0_weather 19 = .ok (.ireturn, 1) := dk_172 (dk_at dksX0_weather_0 19 rfl rfl)
abbrev cX0_excuseOf : ByteArray := method_11_code
def yX0_excuseOf : MethodName := ⟨RX0, "excuseOf", "(LExcuseLedger;III[J)I"⟩
def dkwX0_excuseOf_1 : List UInt8 := [172]
abbrev dktX0_excuseOf_1 : List UInt8 := dkwX0_excuseOf_1 ++ []
def dkwX0_excuseOf_0 : List UInt8 := [25, 4, 3, 42, 27, 28, 29, 182, 0, 44, 133, 80, 167, 0, 11, 58, 5, 4, 172, 58, 5, 5, 172, 3]
abbrev dktX0_excuseOf_0 : List UInt8 := dkwX0_excuseOf_0 ++ dktX0_excuseOf_1
theorem dksX0_excuseOf_0 : cX0_excuseOf.data.toList.drop 0 = dktX0_excuseOf_0 := by decide +kernel
theorem dksX0_excuseOf_1 : cX0_excuseOf.data.toList.drop 24 = dktX0_excuseOf_1 := dk_seg dksX0_excuseOf_0 24 rfl rfl
theorem dX0_excuseOf_0 : decode cX0_excuseOf 0 = .ok (.aload 4, 2) := dk_25 4 (dk_at dksX0_excuseOf_0 0 rfl rfl)
theorem dX0_excuseOf_2 : decode cX0_excuseOf 2 = .ok (.iconst 0, 1) := dk_3 (dk_at dksX0_excuseOf_0 2 rfl rfl)
theorem dX0_excuseOf_3 : decode cX0_excuseOf 3 = .ok (.aload_n 0, 1) := dk_42 (dk_at dksX0_excuseOf_0 3 rfl rfl)
theorem dX0_excuseOf_4 : decode cX0_excuseOf 4 = .ok (.iload_n 1, 1) := dk_27 (dk_at dksX0_excuseOf_0 4 rfl rfl)
theorem dX0_excuseOf_5 : decode cX0_excuseOf 5 = .ok (.iload_n 2, 1) := dk_28 (dk_at dksX0_excuseOf_0 5 rfl rfl)
theorem dX0_excuseOf_6 : decode cX0_excuseOf 6 = .ok (.iload_n 3, 1) := dk_29 (dk_at dksX0_excuseOf_0 6 rfl rfl)
theorem dX0_excuseOf_7 : decode cX0_excuseOf 7 = .ok (.invokevirtual 44, 3) := dk_182 0 44 (dk_at dksX0_excuseOf_0 7 rfl rfl)
theorem dX0_excuseOf_10 : decode cX0_excuseOf 10 = .ok (.i2l, 1) := dk_133 (dk_at dksX0_excuseOf_0 10 rfl rfl)
theorem dX0_excuseOf_11 : decode cX0_excuseOf 11 = .ok (.lastore, 1) := dk_80 (dk_at dksX0_excuseOf_0 11 rfl rfl)
theorem dX0_excuseOf_12 : decode cX0_excuseOf 12 = .ok (.goto 11, 3) := dk_167 0 11 (dk_at dksX0_excuseOf_0 12 rfl rfl)
theorem dX0_excuseOf_15 : decode cX0_excuseOf 15 = .ok (.astore 5, 2) := dk_58 5 (dk_at dksX0_excuseOf_0 15 rfl rfl)
theorem dX0_excuseOf_17 : decode cX0_excuseOf 17 = .ok (.iconst 1, 1) := dk_4 (dk_at dksX0_excuseOf_0 17 rfl rfl)
theorem dX0_excuseOf_18 : decode cX0_excuseOf 18 = .ok (.ireturn, 1) := dk_172 (dk_at dksX0_excuseOf_0 18 rfl rfl)
theorem dX0_excuseOf_19 : decode cX0_excuseOf 19 = .ok (.astore 5, 2) := dk_58 5 (dk_at dksX0_excuseOf_0 19 rfl rfl)
theorem dX0_excuseOf_21 : decode cX0_excuseOf 21 = .ok (.iconst 2, 1) := dk_5 (dk_at dksX0_excuseOf_0 21 rfl rfl)
theorem dX0_excuseOf_22 : decode cX0_excuseOf 22 = .ok (.ireturn, 1) := dk_172 (dk_at dksX0_excuseOf_0 22 rfl rfl)
theorem dX0_excuseOf_23 : decode cX0_excuseOf 23 = .ok (.iconst 0, 1) := dk_3 (dk_at dksX0_excuseOf_0 23 rfl rfl)
theorem dX0_excuseOf_24 : decode cX0_excuseOf 24 = .ok (.ireturn, 1) := dk_172 (dk_at dksX0_excuseOf_1 0 rfl rfl)
abbrev cX0_at : ByteArray := method_12_code
def yX0_at : MethodName := ⟨RX0, "at", "(LExcuseLedger;IZ[J)I"⟩
def dkwX0_at_0 : List UInt8 := [45, 3, 42, 27, 28, 182, 0, 49, 133, 80, 167, 0, 7, 58, 4, 4, 172, 3, 172]
abbrev dktX0_at_0 : List UInt8 := dkwX0_at_0 ++ []
theorem dksX0_at_0 : cX0_at.data.toList.drop 0 = dktX0_at_0 := by decide +kernel
theorem dX0_at_0 : decode cX0_at 0 = .ok (.aload_n 3, 1) := dk_45 (dk_at dksX0_at_0 0 rfl rfl)
theorem dX0_at_1 : decode cX0_at 1 = .ok (.iconst 0, 1) := dk_3 (dk_at dksX0_at_0 1 rfl rfl)
theorem dX0_at_2 : decode cX0_at 2 = .ok (.aload_n 0, 1) := dk_42 (dk_at dksX0_at_0 2 rfl rfl)
theorem dX0_at_3 : decode cX0_at 3 = .ok (.iload_n 1, 1) := dk_27 (dk_at dksX0_at_0 3 rfl rfl)
theorem dX0_at_4 : decode cX0_at 4 = .ok (.iload_n 2, 1) := dk_28 (dk_at dksX0_at_0 4 rfl rfl)
theorem dX0_at_5 : decode cX0_at 5 = .ok (.invokevirtual 49, 3) := dk_182 0 49 (dk_at dksX0_at_0 5 rfl rfl)
theorem dX0_at_8 : decode cX0_at 8 = .ok (.i2l, 1) := dk_133 (dk_at dksX0_at_0 8 rfl rfl)
theorem dX0_at_9 : decode cX0_at 9 = .ok (.lastore, 1) := dk_80 (dk_at dksX0_at_0 9 rfl rfl)
theorem dX0_at_10 : decode cX0_at 10 = .ok (.goto 7, 3) := dk_167 0 7 (dk_at dksX0_at_0 10 rfl rfl)
theorem dX0_at_13 : decode cX0_at 13 = .ok (.astore 4, 2) := dk_58 4 (dk_at dksX0_at_0 13 rfl rfl)
theorem dX0_at_15 : decode cX0_at 15 = .ok (.iconst 1, 1) := dk_4 (dk_at dksX0_at_0 15 rfl rfl)
theorem dX0_at_16 : decode cX0_at 16 = .ok (.ireturn, 1) := dk_172 (dk_at dksX0_at_0 16 rfl rfl)
theorem dX0_at_17 : decode cX0_at 17 = .ok (.iconst 0, 1) := dk_3 (dk_at dksX0_at_0 17 rfl rfl)
theorem dX0_at_18 : decode cX0_at 18 = .ok (.ireturn, 1) := dk_172 (dk_at dksX0_at_0 18 rfl rfl)
abbrev cX0_pupilOf : ByteArray := method_13_code
def yX0_pupilOf : MethodName := ⟨RX0, "pupilOf", "(LExcuseLedger;II[J)I"⟩
def dkwX0_pupilOf_0 : List UInt8 := [45, 3, 42, 27, 28, 182, 0, 53, 133, 80, 167, 0, 11, 58, 4, 4, 172, 58, 4, 5, 172, 3, 172]
abbrev dktX0_pupilOf_0 : List UInt8 := dkwX0_pupilOf_0 ++ []
theorem dksX0_pupilOf_0 : cX0_pupilOf.data.toList.drop 0 = dktX0_pupilOf_0 := by decide +kernel
theorem dX0_pupilOf_0 : decode cX0_pupilOf 0 = .ok (.aload_n 3, 1) := dk_45 (dk_at dksX0_pupilOf_0 0 rfl rfl)
theorem dX0_pupilOf_1 : decode cX0_pupilOf 1 = .ok (.iconst 0, 1) := dk_3 (dk_at dksX0_pupilOf_0 1 rfl rfl)
theorem dX0_pupilOf_2 : decode cX0_pupilOf 2 = .ok (.aload_n 0, 1) := dk_42 (dk_at dksX0_pupilOf_0 2 rfl rfl)
theorem dX0_pupilOf_3 : decode cX0_pupilOf 3 = .ok (.iload_n 1, 1) := dk_27 (dk_at dksX0_pupilOf_0 3 rfl rfl)
theorem dX0_pupilOf_4 : decode cX0_pupilOf 4 = .ok (.iload_n 2, 1) := dk_28 (dk_at dksX0_pupilOf_0 4 rfl rfl)
theorem dX0_pupilOf_5 : decode cX0_pupilOf 5 = .ok (.invokevirtual 53, 3) := dk_182 0 53 (dk_at dksX0_pupilOf_0 5 rfl rfl)
theorem dX0_pupilOf_8 : decode cX0_pupilOf 8 = .ok (.i2l, 1) := dk_133 (dk_at dksX0_pupilOf_0 8 rfl rfl)
theorem dX0_pupilOf_9 : decode cX0_pupilOf 9 = .ok (.lastore, 1) := dk_80 (dk_at dksX0_pupilOf_0 9 rfl rfl)
theorem dX0_pupilOf_10 : decode cX0_pupilOf 10 = .ok (.goto 11, 3) := dk_167 0 11 (dk_at dksX0_pupilOf_0 10 rfl rfl)
theorem dX0_pupilOf_13 : decode cX0_pupilOf 13 = .ok (.astore 4, 2) := dk_58 4 (dk_at dksX0_pupilOf_0 13 rfl rfl)
theorem dX0_pupilOf_15 : decode cX0_pupilOf 15 = .ok (.iconst 1, 1) := dk_4 (dk_at dksX0_pupilOf_0 15 rfl rfl)
theorem dX0_pupilOf_16 : decode cX0_pupilOf 16 = .ok (.ireturn, 1) := dk_172 (dk_at dksX0_pupilOf_0 16 rfl rfl)
theorem dX0_pupilOf_17 : decode cX0_pupilOf 17 = .ok (.astore 4, 2) := dk_58 4 (dk_at dksX0_pupilOf_0 17 rfl rfl)
theorem dX0_pupilOf_19 : decode cX0_pupilOf 19 = .ok (.iconst 2, 1) := dk_5 (dk_at dksX0_pupilOf_0 19 rfl rfl)
theorem dX0_pupilOf_20 : decode cX0_pupilOf 20 = .ok (.ireturn, 1) := dk_172 (dk_at dksX0_pupilOf_0 20 rfl rfl)
theorem dX0_pupilOf_21 : decode cX0_pupilOf 21 = .ok (.iconst 0, 1) := dk_3 (dk_at dksX0_pupilOf_0 21 rfl rfl)
theorem dX0_pupilOf_22 : decode cX0_pupilOf 22 = .ok (.ireturn, 1) := dk_172 (dk_at dksX0_pupilOf_0 22 rfl rfl)
abbrev cX0_schoolOf : ByteArray := method_14_code
def yX0_schoolOf : MethodName := ⟨RX0, "schoolOf", "(LExcuseLedger;II[J)I"⟩
def dkwX0_schoolOf_0 : List UInt8 := [45, 3, 42, 27, 28, 182, 0, 56, 133, 80, 167, 0, 11, 58, 4, 4, 172, 58, 4, 5, 172, 3, 172]
abbrev dktX0_schoolOf_0 : List UInt8 := dkwX0_schoolOf_0 ++ []
theorem dksX0_schoolOf_0 : cX0_schoolOf.data.toList.drop 0 = dktX0_schoolOf_0 := by decide +kernel
theorem dX0_schoolOf_0 : decode cX0_schoolOf 0 = .ok (.aload_n 3, 1) := dk_45 (dk_at dksX0_schoolOf_0 0 rfl rfl)
theorem dX0_schoolOf_1 : decode cX0_schoolOf 1 = .ok (.iconst 0, 1) := dk_3 (dk_at dksX0_schoolOf_0 1 rfl rfl)
theorem dX0_schoolOf_2 : decode cX0_schoolOf 2 = .ok (.aload_n 0, 1) := dk_42 (dk_at dksX0_schoolOf_0 2 rfl rfl)
theorem dX0_schoolOf_3 : decode cX0_schoolOf 3 = .ok (.iload_n 1, 1) := dk_27 (dk_at dksX0_schoolOf_0 3 rfl rfl)
theorem dX0_schoolOf_4 : decode cX0_schoolOf 4 = .ok (.iload_n 2, 1) := dk_28 (dk_at dksX0_schoolOf_0 4 rfl rfl)
theorem dX0_schoolOf_5 : decode cX0_schoolOf 5 = .ok (.invokevirtual 56, 3) := dk_182 0 56 (dk_at dksX0_schoolOf_0 5 rfl rfl)
theorem dX0_schoolOf_8 : decode cX0_schoolOf 8 = .ok (.i2l, 1) := dk_133 (dk_at dksX0_schoolOf_0 8 rfl rfl)
theorem dX0_schoolOf_9 : decode cX0_schoolOf 9 = .ok (.lastore, 1) := dk_80 (dk_at dksX0_schoolOf_0 9 rfl rfl)
theorem dX0_schoolOf_10 : decode cX0_schoolOf 10 = .ok (.goto 11, 3) := dk_167 0 11 (dk_at dksX0_schoolOf_0 10 rfl rfl)
theorem dX0_schoolOf_13 : decode cX0_schoolOf 13 = .ok (.astore 4, 2) := dk_58 4 (dk_at dksX0_schoolOf_0 13 rfl rfl)
theorem dX0_schoolOf_15 : decode cX0_schoolOf 15 = .ok (.iconst 1, 1) := dk_4 (dk_at dksX0_schoolOf_0 15 rfl rfl)
theorem dX0_schoolOf_16 : decode cX0_schoolOf 16 = .ok (.ireturn, 1) := dk_172 (dk_at dksX0_schoolOf_0 16 rfl rfl)
theorem dX0_schoolOf_17 : decode cX0_schoolOf 17 = .ok (.astore 4, 2) := dk_58 4 (dk_at dksX0_schoolOf_0 17 rfl rfl)
theorem dX0_schoolOf_19 : decode cX0_schoolOf 19 = .ok (.iconst 2, 1) := dk_5 (dk_at dksX0_schoolOf_0 19 rfl rfl)
theorem dX0_schoolOf_20 : decode cX0_schoolOf 20 = .ok (.ireturn, 1) := dk_172 (dk_at dksX0_schoolOf_0 20 rfl rfl)
theorem dX0_schoolOf_21 : decode cX0_schoolOf 21 = .ok (.iconst 0, 1) := dk_3 (dk_at dksX0_schoolOf_0 21 rfl rfl)
theorem dX0_schoolOf_22 : decode cX0_schoolOf 22 = .ok (.ireturn, 1) := dk_172 (dk_at dksX0_schoolOf_0 22 rfl rfl)
abbrev cX0_dog : ByteArray := method_15_code
def yX0_dog : MethodName := ⟨RX0, "dog", "(LExcuseLedger;I[J)I"⟩
def dkwX0_dog_0 : List UInt8 := [44, 3, 42, 27, 182, 0, 59, 133, 80, 167, 0, 6, 78, 4, 172, 3, 172]
abbrev dktX0_dog_0 : List UInt8 := dkwX0_dog_0 ++ []
theorem dksX0_dog_0 : cX0_dog.data.toList.drop 0 = dktX0_dog_0 := by decide +kernel
theorem dX0_dog_0 : decode cX0_dog 0 = .ok (.aload_n 2, 1) := dk_44 (dk_at dksX0_dog_0 0 rfl rfl)
theorem dX0_dog_1 : decode cX0_dog 1 = .ok (.iconst 0, 1) := dk_3 (dk_at dksX0_dog_0 1 rfl rfl)
theorem dX0_dog_2 : decode cX0_dog 2 = .ok (.aload_n 0, 1) := dk_42 (dk_at dksX0_dog_0 2 rfl rfl)
theorem dX0_dog_3 : decode cX0_dog 3 = .ok (.iload_n 1, 1) := dk_27 (dk_at dksX0_dog_0 3 rfl rfl)
theorem dX0_dog_4 : decode cX0_dog 4 = .ok (.invokevirtual 59, 3) := dk_182 0 59 (dk_at dksX0_dog_0 4 rfl rfl)
theorem dX0_dog_7 : decode cX0_dog 7 = .ok (.i2l, 1) := dk_133 (dk_at dksX0_dog_0 7 rfl rfl)
theorem dX0_dog_8 : decode cX0_dog 8 = .ok (.lastore, 1) := dk_80 (dk_at dksX0_dog_0 8 rfl rfl)
theorem dX0_dog_9 : decode cX0_dog 9 = .ok (.goto 6, 3) := dk_167 0 6 (dk_at dksX0_dog_0 9 rfl rfl)
theorem dX0_dog_12 : decode cX0_dog 12 = .ok (.astore_n 3, 1) := dk_78 (dk_at dksX0_dog_0 12 rfl rfl)
theorem dX0_dog_13 : decode cX0_dog 13 = .ok (.iconst 1, 1) := dk_4 (dk_at dksX0_dog_0 13 rfl rfl)
theorem dX0_dog_14 : decode cX0_dog 14 = .ok (.ireturn, 1) := dk_172 (dk_at dksX0_dog_0 14 rfl rfl)
theorem dX0_dog_15 : decode cX0_dog 15 = .ok (.iconst 0, 1) := dk_3 (dk_at dksX0_dog_0 15 rfl rfl)
theorem dX0_dog_16 : decode cX0_dog 16 = .ok (.ireturn, 1) := dk_172 (dk_at dksX0_dog_0 16 rfl rfl)
abbrev cX0_heard : ByteArray := method_16_code
def yX0_heard : MethodName := ⟨RX0, "heard", "(LExcuseLedger;IIII[J)I"⟩
def dkwX0_heard_1 : List UInt8 := [58, 6, 4, 172, 58, 6, 5, 172, 3, 172]
abbrev dktX0_heard_1 : List UInt8 := dkwX0_heard_1 ++ []
def dkwX0_heard_0 : List UInt8 := [25, 5, 3, 42, 27, 28, 29, 21, 4, 182, 0, 62, 153, 0, 7, 10, 167, 0, 4, 9, 80, 167, 0, 11]
abbrev dktX0_heard_0 : List UInt8 := dkwX0_heard_0 ++ dktX0_heard_1
theorem dksX0_heard_0 : cX0_heard.data.toList.drop 0 = dktX0_heard_0 := by decide +kernel
theorem dksX0_heard_1 : cX0_heard.data.toList.drop 24 = dktX0_heard_1 := dk_seg dksX0_heard_0 24 rfl rfl
theorem dX0_heard_0 : decode cX0_heard 0 = .ok (.aload 5, 2) := dk_25 5 (dk_at dksX0_heard_0 0 rfl rfl)
theorem dX0_heard_2 : decode cX0_heard 2 = .ok (.iconst 0, 1) := dk_3 (dk_at dksX0_heard_0 2 rfl rfl)
theorem dX0_heard_3 : decode cX0_heard 3 = .ok (.aload_n 0, 1) := dk_42 (dk_at dksX0_heard_0 3 rfl rfl)
theorem dX0_heard_4 : decode cX0_heard 4 = .ok (.iload_n 1, 1) := dk_27 (dk_at dksX0_heard_0 4 rfl rfl)
theorem dX0_heard_5 : decode cX0_heard 5 = .ok (.iload_n 2, 1) := dk_28 (dk_at dksX0_heard_0 5 rfl rfl)
theorem dX0_heard_6 : decode cX0_heard 6 = .ok (.iload_n 3, 1) := dk_29 (dk_at dksX0_heard_0 6 rfl rfl)
theorem dX0_heard_7 : decode cX0_heard 7 = .ok (.iload 4, 2) := dk_21 4 (dk_at dksX0_heard_0 7 rfl rfl)
theorem dX0_heard_9 : decode cX0_heard 9 = .ok (.invokevirtual 62, 3) := dk_182 0 62 (dk_at dksX0_heard_0 9 rfl rfl)
theorem dX0_heard_12 : decode cX0_heard 12 = .ok (.ifCond .eq 7, 3) := dk_153 0 7 (dk_at dksX0_heard_0 12 rfl rfl)
theorem dX0_heard_15 : decode cX0_heard 15 = .ok (.lconst 1, 1) := dk_10 (dk_at dksX0_heard_0 15 rfl rfl)
theorem dX0_heard_16 : decode cX0_heard 16 = .ok (.goto 4, 3) := dk_167 0 4 (dk_at dksX0_heard_0 16 rfl rfl)
theorem dX0_heard_19 : decode cX0_heard 19 = .ok (.lconst 0, 1) := dk_9 (dk_at dksX0_heard_0 19 rfl rfl)
theorem dX0_heard_20 : decode cX0_heard 20 = .ok (.lastore, 1) := dk_80 (dk_at dksX0_heard_0 20 rfl rfl)
theorem dX0_heard_21 : decode cX0_heard 21 = .ok (.goto 11, 3) := dk_167 0 11 (dk_at dksX0_heard_0 21 rfl rfl)
theorem dX0_heard_24 : decode cX0_heard 24 = .ok (.astore 6, 2) := dk_58 6 (dk_at dksX0_heard_1 0 rfl rfl)
theorem dX0_heard_26 : decode cX0_heard 26 = .ok (.iconst 1, 1) := dk_4 (dk_at dksX0_heard_1 2 rfl rfl)
theorem dX0_heard_27 : decode cX0_heard 27 = .ok (.ireturn, 1) := dk_172 (dk_at dksX0_heard_1 3 rfl rfl)
theorem dX0_heard_28 : decode cX0_heard 28 = .ok (.astore 6, 2) := dk_58 6 (dk_at dksX0_heard_1 4 rfl rfl)
theorem dX0_heard_30 : decode cX0_heard 30 = .ok (.iconst 2, 1) := dk_5 (dk_at dksX0_heard_1 6 rfl rfl)
theorem dX0_heard_31 : decode cX0_heard 31 = .ok (.ireturn, 1) := dk_172 (dk_at dksX0_heard_1 7 rfl rfl)
theorem dX0_heard_32 : decode cX0_heard 32 = .ok (.iconst 0, 1) := dk_3 (dk_at dksX0_heard_1 8 rfl rfl)
theorem dX0_heard_33 : decode cX0_heard 33 = .ok (.ireturn, 1) := dk_172 (dk_at dksX0_heard_1 9 rfl rfl)
abbrev cX0_would : ByteArray := method_17_code
def yX0_would : MethodName := ⟨RX0, "would", "(LExcuseLedger;IIII[J)I"⟩
def dkwX0_would_1 : List UInt8 := [58, 6, 4, 172, 58, 6, 5, 172, 58, 6, 6, 172, 3, 172]
abbrev dktX0_would_1 : List UInt8 := dkwX0_would_1 ++ []
def dkwX0_would_0 : List UInt8 := [25, 5, 3, 42, 27, 28, 29, 21, 4, 182, 0, 65, 153, 0, 7, 10, 167, 0, 4, 9, 80, 167, 0, 15]
abbrev dktX0_would_0 : List UInt8 := dkwX0_would_0 ++ dktX0_would_1
theorem dksX0_would_0 : cX0_would.data.toList.drop 0 = dktX0_would_0 := by decide +kernel
theorem dksX0_would_1 : cX0_would.data.toList.drop 24 = dktX0_would_1 := dk_seg dksX0_would_0 24 rfl rfl
theorem dX0_would_0 : decode cX0_would 0 = .ok (.aload 5, 2) := dk_25 5 (dk_at dksX0_would_0 0 rfl rfl)
theorem dX0_would_2 : decode cX0_would 2 = .ok (.iconst 0, 1) := dk_3 (dk_at dksX0_would_0 2 rfl rfl)
theorem dX0_would_3 : decode cX0_would 3 = .ok (.aload_n 0, 1) := dk_42 (dk_at dksX0_would_0 3 rfl rfl)
theorem dX0_would_4 : decode cX0_would 4 = .ok (.iload_n 1, 1) := dk_27 (dk_at dksX0_would_0 4 rfl rfl)
theorem dX0_would_5 : decode cX0_would 5 = .ok (.iload_n 2, 1) := dk_28 (dk_at dksX0_would_0 5 rfl rfl)
theorem dX0_would_6 : decode cX0_would 6 = .ok (.iload_n 3, 1) := dk_29 (dk_at dksX0_would_0 6 rfl rfl)
theorem dX0_would_7 : decode cX0_would 7 = .ok (.iload 4, 2) := dk_21 4 (dk_at dksX0_would_0 7 rfl rfl)
theorem dX0_would_9 : decode cX0_would 9 = .ok (.invokevirtual 65, 3) := dk_182 0 65 (dk_at dksX0_would_0 9 rfl rfl)
theorem dX0_would_12 : decode cX0_would 12 = .ok (.ifCond .eq 7, 3) := dk_153 0 7 (dk_at dksX0_would_0 12 rfl rfl)
theorem dX0_would_15 : decode cX0_would 15 = .ok (.lconst 1, 1) := dk_10 (dk_at dksX0_would_0 15 rfl rfl)
theorem dX0_would_16 : decode cX0_would 16 = .ok (.goto 4, 3) := dk_167 0 4 (dk_at dksX0_would_0 16 rfl rfl)
theorem dX0_would_19 : decode cX0_would 19 = .ok (.lconst 0, 1) := dk_9 (dk_at dksX0_would_0 19 rfl rfl)
theorem dX0_would_20 : decode cX0_would 20 = .ok (.lastore, 1) := dk_80 (dk_at dksX0_would_0 20 rfl rfl)
theorem dX0_would_21 : decode cX0_would 21 = .ok (.goto 15, 3) := dk_167 0 15 (dk_at dksX0_would_0 21 rfl rfl)
theorem dX0_would_24 : decode cX0_would 24 = .ok (.astore 6, 2) := dk_58 6 (dk_at dksX0_would_1 0 rfl rfl)
theorem dX0_would_26 : decode cX0_would 26 = .ok (.iconst 1, 1) := dk_4 (dk_at dksX0_would_1 2 rfl rfl)
theorem dX0_would_27 : decode cX0_would 27 = .ok (.ireturn, 1) := dk_172 (dk_at dksX0_would_1 3 rfl rfl)
theorem dX0_would_28 : decode cX0_would 28 = .ok (.astore 6, 2) := dk_58 6 (dk_at dksX0_would_1 4 rfl rfl)
theorem dX0_would_30 : decode cX0_would 30 = .ok (.iconst 2, 1) := dk_5 (dk_at dksX0_would_1 6 rfl rfl)
theorem dX0_would_31 : decode cX0_would 31 = .ok (.ireturn, 1) := dk_172 (dk_at dksX0_would_1 7 rfl rfl)
theorem dX0_would_32 : decode cX0_would 32 = .ok (.astore 6, 2) := dk_58 6 (dk_at dksX0_would_1 8 rfl rfl)
theorem dX0_would_34 : decode cX0_would 34 = .ok (.iconst 3, 1) := dk_6 (dk_at dksX0_would_1 10 rfl rfl)
theorem dX0_would_35 : decode cX0_would 35 = .ok (.ireturn, 1) := dk_172 (dk_at dksX0_would_1 11 rfl rfl)
theorem dX0_would_36 : decode cX0_would 36 = .ok (.iconst 0, 1) := dk_3 (dk_at dksX0_would_1 12 rfl rfl)
theorem dX0_would_37 : decode cX0_would 37 = .ok (.ireturn, 1) := dk_172 (dk_at dksX0_would_1 13 rfl rfl)
abbrev cX0_believers : ByteArray := method_18_code
def yX0_believers : MethodName := ⟨RX0, "believers", "(LExcuseLedger;III[J)I"⟩
def dkwX0_believers_1 : List UInt8 := [58, 5, 6, 172, 3, 172]
abbrev dktX0_believers_1 : List UInt8 := dkwX0_believers_1 ++ []
def dkwX0_believers_0 : List UInt8 := [25, 4, 3, 42, 27, 28, 29, 182, 0, 68, 133, 80, 167, 0, 15, 58, 5, 4, 172, 58, 5, 5, 172]
abbrev dktX0_believers_0 : List UInt8 := dkwX0_believers_0 ++ dktX0_believers_1
theorem dksX0_believers_0 : cX0_believers.data.toList.drop 0 = dktX0_believers_0 := by decide +kernel
theorem dksX0_believers_1 : cX0_believers.data.toList.drop 23 = dktX0_believers_1 := dk_seg dksX0_believers_0 23 rfl rfl
theorem dX0_believers_0 : decode cX0_believers 0 = .ok (.aload 4, 2) := dk_25 4 (dk_at dksX0_believers_0 0 rfl rfl)
theorem dX0_believers_2 : decode cX0_believers 2 = .ok (.iconst 0, 1) := dk_3 (dk_at dksX0_believers_0 2 rfl rfl)
theorem dX0_believers_3 : decode cX0_believers 3 = .ok (.aload_n 0, 1) := dk_42 (dk_at dksX0_believers_0 3 rfl rfl)
theorem dX0_believers_4 : decode cX0_believers 4 = .ok (.iload_n 1, 1) := dk_27 (dk_at dksX0_believers_0 4 rfl rfl)
theorem dX0_believers_5 : decode cX0_believers 5 = .ok (.iload_n 2, 1) := dk_28 (dk_at dksX0_believers_0 5 rfl rfl)
theorem dX0_believers_6 : decode cX0_believers 6 = .ok (.iload_n 3, 1) := dk_29 (dk_at dksX0_believers_0 6 rfl rfl)
theorem dX0_believers_7 : decode cX0_believers 7 = .ok (.invokevirtual 68, 3) := dk_182 0 68 (dk_at dksX0_believers_0 7 rfl rfl)
theorem dX0_believers_10 : decode cX0_believers 10 = .ok (.i2l, 1) := dk_133 (dk_at dksX0_believers_0 10 rfl rfl)
theorem dX0_believers_11 : decode cX0_believers 11 = .ok (.lastore, 1) := dk_80 (dk_at dksX0_believers_0 11 rfl rfl)
theorem dX0_believers_12 : decode cX0_believers 12 = .ok (.goto 15, 3) := dk_167 0 15 (dk_at dksX0_believers_0 12 rfl rfl)
theorem dX0_believers_15 : decode cX0_believers 15 = .ok (.astore 5, 2) := dk_58 5 (dk_at dksX0_believers_0 15 rfl rfl)
theorem dX0_believers_17 : decode cX0_believers 17 = .ok (.iconst 1, 1) := dk_4 (dk_at dksX0_believers_0 17 rfl rfl)
theorem dX0_believers_18 : decode cX0_believers 18 = .ok (.ireturn, 1) := dk_172 (dk_at dksX0_believers_0 18 rfl rfl)
theorem dX0_believers_19 : decode cX0_believers 19 = .ok (.astore 5, 2) := dk_58 5 (dk_at dksX0_believers_0 19 rfl rfl)
theorem dX0_believers_21 : decode cX0_believers 21 = .ok (.iconst 2, 1) := dk_5 (dk_at dksX0_believers_0 21 rfl rfl)
theorem dX0_believers_22 : decode cX0_believers 22 = .ok (.ireturn, 1) := dk_172 (dk_at dksX0_believers_0 22 rfl rfl)
theorem dX0_believers_23 : decode cX0_believers 23 = .ok (.astore 5, 2) := dk_58 5 (dk_at dksX0_believers_1 0 rfl rfl)
theorem dX0_believers_25 : decode cX0_believers 25 = .ok (.iconst 3, 1) := dk_6 (dk_at dksX0_believers_1 2 rfl rfl)
theorem dX0_believers_26 : decode cX0_believers 26 = .ok (.ireturn, 1) := dk_172 (dk_at dksX0_believers_1 3 rfl rfl)
theorem dX0_believers_27 : decode cX0_believers 27 = .ok (.iconst 0, 1) := dk_3 (dk_at dksX0_believers_1 4 rfl rfl)
theorem dX0_believers_28 : decode cX0_believers 28 = .ok (.ireturn, 1) := dk_172 (dk_at dksX0_believers_1 5 rfl rfl)
abbrev cX0_left : ByteArray := method_19_code
def yX0_left : MethodName := ⟨RX0, "left", "(LExcuseLedger;I[J)I"⟩
def dkwX0_left_0 : List UInt8 := [44, 3, 42, 27, 182, 0, 71, 133, 80, 167, 0, 6, 78, 4, 172, 3, 172]
abbrev dktX0_left_0 : List UInt8 := dkwX0_left_0 ++ []
theorem dksX0_left_0 : cX0_left.data.toList.drop 0 = dktX0_left_0 := by decide +kernel
theorem dX0_left_0 : decode cX0_left 0 = .ok (.aload_n 2, 1) := dk_44 (dk_at dksX0_left_0 0 rfl rfl)
theorem dX0_left_1 : decode cX0_left 1 = .ok (.iconst 0, 1) := dk_3 (dk_at dksX0_left_0 1 rfl rfl)
theorem dX0_left_2 : decode cX0_left 2 = .ok (.aload_n 0, 1) := dk_42 (dk_at dksX0_left_0 2 rfl rfl)
theorem dX0_left_3 : decode cX0_left 3 = .ok (.iload_n 1, 1) := dk_27 (dk_at dksX0_left_0 3 rfl rfl)
theorem dX0_left_4 : decode cX0_left 4 = .ok (.invokevirtual 71, 3) := dk_182 0 71 (dk_at dksX0_left_0 4 rfl rfl)
theorem dX0_left_7 : decode cX0_left 7 = .ok (.i2l, 1) := dk_133 (dk_at dksX0_left_0 7 rfl rfl)
theorem dX0_left_8 : decode cX0_left 8 = .ok (.lastore, 1) := dk_80 (dk_at dksX0_left_0 8 rfl rfl)
theorem dX0_left_9 : decode cX0_left 9 = .ok (.goto 6, 3) := dk_167 0 6 (dk_at dksX0_left_0 9 rfl rfl)
theorem dX0_left_12 : decode cX0_left 12 = .ok (.astore_n 3, 1) := dk_78 (dk_at dksX0_left_0 12 rfl rfl)
theorem dX0_left_13 : decode cX0_left 13 = .ok (.iconst 1, 1) := dk_4 (dk_at dksX0_left_0 13 rfl rfl)
theorem dX0_left_14 : decode cX0_left 14 = .ok (.ireturn, 1) := dk_172 (dk_at dksX0_left_0 14 rfl rfl)
theorem dX0_left_15 : decode cX0_left 15 = .ok (.iconst 0, 1) := dk_3 (dk_at dksX0_left_0 15 rfl rfl)
theorem dX0_left_16 : decode cX0_left 16 = .ok (.ireturn, 1) := dk_172 (dk_at dksX0_left_0 16 rfl rfl)
abbrev cX0_leftAgain : ByteArray := method_20_code
def yX0_leftAgain : MethodName := ⟨RX0, "leftAgain", "(LExcuseLedger;I[J)I"⟩
def dkwX0_leftAgain_0 : List UInt8 := [44, 3, 42, 27, 182, 0, 74, 133, 80, 167, 0, 6, 78, 4, 172, 3, 172]
abbrev dktX0_leftAgain_0 : List UInt8 := dkwX0_leftAgain_0 ++ []
theorem dksX0_leftAgain_0 : cX0_leftAgain.data.toList.drop 0 = dktX0_leftAgain_0 := by decide +kernel
theorem dX0_leftAgain_0 : decode cX0_leftAgain 0 = .ok (.aload_n 2, 1) := dk_44 (dk_at dksX0_leftAgain_0 0 rfl rfl)
theorem dX0_leftAgain_1 : decode cX0_leftAgain 1 = .ok (.iconst 0, 1) := dk_3 (dk_at dksX0_leftAgain_0 1 rfl rfl)
theorem dX0_leftAgain_2 : decode cX0_leftAgain 2 = .ok (.aload_n 0, 1) := dk_42 (dk_at dksX0_leftAgain_0 2 rfl rfl)
theorem dX0_leftAgain_3 : decode cX0_leftAgain 3 = .ok (.iload_n 1, 1) := dk_27 (dk_at dksX0_leftAgain_0 3 rfl rfl)
theorem dX0_leftAgain_4 : decode cX0_leftAgain 4 = .ok (.invokevirtual 74, 3) := dk_182 0 74 (dk_at dksX0_leftAgain_0 4 rfl rfl)
theorem dX0_leftAgain_7 : decode cX0_leftAgain 7 = .ok (.i2l, 1) := dk_133 (dk_at dksX0_leftAgain_0 7 rfl rfl)
theorem dX0_leftAgain_8 : decode cX0_leftAgain 8 = .ok (.lastore, 1) := dk_80 (dk_at dksX0_leftAgain_0 8 rfl rfl)
theorem dX0_leftAgain_9 : decode cX0_leftAgain 9 = .ok (.goto 6, 3) := dk_167 0 6 (dk_at dksX0_leftAgain_0 9 rfl rfl)
theorem dX0_leftAgain_12 : decode cX0_leftAgain 12 = .ok (.astore_n 3, 1) := dk_78 (dk_at dksX0_leftAgain_0 12 rfl rfl)
theorem dX0_leftAgain_13 : decode cX0_leftAgain 13 = .ok (.iconst 1, 1) := dk_4 (dk_at dksX0_leftAgain_0 13 rfl rfl)
theorem dX0_leftAgain_14 : decode cX0_leftAgain 14 = .ok (.ireturn, 1) := dk_172 (dk_at dksX0_leftAgain_0 14 rfl rfl)
theorem dX0_leftAgain_15 : decode cX0_leftAgain 15 = .ok (.iconst 0, 1) := dk_3 (dk_at dksX0_leftAgain_0 15 rfl rfl)
theorem dX0_leftAgain_16 : decode cX0_leftAgain 16 = .ok (.ireturn, 1) := dk_172 (dk_at dksX0_leftAgain_0 16 rfl rfl)
abbrev cX0_best : ByteArray := method_21_code
def yX0_best : MethodName := ⟨RX0, "best", "(LExcuseLedger;II[J)I"⟩
def dkwX0_best_0 : List UInt8 := [45, 3, 42, 27, 28, 182, 0, 77, 133, 80, 167, 0, 11, 58, 4, 4, 172, 58, 4, 5, 172, 3, 172]
abbrev dktX0_best_0 : List UInt8 := dkwX0_best_0 ++ []
theorem dksX0_best_0 : cX0_best.data.toList.drop 0 = dktX0_best_0 := by decide +kernel
theorem dX0_best_0 : decode cX0_best 0 = .ok (.aload_n 3, 1) := dk_45 (dk_at dksX0_best_0 0 rfl rfl)
theorem dX0_best_1 : decode cX0_best 1 = .ok (.iconst 0, 1) := dk_3 (dk_at dksX0_best_0 1 rfl rfl)
theorem dX0_best_2 : decode cX0_best 2 = .ok (.aload_n 0, 1) := dk_42 (dk_at dksX0_best_0 2 rfl rfl)
theorem dX0_best_3 : decode cX0_best 3 = .ok (.iload_n 1, 1) := dk_27 (dk_at dksX0_best_0 3 rfl rfl)
theorem dX0_best_4 : decode cX0_best 4 = .ok (.iload_n 2, 1) := dk_28 (dk_at dksX0_best_0 4 rfl rfl)
theorem dX0_best_5 : decode cX0_best 5 = .ok (.invokevirtual 77, 3) := dk_182 0 77 (dk_at dksX0_best_0 5 rfl rfl)
theorem dX0_best_8 : decode cX0_best 8 = .ok (.i2l, 1) := dk_133 (dk_at dksX0_best_0 8 rfl rfl)
theorem dX0_best_9 : decode cX0_best 9 = .ok (.lastore, 1) := dk_80 (dk_at dksX0_best_0 9 rfl rfl)
theorem dX0_best_10 : decode cX0_best 10 = .ok (.goto 11, 3) := dk_167 0 11 (dk_at dksX0_best_0 10 rfl rfl)
theorem dX0_best_13 : decode cX0_best 13 = .ok (.astore 4, 2) := dk_58 4 (dk_at dksX0_best_0 13 rfl rfl)
theorem dX0_best_15 : decode cX0_best 15 = .ok (.iconst 1, 1) := dk_4 (dk_at dksX0_best_0 15 rfl rfl)
theorem dX0_best_16 : decode cX0_best 16 = .ok (.ireturn, 1) := dk_172 (dk_at dksX0_best_0 16 rfl rfl)
theorem dX0_best_17 : decode cX0_best 17 = .ok (.astore 4, 2) := dk_58 4 (dk_at dksX0_best_0 17 rfl rfl)
theorem dX0_best_19 : decode cX0_best 19 = .ok (.iconst 2, 1) := dk_5 (dk_at dksX0_best_0 19 rfl rfl)
theorem dX0_best_20 : decode cX0_best 20 = .ok (.ireturn, 1) := dk_172 (dk_at dksX0_best_0 20 rfl rfl)
theorem dX0_best_21 : decode cX0_best 21 = .ok (.iconst 0, 1) := dk_3 (dk_at dksX0_best_0 21 rfl rfl)
theorem dX0_best_22 : decode cX0_best 22 = .ok (.ireturn, 1) := dk_172 (dk_at dksX0_best_0 22 rfl rfl)
abbrev cX0_ranked : ByteArray := method_22_code
def yX0_ranked : MethodName := ⟨RX0, "ranked", "(LExcuseLedger;I[J)I"⟩
def dkwX0_ranked_0 : List UInt8 := [44, 3, 42, 27, 182, 0, 80, 133, 80, 167, 0, 6, 78, 4, 172, 3, 172]
abbrev dktX0_ranked_0 : List UInt8 := dkwX0_ranked_0 ++ []
theorem dksX0_ranked_0 : cX0_ranked.data.toList.drop 0 = dktX0_ranked_0 := by decide +kernel
theorem dX0_ranked_0 : decode cX0_ranked 0 = .ok (.aload_n 2, 1) := dk_44 (dk_at dksX0_ranked_0 0 rfl rfl)
theorem dX0_ranked_1 : decode cX0_ranked 1 = .ok (.iconst 0, 1) := dk_3 (dk_at dksX0_ranked_0 1 rfl rfl)
theorem dX0_ranked_2 : decode cX0_ranked 2 = .ok (.aload_n 0, 1) := dk_42 (dk_at dksX0_ranked_0 2 rfl rfl)
theorem dX0_ranked_3 : decode cX0_ranked 3 = .ok (.iload_n 1, 1) := dk_27 (dk_at dksX0_ranked_0 3 rfl rfl)
theorem dX0_ranked_4 : decode cX0_ranked 4 = .ok (.invokevirtual 80, 3) := dk_182 0 80 (dk_at dksX0_ranked_0 4 rfl rfl)
theorem dX0_ranked_7 : decode cX0_ranked 7 = .ok (.i2l, 1) := dk_133 (dk_at dksX0_ranked_0 7 rfl rfl)
theorem dX0_ranked_8 : decode cX0_ranked 8 = .ok (.lastore, 1) := dk_80 (dk_at dksX0_ranked_0 8 rfl rfl)
theorem dX0_ranked_9 : decode cX0_ranked 9 = .ok (.goto 6, 3) := dk_167 0 6 (dk_at dksX0_ranked_0 9 rfl rfl)
theorem dX0_ranked_12 : decode cX0_ranked 12 = .ok (.astore_n 3, 1) := dk_78 (dk_at dksX0_ranked_0 12 rfl rfl)
theorem dX0_ranked_13 : decode cX0_ranked 13 = .ok (.iconst 1, 1) := dk_4 (dk_at dksX0_ranked_0 13 rfl rfl)
theorem dX0_ranked_14 : decode cX0_ranked 14 = .ok (.ireturn, 1) := dk_172 (dk_at dksX0_ranked_0 14 rfl rfl)
theorem dX0_ranked_15 : decode cX0_ranked 15 = .ok (.iconst 0, 1) := dk_3 (dk_at dksX0_ranked_0 15 rfl rfl)
theorem dX0_ranked_16 : decode cX0_ranked 16 = .ok (.ireturn, 1) := dk_172 (dk_at dksX0_ranked_0 16 rfl rfl)
abbrev cX0_freshest : ByteArray := method_23_code
def yX0_freshest : MethodName := ⟨RX0, "freshest", "(LExcuseLedger;I[J)I"⟩
def dkwX0_freshest_0 : List UInt8 := [44, 3, 42, 27, 182, 0, 83, 133, 80, 167, 0, 6, 78, 4, 172, 3, 172]
abbrev dktX0_freshest_0 : List UInt8 := dkwX0_freshest_0 ++ []
theorem dksX0_freshest_0 : cX0_freshest.data.toList.drop 0 = dktX0_freshest_0 := by decide +kernel
theorem dX0_freshest_0 : decode cX0_freshest 0 = .ok (.aload_n 2, 1) := dk_44 (dk_at dksX0_freshest_0 0 rfl rfl)
theorem dX0_freshest_1 : decode cX0_freshest 1 = .ok (.iconst 0, 1) := dk_3 (dk_at dksX0_freshest_0 1 rfl rfl)
theorem dX0_freshest_2 : decode cX0_freshest 2 = .ok (.aload_n 0, 1) := dk_42 (dk_at dksX0_freshest_0 2 rfl rfl)
theorem dX0_freshest_3 : decode cX0_freshest 3 = .ok (.iload_n 1, 1) := dk_27 (dk_at dksX0_freshest_0 3 rfl rfl)
theorem dX0_freshest_4 : decode cX0_freshest 4 = .ok (.invokevirtual 83, 3) := dk_182 0 83 (dk_at dksX0_freshest_0 4 rfl rfl)
theorem dX0_freshest_7 : decode cX0_freshest 7 = .ok (.i2l, 1) := dk_133 (dk_at dksX0_freshest_0 7 rfl rfl)
theorem dX0_freshest_8 : decode cX0_freshest 8 = .ok (.lastore, 1) := dk_80 (dk_at dksX0_freshest_0 8 rfl rfl)
theorem dX0_freshest_9 : decode cX0_freshest 9 = .ok (.goto 6, 3) := dk_167 0 6 (dk_at dksX0_freshest_0 9 rfl rfl)
theorem dX0_freshest_12 : decode cX0_freshest 12 = .ok (.astore_n 3, 1) := dk_78 (dk_at dksX0_freshest_0 12 rfl rfl)
theorem dX0_freshest_13 : decode cX0_freshest 13 = .ok (.iconst 1, 1) := dk_4 (dk_at dksX0_freshest_0 13 rfl rfl)
theorem dX0_freshest_14 : decode cX0_freshest 14 = .ok (.ireturn, 1) := dk_172 (dk_at dksX0_freshest_0 14 rfl rfl)
theorem dX0_freshest_15 : decode cX0_freshest 15 = .ok (.iconst 0, 1) := dk_3 (dk_at dksX0_freshest_0 15 rfl rfl)
theorem dX0_freshest_16 : decode cX0_freshest 16 = .ok (.ireturn, 1) := dk_172 (dk_at dksX0_freshest_0 16 rfl rfl)
abbrev cX0_strongest : ByteArray := method_24_code
def yX0_strongest : MethodName := ⟨RX0, "strongest", "(LExcuseLedger;[J)I"⟩
def dkwX0_strongest_0 : List UInt8 := [43, 3, 42, 182, 0, 86, 133, 80, 167, 0, 6, 77, 4, 172, 3, 172]
abbrev dktX0_strongest_0 : List UInt8 := dkwX0_strongest_0 ++ []
theorem dksX0_strongest_0 : cX0_strongest.data.toList.drop 0 = dktX0_strongest_0 := by decide +kernel
theorem dX0_strongest_0 : decode cX0_strongest 0 = .ok (.aload_n 1, 1) := dk_43 (dk_at dksX0_strongest_0 0 rfl rfl)
theorem dX0_strongest_1 : decode cX0_strongest 1 = .ok (.iconst 0, 1) := dk_3 (dk_at dksX0_strongest_0 1 rfl rfl)
theorem dX0_strongest_2 : decode cX0_strongest 2 = .ok (.aload_n 0, 1) := dk_42 (dk_at dksX0_strongest_0 2 rfl rfl)
theorem dX0_strongest_3 : decode cX0_strongest 3 = .ok (.invokevirtual 86, 3) := dk_182 0 86 (dk_at dksX0_strongest_0 3 rfl rfl)
theorem dX0_strongest_6 : decode cX0_strongest 6 = .ok (.i2l, 1) := dk_133 (dk_at dksX0_strongest_0 6 rfl rfl)
theorem dX0_strongest_7 : decode cX0_strongest 7 = .ok (.lastore, 1) := dk_80 (dk_at dksX0_strongest_0 7 rfl rfl)
theorem dX0_strongest_8 : decode cX0_strongest 8 = .ok (.goto 6, 3) := dk_167 0 6 (dk_at dksX0_strongest_0 8 rfl rfl)
theorem dX0_strongest_11 : decode cX0_strongest 11 = .ok (.astore_n 2, 1) := dk_77 (dk_at dksX0_strongest_0 11 rfl rfl)
theorem dX0_strongest_12 : decode cX0_strongest 12 = .ok (.iconst 1, 1) := dk_4 (dk_at dksX0_strongest_0 12 rfl rfl)
theorem dX0_strongest_13 : decode cX0_strongest 13 = .ok (.ireturn, 1) := dk_172 (dk_at dksX0_strongest_0 13 rfl rfl)
theorem dX0_strongest_14 : decode cX0_strongest 14 = .ok (.iconst 0, 1) := dk_3 (dk_at dksX0_strongest_0 14 rfl rfl)
theorem dX0_strongest_15 : decode cX0_strongest 15 = .ok (.ireturn, 1) := dk_172 (dk_at dksX0_strongest_0 15 rfl rfl)
abbrev cX0_tell : ByteArray := method_25_code
def yX0_tell : MethodName := ⟨RX0, "tell", "(LExcuseLedger;II[J)I"⟩
def dkwX0_tell_0 : List UInt8 := [45, 3, 42, 27, 28, 182, 0, 90, 133, 80, 167, 0, 11, 58, 4, 4, 172, 58, 4, 5, 172, 3, 172]
abbrev dktX0_tell_0 : List UInt8 := dkwX0_tell_0 ++ []
theorem dksX0_tell_0 : cX0_tell.data.toList.drop 0 = dktX0_tell_0 := by decide +kernel
theorem dX0_tell_0 : decode cX0_tell 0 = .ok (.aload_n 3, 1) := dk_45 (dk_at dksX0_tell_0 0 rfl rfl)
theorem dX0_tell_1 : decode cX0_tell 1 = .ok (.iconst 0, 1) := dk_3 (dk_at dksX0_tell_0 1 rfl rfl)
theorem dX0_tell_2 : decode cX0_tell 2 = .ok (.aload_n 0, 1) := dk_42 (dk_at dksX0_tell_0 2 rfl rfl)
theorem dX0_tell_3 : decode cX0_tell 3 = .ok (.iload_n 1, 1) := dk_27 (dk_at dksX0_tell_0 3 rfl rfl)
theorem dX0_tell_4 : decode cX0_tell 4 = .ok (.iload_n 2, 1) := dk_28 (dk_at dksX0_tell_0 4 rfl rfl)
theorem dX0_tell_5 : decode cX0_tell 5 = .ok (.invokevirtual 90, 3) := dk_182 0 90 (dk_at dksX0_tell_0 5 rfl rfl)
theorem dX0_tell_8 : decode cX0_tell 8 = .ok (.i2l, 1) := dk_133 (dk_at dksX0_tell_0 8 rfl rfl)
theorem dX0_tell_9 : decode cX0_tell 9 = .ok (.lastore, 1) := dk_80 (dk_at dksX0_tell_0 9 rfl rfl)
theorem dX0_tell_10 : decode cX0_tell 10 = .ok (.goto 11, 3) := dk_167 0 11 (dk_at dksX0_tell_0 10 rfl rfl)
theorem dX0_tell_13 : decode cX0_tell 13 = .ok (.astore 4, 2) := dk_58 4 (dk_at dksX0_tell_0 13 rfl rfl)
theorem dX0_tell_15 : decode cX0_tell 15 = .ok (.iconst 1, 1) := dk_4 (dk_at dksX0_tell_0 15 rfl rfl)
theorem dX0_tell_16 : decode cX0_tell 16 = .ok (.ireturn, 1) := dk_172 (dk_at dksX0_tell_0 16 rfl rfl)
theorem dX0_tell_17 : decode cX0_tell 17 = .ok (.astore 4, 2) := dk_58 4 (dk_at dksX0_tell_0 17 rfl rfl)
theorem dX0_tell_19 : decode cX0_tell 19 = .ok (.iconst 2, 1) := dk_5 (dk_at dksX0_tell_0 19 rfl rfl)
theorem dX0_tell_20 : decode cX0_tell 20 = .ok (.ireturn, 1) := dk_172 (dk_at dksX0_tell_0 20 rfl rfl)
theorem dX0_tell_21 : decode cX0_tell 21 = .ok (.iconst 0, 1) := dk_3 (dk_at dksX0_tell_0 21 rfl rfl)
theorem dX0_tell_22 : decode cX0_tell 22 = .ok (.ireturn, 1) := dk_172 (dk_at dksX0_tell_0 22 rfl rfl)
abbrev cX0_bag : ByteArray := method_26_code
def yX0_bag : MethodName := ⟨RX0, "bag", "(LExcuseLedger;I[J)I"⟩
def dkwX0_bag_0 : List UInt8 := [44, 3, 42, 27, 182, 0, 93, 133, 80, 167, 0, 6, 78, 4, 172, 3, 172]
abbrev dktX0_bag_0 : List UInt8 := dkwX0_bag_0 ++ []
theorem dksX0_bag_0 : cX0_bag.data.toList.drop 0 = dktX0_bag_0 := by decide +kernel
theorem dX0_bag_0 : decode cX0_bag 0 = .ok (.aload_n 2, 1) := dk_44 (dk_at dksX0_bag_0 0 rfl rfl)
theorem dX0_bag_1 : decode cX0_bag 1 = .ok (.iconst 0, 1) := dk_3 (dk_at dksX0_bag_0 1 rfl rfl)
theorem dX0_bag_2 : decode cX0_bag 2 = .ok (.aload_n 0, 1) := dk_42 (dk_at dksX0_bag_0 2 rfl rfl)
theorem dX0_bag_3 : decode cX0_bag 3 = .ok (.iload_n 1, 1) := dk_27 (dk_at dksX0_bag_0 3 rfl rfl)
theorem dX0_bag_4 : decode cX0_bag 4 = .ok (.invokevirtual 93, 3) := dk_182 0 93 (dk_at dksX0_bag_0 4 rfl rfl)
theorem dX0_bag_7 : decode cX0_bag 7 = .ok (.i2l, 1) := dk_133 (dk_at dksX0_bag_0 7 rfl rfl)
theorem dX0_bag_8 : decode cX0_bag 8 = .ok (.lastore, 1) := dk_80 (dk_at dksX0_bag_0 8 rfl rfl)
theorem dX0_bag_9 : decode cX0_bag 9 = .ok (.goto 6, 3) := dk_167 0 6 (dk_at dksX0_bag_0 9 rfl rfl)
theorem dX0_bag_12 : decode cX0_bag 12 = .ok (.astore_n 3, 1) := dk_78 (dk_at dksX0_bag_0 12 rfl rfl)
theorem dX0_bag_13 : decode cX0_bag 13 = .ok (.iconst 1, 1) := dk_4 (dk_at dksX0_bag_0 13 rfl rfl)
theorem dX0_bag_14 : decode cX0_bag 14 = .ok (.ireturn, 1) := dk_172 (dk_at dksX0_bag_0 14 rfl rfl)
theorem dX0_bag_15 : decode cX0_bag 15 = .ok (.iconst 0, 1) := dk_3 (dk_at dksX0_bag_0 15 rfl rfl)
theorem dX0_bag_16 : decode cX0_bag 16 = .ok (.ireturn, 1) := dk_172 (dk_at dksX0_bag_0 16 rfl rfl)
abbrev cX0_character : ByteArray := method_27_code
def yX0_character : MethodName := ⟨RX0, "character", "(LExcuseLedger;I[J)I"⟩
def dkwX0_character_0 : List UInt8 := [44, 3, 42, 27, 182, 0, 96, 133, 80, 167, 0, 6, 78, 4, 172, 3, 172]
abbrev dktX0_character_0 : List UInt8 := dkwX0_character_0 ++ []
theorem dksX0_character_0 : cX0_character.data.toList.drop 0 = dktX0_character_0 := by decide +kernel
theorem dX0_character_0 : decode cX0_character 0 = .ok (.aload_n 2, 1) := dk_44 (dk_at dksX0_character_0 0 rfl rfl)
theorem dX0_character_1 : decode cX0_character 1 = .ok (.iconst 0, 1) := dk_3 (dk_at dksX0_character_0 1 rfl rfl)
theorem dX0_character_2 : decode cX0_character 2 = .ok (.aload_n 0, 1) := dk_42 (dk_at dksX0_character_0 2 rfl rfl)
theorem dX0_character_3 : decode cX0_character 3 = .ok (.iload_n 1, 1) := dk_27 (dk_at dksX0_character_0 3 rfl rfl)
theorem dX0_character_4 : decode cX0_character 4 = .ok (.invokevirtual 96, 3) := dk_182 0 96 (dk_at dksX0_character_0 4 rfl rfl)
theorem dX0_character_7 : decode cX0_character 7 = .ok (.i2l, 1) := dk_133 (dk_at dksX0_character_0 7 rfl rfl)
theorem dX0_character_8 : decode cX0_character 8 = .ok (.lastore, 1) := dk_80 (dk_at dksX0_character_0 8 rfl rfl)
theorem dX0_character_9 : decode cX0_character 9 = .ok (.goto 6, 3) := dk_167 0 6 (dk_at dksX0_character_0 9 rfl rfl)
theorem dX0_character_12 : decode cX0_character 12 = .ok (.astore_n 3, 1) := dk_78 (dk_at dksX0_character_0 12 rfl rfl)
theorem dX0_character_13 : decode cX0_character 13 = .ok (.iconst 1, 1) := dk_4 (dk_at dksX0_character_0 13 rfl rfl)
theorem dX0_character_14 : decode cX0_character 14 = .ok (.ireturn, 1) := dk_172 (dk_at dksX0_character_0 14 rfl rfl)
theorem dX0_character_15 : decode cX0_character 15 = .ok (.iconst 0, 1) := dk_3 (dk_at dksX0_character_0 15 rfl rfl)
theorem dX0_character_16 : decode cX0_character 16 = .ok (.ireturn, 1) := dk_172 (dk_at dksX0_character_0 16 rfl rfl)
abbrev cX0_meanWear : ByteArray := method_28_code
def yX0_meanWear : MethodName := ⟨RX0, "meanWear", "(LExcuseLedger;[D)I"⟩
def dkwX0_meanWear_0 : List UInt8 := [43, 3, 42, 182, 0, 100, 82, 167, 0, 6, 77, 4, 172, 3, 172]
abbrev dktX0_meanWear_0 : List UInt8 := dkwX0_meanWear_0 ++ []
theorem dksX0_meanWear_0 : cX0_meanWear.data.toList.drop 0 = dktX0_meanWear_0 := by decide +kernel
theorem dX0_meanWear_0 : decode cX0_meanWear 0 = .ok (.aload_n 1, 1) := dk_43 (dk_at dksX0_meanWear_0 0 rfl rfl)
theorem dX0_meanWear_1 : decode cX0_meanWear 1 = .ok (.iconst 0, 1) := dk_3 (dk_at dksX0_meanWear_0 1 rfl rfl)
theorem dX0_meanWear_2 : decode cX0_meanWear 2 = .ok (.aload_n 0, 1) := dk_42 (dk_at dksX0_meanWear_0 2 rfl rfl)
theorem dX0_meanWear_3 : decode cX0_meanWear 3 = .ok (.invokevirtual 100, 3) := dk_182 0 100 (dk_at dksX0_meanWear_0 3 rfl rfl)
theorem dX0_meanWear_6 : decode cX0_meanWear 6 = .ok (.dastore, 1) := dk_82 (dk_at dksX0_meanWear_0 6 rfl rfl)
theorem dX0_meanWear_7 : decode cX0_meanWear 7 = .ok (.goto 6, 3) := dk_167 0 6 (dk_at dksX0_meanWear_0 7 rfl rfl)
theorem dX0_meanWear_10 : decode cX0_meanWear 10 = .ok (.astore_n 2, 1) := dk_77 (dk_at dksX0_meanWear_0 10 rfl rfl)
theorem dX0_meanWear_11 : decode cX0_meanWear 11 = .ok (.iconst 1, 1) := dk_4 (dk_at dksX0_meanWear_0 11 rfl rfl)
theorem dX0_meanWear_12 : decode cX0_meanWear 12 = .ok (.ireturn, 1) := dk_172 (dk_at dksX0_meanWear_0 12 rfl rfl)
theorem dX0_meanWear_13 : decode cX0_meanWear 13 = .ok (.iconst 0, 1) := dk_3 (dk_at dksX0_meanWear_0 13 rfl rfl)
theorem dX0_meanWear_14 : decode cX0_meanWear 14 = .ok (.ireturn, 1) := dk_172 (dk_at dksX0_meanWear_0 14 rfl rfl)
abbrev cX0_believedShare : ByteArray := method_29_code
def yX0_believedShare : MethodName := ⟨RX0, "believedShare", "(LExcuseLedger;[D)I"⟩
def dkwX0_believedShare_0 : List UInt8 := [43, 3, 42, 182, 0, 106, 141, 82, 167, 0, 6, 77, 4, 172, 3, 172]
abbrev dktX0_believedShare_0 : List UInt8 := dkwX0_believedShare_0 ++ []
theorem dksX0_believedShare_0 : cX0_believedShare.data.toList.drop 0 = dktX0_believedShare_0 := by decide +kernel
theorem dX0_believedShare_0 : decode cX0_believedShare 0 = .ok (.aload_n 1, 1) := dk_43 (dk_at dksX0_believedShare_0 0 rfl rfl)
theorem dX0_believedShare_1 : decode cX0_believedShare 1 = .ok (.iconst 0, 1) := dk_3 (dk_at dksX0_believedShare_0 1 rfl rfl)
theorem dX0_believedShare_2 : decode cX0_believedShare 2 = .ok (.aload_n 0, 1) := dk_42 (dk_at dksX0_believedShare_0 2 rfl rfl)
theorem dX0_believedShare_3 : decode cX0_believedShare 3 = .ok (.invokevirtual 106, 3) := dk_182 0 106 (dk_at dksX0_believedShare_0 3 rfl rfl)
theorem dX0_believedShare_6 : decode cX0_believedShare 6 = .ok (.f2d, 1) := dk_141 (dk_at dksX0_believedShare_0 6 rfl rfl)
theorem dX0_believedShare_7 : decode cX0_believedShare 7 = .ok (.dastore, 1) := dk_82 (dk_at dksX0_believedShare_0 7 rfl rfl)
theorem dX0_believedShare_8 : decode cX0_believedShare 8 = .ok (.goto 6, 3) := dk_167 0 6 (dk_at dksX0_believedShare_0 8 rfl rfl)
theorem dX0_believedShare_11 : decode cX0_believedShare 11 = .ok (.astore_n 2, 1) := dk_77 (dk_at dksX0_believedShare_0 11 rfl rfl)
theorem dX0_believedShare_12 : decode cX0_believedShare 12 = .ok (.iconst 1, 1) := dk_4 (dk_at dksX0_believedShare_0 12 rfl rfl)
theorem dX0_believedShare_13 : decode cX0_believedShare 13 = .ok (.ireturn, 1) := dk_172 (dk_at dksX0_believedShare_0 13 rfl rfl)
theorem dX0_believedShare_14 : decode cX0_believedShare 14 = .ok (.iconst 0, 1) := dk_3 (dk_at dksX0_believedShare_0 14 rfl rfl)
theorem dX0_believedShare_15 : decode cX0_believedShare 15 = .ok (.ireturn, 1) := dk_172 (dk_at dksX0_believedShare_0 15 rfl rfl)
abbrev cX0_account : ByteArray := method_30_code
def yX0_account : MethodName := ⟨RX0, "account", "(LExcuseLedger;I[J)I"⟩
def dkwX0_account_0 : List UInt8 := [44, 3, 42, 27, 182, 0, 110, 133, 80, 167, 0, 6, 78, 4, 172, 3, 172]
abbrev dktX0_account_0 : List UInt8 := dkwX0_account_0 ++ []
theorem dksX0_account_0 : cX0_account.data.toList.drop 0 = dktX0_account_0 := by decide +kernel
theorem dX0_account_0 : decode cX0_account 0 = .ok (.aload_n 2, 1) := dk_44 (dk_at dksX0_account_0 0 rfl rfl)
theorem dX0_account_1 : decode cX0_account 1 = .ok (.iconst 0, 1) := dk_3 (dk_at dksX0_account_0 1 rfl rfl)
theorem dX0_account_2 : decode cX0_account 2 = .ok (.aload_n 0, 1) := dk_42 (dk_at dksX0_account_0 2 rfl rfl)
theorem dX0_account_3 : decode cX0_account 3 = .ok (.iload_n 1, 1) := dk_27 (dk_at dksX0_account_0 3 rfl rfl)
theorem dX0_account_4 : decode cX0_account 4 = .ok (.invokevirtual 110, 3) := dk_182 0 110 (dk_at dksX0_account_0 4 rfl rfl)
theorem dX0_account_7 : decode cX0_account 7 = .ok (.i2l, 1) := dk_133 (dk_at dksX0_account_0 7 rfl rfl)
theorem dX0_account_8 : decode cX0_account 8 = .ok (.lastore, 1) := dk_80 (dk_at dksX0_account_0 8 rfl rfl)
theorem dX0_account_9 : decode cX0_account 9 = .ok (.goto 6, 3) := dk_167 0 6 (dk_at dksX0_account_0 9 rfl rfl)
theorem dX0_account_12 : decode cX0_account 12 = .ok (.astore_n 3, 1) := dk_78 (dk_at dksX0_account_0 12 rfl rfl)
theorem dX0_account_13 : decode cX0_account 13 = .ok (.iconst 1, 1) := dk_4 (dk_at dksX0_account_0 13 rfl rfl)
theorem dX0_account_14 : decode cX0_account 14 = .ok (.ireturn, 1) := dk_172 (dk_at dksX0_account_0 14 rfl rfl)
theorem dX0_account_15 : decode cX0_account 15 = .ok (.iconst 0, 1) := dk_3 (dk_at dksX0_account_0 15 rfl rfl)
theorem dX0_account_16 : decode cX0_account 16 = .ok (.ireturn, 1) := dk_172 (dk_at dksX0_account_0 16 rfl rfl)
abbrev cX0_append : ByteArray := method_31_code
def yX0_append : MethodName := ⟨RX0, "append", "(LExcuseLedger;C[J)I"⟩
def dkwX0_append_0 : List UInt8 := [44, 3, 42, 27, 182, 0, 113, 133, 80, 167, 0, 9, 78, 4, 172, 78, 5, 172, 3, 172]
abbrev dktX0_append_0 : List UInt8 := dkwX0_append_0 ++ []
theorem dksX0_append_0 : cX0_append.data.toList.drop 0 = dktX0_append_0 := by decide +kernel
theorem dX0_append_0 : decode cX0_append 0 = .ok (.aload_n 2, 1) := dk_44 (dk_at dksX0_append_0 0 rfl rfl)
theorem dX0_append_1 : decode cX0_append 1 = .ok (.iconst 0, 1) := dk_3 (dk_at dksX0_append_0 1 rfl rfl)
theorem dX0_append_2 : decode cX0_append 2 = .ok (.aload_n 0, 1) := dk_42 (dk_at dksX0_append_0 2 rfl rfl)
theorem dX0_append_3 : decode cX0_append 3 = .ok (.iload_n 1, 1) := dk_27 (dk_at dksX0_append_0 3 rfl rfl)
theorem dX0_append_4 : decode cX0_append 4 = .ok (.invokevirtual 113, 3) := dk_182 0 113 (dk_at dksX0_append_0 4 rfl rfl)
theorem dX0_append_7 : decode cX0_append 7 = .ok (.i2l, 1) := dk_133 (dk_at dksX0_append_0 7 rfl rfl)
theorem dX0_append_8 : decode cX0_append 8 = .ok (.lastore, 1) := dk_80 (dk_at dksX0_append_0 8 rfl rfl)
theorem dX0_append_9 : decode cX0_append 9 = .ok (.goto 9, 3) := dk_167 0 9 (dk_at dksX0_append_0 9 rfl rfl)
theorem dX0_append_12 : decode cX0_append 12 = .ok (.astore_n 3, 1) := dk_78 (dk_at dksX0_append_0 12 rfl rfl)
theorem dX0_append_13 : decode cX0_append 13 = .ok (.iconst 1, 1) := dk_4 (dk_at dksX0_append_0 13 rfl rfl)
theorem dX0_append_14 : decode cX0_append 14 = .ok (.ireturn, 1) := dk_172 (dk_at dksX0_append_0 14 rfl rfl)
theorem dX0_append_15 : decode cX0_append 15 = .ok (.astore_n 3, 1) := dk_78 (dk_at dksX0_append_0 15 rfl rfl)
theorem dX0_append_16 : decode cX0_append 16 = .ok (.iconst 2, 1) := dk_5 (dk_at dksX0_append_0 16 rfl rfl)
theorem dX0_append_17 : decode cX0_append 17 = .ok (.ireturn, 1) := dk_172 (dk_at dksX0_append_0 17 rfl rfl)
theorem dX0_append_18 : decode cX0_append 18 = .ok (.iconst 0, 1) := dk_3 (dk_at dksX0_append_0 18 rfl rfl)
theorem dX0_append_19 : decode cX0_append 19 = .ok (.ireturn, 1) := dk_172 (dk_at dksX0_append_0 19 rfl rfl)
abbrev cX0_read : ByteArray := method_32_code
def yX0_read : MethodName := ⟨RX0, "read", "(LExcuseLedger;[J)I"⟩
def dkwX0_read_0 : List UInt8 := [43, 3, 42, 182, 0, 119, 133, 80, 167, 0, 12, 77, 4, 172, 77, 5, 172, 77, 6, 172, 3, 172]
abbrev dktX0_read_0 : List UInt8 := dkwX0_read_0 ++ []
theorem dksX0_read_0 : cX0_read.data.toList.drop 0 = dktX0_read_0 := by decide +kernel
theorem dX0_read_0 : decode cX0_read 0 = .ok (.aload_n 1, 1) := dk_43 (dk_at dksX0_read_0 0 rfl rfl)
theorem dX0_read_1 : decode cX0_read 1 = .ok (.iconst 0, 1) := dk_3 (dk_at dksX0_read_0 1 rfl rfl)
theorem dX0_read_2 : decode cX0_read 2 = .ok (.aload_n 0, 1) := dk_42 (dk_at dksX0_read_0 2 rfl rfl)
theorem dX0_read_3 : decode cX0_read 3 = .ok (.invokevirtual 119, 3) := dk_182 0 119 (dk_at dksX0_read_0 3 rfl rfl)
theorem dX0_read_6 : decode cX0_read 6 = .ok (.i2l, 1) := dk_133 (dk_at dksX0_read_0 6 rfl rfl)
theorem dX0_read_7 : decode cX0_read 7 = .ok (.lastore, 1) := dk_80 (dk_at dksX0_read_0 7 rfl rfl)
theorem dX0_read_8 : decode cX0_read 8 = .ok (.goto 12, 3) := dk_167 0 12 (dk_at dksX0_read_0 8 rfl rfl)
theorem dX0_read_11 : decode cX0_read 11 = .ok (.astore_n 2, 1) := dk_77 (dk_at dksX0_read_0 11 rfl rfl)
theorem dX0_read_12 : decode cX0_read 12 = .ok (.iconst 1, 1) := dk_4 (dk_at dksX0_read_0 12 rfl rfl)
theorem dX0_read_13 : decode cX0_read 13 = .ok (.ireturn, 1) := dk_172 (dk_at dksX0_read_0 13 rfl rfl)
theorem dX0_read_14 : decode cX0_read 14 = .ok (.astore_n 2, 1) := dk_77 (dk_at dksX0_read_0 14 rfl rfl)
theorem dX0_read_15 : decode cX0_read 15 = .ok (.iconst 2, 1) := dk_5 (dk_at dksX0_read_0 15 rfl rfl)
theorem dX0_read_16 : decode cX0_read 16 = .ok (.ireturn, 1) := dk_172 (dk_at dksX0_read_0 16 rfl rfl)
theorem dX0_read_17 : decode cX0_read 17 = .ok (.astore_n 2, 1) := dk_77 (dk_at dksX0_read_0 17 rfl rfl)
theorem dX0_read_18 : decode cX0_read 18 = .ok (.iconst 3, 1) := dk_6 (dk_at dksX0_read_0 18 rfl rfl)
theorem dX0_read_19 : decode cX0_read 19 = .ok (.ireturn, 1) := dk_172 (dk_at dksX0_read_0 19 rfl rfl)
theorem dX0_read_20 : decode cX0_read 20 = .ok (.iconst 0, 1) := dk_3 (dk_at dksX0_read_0 20 rfl rfl)
theorem dX0_read_21 : decode cX0_read 21 = .ok (.ireturn, 1) := dk_172 (dk_at dksX0_read_0 21 rfl rfl)
abbrev cX0_errorPosition : ByteArray := method_33_code
def yX0_errorPosition : MethodName := ⟨RX0, "errorPosition", "(LExcuseLedger;[J)I"⟩
def dkwX0_errorPosition_0 : List UInt8 := [43, 3, 42, 182, 0, 122, 133, 80, 167, 0, 6, 77, 4, 172, 3, 172]
abbrev dktX0_errorPosition_0 : List UInt8 := dkwX0_errorPosition_0 ++ []
theorem dksX0_errorPosition_0 : cX0_errorPosition.data.toList.drop 0 = dktX0_errorPosition_0 := by decide +kernel
theorem dX0_errorPosition_0 : decode cX0_errorPosition 0 = .ok (.aload_n 1, 1) := dk_43 (dk_at dksX0_errorPosition_0 0 rfl rfl)
theorem dX0_errorPosition_1 : decode cX0_errorPosition 1 = .ok (.iconst 0, 1) := dk_3 (dk_at dksX0_errorPosition_0 1 rfl rfl)
theorem dX0_errorPosition_2 : decode cX0_errorPosition 2 = .ok (.aload_n 0, 1) := dk_42 (dk_at dksX0_errorPosition_0 2 rfl rfl)
theorem dX0_errorPosition_3 : decode cX0_errorPosition 3 = .ok (.invokevirtual 122, 3) := dk_182 0 122 (dk_at dksX0_errorPosition_0 3 rfl rfl)
theorem dX0_errorPosition_6 : decode cX0_errorPosition 6 = .ok (.i2l, 1) := dk_133 (dk_at dksX0_errorPosition_0 6 rfl rfl)
theorem dX0_errorPosition_7 : decode cX0_errorPosition 7 = .ok (.lastore, 1) := dk_80 (dk_at dksX0_errorPosition_0 7 rfl rfl)
theorem dX0_errorPosition_8 : decode cX0_errorPosition 8 = .ok (.goto 6, 3) := dk_167 0 6 (dk_at dksX0_errorPosition_0 8 rfl rfl)
theorem dX0_errorPosition_11 : decode cX0_errorPosition 11 = .ok (.astore_n 2, 1) := dk_77 (dk_at dksX0_errorPosition_0 11 rfl rfl)
theorem dX0_errorPosition_12 : decode cX0_errorPosition 12 = .ok (.iconst 1, 1) := dk_4 (dk_at dksX0_errorPosition_0 12 rfl rfl)
theorem dX0_errorPosition_13 : decode cX0_errorPosition 13 = .ok (.ireturn, 1) := dk_172 (dk_at dksX0_errorPosition_0 13 rfl rfl)
theorem dX0_errorPosition_14 : decode cX0_errorPosition 14 = .ok (.iconst 0, 1) := dk_3 (dk_at dksX0_errorPosition_0 14 rfl rfl)
theorem dX0_errorPosition_15 : decode cX0_errorPosition 15 = .ok (.ireturn, 1) := dk_172 (dk_at dksX0_errorPosition_0 15 rfl rfl)
abbrev cX0_reason : ByteArray := method_34_code
def yX0_reason : MethodName := ⟨RX0, "reason", "(LExcuseLedger;Z[J)I"⟩
def dkwX0_reason_0 : List UInt8 := [44, 3, 42, 27, 182, 0, 125, 133, 80, 167, 0, 6, 78, 4, 172, 3, 172]
abbrev dktX0_reason_0 : List UInt8 := dkwX0_reason_0 ++ []
theorem dksX0_reason_0 : cX0_reason.data.toList.drop 0 = dktX0_reason_0 := by decide +kernel
theorem dX0_reason_0 : decode cX0_reason 0 = .ok (.aload_n 2, 1) := dk_44 (dk_at dksX0_reason_0 0 rfl rfl)
theorem dX0_reason_1 : decode cX0_reason 1 = .ok (.iconst 0, 1) := dk_3 (dk_at dksX0_reason_0 1 rfl rfl)
theorem dX0_reason_2 : decode cX0_reason 2 = .ok (.aload_n 0, 1) := dk_42 (dk_at dksX0_reason_0 2 rfl rfl)
theorem dX0_reason_3 : decode cX0_reason 3 = .ok (.iload_n 1, 1) := dk_27 (dk_at dksX0_reason_0 3 rfl rfl)
theorem dX0_reason_4 : decode cX0_reason 4 = .ok (.invokevirtual 125, 3) := dk_182 0 125 (dk_at dksX0_reason_0 4 rfl rfl)
theorem dX0_reason_7 : decode cX0_reason 7 = .ok (.i2l, 1) := dk_133 (dk_at dksX0_reason_0 7 rfl rfl)
theorem dX0_reason_8 : decode cX0_reason 8 = .ok (.lastore, 1) := dk_80 (dk_at dksX0_reason_0 8 rfl rfl)
theorem dX0_reason_9 : decode cX0_reason 9 = .ok (.goto 6, 3) := dk_167 0 6 (dk_at dksX0_reason_0 9 rfl rfl)
theorem dX0_reason_12 : decode cX0_reason 12 = .ok (.astore_n 3, 1) := dk_78 (dk_at dksX0_reason_0 12 rfl rfl)
theorem dX0_reason_13 : decode cX0_reason 13 = .ok (.iconst 1, 1) := dk_4 (dk_at dksX0_reason_0 13 rfl rfl)
theorem dX0_reason_14 : decode cX0_reason 14 = .ok (.ireturn, 1) := dk_172 (dk_at dksX0_reason_0 14 rfl rfl)
theorem dX0_reason_15 : decode cX0_reason 15 = .ok (.iconst 0, 1) := dk_3 (dk_at dksX0_reason_0 15 rfl rfl)
theorem dX0_reason_16 : decode cX0_reason 16 = .ok (.ireturn, 1) := dk_172 (dk_at dksX0_reason_0 16 rfl rfl)
abbrev cX0_undo : ByteArray := method_35_code
def yX0_undo : MethodName := ⟨RX0, "undo", "(LExcuseLedger;[J)I"⟩
def dkwX0_undo_0 : List UInt8 := [43, 3, 42, 182, 0, 129, 133, 80, 167, 0, 6, 77, 4, 172, 3, 172]
abbrev dktX0_undo_0 : List UInt8 := dkwX0_undo_0 ++ []
theorem dksX0_undo_0 : cX0_undo.data.toList.drop 0 = dktX0_undo_0 := by decide +kernel
theorem dX0_undo_0 : decode cX0_undo 0 = .ok (.aload_n 1, 1) := dk_43 (dk_at dksX0_undo_0 0 rfl rfl)
theorem dX0_undo_1 : decode cX0_undo 1 = .ok (.iconst 0, 1) := dk_3 (dk_at dksX0_undo_0 1 rfl rfl)
theorem dX0_undo_2 : decode cX0_undo 2 = .ok (.aload_n 0, 1) := dk_42 (dk_at dksX0_undo_0 2 rfl rfl)
theorem dX0_undo_3 : decode cX0_undo 3 = .ok (.invokevirtual 129, 3) := dk_182 0 129 (dk_at dksX0_undo_0 3 rfl rfl)
theorem dX0_undo_6 : decode cX0_undo 6 = .ok (.i2l, 1) := dk_133 (dk_at dksX0_undo_0 6 rfl rfl)
theorem dX0_undo_7 : decode cX0_undo 7 = .ok (.lastore, 1) := dk_80 (dk_at dksX0_undo_0 7 rfl rfl)
theorem dX0_undo_8 : decode cX0_undo 8 = .ok (.goto 6, 3) := dk_167 0 6 (dk_at dksX0_undo_0 8 rfl rfl)
theorem dX0_undo_11 : decode cX0_undo 11 = .ok (.astore_n 2, 1) := dk_77 (dk_at dksX0_undo_0 11 rfl rfl)
theorem dX0_undo_12 : decode cX0_undo 12 = .ok (.iconst 1, 1) := dk_4 (dk_at dksX0_undo_0 12 rfl rfl)
theorem dX0_undo_13 : decode cX0_undo 13 = .ok (.ireturn, 1) := dk_172 (dk_at dksX0_undo_0 13 rfl rfl)
theorem dX0_undo_14 : decode cX0_undo 14 = .ok (.iconst 0, 1) := dk_3 (dk_at dksX0_undo_0 14 rfl rfl)
theorem dX0_undo_15 : decode cX0_undo 15 = .ok (.ireturn, 1) := dk_172 (dk_at dksX0_undo_0 15 rfl rfl)
abbrev cX0_restore : ByteArray := method_36_code
def yX0_restore : MethodName := ⟨RX0, "restore", "(LExcuseLedger;[J)I"⟩
def dkwX0_restore_0 : List UInt8 := [43, 3, 42, 182, 0, 132, 133, 80, 167, 0, 6, 77, 4, 172, 3, 172]
abbrev dktX0_restore_0 : List UInt8 := dkwX0_restore_0 ++ []
theorem dksX0_restore_0 : cX0_restore.data.toList.drop 0 = dktX0_restore_0 := by decide +kernel
theorem dX0_restore_0 : decode cX0_restore 0 = .ok (.aload_n 1, 1) := dk_43 (dk_at dksX0_restore_0 0 rfl rfl)
theorem dX0_restore_1 : decode cX0_restore 1 = .ok (.iconst 0, 1) := dk_3 (dk_at dksX0_restore_0 1 rfl rfl)
theorem dX0_restore_2 : decode cX0_restore 2 = .ok (.aload_n 0, 1) := dk_42 (dk_at dksX0_restore_0 2 rfl rfl)
theorem dX0_restore_3 : decode cX0_restore 3 = .ok (.invokevirtual 132, 3) := dk_182 0 132 (dk_at dksX0_restore_0 3 rfl rfl)
theorem dX0_restore_6 : decode cX0_restore 6 = .ok (.i2l, 1) := dk_133 (dk_at dksX0_restore_0 6 rfl rfl)
theorem dX0_restore_7 : decode cX0_restore 7 = .ok (.lastore, 1) := dk_80 (dk_at dksX0_restore_0 7 rfl rfl)
theorem dX0_restore_8 : decode cX0_restore 8 = .ok (.goto 6, 3) := dk_167 0 6 (dk_at dksX0_restore_0 8 rfl rfl)
theorem dX0_restore_11 : decode cX0_restore 11 = .ok (.astore_n 2, 1) := dk_77 (dk_at dksX0_restore_0 11 rfl rfl)
theorem dX0_restore_12 : decode cX0_restore 12 = .ok (.iconst 1, 1) := dk_4 (dk_at dksX0_restore_0 12 rfl rfl)
theorem dX0_restore_13 : decode cX0_restore 13 = .ok (.ireturn, 1) := dk_172 (dk_at dksX0_restore_0 13 rfl rfl)
theorem dX0_restore_14 : decode cX0_restore 14 = .ok (.iconst 0, 1) := dk_3 (dk_at dksX0_restore_0 14 rfl rfl)
theorem dX0_restore_15 : decode cX0_restore 15 = .ok (.ireturn, 1) := dk_172 (dk_at dksX0_restore_0 15 rfl rfl)
abbrev cL_law : ByteArray := code
def dkwL_law_104 : List UInt8 := [4, 172]
abbrev dktL_law_104 : List UInt8 := dkwL_law_104 ++ []
def dkwL_law_103 : List UInt8 := [154, 0, 15, 45, 3, 47, 21, 7, 133, 148, 153, 0, 5, 3, 172, 167, 0, 3, 132, 5, 5, 167, 246, 4]
abbrev dktL_law_103 : List UInt8 := dkwL_law_103 ++ dktL_law_104
def dkwL_law_102 : List UInt8 := [184, 1, 25, 54, 6, 44, 182, 1, 27, 54, 7, 44, 182, 0, 145, 21, 6, 159, 0, 5, 3, 172, 21, 6]
abbrev dktL_law_102 : List UInt8 := dkwL_law_102 ++ dktL_law_103
def dkwL_law_101 : List UInt8 := [148, 153, 0, 5, 3, 172, 167, 0, 60, 43, 182, 1, 21, 44, 182, 1, 24, 159, 0, 49, 3, 172, 43, 45]
abbrev dktL_law_101 : List UInt8 := dkwL_law_101 ++ dktL_law_102
def dkwL_law_100 : List UInt8 := [54, 7, 44, 182, 0, 145, 21, 6, 159, 0, 5, 3, 172, 21, 6, 154, 0, 15, 45, 3, 47, 21, 7, 133]
abbrev dktL_law_100 : List UInt8 := dkwL_law_100 ++ dktL_law_101
def dkwL_law_99 : List UInt8 := [47, 21, 7, 133, 148, 153, 0, 5, 3, 172, 167, 0, 104, 43, 45, 184, 1, 18, 54, 6, 44, 182, 1, 20]
abbrev dktL_law_99 : List UInt8 := dkwL_law_99 ++ dktL_law_100
def dkwL_law_98 : List UInt8 := [3, 182, 1, 17, 54, 7, 44, 182, 0, 145, 21, 6, 159, 0, 5, 3, 172, 21, 6, 154, 0, 15, 45, 3]
abbrev dktL_law_98 : List UInt8 := dkwL_law_98 ++ dktL_law_99
def dkwL_law_97 : List UInt8 := [167, 0, 4, 3, 45, 184, 1, 14, 54, 6, 44, 42, 21, 5, 4, 96, 46, 153, 0, 7, 4, 167, 0, 4]
abbrev dktL_law_97 : List UInt8 := dkwL_law_97 ++ dktL_law_98
def dkwL_law_96 : List UInt8 := [21, 7, 133, 148, 153, 0, 5, 3, 172, 167, 0, 176, 43, 42, 21, 5, 4, 96, 46, 153, 0, 7, 4]
abbrev dktL_law_96 : List UInt8 := dkwL_law_96 ++ dktL_law_97
def dkwL_law_95 : List UInt8 := [182, 1, 13, 54, 7, 44, 182, 0, 145, 21, 6, 159, 0, 5, 3, 172, 21, 6, 154, 0, 15, 45, 3, 47]
abbrev dktL_law_95 : List UInt8 := dkwL_law_95 ++ dktL_law_96
def dkwL_law_94 : List UInt8 := [45, 3, 47, 21, 7, 133, 148, 153, 0, 5, 3, 172, 167, 0, 220, 43, 45, 184, 1, 11, 54, 6, 44]
abbrev dktL_law_94 : List UInt8 := dkwL_law_94 ++ dktL_law_95
def dkwL_law_93 : List UInt8 := [54, 6, 44, 182, 1, 10, 54, 7, 44, 182, 0, 145, 21, 6, 159, 0, 5, 3, 172, 21, 6, 154, 0, 15]
abbrev dktL_law_93 : List UInt8 := dkwL_law_93 ++ dktL_law_94
def dkwL_law_92 : List UInt8 := [154, 0, 15, 45, 3, 47, 21, 7, 133, 148, 153, 0, 5, 3, 172, 167, 1, 8, 43, 45, 184, 1, 8]
abbrev dktL_law_92 : List UInt8 := dkwL_law_92 ++ dktL_law_93
def dkwL_law_91 : List UInt8 := [21, 5, 4, 96, 46, 146, 182, 1, 7, 54, 7, 44, 182, 0, 145, 21, 6, 159, 0, 5, 3, 172, 21, 6]
abbrev dktL_law_91 : List UInt8 := dkwL_law_91 ++ dktL_law_92
def dkwL_law_90 : List UInt8 := [153, 0, 5, 3, 172, 167, 1, 66, 43, 42, 21, 5, 4, 96, 46, 146, 45, 184, 1, 4, 54, 6, 44, 42]
abbrev dktL_law_90 : List UInt8 := dkwL_law_90 ++ dktL_law_91
def dkwL_law_89 : List UInt8 := [182, 0, 145, 21, 6, 159, 0, 5, 3, 172, 21, 6, 154, 0, 15, 45, 3, 47, 21, 7, 133, 148]
abbrev dktL_law_89 : List UInt8 := dkwL_law_89 ++ dktL_law_90
def dkwL_law_88 : List UInt8 := [21, 5, 4, 96, 46, 45, 184, 1, 1, 54, 6, 44, 42, 21, 5, 4, 96, 46, 182, 1, 3, 54, 7, 44]
abbrev dktL_law_88 : List UInt8 := dkwL_law_88 ++ dktL_law_89
def dkwL_law_87 : List UInt8 := [49, 25, 4, 3, 49, 151, 153, 0, 11, 23, 7, 23, 7, 149, 154, 0, 5, 3, 172, 167, 1, 122, 43, 42]
abbrev dktL_law_87 : List UInt8 := dkwL_law_87 ++ dktL_law_88
def dkwL_law_86 : List UInt8 := [159, 0, 5, 3, 172, 21, 6, 154, 0, 36, 25, 4, 3, 49, 23, 7, 141, 151, 153, 0, 25, 25, 4, 3]
abbrev dktL_law_86 : List UInt8 := dkwL_law_86 ++ dktL_law_87
def dkwL_law_85 : List UInt8 := [172, 167, 1, 188, 43, 25, 4, 184, 0, 254, 54, 6, 44, 182, 1, 0, 56, 7, 44, 182, 0, 145, 21, 6]
abbrev dktL_law_85 : List UInt8 := dkwL_law_85 ++ dktL_law_86
def dkwL_law_84 : List UInt8 := [153, 0, 25, 25, 4, 3, 49, 25, 4, 3, 49, 151, 153, 0, 11, 24, 7, 24, 7, 151, 154, 0, 5, 3]
abbrev dktL_law_84 : List UInt8 := dkwL_law_84 ++ dktL_law_85
def dkwL_law_83 : List UInt8 := [182, 0, 145, 21, 6, 159, 0, 5, 3, 172, 21, 6, 154, 0, 35, 25, 4, 3, 49, 24, 7, 151]
abbrev dktL_law_83 : List UInt8 := dkwL_law_83 ++ dktL_law_84
def dkwL_law_82 : List UInt8 := [153, 0, 5, 3, 172, 167, 1, 253, 43, 25, 4, 184, 0, 250, 54, 6, 44, 182, 0, 253, 57, 7, 44]
abbrev dktL_law_82 : List UInt8 := dkwL_law_82 ++ dktL_law_83
def dkwL_law_81 : List UInt8 := [182, 0, 145, 21, 6, 159, 0, 5, 3, 172, 21, 6, 154, 0, 15, 45, 3, 47, 21, 7, 133, 148]
abbrev dktL_law_81 : List UInt8 := dkwL_law_81 ++ dktL_law_82
def dkwL_law_80 : List UInt8 := [21, 5, 4, 96, 46, 45, 184, 0, 247, 54, 6, 44, 42, 21, 5, 4, 96, 46, 182, 0, 249, 54, 7, 44]
abbrev dktL_law_80 : List UInt8 := dkwL_law_80 ++ dktL_law_81
def dkwL_law_79 : List UInt8 := [172, 21, 6, 154, 0, 15, 45, 3, 47, 21, 7, 133, 148, 153, 0, 5, 3, 172, 167, 2, 53, 43, 42]
abbrev dktL_law_79 : List UInt8 := dkwL_law_79 ++ dktL_law_80
def dkwL_law_78 : List UInt8 := [54, 6, 44, 42, 21, 5, 4, 96, 46, 182, 0, 246, 54, 7, 44, 182, 0, 145, 21, 6, 159, 0, 5, 3]
abbrev dktL_law_78 : List UInt8 := dkwL_law_78 ++ dktL_law_79
def dkwL_law_77 : List UInt8 := [21, 7, 133, 148, 153, 0, 5, 3, 172, 167, 2, 109, 43, 42, 21, 5, 4, 96, 46, 45, 184, 0, 244]
abbrev dktL_law_77 : List UInt8 := dkwL_law_77 ++ dktL_law_78
def dkwL_law_76 : List UInt8 := [182, 0, 243, 54, 7, 44, 182, 0, 145, 21, 6, 159, 0, 5, 3, 172, 21, 6, 154, 0, 15, 45, 3, 47]
abbrev dktL_law_76 : List UInt8 := dkwL_law_76 ++ dktL_law_77
def dkwL_law_75 : List UInt8 := [21, 5, 5, 96, 46, 45, 184, 0, 241, 54, 6, 44, 42, 21, 5, 4, 96, 46, 42, 21, 5, 5, 96, 46]
abbrev dktL_law_75 : List UInt8 := dkwL_law_75 ++ dktL_law_76
def dkwL_law_74 : List UInt8 := [167, 2, 190, 43, 182, 0, 236, 44, 182, 0, 240, 159, 2, 179, 3, 172, 43, 42, 21, 5, 4, 96, 46, 42]
abbrev dktL_law_74 : List UInt8 := dkwL_law_74 ++ dktL_law_75
def dkwL_law_73 : List UInt8 := [159, 0, 5, 3, 172, 21, 6, 154, 0, 15, 45, 3, 47, 21, 7, 133, 148, 153, 0, 5, 3, 172]
abbrev dktL_law_73 : List UInt8 := dkwL_law_73 ++ dktL_law_74
def dkwL_law_72 : List UInt8 := [167, 2, 234, 43, 45, 184, 0, 232, 54, 6, 44, 182, 0, 235, 54, 7, 44, 182, 0, 145, 21, 6]
abbrev dktL_law_72 : List UInt8 := dkwL_law_72 ++ dktL_law_73
def dkwL_law_71 : List UInt8 := [21, 6, 159, 0, 5, 3, 172, 21, 6, 154, 0, 15, 45, 3, 47, 21, 7, 133, 148, 153, 0, 5, 3, 172]
abbrev dktL_law_71 : List UInt8 := dkwL_law_71 ++ dktL_law_72
def dkwL_law_70 : List UInt8 := [46, 45, 184, 0, 229, 54, 6, 44, 42, 21, 5, 4, 96, 46, 182, 0, 231, 54, 7, 44, 182, 0, 145]
abbrev dktL_law_70 : List UInt8 := dkwL_law_70 ++ dktL_law_71
def dkwL_law_69 : List UInt8 := [154, 0, 15, 45, 3, 47, 21, 7, 133, 148, 153, 0, 5, 3, 172, 167, 3, 34, 43, 42, 21, 5, 4, 96]
abbrev dktL_law_69 : List UInt8 := dkwL_law_69 ++ dktL_law_70
def dkwL_law_68 : List UInt8 := [21, 5, 4, 96, 46, 182, 0, 228, 54, 7, 44, 182, 0, 145, 21, 6, 159, 0, 5, 3, 172, 21, 6]
abbrev dktL_law_68 : List UInt8 := dkwL_law_68 ++ dktL_law_69
def dkwL_law_67 : List UInt8 := [182, 0, 225, 159, 3, 92, 3, 172, 43, 42, 21, 5, 4, 96, 46, 45, 184, 0, 226, 54, 6, 44, 42]
abbrev dktL_law_67 : List UInt8 := dkwL_law_67 ++ dktL_law_68
def dkwL_law_66 : List UInt8 := [159, 3, 118, 3, 172, 43, 182, 0, 218, 44, 182, 0, 221, 159, 3, 105, 3, 172, 43, 182, 0, 222, 44]
abbrev dktL_law_66 : List UInt8 := dkwL_law_66 ++ dktL_law_67
def dkwL_law_65 : List UInt8 := [167, 3, 142, 43, 182, 0, 210, 44, 182, 0, 213, 159, 3, 131, 3, 172, 43, 182, 0, 214, 44, 182, 0, 217]
abbrev dktL_law_65 : List UInt8 := dkwL_law_65 ++ dktL_law_66
def dkwL_law_64 : List UInt8 := [159, 0, 5, 3, 172, 21, 6, 154, 0, 15, 45, 3, 47, 21, 7, 133, 148, 153, 0, 5, 3, 172]
abbrev dktL_law_64 : List UInt8 := dkwL_law_64 ++ dktL_law_65
def dkwL_law_63 : List UInt8 := [21, 5, 4, 96, 46, 42, 21, 5, 5, 96, 46, 182, 0, 209, 54, 7, 44, 182, 0, 145, 21, 6]
abbrev dktL_law_63 : List UInt8 := dkwL_law_63 ++ dktL_law_64
def dkwL_law_62 : List UInt8 := [167, 3, 210, 43, 42, 21, 5, 4, 96, 46, 42, 21, 5, 5, 96, 46, 45, 184, 0, 207, 54, 6, 44, 42]
abbrev dktL_law_62 : List UInt8 := dkwL_law_62 ++ dktL_law_63
def dkwL_law_61 : List UInt8 := [21, 6, 159, 0, 5, 3, 172, 21, 6, 154, 0, 15, 45, 3, 47, 21, 7, 133, 148, 153, 0, 5, 3, 172]
abbrev dktL_law_61 : List UInt8 := dkwL_law_61 ++ dktL_law_62
def dkwL_law_60 : List UInt8 := [46, 45, 184, 0, 204, 54, 6, 44, 42, 21, 5, 4, 96, 46, 182, 0, 206, 54, 7, 44, 182, 0, 145]
abbrev dktL_law_60 : List UInt8 := dkwL_law_60 ++ dktL_law_61
def dkwL_law_59 : List UInt8 := [154, 0, 15, 45, 3, 47, 21, 7, 133, 148, 153, 0, 5, 3, 172, 167, 4, 10, 43, 42, 21, 5, 4, 96]
abbrev dktL_law_59 : List UInt8 := dkwL_law_59 ++ dktL_law_60
def dkwL_law_58 : List UInt8 := [21, 5, 4, 96, 46, 182, 0, 203, 54, 7, 44, 182, 0, 145, 21, 6, 159, 0, 5, 3, 172, 21, 6]
abbrev dktL_law_58 : List UInt8 := dkwL_law_58 ++ dktL_law_59
def dkwL_law_57 : List UInt8 := [153, 0, 5, 3, 172, 167, 4, 66, 43, 42, 21, 5, 4, 96, 46, 45, 184, 0, 201, 54, 6, 44, 42]
abbrev dktL_law_57 : List UInt8 := dkwL_law_57 ++ dktL_law_58
def dkwL_law_56 : List UInt8 := [182, 0, 145, 21, 6, 159, 0, 5, 3, 172, 21, 6, 154, 0, 15, 45, 3, 47, 21, 7, 133, 148]
abbrev dktL_law_56 : List UInt8 := dkwL_law_56 ++ dktL_law_57
def dkwL_law_55 : List UInt8 := [21, 5, 4, 96, 46, 42, 21, 5, 5, 96, 46, 42, 21, 5, 6, 96, 46, 182, 0, 200, 54, 7, 44]
abbrev dktL_law_55 : List UInt8 := dkwL_law_55 ++ dktL_law_56
def dkwL_law_54 : List UInt8 := [4, 96, 46, 42, 21, 5, 5, 96, 46, 42, 21, 5, 6, 96, 46, 45, 184, 0, 198, 54, 6, 44, 42]
abbrev dktL_law_54 : List UInt8 := dkwL_law_54 ++ dktL_law_55
def dkwL_law_53 : List UInt8 := [47, 21, 7, 153, 0, 7, 10, 167, 0, 4, 9, 148, 153, 0, 5, 3, 172, 167, 4, 146, 43, 42, 21, 5]
abbrev dktL_law_53 : List UInt8 := dkwL_law_53 ++ dktL_law_54
def dkwL_law_52 : List UInt8 := [46, 182, 0, 197, 54, 7, 44, 182, 0, 145, 21, 6, 159, 0, 5, 3, 172, 21, 6, 154, 0, 22, 45, 3]
abbrev dktL_law_52 : List UInt8 := dkwL_law_52 ++ dktL_law_53
def dkwL_law_51 : List UInt8 := [44, 42, 21, 5, 4, 96, 46, 42, 21, 5, 5, 96, 46, 42, 21, 5, 6, 96, 46, 42, 21, 5, 7, 96]
abbrev dktL_law_51 : List UInt8 := dkwL_law_51 ++ dktL_law_52
def dkwL_law_50 : List UInt8 := [42, 21, 5, 5, 96, 46, 42, 21, 5, 6, 96, 46, 42, 21, 5, 7, 96, 46, 45, 184, 0, 195, 54, 6]
abbrev dktL_law_50 : List UInt8 := dkwL_law_50 ++ dktL_law_51
def dkwL_law_49 : List UInt8 := [153, 0, 7, 10, 167, 0, 4, 9, 148, 153, 0, 5, 3, 172, 167, 4, 245, 43, 42, 21, 5, 4, 96, 46]
abbrev dktL_law_49 : List UInt8 := dkwL_law_49 ++ dktL_law_50
def dkwL_law_48 : List UInt8 := [54, 7, 44, 182, 0, 145, 21, 6, 159, 0, 5, 3, 172, 21, 6, 154, 0, 22, 45, 3, 47, 21, 7]
abbrev dktL_law_48 : List UInt8 := dkwL_law_48 ++ dktL_law_49
def dkwL_law_47 : List UInt8 := [96, 46, 42, 21, 5, 5, 96, 46, 42, 21, 5, 6, 96, 46, 42, 21, 5, 7, 96, 46, 182, 0, 194]
abbrev dktL_law_47 : List UInt8 := dkwL_law_47 ++ dktL_law_48
def dkwL_law_46 : List UInt8 := [46, 42, 21, 5, 6, 96, 46, 42, 21, 5, 7, 96, 46, 45, 184, 0, 192, 54, 6, 44, 42, 21, 5, 4]
abbrev dktL_law_46 : List UInt8 := dkwL_law_46 ++ dktL_law_47
def dkwL_law_45 : List UInt8 := [21, 7, 133, 148, 153, 0, 5, 3, 172, 167, 5, 88, 43, 42, 21, 5, 4, 96, 46, 42, 21, 5, 5, 96]
abbrev dktL_law_45 : List UInt8 := dkwL_law_45 ++ dktL_law_46
def dkwL_law_44 : List UInt8 := [182, 0, 191, 54, 7, 44, 182, 0, 145, 21, 6, 159, 0, 5, 3, 172, 21, 6, 154, 0, 15, 45, 3, 47]
abbrev dktL_law_44 : List UInt8 := dkwL_law_44 ++ dktL_law_45
def dkwL_law_43 : List UInt8 := [167, 5, 144, 43, 42, 21, 5, 4, 96, 46, 45, 184, 0, 189, 54, 6, 44, 42, 21, 5, 4, 96, 46]
abbrev dktL_law_43 : List UInt8 := dkwL_law_43 ++ dktL_law_44
def dkwL_law_42 : List UInt8 := [159, 0, 5, 3, 172, 21, 6, 154, 0, 15, 45, 3, 47, 21, 7, 133, 148, 153, 0, 5, 3, 172]
abbrev dktL_law_42 : List UInt8 := dkwL_law_42 ++ dktL_law_43
def dkwL_law_41 : List UInt8 := [21, 5, 4, 96, 46, 42, 21, 5, 5, 96, 46, 182, 0, 188, 54, 7, 44, 182, 0, 145, 21, 6]
abbrev dktL_law_41 : List UInt8 := dkwL_law_41 ++ dktL_law_42
def dkwL_law_40 : List UInt8 := [167, 5, 212, 43, 42, 21, 5, 4, 96, 46, 42, 21, 5, 5, 96, 46, 45, 184, 0, 186, 54, 6, 44, 42]
abbrev dktL_law_40 : List UInt8 := dkwL_law_40 ++ dktL_law_41
def dkwL_law_39 : List UInt8 := [159, 0, 5, 3, 172, 21, 6, 154, 0, 15, 45, 3, 47, 21, 7, 133, 148, 153, 0, 5, 3, 172]
abbrev dktL_law_39 : List UInt8 := dkwL_law_39 ++ dktL_law_40
def dkwL_law_38 : List UInt8 := [21, 5, 4, 96, 46, 42, 21, 5, 5, 96, 46, 182, 0, 185, 54, 7, 44, 182, 0, 145, 21, 6]
abbrev dktL_law_38 : List UInt8 := dkwL_law_38 ++ dktL_law_39
def dkwL_law_37 : List UInt8 := [167, 6, 24, 43, 42, 21, 5, 4, 96, 46, 42, 21, 5, 5, 96, 46, 45, 184, 0, 183, 54, 6, 44, 42]
abbrev dktL_law_37 : List UInt8 := dkwL_law_37 ++ dktL_law_38
def dkwL_law_36 : List UInt8 := [159, 0, 5, 3, 172, 21, 6, 154, 0, 15, 45, 3, 47, 21, 7, 133, 148, 153, 0, 5, 3, 172]
abbrev dktL_law_36 : List UInt8 := dkwL_law_36 ++ dktL_law_37
def dkwL_law_35 : List UInt8 := [5, 96, 46, 153, 0, 7, 4, 167, 0, 4, 3, 182, 0, 182, 54, 7, 44, 182, 0, 145, 21, 6]
abbrev dktL_law_35 : List UInt8 := dkwL_law_35 ++ dktL_law_36
def dkwL_law_34 : List UInt8 := [153, 0, 7, 4, 167, 0, 4, 3, 45, 184, 0, 179, 54, 6, 44, 42, 21, 5, 4, 96, 46, 42, 21, 5]
abbrev dktL_law_34 : List UInt8 := dkwL_law_34 ++ dktL_law_35
def dkwL_law_33 : List UInt8 := [148, 153, 0, 5, 3, 172, 167, 6, 108, 43, 42, 21, 5, 4, 96, 46, 42, 21, 5, 5, 96, 46]
abbrev dktL_law_33 : List UInt8 := dkwL_law_33 ++ dktL_law_34
def dkwL_law_32 : List UInt8 := [54, 7, 44, 182, 0, 145, 21, 6, 159, 0, 5, 3, 172, 21, 6, 154, 0, 15, 45, 3, 47, 21, 7, 133]
abbrev dktL_law_32 : List UInt8 := dkwL_law_32 ++ dktL_law_33
def dkwL_law_31 : List UInt8 := [54, 6, 44, 42, 21, 5, 4, 96, 46, 42, 21, 5, 5, 96, 46, 42, 21, 5, 6, 96, 46, 182, 0, 178]
abbrev dktL_law_31 : List UInt8 := dkwL_law_31 ++ dktL_law_32
def dkwL_law_30 : List UInt8 := [172, 43, 42, 21, 5, 4, 96, 46, 42, 21, 5, 5, 96, 46, 42, 21, 5, 6, 96, 46, 45, 184, 0, 176]
abbrev dktL_law_30 : List UInt8 := dkwL_law_30 ++ dktL_law_31
def dkwL_law_29 : List UInt8 := [21, 7, 133, 148, 153, 0, 5, 3, 172, 167, 6, 201, 43, 182, 0, 172, 44, 182, 0, 175, 159, 6, 190, 3]
abbrev dktL_law_29 : List UInt8 := dkwL_law_29 ++ dktL_law_30
def dkwL_law_28 : List UInt8 := [182, 0, 171, 54, 7, 44, 182, 0, 145, 21, 6, 159, 0, 5, 3, 172, 21, 6, 154, 0, 15, 45, 3, 47]
abbrev dktL_law_28 : List UInt8 := dkwL_law_28 ++ dktL_law_29
def dkwL_law_27 : List UInt8 := [167, 7, 1, 43, 42, 21, 5, 4, 96, 46, 45, 184, 0, 168, 54, 6, 44, 42, 21, 5, 4, 96, 46]
abbrev dktL_law_27 : List UInt8 := dkwL_law_27 ++ dktL_law_28
def dkwL_law_26 : List UInt8 := [159, 0, 5, 3, 172, 21, 6, 154, 0, 15, 45, 3, 47, 21, 7, 133, 148, 153, 0, 5, 3, 172]
abbrev dktL_law_26 : List UInt8 := dkwL_law_26 ++ dktL_law_27
def dkwL_law_25 : List UInt8 := [21, 5, 4, 96, 46, 42, 21, 5, 5, 96, 46, 182, 0, 167, 54, 7, 44, 182, 0, 145, 21, 6]
abbrev dktL_law_25 : List UInt8 := dkwL_law_25 ++ dktL_law_26
def dkwL_law_24 : List UInt8 := [167, 7, 69, 43, 42, 21, 5, 4, 96, 46, 42, 21, 5, 5, 96, 46, 45, 184, 0, 165, 54, 6, 44, 42]
abbrev dktL_law_24 : List UInt8 := dkwL_law_24 ++ dktL_law_25
def dkwL_law_23 : List UInt8 := [154, 0, 22, 45, 3, 47, 21, 7, 153, 0, 7, 10, 167, 0, 4, 9, 148, 153, 0, 5, 3, 172]
abbrev dktL_law_23 : List UInt8 := dkwL_law_23 ++ dktL_law_24
def dkwL_law_22 : List UInt8 := [42, 21, 5, 7, 96, 46, 182, 0, 164, 54, 7, 44, 182, 0, 145, 21, 6, 159, 0, 5, 3, 172, 21, 6]
abbrev dktL_law_22 : List UInt8 := dkwL_law_22 ++ dktL_law_23
def dkwL_law_21 : List UInt8 := [184, 0, 162, 54, 6, 44, 42, 21, 5, 4, 96, 46, 42, 21, 5, 5, 96, 46, 42, 21, 5, 6, 96, 46]
abbrev dktL_law_21 : List UInt8 := dkwL_law_21 ++ dktL_law_22
def dkwL_law_20 : List UInt8 := [4, 96, 46, 42, 21, 5, 5, 96, 46, 42, 21, 5, 6, 96, 46, 42, 21, 5, 7, 96, 46, 45]
abbrev dktL_law_20 : List UInt8 := dkwL_law_20 ++ dktL_law_21
def dkwL_law_19 : List UInt8 := [21, 6, 154, 0, 15, 45, 3, 47, 21, 7, 133, 148, 153, 0, 5, 3, 172, 167, 7, 168, 43, 42, 21, 5]
abbrev dktL_law_19 : List UInt8 := dkwL_law_19 ++ dktL_law_20
def dkwL_law_18 : List UInt8 := [96, 46, 42, 21, 5, 6, 96, 46, 182, 0, 161, 54, 7, 44, 182, 0, 145, 21, 6, 159, 0, 5, 3, 172]
abbrev dktL_law_18 : List UInt8 := dkwL_law_18 ++ dktL_law_19
def dkwL_law_17 : List UInt8 := [46, 42, 21, 5, 6, 96, 46, 45, 184, 0, 158, 54, 6, 44, 42, 21, 5, 4, 96, 46, 42, 21, 5, 5]
abbrev dktL_law_17 : List UInt8 := dkwL_law_17 ++ dktL_law_18
def dkwL_law_16 : List UInt8 := [21, 7, 133, 148, 153, 0, 5, 3, 172, 167, 7, 248, 43, 42, 21, 5, 4, 96, 46, 42, 21, 5, 5, 96]
abbrev dktL_law_16 : List UInt8 := dkwL_law_16 ++ dktL_law_17
def dkwL_law_15 : List UInt8 := [182, 0, 157, 54, 7, 44, 182, 0, 145, 21, 6, 159, 0, 5, 3, 172, 21, 6, 154, 0, 15, 45, 3, 47]
abbrev dktL_law_15 : List UInt8 := dkwL_law_15 ++ dktL_law_16
def dkwL_law_14 : List UInt8 := [21, 5, 5, 96, 46, 45, 184, 0, 155, 54, 6, 44, 42, 21, 5, 4, 96, 46, 42, 21, 5, 5, 96, 46]
abbrev dktL_law_14 : List UInt8 := dkwL_law_14 ++ dktL_law_15
def dkwL_law_13 : List UInt8 := [45, 3, 47, 21, 7, 133, 148, 153, 0, 5, 3, 172, 167, 8, 60, 43, 42, 21, 5, 4, 96, 46, 42]
abbrev dktL_law_13 : List UInt8 := dkwL_law_13 ++ dktL_law_14
def dkwL_law_12 : List UInt8 := [7, 96, 46, 182, 0, 154, 54, 7, 44, 182, 0, 145, 21, 6, 159, 0, 5, 3, 172, 21, 6, 154, 0, 15]
abbrev dktL_law_12 : List UInt8 := dkwL_law_12 ++ dktL_law_13
def dkwL_law_11 : List UInt8 := [54, 6, 44, 42, 21, 5, 4, 96, 46, 42, 21, 5, 5, 96, 46, 42, 21, 5, 6, 96, 46, 42, 21, 5]
abbrev dktL_law_11 : List UInt8 := dkwL_law_11 ++ dktL_law_12
def dkwL_law_10 : List UInt8 := [46, 42, 21, 5, 5, 96, 46, 42, 21, 5, 6, 96, 46, 42, 21, 5, 7, 96, 46, 45, 184, 0, 152]
abbrev dktL_law_10 : List UInt8 := dkwL_law_10 ++ dktL_law_11
def dkwL_law_9 : List UInt8 := [154, 0, 15, 45, 3, 47, 21, 7, 133, 148, 153, 0, 5, 3, 172, 167, 8, 152, 43, 42, 21, 5, 4, 96]
abbrev dktL_law_9 : List UInt8 := dkwL_law_9 ++ dktL_law_10
def dkwL_law_8 : List UInt8 := [21, 5, 5, 96, 46, 182, 0, 151, 54, 7, 44, 182, 0, 145, 21, 6, 159, 0, 5, 3, 172, 21, 6]
abbrev dktL_law_8 : List UInt8 := dkwL_law_8 ++ dktL_law_9
def dkwL_law_7 : List UInt8 := [4, 96, 46, 42, 21, 5, 5, 96, 46, 45, 184, 0, 148, 54, 6, 44, 42, 21, 5, 4, 96, 46, 42]
abbrev dktL_law_7 : List UInt8 := dkwL_law_7 ++ dktL_law_8
def dkwL_law_6 : List UInt8 := [21, 6, 154, 0, 15, 45, 3, 47, 21, 7, 133, 148, 153, 0, 5, 3, 172, 167, 8, 220, 43, 42, 21, 5]
abbrev dktL_law_6 : List UInt8 := dkwL_law_6 ++ dktL_law_7
def dkwL_law_5 : List UInt8 := [96, 46, 42, 21, 5, 7, 96, 46, 182, 0, 144, 54, 7, 44, 182, 0, 145, 21, 6, 159, 0, 5, 3, 172]
abbrev dktL_law_5 : List UInt8 := dkwL_law_5 ++ dktL_law_6
def dkwL_law_4 : List UInt8 := [46, 45, 184, 0, 139, 54, 6, 44, 42, 21, 5, 4, 96, 46, 42, 21, 5, 5, 96, 46, 42, 21, 5, 6]
abbrev dktL_law_4 : List UInt8 := dkwL_law_4 ++ dktL_law_5
def dkwL_law_3 : List UInt8 := [43, 42, 21, 5, 4, 96, 46, 42, 21, 5, 5, 96, 46, 42, 21, 5, 6, 96, 46, 42, 21, 5, 7, 96]
abbrev dktL_law_3 : List UInt8 := dkwL_law_3 ++ dktL_law_4
def dkwL_law_2 : List UInt8 := [170, 0, 0, 0, 0, 0, 9, 233, 0, 0, 0, 0, 0, 0, 0, 40, 0, 0, 0, 180, 0, 0, 1, 16, 0, 0, 1, 84, 0, 0, 1, 176, 0, 0, 1, 244, 0, 0, 2, 68, 0, 0, 2, 167, 0, 0, 2, 235, 0, 0, 3, 35, 0, 0, 3, 48, 0, 0, 3, 128, 0, 0, 3, 212, 0, 0, 4, 24, 0, 0, 4, 92, 0, 0, 4, 148, 0, 0, 4, 247, 0, 0, 5, 90, 0, 0, 5, 170, 0, 0, 5, 226, 0, 0, 6, 26, 0, 0, 6, 94, 0, 0, 6, 107, 0, 0, 6, 120, 0, 0, 6, 133, 0, 0, 6, 146, 0, 0, 6, 202, 0, 0, 7, 2, 0, 0, 7, 46, 0, 0, 7, 59, 0, 0, 7, 127, 0, 0, 7, 183, 0, 0, 7, 239, 0, 0, 8, 48, 0, 0, 8, 114, 0, 0, 8, 170, 0, 0, 8, 228, 0, 0, 9, 16, 0, 0, 9, 60, 0, 0, 9, 132, 0, 0, 9, 176, 0, 0, 9, 189]
abbrev dktL_law_2 : List UInt8 := dkwL_law_2 ++ dktL_law_3
def dkwL_law_1 : List UInt8 := [58, 4, 3, 54, 5, 21, 5, 42, 190, 8, 100, 163, 9, 249, 42, 21, 5, 46, 16, 63, 126]
abbrev dktL_law_1 : List UInt8 := dkwL_law_1 ++ dktL_law_2
def dkwL_law_0 : List UInt8 := [187, 0, 8, 89, 183, 0, 135, 76, 187, 0, 136, 89, 183, 0, 138, 77, 4, 188, 11, 78, 4, 188, 7]
abbrev dktL_law_0 : List UInt8 := dkwL_law_0 ++ dktL_law_1
theorem dksL_law_0 : cL_law.data.toList.drop 0 = dktL_law_0 := by decide +kernel
theorem dksL_law_1 : cL_law.data.toList.drop 23 = dktL_law_1 := dk_seg dksL_law_0 23 rfl rfl
theorem dksL_law_2 : cL_law.data.toList.drop 44 = dktL_law_2 := dk_seg dksL_law_1 21 rfl rfl
theorem dksL_law_3 : cL_law.data.toList.drop 224 = dktL_law_3 := dk_seg dksL_law_2 180 rfl rfl
theorem dksL_law_4 : cL_law.data.toList.drop 248 = dktL_law_4 := dk_seg dksL_law_3 24 rfl rfl
theorem dksL_law_5 : cL_law.data.toList.drop 272 = dktL_law_5 := dk_seg dksL_law_4 24 rfl rfl
theorem dksL_law_6 : cL_law.data.toList.drop 296 = dktL_law_6 := dk_seg dksL_law_5 24 rfl rfl
theorem dksL_law_7 : cL_law.data.toList.drop 320 = dktL_law_7 := dk_seg dksL_law_6 24 rfl rfl
theorem dksL_law_8 : cL_law.data.toList.drop 343 = dktL_law_8 := dk_seg dksL_law_7 23 rfl rfl
theorem dksL_law_9 : cL_law.data.toList.drop 366 = dktL_law_9 := dk_seg dksL_law_8 23 rfl rfl
theorem dksL_law_10 : cL_law.data.toList.drop 390 = dktL_law_10 := dk_seg dksL_law_9 24 rfl rfl
theorem dksL_law_11 : cL_law.data.toList.drop 413 = dktL_law_11 := dk_seg dksL_law_10 23 rfl rfl
theorem dksL_law_12 : cL_law.data.toList.drop 437 = dktL_law_12 := dk_seg dksL_law_11 24 rfl rfl
theorem dksL_law_13 : cL_law.data.toList.drop 461 = dktL_law_13 := dk_seg dksL_law_12 24 rfl rfl
theorem dksL_law_14 : cL_law.data.toList.drop 484 = dktL_law_14 := dk_seg dksL_law_13 23 rfl rfl
theorem dksL_law_15 : cL_law.data.toList.drop 508 = dktL_law_15 := dk_seg dksL_law_14 24 rfl rfl
theorem dksL_law_16 : cL_law.data.toList.drop 532 = dktL_law_16 := dk_seg dksL_law_15 24 rfl rfl
theorem dksL_law_17 : cL_law.data.toList.drop 556 = dktL_law_17 := dk_seg dksL_law_16 24 rfl rfl
theorem dksL_law_18 : cL_law.data.toList.drop 580 = dktL_law_18 := dk_seg dksL_law_17 24 rfl rfl
theorem dksL_law_19 : cL_law.data.toList.drop 604 = dktL_law_19 := dk_seg dksL_law_18 24 rfl rfl
theorem dksL_law_20 : cL_law.data.toList.drop 628 = dktL_law_20 := dk_seg dksL_law_19 24 rfl rfl
theorem dksL_law_21 : cL_law.data.toList.drop 650 = dktL_law_21 := dk_seg dksL_law_20 22 rfl rfl
theorem dksL_law_22 : cL_law.data.toList.drop 674 = dktL_law_22 := dk_seg dksL_law_21 24 rfl rfl
theorem dksL_law_23 : cL_law.data.toList.drop 698 = dktL_law_23 := dk_seg dksL_law_22 24 rfl rfl
theorem dksL_law_24 : cL_law.data.toList.drop 720 = dktL_law_24 := dk_seg dksL_law_23 22 rfl rfl
theorem dksL_law_25 : cL_law.data.toList.drop 744 = dktL_law_25 := dk_seg dksL_law_24 24 rfl rfl
theorem dksL_law_26 : cL_law.data.toList.drop 766 = dktL_law_26 := dk_seg dksL_law_25 22 rfl rfl
theorem dksL_law_27 : cL_law.data.toList.drop 788 = dktL_law_27 := dk_seg dksL_law_26 22 rfl rfl
theorem dksL_law_28 : cL_law.data.toList.drop 811 = dktL_law_28 := dk_seg dksL_law_27 23 rfl rfl
theorem dksL_law_29 : cL_law.data.toList.drop 835 = dktL_law_29 := dk_seg dksL_law_28 24 rfl rfl
theorem dksL_law_30 : cL_law.data.toList.drop 859 = dktL_law_30 := dk_seg dksL_law_29 24 rfl rfl
theorem dksL_law_31 : cL_law.data.toList.drop 883 = dktL_law_31 := dk_seg dksL_law_30 24 rfl rfl
theorem dksL_law_32 : cL_law.data.toList.drop 907 = dktL_law_32 := dk_seg dksL_law_31 24 rfl rfl
theorem dksL_law_33 : cL_law.data.toList.drop 931 = dktL_law_33 := dk_seg dksL_law_32 24 rfl rfl
theorem dksL_law_34 : cL_law.data.toList.drop 953 = dktL_law_34 := dk_seg dksL_law_33 22 rfl rfl
theorem dksL_law_35 : cL_law.data.toList.drop 977 = dktL_law_35 := dk_seg dksL_law_34 24 rfl rfl
theorem dksL_law_36 : cL_law.data.toList.drop 999 = dktL_law_36 := dk_seg dksL_law_35 22 rfl rfl
theorem dksL_law_37 : cL_law.data.toList.drop 1021 = dktL_law_37 := dk_seg dksL_law_36 22 rfl rfl
theorem dksL_law_38 : cL_law.data.toList.drop 1045 = dktL_law_38 := dk_seg dksL_law_37 24 rfl rfl
theorem dksL_law_39 : cL_law.data.toList.drop 1067 = dktL_law_39 := dk_seg dksL_law_38 22 rfl rfl
theorem dksL_law_40 : cL_law.data.toList.drop 1089 = dktL_law_40 := dk_seg dksL_law_39 22 rfl rfl
theorem dksL_law_41 : cL_law.data.toList.drop 1113 = dktL_law_41 := dk_seg dksL_law_40 24 rfl rfl
theorem dksL_law_42 : cL_law.data.toList.drop 1135 = dktL_law_42 := dk_seg dksL_law_41 22 rfl rfl
theorem dksL_law_43 : cL_law.data.toList.drop 1157 = dktL_law_43 := dk_seg dksL_law_42 22 rfl rfl
theorem dksL_law_44 : cL_law.data.toList.drop 1180 = dktL_law_44 := dk_seg dksL_law_43 23 rfl rfl
theorem dksL_law_45 : cL_law.data.toList.drop 1204 = dktL_law_45 := dk_seg dksL_law_44 24 rfl rfl
theorem dksL_law_46 : cL_law.data.toList.drop 1228 = dktL_law_46 := dk_seg dksL_law_45 24 rfl rfl
theorem dksL_law_47 : cL_law.data.toList.drop 1252 = dktL_law_47 := dk_seg dksL_law_46 24 rfl rfl
theorem dksL_law_48 : cL_law.data.toList.drop 1275 = dktL_law_48 := dk_seg dksL_law_47 23 rfl rfl
theorem dksL_law_49 : cL_law.data.toList.drop 1298 = dktL_law_49 := dk_seg dksL_law_48 23 rfl rfl
theorem dksL_law_50 : cL_law.data.toList.drop 1322 = dktL_law_50 := dk_seg dksL_law_49 24 rfl rfl
theorem dksL_law_51 : cL_law.data.toList.drop 1346 = dktL_law_51 := dk_seg dksL_law_50 24 rfl rfl
theorem dksL_law_52 : cL_law.data.toList.drop 1370 = dktL_law_52 := dk_seg dksL_law_51 24 rfl rfl
theorem dksL_law_53 : cL_law.data.toList.drop 1394 = dktL_law_53 := dk_seg dksL_law_52 24 rfl rfl
theorem dksL_law_54 : cL_law.data.toList.drop 1418 = dktL_law_54 := dk_seg dksL_law_53 24 rfl rfl
theorem dksL_law_55 : cL_law.data.toList.drop 1441 = dktL_law_55 := dk_seg dksL_law_54 23 rfl rfl
theorem dksL_law_56 : cL_law.data.toList.drop 1464 = dktL_law_56 := dk_seg dksL_law_55 23 rfl rfl
theorem dksL_law_57 : cL_law.data.toList.drop 1486 = dktL_law_57 := dk_seg dksL_law_56 22 rfl rfl
theorem dksL_law_58 : cL_law.data.toList.drop 1509 = dktL_law_58 := dk_seg dksL_law_57 23 rfl rfl
theorem dksL_law_59 : cL_law.data.toList.drop 1532 = dktL_law_59 := dk_seg dksL_law_58 23 rfl rfl
theorem dksL_law_60 : cL_law.data.toList.drop 1556 = dktL_law_60 := dk_seg dksL_law_59 24 rfl rfl
theorem dksL_law_61 : cL_law.data.toList.drop 1579 = dktL_law_61 := dk_seg dksL_law_60 23 rfl rfl
theorem dksL_law_62 : cL_law.data.toList.drop 1603 = dktL_law_62 := dk_seg dksL_law_61 24 rfl rfl
theorem dksL_law_63 : cL_law.data.toList.drop 1627 = dktL_law_63 := dk_seg dksL_law_62 24 rfl rfl
theorem dksL_law_64 : cL_law.data.toList.drop 1649 = dktL_law_64 := dk_seg dksL_law_63 22 rfl rfl
theorem dksL_law_65 : cL_law.data.toList.drop 1671 = dktL_law_65 := dk_seg dksL_law_64 22 rfl rfl
theorem dksL_law_66 : cL_law.data.toList.drop 1695 = dktL_law_66 := dk_seg dksL_law_65 24 rfl rfl
theorem dksL_law_67 : cL_law.data.toList.drop 1718 = dktL_law_67 := dk_seg dksL_law_66 23 rfl rfl
theorem dksL_law_68 : cL_law.data.toList.drop 1741 = dktL_law_68 := dk_seg dksL_law_67 23 rfl rfl
theorem dksL_law_69 : cL_law.data.toList.drop 1764 = dktL_law_69 := dk_seg dksL_law_68 23 rfl rfl
theorem dksL_law_70 : cL_law.data.toList.drop 1788 = dktL_law_70 := dk_seg dksL_law_69 24 rfl rfl
theorem dksL_law_71 : cL_law.data.toList.drop 1811 = dktL_law_71 := dk_seg dksL_law_70 23 rfl rfl
theorem dksL_law_72 : cL_law.data.toList.drop 1835 = dktL_law_72 := dk_seg dksL_law_71 24 rfl rfl
theorem dksL_law_73 : cL_law.data.toList.drop 1857 = dktL_law_73 := dk_seg dksL_law_72 22 rfl rfl
theorem dksL_law_74 : cL_law.data.toList.drop 1879 = dktL_law_74 := dk_seg dksL_law_73 22 rfl rfl
theorem dksL_law_75 : cL_law.data.toList.drop 1903 = dktL_law_75 := dk_seg dksL_law_74 24 rfl rfl
theorem dksL_law_76 : cL_law.data.toList.drop 1927 = dktL_law_76 := dk_seg dksL_law_75 24 rfl rfl
theorem dksL_law_77 : cL_law.data.toList.drop 1951 = dktL_law_77 := dk_seg dksL_law_76 24 rfl rfl
theorem dksL_law_78 : cL_law.data.toList.drop 1974 = dktL_law_78 := dk_seg dksL_law_77 23 rfl rfl
theorem dksL_law_79 : cL_law.data.toList.drop 1998 = dktL_law_79 := dk_seg dksL_law_78 24 rfl rfl
theorem dksL_law_80 : cL_law.data.toList.drop 2021 = dktL_law_80 := dk_seg dksL_law_79 23 rfl rfl
theorem dksL_law_81 : cL_law.data.toList.drop 2045 = dktL_law_81 := dk_seg dksL_law_80 24 rfl rfl
theorem dksL_law_82 : cL_law.data.toList.drop 2067 = dktL_law_82 := dk_seg dksL_law_81 22 rfl rfl
theorem dksL_law_83 : cL_law.data.toList.drop 2090 = dktL_law_83 := dk_seg dksL_law_82 23 rfl rfl
theorem dksL_law_84 : cL_law.data.toList.drop 2112 = dktL_law_84 := dk_seg dksL_law_83 22 rfl rfl
theorem dksL_law_85 : cL_law.data.toList.drop 2136 = dktL_law_85 := dk_seg dksL_law_84 24 rfl rfl
theorem dksL_law_86 : cL_law.data.toList.drop 2160 = dktL_law_86 := dk_seg dksL_law_85 24 rfl rfl
theorem dksL_law_87 : cL_law.data.toList.drop 2184 = dktL_law_87 := dk_seg dksL_law_86 24 rfl rfl
theorem dksL_law_88 : cL_law.data.toList.drop 2208 = dktL_law_88 := dk_seg dksL_law_87 24 rfl rfl
theorem dksL_law_89 : cL_law.data.toList.drop 2232 = dktL_law_89 := dk_seg dksL_law_88 24 rfl rfl
theorem dksL_law_90 : cL_law.data.toList.drop 2254 = dktL_law_90 := dk_seg dksL_law_89 22 rfl rfl
theorem dksL_law_91 : cL_law.data.toList.drop 2278 = dktL_law_91 := dk_seg dksL_law_90 24 rfl rfl
theorem dksL_law_92 : cL_law.data.toList.drop 2302 = dktL_law_92 := dk_seg dksL_law_91 24 rfl rfl
theorem dksL_law_93 : cL_law.data.toList.drop 2325 = dktL_law_93 := dk_seg dksL_law_92 23 rfl rfl
theorem dksL_law_94 : cL_law.data.toList.drop 2349 = dktL_law_94 := dk_seg dksL_law_93 24 rfl rfl
theorem dksL_law_95 : cL_law.data.toList.drop 2372 = dktL_law_95 := dk_seg dksL_law_94 23 rfl rfl
theorem dksL_law_96 : cL_law.data.toList.drop 2396 = dktL_law_96 := dk_seg dksL_law_95 24 rfl rfl
theorem dksL_law_97 : cL_law.data.toList.drop 2419 = dktL_law_97 := dk_seg dksL_law_96 23 rfl rfl
theorem dksL_law_98 : cL_law.data.toList.drop 2443 = dktL_law_98 := dk_seg dksL_law_97 24 rfl rfl
theorem dksL_law_99 : cL_law.data.toList.drop 2467 = dktL_law_99 := dk_seg dksL_law_98 24 rfl rfl
theorem dksL_law_100 : cL_law.data.toList.drop 2491 = dktL_law_100 := dk_seg dksL_law_99 24 rfl rfl
theorem dksL_law_101 : cL_law.data.toList.drop 2515 = dktL_law_101 := dk_seg dksL_law_100 24 rfl rfl
theorem dksL_law_102 : cL_law.data.toList.drop 2539 = dktL_law_102 := dk_seg dksL_law_101 24 rfl rfl
theorem dksL_law_103 : cL_law.data.toList.drop 2563 = dktL_law_103 := dk_seg dksL_law_102 24 rfl rfl
theorem dksL_law_104 : cL_law.data.toList.drop 2587 = dktL_law_104 := dk_seg dksL_law_103 24 rfl rfl
theorem dL_law_0 : decode cL_law 0 = .ok (.new 8, 3) := dk_187 0 8 (dk_at dksL_law_0 0 rfl rfl)
theorem dL_law_3 : decode cL_law 3 = .ok (.dup, 1) := dk_89 (dk_at dksL_law_0 3 rfl rfl)
theorem dL_law_4 : decode cL_law 4 = .ok (.invokespecial 135, 3) := dk_183 0 135 (dk_at dksL_law_0 4 rfl rfl)
theorem dL_law_7 : decode cL_law 7 = .ok (.astore_n 1, 1) := dk_76 (dk_at dksL_law_0 7 rfl rfl)
theorem dL_law_8 : decode cL_law 8 = .ok (.new 136, 3) := dk_187 0 136 (dk_at dksL_law_0 8 rfl rfl)
theorem dL_law_11 : decode cL_law 11 = .ok (.dup, 1) := dk_89 (dk_at dksL_law_0 11 rfl rfl)
theorem dL_law_12 : decode cL_law 12 = .ok (.invokespecial 138, 3) := dk_183 0 138 (dk_at dksL_law_0 12 rfl rfl)
theorem dL_law_15 : decode cL_law 15 = .ok (.astore_n 2, 1) := dk_77 (dk_at dksL_law_0 15 rfl rfl)
theorem dL_law_16 : decode cL_law 16 = .ok (.iconst 1, 1) := dk_4 (dk_at dksL_law_0 16 rfl rfl)
theorem dL_law_17 : decode cL_law 17 = .ok (.newarray .long, 2) := dk_188_11 (dk_at dksL_law_0 17 rfl rfl)
theorem dL_law_19 : decode cL_law 19 = .ok (.astore_n 3, 1) := dk_78 (dk_at dksL_law_0 19 rfl rfl)
theorem dL_law_20 : decode cL_law 20 = .ok (.iconst 1, 1) := dk_4 (dk_at dksL_law_0 20 rfl rfl)
theorem dL_law_21 : decode cL_law 21 = .ok (.newarray .double, 2) := dk_188_7 (dk_at dksL_law_0 21 rfl rfl)
theorem dL_law_23 : decode cL_law 23 = .ok (.astore 4, 2) := dk_58 4 (dk_at dksL_law_1 0 rfl rfl)
theorem dL_law_25 : decode cL_law 25 = .ok (.iconst 0, 1) := dk_3 (dk_at dksL_law_1 2 rfl rfl)
theorem dL_law_26 : decode cL_law 26 = .ok (.istore 5, 2) := dk_54 5 (dk_at dksL_law_1 3 rfl rfl)
theorem dL_law_28 : decode cL_law 28 = .ok (.iload 5, 2) := dk_21 5 (dk_at dksL_law_1 5 rfl rfl)
theorem dL_law_30 : decode cL_law 30 = .ok (.aload_n 0, 1) := dk_42 (dk_at dksL_law_1 7 rfl rfl)
theorem dL_law_31 : decode cL_law 31 = .ok (.arraylength, 1) := dk_190 (dk_at dksL_law_1 8 rfl rfl)
theorem dL_law_32 : decode cL_law 32 = .ok (.iconst 5, 1) := dk_8 (dk_at dksL_law_1 9 rfl rfl)
theorem dL_law_33 : decode cL_law 33 = .ok (.isub, 1) := dk_100 (dk_at dksL_law_1 10 rfl rfl)
theorem dL_law_34 : decode cL_law 34 = .ok (.if_icmp .gt 2553, 3) := dk_163 9 249 (dk_at dksL_law_1 11 rfl rfl)
theorem dL_law_37 : decode cL_law 37 = .ok (.aload_n 0, 1) := dk_42 (dk_at dksL_law_1 14 rfl rfl)
theorem dL_law_38 : decode cL_law 38 = .ok (.iload 5, 2) := dk_21 5 (dk_at dksL_law_1 15 rfl rfl)
theorem dL_law_40 : decode cL_law 40 = .ok (.iaload, 1) := dk_46 (dk_at dksL_law_1 17 rfl rfl)
theorem dL_law_41 : decode cL_law 41 = .ok (.bipush 63, 2) := dk_16 63 (dk_at dksL_law_1 18 rfl rfl)
theorem dL_law_43 : decode cL_law 43 = .ok (.iand, 1) := dk_126 (dk_at dksL_law_1 20 rfl rfl)
theorem dL_law_44 : decode cL_law 44 = .ok (.tableswitch 2537 0 40 #[180, 272, 340, 432, 500, 580, 679, 747, 803, 816, 896, 980, 1048, 1116, 1172, 1271, 1370, 1450, 1506, 1562, 1630, 1643, 1656, 1669, 1682, 1738, 1794, 1838, 1851, 1919, 1975, 2031, 2096, 2162, 2218, 2276, 2320, 2364, 2436, 2480, 2493], 180) := by decide +kernel
theorem dL_law_224 : decode cL_law 224 = .ok (.aload_n 1, 1) := dk_43 (dk_at dksL_law_3 0 rfl rfl)
theorem dL_law_225 : decode cL_law 225 = .ok (.aload_n 0, 1) := dk_42 (dk_at dksL_law_3 1 rfl rfl)
theorem dL_law_226 : decode cL_law 226 = .ok (.iload 5, 2) := dk_21 5 (dk_at dksL_law_3 2 rfl rfl)
theorem dL_law_228 : decode cL_law 228 = .ok (.iconst 1, 1) := dk_4 (dk_at dksL_law_3 4 rfl rfl)
theorem dL_law_229 : decode cL_law 229 = .ok (.iadd, 1) := dk_96 (dk_at dksL_law_3 5 rfl rfl)
theorem dL_law_230 : decode cL_law 230 = .ok (.iaload, 1) := dk_46 (dk_at dksL_law_3 6 rfl rfl)
theorem dL_law_231 : decode cL_law 231 = .ok (.aload_n 0, 1) := dk_42 (dk_at dksL_law_3 7 rfl rfl)
theorem dL_law_232 : decode cL_law 232 = .ok (.iload 5, 2) := dk_21 5 (dk_at dksL_law_3 8 rfl rfl)
theorem dL_law_234 : decode cL_law 234 = .ok (.iconst 2, 1) := dk_5 (dk_at dksL_law_3 10 rfl rfl)
theorem dL_law_235 : decode cL_law 235 = .ok (.iadd, 1) := dk_96 (dk_at dksL_law_3 11 rfl rfl)
theorem dL_law_236 : decode cL_law 236 = .ok (.iaload, 1) := dk_46 (dk_at dksL_law_3 12 rfl rfl)
theorem dL_law_237 : decode cL_law 237 = .ok (.aload_n 0, 1) := dk_42 (dk_at dksL_law_3 13 rfl rfl)
theorem dL_law_238 : decode cL_law 238 = .ok (.iload 5, 2) := dk_21 5 (dk_at dksL_law_3 14 rfl rfl)
theorem dL_law_240 : decode cL_law 240 = .ok (.iconst 3, 1) := dk_6 (dk_at dksL_law_3 16 rfl rfl)
theorem dL_law_241 : decode cL_law 241 = .ok (.iadd, 1) := dk_96 (dk_at dksL_law_3 17 rfl rfl)
theorem dL_law_242 : decode cL_law 242 = .ok (.iaload, 1) := dk_46 (dk_at dksL_law_3 18 rfl rfl)
theorem dL_law_243 : decode cL_law 243 = .ok (.aload_n 0, 1) := dk_42 (dk_at dksL_law_3 19 rfl rfl)
theorem dL_law_244 : decode cL_law 244 = .ok (.iload 5, 2) := dk_21 5 (dk_at dksL_law_3 20 rfl rfl)
theorem dL_law_246 : decode cL_law 246 = .ok (.iconst 4, 1) := dk_7 (dk_at dksL_law_3 22 rfl rfl)
theorem dL_law_247 : decode cL_law 247 = .ok (.iadd, 1) := dk_96 (dk_at dksL_law_3 23 rfl rfl)
theorem dL_law_248 : decode cL_law 248 = .ok (.iaload, 1) := dk_46 (dk_at dksL_law_4 0 rfl rfl)
theorem dL_law_249 : decode cL_law 249 = .ok (.aload_n 3, 1) := dk_45 (dk_at dksL_law_4 1 rfl rfl)
theorem dL_law_250 : decode cL_law 250 = .ok (.invokestatic 139, 3) := dk_184 0 139 (dk_at dksL_law_4 2 rfl rfl)
theorem dL_law_253 : decode cL_law 253 = .ok (.istore 6, 2) := dk_54 6 (dk_at dksL_law_4 5 rfl rfl)
theorem dL_law_255 : decode cL_law 255 = .ok (.aload_n 2, 1) := dk_44 (dk_at dksL_law_4 7 rfl rfl)
theorem dL_law_256 : decode cL_law 256 = .ok (.aload_n 0, 1) := dk_42 (dk_at dksL_law_4 8 rfl rfl)
theorem dL_law_257 : decode cL_law 257 = .ok (.iload 5, 2) := dk_21 5 (dk_at dksL_law_4 9 rfl rfl)
theorem dL_law_259 : decode cL_law 259 = .ok (.iconst 1, 1) := dk_4 (dk_at dksL_law_4 11 rfl rfl)
theorem dL_law_260 : decode cL_law 260 = .ok (.iadd, 1) := dk_96 (dk_at dksL_law_4 12 rfl rfl)
theorem dL_law_261 : decode cL_law 261 = .ok (.iaload, 1) := dk_46 (dk_at dksL_law_4 13 rfl rfl)
theorem dL_law_262 : decode cL_law 262 = .ok (.aload_n 0, 1) := dk_42 (dk_at dksL_law_4 14 rfl rfl)
theorem dL_law_263 : decode cL_law 263 = .ok (.iload 5, 2) := dk_21 5 (dk_at dksL_law_4 15 rfl rfl)
theorem dL_law_265 : decode cL_law 265 = .ok (.iconst 2, 1) := dk_5 (dk_at dksL_law_4 17 rfl rfl)
theorem dL_law_266 : decode cL_law 266 = .ok (.iadd, 1) := dk_96 (dk_at dksL_law_4 18 rfl rfl)
theorem dL_law_267 : decode cL_law 267 = .ok (.iaload, 1) := dk_46 (dk_at dksL_law_4 19 rfl rfl)
theorem dL_law_268 : decode cL_law 268 = .ok (.aload_n 0, 1) := dk_42 (dk_at dksL_law_4 20 rfl rfl)
theorem dL_law_269 : decode cL_law 269 = .ok (.iload 5, 2) := dk_21 5 (dk_at dksL_law_4 21 rfl rfl)
theorem dL_law_271 : decode cL_law 271 = .ok (.iconst 3, 1) := dk_6 (dk_at dksL_law_4 23 rfl rfl)
theorem dL_law_272 : decode cL_law 272 = .ok (.iadd, 1) := dk_96 (dk_at dksL_law_5 0 rfl rfl)
theorem dL_law_273 : decode cL_law 273 = .ok (.iaload, 1) := dk_46 (dk_at dksL_law_5 1 rfl rfl)
theorem dL_law_274 : decode cL_law 274 = .ok (.aload_n 0, 1) := dk_42 (dk_at dksL_law_5 2 rfl rfl)
theorem dL_law_275 : decode cL_law 275 = .ok (.iload 5, 2) := dk_21 5 (dk_at dksL_law_5 3 rfl rfl)
theorem dL_law_277 : decode cL_law 277 = .ok (.iconst 4, 1) := dk_7 (dk_at dksL_law_5 5 rfl rfl)
theorem dL_law_278 : decode cL_law 278 = .ok (.iadd, 1) := dk_96 (dk_at dksL_law_5 6 rfl rfl)
theorem dL_law_279 : decode cL_law 279 = .ok (.iaload, 1) := dk_46 (dk_at dksL_law_5 7 rfl rfl)
theorem dL_law_280 : decode cL_law 280 = .ok (.invokevirtual 144, 3) := dk_182 0 144 (dk_at dksL_law_5 8 rfl rfl)
theorem dL_law_283 : decode cL_law 283 = .ok (.istore 7, 2) := dk_54 7 (dk_at dksL_law_5 11 rfl rfl)
theorem dL_law_285 : decode cL_law 285 = .ok (.aload_n 2, 1) := dk_44 (dk_at dksL_law_5 13 rfl rfl)
theorem dL_law_286 : decode cL_law 286 = .ok (.invokevirtual 145, 3) := dk_182 0 145 (dk_at dksL_law_5 14 rfl rfl)
theorem dL_law_289 : decode cL_law 289 = .ok (.iload 6, 2) := dk_21 6 (dk_at dksL_law_5 17 rfl rfl)
theorem dL_law_291 : decode cL_law 291 = .ok (.if_icmp .eq 5, 3) := dk_159 0 5 (dk_at dksL_law_5 19 rfl rfl)
theorem dL_law_294 : decode cL_law 294 = .ok (.iconst 0, 1) := dk_3 (dk_at dksL_law_5 22 rfl rfl)
theorem dL_law_295 : decode cL_law 295 = .ok (.ireturn, 1) := dk_172 (dk_at dksL_law_5 23 rfl rfl)
theorem dL_law_296 : decode cL_law 296 = .ok (.iload 6, 2) := dk_21 6 (dk_at dksL_law_6 0 rfl rfl)
theorem dL_law_298 : decode cL_law 298 = .ok (.ifCond .ne 15, 3) := dk_154 0 15 (dk_at dksL_law_6 2 rfl rfl)
theorem dL_law_301 : decode cL_law 301 = .ok (.aload_n 3, 1) := dk_45 (dk_at dksL_law_6 5 rfl rfl)
theorem dL_law_302 : decode cL_law 302 = .ok (.iconst 0, 1) := dk_3 (dk_at dksL_law_6 6 rfl rfl)
theorem dL_law_303 : decode cL_law 303 = .ok (.laload, 1) := dk_47 (dk_at dksL_law_6 7 rfl rfl)
theorem dL_law_304 : decode cL_law 304 = .ok (.iload 7, 2) := dk_21 7 (dk_at dksL_law_6 8 rfl rfl)
theorem dL_law_306 : decode cL_law 306 = .ok (.i2l, 1) := dk_133 (dk_at dksL_law_6 10 rfl rfl)
theorem dL_law_307 : decode cL_law 307 = .ok (.lcmp, 1) := dk_148 (dk_at dksL_law_6 11 rfl rfl)
theorem dL_law_308 : decode cL_law 308 = .ok (.ifCond .eq 5, 3) := dk_153 0 5 (dk_at dksL_law_6 12 rfl rfl)
theorem dL_law_311 : decode cL_law 311 = .ok (.iconst 0, 1) := dk_3 (dk_at dksL_law_6 15 rfl rfl)
theorem dL_law_312 : decode cL_law 312 = .ok (.ireturn, 1) := dk_172 (dk_at dksL_law_6 16 rfl rfl)
theorem dL_law_313 : decode cL_law 313 = .ok (.goto 2268, 3) := dk_167 8 220 (dk_at dksL_law_6 17 rfl rfl)
theorem dL_law_316 : decode cL_law 316 = .ok (.aload_n 1, 1) := dk_43 (dk_at dksL_law_6 20 rfl rfl)
theorem dL_law_317 : decode cL_law 317 = .ok (.aload_n 0, 1) := dk_42 (dk_at dksL_law_6 21 rfl rfl)
theorem dL_law_318 : decode cL_law 318 = .ok (.iload 5, 2) := dk_21 5 (dk_at dksL_law_6 22 rfl rfl)
theorem dL_law_320 : decode cL_law 320 = .ok (.iconst 1, 1) := dk_4 (dk_at dksL_law_7 0 rfl rfl)
theorem dL_law_321 : decode cL_law 321 = .ok (.iadd, 1) := dk_96 (dk_at dksL_law_7 1 rfl rfl)
theorem dL_law_322 : decode cL_law 322 = .ok (.iaload, 1) := dk_46 (dk_at dksL_law_7 2 rfl rfl)
theorem dL_law_323 : decode cL_law 323 = .ok (.aload_n 0, 1) := dk_42 (dk_at dksL_law_7 3 rfl rfl)
theorem dL_law_324 : decode cL_law 324 = .ok (.iload 5, 2) := dk_21 5 (dk_at dksL_law_7 4 rfl rfl)
theorem dL_law_326 : decode cL_law 326 = .ok (.iconst 2, 1) := dk_5 (dk_at dksL_law_7 6 rfl rfl)
theorem dL_law_327 : decode cL_law 327 = .ok (.iadd, 1) := dk_96 (dk_at dksL_law_7 7 rfl rfl)
theorem dL_law_328 : decode cL_law 328 = .ok (.iaload, 1) := dk_46 (dk_at dksL_law_7 8 rfl rfl)
theorem dL_law_329 : decode cL_law 329 = .ok (.aload_n 3, 1) := dk_45 (dk_at dksL_law_7 9 rfl rfl)
theorem dL_law_330 : decode cL_law 330 = .ok (.invokestatic 148, 3) := dk_184 0 148 (dk_at dksL_law_7 10 rfl rfl)
theorem dL_law_333 : decode cL_law 333 = .ok (.istore 6, 2) := dk_54 6 (dk_at dksL_law_7 13 rfl rfl)
theorem dL_law_335 : decode cL_law 335 = .ok (.aload_n 2, 1) := dk_44 (dk_at dksL_law_7 15 rfl rfl)
theorem dL_law_336 : decode cL_law 336 = .ok (.aload_n 0, 1) := dk_42 (dk_at dksL_law_7 16 rfl rfl)
theorem dL_law_337 : decode cL_law 337 = .ok (.iload 5, 2) := dk_21 5 (dk_at dksL_law_7 17 rfl rfl)
theorem dL_law_339 : decode cL_law 339 = .ok (.iconst 1, 1) := dk_4 (dk_at dksL_law_7 19 rfl rfl)
theorem dL_law_340 : decode cL_law 340 = .ok (.iadd, 1) := dk_96 (dk_at dksL_law_7 20 rfl rfl)
theorem dL_law_341 : decode cL_law 341 = .ok (.iaload, 1) := dk_46 (dk_at dksL_law_7 21 rfl rfl)
theorem dL_law_342 : decode cL_law 342 = .ok (.aload_n 0, 1) := dk_42 (dk_at dksL_law_7 22 rfl rfl)
theorem dL_law_343 : decode cL_law 343 = .ok (.iload 5, 2) := dk_21 5 (dk_at dksL_law_8 0 rfl rfl)
theorem dL_law_345 : decode cL_law 345 = .ok (.iconst 2, 1) := dk_5 (dk_at dksL_law_8 2 rfl rfl)
theorem dL_law_346 : decode cL_law 346 = .ok (.iadd, 1) := dk_96 (dk_at dksL_law_8 3 rfl rfl)
theorem dL_law_347 : decode cL_law 347 = .ok (.iaload, 1) := dk_46 (dk_at dksL_law_8 4 rfl rfl)
theorem dL_law_348 : decode cL_law 348 = .ok (.invokevirtual 151, 3) := dk_182 0 151 (dk_at dksL_law_8 5 rfl rfl)
theorem dL_law_351 : decode cL_law 351 = .ok (.istore 7, 2) := dk_54 7 (dk_at dksL_law_8 8 rfl rfl)
theorem dL_law_353 : decode cL_law 353 = .ok (.aload_n 2, 1) := dk_44 (dk_at dksL_law_8 10 rfl rfl)
theorem dL_law_354 : decode cL_law 354 = .ok (.invokevirtual 145, 3) := dk_182 0 145 (dk_at dksL_law_8 11 rfl rfl)
theorem dL_law_357 : decode cL_law 357 = .ok (.iload 6, 2) := dk_21 6 (dk_at dksL_law_8 14 rfl rfl)
theorem dL_law_359 : decode cL_law 359 = .ok (.if_icmp .eq 5, 3) := dk_159 0 5 (dk_at dksL_law_8 16 rfl rfl)
theorem dL_law_362 : decode cL_law 362 = .ok (.iconst 0, 1) := dk_3 (dk_at dksL_law_8 19 rfl rfl)
theorem dL_law_363 : decode cL_law 363 = .ok (.ireturn, 1) := dk_172 (dk_at dksL_law_8 20 rfl rfl)
theorem dL_law_364 : decode cL_law 364 = .ok (.iload 6, 2) := dk_21 6 (dk_at dksL_law_8 21 rfl rfl)
theorem dL_law_366 : decode cL_law 366 = .ok (.ifCond .ne 15, 3) := dk_154 0 15 (dk_at dksL_law_9 0 rfl rfl)
theorem dL_law_369 : decode cL_law 369 = .ok (.aload_n 3, 1) := dk_45 (dk_at dksL_law_9 3 rfl rfl)
theorem dL_law_370 : decode cL_law 370 = .ok (.iconst 0, 1) := dk_3 (dk_at dksL_law_9 4 rfl rfl)
theorem dL_law_371 : decode cL_law 371 = .ok (.laload, 1) := dk_47 (dk_at dksL_law_9 5 rfl rfl)
theorem dL_law_372 : decode cL_law 372 = .ok (.iload 7, 2) := dk_21 7 (dk_at dksL_law_9 6 rfl rfl)
theorem dL_law_374 : decode cL_law 374 = .ok (.i2l, 1) := dk_133 (dk_at dksL_law_9 8 rfl rfl)
theorem dL_law_375 : decode cL_law 375 = .ok (.lcmp, 1) := dk_148 (dk_at dksL_law_9 9 rfl rfl)
theorem dL_law_376 : decode cL_law 376 = .ok (.ifCond .eq 5, 3) := dk_153 0 5 (dk_at dksL_law_9 10 rfl rfl)
theorem dL_law_379 : decode cL_law 379 = .ok (.iconst 0, 1) := dk_3 (dk_at dksL_law_9 13 rfl rfl)
theorem dL_law_380 : decode cL_law 380 = .ok (.ireturn, 1) := dk_172 (dk_at dksL_law_9 14 rfl rfl)
theorem dL_law_381 : decode cL_law 381 = .ok (.goto 2200, 3) := dk_167 8 152 (dk_at dksL_law_9 15 rfl rfl)
theorem dL_law_384 : decode cL_law 384 = .ok (.aload_n 1, 1) := dk_43 (dk_at dksL_law_9 18 rfl rfl)
theorem dL_law_385 : decode cL_law 385 = .ok (.aload_n 0, 1) := dk_42 (dk_at dksL_law_9 19 rfl rfl)
theorem dL_law_386 : decode cL_law 386 = .ok (.iload 5, 2) := dk_21 5 (dk_at dksL_law_9 20 rfl rfl)
theorem dL_law_388 : decode cL_law 388 = .ok (.iconst 1, 1) := dk_4 (dk_at dksL_law_9 22 rfl rfl)
theorem dL_law_389 : decode cL_law 389 = .ok (.iadd, 1) := dk_96 (dk_at dksL_law_9 23 rfl rfl)
theorem dL_law_390 : decode cL_law 390 = .ok (.iaload, 1) := dk_46 (dk_at dksL_law_10 0 rfl rfl)
theorem dL_law_391 : decode cL_law 391 = .ok (.aload_n 0, 1) := dk_42 (dk_at dksL_law_10 1 rfl rfl)
theorem dL_law_392 : decode cL_law 392 = .ok (.iload 5, 2) := dk_21 5 (dk_at dksL_law_10 2 rfl rfl)
theorem dL_law_394 : decode cL_law 394 = .ok (.iconst 2, 1) := dk_5 (dk_at dksL_law_10 4 rfl rfl)
theorem dL_law_395 : decode cL_law 395 = .ok (.iadd, 1) := dk_96 (dk_at dksL_law_10 5 rfl rfl)
theorem dL_law_396 : decode cL_law 396 = .ok (.iaload, 1) := dk_46 (dk_at dksL_law_10 6 rfl rfl)
theorem dL_law_397 : decode cL_law 397 = .ok (.aload_n 0, 1) := dk_42 (dk_at dksL_law_10 7 rfl rfl)
theorem dL_law_398 : decode cL_law 398 = .ok (.iload 5, 2) := dk_21 5 (dk_at dksL_law_10 8 rfl rfl)
theorem dL_law_400 : decode cL_law 400 = .ok (.iconst 3, 1) := dk_6 (dk_at dksL_law_10 10 rfl rfl)
theorem dL_law_401 : decode cL_law 401 = .ok (.iadd, 1) := dk_96 (dk_at dksL_law_10 11 rfl rfl)
theorem dL_law_402 : decode cL_law 402 = .ok (.iaload, 1) := dk_46 (dk_at dksL_law_10 12 rfl rfl)
theorem dL_law_403 : decode cL_law 403 = .ok (.aload_n 0, 1) := dk_42 (dk_at dksL_law_10 13 rfl rfl)
theorem dL_law_404 : decode cL_law 404 = .ok (.iload 5, 2) := dk_21 5 (dk_at dksL_law_10 14 rfl rfl)
theorem dL_law_406 : decode cL_law 406 = .ok (.iconst 4, 1) := dk_7 (dk_at dksL_law_10 16 rfl rfl)
theorem dL_law_407 : decode cL_law 407 = .ok (.iadd, 1) := dk_96 (dk_at dksL_law_10 17 rfl rfl)
theorem dL_law_408 : decode cL_law 408 = .ok (.iaload, 1) := dk_46 (dk_at dksL_law_10 18 rfl rfl)
theorem dL_law_409 : decode cL_law 409 = .ok (.aload_n 3, 1) := dk_45 (dk_at dksL_law_10 19 rfl rfl)
theorem dL_law_410 : decode cL_law 410 = .ok (.invokestatic 152, 3) := dk_184 0 152 (dk_at dksL_law_10 20 rfl rfl)
theorem dL_law_413 : decode cL_law 413 = .ok (.istore 6, 2) := dk_54 6 (dk_at dksL_law_11 0 rfl rfl)
theorem dL_law_415 : decode cL_law 415 = .ok (.aload_n 2, 1) := dk_44 (dk_at dksL_law_11 2 rfl rfl)
theorem dL_law_416 : decode cL_law 416 = .ok (.aload_n 0, 1) := dk_42 (dk_at dksL_law_11 3 rfl rfl)
theorem dL_law_417 : decode cL_law 417 = .ok (.iload 5, 2) := dk_21 5 (dk_at dksL_law_11 4 rfl rfl)
theorem dL_law_419 : decode cL_law 419 = .ok (.iconst 1, 1) := dk_4 (dk_at dksL_law_11 6 rfl rfl)
theorem dL_law_420 : decode cL_law 420 = .ok (.iadd, 1) := dk_96 (dk_at dksL_law_11 7 rfl rfl)
theorem dL_law_421 : decode cL_law 421 = .ok (.iaload, 1) := dk_46 (dk_at dksL_law_11 8 rfl rfl)
theorem dL_law_422 : decode cL_law 422 = .ok (.aload_n 0, 1) := dk_42 (dk_at dksL_law_11 9 rfl rfl)
theorem dL_law_423 : decode cL_law 423 = .ok (.iload 5, 2) := dk_21 5 (dk_at dksL_law_11 10 rfl rfl)
theorem dL_law_425 : decode cL_law 425 = .ok (.iconst 2, 1) := dk_5 (dk_at dksL_law_11 12 rfl rfl)
theorem dL_law_426 : decode cL_law 426 = .ok (.iadd, 1) := dk_96 (dk_at dksL_law_11 13 rfl rfl)
theorem dL_law_427 : decode cL_law 427 = .ok (.iaload, 1) := dk_46 (dk_at dksL_law_11 14 rfl rfl)
theorem dL_law_428 : decode cL_law 428 = .ok (.aload_n 0, 1) := dk_42 (dk_at dksL_law_11 15 rfl rfl)
theorem dL_law_429 : decode cL_law 429 = .ok (.iload 5, 2) := dk_21 5 (dk_at dksL_law_11 16 rfl rfl)
theorem dL_law_431 : decode cL_law 431 = .ok (.iconst 3, 1) := dk_6 (dk_at dksL_law_11 18 rfl rfl)
theorem dL_law_432 : decode cL_law 432 = .ok (.iadd, 1) := dk_96 (dk_at dksL_law_11 19 rfl rfl)
theorem dL_law_433 : decode cL_law 433 = .ok (.iaload, 1) := dk_46 (dk_at dksL_law_11 20 rfl rfl)
theorem dL_law_434 : decode cL_law 434 = .ok (.aload_n 0, 1) := dk_42 (dk_at dksL_law_11 21 rfl rfl)
theorem dL_law_435 : decode cL_law 435 = .ok (.iload 5, 2) := dk_21 5 (dk_at dksL_law_11 22 rfl rfl)
theorem dL_law_437 : decode cL_law 437 = .ok (.iconst 4, 1) := dk_7 (dk_at dksL_law_12 0 rfl rfl)
theorem dL_law_438 : decode cL_law 438 = .ok (.iadd, 1) := dk_96 (dk_at dksL_law_12 1 rfl rfl)
theorem dL_law_439 : decode cL_law 439 = .ok (.iaload, 1) := dk_46 (dk_at dksL_law_12 2 rfl rfl)
theorem dL_law_440 : decode cL_law 440 = .ok (.invokevirtual 154, 3) := dk_182 0 154 (dk_at dksL_law_12 3 rfl rfl)
theorem dL_law_443 : decode cL_law 443 = .ok (.istore 7, 2) := dk_54 7 (dk_at dksL_law_12 6 rfl rfl)
theorem dL_law_445 : decode cL_law 445 = .ok (.aload_n 2, 1) := dk_44 (dk_at dksL_law_12 8 rfl rfl)
theorem dL_law_446 : decode cL_law 446 = .ok (.invokevirtual 145, 3) := dk_182 0 145 (dk_at dksL_law_12 9 rfl rfl)
theorem dL_law_449 : decode cL_law 449 = .ok (.iload 6, 2) := dk_21 6 (dk_at dksL_law_12 12 rfl rfl)
theorem dL_law_451 : decode cL_law 451 = .ok (.if_icmp .eq 5, 3) := dk_159 0 5 (dk_at dksL_law_12 14 rfl rfl)
theorem dL_law_454 : decode cL_law 454 = .ok (.iconst 0, 1) := dk_3 (dk_at dksL_law_12 17 rfl rfl)
theorem dL_law_455 : decode cL_law 455 = .ok (.ireturn, 1) := dk_172 (dk_at dksL_law_12 18 rfl rfl)
theorem dL_law_456 : decode cL_law 456 = .ok (.iload 6, 2) := dk_21 6 (dk_at dksL_law_12 19 rfl rfl)
theorem dL_law_458 : decode cL_law 458 = .ok (.ifCond .ne 15, 3) := dk_154 0 15 (dk_at dksL_law_12 21 rfl rfl)
theorem dL_law_461 : decode cL_law 461 = .ok (.aload_n 3, 1) := dk_45 (dk_at dksL_law_13 0 rfl rfl)
theorem dL_law_462 : decode cL_law 462 = .ok (.iconst 0, 1) := dk_3 (dk_at dksL_law_13 1 rfl rfl)
theorem dL_law_463 : decode cL_law 463 = .ok (.laload, 1) := dk_47 (dk_at dksL_law_13 2 rfl rfl)
theorem dL_law_464 : decode cL_law 464 = .ok (.iload 7, 2) := dk_21 7 (dk_at dksL_law_13 3 rfl rfl)
theorem dL_law_466 : decode cL_law 466 = .ok (.i2l, 1) := dk_133 (dk_at dksL_law_13 5 rfl rfl)
theorem dL_law_467 : decode cL_law 467 = .ok (.lcmp, 1) := dk_148 (dk_at dksL_law_13 6 rfl rfl)
theorem dL_law_468 : decode cL_law 468 = .ok (.ifCond .eq 5, 3) := dk_153 0 5 (dk_at dksL_law_13 7 rfl rfl)
theorem dL_law_471 : decode cL_law 471 = .ok (.iconst 0, 1) := dk_3 (dk_at dksL_law_13 10 rfl rfl)
theorem dL_law_472 : decode cL_law 472 = .ok (.ireturn, 1) := dk_172 (dk_at dksL_law_13 11 rfl rfl)
theorem dL_law_473 : decode cL_law 473 = .ok (.goto 2108, 3) := dk_167 8 60 (dk_at dksL_law_13 12 rfl rfl)
theorem dL_law_476 : decode cL_law 476 = .ok (.aload_n 1, 1) := dk_43 (dk_at dksL_law_13 15 rfl rfl)
theorem dL_law_477 : decode cL_law 477 = .ok (.aload_n 0, 1) := dk_42 (dk_at dksL_law_13 16 rfl rfl)
theorem dL_law_478 : decode cL_law 478 = .ok (.iload 5, 2) := dk_21 5 (dk_at dksL_law_13 17 rfl rfl)
theorem dL_law_480 : decode cL_law 480 = .ok (.iconst 1, 1) := dk_4 (dk_at dksL_law_13 19 rfl rfl)
theorem dL_law_481 : decode cL_law 481 = .ok (.iadd, 1) := dk_96 (dk_at dksL_law_13 20 rfl rfl)
theorem dL_law_482 : decode cL_law 482 = .ok (.iaload, 1) := dk_46 (dk_at dksL_law_13 21 rfl rfl)
theorem dL_law_483 : decode cL_law 483 = .ok (.aload_n 0, 1) := dk_42 (dk_at dksL_law_13 22 rfl rfl)
theorem dL_law_484 : decode cL_law 484 = .ok (.iload 5, 2) := dk_21 5 (dk_at dksL_law_14 0 rfl rfl)
theorem dL_law_486 : decode cL_law 486 = .ok (.iconst 2, 1) := dk_5 (dk_at dksL_law_14 2 rfl rfl)
theorem dL_law_487 : decode cL_law 487 = .ok (.iadd, 1) := dk_96 (dk_at dksL_law_14 3 rfl rfl)
theorem dL_law_488 : decode cL_law 488 = .ok (.iaload, 1) := dk_46 (dk_at dksL_law_14 4 rfl rfl)
theorem dL_law_489 : decode cL_law 489 = .ok (.aload_n 3, 1) := dk_45 (dk_at dksL_law_14 5 rfl rfl)
theorem dL_law_490 : decode cL_law 490 = .ok (.invokestatic 155, 3) := dk_184 0 155 (dk_at dksL_law_14 6 rfl rfl)
theorem dL_law_493 : decode cL_law 493 = .ok (.istore 6, 2) := dk_54 6 (dk_at dksL_law_14 9 rfl rfl)
theorem dL_law_495 : decode cL_law 495 = .ok (.aload_n 2, 1) := dk_44 (dk_at dksL_law_14 11 rfl rfl)
theorem dL_law_496 : decode cL_law 496 = .ok (.aload_n 0, 1) := dk_42 (dk_at dksL_law_14 12 rfl rfl)
theorem dL_law_497 : decode cL_law 497 = .ok (.iload 5, 2) := dk_21 5 (dk_at dksL_law_14 13 rfl rfl)
theorem dL_law_499 : decode cL_law 499 = .ok (.iconst 1, 1) := dk_4 (dk_at dksL_law_14 15 rfl rfl)
theorem dL_law_500 : decode cL_law 500 = .ok (.iadd, 1) := dk_96 (dk_at dksL_law_14 16 rfl rfl)
theorem dL_law_501 : decode cL_law 501 = .ok (.iaload, 1) := dk_46 (dk_at dksL_law_14 17 rfl rfl)
theorem dL_law_502 : decode cL_law 502 = .ok (.aload_n 0, 1) := dk_42 (dk_at dksL_law_14 18 rfl rfl)
theorem dL_law_503 : decode cL_law 503 = .ok (.iload 5, 2) := dk_21 5 (dk_at dksL_law_14 19 rfl rfl)
theorem dL_law_505 : decode cL_law 505 = .ok (.iconst 2, 1) := dk_5 (dk_at dksL_law_14 21 rfl rfl)
theorem dL_law_506 : decode cL_law 506 = .ok (.iadd, 1) := dk_96 (dk_at dksL_law_14 22 rfl rfl)
theorem dL_law_507 : decode cL_law 507 = .ok (.iaload, 1) := dk_46 (dk_at dksL_law_14 23 rfl rfl)
theorem dL_law_508 : decode cL_law 508 = .ok (.invokevirtual 157, 3) := dk_182 0 157 (dk_at dksL_law_15 0 rfl rfl)
theorem dL_law_511 : decode cL_law 511 = .ok (.istore 7, 2) := dk_54 7 (dk_at dksL_law_15 3 rfl rfl)
theorem dL_law_513 : decode cL_law 513 = .ok (.aload_n 2, 1) := dk_44 (dk_at dksL_law_15 5 rfl rfl)
theorem dL_law_514 : decode cL_law 514 = .ok (.invokevirtual 145, 3) := dk_182 0 145 (dk_at dksL_law_15 6 rfl rfl)
theorem dL_law_517 : decode cL_law 517 = .ok (.iload 6, 2) := dk_21 6 (dk_at dksL_law_15 9 rfl rfl)
theorem dL_law_519 : decode cL_law 519 = .ok (.if_icmp .eq 5, 3) := dk_159 0 5 (dk_at dksL_law_15 11 rfl rfl)
theorem dL_law_522 : decode cL_law 522 = .ok (.iconst 0, 1) := dk_3 (dk_at dksL_law_15 14 rfl rfl)
theorem dL_law_523 : decode cL_law 523 = .ok (.ireturn, 1) := dk_172 (dk_at dksL_law_15 15 rfl rfl)
theorem dL_law_524 : decode cL_law 524 = .ok (.iload 6, 2) := dk_21 6 (dk_at dksL_law_15 16 rfl rfl)
theorem dL_law_526 : decode cL_law 526 = .ok (.ifCond .ne 15, 3) := dk_154 0 15 (dk_at dksL_law_15 18 rfl rfl)
theorem dL_law_529 : decode cL_law 529 = .ok (.aload_n 3, 1) := dk_45 (dk_at dksL_law_15 21 rfl rfl)
theorem dL_law_530 : decode cL_law 530 = .ok (.iconst 0, 1) := dk_3 (dk_at dksL_law_15 22 rfl rfl)
theorem dL_law_531 : decode cL_law 531 = .ok (.laload, 1) := dk_47 (dk_at dksL_law_15 23 rfl rfl)
theorem dL_law_532 : decode cL_law 532 = .ok (.iload 7, 2) := dk_21 7 (dk_at dksL_law_16 0 rfl rfl)
theorem dL_law_534 : decode cL_law 534 = .ok (.i2l, 1) := dk_133 (dk_at dksL_law_16 2 rfl rfl)
theorem dL_law_535 : decode cL_law 535 = .ok (.lcmp, 1) := dk_148 (dk_at dksL_law_16 3 rfl rfl)
theorem dL_law_536 : decode cL_law 536 = .ok (.ifCond .eq 5, 3) := dk_153 0 5 (dk_at dksL_law_16 4 rfl rfl)
theorem dL_law_539 : decode cL_law 539 = .ok (.iconst 0, 1) := dk_3 (dk_at dksL_law_16 7 rfl rfl)
theorem dL_law_540 : decode cL_law 540 = .ok (.ireturn, 1) := dk_172 (dk_at dksL_law_16 8 rfl rfl)
theorem dL_law_541 : decode cL_law 541 = .ok (.goto 2040, 3) := dk_167 7 248 (dk_at dksL_law_16 9 rfl rfl)
theorem dL_law_544 : decode cL_law 544 = .ok (.aload_n 1, 1) := dk_43 (dk_at dksL_law_16 12 rfl rfl)
theorem dL_law_545 : decode cL_law 545 = .ok (.aload_n 0, 1) := dk_42 (dk_at dksL_law_16 13 rfl rfl)
theorem dL_law_546 : decode cL_law 546 = .ok (.iload 5, 2) := dk_21 5 (dk_at dksL_law_16 14 rfl rfl)
theorem dL_law_548 : decode cL_law 548 = .ok (.iconst 1, 1) := dk_4 (dk_at dksL_law_16 16 rfl rfl)
theorem dL_law_549 : decode cL_law 549 = .ok (.iadd, 1) := dk_96 (dk_at dksL_law_16 17 rfl rfl)
theorem dL_law_550 : decode cL_law 550 = .ok (.iaload, 1) := dk_46 (dk_at dksL_law_16 18 rfl rfl)
theorem dL_law_551 : decode cL_law 551 = .ok (.aload_n 0, 1) := dk_42 (dk_at dksL_law_16 19 rfl rfl)
theorem dL_law_552 : decode cL_law 552 = .ok (.iload 5, 2) := dk_21 5 (dk_at dksL_law_16 20 rfl rfl)
theorem dL_law_554 : decode cL_law 554 = .ok (.iconst 2, 1) := dk_5 (dk_at dksL_law_16 22 rfl rfl)
theorem dL_law_555 : decode cL_law 555 = .ok (.iadd, 1) := dk_96 (dk_at dksL_law_16 23 rfl rfl)
theorem dL_law_556 : decode cL_law 556 = .ok (.iaload, 1) := dk_46 (dk_at dksL_law_17 0 rfl rfl)
theorem dL_law_557 : decode cL_law 557 = .ok (.aload_n 0, 1) := dk_42 (dk_at dksL_law_17 1 rfl rfl)
theorem dL_law_558 : decode cL_law 558 = .ok (.iload 5, 2) := dk_21 5 (dk_at dksL_law_17 2 rfl rfl)
theorem dL_law_560 : decode cL_law 560 = .ok (.iconst 3, 1) := dk_6 (dk_at dksL_law_17 4 rfl rfl)
theorem dL_law_561 : decode cL_law 561 = .ok (.iadd, 1) := dk_96 (dk_at dksL_law_17 5 rfl rfl)
theorem dL_law_562 : decode cL_law 562 = .ok (.iaload, 1) := dk_46 (dk_at dksL_law_17 6 rfl rfl)
theorem dL_law_563 : decode cL_law 563 = .ok (.aload_n 3, 1) := dk_45 (dk_at dksL_law_17 7 rfl rfl)
theorem dL_law_564 : decode cL_law 564 = .ok (.invokestatic 158, 3) := dk_184 0 158 (dk_at dksL_law_17 8 rfl rfl)
theorem dL_law_567 : decode cL_law 567 = .ok (.istore 6, 2) := dk_54 6 (dk_at dksL_law_17 11 rfl rfl)
theorem dL_law_569 : decode cL_law 569 = .ok (.aload_n 2, 1) := dk_44 (dk_at dksL_law_17 13 rfl rfl)
theorem dL_law_570 : decode cL_law 570 = .ok (.aload_n 0, 1) := dk_42 (dk_at dksL_law_17 14 rfl rfl)
theorem dL_law_571 : decode cL_law 571 = .ok (.iload 5, 2) := dk_21 5 (dk_at dksL_law_17 15 rfl rfl)
theorem dL_law_573 : decode cL_law 573 = .ok (.iconst 1, 1) := dk_4 (dk_at dksL_law_17 17 rfl rfl)
theorem dL_law_574 : decode cL_law 574 = .ok (.iadd, 1) := dk_96 (dk_at dksL_law_17 18 rfl rfl)
theorem dL_law_575 : decode cL_law 575 = .ok (.iaload, 1) := dk_46 (dk_at dksL_law_17 19 rfl rfl)
theorem dL_law_576 : decode cL_law 576 = .ok (.aload_n 0, 1) := dk_42 (dk_at dksL_law_17 20 rfl rfl)
theorem dL_law_577 : decode cL_law 577 = .ok (.iload 5, 2) := dk_21 5 (dk_at dksL_law_17 21 rfl rfl)
theorem dL_law_579 : decode cL_law 579 = .ok (.iconst 2, 1) := dk_5 (dk_at dksL_law_17 23 rfl rfl)
theorem dL_law_580 : decode cL_law 580 = .ok (.iadd, 1) := dk_96 (dk_at dksL_law_18 0 rfl rfl)
theorem dL_law_581 : decode cL_law 581 = .ok (.iaload, 1) := dk_46 (dk_at dksL_law_18 1 rfl rfl)
theorem dL_law_582 : decode cL_law 582 = .ok (.aload_n 0, 1) := dk_42 (dk_at dksL_law_18 2 rfl rfl)
theorem dL_law_583 : decode cL_law 583 = .ok (.iload 5, 2) := dk_21 5 (dk_at dksL_law_18 3 rfl rfl)
theorem dL_law_585 : decode cL_law 585 = .ok (.iconst 3, 1) := dk_6 (dk_at dksL_law_18 5 rfl rfl)
theorem dL_law_586 : decode cL_law 586 = .ok (.iadd, 1) := dk_96 (dk_at dksL_law_18 6 rfl rfl)
theorem dL_law_587 : decode cL_law 587 = .ok (.iaload, 1) := dk_46 (dk_at dksL_law_18 7 rfl rfl)
theorem dL_law_588 : decode cL_law 588 = .ok (.invokevirtual 161, 3) := dk_182 0 161 (dk_at dksL_law_18 8 rfl rfl)
theorem dL_law_591 : decode cL_law 591 = .ok (.istore 7, 2) := dk_54 7 (dk_at dksL_law_18 11 rfl rfl)
theorem dL_law_593 : decode cL_law 593 = .ok (.aload_n 2, 1) := dk_44 (dk_at dksL_law_18 13 rfl rfl)
theorem dL_law_594 : decode cL_law 594 = .ok (.invokevirtual 145, 3) := dk_182 0 145 (dk_at dksL_law_18 14 rfl rfl)
theorem dL_law_597 : decode cL_law 597 = .ok (.iload 6, 2) := dk_21 6 (dk_at dksL_law_18 17 rfl rfl)
theorem dL_law_599 : decode cL_law 599 = .ok (.if_icmp .eq 5, 3) := dk_159 0 5 (dk_at dksL_law_18 19 rfl rfl)
theorem dL_law_602 : decode cL_law 602 = .ok (.iconst 0, 1) := dk_3 (dk_at dksL_law_18 22 rfl rfl)
theorem dL_law_603 : decode cL_law 603 = .ok (.ireturn, 1) := dk_172 (dk_at dksL_law_18 23 rfl rfl)
theorem dL_law_604 : decode cL_law 604 = .ok (.iload 6, 2) := dk_21 6 (dk_at dksL_law_19 0 rfl rfl)
theorem dL_law_606 : decode cL_law 606 = .ok (.ifCond .ne 15, 3) := dk_154 0 15 (dk_at dksL_law_19 2 rfl rfl)
theorem dL_law_609 : decode cL_law 609 = .ok (.aload_n 3, 1) := dk_45 (dk_at dksL_law_19 5 rfl rfl)
theorem dL_law_610 : decode cL_law 610 = .ok (.iconst 0, 1) := dk_3 (dk_at dksL_law_19 6 rfl rfl)
theorem dL_law_611 : decode cL_law 611 = .ok (.laload, 1) := dk_47 (dk_at dksL_law_19 7 rfl rfl)
theorem dL_law_612 : decode cL_law 612 = .ok (.iload 7, 2) := dk_21 7 (dk_at dksL_law_19 8 rfl rfl)
theorem dL_law_614 : decode cL_law 614 = .ok (.i2l, 1) := dk_133 (dk_at dksL_law_19 10 rfl rfl)
theorem dL_law_615 : decode cL_law 615 = .ok (.lcmp, 1) := dk_148 (dk_at dksL_law_19 11 rfl rfl)
theorem dL_law_616 : decode cL_law 616 = .ok (.ifCond .eq 5, 3) := dk_153 0 5 (dk_at dksL_law_19 12 rfl rfl)
theorem dL_law_619 : decode cL_law 619 = .ok (.iconst 0, 1) := dk_3 (dk_at dksL_law_19 15 rfl rfl)
theorem dL_law_620 : decode cL_law 620 = .ok (.ireturn, 1) := dk_172 (dk_at dksL_law_19 16 rfl rfl)
theorem dL_law_621 : decode cL_law 621 = .ok (.goto 1960, 3) := dk_167 7 168 (dk_at dksL_law_19 17 rfl rfl)
theorem dL_law_624 : decode cL_law 624 = .ok (.aload_n 1, 1) := dk_43 (dk_at dksL_law_19 20 rfl rfl)
theorem dL_law_625 : decode cL_law 625 = .ok (.aload_n 0, 1) := dk_42 (dk_at dksL_law_19 21 rfl rfl)
theorem dL_law_626 : decode cL_law 626 = .ok (.iload 5, 2) := dk_21 5 (dk_at dksL_law_19 22 rfl rfl)
theorem dL_law_628 : decode cL_law 628 = .ok (.iconst 1, 1) := dk_4 (dk_at dksL_law_20 0 rfl rfl)
theorem dL_law_629 : decode cL_law 629 = .ok (.iadd, 1) := dk_96 (dk_at dksL_law_20 1 rfl rfl)
theorem dL_law_630 : decode cL_law 630 = .ok (.iaload, 1) := dk_46 (dk_at dksL_law_20 2 rfl rfl)
theorem dL_law_631 : decode cL_law 631 = .ok (.aload_n 0, 1) := dk_42 (dk_at dksL_law_20 3 rfl rfl)
theorem dL_law_632 : decode cL_law 632 = .ok (.iload 5, 2) := dk_21 5 (dk_at dksL_law_20 4 rfl rfl)
theorem dL_law_634 : decode cL_law 634 = .ok (.iconst 2, 1) := dk_5 (dk_at dksL_law_20 6 rfl rfl)
theorem dL_law_635 : decode cL_law 635 = .ok (.iadd, 1) := dk_96 (dk_at dksL_law_20 7 rfl rfl)
theorem dL_law_636 : decode cL_law 636 = .ok (.iaload, 1) := dk_46 (dk_at dksL_law_20 8 rfl rfl)
theorem dL_law_637 : decode cL_law 637 = .ok (.aload_n 0, 1) := dk_42 (dk_at dksL_law_20 9 rfl rfl)
theorem dL_law_638 : decode cL_law 638 = .ok (.iload 5, 2) := dk_21 5 (dk_at dksL_law_20 10 rfl rfl)
theorem dL_law_640 : decode cL_law 640 = .ok (.iconst 3, 1) := dk_6 (dk_at dksL_law_20 12 rfl rfl)
theorem dL_law_641 : decode cL_law 641 = .ok (.iadd, 1) := dk_96 (dk_at dksL_law_20 13 rfl rfl)
theorem dL_law_642 : decode cL_law 642 = .ok (.iaload, 1) := dk_46 (dk_at dksL_law_20 14 rfl rfl)
theorem dL_law_643 : decode cL_law 643 = .ok (.aload_n 0, 1) := dk_42 (dk_at dksL_law_20 15 rfl rfl)
theorem dL_law_644 : decode cL_law 644 = .ok (.iload 5, 2) := dk_21 5 (dk_at dksL_law_20 16 rfl rfl)
theorem dL_law_646 : decode cL_law 646 = .ok (.iconst 4, 1) := dk_7 (dk_at dksL_law_20 18 rfl rfl)
theorem dL_law_647 : decode cL_law 647 = .ok (.iadd, 1) := dk_96 (dk_at dksL_law_20 19 rfl rfl)
theorem dL_law_648 : decode cL_law 648 = .ok (.iaload, 1) := dk_46 (dk_at dksL_law_20 20 rfl rfl)
theorem dL_law_649 : decode cL_law 649 = .ok (.aload_n 3, 1) := dk_45 (dk_at dksL_law_20 21 rfl rfl)
theorem dL_law_650 : decode cL_law 650 = .ok (.invokestatic 162, 3) := dk_184 0 162 (dk_at dksL_law_21 0 rfl rfl)
theorem dL_law_653 : decode cL_law 653 = .ok (.istore 6, 2) := dk_54 6 (dk_at dksL_law_21 3 rfl rfl)
theorem dL_law_655 : decode cL_law 655 = .ok (.aload_n 2, 1) := dk_44 (dk_at dksL_law_21 5 rfl rfl)
theorem dL_law_656 : decode cL_law 656 = .ok (.aload_n 0, 1) := dk_42 (dk_at dksL_law_21 6 rfl rfl)
theorem dL_law_657 : decode cL_law 657 = .ok (.iload 5, 2) := dk_21 5 (dk_at dksL_law_21 7 rfl rfl)
theorem dL_law_659 : decode cL_law 659 = .ok (.iconst 1, 1) := dk_4 (dk_at dksL_law_21 9 rfl rfl)
theorem dL_law_660 : decode cL_law 660 = .ok (.iadd, 1) := dk_96 (dk_at dksL_law_21 10 rfl rfl)
theorem dL_law_661 : decode cL_law 661 = .ok (.iaload, 1) := dk_46 (dk_at dksL_law_21 11 rfl rfl)
theorem dL_law_662 : decode cL_law 662 = .ok (.aload_n 0, 1) := dk_42 (dk_at dksL_law_21 12 rfl rfl)
theorem dL_law_663 : decode cL_law 663 = .ok (.iload 5, 2) := dk_21 5 (dk_at dksL_law_21 13 rfl rfl)
theorem dL_law_665 : decode cL_law 665 = .ok (.iconst 2, 1) := dk_5 (dk_at dksL_law_21 15 rfl rfl)
theorem dL_law_666 : decode cL_law 666 = .ok (.iadd, 1) := dk_96 (dk_at dksL_law_21 16 rfl rfl)
theorem dL_law_667 : decode cL_law 667 = .ok (.iaload, 1) := dk_46 (dk_at dksL_law_21 17 rfl rfl)
theorem dL_law_668 : decode cL_law 668 = .ok (.aload_n 0, 1) := dk_42 (dk_at dksL_law_21 18 rfl rfl)
theorem dL_law_669 : decode cL_law 669 = .ok (.iload 5, 2) := dk_21 5 (dk_at dksL_law_21 19 rfl rfl)
theorem dL_law_671 : decode cL_law 671 = .ok (.iconst 3, 1) := dk_6 (dk_at dksL_law_21 21 rfl rfl)
theorem dL_law_672 : decode cL_law 672 = .ok (.iadd, 1) := dk_96 (dk_at dksL_law_21 22 rfl rfl)
theorem dL_law_673 : decode cL_law 673 = .ok (.iaload, 1) := dk_46 (dk_at dksL_law_21 23 rfl rfl)
theorem dL_law_674 : decode cL_law 674 = .ok (.aload_n 0, 1) := dk_42 (dk_at dksL_law_22 0 rfl rfl)
theorem dL_law_675 : decode cL_law 675 = .ok (.iload 5, 2) := dk_21 5 (dk_at dksL_law_22 1 rfl rfl)
theorem dL_law_677 : decode cL_law 677 = .ok (.iconst 4, 1) := dk_7 (dk_at dksL_law_22 3 rfl rfl)
theorem dL_law_678 : decode cL_law 678 = .ok (.iadd, 1) := dk_96 (dk_at dksL_law_22 4 rfl rfl)
theorem dL_law_679 : decode cL_law 679 = .ok (.iaload, 1) := dk_46 (dk_at dksL_law_22 5 rfl rfl)
theorem dL_law_680 : decode cL_law 680 = .ok (.invokevirtual 164, 3) := dk_182 0 164 (dk_at dksL_law_22 6 rfl rfl)
theorem dL_law_683 : decode cL_law 683 = .ok (.istore 7, 2) := dk_54 7 (dk_at dksL_law_22 9 rfl rfl)
theorem dL_law_685 : decode cL_law 685 = .ok (.aload_n 2, 1) := dk_44 (dk_at dksL_law_22 11 rfl rfl)
theorem dL_law_686 : decode cL_law 686 = .ok (.invokevirtual 145, 3) := dk_182 0 145 (dk_at dksL_law_22 12 rfl rfl)
theorem dL_law_689 : decode cL_law 689 = .ok (.iload 6, 2) := dk_21 6 (dk_at dksL_law_22 15 rfl rfl)
theorem dL_law_691 : decode cL_law 691 = .ok (.if_icmp .eq 5, 3) := dk_159 0 5 (dk_at dksL_law_22 17 rfl rfl)
theorem dL_law_694 : decode cL_law 694 = .ok (.iconst 0, 1) := dk_3 (dk_at dksL_law_22 20 rfl rfl)
theorem dL_law_695 : decode cL_law 695 = .ok (.ireturn, 1) := dk_172 (dk_at dksL_law_22 21 rfl rfl)
theorem dL_law_696 : decode cL_law 696 = .ok (.iload 6, 2) := dk_21 6 (dk_at dksL_law_22 22 rfl rfl)
theorem dL_law_698 : decode cL_law 698 = .ok (.ifCond .ne 22, 3) := dk_154 0 22 (dk_at dksL_law_23 0 rfl rfl)
theorem dL_law_701 : decode cL_law 701 = .ok (.aload_n 3, 1) := dk_45 (dk_at dksL_law_23 3 rfl rfl)
theorem dL_law_702 : decode cL_law 702 = .ok (.iconst 0, 1) := dk_3 (dk_at dksL_law_23 4 rfl rfl)
theorem dL_law_703 : decode cL_law 703 = .ok (.laload, 1) := dk_47 (dk_at dksL_law_23 5 rfl rfl)
theorem dL_law_704 : decode cL_law 704 = .ok (.iload 7, 2) := dk_21 7 (dk_at dksL_law_23 6 rfl rfl)
theorem dL_law_706 : decode cL_law 706 = .ok (.ifCond .eq 7, 3) := dk_153 0 7 (dk_at dksL_law_23 8 rfl rfl)
theorem dL_law_709 : decode cL_law 709 = .ok (.lconst 1, 1) := dk_10 (dk_at dksL_law_23 11 rfl rfl)
theorem dL_law_710 : decode cL_law 710 = .ok (.goto 4, 3) := dk_167 0 4 (dk_at dksL_law_23 12 rfl rfl)
theorem dL_law_713 : decode cL_law 713 = .ok (.lconst 0, 1) := dk_9 (dk_at dksL_law_23 15 rfl rfl)
theorem dL_law_714 : decode cL_law 714 = .ok (.lcmp, 1) := dk_148 (dk_at dksL_law_23 16 rfl rfl)
theorem dL_law_715 : decode cL_law 715 = .ok (.ifCond .eq 5, 3) := dk_153 0 5 (dk_at dksL_law_23 17 rfl rfl)
theorem dL_law_718 : decode cL_law 718 = .ok (.iconst 0, 1) := dk_3 (dk_at dksL_law_23 20 rfl rfl)
theorem dL_law_719 : decode cL_law 719 = .ok (.ireturn, 1) := dk_172 (dk_at dksL_law_23 21 rfl rfl)
theorem dL_law_720 : decode cL_law 720 = .ok (.goto 1861, 3) := dk_167 7 69 (dk_at dksL_law_24 0 rfl rfl)
theorem dL_law_723 : decode cL_law 723 = .ok (.aload_n 1, 1) := dk_43 (dk_at dksL_law_24 3 rfl rfl)
theorem dL_law_724 : decode cL_law 724 = .ok (.aload_n 0, 1) := dk_42 (dk_at dksL_law_24 4 rfl rfl)
theorem dL_law_725 : decode cL_law 725 = .ok (.iload 5, 2) := dk_21 5 (dk_at dksL_law_24 5 rfl rfl)
theorem dL_law_727 : decode cL_law 727 = .ok (.iconst 1, 1) := dk_4 (dk_at dksL_law_24 7 rfl rfl)
theorem dL_law_728 : decode cL_law 728 = .ok (.iadd, 1) := dk_96 (dk_at dksL_law_24 8 rfl rfl)
theorem dL_law_729 : decode cL_law 729 = .ok (.iaload, 1) := dk_46 (dk_at dksL_law_24 9 rfl rfl)
theorem dL_law_730 : decode cL_law 730 = .ok (.aload_n 0, 1) := dk_42 (dk_at dksL_law_24 10 rfl rfl)
theorem dL_law_731 : decode cL_law 731 = .ok (.iload 5, 2) := dk_21 5 (dk_at dksL_law_24 11 rfl rfl)
theorem dL_law_733 : decode cL_law 733 = .ok (.iconst 2, 1) := dk_5 (dk_at dksL_law_24 13 rfl rfl)
theorem dL_law_734 : decode cL_law 734 = .ok (.iadd, 1) := dk_96 (dk_at dksL_law_24 14 rfl rfl)
theorem dL_law_735 : decode cL_law 735 = .ok (.iaload, 1) := dk_46 (dk_at dksL_law_24 15 rfl rfl)
theorem dL_law_736 : decode cL_law 736 = .ok (.aload_n 3, 1) := dk_45 (dk_at dksL_law_24 16 rfl rfl)
theorem dL_law_737 : decode cL_law 737 = .ok (.invokestatic 165, 3) := dk_184 0 165 (dk_at dksL_law_24 17 rfl rfl)
theorem dL_law_740 : decode cL_law 740 = .ok (.istore 6, 2) := dk_54 6 (dk_at dksL_law_24 20 rfl rfl)
theorem dL_law_742 : decode cL_law 742 = .ok (.aload_n 2, 1) := dk_44 (dk_at dksL_law_24 22 rfl rfl)
theorem dL_law_743 : decode cL_law 743 = .ok (.aload_n 0, 1) := dk_42 (dk_at dksL_law_24 23 rfl rfl)
theorem dL_law_744 : decode cL_law 744 = .ok (.iload 5, 2) := dk_21 5 (dk_at dksL_law_25 0 rfl rfl)
theorem dL_law_746 : decode cL_law 746 = .ok (.iconst 1, 1) := dk_4 (dk_at dksL_law_25 2 rfl rfl)
theorem dL_law_747 : decode cL_law 747 = .ok (.iadd, 1) := dk_96 (dk_at dksL_law_25 3 rfl rfl)
theorem dL_law_748 : decode cL_law 748 = .ok (.iaload, 1) := dk_46 (dk_at dksL_law_25 4 rfl rfl)
theorem dL_law_749 : decode cL_law 749 = .ok (.aload_n 0, 1) := dk_42 (dk_at dksL_law_25 5 rfl rfl)
theorem dL_law_750 : decode cL_law 750 = .ok (.iload 5, 2) := dk_21 5 (dk_at dksL_law_25 6 rfl rfl)
theorem dL_law_752 : decode cL_law 752 = .ok (.iconst 2, 1) := dk_5 (dk_at dksL_law_25 8 rfl rfl)
theorem dL_law_753 : decode cL_law 753 = .ok (.iadd, 1) := dk_96 (dk_at dksL_law_25 9 rfl rfl)
theorem dL_law_754 : decode cL_law 754 = .ok (.iaload, 1) := dk_46 (dk_at dksL_law_25 10 rfl rfl)
theorem dL_law_755 : decode cL_law 755 = .ok (.invokevirtual 167, 3) := dk_182 0 167 (dk_at dksL_law_25 11 rfl rfl)
theorem dL_law_758 : decode cL_law 758 = .ok (.istore 7, 2) := dk_54 7 (dk_at dksL_law_25 14 rfl rfl)
theorem dL_law_760 : decode cL_law 760 = .ok (.aload_n 2, 1) := dk_44 (dk_at dksL_law_25 16 rfl rfl)
theorem dL_law_761 : decode cL_law 761 = .ok (.invokevirtual 145, 3) := dk_182 0 145 (dk_at dksL_law_25 17 rfl rfl)
theorem dL_law_764 : decode cL_law 764 = .ok (.iload 6, 2) := dk_21 6 (dk_at dksL_law_25 20 rfl rfl)
theorem dL_law_766 : decode cL_law 766 = .ok (.if_icmp .eq 5, 3) := dk_159 0 5 (dk_at dksL_law_26 0 rfl rfl)
theorem dL_law_769 : decode cL_law 769 = .ok (.iconst 0, 1) := dk_3 (dk_at dksL_law_26 3 rfl rfl)
theorem dL_law_770 : decode cL_law 770 = .ok (.ireturn, 1) := dk_172 (dk_at dksL_law_26 4 rfl rfl)
theorem dL_law_771 : decode cL_law 771 = .ok (.iload 6, 2) := dk_21 6 (dk_at dksL_law_26 5 rfl rfl)
theorem dL_law_773 : decode cL_law 773 = .ok (.ifCond .ne 15, 3) := dk_154 0 15 (dk_at dksL_law_26 7 rfl rfl)
theorem dL_law_776 : decode cL_law 776 = .ok (.aload_n 3, 1) := dk_45 (dk_at dksL_law_26 10 rfl rfl)
theorem dL_law_777 : decode cL_law 777 = .ok (.iconst 0, 1) := dk_3 (dk_at dksL_law_26 11 rfl rfl)
theorem dL_law_778 : decode cL_law 778 = .ok (.laload, 1) := dk_47 (dk_at dksL_law_26 12 rfl rfl)
theorem dL_law_779 : decode cL_law 779 = .ok (.iload 7, 2) := dk_21 7 (dk_at dksL_law_26 13 rfl rfl)
theorem dL_law_781 : decode cL_law 781 = .ok (.i2l, 1) := dk_133 (dk_at dksL_law_26 15 rfl rfl)
theorem dL_law_782 : decode cL_law 782 = .ok (.lcmp, 1) := dk_148 (dk_at dksL_law_26 16 rfl rfl)
theorem dL_law_783 : decode cL_law 783 = .ok (.ifCond .eq 5, 3) := dk_153 0 5 (dk_at dksL_law_26 17 rfl rfl)
theorem dL_law_786 : decode cL_law 786 = .ok (.iconst 0, 1) := dk_3 (dk_at dksL_law_26 20 rfl rfl)
theorem dL_law_787 : decode cL_law 787 = .ok (.ireturn, 1) := dk_172 (dk_at dksL_law_26 21 rfl rfl)
theorem dL_law_788 : decode cL_law 788 = .ok (.goto 1793, 3) := dk_167 7 1 (dk_at dksL_law_27 0 rfl rfl)
theorem dL_law_791 : decode cL_law 791 = .ok (.aload_n 1, 1) := dk_43 (dk_at dksL_law_27 3 rfl rfl)
theorem dL_law_792 : decode cL_law 792 = .ok (.aload_n 0, 1) := dk_42 (dk_at dksL_law_27 4 rfl rfl)
theorem dL_law_793 : decode cL_law 793 = .ok (.iload 5, 2) := dk_21 5 (dk_at dksL_law_27 5 rfl rfl)
theorem dL_law_795 : decode cL_law 795 = .ok (.iconst 1, 1) := dk_4 (dk_at dksL_law_27 7 rfl rfl)
theorem dL_law_796 : decode cL_law 796 = .ok (.iadd, 1) := dk_96 (dk_at dksL_law_27 8 rfl rfl)
theorem dL_law_797 : decode cL_law 797 = .ok (.iaload, 1) := dk_46 (dk_at dksL_law_27 9 rfl rfl)
theorem dL_law_798 : decode cL_law 798 = .ok (.aload_n 3, 1) := dk_45 (dk_at dksL_law_27 10 rfl rfl)
theorem dL_law_799 : decode cL_law 799 = .ok (.invokestatic 168, 3) := dk_184 0 168 (dk_at dksL_law_27 11 rfl rfl)
theorem dL_law_802 : decode cL_law 802 = .ok (.istore 6, 2) := dk_54 6 (dk_at dksL_law_27 14 rfl rfl)
theorem dL_law_804 : decode cL_law 804 = .ok (.aload_n 2, 1) := dk_44 (dk_at dksL_law_27 16 rfl rfl)
theorem dL_law_805 : decode cL_law 805 = .ok (.aload_n 0, 1) := dk_42 (dk_at dksL_law_27 17 rfl rfl)
theorem dL_law_806 : decode cL_law 806 = .ok (.iload 5, 2) := dk_21 5 (dk_at dksL_law_27 18 rfl rfl)
theorem dL_law_808 : decode cL_law 808 = .ok (.iconst 1, 1) := dk_4 (dk_at dksL_law_27 20 rfl rfl)
theorem dL_law_809 : decode cL_law 809 = .ok (.iadd, 1) := dk_96 (dk_at dksL_law_27 21 rfl rfl)
theorem dL_law_810 : decode cL_law 810 = .ok (.iaload, 1) := dk_46 (dk_at dksL_law_27 22 rfl rfl)
theorem dL_law_811 : decode cL_law 811 = .ok (.invokevirtual 171, 3) := dk_182 0 171 (dk_at dksL_law_28 0 rfl rfl)
theorem dL_law_814 : decode cL_law 814 = .ok (.istore 7, 2) := dk_54 7 (dk_at dksL_law_28 3 rfl rfl)
theorem dL_law_816 : decode cL_law 816 = .ok (.aload_n 2, 1) := dk_44 (dk_at dksL_law_28 5 rfl rfl)
theorem dL_law_817 : decode cL_law 817 = .ok (.invokevirtual 145, 3) := dk_182 0 145 (dk_at dksL_law_28 6 rfl rfl)
theorem dL_law_820 : decode cL_law 820 = .ok (.iload 6, 2) := dk_21 6 (dk_at dksL_law_28 9 rfl rfl)
theorem dL_law_822 : decode cL_law 822 = .ok (.if_icmp .eq 5, 3) := dk_159 0 5 (dk_at dksL_law_28 11 rfl rfl)
theorem dL_law_825 : decode cL_law 825 = .ok (.iconst 0, 1) := dk_3 (dk_at dksL_law_28 14 rfl rfl)
theorem dL_law_826 : decode cL_law 826 = .ok (.ireturn, 1) := dk_172 (dk_at dksL_law_28 15 rfl rfl)
theorem dL_law_827 : decode cL_law 827 = .ok (.iload 6, 2) := dk_21 6 (dk_at dksL_law_28 16 rfl rfl)
theorem dL_law_829 : decode cL_law 829 = .ok (.ifCond .ne 15, 3) := dk_154 0 15 (dk_at dksL_law_28 18 rfl rfl)
theorem dL_law_832 : decode cL_law 832 = .ok (.aload_n 3, 1) := dk_45 (dk_at dksL_law_28 21 rfl rfl)
theorem dL_law_833 : decode cL_law 833 = .ok (.iconst 0, 1) := dk_3 (dk_at dksL_law_28 22 rfl rfl)
theorem dL_law_834 : decode cL_law 834 = .ok (.laload, 1) := dk_47 (dk_at dksL_law_28 23 rfl rfl)
theorem dL_law_835 : decode cL_law 835 = .ok (.iload 7, 2) := dk_21 7 (dk_at dksL_law_29 0 rfl rfl)
theorem dL_law_837 : decode cL_law 837 = .ok (.i2l, 1) := dk_133 (dk_at dksL_law_29 2 rfl rfl)
theorem dL_law_838 : decode cL_law 838 = .ok (.lcmp, 1) := dk_148 (dk_at dksL_law_29 3 rfl rfl)
theorem dL_law_839 : decode cL_law 839 = .ok (.ifCond .eq 5, 3) := dk_153 0 5 (dk_at dksL_law_29 4 rfl rfl)
theorem dL_law_842 : decode cL_law 842 = .ok (.iconst 0, 1) := dk_3 (dk_at dksL_law_29 7 rfl rfl)
theorem dL_law_843 : decode cL_law 843 = .ok (.ireturn, 1) := dk_172 (dk_at dksL_law_29 8 rfl rfl)
theorem dL_law_844 : decode cL_law 844 = .ok (.goto 1737, 3) := dk_167 6 201 (dk_at dksL_law_29 9 rfl rfl)
theorem dL_law_847 : decode cL_law 847 = .ok (.aload_n 1, 1) := dk_43 (dk_at dksL_law_29 12 rfl rfl)
theorem dL_law_848 : decode cL_law 848 = .ok (.invokevirtual 172, 3) := dk_182 0 172 (dk_at dksL_law_29 13 rfl rfl)
theorem dL_law_851 : decode cL_law 851 = .ok (.aload_n 2, 1) := dk_44 (dk_at dksL_law_29 16 rfl rfl)
theorem dL_law_852 : decode cL_law 852 = .ok (.invokevirtual 175, 3) := dk_182 0 175 (dk_at dksL_law_29 17 rfl rfl)
theorem dL_law_855 : decode cL_law 855 = .ok (.if_icmp .eq 1726, 3) := dk_159 6 190 (dk_at dksL_law_29 20 rfl rfl)
theorem dL_law_858 : decode cL_law 858 = .ok (.iconst 0, 1) := dk_3 (dk_at dksL_law_29 23 rfl rfl)
theorem dL_law_859 : decode cL_law 859 = .ok (.ireturn, 1) := dk_172 (dk_at dksL_law_30 0 rfl rfl)
theorem dL_law_860 : decode cL_law 860 = .ok (.aload_n 1, 1) := dk_43 (dk_at dksL_law_30 1 rfl rfl)
theorem dL_law_861 : decode cL_law 861 = .ok (.aload_n 0, 1) := dk_42 (dk_at dksL_law_30 2 rfl rfl)
theorem dL_law_862 : decode cL_law 862 = .ok (.iload 5, 2) := dk_21 5 (dk_at dksL_law_30 3 rfl rfl)
theorem dL_law_864 : decode cL_law 864 = .ok (.iconst 1, 1) := dk_4 (dk_at dksL_law_30 5 rfl rfl)
theorem dL_law_865 : decode cL_law 865 = .ok (.iadd, 1) := dk_96 (dk_at dksL_law_30 6 rfl rfl)
theorem dL_law_866 : decode cL_law 866 = .ok (.iaload, 1) := dk_46 (dk_at dksL_law_30 7 rfl rfl)
theorem dL_law_867 : decode cL_law 867 = .ok (.aload_n 0, 1) := dk_42 (dk_at dksL_law_30 8 rfl rfl)
theorem dL_law_868 : decode cL_law 868 = .ok (.iload 5, 2) := dk_21 5 (dk_at dksL_law_30 9 rfl rfl)
theorem dL_law_870 : decode cL_law 870 = .ok (.iconst 2, 1) := dk_5 (dk_at dksL_law_30 11 rfl rfl)
theorem dL_law_871 : decode cL_law 871 = .ok (.iadd, 1) := dk_96 (dk_at dksL_law_30 12 rfl rfl)
theorem dL_law_872 : decode cL_law 872 = .ok (.iaload, 1) := dk_46 (dk_at dksL_law_30 13 rfl rfl)
theorem dL_law_873 : decode cL_law 873 = .ok (.aload_n 0, 1) := dk_42 (dk_at dksL_law_30 14 rfl rfl)
theorem dL_law_874 : decode cL_law 874 = .ok (.iload 5, 2) := dk_21 5 (dk_at dksL_law_30 15 rfl rfl)
theorem dL_law_876 : decode cL_law 876 = .ok (.iconst 3, 1) := dk_6 (dk_at dksL_law_30 17 rfl rfl)
theorem dL_law_877 : decode cL_law 877 = .ok (.iadd, 1) := dk_96 (dk_at dksL_law_30 18 rfl rfl)
theorem dL_law_878 : decode cL_law 878 = .ok (.iaload, 1) := dk_46 (dk_at dksL_law_30 19 rfl rfl)
theorem dL_law_879 : decode cL_law 879 = .ok (.aload_n 3, 1) := dk_45 (dk_at dksL_law_30 20 rfl rfl)
theorem dL_law_880 : decode cL_law 880 = .ok (.invokestatic 176, 3) := dk_184 0 176 (dk_at dksL_law_30 21 rfl rfl)
theorem dL_law_883 : decode cL_law 883 = .ok (.istore 6, 2) := dk_54 6 (dk_at dksL_law_31 0 rfl rfl)
theorem dL_law_885 : decode cL_law 885 = .ok (.aload_n 2, 1) := dk_44 (dk_at dksL_law_31 2 rfl rfl)
theorem dL_law_886 : decode cL_law 886 = .ok (.aload_n 0, 1) := dk_42 (dk_at dksL_law_31 3 rfl rfl)
theorem dL_law_887 : decode cL_law 887 = .ok (.iload 5, 2) := dk_21 5 (dk_at dksL_law_31 4 rfl rfl)
theorem dL_law_889 : decode cL_law 889 = .ok (.iconst 1, 1) := dk_4 (dk_at dksL_law_31 6 rfl rfl)
theorem dL_law_890 : decode cL_law 890 = .ok (.iadd, 1) := dk_96 (dk_at dksL_law_31 7 rfl rfl)
theorem dL_law_891 : decode cL_law 891 = .ok (.iaload, 1) := dk_46 (dk_at dksL_law_31 8 rfl rfl)
theorem dL_law_892 : decode cL_law 892 = .ok (.aload_n 0, 1) := dk_42 (dk_at dksL_law_31 9 rfl rfl)
theorem dL_law_893 : decode cL_law 893 = .ok (.iload 5, 2) := dk_21 5 (dk_at dksL_law_31 10 rfl rfl)
theorem dL_law_895 : decode cL_law 895 = .ok (.iconst 2, 1) := dk_5 (dk_at dksL_law_31 12 rfl rfl)
theorem dL_law_896 : decode cL_law 896 = .ok (.iadd, 1) := dk_96 (dk_at dksL_law_31 13 rfl rfl)
theorem dL_law_897 : decode cL_law 897 = .ok (.iaload, 1) := dk_46 (dk_at dksL_law_31 14 rfl rfl)
theorem dL_law_898 : decode cL_law 898 = .ok (.aload_n 0, 1) := dk_42 (dk_at dksL_law_31 15 rfl rfl)
theorem dL_law_899 : decode cL_law 899 = .ok (.iload 5, 2) := dk_21 5 (dk_at dksL_law_31 16 rfl rfl)
theorem dL_law_901 : decode cL_law 901 = .ok (.iconst 3, 1) := dk_6 (dk_at dksL_law_31 18 rfl rfl)
theorem dL_law_902 : decode cL_law 902 = .ok (.iadd, 1) := dk_96 (dk_at dksL_law_31 19 rfl rfl)
theorem dL_law_903 : decode cL_law 903 = .ok (.iaload, 1) := dk_46 (dk_at dksL_law_31 20 rfl rfl)
theorem dL_law_904 : decode cL_law 904 = .ok (.invokevirtual 178, 3) := dk_182 0 178 (dk_at dksL_law_31 21 rfl rfl)
theorem dL_law_907 : decode cL_law 907 = .ok (.istore 7, 2) := dk_54 7 (dk_at dksL_law_32 0 rfl rfl)
theorem dL_law_909 : decode cL_law 909 = .ok (.aload_n 2, 1) := dk_44 (dk_at dksL_law_32 2 rfl rfl)
theorem dL_law_910 : decode cL_law 910 = .ok (.invokevirtual 145, 3) := dk_182 0 145 (dk_at dksL_law_32 3 rfl rfl)
theorem dL_law_913 : decode cL_law 913 = .ok (.iload 6, 2) := dk_21 6 (dk_at dksL_law_32 6 rfl rfl)
theorem dL_law_915 : decode cL_law 915 = .ok (.if_icmp .eq 5, 3) := dk_159 0 5 (dk_at dksL_law_32 8 rfl rfl)
theorem dL_law_918 : decode cL_law 918 = .ok (.iconst 0, 1) := dk_3 (dk_at dksL_law_32 11 rfl rfl)
theorem dL_law_919 : decode cL_law 919 = .ok (.ireturn, 1) := dk_172 (dk_at dksL_law_32 12 rfl rfl)
theorem dL_law_920 : decode cL_law 920 = .ok (.iload 6, 2) := dk_21 6 (dk_at dksL_law_32 13 rfl rfl)
theorem dL_law_922 : decode cL_law 922 = .ok (.ifCond .ne 15, 3) := dk_154 0 15 (dk_at dksL_law_32 15 rfl rfl)
theorem dL_law_925 : decode cL_law 925 = .ok (.aload_n 3, 1) := dk_45 (dk_at dksL_law_32 18 rfl rfl)
theorem dL_law_926 : decode cL_law 926 = .ok (.iconst 0, 1) := dk_3 (dk_at dksL_law_32 19 rfl rfl)
theorem dL_law_927 : decode cL_law 927 = .ok (.laload, 1) := dk_47 (dk_at dksL_law_32 20 rfl rfl)
theorem dL_law_928 : decode cL_law 928 = .ok (.iload 7, 2) := dk_21 7 (dk_at dksL_law_32 21 rfl rfl)
theorem dL_law_930 : decode cL_law 930 = .ok (.i2l, 1) := dk_133 (dk_at dksL_law_32 23 rfl rfl)
theorem dL_law_931 : decode cL_law 931 = .ok (.lcmp, 1) := dk_148 (dk_at dksL_law_33 0 rfl rfl)
theorem dL_law_932 : decode cL_law 932 = .ok (.ifCond .eq 5, 3) := dk_153 0 5 (dk_at dksL_law_33 1 rfl rfl)
theorem dL_law_935 : decode cL_law 935 = .ok (.iconst 0, 1) := dk_3 (dk_at dksL_law_33 4 rfl rfl)
theorem dL_law_936 : decode cL_law 936 = .ok (.ireturn, 1) := dk_172 (dk_at dksL_law_33 5 rfl rfl)
theorem dL_law_937 : decode cL_law 937 = .ok (.goto 1644, 3) := dk_167 6 108 (dk_at dksL_law_33 6 rfl rfl)
theorem dL_law_940 : decode cL_law 940 = .ok (.aload_n 1, 1) := dk_43 (dk_at dksL_law_33 9 rfl rfl)
theorem dL_law_941 : decode cL_law 941 = .ok (.aload_n 0, 1) := dk_42 (dk_at dksL_law_33 10 rfl rfl)
theorem dL_law_942 : decode cL_law 942 = .ok (.iload 5, 2) := dk_21 5 (dk_at dksL_law_33 11 rfl rfl)
theorem dL_law_944 : decode cL_law 944 = .ok (.iconst 1, 1) := dk_4 (dk_at dksL_law_33 13 rfl rfl)
theorem dL_law_945 : decode cL_law 945 = .ok (.iadd, 1) := dk_96 (dk_at dksL_law_33 14 rfl rfl)
theorem dL_law_946 : decode cL_law 946 = .ok (.iaload, 1) := dk_46 (dk_at dksL_law_33 15 rfl rfl)
theorem dL_law_947 : decode cL_law 947 = .ok (.aload_n 0, 1) := dk_42 (dk_at dksL_law_33 16 rfl rfl)
theorem dL_law_948 : decode cL_law 948 = .ok (.iload 5, 2) := dk_21 5 (dk_at dksL_law_33 17 rfl rfl)
theorem dL_law_950 : decode cL_law 950 = .ok (.iconst 2, 1) := dk_5 (dk_at dksL_law_33 19 rfl rfl)
theorem dL_law_951 : decode cL_law 951 = .ok (.iadd, 1) := dk_96 (dk_at dksL_law_33 20 rfl rfl)
theorem dL_law_952 : decode cL_law 952 = .ok (.iaload, 1) := dk_46 (dk_at dksL_law_33 21 rfl rfl)
theorem dL_law_953 : decode cL_law 953 = .ok (.ifCond .eq 7, 3) := dk_153 0 7 (dk_at dksL_law_34 0 rfl rfl)
theorem dL_law_956 : decode cL_law 956 = .ok (.iconst 1, 1) := dk_4 (dk_at dksL_law_34 3 rfl rfl)
theorem dL_law_957 : decode cL_law 957 = .ok (.goto 4, 3) := dk_167 0 4 (dk_at dksL_law_34 4 rfl rfl)
theorem dL_law_960 : decode cL_law 960 = .ok (.iconst 0, 1) := dk_3 (dk_at dksL_law_34 7 rfl rfl)
theorem dL_law_961 : decode cL_law 961 = .ok (.aload_n 3, 1) := dk_45 (dk_at dksL_law_34 8 rfl rfl)
theorem dL_law_962 : decode cL_law 962 = .ok (.invokestatic 179, 3) := dk_184 0 179 (dk_at dksL_law_34 9 rfl rfl)
theorem dL_law_965 : decode cL_law 965 = .ok (.istore 6, 2) := dk_54 6 (dk_at dksL_law_34 12 rfl rfl)
theorem dL_law_967 : decode cL_law 967 = .ok (.aload_n 2, 1) := dk_44 (dk_at dksL_law_34 14 rfl rfl)
theorem dL_law_968 : decode cL_law 968 = .ok (.aload_n 0, 1) := dk_42 (dk_at dksL_law_34 15 rfl rfl)
theorem dL_law_969 : decode cL_law 969 = .ok (.iload 5, 2) := dk_21 5 (dk_at dksL_law_34 16 rfl rfl)
theorem dL_law_971 : decode cL_law 971 = .ok (.iconst 1, 1) := dk_4 (dk_at dksL_law_34 18 rfl rfl)
theorem dL_law_972 : decode cL_law 972 = .ok (.iadd, 1) := dk_96 (dk_at dksL_law_34 19 rfl rfl)
theorem dL_law_973 : decode cL_law 973 = .ok (.iaload, 1) := dk_46 (dk_at dksL_law_34 20 rfl rfl)
theorem dL_law_974 : decode cL_law 974 = .ok (.aload_n 0, 1) := dk_42 (dk_at dksL_law_34 21 rfl rfl)
theorem dL_law_975 : decode cL_law 975 = .ok (.iload 5, 2) := dk_21 5 (dk_at dksL_law_34 22 rfl rfl)
theorem dL_law_977 : decode cL_law 977 = .ok (.iconst 2, 1) := dk_5 (dk_at dksL_law_35 0 rfl rfl)
theorem dL_law_978 : decode cL_law 978 = .ok (.iadd, 1) := dk_96 (dk_at dksL_law_35 1 rfl rfl)
theorem dL_law_979 : decode cL_law 979 = .ok (.iaload, 1) := dk_46 (dk_at dksL_law_35 2 rfl rfl)
theorem dL_law_980 : decode cL_law 980 = .ok (.ifCond .eq 7, 3) := dk_153 0 7 (dk_at dksL_law_35 3 rfl rfl)
theorem dL_law_983 : decode cL_law 983 = .ok (.iconst 1, 1) := dk_4 (dk_at dksL_law_35 6 rfl rfl)
theorem dL_law_984 : decode cL_law 984 = .ok (.goto 4, 3) := dk_167 0 4 (dk_at dksL_law_35 7 rfl rfl)
theorem dL_law_987 : decode cL_law 987 = .ok (.iconst 0, 1) := dk_3 (dk_at dksL_law_35 10 rfl rfl)
theorem dL_law_988 : decode cL_law 988 = .ok (.invokevirtual 182, 3) := dk_182 0 182 (dk_at dksL_law_35 11 rfl rfl)
theorem dL_law_991 : decode cL_law 991 = .ok (.istore 7, 2) := dk_54 7 (dk_at dksL_law_35 14 rfl rfl)
theorem dL_law_993 : decode cL_law 993 = .ok (.aload_n 2, 1) := dk_44 (dk_at dksL_law_35 16 rfl rfl)
theorem dL_law_994 : decode cL_law 994 = .ok (.invokevirtual 145, 3) := dk_182 0 145 (dk_at dksL_law_35 17 rfl rfl)
theorem dL_law_997 : decode cL_law 997 = .ok (.iload 6, 2) := dk_21 6 (dk_at dksL_law_35 20 rfl rfl)
theorem dL_law_999 : decode cL_law 999 = .ok (.if_icmp .eq 5, 3) := dk_159 0 5 (dk_at dksL_law_36 0 rfl rfl)
theorem dL_law_1002 : decode cL_law 1002 = .ok (.iconst 0, 1) := dk_3 (dk_at dksL_law_36 3 rfl rfl)
theorem dL_law_1003 : decode cL_law 1003 = .ok (.ireturn, 1) := dk_172 (dk_at dksL_law_36 4 rfl rfl)
theorem dL_law_1004 : decode cL_law 1004 = .ok (.iload 6, 2) := dk_21 6 (dk_at dksL_law_36 5 rfl rfl)
theorem dL_law_1006 : decode cL_law 1006 = .ok (.ifCond .ne 15, 3) := dk_154 0 15 (dk_at dksL_law_36 7 rfl rfl)
theorem dL_law_1009 : decode cL_law 1009 = .ok (.aload_n 3, 1) := dk_45 (dk_at dksL_law_36 10 rfl rfl)
theorem dL_law_1010 : decode cL_law 1010 = .ok (.iconst 0, 1) := dk_3 (dk_at dksL_law_36 11 rfl rfl)
theorem dL_law_1011 : decode cL_law 1011 = .ok (.laload, 1) := dk_47 (dk_at dksL_law_36 12 rfl rfl)
theorem dL_law_1012 : decode cL_law 1012 = .ok (.iload 7, 2) := dk_21 7 (dk_at dksL_law_36 13 rfl rfl)
theorem dL_law_1014 : decode cL_law 1014 = .ok (.i2l, 1) := dk_133 (dk_at dksL_law_36 15 rfl rfl)
theorem dL_law_1015 : decode cL_law 1015 = .ok (.lcmp, 1) := dk_148 (dk_at dksL_law_36 16 rfl rfl)
theorem dL_law_1016 : decode cL_law 1016 = .ok (.ifCond .eq 5, 3) := dk_153 0 5 (dk_at dksL_law_36 17 rfl rfl)
theorem dL_law_1019 : decode cL_law 1019 = .ok (.iconst 0, 1) := dk_3 (dk_at dksL_law_36 20 rfl rfl)
theorem dL_law_1020 : decode cL_law 1020 = .ok (.ireturn, 1) := dk_172 (dk_at dksL_law_36 21 rfl rfl)
theorem dL_law_1021 : decode cL_law 1021 = .ok (.goto 1560, 3) := dk_167 6 24 (dk_at dksL_law_37 0 rfl rfl)
theorem dL_law_1024 : decode cL_law 1024 = .ok (.aload_n 1, 1) := dk_43 (dk_at dksL_law_37 3 rfl rfl)
theorem dL_law_1025 : decode cL_law 1025 = .ok (.aload_n 0, 1) := dk_42 (dk_at dksL_law_37 4 rfl rfl)
theorem dL_law_1026 : decode cL_law 1026 = .ok (.iload 5, 2) := dk_21 5 (dk_at dksL_law_37 5 rfl rfl)
theorem dL_law_1028 : decode cL_law 1028 = .ok (.iconst 1, 1) := dk_4 (dk_at dksL_law_37 7 rfl rfl)
theorem dL_law_1029 : decode cL_law 1029 = .ok (.iadd, 1) := dk_96 (dk_at dksL_law_37 8 rfl rfl)
theorem dL_law_1030 : decode cL_law 1030 = .ok (.iaload, 1) := dk_46 (dk_at dksL_law_37 9 rfl rfl)
theorem dL_law_1031 : decode cL_law 1031 = .ok (.aload_n 0, 1) := dk_42 (dk_at dksL_law_37 10 rfl rfl)
theorem dL_law_1032 : decode cL_law 1032 = .ok (.iload 5, 2) := dk_21 5 (dk_at dksL_law_37 11 rfl rfl)
theorem dL_law_1034 : decode cL_law 1034 = .ok (.iconst 2, 1) := dk_5 (dk_at dksL_law_37 13 rfl rfl)
theorem dL_law_1035 : decode cL_law 1035 = .ok (.iadd, 1) := dk_96 (dk_at dksL_law_37 14 rfl rfl)
theorem dL_law_1036 : decode cL_law 1036 = .ok (.iaload, 1) := dk_46 (dk_at dksL_law_37 15 rfl rfl)
theorem dL_law_1037 : decode cL_law 1037 = .ok (.aload_n 3, 1) := dk_45 (dk_at dksL_law_37 16 rfl rfl)
theorem dL_law_1038 : decode cL_law 1038 = .ok (.invokestatic 183, 3) := dk_184 0 183 (dk_at dksL_law_37 17 rfl rfl)
theorem dL_law_1041 : decode cL_law 1041 = .ok (.istore 6, 2) := dk_54 6 (dk_at dksL_law_37 20 rfl rfl)
theorem dL_law_1043 : decode cL_law 1043 = .ok (.aload_n 2, 1) := dk_44 (dk_at dksL_law_37 22 rfl rfl)
theorem dL_law_1044 : decode cL_law 1044 = .ok (.aload_n 0, 1) := dk_42 (dk_at dksL_law_37 23 rfl rfl)
theorem dL_law_1045 : decode cL_law 1045 = .ok (.iload 5, 2) := dk_21 5 (dk_at dksL_law_38 0 rfl rfl)
theorem dL_law_1047 : decode cL_law 1047 = .ok (.iconst 1, 1) := dk_4 (dk_at dksL_law_38 2 rfl rfl)
theorem dL_law_1048 : decode cL_law 1048 = .ok (.iadd, 1) := dk_96 (dk_at dksL_law_38 3 rfl rfl)
theorem dL_law_1049 : decode cL_law 1049 = .ok (.iaload, 1) := dk_46 (dk_at dksL_law_38 4 rfl rfl)
theorem dL_law_1050 : decode cL_law 1050 = .ok (.aload_n 0, 1) := dk_42 (dk_at dksL_law_38 5 rfl rfl)
theorem dL_law_1051 : decode cL_law 1051 = .ok (.iload 5, 2) := dk_21 5 (dk_at dksL_law_38 6 rfl rfl)
theorem dL_law_1053 : decode cL_law 1053 = .ok (.iconst 2, 1) := dk_5 (dk_at dksL_law_38 8 rfl rfl)
theorem dL_law_1054 : decode cL_law 1054 = .ok (.iadd, 1) := dk_96 (dk_at dksL_law_38 9 rfl rfl)
theorem dL_law_1055 : decode cL_law 1055 = .ok (.iaload, 1) := dk_46 (dk_at dksL_law_38 10 rfl rfl)
theorem dL_law_1056 : decode cL_law 1056 = .ok (.invokevirtual 185, 3) := dk_182 0 185 (dk_at dksL_law_38 11 rfl rfl)
theorem dL_law_1059 : decode cL_law 1059 = .ok (.istore 7, 2) := dk_54 7 (dk_at dksL_law_38 14 rfl rfl)
theorem dL_law_1061 : decode cL_law 1061 = .ok (.aload_n 2, 1) := dk_44 (dk_at dksL_law_38 16 rfl rfl)
theorem dL_law_1062 : decode cL_law 1062 = .ok (.invokevirtual 145, 3) := dk_182 0 145 (dk_at dksL_law_38 17 rfl rfl)
theorem dL_law_1065 : decode cL_law 1065 = .ok (.iload 6, 2) := dk_21 6 (dk_at dksL_law_38 20 rfl rfl)
theorem dL_law_1067 : decode cL_law 1067 = .ok (.if_icmp .eq 5, 3) := dk_159 0 5 (dk_at dksL_law_39 0 rfl rfl)
theorem dL_law_1070 : decode cL_law 1070 = .ok (.iconst 0, 1) := dk_3 (dk_at dksL_law_39 3 rfl rfl)
theorem dL_law_1071 : decode cL_law 1071 = .ok (.ireturn, 1) := dk_172 (dk_at dksL_law_39 4 rfl rfl)
theorem dL_law_1072 : decode cL_law 1072 = .ok (.iload 6, 2) := dk_21 6 (dk_at dksL_law_39 5 rfl rfl)
theorem dL_law_1074 : decode cL_law 1074 = .ok (.ifCond .ne 15, 3) := dk_154 0 15 (dk_at dksL_law_39 7 rfl rfl)
theorem dL_law_1077 : decode cL_law 1077 = .ok (.aload_n 3, 1) := dk_45 (dk_at dksL_law_39 10 rfl rfl)
theorem dL_law_1078 : decode cL_law 1078 = .ok (.iconst 0, 1) := dk_3 (dk_at dksL_law_39 11 rfl rfl)
theorem dL_law_1079 : decode cL_law 1079 = .ok (.laload, 1) := dk_47 (dk_at dksL_law_39 12 rfl rfl)
theorem dL_law_1080 : decode cL_law 1080 = .ok (.iload 7, 2) := dk_21 7 (dk_at dksL_law_39 13 rfl rfl)
theorem dL_law_1082 : decode cL_law 1082 = .ok (.i2l, 1) := dk_133 (dk_at dksL_law_39 15 rfl rfl)
theorem dL_law_1083 : decode cL_law 1083 = .ok (.lcmp, 1) := dk_148 (dk_at dksL_law_39 16 rfl rfl)
theorem dL_law_1084 : decode cL_law 1084 = .ok (.ifCond .eq 5, 3) := dk_153 0 5 (dk_at dksL_law_39 17 rfl rfl)
theorem dL_law_1087 : decode cL_law 1087 = .ok (.iconst 0, 1) := dk_3 (dk_at dksL_law_39 20 rfl rfl)
theorem dL_law_1088 : decode cL_law 1088 = .ok (.ireturn, 1) := dk_172 (dk_at dksL_law_39 21 rfl rfl)
theorem dL_law_1089 : decode cL_law 1089 = .ok (.goto 1492, 3) := dk_167 5 212 (dk_at dksL_law_40 0 rfl rfl)
theorem dL_law_1092 : decode cL_law 1092 = .ok (.aload_n 1, 1) := dk_43 (dk_at dksL_law_40 3 rfl rfl)
theorem dL_law_1093 : decode cL_law 1093 = .ok (.aload_n 0, 1) := dk_42 (dk_at dksL_law_40 4 rfl rfl)
theorem dL_law_1094 : decode cL_law 1094 = .ok (.iload 5, 2) := dk_21 5 (dk_at dksL_law_40 5 rfl rfl)
theorem dL_law_1096 : decode cL_law 1096 = .ok (.iconst 1, 1) := dk_4 (dk_at dksL_law_40 7 rfl rfl)
theorem dL_law_1097 : decode cL_law 1097 = .ok (.iadd, 1) := dk_96 (dk_at dksL_law_40 8 rfl rfl)
theorem dL_law_1098 : decode cL_law 1098 = .ok (.iaload, 1) := dk_46 (dk_at dksL_law_40 9 rfl rfl)
theorem dL_law_1099 : decode cL_law 1099 = .ok (.aload_n 0, 1) := dk_42 (dk_at dksL_law_40 10 rfl rfl)
theorem dL_law_1100 : decode cL_law 1100 = .ok (.iload 5, 2) := dk_21 5 (dk_at dksL_law_40 11 rfl rfl)
theorem dL_law_1102 : decode cL_law 1102 = .ok (.iconst 2, 1) := dk_5 (dk_at dksL_law_40 13 rfl rfl)
theorem dL_law_1103 : decode cL_law 1103 = .ok (.iadd, 1) := dk_96 (dk_at dksL_law_40 14 rfl rfl)
theorem dL_law_1104 : decode cL_law 1104 = .ok (.iaload, 1) := dk_46 (dk_at dksL_law_40 15 rfl rfl)
theorem dL_law_1105 : decode cL_law 1105 = .ok (.aload_n 3, 1) := dk_45 (dk_at dksL_law_40 16 rfl rfl)
theorem dL_law_1106 : decode cL_law 1106 = .ok (.invokestatic 186, 3) := dk_184 0 186 (dk_at dksL_law_40 17 rfl rfl)
theorem dL_law_1109 : decode cL_law 1109 = .ok (.istore 6, 2) := dk_54 6 (dk_at dksL_law_40 20 rfl rfl)
theorem dL_law_1111 : decode cL_law 1111 = .ok (.aload_n 2, 1) := dk_44 (dk_at dksL_law_40 22 rfl rfl)
theorem dL_law_1112 : decode cL_law 1112 = .ok (.aload_n 0, 1) := dk_42 (dk_at dksL_law_40 23 rfl rfl)
theorem dL_law_1113 : decode cL_law 1113 = .ok (.iload 5, 2) := dk_21 5 (dk_at dksL_law_41 0 rfl rfl)
theorem dL_law_1115 : decode cL_law 1115 = .ok (.iconst 1, 1) := dk_4 (dk_at dksL_law_41 2 rfl rfl)
theorem dL_law_1116 : decode cL_law 1116 = .ok (.iadd, 1) := dk_96 (dk_at dksL_law_41 3 rfl rfl)
theorem dL_law_1117 : decode cL_law 1117 = .ok (.iaload, 1) := dk_46 (dk_at dksL_law_41 4 rfl rfl)
theorem dL_law_1118 : decode cL_law 1118 = .ok (.aload_n 0, 1) := dk_42 (dk_at dksL_law_41 5 rfl rfl)
theorem dL_law_1119 : decode cL_law 1119 = .ok (.iload 5, 2) := dk_21 5 (dk_at dksL_law_41 6 rfl rfl)
theorem dL_law_1121 : decode cL_law 1121 = .ok (.iconst 2, 1) := dk_5 (dk_at dksL_law_41 8 rfl rfl)
theorem dL_law_1122 : decode cL_law 1122 = .ok (.iadd, 1) := dk_96 (dk_at dksL_law_41 9 rfl rfl)
theorem dL_law_1123 : decode cL_law 1123 = .ok (.iaload, 1) := dk_46 (dk_at dksL_law_41 10 rfl rfl)
theorem dL_law_1124 : decode cL_law 1124 = .ok (.invokevirtual 188, 3) := dk_182 0 188 (dk_at dksL_law_41 11 rfl rfl)
theorem dL_law_1127 : decode cL_law 1127 = .ok (.istore 7, 2) := dk_54 7 (dk_at dksL_law_41 14 rfl rfl)
theorem dL_law_1129 : decode cL_law 1129 = .ok (.aload_n 2, 1) := dk_44 (dk_at dksL_law_41 16 rfl rfl)
theorem dL_law_1130 : decode cL_law 1130 = .ok (.invokevirtual 145, 3) := dk_182 0 145 (dk_at dksL_law_41 17 rfl rfl)
theorem dL_law_1133 : decode cL_law 1133 = .ok (.iload 6, 2) := dk_21 6 (dk_at dksL_law_41 20 rfl rfl)
theorem dL_law_1135 : decode cL_law 1135 = .ok (.if_icmp .eq 5, 3) := dk_159 0 5 (dk_at dksL_law_42 0 rfl rfl)
theorem dL_law_1138 : decode cL_law 1138 = .ok (.iconst 0, 1) := dk_3 (dk_at dksL_law_42 3 rfl rfl)
theorem dL_law_1139 : decode cL_law 1139 = .ok (.ireturn, 1) := dk_172 (dk_at dksL_law_42 4 rfl rfl)
theorem dL_law_1140 : decode cL_law 1140 = .ok (.iload 6, 2) := dk_21 6 (dk_at dksL_law_42 5 rfl rfl)
theorem dL_law_1142 : decode cL_law 1142 = .ok (.ifCond .ne 15, 3) := dk_154 0 15 (dk_at dksL_law_42 7 rfl rfl)
theorem dL_law_1145 : decode cL_law 1145 = .ok (.aload_n 3, 1) := dk_45 (dk_at dksL_law_42 10 rfl rfl)
theorem dL_law_1146 : decode cL_law 1146 = .ok (.iconst 0, 1) := dk_3 (dk_at dksL_law_42 11 rfl rfl)
theorem dL_law_1147 : decode cL_law 1147 = .ok (.laload, 1) := dk_47 (dk_at dksL_law_42 12 rfl rfl)
theorem dL_law_1148 : decode cL_law 1148 = .ok (.iload 7, 2) := dk_21 7 (dk_at dksL_law_42 13 rfl rfl)
theorem dL_law_1150 : decode cL_law 1150 = .ok (.i2l, 1) := dk_133 (dk_at dksL_law_42 15 rfl rfl)
theorem dL_law_1151 : decode cL_law 1151 = .ok (.lcmp, 1) := dk_148 (dk_at dksL_law_42 16 rfl rfl)
theorem dL_law_1152 : decode cL_law 1152 = .ok (.ifCond .eq 5, 3) := dk_153 0 5 (dk_at dksL_law_42 17 rfl rfl)
theorem dL_law_1155 : decode cL_law 1155 = .ok (.iconst 0, 1) := dk_3 (dk_at dksL_law_42 20 rfl rfl)
theorem dL_law_1156 : decode cL_law 1156 = .ok (.ireturn, 1) := dk_172 (dk_at dksL_law_42 21 rfl rfl)
theorem dL_law_1157 : decode cL_law 1157 = .ok (.goto 1424, 3) := dk_167 5 144 (dk_at dksL_law_43 0 rfl rfl)
theorem dL_law_1160 : decode cL_law 1160 = .ok (.aload_n 1, 1) := dk_43 (dk_at dksL_law_43 3 rfl rfl)
theorem dL_law_1161 : decode cL_law 1161 = .ok (.aload_n 0, 1) := dk_42 (dk_at dksL_law_43 4 rfl rfl)
theorem dL_law_1162 : decode cL_law 1162 = .ok (.iload 5, 2) := dk_21 5 (dk_at dksL_law_43 5 rfl rfl)
theorem dL_law_1164 : decode cL_law 1164 = .ok (.iconst 1, 1) := dk_4 (dk_at dksL_law_43 7 rfl rfl)
theorem dL_law_1165 : decode cL_law 1165 = .ok (.iadd, 1) := dk_96 (dk_at dksL_law_43 8 rfl rfl)
theorem dL_law_1166 : decode cL_law 1166 = .ok (.iaload, 1) := dk_46 (dk_at dksL_law_43 9 rfl rfl)
theorem dL_law_1167 : decode cL_law 1167 = .ok (.aload_n 3, 1) := dk_45 (dk_at dksL_law_43 10 rfl rfl)
theorem dL_law_1168 : decode cL_law 1168 = .ok (.invokestatic 189, 3) := dk_184 0 189 (dk_at dksL_law_43 11 rfl rfl)
theorem dL_law_1171 : decode cL_law 1171 = .ok (.istore 6, 2) := dk_54 6 (dk_at dksL_law_43 14 rfl rfl)
theorem dL_law_1173 : decode cL_law 1173 = .ok (.aload_n 2, 1) := dk_44 (dk_at dksL_law_43 16 rfl rfl)
theorem dL_law_1174 : decode cL_law 1174 = .ok (.aload_n 0, 1) := dk_42 (dk_at dksL_law_43 17 rfl rfl)
theorem dL_law_1175 : decode cL_law 1175 = .ok (.iload 5, 2) := dk_21 5 (dk_at dksL_law_43 18 rfl rfl)
theorem dL_law_1177 : decode cL_law 1177 = .ok (.iconst 1, 1) := dk_4 (dk_at dksL_law_43 20 rfl rfl)
theorem dL_law_1178 : decode cL_law 1178 = .ok (.iadd, 1) := dk_96 (dk_at dksL_law_43 21 rfl rfl)
theorem dL_law_1179 : decode cL_law 1179 = .ok (.iaload, 1) := dk_46 (dk_at dksL_law_43 22 rfl rfl)
theorem dL_law_1180 : decode cL_law 1180 = .ok (.invokevirtual 191, 3) := dk_182 0 191 (dk_at dksL_law_44 0 rfl rfl)
theorem dL_law_1183 : decode cL_law 1183 = .ok (.istore 7, 2) := dk_54 7 (dk_at dksL_law_44 3 rfl rfl)
theorem dL_law_1185 : decode cL_law 1185 = .ok (.aload_n 2, 1) := dk_44 (dk_at dksL_law_44 5 rfl rfl)
theorem dL_law_1186 : decode cL_law 1186 = .ok (.invokevirtual 145, 3) := dk_182 0 145 (dk_at dksL_law_44 6 rfl rfl)
theorem dL_law_1189 : decode cL_law 1189 = .ok (.iload 6, 2) := dk_21 6 (dk_at dksL_law_44 9 rfl rfl)
theorem dL_law_1191 : decode cL_law 1191 = .ok (.if_icmp .eq 5, 3) := dk_159 0 5 (dk_at dksL_law_44 11 rfl rfl)
theorem dL_law_1194 : decode cL_law 1194 = .ok (.iconst 0, 1) := dk_3 (dk_at dksL_law_44 14 rfl rfl)
theorem dL_law_1195 : decode cL_law 1195 = .ok (.ireturn, 1) := dk_172 (dk_at dksL_law_44 15 rfl rfl)
theorem dL_law_1196 : decode cL_law 1196 = .ok (.iload 6, 2) := dk_21 6 (dk_at dksL_law_44 16 rfl rfl)
theorem dL_law_1198 : decode cL_law 1198 = .ok (.ifCond .ne 15, 3) := dk_154 0 15 (dk_at dksL_law_44 18 rfl rfl)
theorem dL_law_1201 : decode cL_law 1201 = .ok (.aload_n 3, 1) := dk_45 (dk_at dksL_law_44 21 rfl rfl)
theorem dL_law_1202 : decode cL_law 1202 = .ok (.iconst 0, 1) := dk_3 (dk_at dksL_law_44 22 rfl rfl)
theorem dL_law_1203 : decode cL_law 1203 = .ok (.laload, 1) := dk_47 (dk_at dksL_law_44 23 rfl rfl)
theorem dL_law_1204 : decode cL_law 1204 = .ok (.iload 7, 2) := dk_21 7 (dk_at dksL_law_45 0 rfl rfl)
theorem dL_law_1206 : decode cL_law 1206 = .ok (.i2l, 1) := dk_133 (dk_at dksL_law_45 2 rfl rfl)
theorem dL_law_1207 : decode cL_law 1207 = .ok (.lcmp, 1) := dk_148 (dk_at dksL_law_45 3 rfl rfl)
theorem dL_law_1208 : decode cL_law 1208 = .ok (.ifCond .eq 5, 3) := dk_153 0 5 (dk_at dksL_law_45 4 rfl rfl)
theorem dL_law_1211 : decode cL_law 1211 = .ok (.iconst 0, 1) := dk_3 (dk_at dksL_law_45 7 rfl rfl)
theorem dL_law_1212 : decode cL_law 1212 = .ok (.ireturn, 1) := dk_172 (dk_at dksL_law_45 8 rfl rfl)
theorem dL_law_1213 : decode cL_law 1213 = .ok (.goto 1368, 3) := dk_167 5 88 (dk_at dksL_law_45 9 rfl rfl)
theorem dL_law_1216 : decode cL_law 1216 = .ok (.aload_n 1, 1) := dk_43 (dk_at dksL_law_45 12 rfl rfl)
theorem dL_law_1217 : decode cL_law 1217 = .ok (.aload_n 0, 1) := dk_42 (dk_at dksL_law_45 13 rfl rfl)
theorem dL_law_1218 : decode cL_law 1218 = .ok (.iload 5, 2) := dk_21 5 (dk_at dksL_law_45 14 rfl rfl)
theorem dL_law_1220 : decode cL_law 1220 = .ok (.iconst 1, 1) := dk_4 (dk_at dksL_law_45 16 rfl rfl)
theorem dL_law_1221 : decode cL_law 1221 = .ok (.iadd, 1) := dk_96 (dk_at dksL_law_45 17 rfl rfl)
theorem dL_law_1222 : decode cL_law 1222 = .ok (.iaload, 1) := dk_46 (dk_at dksL_law_45 18 rfl rfl)
theorem dL_law_1223 : decode cL_law 1223 = .ok (.aload_n 0, 1) := dk_42 (dk_at dksL_law_45 19 rfl rfl)
theorem dL_law_1224 : decode cL_law 1224 = .ok (.iload 5, 2) := dk_21 5 (dk_at dksL_law_45 20 rfl rfl)
theorem dL_law_1226 : decode cL_law 1226 = .ok (.iconst 2, 1) := dk_5 (dk_at dksL_law_45 22 rfl rfl)
theorem dL_law_1227 : decode cL_law 1227 = .ok (.iadd, 1) := dk_96 (dk_at dksL_law_45 23 rfl rfl)
theorem dL_law_1228 : decode cL_law 1228 = .ok (.iaload, 1) := dk_46 (dk_at dksL_law_46 0 rfl rfl)
theorem dL_law_1229 : decode cL_law 1229 = .ok (.aload_n 0, 1) := dk_42 (dk_at dksL_law_46 1 rfl rfl)
theorem dL_law_1230 : decode cL_law 1230 = .ok (.iload 5, 2) := dk_21 5 (dk_at dksL_law_46 2 rfl rfl)
theorem dL_law_1232 : decode cL_law 1232 = .ok (.iconst 3, 1) := dk_6 (dk_at dksL_law_46 4 rfl rfl)
theorem dL_law_1233 : decode cL_law 1233 = .ok (.iadd, 1) := dk_96 (dk_at dksL_law_46 5 rfl rfl)
theorem dL_law_1234 : decode cL_law 1234 = .ok (.iaload, 1) := dk_46 (dk_at dksL_law_46 6 rfl rfl)
theorem dL_law_1235 : decode cL_law 1235 = .ok (.aload_n 0, 1) := dk_42 (dk_at dksL_law_46 7 rfl rfl)
theorem dL_law_1236 : decode cL_law 1236 = .ok (.iload 5, 2) := dk_21 5 (dk_at dksL_law_46 8 rfl rfl)
theorem dL_law_1238 : decode cL_law 1238 = .ok (.iconst 4, 1) := dk_7 (dk_at dksL_law_46 10 rfl rfl)
theorem dL_law_1239 : decode cL_law 1239 = .ok (.iadd, 1) := dk_96 (dk_at dksL_law_46 11 rfl rfl)
theorem dL_law_1240 : decode cL_law 1240 = .ok (.iaload, 1) := dk_46 (dk_at dksL_law_46 12 rfl rfl)
theorem dL_law_1241 : decode cL_law 1241 = .ok (.aload_n 3, 1) := dk_45 (dk_at dksL_law_46 13 rfl rfl)
theorem dL_law_1242 : decode cL_law 1242 = .ok (.invokestatic 192, 3) := dk_184 0 192 (dk_at dksL_law_46 14 rfl rfl)
theorem dL_law_1245 : decode cL_law 1245 = .ok (.istore 6, 2) := dk_54 6 (dk_at dksL_law_46 17 rfl rfl)
theorem dL_law_1247 : decode cL_law 1247 = .ok (.aload_n 2, 1) := dk_44 (dk_at dksL_law_46 19 rfl rfl)
theorem dL_law_1248 : decode cL_law 1248 = .ok (.aload_n 0, 1) := dk_42 (dk_at dksL_law_46 20 rfl rfl)
theorem dL_law_1249 : decode cL_law 1249 = .ok (.iload 5, 2) := dk_21 5 (dk_at dksL_law_46 21 rfl rfl)
theorem dL_law_1251 : decode cL_law 1251 = .ok (.iconst 1, 1) := dk_4 (dk_at dksL_law_46 23 rfl rfl)
theorem dL_law_1252 : decode cL_law 1252 = .ok (.iadd, 1) := dk_96 (dk_at dksL_law_47 0 rfl rfl)
theorem dL_law_1253 : decode cL_law 1253 = .ok (.iaload, 1) := dk_46 (dk_at dksL_law_47 1 rfl rfl)
theorem dL_law_1254 : decode cL_law 1254 = .ok (.aload_n 0, 1) := dk_42 (dk_at dksL_law_47 2 rfl rfl)
theorem dL_law_1255 : decode cL_law 1255 = .ok (.iload 5, 2) := dk_21 5 (dk_at dksL_law_47 3 rfl rfl)
theorem dL_law_1257 : decode cL_law 1257 = .ok (.iconst 2, 1) := dk_5 (dk_at dksL_law_47 5 rfl rfl)
theorem dL_law_1258 : decode cL_law 1258 = .ok (.iadd, 1) := dk_96 (dk_at dksL_law_47 6 rfl rfl)
theorem dL_law_1259 : decode cL_law 1259 = .ok (.iaload, 1) := dk_46 (dk_at dksL_law_47 7 rfl rfl)
theorem dL_law_1260 : decode cL_law 1260 = .ok (.aload_n 0, 1) := dk_42 (dk_at dksL_law_47 8 rfl rfl)
theorem dL_law_1261 : decode cL_law 1261 = .ok (.iload 5, 2) := dk_21 5 (dk_at dksL_law_47 9 rfl rfl)
theorem dL_law_1263 : decode cL_law 1263 = .ok (.iconst 3, 1) := dk_6 (dk_at dksL_law_47 11 rfl rfl)
theorem dL_law_1264 : decode cL_law 1264 = .ok (.iadd, 1) := dk_96 (dk_at dksL_law_47 12 rfl rfl)
theorem dL_law_1265 : decode cL_law 1265 = .ok (.iaload, 1) := dk_46 (dk_at dksL_law_47 13 rfl rfl)
theorem dL_law_1266 : decode cL_law 1266 = .ok (.aload_n 0, 1) := dk_42 (dk_at dksL_law_47 14 rfl rfl)
theorem dL_law_1267 : decode cL_law 1267 = .ok (.iload 5, 2) := dk_21 5 (dk_at dksL_law_47 15 rfl rfl)
theorem dL_law_1269 : decode cL_law 1269 = .ok (.iconst 4, 1) := dk_7 (dk_at dksL_law_47 17 rfl rfl)
theorem dL_law_1270 : decode cL_law 1270 = .ok (.iadd, 1) := dk_96 (dk_at dksL_law_47 18 rfl rfl)
theorem dL_law_1271 : decode cL_law 1271 = .ok (.iaload, 1) := dk_46 (dk_at dksL_law_47 19 rfl rfl)
theorem dL_law_1272 : decode cL_law 1272 = .ok (.invokevirtual 194, 3) := dk_182 0 194 (dk_at dksL_law_47 20 rfl rfl)
theorem dL_law_1275 : decode cL_law 1275 = .ok (.istore 7, 2) := dk_54 7 (dk_at dksL_law_48 0 rfl rfl)
theorem dL_law_1277 : decode cL_law 1277 = .ok (.aload_n 2, 1) := dk_44 (dk_at dksL_law_48 2 rfl rfl)
theorem dL_law_1278 : decode cL_law 1278 = .ok (.invokevirtual 145, 3) := dk_182 0 145 (dk_at dksL_law_48 3 rfl rfl)
theorem dL_law_1281 : decode cL_law 1281 = .ok (.iload 6, 2) := dk_21 6 (dk_at dksL_law_48 6 rfl rfl)
theorem dL_law_1283 : decode cL_law 1283 = .ok (.if_icmp .eq 5, 3) := dk_159 0 5 (dk_at dksL_law_48 8 rfl rfl)
theorem dL_law_1286 : decode cL_law 1286 = .ok (.iconst 0, 1) := dk_3 (dk_at dksL_law_48 11 rfl rfl)
theorem dL_law_1287 : decode cL_law 1287 = .ok (.ireturn, 1) := dk_172 (dk_at dksL_law_48 12 rfl rfl)
theorem dL_law_1288 : decode cL_law 1288 = .ok (.iload 6, 2) := dk_21 6 (dk_at dksL_law_48 13 rfl rfl)
theorem dL_law_1290 : decode cL_law 1290 = .ok (.ifCond .ne 22, 3) := dk_154 0 22 (dk_at dksL_law_48 15 rfl rfl)
theorem dL_law_1293 : decode cL_law 1293 = .ok (.aload_n 3, 1) := dk_45 (dk_at dksL_law_48 18 rfl rfl)
theorem dL_law_1294 : decode cL_law 1294 = .ok (.iconst 0, 1) := dk_3 (dk_at dksL_law_48 19 rfl rfl)
theorem dL_law_1295 : decode cL_law 1295 = .ok (.laload, 1) := dk_47 (dk_at dksL_law_48 20 rfl rfl)
theorem dL_law_1296 : decode cL_law 1296 = .ok (.iload 7, 2) := dk_21 7 (dk_at dksL_law_48 21 rfl rfl)
theorem dL_law_1298 : decode cL_law 1298 = .ok (.ifCond .eq 7, 3) := dk_153 0 7 (dk_at dksL_law_49 0 rfl rfl)
theorem dL_law_1301 : decode cL_law 1301 = .ok (.lconst 1, 1) := dk_10 (dk_at dksL_law_49 3 rfl rfl)
theorem dL_law_1302 : decode cL_law 1302 = .ok (.goto 4, 3) := dk_167 0 4 (dk_at dksL_law_49 4 rfl rfl)
theorem dL_law_1305 : decode cL_law 1305 = .ok (.lconst 0, 1) := dk_9 (dk_at dksL_law_49 7 rfl rfl)
theorem dL_law_1306 : decode cL_law 1306 = .ok (.lcmp, 1) := dk_148 (dk_at dksL_law_49 8 rfl rfl)
theorem dL_law_1307 : decode cL_law 1307 = .ok (.ifCond .eq 5, 3) := dk_153 0 5 (dk_at dksL_law_49 9 rfl rfl)
theorem dL_law_1310 : decode cL_law 1310 = .ok (.iconst 0, 1) := dk_3 (dk_at dksL_law_49 12 rfl rfl)
theorem dL_law_1311 : decode cL_law 1311 = .ok (.ireturn, 1) := dk_172 (dk_at dksL_law_49 13 rfl rfl)
theorem dL_law_1312 : decode cL_law 1312 = .ok (.goto 1269, 3) := dk_167 4 245 (dk_at dksL_law_49 14 rfl rfl)
theorem dL_law_1315 : decode cL_law 1315 = .ok (.aload_n 1, 1) := dk_43 (dk_at dksL_law_49 17 rfl rfl)
theorem dL_law_1316 : decode cL_law 1316 = .ok (.aload_n 0, 1) := dk_42 (dk_at dksL_law_49 18 rfl rfl)
theorem dL_law_1317 : decode cL_law 1317 = .ok (.iload 5, 2) := dk_21 5 (dk_at dksL_law_49 19 rfl rfl)
theorem dL_law_1319 : decode cL_law 1319 = .ok (.iconst 1, 1) := dk_4 (dk_at dksL_law_49 21 rfl rfl)
theorem dL_law_1320 : decode cL_law 1320 = .ok (.iadd, 1) := dk_96 (dk_at dksL_law_49 22 rfl rfl)
theorem dL_law_1321 : decode cL_law 1321 = .ok (.iaload, 1) := dk_46 (dk_at dksL_law_49 23 rfl rfl)
theorem dL_law_1322 : decode cL_law 1322 = .ok (.aload_n 0, 1) := dk_42 (dk_at dksL_law_50 0 rfl rfl)
theorem dL_law_1323 : decode cL_law 1323 = .ok (.iload 5, 2) := dk_21 5 (dk_at dksL_law_50 1 rfl rfl)
theorem dL_law_1325 : decode cL_law 1325 = .ok (.iconst 2, 1) := dk_5 (dk_at dksL_law_50 3 rfl rfl)
theorem dL_law_1326 : decode cL_law 1326 = .ok (.iadd, 1) := dk_96 (dk_at dksL_law_50 4 rfl rfl)
theorem dL_law_1327 : decode cL_law 1327 = .ok (.iaload, 1) := dk_46 (dk_at dksL_law_50 5 rfl rfl)
theorem dL_law_1328 : decode cL_law 1328 = .ok (.aload_n 0, 1) := dk_42 (dk_at dksL_law_50 6 rfl rfl)
theorem dL_law_1329 : decode cL_law 1329 = .ok (.iload 5, 2) := dk_21 5 (dk_at dksL_law_50 7 rfl rfl)
theorem dL_law_1331 : decode cL_law 1331 = .ok (.iconst 3, 1) := dk_6 (dk_at dksL_law_50 9 rfl rfl)
theorem dL_law_1332 : decode cL_law 1332 = .ok (.iadd, 1) := dk_96 (dk_at dksL_law_50 10 rfl rfl)
theorem dL_law_1333 : decode cL_law 1333 = .ok (.iaload, 1) := dk_46 (dk_at dksL_law_50 11 rfl rfl)
theorem dL_law_1334 : decode cL_law 1334 = .ok (.aload_n 0, 1) := dk_42 (dk_at dksL_law_50 12 rfl rfl)
theorem dL_law_1335 : decode cL_law 1335 = .ok (.iload 5, 2) := dk_21 5 (dk_at dksL_law_50 13 rfl rfl)
theorem dL_law_1337 : decode cL_law 1337 = .ok (.iconst 4, 1) := dk_7 (dk_at dksL_law_50 15 rfl rfl)
theorem dL_law_1338 : decode cL_law 1338 = .ok (.iadd, 1) := dk_96 (dk_at dksL_law_50 16 rfl rfl)
theorem dL_law_1339 : decode cL_law 1339 = .ok (.iaload, 1) := dk_46 (dk_at dksL_law_50 17 rfl rfl)
theorem dL_law_1340 : decode cL_law 1340 = .ok (.aload_n 3, 1) := dk_45 (dk_at dksL_law_50 18 rfl rfl)
theorem dL_law_1341 : decode cL_law 1341 = .ok (.invokestatic 195, 3) := dk_184 0 195 (dk_at dksL_law_50 19 rfl rfl)
theorem dL_law_1344 : decode cL_law 1344 = .ok (.istore 6, 2) := dk_54 6 (dk_at dksL_law_50 22 rfl rfl)
theorem dL_law_1346 : decode cL_law 1346 = .ok (.aload_n 2, 1) := dk_44 (dk_at dksL_law_51 0 rfl rfl)
theorem dL_law_1347 : decode cL_law 1347 = .ok (.aload_n 0, 1) := dk_42 (dk_at dksL_law_51 1 rfl rfl)
theorem dL_law_1348 : decode cL_law 1348 = .ok (.iload 5, 2) := dk_21 5 (dk_at dksL_law_51 2 rfl rfl)
theorem dL_law_1350 : decode cL_law 1350 = .ok (.iconst 1, 1) := dk_4 (dk_at dksL_law_51 4 rfl rfl)
theorem dL_law_1351 : decode cL_law 1351 = .ok (.iadd, 1) := dk_96 (dk_at dksL_law_51 5 rfl rfl)
theorem dL_law_1352 : decode cL_law 1352 = .ok (.iaload, 1) := dk_46 (dk_at dksL_law_51 6 rfl rfl)
theorem dL_law_1353 : decode cL_law 1353 = .ok (.aload_n 0, 1) := dk_42 (dk_at dksL_law_51 7 rfl rfl)
theorem dL_law_1354 : decode cL_law 1354 = .ok (.iload 5, 2) := dk_21 5 (dk_at dksL_law_51 8 rfl rfl)
theorem dL_law_1356 : decode cL_law 1356 = .ok (.iconst 2, 1) := dk_5 (dk_at dksL_law_51 10 rfl rfl)
theorem dL_law_1357 : decode cL_law 1357 = .ok (.iadd, 1) := dk_96 (dk_at dksL_law_51 11 rfl rfl)
theorem dL_law_1358 : decode cL_law 1358 = .ok (.iaload, 1) := dk_46 (dk_at dksL_law_51 12 rfl rfl)
theorem dL_law_1359 : decode cL_law 1359 = .ok (.aload_n 0, 1) := dk_42 (dk_at dksL_law_51 13 rfl rfl)
theorem dL_law_1360 : decode cL_law 1360 = .ok (.iload 5, 2) := dk_21 5 (dk_at dksL_law_51 14 rfl rfl)
theorem dL_law_1362 : decode cL_law 1362 = .ok (.iconst 3, 1) := dk_6 (dk_at dksL_law_51 16 rfl rfl)
theorem dL_law_1363 : decode cL_law 1363 = .ok (.iadd, 1) := dk_96 (dk_at dksL_law_51 17 rfl rfl)
theorem dL_law_1364 : decode cL_law 1364 = .ok (.iaload, 1) := dk_46 (dk_at dksL_law_51 18 rfl rfl)
theorem dL_law_1365 : decode cL_law 1365 = .ok (.aload_n 0, 1) := dk_42 (dk_at dksL_law_51 19 rfl rfl)
theorem dL_law_1366 : decode cL_law 1366 = .ok (.iload 5, 2) := dk_21 5 (dk_at dksL_law_51 20 rfl rfl)
theorem dL_law_1368 : decode cL_law 1368 = .ok (.iconst 4, 1) := dk_7 (dk_at dksL_law_51 22 rfl rfl)
theorem dL_law_1369 : decode cL_law 1369 = .ok (.iadd, 1) := dk_96 (dk_at dksL_law_51 23 rfl rfl)
theorem dL_law_1370 : decode cL_law 1370 = .ok (.iaload, 1) := dk_46 (dk_at dksL_law_52 0 rfl rfl)
theorem dL_law_1371 : decode cL_law 1371 = .ok (.invokevirtual 197, 3) := dk_182 0 197 (dk_at dksL_law_52 1 rfl rfl)
theorem dL_law_1374 : decode cL_law 1374 = .ok (.istore 7, 2) := dk_54 7 (dk_at dksL_law_52 4 rfl rfl)
theorem dL_law_1376 : decode cL_law 1376 = .ok (.aload_n 2, 1) := dk_44 (dk_at dksL_law_52 6 rfl rfl)
theorem dL_law_1377 : decode cL_law 1377 = .ok (.invokevirtual 145, 3) := dk_182 0 145 (dk_at dksL_law_52 7 rfl rfl)
theorem dL_law_1380 : decode cL_law 1380 = .ok (.iload 6, 2) := dk_21 6 (dk_at dksL_law_52 10 rfl rfl)
theorem dL_law_1382 : decode cL_law 1382 = .ok (.if_icmp .eq 5, 3) := dk_159 0 5 (dk_at dksL_law_52 12 rfl rfl)
theorem dL_law_1385 : decode cL_law 1385 = .ok (.iconst 0, 1) := dk_3 (dk_at dksL_law_52 15 rfl rfl)
theorem dL_law_1386 : decode cL_law 1386 = .ok (.ireturn, 1) := dk_172 (dk_at dksL_law_52 16 rfl rfl)
theorem dL_law_1387 : decode cL_law 1387 = .ok (.iload 6, 2) := dk_21 6 (dk_at dksL_law_52 17 rfl rfl)
theorem dL_law_1389 : decode cL_law 1389 = .ok (.ifCond .ne 22, 3) := dk_154 0 22 (dk_at dksL_law_52 19 rfl rfl)
theorem dL_law_1392 : decode cL_law 1392 = .ok (.aload_n 3, 1) := dk_45 (dk_at dksL_law_52 22 rfl rfl)
theorem dL_law_1393 : decode cL_law 1393 = .ok (.iconst 0, 1) := dk_3 (dk_at dksL_law_52 23 rfl rfl)
theorem dL_law_1394 : decode cL_law 1394 = .ok (.laload, 1) := dk_47 (dk_at dksL_law_53 0 rfl rfl)
theorem dL_law_1395 : decode cL_law 1395 = .ok (.iload 7, 2) := dk_21 7 (dk_at dksL_law_53 1 rfl rfl)
theorem dL_law_1397 : decode cL_law 1397 = .ok (.ifCond .eq 7, 3) := dk_153 0 7 (dk_at dksL_law_53 3 rfl rfl)
theorem dL_law_1400 : decode cL_law 1400 = .ok (.lconst 1, 1) := dk_10 (dk_at dksL_law_53 6 rfl rfl)
theorem dL_law_1401 : decode cL_law 1401 = .ok (.goto 4, 3) := dk_167 0 4 (dk_at dksL_law_53 7 rfl rfl)
theorem dL_law_1404 : decode cL_law 1404 = .ok (.lconst 0, 1) := dk_9 (dk_at dksL_law_53 10 rfl rfl)
theorem dL_law_1405 : decode cL_law 1405 = .ok (.lcmp, 1) := dk_148 (dk_at dksL_law_53 11 rfl rfl)
theorem dL_law_1406 : decode cL_law 1406 = .ok (.ifCond .eq 5, 3) := dk_153 0 5 (dk_at dksL_law_53 12 rfl rfl)
theorem dL_law_1409 : decode cL_law 1409 = .ok (.iconst 0, 1) := dk_3 (dk_at dksL_law_53 15 rfl rfl)
theorem dL_law_1410 : decode cL_law 1410 = .ok (.ireturn, 1) := dk_172 (dk_at dksL_law_53 16 rfl rfl)
theorem dL_law_1411 : decode cL_law 1411 = .ok (.goto 1170, 3) := dk_167 4 146 (dk_at dksL_law_53 17 rfl rfl)
theorem dL_law_1414 : decode cL_law 1414 = .ok (.aload_n 1, 1) := dk_43 (dk_at dksL_law_53 20 rfl rfl)
theorem dL_law_1415 : decode cL_law 1415 = .ok (.aload_n 0, 1) := dk_42 (dk_at dksL_law_53 21 rfl rfl)
theorem dL_law_1416 : decode cL_law 1416 = .ok (.iload 5, 2) := dk_21 5 (dk_at dksL_law_53 22 rfl rfl)
theorem dL_law_1418 : decode cL_law 1418 = .ok (.iconst 1, 1) := dk_4 (dk_at dksL_law_54 0 rfl rfl)
theorem dL_law_1419 : decode cL_law 1419 = .ok (.iadd, 1) := dk_96 (dk_at dksL_law_54 1 rfl rfl)
theorem dL_law_1420 : decode cL_law 1420 = .ok (.iaload, 1) := dk_46 (dk_at dksL_law_54 2 rfl rfl)
theorem dL_law_1421 : decode cL_law 1421 = .ok (.aload_n 0, 1) := dk_42 (dk_at dksL_law_54 3 rfl rfl)
theorem dL_law_1422 : decode cL_law 1422 = .ok (.iload 5, 2) := dk_21 5 (dk_at dksL_law_54 4 rfl rfl)
theorem dL_law_1424 : decode cL_law 1424 = .ok (.iconst 2, 1) := dk_5 (dk_at dksL_law_54 6 rfl rfl)
theorem dL_law_1425 : decode cL_law 1425 = .ok (.iadd, 1) := dk_96 (dk_at dksL_law_54 7 rfl rfl)
theorem dL_law_1426 : decode cL_law 1426 = .ok (.iaload, 1) := dk_46 (dk_at dksL_law_54 8 rfl rfl)
theorem dL_law_1427 : decode cL_law 1427 = .ok (.aload_n 0, 1) := dk_42 (dk_at dksL_law_54 9 rfl rfl)
theorem dL_law_1428 : decode cL_law 1428 = .ok (.iload 5, 2) := dk_21 5 (dk_at dksL_law_54 10 rfl rfl)
theorem dL_law_1430 : decode cL_law 1430 = .ok (.iconst 3, 1) := dk_6 (dk_at dksL_law_54 12 rfl rfl)
theorem dL_law_1431 : decode cL_law 1431 = .ok (.iadd, 1) := dk_96 (dk_at dksL_law_54 13 rfl rfl)
theorem dL_law_1432 : decode cL_law 1432 = .ok (.iaload, 1) := dk_46 (dk_at dksL_law_54 14 rfl rfl)
theorem dL_law_1433 : decode cL_law 1433 = .ok (.aload_n 3, 1) := dk_45 (dk_at dksL_law_54 15 rfl rfl)
theorem dL_law_1434 : decode cL_law 1434 = .ok (.invokestatic 198, 3) := dk_184 0 198 (dk_at dksL_law_54 16 rfl rfl)
theorem dL_law_1437 : decode cL_law 1437 = .ok (.istore 6, 2) := dk_54 6 (dk_at dksL_law_54 19 rfl rfl)
theorem dL_law_1439 : decode cL_law 1439 = .ok (.aload_n 2, 1) := dk_44 (dk_at dksL_law_54 21 rfl rfl)
theorem dL_law_1440 : decode cL_law 1440 = .ok (.aload_n 0, 1) := dk_42 (dk_at dksL_law_54 22 rfl rfl)
theorem dL_law_1441 : decode cL_law 1441 = .ok (.iload 5, 2) := dk_21 5 (dk_at dksL_law_55 0 rfl rfl)
theorem dL_law_1443 : decode cL_law 1443 = .ok (.iconst 1, 1) := dk_4 (dk_at dksL_law_55 2 rfl rfl)
theorem dL_law_1444 : decode cL_law 1444 = .ok (.iadd, 1) := dk_96 (dk_at dksL_law_55 3 rfl rfl)
theorem dL_law_1445 : decode cL_law 1445 = .ok (.iaload, 1) := dk_46 (dk_at dksL_law_55 4 rfl rfl)
theorem dL_law_1446 : decode cL_law 1446 = .ok (.aload_n 0, 1) := dk_42 (dk_at dksL_law_55 5 rfl rfl)
theorem dL_law_1447 : decode cL_law 1447 = .ok (.iload 5, 2) := dk_21 5 (dk_at dksL_law_55 6 rfl rfl)
theorem dL_law_1449 : decode cL_law 1449 = .ok (.iconst 2, 1) := dk_5 (dk_at dksL_law_55 8 rfl rfl)
theorem dL_law_1450 : decode cL_law 1450 = .ok (.iadd, 1) := dk_96 (dk_at dksL_law_55 9 rfl rfl)
theorem dL_law_1451 : decode cL_law 1451 = .ok (.iaload, 1) := dk_46 (dk_at dksL_law_55 10 rfl rfl)
theorem dL_law_1452 : decode cL_law 1452 = .ok (.aload_n 0, 1) := dk_42 (dk_at dksL_law_55 11 rfl rfl)
theorem dL_law_1453 : decode cL_law 1453 = .ok (.iload 5, 2) := dk_21 5 (dk_at dksL_law_55 12 rfl rfl)
theorem dL_law_1455 : decode cL_law 1455 = .ok (.iconst 3, 1) := dk_6 (dk_at dksL_law_55 14 rfl rfl)
theorem dL_law_1456 : decode cL_law 1456 = .ok (.iadd, 1) := dk_96 (dk_at dksL_law_55 15 rfl rfl)
theorem dL_law_1457 : decode cL_law 1457 = .ok (.iaload, 1) := dk_46 (dk_at dksL_law_55 16 rfl rfl)
theorem dL_law_1458 : decode cL_law 1458 = .ok (.invokevirtual 200, 3) := dk_182 0 200 (dk_at dksL_law_55 17 rfl rfl)
theorem dL_law_1461 : decode cL_law 1461 = .ok (.istore 7, 2) := dk_54 7 (dk_at dksL_law_55 20 rfl rfl)
theorem dL_law_1463 : decode cL_law 1463 = .ok (.aload_n 2, 1) := dk_44 (dk_at dksL_law_55 22 rfl rfl)
theorem dL_law_1464 : decode cL_law 1464 = .ok (.invokevirtual 145, 3) := dk_182 0 145 (dk_at dksL_law_56 0 rfl rfl)
theorem dL_law_1467 : decode cL_law 1467 = .ok (.iload 6, 2) := dk_21 6 (dk_at dksL_law_56 3 rfl rfl)
theorem dL_law_1469 : decode cL_law 1469 = .ok (.if_icmp .eq 5, 3) := dk_159 0 5 (dk_at dksL_law_56 5 rfl rfl)
theorem dL_law_1472 : decode cL_law 1472 = .ok (.iconst 0, 1) := dk_3 (dk_at dksL_law_56 8 rfl rfl)
theorem dL_law_1473 : decode cL_law 1473 = .ok (.ireturn, 1) := dk_172 (dk_at dksL_law_56 9 rfl rfl)
theorem dL_law_1474 : decode cL_law 1474 = .ok (.iload 6, 2) := dk_21 6 (dk_at dksL_law_56 10 rfl rfl)
theorem dL_law_1476 : decode cL_law 1476 = .ok (.ifCond .ne 15, 3) := dk_154 0 15 (dk_at dksL_law_56 12 rfl rfl)
theorem dL_law_1479 : decode cL_law 1479 = .ok (.aload_n 3, 1) := dk_45 (dk_at dksL_law_56 15 rfl rfl)
theorem dL_law_1480 : decode cL_law 1480 = .ok (.iconst 0, 1) := dk_3 (dk_at dksL_law_56 16 rfl rfl)
theorem dL_law_1481 : decode cL_law 1481 = .ok (.laload, 1) := dk_47 (dk_at dksL_law_56 17 rfl rfl)
theorem dL_law_1482 : decode cL_law 1482 = .ok (.iload 7, 2) := dk_21 7 (dk_at dksL_law_56 18 rfl rfl)
theorem dL_law_1484 : decode cL_law 1484 = .ok (.i2l, 1) := dk_133 (dk_at dksL_law_56 20 rfl rfl)
theorem dL_law_1485 : decode cL_law 1485 = .ok (.lcmp, 1) := dk_148 (dk_at dksL_law_56 21 rfl rfl)
theorem dL_law_1486 : decode cL_law 1486 = .ok (.ifCond .eq 5, 3) := dk_153 0 5 (dk_at dksL_law_57 0 rfl rfl)
theorem dL_law_1489 : decode cL_law 1489 = .ok (.iconst 0, 1) := dk_3 (dk_at dksL_law_57 3 rfl rfl)
theorem dL_law_1490 : decode cL_law 1490 = .ok (.ireturn, 1) := dk_172 (dk_at dksL_law_57 4 rfl rfl)
theorem dL_law_1491 : decode cL_law 1491 = .ok (.goto 1090, 3) := dk_167 4 66 (dk_at dksL_law_57 5 rfl rfl)
theorem dL_law_1494 : decode cL_law 1494 = .ok (.aload_n 1, 1) := dk_43 (dk_at dksL_law_57 8 rfl rfl)
theorem dL_law_1495 : decode cL_law 1495 = .ok (.aload_n 0, 1) := dk_42 (dk_at dksL_law_57 9 rfl rfl)
theorem dL_law_1496 : decode cL_law 1496 = .ok (.iload 5, 2) := dk_21 5 (dk_at dksL_law_57 10 rfl rfl)
theorem dL_law_1498 : decode cL_law 1498 = .ok (.iconst 1, 1) := dk_4 (dk_at dksL_law_57 12 rfl rfl)
theorem dL_law_1499 : decode cL_law 1499 = .ok (.iadd, 1) := dk_96 (dk_at dksL_law_57 13 rfl rfl)
theorem dL_law_1500 : decode cL_law 1500 = .ok (.iaload, 1) := dk_46 (dk_at dksL_law_57 14 rfl rfl)
theorem dL_law_1501 : decode cL_law 1501 = .ok (.aload_n 3, 1) := dk_45 (dk_at dksL_law_57 15 rfl rfl)
theorem dL_law_1502 : decode cL_law 1502 = .ok (.invokestatic 201, 3) := dk_184 0 201 (dk_at dksL_law_57 16 rfl rfl)
theorem dL_law_1505 : decode cL_law 1505 = .ok (.istore 6, 2) := dk_54 6 (dk_at dksL_law_57 19 rfl rfl)
theorem dL_law_1507 : decode cL_law 1507 = .ok (.aload_n 2, 1) := dk_44 (dk_at dksL_law_57 21 rfl rfl)
theorem dL_law_1508 : decode cL_law 1508 = .ok (.aload_n 0, 1) := dk_42 (dk_at dksL_law_57 22 rfl rfl)
theorem dL_law_1509 : decode cL_law 1509 = .ok (.iload 5, 2) := dk_21 5 (dk_at dksL_law_58 0 rfl rfl)
theorem dL_law_1511 : decode cL_law 1511 = .ok (.iconst 1, 1) := dk_4 (dk_at dksL_law_58 2 rfl rfl)
theorem dL_law_1512 : decode cL_law 1512 = .ok (.iadd, 1) := dk_96 (dk_at dksL_law_58 3 rfl rfl)
theorem dL_law_1513 : decode cL_law 1513 = .ok (.iaload, 1) := dk_46 (dk_at dksL_law_58 4 rfl rfl)
theorem dL_law_1514 : decode cL_law 1514 = .ok (.invokevirtual 203, 3) := dk_182 0 203 (dk_at dksL_law_58 5 rfl rfl)
theorem dL_law_1517 : decode cL_law 1517 = .ok (.istore 7, 2) := dk_54 7 (dk_at dksL_law_58 8 rfl rfl)
theorem dL_law_1519 : decode cL_law 1519 = .ok (.aload_n 2, 1) := dk_44 (dk_at dksL_law_58 10 rfl rfl)
theorem dL_law_1520 : decode cL_law 1520 = .ok (.invokevirtual 145, 3) := dk_182 0 145 (dk_at dksL_law_58 11 rfl rfl)
theorem dL_law_1523 : decode cL_law 1523 = .ok (.iload 6, 2) := dk_21 6 (dk_at dksL_law_58 14 rfl rfl)
theorem dL_law_1525 : decode cL_law 1525 = .ok (.if_icmp .eq 5, 3) := dk_159 0 5 (dk_at dksL_law_58 16 rfl rfl)
theorem dL_law_1528 : decode cL_law 1528 = .ok (.iconst 0, 1) := dk_3 (dk_at dksL_law_58 19 rfl rfl)
theorem dL_law_1529 : decode cL_law 1529 = .ok (.ireturn, 1) := dk_172 (dk_at dksL_law_58 20 rfl rfl)
theorem dL_law_1530 : decode cL_law 1530 = .ok (.iload 6, 2) := dk_21 6 (dk_at dksL_law_58 21 rfl rfl)
theorem dL_law_1532 : decode cL_law 1532 = .ok (.ifCond .ne 15, 3) := dk_154 0 15 (dk_at dksL_law_59 0 rfl rfl)
theorem dL_law_1535 : decode cL_law 1535 = .ok (.aload_n 3, 1) := dk_45 (dk_at dksL_law_59 3 rfl rfl)
theorem dL_law_1536 : decode cL_law 1536 = .ok (.iconst 0, 1) := dk_3 (dk_at dksL_law_59 4 rfl rfl)
theorem dL_law_1537 : decode cL_law 1537 = .ok (.laload, 1) := dk_47 (dk_at dksL_law_59 5 rfl rfl)
theorem dL_law_1538 : decode cL_law 1538 = .ok (.iload 7, 2) := dk_21 7 (dk_at dksL_law_59 6 rfl rfl)
theorem dL_law_1540 : decode cL_law 1540 = .ok (.i2l, 1) := dk_133 (dk_at dksL_law_59 8 rfl rfl)
theorem dL_law_1541 : decode cL_law 1541 = .ok (.lcmp, 1) := dk_148 (dk_at dksL_law_59 9 rfl rfl)
theorem dL_law_1542 : decode cL_law 1542 = .ok (.ifCond .eq 5, 3) := dk_153 0 5 (dk_at dksL_law_59 10 rfl rfl)
theorem dL_law_1545 : decode cL_law 1545 = .ok (.iconst 0, 1) := dk_3 (dk_at dksL_law_59 13 rfl rfl)
theorem dL_law_1546 : decode cL_law 1546 = .ok (.ireturn, 1) := dk_172 (dk_at dksL_law_59 14 rfl rfl)
theorem dL_law_1547 : decode cL_law 1547 = .ok (.goto 1034, 3) := dk_167 4 10 (dk_at dksL_law_59 15 rfl rfl)
theorem dL_law_1550 : decode cL_law 1550 = .ok (.aload_n 1, 1) := dk_43 (dk_at dksL_law_59 18 rfl rfl)
theorem dL_law_1551 : decode cL_law 1551 = .ok (.aload_n 0, 1) := dk_42 (dk_at dksL_law_59 19 rfl rfl)
theorem dL_law_1552 : decode cL_law 1552 = .ok (.iload 5, 2) := dk_21 5 (dk_at dksL_law_59 20 rfl rfl)
theorem dL_law_1554 : decode cL_law 1554 = .ok (.iconst 1, 1) := dk_4 (dk_at dksL_law_59 22 rfl rfl)
theorem dL_law_1555 : decode cL_law 1555 = .ok (.iadd, 1) := dk_96 (dk_at dksL_law_59 23 rfl rfl)
theorem dL_law_1556 : decode cL_law 1556 = .ok (.iaload, 1) := dk_46 (dk_at dksL_law_60 0 rfl rfl)
theorem dL_law_1557 : decode cL_law 1557 = .ok (.aload_n 3, 1) := dk_45 (dk_at dksL_law_60 1 rfl rfl)
theorem dL_law_1558 : decode cL_law 1558 = .ok (.invokestatic 204, 3) := dk_184 0 204 (dk_at dksL_law_60 2 rfl rfl)
theorem dL_law_1561 : decode cL_law 1561 = .ok (.istore 6, 2) := dk_54 6 (dk_at dksL_law_60 5 rfl rfl)
theorem dL_law_1563 : decode cL_law 1563 = .ok (.aload_n 2, 1) := dk_44 (dk_at dksL_law_60 7 rfl rfl)
theorem dL_law_1564 : decode cL_law 1564 = .ok (.aload_n 0, 1) := dk_42 (dk_at dksL_law_60 8 rfl rfl)
theorem dL_law_1565 : decode cL_law 1565 = .ok (.iload 5, 2) := dk_21 5 (dk_at dksL_law_60 9 rfl rfl)
theorem dL_law_1567 : decode cL_law 1567 = .ok (.iconst 1, 1) := dk_4 (dk_at dksL_law_60 11 rfl rfl)
theorem dL_law_1568 : decode cL_law 1568 = .ok (.iadd, 1) := dk_96 (dk_at dksL_law_60 12 rfl rfl)
theorem dL_law_1569 : decode cL_law 1569 = .ok (.iaload, 1) := dk_46 (dk_at dksL_law_60 13 rfl rfl)
theorem dL_law_1570 : decode cL_law 1570 = .ok (.invokevirtual 206, 3) := dk_182 0 206 (dk_at dksL_law_60 14 rfl rfl)
theorem dL_law_1573 : decode cL_law 1573 = .ok (.istore 7, 2) := dk_54 7 (dk_at dksL_law_60 17 rfl rfl)
theorem dL_law_1575 : decode cL_law 1575 = .ok (.aload_n 2, 1) := dk_44 (dk_at dksL_law_60 19 rfl rfl)
theorem dL_law_1576 : decode cL_law 1576 = .ok (.invokevirtual 145, 3) := dk_182 0 145 (dk_at dksL_law_60 20 rfl rfl)
theorem dL_law_1579 : decode cL_law 1579 = .ok (.iload 6, 2) := dk_21 6 (dk_at dksL_law_61 0 rfl rfl)
theorem dL_law_1581 : decode cL_law 1581 = .ok (.if_icmp .eq 5, 3) := dk_159 0 5 (dk_at dksL_law_61 2 rfl rfl)
theorem dL_law_1584 : decode cL_law 1584 = .ok (.iconst 0, 1) := dk_3 (dk_at dksL_law_61 5 rfl rfl)
theorem dL_law_1585 : decode cL_law 1585 = .ok (.ireturn, 1) := dk_172 (dk_at dksL_law_61 6 rfl rfl)
theorem dL_law_1586 : decode cL_law 1586 = .ok (.iload 6, 2) := dk_21 6 (dk_at dksL_law_61 7 rfl rfl)
theorem dL_law_1588 : decode cL_law 1588 = .ok (.ifCond .ne 15, 3) := dk_154 0 15 (dk_at dksL_law_61 9 rfl rfl)
theorem dL_law_1591 : decode cL_law 1591 = .ok (.aload_n 3, 1) := dk_45 (dk_at dksL_law_61 12 rfl rfl)
theorem dL_law_1592 : decode cL_law 1592 = .ok (.iconst 0, 1) := dk_3 (dk_at dksL_law_61 13 rfl rfl)
theorem dL_law_1593 : decode cL_law 1593 = .ok (.laload, 1) := dk_47 (dk_at dksL_law_61 14 rfl rfl)
theorem dL_law_1594 : decode cL_law 1594 = .ok (.iload 7, 2) := dk_21 7 (dk_at dksL_law_61 15 rfl rfl)
theorem dL_law_1596 : decode cL_law 1596 = .ok (.i2l, 1) := dk_133 (dk_at dksL_law_61 17 rfl rfl)
theorem dL_law_1597 : decode cL_law 1597 = .ok (.lcmp, 1) := dk_148 (dk_at dksL_law_61 18 rfl rfl)
theorem dL_law_1598 : decode cL_law 1598 = .ok (.ifCond .eq 5, 3) := dk_153 0 5 (dk_at dksL_law_61 19 rfl rfl)
theorem dL_law_1601 : decode cL_law 1601 = .ok (.iconst 0, 1) := dk_3 (dk_at dksL_law_61 22 rfl rfl)
theorem dL_law_1602 : decode cL_law 1602 = .ok (.ireturn, 1) := dk_172 (dk_at dksL_law_61 23 rfl rfl)
theorem dL_law_1603 : decode cL_law 1603 = .ok (.goto 978, 3) := dk_167 3 210 (dk_at dksL_law_62 0 rfl rfl)
theorem dL_law_1606 : decode cL_law 1606 = .ok (.aload_n 1, 1) := dk_43 (dk_at dksL_law_62 3 rfl rfl)
theorem dL_law_1607 : decode cL_law 1607 = .ok (.aload_n 0, 1) := dk_42 (dk_at dksL_law_62 4 rfl rfl)
theorem dL_law_1608 : decode cL_law 1608 = .ok (.iload 5, 2) := dk_21 5 (dk_at dksL_law_62 5 rfl rfl)
theorem dL_law_1610 : decode cL_law 1610 = .ok (.iconst 1, 1) := dk_4 (dk_at dksL_law_62 7 rfl rfl)
theorem dL_law_1611 : decode cL_law 1611 = .ok (.iadd, 1) := dk_96 (dk_at dksL_law_62 8 rfl rfl)
theorem dL_law_1612 : decode cL_law 1612 = .ok (.iaload, 1) := dk_46 (dk_at dksL_law_62 9 rfl rfl)
theorem dL_law_1613 : decode cL_law 1613 = .ok (.aload_n 0, 1) := dk_42 (dk_at dksL_law_62 10 rfl rfl)
theorem dL_law_1614 : decode cL_law 1614 = .ok (.iload 5, 2) := dk_21 5 (dk_at dksL_law_62 11 rfl rfl)
theorem dL_law_1616 : decode cL_law 1616 = .ok (.iconst 2, 1) := dk_5 (dk_at dksL_law_62 13 rfl rfl)
theorem dL_law_1617 : decode cL_law 1617 = .ok (.iadd, 1) := dk_96 (dk_at dksL_law_62 14 rfl rfl)
theorem dL_law_1618 : decode cL_law 1618 = .ok (.iaload, 1) := dk_46 (dk_at dksL_law_62 15 rfl rfl)
theorem dL_law_1619 : decode cL_law 1619 = .ok (.aload_n 3, 1) := dk_45 (dk_at dksL_law_62 16 rfl rfl)
theorem dL_law_1620 : decode cL_law 1620 = .ok (.invokestatic 207, 3) := dk_184 0 207 (dk_at dksL_law_62 17 rfl rfl)
theorem dL_law_1623 : decode cL_law 1623 = .ok (.istore 6, 2) := dk_54 6 (dk_at dksL_law_62 20 rfl rfl)
theorem dL_law_1625 : decode cL_law 1625 = .ok (.aload_n 2, 1) := dk_44 (dk_at dksL_law_62 22 rfl rfl)
theorem dL_law_1626 : decode cL_law 1626 = .ok (.aload_n 0, 1) := dk_42 (dk_at dksL_law_62 23 rfl rfl)
theorem dL_law_1627 : decode cL_law 1627 = .ok (.iload 5, 2) := dk_21 5 (dk_at dksL_law_63 0 rfl rfl)
theorem dL_law_1629 : decode cL_law 1629 = .ok (.iconst 1, 1) := dk_4 (dk_at dksL_law_63 2 rfl rfl)
theorem dL_law_1630 : decode cL_law 1630 = .ok (.iadd, 1) := dk_96 (dk_at dksL_law_63 3 rfl rfl)
theorem dL_law_1631 : decode cL_law 1631 = .ok (.iaload, 1) := dk_46 (dk_at dksL_law_63 4 rfl rfl)
theorem dL_law_1632 : decode cL_law 1632 = .ok (.aload_n 0, 1) := dk_42 (dk_at dksL_law_63 5 rfl rfl)
theorem dL_law_1633 : decode cL_law 1633 = .ok (.iload 5, 2) := dk_21 5 (dk_at dksL_law_63 6 rfl rfl)
theorem dL_law_1635 : decode cL_law 1635 = .ok (.iconst 2, 1) := dk_5 (dk_at dksL_law_63 8 rfl rfl)
theorem dL_law_1636 : decode cL_law 1636 = .ok (.iadd, 1) := dk_96 (dk_at dksL_law_63 9 rfl rfl)
theorem dL_law_1637 : decode cL_law 1637 = .ok (.iaload, 1) := dk_46 (dk_at dksL_law_63 10 rfl rfl)
theorem dL_law_1638 : decode cL_law 1638 = .ok (.invokevirtual 209, 3) := dk_182 0 209 (dk_at dksL_law_63 11 rfl rfl)
theorem dL_law_1641 : decode cL_law 1641 = .ok (.istore 7, 2) := dk_54 7 (dk_at dksL_law_63 14 rfl rfl)
theorem dL_law_1643 : decode cL_law 1643 = .ok (.aload_n 2, 1) := dk_44 (dk_at dksL_law_63 16 rfl rfl)
theorem dL_law_1644 : decode cL_law 1644 = .ok (.invokevirtual 145, 3) := dk_182 0 145 (dk_at dksL_law_63 17 rfl rfl)
theorem dL_law_1647 : decode cL_law 1647 = .ok (.iload 6, 2) := dk_21 6 (dk_at dksL_law_63 20 rfl rfl)
theorem dL_law_1649 : decode cL_law 1649 = .ok (.if_icmp .eq 5, 3) := dk_159 0 5 (dk_at dksL_law_64 0 rfl rfl)
theorem dL_law_1652 : decode cL_law 1652 = .ok (.iconst 0, 1) := dk_3 (dk_at dksL_law_64 3 rfl rfl)
theorem dL_law_1653 : decode cL_law 1653 = .ok (.ireturn, 1) := dk_172 (dk_at dksL_law_64 4 rfl rfl)
theorem dL_law_1654 : decode cL_law 1654 = .ok (.iload 6, 2) := dk_21 6 (dk_at dksL_law_64 5 rfl rfl)
theorem dL_law_1656 : decode cL_law 1656 = .ok (.ifCond .ne 15, 3) := dk_154 0 15 (dk_at dksL_law_64 7 rfl rfl)
theorem dL_law_1659 : decode cL_law 1659 = .ok (.aload_n 3, 1) := dk_45 (dk_at dksL_law_64 10 rfl rfl)
theorem dL_law_1660 : decode cL_law 1660 = .ok (.iconst 0, 1) := dk_3 (dk_at dksL_law_64 11 rfl rfl)
theorem dL_law_1661 : decode cL_law 1661 = .ok (.laload, 1) := dk_47 (dk_at dksL_law_64 12 rfl rfl)
theorem dL_law_1662 : decode cL_law 1662 = .ok (.iload 7, 2) := dk_21 7 (dk_at dksL_law_64 13 rfl rfl)
theorem dL_law_1664 : decode cL_law 1664 = .ok (.i2l, 1) := dk_133 (dk_at dksL_law_64 15 rfl rfl)
theorem dL_law_1665 : decode cL_law 1665 = .ok (.lcmp, 1) := dk_148 (dk_at dksL_law_64 16 rfl rfl)
theorem dL_law_1666 : decode cL_law 1666 = .ok (.ifCond .eq 5, 3) := dk_153 0 5 (dk_at dksL_law_64 17 rfl rfl)
theorem dL_law_1669 : decode cL_law 1669 = .ok (.iconst 0, 1) := dk_3 (dk_at dksL_law_64 20 rfl rfl)
theorem dL_law_1670 : decode cL_law 1670 = .ok (.ireturn, 1) := dk_172 (dk_at dksL_law_64 21 rfl rfl)
theorem dL_law_1671 : decode cL_law 1671 = .ok (.goto 910, 3) := dk_167 3 142 (dk_at dksL_law_65 0 rfl rfl)
theorem dL_law_1674 : decode cL_law 1674 = .ok (.aload_n 1, 1) := dk_43 (dk_at dksL_law_65 3 rfl rfl)
theorem dL_law_1675 : decode cL_law 1675 = .ok (.invokevirtual 210, 3) := dk_182 0 210 (dk_at dksL_law_65 4 rfl rfl)
theorem dL_law_1678 : decode cL_law 1678 = .ok (.aload_n 2, 1) := dk_44 (dk_at dksL_law_65 7 rfl rfl)
theorem dL_law_1679 : decode cL_law 1679 = .ok (.invokevirtual 213, 3) := dk_182 0 213 (dk_at dksL_law_65 8 rfl rfl)
theorem dL_law_1682 : decode cL_law 1682 = .ok (.if_icmp .eq 899, 3) := dk_159 3 131 (dk_at dksL_law_65 11 rfl rfl)
theorem dL_law_1685 : decode cL_law 1685 = .ok (.iconst 0, 1) := dk_3 (dk_at dksL_law_65 14 rfl rfl)
theorem dL_law_1686 : decode cL_law 1686 = .ok (.ireturn, 1) := dk_172 (dk_at dksL_law_65 15 rfl rfl)
theorem dL_law_1687 : decode cL_law 1687 = .ok (.aload_n 1, 1) := dk_43 (dk_at dksL_law_65 16 rfl rfl)
theorem dL_law_1688 : decode cL_law 1688 = .ok (.invokevirtual 214, 3) := dk_182 0 214 (dk_at dksL_law_65 17 rfl rfl)
theorem dL_law_1691 : decode cL_law 1691 = .ok (.aload_n 2, 1) := dk_44 (dk_at dksL_law_65 20 rfl rfl)
theorem dL_law_1692 : decode cL_law 1692 = .ok (.invokevirtual 217, 3) := dk_182 0 217 (dk_at dksL_law_65 21 rfl rfl)
theorem dL_law_1695 : decode cL_law 1695 = .ok (.if_icmp .eq 886, 3) := dk_159 3 118 (dk_at dksL_law_66 0 rfl rfl)
theorem dL_law_1698 : decode cL_law 1698 = .ok (.iconst 0, 1) := dk_3 (dk_at dksL_law_66 3 rfl rfl)
theorem dL_law_1699 : decode cL_law 1699 = .ok (.ireturn, 1) := dk_172 (dk_at dksL_law_66 4 rfl rfl)
theorem dL_law_1700 : decode cL_law 1700 = .ok (.aload_n 1, 1) := dk_43 (dk_at dksL_law_66 5 rfl rfl)
theorem dL_law_1701 : decode cL_law 1701 = .ok (.invokevirtual 218, 3) := dk_182 0 218 (dk_at dksL_law_66 6 rfl rfl)
theorem dL_law_1704 : decode cL_law 1704 = .ok (.aload_n 2, 1) := dk_44 (dk_at dksL_law_66 9 rfl rfl)
theorem dL_law_1705 : decode cL_law 1705 = .ok (.invokevirtual 221, 3) := dk_182 0 221 (dk_at dksL_law_66 10 rfl rfl)
theorem dL_law_1708 : decode cL_law 1708 = .ok (.if_icmp .eq 873, 3) := dk_159 3 105 (dk_at dksL_law_66 13 rfl rfl)
theorem dL_law_1711 : decode cL_law 1711 = .ok (.iconst 0, 1) := dk_3 (dk_at dksL_law_66 16 rfl rfl)
theorem dL_law_1712 : decode cL_law 1712 = .ok (.ireturn, 1) := dk_172 (dk_at dksL_law_66 17 rfl rfl)
theorem dL_law_1713 : decode cL_law 1713 = .ok (.aload_n 1, 1) := dk_43 (dk_at dksL_law_66 18 rfl rfl)
theorem dL_law_1714 : decode cL_law 1714 = .ok (.invokevirtual 222, 3) := dk_182 0 222 (dk_at dksL_law_66 19 rfl rfl)
theorem dL_law_1717 : decode cL_law 1717 = .ok (.aload_n 2, 1) := dk_44 (dk_at dksL_law_66 22 rfl rfl)
theorem dL_law_1718 : decode cL_law 1718 = .ok (.invokevirtual 225, 3) := dk_182 0 225 (dk_at dksL_law_67 0 rfl rfl)
theorem dL_law_1721 : decode cL_law 1721 = .ok (.if_icmp .eq 860, 3) := dk_159 3 92 (dk_at dksL_law_67 3 rfl rfl)
theorem dL_law_1724 : decode cL_law 1724 = .ok (.iconst 0, 1) := dk_3 (dk_at dksL_law_67 6 rfl rfl)
theorem dL_law_1725 : decode cL_law 1725 = .ok (.ireturn, 1) := dk_172 (dk_at dksL_law_67 7 rfl rfl)
theorem dL_law_1726 : decode cL_law 1726 = .ok (.aload_n 1, 1) := dk_43 (dk_at dksL_law_67 8 rfl rfl)
theorem dL_law_1727 : decode cL_law 1727 = .ok (.aload_n 0, 1) := dk_42 (dk_at dksL_law_67 9 rfl rfl)
theorem dL_law_1728 : decode cL_law 1728 = .ok (.iload 5, 2) := dk_21 5 (dk_at dksL_law_67 10 rfl rfl)
theorem dL_law_1730 : decode cL_law 1730 = .ok (.iconst 1, 1) := dk_4 (dk_at dksL_law_67 12 rfl rfl)
theorem dL_law_1731 : decode cL_law 1731 = .ok (.iadd, 1) := dk_96 (dk_at dksL_law_67 13 rfl rfl)
theorem dL_law_1732 : decode cL_law 1732 = .ok (.iaload, 1) := dk_46 (dk_at dksL_law_67 14 rfl rfl)
theorem dL_law_1733 : decode cL_law 1733 = .ok (.aload_n 3, 1) := dk_45 (dk_at dksL_law_67 15 rfl rfl)
theorem dL_law_1734 : decode cL_law 1734 = .ok (.invokestatic 226, 3) := dk_184 0 226 (dk_at dksL_law_67 16 rfl rfl)
theorem dL_law_1737 : decode cL_law 1737 = .ok (.istore 6, 2) := dk_54 6 (dk_at dksL_law_67 19 rfl rfl)
theorem dL_law_1739 : decode cL_law 1739 = .ok (.aload_n 2, 1) := dk_44 (dk_at dksL_law_67 21 rfl rfl)
theorem dL_law_1740 : decode cL_law 1740 = .ok (.aload_n 0, 1) := dk_42 (dk_at dksL_law_67 22 rfl rfl)
theorem dL_law_1741 : decode cL_law 1741 = .ok (.iload 5, 2) := dk_21 5 (dk_at dksL_law_68 0 rfl rfl)
theorem dL_law_1743 : decode cL_law 1743 = .ok (.iconst 1, 1) := dk_4 (dk_at dksL_law_68 2 rfl rfl)
theorem dL_law_1744 : decode cL_law 1744 = .ok (.iadd, 1) := dk_96 (dk_at dksL_law_68 3 rfl rfl)
theorem dL_law_1745 : decode cL_law 1745 = .ok (.iaload, 1) := dk_46 (dk_at dksL_law_68 4 rfl rfl)
theorem dL_law_1746 : decode cL_law 1746 = .ok (.invokevirtual 228, 3) := dk_182 0 228 (dk_at dksL_law_68 5 rfl rfl)
theorem dL_law_1749 : decode cL_law 1749 = .ok (.istore 7, 2) := dk_54 7 (dk_at dksL_law_68 8 rfl rfl)
theorem dL_law_1751 : decode cL_law 1751 = .ok (.aload_n 2, 1) := dk_44 (dk_at dksL_law_68 10 rfl rfl)
theorem dL_law_1752 : decode cL_law 1752 = .ok (.invokevirtual 145, 3) := dk_182 0 145 (dk_at dksL_law_68 11 rfl rfl)
theorem dL_law_1755 : decode cL_law 1755 = .ok (.iload 6, 2) := dk_21 6 (dk_at dksL_law_68 14 rfl rfl)
theorem dL_law_1757 : decode cL_law 1757 = .ok (.if_icmp .eq 5, 3) := dk_159 0 5 (dk_at dksL_law_68 16 rfl rfl)
theorem dL_law_1760 : decode cL_law 1760 = .ok (.iconst 0, 1) := dk_3 (dk_at dksL_law_68 19 rfl rfl)
theorem dL_law_1761 : decode cL_law 1761 = .ok (.ireturn, 1) := dk_172 (dk_at dksL_law_68 20 rfl rfl)
theorem dL_law_1762 : decode cL_law 1762 = .ok (.iload 6, 2) := dk_21 6 (dk_at dksL_law_68 21 rfl rfl)
theorem dL_law_1764 : decode cL_law 1764 = .ok (.ifCond .ne 15, 3) := dk_154 0 15 (dk_at dksL_law_69 0 rfl rfl)
theorem dL_law_1767 : decode cL_law 1767 = .ok (.aload_n 3, 1) := dk_45 (dk_at dksL_law_69 3 rfl rfl)
theorem dL_law_1768 : decode cL_law 1768 = .ok (.iconst 0, 1) := dk_3 (dk_at dksL_law_69 4 rfl rfl)
theorem dL_law_1769 : decode cL_law 1769 = .ok (.laload, 1) := dk_47 (dk_at dksL_law_69 5 rfl rfl)
theorem dL_law_1770 : decode cL_law 1770 = .ok (.iload 7, 2) := dk_21 7 (dk_at dksL_law_69 6 rfl rfl)
theorem dL_law_1772 : decode cL_law 1772 = .ok (.i2l, 1) := dk_133 (dk_at dksL_law_69 8 rfl rfl)
theorem dL_law_1773 : decode cL_law 1773 = .ok (.lcmp, 1) := dk_148 (dk_at dksL_law_69 9 rfl rfl)
theorem dL_law_1774 : decode cL_law 1774 = .ok (.ifCond .eq 5, 3) := dk_153 0 5 (dk_at dksL_law_69 10 rfl rfl)
theorem dL_law_1777 : decode cL_law 1777 = .ok (.iconst 0, 1) := dk_3 (dk_at dksL_law_69 13 rfl rfl)
theorem dL_law_1778 : decode cL_law 1778 = .ok (.ireturn, 1) := dk_172 (dk_at dksL_law_69 14 rfl rfl)
theorem dL_law_1779 : decode cL_law 1779 = .ok (.goto 802, 3) := dk_167 3 34 (dk_at dksL_law_69 15 rfl rfl)
theorem dL_law_1782 : decode cL_law 1782 = .ok (.aload_n 1, 1) := dk_43 (dk_at dksL_law_69 18 rfl rfl)
theorem dL_law_1783 : decode cL_law 1783 = .ok (.aload_n 0, 1) := dk_42 (dk_at dksL_law_69 19 rfl rfl)
theorem dL_law_1784 : decode cL_law 1784 = .ok (.iload 5, 2) := dk_21 5 (dk_at dksL_law_69 20 rfl rfl)
theorem dL_law_1786 : decode cL_law 1786 = .ok (.iconst 1, 1) := dk_4 (dk_at dksL_law_69 22 rfl rfl)
theorem dL_law_1787 : decode cL_law 1787 = .ok (.iadd, 1) := dk_96 (dk_at dksL_law_69 23 rfl rfl)
theorem dL_law_1788 : decode cL_law 1788 = .ok (.iaload, 1) := dk_46 (dk_at dksL_law_70 0 rfl rfl)
theorem dL_law_1789 : decode cL_law 1789 = .ok (.aload_n 3, 1) := dk_45 (dk_at dksL_law_70 1 rfl rfl)
theorem dL_law_1790 : decode cL_law 1790 = .ok (.invokestatic 229, 3) := dk_184 0 229 (dk_at dksL_law_70 2 rfl rfl)
theorem dL_law_1793 : decode cL_law 1793 = .ok (.istore 6, 2) := dk_54 6 (dk_at dksL_law_70 5 rfl rfl)
theorem dL_law_1795 : decode cL_law 1795 = .ok (.aload_n 2, 1) := dk_44 (dk_at dksL_law_70 7 rfl rfl)
theorem dL_law_1796 : decode cL_law 1796 = .ok (.aload_n 0, 1) := dk_42 (dk_at dksL_law_70 8 rfl rfl)
theorem dL_law_1797 : decode cL_law 1797 = .ok (.iload 5, 2) := dk_21 5 (dk_at dksL_law_70 9 rfl rfl)
theorem dL_law_1799 : decode cL_law 1799 = .ok (.iconst 1, 1) := dk_4 (dk_at dksL_law_70 11 rfl rfl)
theorem dL_law_1800 : decode cL_law 1800 = .ok (.iadd, 1) := dk_96 (dk_at dksL_law_70 12 rfl rfl)
theorem dL_law_1801 : decode cL_law 1801 = .ok (.iaload, 1) := dk_46 (dk_at dksL_law_70 13 rfl rfl)
theorem dL_law_1802 : decode cL_law 1802 = .ok (.invokevirtual 231, 3) := dk_182 0 231 (dk_at dksL_law_70 14 rfl rfl)
theorem dL_law_1805 : decode cL_law 1805 = .ok (.istore 7, 2) := dk_54 7 (dk_at dksL_law_70 17 rfl rfl)
theorem dL_law_1807 : decode cL_law 1807 = .ok (.aload_n 2, 1) := dk_44 (dk_at dksL_law_70 19 rfl rfl)
theorem dL_law_1808 : decode cL_law 1808 = .ok (.invokevirtual 145, 3) := dk_182 0 145 (dk_at dksL_law_70 20 rfl rfl)
theorem dL_law_1811 : decode cL_law 1811 = .ok (.iload 6, 2) := dk_21 6 (dk_at dksL_law_71 0 rfl rfl)
theorem dL_law_1813 : decode cL_law 1813 = .ok (.if_icmp .eq 5, 3) := dk_159 0 5 (dk_at dksL_law_71 2 rfl rfl)
theorem dL_law_1816 : decode cL_law 1816 = .ok (.iconst 0, 1) := dk_3 (dk_at dksL_law_71 5 rfl rfl)
theorem dL_law_1817 : decode cL_law 1817 = .ok (.ireturn, 1) := dk_172 (dk_at dksL_law_71 6 rfl rfl)
theorem dL_law_1818 : decode cL_law 1818 = .ok (.iload 6, 2) := dk_21 6 (dk_at dksL_law_71 7 rfl rfl)
theorem dL_law_1820 : decode cL_law 1820 = .ok (.ifCond .ne 15, 3) := dk_154 0 15 (dk_at dksL_law_71 9 rfl rfl)
theorem dL_law_1823 : decode cL_law 1823 = .ok (.aload_n 3, 1) := dk_45 (dk_at dksL_law_71 12 rfl rfl)
theorem dL_law_1824 : decode cL_law 1824 = .ok (.iconst 0, 1) := dk_3 (dk_at dksL_law_71 13 rfl rfl)
theorem dL_law_1825 : decode cL_law 1825 = .ok (.laload, 1) := dk_47 (dk_at dksL_law_71 14 rfl rfl)
theorem dL_law_1826 : decode cL_law 1826 = .ok (.iload 7, 2) := dk_21 7 (dk_at dksL_law_71 15 rfl rfl)
theorem dL_law_1828 : decode cL_law 1828 = .ok (.i2l, 1) := dk_133 (dk_at dksL_law_71 17 rfl rfl)
theorem dL_law_1829 : decode cL_law 1829 = .ok (.lcmp, 1) := dk_148 (dk_at dksL_law_71 18 rfl rfl)
theorem dL_law_1830 : decode cL_law 1830 = .ok (.ifCond .eq 5, 3) := dk_153 0 5 (dk_at dksL_law_71 19 rfl rfl)
theorem dL_law_1833 : decode cL_law 1833 = .ok (.iconst 0, 1) := dk_3 (dk_at dksL_law_71 22 rfl rfl)
theorem dL_law_1834 : decode cL_law 1834 = .ok (.ireturn, 1) := dk_172 (dk_at dksL_law_71 23 rfl rfl)
theorem dL_law_1835 : decode cL_law 1835 = .ok (.goto 746, 3) := dk_167 2 234 (dk_at dksL_law_72 0 rfl rfl)
theorem dL_law_1838 : decode cL_law 1838 = .ok (.aload_n 1, 1) := dk_43 (dk_at dksL_law_72 3 rfl rfl)
theorem dL_law_1839 : decode cL_law 1839 = .ok (.aload_n 3, 1) := dk_45 (dk_at dksL_law_72 4 rfl rfl)
theorem dL_law_1840 : decode cL_law 1840 = .ok (.invokestatic 232, 3) := dk_184 0 232 (dk_at dksL_law_72 5 rfl rfl)
theorem dL_law_1843 : decode cL_law 1843 = .ok (.istore 6, 2) := dk_54 6 (dk_at dksL_law_72 8 rfl rfl)
theorem dL_law_1845 : decode cL_law 1845 = .ok (.aload_n 2, 1) := dk_44 (dk_at dksL_law_72 10 rfl rfl)
theorem dL_law_1846 : decode cL_law 1846 = .ok (.invokevirtual 235, 3) := dk_182 0 235 (dk_at dksL_law_72 11 rfl rfl)
theorem dL_law_1849 : decode cL_law 1849 = .ok (.istore 7, 2) := dk_54 7 (dk_at dksL_law_72 14 rfl rfl)
theorem dL_law_1851 : decode cL_law 1851 = .ok (.aload_n 2, 1) := dk_44 (dk_at dksL_law_72 16 rfl rfl)
theorem dL_law_1852 : decode cL_law 1852 = .ok (.invokevirtual 145, 3) := dk_182 0 145 (dk_at dksL_law_72 17 rfl rfl)
theorem dL_law_1855 : decode cL_law 1855 = .ok (.iload 6, 2) := dk_21 6 (dk_at dksL_law_72 20 rfl rfl)
theorem dL_law_1857 : decode cL_law 1857 = .ok (.if_icmp .eq 5, 3) := dk_159 0 5 (dk_at dksL_law_73 0 rfl rfl)
theorem dL_law_1860 : decode cL_law 1860 = .ok (.iconst 0, 1) := dk_3 (dk_at dksL_law_73 3 rfl rfl)
theorem dL_law_1861 : decode cL_law 1861 = .ok (.ireturn, 1) := dk_172 (dk_at dksL_law_73 4 rfl rfl)
theorem dL_law_1862 : decode cL_law 1862 = .ok (.iload 6, 2) := dk_21 6 (dk_at dksL_law_73 5 rfl rfl)
theorem dL_law_1864 : decode cL_law 1864 = .ok (.ifCond .ne 15, 3) := dk_154 0 15 (dk_at dksL_law_73 7 rfl rfl)
theorem dL_law_1867 : decode cL_law 1867 = .ok (.aload_n 3, 1) := dk_45 (dk_at dksL_law_73 10 rfl rfl)
theorem dL_law_1868 : decode cL_law 1868 = .ok (.iconst 0, 1) := dk_3 (dk_at dksL_law_73 11 rfl rfl)
theorem dL_law_1869 : decode cL_law 1869 = .ok (.laload, 1) := dk_47 (dk_at dksL_law_73 12 rfl rfl)
theorem dL_law_1870 : decode cL_law 1870 = .ok (.iload 7, 2) := dk_21 7 (dk_at dksL_law_73 13 rfl rfl)
theorem dL_law_1872 : decode cL_law 1872 = .ok (.i2l, 1) := dk_133 (dk_at dksL_law_73 15 rfl rfl)
theorem dL_law_1873 : decode cL_law 1873 = .ok (.lcmp, 1) := dk_148 (dk_at dksL_law_73 16 rfl rfl)
theorem dL_law_1874 : decode cL_law 1874 = .ok (.ifCond .eq 5, 3) := dk_153 0 5 (dk_at dksL_law_73 17 rfl rfl)
theorem dL_law_1877 : decode cL_law 1877 = .ok (.iconst 0, 1) := dk_3 (dk_at dksL_law_73 20 rfl rfl)
theorem dL_law_1878 : decode cL_law 1878 = .ok (.ireturn, 1) := dk_172 (dk_at dksL_law_73 21 rfl rfl)
theorem dL_law_1879 : decode cL_law 1879 = .ok (.goto 702, 3) := dk_167 2 190 (dk_at dksL_law_74 0 rfl rfl)
theorem dL_law_1882 : decode cL_law 1882 = .ok (.aload_n 1, 1) := dk_43 (dk_at dksL_law_74 3 rfl rfl)
theorem dL_law_1883 : decode cL_law 1883 = .ok (.invokevirtual 236, 3) := dk_182 0 236 (dk_at dksL_law_74 4 rfl rfl)
theorem dL_law_1886 : decode cL_law 1886 = .ok (.aload_n 2, 1) := dk_44 (dk_at dksL_law_74 7 rfl rfl)
theorem dL_law_1887 : decode cL_law 1887 = .ok (.invokevirtual 240, 3) := dk_182 0 240 (dk_at dksL_law_74 8 rfl rfl)
theorem dL_law_1890 : decode cL_law 1890 = .ok (.if_icmp .eq 691, 3) := dk_159 2 179 (dk_at dksL_law_74 11 rfl rfl)
theorem dL_law_1893 : decode cL_law 1893 = .ok (.iconst 0, 1) := dk_3 (dk_at dksL_law_74 14 rfl rfl)
theorem dL_law_1894 : decode cL_law 1894 = .ok (.ireturn, 1) := dk_172 (dk_at dksL_law_74 15 rfl rfl)
theorem dL_law_1895 : decode cL_law 1895 = .ok (.aload_n 1, 1) := dk_43 (dk_at dksL_law_74 16 rfl rfl)
theorem dL_law_1896 : decode cL_law 1896 = .ok (.aload_n 0, 1) := dk_42 (dk_at dksL_law_74 17 rfl rfl)
theorem dL_law_1897 : decode cL_law 1897 = .ok (.iload 5, 2) := dk_21 5 (dk_at dksL_law_74 18 rfl rfl)
theorem dL_law_1899 : decode cL_law 1899 = .ok (.iconst 1, 1) := dk_4 (dk_at dksL_law_74 20 rfl rfl)
theorem dL_law_1900 : decode cL_law 1900 = .ok (.iadd, 1) := dk_96 (dk_at dksL_law_74 21 rfl rfl)
theorem dL_law_1901 : decode cL_law 1901 = .ok (.iaload, 1) := dk_46 (dk_at dksL_law_74 22 rfl rfl)
theorem dL_law_1902 : decode cL_law 1902 = .ok (.aload_n 0, 1) := dk_42 (dk_at dksL_law_74 23 rfl rfl)
theorem dL_law_1903 : decode cL_law 1903 = .ok (.iload 5, 2) := dk_21 5 (dk_at dksL_law_75 0 rfl rfl)
theorem dL_law_1905 : decode cL_law 1905 = .ok (.iconst 2, 1) := dk_5 (dk_at dksL_law_75 2 rfl rfl)
theorem dL_law_1906 : decode cL_law 1906 = .ok (.iadd, 1) := dk_96 (dk_at dksL_law_75 3 rfl rfl)
theorem dL_law_1907 : decode cL_law 1907 = .ok (.iaload, 1) := dk_46 (dk_at dksL_law_75 4 rfl rfl)
theorem dL_law_1908 : decode cL_law 1908 = .ok (.aload_n 3, 1) := dk_45 (dk_at dksL_law_75 5 rfl rfl)
theorem dL_law_1909 : decode cL_law 1909 = .ok (.invokestatic 241, 3) := dk_184 0 241 (dk_at dksL_law_75 6 rfl rfl)
theorem dL_law_1912 : decode cL_law 1912 = .ok (.istore 6, 2) := dk_54 6 (dk_at dksL_law_75 9 rfl rfl)
theorem dL_law_1914 : decode cL_law 1914 = .ok (.aload_n 2, 1) := dk_44 (dk_at dksL_law_75 11 rfl rfl)
theorem dL_law_1915 : decode cL_law 1915 = .ok (.aload_n 0, 1) := dk_42 (dk_at dksL_law_75 12 rfl rfl)
theorem dL_law_1916 : decode cL_law 1916 = .ok (.iload 5, 2) := dk_21 5 (dk_at dksL_law_75 13 rfl rfl)
theorem dL_law_1918 : decode cL_law 1918 = .ok (.iconst 1, 1) := dk_4 (dk_at dksL_law_75 15 rfl rfl)
theorem dL_law_1919 : decode cL_law 1919 = .ok (.iadd, 1) := dk_96 (dk_at dksL_law_75 16 rfl rfl)
theorem dL_law_1920 : decode cL_law 1920 = .ok (.iaload, 1) := dk_46 (dk_at dksL_law_75 17 rfl rfl)
theorem dL_law_1921 : decode cL_law 1921 = .ok (.aload_n 0, 1) := dk_42 (dk_at dksL_law_75 18 rfl rfl)
theorem dL_law_1922 : decode cL_law 1922 = .ok (.iload 5, 2) := dk_21 5 (dk_at dksL_law_75 19 rfl rfl)
theorem dL_law_1924 : decode cL_law 1924 = .ok (.iconst 2, 1) := dk_5 (dk_at dksL_law_75 21 rfl rfl)
theorem dL_law_1925 : decode cL_law 1925 = .ok (.iadd, 1) := dk_96 (dk_at dksL_law_75 22 rfl rfl)
theorem dL_law_1926 : decode cL_law 1926 = .ok (.iaload, 1) := dk_46 (dk_at dksL_law_75 23 rfl rfl)
theorem dL_law_1927 : decode cL_law 1927 = .ok (.invokevirtual 243, 3) := dk_182 0 243 (dk_at dksL_law_76 0 rfl rfl)
theorem dL_law_1930 : decode cL_law 1930 = .ok (.istore 7, 2) := dk_54 7 (dk_at dksL_law_76 3 rfl rfl)
theorem dL_law_1932 : decode cL_law 1932 = .ok (.aload_n 2, 1) := dk_44 (dk_at dksL_law_76 5 rfl rfl)
theorem dL_law_1933 : decode cL_law 1933 = .ok (.invokevirtual 145, 3) := dk_182 0 145 (dk_at dksL_law_76 6 rfl rfl)
theorem dL_law_1936 : decode cL_law 1936 = .ok (.iload 6, 2) := dk_21 6 (dk_at dksL_law_76 9 rfl rfl)
theorem dL_law_1938 : decode cL_law 1938 = .ok (.if_icmp .eq 5, 3) := dk_159 0 5 (dk_at dksL_law_76 11 rfl rfl)
theorem dL_law_1941 : decode cL_law 1941 = .ok (.iconst 0, 1) := dk_3 (dk_at dksL_law_76 14 rfl rfl)
theorem dL_law_1942 : decode cL_law 1942 = .ok (.ireturn, 1) := dk_172 (dk_at dksL_law_76 15 rfl rfl)
theorem dL_law_1943 : decode cL_law 1943 = .ok (.iload 6, 2) := dk_21 6 (dk_at dksL_law_76 16 rfl rfl)
theorem dL_law_1945 : decode cL_law 1945 = .ok (.ifCond .ne 15, 3) := dk_154 0 15 (dk_at dksL_law_76 18 rfl rfl)
theorem dL_law_1948 : decode cL_law 1948 = .ok (.aload_n 3, 1) := dk_45 (dk_at dksL_law_76 21 rfl rfl)
theorem dL_law_1949 : decode cL_law 1949 = .ok (.iconst 0, 1) := dk_3 (dk_at dksL_law_76 22 rfl rfl)
theorem dL_law_1950 : decode cL_law 1950 = .ok (.laload, 1) := dk_47 (dk_at dksL_law_76 23 rfl rfl)
theorem dL_law_1951 : decode cL_law 1951 = .ok (.iload 7, 2) := dk_21 7 (dk_at dksL_law_77 0 rfl rfl)
theorem dL_law_1953 : decode cL_law 1953 = .ok (.i2l, 1) := dk_133 (dk_at dksL_law_77 2 rfl rfl)
theorem dL_law_1954 : decode cL_law 1954 = .ok (.lcmp, 1) := dk_148 (dk_at dksL_law_77 3 rfl rfl)
theorem dL_law_1955 : decode cL_law 1955 = .ok (.ifCond .eq 5, 3) := dk_153 0 5 (dk_at dksL_law_77 4 rfl rfl)
theorem dL_law_1958 : decode cL_law 1958 = .ok (.iconst 0, 1) := dk_3 (dk_at dksL_law_77 7 rfl rfl)
theorem dL_law_1959 : decode cL_law 1959 = .ok (.ireturn, 1) := dk_172 (dk_at dksL_law_77 8 rfl rfl)
theorem dL_law_1960 : decode cL_law 1960 = .ok (.goto 621, 3) := dk_167 2 109 (dk_at dksL_law_77 9 rfl rfl)
theorem dL_law_1963 : decode cL_law 1963 = .ok (.aload_n 1, 1) := dk_43 (dk_at dksL_law_77 12 rfl rfl)
theorem dL_law_1964 : decode cL_law 1964 = .ok (.aload_n 0, 1) := dk_42 (dk_at dksL_law_77 13 rfl rfl)
theorem dL_law_1965 : decode cL_law 1965 = .ok (.iload 5, 2) := dk_21 5 (dk_at dksL_law_77 14 rfl rfl)
theorem dL_law_1967 : decode cL_law 1967 = .ok (.iconst 1, 1) := dk_4 (dk_at dksL_law_77 16 rfl rfl)
theorem dL_law_1968 : decode cL_law 1968 = .ok (.iadd, 1) := dk_96 (dk_at dksL_law_77 17 rfl rfl)
theorem dL_law_1969 : decode cL_law 1969 = .ok (.iaload, 1) := dk_46 (dk_at dksL_law_77 18 rfl rfl)
theorem dL_law_1970 : decode cL_law 1970 = .ok (.aload_n 3, 1) := dk_45 (dk_at dksL_law_77 19 rfl rfl)
theorem dL_law_1971 : decode cL_law 1971 = .ok (.invokestatic 244, 3) := dk_184 0 244 (dk_at dksL_law_77 20 rfl rfl)
theorem dL_law_1974 : decode cL_law 1974 = .ok (.istore 6, 2) := dk_54 6 (dk_at dksL_law_78 0 rfl rfl)
theorem dL_law_1976 : decode cL_law 1976 = .ok (.aload_n 2, 1) := dk_44 (dk_at dksL_law_78 2 rfl rfl)
theorem dL_law_1977 : decode cL_law 1977 = .ok (.aload_n 0, 1) := dk_42 (dk_at dksL_law_78 3 rfl rfl)
theorem dL_law_1978 : decode cL_law 1978 = .ok (.iload 5, 2) := dk_21 5 (dk_at dksL_law_78 4 rfl rfl)
theorem dL_law_1980 : decode cL_law 1980 = .ok (.iconst 1, 1) := dk_4 (dk_at dksL_law_78 6 rfl rfl)
theorem dL_law_1981 : decode cL_law 1981 = .ok (.iadd, 1) := dk_96 (dk_at dksL_law_78 7 rfl rfl)
theorem dL_law_1982 : decode cL_law 1982 = .ok (.iaload, 1) := dk_46 (dk_at dksL_law_78 8 rfl rfl)
theorem dL_law_1983 : decode cL_law 1983 = .ok (.invokevirtual 246, 3) := dk_182 0 246 (dk_at dksL_law_78 9 rfl rfl)
theorem dL_law_1986 : decode cL_law 1986 = .ok (.istore 7, 2) := dk_54 7 (dk_at dksL_law_78 12 rfl rfl)
theorem dL_law_1988 : decode cL_law 1988 = .ok (.aload_n 2, 1) := dk_44 (dk_at dksL_law_78 14 rfl rfl)
theorem dL_law_1989 : decode cL_law 1989 = .ok (.invokevirtual 145, 3) := dk_182 0 145 (dk_at dksL_law_78 15 rfl rfl)
theorem dL_law_1992 : decode cL_law 1992 = .ok (.iload 6, 2) := dk_21 6 (dk_at dksL_law_78 18 rfl rfl)
theorem dL_law_1994 : decode cL_law 1994 = .ok (.if_icmp .eq 5, 3) := dk_159 0 5 (dk_at dksL_law_78 20 rfl rfl)
theorem dL_law_1997 : decode cL_law 1997 = .ok (.iconst 0, 1) := dk_3 (dk_at dksL_law_78 23 rfl rfl)
theorem dL_law_1998 : decode cL_law 1998 = .ok (.ireturn, 1) := dk_172 (dk_at dksL_law_79 0 rfl rfl)
theorem dL_law_1999 : decode cL_law 1999 = .ok (.iload 6, 2) := dk_21 6 (dk_at dksL_law_79 1 rfl rfl)
theorem dL_law_2001 : decode cL_law 2001 = .ok (.ifCond .ne 15, 3) := dk_154 0 15 (dk_at dksL_law_79 3 rfl rfl)
theorem dL_law_2004 : decode cL_law 2004 = .ok (.aload_n 3, 1) := dk_45 (dk_at dksL_law_79 6 rfl rfl)
theorem dL_law_2005 : decode cL_law 2005 = .ok (.iconst 0, 1) := dk_3 (dk_at dksL_law_79 7 rfl rfl)
theorem dL_law_2006 : decode cL_law 2006 = .ok (.laload, 1) := dk_47 (dk_at dksL_law_79 8 rfl rfl)
theorem dL_law_2007 : decode cL_law 2007 = .ok (.iload 7, 2) := dk_21 7 (dk_at dksL_law_79 9 rfl rfl)
theorem dL_law_2009 : decode cL_law 2009 = .ok (.i2l, 1) := dk_133 (dk_at dksL_law_79 11 rfl rfl)
theorem dL_law_2010 : decode cL_law 2010 = .ok (.lcmp, 1) := dk_148 (dk_at dksL_law_79 12 rfl rfl)
theorem dL_law_2011 : decode cL_law 2011 = .ok (.ifCond .eq 5, 3) := dk_153 0 5 (dk_at dksL_law_79 13 rfl rfl)
theorem dL_law_2014 : decode cL_law 2014 = .ok (.iconst 0, 1) := dk_3 (dk_at dksL_law_79 16 rfl rfl)
theorem dL_law_2015 : decode cL_law 2015 = .ok (.ireturn, 1) := dk_172 (dk_at dksL_law_79 17 rfl rfl)
theorem dL_law_2016 : decode cL_law 2016 = .ok (.goto 565, 3) := dk_167 2 53 (dk_at dksL_law_79 18 rfl rfl)
theorem dL_law_2019 : decode cL_law 2019 = .ok (.aload_n 1, 1) := dk_43 (dk_at dksL_law_79 21 rfl rfl)
theorem dL_law_2020 : decode cL_law 2020 = .ok (.aload_n 0, 1) := dk_42 (dk_at dksL_law_79 22 rfl rfl)
theorem dL_law_2021 : decode cL_law 2021 = .ok (.iload 5, 2) := dk_21 5 (dk_at dksL_law_80 0 rfl rfl)
theorem dL_law_2023 : decode cL_law 2023 = .ok (.iconst 1, 1) := dk_4 (dk_at dksL_law_80 2 rfl rfl)
theorem dL_law_2024 : decode cL_law 2024 = .ok (.iadd, 1) := dk_96 (dk_at dksL_law_80 3 rfl rfl)
theorem dL_law_2025 : decode cL_law 2025 = .ok (.iaload, 1) := dk_46 (dk_at dksL_law_80 4 rfl rfl)
theorem dL_law_2026 : decode cL_law 2026 = .ok (.aload_n 3, 1) := dk_45 (dk_at dksL_law_80 5 rfl rfl)
theorem dL_law_2027 : decode cL_law 2027 = .ok (.invokestatic 247, 3) := dk_184 0 247 (dk_at dksL_law_80 6 rfl rfl)
theorem dL_law_2030 : decode cL_law 2030 = .ok (.istore 6, 2) := dk_54 6 (dk_at dksL_law_80 9 rfl rfl)
theorem dL_law_2032 : decode cL_law 2032 = .ok (.aload_n 2, 1) := dk_44 (dk_at dksL_law_80 11 rfl rfl)
theorem dL_law_2033 : decode cL_law 2033 = .ok (.aload_n 0, 1) := dk_42 (dk_at dksL_law_80 12 rfl rfl)
theorem dL_law_2034 : decode cL_law 2034 = .ok (.iload 5, 2) := dk_21 5 (dk_at dksL_law_80 13 rfl rfl)
theorem dL_law_2036 : decode cL_law 2036 = .ok (.iconst 1, 1) := dk_4 (dk_at dksL_law_80 15 rfl rfl)
theorem dL_law_2037 : decode cL_law 2037 = .ok (.iadd, 1) := dk_96 (dk_at dksL_law_80 16 rfl rfl)
theorem dL_law_2038 : decode cL_law 2038 = .ok (.iaload, 1) := dk_46 (dk_at dksL_law_80 17 rfl rfl)
theorem dL_law_2039 : decode cL_law 2039 = .ok (.invokevirtual 249, 3) := dk_182 0 249 (dk_at dksL_law_80 18 rfl rfl)
theorem dL_law_2042 : decode cL_law 2042 = .ok (.istore 7, 2) := dk_54 7 (dk_at dksL_law_80 21 rfl rfl)
theorem dL_law_2044 : decode cL_law 2044 = .ok (.aload_n 2, 1) := dk_44 (dk_at dksL_law_80 23 rfl rfl)
theorem dL_law_2045 : decode cL_law 2045 = .ok (.invokevirtual 145, 3) := dk_182 0 145 (dk_at dksL_law_81 0 rfl rfl)
theorem dL_law_2048 : decode cL_law 2048 = .ok (.iload 6, 2) := dk_21 6 (dk_at dksL_law_81 3 rfl rfl)
theorem dL_law_2050 : decode cL_law 2050 = .ok (.if_icmp .eq 5, 3) := dk_159 0 5 (dk_at dksL_law_81 5 rfl rfl)
theorem dL_law_2053 : decode cL_law 2053 = .ok (.iconst 0, 1) := dk_3 (dk_at dksL_law_81 8 rfl rfl)
theorem dL_law_2054 : decode cL_law 2054 = .ok (.ireturn, 1) := dk_172 (dk_at dksL_law_81 9 rfl rfl)
theorem dL_law_2055 : decode cL_law 2055 = .ok (.iload 6, 2) := dk_21 6 (dk_at dksL_law_81 10 rfl rfl)
theorem dL_law_2057 : decode cL_law 2057 = .ok (.ifCond .ne 15, 3) := dk_154 0 15 (dk_at dksL_law_81 12 rfl rfl)
theorem dL_law_2060 : decode cL_law 2060 = .ok (.aload_n 3, 1) := dk_45 (dk_at dksL_law_81 15 rfl rfl)
theorem dL_law_2061 : decode cL_law 2061 = .ok (.iconst 0, 1) := dk_3 (dk_at dksL_law_81 16 rfl rfl)
theorem dL_law_2062 : decode cL_law 2062 = .ok (.laload, 1) := dk_47 (dk_at dksL_law_81 17 rfl rfl)
theorem dL_law_2063 : decode cL_law 2063 = .ok (.iload 7, 2) := dk_21 7 (dk_at dksL_law_81 18 rfl rfl)
theorem dL_law_2065 : decode cL_law 2065 = .ok (.i2l, 1) := dk_133 (dk_at dksL_law_81 20 rfl rfl)
theorem dL_law_2066 : decode cL_law 2066 = .ok (.lcmp, 1) := dk_148 (dk_at dksL_law_81 21 rfl rfl)
theorem dL_law_2067 : decode cL_law 2067 = .ok (.ifCond .eq 5, 3) := dk_153 0 5 (dk_at dksL_law_82 0 rfl rfl)
theorem dL_law_2070 : decode cL_law 2070 = .ok (.iconst 0, 1) := dk_3 (dk_at dksL_law_82 3 rfl rfl)
theorem dL_law_2071 : decode cL_law 2071 = .ok (.ireturn, 1) := dk_172 (dk_at dksL_law_82 4 rfl rfl)
theorem dL_law_2072 : decode cL_law 2072 = .ok (.goto 509, 3) := dk_167 1 253 (dk_at dksL_law_82 5 rfl rfl)
theorem dL_law_2075 : decode cL_law 2075 = .ok (.aload_n 1, 1) := dk_43 (dk_at dksL_law_82 8 rfl rfl)
theorem dL_law_2076 : decode cL_law 2076 = .ok (.aload 4, 2) := dk_25 4 (dk_at dksL_law_82 9 rfl rfl)
theorem dL_law_2078 : decode cL_law 2078 = .ok (.invokestatic 250, 3) := dk_184 0 250 (dk_at dksL_law_82 11 rfl rfl)
theorem dL_law_2081 : decode cL_law 2081 = .ok (.istore 6, 2) := dk_54 6 (dk_at dksL_law_82 14 rfl rfl)
theorem dL_law_2083 : decode cL_law 2083 = .ok (.aload_n 2, 1) := dk_44 (dk_at dksL_law_82 16 rfl rfl)
theorem dL_law_2084 : decode cL_law 2084 = .ok (.invokevirtual 253, 3) := dk_182 0 253 (dk_at dksL_law_82 17 rfl rfl)
theorem dL_law_2087 : decode cL_law 2087 = .ok (.dstore 7, 2) := dk_57 7 (dk_at dksL_law_82 20 rfl rfl)
theorem dL_law_2089 : decode cL_law 2089 = .ok (.aload_n 2, 1) := dk_44 (dk_at dksL_law_82 22 rfl rfl)
theorem dL_law_2090 : decode cL_law 2090 = .ok (.invokevirtual 145, 3) := dk_182 0 145 (dk_at dksL_law_83 0 rfl rfl)
theorem dL_law_2093 : decode cL_law 2093 = .ok (.iload 6, 2) := dk_21 6 (dk_at dksL_law_83 3 rfl rfl)
theorem dL_law_2095 : decode cL_law 2095 = .ok (.if_icmp .eq 5, 3) := dk_159 0 5 (dk_at dksL_law_83 5 rfl rfl)
theorem dL_law_2098 : decode cL_law 2098 = .ok (.iconst 0, 1) := dk_3 (dk_at dksL_law_83 8 rfl rfl)
theorem dL_law_2099 : decode cL_law 2099 = .ok (.ireturn, 1) := dk_172 (dk_at dksL_law_83 9 rfl rfl)
theorem dL_law_2100 : decode cL_law 2100 = .ok (.iload 6, 2) := dk_21 6 (dk_at dksL_law_83 10 rfl rfl)
theorem dL_law_2102 : decode cL_law 2102 = .ok (.ifCond .ne 35, 3) := dk_154 0 35 (dk_at dksL_law_83 12 rfl rfl)
theorem dL_law_2105 : decode cL_law 2105 = .ok (.aload 4, 2) := dk_25 4 (dk_at dksL_law_83 15 rfl rfl)
theorem dL_law_2107 : decode cL_law 2107 = .ok (.iconst 0, 1) := dk_3 (dk_at dksL_law_83 17 rfl rfl)
theorem dL_law_2108 : decode cL_law 2108 = .ok (.daload, 1) := dk_49 (dk_at dksL_law_83 18 rfl rfl)
theorem dL_law_2109 : decode cL_law 2109 = .ok (.dload 7, 2) := dk_24 7 (dk_at dksL_law_83 19 rfl rfl)
theorem dL_law_2111 : decode cL_law 2111 = .ok (.dcmp .l, 1) := dk_151 (dk_at dksL_law_83 21 rfl rfl)
theorem dL_law_2112 : decode cL_law 2112 = .ok (.ifCond .eq 25, 3) := dk_153 0 25 (dk_at dksL_law_84 0 rfl rfl)
theorem dL_law_2115 : decode cL_law 2115 = .ok (.aload 4, 2) := dk_25 4 (dk_at dksL_law_84 3 rfl rfl)
theorem dL_law_2117 : decode cL_law 2117 = .ok (.iconst 0, 1) := dk_3 (dk_at dksL_law_84 5 rfl rfl)
theorem dL_law_2118 : decode cL_law 2118 = .ok (.daload, 1) := dk_49 (dk_at dksL_law_84 6 rfl rfl)
theorem dL_law_2119 : decode cL_law 2119 = .ok (.aload 4, 2) := dk_25 4 (dk_at dksL_law_84 7 rfl rfl)
theorem dL_law_2121 : decode cL_law 2121 = .ok (.iconst 0, 1) := dk_3 (dk_at dksL_law_84 9 rfl rfl)
theorem dL_law_2122 : decode cL_law 2122 = .ok (.daload, 1) := dk_49 (dk_at dksL_law_84 10 rfl rfl)
theorem dL_law_2123 : decode cL_law 2123 = .ok (.dcmp .l, 1) := dk_151 (dk_at dksL_law_84 11 rfl rfl)
theorem dL_law_2124 : decode cL_law 2124 = .ok (.ifCond .eq 11, 3) := dk_153 0 11 (dk_at dksL_law_84 12 rfl rfl)
theorem dL_law_2127 : decode cL_law 2127 = .ok (.dload 7, 2) := dk_24 7 (dk_at dksL_law_84 15 rfl rfl)
theorem dL_law_2129 : decode cL_law 2129 = .ok (.dload 7, 2) := dk_24 7 (dk_at dksL_law_84 17 rfl rfl)
theorem dL_law_2131 : decode cL_law 2131 = .ok (.dcmp .l, 1) := dk_151 (dk_at dksL_law_84 19 rfl rfl)
theorem dL_law_2132 : decode cL_law 2132 = .ok (.ifCond .ne 5, 3) := dk_154 0 5 (dk_at dksL_law_84 20 rfl rfl)
theorem dL_law_2135 : decode cL_law 2135 = .ok (.iconst 0, 1) := dk_3 (dk_at dksL_law_84 23 rfl rfl)
theorem dL_law_2136 : decode cL_law 2136 = .ok (.ireturn, 1) := dk_172 (dk_at dksL_law_85 0 rfl rfl)
theorem dL_law_2137 : decode cL_law 2137 = .ok (.goto 444, 3) := dk_167 1 188 (dk_at dksL_law_85 1 rfl rfl)
theorem dL_law_2140 : decode cL_law 2140 = .ok (.aload_n 1, 1) := dk_43 (dk_at dksL_law_85 4 rfl rfl)
theorem dL_law_2141 : decode cL_law 2141 = .ok (.aload 4, 2) := dk_25 4 (dk_at dksL_law_85 5 rfl rfl)
theorem dL_law_2143 : decode cL_law 2143 = .ok (.invokestatic 254, 3) := dk_184 0 254 (dk_at dksL_law_85 7 rfl rfl)
theorem dL_law_2146 : decode cL_law 2146 = .ok (.istore 6, 2) := dk_54 6 (dk_at dksL_law_85 10 rfl rfl)
theorem dL_law_2148 : decode cL_law 2148 = .ok (.aload_n 2, 1) := dk_44 (dk_at dksL_law_85 12 rfl rfl)
theorem dL_law_2149 : decode cL_law 2149 = .ok (.invokevirtual 256, 3) := dk_182 1 0 (dk_at dksL_law_85 13 rfl rfl)
theorem dL_law_2152 : decode cL_law 2152 = .ok (.fstore 7, 2) := dk_56 7 (dk_at dksL_law_85 16 rfl rfl)
theorem dL_law_2154 : decode cL_law 2154 = .ok (.aload_n 2, 1) := dk_44 (dk_at dksL_law_85 18 rfl rfl)
theorem dL_law_2155 : decode cL_law 2155 = .ok (.invokevirtual 145, 3) := dk_182 0 145 (dk_at dksL_law_85 19 rfl rfl)
theorem dL_law_2158 : decode cL_law 2158 = .ok (.iload 6, 2) := dk_21 6 (dk_at dksL_law_85 22 rfl rfl)
theorem dL_law_2160 : decode cL_law 2160 = .ok (.if_icmp .eq 5, 3) := dk_159 0 5 (dk_at dksL_law_86 0 rfl rfl)
theorem dL_law_2163 : decode cL_law 2163 = .ok (.iconst 0, 1) := dk_3 (dk_at dksL_law_86 3 rfl rfl)
theorem dL_law_2164 : decode cL_law 2164 = .ok (.ireturn, 1) := dk_172 (dk_at dksL_law_86 4 rfl rfl)
theorem dL_law_2165 : decode cL_law 2165 = .ok (.iload 6, 2) := dk_21 6 (dk_at dksL_law_86 5 rfl rfl)
theorem dL_law_2167 : decode cL_law 2167 = .ok (.ifCond .ne 36, 3) := dk_154 0 36 (dk_at dksL_law_86 7 rfl rfl)
theorem dL_law_2170 : decode cL_law 2170 = .ok (.aload 4, 2) := dk_25 4 (dk_at dksL_law_86 10 rfl rfl)
theorem dL_law_2172 : decode cL_law 2172 = .ok (.iconst 0, 1) := dk_3 (dk_at dksL_law_86 12 rfl rfl)
theorem dL_law_2173 : decode cL_law 2173 = .ok (.daload, 1) := dk_49 (dk_at dksL_law_86 13 rfl rfl)
theorem dL_law_2174 : decode cL_law 2174 = .ok (.fload 7, 2) := dk_23 7 (dk_at dksL_law_86 14 rfl rfl)
theorem dL_law_2176 : decode cL_law 2176 = .ok (.f2d, 1) := dk_141 (dk_at dksL_law_86 16 rfl rfl)
theorem dL_law_2177 : decode cL_law 2177 = .ok (.dcmp .l, 1) := dk_151 (dk_at dksL_law_86 17 rfl rfl)
theorem dL_law_2178 : decode cL_law 2178 = .ok (.ifCond .eq 25, 3) := dk_153 0 25 (dk_at dksL_law_86 18 rfl rfl)
theorem dL_law_2181 : decode cL_law 2181 = .ok (.aload 4, 2) := dk_25 4 (dk_at dksL_law_86 21 rfl rfl)
theorem dL_law_2183 : decode cL_law 2183 = .ok (.iconst 0, 1) := dk_3 (dk_at dksL_law_86 23 rfl rfl)
theorem dL_law_2184 : decode cL_law 2184 = .ok (.daload, 1) := dk_49 (dk_at dksL_law_87 0 rfl rfl)
theorem dL_law_2185 : decode cL_law 2185 = .ok (.aload 4, 2) := dk_25 4 (dk_at dksL_law_87 1 rfl rfl)
theorem dL_law_2187 : decode cL_law 2187 = .ok (.iconst 0, 1) := dk_3 (dk_at dksL_law_87 3 rfl rfl)
theorem dL_law_2188 : decode cL_law 2188 = .ok (.daload, 1) := dk_49 (dk_at dksL_law_87 4 rfl rfl)
theorem dL_law_2189 : decode cL_law 2189 = .ok (.dcmp .l, 1) := dk_151 (dk_at dksL_law_87 5 rfl rfl)
theorem dL_law_2190 : decode cL_law 2190 = .ok (.ifCond .eq 11, 3) := dk_153 0 11 (dk_at dksL_law_87 6 rfl rfl)
theorem dL_law_2193 : decode cL_law 2193 = .ok (.fload 7, 2) := dk_23 7 (dk_at dksL_law_87 9 rfl rfl)
theorem dL_law_2195 : decode cL_law 2195 = .ok (.fload 7, 2) := dk_23 7 (dk_at dksL_law_87 11 rfl rfl)
theorem dL_law_2197 : decode cL_law 2197 = .ok (.fcmp .l, 1) := dk_149 (dk_at dksL_law_87 13 rfl rfl)
theorem dL_law_2198 : decode cL_law 2198 = .ok (.ifCond .ne 5, 3) := dk_154 0 5 (dk_at dksL_law_87 14 rfl rfl)
theorem dL_law_2201 : decode cL_law 2201 = .ok (.iconst 0, 1) := dk_3 (dk_at dksL_law_87 17 rfl rfl)
theorem dL_law_2202 : decode cL_law 2202 = .ok (.ireturn, 1) := dk_172 (dk_at dksL_law_87 18 rfl rfl)
theorem dL_law_2203 : decode cL_law 2203 = .ok (.goto 378, 3) := dk_167 1 122 (dk_at dksL_law_87 19 rfl rfl)
theorem dL_law_2206 : decode cL_law 2206 = .ok (.aload_n 1, 1) := dk_43 (dk_at dksL_law_87 22 rfl rfl)
theorem dL_law_2207 : decode cL_law 2207 = .ok (.aload_n 0, 1) := dk_42 (dk_at dksL_law_87 23 rfl rfl)
theorem dL_law_2208 : decode cL_law 2208 = .ok (.iload 5, 2) := dk_21 5 (dk_at dksL_law_88 0 rfl rfl)
theorem dL_law_2210 : decode cL_law 2210 = .ok (.iconst 1, 1) := dk_4 (dk_at dksL_law_88 2 rfl rfl)
theorem dL_law_2211 : decode cL_law 2211 = .ok (.iadd, 1) := dk_96 (dk_at dksL_law_88 3 rfl rfl)
theorem dL_law_2212 : decode cL_law 2212 = .ok (.iaload, 1) := dk_46 (dk_at dksL_law_88 4 rfl rfl)
theorem dL_law_2213 : decode cL_law 2213 = .ok (.aload_n 3, 1) := dk_45 (dk_at dksL_law_88 5 rfl rfl)
theorem dL_law_2214 : decode cL_law 2214 = .ok (.invokestatic 257, 3) := dk_184 1 1 (dk_at dksL_law_88 6 rfl rfl)
theorem dL_law_2217 : decode cL_law 2217 = .ok (.istore 6, 2) := dk_54 6 (dk_at dksL_law_88 9 rfl rfl)
theorem dL_law_2219 : decode cL_law 2219 = .ok (.aload_n 2, 1) := dk_44 (dk_at dksL_law_88 11 rfl rfl)
theorem dL_law_2220 : decode cL_law 2220 = .ok (.aload_n 0, 1) := dk_42 (dk_at dksL_law_88 12 rfl rfl)
theorem dL_law_2221 : decode cL_law 2221 = .ok (.iload 5, 2) := dk_21 5 (dk_at dksL_law_88 13 rfl rfl)
theorem dL_law_2223 : decode cL_law 2223 = .ok (.iconst 1, 1) := dk_4 (dk_at dksL_law_88 15 rfl rfl)
theorem dL_law_2224 : decode cL_law 2224 = .ok (.iadd, 1) := dk_96 (dk_at dksL_law_88 16 rfl rfl)
theorem dL_law_2225 : decode cL_law 2225 = .ok (.iaload, 1) := dk_46 (dk_at dksL_law_88 17 rfl rfl)
theorem dL_law_2226 : decode cL_law 2226 = .ok (.invokevirtual 259, 3) := dk_182 1 3 (dk_at dksL_law_88 18 rfl rfl)
theorem dL_law_2229 : decode cL_law 2229 = .ok (.istore 7, 2) := dk_54 7 (dk_at dksL_law_88 21 rfl rfl)
theorem dL_law_2231 : decode cL_law 2231 = .ok (.aload_n 2, 1) := dk_44 (dk_at dksL_law_88 23 rfl rfl)
theorem dL_law_2232 : decode cL_law 2232 = .ok (.invokevirtual 145, 3) := dk_182 0 145 (dk_at dksL_law_89 0 rfl rfl)
theorem dL_law_2235 : decode cL_law 2235 = .ok (.iload 6, 2) := dk_21 6 (dk_at dksL_law_89 3 rfl rfl)
theorem dL_law_2237 : decode cL_law 2237 = .ok (.if_icmp .eq 5, 3) := dk_159 0 5 (dk_at dksL_law_89 5 rfl rfl)
theorem dL_law_2240 : decode cL_law 2240 = .ok (.iconst 0, 1) := dk_3 (dk_at dksL_law_89 8 rfl rfl)
theorem dL_law_2241 : decode cL_law 2241 = .ok (.ireturn, 1) := dk_172 (dk_at dksL_law_89 9 rfl rfl)
theorem dL_law_2242 : decode cL_law 2242 = .ok (.iload 6, 2) := dk_21 6 (dk_at dksL_law_89 10 rfl rfl)
theorem dL_law_2244 : decode cL_law 2244 = .ok (.ifCond .ne 15, 3) := dk_154 0 15 (dk_at dksL_law_89 12 rfl rfl)
theorem dL_law_2247 : decode cL_law 2247 = .ok (.aload_n 3, 1) := dk_45 (dk_at dksL_law_89 15 rfl rfl)
theorem dL_law_2248 : decode cL_law 2248 = .ok (.iconst 0, 1) := dk_3 (dk_at dksL_law_89 16 rfl rfl)
theorem dL_law_2249 : decode cL_law 2249 = .ok (.laload, 1) := dk_47 (dk_at dksL_law_89 17 rfl rfl)
theorem dL_law_2250 : decode cL_law 2250 = .ok (.iload 7, 2) := dk_21 7 (dk_at dksL_law_89 18 rfl rfl)
theorem dL_law_2252 : decode cL_law 2252 = .ok (.i2l, 1) := dk_133 (dk_at dksL_law_89 20 rfl rfl)
theorem dL_law_2253 : decode cL_law 2253 = .ok (.lcmp, 1) := dk_148 (dk_at dksL_law_89 21 rfl rfl)
theorem dL_law_2254 : decode cL_law 2254 = .ok (.ifCond .eq 5, 3) := dk_153 0 5 (dk_at dksL_law_90 0 rfl rfl)
theorem dL_law_2257 : decode cL_law 2257 = .ok (.iconst 0, 1) := dk_3 (dk_at dksL_law_90 3 rfl rfl)
theorem dL_law_2258 : decode cL_law 2258 = .ok (.ireturn, 1) := dk_172 (dk_at dksL_law_90 4 rfl rfl)
theorem dL_law_2259 : decode cL_law 2259 = .ok (.goto 322, 3) := dk_167 1 66 (dk_at dksL_law_90 5 rfl rfl)
theorem dL_law_2262 : decode cL_law 2262 = .ok (.aload_n 1, 1) := dk_43 (dk_at dksL_law_90 8 rfl rfl)
theorem dL_law_2263 : decode cL_law 2263 = .ok (.aload_n 0, 1) := dk_42 (dk_at dksL_law_90 9 rfl rfl)
theorem dL_law_2264 : decode cL_law 2264 = .ok (.iload 5, 2) := dk_21 5 (dk_at dksL_law_90 10 rfl rfl)
theorem dL_law_2266 : decode cL_law 2266 = .ok (.iconst 1, 1) := dk_4 (dk_at dksL_law_90 12 rfl rfl)
theorem dL_law_2267 : decode cL_law 2267 = .ok (.iadd, 1) := dk_96 (dk_at dksL_law_90 13 rfl rfl)
theorem dL_law_2268 : decode cL_law 2268 = .ok (.iaload, 1) := dk_46 (dk_at dksL_law_90 14 rfl rfl)
theorem dL_law_2269 : decode cL_law 2269 = .ok (.i2c, 1) := dk_146 (dk_at dksL_law_90 15 rfl rfl)
theorem dL_law_2270 : decode cL_law 2270 = .ok (.aload_n 3, 1) := dk_45 (dk_at dksL_law_90 16 rfl rfl)
theorem dL_law_2271 : decode cL_law 2271 = .ok (.invokestatic 260, 3) := dk_184 1 4 (dk_at dksL_law_90 17 rfl rfl)
theorem dL_law_2274 : decode cL_law 2274 = .ok (.istore 6, 2) := dk_54 6 (dk_at dksL_law_90 20 rfl rfl)
theorem dL_law_2276 : decode cL_law 2276 = .ok (.aload_n 2, 1) := dk_44 (dk_at dksL_law_90 22 rfl rfl)
theorem dL_law_2277 : decode cL_law 2277 = .ok (.aload_n 0, 1) := dk_42 (dk_at dksL_law_90 23 rfl rfl)
theorem dL_law_2278 : decode cL_law 2278 = .ok (.iload 5, 2) := dk_21 5 (dk_at dksL_law_91 0 rfl rfl)
theorem dL_law_2280 : decode cL_law 2280 = .ok (.iconst 1, 1) := dk_4 (dk_at dksL_law_91 2 rfl rfl)
theorem dL_law_2281 : decode cL_law 2281 = .ok (.iadd, 1) := dk_96 (dk_at dksL_law_91 3 rfl rfl)
theorem dL_law_2282 : decode cL_law 2282 = .ok (.iaload, 1) := dk_46 (dk_at dksL_law_91 4 rfl rfl)
theorem dL_law_2283 : decode cL_law 2283 = .ok (.i2c, 1) := dk_146 (dk_at dksL_law_91 5 rfl rfl)
theorem dL_law_2284 : decode cL_law 2284 = .ok (.invokevirtual 263, 3) := dk_182 1 7 (dk_at dksL_law_91 6 rfl rfl)
theorem dL_law_2287 : decode cL_law 2287 = .ok (.istore 7, 2) := dk_54 7 (dk_at dksL_law_91 9 rfl rfl)
theorem dL_law_2289 : decode cL_law 2289 = .ok (.aload_n 2, 1) := dk_44 (dk_at dksL_law_91 11 rfl rfl)
theorem dL_law_2290 : decode cL_law 2290 = .ok (.invokevirtual 145, 3) := dk_182 0 145 (dk_at dksL_law_91 12 rfl rfl)
theorem dL_law_2293 : decode cL_law 2293 = .ok (.iload 6, 2) := dk_21 6 (dk_at dksL_law_91 15 rfl rfl)
theorem dL_law_2295 : decode cL_law 2295 = .ok (.if_icmp .eq 5, 3) := dk_159 0 5 (dk_at dksL_law_91 17 rfl rfl)
theorem dL_law_2298 : decode cL_law 2298 = .ok (.iconst 0, 1) := dk_3 (dk_at dksL_law_91 20 rfl rfl)
theorem dL_law_2299 : decode cL_law 2299 = .ok (.ireturn, 1) := dk_172 (dk_at dksL_law_91 21 rfl rfl)
theorem dL_law_2300 : decode cL_law 2300 = .ok (.iload 6, 2) := dk_21 6 (dk_at dksL_law_91 22 rfl rfl)
theorem dL_law_2302 : decode cL_law 2302 = .ok (.ifCond .ne 15, 3) := dk_154 0 15 (dk_at dksL_law_92 0 rfl rfl)
theorem dL_law_2305 : decode cL_law 2305 = .ok (.aload_n 3, 1) := dk_45 (dk_at dksL_law_92 3 rfl rfl)
theorem dL_law_2306 : decode cL_law 2306 = .ok (.iconst 0, 1) := dk_3 (dk_at dksL_law_92 4 rfl rfl)
theorem dL_law_2307 : decode cL_law 2307 = .ok (.laload, 1) := dk_47 (dk_at dksL_law_92 5 rfl rfl)
theorem dL_law_2308 : decode cL_law 2308 = .ok (.iload 7, 2) := dk_21 7 (dk_at dksL_law_92 6 rfl rfl)
theorem dL_law_2310 : decode cL_law 2310 = .ok (.i2l, 1) := dk_133 (dk_at dksL_law_92 8 rfl rfl)
theorem dL_law_2311 : decode cL_law 2311 = .ok (.lcmp, 1) := dk_148 (dk_at dksL_law_92 9 rfl rfl)
theorem dL_law_2312 : decode cL_law 2312 = .ok (.ifCond .eq 5, 3) := dk_153 0 5 (dk_at dksL_law_92 10 rfl rfl)
theorem dL_law_2315 : decode cL_law 2315 = .ok (.iconst 0, 1) := dk_3 (dk_at dksL_law_92 13 rfl rfl)
theorem dL_law_2316 : decode cL_law 2316 = .ok (.ireturn, 1) := dk_172 (dk_at dksL_law_92 14 rfl rfl)
theorem dL_law_2317 : decode cL_law 2317 = .ok (.goto 264, 3) := dk_167 1 8 (dk_at dksL_law_92 15 rfl rfl)
theorem dL_law_2320 : decode cL_law 2320 = .ok (.aload_n 1, 1) := dk_43 (dk_at dksL_law_92 18 rfl rfl)
theorem dL_law_2321 : decode cL_law 2321 = .ok (.aload_n 3, 1) := dk_45 (dk_at dksL_law_92 19 rfl rfl)
theorem dL_law_2322 : decode cL_law 2322 = .ok (.invokestatic 264, 3) := dk_184 1 8 (dk_at dksL_law_92 20 rfl rfl)
theorem dL_law_2325 : decode cL_law 2325 = .ok (.istore 6, 2) := dk_54 6 (dk_at dksL_law_93 0 rfl rfl)
theorem dL_law_2327 : decode cL_law 2327 = .ok (.aload_n 2, 1) := dk_44 (dk_at dksL_law_93 2 rfl rfl)
theorem dL_law_2328 : decode cL_law 2328 = .ok (.invokevirtual 266, 3) := dk_182 1 10 (dk_at dksL_law_93 3 rfl rfl)
theorem dL_law_2331 : decode cL_law 2331 = .ok (.istore 7, 2) := dk_54 7 (dk_at dksL_law_93 6 rfl rfl)
theorem dL_law_2333 : decode cL_law 2333 = .ok (.aload_n 2, 1) := dk_44 (dk_at dksL_law_93 8 rfl rfl)
theorem dL_law_2334 : decode cL_law 2334 = .ok (.invokevirtual 145, 3) := dk_182 0 145 (dk_at dksL_law_93 9 rfl rfl)
theorem dL_law_2337 : decode cL_law 2337 = .ok (.iload 6, 2) := dk_21 6 (dk_at dksL_law_93 12 rfl rfl)
theorem dL_law_2339 : decode cL_law 2339 = .ok (.if_icmp .eq 5, 3) := dk_159 0 5 (dk_at dksL_law_93 14 rfl rfl)
theorem dL_law_2342 : decode cL_law 2342 = .ok (.iconst 0, 1) := dk_3 (dk_at dksL_law_93 17 rfl rfl)
theorem dL_law_2343 : decode cL_law 2343 = .ok (.ireturn, 1) := dk_172 (dk_at dksL_law_93 18 rfl rfl)
theorem dL_law_2344 : decode cL_law 2344 = .ok (.iload 6, 2) := dk_21 6 (dk_at dksL_law_93 19 rfl rfl)
theorem dL_law_2346 : decode cL_law 2346 = .ok (.ifCond .ne 15, 3) := dk_154 0 15 (dk_at dksL_law_93 21 rfl rfl)
theorem dL_law_2349 : decode cL_law 2349 = .ok (.aload_n 3, 1) := dk_45 (dk_at dksL_law_94 0 rfl rfl)
theorem dL_law_2350 : decode cL_law 2350 = .ok (.iconst 0, 1) := dk_3 (dk_at dksL_law_94 1 rfl rfl)
theorem dL_law_2351 : decode cL_law 2351 = .ok (.laload, 1) := dk_47 (dk_at dksL_law_94 2 rfl rfl)
theorem dL_law_2352 : decode cL_law 2352 = .ok (.iload 7, 2) := dk_21 7 (dk_at dksL_law_94 3 rfl rfl)
theorem dL_law_2354 : decode cL_law 2354 = .ok (.i2l, 1) := dk_133 (dk_at dksL_law_94 5 rfl rfl)
theorem dL_law_2355 : decode cL_law 2355 = .ok (.lcmp, 1) := dk_148 (dk_at dksL_law_94 6 rfl rfl)
theorem dL_law_2356 : decode cL_law 2356 = .ok (.ifCond .eq 5, 3) := dk_153 0 5 (dk_at dksL_law_94 7 rfl rfl)
theorem dL_law_2359 : decode cL_law 2359 = .ok (.iconst 0, 1) := dk_3 (dk_at dksL_law_94 10 rfl rfl)
theorem dL_law_2360 : decode cL_law 2360 = .ok (.ireturn, 1) := dk_172 (dk_at dksL_law_94 11 rfl rfl)
theorem dL_law_2361 : decode cL_law 2361 = .ok (.goto 220, 3) := dk_167 0 220 (dk_at dksL_law_94 12 rfl rfl)
theorem dL_law_2364 : decode cL_law 2364 = .ok (.aload_n 1, 1) := dk_43 (dk_at dksL_law_94 15 rfl rfl)
theorem dL_law_2365 : decode cL_law 2365 = .ok (.aload_n 3, 1) := dk_45 (dk_at dksL_law_94 16 rfl rfl)
theorem dL_law_2366 : decode cL_law 2366 = .ok (.invokestatic 267, 3) := dk_184 1 11 (dk_at dksL_law_94 17 rfl rfl)
theorem dL_law_2369 : decode cL_law 2369 = .ok (.istore 6, 2) := dk_54 6 (dk_at dksL_law_94 20 rfl rfl)
theorem dL_law_2371 : decode cL_law 2371 = .ok (.aload_n 2, 1) := dk_44 (dk_at dksL_law_94 22 rfl rfl)
theorem dL_law_2372 : decode cL_law 2372 = .ok (.invokevirtual 269, 3) := dk_182 1 13 (dk_at dksL_law_95 0 rfl rfl)
theorem dL_law_2375 : decode cL_law 2375 = .ok (.istore 7, 2) := dk_54 7 (dk_at dksL_law_95 3 rfl rfl)
theorem dL_law_2377 : decode cL_law 2377 = .ok (.aload_n 2, 1) := dk_44 (dk_at dksL_law_95 5 rfl rfl)
theorem dL_law_2378 : decode cL_law 2378 = .ok (.invokevirtual 145, 3) := dk_182 0 145 (dk_at dksL_law_95 6 rfl rfl)
theorem dL_law_2381 : decode cL_law 2381 = .ok (.iload 6, 2) := dk_21 6 (dk_at dksL_law_95 9 rfl rfl)
theorem dL_law_2383 : decode cL_law 2383 = .ok (.if_icmp .eq 5, 3) := dk_159 0 5 (dk_at dksL_law_95 11 rfl rfl)
theorem dL_law_2386 : decode cL_law 2386 = .ok (.iconst 0, 1) := dk_3 (dk_at dksL_law_95 14 rfl rfl)
theorem dL_law_2387 : decode cL_law 2387 = .ok (.ireturn, 1) := dk_172 (dk_at dksL_law_95 15 rfl rfl)
theorem dL_law_2388 : decode cL_law 2388 = .ok (.iload 6, 2) := dk_21 6 (dk_at dksL_law_95 16 rfl rfl)
theorem dL_law_2390 : decode cL_law 2390 = .ok (.ifCond .ne 15, 3) := dk_154 0 15 (dk_at dksL_law_95 18 rfl rfl)
theorem dL_law_2393 : decode cL_law 2393 = .ok (.aload_n 3, 1) := dk_45 (dk_at dksL_law_95 21 rfl rfl)
theorem dL_law_2394 : decode cL_law 2394 = .ok (.iconst 0, 1) := dk_3 (dk_at dksL_law_95 22 rfl rfl)
theorem dL_law_2395 : decode cL_law 2395 = .ok (.laload, 1) := dk_47 (dk_at dksL_law_95 23 rfl rfl)
theorem dL_law_2396 : decode cL_law 2396 = .ok (.iload 7, 2) := dk_21 7 (dk_at dksL_law_96 0 rfl rfl)
theorem dL_law_2398 : decode cL_law 2398 = .ok (.i2l, 1) := dk_133 (dk_at dksL_law_96 2 rfl rfl)
theorem dL_law_2399 : decode cL_law 2399 = .ok (.lcmp, 1) := dk_148 (dk_at dksL_law_96 3 rfl rfl)
theorem dL_law_2400 : decode cL_law 2400 = .ok (.ifCond .eq 5, 3) := dk_153 0 5 (dk_at dksL_law_96 4 rfl rfl)
theorem dL_law_2403 : decode cL_law 2403 = .ok (.iconst 0, 1) := dk_3 (dk_at dksL_law_96 7 rfl rfl)
theorem dL_law_2404 : decode cL_law 2404 = .ok (.ireturn, 1) := dk_172 (dk_at dksL_law_96 8 rfl rfl)
theorem dL_law_2405 : decode cL_law 2405 = .ok (.goto 176, 3) := dk_167 0 176 (dk_at dksL_law_96 9 rfl rfl)
theorem dL_law_2408 : decode cL_law 2408 = .ok (.aload_n 1, 1) := dk_43 (dk_at dksL_law_96 12 rfl rfl)
theorem dL_law_2409 : decode cL_law 2409 = .ok (.aload_n 0, 1) := dk_42 (dk_at dksL_law_96 13 rfl rfl)
theorem dL_law_2410 : decode cL_law 2410 = .ok (.iload 5, 2) := dk_21 5 (dk_at dksL_law_96 14 rfl rfl)
theorem dL_law_2412 : decode cL_law 2412 = .ok (.iconst 1, 1) := dk_4 (dk_at dksL_law_96 16 rfl rfl)
theorem dL_law_2413 : decode cL_law 2413 = .ok (.iadd, 1) := dk_96 (dk_at dksL_law_96 17 rfl rfl)
theorem dL_law_2414 : decode cL_law 2414 = .ok (.iaload, 1) := dk_46 (dk_at dksL_law_96 18 rfl rfl)
theorem dL_law_2415 : decode cL_law 2415 = .ok (.ifCond .eq 7, 3) := dk_153 0 7 (dk_at dksL_law_96 19 rfl rfl)
theorem dL_law_2418 : decode cL_law 2418 = .ok (.iconst 1, 1) := dk_4 (dk_at dksL_law_96 22 rfl rfl)
theorem dL_law_2419 : decode cL_law 2419 = .ok (.goto 4, 3) := dk_167 0 4 (dk_at dksL_law_97 0 rfl rfl)
theorem dL_law_2422 : decode cL_law 2422 = .ok (.iconst 0, 1) := dk_3 (dk_at dksL_law_97 3 rfl rfl)
theorem dL_law_2423 : decode cL_law 2423 = .ok (.aload_n 3, 1) := dk_45 (dk_at dksL_law_97 4 rfl rfl)
theorem dL_law_2424 : decode cL_law 2424 = .ok (.invokestatic 270, 3) := dk_184 1 14 (dk_at dksL_law_97 5 rfl rfl)
theorem dL_law_2427 : decode cL_law 2427 = .ok (.istore 6, 2) := dk_54 6 (dk_at dksL_law_97 8 rfl rfl)
theorem dL_law_2429 : decode cL_law 2429 = .ok (.aload_n 2, 1) := dk_44 (dk_at dksL_law_97 10 rfl rfl)
theorem dL_law_2430 : decode cL_law 2430 = .ok (.aload_n 0, 1) := dk_42 (dk_at dksL_law_97 11 rfl rfl)
theorem dL_law_2431 : decode cL_law 2431 = .ok (.iload 5, 2) := dk_21 5 (dk_at dksL_law_97 12 rfl rfl)
theorem dL_law_2433 : decode cL_law 2433 = .ok (.iconst 1, 1) := dk_4 (dk_at dksL_law_97 14 rfl rfl)
theorem dL_law_2434 : decode cL_law 2434 = .ok (.iadd, 1) := dk_96 (dk_at dksL_law_97 15 rfl rfl)
theorem dL_law_2435 : decode cL_law 2435 = .ok (.iaload, 1) := dk_46 (dk_at dksL_law_97 16 rfl rfl)
theorem dL_law_2436 : decode cL_law 2436 = .ok (.ifCond .eq 7, 3) := dk_153 0 7 (dk_at dksL_law_97 17 rfl rfl)
theorem dL_law_2439 : decode cL_law 2439 = .ok (.iconst 1, 1) := dk_4 (dk_at dksL_law_97 20 rfl rfl)
theorem dL_law_2440 : decode cL_law 2440 = .ok (.goto 4, 3) := dk_167 0 4 (dk_at dksL_law_97 21 rfl rfl)
theorem dL_law_2443 : decode cL_law 2443 = .ok (.iconst 0, 1) := dk_3 (dk_at dksL_law_98 0 rfl rfl)
theorem dL_law_2444 : decode cL_law 2444 = .ok (.invokevirtual 273, 3) := dk_182 1 17 (dk_at dksL_law_98 1 rfl rfl)
theorem dL_law_2447 : decode cL_law 2447 = .ok (.istore 7, 2) := dk_54 7 (dk_at dksL_law_98 4 rfl rfl)
theorem dL_law_2449 : decode cL_law 2449 = .ok (.aload_n 2, 1) := dk_44 (dk_at dksL_law_98 6 rfl rfl)
theorem dL_law_2450 : decode cL_law 2450 = .ok (.invokevirtual 145, 3) := dk_182 0 145 (dk_at dksL_law_98 7 rfl rfl)
theorem dL_law_2453 : decode cL_law 2453 = .ok (.iload 6, 2) := dk_21 6 (dk_at dksL_law_98 10 rfl rfl)
theorem dL_law_2455 : decode cL_law 2455 = .ok (.if_icmp .eq 5, 3) := dk_159 0 5 (dk_at dksL_law_98 12 rfl rfl)
theorem dL_law_2458 : decode cL_law 2458 = .ok (.iconst 0, 1) := dk_3 (dk_at dksL_law_98 15 rfl rfl)
theorem dL_law_2459 : decode cL_law 2459 = .ok (.ireturn, 1) := dk_172 (dk_at dksL_law_98 16 rfl rfl)
theorem dL_law_2460 : decode cL_law 2460 = .ok (.iload 6, 2) := dk_21 6 (dk_at dksL_law_98 17 rfl rfl)
theorem dL_law_2462 : decode cL_law 2462 = .ok (.ifCond .ne 15, 3) := dk_154 0 15 (dk_at dksL_law_98 19 rfl rfl)
theorem dL_law_2465 : decode cL_law 2465 = .ok (.aload_n 3, 1) := dk_45 (dk_at dksL_law_98 22 rfl rfl)
theorem dL_law_2466 : decode cL_law 2466 = .ok (.iconst 0, 1) := dk_3 (dk_at dksL_law_98 23 rfl rfl)
theorem dL_law_2467 : decode cL_law 2467 = .ok (.laload, 1) := dk_47 (dk_at dksL_law_99 0 rfl rfl)
theorem dL_law_2468 : decode cL_law 2468 = .ok (.iload 7, 2) := dk_21 7 (dk_at dksL_law_99 1 rfl rfl)
theorem dL_law_2470 : decode cL_law 2470 = .ok (.i2l, 1) := dk_133 (dk_at dksL_law_99 3 rfl rfl)
theorem dL_law_2471 : decode cL_law 2471 = .ok (.lcmp, 1) := dk_148 (dk_at dksL_law_99 4 rfl rfl)
theorem dL_law_2472 : decode cL_law 2472 = .ok (.ifCond .eq 5, 3) := dk_153 0 5 (dk_at dksL_law_99 5 rfl rfl)
theorem dL_law_2475 : decode cL_law 2475 = .ok (.iconst 0, 1) := dk_3 (dk_at dksL_law_99 8 rfl rfl)
theorem dL_law_2476 : decode cL_law 2476 = .ok (.ireturn, 1) := dk_172 (dk_at dksL_law_99 9 rfl rfl)
theorem dL_law_2477 : decode cL_law 2477 = .ok (.goto 104, 3) := dk_167 0 104 (dk_at dksL_law_99 10 rfl rfl)
theorem dL_law_2480 : decode cL_law 2480 = .ok (.aload_n 1, 1) := dk_43 (dk_at dksL_law_99 13 rfl rfl)
theorem dL_law_2481 : decode cL_law 2481 = .ok (.aload_n 3, 1) := dk_45 (dk_at dksL_law_99 14 rfl rfl)
theorem dL_law_2482 : decode cL_law 2482 = .ok (.invokestatic 274, 3) := dk_184 1 18 (dk_at dksL_law_99 15 rfl rfl)
theorem dL_law_2485 : decode cL_law 2485 = .ok (.istore 6, 2) := dk_54 6 (dk_at dksL_law_99 18 rfl rfl)
theorem dL_law_2487 : decode cL_law 2487 = .ok (.aload_n 2, 1) := dk_44 (dk_at dksL_law_99 20 rfl rfl)
theorem dL_law_2488 : decode cL_law 2488 = .ok (.invokevirtual 276, 3) := dk_182 1 20 (dk_at dksL_law_99 21 rfl rfl)
theorem dL_law_2491 : decode cL_law 2491 = .ok (.istore 7, 2) := dk_54 7 (dk_at dksL_law_100 0 rfl rfl)
theorem dL_law_2493 : decode cL_law 2493 = .ok (.aload_n 2, 1) := dk_44 (dk_at dksL_law_100 2 rfl rfl)
theorem dL_law_2494 : decode cL_law 2494 = .ok (.invokevirtual 145, 3) := dk_182 0 145 (dk_at dksL_law_100 3 rfl rfl)
theorem dL_law_2497 : decode cL_law 2497 = .ok (.iload 6, 2) := dk_21 6 (dk_at dksL_law_100 6 rfl rfl)
theorem dL_law_2499 : decode cL_law 2499 = .ok (.if_icmp .eq 5, 3) := dk_159 0 5 (dk_at dksL_law_100 8 rfl rfl)
theorem dL_law_2502 : decode cL_law 2502 = .ok (.iconst 0, 1) := dk_3 (dk_at dksL_law_100 11 rfl rfl)
theorem dL_law_2503 : decode cL_law 2503 = .ok (.ireturn, 1) := dk_172 (dk_at dksL_law_100 12 rfl rfl)
theorem dL_law_2504 : decode cL_law 2504 = .ok (.iload 6, 2) := dk_21 6 (dk_at dksL_law_100 13 rfl rfl)
theorem dL_law_2506 : decode cL_law 2506 = .ok (.ifCond .ne 15, 3) := dk_154 0 15 (dk_at dksL_law_100 15 rfl rfl)
theorem dL_law_2509 : decode cL_law 2509 = .ok (.aload_n 3, 1) := dk_45 (dk_at dksL_law_100 18 rfl rfl)
theorem dL_law_2510 : decode cL_law 2510 = .ok (.iconst 0, 1) := dk_3 (dk_at dksL_law_100 19 rfl rfl)
theorem dL_law_2511 : decode cL_law 2511 = .ok (.laload, 1) := dk_47 (dk_at dksL_law_100 20 rfl rfl)
theorem dL_law_2512 : decode cL_law 2512 = .ok (.iload 7, 2) := dk_21 7 (dk_at dksL_law_100 21 rfl rfl)
theorem dL_law_2514 : decode cL_law 2514 = .ok (.i2l, 1) := dk_133 (dk_at dksL_law_100 23 rfl rfl)
theorem dL_law_2515 : decode cL_law 2515 = .ok (.lcmp, 1) := dk_148 (dk_at dksL_law_101 0 rfl rfl)
theorem dL_law_2516 : decode cL_law 2516 = .ok (.ifCond .eq 5, 3) := dk_153 0 5 (dk_at dksL_law_101 1 rfl rfl)
theorem dL_law_2519 : decode cL_law 2519 = .ok (.iconst 0, 1) := dk_3 (dk_at dksL_law_101 4 rfl rfl)
theorem dL_law_2520 : decode cL_law 2520 = .ok (.ireturn, 1) := dk_172 (dk_at dksL_law_101 5 rfl rfl)
theorem dL_law_2521 : decode cL_law 2521 = .ok (.goto 60, 3) := dk_167 0 60 (dk_at dksL_law_101 6 rfl rfl)
theorem dL_law_2524 : decode cL_law 2524 = .ok (.aload_n 1, 1) := dk_43 (dk_at dksL_law_101 9 rfl rfl)
theorem dL_law_2525 : decode cL_law 2525 = .ok (.invokevirtual 277, 3) := dk_182 1 21 (dk_at dksL_law_101 10 rfl rfl)
theorem dL_law_2528 : decode cL_law 2528 = .ok (.aload_n 2, 1) := dk_44 (dk_at dksL_law_101 13 rfl rfl)
theorem dL_law_2529 : decode cL_law 2529 = .ok (.invokevirtual 280, 3) := dk_182 1 24 (dk_at dksL_law_101 14 rfl rfl)
theorem dL_law_2532 : decode cL_law 2532 = .ok (.if_icmp .eq 49, 3) := dk_159 0 49 (dk_at dksL_law_101 17 rfl rfl)
theorem dL_law_2535 : decode cL_law 2535 = .ok (.iconst 0, 1) := dk_3 (dk_at dksL_law_101 20 rfl rfl)
theorem dL_law_2536 : decode cL_law 2536 = .ok (.ireturn, 1) := dk_172 (dk_at dksL_law_101 21 rfl rfl)
theorem dL_law_2537 : decode cL_law 2537 = .ok (.aload_n 1, 1) := dk_43 (dk_at dksL_law_101 22 rfl rfl)
theorem dL_law_2538 : decode cL_law 2538 = .ok (.aload_n 3, 1) := dk_45 (dk_at dksL_law_101 23 rfl rfl)
theorem dL_law_2539 : decode cL_law 2539 = .ok (.invokestatic 281, 3) := dk_184 1 25 (dk_at dksL_law_102 0 rfl rfl)
theorem dL_law_2542 : decode cL_law 2542 = .ok (.istore 6, 2) := dk_54 6 (dk_at dksL_law_102 3 rfl rfl)
theorem dL_law_2544 : decode cL_law 2544 = .ok (.aload_n 2, 1) := dk_44 (dk_at dksL_law_102 5 rfl rfl)
theorem dL_law_2545 : decode cL_law 2545 = .ok (.invokevirtual 283, 3) := dk_182 1 27 (dk_at dksL_law_102 6 rfl rfl)
theorem dL_law_2548 : decode cL_law 2548 = .ok (.istore 7, 2) := dk_54 7 (dk_at dksL_law_102 9 rfl rfl)
theorem dL_law_2550 : decode cL_law 2550 = .ok (.aload_n 2, 1) := dk_44 (dk_at dksL_law_102 11 rfl rfl)
theorem dL_law_2551 : decode cL_law 2551 = .ok (.invokevirtual 145, 3) := dk_182 0 145 (dk_at dksL_law_102 12 rfl rfl)
theorem dL_law_2554 : decode cL_law 2554 = .ok (.iload 6, 2) := dk_21 6 (dk_at dksL_law_102 15 rfl rfl)
theorem dL_law_2556 : decode cL_law 2556 = .ok (.if_icmp .eq 5, 3) := dk_159 0 5 (dk_at dksL_law_102 17 rfl rfl)
theorem dL_law_2559 : decode cL_law 2559 = .ok (.iconst 0, 1) := dk_3 (dk_at dksL_law_102 20 rfl rfl)
theorem dL_law_2560 : decode cL_law 2560 = .ok (.ireturn, 1) := dk_172 (dk_at dksL_law_102 21 rfl rfl)
theorem dL_law_2561 : decode cL_law 2561 = .ok (.iload 6, 2) := dk_21 6 (dk_at dksL_law_102 22 rfl rfl)
theorem dL_law_2563 : decode cL_law 2563 = .ok (.ifCond .ne 15, 3) := dk_154 0 15 (dk_at dksL_law_103 0 rfl rfl)
theorem dL_law_2566 : decode cL_law 2566 = .ok (.aload_n 3, 1) := dk_45 (dk_at dksL_law_103 3 rfl rfl)
theorem dL_law_2567 : decode cL_law 2567 = .ok (.iconst 0, 1) := dk_3 (dk_at dksL_law_103 4 rfl rfl)
theorem dL_law_2568 : decode cL_law 2568 = .ok (.laload, 1) := dk_47 (dk_at dksL_law_103 5 rfl rfl)
theorem dL_law_2569 : decode cL_law 2569 = .ok (.iload 7, 2) := dk_21 7 (dk_at dksL_law_103 6 rfl rfl)
theorem dL_law_2571 : decode cL_law 2571 = .ok (.i2l, 1) := dk_133 (dk_at dksL_law_103 8 rfl rfl)
theorem dL_law_2572 : decode cL_law 2572 = .ok (.lcmp, 1) := dk_148 (dk_at dksL_law_103 9 rfl rfl)
theorem dL_law_2573 : decode cL_law 2573 = .ok (.ifCond .eq 5, 3) := dk_153 0 5 (dk_at dksL_law_103 10 rfl rfl)
theorem dL_law_2576 : decode cL_law 2576 = .ok (.iconst 0, 1) := dk_3 (dk_at dksL_law_103 13 rfl rfl)
theorem dL_law_2577 : decode cL_law 2577 = .ok (.ireturn, 1) := dk_172 (dk_at dksL_law_103 14 rfl rfl)
theorem dL_law_2578 : decode cL_law 2578 = .ok (.goto 3, 3) := dk_167 0 3 (dk_at dksL_law_103 15 rfl rfl)
theorem dL_law_2581 : decode cL_law 2581 = .ok (.iinc 5 5, 3) := dk_132 5 5 (dk_at dksL_law_103 18 rfl rfl)
theorem dL_law_2584 : decode cL_law 2584 = .ok (.goto (-2556), 3) := dk_167 246 4 (dk_at dksL_law_103 21 rfl rfl)
theorem dL_law_2587 : decode cL_law 2587 = .ok (.iconst 1, 1) := dk_4 (dk_at dksL_law_104 0 rfl rfl)
theorem dL_law_2588 : decode cL_law 2588 = .ok (.ireturn, 1) := dk_172 (dk_at dksL_law_104 1 rfl rfl)
abbrev rmX0_enter (mc ms : Nat) : Room := { frames := 21, cells := mc, slots := ms, locals := 1454 }
def wX0_enterb21 (G : gE) (P : Int32 → hSt → Prop) (PX : Nat → Nat → hSt → Prop)  (s0 : Option Nat) (z : hSt) : Prop :=
  P 2 z
def wX0_enterb25 (G : gE) (P : Int32 → hSt → Prop) (PX : Nat → Nat → hSt → Prop)  (s0 : Option Nat) (z : hSt) : Prop :=
  P 3 z
def wX0_enterb17 (G : gE) (P : Int32 → hSt → Prop) (PX : Nat → Nat → hSt → Prop)  (s0 : Option Nat) (z : hSt) : Prop :=
  P 1 z
def wX0_enterb0 (G : gE) (P : Int32 → hSt → Prop) (PX : Nat → Nat → hSt → Prop)  (v0 : Option Nat) (v1 : Int32) (v2 : Int32) (v3 : Int32) (v4 : Int32) (v5 : Option Nat) (z : hSt) : Prop :=
  (rcv z v0 0 ∧ wX1_enter G (fun x5 z4 => asL G z4 v5 0 ((x5 : Int32).toInt64) (fun z6 => P 0 z6)) (fun c3 e2 z1 => (c3 = 29 ∧ wX0_enterb21 G P PX  (some e2) z1) ∨ (c3 = 30 ∧ wX0_enterb25 G P PX  (some e2) z1) ∨ (c3 = 32 ∧ wX0_enterb17 G P PX  (some e2) z1) ∨ (c3 ∈ ([8, 11, 28, 31, 33] : List Nat) ∧ PX c3 e2 z1)) v0 v1 v2 v3 v4 z)
def wX0_enter (G : gE) (P : Int32 → hSt → Prop) (PX : Nat → Nat → hSt → Prop) (v0 : Option Nat) (v1 : Int32) (v2 : Int32) (v3 : Int32) (v4 : Int32) (v5 : Option Nat) (z : hSt) : Prop := wX0_enterb0 G P PX v0 v1 v2 v3 v4 v5 z
section
variable {p : Program} {l : Launch} {e : Env} {s : State} {m : MethodId} {args : Array Value} {below : List Frame} {meth : Method} {c : Code} {G : gE} {mc ms : Nat} {P : Int32 → hSt → Prop} {PX : Nat → Nat → hSt → Prop}
theorem kX0_enterb21 (C : xC G p l s m args meth c cX0_enter 7 "ExcuseLedgerLaw") (hr : meth.sig.returnType = (Option.some Jvm.ClassFile.FieldType.int)) (hin : meth.name = "enter") (hT : c.exceptionTable.toList = tableOf [((0 : Nat), (14 : Nat), (17 : Nat), (13 : Nat)), ((0 : Nat), (14 : Nat), (21 : Nat), (15 : Nat)), ((0 : Nat), (14 : Nat), (25 : Nat), (17 : Nat))]) (hmc : mc = gL G - s.heap.size ∧ ms = gU G - hsum s.heap)   {s0 : Option Nat} {z : hSt} (hw : wX0_enterb21 G P PX  s0 z) : kt G p l e (rmX0_enter mc ms) s m args below meth c 7 (vx_MQ below (cQ G (pI P)) (cX G PX) args s mc ms (gF G)) 21 [] [va_rf s0] z := by
  intro H locs ls hS hl
  refine r_astore C.1 C.2.1 dX0_enter_21 hl (Nat.le_of_ble_eq_true rfl) (ls_new ls_nil) (fun ls hl => ?_)
  refine lv_iconst C.1 C.2.1 (v := 2) dX0_enter_23 rfl ?_
  exact r_iret C hS hmc hr dX0_enter_24 hw
theorem kX0_enterb25 (C : xC G p l s m args meth c cX0_enter 7 "ExcuseLedgerLaw") (hr : meth.sig.returnType = (Option.some Jvm.ClassFile.FieldType.int)) (hin : meth.name = "enter") (hT : c.exceptionTable.toList = tableOf [((0 : Nat), (14 : Nat), (17 : Nat), (13 : Nat)), ((0 : Nat), (14 : Nat), (21 : Nat), (15 : Nat)), ((0 : Nat), (14 : Nat), (25 : Nat), (17 : Nat))]) (hmc : mc = gL G - s.heap.size ∧ ms = gU G - hsum s.heap)   {s0 : Option Nat} {z : hSt} (hw : wX0_enterb25 G P PX  s0 z) : kt G p l e (rmX0_enter mc ms) s m args below meth c 7 (vx_MQ below (cQ G (pI P)) (cX G PX) args s mc ms (gF G)) 25 [] [va_rf s0] z := by
  intro H locs ls hS hl
  refine r_astore C.1 C.2.1 dX0_enter_25 hl (Nat.le_of_ble_eq_true rfl) (ls_new ls_nil) (fun ls hl => ?_)
  refine lv_iconst C.1 C.2.1 (v := 3) dX0_enter_27 rfl ?_
  exact r_iret C hS hmc hr dX0_enter_28 hw
theorem kX0_enterb17 (C : xC G p l s m args meth c cX0_enter 7 "ExcuseLedgerLaw") (hr : meth.sig.returnType = (Option.some Jvm.ClassFile.FieldType.int)) (hin : meth.name = "enter") (hT : c.exceptionTable.toList = tableOf [((0 : Nat), (14 : Nat), (17 : Nat), (13 : Nat)), ((0 : Nat), (14 : Nat), (21 : Nat), (15 : Nat)), ((0 : Nat), (14 : Nat), (25 : Nat), (17 : Nat))]) (hmc : mc = gL G - s.heap.size ∧ ms = gU G - hsum s.heap)   {s0 : Option Nat} {z : hSt} (hw : wX0_enterb17 G P PX  s0 z) : kt G p l e (rmX0_enter mc ms) s m args below meth c 7 (vx_MQ below (cQ G (pI P)) (cX G PX) args s mc ms (gF G)) 17 [] [va_rf s0] z := by
  intro H locs ls hS hl
  refine r_astore C.1 C.2.1 dX0_enter_17 hl (Nat.le_of_ble_eq_true rfl) (ls_new ls_nil) (fun ls hl => ?_)
  refine lv_iconst C.1 C.2.1 (v := 1) dX0_enter_19 rfl ?_
  exact r_iret C hS hmc hr dX0_enter_20 hw
theorem kX0_enterb0 (C : xC G p l s m args meth c cX0_enter 7 "ExcuseLedgerLaw") (hr : meth.sig.returnType = (Option.some Jvm.ClassFile.FieldType.int)) (hin : meth.name = "enter") (hT : c.exceptionTable.toList = tableOf [((0 : Nat), (14 : Nat), (17 : Nat), (13 : Nat)), ((0 : Nat), (14 : Nat), (21 : Nat), (15 : Nat)), ((0 : Nat), (14 : Nat), (25 : Nat), (17 : Nat))]) (hmc : mc = gL G - s.heap.size ∧ ms = gU G - hsum s.heap)   {v0 : Option Nat} {v1 : Int32} {v2 : Int32} {v3 : Int32} {v4 : Int32} {v5 : Option Nat} {z : hSt} (hw : wX0_enterb0 G P PX  v0 v1 v2 v3 v4 v5 z) : kt G p l e (rmX0_enter mc ms) s m args below meth c 7 (vx_MQ below (cQ G (pI P)) (cX G PX) args s mc ms (gF G)) 0 [(0, va_rf v0), (1, .int v1), (2, .int v2), (3, .int v3), (4, .int v4), (5, va_rf v5)] [] z := by
  intro H locs ls hS hl
  refine r_aload C.1 C.2.1 dX0_enter_0 (lv_at hl 5 rfl) ?_
  refine lv_iconst C.1 C.2.1 (v := 0) dX0_enter_2 rfl ?_
  refine r_aload_n C.1 C.2.1 dX0_enter_3 rfl (lv_at hl 0 rfl) ?_
  refine lv_iload_n C.1 C.2.1 dX0_enter_4 rfl (lv_at hl 1 rfl) ?_
  refine lv_iload_n C.1 C.2.1 dX0_enter_5 rfl (lv_at hl 2 rfl) ?_
  refine lv_iload_n C.1 C.2.1 dX0_enter_6 rfl (lv_at hl 3 rfl) ?_
  refine lv_iload C.1 C.2.1 dX0_enter_7 (lv_at hl 4 rfl) ?_
  refine c_V C hS hmc hl.1 (ci := 0) rfl hw.1 (kX1_enter C.2.2.2.2.2.2.1) hw.2 (lw_V q2378 q2379 q2380 q67 q2381) ⟨rfl, hdX1_enter⟩ ⟨Nat.le_of_ble_eq_true rfl, Nat.le_of_ble_eq_true rfl⟩ (rest := [.int 0, va_rf v5]) rfl rfl (Nat.le_of_ble_eq_true rfl) dX0_enter_9 (fun c3 e2 z1 H locs hx hS ht => ?_) (fun v z4 H locs hv hS => ?_)
  · rcases hx with ⟨rfl, hw⟩ | ⟨rfl, hw⟩ | ⟨rfl, hw⟩ | ⟨h9, hx⟩
    · refine r_catch C [(⟨0, 14, 17, 13⟩ : ExceptionTableEntry)] (⟨0, 14, 21, 15⟩ : ExceptionTableEntry) [(⟨0, 14, 25, 17⟩ : ExceptionTableEntry)] (by rw [hT]; rfl) (ci := 29) rfl (List.forall_mem_cons.mpr ⟨Or.inr ⟨by decide, _, q2357, by decide +kernel⟩, fun _ h => absurd h List.not_mem_nil⟩) (by decide) (by decide) q2376 q999 ht ?_
      exact kX0_enterb21 C hr hin hT hmc  hw H locs ls hS (lv_sub hl [] rfl)
    · refine r_catch C [(⟨0, 14, 17, 13⟩ : ExceptionTableEntry), (⟨0, 14, 21, 15⟩ : ExceptionTableEntry)] (⟨0, 14, 25, 17⟩ : ExceptionTableEntry) [] (by rw [hT]; rfl) (ci := 30) rfl (List.forall_mem_cons.mpr ⟨Or.inr ⟨by decide, _, q2357, by decide +kernel⟩, List.forall_mem_cons.mpr ⟨Or.inr ⟨by decide, _, q2376, by decide +kernel⟩, fun _ h => absurd h List.not_mem_nil⟩⟩) (by decide) (by decide) q2377 q1943 ht ?_
      exact kX0_enterb25 C hr hin hT hmc  hw H locs ls hS (lv_sub hl [] rfl)
    · refine r_catch C [] (⟨0, 14, 17, 13⟩ : ExceptionTableEntry) [(⟨0, 14, 21, 15⟩ : ExceptionTableEntry), (⟨0, 14, 25, 17⟩ : ExceptionTableEntry)] (by rw [hT]; rfl) (ci := 32) rfl (fun _ h => absurd h List.not_mem_nil) (by decide) (by decide) q2357 q2388 ht ?_
      exact kX0_enterb17 C hr hin hT hmc  hw H locs ls hS (lv_sub hl [] rfl)
    · simp only [List.mem_cons, List.not_mem_nil, or_false] at h9
      rcases h9 with rfl | rfl | rfl | rfl | rfl
      · exact r_pass C hS hmc rfl (by rw [hT]; exact List.forall_mem_cons.mpr ⟨Or.inr ⟨by decide, _, q2357, by decide +kernel⟩, List.forall_mem_cons.mpr ⟨Or.inr ⟨by decide, _, q2376, by decide +kernel⟩, List.forall_mem_cons.mpr ⟨Or.inr ⟨by decide, _, q2377, by decide +kernel⟩, fun _ h => absurd h List.not_mem_nil⟩⟩⟩) ht hx
      · exact r_pass C hS hmc rfl (by rw [hT]; exact List.forall_mem_cons.mpr ⟨Or.inr ⟨by decide, _, q2357, by decide +kernel⟩, List.forall_mem_cons.mpr ⟨Or.inr ⟨by decide, _, q2376, by decide +kernel⟩, List.forall_mem_cons.mpr ⟨Or.inr ⟨by decide, _, q2377, by decide +kernel⟩, fun _ h => absurd h List.not_mem_nil⟩⟩⟩) ht hx
      · exact r_pass C hS hmc rfl (by rw [hT]; exact List.forall_mem_cons.mpr ⟨Or.inr ⟨by decide, _, q2357, by decide +kernel⟩, List.forall_mem_cons.mpr ⟨Or.inr ⟨by decide, _, q2376, by decide +kernel⟩, List.forall_mem_cons.mpr ⟨Or.inr ⟨by decide, _, q2377, by decide +kernel⟩, fun _ h => absurd h List.not_mem_nil⟩⟩⟩) ht hx
      · exact r_pass C hS hmc rfl (by rw [hT]; exact List.forall_mem_cons.mpr ⟨Or.inr ⟨by decide, _, q2357, by decide +kernel⟩, List.forall_mem_cons.mpr ⟨Or.inr ⟨by decide, _, q2376, by decide +kernel⟩, List.forall_mem_cons.mpr ⟨Or.inr ⟨by decide, _, q2377, by decide +kernel⟩, fun _ h => absurd h List.not_mem_nil⟩⟩⟩) ht hx
      · exact r_pass C hS hmc rfl (by rw [hT]; exact List.forall_mem_cons.mpr ⟨Or.inr ⟨by decide, _, q2357, by decide +kernel⟩, List.forall_mem_cons.mpr ⟨Or.inr ⟨by decide, _, q2376, by decide +kernel⟩, List.forall_mem_cons.mpr ⟨Or.inr ⟨by decide, _, q2377, by decide +kernel⟩, fun _ h => absurd h List.not_mem_nil⟩⟩⟩) ht hx
  · obtain ⟨x5, rfl, hw⟩ := hv
    refine lv_i2l C.1 C.2.1 dX0_enter_12 rfl ?_
    refine r_last C hS dX0_enter_13 hw (fun z6 H locs hw hS => ?_)
    refine lv_goto C.1 C.2.1 dX0_enter_14 rfl ?_
    refine lv_iconst C.1 C.2.1 (v := 0) dX0_enter_29 rfl ?_
    exact r_iret C hS hmc hr dX0_enter_30 hw
end
theorem kX0_enter {l : Launch} (hl : l.stackTraces = false) {G : gE} {P : Int32 → hSt → Prop} {PX : Nat → Nat → hSt → Prop} {v0 : Option Nat} {v1 : Int32} {v2 : Int32} {v3 : Int32} {v4 : Int32} {v5 : Option Nat} {z : hSt} : cM l G yX0_enter (wsW_ yX0_enter cX0_enter 7 (Option.some Jvm.ClassFile.FieldType.int) [((0 : Nat), (14 : Nat), (17 : Nat), (13 : Nat)), ((0 : Nat), (14 : Nat), (21 : Nat), (15 : Nat)), ((0 : Nat), (14 : Nat), (25 : Nat), (17 : Nat))]) 21 1454 z [va_rf v0, .int v1, .int v2, .int v3, .int v4, va_rf v5] (wX0_enter G P PX v0 v1 v2 v3 v4 v5 z) (pI P) PX := by
  refine m_ofH hl (plainFor_of_name (by decide)) (by rw [lg_sl1 (va_rf_cat _), lg_sl1 rfl, lg_sl1 rfl, lg_sl1 rfl, lg_sl1 rfl, lg_sl1 (va_rf_cat _)]; exact Nat.le_of_ble_eq_true rfl) ?_
  intro p e s m args below meth c C hr hin hT hmc hw
  rw [lv_args1 (va_rf_cat _), lv_args1 rfl, lv_args1 rfl, lv_args1 rfl, lv_args1 rfl, lv_args1 (va_rf_cat _)]
  intro H locs ls hS hl
  exact kX0_enterb0 C hr hin hT hmc hw H locs ls hS (lv_sub hl [0, 1, 2, 3, 4, 5] rfl)
theorem hdX0_enter : yX0_enter.cls ≠ "java/lang/invoke/MethodHandle" ∧ yX0_enter.cls ≠ "java/lang/invoke/VarHandle" ∧ (parseMethodDescriptor yX0_enter.desc).map (fun d => d.parameters.length) = some 6 := ⟨by decide +kernel, by decide +kernel, by decide +kernel⟩
abbrev rmX0_strike (mc ms : Nat) : Room := { frames := 21, cells := mc, slots := ms, locals := 1452 }
def wX0_strikeb13 (G : gE) (P : Int32 → hSt → Prop) (PX : Nat → Nat → hSt → Prop)  (s0 : Option Nat) (z : hSt) : Prop :=
  P 1 z
def wX0_strikeb17 (G : gE) (P : Int32 → hSt → Prop) (PX : Nat → Nat → hSt → Prop)  (s0 : Option Nat) (z : hSt) : Prop :=
  P 2 z
def wX0_strikeb0 (G : gE) (P : Int32 → hSt → Prop) (PX : Nat → Nat → hSt → Prop)  (v0 : Option Nat) (v1 : Int32) (v2 : Int32) (v3 : Option Nat) (z : hSt) : Prop :=
  (rcv z v0 0 ∧ wX1_strike G (fun x5 z4 => asL G z4 v3 0 ((x5 : Int32).toInt64) (fun z6 => P 0 z6)) (fun c3 e2 z1 => (c3 = 29 ∧ wX0_strikeb13 G P PX  (some e2) z1) ∨ (c3 = 30 ∧ wX0_strikeb17 G P PX  (some e2) z1) ∨ (c3 ∈ ([8, 11, 28, 31, 32, 33] : List Nat) ∧ PX c3 e2 z1)) v0 v1 v2 z)
def wX0_strike (G : gE) (P : Int32 → hSt → Prop) (PX : Nat → Nat → hSt → Prop) (v0 : Option Nat) (v1 : Int32) (v2 : Int32) (v3 : Option Nat) (z : hSt) : Prop := wX0_strikeb0 G P PX v0 v1 v2 v3 z
section
variable {p : Program} {l : Launch} {e : Env} {s : State} {m : MethodId} {args : Array Value} {below : List Frame} {meth : Method} {c : Code} {G : gE} {mc ms : Nat} {P : Int32 → hSt → Prop} {PX : Nat → Nat → hSt → Prop}
theorem kX0_strikeb13 (C : xC G p l s m args meth c cX0_strike 5 "ExcuseLedgerLaw") (hr : meth.sig.returnType = (Option.some Jvm.ClassFile.FieldType.int)) (hin : meth.name = "strike") (hT : c.exceptionTable.toList = tableOf [((0 : Nat), (10 : Nat), (13 : Nat), (15 : Nat)), ((0 : Nat), (10 : Nat), (17 : Nat), (17 : Nat))]) (hmc : mc = gL G - s.heap.size ∧ ms = gU G - hsum s.heap)   {s0 : Option Nat} {z : hSt} (hw : wX0_strikeb13 G P PX  s0 z) : kt G p l e (rmX0_strike mc ms) s m args below meth c 5 (vx_MQ below (cQ G (pI P)) (cX G PX) args s mc ms (gF G)) 13 [] [va_rf s0] z := by
  intro H locs ls hS hl
  refine r_astore C.1 C.2.1 dX0_strike_13 hl (Nat.le_of_ble_eq_true rfl) (ls_new ls_nil) (fun ls hl => ?_)
  refine lv_iconst C.1 C.2.1 (v := 1) dX0_strike_15 rfl ?_
  exact r_iret C hS hmc hr dX0_strike_16 hw
theorem kX0_strikeb17 (C : xC G p l s m args meth c cX0_strike 5 "ExcuseLedgerLaw") (hr : meth.sig.returnType = (Option.some Jvm.ClassFile.FieldType.int)) (hin : meth.name = "strike") (hT : c.exceptionTable.toList = tableOf [((0 : Nat), (10 : Nat), (13 : Nat), (15 : Nat)), ((0 : Nat), (10 : Nat), (17 : Nat), (17 : Nat))]) (hmc : mc = gL G - s.heap.size ∧ ms = gU G - hsum s.heap)   {s0 : Option Nat} {z : hSt} (hw : wX0_strikeb17 G P PX  s0 z) : kt G p l e (rmX0_strike mc ms) s m args below meth c 5 (vx_MQ below (cQ G (pI P)) (cX G PX) args s mc ms (gF G)) 17 [] [va_rf s0] z := by
  intro H locs ls hS hl
  refine r_astore C.1 C.2.1 dX0_strike_17 hl (Nat.le_of_ble_eq_true rfl) (ls_new ls_nil) (fun ls hl => ?_)
  refine lv_iconst C.1 C.2.1 (v := 2) dX0_strike_19 rfl ?_
  exact r_iret C hS hmc hr dX0_strike_20 hw
theorem kX0_strikeb0 (C : xC G p l s m args meth c cX0_strike 5 "ExcuseLedgerLaw") (hr : meth.sig.returnType = (Option.some Jvm.ClassFile.FieldType.int)) (hin : meth.name = "strike") (hT : c.exceptionTable.toList = tableOf [((0 : Nat), (10 : Nat), (13 : Nat), (15 : Nat)), ((0 : Nat), (10 : Nat), (17 : Nat), (17 : Nat))]) (hmc : mc = gL G - s.heap.size ∧ ms = gU G - hsum s.heap)   {v0 : Option Nat} {v1 : Int32} {v2 : Int32} {v3 : Option Nat} {z : hSt} (hw : wX0_strikeb0 G P PX  v0 v1 v2 v3 z) : kt G p l e (rmX0_strike mc ms) s m args below meth c 5 (vx_MQ below (cQ G (pI P)) (cX G PX) args s mc ms (gF G)) 0 [(0, va_rf v0), (1, .int v1), (2, .int v2), (3, va_rf v3)] [] z := by
  intro H locs ls hS hl
  refine r_aload_n C.1 C.2.1 dX0_strike_0 rfl (lv_at hl 3 rfl) ?_
  refine lv_iconst C.1 C.2.1 (v := 0) dX0_strike_1 rfl ?_
  refine r_aload_n C.1 C.2.1 dX0_strike_2 rfl (lv_at hl 0 rfl) ?_
  refine lv_iload_n C.1 C.2.1 dX0_strike_3 rfl (lv_at hl 1 rfl) ?_
  refine lv_iload_n C.1 C.2.1 dX0_strike_4 rfl (lv_at hl 2 rfl) ?_
  refine c_V C hS hmc hl.1 (ci := 0) rfl hw.1 (kX1_strike C.2.2.2.2.2.2.1) hw.2 (lw_V q2425 q2426 q2427 q67 q2428) ⟨rfl, hdX1_strike⟩ ⟨Nat.le_of_ble_eq_true rfl, Nat.le_of_ble_eq_true rfl⟩ (rest := [.int 0, va_rf v3]) rfl rfl (Nat.le_of_ble_eq_true rfl) dX0_strike_5 (fun c3 e2 z1 H locs hx hS ht => ?_) (fun v z4 H locs hv hS => ?_)
  · rcases hx with ⟨rfl, hw⟩ | ⟨rfl, hw⟩ | ⟨h9, hx⟩
    · refine r_catch C [] (⟨0, 10, 13, 15⟩ : ExceptionTableEntry) [(⟨0, 10, 17, 17⟩ : ExceptionTableEntry)] (by rw [hT]; rfl) (ci := 29) rfl (fun _ h => absurd h List.not_mem_nil) (by decide) (by decide) q2376 q999 ht ?_
      exact kX0_strikeb13 C hr hin hT hmc  hw H locs ls hS (lv_sub hl [] rfl)
    · refine r_catch C [(⟨0, 10, 13, 15⟩ : ExceptionTableEntry)] (⟨0, 10, 17, 17⟩ : ExceptionTableEntry) [] (by rw [hT]; rfl) (ci := 30) rfl (List.forall_mem_cons.mpr ⟨Or.inr ⟨by decide, _, q2376, by decide +kernel⟩, fun _ h => absurd h List.not_mem_nil⟩) (by decide) (by decide) q2377 q1943 ht ?_
      exact kX0_strikeb17 C hr hin hT hmc  hw H locs ls hS (lv_sub hl [] rfl)
    · simp only [List.mem_cons, List.not_mem_nil, or_false] at h9
      rcases h9 with rfl | rfl | rfl | rfl | rfl | rfl
      · exact r_pass C hS hmc rfl (by rw [hT]; exact List.forall_mem_cons.mpr ⟨Or.inr ⟨by decide, _, q2376, by decide +kernel⟩, List.forall_mem_cons.mpr ⟨Or.inr ⟨by decide, _, q2377, by decide +kernel⟩, fun _ h => absurd h List.not_mem_nil⟩⟩) ht hx
      · exact r_pass C hS hmc rfl (by rw [hT]; exact List.forall_mem_cons.mpr ⟨Or.inr ⟨by decide, _, q2376, by decide +kernel⟩, List.forall_mem_cons.mpr ⟨Or.inr ⟨by decide, _, q2377, by decide +kernel⟩, fun _ h => absurd h List.not_mem_nil⟩⟩) ht hx
      · exact r_pass C hS hmc rfl (by rw [hT]; exact List.forall_mem_cons.mpr ⟨Or.inr ⟨by decide, _, q2376, by decide +kernel⟩, List.forall_mem_cons.mpr ⟨Or.inr ⟨by decide, _, q2377, by decide +kernel⟩, fun _ h => absurd h List.not_mem_nil⟩⟩) ht hx
      · exact r_pass C hS hmc rfl (by rw [hT]; exact List.forall_mem_cons.mpr ⟨Or.inr ⟨by decide, _, q2376, by decide +kernel⟩, List.forall_mem_cons.mpr ⟨Or.inr ⟨by decide, _, q2377, by decide +kernel⟩, fun _ h => absurd h List.not_mem_nil⟩⟩) ht hx
      · exact r_pass C hS hmc rfl (by rw [hT]; exact List.forall_mem_cons.mpr ⟨Or.inr ⟨by decide, _, q2376, by decide +kernel⟩, List.forall_mem_cons.mpr ⟨Or.inr ⟨by decide, _, q2377, by decide +kernel⟩, fun _ h => absurd h List.not_mem_nil⟩⟩) ht hx
      · exact r_pass C hS hmc rfl (by rw [hT]; exact List.forall_mem_cons.mpr ⟨Or.inr ⟨by decide, _, q2376, by decide +kernel⟩, List.forall_mem_cons.mpr ⟨Or.inr ⟨by decide, _, q2377, by decide +kernel⟩, fun _ h => absurd h List.not_mem_nil⟩⟩) ht hx
  · obtain ⟨x5, rfl, hw⟩ := hv
    refine lv_i2l C.1 C.2.1 dX0_strike_8 rfl ?_
    refine r_last C hS dX0_strike_9 hw (fun z6 H locs hw hS => ?_)
    refine lv_goto C.1 C.2.1 dX0_strike_10 rfl ?_
    refine lv_iconst C.1 C.2.1 (v := 0) dX0_strike_21 rfl ?_
    exact r_iret C hS hmc hr dX0_strike_22 hw
end
theorem kX0_strike {l : Launch} (hl : l.stackTraces = false) {G : gE} {P : Int32 → hSt → Prop} {PX : Nat → Nat → hSt → Prop} {v0 : Option Nat} {v1 : Int32} {v2 : Int32} {v3 : Option Nat} {z : hSt} : cM l G yX0_strike (wsW_ yX0_strike cX0_strike 5 (Option.some Jvm.ClassFile.FieldType.int) [((0 : Nat), (10 : Nat), (13 : Nat), (15 : Nat)), ((0 : Nat), (10 : Nat), (17 : Nat), (17 : Nat))]) 21 1452 z [va_rf v0, .int v1, .int v2, va_rf v3] (wX0_strike G P PX v0 v1 v2 v3 z) (pI P) PX := by
  refine m_ofH hl (plainFor_of_name (by decide)) (by rw [lg_sl1 (va_rf_cat _), lg_sl1 rfl, lg_sl1 rfl, lg_sl1 (va_rf_cat _)]; exact Nat.le_of_ble_eq_true rfl) ?_
  intro p e s m args below meth c C hr hin hT hmc hw
  rw [lv_args1 (va_rf_cat _), lv_args1 rfl, lv_args1 rfl, lv_args1 (va_rf_cat _)]
  intro H locs ls hS hl
  exact kX0_strikeb0 C hr hin hT hmc hw H locs ls hS (lv_sub hl [0, 1, 2, 3] rfl)
theorem hdX0_strike : yX0_strike.cls ≠ "java/lang/invoke/MethodHandle" ∧ yX0_strike.cls ≠ "java/lang/invoke/VarHandle" ∧ (parseMethodDescriptor yX0_strike.desc).map (fun d => d.parameters.length) = some 4 := ⟨by decide +kernel, by decide +kernel, by decide +kernel⟩
abbrev rmX0_lend (mc ms : Nat) : Room := { frames := 21, cells := mc, slots := ms, locals := 1455 }
def wX0_lendb17 (G : gE) (P : Int32 → hSt → Prop) (PX : Nat → Nat → hSt → Prop)  (s0 : Option Nat) (z : hSt) : Prop :=
  P 1 z
def wX0_lendb25 (G : gE) (P : Int32 → hSt → Prop) (PX : Nat → Nat → hSt → Prop)  (s0 : Option Nat) (z : hSt) : Prop :=
  P 3 z
def wX0_lendb21 (G : gE) (P : Int32 → hSt → Prop) (PX : Nat → Nat → hSt → Prop)  (s0 : Option Nat) (z : hSt) : Prop :=
  P 2 z
def wX0_lendb0 (G : gE) (P : Int32 → hSt → Prop) (PX : Nat → Nat → hSt → Prop)  (v0 : Option Nat) (v1 : Int32) (v2 : Int32) (v3 : Int32) (v4 : Int32) (v5 : Option Nat) (z : hSt) : Prop :=
  (rcv z v0 0 ∧ wX1_lend G (fun x5 z4 => asL G z4 v5 0 ((x5 : Int32).toInt64) (fun z6 => P 0 z6)) (fun c3 e2 z1 => (c3 = 29 ∧ wX0_lendb17 G P PX  (some e2) z1) ∨ (c3 = 30 ∧ wX0_lendb25 G P PX  (some e2) z1) ∨ (c3 = 32 ∧ wX0_lendb21 G P PX  (some e2) z1) ∨ (c3 ∈ ([8, 11, 28, 31, 33] : List Nat) ∧ PX c3 e2 z1)) v0 v1 v2 v3 v4 z)
def wX0_lend (G : gE) (P : Int32 → hSt → Prop) (PX : Nat → Nat → hSt → Prop) (v0 : Option Nat) (v1 : Int32) (v2 : Int32) (v3 : Int32) (v4 : Int32) (v5 : Option Nat) (z : hSt) : Prop := wX0_lendb0 G P PX v0 v1 v2 v3 v4 v5 z
section
variable {p : Program} {l : Launch} {e : Env} {s : State} {m : MethodId} {args : Array Value} {below : List Frame} {meth : Method} {c : Code} {G : gE} {mc ms : Nat} {P : Int32 → hSt → Prop} {PX : Nat → Nat → hSt → Prop}
theorem kX0_lendb17 (C : xC G p l s m args meth c cX0_lend 7 "ExcuseLedgerLaw") (hr : meth.sig.returnType = (Option.some Jvm.ClassFile.FieldType.int)) (hin : meth.name = "lend") (hT : c.exceptionTable.toList = tableOf [((0 : Nat), (14 : Nat), (17 : Nat), (15 : Nat)), ((0 : Nat), (14 : Nat), (21 : Nat), (13 : Nat)), ((0 : Nat), (14 : Nat), (25 : Nat), (17 : Nat))]) (hmc : mc = gL G - s.heap.size ∧ ms = gU G - hsum s.heap)   {s0 : Option Nat} {z : hSt} (hw : wX0_lendb17 G P PX  s0 z) : kt G p l e (rmX0_lend mc ms) s m args below meth c 7 (vx_MQ below (cQ G (pI P)) (cX G PX) args s mc ms (gF G)) 17 [] [va_rf s0] z := by
  intro H locs ls hS hl
  refine r_astore C.1 C.2.1 dX0_lend_17 hl (Nat.le_of_ble_eq_true rfl) (ls_new ls_nil) (fun ls hl => ?_)
  refine lv_iconst C.1 C.2.1 (v := 1) dX0_lend_19 rfl ?_
  exact r_iret C hS hmc hr dX0_lend_20 hw
theorem kX0_lendb25 (C : xC G p l s m args meth c cX0_lend 7 "ExcuseLedgerLaw") (hr : meth.sig.returnType = (Option.some Jvm.ClassFile.FieldType.int)) (hin : meth.name = "lend") (hT : c.exceptionTable.toList = tableOf [((0 : Nat), (14 : Nat), (17 : Nat), (15 : Nat)), ((0 : Nat), (14 : Nat), (21 : Nat), (13 : Nat)), ((0 : Nat), (14 : Nat), (25 : Nat), (17 : Nat))]) (hmc : mc = gL G - s.heap.size ∧ ms = gU G - hsum s.heap)   {s0 : Option Nat} {z : hSt} (hw : wX0_lendb25 G P PX  s0 z) : kt G p l e (rmX0_lend mc ms) s m args below meth c 7 (vx_MQ below (cQ G (pI P)) (cX G PX) args s mc ms (gF G)) 25 [] [va_rf s0] z := by
  intro H locs ls hS hl
  refine r_astore C.1 C.2.1 dX0_lend_25 hl (Nat.le_of_ble_eq_true rfl) (ls_new ls_nil) (fun ls hl => ?_)
  refine lv_iconst C.1 C.2.1 (v := 3) dX0_lend_27 rfl ?_
  exact r_iret C hS hmc hr dX0_lend_28 hw
theorem kX0_lendb21 (C : xC G p l s m args meth c cX0_lend 7 "ExcuseLedgerLaw") (hr : meth.sig.returnType = (Option.some Jvm.ClassFile.FieldType.int)) (hin : meth.name = "lend") (hT : c.exceptionTable.toList = tableOf [((0 : Nat), (14 : Nat), (17 : Nat), (15 : Nat)), ((0 : Nat), (14 : Nat), (21 : Nat), (13 : Nat)), ((0 : Nat), (14 : Nat), (25 : Nat), (17 : Nat))]) (hmc : mc = gL G - s.heap.size ∧ ms = gU G - hsum s.heap)   {s0 : Option Nat} {z : hSt} (hw : wX0_lendb21 G P PX  s0 z) : kt G p l e (rmX0_lend mc ms) s m args below meth c 7 (vx_MQ below (cQ G (pI P)) (cX G PX) args s mc ms (gF G)) 21 [] [va_rf s0] z := by
  intro H locs ls hS hl
  refine r_astore C.1 C.2.1 dX0_lend_21 hl (Nat.le_of_ble_eq_true rfl) (ls_new ls_nil) (fun ls hl => ?_)
  refine lv_iconst C.1 C.2.1 (v := 2) dX0_lend_23 rfl ?_
  exact r_iret C hS hmc hr dX0_lend_24 hw
theorem kX0_lendb0 (C : xC G p l s m args meth c cX0_lend 7 "ExcuseLedgerLaw") (hr : meth.sig.returnType = (Option.some Jvm.ClassFile.FieldType.int)) (hin : meth.name = "lend") (hT : c.exceptionTable.toList = tableOf [((0 : Nat), (14 : Nat), (17 : Nat), (15 : Nat)), ((0 : Nat), (14 : Nat), (21 : Nat), (13 : Nat)), ((0 : Nat), (14 : Nat), (25 : Nat), (17 : Nat))]) (hmc : mc = gL G - s.heap.size ∧ ms = gU G - hsum s.heap)   {v0 : Option Nat} {v1 : Int32} {v2 : Int32} {v3 : Int32} {v4 : Int32} {v5 : Option Nat} {z : hSt} (hw : wX0_lendb0 G P PX  v0 v1 v2 v3 v4 v5 z) : kt G p l e (rmX0_lend mc ms) s m args below meth c 7 (vx_MQ below (cQ G (pI P)) (cX G PX) args s mc ms (gF G)) 0 [(0, va_rf v0), (1, .int v1), (2, .int v2), (3, .int v3), (4, .int v4), (5, va_rf v5)] [] z := by
  intro H locs ls hS hl
  refine r_aload C.1 C.2.1 dX0_lend_0 (lv_at hl 5 rfl) ?_
  refine lv_iconst C.1 C.2.1 (v := 0) dX0_lend_2 rfl ?_
  refine r_aload_n C.1 C.2.1 dX0_lend_3 rfl (lv_at hl 0 rfl) ?_
  refine lv_iload_n C.1 C.2.1 dX0_lend_4 rfl (lv_at hl 1 rfl) ?_
  refine lv_iload_n C.1 C.2.1 dX0_lend_5 rfl (lv_at hl 2 rfl) ?_
  refine lv_iload_n C.1 C.2.1 dX0_lend_6 rfl (lv_at hl 3 rfl) ?_
  refine lv_iload C.1 C.2.1 dX0_lend_7 (lv_at hl 4 rfl) ?_
  refine c_V C hS hmc hl.1 (ci := 0) rfl hw.1 (kX1_lend C.2.2.2.2.2.2.1) hw.2 (lw_V q2433 q2434 q2435 q67 q2436) ⟨rfl, hdX1_lend⟩ ⟨Nat.le_of_ble_eq_true rfl, Nat.le_of_ble_eq_true rfl⟩ (rest := [.int 0, va_rf v5]) rfl rfl (Nat.le_of_ble_eq_true rfl) dX0_lend_9 (fun c3 e2 z1 H locs hx hS ht => ?_) (fun v z4 H locs hv hS => ?_)
  · rcases hx with ⟨rfl, hw⟩ | ⟨rfl, hw⟩ | ⟨rfl, hw⟩ | ⟨h9, hx⟩
    · refine r_catch C [] (⟨0, 14, 17, 15⟩ : ExceptionTableEntry) [(⟨0, 14, 21, 13⟩ : ExceptionTableEntry), (⟨0, 14, 25, 17⟩ : ExceptionTableEntry)] (by rw [hT]; rfl) (ci := 29) rfl (fun _ h => absurd h List.not_mem_nil) (by decide) (by decide) q2376 q999 ht ?_
      exact kX0_lendb17 C hr hin hT hmc  hw H locs ls hS (lv_sub hl [] rfl)
    · refine r_catch C [(⟨0, 14, 17, 15⟩ : ExceptionTableEntry), (⟨0, 14, 21, 13⟩ : ExceptionTableEntry)] (⟨0, 14, 25, 17⟩ : ExceptionTableEntry) [] (by rw [hT]; rfl) (ci := 30) rfl (List.forall_mem_cons.mpr ⟨Or.inr ⟨by decide, _, q2376, by decide +kernel⟩, List.forall_mem_cons.mpr ⟨Or.inr ⟨by decide, _, q2357, by decide +kernel⟩, fun _ h => absurd h List.not_mem_nil⟩⟩) (by decide) (by decide) q2377 q1943 ht ?_
      exact kX0_lendb25 C hr hin hT hmc  hw H locs ls hS (lv_sub hl [] rfl)
    · refine r_catch C [(⟨0, 14, 17, 15⟩ : ExceptionTableEntry)] (⟨0, 14, 21, 13⟩ : ExceptionTableEntry) [(⟨0, 14, 25, 17⟩ : ExceptionTableEntry)] (by rw [hT]; rfl) (ci := 32) rfl (List.forall_mem_cons.mpr ⟨Or.inr ⟨by decide, _, q2376, by decide +kernel⟩, fun _ h => absurd h List.not_mem_nil⟩) (by decide) (by decide) q2357 q2388 ht ?_
      exact kX0_lendb21 C hr hin hT hmc  hw H locs ls hS (lv_sub hl [] rfl)
    · simp only [List.mem_cons, List.not_mem_nil, or_false] at h9
      rcases h9 with rfl | rfl | rfl | rfl | rfl
      · exact r_pass C hS hmc rfl (by rw [hT]; exact List.forall_mem_cons.mpr ⟨Or.inr ⟨by decide, _, q2376, by decide +kernel⟩, List.forall_mem_cons.mpr ⟨Or.inr ⟨by decide, _, q2357, by decide +kernel⟩, List.forall_mem_cons.mpr ⟨Or.inr ⟨by decide, _, q2377, by decide +kernel⟩, fun _ h => absurd h List.not_mem_nil⟩⟩⟩) ht hx
      · exact r_pass C hS hmc rfl (by rw [hT]; exact List.forall_mem_cons.mpr ⟨Or.inr ⟨by decide, _, q2376, by decide +kernel⟩, List.forall_mem_cons.mpr ⟨Or.inr ⟨by decide, _, q2357, by decide +kernel⟩, List.forall_mem_cons.mpr ⟨Or.inr ⟨by decide, _, q2377, by decide +kernel⟩, fun _ h => absurd h List.not_mem_nil⟩⟩⟩) ht hx
      · exact r_pass C hS hmc rfl (by rw [hT]; exact List.forall_mem_cons.mpr ⟨Or.inr ⟨by decide, _, q2376, by decide +kernel⟩, List.forall_mem_cons.mpr ⟨Or.inr ⟨by decide, _, q2357, by decide +kernel⟩, List.forall_mem_cons.mpr ⟨Or.inr ⟨by decide, _, q2377, by decide +kernel⟩, fun _ h => absurd h List.not_mem_nil⟩⟩⟩) ht hx
      · exact r_pass C hS hmc rfl (by rw [hT]; exact List.forall_mem_cons.mpr ⟨Or.inr ⟨by decide, _, q2376, by decide +kernel⟩, List.forall_mem_cons.mpr ⟨Or.inr ⟨by decide, _, q2357, by decide +kernel⟩, List.forall_mem_cons.mpr ⟨Or.inr ⟨by decide, _, q2377, by decide +kernel⟩, fun _ h => absurd h List.not_mem_nil⟩⟩⟩) ht hx
      · exact r_pass C hS hmc rfl (by rw [hT]; exact List.forall_mem_cons.mpr ⟨Or.inr ⟨by decide, _, q2376, by decide +kernel⟩, List.forall_mem_cons.mpr ⟨Or.inr ⟨by decide, _, q2357, by decide +kernel⟩, List.forall_mem_cons.mpr ⟨Or.inr ⟨by decide, _, q2377, by decide +kernel⟩, fun _ h => absurd h List.not_mem_nil⟩⟩⟩) ht hx
  · obtain ⟨x5, rfl, hw⟩ := hv
    refine lv_i2l C.1 C.2.1 dX0_lend_12 rfl ?_
    refine r_last C hS dX0_lend_13 hw (fun z6 H locs hw hS => ?_)
    refine lv_goto C.1 C.2.1 dX0_lend_14 rfl ?_
    refine lv_iconst C.1 C.2.1 (v := 0) dX0_lend_29 rfl ?_
    exact r_iret C hS hmc hr dX0_lend_30 hw
end
theorem kX0_lend {l : Launch} (hl : l.stackTraces = false) {G : gE} {P : Int32 → hSt → Prop} {PX : Nat → Nat → hSt → Prop} {v0 : Option Nat} {v1 : Int32} {v2 : Int32} {v3 : Int32} {v4 : Int32} {v5 : Option Nat} {z : hSt} : cM l G yX0_lend (wsW_ yX0_lend cX0_lend 7 (Option.some Jvm.ClassFile.FieldType.int) [((0 : Nat), (14 : Nat), (17 : Nat), (15 : Nat)), ((0 : Nat), (14 : Nat), (21 : Nat), (13 : Nat)), ((0 : Nat), (14 : Nat), (25 : Nat), (17 : Nat))]) 21 1455 z [va_rf v0, .int v1, .int v2, .int v3, .int v4, va_rf v5] (wX0_lend G P PX v0 v1 v2 v3 v4 v5 z) (pI P) PX := by
  refine m_ofH hl (plainFor_of_name (by decide)) (by rw [lg_sl1 (va_rf_cat _), lg_sl1 rfl, lg_sl1 rfl, lg_sl1 rfl, lg_sl1 rfl, lg_sl1 (va_rf_cat _)]; exact Nat.le_of_ble_eq_true rfl) ?_
  intro p e s m args below meth c C hr hin hT hmc hw
  rw [lv_args1 (va_rf_cat _), lv_args1 rfl, lv_args1 rfl, lv_args1 rfl, lv_args1 rfl, lv_args1 (va_rf_cat _)]
  intro H locs ls hS hl
  exact kX0_lendb0 C hr hin hT hmc hw H locs ls hS (lv_sub hl [0, 1, 2, 3, 4, 5] rfl)
theorem hdX0_lend : yX0_lend.cls ≠ "java/lang/invoke/MethodHandle" ∧ yX0_lend.cls ≠ "java/lang/invoke/VarHandle" ∧ (parseMethodDescriptor yX0_lend.desc).map (fun d => d.parameters.length) = some 6 := ⟨by decide +kernel, by decide +kernel, by decide +kernel⟩
abbrev rmX0_back (mc ms : Nat) : Room := { frames := 21, cells := mc, slots := ms, locals := 1452 }
def wX0_backb13 (G : gE) (P : Int32 → hSt → Prop) (PX : Nat → Nat → hSt → Prop)  (s0 : Option Nat) (z : hSt) : Prop :=
  P 1 z
def wX0_backb17 (G : gE) (P : Int32 → hSt → Prop) (PX : Nat → Nat → hSt → Prop)  (s0 : Option Nat) (z : hSt) : Prop :=
  P 2 z
def wX0_backb0 (G : gE) (P : Int32 → hSt → Prop) (PX : Nat → Nat → hSt → Prop)  (v0 : Option Nat) (v1 : Int32) (v2 : Int32) (v3 : Option Nat) (z : hSt) : Prop :=
  (rcv z v0 0 ∧ wX1_back G (fun x5 z4 => asL G z4 v3 0 ((x5 : Int32).toInt64) (fun z6 => P 0 z6)) (fun c3 e2 z1 => (c3 = 29 ∧ wX0_backb13 G P PX  (some e2) z1) ∨ (c3 = 30 ∧ wX0_backb17 G P PX  (some e2) z1) ∨ (c3 ∈ ([8, 11, 28, 31, 32, 33] : List Nat) ∧ PX c3 e2 z1)) v0 v1 v2 z)
def wX0_back (G : gE) (P : Int32 → hSt → Prop) (PX : Nat → Nat → hSt → Prop) (v0 : Option Nat) (v1 : Int32) (v2 : Int32) (v3 : Option Nat) (z : hSt) : Prop := wX0_backb0 G P PX v0 v1 v2 v3 z
section
variable {p : Program} {l : Launch} {e : Env} {s : State} {m : MethodId} {args : Array Value} {below : List Frame} {meth : Method} {c : Code} {G : gE} {mc ms : Nat} {P : Int32 → hSt → Prop} {PX : Nat → Nat → hSt → Prop}
theorem kX0_backb13 (C : xC G p l s m args meth c cX0_back 5 "ExcuseLedgerLaw") (hr : meth.sig.returnType = (Option.some Jvm.ClassFile.FieldType.int)) (hin : meth.name = "back") (hT : c.exceptionTable.toList = tableOf [((0 : Nat), (10 : Nat), (13 : Nat), (15 : Nat)), ((0 : Nat), (10 : Nat), (17 : Nat), (17 : Nat))]) (hmc : mc = gL G - s.heap.size ∧ ms = gU G - hsum s.heap)   {s0 : Option Nat} {z : hSt} (hw : wX0_backb13 G P PX  s0 z) : kt G p l e (rmX0_back mc ms) s m args below meth c 5 (vx_MQ below (cQ G (pI P)) (cX G PX) args s mc ms (gF G)) 13 [] [va_rf s0] z := by
  intro H locs ls hS hl
  refine r_astore C.1 C.2.1 dX0_back_13 hl (Nat.le_of_ble_eq_true rfl) (ls_new ls_nil) (fun ls hl => ?_)
  refine lv_iconst C.1 C.2.1 (v := 1) dX0_back_15 rfl ?_
  exact r_iret C hS hmc hr dX0_back_16 hw
theorem kX0_backb17 (C : xC G p l s m args meth c cX0_back 5 "ExcuseLedgerLaw") (hr : meth.sig.returnType = (Option.some Jvm.ClassFile.FieldType.int)) (hin : meth.name = "back") (hT : c.exceptionTable.toList = tableOf [((0 : Nat), (10 : Nat), (13 : Nat), (15 : Nat)), ((0 : Nat), (10 : Nat), (17 : Nat), (17 : Nat))]) (hmc : mc = gL G - s.heap.size ∧ ms = gU G - hsum s.heap)   {s0 : Option Nat} {z : hSt} (hw : wX0_backb17 G P PX  s0 z) : kt G p l e (rmX0_back mc ms) s m args below meth c 5 (vx_MQ below (cQ G (pI P)) (cX G PX) args s mc ms (gF G)) 17 [] [va_rf s0] z := by
  intro H locs ls hS hl
  refine r_astore C.1 C.2.1 dX0_back_17 hl (Nat.le_of_ble_eq_true rfl) (ls_new ls_nil) (fun ls hl => ?_)
  refine lv_iconst C.1 C.2.1 (v := 2) dX0_back_19 rfl ?_
  exact r_iret C hS hmc hr dX0_back_20 hw
theorem kX0_backb0 (C : xC G p l s m args meth c cX0_back 5 "ExcuseLedgerLaw") (hr : meth.sig.returnType = (Option.some Jvm.ClassFile.FieldType.int)) (hin : meth.name = "back") (hT : c.exceptionTable.toList = tableOf [((0 : Nat), (10 : Nat), (13 : Nat), (15 : Nat)), ((0 : Nat), (10 : Nat), (17 : Nat), (17 : Nat))]) (hmc : mc = gL G - s.heap.size ∧ ms = gU G - hsum s.heap)   {v0 : Option Nat} {v1 : Int32} {v2 : Int32} {v3 : Option Nat} {z : hSt} (hw : wX0_backb0 G P PX  v0 v1 v2 v3 z) : kt G p l e (rmX0_back mc ms) s m args below meth c 5 (vx_MQ below (cQ G (pI P)) (cX G PX) args s mc ms (gF G)) 0 [(0, va_rf v0), (1, .int v1), (2, .int v2), (3, va_rf v3)] [] z := by
  intro H locs ls hS hl
  refine r_aload_n C.1 C.2.1 dX0_back_0 rfl (lv_at hl 3 rfl) ?_
  refine lv_iconst C.1 C.2.1 (v := 0) dX0_back_1 rfl ?_
  refine r_aload_n C.1 C.2.1 dX0_back_2 rfl (lv_at hl 0 rfl) ?_
  refine lv_iload_n C.1 C.2.1 dX0_back_3 rfl (lv_at hl 1 rfl) ?_
  refine lv_iload_n C.1 C.2.1 dX0_back_4 rfl (lv_at hl 2 rfl) ?_
  refine c_V C hS hmc hl.1 (ci := 0) rfl hw.1 (kX1_back C.2.2.2.2.2.2.1) hw.2 (lw_V q2442 q2443 q2444 q67 q2445) ⟨rfl, hdX1_back⟩ ⟨Nat.le_of_ble_eq_true rfl, Nat.le_of_ble_eq_true rfl⟩ (rest := [.int 0, va_rf v3]) rfl rfl (Nat.le_of_ble_eq_true rfl) dX0_back_5 (fun c3 e2 z1 H locs hx hS ht => ?_) (fun v z4 H locs hv hS => ?_)
  · rcases hx with ⟨rfl, hw⟩ | ⟨rfl, hw⟩ | ⟨h9, hx⟩
    · refine r_catch C [] (⟨0, 10, 13, 15⟩ : ExceptionTableEntry) [(⟨0, 10, 17, 17⟩ : ExceptionTableEntry)] (by rw [hT]; rfl) (ci := 29) rfl (fun _ h => absurd h List.not_mem_nil) (by decide) (by decide) q2376 q999 ht ?_
      exact kX0_backb13 C hr hin hT hmc  hw H locs ls hS (lv_sub hl [] rfl)
    · refine r_catch C [(⟨0, 10, 13, 15⟩ : ExceptionTableEntry)] (⟨0, 10, 17, 17⟩ : ExceptionTableEntry) [] (by rw [hT]; rfl) (ci := 30) rfl (List.forall_mem_cons.mpr ⟨Or.inr ⟨by decide, _, q2376, by decide +kernel⟩, fun _ h => absurd h List.not_mem_nil⟩) (by decide) (by decide) q2377 q1943 ht ?_
      exact kX0_backb17 C hr hin hT hmc  hw H locs ls hS (lv_sub hl [] rfl)
    · simp only [List.mem_cons, List.not_mem_nil, or_false] at h9
      rcases h9 with rfl | rfl | rfl | rfl | rfl | rfl
      · exact r_pass C hS hmc rfl (by rw [hT]; exact List.forall_mem_cons.mpr ⟨Or.inr ⟨by decide, _, q2376, by decide +kernel⟩, List.forall_mem_cons.mpr ⟨Or.inr ⟨by decide, _, q2377, by decide +kernel⟩, fun _ h => absurd h List.not_mem_nil⟩⟩) ht hx
      · exact r_pass C hS hmc rfl (by rw [hT]; exact List.forall_mem_cons.mpr ⟨Or.inr ⟨by decide, _, q2376, by decide +kernel⟩, List.forall_mem_cons.mpr ⟨Or.inr ⟨by decide, _, q2377, by decide +kernel⟩, fun _ h => absurd h List.not_mem_nil⟩⟩) ht hx
      · exact r_pass C hS hmc rfl (by rw [hT]; exact List.forall_mem_cons.mpr ⟨Or.inr ⟨by decide, _, q2376, by decide +kernel⟩, List.forall_mem_cons.mpr ⟨Or.inr ⟨by decide, _, q2377, by decide +kernel⟩, fun _ h => absurd h List.not_mem_nil⟩⟩) ht hx
      · exact r_pass C hS hmc rfl (by rw [hT]; exact List.forall_mem_cons.mpr ⟨Or.inr ⟨by decide, _, q2376, by decide +kernel⟩, List.forall_mem_cons.mpr ⟨Or.inr ⟨by decide, _, q2377, by decide +kernel⟩, fun _ h => absurd h List.not_mem_nil⟩⟩) ht hx
      · exact r_pass C hS hmc rfl (by rw [hT]; exact List.forall_mem_cons.mpr ⟨Or.inr ⟨by decide, _, q2376, by decide +kernel⟩, List.forall_mem_cons.mpr ⟨Or.inr ⟨by decide, _, q2377, by decide +kernel⟩, fun _ h => absurd h List.not_mem_nil⟩⟩) ht hx
      · exact r_pass C hS hmc rfl (by rw [hT]; exact List.forall_mem_cons.mpr ⟨Or.inr ⟨by decide, _, q2376, by decide +kernel⟩, List.forall_mem_cons.mpr ⟨Or.inr ⟨by decide, _, q2377, by decide +kernel⟩, fun _ h => absurd h List.not_mem_nil⟩⟩) ht hx
  · obtain ⟨x5, rfl, hw⟩ := hv
    refine lv_i2l C.1 C.2.1 dX0_back_8 rfl ?_
    refine r_last C hS dX0_back_9 hw (fun z6 H locs hw hS => ?_)
    refine lv_goto C.1 C.2.1 dX0_back_10 rfl ?_
    refine lv_iconst C.1 C.2.1 (v := 0) dX0_back_21 rfl ?_
    exact r_iret C hS hmc hr dX0_back_22 hw
end
theorem kX0_back {l : Launch} (hl : l.stackTraces = false) {G : gE} {P : Int32 → hSt → Prop} {PX : Nat → Nat → hSt → Prop} {v0 : Option Nat} {v1 : Int32} {v2 : Int32} {v3 : Option Nat} {z : hSt} : cM l G yX0_back (wsW_ yX0_back cX0_back 5 (Option.some Jvm.ClassFile.FieldType.int) [((0 : Nat), (10 : Nat), (13 : Nat), (15 : Nat)), ((0 : Nat), (10 : Nat), (17 : Nat), (17 : Nat))]) 21 1452 z [va_rf v0, .int v1, .int v2, va_rf v3] (wX0_back G P PX v0 v1 v2 v3 z) (pI P) PX := by
  refine m_ofH hl (plainFor_of_name (by decide)) (by rw [lg_sl1 (va_rf_cat _), lg_sl1 rfl, lg_sl1 rfl, lg_sl1 (va_rf_cat _)]; exact Nat.le_of_ble_eq_true rfl) ?_
  intro p e s m args below meth c C hr hin hT hmc hw
  rw [lv_args1 (va_rf_cat _), lv_args1 rfl, lv_args1 rfl, lv_args1 (va_rf_cat _)]
  intro H locs ls hS hl
  exact kX0_backb0 C hr hin hT hmc hw H locs ls hS (lv_sub hl [0, 1, 2, 3] rfl)
theorem hdX0_back : yX0_back.cls ≠ "java/lang/invoke/MethodHandle" ∧ yX0_back.cls ≠ "java/lang/invoke/VarHandle" ∧ (parseMethodDescriptor yX0_back.desc).map (fun d => d.parameters.length) = some 4 := ⟨by decide +kernel, by decide +kernel, by decide +kernel⟩
abbrev rmX0_mend (mc ms : Nat) : Room := { frames := 21, cells := mc, slots := ms, locals := 1454 }
def wX0_mendb15 (G : gE) (P : Int32 → hSt → Prop) (PX : Nat → Nat → hSt → Prop)  (s0 : Option Nat) (z : hSt) : Prop :=
  P 1 z
def wX0_mendb19 (G : gE) (P : Int32 → hSt → Prop) (PX : Nat → Nat → hSt → Prop)  (s0 : Option Nat) (z : hSt) : Prop :=
  P 2 z
def wX0_mendb0 (G : gE) (P : Int32 → hSt → Prop) (PX : Nat → Nat → hSt → Prop)  (v0 : Option Nat) (v1 : Int32) (v2 : Int32) (v3 : Int32) (v4 : Option Nat) (z : hSt) : Prop :=
  (rcv z v0 0 ∧ wX1_mend G (fun x5 z4 => asL G z4 v4 0 ((x5 : Int32).toInt64) (fun z6 => P 0 z6)) (fun c3 e2 z1 => (c3 = 29 ∧ wX0_mendb15 G P PX  (some e2) z1) ∨ (c3 = 30 ∧ wX0_mendb19 G P PX  (some e2) z1) ∨ (c3 ∈ ([8, 11, 28, 31, 32, 33] : List Nat) ∧ PX c3 e2 z1)) v0 v1 v2 v3 z)
def wX0_mend (G : gE) (P : Int32 → hSt → Prop) (PX : Nat → Nat → hSt → Prop) (v0 : Option Nat) (v1 : Int32) (v2 : Int32) (v3 : Int32) (v4 : Option Nat) (z : hSt) : Prop := wX0_mendb0 G P PX v0 v1 v2 v3 v4 z
section
variable {p : Program} {l : Launch} {e : Env} {s : State} {m : MethodId} {args : Array Value} {below : List Frame} {meth : Method} {c : Code} {G : gE} {mc ms : Nat} {P : Int32 → hSt → Prop} {PX : Nat → Nat → hSt → Prop}
theorem kX0_mendb15 (C : xC G p l s m args meth c cX0_mend 6 "ExcuseLedgerLaw") (hr : meth.sig.returnType = (Option.some Jvm.ClassFile.FieldType.int)) (hin : meth.name = "mend") (hT : c.exceptionTable.toList = tableOf [((0 : Nat), (12 : Nat), (15 : Nat), (15 : Nat)), ((0 : Nat), (12 : Nat), (19 : Nat), (17 : Nat))]) (hmc : mc = gL G - s.heap.size ∧ ms = gU G - hsum s.heap)   {s0 : Option Nat} {z : hSt} (hw : wX0_mendb15 G P PX  s0 z) : kt G p l e (rmX0_mend mc ms) s m args below meth c 6 (vx_MQ below (cQ G (pI P)) (cX G PX) args s mc ms (gF G)) 15 [] [va_rf s0] z := by
  intro H locs ls hS hl
  refine r_astore C.1 C.2.1 dX0_mend_15 hl (Nat.le_of_ble_eq_true rfl) (ls_new ls_nil) (fun ls hl => ?_)
  refine lv_iconst C.1 C.2.1 (v := 1) dX0_mend_17 rfl ?_
  exact r_iret C hS hmc hr dX0_mend_18 hw
theorem kX0_mendb19 (C : xC G p l s m args meth c cX0_mend 6 "ExcuseLedgerLaw") (hr : meth.sig.returnType = (Option.some Jvm.ClassFile.FieldType.int)) (hin : meth.name = "mend") (hT : c.exceptionTable.toList = tableOf [((0 : Nat), (12 : Nat), (15 : Nat), (15 : Nat)), ((0 : Nat), (12 : Nat), (19 : Nat), (17 : Nat))]) (hmc : mc = gL G - s.heap.size ∧ ms = gU G - hsum s.heap)   {s0 : Option Nat} {z : hSt} (hw : wX0_mendb19 G P PX  s0 z) : kt G p l e (rmX0_mend mc ms) s m args below meth c 6 (vx_MQ below (cQ G (pI P)) (cX G PX) args s mc ms (gF G)) 19 [] [va_rf s0] z := by
  intro H locs ls hS hl
  refine r_astore C.1 C.2.1 dX0_mend_19 hl (Nat.le_of_ble_eq_true rfl) (ls_new ls_nil) (fun ls hl => ?_)
  refine lv_iconst C.1 C.2.1 (v := 2) dX0_mend_21 rfl ?_
  exact r_iret C hS hmc hr dX0_mend_22 hw
theorem kX0_mendb0 (C : xC G p l s m args meth c cX0_mend 6 "ExcuseLedgerLaw") (hr : meth.sig.returnType = (Option.some Jvm.ClassFile.FieldType.int)) (hin : meth.name = "mend") (hT : c.exceptionTable.toList = tableOf [((0 : Nat), (12 : Nat), (15 : Nat), (15 : Nat)), ((0 : Nat), (12 : Nat), (19 : Nat), (17 : Nat))]) (hmc : mc = gL G - s.heap.size ∧ ms = gU G - hsum s.heap)   {v0 : Option Nat} {v1 : Int32} {v2 : Int32} {v3 : Int32} {v4 : Option Nat} {z : hSt} (hw : wX0_mendb0 G P PX  v0 v1 v2 v3 v4 z) : kt G p l e (rmX0_mend mc ms) s m args below meth c 6 (vx_MQ below (cQ G (pI P)) (cX G PX) args s mc ms (gF G)) 0 [(0, va_rf v0), (1, .int v1), (2, .int v2), (3, .int v3), (4, va_rf v4)] [] z := by
  intro H locs ls hS hl
  refine r_aload C.1 C.2.1 dX0_mend_0 (lv_at hl 4 rfl) ?_
  refine lv_iconst C.1 C.2.1 (v := 0) dX0_mend_2 rfl ?_
  refine r_aload_n C.1 C.2.1 dX0_mend_3 rfl (lv_at hl 0 rfl) ?_
  refine lv_iload_n C.1 C.2.1 dX0_mend_4 rfl (lv_at hl 1 rfl) ?_
  refine lv_iload_n C.1 C.2.1 dX0_mend_5 rfl (lv_at hl 2 rfl) ?_
  refine lv_iload_n C.1 C.2.1 dX0_mend_6 rfl (lv_at hl 3 rfl) ?_
  refine c_V C hS hmc hl.1 (ci := 0) rfl hw.1 (kX1_mend C.2.2.2.2.2.2.1) hw.2 (lw_V q2450 q2451 q2452 q67 q2453) ⟨rfl, hdX1_mend⟩ ⟨Nat.le_of_ble_eq_true rfl, Nat.le_of_ble_eq_true rfl⟩ (rest := [.int 0, va_rf v4]) rfl rfl (Nat.le_of_ble_eq_true rfl) dX0_mend_7 (fun c3 e2 z1 H locs hx hS ht => ?_) (fun v z4 H locs hv hS => ?_)
  · rcases hx with ⟨rfl, hw⟩ | ⟨rfl, hw⟩ | ⟨h9, hx⟩
    · refine r_catch C [] (⟨0, 12, 15, 15⟩ : ExceptionTableEntry) [(⟨0, 12, 19, 17⟩ : ExceptionTableEntry)] (by rw [hT]; rfl) (ci := 29) rfl (fun _ h => absurd h List.not_mem_nil) (by decide) (by decide) q2376 q999 ht ?_
      exact kX0_mendb15 C hr hin hT hmc  hw H locs ls hS (lv_sub hl [] rfl)
    · refine r_catch C [(⟨0, 12, 15, 15⟩ : ExceptionTableEntry)] (⟨0, 12, 19, 17⟩ : ExceptionTableEntry) [] (by rw [hT]; rfl) (ci := 30) rfl (List.forall_mem_cons.mpr ⟨Or.inr ⟨by decide, _, q2376, by decide +kernel⟩, fun _ h => absurd h List.not_mem_nil⟩) (by decide) (by decide) q2377 q1943 ht ?_
      exact kX0_mendb19 C hr hin hT hmc  hw H locs ls hS (lv_sub hl [] rfl)
    · simp only [List.mem_cons, List.not_mem_nil, or_false] at h9
      rcases h9 with rfl | rfl | rfl | rfl | rfl | rfl
      · exact r_pass C hS hmc rfl (by rw [hT]; exact List.forall_mem_cons.mpr ⟨Or.inr ⟨by decide, _, q2376, by decide +kernel⟩, List.forall_mem_cons.mpr ⟨Or.inr ⟨by decide, _, q2377, by decide +kernel⟩, fun _ h => absurd h List.not_mem_nil⟩⟩) ht hx
      · exact r_pass C hS hmc rfl (by rw [hT]; exact List.forall_mem_cons.mpr ⟨Or.inr ⟨by decide, _, q2376, by decide +kernel⟩, List.forall_mem_cons.mpr ⟨Or.inr ⟨by decide, _, q2377, by decide +kernel⟩, fun _ h => absurd h List.not_mem_nil⟩⟩) ht hx
      · exact r_pass C hS hmc rfl (by rw [hT]; exact List.forall_mem_cons.mpr ⟨Or.inr ⟨by decide, _, q2376, by decide +kernel⟩, List.forall_mem_cons.mpr ⟨Or.inr ⟨by decide, _, q2377, by decide +kernel⟩, fun _ h => absurd h List.not_mem_nil⟩⟩) ht hx
      · exact r_pass C hS hmc rfl (by rw [hT]; exact List.forall_mem_cons.mpr ⟨Or.inr ⟨by decide, _, q2376, by decide +kernel⟩, List.forall_mem_cons.mpr ⟨Or.inr ⟨by decide, _, q2377, by decide +kernel⟩, fun _ h => absurd h List.not_mem_nil⟩⟩) ht hx
      · exact r_pass C hS hmc rfl (by rw [hT]; exact List.forall_mem_cons.mpr ⟨Or.inr ⟨by decide, _, q2376, by decide +kernel⟩, List.forall_mem_cons.mpr ⟨Or.inr ⟨by decide, _, q2377, by decide +kernel⟩, fun _ h => absurd h List.not_mem_nil⟩⟩) ht hx
      · exact r_pass C hS hmc rfl (by rw [hT]; exact List.forall_mem_cons.mpr ⟨Or.inr ⟨by decide, _, q2376, by decide +kernel⟩, List.forall_mem_cons.mpr ⟨Or.inr ⟨by decide, _, q2377, by decide +kernel⟩, fun _ h => absurd h List.not_mem_nil⟩⟩) ht hx
  · obtain ⟨x5, rfl, hw⟩ := hv
    refine lv_i2l C.1 C.2.1 dX0_mend_10 rfl ?_
    refine r_last C hS dX0_mend_11 hw (fun z6 H locs hw hS => ?_)
    refine lv_goto C.1 C.2.1 dX0_mend_12 rfl ?_
    refine lv_iconst C.1 C.2.1 (v := 0) dX0_mend_23 rfl ?_
    exact r_iret C hS hmc hr dX0_mend_24 hw
end
theorem kX0_mend {l : Launch} (hl : l.stackTraces = false) {G : gE} {P : Int32 → hSt → Prop} {PX : Nat → Nat → hSt → Prop} {v0 : Option Nat} {v1 : Int32} {v2 : Int32} {v3 : Int32} {v4 : Option Nat} {z : hSt} : cM l G yX0_mend (wsW_ yX0_mend cX0_mend 6 (Option.some Jvm.ClassFile.FieldType.int) [((0 : Nat), (12 : Nat), (15 : Nat), (15 : Nat)), ((0 : Nat), (12 : Nat), (19 : Nat), (17 : Nat))]) 21 1454 z [va_rf v0, .int v1, .int v2, .int v3, va_rf v4] (wX0_mend G P PX v0 v1 v2 v3 v4 z) (pI P) PX := by
  refine m_ofH hl (plainFor_of_name (by decide)) (by rw [lg_sl1 (va_rf_cat _), lg_sl1 rfl, lg_sl1 rfl, lg_sl1 rfl, lg_sl1 (va_rf_cat _)]; exact Nat.le_of_ble_eq_true rfl) ?_
  intro p e s m args below meth c C hr hin hT hmc hw
  rw [lv_args1 (va_rf_cat _), lv_args1 rfl, lv_args1 rfl, lv_args1 rfl, lv_args1 (va_rf_cat _)]
  intro H locs ls hS hl
  exact kX0_mendb0 C hr hin hT hmc hw H locs ls hS (lv_sub hl [0, 1, 2, 3, 4] rfl)
theorem hdX0_mend : yX0_mend.cls ≠ "java/lang/invoke/MethodHandle" ∧ yX0_mend.cls ≠ "java/lang/invoke/VarHandle" ∧ (parseMethodDescriptor yX0_mend.desc).map (fun d => d.parameters.length) = some 5 := ⟨by decide +kernel, by decide +kernel, by decide +kernel⟩
abbrev rmX0_use (mc ms : Nat) : Room := { frames := 21, cells := mc, slots := ms, locals := 1454 }
def wX0_useb20 (G : gE) (P : Int32 → hSt → Prop) (PX : Nat → Nat → hSt → Prop)  (s0 : Option Nat) (s1 : Int32) (s2 : Int64) (z : hSt) : Prop :=
  asL G z s0 s1 s2 (fun z6 => P 0 z6)
def wX0_useb28 (G : gE) (P : Int32 → hSt → Prop) (PX : Nat → Nat → hSt → Prop)  (s0 : Option Nat) (z : hSt) : Prop :=
  P 2 z
def wX0_useb32 (G : gE) (P : Int32 → hSt → Prop) (PX : Nat → Nat → hSt → Prop)  (s0 : Option Nat) (z : hSt) : Prop :=
  P 3 z
def wX0_useb24 (G : gE) (P : Int32 → hSt → Prop) (PX : Nat → Nat → hSt → Prop)  (s0 : Option Nat) (z : hSt) : Prop :=
  P 1 z
def wX0_useb0 (G : gE) (P : Int32 → hSt → Prop) (PX : Nat → Nat → hSt → Prop)  (v0 : Option Nat) (v1 : Int32) (v2 : Int32) (v3 : Int32) (v4 : Int32) (v5 : Option Nat) (z : hSt) : Prop :=
  (rcv z v0 0 ∧ wX1_use G (fun x5 z4 => ((x5 = 0 → wX0_useb20 G P PX  v5 0 0 z4) ∧ (¬ x5 = 0 → wX0_useb20 G P PX  v5 0 1 z4))) (fun c3 e2 z1 => (c3 = 29 ∧ wX0_useb28 G P PX  (some e2) z1) ∨ (c3 = 30 ∧ wX0_useb32 G P PX  (some e2) z1) ∨ (c3 = 32 ∧ wX0_useb24 G P PX  (some e2) z1) ∨ (c3 ∈ ([8, 11, 28, 31, 33] : List Nat) ∧ PX c3 e2 z1)) v0 v1 v2 v3 v4 z)
def wX0_use (G : gE) (P : Int32 → hSt → Prop) (PX : Nat → Nat → hSt → Prop) (v0 : Option Nat) (v1 : Int32) (v2 : Int32) (v3 : Int32) (v4 : Int32) (v5 : Option Nat) (z : hSt) : Prop := wX0_useb0 G P PX v0 v1 v2 v3 v4 v5 z
section
variable {p : Program} {l : Launch} {e : Env} {s : State} {m : MethodId} {args : Array Value} {below : List Frame} {meth : Method} {c : Code} {G : gE} {mc ms : Nat} {P : Int32 → hSt → Prop} {PX : Nat → Nat → hSt → Prop}
theorem kX0_useb20 (C : xC G p l s m args meth c cX0_use 7 "ExcuseLedgerLaw") (hr : meth.sig.returnType = (Option.some Jvm.ClassFile.FieldType.int)) (hin : meth.name = "use") (hT : c.exceptionTable.toList = tableOf [((0 : Nat), (21 : Nat), (24 : Nat), (13 : Nat)), ((0 : Nat), (21 : Nat), (28 : Nat), (15 : Nat)), ((0 : Nat), (21 : Nat), (32 : Nat), (17 : Nat))]) (hmc : mc = gL G - s.heap.size ∧ ms = gU G - hsum s.heap)   {s0 : Option Nat} {s1 : Int32} {s2 : Int64} {z : hSt} (hw : wX0_useb20 G P PX  s0 s1 s2 z) : kt G p l e (rmX0_use mc ms) s m args below meth c 7 (vx_MQ below (cQ G (pI P)) (cX G PX) args s mc ms (gF G)) 20 [] [.long s2, .int s1, va_rf s0] z := by
  intro H locs ls hS hl
  refine r_last C hS dX0_use_20 hw (fun z6 H locs hw hS => ?_)
  refine lv_goto C.1 C.2.1 dX0_use_21 rfl ?_
  refine lv_iconst C.1 C.2.1 (v := 0) dX0_use_36 rfl ?_
  exact r_iret C hS hmc hr dX0_use_37 hw
theorem kX0_useb28 (C : xC G p l s m args meth c cX0_use 7 "ExcuseLedgerLaw") (hr : meth.sig.returnType = (Option.some Jvm.ClassFile.FieldType.int)) (hin : meth.name = "use") (hT : c.exceptionTable.toList = tableOf [((0 : Nat), (21 : Nat), (24 : Nat), (13 : Nat)), ((0 : Nat), (21 : Nat), (28 : Nat), (15 : Nat)), ((0 : Nat), (21 : Nat), (32 : Nat), (17 : Nat))]) (hmc : mc = gL G - s.heap.size ∧ ms = gU G - hsum s.heap)   {s0 : Option Nat} {z : hSt} (hw : wX0_useb28 G P PX  s0 z) : kt G p l e (rmX0_use mc ms) s m args below meth c 7 (vx_MQ below (cQ G (pI P)) (cX G PX) args s mc ms (gF G)) 28 [] [va_rf s0] z := by
  intro H locs ls hS hl
  refine r_astore C.1 C.2.1 dX0_use_28 hl (Nat.le_of_ble_eq_true rfl) (ls_new ls_nil) (fun ls hl => ?_)
  refine lv_iconst C.1 C.2.1 (v := 2) dX0_use_30 rfl ?_
  exact r_iret C hS hmc hr dX0_use_31 hw
theorem kX0_useb32 (C : xC G p l s m args meth c cX0_use 7 "ExcuseLedgerLaw") (hr : meth.sig.returnType = (Option.some Jvm.ClassFile.FieldType.int)) (hin : meth.name = "use") (hT : c.exceptionTable.toList = tableOf [((0 : Nat), (21 : Nat), (24 : Nat), (13 : Nat)), ((0 : Nat), (21 : Nat), (28 : Nat), (15 : Nat)), ((0 : Nat), (21 : Nat), (32 : Nat), (17 : Nat))]) (hmc : mc = gL G - s.heap.size ∧ ms = gU G - hsum s.heap)   {s0 : Option Nat} {z : hSt} (hw : wX0_useb32 G P PX  s0 z) : kt G p l e (rmX0_use mc ms) s m args below meth c 7 (vx_MQ below (cQ G (pI P)) (cX G PX) args s mc ms (gF G)) 32 [] [va_rf s0] z := by
  intro H locs ls hS hl
  refine r_astore C.1 C.2.1 dX0_use_32 hl (Nat.le_of_ble_eq_true rfl) (ls_new ls_nil) (fun ls hl => ?_)
  refine lv_iconst C.1 C.2.1 (v := 3) dX0_use_34 rfl ?_
  exact r_iret C hS hmc hr dX0_use_35 hw
theorem kX0_useb24 (C : xC G p l s m args meth c cX0_use 7 "ExcuseLedgerLaw") (hr : meth.sig.returnType = (Option.some Jvm.ClassFile.FieldType.int)) (hin : meth.name = "use") (hT : c.exceptionTable.toList = tableOf [((0 : Nat), (21 : Nat), (24 : Nat), (13 : Nat)), ((0 : Nat), (21 : Nat), (28 : Nat), (15 : Nat)), ((0 : Nat), (21 : Nat), (32 : Nat), (17 : Nat))]) (hmc : mc = gL G - s.heap.size ∧ ms = gU G - hsum s.heap)   {s0 : Option Nat} {z : hSt} (hw : wX0_useb24 G P PX  s0 z) : kt G p l e (rmX0_use mc ms) s m args below meth c 7 (vx_MQ below (cQ G (pI P)) (cX G PX) args s mc ms (gF G)) 24 [] [va_rf s0] z := by
  intro H locs ls hS hl
  refine r_astore C.1 C.2.1 dX0_use_24 hl (Nat.le_of_ble_eq_true rfl) (ls_new ls_nil) (fun ls hl => ?_)
  refine lv_iconst C.1 C.2.1 (v := 1) dX0_use_26 rfl ?_
  exact r_iret C hS hmc hr dX0_use_27 hw
theorem kX0_useb0 (C : xC G p l s m args meth c cX0_use 7 "ExcuseLedgerLaw") (hr : meth.sig.returnType = (Option.some Jvm.ClassFile.FieldType.int)) (hin : meth.name = "use") (hT : c.exceptionTable.toList = tableOf [((0 : Nat), (21 : Nat), (24 : Nat), (13 : Nat)), ((0 : Nat), (21 : Nat), (28 : Nat), (15 : Nat)), ((0 : Nat), (21 : Nat), (32 : Nat), (17 : Nat))]) (hmc : mc = gL G - s.heap.size ∧ ms = gU G - hsum s.heap)   {v0 : Option Nat} {v1 : Int32} {v2 : Int32} {v3 : Int32} {v4 : Int32} {v5 : Option Nat} {z : hSt} (hw : wX0_useb0 G P PX  v0 v1 v2 v3 v4 v5 z) : kt G p l e (rmX0_use mc ms) s m args below meth c 7 (vx_MQ below (cQ G (pI P)) (cX G PX) args s mc ms (gF G)) 0 [(0, va_rf v0), (1, .int v1), (2, .int v2), (3, .int v3), (4, .int v4), (5, va_rf v5)] [] z := by
  intro H locs ls hS hl
  refine r_aload C.1 C.2.1 dX0_use_0 (lv_at hl 5 rfl) ?_
  refine lv_iconst C.1 C.2.1 (v := 0) dX0_use_2 rfl ?_
  refine r_aload_n C.1 C.2.1 dX0_use_3 rfl (lv_at hl 0 rfl) ?_
  refine lv_iload_n C.1 C.2.1 dX0_use_4 rfl (lv_at hl 1 rfl) ?_
  refine lv_iload_n C.1 C.2.1 dX0_use_5 rfl (lv_at hl 2 rfl) ?_
  refine lv_iload_n C.1 C.2.1 dX0_use_6 rfl (lv_at hl 3 rfl) ?_
  refine lv_iload C.1 C.2.1 dX0_use_7 (lv_at hl 4 rfl) ?_
  refine c_V C hS hmc hl.1 (ci := 0) rfl hw.1 (kX1_use C.2.2.2.2.2.2.1) hw.2 (lw_V q2458 q2459 q2460 q67 q2461) ⟨rfl, hdX1_use⟩ ⟨Nat.le_of_ble_eq_true rfl, Nat.le_of_ble_eq_true rfl⟩ (rest := [.int 0, va_rf v5]) rfl rfl (Nat.le_of_ble_eq_true rfl) dX0_use_9 (fun c3 e2 z1 H locs hx hS ht => ?_) (fun v z4 H locs hv hS => ?_)
  · rcases hx with ⟨rfl, hw⟩ | ⟨rfl, hw⟩ | ⟨rfl, hw⟩ | ⟨h9, hx⟩
    · refine r_catch C [(⟨0, 21, 24, 13⟩ : ExceptionTableEntry)] (⟨0, 21, 28, 15⟩ : ExceptionTableEntry) [(⟨0, 21, 32, 17⟩ : ExceptionTableEntry)] (by rw [hT]; rfl) (ci := 29) rfl (List.forall_mem_cons.mpr ⟨Or.inr ⟨by decide, _, q2357, by decide +kernel⟩, fun _ h => absurd h List.not_mem_nil⟩) (by decide) (by decide) q2376 q999 ht ?_
      exact kX0_useb28 C hr hin hT hmc  hw H locs ls hS (lv_sub hl [] rfl)
    · refine r_catch C [(⟨0, 21, 24, 13⟩ : ExceptionTableEntry), (⟨0, 21, 28, 15⟩ : ExceptionTableEntry)] (⟨0, 21, 32, 17⟩ : ExceptionTableEntry) [] (by rw [hT]; rfl) (ci := 30) rfl (List.forall_mem_cons.mpr ⟨Or.inr ⟨by decide, _, q2357, by decide +kernel⟩, List.forall_mem_cons.mpr ⟨Or.inr ⟨by decide, _, q2376, by decide +kernel⟩, fun _ h => absurd h List.not_mem_nil⟩⟩) (by decide) (by decide) q2377 q1943 ht ?_
      exact kX0_useb32 C hr hin hT hmc  hw H locs ls hS (lv_sub hl [] rfl)
    · refine r_catch C [] (⟨0, 21, 24, 13⟩ : ExceptionTableEntry) [(⟨0, 21, 28, 15⟩ : ExceptionTableEntry), (⟨0, 21, 32, 17⟩ : ExceptionTableEntry)] (by rw [hT]; rfl) (ci := 32) rfl (fun _ h => absurd h List.not_mem_nil) (by decide) (by decide) q2357 q2388 ht ?_
      exact kX0_useb24 C hr hin hT hmc  hw H locs ls hS (lv_sub hl [] rfl)
    · simp only [List.mem_cons, List.not_mem_nil, or_false] at h9
      rcases h9 with rfl | rfl | rfl | rfl | rfl
      · exact r_pass C hS hmc rfl (by rw [hT]; exact List.forall_mem_cons.mpr ⟨Or.inr ⟨by decide, _, q2357, by decide +kernel⟩, List.forall_mem_cons.mpr ⟨Or.inr ⟨by decide, _, q2376, by decide +kernel⟩, List.forall_mem_cons.mpr ⟨Or.inr ⟨by decide, _, q2377, by decide +kernel⟩, fun _ h => absurd h List.not_mem_nil⟩⟩⟩) ht hx
      · exact r_pass C hS hmc rfl (by rw [hT]; exact List.forall_mem_cons.mpr ⟨Or.inr ⟨by decide, _, q2357, by decide +kernel⟩, List.forall_mem_cons.mpr ⟨Or.inr ⟨by decide, _, q2376, by decide +kernel⟩, List.forall_mem_cons.mpr ⟨Or.inr ⟨by decide, _, q2377, by decide +kernel⟩, fun _ h => absurd h List.not_mem_nil⟩⟩⟩) ht hx
      · exact r_pass C hS hmc rfl (by rw [hT]; exact List.forall_mem_cons.mpr ⟨Or.inr ⟨by decide, _, q2357, by decide +kernel⟩, List.forall_mem_cons.mpr ⟨Or.inr ⟨by decide, _, q2376, by decide +kernel⟩, List.forall_mem_cons.mpr ⟨Or.inr ⟨by decide, _, q2377, by decide +kernel⟩, fun _ h => absurd h List.not_mem_nil⟩⟩⟩) ht hx
      · exact r_pass C hS hmc rfl (by rw [hT]; exact List.forall_mem_cons.mpr ⟨Or.inr ⟨by decide, _, q2357, by decide +kernel⟩, List.forall_mem_cons.mpr ⟨Or.inr ⟨by decide, _, q2376, by decide +kernel⟩, List.forall_mem_cons.mpr ⟨Or.inr ⟨by decide, _, q2377, by decide +kernel⟩, fun _ h => absurd h List.not_mem_nil⟩⟩⟩) ht hx
      · exact r_pass C hS hmc rfl (by rw [hT]; exact List.forall_mem_cons.mpr ⟨Or.inr ⟨by decide, _, q2357, by decide +kernel⟩, List.forall_mem_cons.mpr ⟨Or.inr ⟨by decide, _, q2376, by decide +kernel⟩, List.forall_mem_cons.mpr ⟨Or.inr ⟨by decide, _, q2377, by decide +kernel⟩, fun _ h => absurd h List.not_mem_nil⟩⟩⟩) ht hx
  · obtain ⟨x5, rfl, hw⟩ := hv
    refine lv_if_eq C.1 C.2.1 dX0_use_12 rfl (fun h => ?_) (fun h => ?_)
    · have hw := hw.1 h
      refine lv_lconst C.1 C.2.1 (v := 0) dX0_use_19 rfl ?_
      exact kX0_useb20 C hr hin hT hmc  hw H locs ls hS (lv_sub hl [] rfl)
    · have hw := hw.2 h
      refine lv_lconst C.1 C.2.1 (v := 1) dX0_use_15 rfl ?_
      refine lv_goto C.1 C.2.1 dX0_use_16 rfl ?_
      exact kX0_useb20 C hr hin hT hmc  hw H locs ls hS (lv_sub hl [] rfl)
end
theorem kX0_use {l : Launch} (hl : l.stackTraces = false) {G : gE} {P : Int32 → hSt → Prop} {PX : Nat → Nat → hSt → Prop} {v0 : Option Nat} {v1 : Int32} {v2 : Int32} {v3 : Int32} {v4 : Int32} {v5 : Option Nat} {z : hSt} : cM l G yX0_use (wsW_ yX0_use cX0_use 7 (Option.some Jvm.ClassFile.FieldType.int) [((0 : Nat), (21 : Nat), (24 : Nat), (13 : Nat)), ((0 : Nat), (21 : Nat), (28 : Nat), (15 : Nat)), ((0 : Nat), (21 : Nat), (32 : Nat), (17 : Nat))]) 21 1454 z [va_rf v0, .int v1, .int v2, .int v3, .int v4, va_rf v5] (wX0_use G P PX v0 v1 v2 v3 v4 v5 z) (pI P) PX := by
  refine m_ofH hl (plainFor_of_name (by decide)) (by rw [lg_sl1 (va_rf_cat _), lg_sl1 rfl, lg_sl1 rfl, lg_sl1 rfl, lg_sl1 rfl, lg_sl1 (va_rf_cat _)]; exact Nat.le_of_ble_eq_true rfl) ?_
  intro p e s m args below meth c C hr hin hT hmc hw
  rw [lv_args1 (va_rf_cat _), lv_args1 rfl, lv_args1 rfl, lv_args1 rfl, lv_args1 rfl, lv_args1 (va_rf_cat _)]
  intro H locs ls hS hl
  exact kX0_useb0 C hr hin hT hmc hw H locs ls hS (lv_sub hl [0, 1, 2, 3, 4, 5] rfl)
theorem hdX0_use : yX0_use.cls ≠ "java/lang/invoke/MethodHandle" ∧ yX0_use.cls ≠ "java/lang/invoke/VarHandle" ∧ (parseMethodDescriptor yX0_use.desc).map (fun d => d.parameters.length) = some 6 := ⟨by decide +kernel, by decide +kernel, by decide +kernel⟩
abbrev rmX0_strict (mc ms : Nat) : Room := { frames := 21, cells := mc, slots := ms, locals := 1452 }
def wX0_strictb17 (G : gE) (P : Int32 → hSt → Prop) (PX : Nat → Nat → hSt → Prop)  (s0 : Option Nat) (z : hSt) : Prop :=
  P 2 z
def wX0_strictb21 (G : gE) (P : Int32 → hSt → Prop) (PX : Nat → Nat → hSt → Prop)  (s0 : Option Nat) (z : hSt) : Prop :=
  P 3 z
def wX0_strictb13 (G : gE) (P : Int32 → hSt → Prop) (PX : Nat → Nat → hSt → Prop)  (s0 : Option Nat) (z : hSt) : Prop :=
  P 1 z
def wX0_strictb0 (G : gE) (P : Int32 → hSt → Prop) (PX : Nat → Nat → hSt → Prop)  (v0 : Option Nat) (v1 : Int32) (v2 : Int32) (v3 : Option Nat) (z : hSt) : Prop :=
  (rcv z v0 0 ∧ wX1_strict G (fun x5 z4 => asL G z4 v3 0 ((x5 : Int32).toInt64) (fun z6 => P 0 z6)) (fun c3 e2 z1 => (c3 = 29 ∧ wX0_strictb17 G P PX  (some e2) z1) ∨ (c3 = 30 ∧ wX0_strictb21 G P PX  (some e2) z1) ∨ (c3 = 32 ∧ wX0_strictb13 G P PX  (some e2) z1) ∨ (c3 ∈ ([8, 11, 28, 31, 33] : List Nat) ∧ PX c3 e2 z1)) v0 v1 v2 z)
def wX0_strict (G : gE) (P : Int32 → hSt → Prop) (PX : Nat → Nat → hSt → Prop) (v0 : Option Nat) (v1 : Int32) (v2 : Int32) (v3 : Option Nat) (z : hSt) : Prop := wX0_strictb0 G P PX v0 v1 v2 v3 z
section
variable {p : Program} {l : Launch} {e : Env} {s : State} {m : MethodId} {args : Array Value} {below : List Frame} {meth : Method} {c : Code} {G : gE} {mc ms : Nat} {P : Int32 → hSt → Prop} {PX : Nat → Nat → hSt → Prop}
theorem kX0_strictb17 (C : xC G p l s m args meth c cX0_strict 5 "ExcuseLedgerLaw") (hr : meth.sig.returnType = (Option.some Jvm.ClassFile.FieldType.int)) (hin : meth.name = "strict") (hT : c.exceptionTable.toList = tableOf [((0 : Nat), (10 : Nat), (13 : Nat), (13 : Nat)), ((0 : Nat), (10 : Nat), (17 : Nat), (15 : Nat)), ((0 : Nat), (10 : Nat), (21 : Nat), (17 : Nat))]) (hmc : mc = gL G - s.heap.size ∧ ms = gU G - hsum s.heap)   {s0 : Option Nat} {z : hSt} (hw : wX0_strictb17 G P PX  s0 z) : kt G p l e (rmX0_strict mc ms) s m args below meth c 5 (vx_MQ below (cQ G (pI P)) (cX G PX) args s mc ms (gF G)) 17 [] [va_rf s0] z := by
  intro H locs ls hS hl
  refine r_astore C.1 C.2.1 dX0_strict_17 hl (Nat.le_of_ble_eq_true rfl) (ls_new ls_nil) (fun ls hl => ?_)
  refine lv_iconst C.1 C.2.1 (v := 2) dX0_strict_19 rfl ?_
  exact r_iret C hS hmc hr dX0_strict_20 hw
theorem kX0_strictb21 (C : xC G p l s m args meth c cX0_strict 5 "ExcuseLedgerLaw") (hr : meth.sig.returnType = (Option.some Jvm.ClassFile.FieldType.int)) (hin : meth.name = "strict") (hT : c.exceptionTable.toList = tableOf [((0 : Nat), (10 : Nat), (13 : Nat), (13 : Nat)), ((0 : Nat), (10 : Nat), (17 : Nat), (15 : Nat)), ((0 : Nat), (10 : Nat), (21 : Nat), (17 : Nat))]) (hmc : mc = gL G - s.heap.size ∧ ms = gU G - hsum s.heap)   {s0 : Option Nat} {z : hSt} (hw : wX0_strictb21 G P PX  s0 z) : kt G p l e (rmX0_strict mc ms) s m args below meth c 5 (vx_MQ below (cQ G (pI P)) (cX G PX) args s mc ms (gF G)) 21 [] [va_rf s0] z := by
  intro H locs ls hS hl
  refine r_astore C.1 C.2.1 dX0_strict_21 hl (Nat.le_of_ble_eq_true rfl) (ls_new ls_nil) (fun ls hl => ?_)
  refine lv_iconst C.1 C.2.1 (v := 3) dX0_strict_23 rfl ?_
  exact r_iret C hS hmc hr dX0_strict_24 hw
theorem kX0_strictb13 (C : xC G p l s m args meth c cX0_strict 5 "ExcuseLedgerLaw") (hr : meth.sig.returnType = (Option.some Jvm.ClassFile.FieldType.int)) (hin : meth.name = "strict") (hT : c.exceptionTable.toList = tableOf [((0 : Nat), (10 : Nat), (13 : Nat), (13 : Nat)), ((0 : Nat), (10 : Nat), (17 : Nat), (15 : Nat)), ((0 : Nat), (10 : Nat), (21 : Nat), (17 : Nat))]) (hmc : mc = gL G - s.heap.size ∧ ms = gU G - hsum s.heap)   {s0 : Option Nat} {z : hSt} (hw : wX0_strictb13 G P PX  s0 z) : kt G p l e (rmX0_strict mc ms) s m args below meth c 5 (vx_MQ below (cQ G (pI P)) (cX G PX) args s mc ms (gF G)) 13 [] [va_rf s0] z := by
  intro H locs ls hS hl
  refine r_astore C.1 C.2.1 dX0_strict_13 hl (Nat.le_of_ble_eq_true rfl) (ls_new ls_nil) (fun ls hl => ?_)
  refine lv_iconst C.1 C.2.1 (v := 1) dX0_strict_15 rfl ?_
  exact r_iret C hS hmc hr dX0_strict_16 hw
theorem kX0_strictb0 (C : xC G p l s m args meth c cX0_strict 5 "ExcuseLedgerLaw") (hr : meth.sig.returnType = (Option.some Jvm.ClassFile.FieldType.int)) (hin : meth.name = "strict") (hT : c.exceptionTable.toList = tableOf [((0 : Nat), (10 : Nat), (13 : Nat), (13 : Nat)), ((0 : Nat), (10 : Nat), (17 : Nat), (15 : Nat)), ((0 : Nat), (10 : Nat), (21 : Nat), (17 : Nat))]) (hmc : mc = gL G - s.heap.size ∧ ms = gU G - hsum s.heap)   {v0 : Option Nat} {v1 : Int32} {v2 : Int32} {v3 : Option Nat} {z : hSt} (hw : wX0_strictb0 G P PX  v0 v1 v2 v3 z) : kt G p l e (rmX0_strict mc ms) s m args below meth c 5 (vx_MQ below (cQ G (pI P)) (cX G PX) args s mc ms (gF G)) 0 [(0, va_rf v0), (1, .int v1), (2, .int v2), (3, va_rf v3)] [] z := by
  intro H locs ls hS hl
  refine r_aload_n C.1 C.2.1 dX0_strict_0 rfl (lv_at hl 3 rfl) ?_
  refine lv_iconst C.1 C.2.1 (v := 0) dX0_strict_1 rfl ?_
  refine r_aload_n C.1 C.2.1 dX0_strict_2 rfl (lv_at hl 0 rfl) ?_
  refine lv_iload_n C.1 C.2.1 dX0_strict_3 rfl (lv_at hl 1 rfl) ?_
  refine lv_iload_n C.1 C.2.1 dX0_strict_4 rfl (lv_at hl 2 rfl) ?_
  refine c_V C hS hmc hl.1 (ci := 0) rfl hw.1 (kX1_strict C.2.2.2.2.2.2.1) hw.2 (lw_V q2467 q2468 q2469 q67 q2470) ⟨rfl, hdX1_strict⟩ ⟨Nat.le_of_ble_eq_true rfl, Nat.le_of_ble_eq_true rfl⟩ (rest := [.int 0, va_rf v3]) rfl rfl (Nat.le_of_ble_eq_true rfl) dX0_strict_5 (fun c3 e2 z1 H locs hx hS ht => ?_) (fun v z4 H locs hv hS => ?_)
  · rcases hx with ⟨rfl, hw⟩ | ⟨rfl, hw⟩ | ⟨rfl, hw⟩ | ⟨h9, hx⟩
    · refine r_catch C [(⟨0, 10, 13, 13⟩ : ExceptionTableEntry)] (⟨0, 10, 17, 15⟩ : ExceptionTableEntry) [(⟨0, 10, 21, 17⟩ : ExceptionTableEntry)] (by rw [hT]; rfl) (ci := 29) rfl (List.forall_mem_cons.mpr ⟨Or.inr ⟨by decide, _, q2357, by decide +kernel⟩, fun _ h => absurd h List.not_mem_nil⟩) (by decide) (by decide) q2376 q999 ht ?_
      exact kX0_strictb17 C hr hin hT hmc  hw H locs ls hS (lv_sub hl [] rfl)
    · refine r_catch C [(⟨0, 10, 13, 13⟩ : ExceptionTableEntry), (⟨0, 10, 17, 15⟩ : ExceptionTableEntry)] (⟨0, 10, 21, 17⟩ : ExceptionTableEntry) [] (by rw [hT]; rfl) (ci := 30) rfl (List.forall_mem_cons.mpr ⟨Or.inr ⟨by decide, _, q2357, by decide +kernel⟩, List.forall_mem_cons.mpr ⟨Or.inr ⟨by decide, _, q2376, by decide +kernel⟩, fun _ h => absurd h List.not_mem_nil⟩⟩) (by decide) (by decide) q2377 q1943 ht ?_
      exact kX0_strictb21 C hr hin hT hmc  hw H locs ls hS (lv_sub hl [] rfl)
    · refine r_catch C [] (⟨0, 10, 13, 13⟩ : ExceptionTableEntry) [(⟨0, 10, 17, 15⟩ : ExceptionTableEntry), (⟨0, 10, 21, 17⟩ : ExceptionTableEntry)] (by rw [hT]; rfl) (ci := 32) rfl (fun _ h => absurd h List.not_mem_nil) (by decide) (by decide) q2357 q2388 ht ?_
      exact kX0_strictb13 C hr hin hT hmc  hw H locs ls hS (lv_sub hl [] rfl)
    · simp only [List.mem_cons, List.not_mem_nil, or_false] at h9
      rcases h9 with rfl | rfl | rfl | rfl | rfl
      · exact r_pass C hS hmc rfl (by rw [hT]; exact List.forall_mem_cons.mpr ⟨Or.inr ⟨by decide, _, q2357, by decide +kernel⟩, List.forall_mem_cons.mpr ⟨Or.inr ⟨by decide, _, q2376, by decide +kernel⟩, List.forall_mem_cons.mpr ⟨Or.inr ⟨by decide, _, q2377, by decide +kernel⟩, fun _ h => absurd h List.not_mem_nil⟩⟩⟩) ht hx
      · exact r_pass C hS hmc rfl (by rw [hT]; exact List.forall_mem_cons.mpr ⟨Or.inr ⟨by decide, _, q2357, by decide +kernel⟩, List.forall_mem_cons.mpr ⟨Or.inr ⟨by decide, _, q2376, by decide +kernel⟩, List.forall_mem_cons.mpr ⟨Or.inr ⟨by decide, _, q2377, by decide +kernel⟩, fun _ h => absurd h List.not_mem_nil⟩⟩⟩) ht hx
      · exact r_pass C hS hmc rfl (by rw [hT]; exact List.forall_mem_cons.mpr ⟨Or.inr ⟨by decide, _, q2357, by decide +kernel⟩, List.forall_mem_cons.mpr ⟨Or.inr ⟨by decide, _, q2376, by decide +kernel⟩, List.forall_mem_cons.mpr ⟨Or.inr ⟨by decide, _, q2377, by decide +kernel⟩, fun _ h => absurd h List.not_mem_nil⟩⟩⟩) ht hx
      · exact r_pass C hS hmc rfl (by rw [hT]; exact List.forall_mem_cons.mpr ⟨Or.inr ⟨by decide, _, q2357, by decide +kernel⟩, List.forall_mem_cons.mpr ⟨Or.inr ⟨by decide, _, q2376, by decide +kernel⟩, List.forall_mem_cons.mpr ⟨Or.inr ⟨by decide, _, q2377, by decide +kernel⟩, fun _ h => absurd h List.not_mem_nil⟩⟩⟩) ht hx
      · exact r_pass C hS hmc rfl (by rw [hT]; exact List.forall_mem_cons.mpr ⟨Or.inr ⟨by decide, _, q2357, by decide +kernel⟩, List.forall_mem_cons.mpr ⟨Or.inr ⟨by decide, _, q2376, by decide +kernel⟩, List.forall_mem_cons.mpr ⟨Or.inr ⟨by decide, _, q2377, by decide +kernel⟩, fun _ h => absurd h List.not_mem_nil⟩⟩⟩) ht hx
  · obtain ⟨x5, rfl, hw⟩ := hv
    refine lv_i2l C.1 C.2.1 dX0_strict_8 rfl ?_
    refine r_last C hS dX0_strict_9 hw (fun z6 H locs hw hS => ?_)
    refine lv_goto C.1 C.2.1 dX0_strict_10 rfl ?_
    refine lv_iconst C.1 C.2.1 (v := 0) dX0_strict_25 rfl ?_
    exact r_iret C hS hmc hr dX0_strict_26 hw
end
theorem kX0_strict {l : Launch} (hl : l.stackTraces = false) {G : gE} {P : Int32 → hSt → Prop} {PX : Nat → Nat → hSt → Prop} {v0 : Option Nat} {v1 : Int32} {v2 : Int32} {v3 : Option Nat} {z : hSt} : cM l G yX0_strict (wsW_ yX0_strict cX0_strict 5 (Option.some Jvm.ClassFile.FieldType.int) [((0 : Nat), (10 : Nat), (13 : Nat), (13 : Nat)), ((0 : Nat), (10 : Nat), (17 : Nat), (15 : Nat)), ((0 : Nat), (10 : Nat), (21 : Nat), (17 : Nat))]) 21 1452 z [va_rf v0, .int v1, .int v2, va_rf v3] (wX0_strict G P PX v0 v1 v2 v3 z) (pI P) PX := by
  refine m_ofH hl (plainFor_of_name (by decide)) (by rw [lg_sl1 (va_rf_cat _), lg_sl1 rfl, lg_sl1 rfl, lg_sl1 (va_rf_cat _)]; exact Nat.le_of_ble_eq_true rfl) ?_
  intro p e s m args below meth c C hr hin hT hmc hw
  rw [lv_args1 (va_rf_cat _), lv_args1 rfl, lv_args1 rfl, lv_args1 (va_rf_cat _)]
  intro H locs ls hS hl
  exact kX0_strictb0 C hr hin hT hmc hw H locs ls hS (lv_sub hl [0, 1, 2, 3] rfl)
theorem hdX0_strict : yX0_strict.cls ≠ "java/lang/invoke/MethodHandle" ∧ yX0_strict.cls ≠ "java/lang/invoke/VarHandle" ∧ (parseMethodDescriptor yX0_strict.desc).map (fun d => d.parameters.length) = some 4 := ⟨by decide +kernel, by decide +kernel, by decide +kernel⟩
abbrev rmX0_weather (mc ms : Nat) : Room := { frames := 21, cells := mc, slots := ms, locals := 1451 }
def wX0_weatherb12 (G : gE) (P : Int32 → hSt → Prop) (PX : Nat → Nat → hSt → Prop)  (s0 : Option Nat) (z : hSt) : Prop :=
  P 1 z
def wX0_weatherb15 (G : gE) (P : Int32 → hSt → Prop) (PX : Nat → Nat → hSt → Prop)  (s0 : Option Nat) (z : hSt) : Prop :=
  P 2 z
def wX0_weatherb0 (G : gE) (P : Int32 → hSt → Prop) (PX : Nat → Nat → hSt → Prop)  (v0 : Option Nat) (v1 : Int32) (v2 : Option Nat) (z : hSt) : Prop :=
  (rcv z v0 0 ∧ wX1_weather G (fun x5 z4 => asL G z4 v2 0 ((x5 : Int32).toInt64) (fun z6 => P 0 z6)) (fun c3 e2 z1 => (c3 = 29 ∧ wX0_weatherb12 G P PX  (some e2) z1) ∨ (c3 = 30 ∧ wX0_weatherb15 G P PX  (some e2) z1) ∨ (c3 ∈ ([8, 11, 28, 31, 32, 33] : List Nat) ∧ PX c3 e2 z1)) v0 v1 z)
def wX0_weather (G : gE) (P : Int32 → hSt → Prop) (PX : Nat → Nat → hSt → Prop) (v0 : Option Nat) (v1 : Int32) (v2 : Option Nat) (z : hSt) : Prop := wX0_weatherb0 G P PX v0 v1 v2 z
section
variable {p : Program} {l : Launch} {e : Env} {s : State} {m : MethodId} {args : Array Value} {below : List Frame} {meth : Method} {c : Code} {G : gE} {mc ms : Nat} {P : Int32 → hSt → Prop} {PX : Nat → Nat → hSt → Prop}
theorem kX0_weatherb12 (C : xC G p l s m args meth c cX0_weather 4 "ExcuseLedgerLaw") (hr : meth.sig.returnType = (Option.some Jvm.ClassFile.FieldType.int)) (hin : meth.name = "weather") (hT : c.exceptionTable.toList = tableOf [((0 : Nat), (9 : Nat), (12 : Nat), (15 : Nat)), ((0 : Nat), (9 : Nat), (15 : Nat), (17 : Nat))]) (hmc : mc = gL G - s.heap.size ∧ ms = gU G - hsum s.heap)   {s0 : Option Nat} {z : hSt} (hw : wX0_weatherb12 G P PX  s0 z) : kt G p l e (rmX0_weather mc ms) s m args below meth c 4 (vx_MQ below (cQ G (pI P)) (cX G PX) args s mc ms (gF G)) 12 [] [va_rf s0] z := by
  intro H locs ls hS hl
  refine r_astore_n C.1 C.2.1 dX0_weather_12 rfl hl (Nat.le_of_ble_eq_true rfl) (ls_new ls_nil) (fun ls hl => ?_)
  refine lv_iconst C.1 C.2.1 (v := 1) dX0_weather_13 rfl ?_
  exact r_iret C hS hmc hr dX0_weather_14 hw
theorem kX0_weatherb15 (C : xC G p l s m args meth c cX0_weather 4 "ExcuseLedgerLaw") (hr : meth.sig.returnType = (Option.some Jvm.ClassFile.FieldType.int)) (hin : meth.name = "weather") (hT : c.exceptionTable.toList = tableOf [((0 : Nat), (9 : Nat), (12 : Nat), (15 : Nat)), ((0 : Nat), (9 : Nat), (15 : Nat), (17 : Nat))]) (hmc : mc = gL G - s.heap.size ∧ ms = gU G - hsum s.heap)   {s0 : Option Nat} {z : hSt} (hw : wX0_weatherb15 G P PX  s0 z) : kt G p l e (rmX0_weather mc ms) s m args below meth c 4 (vx_MQ below (cQ G (pI P)) (cX G PX) args s mc ms (gF G)) 15 [] [va_rf s0] z := by
  intro H locs ls hS hl
  refine r_astore_n C.1 C.2.1 dX0_weather_15 rfl hl (Nat.le_of_ble_eq_true rfl) (ls_new ls_nil) (fun ls hl => ?_)
  refine lv_iconst C.1 C.2.1 (v := 2) dX0_weather_16 rfl ?_
  exact r_iret C hS hmc hr dX0_weather_17 hw
theorem kX0_weatherb0 (C : xC G p l s m args meth c cX0_weather 4 "ExcuseLedgerLaw") (hr : meth.sig.returnType = (Option.some Jvm.ClassFile.FieldType.int)) (hin : meth.name = "weather") (hT : c.exceptionTable.toList = tableOf [((0 : Nat), (9 : Nat), (12 : Nat), (15 : Nat)), ((0 : Nat), (9 : Nat), (15 : Nat), (17 : Nat))]) (hmc : mc = gL G - s.heap.size ∧ ms = gU G - hsum s.heap)   {v0 : Option Nat} {v1 : Int32} {v2 : Option Nat} {z : hSt} (hw : wX0_weatherb0 G P PX  v0 v1 v2 z) : kt G p l e (rmX0_weather mc ms) s m args below meth c 4 (vx_MQ below (cQ G (pI P)) (cX G PX) args s mc ms (gF G)) 0 [(0, va_rf v0), (1, .int v1), (2, va_rf v2)] [] z := by
  intro H locs ls hS hl
  refine r_aload_n C.1 C.2.1 dX0_weather_0 rfl (lv_at hl 2 rfl) ?_
  refine lv_iconst C.1 C.2.1 (v := 0) dX0_weather_1 rfl ?_
  refine r_aload_n C.1 C.2.1 dX0_weather_2 rfl (lv_at hl 0 rfl) ?_
  refine lv_iload_n C.1 C.2.1 dX0_weather_3 rfl (lv_at hl 1 rfl) ?_
  refine c_V C hS hmc hl.1 (ci := 0) rfl hw.1 (kX1_weather C.2.2.2.2.2.2.1) hw.2 (lw_V q2475 q2476 q2477 q67 q2478) ⟨rfl, hdX1_weather⟩ ⟨Nat.le_of_ble_eq_true rfl, Nat.le_of_ble_eq_true rfl⟩ (rest := [.int 0, va_rf v2]) rfl rfl (Nat.le_of_ble_eq_true rfl) dX0_weather_4 (fun c3 e2 z1 H locs hx hS ht => ?_) (fun v z4 H locs hv hS => ?_)
  · rcases hx with ⟨rfl, hw⟩ | ⟨rfl, hw⟩ | ⟨h9, hx⟩
    · refine r_catch C [] (⟨0, 9, 12, 15⟩ : ExceptionTableEntry) [(⟨0, 9, 15, 17⟩ : ExceptionTableEntry)] (by rw [hT]; rfl) (ci := 29) rfl (fun _ h => absurd h List.not_mem_nil) (by decide) (by decide) q2376 q999 ht ?_
      exact kX0_weatherb12 C hr hin hT hmc  hw H locs ls hS (lv_sub hl [] rfl)
    · refine r_catch C [(⟨0, 9, 12, 15⟩ : ExceptionTableEntry)] (⟨0, 9, 15, 17⟩ : ExceptionTableEntry) [] (by rw [hT]; rfl) (ci := 30) rfl (List.forall_mem_cons.mpr ⟨Or.inr ⟨by decide, _, q2376, by decide +kernel⟩, fun _ h => absurd h List.not_mem_nil⟩) (by decide) (by decide) q2377 q1943 ht ?_
      exact kX0_weatherb15 C hr hin hT hmc  hw H locs ls hS (lv_sub hl [] rfl)
    · simp only [List.mem_cons, List.not_mem_nil, or_false] at h9
      rcases h9 with rfl | rfl | rfl | rfl | rfl | rfl
      · exact r_pass C hS hmc rfl (by rw [hT]; exact List.forall_mem_cons.mpr ⟨Or.inr ⟨by decide, _, q2376, by decide +kernel⟩, List.forall_mem_cons.mpr ⟨Or.inr ⟨by decide, _, q2377, by decide +kernel⟩, fun _ h => absurd h List.not_mem_nil⟩⟩) ht hx
      · exact r_pass C hS hmc rfl (by rw [hT]; exact List.forall_mem_cons.mpr ⟨Or.inr ⟨by decide, _, q2376, by decide +kernel⟩, List.forall_mem_cons.mpr ⟨Or.inr ⟨by decide, _, q2377, by decide +kernel⟩, fun _ h => absurd h List.not_mem_nil⟩⟩) ht hx
      · exact r_pass C hS hmc rfl (by rw [hT]; exact List.forall_mem_cons.mpr ⟨Or.inr ⟨by decide, _, q2376, by decide +kernel⟩, List.forall_mem_cons.mpr ⟨Or.inr ⟨by decide, _, q2377, by decide +kernel⟩, fun _ h => absurd h List.not_mem_nil⟩⟩) ht hx
      · exact r_pass C hS hmc rfl (by rw [hT]; exact List.forall_mem_cons.mpr ⟨Or.inr ⟨by decide, _, q2376, by decide +kernel⟩, List.forall_mem_cons.mpr ⟨Or.inr ⟨by decide, _, q2377, by decide +kernel⟩, fun _ h => absurd h List.not_mem_nil⟩⟩) ht hx
      · exact r_pass C hS hmc rfl (by rw [hT]; exact List.forall_mem_cons.mpr ⟨Or.inr ⟨by decide, _, q2376, by decide +kernel⟩, List.forall_mem_cons.mpr ⟨Or.inr ⟨by decide, _, q2377, by decide +kernel⟩, fun _ h => absurd h List.not_mem_nil⟩⟩) ht hx
      · exact r_pass C hS hmc rfl (by rw [hT]; exact List.forall_mem_cons.mpr ⟨Or.inr ⟨by decide, _, q2376, by decide +kernel⟩, List.forall_mem_cons.mpr ⟨Or.inr ⟨by decide, _, q2377, by decide +kernel⟩, fun _ h => absurd h List.not_mem_nil⟩⟩) ht hx
  · obtain ⟨x5, rfl, hw⟩ := hv
    refine lv_i2l C.1 C.2.1 dX0_weather_7 rfl ?_
    refine r_last C hS dX0_weather_8 hw (fun z6 H locs hw hS => ?_)
    refine lv_goto C.1 C.2.1 dX0_weather_9 rfl ?_
    refine lv_iconst C.1 C.2.1 (v := 0) dX0_weather_18 rfl ?_
    exact r_iret C hS hmc hr dX0_weather_19 hw
end
theorem kX0_weather {l : Launch} (hl : l.stackTraces = false) {G : gE} {P : Int32 → hSt → Prop} {PX : Nat → Nat → hSt → Prop} {v0 : Option Nat} {v1 : Int32} {v2 : Option Nat} {z : hSt} : cM l G yX0_weather (wsW_ yX0_weather cX0_weather 4 (Option.some Jvm.ClassFile.FieldType.int) [((0 : Nat), (9 : Nat), (12 : Nat), (15 : Nat)), ((0 : Nat), (9 : Nat), (15 : Nat), (17 : Nat))]) 21 1451 z [va_rf v0, .int v1, va_rf v2] (wX0_weather G P PX v0 v1 v2 z) (pI P) PX := by
  refine m_ofH hl (plainFor_of_name (by decide)) (by rw [lg_sl1 (va_rf_cat _), lg_sl1 rfl, lg_sl1 (va_rf_cat _)]; exact Nat.le_of_ble_eq_true rfl) ?_
  intro p e s m args below meth c C hr hin hT hmc hw
  rw [lv_args1 (va_rf_cat _), lv_args1 rfl, lv_args1 (va_rf_cat _)]
  intro H locs ls hS hl
  exact kX0_weatherb0 C hr hin hT hmc hw H locs ls hS (lv_sub hl [0, 1, 2] rfl)
theorem hdX0_weather : yX0_weather.cls ≠ "java/lang/invoke/MethodHandle" ∧ yX0_weather.cls ≠ "java/lang/invoke/VarHandle" ∧ (parseMethodDescriptor yX0_weather.desc).map (fun d => d.parameters.length) = some 3 := ⟨by decide +kernel, by decide +kernel, by decide +kernel⟩
abbrev rmX0_excuseOf (mc ms : Nat) : Room := { frames := 19, cells := mc, slots := ms, locals := 359 }
def wX0_excuseOfb19 (G : gE) (P : Int32 → hSt → Prop) (PX : Nat → Nat → hSt → Prop)  (s0 : Option Nat) (z : hSt) : Prop :=
  P 2 z
def wX0_excuseOfb15 (G : gE) (P : Int32 → hSt → Prop) (PX : Nat → Nat → hSt → Prop)  (s0 : Option Nat) (z : hSt) : Prop :=
  P 1 z
def wX0_excuseOfb0 (G : gE) (P : Int32 → hSt → Prop) (PX : Nat → Nat → hSt → Prop)  (v0 : Option Nat) (v1 : Int32) (v2 : Int32) (v3 : Int32) (v4 : Option Nat) (z : hSt) : Prop :=
  (rcv z v0 0 ∧ wX1_excuseOf G (fun x5 z4 => asL G z4 v4 0 ((x5 : Int32).toInt64) (fun z6 => P 0 z6)) (fun c3 e2 z1 => (c3 = 28 ∧ wX0_excuseOfb19 G P PX  (some e2) z1) ∨ (c3 = 29 ∧ wX0_excuseOfb15 G P PX  (some e2) z1) ∨ (c3 ∈ ([8, 11, 30, 31, 32, 33] : List Nat) ∧ PX c3 e2 z1)) v0 v1 v2 v3 z)
def wX0_excuseOf (G : gE) (P : Int32 → hSt → Prop) (PX : Nat → Nat → hSt → Prop) (v0 : Option Nat) (v1 : Int32) (v2 : Int32) (v3 : Int32) (v4 : Option Nat) (z : hSt) : Prop := wX0_excuseOfb0 G P PX v0 v1 v2 v3 v4 z
section
variable {p : Program} {l : Launch} {e : Env} {s : State} {m : MethodId} {args : Array Value} {below : List Frame} {meth : Method} {c : Code} {G : gE} {mc ms : Nat} {P : Int32 → hSt → Prop} {PX : Nat → Nat → hSt → Prop}
theorem kX0_excuseOfb19 (C : xC G p l s m args meth c cX0_excuseOf 6 "ExcuseLedgerLaw") (hr : meth.sig.returnType = (Option.some Jvm.ClassFile.FieldType.int)) (hin : meth.name = "excuseOf") (hT : c.exceptionTable.toList = tableOf [((0 : Nat), (12 : Nat), (15 : Nat), (15 : Nat)), ((0 : Nat), (12 : Nat), (19 : Nat), (47 : Nat))]) (hmc : mc = gL G - s.heap.size ∧ ms = gU G - hsum s.heap)   {s0 : Option Nat} {z : hSt} (hw : wX0_excuseOfb19 G P PX  s0 z) : kt G p l e (rmX0_excuseOf mc ms) s m args below meth c 6 (vx_MQ below (cQ G (pI P)) (cX G PX) args s mc ms (gF G)) 19 [] [va_rf s0] z := by
  intro H locs ls hS hl
  refine r_astore C.1 C.2.1 dX0_excuseOf_19 hl (Nat.le_of_ble_eq_true rfl) (ls_new ls_nil) (fun ls hl => ?_)
  refine lv_iconst C.1 C.2.1 (v := 2) dX0_excuseOf_21 rfl ?_
  exact r_iret C hS hmc hr dX0_excuseOf_22 hw
theorem kX0_excuseOfb15 (C : xC G p l s m args meth c cX0_excuseOf 6 "ExcuseLedgerLaw") (hr : meth.sig.returnType = (Option.some Jvm.ClassFile.FieldType.int)) (hin : meth.name = "excuseOf") (hT : c.exceptionTable.toList = tableOf [((0 : Nat), (12 : Nat), (15 : Nat), (15 : Nat)), ((0 : Nat), (12 : Nat), (19 : Nat), (47 : Nat))]) (hmc : mc = gL G - s.heap.size ∧ ms = gU G - hsum s.heap)   {s0 : Option Nat} {z : hSt} (hw : wX0_excuseOfb15 G P PX  s0 z) : kt G p l e (rmX0_excuseOf mc ms) s m args below meth c 6 (vx_MQ below (cQ G (pI P)) (cX G PX) args s mc ms (gF G)) 15 [] [va_rf s0] z := by
  intro H locs ls hS hl
  refine r_astore C.1 C.2.1 dX0_excuseOf_15 hl (Nat.le_of_ble_eq_true rfl) (ls_new ls_nil) (fun ls hl => ?_)
  refine lv_iconst C.1 C.2.1 (v := 1) dX0_excuseOf_17 rfl ?_
  exact r_iret C hS hmc hr dX0_excuseOf_18 hw
theorem kX0_excuseOfb0 (C : xC G p l s m args meth c cX0_excuseOf 6 "ExcuseLedgerLaw") (hr : meth.sig.returnType = (Option.some Jvm.ClassFile.FieldType.int)) (hin : meth.name = "excuseOf") (hT : c.exceptionTable.toList = tableOf [((0 : Nat), (12 : Nat), (15 : Nat), (15 : Nat)), ((0 : Nat), (12 : Nat), (19 : Nat), (47 : Nat))]) (hmc : mc = gL G - s.heap.size ∧ ms = gU G - hsum s.heap)   {v0 : Option Nat} {v1 : Int32} {v2 : Int32} {v3 : Int32} {v4 : Option Nat} {z : hSt} (hw : wX0_excuseOfb0 G P PX  v0 v1 v2 v3 v4 z) : kt G p l e (rmX0_excuseOf mc ms) s m args below meth c 6 (vx_MQ below (cQ G (pI P)) (cX G PX) args s mc ms (gF G)) 0 [(0, va_rf v0), (1, .int v1), (2, .int v2), (3, .int v3), (4, va_rf v4)] [] z := by
  intro H locs ls hS hl
  refine r_aload C.1 C.2.1 dX0_excuseOf_0 (lv_at hl 4 rfl) ?_
  refine lv_iconst C.1 C.2.1 (v := 0) dX0_excuseOf_2 rfl ?_
  refine r_aload_n C.1 C.2.1 dX0_excuseOf_3 rfl (lv_at hl 0 rfl) ?_
  refine lv_iload_n C.1 C.2.1 dX0_excuseOf_4 rfl (lv_at hl 1 rfl) ?_
  refine lv_iload_n C.1 C.2.1 dX0_excuseOf_5 rfl (lv_at hl 2 rfl) ?_
  refine lv_iload_n C.1 C.2.1 dX0_excuseOf_6 rfl (lv_at hl 3 rfl) ?_
  refine c_V C hS hmc hl.1 (ci := 0) rfl hw.1 (kX1_excuseOf C.2.2.2.2.2.2.1) hw.2 (lw_V q2484 q2485 q2486 q67 q2487) ⟨rfl, hdX1_excuseOf⟩ ⟨Nat.le_of_ble_eq_true rfl, Nat.le_of_ble_eq_true rfl⟩ (rest := [.int 0, va_rf v4]) rfl rfl (Nat.le_of_ble_eq_true rfl) dX0_excuseOf_7 (fun c3 e2 z1 H locs hx hS ht => ?_) (fun v z4 H locs hv hS => ?_)
  · rcases hx with ⟨rfl, hw⟩ | ⟨rfl, hw⟩ | ⟨h9, hx⟩
    · refine r_catch C [(⟨0, 12, 15, 15⟩ : ExceptionTableEntry)] (⟨0, 12, 19, 47⟩ : ExceptionTableEntry) [] (by rw [hT]; rfl) (ci := 28) rfl (List.forall_mem_cons.mpr ⟨Or.inr ⟨by decide, _, q2376, by decide +kernel⟩, fun _ h => absurd h List.not_mem_nil⟩) (by decide) (by decide) q2483 q716 ht ?_
      exact kX0_excuseOfb19 C hr hin hT hmc  hw H locs ls hS (lv_sub hl [] rfl)
    · refine r_catch C [] (⟨0, 12, 15, 15⟩ : ExceptionTableEntry) [(⟨0, 12, 19, 47⟩ : ExceptionTableEntry)] (by rw [hT]; rfl) (ci := 29) rfl (fun _ h => absurd h List.not_mem_nil) (by decide) (by decide) q2376 q999 ht ?_
      exact kX0_excuseOfb15 C hr hin hT hmc  hw H locs ls hS (lv_sub hl [] rfl)
    · simp only [List.mem_cons, List.not_mem_nil, or_false] at h9
      rcases h9 with rfl | rfl | rfl | rfl | rfl | rfl
      · exact r_pass C hS hmc rfl (by rw [hT]; exact List.forall_mem_cons.mpr ⟨Or.inr ⟨by decide, _, q2376, by decide +kernel⟩, List.forall_mem_cons.mpr ⟨Or.inr ⟨by decide, _, q2483, by decide +kernel⟩, fun _ h => absurd h List.not_mem_nil⟩⟩) ht hx
      · exact r_pass C hS hmc rfl (by rw [hT]; exact List.forall_mem_cons.mpr ⟨Or.inr ⟨by decide, _, q2376, by decide +kernel⟩, List.forall_mem_cons.mpr ⟨Or.inr ⟨by decide, _, q2483, by decide +kernel⟩, fun _ h => absurd h List.not_mem_nil⟩⟩) ht hx
      · exact r_pass C hS hmc rfl (by rw [hT]; exact List.forall_mem_cons.mpr ⟨Or.inr ⟨by decide, _, q2376, by decide +kernel⟩, List.forall_mem_cons.mpr ⟨Or.inr ⟨by decide, _, q2483, by decide +kernel⟩, fun _ h => absurd h List.not_mem_nil⟩⟩) ht hx
      · exact r_pass C hS hmc rfl (by rw [hT]; exact List.forall_mem_cons.mpr ⟨Or.inr ⟨by decide, _, q2376, by decide +kernel⟩, List.forall_mem_cons.mpr ⟨Or.inr ⟨by decide, _, q2483, by decide +kernel⟩, fun _ h => absurd h List.not_mem_nil⟩⟩) ht hx
      · exact r_pass C hS hmc rfl (by rw [hT]; exact List.forall_mem_cons.mpr ⟨Or.inr ⟨by decide, _, q2376, by decide +kernel⟩, List.forall_mem_cons.mpr ⟨Or.inr ⟨by decide, _, q2483, by decide +kernel⟩, fun _ h => absurd h List.not_mem_nil⟩⟩) ht hx
      · exact r_pass C hS hmc rfl (by rw [hT]; exact List.forall_mem_cons.mpr ⟨Or.inr ⟨by decide, _, q2376, by decide +kernel⟩, List.forall_mem_cons.mpr ⟨Or.inr ⟨by decide, _, q2483, by decide +kernel⟩, fun _ h => absurd h List.not_mem_nil⟩⟩) ht hx
  · obtain ⟨x5, rfl, hw⟩ := hv
    refine lv_i2l C.1 C.2.1 dX0_excuseOf_10 rfl ?_
    refine r_last C hS dX0_excuseOf_11 hw (fun z6 H locs hw hS => ?_)
    refine lv_goto C.1 C.2.1 dX0_excuseOf_12 rfl ?_
    refine lv_iconst C.1 C.2.1 (v := 0) dX0_excuseOf_23 rfl ?_
    exact r_iret C hS hmc hr dX0_excuseOf_24 hw
end
theorem kX0_excuseOf {l : Launch} (hl : l.stackTraces = false) {G : gE} {P : Int32 → hSt → Prop} {PX : Nat → Nat → hSt → Prop} {v0 : Option Nat} {v1 : Int32} {v2 : Int32} {v3 : Int32} {v4 : Option Nat} {z : hSt} : cM l G yX0_excuseOf (wsW_ yX0_excuseOf cX0_excuseOf 6 (Option.some Jvm.ClassFile.FieldType.int) [((0 : Nat), (12 : Nat), (15 : Nat), (15 : Nat)), ((0 : Nat), (12 : Nat), (19 : Nat), (47 : Nat))]) 19 359 z [va_rf v0, .int v1, .int v2, .int v3, va_rf v4] (wX0_excuseOf G P PX v0 v1 v2 v3 v4 z) (pI P) PX := by
  refine m_ofH hl (plainFor_of_name (by decide)) (by rw [lg_sl1 (va_rf_cat _), lg_sl1 rfl, lg_sl1 rfl, lg_sl1 rfl, lg_sl1 (va_rf_cat _)]; exact Nat.le_of_ble_eq_true rfl) ?_
  intro p e s m args below meth c C hr hin hT hmc hw
  rw [lv_args1 (va_rf_cat _), lv_args1 rfl, lv_args1 rfl, lv_args1 rfl, lv_args1 (va_rf_cat _)]
  intro H locs ls hS hl
  exact kX0_excuseOfb0 C hr hin hT hmc hw H locs ls hS (lv_sub hl [0, 1, 2, 3, 4] rfl)
theorem hdX0_excuseOf : yX0_excuseOf.cls ≠ "java/lang/invoke/MethodHandle" ∧ yX0_excuseOf.cls ≠ "java/lang/invoke/VarHandle" ∧ (parseMethodDescriptor yX0_excuseOf.desc).map (fun d => d.parameters.length) = some 5 := ⟨by decide +kernel, by decide +kernel, by decide +kernel⟩
abbrev rmX0_pupilOf (mc ms : Nat) : Room := { frames := 18, cells := mc, slots := ms, locals := 338 }
def wX0_pupilOfb17 (G : gE) (P : Int32 → hSt → Prop) (PX : Nat → Nat → hSt → Prop)  (s0 : Option Nat) (z : hSt) : Prop :=
  P 2 z
def wX0_pupilOfb13 (G : gE) (P : Int32 → hSt → Prop) (PX : Nat → Nat → hSt → Prop)  (s0 : Option Nat) (z : hSt) : Prop :=
  P 1 z
def wX0_pupilOfb0 (G : gE) (P : Int32 → hSt → Prop) (PX : Nat → Nat → hSt → Prop)  (v0 : Option Nat) (v1 : Int32) (v2 : Int32) (v3 : Option Nat) (z : hSt) : Prop :=
  (rcv z v0 0 ∧ wX1_pupilOf G (fun x5 z4 => asL G z4 v3 0 ((x5 : Int32).toInt64) (fun z6 => P 0 z6)) (fun c3 e2 z1 => (c3 = 29 ∧ wX0_pupilOfb17 G P PX  (some e2) z1) ∨ (c3 = 32 ∧ wX0_pupilOfb13 G P PX  (some e2) z1) ∨ (c3 ∈ ([8, 11, 28, 30, 31, 33] : List Nat) ∧ PX c3 e2 z1)) v0 v1 v2 z)
def wX0_pupilOf (G : gE) (P : Int32 → hSt → Prop) (PX : Nat → Nat → hSt → Prop) (v0 : Option Nat) (v1 : Int32) (v2 : Int32) (v3 : Option Nat) (z : hSt) : Prop := wX0_pupilOfb0 G P PX v0 v1 v2 v3 z
section
variable {p : Program} {l : Launch} {e : Env} {s : State} {m : MethodId} {args : Array Value} {below : List Frame} {meth : Method} {c : Code} {G : gE} {mc ms : Nat} {P : Int32 → hSt → Prop} {PX : Nat → Nat → hSt → Prop}
theorem kX0_pupilOfb17 (C : xC G p l s m args meth c cX0_pupilOf 5 "ExcuseLedgerLaw") (hr : meth.sig.returnType = (Option.some Jvm.ClassFile.FieldType.int)) (hin : meth.name = "pupilOf") (hT : c.exceptionTable.toList = tableOf [((0 : Nat), (10 : Nat), (13 : Nat), (13 : Nat)), ((0 : Nat), (10 : Nat), (17 : Nat), (15 : Nat))]) (hmc : mc = gL G - s.heap.size ∧ ms = gU G - hsum s.heap)   {s0 : Option Nat} {z : hSt} (hw : wX0_pupilOfb17 G P PX  s0 z) : kt G p l e (rmX0_pupilOf mc ms) s m args below meth c 5 (vx_MQ below (cQ G (pI P)) (cX G PX) args s mc ms (gF G)) 17 [] [va_rf s0] z := by
  intro H locs ls hS hl
  refine r_astore C.1 C.2.1 dX0_pupilOf_17 hl (Nat.le_of_ble_eq_true rfl) (ls_new ls_nil) (fun ls hl => ?_)
  refine lv_iconst C.1 C.2.1 (v := 2) dX0_pupilOf_19 rfl ?_
  exact r_iret C hS hmc hr dX0_pupilOf_20 hw
theorem kX0_pupilOfb13 (C : xC G p l s m args meth c cX0_pupilOf 5 "ExcuseLedgerLaw") (hr : meth.sig.returnType = (Option.some Jvm.ClassFile.FieldType.int)) (hin : meth.name = "pupilOf") (hT : c.exceptionTable.toList = tableOf [((0 : Nat), (10 : Nat), (13 : Nat), (13 : Nat)), ((0 : Nat), (10 : Nat), (17 : Nat), (15 : Nat))]) (hmc : mc = gL G - s.heap.size ∧ ms = gU G - hsum s.heap)   {s0 : Option Nat} {z : hSt} (hw : wX0_pupilOfb13 G P PX  s0 z) : kt G p l e (rmX0_pupilOf mc ms) s m args below meth c 5 (vx_MQ below (cQ G (pI P)) (cX G PX) args s mc ms (gF G)) 13 [] [va_rf s0] z := by
  intro H locs ls hS hl
  refine r_astore C.1 C.2.1 dX0_pupilOf_13 hl (Nat.le_of_ble_eq_true rfl) (ls_new ls_nil) (fun ls hl => ?_)
  refine lv_iconst C.1 C.2.1 (v := 1) dX0_pupilOf_15 rfl ?_
  exact r_iret C hS hmc hr dX0_pupilOf_16 hw
theorem kX0_pupilOfb0 (C : xC G p l s m args meth c cX0_pupilOf 5 "ExcuseLedgerLaw") (hr : meth.sig.returnType = (Option.some Jvm.ClassFile.FieldType.int)) (hin : meth.name = "pupilOf") (hT : c.exceptionTable.toList = tableOf [((0 : Nat), (10 : Nat), (13 : Nat), (13 : Nat)), ((0 : Nat), (10 : Nat), (17 : Nat), (15 : Nat))]) (hmc : mc = gL G - s.heap.size ∧ ms = gU G - hsum s.heap)   {v0 : Option Nat} {v1 : Int32} {v2 : Int32} {v3 : Option Nat} {z : hSt} (hw : wX0_pupilOfb0 G P PX  v0 v1 v2 v3 z) : kt G p l e (rmX0_pupilOf mc ms) s m args below meth c 5 (vx_MQ below (cQ G (pI P)) (cX G PX) args s mc ms (gF G)) 0 [(0, va_rf v0), (1, .int v1), (2, .int v2), (3, va_rf v3)] [] z := by
  intro H locs ls hS hl
  refine r_aload_n C.1 C.2.1 dX0_pupilOf_0 rfl (lv_at hl 3 rfl) ?_
  refine lv_iconst C.1 C.2.1 (v := 0) dX0_pupilOf_1 rfl ?_
  refine r_aload_n C.1 C.2.1 dX0_pupilOf_2 rfl (lv_at hl 0 rfl) ?_
  refine lv_iload_n C.1 C.2.1 dX0_pupilOf_3 rfl (lv_at hl 1 rfl) ?_
  refine lv_iload_n C.1 C.2.1 dX0_pupilOf_4 rfl (lv_at hl 2 rfl) ?_
  refine c_V C hS hmc hl.1 (ci := 0) rfl hw.1 (kX1_pupilOf C.2.2.2.2.2.2.1) hw.2 (lw_V q2535 q2536 q2537 q67 q2538) ⟨rfl, hdX1_pupilOf⟩ ⟨Nat.le_of_ble_eq_true rfl, Nat.le_of_ble_eq_true rfl⟩ (rest := [.int 0, va_rf v3]) rfl rfl (Nat.le_of_ble_eq_true rfl) dX0_pupilOf_5 (fun c3 e2 z1 H locs hx hS ht => ?_) (fun v z4 H locs hv hS => ?_)
  · rcases hx with ⟨rfl, hw⟩ | ⟨rfl, hw⟩ | ⟨h9, hx⟩
    · refine r_catch C [(⟨0, 10, 13, 13⟩ : ExceptionTableEntry)] (⟨0, 10, 17, 15⟩ : ExceptionTableEntry) [] (by rw [hT]; rfl) (ci := 29) rfl (List.forall_mem_cons.mpr ⟨Or.inr ⟨by decide, _, q2357, by decide +kernel⟩, fun _ h => absurd h List.not_mem_nil⟩) (by decide) (by decide) q2376 q999 ht ?_
      exact kX0_pupilOfb17 C hr hin hT hmc  hw H locs ls hS (lv_sub hl [] rfl)
    · refine r_catch C [] (⟨0, 10, 13, 13⟩ : ExceptionTableEntry) [(⟨0, 10, 17, 15⟩ : ExceptionTableEntry)] (by rw [hT]; rfl) (ci := 32) rfl (fun _ h => absurd h List.not_mem_nil) (by decide) (by decide) q2357 q2388 ht ?_
      exact kX0_pupilOfb13 C hr hin hT hmc  hw H locs ls hS (lv_sub hl [] rfl)
    · simp only [List.mem_cons, List.not_mem_nil, or_false] at h9
      rcases h9 with rfl | rfl | rfl | rfl | rfl | rfl
      · exact r_pass C hS hmc rfl (by rw [hT]; exact List.forall_mem_cons.mpr ⟨Or.inr ⟨by decide, _, q2357, by decide +kernel⟩, List.forall_mem_cons.mpr ⟨Or.inr ⟨by decide, _, q2376, by decide +kernel⟩, fun _ h => absurd h List.not_mem_nil⟩⟩) ht hx
      · exact r_pass C hS hmc rfl (by rw [hT]; exact List.forall_mem_cons.mpr ⟨Or.inr ⟨by decide, _, q2357, by decide +kernel⟩, List.forall_mem_cons.mpr ⟨Or.inr ⟨by decide, _, q2376, by decide +kernel⟩, fun _ h => absurd h List.not_mem_nil⟩⟩) ht hx
      · exact r_pass C hS hmc rfl (by rw [hT]; exact List.forall_mem_cons.mpr ⟨Or.inr ⟨by decide, _, q2357, by decide +kernel⟩, List.forall_mem_cons.mpr ⟨Or.inr ⟨by decide, _, q2376, by decide +kernel⟩, fun _ h => absurd h List.not_mem_nil⟩⟩) ht hx
      · exact r_pass C hS hmc rfl (by rw [hT]; exact List.forall_mem_cons.mpr ⟨Or.inr ⟨by decide, _, q2357, by decide +kernel⟩, List.forall_mem_cons.mpr ⟨Or.inr ⟨by decide, _, q2376, by decide +kernel⟩, fun _ h => absurd h List.not_mem_nil⟩⟩) ht hx
      · exact r_pass C hS hmc rfl (by rw [hT]; exact List.forall_mem_cons.mpr ⟨Or.inr ⟨by decide, _, q2357, by decide +kernel⟩, List.forall_mem_cons.mpr ⟨Or.inr ⟨by decide, _, q2376, by decide +kernel⟩, fun _ h => absurd h List.not_mem_nil⟩⟩) ht hx
      · exact r_pass C hS hmc rfl (by rw [hT]; exact List.forall_mem_cons.mpr ⟨Or.inr ⟨by decide, _, q2357, by decide +kernel⟩, List.forall_mem_cons.mpr ⟨Or.inr ⟨by decide, _, q2376, by decide +kernel⟩, fun _ h => absurd h List.not_mem_nil⟩⟩) ht hx
  · obtain ⟨x5, rfl, hw⟩ := hv
    refine lv_i2l C.1 C.2.1 dX0_pupilOf_8 rfl ?_
    refine r_last C hS dX0_pupilOf_9 hw (fun z6 H locs hw hS => ?_)
    refine lv_goto C.1 C.2.1 dX0_pupilOf_10 rfl ?_
    refine lv_iconst C.1 C.2.1 (v := 0) dX0_pupilOf_21 rfl ?_
    exact r_iret C hS hmc hr dX0_pupilOf_22 hw
end
theorem kX0_pupilOf {l : Launch} (hl : l.stackTraces = false) {G : gE} {P : Int32 → hSt → Prop} {PX : Nat → Nat → hSt → Prop} {v0 : Option Nat} {v1 : Int32} {v2 : Int32} {v3 : Option Nat} {z : hSt} : cM l G yX0_pupilOf (wsW_ yX0_pupilOf cX0_pupilOf 5 (Option.some Jvm.ClassFile.FieldType.int) [((0 : Nat), (10 : Nat), (13 : Nat), (13 : Nat)), ((0 : Nat), (10 : Nat), (17 : Nat), (15 : Nat))]) 18 338 z [va_rf v0, .int v1, .int v2, va_rf v3] (wX0_pupilOf G P PX v0 v1 v2 v3 z) (pI P) PX := by
  refine m_ofH hl (plainFor_of_name (by decide)) (by rw [lg_sl1 (va_rf_cat _), lg_sl1 rfl, lg_sl1 rfl, lg_sl1 (va_rf_cat _)]; exact Nat.le_of_ble_eq_true rfl) ?_
  intro p e s m args below meth c C hr hin hT hmc hw
  rw [lv_args1 (va_rf_cat _), lv_args1 rfl, lv_args1 rfl, lv_args1 (va_rf_cat _)]
  intro H locs ls hS hl
  exact kX0_pupilOfb0 C hr hin hT hmc hw H locs ls hS (lv_sub hl [0, 1, 2, 3] rfl)
theorem hdX0_pupilOf : yX0_pupilOf.cls ≠ "java/lang/invoke/MethodHandle" ∧ yX0_pupilOf.cls ≠ "java/lang/invoke/VarHandle" ∧ (parseMethodDescriptor yX0_pupilOf.desc).map (fun d => d.parameters.length) = some 4 := ⟨by decide +kernel, by decide +kernel, by decide +kernel⟩
abbrev rmX0_schoolOf (mc ms : Nat) : Room := { frames := 14, cells := mc, slots := ms, locals := 243 }
def wX0_schoolOfb17 (G : gE) (P : Int32 → hSt → Prop) (PX : Nat → Nat → hSt → Prop)  (s0 : Option Nat) (z : hSt) : Prop :=
  P 2 z
def wX0_schoolOfb13 (G : gE) (P : Int32 → hSt → Prop) (PX : Nat → Nat → hSt → Prop)  (s0 : Option Nat) (z : hSt) : Prop :=
  P 1 z
def wX0_schoolOfb0 (G : gE) (P : Int32 → hSt → Prop) (PX : Nat → Nat → hSt → Prop)  (v0 : Option Nat) (v1 : Int32) (v2 : Int32) (v3 : Option Nat) (z : hSt) : Prop :=
  (rcv z v0 0 ∧ wX1_schoolOf G (fun x5 z4 => asL G z4 v3 0 ((x5 : Int32).toInt64) (fun z6 => P 0 z6)) (fun c3 e2 z1 => (c3 = 29 ∧ wX0_schoolOfb17 G P PX  (some e2) z1) ∨ (c3 = 32 ∧ wX0_schoolOfb13 G P PX  (some e2) z1) ∨ (c3 ∈ ([8, 11, 28, 30, 31, 33] : List Nat) ∧ PX c3 e2 z1)) v0 v1 v2 z)
def wX0_schoolOf (G : gE) (P : Int32 → hSt → Prop) (PX : Nat → Nat → hSt → Prop) (v0 : Option Nat) (v1 : Int32) (v2 : Int32) (v3 : Option Nat) (z : hSt) : Prop := wX0_schoolOfb0 G P PX v0 v1 v2 v3 z
section
variable {p : Program} {l : Launch} {e : Env} {s : State} {m : MethodId} {args : Array Value} {below : List Frame} {meth : Method} {c : Code} {G : gE} {mc ms : Nat} {P : Int32 → hSt → Prop} {PX : Nat → Nat → hSt → Prop}
theorem kX0_schoolOfb17 (C : xC G p l s m args meth c cX0_schoolOf 5 "ExcuseLedgerLaw") (hr : meth.sig.returnType = (Option.some Jvm.ClassFile.FieldType.int)) (hin : meth.name = "schoolOf") (hT : c.exceptionTable.toList = tableOf [((0 : Nat), (10 : Nat), (13 : Nat), (13 : Nat)), ((0 : Nat), (10 : Nat), (17 : Nat), (15 : Nat))]) (hmc : mc = gL G - s.heap.size ∧ ms = gU G - hsum s.heap)   {s0 : Option Nat} {z : hSt} (hw : wX0_schoolOfb17 G P PX  s0 z) : kt G p l e (rmX0_schoolOf mc ms) s m args below meth c 5 (vx_MQ below (cQ G (pI P)) (cX G PX) args s mc ms (gF G)) 17 [] [va_rf s0] z := by
  intro H locs ls hS hl
  refine r_astore C.1 C.2.1 dX0_schoolOf_17 hl (Nat.le_of_ble_eq_true rfl) (ls_new ls_nil) (fun ls hl => ?_)
  refine lv_iconst C.1 C.2.1 (v := 2) dX0_schoolOf_19 rfl ?_
  exact r_iret C hS hmc hr dX0_schoolOf_20 hw
theorem kX0_schoolOfb13 (C : xC G p l s m args meth c cX0_schoolOf 5 "ExcuseLedgerLaw") (hr : meth.sig.returnType = (Option.some Jvm.ClassFile.FieldType.int)) (hin : meth.name = "schoolOf") (hT : c.exceptionTable.toList = tableOf [((0 : Nat), (10 : Nat), (13 : Nat), (13 : Nat)), ((0 : Nat), (10 : Nat), (17 : Nat), (15 : Nat))]) (hmc : mc = gL G - s.heap.size ∧ ms = gU G - hsum s.heap)   {s0 : Option Nat} {z : hSt} (hw : wX0_schoolOfb13 G P PX  s0 z) : kt G p l e (rmX0_schoolOf mc ms) s m args below meth c 5 (vx_MQ below (cQ G (pI P)) (cX G PX) args s mc ms (gF G)) 13 [] [va_rf s0] z := by
  intro H locs ls hS hl
  refine r_astore C.1 C.2.1 dX0_schoolOf_13 hl (Nat.le_of_ble_eq_true rfl) (ls_new ls_nil) (fun ls hl => ?_)
  refine lv_iconst C.1 C.2.1 (v := 1) dX0_schoolOf_15 rfl ?_
  exact r_iret C hS hmc hr dX0_schoolOf_16 hw
theorem kX0_schoolOfb0 (C : xC G p l s m args meth c cX0_schoolOf 5 "ExcuseLedgerLaw") (hr : meth.sig.returnType = (Option.some Jvm.ClassFile.FieldType.int)) (hin : meth.name = "schoolOf") (hT : c.exceptionTable.toList = tableOf [((0 : Nat), (10 : Nat), (13 : Nat), (13 : Nat)), ((0 : Nat), (10 : Nat), (17 : Nat), (15 : Nat))]) (hmc : mc = gL G - s.heap.size ∧ ms = gU G - hsum s.heap)   {v0 : Option Nat} {v1 : Int32} {v2 : Int32} {v3 : Option Nat} {z : hSt} (hw : wX0_schoolOfb0 G P PX  v0 v1 v2 v3 z) : kt G p l e (rmX0_schoolOf mc ms) s m args below meth c 5 (vx_MQ below (cQ G (pI P)) (cX G PX) args s mc ms (gF G)) 0 [(0, va_rf v0), (1, .int v1), (2, .int v2), (3, va_rf v3)] [] z := by
  intro H locs ls hS hl
  refine r_aload_n C.1 C.2.1 dX0_schoolOf_0 rfl (lv_at hl 3 rfl) ?_
  refine lv_iconst C.1 C.2.1 (v := 0) dX0_schoolOf_1 rfl ?_
  refine r_aload_n C.1 C.2.1 dX0_schoolOf_2 rfl (lv_at hl 0 rfl) ?_
  refine lv_iload_n C.1 C.2.1 dX0_schoolOf_3 rfl (lv_at hl 1 rfl) ?_
  refine lv_iload_n C.1 C.2.1 dX0_schoolOf_4 rfl (lv_at hl 2 rfl) ?_
  refine c_V C hS hmc hl.1 (ci := 0) rfl hw.1 (kX1_schoolOf C.2.2.2.2.2.2.1) hw.2 (lw_V q2547 q2548 q2549 q67 q2550) ⟨rfl, hdX1_schoolOf⟩ ⟨Nat.le_of_ble_eq_true rfl, Nat.le_of_ble_eq_true rfl⟩ (rest := [.int 0, va_rf v3]) rfl rfl (Nat.le_of_ble_eq_true rfl) dX0_schoolOf_5 (fun c3 e2 z1 H locs hx hS ht => ?_) (fun v z4 H locs hv hS => ?_)
  · rcases hx with ⟨rfl, hw⟩ | ⟨rfl, hw⟩ | ⟨h9, hx⟩
    · refine r_catch C [(⟨0, 10, 13, 13⟩ : ExceptionTableEntry)] (⟨0, 10, 17, 15⟩ : ExceptionTableEntry) [] (by rw [hT]; rfl) (ci := 29) rfl (List.forall_mem_cons.mpr ⟨Or.inr ⟨by decide, _, q2357, by decide +kernel⟩, fun _ h => absurd h List.not_mem_nil⟩) (by decide) (by decide) q2376 q999 ht ?_
      exact kX0_schoolOfb17 C hr hin hT hmc  hw H locs ls hS (lv_sub hl [] rfl)
    · refine r_catch C [] (⟨0, 10, 13, 13⟩ : ExceptionTableEntry) [(⟨0, 10, 17, 15⟩ : ExceptionTableEntry)] (by rw [hT]; rfl) (ci := 32) rfl (fun _ h => absurd h List.not_mem_nil) (by decide) (by decide) q2357 q2388 ht ?_
      exact kX0_schoolOfb13 C hr hin hT hmc  hw H locs ls hS (lv_sub hl [] rfl)
    · simp only [List.mem_cons, List.not_mem_nil, or_false] at h9
      rcases h9 with rfl | rfl | rfl | rfl | rfl | rfl
      · exact r_pass C hS hmc rfl (by rw [hT]; exact List.forall_mem_cons.mpr ⟨Or.inr ⟨by decide, _, q2357, by decide +kernel⟩, List.forall_mem_cons.mpr ⟨Or.inr ⟨by decide, _, q2376, by decide +kernel⟩, fun _ h => absurd h List.not_mem_nil⟩⟩) ht hx
      · exact r_pass C hS hmc rfl (by rw [hT]; exact List.forall_mem_cons.mpr ⟨Or.inr ⟨by decide, _, q2357, by decide +kernel⟩, List.forall_mem_cons.mpr ⟨Or.inr ⟨by decide, _, q2376, by decide +kernel⟩, fun _ h => absurd h List.not_mem_nil⟩⟩) ht hx
      · exact r_pass C hS hmc rfl (by rw [hT]; exact List.forall_mem_cons.mpr ⟨Or.inr ⟨by decide, _, q2357, by decide +kernel⟩, List.forall_mem_cons.mpr ⟨Or.inr ⟨by decide, _, q2376, by decide +kernel⟩, fun _ h => absurd h List.not_mem_nil⟩⟩) ht hx
      · exact r_pass C hS hmc rfl (by rw [hT]; exact List.forall_mem_cons.mpr ⟨Or.inr ⟨by decide, _, q2357, by decide +kernel⟩, List.forall_mem_cons.mpr ⟨Or.inr ⟨by decide, _, q2376, by decide +kernel⟩, fun _ h => absurd h List.not_mem_nil⟩⟩) ht hx
      · exact r_pass C hS hmc rfl (by rw [hT]; exact List.forall_mem_cons.mpr ⟨Or.inr ⟨by decide, _, q2357, by decide +kernel⟩, List.forall_mem_cons.mpr ⟨Or.inr ⟨by decide, _, q2376, by decide +kernel⟩, fun _ h => absurd h List.not_mem_nil⟩⟩) ht hx
      · exact r_pass C hS hmc rfl (by rw [hT]; exact List.forall_mem_cons.mpr ⟨Or.inr ⟨by decide, _, q2357, by decide +kernel⟩, List.forall_mem_cons.mpr ⟨Or.inr ⟨by decide, _, q2376, by decide +kernel⟩, fun _ h => absurd h List.not_mem_nil⟩⟩) ht hx
  · obtain ⟨x5, rfl, hw⟩ := hv
    refine lv_i2l C.1 C.2.1 dX0_schoolOf_8 rfl ?_
    refine r_last C hS dX0_schoolOf_9 hw (fun z6 H locs hw hS => ?_)
    refine lv_goto C.1 C.2.1 dX0_schoolOf_10 rfl ?_
    refine lv_iconst C.1 C.2.1 (v := 0) dX0_schoolOf_21 rfl ?_
    exact r_iret C hS hmc hr dX0_schoolOf_22 hw
end
theorem kX0_schoolOf {l : Launch} (hl : l.stackTraces = false) {G : gE} {P : Int32 → hSt → Prop} {PX : Nat → Nat → hSt → Prop} {v0 : Option Nat} {v1 : Int32} {v2 : Int32} {v3 : Option Nat} {z : hSt} : cM l G yX0_schoolOf (wsW_ yX0_schoolOf cX0_schoolOf 5 (Option.some Jvm.ClassFile.FieldType.int) [((0 : Nat), (10 : Nat), (13 : Nat), (13 : Nat)), ((0 : Nat), (10 : Nat), (17 : Nat), (15 : Nat))]) 14 243 z [va_rf v0, .int v1, .int v2, va_rf v3] (wX0_schoolOf G P PX v0 v1 v2 v3 z) (pI P) PX := by
  refine m_ofH hl (plainFor_of_name (by decide)) (by rw [lg_sl1 (va_rf_cat _), lg_sl1 rfl, lg_sl1 rfl, lg_sl1 (va_rf_cat _)]; exact Nat.le_of_ble_eq_true rfl) ?_
  intro p e s m args below meth c C hr hin hT hmc hw
  rw [lv_args1 (va_rf_cat _), lv_args1 rfl, lv_args1 rfl, lv_args1 (va_rf_cat _)]
  intro H locs ls hS hl
  exact kX0_schoolOfb0 C hr hin hT hmc hw H locs ls hS (lv_sub hl [0, 1, 2, 3] rfl)
theorem hdX0_schoolOf : yX0_schoolOf.cls ≠ "java/lang/invoke/MethodHandle" ∧ yX0_schoolOf.cls ≠ "java/lang/invoke/VarHandle" ∧ (parseMethodDescriptor yX0_schoolOf.desc).map (fun d => d.parameters.length) = some 4 := ⟨by decide +kernel, by decide +kernel, by decide +kernel⟩
abbrev rmX0_dog (mc ms : Nat) : Room := { frames := 17, cells := mc, slots := ms, locals := 313 }
def wX0_dogb12 (G : gE) (P : Int32 → hSt → Prop) (PX : Nat → Nat → hSt → Prop)  (s0 : Option Nat) (z : hSt) : Prop :=
  P 1 z
def wX0_dogb0 (G : gE) (P : Int32 → hSt → Prop) (PX : Nat → Nat → hSt → Prop)  (v0 : Option Nat) (v1 : Int32) (v2 : Option Nat) (z : hSt) : Prop :=
  (rcv z v0 0 ∧ wX1_dog G (fun x5 z4 => asL G z4 v2 0 ((x5 : Int32).toInt64) (fun z6 => P 0 z6)) (fun c3 e2 z1 => (c3 = 29 ∧ wX0_dogb12 G P PX  (some e2) z1) ∨ (c3 ∈ ([8, 11, 28, 30, 31, 32, 33] : List Nat) ∧ PX c3 e2 z1)) v0 v1 z)
def wX0_dog (G : gE) (P : Int32 → hSt → Prop) (PX : Nat → Nat → hSt → Prop) (v0 : Option Nat) (v1 : Int32) (v2 : Option Nat) (z : hSt) : Prop := wX0_dogb0 G P PX v0 v1 v2 z
section
variable {p : Program} {l : Launch} {e : Env} {s : State} {m : MethodId} {args : Array Value} {below : List Frame} {meth : Method} {c : Code} {G : gE} {mc ms : Nat} {P : Int32 → hSt → Prop} {PX : Nat → Nat → hSt → Prop}
theorem kX0_dogb12 (C : xC G p l s m args meth c cX0_dog 4 "ExcuseLedgerLaw") (hr : meth.sig.returnType = (Option.some Jvm.ClassFile.FieldType.int)) (hin : meth.name = "dog") (hT : c.exceptionTable.toList = tableOf [((0 : Nat), (9 : Nat), (12 : Nat), (15 : Nat))]) (hmc : mc = gL G - s.heap.size ∧ ms = gU G - hsum s.heap)   {s0 : Option Nat} {z : hSt} (hw : wX0_dogb12 G P PX  s0 z) : kt G p l e (rmX0_dog mc ms) s m args below meth c 4 (vx_MQ below (cQ G (pI P)) (cX G PX) args s mc ms (gF G)) 12 [] [va_rf s0] z := by
  intro H locs ls hS hl
  refine r_astore_n C.1 C.2.1 dX0_dog_12 rfl hl (Nat.le_of_ble_eq_true rfl) (ls_new ls_nil) (fun ls hl => ?_)
  refine lv_iconst C.1 C.2.1 (v := 1) dX0_dog_13 rfl ?_
  exact r_iret C hS hmc hr dX0_dog_14 hw
theorem kX0_dogb0 (C : xC G p l s m args meth c cX0_dog 4 "ExcuseLedgerLaw") (hr : meth.sig.returnType = (Option.some Jvm.ClassFile.FieldType.int)) (hin : meth.name = "dog") (hT : c.exceptionTable.toList = tableOf [((0 : Nat), (9 : Nat), (12 : Nat), (15 : Nat))]) (hmc : mc = gL G - s.heap.size ∧ ms = gU G - hsum s.heap)   {v0 : Option Nat} {v1 : Int32} {v2 : Option Nat} {z : hSt} (hw : wX0_dogb0 G P PX  v0 v1 v2 z) : kt G p l e (rmX0_dog mc ms) s m args below meth c 4 (vx_MQ below (cQ G (pI P)) (cX G PX) args s mc ms (gF G)) 0 [(0, va_rf v0), (1, .int v1), (2, va_rf v2)] [] z := by
  intro H locs ls hS hl
  refine r_aload_n C.1 C.2.1 dX0_dog_0 rfl (lv_at hl 2 rfl) ?_
  refine lv_iconst C.1 C.2.1 (v := 0) dX0_dog_1 rfl ?_
  refine r_aload_n C.1 C.2.1 dX0_dog_2 rfl (lv_at hl 0 rfl) ?_
  refine lv_iload_n C.1 C.2.1 dX0_dog_3 rfl (lv_at hl 1 rfl) ?_
  refine c_V C hS hmc hl.1 (ci := 0) rfl hw.1 (kX1_dog C.2.2.2.2.2.2.1) hw.2 (lw_V q2563 q2564 q2565 q67 q2566) ⟨rfl, hdX1_dog⟩ ⟨Nat.le_of_ble_eq_true rfl, Nat.le_of_ble_eq_true rfl⟩ (rest := [.int 0, va_rf v2]) rfl rfl (Nat.le_of_ble_eq_true rfl) dX0_dog_4 (fun c3 e2 z1 H locs hx hS ht => ?_) (fun v z4 H locs hv hS => ?_)
  · rcases hx with ⟨rfl, hw⟩ | ⟨h9, hx⟩
    · refine r_catch C [] (⟨0, 9, 12, 15⟩ : ExceptionTableEntry) [] (by rw [hT]; rfl) (ci := 29) rfl (fun _ h => absurd h List.not_mem_nil) (by decide) (by decide) q2376 q999 ht ?_
      exact kX0_dogb12 C hr hin hT hmc  hw H locs ls hS (lv_sub hl [] rfl)
    · simp only [List.mem_cons, List.not_mem_nil, or_false] at h9
      rcases h9 with rfl | rfl | rfl | rfl | rfl | rfl | rfl
      · exact r_pass C hS hmc rfl (by rw [hT]; exact List.forall_mem_cons.mpr ⟨Or.inr ⟨by decide, _, q2376, by decide +kernel⟩, fun _ h => absurd h List.not_mem_nil⟩) ht hx
      · exact r_pass C hS hmc rfl (by rw [hT]; exact List.forall_mem_cons.mpr ⟨Or.inr ⟨by decide, _, q2376, by decide +kernel⟩, fun _ h => absurd h List.not_mem_nil⟩) ht hx
      · exact r_pass C hS hmc rfl (by rw [hT]; exact List.forall_mem_cons.mpr ⟨Or.inr ⟨by decide, _, q2376, by decide +kernel⟩, fun _ h => absurd h List.not_mem_nil⟩) ht hx
      · exact r_pass C hS hmc rfl (by rw [hT]; exact List.forall_mem_cons.mpr ⟨Or.inr ⟨by decide, _, q2376, by decide +kernel⟩, fun _ h => absurd h List.not_mem_nil⟩) ht hx
      · exact r_pass C hS hmc rfl (by rw [hT]; exact List.forall_mem_cons.mpr ⟨Or.inr ⟨by decide, _, q2376, by decide +kernel⟩, fun _ h => absurd h List.not_mem_nil⟩) ht hx
      · exact r_pass C hS hmc rfl (by rw [hT]; exact List.forall_mem_cons.mpr ⟨Or.inr ⟨by decide, _, q2376, by decide +kernel⟩, fun _ h => absurd h List.not_mem_nil⟩) ht hx
      · exact r_pass C hS hmc rfl (by rw [hT]; exact List.forall_mem_cons.mpr ⟨Or.inr ⟨by decide, _, q2376, by decide +kernel⟩, fun _ h => absurd h List.not_mem_nil⟩) ht hx
  · obtain ⟨x5, rfl, hw⟩ := hv
    refine lv_i2l C.1 C.2.1 dX0_dog_7 rfl ?_
    refine r_last C hS dX0_dog_8 hw (fun z6 H locs hw hS => ?_)
    refine lv_goto C.1 C.2.1 dX0_dog_9 rfl ?_
    refine lv_iconst C.1 C.2.1 (v := 0) dX0_dog_15 rfl ?_
    exact r_iret C hS hmc hr dX0_dog_16 hw
end
theorem kX0_dog {l : Launch} (hl : l.stackTraces = false) {G : gE} {P : Int32 → hSt → Prop} {PX : Nat → Nat → hSt → Prop} {v0 : Option Nat} {v1 : Int32} {v2 : Option Nat} {z : hSt} : cM l G yX0_dog (wsW_ yX0_dog cX0_dog 4 (Option.some Jvm.ClassFile.FieldType.int) [((0 : Nat), (9 : Nat), (12 : Nat), (15 : Nat))]) 17 313 z [va_rf v0, .int v1, va_rf v2] (wX0_dog G P PX v0 v1 v2 z) (pI P) PX := by
  refine m_ofH hl (plainFor_of_name (by decide)) (by rw [lg_sl1 (va_rf_cat _), lg_sl1 rfl, lg_sl1 (va_rf_cat _)]; exact Nat.le_of_ble_eq_true rfl) ?_
  intro p e s m args below meth c C hr hin hT hmc hw
  rw [lv_args1 (va_rf_cat _), lv_args1 rfl, lv_args1 (va_rf_cat _)]
  intro H locs ls hS hl
  exact kX0_dogb0 C hr hin hT hmc hw H locs ls hS (lv_sub hl [0, 1, 2] rfl)
theorem hdX0_dog : yX0_dog.cls ≠ "java/lang/invoke/MethodHandle" ∧ yX0_dog.cls ≠ "java/lang/invoke/VarHandle" ∧ (parseMethodDescriptor yX0_dog.desc).map (fun d => d.parameters.length) = some 3 := ⟨by decide +kernel, by decide +kernel, by decide +kernel⟩
abbrev rmX0_heard (mc ms : Nat) : Room := { frames := 17, cells := mc, slots := ms, locals := 314 }
def wX0_heardb20 (G : gE) (P : Int32 → hSt → Prop) (PX : Nat → Nat → hSt → Prop)  (s0 : Option Nat) (s1 : Int32) (s2 : Int64) (z : hSt) : Prop :=
  asL G z s0 s1 s2 (fun z6 => P 0 z6)
def wX0_heardb28 (G : gE) (P : Int32 → hSt → Prop) (PX : Nat → Nat → hSt → Prop)  (s0 : Option Nat) (z : hSt) : Prop :=
  P 2 z
def wX0_heardb24 (G : gE) (P : Int32 → hSt → Prop) (PX : Nat → Nat → hSt → Prop)  (s0 : Option Nat) (z : hSt) : Prop :=
  P 1 z
def wX0_heardb0 (G : gE) (P : Int32 → hSt → Prop) (PX : Nat → Nat → hSt → Prop)  (v0 : Option Nat) (v1 : Int32) (v2 : Int32) (v3 : Int32) (v4 : Int32) (v5 : Option Nat) (z : hSt) : Prop :=
  (rcv z v0 0 ∧ wX1_heard G (fun x5 z4 => ((x5 = 0 → wX0_heardb20 G P PX  v5 0 0 z4) ∧ (¬ x5 = 0 → wX0_heardb20 G P PX  v5 0 1 z4))) (fun c3 e2 z1 => (c3 = 29 ∧ wX0_heardb28 G P PX  (some e2) z1) ∨ (c3 = 32 ∧ wX0_heardb24 G P PX  (some e2) z1) ∨ (c3 ∈ ([8, 11, 28, 30, 31, 33] : List Nat) ∧ PX c3 e2 z1)) v0 v1 v2 v3 v4 z)
def wX0_heard (G : gE) (P : Int32 → hSt → Prop) (PX : Nat → Nat → hSt → Prop) (v0 : Option Nat) (v1 : Int32) (v2 : Int32) (v3 : Int32) (v4 : Int32) (v5 : Option Nat) (z : hSt) : Prop := wX0_heardb0 G P PX v0 v1 v2 v3 v4 v5 z
section
variable {p : Program} {l : Launch} {e : Env} {s : State} {m : MethodId} {args : Array Value} {below : List Frame} {meth : Method} {c : Code} {G : gE} {mc ms : Nat} {P : Int32 → hSt → Prop} {PX : Nat → Nat → hSt → Prop}
theorem kX0_heardb20 (C : xC G p l s m args meth c cX0_heard 7 "ExcuseLedgerLaw") (hr : meth.sig.returnType = (Option.some Jvm.ClassFile.FieldType.int)) (hin : meth.name = "heard") (hT : c.exceptionTable.toList = tableOf [((0 : Nat), (21 : Nat), (24 : Nat), (13 : Nat)), ((0 : Nat), (21 : Nat), (28 : Nat), (15 : Nat))]) (hmc : mc = gL G - s.heap.size ∧ ms = gU G - hsum s.heap)   {s0 : Option Nat} {s1 : Int32} {s2 : Int64} {z : hSt} (hw : wX0_heardb20 G P PX  s0 s1 s2 z) : kt G p l e (rmX0_heard mc ms) s m args below meth c 7 (vx_MQ below (cQ G (pI P)) (cX G PX) args s mc ms (gF G)) 20 [] [.long s2, .int s1, va_rf s0] z := by
  intro H locs ls hS hl
  refine r_last C hS dX0_heard_20 hw (fun z6 H locs hw hS => ?_)
  refine lv_goto C.1 C.2.1 dX0_heard_21 rfl ?_
  refine lv_iconst C.1 C.2.1 (v := 0) dX0_heard_32 rfl ?_
  exact r_iret C hS hmc hr dX0_heard_33 hw
theorem kX0_heardb28 (C : xC G p l s m args meth c cX0_heard 7 "ExcuseLedgerLaw") (hr : meth.sig.returnType = (Option.some Jvm.ClassFile.FieldType.int)) (hin : meth.name = "heard") (hT : c.exceptionTable.toList = tableOf [((0 : Nat), (21 : Nat), (24 : Nat), (13 : Nat)), ((0 : Nat), (21 : Nat), (28 : Nat), (15 : Nat))]) (hmc : mc = gL G - s.heap.size ∧ ms = gU G - hsum s.heap)   {s0 : Option Nat} {z : hSt} (hw : wX0_heardb28 G P PX  s0 z) : kt G p l e (rmX0_heard mc ms) s m args below meth c 7 (vx_MQ below (cQ G (pI P)) (cX G PX) args s mc ms (gF G)) 28 [] [va_rf s0] z := by
  intro H locs ls hS hl
  refine r_astore C.1 C.2.1 dX0_heard_28 hl (Nat.le_of_ble_eq_true rfl) (ls_new ls_nil) (fun ls hl => ?_)
  refine lv_iconst C.1 C.2.1 (v := 2) dX0_heard_30 rfl ?_
  exact r_iret C hS hmc hr dX0_heard_31 hw
theorem kX0_heardb24 (C : xC G p l s m args meth c cX0_heard 7 "ExcuseLedgerLaw") (hr : meth.sig.returnType = (Option.some Jvm.ClassFile.FieldType.int)) (hin : meth.name = "heard") (hT : c.exceptionTable.toList = tableOf [((0 : Nat), (21 : Nat), (24 : Nat), (13 : Nat)), ((0 : Nat), (21 : Nat), (28 : Nat), (15 : Nat))]) (hmc : mc = gL G - s.heap.size ∧ ms = gU G - hsum s.heap)   {s0 : Option Nat} {z : hSt} (hw : wX0_heardb24 G P PX  s0 z) : kt G p l e (rmX0_heard mc ms) s m args below meth c 7 (vx_MQ below (cQ G (pI P)) (cX G PX) args s mc ms (gF G)) 24 [] [va_rf s0] z := by
  intro H locs ls hS hl
  refine r_astore C.1 C.2.1 dX0_heard_24 hl (Nat.le_of_ble_eq_true rfl) (ls_new ls_nil) (fun ls hl => ?_)
  refine lv_iconst C.1 C.2.1 (v := 1) dX0_heard_26 rfl ?_
  exact r_iret C hS hmc hr dX0_heard_27 hw
theorem kX0_heardb0 (C : xC G p l s m args meth c cX0_heard 7 "ExcuseLedgerLaw") (hr : meth.sig.returnType = (Option.some Jvm.ClassFile.FieldType.int)) (hin : meth.name = "heard") (hT : c.exceptionTable.toList = tableOf [((0 : Nat), (21 : Nat), (24 : Nat), (13 : Nat)), ((0 : Nat), (21 : Nat), (28 : Nat), (15 : Nat))]) (hmc : mc = gL G - s.heap.size ∧ ms = gU G - hsum s.heap)   {v0 : Option Nat} {v1 : Int32} {v2 : Int32} {v3 : Int32} {v4 : Int32} {v5 : Option Nat} {z : hSt} (hw : wX0_heardb0 G P PX  v0 v1 v2 v3 v4 v5 z) : kt G p l e (rmX0_heard mc ms) s m args below meth c 7 (vx_MQ below (cQ G (pI P)) (cX G PX) args s mc ms (gF G)) 0 [(0, va_rf v0), (1, .int v1), (2, .int v2), (3, .int v3), (4, .int v4), (5, va_rf v5)] [] z := by
  intro H locs ls hS hl
  refine r_aload C.1 C.2.1 dX0_heard_0 (lv_at hl 5 rfl) ?_
  refine lv_iconst C.1 C.2.1 (v := 0) dX0_heard_2 rfl ?_
  refine r_aload_n C.1 C.2.1 dX0_heard_3 rfl (lv_at hl 0 rfl) ?_
  refine lv_iload_n C.1 C.2.1 dX0_heard_4 rfl (lv_at hl 1 rfl) ?_
  refine lv_iload_n C.1 C.2.1 dX0_heard_5 rfl (lv_at hl 2 rfl) ?_
  refine lv_iload_n C.1 C.2.1 dX0_heard_6 rfl (lv_at hl 3 rfl) ?_
  refine lv_iload C.1 C.2.1 dX0_heard_7 (lv_at hl 4 rfl) ?_
  refine c_V C hS hmc hl.1 (ci := 0) rfl hw.1 (kX1_heard C.2.2.2.2.2.2.1) hw.2 (lw_V q2571 q2572 q2573 q67 q2574) ⟨rfl, hdX1_heard⟩ ⟨Nat.le_of_ble_eq_true rfl, Nat.le_of_ble_eq_true rfl⟩ (rest := [.int 0, va_rf v5]) rfl rfl (Nat.le_of_ble_eq_true rfl) dX0_heard_9 (fun c3 e2 z1 H locs hx hS ht => ?_) (fun v z4 H locs hv hS => ?_)
  · rcases hx with ⟨rfl, hw⟩ | ⟨rfl, hw⟩ | ⟨h9, hx⟩
    · refine r_catch C [(⟨0, 21, 24, 13⟩ : ExceptionTableEntry)] (⟨0, 21, 28, 15⟩ : ExceptionTableEntry) [] (by rw [hT]; rfl) (ci := 29) rfl (List.forall_mem_cons.mpr ⟨Or.inr ⟨by decide, _, q2357, by decide +kernel⟩, fun _ h => absurd h List.not_mem_nil⟩) (by decide) (by decide) q2376 q999 ht ?_
      exact kX0_heardb28 C hr hin hT hmc  hw H locs ls hS (lv_sub hl [] rfl)
    · refine r_catch C [] (⟨0, 21, 24, 13⟩ : ExceptionTableEntry) [(⟨0, 21, 28, 15⟩ : ExceptionTableEntry)] (by rw [hT]; rfl) (ci := 32) rfl (fun _ h => absurd h List.not_mem_nil) (by decide) (by decide) q2357 q2388 ht ?_
      exact kX0_heardb24 C hr hin hT hmc  hw H locs ls hS (lv_sub hl [] rfl)
    · simp only [List.mem_cons, List.not_mem_nil, or_false] at h9
      rcases h9 with rfl | rfl | rfl | rfl | rfl | rfl
      · exact r_pass C hS hmc rfl (by rw [hT]; exact List.forall_mem_cons.mpr ⟨Or.inr ⟨by decide, _, q2357, by decide +kernel⟩, List.forall_mem_cons.mpr ⟨Or.inr ⟨by decide, _, q2376, by decide +kernel⟩, fun _ h => absurd h List.not_mem_nil⟩⟩) ht hx
      · exact r_pass C hS hmc rfl (by rw [hT]; exact List.forall_mem_cons.mpr ⟨Or.inr ⟨by decide, _, q2357, by decide +kernel⟩, List.forall_mem_cons.mpr ⟨Or.inr ⟨by decide, _, q2376, by decide +kernel⟩, fun _ h => absurd h List.not_mem_nil⟩⟩) ht hx
      · exact r_pass C hS hmc rfl (by rw [hT]; exact List.forall_mem_cons.mpr ⟨Or.inr ⟨by decide, _, q2357, by decide +kernel⟩, List.forall_mem_cons.mpr ⟨Or.inr ⟨by decide, _, q2376, by decide +kernel⟩, fun _ h => absurd h List.not_mem_nil⟩⟩) ht hx
      · exact r_pass C hS hmc rfl (by rw [hT]; exact List.forall_mem_cons.mpr ⟨Or.inr ⟨by decide, _, q2357, by decide +kernel⟩, List.forall_mem_cons.mpr ⟨Or.inr ⟨by decide, _, q2376, by decide +kernel⟩, fun _ h => absurd h List.not_mem_nil⟩⟩) ht hx
      · exact r_pass C hS hmc rfl (by rw [hT]; exact List.forall_mem_cons.mpr ⟨Or.inr ⟨by decide, _, q2357, by decide +kernel⟩, List.forall_mem_cons.mpr ⟨Or.inr ⟨by decide, _, q2376, by decide +kernel⟩, fun _ h => absurd h List.not_mem_nil⟩⟩) ht hx
      · exact r_pass C hS hmc rfl (by rw [hT]; exact List.forall_mem_cons.mpr ⟨Or.inr ⟨by decide, _, q2357, by decide +kernel⟩, List.forall_mem_cons.mpr ⟨Or.inr ⟨by decide, _, q2376, by decide +kernel⟩, fun _ h => absurd h List.not_mem_nil⟩⟩) ht hx
  · obtain ⟨x5, rfl, hw⟩ := hv
    refine lv_if_eq C.1 C.2.1 dX0_heard_12 rfl (fun h => ?_) (fun h => ?_)
    · have hw := hw.1 h
      refine lv_lconst C.1 C.2.1 (v := 0) dX0_heard_19 rfl ?_
      exact kX0_heardb20 C hr hin hT hmc  hw H locs ls hS (lv_sub hl [] rfl)
    · have hw := hw.2 h
      refine lv_lconst C.1 C.2.1 (v := 1) dX0_heard_15 rfl ?_
      refine lv_goto C.1 C.2.1 dX0_heard_16 rfl ?_
      exact kX0_heardb20 C hr hin hT hmc  hw H locs ls hS (lv_sub hl [] rfl)
end
theorem kX0_heard {l : Launch} (hl : l.stackTraces = false) {G : gE} {P : Int32 → hSt → Prop} {PX : Nat → Nat → hSt → Prop} {v0 : Option Nat} {v1 : Int32} {v2 : Int32} {v3 : Int32} {v4 : Int32} {v5 : Option Nat} {z : hSt} : cM l G yX0_heard (wsW_ yX0_heard cX0_heard 7 (Option.some Jvm.ClassFile.FieldType.int) [((0 : Nat), (21 : Nat), (24 : Nat), (13 : Nat)), ((0 : Nat), (21 : Nat), (28 : Nat), (15 : Nat))]) 17 314 z [va_rf v0, .int v1, .int v2, .int v3, .int v4, va_rf v5] (wX0_heard G P PX v0 v1 v2 v3 v4 v5 z) (pI P) PX := by
  refine m_ofH hl (plainFor_of_name (by decide)) (by rw [lg_sl1 (va_rf_cat _), lg_sl1 rfl, lg_sl1 rfl, lg_sl1 rfl, lg_sl1 rfl, lg_sl1 (va_rf_cat _)]; exact Nat.le_of_ble_eq_true rfl) ?_
  intro p e s m args below meth c C hr hin hT hmc hw
  rw [lv_args1 (va_rf_cat _), lv_args1 rfl, lv_args1 rfl, lv_args1 rfl, lv_args1 rfl, lv_args1 (va_rf_cat _)]
  intro H locs ls hS hl
  exact kX0_heardb0 C hr hin hT hmc hw H locs ls hS (lv_sub hl [0, 1, 2, 3, 4, 5] rfl)
theorem hdX0_heard : yX0_heard.cls ≠ "java/lang/invoke/MethodHandle" ∧ yX0_heard.cls ≠ "java/lang/invoke/VarHandle" ∧ (parseMethodDescriptor yX0_heard.desc).map (fun d => d.parameters.length) = some 6 := ⟨by decide +kernel, by decide +kernel, by decide +kernel⟩
abbrev rmX0_would (mc ms : Nat) : Room := { frames := 18, cells := mc, slots := ms, locals := 338 }
def wX0_wouldb20 (G : gE) (P : Int32 → hSt → Prop) (PX : Nat → Nat → hSt → Prop)  (s0 : Option Nat) (s1 : Int32) (s2 : Int64) (z : hSt) : Prop :=
  asL G z s0 s1 s2 (fun z6 => P 0 z6)
def wX0_wouldb32 (G : gE) (P : Int32 → hSt → Prop) (PX : Nat → Nat → hSt → Prop)  (s0 : Option Nat) (z : hSt) : Prop :=
  P 3 z
def wX0_wouldb28 (G : gE) (P : Int32 → hSt → Prop) (PX : Nat → Nat → hSt → Prop)  (s0 : Option Nat) (z : hSt) : Prop :=
  P 2 z
def wX0_wouldb24 (G : gE) (P : Int32 → hSt → Prop) (PX : Nat → Nat → hSt → Prop)  (s0 : Option Nat) (z : hSt) : Prop :=
  P 1 z
def wX0_wouldb0 (G : gE) (P : Int32 → hSt → Prop) (PX : Nat → Nat → hSt → Prop)  (v0 : Option Nat) (v1 : Int32) (v2 : Int32) (v3 : Int32) (v4 : Int32) (v5 : Option Nat) (z : hSt) : Prop :=
  (rcv z v0 0 ∧ wX1_would G (fun x5 z4 => ((x5 = 0 → wX0_wouldb20 G P PX  v5 0 0 z4) ∧ (¬ x5 = 0 → wX0_wouldb20 G P PX  v5 0 1 z4))) (fun c3 e2 z1 => (c3 = 28 ∧ wX0_wouldb32 G P PX  (some e2) z1) ∨ (c3 = 29 ∧ wX0_wouldb28 G P PX  (some e2) z1) ∨ (c3 = 32 ∧ wX0_wouldb24 G P PX  (some e2) z1) ∨ (c3 ∈ ([8, 11, 30, 31, 33] : List Nat) ∧ PX c3 e2 z1)) v0 v1 v2 v3 v4 z)
def wX0_would (G : gE) (P : Int32 → hSt → Prop) (PX : Nat → Nat → hSt → Prop) (v0 : Option Nat) (v1 : Int32) (v2 : Int32) (v3 : Int32) (v4 : Int32) (v5 : Option Nat) (z : hSt) : Prop := wX0_wouldb0 G P PX v0 v1 v2 v3 v4 v5 z
section
variable {p : Program} {l : Launch} {e : Env} {s : State} {m : MethodId} {args : Array Value} {below : List Frame} {meth : Method} {c : Code} {G : gE} {mc ms : Nat} {P : Int32 → hSt → Prop} {PX : Nat → Nat → hSt → Prop}
theorem kX0_wouldb20 (C : xC G p l s m args meth c cX0_would 7 "ExcuseLedgerLaw") (hr : meth.sig.returnType = (Option.some Jvm.ClassFile.FieldType.int)) (hin : meth.name = "would") (hT : c.exceptionTable.toList = tableOf [((0 : Nat), (21 : Nat), (24 : Nat), (13 : Nat)), ((0 : Nat), (21 : Nat), (28 : Nat), (15 : Nat)), ((0 : Nat), (21 : Nat), (32 : Nat), (47 : Nat))]) (hmc : mc = gL G - s.heap.size ∧ ms = gU G - hsum s.heap)   {s0 : Option Nat} {s1 : Int32} {s2 : Int64} {z : hSt} (hw : wX0_wouldb20 G P PX  s0 s1 s2 z) : kt G p l e (rmX0_would mc ms) s m args below meth c 7 (vx_MQ below (cQ G (pI P)) (cX G PX) args s mc ms (gF G)) 20 [] [.long s2, .int s1, va_rf s0] z := by
  intro H locs ls hS hl
  refine r_last C hS dX0_would_20 hw (fun z6 H locs hw hS => ?_)
  refine lv_goto C.1 C.2.1 dX0_would_21 rfl ?_
  refine lv_iconst C.1 C.2.1 (v := 0) dX0_would_36 rfl ?_
  exact r_iret C hS hmc hr dX0_would_37 hw
theorem kX0_wouldb32 (C : xC G p l s m args meth c cX0_would 7 "ExcuseLedgerLaw") (hr : meth.sig.returnType = (Option.some Jvm.ClassFile.FieldType.int)) (hin : meth.name = "would") (hT : c.exceptionTable.toList = tableOf [((0 : Nat), (21 : Nat), (24 : Nat), (13 : Nat)), ((0 : Nat), (21 : Nat), (28 : Nat), (15 : Nat)), ((0 : Nat), (21 : Nat), (32 : Nat), (47 : Nat))]) (hmc : mc = gL G - s.heap.size ∧ ms = gU G - hsum s.heap)   {s0 : Option Nat} {z : hSt} (hw : wX0_wouldb32 G P PX  s0 z) : kt G p l e (rmX0_would mc ms) s m args below meth c 7 (vx_MQ below (cQ G (pI P)) (cX G PX) args s mc ms (gF G)) 32 [] [va_rf s0] z := by
  intro H locs ls hS hl
  refine r_astore C.1 C.2.1 dX0_would_32 hl (Nat.le_of_ble_eq_true rfl) (ls_new ls_nil) (fun ls hl => ?_)
  refine lv_iconst C.1 C.2.1 (v := 3) dX0_would_34 rfl ?_
  exact r_iret C hS hmc hr dX0_would_35 hw
theorem kX0_wouldb28 (C : xC G p l s m args meth c cX0_would 7 "ExcuseLedgerLaw") (hr : meth.sig.returnType = (Option.some Jvm.ClassFile.FieldType.int)) (hin : meth.name = "would") (hT : c.exceptionTable.toList = tableOf [((0 : Nat), (21 : Nat), (24 : Nat), (13 : Nat)), ((0 : Nat), (21 : Nat), (28 : Nat), (15 : Nat)), ((0 : Nat), (21 : Nat), (32 : Nat), (47 : Nat))]) (hmc : mc = gL G - s.heap.size ∧ ms = gU G - hsum s.heap)   {s0 : Option Nat} {z : hSt} (hw : wX0_wouldb28 G P PX  s0 z) : kt G p l e (rmX0_would mc ms) s m args below meth c 7 (vx_MQ below (cQ G (pI P)) (cX G PX) args s mc ms (gF G)) 28 [] [va_rf s0] z := by
  intro H locs ls hS hl
  refine r_astore C.1 C.2.1 dX0_would_28 hl (Nat.le_of_ble_eq_true rfl) (ls_new ls_nil) (fun ls hl => ?_)
  refine lv_iconst C.1 C.2.1 (v := 2) dX0_would_30 rfl ?_
  exact r_iret C hS hmc hr dX0_would_31 hw
theorem kX0_wouldb24 (C : xC G p l s m args meth c cX0_would 7 "ExcuseLedgerLaw") (hr : meth.sig.returnType = (Option.some Jvm.ClassFile.FieldType.int)) (hin : meth.name = "would") (hT : c.exceptionTable.toList = tableOf [((0 : Nat), (21 : Nat), (24 : Nat), (13 : Nat)), ((0 : Nat), (21 : Nat), (28 : Nat), (15 : Nat)), ((0 : Nat), (21 : Nat), (32 : Nat), (47 : Nat))]) (hmc : mc = gL G - s.heap.size ∧ ms = gU G - hsum s.heap)   {s0 : Option Nat} {z : hSt} (hw : wX0_wouldb24 G P PX  s0 z) : kt G p l e (rmX0_would mc ms) s m args below meth c 7 (vx_MQ below (cQ G (pI P)) (cX G PX) args s mc ms (gF G)) 24 [] [va_rf s0] z := by
  intro H locs ls hS hl
  refine r_astore C.1 C.2.1 dX0_would_24 hl (Nat.le_of_ble_eq_true rfl) (ls_new ls_nil) (fun ls hl => ?_)
  refine lv_iconst C.1 C.2.1 (v := 1) dX0_would_26 rfl ?_
  exact r_iret C hS hmc hr dX0_would_27 hw
theorem kX0_wouldb0 (C : xC G p l s m args meth c cX0_would 7 "ExcuseLedgerLaw") (hr : meth.sig.returnType = (Option.some Jvm.ClassFile.FieldType.int)) (hin : meth.name = "would") (hT : c.exceptionTable.toList = tableOf [((0 : Nat), (21 : Nat), (24 : Nat), (13 : Nat)), ((0 : Nat), (21 : Nat), (28 : Nat), (15 : Nat)), ((0 : Nat), (21 : Nat), (32 : Nat), (47 : Nat))]) (hmc : mc = gL G - s.heap.size ∧ ms = gU G - hsum s.heap)   {v0 : Option Nat} {v1 : Int32} {v2 : Int32} {v3 : Int32} {v4 : Int32} {v5 : Option Nat} {z : hSt} (hw : wX0_wouldb0 G P PX  v0 v1 v2 v3 v4 v5 z) : kt G p l e (rmX0_would mc ms) s m args below meth c 7 (vx_MQ below (cQ G (pI P)) (cX G PX) args s mc ms (gF G)) 0 [(0, va_rf v0), (1, .int v1), (2, .int v2), (3, .int v3), (4, .int v4), (5, va_rf v5)] [] z := by
  intro H locs ls hS hl
  refine r_aload C.1 C.2.1 dX0_would_0 (lv_at hl 5 rfl) ?_
  refine lv_iconst C.1 C.2.1 (v := 0) dX0_would_2 rfl ?_
  refine r_aload_n C.1 C.2.1 dX0_would_3 rfl (lv_at hl 0 rfl) ?_
  refine lv_iload_n C.1 C.2.1 dX0_would_4 rfl (lv_at hl 1 rfl) ?_
  refine lv_iload_n C.1 C.2.1 dX0_would_5 rfl (lv_at hl 2 rfl) ?_
  refine lv_iload_n C.1 C.2.1 dX0_would_6 rfl (lv_at hl 3 rfl) ?_
  refine lv_iload C.1 C.2.1 dX0_would_7 (lv_at hl 4 rfl) ?_
  refine c_V C hS hmc hl.1 (ci := 0) rfl hw.1 (kX1_would C.2.2.2.2.2.2.1) hw.2 (lw_V q2581 q2582 q2583 q67 q2584) ⟨rfl, hdX1_would⟩ ⟨Nat.le_of_ble_eq_true rfl, Nat.le_of_ble_eq_true rfl⟩ (rest := [.int 0, va_rf v5]) rfl rfl (Nat.le_of_ble_eq_true rfl) dX0_would_9 (fun c3 e2 z1 H locs hx hS ht => ?_) (fun v z4 H locs hv hS => ?_)
  · rcases hx with ⟨rfl, hw⟩ | ⟨rfl, hw⟩ | ⟨rfl, hw⟩ | ⟨h9, hx⟩
    · refine r_catch C [(⟨0, 21, 24, 13⟩ : ExceptionTableEntry), (⟨0, 21, 28, 15⟩ : ExceptionTableEntry)] (⟨0, 21, 32, 47⟩ : ExceptionTableEntry) [] (by rw [hT]; rfl) (ci := 28) rfl (List.forall_mem_cons.mpr ⟨Or.inr ⟨by decide, _, q2357, by decide +kernel⟩, List.forall_mem_cons.mpr ⟨Or.inr ⟨by decide, _, q2376, by decide +kernel⟩, fun _ h => absurd h List.not_mem_nil⟩⟩) (by decide) (by decide) q2483 q716 ht ?_
      exact kX0_wouldb32 C hr hin hT hmc  hw H locs ls hS (lv_sub hl [] rfl)
    · refine r_catch C [(⟨0, 21, 24, 13⟩ : ExceptionTableEntry)] (⟨0, 21, 28, 15⟩ : ExceptionTableEntry) [(⟨0, 21, 32, 47⟩ : ExceptionTableEntry)] (by rw [hT]; rfl) (ci := 29) rfl (List.forall_mem_cons.mpr ⟨Or.inr ⟨by decide, _, q2357, by decide +kernel⟩, fun _ h => absurd h List.not_mem_nil⟩) (by decide) (by decide) q2376 q999 ht ?_
      exact kX0_wouldb28 C hr hin hT hmc  hw H locs ls hS (lv_sub hl [] rfl)
    · refine r_catch C [] (⟨0, 21, 24, 13⟩ : ExceptionTableEntry) [(⟨0, 21, 28, 15⟩ : ExceptionTableEntry), (⟨0, 21, 32, 47⟩ : ExceptionTableEntry)] (by rw [hT]; rfl) (ci := 32) rfl (fun _ h => absurd h List.not_mem_nil) (by decide) (by decide) q2357 q2388 ht ?_
      exact kX0_wouldb24 C hr hin hT hmc  hw H locs ls hS (lv_sub hl [] rfl)
    · simp only [List.mem_cons, List.not_mem_nil, or_false] at h9
      rcases h9 with rfl | rfl | rfl | rfl | rfl
      · exact r_pass C hS hmc rfl (by rw [hT]; exact List.forall_mem_cons.mpr ⟨Or.inr ⟨by decide, _, q2357, by decide +kernel⟩, List.forall_mem_cons.mpr ⟨Or.inr ⟨by decide, _, q2376, by decide +kernel⟩, List.forall_mem_cons.mpr ⟨Or.inr ⟨by decide, _, q2483, by decide +kernel⟩, fun _ h => absurd h List.not_mem_nil⟩⟩⟩) ht hx
      · exact r_pass C hS hmc rfl (by rw [hT]; exact List.forall_mem_cons.mpr ⟨Or.inr ⟨by decide, _, q2357, by decide +kernel⟩, List.forall_mem_cons.mpr ⟨Or.inr ⟨by decide, _, q2376, by decide +kernel⟩, List.forall_mem_cons.mpr ⟨Or.inr ⟨by decide, _, q2483, by decide +kernel⟩, fun _ h => absurd h List.not_mem_nil⟩⟩⟩) ht hx
      · exact r_pass C hS hmc rfl (by rw [hT]; exact List.forall_mem_cons.mpr ⟨Or.inr ⟨by decide, _, q2357, by decide +kernel⟩, List.forall_mem_cons.mpr ⟨Or.inr ⟨by decide, _, q2376, by decide +kernel⟩, List.forall_mem_cons.mpr ⟨Or.inr ⟨by decide, _, q2483, by decide +kernel⟩, fun _ h => absurd h List.not_mem_nil⟩⟩⟩) ht hx
      · exact r_pass C hS hmc rfl (by rw [hT]; exact List.forall_mem_cons.mpr ⟨Or.inr ⟨by decide, _, q2357, by decide +kernel⟩, List.forall_mem_cons.mpr ⟨Or.inr ⟨by decide, _, q2376, by decide +kernel⟩, List.forall_mem_cons.mpr ⟨Or.inr ⟨by decide, _, q2483, by decide +kernel⟩, fun _ h => absurd h List.not_mem_nil⟩⟩⟩) ht hx
      · exact r_pass C hS hmc rfl (by rw [hT]; exact List.forall_mem_cons.mpr ⟨Or.inr ⟨by decide, _, q2357, by decide +kernel⟩, List.forall_mem_cons.mpr ⟨Or.inr ⟨by decide, _, q2376, by decide +kernel⟩, List.forall_mem_cons.mpr ⟨Or.inr ⟨by decide, _, q2483, by decide +kernel⟩, fun _ h => absurd h List.not_mem_nil⟩⟩⟩) ht hx
  · obtain ⟨x5, rfl, hw⟩ := hv
    refine lv_if_eq C.1 C.2.1 dX0_would_12 rfl (fun h => ?_) (fun h => ?_)
    · have hw := hw.1 h
      refine lv_lconst C.1 C.2.1 (v := 0) dX0_would_19 rfl ?_
      exact kX0_wouldb20 C hr hin hT hmc  hw H locs ls hS (lv_sub hl [] rfl)
    · have hw := hw.2 h
      refine lv_lconst C.1 C.2.1 (v := 1) dX0_would_15 rfl ?_
      refine lv_goto C.1 C.2.1 dX0_would_16 rfl ?_
      exact kX0_wouldb20 C hr hin hT hmc  hw H locs ls hS (lv_sub hl [] rfl)
end
theorem kX0_would {l : Launch} (hl : l.stackTraces = false) {G : gE} {P : Int32 → hSt → Prop} {PX : Nat → Nat → hSt → Prop} {v0 : Option Nat} {v1 : Int32} {v2 : Int32} {v3 : Int32} {v4 : Int32} {v5 : Option Nat} {z : hSt} : cM l G yX0_would (wsW_ yX0_would cX0_would 7 (Option.some Jvm.ClassFile.FieldType.int) [((0 : Nat), (21 : Nat), (24 : Nat), (13 : Nat)), ((0 : Nat), (21 : Nat), (28 : Nat), (15 : Nat)), ((0 : Nat), (21 : Nat), (32 : Nat), (47 : Nat))]) 18 338 z [va_rf v0, .int v1, .int v2, .int v3, .int v4, va_rf v5] (wX0_would G P PX v0 v1 v2 v3 v4 v5 z) (pI P) PX := by
  refine m_ofH hl (plainFor_of_name (by decide)) (by rw [lg_sl1 (va_rf_cat _), lg_sl1 rfl, lg_sl1 rfl, lg_sl1 rfl, lg_sl1 rfl, lg_sl1 (va_rf_cat _)]; exact Nat.le_of_ble_eq_true rfl) ?_
  intro p e s m args below meth c C hr hin hT hmc hw
  rw [lv_args1 (va_rf_cat _), lv_args1 rfl, lv_args1 rfl, lv_args1 rfl, lv_args1 rfl, lv_args1 (va_rf_cat _)]
  intro H locs ls hS hl
  exact kX0_wouldb0 C hr hin hT hmc hw H locs ls hS (lv_sub hl [0, 1, 2, 3, 4, 5] rfl)
theorem hdX0_would : yX0_would.cls ≠ "java/lang/invoke/MethodHandle" ∧ yX0_would.cls ≠ "java/lang/invoke/VarHandle" ∧ (parseMethodDescriptor yX0_would.desc).map (fun d => d.parameters.length) = some 6 := ⟨by decide +kernel, by decide +kernel, by decide +kernel⟩
abbrev rmX0_believers (mc ms : Nat) : Room := { frames := 19, cells := mc, slots := ms, locals := 361 }
def wX0_believersb23 (G : gE) (P : Int32 → hSt → Prop) (PX : Nat → Nat → hSt → Prop)  (s0 : Option Nat) (z : hSt) : Prop :=
  P 3 z
def wX0_believersb19 (G : gE) (P : Int32 → hSt → Prop) (PX : Nat → Nat → hSt → Prop)  (s0 : Option Nat) (z : hSt) : Prop :=
  P 2 z
def wX0_believersb15 (G : gE) (P : Int32 → hSt → Prop) (PX : Nat → Nat → hSt → Prop)  (s0 : Option Nat) (z : hSt) : Prop :=
  P 1 z
def wX0_believersb0 (G : gE) (P : Int32 → hSt → Prop) (PX : Nat → Nat → hSt → Prop)  (v0 : Option Nat) (v1 : Int32) (v2 : Int32) (v3 : Int32) (v4 : Option Nat) (z : hSt) : Prop :=
  (rcv z v0 0 ∧ wX1_believers G (fun x5 z4 => asL G z4 v4 0 ((x5 : Int32).toInt64) (fun z6 => P 0 z6)) (fun c3 e2 z1 => (c3 = 28 ∧ wX0_believersb23 G P PX  (some e2) z1) ∨ (c3 = 29 ∧ wX0_believersb19 G P PX  (some e2) z1) ∨ (c3 = 32 ∧ wX0_believersb15 G P PX  (some e2) z1) ∨ (c3 ∈ ([8, 11, 30, 31, 33] : List Nat) ∧ PX c3 e2 z1)) v0 v1 v2 v3 z)
def wX0_believers (G : gE) (P : Int32 → hSt → Prop) (PX : Nat → Nat → hSt → Prop) (v0 : Option Nat) (v1 : Int32) (v2 : Int32) (v3 : Int32) (v4 : Option Nat) (z : hSt) : Prop := wX0_believersb0 G P PX v0 v1 v2 v3 v4 z
section
variable {p : Program} {l : Launch} {e : Env} {s : State} {m : MethodId} {args : Array Value} {below : List Frame} {meth : Method} {c : Code} {G : gE} {mc ms : Nat} {P : Int32 → hSt → Prop} {PX : Nat → Nat → hSt → Prop}
theorem kX0_believersb23 (C : xC G p l s m args meth c cX0_believers 6 "ExcuseLedgerLaw") (hr : meth.sig.returnType = (Option.some Jvm.ClassFile.FieldType.int)) (hin : meth.name = "believers") (hT : c.exceptionTable.toList = tableOf [((0 : Nat), (12 : Nat), (15 : Nat), (13 : Nat)), ((0 : Nat), (12 : Nat), (19 : Nat), (15 : Nat)), ((0 : Nat), (12 : Nat), (23 : Nat), (47 : Nat))]) (hmc : mc = gL G - s.heap.size ∧ ms = gU G - hsum s.heap)   {s0 : Option Nat} {z : hSt} (hw : wX0_believersb23 G P PX  s0 z) : kt G p l e (rmX0_believers mc ms) s m args below meth c 6 (vx_MQ below (cQ G (pI P)) (cX G PX) args s mc ms (gF G)) 23 [] [va_rf s0] z := by
  intro H locs ls hS hl
  refine r_astore C.1 C.2.1 dX0_believers_23 hl (Nat.le_of_ble_eq_true rfl) (ls_new ls_nil) (fun ls hl => ?_)
  refine lv_iconst C.1 C.2.1 (v := 3) dX0_believers_25 rfl ?_
  exact r_iret C hS hmc hr dX0_believers_26 hw
theorem kX0_believersb19 (C : xC G p l s m args meth c cX0_believers 6 "ExcuseLedgerLaw") (hr : meth.sig.returnType = (Option.some Jvm.ClassFile.FieldType.int)) (hin : meth.name = "believers") (hT : c.exceptionTable.toList = tableOf [((0 : Nat), (12 : Nat), (15 : Nat), (13 : Nat)), ((0 : Nat), (12 : Nat), (19 : Nat), (15 : Nat)), ((0 : Nat), (12 : Nat), (23 : Nat), (47 : Nat))]) (hmc : mc = gL G - s.heap.size ∧ ms = gU G - hsum s.heap)   {s0 : Option Nat} {z : hSt} (hw : wX0_believersb19 G P PX  s0 z) : kt G p l e (rmX0_believers mc ms) s m args below meth c 6 (vx_MQ below (cQ G (pI P)) (cX G PX) args s mc ms (gF G)) 19 [] [va_rf s0] z := by
  intro H locs ls hS hl
  refine r_astore C.1 C.2.1 dX0_believers_19 hl (Nat.le_of_ble_eq_true rfl) (ls_new ls_nil) (fun ls hl => ?_)
  refine lv_iconst C.1 C.2.1 (v := 2) dX0_believers_21 rfl ?_
  exact r_iret C hS hmc hr dX0_believers_22 hw
theorem kX0_believersb15 (C : xC G p l s m args meth c cX0_believers 6 "ExcuseLedgerLaw") (hr : meth.sig.returnType = (Option.some Jvm.ClassFile.FieldType.int)) (hin : meth.name = "believers") (hT : c.exceptionTable.toList = tableOf [((0 : Nat), (12 : Nat), (15 : Nat), (13 : Nat)), ((0 : Nat), (12 : Nat), (19 : Nat), (15 : Nat)), ((0 : Nat), (12 : Nat), (23 : Nat), (47 : Nat))]) (hmc : mc = gL G - s.heap.size ∧ ms = gU G - hsum s.heap)   {s0 : Option Nat} {z : hSt} (hw : wX0_believersb15 G P PX  s0 z) : kt G p l e (rmX0_believers mc ms) s m args below meth c 6 (vx_MQ below (cQ G (pI P)) (cX G PX) args s mc ms (gF G)) 15 [] [va_rf s0] z := by
  intro H locs ls hS hl
  refine r_astore C.1 C.2.1 dX0_believers_15 hl (Nat.le_of_ble_eq_true rfl) (ls_new ls_nil) (fun ls hl => ?_)
  refine lv_iconst C.1 C.2.1 (v := 1) dX0_believers_17 rfl ?_
  exact r_iret C hS hmc hr dX0_believers_18 hw
theorem kX0_believersb0 (C : xC G p l s m args meth c cX0_believers 6 "ExcuseLedgerLaw") (hr : meth.sig.returnType = (Option.some Jvm.ClassFile.FieldType.int)) (hin : meth.name = "believers") (hT : c.exceptionTable.toList = tableOf [((0 : Nat), (12 : Nat), (15 : Nat), (13 : Nat)), ((0 : Nat), (12 : Nat), (19 : Nat), (15 : Nat)), ((0 : Nat), (12 : Nat), (23 : Nat), (47 : Nat))]) (hmc : mc = gL G - s.heap.size ∧ ms = gU G - hsum s.heap)   {v0 : Option Nat} {v1 : Int32} {v2 : Int32} {v3 : Int32} {v4 : Option Nat} {z : hSt} (hw : wX0_believersb0 G P PX  v0 v1 v2 v3 v4 z) : kt G p l e (rmX0_believers mc ms) s m args below meth c 6 (vx_MQ below (cQ G (pI P)) (cX G PX) args s mc ms (gF G)) 0 [(0, va_rf v0), (1, .int v1), (2, .int v2), (3, .int v3), (4, va_rf v4)] [] z := by
  intro H locs ls hS hl
  refine r_aload C.1 C.2.1 dX0_believers_0 (lv_at hl 4 rfl) ?_
  refine lv_iconst C.1 C.2.1 (v := 0) dX0_believers_2 rfl ?_
  refine r_aload_n C.1 C.2.1 dX0_believers_3 rfl (lv_at hl 0 rfl) ?_
  refine lv_iload_n C.1 C.2.1 dX0_believers_4 rfl (lv_at hl 1 rfl) ?_
  refine lv_iload_n C.1 C.2.1 dX0_believers_5 rfl (lv_at hl 2 rfl) ?_
  refine lv_iload_n C.1 C.2.1 dX0_believers_6 rfl (lv_at hl 3 rfl) ?_
  refine c_V C hS hmc hl.1 (ci := 0) rfl hw.1 (kX1_believers C.2.2.2.2.2.2.1) hw.2 (lw_V q2589 q2590 q2591 q67 q2592) ⟨rfl, hdX1_believers⟩ ⟨Nat.le_of_ble_eq_true rfl, Nat.le_of_ble_eq_true rfl⟩ (rest := [.int 0, va_rf v4]) rfl rfl (Nat.le_of_ble_eq_true rfl) dX0_believers_7 (fun c3 e2 z1 H locs hx hS ht => ?_) (fun v z4 H locs hv hS => ?_)
  · rcases hx with ⟨rfl, hw⟩ | ⟨rfl, hw⟩ | ⟨rfl, hw⟩ | ⟨h9, hx⟩
    · refine r_catch C [(⟨0, 12, 15, 13⟩ : ExceptionTableEntry), (⟨0, 12, 19, 15⟩ : ExceptionTableEntry)] (⟨0, 12, 23, 47⟩ : ExceptionTableEntry) [] (by rw [hT]; rfl) (ci := 28) rfl (List.forall_mem_cons.mpr ⟨Or.inr ⟨by decide, _, q2357, by decide +kernel⟩, List.forall_mem_cons.mpr ⟨Or.inr ⟨by decide, _, q2376, by decide +kernel⟩, fun _ h => absurd h List.not_mem_nil⟩⟩) (by decide) (by decide) q2483 q716 ht ?_
      exact kX0_believersb23 C hr hin hT hmc  hw H locs ls hS (lv_sub hl [] rfl)
    · refine r_catch C [(⟨0, 12, 15, 13⟩ : ExceptionTableEntry)] (⟨0, 12, 19, 15⟩ : ExceptionTableEntry) [(⟨0, 12, 23, 47⟩ : ExceptionTableEntry)] (by rw [hT]; rfl) (ci := 29) rfl (List.forall_mem_cons.mpr ⟨Or.inr ⟨by decide, _, q2357, by decide +kernel⟩, fun _ h => absurd h List.not_mem_nil⟩) (by decide) (by decide) q2376 q999 ht ?_
      exact kX0_believersb19 C hr hin hT hmc  hw H locs ls hS (lv_sub hl [] rfl)
    · refine r_catch C [] (⟨0, 12, 15, 13⟩ : ExceptionTableEntry) [(⟨0, 12, 19, 15⟩ : ExceptionTableEntry), (⟨0, 12, 23, 47⟩ : ExceptionTableEntry)] (by rw [hT]; rfl) (ci := 32) rfl (fun _ h => absurd h List.not_mem_nil) (by decide) (by decide) q2357 q2388 ht ?_
      exact kX0_believersb15 C hr hin hT hmc  hw H locs ls hS (lv_sub hl [] rfl)
    · simp only [List.mem_cons, List.not_mem_nil, or_false] at h9
      rcases h9 with rfl | rfl | rfl | rfl | rfl
      · exact r_pass C hS hmc rfl (by rw [hT]; exact List.forall_mem_cons.mpr ⟨Or.inr ⟨by decide, _, q2357, by decide +kernel⟩, List.forall_mem_cons.mpr ⟨Or.inr ⟨by decide, _, q2376, by decide +kernel⟩, List.forall_mem_cons.mpr ⟨Or.inr ⟨by decide, _, q2483, by decide +kernel⟩, fun _ h => absurd h List.not_mem_nil⟩⟩⟩) ht hx
      · exact r_pass C hS hmc rfl (by rw [hT]; exact List.forall_mem_cons.mpr ⟨Or.inr ⟨by decide, _, q2357, by decide +kernel⟩, List.forall_mem_cons.mpr ⟨Or.inr ⟨by decide, _, q2376, by decide +kernel⟩, List.forall_mem_cons.mpr ⟨Or.inr ⟨by decide, _, q2483, by decide +kernel⟩, fun _ h => absurd h List.not_mem_nil⟩⟩⟩) ht hx
      · exact r_pass C hS hmc rfl (by rw [hT]; exact List.forall_mem_cons.mpr ⟨Or.inr ⟨by decide, _, q2357, by decide +kernel⟩, List.forall_mem_cons.mpr ⟨Or.inr ⟨by decide, _, q2376, by decide +kernel⟩, List.forall_mem_cons.mpr ⟨Or.inr ⟨by decide, _, q2483, by decide +kernel⟩, fun _ h => absurd h List.not_mem_nil⟩⟩⟩) ht hx
      · exact r_pass C hS hmc rfl (by rw [hT]; exact List.forall_mem_cons.mpr ⟨Or.inr ⟨by decide, _, q2357, by decide +kernel⟩, List.forall_mem_cons.mpr ⟨Or.inr ⟨by decide, _, q2376, by decide +kernel⟩, List.forall_mem_cons.mpr ⟨Or.inr ⟨by decide, _, q2483, by decide +kernel⟩, fun _ h => absurd h List.not_mem_nil⟩⟩⟩) ht hx
      · exact r_pass C hS hmc rfl (by rw [hT]; exact List.forall_mem_cons.mpr ⟨Or.inr ⟨by decide, _, q2357, by decide +kernel⟩, List.forall_mem_cons.mpr ⟨Or.inr ⟨by decide, _, q2376, by decide +kernel⟩, List.forall_mem_cons.mpr ⟨Or.inr ⟨by decide, _, q2483, by decide +kernel⟩, fun _ h => absurd h List.not_mem_nil⟩⟩⟩) ht hx
  · obtain ⟨x5, rfl, hw⟩ := hv
    refine lv_i2l C.1 C.2.1 dX0_believers_10 rfl ?_
    refine r_last C hS dX0_believers_11 hw (fun z6 H locs hw hS => ?_)
    refine lv_goto C.1 C.2.1 dX0_believers_12 rfl ?_
    refine lv_iconst C.1 C.2.1 (v := 0) dX0_believers_27 rfl ?_
    exact r_iret C hS hmc hr dX0_believers_28 hw
end
theorem kX0_believers {l : Launch} (hl : l.stackTraces = false) {G : gE} {P : Int32 → hSt → Prop} {PX : Nat → Nat → hSt → Prop} {v0 : Option Nat} {v1 : Int32} {v2 : Int32} {v3 : Int32} {v4 : Option Nat} {z : hSt} : cM l G yX0_believers (wsW_ yX0_believers cX0_believers 6 (Option.some Jvm.ClassFile.FieldType.int) [((0 : Nat), (12 : Nat), (15 : Nat), (13 : Nat)), ((0 : Nat), (12 : Nat), (19 : Nat), (15 : Nat)), ((0 : Nat), (12 : Nat), (23 : Nat), (47 : Nat))]) 19 361 z [va_rf v0, .int v1, .int v2, .int v3, va_rf v4] (wX0_believers G P PX v0 v1 v2 v3 v4 z) (pI P) PX := by
  refine m_ofH hl (plainFor_of_name (by decide)) (by rw [lg_sl1 (va_rf_cat _), lg_sl1 rfl, lg_sl1 rfl, lg_sl1 rfl, lg_sl1 (va_rf_cat _)]; exact Nat.le_of_ble_eq_true rfl) ?_
  intro p e s m args below meth c C hr hin hT hmc hw
  rw [lv_args1 (va_rf_cat _), lv_args1 rfl, lv_args1 rfl, lv_args1 rfl, lv_args1 (va_rf_cat _)]
  intro H locs ls hS hl
  exact kX0_believersb0 C hr hin hT hmc hw H locs ls hS (lv_sub hl [0, 1, 2, 3, 4] rfl)
theorem hdX0_believers : yX0_believers.cls ≠ "java/lang/invoke/MethodHandle" ∧ yX0_believers.cls ≠ "java/lang/invoke/VarHandle" ∧ (parseMethodDescriptor yX0_believers.desc).map (fun d => d.parameters.length) = some 5 := ⟨by decide +kernel, by decide +kernel, by decide +kernel⟩
abbrev rmX0_left (mc ms : Nat) : Room := { frames := 19, cells := mc, slots := ms, locals := 360 }
def wX0_leftb12 (G : gE) (P : Int32 → hSt → Prop) (PX : Nat → Nat → hSt → Prop)  (s0 : Option Nat) (z : hSt) : Prop :=
  P 1 z
def wX0_leftb0 (G : gE) (P : Int32 → hSt → Prop) (PX : Nat → Nat → hSt → Prop)  (v0 : Option Nat) (v1 : Int32) (v2 : Option Nat) (z : hSt) : Prop :=
  (rcv z v0 0 ∧ wX1_left G (fun x5 z4 => asL G z4 v2 0 ((x5 : Int32).toInt64) (fun z6 => P 0 z6)) (fun c3 e2 z1 => (c3 = 32 ∧ wX0_leftb12 G P PX  (some e2) z1) ∨ (c3 ∈ ([8, 11, 28, 29, 30, 31, 33] : List Nat) ∧ PX c3 e2 z1)) v0 v1 z)
def wX0_left (G : gE) (P : Int32 → hSt → Prop) (PX : Nat → Nat → hSt → Prop) (v0 : Option Nat) (v1 : Int32) (v2 : Option Nat) (z : hSt) : Prop := wX0_leftb0 G P PX v0 v1 v2 z
section
variable {p : Program} {l : Launch} {e : Env} {s : State} {m : MethodId} {args : Array Value} {below : List Frame} {meth : Method} {c : Code} {G : gE} {mc ms : Nat} {P : Int32 → hSt → Prop} {PX : Nat → Nat → hSt → Prop}
theorem kX0_leftb12 (C : xC G p l s m args meth c cX0_left 4 "ExcuseLedgerLaw") (hr : meth.sig.returnType = (Option.some Jvm.ClassFile.FieldType.int)) (hin : meth.name = "left") (hT : c.exceptionTable.toList = tableOf [((0 : Nat), (9 : Nat), (12 : Nat), (13 : Nat))]) (hmc : mc = gL G - s.heap.size ∧ ms = gU G - hsum s.heap)   {s0 : Option Nat} {z : hSt} (hw : wX0_leftb12 G P PX  s0 z) : kt G p l e (rmX0_left mc ms) s m args below meth c 4 (vx_MQ below (cQ G (pI P)) (cX G PX) args s mc ms (gF G)) 12 [] [va_rf s0] z := by
  intro H locs ls hS hl
  refine r_astore_n C.1 C.2.1 dX0_left_12 rfl hl (Nat.le_of_ble_eq_true rfl) (ls_new ls_nil) (fun ls hl => ?_)
  refine lv_iconst C.1 C.2.1 (v := 1) dX0_left_13 rfl ?_
  exact r_iret C hS hmc hr dX0_left_14 hw
theorem kX0_leftb0 (C : xC G p l s m args meth c cX0_left 4 "ExcuseLedgerLaw") (hr : meth.sig.returnType = (Option.some Jvm.ClassFile.FieldType.int)) (hin : meth.name = "left") (hT : c.exceptionTable.toList = tableOf [((0 : Nat), (9 : Nat), (12 : Nat), (13 : Nat))]) (hmc : mc = gL G - s.heap.size ∧ ms = gU G - hsum s.heap)   {v0 : Option Nat} {v1 : Int32} {v2 : Option Nat} {z : hSt} (hw : wX0_leftb0 G P PX  v0 v1 v2 z) : kt G p l e (rmX0_left mc ms) s m args below meth c 4 (vx_MQ below (cQ G (pI P)) (cX G PX) args s mc ms (gF G)) 0 [(0, va_rf v0), (1, .int v1), (2, va_rf v2)] [] z := by
  intro H locs ls hS hl
  refine r_aload_n C.1 C.2.1 dX0_left_0 rfl (lv_at hl 2 rfl) ?_
  refine lv_iconst C.1 C.2.1 (v := 0) dX0_left_1 rfl ?_
  refine r_aload_n C.1 C.2.1 dX0_left_2 rfl (lv_at hl 0 rfl) ?_
  refine lv_iload_n C.1 C.2.1 dX0_left_3 rfl (lv_at hl 1 rfl) ?_
  refine c_V C hS hmc hl.1 (ci := 0) rfl hw.1 (kX1_left C.2.2.2.2.2.2.1) hw.2 (lw_V q2597 q2598 q2599 q67 q2600) ⟨rfl, hdX1_left⟩ ⟨Nat.le_of_ble_eq_true rfl, Nat.le_of_ble_eq_true rfl⟩ (rest := [.int 0, va_rf v2]) rfl rfl (Nat.le_of_ble_eq_true rfl) dX0_left_4 (fun c3 e2 z1 H locs hx hS ht => ?_) (fun v z4 H locs hv hS => ?_)
  · rcases hx with ⟨rfl, hw⟩ | ⟨h9, hx⟩
    · refine r_catch C [] (⟨0, 9, 12, 13⟩ : ExceptionTableEntry) [] (by rw [hT]; rfl) (ci := 32) rfl (fun _ h => absurd h List.not_mem_nil) (by decide) (by decide) q2357 q2388 ht ?_
      exact kX0_leftb12 C hr hin hT hmc  hw H locs ls hS (lv_sub hl [] rfl)
    · simp only [List.mem_cons, List.not_mem_nil, or_false] at h9
      rcases h9 with rfl | rfl | rfl | rfl | rfl | rfl | rfl
      · exact r_pass C hS hmc rfl (by rw [hT]; exact List.forall_mem_cons.mpr ⟨Or.inr ⟨by decide, _, q2357, by decide +kernel⟩, fun _ h => absurd h List.not_mem_nil⟩) ht hx
      · exact r_pass C hS hmc rfl (by rw [hT]; exact List.forall_mem_cons.mpr ⟨Or.inr ⟨by decide, _, q2357, by decide +kernel⟩, fun _ h => absurd h List.not_mem_nil⟩) ht hx
      · exact r_pass C hS hmc rfl (by rw [hT]; exact List.forall_mem_cons.mpr ⟨Or.inr ⟨by decide, _, q2357, by decide +kernel⟩, fun _ h => absurd h List.not_mem_nil⟩) ht hx
      · exact r_pass C hS hmc rfl (by rw [hT]; exact List.forall_mem_cons.mpr ⟨Or.inr ⟨by decide, _, q2357, by decide +kernel⟩, fun _ h => absurd h List.not_mem_nil⟩) ht hx
      · exact r_pass C hS hmc rfl (by rw [hT]; exact List.forall_mem_cons.mpr ⟨Or.inr ⟨by decide, _, q2357, by decide +kernel⟩, fun _ h => absurd h List.not_mem_nil⟩) ht hx
      · exact r_pass C hS hmc rfl (by rw [hT]; exact List.forall_mem_cons.mpr ⟨Or.inr ⟨by decide, _, q2357, by decide +kernel⟩, fun _ h => absurd h List.not_mem_nil⟩) ht hx
      · exact r_pass C hS hmc rfl (by rw [hT]; exact List.forall_mem_cons.mpr ⟨Or.inr ⟨by decide, _, q2357, by decide +kernel⟩, fun _ h => absurd h List.not_mem_nil⟩) ht hx
  · obtain ⟨x5, rfl, hw⟩ := hv
    refine lv_i2l C.1 C.2.1 dX0_left_7 rfl ?_
    refine r_last C hS dX0_left_8 hw (fun z6 H locs hw hS => ?_)
    refine lv_goto C.1 C.2.1 dX0_left_9 rfl ?_
    refine lv_iconst C.1 C.2.1 (v := 0) dX0_left_15 rfl ?_
    exact r_iret C hS hmc hr dX0_left_16 hw
end
theorem kX0_left {l : Launch} (hl : l.stackTraces = false) {G : gE} {P : Int32 → hSt → Prop} {PX : Nat → Nat → hSt → Prop} {v0 : Option Nat} {v1 : Int32} {v2 : Option Nat} {z : hSt} : cM l G yX0_left (wsW_ yX0_left cX0_left 4 (Option.some Jvm.ClassFile.FieldType.int) [((0 : Nat), (9 : Nat), (12 : Nat), (13 : Nat))]) 19 360 z [va_rf v0, .int v1, va_rf v2] (wX0_left G P PX v0 v1 v2 z) (pI P) PX := by
  refine m_ofH hl (plainFor_of_name (by decide)) (by rw [lg_sl1 (va_rf_cat _), lg_sl1 rfl, lg_sl1 (va_rf_cat _)]; exact Nat.le_of_ble_eq_true rfl) ?_
  intro p e s m args below meth c C hr hin hT hmc hw
  rw [lv_args1 (va_rf_cat _), lv_args1 rfl, lv_args1 (va_rf_cat _)]
  intro H locs ls hS hl
  exact kX0_leftb0 C hr hin hT hmc hw H locs ls hS (lv_sub hl [0, 1, 2] rfl)
theorem hdX0_left : yX0_left.cls ≠ "java/lang/invoke/MethodHandle" ∧ yX0_left.cls ≠ "java/lang/invoke/VarHandle" ∧ (parseMethodDescriptor yX0_left.desc).map (fun d => d.parameters.length) = some 3 := ⟨by decide +kernel, by decide +kernel, by decide +kernel⟩
abbrev rmX0_leftAgain (mc ms : Nat) : Room := { frames := 17, cells := mc, slots := ms, locals := 315 }
def wX0_leftAgainb12 (G : gE) (P : Int32 → hSt → Prop) (PX : Nat → Nat → hSt → Prop)  (s0 : Option Nat) (z : hSt) : Prop :=
  P 1 z
def wX0_leftAgainb0 (G : gE) (P : Int32 → hSt → Prop) (PX : Nat → Nat → hSt → Prop)  (v0 : Option Nat) (v1 : Int32) (v2 : Option Nat) (z : hSt) : Prop :=
  (rcv z v0 0 ∧ wX1_leftAgain G (fun x5 z4 => asL G z4 v2 0 ((x5 : Int32).toInt64) (fun z6 => P 0 z6)) (fun c3 e2 z1 => (c3 = 32 ∧ wX0_leftAgainb12 G P PX  (some e2) z1) ∨ (c3 ∈ ([8, 11, 28, 29, 30, 31, 33] : List Nat) ∧ PX c3 e2 z1)) v0 v1 z)
def wX0_leftAgain (G : gE) (P : Int32 → hSt → Prop) (PX : Nat → Nat → hSt → Prop) (v0 : Option Nat) (v1 : Int32) (v2 : Option Nat) (z : hSt) : Prop := wX0_leftAgainb0 G P PX v0 v1 v2 z
section
variable {p : Program} {l : Launch} {e : Env} {s : State} {m : MethodId} {args : Array Value} {below : List Frame} {meth : Method} {c : Code} {G : gE} {mc ms : Nat} {P : Int32 → hSt → Prop} {PX : Nat → Nat → hSt → Prop}
theorem kX0_leftAgainb12 (C : xC G p l s m args meth c cX0_leftAgain 4 "ExcuseLedgerLaw") (hr : meth.sig.returnType = (Option.some Jvm.ClassFile.FieldType.int)) (hin : meth.name = "leftAgain") (hT : c.exceptionTable.toList = tableOf [((0 : Nat), (9 : Nat), (12 : Nat), (13 : Nat))]) (hmc : mc = gL G - s.heap.size ∧ ms = gU G - hsum s.heap)   {s0 : Option Nat} {z : hSt} (hw : wX0_leftAgainb12 G P PX  s0 z) : kt G p l e (rmX0_leftAgain mc ms) s m args below meth c 4 (vx_MQ below (cQ G (pI P)) (cX G PX) args s mc ms (gF G)) 12 [] [va_rf s0] z := by
  intro H locs ls hS hl
  refine r_astore_n C.1 C.2.1 dX0_leftAgain_12 rfl hl (Nat.le_of_ble_eq_true rfl) (ls_new ls_nil) (fun ls hl => ?_)
  refine lv_iconst C.1 C.2.1 (v := 1) dX0_leftAgain_13 rfl ?_
  exact r_iret C hS hmc hr dX0_leftAgain_14 hw
theorem kX0_leftAgainb0 (C : xC G p l s m args meth c cX0_leftAgain 4 "ExcuseLedgerLaw") (hr : meth.sig.returnType = (Option.some Jvm.ClassFile.FieldType.int)) (hin : meth.name = "leftAgain") (hT : c.exceptionTable.toList = tableOf [((0 : Nat), (9 : Nat), (12 : Nat), (13 : Nat))]) (hmc : mc = gL G - s.heap.size ∧ ms = gU G - hsum s.heap)   {v0 : Option Nat} {v1 : Int32} {v2 : Option Nat} {z : hSt} (hw : wX0_leftAgainb0 G P PX  v0 v1 v2 z) : kt G p l e (rmX0_leftAgain mc ms) s m args below meth c 4 (vx_MQ below (cQ G (pI P)) (cX G PX) args s mc ms (gF G)) 0 [(0, va_rf v0), (1, .int v1), (2, va_rf v2)] [] z := by
  intro H locs ls hS hl
  refine r_aload_n C.1 C.2.1 dX0_leftAgain_0 rfl (lv_at hl 2 rfl) ?_
  refine lv_iconst C.1 C.2.1 (v := 0) dX0_leftAgain_1 rfl ?_
  refine r_aload_n C.1 C.2.1 dX0_leftAgain_2 rfl (lv_at hl 0 rfl) ?_
  refine lv_iload_n C.1 C.2.1 dX0_leftAgain_3 rfl (lv_at hl 1 rfl) ?_
  refine c_V C hS hmc hl.1 (ci := 0) rfl hw.1 (kX1_leftAgain C.2.2.2.2.2.2.1) hw.2 (lw_V q2605 q2606 q2607 q67 q2608) ⟨rfl, hdX1_leftAgain⟩ ⟨Nat.le_of_ble_eq_true rfl, Nat.le_of_ble_eq_true rfl⟩ (rest := [.int 0, va_rf v2]) rfl rfl (Nat.le_of_ble_eq_true rfl) dX0_leftAgain_4 (fun c3 e2 z1 H locs hx hS ht => ?_) (fun v z4 H locs hv hS => ?_)
  · rcases hx with ⟨rfl, hw⟩ | ⟨h9, hx⟩
    · refine r_catch C [] (⟨0, 9, 12, 13⟩ : ExceptionTableEntry) [] (by rw [hT]; rfl) (ci := 32) rfl (fun _ h => absurd h List.not_mem_nil) (by decide) (by decide) q2357 q2388 ht ?_
      exact kX0_leftAgainb12 C hr hin hT hmc  hw H locs ls hS (lv_sub hl [] rfl)
    · simp only [List.mem_cons, List.not_mem_nil, or_false] at h9
      rcases h9 with rfl | rfl | rfl | rfl | rfl | rfl | rfl
      · exact r_pass C hS hmc rfl (by rw [hT]; exact List.forall_mem_cons.mpr ⟨Or.inr ⟨by decide, _, q2357, by decide +kernel⟩, fun _ h => absurd h List.not_mem_nil⟩) ht hx
      · exact r_pass C hS hmc rfl (by rw [hT]; exact List.forall_mem_cons.mpr ⟨Or.inr ⟨by decide, _, q2357, by decide +kernel⟩, fun _ h => absurd h List.not_mem_nil⟩) ht hx
      · exact r_pass C hS hmc rfl (by rw [hT]; exact List.forall_mem_cons.mpr ⟨Or.inr ⟨by decide, _, q2357, by decide +kernel⟩, fun _ h => absurd h List.not_mem_nil⟩) ht hx
      · exact r_pass C hS hmc rfl (by rw [hT]; exact List.forall_mem_cons.mpr ⟨Or.inr ⟨by decide, _, q2357, by decide +kernel⟩, fun _ h => absurd h List.not_mem_nil⟩) ht hx
      · exact r_pass C hS hmc rfl (by rw [hT]; exact List.forall_mem_cons.mpr ⟨Or.inr ⟨by decide, _, q2357, by decide +kernel⟩, fun _ h => absurd h List.not_mem_nil⟩) ht hx
      · exact r_pass C hS hmc rfl (by rw [hT]; exact List.forall_mem_cons.mpr ⟨Or.inr ⟨by decide, _, q2357, by decide +kernel⟩, fun _ h => absurd h List.not_mem_nil⟩) ht hx
      · exact r_pass C hS hmc rfl (by rw [hT]; exact List.forall_mem_cons.mpr ⟨Or.inr ⟨by decide, _, q2357, by decide +kernel⟩, fun _ h => absurd h List.not_mem_nil⟩) ht hx
  · obtain ⟨x5, rfl, hw⟩ := hv
    refine lv_i2l C.1 C.2.1 dX0_leftAgain_7 rfl ?_
    refine r_last C hS dX0_leftAgain_8 hw (fun z6 H locs hw hS => ?_)
    refine lv_goto C.1 C.2.1 dX0_leftAgain_9 rfl ?_
    refine lv_iconst C.1 C.2.1 (v := 0) dX0_leftAgain_15 rfl ?_
    exact r_iret C hS hmc hr dX0_leftAgain_16 hw
end
theorem kX0_leftAgain {l : Launch} (hl : l.stackTraces = false) {G : gE} {P : Int32 → hSt → Prop} {PX : Nat → Nat → hSt → Prop} {v0 : Option Nat} {v1 : Int32} {v2 : Option Nat} {z : hSt} : cM l G yX0_leftAgain (wsW_ yX0_leftAgain cX0_leftAgain 4 (Option.some Jvm.ClassFile.FieldType.int) [((0 : Nat), (9 : Nat), (12 : Nat), (13 : Nat))]) 17 315 z [va_rf v0, .int v1, va_rf v2] (wX0_leftAgain G P PX v0 v1 v2 z) (pI P) PX := by
  refine m_ofH hl (plainFor_of_name (by decide)) (by rw [lg_sl1 (va_rf_cat _), lg_sl1 rfl, lg_sl1 (va_rf_cat _)]; exact Nat.le_of_ble_eq_true rfl) ?_
  intro p e s m args below meth c C hr hin hT hmc hw
  rw [lv_args1 (va_rf_cat _), lv_args1 rfl, lv_args1 (va_rf_cat _)]
  intro H locs ls hS hl
  exact kX0_leftAgainb0 C hr hin hT hmc hw H locs ls hS (lv_sub hl [0, 1, 2] rfl)
theorem hdX0_leftAgain : yX0_leftAgain.cls ≠ "java/lang/invoke/MethodHandle" ∧ yX0_leftAgain.cls ≠ "java/lang/invoke/VarHandle" ∧ (parseMethodDescriptor yX0_leftAgain.desc).map (fun d => d.parameters.length) = some 3 := ⟨by decide +kernel, by decide +kernel, by decide +kernel⟩
abbrev rmX0_best (mc ms : Nat) : Room := { frames := 20, cells := mc, slots := ms, locals := 383 }
def wX0_bestb17 (G : gE) (P : Int32 → hSt → Prop) (PX : Nat → Nat → hSt → Prop)  (s0 : Option Nat) (z : hSt) : Prop :=
  P 2 z
def wX0_bestb13 (G : gE) (P : Int32 → hSt → Prop) (PX : Nat → Nat → hSt → Prop)  (s0 : Option Nat) (z : hSt) : Prop :=
  P 1 z
def wX0_bestb0 (G : gE) (P : Int32 → hSt → Prop) (PX : Nat → Nat → hSt → Prop)  (v0 : Option Nat) (v1 : Int32) (v2 : Int32) (v3 : Option Nat) (z : hSt) : Prop :=
  (rcv z v0 0 ∧ wX1_best G (fun x5 z4 => asL G z4 v3 0 ((x5 : Int32).toInt64) (fun z6 => P 0 z6)) (fun c3 e2 z1 => (c3 = 28 ∧ wX0_bestb17 G P PX  (some e2) z1) ∨ (c3 = 32 ∧ wX0_bestb13 G P PX  (some e2) z1) ∨ (c3 ∈ ([8, 11, 29, 30, 31, 33] : List Nat) ∧ PX c3 e2 z1)) v0 v1 v2 z)
def wX0_best (G : gE) (P : Int32 → hSt → Prop) (PX : Nat → Nat → hSt → Prop) (v0 : Option Nat) (v1 : Int32) (v2 : Int32) (v3 : Option Nat) (z : hSt) : Prop := wX0_bestb0 G P PX v0 v1 v2 v3 z
section
variable {p : Program} {l : Launch} {e : Env} {s : State} {m : MethodId} {args : Array Value} {below : List Frame} {meth : Method} {c : Code} {G : gE} {mc ms : Nat} {P : Int32 → hSt → Prop} {PX : Nat → Nat → hSt → Prop}
theorem kX0_bestb17 (C : xC G p l s m args meth c cX0_best 5 "ExcuseLedgerLaw") (hr : meth.sig.returnType = (Option.some Jvm.ClassFile.FieldType.int)) (hin : meth.name = "best") (hT : c.exceptionTable.toList = tableOf [((0 : Nat), (10 : Nat), (13 : Nat), (13 : Nat)), ((0 : Nat), (10 : Nat), (17 : Nat), (47 : Nat))]) (hmc : mc = gL G - s.heap.size ∧ ms = gU G - hsum s.heap)   {s0 : Option Nat} {z : hSt} (hw : wX0_bestb17 G P PX  s0 z) : kt G p l e (rmX0_best mc ms) s m args below meth c 5 (vx_MQ below (cQ G (pI P)) (cX G PX) args s mc ms (gF G)) 17 [] [va_rf s0] z := by
  intro H locs ls hS hl
  refine r_astore C.1 C.2.1 dX0_best_17 hl (Nat.le_of_ble_eq_true rfl) (ls_new ls_nil) (fun ls hl => ?_)
  refine lv_iconst C.1 C.2.1 (v := 2) dX0_best_19 rfl ?_
  exact r_iret C hS hmc hr dX0_best_20 hw
theorem kX0_bestb13 (C : xC G p l s m args meth c cX0_best 5 "ExcuseLedgerLaw") (hr : meth.sig.returnType = (Option.some Jvm.ClassFile.FieldType.int)) (hin : meth.name = "best") (hT : c.exceptionTable.toList = tableOf [((0 : Nat), (10 : Nat), (13 : Nat), (13 : Nat)), ((0 : Nat), (10 : Nat), (17 : Nat), (47 : Nat))]) (hmc : mc = gL G - s.heap.size ∧ ms = gU G - hsum s.heap)   {s0 : Option Nat} {z : hSt} (hw : wX0_bestb13 G P PX  s0 z) : kt G p l e (rmX0_best mc ms) s m args below meth c 5 (vx_MQ below (cQ G (pI P)) (cX G PX) args s mc ms (gF G)) 13 [] [va_rf s0] z := by
  intro H locs ls hS hl
  refine r_astore C.1 C.2.1 dX0_best_13 hl (Nat.le_of_ble_eq_true rfl) (ls_new ls_nil) (fun ls hl => ?_)
  refine lv_iconst C.1 C.2.1 (v := 1) dX0_best_15 rfl ?_
  exact r_iret C hS hmc hr dX0_best_16 hw
theorem kX0_bestb0 (C : xC G p l s m args meth c cX0_best 5 "ExcuseLedgerLaw") (hr : meth.sig.returnType = (Option.some Jvm.ClassFile.FieldType.int)) (hin : meth.name = "best") (hT : c.exceptionTable.toList = tableOf [((0 : Nat), (10 : Nat), (13 : Nat), (13 : Nat)), ((0 : Nat), (10 : Nat), (17 : Nat), (47 : Nat))]) (hmc : mc = gL G - s.heap.size ∧ ms = gU G - hsum s.heap)   {v0 : Option Nat} {v1 : Int32} {v2 : Int32} {v3 : Option Nat} {z : hSt} (hw : wX0_bestb0 G P PX  v0 v1 v2 v3 z) : kt G p l e (rmX0_best mc ms) s m args below meth c 5 (vx_MQ below (cQ G (pI P)) (cX G PX) args s mc ms (gF G)) 0 [(0, va_rf v0), (1, .int v1), (2, .int v2), (3, va_rf v3)] [] z := by
  intro H locs ls hS hl
  refine r_aload_n C.1 C.2.1 dX0_best_0 rfl (lv_at hl 3 rfl) ?_
  refine lv_iconst C.1 C.2.1 (v := 0) dX0_best_1 rfl ?_
  refine r_aload_n C.1 C.2.1 dX0_best_2 rfl (lv_at hl 0 rfl) ?_
  refine lv_iload_n C.1 C.2.1 dX0_best_3 rfl (lv_at hl 1 rfl) ?_
  refine lv_iload_n C.1 C.2.1 dX0_best_4 rfl (lv_at hl 2 rfl) ?_
  refine c_V C hS hmc hl.1 (ci := 0) rfl hw.1 (kX1_best C.2.2.2.2.2.2.1) hw.2 (lw_V q2613 q2614 q2615 q67 q2616) ⟨rfl, hdX1_best⟩ ⟨Nat.le_of_ble_eq_true rfl, Nat.le_of_ble_eq_true rfl⟩ (rest := [.int 0, va_rf v3]) rfl rfl (Nat.le_of_ble_eq_true rfl) dX0_best_5 (fun c3 e2 z1 H locs hx hS ht => ?_) (fun v z4 H locs hv hS => ?_)
  · rcases hx with ⟨rfl, hw⟩ | ⟨rfl, hw⟩ | ⟨h9, hx⟩
    · refine r_catch C [(⟨0, 10, 13, 13⟩ : ExceptionTableEntry)] (⟨0, 10, 17, 47⟩ : ExceptionTableEntry) [] (by rw [hT]; rfl) (ci := 28) rfl (List.forall_mem_cons.mpr ⟨Or.inr ⟨by decide, _, q2357, by decide +kernel⟩, fun _ h => absurd h List.not_mem_nil⟩) (by decide) (by decide) q2483 q716 ht ?_
      exact kX0_bestb17 C hr hin hT hmc  hw H locs ls hS (lv_sub hl [] rfl)
    · refine r_catch C [] (⟨0, 10, 13, 13⟩ : ExceptionTableEntry) [(⟨0, 10, 17, 47⟩ : ExceptionTableEntry)] (by rw [hT]; rfl) (ci := 32) rfl (fun _ h => absurd h List.not_mem_nil) (by decide) (by decide) q2357 q2388 ht ?_
      exact kX0_bestb13 C hr hin hT hmc  hw H locs ls hS (lv_sub hl [] rfl)
    · simp only [List.mem_cons, List.not_mem_nil, or_false] at h9
      rcases h9 with rfl | rfl | rfl | rfl | rfl | rfl
      · exact r_pass C hS hmc rfl (by rw [hT]; exact List.forall_mem_cons.mpr ⟨Or.inr ⟨by decide, _, q2357, by decide +kernel⟩, List.forall_mem_cons.mpr ⟨Or.inr ⟨by decide, _, q2483, by decide +kernel⟩, fun _ h => absurd h List.not_mem_nil⟩⟩) ht hx
      · exact r_pass C hS hmc rfl (by rw [hT]; exact List.forall_mem_cons.mpr ⟨Or.inr ⟨by decide, _, q2357, by decide +kernel⟩, List.forall_mem_cons.mpr ⟨Or.inr ⟨by decide, _, q2483, by decide +kernel⟩, fun _ h => absurd h List.not_mem_nil⟩⟩) ht hx
      · exact r_pass C hS hmc rfl (by rw [hT]; exact List.forall_mem_cons.mpr ⟨Or.inr ⟨by decide, _, q2357, by decide +kernel⟩, List.forall_mem_cons.mpr ⟨Or.inr ⟨by decide, _, q2483, by decide +kernel⟩, fun _ h => absurd h List.not_mem_nil⟩⟩) ht hx
      · exact r_pass C hS hmc rfl (by rw [hT]; exact List.forall_mem_cons.mpr ⟨Or.inr ⟨by decide, _, q2357, by decide +kernel⟩, List.forall_mem_cons.mpr ⟨Or.inr ⟨by decide, _, q2483, by decide +kernel⟩, fun _ h => absurd h List.not_mem_nil⟩⟩) ht hx
      · exact r_pass C hS hmc rfl (by rw [hT]; exact List.forall_mem_cons.mpr ⟨Or.inr ⟨by decide, _, q2357, by decide +kernel⟩, List.forall_mem_cons.mpr ⟨Or.inr ⟨by decide, _, q2483, by decide +kernel⟩, fun _ h => absurd h List.not_mem_nil⟩⟩) ht hx
      · exact r_pass C hS hmc rfl (by rw [hT]; exact List.forall_mem_cons.mpr ⟨Or.inr ⟨by decide, _, q2357, by decide +kernel⟩, List.forall_mem_cons.mpr ⟨Or.inr ⟨by decide, _, q2483, by decide +kernel⟩, fun _ h => absurd h List.not_mem_nil⟩⟩) ht hx
  · obtain ⟨x5, rfl, hw⟩ := hv
    refine lv_i2l C.1 C.2.1 dX0_best_8 rfl ?_
    refine r_last C hS dX0_best_9 hw (fun z6 H locs hw hS => ?_)
    refine lv_goto C.1 C.2.1 dX0_best_10 rfl ?_
    refine lv_iconst C.1 C.2.1 (v := 0) dX0_best_21 rfl ?_
    exact r_iret C hS hmc hr dX0_best_22 hw
end
theorem kX0_best {l : Launch} (hl : l.stackTraces = false) {G : gE} {P : Int32 → hSt → Prop} {PX : Nat → Nat → hSt → Prop} {v0 : Option Nat} {v1 : Int32} {v2 : Int32} {v3 : Option Nat} {z : hSt} : cM l G yX0_best (wsW_ yX0_best cX0_best 5 (Option.some Jvm.ClassFile.FieldType.int) [((0 : Nat), (10 : Nat), (13 : Nat), (13 : Nat)), ((0 : Nat), (10 : Nat), (17 : Nat), (47 : Nat))]) 20 383 z [va_rf v0, .int v1, .int v2, va_rf v3] (wX0_best G P PX v0 v1 v2 v3 z) (pI P) PX := by
  refine m_ofH hl (plainFor_of_name (by decide)) (by rw [lg_sl1 (va_rf_cat _), lg_sl1 rfl, lg_sl1 rfl, lg_sl1 (va_rf_cat _)]; exact Nat.le_of_ble_eq_true rfl) ?_
  intro p e s m args below meth c C hr hin hT hmc hw
  rw [lv_args1 (va_rf_cat _), lv_args1 rfl, lv_args1 rfl, lv_args1 (va_rf_cat _)]
  intro H locs ls hS hl
  exact kX0_bestb0 C hr hin hT hmc hw H locs ls hS (lv_sub hl [0, 1, 2, 3] rfl)
theorem hdX0_best : yX0_best.cls ≠ "java/lang/invoke/MethodHandle" ∧ yX0_best.cls ≠ "java/lang/invoke/VarHandle" ∧ (parseMethodDescriptor yX0_best.desc).map (fun d => d.parameters.length) = some 4 := ⟨by decide +kernel, by decide +kernel, by decide +kernel⟩
abbrev rmX0_ranked (mc ms : Nat) : Room := { frames := 20, cells := mc, slots := ms, locals := 385 }
def wX0_rankedb12 (G : gE) (P : Int32 → hSt → Prop) (PX : Nat → Nat → hSt → Prop)  (s0 : Option Nat) (z : hSt) : Prop :=
  P 1 z
def wX0_rankedb0 (G : gE) (P : Int32 → hSt → Prop) (PX : Nat → Nat → hSt → Prop)  (v0 : Option Nat) (v1 : Int32) (v2 : Option Nat) (z : hSt) : Prop :=
  (rcv z v0 0 ∧ wX1_ranked G (fun x5 z4 => asL G z4 v2 0 ((x5 : Int32).toInt64) (fun z6 => P 0 z6)) (fun c3 e2 z1 => (c3 = 28 ∧ wX0_rankedb12 G P PX  (some e2) z1) ∨ (c3 ∈ ([8, 11, 29, 30, 31, 32, 33] : List Nat) ∧ PX c3 e2 z1)) v0 v1 z)
def wX0_ranked (G : gE) (P : Int32 → hSt → Prop) (PX : Nat → Nat → hSt → Prop) (v0 : Option Nat) (v1 : Int32) (v2 : Option Nat) (z : hSt) : Prop := wX0_rankedb0 G P PX v0 v1 v2 z
section
variable {p : Program} {l : Launch} {e : Env} {s : State} {m : MethodId} {args : Array Value} {below : List Frame} {meth : Method} {c : Code} {G : gE} {mc ms : Nat} {P : Int32 → hSt → Prop} {PX : Nat → Nat → hSt → Prop}
theorem kX0_rankedb12 (C : xC G p l s m args meth c cX0_ranked 4 "ExcuseLedgerLaw") (hr : meth.sig.returnType = (Option.some Jvm.ClassFile.FieldType.int)) (hin : meth.name = "ranked") (hT : c.exceptionTable.toList = tableOf [((0 : Nat), (9 : Nat), (12 : Nat), (47 : Nat))]) (hmc : mc = gL G - s.heap.size ∧ ms = gU G - hsum s.heap)   {s0 : Option Nat} {z : hSt} (hw : wX0_rankedb12 G P PX  s0 z) : kt G p l e (rmX0_ranked mc ms) s m args below meth c 4 (vx_MQ below (cQ G (pI P)) (cX G PX) args s mc ms (gF G)) 12 [] [va_rf s0] z := by
  intro H locs ls hS hl
  refine r_astore_n C.1 C.2.1 dX0_ranked_12 rfl hl (Nat.le_of_ble_eq_true rfl) (ls_new ls_nil) (fun ls hl => ?_)
  refine lv_iconst C.1 C.2.1 (v := 1) dX0_ranked_13 rfl ?_
  exact r_iret C hS hmc hr dX0_ranked_14 hw
theorem kX0_rankedb0 (C : xC G p l s m args meth c cX0_ranked 4 "ExcuseLedgerLaw") (hr : meth.sig.returnType = (Option.some Jvm.ClassFile.FieldType.int)) (hin : meth.name = "ranked") (hT : c.exceptionTable.toList = tableOf [((0 : Nat), (9 : Nat), (12 : Nat), (47 : Nat))]) (hmc : mc = gL G - s.heap.size ∧ ms = gU G - hsum s.heap)   {v0 : Option Nat} {v1 : Int32} {v2 : Option Nat} {z : hSt} (hw : wX0_rankedb0 G P PX  v0 v1 v2 z) : kt G p l e (rmX0_ranked mc ms) s m args below meth c 4 (vx_MQ below (cQ G (pI P)) (cX G PX) args s mc ms (gF G)) 0 [(0, va_rf v0), (1, .int v1), (2, va_rf v2)] [] z := by
  intro H locs ls hS hl
  refine r_aload_n C.1 C.2.1 dX0_ranked_0 rfl (lv_at hl 2 rfl) ?_
  refine lv_iconst C.1 C.2.1 (v := 0) dX0_ranked_1 rfl ?_
  refine r_aload_n C.1 C.2.1 dX0_ranked_2 rfl (lv_at hl 0 rfl) ?_
  refine lv_iload_n C.1 C.2.1 dX0_ranked_3 rfl (lv_at hl 1 rfl) ?_
  refine c_V C hS hmc hl.1 (ci := 0) rfl hw.1 (kX1_ranked C.2.2.2.2.2.2.1) hw.2 (lw_V q2628 q2629 q2630 q67 q2631) ⟨rfl, hdX1_ranked⟩ ⟨Nat.le_of_ble_eq_true rfl, Nat.le_of_ble_eq_true rfl⟩ (rest := [.int 0, va_rf v2]) rfl rfl (Nat.le_of_ble_eq_true rfl) dX0_ranked_4 (fun c3 e2 z1 H locs hx hS ht => ?_) (fun v z4 H locs hv hS => ?_)
  · rcases hx with ⟨rfl, hw⟩ | ⟨h9, hx⟩
    · refine r_catch C [] (⟨0, 9, 12, 47⟩ : ExceptionTableEntry) [] (by rw [hT]; rfl) (ci := 28) rfl (fun _ h => absurd h List.not_mem_nil) (by decide) (by decide) q2483 q716 ht ?_
      exact kX0_rankedb12 C hr hin hT hmc  hw H locs ls hS (lv_sub hl [] rfl)
    · simp only [List.mem_cons, List.not_mem_nil, or_false] at h9
      rcases h9 with rfl | rfl | rfl | rfl | rfl | rfl | rfl
      · exact r_pass C hS hmc rfl (by rw [hT]; exact List.forall_mem_cons.mpr ⟨Or.inr ⟨by decide, _, q2483, by decide +kernel⟩, fun _ h => absurd h List.not_mem_nil⟩) ht hx
      · exact r_pass C hS hmc rfl (by rw [hT]; exact List.forall_mem_cons.mpr ⟨Or.inr ⟨by decide, _, q2483, by decide +kernel⟩, fun _ h => absurd h List.not_mem_nil⟩) ht hx
      · exact r_pass C hS hmc rfl (by rw [hT]; exact List.forall_mem_cons.mpr ⟨Or.inr ⟨by decide, _, q2483, by decide +kernel⟩, fun _ h => absurd h List.not_mem_nil⟩) ht hx
      · exact r_pass C hS hmc rfl (by rw [hT]; exact List.forall_mem_cons.mpr ⟨Or.inr ⟨by decide, _, q2483, by decide +kernel⟩, fun _ h => absurd h List.not_mem_nil⟩) ht hx
      · exact r_pass C hS hmc rfl (by rw [hT]; exact List.forall_mem_cons.mpr ⟨Or.inr ⟨by decide, _, q2483, by decide +kernel⟩, fun _ h => absurd h List.not_mem_nil⟩) ht hx
      · exact r_pass C hS hmc rfl (by rw [hT]; exact List.forall_mem_cons.mpr ⟨Or.inr ⟨by decide, _, q2483, by decide +kernel⟩, fun _ h => absurd h List.not_mem_nil⟩) ht hx
      · exact r_pass C hS hmc rfl (by rw [hT]; exact List.forall_mem_cons.mpr ⟨Or.inr ⟨by decide, _, q2483, by decide +kernel⟩, fun _ h => absurd h List.not_mem_nil⟩) ht hx
  · obtain ⟨x5, rfl, hw⟩ := hv
    refine lv_i2l C.1 C.2.1 dX0_ranked_7 rfl ?_
    refine r_last C hS dX0_ranked_8 hw (fun z6 H locs hw hS => ?_)
    refine lv_goto C.1 C.2.1 dX0_ranked_9 rfl ?_
    refine lv_iconst C.1 C.2.1 (v := 0) dX0_ranked_15 rfl ?_
    exact r_iret C hS hmc hr dX0_ranked_16 hw
end
theorem kX0_ranked {l : Launch} (hl : l.stackTraces = false) {G : gE} {P : Int32 → hSt → Prop} {PX : Nat → Nat → hSt → Prop} {v0 : Option Nat} {v1 : Int32} {v2 : Option Nat} {z : hSt} : cM l G yX0_ranked (wsW_ yX0_ranked cX0_ranked 4 (Option.some Jvm.ClassFile.FieldType.int) [((0 : Nat), (9 : Nat), (12 : Nat), (47 : Nat))]) 20 385 z [va_rf v0, .int v1, va_rf v2] (wX0_ranked G P PX v0 v1 v2 z) (pI P) PX := by
  refine m_ofH hl (plainFor_of_name (by decide)) (by rw [lg_sl1 (va_rf_cat _), lg_sl1 rfl, lg_sl1 (va_rf_cat _)]; exact Nat.le_of_ble_eq_true rfl) ?_
  intro p e s m args below meth c C hr hin hT hmc hw
  rw [lv_args1 (va_rf_cat _), lv_args1 rfl, lv_args1 (va_rf_cat _)]
  intro H locs ls hS hl
  exact kX0_rankedb0 C hr hin hT hmc hw H locs ls hS (lv_sub hl [0, 1, 2] rfl)
theorem hdX0_ranked : yX0_ranked.cls ≠ "java/lang/invoke/MethodHandle" ∧ yX0_ranked.cls ≠ "java/lang/invoke/VarHandle" ∧ (parseMethodDescriptor yX0_ranked.desc).map (fun d => d.parameters.length) = some 3 := ⟨by decide +kernel, by decide +kernel, by decide +kernel⟩
abbrev rmX0_freshest (mc ms : Nat) : Room := { frames := 19, cells := mc, slots := ms, locals := 361 }
def wX0_freshestb12 (G : gE) (P : Int32 → hSt → Prop) (PX : Nat → Nat → hSt → Prop)  (s0 : Option Nat) (z : hSt) : Prop :=
  P 1 z
def wX0_freshestb0 (G : gE) (P : Int32 → hSt → Prop) (PX : Nat → Nat → hSt → Prop)  (v0 : Option Nat) (v1 : Int32) (v2 : Option Nat) (z : hSt) : Prop :=
  (rcv z v0 0 ∧ wX1_freshest G (fun x5 z4 => asL G z4 v2 0 ((x5 : Int32).toInt64) (fun z6 => P 0 z6)) (fun c3 e2 z1 => (c3 = 28 ∧ wX0_freshestb12 G P PX  (some e2) z1) ∨ (c3 ∈ ([8, 11, 29, 30, 31, 32, 33] : List Nat) ∧ PX c3 e2 z1)) v0 v1 z)
def wX0_freshest (G : gE) (P : Int32 → hSt → Prop) (PX : Nat → Nat → hSt → Prop) (v0 : Option Nat) (v1 : Int32) (v2 : Option Nat) (z : hSt) : Prop := wX0_freshestb0 G P PX v0 v1 v2 z
section
variable {p : Program} {l : Launch} {e : Env} {s : State} {m : MethodId} {args : Array Value} {below : List Frame} {meth : Method} {c : Code} {G : gE} {mc ms : Nat} {P : Int32 → hSt → Prop} {PX : Nat → Nat → hSt → Prop}
theorem kX0_freshestb12 (C : xC G p l s m args meth c cX0_freshest 4 "ExcuseLedgerLaw") (hr : meth.sig.returnType = (Option.some Jvm.ClassFile.FieldType.int)) (hin : meth.name = "freshest") (hT : c.exceptionTable.toList = tableOf [((0 : Nat), (9 : Nat), (12 : Nat), (47 : Nat))]) (hmc : mc = gL G - s.heap.size ∧ ms = gU G - hsum s.heap)   {s0 : Option Nat} {z : hSt} (hw : wX0_freshestb12 G P PX  s0 z) : kt G p l e (rmX0_freshest mc ms) s m args below meth c 4 (vx_MQ below (cQ G (pI P)) (cX G PX) args s mc ms (gF G)) 12 [] [va_rf s0] z := by
  intro H locs ls hS hl
  refine r_astore_n C.1 C.2.1 dX0_freshest_12 rfl hl (Nat.le_of_ble_eq_true rfl) (ls_new ls_nil) (fun ls hl => ?_)
  refine lv_iconst C.1 C.2.1 (v := 1) dX0_freshest_13 rfl ?_
  exact r_iret C hS hmc hr dX0_freshest_14 hw
theorem kX0_freshestb0 (C : xC G p l s m args meth c cX0_freshest 4 "ExcuseLedgerLaw") (hr : meth.sig.returnType = (Option.some Jvm.ClassFile.FieldType.int)) (hin : meth.name = "freshest") (hT : c.exceptionTable.toList = tableOf [((0 : Nat), (9 : Nat), (12 : Nat), (47 : Nat))]) (hmc : mc = gL G - s.heap.size ∧ ms = gU G - hsum s.heap)   {v0 : Option Nat} {v1 : Int32} {v2 : Option Nat} {z : hSt} (hw : wX0_freshestb0 G P PX  v0 v1 v2 z) : kt G p l e (rmX0_freshest mc ms) s m args below meth c 4 (vx_MQ below (cQ G (pI P)) (cX G PX) args s mc ms (gF G)) 0 [(0, va_rf v0), (1, .int v1), (2, va_rf v2)] [] z := by
  intro H locs ls hS hl
  refine r_aload_n C.1 C.2.1 dX0_freshest_0 rfl (lv_at hl 2 rfl) ?_
  refine lv_iconst C.1 C.2.1 (v := 0) dX0_freshest_1 rfl ?_
  refine r_aload_n C.1 C.2.1 dX0_freshest_2 rfl (lv_at hl 0 rfl) ?_
  refine lv_iload_n C.1 C.2.1 dX0_freshest_3 rfl (lv_at hl 1 rfl) ?_
  refine c_V C hS hmc hl.1 (ci := 0) rfl hw.1 (kX1_freshest C.2.2.2.2.2.2.1) hw.2 (lw_V q2644 q2645 q2646 q67 q2647) ⟨rfl, hdX1_freshest⟩ ⟨Nat.le_of_ble_eq_true rfl, Nat.le_of_ble_eq_true rfl⟩ (rest := [.int 0, va_rf v2]) rfl rfl (Nat.le_of_ble_eq_true rfl) dX0_freshest_4 (fun c3 e2 z1 H locs hx hS ht => ?_) (fun v z4 H locs hv hS => ?_)
  · rcases hx with ⟨rfl, hw⟩ | ⟨h9, hx⟩
    · refine r_catch C [] (⟨0, 9, 12, 47⟩ : ExceptionTableEntry) [] (by rw [hT]; rfl) (ci := 28) rfl (fun _ h => absurd h List.not_mem_nil) (by decide) (by decide) q2483 q716 ht ?_
      exact kX0_freshestb12 C hr hin hT hmc  hw H locs ls hS (lv_sub hl [] rfl)
    · simp only [List.mem_cons, List.not_mem_nil, or_false] at h9
      rcases h9 with rfl | rfl | rfl | rfl | rfl | rfl | rfl
      · exact r_pass C hS hmc rfl (by rw [hT]; exact List.forall_mem_cons.mpr ⟨Or.inr ⟨by decide, _, q2483, by decide +kernel⟩, fun _ h => absurd h List.not_mem_nil⟩) ht hx
      · exact r_pass C hS hmc rfl (by rw [hT]; exact List.forall_mem_cons.mpr ⟨Or.inr ⟨by decide, _, q2483, by decide +kernel⟩, fun _ h => absurd h List.not_mem_nil⟩) ht hx
      · exact r_pass C hS hmc rfl (by rw [hT]; exact List.forall_mem_cons.mpr ⟨Or.inr ⟨by decide, _, q2483, by decide +kernel⟩, fun _ h => absurd h List.not_mem_nil⟩) ht hx
      · exact r_pass C hS hmc rfl (by rw [hT]; exact List.forall_mem_cons.mpr ⟨Or.inr ⟨by decide, _, q2483, by decide +kernel⟩, fun _ h => absurd h List.not_mem_nil⟩) ht hx
      · exact r_pass C hS hmc rfl (by rw [hT]; exact List.forall_mem_cons.mpr ⟨Or.inr ⟨by decide, _, q2483, by decide +kernel⟩, fun _ h => absurd h List.not_mem_nil⟩) ht hx
      · exact r_pass C hS hmc rfl (by rw [hT]; exact List.forall_mem_cons.mpr ⟨Or.inr ⟨by decide, _, q2483, by decide +kernel⟩, fun _ h => absurd h List.not_mem_nil⟩) ht hx
      · exact r_pass C hS hmc rfl (by rw [hT]; exact List.forall_mem_cons.mpr ⟨Or.inr ⟨by decide, _, q2483, by decide +kernel⟩, fun _ h => absurd h List.not_mem_nil⟩) ht hx
  · obtain ⟨x5, rfl, hw⟩ := hv
    refine lv_i2l C.1 C.2.1 dX0_freshest_7 rfl ?_
    refine r_last C hS dX0_freshest_8 hw (fun z6 H locs hw hS => ?_)
    refine lv_goto C.1 C.2.1 dX0_freshest_9 rfl ?_
    refine lv_iconst C.1 C.2.1 (v := 0) dX0_freshest_15 rfl ?_
    exact r_iret C hS hmc hr dX0_freshest_16 hw
end
theorem kX0_freshest {l : Launch} (hl : l.stackTraces = false) {G : gE} {P : Int32 → hSt → Prop} {PX : Nat → Nat → hSt → Prop} {v0 : Option Nat} {v1 : Int32} {v2 : Option Nat} {z : hSt} : cM l G yX0_freshest (wsW_ yX0_freshest cX0_freshest 4 (Option.some Jvm.ClassFile.FieldType.int) [((0 : Nat), (9 : Nat), (12 : Nat), (47 : Nat))]) 19 361 z [va_rf v0, .int v1, va_rf v2] (wX0_freshest G P PX v0 v1 v2 z) (pI P) PX := by
  refine m_ofH hl (plainFor_of_name (by decide)) (by rw [lg_sl1 (va_rf_cat _), lg_sl1 rfl, lg_sl1 (va_rf_cat _)]; exact Nat.le_of_ble_eq_true rfl) ?_
  intro p e s m args below meth c C hr hin hT hmc hw
  rw [lv_args1 (va_rf_cat _), lv_args1 rfl, lv_args1 (va_rf_cat _)]
  intro H locs ls hS hl
  exact kX0_freshestb0 C hr hin hT hmc hw H locs ls hS (lv_sub hl [0, 1, 2] rfl)
theorem hdX0_freshest : yX0_freshest.cls ≠ "java/lang/invoke/MethodHandle" ∧ yX0_freshest.cls ≠ "java/lang/invoke/VarHandle" ∧ (parseMethodDescriptor yX0_freshest.desc).map (fun d => d.parameters.length) = some 3 := ⟨by decide +kernel, by decide +kernel, by decide +kernel⟩
abbrev rmX0_strongest (mc ms : Nat) : Room := { frames := 16, cells := mc, slots := ms, locals := 287 }
def wX0_strongestb11 (G : gE) (P : Int32 → hSt → Prop) (PX : Nat → Nat → hSt → Prop)  (s0 : Option Nat) (z : hSt) : Prop :=
  P 1 z
def wX0_strongestb0 (G : gE) (P : Int32 → hSt → Prop) (PX : Nat → Nat → hSt → Prop)  (v0 : Option Nat) (v1 : Option Nat) (z : hSt) : Prop :=
  (rcv z v0 0 ∧ wX1_strongest G (fun x5 z4 => asL G z4 v1 0 ((x5 : Int32).toInt64) (fun z6 => P 0 z6)) (fun c3 e2 z1 => (c3 = 28 ∧ wX0_strongestb11 G P PX  (some e2) z1) ∨ (c3 ∈ ([8, 11, 29, 30, 31, 32, 33] : List Nat) ∧ PX c3 e2 z1)) v0  z)
def wX0_strongest (G : gE) (P : Int32 → hSt → Prop) (PX : Nat → Nat → hSt → Prop) (v0 : Option Nat) (v1 : Option Nat) (z : hSt) : Prop := wX0_strongestb0 G P PX v0 v1 z
section
variable {p : Program} {l : Launch} {e : Env} {s : State} {m : MethodId} {args : Array Value} {below : List Frame} {meth : Method} {c : Code} {G : gE} {mc ms : Nat} {P : Int32 → hSt → Prop} {PX : Nat → Nat → hSt → Prop}
theorem kX0_strongestb11 (C : xC G p l s m args meth c cX0_strongest 3 "ExcuseLedgerLaw") (hr : meth.sig.returnType = (Option.some Jvm.ClassFile.FieldType.int)) (hin : meth.name = "strongest") (hT : c.exceptionTable.toList = tableOf [((0 : Nat), (8 : Nat), (11 : Nat), (47 : Nat))]) (hmc : mc = gL G - s.heap.size ∧ ms = gU G - hsum s.heap)   {s0 : Option Nat} {z : hSt} (hw : wX0_strongestb11 G P PX  s0 z) : kt G p l e (rmX0_strongest mc ms) s m args below meth c 3 (vx_MQ below (cQ G (pI P)) (cX G PX) args s mc ms (gF G)) 11 [] [va_rf s0] z := by
  intro H locs ls hS hl
  refine r_astore_n C.1 C.2.1 dX0_strongest_11 rfl hl (Nat.le_of_ble_eq_true rfl) (ls_new ls_nil) (fun ls hl => ?_)
  refine lv_iconst C.1 C.2.1 (v := 1) dX0_strongest_12 rfl ?_
  exact r_iret C hS hmc hr dX0_strongest_13 hw
theorem kX0_strongestb0 (C : xC G p l s m args meth c cX0_strongest 3 "ExcuseLedgerLaw") (hr : meth.sig.returnType = (Option.some Jvm.ClassFile.FieldType.int)) (hin : meth.name = "strongest") (hT : c.exceptionTable.toList = tableOf [((0 : Nat), (8 : Nat), (11 : Nat), (47 : Nat))]) (hmc : mc = gL G - s.heap.size ∧ ms = gU G - hsum s.heap)   {v0 : Option Nat} {v1 : Option Nat} {z : hSt} (hw : wX0_strongestb0 G P PX  v0 v1 z) : kt G p l e (rmX0_strongest mc ms) s m args below meth c 3 (vx_MQ below (cQ G (pI P)) (cX G PX) args s mc ms (gF G)) 0 [(0, va_rf v0), (1, va_rf v1)] [] z := by
  intro H locs ls hS hl
  refine r_aload_n C.1 C.2.1 dX0_strongest_0 rfl (lv_at hl 1 rfl) ?_
  refine lv_iconst C.1 C.2.1 (v := 0) dX0_strongest_1 rfl ?_
  refine r_aload_n C.1 C.2.1 dX0_strongest_2 rfl (lv_at hl 0 rfl) ?_
  refine c_V C hS hmc hl.1 (ci := 0) rfl hw.1 (kX1_strongest C.2.2.2.2.2.2.1) hw.2 (lw_V q2659 q2660 q2661 q67 q2662) ⟨rfl, hdX1_strongest⟩ ⟨Nat.le_of_ble_eq_true rfl, Nat.le_of_ble_eq_true rfl⟩ (rest := [.int 0, va_rf v1]) rfl rfl (Nat.le_of_ble_eq_true rfl) dX0_strongest_3 (fun c3 e2 z1 H locs hx hS ht => ?_) (fun v z4 H locs hv hS => ?_)
  · rcases hx with ⟨rfl, hw⟩ | ⟨h9, hx⟩
    · refine r_catch C [] (⟨0, 8, 11, 47⟩ : ExceptionTableEntry) [] (by rw [hT]; rfl) (ci := 28) rfl (fun _ h => absurd h List.not_mem_nil) (by decide) (by decide) q2483 q716 ht ?_
      exact kX0_strongestb11 C hr hin hT hmc  hw H locs ls hS (lv_sub hl [] rfl)
    · simp only [List.mem_cons, List.not_mem_nil, or_false] at h9
      rcases h9 with rfl | rfl | rfl | rfl | rfl | rfl | rfl
      · exact r_pass C hS hmc rfl (by rw [hT]; exact List.forall_mem_cons.mpr ⟨Or.inr ⟨by decide, _, q2483, by decide +kernel⟩, fun _ h => absurd h List.not_mem_nil⟩) ht hx
      · exact r_pass C hS hmc rfl (by rw [hT]; exact List.forall_mem_cons.mpr ⟨Or.inr ⟨by decide, _, q2483, by decide +kernel⟩, fun _ h => absurd h List.not_mem_nil⟩) ht hx
      · exact r_pass C hS hmc rfl (by rw [hT]; exact List.forall_mem_cons.mpr ⟨Or.inr ⟨by decide, _, q2483, by decide +kernel⟩, fun _ h => absurd h List.not_mem_nil⟩) ht hx
      · exact r_pass C hS hmc rfl (by rw [hT]; exact List.forall_mem_cons.mpr ⟨Or.inr ⟨by decide, _, q2483, by decide +kernel⟩, fun _ h => absurd h List.not_mem_nil⟩) ht hx
      · exact r_pass C hS hmc rfl (by rw [hT]; exact List.forall_mem_cons.mpr ⟨Or.inr ⟨by decide, _, q2483, by decide +kernel⟩, fun _ h => absurd h List.not_mem_nil⟩) ht hx
      · exact r_pass C hS hmc rfl (by rw [hT]; exact List.forall_mem_cons.mpr ⟨Or.inr ⟨by decide, _, q2483, by decide +kernel⟩, fun _ h => absurd h List.not_mem_nil⟩) ht hx
      · exact r_pass C hS hmc rfl (by rw [hT]; exact List.forall_mem_cons.mpr ⟨Or.inr ⟨by decide, _, q2483, by decide +kernel⟩, fun _ h => absurd h List.not_mem_nil⟩) ht hx
  · obtain ⟨x5, rfl, hw⟩ := hv
    refine lv_i2l C.1 C.2.1 dX0_strongest_6 rfl ?_
    refine r_last C hS dX0_strongest_7 hw (fun z6 H locs hw hS => ?_)
    refine lv_goto C.1 C.2.1 dX0_strongest_8 rfl ?_
    refine lv_iconst C.1 C.2.1 (v := 0) dX0_strongest_14 rfl ?_
    exact r_iret C hS hmc hr dX0_strongest_15 hw
end
theorem kX0_strongest {l : Launch} (hl : l.stackTraces = false) {G : gE} {P : Int32 → hSt → Prop} {PX : Nat → Nat → hSt → Prop} {v0 : Option Nat} {v1 : Option Nat} {z : hSt} : cM l G yX0_strongest (wsW_ yX0_strongest cX0_strongest 3 (Option.some Jvm.ClassFile.FieldType.int) [((0 : Nat), (8 : Nat), (11 : Nat), (47 : Nat))]) 16 287 z [va_rf v0, va_rf v1] (wX0_strongest G P PX v0 v1 z) (pI P) PX := by
  refine m_ofH hl (plainFor_of_name (by decide)) (by rw [lg_sl1 (va_rf_cat _), lg_sl1 (va_rf_cat _)]; exact Nat.le_of_ble_eq_true rfl) ?_
  intro p e s m args below meth c C hr hin hT hmc hw
  rw [lv_args1 (va_rf_cat _), lv_args1 (va_rf_cat _)]
  intro H locs ls hS hl
  exact kX0_strongestb0 C hr hin hT hmc hw H locs ls hS (lv_sub hl [0, 1] rfl)
theorem hdX0_strongest : yX0_strongest.cls ≠ "java/lang/invoke/MethodHandle" ∧ yX0_strongest.cls ≠ "java/lang/invoke/VarHandle" ∧ (parseMethodDescriptor yX0_strongest.desc).map (fun d => d.parameters.length) = some 2 := ⟨by decide +kernel, by decide +kernel, by decide +kernel⟩
abbrev rmX0_tell (mc ms : Nat) : Room := { frames := 19, cells := mc, slots := ms, locals := 354 }
def wX0_tellb17 (G : gE) (P : Int32 → hSt → Prop) (PX : Nat → Nat → hSt → Prop)  (s0 : Option Nat) (z : hSt) : Prop :=
  P 2 z
def wX0_tellb13 (G : gE) (P : Int32 → hSt → Prop) (PX : Nat → Nat → hSt → Prop)  (s0 : Option Nat) (z : hSt) : Prop :=
  P 1 z
def wX0_tellb0 (G : gE) (P : Int32 → hSt → Prop) (PX : Nat → Nat → hSt → Prop)  (v0 : Option Nat) (v1 : Int32) (v2 : Int32) (v3 : Option Nat) (z : hSt) : Prop :=
  (rcv z v0 0 ∧ wX1_tell G (fun x5 z4 => asL G z4 v3 0 ((x5 : Int32).toInt64) (fun z6 => P 0 z6)) (fun c3 e2 z1 => (c3 = 28 ∧ wX0_tellb17 G P PX  (some e2) z1) ∨ (c3 = 29 ∧ wX0_tellb13 G P PX  (some e2) z1) ∨ (c3 ∈ ([8, 11, 30, 31, 32, 33] : List Nat) ∧ PX c3 e2 z1)) v0 v1 v2 z)
def wX0_tell (G : gE) (P : Int32 → hSt → Prop) (PX : Nat → Nat → hSt → Prop) (v0 : Option Nat) (v1 : Int32) (v2 : Int32) (v3 : Option Nat) (z : hSt) : Prop := wX0_tellb0 G P PX v0 v1 v2 v3 z
section
variable {p : Program} {l : Launch} {e : Env} {s : State} {m : MethodId} {args : Array Value} {below : List Frame} {meth : Method} {c : Code} {G : gE} {mc ms : Nat} {P : Int32 → hSt → Prop} {PX : Nat → Nat → hSt → Prop}
theorem kX0_tellb17 (C : xC G p l s m args meth c cX0_tell 5 "ExcuseLedgerLaw") (hr : meth.sig.returnType = (Option.some Jvm.ClassFile.FieldType.int)) (hin : meth.name = "tell") (hT : c.exceptionTable.toList = tableOf [((0 : Nat), (10 : Nat), (13 : Nat), (15 : Nat)), ((0 : Nat), (10 : Nat), (17 : Nat), (47 : Nat))]) (hmc : mc = gL G - s.heap.size ∧ ms = gU G - hsum s.heap)   {s0 : Option Nat} {z : hSt} (hw : wX0_tellb17 G P PX  s0 z) : kt G p l e (rmX0_tell mc ms) s m args below meth c 5 (vx_MQ below (cQ G (pI P)) (cX G PX) args s mc ms (gF G)) 17 [] [va_rf s0] z := by
  intro H locs ls hS hl
  refine r_astore C.1 C.2.1 dX0_tell_17 hl (Nat.le_of_ble_eq_true rfl) (ls_new ls_nil) (fun ls hl => ?_)
  refine lv_iconst C.1 C.2.1 (v := 2) dX0_tell_19 rfl ?_
  exact r_iret C hS hmc hr dX0_tell_20 hw
theorem kX0_tellb13 (C : xC G p l s m args meth c cX0_tell 5 "ExcuseLedgerLaw") (hr : meth.sig.returnType = (Option.some Jvm.ClassFile.FieldType.int)) (hin : meth.name = "tell") (hT : c.exceptionTable.toList = tableOf [((0 : Nat), (10 : Nat), (13 : Nat), (15 : Nat)), ((0 : Nat), (10 : Nat), (17 : Nat), (47 : Nat))]) (hmc : mc = gL G - s.heap.size ∧ ms = gU G - hsum s.heap)   {s0 : Option Nat} {z : hSt} (hw : wX0_tellb13 G P PX  s0 z) : kt G p l e (rmX0_tell mc ms) s m args below meth c 5 (vx_MQ below (cQ G (pI P)) (cX G PX) args s mc ms (gF G)) 13 [] [va_rf s0] z := by
  intro H locs ls hS hl
  refine r_astore C.1 C.2.1 dX0_tell_13 hl (Nat.le_of_ble_eq_true rfl) (ls_new ls_nil) (fun ls hl => ?_)
  refine lv_iconst C.1 C.2.1 (v := 1) dX0_tell_15 rfl ?_
  exact r_iret C hS hmc hr dX0_tell_16 hw
theorem kX0_tellb0 (C : xC G p l s m args meth c cX0_tell 5 "ExcuseLedgerLaw") (hr : meth.sig.returnType = (Option.some Jvm.ClassFile.FieldType.int)) (hin : meth.name = "tell") (hT : c.exceptionTable.toList = tableOf [((0 : Nat), (10 : Nat), (13 : Nat), (15 : Nat)), ((0 : Nat), (10 : Nat), (17 : Nat), (47 : Nat))]) (hmc : mc = gL G - s.heap.size ∧ ms = gU G - hsum s.heap)   {v0 : Option Nat} {v1 : Int32} {v2 : Int32} {v3 : Option Nat} {z : hSt} (hw : wX0_tellb0 G P PX  v0 v1 v2 v3 z) : kt G p l e (rmX0_tell mc ms) s m args below meth c 5 (vx_MQ below (cQ G (pI P)) (cX G PX) args s mc ms (gF G)) 0 [(0, va_rf v0), (1, .int v1), (2, .int v2), (3, va_rf v3)] [] z := by
  intro H locs ls hS hl
  refine r_aload_n C.1 C.2.1 dX0_tell_0 rfl (lv_at hl 3 rfl) ?_
  refine lv_iconst C.1 C.2.1 (v := 0) dX0_tell_1 rfl ?_
  refine r_aload_n C.1 C.2.1 dX0_tell_2 rfl (lv_at hl 0 rfl) ?_
  refine lv_iload_n C.1 C.2.1 dX0_tell_3 rfl (lv_at hl 1 rfl) ?_
  refine lv_iload_n C.1 C.2.1 dX0_tell_4 rfl (lv_at hl 2 rfl) ?_
  refine c_V C hS hmc hl.1 (ci := 0) rfl hw.1 (kX1_tell C.2.2.2.2.2.2.1) hw.2 (lw_V q2677 q2678 q2679 q67 q2680) ⟨rfl, hdX1_tell⟩ ⟨Nat.le_of_ble_eq_true rfl, Nat.le_of_ble_eq_true rfl⟩ (rest := [.int 0, va_rf v3]) rfl rfl (Nat.le_of_ble_eq_true rfl) dX0_tell_5 (fun c3 e2 z1 H locs hx hS ht => ?_) (fun v z4 H locs hv hS => ?_)
  · rcases hx with ⟨rfl, hw⟩ | ⟨rfl, hw⟩ | ⟨h9, hx⟩
    · refine r_catch C [(⟨0, 10, 13, 15⟩ : ExceptionTableEntry)] (⟨0, 10, 17, 47⟩ : ExceptionTableEntry) [] (by rw [hT]; rfl) (ci := 28) rfl (List.forall_mem_cons.mpr ⟨Or.inr ⟨by decide, _, q2376, by decide +kernel⟩, fun _ h => absurd h List.not_mem_nil⟩) (by decide) (by decide) q2483 q716 ht ?_
      exact kX0_tellb17 C hr hin hT hmc  hw H locs ls hS (lv_sub hl [] rfl)
    · refine r_catch C [] (⟨0, 10, 13, 15⟩ : ExceptionTableEntry) [(⟨0, 10, 17, 47⟩ : ExceptionTableEntry)] (by rw [hT]; rfl) (ci := 29) rfl (fun _ h => absurd h List.not_mem_nil) (by decide) (by decide) q2376 q999 ht ?_
      exact kX0_tellb13 C hr hin hT hmc  hw H locs ls hS (lv_sub hl [] rfl)
    · simp only [List.mem_cons, List.not_mem_nil, or_false] at h9
      rcases h9 with rfl | rfl | rfl | rfl | rfl | rfl
      · exact r_pass C hS hmc rfl (by rw [hT]; exact List.forall_mem_cons.mpr ⟨Or.inr ⟨by decide, _, q2376, by decide +kernel⟩, List.forall_mem_cons.mpr ⟨Or.inr ⟨by decide, _, q2483, by decide +kernel⟩, fun _ h => absurd h List.not_mem_nil⟩⟩) ht hx
      · exact r_pass C hS hmc rfl (by rw [hT]; exact List.forall_mem_cons.mpr ⟨Or.inr ⟨by decide, _, q2376, by decide +kernel⟩, List.forall_mem_cons.mpr ⟨Or.inr ⟨by decide, _, q2483, by decide +kernel⟩, fun _ h => absurd h List.not_mem_nil⟩⟩) ht hx
      · exact r_pass C hS hmc rfl (by rw [hT]; exact List.forall_mem_cons.mpr ⟨Or.inr ⟨by decide, _, q2376, by decide +kernel⟩, List.forall_mem_cons.mpr ⟨Or.inr ⟨by decide, _, q2483, by decide +kernel⟩, fun _ h => absurd h List.not_mem_nil⟩⟩) ht hx
      · exact r_pass C hS hmc rfl (by rw [hT]; exact List.forall_mem_cons.mpr ⟨Or.inr ⟨by decide, _, q2376, by decide +kernel⟩, List.forall_mem_cons.mpr ⟨Or.inr ⟨by decide, _, q2483, by decide +kernel⟩, fun _ h => absurd h List.not_mem_nil⟩⟩) ht hx
      · exact r_pass C hS hmc rfl (by rw [hT]; exact List.forall_mem_cons.mpr ⟨Or.inr ⟨by decide, _, q2376, by decide +kernel⟩, List.forall_mem_cons.mpr ⟨Or.inr ⟨by decide, _, q2483, by decide +kernel⟩, fun _ h => absurd h List.not_mem_nil⟩⟩) ht hx
      · exact r_pass C hS hmc rfl (by rw [hT]; exact List.forall_mem_cons.mpr ⟨Or.inr ⟨by decide, _, q2376, by decide +kernel⟩, List.forall_mem_cons.mpr ⟨Or.inr ⟨by decide, _, q2483, by decide +kernel⟩, fun _ h => absurd h List.not_mem_nil⟩⟩) ht hx
  · obtain ⟨x5, rfl, hw⟩ := hv
    refine lv_i2l C.1 C.2.1 dX0_tell_8 rfl ?_
    refine r_last C hS dX0_tell_9 hw (fun z6 H locs hw hS => ?_)
    refine lv_goto C.1 C.2.1 dX0_tell_10 rfl ?_
    refine lv_iconst C.1 C.2.1 (v := 0) dX0_tell_21 rfl ?_
    exact r_iret C hS hmc hr dX0_tell_22 hw
end
theorem kX0_tell {l : Launch} (hl : l.stackTraces = false) {G : gE} {P : Int32 → hSt → Prop} {PX : Nat → Nat → hSt → Prop} {v0 : Option Nat} {v1 : Int32} {v2 : Int32} {v3 : Option Nat} {z : hSt} : cM l G yX0_tell (wsW_ yX0_tell cX0_tell 5 (Option.some Jvm.ClassFile.FieldType.int) [((0 : Nat), (10 : Nat), (13 : Nat), (15 : Nat)), ((0 : Nat), (10 : Nat), (17 : Nat), (47 : Nat))]) 19 354 z [va_rf v0, .int v1, .int v2, va_rf v3] (wX0_tell G P PX v0 v1 v2 v3 z) (pI P) PX := by
  refine m_ofH hl (plainFor_of_name (by decide)) (by rw [lg_sl1 (va_rf_cat _), lg_sl1 rfl, lg_sl1 rfl, lg_sl1 (va_rf_cat _)]; exact Nat.le_of_ble_eq_true rfl) ?_
  intro p e s m args below meth c C hr hin hT hmc hw
  rw [lv_args1 (va_rf_cat _), lv_args1 rfl, lv_args1 rfl, lv_args1 (va_rf_cat _)]
  intro H locs ls hS hl
  exact kX0_tellb0 C hr hin hT hmc hw H locs ls hS (lv_sub hl [0, 1, 2, 3] rfl)
theorem hdX0_tell : yX0_tell.cls ≠ "java/lang/invoke/MethodHandle" ∧ yX0_tell.cls ≠ "java/lang/invoke/VarHandle" ∧ (parseMethodDescriptor yX0_tell.desc).map (fun d => d.parameters.length) = some 4 := ⟨by decide +kernel, by decide +kernel, by decide +kernel⟩
abbrev rmX0_bag (mc ms : Nat) : Room := { frames := 18, cells := mc, slots := ms, locals := 339 }
def wX0_bagb12 (G : gE) (P : Int32 → hSt → Prop) (PX : Nat → Nat → hSt → Prop)  (s0 : Option Nat) (z : hSt) : Prop :=
  P 1 z
def wX0_bagb0 (G : gE) (P : Int32 → hSt → Prop) (PX : Nat → Nat → hSt → Prop)  (v0 : Option Nat) (v1 : Int32) (v2 : Option Nat) (z : hSt) : Prop :=
  (rcv z v0 0 ∧ wX1_bag G (fun x5 z4 => asL G z4 v2 0 ((x5 : Int32).toInt64) (fun z6 => P 0 z6)) (fun c3 e2 z1 => (c3 = 32 ∧ wX0_bagb12 G P PX  (some e2) z1) ∨ (c3 ∈ ([8, 11, 28, 29, 30, 31, 33] : List Nat) ∧ PX c3 e2 z1)) v0 v1 z)
def wX0_bag (G : gE) (P : Int32 → hSt → Prop) (PX : Nat → Nat → hSt → Prop) (v0 : Option Nat) (v1 : Int32) (v2 : Option Nat) (z : hSt) : Prop := wX0_bagb0 G P PX v0 v1 v2 z
section
variable {p : Program} {l : Launch} {e : Env} {s : State} {m : MethodId} {args : Array Value} {below : List Frame} {meth : Method} {c : Code} {G : gE} {mc ms : Nat} {P : Int32 → hSt → Prop} {PX : Nat → Nat → hSt → Prop}
theorem kX0_bagb12 (C : xC G p l s m args meth c cX0_bag 4 "ExcuseLedgerLaw") (hr : meth.sig.returnType = (Option.some Jvm.ClassFile.FieldType.int)) (hin : meth.name = "bag") (hT : c.exceptionTable.toList = tableOf [((0 : Nat), (9 : Nat), (12 : Nat), (13 : Nat))]) (hmc : mc = gL G - s.heap.size ∧ ms = gU G - hsum s.heap)   {s0 : Option Nat} {z : hSt} (hw : wX0_bagb12 G P PX  s0 z) : kt G p l e (rmX0_bag mc ms) s m args below meth c 4 (vx_MQ below (cQ G (pI P)) (cX G PX) args s mc ms (gF G)) 12 [] [va_rf s0] z := by
  intro H locs ls hS hl
  refine r_astore_n C.1 C.2.1 dX0_bag_12 rfl hl (Nat.le_of_ble_eq_true rfl) (ls_new ls_nil) (fun ls hl => ?_)
  refine lv_iconst C.1 C.2.1 (v := 1) dX0_bag_13 rfl ?_
  exact r_iret C hS hmc hr dX0_bag_14 hw
theorem kX0_bagb0 (C : xC G p l s m args meth c cX0_bag 4 "ExcuseLedgerLaw") (hr : meth.sig.returnType = (Option.some Jvm.ClassFile.FieldType.int)) (hin : meth.name = "bag") (hT : c.exceptionTable.toList = tableOf [((0 : Nat), (9 : Nat), (12 : Nat), (13 : Nat))]) (hmc : mc = gL G - s.heap.size ∧ ms = gU G - hsum s.heap)   {v0 : Option Nat} {v1 : Int32} {v2 : Option Nat} {z : hSt} (hw : wX0_bagb0 G P PX  v0 v1 v2 z) : kt G p l e (rmX0_bag mc ms) s m args below meth c 4 (vx_MQ below (cQ G (pI P)) (cX G PX) args s mc ms (gF G)) 0 [(0, va_rf v0), (1, .int v1), (2, va_rf v2)] [] z := by
  intro H locs ls hS hl
  refine r_aload_n C.1 C.2.1 dX0_bag_0 rfl (lv_at hl 2 rfl) ?_
  refine lv_iconst C.1 C.2.1 (v := 0) dX0_bag_1 rfl ?_
  refine r_aload_n C.1 C.2.1 dX0_bag_2 rfl (lv_at hl 0 rfl) ?_
  refine lv_iload_n C.1 C.2.1 dX0_bag_3 rfl (lv_at hl 1 rfl) ?_
  refine c_V C hS hmc hl.1 (ci := 0) rfl hw.1 (kX1_bag C.2.2.2.2.2.2.1) hw.2 (lw_V q2760 q2761 q2762 q67 q2763) ⟨rfl, hdX1_bag⟩ ⟨Nat.le_of_ble_eq_true rfl, Nat.le_of_ble_eq_true rfl⟩ (rest := [.int 0, va_rf v2]) rfl rfl (Nat.le_of_ble_eq_true rfl) dX0_bag_4 (fun c3 e2 z1 H locs hx hS ht => ?_) (fun v z4 H locs hv hS => ?_)
  · rcases hx with ⟨rfl, hw⟩ | ⟨h9, hx⟩
    · refine r_catch C [] (⟨0, 9, 12, 13⟩ : ExceptionTableEntry) [] (by rw [hT]; rfl) (ci := 32) rfl (fun _ h => absurd h List.not_mem_nil) (by decide) (by decide) q2357 q2388 ht ?_
      exact kX0_bagb12 C hr hin hT hmc  hw H locs ls hS (lv_sub hl [] rfl)
    · simp only [List.mem_cons, List.not_mem_nil, or_false] at h9
      rcases h9 with rfl | rfl | rfl | rfl | rfl | rfl | rfl
      · exact r_pass C hS hmc rfl (by rw [hT]; exact List.forall_mem_cons.mpr ⟨Or.inr ⟨by decide, _, q2357, by decide +kernel⟩, fun _ h => absurd h List.not_mem_nil⟩) ht hx
      · exact r_pass C hS hmc rfl (by rw [hT]; exact List.forall_mem_cons.mpr ⟨Or.inr ⟨by decide, _, q2357, by decide +kernel⟩, fun _ h => absurd h List.not_mem_nil⟩) ht hx
      · exact r_pass C hS hmc rfl (by rw [hT]; exact List.forall_mem_cons.mpr ⟨Or.inr ⟨by decide, _, q2357, by decide +kernel⟩, fun _ h => absurd h List.not_mem_nil⟩) ht hx
      · exact r_pass C hS hmc rfl (by rw [hT]; exact List.forall_mem_cons.mpr ⟨Or.inr ⟨by decide, _, q2357, by decide +kernel⟩, fun _ h => absurd h List.not_mem_nil⟩) ht hx
      · exact r_pass C hS hmc rfl (by rw [hT]; exact List.forall_mem_cons.mpr ⟨Or.inr ⟨by decide, _, q2357, by decide +kernel⟩, fun _ h => absurd h List.not_mem_nil⟩) ht hx
      · exact r_pass C hS hmc rfl (by rw [hT]; exact List.forall_mem_cons.mpr ⟨Or.inr ⟨by decide, _, q2357, by decide +kernel⟩, fun _ h => absurd h List.not_mem_nil⟩) ht hx
      · exact r_pass C hS hmc rfl (by rw [hT]; exact List.forall_mem_cons.mpr ⟨Or.inr ⟨by decide, _, q2357, by decide +kernel⟩, fun _ h => absurd h List.not_mem_nil⟩) ht hx
  · obtain ⟨x5, rfl, hw⟩ := hv
    refine lv_i2l C.1 C.2.1 dX0_bag_7 rfl ?_
    refine r_last C hS dX0_bag_8 hw (fun z6 H locs hw hS => ?_)
    refine lv_goto C.1 C.2.1 dX0_bag_9 rfl ?_
    refine lv_iconst C.1 C.2.1 (v := 0) dX0_bag_15 rfl ?_
    exact r_iret C hS hmc hr dX0_bag_16 hw
end
theorem kX0_bag {l : Launch} (hl : l.stackTraces = false) {G : gE} {P : Int32 → hSt → Prop} {PX : Nat → Nat → hSt → Prop} {v0 : Option Nat} {v1 : Int32} {v2 : Option Nat} {z : hSt} : cM l G yX0_bag (wsW_ yX0_bag cX0_bag 4 (Option.some Jvm.ClassFile.FieldType.int) [((0 : Nat), (9 : Nat), (12 : Nat), (13 : Nat))]) 18 339 z [va_rf v0, .int v1, va_rf v2] (wX0_bag G P PX v0 v1 v2 z) (pI P) PX := by
  refine m_ofH hl (plainFor_of_name (by decide)) (by rw [lg_sl1 (va_rf_cat _), lg_sl1 rfl, lg_sl1 (va_rf_cat _)]; exact Nat.le_of_ble_eq_true rfl) ?_
  intro p e s m args below meth c C hr hin hT hmc hw
  rw [lv_args1 (va_rf_cat _), lv_args1 rfl, lv_args1 (va_rf_cat _)]
  intro H locs ls hS hl
  exact kX0_bagb0 C hr hin hT hmc hw H locs ls hS (lv_sub hl [0, 1, 2] rfl)
theorem hdX0_bag : yX0_bag.cls ≠ "java/lang/invoke/MethodHandle" ∧ yX0_bag.cls ≠ "java/lang/invoke/VarHandle" ∧ (parseMethodDescriptor yX0_bag.desc).map (fun d => d.parameters.length) = some 3 := ⟨by decide +kernel, by decide +kernel, by decide +kernel⟩
abbrev rmX0_character (mc ms : Nat) : Room := { frames := 15, cells := mc, slots := ms, locals := 266 }
def wX0_characterb12 (G : gE) (P : Int32 → hSt → Prop) (PX : Nat → Nat → hSt → Prop)  (s0 : Option Nat) (z : hSt) : Prop :=
  P 1 z
def wX0_characterb0 (G : gE) (P : Int32 → hSt → Prop) (PX : Nat → Nat → hSt → Prop)  (v0 : Option Nat) (v1 : Int32) (v2 : Option Nat) (z : hSt) : Prop :=
  (rcv z v0 0 ∧ wX1_character G (fun x5 z4 => asL G z4 v2 0 ((x5 : Int32).toInt64) (fun z6 => P 0 z6)) (fun c3 e2 z1 => (c3 = 28 ∧ wX0_characterb12 G P PX  (some e2) z1) ∨ (c3 ∈ ([8, 11, 29, 30, 31, 32, 33] : List Nat) ∧ PX c3 e2 z1)) v0 v1 z)
def wX0_character (G : gE) (P : Int32 → hSt → Prop) (PX : Nat → Nat → hSt → Prop) (v0 : Option Nat) (v1 : Int32) (v2 : Option Nat) (z : hSt) : Prop := wX0_characterb0 G P PX v0 v1 v2 z
section
variable {p : Program} {l : Launch} {e : Env} {s : State} {m : MethodId} {args : Array Value} {below : List Frame} {meth : Method} {c : Code} {G : gE} {mc ms : Nat} {P : Int32 → hSt → Prop} {PX : Nat → Nat → hSt → Prop}
theorem kX0_characterb12 (C : xC G p l s m args meth c cX0_character 4 "ExcuseLedgerLaw") (hr : meth.sig.returnType = (Option.some Jvm.ClassFile.FieldType.int)) (hin : meth.name = "character") (hT : c.exceptionTable.toList = tableOf [((0 : Nat), (9 : Nat), (12 : Nat), (47 : Nat))]) (hmc : mc = gL G - s.heap.size ∧ ms = gU G - hsum s.heap)   {s0 : Option Nat} {z : hSt} (hw : wX0_characterb12 G P PX  s0 z) : kt G p l e (rmX0_character mc ms) s m args below meth c 4 (vx_MQ below (cQ G (pI P)) (cX G PX) args s mc ms (gF G)) 12 [] [va_rf s0] z := by
  intro H locs ls hS hl
  refine r_astore_n C.1 C.2.1 dX0_character_12 rfl hl (Nat.le_of_ble_eq_true rfl) (ls_new ls_nil) (fun ls hl => ?_)
  refine lv_iconst C.1 C.2.1 (v := 1) dX0_character_13 rfl ?_
  exact r_iret C hS hmc hr dX0_character_14 hw
theorem kX0_characterb0 (C : xC G p l s m args meth c cX0_character 4 "ExcuseLedgerLaw") (hr : meth.sig.returnType = (Option.some Jvm.ClassFile.FieldType.int)) (hin : meth.name = "character") (hT : c.exceptionTable.toList = tableOf [((0 : Nat), (9 : Nat), (12 : Nat), (47 : Nat))]) (hmc : mc = gL G - s.heap.size ∧ ms = gU G - hsum s.heap)   {v0 : Option Nat} {v1 : Int32} {v2 : Option Nat} {z : hSt} (hw : wX0_characterb0 G P PX  v0 v1 v2 z) : kt G p l e (rmX0_character mc ms) s m args below meth c 4 (vx_MQ below (cQ G (pI P)) (cX G PX) args s mc ms (gF G)) 0 [(0, va_rf v0), (1, .int v1), (2, va_rf v2)] [] z := by
  intro H locs ls hS hl
  refine r_aload_n C.1 C.2.1 dX0_character_0 rfl (lv_at hl 2 rfl) ?_
  refine lv_iconst C.1 C.2.1 (v := 0) dX0_character_1 rfl ?_
  refine r_aload_n C.1 C.2.1 dX0_character_2 rfl (lv_at hl 0 rfl) ?_
  refine lv_iload_n C.1 C.2.1 dX0_character_3 rfl (lv_at hl 1 rfl) ?_
  refine c_V C hS hmc hl.1 (ci := 0) rfl hw.1 (kX1_character C.2.2.2.2.2.2.1) hw.2 (lw_V q2776 q2777 q2778 q67 q2779) ⟨rfl, hdX1_character⟩ ⟨Nat.le_of_ble_eq_true rfl, Nat.le_of_ble_eq_true rfl⟩ (rest := [.int 0, va_rf v2]) rfl rfl (Nat.le_of_ble_eq_true rfl) dX0_character_4 (fun c3 e2 z1 H locs hx hS ht => ?_) (fun v z4 H locs hv hS => ?_)
  · rcases hx with ⟨rfl, hw⟩ | ⟨h9, hx⟩
    · refine r_catch C [] (⟨0, 9, 12, 47⟩ : ExceptionTableEntry) [] (by rw [hT]; rfl) (ci := 28) rfl (fun _ h => absurd h List.not_mem_nil) (by decide) (by decide) q2483 q716 ht ?_
      exact kX0_characterb12 C hr hin hT hmc  hw H locs ls hS (lv_sub hl [] rfl)
    · simp only [List.mem_cons, List.not_mem_nil, or_false] at h9
      rcases h9 with rfl | rfl | rfl | rfl | rfl | rfl | rfl
      · exact r_pass C hS hmc rfl (by rw [hT]; exact List.forall_mem_cons.mpr ⟨Or.inr ⟨by decide, _, q2483, by decide +kernel⟩, fun _ h => absurd h List.not_mem_nil⟩) ht hx
      · exact r_pass C hS hmc rfl (by rw [hT]; exact List.forall_mem_cons.mpr ⟨Or.inr ⟨by decide, _, q2483, by decide +kernel⟩, fun _ h => absurd h List.not_mem_nil⟩) ht hx
      · exact r_pass C hS hmc rfl (by rw [hT]; exact List.forall_mem_cons.mpr ⟨Or.inr ⟨by decide, _, q2483, by decide +kernel⟩, fun _ h => absurd h List.not_mem_nil⟩) ht hx
      · exact r_pass C hS hmc rfl (by rw [hT]; exact List.forall_mem_cons.mpr ⟨Or.inr ⟨by decide, _, q2483, by decide +kernel⟩, fun _ h => absurd h List.not_mem_nil⟩) ht hx
      · exact r_pass C hS hmc rfl (by rw [hT]; exact List.forall_mem_cons.mpr ⟨Or.inr ⟨by decide, _, q2483, by decide +kernel⟩, fun _ h => absurd h List.not_mem_nil⟩) ht hx
      · exact r_pass C hS hmc rfl (by rw [hT]; exact List.forall_mem_cons.mpr ⟨Or.inr ⟨by decide, _, q2483, by decide +kernel⟩, fun _ h => absurd h List.not_mem_nil⟩) ht hx
      · exact r_pass C hS hmc rfl (by rw [hT]; exact List.forall_mem_cons.mpr ⟨Or.inr ⟨by decide, _, q2483, by decide +kernel⟩, fun _ h => absurd h List.not_mem_nil⟩) ht hx
  · obtain ⟨x5, rfl, hw⟩ := hv
    refine lv_i2l C.1 C.2.1 dX0_character_7 rfl ?_
    refine r_last C hS dX0_character_8 hw (fun z6 H locs hw hS => ?_)
    refine lv_goto C.1 C.2.1 dX0_character_9 rfl ?_
    refine lv_iconst C.1 C.2.1 (v := 0) dX0_character_15 rfl ?_
    exact r_iret C hS hmc hr dX0_character_16 hw
end
theorem kX0_character {l : Launch} (hl : l.stackTraces = false) {G : gE} {P : Int32 → hSt → Prop} {PX : Nat → Nat → hSt → Prop} {v0 : Option Nat} {v1 : Int32} {v2 : Option Nat} {z : hSt} : cM l G yX0_character (wsW_ yX0_character cX0_character 4 (Option.some Jvm.ClassFile.FieldType.int) [((0 : Nat), (9 : Nat), (12 : Nat), (47 : Nat))]) 15 266 z [va_rf v0, .int v1, va_rf v2] (wX0_character G P PX v0 v1 v2 z) (pI P) PX := by
  refine m_ofH hl (plainFor_of_name (by decide)) (by rw [lg_sl1 (va_rf_cat _), lg_sl1 rfl, lg_sl1 (va_rf_cat _)]; exact Nat.le_of_ble_eq_true rfl) ?_
  intro p e s m args below meth c C hr hin hT hmc hw
  rw [lv_args1 (va_rf_cat _), lv_args1 rfl, lv_args1 (va_rf_cat _)]
  intro H locs ls hS hl
  exact kX0_characterb0 C hr hin hT hmc hw H locs ls hS (lv_sub hl [0, 1, 2] rfl)
theorem hdX0_character : yX0_character.cls ≠ "java/lang/invoke/MethodHandle" ∧ yX0_character.cls ≠ "java/lang/invoke/VarHandle" ∧ (parseMethodDescriptor yX0_character.desc).map (fun d => d.parameters.length) = some 3 := ⟨by decide +kernel, by decide +kernel, by decide +kernel⟩
abbrev rmX0_meanWear (mc ms : Nat) : Room := { frames := 15, cells := mc, slots := ms, locals := 267 }
def wX0_meanWearb10 (G : gE) (P : Int32 → hSt → Prop) (PX : Nat → Nat → hSt → Prop)  (s0 : Option Nat) (z : hSt) : Prop :=
  P 1 z
def wX0_meanWearb0 (G : gE) (P : Int32 → hSt → Prop) (PX : Nat → Nat → hSt → Prop)  (v0 : Option Nat) (v1 : Option Nat) (z : hSt) : Prop :=
  (rcv z v0 0 ∧ wX1_meanWear G (fun x5 z4 => asD G z4 v1 0 x5 (fun z6 => P 0 z6)) (fun c3 e2 z1 => (c3 = 33 ∧ wX0_meanWearb10 G P PX  (some e2) z1) ∨ (c3 ∈ ([8, 11, 28, 29, 30, 31, 32] : List Nat) ∧ PX c3 e2 z1)) v0  z)
def wX0_meanWear (G : gE) (P : Int32 → hSt → Prop) (PX : Nat → Nat → hSt → Prop) (v0 : Option Nat) (v1 : Option Nat) (z : hSt) : Prop := wX0_meanWearb0 G P PX v0 v1 z
section
variable {p : Program} {l : Launch} {e : Env} {s : State} {m : MethodId} {args : Array Value} {below : List Frame} {meth : Method} {c : Code} {G : gE} {mc ms : Nat} {P : Int32 → hSt → Prop} {PX : Nat → Nat → hSt → Prop}
theorem kX0_meanWearb10 (C : xC G p l s m args meth c cX0_meanWear 3 "ExcuseLedgerLaw") (hr : meth.sig.returnType = (Option.some Jvm.ClassFile.FieldType.int)) (hin : meth.name = "meanWear") (hT : c.exceptionTable.toList = tableOf [((0 : Nat), (7 : Nat), (10 : Nat), (104 : Nat))]) (hmc : mc = gL G - s.heap.size ∧ ms = gU G - hsum s.heap)   {s0 : Option Nat} {z : hSt} (hw : wX0_meanWearb10 G P PX  s0 z) : kt G p l e (rmX0_meanWear mc ms) s m args below meth c 3 (vx_MQ below (cQ G (pI P)) (cX G PX) args s mc ms (gF G)) 10 [] [va_rf s0] z := by
  intro H locs ls hS hl
  refine r_astore_n C.1 C.2.1 dX0_meanWear_10 rfl hl (Nat.le_of_ble_eq_true rfl) (ls_new ls_nil) (fun ls hl => ?_)
  refine lv_iconst C.1 C.2.1 (v := 1) dX0_meanWear_11 rfl ?_
  exact r_iret C hS hmc hr dX0_meanWear_12 hw
theorem kX0_meanWearb0 (C : xC G p l s m args meth c cX0_meanWear 3 "ExcuseLedgerLaw") (hr : meth.sig.returnType = (Option.some Jvm.ClassFile.FieldType.int)) (hin : meth.name = "meanWear") (hT : c.exceptionTable.toList = tableOf [((0 : Nat), (7 : Nat), (10 : Nat), (104 : Nat))]) (hmc : mc = gL G - s.heap.size ∧ ms = gU G - hsum s.heap)   {v0 : Option Nat} {v1 : Option Nat} {z : hSt} (hw : wX0_meanWearb0 G P PX  v0 v1 z) : kt G p l e (rmX0_meanWear mc ms) s m args below meth c 3 (vx_MQ below (cQ G (pI P)) (cX G PX) args s mc ms (gF G)) 0 [(0, va_rf v0), (1, va_rf v1)] [] z := by
  intro H locs ls hS hl
  refine r_aload_n C.1 C.2.1 dX0_meanWear_0 rfl (lv_at hl 1 rfl) ?_
  refine lv_iconst C.1 C.2.1 (v := 0) dX0_meanWear_1 rfl ?_
  refine r_aload_n C.1 C.2.1 dX0_meanWear_2 rfl (lv_at hl 0 rfl) ?_
  refine c_V C hS hmc hl.1 (ci := 0) rfl hw.1 (kX1_meanWear C.2.2.2.2.2.2.1) hw.2 (lw_V q2798 q2799 q2800 q67 q2801) ⟨rfl, hdX1_meanWear⟩ ⟨Nat.le_of_ble_eq_true rfl, Nat.le_of_ble_eq_true rfl⟩ (rest := [.int 0, va_rf v1]) rfl rfl (Nat.le_of_ble_eq_true rfl) dX0_meanWear_3 (fun c3 e2 z1 H locs hx hS ht => ?_) (fun v z4 H locs hv hS => ?_)
  · rcases hx with ⟨rfl, hw⟩ | ⟨h9, hx⟩
    · refine r_catch C [] (⟨0, 7, 10, 104⟩ : ExceptionTableEntry) [] (by rw [hT]; rfl) (ci := 33) rfl (fun _ h => absurd h List.not_mem_nil) (by decide) (by decide) q2784 q2796 ht ?_
      exact kX0_meanWearb10 C hr hin hT hmc  hw H locs ls hS (lv_sub hl [] rfl)
    · simp only [List.mem_cons, List.not_mem_nil, or_false] at h9
      rcases h9 with rfl | rfl | rfl | rfl | rfl | rfl | rfl
      · exact r_pass C hS hmc rfl (by rw [hT]; exact List.forall_mem_cons.mpr ⟨Or.inr ⟨by decide, _, q2784, by decide +kernel⟩, fun _ h => absurd h List.not_mem_nil⟩) ht hx
      · exact r_pass C hS hmc rfl (by rw [hT]; exact List.forall_mem_cons.mpr ⟨Or.inr ⟨by decide, _, q2784, by decide +kernel⟩, fun _ h => absurd h List.not_mem_nil⟩) ht hx
      · exact r_pass C hS hmc rfl (by rw [hT]; exact List.forall_mem_cons.mpr ⟨Or.inr ⟨by decide, _, q2784, by decide +kernel⟩, fun _ h => absurd h List.not_mem_nil⟩) ht hx
      · exact r_pass C hS hmc rfl (by rw [hT]; exact List.forall_mem_cons.mpr ⟨Or.inr ⟨by decide, _, q2784, by decide +kernel⟩, fun _ h => absurd h List.not_mem_nil⟩) ht hx
      · exact r_pass C hS hmc rfl (by rw [hT]; exact List.forall_mem_cons.mpr ⟨Or.inr ⟨by decide, _, q2784, by decide +kernel⟩, fun _ h => absurd h List.not_mem_nil⟩) ht hx
      · exact r_pass C hS hmc rfl (by rw [hT]; exact List.forall_mem_cons.mpr ⟨Or.inr ⟨by decide, _, q2784, by decide +kernel⟩, fun _ h => absurd h List.not_mem_nil⟩) ht hx
      · exact r_pass C hS hmc rfl (by rw [hT]; exact List.forall_mem_cons.mpr ⟨Or.inr ⟨by decide, _, q2784, by decide +kernel⟩, fun _ h => absurd h List.not_mem_nil⟩) ht hx
  · obtain ⟨x5, rfl, hw⟩ := hv
    refine r_dast C hS dX0_meanWear_6 hw (fun z6 H locs hw hS => ?_)
    refine lv_goto C.1 C.2.1 dX0_meanWear_7 rfl ?_
    refine lv_iconst C.1 C.2.1 (v := 0) dX0_meanWear_13 rfl ?_
    exact r_iret C hS hmc hr dX0_meanWear_14 hw
end
theorem kX0_meanWear {l : Launch} (hl : l.stackTraces = false) {G : gE} {P : Int32 → hSt → Prop} {PX : Nat → Nat → hSt → Prop} {v0 : Option Nat} {v1 : Option Nat} {z : hSt} : cM l G yX0_meanWear (wsW_ yX0_meanWear cX0_meanWear 3 (Option.some Jvm.ClassFile.FieldType.int) [((0 : Nat), (7 : Nat), (10 : Nat), (104 : Nat))]) 15 267 z [va_rf v0, va_rf v1] (wX0_meanWear G P PX v0 v1 z) (pI P) PX := by
  refine m_ofH hl (plainFor_of_name (by decide)) (by rw [lg_sl1 (va_rf_cat _), lg_sl1 (va_rf_cat _)]; exact Nat.le_of_ble_eq_true rfl) ?_
  intro p e s m args below meth c C hr hin hT hmc hw
  rw [lv_args1 (va_rf_cat _), lv_args1 (va_rf_cat _)]
  intro H locs ls hS hl
  exact kX0_meanWearb0 C hr hin hT hmc hw H locs ls hS (lv_sub hl [0, 1] rfl)
theorem hdX0_meanWear : yX0_meanWear.cls ≠ "java/lang/invoke/MethodHandle" ∧ yX0_meanWear.cls ≠ "java/lang/invoke/VarHandle" ∧ (parseMethodDescriptor yX0_meanWear.desc).map (fun d => d.parameters.length) = some 2 := ⟨by decide +kernel, by decide +kernel, by decide +kernel⟩
abbrev rmX0_believedShare (mc ms : Nat) : Room := { frames := 12, cells := mc, slots := ms, locals := 200 }
def wX0_believedShareb11 (G : gE) (P : Int32 → hSt → Prop) (PX : Nat → Nat → hSt → Prop)  (s0 : Option Nat) (z : hSt) : Prop :=
  P 1 z
def wX0_believedShareb0 (G : gE) (P : Int32 → hSt → Prop) (PX : Nat → Nat → hSt → Prop)  (v0 : Option Nat) (v1 : Option Nat) (z : hSt) : Prop :=
  (rcv z v0 0 ∧ wX1_believedShare G (fun x5 z4 => (vf_n64 (FP.f2d x5) ∧ asD G z4 v1 0 (FP.f2d x5) (fun z6 => P 0 z6))) (fun c3 e2 z1 => (c3 = 33 ∧ wX0_believedShareb11 G P PX  (some e2) z1) ∨ (c3 ∈ ([8, 11, 28, 29, 30, 31, 32] : List Nat) ∧ PX c3 e2 z1)) v0  z)
def wX0_believedShare (G : gE) (P : Int32 → hSt → Prop) (PX : Nat → Nat → hSt → Prop) (v0 : Option Nat) (v1 : Option Nat) (z : hSt) : Prop := wX0_believedShareb0 G P PX v0 v1 z
section
variable {p : Program} {l : Launch} {e : Env} {s : State} {m : MethodId} {args : Array Value} {below : List Frame} {meth : Method} {c : Code} {G : gE} {mc ms : Nat} {P : Int32 → hSt → Prop} {PX : Nat → Nat → hSt → Prop}
theorem kX0_believedShareb11 (C : xC G p l s m args meth c cX0_believedShare 3 "ExcuseLedgerLaw") (hr : meth.sig.returnType = (Option.some Jvm.ClassFile.FieldType.int)) (hin : meth.name = "believedShare") (hT : c.exceptionTable.toList = tableOf [((0 : Nat), (8 : Nat), (11 : Nat), (104 : Nat))]) (hmc : mc = gL G - s.heap.size ∧ ms = gU G - hsum s.heap)   {s0 : Option Nat} {z : hSt} (hw : wX0_believedShareb11 G P PX  s0 z) : kt G p l e (rmX0_believedShare mc ms) s m args below meth c 3 (vx_MQ below (cQ G (pI P)) (cX G PX) args s mc ms (gF G)) 11 [] [va_rf s0] z := by
  intro H locs ls hS hl
  refine r_astore_n C.1 C.2.1 dX0_believedShare_11 rfl hl (Nat.le_of_ble_eq_true rfl) (ls_new ls_nil) (fun ls hl => ?_)
  refine lv_iconst C.1 C.2.1 (v := 1) dX0_believedShare_12 rfl ?_
  exact r_iret C hS hmc hr dX0_believedShare_13 hw
theorem kX0_believedShareb0 (C : xC G p l s m args meth c cX0_believedShare 3 "ExcuseLedgerLaw") (hr : meth.sig.returnType = (Option.some Jvm.ClassFile.FieldType.int)) (hin : meth.name = "believedShare") (hT : c.exceptionTable.toList = tableOf [((0 : Nat), (8 : Nat), (11 : Nat), (104 : Nat))]) (hmc : mc = gL G - s.heap.size ∧ ms = gU G - hsum s.heap)   {v0 : Option Nat} {v1 : Option Nat} {z : hSt} (hw : wX0_believedShareb0 G P PX  v0 v1 z) : kt G p l e (rmX0_believedShare mc ms) s m args below meth c 3 (vx_MQ below (cQ G (pI P)) (cX G PX) args s mc ms (gF G)) 0 [(0, va_rf v0), (1, va_rf v1)] [] z := by
  intro H locs ls hS hl
  refine r_aload_n C.1 C.2.1 dX0_believedShare_0 rfl (lv_at hl 1 rfl) ?_
  refine lv_iconst C.1 C.2.1 (v := 0) dX0_believedShare_1 rfl ?_
  refine r_aload_n C.1 C.2.1 dX0_believedShare_2 rfl (lv_at hl 0 rfl) ?_
  refine c_V C hS hmc hl.1 (ci := 0) rfl hw.1 (kX1_believedShare C.2.2.2.2.2.2.1) hw.2 (lw_V q2816 q2817 q2818 q67 q2819) ⟨rfl, hdX1_believedShare⟩ ⟨Nat.le_of_ble_eq_true rfl, Nat.le_of_ble_eq_true rfl⟩ (rest := [.int 0, va_rf v1]) rfl rfl (Nat.le_of_ble_eq_true rfl) dX0_believedShare_3 (fun c3 e2 z1 H locs hx hS ht => ?_) (fun v z4 H locs hv hS => ?_)
  · rcases hx with ⟨rfl, hw⟩ | ⟨h9, hx⟩
    · refine r_catch C [] (⟨0, 8, 11, 104⟩ : ExceptionTableEntry) [] (by rw [hT]; rfl) (ci := 33) rfl (fun _ h => absurd h List.not_mem_nil) (by decide) (by decide) q2784 q2796 ht ?_
      exact kX0_believedShareb11 C hr hin hT hmc  hw H locs ls hS (lv_sub hl [] rfl)
    · simp only [List.mem_cons, List.not_mem_nil, or_false] at h9
      rcases h9 with rfl | rfl | rfl | rfl | rfl | rfl | rfl
      · exact r_pass C hS hmc rfl (by rw [hT]; exact List.forall_mem_cons.mpr ⟨Or.inr ⟨by decide, _, q2784, by decide +kernel⟩, fun _ h => absurd h List.not_mem_nil⟩) ht hx
      · exact r_pass C hS hmc rfl (by rw [hT]; exact List.forall_mem_cons.mpr ⟨Or.inr ⟨by decide, _, q2784, by decide +kernel⟩, fun _ h => absurd h List.not_mem_nil⟩) ht hx
      · exact r_pass C hS hmc rfl (by rw [hT]; exact List.forall_mem_cons.mpr ⟨Or.inr ⟨by decide, _, q2784, by decide +kernel⟩, fun _ h => absurd h List.not_mem_nil⟩) ht hx
      · exact r_pass C hS hmc rfl (by rw [hT]; exact List.forall_mem_cons.mpr ⟨Or.inr ⟨by decide, _, q2784, by decide +kernel⟩, fun _ h => absurd h List.not_mem_nil⟩) ht hx
      · exact r_pass C hS hmc rfl (by rw [hT]; exact List.forall_mem_cons.mpr ⟨Or.inr ⟨by decide, _, q2784, by decide +kernel⟩, fun _ h => absurd h List.not_mem_nil⟩) ht hx
      · exact r_pass C hS hmc rfl (by rw [hT]; exact List.forall_mem_cons.mpr ⟨Or.inr ⟨by decide, _, q2784, by decide +kernel⟩, fun _ h => absurd h List.not_mem_nil⟩) ht hx
      · exact r_pass C hS hmc rfl (by rw [hT]; exact List.forall_mem_cons.mpr ⟨Or.inr ⟨by decide, _, q2784, by decide +kernel⟩, fun _ h => absurd h List.not_mem_nil⟩) ht hx
  · obtain ⟨x5, rfl, hw⟩ := hv
    refine lv_f2d C.1 C.2.1 dX0_believedShare_6 hw.1 ?_
    have hw := hw.2
    refine r_dast C hS dX0_believedShare_7 hw (fun z6 H locs hw hS => ?_)
    refine lv_goto C.1 C.2.1 dX0_believedShare_8 rfl ?_
    refine lv_iconst C.1 C.2.1 (v := 0) dX0_believedShare_14 rfl ?_
    exact r_iret C hS hmc hr dX0_believedShare_15 hw
end
theorem kX0_believedShare {l : Launch} (hl : l.stackTraces = false) {G : gE} {P : Int32 → hSt → Prop} {PX : Nat → Nat → hSt → Prop} {v0 : Option Nat} {v1 : Option Nat} {z : hSt} : cM l G yX0_believedShare (wsW_ yX0_believedShare cX0_believedShare 3 (Option.some Jvm.ClassFile.FieldType.int) [((0 : Nat), (8 : Nat), (11 : Nat), (104 : Nat))]) 12 200 z [va_rf v0, va_rf v1] (wX0_believedShare G P PX v0 v1 z) (pI P) PX := by
  refine m_ofH hl (plainFor_of_name (by decide)) (by rw [lg_sl1 (va_rf_cat _), lg_sl1 (va_rf_cat _)]; exact Nat.le_of_ble_eq_true rfl) ?_
  intro p e s m args below meth c C hr hin hT hmc hw
  rw [lv_args1 (va_rf_cat _), lv_args1 (va_rf_cat _)]
  intro H locs ls hS hl
  exact kX0_believedShareb0 C hr hin hT hmc hw H locs ls hS (lv_sub hl [0, 1] rfl)
theorem hdX0_believedShare : yX0_believedShare.cls ≠ "java/lang/invoke/MethodHandle" ∧ yX0_believedShare.cls ≠ "java/lang/invoke/VarHandle" ∧ (parseMethodDescriptor yX0_believedShare.desc).map (fun d => d.parameters.length) = some 2 := ⟨by decide +kernel, by decide +kernel, by decide +kernel⟩
abbrev rmX0_account (mc ms : Nat) : Room := { frames := 16, cells := mc, slots := ms, locals := 288 }
def wX0_accountb12 (G : gE) (P : Int32 → hSt → Prop) (PX : Nat → Nat → hSt → Prop)  (s0 : Option Nat) (z : hSt) : Prop :=
  P 1 z
def wX0_accountb0 (G : gE) (P : Int32 → hSt → Prop) (PX : Nat → Nat → hSt → Prop)  (v0 : Option Nat) (v1 : Int32) (v2 : Option Nat) (z : hSt) : Prop :=
  (rcv z v0 0 ∧ wX1_account G (fun x5 z4 => asL G z4 v2 0 ((x5 : Int32).toInt64) (fun z6 => P 0 z6)) (fun c3 e2 z1 => (c3 = 29 ∧ wX0_accountb12 G P PX  (some e2) z1) ∨ (c3 ∈ ([8, 11, 28, 30, 31, 32, 33] : List Nat) ∧ PX c3 e2 z1)) v0 v1 z)
def wX0_account (G : gE) (P : Int32 → hSt → Prop) (PX : Nat → Nat → hSt → Prop) (v0 : Option Nat) (v1 : Int32) (v2 : Option Nat) (z : hSt) : Prop := wX0_accountb0 G P PX v0 v1 v2 z
section
variable {p : Program} {l : Launch} {e : Env} {s : State} {m : MethodId} {args : Array Value} {below : List Frame} {meth : Method} {c : Code} {G : gE} {mc ms : Nat} {P : Int32 → hSt → Prop} {PX : Nat → Nat → hSt → Prop}
theorem kX0_accountb12 (C : xC G p l s m args meth c cX0_account 4 "ExcuseLedgerLaw") (hr : meth.sig.returnType = (Option.some Jvm.ClassFile.FieldType.int)) (hin : meth.name = "account") (hT : c.exceptionTable.toList = tableOf [((0 : Nat), (9 : Nat), (12 : Nat), (15 : Nat))]) (hmc : mc = gL G - s.heap.size ∧ ms = gU G - hsum s.heap)   {s0 : Option Nat} {z : hSt} (hw : wX0_accountb12 G P PX  s0 z) : kt G p l e (rmX0_account mc ms) s m args below meth c 4 (vx_MQ below (cQ G (pI P)) (cX G PX) args s mc ms (gF G)) 12 [] [va_rf s0] z := by
  intro H locs ls hS hl
  refine r_astore_n C.1 C.2.1 dX0_account_12 rfl hl (Nat.le_of_ble_eq_true rfl) (ls_new ls_nil) (fun ls hl => ?_)
  refine lv_iconst C.1 C.2.1 (v := 1) dX0_account_13 rfl ?_
  exact r_iret C hS hmc hr dX0_account_14 hw
theorem kX0_accountb0 (C : xC G p l s m args meth c cX0_account 4 "ExcuseLedgerLaw") (hr : meth.sig.returnType = (Option.some Jvm.ClassFile.FieldType.int)) (hin : meth.name = "account") (hT : c.exceptionTable.toList = tableOf [((0 : Nat), (9 : Nat), (12 : Nat), (15 : Nat))]) (hmc : mc = gL G - s.heap.size ∧ ms = gU G - hsum s.heap)   {v0 : Option Nat} {v1 : Int32} {v2 : Option Nat} {z : hSt} (hw : wX0_accountb0 G P PX  v0 v1 v2 z) : kt G p l e (rmX0_account mc ms) s m args below meth c 4 (vx_MQ below (cQ G (pI P)) (cX G PX) args s mc ms (gF G)) 0 [(0, va_rf v0), (1, .int v1), (2, va_rf v2)] [] z := by
  intro H locs ls hS hl
  refine r_aload_n C.1 C.2.1 dX0_account_0 rfl (lv_at hl 2 rfl) ?_
  refine lv_iconst C.1 C.2.1 (v := 0) dX0_account_1 rfl ?_
  refine r_aload_n C.1 C.2.1 dX0_account_2 rfl (lv_at hl 0 rfl) ?_
  refine lv_iload_n C.1 C.2.1 dX0_account_3 rfl (lv_at hl 1 rfl) ?_
  refine c_V C hS hmc hl.1 (ci := 0) rfl hw.1 (kX1_account C.2.2.2.2.2.2.1) hw.2 (lw_V q2828 q2829 q2830 q67 q2831) ⟨rfl, hdX1_account⟩ ⟨Nat.le_of_ble_eq_true rfl, Nat.le_of_ble_eq_true rfl⟩ (rest := [.int 0, va_rf v2]) rfl rfl (Nat.le_of_ble_eq_true rfl) dX0_account_4 (fun c3 e2 z1 H locs hx hS ht => ?_) (fun v z4 H locs hv hS => ?_)
  · rcases hx with ⟨rfl, hw⟩ | ⟨h9, hx⟩
    · refine r_catch C [] (⟨0, 9, 12, 15⟩ : ExceptionTableEntry) [] (by rw [hT]; rfl) (ci := 29) rfl (fun _ h => absurd h List.not_mem_nil) (by decide) (by decide) q2376 q999 ht ?_
      exact kX0_accountb12 C hr hin hT hmc  hw H locs ls hS (lv_sub hl [] rfl)
    · simp only [List.mem_cons, List.not_mem_nil, or_false] at h9
      rcases h9 with rfl | rfl | rfl | rfl | rfl | rfl | rfl
      · exact r_pass C hS hmc rfl (by rw [hT]; exact List.forall_mem_cons.mpr ⟨Or.inr ⟨by decide, _, q2376, by decide +kernel⟩, fun _ h => absurd h List.not_mem_nil⟩) ht hx
      · exact r_pass C hS hmc rfl (by rw [hT]; exact List.forall_mem_cons.mpr ⟨Or.inr ⟨by decide, _, q2376, by decide +kernel⟩, fun _ h => absurd h List.not_mem_nil⟩) ht hx
      · exact r_pass C hS hmc rfl (by rw [hT]; exact List.forall_mem_cons.mpr ⟨Or.inr ⟨by decide, _, q2376, by decide +kernel⟩, fun _ h => absurd h List.not_mem_nil⟩) ht hx
      · exact r_pass C hS hmc rfl (by rw [hT]; exact List.forall_mem_cons.mpr ⟨Or.inr ⟨by decide, _, q2376, by decide +kernel⟩, fun _ h => absurd h List.not_mem_nil⟩) ht hx
      · exact r_pass C hS hmc rfl (by rw [hT]; exact List.forall_mem_cons.mpr ⟨Or.inr ⟨by decide, _, q2376, by decide +kernel⟩, fun _ h => absurd h List.not_mem_nil⟩) ht hx
      · exact r_pass C hS hmc rfl (by rw [hT]; exact List.forall_mem_cons.mpr ⟨Or.inr ⟨by decide, _, q2376, by decide +kernel⟩, fun _ h => absurd h List.not_mem_nil⟩) ht hx
      · exact r_pass C hS hmc rfl (by rw [hT]; exact List.forall_mem_cons.mpr ⟨Or.inr ⟨by decide, _, q2376, by decide +kernel⟩, fun _ h => absurd h List.not_mem_nil⟩) ht hx
  · obtain ⟨x5, rfl, hw⟩ := hv
    refine lv_i2l C.1 C.2.1 dX0_account_7 rfl ?_
    refine r_last C hS dX0_account_8 hw (fun z6 H locs hw hS => ?_)
    refine lv_goto C.1 C.2.1 dX0_account_9 rfl ?_
    refine lv_iconst C.1 C.2.1 (v := 0) dX0_account_15 rfl ?_
    exact r_iret C hS hmc hr dX0_account_16 hw
end
theorem kX0_account {l : Launch} (hl : l.stackTraces = false) {G : gE} {P : Int32 → hSt → Prop} {PX : Nat → Nat → hSt → Prop} {v0 : Option Nat} {v1 : Int32} {v2 : Option Nat} {z : hSt} : cM l G yX0_account (wsW_ yX0_account cX0_account 4 (Option.some Jvm.ClassFile.FieldType.int) [((0 : Nat), (9 : Nat), (12 : Nat), (15 : Nat))]) 16 288 z [va_rf v0, .int v1, va_rf v2] (wX0_account G P PX v0 v1 v2 z) (pI P) PX := by
  refine m_ofH hl (plainFor_of_name (by decide)) (by rw [lg_sl1 (va_rf_cat _), lg_sl1 rfl, lg_sl1 (va_rf_cat _)]; exact Nat.le_of_ble_eq_true rfl) ?_
  intro p e s m args below meth c C hr hin hT hmc hw
  rw [lv_args1 (va_rf_cat _), lv_args1 rfl, lv_args1 (va_rf_cat _)]
  intro H locs ls hS hl
  exact kX0_accountb0 C hr hin hT hmc hw H locs ls hS (lv_sub hl [0, 1, 2] rfl)
theorem hdX0_account : yX0_account.cls ≠ "java/lang/invoke/MethodHandle" ∧ yX0_account.cls ≠ "java/lang/invoke/VarHandle" ∧ (parseMethodDescriptor yX0_account.desc).map (fun d => d.parameters.length) = some 3 := ⟨by decide +kernel, by decide +kernel, by decide +kernel⟩
abbrev rmX0_append (mc ms : Nat) : Room := { frames := 16, cells := mc, slots := ms, locals := 293 }
def wX0_appendb12 (G : gE) (P : Int32 → hSt → Prop) (PX : Nat → Nat → hSt → Prop)  (s0 : Option Nat) (z : hSt) : Prop :=
  P 1 z
def wX0_appendb15 (G : gE) (P : Int32 → hSt → Prop) (PX : Nat → Nat → hSt → Prop)  (s0 : Option Nat) (z : hSt) : Prop :=
  P 2 z
def wX0_appendb0 (G : gE) (P : Int32 → hSt → Prop) (PX : Nat → Nat → hSt → Prop)  (v0 : Option Nat) (v1 : Int32) (v2 : Option Nat) (z : hSt) : Prop :=
  (rcv z v0 0 ∧ wX1_append G (fun x5 z4 => asL G z4 v2 0 ((x5 : Int32).toInt64) (fun z6 => P 0 z6)) (fun c3 e2 z1 => (c3 = 29 ∧ wX0_appendb12 G P PX  (some e2) z1) ∨ (c3 = 31 ∧ wX0_appendb15 G P PX  (some e2) z1) ∨ (c3 ∈ ([8, 11, 28, 30, 32, 33] : List Nat) ∧ PX c3 e2 z1)) v0 v1 z)
def wX0_append (G : gE) (P : Int32 → hSt → Prop) (PX : Nat → Nat → hSt → Prop) (v0 : Option Nat) (v1 : Int32) (v2 : Option Nat) (z : hSt) : Prop := wX0_appendb0 G P PX v0 v1 v2 z
section
variable {p : Program} {l : Launch} {e : Env} {s : State} {m : MethodId} {args : Array Value} {below : List Frame} {meth : Method} {c : Code} {G : gE} {mc ms : Nat} {P : Int32 → hSt → Prop} {PX : Nat → Nat → hSt → Prop}
theorem kX0_appendb12 (C : xC G p l s m args meth c cX0_append 4 "ExcuseLedgerLaw") (hr : meth.sig.returnType = (Option.some Jvm.ClassFile.FieldType.int)) (hin : meth.name = "append") (hT : c.exceptionTable.toList = tableOf [((0 : Nat), (9 : Nat), (12 : Nat), (15 : Nat)), ((0 : Nat), (9 : Nat), (15 : Nat), (117 : Nat))]) (hmc : mc = gL G - s.heap.size ∧ ms = gU G - hsum s.heap)   {s0 : Option Nat} {z : hSt} (hw : wX0_appendb12 G P PX  s0 z) : kt G p l e (rmX0_append mc ms) s m args below meth c 4 (vx_MQ below (cQ G (pI P)) (cX G PX) args s mc ms (gF G)) 12 [] [va_rf s0] z := by
  intro H locs ls hS hl
  refine r_astore_n C.1 C.2.1 dX0_append_12 rfl hl (Nat.le_of_ble_eq_true rfl) (ls_new ls_nil) (fun ls hl => ?_)
  refine lv_iconst C.1 C.2.1 (v := 1) dX0_append_13 rfl ?_
  exact r_iret C hS hmc hr dX0_append_14 hw
theorem kX0_appendb15 (C : xC G p l s m args meth c cX0_append 4 "ExcuseLedgerLaw") (hr : meth.sig.returnType = (Option.some Jvm.ClassFile.FieldType.int)) (hin : meth.name = "append") (hT : c.exceptionTable.toList = tableOf [((0 : Nat), (9 : Nat), (12 : Nat), (15 : Nat)), ((0 : Nat), (9 : Nat), (15 : Nat), (117 : Nat))]) (hmc : mc = gL G - s.heap.size ∧ ms = gU G - hsum s.heap)   {s0 : Option Nat} {z : hSt} (hw : wX0_appendb15 G P PX  s0 z) : kt G p l e (rmX0_append mc ms) s m args below meth c 4 (vx_MQ below (cQ G (pI P)) (cX G PX) args s mc ms (gF G)) 15 [] [va_rf s0] z := by
  intro H locs ls hS hl
  refine r_astore_n C.1 C.2.1 dX0_append_15 rfl hl (Nat.le_of_ble_eq_true rfl) (ls_new ls_nil) (fun ls hl => ?_)
  refine lv_iconst C.1 C.2.1 (v := 2) dX0_append_16 rfl ?_
  exact r_iret C hS hmc hr dX0_append_17 hw
theorem kX0_appendb0 (C : xC G p l s m args meth c cX0_append 4 "ExcuseLedgerLaw") (hr : meth.sig.returnType = (Option.some Jvm.ClassFile.FieldType.int)) (hin : meth.name = "append") (hT : c.exceptionTable.toList = tableOf [((0 : Nat), (9 : Nat), (12 : Nat), (15 : Nat)), ((0 : Nat), (9 : Nat), (15 : Nat), (117 : Nat))]) (hmc : mc = gL G - s.heap.size ∧ ms = gU G - hsum s.heap)   {v0 : Option Nat} {v1 : Int32} {v2 : Option Nat} {z : hSt} (hw : wX0_appendb0 G P PX  v0 v1 v2 z) : kt G p l e (rmX0_append mc ms) s m args below meth c 4 (vx_MQ below (cQ G (pI P)) (cX G PX) args s mc ms (gF G)) 0 [(0, va_rf v0), (1, .int v1), (2, va_rf v2)] [] z := by
  intro H locs ls hS hl
  refine r_aload_n C.1 C.2.1 dX0_append_0 rfl (lv_at hl 2 rfl) ?_
  refine lv_iconst C.1 C.2.1 (v := 0) dX0_append_1 rfl ?_
  refine r_aload_n C.1 C.2.1 dX0_append_2 rfl (lv_at hl 0 rfl) ?_
  refine lv_iload_n C.1 C.2.1 dX0_append_3 rfl (lv_at hl 1 rfl) ?_
  refine c_V C hS hmc hl.1 (ci := 0) rfl hw.1 (kX1_append C.2.2.2.2.2.2.1) hw.2 (lw_V q2840 q2841 q2842 q67 q2843) ⟨rfl, hdX1_append⟩ ⟨Nat.le_of_ble_eq_true rfl, Nat.le_of_ble_eq_true rfl⟩ (rest := [.int 0, va_rf v2]) rfl rfl (Nat.le_of_ble_eq_true rfl) dX0_append_4 (fun c3 e2 z1 H locs hx hS ht => ?_) (fun v z4 H locs hv hS => ?_)
  · rcases hx with ⟨rfl, hw⟩ | ⟨rfl, hw⟩ | ⟨h9, hx⟩
    · refine r_catch C [] (⟨0, 9, 12, 15⟩ : ExceptionTableEntry) [(⟨0, 9, 15, 117⟩ : ExceptionTableEntry)] (by rw [hT]; rfl) (ci := 29) rfl (fun _ h => absurd h List.not_mem_nil) (by decide) (by decide) q2376 q999 ht ?_
      exact kX0_appendb12 C hr hin hT hmc  hw H locs ls hS (lv_sub hl [] rfl)
    · refine r_catch C [(⟨0, 9, 12, 15⟩ : ExceptionTableEntry)] (⟨0, 9, 15, 117⟩ : ExceptionTableEntry) [] (by rw [hT]; rfl) (ci := 31) rfl (List.forall_mem_cons.mpr ⟨Or.inr ⟨by decide, _, q2376, by decide +kernel⟩, fun _ h => absurd h List.not_mem_nil⟩) (by decide) (by decide) q2839 q1997 ht ?_
      exact kX0_appendb15 C hr hin hT hmc  hw H locs ls hS (lv_sub hl [] rfl)
    · simp only [List.mem_cons, List.not_mem_nil, or_false] at h9
      rcases h9 with rfl | rfl | rfl | rfl | rfl | rfl
      · exact r_pass C hS hmc rfl (by rw [hT]; exact List.forall_mem_cons.mpr ⟨Or.inr ⟨by decide, _, q2376, by decide +kernel⟩, List.forall_mem_cons.mpr ⟨Or.inr ⟨by decide, _, q2839, by decide +kernel⟩, fun _ h => absurd h List.not_mem_nil⟩⟩) ht hx
      · exact r_pass C hS hmc rfl (by rw [hT]; exact List.forall_mem_cons.mpr ⟨Or.inr ⟨by decide, _, q2376, by decide +kernel⟩, List.forall_mem_cons.mpr ⟨Or.inr ⟨by decide, _, q2839, by decide +kernel⟩, fun _ h => absurd h List.not_mem_nil⟩⟩) ht hx
      · exact r_pass C hS hmc rfl (by rw [hT]; exact List.forall_mem_cons.mpr ⟨Or.inr ⟨by decide, _, q2376, by decide +kernel⟩, List.forall_mem_cons.mpr ⟨Or.inr ⟨by decide, _, q2839, by decide +kernel⟩, fun _ h => absurd h List.not_mem_nil⟩⟩) ht hx
      · exact r_pass C hS hmc rfl (by rw [hT]; exact List.forall_mem_cons.mpr ⟨Or.inr ⟨by decide, _, q2376, by decide +kernel⟩, List.forall_mem_cons.mpr ⟨Or.inr ⟨by decide, _, q2839, by decide +kernel⟩, fun _ h => absurd h List.not_mem_nil⟩⟩) ht hx
      · exact r_pass C hS hmc rfl (by rw [hT]; exact List.forall_mem_cons.mpr ⟨Or.inr ⟨by decide, _, q2376, by decide +kernel⟩, List.forall_mem_cons.mpr ⟨Or.inr ⟨by decide, _, q2839, by decide +kernel⟩, fun _ h => absurd h List.not_mem_nil⟩⟩) ht hx
      · exact r_pass C hS hmc rfl (by rw [hT]; exact List.forall_mem_cons.mpr ⟨Or.inr ⟨by decide, _, q2376, by decide +kernel⟩, List.forall_mem_cons.mpr ⟨Or.inr ⟨by decide, _, q2839, by decide +kernel⟩, fun _ h => absurd h List.not_mem_nil⟩⟩) ht hx
  · obtain ⟨x5, rfl, hw⟩ := hv
    refine lv_i2l C.1 C.2.1 dX0_append_7 rfl ?_
    refine r_last C hS dX0_append_8 hw (fun z6 H locs hw hS => ?_)
    refine lv_goto C.1 C.2.1 dX0_append_9 rfl ?_
    refine lv_iconst C.1 C.2.1 (v := 0) dX0_append_18 rfl ?_
    exact r_iret C hS hmc hr dX0_append_19 hw
end
theorem kX0_append {l : Launch} (hl : l.stackTraces = false) {G : gE} {P : Int32 → hSt → Prop} {PX : Nat → Nat → hSt → Prop} {v0 : Option Nat} {v1 : Int32} {v2 : Option Nat} {z : hSt} : cM l G yX0_append (wsW_ yX0_append cX0_append 4 (Option.some Jvm.ClassFile.FieldType.int) [((0 : Nat), (9 : Nat), (12 : Nat), (15 : Nat)), ((0 : Nat), (9 : Nat), (15 : Nat), (117 : Nat))]) 16 293 z [va_rf v0, .int v1, va_rf v2] (wX0_append G P PX v0 v1 v2 z) (pI P) PX := by
  refine m_ofH hl (plainFor_of_name (by decide)) (by rw [lg_sl1 (va_rf_cat _), lg_sl1 rfl, lg_sl1 (va_rf_cat _)]; exact Nat.le_of_ble_eq_true rfl) ?_
  intro p e s m args below meth c C hr hin hT hmc hw
  rw [lv_args1 (va_rf_cat _), lv_args1 rfl, lv_args1 (va_rf_cat _)]
  intro H locs ls hS hl
  exact kX0_appendb0 C hr hin hT hmc hw H locs ls hS (lv_sub hl [0, 1, 2] rfl)
theorem hdX0_append : yX0_append.cls ≠ "java/lang/invoke/MethodHandle" ∧ yX0_append.cls ≠ "java/lang/invoke/VarHandle" ∧ (parseMethodDescriptor yX0_append.desc).map (fun d => d.parameters.length) = some 3 := ⟨by decide +kernel, by decide +kernel, by decide +kernel⟩
abbrev rmX0_read (mc ms : Nat) : Room := { frames := 21, cells := mc, slots := ms, locals := 1432 }
def wX0_readb11 (G : gE) (P : Int32 → hSt → Prop) (PX : Nat → Nat → hSt → Prop)  (s0 : Option Nat) (z : hSt) : Prop :=
  P 1 z
def wX0_readb17 (G : gE) (P : Int32 → hSt → Prop) (PX : Nat → Nat → hSt → Prop)  (s0 : Option Nat) (z : hSt) : Prop :=
  P 3 z
def wX0_readb14 (G : gE) (P : Int32 → hSt → Prop) (PX : Nat → Nat → hSt → Prop)  (s0 : Option Nat) (z : hSt) : Prop :=
  P 2 z
def wX0_readb0 (G : gE) (P : Int32 → hSt → Prop) (PX : Nat → Nat → hSt → Prop)  (v0 : Option Nat) (v1 : Option Nat) (z : hSt) : Prop :=
  (rcv z v0 0 ∧ wX1_read G (fun x5 z4 => asL G z4 v1 0 ((x5 : Int32).toInt64) (fun z6 => P 0 z6)) (fun c3 e2 z1 => (c3 = 29 ∧ wX0_readb11 G P PX  (some e2) z1) ∨ (c3 = 30 ∧ wX0_readb17 G P PX  (some e2) z1) ∨ (c3 = 31 ∧ wX0_readb14 G P PX  (some e2) z1) ∨ (c3 ∈ ([8, 11, 28, 32, 33] : List Nat) ∧ PX c3 e2 z1)) v0  z)
def wX0_read (G : gE) (P : Int32 → hSt → Prop) (PX : Nat → Nat → hSt → Prop) (v0 : Option Nat) (v1 : Option Nat) (z : hSt) : Prop := wX0_readb0 G P PX v0 v1 z
section
variable {p : Program} {l : Launch} {e : Env} {s : State} {m : MethodId} {args : Array Value} {below : List Frame} {meth : Method} {c : Code} {G : gE} {mc ms : Nat} {P : Int32 → hSt → Prop} {PX : Nat → Nat → hSt → Prop}
theorem kX0_readb11 (C : xC G p l s m args meth c cX0_read 3 "ExcuseLedgerLaw") (hr : meth.sig.returnType = (Option.some Jvm.ClassFile.FieldType.int)) (hin : meth.name = "read") (hT : c.exceptionTable.toList = tableOf [((0 : Nat), (8 : Nat), (11 : Nat), (15 : Nat)), ((0 : Nat), (8 : Nat), (14 : Nat), (117 : Nat)), ((0 : Nat), (8 : Nat), (17 : Nat), (17 : Nat))]) (hmc : mc = gL G - s.heap.size ∧ ms = gU G - hsum s.heap)   {s0 : Option Nat} {z : hSt} (hw : wX0_readb11 G P PX  s0 z) : kt G p l e (rmX0_read mc ms) s m args below meth c 3 (vx_MQ below (cQ G (pI P)) (cX G PX) args s mc ms (gF G)) 11 [] [va_rf s0] z := by
  intro H locs ls hS hl
  refine r_astore_n C.1 C.2.1 dX0_read_11 rfl hl (Nat.le_of_ble_eq_true rfl) (ls_new ls_nil) (fun ls hl => ?_)
  refine lv_iconst C.1 C.2.1 (v := 1) dX0_read_12 rfl ?_
  exact r_iret C hS hmc hr dX0_read_13 hw
theorem kX0_readb17 (C : xC G p l s m args meth c cX0_read 3 "ExcuseLedgerLaw") (hr : meth.sig.returnType = (Option.some Jvm.ClassFile.FieldType.int)) (hin : meth.name = "read") (hT : c.exceptionTable.toList = tableOf [((0 : Nat), (8 : Nat), (11 : Nat), (15 : Nat)), ((0 : Nat), (8 : Nat), (14 : Nat), (117 : Nat)), ((0 : Nat), (8 : Nat), (17 : Nat), (17 : Nat))]) (hmc : mc = gL G - s.heap.size ∧ ms = gU G - hsum s.heap)   {s0 : Option Nat} {z : hSt} (hw : wX0_readb17 G P PX  s0 z) : kt G p l e (rmX0_read mc ms) s m args below meth c 3 (vx_MQ below (cQ G (pI P)) (cX G PX) args s mc ms (gF G)) 17 [] [va_rf s0] z := by
  intro H locs ls hS hl
  refine r_astore_n C.1 C.2.1 dX0_read_17 rfl hl (Nat.le_of_ble_eq_true rfl) (ls_new ls_nil) (fun ls hl => ?_)
  refine lv_iconst C.1 C.2.1 (v := 3) dX0_read_18 rfl ?_
  exact r_iret C hS hmc hr dX0_read_19 hw
theorem kX0_readb14 (C : xC G p l s m args meth c cX0_read 3 "ExcuseLedgerLaw") (hr : meth.sig.returnType = (Option.some Jvm.ClassFile.FieldType.int)) (hin : meth.name = "read") (hT : c.exceptionTable.toList = tableOf [((0 : Nat), (8 : Nat), (11 : Nat), (15 : Nat)), ((0 : Nat), (8 : Nat), (14 : Nat), (117 : Nat)), ((0 : Nat), (8 : Nat), (17 : Nat), (17 : Nat))]) (hmc : mc = gL G - s.heap.size ∧ ms = gU G - hsum s.heap)   {s0 : Option Nat} {z : hSt} (hw : wX0_readb14 G P PX  s0 z) : kt G p l e (rmX0_read mc ms) s m args below meth c 3 (vx_MQ below (cQ G (pI P)) (cX G PX) args s mc ms (gF G)) 14 [] [va_rf s0] z := by
  intro H locs ls hS hl
  refine r_astore_n C.1 C.2.1 dX0_read_14 rfl hl (Nat.le_of_ble_eq_true rfl) (ls_new ls_nil) (fun ls hl => ?_)
  refine lv_iconst C.1 C.2.1 (v := 2) dX0_read_15 rfl ?_
  exact r_iret C hS hmc hr dX0_read_16 hw
theorem kX0_readb0 (C : xC G p l s m args meth c cX0_read 3 "ExcuseLedgerLaw") (hr : meth.sig.returnType = (Option.some Jvm.ClassFile.FieldType.int)) (hin : meth.name = "read") (hT : c.exceptionTable.toList = tableOf [((0 : Nat), (8 : Nat), (11 : Nat), (15 : Nat)), ((0 : Nat), (8 : Nat), (14 : Nat), (117 : Nat)), ((0 : Nat), (8 : Nat), (17 : Nat), (17 : Nat))]) (hmc : mc = gL G - s.heap.size ∧ ms = gU G - hsum s.heap)   {v0 : Option Nat} {v1 : Option Nat} {z : hSt} (hw : wX0_readb0 G P PX  v0 v1 z) : kt G p l e (rmX0_read mc ms) s m args below meth c 3 (vx_MQ below (cQ G (pI P)) (cX G PX) args s mc ms (gF G)) 0 [(0, va_rf v0), (1, va_rf v1)] [] z := by
  intro H locs ls hS hl
  refine r_aload_n C.1 C.2.1 dX0_read_0 rfl (lv_at hl 1 rfl) ?_
  refine lv_iconst C.1 C.2.1 (v := 0) dX0_read_1 rfl ?_
  refine r_aload_n C.1 C.2.1 dX0_read_2 rfl (lv_at hl 0 rfl) ?_
  refine c_VX C hS hmc hl.1 (ci := 0) rfl hw.1 (kX1_read C.2.2.2.2.2.2.1) hw.2 (lw_VW q2849 q2850 q2851 q67 q2852) ⟨rfl, hdX1_read⟩ ⟨Nat.le_of_ble_eq_true rfl, Nat.le_of_ble_eq_true rfl⟩ (rest := [.int 0, va_rf v1]) rfl rfl (Nat.le_of_ble_eq_true rfl) dX0_read_3 (fun c3 e2 z1 H locs hx hS ht => ?_) (fun v z4 H locs hv hS => ?_)
  · rcases hx with ⟨rfl, hw⟩ | ⟨rfl, hw⟩ | ⟨rfl, hw⟩ | ⟨h9, hx⟩
    · refine r_catch C [] (⟨0, 8, 11, 15⟩ : ExceptionTableEntry) [(⟨0, 8, 14, 117⟩ : ExceptionTableEntry), (⟨0, 8, 17, 17⟩ : ExceptionTableEntry)] (by rw [hT]; rfl) (ci := 29) rfl (fun _ h => absurd h List.not_mem_nil) (by decide) (by decide) q2376 q999 ht ?_
      exact kX0_readb11 C hr hin hT hmc  hw H locs ls hS (lv_sub hl [] rfl)
    · refine r_catch C [(⟨0, 8, 11, 15⟩ : ExceptionTableEntry), (⟨0, 8, 14, 117⟩ : ExceptionTableEntry)] (⟨0, 8, 17, 17⟩ : ExceptionTableEntry) [] (by rw [hT]; rfl) (ci := 30) rfl (List.forall_mem_cons.mpr ⟨Or.inr ⟨by decide, _, q2376, by decide +kernel⟩, List.forall_mem_cons.mpr ⟨Or.inr ⟨by decide, _, q2839, by decide +kernel⟩, fun _ h => absurd h List.not_mem_nil⟩⟩) (by decide) (by decide) q2377 q1943 ht ?_
      exact kX0_readb17 C hr hin hT hmc  hw H locs ls hS (lv_sub hl [] rfl)
    · refine r_catch C [(⟨0, 8, 11, 15⟩ : ExceptionTableEntry)] (⟨0, 8, 14, 117⟩ : ExceptionTableEntry) [(⟨0, 8, 17, 17⟩ : ExceptionTableEntry)] (by rw [hT]; rfl) (ci := 31) rfl (List.forall_mem_cons.mpr ⟨Or.inr ⟨by decide, _, q2376, by decide +kernel⟩, fun _ h => absurd h List.not_mem_nil⟩) (by decide) (by decide) q2839 q1997 ht ?_
      exact kX0_readb14 C hr hin hT hmc  hw H locs ls hS (lv_sub hl [] rfl)
    · simp only [List.mem_cons, List.not_mem_nil, or_false] at h9
      rcases h9 with rfl | rfl | rfl | rfl | rfl
      · exact r_pass C hS hmc rfl (by rw [hT]; exact List.forall_mem_cons.mpr ⟨Or.inr ⟨by decide, _, q2376, by decide +kernel⟩, List.forall_mem_cons.mpr ⟨Or.inr ⟨by decide, _, q2839, by decide +kernel⟩, List.forall_mem_cons.mpr ⟨Or.inr ⟨by decide, _, q2377, by decide +kernel⟩, fun _ h => absurd h List.not_mem_nil⟩⟩⟩) ht hx
      · exact r_pass C hS hmc rfl (by rw [hT]; exact List.forall_mem_cons.mpr ⟨Or.inr ⟨by decide, _, q2376, by decide +kernel⟩, List.forall_mem_cons.mpr ⟨Or.inr ⟨by decide, _, q2839, by decide +kernel⟩, List.forall_mem_cons.mpr ⟨Or.inr ⟨by decide, _, q2377, by decide +kernel⟩, fun _ h => absurd h List.not_mem_nil⟩⟩⟩) ht hx
      · exact r_pass C hS hmc rfl (by rw [hT]; exact List.forall_mem_cons.mpr ⟨Or.inr ⟨by decide, _, q2376, by decide +kernel⟩, List.forall_mem_cons.mpr ⟨Or.inr ⟨by decide, _, q2839, by decide +kernel⟩, List.forall_mem_cons.mpr ⟨Or.inr ⟨by decide, _, q2377, by decide +kernel⟩, fun _ h => absurd h List.not_mem_nil⟩⟩⟩) ht hx
      · exact r_pass C hS hmc rfl (by rw [hT]; exact List.forall_mem_cons.mpr ⟨Or.inr ⟨by decide, _, q2376, by decide +kernel⟩, List.forall_mem_cons.mpr ⟨Or.inr ⟨by decide, _, q2839, by decide +kernel⟩, List.forall_mem_cons.mpr ⟨Or.inr ⟨by decide, _, q2377, by decide +kernel⟩, fun _ h => absurd h List.not_mem_nil⟩⟩⟩) ht hx
      · exact r_pass C hS hmc rfl (by rw [hT]; exact List.forall_mem_cons.mpr ⟨Or.inr ⟨by decide, _, q2376, by decide +kernel⟩, List.forall_mem_cons.mpr ⟨Or.inr ⟨by decide, _, q2839, by decide +kernel⟩, List.forall_mem_cons.mpr ⟨Or.inr ⟨by decide, _, q2377, by decide +kernel⟩, fun _ h => absurd h List.not_mem_nil⟩⟩⟩) ht hx
  · obtain ⟨x5, rfl, hw⟩ := hv
    refine lv_i2l C.1 C.2.1 dX0_read_6 rfl ?_
    refine r_last C hS dX0_read_7 hw (fun z6 H locs hw hS => ?_)
    refine lv_goto C.1 C.2.1 dX0_read_8 rfl ?_
    refine lv_iconst C.1 C.2.1 (v := 0) dX0_read_20 rfl ?_
    exact r_iret C hS hmc hr dX0_read_21 hw
end
theorem kX0_read {l : Launch} (hl : l.stackTraces = false) {G : gE} {P : Int32 → hSt → Prop} {PX : Nat → Nat → hSt → Prop} {v0 : Option Nat} {v1 : Option Nat} {z : hSt} : cM l G yX0_read (wsW_ yX0_read cX0_read 3 (Option.some Jvm.ClassFile.FieldType.int) [((0 : Nat), (8 : Nat), (11 : Nat), (15 : Nat)), ((0 : Nat), (8 : Nat), (14 : Nat), (117 : Nat)), ((0 : Nat), (8 : Nat), (17 : Nat), (17 : Nat))]) 21 1432 z [va_rf v0, va_rf v1] (wX0_read G P PX v0 v1 z) (pI P) PX := by
  refine m_ofH hl (plainFor_of_name (by decide)) (by rw [lg_sl1 (va_rf_cat _), lg_sl1 (va_rf_cat _)]; exact Nat.le_of_ble_eq_true rfl) ?_
  intro p e s m args below meth c C hr hin hT hmc hw
  rw [lv_args1 (va_rf_cat _), lv_args1 (va_rf_cat _)]
  intro H locs ls hS hl
  exact kX0_readb0 C hr hin hT hmc hw H locs ls hS (lv_sub hl [0, 1] rfl)
theorem hdX0_read : yX0_read.cls ≠ "java/lang/invoke/MethodHandle" ∧ yX0_read.cls ≠ "java/lang/invoke/VarHandle" ∧ (parseMethodDescriptor yX0_read.desc).map (fun d => d.parameters.length) = some 2 := ⟨by decide +kernel, by decide +kernel, by decide +kernel⟩
abbrev rmX0_errorPosition (mc ms : Nat) : Room := { frames := 12, cells := mc, slots := ms, locals := 200 }
def wX0_errorPositionb11 (G : gE) (P : Int32 → hSt → Prop) (PX : Nat → Nat → hSt → Prop)  (s0 : Option Nat) (z : hSt) : Prop :=
  P 1 z
def wX0_errorPositionb0 (G : gE) (P : Int32 → hSt → Prop) (PX : Nat → Nat → hSt → Prop)  (v0 : Option Nat) (v1 : Option Nat) (z : hSt) : Prop :=
  (rcv z v0 0 ∧ wX1_errorPosition G (fun x5 z4 => asL G z4 v1 0 ((x5 : Int32).toInt64) (fun z6 => P 0 z6)) (fun c3 e2 z1 => (c3 = 28 ∧ wX0_errorPositionb11 G P PX  (some e2) z1) ∨ (c3 ∈ ([8, 11, 29, 30, 31, 32, 33] : List Nat) ∧ PX c3 e2 z1)) v0  z)
def wX0_errorPosition (G : gE) (P : Int32 → hSt → Prop) (PX : Nat → Nat → hSt → Prop) (v0 : Option Nat) (v1 : Option Nat) (z : hSt) : Prop := wX0_errorPositionb0 G P PX v0 v1 z
section
variable {p : Program} {l : Launch} {e : Env} {s : State} {m : MethodId} {args : Array Value} {below : List Frame} {meth : Method} {c : Code} {G : gE} {mc ms : Nat} {P : Int32 → hSt → Prop} {PX : Nat → Nat → hSt → Prop}
theorem kX0_errorPositionb11 (C : xC G p l s m args meth c cX0_errorPosition 3 "ExcuseLedgerLaw") (hr : meth.sig.returnType = (Option.some Jvm.ClassFile.FieldType.int)) (hin : meth.name = "errorPosition") (hT : c.exceptionTable.toList = tableOf [((0 : Nat), (8 : Nat), (11 : Nat), (47 : Nat))]) (hmc : mc = gL G - s.heap.size ∧ ms = gU G - hsum s.heap)   {s0 : Option Nat} {z : hSt} (hw : wX0_errorPositionb11 G P PX  s0 z) : kt G p l e (rmX0_errorPosition mc ms) s m args below meth c 3 (vx_MQ below (cQ G (pI P)) (cX G PX) args s mc ms (gF G)) 11 [] [va_rf s0] z := by
  intro H locs ls hS hl
  refine r_astore_n C.1 C.2.1 dX0_errorPosition_11 rfl hl (Nat.le_of_ble_eq_true rfl) (ls_new ls_nil) (fun ls hl => ?_)
  refine lv_iconst C.1 C.2.1 (v := 1) dX0_errorPosition_12 rfl ?_
  exact r_iret C hS hmc hr dX0_errorPosition_13 hw
theorem kX0_errorPositionb0 (C : xC G p l s m args meth c cX0_errorPosition 3 "ExcuseLedgerLaw") (hr : meth.sig.returnType = (Option.some Jvm.ClassFile.FieldType.int)) (hin : meth.name = "errorPosition") (hT : c.exceptionTable.toList = tableOf [((0 : Nat), (8 : Nat), (11 : Nat), (47 : Nat))]) (hmc : mc = gL G - s.heap.size ∧ ms = gU G - hsum s.heap)   {v0 : Option Nat} {v1 : Option Nat} {z : hSt} (hw : wX0_errorPositionb0 G P PX  v0 v1 z) : kt G p l e (rmX0_errorPosition mc ms) s m args below meth c 3 (vx_MQ below (cQ G (pI P)) (cX G PX) args s mc ms (gF G)) 0 [(0, va_rf v0), (1, va_rf v1)] [] z := by
  intro H locs ls hS hl
  refine r_aload_n C.1 C.2.1 dX0_errorPosition_0 rfl (lv_at hl 1 rfl) ?_
  refine lv_iconst C.1 C.2.1 (v := 0) dX0_errorPosition_1 rfl ?_
  refine r_aload_n C.1 C.2.1 dX0_errorPosition_2 rfl (lv_at hl 0 rfl) ?_
  refine c_V C hS hmc hl.1 (ci := 0) rfl hw.1 (kX1_errorPosition C.2.2.2.2.2.2.1) hw.2 (lw_V q3069 q3070 q3071 q67 q3072) ⟨rfl, hdX1_errorPosition⟩ ⟨Nat.le_of_ble_eq_true rfl, Nat.le_of_ble_eq_true rfl⟩ (rest := [.int 0, va_rf v1]) rfl rfl (Nat.le_of_ble_eq_true rfl) dX0_errorPosition_3 (fun c3 e2 z1 H locs hx hS ht => ?_) (fun v z4 H locs hv hS => ?_)
  · rcases hx with ⟨rfl, hw⟩ | ⟨h9, hx⟩
    · refine r_catch C [] (⟨0, 8, 11, 47⟩ : ExceptionTableEntry) [] (by rw [hT]; rfl) (ci := 28) rfl (fun _ h => absurd h List.not_mem_nil) (by decide) (by decide) q2483 q716 ht ?_
      exact kX0_errorPositionb11 C hr hin hT hmc  hw H locs ls hS (lv_sub hl [] rfl)
    · simp only [List.mem_cons, List.not_mem_nil, or_false] at h9
      rcases h9 with rfl | rfl | rfl | rfl | rfl | rfl | rfl
      · exact r_pass C hS hmc rfl (by rw [hT]; exact List.forall_mem_cons.mpr ⟨Or.inr ⟨by decide, _, q2483, by decide +kernel⟩, fun _ h => absurd h List.not_mem_nil⟩) ht hx
      · exact r_pass C hS hmc rfl (by rw [hT]; exact List.forall_mem_cons.mpr ⟨Or.inr ⟨by decide, _, q2483, by decide +kernel⟩, fun _ h => absurd h List.not_mem_nil⟩) ht hx
      · exact r_pass C hS hmc rfl (by rw [hT]; exact List.forall_mem_cons.mpr ⟨Or.inr ⟨by decide, _, q2483, by decide +kernel⟩, fun _ h => absurd h List.not_mem_nil⟩) ht hx
      · exact r_pass C hS hmc rfl (by rw [hT]; exact List.forall_mem_cons.mpr ⟨Or.inr ⟨by decide, _, q2483, by decide +kernel⟩, fun _ h => absurd h List.not_mem_nil⟩) ht hx
      · exact r_pass C hS hmc rfl (by rw [hT]; exact List.forall_mem_cons.mpr ⟨Or.inr ⟨by decide, _, q2483, by decide +kernel⟩, fun _ h => absurd h List.not_mem_nil⟩) ht hx
      · exact r_pass C hS hmc rfl (by rw [hT]; exact List.forall_mem_cons.mpr ⟨Or.inr ⟨by decide, _, q2483, by decide +kernel⟩, fun _ h => absurd h List.not_mem_nil⟩) ht hx
      · exact r_pass C hS hmc rfl (by rw [hT]; exact List.forall_mem_cons.mpr ⟨Or.inr ⟨by decide, _, q2483, by decide +kernel⟩, fun _ h => absurd h List.not_mem_nil⟩) ht hx
  · obtain ⟨x5, rfl, hw⟩ := hv
    refine lv_i2l C.1 C.2.1 dX0_errorPosition_6 rfl ?_
    refine r_last C hS dX0_errorPosition_7 hw (fun z6 H locs hw hS => ?_)
    refine lv_goto C.1 C.2.1 dX0_errorPosition_8 rfl ?_
    refine lv_iconst C.1 C.2.1 (v := 0) dX0_errorPosition_14 rfl ?_
    exact r_iret C hS hmc hr dX0_errorPosition_15 hw
end
theorem kX0_errorPosition {l : Launch} (hl : l.stackTraces = false) {G : gE} {P : Int32 → hSt → Prop} {PX : Nat → Nat → hSt → Prop} {v0 : Option Nat} {v1 : Option Nat} {z : hSt} : cM l G yX0_errorPosition (wsW_ yX0_errorPosition cX0_errorPosition 3 (Option.some Jvm.ClassFile.FieldType.int) [((0 : Nat), (8 : Nat), (11 : Nat), (47 : Nat))]) 12 200 z [va_rf v0, va_rf v1] (wX0_errorPosition G P PX v0 v1 z) (pI P) PX := by
  refine m_ofH hl (plainFor_of_name (by decide)) (by rw [lg_sl1 (va_rf_cat _), lg_sl1 (va_rf_cat _)]; exact Nat.le_of_ble_eq_true rfl) ?_
  intro p e s m args below meth c C hr hin hT hmc hw
  rw [lv_args1 (va_rf_cat _), lv_args1 (va_rf_cat _)]
  intro H locs ls hS hl
  exact kX0_errorPositionb0 C hr hin hT hmc hw H locs ls hS (lv_sub hl [0, 1] rfl)
theorem hdX0_errorPosition : yX0_errorPosition.cls ≠ "java/lang/invoke/MethodHandle" ∧ yX0_errorPosition.cls ≠ "java/lang/invoke/VarHandle" ∧ (parseMethodDescriptor yX0_errorPosition.desc).map (fun d => d.parameters.length) = some 2 := ⟨by decide +kernel, by decide +kernel, by decide +kernel⟩
abbrev rmX0_undo (mc ms : Nat) : Room := { frames := 14, cells := mc, slots := ms, locals := 246 }
def wX0_undob11 (G : gE) (P : Int32 → hSt → Prop) (PX : Nat → Nat → hSt → Prop)  (s0 : Option Nat) (z : hSt) : Prop :=
  P 1 z
def wX0_undob0 (G : gE) (P : Int32 → hSt → Prop) (PX : Nat → Nat → hSt → Prop)  (v0 : Option Nat) (v1 : Option Nat) (z : hSt) : Prop :=
  (rcv z v0 0 ∧ wX1_undo G (fun x5 z4 => asL G z4 v1 0 ((x5 : Int32).toInt64) (fun z6 => P 0 z6)) (fun c3 e2 z1 => (c3 = 28 ∧ wX0_undob11 G P PX  (some e2) z1) ∨ (c3 ∈ ([8, 11, 29, 30, 31, 32, 33] : List Nat) ∧ PX c3 e2 z1)) v0  z)
def wX0_undo (G : gE) (P : Int32 → hSt → Prop) (PX : Nat → Nat → hSt → Prop) (v0 : Option Nat) (v1 : Option Nat) (z : hSt) : Prop := wX0_undob0 G P PX v0 v1 z
section
variable {p : Program} {l : Launch} {e : Env} {s : State} {m : MethodId} {args : Array Value} {below : List Frame} {meth : Method} {c : Code} {G : gE} {mc ms : Nat} {P : Int32 → hSt → Prop} {PX : Nat → Nat → hSt → Prop}
theorem kX0_undob11 (C : xC G p l s m args meth c cX0_undo 3 "ExcuseLedgerLaw") (hr : meth.sig.returnType = (Option.some Jvm.ClassFile.FieldType.int)) (hin : meth.name = "undo") (hT : c.exceptionTable.toList = tableOf [((0 : Nat), (8 : Nat), (11 : Nat), (47 : Nat))]) (hmc : mc = gL G - s.heap.size ∧ ms = gU G - hsum s.heap)   {s0 : Option Nat} {z : hSt} (hw : wX0_undob11 G P PX  s0 z) : kt G p l e (rmX0_undo mc ms) s m args below meth c 3 (vx_MQ below (cQ G (pI P)) (cX G PX) args s mc ms (gF G)) 11 [] [va_rf s0] z := by
  intro H locs ls hS hl
  refine r_astore_n C.1 C.2.1 dX0_undo_11 rfl hl (Nat.le_of_ble_eq_true rfl) (ls_new ls_nil) (fun ls hl => ?_)
  refine lv_iconst C.1 C.2.1 (v := 1) dX0_undo_12 rfl ?_
  exact r_iret C hS hmc hr dX0_undo_13 hw
theorem kX0_undob0 (C : xC G p l s m args meth c cX0_undo 3 "ExcuseLedgerLaw") (hr : meth.sig.returnType = (Option.some Jvm.ClassFile.FieldType.int)) (hin : meth.name = "undo") (hT : c.exceptionTable.toList = tableOf [((0 : Nat), (8 : Nat), (11 : Nat), (47 : Nat))]) (hmc : mc = gL G - s.heap.size ∧ ms = gU G - hsum s.heap)   {v0 : Option Nat} {v1 : Option Nat} {z : hSt} (hw : wX0_undob0 G P PX  v0 v1 z) : kt G p l e (rmX0_undo mc ms) s m args below meth c 3 (vx_MQ below (cQ G (pI P)) (cX G PX) args s mc ms (gF G)) 0 [(0, va_rf v0), (1, va_rf v1)] [] z := by
  intro H locs ls hS hl
  refine r_aload_n C.1 C.2.1 dX0_undo_0 rfl (lv_at hl 1 rfl) ?_
  refine lv_iconst C.1 C.2.1 (v := 0) dX0_undo_1 rfl ?_
  refine r_aload_n C.1 C.2.1 dX0_undo_2 rfl (lv_at hl 0 rfl) ?_
  refine c_V C hS hmc hl.1 (ci := 0) rfl hw.1 (kX1_undo C.2.2.2.2.2.2.1) hw.2 (lw_V q3083 q3084 q3085 q67 q3086) ⟨rfl, hdX1_undo⟩ ⟨Nat.le_of_ble_eq_true rfl, Nat.le_of_ble_eq_true rfl⟩ (rest := [.int 0, va_rf v1]) rfl rfl (Nat.le_of_ble_eq_true rfl) dX0_undo_3 (fun c3 e2 z1 H locs hx hS ht => ?_) (fun v z4 H locs hv hS => ?_)
  · rcases hx with ⟨rfl, hw⟩ | ⟨h9, hx⟩
    · refine r_catch C [] (⟨0, 8, 11, 47⟩ : ExceptionTableEntry) [] (by rw [hT]; rfl) (ci := 28) rfl (fun _ h => absurd h List.not_mem_nil) (by decide) (by decide) q2483 q716 ht ?_
      exact kX0_undob11 C hr hin hT hmc  hw H locs ls hS (lv_sub hl [] rfl)
    · simp only [List.mem_cons, List.not_mem_nil, or_false] at h9
      rcases h9 with rfl | rfl | rfl | rfl | rfl | rfl | rfl
      · exact r_pass C hS hmc rfl (by rw [hT]; exact List.forall_mem_cons.mpr ⟨Or.inr ⟨by decide, _, q2483, by decide +kernel⟩, fun _ h => absurd h List.not_mem_nil⟩) ht hx
      · exact r_pass C hS hmc rfl (by rw [hT]; exact List.forall_mem_cons.mpr ⟨Or.inr ⟨by decide, _, q2483, by decide +kernel⟩, fun _ h => absurd h List.not_mem_nil⟩) ht hx
      · exact r_pass C hS hmc rfl (by rw [hT]; exact List.forall_mem_cons.mpr ⟨Or.inr ⟨by decide, _, q2483, by decide +kernel⟩, fun _ h => absurd h List.not_mem_nil⟩) ht hx
      · exact r_pass C hS hmc rfl (by rw [hT]; exact List.forall_mem_cons.mpr ⟨Or.inr ⟨by decide, _, q2483, by decide +kernel⟩, fun _ h => absurd h List.not_mem_nil⟩) ht hx
      · exact r_pass C hS hmc rfl (by rw [hT]; exact List.forall_mem_cons.mpr ⟨Or.inr ⟨by decide, _, q2483, by decide +kernel⟩, fun _ h => absurd h List.not_mem_nil⟩) ht hx
      · exact r_pass C hS hmc rfl (by rw [hT]; exact List.forall_mem_cons.mpr ⟨Or.inr ⟨by decide, _, q2483, by decide +kernel⟩, fun _ h => absurd h List.not_mem_nil⟩) ht hx
      · exact r_pass C hS hmc rfl (by rw [hT]; exact List.forall_mem_cons.mpr ⟨Or.inr ⟨by decide, _, q2483, by decide +kernel⟩, fun _ h => absurd h List.not_mem_nil⟩) ht hx
  · obtain ⟨x5, rfl, hw⟩ := hv
    refine lv_i2l C.1 C.2.1 dX0_undo_6 rfl ?_
    refine r_last C hS dX0_undo_7 hw (fun z6 H locs hw hS => ?_)
    refine lv_goto C.1 C.2.1 dX0_undo_8 rfl ?_
    refine lv_iconst C.1 C.2.1 (v := 0) dX0_undo_14 rfl ?_
    exact r_iret C hS hmc hr dX0_undo_15 hw
end
theorem kX0_undo {l : Launch} (hl : l.stackTraces = false) {G : gE} {P : Int32 → hSt → Prop} {PX : Nat → Nat → hSt → Prop} {v0 : Option Nat} {v1 : Option Nat} {z : hSt} : cM l G yX0_undo (wsW_ yX0_undo cX0_undo 3 (Option.some Jvm.ClassFile.FieldType.int) [((0 : Nat), (8 : Nat), (11 : Nat), (47 : Nat))]) 14 246 z [va_rf v0, va_rf v1] (wX0_undo G P PX v0 v1 z) (pI P) PX := by
  refine m_ofH hl (plainFor_of_name (by decide)) (by rw [lg_sl1 (va_rf_cat _), lg_sl1 (va_rf_cat _)]; exact Nat.le_of_ble_eq_true rfl) ?_
  intro p e s m args below meth c C hr hin hT hmc hw
  rw [lv_args1 (va_rf_cat _), lv_args1 (va_rf_cat _)]
  intro H locs ls hS hl
  exact kX0_undob0 C hr hin hT hmc hw H locs ls hS (lv_sub hl [0, 1] rfl)
theorem hdX0_undo : yX0_undo.cls ≠ "java/lang/invoke/MethodHandle" ∧ yX0_undo.cls ≠ "java/lang/invoke/VarHandle" ∧ (parseMethodDescriptor yX0_undo.desc).map (fun d => d.parameters.length) = some 2 := ⟨by decide +kernel, by decide +kernel, by decide +kernel⟩
abbrev rmX0_restore (mc ms : Nat) : Room := { frames := 20, cells := mc, slots := ms, locals := 1427 }
def wX0_restoreb11 (G : gE) (P : Int32 → hSt → Prop) (PX : Nat → Nat → hSt → Prop)  (s0 : Option Nat) (z : hSt) : Prop :=
  P 1 z
def wX0_restoreb0 (G : gE) (P : Int32 → hSt → Prop) (PX : Nat → Nat → hSt → Prop)  (v0 : Option Nat) (v1 : Option Nat) (z : hSt) : Prop :=
  (rcv z v0 0 ∧ wX1_restore G (fun x5 z4 => asL G z4 v1 0 ((x5 : Int32).toInt64) (fun z6 => P 0 z6)) (fun c3 e2 z1 => (c3 = 31 ∧ wX0_restoreb11 G P PX  (some e2) z1) ∨ (c3 ∈ ([8, 11, 28, 29, 30, 32, 33] : List Nat) ∧ PX c3 e2 z1)) v0  z)
def wX0_restore (G : gE) (P : Int32 → hSt → Prop) (PX : Nat → Nat → hSt → Prop) (v0 : Option Nat) (v1 : Option Nat) (z : hSt) : Prop := wX0_restoreb0 G P PX v0 v1 z
section
variable {p : Program} {l : Launch} {e : Env} {s : State} {m : MethodId} {args : Array Value} {below : List Frame} {meth : Method} {c : Code} {G : gE} {mc ms : Nat} {P : Int32 → hSt → Prop} {PX : Nat → Nat → hSt → Prop}
theorem kX0_restoreb11 (C : xC G p l s m args meth c cX0_restore 3 "ExcuseLedgerLaw") (hr : meth.sig.returnType = (Option.some Jvm.ClassFile.FieldType.int)) (hin : meth.name = "restore") (hT : c.exceptionTable.toList = tableOf [((0 : Nat), (8 : Nat), (11 : Nat), (117 : Nat))]) (hmc : mc = gL G - s.heap.size ∧ ms = gU G - hsum s.heap)   {s0 : Option Nat} {z : hSt} (hw : wX0_restoreb11 G P PX  s0 z) : kt G p l e (rmX0_restore mc ms) s m args below meth c 3 (vx_MQ below (cQ G (pI P)) (cX G PX) args s mc ms (gF G)) 11 [] [va_rf s0] z := by
  intro H locs ls hS hl
  refine r_astore_n C.1 C.2.1 dX0_restore_11 rfl hl (Nat.le_of_ble_eq_true rfl) (ls_new ls_nil) (fun ls hl => ?_)
  refine lv_iconst C.1 C.2.1 (v := 1) dX0_restore_12 rfl ?_
  exact r_iret C hS hmc hr dX0_restore_13 hw
theorem kX0_restoreb0 (C : xC G p l s m args meth c cX0_restore 3 "ExcuseLedgerLaw") (hr : meth.sig.returnType = (Option.some Jvm.ClassFile.FieldType.int)) (hin : meth.name = "restore") (hT : c.exceptionTable.toList = tableOf [((0 : Nat), (8 : Nat), (11 : Nat), (117 : Nat))]) (hmc : mc = gL G - s.heap.size ∧ ms = gU G - hsum s.heap)   {v0 : Option Nat} {v1 : Option Nat} {z : hSt} (hw : wX0_restoreb0 G P PX  v0 v1 z) : kt G p l e (rmX0_restore mc ms) s m args below meth c 3 (vx_MQ below (cQ G (pI P)) (cX G PX) args s mc ms (gF G)) 0 [(0, va_rf v0), (1, va_rf v1)] [] z := by
  intro H locs ls hS hl
  refine r_aload_n C.1 C.2.1 dX0_restore_0 rfl (lv_at hl 1 rfl) ?_
  refine lv_iconst C.1 C.2.1 (v := 0) dX0_restore_1 rfl ?_
  refine r_aload_n C.1 C.2.1 dX0_restore_2 rfl (lv_at hl 0 rfl) ?_
  refine c_V C hS hmc hl.1 (ci := 0) rfl hw.1 (kX1_restore C.2.2.2.2.2.2.1) hw.2 (lw_V q3091 q3092 q3093 q67 q3094) ⟨rfl, hdX1_restore⟩ ⟨Nat.le_of_ble_eq_true rfl, Nat.le_of_ble_eq_true rfl⟩ (rest := [.int 0, va_rf v1]) rfl rfl (Nat.le_of_ble_eq_true rfl) dX0_restore_3 (fun c3 e2 z1 H locs hx hS ht => ?_) (fun v z4 H locs hv hS => ?_)
  · rcases hx with ⟨rfl, hw⟩ | ⟨h9, hx⟩
    · refine r_catch C [] (⟨0, 8, 11, 117⟩ : ExceptionTableEntry) [] (by rw [hT]; rfl) (ci := 31) rfl (fun _ h => absurd h List.not_mem_nil) (by decide) (by decide) q2839 q1997 ht ?_
      exact kX0_restoreb11 C hr hin hT hmc  hw H locs ls hS (lv_sub hl [] rfl)
    · simp only [List.mem_cons, List.not_mem_nil, or_false] at h9
      rcases h9 with rfl | rfl | rfl | rfl | rfl | rfl | rfl
      · exact r_pass C hS hmc rfl (by rw [hT]; exact List.forall_mem_cons.mpr ⟨Or.inr ⟨by decide, _, q2839, by decide +kernel⟩, fun _ h => absurd h List.not_mem_nil⟩) ht hx
      · exact r_pass C hS hmc rfl (by rw [hT]; exact List.forall_mem_cons.mpr ⟨Or.inr ⟨by decide, _, q2839, by decide +kernel⟩, fun _ h => absurd h List.not_mem_nil⟩) ht hx
      · exact r_pass C hS hmc rfl (by rw [hT]; exact List.forall_mem_cons.mpr ⟨Or.inr ⟨by decide, _, q2839, by decide +kernel⟩, fun _ h => absurd h List.not_mem_nil⟩) ht hx
      · exact r_pass C hS hmc rfl (by rw [hT]; exact List.forall_mem_cons.mpr ⟨Or.inr ⟨by decide, _, q2839, by decide +kernel⟩, fun _ h => absurd h List.not_mem_nil⟩) ht hx
      · exact r_pass C hS hmc rfl (by rw [hT]; exact List.forall_mem_cons.mpr ⟨Or.inr ⟨by decide, _, q2839, by decide +kernel⟩, fun _ h => absurd h List.not_mem_nil⟩) ht hx
      · exact r_pass C hS hmc rfl (by rw [hT]; exact List.forall_mem_cons.mpr ⟨Or.inr ⟨by decide, _, q2839, by decide +kernel⟩, fun _ h => absurd h List.not_mem_nil⟩) ht hx
      · exact r_pass C hS hmc rfl (by rw [hT]; exact List.forall_mem_cons.mpr ⟨Or.inr ⟨by decide, _, q2839, by decide +kernel⟩, fun _ h => absurd h List.not_mem_nil⟩) ht hx
  · obtain ⟨x5, rfl, hw⟩ := hv
    refine lv_i2l C.1 C.2.1 dX0_restore_6 rfl ?_
    refine r_last C hS dX0_restore_7 hw (fun z6 H locs hw hS => ?_)
    refine lv_goto C.1 C.2.1 dX0_restore_8 rfl ?_
    refine lv_iconst C.1 C.2.1 (v := 0) dX0_restore_14 rfl ?_
    exact r_iret C hS hmc hr dX0_restore_15 hw
end
theorem kX0_restore {l : Launch} (hl : l.stackTraces = false) {G : gE} {P : Int32 → hSt → Prop} {PX : Nat → Nat → hSt → Prop} {v0 : Option Nat} {v1 : Option Nat} {z : hSt} : cM l G yX0_restore (wsW_ yX0_restore cX0_restore 3 (Option.some Jvm.ClassFile.FieldType.int) [((0 : Nat), (8 : Nat), (11 : Nat), (117 : Nat))]) 20 1427 z [va_rf v0, va_rf v1] (wX0_restore G P PX v0 v1 z) (pI P) PX := by
  refine m_ofH hl (plainFor_of_name (by decide)) (by rw [lg_sl1 (va_rf_cat _), lg_sl1 (va_rf_cat _)]; exact Nat.le_of_ble_eq_true rfl) ?_
  intro p e s m args below meth c C hr hin hT hmc hw
  rw [lv_args1 (va_rf_cat _), lv_args1 (va_rf_cat _)]
  intro H locs ls hS hl
  exact kX0_restoreb0 C hr hin hT hmc hw H locs ls hS (lv_sub hl [0, 1] rfl)
theorem hdX0_restore : yX0_restore.cls ≠ "java/lang/invoke/MethodHandle" ∧ yX0_restore.cls ≠ "java/lang/invoke/VarHandle" ∧ (parseMethodDescriptor yX0_restore.desc).map (fun d => d.parameters.length) = some 2 := ⟨by decide +kernel, by decide +kernel, by decide +kernel⟩
abbrev rmX0_reason (mc ms : Nat) : Room := { frames := 12, cells := mc, slots := ms, locals := 201 }
def wX0_reasonb12 (G : gE) (P : Int32 → hSt → Prop) (PX : Nat → Nat → hSt → Prop)  (s0 : Option Nat) (z : hSt) : Prop :=
  P 1 z
def wX0_reasonb0 (G : gE) (P : Int32 → hSt → Prop) (PX : Nat → Nat → hSt → Prop)  (v0 : Option Nat) (v1 : Int32) (v2 : Option Nat) (z : hSt) : Prop :=
  (rcv z v0 0 ∧ wX1_reason G (fun x5 z4 => asL G z4 v2 0 ((x5 : Int32).toInt64) (fun z6 => P 0 z6)) (fun c3 e2 z1 => (c3 = 28 ∧ wX0_reasonb12 G P PX  (some e2) z1) ∨ (c3 ∈ ([8, 11, 29, 30, 31, 32, 33] : List Nat) ∧ PX c3 e2 z1)) v0 v1 z)
def wX0_reason (G : gE) (P : Int32 → hSt → Prop) (PX : Nat → Nat → hSt → Prop) (v0 : Option Nat) (v1 : Int32) (v2 : Option Nat) (z : hSt) : Prop := wX0_reasonb0 G P PX v0 v1 v2 z
section
variable {p : Program} {l : Launch} {e : Env} {s : State} {m : MethodId} {args : Array Value} {below : List Frame} {meth : Method} {c : Code} {G : gE} {mc ms : Nat} {P : Int32 → hSt → Prop} {PX : Nat → Nat → hSt → Prop}
theorem kX0_reasonb12 (C : xC G p l s m args meth c cX0_reason 4 "ExcuseLedgerLaw") (hr : meth.sig.returnType = (Option.some Jvm.ClassFile.FieldType.int)) (hin : meth.name = "reason") (hT : c.exceptionTable.toList = tableOf [((0 : Nat), (9 : Nat), (12 : Nat), (47 : Nat))]) (hmc : mc = gL G - s.heap.size ∧ ms = gU G - hsum s.heap)   {s0 : Option Nat} {z : hSt} (hw : wX0_reasonb12 G P PX  s0 z) : kt G p l e (rmX0_reason mc ms) s m args below meth c 4 (vx_MQ below (cQ G (pI P)) (cX G PX) args s mc ms (gF G)) 12 [] [va_rf s0] z := by
  intro H locs ls hS hl
  refine r_astore_n C.1 C.2.1 dX0_reason_12 rfl hl (Nat.le_of_ble_eq_true rfl) (ls_new ls_nil) (fun ls hl => ?_)
  refine lv_iconst C.1 C.2.1 (v := 1) dX0_reason_13 rfl ?_
  exact r_iret C hS hmc hr dX0_reason_14 hw
theorem kX0_reasonb0 (C : xC G p l s m args meth c cX0_reason 4 "ExcuseLedgerLaw") (hr : meth.sig.returnType = (Option.some Jvm.ClassFile.FieldType.int)) (hin : meth.name = "reason") (hT : c.exceptionTable.toList = tableOf [((0 : Nat), (9 : Nat), (12 : Nat), (47 : Nat))]) (hmc : mc = gL G - s.heap.size ∧ ms = gU G - hsum s.heap)   {v0 : Option Nat} {v1 : Int32} {v2 : Option Nat} {z : hSt} (hw : wX0_reasonb0 G P PX  v0 v1 v2 z) : kt G p l e (rmX0_reason mc ms) s m args below meth c 4 (vx_MQ below (cQ G (pI P)) (cX G PX) args s mc ms (gF G)) 0 [(0, va_rf v0), (1, .int v1), (2, va_rf v2)] [] z := by
  intro H locs ls hS hl
  refine r_aload_n C.1 C.2.1 dX0_reason_0 rfl (lv_at hl 2 rfl) ?_
  refine lv_iconst C.1 C.2.1 (v := 0) dX0_reason_1 rfl ?_
  refine r_aload_n C.1 C.2.1 dX0_reason_2 rfl (lv_at hl 0 rfl) ?_
  refine lv_iload_n C.1 C.2.1 dX0_reason_3 rfl (lv_at hl 1 rfl) ?_
  refine c_V C hS hmc hl.1 (ci := 0) rfl hw.1 (kX1_reason C.2.2.2.2.2.2.1) hw.2 (lw_V q3076 q3077 q3078 q67 q3079) ⟨rfl, hdX1_reason⟩ ⟨Nat.le_of_ble_eq_true rfl, Nat.le_of_ble_eq_true rfl⟩ (rest := [.int 0, va_rf v2]) rfl rfl (Nat.le_of_ble_eq_true rfl) dX0_reason_4 (fun c3 e2 z1 H locs hx hS ht => ?_) (fun v z4 H locs hv hS => ?_)
  · rcases hx with ⟨rfl, hw⟩ | ⟨h9, hx⟩
    · refine r_catch C [] (⟨0, 9, 12, 47⟩ : ExceptionTableEntry) [] (by rw [hT]; rfl) (ci := 28) rfl (fun _ h => absurd h List.not_mem_nil) (by decide) (by decide) q2483 q716 ht ?_
      exact kX0_reasonb12 C hr hin hT hmc  hw H locs ls hS (lv_sub hl [] rfl)
    · simp only [List.mem_cons, List.not_mem_nil, or_false] at h9
      rcases h9 with rfl | rfl | rfl | rfl | rfl | rfl | rfl
      · exact r_pass C hS hmc rfl (by rw [hT]; exact List.forall_mem_cons.mpr ⟨Or.inr ⟨by decide, _, q2483, by decide +kernel⟩, fun _ h => absurd h List.not_mem_nil⟩) ht hx
      · exact r_pass C hS hmc rfl (by rw [hT]; exact List.forall_mem_cons.mpr ⟨Or.inr ⟨by decide, _, q2483, by decide +kernel⟩, fun _ h => absurd h List.not_mem_nil⟩) ht hx
      · exact r_pass C hS hmc rfl (by rw [hT]; exact List.forall_mem_cons.mpr ⟨Or.inr ⟨by decide, _, q2483, by decide +kernel⟩, fun _ h => absurd h List.not_mem_nil⟩) ht hx
      · exact r_pass C hS hmc rfl (by rw [hT]; exact List.forall_mem_cons.mpr ⟨Or.inr ⟨by decide, _, q2483, by decide +kernel⟩, fun _ h => absurd h List.not_mem_nil⟩) ht hx
      · exact r_pass C hS hmc rfl (by rw [hT]; exact List.forall_mem_cons.mpr ⟨Or.inr ⟨by decide, _, q2483, by decide +kernel⟩, fun _ h => absurd h List.not_mem_nil⟩) ht hx
      · exact r_pass C hS hmc rfl (by rw [hT]; exact List.forall_mem_cons.mpr ⟨Or.inr ⟨by decide, _, q2483, by decide +kernel⟩, fun _ h => absurd h List.not_mem_nil⟩) ht hx
      · exact r_pass C hS hmc rfl (by rw [hT]; exact List.forall_mem_cons.mpr ⟨Or.inr ⟨by decide, _, q2483, by decide +kernel⟩, fun _ h => absurd h List.not_mem_nil⟩) ht hx
  · obtain ⟨x5, rfl, hw⟩ := hv
    refine lv_i2l C.1 C.2.1 dX0_reason_7 rfl ?_
    refine r_last C hS dX0_reason_8 hw (fun z6 H locs hw hS => ?_)
    refine lv_goto C.1 C.2.1 dX0_reason_9 rfl ?_
    refine lv_iconst C.1 C.2.1 (v := 0) dX0_reason_15 rfl ?_
    exact r_iret C hS hmc hr dX0_reason_16 hw
end
theorem kX0_reason {l : Launch} (hl : l.stackTraces = false) {G : gE} {P : Int32 → hSt → Prop} {PX : Nat → Nat → hSt → Prop} {v0 : Option Nat} {v1 : Int32} {v2 : Option Nat} {z : hSt} : cM l G yX0_reason (wsW_ yX0_reason cX0_reason 4 (Option.some Jvm.ClassFile.FieldType.int) [((0 : Nat), (9 : Nat), (12 : Nat), (47 : Nat))]) 12 201 z [va_rf v0, .int v1, va_rf v2] (wX0_reason G P PX v0 v1 v2 z) (pI P) PX := by
  refine m_ofH hl (plainFor_of_name (by decide)) (by rw [lg_sl1 (va_rf_cat _), lg_sl1 rfl, lg_sl1 (va_rf_cat _)]; exact Nat.le_of_ble_eq_true rfl) ?_
  intro p e s m args below meth c C hr hin hT hmc hw
  rw [lv_args1 (va_rf_cat _), lv_args1 rfl, lv_args1 (va_rf_cat _)]
  intro H locs ls hS hl
  exact kX0_reasonb0 C hr hin hT hmc hw H locs ls hS (lv_sub hl [0, 1, 2] rfl)
theorem hdX0_reason : yX0_reason.cls ≠ "java/lang/invoke/MethodHandle" ∧ yX0_reason.cls ≠ "java/lang/invoke/VarHandle" ∧ (parseMethodDescriptor yX0_reason.desc).map (fun d => d.parameters.length) = some 3 := ⟨by decide +kernel, by decide +kernel, by decide +kernel⟩
abbrev rmX0_at (mc ms : Nat) : Room := { frames := 18, cells := mc, slots := ms, locals := 337 }
def wX0_atb13 (G : gE) (P : Int32 → hSt → Prop) (PX : Nat → Nat → hSt → Prop)  (s0 : Option Nat) (z : hSt) : Prop :=
  P 1 z
def wX0_atb0 (G : gE) (P : Int32 → hSt → Prop) (PX : Nat → Nat → hSt → Prop)  (v0 : Option Nat) (v1 : Int32) (v2 : Int32) (v3 : Option Nat) (z : hSt) : Prop :=
  (rcv z v0 0 ∧ wX1_at G (fun x5 z4 => asL G z4 v3 0 ((x5 : Int32).toInt64) (fun z6 => P 0 z6)) (fun c3 e2 z1 => (c3 = 28 ∧ wX0_atb13 G P PX  (some e2) z1) ∨ (c3 ∈ ([8, 11, 29, 30, 31, 32, 33] : List Nat) ∧ PX c3 e2 z1)) v0 v1 v2 z)
def wX0_at (G : gE) (P : Int32 → hSt → Prop) (PX : Nat → Nat → hSt → Prop) (v0 : Option Nat) (v1 : Int32) (v2 : Int32) (v3 : Option Nat) (z : hSt) : Prop := wX0_atb0 G P PX v0 v1 v2 v3 z
section
variable {p : Program} {l : Launch} {e : Env} {s : State} {m : MethodId} {args : Array Value} {below : List Frame} {meth : Method} {c : Code} {G : gE} {mc ms : Nat} {P : Int32 → hSt → Prop} {PX : Nat → Nat → hSt → Prop}
theorem kX0_atb13 (C : xC G p l s m args meth c cX0_at 5 "ExcuseLedgerLaw") (hr : meth.sig.returnType = (Option.some Jvm.ClassFile.FieldType.int)) (hin : meth.name = "at") (hT : c.exceptionTable.toList = tableOf [((0 : Nat), (10 : Nat), (13 : Nat), (47 : Nat))]) (hmc : mc = gL G - s.heap.size ∧ ms = gU G - hsum s.heap)   {s0 : Option Nat} {z : hSt} (hw : wX0_atb13 G P PX  s0 z) : kt G p l e (rmX0_at mc ms) s m args below meth c 5 (vx_MQ below (cQ G (pI P)) (cX G PX) args s mc ms (gF G)) 13 [] [va_rf s0] z := by
  intro H locs ls hS hl
  refine r_astore C.1 C.2.1 dX0_at_13 hl (Nat.le_of_ble_eq_true rfl) (ls_new ls_nil) (fun ls hl => ?_)
  refine lv_iconst C.1 C.2.1 (v := 1) dX0_at_15 rfl ?_
  exact r_iret C hS hmc hr dX0_at_16 hw
theorem kX0_atb0 (C : xC G p l s m args meth c cX0_at 5 "ExcuseLedgerLaw") (hr : meth.sig.returnType = (Option.some Jvm.ClassFile.FieldType.int)) (hin : meth.name = "at") (hT : c.exceptionTable.toList = tableOf [((0 : Nat), (10 : Nat), (13 : Nat), (47 : Nat))]) (hmc : mc = gL G - s.heap.size ∧ ms = gU G - hsum s.heap)   {v0 : Option Nat} {v1 : Int32} {v2 : Int32} {v3 : Option Nat} {z : hSt} (hw : wX0_atb0 G P PX  v0 v1 v2 v3 z) : kt G p l e (rmX0_at mc ms) s m args below meth c 5 (vx_MQ below (cQ G (pI P)) (cX G PX) args s mc ms (gF G)) 0 [(0, va_rf v0), (1, .int v1), (2, .int v2), (3, va_rf v3)] [] z := by
  intro H locs ls hS hl
  refine r_aload_n C.1 C.2.1 dX0_at_0 rfl (lv_at hl 3 rfl) ?_
  refine lv_iconst C.1 C.2.1 (v := 0) dX0_at_1 rfl ?_
  refine r_aload_n C.1 C.2.1 dX0_at_2 rfl (lv_at hl 0 rfl) ?_
  refine lv_iload_n C.1 C.2.1 dX0_at_3 rfl (lv_at hl 1 rfl) ?_
  refine lv_iload_n C.1 C.2.1 dX0_at_4 rfl (lv_at hl 2 rfl) ?_
  refine c_V C hS hmc hl.1 (ci := 0) rfl hw.1 (kX1_at C.2.2.2.2.2.2.1) hw.2 (lw_V q2520 q2521 q2522 q67 q2523) ⟨rfl, hdX1_at⟩ ⟨Nat.le_of_ble_eq_true rfl, Nat.le_of_ble_eq_true rfl⟩ (rest := [.int 0, va_rf v3]) rfl rfl (Nat.le_of_ble_eq_true rfl) dX0_at_5 (fun c3 e2 z1 H locs hx hS ht => ?_) (fun v z4 H locs hv hS => ?_)
  · rcases hx with ⟨rfl, hw⟩ | ⟨h9, hx⟩
    · refine r_catch C [] (⟨0, 10, 13, 47⟩ : ExceptionTableEntry) [] (by rw [hT]; rfl) (ci := 28) rfl (fun _ h => absurd h List.not_mem_nil) (by decide) (by decide) q2483 q716 ht ?_
      exact kX0_atb13 C hr hin hT hmc  hw H locs ls hS (lv_sub hl [] rfl)
    · simp only [List.mem_cons, List.not_mem_nil, or_false] at h9
      rcases h9 with rfl | rfl | rfl | rfl | rfl | rfl | rfl
      · exact r_pass C hS hmc rfl (by rw [hT]; exact List.forall_mem_cons.mpr ⟨Or.inr ⟨by decide, _, q2483, by decide +kernel⟩, fun _ h => absurd h List.not_mem_nil⟩) ht hx
      · exact r_pass C hS hmc rfl (by rw [hT]; exact List.forall_mem_cons.mpr ⟨Or.inr ⟨by decide, _, q2483, by decide +kernel⟩, fun _ h => absurd h List.not_mem_nil⟩) ht hx
      · exact r_pass C hS hmc rfl (by rw [hT]; exact List.forall_mem_cons.mpr ⟨Or.inr ⟨by decide, _, q2483, by decide +kernel⟩, fun _ h => absurd h List.not_mem_nil⟩) ht hx
      · exact r_pass C hS hmc rfl (by rw [hT]; exact List.forall_mem_cons.mpr ⟨Or.inr ⟨by decide, _, q2483, by decide +kernel⟩, fun _ h => absurd h List.not_mem_nil⟩) ht hx
      · exact r_pass C hS hmc rfl (by rw [hT]; exact List.forall_mem_cons.mpr ⟨Or.inr ⟨by decide, _, q2483, by decide +kernel⟩, fun _ h => absurd h List.not_mem_nil⟩) ht hx
      · exact r_pass C hS hmc rfl (by rw [hT]; exact List.forall_mem_cons.mpr ⟨Or.inr ⟨by decide, _, q2483, by decide +kernel⟩, fun _ h => absurd h List.not_mem_nil⟩) ht hx
      · exact r_pass C hS hmc rfl (by rw [hT]; exact List.forall_mem_cons.mpr ⟨Or.inr ⟨by decide, _, q2483, by decide +kernel⟩, fun _ h => absurd h List.not_mem_nil⟩) ht hx
  · obtain ⟨x5, rfl, hw⟩ := hv
    refine lv_i2l C.1 C.2.1 dX0_at_8 rfl ?_
    refine r_last C hS dX0_at_9 hw (fun z6 H locs hw hS => ?_)
    refine lv_goto C.1 C.2.1 dX0_at_10 rfl ?_
    refine lv_iconst C.1 C.2.1 (v := 0) dX0_at_17 rfl ?_
    exact r_iret C hS hmc hr dX0_at_18 hw
end
theorem kX0_at {l : Launch} (hl : l.stackTraces = false) {G : gE} {P : Int32 → hSt → Prop} {PX : Nat → Nat → hSt → Prop} {v0 : Option Nat} {v1 : Int32} {v2 : Int32} {v3 : Option Nat} {z : hSt} : cM l G yX0_at (wsW_ yX0_at cX0_at 5 (Option.some Jvm.ClassFile.FieldType.int) [((0 : Nat), (10 : Nat), (13 : Nat), (47 : Nat))]) 18 337 z [va_rf v0, .int v1, .int v2, va_rf v3] (wX0_at G P PX v0 v1 v2 v3 z) (pI P) PX := by
  refine m_ofH hl (plainFor_of_name (by decide)) (by rw [lg_sl1 (va_rf_cat _), lg_sl1 rfl, lg_sl1 rfl, lg_sl1 (va_rf_cat _)]; exact Nat.le_of_ble_eq_true rfl) ?_
  intro p e s m args below meth c C hr hin hT hmc hw
  rw [lv_args1 (va_rf_cat _), lv_args1 rfl, lv_args1 rfl, lv_args1 (va_rf_cat _)]
  intro H locs ls hS hl
  exact kX0_atb0 C hr hin hT hmc hw H locs ls hS (lv_sub hl [0, 1, 2, 3] rfl)
theorem hdX0_at : yX0_at.cls ≠ "java/lang/invoke/MethodHandle" ∧ yX0_at.cls ≠ "java/lang/invoke/VarHandle" ∧ (parseMethodDescriptor yX0_at.desc).map (fun d => d.parameters.length) = some 4 := ⟨by decide +kernel, by decide +kernel, by decide +kernel⟩
abbrev rmL_law (mc ms : Nat) : Room := { frames := 22, cells := mc, slots := ms, locals := 1481 }
def wL_lawb2581 (G : gE) (P : Int32 → hSt → Prop) (PX : Nat → Nat → hSt → Prop) (K28 : (Option Nat × Option Nat × Option Nat × Option Nat × Option Nat × Int32 × hSt) → Prop) (v0 : Option Nat) (v1 : Option Nat) (v2 : Option Nat) (v3 : Option Nat) (v4 : Option Nat) (v5 : Int32) (z : hSt) : Prop :=
  K28 (v0, v1, v2, v3, v4, v5 + 5, z)
def wL_lawb313 (G : gE) (P : Int32 → hSt → Prop) (PX : Nat → Nat → hSt → Prop) (K28 : (Option Nat × Option Nat × Option Nat × Option Nat × Option Nat × Int32 × hSt) → Prop) (v0 : Option Nat) (v1 : Option Nat) (v2 : Option Nat) (v3 : Option Nat) (v4 : Option Nat) (v5 : Int32) (z : hSt) : Prop :=
  wL_lawb2581 G P PX K28 v0 v1 v2 v3 v4 v5 z
def wL_lawb381 (G : gE) (P : Int32 → hSt → Prop) (PX : Nat → Nat → hSt → Prop) (K28 : (Option Nat × Option Nat × Option Nat × Option Nat × Option Nat × Int32 × hSt) → Prop) (v0 : Option Nat) (v1 : Option Nat) (v2 : Option Nat) (v3 : Option Nat) (v4 : Option Nat) (v5 : Int32) (z : hSt) : Prop :=
  wL_lawb2581 G P PX K28 v0 v1 v2 v3 v4 v5 z
def wL_lawb473 (G : gE) (P : Int32 → hSt → Prop) (PX : Nat → Nat → hSt → Prop) (K28 : (Option Nat × Option Nat × Option Nat × Option Nat × Option Nat × Int32 × hSt) → Prop) (v0 : Option Nat) (v1 : Option Nat) (v2 : Option Nat) (v3 : Option Nat) (v4 : Option Nat) (v5 : Int32) (z : hSt) : Prop :=
  wL_lawb2581 G P PX K28 v0 v1 v2 v3 v4 v5 z
def wL_lawb541 (G : gE) (P : Int32 → hSt → Prop) (PX : Nat → Nat → hSt → Prop) (K28 : (Option Nat × Option Nat × Option Nat × Option Nat × Option Nat × Int32 × hSt) → Prop) (v0 : Option Nat) (v1 : Option Nat) (v2 : Option Nat) (v3 : Option Nat) (v4 : Option Nat) (v5 : Int32) (z : hSt) : Prop :=
  wL_lawb2581 G P PX K28 v0 v1 v2 v3 v4 v5 z
def wL_lawb621 (G : gE) (P : Int32 → hSt → Prop) (PX : Nat → Nat → hSt → Prop) (K28 : (Option Nat × Option Nat × Option Nat × Option Nat × Option Nat × Int32 × hSt) → Prop) (v0 : Option Nat) (v1 : Option Nat) (v2 : Option Nat) (v3 : Option Nat) (v4 : Option Nat) (v5 : Int32) (z : hSt) : Prop :=
  wL_lawb2581 G P PX K28 v0 v1 v2 v3 v4 v5 z
def wL_lawb720 (G : gE) (P : Int32 → hSt → Prop) (PX : Nat → Nat → hSt → Prop) (K28 : (Option Nat × Option Nat × Option Nat × Option Nat × Option Nat × Int32 × hSt) → Prop) (v0 : Option Nat) (v1 : Option Nat) (v2 : Option Nat) (v3 : Option Nat) (v4 : Option Nat) (v5 : Int32) (z : hSt) : Prop :=
  wL_lawb2581 G P PX K28 v0 v1 v2 v3 v4 v5 z
def wL_lawb714 (G : gE) (P : Int32 → hSt → Prop) (PX : Nat → Nat → hSt → Prop) (K28 : (Option Nat × Option Nat × Option Nat × Option Nat × Option Nat × Int32 × hSt) → Prop) (v0 : Option Nat) (v1 : Option Nat) (v2 : Option Nat) (v3 : Option Nat) (v4 : Option Nat) (v5 : Int32) (s0 : Int64) (s1 : Int64) (z : hSt) : Prop :=
  (((lg_cmp s0 s1) = 0 → wL_lawb720 G P PX K28 v0 v1 v2 v3 v4 v5 z) ∧ (¬ (lg_cmp s0 s1) = 0 → P 0 z))
def wL_lawb788 (G : gE) (P : Int32 → hSt → Prop) (PX : Nat → Nat → hSt → Prop) (K28 : (Option Nat × Option Nat × Option Nat × Option Nat × Option Nat × Int32 × hSt) → Prop) (v0 : Option Nat) (v1 : Option Nat) (v2 : Option Nat) (v3 : Option Nat) (v4 : Option Nat) (v5 : Int32) (z : hSt) : Prop :=
  wL_lawb2581 G P PX K28 v0 v1 v2 v3 v4 v5 z
def wL_lawb844 (G : gE) (P : Int32 → hSt → Prop) (PX : Nat → Nat → hSt → Prop) (K28 : (Option Nat × Option Nat × Option Nat × Option Nat × Option Nat × Int32 × hSt) → Prop) (v0 : Option Nat) (v1 : Option Nat) (v2 : Option Nat) (v3 : Option Nat) (v4 : Option Nat) (v5 : Int32) (z : hSt) : Prop :=
  wL_lawb2581 G P PX K28 v0 v1 v2 v3 v4 v5 z
def wL_lawb937 (G : gE) (P : Int32 → hSt → Prop) (PX : Nat → Nat → hSt → Prop) (K28 : (Option Nat × Option Nat × Option Nat × Option Nat × Option Nat × Int32 × hSt) → Prop) (v0 : Option Nat) (v1 : Option Nat) (v2 : Option Nat) (v3 : Option Nat) (v4 : Option Nat) (v5 : Int32) (z : hSt) : Prop :=
  wL_lawb2581 G P PX K28 v0 v1 v2 v3 v4 v5 z
def wL_lawb1021 (G : gE) (P : Int32 → hSt → Prop) (PX : Nat → Nat → hSt → Prop) (K28 : (Option Nat × Option Nat × Option Nat × Option Nat × Option Nat × Int32 × hSt) → Prop) (v0 : Option Nat) (v1 : Option Nat) (v2 : Option Nat) (v3 : Option Nat) (v4 : Option Nat) (v5 : Int32) (z : hSt) : Prop :=
  wL_lawb2581 G P PX K28 v0 v1 v2 v3 v4 v5 z
def wL_lawb988 (G : gE) (P : Int32 → hSt → Prop) (PX : Nat → Nat → hSt → Prop) (K28 : (Option Nat × Option Nat × Option Nat × Option Nat × Option Nat × Int32 × hSt) → Prop) (v0 : Option Nat) (v1 : Option Nat) (v2 : Option Nat) (v3 : Option Nat) (v4 : Option Nat) (v5 : Int32) (v6 : Int32) (s0 : Option Nat) (s1 : Int32) (s2 : Int32) (z : hSt) : Prop :=
  (rcv z s0 4 ∧ wX5_at G (fun x391 z390 => (rcv z390 v2 4 ∧ wX5_thrown G (fun x393 z392 => ((x393 = v6 → ((¬ v6 = 0 → wL_lawb1021 G P PX K28 v0 v1 v2 v3 v4 v5 z392) ∧ (v6 = 0 → alL z392 v3 0 (fun x394 => (((lg_cmp x394 ((x391 : Int32).toInt64)) = 0 → wL_lawb1021 G P PX K28 v0 v1 v2 v3 v4 v5 z392) ∧ (¬ (lg_cmp x394 ((x391 : Int32).toInt64)) = 0 → P 0 z392)))))) ∧ (¬ x393 = v6 → P 0 z392))) PX v2  z390)) PX s0 s1 s2 z)
def wL_lawb961 (G : gE) (P : Int32 → hSt → Prop) (PX : Nat → Nat → hSt → Prop) (K28 : (Option Nat × Option Nat × Option Nat × Option Nat × Option Nat × Int32 × hSt) → Prop) (v0 : Option Nat) (v1 : Option Nat) (v2 : Option Nat) (v3 : Option Nat) (v4 : Option Nat) (v5 : Int32) (s0 : Option Nat) (s1 : Int32) (s2 : Int32) (z : hSt) : Prop :=
  wX0_at G (fun x387 z386 => alI z386 v0 0 (v5 + 1) (fun x388 => alI z386 v0 0 (v5 + 2) (fun x389 => ((x389 = 0 → wL_lawb988 G P PX K28 v0 v1 v2 v3 v4 v5 x387 v2 x388 0 z386) ∧ (¬ x389 = 0 → wL_lawb988 G P PX K28 v0 v1 v2 v3 v4 v5 x387 v2 x388 1 z386))))) PX s0 s1 s2 v3 z
def wL_lawb1089 (G : gE) (P : Int32 → hSt → Prop) (PX : Nat → Nat → hSt → Prop) (K28 : (Option Nat × Option Nat × Option Nat × Option Nat × Option Nat × Int32 × hSt) → Prop) (v0 : Option Nat) (v1 : Option Nat) (v2 : Option Nat) (v3 : Option Nat) (v4 : Option Nat) (v5 : Int32) (z : hSt) : Prop :=
  wL_lawb2581 G P PX K28 v0 v1 v2 v3 v4 v5 z
def wL_lawb1157 (G : gE) (P : Int32 → hSt → Prop) (PX : Nat → Nat → hSt → Prop) (K28 : (Option Nat × Option Nat × Option Nat × Option Nat × Option Nat × Int32 × hSt) → Prop) (v0 : Option Nat) (v1 : Option Nat) (v2 : Option Nat) (v3 : Option Nat) (v4 : Option Nat) (v5 : Int32) (z : hSt) : Prop :=
  wL_lawb2581 G P PX K28 v0 v1 v2 v3 v4 v5 z
def wL_lawb1213 (G : gE) (P : Int32 → hSt → Prop) (PX : Nat → Nat → hSt → Prop) (K28 : (Option Nat × Option Nat × Option Nat × Option Nat × Option Nat × Int32 × hSt) → Prop) (v0 : Option Nat) (v1 : Option Nat) (v2 : Option Nat) (v3 : Option Nat) (v4 : Option Nat) (v5 : Int32) (z : hSt) : Prop :=
  wL_lawb2581 G P PX K28 v0 v1 v2 v3 v4 v5 z
def wL_lawb1312 (G : gE) (P : Int32 → hSt → Prop) (PX : Nat → Nat → hSt → Prop) (K28 : (Option Nat × Option Nat × Option Nat × Option Nat × Option Nat × Int32 × hSt) → Prop) (v0 : Option Nat) (v1 : Option Nat) (v2 : Option Nat) (v3 : Option Nat) (v4 : Option Nat) (v5 : Int32) (z : hSt) : Prop :=
  wL_lawb2581 G P PX K28 v0 v1 v2 v3 v4 v5 z
def wL_lawb1306 (G : gE) (P : Int32 → hSt → Prop) (PX : Nat → Nat → hSt → Prop) (K28 : (Option Nat × Option Nat × Option Nat × Option Nat × Option Nat × Int32 × hSt) → Prop) (v0 : Option Nat) (v1 : Option Nat) (v2 : Option Nat) (v3 : Option Nat) (v4 : Option Nat) (v5 : Int32) (s0 : Int64) (s1 : Int64) (z : hSt) : Prop :=
  (((lg_cmp s0 s1) = 0 → wL_lawb1312 G P PX K28 v0 v1 v2 v3 v4 v5 z) ∧ (¬ (lg_cmp s0 s1) = 0 → P 0 z))
def wL_lawb1411 (G : gE) (P : Int32 → hSt → Prop) (PX : Nat → Nat → hSt → Prop) (K28 : (Option Nat × Option Nat × Option Nat × Option Nat × Option Nat × Int32 × hSt) → Prop) (v0 : Option Nat) (v1 : Option Nat) (v2 : Option Nat) (v3 : Option Nat) (v4 : Option Nat) (v5 : Int32) (z : hSt) : Prop :=
  wL_lawb2581 G P PX K28 v0 v1 v2 v3 v4 v5 z
def wL_lawb1405 (G : gE) (P : Int32 → hSt → Prop) (PX : Nat → Nat → hSt → Prop) (K28 : (Option Nat × Option Nat × Option Nat × Option Nat × Option Nat × Int32 × hSt) → Prop) (v0 : Option Nat) (v1 : Option Nat) (v2 : Option Nat) (v3 : Option Nat) (v4 : Option Nat) (v5 : Int32) (s0 : Int64) (s1 : Int64) (z : hSt) : Prop :=
  (((lg_cmp s0 s1) = 0 → wL_lawb1411 G P PX K28 v0 v1 v2 v3 v4 v5 z) ∧ (¬ (lg_cmp s0 s1) = 0 → P 0 z))
def wL_lawb1491 (G : gE) (P : Int32 → hSt → Prop) (PX : Nat → Nat → hSt → Prop) (K28 : (Option Nat × Option Nat × Option Nat × Option Nat × Option Nat × Int32 × hSt) → Prop) (v0 : Option Nat) (v1 : Option Nat) (v2 : Option Nat) (v3 : Option Nat) (v4 : Option Nat) (v5 : Int32) (z : hSt) : Prop :=
  wL_lawb2581 G P PX K28 v0 v1 v2 v3 v4 v5 z
def wL_lawb1547 (G : gE) (P : Int32 → hSt → Prop) (PX : Nat → Nat → hSt → Prop) (K28 : (Option Nat × Option Nat × Option Nat × Option Nat × Option Nat × Int32 × hSt) → Prop) (v0 : Option Nat) (v1 : Option Nat) (v2 : Option Nat) (v3 : Option Nat) (v4 : Option Nat) (v5 : Int32) (z : hSt) : Prop :=
  wL_lawb2581 G P PX K28 v0 v1 v2 v3 v4 v5 z
def wL_lawb1603 (G : gE) (P : Int32 → hSt → Prop) (PX : Nat → Nat → hSt → Prop) (K28 : (Option Nat × Option Nat × Option Nat × Option Nat × Option Nat × Int32 × hSt) → Prop) (v0 : Option Nat) (v1 : Option Nat) (v2 : Option Nat) (v3 : Option Nat) (v4 : Option Nat) (v5 : Int32) (z : hSt) : Prop :=
  wL_lawb2581 G P PX K28 v0 v1 v2 v3 v4 v5 z
def wL_lawb1671 (G : gE) (P : Int32 → hSt → Prop) (PX : Nat → Nat → hSt → Prop) (K28 : (Option Nat × Option Nat × Option Nat × Option Nat × Option Nat × Int32 × hSt) → Prop) (v0 : Option Nat) (v1 : Option Nat) (v2 : Option Nat) (v3 : Option Nat) (v4 : Option Nat) (v5 : Int32) (z : hSt) : Prop :=
  wL_lawb2581 G P PX K28 v0 v1 v2 v3 v4 v5 z
def wL_lawb1779 (G : gE) (P : Int32 → hSt → Prop) (PX : Nat → Nat → hSt → Prop) (K28 : (Option Nat × Option Nat × Option Nat × Option Nat × Option Nat × Int32 × hSt) → Prop) (v0 : Option Nat) (v1 : Option Nat) (v2 : Option Nat) (v3 : Option Nat) (v4 : Option Nat) (v5 : Int32) (z : hSt) : Prop :=
  wL_lawb2581 G P PX K28 v0 v1 v2 v3 v4 v5 z
def wL_lawb1835 (G : gE) (P : Int32 → hSt → Prop) (PX : Nat → Nat → hSt → Prop) (K28 : (Option Nat × Option Nat × Option Nat × Option Nat × Option Nat × Int32 × hSt) → Prop) (v0 : Option Nat) (v1 : Option Nat) (v2 : Option Nat) (v3 : Option Nat) (v4 : Option Nat) (v5 : Int32) (z : hSt) : Prop :=
  wL_lawb2581 G P PX K28 v0 v1 v2 v3 v4 v5 z
def wL_lawb1879 (G : gE) (P : Int32 → hSt → Prop) (PX : Nat → Nat → hSt → Prop) (K28 : (Option Nat × Option Nat × Option Nat × Option Nat × Option Nat × Int32 × hSt) → Prop) (v0 : Option Nat) (v1 : Option Nat) (v2 : Option Nat) (v3 : Option Nat) (v4 : Option Nat) (v5 : Int32) (z : hSt) : Prop :=
  wL_lawb2581 G P PX K28 v0 v1 v2 v3 v4 v5 z
def wL_lawb1960 (G : gE) (P : Int32 → hSt → Prop) (PX : Nat → Nat → hSt → Prop) (K28 : (Option Nat × Option Nat × Option Nat × Option Nat × Option Nat × Int32 × hSt) → Prop) (v0 : Option Nat) (v1 : Option Nat) (v2 : Option Nat) (v3 : Option Nat) (v4 : Option Nat) (v5 : Int32) (z : hSt) : Prop :=
  wL_lawb2581 G P PX K28 v0 v1 v2 v3 v4 v5 z
def wL_lawb2016 (G : gE) (P : Int32 → hSt → Prop) (PX : Nat → Nat → hSt → Prop) (K28 : (Option Nat × Option Nat × Option Nat × Option Nat × Option Nat × Int32 × hSt) → Prop) (v0 : Option Nat) (v1 : Option Nat) (v2 : Option Nat) (v3 : Option Nat) (v4 : Option Nat) (v5 : Int32) (z : hSt) : Prop :=
  wL_lawb2581 G P PX K28 v0 v1 v2 v3 v4 v5 z
def wL_lawb2072 (G : gE) (P : Int32 → hSt → Prop) (PX : Nat → Nat → hSt → Prop) (K28 : (Option Nat × Option Nat × Option Nat × Option Nat × Option Nat × Int32 × hSt) → Prop) (v0 : Option Nat) (v1 : Option Nat) (v2 : Option Nat) (v3 : Option Nat) (v4 : Option Nat) (v5 : Int32) (z : hSt) : Prop :=
  wL_lawb2581 G P PX K28 v0 v1 v2 v3 v4 v5 z
def wL_lawb2137 (G : gE) (P : Int32 → hSt → Prop) (PX : Nat → Nat → hSt → Prop) (K28 : (Option Nat × Option Nat × Option Nat × Option Nat × Option Nat × Int32 × hSt) → Prop) (v0 : Option Nat) (v1 : Option Nat) (v2 : Option Nat) (v3 : Option Nat) (v4 : Option Nat) (v5 : Int32) (z : hSt) : Prop :=
  wL_lawb2581 G P PX K28 v0 v1 v2 v3 v4 v5 z
def wL_lawb2135 (G : gE) (P : Int32 → hSt → Prop) (PX : Nat → Nat → hSt → Prop)   (z : hSt) : Prop :=
  P 0 z
def wL_lawb2203 (G : gE) (P : Int32 → hSt → Prop) (PX : Nat → Nat → hSt → Prop) (K28 : (Option Nat × Option Nat × Option Nat × Option Nat × Option Nat × Int32 × hSt) → Prop) (v0 : Option Nat) (v1 : Option Nat) (v2 : Option Nat) (v3 : Option Nat) (v4 : Option Nat) (v5 : Int32) (z : hSt) : Prop :=
  wL_lawb2581 G P PX K28 v0 v1 v2 v3 v4 v5 z
def wL_lawb2201 (G : gE) (P : Int32 → hSt → Prop) (PX : Nat → Nat → hSt → Prop)   (z : hSt) : Prop :=
  P 0 z
def wL_lawb2259 (G : gE) (P : Int32 → hSt → Prop) (PX : Nat → Nat → hSt → Prop) (K28 : (Option Nat × Option Nat × Option Nat × Option Nat × Option Nat × Int32 × hSt) → Prop) (v0 : Option Nat) (v1 : Option Nat) (v2 : Option Nat) (v3 : Option Nat) (v4 : Option Nat) (v5 : Int32) (z : hSt) : Prop :=
  wL_lawb2581 G P PX K28 v0 v1 v2 v3 v4 v5 z
def wL_lawb2317 (G : gE) (P : Int32 → hSt → Prop) (PX : Nat → Nat → hSt → Prop) (K28 : (Option Nat × Option Nat × Option Nat × Option Nat × Option Nat × Int32 × hSt) → Prop) (v0 : Option Nat) (v1 : Option Nat) (v2 : Option Nat) (v3 : Option Nat) (v4 : Option Nat) (v5 : Int32) (z : hSt) : Prop :=
  wL_lawb2581 G P PX K28 v0 v1 v2 v3 v4 v5 z
def wL_lawb2361 (G : gE) (P : Int32 → hSt → Prop) (PX : Nat → Nat → hSt → Prop) (K28 : (Option Nat × Option Nat × Option Nat × Option Nat × Option Nat × Int32 × hSt) → Prop) (v0 : Option Nat) (v1 : Option Nat) (v2 : Option Nat) (v3 : Option Nat) (v4 : Option Nat) (v5 : Int32) (z : hSt) : Prop :=
  wL_lawb2581 G P PX K28 v0 v1 v2 v3 v4 v5 z
def wL_lawb2405 (G : gE) (P : Int32 → hSt → Prop) (PX : Nat → Nat → hSt → Prop) (K28 : (Option Nat × Option Nat × Option Nat × Option Nat × Option Nat × Int32 × hSt) → Prop) (v0 : Option Nat) (v1 : Option Nat) (v2 : Option Nat) (v3 : Option Nat) (v4 : Option Nat) (v5 : Int32) (z : hSt) : Prop :=
  wL_lawb2581 G P PX K28 v0 v1 v2 v3 v4 v5 z
def wL_lawb2477 (G : gE) (P : Int32 → hSt → Prop) (PX : Nat → Nat → hSt → Prop) (K28 : (Option Nat × Option Nat × Option Nat × Option Nat × Option Nat × Int32 × hSt) → Prop) (v0 : Option Nat) (v1 : Option Nat) (v2 : Option Nat) (v3 : Option Nat) (v4 : Option Nat) (v5 : Int32) (z : hSt) : Prop :=
  wL_lawb2581 G P PX K28 v0 v1 v2 v3 v4 v5 z
def wL_lawb2444 (G : gE) (P : Int32 → hSt → Prop) (PX : Nat → Nat → hSt → Prop) (K28 : (Option Nat × Option Nat × Option Nat × Option Nat × Option Nat × Int32 × hSt) → Prop) (v0 : Option Nat) (v1 : Option Nat) (v2 : Option Nat) (v3 : Option Nat) (v4 : Option Nat) (v5 : Int32) (v6 : Int32) (s0 : Option Nat) (s1 : Int32) (z : hSt) : Prop :=
  (rcv z s0 4 ∧ wX5_reason G (fun x382 z381 => (rcv z381 v2 4 ∧ wX5_thrown G (fun x384 z383 => ((x384 = v6 → ((¬ v6 = 0 → wL_lawb2477 G P PX K28 v0 v1 v2 v3 v4 v5 z383) ∧ (v6 = 0 → alL z383 v3 0 (fun x385 => (((lg_cmp x385 ((x382 : Int32).toInt64)) = 0 → wL_lawb2477 G P PX K28 v0 v1 v2 v3 v4 v5 z383) ∧ (¬ (lg_cmp x385 ((x382 : Int32).toInt64)) = 0 → P 0 z383)))))) ∧ (¬ x384 = v6 → P 0 z383))) PX v2  z381)) PX s0 s1 z)
def wL_lawb2423 (G : gE) (P : Int32 → hSt → Prop) (PX : Nat → Nat → hSt → Prop) (K28 : (Option Nat × Option Nat × Option Nat × Option Nat × Option Nat × Int32 × hSt) → Prop) (v0 : Option Nat) (v1 : Option Nat) (v2 : Option Nat) (v3 : Option Nat) (v4 : Option Nat) (v5 : Int32) (s0 : Option Nat) (s1 : Int32) (z : hSt) : Prop :=
  wX0_reason G (fun x379 z378 => alI z378 v0 0 (v5 + 1) (fun x380 => ((x380 = 0 → wL_lawb2444 G P PX K28 v0 v1 v2 v3 v4 v5 x379 v2 0 z378) ∧ (¬ x380 = 0 → wL_lawb2444 G P PX K28 v0 v1 v2 v3 v4 v5 x379 v2 1 z378)))) PX s0 s1 v3 z
def wL_lawb2521 (G : gE) (P : Int32 → hSt → Prop) (PX : Nat → Nat → hSt → Prop) (K28 : (Option Nat × Option Nat × Option Nat × Option Nat × Option Nat × Int32 × hSt) → Prop) (v0 : Option Nat) (v1 : Option Nat) (v2 : Option Nat) (v3 : Option Nat) (v4 : Option Nat) (v5 : Int32) (z : hSt) : Prop :=
  wL_lawb2581 G P PX K28 v0 v1 v2 v3 v4 v5 z
def wL_lawb2578 (G : gE) (P : Int32 → hSt → Prop) (PX : Nat → Nat → hSt → Prop) (K28 : (Option Nat × Option Nat × Option Nat × Option Nat × Option Nat × Int32 × hSt) → Prop) (v0 : Option Nat) (v1 : Option Nat) (v2 : Option Nat) (v3 : Option Nat) (v4 : Option Nat) (v5 : Int32) (z : hSt) : Prop :=
  wL_lawb2581 G P PX K28 v0 v1 v2 v3 v4 v5 z
def wL_lawb28 (G : gE) (P : Int32 → hSt → Prop) (PX : Nat → Nat → hSt → Prop) (K28 : (Option Nat × Option Nat × Option Nat × Option Nat × Option Nat × Int32 × hSt) → Prop) (v0 : Option Nat) (v1 : Option Nat) (v2 : Option Nat) (v3 : Option Nat) (v4 : Option Nat) (v5 : Int32) (z : hSt) : Prop :=
  aln z v0 (fun x11 => (((x11 - 5) < v5 → P 1 z) ∧ (¬ (x11 - 5) < v5 → alI z v0 0 v5 (fun x12 => (((x12 &&& 63) = 0 → alI z v0 0 (v5 + 1) (fun x13 => alI z v0 0 (v5 + 2) (fun x14 => alI z v0 0 (v5 + 3) (fun x15 => alI z v0 0 (v5 + 4) (fun x16 => wX0_enter G (fun x18 z17 => alI z17 v0 0 (v5 + 1) (fun x19 => alI z17 v0 0 (v5 + 2) (fun x20 => alI z17 v0 0 (v5 + 3) (fun x21 => alI z17 v0 0 (v5 + 4) (fun x22 => (rcv z17 v2 4 ∧ wX5_enter G (fun x24 z23 => (rcv z23 v2 4 ∧ wX5_thrown G (fun x26 z25 => ((x26 = x18 → ((¬ x18 = 0 → wL_lawb313 G P PX K28 v0 v1 v2 v3 v4 v5 z25) ∧ (x18 = 0 → alL z25 v3 0 (fun x27 => (((lg_cmp x27 ((x24 : Int32).toInt64)) = 0 → wL_lawb313 G P PX K28 v0 v1 v2 v3 v4 v5 z25) ∧ (¬ (lg_cmp x27 ((x24 : Int32).toInt64)) = 0 → P 0 z25)))))) ∧ (¬ x26 = x18 → P 0 z25))) PX v2  z23)) PX v2 x19 x20 x21 x22 z17)))))) PX v1 x13 x14 x15 x16 v3 z))))) ∧ ((x12 &&& 63) = 1 → alI z v0 0 (v5 + 1) (fun x28 => alI z v0 0 (v5 + 2) (fun x29 => wX0_strike G (fun x31 z30 => alI z30 v0 0 (v5 + 1) (fun x32 => alI z30 v0 0 (v5 + 2) (fun x33 => (rcv z30 v2 4 ∧ wX5_strike G (fun x35 z34 => (rcv z34 v2 4 ∧ wX5_thrown G (fun x37 z36 => ((x37 = x31 → ((¬ x31 = 0 → wL_lawb381 G P PX K28 v0 v1 v2 v3 v4 v5 z36) ∧ (x31 = 0 → alL z36 v3 0 (fun x38 => (((lg_cmp x38 ((x35 : Int32).toInt64)) = 0 → wL_lawb381 G P PX K28 v0 v1 v2 v3 v4 v5 z36) ∧ (¬ (lg_cmp x38 ((x35 : Int32).toInt64)) = 0 → P 0 z36)))))) ∧ (¬ x37 = x31 → P 0 z36))) PX v2  z34)) PX v2 x32 x33 z30)))) PX v1 x28 x29 v3 z))) ∧ ((x12 &&& 63) = 2 → alI z v0 0 (v5 + 1) (fun x39 => alI z v0 0 (v5 + 2) (fun x40 => alI z v0 0 (v5 + 3) (fun x41 => alI z v0 0 (v5 + 4) (fun x42 => wX0_lend G (fun x44 z43 => alI z43 v0 0 (v5 + 1) (fun x45 => alI z43 v0 0 (v5 + 2) (fun x46 => alI z43 v0 0 (v5 + 3) (fun x47 => alI z43 v0 0 (v5 + 4) (fun x48 => (rcv z43 v2 4 ∧ wX5_lend G (fun x50 z49 => (rcv z49 v2 4 ∧ wX5_thrown G (fun x52 z51 => ((x52 = x44 → ((¬ x44 = 0 → wL_lawb473 G P PX K28 v0 v1 v2 v3 v4 v5 z51) ∧ (x44 = 0 → alL z51 v3 0 (fun x53 => (((lg_cmp x53 ((x50 : Int32).toInt64)) = 0 → wL_lawb473 G P PX K28 v0 v1 v2 v3 v4 v5 z51) ∧ (¬ (lg_cmp x53 ((x50 : Int32).toInt64)) = 0 → P 0 z51)))))) ∧ (¬ x52 = x44 → P 0 z51))) PX v2  z49)) PX v2 x45 x46 x47 x48 z43)))))) PX v1 x39 x40 x41 x42 v3 z))))) ∧ ((x12 &&& 63) = 3 → alI z v0 0 (v5 + 1) (fun x54 => alI z v0 0 (v5 + 2) (fun x55 => wX0_back G (fun x57 z56 => alI z56 v0 0 (v5 + 1) (fun x58 => alI z56 v0 0 (v5 + 2) (fun x59 => (rcv z56 v2 4 ∧ wX5_back G (fun x61 z60 => (rcv z60 v2 4 ∧ wX5_thrown G (fun x63 z62 => ((x63 = x57 → ((¬ x57 = 0 → wL_lawb541 G P PX K28 v0 v1 v2 v3 v4 v5 z62) ∧ (x57 = 0 → alL z62 v3 0 (fun x64 => (((lg_cmp x64 ((x61 : Int32).toInt64)) = 0 → wL_lawb541 G P PX K28 v0 v1 v2 v3 v4 v5 z62) ∧ (¬ (lg_cmp x64 ((x61 : Int32).toInt64)) = 0 → P 0 z62)))))) ∧ (¬ x63 = x57 → P 0 z62))) PX v2  z60)) PX v2 x58 x59 z56)))) PX v1 x54 x55 v3 z))) ∧ ((x12 &&& 63) = 4 → alI z v0 0 (v5 + 1) (fun x65 => alI z v0 0 (v5 + 2) (fun x66 => alI z v0 0 (v5 + 3) (fun x67 => wX0_mend G (fun x69 z68 => alI z68 v0 0 (v5 + 1) (fun x70 => alI z68 v0 0 (v5 + 2) (fun x71 => alI z68 v0 0 (v5 + 3) (fun x72 => (rcv z68 v2 4 ∧ wX5_mend G (fun x74 z73 => (rcv z73 v2 4 ∧ wX5_thrown G (fun x76 z75 => ((x76 = x69 → ((¬ x69 = 0 → wL_lawb621 G P PX K28 v0 v1 v2 v3 v4 v5 z75) ∧ (x69 = 0 → alL z75 v3 0 (fun x77 => (((lg_cmp x77 ((x74 : Int32).toInt64)) = 0 → wL_lawb621 G P PX K28 v0 v1 v2 v3 v4 v5 z75) ∧ (¬ (lg_cmp x77 ((x74 : Int32).toInt64)) = 0 → P 0 z75)))))) ∧ (¬ x76 = x69 → P 0 z75))) PX v2  z73)) PX v2 x70 x71 x72 z68))))) PX v1 x65 x66 x67 v3 z)))) ∧ ((x12 &&& 63) = 5 → alI z v0 0 (v5 + 1) (fun x78 => alI z v0 0 (v5 + 2) (fun x79 => alI z v0 0 (v5 + 3) (fun x80 => alI z v0 0 (v5 + 4) (fun x81 => wX0_use G (fun x83 z82 => alI z82 v0 0 (v5 + 1) (fun x84 => alI z82 v0 0 (v5 + 2) (fun x85 => alI z82 v0 0 (v5 + 3) (fun x86 => alI z82 v0 0 (v5 + 4) (fun x87 => (rcv z82 v2 4 ∧ wX5_use G (fun x89 z88 => (rcv z88 v2 4 ∧ wX5_thrown G (fun x91 z90 => ((x91 = x83 → ((¬ x83 = 0 → wL_lawb720 G P PX K28 v0 v1 v2 v3 v4 v5 z90) ∧ (x83 = 0 → alL z90 v3 0 (fun x92 => ((x89 = 0 → wL_lawb714 G P PX K28 v0 v1 v2 v3 v4 v5 x92 0 z90) ∧ (¬ x89 = 0 → wL_lawb714 G P PX K28 v0 v1 v2 v3 v4 v5 x92 1 z90)))))) ∧ (¬ x91 = x83 → P 0 z90))) PX v2  z88)) PX v2 x84 x85 x86 x87 z82)))))) PX v1 x78 x79 x80 x81 v3 z))))) ∧ ((x12 &&& 63) = 6 → alI z v0 0 (v5 + 1) (fun x93 => alI z v0 0 (v5 + 2) (fun x94 => wX0_strict G (fun x96 z95 => alI z95 v0 0 (v5 + 1) (fun x97 => alI z95 v0 0 (v5 + 2) (fun x98 => (rcv z95 v2 4 ∧ wX5_strict G (fun x100 z99 => (rcv z99 v2 4 ∧ wX5_thrown G (fun x102 z101 => ((x102 = x96 → ((¬ x96 = 0 → wL_lawb788 G P PX K28 v0 v1 v2 v3 v4 v5 z101) ∧ (x96 = 0 → alL z101 v3 0 (fun x103 => (((lg_cmp x103 ((x100 : Int32).toInt64)) = 0 → wL_lawb788 G P PX K28 v0 v1 v2 v3 v4 v5 z101) ∧ (¬ (lg_cmp x103 ((x100 : Int32).toInt64)) = 0 → P 0 z101)))))) ∧ (¬ x102 = x96 → P 0 z101))) PX v2  z99)) PX v2 x97 x98 z95)))) PX v1 x93 x94 v3 z))) ∧ ((x12 &&& 63) = 7 → alI z v0 0 (v5 + 1) (fun x104 => wX0_weather G (fun x106 z105 => alI z105 v0 0 (v5 + 1) (fun x107 => (rcv z105 v2 4 ∧ wX5_weather G (fun x109 z108 => (rcv z108 v2 4 ∧ wX5_thrown G (fun x111 z110 => ((x111 = x106 → ((¬ x106 = 0 → wL_lawb844 G P PX K28 v0 v1 v2 v3 v4 v5 z110) ∧ (x106 = 0 → alL z110 v3 0 (fun x112 => (((lg_cmp x112 ((x109 : Int32).toInt64)) = 0 → wL_lawb844 G P PX K28 v0 v1 v2 v3 v4 v5 z110) ∧ (¬ (lg_cmp x112 ((x109 : Int32).toInt64)) = 0 → P 0 z110)))))) ∧ (¬ x111 = x106 → P 0 z110))) PX v2  z108)) PX v2 x107 z105))) PX v1 x104 v3 z)) ∧ ((x12 &&& 63) = 8 → (rcv z v1 0 ∧ wX1_day G (fun x114 z113 => (rcv z113 v2 4 ∧ wX5_day G (fun x116 z115 => ((x114 = x116 → wL_lawb2581 G P PX K28 v0 v1 v2 v3 v4 v5 z115) ∧ (¬ x114 = x116 → P 0 z115))) PX v2  z113)) PX v1  z)) ∧ ((x12 &&& 63) = 9 → alI z v0 0 (v5 + 1) (fun x117 => alI z v0 0 (v5 + 2) (fun x118 => alI z v0 0 (v5 + 3) (fun x119 => wX0_excuseOf G (fun x121 z120 => alI z120 v0 0 (v5 + 1) (fun x122 => alI z120 v0 0 (v5 + 2) (fun x123 => alI z120 v0 0 (v5 + 3) (fun x124 => (rcv z120 v2 4 ∧ wX5_excuseOf G (fun x126 z125 => (rcv z125 v2 4 ∧ wX5_thrown G (fun x128 z127 => ((x128 = x121 → ((¬ x121 = 0 → wL_lawb937 G P PX K28 v0 v1 v2 v3 v4 v5 z127) ∧ (x121 = 0 → alL z127 v3 0 (fun x129 => (((lg_cmp x129 ((x126 : Int32).toInt64)) = 0 → wL_lawb937 G P PX K28 v0 v1 v2 v3 v4 v5 z127) ∧ (¬ (lg_cmp x129 ((x126 : Int32).toInt64)) = 0 → P 0 z127)))))) ∧ (¬ x128 = x121 → P 0 z127))) PX v2  z125)) PX v2 x122 x123 x124 z120))))) PX v1 x117 x118 x119 v3 z)))) ∧ ((x12 &&& 63) = 10 → alI z v0 0 (v5 + 1) (fun x130 => alI z v0 0 (v5 + 2) (fun x131 => ((x131 = 0 → wL_lawb961 G P PX K28 v0 v1 v2 v3 v4 v5 v1 x130 0 z) ∧ (¬ x131 = 0 → wL_lawb961 G P PX K28 v0 v1 v2 v3 v4 v5 v1 x130 1 z))))) ∧ ((x12 &&& 63) = 11 → alI z v0 0 (v5 + 1) (fun x132 => alI z v0 0 (v5 + 2) (fun x133 => wX0_pupilOf G (fun x135 z134 => alI z134 v0 0 (v5 + 1) (fun x136 => alI z134 v0 0 (v5 + 2) (fun x137 => (rcv z134 v2 4 ∧ wX5_pupilOf G (fun x139 z138 => (rcv z138 v2 4 ∧ wX5_thrown G (fun x141 z140 => ((x141 = x135 → ((¬ x135 = 0 → wL_lawb1089 G P PX K28 v0 v1 v2 v3 v4 v5 z140) ∧ (x135 = 0 → alL z140 v3 0 (fun x142 => (((lg_cmp x142 ((x139 : Int32).toInt64)) = 0 → wL_lawb1089 G P PX K28 v0 v1 v2 v3 v4 v5 z140) ∧ (¬ (lg_cmp x142 ((x139 : Int32).toInt64)) = 0 → P 0 z140)))))) ∧ (¬ x141 = x135 → P 0 z140))) PX v2  z138)) PX v2 x136 x137 z134)))) PX v1 x132 x133 v3 z))) ∧ ((x12 &&& 63) = 12 → alI z v0 0 (v5 + 1) (fun x143 => alI z v0 0 (v5 + 2) (fun x144 => wX0_schoolOf G (fun x146 z145 => alI z145 v0 0 (v5 + 1) (fun x147 => alI z145 v0 0 (v5 + 2) (fun x148 => (rcv z145 v2 4 ∧ wX5_schoolOf G (fun x150 z149 => (rcv z149 v2 4 ∧ wX5_thrown G (fun x152 z151 => ((x152 = x146 → ((¬ x146 = 0 → wL_lawb1157 G P PX K28 v0 v1 v2 v3 v4 v5 z151) ∧ (x146 = 0 → alL z151 v3 0 (fun x153 => (((lg_cmp x153 ((x150 : Int32).toInt64)) = 0 → wL_lawb1157 G P PX K28 v0 v1 v2 v3 v4 v5 z151) ∧ (¬ (lg_cmp x153 ((x150 : Int32).toInt64)) = 0 → P 0 z151)))))) ∧ (¬ x152 = x146 → P 0 z151))) PX v2  z149)) PX v2 x147 x148 z145)))) PX v1 x143 x144 v3 z))) ∧ ((x12 &&& 63) = 13 → alI z v0 0 (v5 + 1) (fun x154 => wX0_dog G (fun x156 z155 => alI z155 v0 0 (v5 + 1) (fun x157 => (rcv z155 v2 4 ∧ wX5_dog G (fun x159 z158 => (rcv z158 v2 4 ∧ wX5_thrown G (fun x161 z160 => ((x161 = x156 → ((¬ x156 = 0 → wL_lawb1213 G P PX K28 v0 v1 v2 v3 v4 v5 z160) ∧ (x156 = 0 → alL z160 v3 0 (fun x162 => (((lg_cmp x162 ((x159 : Int32).toInt64)) = 0 → wL_lawb1213 G P PX K28 v0 v1 v2 v3 v4 v5 z160) ∧ (¬ (lg_cmp x162 ((x159 : Int32).toInt64)) = 0 → P 0 z160)))))) ∧ (¬ x161 = x156 → P 0 z160))) PX v2  z158)) PX v2 x157 z155))) PX v1 x154 v3 z)) ∧ ((x12 &&& 63) = 14 → alI z v0 0 (v5 + 1) (fun x163 => alI z v0 0 (v5 + 2) (fun x164 => alI z v0 0 (v5 + 3) (fun x165 => alI z v0 0 (v5 + 4) (fun x166 => wX0_heard G (fun x168 z167 => alI z167 v0 0 (v5 + 1) (fun x169 => alI z167 v0 0 (v5 + 2) (fun x170 => alI z167 v0 0 (v5 + 3) (fun x171 => alI z167 v0 0 (v5 + 4) (fun x172 => (rcv z167 v2 4 ∧ wX5_heard G (fun x174 z173 => (rcv z173 v2 4 ∧ wX5_thrown G (fun x176 z175 => ((x176 = x168 → ((¬ x168 = 0 → wL_lawb1312 G P PX K28 v0 v1 v2 v3 v4 v5 z175) ∧ (x168 = 0 → alL z175 v3 0 (fun x177 => ((x174 = 0 → wL_lawb1306 G P PX K28 v0 v1 v2 v3 v4 v5 x177 0 z175) ∧ (¬ x174 = 0 → wL_lawb1306 G P PX K28 v0 v1 v2 v3 v4 v5 x177 1 z175)))))) ∧ (¬ x176 = x168 → P 0 z175))) PX v2  z173)) PX v2 x169 x170 x171 x172 z167)))))) PX v1 x163 x164 x165 x166 v3 z))))) ∧ ((x12 &&& 63) = 15 → alI z v0 0 (v5 + 1) (fun x178 => alI z v0 0 (v5 + 2) (fun x179 => alI z v0 0 (v5 + 3) (fun x180 => alI z v0 0 (v5 + 4) (fun x181 => wX0_would G (fun x183 z182 => alI z182 v0 0 (v5 + 1) (fun x184 => alI z182 v0 0 (v5 + 2) (fun x185 => alI z182 v0 0 (v5 + 3) (fun x186 => alI z182 v0 0 (v5 + 4) (fun x187 => (rcv z182 v2 4 ∧ wX5_would G (fun x189 z188 => (rcv z188 v2 4 ∧ wX5_thrown G (fun x191 z190 => ((x191 = x183 → ((¬ x183 = 0 → wL_lawb1411 G P PX K28 v0 v1 v2 v3 v4 v5 z190) ∧ (x183 = 0 → alL z190 v3 0 (fun x192 => ((x189 = 0 → wL_lawb1405 G P PX K28 v0 v1 v2 v3 v4 v5 x192 0 z190) ∧ (¬ x189 = 0 → wL_lawb1405 G P PX K28 v0 v1 v2 v3 v4 v5 x192 1 z190)))))) ∧ (¬ x191 = x183 → P 0 z190))) PX v2  z188)) PX v2 x184 x185 x186 x187 z182)))))) PX v1 x178 x179 x180 x181 v3 z))))) ∧ ((x12 &&& 63) = 16 → alI z v0 0 (v5 + 1) (fun x193 => alI z v0 0 (v5 + 2) (fun x194 => alI z v0 0 (v5 + 3) (fun x195 => wX0_believers G (fun x197 z196 => alI z196 v0 0 (v5 + 1) (fun x198 => alI z196 v0 0 (v5 + 2) (fun x199 => alI z196 v0 0 (v5 + 3) (fun x200 => (rcv z196 v2 4 ∧ wX5_believers G (fun x202 z201 => (rcv z201 v2 4 ∧ wX5_thrown G (fun x204 z203 => ((x204 = x197 → ((¬ x197 = 0 → wL_lawb1491 G P PX K28 v0 v1 v2 v3 v4 v5 z203) ∧ (x197 = 0 → alL z203 v3 0 (fun x205 => (((lg_cmp x205 ((x202 : Int32).toInt64)) = 0 → wL_lawb1491 G P PX K28 v0 v1 v2 v3 v4 v5 z203) ∧ (¬ (lg_cmp x205 ((x202 : Int32).toInt64)) = 0 → P 0 z203)))))) ∧ (¬ x204 = x197 → P 0 z203))) PX v2  z201)) PX v2 x198 x199 x200 z196))))) PX v1 x193 x194 x195 v3 z)))) ∧ ((x12 &&& 63) = 17 → alI z v0 0 (v5 + 1) (fun x206 => wX0_left G (fun x208 z207 => alI z207 v0 0 (v5 + 1) (fun x209 => (rcv z207 v2 4 ∧ wX5_left G (fun x211 z210 => (rcv z210 v2 4 ∧ wX5_thrown G (fun x213 z212 => ((x213 = x208 → ((¬ x208 = 0 → wL_lawb1547 G P PX K28 v0 v1 v2 v3 v4 v5 z212) ∧ (x208 = 0 → alL z212 v3 0 (fun x214 => (((lg_cmp x214 ((x211 : Int32).toInt64)) = 0 → wL_lawb1547 G P PX K28 v0 v1 v2 v3 v4 v5 z212) ∧ (¬ (lg_cmp x214 ((x211 : Int32).toInt64)) = 0 → P 0 z212)))))) ∧ (¬ x213 = x208 → P 0 z212))) PX v2  z210)) PX v2 x209 z207))) PX v1 x206 v3 z)) ∧ ((x12 &&& 63) = 18 → alI z v0 0 (v5 + 1) (fun x215 => wX0_leftAgain G (fun x217 z216 => alI z216 v0 0 (v5 + 1) (fun x218 => (rcv z216 v2 4 ∧ wX5_leftAgain G (fun x220 z219 => (rcv z219 v2 4 ∧ wX5_thrown G (fun x222 z221 => ((x222 = x217 → ((¬ x217 = 0 → wL_lawb1603 G P PX K28 v0 v1 v2 v3 v4 v5 z221) ∧ (x217 = 0 → alL z221 v3 0 (fun x223 => (((lg_cmp x223 ((x220 : Int32).toInt64)) = 0 → wL_lawb1603 G P PX K28 v0 v1 v2 v3 v4 v5 z221) ∧ (¬ (lg_cmp x223 ((x220 : Int32).toInt64)) = 0 → P 0 z221)))))) ∧ (¬ x222 = x217 → P 0 z221))) PX v2  z219)) PX v2 x218 z216))) PX v1 x215 v3 z)) ∧ ((x12 &&& 63) = 19 → alI z v0 0 (v5 + 1) (fun x224 => alI z v0 0 (v5 + 2) (fun x225 => wX0_best G (fun x227 z226 => alI z226 v0 0 (v5 + 1) (fun x228 => alI z226 v0 0 (v5 + 2) (fun x229 => (rcv z226 v2 4 ∧ wX5_best G (fun x231 z230 => (rcv z230 v2 4 ∧ wX5_thrown G (fun x233 z232 => ((x233 = x227 → ((¬ x227 = 0 → wL_lawb1671 G P PX K28 v0 v1 v2 v3 v4 v5 z232) ∧ (x227 = 0 → alL z232 v3 0 (fun x234 => (((lg_cmp x234 ((x231 : Int32).toInt64)) = 0 → wL_lawb1671 G P PX K28 v0 v1 v2 v3 v4 v5 z232) ∧ (¬ (lg_cmp x234 ((x231 : Int32).toInt64)) = 0 → P 0 z232)))))) ∧ (¬ x233 = x227 → P 0 z232))) PX v2  z230)) PX v2 x228 x229 z226)))) PX v1 x224 x225 v3 z))) ∧ ((x12 &&& 63) = 20 → (rcv z v1 0 ∧ wX1_chances G (fun x236 z235 => (rcv z235 v2 4 ∧ wX5_chances G (fun x238 z237 => ((x236 = x238 → wL_lawb2581 G P PX K28 v0 v1 v2 v3 v4 v5 z237) ∧ (¬ x236 = x238 → P 0 z237))) PX v2  z235)) PX v1  z)) ∧ ((x12 &&& 63) = 21 → (rcv z v1 0 ∧ wX1_chancesAgain G (fun x240 z239 => (rcv z239 v2 4 ∧ wX5_chancesAgain G (fun x242 z241 => ((x240 = x242 → wL_lawb2581 G P PX K28 v0 v1 v2 v3 v4 v5 z241) ∧ (¬ x240 = x242 → P 0 z241))) PX v2  z239)) PX v1  z)) ∧ ((x12 &&& 63) = 22 → (rcv z v1 0 ∧ wX1_worn G (fun x244 z243 => (rcv z243 v2 4 ∧ wX5_worn G (fun x246 z245 => ((x244 = x246 → wL_lawb2581 G P PX K28 v0 v1 v2 v3 v4 v5 z245) ∧ (¬ x244 = x246 → P 0 z245))) PX v2  z243)) PX v1  z)) ∧ ((x12 &&& 63) = 23 → (rcv z v1 0 ∧ wX1_due G (fun x248 z247 => (rcv z247 v2 4 ∧ wX5_due G (fun x250 z249 => ((x248 = x250 → wL_lawb2581 G P PX K28 v0 v1 v2 v3 v4 v5 z249) ∧ (¬ x248 = x250 → P 0 z249))) PX v2  z247)) PX v1  z)) ∧ ((x12 &&& 63) = 24 → alI z v0 0 (v5 + 1) (fun x251 => wX0_ranked G (fun x253 z252 => alI z252 v0 0 (v5 + 1) (fun x254 => (rcv z252 v2 4 ∧ wX5_ranked G (fun x256 z255 => (rcv z255 v2 4 ∧ wX5_thrown G (fun x258 z257 => ((x258 = x253 → ((¬ x253 = 0 → wL_lawb1779 G P PX K28 v0 v1 v2 v3 v4 v5 z257) ∧ (x253 = 0 → alL z257 v3 0 (fun x259 => (((lg_cmp x259 ((x256 : Int32).toInt64)) = 0 → wL_lawb1779 G P PX K28 v0 v1 v2 v3 v4 v5 z257) ∧ (¬ (lg_cmp x259 ((x256 : Int32).toInt64)) = 0 → P 0 z257)))))) ∧ (¬ x258 = x253 → P 0 z257))) PX v2  z255)) PX v2 x254 z252))) PX v1 x251 v3 z)) ∧ ((x12 &&& 63) = 25 → alI z v0 0 (v5 + 1) (fun x260 => wX0_freshest G (fun x262 z261 => alI z261 v0 0 (v5 + 1) (fun x263 => (rcv z261 v2 4 ∧ wX5_freshest G (fun x265 z264 => (rcv z264 v2 4 ∧ wX5_thrown G (fun x267 z266 => ((x267 = x262 → ((¬ x262 = 0 → wL_lawb1835 G P PX K28 v0 v1 v2 v3 v4 v5 z266) ∧ (x262 = 0 → alL z266 v3 0 (fun x268 => (((lg_cmp x268 ((x265 : Int32).toInt64)) = 0 → wL_lawb1835 G P PX K28 v0 v1 v2 v3 v4 v5 z266) ∧ (¬ (lg_cmp x268 ((x265 : Int32).toInt64)) = 0 → P 0 z266)))))) ∧ (¬ x267 = x262 → P 0 z266))) PX v2  z264)) PX v2 x263 z261))) PX v1 x260 v3 z)) ∧ ((x12 &&& 63) = 26 → wX0_strongest G (fun x270 z269 => (rcv z269 v2 4 ∧ wX5_strongest G (fun x272 z271 => (rcv z271 v2 4 ∧ wX5_thrown G (fun x274 z273 => ((x274 = x270 → ((¬ x270 = 0 → wL_lawb1879 G P PX K28 v0 v1 v2 v3 v4 v5 z273) ∧ (x270 = 0 → alL z273 v3 0 (fun x275 => (((lg_cmp x275 ((x272 : Int32).toInt64)) = 0 → wL_lawb1879 G P PX K28 v0 v1 v2 v3 v4 v5 z273) ∧ (¬ (lg_cmp x275 ((x272 : Int32).toInt64)) = 0 → P 0 z273)))))) ∧ (¬ x274 = x270 → P 0 z273))) PX v2  z271)) PX v2  z269)) PX v1 v3 z) ∧ ((x12 &&& 63) = 27 → (rcv z v1 0 ∧ wX1_isFair G (fun x277 z276 => (rcv z276 v2 4 ∧ wX5_isFair G (fun x279 z278 => ((x277 = x279 → wL_lawb2581 G P PX K28 v0 v1 v2 v3 v4 v5 z278) ∧ (¬ x277 = x279 → P 0 z278))) PX v2  z276)) PX v1  z)) ∧ ((x12 &&& 63) = 28 → alI z v0 0 (v5 + 1) (fun x280 => alI z v0 0 (v5 + 2) (fun x281 => wX0_tell G (fun x283 z282 => alI z282 v0 0 (v5 + 1) (fun x284 => alI z282 v0 0 (v5 + 2) (fun x285 => (rcv z282 v2 4 ∧ wX5_tell G (fun x287 z286 => (rcv z286 v2 4 ∧ wX5_thrown G (fun x289 z288 => ((x289 = x283 → ((¬ x283 = 0 → wL_lawb1960 G P PX K28 v0 v1 v2 v3 v4 v5 z288) ∧ (x283 = 0 → alL z288 v3 0 (fun x290 => (((lg_cmp x290 ((x287 : Int32).toInt64)) = 0 → wL_lawb1960 G P PX K28 v0 v1 v2 v3 v4 v5 z288) ∧ (¬ (lg_cmp x290 ((x287 : Int32).toInt64)) = 0 → P 0 z288)))))) ∧ (¬ x289 = x283 → P 0 z288))) PX v2  z286)) PX v2 x284 x285 z282)))) PX v1 x280 x281 v3 z))) ∧ ((x12 &&& 63) = 29 → alI z v0 0 (v5 + 1) (fun x291 => wX0_bag G (fun x293 z292 => alI z292 v0 0 (v5 + 1) (fun x294 => (rcv z292 v2 4 ∧ wX5_bag G (fun x296 z295 => (rcv z295 v2 4 ∧ wX5_thrown G (fun x298 z297 => ((x298 = x293 → ((¬ x293 = 0 → wL_lawb2016 G P PX K28 v0 v1 v2 v3 v4 v5 z297) ∧ (x293 = 0 → alL z297 v3 0 (fun x299 => (((lg_cmp x299 ((x296 : Int32).toInt64)) = 0 → wL_lawb2016 G P PX K28 v0 v1 v2 v3 v4 v5 z297) ∧ (¬ (lg_cmp x299 ((x296 : Int32).toInt64)) = 0 → P 0 z297)))))) ∧ (¬ x298 = x293 → P 0 z297))) PX v2  z295)) PX v2 x294 z292))) PX v1 x291 v3 z)) ∧ ((x12 &&& 63) = 30 → alI z v0 0 (v5 + 1) (fun x300 => wX0_character G (fun x302 z301 => alI z301 v0 0 (v5 + 1) (fun x303 => (rcv z301 v2 4 ∧ wX5_character G (fun x305 z304 => (rcv z304 v2 4 ∧ wX5_thrown G (fun x307 z306 => ((x307 = x302 → ((¬ x302 = 0 → wL_lawb2072 G P PX K28 v0 v1 v2 v3 v4 v5 z306) ∧ (x302 = 0 → alL z306 v3 0 (fun x308 => (((lg_cmp x308 ((x305 : Int32).toInt64)) = 0 → wL_lawb2072 G P PX K28 v0 v1 v2 v3 v4 v5 z306) ∧ (¬ (lg_cmp x308 ((x305 : Int32).toInt64)) = 0 → P 0 z306)))))) ∧ (¬ x307 = x302 → P 0 z306))) PX v2  z304)) PX v2 x303 z301))) PX v1 x300 v3 z)) ∧ ((x12 &&& 63) = 31 → wX0_meanWear G (fun x310 z309 => (rcv z309 v2 4 ∧ wX5_meanWear G (fun x312 z311 => (rcv z311 v2 4 ∧ wX5_thrown G (fun x314 z313 => ((x314 = x310 → ((¬ x310 = 0 → wL_lawb2137 G P PX K28 v0 v1 v2 v3 v4 v5 z313) ∧ (x310 = 0 → alD z313 v4 0 (fun x315 => (((Op.cmpValue (FP.dcmp x315 x312) .l) = 0 → wL_lawb2137 G P PX K28 v0 v1 v2 v3 v4 v5 z313) ∧ (¬ (Op.cmpValue (FP.dcmp x315 x312) .l) = 0 → alD z313 v4 0 (fun x316 => alD z313 v4 0 (fun x317 => (((Op.cmpValue (FP.dcmp x316 x317) .l) = 0 → wL_lawb2135 G P PX   z313) ∧ (¬ (Op.cmpValue (FP.dcmp x316 x317) .l) = 0 → ((¬ (Op.cmpValue (FP.dcmp x312 x312) .l) = 0 → wL_lawb2137 G P PX K28 v0 v1 v2 v3 v4 v5 z313) ∧ ((Op.cmpValue (FP.dcmp x312 x312) .l) = 0 → wL_lawb2135 G P PX   z313)))))))))))) ∧ (¬ x314 = x310 → P 0 z313))) PX v2  z311)) PX v2  z309)) PX v1 v4 z) ∧ ((x12 &&& 63) = 32 → wX0_believedShare G (fun x319 z318 => (rcv z318 v2 4 ∧ wX5_believedShare G (fun x321 z320 => (rcv z320 v2 4 ∧ wX5_thrown G (fun x323 z322 => ((x323 = x319 → ((¬ x319 = 0 → wL_lawb2203 G P PX K28 v0 v1 v2 v3 v4 v5 z322) ∧ (x319 = 0 → alD z322 v4 0 (fun x324 => (vf_n64 (FP.f2d x321) ∧ (((Op.cmpValue (FP.dcmp x324 (FP.f2d x321)) .l) = 0 → wL_lawb2203 G P PX K28 v0 v1 v2 v3 v4 v5 z322) ∧ (¬ (Op.cmpValue (FP.dcmp x324 (FP.f2d x321)) .l) = 0 → alD z322 v4 0 (fun x325 => alD z322 v4 0 (fun x326 => (((Op.cmpValue (FP.dcmp x325 x326) .l) = 0 → wL_lawb2201 G P PX   z322) ∧ (¬ (Op.cmpValue (FP.dcmp x325 x326) .l) = 0 → ((¬ (Op.cmpValue (FP.fcmp x321 x321) .l) = 0 → wL_lawb2203 G P PX K28 v0 v1 v2 v3 v4 v5 z322) ∧ ((Op.cmpValue (FP.fcmp x321 x321) .l) = 0 → wL_lawb2201 G P PX   z322))))))))))))) ∧ (¬ x323 = x319 → P 0 z322))) PX v2  z320)) PX v2  z318)) PX v1 v4 z) ∧ ((x12 &&& 63) = 33 → alI z v0 0 (v5 + 1) (fun x327 => wX0_account G (fun x329 z328 => alI z328 v0 0 (v5 + 1) (fun x330 => (rcv z328 v2 4 ∧ wX5_account G (fun x332 z331 => (rcv z331 v2 4 ∧ wX5_thrown G (fun x334 z333 => ((x334 = x329 → ((¬ x329 = 0 → wL_lawb2259 G P PX K28 v0 v1 v2 v3 v4 v5 z333) ∧ (x329 = 0 → alL z333 v3 0 (fun x335 => (((lg_cmp x335 ((x332 : Int32).toInt64)) = 0 → wL_lawb2259 G P PX K28 v0 v1 v2 v3 v4 v5 z333) ∧ (¬ (lg_cmp x335 ((x332 : Int32).toInt64)) = 0 → P 0 z333)))))) ∧ (¬ x334 = x329 → P 0 z333))) PX v2  z331)) PX v2 x330 z328))) PX v1 x327 v3 z)) ∧ ((x12 &&& 63) = 34 → alI z v0 0 (v5 + 1) (fun x336 => wX0_append G (fun x338 z337 => alI z337 v0 0 (v5 + 1) (fun x339 => (rcv z337 v2 4 ∧ wX5_append G (fun x341 z340 => (rcv z340 v2 4 ∧ wX5_thrown G (fun x343 z342 => ((x343 = x338 → ((¬ x338 = 0 → wL_lawb2317 G P PX K28 v0 v1 v2 v3 v4 v5 z342) ∧ (x338 = 0 → alL z342 v3 0 (fun x344 => (((lg_cmp x344 ((x341 : Int32).toInt64)) = 0 → wL_lawb2317 G P PX K28 v0 v1 v2 v3 v4 v5 z342) ∧ (¬ (lg_cmp x344 ((x341 : Int32).toInt64)) = 0 → P 0 z342)))))) ∧ (¬ x343 = x338 → P 0 z342))) PX v2  z340)) PX v2 (((x339 : Int32).toUInt32 % 65536).toInt32) z337))) PX v1 (((x336 : Int32).toUInt32 % 65536).toInt32) v3 z)) ∧ ((x12 &&& 63) = 35 → wX0_read G (fun x346 z345 => (rcv z345 v2 4 ∧ wX5_read G (fun x348 z347 => (rcv z347 v2 4 ∧ wX5_thrown G (fun x350 z349 => ((x350 = x346 → ((¬ x346 = 0 → wL_lawb2361 G P PX K28 v0 v1 v2 v3 v4 v5 z349) ∧ (x346 = 0 → alL z349 v3 0 (fun x351 => (((lg_cmp x351 ((x348 : Int32).toInt64)) = 0 → wL_lawb2361 G P PX K28 v0 v1 v2 v3 v4 v5 z349) ∧ (¬ (lg_cmp x351 ((x348 : Int32).toInt64)) = 0 → P 0 z349)))))) ∧ (¬ x350 = x346 → P 0 z349))) PX v2  z347)) PX v2  z345)) PX v1 v3 z) ∧ ((x12 &&& 63) = 36 → wX0_errorPosition G (fun x353 z352 => (rcv z352 v2 4 ∧ wX5_errorPosition G (fun x355 z354 => (rcv z354 v2 4 ∧ wX5_thrown G (fun x357 z356 => ((x357 = x353 → ((¬ x353 = 0 → wL_lawb2405 G P PX K28 v0 v1 v2 v3 v4 v5 z356) ∧ (x353 = 0 → alL z356 v3 0 (fun x358 => (((lg_cmp x358 ((x355 : Int32).toInt64)) = 0 → wL_lawb2405 G P PX K28 v0 v1 v2 v3 v4 v5 z356) ∧ (¬ (lg_cmp x358 ((x355 : Int32).toInt64)) = 0 → P 0 z356)))))) ∧ (¬ x357 = x353 → P 0 z356))) PX v2  z354)) PX v2  z352)) PX v1 v3 z) ∧ ((x12 &&& 63) = 37 → alI z v0 0 (v5 + 1) (fun x359 => ((x359 = 0 → wL_lawb2423 G P PX K28 v0 v1 v2 v3 v4 v5 v1 0 z) ∧ (¬ x359 = 0 → wL_lawb2423 G P PX K28 v0 v1 v2 v3 v4 v5 v1 1 z)))) ∧ ((x12 &&& 63) = 38 → wX0_undo G (fun x361 z360 => (rcv z360 v2 4 ∧ wX5_undo G (fun x363 z362 => (rcv z362 v2 4 ∧ wX5_thrown G (fun x365 z364 => ((x365 = x361 → ((¬ x361 = 0 → wL_lawb2521 G P PX K28 v0 v1 v2 v3 v4 v5 z364) ∧ (x361 = 0 → alL z364 v3 0 (fun x366 => (((lg_cmp x366 ((x363 : Int32).toInt64)) = 0 → wL_lawb2521 G P PX K28 v0 v1 v2 v3 v4 v5 z364) ∧ (¬ (lg_cmp x366 ((x363 : Int32).toInt64)) = 0 → P 0 z364)))))) ∧ (¬ x365 = x361 → P 0 z364))) PX v2  z362)) PX v2  z360)) PX v1 v3 z) ∧ ((x12 &&& 63) = 39 → (rcv z v1 0 ∧ wX1_save G (fun x368 z367 => (rcv z367 v2 4 ∧ wX5_save G (fun x370 z369 => ((x368 = x370 → wL_lawb2581 G P PX K28 v0 v1 v2 v3 v4 v5 z369) ∧ (¬ x368 = x370 → P 0 z369))) PX v2  z367)) PX v1  z)) ∧ ((x12 &&& 63) = 40 → wX0_restore G (fun x372 z371 => (rcv z371 v2 4 ∧ wX5_restore G (fun x374 z373 => (rcv z373 v2 4 ∧ wX5_thrown G (fun x376 z375 => ((x376 = x372 → ((¬ x372 = 0 → wL_lawb2578 G P PX K28 v0 v1 v2 v3 v4 v5 z375) ∧ (x372 = 0 → alL z375 v3 0 (fun x377 => (((lg_cmp x377 ((x374 : Int32).toInt64)) = 0 → wL_lawb2578 G P PX K28 v0 v1 v2 v3 v4 v5 z375) ∧ (¬ (lg_cmp x377 ((x374 : Int32).toInt64)) = 0 → P 0 z375)))))) ∧ (¬ x376 = x372 → P 0 z375))) PX v2  z373)) PX v2  z371)) PX v1 v3 z) ∧ ((x12 &&& 63) ∉ ([0, 1, 2, 3, 4, 5, 6, 7, 8, 9, 10, 11, 12, 13, 14, 15, 16, 17, 18, 19, 20, 21, 22, 23, 24, 25, 26, 27, 28, 29, 30, 31, 32, 33, 34, 35, 36, 37, 38, 39, 40] : List Int32) → wL_lawb2581 G P PX K28 v0 v1 v2 v3 v4 v5 z))))))
def wL_lawb0 (G : gE) (P : Int32 → hSt → Prop) (PX : Nat → Nat → hSt → Prop)  (v0 : Option Nat) (z : hSt) : Prop :=
  nwO G z 0 7 dfX1 (fun x1 z2 => (nnl (some x1) ∧ wX1_init G (fun z3 => nwO G z3 4 18 dfX5 (fun x4 z5 => (nnl (some x4) ∧ wX5_init G (fun z6 => nwA G z6 1 (.inr (.inl fun _ => 0)) 1 (fun x7 z8 => nwA G z8 4 (.inr (.inr (.inr (.inl fun _ => 0)))) 1 (fun x9 z10 => lpI (fun (K28 : (Option Nat × Option Nat × Option Nat × Option Nat × Option Nat × Int32 × hSt) → Prop) (y : (Option Nat × Option Nat × Option Nat × Option Nat × Option Nat × Int32 × hSt)) => wL_lawb28 G P PX  K28 (y.1) (y.2.1) (y.2.2.1) (y.2.2.2.1) (y.2.2.2.2.1) (y.2.2.2.2.2.1) (y.2.2.2.2.2.2)) (v0, some x1, some x4, some x7, some x9, 0, z10)))) PX (some x4)  z5))) PX (some x1)  z2))
def wL_law (G : gE) (P : Int32 → hSt → Prop) (PX : Nat → Nat → hSt → Prop) (v0 : Option Nat) (z : hSt) : Prop := wL_lawb0 G P PX v0 z
section
variable {p : Program} {l : Launch} {e : Env} {s : State} {m : MethodId} {args : Array Value} {below : List Frame} {meth : Method} {c : Code} {G : gE} {mc ms : Nat} {P : Int32 → hSt → Prop} {PX : Nat → Nat → hSt → Prop}
theorem kL_lawb2581 (C : xC G p l s m args meth c cL_law 9 "ExcuseLedgerLaw") (hr : meth.sig.returnType = ret) (hin : meth.name = "law") (hT : ∀ x ∈ c.exceptionTable.toList, False) (hmc : room_1.cells = gL G - s.heap.size ∧ room_1.slots = gU G - hsum s.heap) (hL : lawC G s args) {K28 : (Option Nat × Option Nat × Option Nat × Option Nat × Option Nat × Int32 × hSt) → Prop} (hK28 : ∀ y : (Option Nat × Option Nat × Option Nat × Option Nat × Option Nat × Int32 × hSt), K28 y → kt G p l e room_1 s m args below meth c 9 (lw_Z below args s) 28 [(0, va_rf (y.1)), (1, va_rf (y.2.1)), (2, va_rf (y.2.2.1)), (3, va_rf (y.2.2.2.1)), (4, va_rf (y.2.2.2.2.1)), (5, .int (y.2.2.2.2.2.1))] [] (y.2.2.2.2.2.2)) {v0 : Option Nat} {v1 : Option Nat} {v2 : Option Nat} {v3 : Option Nat} {v4 : Option Nat} {v5 : Int32} {z : hSt} (hw : wL_lawb2581 G lawP lawX K28 v0 v1 v2 v3 v4 v5 z) : kt G p l e room_1 s m args below meth c 9 (lw_Z below args s) 2581 [(0, va_rf v0), (1, va_rf v1), (2, va_rf v2), (3, va_rf v3), (4, va_rf v4), (5, .int v5)] [] z := by
  intro H locs ls hS hl
  refine r_iinc C.1 C.2.1 dL_law_2581 hl (k := 5) rfl (v := 5) rfl (Nat.le_of_ble_eq_true rfl) (ls_new (ls_old 0 rfl rfl (.inl rfl) (ls_old 1 rfl rfl (.inl rfl) (ls_old 2 rfl rfl (.inl rfl) (ls_old 3 rfl rfl (.inl rfl) (ls_old 4 rfl rfl (.inr (va_rf_cat _)) ls_nil)))))) (fun ls hl => ?_)
  refine lv_goto C.1 C.2.1 dL_law_2584 rfl ?_
  exact hK28 _ hw H locs ls hS (lv_sub hl [1, 2, 3, 4, 5, 0] rfl)
theorem kL_lawb313 (C : xC G p l s m args meth c cL_law 9 "ExcuseLedgerLaw") (hr : meth.sig.returnType = ret) (hin : meth.name = "law") (hT : ∀ x ∈ c.exceptionTable.toList, False) (hmc : room_1.cells = gL G - s.heap.size ∧ room_1.slots = gU G - hsum s.heap) (hL : lawC G s args) {K28 : (Option Nat × Option Nat × Option Nat × Option Nat × Option Nat × Int32 × hSt) → Prop} (hK28 : ∀ y : (Option Nat × Option Nat × Option Nat × Option Nat × Option Nat × Int32 × hSt), K28 y → kt G p l e room_1 s m args below meth c 9 (lw_Z below args s) 28 [(0, va_rf (y.1)), (1, va_rf (y.2.1)), (2, va_rf (y.2.2.1)), (3, va_rf (y.2.2.2.1)), (4, va_rf (y.2.2.2.2.1)), (5, .int (y.2.2.2.2.2.1))] [] (y.2.2.2.2.2.2)) {v0 : Option Nat} {v1 : Option Nat} {v2 : Option Nat} {v3 : Option Nat} {v4 : Option Nat} {v5 : Int32} {z : hSt} (hw : wL_lawb313 G lawP lawX K28 v0 v1 v2 v3 v4 v5 z) : kt G p l e room_1 s m args below meth c 9 (lw_Z below args s) 313 [(0, va_rf v0), (1, va_rf v1), (2, va_rf v2), (3, va_rf v3), (4, va_rf v4), (5, .int v5)] [] z := by
  intro H locs ls hS hl
  refine lv_goto C.1 C.2.1 dL_law_313 rfl ?_
  exact kL_lawb2581 C hr hin hT hmc hL hK28 hw H locs ls hS (lv_sub hl [0, 1, 2, 3, 4, 5] rfl)
theorem kL_lawb381 (C : xC G p l s m args meth c cL_law 9 "ExcuseLedgerLaw") (hr : meth.sig.returnType = ret) (hin : meth.name = "law") (hT : ∀ x ∈ c.exceptionTable.toList, False) (hmc : room_1.cells = gL G - s.heap.size ∧ room_1.slots = gU G - hsum s.heap) (hL : lawC G s args) {K28 : (Option Nat × Option Nat × Option Nat × Option Nat × Option Nat × Int32 × hSt) → Prop} (hK28 : ∀ y : (Option Nat × Option Nat × Option Nat × Option Nat × Option Nat × Int32 × hSt), K28 y → kt G p l e room_1 s m args below meth c 9 (lw_Z below args s) 28 [(0, va_rf (y.1)), (1, va_rf (y.2.1)), (2, va_rf (y.2.2.1)), (3, va_rf (y.2.2.2.1)), (4, va_rf (y.2.2.2.2.1)), (5, .int (y.2.2.2.2.2.1))] [] (y.2.2.2.2.2.2)) {v0 : Option Nat} {v1 : Option Nat} {v2 : Option Nat} {v3 : Option Nat} {v4 : Option Nat} {v5 : Int32} {z : hSt} (hw : wL_lawb381 G lawP lawX K28 v0 v1 v2 v3 v4 v5 z) : kt G p l e room_1 s m args below meth c 9 (lw_Z below args s) 381 [(0, va_rf v0), (1, va_rf v1), (2, va_rf v2), (3, va_rf v3), (4, va_rf v4), (5, .int v5)] [] z := by
  intro H locs ls hS hl
  refine lv_goto C.1 C.2.1 dL_law_381 rfl ?_
  exact kL_lawb2581 C hr hin hT hmc hL hK28 hw H locs ls hS (lv_sub hl [0, 1, 2, 3, 4, 5] rfl)
theorem kL_lawb473 (C : xC G p l s m args meth c cL_law 9 "ExcuseLedgerLaw") (hr : meth.sig.returnType = ret) (hin : meth.name = "law") (hT : ∀ x ∈ c.exceptionTable.toList, False) (hmc : room_1.cells = gL G - s.heap.size ∧ room_1.slots = gU G - hsum s.heap) (hL : lawC G s args) {K28 : (Option Nat × Option Nat × Option Nat × Option Nat × Option Nat × Int32 × hSt) → Prop} (hK28 : ∀ y : (Option Nat × Option Nat × Option Nat × Option Nat × Option Nat × Int32 × hSt), K28 y → kt G p l e room_1 s m args below meth c 9 (lw_Z below args s) 28 [(0, va_rf (y.1)), (1, va_rf (y.2.1)), (2, va_rf (y.2.2.1)), (3, va_rf (y.2.2.2.1)), (4, va_rf (y.2.2.2.2.1)), (5, .int (y.2.2.2.2.2.1))] [] (y.2.2.2.2.2.2)) {v0 : Option Nat} {v1 : Option Nat} {v2 : Option Nat} {v3 : Option Nat} {v4 : Option Nat} {v5 : Int32} {z : hSt} (hw : wL_lawb473 G lawP lawX K28 v0 v1 v2 v3 v4 v5 z) : kt G p l e room_1 s m args below meth c 9 (lw_Z below args s) 473 [(0, va_rf v0), (1, va_rf v1), (2, va_rf v2), (3, va_rf v3), (4, va_rf v4), (5, .int v5)] [] z := by
  intro H locs ls hS hl
  refine lv_goto C.1 C.2.1 dL_law_473 rfl ?_
  exact kL_lawb2581 C hr hin hT hmc hL hK28 hw H locs ls hS (lv_sub hl [0, 1, 2, 3, 4, 5] rfl)
theorem kL_lawb541 (C : xC G p l s m args meth c cL_law 9 "ExcuseLedgerLaw") (hr : meth.sig.returnType = ret) (hin : meth.name = "law") (hT : ∀ x ∈ c.exceptionTable.toList, False) (hmc : room_1.cells = gL G - s.heap.size ∧ room_1.slots = gU G - hsum s.heap) (hL : lawC G s args) {K28 : (Option Nat × Option Nat × Option Nat × Option Nat × Option Nat × Int32 × hSt) → Prop} (hK28 : ∀ y : (Option Nat × Option Nat × Option Nat × Option Nat × Option Nat × Int32 × hSt), K28 y → kt G p l e room_1 s m args below meth c 9 (lw_Z below args s) 28 [(0, va_rf (y.1)), (1, va_rf (y.2.1)), (2, va_rf (y.2.2.1)), (3, va_rf (y.2.2.2.1)), (4, va_rf (y.2.2.2.2.1)), (5, .int (y.2.2.2.2.2.1))] [] (y.2.2.2.2.2.2)) {v0 : Option Nat} {v1 : Option Nat} {v2 : Option Nat} {v3 : Option Nat} {v4 : Option Nat} {v5 : Int32} {z : hSt} (hw : wL_lawb541 G lawP lawX K28 v0 v1 v2 v3 v4 v5 z) : kt G p l e room_1 s m args below meth c 9 (lw_Z below args s) 541 [(0, va_rf v0), (1, va_rf v1), (2, va_rf v2), (3, va_rf v3), (4, va_rf v4), (5, .int v5)] [] z := by
  intro H locs ls hS hl
  refine lv_goto C.1 C.2.1 dL_law_541 rfl ?_
  exact kL_lawb2581 C hr hin hT hmc hL hK28 hw H locs ls hS (lv_sub hl [0, 1, 2, 3, 4, 5] rfl)
theorem kL_lawb621 (C : xC G p l s m args meth c cL_law 9 "ExcuseLedgerLaw") (hr : meth.sig.returnType = ret) (hin : meth.name = "law") (hT : ∀ x ∈ c.exceptionTable.toList, False) (hmc : room_1.cells = gL G - s.heap.size ∧ room_1.slots = gU G - hsum s.heap) (hL : lawC G s args) {K28 : (Option Nat × Option Nat × Option Nat × Option Nat × Option Nat × Int32 × hSt) → Prop} (hK28 : ∀ y : (Option Nat × Option Nat × Option Nat × Option Nat × Option Nat × Int32 × hSt), K28 y → kt G p l e room_1 s m args below meth c 9 (lw_Z below args s) 28 [(0, va_rf (y.1)), (1, va_rf (y.2.1)), (2, va_rf (y.2.2.1)), (3, va_rf (y.2.2.2.1)), (4, va_rf (y.2.2.2.2.1)), (5, .int (y.2.2.2.2.2.1))] [] (y.2.2.2.2.2.2)) {v0 : Option Nat} {v1 : Option Nat} {v2 : Option Nat} {v3 : Option Nat} {v4 : Option Nat} {v5 : Int32} {z : hSt} (hw : wL_lawb621 G lawP lawX K28 v0 v1 v2 v3 v4 v5 z) : kt G p l e room_1 s m args below meth c 9 (lw_Z below args s) 621 [(0, va_rf v0), (1, va_rf v1), (2, va_rf v2), (3, va_rf v3), (4, va_rf v4), (5, .int v5)] [] z := by
  intro H locs ls hS hl
  refine lv_goto C.1 C.2.1 dL_law_621 rfl ?_
  exact kL_lawb2581 C hr hin hT hmc hL hK28 hw H locs ls hS (lv_sub hl [0, 1, 2, 3, 4, 5] rfl)
theorem kL_lawb720 (C : xC G p l s m args meth c cL_law 9 "ExcuseLedgerLaw") (hr : meth.sig.returnType = ret) (hin : meth.name = "law") (hT : ∀ x ∈ c.exceptionTable.toList, False) (hmc : room_1.cells = gL G - s.heap.size ∧ room_1.slots = gU G - hsum s.heap) (hL : lawC G s args) {K28 : (Option Nat × Option Nat × Option Nat × Option Nat × Option Nat × Int32 × hSt) → Prop} (hK28 : ∀ y : (Option Nat × Option Nat × Option Nat × Option Nat × Option Nat × Int32 × hSt), K28 y → kt G p l e room_1 s m args below meth c 9 (lw_Z below args s) 28 [(0, va_rf (y.1)), (1, va_rf (y.2.1)), (2, va_rf (y.2.2.1)), (3, va_rf (y.2.2.2.1)), (4, va_rf (y.2.2.2.2.1)), (5, .int (y.2.2.2.2.2.1))] [] (y.2.2.2.2.2.2)) {v0 : Option Nat} {v1 : Option Nat} {v2 : Option Nat} {v3 : Option Nat} {v4 : Option Nat} {v5 : Int32} {z : hSt} (hw : wL_lawb720 G lawP lawX K28 v0 v1 v2 v3 v4 v5 z) : kt G p l e room_1 s m args below meth c 9 (lw_Z below args s) 720 [(0, va_rf v0), (1, va_rf v1), (2, va_rf v2), (3, va_rf v3), (4, va_rf v4), (5, .int v5)] [] z := by
  intro H locs ls hS hl
  refine lv_goto C.1 C.2.1 dL_law_720 rfl ?_
  exact kL_lawb2581 C hr hin hT hmc hL hK28 hw H locs ls hS (lv_sub hl [0, 1, 2, 3, 4, 5] rfl)
theorem kL_lawb714 (C : xC G p l s m args meth c cL_law 9 "ExcuseLedgerLaw") (hr : meth.sig.returnType = ret) (hin : meth.name = "law") (hT : ∀ x ∈ c.exceptionTable.toList, False) (hmc : room_1.cells = gL G - s.heap.size ∧ room_1.slots = gU G - hsum s.heap) (hL : lawC G s args) {K28 : (Option Nat × Option Nat × Option Nat × Option Nat × Option Nat × Int32 × hSt) → Prop} (hK28 : ∀ y : (Option Nat × Option Nat × Option Nat × Option Nat × Option Nat × Int32 × hSt), K28 y → kt G p l e room_1 s m args below meth c 9 (lw_Z below args s) 28 [(0, va_rf (y.1)), (1, va_rf (y.2.1)), (2, va_rf (y.2.2.1)), (3, va_rf (y.2.2.2.1)), (4, va_rf (y.2.2.2.2.1)), (5, .int (y.2.2.2.2.2.1))] [] (y.2.2.2.2.2.2)) {v0 : Option Nat} {v1 : Option Nat} {v2 : Option Nat} {v3 : Option Nat} {v4 : Option Nat} {v5 : Int32} {s0 : Int64} {s1 : Int64} {z : hSt} (hw : wL_lawb714 G lawP lawX K28 v0 v1 v2 v3 v4 v5 s0 s1 z) : kt G p l e room_1 s m args below meth c 9 (lw_Z below args s) 714 [(0, va_rf v0), (1, va_rf v1), (2, va_rf v2), (3, va_rf v3), (4, va_rf v4), (5, .int v5)] [.long s1, .long s0] z := by
  intro H locs ls hS hl
  refine r_lcmp C dL_law_714 ?_
  refine lv_if_eq C.1 C.2.1 dL_law_715 rfl (fun h => ?_) (fun h => ?_)
  · have hw := hw.1 h
    exact kL_lawb720 C hr hin hT hmc hL hK28 hw H locs ls hS (lv_sub hl [0, 1, 2, 3, 4, 5] rfl)
  · have hw := hw.2 h
    refine lv_iconst C.1 C.2.1 (v := 0) dL_law_718 rfl ?_
    exact r_lawret C hS hmc hr hL dL_law_719 hw
theorem kL_lawb788 (C : xC G p l s m args meth c cL_law 9 "ExcuseLedgerLaw") (hr : meth.sig.returnType = ret) (hin : meth.name = "law") (hT : ∀ x ∈ c.exceptionTable.toList, False) (hmc : room_1.cells = gL G - s.heap.size ∧ room_1.slots = gU G - hsum s.heap) (hL : lawC G s args) {K28 : (Option Nat × Option Nat × Option Nat × Option Nat × Option Nat × Int32 × hSt) → Prop} (hK28 : ∀ y : (Option Nat × Option Nat × Option Nat × Option Nat × Option Nat × Int32 × hSt), K28 y → kt G p l e room_1 s m args below meth c 9 (lw_Z below args s) 28 [(0, va_rf (y.1)), (1, va_rf (y.2.1)), (2, va_rf (y.2.2.1)), (3, va_rf (y.2.2.2.1)), (4, va_rf (y.2.2.2.2.1)), (5, .int (y.2.2.2.2.2.1))] [] (y.2.2.2.2.2.2)) {v0 : Option Nat} {v1 : Option Nat} {v2 : Option Nat} {v3 : Option Nat} {v4 : Option Nat} {v5 : Int32} {z : hSt} (hw : wL_lawb788 G lawP lawX K28 v0 v1 v2 v3 v4 v5 z) : kt G p l e room_1 s m args below meth c 9 (lw_Z below args s) 788 [(0, va_rf v0), (1, va_rf v1), (2, va_rf v2), (3, va_rf v3), (4, va_rf v4), (5, .int v5)] [] z := by
  intro H locs ls hS hl
  refine lv_goto C.1 C.2.1 dL_law_788 rfl ?_
  exact kL_lawb2581 C hr hin hT hmc hL hK28 hw H locs ls hS (lv_sub hl [0, 1, 2, 3, 4, 5] rfl)
theorem kL_lawb844 (C : xC G p l s m args meth c cL_law 9 "ExcuseLedgerLaw") (hr : meth.sig.returnType = ret) (hin : meth.name = "law") (hT : ∀ x ∈ c.exceptionTable.toList, False) (hmc : room_1.cells = gL G - s.heap.size ∧ room_1.slots = gU G - hsum s.heap) (hL : lawC G s args) {K28 : (Option Nat × Option Nat × Option Nat × Option Nat × Option Nat × Int32 × hSt) → Prop} (hK28 : ∀ y : (Option Nat × Option Nat × Option Nat × Option Nat × Option Nat × Int32 × hSt), K28 y → kt G p l e room_1 s m args below meth c 9 (lw_Z below args s) 28 [(0, va_rf (y.1)), (1, va_rf (y.2.1)), (2, va_rf (y.2.2.1)), (3, va_rf (y.2.2.2.1)), (4, va_rf (y.2.2.2.2.1)), (5, .int (y.2.2.2.2.2.1))] [] (y.2.2.2.2.2.2)) {v0 : Option Nat} {v1 : Option Nat} {v2 : Option Nat} {v3 : Option Nat} {v4 : Option Nat} {v5 : Int32} {z : hSt} (hw : wL_lawb844 G lawP lawX K28 v0 v1 v2 v3 v4 v5 z) : kt G p l e room_1 s m args below meth c 9 (lw_Z below args s) 844 [(0, va_rf v0), (1, va_rf v1), (2, va_rf v2), (3, va_rf v3), (4, va_rf v4), (5, .int v5)] [] z := by
  intro H locs ls hS hl
  refine lv_goto C.1 C.2.1 dL_law_844 rfl ?_
  exact kL_lawb2581 C hr hin hT hmc hL hK28 hw H locs ls hS (lv_sub hl [0, 1, 2, 3, 4, 5] rfl)
theorem kL_lawb937 (C : xC G p l s m args meth c cL_law 9 "ExcuseLedgerLaw") (hr : meth.sig.returnType = ret) (hin : meth.name = "law") (hT : ∀ x ∈ c.exceptionTable.toList, False) (hmc : room_1.cells = gL G - s.heap.size ∧ room_1.slots = gU G - hsum s.heap) (hL : lawC G s args) {K28 : (Option Nat × Option Nat × Option Nat × Option Nat × Option Nat × Int32 × hSt) → Prop} (hK28 : ∀ y : (Option Nat × Option Nat × Option Nat × Option Nat × Option Nat × Int32 × hSt), K28 y → kt G p l e room_1 s m args below meth c 9 (lw_Z below args s) 28 [(0, va_rf (y.1)), (1, va_rf (y.2.1)), (2, va_rf (y.2.2.1)), (3, va_rf (y.2.2.2.1)), (4, va_rf (y.2.2.2.2.1)), (5, .int (y.2.2.2.2.2.1))] [] (y.2.2.2.2.2.2)) {v0 : Option Nat} {v1 : Option Nat} {v2 : Option Nat} {v3 : Option Nat} {v4 : Option Nat} {v5 : Int32} {z : hSt} (hw : wL_lawb937 G lawP lawX K28 v0 v1 v2 v3 v4 v5 z) : kt G p l e room_1 s m args below meth c 9 (lw_Z below args s) 937 [(0, va_rf v0), (1, va_rf v1), (2, va_rf v2), (3, va_rf v3), (4, va_rf v4), (5, .int v5)] [] z := by
  intro H locs ls hS hl
  refine lv_goto C.1 C.2.1 dL_law_937 rfl ?_
  exact kL_lawb2581 C hr hin hT hmc hL hK28 hw H locs ls hS (lv_sub hl [0, 1, 2, 3, 4, 5] rfl)
theorem kL_lawb1021 (C : xC G p l s m args meth c cL_law 9 "ExcuseLedgerLaw") (hr : meth.sig.returnType = ret) (hin : meth.name = "law") (hT : ∀ x ∈ c.exceptionTable.toList, False) (hmc : room_1.cells = gL G - s.heap.size ∧ room_1.slots = gU G - hsum s.heap) (hL : lawC G s args) {K28 : (Option Nat × Option Nat × Option Nat × Option Nat × Option Nat × Int32 × hSt) → Prop} (hK28 : ∀ y : (Option Nat × Option Nat × Option Nat × Option Nat × Option Nat × Int32 × hSt), K28 y → kt G p l e room_1 s m args below meth c 9 (lw_Z below args s) 28 [(0, va_rf (y.1)), (1, va_rf (y.2.1)), (2, va_rf (y.2.2.1)), (3, va_rf (y.2.2.2.1)), (4, va_rf (y.2.2.2.2.1)), (5, .int (y.2.2.2.2.2.1))] [] (y.2.2.2.2.2.2)) {v0 : Option Nat} {v1 : Option Nat} {v2 : Option Nat} {v3 : Option Nat} {v4 : Option Nat} {v5 : Int32} {z : hSt} (hw : wL_lawb1021 G lawP lawX K28 v0 v1 v2 v3 v4 v5 z) : kt G p l e room_1 s m args below meth c 9 (lw_Z below args s) 1021 [(0, va_rf v0), (1, va_rf v1), (2, va_rf v2), (3, va_rf v3), (4, va_rf v4), (5, .int v5)] [] z := by
  intro H locs ls hS hl
  refine lv_goto C.1 C.2.1 dL_law_1021 rfl ?_
  exact kL_lawb2581 C hr hin hT hmc hL hK28 hw H locs ls hS (lv_sub hl [0, 1, 2, 3, 4, 5] rfl)
theorem kL_lawb988 (C : xC G p l s m args meth c cL_law 9 "ExcuseLedgerLaw") (hr : meth.sig.returnType = ret) (hin : meth.name = "law") (hT : ∀ x ∈ c.exceptionTable.toList, False) (hmc : room_1.cells = gL G - s.heap.size ∧ room_1.slots = gU G - hsum s.heap) (hL : lawC G s args) {K28 : (Option Nat × Option Nat × Option Nat × Option Nat × Option Nat × Int32 × hSt) → Prop} (hK28 : ∀ y : (Option Nat × Option Nat × Option Nat × Option Nat × Option Nat × Int32 × hSt), K28 y → kt G p l e room_1 s m args below meth c 9 (lw_Z below args s) 28 [(0, va_rf (y.1)), (1, va_rf (y.2.1)), (2, va_rf (y.2.2.1)), (3, va_rf (y.2.2.2.1)), (4, va_rf (y.2.2.2.2.1)), (5, .int (y.2.2.2.2.2.1))] [] (y.2.2.2.2.2.2)) {v0 : Option Nat} {v1 : Option Nat} {v2 : Option Nat} {v3 : Option Nat} {v4 : Option Nat} {v5 : Int32} {v6 : Int32} {s0 : Option Nat} {s1 : Int32} {s2 : Int32} {z : hSt} (hw : wL_lawb988 G lawP lawX K28 v0 v1 v2 v3 v4 v5 v6 s0 s1 s2 z) : kt G p l e room_1 s m args below meth c 9 (lw_Z below args s) 988 [(0, va_rf v0), (1, va_rf v1), (2, va_rf v2), (3, va_rf v3), (4, va_rf v4), (5, .int v5), (6, .int v6)] [.int s2, .int s1, va_rf s0] z := by
  intro H locs ls hS hl
  refine c_V C hS hmc hl.1 (ci := 4) rfl hw.1 (kX5_at C.2.2.2.2.2.2.1) hw.2 (lw_V q3315 q3316 q3317 q83 q3318) ⟨rfl, hdX5_at⟩ ⟨Nat.le_of_ble_eq_true rfl, Nat.le_of_ble_eq_true rfl⟩ (rest := []) rfl rfl (Nat.le_of_ble_eq_true rfl) dL_law_988 (fun ci q z H locs hx hS ht => (show False from hx).elim) (fun v z390 H locs hv hS => ?_)
  obtain ⟨x391, rfl, hw⟩ := hv
  refine r_istore C.1 C.2.1 dL_law_991 hl (Nat.le_of_ble_eq_true rfl) (ls_new (ls_old 0 rfl rfl (.inl rfl) (ls_old 1 rfl rfl (.inl rfl) (ls_old 2 rfl rfl (.inl rfl) (ls_old 3 rfl rfl (.inl rfl) (ls_old 4 rfl rfl (.inl rfl) (ls_old 5 rfl rfl (.inl rfl) (ls_old 6 rfl rfl (.inr rfl) ls_nil)))))))) (fun ls hl => ?_)
  refine r_aload_n C.1 C.2.1 dL_law_993 rfl (lv_at hl 3 rfl) ?_
  refine c_V C hS hmc hl.1 (ci := 4) rfl hw.1 (kX5_thrown C.2.2.2.2.2.2.1) hw.2 (lw_V q3161 q3162 q3163 q83 q3164) ⟨rfl, hdX5_thrown⟩ ⟨Nat.le_of_ble_eq_true rfl, Nat.le_of_ble_eq_true rfl⟩ (rest := []) rfl rfl (Nat.le_of_ble_eq_true rfl) dL_law_994 (fun ci q z H locs hx hS ht => (show False from hx).elim) (fun v z392 H locs hv hS => ?_)
  obtain ⟨x393, rfl, hw⟩ := hv
  refine lv_iload C.1 C.2.1 dL_law_997 (lv_at hl 7 rfl) ?_
  refine lv_icmp_eq C.1 C.2.1 dL_law_999 rfl (fun h => ?_) (fun h => ?_)
  · have hw := hw.1 h
    refine lv_iload C.1 C.2.1 dL_law_1004 (lv_at hl 7 rfl) ?_
    refine lv_if_ne C.1 C.2.1 dL_law_1006 rfl (fun h => ?_) (fun h => ?_)
    · have hw := hw.1 h
      exact kL_lawb1021 C hr hin hT hmc hL hK28 hw H locs ls hS (lv_sub hl [1, 2, 3, 4, 5, 6] rfl)
    · have hw := hw.2 h
      refine r_aload_n C.1 C.2.1 dL_law_1009 rfl (lv_at hl 4 rfl) ?_
      refine lv_iconst C.1 C.2.1 (v := 0) dL_law_1010 rfl ?_
      refine r_lald C hS dL_law_1011 hw (fun x394 hw => ?_)
      refine lv_iload C.1 C.2.1 dL_law_1012 (lv_at hl 0 rfl) ?_
      refine lv_i2l C.1 C.2.1 dL_law_1014 rfl ?_
      refine r_lcmp C dL_law_1015 ?_
      refine lv_if_eq C.1 C.2.1 dL_law_1016 rfl (fun h => ?_) (fun h => ?_)
      · have hw := hw.1 h
        exact kL_lawb1021 C hr hin hT hmc hL hK28 hw H locs ls hS (lv_sub hl [1, 2, 3, 4, 5, 6] rfl)
      · have hw := hw.2 h
        refine lv_iconst C.1 C.2.1 (v := 0) dL_law_1019 rfl ?_
        exact r_lawret C hS hmc hr hL dL_law_1020 hw
  · have hw := hw.2 h
    refine lv_iconst C.1 C.2.1 (v := 0) dL_law_1002 rfl ?_
    exact r_lawret C hS hmc hr hL dL_law_1003 hw
theorem kL_lawb961 (C : xC G p l s m args meth c cL_law 9 "ExcuseLedgerLaw") (hr : meth.sig.returnType = ret) (hin : meth.name = "law") (hT : ∀ x ∈ c.exceptionTable.toList, False) (hmc : room_1.cells = gL G - s.heap.size ∧ room_1.slots = gU G - hsum s.heap) (hL : lawC G s args) {K28 : (Option Nat × Option Nat × Option Nat × Option Nat × Option Nat × Int32 × hSt) → Prop} (hK28 : ∀ y : (Option Nat × Option Nat × Option Nat × Option Nat × Option Nat × Int32 × hSt), K28 y → kt G p l e room_1 s m args below meth c 9 (lw_Z below args s) 28 [(0, va_rf (y.1)), (1, va_rf (y.2.1)), (2, va_rf (y.2.2.1)), (3, va_rf (y.2.2.2.1)), (4, va_rf (y.2.2.2.2.1)), (5, .int (y.2.2.2.2.2.1))] [] (y.2.2.2.2.2.2)) {v0 : Option Nat} {v1 : Option Nat} {v2 : Option Nat} {v3 : Option Nat} {v4 : Option Nat} {v5 : Int32} {s0 : Option Nat} {s1 : Int32} {s2 : Int32} {z : hSt} (hw : wL_lawb961 G lawP lawX K28 v0 v1 v2 v3 v4 v5 s0 s1 s2 z) : kt G p l e room_1 s m args below meth c 9 (lw_Z below args s) 961 [(0, va_rf v0), (1, va_rf v1), (2, va_rf v2), (3, va_rf v3), (4, va_rf v4), (5, .int v5)] [.int s2, .int s1, va_rf s0] z := by
  intro H locs ls hS hl
  refine r_aload_n C.1 C.2.1 dL_law_961 rfl (lv_at hl 3 rfl) ?_
  refine c_SX C hS hmc hl.1 (kX0_at C.2.2.2.2.2.2.1) hw (lw_SW q2517 q2518 q66 q2519) hdX0_at ⟨Nat.le_of_ble_eq_true rfl, Nat.le_of_ble_eq_true rfl⟩ (rest := []) rfl rfl (Nat.le_of_ble_eq_true rfl) dL_law_962 (fun ci q z H locs hx hS ht => (show False from hx).elim) (fun v z386 H locs hv hS => ?_)
  obtain ⟨x387, rfl, hw⟩ := hv
  refine r_istore C.1 C.2.1 dL_law_965 hl (Nat.le_of_ble_eq_true rfl) (ls_new (ls_old 0 rfl rfl (.inl rfl) (ls_old 1 rfl rfl (.inl rfl) (ls_old 2 rfl rfl (.inl rfl) (ls_old 3 rfl rfl (.inl rfl) (ls_old 4 rfl rfl (.inl rfl) (ls_old 5 rfl rfl (.inr rfl) ls_nil))))))) (fun ls hl => ?_)
  refine r_aload_n C.1 C.2.1 dL_law_967 rfl (lv_at hl 3 rfl) ?_
  refine r_aload_n C.1 C.2.1 dL_law_968 rfl (lv_at hl 1 rfl) ?_
  refine lv_iload C.1 C.2.1 dL_law_969 (lv_at hl 6 rfl) ?_
  refine lv_iconst C.1 C.2.1 (v := 1) dL_law_971 rfl ?_
  refine lv_iadd C.1 C.2.1 dL_law_972 ?_
  refine r_iald C hS dL_law_973 hw (fun x388 hw => ?_)
  refine r_aload_n C.1 C.2.1 dL_law_974 rfl (lv_at hl 1 rfl) ?_
  refine lv_iload C.1 C.2.1 dL_law_975 (lv_at hl 6 rfl) ?_
  refine lv_iconst C.1 C.2.1 (v := 2) dL_law_977 rfl ?_
  refine lv_iadd C.1 C.2.1 dL_law_978 ?_
  refine r_iald C hS dL_law_979 hw (fun x389 hw => ?_)
  refine lv_if_eq C.1 C.2.1 dL_law_980 rfl (fun h => ?_) (fun h => ?_)
  · have hw := hw.1 h
    refine lv_iconst C.1 C.2.1 (v := 0) dL_law_987 rfl ?_
    exact kL_lawb988 C hr hin hT hmc hL hK28 hw H locs ls hS (lv_sub hl [1, 2, 3, 4, 5, 6, 0] rfl)
  · have hw := hw.2 h
    refine lv_iconst C.1 C.2.1 (v := 1) dL_law_983 rfl ?_
    refine lv_goto C.1 C.2.1 dL_law_984 rfl ?_
    exact kL_lawb988 C hr hin hT hmc hL hK28 hw H locs ls hS (lv_sub hl [1, 2, 3, 4, 5, 6, 0] rfl)
theorem kL_lawb1089 (C : xC G p l s m args meth c cL_law 9 "ExcuseLedgerLaw") (hr : meth.sig.returnType = ret) (hin : meth.name = "law") (hT : ∀ x ∈ c.exceptionTable.toList, False) (hmc : room_1.cells = gL G - s.heap.size ∧ room_1.slots = gU G - hsum s.heap) (hL : lawC G s args) {K28 : (Option Nat × Option Nat × Option Nat × Option Nat × Option Nat × Int32 × hSt) → Prop} (hK28 : ∀ y : (Option Nat × Option Nat × Option Nat × Option Nat × Option Nat × Int32 × hSt), K28 y → kt G p l e room_1 s m args below meth c 9 (lw_Z below args s) 28 [(0, va_rf (y.1)), (1, va_rf (y.2.1)), (2, va_rf (y.2.2.1)), (3, va_rf (y.2.2.2.1)), (4, va_rf (y.2.2.2.2.1)), (5, .int (y.2.2.2.2.2.1))] [] (y.2.2.2.2.2.2)) {v0 : Option Nat} {v1 : Option Nat} {v2 : Option Nat} {v3 : Option Nat} {v4 : Option Nat} {v5 : Int32} {z : hSt} (hw : wL_lawb1089 G lawP lawX K28 v0 v1 v2 v3 v4 v5 z) : kt G p l e room_1 s m args below meth c 9 (lw_Z below args s) 1089 [(0, va_rf v0), (1, va_rf v1), (2, va_rf v2), (3, va_rf v3), (4, va_rf v4), (5, .int v5)] [] z := by
  intro H locs ls hS hl
  refine lv_goto C.1 C.2.1 dL_law_1089 rfl ?_
  exact kL_lawb2581 C hr hin hT hmc hL hK28 hw H locs ls hS (lv_sub hl [0, 1, 2, 3, 4, 5] rfl)
theorem kL_lawb1157 (C : xC G p l s m args meth c cL_law 9 "ExcuseLedgerLaw") (hr : meth.sig.returnType = ret) (hin : meth.name = "law") (hT : ∀ x ∈ c.exceptionTable.toList, False) (hmc : room_1.cells = gL G - s.heap.size ∧ room_1.slots = gU G - hsum s.heap) (hL : lawC G s args) {K28 : (Option Nat × Option Nat × Option Nat × Option Nat × Option Nat × Int32 × hSt) → Prop} (hK28 : ∀ y : (Option Nat × Option Nat × Option Nat × Option Nat × Option Nat × Int32 × hSt), K28 y → kt G p l e room_1 s m args below meth c 9 (lw_Z below args s) 28 [(0, va_rf (y.1)), (1, va_rf (y.2.1)), (2, va_rf (y.2.2.1)), (3, va_rf (y.2.2.2.1)), (4, va_rf (y.2.2.2.2.1)), (5, .int (y.2.2.2.2.2.1))] [] (y.2.2.2.2.2.2)) {v0 : Option Nat} {v1 : Option Nat} {v2 : Option Nat} {v3 : Option Nat} {v4 : Option Nat} {v5 : Int32} {z : hSt} (hw : wL_lawb1157 G lawP lawX K28 v0 v1 v2 v3 v4 v5 z) : kt G p l e room_1 s m args below meth c 9 (lw_Z below args s) 1157 [(0, va_rf v0), (1, va_rf v1), (2, va_rf v2), (3, va_rf v3), (4, va_rf v4), (5, .int v5)] [] z := by
  intro H locs ls hS hl
  refine lv_goto C.1 C.2.1 dL_law_1157 rfl ?_
  exact kL_lawb2581 C hr hin hT hmc hL hK28 hw H locs ls hS (lv_sub hl [0, 1, 2, 3, 4, 5] rfl)
theorem kL_lawb1213 (C : xC G p l s m args meth c cL_law 9 "ExcuseLedgerLaw") (hr : meth.sig.returnType = ret) (hin : meth.name = "law") (hT : ∀ x ∈ c.exceptionTable.toList, False) (hmc : room_1.cells = gL G - s.heap.size ∧ room_1.slots = gU G - hsum s.heap) (hL : lawC G s args) {K28 : (Option Nat × Option Nat × Option Nat × Option Nat × Option Nat × Int32 × hSt) → Prop} (hK28 : ∀ y : (Option Nat × Option Nat × Option Nat × Option Nat × Option Nat × Int32 × hSt), K28 y → kt G p l e room_1 s m args below meth c 9 (lw_Z below args s) 28 [(0, va_rf (y.1)), (1, va_rf (y.2.1)), (2, va_rf (y.2.2.1)), (3, va_rf (y.2.2.2.1)), (4, va_rf (y.2.2.2.2.1)), (5, .int (y.2.2.2.2.2.1))] [] (y.2.2.2.2.2.2)) {v0 : Option Nat} {v1 : Option Nat} {v2 : Option Nat} {v3 : Option Nat} {v4 : Option Nat} {v5 : Int32} {z : hSt} (hw : wL_lawb1213 G lawP lawX K28 v0 v1 v2 v3 v4 v5 z) : kt G p l e room_1 s m args below meth c 9 (lw_Z below args s) 1213 [(0, va_rf v0), (1, va_rf v1), (2, va_rf v2), (3, va_rf v3), (4, va_rf v4), (5, .int v5)] [] z := by
  intro H locs ls hS hl
  refine lv_goto C.1 C.2.1 dL_law_1213 rfl ?_
  exact kL_lawb2581 C hr hin hT hmc hL hK28 hw H locs ls hS (lv_sub hl [0, 1, 2, 3, 4, 5] rfl)
theorem kL_lawb1312 (C : xC G p l s m args meth c cL_law 9 "ExcuseLedgerLaw") (hr : meth.sig.returnType = ret) (hin : meth.name = "law") (hT : ∀ x ∈ c.exceptionTable.toList, False) (hmc : room_1.cells = gL G - s.heap.size ∧ room_1.slots = gU G - hsum s.heap) (hL : lawC G s args) {K28 : (Option Nat × Option Nat × Option Nat × Option Nat × Option Nat × Int32 × hSt) → Prop} (hK28 : ∀ y : (Option Nat × Option Nat × Option Nat × Option Nat × Option Nat × Int32 × hSt), K28 y → kt G p l e room_1 s m args below meth c 9 (lw_Z below args s) 28 [(0, va_rf (y.1)), (1, va_rf (y.2.1)), (2, va_rf (y.2.2.1)), (3, va_rf (y.2.2.2.1)), (4, va_rf (y.2.2.2.2.1)), (5, .int (y.2.2.2.2.2.1))] [] (y.2.2.2.2.2.2)) {v0 : Option Nat} {v1 : Option Nat} {v2 : Option Nat} {v3 : Option Nat} {v4 : Option Nat} {v5 : Int32} {z : hSt} (hw : wL_lawb1312 G lawP lawX K28 v0 v1 v2 v3 v4 v5 z) : kt G p l e room_1 s m args below meth c 9 (lw_Z below args s) 1312 [(0, va_rf v0), (1, va_rf v1), (2, va_rf v2), (3, va_rf v3), (4, va_rf v4), (5, .int v5)] [] z := by
  intro H locs ls hS hl
  refine lv_goto C.1 C.2.1 dL_law_1312 rfl ?_
  exact kL_lawb2581 C hr hin hT hmc hL hK28 hw H locs ls hS (lv_sub hl [0, 1, 2, 3, 4, 5] rfl)
theorem kL_lawb1306 (C : xC G p l s m args meth c cL_law 9 "ExcuseLedgerLaw") (hr : meth.sig.returnType = ret) (hin : meth.name = "law") (hT : ∀ x ∈ c.exceptionTable.toList, False) (hmc : room_1.cells = gL G - s.heap.size ∧ room_1.slots = gU G - hsum s.heap) (hL : lawC G s args) {K28 : (Option Nat × Option Nat × Option Nat × Option Nat × Option Nat × Int32 × hSt) → Prop} (hK28 : ∀ y : (Option Nat × Option Nat × Option Nat × Option Nat × Option Nat × Int32 × hSt), K28 y → kt G p l e room_1 s m args below meth c 9 (lw_Z below args s) 28 [(0, va_rf (y.1)), (1, va_rf (y.2.1)), (2, va_rf (y.2.2.1)), (3, va_rf (y.2.2.2.1)), (4, va_rf (y.2.2.2.2.1)), (5, .int (y.2.2.2.2.2.1))] [] (y.2.2.2.2.2.2)) {v0 : Option Nat} {v1 : Option Nat} {v2 : Option Nat} {v3 : Option Nat} {v4 : Option Nat} {v5 : Int32} {s0 : Int64} {s1 : Int64} {z : hSt} (hw : wL_lawb1306 G lawP lawX K28 v0 v1 v2 v3 v4 v5 s0 s1 z) : kt G p l e room_1 s m args below meth c 9 (lw_Z below args s) 1306 [(0, va_rf v0), (1, va_rf v1), (2, va_rf v2), (3, va_rf v3), (4, va_rf v4), (5, .int v5)] [.long s1, .long s0] z := by
  intro H locs ls hS hl
  refine r_lcmp C dL_law_1306 ?_
  refine lv_if_eq C.1 C.2.1 dL_law_1307 rfl (fun h => ?_) (fun h => ?_)
  · have hw := hw.1 h
    exact kL_lawb1312 C hr hin hT hmc hL hK28 hw H locs ls hS (lv_sub hl [0, 1, 2, 3, 4, 5] rfl)
  · have hw := hw.2 h
    refine lv_iconst C.1 C.2.1 (v := 0) dL_law_1310 rfl ?_
    exact r_lawret C hS hmc hr hL dL_law_1311 hw
theorem kL_lawb1411 (C : xC G p l s m args meth c cL_law 9 "ExcuseLedgerLaw") (hr : meth.sig.returnType = ret) (hin : meth.name = "law") (hT : ∀ x ∈ c.exceptionTable.toList, False) (hmc : room_1.cells = gL G - s.heap.size ∧ room_1.slots = gU G - hsum s.heap) (hL : lawC G s args) {K28 : (Option Nat × Option Nat × Option Nat × Option Nat × Option Nat × Int32 × hSt) → Prop} (hK28 : ∀ y : (Option Nat × Option Nat × Option Nat × Option Nat × Option Nat × Int32 × hSt), K28 y → kt G p l e room_1 s m args below meth c 9 (lw_Z below args s) 28 [(0, va_rf (y.1)), (1, va_rf (y.2.1)), (2, va_rf (y.2.2.1)), (3, va_rf (y.2.2.2.1)), (4, va_rf (y.2.2.2.2.1)), (5, .int (y.2.2.2.2.2.1))] [] (y.2.2.2.2.2.2)) {v0 : Option Nat} {v1 : Option Nat} {v2 : Option Nat} {v3 : Option Nat} {v4 : Option Nat} {v5 : Int32} {z : hSt} (hw : wL_lawb1411 G lawP lawX K28 v0 v1 v2 v3 v4 v5 z) : kt G p l e room_1 s m args below meth c 9 (lw_Z below args s) 1411 [(0, va_rf v0), (1, va_rf v1), (2, va_rf v2), (3, va_rf v3), (4, va_rf v4), (5, .int v5)] [] z := by
  intro H locs ls hS hl
  refine lv_goto C.1 C.2.1 dL_law_1411 rfl ?_
  exact kL_lawb2581 C hr hin hT hmc hL hK28 hw H locs ls hS (lv_sub hl [0, 1, 2, 3, 4, 5] rfl)
theorem kL_lawb1405 (C : xC G p l s m args meth c cL_law 9 "ExcuseLedgerLaw") (hr : meth.sig.returnType = ret) (hin : meth.name = "law") (hT : ∀ x ∈ c.exceptionTable.toList, False) (hmc : room_1.cells = gL G - s.heap.size ∧ room_1.slots = gU G - hsum s.heap) (hL : lawC G s args) {K28 : (Option Nat × Option Nat × Option Nat × Option Nat × Option Nat × Int32 × hSt) → Prop} (hK28 : ∀ y : (Option Nat × Option Nat × Option Nat × Option Nat × Option Nat × Int32 × hSt), K28 y → kt G p l e room_1 s m args below meth c 9 (lw_Z below args s) 28 [(0, va_rf (y.1)), (1, va_rf (y.2.1)), (2, va_rf (y.2.2.1)), (3, va_rf (y.2.2.2.1)), (4, va_rf (y.2.2.2.2.1)), (5, .int (y.2.2.2.2.2.1))] [] (y.2.2.2.2.2.2)) {v0 : Option Nat} {v1 : Option Nat} {v2 : Option Nat} {v3 : Option Nat} {v4 : Option Nat} {v5 : Int32} {s0 : Int64} {s1 : Int64} {z : hSt} (hw : wL_lawb1405 G lawP lawX K28 v0 v1 v2 v3 v4 v5 s0 s1 z) : kt G p l e room_1 s m args below meth c 9 (lw_Z below args s) 1405 [(0, va_rf v0), (1, va_rf v1), (2, va_rf v2), (3, va_rf v3), (4, va_rf v4), (5, .int v5)] [.long s1, .long s0] z := by
  intro H locs ls hS hl
  refine r_lcmp C dL_law_1405 ?_
  refine lv_if_eq C.1 C.2.1 dL_law_1406 rfl (fun h => ?_) (fun h => ?_)
  · have hw := hw.1 h
    exact kL_lawb1411 C hr hin hT hmc hL hK28 hw H locs ls hS (lv_sub hl [0, 1, 2, 3, 4, 5] rfl)
  · have hw := hw.2 h
    refine lv_iconst C.1 C.2.1 (v := 0) dL_law_1409 rfl ?_
    exact r_lawret C hS hmc hr hL dL_law_1410 hw
theorem kL_lawb1491 (C : xC G p l s m args meth c cL_law 9 "ExcuseLedgerLaw") (hr : meth.sig.returnType = ret) (hin : meth.name = "law") (hT : ∀ x ∈ c.exceptionTable.toList, False) (hmc : room_1.cells = gL G - s.heap.size ∧ room_1.slots = gU G - hsum s.heap) (hL : lawC G s args) {K28 : (Option Nat × Option Nat × Option Nat × Option Nat × Option Nat × Int32 × hSt) → Prop} (hK28 : ∀ y : (Option Nat × Option Nat × Option Nat × Option Nat × Option Nat × Int32 × hSt), K28 y → kt G p l e room_1 s m args below meth c 9 (lw_Z below args s) 28 [(0, va_rf (y.1)), (1, va_rf (y.2.1)), (2, va_rf (y.2.2.1)), (3, va_rf (y.2.2.2.1)), (4, va_rf (y.2.2.2.2.1)), (5, .int (y.2.2.2.2.2.1))] [] (y.2.2.2.2.2.2)) {v0 : Option Nat} {v1 : Option Nat} {v2 : Option Nat} {v3 : Option Nat} {v4 : Option Nat} {v5 : Int32} {z : hSt} (hw : wL_lawb1491 G lawP lawX K28 v0 v1 v2 v3 v4 v5 z) : kt G p l e room_1 s m args below meth c 9 (lw_Z below args s) 1491 [(0, va_rf v0), (1, va_rf v1), (2, va_rf v2), (3, va_rf v3), (4, va_rf v4), (5, .int v5)] [] z := by
  intro H locs ls hS hl
  refine lv_goto C.1 C.2.1 dL_law_1491 rfl ?_
  exact kL_lawb2581 C hr hin hT hmc hL hK28 hw H locs ls hS (lv_sub hl [0, 1, 2, 3, 4, 5] rfl)
theorem kL_lawb1547 (C : xC G p l s m args meth c cL_law 9 "ExcuseLedgerLaw") (hr : meth.sig.returnType = ret) (hin : meth.name = "law") (hT : ∀ x ∈ c.exceptionTable.toList, False) (hmc : room_1.cells = gL G - s.heap.size ∧ room_1.slots = gU G - hsum s.heap) (hL : lawC G s args) {K28 : (Option Nat × Option Nat × Option Nat × Option Nat × Option Nat × Int32 × hSt) → Prop} (hK28 : ∀ y : (Option Nat × Option Nat × Option Nat × Option Nat × Option Nat × Int32 × hSt), K28 y → kt G p l e room_1 s m args below meth c 9 (lw_Z below args s) 28 [(0, va_rf (y.1)), (1, va_rf (y.2.1)), (2, va_rf (y.2.2.1)), (3, va_rf (y.2.2.2.1)), (4, va_rf (y.2.2.2.2.1)), (5, .int (y.2.2.2.2.2.1))] [] (y.2.2.2.2.2.2)) {v0 : Option Nat} {v1 : Option Nat} {v2 : Option Nat} {v3 : Option Nat} {v4 : Option Nat} {v5 : Int32} {z : hSt} (hw : wL_lawb1547 G lawP lawX K28 v0 v1 v2 v3 v4 v5 z) : kt G p l e room_1 s m args below meth c 9 (lw_Z below args s) 1547 [(0, va_rf v0), (1, va_rf v1), (2, va_rf v2), (3, va_rf v3), (4, va_rf v4), (5, .int v5)] [] z := by
  intro H locs ls hS hl
  refine lv_goto C.1 C.2.1 dL_law_1547 rfl ?_
  exact kL_lawb2581 C hr hin hT hmc hL hK28 hw H locs ls hS (lv_sub hl [0, 1, 2, 3, 4, 5] rfl)
theorem kL_lawb1603 (C : xC G p l s m args meth c cL_law 9 "ExcuseLedgerLaw") (hr : meth.sig.returnType = ret) (hin : meth.name = "law") (hT : ∀ x ∈ c.exceptionTable.toList, False) (hmc : room_1.cells = gL G - s.heap.size ∧ room_1.slots = gU G - hsum s.heap) (hL : lawC G s args) {K28 : (Option Nat × Option Nat × Option Nat × Option Nat × Option Nat × Int32 × hSt) → Prop} (hK28 : ∀ y : (Option Nat × Option Nat × Option Nat × Option Nat × Option Nat × Int32 × hSt), K28 y → kt G p l e room_1 s m args below meth c 9 (lw_Z below args s) 28 [(0, va_rf (y.1)), (1, va_rf (y.2.1)), (2, va_rf (y.2.2.1)), (3, va_rf (y.2.2.2.1)), (4, va_rf (y.2.2.2.2.1)), (5, .int (y.2.2.2.2.2.1))] [] (y.2.2.2.2.2.2)) {v0 : Option Nat} {v1 : Option Nat} {v2 : Option Nat} {v3 : Option Nat} {v4 : Option Nat} {v5 : Int32} {z : hSt} (hw : wL_lawb1603 G lawP lawX K28 v0 v1 v2 v3 v4 v5 z) : kt G p l e room_1 s m args below meth c 9 (lw_Z below args s) 1603 [(0, va_rf v0), (1, va_rf v1), (2, va_rf v2), (3, va_rf v3), (4, va_rf v4), (5, .int v5)] [] z := by
  intro H locs ls hS hl
  refine lv_goto C.1 C.2.1 dL_law_1603 rfl ?_
  exact kL_lawb2581 C hr hin hT hmc hL hK28 hw H locs ls hS (lv_sub hl [0, 1, 2, 3, 4, 5] rfl)
theorem kL_lawb1671 (C : xC G p l s m args meth c cL_law 9 "ExcuseLedgerLaw") (hr : meth.sig.returnType = ret) (hin : meth.name = "law") (hT : ∀ x ∈ c.exceptionTable.toList, False) (hmc : room_1.cells = gL G - s.heap.size ∧ room_1.slots = gU G - hsum s.heap) (hL : lawC G s args) {K28 : (Option Nat × Option Nat × Option Nat × Option Nat × Option Nat × Int32 × hSt) → Prop} (hK28 : ∀ y : (Option Nat × Option Nat × Option Nat × Option Nat × Option Nat × Int32 × hSt), K28 y → kt G p l e room_1 s m args below meth c 9 (lw_Z below args s) 28 [(0, va_rf (y.1)), (1, va_rf (y.2.1)), (2, va_rf (y.2.2.1)), (3, va_rf (y.2.2.2.1)), (4, va_rf (y.2.2.2.2.1)), (5, .int (y.2.2.2.2.2.1))] [] (y.2.2.2.2.2.2)) {v0 : Option Nat} {v1 : Option Nat} {v2 : Option Nat} {v3 : Option Nat} {v4 : Option Nat} {v5 : Int32} {z : hSt} (hw : wL_lawb1671 G lawP lawX K28 v0 v1 v2 v3 v4 v5 z) : kt G p l e room_1 s m args below meth c 9 (lw_Z below args s) 1671 [(0, va_rf v0), (1, va_rf v1), (2, va_rf v2), (3, va_rf v3), (4, va_rf v4), (5, .int v5)] [] z := by
  intro H locs ls hS hl
  refine lv_goto C.1 C.2.1 dL_law_1671 rfl ?_
  exact kL_lawb2581 C hr hin hT hmc hL hK28 hw H locs ls hS (lv_sub hl [0, 1, 2, 3, 4, 5] rfl)
theorem kL_lawb1779 (C : xC G p l s m args meth c cL_law 9 "ExcuseLedgerLaw") (hr : meth.sig.returnType = ret) (hin : meth.name = "law") (hT : ∀ x ∈ c.exceptionTable.toList, False) (hmc : room_1.cells = gL G - s.heap.size ∧ room_1.slots = gU G - hsum s.heap) (hL : lawC G s args) {K28 : (Option Nat × Option Nat × Option Nat × Option Nat × Option Nat × Int32 × hSt) → Prop} (hK28 : ∀ y : (Option Nat × Option Nat × Option Nat × Option Nat × Option Nat × Int32 × hSt), K28 y → kt G p l e room_1 s m args below meth c 9 (lw_Z below args s) 28 [(0, va_rf (y.1)), (1, va_rf (y.2.1)), (2, va_rf (y.2.2.1)), (3, va_rf (y.2.2.2.1)), (4, va_rf (y.2.2.2.2.1)), (5, .int (y.2.2.2.2.2.1))] [] (y.2.2.2.2.2.2)) {v0 : Option Nat} {v1 : Option Nat} {v2 : Option Nat} {v3 : Option Nat} {v4 : Option Nat} {v5 : Int32} {z : hSt} (hw : wL_lawb1779 G lawP lawX K28 v0 v1 v2 v3 v4 v5 z) : kt G p l e room_1 s m args below meth c 9 (lw_Z below args s) 1779 [(0, va_rf v0), (1, va_rf v1), (2, va_rf v2), (3, va_rf v3), (4, va_rf v4), (5, .int v5)] [] z := by
  intro H locs ls hS hl
  refine lv_goto C.1 C.2.1 dL_law_1779 rfl ?_
  exact kL_lawb2581 C hr hin hT hmc hL hK28 hw H locs ls hS (lv_sub hl [0, 1, 2, 3, 4, 5] rfl)
theorem kL_lawb1835 (C : xC G p l s m args meth c cL_law 9 "ExcuseLedgerLaw") (hr : meth.sig.returnType = ret) (hin : meth.name = "law") (hT : ∀ x ∈ c.exceptionTable.toList, False) (hmc : room_1.cells = gL G - s.heap.size ∧ room_1.slots = gU G - hsum s.heap) (hL : lawC G s args) {K28 : (Option Nat × Option Nat × Option Nat × Option Nat × Option Nat × Int32 × hSt) → Prop} (hK28 : ∀ y : (Option Nat × Option Nat × Option Nat × Option Nat × Option Nat × Int32 × hSt), K28 y → kt G p l e room_1 s m args below meth c 9 (lw_Z below args s) 28 [(0, va_rf (y.1)), (1, va_rf (y.2.1)), (2, va_rf (y.2.2.1)), (3, va_rf (y.2.2.2.1)), (4, va_rf (y.2.2.2.2.1)), (5, .int (y.2.2.2.2.2.1))] [] (y.2.2.2.2.2.2)) {v0 : Option Nat} {v1 : Option Nat} {v2 : Option Nat} {v3 : Option Nat} {v4 : Option Nat} {v5 : Int32} {z : hSt} (hw : wL_lawb1835 G lawP lawX K28 v0 v1 v2 v3 v4 v5 z) : kt G p l e room_1 s m args below meth c 9 (lw_Z below args s) 1835 [(0, va_rf v0), (1, va_rf v1), (2, va_rf v2), (3, va_rf v3), (4, va_rf v4), (5, .int v5)] [] z := by
  intro H locs ls hS hl
  refine lv_goto C.1 C.2.1 dL_law_1835 rfl ?_
  exact kL_lawb2581 C hr hin hT hmc hL hK28 hw H locs ls hS (lv_sub hl [0, 1, 2, 3, 4, 5] rfl)
theorem kL_lawb1879 (C : xC G p l s m args meth c cL_law 9 "ExcuseLedgerLaw") (hr : meth.sig.returnType = ret) (hin : meth.name = "law") (hT : ∀ x ∈ c.exceptionTable.toList, False) (hmc : room_1.cells = gL G - s.heap.size ∧ room_1.slots = gU G - hsum s.heap) (hL : lawC G s args) {K28 : (Option Nat × Option Nat × Option Nat × Option Nat × Option Nat × Int32 × hSt) → Prop} (hK28 : ∀ y : (Option Nat × Option Nat × Option Nat × Option Nat × Option Nat × Int32 × hSt), K28 y → kt G p l e room_1 s m args below meth c 9 (lw_Z below args s) 28 [(0, va_rf (y.1)), (1, va_rf (y.2.1)), (2, va_rf (y.2.2.1)), (3, va_rf (y.2.2.2.1)), (4, va_rf (y.2.2.2.2.1)), (5, .int (y.2.2.2.2.2.1))] [] (y.2.2.2.2.2.2)) {v0 : Option Nat} {v1 : Option Nat} {v2 : Option Nat} {v3 : Option Nat} {v4 : Option Nat} {v5 : Int32} {z : hSt} (hw : wL_lawb1879 G lawP lawX K28 v0 v1 v2 v3 v4 v5 z) : kt G p l e room_1 s m args below meth c 9 (lw_Z below args s) 1879 [(0, va_rf v0), (1, va_rf v1), (2, va_rf v2), (3, va_rf v3), (4, va_rf v4), (5, .int v5)] [] z := by
  intro H locs ls hS hl
  refine lv_goto C.1 C.2.1 dL_law_1879 rfl ?_
  exact kL_lawb2581 C hr hin hT hmc hL hK28 hw H locs ls hS (lv_sub hl [0, 1, 2, 3, 4, 5] rfl)
theorem kL_lawb1960 (C : xC G p l s m args meth c cL_law 9 "ExcuseLedgerLaw") (hr : meth.sig.returnType = ret) (hin : meth.name = "law") (hT : ∀ x ∈ c.exceptionTable.toList, False) (hmc : room_1.cells = gL G - s.heap.size ∧ room_1.slots = gU G - hsum s.heap) (hL : lawC G s args) {K28 : (Option Nat × Option Nat × Option Nat × Option Nat × Option Nat × Int32 × hSt) → Prop} (hK28 : ∀ y : (Option Nat × Option Nat × Option Nat × Option Nat × Option Nat × Int32 × hSt), K28 y → kt G p l e room_1 s m args below meth c 9 (lw_Z below args s) 28 [(0, va_rf (y.1)), (1, va_rf (y.2.1)), (2, va_rf (y.2.2.1)), (3, va_rf (y.2.2.2.1)), (4, va_rf (y.2.2.2.2.1)), (5, .int (y.2.2.2.2.2.1))] [] (y.2.2.2.2.2.2)) {v0 : Option Nat} {v1 : Option Nat} {v2 : Option Nat} {v3 : Option Nat} {v4 : Option Nat} {v5 : Int32} {z : hSt} (hw : wL_lawb1960 G lawP lawX K28 v0 v1 v2 v3 v4 v5 z) : kt G p l e room_1 s m args below meth c 9 (lw_Z below args s) 1960 [(0, va_rf v0), (1, va_rf v1), (2, va_rf v2), (3, va_rf v3), (4, va_rf v4), (5, .int v5)] [] z := by
  intro H locs ls hS hl
  refine lv_goto C.1 C.2.1 dL_law_1960 rfl ?_
  exact kL_lawb2581 C hr hin hT hmc hL hK28 hw H locs ls hS (lv_sub hl [0, 1, 2, 3, 4, 5] rfl)
theorem kL_lawb2016 (C : xC G p l s m args meth c cL_law 9 "ExcuseLedgerLaw") (hr : meth.sig.returnType = ret) (hin : meth.name = "law") (hT : ∀ x ∈ c.exceptionTable.toList, False) (hmc : room_1.cells = gL G - s.heap.size ∧ room_1.slots = gU G - hsum s.heap) (hL : lawC G s args) {K28 : (Option Nat × Option Nat × Option Nat × Option Nat × Option Nat × Int32 × hSt) → Prop} (hK28 : ∀ y : (Option Nat × Option Nat × Option Nat × Option Nat × Option Nat × Int32 × hSt), K28 y → kt G p l e room_1 s m args below meth c 9 (lw_Z below args s) 28 [(0, va_rf (y.1)), (1, va_rf (y.2.1)), (2, va_rf (y.2.2.1)), (3, va_rf (y.2.2.2.1)), (4, va_rf (y.2.2.2.2.1)), (5, .int (y.2.2.2.2.2.1))] [] (y.2.2.2.2.2.2)) {v0 : Option Nat} {v1 : Option Nat} {v2 : Option Nat} {v3 : Option Nat} {v4 : Option Nat} {v5 : Int32} {z : hSt} (hw : wL_lawb2016 G lawP lawX K28 v0 v1 v2 v3 v4 v5 z) : kt G p l e room_1 s m args below meth c 9 (lw_Z below args s) 2016 [(0, va_rf v0), (1, va_rf v1), (2, va_rf v2), (3, va_rf v3), (4, va_rf v4), (5, .int v5)] [] z := by
  intro H locs ls hS hl
  refine lv_goto C.1 C.2.1 dL_law_2016 rfl ?_
  exact kL_lawb2581 C hr hin hT hmc hL hK28 hw H locs ls hS (lv_sub hl [0, 1, 2, 3, 4, 5] rfl)
theorem kL_lawb2072 (C : xC G p l s m args meth c cL_law 9 "ExcuseLedgerLaw") (hr : meth.sig.returnType = ret) (hin : meth.name = "law") (hT : ∀ x ∈ c.exceptionTable.toList, False) (hmc : room_1.cells = gL G - s.heap.size ∧ room_1.slots = gU G - hsum s.heap) (hL : lawC G s args) {K28 : (Option Nat × Option Nat × Option Nat × Option Nat × Option Nat × Int32 × hSt) → Prop} (hK28 : ∀ y : (Option Nat × Option Nat × Option Nat × Option Nat × Option Nat × Int32 × hSt), K28 y → kt G p l e room_1 s m args below meth c 9 (lw_Z below args s) 28 [(0, va_rf (y.1)), (1, va_rf (y.2.1)), (2, va_rf (y.2.2.1)), (3, va_rf (y.2.2.2.1)), (4, va_rf (y.2.2.2.2.1)), (5, .int (y.2.2.2.2.2.1))] [] (y.2.2.2.2.2.2)) {v0 : Option Nat} {v1 : Option Nat} {v2 : Option Nat} {v3 : Option Nat} {v4 : Option Nat} {v5 : Int32} {z : hSt} (hw : wL_lawb2072 G lawP lawX K28 v0 v1 v2 v3 v4 v5 z) : kt G p l e room_1 s m args below meth c 9 (lw_Z below args s) 2072 [(0, va_rf v0), (1, va_rf v1), (2, va_rf v2), (3, va_rf v3), (4, va_rf v4), (5, .int v5)] [] z := by
  intro H locs ls hS hl
  refine lv_goto C.1 C.2.1 dL_law_2072 rfl ?_
  exact kL_lawb2581 C hr hin hT hmc hL hK28 hw H locs ls hS (lv_sub hl [0, 1, 2, 3, 4, 5] rfl)
theorem kL_lawb2137 (C : xC G p l s m args meth c cL_law 9 "ExcuseLedgerLaw") (hr : meth.sig.returnType = ret) (hin : meth.name = "law") (hT : ∀ x ∈ c.exceptionTable.toList, False) (hmc : room_1.cells = gL G - s.heap.size ∧ room_1.slots = gU G - hsum s.heap) (hL : lawC G s args) {K28 : (Option Nat × Option Nat × Option Nat × Option Nat × Option Nat × Int32 × hSt) → Prop} (hK28 : ∀ y : (Option Nat × Option Nat × Option Nat × Option Nat × Option Nat × Int32 × hSt), K28 y → kt G p l e room_1 s m args below meth c 9 (lw_Z below args s) 28 [(0, va_rf (y.1)), (1, va_rf (y.2.1)), (2, va_rf (y.2.2.1)), (3, va_rf (y.2.2.2.1)), (4, va_rf (y.2.2.2.2.1)), (5, .int (y.2.2.2.2.2.1))] [] (y.2.2.2.2.2.2)) {v0 : Option Nat} {v1 : Option Nat} {v2 : Option Nat} {v3 : Option Nat} {v4 : Option Nat} {v5 : Int32} {z : hSt} (hw : wL_lawb2137 G lawP lawX K28 v0 v1 v2 v3 v4 v5 z) : kt G p l e room_1 s m args below meth c 9 (lw_Z below args s) 2137 [(0, va_rf v0), (1, va_rf v1), (2, va_rf v2), (3, va_rf v3), (4, va_rf v4), (5, .int v5)] [] z := by
  intro H locs ls hS hl
  refine lv_goto C.1 C.2.1 dL_law_2137 rfl ?_
  exact kL_lawb2581 C hr hin hT hmc hL hK28 hw H locs ls hS (lv_sub hl [0, 1, 2, 3, 4, 5] rfl)
theorem kL_lawb2135 (C : xC G p l s m args meth c cL_law 9 "ExcuseLedgerLaw") (hr : meth.sig.returnType = ret) (hin : meth.name = "law") (hT : ∀ x ∈ c.exceptionTable.toList, False) (hmc : room_1.cells = gL G - s.heap.size ∧ room_1.slots = gU G - hsum s.heap) (hL : lawC G s args)    {z : hSt} (hw : wL_lawb2135 G lawP lawX   z) : kt G p l e room_1 s m args below meth c 9 (lw_Z below args s) 2135 [] [] z := by
  intro H locs ls hS hl
  refine lv_iconst C.1 C.2.1 (v := 0) dL_law_2135 rfl ?_
  exact r_lawret C hS hmc hr hL dL_law_2136 hw
theorem kL_lawb2203 (C : xC G p l s m args meth c cL_law 9 "ExcuseLedgerLaw") (hr : meth.sig.returnType = ret) (hin : meth.name = "law") (hT : ∀ x ∈ c.exceptionTable.toList, False) (hmc : room_1.cells = gL G - s.heap.size ∧ room_1.slots = gU G - hsum s.heap) (hL : lawC G s args) {K28 : (Option Nat × Option Nat × Option Nat × Option Nat × Option Nat × Int32 × hSt) → Prop} (hK28 : ∀ y : (Option Nat × Option Nat × Option Nat × Option Nat × Option Nat × Int32 × hSt), K28 y → kt G p l e room_1 s m args below meth c 9 (lw_Z below args s) 28 [(0, va_rf (y.1)), (1, va_rf (y.2.1)), (2, va_rf (y.2.2.1)), (3, va_rf (y.2.2.2.1)), (4, va_rf (y.2.2.2.2.1)), (5, .int (y.2.2.2.2.2.1))] [] (y.2.2.2.2.2.2)) {v0 : Option Nat} {v1 : Option Nat} {v2 : Option Nat} {v3 : Option Nat} {v4 : Option Nat} {v5 : Int32} {z : hSt} (hw : wL_lawb2203 G lawP lawX K28 v0 v1 v2 v3 v4 v5 z) : kt G p l e room_1 s m args below meth c 9 (lw_Z below args s) 2203 [(0, va_rf v0), (1, va_rf v1), (2, va_rf v2), (3, va_rf v3), (4, va_rf v4), (5, .int v5)] [] z := by
  intro H locs ls hS hl
  refine lv_goto C.1 C.2.1 dL_law_2203 rfl ?_
  exact kL_lawb2581 C hr hin hT hmc hL hK28 hw H locs ls hS (lv_sub hl [0, 1, 2, 3, 4, 5] rfl)
theorem kL_lawb2201 (C : xC G p l s m args meth c cL_law 9 "ExcuseLedgerLaw") (hr : meth.sig.returnType = ret) (hin : meth.name = "law") (hT : ∀ x ∈ c.exceptionTable.toList, False) (hmc : room_1.cells = gL G - s.heap.size ∧ room_1.slots = gU G - hsum s.heap) (hL : lawC G s args)    {z : hSt} (hw : wL_lawb2201 G lawP lawX   z) : kt G p l e room_1 s m args below meth c 9 (lw_Z below args s) 2201 [] [] z := by
  intro H locs ls hS hl
  refine lv_iconst C.1 C.2.1 (v := 0) dL_law_2201 rfl ?_
  exact r_lawret C hS hmc hr hL dL_law_2202 hw
theorem kL_lawb2259 (C : xC G p l s m args meth c cL_law 9 "ExcuseLedgerLaw") (hr : meth.sig.returnType = ret) (hin : meth.name = "law") (hT : ∀ x ∈ c.exceptionTable.toList, False) (hmc : room_1.cells = gL G - s.heap.size ∧ room_1.slots = gU G - hsum s.heap) (hL : lawC G s args) {K28 : (Option Nat × Option Nat × Option Nat × Option Nat × Option Nat × Int32 × hSt) → Prop} (hK28 : ∀ y : (Option Nat × Option Nat × Option Nat × Option Nat × Option Nat × Int32 × hSt), K28 y → kt G p l e room_1 s m args below meth c 9 (lw_Z below args s) 28 [(0, va_rf (y.1)), (1, va_rf (y.2.1)), (2, va_rf (y.2.2.1)), (3, va_rf (y.2.2.2.1)), (4, va_rf (y.2.2.2.2.1)), (5, .int (y.2.2.2.2.2.1))] [] (y.2.2.2.2.2.2)) {v0 : Option Nat} {v1 : Option Nat} {v2 : Option Nat} {v3 : Option Nat} {v4 : Option Nat} {v5 : Int32} {z : hSt} (hw : wL_lawb2259 G lawP lawX K28 v0 v1 v2 v3 v4 v5 z) : kt G p l e room_1 s m args below meth c 9 (lw_Z below args s) 2259 [(0, va_rf v0), (1, va_rf v1), (2, va_rf v2), (3, va_rf v3), (4, va_rf v4), (5, .int v5)] [] z := by
  intro H locs ls hS hl
  refine lv_goto C.1 C.2.1 dL_law_2259 rfl ?_
  exact kL_lawb2581 C hr hin hT hmc hL hK28 hw H locs ls hS (lv_sub hl [0, 1, 2, 3, 4, 5] rfl)
theorem kL_lawb2317 (C : xC G p l s m args meth c cL_law 9 "ExcuseLedgerLaw") (hr : meth.sig.returnType = ret) (hin : meth.name = "law") (hT : ∀ x ∈ c.exceptionTable.toList, False) (hmc : room_1.cells = gL G - s.heap.size ∧ room_1.slots = gU G - hsum s.heap) (hL : lawC G s args) {K28 : (Option Nat × Option Nat × Option Nat × Option Nat × Option Nat × Int32 × hSt) → Prop} (hK28 : ∀ y : (Option Nat × Option Nat × Option Nat × Option Nat × Option Nat × Int32 × hSt), K28 y → kt G p l e room_1 s m args below meth c 9 (lw_Z below args s) 28 [(0, va_rf (y.1)), (1, va_rf (y.2.1)), (2, va_rf (y.2.2.1)), (3, va_rf (y.2.2.2.1)), (4, va_rf (y.2.2.2.2.1)), (5, .int (y.2.2.2.2.2.1))] [] (y.2.2.2.2.2.2)) {v0 : Option Nat} {v1 : Option Nat} {v2 : Option Nat} {v3 : Option Nat} {v4 : Option Nat} {v5 : Int32} {z : hSt} (hw : wL_lawb2317 G lawP lawX K28 v0 v1 v2 v3 v4 v5 z) : kt G p l e room_1 s m args below meth c 9 (lw_Z below args s) 2317 [(0, va_rf v0), (1, va_rf v1), (2, va_rf v2), (3, va_rf v3), (4, va_rf v4), (5, .int v5)] [] z := by
  intro H locs ls hS hl
  refine lv_goto C.1 C.2.1 dL_law_2317 rfl ?_
  exact kL_lawb2581 C hr hin hT hmc hL hK28 hw H locs ls hS (lv_sub hl [0, 1, 2, 3, 4, 5] rfl)
theorem kL_lawb2361 (C : xC G p l s m args meth c cL_law 9 "ExcuseLedgerLaw") (hr : meth.sig.returnType = ret) (hin : meth.name = "law") (hT : ∀ x ∈ c.exceptionTable.toList, False) (hmc : room_1.cells = gL G - s.heap.size ∧ room_1.slots = gU G - hsum s.heap) (hL : lawC G s args) {K28 : (Option Nat × Option Nat × Option Nat × Option Nat × Option Nat × Int32 × hSt) → Prop} (hK28 : ∀ y : (Option Nat × Option Nat × Option Nat × Option Nat × Option Nat × Int32 × hSt), K28 y → kt G p l e room_1 s m args below meth c 9 (lw_Z below args s) 28 [(0, va_rf (y.1)), (1, va_rf (y.2.1)), (2, va_rf (y.2.2.1)), (3, va_rf (y.2.2.2.1)), (4, va_rf (y.2.2.2.2.1)), (5, .int (y.2.2.2.2.2.1))] [] (y.2.2.2.2.2.2)) {v0 : Option Nat} {v1 : Option Nat} {v2 : Option Nat} {v3 : Option Nat} {v4 : Option Nat} {v5 : Int32} {z : hSt} (hw : wL_lawb2361 G lawP lawX K28 v0 v1 v2 v3 v4 v5 z) : kt G p l e room_1 s m args below meth c 9 (lw_Z below args s) 2361 [(0, va_rf v0), (1, va_rf v1), (2, va_rf v2), (3, va_rf v3), (4, va_rf v4), (5, .int v5)] [] z := by
  intro H locs ls hS hl
  refine lv_goto C.1 C.2.1 dL_law_2361 rfl ?_
  exact kL_lawb2581 C hr hin hT hmc hL hK28 hw H locs ls hS (lv_sub hl [0, 1, 2, 3, 4, 5] rfl)
theorem kL_lawb2405 (C : xC G p l s m args meth c cL_law 9 "ExcuseLedgerLaw") (hr : meth.sig.returnType = ret) (hin : meth.name = "law") (hT : ∀ x ∈ c.exceptionTable.toList, False) (hmc : room_1.cells = gL G - s.heap.size ∧ room_1.slots = gU G - hsum s.heap) (hL : lawC G s args) {K28 : (Option Nat × Option Nat × Option Nat × Option Nat × Option Nat × Int32 × hSt) → Prop} (hK28 : ∀ y : (Option Nat × Option Nat × Option Nat × Option Nat × Option Nat × Int32 × hSt), K28 y → kt G p l e room_1 s m args below meth c 9 (lw_Z below args s) 28 [(0, va_rf (y.1)), (1, va_rf (y.2.1)), (2, va_rf (y.2.2.1)), (3, va_rf (y.2.2.2.1)), (4, va_rf (y.2.2.2.2.1)), (5, .int (y.2.2.2.2.2.1))] [] (y.2.2.2.2.2.2)) {v0 : Option Nat} {v1 : Option Nat} {v2 : Option Nat} {v3 : Option Nat} {v4 : Option Nat} {v5 : Int32} {z : hSt} (hw : wL_lawb2405 G lawP lawX K28 v0 v1 v2 v3 v4 v5 z) : kt G p l e room_1 s m args below meth c 9 (lw_Z below args s) 2405 [(0, va_rf v0), (1, va_rf v1), (2, va_rf v2), (3, va_rf v3), (4, va_rf v4), (5, .int v5)] [] z := by
  intro H locs ls hS hl
  refine lv_goto C.1 C.2.1 dL_law_2405 rfl ?_
  exact kL_lawb2581 C hr hin hT hmc hL hK28 hw H locs ls hS (lv_sub hl [0, 1, 2, 3, 4, 5] rfl)
theorem kL_lawb2477 (C : xC G p l s m args meth c cL_law 9 "ExcuseLedgerLaw") (hr : meth.sig.returnType = ret) (hin : meth.name = "law") (hT : ∀ x ∈ c.exceptionTable.toList, False) (hmc : room_1.cells = gL G - s.heap.size ∧ room_1.slots = gU G - hsum s.heap) (hL : lawC G s args) {K28 : (Option Nat × Option Nat × Option Nat × Option Nat × Option Nat × Int32 × hSt) → Prop} (hK28 : ∀ y : (Option Nat × Option Nat × Option Nat × Option Nat × Option Nat × Int32 × hSt), K28 y → kt G p l e room_1 s m args below meth c 9 (lw_Z below args s) 28 [(0, va_rf (y.1)), (1, va_rf (y.2.1)), (2, va_rf (y.2.2.1)), (3, va_rf (y.2.2.2.1)), (4, va_rf (y.2.2.2.2.1)), (5, .int (y.2.2.2.2.2.1))] [] (y.2.2.2.2.2.2)) {v0 : Option Nat} {v1 : Option Nat} {v2 : Option Nat} {v3 : Option Nat} {v4 : Option Nat} {v5 : Int32} {z : hSt} (hw : wL_lawb2477 G lawP lawX K28 v0 v1 v2 v3 v4 v5 z) : kt G p l e room_1 s m args below meth c 9 (lw_Z below args s) 2477 [(0, va_rf v0), (1, va_rf v1), (2, va_rf v2), (3, va_rf v3), (4, va_rf v4), (5, .int v5)] [] z := by
  intro H locs ls hS hl
  refine lv_goto C.1 C.2.1 dL_law_2477 rfl ?_
  exact kL_lawb2581 C hr hin hT hmc hL hK28 hw H locs ls hS (lv_sub hl [0, 1, 2, 3, 4, 5] rfl)
theorem kL_lawb2444 (C : xC G p l s m args meth c cL_law 9 "ExcuseLedgerLaw") (hr : meth.sig.returnType = ret) (hin : meth.name = "law") (hT : ∀ x ∈ c.exceptionTable.toList, False) (hmc : room_1.cells = gL G - s.heap.size ∧ room_1.slots = gU G - hsum s.heap) (hL : lawC G s args) {K28 : (Option Nat × Option Nat × Option Nat × Option Nat × Option Nat × Int32 × hSt) → Prop} (hK28 : ∀ y : (Option Nat × Option Nat × Option Nat × Option Nat × Option Nat × Int32 × hSt), K28 y → kt G p l e room_1 s m args below meth c 9 (lw_Z below args s) 28 [(0, va_rf (y.1)), (1, va_rf (y.2.1)), (2, va_rf (y.2.2.1)), (3, va_rf (y.2.2.2.1)), (4, va_rf (y.2.2.2.2.1)), (5, .int (y.2.2.2.2.2.1))] [] (y.2.2.2.2.2.2)) {v0 : Option Nat} {v1 : Option Nat} {v2 : Option Nat} {v3 : Option Nat} {v4 : Option Nat} {v5 : Int32} {v6 : Int32} {s0 : Option Nat} {s1 : Int32} {z : hSt} (hw : wL_lawb2444 G lawP lawX K28 v0 v1 v2 v3 v4 v5 v6 s0 s1 z) : kt G p l e room_1 s m args below meth c 9 (lw_Z below args s) 2444 [(0, va_rf v0), (1, va_rf v1), (2, va_rf v2), (3, va_rf v3), (4, va_rf v4), (5, .int v5), (6, .int v6)] [.int s1, va_rf s0] z := by
  intro H locs ls hS hl
  refine c_V C hS hmc hl.1 (ci := 4) rfl hw.1 (kX5_reason C.2.2.2.2.2.2.1) hw.2 (lw_V q3500 q3501 q3502 q83 q3503) ⟨rfl, hdX5_reason⟩ ⟨Nat.le_of_ble_eq_true rfl, Nat.le_of_ble_eq_true rfl⟩ (rest := []) rfl rfl (Nat.le_of_ble_eq_true rfl) dL_law_2444 (fun ci q z H locs hx hS ht => (show False from hx).elim) (fun v z381 H locs hv hS => ?_)
  obtain ⟨x382, rfl, hw⟩ := hv
  refine r_istore C.1 C.2.1 dL_law_2447 hl (Nat.le_of_ble_eq_true rfl) (ls_new (ls_old 0 rfl rfl (.inl rfl) (ls_old 1 rfl rfl (.inl rfl) (ls_old 2 rfl rfl (.inl rfl) (ls_old 3 rfl rfl (.inl rfl) (ls_old 4 rfl rfl (.inl rfl) (ls_old 5 rfl rfl (.inl rfl) (ls_old 6 rfl rfl (.inr rfl) ls_nil)))))))) (fun ls hl => ?_)
  refine r_aload_n C.1 C.2.1 dL_law_2449 rfl (lv_at hl 3 rfl) ?_
  refine c_V C hS hmc hl.1 (ci := 4) rfl hw.1 (kX5_thrown C.2.2.2.2.2.2.1) hw.2 (lw_V q3161 q3162 q3163 q83 q3164) ⟨rfl, hdX5_thrown⟩ ⟨Nat.le_of_ble_eq_true rfl, Nat.le_of_ble_eq_true rfl⟩ (rest := []) rfl rfl (Nat.le_of_ble_eq_true rfl) dL_law_2450 (fun ci q z H locs hx hS ht => (show False from hx).elim) (fun v z383 H locs hv hS => ?_)
  obtain ⟨x384, rfl, hw⟩ := hv
  refine lv_iload C.1 C.2.1 dL_law_2453 (lv_at hl 7 rfl) ?_
  refine lv_icmp_eq C.1 C.2.1 dL_law_2455 rfl (fun h => ?_) (fun h => ?_)
  · have hw := hw.1 h
    refine lv_iload C.1 C.2.1 dL_law_2460 (lv_at hl 7 rfl) ?_
    refine lv_if_ne C.1 C.2.1 dL_law_2462 rfl (fun h => ?_) (fun h => ?_)
    · have hw := hw.1 h
      exact kL_lawb2477 C hr hin hT hmc hL hK28 hw H locs ls hS (lv_sub hl [1, 2, 3, 4, 5, 6] rfl)
    · have hw := hw.2 h
      refine r_aload_n C.1 C.2.1 dL_law_2465 rfl (lv_at hl 4 rfl) ?_
      refine lv_iconst C.1 C.2.1 (v := 0) dL_law_2466 rfl ?_
      refine r_lald C hS dL_law_2467 hw (fun x385 hw => ?_)
      refine lv_iload C.1 C.2.1 dL_law_2468 (lv_at hl 0 rfl) ?_
      refine lv_i2l C.1 C.2.1 dL_law_2470 rfl ?_
      refine r_lcmp C dL_law_2471 ?_
      refine lv_if_eq C.1 C.2.1 dL_law_2472 rfl (fun h => ?_) (fun h => ?_)
      · have hw := hw.1 h
        exact kL_lawb2477 C hr hin hT hmc hL hK28 hw H locs ls hS (lv_sub hl [1, 2, 3, 4, 5, 6] rfl)
      · have hw := hw.2 h
        refine lv_iconst C.1 C.2.1 (v := 0) dL_law_2475 rfl ?_
        exact r_lawret C hS hmc hr hL dL_law_2476 hw
  · have hw := hw.2 h
    refine lv_iconst C.1 C.2.1 (v := 0) dL_law_2458 rfl ?_
    exact r_lawret C hS hmc hr hL dL_law_2459 hw
theorem kL_lawb2423 (C : xC G p l s m args meth c cL_law 9 "ExcuseLedgerLaw") (hr : meth.sig.returnType = ret) (hin : meth.name = "law") (hT : ∀ x ∈ c.exceptionTable.toList, False) (hmc : room_1.cells = gL G - s.heap.size ∧ room_1.slots = gU G - hsum s.heap) (hL : lawC G s args) {K28 : (Option Nat × Option Nat × Option Nat × Option Nat × Option Nat × Int32 × hSt) → Prop} (hK28 : ∀ y : (Option Nat × Option Nat × Option Nat × Option Nat × Option Nat × Int32 × hSt), K28 y → kt G p l e room_1 s m args below meth c 9 (lw_Z below args s) 28 [(0, va_rf (y.1)), (1, va_rf (y.2.1)), (2, va_rf (y.2.2.1)), (3, va_rf (y.2.2.2.1)), (4, va_rf (y.2.2.2.2.1)), (5, .int (y.2.2.2.2.2.1))] [] (y.2.2.2.2.2.2)) {v0 : Option Nat} {v1 : Option Nat} {v2 : Option Nat} {v3 : Option Nat} {v4 : Option Nat} {v5 : Int32} {s0 : Option Nat} {s1 : Int32} {z : hSt} (hw : wL_lawb2423 G lawP lawX K28 v0 v1 v2 v3 v4 v5 s0 s1 z) : kt G p l e room_1 s m args below meth c 9 (lw_Z below args s) 2423 [(0, va_rf v0), (1, va_rf v1), (2, va_rf v2), (3, va_rf v3), (4, va_rf v4), (5, .int v5)] [.int s1, va_rf s0] z := by
  intro H locs ls hS hl
  refine r_aload_n C.1 C.2.1 dL_law_2423 rfl (lv_at hl 3 rfl) ?_
  refine c_SX C hS hmc hl.1 (kX0_reason C.2.2.2.2.2.2.1) hw (lw_SW q3073 q3074 q66 q3075) hdX0_reason ⟨Nat.le_of_ble_eq_true rfl, Nat.le_of_ble_eq_true rfl⟩ (rest := []) rfl rfl (Nat.le_of_ble_eq_true rfl) dL_law_2424 (fun ci q z H locs hx hS ht => (show False from hx).elim) (fun v z378 H locs hv hS => ?_)
  obtain ⟨x379, rfl, hw⟩ := hv
  refine r_istore C.1 C.2.1 dL_law_2427 hl (Nat.le_of_ble_eq_true rfl) (ls_new (ls_old 0 rfl rfl (.inl rfl) (ls_old 1 rfl rfl (.inl rfl) (ls_old 2 rfl rfl (.inl rfl) (ls_old 3 rfl rfl (.inl rfl) (ls_old 4 rfl rfl (.inl rfl) (ls_old 5 rfl rfl (.inr rfl) ls_nil))))))) (fun ls hl => ?_)
  refine r_aload_n C.1 C.2.1 dL_law_2429 rfl (lv_at hl 3 rfl) ?_
  refine r_aload_n C.1 C.2.1 dL_law_2430 rfl (lv_at hl 1 rfl) ?_
  refine lv_iload C.1 C.2.1 dL_law_2431 (lv_at hl 6 rfl) ?_
  refine lv_iconst C.1 C.2.1 (v := 1) dL_law_2433 rfl ?_
  refine lv_iadd C.1 C.2.1 dL_law_2434 ?_
  refine r_iald C hS dL_law_2435 hw (fun x380 hw => ?_)
  refine lv_if_eq C.1 C.2.1 dL_law_2436 rfl (fun h => ?_) (fun h => ?_)
  · have hw := hw.1 h
    refine lv_iconst C.1 C.2.1 (v := 0) dL_law_2443 rfl ?_
    exact kL_lawb2444 C hr hin hT hmc hL hK28 hw H locs ls hS (lv_sub hl [1, 2, 3, 4, 5, 6, 0] rfl)
  · have hw := hw.2 h
    refine lv_iconst C.1 C.2.1 (v := 1) dL_law_2439 rfl ?_
    refine lv_goto C.1 C.2.1 dL_law_2440 rfl ?_
    exact kL_lawb2444 C hr hin hT hmc hL hK28 hw H locs ls hS (lv_sub hl [1, 2, 3, 4, 5, 6, 0] rfl)
theorem kL_lawb2521 (C : xC G p l s m args meth c cL_law 9 "ExcuseLedgerLaw") (hr : meth.sig.returnType = ret) (hin : meth.name = "law") (hT : ∀ x ∈ c.exceptionTable.toList, False) (hmc : room_1.cells = gL G - s.heap.size ∧ room_1.slots = gU G - hsum s.heap) (hL : lawC G s args) {K28 : (Option Nat × Option Nat × Option Nat × Option Nat × Option Nat × Int32 × hSt) → Prop} (hK28 : ∀ y : (Option Nat × Option Nat × Option Nat × Option Nat × Option Nat × Int32 × hSt), K28 y → kt G p l e room_1 s m args below meth c 9 (lw_Z below args s) 28 [(0, va_rf (y.1)), (1, va_rf (y.2.1)), (2, va_rf (y.2.2.1)), (3, va_rf (y.2.2.2.1)), (4, va_rf (y.2.2.2.2.1)), (5, .int (y.2.2.2.2.2.1))] [] (y.2.2.2.2.2.2)) {v0 : Option Nat} {v1 : Option Nat} {v2 : Option Nat} {v3 : Option Nat} {v4 : Option Nat} {v5 : Int32} {z : hSt} (hw : wL_lawb2521 G lawP lawX K28 v0 v1 v2 v3 v4 v5 z) : kt G p l e room_1 s m args below meth c 9 (lw_Z below args s) 2521 [(0, va_rf v0), (1, va_rf v1), (2, va_rf v2), (3, va_rf v3), (4, va_rf v4), (5, .int v5)] [] z := by
  intro H locs ls hS hl
  refine lv_goto C.1 C.2.1 dL_law_2521 rfl ?_
  exact kL_lawb2581 C hr hin hT hmc hL hK28 hw H locs ls hS (lv_sub hl [0, 1, 2, 3, 4, 5] rfl)
theorem kL_lawb2578 (C : xC G p l s m args meth c cL_law 9 "ExcuseLedgerLaw") (hr : meth.sig.returnType = ret) (hin : meth.name = "law") (hT : ∀ x ∈ c.exceptionTable.toList, False) (hmc : room_1.cells = gL G - s.heap.size ∧ room_1.slots = gU G - hsum s.heap) (hL : lawC G s args) {K28 : (Option Nat × Option Nat × Option Nat × Option Nat × Option Nat × Int32 × hSt) → Prop} (hK28 : ∀ y : (Option Nat × Option Nat × Option Nat × Option Nat × Option Nat × Int32 × hSt), K28 y → kt G p l e room_1 s m args below meth c 9 (lw_Z below args s) 28 [(0, va_rf (y.1)), (1, va_rf (y.2.1)), (2, va_rf (y.2.2.1)), (3, va_rf (y.2.2.2.1)), (4, va_rf (y.2.2.2.2.1)), (5, .int (y.2.2.2.2.2.1))] [] (y.2.2.2.2.2.2)) {v0 : Option Nat} {v1 : Option Nat} {v2 : Option Nat} {v3 : Option Nat} {v4 : Option Nat} {v5 : Int32} {z : hSt} (hw : wL_lawb2578 G lawP lawX K28 v0 v1 v2 v3 v4 v5 z) : kt G p l e room_1 s m args below meth c 9 (lw_Z below args s) 2578 [(0, va_rf v0), (1, va_rf v1), (2, va_rf v2), (3, va_rf v3), (4, va_rf v4), (5, .int v5)] [] z := by
  intro H locs ls hS hl
  refine lv_goto C.1 C.2.1 dL_law_2578 rfl ?_
  exact kL_lawb2581 C hr hin hT hmc hL hK28 hw H locs ls hS (lv_sub hl [0, 1, 2, 3, 4, 5] rfl)
theorem kL_lawb28 (C : xC G p l s m args meth c cL_law 9 "ExcuseLedgerLaw") (hr : meth.sig.returnType = ret) (hin : meth.name = "law") (hT : ∀ x ∈ c.exceptionTable.toList, False) (hmc : room_1.cells = gL G - s.heap.size ∧ room_1.slots = gU G - hsum s.heap) (hL : lawC G s args) {K28 : (Option Nat × Option Nat × Option Nat × Option Nat × Option Nat × Int32 × hSt) → Prop} (hK28 : ∀ y : (Option Nat × Option Nat × Option Nat × Option Nat × Option Nat × Int32 × hSt), K28 y → kt G p l e room_1 s m args below meth c 9 (lw_Z below args s) 28 [(0, va_rf (y.1)), (1, va_rf (y.2.1)), (2, va_rf (y.2.2.1)), (3, va_rf (y.2.2.2.1)), (4, va_rf (y.2.2.2.2.1)), (5, .int (y.2.2.2.2.2.1))] [] (y.2.2.2.2.2.2)) {v0 : Option Nat} {v1 : Option Nat} {v2 : Option Nat} {v3 : Option Nat} {v4 : Option Nat} {v5 : Int32} {z : hSt} (hw : wL_lawb28 G lawP lawX K28 v0 v1 v2 v3 v4 v5 z) : kt G p l e room_1 s m args below meth c 9 (lw_Z below args s) 28 [(0, va_rf v0), (1, va_rf v1), (2, va_rf v2), (3, va_rf v3), (4, va_rf v4), (5, .int v5)] [] z := by
  intro H locs ls hS hl
  refine lv_iload C.1 C.2.1 dL_law_28 (lv_at hl 5 rfl) ?_
  refine r_aload_n C.1 C.2.1 dL_law_30 rfl (lv_at hl 0 rfl) ?_
  refine r_alen C hS dL_law_31 hw (fun x11 hw => ?_)
  refine lv_iconst C.1 C.2.1 (v := 5) dL_law_32 rfl ?_
  refine lv_isub C.1 C.2.1 dL_law_33 ?_
  refine lv_icmp_gt C.1 C.2.1 dL_law_34 rfl (fun h => ?_) (fun h => ?_)
  · have hw := hw.1 h
    refine lv_iconst C.1 C.2.1 (v := 1) dL_law_2587 rfl ?_
    exact r_lawret C hS hmc hr hL dL_law_2588 hw
  · have hw := hw.2 h
    refine r_aload_n C.1 C.2.1 dL_law_37 rfl (lv_at hl 0 rfl) ?_
    refine lv_iload C.1 C.2.1 dL_law_38 (lv_at hl 5 rfl) ?_
    refine r_iald C hS dL_law_40 hw (fun x12 hw => ?_)
    refine lv_bipush C.1 C.2.1 (v := 63) dL_law_41 rfl ?_
    refine lv_iand C.1 C.2.1 dL_law_43 ?_
    refine r_tsw C dL_law_44 (dt := 2581) rfl (tgts := [224, 316, 384, 476, 544, 624, 723, 791, 847, 860, 940, 1024, 1092, 1160, 1216, 1315, 1414, 1494, 1550, 1606, 1674, 1687, 1700, 1713, 1726, 1782, 1838, 1882, 1895, 1963, 2019, 2075, 2140, 2206, 2262, 2320, 2364, 2408, 2480, 2524, 2537]) rfl (Nat.le_of_ble_eq_true rfl) (fun i t ht hx => ?_) (fun ho => ?_)
    · match i, ht, hx with
      | 0, ht, hx =>
        cases ht
        have hw := hw.1 (sw_eq 0 hx rfl)
        refine r_aload_n C.1 C.2.1 dL_law_224 rfl (lv_at hl 1 rfl) ?_
        refine r_aload_n C.1 C.2.1 dL_law_225 rfl (lv_at hl 0 rfl) ?_
        refine lv_iload C.1 C.2.1 dL_law_226 (lv_at hl 5 rfl) ?_
        refine lv_iconst C.1 C.2.1 (v := 1) dL_law_228 rfl ?_
        refine lv_iadd C.1 C.2.1 dL_law_229 ?_
        refine r_iald C hS dL_law_230 hw (fun x13 hw => ?_)
        refine r_aload_n C.1 C.2.1 dL_law_231 rfl (lv_at hl 0 rfl) ?_
        refine lv_iload C.1 C.2.1 dL_law_232 (lv_at hl 5 rfl) ?_
        refine lv_iconst C.1 C.2.1 (v := 2) dL_law_234 rfl ?_
        refine lv_iadd C.1 C.2.1 dL_law_235 ?_
        refine r_iald C hS dL_law_236 hw (fun x14 hw => ?_)
        refine r_aload_n C.1 C.2.1 dL_law_237 rfl (lv_at hl 0 rfl) ?_
        refine lv_iload C.1 C.2.1 dL_law_238 (lv_at hl 5 rfl) ?_
        refine lv_iconst C.1 C.2.1 (v := 3) dL_law_240 rfl ?_
        refine lv_iadd C.1 C.2.1 dL_law_241 ?_
        refine r_iald C hS dL_law_242 hw (fun x15 hw => ?_)
        refine r_aload_n C.1 C.2.1 dL_law_243 rfl (lv_at hl 0 rfl) ?_
        refine lv_iload C.1 C.2.1 dL_law_244 (lv_at hl 5 rfl) ?_
        refine lv_iconst C.1 C.2.1 (v := 4) dL_law_246 rfl ?_
        refine lv_iadd C.1 C.2.1 dL_law_247 ?_
        refine r_iald C hS dL_law_248 hw (fun x16 hw => ?_)
        refine r_aload_n C.1 C.2.1 dL_law_249 rfl (lv_at hl 3 rfl) ?_
        refine c_SX C hS hmc hl.1 (kX0_enter C.2.2.2.2.2.2.1) hw (lw_SW q2354 q2355 q66 q2356) hdX0_enter ⟨Nat.le_of_ble_eq_true rfl, Nat.le_of_ble_eq_true rfl⟩ (rest := []) rfl rfl (Nat.le_of_ble_eq_true rfl) dL_law_250 (fun ci q z H locs hx hS ht => (show False from hx).elim) (fun v z17 H locs hv hS => ?_)
        obtain ⟨x18, rfl, hw⟩ := hv
        refine r_istore C.1 C.2.1 dL_law_253 hl (Nat.le_of_ble_eq_true rfl) (ls_new (ls_old 0 rfl rfl (.inl rfl) (ls_old 1 rfl rfl (.inl rfl) (ls_old 2 rfl rfl (.inl rfl) (ls_old 3 rfl rfl (.inl rfl) (ls_old 4 rfl rfl (.inl rfl) (ls_old 5 rfl rfl (.inr rfl) ls_nil))))))) (fun ls hl => ?_)
        refine r_aload_n C.1 C.2.1 dL_law_255 rfl (lv_at hl 3 rfl) ?_
        refine r_aload_n C.1 C.2.1 dL_law_256 rfl (lv_at hl 1 rfl) ?_
        refine lv_iload C.1 C.2.1 dL_law_257 (lv_at hl 6 rfl) ?_
        refine lv_iconst C.1 C.2.1 (v := 1) dL_law_259 rfl ?_
        refine lv_iadd C.1 C.2.1 dL_law_260 ?_
        refine r_iald C hS dL_law_261 hw (fun x19 hw => ?_)
        refine r_aload_n C.1 C.2.1 dL_law_262 rfl (lv_at hl 1 rfl) ?_
        refine lv_iload C.1 C.2.1 dL_law_263 (lv_at hl 6 rfl) ?_
        refine lv_iconst C.1 C.2.1 (v := 2) dL_law_265 rfl ?_
        refine lv_iadd C.1 C.2.1 dL_law_266 ?_
        refine r_iald C hS dL_law_267 hw (fun x20 hw => ?_)
        refine r_aload_n C.1 C.2.1 dL_law_268 rfl (lv_at hl 1 rfl) ?_
        refine lv_iload C.1 C.2.1 dL_law_269 (lv_at hl 6 rfl) ?_
        refine lv_iconst C.1 C.2.1 (v := 3) dL_law_271 rfl ?_
        refine lv_iadd C.1 C.2.1 dL_law_272 ?_
        refine r_iald C hS dL_law_273 hw (fun x21 hw => ?_)
        refine r_aload_n C.1 C.2.1 dL_law_274 rfl (lv_at hl 1 rfl) ?_
        refine lv_iload C.1 C.2.1 dL_law_275 (lv_at hl 6 rfl) ?_
        refine lv_iconst C.1 C.2.1 (v := 4) dL_law_277 rfl ?_
        refine lv_iadd C.1 C.2.1 dL_law_278 ?_
        refine r_iald C hS dL_law_279 hw (fun x22 hw => ?_)
        refine c_V C hS hmc hl.1 (ci := 4) rfl hw.1 (kX5_enter C.2.2.2.2.2.2.1) hw.2 (lw_V q3165 q3166 q3167 q83 q3168) ⟨rfl, hdX5_enter⟩ ⟨Nat.le_of_ble_eq_true rfl, Nat.le_of_ble_eq_true rfl⟩ (rest := []) rfl rfl (Nat.le_of_ble_eq_true rfl) dL_law_280 (fun ci q z H locs hx hS ht => (show False from hx).elim) (fun v z23 H locs hv hS => ?_)
        obtain ⟨x24, rfl, hw⟩ := hv
        refine r_istore C.1 C.2.1 dL_law_283 hl (Nat.le_of_ble_eq_true rfl) (ls_new (ls_old 0 rfl rfl (.inr rfl) (ls_old 1 rfl rfl (.inl rfl) (ls_old 2 rfl rfl (.inl rfl) (ls_old 3 rfl rfl (.inl rfl) (ls_old 4 rfl rfl (.inl rfl) (ls_old 5 rfl rfl (.inl rfl) (ls_old 6 rfl rfl (.inl rfl) ls_nil)))))))) (fun ls hl => ?_)
        refine r_aload_n C.1 C.2.1 dL_law_285 rfl (lv_at hl 4 rfl) ?_
        refine c_V C hS hmc hl.1 (ci := 4) rfl hw.1 (kX5_thrown C.2.2.2.2.2.2.1) hw.2 (lw_V q3161 q3162 q3163 q83 q3164) ⟨rfl, hdX5_thrown⟩ ⟨Nat.le_of_ble_eq_true rfl, Nat.le_of_ble_eq_true rfl⟩ (rest := []) rfl rfl (Nat.le_of_ble_eq_true rfl) dL_law_286 (fun ci q z H locs hx hS ht => (show False from hx).elim) (fun v z25 H locs hv hS => ?_)
        obtain ⟨x26, rfl, hw⟩ := hv
        refine lv_iload C.1 C.2.1 dL_law_289 (lv_at hl 1 rfl) ?_
        refine lv_icmp_eq C.1 C.2.1 dL_law_291 rfl (fun h => ?_) (fun h => ?_)
        · have hw := hw.1 h
          refine lv_iload C.1 C.2.1 dL_law_296 (lv_at hl 1 rfl) ?_
          refine lv_if_ne C.1 C.2.1 dL_law_298 rfl (fun h => ?_) (fun h => ?_)
          · have hw := hw.1 h
            exact kL_lawb313 C hr hin hT hmc hL hK28 hw H locs ls hS (lv_sub hl [2, 3, 4, 5, 6, 7] rfl)
          · have hw := hw.2 h
            refine r_aload_n C.1 C.2.1 dL_law_301 rfl (lv_at hl 5 rfl) ?_
            refine lv_iconst C.1 C.2.1 (v := 0) dL_law_302 rfl ?_
            refine r_lald C hS dL_law_303 hw (fun x27 hw => ?_)
            refine lv_iload C.1 C.2.1 dL_law_304 (lv_at hl 0 rfl) ?_
            refine lv_i2l C.1 C.2.1 dL_law_306 rfl ?_
            refine r_lcmp C dL_law_307 ?_
            refine lv_if_eq C.1 C.2.1 dL_law_308 rfl (fun h => ?_) (fun h => ?_)
            · have hw := hw.1 h
              exact kL_lawb313 C hr hin hT hmc hL hK28 hw H locs ls hS (lv_sub hl [2, 3, 4, 5, 6, 7] rfl)
            · have hw := hw.2 h
              refine lv_iconst C.1 C.2.1 (v := 0) dL_law_311 rfl ?_
              exact r_lawret C hS hmc hr hL dL_law_312 hw
        · have hw := hw.2 h
          refine lv_iconst C.1 C.2.1 (v := 0) dL_law_294 rfl ?_
          exact r_lawret C hS hmc hr hL dL_law_295 hw
      | 1, ht, hx =>
        cases ht
        have hw := hw.2.1 (sw_eq 1 hx rfl)
        refine r_aload_n C.1 C.2.1 dL_law_316 rfl (lv_at hl 1 rfl) ?_
        refine r_aload_n C.1 C.2.1 dL_law_317 rfl (lv_at hl 0 rfl) ?_
        refine lv_iload C.1 C.2.1 dL_law_318 (lv_at hl 5 rfl) ?_
        refine lv_iconst C.1 C.2.1 (v := 1) dL_law_320 rfl ?_
        refine lv_iadd C.1 C.2.1 dL_law_321 ?_
        refine r_iald C hS dL_law_322 hw (fun x28 hw => ?_)
        refine r_aload_n C.1 C.2.1 dL_law_323 rfl (lv_at hl 0 rfl) ?_
        refine lv_iload C.1 C.2.1 dL_law_324 (lv_at hl 5 rfl) ?_
        refine lv_iconst C.1 C.2.1 (v := 2) dL_law_326 rfl ?_
        refine lv_iadd C.1 C.2.1 dL_law_327 ?_
        refine r_iald C hS dL_law_328 hw (fun x29 hw => ?_)
        refine r_aload_n C.1 C.2.1 dL_law_329 rfl (lv_at hl 3 rfl) ?_
        refine c_SX C hS hmc hl.1 (kX0_strike C.2.2.2.2.2.2.1) hw (lw_SW q2422 q2423 q66 q2424) hdX0_strike ⟨Nat.le_of_ble_eq_true rfl, Nat.le_of_ble_eq_true rfl⟩ (rest := []) rfl rfl (Nat.le_of_ble_eq_true rfl) dL_law_330 (fun ci q z H locs hx hS ht => (show False from hx).elim) (fun v z30 H locs hv hS => ?_)
        obtain ⟨x31, rfl, hw⟩ := hv
        refine r_istore C.1 C.2.1 dL_law_333 hl (Nat.le_of_ble_eq_true rfl) (ls_new (ls_old 0 rfl rfl (.inl rfl) (ls_old 1 rfl rfl (.inl rfl) (ls_old 2 rfl rfl (.inl rfl) (ls_old 3 rfl rfl (.inl rfl) (ls_old 4 rfl rfl (.inl rfl) (ls_old 5 rfl rfl (.inr rfl) ls_nil))))))) (fun ls hl => ?_)
        refine r_aload_n C.1 C.2.1 dL_law_335 rfl (lv_at hl 3 rfl) ?_
        refine r_aload_n C.1 C.2.1 dL_law_336 rfl (lv_at hl 1 rfl) ?_
        refine lv_iload C.1 C.2.1 dL_law_337 (lv_at hl 6 rfl) ?_
        refine lv_iconst C.1 C.2.1 (v := 1) dL_law_339 rfl ?_
        refine lv_iadd C.1 C.2.1 dL_law_340 ?_
        refine r_iald C hS dL_law_341 hw (fun x32 hw => ?_)
        refine r_aload_n C.1 C.2.1 dL_law_342 rfl (lv_at hl 1 rfl) ?_
        refine lv_iload C.1 C.2.1 dL_law_343 (lv_at hl 6 rfl) ?_
        refine lv_iconst C.1 C.2.1 (v := 2) dL_law_345 rfl ?_
        refine lv_iadd C.1 C.2.1 dL_law_346 ?_
        refine r_iald C hS dL_law_347 hw (fun x33 hw => ?_)
        refine c_V C hS hmc hl.1 (ci := 4) rfl hw.1 (kX5_strike C.2.2.2.2.2.2.1) hw.2 (lw_V q3209 q3210 q3211 q83 q3212) ⟨rfl, hdX5_strike⟩ ⟨Nat.le_of_ble_eq_true rfl, Nat.le_of_ble_eq_true rfl⟩ (rest := []) rfl rfl (Nat.le_of_ble_eq_true rfl) dL_law_348 (fun ci q z H locs hx hS ht => (show False from hx).elim) (fun v z34 H locs hv hS => ?_)
        obtain ⟨x35, rfl, hw⟩ := hv
        refine r_istore C.1 C.2.1 dL_law_351 hl (Nat.le_of_ble_eq_true rfl) (ls_new (ls_old 0 rfl rfl (.inr rfl) (ls_old 1 rfl rfl (.inl rfl) (ls_old 2 rfl rfl (.inl rfl) (ls_old 3 rfl rfl (.inl rfl) (ls_old 4 rfl rfl (.inl rfl) (ls_old 5 rfl rfl (.inl rfl) (ls_old 6 rfl rfl (.inl rfl) ls_nil)))))))) (fun ls hl => ?_)
        refine r_aload_n C.1 C.2.1 dL_law_353 rfl (lv_at hl 4 rfl) ?_
        refine c_V C hS hmc hl.1 (ci := 4) rfl hw.1 (kX5_thrown C.2.2.2.2.2.2.1) hw.2 (lw_V q3161 q3162 q3163 q83 q3164) ⟨rfl, hdX5_thrown⟩ ⟨Nat.le_of_ble_eq_true rfl, Nat.le_of_ble_eq_true rfl⟩ (rest := []) rfl rfl (Nat.le_of_ble_eq_true rfl) dL_law_354 (fun ci q z H locs hx hS ht => (show False from hx).elim) (fun v z36 H locs hv hS => ?_)
        obtain ⟨x37, rfl, hw⟩ := hv
        refine lv_iload C.1 C.2.1 dL_law_357 (lv_at hl 1 rfl) ?_
        refine lv_icmp_eq C.1 C.2.1 dL_law_359 rfl (fun h => ?_) (fun h => ?_)
        · have hw := hw.1 h
          refine lv_iload C.1 C.2.1 dL_law_364 (lv_at hl 1 rfl) ?_
          refine lv_if_ne C.1 C.2.1 dL_law_366 rfl (fun h => ?_) (fun h => ?_)
          · have hw := hw.1 h
            exact kL_lawb381 C hr hin hT hmc hL hK28 hw H locs ls hS (lv_sub hl [2, 3, 4, 5, 6, 7] rfl)
          · have hw := hw.2 h
            refine r_aload_n C.1 C.2.1 dL_law_369 rfl (lv_at hl 5 rfl) ?_
            refine lv_iconst C.1 C.2.1 (v := 0) dL_law_370 rfl ?_
            refine r_lald C hS dL_law_371 hw (fun x38 hw => ?_)
            refine lv_iload C.1 C.2.1 dL_law_372 (lv_at hl 0 rfl) ?_
            refine lv_i2l C.1 C.2.1 dL_law_374 rfl ?_
            refine r_lcmp C dL_law_375 ?_
            refine lv_if_eq C.1 C.2.1 dL_law_376 rfl (fun h => ?_) (fun h => ?_)
            · have hw := hw.1 h
              exact kL_lawb381 C hr hin hT hmc hL hK28 hw H locs ls hS (lv_sub hl [2, 3, 4, 5, 6, 7] rfl)
            · have hw := hw.2 h
              refine lv_iconst C.1 C.2.1 (v := 0) dL_law_379 rfl ?_
              exact r_lawret C hS hmc hr hL dL_law_380 hw
        · have hw := hw.2 h
          refine lv_iconst C.1 C.2.1 (v := 0) dL_law_362 rfl ?_
          exact r_lawret C hS hmc hr hL dL_law_363 hw
      | 2, ht, hx =>
        cases ht
        have hw := hw.2.2.1 (sw_eq 2 hx rfl)
        refine r_aload_n C.1 C.2.1 dL_law_384 rfl (lv_at hl 1 rfl) ?_
        refine r_aload_n C.1 C.2.1 dL_law_385 rfl (lv_at hl 0 rfl) ?_
        refine lv_iload C.1 C.2.1 dL_law_386 (lv_at hl 5 rfl) ?_
        refine lv_iconst C.1 C.2.1 (v := 1) dL_law_388 rfl ?_
        refine lv_iadd C.1 C.2.1 dL_law_389 ?_
        refine r_iald C hS dL_law_390 hw (fun x39 hw => ?_)
        refine r_aload_n C.1 C.2.1 dL_law_391 rfl (lv_at hl 0 rfl) ?_
        refine lv_iload C.1 C.2.1 dL_law_392 (lv_at hl 5 rfl) ?_
        refine lv_iconst C.1 C.2.1 (v := 2) dL_law_394 rfl ?_
        refine lv_iadd C.1 C.2.1 dL_law_395 ?_
        refine r_iald C hS dL_law_396 hw (fun x40 hw => ?_)
        refine r_aload_n C.1 C.2.1 dL_law_397 rfl (lv_at hl 0 rfl) ?_
        refine lv_iload C.1 C.2.1 dL_law_398 (lv_at hl 5 rfl) ?_
        refine lv_iconst C.1 C.2.1 (v := 3) dL_law_400 rfl ?_
        refine lv_iadd C.1 C.2.1 dL_law_401 ?_
        refine r_iald C hS dL_law_402 hw (fun x41 hw => ?_)
        refine r_aload_n C.1 C.2.1 dL_law_403 rfl (lv_at hl 0 rfl) ?_
        refine lv_iload C.1 C.2.1 dL_law_404 (lv_at hl 5 rfl) ?_
        refine lv_iconst C.1 C.2.1 (v := 4) dL_law_406 rfl ?_
        refine lv_iadd C.1 C.2.1 dL_law_407 ?_
        refine r_iald C hS dL_law_408 hw (fun x42 hw => ?_)
        refine r_aload_n C.1 C.2.1 dL_law_409 rfl (lv_at hl 3 rfl) ?_
        refine c_SX C hS hmc hl.1 (kX0_lend C.2.2.2.2.2.2.1) hw (lw_SW q2430 q2431 q66 q2432) hdX0_lend ⟨Nat.le_of_ble_eq_true rfl, Nat.le_of_ble_eq_true rfl⟩ (rest := []) rfl rfl (Nat.le_of_ble_eq_true rfl) dL_law_410 (fun ci q z H locs hx hS ht => (show False from hx).elim) (fun v z43 H locs hv hS => ?_)
        obtain ⟨x44, rfl, hw⟩ := hv
        refine r_istore C.1 C.2.1 dL_law_413 hl (Nat.le_of_ble_eq_true rfl) (ls_new (ls_old 0 rfl rfl (.inl rfl) (ls_old 1 rfl rfl (.inl rfl) (ls_old 2 rfl rfl (.inl rfl) (ls_old 3 rfl rfl (.inl rfl) (ls_old 4 rfl rfl (.inl rfl) (ls_old 5 rfl rfl (.inr rfl) ls_nil))))))) (fun ls hl => ?_)
        refine r_aload_n C.1 C.2.1 dL_law_415 rfl (lv_at hl 3 rfl) ?_
        refine r_aload_n C.1 C.2.1 dL_law_416 rfl (lv_at hl 1 rfl) ?_
        refine lv_iload C.1 C.2.1 dL_law_417 (lv_at hl 6 rfl) ?_
        refine lv_iconst C.1 C.2.1 (v := 1) dL_law_419 rfl ?_
        refine lv_iadd C.1 C.2.1 dL_law_420 ?_
        refine r_iald C hS dL_law_421 hw (fun x45 hw => ?_)
        refine r_aload_n C.1 C.2.1 dL_law_422 rfl (lv_at hl 1 rfl) ?_
        refine lv_iload C.1 C.2.1 dL_law_423 (lv_at hl 6 rfl) ?_
        refine lv_iconst C.1 C.2.1 (v := 2) dL_law_425 rfl ?_
        refine lv_iadd C.1 C.2.1 dL_law_426 ?_
        refine r_iald C hS dL_law_427 hw (fun x46 hw => ?_)
        refine r_aload_n C.1 C.2.1 dL_law_428 rfl (lv_at hl 1 rfl) ?_
        refine lv_iload C.1 C.2.1 dL_law_429 (lv_at hl 6 rfl) ?_
        refine lv_iconst C.1 C.2.1 (v := 3) dL_law_431 rfl ?_
        refine lv_iadd C.1 C.2.1 dL_law_432 ?_
        refine r_iald C hS dL_law_433 hw (fun x47 hw => ?_)
        refine r_aload_n C.1 C.2.1 dL_law_434 rfl (lv_at hl 1 rfl) ?_
        refine lv_iload C.1 C.2.1 dL_law_435 (lv_at hl 6 rfl) ?_
        refine lv_iconst C.1 C.2.1 (v := 4) dL_law_437 rfl ?_
        refine lv_iadd C.1 C.2.1 dL_law_438 ?_
        refine r_iald C hS dL_law_439 hw (fun x48 hw => ?_)
        refine c_V C hS hmc hl.1 (ci := 4) rfl hw.1 (kX5_lend C.2.2.2.2.2.2.1) hw.2 (lw_V q3217 q3218 q3219 q83 q3220) ⟨rfl, hdX5_lend⟩ ⟨Nat.le_of_ble_eq_true rfl, Nat.le_of_ble_eq_true rfl⟩ (rest := []) rfl rfl (Nat.le_of_ble_eq_true rfl) dL_law_440 (fun ci q z H locs hx hS ht => (show False from hx).elim) (fun v z49 H locs hv hS => ?_)
        obtain ⟨x50, rfl, hw⟩ := hv
        refine r_istore C.1 C.2.1 dL_law_443 hl (Nat.le_of_ble_eq_true rfl) (ls_new (ls_old 0 rfl rfl (.inr rfl) (ls_old 1 rfl rfl (.inl rfl) (ls_old 2 rfl rfl (.inl rfl) (ls_old 3 rfl rfl (.inl rfl) (ls_old 4 rfl rfl (.inl rfl) (ls_old 5 rfl rfl (.inl rfl) (ls_old 6 rfl rfl (.inl rfl) ls_nil)))))))) (fun ls hl => ?_)
        refine r_aload_n C.1 C.2.1 dL_law_445 rfl (lv_at hl 4 rfl) ?_
        refine c_V C hS hmc hl.1 (ci := 4) rfl hw.1 (kX5_thrown C.2.2.2.2.2.2.1) hw.2 (lw_V q3161 q3162 q3163 q83 q3164) ⟨rfl, hdX5_thrown⟩ ⟨Nat.le_of_ble_eq_true rfl, Nat.le_of_ble_eq_true rfl⟩ (rest := []) rfl rfl (Nat.le_of_ble_eq_true rfl) dL_law_446 (fun ci q z H locs hx hS ht => (show False from hx).elim) (fun v z51 H locs hv hS => ?_)
        obtain ⟨x52, rfl, hw⟩ := hv
        refine lv_iload C.1 C.2.1 dL_law_449 (lv_at hl 1 rfl) ?_
        refine lv_icmp_eq C.1 C.2.1 dL_law_451 rfl (fun h => ?_) (fun h => ?_)
        · have hw := hw.1 h
          refine lv_iload C.1 C.2.1 dL_law_456 (lv_at hl 1 rfl) ?_
          refine lv_if_ne C.1 C.2.1 dL_law_458 rfl (fun h => ?_) (fun h => ?_)
          · have hw := hw.1 h
            exact kL_lawb473 C hr hin hT hmc hL hK28 hw H locs ls hS (lv_sub hl [2, 3, 4, 5, 6, 7] rfl)
          · have hw := hw.2 h
            refine r_aload_n C.1 C.2.1 dL_law_461 rfl (lv_at hl 5 rfl) ?_
            refine lv_iconst C.1 C.2.1 (v := 0) dL_law_462 rfl ?_
            refine r_lald C hS dL_law_463 hw (fun x53 hw => ?_)
            refine lv_iload C.1 C.2.1 dL_law_464 (lv_at hl 0 rfl) ?_
            refine lv_i2l C.1 C.2.1 dL_law_466 rfl ?_
            refine r_lcmp C dL_law_467 ?_
            refine lv_if_eq C.1 C.2.1 dL_law_468 rfl (fun h => ?_) (fun h => ?_)
            · have hw := hw.1 h
              exact kL_lawb473 C hr hin hT hmc hL hK28 hw H locs ls hS (lv_sub hl [2, 3, 4, 5, 6, 7] rfl)
            · have hw := hw.2 h
              refine lv_iconst C.1 C.2.1 (v := 0) dL_law_471 rfl ?_
              exact r_lawret C hS hmc hr hL dL_law_472 hw
        · have hw := hw.2 h
          refine lv_iconst C.1 C.2.1 (v := 0) dL_law_454 rfl ?_
          exact r_lawret C hS hmc hr hL dL_law_455 hw
      | 3, ht, hx =>
        cases ht
        have hw := hw.2.2.2.1 (sw_eq 3 hx rfl)
        refine r_aload_n C.1 C.2.1 dL_law_476 rfl (lv_at hl 1 rfl) ?_
        refine r_aload_n C.1 C.2.1 dL_law_477 rfl (lv_at hl 0 rfl) ?_
        refine lv_iload C.1 C.2.1 dL_law_478 (lv_at hl 5 rfl) ?_
        refine lv_iconst C.1 C.2.1 (v := 1) dL_law_480 rfl ?_
        refine lv_iadd C.1 C.2.1 dL_law_481 ?_
        refine r_iald C hS dL_law_482 hw (fun x54 hw => ?_)
        refine r_aload_n C.1 C.2.1 dL_law_483 rfl (lv_at hl 0 rfl) ?_
        refine lv_iload C.1 C.2.1 dL_law_484 (lv_at hl 5 rfl) ?_
        refine lv_iconst C.1 C.2.1 (v := 2) dL_law_486 rfl ?_
        refine lv_iadd C.1 C.2.1 dL_law_487 ?_
        refine r_iald C hS dL_law_488 hw (fun x55 hw => ?_)
        refine r_aload_n C.1 C.2.1 dL_law_489 rfl (lv_at hl 3 rfl) ?_
        refine c_SX C hS hmc hl.1 (kX0_back C.2.2.2.2.2.2.1) hw (lw_SW q2439 q2440 q66 q2441) hdX0_back ⟨Nat.le_of_ble_eq_true rfl, Nat.le_of_ble_eq_true rfl⟩ (rest := []) rfl rfl (Nat.le_of_ble_eq_true rfl) dL_law_490 (fun ci q z H locs hx hS ht => (show False from hx).elim) (fun v z56 H locs hv hS => ?_)
        obtain ⟨x57, rfl, hw⟩ := hv
        refine r_istore C.1 C.2.1 dL_law_493 hl (Nat.le_of_ble_eq_true rfl) (ls_new (ls_old 0 rfl rfl (.inl rfl) (ls_old 1 rfl rfl (.inl rfl) (ls_old 2 rfl rfl (.inl rfl) (ls_old 3 rfl rfl (.inl rfl) (ls_old 4 rfl rfl (.inl rfl) (ls_old 5 rfl rfl (.inr rfl) ls_nil))))))) (fun ls hl => ?_)
        refine r_aload_n C.1 C.2.1 dL_law_495 rfl (lv_at hl 3 rfl) ?_
        refine r_aload_n C.1 C.2.1 dL_law_496 rfl (lv_at hl 1 rfl) ?_
        refine lv_iload C.1 C.2.1 dL_law_497 (lv_at hl 6 rfl) ?_
        refine lv_iconst C.1 C.2.1 (v := 1) dL_law_499 rfl ?_
        refine lv_iadd C.1 C.2.1 dL_law_500 ?_
        refine r_iald C hS dL_law_501 hw (fun x58 hw => ?_)
        refine r_aload_n C.1 C.2.1 dL_law_502 rfl (lv_at hl 1 rfl) ?_
        refine lv_iload C.1 C.2.1 dL_law_503 (lv_at hl 6 rfl) ?_
        refine lv_iconst C.1 C.2.1 (v := 2) dL_law_505 rfl ?_
        refine lv_iadd C.1 C.2.1 dL_law_506 ?_
        refine r_iald C hS dL_law_507 hw (fun x59 hw => ?_)
        refine c_V C hS hmc hl.1 (ci := 4) rfl hw.1 (kX5_back C.2.2.2.2.2.2.1) hw.2 (lw_V q3225 q3226 q3227 q83 q3228) ⟨rfl, hdX5_back⟩ ⟨Nat.le_of_ble_eq_true rfl, Nat.le_of_ble_eq_true rfl⟩ (rest := []) rfl rfl (Nat.le_of_ble_eq_true rfl) dL_law_508 (fun ci q z H locs hx hS ht => (show False from hx).elim) (fun v z60 H locs hv hS => ?_)
        obtain ⟨x61, rfl, hw⟩ := hv
        refine r_istore C.1 C.2.1 dL_law_511 hl (Nat.le_of_ble_eq_true rfl) (ls_new (ls_old 0 rfl rfl (.inr rfl) (ls_old 1 rfl rfl (.inl rfl) (ls_old 2 rfl rfl (.inl rfl) (ls_old 3 rfl rfl (.inl rfl) (ls_old 4 rfl rfl (.inl rfl) (ls_old 5 rfl rfl (.inl rfl) (ls_old 6 rfl rfl (.inl rfl) ls_nil)))))))) (fun ls hl => ?_)
        refine r_aload_n C.1 C.2.1 dL_law_513 rfl (lv_at hl 4 rfl) ?_
        refine c_V C hS hmc hl.1 (ci := 4) rfl hw.1 (kX5_thrown C.2.2.2.2.2.2.1) hw.2 (lw_V q3161 q3162 q3163 q83 q3164) ⟨rfl, hdX5_thrown⟩ ⟨Nat.le_of_ble_eq_true rfl, Nat.le_of_ble_eq_true rfl⟩ (rest := []) rfl rfl (Nat.le_of_ble_eq_true rfl) dL_law_514 (fun ci q z H locs hx hS ht => (show False from hx).elim) (fun v z62 H locs hv hS => ?_)
        obtain ⟨x63, rfl, hw⟩ := hv
        refine lv_iload C.1 C.2.1 dL_law_517 (lv_at hl 1 rfl) ?_
        refine lv_icmp_eq C.1 C.2.1 dL_law_519 rfl (fun h => ?_) (fun h => ?_)
        · have hw := hw.1 h
          refine lv_iload C.1 C.2.1 dL_law_524 (lv_at hl 1 rfl) ?_
          refine lv_if_ne C.1 C.2.1 dL_law_526 rfl (fun h => ?_) (fun h => ?_)
          · have hw := hw.1 h
            exact kL_lawb541 C hr hin hT hmc hL hK28 hw H locs ls hS (lv_sub hl [2, 3, 4, 5, 6, 7] rfl)
          · have hw := hw.2 h
            refine r_aload_n C.1 C.2.1 dL_law_529 rfl (lv_at hl 5 rfl) ?_
            refine lv_iconst C.1 C.2.1 (v := 0) dL_law_530 rfl ?_
            refine r_lald C hS dL_law_531 hw (fun x64 hw => ?_)
            refine lv_iload C.1 C.2.1 dL_law_532 (lv_at hl 0 rfl) ?_
            refine lv_i2l C.1 C.2.1 dL_law_534 rfl ?_
            refine r_lcmp C dL_law_535 ?_
            refine lv_if_eq C.1 C.2.1 dL_law_536 rfl (fun h => ?_) (fun h => ?_)
            · have hw := hw.1 h
              exact kL_lawb541 C hr hin hT hmc hL hK28 hw H locs ls hS (lv_sub hl [2, 3, 4, 5, 6, 7] rfl)
            · have hw := hw.2 h
              refine lv_iconst C.1 C.2.1 (v := 0) dL_law_539 rfl ?_
              exact r_lawret C hS hmc hr hL dL_law_540 hw
        · have hw := hw.2 h
          refine lv_iconst C.1 C.2.1 (v := 0) dL_law_522 rfl ?_
          exact r_lawret C hS hmc hr hL dL_law_523 hw
      | 4, ht, hx =>
        cases ht
        have hw := hw.2.2.2.2.1 (sw_eq 4 hx rfl)
        refine r_aload_n C.1 C.2.1 dL_law_544 rfl (lv_at hl 1 rfl) ?_
        refine r_aload_n C.1 C.2.1 dL_law_545 rfl (lv_at hl 0 rfl) ?_
        refine lv_iload C.1 C.2.1 dL_law_546 (lv_at hl 5 rfl) ?_
        refine lv_iconst C.1 C.2.1 (v := 1) dL_law_548 rfl ?_
        refine lv_iadd C.1 C.2.1 dL_law_549 ?_
        refine r_iald C hS dL_law_550 hw (fun x65 hw => ?_)
        refine r_aload_n C.1 C.2.1 dL_law_551 rfl (lv_at hl 0 rfl) ?_
        refine lv_iload C.1 C.2.1 dL_law_552 (lv_at hl 5 rfl) ?_
        refine lv_iconst C.1 C.2.1 (v := 2) dL_law_554 rfl ?_
        refine lv_iadd C.1 C.2.1 dL_law_555 ?_
        refine r_iald C hS dL_law_556 hw (fun x66 hw => ?_)
        refine r_aload_n C.1 C.2.1 dL_law_557 rfl (lv_at hl 0 rfl) ?_
        refine lv_iload C.1 C.2.1 dL_law_558 (lv_at hl 5 rfl) ?_
        refine lv_iconst C.1 C.2.1 (v := 3) dL_law_560 rfl ?_
        refine lv_iadd C.1 C.2.1 dL_law_561 ?_
        refine r_iald C hS dL_law_562 hw (fun x67 hw => ?_)
        refine r_aload_n C.1 C.2.1 dL_law_563 rfl (lv_at hl 3 rfl) ?_
        refine c_SX C hS hmc hl.1 (kX0_mend C.2.2.2.2.2.2.1) hw (lw_SW q2447 q2448 q66 q2449) hdX0_mend ⟨Nat.le_of_ble_eq_true rfl, Nat.le_of_ble_eq_true rfl⟩ (rest := []) rfl rfl (Nat.le_of_ble_eq_true rfl) dL_law_564 (fun ci q z H locs hx hS ht => (show False from hx).elim) (fun v z68 H locs hv hS => ?_)
        obtain ⟨x69, rfl, hw⟩ := hv
        refine r_istore C.1 C.2.1 dL_law_567 hl (Nat.le_of_ble_eq_true rfl) (ls_new (ls_old 0 rfl rfl (.inl rfl) (ls_old 1 rfl rfl (.inl rfl) (ls_old 2 rfl rfl (.inl rfl) (ls_old 3 rfl rfl (.inl rfl) (ls_old 4 rfl rfl (.inl rfl) (ls_old 5 rfl rfl (.inr rfl) ls_nil))))))) (fun ls hl => ?_)
        refine r_aload_n C.1 C.2.1 dL_law_569 rfl (lv_at hl 3 rfl) ?_
        refine r_aload_n C.1 C.2.1 dL_law_570 rfl (lv_at hl 1 rfl) ?_
        refine lv_iload C.1 C.2.1 dL_law_571 (lv_at hl 6 rfl) ?_
        refine lv_iconst C.1 C.2.1 (v := 1) dL_law_573 rfl ?_
        refine lv_iadd C.1 C.2.1 dL_law_574 ?_
        refine r_iald C hS dL_law_575 hw (fun x70 hw => ?_)
        refine r_aload_n C.1 C.2.1 dL_law_576 rfl (lv_at hl 1 rfl) ?_
        refine lv_iload C.1 C.2.1 dL_law_577 (lv_at hl 6 rfl) ?_
        refine lv_iconst C.1 C.2.1 (v := 2) dL_law_579 rfl ?_
        refine lv_iadd C.1 C.2.1 dL_law_580 ?_
        refine r_iald C hS dL_law_581 hw (fun x71 hw => ?_)
        refine r_aload_n C.1 C.2.1 dL_law_582 rfl (lv_at hl 1 rfl) ?_
        refine lv_iload C.1 C.2.1 dL_law_583 (lv_at hl 6 rfl) ?_
        refine lv_iconst C.1 C.2.1 (v := 3) dL_law_585 rfl ?_
        refine lv_iadd C.1 C.2.1 dL_law_586 ?_
        refine r_iald C hS dL_law_587 hw (fun x72 hw => ?_)
        refine c_V C hS hmc hl.1 (ci := 4) rfl hw.1 (kX5_mend C.2.2.2.2.2.2.1) hw.2 (lw_V q3237 q3238 q3239 q83 q3240) ⟨rfl, hdX5_mend⟩ ⟨Nat.le_of_ble_eq_true rfl, Nat.le_of_ble_eq_true rfl⟩ (rest := []) rfl rfl (Nat.le_of_ble_eq_true rfl) dL_law_588 (fun ci q z H locs hx hS ht => (show False from hx).elim) (fun v z73 H locs hv hS => ?_)
        obtain ⟨x74, rfl, hw⟩ := hv
        refine r_istore C.1 C.2.1 dL_law_591 hl (Nat.le_of_ble_eq_true rfl) (ls_new (ls_old 0 rfl rfl (.inr rfl) (ls_old 1 rfl rfl (.inl rfl) (ls_old 2 rfl rfl (.inl rfl) (ls_old 3 rfl rfl (.inl rfl) (ls_old 4 rfl rfl (.inl rfl) (ls_old 5 rfl rfl (.inl rfl) (ls_old 6 rfl rfl (.inl rfl) ls_nil)))))))) (fun ls hl => ?_)
        refine r_aload_n C.1 C.2.1 dL_law_593 rfl (lv_at hl 4 rfl) ?_
        refine c_V C hS hmc hl.1 (ci := 4) rfl hw.1 (kX5_thrown C.2.2.2.2.2.2.1) hw.2 (lw_V q3161 q3162 q3163 q83 q3164) ⟨rfl, hdX5_thrown⟩ ⟨Nat.le_of_ble_eq_true rfl, Nat.le_of_ble_eq_true rfl⟩ (rest := []) rfl rfl (Nat.le_of_ble_eq_true rfl) dL_law_594 (fun ci q z H locs hx hS ht => (show False from hx).elim) (fun v z75 H locs hv hS => ?_)
        obtain ⟨x76, rfl, hw⟩ := hv
        refine lv_iload C.1 C.2.1 dL_law_597 (lv_at hl 1 rfl) ?_
        refine lv_icmp_eq C.1 C.2.1 dL_law_599 rfl (fun h => ?_) (fun h => ?_)
        · have hw := hw.1 h
          refine lv_iload C.1 C.2.1 dL_law_604 (lv_at hl 1 rfl) ?_
          refine lv_if_ne C.1 C.2.1 dL_law_606 rfl (fun h => ?_) (fun h => ?_)
          · have hw := hw.1 h
            exact kL_lawb621 C hr hin hT hmc hL hK28 hw H locs ls hS (lv_sub hl [2, 3, 4, 5, 6, 7] rfl)
          · have hw := hw.2 h
            refine r_aload_n C.1 C.2.1 dL_law_609 rfl (lv_at hl 5 rfl) ?_
            refine lv_iconst C.1 C.2.1 (v := 0) dL_law_610 rfl ?_
            refine r_lald C hS dL_law_611 hw (fun x77 hw => ?_)
            refine lv_iload C.1 C.2.1 dL_law_612 (lv_at hl 0 rfl) ?_
            refine lv_i2l C.1 C.2.1 dL_law_614 rfl ?_
            refine r_lcmp C dL_law_615 ?_
            refine lv_if_eq C.1 C.2.1 dL_law_616 rfl (fun h => ?_) (fun h => ?_)
            · have hw := hw.1 h
              exact kL_lawb621 C hr hin hT hmc hL hK28 hw H locs ls hS (lv_sub hl [2, 3, 4, 5, 6, 7] rfl)
            · have hw := hw.2 h
              refine lv_iconst C.1 C.2.1 (v := 0) dL_law_619 rfl ?_
              exact r_lawret C hS hmc hr hL dL_law_620 hw
        · have hw := hw.2 h
          refine lv_iconst C.1 C.2.1 (v := 0) dL_law_602 rfl ?_
          exact r_lawret C hS hmc hr hL dL_law_603 hw
      | 5, ht, hx =>
        cases ht
        have hw := hw.2.2.2.2.2.1 (sw_eq 5 hx rfl)
        refine r_aload_n C.1 C.2.1 dL_law_624 rfl (lv_at hl 1 rfl) ?_
        refine r_aload_n C.1 C.2.1 dL_law_625 rfl (lv_at hl 0 rfl) ?_
        refine lv_iload C.1 C.2.1 dL_law_626 (lv_at hl 5 rfl) ?_
        refine lv_iconst C.1 C.2.1 (v := 1) dL_law_628 rfl ?_
        refine lv_iadd C.1 C.2.1 dL_law_629 ?_
        refine r_iald C hS dL_law_630 hw (fun x78 hw => ?_)
        refine r_aload_n C.1 C.2.1 dL_law_631 rfl (lv_at hl 0 rfl) ?_
        refine lv_iload C.1 C.2.1 dL_law_632 (lv_at hl 5 rfl) ?_
        refine lv_iconst C.1 C.2.1 (v := 2) dL_law_634 rfl ?_
        refine lv_iadd C.1 C.2.1 dL_law_635 ?_
        refine r_iald C hS dL_law_636 hw (fun x79 hw => ?_)
        refine r_aload_n C.1 C.2.1 dL_law_637 rfl (lv_at hl 0 rfl) ?_
        refine lv_iload C.1 C.2.1 dL_law_638 (lv_at hl 5 rfl) ?_
        refine lv_iconst C.1 C.2.1 (v := 3) dL_law_640 rfl ?_
        refine lv_iadd C.1 C.2.1 dL_law_641 ?_
        refine r_iald C hS dL_law_642 hw (fun x80 hw => ?_)
        refine r_aload_n C.1 C.2.1 dL_law_643 rfl (lv_at hl 0 rfl) ?_
        refine lv_iload C.1 C.2.1 dL_law_644 (lv_at hl 5 rfl) ?_
        refine lv_iconst C.1 C.2.1 (v := 4) dL_law_646 rfl ?_
        refine lv_iadd C.1 C.2.1 dL_law_647 ?_
        refine r_iald C hS dL_law_648 hw (fun x81 hw => ?_)
        refine r_aload_n C.1 C.2.1 dL_law_649 rfl (lv_at hl 3 rfl) ?_
        refine c_SX C hS hmc hl.1 (kX0_use C.2.2.2.2.2.2.1) hw (lw_SW q2455 q2456 q66 q2457) hdX0_use ⟨Nat.le_of_ble_eq_true rfl, Nat.le_of_ble_eq_true rfl⟩ (rest := []) rfl rfl (Nat.le_of_ble_eq_true rfl) dL_law_650 (fun ci q z H locs hx hS ht => (show False from hx).elim) (fun v z82 H locs hv hS => ?_)
        obtain ⟨x83, rfl, hw⟩ := hv
        refine r_istore C.1 C.2.1 dL_law_653 hl (Nat.le_of_ble_eq_true rfl) (ls_new (ls_old 0 rfl rfl (.inl rfl) (ls_old 1 rfl rfl (.inl rfl) (ls_old 2 rfl rfl (.inl rfl) (ls_old 3 rfl rfl (.inl rfl) (ls_old 4 rfl rfl (.inl rfl) (ls_old 5 rfl rfl (.inr rfl) ls_nil))))))) (fun ls hl => ?_)
        refine r_aload_n C.1 C.2.1 dL_law_655 rfl (lv_at hl 3 rfl) ?_
        refine r_aload_n C.1 C.2.1 dL_law_656 rfl (lv_at hl 1 rfl) ?_
        refine lv_iload C.1 C.2.1 dL_law_657 (lv_at hl 6 rfl) ?_
        refine lv_iconst C.1 C.2.1 (v := 1) dL_law_659 rfl ?_
        refine lv_iadd C.1 C.2.1 dL_law_660 ?_
        refine r_iald C hS dL_law_661 hw (fun x84 hw => ?_)
        refine r_aload_n C.1 C.2.1 dL_law_662 rfl (lv_at hl 1 rfl) ?_
        refine lv_iload C.1 C.2.1 dL_law_663 (lv_at hl 6 rfl) ?_
        refine lv_iconst C.1 C.2.1 (v := 2) dL_law_665 rfl ?_
        refine lv_iadd C.1 C.2.1 dL_law_666 ?_
        refine r_iald C hS dL_law_667 hw (fun x85 hw => ?_)
        refine r_aload_n C.1 C.2.1 dL_law_668 rfl (lv_at hl 1 rfl) ?_
        refine lv_iload C.1 C.2.1 dL_law_669 (lv_at hl 6 rfl) ?_
        refine lv_iconst C.1 C.2.1 (v := 3) dL_law_671 rfl ?_
        refine lv_iadd C.1 C.2.1 dL_law_672 ?_
        refine r_iald C hS dL_law_673 hw (fun x86 hw => ?_)
        refine r_aload_n C.1 C.2.1 dL_law_674 rfl (lv_at hl 1 rfl) ?_
        refine lv_iload C.1 C.2.1 dL_law_675 (lv_at hl 6 rfl) ?_
        refine lv_iconst C.1 C.2.1 (v := 4) dL_law_677 rfl ?_
        refine lv_iadd C.1 C.2.1 dL_law_678 ?_
        refine r_iald C hS dL_law_679 hw (fun x87 hw => ?_)
        refine c_V C hS hmc hl.1 (ci := 4) rfl hw.1 (kX5_use C.2.2.2.2.2.2.1) hw.2 (lw_V q3245 q3246 q3247 q83 q3248) ⟨rfl, hdX5_use⟩ ⟨Nat.le_of_ble_eq_true rfl, Nat.le_of_ble_eq_true rfl⟩ (rest := []) rfl rfl (Nat.le_of_ble_eq_true rfl) dL_law_680 (fun ci q z H locs hx hS ht => (show False from hx).elim) (fun v z88 H locs hv hS => ?_)
        obtain ⟨x89, rfl, hw⟩ := hv
        refine r_istore C.1 C.2.1 dL_law_683 hl (Nat.le_of_ble_eq_true rfl) (ls_new (ls_old 0 rfl rfl (.inr rfl) (ls_old 1 rfl rfl (.inl rfl) (ls_old 2 rfl rfl (.inl rfl) (ls_old 3 rfl rfl (.inl rfl) (ls_old 4 rfl rfl (.inl rfl) (ls_old 5 rfl rfl (.inl rfl) (ls_old 6 rfl rfl (.inl rfl) ls_nil)))))))) (fun ls hl => ?_)
        refine r_aload_n C.1 C.2.1 dL_law_685 rfl (lv_at hl 4 rfl) ?_
        refine c_V C hS hmc hl.1 (ci := 4) rfl hw.1 (kX5_thrown C.2.2.2.2.2.2.1) hw.2 (lw_V q3161 q3162 q3163 q83 q3164) ⟨rfl, hdX5_thrown⟩ ⟨Nat.le_of_ble_eq_true rfl, Nat.le_of_ble_eq_true rfl⟩ (rest := []) rfl rfl (Nat.le_of_ble_eq_true rfl) dL_law_686 (fun ci q z H locs hx hS ht => (show False from hx).elim) (fun v z90 H locs hv hS => ?_)
        obtain ⟨x91, rfl, hw⟩ := hv
        refine lv_iload C.1 C.2.1 dL_law_689 (lv_at hl 1 rfl) ?_
        refine lv_icmp_eq C.1 C.2.1 dL_law_691 rfl (fun h => ?_) (fun h => ?_)
        · have hw := hw.1 h
          refine lv_iload C.1 C.2.1 dL_law_696 (lv_at hl 1 rfl) ?_
          refine lv_if_ne C.1 C.2.1 dL_law_698 rfl (fun h => ?_) (fun h => ?_)
          · have hw := hw.1 h
            exact kL_lawb720 C hr hin hT hmc hL hK28 hw H locs ls hS (lv_sub hl [2, 3, 4, 5, 6, 7] rfl)
          · have hw := hw.2 h
            refine r_aload_n C.1 C.2.1 dL_law_701 rfl (lv_at hl 5 rfl) ?_
            refine lv_iconst C.1 C.2.1 (v := 0) dL_law_702 rfl ?_
            refine r_lald C hS dL_law_703 hw (fun x92 hw => ?_)
            refine lv_iload C.1 C.2.1 dL_law_704 (lv_at hl 0 rfl) ?_
            refine lv_if_eq C.1 C.2.1 dL_law_706 rfl (fun h => ?_) (fun h => ?_)
            · have hw := hw.1 h
              refine lv_lconst C.1 C.2.1 (v := 0) dL_law_713 rfl ?_
              exact kL_lawb714 C hr hin hT hmc hL hK28 hw H locs ls hS (lv_sub hl [2, 3, 4, 5, 6, 7] rfl)
            · have hw := hw.2 h
              refine lv_lconst C.1 C.2.1 (v := 1) dL_law_709 rfl ?_
              refine lv_goto C.1 C.2.1 dL_law_710 rfl ?_
              exact kL_lawb714 C hr hin hT hmc hL hK28 hw H locs ls hS (lv_sub hl [2, 3, 4, 5, 6, 7] rfl)
        · have hw := hw.2 h
          refine lv_iconst C.1 C.2.1 (v := 0) dL_law_694 rfl ?_
          exact r_lawret C hS hmc hr hL dL_law_695 hw
      | 6, ht, hx =>
        cases ht
        have hw := hw.2.2.2.2.2.2.1 (sw_eq 6 hx rfl)
        refine r_aload_n C.1 C.2.1 dL_law_723 rfl (lv_at hl 1 rfl) ?_
        refine r_aload_n C.1 C.2.1 dL_law_724 rfl (lv_at hl 0 rfl) ?_
        refine lv_iload C.1 C.2.1 dL_law_725 (lv_at hl 5 rfl) ?_
        refine lv_iconst C.1 C.2.1 (v := 1) dL_law_727 rfl ?_
        refine lv_iadd C.1 C.2.1 dL_law_728 ?_
        refine r_iald C hS dL_law_729 hw (fun x93 hw => ?_)
        refine r_aload_n C.1 C.2.1 dL_law_730 rfl (lv_at hl 0 rfl) ?_
        refine lv_iload C.1 C.2.1 dL_law_731 (lv_at hl 5 rfl) ?_
        refine lv_iconst C.1 C.2.1 (v := 2) dL_law_733 rfl ?_
        refine lv_iadd C.1 C.2.1 dL_law_734 ?_
        refine r_iald C hS dL_law_735 hw (fun x94 hw => ?_)
        refine r_aload_n C.1 C.2.1 dL_law_736 rfl (lv_at hl 3 rfl) ?_
        refine c_SX C hS hmc hl.1 (kX0_strict C.2.2.2.2.2.2.1) hw (lw_SW q2464 q2465 q66 q2466) hdX0_strict ⟨Nat.le_of_ble_eq_true rfl, Nat.le_of_ble_eq_true rfl⟩ (rest := []) rfl rfl (Nat.le_of_ble_eq_true rfl) dL_law_737 (fun ci q z H locs hx hS ht => (show False from hx).elim) (fun v z95 H locs hv hS => ?_)
        obtain ⟨x96, rfl, hw⟩ := hv
        refine r_istore C.1 C.2.1 dL_law_740 hl (Nat.le_of_ble_eq_true rfl) (ls_new (ls_old 0 rfl rfl (.inl rfl) (ls_old 1 rfl rfl (.inl rfl) (ls_old 2 rfl rfl (.inl rfl) (ls_old 3 rfl rfl (.inl rfl) (ls_old 4 rfl rfl (.inl rfl) (ls_old 5 rfl rfl (.inr rfl) ls_nil))))))) (fun ls hl => ?_)
        refine r_aload_n C.1 C.2.1 dL_law_742 rfl (lv_at hl 3 rfl) ?_
        refine r_aload_n C.1 C.2.1 dL_law_743 rfl (lv_at hl 1 rfl) ?_
        refine lv_iload C.1 C.2.1 dL_law_744 (lv_at hl 6 rfl) ?_
        refine lv_iconst C.1 C.2.1 (v := 1) dL_law_746 rfl ?_
        refine lv_iadd C.1 C.2.1 dL_law_747 ?_
        refine r_iald C hS dL_law_748 hw (fun x97 hw => ?_)
        refine r_aload_n C.1 C.2.1 dL_law_749 rfl (lv_at hl 1 rfl) ?_
        refine lv_iload C.1 C.2.1 dL_law_750 (lv_at hl 6 rfl) ?_
        refine lv_iconst C.1 C.2.1 (v := 2) dL_law_752 rfl ?_
        refine lv_iadd C.1 C.2.1 dL_law_753 ?_
        refine r_iald C hS dL_law_754 hw (fun x98 hw => ?_)
        refine c_V C hS hmc hl.1 (ci := 4) rfl hw.1 (kX5_strict C.2.2.2.2.2.2.1) hw.2 (lw_V q3283 q3284 q3285 q83 q3286) ⟨rfl, hdX5_strict⟩ ⟨Nat.le_of_ble_eq_true rfl, Nat.le_of_ble_eq_true rfl⟩ (rest := []) rfl rfl (Nat.le_of_ble_eq_true rfl) dL_law_755 (fun ci q z H locs hx hS ht => (show False from hx).elim) (fun v z99 H locs hv hS => ?_)
        obtain ⟨x100, rfl, hw⟩ := hv
        refine r_istore C.1 C.2.1 dL_law_758 hl (Nat.le_of_ble_eq_true rfl) (ls_new (ls_old 0 rfl rfl (.inr rfl) (ls_old 1 rfl rfl (.inl rfl) (ls_old 2 rfl rfl (.inl rfl) (ls_old 3 rfl rfl (.inl rfl) (ls_old 4 rfl rfl (.inl rfl) (ls_old 5 rfl rfl (.inl rfl) (ls_old 6 rfl rfl (.inl rfl) ls_nil)))))))) (fun ls hl => ?_)
        refine r_aload_n C.1 C.2.1 dL_law_760 rfl (lv_at hl 4 rfl) ?_
        refine c_V C hS hmc hl.1 (ci := 4) rfl hw.1 (kX5_thrown C.2.2.2.2.2.2.1) hw.2 (lw_V q3161 q3162 q3163 q83 q3164) ⟨rfl, hdX5_thrown⟩ ⟨Nat.le_of_ble_eq_true rfl, Nat.le_of_ble_eq_true rfl⟩ (rest := []) rfl rfl (Nat.le_of_ble_eq_true rfl) dL_law_761 (fun ci q z H locs hx hS ht => (show False from hx).elim) (fun v z101 H locs hv hS => ?_)
        obtain ⟨x102, rfl, hw⟩ := hv
        refine lv_iload C.1 C.2.1 dL_law_764 (lv_at hl 1 rfl) ?_
        refine lv_icmp_eq C.1 C.2.1 dL_law_766 rfl (fun h => ?_) (fun h => ?_)
        · have hw := hw.1 h
          refine lv_iload C.1 C.2.1 dL_law_771 (lv_at hl 1 rfl) ?_
          refine lv_if_ne C.1 C.2.1 dL_law_773 rfl (fun h => ?_) (fun h => ?_)
          · have hw := hw.1 h
            exact kL_lawb788 C hr hin hT hmc hL hK28 hw H locs ls hS (lv_sub hl [2, 3, 4, 5, 6, 7] rfl)
          · have hw := hw.2 h
            refine r_aload_n C.1 C.2.1 dL_law_776 rfl (lv_at hl 5 rfl) ?_
            refine lv_iconst C.1 C.2.1 (v := 0) dL_law_777 rfl ?_
            refine r_lald C hS dL_law_778 hw (fun x103 hw => ?_)
            refine lv_iload C.1 C.2.1 dL_law_779 (lv_at hl 0 rfl) ?_
            refine lv_i2l C.1 C.2.1 dL_law_781 rfl ?_
            refine r_lcmp C dL_law_782 ?_
            refine lv_if_eq C.1 C.2.1 dL_law_783 rfl (fun h => ?_) (fun h => ?_)
            · have hw := hw.1 h
              exact kL_lawb788 C hr hin hT hmc hL hK28 hw H locs ls hS (lv_sub hl [2, 3, 4, 5, 6, 7] rfl)
            · have hw := hw.2 h
              refine lv_iconst C.1 C.2.1 (v := 0) dL_law_786 rfl ?_
              exact r_lawret C hS hmc hr hL dL_law_787 hw
        · have hw := hw.2 h
          refine lv_iconst C.1 C.2.1 (v := 0) dL_law_769 rfl ?_
          exact r_lawret C hS hmc hr hL dL_law_770 hw
      | 7, ht, hx =>
        cases ht
        have hw := hw.2.2.2.2.2.2.2.1 (sw_eq 7 hx rfl)
        refine r_aload_n C.1 C.2.1 dL_law_791 rfl (lv_at hl 1 rfl) ?_
        refine r_aload_n C.1 C.2.1 dL_law_792 rfl (lv_at hl 0 rfl) ?_
        refine lv_iload C.1 C.2.1 dL_law_793 (lv_at hl 5 rfl) ?_
        refine lv_iconst C.1 C.2.1 (v := 1) dL_law_795 rfl ?_
        refine lv_iadd C.1 C.2.1 dL_law_796 ?_
        refine r_iald C hS dL_law_797 hw (fun x104 hw => ?_)
        refine r_aload_n C.1 C.2.1 dL_law_798 rfl (lv_at hl 3 rfl) ?_
        refine c_SX C hS hmc hl.1 (kX0_weather C.2.2.2.2.2.2.1) hw (lw_SW q2472 q2473 q66 q2474) hdX0_weather ⟨Nat.le_of_ble_eq_true rfl, Nat.le_of_ble_eq_true rfl⟩ (rest := []) rfl rfl (Nat.le_of_ble_eq_true rfl) dL_law_799 (fun ci q z H locs hx hS ht => (show False from hx).elim) (fun v z105 H locs hv hS => ?_)
        obtain ⟨x106, rfl, hw⟩ := hv
        refine r_istore C.1 C.2.1 dL_law_802 hl (Nat.le_of_ble_eq_true rfl) (ls_new (ls_old 0 rfl rfl (.inl rfl) (ls_old 1 rfl rfl (.inl rfl) (ls_old 2 rfl rfl (.inl rfl) (ls_old 3 rfl rfl (.inl rfl) (ls_old 4 rfl rfl (.inl rfl) (ls_old 5 rfl rfl (.inr rfl) ls_nil))))))) (fun ls hl => ?_)
        refine r_aload_n C.1 C.2.1 dL_law_804 rfl (lv_at hl 3 rfl) ?_
        refine r_aload_n C.1 C.2.1 dL_law_805 rfl (lv_at hl 1 rfl) ?_
        refine lv_iload C.1 C.2.1 dL_law_806 (lv_at hl 6 rfl) ?_
        refine lv_iconst C.1 C.2.1 (v := 1) dL_law_808 rfl ?_
        refine lv_iadd C.1 C.2.1 dL_law_809 ?_
        refine r_iald C hS dL_law_810 hw (fun x107 hw => ?_)
        refine c_V C hS hmc hl.1 (ci := 4) rfl hw.1 (kX5_weather C.2.2.2.2.2.2.1) hw.2 (lw_V q3291 q3292 q3293 q83 q3294) ⟨rfl, hdX5_weather⟩ ⟨Nat.le_of_ble_eq_true rfl, Nat.le_of_ble_eq_true rfl⟩ (rest := []) rfl rfl (Nat.le_of_ble_eq_true rfl) dL_law_811 (fun ci q z H locs hx hS ht => (show False from hx).elim) (fun v z108 H locs hv hS => ?_)
        obtain ⟨x109, rfl, hw⟩ := hv
        refine r_istore C.1 C.2.1 dL_law_814 hl (Nat.le_of_ble_eq_true rfl) (ls_new (ls_old 0 rfl rfl (.inr rfl) (ls_old 1 rfl rfl (.inl rfl) (ls_old 2 rfl rfl (.inl rfl) (ls_old 3 rfl rfl (.inl rfl) (ls_old 4 rfl rfl (.inl rfl) (ls_old 5 rfl rfl (.inl rfl) (ls_old 6 rfl rfl (.inl rfl) ls_nil)))))))) (fun ls hl => ?_)
        refine r_aload_n C.1 C.2.1 dL_law_816 rfl (lv_at hl 4 rfl) ?_
        refine c_V C hS hmc hl.1 (ci := 4) rfl hw.1 (kX5_thrown C.2.2.2.2.2.2.1) hw.2 (lw_V q3161 q3162 q3163 q83 q3164) ⟨rfl, hdX5_thrown⟩ ⟨Nat.le_of_ble_eq_true rfl, Nat.le_of_ble_eq_true rfl⟩ (rest := []) rfl rfl (Nat.le_of_ble_eq_true rfl) dL_law_817 (fun ci q z H locs hx hS ht => (show False from hx).elim) (fun v z110 H locs hv hS => ?_)
        obtain ⟨x111, rfl, hw⟩ := hv
        refine lv_iload C.1 C.2.1 dL_law_820 (lv_at hl 1 rfl) ?_
        refine lv_icmp_eq C.1 C.2.1 dL_law_822 rfl (fun h => ?_) (fun h => ?_)
        · have hw := hw.1 h
          refine lv_iload C.1 C.2.1 dL_law_827 (lv_at hl 1 rfl) ?_
          refine lv_if_ne C.1 C.2.1 dL_law_829 rfl (fun h => ?_) (fun h => ?_)
          · have hw := hw.1 h
            exact kL_lawb844 C hr hin hT hmc hL hK28 hw H locs ls hS (lv_sub hl [2, 3, 4, 5, 6, 7] rfl)
          · have hw := hw.2 h
            refine r_aload_n C.1 C.2.1 dL_law_832 rfl (lv_at hl 5 rfl) ?_
            refine lv_iconst C.1 C.2.1 (v := 0) dL_law_833 rfl ?_
            refine r_lald C hS dL_law_834 hw (fun x112 hw => ?_)
            refine lv_iload C.1 C.2.1 dL_law_835 (lv_at hl 0 rfl) ?_
            refine lv_i2l C.1 C.2.1 dL_law_837 rfl ?_
            refine r_lcmp C dL_law_838 ?_
            refine lv_if_eq C.1 C.2.1 dL_law_839 rfl (fun h => ?_) (fun h => ?_)
            · have hw := hw.1 h
              exact kL_lawb844 C hr hin hT hmc hL hK28 hw H locs ls hS (lv_sub hl [2, 3, 4, 5, 6, 7] rfl)
            · have hw := hw.2 h
              refine lv_iconst C.1 C.2.1 (v := 0) dL_law_842 rfl ?_
              exact r_lawret C hS hmc hr hL dL_law_843 hw
        · have hw := hw.2 h
          refine lv_iconst C.1 C.2.1 (v := 0) dL_law_825 rfl ?_
          exact r_lawret C hS hmc hr hL dL_law_826 hw
      | 8, ht, hx =>
        cases ht
        have hw := hw.2.2.2.2.2.2.2.2.1 (sw_eq 8 hx rfl)
        refine r_aload_n C.1 C.2.1 dL_law_847 rfl (lv_at hl 1 rfl) ?_
        refine c_V C hS hmc hl.1 (ci := 0) rfl hw.1 (kX1_day C.2.2.2.2.2.2.1) hw.2 (lw_V q411 q412 q413 q67 q414) ⟨rfl, hdX1_day⟩ ⟨Nat.le_of_ble_eq_true rfl, Nat.le_of_ble_eq_true rfl⟩ (rest := []) rfl rfl (Nat.le_of_ble_eq_true rfl) dL_law_848 (fun ci q z H locs hx hS ht => (show False from hx).elim) (fun v z113 H locs hv hS => ?_)
        obtain ⟨x114, rfl, hw⟩ := hv
        refine r_aload_n C.1 C.2.1 dL_law_851 rfl (lv_at hl 2 rfl) ?_
        refine c_V C hS hmc hl.1 (ci := 4) rfl hw.1 (kX5_day C.2.2.2.2.2.2.1) hw.2 (lw_V q3299 q3300 q3301 q83 q3302) ⟨rfl, hdX5_day⟩ ⟨Nat.le_of_ble_eq_true rfl, Nat.le_of_ble_eq_true rfl⟩ (rest := [.int x114]) rfl rfl (Nat.le_of_ble_eq_true rfl) dL_law_852 (fun ci q z H locs hx hS ht => (show False from hx).elim) (fun v z115 H locs hv hS => ?_)
        obtain ⟨x116, rfl, hw⟩ := hv
        refine lv_icmp_eq C.1 C.2.1 dL_law_855 rfl (fun h => ?_) (fun h => ?_)
        · have hw := hw.1 h
          exact kL_lawb2581 C hr hin hT hmc hL hK28 hw H locs ls hS (lv_sub hl [0, 1, 2, 3, 4, 5] rfl)
        · have hw := hw.2 h
          refine lv_iconst C.1 C.2.1 (v := 0) dL_law_858 rfl ?_
          exact r_lawret C hS hmc hr hL dL_law_859 hw
      | 9, ht, hx =>
        cases ht
        have hw := hw.2.2.2.2.2.2.2.2.2.1 (sw_eq 9 hx rfl)
        refine r_aload_n C.1 C.2.1 dL_law_860 rfl (lv_at hl 1 rfl) ?_
        refine r_aload_n C.1 C.2.1 dL_law_861 rfl (lv_at hl 0 rfl) ?_
        refine lv_iload C.1 C.2.1 dL_law_862 (lv_at hl 5 rfl) ?_
        refine lv_iconst C.1 C.2.1 (v := 1) dL_law_864 rfl ?_
        refine lv_iadd C.1 C.2.1 dL_law_865 ?_
        refine r_iald C hS dL_law_866 hw (fun x117 hw => ?_)
        refine r_aload_n C.1 C.2.1 dL_law_867 rfl (lv_at hl 0 rfl) ?_
        refine lv_iload C.1 C.2.1 dL_law_868 (lv_at hl 5 rfl) ?_
        refine lv_iconst C.1 C.2.1 (v := 2) dL_law_870 rfl ?_
        refine lv_iadd C.1 C.2.1 dL_law_871 ?_
        refine r_iald C hS dL_law_872 hw (fun x118 hw => ?_)
        refine r_aload_n C.1 C.2.1 dL_law_873 rfl (lv_at hl 0 rfl) ?_
        refine lv_iload C.1 C.2.1 dL_law_874 (lv_at hl 5 rfl) ?_
        refine lv_iconst C.1 C.2.1 (v := 3) dL_law_876 rfl ?_
        refine lv_iadd C.1 C.2.1 dL_law_877 ?_
        refine r_iald C hS dL_law_878 hw (fun x119 hw => ?_)
        refine r_aload_n C.1 C.2.1 dL_law_879 rfl (lv_at hl 3 rfl) ?_
        refine c_SX C hS hmc hl.1 (kX0_excuseOf C.2.2.2.2.2.2.1) hw (lw_SW q2480 q2481 q66 q2482) hdX0_excuseOf ⟨Nat.le_of_ble_eq_true rfl, Nat.le_of_ble_eq_true rfl⟩ (rest := []) rfl rfl (Nat.le_of_ble_eq_true rfl) dL_law_880 (fun ci q z H locs hx hS ht => (show False from hx).elim) (fun v z120 H locs hv hS => ?_)
        obtain ⟨x121, rfl, hw⟩ := hv
        refine r_istore C.1 C.2.1 dL_law_883 hl (Nat.le_of_ble_eq_true rfl) (ls_new (ls_old 0 rfl rfl (.inl rfl) (ls_old 1 rfl rfl (.inl rfl) (ls_old 2 rfl rfl (.inl rfl) (ls_old 3 rfl rfl (.inl rfl) (ls_old 4 rfl rfl (.inl rfl) (ls_old 5 rfl rfl (.inr rfl) ls_nil))))))) (fun ls hl => ?_)
        refine r_aload_n C.1 C.2.1 dL_law_885 rfl (lv_at hl 3 rfl) ?_
        refine r_aload_n C.1 C.2.1 dL_law_886 rfl (lv_at hl 1 rfl) ?_
        refine lv_iload C.1 C.2.1 dL_law_887 (lv_at hl 6 rfl) ?_
        refine lv_iconst C.1 C.2.1 (v := 1) dL_law_889 rfl ?_
        refine lv_iadd C.1 C.2.1 dL_law_890 ?_
        refine r_iald C hS dL_law_891 hw (fun x122 hw => ?_)
        refine r_aload_n C.1 C.2.1 dL_law_892 rfl (lv_at hl 1 rfl) ?_
        refine lv_iload C.1 C.2.1 dL_law_893 (lv_at hl 6 rfl) ?_
        refine lv_iconst C.1 C.2.1 (v := 2) dL_law_895 rfl ?_
        refine lv_iadd C.1 C.2.1 dL_law_896 ?_
        refine r_iald C hS dL_law_897 hw (fun x123 hw => ?_)
        refine r_aload_n C.1 C.2.1 dL_law_898 rfl (lv_at hl 1 rfl) ?_
        refine lv_iload C.1 C.2.1 dL_law_899 (lv_at hl 6 rfl) ?_
        refine lv_iconst C.1 C.2.1 (v := 3) dL_law_901 rfl ?_
        refine lv_iadd C.1 C.2.1 dL_law_902 ?_
        refine r_iald C hS dL_law_903 hw (fun x124 hw => ?_)
        refine c_V C hS hmc hl.1 (ci := 4) rfl hw.1 (kX5_excuseOf C.2.2.2.2.2.2.1) hw.2 (lw_V q3311 q3312 q3313 q83 q3314) ⟨rfl, hdX5_excuseOf⟩ ⟨Nat.le_of_ble_eq_true rfl, Nat.le_of_ble_eq_true rfl⟩ (rest := []) rfl rfl (Nat.le_of_ble_eq_true rfl) dL_law_904 (fun ci q z H locs hx hS ht => (show False from hx).elim) (fun v z125 H locs hv hS => ?_)
        obtain ⟨x126, rfl, hw⟩ := hv
        refine r_istore C.1 C.2.1 dL_law_907 hl (Nat.le_of_ble_eq_true rfl) (ls_new (ls_old 0 rfl rfl (.inr rfl) (ls_old 1 rfl rfl (.inl rfl) (ls_old 2 rfl rfl (.inl rfl) (ls_old 3 rfl rfl (.inl rfl) (ls_old 4 rfl rfl (.inl rfl) (ls_old 5 rfl rfl (.inl rfl) (ls_old 6 rfl rfl (.inl rfl) ls_nil)))))))) (fun ls hl => ?_)
        refine r_aload_n C.1 C.2.1 dL_law_909 rfl (lv_at hl 4 rfl) ?_
        refine c_V C hS hmc hl.1 (ci := 4) rfl hw.1 (kX5_thrown C.2.2.2.2.2.2.1) hw.2 (lw_V q3161 q3162 q3163 q83 q3164) ⟨rfl, hdX5_thrown⟩ ⟨Nat.le_of_ble_eq_true rfl, Nat.le_of_ble_eq_true rfl⟩ (rest := []) rfl rfl (Nat.le_of_ble_eq_true rfl) dL_law_910 (fun ci q z H locs hx hS ht => (show False from hx).elim) (fun v z127 H locs hv hS => ?_)
        obtain ⟨x128, rfl, hw⟩ := hv
        refine lv_iload C.1 C.2.1 dL_law_913 (lv_at hl 1 rfl) ?_
        refine lv_icmp_eq C.1 C.2.1 dL_law_915 rfl (fun h => ?_) (fun h => ?_)
        · have hw := hw.1 h
          refine lv_iload C.1 C.2.1 dL_law_920 (lv_at hl 1 rfl) ?_
          refine lv_if_ne C.1 C.2.1 dL_law_922 rfl (fun h => ?_) (fun h => ?_)
          · have hw := hw.1 h
            exact kL_lawb937 C hr hin hT hmc hL hK28 hw H locs ls hS (lv_sub hl [2, 3, 4, 5, 6, 7] rfl)
          · have hw := hw.2 h
            refine r_aload_n C.1 C.2.1 dL_law_925 rfl (lv_at hl 5 rfl) ?_
            refine lv_iconst C.1 C.2.1 (v := 0) dL_law_926 rfl ?_
            refine r_lald C hS dL_law_927 hw (fun x129 hw => ?_)
            refine lv_iload C.1 C.2.1 dL_law_928 (lv_at hl 0 rfl) ?_
            refine lv_i2l C.1 C.2.1 dL_law_930 rfl ?_
            refine r_lcmp C dL_law_931 ?_
            refine lv_if_eq C.1 C.2.1 dL_law_932 rfl (fun h => ?_) (fun h => ?_)
            · have hw := hw.1 h
              exact kL_lawb937 C hr hin hT hmc hL hK28 hw H locs ls hS (lv_sub hl [2, 3, 4, 5, 6, 7] rfl)
            · have hw := hw.2 h
              refine lv_iconst C.1 C.2.1 (v := 0) dL_law_935 rfl ?_
              exact r_lawret C hS hmc hr hL dL_law_936 hw
        · have hw := hw.2 h
          refine lv_iconst C.1 C.2.1 (v := 0) dL_law_918 rfl ?_
          exact r_lawret C hS hmc hr hL dL_law_919 hw
      | 10, ht, hx =>
        cases ht
        have hw := hw.2.2.2.2.2.2.2.2.2.2.1 (sw_eq 10 hx rfl)
        refine r_aload_n C.1 C.2.1 dL_law_940 rfl (lv_at hl 1 rfl) ?_
        refine r_aload_n C.1 C.2.1 dL_law_941 rfl (lv_at hl 0 rfl) ?_
        refine lv_iload C.1 C.2.1 dL_law_942 (lv_at hl 5 rfl) ?_
        refine lv_iconst C.1 C.2.1 (v := 1) dL_law_944 rfl ?_
        refine lv_iadd C.1 C.2.1 dL_law_945 ?_
        refine r_iald C hS dL_law_946 hw (fun x130 hw => ?_)
        refine r_aload_n C.1 C.2.1 dL_law_947 rfl (lv_at hl 0 rfl) ?_
        refine lv_iload C.1 C.2.1 dL_law_948 (lv_at hl 5 rfl) ?_
        refine lv_iconst C.1 C.2.1 (v := 2) dL_law_950 rfl ?_
        refine lv_iadd C.1 C.2.1 dL_law_951 ?_
        refine r_iald C hS dL_law_952 hw (fun x131 hw => ?_)
        refine lv_if_eq C.1 C.2.1 dL_law_953 rfl (fun h => ?_) (fun h => ?_)
        · have hw := hw.1 h
          refine lv_iconst C.1 C.2.1 (v := 0) dL_law_960 rfl ?_
          exact kL_lawb961 C hr hin hT hmc hL hK28 hw H locs ls hS (lv_sub hl [0, 1, 2, 3, 4, 5] rfl)
        · have hw := hw.2 h
          refine lv_iconst C.1 C.2.1 (v := 1) dL_law_956 rfl ?_
          refine lv_goto C.1 C.2.1 dL_law_957 rfl ?_
          exact kL_lawb961 C hr hin hT hmc hL hK28 hw H locs ls hS (lv_sub hl [0, 1, 2, 3, 4, 5] rfl)
      | 11, ht, hx =>
        cases ht
        have hw := hw.2.2.2.2.2.2.2.2.2.2.2.1 (sw_eq 11 hx rfl)
        refine r_aload_n C.1 C.2.1 dL_law_1024 rfl (lv_at hl 1 rfl) ?_
        refine r_aload_n C.1 C.2.1 dL_law_1025 rfl (lv_at hl 0 rfl) ?_
        refine lv_iload C.1 C.2.1 dL_law_1026 (lv_at hl 5 rfl) ?_
        refine lv_iconst C.1 C.2.1 (v := 1) dL_law_1028 rfl ?_
        refine lv_iadd C.1 C.2.1 dL_law_1029 ?_
        refine r_iald C hS dL_law_1030 hw (fun x132 hw => ?_)
        refine r_aload_n C.1 C.2.1 dL_law_1031 rfl (lv_at hl 0 rfl) ?_
        refine lv_iload C.1 C.2.1 dL_law_1032 (lv_at hl 5 rfl) ?_
        refine lv_iconst C.1 C.2.1 (v := 2) dL_law_1034 rfl ?_
        refine lv_iadd C.1 C.2.1 dL_law_1035 ?_
        refine r_iald C hS dL_law_1036 hw (fun x133 hw => ?_)
        refine r_aload_n C.1 C.2.1 dL_law_1037 rfl (lv_at hl 3 rfl) ?_
        refine c_SX C hS hmc hl.1 (kX0_pupilOf C.2.2.2.2.2.2.1) hw (lw_SW q2532 q2533 q66 q2534) hdX0_pupilOf ⟨Nat.le_of_ble_eq_true rfl, Nat.le_of_ble_eq_true rfl⟩ (rest := []) rfl rfl (Nat.le_of_ble_eq_true rfl) dL_law_1038 (fun ci q z H locs hx hS ht => (show False from hx).elim) (fun v z134 H locs hv hS => ?_)
        obtain ⟨x135, rfl, hw⟩ := hv
        refine r_istore C.1 C.2.1 dL_law_1041 hl (Nat.le_of_ble_eq_true rfl) (ls_new (ls_old 0 rfl rfl (.inl rfl) (ls_old 1 rfl rfl (.inl rfl) (ls_old 2 rfl rfl (.inl rfl) (ls_old 3 rfl rfl (.inl rfl) (ls_old 4 rfl rfl (.inl rfl) (ls_old 5 rfl rfl (.inr rfl) ls_nil))))))) (fun ls hl => ?_)
        refine r_aload_n C.1 C.2.1 dL_law_1043 rfl (lv_at hl 3 rfl) ?_
        refine r_aload_n C.1 C.2.1 dL_law_1044 rfl (lv_at hl 1 rfl) ?_
        refine lv_iload C.1 C.2.1 dL_law_1045 (lv_at hl 6 rfl) ?_
        refine lv_iconst C.1 C.2.1 (v := 1) dL_law_1047 rfl ?_
        refine lv_iadd C.1 C.2.1 dL_law_1048 ?_
        refine r_iald C hS dL_law_1049 hw (fun x136 hw => ?_)
        refine r_aload_n C.1 C.2.1 dL_law_1050 rfl (lv_at hl 1 rfl) ?_
        refine lv_iload C.1 C.2.1 dL_law_1051 (lv_at hl 6 rfl) ?_
        refine lv_iconst C.1 C.2.1 (v := 2) dL_law_1053 rfl ?_
        refine lv_iadd C.1 C.2.1 dL_law_1054 ?_
        refine r_iald C hS dL_law_1055 hw (fun x137 hw => ?_)
        refine c_V C hS hmc hl.1 (ci := 4) rfl hw.1 (kX5_pupilOf C.2.2.2.2.2.2.1) hw.2 (lw_V q3319 q3320 q3321 q83 q3322) ⟨rfl, hdX5_pupilOf⟩ ⟨Nat.le_of_ble_eq_true rfl, Nat.le_of_ble_eq_true rfl⟩ (rest := []) rfl rfl (Nat.le_of_ble_eq_true rfl) dL_law_1056 (fun ci q z H locs hx hS ht => (show False from hx).elim) (fun v z138 H locs hv hS => ?_)
        obtain ⟨x139, rfl, hw⟩ := hv
        refine r_istore C.1 C.2.1 dL_law_1059 hl (Nat.le_of_ble_eq_true rfl) (ls_new (ls_old 0 rfl rfl (.inr rfl) (ls_old 1 rfl rfl (.inl rfl) (ls_old 2 rfl rfl (.inl rfl) (ls_old 3 rfl rfl (.inl rfl) (ls_old 4 rfl rfl (.inl rfl) (ls_old 5 rfl rfl (.inl rfl) (ls_old 6 rfl rfl (.inl rfl) ls_nil)))))))) (fun ls hl => ?_)
        refine r_aload_n C.1 C.2.1 dL_law_1061 rfl (lv_at hl 4 rfl) ?_
        refine c_V C hS hmc hl.1 (ci := 4) rfl hw.1 (kX5_thrown C.2.2.2.2.2.2.1) hw.2 (lw_V q3161 q3162 q3163 q83 q3164) ⟨rfl, hdX5_thrown⟩ ⟨Nat.le_of_ble_eq_true rfl, Nat.le_of_ble_eq_true rfl⟩ (rest := []) rfl rfl (Nat.le_of_ble_eq_true rfl) dL_law_1062 (fun ci q z H locs hx hS ht => (show False from hx).elim) (fun v z140 H locs hv hS => ?_)
        obtain ⟨x141, rfl, hw⟩ := hv
        refine lv_iload C.1 C.2.1 dL_law_1065 (lv_at hl 1 rfl) ?_
        refine lv_icmp_eq C.1 C.2.1 dL_law_1067 rfl (fun h => ?_) (fun h => ?_)
        · have hw := hw.1 h
          refine lv_iload C.1 C.2.1 dL_law_1072 (lv_at hl 1 rfl) ?_
          refine lv_if_ne C.1 C.2.1 dL_law_1074 rfl (fun h => ?_) (fun h => ?_)
          · have hw := hw.1 h
            exact kL_lawb1089 C hr hin hT hmc hL hK28 hw H locs ls hS (lv_sub hl [2, 3, 4, 5, 6, 7] rfl)
          · have hw := hw.2 h
            refine r_aload_n C.1 C.2.1 dL_law_1077 rfl (lv_at hl 5 rfl) ?_
            refine lv_iconst C.1 C.2.1 (v := 0) dL_law_1078 rfl ?_
            refine r_lald C hS dL_law_1079 hw (fun x142 hw => ?_)
            refine lv_iload C.1 C.2.1 dL_law_1080 (lv_at hl 0 rfl) ?_
            refine lv_i2l C.1 C.2.1 dL_law_1082 rfl ?_
            refine r_lcmp C dL_law_1083 ?_
            refine lv_if_eq C.1 C.2.1 dL_law_1084 rfl (fun h => ?_) (fun h => ?_)
            · have hw := hw.1 h
              exact kL_lawb1089 C hr hin hT hmc hL hK28 hw H locs ls hS (lv_sub hl [2, 3, 4, 5, 6, 7] rfl)
            · have hw := hw.2 h
              refine lv_iconst C.1 C.2.1 (v := 0) dL_law_1087 rfl ?_
              exact r_lawret C hS hmc hr hL dL_law_1088 hw
        · have hw := hw.2 h
          refine lv_iconst C.1 C.2.1 (v := 0) dL_law_1070 rfl ?_
          exact r_lawret C hS hmc hr hL dL_law_1071 hw
      | 12, ht, hx =>
        cases ht
        have hw := hw.2.2.2.2.2.2.2.2.2.2.2.2.1 (sw_eq 12 hx rfl)
        refine r_aload_n C.1 C.2.1 dL_law_1092 rfl (lv_at hl 1 rfl) ?_
        refine r_aload_n C.1 C.2.1 dL_law_1093 rfl (lv_at hl 0 rfl) ?_
        refine lv_iload C.1 C.2.1 dL_law_1094 (lv_at hl 5 rfl) ?_
        refine lv_iconst C.1 C.2.1 (v := 1) dL_law_1096 rfl ?_
        refine lv_iadd C.1 C.2.1 dL_law_1097 ?_
        refine r_iald C hS dL_law_1098 hw (fun x143 hw => ?_)
        refine r_aload_n C.1 C.2.1 dL_law_1099 rfl (lv_at hl 0 rfl) ?_
        refine lv_iload C.1 C.2.1 dL_law_1100 (lv_at hl 5 rfl) ?_
        refine lv_iconst C.1 C.2.1 (v := 2) dL_law_1102 rfl ?_
        refine lv_iadd C.1 C.2.1 dL_law_1103 ?_
        refine r_iald C hS dL_law_1104 hw (fun x144 hw => ?_)
        refine r_aload_n C.1 C.2.1 dL_law_1105 rfl (lv_at hl 3 rfl) ?_
        refine c_SX C hS hmc hl.1 (kX0_schoolOf C.2.2.2.2.2.2.1) hw (lw_SW q2544 q2545 q66 q2546) hdX0_schoolOf ⟨Nat.le_of_ble_eq_true rfl, Nat.le_of_ble_eq_true rfl⟩ (rest := []) rfl rfl (Nat.le_of_ble_eq_true rfl) dL_law_1106 (fun ci q z H locs hx hS ht => (show False from hx).elim) (fun v z145 H locs hv hS => ?_)
        obtain ⟨x146, rfl, hw⟩ := hv
        refine r_istore C.1 C.2.1 dL_law_1109 hl (Nat.le_of_ble_eq_true rfl) (ls_new (ls_old 0 rfl rfl (.inl rfl) (ls_old 1 rfl rfl (.inl rfl) (ls_old 2 rfl rfl (.inl rfl) (ls_old 3 rfl rfl (.inl rfl) (ls_old 4 rfl rfl (.inl rfl) (ls_old 5 rfl rfl (.inr rfl) ls_nil))))))) (fun ls hl => ?_)
        refine r_aload_n C.1 C.2.1 dL_law_1111 rfl (lv_at hl 3 rfl) ?_
        refine r_aload_n C.1 C.2.1 dL_law_1112 rfl (lv_at hl 1 rfl) ?_
        refine lv_iload C.1 C.2.1 dL_law_1113 (lv_at hl 6 rfl) ?_
        refine lv_iconst C.1 C.2.1 (v := 1) dL_law_1115 rfl ?_
        refine lv_iadd C.1 C.2.1 dL_law_1116 ?_
        refine r_iald C hS dL_law_1117 hw (fun x147 hw => ?_)
        refine r_aload_n C.1 C.2.1 dL_law_1118 rfl (lv_at hl 1 rfl) ?_
        refine lv_iload C.1 C.2.1 dL_law_1119 (lv_at hl 6 rfl) ?_
        refine lv_iconst C.1 C.2.1 (v := 2) dL_law_1121 rfl ?_
        refine lv_iadd C.1 C.2.1 dL_law_1122 ?_
        refine r_iald C hS dL_law_1123 hw (fun x148 hw => ?_)
        refine c_V C hS hmc hl.1 (ci := 4) rfl hw.1 (kX5_schoolOf C.2.2.2.2.2.2.1) hw.2 (lw_V q3331 q3332 q3333 q83 q3334) ⟨rfl, hdX5_schoolOf⟩ ⟨Nat.le_of_ble_eq_true rfl, Nat.le_of_ble_eq_true rfl⟩ (rest := []) rfl rfl (Nat.le_of_ble_eq_true rfl) dL_law_1124 (fun ci q z H locs hx hS ht => (show False from hx).elim) (fun v z149 H locs hv hS => ?_)
        obtain ⟨x150, rfl, hw⟩ := hv
        refine r_istore C.1 C.2.1 dL_law_1127 hl (Nat.le_of_ble_eq_true rfl) (ls_new (ls_old 0 rfl rfl (.inr rfl) (ls_old 1 rfl rfl (.inl rfl) (ls_old 2 rfl rfl (.inl rfl) (ls_old 3 rfl rfl (.inl rfl) (ls_old 4 rfl rfl (.inl rfl) (ls_old 5 rfl rfl (.inl rfl) (ls_old 6 rfl rfl (.inl rfl) ls_nil)))))))) (fun ls hl => ?_)
        refine r_aload_n C.1 C.2.1 dL_law_1129 rfl (lv_at hl 4 rfl) ?_
        refine c_V C hS hmc hl.1 (ci := 4) rfl hw.1 (kX5_thrown C.2.2.2.2.2.2.1) hw.2 (lw_V q3161 q3162 q3163 q83 q3164) ⟨rfl, hdX5_thrown⟩ ⟨Nat.le_of_ble_eq_true rfl, Nat.le_of_ble_eq_true rfl⟩ (rest := []) rfl rfl (Nat.le_of_ble_eq_true rfl) dL_law_1130 (fun ci q z H locs hx hS ht => (show False from hx).elim) (fun v z151 H locs hv hS => ?_)
        obtain ⟨x152, rfl, hw⟩ := hv
        refine lv_iload C.1 C.2.1 dL_law_1133 (lv_at hl 1 rfl) ?_
        refine lv_icmp_eq C.1 C.2.1 dL_law_1135 rfl (fun h => ?_) (fun h => ?_)
        · have hw := hw.1 h
          refine lv_iload C.1 C.2.1 dL_law_1140 (lv_at hl 1 rfl) ?_
          refine lv_if_ne C.1 C.2.1 dL_law_1142 rfl (fun h => ?_) (fun h => ?_)
          · have hw := hw.1 h
            exact kL_lawb1157 C hr hin hT hmc hL hK28 hw H locs ls hS (lv_sub hl [2, 3, 4, 5, 6, 7] rfl)
          · have hw := hw.2 h
            refine r_aload_n C.1 C.2.1 dL_law_1145 rfl (lv_at hl 5 rfl) ?_
            refine lv_iconst C.1 C.2.1 (v := 0) dL_law_1146 rfl ?_
            refine r_lald C hS dL_law_1147 hw (fun x153 hw => ?_)
            refine lv_iload C.1 C.2.1 dL_law_1148 (lv_at hl 0 rfl) ?_
            refine lv_i2l C.1 C.2.1 dL_law_1150 rfl ?_
            refine r_lcmp C dL_law_1151 ?_
            refine lv_if_eq C.1 C.2.1 dL_law_1152 rfl (fun h => ?_) (fun h => ?_)
            · have hw := hw.1 h
              exact kL_lawb1157 C hr hin hT hmc hL hK28 hw H locs ls hS (lv_sub hl [2, 3, 4, 5, 6, 7] rfl)
            · have hw := hw.2 h
              refine lv_iconst C.1 C.2.1 (v := 0) dL_law_1155 rfl ?_
              exact r_lawret C hS hmc hr hL dL_law_1156 hw
        · have hw := hw.2 h
          refine lv_iconst C.1 C.2.1 (v := 0) dL_law_1138 rfl ?_
          exact r_lawret C hS hmc hr hL dL_law_1139 hw
      | 13, ht, hx =>
        cases ht
        have hw := hw.2.2.2.2.2.2.2.2.2.2.2.2.2.1 (sw_eq 13 hx rfl)
        refine r_aload_n C.1 C.2.1 dL_law_1160 rfl (lv_at hl 1 rfl) ?_
        refine r_aload_n C.1 C.2.1 dL_law_1161 rfl (lv_at hl 0 rfl) ?_
        refine lv_iload C.1 C.2.1 dL_law_1162 (lv_at hl 5 rfl) ?_
        refine lv_iconst C.1 C.2.1 (v := 1) dL_law_1164 rfl ?_
        refine lv_iadd C.1 C.2.1 dL_law_1165 ?_
        refine r_iald C hS dL_law_1166 hw (fun x154 hw => ?_)
        refine r_aload_n C.1 C.2.1 dL_law_1167 rfl (lv_at hl 3 rfl) ?_
        refine c_SX C hS hmc hl.1 (kX0_dog C.2.2.2.2.2.2.1) hw (lw_SW q2560 q2561 q66 q2562) hdX0_dog ⟨Nat.le_of_ble_eq_true rfl, Nat.le_of_ble_eq_true rfl⟩ (rest := []) rfl rfl (Nat.le_of_ble_eq_true rfl) dL_law_1168 (fun ci q z H locs hx hS ht => (show False from hx).elim) (fun v z155 H locs hv hS => ?_)
        obtain ⟨x156, rfl, hw⟩ := hv
        refine r_istore C.1 C.2.1 dL_law_1171 hl (Nat.le_of_ble_eq_true rfl) (ls_new (ls_old 0 rfl rfl (.inl rfl) (ls_old 1 rfl rfl (.inl rfl) (ls_old 2 rfl rfl (.inl rfl) (ls_old 3 rfl rfl (.inl rfl) (ls_old 4 rfl rfl (.inl rfl) (ls_old 5 rfl rfl (.inr rfl) ls_nil))))))) (fun ls hl => ?_)
        refine r_aload_n C.1 C.2.1 dL_law_1173 rfl (lv_at hl 3 rfl) ?_
        refine r_aload_n C.1 C.2.1 dL_law_1174 rfl (lv_at hl 1 rfl) ?_
        refine lv_iload C.1 C.2.1 dL_law_1175 (lv_at hl 6 rfl) ?_
        refine lv_iconst C.1 C.2.1 (v := 1) dL_law_1177 rfl ?_
        refine lv_iadd C.1 C.2.1 dL_law_1178 ?_
        refine r_iald C hS dL_law_1179 hw (fun x157 hw => ?_)
        refine c_V C hS hmc hl.1 (ci := 4) rfl hw.1 (kX5_dog C.2.2.2.2.2.2.1) hw.2 (lw_V q3339 q3340 q3341 q83 q3342) ⟨rfl, hdX5_dog⟩ ⟨Nat.le_of_ble_eq_true rfl, Nat.le_of_ble_eq_true rfl⟩ (rest := []) rfl rfl (Nat.le_of_ble_eq_true rfl) dL_law_1180 (fun ci q z H locs hx hS ht => (show False from hx).elim) (fun v z158 H locs hv hS => ?_)
        obtain ⟨x159, rfl, hw⟩ := hv
        refine r_istore C.1 C.2.1 dL_law_1183 hl (Nat.le_of_ble_eq_true rfl) (ls_new (ls_old 0 rfl rfl (.inr rfl) (ls_old 1 rfl rfl (.inl rfl) (ls_old 2 rfl rfl (.inl rfl) (ls_old 3 rfl rfl (.inl rfl) (ls_old 4 rfl rfl (.inl rfl) (ls_old 5 rfl rfl (.inl rfl) (ls_old 6 rfl rfl (.inl rfl) ls_nil)))))))) (fun ls hl => ?_)
        refine r_aload_n C.1 C.2.1 dL_law_1185 rfl (lv_at hl 4 rfl) ?_
        refine c_V C hS hmc hl.1 (ci := 4) rfl hw.1 (kX5_thrown C.2.2.2.2.2.2.1) hw.2 (lw_V q3161 q3162 q3163 q83 q3164) ⟨rfl, hdX5_thrown⟩ ⟨Nat.le_of_ble_eq_true rfl, Nat.le_of_ble_eq_true rfl⟩ (rest := []) rfl rfl (Nat.le_of_ble_eq_true rfl) dL_law_1186 (fun ci q z H locs hx hS ht => (show False from hx).elim) (fun v z160 H locs hv hS => ?_)
        obtain ⟨x161, rfl, hw⟩ := hv
        refine lv_iload C.1 C.2.1 dL_law_1189 (lv_at hl 1 rfl) ?_
        refine lv_icmp_eq C.1 C.2.1 dL_law_1191 rfl (fun h => ?_) (fun h => ?_)
        · have hw := hw.1 h
          refine lv_iload C.1 C.2.1 dL_law_1196 (lv_at hl 1 rfl) ?_
          refine lv_if_ne C.1 C.2.1 dL_law_1198 rfl (fun h => ?_) (fun h => ?_)
          · have hw := hw.1 h
            exact kL_lawb1213 C hr hin hT hmc hL hK28 hw H locs ls hS (lv_sub hl [2, 3, 4, 5, 6, 7] rfl)
          · have hw := hw.2 h
            refine r_aload_n C.1 C.2.1 dL_law_1201 rfl (lv_at hl 5 rfl) ?_
            refine lv_iconst C.1 C.2.1 (v := 0) dL_law_1202 rfl ?_
            refine r_lald C hS dL_law_1203 hw (fun x162 hw => ?_)
            refine lv_iload C.1 C.2.1 dL_law_1204 (lv_at hl 0 rfl) ?_
            refine lv_i2l C.1 C.2.1 dL_law_1206 rfl ?_
            refine r_lcmp C dL_law_1207 ?_
            refine lv_if_eq C.1 C.2.1 dL_law_1208 rfl (fun h => ?_) (fun h => ?_)
            · have hw := hw.1 h
              exact kL_lawb1213 C hr hin hT hmc hL hK28 hw H locs ls hS (lv_sub hl [2, 3, 4, 5, 6, 7] rfl)
            · have hw := hw.2 h
              refine lv_iconst C.1 C.2.1 (v := 0) dL_law_1211 rfl ?_
              exact r_lawret C hS hmc hr hL dL_law_1212 hw
        · have hw := hw.2 h
          refine lv_iconst C.1 C.2.1 (v := 0) dL_law_1194 rfl ?_
          exact r_lawret C hS hmc hr hL dL_law_1195 hw
      | 14, ht, hx =>
        cases ht
        have hw := hw.2.2.2.2.2.2.2.2.2.2.2.2.2.2.1 (sw_eq 14 hx rfl)
        refine r_aload_n C.1 C.2.1 dL_law_1216 rfl (lv_at hl 1 rfl) ?_
        refine r_aload_n C.1 C.2.1 dL_law_1217 rfl (lv_at hl 0 rfl) ?_
        refine lv_iload C.1 C.2.1 dL_law_1218 (lv_at hl 5 rfl) ?_
        refine lv_iconst C.1 C.2.1 (v := 1) dL_law_1220 rfl ?_
        refine lv_iadd C.1 C.2.1 dL_law_1221 ?_
        refine r_iald C hS dL_law_1222 hw (fun x163 hw => ?_)
        refine r_aload_n C.1 C.2.1 dL_law_1223 rfl (lv_at hl 0 rfl) ?_
        refine lv_iload C.1 C.2.1 dL_law_1224 (lv_at hl 5 rfl) ?_
        refine lv_iconst C.1 C.2.1 (v := 2) dL_law_1226 rfl ?_
        refine lv_iadd C.1 C.2.1 dL_law_1227 ?_
        refine r_iald C hS dL_law_1228 hw (fun x164 hw => ?_)
        refine r_aload_n C.1 C.2.1 dL_law_1229 rfl (lv_at hl 0 rfl) ?_
        refine lv_iload C.1 C.2.1 dL_law_1230 (lv_at hl 5 rfl) ?_
        refine lv_iconst C.1 C.2.1 (v := 3) dL_law_1232 rfl ?_
        refine lv_iadd C.1 C.2.1 dL_law_1233 ?_
        refine r_iald C hS dL_law_1234 hw (fun x165 hw => ?_)
        refine r_aload_n C.1 C.2.1 dL_law_1235 rfl (lv_at hl 0 rfl) ?_
        refine lv_iload C.1 C.2.1 dL_law_1236 (lv_at hl 5 rfl) ?_
        refine lv_iconst C.1 C.2.1 (v := 4) dL_law_1238 rfl ?_
        refine lv_iadd C.1 C.2.1 dL_law_1239 ?_
        refine r_iald C hS dL_law_1240 hw (fun x166 hw => ?_)
        refine r_aload_n C.1 C.2.1 dL_law_1241 rfl (lv_at hl 3 rfl) ?_
        refine c_SX C hS hmc hl.1 (kX0_heard C.2.2.2.2.2.2.1) hw (lw_SW q2568 q2569 q66 q2570) hdX0_heard ⟨Nat.le_of_ble_eq_true rfl, Nat.le_of_ble_eq_true rfl⟩ (rest := []) rfl rfl (Nat.le_of_ble_eq_true rfl) dL_law_1242 (fun ci q z H locs hx hS ht => (show False from hx).elim) (fun v z167 H locs hv hS => ?_)
        obtain ⟨x168, rfl, hw⟩ := hv
        refine r_istore C.1 C.2.1 dL_law_1245 hl (Nat.le_of_ble_eq_true rfl) (ls_new (ls_old 0 rfl rfl (.inl rfl) (ls_old 1 rfl rfl (.inl rfl) (ls_old 2 rfl rfl (.inl rfl) (ls_old 3 rfl rfl (.inl rfl) (ls_old 4 rfl rfl (.inl rfl) (ls_old 5 rfl rfl (.inr rfl) ls_nil))))))) (fun ls hl => ?_)
        refine r_aload_n C.1 C.2.1 dL_law_1247 rfl (lv_at hl 3 rfl) ?_
        refine r_aload_n C.1 C.2.1 dL_law_1248 rfl (lv_at hl 1 rfl) ?_
        refine lv_iload C.1 C.2.1 dL_law_1249 (lv_at hl 6 rfl) ?_
        refine lv_iconst C.1 C.2.1 (v := 1) dL_law_1251 rfl ?_
        refine lv_iadd C.1 C.2.1 dL_law_1252 ?_
        refine r_iald C hS dL_law_1253 hw (fun x169 hw => ?_)
        refine r_aload_n C.1 C.2.1 dL_law_1254 rfl (lv_at hl 1 rfl) ?_
        refine lv_iload C.1 C.2.1 dL_law_1255 (lv_at hl 6 rfl) ?_
        refine lv_iconst C.1 C.2.1 (v := 2) dL_law_1257 rfl ?_
        refine lv_iadd C.1 C.2.1 dL_law_1258 ?_
        refine r_iald C hS dL_law_1259 hw (fun x170 hw => ?_)
        refine r_aload_n C.1 C.2.1 dL_law_1260 rfl (lv_at hl 1 rfl) ?_
        refine lv_iload C.1 C.2.1 dL_law_1261 (lv_at hl 6 rfl) ?_
        refine lv_iconst C.1 C.2.1 (v := 3) dL_law_1263 rfl ?_
        refine lv_iadd C.1 C.2.1 dL_law_1264 ?_
        refine r_iald C hS dL_law_1265 hw (fun x171 hw => ?_)
        refine r_aload_n C.1 C.2.1 dL_law_1266 rfl (lv_at hl 1 rfl) ?_
        refine lv_iload C.1 C.2.1 dL_law_1267 (lv_at hl 6 rfl) ?_
        refine lv_iconst C.1 C.2.1 (v := 4) dL_law_1269 rfl ?_
        refine lv_iadd C.1 C.2.1 dL_law_1270 ?_
        refine r_iald C hS dL_law_1271 hw (fun x172 hw => ?_)
        refine c_V C hS hmc hl.1 (ci := 4) rfl hw.1 (kX5_heard C.2.2.2.2.2.2.1) hw.2 (lw_V q3343 q3344 q3345 q83 q3346) ⟨rfl, hdX5_heard⟩ ⟨Nat.le_of_ble_eq_true rfl, Nat.le_of_ble_eq_true rfl⟩ (rest := []) rfl rfl (Nat.le_of_ble_eq_true rfl) dL_law_1272 (fun ci q z H locs hx hS ht => (show False from hx).elim) (fun v z173 H locs hv hS => ?_)
        obtain ⟨x174, rfl, hw⟩ := hv
        refine r_istore C.1 C.2.1 dL_law_1275 hl (Nat.le_of_ble_eq_true rfl) (ls_new (ls_old 0 rfl rfl (.inr rfl) (ls_old 1 rfl rfl (.inl rfl) (ls_old 2 rfl rfl (.inl rfl) (ls_old 3 rfl rfl (.inl rfl) (ls_old 4 rfl rfl (.inl rfl) (ls_old 5 rfl rfl (.inl rfl) (ls_old 6 rfl rfl (.inl rfl) ls_nil)))))))) (fun ls hl => ?_)
        refine r_aload_n C.1 C.2.1 dL_law_1277 rfl (lv_at hl 4 rfl) ?_
        refine c_V C hS hmc hl.1 (ci := 4) rfl hw.1 (kX5_thrown C.2.2.2.2.2.2.1) hw.2 (lw_V q3161 q3162 q3163 q83 q3164) ⟨rfl, hdX5_thrown⟩ ⟨Nat.le_of_ble_eq_true rfl, Nat.le_of_ble_eq_true rfl⟩ (rest := []) rfl rfl (Nat.le_of_ble_eq_true rfl) dL_law_1278 (fun ci q z H locs hx hS ht => (show False from hx).elim) (fun v z175 H locs hv hS => ?_)
        obtain ⟨x176, rfl, hw⟩ := hv
        refine lv_iload C.1 C.2.1 dL_law_1281 (lv_at hl 1 rfl) ?_
        refine lv_icmp_eq C.1 C.2.1 dL_law_1283 rfl (fun h => ?_) (fun h => ?_)
        · have hw := hw.1 h
          refine lv_iload C.1 C.2.1 dL_law_1288 (lv_at hl 1 rfl) ?_
          refine lv_if_ne C.1 C.2.1 dL_law_1290 rfl (fun h => ?_) (fun h => ?_)
          · have hw := hw.1 h
            exact kL_lawb1312 C hr hin hT hmc hL hK28 hw H locs ls hS (lv_sub hl [2, 3, 4, 5, 6, 7] rfl)
          · have hw := hw.2 h
            refine r_aload_n C.1 C.2.1 dL_law_1293 rfl (lv_at hl 5 rfl) ?_
            refine lv_iconst C.1 C.2.1 (v := 0) dL_law_1294 rfl ?_
            refine r_lald C hS dL_law_1295 hw (fun x177 hw => ?_)
            refine lv_iload C.1 C.2.1 dL_law_1296 (lv_at hl 0 rfl) ?_
            refine lv_if_eq C.1 C.2.1 dL_law_1298 rfl (fun h => ?_) (fun h => ?_)
            · have hw := hw.1 h
              refine lv_lconst C.1 C.2.1 (v := 0) dL_law_1305 rfl ?_
              exact kL_lawb1306 C hr hin hT hmc hL hK28 hw H locs ls hS (lv_sub hl [2, 3, 4, 5, 6, 7] rfl)
            · have hw := hw.2 h
              refine lv_lconst C.1 C.2.1 (v := 1) dL_law_1301 rfl ?_
              refine lv_goto C.1 C.2.1 dL_law_1302 rfl ?_
              exact kL_lawb1306 C hr hin hT hmc hL hK28 hw H locs ls hS (lv_sub hl [2, 3, 4, 5, 6, 7] rfl)
        · have hw := hw.2 h
          refine lv_iconst C.1 C.2.1 (v := 0) dL_law_1286 rfl ?_
          exact r_lawret C hS hmc hr hL dL_law_1287 hw
      | 15, ht, hx =>
        cases ht
        have hw := hw.2.2.2.2.2.2.2.2.2.2.2.2.2.2.2.1 (sw_eq 15 hx rfl)
        refine r_aload_n C.1 C.2.1 dL_law_1315 rfl (lv_at hl 1 rfl) ?_
        refine r_aload_n C.1 C.2.1 dL_law_1316 rfl (lv_at hl 0 rfl) ?_
        refine lv_iload C.1 C.2.1 dL_law_1317 (lv_at hl 5 rfl) ?_
        refine lv_iconst C.1 C.2.1 (v := 1) dL_law_1319 rfl ?_
        refine lv_iadd C.1 C.2.1 dL_law_1320 ?_
        refine r_iald C hS dL_law_1321 hw (fun x178 hw => ?_)
        refine r_aload_n C.1 C.2.1 dL_law_1322 rfl (lv_at hl 0 rfl) ?_
        refine lv_iload C.1 C.2.1 dL_law_1323 (lv_at hl 5 rfl) ?_
        refine lv_iconst C.1 C.2.1 (v := 2) dL_law_1325 rfl ?_
        refine lv_iadd C.1 C.2.1 dL_law_1326 ?_
        refine r_iald C hS dL_law_1327 hw (fun x179 hw => ?_)
        refine r_aload_n C.1 C.2.1 dL_law_1328 rfl (lv_at hl 0 rfl) ?_
        refine lv_iload C.1 C.2.1 dL_law_1329 (lv_at hl 5 rfl) ?_
        refine lv_iconst C.1 C.2.1 (v := 3) dL_law_1331 rfl ?_
        refine lv_iadd C.1 C.2.1 dL_law_1332 ?_
        refine r_iald C hS dL_law_1333 hw (fun x180 hw => ?_)
        refine r_aload_n C.1 C.2.1 dL_law_1334 rfl (lv_at hl 0 rfl) ?_
        refine lv_iload C.1 C.2.1 dL_law_1335 (lv_at hl 5 rfl) ?_
        refine lv_iconst C.1 C.2.1 (v := 4) dL_law_1337 rfl ?_
        refine lv_iadd C.1 C.2.1 dL_law_1338 ?_
        refine r_iald C hS dL_law_1339 hw (fun x181 hw => ?_)
        refine r_aload_n C.1 C.2.1 dL_law_1340 rfl (lv_at hl 3 rfl) ?_
        refine c_SX C hS hmc hl.1 (kX0_would C.2.2.2.2.2.2.1) hw (lw_SW q2578 q2579 q66 q2580) hdX0_would ⟨Nat.le_of_ble_eq_true rfl, Nat.le_of_ble_eq_true rfl⟩ (rest := []) rfl rfl (Nat.le_of_ble_eq_true rfl) dL_law_1341 (fun ci q z H locs hx hS ht => (show False from hx).elim) (fun v z182 H locs hv hS => ?_)
        obtain ⟨x183, rfl, hw⟩ := hv
        refine r_istore C.1 C.2.1 dL_law_1344 hl (Nat.le_of_ble_eq_true rfl) (ls_new (ls_old 0 rfl rfl (.inl rfl) (ls_old 1 rfl rfl (.inl rfl) (ls_old 2 rfl rfl (.inl rfl) (ls_old 3 rfl rfl (.inl rfl) (ls_old 4 rfl rfl (.inl rfl) (ls_old 5 rfl rfl (.inr rfl) ls_nil))))))) (fun ls hl => ?_)
        refine r_aload_n C.1 C.2.1 dL_law_1346 rfl (lv_at hl 3 rfl) ?_
        refine r_aload_n C.1 C.2.1 dL_law_1347 rfl (lv_at hl 1 rfl) ?_
        refine lv_iload C.1 C.2.1 dL_law_1348 (lv_at hl 6 rfl) ?_
        refine lv_iconst C.1 C.2.1 (v := 1) dL_law_1350 rfl ?_
        refine lv_iadd C.1 C.2.1 dL_law_1351 ?_
        refine r_iald C hS dL_law_1352 hw (fun x184 hw => ?_)
        refine r_aload_n C.1 C.2.1 dL_law_1353 rfl (lv_at hl 1 rfl) ?_
        refine lv_iload C.1 C.2.1 dL_law_1354 (lv_at hl 6 rfl) ?_
        refine lv_iconst C.1 C.2.1 (v := 2) dL_law_1356 rfl ?_
        refine lv_iadd C.1 C.2.1 dL_law_1357 ?_
        refine r_iald C hS dL_law_1358 hw (fun x185 hw => ?_)
        refine r_aload_n C.1 C.2.1 dL_law_1359 rfl (lv_at hl 1 rfl) ?_
        refine lv_iload C.1 C.2.1 dL_law_1360 (lv_at hl 6 rfl) ?_
        refine lv_iconst C.1 C.2.1 (v := 3) dL_law_1362 rfl ?_
        refine lv_iadd C.1 C.2.1 dL_law_1363 ?_
        refine r_iald C hS dL_law_1364 hw (fun x186 hw => ?_)
        refine r_aload_n C.1 C.2.1 dL_law_1365 rfl (lv_at hl 1 rfl) ?_
        refine lv_iload C.1 C.2.1 dL_law_1366 (lv_at hl 6 rfl) ?_
        refine lv_iconst C.1 C.2.1 (v := 4) dL_law_1368 rfl ?_
        refine lv_iadd C.1 C.2.1 dL_law_1369 ?_
        refine r_iald C hS dL_law_1370 hw (fun x187 hw => ?_)
        refine c_V C hS hmc hl.1 (ci := 4) rfl hw.1 (kX5_would C.2.2.2.2.2.2.1) hw.2 (lw_V q3347 q3348 q3349 q83 q3350) ⟨rfl, hdX5_would⟩ ⟨Nat.le_of_ble_eq_true rfl, Nat.le_of_ble_eq_true rfl⟩ (rest := []) rfl rfl (Nat.le_of_ble_eq_true rfl) dL_law_1371 (fun ci q z H locs hx hS ht => (show False from hx).elim) (fun v z188 H locs hv hS => ?_)
        obtain ⟨x189, rfl, hw⟩ := hv
        refine r_istore C.1 C.2.1 dL_law_1374 hl (Nat.le_of_ble_eq_true rfl) (ls_new (ls_old 0 rfl rfl (.inr rfl) (ls_old 1 rfl rfl (.inl rfl) (ls_old 2 rfl rfl (.inl rfl) (ls_old 3 rfl rfl (.inl rfl) (ls_old 4 rfl rfl (.inl rfl) (ls_old 5 rfl rfl (.inl rfl) (ls_old 6 rfl rfl (.inl rfl) ls_nil)))))))) (fun ls hl => ?_)
        refine r_aload_n C.1 C.2.1 dL_law_1376 rfl (lv_at hl 4 rfl) ?_
        refine c_V C hS hmc hl.1 (ci := 4) rfl hw.1 (kX5_thrown C.2.2.2.2.2.2.1) hw.2 (lw_V q3161 q3162 q3163 q83 q3164) ⟨rfl, hdX5_thrown⟩ ⟨Nat.le_of_ble_eq_true rfl, Nat.le_of_ble_eq_true rfl⟩ (rest := []) rfl rfl (Nat.le_of_ble_eq_true rfl) dL_law_1377 (fun ci q z H locs hx hS ht => (show False from hx).elim) (fun v z190 H locs hv hS => ?_)
        obtain ⟨x191, rfl, hw⟩ := hv
        refine lv_iload C.1 C.2.1 dL_law_1380 (lv_at hl 1 rfl) ?_
        refine lv_icmp_eq C.1 C.2.1 dL_law_1382 rfl (fun h => ?_) (fun h => ?_)
        · have hw := hw.1 h
          refine lv_iload C.1 C.2.1 dL_law_1387 (lv_at hl 1 rfl) ?_
          refine lv_if_ne C.1 C.2.1 dL_law_1389 rfl (fun h => ?_) (fun h => ?_)
          · have hw := hw.1 h
            exact kL_lawb1411 C hr hin hT hmc hL hK28 hw H locs ls hS (lv_sub hl [2, 3, 4, 5, 6, 7] rfl)
          · have hw := hw.2 h
            refine r_aload_n C.1 C.2.1 dL_law_1392 rfl (lv_at hl 5 rfl) ?_
            refine lv_iconst C.1 C.2.1 (v := 0) dL_law_1393 rfl ?_
            refine r_lald C hS dL_law_1394 hw (fun x192 hw => ?_)
            refine lv_iload C.1 C.2.1 dL_law_1395 (lv_at hl 0 rfl) ?_
            refine lv_if_eq C.1 C.2.1 dL_law_1397 rfl (fun h => ?_) (fun h => ?_)
            · have hw := hw.1 h
              refine lv_lconst C.1 C.2.1 (v := 0) dL_law_1404 rfl ?_
              exact kL_lawb1405 C hr hin hT hmc hL hK28 hw H locs ls hS (lv_sub hl [2, 3, 4, 5, 6, 7] rfl)
            · have hw := hw.2 h
              refine lv_lconst C.1 C.2.1 (v := 1) dL_law_1400 rfl ?_
              refine lv_goto C.1 C.2.1 dL_law_1401 rfl ?_
              exact kL_lawb1405 C hr hin hT hmc hL hK28 hw H locs ls hS (lv_sub hl [2, 3, 4, 5, 6, 7] rfl)
        · have hw := hw.2 h
          refine lv_iconst C.1 C.2.1 (v := 0) dL_law_1385 rfl ?_
          exact r_lawret C hS hmc hr hL dL_law_1386 hw
      | 16, ht, hx =>
        cases ht
        have hw := hw.2.2.2.2.2.2.2.2.2.2.2.2.2.2.2.2.1 (sw_eq 16 hx rfl)
        refine r_aload_n C.1 C.2.1 dL_law_1414 rfl (lv_at hl 1 rfl) ?_
        refine r_aload_n C.1 C.2.1 dL_law_1415 rfl (lv_at hl 0 rfl) ?_
        refine lv_iload C.1 C.2.1 dL_law_1416 (lv_at hl 5 rfl) ?_
        refine lv_iconst C.1 C.2.1 (v := 1) dL_law_1418 rfl ?_
        refine lv_iadd C.1 C.2.1 dL_law_1419 ?_
        refine r_iald C hS dL_law_1420 hw (fun x193 hw => ?_)
        refine r_aload_n C.1 C.2.1 dL_law_1421 rfl (lv_at hl 0 rfl) ?_
        refine lv_iload C.1 C.2.1 dL_law_1422 (lv_at hl 5 rfl) ?_
        refine lv_iconst C.1 C.2.1 (v := 2) dL_law_1424 rfl ?_
        refine lv_iadd C.1 C.2.1 dL_law_1425 ?_
        refine r_iald C hS dL_law_1426 hw (fun x194 hw => ?_)
        refine r_aload_n C.1 C.2.1 dL_law_1427 rfl (lv_at hl 0 rfl) ?_
        refine lv_iload C.1 C.2.1 dL_law_1428 (lv_at hl 5 rfl) ?_
        refine lv_iconst C.1 C.2.1 (v := 3) dL_law_1430 rfl ?_
        refine lv_iadd C.1 C.2.1 dL_law_1431 ?_
        refine r_iald C hS dL_law_1432 hw (fun x195 hw => ?_)
        refine r_aload_n C.1 C.2.1 dL_law_1433 rfl (lv_at hl 3 rfl) ?_
        refine c_SX C hS hmc hl.1 (kX0_believers C.2.2.2.2.2.2.1) hw (lw_SW q2586 q2587 q66 q2588) hdX0_believers ⟨Nat.le_of_ble_eq_true rfl, Nat.le_of_ble_eq_true rfl⟩ (rest := []) rfl rfl (Nat.le_of_ble_eq_true rfl) dL_law_1434 (fun ci q z H locs hx hS ht => (show False from hx).elim) (fun v z196 H locs hv hS => ?_)
        obtain ⟨x197, rfl, hw⟩ := hv
        refine r_istore C.1 C.2.1 dL_law_1437 hl (Nat.le_of_ble_eq_true rfl) (ls_new (ls_old 0 rfl rfl (.inl rfl) (ls_old 1 rfl rfl (.inl rfl) (ls_old 2 rfl rfl (.inl rfl) (ls_old 3 rfl rfl (.inl rfl) (ls_old 4 rfl rfl (.inl rfl) (ls_old 5 rfl rfl (.inr rfl) ls_nil))))))) (fun ls hl => ?_)
        refine r_aload_n C.1 C.2.1 dL_law_1439 rfl (lv_at hl 3 rfl) ?_
        refine r_aload_n C.1 C.2.1 dL_law_1440 rfl (lv_at hl 1 rfl) ?_
        refine lv_iload C.1 C.2.1 dL_law_1441 (lv_at hl 6 rfl) ?_
        refine lv_iconst C.1 C.2.1 (v := 1) dL_law_1443 rfl ?_
        refine lv_iadd C.1 C.2.1 dL_law_1444 ?_
        refine r_iald C hS dL_law_1445 hw (fun x198 hw => ?_)
        refine r_aload_n C.1 C.2.1 dL_law_1446 rfl (lv_at hl 1 rfl) ?_
        refine lv_iload C.1 C.2.1 dL_law_1447 (lv_at hl 6 rfl) ?_
        refine lv_iconst C.1 C.2.1 (v := 2) dL_law_1449 rfl ?_
        refine lv_iadd C.1 C.2.1 dL_law_1450 ?_
        refine r_iald C hS dL_law_1451 hw (fun x199 hw => ?_)
        refine r_aload_n C.1 C.2.1 dL_law_1452 rfl (lv_at hl 1 rfl) ?_
        refine lv_iload C.1 C.2.1 dL_law_1453 (lv_at hl 6 rfl) ?_
        refine lv_iconst C.1 C.2.1 (v := 3) dL_law_1455 rfl ?_
        refine lv_iadd C.1 C.2.1 dL_law_1456 ?_
        refine r_iald C hS dL_law_1457 hw (fun x200 hw => ?_)
        refine c_V C hS hmc hl.1 (ci := 4) rfl hw.1 (kX5_believers C.2.2.2.2.2.2.1) hw.2 (lw_V q3351 q3352 q3353 q83 q3354) ⟨rfl, hdX5_believers⟩ ⟨Nat.le_of_ble_eq_true rfl, Nat.le_of_ble_eq_true rfl⟩ (rest := []) rfl rfl (Nat.le_of_ble_eq_true rfl) dL_law_1458 (fun ci q z H locs hx hS ht => (show False from hx).elim) (fun v z201 H locs hv hS => ?_)
        obtain ⟨x202, rfl, hw⟩ := hv
        refine r_istore C.1 C.2.1 dL_law_1461 hl (Nat.le_of_ble_eq_true rfl) (ls_new (ls_old 0 rfl rfl (.inr rfl) (ls_old 1 rfl rfl (.inl rfl) (ls_old 2 rfl rfl (.inl rfl) (ls_old 3 rfl rfl (.inl rfl) (ls_old 4 rfl rfl (.inl rfl) (ls_old 5 rfl rfl (.inl rfl) (ls_old 6 rfl rfl (.inl rfl) ls_nil)))))))) (fun ls hl => ?_)
        refine r_aload_n C.1 C.2.1 dL_law_1463 rfl (lv_at hl 4 rfl) ?_
        refine c_V C hS hmc hl.1 (ci := 4) rfl hw.1 (kX5_thrown C.2.2.2.2.2.2.1) hw.2 (lw_V q3161 q3162 q3163 q83 q3164) ⟨rfl, hdX5_thrown⟩ ⟨Nat.le_of_ble_eq_true rfl, Nat.le_of_ble_eq_true rfl⟩ (rest := []) rfl rfl (Nat.le_of_ble_eq_true rfl) dL_law_1464 (fun ci q z H locs hx hS ht => (show False from hx).elim) (fun v z203 H locs hv hS => ?_)
        obtain ⟨x204, rfl, hw⟩ := hv
        refine lv_iload C.1 C.2.1 dL_law_1467 (lv_at hl 1 rfl) ?_
        refine lv_icmp_eq C.1 C.2.1 dL_law_1469 rfl (fun h => ?_) (fun h => ?_)
        · have hw := hw.1 h
          refine lv_iload C.1 C.2.1 dL_law_1474 (lv_at hl 1 rfl) ?_
          refine lv_if_ne C.1 C.2.1 dL_law_1476 rfl (fun h => ?_) (fun h => ?_)
          · have hw := hw.1 h
            exact kL_lawb1491 C hr hin hT hmc hL hK28 hw H locs ls hS (lv_sub hl [2, 3, 4, 5, 6, 7] rfl)
          · have hw := hw.2 h
            refine r_aload_n C.1 C.2.1 dL_law_1479 rfl (lv_at hl 5 rfl) ?_
            refine lv_iconst C.1 C.2.1 (v := 0) dL_law_1480 rfl ?_
            refine r_lald C hS dL_law_1481 hw (fun x205 hw => ?_)
            refine lv_iload C.1 C.2.1 dL_law_1482 (lv_at hl 0 rfl) ?_
            refine lv_i2l C.1 C.2.1 dL_law_1484 rfl ?_
            refine r_lcmp C dL_law_1485 ?_
            refine lv_if_eq C.1 C.2.1 dL_law_1486 rfl (fun h => ?_) (fun h => ?_)
            · have hw := hw.1 h
              exact kL_lawb1491 C hr hin hT hmc hL hK28 hw H locs ls hS (lv_sub hl [2, 3, 4, 5, 6, 7] rfl)
            · have hw := hw.2 h
              refine lv_iconst C.1 C.2.1 (v := 0) dL_law_1489 rfl ?_
              exact r_lawret C hS hmc hr hL dL_law_1490 hw
        · have hw := hw.2 h
          refine lv_iconst C.1 C.2.1 (v := 0) dL_law_1472 rfl ?_
          exact r_lawret C hS hmc hr hL dL_law_1473 hw
      | 17, ht, hx =>
        cases ht
        have hw := hw.2.2.2.2.2.2.2.2.2.2.2.2.2.2.2.2.2.1 (sw_eq 17 hx rfl)
        refine r_aload_n C.1 C.2.1 dL_law_1494 rfl (lv_at hl 1 rfl) ?_
        refine r_aload_n C.1 C.2.1 dL_law_1495 rfl (lv_at hl 0 rfl) ?_
        refine lv_iload C.1 C.2.1 dL_law_1496 (lv_at hl 5 rfl) ?_
        refine lv_iconst C.1 C.2.1 (v := 1) dL_law_1498 rfl ?_
        refine lv_iadd C.1 C.2.1 dL_law_1499 ?_
        refine r_iald C hS dL_law_1500 hw (fun x206 hw => ?_)
        refine r_aload_n C.1 C.2.1 dL_law_1501 rfl (lv_at hl 3 rfl) ?_
        refine c_SX C hS hmc hl.1 (kX0_left C.2.2.2.2.2.2.1) hw (lw_SW q2594 q2595 q66 q2596) hdX0_left ⟨Nat.le_of_ble_eq_true rfl, Nat.le_of_ble_eq_true rfl⟩ (rest := []) rfl rfl (Nat.le_of_ble_eq_true rfl) dL_law_1502 (fun ci q z H locs hx hS ht => (show False from hx).elim) (fun v z207 H locs hv hS => ?_)
        obtain ⟨x208, rfl, hw⟩ := hv
        refine r_istore C.1 C.2.1 dL_law_1505 hl (Nat.le_of_ble_eq_true rfl) (ls_new (ls_old 0 rfl rfl (.inl rfl) (ls_old 1 rfl rfl (.inl rfl) (ls_old 2 rfl rfl (.inl rfl) (ls_old 3 rfl rfl (.inl rfl) (ls_old 4 rfl rfl (.inl rfl) (ls_old 5 rfl rfl (.inr rfl) ls_nil))))))) (fun ls hl => ?_)
        refine r_aload_n C.1 C.2.1 dL_law_1507 rfl (lv_at hl 3 rfl) ?_
        refine r_aload_n C.1 C.2.1 dL_law_1508 rfl (lv_at hl 1 rfl) ?_
        refine lv_iload C.1 C.2.1 dL_law_1509 (lv_at hl 6 rfl) ?_
        refine lv_iconst C.1 C.2.1 (v := 1) dL_law_1511 rfl ?_
        refine lv_iadd C.1 C.2.1 dL_law_1512 ?_
        refine r_iald C hS dL_law_1513 hw (fun x209 hw => ?_)
        refine c_V C hS hmc hl.1 (ci := 4) rfl hw.1 (kX5_left C.2.2.2.2.2.2.1) hw.2 (lw_V q3355 q3356 q3357 q83 q3358) ⟨rfl, hdX5_left⟩ ⟨Nat.le_of_ble_eq_true rfl, Nat.le_of_ble_eq_true rfl⟩ (rest := []) rfl rfl (Nat.le_of_ble_eq_true rfl) dL_law_1514 (fun ci q z H locs hx hS ht => (show False from hx).elim) (fun v z210 H locs hv hS => ?_)
        obtain ⟨x211, rfl, hw⟩ := hv
        refine r_istore C.1 C.2.1 dL_law_1517 hl (Nat.le_of_ble_eq_true rfl) (ls_new (ls_old 0 rfl rfl (.inr rfl) (ls_old 1 rfl rfl (.inl rfl) (ls_old 2 rfl rfl (.inl rfl) (ls_old 3 rfl rfl (.inl rfl) (ls_old 4 rfl rfl (.inl rfl) (ls_old 5 rfl rfl (.inl rfl) (ls_old 6 rfl rfl (.inl rfl) ls_nil)))))))) (fun ls hl => ?_)
        refine r_aload_n C.1 C.2.1 dL_law_1519 rfl (lv_at hl 4 rfl) ?_
        refine c_V C hS hmc hl.1 (ci := 4) rfl hw.1 (kX5_thrown C.2.2.2.2.2.2.1) hw.2 (lw_V q3161 q3162 q3163 q83 q3164) ⟨rfl, hdX5_thrown⟩ ⟨Nat.le_of_ble_eq_true rfl, Nat.le_of_ble_eq_true rfl⟩ (rest := []) rfl rfl (Nat.le_of_ble_eq_true rfl) dL_law_1520 (fun ci q z H locs hx hS ht => (show False from hx).elim) (fun v z212 H locs hv hS => ?_)
        obtain ⟨x213, rfl, hw⟩ := hv
        refine lv_iload C.1 C.2.1 dL_law_1523 (lv_at hl 1 rfl) ?_
        refine lv_icmp_eq C.1 C.2.1 dL_law_1525 rfl (fun h => ?_) (fun h => ?_)
        · have hw := hw.1 h
          refine lv_iload C.1 C.2.1 dL_law_1530 (lv_at hl 1 rfl) ?_
          refine lv_if_ne C.1 C.2.1 dL_law_1532 rfl (fun h => ?_) (fun h => ?_)
          · have hw := hw.1 h
            exact kL_lawb1547 C hr hin hT hmc hL hK28 hw H locs ls hS (lv_sub hl [2, 3, 4, 5, 6, 7] rfl)
          · have hw := hw.2 h
            refine r_aload_n C.1 C.2.1 dL_law_1535 rfl (lv_at hl 5 rfl) ?_
            refine lv_iconst C.1 C.2.1 (v := 0) dL_law_1536 rfl ?_
            refine r_lald C hS dL_law_1537 hw (fun x214 hw => ?_)
            refine lv_iload C.1 C.2.1 dL_law_1538 (lv_at hl 0 rfl) ?_
            refine lv_i2l C.1 C.2.1 dL_law_1540 rfl ?_
            refine r_lcmp C dL_law_1541 ?_
            refine lv_if_eq C.1 C.2.1 dL_law_1542 rfl (fun h => ?_) (fun h => ?_)
            · have hw := hw.1 h
              exact kL_lawb1547 C hr hin hT hmc hL hK28 hw H locs ls hS (lv_sub hl [2, 3, 4, 5, 6, 7] rfl)
            · have hw := hw.2 h
              refine lv_iconst C.1 C.2.1 (v := 0) dL_law_1545 rfl ?_
              exact r_lawret C hS hmc hr hL dL_law_1546 hw
        · have hw := hw.2 h
          refine lv_iconst C.1 C.2.1 (v := 0) dL_law_1528 rfl ?_
          exact r_lawret C hS hmc hr hL dL_law_1529 hw
      | 18, ht, hx =>
        cases ht
        have hw := hw.2.2.2.2.2.2.2.2.2.2.2.2.2.2.2.2.2.2.1 (sw_eq 18 hx rfl)
        refine r_aload_n C.1 C.2.1 dL_law_1550 rfl (lv_at hl 1 rfl) ?_
        refine r_aload_n C.1 C.2.1 dL_law_1551 rfl (lv_at hl 0 rfl) ?_
        refine lv_iload C.1 C.2.1 dL_law_1552 (lv_at hl 5 rfl) ?_
        refine lv_iconst C.1 C.2.1 (v := 1) dL_law_1554 rfl ?_
        refine lv_iadd C.1 C.2.1 dL_law_1555 ?_
        refine r_iald C hS dL_law_1556 hw (fun x215 hw => ?_)
        refine r_aload_n C.1 C.2.1 dL_law_1557 rfl (lv_at hl 3 rfl) ?_
        refine c_SX C hS hmc hl.1 (kX0_leftAgain C.2.2.2.2.2.2.1) hw (lw_SW q2602 q2603 q66 q2604) hdX0_leftAgain ⟨Nat.le_of_ble_eq_true rfl, Nat.le_of_ble_eq_true rfl⟩ (rest := []) rfl rfl (Nat.le_of_ble_eq_true rfl) dL_law_1558 (fun ci q z H locs hx hS ht => (show False from hx).elim) (fun v z216 H locs hv hS => ?_)
        obtain ⟨x217, rfl, hw⟩ := hv
        refine r_istore C.1 C.2.1 dL_law_1561 hl (Nat.le_of_ble_eq_true rfl) (ls_new (ls_old 0 rfl rfl (.inl rfl) (ls_old 1 rfl rfl (.inl rfl) (ls_old 2 rfl rfl (.inl rfl) (ls_old 3 rfl rfl (.inl rfl) (ls_old 4 rfl rfl (.inl rfl) (ls_old 5 rfl rfl (.inr rfl) ls_nil))))))) (fun ls hl => ?_)
        refine r_aload_n C.1 C.2.1 dL_law_1563 rfl (lv_at hl 3 rfl) ?_
        refine r_aload_n C.1 C.2.1 dL_law_1564 rfl (lv_at hl 1 rfl) ?_
        refine lv_iload C.1 C.2.1 dL_law_1565 (lv_at hl 6 rfl) ?_
        refine lv_iconst C.1 C.2.1 (v := 1) dL_law_1567 rfl ?_
        refine lv_iadd C.1 C.2.1 dL_law_1568 ?_
        refine r_iald C hS dL_law_1569 hw (fun x218 hw => ?_)
        refine c_V C hS hmc hl.1 (ci := 4) rfl hw.1 (kX5_leftAgain C.2.2.2.2.2.2.1) hw.2 (lw_V q3359 q3360 q3361 q83 q3362) ⟨rfl, hdX5_leftAgain⟩ ⟨Nat.le_of_ble_eq_true rfl, Nat.le_of_ble_eq_true rfl⟩ (rest := []) rfl rfl (Nat.le_of_ble_eq_true rfl) dL_law_1570 (fun ci q z H locs hx hS ht => (show False from hx).elim) (fun v z219 H locs hv hS => ?_)
        obtain ⟨x220, rfl, hw⟩ := hv
        refine r_istore C.1 C.2.1 dL_law_1573 hl (Nat.le_of_ble_eq_true rfl) (ls_new (ls_old 0 rfl rfl (.inr rfl) (ls_old 1 rfl rfl (.inl rfl) (ls_old 2 rfl rfl (.inl rfl) (ls_old 3 rfl rfl (.inl rfl) (ls_old 4 rfl rfl (.inl rfl) (ls_old 5 rfl rfl (.inl rfl) (ls_old 6 rfl rfl (.inl rfl) ls_nil)))))))) (fun ls hl => ?_)
        refine r_aload_n C.1 C.2.1 dL_law_1575 rfl (lv_at hl 4 rfl) ?_
        refine c_V C hS hmc hl.1 (ci := 4) rfl hw.1 (kX5_thrown C.2.2.2.2.2.2.1) hw.2 (lw_V q3161 q3162 q3163 q83 q3164) ⟨rfl, hdX5_thrown⟩ ⟨Nat.le_of_ble_eq_true rfl, Nat.le_of_ble_eq_true rfl⟩ (rest := []) rfl rfl (Nat.le_of_ble_eq_true rfl) dL_law_1576 (fun ci q z H locs hx hS ht => (show False from hx).elim) (fun v z221 H locs hv hS => ?_)
        obtain ⟨x222, rfl, hw⟩ := hv
        refine lv_iload C.1 C.2.1 dL_law_1579 (lv_at hl 1 rfl) ?_
        refine lv_icmp_eq C.1 C.2.1 dL_law_1581 rfl (fun h => ?_) (fun h => ?_)
        · have hw := hw.1 h
          refine lv_iload C.1 C.2.1 dL_law_1586 (lv_at hl 1 rfl) ?_
          refine lv_if_ne C.1 C.2.1 dL_law_1588 rfl (fun h => ?_) (fun h => ?_)
          · have hw := hw.1 h
            exact kL_lawb1603 C hr hin hT hmc hL hK28 hw H locs ls hS (lv_sub hl [2, 3, 4, 5, 6, 7] rfl)
          · have hw := hw.2 h
            refine r_aload_n C.1 C.2.1 dL_law_1591 rfl (lv_at hl 5 rfl) ?_
            refine lv_iconst C.1 C.2.1 (v := 0) dL_law_1592 rfl ?_
            refine r_lald C hS dL_law_1593 hw (fun x223 hw => ?_)
            refine lv_iload C.1 C.2.1 dL_law_1594 (lv_at hl 0 rfl) ?_
            refine lv_i2l C.1 C.2.1 dL_law_1596 rfl ?_
            refine r_lcmp C dL_law_1597 ?_
            refine lv_if_eq C.1 C.2.1 dL_law_1598 rfl (fun h => ?_) (fun h => ?_)
            · have hw := hw.1 h
              exact kL_lawb1603 C hr hin hT hmc hL hK28 hw H locs ls hS (lv_sub hl [2, 3, 4, 5, 6, 7] rfl)
            · have hw := hw.2 h
              refine lv_iconst C.1 C.2.1 (v := 0) dL_law_1601 rfl ?_
              exact r_lawret C hS hmc hr hL dL_law_1602 hw
        · have hw := hw.2 h
          refine lv_iconst C.1 C.2.1 (v := 0) dL_law_1584 rfl ?_
          exact r_lawret C hS hmc hr hL dL_law_1585 hw
      | 19, ht, hx =>
        cases ht
        have hw := hw.2.2.2.2.2.2.2.2.2.2.2.2.2.2.2.2.2.2.2.1 (sw_eq 19 hx rfl)
        refine r_aload_n C.1 C.2.1 dL_law_1606 rfl (lv_at hl 1 rfl) ?_
        refine r_aload_n C.1 C.2.1 dL_law_1607 rfl (lv_at hl 0 rfl) ?_
        refine lv_iload C.1 C.2.1 dL_law_1608 (lv_at hl 5 rfl) ?_
        refine lv_iconst C.1 C.2.1 (v := 1) dL_law_1610 rfl ?_
        refine lv_iadd C.1 C.2.1 dL_law_1611 ?_
        refine r_iald C hS dL_law_1612 hw (fun x224 hw => ?_)
        refine r_aload_n C.1 C.2.1 dL_law_1613 rfl (lv_at hl 0 rfl) ?_
        refine lv_iload C.1 C.2.1 dL_law_1614 (lv_at hl 5 rfl) ?_
        refine lv_iconst C.1 C.2.1 (v := 2) dL_law_1616 rfl ?_
        refine lv_iadd C.1 C.2.1 dL_law_1617 ?_
        refine r_iald C hS dL_law_1618 hw (fun x225 hw => ?_)
        refine r_aload_n C.1 C.2.1 dL_law_1619 rfl (lv_at hl 3 rfl) ?_
        refine c_SX C hS hmc hl.1 (kX0_best C.2.2.2.2.2.2.1) hw (lw_SW q2610 q2611 q66 q2612) hdX0_best ⟨Nat.le_of_ble_eq_true rfl, Nat.le_of_ble_eq_true rfl⟩ (rest := []) rfl rfl (Nat.le_of_ble_eq_true rfl) dL_law_1620 (fun ci q z H locs hx hS ht => (show False from hx).elim) (fun v z226 H locs hv hS => ?_)
        obtain ⟨x227, rfl, hw⟩ := hv
        refine r_istore C.1 C.2.1 dL_law_1623 hl (Nat.le_of_ble_eq_true rfl) (ls_new (ls_old 0 rfl rfl (.inl rfl) (ls_old 1 rfl rfl (.inl rfl) (ls_old 2 rfl rfl (.inl rfl) (ls_old 3 rfl rfl (.inl rfl) (ls_old 4 rfl rfl (.inl rfl) (ls_old 5 rfl rfl (.inr rfl) ls_nil))))))) (fun ls hl => ?_)
        refine r_aload_n C.1 C.2.1 dL_law_1625 rfl (lv_at hl 3 rfl) ?_
        refine r_aload_n C.1 C.2.1 dL_law_1626 rfl (lv_at hl 1 rfl) ?_
        refine lv_iload C.1 C.2.1 dL_law_1627 (lv_at hl 6 rfl) ?_
        refine lv_iconst C.1 C.2.1 (v := 1) dL_law_1629 rfl ?_
        refine lv_iadd C.1 C.2.1 dL_law_1630 ?_
        refine r_iald C hS dL_law_1631 hw (fun x228 hw => ?_)
        refine r_aload_n C.1 C.2.1 dL_law_1632 rfl (lv_at hl 1 rfl) ?_
        refine lv_iload C.1 C.2.1 dL_law_1633 (lv_at hl 6 rfl) ?_
        refine lv_iconst C.1 C.2.1 (v := 2) dL_law_1635 rfl ?_
        refine lv_iadd C.1 C.2.1 dL_law_1636 ?_
        refine r_iald C hS dL_law_1637 hw (fun x229 hw => ?_)
        refine c_V C hS hmc hl.1 (ci := 4) rfl hw.1 (kX5_best C.2.2.2.2.2.2.1) hw.2 (lw_V q3364 q3365 q3366 q83 q3367) ⟨rfl, hdX5_best⟩ ⟨Nat.le_of_ble_eq_true rfl, Nat.le_of_ble_eq_true rfl⟩ (rest := []) rfl rfl (Nat.le_of_ble_eq_true rfl) dL_law_1638 (fun ci q z H locs hx hS ht => (show False from hx).elim) (fun v z230 H locs hv hS => ?_)
        obtain ⟨x231, rfl, hw⟩ := hv
        refine r_istore C.1 C.2.1 dL_law_1641 hl (Nat.le_of_ble_eq_true rfl) (ls_new (ls_old 0 rfl rfl (.inr rfl) (ls_old 1 rfl rfl (.inl rfl) (ls_old 2 rfl rfl (.inl rfl) (ls_old 3 rfl rfl (.inl rfl) (ls_old 4 rfl rfl (.inl rfl) (ls_old 5 rfl rfl (.inl rfl) (ls_old 6 rfl rfl (.inl rfl) ls_nil)))))))) (fun ls hl => ?_)
        refine r_aload_n C.1 C.2.1 dL_law_1643 rfl (lv_at hl 4 rfl) ?_
        refine c_V C hS hmc hl.1 (ci := 4) rfl hw.1 (kX5_thrown C.2.2.2.2.2.2.1) hw.2 (lw_V q3161 q3162 q3163 q83 q3164) ⟨rfl, hdX5_thrown⟩ ⟨Nat.le_of_ble_eq_true rfl, Nat.le_of_ble_eq_true rfl⟩ (rest := []) rfl rfl (Nat.le_of_ble_eq_true rfl) dL_law_1644 (fun ci q z H locs hx hS ht => (show False from hx).elim) (fun v z232 H locs hv hS => ?_)
        obtain ⟨x233, rfl, hw⟩ := hv
        refine lv_iload C.1 C.2.1 dL_law_1647 (lv_at hl 1 rfl) ?_
        refine lv_icmp_eq C.1 C.2.1 dL_law_1649 rfl (fun h => ?_) (fun h => ?_)
        · have hw := hw.1 h
          refine lv_iload C.1 C.2.1 dL_law_1654 (lv_at hl 1 rfl) ?_
          refine lv_if_ne C.1 C.2.1 dL_law_1656 rfl (fun h => ?_) (fun h => ?_)
          · have hw := hw.1 h
            exact kL_lawb1671 C hr hin hT hmc hL hK28 hw H locs ls hS (lv_sub hl [2, 3, 4, 5, 6, 7] rfl)
          · have hw := hw.2 h
            refine r_aload_n C.1 C.2.1 dL_law_1659 rfl (lv_at hl 5 rfl) ?_
            refine lv_iconst C.1 C.2.1 (v := 0) dL_law_1660 rfl ?_
            refine r_lald C hS dL_law_1661 hw (fun x234 hw => ?_)
            refine lv_iload C.1 C.2.1 dL_law_1662 (lv_at hl 0 rfl) ?_
            refine lv_i2l C.1 C.2.1 dL_law_1664 rfl ?_
            refine r_lcmp C dL_law_1665 ?_
            refine lv_if_eq C.1 C.2.1 dL_law_1666 rfl (fun h => ?_) (fun h => ?_)
            · have hw := hw.1 h
              exact kL_lawb1671 C hr hin hT hmc hL hK28 hw H locs ls hS (lv_sub hl [2, 3, 4, 5, 6, 7] rfl)
            · have hw := hw.2 h
              refine lv_iconst C.1 C.2.1 (v := 0) dL_law_1669 rfl ?_
              exact r_lawret C hS hmc hr hL dL_law_1670 hw
        · have hw := hw.2 h
          refine lv_iconst C.1 C.2.1 (v := 0) dL_law_1652 rfl ?_
          exact r_lawret C hS hmc hr hL dL_law_1653 hw
      | 20, ht, hx =>
        cases ht
        have hw := hw.2.2.2.2.2.2.2.2.2.2.2.2.2.2.2.2.2.2.2.2.1 (sw_eq 20 hx rfl)
        refine r_aload_n C.1 C.2.1 dL_law_1674 rfl (lv_at hl 1 rfl) ?_
        refine c_V C hS hmc hl.1 (ci := 0) rfl hw.1 (kX1_chances C.2.2.2.2.2.2.1) hw.2 (lw_V q2262 q2263 q2264 q67 q2265) ⟨rfl, hdX1_chances⟩ ⟨Nat.le_of_ble_eq_true rfl, Nat.le_of_ble_eq_true rfl⟩ (rest := []) rfl rfl (Nat.le_of_ble_eq_true rfl) dL_law_1675 (fun ci q z H locs hx hS ht => (show False from hx).elim) (fun v z235 H locs hv hS => ?_)
        obtain ⟨x236, rfl, hw⟩ := hv
        refine r_aload_n C.1 C.2.1 dL_law_1678 rfl (lv_at hl 2 rfl) ?_
        refine c_V C hS hmc hl.1 (ci := 4) rfl hw.1 (kX5_chances C.2.2.2.2.2.2.1) hw.2 (lw_V q3368 q3369 q3370 q83 q3371) ⟨rfl, hdX5_chances⟩ ⟨Nat.le_of_ble_eq_true rfl, Nat.le_of_ble_eq_true rfl⟩ (rest := [.int x236]) rfl rfl (Nat.le_of_ble_eq_true rfl) dL_law_1679 (fun ci q z H locs hx hS ht => (show False from hx).elim) (fun v z237 H locs hv hS => ?_)
        obtain ⟨x238, rfl, hw⟩ := hv
        refine lv_icmp_eq C.1 C.2.1 dL_law_1682 rfl (fun h => ?_) (fun h => ?_)
        · have hw := hw.1 h
          exact kL_lawb2581 C hr hin hT hmc hL hK28 hw H locs ls hS (lv_sub hl [0, 1, 2, 3, 4, 5] rfl)
        · have hw := hw.2 h
          refine lv_iconst C.1 C.2.1 (v := 0) dL_law_1685 rfl ?_
          exact r_lawret C hS hmc hr hL dL_law_1686 hw
      | 21, ht, hx =>
        cases ht
        have hw := hw.2.2.2.2.2.2.2.2.2.2.2.2.2.2.2.2.2.2.2.2.2.1 (sw_eq 21 hx rfl)
        refine r_aload_n C.1 C.2.1 dL_law_1687 rfl (lv_at hl 1 rfl) ?_
        refine c_V C hS hmc hl.1 (ci := 0) rfl hw.1 (kX1_chancesAgain C.2.2.2.2.2.2.1) hw.2 (lw_V q2274 q2275 q2276 q67 q2277) ⟨rfl, hdX1_chancesAgain⟩ ⟨Nat.le_of_ble_eq_true rfl, Nat.le_of_ble_eq_true rfl⟩ (rest := []) rfl rfl (Nat.le_of_ble_eq_true rfl) dL_law_1688 (fun ci q z H locs hx hS ht => (show False from hx).elim) (fun v z239 H locs hv hS => ?_)
        obtain ⟨x240, rfl, hw⟩ := hv
        refine r_aload_n C.1 C.2.1 dL_law_1691 rfl (lv_at hl 2 rfl) ?_
        refine c_V C hS hmc hl.1 (ci := 4) rfl hw.1 (kX5_chancesAgain C.2.2.2.2.2.2.1) hw.2 (lw_V q3372 q3373 q3374 q83 q3375) ⟨rfl, hdX5_chancesAgain⟩ ⟨Nat.le_of_ble_eq_true rfl, Nat.le_of_ble_eq_true rfl⟩ (rest := [.int x240]) rfl rfl (Nat.le_of_ble_eq_true rfl) dL_law_1692 (fun ci q z H locs hx hS ht => (show False from hx).elim) (fun v z241 H locs hv hS => ?_)
        obtain ⟨x242, rfl, hw⟩ := hv
        refine lv_icmp_eq C.1 C.2.1 dL_law_1695 rfl (fun h => ?_) (fun h => ?_)
        · have hw := hw.1 h
          exact kL_lawb2581 C hr hin hT hmc hL hK28 hw H locs ls hS (lv_sub hl [0, 1, 2, 3, 4, 5] rfl)
        · have hw := hw.2 h
          refine lv_iconst C.1 C.2.1 (v := 0) dL_law_1698 rfl ?_
          exact r_lawret C hS hmc hr hL dL_law_1699 hw
      | 22, ht, hx =>
        cases ht
        have hw := hw.2.2.2.2.2.2.2.2.2.2.2.2.2.2.2.2.2.2.2.2.2.2.1 (sw_eq 22 hx rfl)
        refine r_aload_n C.1 C.2.1 dL_law_1700 rfl (lv_at hl 1 rfl) ?_
        refine c_V C hS hmc hl.1 (ci := 0) rfl hw.1 (kX1_worn C.2.2.2.2.2.2.1) hw.2 (lw_V q2282 q2283 q2284 q67 q2285) ⟨rfl, hdX1_worn⟩ ⟨Nat.le_of_ble_eq_true rfl, Nat.le_of_ble_eq_true rfl⟩ (rest := []) rfl rfl (Nat.le_of_ble_eq_true rfl) dL_law_1701 (fun ci q z H locs hx hS ht => (show False from hx).elim) (fun v z243 H locs hv hS => ?_)
        obtain ⟨x244, rfl, hw⟩ := hv
        refine r_aload_n C.1 C.2.1 dL_law_1704 rfl (lv_at hl 2 rfl) ?_
        refine c_V C hS hmc hl.1 (ci := 4) rfl hw.1 (kX5_worn C.2.2.2.2.2.2.1) hw.2 (lw_V q3377 q3378 q3379 q83 q3380) ⟨rfl, hdX5_worn⟩ ⟨Nat.le_of_ble_eq_true rfl, Nat.le_of_ble_eq_true rfl⟩ (rest := [.int x244]) rfl rfl (Nat.le_of_ble_eq_true rfl) dL_law_1705 (fun ci q z H locs hx hS ht => (show False from hx).elim) (fun v z245 H locs hv hS => ?_)
        obtain ⟨x246, rfl, hw⟩ := hv
        refine lv_icmp_eq C.1 C.2.1 dL_law_1708 rfl (fun h => ?_) (fun h => ?_)
        · have hw := hw.1 h
          exact kL_lawb2581 C hr hin hT hmc hL hK28 hw H locs ls hS (lv_sub hl [0, 1, 2, 3, 4, 5] rfl)
        · have hw := hw.2 h
          refine lv_iconst C.1 C.2.1 (v := 0) dL_law_1711 rfl ?_
          exact r_lawret C hS hmc hr hL dL_law_1712 hw
      | 23, ht, hx =>
        cases ht
        have hw := hw.2.2.2.2.2.2.2.2.2.2.2.2.2.2.2.2.2.2.2.2.2.2.2.1 (sw_eq 23 hx rfl)
        refine r_aload_n C.1 C.2.1 dL_law_1713 rfl (lv_at hl 1 rfl) ?_
        refine c_V C hS hmc hl.1 (ci := 0) rfl hw.1 (kX1_due C.2.2.2.2.2.2.1) hw.2 (lw_V q2297 q2298 q2299 q67 q2300) ⟨rfl, hdX1_due⟩ ⟨Nat.le_of_ble_eq_true rfl, Nat.le_of_ble_eq_true rfl⟩ (rest := []) rfl rfl (Nat.le_of_ble_eq_true rfl) dL_law_1714 (fun ci q z H locs hx hS ht => (show False from hx).elim) (fun v z247 H locs hv hS => ?_)
        obtain ⟨x248, rfl, hw⟩ := hv
        refine r_aload_n C.1 C.2.1 dL_law_1717 rfl (lv_at hl 2 rfl) ?_
        refine c_V C hS hmc hl.1 (ci := 4) rfl hw.1 (kX5_due C.2.2.2.2.2.2.1) hw.2 (lw_V q3381 q3382 q3383 q83 q3384) ⟨rfl, hdX5_due⟩ ⟨Nat.le_of_ble_eq_true rfl, Nat.le_of_ble_eq_true rfl⟩ (rest := [.int x248]) rfl rfl (Nat.le_of_ble_eq_true rfl) dL_law_1718 (fun ci q z H locs hx hS ht => (show False from hx).elim) (fun v z249 H locs hv hS => ?_)
        obtain ⟨x250, rfl, hw⟩ := hv
        refine lv_icmp_eq C.1 C.2.1 dL_law_1721 rfl (fun h => ?_) (fun h => ?_)
        · have hw := hw.1 h
          exact kL_lawb2581 C hr hin hT hmc hL hK28 hw H locs ls hS (lv_sub hl [0, 1, 2, 3, 4, 5] rfl)
        · have hw := hw.2 h
          refine lv_iconst C.1 C.2.1 (v := 0) dL_law_1724 rfl ?_
          exact r_lawret C hS hmc hr hL dL_law_1725 hw
      | 24, ht, hx =>
        cases ht
        have hw := hw.2.2.2.2.2.2.2.2.2.2.2.2.2.2.2.2.2.2.2.2.2.2.2.2.1 (sw_eq 24 hx rfl)
        refine r_aload_n C.1 C.2.1 dL_law_1726 rfl (lv_at hl 1 rfl) ?_
        refine r_aload_n C.1 C.2.1 dL_law_1727 rfl (lv_at hl 0 rfl) ?_
        refine lv_iload C.1 C.2.1 dL_law_1728 (lv_at hl 5 rfl) ?_
        refine lv_iconst C.1 C.2.1 (v := 1) dL_law_1730 rfl ?_
        refine lv_iadd C.1 C.2.1 dL_law_1731 ?_
        refine r_iald C hS dL_law_1732 hw (fun x251 hw => ?_)
        refine r_aload_n C.1 C.2.1 dL_law_1733 rfl (lv_at hl 3 rfl) ?_
        refine c_SX C hS hmc hl.1 (kX0_ranked C.2.2.2.2.2.2.1) hw (lw_SW q2625 q2626 q66 q2627) hdX0_ranked ⟨Nat.le_of_ble_eq_true rfl, Nat.le_of_ble_eq_true rfl⟩ (rest := []) rfl rfl (Nat.le_of_ble_eq_true rfl) dL_law_1734 (fun ci q z H locs hx hS ht => (show False from hx).elim) (fun v z252 H locs hv hS => ?_)
        obtain ⟨x253, rfl, hw⟩ := hv
        refine r_istore C.1 C.2.1 dL_law_1737 hl (Nat.le_of_ble_eq_true rfl) (ls_new (ls_old 0 rfl rfl (.inl rfl) (ls_old 1 rfl rfl (.inl rfl) (ls_old 2 rfl rfl (.inl rfl) (ls_old 3 rfl rfl (.inl rfl) (ls_old 4 rfl rfl (.inl rfl) (ls_old 5 rfl rfl (.inr rfl) ls_nil))))))) (fun ls hl => ?_)
        refine r_aload_n C.1 C.2.1 dL_law_1739 rfl (lv_at hl 3 rfl) ?_
        refine r_aload_n C.1 C.2.1 dL_law_1740 rfl (lv_at hl 1 rfl) ?_
        refine lv_iload C.1 C.2.1 dL_law_1741 (lv_at hl 6 rfl) ?_
        refine lv_iconst C.1 C.2.1 (v := 1) dL_law_1743 rfl ?_
        refine lv_iadd C.1 C.2.1 dL_law_1744 ?_
        refine r_iald C hS dL_law_1745 hw (fun x254 hw => ?_)
        refine c_V C hS hmc hl.1 (ci := 4) rfl hw.1 (kX5_ranked C.2.2.2.2.2.2.1) hw.2 (lw_V q3385 q3386 q3387 q83 q3388) ⟨rfl, hdX5_ranked⟩ ⟨Nat.le_of_ble_eq_true rfl, Nat.le_of_ble_eq_true rfl⟩ (rest := []) rfl rfl (Nat.le_of_ble_eq_true rfl) dL_law_1746 (fun ci q z H locs hx hS ht => (show False from hx).elim) (fun v z255 H locs hv hS => ?_)
        obtain ⟨x256, rfl, hw⟩ := hv
        refine r_istore C.1 C.2.1 dL_law_1749 hl (Nat.le_of_ble_eq_true rfl) (ls_new (ls_old 0 rfl rfl (.inr rfl) (ls_old 1 rfl rfl (.inl rfl) (ls_old 2 rfl rfl (.inl rfl) (ls_old 3 rfl rfl (.inl rfl) (ls_old 4 rfl rfl (.inl rfl) (ls_old 5 rfl rfl (.inl rfl) (ls_old 6 rfl rfl (.inl rfl) ls_nil)))))))) (fun ls hl => ?_)
        refine r_aload_n C.1 C.2.1 dL_law_1751 rfl (lv_at hl 4 rfl) ?_
        refine c_V C hS hmc hl.1 (ci := 4) rfl hw.1 (kX5_thrown C.2.2.2.2.2.2.1) hw.2 (lw_V q3161 q3162 q3163 q83 q3164) ⟨rfl, hdX5_thrown⟩ ⟨Nat.le_of_ble_eq_true rfl, Nat.le_of_ble_eq_true rfl⟩ (rest := []) rfl rfl (Nat.le_of_ble_eq_true rfl) dL_law_1752 (fun ci q z H locs hx hS ht => (show False from hx).elim) (fun v z257 H locs hv hS => ?_)
        obtain ⟨x258, rfl, hw⟩ := hv
        refine lv_iload C.1 C.2.1 dL_law_1755 (lv_at hl 1 rfl) ?_
        refine lv_icmp_eq C.1 C.2.1 dL_law_1757 rfl (fun h => ?_) (fun h => ?_)
        · have hw := hw.1 h
          refine lv_iload C.1 C.2.1 dL_law_1762 (lv_at hl 1 rfl) ?_
          refine lv_if_ne C.1 C.2.1 dL_law_1764 rfl (fun h => ?_) (fun h => ?_)
          · have hw := hw.1 h
            exact kL_lawb1779 C hr hin hT hmc hL hK28 hw H locs ls hS (lv_sub hl [2, 3, 4, 5, 6, 7] rfl)
          · have hw := hw.2 h
            refine r_aload_n C.1 C.2.1 dL_law_1767 rfl (lv_at hl 5 rfl) ?_
            refine lv_iconst C.1 C.2.1 (v := 0) dL_law_1768 rfl ?_
            refine r_lald C hS dL_law_1769 hw (fun x259 hw => ?_)
            refine lv_iload C.1 C.2.1 dL_law_1770 (lv_at hl 0 rfl) ?_
            refine lv_i2l C.1 C.2.1 dL_law_1772 rfl ?_
            refine r_lcmp C dL_law_1773 ?_
            refine lv_if_eq C.1 C.2.1 dL_law_1774 rfl (fun h => ?_) (fun h => ?_)
            · have hw := hw.1 h
              exact kL_lawb1779 C hr hin hT hmc hL hK28 hw H locs ls hS (lv_sub hl [2, 3, 4, 5, 6, 7] rfl)
            · have hw := hw.2 h
              refine lv_iconst C.1 C.2.1 (v := 0) dL_law_1777 rfl ?_
              exact r_lawret C hS hmc hr hL dL_law_1778 hw
        · have hw := hw.2 h
          refine lv_iconst C.1 C.2.1 (v := 0) dL_law_1760 rfl ?_
          exact r_lawret C hS hmc hr hL dL_law_1761 hw
      | 25, ht, hx =>
        cases ht
        have hw := hw.2.2.2.2.2.2.2.2.2.2.2.2.2.2.2.2.2.2.2.2.2.2.2.2.2.1 (sw_eq 25 hx rfl)
        refine r_aload_n C.1 C.2.1 dL_law_1782 rfl (lv_at hl 1 rfl) ?_
        refine r_aload_n C.1 C.2.1 dL_law_1783 rfl (lv_at hl 0 rfl) ?_
        refine lv_iload C.1 C.2.1 dL_law_1784 (lv_at hl 5 rfl) ?_
        refine lv_iconst C.1 C.2.1 (v := 1) dL_law_1786 rfl ?_
        refine lv_iadd C.1 C.2.1 dL_law_1787 ?_
        refine r_iald C hS dL_law_1788 hw (fun x260 hw => ?_)
        refine r_aload_n C.1 C.2.1 dL_law_1789 rfl (lv_at hl 3 rfl) ?_
        refine c_SX C hS hmc hl.1 (kX0_freshest C.2.2.2.2.2.2.1) hw (lw_SW q2641 q2642 q66 q2643) hdX0_freshest ⟨Nat.le_of_ble_eq_true rfl, Nat.le_of_ble_eq_true rfl⟩ (rest := []) rfl rfl (Nat.le_of_ble_eq_true rfl) dL_law_1790 (fun ci q z H locs hx hS ht => (show False from hx).elim) (fun v z261 H locs hv hS => ?_)
        obtain ⟨x262, rfl, hw⟩ := hv
        refine r_istore C.1 C.2.1 dL_law_1793 hl (Nat.le_of_ble_eq_true rfl) (ls_new (ls_old 0 rfl rfl (.inl rfl) (ls_old 1 rfl rfl (.inl rfl) (ls_old 2 rfl rfl (.inl rfl) (ls_old 3 rfl rfl (.inl rfl) (ls_old 4 rfl rfl (.inl rfl) (ls_old 5 rfl rfl (.inr rfl) ls_nil))))))) (fun ls hl => ?_)
        refine r_aload_n C.1 C.2.1 dL_law_1795 rfl (lv_at hl 3 rfl) ?_
        refine r_aload_n C.1 C.2.1 dL_law_1796 rfl (lv_at hl 1 rfl) ?_
        refine lv_iload C.1 C.2.1 dL_law_1797 (lv_at hl 6 rfl) ?_
        refine lv_iconst C.1 C.2.1 (v := 1) dL_law_1799 rfl ?_
        refine lv_iadd C.1 C.2.1 dL_law_1800 ?_
        refine r_iald C hS dL_law_1801 hw (fun x263 hw => ?_)
        refine c_V C hS hmc hl.1 (ci := 4) rfl hw.1 (kX5_freshest C.2.2.2.2.2.2.1) hw.2 (lw_V q3393 q3394 q3395 q83 q3396) ⟨rfl, hdX5_freshest⟩ ⟨Nat.le_of_ble_eq_true rfl, Nat.le_of_ble_eq_true rfl⟩ (rest := []) rfl rfl (Nat.le_of_ble_eq_true rfl) dL_law_1802 (fun ci q z H locs hx hS ht => (show False from hx).elim) (fun v z264 H locs hv hS => ?_)
        obtain ⟨x265, rfl, hw⟩ := hv
        refine r_istore C.1 C.2.1 dL_law_1805 hl (Nat.le_of_ble_eq_true rfl) (ls_new (ls_old 0 rfl rfl (.inr rfl) (ls_old 1 rfl rfl (.inl rfl) (ls_old 2 rfl rfl (.inl rfl) (ls_old 3 rfl rfl (.inl rfl) (ls_old 4 rfl rfl (.inl rfl) (ls_old 5 rfl rfl (.inl rfl) (ls_old 6 rfl rfl (.inl rfl) ls_nil)))))))) (fun ls hl => ?_)
        refine r_aload_n C.1 C.2.1 dL_law_1807 rfl (lv_at hl 4 rfl) ?_
        refine c_V C hS hmc hl.1 (ci := 4) rfl hw.1 (kX5_thrown C.2.2.2.2.2.2.1) hw.2 (lw_V q3161 q3162 q3163 q83 q3164) ⟨rfl, hdX5_thrown⟩ ⟨Nat.le_of_ble_eq_true rfl, Nat.le_of_ble_eq_true rfl⟩ (rest := []) rfl rfl (Nat.le_of_ble_eq_true rfl) dL_law_1808 (fun ci q z H locs hx hS ht => (show False from hx).elim) (fun v z266 H locs hv hS => ?_)
        obtain ⟨x267, rfl, hw⟩ := hv
        refine lv_iload C.1 C.2.1 dL_law_1811 (lv_at hl 1 rfl) ?_
        refine lv_icmp_eq C.1 C.2.1 dL_law_1813 rfl (fun h => ?_) (fun h => ?_)
        · have hw := hw.1 h
          refine lv_iload C.1 C.2.1 dL_law_1818 (lv_at hl 1 rfl) ?_
          refine lv_if_ne C.1 C.2.1 dL_law_1820 rfl (fun h => ?_) (fun h => ?_)
          · have hw := hw.1 h
            exact kL_lawb1835 C hr hin hT hmc hL hK28 hw H locs ls hS (lv_sub hl [2, 3, 4, 5, 6, 7] rfl)
          · have hw := hw.2 h
            refine r_aload_n C.1 C.2.1 dL_law_1823 rfl (lv_at hl 5 rfl) ?_
            refine lv_iconst C.1 C.2.1 (v := 0) dL_law_1824 rfl ?_
            refine r_lald C hS dL_law_1825 hw (fun x268 hw => ?_)
            refine lv_iload C.1 C.2.1 dL_law_1826 (lv_at hl 0 rfl) ?_
            refine lv_i2l C.1 C.2.1 dL_law_1828 rfl ?_
            refine r_lcmp C dL_law_1829 ?_
            refine lv_if_eq C.1 C.2.1 dL_law_1830 rfl (fun h => ?_) (fun h => ?_)
            · have hw := hw.1 h
              exact kL_lawb1835 C hr hin hT hmc hL hK28 hw H locs ls hS (lv_sub hl [2, 3, 4, 5, 6, 7] rfl)
            · have hw := hw.2 h
              refine lv_iconst C.1 C.2.1 (v := 0) dL_law_1833 rfl ?_
              exact r_lawret C hS hmc hr hL dL_law_1834 hw
        · have hw := hw.2 h
          refine lv_iconst C.1 C.2.1 (v := 0) dL_law_1816 rfl ?_
          exact r_lawret C hS hmc hr hL dL_law_1817 hw
      | 26, ht, hx =>
        cases ht
        have hw := hw.2.2.2.2.2.2.2.2.2.2.2.2.2.2.2.2.2.2.2.2.2.2.2.2.2.2.1 (sw_eq 26 hx rfl)
        refine r_aload_n C.1 C.2.1 dL_law_1838 rfl (lv_at hl 1 rfl) ?_
        refine r_aload_n C.1 C.2.1 dL_law_1839 rfl (lv_at hl 3 rfl) ?_
        refine c_SX C hS hmc hl.1 (kX0_strongest C.2.2.2.2.2.2.1) hw (lw_SW q2656 q2657 q66 q2658) hdX0_strongest ⟨Nat.le_of_ble_eq_true rfl, Nat.le_of_ble_eq_true rfl⟩ (rest := []) rfl rfl (Nat.le_of_ble_eq_true rfl) dL_law_1840 (fun ci q z H locs hx hS ht => (show False from hx).elim) (fun v z269 H locs hv hS => ?_)
        obtain ⟨x270, rfl, hw⟩ := hv
        refine r_istore C.1 C.2.1 dL_law_1843 hl (Nat.le_of_ble_eq_true rfl) (ls_new (ls_old 0 rfl rfl (.inl rfl) (ls_old 1 rfl rfl (.inl rfl) (ls_old 2 rfl rfl (.inl rfl) (ls_old 3 rfl rfl (.inl rfl) (ls_old 4 rfl rfl (.inl rfl) (ls_old 5 rfl rfl (.inr rfl) ls_nil))))))) (fun ls hl => ?_)
        refine r_aload_n C.1 C.2.1 dL_law_1845 rfl (lv_at hl 3 rfl) ?_
        refine c_V C hS hmc hl.1 (ci := 4) rfl hw.1 (kX5_strongest C.2.2.2.2.2.2.1) hw.2 (lw_V q3401 q3402 q3403 q83 q3404) ⟨rfl, hdX5_strongest⟩ ⟨Nat.le_of_ble_eq_true rfl, Nat.le_of_ble_eq_true rfl⟩ (rest := []) rfl rfl (Nat.le_of_ble_eq_true rfl) dL_law_1846 (fun ci q z H locs hx hS ht => (show False from hx).elim) (fun v z271 H locs hv hS => ?_)
        obtain ⟨x272, rfl, hw⟩ := hv
        refine r_istore C.1 C.2.1 dL_law_1849 hl (Nat.le_of_ble_eq_true rfl) (ls_new (ls_old 0 rfl rfl (.inr rfl) (ls_old 1 rfl rfl (.inl rfl) (ls_old 2 rfl rfl (.inl rfl) (ls_old 3 rfl rfl (.inl rfl) (ls_old 4 rfl rfl (.inl rfl) (ls_old 5 rfl rfl (.inl rfl) (ls_old 6 rfl rfl (.inl rfl) ls_nil)))))))) (fun ls hl => ?_)
        refine r_aload_n C.1 C.2.1 dL_law_1851 rfl (lv_at hl 4 rfl) ?_
        refine c_V C hS hmc hl.1 (ci := 4) rfl hw.1 (kX5_thrown C.2.2.2.2.2.2.1) hw.2 (lw_V q3161 q3162 q3163 q83 q3164) ⟨rfl, hdX5_thrown⟩ ⟨Nat.le_of_ble_eq_true rfl, Nat.le_of_ble_eq_true rfl⟩ (rest := []) rfl rfl (Nat.le_of_ble_eq_true rfl) dL_law_1852 (fun ci q z H locs hx hS ht => (show False from hx).elim) (fun v z273 H locs hv hS => ?_)
        obtain ⟨x274, rfl, hw⟩ := hv
        refine lv_iload C.1 C.2.1 dL_law_1855 (lv_at hl 1 rfl) ?_
        refine lv_icmp_eq C.1 C.2.1 dL_law_1857 rfl (fun h => ?_) (fun h => ?_)
        · have hw := hw.1 h
          refine lv_iload C.1 C.2.1 dL_law_1862 (lv_at hl 1 rfl) ?_
          refine lv_if_ne C.1 C.2.1 dL_law_1864 rfl (fun h => ?_) (fun h => ?_)
          · have hw := hw.1 h
            exact kL_lawb1879 C hr hin hT hmc hL hK28 hw H locs ls hS (lv_sub hl [2, 3, 4, 5, 6, 7] rfl)
          · have hw := hw.2 h
            refine r_aload_n C.1 C.2.1 dL_law_1867 rfl (lv_at hl 5 rfl) ?_
            refine lv_iconst C.1 C.2.1 (v := 0) dL_law_1868 rfl ?_
            refine r_lald C hS dL_law_1869 hw (fun x275 hw => ?_)
            refine lv_iload C.1 C.2.1 dL_law_1870 (lv_at hl 0 rfl) ?_
            refine lv_i2l C.1 C.2.1 dL_law_1872 rfl ?_
            refine r_lcmp C dL_law_1873 ?_
            refine lv_if_eq C.1 C.2.1 dL_law_1874 rfl (fun h => ?_) (fun h => ?_)
            · have hw := hw.1 h
              exact kL_lawb1879 C hr hin hT hmc hL hK28 hw H locs ls hS (lv_sub hl [2, 3, 4, 5, 6, 7] rfl)
            · have hw := hw.2 h
              refine lv_iconst C.1 C.2.1 (v := 0) dL_law_1877 rfl ?_
              exact r_lawret C hS hmc hr hL dL_law_1878 hw
        · have hw := hw.2 h
          refine lv_iconst C.1 C.2.1 (v := 0) dL_law_1860 rfl ?_
          exact r_lawret C hS hmc hr hL dL_law_1861 hw
      | 27, ht, hx =>
        cases ht
        have hw := hw.2.2.2.2.2.2.2.2.2.2.2.2.2.2.2.2.2.2.2.2.2.2.2.2.2.2.2.1 (sw_eq 27 hx rfl)
        refine r_aload_n C.1 C.2.1 dL_law_1882 rfl (lv_at hl 1 rfl) ?_
        refine c_V C hS hmc hl.1 (ci := 0) rfl hw.1 (kX1_isFair C.2.2.2.2.2.2.1) hw.2 (lw_V q2302 q2303 q2304 q67 q2305) ⟨rfl, hdX1_isFair⟩ ⟨Nat.le_of_ble_eq_true rfl, Nat.le_of_ble_eq_true rfl⟩ (rest := []) rfl rfl (Nat.le_of_ble_eq_true rfl) dL_law_1883 (fun ci q z H locs hx hS ht => (show False from hx).elim) (fun v z276 H locs hv hS => ?_)
        obtain ⟨x277, rfl, hw⟩ := hv
        refine r_aload_n C.1 C.2.1 dL_law_1886 rfl (lv_at hl 2 rfl) ?_
        refine c_V C hS hmc hl.1 (ci := 4) rfl hw.1 (kX5_isFair C.2.2.2.2.2.2.1) hw.2 (lw_V q3409 q3410 q3411 q83 q3412) ⟨rfl, hdX5_isFair⟩ ⟨Nat.le_of_ble_eq_true rfl, Nat.le_of_ble_eq_true rfl⟩ (rest := [.int x277]) rfl rfl (Nat.le_of_ble_eq_true rfl) dL_law_1887 (fun ci q z H locs hx hS ht => (show False from hx).elim) (fun v z278 H locs hv hS => ?_)
        obtain ⟨x279, rfl, hw⟩ := hv
        refine lv_icmp_eq C.1 C.2.1 dL_law_1890 rfl (fun h => ?_) (fun h => ?_)
        · have hw := hw.1 h
          exact kL_lawb2581 C hr hin hT hmc hL hK28 hw H locs ls hS (lv_sub hl [0, 1, 2, 3, 4, 5] rfl)
        · have hw := hw.2 h
          refine lv_iconst C.1 C.2.1 (v := 0) dL_law_1893 rfl ?_
          exact r_lawret C hS hmc hr hL dL_law_1894 hw
      | 28, ht, hx =>
        cases ht
        have hw := hw.2.2.2.2.2.2.2.2.2.2.2.2.2.2.2.2.2.2.2.2.2.2.2.2.2.2.2.2.1 (sw_eq 28 hx rfl)
        refine r_aload_n C.1 C.2.1 dL_law_1895 rfl (lv_at hl 1 rfl) ?_
        refine r_aload_n C.1 C.2.1 dL_law_1896 rfl (lv_at hl 0 rfl) ?_
        refine lv_iload C.1 C.2.1 dL_law_1897 (lv_at hl 5 rfl) ?_
        refine lv_iconst C.1 C.2.1 (v := 1) dL_law_1899 rfl ?_
        refine lv_iadd C.1 C.2.1 dL_law_1900 ?_
        refine r_iald C hS dL_law_1901 hw (fun x280 hw => ?_)
        refine r_aload_n C.1 C.2.1 dL_law_1902 rfl (lv_at hl 0 rfl) ?_
        refine lv_iload C.1 C.2.1 dL_law_1903 (lv_at hl 5 rfl) ?_
        refine lv_iconst C.1 C.2.1 (v := 2) dL_law_1905 rfl ?_
        refine lv_iadd C.1 C.2.1 dL_law_1906 ?_
        refine r_iald C hS dL_law_1907 hw (fun x281 hw => ?_)
        refine r_aload_n C.1 C.2.1 dL_law_1908 rfl (lv_at hl 3 rfl) ?_
        refine c_SX C hS hmc hl.1 (kX0_tell C.2.2.2.2.2.2.1) hw (lw_SW q2674 q2675 q66 q2676) hdX0_tell ⟨Nat.le_of_ble_eq_true rfl, Nat.le_of_ble_eq_true rfl⟩ (rest := []) rfl rfl (Nat.le_of_ble_eq_true rfl) dL_law_1909 (fun ci q z H locs hx hS ht => (show False from hx).elim) (fun v z282 H locs hv hS => ?_)
        obtain ⟨x283, rfl, hw⟩ := hv
        refine r_istore C.1 C.2.1 dL_law_1912 hl (Nat.le_of_ble_eq_true rfl) (ls_new (ls_old 0 rfl rfl (.inl rfl) (ls_old 1 rfl rfl (.inl rfl) (ls_old 2 rfl rfl (.inl rfl) (ls_old 3 rfl rfl (.inl rfl) (ls_old 4 rfl rfl (.inl rfl) (ls_old 5 rfl rfl (.inr rfl) ls_nil))))))) (fun ls hl => ?_)
        refine r_aload_n C.1 C.2.1 dL_law_1914 rfl (lv_at hl 3 rfl) ?_
        refine r_aload_n C.1 C.2.1 dL_law_1915 rfl (lv_at hl 1 rfl) ?_
        refine lv_iload C.1 C.2.1 dL_law_1916 (lv_at hl 6 rfl) ?_
        refine lv_iconst C.1 C.2.1 (v := 1) dL_law_1918 rfl ?_
        refine lv_iadd C.1 C.2.1 dL_law_1919 ?_
        refine r_iald C hS dL_law_1920 hw (fun x284 hw => ?_)
        refine r_aload_n C.1 C.2.1 dL_law_1921 rfl (lv_at hl 1 rfl) ?_
        refine lv_iload C.1 C.2.1 dL_law_1922 (lv_at hl 6 rfl) ?_
        refine lv_iconst C.1 C.2.1 (v := 2) dL_law_1924 rfl ?_
        refine lv_iadd C.1 C.2.1 dL_law_1925 ?_
        refine r_iald C hS dL_law_1926 hw (fun x285 hw => ?_)
        refine c_V C hS hmc hl.1 (ci := 4) rfl hw.1 (kX5_tell C.2.2.2.2.2.2.1) hw.2 (lw_V q3413 q3414 q3415 q83 q3416) ⟨rfl, hdX5_tell⟩ ⟨Nat.le_of_ble_eq_true rfl, Nat.le_of_ble_eq_true rfl⟩ (rest := []) rfl rfl (Nat.le_of_ble_eq_true rfl) dL_law_1927 (fun ci q z H locs hx hS ht => (show False from hx).elim) (fun v z286 H locs hv hS => ?_)
        obtain ⟨x287, rfl, hw⟩ := hv
        refine r_istore C.1 C.2.1 dL_law_1930 hl (Nat.le_of_ble_eq_true rfl) (ls_new (ls_old 0 rfl rfl (.inr rfl) (ls_old 1 rfl rfl (.inl rfl) (ls_old 2 rfl rfl (.inl rfl) (ls_old 3 rfl rfl (.inl rfl) (ls_old 4 rfl rfl (.inl rfl) (ls_old 5 rfl rfl (.inl rfl) (ls_old 6 rfl rfl (.inl rfl) ls_nil)))))))) (fun ls hl => ?_)
        refine r_aload_n C.1 C.2.1 dL_law_1932 rfl (lv_at hl 4 rfl) ?_
        refine c_V C hS hmc hl.1 (ci := 4) rfl hw.1 (kX5_thrown C.2.2.2.2.2.2.1) hw.2 (lw_V q3161 q3162 q3163 q83 q3164) ⟨rfl, hdX5_thrown⟩ ⟨Nat.le_of_ble_eq_true rfl, Nat.le_of_ble_eq_true rfl⟩ (rest := []) rfl rfl (Nat.le_of_ble_eq_true rfl) dL_law_1933 (fun ci q z H locs hx hS ht => (show False from hx).elim) (fun v z288 H locs hv hS => ?_)
        obtain ⟨x289, rfl, hw⟩ := hv
        refine lv_iload C.1 C.2.1 dL_law_1936 (lv_at hl 1 rfl) ?_
        refine lv_icmp_eq C.1 C.2.1 dL_law_1938 rfl (fun h => ?_) (fun h => ?_)
        · have hw := hw.1 h
          refine lv_iload C.1 C.2.1 dL_law_1943 (lv_at hl 1 rfl) ?_
          refine lv_if_ne C.1 C.2.1 dL_law_1945 rfl (fun h => ?_) (fun h => ?_)
          · have hw := hw.1 h
            exact kL_lawb1960 C hr hin hT hmc hL hK28 hw H locs ls hS (lv_sub hl [2, 3, 4, 5, 6, 7] rfl)
          · have hw := hw.2 h
            refine r_aload_n C.1 C.2.1 dL_law_1948 rfl (lv_at hl 5 rfl) ?_
            refine lv_iconst C.1 C.2.1 (v := 0) dL_law_1949 rfl ?_
            refine r_lald C hS dL_law_1950 hw (fun x290 hw => ?_)
            refine lv_iload C.1 C.2.1 dL_law_1951 (lv_at hl 0 rfl) ?_
            refine lv_i2l C.1 C.2.1 dL_law_1953 rfl ?_
            refine r_lcmp C dL_law_1954 ?_
            refine lv_if_eq C.1 C.2.1 dL_law_1955 rfl (fun h => ?_) (fun h => ?_)
            · have hw := hw.1 h
              exact kL_lawb1960 C hr hin hT hmc hL hK28 hw H locs ls hS (lv_sub hl [2, 3, 4, 5, 6, 7] rfl)
            · have hw := hw.2 h
              refine lv_iconst C.1 C.2.1 (v := 0) dL_law_1958 rfl ?_
              exact r_lawret C hS hmc hr hL dL_law_1959 hw
        · have hw := hw.2 h
          refine lv_iconst C.1 C.2.1 (v := 0) dL_law_1941 rfl ?_
          exact r_lawret C hS hmc hr hL dL_law_1942 hw
      | 29, ht, hx =>
        cases ht
        have hw := hw.2.2.2.2.2.2.2.2.2.2.2.2.2.2.2.2.2.2.2.2.2.2.2.2.2.2.2.2.2.1 (sw_eq 29 hx rfl)
        refine r_aload_n C.1 C.2.1 dL_law_1963 rfl (lv_at hl 1 rfl) ?_
        refine r_aload_n C.1 C.2.1 dL_law_1964 rfl (lv_at hl 0 rfl) ?_
        refine lv_iload C.1 C.2.1 dL_law_1965 (lv_at hl 5 rfl) ?_
        refine lv_iconst C.1 C.2.1 (v := 1) dL_law_1967 rfl ?_
        refine lv_iadd C.1 C.2.1 dL_law_1968 ?_
        refine r_iald C hS dL_law_1969 hw (fun x291 hw => ?_)
        refine r_aload_n C.1 C.2.1 dL_law_1970 rfl (lv_at hl 3 rfl) ?_
        refine c_SX C hS hmc hl.1 (kX0_bag C.2.2.2.2.2.2.1) hw (lw_SW q2757 q2758 q66 q2759) hdX0_bag ⟨Nat.le_of_ble_eq_true rfl, Nat.le_of_ble_eq_true rfl⟩ (rest := []) rfl rfl (Nat.le_of_ble_eq_true rfl) dL_law_1971 (fun ci q z H locs hx hS ht => (show False from hx).elim) (fun v z292 H locs hv hS => ?_)
        obtain ⟨x293, rfl, hw⟩ := hv
        refine r_istore C.1 C.2.1 dL_law_1974 hl (Nat.le_of_ble_eq_true rfl) (ls_new (ls_old 0 rfl rfl (.inl rfl) (ls_old 1 rfl rfl (.inl rfl) (ls_old 2 rfl rfl (.inl rfl) (ls_old 3 rfl rfl (.inl rfl) (ls_old 4 rfl rfl (.inl rfl) (ls_old 5 rfl rfl (.inr rfl) ls_nil))))))) (fun ls hl => ?_)
        refine r_aload_n C.1 C.2.1 dL_law_1976 rfl (lv_at hl 3 rfl) ?_
        refine r_aload_n C.1 C.2.1 dL_law_1977 rfl (lv_at hl 1 rfl) ?_
        refine lv_iload C.1 C.2.1 dL_law_1978 (lv_at hl 6 rfl) ?_
        refine lv_iconst C.1 C.2.1 (v := 1) dL_law_1980 rfl ?_
        refine lv_iadd C.1 C.2.1 dL_law_1981 ?_
        refine r_iald C hS dL_law_1982 hw (fun x294 hw => ?_)
        refine c_V C hS hmc hl.1 (ci := 4) rfl hw.1 (kX5_bag C.2.2.2.2.2.2.1) hw.2 (lw_V q3429 q3430 q3431 q83 q3432) ⟨rfl, hdX5_bag⟩ ⟨Nat.le_of_ble_eq_true rfl, Nat.le_of_ble_eq_true rfl⟩ (rest := []) rfl rfl (Nat.le_of_ble_eq_true rfl) dL_law_1983 (fun ci q z H locs hx hS ht => (show False from hx).elim) (fun v z295 H locs hv hS => ?_)
        obtain ⟨x296, rfl, hw⟩ := hv
        refine r_istore C.1 C.2.1 dL_law_1986 hl (Nat.le_of_ble_eq_true rfl) (ls_new (ls_old 0 rfl rfl (.inr rfl) (ls_old 1 rfl rfl (.inl rfl) (ls_old 2 rfl rfl (.inl rfl) (ls_old 3 rfl rfl (.inl rfl) (ls_old 4 rfl rfl (.inl rfl) (ls_old 5 rfl rfl (.inl rfl) (ls_old 6 rfl rfl (.inl rfl) ls_nil)))))))) (fun ls hl => ?_)
        refine r_aload_n C.1 C.2.1 dL_law_1988 rfl (lv_at hl 4 rfl) ?_
        refine c_V C hS hmc hl.1 (ci := 4) rfl hw.1 (kX5_thrown C.2.2.2.2.2.2.1) hw.2 (lw_V q3161 q3162 q3163 q83 q3164) ⟨rfl, hdX5_thrown⟩ ⟨Nat.le_of_ble_eq_true rfl, Nat.le_of_ble_eq_true rfl⟩ (rest := []) rfl rfl (Nat.le_of_ble_eq_true rfl) dL_law_1989 (fun ci q z H locs hx hS ht => (show False from hx).elim) (fun v z297 H locs hv hS => ?_)
        obtain ⟨x298, rfl, hw⟩ := hv
        refine lv_iload C.1 C.2.1 dL_law_1992 (lv_at hl 1 rfl) ?_
        refine lv_icmp_eq C.1 C.2.1 dL_law_1994 rfl (fun h => ?_) (fun h => ?_)
        · have hw := hw.1 h
          refine lv_iload C.1 C.2.1 dL_law_1999 (lv_at hl 1 rfl) ?_
          refine lv_if_ne C.1 C.2.1 dL_law_2001 rfl (fun h => ?_) (fun h => ?_)
          · have hw := hw.1 h
            exact kL_lawb2016 C hr hin hT hmc hL hK28 hw H locs ls hS (lv_sub hl [2, 3, 4, 5, 6, 7] rfl)
          · have hw := hw.2 h
            refine r_aload_n C.1 C.2.1 dL_law_2004 rfl (lv_at hl 5 rfl) ?_
            refine lv_iconst C.1 C.2.1 (v := 0) dL_law_2005 rfl ?_
            refine r_lald C hS dL_law_2006 hw (fun x299 hw => ?_)
            refine lv_iload C.1 C.2.1 dL_law_2007 (lv_at hl 0 rfl) ?_
            refine lv_i2l C.1 C.2.1 dL_law_2009 rfl ?_
            refine r_lcmp C dL_law_2010 ?_
            refine lv_if_eq C.1 C.2.1 dL_law_2011 rfl (fun h => ?_) (fun h => ?_)
            · have hw := hw.1 h
              exact kL_lawb2016 C hr hin hT hmc hL hK28 hw H locs ls hS (lv_sub hl [2, 3, 4, 5, 6, 7] rfl)
            · have hw := hw.2 h
              refine lv_iconst C.1 C.2.1 (v := 0) dL_law_2014 rfl ?_
              exact r_lawret C hS hmc hr hL dL_law_2015 hw
        · have hw := hw.2 h
          refine lv_iconst C.1 C.2.1 (v := 0) dL_law_1997 rfl ?_
          exact r_lawret C hS hmc hr hL dL_law_1998 hw
      | 30, ht, hx =>
        cases ht
        have hw := hw.2.2.2.2.2.2.2.2.2.2.2.2.2.2.2.2.2.2.2.2.2.2.2.2.2.2.2.2.2.2.1 (sw_eq 30 hx rfl)
        refine r_aload_n C.1 C.2.1 dL_law_2019 rfl (lv_at hl 1 rfl) ?_
        refine r_aload_n C.1 C.2.1 dL_law_2020 rfl (lv_at hl 0 rfl) ?_
        refine lv_iload C.1 C.2.1 dL_law_2021 (lv_at hl 5 rfl) ?_
        refine lv_iconst C.1 C.2.1 (v := 1) dL_law_2023 rfl ?_
        refine lv_iadd C.1 C.2.1 dL_law_2024 ?_
        refine r_iald C hS dL_law_2025 hw (fun x300 hw => ?_)
        refine r_aload_n C.1 C.2.1 dL_law_2026 rfl (lv_at hl 3 rfl) ?_
        refine c_SX C hS hmc hl.1 (kX0_character C.2.2.2.2.2.2.1) hw (lw_SW q2773 q2774 q66 q2775) hdX0_character ⟨Nat.le_of_ble_eq_true rfl, Nat.le_of_ble_eq_true rfl⟩ (rest := []) rfl rfl (Nat.le_of_ble_eq_true rfl) dL_law_2027 (fun ci q z H locs hx hS ht => (show False from hx).elim) (fun v z301 H locs hv hS => ?_)
        obtain ⟨x302, rfl, hw⟩ := hv
        refine r_istore C.1 C.2.1 dL_law_2030 hl (Nat.le_of_ble_eq_true rfl) (ls_new (ls_old 0 rfl rfl (.inl rfl) (ls_old 1 rfl rfl (.inl rfl) (ls_old 2 rfl rfl (.inl rfl) (ls_old 3 rfl rfl (.inl rfl) (ls_old 4 rfl rfl (.inl rfl) (ls_old 5 rfl rfl (.inr rfl) ls_nil))))))) (fun ls hl => ?_)
        refine r_aload_n C.1 C.2.1 dL_law_2032 rfl (lv_at hl 3 rfl) ?_
        refine r_aload_n C.1 C.2.1 dL_law_2033 rfl (lv_at hl 1 rfl) ?_
        refine lv_iload C.1 C.2.1 dL_law_2034 (lv_at hl 6 rfl) ?_
        refine lv_iconst C.1 C.2.1 (v := 1) dL_law_2036 rfl ?_
        refine lv_iadd C.1 C.2.1 dL_law_2037 ?_
        refine r_iald C hS dL_law_2038 hw (fun x303 hw => ?_)
        refine c_V C hS hmc hl.1 (ci := 4) rfl hw.1 (kX5_character C.2.2.2.2.2.2.1) hw.2 (lw_V q3433 q3434 q3435 q83 q3436) ⟨rfl, hdX5_character⟩ ⟨Nat.le_of_ble_eq_true rfl, Nat.le_of_ble_eq_true rfl⟩ (rest := []) rfl rfl (Nat.le_of_ble_eq_true rfl) dL_law_2039 (fun ci q z H locs hx hS ht => (show False from hx).elim) (fun v z304 H locs hv hS => ?_)
        obtain ⟨x305, rfl, hw⟩ := hv
        refine r_istore C.1 C.2.1 dL_law_2042 hl (Nat.le_of_ble_eq_true rfl) (ls_new (ls_old 0 rfl rfl (.inr rfl) (ls_old 1 rfl rfl (.inl rfl) (ls_old 2 rfl rfl (.inl rfl) (ls_old 3 rfl rfl (.inl rfl) (ls_old 4 rfl rfl (.inl rfl) (ls_old 5 rfl rfl (.inl rfl) (ls_old 6 rfl rfl (.inl rfl) ls_nil)))))))) (fun ls hl => ?_)
        refine r_aload_n C.1 C.2.1 dL_law_2044 rfl (lv_at hl 4 rfl) ?_
        refine c_V C hS hmc hl.1 (ci := 4) rfl hw.1 (kX5_thrown C.2.2.2.2.2.2.1) hw.2 (lw_V q3161 q3162 q3163 q83 q3164) ⟨rfl, hdX5_thrown⟩ ⟨Nat.le_of_ble_eq_true rfl, Nat.le_of_ble_eq_true rfl⟩ (rest := []) rfl rfl (Nat.le_of_ble_eq_true rfl) dL_law_2045 (fun ci q z H locs hx hS ht => (show False from hx).elim) (fun v z306 H locs hv hS => ?_)
        obtain ⟨x307, rfl, hw⟩ := hv
        refine lv_iload C.1 C.2.1 dL_law_2048 (lv_at hl 1 rfl) ?_
        refine lv_icmp_eq C.1 C.2.1 dL_law_2050 rfl (fun h => ?_) (fun h => ?_)
        · have hw := hw.1 h
          refine lv_iload C.1 C.2.1 dL_law_2055 (lv_at hl 1 rfl) ?_
          refine lv_if_ne C.1 C.2.1 dL_law_2057 rfl (fun h => ?_) (fun h => ?_)
          · have hw := hw.1 h
            exact kL_lawb2072 C hr hin hT hmc hL hK28 hw H locs ls hS (lv_sub hl [2, 3, 4, 5, 6, 7] rfl)
          · have hw := hw.2 h
            refine r_aload_n C.1 C.2.1 dL_law_2060 rfl (lv_at hl 5 rfl) ?_
            refine lv_iconst C.1 C.2.1 (v := 0) dL_law_2061 rfl ?_
            refine r_lald C hS dL_law_2062 hw (fun x308 hw => ?_)
            refine lv_iload C.1 C.2.1 dL_law_2063 (lv_at hl 0 rfl) ?_
            refine lv_i2l C.1 C.2.1 dL_law_2065 rfl ?_
            refine r_lcmp C dL_law_2066 ?_
            refine lv_if_eq C.1 C.2.1 dL_law_2067 rfl (fun h => ?_) (fun h => ?_)
            · have hw := hw.1 h
              exact kL_lawb2072 C hr hin hT hmc hL hK28 hw H locs ls hS (lv_sub hl [2, 3, 4, 5, 6, 7] rfl)
            · have hw := hw.2 h
              refine lv_iconst C.1 C.2.1 (v := 0) dL_law_2070 rfl ?_
              exact r_lawret C hS hmc hr hL dL_law_2071 hw
        · have hw := hw.2 h
          refine lv_iconst C.1 C.2.1 (v := 0) dL_law_2053 rfl ?_
          exact r_lawret C hS hmc hr hL dL_law_2054 hw
      | 31, ht, hx =>
        cases ht
        have hw := hw.2.2.2.2.2.2.2.2.2.2.2.2.2.2.2.2.2.2.2.2.2.2.2.2.2.2.2.2.2.2.2.1 (sw_eq 31 hx rfl)
        refine r_aload_n C.1 C.2.1 dL_law_2075 rfl (lv_at hl 1 rfl) ?_
        refine r_aload C.1 C.2.1 dL_law_2076 (lv_at hl 4 rfl) ?_
        refine c_SX C hS hmc hl.1 (kX0_meanWear C.2.2.2.2.2.2.1) hw (lw_SW q2781 q2782 q66 q2783) hdX0_meanWear ⟨Nat.le_of_ble_eq_true rfl, Nat.le_of_ble_eq_true rfl⟩ (rest := []) rfl rfl (Nat.le_of_ble_eq_true rfl) dL_law_2078 (fun ci q z H locs hx hS ht => (show False from hx).elim) (fun v z309 H locs hv hS => ?_)
        obtain ⟨x310, rfl, hw⟩ := hv
        refine r_istore C.1 C.2.1 dL_law_2081 hl (Nat.le_of_ble_eq_true rfl) (ls_new (ls_old 0 rfl rfl (.inl rfl) (ls_old 1 rfl rfl (.inl rfl) (ls_old 2 rfl rfl (.inl rfl) (ls_old 3 rfl rfl (.inl rfl) (ls_old 4 rfl rfl (.inl rfl) (ls_old 5 rfl rfl (.inr rfl) ls_nil))))))) (fun ls hl => ?_)
        refine r_aload_n C.1 C.2.1 dL_law_2083 rfl (lv_at hl 3 rfl) ?_
        refine c_V C hS hmc hl.1 (ci := 4) rfl hw.1 (kX5_meanWear C.2.2.2.2.2.2.1) hw.2 (lw_V q3437 q3438 q3439 q83 q3440) ⟨rfl, hdX5_meanWear⟩ ⟨Nat.le_of_ble_eq_true rfl, Nat.le_of_ble_eq_true rfl⟩ (rest := []) rfl rfl (Nat.le_of_ble_eq_true rfl) dL_law_2084 (fun ci q z H locs hx hS ht => (show False from hx).elim) (fun v z311 H locs hv hS => ?_)
        obtain ⟨x312, rfl, hw⟩ := hv
        refine r_dstore C.1 C.2.1 dL_law_2087 hl (Nat.le_of_ble_eq_true rfl) (ls_new2 (ls_old2 0 rfl rfl rfl (.inr rfl) (ls_old2 1 rfl rfl rfl (.inl rfl) (ls_old2 2 rfl rfl rfl (.inl rfl) (ls_old2 3 rfl rfl rfl (.inl rfl) (ls_old2 4 rfl rfl rfl (.inl rfl) (ls_old2 5 rfl rfl rfl (.inl rfl) (ls_old2 6 rfl rfl rfl (.inl rfl) ls_nil2)))))))) (fun ls hl => ?_)
        refine r_aload_n C.1 C.2.1 dL_law_2089 rfl (lv_at hl 4 rfl) ?_
        refine c_V C hS hmc hl.1 (ci := 4) rfl hw.1 (kX5_thrown C.2.2.2.2.2.2.1) hw.2 (lw_V q3161 q3162 q3163 q83 q3164) ⟨rfl, hdX5_thrown⟩ ⟨Nat.le_of_ble_eq_true rfl, Nat.le_of_ble_eq_true rfl⟩ (rest := []) rfl rfl (Nat.le_of_ble_eq_true rfl) dL_law_2090 (fun ci q z H locs hx hS ht => (show False from hx).elim) (fun v z313 H locs hv hS => ?_)
        obtain ⟨x314, rfl, hw⟩ := hv
        refine lv_iload C.1 C.2.1 dL_law_2093 (lv_at hl 1 rfl) ?_
        refine lv_icmp_eq C.1 C.2.1 dL_law_2095 rfl (fun h => ?_) (fun h => ?_)
        · have hw := hw.1 h
          refine lv_iload C.1 C.2.1 dL_law_2100 (lv_at hl 1 rfl) ?_
          refine lv_if_ne C.1 C.2.1 dL_law_2102 rfl (fun h => ?_) (fun h => ?_)
          · have hw := hw.1 h
            exact kL_lawb2137 C hr hin hT hmc hL hK28 hw H locs ls hS (lv_sub hl [2, 3, 4, 5, 6, 7] rfl)
          · have hw := hw.2 h
            refine r_aload C.1 C.2.1 dL_law_2105 (lv_at hl 6 rfl) ?_
            refine lv_iconst C.1 C.2.1 (v := 0) dL_law_2107 rfl ?_
            refine r_dald C hS dL_law_2108 hw (fun x315 hw => ?_)
            refine lv_dload C.1 C.2.1 dL_law_2109 (lv_at hl 0 rfl) ?_
            refine lv_dcmp C.1 C.2.1 dL_law_2111 ?_
            refine lv_if_eq C.1 C.2.1 dL_law_2112 rfl (fun h => ?_) (fun h => ?_)
            · have hw := hw.1 h
              exact kL_lawb2137 C hr hin hT hmc hL hK28 hw H locs ls hS (lv_sub hl [2, 3, 4, 5, 6, 7] rfl)
            · have hw := hw.2 h
              refine r_aload C.1 C.2.1 dL_law_2115 (lv_at hl 6 rfl) ?_
              refine lv_iconst C.1 C.2.1 (v := 0) dL_law_2117 rfl ?_
              refine r_dald C hS dL_law_2118 hw (fun x316 hw => ?_)
              refine r_aload C.1 C.2.1 dL_law_2119 (lv_at hl 6 rfl) ?_
              refine lv_iconst C.1 C.2.1 (v := 0) dL_law_2121 rfl ?_
              refine r_dald C hS dL_law_2122 hw (fun x317 hw => ?_)
              refine lv_dcmp C.1 C.2.1 dL_law_2123 ?_
              refine lv_if_eq C.1 C.2.1 dL_law_2124 rfl (fun h => ?_) (fun h => ?_)
              · have hw := hw.1 h
                exact kL_lawb2135 C hr hin hT hmc hL  hw H locs ls hS (lv_sub hl [] rfl)
              · have hw := hw.2 h
                refine lv_dload C.1 C.2.1 dL_law_2127 (lv_at hl 0 rfl) ?_
                refine lv_dload C.1 C.2.1 dL_law_2129 (lv_at hl 0 rfl) ?_
                refine lv_dcmp C.1 C.2.1 dL_law_2131 ?_
                refine lv_if_ne C.1 C.2.1 dL_law_2132 rfl (fun h => ?_) (fun h => ?_)
                · have hw := hw.1 h
                  exact kL_lawb2137 C hr hin hT hmc hL hK28 hw H locs ls hS (lv_sub hl [2, 3, 4, 5, 6, 7] rfl)
                · have hw := hw.2 h
                  exact kL_lawb2135 C hr hin hT hmc hL  hw H locs ls hS (lv_sub hl [] rfl)
        · have hw := hw.2 h
          refine lv_iconst C.1 C.2.1 (v := 0) dL_law_2098 rfl ?_
          exact r_lawret C hS hmc hr hL dL_law_2099 hw
      | 32, ht, hx =>
        cases ht
        have hw := hw.2.2.2.2.2.2.2.2.2.2.2.2.2.2.2.2.2.2.2.2.2.2.2.2.2.2.2.2.2.2.2.2.1 (sw_eq 32 hx rfl)
        refine r_aload_n C.1 C.2.1 dL_law_2140 rfl (lv_at hl 1 rfl) ?_
        refine r_aload C.1 C.2.1 dL_law_2141 (lv_at hl 4 rfl) ?_
        refine c_SX C hS hmc hl.1 (kX0_believedShare C.2.2.2.2.2.2.1) hw (lw_SW q2813 q2814 q66 q2815) hdX0_believedShare ⟨Nat.le_of_ble_eq_true rfl, Nat.le_of_ble_eq_true rfl⟩ (rest := []) rfl rfl (Nat.le_of_ble_eq_true rfl) dL_law_2143 (fun ci q z H locs hx hS ht => (show False from hx).elim) (fun v z318 H locs hv hS => ?_)
        obtain ⟨x319, rfl, hw⟩ := hv
        refine r_istore C.1 C.2.1 dL_law_2146 hl (Nat.le_of_ble_eq_true rfl) (ls_new (ls_old 0 rfl rfl (.inl rfl) (ls_old 1 rfl rfl (.inl rfl) (ls_old 2 rfl rfl (.inl rfl) (ls_old 3 rfl rfl (.inl rfl) (ls_old 4 rfl rfl (.inl rfl) (ls_old 5 rfl rfl (.inr rfl) ls_nil))))))) (fun ls hl => ?_)
        refine r_aload_n C.1 C.2.1 dL_law_2148 rfl (lv_at hl 3 rfl) ?_
        refine c_V C hS hmc hl.1 (ci := 4) rfl hw.1 (kX5_believedShare C.2.2.2.2.2.2.1) hw.2 (lw_V q3445 q3446 q3447 q83 q3448) ⟨rfl, hdX5_believedShare⟩ ⟨Nat.le_of_ble_eq_true rfl, Nat.le_of_ble_eq_true rfl⟩ (rest := []) rfl rfl (Nat.le_of_ble_eq_true rfl) dL_law_2149 (fun ci q z H locs hx hS ht => (show False from hx).elim) (fun v z320 H locs hv hS => ?_)
        obtain ⟨x321, rfl, hw⟩ := hv
        refine r_fstore C.1 C.2.1 dL_law_2152 hl (Nat.le_of_ble_eq_true rfl) (ls_new (ls_old 0 rfl rfl (.inr rfl) (ls_old 1 rfl rfl (.inl rfl) (ls_old 2 rfl rfl (.inl rfl) (ls_old 3 rfl rfl (.inl rfl) (ls_old 4 rfl rfl (.inl rfl) (ls_old 5 rfl rfl (.inl rfl) (ls_old 6 rfl rfl (.inl rfl) ls_nil)))))))) (fun ls hl => ?_)
        refine r_aload_n C.1 C.2.1 dL_law_2154 rfl (lv_at hl 4 rfl) ?_
        refine c_V C hS hmc hl.1 (ci := 4) rfl hw.1 (kX5_thrown C.2.2.2.2.2.2.1) hw.2 (lw_V q3161 q3162 q3163 q83 q3164) ⟨rfl, hdX5_thrown⟩ ⟨Nat.le_of_ble_eq_true rfl, Nat.le_of_ble_eq_true rfl⟩ (rest := []) rfl rfl (Nat.le_of_ble_eq_true rfl) dL_law_2155 (fun ci q z H locs hx hS ht => (show False from hx).elim) (fun v z322 H locs hv hS => ?_)
        obtain ⟨x323, rfl, hw⟩ := hv
        refine lv_iload C.1 C.2.1 dL_law_2158 (lv_at hl 1 rfl) ?_
        refine lv_icmp_eq C.1 C.2.1 dL_law_2160 rfl (fun h => ?_) (fun h => ?_)
        · have hw := hw.1 h
          refine lv_iload C.1 C.2.1 dL_law_2165 (lv_at hl 1 rfl) ?_
          refine lv_if_ne C.1 C.2.1 dL_law_2167 rfl (fun h => ?_) (fun h => ?_)
          · have hw := hw.1 h
            exact kL_lawb2203 C hr hin hT hmc hL hK28 hw H locs ls hS (lv_sub hl [2, 3, 4, 5, 6, 7] rfl)
          · have hw := hw.2 h
            refine r_aload C.1 C.2.1 dL_law_2170 (lv_at hl 6 rfl) ?_
            refine lv_iconst C.1 C.2.1 (v := 0) dL_law_2172 rfl ?_
            refine r_dald C hS dL_law_2173 hw (fun x324 hw => ?_)
            refine lv_fload C.1 C.2.1 dL_law_2174 (lv_at hl 0 rfl) ?_
            refine lv_f2d C.1 C.2.1 dL_law_2176 hw.1 ?_
            have hw := hw.2
            refine lv_dcmp C.1 C.2.1 dL_law_2177 ?_
            refine lv_if_eq C.1 C.2.1 dL_law_2178 rfl (fun h => ?_) (fun h => ?_)
            · have hw := hw.1 h
              exact kL_lawb2203 C hr hin hT hmc hL hK28 hw H locs ls hS (lv_sub hl [2, 3, 4, 5, 6, 7] rfl)
            · have hw := hw.2 h
              refine r_aload C.1 C.2.1 dL_law_2181 (lv_at hl 6 rfl) ?_
              refine lv_iconst C.1 C.2.1 (v := 0) dL_law_2183 rfl ?_
              refine r_dald C hS dL_law_2184 hw (fun x325 hw => ?_)
              refine r_aload C.1 C.2.1 dL_law_2185 (lv_at hl 6 rfl) ?_
              refine lv_iconst C.1 C.2.1 (v := 0) dL_law_2187 rfl ?_
              refine r_dald C hS dL_law_2188 hw (fun x326 hw => ?_)
              refine lv_dcmp C.1 C.2.1 dL_law_2189 ?_
              refine lv_if_eq C.1 C.2.1 dL_law_2190 rfl (fun h => ?_) (fun h => ?_)
              · have hw := hw.1 h
                exact kL_lawb2201 C hr hin hT hmc hL  hw H locs ls hS (lv_sub hl [] rfl)
              · have hw := hw.2 h
                refine lv_fload C.1 C.2.1 dL_law_2193 (lv_at hl 0 rfl) ?_
                refine lv_fload C.1 C.2.1 dL_law_2195 (lv_at hl 0 rfl) ?_
                refine lv_fcmp C.1 C.2.1 dL_law_2197 ?_
                refine lv_if_ne C.1 C.2.1 dL_law_2198 rfl (fun h => ?_) (fun h => ?_)
                · have hw := hw.1 h
                  exact kL_lawb2203 C hr hin hT hmc hL hK28 hw H locs ls hS (lv_sub hl [2, 3, 4, 5, 6, 7] rfl)
                · have hw := hw.2 h
                  exact kL_lawb2201 C hr hin hT hmc hL  hw H locs ls hS (lv_sub hl [] rfl)
        · have hw := hw.2 h
          refine lv_iconst C.1 C.2.1 (v := 0) dL_law_2163 rfl ?_
          exact r_lawret C hS hmc hr hL dL_law_2164 hw
      | 33, ht, hx =>
        cases ht
        have hw := hw.2.2.2.2.2.2.2.2.2.2.2.2.2.2.2.2.2.2.2.2.2.2.2.2.2.2.2.2.2.2.2.2.2.1 (sw_eq 33 hx rfl)
        refine r_aload_n C.1 C.2.1 dL_law_2206 rfl (lv_at hl 1 rfl) ?_
        refine r_aload_n C.1 C.2.1 dL_law_2207 rfl (lv_at hl 0 rfl) ?_
        refine lv_iload C.1 C.2.1 dL_law_2208 (lv_at hl 5 rfl) ?_
        refine lv_iconst C.1 C.2.1 (v := 1) dL_law_2210 rfl ?_
        refine lv_iadd C.1 C.2.1 dL_law_2211 ?_
        refine r_iald C hS dL_law_2212 hw (fun x327 hw => ?_)
        refine r_aload_n C.1 C.2.1 dL_law_2213 rfl (lv_at hl 3 rfl) ?_
        refine c_SX C hS hmc hl.1 (kX0_account C.2.2.2.2.2.2.1) hw (lw_SW q2825 q2826 q66 q2827) hdX0_account ⟨Nat.le_of_ble_eq_true rfl, Nat.le_of_ble_eq_true rfl⟩ (rest := []) rfl rfl (Nat.le_of_ble_eq_true rfl) dL_law_2214 (fun ci q z H locs hx hS ht => (show False from hx).elim) (fun v z328 H locs hv hS => ?_)
        obtain ⟨x329, rfl, hw⟩ := hv
        refine r_istore C.1 C.2.1 dL_law_2217 hl (Nat.le_of_ble_eq_true rfl) (ls_new (ls_old 0 rfl rfl (.inl rfl) (ls_old 1 rfl rfl (.inl rfl) (ls_old 2 rfl rfl (.inl rfl) (ls_old 3 rfl rfl (.inl rfl) (ls_old 4 rfl rfl (.inl rfl) (ls_old 5 rfl rfl (.inr rfl) ls_nil))))))) (fun ls hl => ?_)
        refine r_aload_n C.1 C.2.1 dL_law_2219 rfl (lv_at hl 3 rfl) ?_
        refine r_aload_n C.1 C.2.1 dL_law_2220 rfl (lv_at hl 1 rfl) ?_
        refine lv_iload C.1 C.2.1 dL_law_2221 (lv_at hl 6 rfl) ?_
        refine lv_iconst C.1 C.2.1 (v := 1) dL_law_2223 rfl ?_
        refine lv_iadd C.1 C.2.1 dL_law_2224 ?_
        refine r_iald C hS dL_law_2225 hw (fun x330 hw => ?_)
        refine c_V C hS hmc hl.1 (ci := 4) rfl hw.1 (kX5_account C.2.2.2.2.2.2.1) hw.2 (lw_V q3449 q3450 q3451 q83 q3452) ⟨rfl, hdX5_account⟩ ⟨Nat.le_of_ble_eq_true rfl, Nat.le_of_ble_eq_true rfl⟩ (rest := []) rfl rfl (Nat.le_of_ble_eq_true rfl) dL_law_2226 (fun ci q z H locs hx hS ht => (show False from hx).elim) (fun v z331 H locs hv hS => ?_)
        obtain ⟨x332, rfl, hw⟩ := hv
        refine r_istore C.1 C.2.1 dL_law_2229 hl (Nat.le_of_ble_eq_true rfl) (ls_new (ls_old 0 rfl rfl (.inr rfl) (ls_old 1 rfl rfl (.inl rfl) (ls_old 2 rfl rfl (.inl rfl) (ls_old 3 rfl rfl (.inl rfl) (ls_old 4 rfl rfl (.inl rfl) (ls_old 5 rfl rfl (.inl rfl) (ls_old 6 rfl rfl (.inl rfl) ls_nil)))))))) (fun ls hl => ?_)
        refine r_aload_n C.1 C.2.1 dL_law_2231 rfl (lv_at hl 4 rfl) ?_
        refine c_V C hS hmc hl.1 (ci := 4) rfl hw.1 (kX5_thrown C.2.2.2.2.2.2.1) hw.2 (lw_V q3161 q3162 q3163 q83 q3164) ⟨rfl, hdX5_thrown⟩ ⟨Nat.le_of_ble_eq_true rfl, Nat.le_of_ble_eq_true rfl⟩ (rest := []) rfl rfl (Nat.le_of_ble_eq_true rfl) dL_law_2232 (fun ci q z H locs hx hS ht => (show False from hx).elim) (fun v z333 H locs hv hS => ?_)
        obtain ⟨x334, rfl, hw⟩ := hv
        refine lv_iload C.1 C.2.1 dL_law_2235 (lv_at hl 1 rfl) ?_
        refine lv_icmp_eq C.1 C.2.1 dL_law_2237 rfl (fun h => ?_) (fun h => ?_)
        · have hw := hw.1 h
          refine lv_iload C.1 C.2.1 dL_law_2242 (lv_at hl 1 rfl) ?_
          refine lv_if_ne C.1 C.2.1 dL_law_2244 rfl (fun h => ?_) (fun h => ?_)
          · have hw := hw.1 h
            exact kL_lawb2259 C hr hin hT hmc hL hK28 hw H locs ls hS (lv_sub hl [2, 3, 4, 5, 6, 7] rfl)
          · have hw := hw.2 h
            refine r_aload_n C.1 C.2.1 dL_law_2247 rfl (lv_at hl 5 rfl) ?_
            refine lv_iconst C.1 C.2.1 (v := 0) dL_law_2248 rfl ?_
            refine r_lald C hS dL_law_2249 hw (fun x335 hw => ?_)
            refine lv_iload C.1 C.2.1 dL_law_2250 (lv_at hl 0 rfl) ?_
            refine lv_i2l C.1 C.2.1 dL_law_2252 rfl ?_
            refine r_lcmp C dL_law_2253 ?_
            refine lv_if_eq C.1 C.2.1 dL_law_2254 rfl (fun h => ?_) (fun h => ?_)
            · have hw := hw.1 h
              exact kL_lawb2259 C hr hin hT hmc hL hK28 hw H locs ls hS (lv_sub hl [2, 3, 4, 5, 6, 7] rfl)
            · have hw := hw.2 h
              refine lv_iconst C.1 C.2.1 (v := 0) dL_law_2257 rfl ?_
              exact r_lawret C hS hmc hr hL dL_law_2258 hw
        · have hw := hw.2 h
          refine lv_iconst C.1 C.2.1 (v := 0) dL_law_2240 rfl ?_
          exact r_lawret C hS hmc hr hL dL_law_2241 hw
      | 34, ht, hx =>
        cases ht
        have hw := hw.2.2.2.2.2.2.2.2.2.2.2.2.2.2.2.2.2.2.2.2.2.2.2.2.2.2.2.2.2.2.2.2.2.2.1 (sw_eq 34 hx rfl)
        refine r_aload_n C.1 C.2.1 dL_law_2262 rfl (lv_at hl 1 rfl) ?_
        refine r_aload_n C.1 C.2.1 dL_law_2263 rfl (lv_at hl 0 rfl) ?_
        refine lv_iload C.1 C.2.1 dL_law_2264 (lv_at hl 5 rfl) ?_
        refine lv_iconst C.1 C.2.1 (v := 1) dL_law_2266 rfl ?_
        refine lv_iadd C.1 C.2.1 dL_law_2267 ?_
        refine r_iald C hS dL_law_2268 hw (fun x336 hw => ?_)
        refine lv_i2c C.1 C.2.1 dL_law_2269 rfl ?_
        refine r_aload_n C.1 C.2.1 dL_law_2270 rfl (lv_at hl 3 rfl) ?_
        refine c_SX C hS hmc hl.1 (kX0_append C.2.2.2.2.2.2.1) hw (lw_SW q2836 q2837 q66 q2838) hdX0_append ⟨Nat.le_of_ble_eq_true rfl, Nat.le_of_ble_eq_true rfl⟩ (rest := []) rfl rfl (Nat.le_of_ble_eq_true rfl) dL_law_2271 (fun ci q z H locs hx hS ht => (show False from hx).elim) (fun v z337 H locs hv hS => ?_)
        obtain ⟨x338, rfl, hw⟩ := hv
        refine r_istore C.1 C.2.1 dL_law_2274 hl (Nat.le_of_ble_eq_true rfl) (ls_new (ls_old 0 rfl rfl (.inl rfl) (ls_old 1 rfl rfl (.inl rfl) (ls_old 2 rfl rfl (.inl rfl) (ls_old 3 rfl rfl (.inl rfl) (ls_old 4 rfl rfl (.inl rfl) (ls_old 5 rfl rfl (.inr rfl) ls_nil))))))) (fun ls hl => ?_)
        refine r_aload_n C.1 C.2.1 dL_law_2276 rfl (lv_at hl 3 rfl) ?_
        refine r_aload_n C.1 C.2.1 dL_law_2277 rfl (lv_at hl 1 rfl) ?_
        refine lv_iload C.1 C.2.1 dL_law_2278 (lv_at hl 6 rfl) ?_
        refine lv_iconst C.1 C.2.1 (v := 1) dL_law_2280 rfl ?_
        refine lv_iadd C.1 C.2.1 dL_law_2281 ?_
        refine r_iald C hS dL_law_2282 hw (fun x339 hw => ?_)
        refine lv_i2c C.1 C.2.1 dL_law_2283 rfl ?_
        refine c_V C hS hmc hl.1 (ci := 4) rfl hw.1 (kX5_append C.2.2.2.2.2.2.1) hw.2 (lw_V q3457 q3458 q3459 q83 q3460) ⟨rfl, hdX5_append⟩ ⟨Nat.le_of_ble_eq_true rfl, Nat.le_of_ble_eq_true rfl⟩ (rest := []) rfl rfl (Nat.le_of_ble_eq_true rfl) dL_law_2284 (fun ci q z H locs hx hS ht => (show False from hx).elim) (fun v z340 H locs hv hS => ?_)
        obtain ⟨x341, rfl, hw⟩ := hv
        refine r_istore C.1 C.2.1 dL_law_2287 hl (Nat.le_of_ble_eq_true rfl) (ls_new (ls_old 0 rfl rfl (.inr rfl) (ls_old 1 rfl rfl (.inl rfl) (ls_old 2 rfl rfl (.inl rfl) (ls_old 3 rfl rfl (.inl rfl) (ls_old 4 rfl rfl (.inl rfl) (ls_old 5 rfl rfl (.inl rfl) (ls_old 6 rfl rfl (.inl rfl) ls_nil)))))))) (fun ls hl => ?_)
        refine r_aload_n C.1 C.2.1 dL_law_2289 rfl (lv_at hl 4 rfl) ?_
        refine c_V C hS hmc hl.1 (ci := 4) rfl hw.1 (kX5_thrown C.2.2.2.2.2.2.1) hw.2 (lw_V q3161 q3162 q3163 q83 q3164) ⟨rfl, hdX5_thrown⟩ ⟨Nat.le_of_ble_eq_true rfl, Nat.le_of_ble_eq_true rfl⟩ (rest := []) rfl rfl (Nat.le_of_ble_eq_true rfl) dL_law_2290 (fun ci q z H locs hx hS ht => (show False from hx).elim) (fun v z342 H locs hv hS => ?_)
        obtain ⟨x343, rfl, hw⟩ := hv
        refine lv_iload C.1 C.2.1 dL_law_2293 (lv_at hl 1 rfl) ?_
        refine lv_icmp_eq C.1 C.2.1 dL_law_2295 rfl (fun h => ?_) (fun h => ?_)
        · have hw := hw.1 h
          refine lv_iload C.1 C.2.1 dL_law_2300 (lv_at hl 1 rfl) ?_
          refine lv_if_ne C.1 C.2.1 dL_law_2302 rfl (fun h => ?_) (fun h => ?_)
          · have hw := hw.1 h
            exact kL_lawb2317 C hr hin hT hmc hL hK28 hw H locs ls hS (lv_sub hl [2, 3, 4, 5, 6, 7] rfl)
          · have hw := hw.2 h
            refine r_aload_n C.1 C.2.1 dL_law_2305 rfl (lv_at hl 5 rfl) ?_
            refine lv_iconst C.1 C.2.1 (v := 0) dL_law_2306 rfl ?_
            refine r_lald C hS dL_law_2307 hw (fun x344 hw => ?_)
            refine lv_iload C.1 C.2.1 dL_law_2308 (lv_at hl 0 rfl) ?_
            refine lv_i2l C.1 C.2.1 dL_law_2310 rfl ?_
            refine r_lcmp C dL_law_2311 ?_
            refine lv_if_eq C.1 C.2.1 dL_law_2312 rfl (fun h => ?_) (fun h => ?_)
            · have hw := hw.1 h
              exact kL_lawb2317 C hr hin hT hmc hL hK28 hw H locs ls hS (lv_sub hl [2, 3, 4, 5, 6, 7] rfl)
            · have hw := hw.2 h
              refine lv_iconst C.1 C.2.1 (v := 0) dL_law_2315 rfl ?_
              exact r_lawret C hS hmc hr hL dL_law_2316 hw
        · have hw := hw.2 h
          refine lv_iconst C.1 C.2.1 (v := 0) dL_law_2298 rfl ?_
          exact r_lawret C hS hmc hr hL dL_law_2299 hw
      | 35, ht, hx =>
        cases ht
        have hw := hw.2.2.2.2.2.2.2.2.2.2.2.2.2.2.2.2.2.2.2.2.2.2.2.2.2.2.2.2.2.2.2.2.2.2.2.1 (sw_eq 35 hx rfl)
        refine r_aload_n C.1 C.2.1 dL_law_2320 rfl (lv_at hl 1 rfl) ?_
        refine r_aload_n C.1 C.2.1 dL_law_2321 rfl (lv_at hl 3 rfl) ?_
        refine c_SX C hS hmc hl.1 (kX0_read C.2.2.2.2.2.2.1) hw (lw_SW q2846 q2847 q66 q2848) hdX0_read ⟨Nat.le_of_ble_eq_true rfl, Nat.le_of_ble_eq_true rfl⟩ (rest := []) rfl rfl (Nat.le_of_ble_eq_true rfl) dL_law_2322 (fun ci q z H locs hx hS ht => (show False from hx).elim) (fun v z345 H locs hv hS => ?_)
        obtain ⟨x346, rfl, hw⟩ := hv
        refine r_istore C.1 C.2.1 dL_law_2325 hl (Nat.le_of_ble_eq_true rfl) (ls_new (ls_old 0 rfl rfl (.inl rfl) (ls_old 1 rfl rfl (.inl rfl) (ls_old 2 rfl rfl (.inl rfl) (ls_old 3 rfl rfl (.inl rfl) (ls_old 4 rfl rfl (.inl rfl) (ls_old 5 rfl rfl (.inr rfl) ls_nil))))))) (fun ls hl => ?_)
        refine r_aload_n C.1 C.2.1 dL_law_2327 rfl (lv_at hl 3 rfl) ?_
        refine c_V C hS hmc hl.1 (ci := 4) rfl hw.1 (kX5_read C.2.2.2.2.2.2.1) hw.2 (lw_V q3461 q3462 q3463 q83 q3464) ⟨rfl, hdX5_read⟩ ⟨Nat.le_of_ble_eq_true rfl, Nat.le_of_ble_eq_true rfl⟩ (rest := []) rfl rfl (Nat.le_of_ble_eq_true rfl) dL_law_2328 (fun ci q z H locs hx hS ht => (show False from hx).elim) (fun v z347 H locs hv hS => ?_)
        obtain ⟨x348, rfl, hw⟩ := hv
        refine r_istore C.1 C.2.1 dL_law_2331 hl (Nat.le_of_ble_eq_true rfl) (ls_new (ls_old 0 rfl rfl (.inr rfl) (ls_old 1 rfl rfl (.inl rfl) (ls_old 2 rfl rfl (.inl rfl) (ls_old 3 rfl rfl (.inl rfl) (ls_old 4 rfl rfl (.inl rfl) (ls_old 5 rfl rfl (.inl rfl) (ls_old 6 rfl rfl (.inl rfl) ls_nil)))))))) (fun ls hl => ?_)
        refine r_aload_n C.1 C.2.1 dL_law_2333 rfl (lv_at hl 4 rfl) ?_
        refine c_V C hS hmc hl.1 (ci := 4) rfl hw.1 (kX5_thrown C.2.2.2.2.2.2.1) hw.2 (lw_V q3161 q3162 q3163 q83 q3164) ⟨rfl, hdX5_thrown⟩ ⟨Nat.le_of_ble_eq_true rfl, Nat.le_of_ble_eq_true rfl⟩ (rest := []) rfl rfl (Nat.le_of_ble_eq_true rfl) dL_law_2334 (fun ci q z H locs hx hS ht => (show False from hx).elim) (fun v z349 H locs hv hS => ?_)
        obtain ⟨x350, rfl, hw⟩ := hv
        refine lv_iload C.1 C.2.1 dL_law_2337 (lv_at hl 1 rfl) ?_
        refine lv_icmp_eq C.1 C.2.1 dL_law_2339 rfl (fun h => ?_) (fun h => ?_)
        · have hw := hw.1 h
          refine lv_iload C.1 C.2.1 dL_law_2344 (lv_at hl 1 rfl) ?_
          refine lv_if_ne C.1 C.2.1 dL_law_2346 rfl (fun h => ?_) (fun h => ?_)
          · have hw := hw.1 h
            exact kL_lawb2361 C hr hin hT hmc hL hK28 hw H locs ls hS (lv_sub hl [2, 3, 4, 5, 6, 7] rfl)
          · have hw := hw.2 h
            refine r_aload_n C.1 C.2.1 dL_law_2349 rfl (lv_at hl 5 rfl) ?_
            refine lv_iconst C.1 C.2.1 (v := 0) dL_law_2350 rfl ?_
            refine r_lald C hS dL_law_2351 hw (fun x351 hw => ?_)
            refine lv_iload C.1 C.2.1 dL_law_2352 (lv_at hl 0 rfl) ?_
            refine lv_i2l C.1 C.2.1 dL_law_2354 rfl ?_
            refine r_lcmp C dL_law_2355 ?_
            refine lv_if_eq C.1 C.2.1 dL_law_2356 rfl (fun h => ?_) (fun h => ?_)
            · have hw := hw.1 h
              exact kL_lawb2361 C hr hin hT hmc hL hK28 hw H locs ls hS (lv_sub hl [2, 3, 4, 5, 6, 7] rfl)
            · have hw := hw.2 h
              refine lv_iconst C.1 C.2.1 (v := 0) dL_law_2359 rfl ?_
              exact r_lawret C hS hmc hr hL dL_law_2360 hw
        · have hw := hw.2 h
          refine lv_iconst C.1 C.2.1 (v := 0) dL_law_2342 rfl ?_
          exact r_lawret C hS hmc hr hL dL_law_2343 hw
      | 36, ht, hx =>
        cases ht
        have hw := hw.2.2.2.2.2.2.2.2.2.2.2.2.2.2.2.2.2.2.2.2.2.2.2.2.2.2.2.2.2.2.2.2.2.2.2.2.1 (sw_eq 36 hx rfl)
        refine r_aload_n C.1 C.2.1 dL_law_2364 rfl (lv_at hl 1 rfl) ?_
        refine r_aload_n C.1 C.2.1 dL_law_2365 rfl (lv_at hl 3 rfl) ?_
        refine c_SX C hS hmc hl.1 (kX0_errorPosition C.2.2.2.2.2.2.1) hw (lw_SW q3066 q3067 q66 q3068) hdX0_errorPosition ⟨Nat.le_of_ble_eq_true rfl, Nat.le_of_ble_eq_true rfl⟩ (rest := []) rfl rfl (Nat.le_of_ble_eq_true rfl) dL_law_2366 (fun ci q z H locs hx hS ht => (show False from hx).elim) (fun v z352 H locs hv hS => ?_)
        obtain ⟨x353, rfl, hw⟩ := hv
        refine r_istore C.1 C.2.1 dL_law_2369 hl (Nat.le_of_ble_eq_true rfl) (ls_new (ls_old 0 rfl rfl (.inl rfl) (ls_old 1 rfl rfl (.inl rfl) (ls_old 2 rfl rfl (.inl rfl) (ls_old 3 rfl rfl (.inl rfl) (ls_old 4 rfl rfl (.inl rfl) (ls_old 5 rfl rfl (.inr rfl) ls_nil))))))) (fun ls hl => ?_)
        refine r_aload_n C.1 C.2.1 dL_law_2371 rfl (lv_at hl 3 rfl) ?_
        refine c_V C hS hmc hl.1 (ci := 4) rfl hw.1 (kX5_errorPosition C.2.2.2.2.2.2.1) hw.2 (lw_V q3496 q3497 q3498 q83 q3499) ⟨rfl, hdX5_errorPosition⟩ ⟨Nat.le_of_ble_eq_true rfl, Nat.le_of_ble_eq_true rfl⟩ (rest := []) rfl rfl (Nat.le_of_ble_eq_true rfl) dL_law_2372 (fun ci q z H locs hx hS ht => (show False from hx).elim) (fun v z354 H locs hv hS => ?_)
        obtain ⟨x355, rfl, hw⟩ := hv
        refine r_istore C.1 C.2.1 dL_law_2375 hl (Nat.le_of_ble_eq_true rfl) (ls_new (ls_old 0 rfl rfl (.inr rfl) (ls_old 1 rfl rfl (.inl rfl) (ls_old 2 rfl rfl (.inl rfl) (ls_old 3 rfl rfl (.inl rfl) (ls_old 4 rfl rfl (.inl rfl) (ls_old 5 rfl rfl (.inl rfl) (ls_old 6 rfl rfl (.inl rfl) ls_nil)))))))) (fun ls hl => ?_)
        refine r_aload_n C.1 C.2.1 dL_law_2377 rfl (lv_at hl 4 rfl) ?_
        refine c_V C hS hmc hl.1 (ci := 4) rfl hw.1 (kX5_thrown C.2.2.2.2.2.2.1) hw.2 (lw_V q3161 q3162 q3163 q83 q3164) ⟨rfl, hdX5_thrown⟩ ⟨Nat.le_of_ble_eq_true rfl, Nat.le_of_ble_eq_true rfl⟩ (rest := []) rfl rfl (Nat.le_of_ble_eq_true rfl) dL_law_2378 (fun ci q z H locs hx hS ht => (show False from hx).elim) (fun v z356 H locs hv hS => ?_)
        obtain ⟨x357, rfl, hw⟩ := hv
        refine lv_iload C.1 C.2.1 dL_law_2381 (lv_at hl 1 rfl) ?_
        refine lv_icmp_eq C.1 C.2.1 dL_law_2383 rfl (fun h => ?_) (fun h => ?_)
        · have hw := hw.1 h
          refine lv_iload C.1 C.2.1 dL_law_2388 (lv_at hl 1 rfl) ?_
          refine lv_if_ne C.1 C.2.1 dL_law_2390 rfl (fun h => ?_) (fun h => ?_)
          · have hw := hw.1 h
            exact kL_lawb2405 C hr hin hT hmc hL hK28 hw H locs ls hS (lv_sub hl [2, 3, 4, 5, 6, 7] rfl)
          · have hw := hw.2 h
            refine r_aload_n C.1 C.2.1 dL_law_2393 rfl (lv_at hl 5 rfl) ?_
            refine lv_iconst C.1 C.2.1 (v := 0) dL_law_2394 rfl ?_
            refine r_lald C hS dL_law_2395 hw (fun x358 hw => ?_)
            refine lv_iload C.1 C.2.1 dL_law_2396 (lv_at hl 0 rfl) ?_
            refine lv_i2l C.1 C.2.1 dL_law_2398 rfl ?_
            refine r_lcmp C dL_law_2399 ?_
            refine lv_if_eq C.1 C.2.1 dL_law_2400 rfl (fun h => ?_) (fun h => ?_)
            · have hw := hw.1 h
              exact kL_lawb2405 C hr hin hT hmc hL hK28 hw H locs ls hS (lv_sub hl [2, 3, 4, 5, 6, 7] rfl)
            · have hw := hw.2 h
              refine lv_iconst C.1 C.2.1 (v := 0) dL_law_2403 rfl ?_
              exact r_lawret C hS hmc hr hL dL_law_2404 hw
        · have hw := hw.2 h
          refine lv_iconst C.1 C.2.1 (v := 0) dL_law_2386 rfl ?_
          exact r_lawret C hS hmc hr hL dL_law_2387 hw
      | 37, ht, hx =>
        cases ht
        have hw := hw.2.2.2.2.2.2.2.2.2.2.2.2.2.2.2.2.2.2.2.2.2.2.2.2.2.2.2.2.2.2.2.2.2.2.2.2.2.1 (sw_eq 37 hx rfl)
        refine r_aload_n C.1 C.2.1 dL_law_2408 rfl (lv_at hl 1 rfl) ?_
        refine r_aload_n C.1 C.2.1 dL_law_2409 rfl (lv_at hl 0 rfl) ?_
        refine lv_iload C.1 C.2.1 dL_law_2410 (lv_at hl 5 rfl) ?_
        refine lv_iconst C.1 C.2.1 (v := 1) dL_law_2412 rfl ?_
        refine lv_iadd C.1 C.2.1 dL_law_2413 ?_
        refine r_iald C hS dL_law_2414 hw (fun x359 hw => ?_)
        refine lv_if_eq C.1 C.2.1 dL_law_2415 rfl (fun h => ?_) (fun h => ?_)
        · have hw := hw.1 h
          refine lv_iconst C.1 C.2.1 (v := 0) dL_law_2422 rfl ?_
          exact kL_lawb2423 C hr hin hT hmc hL hK28 hw H locs ls hS (lv_sub hl [0, 1, 2, 3, 4, 5] rfl)
        · have hw := hw.2 h
          refine lv_iconst C.1 C.2.1 (v := 1) dL_law_2418 rfl ?_
          refine lv_goto C.1 C.2.1 dL_law_2419 rfl ?_
          exact kL_lawb2423 C hr hin hT hmc hL hK28 hw H locs ls hS (lv_sub hl [0, 1, 2, 3, 4, 5] rfl)
      | 38, ht, hx =>
        cases ht
        have hw := hw.2.2.2.2.2.2.2.2.2.2.2.2.2.2.2.2.2.2.2.2.2.2.2.2.2.2.2.2.2.2.2.2.2.2.2.2.2.2.1 (sw_eq 38 hx rfl)
        refine r_aload_n C.1 C.2.1 dL_law_2480 rfl (lv_at hl 1 rfl) ?_
        refine r_aload_n C.1 C.2.1 dL_law_2481 rfl (lv_at hl 3 rfl) ?_
        refine c_SX C hS hmc hl.1 (kX0_undo C.2.2.2.2.2.2.1) hw (lw_SW q3080 q3081 q66 q3082) hdX0_undo ⟨Nat.le_of_ble_eq_true rfl, Nat.le_of_ble_eq_true rfl⟩ (rest := []) rfl rfl (Nat.le_of_ble_eq_true rfl) dL_law_2482 (fun ci q z H locs hx hS ht => (show False from hx).elim) (fun v z360 H locs hv hS => ?_)
        obtain ⟨x361, rfl, hw⟩ := hv
        refine r_istore C.1 C.2.1 dL_law_2485 hl (Nat.le_of_ble_eq_true rfl) (ls_new (ls_old 0 rfl rfl (.inl rfl) (ls_old 1 rfl rfl (.inl rfl) (ls_old 2 rfl rfl (.inl rfl) (ls_old 3 rfl rfl (.inl rfl) (ls_old 4 rfl rfl (.inl rfl) (ls_old 5 rfl rfl (.inr rfl) ls_nil))))))) (fun ls hl => ?_)
        refine r_aload_n C.1 C.2.1 dL_law_2487 rfl (lv_at hl 3 rfl) ?_
        refine c_V C hS hmc hl.1 (ci := 4) rfl hw.1 (kX5_undo C.2.2.2.2.2.2.1) hw.2 (lw_V q3504 q3505 q3506 q83 q3507) ⟨rfl, hdX5_undo⟩ ⟨Nat.le_of_ble_eq_true rfl, Nat.le_of_ble_eq_true rfl⟩ (rest := []) rfl rfl (Nat.le_of_ble_eq_true rfl) dL_law_2488 (fun ci q z H locs hx hS ht => (show False from hx).elim) (fun v z362 H locs hv hS => ?_)
        obtain ⟨x363, rfl, hw⟩ := hv
        refine r_istore C.1 C.2.1 dL_law_2491 hl (Nat.le_of_ble_eq_true rfl) (ls_new (ls_old 0 rfl rfl (.inr rfl) (ls_old 1 rfl rfl (.inl rfl) (ls_old 2 rfl rfl (.inl rfl) (ls_old 3 rfl rfl (.inl rfl) (ls_old 4 rfl rfl (.inl rfl) (ls_old 5 rfl rfl (.inl rfl) (ls_old 6 rfl rfl (.inl rfl) ls_nil)))))))) (fun ls hl => ?_)
        refine r_aload_n C.1 C.2.1 dL_law_2493 rfl (lv_at hl 4 rfl) ?_
        refine c_V C hS hmc hl.1 (ci := 4) rfl hw.1 (kX5_thrown C.2.2.2.2.2.2.1) hw.2 (lw_V q3161 q3162 q3163 q83 q3164) ⟨rfl, hdX5_thrown⟩ ⟨Nat.le_of_ble_eq_true rfl, Nat.le_of_ble_eq_true rfl⟩ (rest := []) rfl rfl (Nat.le_of_ble_eq_true rfl) dL_law_2494 (fun ci q z H locs hx hS ht => (show False from hx).elim) (fun v z364 H locs hv hS => ?_)
        obtain ⟨x365, rfl, hw⟩ := hv
        refine lv_iload C.1 C.2.1 dL_law_2497 (lv_at hl 1 rfl) ?_
        refine lv_icmp_eq C.1 C.2.1 dL_law_2499 rfl (fun h => ?_) (fun h => ?_)
        · have hw := hw.1 h
          refine lv_iload C.1 C.2.1 dL_law_2504 (lv_at hl 1 rfl) ?_
          refine lv_if_ne C.1 C.2.1 dL_law_2506 rfl (fun h => ?_) (fun h => ?_)
          · have hw := hw.1 h
            exact kL_lawb2521 C hr hin hT hmc hL hK28 hw H locs ls hS (lv_sub hl [2, 3, 4, 5, 6, 7] rfl)
          · have hw := hw.2 h
            refine r_aload_n C.1 C.2.1 dL_law_2509 rfl (lv_at hl 5 rfl) ?_
            refine lv_iconst C.1 C.2.1 (v := 0) dL_law_2510 rfl ?_
            refine r_lald C hS dL_law_2511 hw (fun x366 hw => ?_)
            refine lv_iload C.1 C.2.1 dL_law_2512 (lv_at hl 0 rfl) ?_
            refine lv_i2l C.1 C.2.1 dL_law_2514 rfl ?_
            refine r_lcmp C dL_law_2515 ?_
            refine lv_if_eq C.1 C.2.1 dL_law_2516 rfl (fun h => ?_) (fun h => ?_)
            · have hw := hw.1 h
              exact kL_lawb2521 C hr hin hT hmc hL hK28 hw H locs ls hS (lv_sub hl [2, 3, 4, 5, 6, 7] rfl)
            · have hw := hw.2 h
              refine lv_iconst C.1 C.2.1 (v := 0) dL_law_2519 rfl ?_
              exact r_lawret C hS hmc hr hL dL_law_2520 hw
        · have hw := hw.2 h
          refine lv_iconst C.1 C.2.1 (v := 0) dL_law_2502 rfl ?_
          exact r_lawret C hS hmc hr hL dL_law_2503 hw
      | 39, ht, hx =>
        cases ht
        have hw := hw.2.2.2.2.2.2.2.2.2.2.2.2.2.2.2.2.2.2.2.2.2.2.2.2.2.2.2.2.2.2.2.2.2.2.2.2.2.2.2.1 (sw_eq 39 hx rfl)
        refine r_aload_n C.1 C.2.1 dL_law_2524 rfl (lv_at hl 1 rfl) ?_
        refine c_V C hS hmc hl.1 (ci := 0) rfl hw.1 (kX1_save C.2.2.2.2.2.2.1) hw.2 (lw_V q2349 q2350 q2351 q67 q2352) ⟨rfl, hdX1_save⟩ ⟨Nat.le_of_ble_eq_true rfl, Nat.le_of_ble_eq_true rfl⟩ (rest := []) rfl rfl (Nat.le_of_ble_eq_true rfl) dL_law_2525 (fun ci q z H locs hx hS ht => (show False from hx).elim) (fun v z367 H locs hv hS => ?_)
        obtain ⟨x368, rfl, hw⟩ := hv
        refine r_aload_n C.1 C.2.1 dL_law_2528 rfl (lv_at hl 2 rfl) ?_
        refine c_V C hS hmc hl.1 (ci := 4) rfl hw.1 (kX5_save C.2.2.2.2.2.2.1) hw.2 (lw_V q3508 q3509 q3510 q83 q3511) ⟨rfl, hdX5_save⟩ ⟨Nat.le_of_ble_eq_true rfl, Nat.le_of_ble_eq_true rfl⟩ (rest := [.int x368]) rfl rfl (Nat.le_of_ble_eq_true rfl) dL_law_2529 (fun ci q z H locs hx hS ht => (show False from hx).elim) (fun v z369 H locs hv hS => ?_)
        obtain ⟨x370, rfl, hw⟩ := hv
        refine lv_icmp_eq C.1 C.2.1 dL_law_2532 rfl (fun h => ?_) (fun h => ?_)
        · have hw := hw.1 h
          exact kL_lawb2581 C hr hin hT hmc hL hK28 hw H locs ls hS (lv_sub hl [0, 1, 2, 3, 4, 5] rfl)
        · have hw := hw.2 h
          refine lv_iconst C.1 C.2.1 (v := 0) dL_law_2535 rfl ?_
          exact r_lawret C hS hmc hr hL dL_law_2536 hw
      | 40, ht, hx =>
        cases ht
        have hw := hw.2.2.2.2.2.2.2.2.2.2.2.2.2.2.2.2.2.2.2.2.2.2.2.2.2.2.2.2.2.2.2.2.2.2.2.2.2.2.2.2.1 (sw_eq 40 hx rfl)
        refine r_aload_n C.1 C.2.1 dL_law_2537 rfl (lv_at hl 1 rfl) ?_
        refine r_aload_n C.1 C.2.1 dL_law_2538 rfl (lv_at hl 3 rfl) ?_
        refine c_SX C hS hmc hl.1 (kX0_restore C.2.2.2.2.2.2.1) hw (lw_SW q3088 q3089 q66 q3090) hdX0_restore ⟨Nat.le_of_ble_eq_true rfl, Nat.le_of_ble_eq_true rfl⟩ (rest := []) rfl rfl (Nat.le_of_ble_eq_true rfl) dL_law_2539 (fun ci q z H locs hx hS ht => (show False from hx).elim) (fun v z371 H locs hv hS => ?_)
        obtain ⟨x372, rfl, hw⟩ := hv
        refine r_istore C.1 C.2.1 dL_law_2542 hl (Nat.le_of_ble_eq_true rfl) (ls_new (ls_old 0 rfl rfl (.inl rfl) (ls_old 1 rfl rfl (.inl rfl) (ls_old 2 rfl rfl (.inl rfl) (ls_old 3 rfl rfl (.inl rfl) (ls_old 4 rfl rfl (.inl rfl) (ls_old 5 rfl rfl (.inr rfl) ls_nil))))))) (fun ls hl => ?_)
        refine r_aload_n C.1 C.2.1 dL_law_2544 rfl (lv_at hl 3 rfl) ?_
        refine c_V C hS hmc hl.1 (ci := 4) rfl hw.1 (kX5_restore C.2.2.2.2.2.2.1) hw.2 (lw_V q3512 q3513 q3514 q83 q3515) ⟨rfl, hdX5_restore⟩ ⟨Nat.le_of_ble_eq_true rfl, Nat.le_of_ble_eq_true rfl⟩ (rest := []) rfl rfl (Nat.le_of_ble_eq_true rfl) dL_law_2545 (fun ci q z H locs hx hS ht => (show False from hx).elim) (fun v z373 H locs hv hS => ?_)
        obtain ⟨x374, rfl, hw⟩ := hv
        refine r_istore C.1 C.2.1 dL_law_2548 hl (Nat.le_of_ble_eq_true rfl) (ls_new (ls_old 0 rfl rfl (.inr rfl) (ls_old 1 rfl rfl (.inl rfl) (ls_old 2 rfl rfl (.inl rfl) (ls_old 3 rfl rfl (.inl rfl) (ls_old 4 rfl rfl (.inl rfl) (ls_old 5 rfl rfl (.inl rfl) (ls_old 6 rfl rfl (.inl rfl) ls_nil)))))))) (fun ls hl => ?_)
        refine r_aload_n C.1 C.2.1 dL_law_2550 rfl (lv_at hl 4 rfl) ?_
        refine c_V C hS hmc hl.1 (ci := 4) rfl hw.1 (kX5_thrown C.2.2.2.2.2.2.1) hw.2 (lw_V q3161 q3162 q3163 q83 q3164) ⟨rfl, hdX5_thrown⟩ ⟨Nat.le_of_ble_eq_true rfl, Nat.le_of_ble_eq_true rfl⟩ (rest := []) rfl rfl (Nat.le_of_ble_eq_true rfl) dL_law_2551 (fun ci q z H locs hx hS ht => (show False from hx).elim) (fun v z375 H locs hv hS => ?_)
        obtain ⟨x376, rfl, hw⟩ := hv
        refine lv_iload C.1 C.2.1 dL_law_2554 (lv_at hl 1 rfl) ?_
        refine lv_icmp_eq C.1 C.2.1 dL_law_2556 rfl (fun h => ?_) (fun h => ?_)
        · have hw := hw.1 h
          refine lv_iload C.1 C.2.1 dL_law_2561 (lv_at hl 1 rfl) ?_
          refine lv_if_ne C.1 C.2.1 dL_law_2563 rfl (fun h => ?_) (fun h => ?_)
          · have hw := hw.1 h
            exact kL_lawb2578 C hr hin hT hmc hL hK28 hw H locs ls hS (lv_sub hl [2, 3, 4, 5, 6, 7] rfl)
          · have hw := hw.2 h
            refine r_aload_n C.1 C.2.1 dL_law_2566 rfl (lv_at hl 5 rfl) ?_
            refine lv_iconst C.1 C.2.1 (v := 0) dL_law_2567 rfl ?_
            refine r_lald C hS dL_law_2568 hw (fun x377 hw => ?_)
            refine lv_iload C.1 C.2.1 dL_law_2569 (lv_at hl 0 rfl) ?_
            refine lv_i2l C.1 C.2.1 dL_law_2571 rfl ?_
            refine r_lcmp C dL_law_2572 ?_
            refine lv_if_eq C.1 C.2.1 dL_law_2573 rfl (fun h => ?_) (fun h => ?_)
            · have hw := hw.1 h
              exact kL_lawb2578 C hr hin hT hmc hL hK28 hw H locs ls hS (lv_sub hl [2, 3, 4, 5, 6, 7] rfl)
            · have hw := hw.2 h
              refine lv_iconst C.1 C.2.1 (v := 0) dL_law_2576 rfl ?_
              exact r_lawret C hS hmc hr hL dL_law_2577 hw
        · have hw := hw.2 h
          refine lv_iconst C.1 C.2.1 (v := 0) dL_law_2559 rfl ?_
          exact r_lawret C hS hmc hr hL dL_law_2560 hw
      | i + 41, ht, hx => exact nomatch ht
    · have hw := hw.2.2.2.2.2.2.2.2.2.2.2.2.2.2.2.2.2.2.2.2.2.2.2.2.2.2.2.2.2.2.2.2.2.2.2.2.2.2.2.2.2 (sw_out ho (by decide))
      exact kL_lawb2581 C hr hin hT hmc hL hK28 hw H locs ls hS (lv_sub hl [0, 1, 2, 3, 4, 5] rfl)
theorem kL_lawb0 (C : xC G p l s m args meth c cL_law 9 "ExcuseLedgerLaw") (hr : meth.sig.returnType = ret) (hin : meth.name = "law") (hT : ∀ x ∈ c.exceptionTable.toList, False) (hmc : room_1.cells = gL G - s.heap.size ∧ room_1.slots = gU G - hsum s.heap) (hL : lawC G s args)   {v0 : Option Nat} {z : hSt} (hw : wL_lawb0 G lawP lawX  v0 z) : kt G p l e room_1 s m args below meth c 9 (lw_Z below args s) 0 [(0, va_rf v0)] [] z := by
  intro H locs ls hS hl
  refine r_new C hS (ci := 0) rfl in_X1 tyX1_ok q134 q135 q67 rfl dfX1_ok hmc dL_law_0 hw (fun x1 z2 H locs hw hS => ?_)
  refine lv_dup C.1 C.2.1 dL_law_3 (va_rf_cat _) ?_
  refine c_I C hS hmc hl.1 hw.1 (kX1_init C.2.2.2.2.2.2.1) hw.2 (lw_meth q138) q67 q136 q137 rfl hdX1_init ⟨Nat.le_of_ble_eq_true rfl, Nat.le_of_ble_eq_true rfl⟩ (rest := [va_rf (some x1)]) rfl rfl (Nat.le_of_ble_eq_true rfl) dL_law_4 (fun ci q z H locs hx hS ht => (show False from hx).elim) (fun v z3 H locs hv hS => ?_)
  obtain ⟨rfl, hw⟩ := hv
  refine r_astore_n C.1 C.2.1 dL_law_7 rfl hl (Nat.le_of_ble_eq_true rfl) (ls_new (ls_old 0 rfl rfl (.inr (va_rf_cat _)) ls_nil)) (fun ls hl => ?_)
  refine r_new C hS (ci := 4) rfl in_X5 tyX5_ok q3099 q3100 q83 rfl dfX5_ok hmc dL_law_8 hw (fun x4 z5 H locs hw hS => ?_)
  refine lv_dup C.1 C.2.1 dL_law_11 (va_rf_cat _) ?_
  refine c_I C hS hmc hl.1 hw.1 (kX5_init C.2.2.2.2.2.2.1) hw.2 (lw_meth q3103) q83 q3101 q3102 rfl hdX5_init ⟨Nat.le_of_ble_eq_true rfl, Nat.le_of_ble_eq_true rfl⟩ (rest := [va_rf (some x4)]) rfl rfl (Nat.le_of_ble_eq_true rfl) dL_law_12 (fun ci q z H locs hx hS ht => (show False from hx).elim) (fun v z6 H locs hv hS => ?_)
  obtain ⟨rfl, hw⟩ := hv
  refine r_astore_n C.1 C.2.1 dL_law_15 rfl hl (Nat.le_of_ble_eq_true rfl) (ls_new (ls_old 0 rfl rfl (.inr (va_rf_cat _)) (ls_old 1 rfl rfl (.inl rfl) ls_nil))) (fun ls hl => ?_)
  refine lv_iconst C.1 C.2.1 (v := 1) dL_law_16 rfl ?_
  refine r_newL C hS hmc dL_law_17 hw (fun x7 z8 H locs hw hS => ?_)
  refine r_astore_n C.1 C.2.1 dL_law_19 rfl hl (Nat.le_of_ble_eq_true rfl) (ls_new (ls_old 0 rfl rfl (.inr (va_rf_cat _)) (ls_old 1 rfl rfl (.inl rfl) (ls_old 2 rfl rfl (.inl rfl) ls_nil)))) (fun ls hl => ?_)
  refine lv_iconst C.1 C.2.1 (v := 1) dL_law_20 rfl ?_
  refine r_newd C hS hmc dL_law_21 hw (fun x9 z10 H locs hw hS => ?_)
  refine r_astore C.1 C.2.1 dL_law_23 hl (Nat.le_of_ble_eq_true rfl) (ls_new (ls_old 0 rfl rfl (.inr (va_rf_cat _)) (ls_old 1 rfl rfl (.inl rfl) (ls_old 2 rfl rfl (.inl rfl) (ls_old 3 rfl rfl (.inl rfl) ls_nil))))) (fun ls hl => ?_)
  refine lv_iconst C.1 C.2.1 (v := 0) dL_law_25 rfl ?_
  refine r_istore C.1 C.2.1 dL_law_26 hl (Nat.le_of_ble_eq_true rfl) (ls_new (ls_old 0 rfl rfl (.inr (va_rf_cat _)) (ls_old 1 rfl rfl (.inl rfl) (ls_old 2 rfl rfl (.inl rfl) (ls_old 3 rfl rfl (.inl rfl) (ls_old 4 rfl rfl (.inl rfl) ls_nil)))))) (fun ls hl => ?_)
  exact lpI_sound (Wt := fun (y : (Option Nat × Option Nat × Option Nat × Option Nat × Option Nat × Int32 × hSt)) => kt G p l e room_1 s m args below meth c 9 (lw_Z below args s) 28 [(0, va_rf (y.1)), (1, va_rf (y.2.1)), (2, va_rf (y.2.2.1)), (3, va_rf (y.2.2.2.1)), (4, va_rf (y.2.2.2.2.1)), (5, .int (y.2.2.2.2.2.1))] [] (y.2.2.2.2.2.2)) (fun K y hK hF => kL_lawb28 C hr hin hT hmc hL  hK hF) hw H locs ls hS (lv_sub hl [5, 4, 3, 2, 1, 0] rfl)
end
