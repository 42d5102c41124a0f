/-! printed: 24.parser -/
set_option maxRecDepth 100000
theorem q91 : (Jvm.Cond.initialized "ExcuseLedger$Command") ∈ lw_all := lw_g (lw_at lw_m1 25 rfl) rfl
theorem q124 : (Jvm.Cond.initialized "java/lang/IllegalStateException") ∈ lw_all := lw_g (lw_at lw_m1 58 rfl) rfl
theorem q130 : (Jvm.Cond.initialized "ExcuseLedger$Parser") ∈ lw_all := lw_g (lw_at lw_m1 64 rfl) rfl
theorem q133 : (Jvm.Cond.initialized "ExcuseLedger$BadText") ∈ lw_all := lw_g (lw_at lw_m1 67 rfl) rfl
theorem q417 : (Jvm.Cond.static ({ cls := "ExcuseLedger", name := "command", desc := "(Ljava/lang/String;ILExcuseLedger$Name;I)LExcuseLedger$Command;" } : Jvm.MethodName)) ∈ lw_all := lw_g (lw_at lw_m2 111 rfl) rfl
theorem q418 : (Jvm.Cond.code ({ cls := "ExcuseLedger", name := "command", desc := "(Ljava/lang/String;ILExcuseLedger$Name;I)LExcuseLedger$Command;" } : Jvm.MethodName) prog_1_method_15_code (4 : Nat) (Option.some (Jvm.ClassFile.FieldType.object "ExcuseLedger$Command"))) ∈ lw_all := lw_g (lw_at lw_m2 112 rfl) rfl
theorem q419 : (Jvm.Cond.classLink "ExcuseLedger" (34 : Nat) "ExcuseLedger$Command") ∈ lw_all := lw_g (lw_at lw_m2 113 rfl) rfl
theorem q420 : (Jvm.Cond.instantiable "ExcuseLedger$Command" (4 : Nat)) ∈ lw_all := lw_g (lw_at lw_m2 114 rfl) rfl
theorem q421 : (Jvm.Cond.methodLink "ExcuseLedger" (36 : Nat) ({ cls := "ExcuseLedger$Command", name := "<init>", desc := "(Ljava/lang/String;ILExcuseLedger$Name;I)V" } : Jvm.MethodName)) ∈ lw_all := lw_g (lw_at lw_m2 115 rfl) rfl
theorem q422 : (Jvm.Cond.instanceMethod ({ cls := "ExcuseLedger$Command", name := "<init>", desc := "(Ljava/lang/String;ILExcuseLedger$Name;I)V" } : Jvm.MethodName)) ∈ lw_all := lw_g (lw_at lw_m2 116 rfl) rfl
theorem q423 : (Jvm.Cond.code ({ cls := "ExcuseLedger$Command", name := "<init>", desc := "(Ljava/lang/String;ILExcuseLedger$Name;I)V" } : Jvm.MethodName) prog_3_method_1_code (5 : Nat) (Option.none : Option Jvm.ClassFile.FieldType)) ∈ lw_all := lw_g (lw_at lw_m2 117 rfl) rfl
theorem q424 : (Jvm.Cond.methodLink "ExcuseLedger$Command" (1 : Nat) ({ cls := "java/lang/Object", name := "<init>", desc := "()V" } : Jvm.MethodName)) ∈ lw_all := lw_g (lw_at lw_m2 118 rfl) rfl
theorem q425 : (Jvm.Cond.fieldLink "ExcuseLedger$Command" (7 : Nat) "ExcuseLedger$Command" "what" "Ljava/lang/String;") ∈ lw_all := lw_g (lw_at lw_m2 119 rfl) rfl
theorem q426 : (Jvm.Cond.fieldLink "ExcuseLedger$Command" (13 : Nat) "ExcuseLedger$Command" "one" "I") ∈ lw_all := lw_g (lw_at lw_m2 120 rfl) rfl
theorem q427 : (Jvm.Cond.fieldLink "ExcuseLedger$Command" (17 : Nat) "ExcuseLedger$Command" "name" "LExcuseLedger$Name;") ∈ lw_all := lw_g (lw_at lw_m2 121 rfl) rfl
theorem q428 : (Jvm.Cond.fieldLink "ExcuseLedger$Command" (21 : Nat) "ExcuseLedger$Command" "other" "I") ∈ lw_all := lw_g (lw_at lw_m2 122 rfl) rfl
theorem q938 : (Jvm.Cond.instanceMethod ({ cls := "java/lang/String", name := "hashCode", desc := "()I" } : Jvm.MethodName)) ∈ lw_all := lw_g (lw_at lw_m4 152 rfl) rfl
theorem q939 : (Jvm.Cond.code ({ cls := "java/lang/String", name := "hashCode", desc := "()I" } : Jvm.MethodName) prog_36_method_78_code (2 : Nat) (Option.some Jvm.ClassFile.FieldType.int)) ∈ lw_all := lw_g (lw_at lw_m4 153 rfl) rfl
theorem q1652 : (Jvm.Cond.instanceMethod ({ cls := "java/lang/String", name := "equals", desc := "(Ljava/lang/Object;)Z" } : Jvm.MethodName)) ∈ lw_all := lw_g (lw_at lw_m7 146 rfl) rfl
theorem q1653 : (Jvm.Cond.code ({ cls := "java/lang/String", name := "equals", desc := "(Ljava/lang/Object;)Z" } : Jvm.MethodName) prog_36_method_66_code (3 : Nat) (Option.some Jvm.ClassFile.FieldType.boolean)) ∈ lw_all := lw_g (lw_at lw_m7 147 rfl) rfl
theorem q1966 : (Jvm.Cond.methodLink "ExcuseLedger$Command" (59 : Nat) ({ cls := "ExcuseLedger$Command", name := "isRight", desc := "()Z" } : Jvm.MethodName)) ∈ lw_all := lw_g (lw_at lw_m8 220 rfl) rfl
theorem q1968 : (Jvm.Cond.instanceMethod ({ cls := "ExcuseLedger$Command", name := "isRight", desc := "()Z" } : Jvm.MethodName)) ∈ lw_all := lw_g (lw_at lw_m8 222 rfl) rfl
theorem q1969 : (Jvm.Cond.code ({ cls := "ExcuseLedger$Command", name := "isRight", desc := "()Z" } : Jvm.MethodName) prog_3_method_2_code (3 : Nat) (Option.some Jvm.ClassFile.FieldType.boolean)) ∈ lw_all := lw_g (lw_at lw_m8 223 rfl) rfl
theorem q1970 : (Jvm.Cond.methodLink "ExcuseLedger$Command" (24 : Nat) ({ cls := "java/lang/String", name := "hashCode", desc := "()I" } : Jvm.MethodName)) ∈ lw_all := lw_g (lw_at lw_m8 224 rfl) rfl
theorem q1972 : (Jvm.Cond.methodLink "ExcuseLedger$Command" (32 : Nat) ({ cls := "java/lang/String", name := "equals", desc := "(Ljava/lang/Object;)Z" } : Jvm.MethodName)) ∈ lw_all := lw_g (lw_at lw_m8 226 rfl) rfl
theorem q1977 : (Jvm.Cond.methodLinkNest "ExcuseLedger$Command" (44 : Nat) ({ cls := "ExcuseLedger", name := "isPupil", desc := "(I)Z" } : Jvm.MethodName) "ExcuseLedger") ∈ lw_tbl := lw_at lw_m8 231 rfl
theorem q1978 : (Jvm.Cond.static ({ cls := "ExcuseLedger", name := "isPupil", desc := "(I)Z" } : Jvm.MethodName)) ∈ lw_all := lw_g (lw_at lw_m8 232 rfl) rfl
theorem q1979 : (Jvm.Cond.code ({ cls := "ExcuseLedger", name := "isPupil", desc := "(I)Z" } : Jvm.MethodName) prog_1_method_2_code (1 : Nat) (Option.some Jvm.ClassFile.FieldType.boolean)) ∈ lw_all := lw_g (lw_at lw_m8 233 rfl) rfl
theorem q1980 : (Jvm.Cond.methodLink "ExcuseLedger" (3 : Nat) ({ cls := "ExcuseLedger", name := "isIn", desc := "(III)Z" } : Jvm.MethodName)) ∈ lw_all := lw_g (lw_at lw_m8 234 rfl) rfl
theorem q1981 : (Jvm.Cond.static ({ cls := "ExcuseLedger", name := "isIn", desc := "(III)Z" } : Jvm.MethodName)) ∈ lw_all := lw_g (lw_at lw_m8 235 rfl) rfl
theorem q1982 : (Jvm.Cond.code ({ cls := "ExcuseLedger", name := "isIn", desc := "(III)Z" } : Jvm.MethodName) prog_1_method_1_code (3 : Nat) (Option.some Jvm.ClassFile.FieldType.boolean)) ∈ lw_all := lw_g (lw_at lw_m8 236 rfl) rfl
theorem q1983 : (Jvm.Cond.methodLinkNest "ExcuseLedger$Command" (50 : Nat) ({ cls := "ExcuseLedger", name := "isLevel", desc := "(I)Z" } : Jvm.MethodName) "ExcuseLedger") ∈ lw_tbl := lw_at lw_m8 237 rfl
theorem q1984 : (Jvm.Cond.static ({ cls := "ExcuseLedger", name := "isLevel", desc := "(I)Z" } : Jvm.MethodName)) ∈ lw_all := lw_g (lw_at lw_m8 238 rfl) rfl
theorem q1985 : (Jvm.Cond.code ({ cls := "ExcuseLedger", name := "isLevel", desc := "(I)Z" } : Jvm.MethodName) prog_1_method_6_code (1 : Nat) (Option.some Jvm.ClassFile.FieldType.boolean)) ∈ lw_all := lw_g (lw_at lw_m8 239 rfl) rfl
theorem q1986 : (Jvm.Cond.methodLinkNest "ExcuseLedger$Command" (53 : Nat) ({ cls := "ExcuseLedger", name := "isFee", desc := "(I)Z" } : Jvm.MethodName) "ExcuseLedger") ∈ lw_tbl := lw_at lw_m9 0 rfl
theorem q1987 : (Jvm.Cond.static ({ cls := "ExcuseLedger", name := "isFee", desc := "(I)Z" } : Jvm.MethodName)) ∈ lw_all := lw_g (lw_at lw_m9 1 rfl) rfl
theorem q1988 : (Jvm.Cond.code ({ cls := "ExcuseLedger", name := "isFee", desc := "(I)Z" } : Jvm.MethodName) prog_1_method_7_code (1 : Nat) (Option.some Jvm.ClassFile.FieldType.boolean)) ∈ lw_all := lw_g (lw_at lw_m9 2 rfl) rfl
theorem q1989 : (Jvm.Cond.methodLinkNest "ExcuseLedger$Command" (56 : Nat) ({ cls := "ExcuseLedger", name := "isSchool", desc := "(I)Z" } : Jvm.MethodName) "ExcuseLedger") ∈ lw_tbl := lw_at lw_m9 3 rfl
theorem q1990 : (Jvm.Cond.static ({ cls := "ExcuseLedger", name := "isSchool", desc := "(I)Z" } : Jvm.MethodName)) ∈ lw_all := lw_g (lw_at lw_m9 4 rfl) rfl
theorem q1991 : (Jvm.Cond.code ({ cls := "ExcuseLedger", name := "isSchool", desc := "(I)Z" } : Jvm.MethodName) prog_1_method_3_code (1 : Nat) (Option.some Jvm.ClassFile.FieldType.boolean)) ∈ lw_all := lw_g (lw_at lw_m9 5 rfl) rfl
theorem q1992 : (Jvm.Cond.methodLinkNest "ExcuseLedger$Command" (63 : Nat) ({ cls := "ExcuseLedger", name := "checkState", desc := "(Z)V" } : Jvm.MethodName) "ExcuseLedger") ∈ lw_tbl := lw_at lw_m9 6 rfl
theorem q1993 : (Jvm.Cond.static ({ cls := "ExcuseLedger", name := "checkState", desc := "(Z)V" } : Jvm.MethodName)) ∈ lw_all := lw_g (lw_at lw_m9 7 rfl) rfl
theorem q1994 : (Jvm.Cond.code ({ cls := "ExcuseLedger", name := "checkState", desc := "(Z)V" } : Jvm.MethodName) prog_1_method_11_code (1 : Nat) (Option.none : Option Jvm.ClassFile.FieldType)) ∈ lw_all := lw_g (lw_at lw_m9 8 rfl) rfl
theorem q1995 : (Jvm.Cond.classLink "ExcuseLedger" (20 : Nat) "java/lang/IllegalStateException") ∈ lw_all := lw_g (lw_at lw_m9 9 rfl) rfl
theorem q2013 : (Jvm.Cond.methodLink "ExcuseLedger$Command" (73 : Nat) ({ cls := "ExcuseLedger$Ledger", name := "enter", desc := "(ILExcuseLedger$Name;I)I" } : Jvm.MethodName)) ∈ lw_all := lw_g (lw_at lw_m9 27 rfl) rfl
theorem q2014 : (Jvm.Cond.instanceMethod ({ cls := "ExcuseLedger$Ledger", name := "enter", desc := "(ILExcuseLedger$Name;I)I" } : Jvm.MethodName)) ∈ lw_all := lw_g (lw_at lw_m9 28 rfl) rfl
theorem q2015 : (Jvm.Cond.selects "ExcuseLedger$Ledger" ({ cls := "ExcuseLedger$Ledger", name := "enter", desc := "(ILExcuseLedger$Name;I)I" } : Jvm.MethodName) ({ cls := "ExcuseLedger$Ledger", name := "enter", desc := "(ILExcuseLedger$Name;I)I" } : Jvm.MethodName)) ∈ lw_all := lw_g (lw_at lw_m9 29 rfl) rfl
theorem q2016 : (Jvm.Cond.code ({ cls := "ExcuseLedger$Ledger", name := "enter", desc := "(ILExcuseLedger$Name;I)I" } : Jvm.MethodName) prog_5_method_31_code (5 : Nat) (Option.some Jvm.ClassFile.FieldType.int)) ∈ lw_all := lw_g (lw_at lw_m9 30 rfl) rfl
theorem q2062 : (Jvm.Cond.methodLink "ExcuseLedger$Command" (78 : Nat) ({ cls := "ExcuseLedger$Ledger", name := "strike", desc := "(LExcuseLedger$Name;)I" } : Jvm.MethodName)) ∈ lw_all := lw_g (lw_at lw_m9 76 rfl) rfl
theorem q2063 : (Jvm.Cond.instanceMethod ({ cls := "ExcuseLedger$Ledger", name := "strike", desc := "(LExcuseLedger$Name;)I" } : Jvm.MethodName)) ∈ lw_all := lw_g (lw_at lw_m9 77 rfl) rfl
theorem q2064 : (Jvm.Cond.selects "ExcuseLedger$Ledger" ({ cls := "ExcuseLedger$Ledger", name := "strike", desc := "(LExcuseLedger$Name;)I" } : Jvm.MethodName) ({ cls := "ExcuseLedger$Ledger", name := "strike", desc := "(LExcuseLedger$Name;)I" } : Jvm.MethodName)) ∈ lw_all := lw_g (lw_at lw_m9 78 rfl) rfl
theorem q2065 : (Jvm.Cond.code ({ cls := "ExcuseLedger$Ledger", name := "strike", desc := "(LExcuseLedger$Name;)I" } : Jvm.MethodName) prog_5_method_32_code (4 : Nat) (Option.some Jvm.ClassFile.FieldType.int)) ∈ lw_all := lw_g (lw_at lw_m9 79 rfl) rfl
theorem q2101 : (Jvm.Cond.methodLink "ExcuseLedger$Command" (81 : Nat) ({ cls := "ExcuseLedger$Ledger", name := "lend", desc := "(LExcuseLedger$Name;II)I" } : Jvm.MethodName)) ∈ lw_all := lw_g (lw_at lw_m9 115 rfl) rfl
theorem q2102 : (Jvm.Cond.instanceMethod ({ cls := "ExcuseLedger$Ledger", name := "lend", desc := "(LExcuseLedger$Name;II)I" } : Jvm.MethodName)) ∈ lw_all := lw_g (lw_at lw_m9 116 rfl) rfl
theorem q2103 : (Jvm.Cond.selects "ExcuseLedger$Ledger" ({ cls := "ExcuseLedger$Ledger", name := "lend", desc := "(LExcuseLedger$Name;II)I" } : Jvm.MethodName) ({ cls := "ExcuseLedger$Ledger", name := "lend", desc := "(LExcuseLedger$Name;II)I" } : Jvm.MethodName)) ∈ lw_all := lw_g (lw_at lw_m9 117 rfl) rfl
theorem q2104 : (Jvm.Cond.code ({ cls := "ExcuseLedger$Ledger", name := "lend", desc := "(LExcuseLedger$Name;II)I" } : Jvm.MethodName) prog_5_method_33_code (5 : Nat) (Option.some Jvm.ClassFile.FieldType.int)) ∈ lw_all := lw_g (lw_at lw_m9 118 rfl) rfl
theorem q2105 : (Jvm.Cond.methodLink "ExcuseLedger$Command" (84 : Nat) ({ cls := "ExcuseLedger$Ledger", name := "back", desc := "(LExcuseLedger$Name;)I" } : Jvm.MethodName)) ∈ lw_all := lw_g (lw_at lw_m9 119 rfl) rfl
theorem q2106 : (Jvm.Cond.instanceMethod ({ cls := "ExcuseLedger$Ledger", name := "back", desc := "(LExcuseLedger$Name;)I" } : Jvm.MethodName)) ∈ lw_all := lw_g (lw_at lw_m9 120 rfl) rfl
theorem q2107 : (Jvm.Cond.selects "ExcuseLedger$Ledger" ({ cls := "ExcuseLedger$Ledger", name := "back", desc := "(LExcuseLedger$Name;)I" } : Jvm.MethodName) ({ cls := "ExcuseLedger$Ledger", name := "back", desc := "(LExcuseLedger$Name;)I" } : Jvm.MethodName)) ∈ lw_all := lw_g (lw_at lw_m9 121 rfl) rfl
theorem q2108 : (Jvm.Cond.code ({ cls := "ExcuseLedger$Ledger", name := "back", desc := "(LExcuseLedger$Name;)I" } : Jvm.MethodName) prog_5_method_34_code (4 : Nat) (Option.some Jvm.ClassFile.FieldType.int)) ∈ lw_all := lw_g (lw_at lw_m9 122 rfl) rfl
theorem q2113 : (Jvm.Cond.methodLink "ExcuseLedger$Command" (86 : Nat) ({ cls := "ExcuseLedger$Ledger", name := "mend", desc := "(LExcuseLedger$Name;I)I" } : Jvm.MethodName)) ∈ lw_all := lw_g (lw_at lw_m9 127 rfl) rfl
theorem q2114 : (Jvm.Cond.instanceMethod ({ cls := "ExcuseLedger$Ledger", name := "mend", desc := "(LExcuseLedger$Name;I)I" } : Jvm.MethodName)) ∈ lw_all := lw_g (lw_at lw_m9 128 rfl) rfl
theorem q2115 : (Jvm.Cond.selects "ExcuseLedger$Ledger" ({ cls := "ExcuseLedger$Ledger", name := "mend", desc := "(LExcuseLedger$Name;I)I" } : Jvm.MethodName) ({ cls := "ExcuseLedger$Ledger", name := "mend", desc := "(LExcuseLedger$Name;I)I" } : Jvm.MethodName)) ∈ lw_all := lw_g (lw_at lw_m9 129 rfl) rfl
theorem q2116 : (Jvm.Cond.code ({ cls := "ExcuseLedger$Ledger", name := "mend", desc := "(LExcuseLedger$Name;I)I" } : Jvm.MethodName) prog_5_method_35_code (5 : Nat) (Option.some Jvm.ClassFile.FieldType.int)) ∈ lw_all := lw_g (lw_at lw_m9 130 rfl) rfl
theorem q2117 : (Jvm.Cond.methodLink "ExcuseLedger$Command" (89 : Nat) ({ cls := "ExcuseLedger$Ledger", name := "use", desc := "(ILExcuseLedger$Name;I)I" } : Jvm.MethodName)) ∈ lw_all := lw_g (lw_at lw_m9 131 rfl) rfl
theorem q2118 : (Jvm.Cond.instanceMethod ({ cls := "ExcuseLedger$Ledger", name := "use", desc := "(ILExcuseLedger$Name;I)I" } : Jvm.MethodName)) ∈ lw_all := lw_g (lw_at lw_m9 132 rfl) rfl
theorem q2119 : (Jvm.Cond.selects "ExcuseLedger$Ledger" ({ cls := "ExcuseLedger$Ledger", name := "use", desc := "(ILExcuseLedger$Name;I)I" } : Jvm.MethodName) ({ cls := "ExcuseLedger$Ledger", name := "use", desc := "(ILExcuseLedger$Name;I)I" } : Jvm.MethodName)) ∈ lw_all := lw_g (lw_at lw_m9 133 rfl) rfl
theorem q2120 : (Jvm.Cond.code ({ cls := "ExcuseLedger$Ledger", name := "use", desc := "(ILExcuseLedger$Name;I)I" } : Jvm.MethodName) prog_5_method_36_code (6 : Nat) (Option.some Jvm.ClassFile.FieldType.int)) ∈ lw_all := lw_g (lw_at lw_m9 134 rfl) rfl
theorem q2207 : (Jvm.Cond.methodLink "ExcuseLedger$Command" (91 : Nat) ({ cls := "ExcuseLedger$Ledger", name := "strict", desc := "(II)I" } : Jvm.MethodName)) ∈ lw_all := lw_g (lw_at lw_m9 221 rfl) rfl
theorem q2208 : (Jvm.Cond.instanceMethod ({ cls := "ExcuseLedger$Ledger", name := "strict", desc := "(II)I" } : Jvm.MethodName)) ∈ lw_all := lw_g (lw_at lw_m9 222 rfl) rfl
theorem q2209 : (Jvm.Cond.selects "ExcuseLedger$Ledger" ({ cls := "ExcuseLedger$Ledger", name := "strict", desc := "(II)I" } : Jvm.MethodName) ({ cls := "ExcuseLedger$Ledger", name := "strict", desc := "(II)I" } : Jvm.MethodName)) ∈ lw_all := lw_g (lw_at lw_m9 223 rfl) rfl
theorem q2210 : (Jvm.Cond.code ({ cls := "ExcuseLedger$Ledger", name := "strict", desc := "(II)I" } : Jvm.MethodName) prog_5_method_37_code (4 : Nat) (Option.some Jvm.ClassFile.FieldType.int)) ∈ lw_all := lw_g (lw_at lw_m9 224 rfl) rfl
theorem q2211 : (Jvm.Cond.methodLink "ExcuseLedger$Command" (94 : Nat) ({ cls := "ExcuseLedger$Ledger", name := "weather", desc := "(I)I" } : Jvm.MethodName)) ∈ lw_all := lw_g (lw_at lw_m9 225 rfl) rfl
theorem q2212 : (Jvm.Cond.instanceMethod ({ cls := "ExcuseLedger$Ledger", name := "weather", desc := "(I)I" } : Jvm.MethodName)) ∈ lw_all := lw_g (lw_at lw_m9 226 rfl) rfl
theorem q2213 : (Jvm.Cond.selects "ExcuseLedger$Ledger" ({ cls := "ExcuseLedger$Ledger", name := "weather", desc := "(I)I" } : Jvm.MethodName) ({ cls := "ExcuseLedger$Ledger", name := "weather", desc := "(I)I" } : Jvm.MethodName)) ∈ lw_all := lw_g (lw_at lw_m9 227 rfl) rfl
theorem q2214 : (Jvm.Cond.code ({ cls := "ExcuseLedger$Ledger", name := "weather", desc := "(I)I" } : Jvm.MethodName) prog_5_method_38_code (3 : Nat) (Option.some Jvm.ClassFile.FieldType.int)) ∈ lw_all := lw_g (lw_at lw_m9 228 rfl) rfl
theorem q2215 : (Jvm.Cond.methodLink "ExcuseLedger$Command" (97 : Nat) ({ cls := "ExcuseLedger$Ledger", name := "day", desc := "()I" } : Jvm.MethodName)) ∈ lw_all := lw_g (lw_at lw_m9 229 rfl) rfl
theorem q2216 : (Jvm.Cond.instanceMethod ({ cls := "ExcuseLedger$Ledger", name := "day", desc := "()I" } : Jvm.MethodName)) ∈ lw_all := lw_g (lw_at lw_m9 230 rfl) rfl
theorem q2217 : (Jvm.Cond.selects "ExcuseLedger$Ledger" ({ cls := "ExcuseLedger$Ledger", name := "day", desc := "()I" } : Jvm.MethodName) ({ cls := "ExcuseLedger$Ledger", name := "day", desc := "()I" } : Jvm.MethodName)) ∈ lw_all := lw_g (lw_at lw_m9 231 rfl) rfl
theorem q2218 : (Jvm.Cond.code ({ cls := "ExcuseLedger$Ledger", name := "day", desc := "()I" } : Jvm.MethodName) prog_5_method_39_code (5 : Nat) (Option.some Jvm.ClassFile.FieldType.int)) ∈ lw_all := lw_g (lw_at lw_m9 232 rfl) rfl
theorem q2746 : (Jvm.Cond.castable "java/lang/String" "java/lang/CharSequence") ∈ lw_tbl := lw_at lw_m12 40 rfl
theorem q2860 : (Jvm.Cond.methodLink "ExcuseLedger$Parser" (3 : Nat) ({ cls := "java/lang/Object", name := "<init>", desc := "()V" } : Jvm.MethodName)) ∈ lw_all := lw_g (lw_at lw_m12 154 rfl) rfl
theorem q2861 : (Jvm.Cond.classLink "ExcuseLedger$Parser" (9 : Nat) "java/util/ArrayList") ∈ lw_all := lw_g (lw_at lw_m12 155 rfl) rfl
theorem q2862 : (Jvm.Cond.methodLink "ExcuseLedger$Parser" (11 : Nat) ({ cls := "java/util/ArrayList", name := "<init>", desc := "()V" } : Jvm.MethodName)) ∈ lw_all := lw_g (lw_at lw_m12 156 rfl) rfl
theorem q2863 : (Jvm.Cond.fieldLink "ExcuseLedger$Parser" (18 : Nat) "ExcuseLedger$Parser" "text" "Ljava/lang/CharSequence;") ∈ lw_all := lw_g (lw_at lw_m12 157 rfl) rfl
theorem q2864 : (Jvm.Cond.fieldLink "ExcuseLedger$Parser" (12 : Nat) "ExcuseLedger$Parser" "commands" "Ljava/util/ArrayList;") ∈ lw_all := lw_g (lw_at lw_m12 158 rfl) rfl
theorem q2866 : (Jvm.Cond.fieldLink "ExcuseLedger$Parser" (22 : Nat) "ExcuseLedger$Parser" "at" "I") ∈ lw_all := lw_g (lw_at lw_m12 160 rfl) rfl
theorem q2930 : (Jvm.Cond.methodLink "ExcuseLedger$Parser" (106 : Nat) ({ cls := "ExcuseLedger$Parser", name := "one", desc := "()LExcuseLedger$Command;" } : Jvm.MethodName)) ∈ lw_all := lw_g (lw_at lw_m12 224 rfl) rfl
theorem q2932 : (Jvm.Cond.instanceMethod ({ cls := "ExcuseLedger$Parser", name := "one", desc := "()LExcuseLedger$Command;" } : Jvm.MethodName)) ∈ lw_all := lw_g (lw_at lw_m12 226 rfl) rfl
theorem q2933 : (Jvm.Cond.code ({ cls := "ExcuseLedger$Parser", name := "one", desc := "()LExcuseLedger$Command;" } : Jvm.MethodName) prog_7_method_8_code (5 : Nat) (Option.some (Jvm.ClassFile.FieldType.object "ExcuseLedger$Command"))) ∈ lw_all := lw_g (lw_at lw_m12 227 rfl) rfl
theorem q2935 : (Jvm.Cond.methodLink "ExcuseLedger$Parser" (64 : Nat) ({ cls := "ExcuseLedger$Parser", name := "place", desc := "(Ljava/lang/String;)I" } : Jvm.MethodName)) ∈ lw_all := lw_g (lw_at lw_m12 229 rfl) rfl
theorem q2937 : (Jvm.Cond.instanceMethod ({ cls := "ExcuseLedger$Parser", name := "place", desc := "(Ljava/lang/String;)I" } : Jvm.MethodName)) ∈ lw_all := lw_g (lw_at lw_m12 231 rfl) rfl
theorem q2938 : (Jvm.Cond.code ({ cls := "ExcuseLedger$Parser", name := "place", desc := "(Ljava/lang/String;)I" } : Jvm.MethodName) prog_7_method_6_code (3 : Nat) (Option.some Jvm.ClassFile.FieldType.int)) ∈ lw_all := lw_g (lw_at lw_m12 232 rfl) rfl
theorem q2940 : (Jvm.Cond.methodLink "ExcuseLedger$Parser" (26 : Nat) ({ cls := "java/lang/CharSequence", name := "length", desc := "()I" } : Jvm.MethodName)) ∈ lw_all := lw_g (lw_at lw_m12 234 rfl) rfl
theorem q2941 : (Jvm.Cond.interfaceMethod "java/lang/CharSequence" "java/lang/CharSequence" "length" "()I") ∈ lw_tbl := lw_at lw_m12 235 rfl
theorem q2942 : (Jvm.Cond.declares ({ cls := "java/lang/CharSequence", name := "length", desc := "()I" } : Jvm.MethodName)) ∈ lw_tbl := lw_at lw_m12 236 rfl
theorem q2943 : (Jvm.Cond.selects "java/lang/String" ({ cls := "java/lang/CharSequence", name := "length", desc := "()I" } : Jvm.MethodName) ({ cls := "java/lang/String", name := "length", desc := "()I" } : Jvm.MethodName)) ∈ lw_all := lw_g (lw_at lw_m12 237 rfl) rfl
theorem q2944 : (Jvm.Cond.unhidden "java/lang/String" "length" "()I") ∈ lw_tbl := lw_at lw_m12 238 rfl
theorem q2945 : (Jvm.Cond.publicMethod ({ cls := "java/lang/String", name := "length", desc := "()I" } : Jvm.MethodName)) ∈ lw_tbl := lw_at lw_m12 239 rfl
theorem q2949 : (Jvm.Cond.methodLink "ExcuseLedger$Parser" (36 : Nat) ({ cls := "ExcuseLedger$Parser", name := "peek", desc := "()C" } : Jvm.MethodName)) ∈ lw_all := lw_g (lw_at lw_m13 3 rfl) rfl
theorem q2951 : (Jvm.Cond.instanceMethod ({ cls := "ExcuseLedger$Parser", name := "peek", desc := "()C" } : Jvm.MethodName)) ∈ lw_all := lw_g (lw_at lw_m13 5 rfl) rfl
theorem q2952 : (Jvm.Cond.code ({ cls := "ExcuseLedger$Parser", name := "peek", desc := "()C" } : Jvm.MethodName) prog_7_method_2_code (1 : Nat) (Option.some Jvm.ClassFile.FieldType.char)) ∈ lw_all := lw_g (lw_at lw_m13 6 rfl) rfl
theorem q2954 : (Jvm.Cond.methodLink "ExcuseLedger$Parser" (32 : Nat) ({ cls := "java/lang/CharSequence", name := "charAt", desc := "(I)C" } : Jvm.MethodName)) ∈ lw_all := lw_g (lw_at lw_m13 8 rfl) rfl
theorem q2955 : (Jvm.Cond.interfaceMethod "java/lang/CharSequence" "java/lang/CharSequence" "charAt" "(I)C") ∈ lw_tbl := lw_at lw_m13 9 rfl
theorem q2956 : (Jvm.Cond.declares ({ cls := "java/lang/CharSequence", name := "charAt", desc := "(I)C" } : Jvm.MethodName)) ∈ lw_tbl := lw_at lw_m13 10 rfl
theorem q2957 : (Jvm.Cond.selects "java/lang/String" ({ cls := "java/lang/CharSequence", name := "charAt", desc := "(I)C" } : Jvm.MethodName) ({ cls := "java/lang/String", name := "charAt", desc := "(I)C" } : Jvm.MethodName)) ∈ lw_all := lw_g (lw_at lw_m13 11 rfl) rfl
theorem q2958 : (Jvm.Cond.unhidden "java/lang/String" "charAt" "(I)C") ∈ lw_tbl := lw_at lw_m13 12 rfl
theorem q2959 : (Jvm.Cond.publicMethod ({ cls := "java/lang/String", name := "charAt", desc := "(I)C" } : Jvm.MethodName)) ∈ lw_tbl := lw_at lw_m13 13 rfl
theorem q2971 : (Jvm.Cond.methodLink "ExcuseLedger$Parser" (56 : Nat) ({ cls := "java/lang/String", name := "indexOf", desc := "(I)I" } : Jvm.MethodName)) ∈ lw_all := lw_g (lw_at lw_m13 25 rfl) rfl
theorem q2972 : (Jvm.Cond.instanceMethod ({ cls := "java/lang/String", name := "indexOf", desc := "(I)I" } : Jvm.MethodName)) ∈ lw_all := lw_g (lw_at lw_m13 26 rfl) rfl
theorem q2973 : (Jvm.Cond.selects "java/lang/String" ({ cls := "java/lang/String", name := "indexOf", desc := "(I)I" } : Jvm.MethodName) ({ cls := "java/lang/String", name := "indexOf", desc := "(I)I" } : Jvm.MethodName)) ∈ lw_all := lw_g (lw_at lw_m13 27 rfl) rfl
theorem q2974 : (Jvm.Cond.code ({ cls := "java/lang/String", name := "indexOf", desc := "(I)I" } : Jvm.MethodName) prog_36_method_79_code (2 : Nat) (Option.some Jvm.ClassFile.FieldType.int)) ∈ lw_all := lw_g (lw_at lw_m13 28 rfl) rfl
theorem q3015 : (Jvm.Cond.classLink "ExcuseLedger$Parser" (44 : Nat) "ExcuseLedger$BadText") ∈ lw_all := lw_g (lw_at lw_m13 69 rfl) rfl
theorem q3016 : (Jvm.Cond.instantiable "ExcuseLedger$BadText" (7 : Nat)) ∈ lw_all := lw_g (lw_at lw_m13 70 rfl) rfl
theorem q3024 : (Jvm.Cond.methodLink "ExcuseLedger$Parser" (46 : Nat) ({ cls := "ExcuseLedger$BadText", name := "<init>", desc := "(I)V" } : Jvm.MethodName)) ∈ lw_all := lw_g (lw_at lw_m13 78 rfl) rfl
theorem q3025 : (Jvm.Cond.instanceMethod ({ cls := "ExcuseLedger$BadText", name := "<init>", desc := "(I)V" } : Jvm.MethodName)) ∈ lw_all := lw_g (lw_at lw_m13 79 rfl) rfl
theorem q3026 : (Jvm.Cond.code ({ cls := "ExcuseLedger$BadText", name := "<init>", desc := "(I)V" } : Jvm.MethodName) prog_2_method_1_code (2 : Nat) (Option.none : Option Jvm.ClassFile.FieldType)) ∈ lw_all := lw_g (lw_at lw_m13 80 rfl) rfl
theorem q3028 : (Jvm.Cond.fieldLink "ExcuseLedger$BadText" (7 : Nat) "ExcuseLedger$BadText" "position" "I") ∈ lw_all := lw_g (lw_at lw_m13 82 rfl) rfl
theorem q3034 : (Jvm.Cond.methodLink "ExcuseLedger$Parser" (75 : Nat) ({ cls := "java/lang/String", name := "charAt", desc := "(I)C" } : Jvm.MethodName)) ∈ lw_all := lw_g (lw_at lw_m13 88 rfl) rfl
theorem q3035 : (Jvm.Cond.methodLink "ExcuseLedger$Parser" (53 : Nat) ({ cls := "ExcuseLedger$Parser", name := "digit", desc := "()I" } : Jvm.MethodName)) ∈ lw_all := lw_g (lw_at lw_m13 89 rfl) rfl
theorem q3037 : (Jvm.Cond.instanceMethod ({ cls := "ExcuseLedger$Parser", name := "digit", desc := "()I" } : Jvm.MethodName)) ∈ lw_all := lw_g (lw_at lw_m13 91 rfl) rfl
theorem q3038 : (Jvm.Cond.code ({ cls := "ExcuseLedger$Parser", name := "digit", desc := "()I" } : Jvm.MethodName) prog_7_method_4_code (1 : Nat) (Option.some Jvm.ClassFile.FieldType.int)) ∈ lw_all := lw_g (lw_at lw_m13 92 rfl) rfl
theorem q3039 : (Jvm.Cond.methodLink "ExcuseLedger$Parser" (49 : Nat) ({ cls := "ExcuseLedger$Parser", name := "next", desc := "(CC)I" } : Jvm.MethodName)) ∈ lw_all := lw_g (lw_at lw_m13 93 rfl) rfl
theorem q3041 : (Jvm.Cond.instanceMethod ({ cls := "ExcuseLedger$Parser", name := "next", desc := "(CC)I" } : Jvm.MethodName)) ∈ lw_all := lw_g (lw_at lw_m13 95 rfl) rfl
theorem q3042 : (Jvm.Cond.code ({ cls := "ExcuseLedger$Parser", name := "next", desc := "(CC)I" } : Jvm.MethodName) prog_7_method_3_code (3 : Nat) (Option.some Jvm.ClassFile.FieldType.int)) ∈ lw_all := lw_g (lw_at lw_m13 96 rfl) rfl
theorem q3043 : (Jvm.Cond.methodLinkNest "ExcuseLedger$Parser" (40 : Nat) ({ cls := "ExcuseLedger", name := "isIn", desc := "(III)Z" } : Jvm.MethodName) "ExcuseLedger") ∈ lw_tbl := lw_at lw_m13 97 rfl
theorem q3044 : (Jvm.Cond.methodLink "ExcuseLedger$Parser" (76 : Nat) ({ cls := "ExcuseLedger$Parser", name := "name", desc := "()LExcuseLedger$Name;" } : Jvm.MethodName)) ∈ lw_all := lw_g (lw_at lw_m13 98 rfl) rfl
theorem q3046 : (Jvm.Cond.instanceMethod ({ cls := "ExcuseLedger$Parser", name := "name", desc := "()LExcuseLedger$Name;" } : Jvm.MethodName)) ∈ lw_all := lw_g (lw_at lw_m13 100 rfl) rfl
theorem q3047 : (Jvm.Cond.code ({ cls := "ExcuseLedger$Parser", name := "name", desc := "()LExcuseLedger$Name;" } : Jvm.MethodName) prog_7_method_7_code (2 : Nat) (Option.some (Jvm.ClassFile.FieldType.object "ExcuseLedger$Name"))) ∈ lw_all := lw_g (lw_at lw_m13 101 rfl) rfl
theorem q3049 : (Jvm.Cond.classLink "ExcuseLedger$Parser" (68 : Nat) "ExcuseLedger$Name") ∈ lw_all := lw_g (lw_at lw_m13 103 rfl) rfl
theorem q3050 : (Jvm.Cond.methodLink "ExcuseLedger$Parser" (70 : Nat) ({ cls := "ExcuseLedger$Name", name := "<init>", desc := "(II)V" } : Jvm.MethodName)) ∈ lw_all := lw_g (lw_at lw_m13 104 rfl) rfl
theorem q3052 : (Jvm.Cond.methodLink "ExcuseLedger$Parser" (82 : Nat) ({ cls := "ExcuseLedger$Parser", name := "behind", desc := "(C)I" } : Jvm.MethodName)) ∈ lw_all := lw_g (lw_at lw_m13 106 rfl) rfl
theorem q3054 : (Jvm.Cond.instanceMethod ({ cls := "ExcuseLedger$Parser", name := "behind", desc := "(C)I" } : Jvm.MethodName)) ∈ lw_all := lw_g (lw_at lw_m13 108 rfl) rfl
theorem q3055 : (Jvm.Cond.code ({ cls := "ExcuseLedger$Parser", name := "behind", desc := "(C)I" } : Jvm.MethodName) prog_7_method_5_code (3 : Nat) (Option.some Jvm.ClassFile.FieldType.int)) ∈ lw_all := lw_g (lw_at lw_m13 109 rfl) rfl
theorem q3056 : (Jvm.Cond.methodLinkNest "ExcuseLedger$Parser" (86 : Nat) ({ cls := "ExcuseLedger", name := "command", desc := "(Ljava/lang/String;ILExcuseLedger$Name;I)LExcuseLedger$Command;" } : Jvm.MethodName) "ExcuseLedger") ∈ lw_tbl := lw_at lw_m13 110 rfl
theorem q3065 : (Jvm.Cond.methodLink "ExcuseLedger$Parser" (110 : Nat) ({ cls := "java/util/ArrayList", name := "add", desc := "(Ljava/lang/Object;)Z" } : Jvm.MethodName)) ∈ lw_all := lw_g (lw_at lw_m13 119 rfl) rfl
theorem q3533 : (Jvm.Cond.selects "java/lang/String" ({ cls := "java/lang/String", name := "hashCode", desc := "()I" } : Jvm.MethodName) ({ cls := "java/lang/String", name := "hashCode", desc := "()I" } : Jvm.MethodName)) ∈ lw_all := lw_g (lw_at lw_m15 107 rfl) rfl
theorem q3534 : (Jvm.Cond.selects "java/lang/String" ({ cls := "java/lang/String", name := "equals", desc := "(Ljava/lang/Object;)Z" } : Jvm.MethodName) ({ cls := "java/lang/String", name := "equals", desc := "(Ljava/lang/Object;)Z" } : Jvm.MethodName)) ∈ lw_all := lw_g (lw_at lw_m15 108 rfl) rfl
theorem fo_10_0 : fOk [10] 0 "ExcuseLedger$Parser" "text" "Ljava/lang/CharSequence;" (.object "java/lang/CharSequence") true := List.forall_mem_singleton.mpr ⟨_, _, _, tyX11, rfl, in_X11, tyX11_ok, nmX11, by decide, rfl, rfl⟩
theorem fo_10_1 : fOk [10] 1 "ExcuseLedger$Parser" "commands" "Ljava/util/ArrayList;" (.object "java/util/ArrayList") true := List.forall_mem_singleton.mpr ⟨_, _, _, tyX11, rfl, in_X11, tyX11_ok, nmX11, by decide, rfl, rfl⟩
theorem fo_10_2 : fOk [10] 2 "ExcuseLedger$Parser" "at" "I" .int false := List.forall_mem_singleton.mpr ⟨_, _, _, tyX11, rfl, in_X11, tyX11_ok, nmX11, by decide, rfl, rfl⟩
theorem fo_11_6 : fOk [11] 6 "ExcuseLedger$BadText" "position" "I" .int true := List.forall_mem_singleton.mpr ⟨_, _, _, tyX12, rfl, in_X12, tyX12_ok, nmX12, by decide, rfl, rfl⟩
theorem fo_6_0 : fOk [6] 0 "ExcuseLedger$Command" "what" "Ljava/lang/String;" (.object "java/lang/String") true := List.forall_mem_singleton.mpr ⟨_, _, _, tyX7, rfl, in_X7, tyX7_ok, nmX7, by decide, rfl, rfl⟩
theorem fo_6_1 : fOk [6] 1 "ExcuseLedger$Command" "one" "I" .int true := List.forall_mem_singleton.mpr ⟨_, _, _, tyX7, rfl, in_X7, tyX7_ok, nmX7, by decide, rfl, rfl⟩
theorem fo_6_2 : fOk [6] 2 "ExcuseLedger$Command" "name" "LExcuseLedger$Name;" (.object "ExcuseLedger$Name") true := List.forall_mem_singleton.mpr ⟨_, _, _, tyX7, rfl, in_X7, tyX7_ok, nmX7, by decide, rfl, rfl⟩
theorem fo_6_3 : fOk [6] 3 "ExcuseLedger$Command" "other" "I" .int true := List.forall_mem_singleton.mpr ⟨_, _, _, tyX7, rfl, in_X7, tyX7_ok, nmX7, by decide, rfl, rfl⟩
abbrev dfX7 : List Value := [.null, .int 0, .null, .int 0]
theorem dfX7_ok : ∀ j, j < 4 → defaultValue (tyX7 j) = vp_V dfX7 j := fun j h => match j, h with | 0, _ => rfl | 1, _ => rfl | 2, _ => rfl | 3, _ => rfl | j + 4, h => absurd h (by omega)
abbrev dfX12 : List Value := [.null, .null, .null, .null, .null, .int 0, .int 0]
theorem dfX12_ok : ∀ j, j < 7 → defaultValue (tyX12 j) = vp_V dfX12 j := fun j h => match j, h with | 0, _ => rfl | 1, _ => rfl | 2, _ => rfl | 3, _ => rfl | 4, _ => rfl | 5, _ => rfl | 6, _ => rfl | j + 7, h => absurd h (by omega)
theorem xa31_22 : ∀ w ∈ vx_at0 "ExcuseLedger" 22 "java/lang/IllegalStateException" ["java/lang/RuntimeException", "java/lang/Exception"], w ∈ lw_tbl ∧ anyOk w = true := xw_in _ [84, 736, 745, 756, 759, 761, 737, 738, 140, 141, 739, 744, 757, 774, 726, 775, 728, 776, 730, 740, 742, 732, 2005, 2006, 2007, 766, 717, 766, 767, 768, 769, 719, 769, 770, 771, 737, 721, 2004, 1996, 1997, 1998, 752, 1999, 2000, 2001, 2002, 772, 734, 2003] rfl (by decide +kernel)
theorem xa31_22g : ∀ w ∈ Cond.classLink "ExcuseLedger" 20 "java/lang/IllegalStateException" :: Cond.initialized "java/lang/IllegalStateException" :: vx_at0 "ExcuseLedger" 22 "java/lang/IllegalStateException" ["java/lang/RuntimeException", "java/lang/Exception"], vx_ot w = true := by decide +kernel
abbrev cX1_command : ByteArray := prog_1_method_15_code
def yX1_command : MethodName := ⟨RX1, "command", "(Ljava/lang/String;ILExcuseLedger$Name;I)LExcuseLedger$Command;"⟩
def dkwX1_command_0 : List UInt8 := [187, 0, 34, 89, 42, 27, 44, 29, 183, 0, 36, 176]
abbrev dktX1_command_0 : List UInt8 := dkwX1_command_0 ++ []
theorem dksX1_command_0 : cX1_command.data.toList.drop 0 = dktX1_command_0 := by decide +kernel
theorem dX1_command_0 : decode cX1_command 0 = .ok (.new 34, 3) := dk_187 0 34 (dk_at dksX1_command_0 0 rfl rfl)
theorem dX1_command_3 : decode cX1_command 3 = .ok (.dup, 1) := dk_89 (dk_at dksX1_command_0 3 rfl rfl)
theorem dX1_command_4 : decode cX1_command 4 = .ok (.aload_n 0, 1) := dk_42 (dk_at dksX1_command_0 4 rfl rfl)
theorem dX1_command_5 : decode cX1_command 5 = .ok (.iload_n 1, 1) := dk_27 (dk_at dksX1_command_0 5 rfl rfl)
theorem dX1_command_6 : decode cX1_command 6 = .ok (.aload_n 2, 1) := dk_44 (dk_at dksX1_command_0 6 rfl rfl)
theorem dX1_command_7 : decode cX1_command 7 = .ok (.iload_n 3, 1) := dk_29 (dk_at dksX1_command_0 7 rfl rfl)
theorem dX1_command_8 : decode cX1_command 8 = .ok (.invokespecial 36, 3) := dk_183 0 36 (dk_at dksX1_command_0 8 rfl rfl)
theorem dX1_command_11 : decode cX1_command 11 = .ok (.areturn, 1) := dk_176 (dk_at dksX1_command_0 11 rfl rfl)
abbrev cX1_isPupil : ByteArray := prog_1_method_2_code
def yX1_isPupil : MethodName := ⟨RX1, "isPupil", "(I)Z"⟩
def dkwX1_isPupil_0 : List UInt8 := [26, 3, 8, 184, 0, 3, 172]
abbrev dktX1_isPupil_0 : List UInt8 := dkwX1_isPupil_0 ++ []
theorem dksX1_isPupil_0 : cX1_isPupil.data.toList.drop 0 = dktX1_isPupil_0 := by decide +kernel
theorem dX1_isPupil_0 : decode cX1_isPupil 0 = .ok (.iload_n 0, 1) := dk_26 (dk_at dksX1_isPupil_0 0 rfl rfl)
theorem dX1_isPupil_1 : decode cX1_isPupil 1 = .ok (.iconst 0, 1) := dk_3 (dk_at dksX1_isPupil_0 1 rfl rfl)
theorem dX1_isPupil_2 : decode cX1_isPupil 2 = .ok (.iconst 5, 1) := dk_8 (dk_at dksX1_isPupil_0 2 rfl rfl)
theorem dX1_isPupil_3 : decode cX1_isPupil 3 = .ok (.invokestatic 3, 3) := dk_184 0 3 (dk_at dksX1_isPupil_0 3 rfl rfl)
theorem dX1_isPupil_6 : decode cX1_isPupil 6 = .ok (.ireturn, 1) := dk_172 (dk_at dksX1_isPupil_0 6 rfl rfl)
abbrev cX1_isIn : ByteArray := prog_1_method_1_code
def yX1_isIn : MethodName := ⟨RX1, "isIn", "(III)Z"⟩
def dkwX1_isIn_0 : List UInt8 := [26, 27, 161, 0, 12, 26, 28, 163, 0, 7, 4, 167, 0, 4, 3, 172]
abbrev dktX1_isIn_0 : List UInt8 := dkwX1_isIn_0 ++ []
theorem dksX1_isIn_0 : cX1_isIn.data.toList.drop 0 = dktX1_isIn_0 := by decide +kernel
theorem dX1_isIn_0 : decode cX1_isIn 0 = .ok (.iload_n 0, 1) := dk_26 (dk_at dksX1_isIn_0 0 rfl rfl)
theorem dX1_isIn_1 : decode cX1_isIn 1 = .ok (.iload_n 1, 1) := dk_27 (dk_at dksX1_isIn_0 1 rfl rfl)
theorem dX1_isIn_2 : decode cX1_isIn 2 = .ok (.if_icmp .lt 12, 3) := dk_161 0 12 (dk_at dksX1_isIn_0 2 rfl rfl)
theorem dX1_isIn_5 : decode cX1_isIn 5 = .ok (.iload_n 0, 1) := dk_26 (dk_at dksX1_isIn_0 5 rfl rfl)
theorem dX1_isIn_6 : decode cX1_isIn 6 = .ok (.iload_n 2, 1) := dk_28 (dk_at dksX1_isIn_0 6 rfl rfl)
theorem dX1_isIn_7 : decode cX1_isIn 7 = .ok (.if_icmp .gt 7, 3) := dk_163 0 7 (dk_at dksX1_isIn_0 7 rfl rfl)
theorem dX1_isIn_10 : decode cX1_isIn 10 = .ok (.iconst 1, 1) := dk_4 (dk_at dksX1_isIn_0 10 rfl rfl)
theorem dX1_isIn_11 : decode cX1_isIn 11 = .ok (.goto 4, 3) := dk_167 0 4 (dk_at dksX1_isIn_0 11 rfl rfl)
theorem dX1_isIn_14 : decode cX1_isIn 14 = .ok (.iconst 0, 1) := dk_3 (dk_at dksX1_isIn_0 14 rfl rfl)
theorem dX1_isIn_15 : decode cX1_isIn 15 = .ok (.ireturn, 1) := dk_172 (dk_at dksX1_isIn_0 15 rfl rfl)
abbrev cX1_isLevel : ByteArray := prog_1_method_6_code
def yX1_isLevel : MethodName := ⟨RX1, "isLevel", "(I)Z"⟩
def dkwX1_isLevel_0 : List UInt8 := [26, 4, 16, 9, 184, 0, 3, 172]
abbrev dktX1_isLevel_0 : List UInt8 := dkwX1_isLevel_0 ++ []
theorem dksX1_isLevel_0 : cX1_isLevel.data.toList.drop 0 = dktX1_isLevel_0 := by decide +kernel
theorem dX1_isLevel_0 : decode cX1_isLevel 0 = .ok (.iload_n 0, 1) := dk_26 (dk_at dksX1_isLevel_0 0 rfl rfl)
theorem dX1_isLevel_1 : decode cX1_isLevel 1 = .ok (.iconst 1, 1) := dk_4 (dk_at dksX1_isLevel_0 1 rfl rfl)
theorem dX1_isLevel_2 : decode cX1_isLevel 2 = .ok (.bipush 9, 2) := dk_16 9 (dk_at dksX1_isLevel_0 2 rfl rfl)
theorem dX1_isLevel_4 : decode cX1_isLevel 4 = .ok (.invokestatic 3, 3) := dk_184 0 3 (dk_at dksX1_isLevel_0 4 rfl rfl)
theorem dX1_isLevel_7 : decode cX1_isLevel 7 = .ok (.ireturn, 1) := dk_172 (dk_at dksX1_isLevel_0 7 rfl rfl)
abbrev cX1_isFee : ByteArray := prog_1_method_7_code
def yX1_isFee : MethodName := ⟨RX1, "isFee", "(I)Z"⟩
def dkwX1_isFee_0 : List UInt8 := [26, 3, 16, 9, 184, 0, 3, 172]
abbrev dktX1_isFee_0 : List UInt8 := dkwX1_isFee_0 ++ []
theorem dksX1_isFee_0 : cX1_isFee.data.toList.drop 0 = dktX1_isFee_0 := by decide +kernel
theorem dX1_isFee_0 : decode cX1_isFee 0 = .ok (.iload_n 0, 1) := dk_26 (dk_at dksX1_isFee_0 0 rfl rfl)
theorem dX1_isFee_1 : decode cX1_isFee 1 = .ok (.iconst 0, 1) := dk_3 (dk_at dksX1_isFee_0 1 rfl rfl)
theorem dX1_isFee_2 : decode cX1_isFee 2 = .ok (.bipush 9, 2) := dk_16 9 (dk_at dksX1_isFee_0 2 rfl rfl)
theorem dX1_isFee_4 : decode cX1_isFee 4 = .ok (.invokestatic 3, 3) := dk_184 0 3 (dk_at dksX1_isFee_0 4 rfl rfl)
theorem dX1_isFee_7 : decode cX1_isFee 7 = .ok (.ireturn, 1) := dk_172 (dk_at dksX1_isFee_0 7 rfl rfl)
abbrev cX1_isSchool : ByteArray := prog_1_method_3_code
def yX1_isSchool : MethodName := ⟨RX1, "isSchool", "(I)Z"⟩
def dkwX1_isSchool_0 : List UInt8 := [26, 3, 5, 184, 0, 3, 172]
abbrev dktX1_isSchool_0 : List UInt8 := dkwX1_isSchool_0 ++ []
theorem dksX1_isSchool_0 : cX1_isSchool.data.toList.drop 0 = dktX1_isSchool_0 := by decide +kernel
theorem dX1_isSchool_0 : decode cX1_isSchool 0 = .ok (.iload_n 0, 1) := dk_26 (dk_at dksX1_isSchool_0 0 rfl rfl)
theorem dX1_isSchool_1 : decode cX1_isSchool 1 = .ok (.iconst 0, 1) := dk_3 (dk_at dksX1_isSchool_0 1 rfl rfl)
theorem dX1_isSchool_2 : decode cX1_isSchool 2 = .ok (.iconst 2, 1) := dk_5 (dk_at dksX1_isSchool_0 2 rfl rfl)
theorem dX1_isSchool_3 : decode cX1_isSchool 3 = .ok (.invokestatic 3, 3) := dk_184 0 3 (dk_at dksX1_isSchool_0 3 rfl rfl)
theorem dX1_isSchool_6 : decode cX1_isSchool 6 = .ok (.ireturn, 1) := dk_172 (dk_at dksX1_isSchool_0 6 rfl rfl)
abbrev cX1_checkState : ByteArray := prog_1_method_11_code
def yX1_checkState : MethodName := ⟨RX1, "checkState", "(Z)V"⟩
def dkwX1_checkState_0 : List UInt8 := [26, 154, 0, 11, 187, 0, 20, 89, 183, 0, 22, 191, 177]
abbrev dktX1_checkState_0 : List UInt8 := dkwX1_checkState_0 ++ []
theorem dksX1_checkState_0 : cX1_checkState.data.toList.drop 0 = dktX1_checkState_0 := by decide +kernel
theorem dX1_checkState_0 : decode cX1_checkState 0 = .ok (.iload_n 0, 1) := dk_26 (dk_at dksX1_checkState_0 0 rfl rfl)
theorem dX1_checkState_1 : decode cX1_checkState 1 = .ok (.ifCond .ne 11, 3) := dk_154 0 11 (dk_at dksX1_checkState_0 1 rfl rfl)
theorem dX1_checkState_4 : decode cX1_checkState 4 = .ok (.new 20, 3) := dk_187 0 20 (dk_at dksX1_checkState_0 4 rfl rfl)
theorem dX1_checkState_7 : decode cX1_checkState 7 = .ok (.dup, 1) := dk_89 (dk_at dksX1_checkState_0 7 rfl rfl)
theorem dX1_checkState_8 : decode cX1_checkState 8 = .ok (.invokespecial 22, 3) := dk_183 0 22 (dk_at dksX1_checkState_0 8 rfl rfl)
theorem dX1_checkState_11 : decode cX1_checkState 11 = .ok (.athrow, 1) := dk_191 (dk_at dksX1_checkState_0 11 rfl rfl)
theorem dX1_checkState_12 : decode cX1_checkState 12 = .ok (.return_, 1) := dk_177 (dk_at dksX1_checkState_0 12 rfl rfl)
abbrev cX7_init : ByteArray := prog_3_method_1_code
def yX7_init : MethodName := ⟨RX7, "<init>", "(Ljava/lang/String;ILExcuseLedger$Name;I)V"⟩
def dkwX7_init_1 : List UInt8 := [181, 0, 21, 177]
abbrev dktX7_init_1 : List UInt8 := dkwX7_init_1 ++ []
def dkwX7_init_0 : List UInt8 := [42, 183, 0, 1, 42, 43, 181, 0, 7, 42, 28, 181, 0, 13, 42, 45, 181, 0, 17, 42, 21, 4]
abbrev dktX7_init_0 : List UInt8 := dkwX7_init_0 ++ dktX7_init_1
theorem dksX7_init_0 : cX7_init.data.toList.drop 0 = dktX7_init_0 := by decide +kernel
theorem dksX7_init_1 : cX7_init.data.toList.drop 22 = dktX7_init_1 := dk_seg dksX7_init_0 22 rfl rfl
theorem dX7_init_0 : decode cX7_init 0 = .ok (.aload_n 0, 1) := dk_42 (dk_at dksX7_init_0 0 rfl rfl)
theorem dX7_init_1 : decode cX7_init 1 = .ok (.invokespecial 1, 3) := dk_183 0 1 (dk_at dksX7_init_0 1 rfl rfl)
theorem dX7_init_4 : decode cX7_init 4 = .ok (.aload_n 0, 1) := dk_42 (dk_at dksX7_init_0 4 rfl rfl)
theorem dX7_init_5 : decode cX7_init 5 = .ok (.aload_n 1, 1) := dk_43 (dk_at dksX7_init_0 5 rfl rfl)
theorem dX7_init_6 : decode cX7_init 6 = .ok (.putfield 7, 3) := dk_181 0 7 (dk_at dksX7_init_0 6 rfl rfl)
theorem dX7_init_9 : decode cX7_init 9 = .ok (.aload_n 0, 1) := dk_42 (dk_at dksX7_init_0 9 rfl rfl)
theorem dX7_init_10 : decode cX7_init 10 = .ok (.iload_n 2, 1) := dk_28 (dk_at dksX7_init_0 10 rfl rfl)
theorem dX7_init_11 : decode cX7_init 11 = .ok (.putfield 13, 3) := dk_181 0 13 (dk_at dksX7_init_0 11 rfl rfl)
theorem dX7_init_14 : decode cX7_init 14 = .ok (.aload_n 0, 1) := dk_42 (dk_at dksX7_init_0 14 rfl rfl)
theorem dX7_init_15 : decode cX7_init 15 = .ok (.aload_n 3, 1) := dk_45 (dk_at dksX7_init_0 15 rfl rfl)
theorem dX7_init_16 : decode cX7_init 16 = .ok (.putfield 17, 3) := dk_181 0 17 (dk_at dksX7_init_0 16 rfl rfl)
theorem dX7_init_19 : decode cX7_init 19 = .ok (.aload_n 0, 1) := dk_42 (dk_at dksX7_init_0 19 rfl rfl)
theorem dX7_init_20 : decode cX7_init 20 = .ok (.iload 4, 2) := dk_21 4 (dk_at dksX7_init_0 20 rfl rfl)
theorem dX7_init_22 : decode cX7_init 22 = .ok (.putfield 21, 3) := dk_181 0 21 (dk_at dksX7_init_1 0 rfl rfl)
theorem dX7_init_25 : decode cX7_init 25 = .ok (.return_, 1) := dk_177 (dk_at dksX7_init_1 3 rfl rfl)
abbrev cX7_in : ByteArray := prog_3_method_3_code
def yX7_in : MethodName := ⟨RX7, "in", "(LExcuseLedger$Ledger;)I"⟩
def dkwX7_in_13 : List UInt8 := [182, 0, 94, 167, 0, 7, 43, 182, 0, 97, 172]
abbrev dktX7_in_13 : List UInt8 := dkwX7_in_13 ++ []
def dkwX7_in_12 : List UInt8 := [167, 0, 33, 43, 42, 180, 0, 13, 42, 180, 0, 21, 182, 0, 91, 167, 0, 18, 43, 42, 180, 0, 21]
abbrev dktX7_in_12 : List UInt8 := dkwX7_in_12 ++ dktX7_in_13
def dkwX7_in_11 : List UInt8 := [182, 0, 86, 167, 0, 52, 43, 42, 180, 0, 13, 42, 180, 0, 17, 42, 180, 0, 21, 182, 0, 89]
abbrev dktX7_in_11 : List UInt8 := dkwX7_in_11 ++ dktX7_in_12
def dkwX7_in_10 : List UInt8 := [167, 0, 78, 43, 42, 180, 0, 17, 182, 0, 84, 167, 0, 67, 43, 42, 180, 0, 17, 42, 180, 0, 21]
abbrev dktX7_in_10 : List UInt8 := dkwX7_in_10 ++ dktX7_in_11
def dkwX7_in_9 : List UInt8 := [182, 0, 78, 167, 0, 97, 43, 42, 180, 0, 17, 42, 180, 0, 13, 42, 180, 0, 21, 182, 0, 81]
abbrev dktX7_in_9 : List UInt8 := dkwX7_in_9 ++ dktX7_in_10
def dkwX7_in_8 : List UInt8 := [43, 42, 180, 0, 13, 42, 180, 0, 17, 42, 180, 0, 21, 182, 0, 73, 167, 0, 108, 43, 42, 180, 0, 17]
abbrev dktX7_in_8 : List UInt8 := dkwX7_in_8 ++ dktX7_in_9
def dkwX7_in_7 : List UInt8 := [170, 0, 0, 0, 0, 0, 0, 168, 0, 0, 0, 0, 0, 0, 0, 7, 0, 0, 0, 48, 0, 0, 0, 67, 0, 0, 0, 78, 0, 0, 0, 97, 0, 0, 0, 108, 0, 0, 0, 123, 0, 0, 0, 142, 0, 0, 0, 157]
abbrev dktX7_in_7 : List UInt8 := dkwX7_in_7 ++ dktX7_in_8
def dkwX7_in_6 : List UInt8 := [62, 167, 0, 15, 44, 18, 71, 182, 0, 32, 153, 0, 6, 16, 7, 62, 29]
abbrev dktX7_in_6 : List UInt8 := dkwX7_in_6 ++ dktX7_in_7
def dkwX7_in_5 : List UInt8 := [18, 40, 182, 0, 32, 153, 0, 35, 8, 62, 167, 0, 30, 44, 18, 42, 182, 0, 32, 153, 0, 21, 16, 6]
abbrev dktX7_in_5 : List UInt8 := dkwX7_in_5 ++ dktX7_in_6
def dkwX7_in_4 : List UInt8 := [153, 0, 63, 6, 62, 167, 0, 58, 44, 18, 38, 182, 0, 32, 153, 0, 49, 7, 62, 167, 0, 44, 44]
abbrev dktX7_in_4 : List UInt8 := dkwX7_in_4 ++ dktX7_in_5
def dkwX7_in_3 : List UInt8 := [62, 167, 0, 86, 44, 18, 36, 182, 0, 32, 153, 0, 77, 5, 62, 167, 0, 72, 44, 18, 69, 182, 0, 32]
abbrev dktX7_in_3 : List UInt8 := dkwX7_in_3 ++ dktX7_in_4
def dkwX7_in_2 : List UInt8 := [44, 18, 30, 182, 0, 32, 153, 0, 105, 3, 62, 167, 0, 100, 44, 18, 67, 182, 0, 32, 153, 0, 91, 4]
abbrev dktX7_in_2 : List UInt8 := dkwX7_in_2 ++ dktX7_in_3
def dkwX7_in_1 : List UInt8 := [171, 0, 0, 0, 0, 185, 0, 0, 0, 8, 202, 213, 94, 201, 0, 0, 0, 158, 202, 213, 95, 178, 0, 0, 0, 88, 0, 1, 197, 135, 0, 0, 0, 144, 0, 46, 4, 231, 0, 0, 0, 116, 0, 50, 160, 239, 0, 0, 0, 102, 0, 51, 21, 78, 0, 0, 0, 130, 5, 195, 6, 216, 0, 0, 0, 74, 72, 236, 55, 244, 0, 0, 0, 173]
abbrev dktX7_in_1 : List UInt8 := dkwX7_in_1 ++ dktX7_in_2
def dkwX7_in_0 : List UInt8 := [42, 182, 0, 59, 184, 0, 63, 42, 180, 0, 7, 77, 2, 62, 44, 182, 0, 24]
abbrev dktX7_in_0 : List UInt8 := dkwX7_in_0 ++ dktX7_in_1
theorem dksX7_in_0 : cX7_in.data.toList.drop 0 = dktX7_in_0 := by decide +kernel
theorem dksX7_in_1 : cX7_in.data.toList.drop 18 = dktX7_in_1 := dk_seg dksX7_in_0 18 rfl rfl
theorem dksX7_in_2 : cX7_in.data.toList.drop 92 = dktX7_in_2 := dk_seg dksX7_in_1 74 rfl rfl
theorem dksX7_in_3 : cX7_in.data.toList.drop 116 = dktX7_in_3 := dk_seg dksX7_in_2 24 rfl rfl
theorem dksX7_in_4 : cX7_in.data.toList.drop 140 = dktX7_in_4 := dk_seg dksX7_in_3 24 rfl rfl
theorem dksX7_in_5 : cX7_in.data.toList.drop 163 = dktX7_in_5 := dk_seg dksX7_in_4 23 rfl rfl
theorem dksX7_in_6 : cX7_in.data.toList.drop 187 = dktX7_in_6 := dk_seg dksX7_in_5 24 rfl rfl
theorem dksX7_in_7 : cX7_in.data.toList.drop 204 = dktX7_in_7 := dk_seg dksX7_in_6 17 rfl rfl
theorem dksX7_in_8 : cX7_in.data.toList.drop 252 = dktX7_in_8 := dk_seg dksX7_in_7 48 rfl rfl
theorem dksX7_in_9 : cX7_in.data.toList.drop 276 = dktX7_in_9 := dk_seg dksX7_in_8 24 rfl rfl
theorem dksX7_in_10 : cX7_in.data.toList.drop 298 = dktX7_in_10 := dk_seg dksX7_in_9 22 rfl rfl
theorem dksX7_in_11 : cX7_in.data.toList.drop 321 = dktX7_in_11 := dk_seg dksX7_in_10 23 rfl rfl
theorem dksX7_in_12 : cX7_in.data.toList.drop 343 = dktX7_in_12 := dk_seg dksX7_in_11 22 rfl rfl
theorem dksX7_in_13 : cX7_in.data.toList.drop 366 = dktX7_in_13 := dk_seg dksX7_in_12 23 rfl rfl
theorem dX7_in_0 : decode cX7_in 0 = .ok (.aload_n 0, 1) := dk_42 (dk_at dksX7_in_0 0 rfl rfl)
theorem dX7_in_1 : decode cX7_in 1 = .ok (.invokevirtual 59, 3) := dk_182 0 59 (dk_at dksX7_in_0 1 rfl rfl)
theorem dX7_in_4 : decode cX7_in 4 = .ok (.invokestatic 63, 3) := dk_184 0 63 (dk_at dksX7_in_0 4 rfl rfl)
theorem dX7_in_7 : decode cX7_in 7 = .ok (.aload_n 0, 1) := dk_42 (dk_at dksX7_in_0 7 rfl rfl)
theorem dX7_in_8 : decode cX7_in 8 = .ok (.getfield 7, 3) := dk_180 0 7 (dk_at dksX7_in_0 8 rfl rfl)
theorem dX7_in_11 : decode cX7_in 11 = .ok (.astore_n 2, 1) := dk_77 (dk_at dksX7_in_0 11 rfl rfl)
theorem dX7_in_12 : decode cX7_in 12 = .ok (.iconst (-1), 1) := dk_2 (dk_at dksX7_in_0 12 rfl rfl)
theorem dX7_in_13 : decode cX7_in 13 = .ok (.istore_n 3, 1) := dk_62 (dk_at dksX7_in_0 13 rfl rfl)
theorem dX7_in_14 : decode cX7_in 14 = .ok (.aload_n 2, 1) := dk_44 (dk_at dksX7_in_0 14 rfl rfl)
theorem dX7_in_15 : decode cX7_in 15 = .ok (.invokevirtual 24, 3) := dk_182 0 24 (dk_at dksX7_in_0 15 rfl rfl)
theorem dX7_in_18 : decode cX7_in 18 = .ok (.lookupswitch 185 #[(-891986231, 158), (-891985998, 88), (116103, 144), (3015911, 116), (3317999, 102), (3347790, 130), (96667352, 74), (1223440372, 173)], 74) := by decide +kernel
theorem dX7_in_92 : decode cX7_in 92 = .ok (.aload_n 2, 1) := dk_44 (dk_at dksX7_in_2 0 rfl rfl)
theorem dX7_in_93 : decode cX7_in 93 = .ok (.ldc 30, 2) := dk_18 30 (dk_at dksX7_in_2 1 rfl rfl)
theorem dX7_in_95 : decode cX7_in 95 = .ok (.invokevirtual 32, 3) := dk_182 0 32 (dk_at dksX7_in_2 3 rfl rfl)
theorem dX7_in_98 : decode cX7_in 98 = .ok (.ifCond .eq 105, 3) := dk_153 0 105 (dk_at dksX7_in_2 6 rfl rfl)
theorem dX7_in_101 : decode cX7_in 101 = .ok (.iconst 0, 1) := dk_3 (dk_at dksX7_in_2 9 rfl rfl)
theorem dX7_in_102 : decode cX7_in 102 = .ok (.istore_n 3, 1) := dk_62 (dk_at dksX7_in_2 10 rfl rfl)
theorem dX7_in_103 : decode cX7_in 103 = .ok (.goto 100, 3) := dk_167 0 100 (dk_at dksX7_in_2 11 rfl rfl)
theorem dX7_in_106 : decode cX7_in 106 = .ok (.aload_n 2, 1) := dk_44 (dk_at dksX7_in_2 14 rfl rfl)
theorem dX7_in_107 : decode cX7_in 107 = .ok (.ldc 67, 2) := dk_18 67 (dk_at dksX7_in_2 15 rfl rfl)
theorem dX7_in_109 : decode cX7_in 109 = .ok (.invokevirtual 32, 3) := dk_182 0 32 (dk_at dksX7_in_2 17 rfl rfl)
theorem dX7_in_112 : decode cX7_in 112 = .ok (.ifCond .eq 91, 3) := dk_153 0 91 (dk_at dksX7_in_2 20 rfl rfl)
theorem dX7_in_115 : decode cX7_in 115 = .ok (.iconst 1, 1) := dk_4 (dk_at dksX7_in_2 23 rfl rfl)
theorem dX7_in_116 : decode cX7_in 116 = .ok (.istore_n 3, 1) := dk_62 (dk_at dksX7_in_3 0 rfl rfl)
theorem dX7_in_117 : decode cX7_in 117 = .ok (.goto 86, 3) := dk_167 0 86 (dk_at dksX7_in_3 1 rfl rfl)
theorem dX7_in_120 : decode cX7_in 120 = .ok (.aload_n 2, 1) := dk_44 (dk_at dksX7_in_3 4 rfl rfl)
theorem dX7_in_121 : decode cX7_in 121 = .ok (.ldc 36, 2) := dk_18 36 (dk_at dksX7_in_3 5 rfl rfl)
theorem dX7_in_123 : decode cX7_in 123 = .ok (.invokevirtual 32, 3) := dk_182 0 32 (dk_at dksX7_in_3 7 rfl rfl)
theorem dX7_in_126 : decode cX7_in 126 = .ok (.ifCond .eq 77, 3) := dk_153 0 77 (dk_at dksX7_in_3 10 rfl rfl)
theorem dX7_in_129 : decode cX7_in 129 = .ok (.iconst 2, 1) := dk_5 (dk_at dksX7_in_3 13 rfl rfl)
theorem dX7_in_130 : decode cX7_in 130 = .ok (.istore_n 3, 1) := dk_62 (dk_at dksX7_in_3 14 rfl rfl)
theorem dX7_in_131 : decode cX7_in 131 = .ok (.goto 72, 3) := dk_167 0 72 (dk_at dksX7_in_3 15 rfl rfl)
theorem dX7_in_134 : decode cX7_in 134 = .ok (.aload_n 2, 1) := dk_44 (dk_at dksX7_in_3 18 rfl rfl)
theorem dX7_in_135 : decode cX7_in 135 = .ok (.ldc 69, 2) := dk_18 69 (dk_at dksX7_in_3 19 rfl rfl)
theorem dX7_in_137 : decode cX7_in 137 = .ok (.invokevirtual 32, 3) := dk_182 0 32 (dk_at dksX7_in_3 21 rfl rfl)
theorem dX7_in_140 : decode cX7_in 140 = .ok (.ifCond .eq 63, 3) := dk_153 0 63 (dk_at dksX7_in_4 0 rfl rfl)
theorem dX7_in_143 : decode cX7_in 143 = .ok (.iconst 3, 1) := dk_6 (dk_at dksX7_in_4 3 rfl rfl)
theorem dX7_in_144 : decode cX7_in 144 = .ok (.istore_n 3, 1) := dk_62 (dk_at dksX7_in_4 4 rfl rfl)
theorem dX7_in_145 : decode cX7_in 145 = .ok (.goto 58, 3) := dk_167 0 58 (dk_at dksX7_in_4 5 rfl rfl)
theorem dX7_in_148 : decode cX7_in 148 = .ok (.aload_n 2, 1) := dk_44 (dk_at dksX7_in_4 8 rfl rfl)
theorem dX7_in_149 : decode cX7_in 149 = .ok (.ldc 38, 2) := dk_18 38 (dk_at dksX7_in_4 9 rfl rfl)
theorem dX7_in_151 : decode cX7_in 151 = .ok (.invokevirtual 32, 3) := dk_182 0 32 (dk_at dksX7_in_4 11 rfl rfl)
theorem dX7_in_154 : decode cX7_in 154 = .ok (.ifCond .eq 49, 3) := dk_153 0 49 (dk_at dksX7_in_4 14 rfl rfl)
theorem dX7_in_157 : decode cX7_in 157 = .ok (.iconst 4, 1) := dk_7 (dk_at dksX7_in_4 17 rfl rfl)
theorem dX7_in_158 : decode cX7_in 158 = .ok (.istore_n 3, 1) := dk_62 (dk_at dksX7_in_4 18 rfl rfl)
theorem dX7_in_159 : decode cX7_in 159 = .ok (.goto 44, 3) := dk_167 0 44 (dk_at dksX7_in_4 19 rfl rfl)
theorem dX7_in_162 : decode cX7_in 162 = .ok (.aload_n 2, 1) := dk_44 (dk_at dksX7_in_4 22 rfl rfl)
theorem dX7_in_163 : decode cX7_in 163 = .ok (.ldc 40, 2) := dk_18 40 (dk_at dksX7_in_5 0 rfl rfl)
theorem dX7_in_165 : decode cX7_in 165 = .ok (.invokevirtual 32, 3) := dk_182 0 32 (dk_at dksX7_in_5 2 rfl rfl)
theorem dX7_in_168 : decode cX7_in 168 = .ok (.ifCond .eq 35, 3) := dk_153 0 35 (dk_at dksX7_in_5 5 rfl rfl)
theorem dX7_in_171 : decode cX7_in 171 = .ok (.iconst 5, 1) := dk_8 (dk_at dksX7_in_5 8 rfl rfl)
theorem dX7_in_172 : decode cX7_in 172 = .ok (.istore_n 3, 1) := dk_62 (dk_at dksX7_in_5 9 rfl rfl)
theorem dX7_in_173 : decode cX7_in 173 = .ok (.goto 30, 3) := dk_167 0 30 (dk_at dksX7_in_5 10 rfl rfl)
theorem dX7_in_176 : decode cX7_in 176 = .ok (.aload_n 2, 1) := dk_44 (dk_at dksX7_in_5 13 rfl rfl)
theorem dX7_in_177 : decode cX7_in 177 = .ok (.ldc 42, 2) := dk_18 42 (dk_at dksX7_in_5 14 rfl rfl)
theorem dX7_in_179 : decode cX7_in 179 = .ok (.invokevirtual 32, 3) := dk_182 0 32 (dk_at dksX7_in_5 16 rfl rfl)
theorem dX7_in_182 : decode cX7_in 182 = .ok (.ifCond .eq 21, 3) := dk_153 0 21 (dk_at dksX7_in_5 19 rfl rfl)
theorem dX7_in_185 : decode cX7_in 185 = .ok (.bipush 6, 2) := dk_16 6 (dk_at dksX7_in_5 22 rfl rfl)
theorem dX7_in_187 : decode cX7_in 187 = .ok (.istore_n 3, 1) := dk_62 (dk_at dksX7_in_6 0 rfl rfl)
theorem dX7_in_188 : decode cX7_in 188 = .ok (.goto 15, 3) := dk_167 0 15 (dk_at dksX7_in_6 1 rfl rfl)
theorem dX7_in_191 : decode cX7_in 191 = .ok (.aload_n 2, 1) := dk_44 (dk_at dksX7_in_6 4 rfl rfl)
theorem dX7_in_192 : decode cX7_in 192 = .ok (.ldc 71, 2) := dk_18 71 (dk_at dksX7_in_6 5 rfl rfl)
theorem dX7_in_194 : decode cX7_in 194 = .ok (.invokevirtual 32, 3) := dk_182 0 32 (dk_at dksX7_in_6 7 rfl rfl)
theorem dX7_in_197 : decode cX7_in 197 = .ok (.ifCond .eq 6, 3) := dk_153 0 6 (dk_at dksX7_in_6 10 rfl rfl)
theorem dX7_in_200 : decode cX7_in 200 = .ok (.bipush 7, 2) := dk_16 7 (dk_at dksX7_in_6 13 rfl rfl)
theorem dX7_in_202 : decode cX7_in 202 = .ok (.istore_n 3, 1) := dk_62 (dk_at dksX7_in_6 15 rfl rfl)
theorem dX7_in_203 : decode cX7_in 203 = .ok (.iload_n 3, 1) := dk_29 (dk_at dksX7_in_6 16 rfl rfl)
theorem dX7_in_204 : decode cX7_in 204 = .ok (.tableswitch 168 0 7 #[48, 67, 78, 97, 108, 123, 142, 157], 48) := by decide +kernel
theorem dX7_in_252 : decode cX7_in 252 = .ok (.aload_n 1, 1) := dk_43 (dk_at dksX7_in_8 0 rfl rfl)
theorem dX7_in_253 : decode cX7_in 253 = .ok (.aload_n 0, 1) := dk_42 (dk_at dksX7_in_8 1 rfl rfl)
theorem dX7_in_254 : decode cX7_in 254 = .ok (.getfield 13, 3) := dk_180 0 13 (dk_at dksX7_in_8 2 rfl rfl)
theorem dX7_in_257 : decode cX7_in 257 = .ok (.aload_n 0, 1) := dk_42 (dk_at dksX7_in_8 5 rfl rfl)
theorem dX7_in_258 : decode cX7_in 258 = .ok (.getfield 17, 3) := dk_180 0 17 (dk_at dksX7_in_8 6 rfl rfl)
theorem dX7_in_261 : decode cX7_in 261 = .ok (.aload_n 0, 1) := dk_42 (dk_at dksX7_in_8 9 rfl rfl)
theorem dX7_in_262 : decode cX7_in 262 = .ok (.getfield 21, 3) := dk_180 0 21 (dk_at dksX7_in_8 10 rfl rfl)
theorem dX7_in_265 : decode cX7_in 265 = .ok (.invokevirtual 73, 3) := dk_182 0 73 (dk_at dksX7_in_8 13 rfl rfl)
theorem dX7_in_268 : decode cX7_in 268 = .ok (.goto 108, 3) := dk_167 0 108 (dk_at dksX7_in_8 16 rfl rfl)
theorem dX7_in_271 : decode cX7_in 271 = .ok (.aload_n 1, 1) := dk_43 (dk_at dksX7_in_8 19 rfl rfl)
theorem dX7_in_272 : decode cX7_in 272 = .ok (.aload_n 0, 1) := dk_42 (dk_at dksX7_in_8 20 rfl rfl)
theorem dX7_in_273 : decode cX7_in 273 = .ok (.getfield 17, 3) := dk_180 0 17 (dk_at dksX7_in_8 21 rfl rfl)
theorem dX7_in_276 : decode cX7_in 276 = .ok (.invokevirtual 78, 3) := dk_182 0 78 (dk_at dksX7_in_9 0 rfl rfl)
theorem dX7_in_279 : decode cX7_in 279 = .ok (.goto 97, 3) := dk_167 0 97 (dk_at dksX7_in_9 3 rfl rfl)
theorem dX7_in_282 : decode cX7_in 282 = .ok (.aload_n 1, 1) := dk_43 (dk_at dksX7_in_9 6 rfl rfl)
theorem dX7_in_283 : decode cX7_in 283 = .ok (.aload_n 0, 1) := dk_42 (dk_at dksX7_in_9 7 rfl rfl)
theorem dX7_in_284 : decode cX7_in 284 = .ok (.getfield 17, 3) := dk_180 0 17 (dk_at dksX7_in_9 8 rfl rfl)
theorem dX7_in_287 : decode cX7_in 287 = .ok (.aload_n 0, 1) := dk_42 (dk_at dksX7_in_9 11 rfl rfl)
theorem dX7_in_288 : decode cX7_in 288 = .ok (.getfield 13, 3) := dk_180 0 13 (dk_at dksX7_in_9 12 rfl rfl)
theorem dX7_in_291 : decode cX7_in 291 = .ok (.aload_n 0, 1) := dk_42 (dk_at dksX7_in_9 15 rfl rfl)
theorem dX7_in_292 : decode cX7_in 292 = .ok (.getfield 21, 3) := dk_180 0 21 (dk_at dksX7_in_9 16 rfl rfl)
theorem dX7_in_295 : decode cX7_in 295 = .ok (.invokevirtual 81, 3) := dk_182 0 81 (dk_at dksX7_in_9 19 rfl rfl)
theorem dX7_in_298 : decode cX7_in 298 = .ok (.goto 78, 3) := dk_167 0 78 (dk_at dksX7_in_10 0 rfl rfl)
theorem dX7_in_301 : decode cX7_in 301 = .ok (.aload_n 1, 1) := dk_43 (dk_at dksX7_in_10 3 rfl rfl)
theorem dX7_in_302 : decode cX7_in 302 = .ok (.aload_n 0, 1) := dk_42 (dk_at dksX7_in_10 4 rfl rfl)
theorem dX7_in_303 : decode cX7_in 303 = .ok (.getfield 17, 3) := dk_180 0 17 (dk_at dksX7_in_10 5 rfl rfl)
theorem dX7_in_306 : decode cX7_in 306 = .ok (.invokevirtual 84, 3) := dk_182 0 84 (dk_at dksX7_in_10 8 rfl rfl)
theorem dX7_in_309 : decode cX7_in 309 = .ok (.goto 67, 3) := dk_167 0 67 (dk_at dksX7_in_10 11 rfl rfl)
theorem dX7_in_312 : decode cX7_in 312 = .ok (.aload_n 1, 1) := dk_43 (dk_at dksX7_in_10 14 rfl rfl)
theorem dX7_in_313 : decode cX7_in 313 = .ok (.aload_n 0, 1) := dk_42 (dk_at dksX7_in_10 15 rfl rfl)
theorem dX7_in_314 : decode cX7_in 314 = .ok (.getfield 17, 3) := dk_180 0 17 (dk_at dksX7_in_10 16 rfl rfl)
theorem dX7_in_317 : decode cX7_in 317 = .ok (.aload_n 0, 1) := dk_42 (dk_at dksX7_in_10 19 rfl rfl)
theorem dX7_in_318 : decode cX7_in 318 = .ok (.getfield 21, 3) := dk_180 0 21 (dk_at dksX7_in_10 20 rfl rfl)
theorem dX7_in_321 : decode cX7_in 321 = .ok (.invokevirtual 86, 3) := dk_182 0 86 (dk_at dksX7_in_11 0 rfl rfl)
theorem dX7_in_324 : decode cX7_in 324 = .ok (.goto 52, 3) := dk_167 0 52 (dk_at dksX7_in_11 3 rfl rfl)
theorem dX7_in_327 : decode cX7_in 327 = .ok (.aload_n 1, 1) := dk_43 (dk_at dksX7_in_11 6 rfl rfl)
theorem dX7_in_328 : decode cX7_in 328 = .ok (.aload_n 0, 1) := dk_42 (dk_at dksX7_in_11 7 rfl rfl)
theorem dX7_in_329 : decode cX7_in 329 = .ok (.getfield 13, 3) := dk_180 0 13 (dk_at dksX7_in_11 8 rfl rfl)
theorem dX7_in_332 : decode cX7_in 332 = .ok (.aload_n 0, 1) := dk_42 (dk_at dksX7_in_11 11 rfl rfl)
theorem dX7_in_333 : decode cX7_in 333 = .ok (.getfield 17, 3) := dk_180 0 17 (dk_at dksX7_in_11 12 rfl rfl)
theorem dX7_in_336 : decode cX7_in 336 = .ok (.aload_n 0, 1) := dk_42 (dk_at dksX7_in_11 15 rfl rfl)
theorem dX7_in_337 : decode cX7_in 337 = .ok (.getfield 21, 3) := dk_180 0 21 (dk_at dksX7_in_11 16 rfl rfl)
theorem dX7_in_340 : decode cX7_in 340 = .ok (.invokevirtual 89, 3) := dk_182 0 89 (dk_at dksX7_in_11 19 rfl rfl)
theorem dX7_in_343 : decode cX7_in 343 = .ok (.goto 33, 3) := dk_167 0 33 (dk_at dksX7_in_12 0 rfl rfl)
theorem dX7_in_346 : decode cX7_in 346 = .ok (.aload_n 1, 1) := dk_43 (dk_at dksX7_in_12 3 rfl rfl)
theorem dX7_in_347 : decode cX7_in 347 = .ok (.aload_n 0, 1) := dk_42 (dk_at dksX7_in_12 4 rfl rfl)
theorem dX7_in_348 : decode cX7_in 348 = .ok (.getfield 13, 3) := dk_180 0 13 (dk_at dksX7_in_12 5 rfl rfl)
theorem dX7_in_351 : decode cX7_in 351 = .ok (.aload_n 0, 1) := dk_42 (dk_at dksX7_in_12 8 rfl rfl)
theorem dX7_in_352 : decode cX7_in 352 = .ok (.getfield 21, 3) := dk_180 0 21 (dk_at dksX7_in_12 9 rfl rfl)
theorem dX7_in_355 : decode cX7_in 355 = .ok (.invokevirtual 91, 3) := dk_182 0 91 (dk_at dksX7_in_12 12 rfl rfl)
theorem dX7_in_358 : decode cX7_in 358 = .ok (.goto 18, 3) := dk_167 0 18 (dk_at dksX7_in_12 15 rfl rfl)
theorem dX7_in_361 : decode cX7_in 361 = .ok (.aload_n 1, 1) := dk_43 (dk_at dksX7_in_12 18 rfl rfl)
theorem dX7_in_362 : decode cX7_in 362 = .ok (.aload_n 0, 1) := dk_42 (dk_at dksX7_in_12 19 rfl rfl)
theorem dX7_in_363 : decode cX7_in 363 = .ok (.getfield 21, 3) := dk_180 0 21 (dk_at dksX7_in_12 20 rfl rfl)
theorem dX7_in_366 : decode cX7_in 366 = .ok (.invokevirtual 94, 3) := dk_182 0 94 (dk_at dksX7_in_13 0 rfl rfl)
theorem dX7_in_369 : decode cX7_in 369 = .ok (.goto 7, 3) := dk_167 0 7 (dk_at dksX7_in_13 3 rfl rfl)
theorem dX7_in_372 : decode cX7_in 372 = .ok (.aload_n 1, 1) := dk_43 (dk_at dksX7_in_13 6 rfl rfl)
theorem dX7_in_373 : decode cX7_in 373 = .ok (.invokevirtual 97, 3) := dk_182 0 97 (dk_at dksX7_in_13 7 rfl rfl)
theorem dX7_in_376 : decode cX7_in 376 = .ok (.ireturn, 1) := dk_172 (dk_at dksX7_in_13 10 rfl rfl)
abbrev cX7_isRight : ByteArray := prog_3_method_2_code
def yX7_isRight : MethodName := ⟨RX7, "isRight", "()Z"⟩
def dkwX7_isRight_11 : List UInt8 := [3, 167, 0, 4, 4, 172]
abbrev dktX7_isRight_11 : List UInt8 := dkwX7_isRight_11 ++ []
def dkwX7_isRight_10 : List UInt8 := [42, 180, 0, 13, 184, 0, 56, 153, 0, 17, 42, 180, 0, 21, 184, 0, 50, 153, 0, 7, 4, 167, 0, 8]
abbrev dktX7_isRight_10 : List UInt8 := dkwX7_isRight_10 ++ dktX7_isRight_11
def dkwX7_isRight_9 : List UInt8 := [184, 0, 44, 153, 0, 17, 42, 180, 0, 21, 184, 0, 56, 153, 0, 7, 4, 167, 0, 36, 3, 167, 0, 32]
abbrev dktX7_isRight_9 : List UInt8 := dkwX7_isRight_9 ++ dktX7_isRight_10
def dkwX7_isRight_8 : List UInt8 := [4, 167, 0, 74, 3, 167, 0, 70, 42, 180, 0, 21, 184, 0, 50, 167, 0, 60, 42, 180, 0, 13]
abbrev dktX7_isRight_8 : List UInt8 := dkwX7_isRight_8 ++ dktX7_isRight_9
def dkwX7_isRight_7 : List UInt8 := [3, 167, 0, 98, 42, 180, 0, 13, 184, 0, 44, 153, 0, 17, 42, 180, 0, 21, 184, 0, 53, 153, 0, 7]
abbrev dktX7_isRight_7 : List UInt8 := dkwX7_isRight_7 ++ dktX7_isRight_8
def dkwX7_isRight_6 : List UInt8 := [42, 180, 0, 13, 184, 0, 44, 153, 0, 17, 42, 180, 0, 21, 184, 0, 50, 153, 0, 7, 4, 167, 0, 102]
abbrev dktX7_isRight_6 : List UInt8 := dkwX7_isRight_6 ++ dktX7_isRight_7
def dkwX7_isRight_5 : List UInt8 := [170, 0, 0, 0, 0, 0, 0, 158, 0, 0, 0, 0, 0, 0, 0, 4, 0, 0, 0, 36, 0, 0, 0, 64, 0, 0, 0, 92, 0, 0, 0, 102, 0, 0, 0, 130]
abbrev dktX7_isRight_5 : List UInt8 := dkwX7_isRight_5 ++ dktX7_isRight_6
def dkwX7_isRight_4 : List UInt8 := [153, 0, 19, 6, 61, 167, 0, 14, 43, 18, 42, 182, 0, 32, 153, 0, 5, 7, 61, 28]
abbrev dktX7_isRight_4 : List UInt8 := dkwX7_isRight_4 ++ dktX7_isRight_5
def dkwX7_isRight_3 : List UInt8 := [61, 167, 0, 42, 43, 18, 38, 182, 0, 32, 153, 0, 33, 5, 61, 167, 0, 28, 43, 18, 40, 182, 0, 32]
abbrev dktX7_isRight_3 : List UInt8 := dkwX7_isRight_3 ++ dktX7_isRight_4
def dkwX7_isRight_2 : List UInt8 := [43, 18, 30, 182, 0, 32, 153, 0, 61, 3, 61, 167, 0, 56, 43, 18, 36, 182, 0, 32, 153, 0, 47, 4]
abbrev dktX7_isRight_2 : List UInt8 := dkwX7_isRight_2 ++ dktX7_isRight_3
def dkwX7_isRight_1 : List UInt8 := [171, 0, 0, 0, 116, 0, 0, 0, 5, 202, 213, 94, 201, 0, 0, 0, 105, 0, 1, 197, 135, 0, 0, 0, 91, 0, 50, 160, 239, 0, 0, 0, 63, 0, 51, 21, 78, 0, 0, 0, 77, 5, 195, 6, 216, 0, 0, 0, 49]
abbrev dktX7_isRight_1 : List UInt8 := dkwX7_isRight_1 ++ dktX7_isRight_2
def dkwX7_isRight_0 : List UInt8 := [42, 180, 0, 7, 76, 2, 61, 43, 182, 0, 24]
abbrev dktX7_isRight_0 : List UInt8 := dkwX7_isRight_0 ++ dktX7_isRight_1
theorem dksX7_isRight_0 : cX7_isRight.data.toList.drop 0 = dktX7_isRight_0 := by decide +kernel
theorem dksX7_isRight_1 : cX7_isRight.data.toList.drop 11 = dktX7_isRight_1 := dk_seg dksX7_isRight_0 11 rfl rfl
theorem dksX7_isRight_2 : cX7_isRight.data.toList.drop 60 = dktX7_isRight_2 := dk_seg dksX7_isRight_1 49 rfl rfl
theorem dksX7_isRight_3 : cX7_isRight.data.toList.drop 84 = dktX7_isRight_3 := dk_seg dksX7_isRight_2 24 rfl rfl
theorem dksX7_isRight_4 : cX7_isRight.data.toList.drop 108 = dktX7_isRight_4 := dk_seg dksX7_isRight_3 24 rfl rfl
theorem dksX7_isRight_5 : cX7_isRight.data.toList.drop 128 = dktX7_isRight_5 := dk_seg dksX7_isRight_4 20 rfl rfl
theorem dksX7_isRight_6 : cX7_isRight.data.toList.drop 164 = dktX7_isRight_6 := dk_seg dksX7_isRight_5 36 rfl rfl
theorem dksX7_isRight_7 : cX7_isRight.data.toList.drop 188 = dktX7_isRight_7 := dk_seg dksX7_isRight_6 24 rfl rfl
theorem dksX7_isRight_8 : cX7_isRight.data.toList.drop 212 = dktX7_isRight_8 := dk_seg dksX7_isRight_7 24 rfl rfl
theorem dksX7_isRight_9 : cX7_isRight.data.toList.drop 234 = dktX7_isRight_9 := dk_seg dksX7_isRight_8 22 rfl rfl
theorem dksX7_isRight_10 : cX7_isRight.data.toList.drop 258 = dktX7_isRight_10 := dk_seg dksX7_isRight_9 24 rfl rfl
theorem dksX7_isRight_11 : cX7_isRight.data.toList.drop 282 = dktX7_isRight_11 := dk_seg dksX7_isRight_10 24 rfl rfl
theorem dX7_isRight_0 : decode cX7_isRight 0 = .ok (.aload_n 0, 1) := dk_42 (dk_at dksX7_isRight_0 0 rfl rfl)
theorem dX7_isRight_1 : decode cX7_isRight 1 = .ok (.getfield 7, 3) := dk_180 0 7 (dk_at dksX7_isRight_0 1 rfl rfl)
theorem dX7_isRight_4 : decode cX7_isRight 4 = .ok (.astore_n 1, 1) := dk_76 (dk_at dksX7_isRight_0 4 rfl rfl)
theorem dX7_isRight_5 : decode cX7_isRight 5 = .ok (.iconst (-1), 1) := dk_2 (dk_at dksX7_isRight_0 5 rfl rfl)
theorem dX7_isRight_6 : decode cX7_isRight 6 = .ok (.istore_n 2, 1) := dk_61 (dk_at dksX7_isRight_0 6 rfl rfl)
theorem dX7_isRight_7 : decode cX7_isRight 7 = .ok (.aload_n 1, 1) := dk_43 (dk_at dksX7_isRight_0 7 rfl rfl)
theorem dX7_isRight_8 : decode cX7_isRight 8 = .ok (.invokevirtual 24, 3) := dk_182 0 24 (dk_at dksX7_isRight_0 8 rfl rfl)
theorem dX7_isRight_11 : decode cX7_isRight 11 = .ok (.lookupswitch 116 #[(-891986231, 105), (116103, 91), (3317999, 63), (3347790, 77), (96667352, 49)], 49) := by decide +kernel
theorem dX7_isRight_60 : decode cX7_isRight 60 = .ok (.aload_n 1, 1) := dk_43 (dk_at dksX7_isRight_2 0 rfl rfl)
theorem dX7_isRight_61 : decode cX7_isRight 61 = .ok (.ldc 30, 2) := dk_18 30 (dk_at dksX7_isRight_2 1 rfl rfl)
theorem dX7_isRight_63 : decode cX7_isRight 63 = .ok (.invokevirtual 32, 3) := dk_182 0 32 (dk_at dksX7_isRight_2 3 rfl rfl)
theorem dX7_isRight_66 : decode cX7_isRight 66 = .ok (.ifCond .eq 61, 3) := dk_153 0 61 (dk_at dksX7_isRight_2 6 rfl rfl)
theorem dX7_isRight_69 : decode cX7_isRight 69 = .ok (.iconst 0, 1) := dk_3 (dk_at dksX7_isRight_2 9 rfl rfl)
theorem dX7_isRight_70 : decode cX7_isRight 70 = .ok (.istore_n 2, 1) := dk_61 (dk_at dksX7_isRight_2 10 rfl rfl)
theorem dX7_isRight_71 : decode cX7_isRight 71 = .ok (.goto 56, 3) := dk_167 0 56 (dk_at dksX7_isRight_2 11 rfl rfl)
theorem dX7_isRight_74 : decode cX7_isRight 74 = .ok (.aload_n 1, 1) := dk_43 (dk_at dksX7_isRight_2 14 rfl rfl)
theorem dX7_isRight_75 : decode cX7_isRight 75 = .ok (.ldc 36, 2) := dk_18 36 (dk_at dksX7_isRight_2 15 rfl rfl)
theorem dX7_isRight_77 : decode cX7_isRight 77 = .ok (.invokevirtual 32, 3) := dk_182 0 32 (dk_at dksX7_isRight_2 17 rfl rfl)
theorem dX7_isRight_80 : decode cX7_isRight 80 = .ok (.ifCond .eq 47, 3) := dk_153 0 47 (dk_at dksX7_isRight_2 20 rfl rfl)
theorem dX7_isRight_83 : decode cX7_isRight 83 = .ok (.iconst 1, 1) := dk_4 (dk_at dksX7_isRight_2 23 rfl rfl)
theorem dX7_isRight_84 : decode cX7_isRight 84 = .ok (.istore_n 2, 1) := dk_61 (dk_at dksX7_isRight_3 0 rfl rfl)
theorem dX7_isRight_85 : decode cX7_isRight 85 = .ok (.goto 42, 3) := dk_167 0 42 (dk_at dksX7_isRight_3 1 rfl rfl)
theorem dX7_isRight_88 : decode cX7_isRight 88 = .ok (.aload_n 1, 1) := dk_43 (dk_at dksX7_isRight_3 4 rfl rfl)
theorem dX7_isRight_89 : decode cX7_isRight 89 = .ok (.ldc 38, 2) := dk_18 38 (dk_at dksX7_isRight_3 5 rfl rfl)
theorem dX7_isRight_91 : decode cX7_isRight 91 = .ok (.invokevirtual 32, 3) := dk_182 0 32 (dk_at dksX7_isRight_3 7 rfl rfl)
theorem dX7_isRight_94 : decode cX7_isRight 94 = .ok (.ifCond .eq 33, 3) := dk_153 0 33 (dk_at dksX7_isRight_3 10 rfl rfl)
theorem dX7_isRight_97 : decode cX7_isRight 97 = .ok (.iconst 2, 1) := dk_5 (dk_at dksX7_isRight_3 13 rfl rfl)
theorem dX7_isRight_98 : decode cX7_isRight 98 = .ok (.istore_n 2, 1) := dk_61 (dk_at dksX7_isRight_3 14 rfl rfl)
theorem dX7_isRight_99 : decode cX7_isRight 99 = .ok (.goto 28, 3) := dk_167 0 28 (dk_at dksX7_isRight_3 15 rfl rfl)
theorem dX7_isRight_102 : decode cX7_isRight 102 = .ok (.aload_n 1, 1) := dk_43 (dk_at dksX7_isRight_3 18 rfl rfl)
theorem dX7_isRight_103 : decode cX7_isRight 103 = .ok (.ldc 40, 2) := dk_18 40 (dk_at dksX7_isRight_3 19 rfl rfl)
theorem dX7_isRight_105 : decode cX7_isRight 105 = .ok (.invokevirtual 32, 3) := dk_182 0 32 (dk_at dksX7_isRight_3 21 rfl rfl)
theorem dX7_isRight_108 : decode cX7_isRight 108 = .ok (.ifCond .eq 19, 3) := dk_153 0 19 (dk_at dksX7_isRight_4 0 rfl rfl)
theorem dX7_isRight_111 : decode cX7_isRight 111 = .ok (.iconst 3, 1) := dk_6 (dk_at dksX7_isRight_4 3 rfl rfl)
theorem dX7_isRight_112 : decode cX7_isRight 112 = .ok (.istore_n 2, 1) := dk_61 (dk_at dksX7_isRight_4 4 rfl rfl)
theorem dX7_isRight_113 : decode cX7_isRight 113 = .ok (.goto 14, 3) := dk_167 0 14 (dk_at dksX7_isRight_4 5 rfl rfl)
theorem dX7_isRight_116 : decode cX7_isRight 116 = .ok (.aload_n 1, 1) := dk_43 (dk_at dksX7_isRight_4 8 rfl rfl)
theorem dX7_isRight_117 : decode cX7_isRight 117 = .ok (.ldc 42, 2) := dk_18 42 (dk_at dksX7_isRight_4 9 rfl rfl)
theorem dX7_isRight_119 : decode cX7_isRight 119 = .ok (.invokevirtual 32, 3) := dk_182 0 32 (dk_at dksX7_isRight_4 11 rfl rfl)
theorem dX7_isRight_122 : decode cX7_isRight 122 = .ok (.ifCond .eq 5, 3) := dk_153 0 5 (dk_at dksX7_isRight_4 14 rfl rfl)
theorem dX7_isRight_125 : decode cX7_isRight 125 = .ok (.iconst 4, 1) := dk_7 (dk_at dksX7_isRight_4 17 rfl rfl)
theorem dX7_isRight_126 : decode cX7_isRight 126 = .ok (.istore_n 2, 1) := dk_61 (dk_at dksX7_isRight_4 18 rfl rfl)
theorem dX7_isRight_127 : decode cX7_isRight 127 = .ok (.iload_n 2, 1) := dk_28 (dk_at dksX7_isRight_4 19 rfl rfl)
theorem dX7_isRight_128 : decode cX7_isRight 128 = .ok (.tableswitch 158 0 4 #[36, 64, 92, 102, 130], 36) := by decide +kernel
theorem dX7_isRight_164 : decode cX7_isRight 164 = .ok (.aload_n 0, 1) := dk_42 (dk_at dksX7_isRight_6 0 rfl rfl)
theorem dX7_isRight_165 : decode cX7_isRight 165 = .ok (.getfield 13, 3) := dk_180 0 13 (dk_at dksX7_isRight_6 1 rfl rfl)
theorem dX7_isRight_168 : decode cX7_isRight 168 = .ok (.invokestatic 44, 3) := dk_184 0 44 (dk_at dksX7_isRight_6 4 rfl rfl)
theorem dX7_isRight_171 : decode cX7_isRight 171 = .ok (.ifCond .eq 17, 3) := dk_153 0 17 (dk_at dksX7_isRight_6 7 rfl rfl)
theorem dX7_isRight_174 : decode cX7_isRight 174 = .ok (.aload_n 0, 1) := dk_42 (dk_at dksX7_isRight_6 10 rfl rfl)
theorem dX7_isRight_175 : decode cX7_isRight 175 = .ok (.getfield 21, 3) := dk_180 0 21 (dk_at dksX7_isRight_6 11 rfl rfl)
theorem dX7_isRight_178 : decode cX7_isRight 178 = .ok (.invokestatic 50, 3) := dk_184 0 50 (dk_at dksX7_isRight_6 14 rfl rfl)
theorem dX7_isRight_181 : decode cX7_isRight 181 = .ok (.ifCond .eq 7, 3) := dk_153 0 7 (dk_at dksX7_isRight_6 17 rfl rfl)
theorem dX7_isRight_184 : decode cX7_isRight 184 = .ok (.iconst 1, 1) := dk_4 (dk_at dksX7_isRight_6 20 rfl rfl)
theorem dX7_isRight_185 : decode cX7_isRight 185 = .ok (.goto 102, 3) := dk_167 0 102 (dk_at dksX7_isRight_6 21 rfl rfl)
theorem dX7_isRight_188 : decode cX7_isRight 188 = .ok (.iconst 0, 1) := dk_3 (dk_at dksX7_isRight_7 0 rfl rfl)
theorem dX7_isRight_189 : decode cX7_isRight 189 = .ok (.goto 98, 3) := dk_167 0 98 (dk_at dksX7_isRight_7 1 rfl rfl)
theorem dX7_isRight_192 : decode cX7_isRight 192 = .ok (.aload_n 0, 1) := dk_42 (dk_at dksX7_isRight_7 4 rfl rfl)
theorem dX7_isRight_193 : decode cX7_isRight 193 = .ok (.getfield 13, 3) := dk_180 0 13 (dk_at dksX7_isRight_7 5 rfl rfl)
theorem dX7_isRight_196 : decode cX7_isRight 196 = .ok (.invokestatic 44, 3) := dk_184 0 44 (dk_at dksX7_isRight_7 8 rfl rfl)
theorem dX7_isRight_199 : decode cX7_isRight 199 = .ok (.ifCond .eq 17, 3) := dk_153 0 17 (dk_at dksX7_isRight_7 11 rfl rfl)
theorem dX7_isRight_202 : decode cX7_isRight 202 = .ok (.aload_n 0, 1) := dk_42 (dk_at dksX7_isRight_7 14 rfl rfl)
theorem dX7_isRight_203 : decode cX7_isRight 203 = .ok (.getfield 21, 3) := dk_180 0 21 (dk_at dksX7_isRight_7 15 rfl rfl)
theorem dX7_isRight_206 : decode cX7_isRight 206 = .ok (.invokestatic 53, 3) := dk_184 0 53 (dk_at dksX7_isRight_7 18 rfl rfl)
theorem dX7_isRight_209 : decode cX7_isRight 209 = .ok (.ifCond .eq 7, 3) := dk_153 0 7 (dk_at dksX7_isRight_7 21 rfl rfl)
theorem dX7_isRight_212 : decode cX7_isRight 212 = .ok (.iconst 1, 1) := dk_4 (dk_at dksX7_isRight_8 0 rfl rfl)
theorem dX7_isRight_213 : decode cX7_isRight 213 = .ok (.goto 74, 3) := dk_167 0 74 (dk_at dksX7_isRight_8 1 rfl rfl)
theorem dX7_isRight_216 : decode cX7_isRight 216 = .ok (.iconst 0, 1) := dk_3 (dk_at dksX7_isRight_8 4 rfl rfl)
theorem dX7_isRight_217 : decode cX7_isRight 217 = .ok (.goto 70, 3) := dk_167 0 70 (dk_at dksX7_isRight_8 5 rfl rfl)
theorem dX7_isRight_220 : decode cX7_isRight 220 = .ok (.aload_n 0, 1) := dk_42 (dk_at dksX7_isRight_8 8 rfl rfl)
theorem dX7_isRight_221 : decode cX7_isRight 221 = .ok (.getfield 21, 3) := dk_180 0 21 (dk_at dksX7_isRight_8 9 rfl rfl)
theorem dX7_isRight_224 : decode cX7_isRight 224 = .ok (.invokestatic 50, 3) := dk_184 0 50 (dk_at dksX7_isRight_8 12 rfl rfl)
theorem dX7_isRight_227 : decode cX7_isRight 227 = .ok (.goto 60, 3) := dk_167 0 60 (dk_at dksX7_isRight_8 15 rfl rfl)
theorem dX7_isRight_230 : decode cX7_isRight 230 = .ok (.aload_n 0, 1) := dk_42 (dk_at dksX7_isRight_8 18 rfl rfl)
theorem dX7_isRight_231 : decode cX7_isRight 231 = .ok (.getfield 13, 3) := dk_180 0 13 (dk_at dksX7_isRight_8 19 rfl rfl)
theorem dX7_isRight_234 : decode cX7_isRight 234 = .ok (.invokestatic 44, 3) := dk_184 0 44 (dk_at dksX7_isRight_9 0 rfl rfl)
theorem dX7_isRight_237 : decode cX7_isRight 237 = .ok (.ifCond .eq 17, 3) := dk_153 0 17 (dk_at dksX7_isRight_9 3 rfl rfl)
theorem dX7_isRight_240 : decode cX7_isRight 240 = .ok (.aload_n 0, 1) := dk_42 (dk_at dksX7_isRight_9 6 rfl rfl)
theorem dX7_isRight_241 : decode cX7_isRight 241 = .ok (.getfield 21, 3) := dk_180 0 21 (dk_at dksX7_isRight_9 7 rfl rfl)
theorem dX7_isRight_244 : decode cX7_isRight 244 = .ok (.invokestatic 56, 3) := dk_184 0 56 (dk_at dksX7_isRight_9 10 rfl rfl)
theorem dX7_isRight_247 : decode cX7_isRight 247 = .ok (.ifCond .eq 7, 3) := dk_153 0 7 (dk_at dksX7_isRight_9 13 rfl rfl)
theorem dX7_isRight_250 : decode cX7_isRight 250 = .ok (.iconst 1, 1) := dk_4 (dk_at dksX7_isRight_9 16 rfl rfl)
theorem dX7_isRight_251 : decode cX7_isRight 251 = .ok (.goto 36, 3) := dk_167 0 36 (dk_at dksX7_isRight_9 17 rfl rfl)
theorem dX7_isRight_254 : decode cX7_isRight 254 = .ok (.iconst 0, 1) := dk_3 (dk_at dksX7_isRight_9 20 rfl rfl)
theorem dX7_isRight_255 : decode cX7_isRight 255 = .ok (.goto 32, 3) := dk_167 0 32 (dk_at dksX7_isRight_9 21 rfl rfl)
theorem dX7_isRight_258 : decode cX7_isRight 258 = .ok (.aload_n 0, 1) := dk_42 (dk_at dksX7_isRight_10 0 rfl rfl)
theorem dX7_isRight_259 : decode cX7_isRight 259 = .ok (.getfield 13, 3) := dk_180 0 13 (dk_at dksX7_isRight_10 1 rfl rfl)
theorem dX7_isRight_262 : decode cX7_isRight 262 = .ok (.invokestatic 56, 3) := dk_184 0 56 (dk_at dksX7_isRight_10 4 rfl rfl)
theorem dX7_isRight_265 : decode cX7_isRight 265 = .ok (.ifCond .eq 17, 3) := dk_153 0 17 (dk_at dksX7_isRight_10 7 rfl rfl)
theorem dX7_isRight_268 : decode cX7_isRight 268 = .ok (.aload_n 0, 1) := dk_42 (dk_at dksX7_isRight_10 10 rfl rfl)
theorem dX7_isRight_269 : decode cX7_isRight 269 = .ok (.getfield 21, 3) := dk_180 0 21 (dk_at dksX7_isRight_10 11 rfl rfl)
theorem dX7_isRight_272 : decode cX7_isRight 272 = .ok (.invokestatic 50, 3) := dk_184 0 50 (dk_at dksX7_isRight_10 14 rfl rfl)
theorem dX7_isRight_275 : decode cX7_isRight 275 = .ok (.ifCond .eq 7, 3) := dk_153 0 7 (dk_at dksX7_isRight_10 17 rfl rfl)
theorem dX7_isRight_278 : decode cX7_isRight 278 = .ok (.iconst 1, 1) := dk_4 (dk_at dksX7_isRight_10 20 rfl rfl)
theorem dX7_isRight_279 : decode cX7_isRight 279 = .ok (.goto 8, 3) := dk_167 0 8 (dk_at dksX7_isRight_10 21 rfl rfl)
theorem dX7_isRight_282 : decode cX7_isRight 282 = .ok (.iconst 0, 1) := dk_3 (dk_at dksX7_isRight_11 0 rfl rfl)
theorem dX7_isRight_283 : decode cX7_isRight 283 = .ok (.goto 4, 3) := dk_167 0 4 (dk_at dksX7_isRight_11 1 rfl rfl)
theorem dX7_isRight_286 : decode cX7_isRight 286 = .ok (.iconst 1, 1) := dk_4 (dk_at dksX7_isRight_11 4 rfl rfl)
theorem dX7_isRight_287 : decode cX7_isRight 287 = .ok (.ireturn, 1) := dk_172 (dk_at dksX7_isRight_11 5 rfl rfl)
abbrev cX12_init : ByteArray := prog_2_method_1_code
def yX12_init : MethodName := ⟨RX12, "<init>", "(I)V"⟩
def dkwX12_init_0 : List UInt8 := [42, 183, 0, 1, 42, 27, 181, 0, 7, 177]
abbrev dktX12_init_0 : List UInt8 := dkwX12_init_0 ++ []
theorem dksX12_init_0 : cX12_init.data.toList.drop 0 = dktX12_init_0 := by decide +kernel
theorem dX12_init_0 : decode cX12_init 0 = .ok (.aload_n 0, 1) := dk_42 (dk_at dksX12_init_0 0 rfl rfl)
theorem dX12_init_1 : decode cX12_init 1 = .ok (.invokespecial 1, 3) := dk_183 0 1 (dk_at dksX12_init_0 1 rfl rfl)
theorem dX12_init_4 : decode cX12_init 4 = .ok (.aload_n 0, 1) := dk_42 (dk_at dksX12_init_0 4 rfl rfl)
theorem dX12_init_5 : decode cX12_init 5 = .ok (.iload_n 1, 1) := dk_27 (dk_at dksX12_init_0 5 rfl rfl)
theorem dX12_init_6 : decode cX12_init 6 = .ok (.putfield 7, 3) := dk_181 0 7 (dk_at dksX12_init_0 6 rfl rfl)
theorem dX12_init_9 : decode cX12_init 9 = .ok (.return_, 1) := dk_177 (dk_at dksX12_init_0 9 rfl rfl)
abbrev cX11_init : ByteArray := prog_7_method_1_code
def yX11_init : MethodName := ⟨RX11, "<init>", "(Ljava/lang/CharSequence;)V"⟩
def dkwX11_init_0 : List UInt8 := [42, 183, 0, 3, 42, 187, 0, 9, 89, 183, 0, 11, 181, 0, 12, 42, 43, 181, 0, 18, 177]
abbrev dktX11_init_0 : List UInt8 := dkwX11_init_0 ++ []
theorem dksX11_init_0 : cX11_init.data.toList.drop 0 = dktX11_init_0 := by decide +kernel
theorem dX11_init_0 : decode cX11_init 0 = .ok (.aload_n 0, 1) := dk_42 (dk_at dksX11_init_0 0 rfl rfl)
theorem dX11_init_1 : decode cX11_init 1 = .ok (.invokespecial 3, 3) := dk_183 0 3 (dk_at dksX11_init_0 1 rfl rfl)
theorem dX11_init_4 : decode cX11_init 4 = .ok (.aload_n 0, 1) := dk_42 (dk_at dksX11_init_0 4 rfl rfl)
theorem dX11_init_5 : decode cX11_init 5 = .ok (.new 9, 3) := dk_187 0 9 (dk_at dksX11_init_0 5 rfl rfl)
theorem dX11_init_8 : decode cX11_init 8 = .ok (.dup, 1) := dk_89 (dk_at dksX11_init_0 8 rfl rfl)
theorem dX11_init_9 : decode cX11_init 9 = .ok (.invokespecial 11, 3) := dk_183 0 11 (dk_at dksX11_init_0 9 rfl rfl)
theorem dX11_init_12 : decode cX11_init 12 = .ok (.putfield 12, 3) := dk_181 0 12 (dk_at dksX11_init_0 12 rfl rfl)
theorem dX11_init_15 : decode cX11_init 15 = .ok (.aload_n 0, 1) := dk_42 (dk_at dksX11_init_0 15 rfl rfl)
theorem dX11_init_16 : decode cX11_init 16 = .ok (.aload_n 1, 1) := dk_43 (dk_at dksX11_init_0 16 rfl rfl)
theorem dX11_init_17 : decode cX11_init 17 = .ok (.putfield 18, 3) := dk_181 0 18 (dk_at dksX11_init_0 17 rfl rfl)
theorem dX11_init_20 : decode cX11_init 20 = .ok (.return_, 1) := dk_177 (dk_at dksX11_init_0 20 rfl rfl)
abbrev cX11_all : ByteArray := prog_7_method_9_code
def yX11_all : MethodName := ⟨RX11, "all", "()V"⟩
def dkwX11_all_2 : List UInt8 := [182, 0, 106, 182, 0, 110, 87, 167, 255, 219, 177]
abbrev dktX11_all_2 : List UInt8 := dkwX11_all_2 ++ []
def dkwX11_all_1 : List UInt8 := [185, 0, 26, 1, 0, 162, 0, 27, 42, 16, 59, 16, 59, 182, 0, 49, 60, 42, 180, 0, 12, 42]
abbrev dktX11_all_1 : List UInt8 := dkwX11_all_1 ++ dktX11_all_2
def dkwX11_all_0 : List UInt8 := [42, 180, 0, 12, 42, 182, 0, 106, 182, 0, 110, 87, 42, 180, 0, 22, 42, 180, 0, 18]
abbrev dktX11_all_0 : List UInt8 := dkwX11_all_0 ++ dktX11_all_1
theorem dksX11_all_0 : cX11_all.data.toList.drop 0 = dktX11_all_0 := by decide +kernel
theorem dksX11_all_1 : cX11_all.data.toList.drop 20 = dktX11_all_1 := dk_seg dksX11_all_0 20 rfl rfl
theorem dksX11_all_2 : cX11_all.data.toList.drop 42 = dktX11_all_2 := dk_seg dksX11_all_1 22 rfl rfl
theorem dX11_all_0 : decode cX11_all 0 = .ok (.aload_n 0, 1) := dk_42 (dk_at dksX11_all_0 0 rfl rfl)
theorem dX11_all_1 : decode cX11_all 1 = .ok (.getfield 12, 3) := dk_180 0 12 (dk_at dksX11_all_0 1 rfl rfl)
theorem dX11_all_4 : decode cX11_all 4 = .ok (.aload_n 0, 1) := dk_42 (dk_at dksX11_all_0 4 rfl rfl)
theorem dX11_all_5 : decode cX11_all 5 = .ok (.invokevirtual 106, 3) := dk_182 0 106 (dk_at dksX11_all_0 5 rfl rfl)
theorem dX11_all_8 : decode cX11_all 8 = .ok (.invokevirtual 110, 3) := dk_182 0 110 (dk_at dksX11_all_0 8 rfl rfl)
theorem dX11_all_11 : decode cX11_all 11 = .ok (.pop, 1) := dk_87 (dk_at dksX11_all_0 11 rfl rfl)
theorem dX11_all_12 : decode cX11_all 12 = .ok (.aload_n 0, 1) := dk_42 (dk_at dksX11_all_0 12 rfl rfl)
theorem dX11_all_13 : decode cX11_all 13 = .ok (.getfield 22, 3) := dk_180 0 22 (dk_at dksX11_all_0 13 rfl rfl)
theorem dX11_all_16 : decode cX11_all 16 = .ok (.aload_n 0, 1) := dk_42 (dk_at dksX11_all_0 16 rfl rfl)
theorem dX11_all_17 : decode cX11_all 17 = .ok (.getfield 18, 3) := dk_180 0 18 (dk_at dksX11_all_0 17 rfl rfl)
theorem dX11_all_20 : decode cX11_all 20 = .ok (.invokeinterface 26 1, 5) := by decide +kernel
theorem dX11_all_25 : decode cX11_all 25 = .ok (.if_icmp .ge 27, 3) := dk_162 0 27 (dk_at dksX11_all_1 5 rfl rfl)
theorem dX11_all_28 : decode cX11_all 28 = .ok (.aload_n 0, 1) := dk_42 (dk_at dksX11_all_1 8 rfl rfl)
theorem dX11_all_29 : decode cX11_all 29 = .ok (.bipush 59, 2) := dk_16 59 (dk_at dksX11_all_1 9 rfl rfl)
theorem dX11_all_31 : decode cX11_all 31 = .ok (.bipush 59, 2) := dk_16 59 (dk_at dksX11_all_1 11 rfl rfl)
theorem dX11_all_33 : decode cX11_all 33 = .ok (.invokevirtual 49, 3) := dk_182 0 49 (dk_at dksX11_all_1 13 rfl rfl)
theorem dX11_all_36 : decode cX11_all 36 = .ok (.istore_n 1, 1) := dk_60 (dk_at dksX11_all_1 16 rfl rfl)
theorem dX11_all_37 : decode cX11_all 37 = .ok (.aload_n 0, 1) := dk_42 (dk_at dksX11_all_1 17 rfl rfl)
theorem dX11_all_38 : decode cX11_all 38 = .ok (.getfield 12, 3) := dk_180 0 12 (dk_at dksX11_all_1 18 rfl rfl)
theorem dX11_all_41 : decode cX11_all 41 = .ok (.aload_n 0, 1) := dk_42 (dk_at dksX11_all_1 21 rfl rfl)
theorem dX11_all_42 : decode cX11_all 42 = .ok (.invokevirtual 106, 3) := dk_182 0 106 (dk_at dksX11_all_2 0 rfl rfl)
theorem dX11_all_45 : decode cX11_all 45 = .ok (.invokevirtual 110, 3) := dk_182 0 110 (dk_at dksX11_all_2 3 rfl rfl)
theorem dX11_all_48 : decode cX11_all 48 = .ok (.pop, 1) := dk_87 (dk_at dksX11_all_2 6 rfl rfl)
theorem dX11_all_49 : decode cX11_all 49 = .ok (.goto (-37), 3) := dk_167 255 219 (dk_at dksX11_all_2 7 rfl rfl)
theorem dX11_all_52 : decode cX11_all 52 = .ok (.return_, 1) := dk_177 (dk_at dksX11_all_2 10 rfl rfl)
abbrev cX11_one : ByteArray := prog_7_method_8_code
def yX11_one : MethodName := ⟨RX11, "one", "()LExcuseLedger$Command;"⟩
def dkwX11_one_9 : List UInt8 := [176]
abbrev dktX11_one_9 : List UInt8 := dkwX11_one_9 ++ []
def dkwX11_one_8 : List UInt8 := [184, 0, 86, 176, 18, 102, 2, 1, 42, 182, 0, 53, 184, 0, 86, 176, 18, 104, 2, 1, 2, 184, 0, 86]
abbrev dktX11_one_8 : List UInt8 := dkwX11_one_8 ++ dktX11_one_9
def dkwX11_one_7 : List UInt8 := [182, 0, 82, 184, 0, 86, 176, 42, 182, 0, 53, 62, 18, 100, 29, 1, 42, 16, 61, 182, 0, 82]
abbrev dktX11_one_7 : List UInt8 := dkwX11_one_7 ++ dktX11_one_8
def dkwX11_one_6 : List UInt8 := [184, 0, 86, 176, 42, 182, 0, 53, 62, 42, 182, 0, 76, 58, 4, 18, 98, 29, 25, 4, 42, 16, 64]
abbrev dktX11_one_6 : List UInt8 := dkwX11_one_6 ++ dktX11_one_7
def dkwX11_one_5 : List UInt8 := [182, 0, 76, 2, 184, 0, 86, 176, 42, 182, 0, 76, 78, 18, 96, 2, 45, 42, 16, 45, 182, 0, 82]
abbrev dktX11_one_5 : List UInt8 := dkwX11_one_5 ++ dktX11_one_6
def dkwX11_one_4 : List UInt8 := [182, 0, 82, 54, 4, 18, 92, 21, 4, 45, 42, 16, 43, 182, 0, 82, 184, 0, 86, 176, 18, 94, 2, 42]
abbrev dktX11_one_4 : List UInt8 := dkwX11_one_4 ++ dktX11_one_5
def dkwX11_one_3 : List UInt8 := [184, 0, 86, 176, 18, 90, 2, 42, 182, 0, 76, 2, 184, 0, 86, 176, 42, 182, 0, 76, 78, 42, 16, 62]
abbrev dktX11_one_3 : List UInt8 := dkwX11_one_3 ++ dktX11_one_4
def dkwX11_one_2 : List UInt8 := [42, 182, 0, 53, 62, 42, 182, 0, 76, 58, 4, 18, 80, 29, 25, 4, 42, 16, 42, 182, 0, 82]
abbrev dktX11_one_2 : List UInt8 := dkwX11_one_2 ++ dktX11_one_3
def dkwX11_one_1 : List UInt8 := [170, 0, 0, 0, 1, 0, 0, 0, 0, 98, 0, 0, 0, 119, 0, 0, 0, 168, 0, 0, 1, 0, 0, 0, 1, 0, 0, 0, 1, 0, 0, 0, 1, 0, 0, 0, 1, 0, 0, 0, 1, 0, 0, 0, 1, 0, 0, 0, 1, 0, 0, 0, 0, 128, 0, 0, 0, 140, 0, 0, 0, 180, 0, 0, 0, 102, 0, 0, 1, 0, 0, 0, 1, 0, 0, 0, 1, 0, 0, 0, 1, 0, 0, 0, 0, 225, 0, 0, 1, 0, 0, 0, 0, 199, 0, 0, 1, 0, 0, 0, 0, 244]
abbrev dktX11_one_1 : List UInt8 := dkwX11_one_1 ++ dktX11_one_2
def dkwX11_one_0 : List UInt8 := [18, 73, 76, 43, 42, 43, 182, 0, 64, 182, 0, 75, 61, 28]
abbrev dktX11_one_0 : List UInt8 := dkwX11_one_0 ++ dktX11_one_1
theorem dksX11_one_0 : cX11_one.data.toList.drop 0 = dktX11_one_0 := by decide +kernel
theorem dksX11_one_1 : cX11_one.data.toList.drop 14 = dktX11_one_1 := dk_seg dksX11_one_0 14 rfl rfl
theorem dksX11_one_2 : cX11_one.data.toList.drop 116 = dktX11_one_2 := dk_seg dksX11_one_1 102 rfl rfl
theorem dksX11_one_3 : cX11_one.data.toList.drop 138 = dktX11_one_3 := dk_seg dksX11_one_2 22 rfl rfl
theorem dksX11_one_4 : cX11_one.data.toList.drop 162 = dktX11_one_4 := dk_seg dksX11_one_3 24 rfl rfl
theorem dksX11_one_5 : cX11_one.data.toList.drop 186 = dktX11_one_5 := dk_seg dksX11_one_4 24 rfl rfl
theorem dksX11_one_6 : cX11_one.data.toList.drop 209 = dktX11_one_6 := dk_seg dksX11_one_5 23 rfl rfl
theorem dksX11_one_7 : cX11_one.data.toList.drop 232 = dktX11_one_7 := dk_seg dksX11_one_6 23 rfl rfl
theorem dksX11_one_8 : cX11_one.data.toList.drop 254 = dktX11_one_8 := dk_seg dksX11_one_7 22 rfl rfl
theorem dksX11_one_9 : cX11_one.data.toList.drop 278 = dktX11_one_9 := dk_seg dksX11_one_8 24 rfl rfl
theorem dX11_one_0 : decode cX11_one 0 = .ok (.ldc 73, 2) := dk_18 73 (dk_at dksX11_one_0 0 rfl rfl)
theorem dX11_one_2 : decode cX11_one 2 = .ok (.astore_n 1, 1) := dk_76 (dk_at dksX11_one_0 2 rfl rfl)
theorem dX11_one_3 : decode cX11_one 3 = .ok (.aload_n 1, 1) := dk_43 (dk_at dksX11_one_0 3 rfl rfl)
theorem dX11_one_4 : decode cX11_one 4 = .ok (.aload_n 0, 1) := dk_42 (dk_at dksX11_one_0 4 rfl rfl)
theorem dX11_one_5 : decode cX11_one 5 = .ok (.aload_n 1, 1) := dk_43 (dk_at dksX11_one_0 5 rfl rfl)
theorem dX11_one_6 : decode cX11_one 6 = .ok (.invokevirtual 64, 3) := dk_182 0 64 (dk_at dksX11_one_0 6 rfl rfl)
theorem dX11_one_9 : decode cX11_one 9 = .ok (.invokevirtual 75, 3) := dk_182 0 75 (dk_at dksX11_one_0 9 rfl rfl)
theorem dX11_one_12 : decode cX11_one 12 = .ok (.istore_n 2, 1) := dk_61 (dk_at dksX11_one_0 12 rfl rfl)
theorem dX11_one_13 : decode cX11_one 13 = .ok (.iload_n 2, 1) := dk_28 (dk_at dksX11_one_0 13 rfl rfl)
theorem dX11_one_14 : decode cX11_one 14 = .ok (.tableswitch 256 98 119 #[168, 256, 256, 256, 256, 256, 256, 256, 256, 128, 140, 180, 102, 256, 256, 256, 256, 225, 256, 199, 256, 244], 102) := by decide +kernel
theorem dX11_one_116 : decode cX11_one 116 = .ok (.aload_n 0, 1) := dk_42 (dk_at dksX11_one_2 0 rfl rfl)
theorem dX11_one_117 : decode cX11_one 117 = .ok (.invokevirtual 53, 3) := dk_182 0 53 (dk_at dksX11_one_2 1 rfl rfl)
theorem dX11_one_120 : decode cX11_one 120 = .ok (.istore_n 3, 1) := dk_62 (dk_at dksX11_one_2 4 rfl rfl)
theorem dX11_one_121 : decode cX11_one 121 = .ok (.aload_n 0, 1) := dk_42 (dk_at dksX11_one_2 5 rfl rfl)
theorem dX11_one_122 : decode cX11_one 122 = .ok (.invokevirtual 76, 3) := dk_182 0 76 (dk_at dksX11_one_2 6 rfl rfl)
theorem dX11_one_125 : decode cX11_one 125 = .ok (.astore 4, 2) := dk_58 4 (dk_at dksX11_one_2 9 rfl rfl)
theorem dX11_one_127 : decode cX11_one 127 = .ok (.ldc 80, 2) := dk_18 80 (dk_at dksX11_one_2 11 rfl rfl)
theorem dX11_one_129 : decode cX11_one 129 = .ok (.iload_n 3, 1) := dk_29 (dk_at dksX11_one_2 13 rfl rfl)
theorem dX11_one_130 : decode cX11_one 130 = .ok (.aload 4, 2) := dk_25 4 (dk_at dksX11_one_2 14 rfl rfl)
theorem dX11_one_132 : decode cX11_one 132 = .ok (.aload_n 0, 1) := dk_42 (dk_at dksX11_one_2 16 rfl rfl)
theorem dX11_one_133 : decode cX11_one 133 = .ok (.bipush 42, 2) := dk_16 42 (dk_at dksX11_one_2 17 rfl rfl)
theorem dX11_one_135 : decode cX11_one 135 = .ok (.invokevirtual 82, 3) := dk_182 0 82 (dk_at dksX11_one_2 19 rfl rfl)
theorem dX11_one_138 : decode cX11_one 138 = .ok (.invokestatic 86, 3) := dk_184 0 86 (dk_at dksX11_one_3 0 rfl rfl)
theorem dX11_one_141 : decode cX11_one 141 = .ok (.areturn, 1) := dk_176 (dk_at dksX11_one_3 3 rfl rfl)
theorem dX11_one_142 : decode cX11_one 142 = .ok (.ldc 90, 2) := dk_18 90 (dk_at dksX11_one_3 4 rfl rfl)
theorem dX11_one_144 : decode cX11_one 144 = .ok (.iconst (-1), 1) := dk_2 (dk_at dksX11_one_3 6 rfl rfl)
theorem dX11_one_145 : decode cX11_one 145 = .ok (.aload_n 0, 1) := dk_42 (dk_at dksX11_one_3 7 rfl rfl)
theorem dX11_one_146 : decode cX11_one 146 = .ok (.invokevirtual 76, 3) := dk_182 0 76 (dk_at dksX11_one_3 8 rfl rfl)
theorem dX11_one_149 : decode cX11_one 149 = .ok (.iconst (-1), 1) := dk_2 (dk_at dksX11_one_3 11 rfl rfl)
theorem dX11_one_150 : decode cX11_one 150 = .ok (.invokestatic 86, 3) := dk_184 0 86 (dk_at dksX11_one_3 12 rfl rfl)
theorem dX11_one_153 : decode cX11_one 153 = .ok (.areturn, 1) := dk_176 (dk_at dksX11_one_3 15 rfl rfl)
theorem dX11_one_154 : decode cX11_one 154 = .ok (.aload_n 0, 1) := dk_42 (dk_at dksX11_one_3 16 rfl rfl)
theorem dX11_one_155 : decode cX11_one 155 = .ok (.invokevirtual 76, 3) := dk_182 0 76 (dk_at dksX11_one_3 17 rfl rfl)
theorem dX11_one_158 : decode cX11_one 158 = .ok (.astore_n 3, 1) := dk_78 (dk_at dksX11_one_3 20 rfl rfl)
theorem dX11_one_159 : decode cX11_one 159 = .ok (.aload_n 0, 1) := dk_42 (dk_at dksX11_one_3 21 rfl rfl)
theorem dX11_one_160 : decode cX11_one 160 = .ok (.bipush 62, 2) := dk_16 62 (dk_at dksX11_one_3 22 rfl rfl)
theorem dX11_one_162 : decode cX11_one 162 = .ok (.invokevirtual 82, 3) := dk_182 0 82 (dk_at dksX11_one_4 0 rfl rfl)
theorem dX11_one_165 : decode cX11_one 165 = .ok (.istore 4, 2) := dk_54 4 (dk_at dksX11_one_4 3 rfl rfl)
theorem dX11_one_167 : decode cX11_one 167 = .ok (.ldc 92, 2) := dk_18 92 (dk_at dksX11_one_4 5 rfl rfl)
theorem dX11_one_169 : decode cX11_one 169 = .ok (.iload 4, 2) := dk_21 4 (dk_at dksX11_one_4 7 rfl rfl)
theorem dX11_one_171 : decode cX11_one 171 = .ok (.aload_n 3, 1) := dk_45 (dk_at dksX11_one_4 9 rfl rfl)
theorem dX11_one_172 : decode cX11_one 172 = .ok (.aload_n 0, 1) := dk_42 (dk_at dksX11_one_4 10 rfl rfl)
theorem dX11_one_173 : decode cX11_one 173 = .ok (.bipush 43, 2) := dk_16 43 (dk_at dksX11_one_4 11 rfl rfl)
theorem dX11_one_175 : decode cX11_one 175 = .ok (.invokevirtual 82, 3) := dk_182 0 82 (dk_at dksX11_one_4 13 rfl rfl)
theorem dX11_one_178 : decode cX11_one 178 = .ok (.invokestatic 86, 3) := dk_184 0 86 (dk_at dksX11_one_4 16 rfl rfl)
theorem dX11_one_181 : decode cX11_one 181 = .ok (.areturn, 1) := dk_176 (dk_at dksX11_one_4 19 rfl rfl)
theorem dX11_one_182 : decode cX11_one 182 = .ok (.ldc 94, 2) := dk_18 94 (dk_at dksX11_one_4 20 rfl rfl)
theorem dX11_one_184 : decode cX11_one 184 = .ok (.iconst (-1), 1) := dk_2 (dk_at dksX11_one_4 22 rfl rfl)
theorem dX11_one_185 : decode cX11_one 185 = .ok (.aload_n 0, 1) := dk_42 (dk_at dksX11_one_4 23 rfl rfl)
theorem dX11_one_186 : decode cX11_one 186 = .ok (.invokevirtual 76, 3) := dk_182 0 76 (dk_at dksX11_one_5 0 rfl rfl)
theorem dX11_one_189 : decode cX11_one 189 = .ok (.iconst (-1), 1) := dk_2 (dk_at dksX11_one_5 3 rfl rfl)
theorem dX11_one_190 : decode cX11_one 190 = .ok (.invokestatic 86, 3) := dk_184 0 86 (dk_at dksX11_one_5 4 rfl rfl)
theorem dX11_one_193 : decode cX11_one 193 = .ok (.areturn, 1) := dk_176 (dk_at dksX11_one_5 7 rfl rfl)
theorem dX11_one_194 : decode cX11_one 194 = .ok (.aload_n 0, 1) := dk_42 (dk_at dksX11_one_5 8 rfl rfl)
theorem dX11_one_195 : decode cX11_one 195 = .ok (.invokevirtual 76, 3) := dk_182 0 76 (dk_at dksX11_one_5 9 rfl rfl)
theorem dX11_one_198 : decode cX11_one 198 = .ok (.astore_n 3, 1) := dk_78 (dk_at dksX11_one_5 12 rfl rfl)
theorem dX11_one_199 : decode cX11_one 199 = .ok (.ldc 96, 2) := dk_18 96 (dk_at dksX11_one_5 13 rfl rfl)
theorem dX11_one_201 : decode cX11_one 201 = .ok (.iconst (-1), 1) := dk_2 (dk_at dksX11_one_5 15 rfl rfl)
theorem dX11_one_202 : decode cX11_one 202 = .ok (.aload_n 3, 1) := dk_45 (dk_at dksX11_one_5 16 rfl rfl)
theorem dX11_one_203 : decode cX11_one 203 = .ok (.aload_n 0, 1) := dk_42 (dk_at dksX11_one_5 17 rfl rfl)
theorem dX11_one_204 : decode cX11_one 204 = .ok (.bipush 45, 2) := dk_16 45 (dk_at dksX11_one_5 18 rfl rfl)
theorem dX11_one_206 : decode cX11_one 206 = .ok (.invokevirtual 82, 3) := dk_182 0 82 (dk_at dksX11_one_5 20 rfl rfl)
theorem dX11_one_209 : decode cX11_one 209 = .ok (.invokestatic 86, 3) := dk_184 0 86 (dk_at dksX11_one_6 0 rfl rfl)
theorem dX11_one_212 : decode cX11_one 212 = .ok (.areturn, 1) := dk_176 (dk_at dksX11_one_6 3 rfl rfl)
theorem dX11_one_213 : decode cX11_one 213 = .ok (.aload_n 0, 1) := dk_42 (dk_at dksX11_one_6 4 rfl rfl)
theorem dX11_one_214 : decode cX11_one 214 = .ok (.invokevirtual 53, 3) := dk_182 0 53 (dk_at dksX11_one_6 5 rfl rfl)
theorem dX11_one_217 : decode cX11_one 217 = .ok (.istore_n 3, 1) := dk_62 (dk_at dksX11_one_6 8 rfl rfl)
theorem dX11_one_218 : decode cX11_one 218 = .ok (.aload_n 0, 1) := dk_42 (dk_at dksX11_one_6 9 rfl rfl)
theorem dX11_one_219 : decode cX11_one 219 = .ok (.invokevirtual 76, 3) := dk_182 0 76 (dk_at dksX11_one_6 10 rfl rfl)
theorem dX11_one_222 : decode cX11_one 222 = .ok (.astore 4, 2) := dk_58 4 (dk_at dksX11_one_6 13 rfl rfl)
theorem dX11_one_224 : decode cX11_one 224 = .ok (.ldc 98, 2) := dk_18 98 (dk_at dksX11_one_6 15 rfl rfl)
theorem dX11_one_226 : decode cX11_one 226 = .ok (.iload_n 3, 1) := dk_29 (dk_at dksX11_one_6 17 rfl rfl)
theorem dX11_one_227 : decode cX11_one 227 = .ok (.aload 4, 2) := dk_25 4 (dk_at dksX11_one_6 18 rfl rfl)
theorem dX11_one_229 : decode cX11_one 229 = .ok (.aload_n 0, 1) := dk_42 (dk_at dksX11_one_6 20 rfl rfl)
theorem dX11_one_230 : decode cX11_one 230 = .ok (.bipush 64, 2) := dk_16 64 (dk_at dksX11_one_6 21 rfl rfl)
theorem dX11_one_232 : decode cX11_one 232 = .ok (.invokevirtual 82, 3) := dk_182 0 82 (dk_at dksX11_one_7 0 rfl rfl)
theorem dX11_one_235 : decode cX11_one 235 = .ok (.invokestatic 86, 3) := dk_184 0 86 (dk_at dksX11_one_7 3 rfl rfl)
theorem dX11_one_238 : decode cX11_one 238 = .ok (.areturn, 1) := dk_176 (dk_at dksX11_one_7 6 rfl rfl)
theorem dX11_one_239 : decode cX11_one 239 = .ok (.aload_n 0, 1) := dk_42 (dk_at dksX11_one_7 7 rfl rfl)
theorem dX11_one_240 : decode cX11_one 240 = .ok (.invokevirtual 53, 3) := dk_182 0 53 (dk_at dksX11_one_7 8 rfl rfl)
theorem dX11_one_243 : decode cX11_one 243 = .ok (.istore_n 3, 1) := dk_62 (dk_at dksX11_one_7 11 rfl rfl)
theorem dX11_one_244 : decode cX11_one 244 = .ok (.ldc 100, 2) := dk_18 100 (dk_at dksX11_one_7 12 rfl rfl)
theorem dX11_one_246 : decode cX11_one 246 = .ok (.iload_n 3, 1) := dk_29 (dk_at dksX11_one_7 14 rfl rfl)
theorem dX11_one_247 : decode cX11_one 247 = .ok (.aconst_null, 1) := dk_1 (dk_at dksX11_one_7 15 rfl rfl)
theorem dX11_one_248 : decode cX11_one 248 = .ok (.aload_n 0, 1) := dk_42 (dk_at dksX11_one_7 16 rfl rfl)
theorem dX11_one_249 : decode cX11_one 249 = .ok (.bipush 61, 2) := dk_16 61 (dk_at dksX11_one_7 17 rfl rfl)
theorem dX11_one_251 : decode cX11_one 251 = .ok (.invokevirtual 82, 3) := dk_182 0 82 (dk_at dksX11_one_7 19 rfl rfl)
theorem dX11_one_254 : decode cX11_one 254 = .ok (.invokestatic 86, 3) := dk_184 0 86 (dk_at dksX11_one_8 0 rfl rfl)
theorem dX11_one_257 : decode cX11_one 257 = .ok (.areturn, 1) := dk_176 (dk_at dksX11_one_8 3 rfl rfl)
theorem dX11_one_258 : decode cX11_one 258 = .ok (.ldc 102, 2) := dk_18 102 (dk_at dksX11_one_8 4 rfl rfl)
theorem dX11_one_260 : decode cX11_one 260 = .ok (.iconst (-1), 1) := dk_2 (dk_at dksX11_one_8 6 rfl rfl)
theorem dX11_one_261 : decode cX11_one 261 = .ok (.aconst_null, 1) := dk_1 (dk_at dksX11_one_8 7 rfl rfl)
theorem dX11_one_262 : decode cX11_one 262 = .ok (.aload_n 0, 1) := dk_42 (dk_at dksX11_one_8 8 rfl rfl)
theorem dX11_one_263 : decode cX11_one 263 = .ok (.invokevirtual 53, 3) := dk_182 0 53 (dk_at dksX11_one_8 9 rfl rfl)
theorem dX11_one_266 : decode cX11_one 266 = .ok (.invokestatic 86, 3) := dk_184 0 86 (dk_at dksX11_one_8 12 rfl rfl)
theorem dX11_one_269 : decode cX11_one 269 = .ok (.areturn, 1) := dk_176 (dk_at dksX11_one_8 15 rfl rfl)
theorem dX11_one_270 : decode cX11_one 270 = .ok (.ldc 104, 2) := dk_18 104 (dk_at dksX11_one_8 16 rfl rfl)
theorem dX11_one_272 : decode cX11_one 272 = .ok (.iconst (-1), 1) := dk_2 (dk_at dksX11_one_8 18 rfl rfl)
theorem dX11_one_273 : decode cX11_one 273 = .ok (.aconst_null, 1) := dk_1 (dk_at dksX11_one_8 19 rfl rfl)
theorem dX11_one_274 : decode cX11_one 274 = .ok (.iconst (-1), 1) := dk_2 (dk_at dksX11_one_8 20 rfl rfl)
theorem dX11_one_275 : decode cX11_one 275 = .ok (.invokestatic 86, 3) := dk_184 0 86 (dk_at dksX11_one_8 21 rfl rfl)
theorem dX11_one_278 : decode cX11_one 278 = .ok (.areturn, 1) := dk_176 (dk_at dksX11_one_9 0 rfl rfl)
abbrev cX11_place : ByteArray := prog_7_method_6_code
def yX11_place : MethodName := ⟨RX11, "place", "(Ljava/lang/String;)I"⟩
def dkwX11_place_2 : List UInt8 := [180, 0, 22, 4, 96, 181, 0, 22, 28, 172]
abbrev dktX11_place_2 : List UInt8 := dkwX11_place_2 ++ []
def dkwX11_place_1 : List UInt8 := [167, 0, 4, 2, 61, 28, 2, 160, 0, 15, 187, 0, 44, 89, 42, 180, 0, 22, 183, 0, 46, 191, 42, 89]
abbrev dktX11_place_1 : List UInt8 := dkwX11_place_1 ++ dktX11_place_2
def dkwX11_place_0 : List UInt8 := [42, 180, 0, 22, 42, 180, 0, 18, 185, 0, 26, 1, 0, 162, 0, 14, 43, 42, 182, 0, 36, 182, 0, 56]
abbrev dktX11_place_0 : List UInt8 := dkwX11_place_0 ++ dktX11_place_1
theorem dksX11_place_0 : cX11_place.data.toList.drop 0 = dktX11_place_0 := by decide +kernel
theorem dksX11_place_1 : cX11_place.data.toList.drop 24 = dktX11_place_1 := dk_seg dksX11_place_0 24 rfl rfl
theorem dksX11_place_2 : cX11_place.data.toList.drop 48 = dktX11_place_2 := dk_seg dksX11_place_1 24 rfl rfl
theorem dX11_place_0 : decode cX11_place 0 = .ok (.aload_n 0, 1) := dk_42 (dk_at dksX11_place_0 0 rfl rfl)
theorem dX11_place_1 : decode cX11_place 1 = .ok (.getfield 22, 3) := dk_180 0 22 (dk_at dksX11_place_0 1 rfl rfl)
theorem dX11_place_4 : decode cX11_place 4 = .ok (.aload_n 0, 1) := dk_42 (dk_at dksX11_place_0 4 rfl rfl)
theorem dX11_place_5 : decode cX11_place 5 = .ok (.getfield 18, 3) := dk_180 0 18 (dk_at dksX11_place_0 5 rfl rfl)
theorem dX11_place_8 : decode cX11_place 8 = .ok (.invokeinterface 26 1, 5) := by decide +kernel
theorem dX11_place_13 : decode cX11_place 13 = .ok (.if_icmp .ge 14, 3) := dk_162 0 14 (dk_at dksX11_place_0 13 rfl rfl)
theorem dX11_place_16 : decode cX11_place 16 = .ok (.aload_n 1, 1) := dk_43 (dk_at dksX11_place_0 16 rfl rfl)
theorem dX11_place_17 : decode cX11_place 17 = .ok (.aload_n 0, 1) := dk_42 (dk_at dksX11_place_0 17 rfl rfl)
theorem dX11_place_18 : decode cX11_place 18 = .ok (.invokevirtual 36, 3) := dk_182 0 36 (dk_at dksX11_place_0 18 rfl rfl)
theorem dX11_place_21 : decode cX11_place 21 = .ok (.invokevirtual 56, 3) := dk_182 0 56 (dk_at dksX11_place_0 21 rfl rfl)
theorem dX11_place_24 : decode cX11_place 24 = .ok (.goto 4, 3) := dk_167 0 4 (dk_at dksX11_place_1 0 rfl rfl)
theorem dX11_place_27 : decode cX11_place 27 = .ok (.iconst (-1), 1) := dk_2 (dk_at dksX11_place_1 3 rfl rfl)
theorem dX11_place_28 : decode cX11_place 28 = .ok (.istore_n 2, 1) := dk_61 (dk_at dksX11_place_1 4 rfl rfl)
theorem dX11_place_29 : decode cX11_place 29 = .ok (.iload_n 2, 1) := dk_28 (dk_at dksX11_place_1 5 rfl rfl)
theorem dX11_place_30 : decode cX11_place 30 = .ok (.iconst (-1), 1) := dk_2 (dk_at dksX11_place_1 6 rfl rfl)
theorem dX11_place_31 : decode cX11_place 31 = .ok (.if_icmp .ne 15, 3) := dk_160 0 15 (dk_at dksX11_place_1 7 rfl rfl)
theorem dX11_place_34 : decode cX11_place 34 = .ok (.new 44, 3) := dk_187 0 44 (dk_at dksX11_place_1 10 rfl rfl)
theorem dX11_place_37 : decode cX11_place 37 = .ok (.dup, 1) := dk_89 (dk_at dksX11_place_1 13 rfl rfl)
theorem dX11_place_38 : decode cX11_place 38 = .ok (.aload_n 0, 1) := dk_42 (dk_at dksX11_place_1 14 rfl rfl)
theorem dX11_place_39 : decode cX11_place 39 = .ok (.getfield 22, 3) := dk_180 0 22 (dk_at dksX11_place_1 15 rfl rfl)
theorem dX11_place_42 : decode cX11_place 42 = .ok (.invokespecial 46, 3) := dk_183 0 46 (dk_at dksX11_place_1 18 rfl rfl)
theorem dX11_place_45 : decode cX11_place 45 = .ok (.athrow, 1) := dk_191 (dk_at dksX11_place_1 21 rfl rfl)
theorem dX11_place_46 : decode cX11_place 46 = .ok (.aload_n 0, 1) := dk_42 (dk_at dksX11_place_1 22 rfl rfl)
theorem dX11_place_47 : decode cX11_place 47 = .ok (.dup, 1) := dk_89 (dk_at dksX11_place_1 23 rfl rfl)
theorem dX11_place_48 : decode cX11_place 48 = .ok (.getfield 22, 3) := dk_180 0 22 (dk_at dksX11_place_2 0 rfl rfl)
theorem dX11_place_51 : decode cX11_place 51 = .ok (.iconst 1, 1) := dk_4 (dk_at dksX11_place_2 3 rfl rfl)
theorem dX11_place_52 : decode cX11_place 52 = .ok (.iadd, 1) := dk_96 (dk_at dksX11_place_2 4 rfl rfl)
theorem dX11_place_53 : decode cX11_place 53 = .ok (.putfield 22, 3) := dk_181 0 22 (dk_at dksX11_place_2 5 rfl rfl)
theorem dX11_place_56 : decode cX11_place 56 = .ok (.iload_n 2, 1) := dk_28 (dk_at dksX11_place_2 8 rfl rfl)
theorem dX11_place_57 : decode cX11_place 57 = .ok (.ireturn, 1) := dk_172 (dk_at dksX11_place_2 9 rfl rfl)
abbrev cX11_peek : ByteArray := prog_7_method_2_code
def yX11_peek : MethodName := ⟨RX11, "peek", "()C"⟩
def dkwX11_peek_1 : List UInt8 := [185, 0, 32, 2, 0, 167, 0, 4, 3, 172]
abbrev dktX11_peek_1 : List UInt8 := dkwX11_peek_1 ++ []
def dkwX11_peek_0 : List UInt8 := [42, 180, 0, 22, 42, 180, 0, 18, 185, 0, 26, 1, 0, 162, 0, 19, 42, 180, 0, 18, 42, 180, 0, 22]
abbrev dktX11_peek_0 : List UInt8 := dkwX11_peek_0 ++ dktX11_peek_1
theorem dksX11_peek_0 : cX11_peek.data.toList.drop 0 = dktX11_peek_0 := by decide +kernel
theorem dksX11_peek_1 : cX11_peek.data.toList.drop 24 = dktX11_peek_1 := dk_seg dksX11_peek_0 24 rfl rfl
theorem dX11_peek_0 : decode cX11_peek 0 = .ok (.aload_n 0, 1) := dk_42 (dk_at dksX11_peek_0 0 rfl rfl)
theorem dX11_peek_1 : decode cX11_peek 1 = .ok (.getfield 22, 3) := dk_180 0 22 (dk_at dksX11_peek_0 1 rfl rfl)
theorem dX11_peek_4 : decode cX11_peek 4 = .ok (.aload_n 0, 1) := dk_42 (dk_at dksX11_peek_0 4 rfl rfl)
theorem dX11_peek_5 : decode cX11_peek 5 = .ok (.getfield 18, 3) := dk_180 0 18 (dk_at dksX11_peek_0 5 rfl rfl)
theorem dX11_peek_8 : decode cX11_peek 8 = .ok (.invokeinterface 26 1, 5) := by decide +kernel
theorem dX11_peek_13 : decode cX11_peek 13 = .ok (.if_icmp .ge 19, 3) := dk_162 0 19 (dk_at dksX11_peek_0 13 rfl rfl)
theorem dX11_peek_16 : decode cX11_peek 16 = .ok (.aload_n 0, 1) := dk_42 (dk_at dksX11_peek_0 16 rfl rfl)
theorem dX11_peek_17 : decode cX11_peek 17 = .ok (.getfield 18, 3) := dk_180 0 18 (dk_at dksX11_peek_0 17 rfl rfl)
theorem dX11_peek_20 : decode cX11_peek 20 = .ok (.aload_n 0, 1) := dk_42 (dk_at dksX11_peek_0 20 rfl rfl)
theorem dX11_peek_21 : decode cX11_peek 21 = .ok (.getfield 22, 3) := dk_180 0 22 (dk_at dksX11_peek_0 21 rfl rfl)
theorem dX11_peek_24 : decode cX11_peek 24 = .ok (.invokeinterface 32 2, 5) := by decide +kernel
theorem dX11_peek_29 : decode cX11_peek 29 = .ok (.goto 4, 3) := dk_167 0 4 (dk_at dksX11_peek_1 5 rfl rfl)
theorem dX11_peek_32 : decode cX11_peek 32 = .ok (.iconst 0, 1) := dk_3 (dk_at dksX11_peek_1 8 rfl rfl)
theorem dX11_peek_33 : decode cX11_peek 33 = .ok (.ireturn, 1) := dk_172 (dk_at dksX11_peek_1 9 rfl rfl)
abbrev cX11_digit : ByteArray := prog_7_method_4_code
def yX11_digit : MethodName := ⟨RX11, "digit", "()I"⟩
def dkwX11_digit_0 : List UInt8 := [42, 16, 48, 16, 57, 182, 0, 49, 172]
abbrev dktX11_digit_0 : List UInt8 := dkwX11_digit_0 ++ []
theorem dksX11_digit_0 : cX11_digit.data.toList.drop 0 = dktX11_digit_0 := by decide +kernel
theorem dX11_digit_0 : decode cX11_digit 0 = .ok (.aload_n 0, 1) := dk_42 (dk_at dksX11_digit_0 0 rfl rfl)
theorem dX11_digit_1 : decode cX11_digit 1 = .ok (.bipush 48, 2) := dk_16 48 (dk_at dksX11_digit_0 1 rfl rfl)
theorem dX11_digit_3 : decode cX11_digit 3 = .ok (.bipush 57, 2) := dk_16 57 (dk_at dksX11_digit_0 3 rfl rfl)
theorem dX11_digit_5 : decode cX11_digit 5 = .ok (.invokevirtual 49, 3) := dk_182 0 49 (dk_at dksX11_digit_0 5 rfl rfl)
theorem dX11_digit_8 : decode cX11_digit 8 = .ok (.ireturn, 1) := dk_172 (dk_at dksX11_digit_0 8 rfl rfl)
abbrev cX11_next : ByteArray := prog_7_method_3_code
def yX11_next : MethodName := ⟨RX11, "next", "(CC)I"⟩
def dkwX11_next_2 : List UInt8 := [185, 0, 32, 2, 0, 27, 100, 172]
abbrev dktX11_next_2 : List UInt8 := dkwX11_next_2 ++ []
def dkwX11_next_1 : List UInt8 := [42, 89, 180, 0, 22, 4, 96, 181, 0, 22, 42, 180, 0, 18, 42, 180, 0, 22, 4, 100]
abbrev dktX11_next_1 : List UInt8 := dkwX11_next_1 ++ dktX11_next_2
def dkwX11_next_0 : List UInt8 := [42, 182, 0, 36, 27, 28, 184, 0, 40, 154, 0, 15, 187, 0, 44, 89, 42, 180, 0, 22, 183, 0, 46, 191]
abbrev dktX11_next_0 : List UInt8 := dkwX11_next_0 ++ dktX11_next_1
theorem dksX11_next_0 : cX11_next.data.toList.drop 0 = dktX11_next_0 := by decide +kernel
theorem dksX11_next_1 : cX11_next.data.toList.drop 24 = dktX11_next_1 := dk_seg dksX11_next_0 24 rfl rfl
theorem dksX11_next_2 : cX11_next.data.toList.drop 44 = dktX11_next_2 := dk_seg dksX11_next_1 20 rfl rfl
theorem dX11_next_0 : decode cX11_next 0 = .ok (.aload_n 0, 1) := dk_42 (dk_at dksX11_next_0 0 rfl rfl)
theorem dX11_next_1 : decode cX11_next 1 = .ok (.invokevirtual 36, 3) := dk_182 0 36 (dk_at dksX11_next_0 1 rfl rfl)
theorem dX11_next_4 : decode cX11_next 4 = .ok (.iload_n 1, 1) := dk_27 (dk_at dksX11_next_0 4 rfl rfl)
theorem dX11_next_5 : decode cX11_next 5 = .ok (.iload_n 2, 1) := dk_28 (dk_at dksX11_next_0 5 rfl rfl)
theorem dX11_next_6 : decode cX11_next 6 = .ok (.invokestatic 40, 3) := dk_184 0 40 (dk_at dksX11_next_0 6 rfl rfl)
theorem dX11_next_9 : decode cX11_next 9 = .ok (.ifCond .ne 15, 3) := dk_154 0 15 (dk_at dksX11_next_0 9 rfl rfl)
theorem dX11_next_12 : decode cX11_next 12 = .ok (.new 44, 3) := dk_187 0 44 (dk_at dksX11_next_0 12 rfl rfl)
theorem dX11_next_15 : decode cX11_next 15 = .ok (.dup, 1) := dk_89 (dk_at dksX11_next_0 15 rfl rfl)
theorem dX11_next_16 : decode cX11_next 16 = .ok (.aload_n 0, 1) := dk_42 (dk_at dksX11_next_0 16 rfl rfl)
theorem dX11_next_17 : decode cX11_next 17 = .ok (.getfield 22, 3) := dk_180 0 22 (dk_at dksX11_next_0 17 rfl rfl)
theorem dX11_next_20 : decode cX11_next 20 = .ok (.invokespecial 46, 3) := dk_183 0 46 (dk_at dksX11_next_0 20 rfl rfl)
theorem dX11_next_23 : decode cX11_next 23 = .ok (.athrow, 1) := dk_191 (dk_at dksX11_next_0 23 rfl rfl)
theorem dX11_next_24 : decode cX11_next 24 = .ok (.aload_n 0, 1) := dk_42 (dk_at dksX11_next_1 0 rfl rfl)
theorem dX11_next_25 : decode cX11_next 25 = .ok (.dup, 1) := dk_89 (dk_at dksX11_next_1 1 rfl rfl)
theorem dX11_next_26 : decode cX11_next 26 = .ok (.getfield 22, 3) := dk_180 0 22 (dk_at dksX11_next_1 2 rfl rfl)
theorem dX11_next_29 : decode cX11_next 29 = .ok (.iconst 1, 1) := dk_4 (dk_at dksX11_next_1 5 rfl rfl)
theorem dX11_next_30 : decode cX11_next 30 = .ok (.iadd, 1) := dk_96 (dk_at dksX11_next_1 6 rfl rfl)
theorem dX11_next_31 : decode cX11_next 31 = .ok (.putfield 22, 3) := dk_181 0 22 (dk_at dksX11_next_1 7 rfl rfl)
theorem dX11_next_34 : decode cX11_next 34 = .ok (.aload_n 0, 1) := dk_42 (dk_at dksX11_next_1 10 rfl rfl)
theorem dX11_next_35 : decode cX11_next 35 = .ok (.getfield 18, 3) := dk_180 0 18 (dk_at dksX11_next_1 11 rfl rfl)
theorem dX11_next_38 : decode cX11_next 38 = .ok (.aload_n 0, 1) := dk_42 (dk_at dksX11_next_1 14 rfl rfl)
theorem dX11_next_39 : decode cX11_next 39 = .ok (.getfield 22, 3) := dk_180 0 22 (dk_at dksX11_next_1 15 rfl rfl)
theorem dX11_next_42 : decode cX11_next 42 = .ok (.iconst 1, 1) := dk_4 (dk_at dksX11_next_1 18 rfl rfl)
theorem dX11_next_43 : decode cX11_next 43 = .ok (.isub, 1) := dk_100 (dk_at dksX11_next_1 19 rfl rfl)
theorem dX11_next_44 : decode cX11_next 44 = .ok (.invokeinterface 32 2, 5) := by decide +kernel
theorem dX11_next_49 : decode cX11_next 49 = .ok (.iload_n 1, 1) := dk_27 (dk_at dksX11_next_2 5 rfl rfl)
theorem dX11_next_50 : decode cX11_next 50 = .ok (.isub, 1) := dk_100 (dk_at dksX11_next_2 6 rfl rfl)
theorem dX11_next_51 : decode cX11_next 51 = .ok (.ireturn, 1) := dk_172 (dk_at dksX11_next_2 7 rfl rfl)
abbrev cX11_name : ByteArray := prog_7_method_7_code
def yX11_name : MethodName := ⟨RX11, "name", "()LExcuseLedger$Name;"⟩
def dkwX11_name_0 : List UInt8 := [42, 18, 62, 182, 0, 64, 60, 187, 0, 68, 89, 27, 42, 182, 0, 53, 183, 0, 70, 176]
abbrev dktX11_name_0 : List UInt8 := dkwX11_name_0 ++ []
theorem dksX11_name_0 : cX11_name.data.toList.drop 0 = dktX11_name_0 := by decide +kernel
theorem dX11_name_0 : decode cX11_name 0 = .ok (.aload_n 0, 1) := dk_42 (dk_at dksX11_name_0 0 rfl rfl)
theorem dX11_name_1 : decode cX11_name 1 = .ok (.ldc 62, 2) := dk_18 62 (dk_at dksX11_name_0 1 rfl rfl)
theorem dX11_name_3 : decode cX11_name 3 = .ok (.invokevirtual 64, 3) := dk_182 0 64 (dk_at dksX11_name_0 3 rfl rfl)
theorem dX11_name_6 : decode cX11_name 6 = .ok (.istore_n 1, 1) := dk_60 (dk_at dksX11_name_0 6 rfl rfl)
theorem dX11_name_7 : decode cX11_name 7 = .ok (.new 68, 3) := dk_187 0 68 (dk_at dksX11_name_0 7 rfl rfl)
theorem dX11_name_10 : decode cX11_name 10 = .ok (.dup, 1) := dk_89 (dk_at dksX11_name_0 10 rfl rfl)
theorem dX11_name_11 : decode cX11_name 11 = .ok (.iload_n 1, 1) := dk_27 (dk_at dksX11_name_0 11 rfl rfl)
theorem dX11_name_12 : decode cX11_name 12 = .ok (.aload_n 0, 1) := dk_42 (dk_at dksX11_name_0 12 rfl rfl)
theorem dX11_name_13 : decode cX11_name 13 = .ok (.invokevirtual 53, 3) := dk_182 0 53 (dk_at dksX11_name_0 13 rfl rfl)
theorem dX11_name_16 : decode cX11_name 16 = .ok (.invokespecial 70, 3) := dk_183 0 70 (dk_at dksX11_name_0 16 rfl rfl)
theorem dX11_name_19 : decode cX11_name 19 = .ok (.areturn, 1) := dk_176 (dk_at dksX11_name_0 19 rfl rfl)
abbrev cX11_behind : ByteArray := prog_7_method_5_code
def yX11_behind : MethodName := ⟨RX11, "behind", "(C)I"⟩
def dkwX11_behind_0 : List UInt8 := [42, 27, 27, 182, 0, 49, 61, 42, 182, 0, 53, 172]
abbrev dktX11_behind_0 : List UInt8 := dkwX11_behind_0 ++ []
theorem dksX11_behind_0 : cX11_behind.data.toList.drop 0 = dktX11_behind_0 := by decide +kernel
theorem dX11_behind_0 : decode cX11_behind 0 = .ok (.aload_n 0, 1) := dk_42 (dk_at dksX11_behind_0 0 rfl rfl)
theorem dX11_behind_1 : decode cX11_behind 1 = .ok (.iload_n 1, 1) := dk_27 (dk_at dksX11_behind_0 1 rfl rfl)
theorem dX11_behind_2 : decode cX11_behind 2 = .ok (.iload_n 1, 1) := dk_27 (dk_at dksX11_behind_0 2 rfl rfl)
theorem dX11_behind_3 : decode cX11_behind 3 = .ok (.invokevirtual 49, 3) := dk_182 0 49 (dk_at dksX11_behind_0 3 rfl rfl)
theorem dX11_behind_6 : decode cX11_behind 6 = .ok (.istore_n 2, 1) := dk_61 (dk_at dksX11_behind_0 6 rfl rfl)
theorem dX11_behind_7 : decode cX11_behind 7 = .ok (.aload_n 0, 1) := dk_42 (dk_at dksX11_behind_0 7 rfl rfl)
theorem dX11_behind_8 : decode cX11_behind 8 = .ok (.invokevirtual 53, 3) := dk_182 0 53 (dk_at dksX11_behind_0 8 rfl rfl)
theorem dX11_behind_11 : decode cX11_behind 11 = .ok (.ireturn, 1) := dk_172 (dk_at dksX11_behind_0 11 rfl rfl)
abbrev rmX1_checkState (mc ms : Nat) : Room := { frames := 10, cells := mc, slots := ms, locals := 160 }
def wX1_checkStateb0 (G : gE) (P : hSt → Prop) (PX : Nat → Nat → hSt → Prop)  (v0 : Int32) (z : hSt) : Prop :=
  ((¬ v0 = 0 → P z) ∧ (v0 = 0 → mkE G z 31 (fun x1 z2 => (rcv z2 (some x1) 31 ∧ ∀ q, (some x1) = some q → PX 31 q z2))))
def wX1_checkState (G : gE) (P : hSt → Prop) (PX : Nat → Nat → hSt → Prop) (v0 : Int32) (z : hSt) : Prop := wX1_checkStateb0 G P PX v0 z
section
variable {p : Program} {l : Launch} {e : Env} {s : State} {m : MethodId} {args : Array Value} {below : List Frame} {meth : Method} {c : Code} {G : gE} {mc ms : Nat} {P : hSt → Prop} {PX : Nat → Nat → hSt → Prop}
theorem kX1_checkStateb0 (C : xC G p l s m args meth c cX1_checkState 1 "ExcuseLedger") (hr : meth.sig.returnType = (Option.none : Option Jvm.ClassFile.FieldType)) (hin : meth.name = "checkState") (hT : ∀ x ∈ c.exceptionTable.toList, False) (hmc : mc = gL G - s.heap.size ∧ ms = gU G - hsum s.heap)   {v0 : Int32} {z : hSt} (hw : wX1_checkStateb0 G P PX  v0 z) : kt G p l e (rmX1_checkState mc ms) s m args below meth c 1 (vx_MQ below (cQ G (pV P)) (cX G PX) args s mc ms (gF G)) 0 [(0, .int v0)] [] z := by
  intro H locs ls hS hl
  refine lv_iload_n C.1 C.2.1 dX1_checkState_0 rfl (lv_at hl 0 rfl) ?_
  refine lv_if_ne C.1 C.2.1 dX1_checkState_1 rfl (fun h => ?_) (fun h => ?_)
  · have hw := hw.1 h
    exact r_vret C hS hmc hr dX1_checkState_12 hw
  · have hw := hw.2 h
    refine r_make C hS hl.1 (ci := 31) (cls := "java/lang/IllegalStateException") (names := ["java/lang/RuntimeException", "java/lang/Exception"]) rfl (by decide +kernel) (by decide +kernel) q1995 q124 xa31_22 xa31_22g hmc dX1_checkState_4 dX1_checkState_7 dX1_checkState_8 (Nat.le_of_ble_eq_true rfl) (Nat.le_of_ble_eq_true rfl) (Nat.le_of_ble_eq_true rfl) hw (fun x1 z2 H locs hw hS => ?_)
    exact r_athrow C hS (by decide) dX1_checkState_11 hw.1 (fun q hq ht => r_out C hS hmc (fun x hx => (hT x hx).elim) ht (hw.2 q hq))
end
theorem kX1_checkState {l : Launch} (hl : l.stackTraces = false) {G : gE} {P : hSt → Prop} {PX : Nat → Nat → hSt → Prop} {v0 : Int32} {z : hSt} : cM l G yX1_checkState (ws_ yX1_checkState cX1_checkState 1 (Option.none : Option Jvm.ClassFile.FieldType)) 10 160 z [.int v0] (wX1_checkState G P PX v0 z) (pV P) PX := by
  refine m_of hl (plainFor_of_name (by decide)) (by rw [lg_sl1 rfl]; exact Nat.le_of_ble_eq_true rfl) ?_
  intro p e s m args below meth c C hr hin hT hmc hw
  rw [lv_args1 rfl]
  intro H locs ls hS hl
  exact kX1_checkStateb0 C hr hin hT hmc hw H locs ls hS (lv_sub hl [0] rfl)
theorem hdX1_checkState : yX1_checkState.cls ≠ "java/lang/invoke/MethodHandle" ∧ yX1_checkState.cls ≠ "java/lang/invoke/VarHandle" ∧ (parseMethodDescriptor yX1_checkState.desc).map (fun d => d.parameters.length) = some 1 := ⟨by decide +kernel, by decide +kernel, by decide +kernel⟩
abbrev rmX1_isIn (mc ms : Nat) : Room := { frames := 10, cells := mc, slots := ms, locals := 160 }
def wX1_isInb14 (G : gE) (P : Int32 → hSt → Prop) (PX : Nat → Nat → hSt → Prop)   (z : hSt) : Prop :=
  (okN .boolean 0 ∧ P 0 z)
def wX1_isInb0 (G : gE) (P : Int32 → hSt → Prop) (PX : Nat → Nat → hSt → Prop)  (v0 : Int32) (v1 : Int32) (v2 : Int32) (z : hSt) : Prop :=
  ((v0 < v1 → wX1_isInb14 G P PX   z) ∧ (¬ v0 < v1 → ((v2 < v0 → wX1_isInb14 G P PX   z) ∧ (¬ v2 < v0 → (okN .boolean 1 ∧ P 1 z)))))
def wX1_isIn (G : gE) (P : Int32 → hSt → Prop) (PX : Nat → Nat → hSt → Prop) (v0 : Int32) (v1 : Int32) (v2 : Int32) (z : hSt) : Prop := wX1_isInb0 G P PX v0 v1 v2 z
section
variable {p : Program} {l : Launch} {e : Env} {s : State} {m : MethodId} {args : Array Value} {below : List Frame} {meth : Method} {c : Code} {G : gE} {mc ms : Nat} {P : Int32 → hSt → Prop} {PX : Nat → Nat → hSt → Prop}
theorem kX1_isInb14 (C : xC G p l s m args meth c cX1_isIn 3 "ExcuseLedger") (hr : meth.sig.returnType = (Option.some Jvm.ClassFile.FieldType.boolean)) (hin : meth.name = "isIn") (hT : ∀ x ∈ c.exceptionTable.toList, False) (hmc : mc = gL G - s.heap.size ∧ ms = gU G - hsum s.heap)    {z : hSt} (hw : wX1_isInb14 G P PX   z) : kt G p l e (rmX1_isIn mc ms) s m args below meth c 3 (vx_MQ below (cQ G (pI P)) (cX G PX) args s mc ms (gF G)) 14 [] [] z := by
  intro H locs ls hS hl
  refine lv_iconst C.1 C.2.1 (v := 0) dX1_isIn_14 rfl ?_
  exact r_zret C hS hmc hr dX1_isIn_15 hw
theorem kX1_isInb0 (C : xC G p l s m args meth c cX1_isIn 3 "ExcuseLedger") (hr : meth.sig.returnType = (Option.some Jvm.ClassFile.FieldType.boolean)) (hin : meth.name = "isIn") (hT : ∀ x ∈ c.exceptionTable.toList, False) (hmc : mc = gL G - s.heap.size ∧ ms = gU G - hsum s.heap)   {v0 : Int32} {v1 : Int32} {v2 : Int32} {z : hSt} (hw : wX1_isInb0 G P PX  v0 v1 v2 z) : kt G p l e (rmX1_isIn mc ms) s m args below meth c 3 (vx_MQ below (cQ G (pI P)) (cX G PX) args s mc ms (gF G)) 0 [(0, .int v0), (1, .int v1), (2, .int v2)] [] z := by
  intro H locs ls hS hl
  refine lv_iload_n C.1 C.2.1 dX1_isIn_0 rfl (lv_at hl 0 rfl) ?_
  refine lv_iload_n C.1 C.2.1 dX1_isIn_1 rfl (lv_at hl 1 rfl) ?_
  refine lv_icmp_lt C.1 C.2.1 dX1_isIn_2 rfl (fun h => ?_) (fun h => ?_)
  · have hw := hw.1 h
    exact kX1_isInb14 C hr hin hT hmc  hw H locs ls hS (lv_sub hl [] rfl)
  · have hw := hw.2 h
    refine lv_iload_n C.1 C.2.1 dX1_isIn_5 rfl (lv_at hl 0 rfl) ?_
    refine lv_iload_n C.1 C.2.1 dX1_isIn_6 rfl (lv_at hl 2 rfl) ?_
    refine lv_icmp_gt C.1 C.2.1 dX1_isIn_7 rfl (fun h => ?_) (fun h => ?_)
    · have hw := hw.1 h
      exact kX1_isInb14 C hr hin hT hmc  hw H locs ls hS (lv_sub hl [] rfl)
    · have hw := hw.2 h
      refine lv_iconst C.1 C.2.1 (v := 1) dX1_isIn_10 rfl ?_
      refine lv_goto C.1 C.2.1 dX1_isIn_11 rfl ?_
      exact r_zret C hS hmc hr dX1_isIn_15 hw
end
theorem kX1_isIn {l : Launch} (hl : l.stackTraces = false) {G : gE} {P : Int32 → hSt → Prop} {PX : Nat → Nat → hSt → Prop} {v0 : Int32} {v1 : Int32} {v2 : Int32} {z : hSt} : cM l G yX1_isIn (ws_ yX1_isIn cX1_isIn 3 (Option.some Jvm.ClassFile.FieldType.boolean)) 10 160 z [.int v0, .int v1, .int v2] (wX1_isIn G P PX v0 v1 v2 z) (pI P) PX := by
  refine m_of hl (plainFor_of_name (by decide)) (by rw [lg_sl1 rfl, lg_sl1 rfl, lg_sl1 rfl]; exact Nat.le_of_ble_eq_true rfl) ?_
  intro p e s m args below meth c C hr hin hT hmc hw
  rw [lv_args1 rfl, lv_args1 rfl, lv_args1 rfl]
  intro H locs ls hS hl
  exact kX1_isInb0 C hr hin hT hmc hw H locs ls hS (lv_sub hl [0, 1, 2] rfl)
theorem hdX1_isIn : yX1_isIn.cls ≠ "java/lang/invoke/MethodHandle" ∧ yX1_isIn.cls ≠ "java/lang/invoke/VarHandle" ∧ (parseMethodDescriptor yX1_isIn.desc).map (fun d => d.parameters.length) = some 3 := ⟨by decide +kernel, by decide +kernel, by decide +kernel⟩
abbrev rmX1_isLevel (mc ms : Nat) : Room := { frames := 11, cells := mc, slots := ms, locals := 182 }
def wX1_isLevelb0 (G : gE) (P : Int32 → hSt → Prop) (PX : Nat → Nat → hSt → Prop)  (v0 : Int32) (z : hSt) : Prop :=
  wX1_isIn G (fun x2 z1 => (okN .boolean x2 ∧ P x2 z1)) PX v0 1 9 z
def wX1_isLevel (G : gE) (P : Int32 → hSt → Prop) (PX : Nat → Nat → hSt → Prop) (v0 : Int32) (z : hSt) : Prop := wX1_isLevelb0 G P PX v0 z
section
variable {p : Program} {l : Launch} {e : Env} {s : State} {m : MethodId} {args : Array Value} {below : List Frame} {meth : Method} {c : Code} {G : gE} {mc ms : Nat} {P : Int32 → hSt → Prop} {PX : Nat → Nat → hSt → Prop}
theorem kX1_isLevelb0 (C : xC G p l s m args meth c cX1_isLevel 1 "ExcuseLedger") (hr : meth.sig.returnType = (Option.some Jvm.ClassFile.FieldType.boolean)) (hin : meth.name = "isLevel") (hT : ∀ x ∈ c.exceptionTable.toList, False) (hmc : mc = gL G - s.heap.size ∧ ms = gU G - hsum s.heap)   {v0 : Int32} {z : hSt} (hw : wX1_isLevelb0 G P PX  v0 z) : kt G p l e (rmX1_isLevel mc ms) s m args below meth c 1 (vx_MQ below (cQ G (pI P)) (cX G PX) args s mc ms (gF G)) 0 [(0, .int v0)] [] z := by
  intro H locs ls hS hl
  refine lv_iload_n C.1 C.2.1 dX1_isLevel_0 rfl (lv_at hl 0 rfl) ?_
  refine lv_iconst C.1 C.2.1 (v := 1) dX1_isLevel_1 rfl ?_
  refine lv_bipush C.1 C.2.1 (v := 9) dX1_isLevel_2 rfl ?_
  refine c_S C hS hmc hl.1 (kX1_isIn C.2.2.2.2.2.2.1) hw (lw_S q1980 q1981 q67 q1982) hdX1_isIn ⟨Nat.le_of_ble_eq_true rfl, Nat.le_of_ble_eq_true rfl⟩ (rest := []) rfl rfl (Nat.le_of_ble_eq_true rfl) dX1_isLevel_4 (fun ci q z H locs hx hS ht => r_out C hS hmc (fun x hx => (hT x hx).elim) ht hx) (fun v z1 H locs hv hS => ?_)
  obtain ⟨x2, rfl, hw⟩ := hv
  exact r_zret C hS hmc hr dX1_isLevel_7 hw
end
theorem kX1_isLevel {l : Launch} (hl : l.stackTraces = false) {G : gE} {P : Int32 → hSt → Prop} {PX : Nat → Nat → hSt → Prop} {v0 : Int32} {z : hSt} : cM l G yX1_isLevel (ws_ yX1_isLevel cX1_isLevel 1 (Option.some Jvm.ClassFile.FieldType.boolean)) 11 182 z [.int v0] (wX1_isLevel G P PX v0 z) (pI P) PX := by
  refine m_of hl (plainFor_of_name (by decide)) (by rw [lg_sl1 rfl]; exact Nat.le_of_ble_eq_true rfl) ?_
  intro p e s m args below meth c C hr hin hT hmc hw
  rw [lv_args1 rfl]
  intro H locs ls hS hl
  exact kX1_isLevelb0 C hr hin hT hmc hw H locs ls hS (lv_sub hl [0] rfl)
theorem hdX1_isLevel : yX1_isLevel.cls ≠ "java/lang/invoke/MethodHandle" ∧ yX1_isLevel.cls ≠ "java/lang/invoke/VarHandle" ∧ (parseMethodDescriptor yX1_isLevel.desc).map (fun d => d.parameters.length) = some 1 := ⟨by decide +kernel, by decide +kernel, by decide +kernel⟩
abbrev rmX1_isPupil (mc ms : Nat) : Room := { frames := 11, cells := mc, slots := ms, locals := 182 }
def wX1_isPupilb0 (G : gE) (P : Int32 → hSt → Prop) (PX : Nat → Nat → hSt → Prop)  (v0 : Int32) (z : hSt) : Prop :=
  wX1_isIn G (fun x2 z1 => (okN .boolean x2 ∧ P x2 z1)) PX v0 0 5 z
def wX1_isPupil (G : gE) (P : Int32 → hSt → Prop) (PX : Nat → Nat → hSt → Prop) (v0 : Int32) (z : hSt) : Prop := wX1_isPupilb0 G P PX v0 z
section
variable {p : Program} {l : Launch} {e : Env} {s : State} {m : MethodId} {args : Array Value} {below : List Frame} {meth : Method} {c : Code} {G : gE} {mc ms : Nat} {P : Int32 → hSt → Prop} {PX : Nat → Nat → hSt → Prop}
theorem kX1_isPupilb0 (C : xC G p l s m args meth c cX1_isPupil 1 "ExcuseLedger") (hr : meth.sig.returnType = (Option.some Jvm.ClassFile.FieldType.boolean)) (hin : meth.name = "isPupil") (hT : ∀ x ∈ c.exceptionTable.toList, False) (hmc : mc = gL G - s.heap.size ∧ ms = gU G - hsum s.heap)   {v0 : Int32} {z : hSt} (hw : wX1_isPupilb0 G P PX  v0 z) : kt G p l e (rmX1_isPupil mc ms) s m args below meth c 1 (vx_MQ below (cQ G (pI P)) (cX G PX) args s mc ms (gF G)) 0 [(0, .int v0)] [] z := by
  intro H locs ls hS hl
  refine lv_iload_n C.1 C.2.1 dX1_isPupil_0 rfl (lv_at hl 0 rfl) ?_
  refine lv_iconst C.1 C.2.1 (v := 0) dX1_isPupil_1 rfl ?_
  refine lv_iconst C.1 C.2.1 (v := 5) dX1_isPupil_2 rfl ?_
  refine c_S C hS hmc hl.1 (kX1_isIn C.2.2.2.2.2.2.1) hw (lw_S q1980 q1981 q67 q1982) hdX1_isIn ⟨Nat.le_of_ble_eq_true rfl, Nat.le_of_ble_eq_true rfl⟩ (rest := []) rfl rfl (Nat.le_of_ble_eq_true rfl) dX1_isPupil_3 (fun ci q z H locs hx hS ht => r_out C hS hmc (fun x hx => (hT x hx).elim) ht hx) (fun v z1 H locs hv hS => ?_)
  obtain ⟨x2, rfl, hw⟩ := hv
  exact r_zret C hS hmc hr dX1_isPupil_6 hw
end
theorem kX1_isPupil {l : Launch} (hl : l.stackTraces = false) {G : gE} {P : Int32 → hSt → Prop} {PX : Nat → Nat → hSt → Prop} {v0 : Int32} {z : hSt} : cM l G yX1_isPupil (ws_ yX1_isPupil cX1_isPupil 1 (Option.some Jvm.ClassFile.FieldType.boolean)) 11 182 z [.int v0] (wX1_isPupil G P PX v0 z) (pI P) PX := by
  refine m_of hl (plainFor_of_name (by decide)) (by rw [lg_sl1 rfl]; exact Nat.le_of_ble_eq_true rfl) ?_
  intro p e s m args below meth c C hr hin hT hmc hw
  rw [lv_args1 rfl]
  intro H locs ls hS hl
  exact kX1_isPupilb0 C hr hin hT hmc hw H locs ls hS (lv_sub hl [0] rfl)
theorem hdX1_isPupil : yX1_isPupil.cls ≠ "java/lang/invoke/MethodHandle" ∧ yX1_isPupil.cls ≠ "java/lang/invoke/VarHandle" ∧ (parseMethodDescriptor yX1_isPupil.desc).map (fun d => d.parameters.length) = some 1 := ⟨by decide +kernel, by decide +kernel, by decide +kernel⟩
abbrev rmX1_isFee (mc ms : Nat) : Room := { frames := 11, cells := mc, slots := ms, locals := 182 }
def wX1_isFeeb0 (G : gE) (P : Int32 → hSt → Prop) (PX : Nat → Nat → hSt → Prop)  (v0 : Int32) (z : hSt) : Prop :=
  wX1_isIn G (fun x2 z1 => (okN .boolean x2 ∧ P x2 z1)) PX v0 0 9 z
def wX1_isFee (G : gE) (P : Int32 → hSt → Prop) (PX : Nat → Nat → hSt → Prop) (v0 : Int32) (z : hSt) : Prop := wX1_isFeeb0 G P PX v0 z
section
variable {p : Program} {l : Launch} {e : Env} {s : State} {m : MethodId} {args : Array Value} {below : List Frame} {meth : Method} {c : Code} {G : gE} {mc ms : Nat} {P : Int32 → hSt → Prop} {PX : Nat → Nat → hSt → Prop}
theorem kX1_isFeeb0 (C : xC G p l s m args meth c cX1_isFee 1 "ExcuseLedger") (hr : meth.sig.returnType = (Option.some Jvm.ClassFile.FieldType.boolean)) (hin : meth.name = "isFee") (hT : ∀ x ∈ c.exceptionTable.toList, False) (hmc : mc = gL G - s.heap.size ∧ ms = gU G - hsum s.heap)   {v0 : Int32} {z : hSt} (hw : wX1_isFeeb0 G P PX  v0 z) : kt G p l e (rmX1_isFee mc ms) s m args below meth c 1 (vx_MQ below (cQ G (pI P)) (cX G PX) args s mc ms (gF G)) 0 [(0, .int v0)] [] z := by
  intro H locs ls hS hl
  refine lv_iload_n C.1 C.2.1 dX1_isFee_0 rfl (lv_at hl 0 rfl) ?_
  refine lv_iconst C.1 C.2.1 (v := 0) dX1_isFee_1 rfl ?_
  refine lv_bipush C.1 C.2.1 (v := 9) dX1_isFee_2 rfl ?_
  refine c_S C hS hmc hl.1 (kX1_isIn C.2.2.2.2.2.2.1) hw (lw_S q1980 q1981 q67 q1982) hdX1_isIn ⟨Nat.le_of_ble_eq_true rfl, Nat.le_of_ble_eq_true rfl⟩ (rest := []) rfl rfl (Nat.le_of_ble_eq_true rfl) dX1_isFee_4 (fun ci q z H locs hx hS ht => r_out C hS hmc (fun x hx => (hT x hx).elim) ht hx) (fun v z1 H locs hv hS => ?_)
  obtain ⟨x2, rfl, hw⟩ := hv
  exact r_zret C hS hmc hr dX1_isFee_7 hw
end
theorem kX1_isFee {l : Launch} (hl : l.stackTraces = false) {G : gE} {P : Int32 → hSt → Prop} {PX : Nat → Nat → hSt → Prop} {v0 : Int32} {z : hSt} : cM l G yX1_isFee (ws_ yX1_isFee cX1_isFee 1 (Option.some Jvm.ClassFile.FieldType.boolean)) 11 182 z [.int v0] (wX1_isFee G P PX v0 z) (pI P) PX := by
  refine m_of hl (plainFor_of_name (by decide)) (by rw [lg_sl1 rfl]; exact Nat.le_of_ble_eq_true rfl) ?_
  intro p e s m args below meth c C hr hin hT hmc hw
  rw [lv_args1 rfl]
  intro H locs ls hS hl
  exact kX1_isFeeb0 C hr hin hT hmc hw H locs ls hS (lv_sub hl [0] rfl)
theorem hdX1_isFee : yX1_isFee.cls ≠ "java/lang/invoke/MethodHandle" ∧ yX1_isFee.cls ≠ "java/lang/invoke/VarHandle" ∧ (parseMethodDescriptor yX1_isFee.desc).map (fun d => d.parameters.length) = some 1 := ⟨by decide +kernel, by decide +kernel, by decide +kernel⟩
abbrev rmX1_isSchool (mc ms : Nat) : Room := { frames := 11, cells := mc, slots := ms, locals := 182 }
def wX1_isSchoolb0 (G : gE) (P : Int32 → hSt → Prop) (PX : Nat → Nat → hSt → Prop)  (v0 : Int32) (z : hSt) : Prop :=
  wX1_isIn G (fun x2 z1 => (okN .boolean x2 ∧ P x2 z1)) PX v0 0 2 z
def wX1_isSchool (G : gE) (P : Int32 → hSt → Prop) (PX : Nat → Nat → hSt → Prop) (v0 : Int32) (z : hSt) : Prop := wX1_isSchoolb0 G P PX v0 z
section
variable {p : Program} {l : Launch} {e : Env} {s : State} {m : MethodId} {args : Array Value} {below : List Frame} {meth : Method} {c : Code} {G : gE} {mc ms : Nat} {P : Int32 → hSt → Prop} {PX : Nat → Nat → hSt → Prop}
theorem kX1_isSchoolb0 (C : xC G p l s m args meth c cX1_isSchool 1 "ExcuseLedger") (hr : meth.sig.returnType = (Option.some Jvm.ClassFile.FieldType.boolean)) (hin : meth.name = "isSchool") (hT : ∀ x ∈ c.exceptionTable.toList, False) (hmc : mc = gL G - s.heap.size ∧ ms = gU G - hsum s.heap)   {v0 : Int32} {z : hSt} (hw : wX1_isSchoolb0 G P PX  v0 z) : kt G p l e (rmX1_isSchool mc ms) s m args below meth c 1 (vx_MQ below (cQ G (pI P)) (cX G PX) args s mc ms (gF G)) 0 [(0, .int v0)] [] z := by
  intro H locs ls hS hl
  refine lv_iload_n C.1 C.2.1 dX1_isSchool_0 rfl (lv_at hl 0 rfl) ?_
  refine lv_iconst C.1 C.2.1 (v := 0) dX1_isSchool_1 rfl ?_
  refine lv_iconst C.1 C.2.1 (v := 2) dX1_isSchool_2 rfl ?_
  refine c_S C hS hmc hl.1 (kX1_isIn C.2.2.2.2.2.2.1) hw (lw_S q1980 q1981 q67 q1982) hdX1_isIn ⟨Nat.le_of_ble_eq_true rfl, Nat.le_of_ble_eq_true rfl⟩ (rest := []) rfl rfl (Nat.le_of_ble_eq_true rfl) dX1_isSchool_3 (fun ci q z H locs hx hS ht => r_out C hS hmc (fun x hx => (hT x hx).elim) ht hx) (fun v z1 H locs hv hS => ?_)
  obtain ⟨x2, rfl, hw⟩ := hv
  exact r_zret C hS hmc hr dX1_isSchool_6 hw
end
theorem kX1_isSchool {l : Launch} (hl : l.stackTraces = false) {G : gE} {P : Int32 → hSt → Prop} {PX : Nat → Nat → hSt → Prop} {v0 : Int32} {z : hSt} : cM l G yX1_isSchool (ws_ yX1_isSchool cX1_isSchool 1 (Option.some Jvm.ClassFile.FieldType.boolean)) 11 182 z [.int v0] (wX1_isSchool G P PX v0 z) (pI P) PX := by
  refine m_of hl (plainFor_of_name (by decide)) (by rw [lg_sl1 rfl]; exact Nat.le_of_ble_eq_true rfl) ?_
  intro p e s m args below meth c C hr hin hT hmc hw
  rw [lv_args1 rfl]
  intro H locs ls hS hl
  exact kX1_isSchoolb0 C hr hin hT hmc hw H locs ls hS (lv_sub hl [0] rfl)
theorem hdX1_isSchool : yX1_isSchool.cls ≠ "java/lang/invoke/MethodHandle" ∧ yX1_isSchool.cls ≠ "java/lang/invoke/VarHandle" ∧ (parseMethodDescriptor yX1_isSchool.desc).map (fun d => d.parameters.length) = some 1 := ⟨by decide +kernel, by decide +kernel, by decide +kernel⟩
abbrev rmX7_isRight (mc ms : Nat) : Room := { frames := 12, cells := mc, slots := ms, locals := 202 }
def wX7_isRightb188 (G : gE) (P : Int32 → hSt → Prop) (PX : Nat → Nat → hSt → Prop)   (z : hSt) : Prop :=
  (okN .boolean 0 ∧ P 0 z)
def wX7_isRightb216 (G : gE) (P : Int32 → hSt → Prop) (PX : Nat → Nat → hSt → Prop)   (z : hSt) : Prop :=
  (okN .boolean 0 ∧ P 0 z)
def wX7_isRightb254 (G : gE) (P : Int32 → hSt → Prop) (PX : Nat → Nat → hSt → Prop)   (z : hSt) : Prop :=
  (okN .boolean 0 ∧ P 0 z)
def wX7_isRightb282 (G : gE) (P : Int32 → hSt → Prop) (PX : Nat → Nat → hSt → Prop)   (z : hSt) : Prop :=
  (okN .boolean 0 ∧ P 0 z)
def wX7_isRightb127 (G : gE) (P : Int32 → hSt → Prop) (PX : Nat → Nat → hSt → Prop)  (v0 : Option Nat) (v2 : Int32) (z : hSt) : Prop :=
  ((v2 = 0 → gtI z v0 [6] 1 (fun x14 => wX1_isPupil G (fun x16 z15 => ((x16 = 0 → wX7_isRightb188 G P PX   z15) ∧ (¬ x16 = 0 → gtI z15 v0 [6] 3 (fun x17 => wX1_isLevel G (fun x19 z18 => ((x19 = 0 → wX7_isRightb188 G P PX   z18) ∧ (¬ x19 = 0 → (okN .boolean 1 ∧ P 1 z18)))) PX x17 z15)))) PX x14 z)) ∧ (v2 = 1 → gtI z v0 [6] 1 (fun x20 => wX1_isPupil G (fun x22 z21 => ((x22 = 0 → wX7_isRightb216 G P PX   z21) ∧ (¬ x22 = 0 → gtI z21 v0 [6] 3 (fun x23 => wX1_isFee G (fun x25 z24 => ((x25 = 0 → wX7_isRightb216 G P PX   z24) ∧ (¬ x25 = 0 → (okN .boolean 1 ∧ P 1 z24)))) PX x23 z21)))) PX x20 z)) ∧ (v2 = 2 → gtI z v0 [6] 3 (fun x26 => wX1_isLevel G (fun x28 z27 => (okN .boolean x28 ∧ P x28 z27)) PX x26 z)) ∧ (v2 = 3 → gtI z v0 [6] 1 (fun x29 => wX1_isPupil G (fun x31 z30 => ((x31 = 0 → wX7_isRightb254 G P PX   z30) ∧ (¬ x31 = 0 → gtI z30 v0 [6] 3 (fun x32 => wX1_isSchool G (fun x34 z33 => ((x34 = 0 → wX7_isRightb254 G P PX   z33) ∧ (¬ x34 = 0 → (okN .boolean 1 ∧ P 1 z33)))) PX x32 z30)))) PX x29 z)) ∧ (v2 = 4 → gtI z v0 [6] 1 (fun x35 => wX1_isSchool G (fun x37 z36 => ((x37 = 0 → wX7_isRightb282 G P PX   z36) ∧ (¬ x37 = 0 → gtI z36 v0 [6] 3 (fun x38 => wX1_isLevel G (fun x40 z39 => ((x40 = 0 → wX7_isRightb282 G P PX   z39) ∧ (¬ x40 = 0 → (okN .boolean 1 ∧ P 1 z39)))) PX x38 z36)))) PX x35 z)) ∧ (v2 ∉ ([0, 1, 2, 3, 4] : List Int32) → (okN .boolean 1 ∧ P 1 z)))
def wX7_isRightb0 (G : gE) (P : Int32 → hSt → Prop) (PX : Nat → Nat → hSt → Prop)  (v0 : Option Nat) (z : hSt) : Prop :=
  gtR z v0 [6] 0 (fun x1 => (rcv z x1 17 ∧ wJ10_hashCode G (fun x3 z2 => ((x3 = (-891986231) → (rcv z2 x1 17 ∧ wJ10_equals G (fun x5 z4 => ((x5 = 0 → wX7_isRightb127 G P PX  v0 (-1) z4) ∧ (¬ x5 = 0 → wX7_isRightb127 G P PX  v0 4 z4))) PX x1 (some (gA G 7)) z2)) ∧ (x3 = 116103 → (rcv z2 x1 17 ∧ wJ10_equals G (fun x7 z6 => ((x7 = 0 → wX7_isRightb127 G P PX  v0 (-1) z6) ∧ (¬ x7 = 0 → wX7_isRightb127 G P PX  v0 3 z6))) PX x1 (some (gA G 6)) z2)) ∧ (x3 = 3317999 → (rcv z2 x1 17 ∧ wJ10_equals G (fun x9 z8 => ((x9 = 0 → wX7_isRightb127 G P PX  v0 (-1) z8) ∧ (¬ x9 = 0 → wX7_isRightb127 G P PX  v0 1 z8))) PX x1 (some (gA G 3)) z2)) ∧ (x3 = 3347790 → (rcv z2 x1 17 ∧ wJ10_equals G (fun x11 z10 => ((x11 = 0 → wX7_isRightb127 G P PX  v0 (-1) z10) ∧ (¬ x11 = 0 → wX7_isRightb127 G P PX  v0 2 z10))) PX x1 (some (gA G 5)) z2)) ∧ (x3 = 96667352 → (rcv z2 x1 17 ∧ wJ10_equals G (fun x13 z12 => ((x13 = 0 → wX7_isRightb127 G P PX  v0 (-1) z12) ∧ (¬ x13 = 0 → wX7_isRightb127 G P PX  v0 0 z12))) PX x1 (some (gA G 1)) z2)) ∧ (x3 ∉ ([(-891986231), 116103, 3317999, 3347790, 96667352] : List Int32) → wX7_isRightb127 G P PX  v0 (-1) z2))) PX x1  z))
def wX7_isRight (G : gE) (P : Int32 → hSt → Prop) (PX : Nat → Nat → hSt → Prop) (v0 : Option Nat) (z : hSt) : Prop := wX7_isRightb0 G P PX v0 z
section
variable {p : Program} {l : Launch} {e : Env} {s : State} {m : MethodId} {args : Array Value} {below : List Frame} {meth : Method} {c : Code} {G : gE} {mc ms : Nat} {P : Int32 → hSt → Prop} {PX : Nat → Nat → hSt → Prop}
theorem kX7_isRightb188 (C : xC G p l s m args meth c cX7_isRight 3 "ExcuseLedger$Command") (hr : meth.sig.returnType = (Option.some Jvm.ClassFile.FieldType.boolean)) (hin : meth.name = "isRight") (hT : ∀ x ∈ c.exceptionTable.toList, False) (hmc : mc = gL G - s.heap.size ∧ ms = gU G - hsum s.heap)    {z : hSt} (hw : wX7_isRightb188 G P PX   z) : kt G p l e (rmX7_isRight mc ms) s m args below meth c 3 (vx_MQ below (cQ G (pI P)) (cX G PX) args s mc ms (gF G)) 188 [] [] z := by
  intro H locs ls hS hl
  refine lv_iconst C.1 C.2.1 (v := 0) dX7_isRight_188 rfl ?_
  refine lv_goto C.1 C.2.1 dX7_isRight_189 rfl ?_
  exact r_zret C hS hmc hr dX7_isRight_287 hw
theorem kX7_isRightb216 (C : xC G p l s m args meth c cX7_isRight 3 "ExcuseLedger$Command") (hr : meth.sig.returnType = (Option.some Jvm.ClassFile.FieldType.boolean)) (hin : meth.name = "isRight") (hT : ∀ x ∈ c.exceptionTable.toList, False) (hmc : mc = gL G - s.heap.size ∧ ms = gU G - hsum s.heap)    {z : hSt} (hw : wX7_isRightb216 G P PX   z) : kt G p l e (rmX7_isRight mc ms) s m args below meth c 3 (vx_MQ below (cQ G (pI P)) (cX G PX) args s mc ms (gF G)) 216 [] [] z := by
  intro H locs ls hS hl
  refine lv_iconst C.1 C.2.1 (v := 0) dX7_isRight_216 rfl ?_
  refine lv_goto C.1 C.2.1 dX7_isRight_217 rfl ?_
  exact r_zret C hS hmc hr dX7_isRight_287 hw
theorem kX7_isRightb254 (C : xC G p l s m args meth c cX7_isRight 3 "ExcuseLedger$Command") (hr : meth.sig.returnType = (Option.some Jvm.ClassFile.FieldType.boolean)) (hin : meth.name = "isRight") (hT : ∀ x ∈ c.exceptionTable.toList, False) (hmc : mc = gL G - s.heap.size ∧ ms = gU G - hsum s.heap)    {z : hSt} (hw : wX7_isRightb254 G P PX   z) : kt G p l e (rmX7_isRight mc ms) s m args below meth c 3 (vx_MQ below (cQ G (pI P)) (cX G PX) args s mc ms (gF G)) 254 [] [] z := by
  intro H locs ls hS hl
  refine lv_iconst C.1 C.2.1 (v := 0) dX7_isRight_254 rfl ?_
  refine lv_goto C.1 C.2.1 dX7_isRight_255 rfl ?_
  exact r_zret C hS hmc hr dX7_isRight_287 hw
theorem kX7_isRightb282 (C : xC G p l s m args meth c cX7_isRight 3 "ExcuseLedger$Command") (hr : meth.sig.returnType = (Option.some Jvm.ClassFile.FieldType.boolean)) (hin : meth.name = "isRight") (hT : ∀ x ∈ c.exceptionTable.toList, False) (hmc : mc = gL G - s.heap.size ∧ ms = gU G - hsum s.heap)    {z : hSt} (hw : wX7_isRightb282 G P PX   z) : kt G p l e (rmX7_isRight mc ms) s m args below meth c 3 (vx_MQ below (cQ G (pI P)) (cX G PX) args s mc ms (gF G)) 282 [] [] z := by
  intro H locs ls hS hl
  refine lv_iconst C.1 C.2.1 (v := 0) dX7_isRight_282 rfl ?_
  refine lv_goto C.1 C.2.1 dX7_isRight_283 rfl ?_
  exact r_zret C hS hmc hr dX7_isRight_287 hw
theorem kX7_isRightb127 (C : xC G p l s m args meth c cX7_isRight 3 "ExcuseLedger$Command") (hr : meth.sig.returnType = (Option.some Jvm.ClassFile.FieldType.boolean)) (hin : meth.name = "isRight") (hT : ∀ x ∈ c.exceptionTable.toList, False) (hmc : mc = gL G - s.heap.size ∧ ms = gU G - hsum s.heap)   {v0 : Option Nat} {v2 : Int32} {z : hSt} (hw : wX7_isRightb127 G P PX  v0 v2 z) : kt G p l e (rmX7_isRight mc ms) s m args below meth c 3 (vx_MQ below (cQ G (pI P)) (cX G PX) args s mc ms (gF G)) 127 [(0, va_rf v0), (2, .int v2)] [] z := by
  intro H locs ls hS hl
  refine lv_iload_n C.1 C.2.1 dX7_isRight_127 rfl (lv_at hl 1 rfl) ?_
  refine r_tsw C dX7_isRight_128 (dt := 286) rfl (tgts := [164, 192, 220, 230, 258]) rfl (Nat.le_of_ble_eq_true rfl) (fun i t ht hx => ?_) (fun ho => ?_)
  · match i, ht, hx with
    | 0, ht, hx =>
      cases ht
      have hw := hw.1 (sw_eq 0 hx rfl)
      refine r_aload_n C.1 C.2.1 dX7_isRight_164 rfl (lv_at hl 0 rfl) ?_
      refine r_getI C hS fo_6_1 (fl_d C q426) (fun _ h => h) dX7_isRight_165 hw (fun x14 hw => ?_)
      refine c_SN C hS hmc hl.1 (kX1_isPupil C.2.2.2.2.2.2.1) hw q1979 q1977 q67 q1978 hdX1_isPupil ⟨Nat.le_of_ble_eq_true rfl, Nat.le_of_ble_eq_true rfl⟩ (rest := []) rfl rfl (Nat.le_of_ble_eq_true rfl) dX7_isRight_168 (fun ci q z H locs hx hS ht => r_out C hS hmc (fun x hx => (hT x hx).elim) ht hx) (fun v z15 H locs hv hS => ?_)
      obtain ⟨x16, rfl, hw⟩ := hv
      refine lv_if_eq C.1 C.2.1 dX7_isRight_171 rfl (fun h => ?_) (fun h => ?_)
      · have hw := hw.1 h
        exact kX7_isRightb188 C hr hin hT hmc  hw H locs ls hS (lv_sub hl [] rfl)
      · have hw := hw.2 h
        refine r_aload_n C.1 C.2.1 dX7_isRight_174 rfl (lv_at hl 0 rfl) ?_
        refine r_getI C hS fo_6_3 (fl_d C q428) (fun _ h => h) dX7_isRight_175 hw (fun x17 hw => ?_)
        refine c_SN C hS hmc hl.1 (kX1_isLevel C.2.2.2.2.2.2.1) hw q1985 q1983 q67 q1984 hdX1_isLevel ⟨Nat.le_of_ble_eq_true rfl, Nat.le_of_ble_eq_true rfl⟩ (rest := []) rfl rfl (Nat.le_of_ble_eq_true rfl) dX7_isRight_178 (fun ci q z H locs hx hS ht => r_out C hS hmc (fun x hx => (hT x hx).elim) ht hx) (fun v z18 H locs hv hS => ?_)
        obtain ⟨x19, rfl, hw⟩ := hv
        refine lv_if_eq C.1 C.2.1 dX7_isRight_181 rfl (fun h => ?_) (fun h => ?_)
        · have hw := hw.1 h
          exact kX7_isRightb188 C hr hin hT hmc  hw H locs ls hS (lv_sub hl [] rfl)
        · have hw := hw.2 h
          refine lv_iconst C.1 C.2.1 (v := 1) dX7_isRight_184 rfl ?_
          refine lv_goto C.1 C.2.1 dX7_isRight_185 rfl ?_
          exact r_zret C hS hmc hr dX7_isRight_287 hw
    | 1, ht, hx =>
      cases ht
      have hw := hw.2.1 (sw_eq 1 hx rfl)
      refine r_aload_n C.1 C.2.1 dX7_isRight_192 rfl (lv_at hl 0 rfl) ?_
      refine r_getI C hS fo_6_1 (fl_d C q426) (fun _ h => h) dX7_isRight_193 hw (fun x20 hw => ?_)
      refine c_SN C hS hmc hl.1 (kX1_isPupil C.2.2.2.2.2.2.1) hw q1979 q1977 q67 q1978 hdX1_isPupil ⟨Nat.le_of_ble_eq_true rfl, Nat.le_of_ble_eq_true rfl⟩ (rest := []) rfl rfl (Nat.le_of_ble_eq_true rfl) dX7_isRight_196 (fun ci q z H locs hx hS ht => r_out C hS hmc (fun x hx => (hT x hx).elim) ht hx) (fun v z21 H locs hv hS => ?_)
      obtain ⟨x22, rfl, hw⟩ := hv
      refine lv_if_eq C.1 C.2.1 dX7_isRight_199 rfl (fun h => ?_) (fun h => ?_)
      · have hw := hw.1 h
        exact kX7_isRightb216 C hr hin hT hmc  hw H locs ls hS (lv_sub hl [] rfl)
      · have hw := hw.2 h
        refine r_aload_n C.1 C.2.1 dX7_isRight_202 rfl (lv_at hl 0 rfl) ?_
        refine r_getI C hS fo_6_3 (fl_d C q428) (fun _ h => h) dX7_isRight_203 hw (fun x23 hw => ?_)
        refine c_SN C hS hmc hl.1 (kX1_isFee C.2.2.2.2.2.2.1) hw q1988 q1986 q67 q1987 hdX1_isFee ⟨Nat.le_of_ble_eq_true rfl, Nat.le_of_ble_eq_true rfl⟩ (rest := []) rfl rfl (Nat.le_of_ble_eq_true rfl) dX7_isRight_206 (fun ci q z H locs hx hS ht => r_out C hS hmc (fun x hx => (hT x hx).elim) ht hx) (fun v z24 H locs hv hS => ?_)
        obtain ⟨x25, rfl, hw⟩ := hv
        refine lv_if_eq C.1 C.2.1 dX7_isRight_209 rfl (fun h => ?_) (fun h => ?_)
        · have hw := hw.1 h
          exact kX7_isRightb216 C hr hin hT hmc  hw H locs ls hS (lv_sub hl [] rfl)
        · have hw := hw.2 h
          refine lv_iconst C.1 C.2.1 (v := 1) dX7_isRight_212 rfl ?_
          refine lv_goto C.1 C.2.1 dX7_isRight_213 rfl ?_
          exact r_zret C hS hmc hr dX7_isRight_287 hw
    | 2, ht, hx =>
      cases ht
      have hw := hw.2.2.1 (sw_eq 2 hx rfl)
      refine r_aload_n C.1 C.2.1 dX7_isRight_220 rfl (lv_at hl 0 rfl) ?_
      refine r_getI C hS fo_6_3 (fl_d C q428) (fun _ h => h) dX7_isRight_221 hw (fun x26 hw => ?_)
      refine c_SN C hS hmc hl.1 (kX1_isLevel C.2.2.2.2.2.2.1) hw q1985 q1983 q67 q1984 hdX1_isLevel ⟨Nat.le_of_ble_eq_true rfl, Nat.le_of_ble_eq_true rfl⟩ (rest := []) rfl rfl (Nat.le_of_ble_eq_true rfl) dX7_isRight_224 (fun ci q z H locs hx hS ht => r_out C hS hmc (fun x hx => (hT x hx).elim) ht hx) (fun v z27 H locs hv hS => ?_)
      obtain ⟨x28, rfl, hw⟩ := hv
      refine lv_goto C.1 C.2.1 dX7_isRight_227 rfl ?_
      exact r_zret C hS hmc hr dX7_isRight_287 hw
    | 3, ht, hx =>
      cases ht
      have hw := hw.2.2.2.1 (sw_eq 3 hx rfl)
      refine r_aload_n C.1 C.2.1 dX7_isRight_230 rfl (lv_at hl 0 rfl) ?_
      refine r_getI C hS fo_6_1 (fl_d C q426) (fun _ h => h) dX7_isRight_231 hw (fun x29 hw => ?_)
      refine c_SN C hS hmc hl.1 (kX1_isPupil C.2.2.2.2.2.2.1) hw q1979 q1977 q67 q1978 hdX1_isPupil ⟨Nat.le_of_ble_eq_true rfl, Nat.le_of_ble_eq_true rfl⟩ (rest := []) rfl rfl (Nat.le_of_ble_eq_true rfl) dX7_isRight_234 (fun ci q z H locs hx hS ht => r_out C hS hmc (fun x hx => (hT x hx).elim) ht hx) (fun v z30 H locs hv hS => ?_)
      obtain ⟨x31, rfl, hw⟩ := hv
      refine lv_if_eq C.1 C.2.1 dX7_isRight_237 rfl (fun h => ?_) (fun h => ?_)
      · have hw := hw.1 h
        exact kX7_isRightb254 C hr hin hT hmc  hw H locs ls hS (lv_sub hl [] rfl)
      · have hw := hw.2 h
        refine r_aload_n C.1 C.2.1 dX7_isRight_240 rfl (lv_at hl 0 rfl) ?_
        refine r_getI C hS fo_6_3 (fl_d C q428) (fun _ h => h) dX7_isRight_241 hw (fun x32 hw => ?_)
        refine c_SN C hS hmc hl.1 (kX1_isSchool C.2.2.2.2.2.2.1) hw q1991 q1989 q67 q1990 hdX1_isSchool ⟨Nat.le_of_ble_eq_true rfl, Nat.le_of_ble_eq_true rfl⟩ (rest := []) rfl rfl (Nat.le_of_ble_eq_true rfl) dX7_isRight_244 (fun ci q z H locs hx hS ht => r_out C hS hmc (fun x hx => (hT x hx).elim) ht hx) (fun v z33 H locs hv hS => ?_)
        obtain ⟨x34, rfl, hw⟩ := hv
        refine lv_if_eq C.1 C.2.1 dX7_isRight_247 rfl (fun h => ?_) (fun h => ?_)
        · have hw := hw.1 h
          exact kX7_isRightb254 C hr hin hT hmc  hw H locs ls hS (lv_sub hl [] rfl)
        · have hw := hw.2 h
          refine lv_iconst C.1 C.2.1 (v := 1) dX7_isRight_250 rfl ?_
          refine lv_goto C.1 C.2.1 dX7_isRight_251 rfl ?_
          exact r_zret C hS hmc hr dX7_isRight_287 hw
    | 4, ht, hx =>
      cases ht
      have hw := hw.2.2.2.2.1 (sw_eq 4 hx rfl)
      refine r_aload_n C.1 C.2.1 dX7_isRight_258 rfl (lv_at hl 0 rfl) ?_
      refine r_getI C hS fo_6_1 (fl_d C q426) (fun _ h => h) dX7_isRight_259 hw (fun x35 hw => ?_)
      refine c_SN C hS hmc hl.1 (kX1_isSchool C.2.2.2.2.2.2.1) hw q1991 q1989 q67 q1990 hdX1_isSchool ⟨Nat.le_of_ble_eq_true rfl, Nat.le_of_ble_eq_true rfl⟩ (rest := []) rfl rfl (Nat.le_of_ble_eq_true rfl) dX7_isRight_262 (fun ci q z H locs hx hS ht => r_out C hS hmc (fun x hx => (hT x hx).elim) ht hx) (fun v z36 H locs hv hS => ?_)
      obtain ⟨x37, rfl, hw⟩ := hv
      refine lv_if_eq C.1 C.2.1 dX7_isRight_265 rfl (fun h => ?_) (fun h => ?_)
      · have hw := hw.1 h
        exact kX7_isRightb282 C hr hin hT hmc  hw H locs ls hS (lv_sub hl [] rfl)
      · have hw := hw.2 h
        refine r_aload_n C.1 C.2.1 dX7_isRight_268 rfl (lv_at hl 0 rfl) ?_
        refine r_getI C hS fo_6_3 (fl_d C q428) (fun _ h => h) dX7_isRight_269 hw (fun x38 hw => ?_)
        refine c_SN C hS hmc hl.1 (kX1_isLevel C.2.2.2.2.2.2.1) hw q1985 q1983 q67 q1984 hdX1_isLevel ⟨Nat.le_of_ble_eq_true rfl, Nat.le_of_ble_eq_true rfl⟩ (rest := []) rfl rfl (Nat.le_of_ble_eq_true rfl) dX7_isRight_272 (fun ci q z H locs hx hS ht => r_out C hS hmc (fun x hx => (hT x hx).elim) ht hx) (fun v z39 H locs hv hS => ?_)
        obtain ⟨x40, rfl, hw⟩ := hv
        refine lv_if_eq C.1 C.2.1 dX7_isRight_275 rfl (fun h => ?_) (fun h => ?_)
        · have hw := hw.1 h
          exact kX7_isRightb282 C hr hin hT hmc  hw H locs ls hS (lv_sub hl [] rfl)
        · have hw := hw.2 h
          refine lv_iconst C.1 C.2.1 (v := 1) dX7_isRight_278 rfl ?_
          refine lv_goto C.1 C.2.1 dX7_isRight_279 rfl ?_
          exact r_zret C hS hmc hr dX7_isRight_287 hw
    | i + 5, ht, hx => exact nomatch ht
  · have hw := hw.2.2.2.2.2 (sw_out ho (by decide))
    refine lv_iconst C.1 C.2.1 (v := 1) dX7_isRight_286 rfl ?_
    exact r_zret C hS hmc hr dX7_isRight_287 hw
theorem kX7_isRightb0 (C : xC G p l s m args meth c cX7_isRight 3 "ExcuseLedger$Command") (hr : meth.sig.returnType = (Option.some Jvm.ClassFile.FieldType.boolean)) (hin : meth.name = "isRight") (hT : ∀ x ∈ c.exceptionTable.toList, False) (hmc : mc = gL G - s.heap.size ∧ ms = gU G - hsum s.heap)   {v0 : Option Nat} {z : hSt} (hw : wX7_isRightb0 G P PX  v0 z) : kt G p l e (rmX7_isRight mc ms) s m args below meth c 3 (vx_MQ below (cQ G (pI P)) (cX G PX) args s mc ms (gF G)) 0 [(0, va_rf v0)] [] z := by
  intro H locs ls hS hl
  refine r_aload_n C.1 C.2.1 dX7_isRight_0 rfl (lv_at hl 0 rfl) ?_
  refine r_getR C hS fo_6_0 (fl_d C q425) (fun _ h => h) dX7_isRight_1 hw (fun x1 hw => ?_)
  refine r_astore_n C.1 C.2.1 dX7_isRight_4 rfl hl (Nat.le_of_ble_eq_true rfl) (ls_new (ls_old 0 rfl rfl (.inr (va_rf_cat _)) ls_nil)) (fun ls hl => ?_)
  refine lv_iconst C.1 C.2.1 (v := (-1)) dX7_isRight_5 rfl ?_
  refine r_istore_n C.1 C.2.1 dX7_isRight_6 rfl hl (Nat.le_of_ble_eq_true rfl) (ls_new (ls_old 0 rfl rfl (.inr (va_rf_cat _)) (ls_old 1 rfl rfl (.inl rfl) ls_nil))) (fun ls hl => ?_)
  refine r_aload_n C.1 C.2.1 dX7_isRight_7 rfl (lv_at hl 1 rfl) ?_
  refine c_V C hS hmc hl.1 (ci := 17) rfl hw.1 (kJ10_hashCode C.2.2.2.2.2.2.1) hw.2 (lw_V q1970 q938 q3533 q81 q939) ⟨rfl, hdJ10_hashCode⟩ ⟨Nat.le_of_ble_eq_true rfl, Nat.le_of_ble_eq_true rfl⟩ (rest := []) rfl rfl (Nat.le_of_ble_eq_true rfl) dX7_isRight_8 (fun ci q z H locs hx hS ht => r_out C hS hmc (fun x hx => (hT x hx).elim) ht hx) (fun v z2 H locs hv hS => ?_)
  obtain ⟨x3, rfl, hw⟩ := hv
  by_cases h0 : x3 = (-891986231)
  · have hw := hw.1 h0
    refine lv_lookup C.1 C.2.1 dX7_isRight_11 rfl (by rw [h0] <;> rfl) rfl ?_
    refine r_aload_n C.1 C.2.1 dX7_isRight_116 rfl (lv_at hl 1 rfl) ?_
    refine r_ldcS C (k := 7) (tx := "strict") (by decide +kernel) dX7_isRight_117 ?_
    refine c_V C hS hmc hl.1 (ci := 17) rfl hw.1 (kJ10_equals C.2.2.2.2.2.2.1) hw.2 (lw_V q1972 q1652 q3534 q81 q1653) ⟨rfl, hdJ10_equals⟩ ⟨Nat.le_of_ble_eq_true rfl, Nat.le_of_ble_eq_true rfl⟩ (rest := []) rfl rfl (Nat.le_of_ble_eq_true rfl) dX7_isRight_119 (fun ci q z H locs hx hS ht => r_out C hS hmc (fun x hx => (hT x hx).elim) ht hx) (fun v z4 H locs hv hS => ?_)
    obtain ⟨x5, rfl, hw⟩ := hv
    refine lv_if_eq C.1 C.2.1 dX7_isRight_122 rfl (fun h => ?_) (fun h => ?_)
    · have hw := hw.1 h
      exact kX7_isRightb127 C hr hin hT hmc  hw H locs ls hS (lv_sub hl [2, 0] rfl)
    · have hw := hw.2 h
      refine lv_iconst C.1 C.2.1 (v := 4) dX7_isRight_125 rfl ?_
      refine r_istore_n C.1 C.2.1 dX7_isRight_126 rfl hl (Nat.le_of_ble_eq_true rfl) (ls_new (ls_old 2 rfl rfl (.inl rfl) ls_nil)) (fun ls hl => ?_)
      exact kX7_isRightb127 C hr hin hT hmc  hw H locs ls hS (lv_sub hl [1, 0] rfl)
  · skip
    by_cases h1 : x3 = 116103
    · have hw := hw.2.1 h1
      refine lv_lookup C.1 C.2.1 dX7_isRight_11 rfl (by rw [h1] <;> rfl) rfl ?_
      refine r_aload_n C.1 C.2.1 dX7_isRight_102 rfl (lv_at hl 1 rfl) ?_
      refine r_ldcS C (k := 6) (tx := "use") (by decide +kernel) dX7_isRight_103 ?_
      refine c_V C hS hmc hl.1 (ci := 17) rfl hw.1 (kJ10_equals C.2.2.2.2.2.2.1) hw.2 (lw_V q1972 q1652 q3534 q81 q1653) ⟨rfl, hdJ10_equals⟩ ⟨Nat.le_of_ble_eq_true rfl, Nat.le_of_ble_eq_true rfl⟩ (rest := []) rfl rfl (Nat.le_of_ble_eq_true rfl) dX7_isRight_105 (fun ci q z H locs hx hS ht => r_out C hS hmc (fun x hx => (hT x hx).elim) ht hx) (fun v z6 H locs hv hS => ?_)
      obtain ⟨x7, rfl, hw⟩ := hv
      refine lv_if_eq C.1 C.2.1 dX7_isRight_108 rfl (fun h => ?_) (fun h => ?_)
      · have hw := hw.1 h
        exact kX7_isRightb127 C hr hin hT hmc  hw H locs ls hS (lv_sub hl [2, 0] rfl)
      · have hw := hw.2 h
        refine lv_iconst C.1 C.2.1 (v := 3) dX7_isRight_111 rfl ?_
        refine r_istore_n C.1 C.2.1 dX7_isRight_112 rfl hl (Nat.le_of_ble_eq_true rfl) (ls_new (ls_old 2 rfl rfl (.inl rfl) ls_nil)) (fun ls hl => ?_)
        refine lv_goto C.1 C.2.1 dX7_isRight_113 rfl ?_
        exact kX7_isRightb127 C hr hin hT hmc  hw H locs ls hS (lv_sub hl [1, 0] rfl)
    · skip
      by_cases h2 : x3 = 3317999
      · have hw := hw.2.2.1 h2
        refine lv_lookup C.1 C.2.1 dX7_isRight_11 rfl (by rw [h2] <;> rfl) rfl ?_
        refine r_aload_n C.1 C.2.1 dX7_isRight_74 rfl (lv_at hl 1 rfl) ?_
        refine r_ldcS C (k := 3) (tx := "lend") (by decide +kernel) dX7_isRight_75 ?_
        refine c_V C hS hmc hl.1 (ci := 17) rfl hw.1 (kJ10_equals C.2.2.2.2.2.2.1) hw.2 (lw_V q1972 q1652 q3534 q81 q1653) ⟨rfl, hdJ10_equals⟩ ⟨Nat.le_of_ble_eq_true rfl, Nat.le_of_ble_eq_true rfl⟩ (rest := []) rfl rfl (Nat.le_of_ble_eq_true rfl) dX7_isRight_77 (fun ci q z H locs hx hS ht => r_out C hS hmc (fun x hx => (hT x hx).elim) ht hx) (fun v z8 H locs hv hS => ?_)
        obtain ⟨x9, rfl, hw⟩ := hv
        refine lv_if_eq C.1 C.2.1 dX7_isRight_80 rfl (fun h => ?_) (fun h => ?_)
        · have hw := hw.1 h
          exact kX7_isRightb127 C hr hin hT hmc  hw H locs ls hS (lv_sub hl [2, 0] rfl)
        · have hw := hw.2 h
          refine lv_iconst C.1 C.2.1 (v := 1) dX7_isRight_83 rfl ?_
          refine r_istore_n C.1 C.2.1 dX7_isRight_84 rfl hl (Nat.le_of_ble_eq_true rfl) (ls_new (ls_old 2 rfl rfl (.inl rfl) ls_nil)) (fun ls hl => ?_)
          refine lv_goto C.1 C.2.1 dX7_isRight_85 rfl ?_
          exact kX7_isRightb127 C hr hin hT hmc  hw H locs ls hS (lv_sub hl [1, 0] rfl)
      · skip
        by_cases h3 : x3 = 3347790
        · have hw := hw.2.2.2.1 h3
          refine lv_lookup C.1 C.2.1 dX7_isRight_11 rfl (by rw [h3] <;> rfl) rfl ?_
          refine r_aload_n C.1 C.2.1 dX7_isRight_88 rfl (lv_at hl 1 rfl) ?_
          refine r_ldcS C (k := 5) (tx := "mend") (by decide +kernel) dX7_isRight_89 ?_
          refine c_V C hS hmc hl.1 (ci := 17) rfl hw.1 (kJ10_equals C.2.2.2.2.2.2.1) hw.2 (lw_V q1972 q1652 q3534 q81 q1653) ⟨rfl, hdJ10_equals⟩ ⟨Nat.le_of_ble_eq_true rfl, Nat.le_of_ble_eq_true rfl⟩ (rest := []) rfl rfl (Nat.le_of_ble_eq_true rfl) dX7_isRight_91 (fun ci q z H locs hx hS ht => r_out C hS hmc (fun x hx => (hT x hx).elim) ht hx) (fun v z10 H locs hv hS => ?_)
          obtain ⟨x11, rfl, hw⟩ := hv
          refine lv_if_eq C.1 C.2.1 dX7_isRight_94 rfl (fun h => ?_) (fun h => ?_)
          · have hw := hw.1 h
            exact kX7_isRightb127 C hr hin hT hmc  hw H locs ls hS (lv_sub hl [2, 0] rfl)
          · have hw := hw.2 h
            refine lv_iconst C.1 C.2.1 (v := 2) dX7_isRight_97 rfl ?_
            refine r_istore_n C.1 C.2.1 dX7_isRight_98 rfl hl (Nat.le_of_ble_eq_true rfl) (ls_new (ls_old 2 rfl rfl (.inl rfl) ls_nil)) (fun ls hl => ?_)
            refine lv_goto C.1 C.2.1 dX7_isRight_99 rfl ?_
            exact kX7_isRightb127 C hr hin hT hmc  hw H locs ls hS (lv_sub hl [1, 0] rfl)
        · skip
          by_cases h4 : x3 = 96667352
          · have hw := hw.2.2.2.2.1 h4
            refine lv_lookup C.1 C.2.1 dX7_isRight_11 rfl (by rw [h4] <;> rfl) rfl ?_
            refine r_aload_n C.1 C.2.1 dX7_isRight_60 rfl (lv_at hl 1 rfl) ?_
            refine r_ldcS C (k := 1) (tx := "enter") (by decide +kernel) dX7_isRight_61 ?_
            refine c_V C hS hmc hl.1 (ci := 17) rfl hw.1 (kJ10_equals C.2.2.2.2.2.2.1) hw.2 (lw_V q1972 q1652 q3534 q81 q1653) ⟨rfl, hdJ10_equals⟩ ⟨Nat.le_of_ble_eq_true rfl, Nat.le_of_ble_eq_true rfl⟩ (rest := []) rfl rfl (Nat.le_of_ble_eq_true rfl) dX7_isRight_63 (fun ci q z H locs hx hS ht => r_out C hS hmc (fun x hx => (hT x hx).elim) ht hx) (fun v z12 H locs hv hS => ?_)
            obtain ⟨x13, rfl, hw⟩ := hv
            refine lv_if_eq C.1 C.2.1 dX7_isRight_66 rfl (fun h => ?_) (fun h => ?_)
            · have hw := hw.1 h
              exact kX7_isRightb127 C hr hin hT hmc  hw H locs ls hS (lv_sub hl [2, 0] rfl)
            · have hw := hw.2 h
              refine lv_iconst C.1 C.2.1 (v := 0) dX7_isRight_69 rfl ?_
              refine r_istore_n C.1 C.2.1 dX7_isRight_70 rfl hl (Nat.le_of_ble_eq_true rfl) (ls_new (ls_old 2 rfl rfl (.inl rfl) ls_nil)) (fun ls hl => ?_)
              refine lv_goto C.1 C.2.1 dX7_isRight_71 rfl ?_
              exact kX7_isRightb127 C hr hin hT hmc  hw H locs ls hS (lv_sub hl [1, 0] rfl)
          · skip
            have hn : x3 ∉ ([(-891986231), 116103, 3317999, 3347790, 96667352] : List Int32) := by simp only [List.mem_cons, List.not_mem_nil, or_false, not_or]; exact ⟨h0, h1, h2, h3, h4⟩
            have hw := hw.2.2.2.2.2 hn
            refine lv_lookup C.1 C.2.1 dX7_isRight_11 rfl (lsw_d _ _ _ (sw_nl [(-891986231), 116103, 3317999, 3347790, 96667352] rfl hn)) rfl ?_
            exact kX7_isRightb127 C hr hin hT hmc  hw H locs ls hS (lv_sub hl [2, 0] rfl)
end
theorem kX7_isRight {l : Launch} (hl : l.stackTraces = false) {G : gE} {P : Int32 → hSt → Prop} {PX : Nat → Nat → hSt → Prop} {v0 : Option Nat} {z : hSt} : cM l G yX7_isRight (ws_ yX7_isRight cX7_isRight 3 (Option.some Jvm.ClassFile.FieldType.boolean)) 12 202 z [va_rf v0] (wX7_isRight G P PX v0 z) (pI P) PX := by
  refine m_of hl (plainFor_of_name (by decide)) (by rw [lg_sl1 (va_rf_cat _)]; exact Nat.le_of_ble_eq_true rfl) ?_
  intro p e s m args below meth c C hr hin hT hmc hw
  rw [lv_args1 (va_rf_cat _)]
  intro H locs ls hS hl
  exact kX7_isRightb0 C hr hin hT hmc hw H locs ls hS (lv_sub hl [0] rfl)
theorem hdX7_isRight : yX7_isRight.cls ≠ "java/lang/invoke/MethodHandle" ∧ yX7_isRight.cls ≠ "java/lang/invoke/VarHandle" ∧ (parseMethodDescriptor yX7_isRight.desc).map (fun d => d.parameters.length) = some 0 := ⟨by decide +kernel, by decide +kernel, by decide +kernel⟩
abbrev rmX7_in (mc ms : Nat) : Room := { frames := 18, cells := mc, slots := ms, locals := 339 }
def wX7_inb203 (G : gE) (P : Int32 → hSt → Prop) (PX : Nat → Nat → hSt → Prop)  (v0 : Option Nat) (v1 : Option Nat) (v3 : Int32) (z : hSt) : Prop :=
  ((v3 = 0 → gtI z v0 [6] 1 (fun x23 => gtR z v0 [6] 2 (fun x24 => gtI z v0 [6] 3 (fun x25 => (rcv z v1 1 ∧ wX2_enter G (fun x27 z26 => P x27 z26) PX v1 x23 x24 x25 z))))) ∧ (v3 = 1 → gtR z v0 [6] 2 (fun x28 => (rcv z v1 1 ∧ wX2_strike G (fun x30 z29 => P x30 z29) PX v1 x28 z))) ∧ (v3 = 2 → gtR z v0 [6] 2 (fun x31 => gtI z v0 [6] 1 (fun x32 => gtI z v0 [6] 3 (fun x33 => (rcv z v1 1 ∧ wX2_lend G (fun x35 z34 => P x35 z34) PX v1 x31 x32 x33 z))))) ∧ (v3 = 3 → gtR z v0 [6] 2 (fun x36 => (rcv z v1 1 ∧ wX2_back G (fun x38 z37 => P x38 z37) PX v1 x36 z))) ∧ (v3 = 4 → gtR z v0 [6] 2 (fun x39 => gtI z v0 [6] 3 (fun x40 => (rcv z v1 1 ∧ wX2_mend G (fun x42 z41 => P x42 z41) PX v1 x39 x40 z)))) ∧ (v3 = 5 → gtI z v0 [6] 1 (fun x43 => gtR z v0 [6] 2 (fun x44 => gtI z v0 [6] 3 (fun x45 => (rcv z v1 1 ∧ wX2_use G (fun x47 z46 => P x47 z46) PX v1 x43 x44 x45 z))))) ∧ (v3 = 6 → gtI z v0 [6] 1 (fun x48 => gtI z v0 [6] 3 (fun x49 => (rcv z v1 1 ∧ wX2_strict G (fun x51 z50 => P x51 z50) PX v1 x48 x49 z)))) ∧ (v3 = 7 → gtI z v0 [6] 3 (fun x52 => (rcv z v1 1 ∧ wX2_weather G (fun x54 z53 => P x54 z53) PX v1 x52 z))) ∧ (v3 ∉ ([0, 1, 2, 3, 4, 5, 6, 7] : List Int32) → (rcv z v1 1 ∧ wX2_day G (fun x56 z55 => P x56 z55) PX v1  z)))
def wX7_inb0 (G : gE) (P : Int32 → hSt → Prop) (PX : Nat → Nat → hSt → Prop)  (v0 : Option Nat) (v1 : Option Nat) (z : hSt) : Prop :=
  (rcv z v0 6 ∧ wX7_isRight G (fun x2 z1 => wX1_checkState G (fun z3 => gtR z3 v0 [6] 0 (fun x4 => (rcv z3 x4 17 ∧ wJ10_hashCode G (fun x6 z5 => ((x6 = (-891986231) → (rcv z5 x4 17 ∧ wJ10_equals G (fun x8 z7 => ((x8 = 0 → wX7_inb203 G P PX  v0 v1 (-1) z7) ∧ (¬ x8 = 0 → wX7_inb203 G P PX  v0 v1 6 z7))) PX x4 (some (gA G 7)) z5)) ∧ (x6 = (-891985998) → (rcv z5 x4 17 ∧ wJ10_equals G (fun x10 z9 => ((x10 = 0 → wX7_inb203 G P PX  v0 v1 (-1) z9) ∧ (¬ x10 = 0 → wX7_inb203 G P PX  v0 v1 1 z9))) PX x4 (some (gA G 2)) z5)) ∧ (x6 = 116103 → (rcv z5 x4 17 ∧ wJ10_equals G (fun x12 z11 => ((x12 = 0 → wX7_inb203 G P PX  v0 v1 (-1) z11) ∧ (¬ x12 = 0 → wX7_inb203 G P PX  v0 v1 5 z11))) PX x4 (some (gA G 6)) z5)) ∧ (x6 = 3015911 → (rcv z5 x4 17 ∧ wJ10_equals G (fun x14 z13 => ((x14 = 0 → wX7_inb203 G P PX  v0 v1 (-1) z13) ∧ (¬ x14 = 0 → wX7_inb203 G P PX  v0 v1 3 z13))) PX x4 (some (gA G 4)) z5)) ∧ (x6 = 3317999 → (rcv z5 x4 17 ∧ wJ10_equals G (fun x16 z15 => ((x16 = 0 → wX7_inb203 G P PX  v0 v1 (-1) z15) ∧ (¬ x16 = 0 → wX7_inb203 G P PX  v0 v1 2 z15))) PX x4 (some (gA G 3)) z5)) ∧ (x6 = 3347790 → (rcv z5 x4 17 ∧ wJ10_equals G (fun x18 z17 => ((x18 = 0 → wX7_inb203 G P PX  v0 v1 (-1) z17) ∧ (¬ x18 = 0 → wX7_inb203 G P PX  v0 v1 4 z17))) PX x4 (some (gA G 5)) z5)) ∧ (x6 = 96667352 → (rcv z5 x4 17 ∧ wJ10_equals G (fun x20 z19 => ((x20 = 0 → wX7_inb203 G P PX  v0 v1 (-1) z19) ∧ (¬ x20 = 0 → wX7_inb203 G P PX  v0 v1 0 z19))) PX x4 (some (gA G 1)) z5)) ∧ (x6 = 1223440372 → (rcv z5 x4 17 ∧ wJ10_equals G (fun x22 z21 => ((x22 = 0 → wX7_inb203 G P PX  v0 v1 (-1) z21) ∧ (¬ x22 = 0 → wX7_inb203 G P PX  v0 v1 7 z21))) PX x4 (some (gA G 8)) z5)) ∧ (x6 ∉ ([(-891986231), (-891985998), 116103, 3015911, 3317999, 3347790, 96667352, 1223440372] : List Int32) → wX7_inb203 G P PX  v0 v1 (-1) z5))) PX x4  z3))) PX x2 z1) PX v0  z)
def wX7_in (G : gE) (P : Int32 → hSt → Prop) (PX : Nat → Nat → hSt → Prop) (v0 : Option Nat) (v1 : Option Nat) (z : hSt) : Prop := wX7_inb0 G P PX v0 v1 z
section
variable {p : Program} {l : Launch} {e : Env} {s : State} {m : MethodId} {args : Array Value} {below : List Frame} {meth : Method} {c : Code} {G : gE} {mc ms : Nat} {P : Int32 → hSt → Prop} {PX : Nat → Nat → hSt → Prop}
theorem kX7_inb203 (C : xC G p l s m args meth c cX7_in 4 "ExcuseLedger$Command") (hr : meth.sig.returnType = (Option.some Jvm.ClassFile.FieldType.int)) (hin : meth.name = "in") (hT : ∀ x ∈ c.exceptionTable.toList, False) (hmc : mc = gL G - s.heap.size ∧ ms = gU G - hsum s.heap)   {v0 : Option Nat} {v1 : Option Nat} {v3 : Int32} {z : hSt} (hw : wX7_inb203 G P PX  v0 v1 v3 z) : kt G p l e (rmX7_in mc ms) s m args below meth c 4 (vx_MQ below (cQ G (pI P)) (cX G PX) args s mc ms (gF G)) 203 [(0, va_rf v0), (1, va_rf v1), (3, .int v3)] [] z := by
  intro H locs ls hS hl
  refine lv_iload_n C.1 C.2.1 dX7_in_203 rfl (lv_at hl 2 rfl) ?_
  refine r_tsw C dX7_in_204 (dt := 372) rfl (tgts := [252, 271, 282, 301, 312, 327, 346, 361]) rfl (Nat.le_of_ble_eq_true rfl) (fun i t ht hx => ?_) (fun ho => ?_)
  · match i, ht, hx with
    | 0, ht, hx =>
      cases ht
      have hw := hw.1 (sw_eq 0 hx rfl)
      refine r_aload_n C.1 C.2.1 dX7_in_252 rfl (lv_at hl 1 rfl) ?_
      refine r_aload_n C.1 C.2.1 dX7_in_253 rfl (lv_at hl 0 rfl) ?_
      refine r_getI C hS fo_6_1 (fl_d C q426) (fun _ h => h) dX7_in_254 hw (fun x23 hw => ?_)
      refine r_aload_n C.1 C.2.1 dX7_in_257 rfl (lv_at hl 0 rfl) ?_
      refine r_getR C hS fo_6_2 (fl_d C q427) (fun _ h => h) dX7_in_258 hw (fun x24 hw => ?_)
      refine r_aload_n C.1 C.2.1 dX7_in_261 rfl (lv_at hl 0 rfl) ?_
      refine r_getI C hS fo_6_3 (fl_d C q428) (fun _ h => h) dX7_in_262 hw (fun x25 hw => ?_)
      refine c_V C hS hmc hl.1 (ci := 1) rfl hw.1 (kX2_enter C.2.2.2.2.2.2.1) hw.2 (lw_V q2013 q2014 q2015 q68 q2016) ⟨rfl, hdX2_enter⟩ ⟨Nat.le_of_ble_eq_true rfl, Nat.le_of_ble_eq_true rfl⟩ (rest := []) rfl rfl (Nat.le_of_ble_eq_true rfl) dX7_in_265 (fun ci q z H locs hx hS ht => r_out C hS hmc (fun x hx => (hT x hx).elim) ht hx) (fun v z26 H locs hv hS => ?_)
      obtain ⟨x27, rfl, hw⟩ := hv
      refine lv_goto C.1 C.2.1 dX7_in_268 rfl ?_
      exact r_iret C hS hmc hr dX7_in_376 hw
    | 1, ht, hx =>
      cases ht
      have hw := hw.2.1 (sw_eq 1 hx rfl)
      refine r_aload_n C.1 C.2.1 dX7_in_271 rfl (lv_at hl 1 rfl) ?_
      refine r_aload_n C.1 C.2.1 dX7_in_272 rfl (lv_at hl 0 rfl) ?_
      refine r_getR C hS fo_6_2 (fl_d C q427) (fun _ h => h) dX7_in_273 hw (fun x28 hw => ?_)
      refine c_V C hS hmc hl.1 (ci := 1) rfl hw.1 (kX2_strike C.2.2.2.2.2.2.1) hw.2 (lw_V q2062 q2063 q2064 q68 q2065) ⟨rfl, hdX2_strike⟩ ⟨Nat.le_of_ble_eq_true rfl, Nat.le_of_ble_eq_true rfl⟩ (rest := []) rfl rfl (Nat.le_of_ble_eq_true rfl) dX7_in_276 (fun ci q z H locs hx hS ht => r_out C hS hmc (fun x hx => (hT x hx).elim) ht hx) (fun v z29 H locs hv hS => ?_)
      obtain ⟨x30, rfl, hw⟩ := hv
      refine lv_goto C.1 C.2.1 dX7_in_279 rfl ?_
      exact r_iret C hS hmc hr dX7_in_376 hw
    | 2, ht, hx =>
      cases ht
      have hw := hw.2.2.1 (sw_eq 2 hx rfl)
      refine r_aload_n C.1 C.2.1 dX7_in_282 rfl (lv_at hl 1 rfl) ?_
      refine r_aload_n C.1 C.2.1 dX7_in_283 rfl (lv_at hl 0 rfl) ?_
      refine r_getR C hS fo_6_2 (fl_d C q427) (fun _ h => h) dX7_in_284 hw (fun x31 hw => ?_)
      refine r_aload_n C.1 C.2.1 dX7_in_287 rfl (lv_at hl 0 rfl) ?_
      refine r_getI C hS fo_6_1 (fl_d C q426) (fun _ h => h) dX7_in_288 hw (fun x32 hw => ?_)
      refine r_aload_n C.1 C.2.1 dX7_in_291 rfl (lv_at hl 0 rfl) ?_
      refine r_getI C hS fo_6_3 (fl_d C q428) (fun _ h => h) dX7_in_292 hw (fun x33 hw => ?_)
      refine c_V C hS hmc hl.1 (ci := 1) rfl hw.1 (kX2_lend C.2.2.2.2.2.2.1) hw.2 (lw_V q2101 q2102 q2103 q68 q2104) ⟨rfl, hdX2_lend⟩ ⟨Nat.le_of_ble_eq_true rfl, Nat.le_of_ble_eq_true rfl⟩ (rest := []) rfl rfl (Nat.le_of_ble_eq_true rfl) dX7_in_295 (fun ci q z H locs hx hS ht => r_out C hS hmc (fun x hx => (hT x hx).elim) ht hx) (fun v z34 H locs hv hS => ?_)
      obtain ⟨x35, rfl, hw⟩ := hv
      refine lv_goto C.1 C.2.1 dX7_in_298 rfl ?_
      exact r_iret C hS hmc hr dX7_in_376 hw
    | 3, ht, hx =>
      cases ht
      have hw := hw.2.2.2.1 (sw_eq 3 hx rfl)
      refine r_aload_n C.1 C.2.1 dX7_in_301 rfl (lv_at hl 1 rfl) ?_
      refine r_aload_n C.1 C.2.1 dX7_in_302 rfl (lv_at hl 0 rfl) ?_
      refine r_getR C hS fo_6_2 (fl_d C q427) (fun _ h => h) dX7_in_303 hw (fun x36 hw => ?_)
      refine c_V C hS hmc hl.1 (ci := 1) rfl hw.1 (kX2_back C.2.2.2.2.2.2.1) hw.2 (lw_V q2105 q2106 q2107 q68 q2108) ⟨rfl, hdX2_back⟩ ⟨Nat.le_of_ble_eq_true rfl, Nat.le_of_ble_eq_true rfl⟩ (rest := []) rfl rfl (Nat.le_of_ble_eq_true rfl) dX7_in_306 (fun ci q z H locs hx hS ht => r_out C hS hmc (fun x hx => (hT x hx).elim) ht hx) (fun v z37 H locs hv hS => ?_)
      obtain ⟨x38, rfl, hw⟩ := hv
      refine lv_goto C.1 C.2.1 dX7_in_309 rfl ?_
      exact r_iret C hS hmc hr dX7_in_376 hw
    | 4, ht, hx =>
      cases ht
      have hw := hw.2.2.2.2.1 (sw_eq 4 hx rfl)
      refine r_aload_n C.1 C.2.1 dX7_in_312 rfl (lv_at hl 1 rfl) ?_
      refine r_aload_n C.1 C.2.1 dX7_in_313 rfl (lv_at hl 0 rfl) ?_
      refine r_getR C hS fo_6_2 (fl_d C q427) (fun _ h => h) dX7_in_314 hw (fun x39 hw => ?_)
      refine r_aload_n C.1 C.2.1 dX7_in_317 rfl (lv_at hl 0 rfl) ?_
      refine r_getI C hS fo_6_3 (fl_d C q428) (fun _ h => h) dX7_in_318 hw (fun x40 hw => ?_)
      refine c_V C hS hmc hl.1 (ci := 1) rfl hw.1 (kX2_mend C.2.2.2.2.2.2.1) hw.2 (lw_V q2113 q2114 q2115 q68 q2116) ⟨rfl, hdX2_mend⟩ ⟨Nat.le_of_ble_eq_true rfl, Nat.le_of_ble_eq_true rfl⟩ (rest := []) rfl rfl (Nat.le_of_ble_eq_true rfl) dX7_in_321 (fun ci q z H locs hx hS ht => r_out C hS hmc (fun x hx => (hT x hx).elim) ht hx) (fun v z41 H locs hv hS => ?_)
      obtain ⟨x42, rfl, hw⟩ := hv
      refine lv_goto C.1 C.2.1 dX7_in_324 rfl ?_
      exact r_iret C hS hmc hr dX7_in_376 hw
    | 5, ht, hx =>
      cases ht
      have hw := hw.2.2.2.2.2.1 (sw_eq 5 hx rfl)
      refine r_aload_n C.1 C.2.1 dX7_in_327 rfl (lv_at hl 1 rfl) ?_
      refine r_aload_n C.1 C.2.1 dX7_in_328 rfl (lv_at hl 0 rfl) ?_
      refine r_getI C hS fo_6_1 (fl_d C q426) (fun _ h => h) dX7_in_329 hw (fun x43 hw => ?_)
      refine r_aload_n C.1 C.2.1 dX7_in_332 rfl (lv_at hl 0 rfl) ?_
      refine r_getR C hS fo_6_2 (fl_d C q427) (fun _ h => h) dX7_in_333 hw (fun x44 hw => ?_)
      refine r_aload_n C.1 C.2.1 dX7_in_336 rfl (lv_at hl 0 rfl) ?_
      refine r_getI C hS fo_6_3 (fl_d C q428) (fun _ h => h) dX7_in_337 hw (fun x45 hw => ?_)
      refine c_V C hS hmc hl.1 (ci := 1) rfl hw.1 (kX2_use C.2.2.2.2.2.2.1) hw.2 (lw_V q2117 q2118 q2119 q68 q2120) ⟨rfl, hdX2_use⟩ ⟨Nat.le_of_ble_eq_true rfl, Nat.le_of_ble_eq_true rfl⟩ (rest := []) rfl rfl (Nat.le_of_ble_eq_true rfl) dX7_in_340 (fun ci q z H locs hx hS ht => r_out C hS hmc (fun x hx => (hT x hx).elim) ht hx) (fun v z46 H locs hv hS => ?_)
      obtain ⟨x47, rfl, hw⟩ := hv
      refine lv_goto C.1 C.2.1 dX7_in_343 rfl ?_
      exact r_iret C hS hmc hr dX7_in_376 hw
    | 6, ht, hx =>
      cases ht
      have hw := hw.2.2.2.2.2.2.1 (sw_eq 6 hx rfl)
      refine r_aload_n C.1 C.2.1 dX7_in_346 rfl (lv_at hl 1 rfl) ?_
      refine r_aload_n C.1 C.2.1 dX7_in_347 rfl (lv_at hl 0 rfl) ?_
      refine r_getI C hS fo_6_1 (fl_d C q426) (fun _ h => h) dX7_in_348 hw (fun x48 hw => ?_)
      refine r_aload_n C.1 C.2.1 dX7_in_351 rfl (lv_at hl 0 rfl) ?_
      refine r_getI C hS fo_6_3 (fl_d C q428) (fun _ h => h) dX7_in_352 hw (fun x49 hw => ?_)
      refine c_V C hS hmc hl.1 (ci := 1) rfl hw.1 (kX2_strict C.2.2.2.2.2.2.1) hw.2 (lw_V q2207 q2208 q2209 q68 q2210) ⟨rfl, hdX2_strict⟩ ⟨Nat.le_of_ble_eq_true rfl, Nat.le_of_ble_eq_true rfl⟩ (rest := []) rfl rfl (Nat.le_of_ble_eq_true rfl) dX7_in_355 (fun ci q z H locs hx hS ht => r_out C hS hmc (fun x hx => (hT x hx).elim) ht hx) (fun v z50 H locs hv hS => ?_)
      obtain ⟨x51, rfl, hw⟩ := hv
      refine lv_goto C.1 C.2.1 dX7_in_358 rfl ?_
      exact r_iret C hS hmc hr dX7_in_376 hw
    | 7, ht, hx =>
      cases ht
      have hw := hw.2.2.2.2.2.2.2.1 (sw_eq 7 hx rfl)
      refine r_aload_n C.1 C.2.1 dX7_in_361 rfl (lv_at hl 1 rfl) ?_
      refine r_aload_n C.1 C.2.1 dX7_in_362 rfl (lv_at hl 0 rfl) ?_
      refine r_getI C hS fo_6_3 (fl_d C q428) (fun _ h => h) dX7_in_363 hw (fun x52 hw => ?_)
      refine c_V C hS hmc hl.1 (ci := 1) rfl hw.1 (kX2_weather C.2.2.2.2.2.2.1) hw.2 (lw_V q2211 q2212 q2213 q68 q2214) ⟨rfl, hdX2_weather⟩ ⟨Nat.le_of_ble_eq_true rfl, Nat.le_of_ble_eq_true rfl⟩ (rest := []) rfl rfl (Nat.le_of_ble_eq_true rfl) dX7_in_366 (fun ci q z H locs hx hS ht => r_out C hS hmc (fun x hx => (hT x hx).elim) ht hx) (fun v z53 H locs hv hS => ?_)
      obtain ⟨x54, rfl, hw⟩ := hv
      refine lv_goto C.1 C.2.1 dX7_in_369 rfl ?_
      exact r_iret C hS hmc hr dX7_in_376 hw
    | i + 8, ht, hx => exact nomatch ht
  · have hw := hw.2.2.2.2.2.2.2.2 (sw_out ho (by decide))
    refine r_aload_n C.1 C.2.1 dX7_in_372 rfl (lv_at hl 1 rfl) ?_
    refine c_V C hS hmc hl.1 (ci := 1) rfl hw.1 (kX2_day C.2.2.2.2.2.2.1) hw.2 (lw_V q2215 q2216 q2217 q68 q2218) ⟨rfl, hdX2_day⟩ ⟨Nat.le_of_ble_eq_true rfl, Nat.le_of_ble_eq_true rfl⟩ (rest := []) rfl rfl (Nat.le_of_ble_eq_true rfl) dX7_in_373 (fun ci q z H locs hx hS ht => r_out C hS hmc (fun x hx => (hT x hx).elim) ht hx) (fun v z55 H locs hv hS => ?_)
    obtain ⟨x56, rfl, hw⟩ := hv
    exact r_iret C hS hmc hr dX7_in_376 hw
theorem kX7_inb0 (C : xC G p l s m args meth c cX7_in 4 "ExcuseLedger$Command") (hr : meth.sig.returnType = (Option.some Jvm.ClassFile.FieldType.int)) (hin : meth.name = "in") (hT : ∀ x ∈ c.exceptionTable.toList, False) (hmc : mc = gL G - s.heap.size ∧ ms = gU G - hsum s.heap)   {v0 : Option Nat} {v1 : Option Nat} {z : hSt} (hw : wX7_inb0 G P PX  v0 v1 z) : kt G p l e (rmX7_in mc ms) s m args below meth c 4 (vx_MQ below (cQ G (pI P)) (cX G PX) args s mc ms (gF G)) 0 [(0, va_rf v0), (1, va_rf v1)] [] z := by
  intro H locs ls hS hl
  refine r_aload_n C.1 C.2.1 dX7_in_0 rfl (lv_at hl 0 rfl) ?_
  refine c_V C hS hmc hl.1 (ci := 6) rfl hw.1 (kX7_isRight C.2.2.2.2.2.2.1) hw.2 (lw_V q1966 q1968 qs7 q91 q1969) ⟨rfl, hdX7_isRight⟩ ⟨Nat.le_of_ble_eq_true rfl, Nat.le_of_ble_eq_true rfl⟩ (rest := []) rfl rfl (Nat.le_of_ble_eq_true rfl) dX7_in_1 (fun ci q z H locs hx hS ht => r_out C hS hmc (fun x hx => (hT x hx).elim) ht hx) (fun v z1 H locs hv hS => ?_)
  obtain ⟨x2, rfl, hw⟩ := hv
  refine c_SN C hS hmc hl.1 (kX1_checkState C.2.2.2.2.2.2.1) hw q1994 q1992 q67 q1993 hdX1_checkState ⟨Nat.le_of_ble_eq_true rfl, Nat.le_of_ble_eq_true rfl⟩ (rest := []) rfl rfl (Nat.le_of_ble_eq_true rfl) dX7_in_4 (fun ci q z H locs hx hS ht => r_out C hS hmc (fun x hx => (hT x hx).elim) ht hx) (fun v z3 H locs hv hS => ?_)
  obtain ⟨rfl, hw⟩ := hv
  refine r_aload_n C.1 C.2.1 dX7_in_7 rfl (lv_at hl 0 rfl) ?_
  refine r_getR C hS fo_6_0 (fl_d C q425) (fun _ h => h) dX7_in_8 hw (fun x4 hw => ?_)
  refine r_astore_n C.1 C.2.1 dX7_in_11 rfl hl (Nat.le_of_ble_eq_true rfl) (ls_new (ls_old 0 rfl rfl (.inl rfl) (ls_old 1 rfl rfl (.inr (va_rf_cat _)) ls_nil))) (fun ls hl => ?_)
  refine lv_iconst C.1 C.2.1 (v := (-1)) dX7_in_12 rfl ?_
  refine r_istore_n C.1 C.2.1 dX7_in_13 rfl hl (Nat.le_of_ble_eq_true rfl) (ls_new (ls_old 0 rfl rfl (.inr (va_rf_cat _)) (ls_old 1 rfl rfl (.inl rfl) (ls_old 2 rfl rfl (.inl rfl) ls_nil)))) (fun ls hl => ?_)
  refine r_aload_n C.1 C.2.1 dX7_in_14 rfl (lv_at hl 1 rfl) ?_
  refine c_V C hS hmc hl.1 (ci := 17) rfl hw.1 (kJ10_hashCode C.2.2.2.2.2.2.1) hw.2 (lw_V q1970 q938 q3533 q81 q939) ⟨rfl, hdJ10_hashCode⟩ ⟨Nat.le_of_ble_eq_true rfl, Nat.le_of_ble_eq_true rfl⟩ (rest := []) rfl rfl (Nat.le_of_ble_eq_true rfl) dX7_in_15 (fun ci q z H locs hx hS ht => r_out C hS hmc (fun x hx => (hT x hx).elim) ht hx) (fun v z5 H locs hv hS => ?_)
  obtain ⟨x6, rfl, hw⟩ := hv
  by_cases h0 : x6 = (-891986231)
  · have hw := hw.1 h0
    refine lv_lookup C.1 C.2.1 dX7_in_18 rfl (by rw [h0] <;> rfl) rfl ?_
    refine r_aload_n C.1 C.2.1 dX7_in_176 rfl (lv_at hl 1 rfl) ?_
    refine r_ldcS C (k := 7) (tx := "strict") (by decide +kernel) dX7_in_177 ?_
    refine c_V C hS hmc hl.1 (ci := 17) rfl hw.1 (kJ10_equals C.2.2.2.2.2.2.1) hw.2 (lw_V q1972 q1652 q3534 q81 q1653) ⟨rfl, hdJ10_equals⟩ ⟨Nat.le_of_ble_eq_true rfl, Nat.le_of_ble_eq_true rfl⟩ (rest := []) rfl rfl (Nat.le_of_ble_eq_true rfl) dX7_in_179 (fun ci q z H locs hx hS ht => r_out C hS hmc (fun x hx => (hT x hx).elim) ht hx) (fun v z7 H locs hv hS => ?_)
    obtain ⟨x8, rfl, hw⟩ := hv
    refine lv_if_eq C.1 C.2.1 dX7_in_182 rfl (fun h => ?_) (fun h => ?_)
    · have hw := hw.1 h
      exact kX7_inb203 C hr hin hT hmc  hw H locs ls hS (lv_sub hl [2, 3, 0] rfl)
    · have hw := hw.2 h
      refine lv_bipush C.1 C.2.1 (v := 6) dX7_in_185 rfl ?_
      refine r_istore_n C.1 C.2.1 dX7_in_187 rfl hl (Nat.le_of_ble_eq_true rfl) (ls_new (ls_old 2 rfl rfl (.inl rfl) (ls_old 3 rfl rfl (.inl rfl) ls_nil))) (fun ls hl => ?_)
      refine lv_goto C.1 C.2.1 dX7_in_188 rfl ?_
      exact kX7_inb203 C hr hin hT hmc  hw H locs ls hS (lv_sub hl [1, 2, 0] rfl)
  · skip
    by_cases h1 : x6 = (-891985998)
    · have hw := hw.2.1 h1
      refine lv_lookup C.1 C.2.1 dX7_in_18 rfl (by rw [h1] <;> rfl) rfl ?_
      refine r_aload_n C.1 C.2.1 dX7_in_106 rfl (lv_at hl 1 rfl) ?_
      refine r_ldcS C (k := 2) (tx := "strike") (by decide +kernel) dX7_in_107 ?_
      refine c_V C hS hmc hl.1 (ci := 17) rfl hw.1 (kJ10_equals C.2.2.2.2.2.2.1) hw.2 (lw_V q1972 q1652 q3534 q81 q1653) ⟨rfl, hdJ10_equals⟩ ⟨Nat.le_of_ble_eq_true rfl, Nat.le_of_ble_eq_true rfl⟩ (rest := []) rfl rfl (Nat.le_of_ble_eq_true rfl) dX7_in_109 (fun ci q z H locs hx hS ht => r_out C hS hmc (fun x hx => (hT x hx).elim) ht hx) (fun v z9 H locs hv hS => ?_)
      obtain ⟨x10, rfl, hw⟩ := hv
      refine lv_if_eq C.1 C.2.1 dX7_in_112 rfl (fun h => ?_) (fun h => ?_)
      · have hw := hw.1 h
        exact kX7_inb203 C hr hin hT hmc  hw H locs ls hS (lv_sub hl [2, 3, 0] rfl)
      · have hw := hw.2 h
        refine lv_iconst C.1 C.2.1 (v := 1) dX7_in_115 rfl ?_
        refine r_istore_n C.1 C.2.1 dX7_in_116 rfl hl (Nat.le_of_ble_eq_true rfl) (ls_new (ls_old 2 rfl rfl (.inl rfl) (ls_old 3 rfl rfl (.inl rfl) ls_nil))) (fun ls hl => ?_)
        refine lv_goto C.1 C.2.1 dX7_in_117 rfl ?_
        exact kX7_inb203 C hr hin hT hmc  hw H locs ls hS (lv_sub hl [1, 2, 0] rfl)
    · skip
      by_cases h2 : x6 = 116103
      · have hw := hw.2.2.1 h2
        refine lv_lookup C.1 C.2.1 dX7_in_18 rfl (by rw [h2] <;> rfl) rfl ?_
        refine r_aload_n C.1 C.2.1 dX7_in_162 rfl (lv_at hl 1 rfl) ?_
        refine r_ldcS C (k := 6) (tx := "use") (by decide +kernel) dX7_in_163 ?_
        refine c_V C hS hmc hl.1 (ci := 17) rfl hw.1 (kJ10_equals C.2.2.2.2.2.2.1) hw.2 (lw_V q1972 q1652 q3534 q81 q1653) ⟨rfl, hdJ10_equals⟩ ⟨Nat.le_of_ble_eq_true rfl, Nat.le_of_ble_eq_true rfl⟩ (rest := []) rfl rfl (Nat.le_of_ble_eq_true rfl) dX7_in_165 (fun ci q z H locs hx hS ht => r_out C hS hmc (fun x hx => (hT x hx).elim) ht hx) (fun v z11 H locs hv hS => ?_)
        obtain ⟨x12, rfl, hw⟩ := hv
        refine lv_if_eq C.1 C.2.1 dX7_in_168 rfl (fun h => ?_) (fun h => ?_)
        · have hw := hw.1 h
          exact kX7_inb203 C hr hin hT hmc  hw H locs ls hS (lv_sub hl [2, 3, 0] rfl)
        · have hw := hw.2 h
          refine lv_iconst C.1 C.2.1 (v := 5) dX7_in_171 rfl ?_
          refine r_istore_n C.1 C.2.1 dX7_in_172 rfl hl (Nat.le_of_ble_eq_true rfl) (ls_new (ls_old 2 rfl rfl (.inl rfl) (ls_old 3 rfl rfl (.inl rfl) ls_nil))) (fun ls hl => ?_)
          refine lv_goto C.1 C.2.1 dX7_in_173 rfl ?_
          exact kX7_inb203 C hr hin hT hmc  hw H locs ls hS (lv_sub hl [1, 2, 0] rfl)
      · skip
        by_cases h3 : x6 = 3015911
        · have hw := hw.2.2.2.1 h3
          refine lv_lookup C.1 C.2.1 dX7_in_18 rfl (by rw [h3] <;> rfl) rfl ?_
          refine r_aload_n C.1 C.2.1 dX7_in_134 rfl (lv_at hl 1 rfl) ?_
          refine r_ldcS C (k := 4) (tx := "back") (by decide +kernel) dX7_in_135 ?_
          refine c_V C hS hmc hl.1 (ci := 17) rfl hw.1 (kJ10_equals C.2.2.2.2.2.2.1) hw.2 (lw_V q1972 q1652 q3534 q81 q1653) ⟨rfl, hdJ10_equals⟩ ⟨Nat.le_of_ble_eq_true rfl, Nat.le_of_ble_eq_true rfl⟩ (rest := []) rfl rfl (Nat.le_of_ble_eq_true rfl) dX7_in_137 (fun ci q z H locs hx hS ht => r_out C hS hmc (fun x hx => (hT x hx).elim) ht hx) (fun v z13 H locs hv hS => ?_)
          obtain ⟨x14, rfl, hw⟩ := hv
          refine lv_if_eq C.1 C.2.1 dX7_in_140 rfl (fun h => ?_) (fun h => ?_)
          · have hw := hw.1 h
            exact kX7_inb203 C hr hin hT hmc  hw H locs ls hS (lv_sub hl [2, 3, 0] rfl)
          · have hw := hw.2 h
            refine lv_iconst C.1 C.2.1 (v := 3) dX7_in_143 rfl ?_
            refine r_istore_n C.1 C.2.1 dX7_in_144 rfl hl (Nat.le_of_ble_eq_true rfl) (ls_new (ls_old 2 rfl rfl (.inl rfl) (ls_old 3 rfl rfl (.inl rfl) ls_nil))) (fun ls hl => ?_)
            refine lv_goto C.1 C.2.1 dX7_in_145 rfl ?_
            exact kX7_inb203 C hr hin hT hmc  hw H locs ls hS (lv_sub hl [1, 2, 0] rfl)
        · skip
          by_cases h4 : x6 = 3317999
          · have hw := hw.2.2.2.2.1 h4
            refine lv_lookup C.1 C.2.1 dX7_in_18 rfl (by rw [h4] <;> rfl) rfl ?_
            refine r_aload_n C.1 C.2.1 dX7_in_120 rfl (lv_at hl 1 rfl) ?_
            refine r_ldcS C (k := 3) (tx := "lend") (by decide +kernel) dX7_in_121 ?_
            refine c_V C hS hmc hl.1 (ci := 17) rfl hw.1 (kJ10_equals C.2.2.2.2.2.2.1) hw.2 (lw_V q1972 q1652 q3534 q81 q1653) ⟨rfl, hdJ10_equals⟩ ⟨Nat.le_of_ble_eq_true rfl, Nat.le_of_ble_eq_true rfl⟩ (rest := []) rfl rfl (Nat.le_of_ble_eq_true rfl) dX7_in_123 (fun ci q z H locs hx hS ht => r_out C hS hmc (fun x hx => (hT x hx).elim) ht hx) (fun v z15 H locs hv hS => ?_)
            obtain ⟨x16, rfl, hw⟩ := hv
            refine lv_if_eq C.1 C.2.1 dX7_in_126 rfl (fun h => ?_) (fun h => ?_)
            · have hw := hw.1 h
              exact kX7_inb203 C hr hin hT hmc  hw H locs ls hS (lv_sub hl [2, 3, 0] rfl)
            · have hw := hw.2 h
              refine lv_iconst C.1 C.2.1 (v := 2) dX7_in_129 rfl ?_
              refine r_istore_n C.1 C.2.1 dX7_in_130 rfl hl (Nat.le_of_ble_eq_true rfl) (ls_new (ls_old 2 rfl rfl (.inl rfl) (ls_old 3 rfl rfl (.inl rfl) ls_nil))) (fun ls hl => ?_)
              refine lv_goto C.1 C.2.1 dX7_in_131 rfl ?_
              exact kX7_inb203 C hr hin hT hmc  hw H locs ls hS (lv_sub hl [1, 2, 0] rfl)
          · skip
            by_cases h5 : x6 = 3347790
            · have hw := hw.2.2.2.2.2.1 h5
              refine lv_lookup C.1 C.2.1 dX7_in_18 rfl (by rw [h5] <;> rfl) rfl ?_
              refine r_aload_n C.1 C.2.1 dX7_in_148 rfl (lv_at hl 1 rfl) ?_
              refine r_ldcS C (k := 5) (tx := "mend") (by decide +kernel) dX7_in_149 ?_
              refine c_V C hS hmc hl.1 (ci := 17) rfl hw.1 (kJ10_equals C.2.2.2.2.2.2.1) hw.2 (lw_V q1972 q1652 q3534 q81 q1653) ⟨rfl, hdJ10_equals⟩ ⟨Nat.le_of_ble_eq_true rfl, Nat.le_of_ble_eq_true rfl⟩ (rest := []) rfl rfl (Nat.le_of_ble_eq_true rfl) dX7_in_151 (fun ci q z H locs hx hS ht => r_out C hS hmc (fun x hx => (hT x hx).elim) ht hx) (fun v z17 H locs hv hS => ?_)
              obtain ⟨x18, rfl, hw⟩ := hv
              refine lv_if_eq C.1 C.2.1 dX7_in_154 rfl (fun h => ?_) (fun h => ?_)
              · have hw := hw.1 h
                exact kX7_inb203 C hr hin hT hmc  hw H locs ls hS (lv_sub hl [2, 3, 0] rfl)
              · have hw := hw.2 h
                refine lv_iconst C.1 C.2.1 (v := 4) dX7_in_157 rfl ?_
                refine r_istore_n C.1 C.2.1 dX7_in_158 rfl hl (Nat.le_of_ble_eq_true rfl) (ls_new (ls_old 2 rfl rfl (.inl rfl) (ls_old 3 rfl rfl (.inl rfl) ls_nil))) (fun ls hl => ?_)
                refine lv_goto C.1 C.2.1 dX7_in_159 rfl ?_
                exact kX7_inb203 C hr hin hT hmc  hw H locs ls hS (lv_sub hl [1, 2, 0] rfl)
            · skip
              by_cases h6 : x6 = 96667352
              · have hw := hw.2.2.2.2.2.2.1 h6
                refine lv_lookup C.1 C.2.1 dX7_in_18 rfl (by rw [h6] <;> rfl) rfl ?_
                refine r_aload_n C.1 C.2.1 dX7_in_92 rfl (lv_at hl 1 rfl) ?_
                refine r_ldcS C (k := 1) (tx := "enter") (by decide +kernel) dX7_in_93 ?_
                refine c_V C hS hmc hl.1 (ci := 17) rfl hw.1 (kJ10_equals C.2.2.2.2.2.2.1) hw.2 (lw_V q1972 q1652 q3534 q81 q1653) ⟨rfl, hdJ10_equals⟩ ⟨Nat.le_of_ble_eq_true rfl, Nat.le_of_ble_eq_true rfl⟩ (rest := []) rfl rfl (Nat.le_of_ble_eq_true rfl) dX7_in_95 (fun ci q z H locs hx hS ht => r_out C hS hmc (fun x hx => (hT x hx).elim) ht hx) (fun v z19 H locs hv hS => ?_)
                obtain ⟨x20, rfl, hw⟩ := hv
                refine lv_if_eq C.1 C.2.1 dX7_in_98 rfl (fun h => ?_) (fun h => ?_)
                · have hw := hw.1 h
                  exact kX7_inb203 C hr hin hT hmc  hw H locs ls hS (lv_sub hl [2, 3, 0] rfl)
                · have hw := hw.2 h
                  refine lv_iconst C.1 C.2.1 (v := 0) dX7_in_101 rfl ?_
                  refine r_istore_n C.1 C.2.1 dX7_in_102 rfl hl (Nat.le_of_ble_eq_true rfl) (ls_new (ls_old 2 rfl rfl (.inl rfl) (ls_old 3 rfl rfl (.inl rfl) ls_nil))) (fun ls hl => ?_)
                  refine lv_goto C.1 C.2.1 dX7_in_103 rfl ?_
                  exact kX7_inb203 C hr hin hT hmc  hw H locs ls hS (lv_sub hl [1, 2, 0] rfl)
              · skip
                by_cases h7 : x6 = 1223440372
                · have hw := hw.2.2.2.2.2.2.2.1 h7
                  refine lv_lookup C.1 C.2.1 dX7_in_18 rfl (by rw [h7] <;> rfl) rfl ?_
                  refine r_aload_n C.1 C.2.1 dX7_in_191 rfl (lv_at hl 1 rfl) ?_
                  refine r_ldcS C (k := 8) (tx := "weather") (by decide +kernel) dX7_in_192 ?_
                  refine c_V C hS hmc hl.1 (ci := 17) rfl hw.1 (kJ10_equals C.2.2.2.2.2.2.1) hw.2 (lw_V q1972 q1652 q3534 q81 q1653) ⟨rfl, hdJ10_equals⟩ ⟨Nat.le_of_ble_eq_true rfl, Nat.le_of_ble_eq_true rfl⟩ (rest := []) rfl rfl (Nat.le_of_ble_eq_true rfl) dX7_in_194 (fun ci q z H locs hx hS ht => r_out C hS hmc (fun x hx => (hT x hx).elim) ht hx) (fun v z21 H locs hv hS => ?_)
                  obtain ⟨x22, rfl, hw⟩ := hv
                  refine lv_if_eq C.1 C.2.1 dX7_in_197 rfl (fun h => ?_) (fun h => ?_)
                  · have hw := hw.1 h
                    exact kX7_inb203 C hr hin hT hmc  hw H locs ls hS (lv_sub hl [2, 3, 0] rfl)
                  · have hw := hw.2 h
                    refine lv_bipush C.1 C.2.1 (v := 7) dX7_in_200 rfl ?_
                    refine r_istore_n C.1 C.2.1 dX7_in_202 rfl hl (Nat.le_of_ble_eq_true rfl) (ls_new (ls_old 2 rfl rfl (.inl rfl) (ls_old 3 rfl rfl (.inl rfl) ls_nil))) (fun ls hl => ?_)
                    exact kX7_inb203 C hr hin hT hmc  hw H locs ls hS (lv_sub hl [1, 2, 0] rfl)
                · skip
                  have hn : x6 ∉ ([(-891986231), (-891985998), 116103, 3015911, 3317999, 3347790, 96667352, 1223440372] : List Int32) := by simp only [List.mem_cons, List.not_mem_nil, or_false, not_or]; exact ⟨h0, h1, h2, h3, h4, h5, h6, h7⟩
                  have hw := hw.2.2.2.2.2.2.2.2 hn
                  refine lv_lookup C.1 C.2.1 dX7_in_18 rfl (lsw_d _ _ _ (sw_nl [(-891986231), (-891985998), 116103, 3015911, 3317999, 3347790, 96667352, 1223440372] rfl hn)) rfl ?_
                  exact kX7_inb203 C hr hin hT hmc  hw H locs ls hS (lv_sub hl [2, 3, 0] rfl)
end
theorem kX7_in {l : Launch} (hl : l.stackTraces = false) {G : gE} {P : Int32 → hSt → Prop} {PX : Nat → Nat → hSt → Prop} {v0 : Option Nat} {v1 : Option Nat} {z : hSt} : cM l G yX7_in (ws_ yX7_in cX7_in 4 (Option.some Jvm.ClassFile.FieldType.int)) 18 339 z [va_rf v0, va_rf v1] (wX7_in G P PX v0 v1 z) (pI P) PX := by
  refine m_of hl (plainFor_of_name (by decide)) (by rw [lg_sl1 (va_rf_cat _), lg_sl1 (va_rf_cat _)]; exact Nat.le_of_ble_eq_true rfl) ?_
  intro p e s m args below meth c C hr hin hT hmc hw
  rw [lv_args1 (va_rf_cat _), lv_args1 (va_rf_cat _)]
  intro H locs ls hS hl
  exact kX7_inb0 C hr hin hT hmc hw H locs ls hS (lv_sub hl [0, 1] rfl)
theorem hdX7_in : yX7_in.cls ≠ "java/lang/invoke/MethodHandle" ∧ yX7_in.cls ≠ "java/lang/invoke/VarHandle" ∧ (parseMethodDescriptor yX7_in.desc).map (fun d => d.parameters.length) = some 1 := ⟨by decide +kernel, by decide +kernel, by decide +kernel⟩
abbrev rmX7_init (mc ms : Nat) : Room := { frames := 10, cells := mc, slots := ms, locals := 160 }
def wX7_initb0 (G : gE) (P : hSt → Prop) (PX : Nat → Nat → hSt → Prop)  (v0 : Option Nat) (v1 : Option Nat) (v2 : Int32) (v3 : Option Nat) (v4 : Int32) (z : hSt) : Prop :=
  (nnl v0 ∧ ptV G z v0 [6] 0 (va_rf v1) (fun z1 => ptV G z1 v0 [6] 1 (.int v2) (fun z2 => ptV G z2 v0 [6] 2 (va_rf v3) (fun z3 => ptV G z3 v0 [6] 3 (.int v4) (fun z4 => P z4)))))
def wX7_init (G : gE) (P : hSt → Prop) (PX : Nat → Nat → hSt → Prop) (v0 : Option Nat) (v1 : Option Nat) (v2 : Int32) (v3 : Option Nat) (v4 : Int32) (z : hSt) : Prop := wX7_initb0 G P PX v0 v1 v2 v3 v4 z
section
variable {p : Program} {l : Launch} {e : Env} {s : State} {m : MethodId} {args : Array Value} {below : List Frame} {meth : Method} {c : Code} {G : gE} {mc ms : Nat} {P : hSt → Prop} {PX : Nat → Nat → hSt → Prop}
theorem kX7_initb0 (C : xC G p l s m args meth c cX7_init 5 "ExcuseLedger$Command") (hr : meth.sig.returnType = (Option.none : Option Jvm.ClassFile.FieldType)) (hin : meth.name = "<init>") (hT : ∀ x ∈ c.exceptionTable.toList, False) (hmc : mc = gL G - s.heap.size ∧ ms = gU G - hsum s.heap)   {v0 : Option Nat} {v1 : Option Nat} {v2 : Int32} {v3 : Option Nat} {v4 : Int32} {z : hSt} (hw : wX7_initb0 G P PX  v0 v1 v2 v3 v4 z) : kt G p l e (rmX7_init mc ms) s m args below meth c 5 (vx_MQ below (cQ G (pV P)) (cX G PX) args s mc ms (gF G)) 0 [(0, va_rf v0), (1, va_rf v1), (2, .int v2), (3, va_rf v3), (4, .int v4)] [] z := by
  intro H locs ls hS hl
  refine r_aload_n C.1 C.2.1 dX7_init_0 rfl (lv_at hl 0 rfl) ?_
  refine r_objInit C hl.1 hw.1 q424 q140 q141 rfl dX7_init_1 (Nat.le_of_ble_eq_true rfl) (Nat.le_of_ble_eq_true rfl) ?_
  have hw := hw.2
  refine r_aload_n C.1 C.2.1 dX7_init_4 rfl (lv_at hl 0 rfl) ?_
  refine r_aload_n C.1 C.2.1 dX7_init_5 rfl (lv_at hl 1 rfl) ?_
  refine r_putF C hS fo_6_0 (C.2.2.2.2.1 _ q425) (fun _ h => h) hin rfl (narrow_rfO _ _) (fits_rfO _ _) dX7_init_6 hw (fun z1 H locs hw hS => ?_)
  refine r_aload_n C.1 C.2.1 dX7_init_9 rfl (lv_at hl 0 rfl) ?_
  refine lv_iload_n C.1 C.2.1 dX7_init_10 rfl (lv_at hl 2 rfl) ?_
  refine r_putF C hS fo_6_1 (C.2.2.2.2.1 _ q426) (fun _ h => h) hin rfl rfl rfl dX7_init_11 hw (fun z2 H locs hw hS => ?_)
  refine r_aload_n C.1 C.2.1 dX7_init_14 rfl (lv_at hl 0 rfl) ?_
  refine r_aload_n C.1 C.2.1 dX7_init_15 rfl (lv_at hl 3 rfl) ?_
  refine r_putF C hS fo_6_2 (C.2.2.2.2.1 _ q427) (fun _ h => h) hin rfl (narrow_rfO _ _) (fits_rfO _ _) dX7_init_16 hw (fun z3 H locs hw hS => ?_)
  refine r_aload_n C.1 C.2.1 dX7_init_19 rfl (lv_at hl 0 rfl) ?_
  refine lv_iload C.1 C.2.1 dX7_init_20 (lv_at hl 4 rfl) ?_
  refine r_putF C hS fo_6_3 (C.2.2.2.2.1 _ q428) (fun _ h => h) hin rfl rfl rfl dX7_init_22 hw (fun z4 H locs hw hS => ?_)
  exact r_vret C hS hmc hr dX7_init_25 hw
end
theorem kX7_init {l : Launch} (hl : l.stackTraces = false) {G : gE} {P : hSt → Prop} {PX : Nat → Nat → hSt → Prop} {v0 : Option Nat} {v1 : Option Nat} {v2 : Int32} {v3 : Option Nat} {v4 : Int32} {z : hSt} : cM l G yX7_init (ws_ yX7_init cX7_init 5 (Option.none : Option Jvm.ClassFile.FieldType)) 10 160 z [va_rf v0, va_rf v1, .int v2, va_rf v3, .int v4] (wX7_init G P PX v0 v1 v2 v3 v4 z) (pV P) PX := by
  refine m_of hl (plainFor_of_name (by decide)) (by rw [lg_sl1 (va_rf_cat _), lg_sl1 (va_rf_cat _), lg_sl1 rfl, lg_sl1 (va_rf_cat _), lg_sl1 rfl]; exact Nat.le_of_ble_eq_true rfl) ?_
  intro p e s m args below meth c C hr hin hT hmc hw
  rw [lv_args1 (va_rf_cat _), lv_args1 (va_rf_cat _), lv_args1 rfl, lv_args1 (va_rf_cat _), lv_args1 rfl]
  intro H locs ls hS hl
  exact kX7_initb0 C hr hin hT hmc hw H locs ls hS (lv_sub hl [0, 1, 2, 3, 4] rfl)
theorem hdX7_init : yX7_init.cls ≠ "java/lang/invoke/MethodHandle" ∧ yX7_init.cls ≠ "java/lang/invoke/VarHandle" ∧ (parseMethodDescriptor yX7_init.desc).map (fun d => d.parameters.length) = some 4 := ⟨by decide +kernel, by decide +kernel, by decide +kernel⟩
abbrev rmX1_command (mc ms : Nat) : Room := { frames := 11, cells := mc, slots := ms, locals := 184 }
def wX1_commandb0 (G : gE) (P : Option Nat → hSt → Prop) (PX : Nat → Nat → hSt → Prop)  (v0 : Option Nat) (v1 : Int32) (v2 : Option Nat) (v3 : Int32) (z : hSt) : Prop :=
  nwO G z 6 4 dfX7 (fun x1 z2 => (nnl (some x1) ∧ wX7_init G (fun z3 => P (some x1) z3) PX (some x1) v0 v1 v2 v3 z2))
def wX1_command (G : gE) (P : Option Nat → hSt → Prop) (PX : Nat → Nat → hSt → Prop) (v0 : Option Nat) (v1 : Int32) (v2 : Option Nat) (v3 : Int32) (z : hSt) : Prop := wX1_commandb0 G P PX v0 v1 v2 v3 z
section
variable {p : Program} {l : Launch} {e : Env} {s : State} {m : MethodId} {args : Array Value} {below : List Frame} {meth : Method} {c : Code} {G : gE} {mc ms : Nat} {P : Option Nat → hSt → Prop} {PX : Nat → Nat → hSt → Prop}
theorem kX1_commandb0 (C : xC G p l s m args meth c cX1_command 4 "ExcuseLedger") (hr : meth.sig.returnType = (Option.some (Jvm.ClassFile.FieldType.object "ExcuseLedger$Command"))) (hin : meth.name = "command") (hT : ∀ x ∈ c.exceptionTable.toList, False) (hmc : mc = gL G - s.heap.size ∧ ms = gU G - hsum s.heap)   {v0 : Option Nat} {v1 : Int32} {v2 : Option Nat} {v3 : Int32} {z : hSt} (hw : wX1_commandb0 G P PX  v0 v1 v2 v3 z) : kt G p l e (rmX1_command mc ms) s m args below meth c 4 (vx_MQ below (cQ G (pR P)) (cX G PX) args s mc ms (gF G)) 0 [(0, va_rf v0), (1, .int v1), (2, va_rf v2), (3, .int v3)] [] z := by
  intro H locs ls hS hl
  refine r_new C hS (ci := 6) rfl in_X7 tyX7_ok q419 q420 q91 rfl dfX7_ok hmc dX1_command_0 hw (fun x1 z2 H locs hw hS => ?_)
  refine lv_dup C.1 C.2.1 dX1_command_3 (va_rf_cat _) ?_
  refine r_aload_n C.1 C.2.1 dX1_command_4 rfl (lv_at hl 0 rfl) ?_
  refine lv_iload_n C.1 C.2.1 dX1_command_5 rfl (lv_at hl 1 rfl) ?_
  refine r_aload_n C.1 C.2.1 dX1_command_6 rfl (lv_at hl 2 rfl) ?_
  refine lv_iload_n C.1 C.2.1 dX1_command_7 rfl (lv_at hl 3 rfl) ?_
  refine c_I C hS hmc hl.1 hw.1 (kX7_init C.2.2.2.2.2.2.1) hw.2 (lw_meth q423) q91 q421 q422 rfl hdX7_init ⟨Nat.le_of_ble_eq_true rfl, Nat.le_of_ble_eq_true rfl⟩ (rest := [va_rf (some x1)]) rfl rfl (Nat.le_of_ble_eq_true rfl) dX1_command_8 (fun ci q z H locs hx hS ht => r_out C hS hmc (fun x hx => (hT x hx).elim) ht hx) (fun v z3 H locs hv hS => ?_)
  obtain ⟨rfl, hw⟩ := hv
  exact r_aret C hS hmc hr (Or.inl ⟨_, rfl⟩) dX1_command_11 hw
end
theorem kX1_command {l : Launch} (hl : l.stackTraces = false) {G : gE} {P : Option Nat → hSt → Prop} {PX : Nat → Nat → hSt → Prop} {v0 : Option Nat} {v1 : Int32} {v2 : Option Nat} {v3 : Int32} {z : hSt} : cM l G yX1_command (ws_ yX1_command cX1_command 4 (Option.some (Jvm.ClassFile.FieldType.object "ExcuseLedger$Command"))) 11 184 z [va_rf v0, .int v1, va_rf v2, .int v3] (wX1_command G P PX v0 v1 v2 v3 z) (pR P) PX := by
  refine m_of hl (plainFor_of_name (by decide)) (by rw [lg_sl1 (va_rf_cat _), lg_sl1 rfl, lg_sl1 (va_rf_cat _), lg_sl1 rfl]; exact Nat.le_of_ble_eq_true rfl) ?_
  intro p e s m args below meth c C hr hin hT hmc hw
  rw [lv_args1 (va_rf_cat _), lv_args1 rfl, lv_args1 (va_rf_cat _), lv_args1 rfl]
  intro H locs ls hS hl
  exact kX1_commandb0 C hr hin hT hmc hw H locs ls hS (lv_sub hl [0, 1, 2, 3] rfl)
theorem hdX1_command : yX1_command.cls ≠ "java/lang/invoke/MethodHandle" ∧ yX1_command.cls ≠ "java/lang/invoke/VarHandle" ∧ (parseMethodDescriptor yX1_command.desc).map (fun d => d.parameters.length) = some 4 := ⟨by decide +kernel, by decide +kernel, by decide +kernel⟩
abbrev rmX12_init (mc ms : Nat) : Room := { frames := 10, cells := mc, slots := ms, locals := 160 }
def wX12_initb0 (G : gE) (P : hSt → Prop) (PX : Nat → Nat → hSt → Prop)  (v0 : Option Nat) (v1 : Int32) (z : hSt) : Prop :=
  exI G z v0 11 (fun z1 => ptV G z1 v0 [11] 6 (.int v1) (fun z2 => P z2))
def wX12_init (G : gE) (P : hSt → Prop) (PX : Nat → Nat → hSt → Prop) (v0 : Option Nat) (v1 : Int32) (z : hSt) : Prop := wX12_initb0 G P PX v0 v1 z
section
variable {p : Program} {l : Launch} {e : Env} {s : State} {m : MethodId} {args : Array Value} {below : List Frame} {meth : Method} {c : Code} {G : gE} {mc ms : Nat} {P : hSt → Prop} {PX : Nat → Nat → hSt → Prop}
theorem kX12_initb0 (C : xC G p l s m args meth c cX12_init 2 "ExcuseLedger$BadText") (hr : meth.sig.returnType = (Option.none : Option Jvm.ClassFile.FieldType)) (hin : meth.name = "<init>") (hT : ∀ x ∈ c.exceptionTable.toList, False) (hmc : mc = gL G - s.heap.size ∧ ms = gU G - hsum s.heap)   {v0 : Option Nat} {v1 : Int32} {z : hSt} (hw : wX12_initb0 G P PX  v0 v1 z) : kt G p l e (rmX12_init mc ms) s m args below meth c 2 (vx_MQ below (cQ G (pV P)) (cX G PX) args s mc ms (gF G)) 0 [(0, va_rf v0), (1, .int v1)] [] z := by
  intro H locs ls hS hl
  refine r_aload_n C.1 C.2.1 dX12_init_0 rfl (lv_at hl 0 rfl) ?_
  refine r_exi11 C hS hl.1 dX12_init_1 (Nat.le_of_ble_eq_true rfl) (Nat.le_of_ble_eq_true rfl) (Nat.le_of_ble_eq_true rfl) hw (fun z1 H locs hw hS => ?_)
  refine r_aload_n C.1 C.2.1 dX12_init_4 rfl (lv_at hl 0 rfl) ?_
  refine lv_iload_n C.1 C.2.1 dX12_init_5 rfl (lv_at hl 1 rfl) ?_
  refine r_putF C hS fo_11_6 (C.2.2.2.2.1 _ q3028) (fun _ h => h) hin rfl rfl rfl dX12_init_6 hw (fun z2 H locs hw hS => ?_)
  exact r_vret C hS hmc hr dX12_init_9 hw
end
theorem kX12_init {l : Launch} (hl : l.stackTraces = false) {G : gE} {P : hSt → Prop} {PX : Nat → Nat → hSt → Prop} {v0 : Option Nat} {v1 : Int32} {z : hSt} : cM l G yX12_init (ws_ yX12_init cX12_init 2 (Option.none : Option Jvm.ClassFile.FieldType)) 10 160 z [va_rf v0, .int v1] (wX12_init G P PX v0 v1 z) (pV P) PX := by
  refine m_of hl (plainFor_of_name (by decide)) (by rw [lg_sl1 (va_rf_cat _), lg_sl1 rfl]; exact Nat.le_of_ble_eq_true rfl) ?_
  intro p e s m args below meth c C hr hin hT hmc hw
  rw [lv_args1 (va_rf_cat _), lv_args1 rfl]
  intro H locs ls hS hl
  exact kX12_initb0 C hr hin hT hmc hw H locs ls hS (lv_sub hl [0, 1] rfl)
theorem hdX12_init : yX12_init.cls ≠ "java/lang/invoke/MethodHandle" ∧ yX12_init.cls ≠ "java/lang/invoke/VarHandle" ∧ (parseMethodDescriptor yX12_init.desc).map (fun d => d.parameters.length) = some 1 := ⟨by decide +kernel, by decide +kernel, by decide +kernel⟩
abbrev rmX11_peek (mc ms : Nat) : Room := { frames := 14, cells := mc, slots := ms, locals := 245 }
def wX11_peekb0 (G : gE) (P : Int32 → hSt → Prop) (PX : Nat → Nat → hSt → Prop)  (v0 : Option Nat) (z : hSt) : Prop :=
  gtI z v0 [10] 2 (fun x1 => gtR z v0 [10] 0 (fun x2 => (rcv z x2 17 ∧ wJ10_length G (fun x4 z3 => ((x4 ≤ x1 → (okN .char 0 ∧ P 0 z3)) ∧ (¬ x4 ≤ x1 → gtR z3 v0 [10] 0 (fun x5 => gtI z3 v0 [10] 2 (fun x6 => (rcv z3 x5 17 ∧ wJ10_charAt G (fun x8 z7 => (okN .char x8 ∧ P x8 z7)) PX x5 x6 z3)))))) PX x2  z)))
def wX11_peek (G : gE) (P : Int32 → hSt → Prop) (PX : Nat → Nat → hSt → Prop) (v0 : Option Nat) (z : hSt) : Prop := wX11_peekb0 G P PX v0 z
section
variable {p : Program} {l : Launch} {e : Env} {s : State} {m : MethodId} {args : Array Value} {below : List Frame} {meth : Method} {c : Code} {G : gE} {mc ms : Nat} {P : Int32 → hSt → Prop} {PX : Nat → Nat → hSt → Prop}
theorem kX11_peekb0 (C : xC G p l s m args meth c cX11_peek 1 "ExcuseLedger$Parser") (hr : meth.sig.returnType = (Option.some Jvm.ClassFile.FieldType.char)) (hin : meth.name = "peek") (hT : ∀ x ∈ c.exceptionTable.toList, False) (hmc : mc = gL G - s.heap.size ∧ ms = gU G - hsum s.heap)   {v0 : Option Nat} {z : hSt} (hw : wX11_peekb0 G P PX  v0 z) : kt G p l e (rmX11_peek mc ms) s m args below meth c 1 (vx_MQ below (cQ G (pI P)) (cX G PX) args s mc ms (gF G)) 0 [(0, va_rf v0)] [] z := by
  intro H locs ls hS hl
  refine r_aload_n C.1 C.2.1 dX11_peek_0 rfl (lv_at hl 0 rfl) ?_
  refine r_getI C hS fo_10_2 (fl_d C q2866) (fun _ h => h) dX11_peek_1 hw (fun x1 hw => ?_)
  refine r_aload_n C.1 C.2.1 dX11_peek_4 rfl (lv_at hl 0 rfl) ?_
  refine r_getR C hS fo_10_0 (fl_d C q2863) (fun _ h => h) dX11_peek_5 hw (fun x2 hw => ?_)
  refine c_F C hS hmc hl.1 (ci := 17) rfl hw.1 (kJ10_length C.2.2.2.2.2.2.1) hw.2 q2940 q2943 q1078 q81 q1080 (face_w C q2942 q2941 q2945 q2944 q2746 (by decide) (by decide)) ⟨by decide, by decide⟩ hdJ10_length.2.2 ⟨Nat.le_of_ble_eq_true rfl, Nat.le_of_ble_eq_true rfl⟩ (rest := [.int x1]) rfl rfl (Nat.le_of_ble_eq_true rfl) dX11_peek_8 (fun ci q z H locs hx hS ht => r_out C hS hmc (fun x hx => (hT x hx).elim) ht hx) (fun v z3 H locs hv hS => ?_)
  obtain ⟨x4, rfl, hw⟩ := hv
  refine lv_icmp_ge C.1 C.2.1 dX11_peek_13 rfl (fun h => ?_) (fun h => ?_)
  · have hw := hw.1 h
    refine lv_iconst C.1 C.2.1 (v := 0) dX11_peek_32 rfl ?_
    exact r_zret C hS hmc hr dX11_peek_33 hw
  · have hw := hw.2 h
    refine r_aload_n C.1 C.2.1 dX11_peek_16 rfl (lv_at hl 0 rfl) ?_
    refine r_getR C hS fo_10_0 (fl_d C q2863) (fun _ h => h) dX11_peek_17 hw (fun x5 hw => ?_)
    refine r_aload_n C.1 C.2.1 dX11_peek_20 rfl (lv_at hl 0 rfl) ?_
    refine r_getI C hS fo_10_2 (fl_d C q2866) (fun _ h => h) dX11_peek_21 hw (fun x6 hw => ?_)
    refine c_F C hS hmc hl.1 (ci := 17) rfl hw.1 (kJ10_charAt C.2.2.2.2.2.2.1) hw.2 q2954 q2957 q2697 q81 q2699 (face_w C q2956 q2955 q2959 q2958 q2746 (by decide) (by decide)) ⟨by decide, by decide⟩ hdJ10_charAt.2.2 ⟨Nat.le_of_ble_eq_true rfl, Nat.le_of_ble_eq_true rfl⟩ (rest := []) rfl rfl (Nat.le_of_ble_eq_true rfl) dX11_peek_24 (fun ci q z H locs hx hS ht => r_out C hS hmc (fun x hx => (hT x hx).elim) ht hx) (fun v z7 H locs hv hS => ?_)
    obtain ⟨x8, rfl, hw⟩ := hv
    refine lv_goto C.1 C.2.1 dX11_peek_29 rfl ?_
    exact r_zret C hS hmc hr dX11_peek_33 hw
end
theorem kX11_peek {l : Launch} (hl : l.stackTraces = false) {G : gE} {P : Int32 → hSt → Prop} {PX : Nat → Nat → hSt → Prop} {v0 : Option Nat} {z : hSt} : cM l G yX11_peek (ws_ yX11_peek cX11_peek 1 (Option.some Jvm.ClassFile.FieldType.char)) 14 245 z [va_rf v0] (wX11_peek G P PX v0 z) (pI P) PX := by
  refine m_of hl (plainFor_of_name (by decide)) (by rw [lg_sl1 (va_rf_cat _)]; exact Nat.le_of_ble_eq_true rfl) ?_
  intro p e s m args below meth c C hr hin hT hmc hw
  rw [lv_args1 (va_rf_cat _)]
  intro H locs ls hS hl
  exact kX11_peekb0 C hr hin hT hmc hw H locs ls hS (lv_sub hl [0] rfl)
theorem hdX11_peek : yX11_peek.cls ≠ "java/lang/invoke/MethodHandle" ∧ yX11_peek.cls ≠ "java/lang/invoke/VarHandle" ∧ (parseMethodDescriptor yX11_peek.desc).map (fun d => d.parameters.length) = some 0 := ⟨by decide +kernel, by decide +kernel, by decide +kernel⟩
abbrev rmX11_next (mc ms : Nat) : Room := { frames := 15, cells := mc, slots := ms, locals := 265 }
def wX11_nextb0 (G : gE) (P : Int32 → hSt → Prop) (PX : Nat → Nat → hSt → Prop)  (v0 : Option Nat) (v1 : Int32) (v2 : Int32) (z : hSt) : Prop :=
  (rcv z v0 10 ∧ wX11_peek G (fun x2 z1 => wX1_isIn G (fun x4 z3 => ((¬ x4 = 0 → gtI z3 v0 [10] 2 (fun x5 => ptV G z3 v0 [10] 2 (.int (x5 + 1)) (fun z6 => gtR z6 v0 [10] 0 (fun x7 => gtI z6 v0 [10] 2 (fun x8 => (rcv z6 x7 17 ∧ wJ10_charAt G (fun x10 z9 => P (x10 - v1) z9) PX x7 (x8 - 1) z6)))))) ∧ (x4 = 0 → nwO G z3 11 7 dfX12 (fun x11 z12 => gtI z12 v0 [10] 2 (fun x13 => (nnl (some x11) ∧ wX12_init G (fun z14 => (rcv z14 (some x11) 11 ∧ ∀ q, (some x11) = some q → PX 11 q z14)) PX (some x11) x13 z12)))))) PX x2 v1 v2 z1) PX v0  z)
def wX11_next (G : gE) (P : Int32 → hSt → Prop) (PX : Nat → Nat → hSt → Prop) (v0 : Option Nat) (v1 : Int32) (v2 : Int32) (z : hSt) : Prop := wX11_nextb0 G P PX v0 v1 v2 z
section
variable {p : Program} {l : Launch} {e : Env} {s : State} {m : MethodId} {args : Array Value} {below : List Frame} {meth : Method} {c : Code} {G : gE} {mc ms : Nat} {P : Int32 → hSt → Prop} {PX : Nat → Nat → hSt → Prop}
theorem kX11_nextb0 (C : xC G p l s m args meth c cX11_next 3 "ExcuseLedger$Parser") (hr : meth.sig.returnType = (Option.some Jvm.ClassFile.FieldType.int)) (hin : meth.name = "next") (hT : ∀ x ∈ c.exceptionTable.toList, False) (hmc : mc = gL G - s.heap.size ∧ ms = gU G - hsum s.heap)   {v0 : Option Nat} {v1 : Int32} {v2 : Int32} {z : hSt} (hw : wX11_nextb0 G P PX  v0 v1 v2 z) : kt G p l e (rmX11_next mc ms) s m args below meth c 3 (vx_MQ below (cQ G (pI P)) (cX G PX) args s mc ms (gF G)) 0 [(0, va_rf v0), (1, .int v1), (2, .int v2)] [] z := by
  intro H locs ls hS hl
  refine r_aload_n C.1 C.2.1 dX11_next_0 rfl (lv_at hl 0 rfl) ?_
  refine c_V C hS hmc hl.1 (ci := 10) rfl hw.1 (kX11_peek C.2.2.2.2.2.2.1) hw.2 (lw_V q2949 q2951 qs20 q130 q2952) ⟨rfl, hdX11_peek⟩ ⟨Nat.le_of_ble_eq_true rfl, Nat.le_of_ble_eq_true rfl⟩ (rest := []) rfl rfl (Nat.le_of_ble_eq_true rfl) dX11_next_1 (fun ci q z H locs hx hS ht => r_out C hS hmc (fun x hx => (hT x hx).elim) ht hx) (fun v z1 H locs hv hS => ?_)
  obtain ⟨x2, rfl, hw⟩ := hv
  refine lv_iload_n C.1 C.2.1 dX11_next_4 rfl (lv_at hl 1 rfl) ?_
  refine lv_iload_n C.1 C.2.1 dX11_next_5 rfl (lv_at hl 2 rfl) ?_
  refine c_SN C hS hmc hl.1 (kX1_isIn C.2.2.2.2.2.2.1) hw q1982 q3043 q67 q1981 hdX1_isIn ⟨Nat.le_of_ble_eq_true rfl, Nat.le_of_ble_eq_true rfl⟩ (rest := []) rfl rfl (Nat.le_of_ble_eq_true rfl) dX11_next_6 (fun ci q z H locs hx hS ht => r_out C hS hmc (fun x hx => (hT x hx).elim) ht hx) (fun v z3 H locs hv hS => ?_)
  obtain ⟨x4, rfl, hw⟩ := hv
  refine lv_if_ne C.1 C.2.1 dX11_next_9 rfl (fun h => ?_) (fun h => ?_)
  · have hw := hw.1 h
    refine r_aload_n C.1 C.2.1 dX11_next_24 rfl (lv_at hl 0 rfl) ?_
    refine lv_dup C.1 C.2.1 dX11_next_25 (va_rf_cat _) ?_
    refine r_getI C hS fo_10_2 (fl_d C q2866) (fun _ h => h) dX11_next_26 hw (fun x5 hw => ?_)
    refine lv_iconst C.1 C.2.1 (v := 1) dX11_next_29 rfl ?_
    refine lv_iadd C.1 C.2.1 dX11_next_30 ?_
    refine r_put C hS fo_10_2 (fl_d C q2866) (fun _ h => h) rfl rfl dX11_next_31 hw (fun z6 H locs hw hS => ?_)
    refine r_aload_n C.1 C.2.1 dX11_next_34 rfl (lv_at hl 0 rfl) ?_
    refine r_getR C hS fo_10_0 (fl_d C q2863) (fun _ h => h) dX11_next_35 hw (fun x7 hw => ?_)
    refine r_aload_n C.1 C.2.1 dX11_next_38 rfl (lv_at hl 0 rfl) ?_
    refine r_getI C hS fo_10_2 (fl_d C q2866) (fun _ h => h) dX11_next_39 hw (fun x8 hw => ?_)
    refine lv_iconst C.1 C.2.1 (v := 1) dX11_next_42 rfl ?_
    refine lv_isub C.1 C.2.1 dX11_next_43 ?_
    refine c_F C hS hmc hl.1 (ci := 17) rfl hw.1 (kJ10_charAt C.2.2.2.2.2.2.1) hw.2 q2954 q2957 q2697 q81 q2699 (face_w C q2956 q2955 q2959 q2958 q2746 (by decide) (by decide)) ⟨by decide, by decide⟩ hdJ10_charAt.2.2 ⟨Nat.le_of_ble_eq_true rfl, Nat.le_of_ble_eq_true rfl⟩ (rest := []) rfl rfl (Nat.le_of_ble_eq_true rfl) dX11_next_44 (fun ci q z H locs hx hS ht => r_out C hS hmc (fun x hx => (hT x hx).elim) ht hx) (fun v z9 H locs hv hS => ?_)
    obtain ⟨x10, rfl, hw⟩ := hv
    refine lv_iload_n C.1 C.2.1 dX11_next_49 rfl (lv_at hl 1 rfl) ?_
    refine lv_isub C.1 C.2.1 dX11_next_50 ?_
    exact r_iret C hS hmc hr dX11_next_51 hw
  · have hw := hw.2 h
    refine r_new C hS (ci := 11) rfl in_X12 tyX12_ok q3015 q3016 q133 rfl dfX12_ok hmc dX11_next_12 hw (fun x11 z12 H locs hw hS => ?_)
    refine lv_dup C.1 C.2.1 dX11_next_15 (va_rf_cat _) ?_
    refine r_aload_n C.1 C.2.1 dX11_next_16 rfl (lv_at hl 0 rfl) ?_
    refine r_getI C hS fo_10_2 (fl_d C q2866) (fun _ h => h) dX11_next_17 hw (fun x13 hw => ?_)
    refine c_I C hS hmc hl.1 hw.1 (kX12_init C.2.2.2.2.2.2.1) hw.2 (lw_meth q3026) q133 q3024 q3025 rfl hdX12_init ⟨Nat.le_of_ble_eq_true rfl, Nat.le_of_ble_eq_true rfl⟩ (rest := [va_rf (some x11)]) rfl rfl (Nat.le_of_ble_eq_true rfl) dX11_next_20 (fun ci q z H locs hx hS ht => r_out C hS hmc (fun x hx => (hT x hx).elim) ht hx) (fun v z14 H locs hv hS => ?_)
    obtain ⟨rfl, hw⟩ := hv
    exact r_athrow C hS (by decide) dX11_next_23 hw.1 (fun q hq ht => r_out C hS hmc (fun x hx => (hT x hx).elim) ht (hw.2 q hq))
end
theorem kX11_next {l : Launch} (hl : l.stackTraces = false) {G : gE} {P : Int32 → hSt → Prop} {PX : Nat → Nat → hSt → Prop} {v0 : Option Nat} {v1 : Int32} {v2 : Int32} {z : hSt} : cM l G yX11_next (ws_ yX11_next cX11_next 3 (Option.some Jvm.ClassFile.FieldType.int)) 15 265 z [va_rf v0, .int v1, .int v2] (wX11_next G P PX v0 v1 v2 z) (pI P) PX := by
  refine m_of hl (plainFor_of_name (by decide)) (by rw [lg_sl1 (va_rf_cat _), lg_sl1 rfl, lg_sl1 rfl]; exact Nat.le_of_ble_eq_true rfl) ?_
  intro p e s m args below meth c C hr hin hT hmc hw
  rw [lv_args1 (va_rf_cat _), lv_args1 rfl, lv_args1 rfl]
  intro H locs ls hS hl
  exact kX11_nextb0 C hr hin hT hmc hw H locs ls hS (lv_sub hl [0, 1, 2] rfl)
theorem hdX11_next : yX11_next.cls ≠ "java/lang/invoke/MethodHandle" ∧ yX11_next.cls ≠ "java/lang/invoke/VarHandle" ∧ (parseMethodDescriptor yX11_next.desc).map (fun d => d.parameters.length) = some 2 := ⟨by decide +kernel, by decide +kernel, by decide +kernel⟩
abbrev rmX11_digit (mc ms : Nat) : Room := { frames := 16, cells := mc, slots := ms, locals := 287 }
def wX11_digitb0 (G : gE) (P : Int32 → hSt → Prop) (PX : Nat → Nat → hSt → Prop)  (v0 : Option Nat) (z : hSt) : Prop :=
  (rcv z v0 10 ∧ wX11_next G (fun x2 z1 => P x2 z1) PX v0 48 57 z)
def wX11_digit (G : gE) (P : Int32 → hSt → Prop) (PX : Nat → Nat → hSt → Prop) (v0 : Option Nat) (z : hSt) : Prop := wX11_digitb0 G P PX v0 z
section
variable {p : Program} {l : Launch} {e : Env} {s : State} {m : MethodId} {args : Array Value} {below : List Frame} {meth : Method} {c : Code} {G : gE} {mc ms : Nat} {P : Int32 → hSt → Prop} {PX : Nat → Nat → hSt → Prop}
theorem kX11_digitb0 (C : xC G p l s m args meth c cX11_digit 1 "ExcuseLedger$Parser") (hr : meth.sig.returnType = (Option.some Jvm.ClassFile.FieldType.int)) (hin : meth.name = "digit") (hT : ∀ x ∈ c.exceptionTable.toList, False) (hmc : mc = gL G - s.heap.size ∧ ms = gU G - hsum s.heap)   {v0 : Option Nat} {z : hSt} (hw : wX11_digitb0 G P PX  v0 z) : kt G p l e (rmX11_digit mc ms) s m args below meth c 1 (vx_MQ below (cQ G (pI P)) (cX G PX) args s mc ms (gF G)) 0 [(0, va_rf v0)] [] z := by
  intro H locs ls hS hl
  refine r_aload_n C.1 C.2.1 dX11_digit_0 rfl (lv_at hl 0 rfl) ?_
  refine lv_bipush C.1 C.2.1 (v := 48) dX11_digit_1 rfl ?_
  refine lv_bipush C.1 C.2.1 (v := 57) dX11_digit_3 rfl ?_
  refine c_V C hS hmc hl.1 (ci := 10) rfl hw.1 (kX11_next C.2.2.2.2.2.2.1) hw.2 (lw_V q3039 q3041 qs22 q130 q3042) ⟨rfl, hdX11_next⟩ ⟨Nat.le_of_ble_eq_true rfl, Nat.le_of_ble_eq_true rfl⟩ (rest := []) rfl rfl (Nat.le_of_ble_eq_true rfl) dX11_digit_5 (fun ci q z H locs hx hS ht => r_out C hS hmc (fun x hx => (hT x hx).elim) ht hx) (fun v z1 H locs hv hS => ?_)
  obtain ⟨x2, rfl, hw⟩ := hv
  exact r_iret C hS hmc hr dX11_digit_8 hw
end
theorem kX11_digit {l : Launch} (hl : l.stackTraces = false) {G : gE} {P : Int32 → hSt → Prop} {PX : Nat → Nat → hSt → Prop} {v0 : Option Nat} {z : hSt} : cM l G yX11_digit (ws_ yX11_digit cX11_digit 1 (Option.some Jvm.ClassFile.FieldType.int)) 16 287 z [va_rf v0] (wX11_digit G P PX v0 z) (pI P) PX := by
  refine m_of hl (plainFor_of_name (by decide)) (by rw [lg_sl1 (va_rf_cat _)]; exact Nat.le_of_ble_eq_true rfl) ?_
  intro p e s m args below meth c C hr hin hT hmc hw
  rw [lv_args1 (va_rf_cat _)]
  intro H locs ls hS hl
  exact kX11_digitb0 C hr hin hT hmc hw H locs ls hS (lv_sub hl [0] rfl)
theorem hdX11_digit : yX11_digit.cls ≠ "java/lang/invoke/MethodHandle" ∧ yX11_digit.cls ≠ "java/lang/invoke/VarHandle" ∧ (parseMethodDescriptor yX11_digit.desc).map (fun d => d.parameters.length) = some 0 := ⟨by decide +kernel, by decide +kernel, by decide +kernel⟩
abbrev rmX11_place (mc ms : Nat) : Room := { frames := 15, cells := mc, slots := ms, locals := 265 }
def wX11_placeb28 (G : gE) (P : Int32 → hSt → Prop) (PX : Nat → Nat → hSt → Prop)  (v0 : Option Nat) (s0 : Int32) (z : hSt) : Prop :=
  ((¬ s0 = (-1) → gtI z v0 [10] 2 (fun x9 => ptV G z v0 [10] 2 (.int (x9 + 1)) (fun z10 => P s0 z10))) ∧ (s0 = (-1) → nwO G z 11 7 dfX12 (fun x11 z12 => gtI z12 v0 [10] 2 (fun x13 => (nnl (some x11) ∧ wX12_init G (fun z14 => (rcv z14 (some x11) 11 ∧ ∀ q, (some x11) = some q → PX 11 q z14)) PX (some x11) x13 z12)))))
def wX11_placeb0 (G : gE) (P : Int32 → hSt → Prop) (PX : Nat → Nat → hSt → Prop)  (v0 : Option Nat) (v1 : Option Nat) (z : hSt) : Prop :=
  gtI z v0 [10] 2 (fun x1 => gtR z v0 [10] 0 (fun x2 => (rcv z x2 17 ∧ wJ10_length G (fun x4 z3 => ((x4 ≤ x1 → wX11_placeb28 G P PX  v0 (-1) z3) ∧ (¬ x4 ≤ x1 → (rcv z3 v0 10 ∧ wX11_peek G (fun x6 z5 => (rcv z5 v1 17 ∧ wJ10_indexOf G (fun x8 z7 => wX11_placeb28 G P PX  v0 x8 z7) PX v1 x6 z5)) PX v0  z3)))) PX x2  z)))
def wX11_place (G : gE) (P : Int32 → hSt → Prop) (PX : Nat → Nat → hSt → Prop) (v0 : Option Nat) (v1 : Option Nat) (z : hSt) : Prop := wX11_placeb0 G P PX v0 v1 z
section
variable {p : Program} {l : Launch} {e : Env} {s : State} {m : MethodId} {args : Array Value} {below : List Frame} {meth : Method} {c : Code} {G : gE} {mc ms : Nat} {P : Int32 → hSt → Prop} {PX : Nat → Nat → hSt → Prop}
theorem kX11_placeb28 (C : xC G p l s m args meth c cX11_place 3 "ExcuseLedger$Parser") (hr : meth.sig.returnType = (Option.some Jvm.ClassFile.FieldType.int)) (hin : meth.name = "place") (hT : ∀ x ∈ c.exceptionTable.toList, False) (hmc : mc = gL G - s.heap.size ∧ ms = gU G - hsum s.heap)   {v0 : Option Nat} {s0 : Int32} {z : hSt} (hw : wX11_placeb28 G P PX  v0 s0 z) : kt G p l e (rmX11_place mc ms) s m args below meth c 3 (vx_MQ below (cQ G (pI P)) (cX G PX) args s mc ms (gF G)) 28 [(0, va_rf v0)] [.int s0] z := by
  intro H locs ls hS hl
  refine r_istore_n C.1 C.2.1 dX11_place_28 rfl hl (Nat.le_of_ble_eq_true rfl) (ls_new (ls_old 0 rfl rfl (.inl rfl) ls_nil)) (fun ls hl => ?_)
  refine lv_iload_n C.1 C.2.1 dX11_place_29 rfl (lv_at hl 0 rfl) ?_
  refine lv_iconst C.1 C.2.1 (v := (-1)) dX11_place_30 rfl ?_
  refine lv_icmp_ne C.1 C.2.1 dX11_place_31 rfl (fun h => ?_) (fun h => ?_)
  · have hw := hw.1 h
    refine r_aload_n C.1 C.2.1 dX11_place_46 rfl (lv_at hl 1 rfl) ?_
    refine lv_dup C.1 C.2.1 dX11_place_47 (va_rf_cat _) ?_
    refine r_getI C hS fo_10_2 (fl_d C q2866) (fun _ h => h) dX11_place_48 hw (fun x9 hw => ?_)
    refine lv_iconst C.1 C.2.1 (v := 1) dX11_place_51 rfl ?_
    refine lv_iadd C.1 C.2.1 dX11_place_52 ?_
    refine r_put C hS fo_10_2 (fl_d C q2866) (fun _ h => h) rfl rfl dX11_place_53 hw (fun z10 H locs hw hS => ?_)
    refine lv_iload_n C.1 C.2.1 dX11_place_56 rfl (lv_at hl 0 rfl) ?_
    exact r_iret C hS hmc hr dX11_place_57 hw
  · have hw := hw.2 h
    refine r_new C hS (ci := 11) rfl in_X12 tyX12_ok q3015 q3016 q133 rfl dfX12_ok hmc dX11_place_34 hw (fun x11 z12 H locs hw hS => ?_)
    refine lv_dup C.1 C.2.1 dX11_place_37 (va_rf_cat _) ?_
    refine r_aload_n C.1 C.2.1 dX11_place_38 rfl (lv_at hl 1 rfl) ?_
    refine r_getI C hS fo_10_2 (fl_d C q2866) (fun _ h => h) dX11_place_39 hw (fun x13 hw => ?_)
    refine c_I C hS hmc hl.1 hw.1 (kX12_init C.2.2.2.2.2.2.1) hw.2 (lw_meth q3026) q133 q3024 q3025 rfl hdX12_init ⟨Nat.le_of_ble_eq_true rfl, Nat.le_of_ble_eq_true rfl⟩ (rest := [va_rf (some x11)]) rfl rfl (Nat.le_of_ble_eq_true rfl) dX11_place_42 (fun ci q z H locs hx hS ht => r_out C hS hmc (fun x hx => (hT x hx).elim) ht hx) (fun v z14 H locs hv hS => ?_)
    obtain ⟨rfl, hw⟩ := hv
    exact r_athrow C hS (by decide) dX11_place_45 hw.1 (fun q hq ht => r_out C hS hmc (fun x hx => (hT x hx).elim) ht (hw.2 q hq))
theorem kX11_placeb0 (C : xC G p l s m args meth c cX11_place 3 "ExcuseLedger$Parser") (hr : meth.sig.returnType = (Option.some Jvm.ClassFile.FieldType.int)) (hin : meth.name = "place") (hT : ∀ x ∈ c.exceptionTable.toList, False) (hmc : mc = gL G - s.heap.size ∧ ms = gU G - hsum s.heap)   {v0 : Option Nat} {v1 : Option Nat} {z : hSt} (hw : wX11_placeb0 G P PX  v0 v1 z) : kt G p l e (rmX11_place mc ms) s m args below meth c 3 (vx_MQ below (cQ G (pI P)) (cX G PX) args s mc ms (gF G)) 0 [(0, va_rf v0), (1, va_rf v1)] [] z := by
  intro H locs ls hS hl
  refine r_aload_n C.1 C.2.1 dX11_place_0 rfl (lv_at hl 0 rfl) ?_
  refine r_getI C hS fo_10_2 (fl_d C q2866) (fun _ h => h) dX11_place_1 hw (fun x1 hw => ?_)
  refine r_aload_n C.1 C.2.1 dX11_place_4 rfl (lv_at hl 0 rfl) ?_
  refine r_getR C hS fo_10_0 (fl_d C q2863) (fun _ h => h) dX11_place_5 hw (fun x2 hw => ?_)
  refine c_F C hS hmc hl.1 (ci := 17) rfl hw.1 (kJ10_length C.2.2.2.2.2.2.1) hw.2 q2940 q2943 q1078 q81 q1080 (face_w C q2942 q2941 q2945 q2944 q2746 (by decide) (by decide)) ⟨by decide, by decide⟩ hdJ10_length.2.2 ⟨Nat.le_of_ble_eq_true rfl, Nat.le_of_ble_eq_true rfl⟩ (rest := [.int x1]) rfl rfl (Nat.le_of_ble_eq_true rfl) dX11_place_8 (fun ci q z H locs hx hS ht => r_out C hS hmc (fun x hx => (hT x hx).elim) ht hx) (fun v z3 H locs hv hS => ?_)
  obtain ⟨x4, rfl, hw⟩ := hv
  refine lv_icmp_ge C.1 C.2.1 dX11_place_13 rfl (fun h => ?_) (fun h => ?_)
  · have hw := hw.1 h
    refine lv_iconst C.1 C.2.1 (v := (-1)) dX11_place_27 rfl ?_
    exact kX11_placeb28 C hr hin hT hmc  hw H locs ls hS (lv_sub hl [0] rfl)
  · have hw := hw.2 h
    refine r_aload_n C.1 C.2.1 dX11_place_16 rfl (lv_at hl 1 rfl) ?_
    refine r_aload_n C.1 C.2.1 dX11_place_17 rfl (lv_at hl 0 rfl) ?_
    refine c_V C hS hmc hl.1 (ci := 10) rfl hw.1 (kX11_peek C.2.2.2.2.2.2.1) hw.2 (lw_V q2949 q2951 qs20 q130 q2952) ⟨rfl, hdX11_peek⟩ ⟨Nat.le_of_ble_eq_true rfl, Nat.le_of_ble_eq_true rfl⟩ (rest := [va_rf v1]) rfl rfl (Nat.le_of_ble_eq_true rfl) dX11_place_18 (fun ci q z H locs hx hS ht => r_out C hS hmc (fun x hx => (hT x hx).elim) ht hx) (fun v z5 H locs hv hS => ?_)
    obtain ⟨x6, rfl, hw⟩ := hv
    refine c_V C hS hmc hl.1 (ci := 17) rfl hw.1 (kJ10_indexOf C.2.2.2.2.2.2.1) hw.2 (lw_V q2971 q2972 q2973 q81 q2974) ⟨rfl, hdJ10_indexOf⟩ ⟨Nat.le_of_ble_eq_true rfl, Nat.le_of_ble_eq_true rfl⟩ (rest := []) rfl rfl (Nat.le_of_ble_eq_true rfl) dX11_place_21 (fun ci q z H locs hx hS ht => r_out C hS hmc (fun x hx => (hT x hx).elim) ht hx) (fun v z7 H locs hv hS => ?_)
    obtain ⟨x8, rfl, hw⟩ := hv
    refine lv_goto C.1 C.2.1 dX11_place_24 rfl ?_
    exact kX11_placeb28 C hr hin hT hmc  hw H locs ls hS (lv_sub hl [0] rfl)
end
theorem kX11_place {l : Launch} (hl : l.stackTraces = false) {G : gE} {P : Int32 → hSt → Prop} {PX : Nat → Nat → hSt → Prop} {v0 : Option Nat} {v1 : Option Nat} {z : hSt} : cM l G yX11_place (ws_ yX11_place cX11_place 3 (Option.some Jvm.ClassFile.FieldType.int)) 15 265 z [va_rf v0, va_rf v1] (wX11_place G P PX v0 v1 z) (pI P) PX := by
  refine m_of hl (plainFor_of_name (by decide)) (by rw [lg_sl1 (va_rf_cat _), lg_sl1 (va_rf_cat _)]; exact Nat.le_of_ble_eq_true rfl) ?_
  intro p e s m args below meth c C hr hin hT hmc hw
  rw [lv_args1 (va_rf_cat _), lv_args1 (va_rf_cat _)]
  intro H locs ls hS hl
  exact kX11_placeb0 C hr hin hT hmc hw H locs ls hS (lv_sub hl [0, 1] rfl)
theorem hdX11_place : yX11_place.cls ≠ "java/lang/invoke/MethodHandle" ∧ yX11_place.cls ≠ "java/lang/invoke/VarHandle" ∧ (parseMethodDescriptor yX11_place.desc).map (fun d => d.parameters.length) = some 1 := ⟨by decide +kernel, by decide +kernel, by decide +kernel⟩
abbrev rmX11_name (mc ms : Nat) : Room := { frames := 17, cells := mc, slots := ms, locals := 307 }
def wX11_nameb0 (G : gE) (P : Option Nat → hSt → Prop) (PX : Nat → Nat → hSt → Prop)  (v0 : Option Nat) (z : hSt) : Prop :=
  (rcv z v0 10 ∧ wX11_place G (fun x2 z1 => nwO G z1 5 2 dfX6 (fun x3 z4 => (rcv z4 v0 10 ∧ wX11_digit G (fun x6 z5 => (nnl (some x3) ∧ wX6_init G (fun z7 => P (some x3) z7) PX (some x3) x2 x6 z5)) PX v0  z4))) PX v0 (some (gA G 15)) z)
def wX11_name (G : gE) (P : Option Nat → hSt → Prop) (PX : Nat → Nat → hSt → Prop) (v0 : Option Nat) (z : hSt) : Prop := wX11_nameb0 G P PX v0 z
section
variable {p : Program} {l : Launch} {e : Env} {s : State} {m : MethodId} {args : Array Value} {below : List Frame} {meth : Method} {c : Code} {G : gE} {mc ms : Nat} {P : Option Nat → hSt → Prop} {PX : Nat → Nat → hSt → Prop}
theorem kX11_nameb0 (C : xC G p l s m args meth c cX11_name 2 "ExcuseLedger$Parser") (hr : meth.sig.returnType = (Option.some (Jvm.ClassFile.FieldType.object "ExcuseLedger$Name"))) (hin : meth.name = "name") (hT : ∀ x ∈ c.exceptionTable.toList, False) (hmc : mc = gL G - s.heap.size ∧ ms = gU G - hsum s.heap)   {v0 : Option Nat} {z : hSt} (hw : wX11_nameb0 G P PX  v0 z) : kt G p l e (rmX11_name mc ms) s m args below meth c 2 (vx_MQ below (cQ G (pR P)) (cX G PX) args s mc ms (gF G)) 0 [(0, va_rf v0)] [] z := by
  intro H locs ls hS hl
  refine r_aload_n C.1 C.2.1 dX11_name_0 rfl (lv_at hl 0 rfl) ?_
  refine r_ldcS C (k := 15) (tx := "dwit") (by decide +kernel) dX11_name_1 ?_
  refine c_V C hS hmc hl.1 (ci := 10) rfl hw.1 (kX11_place C.2.2.2.2.2.2.1) hw.2 (lw_V q2935 q2937 qs19 q130 q2938) ⟨rfl, hdX11_place⟩ ⟨Nat.le_of_ble_eq_true rfl, Nat.le_of_ble_eq_true rfl⟩ (rest := []) rfl rfl (Nat.le_of_ble_eq_true rfl) dX11_name_3 (fun ci q z H locs hx hS ht => r_out C hS hmc (fun x hx => (hT x hx).elim) ht hx) (fun v z1 H locs hv hS => ?_)
  obtain ⟨x2, rfl, hw⟩ := hv
  refine r_istore_n C.1 C.2.1 dX11_name_6 rfl hl (Nat.le_of_ble_eq_true rfl) (ls_new (ls_old 0 rfl rfl (.inr (va_rf_cat _)) ls_nil)) (fun ls hl => ?_)
  refine r_new C hS (ci := 5) rfl in_X6 tyX6_ok q3049 q2329 q90 rfl dfX6_ok hmc dX11_name_7 hw (fun x3 z4 H locs hw hS => ?_)
  refine lv_dup C.1 C.2.1 dX11_name_10 (va_rf_cat _) ?_
  refine lv_iload_n C.1 C.2.1 dX11_name_11 rfl (lv_at hl 0 rfl) ?_
  refine r_aload_n C.1 C.2.1 dX11_name_12 rfl (lv_at hl 1 rfl) ?_
  refine c_V C hS hmc hl.1 (ci := 10) rfl hw.1 (kX11_digit C.2.2.2.2.2.2.1) hw.2 (lw_V q3035 q3037 qs21 q130 q3038) ⟨rfl, hdX11_digit⟩ ⟨Nat.le_of_ble_eq_true rfl, Nat.le_of_ble_eq_true rfl⟩ (rest := [.int x2, va_rf (some x3), va_rf (some x3)]) rfl rfl (Nat.le_of_ble_eq_true rfl) dX11_name_13 (fun ci q z H locs hx hS ht => r_out C hS hmc (fun x hx => (hT x hx).elim) ht hx) (fun v z5 H locs hv hS => ?_)
  obtain ⟨x6, rfl, hw⟩ := hv
  refine c_I C hS hmc hl.1 hw.1 (kX6_init C.2.2.2.2.2.2.1) hw.2 (lw_meth q2332) q90 q3050 q2331 rfl hdX6_init ⟨Nat.le_of_ble_eq_true rfl, Nat.le_of_ble_eq_true rfl⟩ (rest := [va_rf (some x3)]) rfl rfl (Nat.le_of_ble_eq_true rfl) dX11_name_16 (fun ci q z H locs hx hS ht => r_out C hS hmc (fun x hx => (hT x hx).elim) ht hx) (fun v z7 H locs hv hS => ?_)
  obtain ⟨rfl, hw⟩ := hv
  exact r_aret C hS hmc hr (Or.inl ⟨_, rfl⟩) dX11_name_19 hw
end
theorem kX11_name {l : Launch} (hl : l.stackTraces = false) {G : gE} {P : Option Nat → hSt → Prop} {PX : Nat → Nat → hSt → Prop} {v0 : Option Nat} {z : hSt} : cM l G yX11_name (ws_ yX11_name cX11_name 2 (Option.some (Jvm.ClassFile.FieldType.object "ExcuseLedger$Name"))) 17 307 z [va_rf v0] (wX11_name G P PX v0 z) (pR P) PX := by
  refine m_of hl (plainFor_of_name (by decide)) (by rw [lg_sl1 (va_rf_cat _)]; exact Nat.le_of_ble_eq_true rfl) ?_
  intro p e s m args below meth c C hr hin hT hmc hw
  rw [lv_args1 (va_rf_cat _)]
  intro H locs ls hS hl
  exact kX11_nameb0 C hr hin hT hmc hw H locs ls hS (lv_sub hl [0] rfl)
theorem hdX11_name : yX11_name.cls ≠ "java/lang/invoke/MethodHandle" ∧ yX11_name.cls ≠ "java/lang/invoke/VarHandle" ∧ (parseMethodDescriptor yX11_name.desc).map (fun d => d.parameters.length) = some 0 := ⟨by decide +kernel, by decide +kernel, by decide +kernel⟩
abbrev rmX11_behind (mc ms : Nat) : Room := { frames := 17, cells := mc, slots := ms, locals := 307 }
def wX11_behindb0 (G : gE) (P : Int32 → hSt → Prop) (PX : Nat → Nat → hSt → Prop)  (v0 : Option Nat) (v1 : Int32) (z : hSt) : Prop :=
  (rcv z v0 10 ∧ wX11_next G (fun x2 z1 => (rcv z1 v0 10 ∧ wX11_digit G (fun x4 z3 => P x4 z3) PX v0  z1)) PX v0 v1 v1 z)
def wX11_behind (G : gE) (P : Int32 → hSt → Prop) (PX : Nat → Nat → hSt → Prop) (v0 : Option Nat) (v1 : Int32) (z : hSt) : Prop := wX11_behindb0 G P PX v0 v1 z
section
variable {p : Program} {l : Launch} {e : Env} {s : State} {m : MethodId} {args : Array Value} {below : List Frame} {meth : Method} {c : Code} {G : gE} {mc ms : Nat} {P : Int32 → hSt → Prop} {PX : Nat → Nat → hSt → Prop}
theorem kX11_behindb0 (C : xC G p l s m args meth c cX11_behind 3 "ExcuseLedger$Parser") (hr : meth.sig.returnType = (Option.some Jvm.ClassFile.FieldType.int)) (hin : meth.name = "behind") (hT : ∀ x ∈ c.exceptionTable.toList, False) (hmc : mc = gL G - s.heap.size ∧ ms = gU G - hsum s.heap)   {v0 : Option Nat} {v1 : Int32} {z : hSt} (hw : wX11_behindb0 G P PX  v0 v1 z) : kt G p l e (rmX11_behind mc ms) s m args below meth c 3 (vx_MQ below (cQ G (pI P)) (cX G PX) args s mc ms (gF G)) 0 [(0, va_rf v0), (1, .int v1)] [] z := by
  intro H locs ls hS hl
  refine r_aload_n C.1 C.2.1 dX11_behind_0 rfl (lv_at hl 0 rfl) ?_
  refine lv_iload_n C.1 C.2.1 dX11_behind_1 rfl (lv_at hl 1 rfl) ?_
  refine lv_iload_n C.1 C.2.1 dX11_behind_2 rfl (lv_at hl 1 rfl) ?_
  refine c_V C hS hmc hl.1 (ci := 10) rfl hw.1 (kX11_next C.2.2.2.2.2.2.1) hw.2 (lw_V q3039 q3041 qs22 q130 q3042) ⟨rfl, hdX11_next⟩ ⟨Nat.le_of_ble_eq_true rfl, Nat.le_of_ble_eq_true rfl⟩ (rest := []) rfl rfl (Nat.le_of_ble_eq_true rfl) dX11_behind_3 (fun ci q z H locs hx hS ht => r_out C hS hmc (fun x hx => (hT x hx).elim) ht hx) (fun v z1 H locs hv hS => ?_)
  obtain ⟨x2, rfl, hw⟩ := hv
  refine r_istore_n C.1 C.2.1 dX11_behind_6 rfl hl (Nat.le_of_ble_eq_true rfl) (ls_new (ls_old 0 rfl rfl (.inl rfl) ls_nil)) (fun ls hl => ?_)
  refine r_aload_n C.1 C.2.1 dX11_behind_7 rfl (lv_at hl 1 rfl) ?_
  refine c_V C hS hmc hl.1 (ci := 10) rfl hw.1 (kX11_digit C.2.2.2.2.2.2.1) hw.2 (lw_V q3035 q3037 qs21 q130 q3038) ⟨rfl, hdX11_digit⟩ ⟨Nat.le_of_ble_eq_true rfl, Nat.le_of_ble_eq_true rfl⟩ (rest := []) rfl rfl (Nat.le_of_ble_eq_true rfl) dX11_behind_8 (fun ci q z H locs hx hS ht => r_out C hS hmc (fun x hx => (hT x hx).elim) ht hx) (fun v z3 H locs hv hS => ?_)
  obtain ⟨x4, rfl, hw⟩ := hv
  exact r_iret C hS hmc hr dX11_behind_11 hw
end
theorem kX11_behind {l : Launch} (hl : l.stackTraces = false) {G : gE} {P : Int32 → hSt → Prop} {PX : Nat → Nat → hSt → Prop} {v0 : Option Nat} {v1 : Int32} {z : hSt} : cM l G yX11_behind (ws_ yX11_behind cX11_behind 3 (Option.some Jvm.ClassFile.FieldType.int)) 17 307 z [va_rf v0, .int v1] (wX11_behind G P PX v0 v1 z) (pI P) PX := by
  refine m_of hl (plainFor_of_name (by decide)) (by rw [lg_sl1 (va_rf_cat _), lg_sl1 rfl]; exact Nat.le_of_ble_eq_true rfl) ?_
  intro p e s m args below meth c C hr hin hT hmc hw
  rw [lv_args1 (va_rf_cat _), lv_args1 rfl]
  intro H locs ls hS hl
  exact kX11_behindb0 C hr hin hT hmc hw H locs ls hS (lv_sub hl [0, 1] rfl)
theorem hdX11_behind : yX11_behind.cls ≠ "java/lang/invoke/MethodHandle" ∧ yX11_behind.cls ≠ "java/lang/invoke/VarHandle" ∧ (parseMethodDescriptor yX11_behind.desc).map (fun d => d.parameters.length) = some 1 := ⟨by decide +kernel, by decide +kernel, by decide +kernel⟩
abbrev rmX11_one (mc ms : Nat) : Room := { frames := 18, cells := mc, slots := ms, locals := 329 }
def wX11_oneb270 (G : gE) (P : Option Nat → hSt → Prop) (PX : Nat → Nat → hSt → Prop)   (z : hSt) : Prop :=
  wX1_command G (fun x54 z53 => P x54 z53) PX (some (gA G 9)) (-1) none (-1) z
def wX11_oneb0 (G : gE) (P : Option Nat → hSt → Prop) (PX : Nat → Nat → hSt → Prop)  (v0 : Option Nat) (z : hSt) : Prop :=
  (rcv z v0 10 ∧ wX11_place G (fun x2 z1 => (rcv z1 (some (gA G 16)) 17 ∧ wJ10_charAt G (fun x4 z3 => ((x4 = 98 → (rcv z3 v0 10 ∧ wX11_name G (fun x6 z5 => wX1_command G (fun x8 z7 => P x8 z7) PX (some (gA G 4)) (-1) x6 (-1) z5) PX v0  z3)) ∧ (x4 = 107 → (rcv z3 v0 10 ∧ wX11_name G (fun x10 z9 => wX1_command G (fun x12 z11 => P x12 z11) PX (some (gA G 2)) (-1) x10 (-1) z9) PX v0  z3)) ∧ (x4 = 108 → (rcv z3 v0 10 ∧ wX11_name G (fun x14 z13 => (rcv z13 v0 10 ∧ wX11_behind G (fun x16 z15 => (rcv z15 v0 10 ∧ wX11_behind G (fun x18 z17 => wX1_command G (fun x20 z19 => P x20 z19) PX (some (gA G 3)) x16 x14 x18 z17) PX v0 43 z15)) PX v0 62 z13)) PX v0  z3)) ∧ (x4 = 109 → (rcv z3 v0 10 ∧ wX11_name G (fun x22 z21 => (rcv z21 v0 10 ∧ wX11_behind G (fun x24 z23 => wX1_command G (fun x26 z25 => P x26 z25) PX (some (gA G 5)) (-1) x22 x24 z23) PX v0 45 z21)) PX v0  z3)) ∧ (x4 = 110 → (rcv z3 v0 10 ∧ wX11_digit G (fun x28 z27 => (rcv z27 v0 10 ∧ wX11_name G (fun x30 z29 => (rcv z29 v0 10 ∧ wX11_behind G (fun x32 z31 => wX1_command G (fun x34 z33 => P x34 z33) PX (some (gA G 1)) x28 x30 x32 z31) PX v0 42 z29)) PX v0  z27)) PX v0  z3)) ∧ (x4 = 115 → (rcv z3 v0 10 ∧ wX11_digit G (fun x36 z35 => (rcv z35 v0 10 ∧ wX11_behind G (fun x38 z37 => wX1_command G (fun x40 z39 => P x40 z39) PX (some (gA G 7)) x36 none x38 z37) PX v0 61 z35)) PX v0  z3)) ∧ (x4 = 117 → (rcv z3 v0 10 ∧ wX11_digit G (fun x42 z41 => (rcv z41 v0 10 ∧ wX11_name G (fun x44 z43 => (rcv z43 v0 10 ∧ wX11_behind G (fun x46 z45 => wX1_command G (fun x48 z47 => P x48 z47) PX (some (gA G 6)) x42 x44 x46 z45) PX v0 64 z43)) PX v0  z41)) PX v0  z3)) ∧ (x4 = 119 → (rcv z3 v0 10 ∧ wX11_digit G (fun x50 z49 => wX1_command G (fun x52 z51 => P x52 z51) PX (some (gA G 8)) (-1) none x50 z49) PX v0  z3)) ∧ (x4 ∉ ([98, 107, 108, 109, 110, 115, 117, 119] : List Int32) → wX11_oneb270 G P PX   z3))) PX (some (gA G 16)) x2 z1)) PX v0 (some (gA G 16)) z)
def wX11_one (G : gE) (P : Option Nat → hSt → Prop) (PX : Nat → Nat → hSt → Prop) (v0 : Option Nat) (z : hSt) : Prop := wX11_oneb0 G P PX v0 z
section
variable {p : Program} {l : Launch} {e : Env} {s : State} {m : MethodId} {args : Array Value} {below : List Frame} {meth : Method} {c : Code} {G : gE} {mc ms : Nat} {P : Option Nat → hSt → Prop} {PX : Nat → Nat → hSt → Prop}
theorem kX11_oneb270 (C : xC G p l s m args meth c cX11_one 5 "ExcuseLedger$Parser") (hr : meth.sig.returnType = (Option.some (Jvm.ClassFile.FieldType.object "ExcuseLedger$Command"))) (hin : meth.name = "one") (hT : ∀ x ∈ c.exceptionTable.toList, False) (hmc : mc = gL G - s.heap.size ∧ ms = gU G - hsum s.heap)    {z : hSt} (hw : wX11_oneb270 G P PX   z) : kt G p l e (rmX11_one mc ms) s m args below meth c 5 (vx_MQ below (cQ G (pR P)) (cX G PX) args s mc ms (gF G)) 270 [] [] z := by
  intro H locs ls hS hl
  refine r_ldcS C (k := 9) (tx := "day") (by decide +kernel) dX11_one_270 ?_
  refine lv_iconst C.1 C.2.1 (v := (-1)) dX11_one_272 rfl ?_
  refine r_null C dX11_one_273 ?_
  refine lv_iconst C.1 C.2.1 (v := (-1)) dX11_one_274 rfl ?_
  refine c_SN C hS hmc hl.1 (kX1_command C.2.2.2.2.2.2.1) hw q418 q3056 q67 q417 hdX1_command ⟨Nat.le_of_ble_eq_true rfl, Nat.le_of_ble_eq_true rfl⟩ (rest := []) rfl rfl (Nat.le_of_ble_eq_true rfl) dX11_one_275 (fun ci q z H locs hx hS ht => r_out C hS hmc (fun x hx => (hT x hx).elim) ht hx) (fun v z53 H locs hv hS => ?_)
  obtain ⟨x54, rfl, hw⟩ := hv
  exact r_aret C hS hmc hr (Or.inl ⟨_, rfl⟩) dX11_one_278 hw
theorem kX11_oneb0 (C : xC G p l s m args meth c cX11_one 5 "ExcuseLedger$Parser") (hr : meth.sig.returnType = (Option.some (Jvm.ClassFile.FieldType.object "ExcuseLedger$Command"))) (hin : meth.name = "one") (hT : ∀ x ∈ c.exceptionTable.toList, False) (hmc : mc = gL G - s.heap.size ∧ ms = gU G - hsum s.heap)   {v0 : Option Nat} {z : hSt} (hw : wX11_oneb0 G P PX  v0 z) : kt G p l e (rmX11_one mc ms) s m args below meth c 5 (vx_MQ below (cQ G (pR P)) (cX G PX) args s mc ms (gF G)) 0 [(0, va_rf v0)] [] z := by
  intro H locs ls hS hl
  refine r_ldcS C (k := 16) (tx := "nklbmuswe") (by decide +kernel) dX11_one_0 ?_
  refine r_astore_n C.1 C.2.1 dX11_one_2 rfl hl (Nat.le_of_ble_eq_true rfl) (ls_new (ls_old 0 rfl rfl (.inr (va_rf_cat _)) ls_nil)) (fun ls hl => ?_)
  refine r_aload_n C.1 C.2.1 dX11_one_3 rfl (lv_at hl 0 rfl) ?_
  refine r_aload_n C.1 C.2.1 dX11_one_4 rfl (lv_at hl 1 rfl) ?_
  refine r_aload_n C.1 C.2.1 dX11_one_5 rfl (lv_at hl 0 rfl) ?_
  refine c_V C hS hmc hl.1 (ci := 10) rfl hw.1 (kX11_place C.2.2.2.2.2.2.1) hw.2 (lw_V q2935 q2937 qs19 q130 q2938) ⟨rfl, hdX11_place⟩ ⟨Nat.le_of_ble_eq_true rfl, Nat.le_of_ble_eq_true rfl⟩ (rest := [va_rf (some (gA G 16))]) rfl rfl (Nat.le_of_ble_eq_true rfl) dX11_one_6 (fun ci q z H locs hx hS ht => r_out C hS hmc (fun x hx => (hT x hx).elim) ht hx) (fun v z1 H locs hv hS => ?_)
  obtain ⟨x2, rfl, hw⟩ := hv
  refine c_V C hS hmc hl.1 (ci := 17) rfl hw.1 (kJ10_charAt C.2.2.2.2.2.2.1) hw.2 (lw_V q3034 q2697 q2698 q81 q2699) ⟨rfl, hdJ10_charAt⟩ ⟨Nat.le_of_ble_eq_true rfl, Nat.le_of_ble_eq_true rfl⟩ (rest := []) rfl rfl (Nat.le_of_ble_eq_true rfl) dX11_one_9 (fun ci q z H locs hx hS ht => r_out C hS hmc (fun x hx => (hT x hx).elim) ht hx) (fun v z3 H locs hv hS => ?_)
  obtain ⟨x4, rfl, hw⟩ := hv
  refine r_istore_n C.1 C.2.1 dX11_one_12 rfl hl (Nat.le_of_ble_eq_true rfl) (ls_new (ls_old 1 rfl rfl (.inl rfl) ls_nil)) (fun ls hl => ?_)
  refine lv_iload_n C.1 C.2.1 dX11_one_13 rfl (lv_at hl 0 rfl) ?_
  refine r_tsw C dX11_one_14 (dt := 270) rfl (tgts := [182, 270, 270, 270, 270, 270, 270, 270, 270, 142, 154, 194, 116, 270, 270, 270, 270, 239, 270, 213, 270, 258]) rfl (Nat.le_of_ble_eq_true rfl) (fun i t ht hx => ?_) (fun ho => ?_)
  · match i, ht, hx with
    | 0, ht, hx =>
      cases ht
      have hw := hw.1 (sw_eq 98 hx rfl)
      refine r_ldcS C (k := 4) (tx := "back") (by decide +kernel) dX11_one_182 ?_
      refine lv_iconst C.1 C.2.1 (v := (-1)) dX11_one_184 rfl ?_
      refine r_aload_n C.1 C.2.1 dX11_one_185 rfl (lv_at hl 1 rfl) ?_
      refine c_V C hS hmc hl.1 (ci := 10) rfl hw.1 (kX11_name C.2.2.2.2.2.2.1) hw.2 (lw_V q3044 q3046 qs23 q130 q3047) ⟨rfl, hdX11_name⟩ ⟨Nat.le_of_ble_eq_true rfl, Nat.le_of_ble_eq_true rfl⟩ (rest := [.int (-1), va_rf (some (gA G 4))]) rfl rfl (Nat.le_of_ble_eq_true rfl) dX11_one_186 (fun ci q z H locs hx hS ht => r_out C hS hmc (fun x hx => (hT x hx).elim) ht hx) (fun v z5 H locs hv hS => ?_)
      obtain ⟨x6, rfl, hw⟩ := hv
      refine lv_iconst C.1 C.2.1 (v := (-1)) dX11_one_189 rfl ?_
      refine c_SN C hS hmc hl.1 (kX1_command C.2.2.2.2.2.2.1) hw q418 q3056 q67 q417 hdX1_command ⟨Nat.le_of_ble_eq_true rfl, Nat.le_of_ble_eq_true rfl⟩ (rest := []) rfl rfl (Nat.le_of_ble_eq_true rfl) dX11_one_190 (fun ci q z H locs hx hS ht => r_out C hS hmc (fun x hx => (hT x hx).elim) ht hx) (fun v z7 H locs hv hS => ?_)
      obtain ⟨x8, rfl, hw⟩ := hv
      exact r_aret C hS hmc hr (Or.inl ⟨_, rfl⟩) dX11_one_193 hw
    | 1, ht, hx =>
      cases ht
      have hw := hw.2.2.2.2.2.2.2.2 (by rw [sw_eq 99 hx rfl]; decide)
      exact kX11_oneb270 C hr hin hT hmc  hw H locs ls hS (lv_sub hl [] rfl)
    | 2, ht, hx =>
      cases ht
      have hw := hw.2.2.2.2.2.2.2.2 (by rw [sw_eq 100 hx rfl]; decide)
      exact kX11_oneb270 C hr hin hT hmc  hw H locs ls hS (lv_sub hl [] rfl)
    | 3, ht, hx =>
      cases ht
      have hw := hw.2.2.2.2.2.2.2.2 (by rw [sw_eq 101 hx rfl]; decide)
      exact kX11_oneb270 C hr hin hT hmc  hw H locs ls hS (lv_sub hl [] rfl)
    | 4, ht, hx =>
      cases ht
      have hw := hw.2.2.2.2.2.2.2.2 (by rw [sw_eq 102 hx rfl]; decide)
      exact kX11_oneb270 C hr hin hT hmc  hw H locs ls hS (lv_sub hl [] rfl)
    | 5, ht, hx =>
      cases ht
      have hw := hw.2.2.2.2.2.2.2.2 (by rw [sw_eq 103 hx rfl]; decide)
      exact kX11_oneb270 C hr hin hT hmc  hw H locs ls hS (lv_sub hl [] rfl)
    | 6, ht, hx =>
      cases ht
      have hw := hw.2.2.2.2.2.2.2.2 (by rw [sw_eq 104 hx rfl]; decide)
      exact kX11_oneb270 C hr hin hT hmc  hw H locs ls hS (lv_sub hl [] rfl)
    | 7, ht, hx =>
      cases ht
      have hw := hw.2.2.2.2.2.2.2.2 (by rw [sw_eq 105 hx rfl]; decide)
      exact kX11_oneb270 C hr hin hT hmc  hw H locs ls hS (lv_sub hl [] rfl)
    | 8, ht, hx =>
      cases ht
      have hw := hw.2.2.2.2.2.2.2.2 (by rw [sw_eq 106 hx rfl]; decide)
      exact kX11_oneb270 C hr hin hT hmc  hw H locs ls hS (lv_sub hl [] rfl)
    | 9, ht, hx =>
      cases ht
      have hw := hw.2.1 (sw_eq 107 hx rfl)
      refine r_ldcS C (k := 2) (tx := "strike") (by decide +kernel) dX11_one_142 ?_
      refine lv_iconst C.1 C.2.1 (v := (-1)) dX11_one_144 rfl ?_
      refine r_aload_n C.1 C.2.1 dX11_one_145 rfl (lv_at hl 1 rfl) ?_
      refine c_V C hS hmc hl.1 (ci := 10) rfl hw.1 (kX11_name C.2.2.2.2.2.2.1) hw.2 (lw_V q3044 q3046 qs23 q130 q3047) ⟨rfl, hdX11_name⟩ ⟨Nat.le_of_ble_eq_true rfl, Nat.le_of_ble_eq_true rfl⟩ (rest := [.int (-1), va_rf (some (gA G 2))]) rfl rfl (Nat.le_of_ble_eq_true rfl) dX11_one_146 (fun ci q z H locs hx hS ht => r_out C hS hmc (fun x hx => (hT x hx).elim) ht hx) (fun v z9 H locs hv hS => ?_)
      obtain ⟨x10, rfl, hw⟩ := hv
      refine lv_iconst C.1 C.2.1 (v := (-1)) dX11_one_149 rfl ?_
      refine c_SN C hS hmc hl.1 (kX1_command C.2.2.2.2.2.2.1) hw q418 q3056 q67 q417 hdX1_command ⟨Nat.le_of_ble_eq_true rfl, Nat.le_of_ble_eq_true rfl⟩ (rest := []) rfl rfl (Nat.le_of_ble_eq_true rfl) dX11_one_150 (fun ci q z H locs hx hS ht => r_out C hS hmc (fun x hx => (hT x hx).elim) ht hx) (fun v z11 H locs hv hS => ?_)
      obtain ⟨x12, rfl, hw⟩ := hv
      exact r_aret C hS hmc hr (Or.inl ⟨_, rfl⟩) dX11_one_153 hw
    | 10, ht, hx =>
      cases ht
      have hw := hw.2.2.1 (sw_eq 108 hx rfl)
      refine r_aload_n C.1 C.2.1 dX11_one_154 rfl (lv_at hl 1 rfl) ?_
      refine c_V C hS hmc hl.1 (ci := 10) rfl hw.1 (kX11_name C.2.2.2.2.2.2.1) hw.2 (lw_V q3044 q3046 qs23 q130 q3047) ⟨rfl, hdX11_name⟩ ⟨Nat.le_of_ble_eq_true rfl, Nat.le_of_ble_eq_true rfl⟩ (rest := []) rfl rfl (Nat.le_of_ble_eq_true rfl) dX11_one_155 (fun ci q z H locs hx hS ht => r_out C hS hmc (fun x hx => (hT x hx).elim) ht hx) (fun v z13 H locs hv hS => ?_)
      obtain ⟨x14, rfl, hw⟩ := hv
      refine r_astore_n C.1 C.2.1 dX11_one_158 rfl hl (Nat.le_of_ble_eq_true rfl) (ls_new (ls_old 1 rfl rfl (.inl rfl) ls_nil)) (fun ls hl => ?_)
      refine r_aload_n C.1 C.2.1 dX11_one_159 rfl (lv_at hl 1 rfl) ?_
      refine lv_bipush C.1 C.2.1 (v := 62) dX11_one_160 rfl ?_
      refine c_V C hS hmc hl.1 (ci := 10) rfl hw.1 (kX11_behind C.2.2.2.2.2.2.1) hw.2 (lw_V q3052 q3054 qs24 q130 q3055) ⟨rfl, hdX11_behind⟩ ⟨Nat.le_of_ble_eq_true rfl, Nat.le_of_ble_eq_true rfl⟩ (rest := []) rfl rfl (Nat.le_of_ble_eq_true rfl) dX11_one_162 (fun ci q z H locs hx hS ht => r_out C hS hmc (fun x hx => (hT x hx).elim) ht hx) (fun v z15 H locs hv hS => ?_)
      obtain ⟨x16, rfl, hw⟩ := hv
      refine r_istore C.1 C.2.1 dX11_one_165 hl (Nat.le_of_ble_eq_true rfl) (ls_new (ls_old 0 rfl rfl (.inr (va_rf_cat _)) (ls_old 1 rfl rfl (.inl rfl) ls_nil))) (fun ls hl => ?_)
      refine r_ldcS C (k := 3) (tx := "lend") (by decide +kernel) dX11_one_167 ?_
      refine lv_iload C.1 C.2.1 dX11_one_169 (lv_at hl 0 rfl) ?_
      refine r_aload_n C.1 C.2.1 dX11_one_171 rfl (lv_at hl 1 rfl) ?_
      refine r_aload_n C.1 C.2.1 dX11_one_172 rfl (lv_at hl 2 rfl) ?_
      refine lv_bipush C.1 C.2.1 (v := 43) dX11_one_173 rfl ?_
      refine c_V C hS hmc hl.1 (ci := 10) rfl hw.1 (kX11_behind C.2.2.2.2.2.2.1) hw.2 (lw_V q3052 q3054 qs24 q130 q3055) ⟨rfl, hdX11_behind⟩ ⟨Nat.le_of_ble_eq_true rfl, Nat.le_of_ble_eq_true rfl⟩ (rest := [va_rf x14, .int x16, va_rf (some (gA G 3))]) rfl rfl (Nat.le_of_ble_eq_true rfl) dX11_one_175 (fun ci q z H locs hx hS ht => r_out C hS hmc (fun x hx => (hT x hx).elim) ht hx) (fun v z17 H locs hv hS => ?_)
      obtain ⟨x18, rfl, hw⟩ := hv
      refine c_SN C hS hmc hl.1 (kX1_command C.2.2.2.2.2.2.1) hw q418 q3056 q67 q417 hdX1_command ⟨Nat.le_of_ble_eq_true rfl, Nat.le_of_ble_eq_true rfl⟩ (rest := []) rfl rfl (Nat.le_of_ble_eq_true rfl) dX11_one_178 (fun ci q z H locs hx hS ht => r_out C hS hmc (fun x hx => (hT x hx).elim) ht hx) (fun v z19 H locs hv hS => ?_)
      obtain ⟨x20, rfl, hw⟩ := hv
      exact r_aret C hS hmc hr (Or.inl ⟨_, rfl⟩) dX11_one_181 hw
    | 11, ht, hx =>
      cases ht
      have hw := hw.2.2.2.1 (sw_eq 109 hx rfl)
      refine r_aload_n C.1 C.2.1 dX11_one_194 rfl (lv_at hl 1 rfl) ?_
      refine c_V C hS hmc hl.1 (ci := 10) rfl hw.1 (kX11_name C.2.2.2.2.2.2.1) hw.2 (lw_V q3044 q3046 qs23 q130 q3047) ⟨rfl, hdX11_name⟩ ⟨Nat.le_of_ble_eq_true rfl, Nat.le_of_ble_eq_true rfl⟩ (rest := []) rfl rfl (Nat.le_of_ble_eq_true rfl) dX11_one_195 (fun ci q z H locs hx hS ht => r_out C hS hmc (fun x hx => (hT x hx).elim) ht hx) (fun v z21 H locs hv hS => ?_)
      obtain ⟨x22, rfl, hw⟩ := hv
      refine r_astore_n C.1 C.2.1 dX11_one_198 rfl hl (Nat.le_of_ble_eq_true rfl) (ls_new (ls_old 1 rfl rfl (.inl rfl) ls_nil)) (fun ls hl => ?_)
      refine r_ldcS C (k := 5) (tx := "mend") (by decide +kernel) dX11_one_199 ?_
      refine lv_iconst C.1 C.2.1 (v := (-1)) dX11_one_201 rfl ?_
      refine r_aload_n C.1 C.2.1 dX11_one_202 rfl (lv_at hl 0 rfl) ?_
      refine r_aload_n C.1 C.2.1 dX11_one_203 rfl (lv_at hl 1 rfl) ?_
      refine lv_bipush C.1 C.2.1 (v := 45) dX11_one_204 rfl ?_
      refine c_V C hS hmc hl.1 (ci := 10) rfl hw.1 (kX11_behind C.2.2.2.2.2.2.1) hw.2 (lw_V q3052 q3054 qs24 q130 q3055) ⟨rfl, hdX11_behind⟩ ⟨Nat.le_of_ble_eq_true rfl, Nat.le_of_ble_eq_true rfl⟩ (rest := [va_rf x22, .int (-1), va_rf (some (gA G 5))]) rfl rfl (Nat.le_of_ble_eq_true rfl) dX11_one_206 (fun ci q z H locs hx hS ht => r_out C hS hmc (fun x hx => (hT x hx).elim) ht hx) (fun v z23 H locs hv hS => ?_)
      obtain ⟨x24, rfl, hw⟩ := hv
      refine c_SN C hS hmc hl.1 (kX1_command C.2.2.2.2.2.2.1) hw q418 q3056 q67 q417 hdX1_command ⟨Nat.le_of_ble_eq_true rfl, Nat.le_of_ble_eq_true rfl⟩ (rest := []) rfl rfl (Nat.le_of_ble_eq_true rfl) dX11_one_209 (fun ci q z H locs hx hS ht => r_out C hS hmc (fun x hx => (hT x hx).elim) ht hx) (fun v z25 H locs hv hS => ?_)
      obtain ⟨x26, rfl, hw⟩ := hv
      exact r_aret C hS hmc hr (Or.inl ⟨_, rfl⟩) dX11_one_212 hw
    | 12, ht, hx =>
      cases ht
      have hw := hw.2.2.2.2.1 (sw_eq 110 hx rfl)
      refine r_aload_n C.1 C.2.1 dX11_one_116 rfl (lv_at hl 1 rfl) ?_
      refine c_V C hS hmc hl.1 (ci := 10) rfl hw.1 (kX11_digit C.2.2.2.2.2.2.1) hw.2 (lw_V q3035 q3037 qs21 q130 q3038) ⟨rfl, hdX11_digit⟩ ⟨Nat.le_of_ble_eq_true rfl, Nat.le_of_ble_eq_true rfl⟩ (rest := []) rfl rfl (Nat.le_of_ble_eq_true rfl) dX11_one_117 (fun ci q z H locs hx hS ht => r_out C hS hmc (fun x hx => (hT x hx).elim) ht hx) (fun v z27 H locs hv hS => ?_)
      obtain ⟨x28, rfl, hw⟩ := hv
      refine r_istore_n C.1 C.2.1 dX11_one_120 rfl hl (Nat.le_of_ble_eq_true rfl) (ls_new (ls_old 1 rfl rfl (.inl rfl) ls_nil)) (fun ls hl => ?_)
      refine r_aload_n C.1 C.2.1 dX11_one_121 rfl (lv_at hl 1 rfl) ?_
      refine c_V C hS hmc hl.1 (ci := 10) rfl hw.1 (kX11_name C.2.2.2.2.2.2.1) hw.2 (lw_V q3044 q3046 qs23 q130 q3047) ⟨rfl, hdX11_name⟩ ⟨Nat.le_of_ble_eq_true rfl, Nat.le_of_ble_eq_true rfl⟩ (rest := []) rfl rfl (Nat.le_of_ble_eq_true rfl) dX11_one_122 (fun ci q z H locs hx hS ht => r_out C hS hmc (fun x hx => (hT x hx).elim) ht hx) (fun v z29 H locs hv hS => ?_)
      obtain ⟨x30, rfl, hw⟩ := hv
      refine r_astore C.1 C.2.1 dX11_one_125 hl (Nat.le_of_ble_eq_true rfl) (ls_new (ls_old 0 rfl rfl (.inr rfl) (ls_old 1 rfl rfl (.inl rfl) ls_nil))) (fun ls hl => ?_)
      refine r_ldcS C (k := 1) (tx := "enter") (by decide +kernel) dX11_one_127 ?_
      refine lv_iload_n C.1 C.2.1 dX11_one_129 rfl (lv_at hl 1 rfl) ?_
      refine r_aload C.1 C.2.1 dX11_one_130 (lv_at hl 0 rfl) ?_
      refine r_aload_n C.1 C.2.1 dX11_one_132 rfl (lv_at hl 2 rfl) ?_
      refine lv_bipush C.1 C.2.1 (v := 42) dX11_one_133 rfl ?_
      refine c_V C hS hmc hl.1 (ci := 10) rfl hw.1 (kX11_behind C.2.2.2.2.2.2.1) hw.2 (lw_V q3052 q3054 qs24 q130 q3055) ⟨rfl, hdX11_behind⟩ ⟨Nat.le_of_ble_eq_true rfl, Nat.le_of_ble_eq_true rfl⟩ (rest := [va_rf x30, .int x28, va_rf (some (gA G 1))]) rfl rfl (Nat.le_of_ble_eq_true rfl) dX11_one_135 (fun ci q z H locs hx hS ht => r_out C hS hmc (fun x hx => (hT x hx).elim) ht hx) (fun v z31 H locs hv hS => ?_)
      obtain ⟨x32, rfl, hw⟩ := hv
      refine c_SN C hS hmc hl.1 (kX1_command C.2.2.2.2.2.2.1) hw q418 q3056 q67 q417 hdX1_command ⟨Nat.le_of_ble_eq_true rfl, Nat.le_of_ble_eq_true rfl⟩ (rest := []) rfl rfl (Nat.le_of_ble_eq_true rfl) dX11_one_138 (fun ci q z H locs hx hS ht => r_out C hS hmc (fun x hx => (hT x hx).elim) ht hx) (fun v z33 H locs hv hS => ?_)
      obtain ⟨x34, rfl, hw⟩ := hv
      exact r_aret C hS hmc hr (Or.inl ⟨_, rfl⟩) dX11_one_141 hw
    | 13, ht, hx =>
      cases ht
      have hw := hw.2.2.2.2.2.2.2.2 (by rw [sw_eq 111 hx rfl]; decide)
      exact kX11_oneb270 C hr hin hT hmc  hw H locs ls hS (lv_sub hl [] rfl)
    | 14, ht, hx =>
      cases ht
      have hw := hw.2.2.2.2.2.2.2.2 (by rw [sw_eq 112 hx rfl]; decide)
      exact kX11_oneb270 C hr hin hT hmc  hw H locs ls hS (lv_sub hl [] rfl)
    | 15, ht, hx =>
      cases ht
      have hw := hw.2.2.2.2.2.2.2.2 (by rw [sw_eq 113 hx rfl]; decide)
      exact kX11_oneb270 C hr hin hT hmc  hw H locs ls hS (lv_sub hl [] rfl)
    | 16, ht, hx =>
      cases ht
      have hw := hw.2.2.2.2.2.2.2.2 (by rw [sw_eq 114 hx rfl]; decide)
      exact kX11_oneb270 C hr hin hT hmc  hw H locs ls hS (lv_sub hl [] rfl)
    | 17, ht, hx =>
      cases ht
      have hw := hw.2.2.2.2.2.1 (sw_eq 115 hx rfl)
      refine r_aload_n C.1 C.2.1 dX11_one_239 rfl (lv_at hl 1 rfl) ?_
      refine c_V C hS hmc hl.1 (ci := 10) rfl hw.1 (kX11_digit C.2.2.2.2.2.2.1) hw.2 (lw_V q3035 q3037 qs21 q130 q3038) ⟨rfl, hdX11_digit⟩ ⟨Nat.le_of_ble_eq_true rfl, Nat.le_of_ble_eq_true rfl⟩ (rest := []) rfl rfl (Nat.le_of_ble_eq_true rfl) dX11_one_240 (fun ci q z H locs hx hS ht => r_out C hS hmc (fun x hx => (hT x hx).elim) ht hx) (fun v z35 H locs hv hS => ?_)
      obtain ⟨x36, rfl, hw⟩ := hv
      refine r_istore_n C.1 C.2.1 dX11_one_243 rfl hl (Nat.le_of_ble_eq_true rfl) (ls_new (ls_old 1 rfl rfl (.inl rfl) ls_nil)) (fun ls hl => ?_)
      refine r_ldcS C (k := 7) (tx := "strict") (by decide +kernel) dX11_one_244 ?_
      refine lv_iload_n C.1 C.2.1 dX11_one_246 rfl (lv_at hl 0 rfl) ?_
      refine r_null C dX11_one_247 ?_
      refine r_aload_n C.1 C.2.1 dX11_one_248 rfl (lv_at hl 1 rfl) ?_
      refine lv_bipush C.1 C.2.1 (v := 61) dX11_one_249 rfl ?_
      refine c_V C hS hmc hl.1 (ci := 10) rfl hw.1 (kX11_behind C.2.2.2.2.2.2.1) hw.2 (lw_V q3052 q3054 qs24 q130 q3055) ⟨rfl, hdX11_behind⟩ ⟨Nat.le_of_ble_eq_true rfl, Nat.le_of_ble_eq_true rfl⟩ (rest := [va_rf none, .int x36, va_rf (some (gA G 7))]) rfl rfl (Nat.le_of_ble_eq_true rfl) dX11_one_251 (fun ci q z H locs hx hS ht => r_out C hS hmc (fun x hx => (hT x hx).elim) ht hx) (fun v z37 H locs hv hS => ?_)
      obtain ⟨x38, rfl, hw⟩ := hv
      refine c_SN C hS hmc hl.1 (kX1_command C.2.2.2.2.2.2.1) hw q418 q3056 q67 q417 hdX1_command ⟨Nat.le_of_ble_eq_true rfl, Nat.le_of_ble_eq_true rfl⟩ (rest := []) rfl rfl (Nat.le_of_ble_eq_true rfl) dX11_one_254 (fun ci q z H locs hx hS ht => r_out C hS hmc (fun x hx => (hT x hx).elim) ht hx) (fun v z39 H locs hv hS => ?_)
      obtain ⟨x40, rfl, hw⟩ := hv
      exact r_aret C hS hmc hr (Or.inl ⟨_, rfl⟩) dX11_one_257 hw
    | 18, ht, hx =>
      cases ht
      have hw := hw.2.2.2.2.2.2.2.2 (by rw [sw_eq 116 hx rfl]; decide)
      exact kX11_oneb270 C hr hin hT hmc  hw H locs ls hS (lv_sub hl [] rfl)
    | 19, ht, hx =>
      cases ht
      have hw := hw.2.2.2.2.2.2.1 (sw_eq 117 hx rfl)
      refine r_aload_n C.1 C.2.1 dX11_one_213 rfl (lv_at hl 1 rfl) ?_
      refine c_V C hS hmc hl.1 (ci := 10) rfl hw.1 (kX11_digit C.2.2.2.2.2.2.1) hw.2 (lw_V q3035 q3037 qs21 q130 q3038) ⟨rfl, hdX11_digit⟩ ⟨Nat.le_of_ble_eq_true rfl, Nat.le_of_ble_eq_true rfl⟩ (rest := []) rfl rfl (Nat.le_of_ble_eq_true rfl) dX11_one_214 (fun ci q z H locs hx hS ht => r_out C hS hmc (fun x hx => (hT x hx).elim) ht hx) (fun v z41 H locs hv hS => ?_)
      obtain ⟨x42, rfl, hw⟩ := hv
      refine r_istore_n C.1 C.2.1 dX11_one_217 rfl hl (Nat.le_of_ble_eq_true rfl) (ls_new (ls_old 1 rfl rfl (.inl rfl) ls_nil)) (fun ls hl => ?_)
      refine r_aload_n C.1 C.2.1 dX11_one_218 rfl (lv_at hl 1 rfl) ?_
      refine c_V C hS hmc hl.1 (ci := 10) rfl hw.1 (kX11_name C.2.2.2.2.2.2.1) hw.2 (lw_V q3044 q3046 qs23 q130 q3047) ⟨rfl, hdX11_name⟩ ⟨Nat.le_of_ble_eq_true rfl, Nat.le_of_ble_eq_true rfl⟩ (rest := []) rfl rfl (Nat.le_of_ble_eq_true rfl) dX11_one_219 (fun ci q z H locs hx hS ht => r_out C hS hmc (fun x hx => (hT x hx).elim) ht hx) (fun v z43 H locs hv hS => ?_)
      obtain ⟨x44, rfl, hw⟩ := hv
      refine r_astore C.1 C.2.1 dX11_one_222 hl (Nat.le_of_ble_eq_true rfl) (ls_new (ls_old 0 rfl rfl (.inr rfl) (ls_old 1 rfl rfl (.inl rfl) ls_nil))) (fun ls hl => ?_)
      refine r_ldcS C (k := 6) (tx := "use") (by decide +kernel) dX11_one_224 ?_
      refine lv_iload_n C.1 C.2.1 dX11_one_226 rfl (lv_at hl 1 rfl) ?_
      refine r_aload C.1 C.2.1 dX11_one_227 (lv_at hl 0 rfl) ?_
      refine r_aload_n C.1 C.2.1 dX11_one_229 rfl (lv_at hl 2 rfl) ?_
      refine lv_bipush C.1 C.2.1 (v := 64) dX11_one_230 rfl ?_
      refine c_V C hS hmc hl.1 (ci := 10) rfl hw.1 (kX11_behind C.2.2.2.2.2.2.1) hw.2 (lw_V q3052 q3054 qs24 q130 q3055) ⟨rfl, hdX11_behind⟩ ⟨Nat.le_of_ble_eq_true rfl, Nat.le_of_ble_eq_true rfl⟩ (rest := [va_rf x44, .int x42, va_rf (some (gA G 6))]) rfl rfl (Nat.le_of_ble_eq_true rfl) dX11_one_232 (fun ci q z H locs hx hS ht => r_out C hS hmc (fun x hx => (hT x hx).elim) ht hx) (fun v z45 H locs hv hS => ?_)
      obtain ⟨x46, rfl, hw⟩ := hv
      refine c_SN C hS hmc hl.1 (kX1_command C.2.2.2.2.2.2.1) hw q418 q3056 q67 q417 hdX1_command ⟨Nat.le_of_ble_eq_true rfl, Nat.le_of_ble_eq_true rfl⟩ (rest := []) rfl rfl (Nat.le_of_ble_eq_true rfl) dX11_one_235 (fun ci q z H locs hx hS ht => r_out C hS hmc (fun x hx => (hT x hx).elim) ht hx) (fun v z47 H locs hv hS => ?_)
      obtain ⟨x48, rfl, hw⟩ := hv
      exact r_aret C hS hmc hr (Or.inl ⟨_, rfl⟩) dX11_one_238 hw
    | 20, ht, hx =>
      cases ht
      have hw := hw.2.2.2.2.2.2.2.2 (by rw [sw_eq 118 hx rfl]; decide)
      exact kX11_oneb270 C hr hin hT hmc  hw H locs ls hS (lv_sub hl [] rfl)
    | 21, ht, hx =>
      cases ht
      have hw := hw.2.2.2.2.2.2.2.1 (sw_eq 119 hx rfl)
      refine r_ldcS C (k := 8) (tx := "weather") (by decide +kernel) dX11_one_258 ?_
      refine lv_iconst C.1 C.2.1 (v := (-1)) dX11_one_260 rfl ?_
      refine r_null C dX11_one_261 ?_
      refine r_aload_n C.1 C.2.1 dX11_one_262 rfl (lv_at hl 1 rfl) ?_
      refine c_V C hS hmc hl.1 (ci := 10) rfl hw.1 (kX11_digit C.2.2.2.2.2.2.1) hw.2 (lw_V q3035 q3037 qs21 q130 q3038) ⟨rfl, hdX11_digit⟩ ⟨Nat.le_of_ble_eq_true rfl, Nat.le_of_ble_eq_true rfl⟩ (rest := [va_rf none, .int (-1), va_rf (some (gA G 8))]) rfl rfl (Nat.le_of_ble_eq_true rfl) dX11_one_263 (fun ci q z H locs hx hS ht => r_out C hS hmc (fun x hx => (hT x hx).elim) ht hx) (fun v z49 H locs hv hS => ?_)
      obtain ⟨x50, rfl, hw⟩ := hv
      refine c_SN C hS hmc hl.1 (kX1_command C.2.2.2.2.2.2.1) hw q418 q3056 q67 q417 hdX1_command ⟨Nat.le_of_ble_eq_true rfl, Nat.le_of_ble_eq_true rfl⟩ (rest := []) rfl rfl (Nat.le_of_ble_eq_true rfl) dX11_one_266 (fun ci q z H locs hx hS ht => r_out C hS hmc (fun x hx => (hT x hx).elim) ht hx) (fun v z51 H locs hv hS => ?_)
      obtain ⟨x52, rfl, hw⟩ := hv
      exact r_aret C hS hmc hr (Or.inl ⟨_, rfl⟩) dX11_one_269 hw
    | i + 22, ht, hx => exact nomatch ht
  · have hw := hw.2.2.2.2.2.2.2.2 (sw_out ho (by decide))
    exact kX11_oneb270 C hr hin hT hmc  hw H locs ls hS (lv_sub hl [] rfl)
end
theorem kX11_one {l : Launch} (hl : l.stackTraces = false) {G : gE} {P : Option Nat → hSt → Prop} {PX : Nat → Nat → hSt → Prop} {v0 : Option Nat} {z : hSt} : cM l G yX11_one (ws_ yX11_one cX11_one 5 (Option.some (Jvm.ClassFile.FieldType.object "ExcuseLedger$Command"))) 18 329 z [va_rf v0] (wX11_one G P PX v0 z) (pR P) PX := by
  refine m_of hl (plainFor_of_name (by decide)) (by rw [lg_sl1 (va_rf_cat _)]; exact Nat.le_of_ble_eq_true rfl) ?_
  intro p e s m args below meth c C hr hin hT hmc hw
  rw [lv_args1 (va_rf_cat _)]
  intro H locs ls hS hl
  exact kX11_oneb0 C hr hin hT hmc hw H locs ls hS (lv_sub hl [0] rfl)
theorem hdX11_one : yX11_one.cls ≠ "java/lang/invoke/MethodHandle" ∧ yX11_one.cls ≠ "java/lang/invoke/VarHandle" ∧ (parseMethodDescriptor yX11_one.desc).map (fun d => d.parameters.length) = some 0 := ⟨by decide +kernel, by decide +kernel, by decide +kernel⟩
abbrev rmX11_all (mc ms : Nat) : Room := { frames := 19, cells := mc, slots := ms, locals := 353 }
def wX11_allb12 (G : gE) (P : hSt → Prop) (PX : Nat → Nat → hSt → Prop) (K12 : (Option Nat × hSt) → Prop) (v0 : Option Nat) (z : hSt) : Prop :=
  gtI z v0 [10] 2 (fun x6 => gtR z v0 [10] 0 (fun x7 => (rcv z x7 17 ∧ wJ10_length G (fun x9 z8 => ((x9 ≤ x6 → P z8) ∧ (¬ x9 ≤ x6 → (rcv z8 v0 10 ∧ wX11_next G (fun x11 z10 => gtR z10 v0 [10] 1 (fun x12 => (rcv z10 v0 10 ∧ wX11_one G (fun x14 z13 => (rcv z13 x12 15 ∧ wJ7_add G (fun x16 z15 => K12 (v0, z15)) PX x12 x14 z13)) PX v0  z10))) PX v0 59 59 z8)))) PX x7  z)))
def wX11_allb0 (G : gE) (P : hSt → Prop) (PX : Nat → Nat → hSt → Prop)  (v0 : Option Nat) (z : hSt) : Prop :=
  gtR z v0 [10] 1 (fun x1 => (rcv z v0 10 ∧ wX11_one G (fun x3 z2 => (rcv z2 x1 15 ∧ wJ7_add G (fun x5 z4 => lpI (fun (K12 : (Option Nat × hSt) → Prop) (y : (Option Nat × hSt)) => wX11_allb12 G P PX  K12 (y.1) (y.2)) (v0, z4)) PX x1 x3 z2)) PX v0  z))
def wX11_all (G : gE) (P : hSt → Prop) (PX : Nat → Nat → hSt → Prop) (v0 : Option Nat) (z : hSt) : Prop := wX11_allb0 G P PX v0 z
section
variable {p : Program} {l : Launch} {e : Env} {s : State} {m : MethodId} {args : Array Value} {below : List Frame} {meth : Method} {c : Code} {G : gE} {mc ms : Nat} {P : hSt → Prop} {PX : Nat → Nat → hSt → Prop}
theorem kX11_allb12 (C : xC G p l s m args meth c cX11_all 2 "ExcuseLedger$Parser") (hr : meth.sig.returnType = (Option.none : Option Jvm.ClassFile.FieldType)) (hin : meth.name = "all") (hT : ∀ x ∈ c.exceptionTable.toList, False) (hmc : mc = gL G - s.heap.size ∧ ms = gU G - hsum s.heap) {K12 : (Option Nat × hSt) → Prop} (hK12 : ∀ y : (Option Nat × hSt), K12 y → kt G p l e (rmX11_all mc ms) s m args below meth c 2 (vx_MQ below (cQ G (pV P)) (cX G PX) args s mc ms (gF G)) 12 [(0, va_rf (y.1))] [] (y.2)) {v0 : Option Nat} {z : hSt} (hw : wX11_allb12 G P PX K12 v0 z) : kt G p l e (rmX11_all mc ms) s m args below meth c 2 (vx_MQ below (cQ G (pV P)) (cX G PX) args s mc ms (gF G)) 12 [(0, va_rf v0)] [] z := by
  intro H locs ls hS hl
  refine r_aload_n C.1 C.2.1 dX11_all_12 rfl (lv_at hl 0 rfl) ?_
  refine r_getI C hS fo_10_2 (fl_d C q2866) (fun _ h => h) dX11_all_13 hw (fun x6 hw => ?_)
  refine r_aload_n C.1 C.2.1 dX11_all_16 rfl (lv_at hl 0 rfl) ?_
  refine r_getR C hS fo_10_0 (fl_d C q2863) (fun _ h => h) dX11_all_17 hw (fun x7 hw => ?_)
  refine c_F C hS hmc hl.1 (ci := 17) rfl hw.1 (kJ10_length C.2.2.2.2.2.2.1) hw.2 q2940 q2943 q1078 q81 q1080 (face_w C q2942 q2941 q2945 q2944 q2746 (by decide) (by decide)) ⟨by decide, by decide⟩ hdJ10_length.2.2 ⟨Nat.le_of_ble_eq_true rfl, Nat.le_of_ble_eq_true rfl⟩ (rest := [.int x6]) rfl rfl (Nat.le_of_ble_eq_true rfl) dX11_all_20 (fun ci q z H locs hx hS ht => r_out C hS hmc (fun x hx => (hT x hx).elim) ht hx) (fun v z8 H locs hv hS => ?_)
  obtain ⟨x9, rfl, hw⟩ := hv
  refine lv_icmp_ge C.1 C.2.1 dX11_all_25 rfl (fun h => ?_) (fun h => ?_)
  · have hw := hw.1 h
    exact r_vret C hS hmc hr dX11_all_52 hw
  · have hw := hw.2 h
    refine r_aload_n C.1 C.2.1 dX11_all_28 rfl (lv_at hl 0 rfl) ?_
    refine lv_bipush C.1 C.2.1 (v := 59) dX11_all_29 rfl ?_
    refine lv_bipush C.1 C.2.1 (v := 59) dX11_all_31 rfl ?_
    refine c_V C hS hmc hl.1 (ci := 10) rfl hw.1 (kX11_next C.2.2.2.2.2.2.1) hw.2 (lw_V q3039 q3041 qs22 q130 q3042) ⟨rfl, hdX11_next⟩ ⟨Nat.le_of_ble_eq_true rfl, Nat.le_of_ble_eq_true rfl⟩ (rest := []) rfl rfl (Nat.le_of_ble_eq_true rfl) dX11_all_33 (fun ci q z H locs hx hS ht => r_out C hS hmc (fun x hx => (hT x hx).elim) ht hx) (fun v z10 H locs hv hS => ?_)
    obtain ⟨x11, rfl, hw⟩ := hv
    refine r_istore_n C.1 C.2.1 dX11_all_36 rfl hl (Nat.le_of_ble_eq_true rfl) (ls_new (ls_old 0 rfl rfl (.inr (va_rf_cat _)) ls_nil)) (fun ls hl => ?_)
    refine r_aload_n C.1 C.2.1 dX11_all_37 rfl (lv_at hl 1 rfl) ?_
    refine r_getR C hS fo_10_1 (fl_d C q2864) (fun _ h => h) dX11_all_38 hw (fun x12 hw => ?_)
    refine r_aload_n C.1 C.2.1 dX11_all_41 rfl (lv_at hl 1 rfl) ?_
    refine c_V C hS hmc hl.1 (ci := 10) rfl hw.1 (kX11_one C.2.2.2.2.2.2.1) hw.2 (lw_V q2930 q2932 qs18 q130 q2933) ⟨rfl, hdX11_one⟩ ⟨Nat.le_of_ble_eq_true rfl, Nat.le_of_ble_eq_true rfl⟩ (rest := [va_rf x12]) rfl rfl (Nat.le_of_ble_eq_true rfl) dX11_all_42 (fun ci q z H locs hx hS ht => r_out C hS hmc (fun x hx => (hT x hx).elim) ht hx) (fun v z13 H locs hv hS => ?_)
    obtain ⟨x14, rfl, hw⟩ := hv
    refine c_V C hS hmc hl.1 (ci := 15) rfl hw.1 (kJ7_add C.2.2.2.2.2.2.1) hw.2 (lw_V q3065 q1902 q3540 q78 q1903) ⟨rfl, hdJ7_add⟩ ⟨Nat.le_of_ble_eq_true rfl, Nat.le_of_ble_eq_true rfl⟩ (rest := []) rfl rfl (Nat.le_of_ble_eq_true rfl) dX11_all_45 (fun ci q z H locs hx hS ht => r_out C hS hmc (fun x hx => (hT x hx).elim) ht hx) (fun v z15 H locs hv hS => ?_)
    obtain ⟨x16, rfl, hw⟩ := hv
    refine lv_pop C.1 C.2.1 dX11_all_48 rfl ?_
    refine lv_goto C.1 C.2.1 dX11_all_49 rfl ?_
    exact hK12 _ hw H locs ls hS (lv_sub hl [1] rfl)
theorem kX11_allb0 (C : xC G p l s m args meth c cX11_all 2 "ExcuseLedger$Parser") (hr : meth.sig.returnType = (Option.none : Option Jvm.ClassFile.FieldType)) (hin : meth.name = "all") (hT : ∀ x ∈ c.exceptionTable.toList, False) (hmc : mc = gL G - s.heap.size ∧ ms = gU G - hsum s.heap)   {v0 : Option Nat} {z : hSt} (hw : wX11_allb0 G P PX  v0 z) : kt G p l e (rmX11_all mc ms) s m args below meth c 2 (vx_MQ below (cQ G (pV P)) (cX G PX) args s mc ms (gF G)) 0 [(0, va_rf v0)] [] z := by
  intro H locs ls hS hl
  refine r_aload_n C.1 C.2.1 dX11_all_0 rfl (lv_at hl 0 rfl) ?_
  refine r_getR C hS fo_10_1 (fl_d C q2864) (fun _ h => h) dX11_all_1 hw (fun x1 hw => ?_)
  refine r_aload_n C.1 C.2.1 dX11_all_4 rfl (lv_at hl 0 rfl) ?_
  refine c_V C hS hmc hl.1 (ci := 10) rfl hw.1 (kX11_one C.2.2.2.2.2.2.1) hw.2 (lw_V q2930 q2932 qs18 q130 q2933) ⟨rfl, hdX11_one⟩ ⟨Nat.le_of_ble_eq_true rfl, Nat.le_of_ble_eq_true rfl⟩ (rest := [va_rf x1]) rfl rfl (Nat.le_of_ble_eq_true rfl) dX11_all_5 (fun ci q z H locs hx hS ht => r_out C hS hmc (fun x hx => (hT x hx).elim) ht hx) (fun v z2 H locs hv hS => ?_)
  obtain ⟨x3, rfl, hw⟩ := hv
  refine c_V C hS hmc hl.1 (ci := 15) rfl hw.1 (kJ7_add C.2.2.2.2.2.2.1) hw.2 (lw_V q3065 q1902 q3540 q78 q1903) ⟨rfl, hdJ7_add⟩ ⟨Nat.le_of_ble_eq_true rfl, Nat.le_of_ble_eq_true rfl⟩ (rest := []) rfl rfl (Nat.le_of_ble_eq_true rfl) dX11_all_8 (fun ci q z H locs hx hS ht => r_out C hS hmc (fun x hx => (hT x hx).elim) ht hx) (fun v z4 H locs hv hS => ?_)
  obtain ⟨x5, rfl, hw⟩ := hv
  refine lv_pop C.1 C.2.1 dX11_all_11 rfl ?_
  exact lpI_sound (Wt := fun (y : (Option Nat × hSt)) => kt G p l e (rmX11_all mc ms) s m args below meth c 2 (vx_MQ below (cQ G (pV P)) (cX G PX) args s mc ms (gF G)) 12 [(0, va_rf (y.1))] [] (y.2)) (fun K y hK hF => kX11_allb12 C hr hin hT hmc  hK hF) hw H locs ls hS (lv_sub hl [0] rfl)
end
theorem kX11_all {l : Launch} (hl : l.stackTraces = false) {G : gE} {P : hSt → Prop} {PX : Nat → Nat → hSt → Prop} {v0 : Option Nat} {z : hSt} : cM l G yX11_all (ws_ yX11_all cX11_all 2 (Option.none : Option Jvm.ClassFile.FieldType)) 19 353 z [va_rf v0] (wX11_all G P PX v0 z) (pV P) PX := by
  refine m_of hl (plainFor_of_name (by decide)) (by rw [lg_sl1 (va_rf_cat _)]; exact Nat.le_of_ble_eq_true rfl) ?_
  intro p e s m args below meth c C hr hin hT hmc hw
  rw [lv_args1 (va_rf_cat _)]
  intro H locs ls hS hl
  exact kX11_allb0 C hr hin hT hmc hw H locs ls hS (lv_sub hl [0] rfl)
theorem hdX11_all : yX11_all.cls ≠ "java/lang/invoke/MethodHandle" ∧ yX11_all.cls ≠ "java/lang/invoke/VarHandle" ∧ (parseMethodDescriptor yX11_all.desc).map (fun d => d.parameters.length) = some 0 := ⟨by decide +kernel, by decide +kernel, by decide +kernel⟩
abbrev rmX11_init (mc ms : Nat) : Room := { frames := 13, cells := mc, slots := ms, locals := 220 }
def wX11_initb0 (G : gE) (P : hSt → Prop) (PX : Nat → Nat → hSt → Prop)  (v0 : Option Nat) (v1 : Option Nat) (z : hSt) : Prop :=
  (nnl v0 ∧ nwO G z 15 3 dfJ7 (fun x1 z2 => (nnl (some x1) ∧ wJ7_init G (fun z3 => ptV G z3 v0 [10] 1 (va_rf (some x1)) (fun z4 => ptV G z4 v0 [10] 0 (va_rf v1) (fun z5 => P z5))) PX (some x1)  z2)))
def wX11_init (G : gE) (P : hSt → Prop) (PX : Nat → Nat → hSt → Prop) (v0 : Option Nat) (v1 : Option Nat) (z : hSt) : Prop := wX11_initb0 G P PX v0 v1 z
section
variable {p : Program} {l : Launch} {e : Env} {s : State} {m : MethodId} {args : Array Value} {below : List Frame} {meth : Method} {c : Code} {G : gE} {mc ms : Nat} {P : hSt → Prop} {PX : Nat → Nat → hSt → Prop}
theorem kX11_initb0 (C : xC G p l s m args meth c cX11_init 2 "ExcuseLedger$Parser") (hr : meth.sig.returnType = (Option.none : Option Jvm.ClassFile.FieldType)) (hin : meth.name = "<init>") (hT : ∀ x ∈ c.exceptionTable.toList, False) (hmc : mc = gL G - s.heap.size ∧ ms = gU G - hsum s.heap)   {v0 : Option Nat} {v1 : Option Nat} {z : hSt} (hw : wX11_initb0 G P PX  v0 v1 z) : kt G p l e (rmX11_init mc ms) s m args below meth c 2 (vx_MQ below (cQ G (pV P)) (cX G PX) args s mc ms (gF G)) 0 [(0, va_rf v0), (1, va_rf v1)] [] z := by
  intro H locs ls hS hl
  refine r_aload_n C.1 C.2.1 dX11_init_0 rfl (lv_at hl 0 rfl) ?_
  refine r_objInit C hl.1 hw.1 q2860 q140 q141 rfl dX11_init_1 (Nat.le_of_ble_eq_true rfl) (Nat.le_of_ble_eq_true rfl) ?_
  have hw := hw.2
  refine r_aload_n C.1 C.2.1 dX11_init_4 rfl (lv_at hl 0 rfl) ?_
  refine r_new C hS (ci := 15) rfl in_J7 tyJ7_ok q2861 q330 q78 rfl dfJ7_ok hmc dX11_init_5 hw (fun x1 z2 H locs hw hS => ?_)
  refine lv_dup C.1 C.2.1 dX11_init_8 (va_rf_cat _) ?_
  refine c_I C hS hmc hl.1 hw.1 (kJ7_init C.2.2.2.2.2.2.1) hw.2 (lw_meth q333) q78 q2862 q332 rfl hdJ7_init ⟨Nat.le_of_ble_eq_true rfl, Nat.le_of_ble_eq_true rfl⟩ (rest := [va_rf (some x1), va_rf v0]) rfl rfl (Nat.le_of_ble_eq_true rfl) dX11_init_9 (fun ci q z H locs hx hS ht => r_out C hS hmc (fun x hx => (hT x hx).elim) ht hx) (fun v z3 H locs hv hS => ?_)
  obtain ⟨rfl, hw⟩ := hv
  refine r_putF C hS fo_10_1 (C.2.2.2.2.1 _ q2864) (fun _ h => h) hin rfl (narrow_rfO _ _) (fits_rfO _ _) dX11_init_12 hw (fun z4 H locs hw hS => ?_)
  refine r_aload_n C.1 C.2.1 dX11_init_15 rfl (lv_at hl 0 rfl) ?_
  refine r_aload_n C.1 C.2.1 dX11_init_16 rfl (lv_at hl 1 rfl) ?_
  refine r_putF C hS fo_10_0 (C.2.2.2.2.1 _ q2863) (fun _ h => h) hin rfl (narrow_rfO _ _) (fits_rfO _ _) dX11_init_17 hw (fun z5 H locs hw hS => ?_)
  exact r_vret C hS hmc hr dX11_init_20 hw
end
theorem kX11_init {l : Launch} (hl : l.stackTraces = false) {G : gE} {P : hSt → Prop} {PX : Nat → Nat → hSt → Prop} {v0 : Option Nat} {v1 : Option Nat} {z : hSt} : cM l G yX11_init (ws_ yX11_init cX11_init 2 (Option.none : Option Jvm.ClassFile.FieldType)) 13 220 z [va_rf v0, va_rf v1] (wX11_init G P PX v0 v1 z) (pV P) PX := by
  refine m_of hl (plainFor_of_name (by decide)) (by rw [lg_sl1 (va_rf_cat _), lg_sl1 (va_rf_cat _)]; exact Nat.le_of_ble_eq_true rfl) ?_
  intro p e s m args below meth c C hr hin hT hmc hw
  rw [lv_args1 (va_rf_cat _), lv_args1 (va_rf_cat _)]
  intro H locs ls hS hl
  exact kX11_initb0 C hr hin hT hmc hw H locs ls hS (lv_sub hl [0, 1] rfl)
theorem hdX11_init : yX11_init.cls ≠ "java/lang/invoke/MethodHandle" ∧ yX11_init.cls ≠ "java/lang/invoke/VarHandle" ∧ (parseMethodDescriptor yX11_init.desc).map (fun d => d.parameters.length) = some 1 := ⟨by decide +kernel, by decide +kernel, by decide +kernel⟩
