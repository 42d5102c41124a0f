/-! printed: 21.strings -/
set_option maxRecDepth 100000
theorem q79 : (Jvm.Cond.initialized "java/lang/AbstractStringBuilder") ∈ lw_all := lw_g (lw_at lw_m1 13 rfl) rfl
theorem q80 : (Jvm.Cond.initialized "java/lang/StringBuilder") ∈ lw_all := lw_g (lw_at lw_m1 14 rfl) rfl
theorem q81 : (Jvm.Cond.initialized "java/lang/String") ∈ lw_all := lw_g (lw_at lw_m1 15 rfl) rfl
theorem q105 : (Jvm.Cond.initialized "java/lang/Number") ∈ lw_all := lw_g (lw_at lw_m1 39 rfl) rfl
theorem q106 : (Jvm.Cond.initialized "java/lang/Integer") ∈ lw_all := lw_g (lw_at lw_m1 40 rfl) rfl
theorem q107 : (Jvm.Cond.initialized "java/lang/StringLatin1") ∈ lw_all := lw_g (lw_at lw_m1 41 rfl) rfl
theorem q108 : (Jvm.Cond.initialized "jdk/internal/util/ArraysSupport") ∈ lw_all := lw_g (lw_at lw_m1 42 rfl) rfl
theorem q109 : (Jvm.Cond.initialized "java/lang/Math") ∈ lw_all := lw_g (lw_at lw_m1 43 rfl) rfl
theorem q110 : (Jvm.Cond.initialized "java/util/Arrays") ∈ lw_all := lw_g (lw_at lw_m1 44 rfl) rfl
theorem q111 : (Jvm.Cond.initialized "java/lang/System") ∈ lw_all := lw_g (lw_at lw_m1 45 rfl) rfl
theorem q112 : (Jvm.Cond.initialized "jdk/internal/util/Preconditions") ∈ lw_all := lw_g (lw_at lw_m1 46 rfl) rfl
theorem q360 : (Jvm.Cond.methodLink "java/lang/StringBuilder" (1 : Nat) ({ cls := "java/lang/AbstractStringBuilder", name := "<init>", desc := "(I)V" } : Jvm.MethodName)) ∈ lw_all := lw_g (lw_at lw_m2 54 rfl) rfl
theorem q361 : (Jvm.Cond.instanceMethod ({ cls := "java/lang/AbstractStringBuilder", name := "<init>", desc := "(I)V" } : Jvm.MethodName)) ∈ lw_all := lw_g (lw_at lw_m2 55 rfl) rfl
theorem q362 : (Jvm.Cond.code ({ cls := "java/lang/AbstractStringBuilder", name := "<init>", desc := "(I)V" } : Jvm.MethodName) prog_15_method_2_code (2 : Nat) (Option.none : Option Jvm.ClassFile.FieldType)) ∈ lw_all := lw_g (lw_at lw_m2 56 rfl) rfl
theorem q363 : (Jvm.Cond.methodLink "java/lang/AbstractStringBuilder" (3 : Nat) ({ cls := "java/lang/Object", name := "<init>", desc := "()V" } : Jvm.MethodName)) ∈ lw_all := lw_g (lw_at lw_m2 57 rfl) rfl
theorem q364 : (Jvm.Cond.fieldLink "java/lang/AbstractStringBuilder" (18 : Nat) "java/lang/String" "COMPACT_STRINGS" "Z") ∈ lw_all := lw_g (lw_at lw_m2 58 rfl) rfl
theorem q373 : (Jvm.Cond.fieldLink "java/lang/AbstractStringBuilder" (15 : Nat) "java/lang/AbstractStringBuilder" "value" "[B") ∈ lw_all := lw_g (lw_at lw_m2 67 rfl) rfl
theorem q374 : (Jvm.Cond.fieldLink "java/lang/AbstractStringBuilder" (22 : Nat) "java/lang/AbstractStringBuilder" "coder" "B") ∈ lw_all := lw_g (lw_at lw_m2 68 rfl) rfl
theorem q375 : (Jvm.Cond.fieldLink "java/lang/AbstractStringBuilder" (73 : Nat) "java/lang/AbstractStringBuilder" "maybeLatin1" "Z") ∈ lw_all := lw_g (lw_at lw_m2 69 rfl) rfl
theorem q376 : (Jvm.Cond.fieldLink "java/lang/String" (1048 : Nat) "java/lang/AbstractStringBuilder" "maybeLatin1" "Z") ∈ lw_all := lw_g (lw_at lw_m2 70 rfl) rfl
theorem q377 : (Jvm.Cond.fieldLink "java/lang/AbstractStringBuilder" (79 : Nat) "java/lang/AbstractStringBuilder" "count" "I") ∈ lw_all := lw_g (lw_at lw_m2 71 rfl) rfl
theorem q386 : (Jvm.Cond.superclass "java/lang/StringBuilder" "java/lang/AbstractStringBuilder") ∈ lw_all := lw_g (lw_at lw_m2 80 rfl) rfl
theorem q934 : (Jvm.Cond.methodLink "java/lang/Integer" (208 : Nat) ({ cls := "java/lang/Integer", name := "hashCode", desc := "(I)I" } : Jvm.MethodName)) ∈ lw_all := lw_g (lw_at lw_m4 148 rfl) rfl
theorem q935 : (Jvm.Cond.static ({ cls := "java/lang/Integer", name := "hashCode", desc := "(I)I" } : Jvm.MethodName)) ∈ lw_all := lw_g (lw_at lw_m4 149 rfl) rfl
theorem q936 : (Jvm.Cond.code ({ cls := "java/lang/Integer", name := "hashCode", desc := "(I)I" } : Jvm.MethodName) prog_28_method_33_code (1 : Nat) (Option.some Jvm.ClassFile.FieldType.int)) ∈ lw_all := lw_g (lw_at lw_m4 150 rfl) rfl
theorem q940 : (Jvm.Cond.methodLink "java/lang/String" (492 : Nat) ({ cls := "java/lang/String", name := "isLatin1", desc := "()Z" } : Jvm.MethodName)) ∈ lw_all := lw_g (lw_at lw_m4 154 rfl) rfl
theorem q941 : (Jvm.Cond.instanceMethod ({ cls := "java/lang/String", name := "isLatin1", desc := "()Z" } : Jvm.MethodName)) ∈ lw_all := lw_g (lw_at lw_m4 155 rfl) rfl
theorem q942 : (Jvm.Cond.selects "java/lang/String" ({ cls := "java/lang/String", name := "isLatin1", desc := "()Z" } : Jvm.MethodName) ({ cls := "java/lang/String", name := "isLatin1", desc := "()Z" } : Jvm.MethodName)) ∈ lw_all := lw_g (lw_at lw_m4 156 rfl) rfl
theorem q943 : (Jvm.Cond.code ({ cls := "java/lang/String", name := "isLatin1", desc := "()Z" } : Jvm.MethodName) prog_36_method_154_code (1 : Nat) (Option.some Jvm.ClassFile.FieldType.boolean)) ∈ lw_all := lw_g (lw_at lw_m4 157 rfl) rfl
theorem q944 : (Jvm.Cond.fieldLink "java/lang/String" (38 : Nat) "java/lang/String" "COMPACT_STRINGS" "Z") ∈ lw_all := lw_g (lw_at lw_m4 158 rfl) rfl
theorem q1013 : (Jvm.Cond.methodLink "java/lang/StringBuilder" (29 : Nat) ({ cls := "java/lang/AbstractStringBuilder", name := "append", desc := "(Ljava/lang/String;)Ljava/lang/AbstractStringBuilder;" } : Jvm.MethodName)) ∈ lw_all := lw_g (lw_at lw_m4 227 rfl) rfl
theorem q1014 : (Jvm.Cond.instanceMethod ({ cls := "java/lang/AbstractStringBuilder", name := "append", desc := "(Ljava/lang/String;)Ljava/lang/AbstractStringBuilder;" } : Jvm.MethodName)) ∈ lw_all := lw_g (lw_at lw_m4 228 rfl) rfl
theorem q1015 : (Jvm.Cond.code ({ cls := "java/lang/AbstractStringBuilder", name := "append", desc := "(Ljava/lang/String;)Ljava/lang/AbstractStringBuilder;" } : Jvm.MethodName) prog_15_method_22_code (3 : Nat) (Option.some (Jvm.ClassFile.FieldType.object "java/lang/AbstractStringBuilder"))) ∈ lw_all := lw_g (lw_at lw_m4 229 rfl) rfl
theorem q1020 : (Jvm.Cond.methodLink "java/lang/AbstractStringBuilder" (100 : Nat) ({ cls := "java/lang/AbstractStringBuilder", name := "ensureCapacityInternal", desc := "(I)V" } : Jvm.MethodName)) ∈ lw_all := lw_g (lw_at lw_m4 234 rfl) rfl
theorem q1021 : (Jvm.Cond.privateMethod ({ cls := "java/lang/AbstractStringBuilder", name := "ensureCapacityInternal", desc := "(I)V" } : Jvm.MethodName)) ∈ lw_tbl := lw_at lw_m4 235 rfl
theorem q1022 : (Jvm.Cond.instanceMethod ({ cls := "java/lang/AbstractStringBuilder", name := "ensureCapacityInternal", desc := "(I)V" } : Jvm.MethodName)) ∈ lw_all := lw_g (lw_at lw_m4 236 rfl) rfl
theorem q1023 : (Jvm.Cond.code ({ cls := "java/lang/AbstractStringBuilder", name := "ensureCapacityInternal", desc := "(I)V" } : Jvm.MethodName) prog_15_method_9_code (3 : Nat) (Option.none : Option Jvm.ClassFile.FieldType)) ∈ lw_all := lw_g (lw_at lw_m4 237 rfl) rfl
theorem q1024 : (Jvm.Cond.methodLink "java/lang/AbstractStringBuilder" (104 : Nat) ({ cls := "java/lang/AbstractStringBuilder", name := "newCapacity", desc := "(I)I" } : Jvm.MethodName)) ∈ lw_all := lw_g (lw_at lw_m4 238 rfl) rfl
theorem q1025 : (Jvm.Cond.privateMethod ({ cls := "java/lang/AbstractStringBuilder", name := "newCapacity", desc := "(I)I" } : Jvm.MethodName)) ∈ lw_tbl := lw_at lw_m4 239 rfl
theorem q1026 : (Jvm.Cond.instanceMethod ({ cls := "java/lang/AbstractStringBuilder", name := "newCapacity", desc := "(I)I" } : Jvm.MethodName)) ∈ lw_all := lw_g (lw_at lw_m5 0 rfl) rfl
theorem q1027 : (Jvm.Cond.code ({ cls := "java/lang/AbstractStringBuilder", name := "newCapacity", desc := "(I)I" } : Jvm.MethodName) prog_15_method_10_code (6 : Nat) (Option.some Jvm.ClassFile.FieldType.int)) ∈ lw_all := lw_g (lw_at lw_m5 1 rfl) rfl
theorem q1028 : (Jvm.Cond.methodLink "java/lang/AbstractStringBuilder" (114 : Nat) ({ cls := "jdk/internal/util/ArraysSupport", name := "newLength", desc := "(III)I" } : Jvm.MethodName)) ∈ lw_all := lw_g (lw_at lw_m5 2 rfl) rfl
theorem q1029 : (Jvm.Cond.static ({ cls := "jdk/internal/util/ArraysSupport", name := "newLength", desc := "(III)I" } : Jvm.MethodName)) ∈ lw_all := lw_g (lw_at lw_m5 3 rfl) rfl
theorem q1030 : (Jvm.Cond.code ({ cls := "jdk/internal/util/ArraysSupport", name := "newLength", desc := "(III)I" } : Jvm.MethodName) prog_87_method_27_code (4 : Nat) (Option.some Jvm.ClassFile.FieldType.int)) ∈ lw_all := lw_g (lw_at lw_m5 4 rfl) rfl
theorem q1031 : (Jvm.Cond.methodLink "jdk/internal/util/ArraysSupport" (194 : Nat) ({ cls := "java/lang/Math", name := "max", desc := "(II)I" } : Jvm.MethodName)) ∈ lw_all := lw_g (lw_at lw_m5 5 rfl) rfl
theorem q1032 : (Jvm.Cond.static ({ cls := "java/lang/Math", name := "max", desc := "(II)I" } : Jvm.MethodName)) ∈ lw_all := lw_g (lw_at lw_m5 6 rfl) rfl
theorem q1033 : (Jvm.Cond.code ({ cls := "java/lang/Math", name := "max", desc := "(II)I" } : Jvm.MethodName) prog_32_method_65_code (2 : Nat) (Option.some Jvm.ClassFile.FieldType.int)) ∈ lw_all := lw_g (lw_at lw_m5 7 rfl) rfl
theorem q1034 : (Jvm.Cond.constant "jdk/internal/util/ArraysSupport" (200 : Nat) (2147483639 : Int32)) ∈ lw_all := lw_g (lw_at lw_m5 8 rfl) rfl
theorem q1038 : (Jvm.Cond.constant "java/lang/AbstractStringBuilder" (39 : Nat) (2147483647 : Int32)) ∈ lw_all := lw_g (lw_at lw_m5 12 rfl) rfl
theorem q1039 : (Jvm.Cond.methodLink "java/lang/AbstractStringBuilder" (108 : Nat) ({ cls := "java/util/Arrays", name := "copyOf", desc := "([BI)[B" } : Jvm.MethodName)) ∈ lw_all := lw_g (lw_at lw_m5 13 rfl) rfl
theorem q1040 : (Jvm.Cond.static ({ cls := "java/util/Arrays", name := "copyOf", desc := "([BI)[B" } : Jvm.MethodName)) ∈ lw_all := lw_g (lw_at lw_m5 14 rfl) rfl
theorem q1041 : (Jvm.Cond.code ({ cls := "java/util/Arrays", name := "copyOf", desc := "([BI)[B" } : Jvm.MethodName) prog_53_method_121_code (3 : Nat) (Option.some (Jvm.ClassFile.FieldType.array Jvm.ClassFile.FieldType.byte))) ∈ lw_all := lw_g (lw_at lw_m5 15 rfl) rfl
theorem q1042 : (Jvm.Cond.methodLink "java/util/Arrays" (310 : Nat) ({ cls := "[B", name := "clone", desc := "()Ljava/lang/Object;" } : Jvm.MethodName)) ∈ lw_all := lw_g (lw_at lw_m5 16 rfl) rfl
theorem q1043 : (Jvm.Cond.sameMethod "[B" "java/lang/Object" "clone" "()Ljava/lang/Object;") ∈ lw_all := lw_g (lw_at lw_m5 17 rfl) rfl
theorem q1044 : (Jvm.Cond.native ({ cls := "java/lang/Object", name := "clone", desc := "()Ljava/lang/Object;" } : Jvm.MethodName)) ∈ lw_all := lw_g (lw_at lw_m5 18 rfl) rfl
theorem q1045 : (Jvm.Cond.instanceMethod ({ cls := "java/lang/Object", name := "clone", desc := "()Ljava/lang/Object;" } : Jvm.MethodName)) ∈ lw_all := lw_g (lw_at lw_m5 19 rfl) rfl
theorem q1046 : (Jvm.Cond.selects "[B" ({ cls := "[B", name := "clone", desc := "()Ljava/lang/Object;" } : Jvm.MethodName) ({ cls := "java/lang/Object", name := "clone", desc := "()Ljava/lang/Object;" } : Jvm.MethodName)) ∈ lw_all := lw_g (lw_at lw_m5 20 rfl) rfl
theorem q1047 : (Jvm.Cond.castable "[B" "java/lang/Cloneable") ∈ lw_tbl := lw_at lw_m5 21 rfl
theorem q1048 : (Jvm.Cond.classLink "java/util/Arrays" (311 : Nat) "[B") ∈ lw_all := lw_g (lw_at lw_m5 22 rfl) rfl
theorem q1049 : (Jvm.Cond.methodLink "java/util/Arrays" (304 : Nat) ({ cls := "java/lang/Math", name := "min", desc := "(II)I" } : Jvm.MethodName)) ∈ lw_all := lw_g (lw_at lw_m5 23 rfl) rfl
theorem q1050 : (Jvm.Cond.static ({ cls := "java/lang/Math", name := "min", desc := "(II)I" } : Jvm.MethodName)) ∈ lw_all := lw_g (lw_at lw_m5 24 rfl) rfl
theorem q1051 : (Jvm.Cond.code ({ cls := "java/lang/Math", name := "min", desc := "(II)I" } : Jvm.MethodName) prog_32_method_69_code (2 : Nat) (Option.some Jvm.ClassFile.FieldType.int)) ∈ lw_all := lw_g (lw_at lw_m5 25 rfl) rfl
theorem q1052 : (Jvm.Cond.methodLink "java/util/Arrays" (150 : Nat) ({ cls := "java/lang/System", name := "arraycopy", desc := "(Ljava/lang/Object;ILjava/lang/Object;II)V" } : Jvm.MethodName)) ∈ lw_all := lw_g (lw_at lw_m5 26 rfl) rfl
theorem q1053 : (Jvm.Cond.static ({ cls := "java/lang/System", name := "arraycopy", desc := "(Ljava/lang/Object;ILjava/lang/Object;II)V" } : Jvm.MethodName)) ∈ lw_all := lw_g (lw_at lw_m5 27 rfl) rfl
theorem q1054 : (Jvm.Cond.native ({ cls := "java/lang/System", name := "arraycopy", desc := "(Ljava/lang/Object;ILjava/lang/Object;II)V" } : Jvm.MethodName)) ∈ lw_all := lw_g (lw_at lw_m5 28 rfl) rfl
theorem q1055 : (Jvm.Cond.methodLink "java/lang/AbstractStringBuilder" (83 : Nat) ({ cls := "java/lang/AbstractStringBuilder", name := "isLatin1", desc := "()Z" } : Jvm.MethodName)) ∈ lw_all := lw_g (lw_at lw_m5 29 rfl) rfl
theorem q1056 : (Jvm.Cond.instanceMethod ({ cls := "java/lang/AbstractStringBuilder", name := "isLatin1", desc := "()Z" } : Jvm.MethodName)) ∈ lw_all := lw_g (lw_at lw_m5 30 rfl) rfl
theorem q1057 : (Jvm.Cond.sameMethod "java/lang/AbstractStringBuilder" "java/lang/AbstractStringBuilder" "isLatin1" "()Z") ∈ lw_all := lw_g (lw_at lw_m5 31 rfl) rfl
theorem q1058 : (Jvm.Cond.selects "java/lang/StringBuilder" ({ cls := "java/lang/AbstractStringBuilder", name := "isLatin1", desc := "()Z" } : Jvm.MethodName) ({ cls := "java/lang/AbstractStringBuilder", name := "isLatin1", desc := "()Z" } : Jvm.MethodName)) ∈ lw_all := lw_g (lw_at lw_m5 32 rfl) rfl
theorem q1059 : (Jvm.Cond.code ({ cls := "java/lang/AbstractStringBuilder", name := "isLatin1", desc := "()Z" } : Jvm.MethodName) prog_15_method_68_code (1 : Nat) (Option.some Jvm.ClassFile.FieldType.boolean)) ∈ lw_all := lw_g (lw_at lw_m5 33 rfl) rfl
theorem q1069 : (Jvm.Cond.fieldLink "java/lang/String" (1053 : Nat) "jdk/internal/util/Preconditions" "SIOOBE_FORMATTER" "Ljava/util/function/BiFunction;") ∈ lw_all := lw_g (lw_at lw_m5 43 rfl) rfl
theorem q1077 : (Jvm.Cond.methodLink "java/lang/AbstractStringBuilder" (32 : Nat) ({ cls := "java/lang/String", name := "length", desc := "()I" } : Jvm.MethodName)) ∈ lw_all := lw_g (lw_at lw_m5 51 rfl) rfl
theorem q1078 : (Jvm.Cond.instanceMethod ({ cls := "java/lang/String", name := "length", desc := "()I" } : Jvm.MethodName)) ∈ lw_all := lw_g (lw_at lw_m5 52 rfl) rfl
theorem q1079 : (Jvm.Cond.selects "java/lang/String" ({ cls := "java/lang/String", name := "length", desc := "()I" } : Jvm.MethodName) ({ cls := "java/lang/String", name := "length", desc := "()I" } : Jvm.MethodName)) ∈ lw_all := lw_g (lw_at lw_m5 53 rfl) rfl
theorem q1080 : (Jvm.Cond.code ({ cls := "java/lang/String", name := "length", desc := "()I" } : Jvm.MethodName) prog_36_method_54_code (1 : Nat) (Option.some Jvm.ClassFile.FieldType.int)) ∈ lw_all := lw_g (lw_at lw_m5 54 rfl) rfl
theorem q1081 : (Jvm.Cond.methodLink "java/lang/String" (335 : Nat) ({ cls := "java/lang/String", name := "coder", desc := "()B" } : Jvm.MethodName)) ∈ lw_all := lw_g (lw_at lw_m5 55 rfl) rfl
theorem q1082 : (Jvm.Cond.instanceMethod ({ cls := "java/lang/String", name := "coder", desc := "()B" } : Jvm.MethodName)) ∈ lw_all := lw_g (lw_at lw_m5 56 rfl) rfl
theorem q1083 : (Jvm.Cond.selects "java/lang/String" ({ cls := "java/lang/String", name := "coder", desc := "()B" } : Jvm.MethodName) ({ cls := "java/lang/String", name := "coder", desc := "()B" } : Jvm.MethodName)) ∈ lw_all := lw_g (lw_at lw_m5 57 rfl) rfl
theorem q1084 : (Jvm.Cond.code ({ cls := "java/lang/String", name := "coder", desc := "()B" } : Jvm.MethodName) prog_36_method_152_code (1 : Nat) (Option.some Jvm.ClassFile.FieldType.byte)) ∈ lw_all := lw_g (lw_at lw_m5 58 rfl) rfl
theorem q1085 : (Jvm.Cond.methodLink "java/lang/AbstractStringBuilder" (208 : Nat) ({ cls := "java/lang/AbstractStringBuilder", name := "putStringAt", desc := "(ILjava/lang/String;)V" } : Jvm.MethodName)) ∈ lw_all := lw_g (lw_at lw_m5 59 rfl) rfl
theorem q1086 : (Jvm.Cond.privateMethod ({ cls := "java/lang/AbstractStringBuilder", name := "putStringAt", desc := "(ILjava/lang/String;)V" } : Jvm.MethodName)) ∈ lw_tbl := lw_at lw_m5 60 rfl
theorem q1087 : (Jvm.Cond.instanceMethod ({ cls := "java/lang/AbstractStringBuilder", name := "putStringAt", desc := "(ILjava/lang/String;)V" } : Jvm.MethodName)) ∈ lw_all := lw_g (lw_at lw_m5 61 rfl) rfl
theorem q1088 : (Jvm.Cond.code ({ cls := "java/lang/AbstractStringBuilder", name := "putStringAt", desc := "(ILjava/lang/String;)V" } : Jvm.MethodName) prog_15_method_73_code (3 : Nat) (Option.none : Option Jvm.ClassFile.FieldType)) ∈ lw_all := lw_g (lw_at lw_m5 62 rfl) rfl
theorem q1089 : (Jvm.Cond.methodLink "java/lang/AbstractStringBuilder" (397 : Nat) ({ cls := "java/lang/AbstractStringBuilder", name := "inflateIfNeededFor", desc := "(Ljava/lang/String;)V" } : Jvm.MethodName)) ∈ lw_all := lw_g (lw_at lw_m5 63 rfl) rfl
theorem q1090 : (Jvm.Cond.privateMethod ({ cls := "java/lang/AbstractStringBuilder", name := "inflateIfNeededFor", desc := "(Ljava/lang/String;)V" } : Jvm.MethodName)) ∈ lw_tbl := lw_at lw_m5 64 rfl
theorem q1091 : (Jvm.Cond.instanceMethod ({ cls := "java/lang/AbstractStringBuilder", name := "inflateIfNeededFor", desc := "(Ljava/lang/String;)V" } : Jvm.MethodName)) ∈ lw_all := lw_g (lw_at lw_m5 65 rfl) rfl
theorem q1092 : (Jvm.Cond.code ({ cls := "java/lang/AbstractStringBuilder", name := "inflateIfNeededFor", desc := "(Ljava/lang/String;)V" } : Jvm.MethodName) prog_15_method_71_code (2 : Nat) (Option.none : Option Jvm.ClassFile.FieldType)) ∈ lw_all := lw_g (lw_at lw_m5 66 rfl) rfl
theorem q1093 : (Jvm.Cond.methodLink "java/lang/AbstractStringBuilder" (40 : Nat) ({ cls := "java/lang/String", name := "coder", desc := "()B" } : Jvm.MethodName)) ∈ lw_all := lw_g (lw_at lw_m5 67 rfl) rfl
theorem q1113 : (Jvm.Cond.methodLink "java/lang/AbstractStringBuilder" (399 : Nat) ({ cls := "java/lang/String", name := "getBytes", desc := "([BIB)V" } : Jvm.MethodName)) ∈ lw_all := lw_g (lw_at lw_m5 87 rfl) rfl
theorem q1114 : (Jvm.Cond.instanceMethod ({ cls := "java/lang/String", name := "getBytes", desc := "([BIB)V" } : Jvm.MethodName)) ∈ lw_all := lw_g (lw_at lw_m5 88 rfl) rfl
theorem q1115 : (Jvm.Cond.selects "java/lang/String" ({ cls := "java/lang/String", name := "getBytes", desc := "([BIB)V" } : Jvm.MethodName) ({ cls := "java/lang/String", name := "getBytes", desc := "([BIB)V" } : Jvm.MethodName)) ∈ lw_all := lw_g (lw_at lw_m5 89 rfl) rfl
theorem q1116 : (Jvm.Cond.code ({ cls := "java/lang/String", name := "getBytes", desc := "([BIB)V" } : Jvm.MethodName) prog_36_method_147_code (4 : Nat) (Option.none : Option Jvm.ClassFile.FieldType)) ∈ lw_all := lw_g (lw_at lw_m5 90 rfl) rfl
theorem q1117 : (Jvm.Cond.methodLink "java/lang/String" (212 : Nat) ({ cls := "java/lang/System", name := "arraycopy", desc := "(Ljava/lang/Object;ILjava/lang/Object;II)V" } : Jvm.MethodName)) ∈ lw_all := lw_g (lw_at lw_m5 91 rfl) rfl
theorem q1123 : (Jvm.Cond.methodLink "java/lang/StringBuilder" (53 : Nat) ({ cls := "java/lang/AbstractStringBuilder", name := "append", desc := "(I)Ljava/lang/AbstractStringBuilder;" } : Jvm.MethodName)) ∈ lw_all := lw_g (lw_at lw_m5 97 rfl) rfl
theorem q1124 : (Jvm.Cond.instanceMethod ({ cls := "java/lang/AbstractStringBuilder", name := "append", desc := "(I)Ljava/lang/AbstractStringBuilder;" } : Jvm.MethodName)) ∈ lw_all := lw_g (lw_at lw_m5 98 rfl) rfl
theorem q1125 : (Jvm.Cond.code ({ cls := "java/lang/AbstractStringBuilder", name := "append", desc := "(I)Ljava/lang/AbstractStringBuilder;" } : Jvm.MethodName) prog_15_method_32_code (4 : Nat) (Option.some (Jvm.ClassFile.FieldType.object "java/lang/AbstractStringBuilder"))) ∈ lw_all := lw_g (lw_at lw_m5 99 rfl) rfl
theorem q1126 : (Jvm.Cond.methodLink "java/lang/AbstractStringBuilder" (245 : Nat) ({ cls := "java/lang/Integer", name := "stringSize", desc := "(I)I" } : Jvm.MethodName)) ∈ lw_all := lw_g (lw_at lw_m5 100 rfl) rfl
theorem q1127 : (Jvm.Cond.static ({ cls := "java/lang/Integer", name := "stringSize", desc := "(I)I" } : Jvm.MethodName)) ∈ lw_all := lw_g (lw_at lw_m5 101 rfl) rfl
theorem q1128 : (Jvm.Cond.code ({ cls := "java/lang/Integer", name := "stringSize", desc := "(I)I" } : Jvm.MethodName) prog_28_method_13_code (4 : Nat) (Option.some Jvm.ClassFile.FieldType.int)) ∈ lw_all := lw_g (lw_at lw_m5 102 rfl) rfl
theorem q1129 : (Jvm.Cond.methodLink "java/lang/AbstractStringBuilder" (248 : Nat) ({ cls := "java/lang/Integer", name := "getChars", desc := "(II[B)I" } : Jvm.MethodName)) ∈ lw_all := lw_g (lw_at lw_m5 103 rfl) rfl
theorem q1130 : (Jvm.Cond.static ({ cls := "java/lang/Integer", name := "getChars", desc := "(II[B)I" } : Jvm.MethodName)) ∈ lw_all := lw_g (lw_at lw_m5 104 rfl) rfl
theorem q1131 : (Jvm.Cond.code ({ cls := "java/lang/Integer", name := "getChars", desc := "(II[B)I" } : Jvm.MethodName) prog_28_method_12_code (7 : Nat) (Option.some Jvm.ClassFile.FieldType.int)) ∈ lw_all := lw_g (lw_at lw_m5 105 rfl) rfl
theorem q1132 : (Jvm.Cond.fieldLink "java/lang/Integer" (83 : Nat) "java/lang/Integer" "DigitOnes" "[B") ∈ lw_all := lw_g (lw_at lw_m5 106 rfl) rfl
theorem q1134 : (Jvm.Cond.fieldLink "java/lang/Integer" (87 : Nat) "java/lang/Integer" "DigitTens" "[B") ∈ lw_all := lw_g (lw_at lw_m5 108 rfl) rfl
theorem q1148 : (Jvm.Cond.classLink "java/lang/StringBuilder" (18 : Nat) "java/lang/String") ∈ lw_all := lw_g (lw_at lw_m5 122 rfl) rfl
theorem q1149 : (Jvm.Cond.instantiable "java/lang/String" (4 : Nat)) ∈ lw_all := lw_g (lw_at lw_m5 123 rfl) rfl
theorem q1150 : (Jvm.Cond.methodLink "java/lang/StringBuilder" (137 : Nat) ({ cls := "java/lang/String", name := "<init>", desc := "(Ljava/lang/StringBuilder;)V" } : Jvm.MethodName)) ∈ lw_all := lw_g (lw_at lw_m5 124 rfl) rfl
theorem q1151 : (Jvm.Cond.instanceMethod ({ cls := "java/lang/String", name := "<init>", desc := "(Ljava/lang/StringBuilder;)V" } : Jvm.MethodName)) ∈ lw_all := lw_g (lw_at lw_m5 125 rfl) rfl
theorem q1152 : (Jvm.Cond.code ({ cls := "java/lang/String", name := "<init>", desc := "(Ljava/lang/StringBuilder;)V" } : Jvm.MethodName) prog_36_method_53_code (2 : Nat) (Option.none : Option Jvm.ClassFile.FieldType)) ∈ lw_all := lw_g (lw_at lw_m5 126 rfl) rfl
theorem q1153 : (Jvm.Cond.methodLink "java/lang/String" (489 : Nat) ({ cls := "java/lang/String", name := "<init>", desc := "(Ljava/lang/AbstractStringBuilder;Ljava/lang/Void;)V" } : Jvm.MethodName)) ∈ lw_all := lw_g (lw_at lw_m5 127 rfl) rfl
theorem q1154 : (Jvm.Cond.instanceMethod ({ cls := "java/lang/String", name := "<init>", desc := "(Ljava/lang/AbstractStringBuilder;Ljava/lang/Void;)V" } : Jvm.MethodName)) ∈ lw_all := lw_g (lw_at lw_m5 128 rfl) rfl
theorem q1155 : (Jvm.Cond.code ({ cls := "java/lang/String", name := "<init>", desc := "(Ljava/lang/AbstractStringBuilder;Ljava/lang/Void;)V" } : Jvm.MethodName) prog_36_method_150_code (5 : Nat) (Option.none : Option Jvm.ClassFile.FieldType)) ∈ lw_all := lw_g (lw_at lw_m5 129 rfl) rfl
theorem q1156 : (Jvm.Cond.methodLink "java/lang/String" (1 : Nat) ({ cls := "java/lang/Object", name := "<init>", desc := "()V" } : Jvm.MethodName)) ∈ lw_all := lw_g (lw_at lw_m5 130 rfl) rfl
theorem q1157 : (Jvm.Cond.methodLink "java/lang/String" (552 : Nat) ({ cls := "java/lang/AbstractStringBuilder", name := "getValue", desc := "()[B" } : Jvm.MethodName)) ∈ lw_all := lw_g (lw_at lw_m5 131 rfl) rfl
theorem q1158 : (Jvm.Cond.instanceMethod ({ cls := "java/lang/AbstractStringBuilder", name := "getValue", desc := "()[B" } : Jvm.MethodName)) ∈ lw_all := lw_g (lw_at lw_m5 132 rfl) rfl
theorem q1159 : (Jvm.Cond.sameMethod "java/lang/AbstractStringBuilder" "java/lang/AbstractStringBuilder" "getValue" "()[B") ∈ lw_all := lw_g (lw_at lw_m5 133 rfl) rfl
theorem q1160 : (Jvm.Cond.selects "java/lang/StringBuilder" ({ cls := "java/lang/AbstractStringBuilder", name := "getValue", desc := "()[B" } : Jvm.MethodName) ({ cls := "java/lang/AbstractStringBuilder", name := "getValue", desc := "()[B" } : Jvm.MethodName)) ∈ lw_all := lw_g (lw_at lw_m5 134 rfl) rfl
theorem q1161 : (Jvm.Cond.code ({ cls := "java/lang/AbstractStringBuilder", name := "getValue", desc := "()[B" } : Jvm.MethodName) prog_15_method_64_code (1 : Nat) (Option.some (Jvm.ClassFile.FieldType.array Jvm.ClassFile.FieldType.byte))) ∈ lw_all := lw_g (lw_at lw_m5 135 rfl) rfl
theorem q1162 : (Jvm.Cond.methodLink "java/lang/String" (549 : Nat) ({ cls := "java/lang/AbstractStringBuilder", name := "length", desc := "()I" } : Jvm.MethodName)) ∈ lw_all := lw_g (lw_at lw_m5 136 rfl) rfl
theorem q1163 : (Jvm.Cond.instanceMethod ({ cls := "java/lang/AbstractStringBuilder", name := "length", desc := "()I" } : Jvm.MethodName)) ∈ lw_all := lw_g (lw_at lw_m5 137 rfl) rfl
theorem q1164 : (Jvm.Cond.sameMethod "java/lang/AbstractStringBuilder" "java/lang/AbstractStringBuilder" "length" "()I") ∈ lw_all := lw_g (lw_at lw_m5 138 rfl) rfl
theorem q1165 : (Jvm.Cond.selects "java/lang/StringBuilder" ({ cls := "java/lang/AbstractStringBuilder", name := "length", desc := "()I" } : Jvm.MethodName) ({ cls := "java/lang/StringBuilder", name := "length", desc := "()I" } : Jvm.MethodName)) ∈ lw_all := lw_g (lw_at lw_m5 139 rfl) rfl
theorem q1166 : (Jvm.Cond.instanceMethod ({ cls := "java/lang/StringBuilder", name := "length", desc := "()I" } : Jvm.MethodName)) ∈ lw_all := lw_g (lw_at lw_m5 140 rfl) rfl
theorem q1167 : (Jvm.Cond.code ({ cls := "java/lang/StringBuilder", name := "length", desc := "()I" } : Jvm.MethodName) prog_37_method_93_code (1 : Nat) (Option.some Jvm.ClassFile.FieldType.int)) ∈ lw_all := lw_g (lw_at lw_m5 141 rfl) rfl
theorem q1168 : (Jvm.Cond.methodLink "java/lang/StringBuilder" (343 : Nat) ({ cls := "java/lang/AbstractStringBuilder", name := "length", desc := "()I" } : Jvm.MethodName)) ∈ lw_all := lw_g (lw_at lw_m5 142 rfl) rfl
theorem q1169 : (Jvm.Cond.code ({ cls := "java/lang/AbstractStringBuilder", name := "length", desc := "()I" } : Jvm.MethodName) prog_15_method_6_code (1 : Nat) (Option.some Jvm.ClassFile.FieldType.int)) ∈ lw_all := lw_g (lw_at lw_m5 143 rfl) rfl
theorem q1170 : (Jvm.Cond.methodLink "java/lang/String" (1047 : Nat) ({ cls := "java/lang/AbstractStringBuilder", name := "isLatin1", desc := "()Z" } : Jvm.MethodName)) ∈ lw_all := lw_g (lw_at lw_m5 144 rfl) rfl
theorem q1171 : (Jvm.Cond.methodLink "java/lang/String" (54 : Nat) ({ cls := "java/util/Arrays", name := "copyOfRange", desc := "([BII)[B" } : Jvm.MethodName)) ∈ lw_all := lw_g (lw_at lw_m5 145 rfl) rfl
theorem q1172 : (Jvm.Cond.static ({ cls := "java/util/Arrays", name := "copyOfRange", desc := "([BII)[B" } : Jvm.MethodName)) ∈ lw_all := lw_g (lw_at lw_m5 146 rfl) rfl
theorem q1173 : (Jvm.Cond.code ({ cls := "java/util/Arrays", name := "copyOfRange", desc := "([BII)[B" } : Jvm.MethodName) prog_53_method_132_code (3 : Nat) (Option.some (Jvm.ClassFile.FieldType.array Jvm.ClassFile.FieldType.byte))) ∈ lw_all := lw_g (lw_at lw_m5 147 rfl) rfl
theorem q1174 : (Jvm.Cond.methodLink "java/util/Arrays" (339 : Nat) ({ cls := "java/util/Arrays", name := "copyOfRangeByte", desc := "([BII)[B" } : Jvm.MethodName)) ∈ lw_all := lw_g (lw_at lw_m5 148 rfl) rfl
theorem q1175 : (Jvm.Cond.static ({ cls := "java/util/Arrays", name := "copyOfRangeByte", desc := "([BII)[B" } : Jvm.MethodName)) ∈ lw_all := lw_g (lw_at lw_m5 149 rfl) rfl
theorem q1176 : (Jvm.Cond.code ({ cls := "java/util/Arrays", name := "copyOfRangeByte", desc := "([BII)[B" } : Jvm.MethodName) prog_53_method_133_code (5 : Nat) (Option.some (Jvm.ClassFile.FieldType.array Jvm.ClassFile.FieldType.byte))) ∈ lw_all := lw_g (lw_at lw_m5 150 rfl) rfl
theorem q1177 : (Jvm.Cond.methodLink "java/util/Arrays" (343 : Nat) ({ cls := "java/util/Arrays", name := "checkLength", desc := "(II)V" } : Jvm.MethodName)) ∈ lw_all := lw_g (lw_at lw_m5 151 rfl) rfl
theorem q1178 : (Jvm.Cond.static ({ cls := "java/util/Arrays", name := "checkLength", desc := "(II)V" } : Jvm.MethodName)) ∈ lw_all := lw_g (lw_at lw_m5 152 rfl) rfl
theorem q1179 : (Jvm.Cond.code ({ cls := "java/util/Arrays", name := "checkLength", desc := "(II)V" } : Jvm.MethodName) prog_53_method_131_code (2 : Nat) (Option.none : Option Jvm.ClassFile.FieldType)) ∈ lw_all := lw_g (lw_at lw_m5 153 rfl) rfl
theorem q1212 : (Jvm.Cond.fieldLink "java/lang/String" (9 : Nat) "java/lang/String" "value" "[B") ∈ lw_all := lw_g (lw_at lw_m5 186 rfl) rfl
theorem q1213 : (Jvm.Cond.fieldLink "java/lang/String" (15 : Nat) "java/lang/String" "coder" "B") ∈ lw_all := lw_g (lw_at lw_m5 187 rfl) rfl
theorem q1214 : (Jvm.Cond.fieldLink "java/lang/String" (19 : Nat) "java/lang/String" "hash" "I") ∈ lw_all := lw_g (lw_at lw_m5 188 rfl) rfl
theorem q1215 : (Jvm.Cond.fieldLink "java/lang/String" (23 : Nat) "java/lang/String" "hashIsZero" "Z") ∈ lw_all := lw_g (lw_at lw_m5 189 rfl) rfl
theorem q1403 : (Jvm.Cond.classLink "java/lang/Integer" (1 : Nat) "java/lang/Integer") ∈ lw_all := lw_g (lw_at lw_m6 137 rfl) rfl
theorem q1417 : (Jvm.Cond.classLink "java/lang/String" (10 : Nat) "java/lang/String") ∈ lw_all := lw_g (lw_at lw_m6 151 rfl) rfl
theorem q1428 : (Jvm.Cond.methodLink "java/lang/StringLatin1" (38 : Nat) ({ cls := "java/lang/Math", name := "min", desc := "(II)I" } : Jvm.MethodName)) ∈ lw_all := lw_g (lw_at lw_m6 162 rfl) rfl
theorem q1503 : (Jvm.Cond.constant "java/lang/Integer" (264 : Nat) (65536 : Int32)) ∈ lw_all := lw_g (lw_at lw_m6 237 rfl) rfl
theorem q1647 : (Jvm.Cond.methodLink "java/lang/Integer" (211 : Nat) ({ cls := "java/lang/Integer", name := "intValue", desc := "()I" } : Jvm.MethodName)) ∈ lw_all := lw_g (lw_at lw_m7 141 rfl) rfl
theorem q1648 : (Jvm.Cond.instanceMethod ({ cls := "java/lang/Integer", name := "intValue", desc := "()I" } : Jvm.MethodName)) ∈ lw_all := lw_g (lw_at lw_m7 142 rfl) rfl
theorem q1649 : (Jvm.Cond.selects "java/lang/Integer" ({ cls := "java/lang/Integer", name := "intValue", desc := "()I" } : Jvm.MethodName) ({ cls := "java/lang/Integer", name := "intValue", desc := "()I" } : Jvm.MethodName)) ∈ lw_all := lw_g (lw_at lw_m7 143 rfl) rfl
theorem q1650 : (Jvm.Cond.code ({ cls := "java/lang/Integer", name := "intValue", desc := "()I" } : Jvm.MethodName) prog_28_method_27_code (1 : Nat) (Option.some Jvm.ClassFile.FieldType.int)) ∈ lw_all := lw_g (lw_at lw_m7 144 rfl) rfl
theorem q2136 : (Jvm.Cond.fieldLink "java/lang/Integer" (191 : Nat) "java/lang/Integer$IntegerCache" "high" "I") ∈ lw_all := lw_g (lw_at lw_m9 150 rfl) rfl
theorem q2138 : (Jvm.Cond.fieldLink "java/lang/Integer" (195 : Nat) "java/lang/Integer$IntegerCache" "cache" "[Ljava/lang/Integer;") ∈ lw_all := lw_g (lw_at lw_m9 152 rfl) rfl
theorem q2140 : (Jvm.Cond.instantiable "java/lang/Integer" (1 : Nat)) ∈ lw_all := lw_g (lw_at lw_m9 154 rfl) rfl
theorem q2141 : (Jvm.Cond.methodLink "java/lang/Integer" (199 : Nat) ({ cls := "java/lang/Integer", name := "<init>", desc := "(I)V" } : Jvm.MethodName)) ∈ lw_all := lw_g (lw_at lw_m9 155 rfl) rfl
theorem q2142 : (Jvm.Cond.instanceMethod ({ cls := "java/lang/Integer", name := "<init>", desc := "(I)V" } : Jvm.MethodName)) ∈ lw_all := lw_g (lw_at lw_m9 156 rfl) rfl
theorem q2143 : (Jvm.Cond.code ({ cls := "java/lang/Integer", name := "<init>", desc := "(I)V" } : Jvm.MethodName) prog_28_method_23_code (2 : Nat) (Option.none : Option Jvm.ClassFile.FieldType)) ∈ lw_all := lw_g (lw_at lw_m9 157 rfl) rfl
theorem q2144 : (Jvm.Cond.methodLink "java/lang/Integer" (202 : Nat) ({ cls := "java/lang/Number", name := "<init>", desc := "()V" } : Jvm.MethodName)) ∈ lw_all := lw_g (lw_at lw_m9 158 rfl) rfl
theorem q2145 : (Jvm.Cond.instanceMethod ({ cls := "java/lang/Number", name := "<init>", desc := "()V" } : Jvm.MethodName)) ∈ lw_all := lw_g (lw_at lw_m9 159 rfl) rfl
theorem q2146 : (Jvm.Cond.code ({ cls := "java/lang/Number", name := "<init>", desc := "()V" } : Jvm.MethodName) prog_33_method_1_code (1 : Nat) (Option.none : Option Jvm.ClassFile.FieldType)) ∈ lw_all := lw_g (lw_at lw_m9 160 rfl) rfl
theorem q2147 : (Jvm.Cond.methodLink "java/lang/Number" (1 : Nat) ({ cls := "java/lang/Object", name := "<init>", desc := "()V" } : Jvm.MethodName)) ∈ lw_all := lw_g (lw_at lw_m9 161 rfl) rfl
theorem q2148 : (Jvm.Cond.fieldLink "java/lang/Integer" (205 : Nat) "java/lang/Integer" "value" "I") ∈ lw_all := lw_g (lw_at lw_m9 162 rfl) rfl
theorem q2248 : (Jvm.Cond.static ({ cls := "jdk/internal/util/Preconditions", name := "checkIndex", desc := "(IILjava/util/function/BiFunction;)I" } : Jvm.MethodName)) ∈ lw_all := lw_g (lw_at lw_m10 22 rfl) rfl
theorem q2249 : (Jvm.Cond.code ({ cls := "jdk/internal/util/Preconditions", name := "checkIndex", desc := "(IILjava/util/function/BiFunction;)I" } : Jvm.MethodName) prog_88_method_11_code (3 : Nat) (Option.some Jvm.ClassFile.FieldType.int)) ∈ lw_all := lw_g (lw_at lw_m10 23 rfl) rfl
theorem q2700 : (Jvm.Cond.methodLink "java/lang/String" (495 : Nat) ({ cls := "java/lang/StringLatin1", name := "charAt", desc := "([BI)C" } : Jvm.MethodName)) ∈ lw_all := lw_g (lw_at lw_m11 234 rfl) rfl
theorem q2701 : (Jvm.Cond.static ({ cls := "java/lang/StringLatin1", name := "charAt", desc := "([BI)C" } : Jvm.MethodName)) ∈ lw_all := lw_g (lw_at lw_m11 235 rfl) rfl
theorem q2702 : (Jvm.Cond.code ({ cls := "java/lang/StringLatin1", name := "charAt", desc := "([BI)C" } : Jvm.MethodName) prog_39_method_2_code (2 : Nat) (Option.some Jvm.ClassFile.FieldType.char)) ∈ lw_all := lw_g (lw_at lw_m11 236 rfl) rfl
theorem q2703 : (Jvm.Cond.methodLink "java/lang/StringLatin1" (9 : Nat) ({ cls := "java/lang/String", name := "checkIndex", desc := "(II)V" } : Jvm.MethodName)) ∈ lw_all := lw_g (lw_at lw_m11 237 rfl) rfl
theorem q2704 : (Jvm.Cond.static ({ cls := "java/lang/String", name := "checkIndex", desc := "(II)V" } : Jvm.MethodName)) ∈ lw_all := lw_g (lw_at lw_m11 238 rfl) rfl
theorem q2705 : (Jvm.Cond.code ({ cls := "java/lang/String", name := "checkIndex", desc := "(II)V" } : Jvm.MethodName) prog_36_method_155_code (2 : Nat) (Option.none : Option Jvm.ClassFile.FieldType)) ∈ lw_all := lw_g (lw_at lw_m11 239 rfl) rfl
theorem q2706 : (Jvm.Cond.methodLink "java/lang/String" (1059 : Nat) ({ cls := "jdk/internal/util/Preconditions", name := "checkIndex", desc := "(IILjava/util/function/BiFunction;)I" } : Jvm.MethodName)) ∈ lw_all := lw_g (lw_at lw_m12 0 rfl) rfl
theorem q2718 : (Jvm.Cond.methodLink "java/lang/StringBuilder" (50 : Nat) ({ cls := "java/lang/AbstractStringBuilder", name := "append", desc := "(C)Ljava/lang/AbstractStringBuilder;" } : Jvm.MethodName)) ∈ lw_all := lw_g (lw_at lw_m12 12 rfl) rfl
theorem q2719 : (Jvm.Cond.instanceMethod ({ cls := "java/lang/AbstractStringBuilder", name := "append", desc := "(C)Ljava/lang/AbstractStringBuilder;" } : Jvm.MethodName)) ∈ lw_all := lw_g (lw_at lw_m12 13 rfl) rfl
theorem q2720 : (Jvm.Cond.code ({ cls := "java/lang/AbstractStringBuilder", name := "append", desc := "(C)Ljava/lang/AbstractStringBuilder;" } : Jvm.MethodName) prog_15_method_31_code (2 : Nat) (Option.some (Jvm.ClassFile.FieldType.object "java/lang/AbstractStringBuilder"))) ∈ lw_all := lw_g (lw_at lw_m12 14 rfl) rfl
theorem q2721 : (Jvm.Cond.methodLink "java/lang/AbstractStringBuilder" (191 : Nat) ({ cls := "java/lang/StringLatin1", name := "canEncode", desc := "(C)Z" } : Jvm.MethodName)) ∈ lw_all := lw_g (lw_at lw_m12 15 rfl) rfl
theorem q2722 : (Jvm.Cond.static ({ cls := "java/lang/StringLatin1", name := "canEncode", desc := "(C)Z" } : Jvm.MethodName)) ∈ lw_all := lw_g (lw_at lw_m12 16 rfl) rfl
theorem q2723 : (Jvm.Cond.code ({ cls := "java/lang/StringLatin1", name := "canEncode", desc := "(C)Z" } : Jvm.MethodName) prog_39_method_3_code (1 : Nat) (Option.some Jvm.ClassFile.FieldType.boolean)) ∈ lw_all := lw_g (lw_at lw_m12 17 rfl) rfl
theorem q2878 : (Jvm.Cond.methodLink "java/lang/StringBuilder" (333 : Nat) ({ cls := "java/lang/AbstractStringBuilder", name := "setLength", desc := "(I)V" } : Jvm.MethodName)) ∈ lw_all := lw_g (lw_at lw_m12 172 rfl) rfl
theorem q2879 : (Jvm.Cond.instanceMethod ({ cls := "java/lang/AbstractStringBuilder", name := "setLength", desc := "(I)V" } : Jvm.MethodName)) ∈ lw_all := lw_g (lw_at lw_m12 173 rfl) rfl
theorem q2880 : (Jvm.Cond.code ({ cls := "java/lang/AbstractStringBuilder", name := "setLength", desc := "(I)V" } : Jvm.MethodName) prog_15_method_13_code (2 : Nat) (Option.none : Option Jvm.ClassFile.FieldType)) ∈ lw_all := lw_g (lw_at lw_m12 174 rfl) rfl
theorem q2900 : (Jvm.Cond.methodLink "java/lang/AbstractStringBuilder" (133 : Nat) ({ cls := "java/lang/StringLatin1", name := "fillNull", desc := "([BII)V" } : Jvm.MethodName)) ∈ lw_all := lw_g (lw_at lw_m12 194 rfl) rfl
theorem q2901 : (Jvm.Cond.static ({ cls := "java/lang/StringLatin1", name := "fillNull", desc := "([BII)V" } : Jvm.MethodName)) ∈ lw_all := lw_g (lw_at lw_m12 195 rfl) rfl
theorem q2902 : (Jvm.Cond.code ({ cls := "java/lang/StringLatin1", name := "fillNull", desc := "([BII)V" } : Jvm.MethodName) prog_39_method_48_code (3 : Nat) (Option.none : Option Jvm.ClassFile.FieldType)) ∈ lw_all := lw_g (lw_at lw_m12 196 rfl) rfl
theorem q2903 : (Jvm.Cond.methodLink "java/lang/StringLatin1" (236 : Nat) ({ cls := "java/util/Arrays", name := "fill", desc := "([BIIB)V" } : Jvm.MethodName)) ∈ lw_all := lw_g (lw_at lw_m12 197 rfl) rfl
theorem q2904 : (Jvm.Cond.static ({ cls := "java/util/Arrays", name := "fill", desc := "([BIIB)V" } : Jvm.MethodName)) ∈ lw_all := lw_g (lw_at lw_m12 198 rfl) rfl
theorem q2905 : (Jvm.Cond.code ({ cls := "java/util/Arrays", name := "fill", desc := "([BIIB)V" } : Jvm.MethodName) prog_53_method_110_code (5 : Nat) (Option.none : Option Jvm.ClassFile.FieldType)) ∈ lw_all := lw_g (lw_at lw_m12 199 rfl) rfl
theorem q2975 : (Jvm.Cond.methodLink "java/lang/String" (633 : Nat) ({ cls := "java/lang/String", name := "indexOf", desc := "(II)I" } : Jvm.MethodName)) ∈ lw_all := lw_g (lw_at lw_m13 29 rfl) rfl
theorem q2976 : (Jvm.Cond.instanceMethod ({ cls := "java/lang/String", name := "indexOf", desc := "(II)I" } : Jvm.MethodName)) ∈ lw_all := lw_g (lw_at lw_m13 30 rfl) rfl
theorem q2977 : (Jvm.Cond.selects "java/lang/String" ({ cls := "java/lang/String", name := "indexOf", desc := "(II)I" } : Jvm.MethodName) ({ cls := "java/lang/String", name := "indexOf", desc := "(II)I" } : Jvm.MethodName)) ∈ lw_all := lw_g (lw_at lw_m13 31 rfl) rfl
theorem q2978 : (Jvm.Cond.code ({ cls := "java/lang/String", name := "indexOf", desc := "(II)I" } : Jvm.MethodName) prog_36_method_80_code (3 : Nat) (Option.some Jvm.ClassFile.FieldType.int)) ∈ lw_all := lw_g (lw_at lw_m13 32 rfl) rfl
theorem q2979 : (Jvm.Cond.methodLink "java/lang/String" (505 : Nat) ({ cls := "java/lang/String", name := "length", desc := "()I" } : Jvm.MethodName)) ∈ lw_all := lw_g (lw_at lw_m13 33 rfl) rfl
theorem q2980 : (Jvm.Cond.methodLink "java/lang/String" (637 : Nat) ({ cls := "java/lang/StringLatin1", name := "indexOf", desc := "([BIII)I" } : Jvm.MethodName)) ∈ lw_all := lw_g (lw_at lw_m13 34 rfl) rfl
theorem q2981 : (Jvm.Cond.static ({ cls := "java/lang/StringLatin1", name := "indexOf", desc := "([BIII)I" } : Jvm.MethodName)) ∈ lw_all := lw_g (lw_at lw_m13 35 rfl) rfl
theorem q2982 : (Jvm.Cond.code ({ cls := "java/lang/StringLatin1", name := "indexOf", desc := "([BIII)I" } : Jvm.MethodName) prog_39_method_22_code (4 : Nat) (Option.some Jvm.ClassFile.FieldType.int)) ∈ lw_all := lw_g (lw_at lw_m13 36 rfl) rfl
theorem q2983 : (Jvm.Cond.methodLink "java/lang/StringLatin1" (88 : Nat) ({ cls := "java/lang/StringLatin1", name := "canEncode", desc := "(I)Z" } : Jvm.MethodName)) ∈ lw_all := lw_g (lw_at lw_m13 37 rfl) rfl
theorem q2984 : (Jvm.Cond.static ({ cls := "java/lang/StringLatin1", name := "canEncode", desc := "(I)Z" } : Jvm.MethodName)) ∈ lw_all := lw_g (lw_at lw_m13 38 rfl) rfl
theorem q2985 : (Jvm.Cond.code ({ cls := "java/lang/StringLatin1", name := "canEncode", desc := "(I)Z" } : Jvm.MethodName) prog_39_method_4_code (1 : Nat) (Option.some Jvm.ClassFile.FieldType.boolean)) ∈ lw_all := lw_g (lw_at lw_m13 39 rfl) rfl
theorem q2986 : (Jvm.Cond.methodLink "java/lang/StringLatin1" (92 : Nat) ({ cls := "java/lang/Math", name := "max", desc := "(II)I" } : Jvm.MethodName)) ∈ lw_all := lw_g (lw_at lw_m13 40 rfl) rfl
theorem q2987 : (Jvm.Cond.methodLink "java/lang/StringLatin1" (95 : Nat) ({ cls := "java/lang/StringLatin1", name := "indexOfChar", desc := "([BIII)I" } : Jvm.MethodName)) ∈ lw_all := lw_g (lw_at lw_m13 41 rfl) rfl
theorem q2988 : (Jvm.Cond.static ({ cls := "java/lang/StringLatin1", name := "indexOfChar", desc := "([BIII)I" } : Jvm.MethodName)) ∈ lw_all := lw_g (lw_at lw_m13 42 rfl) rfl
theorem q2989 : (Jvm.Cond.code ({ cls := "java/lang/StringLatin1", name := "indexOfChar", desc := "([BIII)I" } : Jvm.MethodName) prog_39_method_23_code (6 : Nat) (Option.some Jvm.ClassFile.FieldType.int)) ∈ lw_all := lw_g (lw_at lw_m13 43 rfl) rfl
theorem q3520 : (Jvm.Cond.sameMethod "java/lang/AbstractStringBuilder" "java/lang/AbstractStringBuilder" "append" "(Ljava/lang/String;)Ljava/lang/AbstractStringBuilder;") ∈ lw_all := lw_g (lw_at lw_m15 94 rfl) rfl
theorem q3522 : (Jvm.Cond.sameMethod "java/lang/AbstractStringBuilder" "java/lang/AbstractStringBuilder" "ensureCapacityInternal" "(I)V") ∈ lw_all := lw_g (lw_at lw_m15 96 rfl) rfl
theorem q3523 : (Jvm.Cond.sameMethod "java/lang/AbstractStringBuilder" "java/lang/AbstractStringBuilder" "newCapacity" "(I)I") ∈ lw_all := lw_g (lw_at lw_m15 97 rfl) rfl
theorem q3524 : (Jvm.Cond.sameMethod "java/lang/AbstractStringBuilder" "java/lang/AbstractStringBuilder" "putStringAt" "(ILjava/lang/String;)V") ∈ lw_all := lw_g (lw_at lw_m15 98 rfl) rfl
theorem q3525 : (Jvm.Cond.sameMethod "java/lang/AbstractStringBuilder" "java/lang/AbstractStringBuilder" "inflateIfNeededFor" "(Ljava/lang/String;)V") ∈ lw_all := lw_g (lw_at lw_m15 99 rfl) rfl
theorem q3527 : (Jvm.Cond.sameMethod "java/lang/AbstractStringBuilder" "java/lang/AbstractStringBuilder" "append" "(I)Ljava/lang/AbstractStringBuilder;") ∈ lw_all := lw_g (lw_at lw_m15 101 rfl) rfl
theorem q3545 : (Jvm.Cond.sameMethod "java/lang/AbstractStringBuilder" "java/lang/AbstractStringBuilder" "append" "(C)Ljava/lang/AbstractStringBuilder;") ∈ lw_all := lw_g (lw_at lw_m15 119 rfl) rfl
theorem q3547 : (Jvm.Cond.sameMethod "java/lang/AbstractStringBuilder" "java/lang/AbstractStringBuilder" "setLength" "(I)V") ∈ lw_all := lw_g (lw_at lw_m15 121 rfl) rfl
theorem fo_16_0 : fOk [16] 0 "java/lang/AbstractStringBuilder" "value" "[B" (.array .byte) false := List.forall_mem_singleton.mpr ⟨_, _, _, tyJ9, rfl, in_J9, tyJ9_ok, nmJ9, by decide, rfl, rfl⟩
theorem fo_16_1 : fOk [16] 1 "java/lang/AbstractStringBuilder" "coder" "B" .byte false := List.forall_mem_singleton.mpr ⟨_, _, _, tyJ9, rfl, in_J9, tyJ9_ok, nmJ9, by decide, rfl, rfl⟩
theorem fo_16_2 : fOk [16] 2 "java/lang/AbstractStringBuilder" "maybeLatin1" "Z" .boolean false := List.forall_mem_singleton.mpr ⟨_, _, _, tyJ9, rfl, in_J9, tyJ9_ok, nmJ9, by decide, rfl, rfl⟩
theorem fo_16_3 : fOk [16] 3 "java/lang/AbstractStringBuilder" "count" "I" .int false := List.forall_mem_singleton.mpr ⟨_, _, _, tyJ9, rfl, in_J9, tyJ9_ok, nmJ9, by decide, rfl, rfl⟩
theorem fo_17_0 : fOk [17] 0 "java/lang/String" "value" "[B" (.array .byte) true := List.forall_mem_singleton.mpr ⟨_, _, _, tyJ10, rfl, in_J10, tyJ10_ok, nmJ10, by decide, rfl, rfl⟩
theorem fo_17_1 : fOk [17] 1 "java/lang/String" "coder" "B" .byte true := List.forall_mem_singleton.mpr ⟨_, _, _, tyJ10, rfl, in_J10, tyJ10_ok, nmJ10, by decide, rfl, rfl⟩
theorem fo_17_2 : fOk [17] 2 "java/lang/String" "hash" "I" .int false := List.forall_mem_singleton.mpr ⟨_, _, _, tyJ10, rfl, in_J10, tyJ10_ok, nmJ10, by decide, rfl, rfl⟩
theorem fo_17_3 : fOk [17] 3 "java/lang/String" "hashIsZero" "Z" .boolean false := List.forall_mem_singleton.mpr ⟨_, _, _, tyJ10, rfl, in_J10, tyJ10_ok, nmJ10, by decide, rfl, rfl⟩
theorem fo_25_0 : fOk [25] 0 "java/lang/Integer" "value" "I" .int true := List.forall_mem_singleton.mpr ⟨_, _, _, tyJ31, rfl, in_J31, tyJ31_ok, nmJ31, by decide, rfl, rfl⟩
abbrev dfJ10 : List Value := [.null, .int 0, .int 0, .int 0]
theorem dfJ10_ok : ∀ j, j < 4 → defaultValue (tyJ10 j) = vp_V dfJ10 j := fun j h => match j, h with | 0, _ => rfl | 1, _ => rfl | 2, _ => rfl | 3, _ => rfl | j + 4, h => absurd h (by omega)
abbrev dfJ31 : List Value := [.int 0]
theorem dfJ31_ok : ∀ j, j < 1 → defaultValue (tyJ31 j) = vp_V dfJ31 j := fun j h => match j, h with | 0, _ => rfl | j + 1, h => absurd h (by omega)
theorem ca_0 : ∀ ci ∈ ([17] : List Nat), ∃ r : vw_C, gCL[ci]? = some r ∧ (Cond.castable r.1 "java/lang/String" ∈ lw_tbl ∨ r.1 = "java/lang/String") := List.forall_mem_singleton.mpr ⟨_, rfl, Or.inr rfl⟩
theorem ca_5 : ∀ ci ∈ ([25] : List Nat), ∃ r : vw_C, gCL[ci]? = some r ∧ (Cond.castable r.1 "java/lang/Integer" ∈ lw_tbl ∨ r.1 = "java/lang/Integer") := List.forall_mem_singleton.mpr ⟨_, rfl, Or.inr rfl⟩
abbrev cJ8_init : ByteArray := prog_15_method_2_code
def yJ8_init : MethodName := ⟨RJ8, "<init>", "(I)V"⟩
def dkwJ8_init_1 : List UInt8 := [167, 0, 16, 42, 27, 184, 0, 26, 181, 0, 15, 42, 4, 181, 0, 22, 177]
abbrev dktJ8_init_1 : List UInt8 := dkwJ8_init_1 ++ []
def dkwJ8_init_0 : List UInt8 := [42, 183, 0, 3, 178, 0, 18, 153, 0, 18, 42, 27, 188, 8, 181, 0, 15, 42, 3, 181, 0, 22]
abbrev dktJ8_init_0 : List UInt8 := dkwJ8_init_0 ++ dktJ8_init_1
theorem dksJ8_init_0 : cJ8_init.data.toList.drop 0 = dktJ8_init_0 := by decide +kernel
theorem dksJ8_init_1 : cJ8_init.data.toList.drop 22 = dktJ8_init_1 := dk_seg dksJ8_init_0 22 rfl rfl
theorem dJ8_init_0 : decode cJ8_init 0 = .ok (.aload_n 0, 1) := dk_42 (dk_at dksJ8_init_0 0 rfl rfl)
theorem dJ8_init_1 : decode cJ8_init 1 = .ok (.invokespecial 3, 3) := dk_183 0 3 (dk_at dksJ8_init_0 1 rfl rfl)
theorem dJ8_init_4 : decode cJ8_init 4 = .ok (.getstatic 18, 3) := dk_178 0 18 (dk_at dksJ8_init_0 4 rfl rfl)
theorem dJ8_init_7 : decode cJ8_init 7 = .ok (.ifCond .eq 18, 3) := dk_153 0 18 (dk_at dksJ8_init_0 7 rfl rfl)
theorem dJ8_init_10 : decode cJ8_init 10 = .ok (.aload_n 0, 1) := dk_42 (dk_at dksJ8_init_0 10 rfl rfl)
theorem dJ8_init_11 : decode cJ8_init 11 = .ok (.iload_n 1, 1) := dk_27 (dk_at dksJ8_init_0 11 rfl rfl)
theorem dJ8_init_12 : decode cJ8_init 12 = .ok (.newarray .byte, 2) := dk_188_8 (dk_at dksJ8_init_0 12 rfl rfl)
theorem dJ8_init_14 : decode cJ8_init 14 = .ok (.putfield 15, 3) := dk_181 0 15 (dk_at dksJ8_init_0 14 rfl rfl)
theorem dJ8_init_17 : decode cJ8_init 17 = .ok (.aload_n 0, 1) := dk_42 (dk_at dksJ8_init_0 17 rfl rfl)
theorem dJ8_init_18 : decode cJ8_init 18 = .ok (.iconst 0, 1) := dk_3 (dk_at dksJ8_init_0 18 rfl rfl)
theorem dJ8_init_19 : decode cJ8_init 19 = .ok (.putfield 22, 3) := dk_181 0 22 (dk_at dksJ8_init_0 19 rfl rfl)
theorem dJ8_init_22 : decode cJ8_init 22 = .ok (.goto 16, 3) := dk_167 0 16 (dk_at dksJ8_init_1 0 rfl rfl)
theorem dJ8_init_25 : decode cJ8_init 25 = .ok (.aload_n 0, 1) := dk_42 (dk_at dksJ8_init_1 3 rfl rfl)
theorem dJ8_init_26 : decode cJ8_init 26 = .ok (.iload_n 1, 1) := dk_27 (dk_at dksJ8_init_1 4 rfl rfl)
theorem dJ8_init_27 : decode cJ8_init 27 = .ok (.invokestatic 26, 3) := dk_184 0 26 (dk_at dksJ8_init_1 5 rfl rfl)
theorem dJ8_init_30 : decode cJ8_init 30 = .ok (.putfield 15, 3) := dk_181 0 15 (dk_at dksJ8_init_1 8 rfl rfl)
theorem dJ8_init_33 : decode cJ8_init 33 = .ok (.aload_n 0, 1) := dk_42 (dk_at dksJ8_init_1 11 rfl rfl)
theorem dJ8_init_34 : decode cJ8_init 34 = .ok (.iconst 1, 1) := dk_4 (dk_at dksJ8_init_1 12 rfl rfl)
theorem dJ8_init_35 : decode cJ8_init 35 = .ok (.putfield 22, 3) := dk_181 0 22 (dk_at dksJ8_init_1 13 rfl rfl)
theorem dJ8_init_38 : decode cJ8_init 38 = .ok (.return_, 1) := dk_177 (dk_at dksJ8_init_1 16 rfl rfl)
abbrev cJ8_append : ByteArray := prog_15_method_22_code
def yJ8_append : MethodName := ⟨RJ8, "append", "(Ljava/lang/String;)Ljava/lang/AbstractStringBuilder;"⟩
def dkwJ8_append_1 : List UInt8 := [42, 42, 180, 0, 79, 43, 182, 0, 208, 42, 89, 180, 0, 79, 28, 96, 181, 0, 79, 42, 176]
abbrev dktJ8_append_1 : List UInt8 := dkwJ8_append_1 ++ []
def dkwJ8_append_0 : List UInt8 := [43, 199, 0, 8, 42, 182, 0, 204, 176, 43, 182, 0, 32, 61, 42, 42, 180, 0, 79, 28, 96, 182, 0, 100]
abbrev dktJ8_append_0 : List UInt8 := dkwJ8_append_0 ++ dktJ8_append_1
theorem dksJ8_append_0 : cJ8_append.data.toList.drop 0 = dktJ8_append_0 := by decide +kernel
theorem dksJ8_append_1 : cJ8_append.data.toList.drop 24 = dktJ8_append_1 := dk_seg dksJ8_append_0 24 rfl rfl
theorem dJ8_append_0 : decode cJ8_append 0 = .ok (.aload_n 1, 1) := dk_43 (dk_at dksJ8_append_0 0 rfl rfl)
theorem dJ8_append_1 : decode cJ8_append 1 = .ok (.ifnonnull 8, 3) := dk_199 0 8 (dk_at dksJ8_append_0 1 rfl rfl)
theorem dJ8_append_4 : decode cJ8_append 4 = .ok (.aload_n 0, 1) := dk_42 (dk_at dksJ8_append_0 4 rfl rfl)
theorem dJ8_append_5 : decode cJ8_append 5 = .ok (.invokevirtual 204, 3) := dk_182 0 204 (dk_at dksJ8_append_0 5 rfl rfl)
theorem dJ8_append_8 : decode cJ8_append 8 = .ok (.areturn, 1) := dk_176 (dk_at dksJ8_append_0 8 rfl rfl)
theorem dJ8_append_9 : decode cJ8_append 9 = .ok (.aload_n 1, 1) := dk_43 (dk_at dksJ8_append_0 9 rfl rfl)
theorem dJ8_append_10 : decode cJ8_append 10 = .ok (.invokevirtual 32, 3) := dk_182 0 32 (dk_at dksJ8_append_0 10 rfl rfl)
theorem dJ8_append_13 : decode cJ8_append 13 = .ok (.istore_n 2, 1) := dk_61 (dk_at dksJ8_append_0 13 rfl rfl)
theorem dJ8_append_14 : decode cJ8_append 14 = .ok (.aload_n 0, 1) := dk_42 (dk_at dksJ8_append_0 14 rfl rfl)
theorem dJ8_append_15 : decode cJ8_append 15 = .ok (.aload_n 0, 1) := dk_42 (dk_at dksJ8_append_0 15 rfl rfl)
theorem dJ8_append_16 : decode cJ8_append 16 = .ok (.getfield 79, 3) := dk_180 0 79 (dk_at dksJ8_append_0 16 rfl rfl)
theorem dJ8_append_19 : decode cJ8_append 19 = .ok (.iload_n 2, 1) := dk_28 (dk_at dksJ8_append_0 19 rfl rfl)
theorem dJ8_append_20 : decode cJ8_append 20 = .ok (.iadd, 1) := dk_96 (dk_at dksJ8_append_0 20 rfl rfl)
theorem dJ8_append_21 : decode cJ8_append 21 = .ok (.invokevirtual 100, 3) := dk_182 0 100 (dk_at dksJ8_append_0 21 rfl rfl)
theorem dJ8_append_24 : decode cJ8_append 24 = .ok (.aload_n 0, 1) := dk_42 (dk_at dksJ8_append_1 0 rfl rfl)
theorem dJ8_append_25 : decode cJ8_append 25 = .ok (.aload_n 0, 1) := dk_42 (dk_at dksJ8_append_1 1 rfl rfl)
theorem dJ8_append_26 : decode cJ8_append 26 = .ok (.getfield 79, 3) := dk_180 0 79 (dk_at dksJ8_append_1 2 rfl rfl)
theorem dJ8_append_29 : decode cJ8_append 29 = .ok (.aload_n 1, 1) := dk_43 (dk_at dksJ8_append_1 5 rfl rfl)
theorem dJ8_append_30 : decode cJ8_append 30 = .ok (.invokevirtual 208, 3) := dk_182 0 208 (dk_at dksJ8_append_1 6 rfl rfl)
theorem dJ8_append_33 : decode cJ8_append 33 = .ok (.aload_n 0, 1) := dk_42 (dk_at dksJ8_append_1 9 rfl rfl)
theorem dJ8_append_34 : decode cJ8_append 34 = .ok (.dup, 1) := dk_89 (dk_at dksJ8_append_1 10 rfl rfl)
theorem dJ8_append_35 : decode cJ8_append 35 = .ok (.getfield 79, 3) := dk_180 0 79 (dk_at dksJ8_append_1 11 rfl rfl)
theorem dJ8_append_38 : decode cJ8_append 38 = .ok (.iload_n 2, 1) := dk_28 (dk_at dksJ8_append_1 14 rfl rfl)
theorem dJ8_append_39 : decode cJ8_append 39 = .ok (.iadd, 1) := dk_96 (dk_at dksJ8_append_1 15 rfl rfl)
theorem dJ8_append_40 : decode cJ8_append 40 = .ok (.putfield 79, 3) := dk_181 0 79 (dk_at dksJ8_append_1 16 rfl rfl)
theorem dJ8_append_43 : decode cJ8_append 43 = .ok (.aload_n 0, 1) := dk_42 (dk_at dksJ8_append_1 19 rfl rfl)
theorem dJ8_append_44 : decode cJ8_append 44 = .ok (.areturn, 1) := dk_176 (dk_at dksJ8_append_1 20 rfl rfl)
abbrev cJ8_ensureCapacityInternal : ByteArray := prog_15_method_9_code
def yJ8_ensureCapacityInternal : MethodName := ⟨RJ8, "ensureCapacityInternal", "(I)V"⟩
def dkwJ8_ensureCapacityInternal_1 : List UInt8 := [182, 0, 104, 42, 180, 0, 22, 120, 184, 0, 108, 181, 0, 15, 177]
abbrev dktJ8_ensureCapacityInternal_1 : List UInt8 := dkwJ8_ensureCapacityInternal_1 ++ []
def dkwJ8_ensureCapacityInternal_0 : List UInt8 := [42, 180, 0, 15, 190, 42, 180, 0, 22, 122, 61, 27, 28, 100, 158, 0, 24, 42, 42, 180, 0, 15, 42, 27]
abbrev dktJ8_ensureCapacityInternal_0 : List UInt8 := dkwJ8_ensureCapacityInternal_0 ++ dktJ8_ensureCapacityInternal_1
theorem dksJ8_ensureCapacityInternal_0 : cJ8_ensureCapacityInternal.data.toList.drop 0 = dktJ8_ensureCapacityInternal_0 := by decide +kernel
theorem dksJ8_ensureCapacityInternal_1 : cJ8_ensureCapacityInternal.data.toList.drop 24 = dktJ8_ensureCapacityInternal_1 := dk_seg dksJ8_ensureCapacityInternal_0 24 rfl rfl
theorem dJ8_ensureCapacityInternal_0 : decode cJ8_ensureCapacityInternal 0 = .ok (.aload_n 0, 1) := dk_42 (dk_at dksJ8_ensureCapacityInternal_0 0 rfl rfl)
theorem dJ8_ensureCapacityInternal_1 : decode cJ8_ensureCapacityInternal 1 = .ok (.getfield 15, 3) := dk_180 0 15 (dk_at dksJ8_ensureCapacityInternal_0 1 rfl rfl)
theorem dJ8_ensureCapacityInternal_4 : decode cJ8_ensureCapacityInternal 4 = .ok (.arraylength, 1) := dk_190 (dk_at dksJ8_ensureCapacityInternal_0 4 rfl rfl)
theorem dJ8_ensureCapacityInternal_5 : decode cJ8_ensureCapacityInternal 5 = .ok (.aload_n 0, 1) := dk_42 (dk_at dksJ8_ensureCapacityInternal_0 5 rfl rfl)
theorem dJ8_ensureCapacityInternal_6 : decode cJ8_ensureCapacityInternal 6 = .ok (.getfield 22, 3) := dk_180 0 22 (dk_at dksJ8_ensureCapacityInternal_0 6 rfl rfl)
theorem dJ8_ensureCapacityInternal_9 : decode cJ8_ensureCapacityInternal 9 = .ok (.ishr, 1) := dk_122 (dk_at dksJ8_ensureCapacityInternal_0 9 rfl rfl)
theorem dJ8_ensureCapacityInternal_10 : decode cJ8_ensureCapacityInternal 10 = .ok (.istore_n 2, 1) := dk_61 (dk_at dksJ8_ensureCapacityInternal_0 10 rfl rfl)
theorem dJ8_ensureCapacityInternal_11 : decode cJ8_ensureCapacityInternal 11 = .ok (.iload_n 1, 1) := dk_27 (dk_at dksJ8_ensureCapacityInternal_0 11 rfl rfl)
theorem dJ8_ensureCapacityInternal_12 : decode cJ8_ensureCapacityInternal 12 = .ok (.iload_n 2, 1) := dk_28 (dk_at dksJ8_ensureCapacityInternal_0 12 rfl rfl)
theorem dJ8_ensureCapacityInternal_13 : decode cJ8_ensureCapacityInternal 13 = .ok (.isub, 1) := dk_100 (dk_at dksJ8_ensureCapacityInternal_0 13 rfl rfl)
theorem dJ8_ensureCapacityInternal_14 : decode cJ8_ensureCapacityInternal 14 = .ok (.ifCond .le 24, 3) := dk_158 0 24 (dk_at dksJ8_ensureCapacityInternal_0 14 rfl rfl)
theorem dJ8_ensureCapacityInternal_17 : decode cJ8_ensureCapacityInternal 17 = .ok (.aload_n 0, 1) := dk_42 (dk_at dksJ8_ensureCapacityInternal_0 17 rfl rfl)
theorem dJ8_ensureCapacityInternal_18 : decode cJ8_ensureCapacityInternal 18 = .ok (.aload_n 0, 1) := dk_42 (dk_at dksJ8_ensureCapacityInternal_0 18 rfl rfl)
theorem dJ8_ensureCapacityInternal_19 : decode cJ8_ensureCapacityInternal 19 = .ok (.getfield 15, 3) := dk_180 0 15 (dk_at dksJ8_ensureCapacityInternal_0 19 rfl rfl)
theorem dJ8_ensureCapacityInternal_22 : decode cJ8_ensureCapacityInternal 22 = .ok (.aload_n 0, 1) := dk_42 (dk_at dksJ8_ensureCapacityInternal_0 22 rfl rfl)
theorem dJ8_ensureCapacityInternal_23 : decode cJ8_ensureCapacityInternal 23 = .ok (.iload_n 1, 1) := dk_27 (dk_at dksJ8_ensureCapacityInternal_0 23 rfl rfl)
theorem dJ8_ensureCapacityInternal_24 : decode cJ8_ensureCapacityInternal 24 = .ok (.invokevirtual 104, 3) := dk_182 0 104 (dk_at dksJ8_ensureCapacityInternal_1 0 rfl rfl)
theorem dJ8_ensureCapacityInternal_27 : decode cJ8_ensureCapacityInternal 27 = .ok (.aload_n 0, 1) := dk_42 (dk_at dksJ8_ensureCapacityInternal_1 3 rfl rfl)
theorem dJ8_ensureCapacityInternal_28 : decode cJ8_ensureCapacityInternal 28 = .ok (.getfield 22, 3) := dk_180 0 22 (dk_at dksJ8_ensureCapacityInternal_1 4 rfl rfl)
theorem dJ8_ensureCapacityInternal_31 : decode cJ8_ensureCapacityInternal 31 = .ok (.ishl, 1) := dk_120 (dk_at dksJ8_ensureCapacityInternal_1 7 rfl rfl)
theorem dJ8_ensureCapacityInternal_32 : decode cJ8_ensureCapacityInternal 32 = .ok (.invokestatic 108, 3) := dk_184 0 108 (dk_at dksJ8_ensureCapacityInternal_1 8 rfl rfl)
theorem dJ8_ensureCapacityInternal_35 : decode cJ8_ensureCapacityInternal 35 = .ok (.putfield 15, 3) := dk_181 0 15 (dk_at dksJ8_ensureCapacityInternal_1 11 rfl rfl)
theorem dJ8_ensureCapacityInternal_38 : decode cJ8_ensureCapacityInternal 38 = .ok (.return_, 1) := dk_177 (dk_at dksJ8_ensureCapacityInternal_1 14 rfl rfl)
abbrev cJ8_newCapacity : ByteArray := prog_15_method_10_code
def yJ8_newCapacity : MethodName := ⟨RJ8, "newCapacity", "(I)I"⟩
def dkwJ8_newCapacity_2 : List UInt8 := [183, 0, 124, 191, 21, 5, 42, 180, 0, 22, 122, 172]
abbrev dktJ8_newCapacity_2 : List UInt8 := dkwJ8_newCapacity_2 ++ []
def dkwJ8_newCapacity_1 : List UInt8 := [180, 0, 22, 120, 96, 184, 0, 114, 54, 5, 21, 5, 18, 39, 160, 0, 13, 187, 0, 120, 89, 18, 122]
abbrev dktJ8_newCapacity_1 : List UInt8 := dkwJ8_newCapacity_1 ++ dktJ8_newCapacity_2
def dkwJ8_newCapacity_0 : List UInt8 := [42, 180, 0, 15, 190, 61, 27, 42, 180, 0, 22, 120, 62, 29, 28, 100, 54, 4, 28, 21, 4, 28, 5, 42]
abbrev dktJ8_newCapacity_0 : List UInt8 := dkwJ8_newCapacity_0 ++ dktJ8_newCapacity_1
theorem dksJ8_newCapacity_0 : cJ8_newCapacity.data.toList.drop 0 = dktJ8_newCapacity_0 := by decide +kernel
theorem dksJ8_newCapacity_1 : cJ8_newCapacity.data.toList.drop 24 = dktJ8_newCapacity_1 := dk_seg dksJ8_newCapacity_0 24 rfl rfl
theorem dksJ8_newCapacity_2 : cJ8_newCapacity.data.toList.drop 47 = dktJ8_newCapacity_2 := dk_seg dksJ8_newCapacity_1 23 rfl rfl
theorem dJ8_newCapacity_0 : decode cJ8_newCapacity 0 = .ok (.aload_n 0, 1) := dk_42 (dk_at dksJ8_newCapacity_0 0 rfl rfl)
theorem dJ8_newCapacity_1 : decode cJ8_newCapacity 1 = .ok (.getfield 15, 3) := dk_180 0 15 (dk_at dksJ8_newCapacity_0 1 rfl rfl)
theorem dJ8_newCapacity_4 : decode cJ8_newCapacity 4 = .ok (.arraylength, 1) := dk_190 (dk_at dksJ8_newCapacity_0 4 rfl rfl)
theorem dJ8_newCapacity_5 : decode cJ8_newCapacity 5 = .ok (.istore_n 2, 1) := dk_61 (dk_at dksJ8_newCapacity_0 5 rfl rfl)
theorem dJ8_newCapacity_6 : decode cJ8_newCapacity 6 = .ok (.iload_n 1, 1) := dk_27 (dk_at dksJ8_newCapacity_0 6 rfl rfl)
theorem dJ8_newCapacity_7 : decode cJ8_newCapacity 7 = .ok (.aload_n 0, 1) := dk_42 (dk_at dksJ8_newCapacity_0 7 rfl rfl)
theorem dJ8_newCapacity_8 : decode cJ8_newCapacity 8 = .ok (.getfield 22, 3) := dk_180 0 22 (dk_at dksJ8_newCapacity_0 8 rfl rfl)
theorem dJ8_newCapacity_11 : decode cJ8_newCapacity 11 = .ok (.ishl, 1) := dk_120 (dk_at dksJ8_newCapacity_0 11 rfl rfl)
theorem dJ8_newCapacity_12 : decode cJ8_newCapacity 12 = .ok (.istore_n 3, 1) := dk_62 (dk_at dksJ8_newCapacity_0 12 rfl rfl)
theorem dJ8_newCapacity_13 : decode cJ8_newCapacity 13 = .ok (.iload_n 3, 1) := dk_29 (dk_at dksJ8_newCapacity_0 13 rfl rfl)
theorem dJ8_newCapacity_14 : decode cJ8_newCapacity 14 = .ok (.iload_n 2, 1) := dk_28 (dk_at dksJ8_newCapacity_0 14 rfl rfl)
theorem dJ8_newCapacity_15 : decode cJ8_newCapacity 15 = .ok (.isub, 1) := dk_100 (dk_at dksJ8_newCapacity_0 15 rfl rfl)
theorem dJ8_newCapacity_16 : decode cJ8_newCapacity 16 = .ok (.istore 4, 2) := dk_54 4 (dk_at dksJ8_newCapacity_0 16 rfl rfl)
theorem dJ8_newCapacity_18 : decode cJ8_newCapacity 18 = .ok (.iload_n 2, 1) := dk_28 (dk_at dksJ8_newCapacity_0 18 rfl rfl)
theorem dJ8_newCapacity_19 : decode cJ8_newCapacity 19 = .ok (.iload 4, 2) := dk_21 4 (dk_at dksJ8_newCapacity_0 19 rfl rfl)
theorem dJ8_newCapacity_21 : decode cJ8_newCapacity 21 = .ok (.iload_n 2, 1) := dk_28 (dk_at dksJ8_newCapacity_0 21 rfl rfl)
theorem dJ8_newCapacity_22 : decode cJ8_newCapacity 22 = .ok (.iconst 2, 1) := dk_5 (dk_at dksJ8_newCapacity_0 22 rfl rfl)
theorem dJ8_newCapacity_23 : decode cJ8_newCapacity 23 = .ok (.aload_n 0, 1) := dk_42 (dk_at dksJ8_newCapacity_0 23 rfl rfl)
theorem dJ8_newCapacity_24 : decode cJ8_newCapacity 24 = .ok (.getfield 22, 3) := dk_180 0 22 (dk_at dksJ8_newCapacity_1 0 rfl rfl)
theorem dJ8_newCapacity_27 : decode cJ8_newCapacity 27 = .ok (.ishl, 1) := dk_120 (dk_at dksJ8_newCapacity_1 3 rfl rfl)
theorem dJ8_newCapacity_28 : decode cJ8_newCapacity 28 = .ok (.iadd, 1) := dk_96 (dk_at dksJ8_newCapacity_1 4 rfl rfl)
theorem dJ8_newCapacity_29 : decode cJ8_newCapacity 29 = .ok (.invokestatic 114, 3) := dk_184 0 114 (dk_at dksJ8_newCapacity_1 5 rfl rfl)
theorem dJ8_newCapacity_32 : decode cJ8_newCapacity 32 = .ok (.istore 5, 2) := dk_54 5 (dk_at dksJ8_newCapacity_1 8 rfl rfl)
theorem dJ8_newCapacity_34 : decode cJ8_newCapacity 34 = .ok (.iload 5, 2) := dk_21 5 (dk_at dksJ8_newCapacity_1 10 rfl rfl)
theorem dJ8_newCapacity_36 : decode cJ8_newCapacity 36 = .ok (.ldc 39, 2) := dk_18 39 (dk_at dksJ8_newCapacity_1 12 rfl rfl)
theorem dJ8_newCapacity_38 : decode cJ8_newCapacity 38 = .ok (.if_icmp .ne 13, 3) := dk_160 0 13 (dk_at dksJ8_newCapacity_1 14 rfl rfl)
theorem dJ8_newCapacity_41 : decode cJ8_newCapacity 41 = .ok (.new 120, 3) := dk_187 0 120 (dk_at dksJ8_newCapacity_1 17 rfl rfl)
theorem dJ8_newCapacity_44 : decode cJ8_newCapacity 44 = .ok (.dup, 1) := dk_89 (dk_at dksJ8_newCapacity_1 20 rfl rfl)
theorem dJ8_newCapacity_45 : decode cJ8_newCapacity 45 = .ok (.ldc 122, 2) := dk_18 122 (dk_at dksJ8_newCapacity_1 21 rfl rfl)
theorem dJ8_newCapacity_47 : decode cJ8_newCapacity 47 = .ok (.invokespecial 124, 3) := dk_183 0 124 (dk_at dksJ8_newCapacity_2 0 rfl rfl)
theorem dJ8_newCapacity_50 : decode cJ8_newCapacity 50 = .ok (.athrow, 1) := dk_191 (dk_at dksJ8_newCapacity_2 3 rfl rfl)
theorem dJ8_newCapacity_51 : decode cJ8_newCapacity 51 = .ok (.iload 5, 2) := dk_21 5 (dk_at dksJ8_newCapacity_2 4 rfl rfl)
theorem dJ8_newCapacity_53 : decode cJ8_newCapacity 53 = .ok (.aload_n 0, 1) := dk_42 (dk_at dksJ8_newCapacity_2 6 rfl rfl)
theorem dJ8_newCapacity_54 : decode cJ8_newCapacity 54 = .ok (.getfield 22, 3) := dk_180 0 22 (dk_at dksJ8_newCapacity_2 7 rfl rfl)
theorem dJ8_newCapacity_57 : decode cJ8_newCapacity 57 = .ok (.ishr, 1) := dk_122 (dk_at dksJ8_newCapacity_2 10 rfl rfl)
theorem dJ8_newCapacity_58 : decode cJ8_newCapacity 58 = .ok (.ireturn, 1) := dk_172 (dk_at dksJ8_newCapacity_2 11 rfl rfl)
abbrev cJ8_isLatin1 : ByteArray := prog_15_method_68_code
def yJ8_isLatin1 : MethodName := ⟨RJ8, "isLatin1", "()Z"⟩
def dkwJ8_isLatin1_0 : List UInt8 := [178, 0, 18, 153, 0, 14, 42, 180, 0, 22, 154, 0, 7, 4, 167, 0, 4, 3, 172]
abbrev dktJ8_isLatin1_0 : List UInt8 := dkwJ8_isLatin1_0 ++ []
theorem dksJ8_isLatin1_0 : cJ8_isLatin1.data.toList.drop 0 = dktJ8_isLatin1_0 := by decide +kernel
theorem dJ8_isLatin1_0 : decode cJ8_isLatin1 0 = .ok (.getstatic 18, 3) := dk_178 0 18 (dk_at dksJ8_isLatin1_0 0 rfl rfl)
theorem dJ8_isLatin1_3 : decode cJ8_isLatin1 3 = .ok (.ifCond .eq 14, 3) := dk_153 0 14 (dk_at dksJ8_isLatin1_0 3 rfl rfl)
theorem dJ8_isLatin1_6 : decode cJ8_isLatin1 6 = .ok (.aload_n 0, 1) := dk_42 (dk_at dksJ8_isLatin1_0 6 rfl rfl)
theorem dJ8_isLatin1_7 : decode cJ8_isLatin1 7 = .ok (.getfield 22, 3) := dk_180 0 22 (dk_at dksJ8_isLatin1_0 7 rfl rfl)
theorem dJ8_isLatin1_10 : decode cJ8_isLatin1 10 = .ok (.ifCond .ne 7, 3) := dk_154 0 7 (dk_at dksJ8_isLatin1_0 10 rfl rfl)
theorem dJ8_isLatin1_13 : decode cJ8_isLatin1 13 = .ok (.iconst 1, 1) := dk_4 (dk_at dksJ8_isLatin1_0 13 rfl rfl)
theorem dJ8_isLatin1_14 : decode cJ8_isLatin1 14 = .ok (.goto 4, 3) := dk_167 0 4 (dk_at dksJ8_isLatin1_0 14 rfl rfl)
theorem dJ8_isLatin1_17 : decode cJ8_isLatin1 17 = .ok (.iconst 0, 1) := dk_3 (dk_at dksJ8_isLatin1_0 17 rfl rfl)
theorem dJ8_isLatin1_18 : decode cJ8_isLatin1 18 = .ok (.ireturn, 1) := dk_172 (dk_at dksJ8_isLatin1_0 18 rfl rfl)
abbrev cJ8_putStringAt : ByteArray := prog_15_method_73_code
def yJ8_putStringAt : MethodName := ⟨RJ8, "putStringAt", "(ILjava/lang/String;)V"⟩
def dkwJ8_putStringAt_0 : List UInt8 := [42, 44, 182, 1, 141, 44, 42, 180, 0, 15, 27, 42, 180, 0, 22, 182, 1, 143, 177]
abbrev dktJ8_putStringAt_0 : List UInt8 := dkwJ8_putStringAt_0 ++ []
theorem dksJ8_putStringAt_0 : cJ8_putStringAt.data.toList.drop 0 = dktJ8_putStringAt_0 := by decide +kernel
theorem dJ8_putStringAt_0 : decode cJ8_putStringAt 0 = .ok (.aload_n 0, 1) := dk_42 (dk_at dksJ8_putStringAt_0 0 rfl rfl)
theorem dJ8_putStringAt_1 : decode cJ8_putStringAt 1 = .ok (.aload_n 2, 1) := dk_44 (dk_at dksJ8_putStringAt_0 1 rfl rfl)
theorem dJ8_putStringAt_2 : decode cJ8_putStringAt 2 = .ok (.invokevirtual 397, 3) := dk_182 1 141 (dk_at dksJ8_putStringAt_0 2 rfl rfl)
theorem dJ8_putStringAt_5 : decode cJ8_putStringAt 5 = .ok (.aload_n 2, 1) := dk_44 (dk_at dksJ8_putStringAt_0 5 rfl rfl)
theorem dJ8_putStringAt_6 : decode cJ8_putStringAt 6 = .ok (.aload_n 0, 1) := dk_42 (dk_at dksJ8_putStringAt_0 6 rfl rfl)
theorem dJ8_putStringAt_7 : decode cJ8_putStringAt 7 = .ok (.getfield 15, 3) := dk_180 0 15 (dk_at dksJ8_putStringAt_0 7 rfl rfl)
theorem dJ8_putStringAt_10 : decode cJ8_putStringAt 10 = .ok (.iload_n 1, 1) := dk_27 (dk_at dksJ8_putStringAt_0 10 rfl rfl)
theorem dJ8_putStringAt_11 : decode cJ8_putStringAt 11 = .ok (.aload_n 0, 1) := dk_42 (dk_at dksJ8_putStringAt_0 11 rfl rfl)
theorem dJ8_putStringAt_12 : decode cJ8_putStringAt 12 = .ok (.getfield 22, 3) := dk_180 0 22 (dk_at dksJ8_putStringAt_0 12 rfl rfl)
theorem dJ8_putStringAt_15 : decode cJ8_putStringAt 15 = .ok (.invokevirtual 399, 3) := dk_182 1 143 (dk_at dksJ8_putStringAt_0 15 rfl rfl)
theorem dJ8_putStringAt_18 : decode cJ8_putStringAt 18 = .ok (.return_, 1) := dk_177 (dk_at dksJ8_putStringAt_0 18 rfl rfl)
abbrev cJ8_inflateIfNeededFor : ByteArray := prog_15_method_71_code
def yJ8_inflateIfNeededFor : MethodName := ⟨RJ8, "inflateIfNeededFor", "(Ljava/lang/String;)V"⟩
def dkwJ8_inflateIfNeededFor_0 : List UInt8 := [178, 0, 18, 153, 0, 18, 42, 180, 0, 22, 43, 182, 0, 40, 159, 0, 7, 42, 182, 0, 195, 177]
abbrev dktJ8_inflateIfNeededFor_0 : List UInt8 := dkwJ8_inflateIfNeededFor_0 ++ []
theorem dksJ8_inflateIfNeededFor_0 : cJ8_inflateIfNeededFor.data.toList.drop 0 = dktJ8_inflateIfNeededFor_0 := by decide +kernel
theorem dJ8_inflateIfNeededFor_0 : decode cJ8_inflateIfNeededFor 0 = .ok (.getstatic 18, 3) := dk_178 0 18 (dk_at dksJ8_inflateIfNeededFor_0 0 rfl rfl)
theorem dJ8_inflateIfNeededFor_3 : decode cJ8_inflateIfNeededFor 3 = .ok (.ifCond .eq 18, 3) := dk_153 0 18 (dk_at dksJ8_inflateIfNeededFor_0 3 rfl rfl)
theorem dJ8_inflateIfNeededFor_6 : decode cJ8_inflateIfNeededFor 6 = .ok (.aload_n 0, 1) := dk_42 (dk_at dksJ8_inflateIfNeededFor_0 6 rfl rfl)
theorem dJ8_inflateIfNeededFor_7 : decode cJ8_inflateIfNeededFor 7 = .ok (.getfield 22, 3) := dk_180 0 22 (dk_at dksJ8_inflateIfNeededFor_0 7 rfl rfl)
theorem dJ8_inflateIfNeededFor_10 : decode cJ8_inflateIfNeededFor 10 = .ok (.aload_n 1, 1) := dk_43 (dk_at dksJ8_inflateIfNeededFor_0 10 rfl rfl)
theorem dJ8_inflateIfNeededFor_11 : decode cJ8_inflateIfNeededFor 11 = .ok (.invokevirtual 40, 3) := dk_182 0 40 (dk_at dksJ8_inflateIfNeededFor_0 11 rfl rfl)
theorem dJ8_inflateIfNeededFor_14 : decode cJ8_inflateIfNeededFor 14 = .ok (.if_icmp .eq 7, 3) := dk_159 0 7 (dk_at dksJ8_inflateIfNeededFor_0 14 rfl rfl)
theorem dJ8_inflateIfNeededFor_17 : decode cJ8_inflateIfNeededFor 17 = .ok (.aload_n 0, 1) := dk_42 (dk_at dksJ8_inflateIfNeededFor_0 17 rfl rfl)
theorem dJ8_inflateIfNeededFor_18 : decode cJ8_inflateIfNeededFor 18 = .ok (.invokevirtual 195, 3) := dk_182 0 195 (dk_at dksJ8_inflateIfNeededFor_0 18 rfl rfl)
theorem dJ8_inflateIfNeededFor_21 : decode cJ8_inflateIfNeededFor 21 = .ok (.return_, 1) := dk_177 (dk_at dksJ8_inflateIfNeededFor_0 21 rfl rfl)
abbrev cJ8_append_2 : ByteArray := prog_15_method_32_code
def yJ8_append_2 : MethodName := ⟨RJ8, "append", "(I)Ljava/lang/AbstractStringBuilder;"⟩
def dkwJ8_append_2_2 : List UInt8 := [42, 29, 181, 0, 79, 42, 176]
abbrev dktJ8_append_2_2 : List UInt8 := dkwJ8_append_2_2 ++ []
def dkwJ8_append_2_1 : List UInt8 := [27, 29, 42, 180, 0, 15, 184, 0, 248, 87, 167, 0, 14, 27, 28, 29, 42, 180, 0, 15, 184, 0, 251, 87]
abbrev dktJ8_append_2_1 : List UInt8 := dkwJ8_append_2_1 ++ dktJ8_append_2_2
def dkwJ8_append_2_0 : List UInt8 := [42, 180, 0, 79, 61, 28, 27, 184, 0, 245, 96, 62, 42, 29, 182, 0, 100, 42, 182, 0, 83, 153, 0, 16]
abbrev dktJ8_append_2_0 : List UInt8 := dkwJ8_append_2_0 ++ dktJ8_append_2_1
theorem dksJ8_append_2_0 : cJ8_append_2.data.toList.drop 0 = dktJ8_append_2_0 := by decide +kernel
theorem dksJ8_append_2_1 : cJ8_append_2.data.toList.drop 24 = dktJ8_append_2_1 := dk_seg dksJ8_append_2_0 24 rfl rfl
theorem dksJ8_append_2_2 : cJ8_append_2.data.toList.drop 48 = dktJ8_append_2_2 := dk_seg dksJ8_append_2_1 24 rfl rfl
theorem dJ8_append_2_0 : decode cJ8_append_2 0 = .ok (.aload_n 0, 1) := dk_42 (dk_at dksJ8_append_2_0 0 rfl rfl)
theorem dJ8_append_2_1 : decode cJ8_append_2 1 = .ok (.getfield 79, 3) := dk_180 0 79 (dk_at dksJ8_append_2_0 1 rfl rfl)
theorem dJ8_append_2_4 : decode cJ8_append_2 4 = .ok (.istore_n 2, 1) := dk_61 (dk_at dksJ8_append_2_0 4 rfl rfl)
theorem dJ8_append_2_5 : decode cJ8_append_2 5 = .ok (.iload_n 2, 1) := dk_28 (dk_at dksJ8_append_2_0 5 rfl rfl)
theorem dJ8_append_2_6 : decode cJ8_append_2 6 = .ok (.iload_n 1, 1) := dk_27 (dk_at dksJ8_append_2_0 6 rfl rfl)
theorem dJ8_append_2_7 : decode cJ8_append_2 7 = .ok (.invokestatic 245, 3) := dk_184 0 245 (dk_at dksJ8_append_2_0 7 rfl rfl)
theorem dJ8_append_2_10 : decode cJ8_append_2 10 = .ok (.iadd, 1) := dk_96 (dk_at dksJ8_append_2_0 10 rfl rfl)
theorem dJ8_append_2_11 : decode cJ8_append_2 11 = .ok (.istore_n 3, 1) := dk_62 (dk_at dksJ8_append_2_0 11 rfl rfl)
theorem dJ8_append_2_12 : decode cJ8_append_2 12 = .ok (.aload_n 0, 1) := dk_42 (dk_at dksJ8_append_2_0 12 rfl rfl)
theorem dJ8_append_2_13 : decode cJ8_append_2 13 = .ok (.iload_n 3, 1) := dk_29 (dk_at dksJ8_append_2_0 13 rfl rfl)
theorem dJ8_append_2_14 : decode cJ8_append_2 14 = .ok (.invokevirtual 100, 3) := dk_182 0 100 (dk_at dksJ8_append_2_0 14 rfl rfl)
theorem dJ8_append_2_17 : decode cJ8_append_2 17 = .ok (.aload_n 0, 1) := dk_42 (dk_at dksJ8_append_2_0 17 rfl rfl)
theorem dJ8_append_2_18 : decode cJ8_append_2 18 = .ok (.invokevirtual 83, 3) := dk_182 0 83 (dk_at dksJ8_append_2_0 18 rfl rfl)
theorem dJ8_append_2_21 : decode cJ8_append_2 21 = .ok (.ifCond .eq 16, 3) := dk_153 0 16 (dk_at dksJ8_append_2_0 21 rfl rfl)
theorem dJ8_append_2_24 : decode cJ8_append_2 24 = .ok (.iload_n 1, 1) := dk_27 (dk_at dksJ8_append_2_1 0 rfl rfl)
theorem dJ8_append_2_25 : decode cJ8_append_2 25 = .ok (.iload_n 3, 1) := dk_29 (dk_at dksJ8_append_2_1 1 rfl rfl)
theorem dJ8_append_2_26 : decode cJ8_append_2 26 = .ok (.aload_n 0, 1) := dk_42 (dk_at dksJ8_append_2_1 2 rfl rfl)
theorem dJ8_append_2_27 : decode cJ8_append_2 27 = .ok (.getfield 15, 3) := dk_180 0 15 (dk_at dksJ8_append_2_1 3 rfl rfl)
theorem dJ8_append_2_30 : decode cJ8_append_2 30 = .ok (.invokestatic 248, 3) := dk_184 0 248 (dk_at dksJ8_append_2_1 6 rfl rfl)
theorem dJ8_append_2_33 : decode cJ8_append_2 33 = .ok (.pop, 1) := dk_87 (dk_at dksJ8_append_2_1 9 rfl rfl)
theorem dJ8_append_2_34 : decode cJ8_append_2 34 = .ok (.goto 14, 3) := dk_167 0 14 (dk_at dksJ8_append_2_1 10 rfl rfl)
theorem dJ8_append_2_37 : decode cJ8_append_2 37 = .ok (.iload_n 1, 1) := dk_27 (dk_at dksJ8_append_2_1 13 rfl rfl)
theorem dJ8_append_2_38 : decode cJ8_append_2 38 = .ok (.iload_n 2, 1) := dk_28 (dk_at dksJ8_append_2_1 14 rfl rfl)
theorem dJ8_append_2_39 : decode cJ8_append_2 39 = .ok (.iload_n 3, 1) := dk_29 (dk_at dksJ8_append_2_1 15 rfl rfl)
theorem dJ8_append_2_40 : decode cJ8_append_2 40 = .ok (.aload_n 0, 1) := dk_42 (dk_at dksJ8_append_2_1 16 rfl rfl)
theorem dJ8_append_2_41 : decode cJ8_append_2 41 = .ok (.getfield 15, 3) := dk_180 0 15 (dk_at dksJ8_append_2_1 17 rfl rfl)
theorem dJ8_append_2_44 : decode cJ8_append_2 44 = .ok (.invokestatic 251, 3) := dk_184 0 251 (dk_at dksJ8_append_2_1 20 rfl rfl)
theorem dJ8_append_2_47 : decode cJ8_append_2 47 = .ok (.pop, 1) := dk_87 (dk_at dksJ8_append_2_1 23 rfl rfl)
theorem dJ8_append_2_48 : decode cJ8_append_2 48 = .ok (.aload_n 0, 1) := dk_42 (dk_at dksJ8_append_2_2 0 rfl rfl)
theorem dJ8_append_2_49 : decode cJ8_append_2 49 = .ok (.iload_n 3, 1) := dk_29 (dk_at dksJ8_append_2_2 1 rfl rfl)
theorem dJ8_append_2_50 : decode cJ8_append_2 50 = .ok (.putfield 79, 3) := dk_181 0 79 (dk_at dksJ8_append_2_2 2 rfl rfl)
theorem dJ8_append_2_53 : decode cJ8_append_2 53 = .ok (.aload_n 0, 1) := dk_42 (dk_at dksJ8_append_2_2 5 rfl rfl)
theorem dJ8_append_2_54 : decode cJ8_append_2 54 = .ok (.areturn, 1) := dk_176 (dk_at dksJ8_append_2_2 6 rfl rfl)
abbrev cJ8_getValue : ByteArray := prog_15_method_64_code
def yJ8_getValue : MethodName := ⟨RJ8, "getValue", "()[B"⟩
theorem dJ8_getValue_0 : decode cJ8_getValue 0 = .ok (.aload_n 0, 1) := by decide +kernel
theorem dJ8_getValue_1 : decode cJ8_getValue 1 = .ok (.getfield 15, 3) := by decide +kernel
theorem dJ8_getValue_4 : decode cJ8_getValue 4 = .ok (.areturn, 1) := by decide +kernel
abbrev cJ8_length : ByteArray := prog_15_method_6_code
def yJ8_length : MethodName := ⟨RJ8, "length", "()I"⟩
theorem dJ8_length_0 : decode cJ8_length 0 = .ok (.aload_n 0, 1) := by decide +kernel
theorem dJ8_length_1 : decode cJ8_length 1 = .ok (.getfield 79, 3) := by decide +kernel
theorem dJ8_length_4 : decode cJ8_length 4 = .ok (.ireturn, 1) := by decide +kernel
abbrev cJ8_append_3 : ByteArray := prog_15_method_31_code
def yJ8_append_3 : MethodName := ⟨RJ8, "append", "(C)Ljava/lang/AbstractStringBuilder;"⟩
def dkwJ8_append_3_3 : List UInt8 := [181, 0, 79, 27, 184, 0, 197, 42, 176]
abbrev dktJ8_append_3_3 : List UInt8 := dkwJ8_append_3_3 ++ []
def dkwJ8_append_3_2 : List UInt8 := [182, 0, 83, 153, 0, 7, 42, 182, 0, 195, 42, 180, 0, 15, 42, 89, 180, 0, 79, 90, 4, 96]
abbrev dktJ8_append_3_2 : List UInt8 := dkwJ8_append_3_2 ++ dktJ8_append_3_3
def dkwJ8_append_3_1 : List UInt8 := [42, 180, 0, 15, 42, 89, 180, 0, 79, 90, 4, 96, 181, 0, 79, 27, 145, 84, 167, 0, 33, 42]
abbrev dktJ8_append_3_1 : List UInt8 := dkwJ8_append_3_1 ++ dktJ8_append_3_2
def dkwJ8_append_3_0 : List UInt8 := [42, 42, 180, 0, 79, 4, 96, 182, 0, 100, 42, 182, 0, 83, 153, 0, 31, 27, 184, 0, 191, 153, 0, 24]
abbrev dktJ8_append_3_0 : List UInt8 := dkwJ8_append_3_0 ++ dktJ8_append_3_1
theorem dksJ8_append_3_0 : cJ8_append_3.data.toList.drop 0 = dktJ8_append_3_0 := by decide +kernel
theorem dksJ8_append_3_1 : cJ8_append_3.data.toList.drop 24 = dktJ8_append_3_1 := dk_seg dksJ8_append_3_0 24 rfl rfl
theorem dksJ8_append_3_2 : cJ8_append_3.data.toList.drop 46 = dktJ8_append_3_2 := dk_seg dksJ8_append_3_1 22 rfl rfl
theorem dksJ8_append_3_3 : cJ8_append_3.data.toList.drop 68 = dktJ8_append_3_3 := dk_seg dksJ8_append_3_2 22 rfl rfl
theorem dJ8_append_3_0 : decode cJ8_append_3 0 = .ok (.aload_n 0, 1) := dk_42 (dk_at dksJ8_append_3_0 0 rfl rfl)
theorem dJ8_append_3_1 : decode cJ8_append_3 1 = .ok (.aload_n 0, 1) := dk_42 (dk_at dksJ8_append_3_0 1 rfl rfl)
theorem dJ8_append_3_2 : decode cJ8_append_3 2 = .ok (.getfield 79, 3) := dk_180 0 79 (dk_at dksJ8_append_3_0 2 rfl rfl)
theorem dJ8_append_3_5 : decode cJ8_append_3 5 = .ok (.iconst 1, 1) := dk_4 (dk_at dksJ8_append_3_0 5 rfl rfl)
theorem dJ8_append_3_6 : decode cJ8_append_3 6 = .ok (.iadd, 1) := dk_96 (dk_at dksJ8_append_3_0 6 rfl rfl)
theorem dJ8_append_3_7 : decode cJ8_append_3 7 = .ok (.invokevirtual 100, 3) := dk_182 0 100 (dk_at dksJ8_append_3_0 7 rfl rfl)
theorem dJ8_append_3_10 : decode cJ8_append_3 10 = .ok (.aload_n 0, 1) := dk_42 (dk_at dksJ8_append_3_0 10 rfl rfl)
theorem dJ8_append_3_11 : decode cJ8_append_3 11 = .ok (.invokevirtual 83, 3) := dk_182 0 83 (dk_at dksJ8_append_3_0 11 rfl rfl)
theorem dJ8_append_3_14 : decode cJ8_append_3 14 = .ok (.ifCond .eq 31, 3) := dk_153 0 31 (dk_at dksJ8_append_3_0 14 rfl rfl)
theorem dJ8_append_3_17 : decode cJ8_append_3 17 = .ok (.iload_n 1, 1) := dk_27 (dk_at dksJ8_append_3_0 17 rfl rfl)
theorem dJ8_append_3_18 : decode cJ8_append_3 18 = .ok (.invokestatic 191, 3) := dk_184 0 191 (dk_at dksJ8_append_3_0 18 rfl rfl)
theorem dJ8_append_3_21 : decode cJ8_append_3 21 = .ok (.ifCond .eq 24, 3) := dk_153 0 24 (dk_at dksJ8_append_3_0 21 rfl rfl)
theorem dJ8_append_3_24 : decode cJ8_append_3 24 = .ok (.aload_n 0, 1) := dk_42 (dk_at dksJ8_append_3_1 0 rfl rfl)
theorem dJ8_append_3_25 : decode cJ8_append_3 25 = .ok (.getfield 15, 3) := dk_180 0 15 (dk_at dksJ8_append_3_1 1 rfl rfl)
theorem dJ8_append_3_28 : decode cJ8_append_3 28 = .ok (.aload_n 0, 1) := dk_42 (dk_at dksJ8_append_3_1 4 rfl rfl)
theorem dJ8_append_3_29 : decode cJ8_append_3 29 = .ok (.dup, 1) := dk_89 (dk_at dksJ8_append_3_1 5 rfl rfl)
theorem dJ8_append_3_30 : decode cJ8_append_3 30 = .ok (.getfield 79, 3) := dk_180 0 79 (dk_at dksJ8_append_3_1 6 rfl rfl)
theorem dJ8_append_3_33 : decode cJ8_append_3 33 = .ok (.dup_x1, 1) := dk_90 (dk_at dksJ8_append_3_1 9 rfl rfl)
theorem dJ8_append_3_34 : decode cJ8_append_3 34 = .ok (.iconst 1, 1) := dk_4 (dk_at dksJ8_append_3_1 10 rfl rfl)
theorem dJ8_append_3_35 : decode cJ8_append_3 35 = .ok (.iadd, 1) := dk_96 (dk_at dksJ8_append_3_1 11 rfl rfl)
theorem dJ8_append_3_36 : decode cJ8_append_3 36 = .ok (.putfield 79, 3) := dk_181 0 79 (dk_at dksJ8_append_3_1 12 rfl rfl)
theorem dJ8_append_3_39 : decode cJ8_append_3 39 = .ok (.iload_n 1, 1) := dk_27 (dk_at dksJ8_append_3_1 15 rfl rfl)
theorem dJ8_append_3_40 : decode cJ8_append_3 40 = .ok (.i2b, 1) := dk_145 (dk_at dksJ8_append_3_1 16 rfl rfl)
theorem dJ8_append_3_41 : decode cJ8_append_3 41 = .ok (.bastore, 1) := dk_84 (dk_at dksJ8_append_3_1 17 rfl rfl)
theorem dJ8_append_3_42 : decode cJ8_append_3 42 = .ok (.goto 33, 3) := dk_167 0 33 (dk_at dksJ8_append_3_1 18 rfl rfl)
theorem dJ8_append_3_45 : decode cJ8_append_3 45 = .ok (.aload_n 0, 1) := dk_42 (dk_at dksJ8_append_3_1 21 rfl rfl)
theorem dJ8_append_3_46 : decode cJ8_append_3 46 = .ok (.invokevirtual 83, 3) := dk_182 0 83 (dk_at dksJ8_append_3_2 0 rfl rfl)
theorem dJ8_append_3_49 : decode cJ8_append_3 49 = .ok (.ifCond .eq 7, 3) := dk_153 0 7 (dk_at dksJ8_append_3_2 3 rfl rfl)
theorem dJ8_append_3_52 : decode cJ8_append_3 52 = .ok (.aload_n 0, 1) := dk_42 (dk_at dksJ8_append_3_2 6 rfl rfl)
theorem dJ8_append_3_53 : decode cJ8_append_3 53 = .ok (.invokevirtual 195, 3) := dk_182 0 195 (dk_at dksJ8_append_3_2 7 rfl rfl)
theorem dJ8_append_3_56 : decode cJ8_append_3 56 = .ok (.aload_n 0, 1) := dk_42 (dk_at dksJ8_append_3_2 10 rfl rfl)
theorem dJ8_append_3_57 : decode cJ8_append_3 57 = .ok (.getfield 15, 3) := dk_180 0 15 (dk_at dksJ8_append_3_2 11 rfl rfl)
theorem dJ8_append_3_60 : decode cJ8_append_3 60 = .ok (.aload_n 0, 1) := dk_42 (dk_at dksJ8_append_3_2 14 rfl rfl)
theorem dJ8_append_3_61 : decode cJ8_append_3 61 = .ok (.dup, 1) := dk_89 (dk_at dksJ8_append_3_2 15 rfl rfl)
theorem dJ8_append_3_62 : decode cJ8_append_3 62 = .ok (.getfield 79, 3) := dk_180 0 79 (dk_at dksJ8_append_3_2 16 rfl rfl)
theorem dJ8_append_3_65 : decode cJ8_append_3 65 = .ok (.dup_x1, 1) := dk_90 (dk_at dksJ8_append_3_2 19 rfl rfl)
theorem dJ8_append_3_66 : decode cJ8_append_3 66 = .ok (.iconst 1, 1) := dk_4 (dk_at dksJ8_append_3_2 20 rfl rfl)
theorem dJ8_append_3_67 : decode cJ8_append_3 67 = .ok (.iadd, 1) := dk_96 (dk_at dksJ8_append_3_2 21 rfl rfl)
theorem dJ8_append_3_68 : decode cJ8_append_3 68 = .ok (.putfield 79, 3) := dk_181 0 79 (dk_at dksJ8_append_3_3 0 rfl rfl)
theorem dJ8_append_3_71 : decode cJ8_append_3 71 = .ok (.iload_n 1, 1) := dk_27 (dk_at dksJ8_append_3_3 3 rfl rfl)
theorem dJ8_append_3_72 : decode cJ8_append_3 72 = .ok (.invokestatic 197, 3) := dk_184 0 197 (dk_at dksJ8_append_3_3 4 rfl rfl)
theorem dJ8_append_3_75 : decode cJ8_append_3 75 = .ok (.aload_n 0, 1) := dk_42 (dk_at dksJ8_append_3_3 7 rfl rfl)
theorem dJ8_append_3_76 : decode cJ8_append_3 76 = .ok (.areturn, 1) := dk_176 (dk_at dksJ8_append_3_3 8 rfl rfl)
abbrev cJ8_setLength : ByteArray := prog_15_method_13_code
def yJ8_setLength : MethodName := ⟨RJ8, "setLength", "(I)V"⟩
def dkwJ8_setLength_3 : List UInt8 := [164, 0, 8, 42, 4, 181, 0, 73, 42, 27, 181, 0, 79, 177]
abbrev dktJ8_setLength_3 : List UInt8 := dkwJ8_setLength_3 ++ []
def dkwJ8_setLength_2 : List UInt8 := [167, 0, 31, 42, 180, 0, 15, 42, 180, 0, 79, 27, 184, 0, 137, 167, 0, 16, 42, 180, 0, 79, 27]
abbrev dktJ8_setLength_2 : List UInt8 := dkwJ8_setLength_2 ++ dktJ8_setLength_3
def dkwJ8_setLength_1 : List UInt8 := [162, 0, 40, 42, 182, 0, 83, 153, 0, 18, 42, 180, 0, 15, 42, 180, 0, 79, 27, 184, 0, 133]
abbrev dktJ8_setLength_1 : List UInt8 := dkwJ8_setLength_1 ++ dktJ8_setLength_2
def dkwJ8_setLength_0 : List UInt8 := [27, 156, 0, 12, 187, 0, 129, 89, 27, 183, 0, 131, 191, 42, 27, 182, 0, 100, 42, 180, 0, 79, 27]
abbrev dktJ8_setLength_0 : List UInt8 := dkwJ8_setLength_0 ++ dktJ8_setLength_1
theorem dksJ8_setLength_0 : cJ8_setLength.data.toList.drop 0 = dktJ8_setLength_0 := by decide +kernel
theorem dksJ8_setLength_1 : cJ8_setLength.data.toList.drop 23 = dktJ8_setLength_1 := dk_seg dksJ8_setLength_0 23 rfl rfl
theorem dksJ8_setLength_2 : cJ8_setLength.data.toList.drop 45 = dktJ8_setLength_2 := dk_seg dksJ8_setLength_1 22 rfl rfl
theorem dksJ8_setLength_3 : cJ8_setLength.data.toList.drop 68 = dktJ8_setLength_3 := dk_seg dksJ8_setLength_2 23 rfl rfl
theorem dJ8_setLength_0 : decode cJ8_setLength 0 = .ok (.iload_n 1, 1) := dk_27 (dk_at dksJ8_setLength_0 0 rfl rfl)
theorem dJ8_setLength_1 : decode cJ8_setLength 1 = .ok (.ifCond .ge 12, 3) := dk_156 0 12 (dk_at dksJ8_setLength_0 1 rfl rfl)
theorem dJ8_setLength_4 : decode cJ8_setLength 4 = .ok (.new 129, 3) := dk_187 0 129 (dk_at dksJ8_setLength_0 4 rfl rfl)
theorem dJ8_setLength_7 : decode cJ8_setLength 7 = .ok (.dup, 1) := dk_89 (dk_at dksJ8_setLength_0 7 rfl rfl)
theorem dJ8_setLength_8 : decode cJ8_setLength 8 = .ok (.iload_n 1, 1) := dk_27 (dk_at dksJ8_setLength_0 8 rfl rfl)
theorem dJ8_setLength_9 : decode cJ8_setLength 9 = .ok (.invokespecial 131, 3) := dk_183 0 131 (dk_at dksJ8_setLength_0 9 rfl rfl)
theorem dJ8_setLength_12 : decode cJ8_setLength 12 = .ok (.athrow, 1) := dk_191 (dk_at dksJ8_setLength_0 12 rfl rfl)
theorem dJ8_setLength_13 : decode cJ8_setLength 13 = .ok (.aload_n 0, 1) := dk_42 (dk_at dksJ8_setLength_0 13 rfl rfl)
theorem dJ8_setLength_14 : decode cJ8_setLength 14 = .ok (.iload_n 1, 1) := dk_27 (dk_at dksJ8_setLength_0 14 rfl rfl)
theorem dJ8_setLength_15 : decode cJ8_setLength 15 = .ok (.invokevirtual 100, 3) := dk_182 0 100 (dk_at dksJ8_setLength_0 15 rfl rfl)
theorem dJ8_setLength_18 : decode cJ8_setLength 18 = .ok (.aload_n 0, 1) := dk_42 (dk_at dksJ8_setLength_0 18 rfl rfl)
theorem dJ8_setLength_19 : decode cJ8_setLength 19 = .ok (.getfield 79, 3) := dk_180 0 79 (dk_at dksJ8_setLength_0 19 rfl rfl)
theorem dJ8_setLength_22 : decode cJ8_setLength 22 = .ok (.iload_n 1, 1) := dk_27 (dk_at dksJ8_setLength_0 22 rfl rfl)
theorem dJ8_setLength_23 : decode cJ8_setLength 23 = .ok (.if_icmp .ge 40, 3) := dk_162 0 40 (dk_at dksJ8_setLength_1 0 rfl rfl)
theorem dJ8_setLength_26 : decode cJ8_setLength 26 = .ok (.aload_n 0, 1) := dk_42 (dk_at dksJ8_setLength_1 3 rfl rfl)
theorem dJ8_setLength_27 : decode cJ8_setLength 27 = .ok (.invokevirtual 83, 3) := dk_182 0 83 (dk_at dksJ8_setLength_1 4 rfl rfl)
theorem dJ8_setLength_30 : decode cJ8_setLength 30 = .ok (.ifCond .eq 18, 3) := dk_153 0 18 (dk_at dksJ8_setLength_1 7 rfl rfl)
theorem dJ8_setLength_33 : decode cJ8_setLength 33 = .ok (.aload_n 0, 1) := dk_42 (dk_at dksJ8_setLength_1 10 rfl rfl)
theorem dJ8_setLength_34 : decode cJ8_setLength 34 = .ok (.getfield 15, 3) := dk_180 0 15 (dk_at dksJ8_setLength_1 11 rfl rfl)
theorem dJ8_setLength_37 : decode cJ8_setLength 37 = .ok (.aload_n 0, 1) := dk_42 (dk_at dksJ8_setLength_1 14 rfl rfl)
theorem dJ8_setLength_38 : decode cJ8_setLength 38 = .ok (.getfield 79, 3) := dk_180 0 79 (dk_at dksJ8_setLength_1 15 rfl rfl)
theorem dJ8_setLength_41 : decode cJ8_setLength 41 = .ok (.iload_n 1, 1) := dk_27 (dk_at dksJ8_setLength_1 18 rfl rfl)
theorem dJ8_setLength_42 : decode cJ8_setLength 42 = .ok (.invokestatic 133, 3) := dk_184 0 133 (dk_at dksJ8_setLength_1 19 rfl rfl)
theorem dJ8_setLength_45 : decode cJ8_setLength 45 = .ok (.goto 31, 3) := dk_167 0 31 (dk_at dksJ8_setLength_2 0 rfl rfl)
theorem dJ8_setLength_48 : decode cJ8_setLength 48 = .ok (.aload_n 0, 1) := dk_42 (dk_at dksJ8_setLength_2 3 rfl rfl)
theorem dJ8_setLength_49 : decode cJ8_setLength 49 = .ok (.getfield 15, 3) := dk_180 0 15 (dk_at dksJ8_setLength_2 4 rfl rfl)
theorem dJ8_setLength_52 : decode cJ8_setLength 52 = .ok (.aload_n 0, 1) := dk_42 (dk_at dksJ8_setLength_2 7 rfl rfl)
theorem dJ8_setLength_53 : decode cJ8_setLength 53 = .ok (.getfield 79, 3) := dk_180 0 79 (dk_at dksJ8_setLength_2 8 rfl rfl)
theorem dJ8_setLength_56 : decode cJ8_setLength 56 = .ok (.iload_n 1, 1) := dk_27 (dk_at dksJ8_setLength_2 11 rfl rfl)
theorem dJ8_setLength_57 : decode cJ8_setLength 57 = .ok (.invokestatic 137, 3) := dk_184 0 137 (dk_at dksJ8_setLength_2 12 rfl rfl)
theorem dJ8_setLength_60 : decode cJ8_setLength 60 = .ok (.goto 16, 3) := dk_167 0 16 (dk_at dksJ8_setLength_2 15 rfl rfl)
theorem dJ8_setLength_63 : decode cJ8_setLength 63 = .ok (.aload_n 0, 1) := dk_42 (dk_at dksJ8_setLength_2 18 rfl rfl)
theorem dJ8_setLength_64 : decode cJ8_setLength 64 = .ok (.getfield 79, 3) := dk_180 0 79 (dk_at dksJ8_setLength_2 19 rfl rfl)
theorem dJ8_setLength_67 : decode cJ8_setLength 67 = .ok (.iload_n 1, 1) := dk_27 (dk_at dksJ8_setLength_2 22 rfl rfl)
theorem dJ8_setLength_68 : decode cJ8_setLength 68 = .ok (.if_icmp .le 8, 3) := dk_164 0 8 (dk_at dksJ8_setLength_3 0 rfl rfl)
theorem dJ8_setLength_71 : decode cJ8_setLength 71 = .ok (.aload_n 0, 1) := dk_42 (dk_at dksJ8_setLength_3 3 rfl rfl)
theorem dJ8_setLength_72 : decode cJ8_setLength 72 = .ok (.iconst 1, 1) := dk_4 (dk_at dksJ8_setLength_3 4 rfl rfl)
theorem dJ8_setLength_73 : decode cJ8_setLength 73 = .ok (.putfield 73, 3) := dk_181 0 73 (dk_at dksJ8_setLength_3 5 rfl rfl)
theorem dJ8_setLength_76 : decode cJ8_setLength 76 = .ok (.aload_n 0, 1) := dk_42 (dk_at dksJ8_setLength_3 8 rfl rfl)
theorem dJ8_setLength_77 : decode cJ8_setLength 77 = .ok (.iload_n 1, 1) := dk_27 (dk_at dksJ8_setLength_3 9 rfl rfl)
theorem dJ8_setLength_78 : decode cJ8_setLength 78 = .ok (.putfield 79, 3) := dk_181 0 79 (dk_at dksJ8_setLength_3 10 rfl rfl)
theorem dJ8_setLength_81 : decode cJ8_setLength 81 = .ok (.return_, 1) := dk_177 (dk_at dksJ8_setLength_3 13 rfl rfl)
abbrev cJ9_init : ByteArray := prog_37_method_1_code
def yJ9_init : MethodName := ⟨RJ9, "<init>", "()V"⟩
def dkwJ9_init_0 : List UInt8 := [42, 16, 16, 183, 0, 1, 177]
abbrev dktJ9_init_0 : List UInt8 := dkwJ9_init_0 ++ []
theorem dksJ9_init_0 : cJ9_init.data.toList.drop 0 = dktJ9_init_0 := by decide +kernel
theorem dJ9_init_0 : decode cJ9_init 0 = .ok (.aload_n 0, 1) := dk_42 (dk_at dksJ9_init_0 0 rfl rfl)
theorem dJ9_init_1 : decode cJ9_init 1 = .ok (.bipush 16, 2) := dk_16 16 (dk_at dksJ9_init_0 1 rfl rfl)
theorem dJ9_init_3 : decode cJ9_init 3 = .ok (.invokespecial 1, 3) := dk_183 0 1 (dk_at dksJ9_init_0 3 rfl rfl)
theorem dJ9_init_6 : decode cJ9_init 6 = .ok (.return_, 1) := dk_177 (dk_at dksJ9_init_0 6 rfl rfl)
abbrev cJ9_append : ByteArray := prog_37_method_7_code
def yJ9_append : MethodName := ⟨RJ9, "append", "(Ljava/lang/String;)Ljava/lang/StringBuilder;"⟩
def dkwJ9_append_0 : List UInt8 := [42, 43, 183, 0, 29, 87, 42, 176]
abbrev dktJ9_append_0 : List UInt8 := dkwJ9_append_0 ++ []
theorem dksJ9_append_0 : cJ9_append.data.toList.drop 0 = dktJ9_append_0 := by decide +kernel
theorem dJ9_append_0 : decode cJ9_append 0 = .ok (.aload_n 0, 1) := dk_42 (dk_at dksJ9_append_0 0 rfl rfl)
theorem dJ9_append_1 : decode cJ9_append 1 = .ok (.aload_n 1, 1) := dk_43 (dk_at dksJ9_append_0 1 rfl rfl)
theorem dJ9_append_2 : decode cJ9_append 2 = .ok (.invokespecial 29, 3) := dk_183 0 29 (dk_at dksJ9_append_0 2 rfl rfl)
theorem dJ9_append_5 : decode cJ9_append 5 = .ok (.pop, 1) := dk_87 (dk_at dksJ9_append_0 5 rfl rfl)
theorem dJ9_append_6 : decode cJ9_append 6 = .ok (.aload_n 0, 1) := dk_42 (dk_at dksJ9_append_0 6 rfl rfl)
theorem dJ9_append_7 : decode cJ9_append 7 = .ok (.areturn, 1) := dk_176 (dk_at dksJ9_append_0 7 rfl rfl)
abbrev cJ9_append_2 : ByteArray := prog_37_method_15_code
def yJ9_append_2 : MethodName := ⟨RJ9, "append", "(I)Ljava/lang/StringBuilder;"⟩
def dkwJ9_append_2_0 : List UInt8 := [42, 27, 183, 0, 53, 87, 42, 176]
abbrev dktJ9_append_2_0 : List UInt8 := dkwJ9_append_2_0 ++ []
theorem dksJ9_append_2_0 : cJ9_append_2.data.toList.drop 0 = dktJ9_append_2_0 := by decide +kernel
theorem dJ9_append_2_0 : decode cJ9_append_2 0 = .ok (.aload_n 0, 1) := dk_42 (dk_at dksJ9_append_2_0 0 rfl rfl)
theorem dJ9_append_2_1 : decode cJ9_append_2 1 = .ok (.iload_n 1, 1) := dk_27 (dk_at dksJ9_append_2_0 1 rfl rfl)
theorem dJ9_append_2_2 : decode cJ9_append_2 2 = .ok (.invokespecial 53, 3) := dk_183 0 53 (dk_at dksJ9_append_2_0 2 rfl rfl)
theorem dJ9_append_2_5 : decode cJ9_append_2 5 = .ok (.pop, 1) := dk_87 (dk_at dksJ9_append_2_0 5 rfl rfl)
theorem dJ9_append_2_6 : decode cJ9_append_2 6 = .ok (.aload_n 0, 1) := dk_42 (dk_at dksJ9_append_2_0 6 rfl rfl)
theorem dJ9_append_2_7 : decode cJ9_append_2 7 = .ok (.areturn, 1) := dk_176 (dk_at dksJ9_append_2_0 7 rfl rfl)
abbrev cJ9_toString : ByteArray := prog_37_method_42_code
def yJ9_toString : MethodName := ⟨RJ9, "toString", "()Ljava/lang/String;"⟩
def dkwJ9_toString_0 : List UInt8 := [187, 0, 18, 89, 42, 183, 0, 137, 176]
abbrev dktJ9_toString_0 : List UInt8 := dkwJ9_toString_0 ++ []
theorem dksJ9_toString_0 : cJ9_toString.data.toList.drop 0 = dktJ9_toString_0 := by decide +kernel
theorem dJ9_toString_0 : decode cJ9_toString 0 = .ok (.new 18, 3) := dk_187 0 18 (dk_at dksJ9_toString_0 0 rfl rfl)
theorem dJ9_toString_3 : decode cJ9_toString 3 = .ok (.dup, 1) := dk_89 (dk_at dksJ9_toString_0 3 rfl rfl)
theorem dJ9_toString_4 : decode cJ9_toString 4 = .ok (.aload_n 0, 1) := dk_42 (dk_at dksJ9_toString_0 4 rfl rfl)
theorem dJ9_toString_5 : decode cJ9_toString 5 = .ok (.invokespecial 137, 3) := dk_183 0 137 (dk_at dksJ9_toString_0 5 rfl rfl)
theorem dJ9_toString_8 : decode cJ9_toString 8 = .ok (.areturn, 1) := dk_176 (dk_at dksJ9_toString_0 8 rfl rfl)
abbrev cJ9_length : ByteArray := prog_37_method_93_code
def yJ9_length : MethodName := ⟨RJ9, "length", "()I"⟩
theorem dJ9_length_0 : decode cJ9_length 0 = .ok (.aload_n 0, 1) := by decide +kernel
theorem dJ9_length_1 : decode cJ9_length 1 = .ok (.invokespecial 343, 3) := by decide +kernel
theorem dJ9_length_4 : decode cJ9_length 4 = .ok (.ireturn, 1) := by decide +kernel
abbrev cJ9_append_3 : ByteArray := prog_37_method_14_code
def yJ9_append_3 : MethodName := ⟨RJ9, "append", "(C)Ljava/lang/StringBuilder;"⟩
def dkwJ9_append_3_0 : List UInt8 := [42, 27, 183, 0, 50, 87, 42, 176]
abbrev dktJ9_append_3_0 : List UInt8 := dkwJ9_append_3_0 ++ []
theorem dksJ9_append_3_0 : cJ9_append_3.data.toList.drop 0 = dktJ9_append_3_0 := by decide +kernel
theorem dJ9_append_3_0 : decode cJ9_append_3 0 = .ok (.aload_n 0, 1) := dk_42 (dk_at dksJ9_append_3_0 0 rfl rfl)
theorem dJ9_append_3_1 : decode cJ9_append_3 1 = .ok (.iload_n 1, 1) := dk_27 (dk_at dksJ9_append_3_0 1 rfl rfl)
theorem dJ9_append_3_2 : decode cJ9_append_3 2 = .ok (.invokespecial 50, 3) := dk_183 0 50 (dk_at dksJ9_append_3_0 2 rfl rfl)
theorem dJ9_append_3_5 : decode cJ9_append_3 5 = .ok (.pop, 1) := dk_87 (dk_at dksJ9_append_3_0 5 rfl rfl)
theorem dJ9_append_3_6 : decode cJ9_append_3 6 = .ok (.aload_n 0, 1) := dk_42 (dk_at dksJ9_append_3_0 6 rfl rfl)
theorem dJ9_append_3_7 : decode cJ9_append_3 7 = .ok (.areturn, 1) := dk_176 (dk_at dksJ9_append_3_0 7 rfl rfl)
abbrev cJ9_setLength : ByteArray := prog_37_method_89_code
def yJ9_setLength : MethodName := ⟨RJ9, "setLength", "(I)V"⟩
def dkwJ9_setLength_0 : List UInt8 := [42, 27, 183, 1, 77, 177]
abbrev dktJ9_setLength_0 : List UInt8 := dkwJ9_setLength_0 ++ []
theorem dksJ9_setLength_0 : cJ9_setLength.data.toList.drop 0 = dktJ9_setLength_0 := by decide +kernel
theorem dJ9_setLength_0 : decode cJ9_setLength 0 = .ok (.aload_n 0, 1) := dk_42 (dk_at dksJ9_setLength_0 0 rfl rfl)
theorem dJ9_setLength_1 : decode cJ9_setLength 1 = .ok (.iload_n 1, 1) := dk_27 (dk_at dksJ9_setLength_0 1 rfl rfl)
theorem dJ9_setLength_2 : decode cJ9_setLength 2 = .ok (.invokespecial 333, 3) := dk_183 1 77 (dk_at dksJ9_setLength_0 2 rfl rfl)
theorem dJ9_setLength_5 : decode cJ9_setLength 5 = .ok (.return_, 1) := dk_177 (dk_at dksJ9_setLength_0 5 rfl rfl)
abbrev cJ36_checkIndex : ByteArray := prog_88_method_11_code
def yJ36_checkIndex : MethodName := ⟨RJ36, "checkIndex", "(IILjava/util/function/BiFunction;)I"⟩
def dkwJ36_checkIndex_0 : List UInt8 := [26, 155, 0, 8, 26, 27, 161, 0, 10, 44, 26, 27, 184, 0, 95, 191, 26, 172]
abbrev dktJ36_checkIndex_0 : List UInt8 := dkwJ36_checkIndex_0 ++ []
theorem dksJ36_checkIndex_0 : cJ36_checkIndex.data.toList.drop 0 = dktJ36_checkIndex_0 := by decide +kernel
theorem dJ36_checkIndex_0 : decode cJ36_checkIndex 0 = .ok (.iload_n 0, 1) := dk_26 (dk_at dksJ36_checkIndex_0 0 rfl rfl)
theorem dJ36_checkIndex_1 : decode cJ36_checkIndex 1 = .ok (.ifCond .lt 8, 3) := dk_155 0 8 (dk_at dksJ36_checkIndex_0 1 rfl rfl)
theorem dJ36_checkIndex_4 : decode cJ36_checkIndex 4 = .ok (.iload_n 0, 1) := dk_26 (dk_at dksJ36_checkIndex_0 4 rfl rfl)
theorem dJ36_checkIndex_5 : decode cJ36_checkIndex 5 = .ok (.iload_n 1, 1) := dk_27 (dk_at dksJ36_checkIndex_0 5 rfl rfl)
theorem dJ36_checkIndex_6 : decode cJ36_checkIndex 6 = .ok (.if_icmp .lt 10, 3) := dk_161 0 10 (dk_at dksJ36_checkIndex_0 6 rfl rfl)
theorem dJ36_checkIndex_9 : decode cJ36_checkIndex 9 = .ok (.aload_n 2, 1) := dk_44 (dk_at dksJ36_checkIndex_0 9 rfl rfl)
theorem dJ36_checkIndex_10 : decode cJ36_checkIndex 10 = .ok (.iload_n 0, 1) := dk_26 (dk_at dksJ36_checkIndex_0 10 rfl rfl)
theorem dJ36_checkIndex_11 : decode cJ36_checkIndex 11 = .ok (.iload_n 1, 1) := dk_27 (dk_at dksJ36_checkIndex_0 11 rfl rfl)
theorem dJ36_checkIndex_12 : decode cJ36_checkIndex 12 = .ok (.invokestatic 95, 3) := dk_184 0 95 (dk_at dksJ36_checkIndex_0 12 rfl rfl)
theorem dJ36_checkIndex_15 : decode cJ36_checkIndex 15 = .ok (.athrow, 1) := dk_191 (dk_at dksJ36_checkIndex_0 15 rfl rfl)
theorem dJ36_checkIndex_16 : decode cJ36_checkIndex 16 = .ok (.iload_n 0, 1) := dk_26 (dk_at dksJ36_checkIndex_0 16 rfl rfl)
theorem dJ36_checkIndex_17 : decode cJ36_checkIndex 17 = .ok (.ireturn, 1) := dk_172 (dk_at dksJ36_checkIndex_0 17 rfl rfl)
abbrev cJ33_newLength : ByteArray := prog_87_method_27_code
def yJ33_newLength : MethodName := ⟨RJ33, "newLength", "(III)I"⟩
def dkwJ33_newLength_1 : List UInt8 := [184, 0, 201, 172]
abbrev dktJ33_newLength_1 : List UInt8 := dkwJ33_newLength_1 ++ []
def dkwJ33_newLength_0 : List UInt8 := [26, 27, 28, 184, 0, 194, 96, 62, 3, 29, 162, 0, 11, 29, 18, 200, 163, 0, 5, 29, 172, 26, 27]
abbrev dktJ33_newLength_0 : List UInt8 := dkwJ33_newLength_0 ++ dktJ33_newLength_1
theorem dksJ33_newLength_0 : cJ33_newLength.data.toList.drop 0 = dktJ33_newLength_0 := by decide +kernel
theorem dksJ33_newLength_1 : cJ33_newLength.data.toList.drop 23 = dktJ33_newLength_1 := dk_seg dksJ33_newLength_0 23 rfl rfl
theorem dJ33_newLength_0 : decode cJ33_newLength 0 = .ok (.iload_n 0, 1) := dk_26 (dk_at dksJ33_newLength_0 0 rfl rfl)
theorem dJ33_newLength_1 : decode cJ33_newLength 1 = .ok (.iload_n 1, 1) := dk_27 (dk_at dksJ33_newLength_0 1 rfl rfl)
theorem dJ33_newLength_2 : decode cJ33_newLength 2 = .ok (.iload_n 2, 1) := dk_28 (dk_at dksJ33_newLength_0 2 rfl rfl)
theorem dJ33_newLength_3 : decode cJ33_newLength 3 = .ok (.invokestatic 194, 3) := dk_184 0 194 (dk_at dksJ33_newLength_0 3 rfl rfl)
theorem dJ33_newLength_6 : decode cJ33_newLength 6 = .ok (.iadd, 1) := dk_96 (dk_at dksJ33_newLength_0 6 rfl rfl)
theorem dJ33_newLength_7 : decode cJ33_newLength 7 = .ok (.istore_n 3, 1) := dk_62 (dk_at dksJ33_newLength_0 7 rfl rfl)
theorem dJ33_newLength_8 : decode cJ33_newLength 8 = .ok (.iconst 0, 1) := dk_3 (dk_at dksJ33_newLength_0 8 rfl rfl)
theorem dJ33_newLength_9 : decode cJ33_newLength 9 = .ok (.iload_n 3, 1) := dk_29 (dk_at dksJ33_newLength_0 9 rfl rfl)
theorem dJ33_newLength_10 : decode cJ33_newLength 10 = .ok (.if_icmp .ge 11, 3) := dk_162 0 11 (dk_at dksJ33_newLength_0 10 rfl rfl)
theorem dJ33_newLength_13 : decode cJ33_newLength 13 = .ok (.iload_n 3, 1) := dk_29 (dk_at dksJ33_newLength_0 13 rfl rfl)
theorem dJ33_newLength_14 : decode cJ33_newLength 14 = .ok (.ldc 200, 2) := dk_18 200 (dk_at dksJ33_newLength_0 14 rfl rfl)
theorem dJ33_newLength_16 : decode cJ33_newLength 16 = .ok (.if_icmp .gt 5, 3) := dk_163 0 5 (dk_at dksJ33_newLength_0 16 rfl rfl)
theorem dJ33_newLength_19 : decode cJ33_newLength 19 = .ok (.iload_n 3, 1) := dk_29 (dk_at dksJ33_newLength_0 19 rfl rfl)
theorem dJ33_newLength_20 : decode cJ33_newLength 20 = .ok (.ireturn, 1) := dk_172 (dk_at dksJ33_newLength_0 20 rfl rfl)
theorem dJ33_newLength_21 : decode cJ33_newLength 21 = .ok (.iload_n 0, 1) := dk_26 (dk_at dksJ33_newLength_0 21 rfl rfl)
theorem dJ33_newLength_22 : decode cJ33_newLength 22 = .ok (.iload_n 1, 1) := dk_27 (dk_at dksJ33_newLength_0 22 rfl rfl)
theorem dJ33_newLength_23 : decode cJ33_newLength 23 = .ok (.invokestatic 201, 3) := dk_184 0 201 (dk_at dksJ33_newLength_1 0 rfl rfl)
theorem dJ33_newLength_26 : decode cJ33_newLength 26 = .ok (.ireturn, 1) := dk_172 (dk_at dksJ33_newLength_1 3 rfl rfl)
abbrev cJ10_hashCode : ByteArray := prog_36_method_78_code
def yJ10_hashCode : MethodName := ⟨RJ10, "hashCode", "()I"⟩
def dkwJ10_hashCode_2 : List UInt8 := [181, 0, 23, 167, 0, 8, 42, 27, 181, 0, 19, 27, 172]
abbrev dktJ10_hashCode_2 : List UInt8 := dkwJ10_hashCode_2 ++ []
def dkwJ10_hashCode_1 : List UInt8 := [180, 0, 9, 184, 2, 116, 167, 0, 10, 42, 180, 0, 9, 184, 2, 120, 60, 27, 154, 0, 11, 42, 4]
abbrev dktJ10_hashCode_1 : List UInt8 := dkwJ10_hashCode_1 ++ dktJ10_hashCode_2
def dkwJ10_hashCode_0 : List UInt8 := [42, 180, 0, 19, 60, 27, 154, 0, 52, 42, 180, 0, 23, 154, 0, 45, 42, 182, 1, 236, 153, 0, 13, 42]
abbrev dktJ10_hashCode_0 : List UInt8 := dkwJ10_hashCode_0 ++ dktJ10_hashCode_1
theorem dksJ10_hashCode_0 : cJ10_hashCode.data.toList.drop 0 = dktJ10_hashCode_0 := by decide +kernel
theorem dksJ10_hashCode_1 : cJ10_hashCode.data.toList.drop 24 = dktJ10_hashCode_1 := dk_seg dksJ10_hashCode_0 24 rfl rfl
theorem dksJ10_hashCode_2 : cJ10_hashCode.data.toList.drop 47 = dktJ10_hashCode_2 := dk_seg dksJ10_hashCode_1 23 rfl rfl
theorem dJ10_hashCode_0 : decode cJ10_hashCode 0 = .ok (.aload_n 0, 1) := dk_42 (dk_at dksJ10_hashCode_0 0 rfl rfl)
theorem dJ10_hashCode_1 : decode cJ10_hashCode 1 = .ok (.getfield 19, 3) := dk_180 0 19 (dk_at dksJ10_hashCode_0 1 rfl rfl)
theorem dJ10_hashCode_4 : decode cJ10_hashCode 4 = .ok (.istore_n 1, 1) := dk_60 (dk_at dksJ10_hashCode_0 4 rfl rfl)
theorem dJ10_hashCode_5 : decode cJ10_hashCode 5 = .ok (.iload_n 1, 1) := dk_27 (dk_at dksJ10_hashCode_0 5 rfl rfl)
theorem dJ10_hashCode_6 : decode cJ10_hashCode 6 = .ok (.ifCond .ne 52, 3) := dk_154 0 52 (dk_at dksJ10_hashCode_0 6 rfl rfl)
theorem dJ10_hashCode_9 : decode cJ10_hashCode 9 = .ok (.aload_n 0, 1) := dk_42 (dk_at dksJ10_hashCode_0 9 rfl rfl)
theorem dJ10_hashCode_10 : decode cJ10_hashCode 10 = .ok (.getfield 23, 3) := dk_180 0 23 (dk_at dksJ10_hashCode_0 10 rfl rfl)
theorem dJ10_hashCode_13 : decode cJ10_hashCode 13 = .ok (.ifCond .ne 45, 3) := dk_154 0 45 (dk_at dksJ10_hashCode_0 13 rfl rfl)
theorem dJ10_hashCode_16 : decode cJ10_hashCode 16 = .ok (.aload_n 0, 1) := dk_42 (dk_at dksJ10_hashCode_0 16 rfl rfl)
theorem dJ10_hashCode_17 : decode cJ10_hashCode 17 = .ok (.invokevirtual 492, 3) := dk_182 1 236 (dk_at dksJ10_hashCode_0 17 rfl rfl)
theorem dJ10_hashCode_20 : decode cJ10_hashCode 20 = .ok (.ifCond .eq 13, 3) := dk_153 0 13 (dk_at dksJ10_hashCode_0 20 rfl rfl)
theorem dJ10_hashCode_23 : decode cJ10_hashCode 23 = .ok (.aload_n 0, 1) := dk_42 (dk_at dksJ10_hashCode_0 23 rfl rfl)
theorem dJ10_hashCode_24 : decode cJ10_hashCode 24 = .ok (.getfield 9, 3) := dk_180 0 9 (dk_at dksJ10_hashCode_1 0 rfl rfl)
theorem dJ10_hashCode_27 : decode cJ10_hashCode 27 = .ok (.invokestatic 628, 3) := dk_184 2 116 (dk_at dksJ10_hashCode_1 3 rfl rfl)
theorem dJ10_hashCode_30 : decode cJ10_hashCode 30 = .ok (.goto 10, 3) := dk_167 0 10 (dk_at dksJ10_hashCode_1 6 rfl rfl)
theorem dJ10_hashCode_33 : decode cJ10_hashCode 33 = .ok (.aload_n 0, 1) := dk_42 (dk_at dksJ10_hashCode_1 9 rfl rfl)
theorem dJ10_hashCode_34 : decode cJ10_hashCode 34 = .ok (.getfield 9, 3) := dk_180 0 9 (dk_at dksJ10_hashCode_1 10 rfl rfl)
theorem dJ10_hashCode_37 : decode cJ10_hashCode 37 = .ok (.invokestatic 632, 3) := dk_184 2 120 (dk_at dksJ10_hashCode_1 13 rfl rfl)
theorem dJ10_hashCode_40 : decode cJ10_hashCode 40 = .ok (.istore_n 1, 1) := dk_60 (dk_at dksJ10_hashCode_1 16 rfl rfl)
theorem dJ10_hashCode_41 : decode cJ10_hashCode 41 = .ok (.iload_n 1, 1) := dk_27 (dk_at dksJ10_hashCode_1 17 rfl rfl)
theorem dJ10_hashCode_42 : decode cJ10_hashCode 42 = .ok (.ifCond .ne 11, 3) := dk_154 0 11 (dk_at dksJ10_hashCode_1 18 rfl rfl)
theorem dJ10_hashCode_45 : decode cJ10_hashCode 45 = .ok (.aload_n 0, 1) := dk_42 (dk_at dksJ10_hashCode_1 21 rfl rfl)
theorem dJ10_hashCode_46 : decode cJ10_hashCode 46 = .ok (.iconst 1, 1) := dk_4 (dk_at dksJ10_hashCode_1 22 rfl rfl)
theorem dJ10_hashCode_47 : decode cJ10_hashCode 47 = .ok (.putfield 23, 3) := dk_181 0 23 (dk_at dksJ10_hashCode_2 0 rfl rfl)
theorem dJ10_hashCode_50 : decode cJ10_hashCode 50 = .ok (.goto 8, 3) := dk_167 0 8 (dk_at dksJ10_hashCode_2 3 rfl rfl)
theorem dJ10_hashCode_53 : decode cJ10_hashCode 53 = .ok (.aload_n 0, 1) := dk_42 (dk_at dksJ10_hashCode_2 6 rfl rfl)
theorem dJ10_hashCode_54 : decode cJ10_hashCode 54 = .ok (.iload_n 1, 1) := dk_27 (dk_at dksJ10_hashCode_2 7 rfl rfl)
theorem dJ10_hashCode_55 : decode cJ10_hashCode 55 = .ok (.putfield 19, 3) := dk_181 0 19 (dk_at dksJ10_hashCode_2 8 rfl rfl)
theorem dJ10_hashCode_58 : decode cJ10_hashCode 58 = .ok (.iload_n 1, 1) := dk_27 (dk_at dksJ10_hashCode_2 11 rfl rfl)
theorem dJ10_hashCode_59 : decode cJ10_hashCode 59 = .ok (.ireturn, 1) := dk_172 (dk_at dksJ10_hashCode_2 12 rfl rfl)
abbrev cJ10_isLatin1 : ByteArray := prog_36_method_154_code
def yJ10_isLatin1 : MethodName := ⟨RJ10, "isLatin1", "()Z"⟩
def dkwJ10_isLatin1_0 : List UInt8 := [178, 0, 38, 153, 0, 14, 42, 180, 0, 15, 154, 0, 7, 4, 167, 0, 4, 3, 172]
abbrev dktJ10_isLatin1_0 : List UInt8 := dkwJ10_isLatin1_0 ++ []
theorem dksJ10_isLatin1_0 : cJ10_isLatin1.data.toList.drop 0 = dktJ10_isLatin1_0 := by decide +kernel
theorem dJ10_isLatin1_0 : decode cJ10_isLatin1 0 = .ok (.getstatic 38, 3) := dk_178 0 38 (dk_at dksJ10_isLatin1_0 0 rfl rfl)
theorem dJ10_isLatin1_3 : decode cJ10_isLatin1 3 = .ok (.ifCond .eq 14, 3) := dk_153 0 14 (dk_at dksJ10_isLatin1_0 3 rfl rfl)
theorem dJ10_isLatin1_6 : decode cJ10_isLatin1 6 = .ok (.aload_n 0, 1) := dk_42 (dk_at dksJ10_isLatin1_0 6 rfl rfl)
theorem dJ10_isLatin1_7 : decode cJ10_isLatin1 7 = .ok (.getfield 15, 3) := dk_180 0 15 (dk_at dksJ10_isLatin1_0 7 rfl rfl)
theorem dJ10_isLatin1_10 : decode cJ10_isLatin1 10 = .ok (.ifCond .ne 7, 3) := dk_154 0 7 (dk_at dksJ10_isLatin1_0 10 rfl rfl)
theorem dJ10_isLatin1_13 : decode cJ10_isLatin1 13 = .ok (.iconst 1, 1) := dk_4 (dk_at dksJ10_isLatin1_0 13 rfl rfl)
theorem dJ10_isLatin1_14 : decode cJ10_isLatin1 14 = .ok (.goto 4, 3) := dk_167 0 4 (dk_at dksJ10_isLatin1_0 14 rfl rfl)
theorem dJ10_isLatin1_17 : decode cJ10_isLatin1 17 = .ok (.iconst 0, 1) := dk_3 (dk_at dksJ10_isLatin1_0 17 rfl rfl)
theorem dJ10_isLatin1_18 : decode cJ10_isLatin1 18 = .ok (.ireturn, 1) := dk_172 (dk_at dksJ10_isLatin1_0 18 rfl rfl)
abbrev cJ10_length : ByteArray := prog_36_method_54_code
def yJ10_length : MethodName := ⟨RJ10, "length", "()I"⟩
def dkwJ10_length_0 : List UInt8 := [42, 180, 0, 9, 190, 42, 182, 1, 79, 122, 172]
abbrev dktJ10_length_0 : List UInt8 := dkwJ10_length_0 ++ []
theorem dksJ10_length_0 : cJ10_length.data.toList.drop 0 = dktJ10_length_0 := by decide +kernel
theorem dJ10_length_0 : decode cJ10_length 0 = .ok (.aload_n 0, 1) := dk_42 (dk_at dksJ10_length_0 0 rfl rfl)
theorem dJ10_length_1 : decode cJ10_length 1 = .ok (.getfield 9, 3) := dk_180 0 9 (dk_at dksJ10_length_0 1 rfl rfl)
theorem dJ10_length_4 : decode cJ10_length 4 = .ok (.arraylength, 1) := dk_190 (dk_at dksJ10_length_0 4 rfl rfl)
theorem dJ10_length_5 : decode cJ10_length 5 = .ok (.aload_n 0, 1) := dk_42 (dk_at dksJ10_length_0 5 rfl rfl)
theorem dJ10_length_6 : decode cJ10_length 6 = .ok (.invokevirtual 335, 3) := dk_182 1 79 (dk_at dksJ10_length_0 6 rfl rfl)
theorem dJ10_length_9 : decode cJ10_length 9 = .ok (.ishr, 1) := dk_122 (dk_at dksJ10_length_0 9 rfl rfl)
theorem dJ10_length_10 : decode cJ10_length 10 = .ok (.ireturn, 1) := dk_172 (dk_at dksJ10_length_0 10 rfl rfl)
abbrev cJ10_coder : ByteArray := prog_36_method_152_code
def yJ10_coder : MethodName := ⟨RJ10, "coder", "()B"⟩
def dkwJ10_coder_0 : List UInt8 := [178, 0, 38, 153, 0, 10, 42, 180, 0, 15, 167, 0, 4, 4, 172]
abbrev dktJ10_coder_0 : List UInt8 := dkwJ10_coder_0 ++ []
theorem dksJ10_coder_0 : cJ10_coder.data.toList.drop 0 = dktJ10_coder_0 := by decide +kernel
theorem dJ10_coder_0 : decode cJ10_coder 0 = .ok (.getstatic 38, 3) := dk_178 0 38 (dk_at dksJ10_coder_0 0 rfl rfl)
theorem dJ10_coder_3 : decode cJ10_coder 3 = .ok (.ifCond .eq 10, 3) := dk_153 0 10 (dk_at dksJ10_coder_0 3 rfl rfl)
theorem dJ10_coder_6 : decode cJ10_coder 6 = .ok (.aload_n 0, 1) := dk_42 (dk_at dksJ10_coder_0 6 rfl rfl)
theorem dJ10_coder_7 : decode cJ10_coder 7 = .ok (.getfield 15, 3) := dk_180 0 15 (dk_at dksJ10_coder_0 7 rfl rfl)
theorem dJ10_coder_10 : decode cJ10_coder 10 = .ok (.goto 4, 3) := dk_167 0 4 (dk_at dksJ10_coder_0 10 rfl rfl)
theorem dJ10_coder_13 : decode cJ10_coder 13 = .ok (.iconst 1, 1) := dk_4 (dk_at dksJ10_coder_0 13 rfl rfl)
theorem dJ10_coder_14 : decode cJ10_coder 14 = .ok (.ireturn, 1) := dk_172 (dk_at dksJ10_coder_0 14 rfl rfl)
abbrev cJ10_getBytes : ByteArray := prog_36_method_147_code
def yJ10_getBytes : MethodName := ⟨RJ10, "getBytes", "([BIB)V"⟩
def dkwJ10_getBytes_1 : List UInt8 := [184, 0, 212, 167, 0, 18, 42, 180, 0, 9, 3, 43, 28, 42, 180, 0, 9, 190, 184, 0, 106, 177]
abbrev dktJ10_getBytes_1 : List UInt8 := dkwJ10_getBytes_1 ++ []
def dkwJ10_getBytes_0 : List UInt8 := [42, 182, 1, 79, 29, 160, 0, 23, 42, 180, 0, 9, 3, 43, 28, 29, 120, 42, 180, 0, 9, 190]
abbrev dktJ10_getBytes_0 : List UInt8 := dkwJ10_getBytes_0 ++ dktJ10_getBytes_1
theorem dksJ10_getBytes_0 : cJ10_getBytes.data.toList.drop 0 = dktJ10_getBytes_0 := by decide +kernel
theorem dksJ10_getBytes_1 : cJ10_getBytes.data.toList.drop 22 = dktJ10_getBytes_1 := dk_seg dksJ10_getBytes_0 22 rfl rfl
theorem dJ10_getBytes_0 : decode cJ10_getBytes 0 = .ok (.aload_n 0, 1) := dk_42 (dk_at dksJ10_getBytes_0 0 rfl rfl)
theorem dJ10_getBytes_1 : decode cJ10_getBytes 1 = .ok (.invokevirtual 335, 3) := dk_182 1 79 (dk_at dksJ10_getBytes_0 1 rfl rfl)
theorem dJ10_getBytes_4 : decode cJ10_getBytes 4 = .ok (.iload_n 3, 1) := dk_29 (dk_at dksJ10_getBytes_0 4 rfl rfl)
theorem dJ10_getBytes_5 : decode cJ10_getBytes 5 = .ok (.if_icmp .ne 23, 3) := dk_160 0 23 (dk_at dksJ10_getBytes_0 5 rfl rfl)
theorem dJ10_getBytes_8 : decode cJ10_getBytes 8 = .ok (.aload_n 0, 1) := dk_42 (dk_at dksJ10_getBytes_0 8 rfl rfl)
theorem dJ10_getBytes_9 : decode cJ10_getBytes 9 = .ok (.getfield 9, 3) := dk_180 0 9 (dk_at dksJ10_getBytes_0 9 rfl rfl)
theorem dJ10_getBytes_12 : decode cJ10_getBytes 12 = .ok (.iconst 0, 1) := dk_3 (dk_at dksJ10_getBytes_0 12 rfl rfl)
theorem dJ10_getBytes_13 : decode cJ10_getBytes 13 = .ok (.aload_n 1, 1) := dk_43 (dk_at dksJ10_getBytes_0 13 rfl rfl)
theorem dJ10_getBytes_14 : decode cJ10_getBytes 14 = .ok (.iload_n 2, 1) := dk_28 (dk_at dksJ10_getBytes_0 14 rfl rfl)
theorem dJ10_getBytes_15 : decode cJ10_getBytes 15 = .ok (.iload_n 3, 1) := dk_29 (dk_at dksJ10_getBytes_0 15 rfl rfl)
theorem dJ10_getBytes_16 : decode cJ10_getBytes 16 = .ok (.ishl, 1) := dk_120 (dk_at dksJ10_getBytes_0 16 rfl rfl)
theorem dJ10_getBytes_17 : decode cJ10_getBytes 17 = .ok (.aload_n 0, 1) := dk_42 (dk_at dksJ10_getBytes_0 17 rfl rfl)
theorem dJ10_getBytes_18 : decode cJ10_getBytes 18 = .ok (.getfield 9, 3) := dk_180 0 9 (dk_at dksJ10_getBytes_0 18 rfl rfl)
theorem dJ10_getBytes_21 : decode cJ10_getBytes 21 = .ok (.arraylength, 1) := dk_190 (dk_at dksJ10_getBytes_0 21 rfl rfl)
theorem dJ10_getBytes_22 : decode cJ10_getBytes 22 = .ok (.invokestatic 212, 3) := dk_184 0 212 (dk_at dksJ10_getBytes_1 0 rfl rfl)
theorem dJ10_getBytes_25 : decode cJ10_getBytes 25 = .ok (.goto 18, 3) := dk_167 0 18 (dk_at dksJ10_getBytes_1 3 rfl rfl)
theorem dJ10_getBytes_28 : decode cJ10_getBytes 28 = .ok (.aload_n 0, 1) := dk_42 (dk_at dksJ10_getBytes_1 6 rfl rfl)
theorem dJ10_getBytes_29 : decode cJ10_getBytes 29 = .ok (.getfield 9, 3) := dk_180 0 9 (dk_at dksJ10_getBytes_1 7 rfl rfl)
theorem dJ10_getBytes_32 : decode cJ10_getBytes 32 = .ok (.iconst 0, 1) := dk_3 (dk_at dksJ10_getBytes_1 10 rfl rfl)
theorem dJ10_getBytes_33 : decode cJ10_getBytes 33 = .ok (.aload_n 1, 1) := dk_43 (dk_at dksJ10_getBytes_1 11 rfl rfl)
theorem dJ10_getBytes_34 : decode cJ10_getBytes 34 = .ok (.iload_n 2, 1) := dk_28 (dk_at dksJ10_getBytes_1 12 rfl rfl)
theorem dJ10_getBytes_35 : decode cJ10_getBytes 35 = .ok (.aload_n 0, 1) := dk_42 (dk_at dksJ10_getBytes_1 13 rfl rfl)
theorem dJ10_getBytes_36 : decode cJ10_getBytes 36 = .ok (.getfield 9, 3) := dk_180 0 9 (dk_at dksJ10_getBytes_1 14 rfl rfl)
theorem dJ10_getBytes_39 : decode cJ10_getBytes 39 = .ok (.arraylength, 1) := dk_190 (dk_at dksJ10_getBytes_1 17 rfl rfl)
theorem dJ10_getBytes_40 : decode cJ10_getBytes 40 = .ok (.invokestatic 106, 3) := dk_184 0 106 (dk_at dksJ10_getBytes_1 18 rfl rfl)
theorem dJ10_getBytes_43 : decode cJ10_getBytes 43 = .ok (.return_, 1) := dk_177 (dk_at dksJ10_getBytes_1 21 rfl rfl)
abbrev cJ10_init : ByteArray := prog_36_method_53_code
def yJ10_init : MethodName := ⟨RJ10, "<init>", "(Ljava/lang/StringBuilder;)V"⟩
def dkwJ10_init_0 : List UInt8 := [42, 43, 1, 183, 1, 233, 177]
abbrev dktJ10_init_0 : List UInt8 := dkwJ10_init_0 ++ []
theorem dksJ10_init_0 : cJ10_init.data.toList.drop 0 = dktJ10_init_0 := by decide +kernel
theorem dJ10_init_0 : decode cJ10_init 0 = .ok (.aload_n 0, 1) := dk_42 (dk_at dksJ10_init_0 0 rfl rfl)
theorem dJ10_init_1 : decode cJ10_init 1 = .ok (.aload_n 1, 1) := dk_43 (dk_at dksJ10_init_0 1 rfl rfl)
theorem dJ10_init_2 : decode cJ10_init 2 = .ok (.aconst_null, 1) := dk_1 (dk_at dksJ10_init_0 2 rfl rfl)
theorem dJ10_init_3 : decode cJ10_init 3 = .ok (.invokespecial 489, 3) := dk_183 1 233 (dk_at dksJ10_init_0 3 rfl rfl)
theorem dJ10_init_6 : decode cJ10_init 6 = .ok (.return_, 1) := dk_177 (dk_at dksJ10_init_0 6 rfl rfl)
abbrev cJ10_init_2 : ByteArray := prog_36_method_150_code
def yJ10_init_2 : MethodName := ⟨RJ10, "<init>", "(Ljava/lang/AbstractStringBuilder;Ljava/lang/Void;)V"⟩
def dkwJ10_init_2_4 : List UInt8 := [181, 0, 9, 177]
abbrev dktJ10_init_2_4 : List UInt8 := dkwJ10_init_2_4 ++ []
def dkwJ10_init_2_3 : List UInt8 := [184, 0, 47, 181, 0, 15, 177, 42, 4, 181, 0, 15, 42, 45, 3, 21, 4, 4, 120, 184, 0, 54]
abbrev dktJ10_init_2_3 : List UInt8 := dkwJ10_init_2_3 ++ dktJ10_init_2_4
def dkwJ10_init_2_2 : List UInt8 := [180, 4, 24, 153, 0, 28, 42, 45, 3, 21, 4, 184, 4, 27, 181, 0, 9, 42, 42, 180, 0, 9, 21, 4]
abbrev dktJ10_init_2_2 : List UInt8 := dkwJ10_init_2_2 ++ dktJ10_init_2_3
def dkwJ10_init_2_1 : List UInt8 := [181, 0, 15, 42, 45, 3, 21, 4, 184, 0, 54, 181, 0, 9, 167, 0, 59, 178, 0, 38, 153, 0, 35, 43]
abbrev dktJ10_init_2_1 : List UInt8 := dkwJ10_init_2_1 ++ dktJ10_init_2_2
def dkwJ10_init_2_0 : List UInt8 := [42, 183, 0, 1, 43, 182, 2, 40, 78, 43, 182, 2, 37, 54, 4, 43, 182, 4, 23, 153, 0, 22, 42, 3]
abbrev dktJ10_init_2_0 : List UInt8 := dkwJ10_init_2_0 ++ dktJ10_init_2_1
theorem dksJ10_init_2_0 : cJ10_init_2.data.toList.drop 0 = dktJ10_init_2_0 := by decide +kernel
theorem dksJ10_init_2_1 : cJ10_init_2.data.toList.drop 24 = dktJ10_init_2_1 := dk_seg dksJ10_init_2_0 24 rfl rfl
theorem dksJ10_init_2_2 : cJ10_init_2.data.toList.drop 48 = dktJ10_init_2_2 := dk_seg dksJ10_init_2_1 24 rfl rfl
theorem dksJ10_init_2_3 : cJ10_init_2.data.toList.drop 72 = dktJ10_init_2_3 := dk_seg dksJ10_init_2_2 24 rfl rfl
theorem dksJ10_init_2_4 : cJ10_init_2.data.toList.drop 94 = dktJ10_init_2_4 := dk_seg dksJ10_init_2_3 22 rfl rfl
theorem dJ10_init_2_0 : decode cJ10_init_2 0 = .ok (.aload_n 0, 1) := dk_42 (dk_at dksJ10_init_2_0 0 rfl rfl)
theorem dJ10_init_2_1 : decode cJ10_init_2 1 = .ok (.invokespecial 1, 3) := dk_183 0 1 (dk_at dksJ10_init_2_0 1 rfl rfl)
theorem dJ10_init_2_4 : decode cJ10_init_2 4 = .ok (.aload_n 1, 1) := dk_43 (dk_at dksJ10_init_2_0 4 rfl rfl)
theorem dJ10_init_2_5 : decode cJ10_init_2 5 = .ok (.invokevirtual 552, 3) := dk_182 2 40 (dk_at dksJ10_init_2_0 5 rfl rfl)
theorem dJ10_init_2_8 : decode cJ10_init_2 8 = .ok (.astore_n 3, 1) := dk_78 (dk_at dksJ10_init_2_0 8 rfl rfl)
theorem dJ10_init_2_9 : decode cJ10_init_2 9 = .ok (.aload_n 1, 1) := dk_43 (dk_at dksJ10_init_2_0 9 rfl rfl)
theorem dJ10_init_2_10 : decode cJ10_init_2 10 = .ok (.invokevirtual 549, 3) := dk_182 2 37 (dk_at dksJ10_init_2_0 10 rfl rfl)
theorem dJ10_init_2_13 : decode cJ10_init_2 13 = .ok (.istore 4, 2) := dk_54 4 (dk_at dksJ10_init_2_0 13 rfl rfl)
theorem dJ10_init_2_15 : decode cJ10_init_2 15 = .ok (.aload_n 1, 1) := dk_43 (dk_at dksJ10_init_2_0 15 rfl rfl)
theorem dJ10_init_2_16 : decode cJ10_init_2 16 = .ok (.invokevirtual 1047, 3) := dk_182 4 23 (dk_at dksJ10_init_2_0 16 rfl rfl)
theorem dJ10_init_2_19 : decode cJ10_init_2 19 = .ok (.ifCond .eq 22, 3) := dk_153 0 22 (dk_at dksJ10_init_2_0 19 rfl rfl)
theorem dJ10_init_2_22 : decode cJ10_init_2 22 = .ok (.aload_n 0, 1) := dk_42 (dk_at dksJ10_init_2_0 22 rfl rfl)
theorem dJ10_init_2_23 : decode cJ10_init_2 23 = .ok (.iconst 0, 1) := dk_3 (dk_at dksJ10_init_2_0 23 rfl rfl)
theorem dJ10_init_2_24 : decode cJ10_init_2 24 = .ok (.putfield 15, 3) := dk_181 0 15 (dk_at dksJ10_init_2_1 0 rfl rfl)
theorem dJ10_init_2_27 : decode cJ10_init_2 27 = .ok (.aload_n 0, 1) := dk_42 (dk_at dksJ10_init_2_1 3 rfl rfl)
theorem dJ10_init_2_28 : decode cJ10_init_2 28 = .ok (.aload_n 3, 1) := dk_45 (dk_at dksJ10_init_2_1 4 rfl rfl)
theorem dJ10_init_2_29 : decode cJ10_init_2 29 = .ok (.iconst 0, 1) := dk_3 (dk_at dksJ10_init_2_1 5 rfl rfl)
theorem dJ10_init_2_30 : decode cJ10_init_2 30 = .ok (.iload 4, 2) := dk_21 4 (dk_at dksJ10_init_2_1 6 rfl rfl)
theorem dJ10_init_2_32 : decode cJ10_init_2 32 = .ok (.invokestatic 54, 3) := dk_184 0 54 (dk_at dksJ10_init_2_1 8 rfl rfl)
theorem dJ10_init_2_35 : decode cJ10_init_2 35 = .ok (.putfield 9, 3) := dk_181 0 9 (dk_at dksJ10_init_2_1 11 rfl rfl)
theorem dJ10_init_2_38 : decode cJ10_init_2 38 = .ok (.goto 59, 3) := dk_167 0 59 (dk_at dksJ10_init_2_1 14 rfl rfl)
theorem dJ10_init_2_41 : decode cJ10_init_2 41 = .ok (.getstatic 38, 3) := dk_178 0 38 (dk_at dksJ10_init_2_1 17 rfl rfl)
theorem dJ10_init_2_44 : decode cJ10_init_2 44 = .ok (.ifCond .eq 35, 3) := dk_153 0 35 (dk_at dksJ10_init_2_1 20 rfl rfl)
theorem dJ10_init_2_47 : decode cJ10_init_2 47 = .ok (.aload_n 1, 1) := dk_43 (dk_at dksJ10_init_2_1 23 rfl rfl)
theorem dJ10_init_2_48 : decode cJ10_init_2 48 = .ok (.getfield 1048, 3) := dk_180 4 24 (dk_at dksJ10_init_2_2 0 rfl rfl)
theorem dJ10_init_2_51 : decode cJ10_init_2 51 = .ok (.ifCond .eq 28, 3) := dk_153 0 28 (dk_at dksJ10_init_2_2 3 rfl rfl)
theorem dJ10_init_2_54 : decode cJ10_init_2 54 = .ok (.aload_n 0, 1) := dk_42 (dk_at dksJ10_init_2_2 6 rfl rfl)
theorem dJ10_init_2_55 : decode cJ10_init_2 55 = .ok (.aload_n 3, 1) := dk_45 (dk_at dksJ10_init_2_2 7 rfl rfl)
theorem dJ10_init_2_56 : decode cJ10_init_2 56 = .ok (.iconst 0, 1) := dk_3 (dk_at dksJ10_init_2_2 8 rfl rfl)
theorem dJ10_init_2_57 : decode cJ10_init_2 57 = .ok (.iload 4, 2) := dk_21 4 (dk_at dksJ10_init_2_2 9 rfl rfl)
theorem dJ10_init_2_59 : decode cJ10_init_2 59 = .ok (.invokestatic 1051, 3) := dk_184 4 27 (dk_at dksJ10_init_2_2 11 rfl rfl)
theorem dJ10_init_2_62 : decode cJ10_init_2 62 = .ok (.putfield 9, 3) := dk_181 0 9 (dk_at dksJ10_init_2_2 14 rfl rfl)
theorem dJ10_init_2_65 : decode cJ10_init_2 65 = .ok (.aload_n 0, 1) := dk_42 (dk_at dksJ10_init_2_2 17 rfl rfl)
theorem dJ10_init_2_66 : decode cJ10_init_2 66 = .ok (.aload_n 0, 1) := dk_42 (dk_at dksJ10_init_2_2 18 rfl rfl)
theorem dJ10_init_2_67 : decode cJ10_init_2 67 = .ok (.getfield 9, 3) := dk_180 0 9 (dk_at dksJ10_init_2_2 19 rfl rfl)
theorem dJ10_init_2_70 : decode cJ10_init_2 70 = .ok (.iload 4, 2) := dk_21 4 (dk_at dksJ10_init_2_2 22 rfl rfl)
theorem dJ10_init_2_72 : decode cJ10_init_2 72 = .ok (.invokestatic 47, 3) := dk_184 0 47 (dk_at dksJ10_init_2_3 0 rfl rfl)
theorem dJ10_init_2_75 : decode cJ10_init_2 75 = .ok (.putfield 15, 3) := dk_181 0 15 (dk_at dksJ10_init_2_3 3 rfl rfl)
theorem dJ10_init_2_78 : decode cJ10_init_2 78 = .ok (.return_, 1) := dk_177 (dk_at dksJ10_init_2_3 6 rfl rfl)
theorem dJ10_init_2_79 : decode cJ10_init_2 79 = .ok (.aload_n 0, 1) := dk_42 (dk_at dksJ10_init_2_3 7 rfl rfl)
theorem dJ10_init_2_80 : decode cJ10_init_2 80 = .ok (.iconst 1, 1) := dk_4 (dk_at dksJ10_init_2_3 8 rfl rfl)
theorem dJ10_init_2_81 : decode cJ10_init_2 81 = .ok (.putfield 15, 3) := dk_181 0 15 (dk_at dksJ10_init_2_3 9 rfl rfl)
theorem dJ10_init_2_84 : decode cJ10_init_2 84 = .ok (.aload_n 0, 1) := dk_42 (dk_at dksJ10_init_2_3 12 rfl rfl)
theorem dJ10_init_2_85 : decode cJ10_init_2 85 = .ok (.aload_n 3, 1) := dk_45 (dk_at dksJ10_init_2_3 13 rfl rfl)
theorem dJ10_init_2_86 : decode cJ10_init_2 86 = .ok (.iconst 0, 1) := dk_3 (dk_at dksJ10_init_2_3 14 rfl rfl)
theorem dJ10_init_2_87 : decode cJ10_init_2 87 = .ok (.iload 4, 2) := dk_21 4 (dk_at dksJ10_init_2_3 15 rfl rfl)
theorem dJ10_init_2_89 : decode cJ10_init_2 89 = .ok (.iconst 1, 1) := dk_4 (dk_at dksJ10_init_2_3 17 rfl rfl)
theorem dJ10_init_2_90 : decode cJ10_init_2 90 = .ok (.ishl, 1) := dk_120 (dk_at dksJ10_init_2_3 18 rfl rfl)
theorem dJ10_init_2_91 : decode cJ10_init_2 91 = .ok (.invokestatic 54, 3) := dk_184 0 54 (dk_at dksJ10_init_2_3 19 rfl rfl)
theorem dJ10_init_2_94 : decode cJ10_init_2 94 = .ok (.putfield 9, 3) := dk_181 0 9 (dk_at dksJ10_init_2_4 0 rfl rfl)
theorem dJ10_init_2_97 : decode cJ10_init_2 97 = .ok (.return_, 1) := dk_177 (dk_at dksJ10_init_2_4 3 rfl rfl)
abbrev cJ10_equals : ByteArray := prog_36_method_66_code
def yJ10_equals : MethodName := ⟨RJ10, "equals", "(Ljava/lang/Object;)Z"⟩
def dkwJ10_equals_2 : List UInt8 := [184, 2, 29, 153, 0, 7, 4, 167, 0, 4, 3, 172]
abbrev dktJ10_equals_2 : List UInt8 := dkwJ10_equals_2 ++ []
def dkwJ10_equals_1 : List UInt8 := [153, 0, 14, 42, 180, 0, 15, 44, 180, 0, 15, 160, 0, 21, 42, 180, 0, 9, 44, 180, 0, 9]
abbrev dktJ10_equals_1 : List UInt8 := dkwJ10_equals_1 ++ dktJ10_equals_2
def dkwJ10_equals_0 : List UInt8 := [42, 43, 166, 0, 5, 4, 172, 43, 193, 0, 10, 153, 0, 43, 43, 192, 0, 10, 77, 178, 0, 38]
abbrev dktJ10_equals_0 : List UInt8 := dkwJ10_equals_0 ++ dktJ10_equals_1
theorem dksJ10_equals_0 : cJ10_equals.data.toList.drop 0 = dktJ10_equals_0 := by decide +kernel
theorem dksJ10_equals_1 : cJ10_equals.data.toList.drop 22 = dktJ10_equals_1 := dk_seg dksJ10_equals_0 22 rfl rfl
theorem dksJ10_equals_2 : cJ10_equals.data.toList.drop 44 = dktJ10_equals_2 := dk_seg dksJ10_equals_1 22 rfl rfl
theorem dJ10_equals_0 : decode cJ10_equals 0 = .ok (.aload_n 0, 1) := dk_42 (dk_at dksJ10_equals_0 0 rfl rfl)
theorem dJ10_equals_1 : decode cJ10_equals 1 = .ok (.aload_n 1, 1) := dk_43 (dk_at dksJ10_equals_0 1 rfl rfl)
theorem dJ10_equals_2 : decode cJ10_equals 2 = .ok (.if_acmp .ne 5, 3) := dk_166 0 5 (dk_at dksJ10_equals_0 2 rfl rfl)
theorem dJ10_equals_5 : decode cJ10_equals 5 = .ok (.iconst 1, 1) := dk_4 (dk_at dksJ10_equals_0 5 rfl rfl)
theorem dJ10_equals_6 : decode cJ10_equals 6 = .ok (.ireturn, 1) := dk_172 (dk_at dksJ10_equals_0 6 rfl rfl)
theorem dJ10_equals_7 : decode cJ10_equals 7 = .ok (.aload_n 1, 1) := dk_43 (dk_at dksJ10_equals_0 7 rfl rfl)
theorem dJ10_equals_8 : decode cJ10_equals 8 = .ok (.instanceof 10, 3) := dk_193 0 10 (dk_at dksJ10_equals_0 8 rfl rfl)
theorem dJ10_equals_11 : decode cJ10_equals 11 = .ok (.ifCond .eq 43, 3) := dk_153 0 43 (dk_at dksJ10_equals_0 11 rfl rfl)
theorem dJ10_equals_14 : decode cJ10_equals 14 = .ok (.aload_n 1, 1) := dk_43 (dk_at dksJ10_equals_0 14 rfl rfl)
theorem dJ10_equals_15 : decode cJ10_equals 15 = .ok (.checkcast 10, 3) := dk_192 0 10 (dk_at dksJ10_equals_0 15 rfl rfl)
theorem dJ10_equals_18 : decode cJ10_equals 18 = .ok (.astore_n 2, 1) := dk_77 (dk_at dksJ10_equals_0 18 rfl rfl)
theorem dJ10_equals_19 : decode cJ10_equals 19 = .ok (.getstatic 38, 3) := dk_178 0 38 (dk_at dksJ10_equals_0 19 rfl rfl)
theorem dJ10_equals_22 : decode cJ10_equals 22 = .ok (.ifCond .eq 14, 3) := dk_153 0 14 (dk_at dksJ10_equals_1 0 rfl rfl)
theorem dJ10_equals_25 : decode cJ10_equals 25 = .ok (.aload_n 0, 1) := dk_42 (dk_at dksJ10_equals_1 3 rfl rfl)
theorem dJ10_equals_26 : decode cJ10_equals 26 = .ok (.getfield 15, 3) := dk_180 0 15 (dk_at dksJ10_equals_1 4 rfl rfl)
theorem dJ10_equals_29 : decode cJ10_equals 29 = .ok (.aload_n 2, 1) := dk_44 (dk_at dksJ10_equals_1 7 rfl rfl)
theorem dJ10_equals_30 : decode cJ10_equals 30 = .ok (.getfield 15, 3) := dk_180 0 15 (dk_at dksJ10_equals_1 8 rfl rfl)
theorem dJ10_equals_33 : decode cJ10_equals 33 = .ok (.if_icmp .ne 21, 3) := dk_160 0 21 (dk_at dksJ10_equals_1 11 rfl rfl)
theorem dJ10_equals_36 : decode cJ10_equals 36 = .ok (.aload_n 0, 1) := dk_42 (dk_at dksJ10_equals_1 14 rfl rfl)
theorem dJ10_equals_37 : decode cJ10_equals 37 = .ok (.getfield 9, 3) := dk_180 0 9 (dk_at dksJ10_equals_1 15 rfl rfl)
theorem dJ10_equals_40 : decode cJ10_equals 40 = .ok (.aload_n 2, 1) := dk_44 (dk_at dksJ10_equals_1 18 rfl rfl)
theorem dJ10_equals_41 : decode cJ10_equals 41 = .ok (.getfield 9, 3) := dk_180 0 9 (dk_at dksJ10_equals_1 19 rfl rfl)
theorem dJ10_equals_44 : decode cJ10_equals 44 = .ok (.invokestatic 541, 3) := dk_184 2 29 (dk_at dksJ10_equals_2 0 rfl rfl)
theorem dJ10_equals_47 : decode cJ10_equals 47 = .ok (.ifCond .eq 7, 3) := dk_153 0 7 (dk_at dksJ10_equals_2 3 rfl rfl)
theorem dJ10_equals_50 : decode cJ10_equals 50 = .ok (.iconst 1, 1) := dk_4 (dk_at dksJ10_equals_2 6 rfl rfl)
theorem dJ10_equals_51 : decode cJ10_equals 51 = .ok (.goto 4, 3) := dk_167 0 4 (dk_at dksJ10_equals_2 7 rfl rfl)
theorem dJ10_equals_54 : decode cJ10_equals 54 = .ok (.iconst 0, 1) := dk_3 (dk_at dksJ10_equals_2 10 rfl rfl)
theorem dJ10_equals_55 : decode cJ10_equals 55 = .ok (.ireturn, 1) := dk_172 (dk_at dksJ10_equals_2 11 rfl rfl)
abbrev cJ10_charAt : ByteArray := prog_36_method_56_code
def yJ10_charAt : MethodName := ⟨RJ10, "charAt", "(I)C"⟩
def dkwJ10_charAt_1 : List UInt8 := [172]
abbrev dktJ10_charAt_1 : List UInt8 := dkwJ10_charAt_1 ++ []
def dkwJ10_charAt_0 : List UInt8 := [42, 182, 1, 236, 153, 0, 12, 42, 180, 0, 9, 27, 184, 1, 239, 172, 42, 180, 0, 9, 27, 184, 1, 242]
abbrev dktJ10_charAt_0 : List UInt8 := dkwJ10_charAt_0 ++ dktJ10_charAt_1
theorem dksJ10_charAt_0 : cJ10_charAt.data.toList.drop 0 = dktJ10_charAt_0 := by decide +kernel
theorem dksJ10_charAt_1 : cJ10_charAt.data.toList.drop 24 = dktJ10_charAt_1 := dk_seg dksJ10_charAt_0 24 rfl rfl
theorem dJ10_charAt_0 : decode cJ10_charAt 0 = .ok (.aload_n 0, 1) := dk_42 (dk_at dksJ10_charAt_0 0 rfl rfl)
theorem dJ10_charAt_1 : decode cJ10_charAt 1 = .ok (.invokevirtual 492, 3) := dk_182 1 236 (dk_at dksJ10_charAt_0 1 rfl rfl)
theorem dJ10_charAt_4 : decode cJ10_charAt 4 = .ok (.ifCond .eq 12, 3) := dk_153 0 12 (dk_at dksJ10_charAt_0 4 rfl rfl)
theorem dJ10_charAt_7 : decode cJ10_charAt 7 = .ok (.aload_n 0, 1) := dk_42 (dk_at dksJ10_charAt_0 7 rfl rfl)
theorem dJ10_charAt_8 : decode cJ10_charAt 8 = .ok (.getfield 9, 3) := dk_180 0 9 (dk_at dksJ10_charAt_0 8 rfl rfl)
theorem dJ10_charAt_11 : decode cJ10_charAt 11 = .ok (.iload_n 1, 1) := dk_27 (dk_at dksJ10_charAt_0 11 rfl rfl)
theorem dJ10_charAt_12 : decode cJ10_charAt 12 = .ok (.invokestatic 495, 3) := dk_184 1 239 (dk_at dksJ10_charAt_0 12 rfl rfl)
theorem dJ10_charAt_15 : decode cJ10_charAt 15 = .ok (.ireturn, 1) := dk_172 (dk_at dksJ10_charAt_0 15 rfl rfl)
theorem dJ10_charAt_16 : decode cJ10_charAt 16 = .ok (.aload_n 0, 1) := dk_42 (dk_at dksJ10_charAt_0 16 rfl rfl)
theorem dJ10_charAt_17 : decode cJ10_charAt 17 = .ok (.getfield 9, 3) := dk_180 0 9 (dk_at dksJ10_charAt_0 17 rfl rfl)
theorem dJ10_charAt_20 : decode cJ10_charAt 20 = .ok (.iload_n 1, 1) := dk_27 (dk_at dksJ10_charAt_0 20 rfl rfl)
theorem dJ10_charAt_21 : decode cJ10_charAt 21 = .ok (.invokestatic 498, 3) := dk_184 1 242 (dk_at dksJ10_charAt_0 21 rfl rfl)
theorem dJ10_charAt_24 : decode cJ10_charAt 24 = .ok (.ireturn, 1) := dk_172 (dk_at dksJ10_charAt_1 0 rfl rfl)
abbrev cJ10_checkIndex : ByteArray := prog_36_method_155_code
def yJ10_checkIndex : MethodName := ⟨RJ10, "checkIndex", "(II)V"⟩
def dkwJ10_checkIndex_0 : List UInt8 := [26, 27, 178, 4, 29, 184, 4, 35, 87, 177]
abbrev dktJ10_checkIndex_0 : List UInt8 := dkwJ10_checkIndex_0 ++ []
theorem dksJ10_checkIndex_0 : cJ10_checkIndex.data.toList.drop 0 = dktJ10_checkIndex_0 := by decide +kernel
theorem dJ10_checkIndex_0 : decode cJ10_checkIndex 0 = .ok (.iload_n 0, 1) := dk_26 (dk_at dksJ10_checkIndex_0 0 rfl rfl)
theorem dJ10_checkIndex_1 : decode cJ10_checkIndex 1 = .ok (.iload_n 1, 1) := dk_27 (dk_at dksJ10_checkIndex_0 1 rfl rfl)
theorem dJ10_checkIndex_2 : decode cJ10_checkIndex 2 = .ok (.getstatic 1053, 3) := dk_178 4 29 (dk_at dksJ10_checkIndex_0 2 rfl rfl)
theorem dJ10_checkIndex_5 : decode cJ10_checkIndex 5 = .ok (.invokestatic 1059, 3) := dk_184 4 35 (dk_at dksJ10_checkIndex_0 5 rfl rfl)
theorem dJ10_checkIndex_8 : decode cJ10_checkIndex 8 = .ok (.pop, 1) := dk_87 (dk_at dksJ10_checkIndex_0 8 rfl rfl)
theorem dJ10_checkIndex_9 : decode cJ10_checkIndex 9 = .ok (.return_, 1) := dk_177 (dk_at dksJ10_checkIndex_0 9 rfl rfl)
abbrev cJ10_toString : ByteArray := prog_36_method_126_code
def yJ10_toString : MethodName := ⟨RJ10, "toString", "()Ljava/lang/String;"⟩
theorem dJ10_toString_0 : decode cJ10_toString 0 = .ok (.aload_n 0, 1) := by decide +kernel
theorem dJ10_toString_1 : decode cJ10_toString 1 = .ok (.areturn, 1) := by decide +kernel
abbrev cJ10_indexOf : ByteArray := prog_36_method_79_code
def yJ10_indexOf : MethodName := ⟨RJ10, "indexOf", "(I)I"⟩
def dkwJ10_indexOf_0 : List UInt8 := [42, 27, 3, 182, 2, 121, 172]
abbrev dktJ10_indexOf_0 : List UInt8 := dkwJ10_indexOf_0 ++ []
theorem dksJ10_indexOf_0 : cJ10_indexOf.data.toList.drop 0 = dktJ10_indexOf_0 := by decide +kernel
theorem dJ10_indexOf_0 : decode cJ10_indexOf 0 = .ok (.aload_n 0, 1) := dk_42 (dk_at dksJ10_indexOf_0 0 rfl rfl)
theorem dJ10_indexOf_1 : decode cJ10_indexOf 1 = .ok (.iload_n 1, 1) := dk_27 (dk_at dksJ10_indexOf_0 1 rfl rfl)
theorem dJ10_indexOf_2 : decode cJ10_indexOf 2 = .ok (.iconst 0, 1) := dk_3 (dk_at dksJ10_indexOf_0 2 rfl rfl)
theorem dJ10_indexOf_3 : decode cJ10_indexOf 3 = .ok (.invokevirtual 633, 3) := dk_182 2 121 (dk_at dksJ10_indexOf_0 3 rfl rfl)
theorem dJ10_indexOf_6 : decode cJ10_indexOf 6 = .ok (.ireturn, 1) := dk_172 (dk_at dksJ10_indexOf_0 6 rfl rfl)
abbrev cJ10_indexOf_2 : ByteArray := prog_36_method_80_code
def yJ10_indexOf_2 : MethodName := ⟨RJ10, "indexOf", "(II)I"⟩
def dkwJ10_indexOf_2_1 : List UInt8 := [180, 0, 9, 27, 28, 42, 182, 1, 249, 184, 2, 128, 172]
abbrev dktJ10_indexOf_2_1 : List UInt8 := dkwJ10_indexOf_2_1 ++ []
def dkwJ10_indexOf_2_0 : List UInt8 := [42, 182, 1, 236, 153, 0, 19, 42, 180, 0, 9, 27, 28, 42, 182, 1, 249, 184, 2, 125, 167, 0, 16, 42]
abbrev dktJ10_indexOf_2_0 : List UInt8 := dkwJ10_indexOf_2_0 ++ dktJ10_indexOf_2_1
theorem dksJ10_indexOf_2_0 : cJ10_indexOf_2.data.toList.drop 0 = dktJ10_indexOf_2_0 := by decide +kernel
theorem dksJ10_indexOf_2_1 : cJ10_indexOf_2.data.toList.drop 24 = dktJ10_indexOf_2_1 := dk_seg dksJ10_indexOf_2_0 24 rfl rfl
theorem dJ10_indexOf_2_0 : decode cJ10_indexOf_2 0 = .ok (.aload_n 0, 1) := dk_42 (dk_at dksJ10_indexOf_2_0 0 rfl rfl)
theorem dJ10_indexOf_2_1 : decode cJ10_indexOf_2 1 = .ok (.invokevirtual 492, 3) := dk_182 1 236 (dk_at dksJ10_indexOf_2_0 1 rfl rfl)
theorem dJ10_indexOf_2_4 : decode cJ10_indexOf_2 4 = .ok (.ifCond .eq 19, 3) := dk_153 0 19 (dk_at dksJ10_indexOf_2_0 4 rfl rfl)
theorem dJ10_indexOf_2_7 : decode cJ10_indexOf_2 7 = .ok (.aload_n 0, 1) := dk_42 (dk_at dksJ10_indexOf_2_0 7 rfl rfl)
theorem dJ10_indexOf_2_8 : decode cJ10_indexOf_2 8 = .ok (.getfield 9, 3) := dk_180 0 9 (dk_at dksJ10_indexOf_2_0 8 rfl rfl)
theorem dJ10_indexOf_2_11 : decode cJ10_indexOf_2 11 = .ok (.iload_n 1, 1) := dk_27 (dk_at dksJ10_indexOf_2_0 11 rfl rfl)
theorem dJ10_indexOf_2_12 : decode cJ10_indexOf_2 12 = .ok (.iload_n 2, 1) := dk_28 (dk_at dksJ10_indexOf_2_0 12 rfl rfl)
theorem dJ10_indexOf_2_13 : decode cJ10_indexOf_2 13 = .ok (.aload_n 0, 1) := dk_42 (dk_at dksJ10_indexOf_2_0 13 rfl rfl)
theorem dJ10_indexOf_2_14 : decode cJ10_indexOf_2 14 = .ok (.invokevirtual 505, 3) := dk_182 1 249 (dk_at dksJ10_indexOf_2_0 14 rfl rfl)
theorem dJ10_indexOf_2_17 : decode cJ10_indexOf_2 17 = .ok (.invokestatic 637, 3) := dk_184 2 125 (dk_at dksJ10_indexOf_2_0 17 rfl rfl)
theorem dJ10_indexOf_2_20 : decode cJ10_indexOf_2 20 = .ok (.goto 16, 3) := dk_167 0 16 (dk_at dksJ10_indexOf_2_0 20 rfl rfl)
theorem dJ10_indexOf_2_23 : decode cJ10_indexOf_2 23 = .ok (.aload_n 0, 1) := dk_42 (dk_at dksJ10_indexOf_2_0 23 rfl rfl)
theorem dJ10_indexOf_2_24 : decode cJ10_indexOf_2 24 = .ok (.getfield 9, 3) := dk_180 0 9 (dk_at dksJ10_indexOf_2_1 0 rfl rfl)
theorem dJ10_indexOf_2_27 : decode cJ10_indexOf_2 27 = .ok (.iload_n 1, 1) := dk_27 (dk_at dksJ10_indexOf_2_1 3 rfl rfl)
theorem dJ10_indexOf_2_28 : decode cJ10_indexOf_2 28 = .ok (.iload_n 2, 1) := dk_28 (dk_at dksJ10_indexOf_2_1 4 rfl rfl)
theorem dJ10_indexOf_2_29 : decode cJ10_indexOf_2 29 = .ok (.aload_n 0, 1) := dk_42 (dk_at dksJ10_indexOf_2_1 5 rfl rfl)
theorem dJ10_indexOf_2_30 : decode cJ10_indexOf_2 30 = .ok (.invokevirtual 505, 3) := dk_182 1 249 (dk_at dksJ10_indexOf_2_1 6 rfl rfl)
theorem dJ10_indexOf_2_33 : decode cJ10_indexOf_2 33 = .ok (.invokestatic 640, 3) := dk_184 2 128 (dk_at dksJ10_indexOf_2_1 9 rfl rfl)
theorem dJ10_indexOf_2_36 : decode cJ10_indexOf_2 36 = .ok (.ireturn, 1) := dk_172 (dk_at dksJ10_indexOf_2_1 12 rfl rfl)
abbrev cJ31_hashCode : ByteArray := prog_28_method_32_code
def yJ31_hashCode : MethodName := ⟨RJ31, "hashCode", "()I"⟩
def dkwJ31_hashCode_0 : List UInt8 := [42, 180, 0, 205, 184, 0, 208, 172]
abbrev dktJ31_hashCode_0 : List UInt8 := dkwJ31_hashCode_0 ++ []
theorem dksJ31_hashCode_0 : cJ31_hashCode.data.toList.drop 0 = dktJ31_hashCode_0 := by decide +kernel
theorem dJ31_hashCode_0 : decode cJ31_hashCode 0 = .ok (.aload_n 0, 1) := dk_42 (dk_at dksJ31_hashCode_0 0 rfl rfl)
theorem dJ31_hashCode_1 : decode cJ31_hashCode 1 = .ok (.getfield 205, 3) := dk_180 0 205 (dk_at dksJ31_hashCode_0 1 rfl rfl)
theorem dJ31_hashCode_4 : decode cJ31_hashCode 4 = .ok (.invokestatic 208, 3) := dk_184 0 208 (dk_at dksJ31_hashCode_0 4 rfl rfl)
theorem dJ31_hashCode_7 : decode cJ31_hashCode 7 = .ok (.ireturn, 1) := dk_172 (dk_at dksJ31_hashCode_0 7 rfl rfl)
abbrev cJ31_hashCode_2 : ByteArray := prog_28_method_33_code
def yJ31_hashCode_2 : MethodName := ⟨RJ31, "hashCode", "(I)I"⟩
theorem dJ31_hashCode_2_0 : decode cJ31_hashCode_2 0 = .ok (.iload_n 0, 1) := by decide +kernel
theorem dJ31_hashCode_2_1 : decode cJ31_hashCode_2 1 = .ok (.ireturn, 1) := by decide +kernel
abbrev cJ31_stringSize : ByteArray := prog_28_method_13_code
def yJ31_stringSize : MethodName := ⟨RJ31, "stringSize", "(I)I"⟩
def dkwJ31_stringSize_1 : List UInt8 := [164, 0, 7, 29, 27, 96, 172, 16, 10, 28, 104, 61, 132, 3, 1, 167, 255, 233, 16, 10, 27, 96, 172]
abbrev dktJ31_stringSize_1 : List UInt8 := dkwJ31_stringSize_1 ++ []
def dkwJ31_stringSize_0 : List UInt8 := [4, 60, 26, 155, 0, 8, 3, 60, 26, 116, 59, 16, 246, 61, 4, 62, 29, 16, 10, 162, 0, 23, 26, 28]
abbrev dktJ31_stringSize_0 : List UInt8 := dkwJ31_stringSize_0 ++ dktJ31_stringSize_1
theorem dksJ31_stringSize_0 : cJ31_stringSize.data.toList.drop 0 = dktJ31_stringSize_0 := by decide +kernel
theorem dksJ31_stringSize_1 : cJ31_stringSize.data.toList.drop 24 = dktJ31_stringSize_1 := dk_seg dksJ31_stringSize_0 24 rfl rfl
theorem dJ31_stringSize_0 : decode cJ31_stringSize 0 = .ok (.iconst 1, 1) := dk_4 (dk_at dksJ31_stringSize_0 0 rfl rfl)
theorem dJ31_stringSize_1 : decode cJ31_stringSize 1 = .ok (.istore_n 1, 1) := dk_60 (dk_at dksJ31_stringSize_0 1 rfl rfl)
theorem dJ31_stringSize_2 : decode cJ31_stringSize 2 = .ok (.iload_n 0, 1) := dk_26 (dk_at dksJ31_stringSize_0 2 rfl rfl)
theorem dJ31_stringSize_3 : decode cJ31_stringSize 3 = .ok (.ifCond .lt 8, 3) := dk_155 0 8 (dk_at dksJ31_stringSize_0 3 rfl rfl)
theorem dJ31_stringSize_6 : decode cJ31_stringSize 6 = .ok (.iconst 0, 1) := dk_3 (dk_at dksJ31_stringSize_0 6 rfl rfl)
theorem dJ31_stringSize_7 : decode cJ31_stringSize 7 = .ok (.istore_n 1, 1) := dk_60 (dk_at dksJ31_stringSize_0 7 rfl rfl)
theorem dJ31_stringSize_8 : decode cJ31_stringSize 8 = .ok (.iload_n 0, 1) := dk_26 (dk_at dksJ31_stringSize_0 8 rfl rfl)
theorem dJ31_stringSize_9 : decode cJ31_stringSize 9 = .ok (.ineg, 1) := dk_116 (dk_at dksJ31_stringSize_0 9 rfl rfl)
theorem dJ31_stringSize_10 : decode cJ31_stringSize 10 = .ok (.istore_n 0, 1) := dk_59 (dk_at dksJ31_stringSize_0 10 rfl rfl)
theorem dJ31_stringSize_11 : decode cJ31_stringSize 11 = .ok (.bipush (-10), 2) := dk_16 246 (dk_at dksJ31_stringSize_0 11 rfl rfl)
theorem dJ31_stringSize_13 : decode cJ31_stringSize 13 = .ok (.istore_n 2, 1) := dk_61 (dk_at dksJ31_stringSize_0 13 rfl rfl)
theorem dJ31_stringSize_14 : decode cJ31_stringSize 14 = .ok (.iconst 1, 1) := dk_4 (dk_at dksJ31_stringSize_0 14 rfl rfl)
theorem dJ31_stringSize_15 : decode cJ31_stringSize 15 = .ok (.istore_n 3, 1) := dk_62 (dk_at dksJ31_stringSize_0 15 rfl rfl)
theorem dJ31_stringSize_16 : decode cJ31_stringSize 16 = .ok (.iload_n 3, 1) := dk_29 (dk_at dksJ31_stringSize_0 16 rfl rfl)
theorem dJ31_stringSize_17 : decode cJ31_stringSize 17 = .ok (.bipush 10, 2) := dk_16 10 (dk_at dksJ31_stringSize_0 17 rfl rfl)
theorem dJ31_stringSize_19 : decode cJ31_stringSize 19 = .ok (.if_icmp .ge 23, 3) := dk_162 0 23 (dk_at dksJ31_stringSize_0 19 rfl rfl)
theorem dJ31_stringSize_22 : decode cJ31_stringSize 22 = .ok (.iload_n 0, 1) := dk_26 (dk_at dksJ31_stringSize_0 22 rfl rfl)
theorem dJ31_stringSize_23 : decode cJ31_stringSize 23 = .ok (.iload_n 2, 1) := dk_28 (dk_at dksJ31_stringSize_0 23 rfl rfl)
theorem dJ31_stringSize_24 : decode cJ31_stringSize 24 = .ok (.if_icmp .le 7, 3) := dk_164 0 7 (dk_at dksJ31_stringSize_1 0 rfl rfl)
theorem dJ31_stringSize_27 : decode cJ31_stringSize 27 = .ok (.iload_n 3, 1) := dk_29 (dk_at dksJ31_stringSize_1 3 rfl rfl)
theorem dJ31_stringSize_28 : decode cJ31_stringSize 28 = .ok (.iload_n 1, 1) := dk_27 (dk_at dksJ31_stringSize_1 4 rfl rfl)
theorem dJ31_stringSize_29 : decode cJ31_stringSize 29 = .ok (.iadd, 1) := dk_96 (dk_at dksJ31_stringSize_1 5 rfl rfl)
theorem dJ31_stringSize_30 : decode cJ31_stringSize 30 = .ok (.ireturn, 1) := dk_172 (dk_at dksJ31_stringSize_1 6 rfl rfl)
theorem dJ31_stringSize_31 : decode cJ31_stringSize 31 = .ok (.bipush 10, 2) := dk_16 10 (dk_at dksJ31_stringSize_1 7 rfl rfl)
theorem dJ31_stringSize_33 : decode cJ31_stringSize 33 = .ok (.iload_n 2, 1) := dk_28 (dk_at dksJ31_stringSize_1 9 rfl rfl)
theorem dJ31_stringSize_34 : decode cJ31_stringSize 34 = .ok (.imul, 1) := dk_104 (dk_at dksJ31_stringSize_1 10 rfl rfl)
theorem dJ31_stringSize_35 : decode cJ31_stringSize 35 = .ok (.istore_n 2, 1) := dk_61 (dk_at dksJ31_stringSize_1 11 rfl rfl)
theorem dJ31_stringSize_36 : decode cJ31_stringSize 36 = .ok (.iinc 3 1, 3) := dk_132 3 1 (dk_at dksJ31_stringSize_1 12 rfl rfl)
theorem dJ31_stringSize_39 : decode cJ31_stringSize 39 = .ok (.goto (-23), 3) := dk_167 255 233 (dk_at dksJ31_stringSize_1 15 rfl rfl)
theorem dJ31_stringSize_42 : decode cJ31_stringSize 42 = .ok (.bipush 10, 2) := dk_16 10 (dk_at dksJ31_stringSize_1 18 rfl rfl)
theorem dJ31_stringSize_44 : decode cJ31_stringSize 44 = .ok (.iload_n 1, 1) := dk_27 (dk_at dksJ31_stringSize_1 20 rfl rfl)
theorem dJ31_stringSize_45 : decode cJ31_stringSize 45 = .ok (.iadd, 1) := dk_96 (dk_at dksJ31_stringSize_1 21 rfl rfl)
theorem dJ31_stringSize_46 : decode cJ31_stringSize 46 = .ok (.ireturn, 1) := dk_172 (dk_at dksJ31_stringSize_1 22 rfl rfl)
abbrev cJ31_getChars : ByteArray := prog_28_method_12_code
def yJ31_getChars : MethodName := ⟨RJ31, "getChars", "(II[B)I"⟩
def dkwJ31_getChars_5 : List UInt8 := [16, 45, 84, 21, 5, 172]
abbrev dktJ31_getChars_5 : List UInt8 := dkwJ31_getChars_5 ++ []
def dkwJ31_getChars_4 : List UInt8 := [132, 5, 255, 21, 5, 178, 0, 87, 26, 116, 51, 84, 21, 6, 153, 0, 12, 44, 132, 5, 255, 21, 5]
abbrev dktJ31_getChars_4 : List UInt8 := dkwJ31_getChars_4 ++ dktJ31_getChars_5
def dkwJ31_getChars_3 : List UInt8 := [167, 255, 209, 44, 132, 5, 255, 21, 5, 178, 0, 83, 26, 116, 51, 84, 26, 16, 247, 162, 0, 16, 44]
abbrev dktJ31_getChars_3 : List UInt8 := dkwJ31_getChars_3 ++ dktJ31_getChars_4
def dkwJ31_getChars_2 : List UInt8 := [21, 5, 178, 0, 83, 21, 4, 51, 84, 44, 132, 5, 255, 21, 5, 178, 0, 87, 21, 4, 51, 84]
abbrev dktJ31_getChars_2 : List UInt8 := dkwJ31_getChars_2 ++ dktJ31_getChars_3
def dkwJ31_getChars_1 : List UInt8 := [16, 156, 163, 0, 47, 26, 16, 100, 108, 62, 29, 16, 100, 104, 26, 100, 54, 4, 29, 59, 44, 132, 5, 255]
abbrev dktJ31_getChars_1 : List UInt8 := dkwJ31_getChars_1 ++ dktJ31_getChars_2
def dkwJ31_getChars_0 : List UInt8 := [27, 54, 5, 26, 156, 0, 7, 4, 167, 0, 4, 3, 54, 6, 21, 6, 154, 0, 6, 26, 116, 59, 26]
abbrev dktJ31_getChars_0 : List UInt8 := dkwJ31_getChars_0 ++ dktJ31_getChars_1
theorem dksJ31_getChars_0 : cJ31_getChars.data.toList.drop 0 = dktJ31_getChars_0 := by decide +kernel
theorem dksJ31_getChars_1 : cJ31_getChars.data.toList.drop 23 = dktJ31_getChars_1 := dk_seg dksJ31_getChars_0 23 rfl rfl
theorem dksJ31_getChars_2 : cJ31_getChars.data.toList.drop 47 = dktJ31_getChars_2 := dk_seg dksJ31_getChars_1 24 rfl rfl
theorem dksJ31_getChars_3 : cJ31_getChars.data.toList.drop 69 = dktJ31_getChars_3 := dk_seg dksJ31_getChars_2 22 rfl rfl
theorem dksJ31_getChars_4 : cJ31_getChars.data.toList.drop 92 = dktJ31_getChars_4 := dk_seg dksJ31_getChars_3 23 rfl rfl
theorem dksJ31_getChars_5 : cJ31_getChars.data.toList.drop 115 = dktJ31_getChars_5 := dk_seg dksJ31_getChars_4 23 rfl rfl
theorem dJ31_getChars_0 : decode cJ31_getChars 0 = .ok (.iload_n 1, 1) := dk_27 (dk_at dksJ31_getChars_0 0 rfl rfl)
theorem dJ31_getChars_1 : decode cJ31_getChars 1 = .ok (.istore 5, 2) := dk_54 5 (dk_at dksJ31_getChars_0 1 rfl rfl)
theorem dJ31_getChars_3 : decode cJ31_getChars 3 = .ok (.iload_n 0, 1) := dk_26 (dk_at dksJ31_getChars_0 3 rfl rfl)
theorem dJ31_getChars_4 : decode cJ31_getChars 4 = .ok (.ifCond .ge 7, 3) := dk_156 0 7 (dk_at dksJ31_getChars_0 4 rfl rfl)
theorem dJ31_getChars_7 : decode cJ31_getChars 7 = .ok (.iconst 1, 1) := dk_4 (dk_at dksJ31_getChars_0 7 rfl rfl)
theorem dJ31_getChars_8 : decode cJ31_getChars 8 = .ok (.goto 4, 3) := dk_167 0 4 (dk_at dksJ31_getChars_0 8 rfl rfl)
theorem dJ31_getChars_11 : decode cJ31_getChars 11 = .ok (.iconst 0, 1) := dk_3 (dk_at dksJ31_getChars_0 11 rfl rfl)
theorem dJ31_getChars_12 : decode cJ31_getChars 12 = .ok (.istore 6, 2) := dk_54 6 (dk_at dksJ31_getChars_0 12 rfl rfl)
theorem dJ31_getChars_14 : decode cJ31_getChars 14 = .ok (.iload 6, 2) := dk_21 6 (dk_at dksJ31_getChars_0 14 rfl rfl)
theorem dJ31_getChars_16 : decode cJ31_getChars 16 = .ok (.ifCond .ne 6, 3) := dk_154 0 6 (dk_at dksJ31_getChars_0 16 rfl rfl)
theorem dJ31_getChars_19 : decode cJ31_getChars 19 = .ok (.iload_n 0, 1) := dk_26 (dk_at dksJ31_getChars_0 19 rfl rfl)
theorem dJ31_getChars_20 : decode cJ31_getChars 20 = .ok (.ineg, 1) := dk_116 (dk_at dksJ31_getChars_0 20 rfl rfl)
theorem dJ31_getChars_21 : decode cJ31_getChars 21 = .ok (.istore_n 0, 1) := dk_59 (dk_at dksJ31_getChars_0 21 rfl rfl)
theorem dJ31_getChars_22 : decode cJ31_getChars 22 = .ok (.iload_n 0, 1) := dk_26 (dk_at dksJ31_getChars_0 22 rfl rfl)
theorem dJ31_getChars_23 : decode cJ31_getChars 23 = .ok (.bipush (-100), 2) := dk_16 156 (dk_at dksJ31_getChars_1 0 rfl rfl)
theorem dJ31_getChars_25 : decode cJ31_getChars 25 = .ok (.if_icmp .gt 47, 3) := dk_163 0 47 (dk_at dksJ31_getChars_1 2 rfl rfl)
theorem dJ31_getChars_28 : decode cJ31_getChars 28 = .ok (.iload_n 0, 1) := dk_26 (dk_at dksJ31_getChars_1 5 rfl rfl)
theorem dJ31_getChars_29 : decode cJ31_getChars 29 = .ok (.bipush 100, 2) := dk_16 100 (dk_at dksJ31_getChars_1 6 rfl rfl)
theorem dJ31_getChars_31 : decode cJ31_getChars 31 = .ok (.idiv, 1) := dk_108 (dk_at dksJ31_getChars_1 8 rfl rfl)
theorem dJ31_getChars_32 : decode cJ31_getChars 32 = .ok (.istore_n 3, 1) := dk_62 (dk_at dksJ31_getChars_1 9 rfl rfl)
theorem dJ31_getChars_33 : decode cJ31_getChars 33 = .ok (.iload_n 3, 1) := dk_29 (dk_at dksJ31_getChars_1 10 rfl rfl)
theorem dJ31_getChars_34 : decode cJ31_getChars 34 = .ok (.bipush 100, 2) := dk_16 100 (dk_at dksJ31_getChars_1 11 rfl rfl)
theorem dJ31_getChars_36 : decode cJ31_getChars 36 = .ok (.imul, 1) := dk_104 (dk_at dksJ31_getChars_1 13 rfl rfl)
theorem dJ31_getChars_37 : decode cJ31_getChars 37 = .ok (.iload_n 0, 1) := dk_26 (dk_at dksJ31_getChars_1 14 rfl rfl)
theorem dJ31_getChars_38 : decode cJ31_getChars 38 = .ok (.isub, 1) := dk_100 (dk_at dksJ31_getChars_1 15 rfl rfl)
theorem dJ31_getChars_39 : decode cJ31_getChars 39 = .ok (.istore 4, 2) := dk_54 4 (dk_at dksJ31_getChars_1 16 rfl rfl)
theorem dJ31_getChars_41 : decode cJ31_getChars 41 = .ok (.iload_n 3, 1) := dk_29 (dk_at dksJ31_getChars_1 18 rfl rfl)
theorem dJ31_getChars_42 : decode cJ31_getChars 42 = .ok (.istore_n 0, 1) := dk_59 (dk_at dksJ31_getChars_1 19 rfl rfl)
theorem dJ31_getChars_43 : decode cJ31_getChars 43 = .ok (.aload_n 2, 1) := dk_44 (dk_at dksJ31_getChars_1 20 rfl rfl)
theorem dJ31_getChars_44 : decode cJ31_getChars 44 = .ok (.iinc 5 (-1), 3) := dk_132 5 255 (dk_at dksJ31_getChars_1 21 rfl rfl)
theorem dJ31_getChars_47 : decode cJ31_getChars 47 = .ok (.iload 5, 2) := dk_21 5 (dk_at dksJ31_getChars_2 0 rfl rfl)
theorem dJ31_getChars_49 : decode cJ31_getChars 49 = .ok (.getstatic 83, 3) := dk_178 0 83 (dk_at dksJ31_getChars_2 2 rfl rfl)
theorem dJ31_getChars_52 : decode cJ31_getChars 52 = .ok (.iload 4, 2) := dk_21 4 (dk_at dksJ31_getChars_2 5 rfl rfl)
theorem dJ31_getChars_54 : decode cJ31_getChars 54 = .ok (.baload, 1) := dk_51 (dk_at dksJ31_getChars_2 7 rfl rfl)
theorem dJ31_getChars_55 : decode cJ31_getChars 55 = .ok (.bastore, 1) := dk_84 (dk_at dksJ31_getChars_2 8 rfl rfl)
theorem dJ31_getChars_56 : decode cJ31_getChars 56 = .ok (.aload_n 2, 1) := dk_44 (dk_at dksJ31_getChars_2 9 rfl rfl)
theorem dJ31_getChars_57 : decode cJ31_getChars 57 = .ok (.iinc 5 (-1), 3) := dk_132 5 255 (dk_at dksJ31_getChars_2 10 rfl rfl)
theorem dJ31_getChars_60 : decode cJ31_getChars 60 = .ok (.iload 5, 2) := dk_21 5 (dk_at dksJ31_getChars_2 13 rfl rfl)
theorem dJ31_getChars_62 : decode cJ31_getChars 62 = .ok (.getstatic 87, 3) := dk_178 0 87 (dk_at dksJ31_getChars_2 15 rfl rfl)
theorem dJ31_getChars_65 : decode cJ31_getChars 65 = .ok (.iload 4, 2) := dk_21 4 (dk_at dksJ31_getChars_2 18 rfl rfl)
theorem dJ31_getChars_67 : decode cJ31_getChars 67 = .ok (.baload, 1) := dk_51 (dk_at dksJ31_getChars_2 20 rfl rfl)
theorem dJ31_getChars_68 : decode cJ31_getChars 68 = .ok (.bastore, 1) := dk_84 (dk_at dksJ31_getChars_2 21 rfl rfl)
theorem dJ31_getChars_69 : decode cJ31_getChars 69 = .ok (.goto (-47), 3) := dk_167 255 209 (dk_at dksJ31_getChars_3 0 rfl rfl)
theorem dJ31_getChars_72 : decode cJ31_getChars 72 = .ok (.aload_n 2, 1) := dk_44 (dk_at dksJ31_getChars_3 3 rfl rfl)
theorem dJ31_getChars_73 : decode cJ31_getChars 73 = .ok (.iinc 5 (-1), 3) := dk_132 5 255 (dk_at dksJ31_getChars_3 4 rfl rfl)
theorem dJ31_getChars_76 : decode cJ31_getChars 76 = .ok (.iload 5, 2) := dk_21 5 (dk_at dksJ31_getChars_3 7 rfl rfl)
theorem dJ31_getChars_78 : decode cJ31_getChars 78 = .ok (.getstatic 83, 3) := dk_178 0 83 (dk_at dksJ31_getChars_3 9 rfl rfl)
theorem dJ31_getChars_81 : decode cJ31_getChars 81 = .ok (.iload_n 0, 1) := dk_26 (dk_at dksJ31_getChars_3 12 rfl rfl)
theorem dJ31_getChars_82 : decode cJ31_getChars 82 = .ok (.ineg, 1) := dk_116 (dk_at dksJ31_getChars_3 13 rfl rfl)
theorem dJ31_getChars_83 : decode cJ31_getChars 83 = .ok (.baload, 1) := dk_51 (dk_at dksJ31_getChars_3 14 rfl rfl)
theorem dJ31_getChars_84 : decode cJ31_getChars 84 = .ok (.bastore, 1) := dk_84 (dk_at dksJ31_getChars_3 15 rfl rfl)
theorem dJ31_getChars_85 : decode cJ31_getChars 85 = .ok (.iload_n 0, 1) := dk_26 (dk_at dksJ31_getChars_3 16 rfl rfl)
theorem dJ31_getChars_86 : decode cJ31_getChars 86 = .ok (.bipush (-9), 2) := dk_16 247 (dk_at dksJ31_getChars_3 17 rfl rfl)
theorem dJ31_getChars_88 : decode cJ31_getChars 88 = .ok (.if_icmp .ge 16, 3) := dk_162 0 16 (dk_at dksJ31_getChars_3 19 rfl rfl)
theorem dJ31_getChars_91 : decode cJ31_getChars 91 = .ok (.aload_n 2, 1) := dk_44 (dk_at dksJ31_getChars_3 22 rfl rfl)
theorem dJ31_getChars_92 : decode cJ31_getChars 92 = .ok (.iinc 5 (-1), 3) := dk_132 5 255 (dk_at dksJ31_getChars_4 0 rfl rfl)
theorem dJ31_getChars_95 : decode cJ31_getChars 95 = .ok (.iload 5, 2) := dk_21 5 (dk_at dksJ31_getChars_4 3 rfl rfl)
theorem dJ31_getChars_97 : decode cJ31_getChars 97 = .ok (.getstatic 87, 3) := dk_178 0 87 (dk_at dksJ31_getChars_4 5 rfl rfl)
theorem dJ31_getChars_100 : decode cJ31_getChars 100 = .ok (.iload_n 0, 1) := dk_26 (dk_at dksJ31_getChars_4 8 rfl rfl)
theorem dJ31_getChars_101 : decode cJ31_getChars 101 = .ok (.ineg, 1) := dk_116 (dk_at dksJ31_getChars_4 9 rfl rfl)
theorem dJ31_getChars_102 : decode cJ31_getChars 102 = .ok (.baload, 1) := dk_51 (dk_at dksJ31_getChars_4 10 rfl rfl)
theorem dJ31_getChars_103 : decode cJ31_getChars 103 = .ok (.bastore, 1) := dk_84 (dk_at dksJ31_getChars_4 11 rfl rfl)
theorem dJ31_getChars_104 : decode cJ31_getChars 104 = .ok (.iload 6, 2) := dk_21 6 (dk_at dksJ31_getChars_4 12 rfl rfl)
theorem dJ31_getChars_106 : decode cJ31_getChars 106 = .ok (.ifCond .eq 12, 3) := dk_153 0 12 (dk_at dksJ31_getChars_4 14 rfl rfl)
theorem dJ31_getChars_109 : decode cJ31_getChars 109 = .ok (.aload_n 2, 1) := dk_44 (dk_at dksJ31_getChars_4 17 rfl rfl)
theorem dJ31_getChars_110 : decode cJ31_getChars 110 = .ok (.iinc 5 (-1), 3) := dk_132 5 255 (dk_at dksJ31_getChars_4 18 rfl rfl)
theorem dJ31_getChars_113 : decode cJ31_getChars 113 = .ok (.iload 5, 2) := dk_21 5 (dk_at dksJ31_getChars_4 21 rfl rfl)
theorem dJ31_getChars_115 : decode cJ31_getChars 115 = .ok (.bipush 45, 2) := dk_16 45 (dk_at dksJ31_getChars_5 0 rfl rfl)
theorem dJ31_getChars_117 : decode cJ31_getChars 117 = .ok (.bastore, 1) := dk_84 (dk_at dksJ31_getChars_5 2 rfl rfl)
theorem dJ31_getChars_118 : decode cJ31_getChars 118 = .ok (.iload 5, 2) := dk_21 5 (dk_at dksJ31_getChars_5 3 rfl rfl)
theorem dJ31_getChars_120 : decode cJ31_getChars 120 = .ok (.ireturn, 1) := dk_172 (dk_at dksJ31_getChars_5 5 rfl rfl)
abbrev cJ31_numberOfLeadingZeros : ByteArray := prog_28_method_47_code
def yJ31_numberOfLeadingZeros : MethodName := ⟨RJ31, "numberOfLeadingZeros", "(I)I"⟩
def dkwJ31_numberOfLeadingZeros_3 : List UInt8 := [5, 124, 59, 27, 26, 4, 124, 100, 172]
abbrev dktJ31_numberOfLeadingZeros_3 : List UInt8 := dkwJ31_numberOfLeadingZeros_3 ++ []
def dkwJ31_numberOfLeadingZeros_2 : List UInt8 := [124, 59, 26, 16, 16, 161, 0, 10, 132, 1, 252, 26, 7, 124, 59, 26, 7, 161, 0, 10, 132, 1, 254, 26]
abbrev dktJ31_numberOfLeadingZeros_2 : List UInt8 := dkwJ31_numberOfLeadingZeros_2 ++ dktJ31_numberOfLeadingZeros_3
def dkwJ31_numberOfLeadingZeros_1 : List UInt8 := [161, 0, 11, 132, 1, 240, 26, 16, 16, 124, 59, 26, 17, 1, 0, 161, 0, 11, 132, 1, 248, 26, 16, 8]
abbrev dktJ31_numberOfLeadingZeros_1 : List UInt8 := dkwJ31_numberOfLeadingZeros_1 ++ dktJ31_numberOfLeadingZeros_2
def dkwJ31_numberOfLeadingZeros_0 : List UInt8 := [26, 157, 0, 14, 26, 154, 0, 8, 16, 32, 167, 0, 4, 3, 172, 16, 31, 60, 26, 19, 1, 8]
abbrev dktJ31_numberOfLeadingZeros_0 : List UInt8 := dkwJ31_numberOfLeadingZeros_0 ++ dktJ31_numberOfLeadingZeros_1
theorem dksJ31_numberOfLeadingZeros_0 : cJ31_numberOfLeadingZeros.data.toList.drop 0 = dktJ31_numberOfLeadingZeros_0 := by decide +kernel
theorem dksJ31_numberOfLeadingZeros_1 : cJ31_numberOfLeadingZeros.data.toList.drop 22 = dktJ31_numberOfLeadingZeros_1 := dk_seg dksJ31_numberOfLeadingZeros_0 22 rfl rfl
theorem dksJ31_numberOfLeadingZeros_2 : cJ31_numberOfLeadingZeros.data.toList.drop 46 = dktJ31_numberOfLeadingZeros_2 := dk_seg dksJ31_numberOfLeadingZeros_1 24 rfl rfl
theorem dksJ31_numberOfLeadingZeros_3 : cJ31_numberOfLeadingZeros.data.toList.drop 70 = dktJ31_numberOfLeadingZeros_3 := dk_seg dksJ31_numberOfLeadingZeros_2 24 rfl rfl
theorem dJ31_numberOfLeadingZeros_0 : decode cJ31_numberOfLeadingZeros 0 = .ok (.iload_n 0, 1) := dk_26 (dk_at dksJ31_numberOfLeadingZeros_0 0 rfl rfl)
theorem dJ31_numberOfLeadingZeros_1 : decode cJ31_numberOfLeadingZeros 1 = .ok (.ifCond .gt 14, 3) := dk_157 0 14 (dk_at dksJ31_numberOfLeadingZeros_0 1 rfl rfl)
theorem dJ31_numberOfLeadingZeros_4 : decode cJ31_numberOfLeadingZeros 4 = .ok (.iload_n 0, 1) := dk_26 (dk_at dksJ31_numberOfLeadingZeros_0 4 rfl rfl)
theorem dJ31_numberOfLeadingZeros_5 : decode cJ31_numberOfLeadingZeros 5 = .ok (.ifCond .ne 8, 3) := dk_154 0 8 (dk_at dksJ31_numberOfLeadingZeros_0 5 rfl rfl)
theorem dJ31_numberOfLeadingZeros_8 : decode cJ31_numberOfLeadingZeros 8 = .ok (.bipush 32, 2) := dk_16 32 (dk_at dksJ31_numberOfLeadingZeros_0 8 rfl rfl)
theorem dJ31_numberOfLeadingZeros_10 : decode cJ31_numberOfLeadingZeros 10 = .ok (.goto 4, 3) := dk_167 0 4 (dk_at dksJ31_numberOfLeadingZeros_0 10 rfl rfl)
theorem dJ31_numberOfLeadingZeros_13 : decode cJ31_numberOfLeadingZeros 13 = .ok (.iconst 0, 1) := dk_3 (dk_at dksJ31_numberOfLeadingZeros_0 13 rfl rfl)
theorem dJ31_numberOfLeadingZeros_14 : decode cJ31_numberOfLeadingZeros 14 = .ok (.ireturn, 1) := dk_172 (dk_at dksJ31_numberOfLeadingZeros_0 14 rfl rfl)
theorem dJ31_numberOfLeadingZeros_15 : decode cJ31_numberOfLeadingZeros 15 = .ok (.bipush 31, 2) := dk_16 31 (dk_at dksJ31_numberOfLeadingZeros_0 15 rfl rfl)
theorem dJ31_numberOfLeadingZeros_17 : decode cJ31_numberOfLeadingZeros 17 = .ok (.istore_n 1, 1) := dk_60 (dk_at dksJ31_numberOfLeadingZeros_0 17 rfl rfl)
theorem dJ31_numberOfLeadingZeros_18 : decode cJ31_numberOfLeadingZeros 18 = .ok (.iload_n 0, 1) := dk_26 (dk_at dksJ31_numberOfLeadingZeros_0 18 rfl rfl)
theorem dJ31_numberOfLeadingZeros_19 : decode cJ31_numberOfLeadingZeros 19 = .ok (.ldc_w 264, 3) := dk_19 1 8 (dk_at dksJ31_numberOfLeadingZeros_0 19 rfl rfl)
theorem dJ31_numberOfLeadingZeros_22 : decode cJ31_numberOfLeadingZeros 22 = .ok (.if_icmp .lt 11, 3) := dk_161 0 11 (dk_at dksJ31_numberOfLeadingZeros_1 0 rfl rfl)
theorem dJ31_numberOfLeadingZeros_25 : decode cJ31_numberOfLeadingZeros 25 = .ok (.iinc 1 (-16), 3) := dk_132 1 240 (dk_at dksJ31_numberOfLeadingZeros_1 3 rfl rfl)
theorem dJ31_numberOfLeadingZeros_28 : decode cJ31_numberOfLeadingZeros 28 = .ok (.iload_n 0, 1) := dk_26 (dk_at dksJ31_numberOfLeadingZeros_1 6 rfl rfl)
theorem dJ31_numberOfLeadingZeros_29 : decode cJ31_numberOfLeadingZeros 29 = .ok (.bipush 16, 2) := dk_16 16 (dk_at dksJ31_numberOfLeadingZeros_1 7 rfl rfl)
theorem dJ31_numberOfLeadingZeros_31 : decode cJ31_numberOfLeadingZeros 31 = .ok (.iushr, 1) := dk_124 (dk_at dksJ31_numberOfLeadingZeros_1 9 rfl rfl)
theorem dJ31_numberOfLeadingZeros_32 : decode cJ31_numberOfLeadingZeros 32 = .ok (.istore_n 0, 1) := dk_59 (dk_at dksJ31_numberOfLeadingZeros_1 10 rfl rfl)
theorem dJ31_numberOfLeadingZeros_33 : decode cJ31_numberOfLeadingZeros 33 = .ok (.iload_n 0, 1) := dk_26 (dk_at dksJ31_numberOfLeadingZeros_1 11 rfl rfl)
theorem dJ31_numberOfLeadingZeros_34 : decode cJ31_numberOfLeadingZeros 34 = .ok (.sipush 256, 3) := dk_17 1 0 (dk_at dksJ31_numberOfLeadingZeros_1 12 rfl rfl)
theorem dJ31_numberOfLeadingZeros_37 : decode cJ31_numberOfLeadingZeros 37 = .ok (.if_icmp .lt 11, 3) := dk_161 0 11 (dk_at dksJ31_numberOfLeadingZeros_1 15 rfl rfl)
theorem dJ31_numberOfLeadingZeros_40 : decode cJ31_numberOfLeadingZeros 40 = .ok (.iinc 1 (-8), 3) := dk_132 1 248 (dk_at dksJ31_numberOfLeadingZeros_1 18 rfl rfl)
theorem dJ31_numberOfLeadingZeros_43 : decode cJ31_numberOfLeadingZeros 43 = .ok (.iload_n 0, 1) := dk_26 (dk_at dksJ31_numberOfLeadingZeros_1 21 rfl rfl)
theorem dJ31_numberOfLeadingZeros_44 : decode cJ31_numberOfLeadingZeros 44 = .ok (.bipush 8, 2) := dk_16 8 (dk_at dksJ31_numberOfLeadingZeros_1 22 rfl rfl)
theorem dJ31_numberOfLeadingZeros_46 : decode cJ31_numberOfLeadingZeros 46 = .ok (.iushr, 1) := dk_124 (dk_at dksJ31_numberOfLeadingZeros_2 0 rfl rfl)
theorem dJ31_numberOfLeadingZeros_47 : decode cJ31_numberOfLeadingZeros 47 = .ok (.istore_n 0, 1) := dk_59 (dk_at dksJ31_numberOfLeadingZeros_2 1 rfl rfl)
theorem dJ31_numberOfLeadingZeros_48 : decode cJ31_numberOfLeadingZeros 48 = .ok (.iload_n 0, 1) := dk_26 (dk_at dksJ31_numberOfLeadingZeros_2 2 rfl rfl)
theorem dJ31_numberOfLeadingZeros_49 : decode cJ31_numberOfLeadingZeros 49 = .ok (.bipush 16, 2) := dk_16 16 (dk_at dksJ31_numberOfLeadingZeros_2 3 rfl rfl)
theorem dJ31_numberOfLeadingZeros_51 : decode cJ31_numberOfLeadingZeros 51 = .ok (.if_icmp .lt 10, 3) := dk_161 0 10 (dk_at dksJ31_numberOfLeadingZeros_2 5 rfl rfl)
theorem dJ31_numberOfLeadingZeros_54 : decode cJ31_numberOfLeadingZeros 54 = .ok (.iinc 1 (-4), 3) := dk_132 1 252 (dk_at dksJ31_numberOfLeadingZeros_2 8 rfl rfl)
theorem dJ31_numberOfLeadingZeros_57 : decode cJ31_numberOfLeadingZeros 57 = .ok (.iload_n 0, 1) := dk_26 (dk_at dksJ31_numberOfLeadingZeros_2 11 rfl rfl)
theorem dJ31_numberOfLeadingZeros_58 : decode cJ31_numberOfLeadingZeros 58 = .ok (.iconst 4, 1) := dk_7 (dk_at dksJ31_numberOfLeadingZeros_2 12 rfl rfl)
theorem dJ31_numberOfLeadingZeros_59 : decode cJ31_numberOfLeadingZeros 59 = .ok (.iushr, 1) := dk_124 (dk_at dksJ31_numberOfLeadingZeros_2 13 rfl rfl)
theorem dJ31_numberOfLeadingZeros_60 : decode cJ31_numberOfLeadingZeros 60 = .ok (.istore_n 0, 1) := dk_59 (dk_at dksJ31_numberOfLeadingZeros_2 14 rfl rfl)
theorem dJ31_numberOfLeadingZeros_61 : decode cJ31_numberOfLeadingZeros 61 = .ok (.iload_n 0, 1) := dk_26 (dk_at dksJ31_numberOfLeadingZeros_2 15 rfl rfl)
theorem dJ31_numberOfLeadingZeros_62 : decode cJ31_numberOfLeadingZeros 62 = .ok (.iconst 4, 1) := dk_7 (dk_at dksJ31_numberOfLeadingZeros_2 16 rfl rfl)
theorem dJ31_numberOfLeadingZeros_63 : decode cJ31_numberOfLeadingZeros 63 = .ok (.if_icmp .lt 10, 3) := dk_161 0 10 (dk_at dksJ31_numberOfLeadingZeros_2 17 rfl rfl)
theorem dJ31_numberOfLeadingZeros_66 : decode cJ31_numberOfLeadingZeros 66 = .ok (.iinc 1 (-2), 3) := dk_132 1 254 (dk_at dksJ31_numberOfLeadingZeros_2 20 rfl rfl)
theorem dJ31_numberOfLeadingZeros_69 : decode cJ31_numberOfLeadingZeros 69 = .ok (.iload_n 0, 1) := dk_26 (dk_at dksJ31_numberOfLeadingZeros_2 23 rfl rfl)
theorem dJ31_numberOfLeadingZeros_70 : decode cJ31_numberOfLeadingZeros 70 = .ok (.iconst 2, 1) := dk_5 (dk_at dksJ31_numberOfLeadingZeros_3 0 rfl rfl)
theorem dJ31_numberOfLeadingZeros_71 : decode cJ31_numberOfLeadingZeros 71 = .ok (.iushr, 1) := dk_124 (dk_at dksJ31_numberOfLeadingZeros_3 1 rfl rfl)
theorem dJ31_numberOfLeadingZeros_72 : decode cJ31_numberOfLeadingZeros 72 = .ok (.istore_n 0, 1) := dk_59 (dk_at dksJ31_numberOfLeadingZeros_3 2 rfl rfl)
theorem dJ31_numberOfLeadingZeros_73 : decode cJ31_numberOfLeadingZeros 73 = .ok (.iload_n 1, 1) := dk_27 (dk_at dksJ31_numberOfLeadingZeros_3 3 rfl rfl)
theorem dJ31_numberOfLeadingZeros_74 : decode cJ31_numberOfLeadingZeros 74 = .ok (.iload_n 0, 1) := dk_26 (dk_at dksJ31_numberOfLeadingZeros_3 4 rfl rfl)
theorem dJ31_numberOfLeadingZeros_75 : decode cJ31_numberOfLeadingZeros 75 = .ok (.iconst 1, 1) := dk_4 (dk_at dksJ31_numberOfLeadingZeros_3 5 rfl rfl)
theorem dJ31_numberOfLeadingZeros_76 : decode cJ31_numberOfLeadingZeros 76 = .ok (.iushr, 1) := dk_124 (dk_at dksJ31_numberOfLeadingZeros_3 6 rfl rfl)
theorem dJ31_numberOfLeadingZeros_77 : decode cJ31_numberOfLeadingZeros 77 = .ok (.isub, 1) := dk_100 (dk_at dksJ31_numberOfLeadingZeros_3 7 rfl rfl)
theorem dJ31_numberOfLeadingZeros_78 : decode cJ31_numberOfLeadingZeros 78 = .ok (.ireturn, 1) := dk_172 (dk_at dksJ31_numberOfLeadingZeros_3 8 rfl rfl)
abbrev cJ31_equals : ByteArray := prog_28_method_34_code
def yJ31_equals : MethodName := ⟨RJ31, "equals", "(Ljava/lang/Object;)Z"⟩
def dkwJ31_equals_1 : List UInt8 := [167, 0, 4, 3, 172, 3, 172]
abbrev dktJ31_equals_1 : List UInt8 := dkwJ31_equals_1 ++ []
def dkwJ31_equals_0 : List UInt8 := [43, 193, 0, 1, 153, 0, 23, 42, 180, 0, 205, 43, 192, 0, 1, 182, 0, 211, 160, 0, 7, 4]
abbrev dktJ31_equals_0 : List UInt8 := dkwJ31_equals_0 ++ dktJ31_equals_1
theorem dksJ31_equals_0 : cJ31_equals.data.toList.drop 0 = dktJ31_equals_0 := by decide +kernel
theorem dksJ31_equals_1 : cJ31_equals.data.toList.drop 22 = dktJ31_equals_1 := dk_seg dksJ31_equals_0 22 rfl rfl
theorem dJ31_equals_0 : decode cJ31_equals 0 = .ok (.aload_n 1, 1) := dk_43 (dk_at dksJ31_equals_0 0 rfl rfl)
theorem dJ31_equals_1 : decode cJ31_equals 1 = .ok (.instanceof 1, 3) := dk_193 0 1 (dk_at dksJ31_equals_0 1 rfl rfl)
theorem dJ31_equals_4 : decode cJ31_equals 4 = .ok (.ifCond .eq 23, 3) := dk_153 0 23 (dk_at dksJ31_equals_0 4 rfl rfl)
theorem dJ31_equals_7 : decode cJ31_equals 7 = .ok (.aload_n 0, 1) := dk_42 (dk_at dksJ31_equals_0 7 rfl rfl)
theorem dJ31_equals_8 : decode cJ31_equals 8 = .ok (.getfield 205, 3) := dk_180 0 205 (dk_at dksJ31_equals_0 8 rfl rfl)
theorem dJ31_equals_11 : decode cJ31_equals 11 = .ok (.aload_n 1, 1) := dk_43 (dk_at dksJ31_equals_0 11 rfl rfl)
theorem dJ31_equals_12 : decode cJ31_equals 12 = .ok (.checkcast 1, 3) := dk_192 0 1 (dk_at dksJ31_equals_0 12 rfl rfl)
theorem dJ31_equals_15 : decode cJ31_equals 15 = .ok (.invokevirtual 211, 3) := dk_182 0 211 (dk_at dksJ31_equals_0 15 rfl rfl)
theorem dJ31_equals_18 : decode cJ31_equals 18 = .ok (.if_icmp .ne 7, 3) := dk_160 0 7 (dk_at dksJ31_equals_0 18 rfl rfl)
theorem dJ31_equals_21 : decode cJ31_equals 21 = .ok (.iconst 1, 1) := dk_4 (dk_at dksJ31_equals_0 21 rfl rfl)
theorem dJ31_equals_22 : decode cJ31_equals 22 = .ok (.goto 4, 3) := dk_167 0 4 (dk_at dksJ31_equals_1 0 rfl rfl)
theorem dJ31_equals_25 : decode cJ31_equals 25 = .ok (.iconst 0, 1) := dk_3 (dk_at dksJ31_equals_1 3 rfl rfl)
theorem dJ31_equals_26 : decode cJ31_equals 26 = .ok (.ireturn, 1) := dk_172 (dk_at dksJ31_equals_1 4 rfl rfl)
theorem dJ31_equals_27 : decode cJ31_equals 27 = .ok (.iconst 0, 1) := dk_3 (dk_at dksJ31_equals_1 5 rfl rfl)
theorem dJ31_equals_28 : decode cJ31_equals 28 = .ok (.ireturn, 1) := dk_172 (dk_at dksJ31_equals_1 6 rfl rfl)
abbrev cJ31_intValue : ByteArray := prog_28_method_27_code
def yJ31_intValue : MethodName := ⟨RJ31, "intValue", "()I"⟩
theorem dJ31_intValue_0 : decode cJ31_intValue 0 = .ok (.aload_n 0, 1) := by decide +kernel
theorem dJ31_intValue_1 : decode cJ31_intValue 1 = .ok (.getfield 205, 3) := by decide +kernel
theorem dJ31_intValue_4 : decode cJ31_intValue 4 = .ok (.ireturn, 1) := by decide +kernel
abbrev cJ31_valueOf : ByteArray := prog_28_method_22_code
def yJ31_valueOf : MethodName := ⟨RJ31, "valueOf", "(I)Ljava/lang/Integer;"⟩
def dkwJ31_valueOf_1 : List UInt8 := [187, 0, 1, 89, 26, 183, 0, 199, 176]
abbrev dktJ31_valueOf_1 : List UInt8 := dkwJ31_valueOf_1 ++ []
def dkwJ31_valueOf_0 : List UInt8 := [26, 16, 128, 161, 0, 20, 26, 178, 0, 191, 163, 0, 13, 178, 0, 195, 26, 17, 0, 128, 96, 50, 176]
abbrev dktJ31_valueOf_0 : List UInt8 := dkwJ31_valueOf_0 ++ dktJ31_valueOf_1
theorem dksJ31_valueOf_0 : cJ31_valueOf.data.toList.drop 0 = dktJ31_valueOf_0 := by decide +kernel
theorem dksJ31_valueOf_1 : cJ31_valueOf.data.toList.drop 23 = dktJ31_valueOf_1 := dk_seg dksJ31_valueOf_0 23 rfl rfl
theorem dJ31_valueOf_0 : decode cJ31_valueOf 0 = .ok (.iload_n 0, 1) := dk_26 (dk_at dksJ31_valueOf_0 0 rfl rfl)
theorem dJ31_valueOf_1 : decode cJ31_valueOf 1 = .ok (.bipush (-128), 2) := dk_16 128 (dk_at dksJ31_valueOf_0 1 rfl rfl)
theorem dJ31_valueOf_3 : decode cJ31_valueOf 3 = .ok (.if_icmp .lt 20, 3) := dk_161 0 20 (dk_at dksJ31_valueOf_0 3 rfl rfl)
theorem dJ31_valueOf_6 : decode cJ31_valueOf 6 = .ok (.iload_n 0, 1) := dk_26 (dk_at dksJ31_valueOf_0 6 rfl rfl)
theorem dJ31_valueOf_7 : decode cJ31_valueOf 7 = .ok (.getstatic 191, 3) := dk_178 0 191 (dk_at dksJ31_valueOf_0 7 rfl rfl)
theorem dJ31_valueOf_10 : decode cJ31_valueOf 10 = .ok (.if_icmp .gt 13, 3) := dk_163 0 13 (dk_at dksJ31_valueOf_0 10 rfl rfl)
theorem dJ31_valueOf_13 : decode cJ31_valueOf 13 = .ok (.getstatic 195, 3) := dk_178 0 195 (dk_at dksJ31_valueOf_0 13 rfl rfl)
theorem dJ31_valueOf_16 : decode cJ31_valueOf 16 = .ok (.iload_n 0, 1) := dk_26 (dk_at dksJ31_valueOf_0 16 rfl rfl)
theorem dJ31_valueOf_17 : decode cJ31_valueOf 17 = .ok (.sipush 128, 3) := dk_17 0 128 (dk_at dksJ31_valueOf_0 17 rfl rfl)
theorem dJ31_valueOf_20 : decode cJ31_valueOf 20 = .ok (.iadd, 1) := dk_96 (dk_at dksJ31_valueOf_0 20 rfl rfl)
theorem dJ31_valueOf_21 : decode cJ31_valueOf 21 = .ok (.aaload, 1) := dk_50 (dk_at dksJ31_valueOf_0 21 rfl rfl)
theorem dJ31_valueOf_22 : decode cJ31_valueOf 22 = .ok (.areturn, 1) := dk_176 (dk_at dksJ31_valueOf_0 22 rfl rfl)
theorem dJ31_valueOf_23 : decode cJ31_valueOf 23 = .ok (.new 1, 3) := dk_187 0 1 (dk_at dksJ31_valueOf_1 0 rfl rfl)
theorem dJ31_valueOf_26 : decode cJ31_valueOf 26 = .ok (.dup, 1) := dk_89 (dk_at dksJ31_valueOf_1 3 rfl rfl)
theorem dJ31_valueOf_27 : decode cJ31_valueOf 27 = .ok (.iload_n 0, 1) := dk_26 (dk_at dksJ31_valueOf_1 4 rfl rfl)
theorem dJ31_valueOf_28 : decode cJ31_valueOf 28 = .ok (.invokespecial 199, 3) := dk_183 0 199 (dk_at dksJ31_valueOf_1 5 rfl rfl)
theorem dJ31_valueOf_31 : decode cJ31_valueOf 31 = .ok (.areturn, 1) := dk_176 (dk_at dksJ31_valueOf_1 8 rfl rfl)
abbrev cJ31_init : ByteArray := prog_28_method_23_code
def yJ31_init : MethodName := ⟨RJ31, "<init>", "(I)V"⟩
def dkwJ31_init_0 : List UInt8 := [42, 183, 0, 202, 42, 27, 181, 0, 205, 177]
abbrev dktJ31_init_0 : List UInt8 := dkwJ31_init_0 ++ []
theorem dksJ31_init_0 : cJ31_init.data.toList.drop 0 = dktJ31_init_0 := by decide +kernel
theorem dJ31_init_0 : decode cJ31_init 0 = .ok (.aload_n 0, 1) := dk_42 (dk_at dksJ31_init_0 0 rfl rfl)
theorem dJ31_init_1 : decode cJ31_init 1 = .ok (.invokespecial 202, 3) := dk_183 0 202 (dk_at dksJ31_init_0 1 rfl rfl)
theorem dJ31_init_4 : decode cJ31_init 4 = .ok (.aload_n 0, 1) := dk_42 (dk_at dksJ31_init_0 4 rfl rfl)
theorem dJ31_init_5 : decode cJ31_init 5 = .ok (.iload_n 1, 1) := dk_27 (dk_at dksJ31_init_0 5 rfl rfl)
theorem dJ31_init_6 : decode cJ31_init 6 = .ok (.putfield 205, 3) := dk_181 0 205 (dk_at dksJ31_init_0 6 rfl rfl)
theorem dJ31_init_9 : decode cJ31_init 9 = .ok (.return_, 1) := dk_177 (dk_at dksJ31_init_0 9 rfl rfl)
abbrev cJ30_init : ByteArray := prog_33_method_1_code
def yJ30_init : MethodName := ⟨RJ30, "<init>", "()V"⟩
theorem dJ30_init_0 : decode cJ30_init 0 = .ok (.aload_n 0, 1) := by decide +kernel
theorem dJ30_init_1 : decode cJ30_init 1 = .ok (.invokespecial 1, 3) := by decide +kernel
theorem dJ30_init_4 : decode cJ30_init 4 = .ok (.return_, 1) := by decide +kernel
abbrev cJ35_copyOf : ByteArray := prog_53_method_121_code
def yJ35_copyOf : MethodName := ⟨RJ35, "copyOf", "([BI)[B"⟩
def dkwJ35_copyOf_1 : List UInt8 := [27, 184, 1, 48, 184, 0, 150, 44, 176]
abbrev dktJ35_copyOf_1 : List UInt8 := dkwJ35_copyOf_1 ++ []
def dkwJ35_copyOf_0 : List UInt8 := [27, 42, 190, 160, 0, 11, 42, 182, 1, 54, 192, 1, 55, 176, 27, 188, 8, 77, 42, 3, 44, 3, 42, 190]
abbrev dktJ35_copyOf_0 : List UInt8 := dkwJ35_copyOf_0 ++ dktJ35_copyOf_1
theorem dksJ35_copyOf_0 : cJ35_copyOf.data.toList.drop 0 = dktJ35_copyOf_0 := by decide +kernel
theorem dksJ35_copyOf_1 : cJ35_copyOf.data.toList.drop 24 = dktJ35_copyOf_1 := dk_seg dksJ35_copyOf_0 24 rfl rfl
theorem dJ35_copyOf_0 : decode cJ35_copyOf 0 = .ok (.iload_n 1, 1) := dk_27 (dk_at dksJ35_copyOf_0 0 rfl rfl)
theorem dJ35_copyOf_1 : decode cJ35_copyOf 1 = .ok (.aload_n 0, 1) := dk_42 (dk_at dksJ35_copyOf_0 1 rfl rfl)
theorem dJ35_copyOf_2 : decode cJ35_copyOf 2 = .ok (.arraylength, 1) := dk_190 (dk_at dksJ35_copyOf_0 2 rfl rfl)
theorem dJ35_copyOf_3 : decode cJ35_copyOf 3 = .ok (.if_icmp .ne 11, 3) := dk_160 0 11 (dk_at dksJ35_copyOf_0 3 rfl rfl)
theorem dJ35_copyOf_6 : decode cJ35_copyOf 6 = .ok (.aload_n 0, 1) := dk_42 (dk_at dksJ35_copyOf_0 6 rfl rfl)
theorem dJ35_copyOf_7 : decode cJ35_copyOf 7 = .ok (.invokevirtual 310, 3) := dk_182 1 54 (dk_at dksJ35_copyOf_0 7 rfl rfl)
theorem dJ35_copyOf_10 : decode cJ35_copyOf 10 = .ok (.checkcast 311, 3) := dk_192 1 55 (dk_at dksJ35_copyOf_0 10 rfl rfl)
theorem dJ35_copyOf_13 : decode cJ35_copyOf 13 = .ok (.areturn, 1) := dk_176 (dk_at dksJ35_copyOf_0 13 rfl rfl)
theorem dJ35_copyOf_14 : decode cJ35_copyOf 14 = .ok (.iload_n 1, 1) := dk_27 (dk_at dksJ35_copyOf_0 14 rfl rfl)
theorem dJ35_copyOf_15 : decode cJ35_copyOf 15 = .ok (.newarray .byte, 2) := dk_188_8 (dk_at dksJ35_copyOf_0 15 rfl rfl)
theorem dJ35_copyOf_17 : decode cJ35_copyOf 17 = .ok (.astore_n 2, 1) := dk_77 (dk_at dksJ35_copyOf_0 17 rfl rfl)
theorem dJ35_copyOf_18 : decode cJ35_copyOf 18 = .ok (.aload_n 0, 1) := dk_42 (dk_at dksJ35_copyOf_0 18 rfl rfl)
theorem dJ35_copyOf_19 : decode cJ35_copyOf 19 = .ok (.iconst 0, 1) := dk_3 (dk_at dksJ35_copyOf_0 19 rfl rfl)
theorem dJ35_copyOf_20 : decode cJ35_copyOf 20 = .ok (.aload_n 2, 1) := dk_44 (dk_at dksJ35_copyOf_0 20 rfl rfl)
theorem dJ35_copyOf_21 : decode cJ35_copyOf 21 = .ok (.iconst 0, 1) := dk_3 (dk_at dksJ35_copyOf_0 21 rfl rfl)
theorem dJ35_copyOf_22 : decode cJ35_copyOf 22 = .ok (.aload_n 0, 1) := dk_42 (dk_at dksJ35_copyOf_0 22 rfl rfl)
theorem dJ35_copyOf_23 : decode cJ35_copyOf 23 = .ok (.arraylength, 1) := dk_190 (dk_at dksJ35_copyOf_0 23 rfl rfl)
theorem dJ35_copyOf_24 : decode cJ35_copyOf 24 = .ok (.iload_n 1, 1) := dk_27 (dk_at dksJ35_copyOf_1 0 rfl rfl)
theorem dJ35_copyOf_25 : decode cJ35_copyOf 25 = .ok (.invokestatic 304, 3) := dk_184 1 48 (dk_at dksJ35_copyOf_1 1 rfl rfl)
theorem dJ35_copyOf_28 : decode cJ35_copyOf 28 = .ok (.invokestatic 150, 3) := dk_184 0 150 (dk_at dksJ35_copyOf_1 4 rfl rfl)
theorem dJ35_copyOf_31 : decode cJ35_copyOf 31 = .ok (.aload_n 2, 1) := dk_44 (dk_at dksJ35_copyOf_1 7 rfl rfl)
theorem dJ35_copyOf_32 : decode cJ35_copyOf 32 = .ok (.areturn, 1) := dk_176 (dk_at dksJ35_copyOf_1 8 rfl rfl)
abbrev cJ35_copyOfRange : ByteArray := prog_53_method_132_code
def yJ35_copyOfRange : MethodName := ⟨RJ35, "copyOfRange", "([BII)[B"⟩
def dkwJ35_copyOfRange_1 : List UInt8 := [176]
abbrev dktJ35_copyOfRange_1 : List UInt8 := dkwJ35_copyOfRange_1 ++ []
def dkwJ35_copyOfRange_0 : List UInt8 := [27, 154, 0, 9, 28, 42, 190, 159, 0, 10, 42, 27, 28, 184, 1, 83, 176, 42, 182, 1, 54, 192, 1, 55]
abbrev dktJ35_copyOfRange_0 : List UInt8 := dkwJ35_copyOfRange_0 ++ dktJ35_copyOfRange_1
theorem dksJ35_copyOfRange_0 : cJ35_copyOfRange.data.toList.drop 0 = dktJ35_copyOfRange_0 := by decide +kernel
theorem dksJ35_copyOfRange_1 : cJ35_copyOfRange.data.toList.drop 24 = dktJ35_copyOfRange_1 := dk_seg dksJ35_copyOfRange_0 24 rfl rfl
theorem dJ35_copyOfRange_0 : decode cJ35_copyOfRange 0 = .ok (.iload_n 1, 1) := dk_27 (dk_at dksJ35_copyOfRange_0 0 rfl rfl)
theorem dJ35_copyOfRange_1 : decode cJ35_copyOfRange 1 = .ok (.ifCond .ne 9, 3) := dk_154 0 9 (dk_at dksJ35_copyOfRange_0 1 rfl rfl)
theorem dJ35_copyOfRange_4 : decode cJ35_copyOfRange 4 = .ok (.iload_n 2, 1) := dk_28 (dk_at dksJ35_copyOfRange_0 4 rfl rfl)
theorem dJ35_copyOfRange_5 : decode cJ35_copyOfRange 5 = .ok (.aload_n 0, 1) := dk_42 (dk_at dksJ35_copyOfRange_0 5 rfl rfl)
theorem dJ35_copyOfRange_6 : decode cJ35_copyOfRange 6 = .ok (.arraylength, 1) := dk_190 (dk_at dksJ35_copyOfRange_0 6 rfl rfl)
theorem dJ35_copyOfRange_7 : decode cJ35_copyOfRange 7 = .ok (.if_icmp .eq 10, 3) := dk_159 0 10 (dk_at dksJ35_copyOfRange_0 7 rfl rfl)
theorem dJ35_copyOfRange_10 : decode cJ35_copyOfRange 10 = .ok (.aload_n 0, 1) := dk_42 (dk_at dksJ35_copyOfRange_0 10 rfl rfl)
theorem dJ35_copyOfRange_11 : decode cJ35_copyOfRange 11 = .ok (.iload_n 1, 1) := dk_27 (dk_at dksJ35_copyOfRange_0 11 rfl rfl)
theorem dJ35_copyOfRange_12 : decode cJ35_copyOfRange 12 = .ok (.iload_n 2, 1) := dk_28 (dk_at dksJ35_copyOfRange_0 12 rfl rfl)
theorem dJ35_copyOfRange_13 : decode cJ35_copyOfRange 13 = .ok (.invokestatic 339, 3) := dk_184 1 83 (dk_at dksJ35_copyOfRange_0 13 rfl rfl)
theorem dJ35_copyOfRange_16 : decode cJ35_copyOfRange 16 = .ok (.areturn, 1) := dk_176 (dk_at dksJ35_copyOfRange_0 16 rfl rfl)
theorem dJ35_copyOfRange_17 : decode cJ35_copyOfRange 17 = .ok (.aload_n 0, 1) := dk_42 (dk_at dksJ35_copyOfRange_0 17 rfl rfl)
theorem dJ35_copyOfRange_18 : decode cJ35_copyOfRange 18 = .ok (.invokevirtual 310, 3) := dk_182 1 54 (dk_at dksJ35_copyOfRange_0 18 rfl rfl)
theorem dJ35_copyOfRange_21 : decode cJ35_copyOfRange 21 = .ok (.checkcast 311, 3) := dk_192 1 55 (dk_at dksJ35_copyOfRange_0 21 rfl rfl)
theorem dJ35_copyOfRange_24 : decode cJ35_copyOfRange 24 = .ok (.areturn, 1) := dk_176 (dk_at dksJ35_copyOfRange_1 0 rfl rfl)
abbrev cJ35_copyOfRangeByte : ByteArray := prog_53_method_133_code
def yJ35_copyOfRangeByte : MethodName := ⟨RJ35, "copyOfRangeByte", "([BII)[B"⟩
def dkwJ35_copyOfRangeByte_1 : List UInt8 := [184, 1, 48, 184, 0, 150, 25, 4, 176]
abbrev dktJ35_copyOfRangeByte_1 : List UInt8 := dkwJ35_copyOfRangeByte_1 ++ []
def dkwJ35_copyOfRangeByte_0 : List UInt8 := [27, 28, 184, 1, 87, 28, 27, 100, 62, 29, 188, 8, 58, 4, 42, 27, 25, 4, 3, 42, 190, 27, 100, 29]
abbrev dktJ35_copyOfRangeByte_0 : List UInt8 := dkwJ35_copyOfRangeByte_0 ++ dktJ35_copyOfRangeByte_1
theorem dksJ35_copyOfRangeByte_0 : cJ35_copyOfRangeByte.data.toList.drop 0 = dktJ35_copyOfRangeByte_0 := by decide +kernel
theorem dksJ35_copyOfRangeByte_1 : cJ35_copyOfRangeByte.data.toList.drop 24 = dktJ35_copyOfRangeByte_1 := dk_seg dksJ35_copyOfRangeByte_0 24 rfl rfl
theorem dJ35_copyOfRangeByte_0 : decode cJ35_copyOfRangeByte 0 = .ok (.iload_n 1, 1) := dk_27 (dk_at dksJ35_copyOfRangeByte_0 0 rfl rfl)
theorem dJ35_copyOfRangeByte_1 : decode cJ35_copyOfRangeByte 1 = .ok (.iload_n 2, 1) := dk_28 (dk_at dksJ35_copyOfRangeByte_0 1 rfl rfl)
theorem dJ35_copyOfRangeByte_2 : decode cJ35_copyOfRangeByte 2 = .ok (.invokestatic 343, 3) := dk_184 1 87 (dk_at dksJ35_copyOfRangeByte_0 2 rfl rfl)
theorem dJ35_copyOfRangeByte_5 : decode cJ35_copyOfRangeByte 5 = .ok (.iload_n 2, 1) := dk_28 (dk_at dksJ35_copyOfRangeByte_0 5 rfl rfl)
theorem dJ35_copyOfRangeByte_6 : decode cJ35_copyOfRangeByte 6 = .ok (.iload_n 1, 1) := dk_27 (dk_at dksJ35_copyOfRangeByte_0 6 rfl rfl)
theorem dJ35_copyOfRangeByte_7 : decode cJ35_copyOfRangeByte 7 = .ok (.isub, 1) := dk_100 (dk_at dksJ35_copyOfRangeByte_0 7 rfl rfl)
theorem dJ35_copyOfRangeByte_8 : decode cJ35_copyOfRangeByte 8 = .ok (.istore_n 3, 1) := dk_62 (dk_at dksJ35_copyOfRangeByte_0 8 rfl rfl)
theorem dJ35_copyOfRangeByte_9 : decode cJ35_copyOfRangeByte 9 = .ok (.iload_n 3, 1) := dk_29 (dk_at dksJ35_copyOfRangeByte_0 9 rfl rfl)
theorem dJ35_copyOfRangeByte_10 : decode cJ35_copyOfRangeByte 10 = .ok (.newarray .byte, 2) := dk_188_8 (dk_at dksJ35_copyOfRangeByte_0 10 rfl rfl)
theorem dJ35_copyOfRangeByte_12 : decode cJ35_copyOfRangeByte 12 = .ok (.astore 4, 2) := dk_58 4 (dk_at dksJ35_copyOfRangeByte_0 12 rfl rfl)
theorem dJ35_copyOfRangeByte_14 : decode cJ35_copyOfRangeByte 14 = .ok (.aload_n 0, 1) := dk_42 (dk_at dksJ35_copyOfRangeByte_0 14 rfl rfl)
theorem dJ35_copyOfRangeByte_15 : decode cJ35_copyOfRangeByte 15 = .ok (.iload_n 1, 1) := dk_27 (dk_at dksJ35_copyOfRangeByte_0 15 rfl rfl)
theorem dJ35_copyOfRangeByte_16 : decode cJ35_copyOfRangeByte 16 = .ok (.aload 4, 2) := dk_25 4 (dk_at dksJ35_copyOfRangeByte_0 16 rfl rfl)
theorem dJ35_copyOfRangeByte_18 : decode cJ35_copyOfRangeByte 18 = .ok (.iconst 0, 1) := dk_3 (dk_at dksJ35_copyOfRangeByte_0 18 rfl rfl)
theorem dJ35_copyOfRangeByte_19 : decode cJ35_copyOfRangeByte 19 = .ok (.aload_n 0, 1) := dk_42 (dk_at dksJ35_copyOfRangeByte_0 19 rfl rfl)
theorem dJ35_copyOfRangeByte_20 : decode cJ35_copyOfRangeByte 20 = .ok (.arraylength, 1) := dk_190 (dk_at dksJ35_copyOfRangeByte_0 20 rfl rfl)
theorem dJ35_copyOfRangeByte_21 : decode cJ35_copyOfRangeByte 21 = .ok (.iload_n 1, 1) := dk_27 (dk_at dksJ35_copyOfRangeByte_0 21 rfl rfl)
theorem dJ35_copyOfRangeByte_22 : decode cJ35_copyOfRangeByte 22 = .ok (.isub, 1) := dk_100 (dk_at dksJ35_copyOfRangeByte_0 22 rfl rfl)
theorem dJ35_copyOfRangeByte_23 : decode cJ35_copyOfRangeByte 23 = .ok (.iload_n 3, 1) := dk_29 (dk_at dksJ35_copyOfRangeByte_0 23 rfl rfl)
theorem dJ35_copyOfRangeByte_24 : decode cJ35_copyOfRangeByte 24 = .ok (.invokestatic 304, 3) := dk_184 1 48 (dk_at dksJ35_copyOfRangeByte_1 0 rfl rfl)
theorem dJ35_copyOfRangeByte_27 : decode cJ35_copyOfRangeByte 27 = .ok (.invokestatic 150, 3) := dk_184 0 150 (dk_at dksJ35_copyOfRangeByte_1 3 rfl rfl)
theorem dJ35_copyOfRangeByte_30 : decode cJ35_copyOfRangeByte 30 = .ok (.aload 4, 2) := dk_25 4 (dk_at dksJ35_copyOfRangeByte_1 6 rfl rfl)
theorem dJ35_copyOfRangeByte_32 : decode cJ35_copyOfRangeByte 32 = .ok (.areturn, 1) := dk_176 (dk_at dksJ35_copyOfRangeByte_1 8 rfl rfl)
abbrev cJ35_checkLength : ByteArray := prog_53_method_131_code
def yJ35_checkLength : MethodName := ⟨RJ35, "checkLength", "(II)V"⟩
def dkwJ35_checkLength_1 : List UInt8 := [182, 0, 50, 27, 182, 0, 54, 182, 0, 61, 183, 0, 65, 191, 177]
abbrev dktJ35_checkLength_1 : List UInt8 := dkwJ35_checkLength_1 ++ []
def dkwJ35_checkLength_0 : List UInt8 := [27, 26, 162, 0, 35, 187, 0, 43, 89, 187, 0, 45, 89, 183, 0, 47, 26, 182, 0, 54, 19, 1, 81]
abbrev dktJ35_checkLength_0 : List UInt8 := dkwJ35_checkLength_0 ++ dktJ35_checkLength_1
theorem dksJ35_checkLength_0 : cJ35_checkLength.data.toList.drop 0 = dktJ35_checkLength_0 := by decide +kernel
theorem dksJ35_checkLength_1 : cJ35_checkLength.data.toList.drop 23 = dktJ35_checkLength_1 := dk_seg dksJ35_checkLength_0 23 rfl rfl
theorem dJ35_checkLength_0 : decode cJ35_checkLength 0 = .ok (.iload_n 1, 1) := dk_27 (dk_at dksJ35_checkLength_0 0 rfl rfl)
theorem dJ35_checkLength_1 : decode cJ35_checkLength 1 = .ok (.iload_n 0, 1) := dk_26 (dk_at dksJ35_checkLength_0 1 rfl rfl)
theorem dJ35_checkLength_2 : decode cJ35_checkLength 2 = .ok (.if_icmp .ge 35, 3) := dk_162 0 35 (dk_at dksJ35_checkLength_0 2 rfl rfl)
theorem dJ35_checkLength_5 : decode cJ35_checkLength 5 = .ok (.new 43, 3) := dk_187 0 43 (dk_at dksJ35_checkLength_0 5 rfl rfl)
theorem dJ35_checkLength_8 : decode cJ35_checkLength 8 = .ok (.dup, 1) := dk_89 (dk_at dksJ35_checkLength_0 8 rfl rfl)
theorem dJ35_checkLength_9 : decode cJ35_checkLength 9 = .ok (.new 45, 3) := dk_187 0 45 (dk_at dksJ35_checkLength_0 9 rfl rfl)
theorem dJ35_checkLength_12 : decode cJ35_checkLength 12 = .ok (.dup, 1) := dk_89 (dk_at dksJ35_checkLength_0 12 rfl rfl)
theorem dJ35_checkLength_13 : decode cJ35_checkLength 13 = .ok (.invokespecial 47, 3) := dk_183 0 47 (dk_at dksJ35_checkLength_0 13 rfl rfl)
theorem dJ35_checkLength_16 : decode cJ35_checkLength 16 = .ok (.iload_n 0, 1) := dk_26 (dk_at dksJ35_checkLength_0 16 rfl rfl)
theorem dJ35_checkLength_17 : decode cJ35_checkLength 17 = .ok (.invokevirtual 54, 3) := dk_182 0 54 (dk_at dksJ35_checkLength_0 17 rfl rfl)
theorem dJ35_checkLength_20 : decode cJ35_checkLength 20 = .ok (.ldc_w 337, 3) := dk_19 1 81 (dk_at dksJ35_checkLength_0 20 rfl rfl)
theorem dJ35_checkLength_23 : decode cJ35_checkLength 23 = .ok (.invokevirtual 50, 3) := dk_182 0 50 (dk_at dksJ35_checkLength_1 0 rfl rfl)
theorem dJ35_checkLength_26 : decode cJ35_checkLength 26 = .ok (.iload_n 1, 1) := dk_27 (dk_at dksJ35_checkLength_1 3 rfl rfl)
theorem dJ35_checkLength_27 : decode cJ35_checkLength 27 = .ok (.invokevirtual 54, 3) := dk_182 0 54 (dk_at dksJ35_checkLength_1 4 rfl rfl)
theorem dJ35_checkLength_30 : decode cJ35_checkLength 30 = .ok (.invokevirtual 61, 3) := dk_182 0 61 (dk_at dksJ35_checkLength_1 7 rfl rfl)
theorem dJ35_checkLength_33 : decode cJ35_checkLength 33 = .ok (.invokespecial 65, 3) := dk_183 0 65 (dk_at dksJ35_checkLength_1 10 rfl rfl)
theorem dJ35_checkLength_36 : decode cJ35_checkLength 36 = .ok (.athrow, 1) := dk_191 (dk_at dksJ35_checkLength_1 13 rfl rfl)
theorem dJ35_checkLength_37 : decode cJ35_checkLength 37 = .ok (.return_, 1) := dk_177 (dk_at dksJ35_checkLength_1 14 rfl rfl)
abbrev cJ35_fill : ByteArray := prog_53_method_110_code
def yJ35_fill : MethodName := ⟨RJ35, "fill", "([BIIB)V"⟩
def dkwJ35_fill_1 : List UInt8 := [167, 255, 242, 177]
abbrev dktJ35_fill_1 : List UInt8 := dkwJ35_fill_1 ++ []
def dkwJ35_fill_0 : List UInt8 := [42, 190, 27, 28, 184, 0, 13, 27, 54, 4, 21, 4, 28, 162, 0, 14, 42, 21, 4, 29, 84, 132, 4, 1]
abbrev dktJ35_fill_0 : List UInt8 := dkwJ35_fill_0 ++ dktJ35_fill_1
theorem dksJ35_fill_0 : cJ35_fill.data.toList.drop 0 = dktJ35_fill_0 := by decide +kernel
theorem dksJ35_fill_1 : cJ35_fill.data.toList.drop 24 = dktJ35_fill_1 := dk_seg dksJ35_fill_0 24 rfl rfl
theorem dJ35_fill_0 : decode cJ35_fill 0 = .ok (.aload_n 0, 1) := dk_42 (dk_at dksJ35_fill_0 0 rfl rfl)
theorem dJ35_fill_1 : decode cJ35_fill 1 = .ok (.arraylength, 1) := dk_190 (dk_at dksJ35_fill_0 1 rfl rfl)
theorem dJ35_fill_2 : decode cJ35_fill 2 = .ok (.iload_n 1, 1) := dk_27 (dk_at dksJ35_fill_0 2 rfl rfl)
theorem dJ35_fill_3 : decode cJ35_fill 3 = .ok (.iload_n 2, 1) := dk_28 (dk_at dksJ35_fill_0 3 rfl rfl)
theorem dJ35_fill_4 : decode cJ35_fill 4 = .ok (.invokestatic 13, 3) := dk_184 0 13 (dk_at dksJ35_fill_0 4 rfl rfl)
theorem dJ35_fill_7 : decode cJ35_fill 7 = .ok (.iload_n 1, 1) := dk_27 (dk_at dksJ35_fill_0 7 rfl rfl)
theorem dJ35_fill_8 : decode cJ35_fill 8 = .ok (.istore 4, 2) := dk_54 4 (dk_at dksJ35_fill_0 8 rfl rfl)
theorem dJ35_fill_10 : decode cJ35_fill 10 = .ok (.iload 4, 2) := dk_21 4 (dk_at dksJ35_fill_0 10 rfl rfl)
theorem dJ35_fill_12 : decode cJ35_fill 12 = .ok (.iload_n 2, 1) := dk_28 (dk_at dksJ35_fill_0 12 rfl rfl)
theorem dJ35_fill_13 : decode cJ35_fill 13 = .ok (.if_icmp .ge 14, 3) := dk_162 0 14 (dk_at dksJ35_fill_0 13 rfl rfl)
theorem dJ35_fill_16 : decode cJ35_fill 16 = .ok (.aload_n 0, 1) := dk_42 (dk_at dksJ35_fill_0 16 rfl rfl)
theorem dJ35_fill_17 : decode cJ35_fill 17 = .ok (.iload 4, 2) := dk_21 4 (dk_at dksJ35_fill_0 17 rfl rfl)
theorem dJ35_fill_19 : decode cJ35_fill 19 = .ok (.iload_n 3, 1) := dk_29 (dk_at dksJ35_fill_0 19 rfl rfl)
theorem dJ35_fill_20 : decode cJ35_fill 20 = .ok (.bastore, 1) := dk_84 (dk_at dksJ35_fill_0 20 rfl rfl)
theorem dJ35_fill_21 : decode cJ35_fill 21 = .ok (.iinc 4 1, 3) := dk_132 4 1 (dk_at dksJ35_fill_0 21 rfl rfl)
theorem dJ35_fill_24 : decode cJ35_fill 24 = .ok (.goto (-14), 3) := dk_167 255 242 (dk_at dksJ35_fill_1 0 rfl rfl)
theorem dJ35_fill_27 : decode cJ35_fill 27 = .ok (.return_, 1) := dk_177 (dk_at dksJ35_fill_1 3 rfl rfl)
abbrev cJ32_charAt : ByteArray := prog_39_method_2_code
def yJ32_charAt : MethodName := ⟨RJ32, "charAt", "([BI)C"⟩
def dkwJ32_charAt_0 : List UInt8 := [27, 42, 190, 184, 0, 9, 42, 27, 51, 17, 0, 255, 126, 146, 172]
abbrev dktJ32_charAt_0 : List UInt8 := dkwJ32_charAt_0 ++ []
theorem dksJ32_charAt_0 : cJ32_charAt.data.toList.drop 0 = dktJ32_charAt_0 := by decide +kernel
theorem dJ32_charAt_0 : decode cJ32_charAt 0 = .ok (.iload_n 1, 1) := dk_27 (dk_at dksJ32_charAt_0 0 rfl rfl)
theorem dJ32_charAt_1 : decode cJ32_charAt 1 = .ok (.aload_n 0, 1) := dk_42 (dk_at dksJ32_charAt_0 1 rfl rfl)
theorem dJ32_charAt_2 : decode cJ32_charAt 2 = .ok (.arraylength, 1) := dk_190 (dk_at dksJ32_charAt_0 2 rfl rfl)
theorem dJ32_charAt_3 : decode cJ32_charAt 3 = .ok (.invokestatic 9, 3) := dk_184 0 9 (dk_at dksJ32_charAt_0 3 rfl rfl)
theorem dJ32_charAt_6 : decode cJ32_charAt 6 = .ok (.aload_n 0, 1) := dk_42 (dk_at dksJ32_charAt_0 6 rfl rfl)
theorem dJ32_charAt_7 : decode cJ32_charAt 7 = .ok (.iload_n 1, 1) := dk_27 (dk_at dksJ32_charAt_0 7 rfl rfl)
theorem dJ32_charAt_8 : decode cJ32_charAt 8 = .ok (.baload, 1) := dk_51 (dk_at dksJ32_charAt_0 8 rfl rfl)
theorem dJ32_charAt_9 : decode cJ32_charAt 9 = .ok (.sipush 255, 3) := dk_17 0 255 (dk_at dksJ32_charAt_0 9 rfl rfl)
theorem dJ32_charAt_12 : decode cJ32_charAt 12 = .ok (.iand, 1) := dk_126 (dk_at dksJ32_charAt_0 12 rfl rfl)
theorem dJ32_charAt_13 : decode cJ32_charAt 13 = .ok (.i2c, 1) := dk_146 (dk_at dksJ32_charAt_0 13 rfl rfl)
theorem dJ32_charAt_14 : decode cJ32_charAt 14 = .ok (.ireturn, 1) := dk_172 (dk_at dksJ32_charAt_0 14 rfl rfl)
abbrev cJ32_canEncode : ByteArray := prog_39_method_3_code
def yJ32_canEncode : MethodName := ⟨RJ32, "canEncode", "(C)Z"⟩
def dkwJ32_canEncode_0 : List UInt8 := [26, 17, 0, 255, 163, 0, 7, 4, 167, 0, 4, 3, 172]
abbrev dktJ32_canEncode_0 : List UInt8 := dkwJ32_canEncode_0 ++ []
theorem dksJ32_canEncode_0 : cJ32_canEncode.data.toList.drop 0 = dktJ32_canEncode_0 := by decide +kernel
theorem dJ32_canEncode_0 : decode cJ32_canEncode 0 = .ok (.iload_n 0, 1) := dk_26 (dk_at dksJ32_canEncode_0 0 rfl rfl)
theorem dJ32_canEncode_1 : decode cJ32_canEncode 1 = .ok (.sipush 255, 3) := dk_17 0 255 (dk_at dksJ32_canEncode_0 1 rfl rfl)
theorem dJ32_canEncode_4 : decode cJ32_canEncode 4 = .ok (.if_icmp .gt 7, 3) := dk_163 0 7 (dk_at dksJ32_canEncode_0 4 rfl rfl)
theorem dJ32_canEncode_7 : decode cJ32_canEncode 7 = .ok (.iconst 1, 1) := dk_4 (dk_at dksJ32_canEncode_0 7 rfl rfl)
theorem dJ32_canEncode_8 : decode cJ32_canEncode 8 = .ok (.goto 4, 3) := dk_167 0 4 (dk_at dksJ32_canEncode_0 8 rfl rfl)
theorem dJ32_canEncode_11 : decode cJ32_canEncode 11 = .ok (.iconst 0, 1) := dk_3 (dk_at dksJ32_canEncode_0 11 rfl rfl)
theorem dJ32_canEncode_12 : decode cJ32_canEncode 12 = .ok (.ireturn, 1) := dk_172 (dk_at dksJ32_canEncode_0 12 rfl rfl)
abbrev cJ32_fillNull : ByteArray := prog_39_method_48_code
def yJ32_fillNull : MethodName := ⟨RJ32, "fillNull", "([BII)V"⟩
def dkwJ32_fillNull_0 : List UInt8 := [42, 27, 28, 3, 184, 0, 236, 177]
abbrev dktJ32_fillNull_0 : List UInt8 := dkwJ32_fillNull_0 ++ []
theorem dksJ32_fillNull_0 : cJ32_fillNull.data.toList.drop 0 = dktJ32_fillNull_0 := by decide +kernel
theorem dJ32_fillNull_0 : decode cJ32_fillNull 0 = .ok (.aload_n 0, 1) := dk_42 (dk_at dksJ32_fillNull_0 0 rfl rfl)
theorem dJ32_fillNull_1 : decode cJ32_fillNull 1 = .ok (.iload_n 1, 1) := dk_27 (dk_at dksJ32_fillNull_0 1 rfl rfl)
theorem dJ32_fillNull_2 : decode cJ32_fillNull 2 = .ok (.iload_n 2, 1) := dk_28 (dk_at dksJ32_fillNull_0 2 rfl rfl)
theorem dJ32_fillNull_3 : decode cJ32_fillNull 3 = .ok (.iconst 0, 1) := dk_3 (dk_at dksJ32_fillNull_0 3 rfl rfl)
theorem dJ32_fillNull_4 : decode cJ32_fillNull 4 = .ok (.invokestatic 236, 3) := dk_184 0 236 (dk_at dksJ32_fillNull_0 4 rfl rfl)
theorem dJ32_fillNull_7 : decode cJ32_fillNull 7 = .ok (.return_, 1) := dk_177 (dk_at dksJ32_fillNull_0 7 rfl rfl)
abbrev cJ32_indexOf : ByteArray := prog_39_method_22_code
def yJ32_indexOf : MethodName := ⟨RJ32, "indexOf", "([BIII)I"⟩
def dkwJ32_indexOf_1 : List UInt8 := [161, 0, 5, 2, 172, 42, 27, 28, 29, 184, 0, 95, 172]
abbrev dktJ32_indexOf_1 : List UInt8 := dkwJ32_indexOf_1 ++ []
def dkwJ32_indexOf_0 : List UInt8 := [27, 184, 0, 88, 154, 0, 5, 2, 172, 28, 3, 184, 0, 92, 61, 29, 42, 190, 184, 0, 38, 62, 28, 29]
abbrev dktJ32_indexOf_0 : List UInt8 := dkwJ32_indexOf_0 ++ dktJ32_indexOf_1
theorem dksJ32_indexOf_0 : cJ32_indexOf.data.toList.drop 0 = dktJ32_indexOf_0 := by decide +kernel
theorem dksJ32_indexOf_1 : cJ32_indexOf.data.toList.drop 24 = dktJ32_indexOf_1 := dk_seg dksJ32_indexOf_0 24 rfl rfl
theorem dJ32_indexOf_0 : decode cJ32_indexOf 0 = .ok (.iload_n 1, 1) := dk_27 (dk_at dksJ32_indexOf_0 0 rfl rfl)
theorem dJ32_indexOf_1 : decode cJ32_indexOf 1 = .ok (.invokestatic 88, 3) := dk_184 0 88 (dk_at dksJ32_indexOf_0 1 rfl rfl)
theorem dJ32_indexOf_4 : decode cJ32_indexOf 4 = .ok (.ifCond .ne 5, 3) := dk_154 0 5 (dk_at dksJ32_indexOf_0 4 rfl rfl)
theorem dJ32_indexOf_7 : decode cJ32_indexOf 7 = .ok (.iconst (-1), 1) := dk_2 (dk_at dksJ32_indexOf_0 7 rfl rfl)
theorem dJ32_indexOf_8 : decode cJ32_indexOf 8 = .ok (.ireturn, 1) := dk_172 (dk_at dksJ32_indexOf_0 8 rfl rfl)
theorem dJ32_indexOf_9 : decode cJ32_indexOf 9 = .ok (.iload_n 2, 1) := dk_28 (dk_at dksJ32_indexOf_0 9 rfl rfl)
theorem dJ32_indexOf_10 : decode cJ32_indexOf 10 = .ok (.iconst 0, 1) := dk_3 (dk_at dksJ32_indexOf_0 10 rfl rfl)
theorem dJ32_indexOf_11 : decode cJ32_indexOf 11 = .ok (.invokestatic 92, 3) := dk_184 0 92 (dk_at dksJ32_indexOf_0 11 rfl rfl)
theorem dJ32_indexOf_14 : decode cJ32_indexOf 14 = .ok (.istore_n 2, 1) := dk_61 (dk_at dksJ32_indexOf_0 14 rfl rfl)
theorem dJ32_indexOf_15 : decode cJ32_indexOf 15 = .ok (.iload_n 3, 1) := dk_29 (dk_at dksJ32_indexOf_0 15 rfl rfl)
theorem dJ32_indexOf_16 : decode cJ32_indexOf 16 = .ok (.aload_n 0, 1) := dk_42 (dk_at dksJ32_indexOf_0 16 rfl rfl)
theorem dJ32_indexOf_17 : decode cJ32_indexOf 17 = .ok (.arraylength, 1) := dk_190 (dk_at dksJ32_indexOf_0 17 rfl rfl)
theorem dJ32_indexOf_18 : decode cJ32_indexOf 18 = .ok (.invokestatic 38, 3) := dk_184 0 38 (dk_at dksJ32_indexOf_0 18 rfl rfl)
theorem dJ32_indexOf_21 : decode cJ32_indexOf 21 = .ok (.istore_n 3, 1) := dk_62 (dk_at dksJ32_indexOf_0 21 rfl rfl)
theorem dJ32_indexOf_22 : decode cJ32_indexOf 22 = .ok (.iload_n 2, 1) := dk_28 (dk_at dksJ32_indexOf_0 22 rfl rfl)
theorem dJ32_indexOf_23 : decode cJ32_indexOf 23 = .ok (.iload_n 3, 1) := dk_29 (dk_at dksJ32_indexOf_0 23 rfl rfl)
theorem dJ32_indexOf_24 : decode cJ32_indexOf 24 = .ok (.if_icmp .lt 5, 3) := dk_161 0 5 (dk_at dksJ32_indexOf_1 0 rfl rfl)
theorem dJ32_indexOf_27 : decode cJ32_indexOf 27 = .ok (.iconst (-1), 1) := dk_2 (dk_at dksJ32_indexOf_1 3 rfl rfl)
theorem dJ32_indexOf_28 : decode cJ32_indexOf 28 = .ok (.ireturn, 1) := dk_172 (dk_at dksJ32_indexOf_1 4 rfl rfl)
theorem dJ32_indexOf_29 : decode cJ32_indexOf 29 = .ok (.aload_n 0, 1) := dk_42 (dk_at dksJ32_indexOf_1 5 rfl rfl)
theorem dJ32_indexOf_30 : decode cJ32_indexOf 30 = .ok (.iload_n 1, 1) := dk_27 (dk_at dksJ32_indexOf_1 6 rfl rfl)
theorem dJ32_indexOf_31 : decode cJ32_indexOf 31 = .ok (.iload_n 2, 1) := dk_28 (dk_at dksJ32_indexOf_1 7 rfl rfl)
theorem dJ32_indexOf_32 : decode cJ32_indexOf 32 = .ok (.iload_n 3, 1) := dk_29 (dk_at dksJ32_indexOf_1 8 rfl rfl)
theorem dJ32_indexOf_33 : decode cJ32_indexOf 33 = .ok (.invokestatic 95, 3) := dk_184 0 95 (dk_at dksJ32_indexOf_1 9 rfl rfl)
theorem dJ32_indexOf_36 : decode cJ32_indexOf 36 = .ok (.ireturn, 1) := dk_172 (dk_at dksJ32_indexOf_1 12 rfl rfl)
abbrev cJ32_canEncode_2 : ByteArray := prog_39_method_4_code
def yJ32_canEncode_2 : MethodName := ⟨RJ32, "canEncode", "(I)Z"⟩
def dkwJ32_canEncode_2_0 : List UInt8 := [26, 155, 0, 14, 26, 17, 0, 255, 163, 0, 7, 4, 167, 0, 4, 3, 172]
abbrev dktJ32_canEncode_2_0 : List UInt8 := dkwJ32_canEncode_2_0 ++ []
theorem dksJ32_canEncode_2_0 : cJ32_canEncode_2.data.toList.drop 0 = dktJ32_canEncode_2_0 := by decide +kernel
theorem dJ32_canEncode_2_0 : decode cJ32_canEncode_2 0 = .ok (.iload_n 0, 1) := dk_26 (dk_at dksJ32_canEncode_2_0 0 rfl rfl)
theorem dJ32_canEncode_2_1 : decode cJ32_canEncode_2 1 = .ok (.ifCond .lt 14, 3) := dk_155 0 14 (dk_at dksJ32_canEncode_2_0 1 rfl rfl)
theorem dJ32_canEncode_2_4 : decode cJ32_canEncode_2 4 = .ok (.iload_n 0, 1) := dk_26 (dk_at dksJ32_canEncode_2_0 4 rfl rfl)
theorem dJ32_canEncode_2_5 : decode cJ32_canEncode_2 5 = .ok (.sipush 255, 3) := dk_17 0 255 (dk_at dksJ32_canEncode_2_0 5 rfl rfl)
theorem dJ32_canEncode_2_8 : decode cJ32_canEncode_2 8 = .ok (.if_icmp .gt 7, 3) := dk_163 0 7 (dk_at dksJ32_canEncode_2_0 8 rfl rfl)
theorem dJ32_canEncode_2_11 : decode cJ32_canEncode_2 11 = .ok (.iconst 1, 1) := dk_4 (dk_at dksJ32_canEncode_2_0 11 rfl rfl)
theorem dJ32_canEncode_2_12 : decode cJ32_canEncode_2 12 = .ok (.goto 4, 3) := dk_167 0 4 (dk_at dksJ32_canEncode_2_0 12 rfl rfl)
theorem dJ32_canEncode_2_15 : decode cJ32_canEncode_2 15 = .ok (.iconst 0, 1) := dk_3 (dk_at dksJ32_canEncode_2_0 15 rfl rfl)
theorem dJ32_canEncode_2_16 : decode cJ32_canEncode_2 16 = .ok (.ireturn, 1) := dk_172 (dk_at dksJ32_canEncode_2_0 16 rfl rfl)
abbrev cJ32_indexOfChar : ByteArray := prog_39_method_23_code
def yJ32_indexOfChar : MethodName := ⟨RJ32, "indexOfChar", "([BIII)I"⟩
def dkwJ32_indexOfChar_1 : List UInt8 := [172, 132, 5, 1, 167, 255, 235, 2, 172]
abbrev dktJ32_indexOfChar_1 : List UInt8 := dkwJ32_indexOfChar_1 ++ []
def dkwJ32_indexOfChar_0 : List UInt8 := [27, 145, 54, 4, 28, 54, 5, 21, 5, 29, 162, 0, 21, 42, 21, 5, 51, 21, 4, 160, 0, 6, 21, 5]
abbrev dktJ32_indexOfChar_0 : List UInt8 := dkwJ32_indexOfChar_0 ++ dktJ32_indexOfChar_1
theorem dksJ32_indexOfChar_0 : cJ32_indexOfChar.data.toList.drop 0 = dktJ32_indexOfChar_0 := by decide +kernel
theorem dksJ32_indexOfChar_1 : cJ32_indexOfChar.data.toList.drop 24 = dktJ32_indexOfChar_1 := dk_seg dksJ32_indexOfChar_0 24 rfl rfl
theorem dJ32_indexOfChar_0 : decode cJ32_indexOfChar 0 = .ok (.iload_n 1, 1) := dk_27 (dk_at dksJ32_indexOfChar_0 0 rfl rfl)
theorem dJ32_indexOfChar_1 : decode cJ32_indexOfChar 1 = .ok (.i2b, 1) := dk_145 (dk_at dksJ32_indexOfChar_0 1 rfl rfl)
theorem dJ32_indexOfChar_2 : decode cJ32_indexOfChar 2 = .ok (.istore 4, 2) := dk_54 4 (dk_at dksJ32_indexOfChar_0 2 rfl rfl)
theorem dJ32_indexOfChar_4 : decode cJ32_indexOfChar 4 = .ok (.iload_n 2, 1) := dk_28 (dk_at dksJ32_indexOfChar_0 4 rfl rfl)
theorem dJ32_indexOfChar_5 : decode cJ32_indexOfChar 5 = .ok (.istore 5, 2) := dk_54 5 (dk_at dksJ32_indexOfChar_0 5 rfl rfl)
theorem dJ32_indexOfChar_7 : decode cJ32_indexOfChar 7 = .ok (.iload 5, 2) := dk_21 5 (dk_at dksJ32_indexOfChar_0 7 rfl rfl)
theorem dJ32_indexOfChar_9 : decode cJ32_indexOfChar 9 = .ok (.iload_n 3, 1) := dk_29 (dk_at dksJ32_indexOfChar_0 9 rfl rfl)
theorem dJ32_indexOfChar_10 : decode cJ32_indexOfChar 10 = .ok (.if_icmp .ge 21, 3) := dk_162 0 21 (dk_at dksJ32_indexOfChar_0 10 rfl rfl)
theorem dJ32_indexOfChar_13 : decode cJ32_indexOfChar 13 = .ok (.aload_n 0, 1) := dk_42 (dk_at dksJ32_indexOfChar_0 13 rfl rfl)
theorem dJ32_indexOfChar_14 : decode cJ32_indexOfChar 14 = .ok (.iload 5, 2) := dk_21 5 (dk_at dksJ32_indexOfChar_0 14 rfl rfl)
theorem dJ32_indexOfChar_16 : decode cJ32_indexOfChar 16 = .ok (.baload, 1) := dk_51 (dk_at dksJ32_indexOfChar_0 16 rfl rfl)
theorem dJ32_indexOfChar_17 : decode cJ32_indexOfChar 17 = .ok (.iload 4, 2) := dk_21 4 (dk_at dksJ32_indexOfChar_0 17 rfl rfl)
theorem dJ32_indexOfChar_19 : decode cJ32_indexOfChar 19 = .ok (.if_icmp .ne 6, 3) := dk_160 0 6 (dk_at dksJ32_indexOfChar_0 19 rfl rfl)
theorem dJ32_indexOfChar_22 : decode cJ32_indexOfChar 22 = .ok (.iload 5, 2) := dk_21 5 (dk_at dksJ32_indexOfChar_0 22 rfl rfl)
theorem dJ32_indexOfChar_24 : decode cJ32_indexOfChar 24 = .ok (.ireturn, 1) := dk_172 (dk_at dksJ32_indexOfChar_1 0 rfl rfl)
theorem dJ32_indexOfChar_25 : decode cJ32_indexOfChar 25 = .ok (.iinc 5 1, 3) := dk_132 5 1 (dk_at dksJ32_indexOfChar_1 1 rfl rfl)
theorem dJ32_indexOfChar_28 : decode cJ32_indexOfChar 28 = .ok (.goto (-21), 3) := dk_167 255 235 (dk_at dksJ32_indexOfChar_1 4 rfl rfl)
theorem dJ32_indexOfChar_31 : decode cJ32_indexOfChar 31 = .ok (.iconst (-1), 1) := dk_2 (dk_at dksJ32_indexOfChar_1 7 rfl rfl)
theorem dJ32_indexOfChar_32 : decode cJ32_indexOfChar 32 = .ok (.ireturn, 1) := dk_172 (dk_at dksJ32_indexOfChar_1 8 rfl rfl)
abbrev rmJ8_init (mc ms : Nat) : Room := { frames := 10, cells := mc, slots := ms, locals := 160 }
def wJ8_initb0 (G : gE) (P : hSt → Prop) (PX : Nat → Nat → hSt → Prop)  (v0 : Option Nat) (v1 : Int32) (z : hSt) : Prop :=
  (nnl v0 ∧ (((1 : Int32) = 0 → False) ∧ (¬ (1 : Int32) = 0 → nwA G z 2 (.inl fun _ => 0) v1 (fun x1 z2 => ptV G z2 v0 [16] 0 (va_rf (some x1)) (fun z3 => (okN .byte 0 ∧ ptV G z3 v0 [16] 1 (.int 0) (fun z4 => P z4)))))))
def wJ8_init (G : gE) (P : hSt → Prop) (PX : Nat → Nat → hSt → Prop) (v0 : Option Nat) (v1 : Int32) (z : hSt) : Prop := wJ8_initb0 G P PX v0 v1 z
section
variable {p : Program} {l : Launch} {e : Env} {s : State} {m : MethodId} {args : Array Value} {below : List Frame} {meth : Method} {c : Code} {G : gE} {mc ms : Nat} {P : hSt → Prop} {PX : Nat → Nat → hSt → Prop}
theorem kJ8_initb0 (C : xC G p l s m args meth c cJ8_init 2 "java/lang/AbstractStringBuilder") (hr : meth.sig.returnType = (Option.none : Option Jvm.ClassFile.FieldType)) (hin : meth.name = "<init>") (hT : ∀ x ∈ c.exceptionTable.toList, False) (hmc : mc = gL G - s.heap.size ∧ ms = gU G - hsum s.heap)   {v0 : Option Nat} {v1 : Int32} {z : hSt} (hw : wJ8_initb0 G P PX  v0 v1 z) : kt G p l e (rmJ8_init mc ms) s m args below meth c 2 (vx_MQ below (cQ G (pV P)) (cX G PX) args s mc ms (gF G)) 0 [(0, va_rf v0), (1, .int v1)] [] z := by
  intro H locs ls hS hl
  refine r_aload_n C.1 C.2.1 dJ8_init_0 rfl (lv_at hl 0 rfl) ?_
  refine r_objInit C hl.1 hw.1 q363 q140 q141 rfl dJ8_init_1 (Nat.le_of_ble_eq_true rfl) (Nat.le_of_ble_eq_true rfl) ?_
  have hw := hw.2
  refine r_gets C hS (v := .int 1) (by simp [gSTA]) q364 dJ8_init_4 ?_
  refine lv_if_eq C.1 C.2.1 dJ8_init_7 rfl (fun h => ?_) (fun h => ?_)
  · have hw := hw.1 h
    refine r_aload_n C.1 C.2.1 dJ8_init_25 rfl (lv_at hl 0 rfl) ?_
    refine lv_iload_n C.1 C.2.1 dJ8_init_26 rfl (lv_at hl 1 rfl) ?_
    exact hw.elim
  · have hw := hw.2 h
    refine r_aload_n C.1 C.2.1 dJ8_init_10 rfl (lv_at hl 0 rfl) ?_
    refine lv_iload_n C.1 C.2.1 dJ8_init_11 rfl (lv_at hl 1 rfl) ?_
    refine r_newb C hS hmc dJ8_init_12 hw (fun x1 z2 H locs hw hS => ?_)
    refine r_put C hS fo_16_0 (fl_d C q373) (fun _ h => h) (narrow_rfA _ _) (fits_rfA _ _) dJ8_init_14 hw (fun z3 H locs hw hS => ?_)
    refine r_aload_n C.1 C.2.1 dJ8_init_17 rfl (lv_at hl 0 rfl) ?_
    refine lv_iconst C.1 C.2.1 (v := 0) dJ8_init_18 rfl ?_
    refine r_put C hS fo_16_1 (fl_d C q374) (fun _ h => h) hw.1.1 hw.1.2 dJ8_init_19 hw.2 (fun z4 H locs hw hS => ?_)
    refine lv_goto C.1 C.2.1 dJ8_init_22 rfl ?_
    exact r_vret C hS hmc hr dJ8_init_38 hw
end
theorem kJ8_init {l : Launch} (hl : l.stackTraces = false) {G : gE} {P : hSt → Prop} {PX : Nat → Nat → hSt → Prop} {v0 : Option Nat} {v1 : Int32} {z : hSt} : cM l G yJ8_init (ws_ yJ8_init cJ8_init 2 (Option.none : Option Jvm.ClassFile.FieldType)) 10 160 z [va_rf v0, .int v1] (wJ8_init G P PX v0 v1 z) (pV P) PX := by
  refine m_of hl (plainFor_of_name (by decide)) (by rw [lg_sl1 (va_rf_cat _), lg_sl1 rfl]; exact Nat.le_of_ble_eq_true rfl) ?_
  intro p e s m args below meth c C hr hin hT hmc hw
  rw [lv_args1 (va_rf_cat _), lv_args1 rfl]
  intro H locs ls hS hl
  exact kJ8_initb0 C hr hin hT hmc hw H locs ls hS (lv_sub hl [0, 1] rfl)
theorem hdJ8_init : yJ8_init.cls ≠ "java/lang/invoke/MethodHandle" ∧ yJ8_init.cls ≠ "java/lang/invoke/VarHandle" ∧ (parseMethodDescriptor yJ8_init.desc).map (fun d => d.parameters.length) = some 1 := ⟨by decide +kernel, by decide +kernel, by decide +kernel⟩
abbrev rmJ9_init (mc ms : Nat) : Room := { frames := 11, cells := mc, slots := ms, locals := 181 }
def wJ9_initb0 (G : gE) (P : hSt → Prop) (PX : Nat → Nat → hSt → Prop)  (v0 : Option Nat) (z : hSt) : Prop :=
  (nnl v0 ∧ wJ8_init G (fun z1 => P z1) PX v0 16 z)
def wJ9_init (G : gE) (P : hSt → Prop) (PX : Nat → Nat → hSt → Prop) (v0 : Option Nat) (z : hSt) : Prop := wJ9_initb0 G P PX v0 z
section
variable {p : Program} {l : Launch} {e : Env} {s : State} {m : MethodId} {args : Array Value} {below : List Frame} {meth : Method} {c : Code} {G : gE} {mc ms : Nat} {P : hSt → Prop} {PX : Nat → Nat → hSt → Prop}
theorem kJ9_initb0 (C : xC G p l s m args meth c cJ9_init 1 "java/lang/StringBuilder") (hr : meth.sig.returnType = (Option.none : Option Jvm.ClassFile.FieldType)) (hin : meth.name = "<init>") (hT : ∀ x ∈ c.exceptionTable.toList, False) (hmc : mc = gL G - s.heap.size ∧ ms = gU G - hsum s.heap)   {v0 : Option Nat} {z : hSt} (hw : wJ9_initb0 G P PX  v0 z) : kt G p l e (rmJ9_init mc ms) s m args below meth c 1 (vx_MQ below (cQ G (pV P)) (cX G PX) args s mc ms (gF G)) 0 [(0, va_rf v0)] [] z := by
  intro H locs ls hS hl
  refine r_aload_n C.1 C.2.1 dJ9_init_0 rfl (lv_at hl 0 rfl) ?_
  refine lv_bipush C.1 C.2.1 (v := 16) dJ9_init_1 rfl ?_
  refine c_I C hS hmc hl.1 hw.1 (kJ8_init C.2.2.2.2.2.2.1) hw.2 (lw_meth q362) q79 q360 q361 rfl hdJ8_init ⟨Nat.le_of_ble_eq_true rfl, Nat.le_of_ble_eq_true rfl⟩ (rest := []) rfl rfl (Nat.le_of_ble_eq_true rfl) dJ9_init_3 (fun ci q z H locs hx hS ht => r_out C hS hmc (fun x hx => (hT x hx).elim) ht hx) (fun v z1 H locs hv hS => ?_)
  obtain ⟨rfl, hw⟩ := hv
  exact r_vret C hS hmc hr dJ9_init_6 hw
end
theorem kJ9_init {l : Launch} (hl : l.stackTraces = false) {G : gE} {P : hSt → Prop} {PX : Nat → Nat → hSt → Prop} {v0 : Option Nat} {z : hSt} : cM l G yJ9_init (ws_ yJ9_init cJ9_init 1 (Option.none : Option Jvm.ClassFile.FieldType)) 11 181 z [va_rf v0] (wJ9_init G P PX v0 z) (pV P) PX := by
  refine m_of hl (plainFor_of_name (by decide)) (by rw [lg_sl1 (va_rf_cat _)]; exact Nat.le_of_ble_eq_true rfl) ?_
  intro p e s m args below meth c C hr hin hT hmc hw
  rw [lv_args1 (va_rf_cat _)]
  intro H locs ls hS hl
  exact kJ9_initb0 C hr hin hT hmc hw H locs ls hS (lv_sub hl [0] rfl)
theorem hdJ9_init : yJ9_init.cls ≠ "java/lang/invoke/MethodHandle" ∧ yJ9_init.cls ≠ "java/lang/invoke/VarHandle" ∧ (parseMethodDescriptor yJ9_init.desc).map (fun d => d.parameters.length) = some 0 := ⟨by decide +kernel, by decide +kernel, by decide +kernel⟩
abbrev rmJ36_checkIndex (mc ms : Nat) : Room := { frames := 10, cells := mc, slots := ms, locals := 160 }
def wJ36_checkIndexb9 (G : gE) (P : Int32 → hSt → Prop) (PX : Nat → Nat → hSt → Prop)  (v0 : Int32) (v1 : Int32) (v2 : Option Nat) (z : hSt) : Prop :=
  False
def wJ36_checkIndexb0 (G : gE) (P : Int32 → hSt → Prop) (PX : Nat → Nat → hSt → Prop)  (v0 : Int32) (v1 : Int32) (v2 : Option Nat) (z : hSt) : Prop :=
  ((v0 < 0 → wJ36_checkIndexb9 G P PX  v0 v1 v2 z) ∧ (¬ v0 < 0 → ((v0 < v1 → P v0 z) ∧ (¬ v0 < v1 → wJ36_checkIndexb9 G P PX  v0 v1 v2 z))))
def wJ36_checkIndex (G : gE) (P : Int32 → hSt → Prop) (PX : Nat → Nat → hSt → Prop) (v0 : Int32) (v1 : Int32) (v2 : Option Nat) (z : hSt) : Prop := wJ36_checkIndexb0 G P PX v0 v1 v2 z
section
variable {p : Program} {l : Launch} {e : Env} {s : State} {m : MethodId} {args : Array Value} {below : List Frame} {meth : Method} {c : Code} {G : gE} {mc ms : Nat} {P : Int32 → hSt → Prop} {PX : Nat → Nat → hSt → Prop}
theorem kJ36_checkIndexb9 (C : xC G p l s m args meth c cJ36_checkIndex 3 "jdk/internal/util/Preconditions") (hr : meth.sig.returnType = (Option.some Jvm.ClassFile.FieldType.int)) (hin : meth.name = "checkIndex") (hT : ∀ x ∈ c.exceptionTable.toList, False) (hmc : mc = gL G - s.heap.size ∧ ms = gU G - hsum s.heap)   {v0 : Int32} {v1 : Int32} {v2 : Option Nat} {z : hSt} (hw : wJ36_checkIndexb9 G P PX  v0 v1 v2 z) : kt G p l e (rmJ36_checkIndex mc ms) s m args below meth c 3 (vx_MQ below (cQ G (pI P)) (cX G PX) args s mc ms (gF G)) 9 [(0, .int v0), (1, .int v1), (2, va_rf v2)] [] z := by
  intro H locs ls hS hl
  refine r_aload_n C.1 C.2.1 dJ36_checkIndex_9 rfl (lv_at hl 2 rfl) ?_
  refine lv_iload_n C.1 C.2.1 dJ36_checkIndex_10 rfl (lv_at hl 0 rfl) ?_
  refine lv_iload_n C.1 C.2.1 dJ36_checkIndex_11 rfl (lv_at hl 1 rfl) ?_
  exact hw.elim
theorem kJ36_checkIndexb0 (C : xC G p l s m args meth c cJ36_checkIndex 3 "jdk/internal/util/Preconditions") (hr : meth.sig.returnType = (Option.some Jvm.ClassFile.FieldType.int)) (hin : meth.name = "checkIndex") (hT : ∀ x ∈ c.exceptionTable.toList, False) (hmc : mc = gL G - s.heap.size ∧ ms = gU G - hsum s.heap)   {v0 : Int32} {v1 : Int32} {v2 : Option Nat} {z : hSt} (hw : wJ36_checkIndexb0 G P PX  v0 v1 v2 z) : kt G p l e (rmJ36_checkIndex mc ms) s m args below meth c 3 (vx_MQ below (cQ G (pI P)) (cX G PX) args s mc ms (gF G)) 0 [(0, .int v0), (1, .int v1), (2, va_rf v2)] [] z := by
  intro H locs ls hS hl
  refine lv_iload_n C.1 C.2.1 dJ36_checkIndex_0 rfl (lv_at hl 0 rfl) ?_
  refine lv_if_lt C.1 C.2.1 dJ36_checkIndex_1 rfl (fun h => ?_) (fun h => ?_)
  · have hw := hw.1 h
    exact kJ36_checkIndexb9 C hr hin hT hmc  hw H locs ls hS (lv_sub hl [0, 1, 2] rfl)
  · have hw := hw.2 h
    refine lv_iload_n C.1 C.2.1 dJ36_checkIndex_4 rfl (lv_at hl 0 rfl) ?_
    refine lv_iload_n C.1 C.2.1 dJ36_checkIndex_5 rfl (lv_at hl 1 rfl) ?_
    refine lv_icmp_lt C.1 C.2.1 dJ36_checkIndex_6 rfl (fun h => ?_) (fun h => ?_)
    · have hw := hw.1 h
      refine lv_iload_n C.1 C.2.1 dJ36_checkIndex_16 rfl (lv_at hl 0 rfl) ?_
      exact r_iret C hS hmc hr dJ36_checkIndex_17 hw
    · have hw := hw.2 h
      exact kJ36_checkIndexb9 C hr hin hT hmc  hw H locs ls hS (lv_sub hl [0, 1, 2] rfl)
end
theorem kJ36_checkIndex {l : Launch} (hl : l.stackTraces = false) {G : gE} {P : Int32 → hSt → Prop} {PX : Nat → Nat → hSt → Prop} {v0 : Int32} {v1 : Int32} {v2 : Option Nat} {z : hSt} : cM l G yJ36_checkIndex (ws_ yJ36_checkIndex cJ36_checkIndex 3 (Option.some Jvm.ClassFile.FieldType.int)) 10 160 z [.int v0, .int v1, va_rf v2] (wJ36_checkIndex G P PX v0 v1 v2 z) (pI P) PX := by
  refine m_of hl (plainFor_of_name (by decide)) (by rw [lg_sl1 rfl, lg_sl1 rfl, lg_sl1 (va_rf_cat _)]; exact Nat.le_of_ble_eq_true rfl) ?_
  intro p e s m args below meth c C hr hin hT hmc hw
  rw [lv_args1 rfl, lv_args1 rfl, lv_args1 (va_rf_cat _)]
  intro H locs ls hS hl
  exact kJ36_checkIndexb0 C hr hin hT hmc hw H locs ls hS (lv_sub hl [0, 1, 2] rfl)
theorem hdJ36_checkIndex : yJ36_checkIndex.cls ≠ "java/lang/invoke/MethodHandle" ∧ yJ36_checkIndex.cls ≠ "java/lang/invoke/VarHandle" ∧ (parseMethodDescriptor yJ36_checkIndex.desc).map (fun d => d.parameters.length) = some 3 := ⟨by decide +kernel, by decide +kernel, by decide +kernel⟩
abbrev rmJ33_newLength (mc ms : Nat) : Room := { frames := 10, cells := mc, slots := ms, locals := 160 }
def wJ33_newLengthb21 (G : gE) (P : Int32 → hSt → Prop) (PX : Nat → Nat → hSt → Prop)  (v0 : Int32) (v1 : Int32) (z : hSt) : Prop :=
  False
def wJ33_newLengthb0 (G : gE) (P : Int32 → hSt → Prop) (PX : Nat → Nat → hSt → Prop)  (v0 : Int32) (v1 : Int32) (v2 : Int32) (z : hSt) : Prop :=
  (((v0 + (if v1 < v2 then v2 else v1)) ≤ (0 : Int32) → wJ33_newLengthb21 G P PX  v0 v1 z) ∧ (¬ (v0 + (if v1 < v2 then v2 else v1)) ≤ (0 : Int32) → (((2147483639 : Int32) < (v0 + (if v1 < v2 then v2 else v1)) → wJ33_newLengthb21 G P PX  v0 v1 z) ∧ (¬ (2147483639 : Int32) < (v0 + (if v1 < v2 then v2 else v1)) → P (v0 + (if v1 < v2 then v2 else v1)) z))))
def wJ33_newLength (G : gE) (P : Int32 → hSt → Prop) (PX : Nat → Nat → hSt → Prop) (v0 : Int32) (v1 : Int32) (v2 : Int32) (z : hSt) : Prop := wJ33_newLengthb0 G P PX v0 v1 v2 z
section
variable {p : Program} {l : Launch} {e : Env} {s : State} {m : MethodId} {args : Array Value} {below : List Frame} {meth : Method} {c : Code} {G : gE} {mc ms : Nat} {P : Int32 → hSt → Prop} {PX : Nat → Nat → hSt → Prop}
theorem kJ33_newLengthb21 (C : xC G p l s m args meth c cJ33_newLength 4 "jdk/internal/util/ArraysSupport") (hr : meth.sig.returnType = (Option.some Jvm.ClassFile.FieldType.int)) (hin : meth.name = "newLength") (hT : ∀ x ∈ c.exceptionTable.toList, False) (hmc : mc = gL G - s.heap.size ∧ ms = gU G - hsum s.heap)   {v0 : Int32} {v1 : Int32} {z : hSt} (hw : wJ33_newLengthb21 G P PX  v0 v1 z) : kt G p l e (rmJ33_newLength mc ms) s m args below meth c 4 (vx_MQ below (cQ G (pI P)) (cX G PX) args s mc ms (gF G)) 21 [(0, .int v0), (1, .int v1)] [] z := by
  intro H locs ls hS hl
  refine lv_iload_n C.1 C.2.1 dJ33_newLength_21 rfl (lv_at hl 0 rfl) ?_
  refine lv_iload_n C.1 C.2.1 dJ33_newLength_22 rfl (lv_at hl 1 rfl) ?_
  exact hw.elim
theorem kJ33_newLengthb0 (C : xC G p l s m args meth c cJ33_newLength 4 "jdk/internal/util/ArraysSupport") (hr : meth.sig.returnType = (Option.some Jvm.ClassFile.FieldType.int)) (hin : meth.name = "newLength") (hT : ∀ x ∈ c.exceptionTable.toList, False) (hmc : mc = gL G - s.heap.size ∧ ms = gU G - hsum s.heap)   {v0 : Int32} {v1 : Int32} {v2 : Int32} {z : hSt} (hw : wJ33_newLengthb0 G P PX  v0 v1 v2 z) : kt G p l e (rmJ33_newLength mc ms) s m args below meth c 4 (vx_MQ below (cQ G (pI P)) (cX G PX) args s mc ms (gF G)) 0 [(0, .int v0), (1, .int v1), (2, .int v2)] [] z := by
  intro H locs ls hS hl
  refine lv_iload_n C.1 C.2.1 dJ33_newLength_0 rfl (lv_at hl 0 rfl) ?_
  refine lv_iload_n C.1 C.2.1 dJ33_newLength_1 rfl (lv_at hl 1 rfl) ?_
  refine lv_iload_n C.1 C.2.1 dJ33_newLength_2 rfl (lv_at hl 2 rfl) ?_
  refine r_mmax C hS hmc hl.1 q1031 q1032 q109 q1033 (Nat.le_of_ble_eq_true rfl) (Nat.le_of_ble_eq_true rfl) (Nat.le_of_ble_eq_true rfl) dJ33_newLength_3 ?_
  refine lv_iadd C.1 C.2.1 dJ33_newLength_6 ?_
  refine r_istore_n C.1 C.2.1 dJ33_newLength_7 rfl hl (Nat.le_of_ble_eq_true rfl) (ls_new (ls_old 0 rfl rfl (.inl rfl) (ls_old 1 rfl rfl (.inl rfl) ls_nil))) (fun ls hl => ?_)
  refine lv_iconst C.1 C.2.1 (v := 0) dJ33_newLength_8 rfl ?_
  refine lv_iload_n C.1 C.2.1 dJ33_newLength_9 rfl (lv_at hl 0 rfl) ?_
  refine lv_icmp_ge C.1 C.2.1 dJ33_newLength_10 rfl (fun h => ?_) (fun h => ?_)
  · have hw := hw.1 h
    exact kJ33_newLengthb21 C hr hin hT hmc  hw H locs ls hS (lv_sub hl [1, 2] rfl)
  · have hw := hw.2 h
    refine lv_iload_n C.1 C.2.1 dJ33_newLength_13 rfl (lv_at hl 0 rfl) ?_
    refine lv_ldc C.1 C.2.1 C.2.2.2.1 (C.2.2.2.2.1 _ q1034) dJ33_newLength_14 ?_
    refine lv_icmp_gt C.1 C.2.1 dJ33_newLength_16 rfl (fun h => ?_) (fun h => ?_)
    · have hw := hw.1 h
      exact kJ33_newLengthb21 C hr hin hT hmc  hw H locs ls hS (lv_sub hl [1, 2] rfl)
    · have hw := hw.2 h
      refine lv_iload_n C.1 C.2.1 dJ33_newLength_19 rfl (lv_at hl 0 rfl) ?_
      exact r_iret C hS hmc hr dJ33_newLength_20 hw
end
theorem kJ33_newLength {l : Launch} (hl : l.stackTraces = false) {G : gE} {P : Int32 → hSt → Prop} {PX : Nat → Nat → hSt → Prop} {v0 : Int32} {v1 : Int32} {v2 : Int32} {z : hSt} : cM l G yJ33_newLength (ws_ yJ33_newLength cJ33_newLength 4 (Option.some Jvm.ClassFile.FieldType.int)) 10 160 z [.int v0, .int v1, .int v2] (wJ33_newLength G P PX v0 v1 v2 z) (pI P) PX := by
  refine m_of hl (plainFor_of_name (by decide)) (by rw [lg_sl1 rfl, lg_sl1 rfl, lg_sl1 rfl]; exact Nat.le_of_ble_eq_true rfl) ?_
  intro p e s m args below meth c C hr hin hT hmc hw
  rw [lv_args1 rfl, lv_args1 rfl, lv_args1 rfl]
  intro H locs ls hS hl
  exact kJ33_newLengthb0 C hr hin hT hmc hw H locs ls hS (lv_sub hl [0, 1, 2] rfl)
theorem hdJ33_newLength : yJ33_newLength.cls ≠ "java/lang/invoke/MethodHandle" ∧ yJ33_newLength.cls ≠ "java/lang/invoke/VarHandle" ∧ (parseMethodDescriptor yJ33_newLength.desc).map (fun d => d.parameters.length) = some 3 := ⟨by decide +kernel, by decide +kernel, by decide +kernel⟩
abbrev rmJ10_equals (mc ms : Nat) : Room := { frames := 10, cells := mc, slots := ms, locals := 160 }
def wJ10_equalsb54 (G : gE) (P : Int32 → hSt → Prop) (PX : Nat → Nat → hSt → Prop)   (z : hSt) : Prop :=
  (okN .boolean 0 ∧ P 0 z)
def wJ10_equalsb36 (G : gE) (P : Int32 → hSt → Prop) (PX : Nat → Nat → hSt → Prop)  (v0 : Option Nat) (v2 : Option Nat) (z : hSt) : Prop :=
  gtR z v0 [17] 0 (fun x4 => gtR z v2 [17] 0 (fun x5 => False))
def wJ10_equalsb0 (G : gE) (P : Int32 → hSt → Prop) (PX : Nat → Nat → hSt → Prop)  (v0 : Option Nat) (v1 : Option Nat) (z : hSt) : Prop :=
  ((¬ v0 = v1 → ioO z v1 [17] [] (fun x1 => ((x1 = 0 → wJ10_equalsb54 G P PX   z) ∧ (¬ x1 = 0 → (ckO z v1 [17] ∧ (((1 : Int32) = 0 → wJ10_equalsb36 G P PX  v0 v1 z) ∧ (¬ (1 : Int32) = 0 → gtI z v0 [17] 1 (fun x2 => gtI z v1 [17] 1 (fun x3 => ((¬ x2 = x3 → wJ10_equalsb54 G P PX   z) ∧ (x2 = x3 → wJ10_equalsb36 G P PX  v0 v1 z))))))))))) ∧ (v0 = v1 → (okN .boolean 1 ∧ P 1 z)))
def wJ10_equals (G : gE) (P : Int32 → hSt → Prop) (PX : Nat → Nat → hSt → Prop) (v0 : Option Nat) (v1 : Option Nat) (z : hSt) : Prop := wJ10_equalsb0 G P PX v0 v1 z
section
variable {p : Program} {l : Launch} {e : Env} {s : State} {m : MethodId} {args : Array Value} {below : List Frame} {meth : Method} {c : Code} {G : gE} {mc ms : Nat} {P : Int32 → hSt → Prop} {PX : Nat → Nat → hSt → Prop}
theorem kJ10_equalsb54 (C : xC G p l s m args meth c cJ10_equals 3 "java/lang/String") (hr : meth.sig.returnType = (Option.some Jvm.ClassFile.FieldType.boolean)) (hin : meth.name = "equals") (hT : ∀ x ∈ c.exceptionTable.toList, False) (hmc : mc = gL G - s.heap.size ∧ ms = gU G - hsum s.heap)    {z : hSt} (hw : wJ10_equalsb54 G P PX   z) : kt G p l e (rmJ10_equals mc ms) s m args below meth c 3 (vx_MQ below (cQ G (pI P)) (cX G PX) args s mc ms (gF G)) 54 [] [] z := by
  intro H locs ls hS hl
  refine lv_iconst C.1 C.2.1 (v := 0) dJ10_equals_54 rfl ?_
  exact r_zret C hS hmc hr dJ10_equals_55 hw
theorem kJ10_equalsb36 (C : xC G p l s m args meth c cJ10_equals 3 "java/lang/String") (hr : meth.sig.returnType = (Option.some Jvm.ClassFile.FieldType.boolean)) (hin : meth.name = "equals") (hT : ∀ x ∈ c.exceptionTable.toList, False) (hmc : mc = gL G - s.heap.size ∧ ms = gU G - hsum s.heap)   {v0 : Option Nat} {v2 : Option Nat} {z : hSt} (hw : wJ10_equalsb36 G P PX  v0 v2 z) : kt G p l e (rmJ10_equals mc ms) s m args below meth c 3 (vx_MQ below (cQ G (pI P)) (cX G PX) args s mc ms (gF G)) 36 [(0, va_rf v0), (2, va_rf v2)] [] z := by
  intro H locs ls hS hl
  refine r_aload_n C.1 C.2.1 dJ10_equals_36 rfl (lv_at hl 0 rfl) ?_
  refine r_getR C hS fo_17_0 (fl_d C q1212) (fun _ h => h) dJ10_equals_37 hw (fun x4 hw => ?_)
  refine r_aload_n C.1 C.2.1 dJ10_equals_40 rfl (lv_at hl 1 rfl) ?_
  refine r_getR C hS fo_17_0 (fl_d C q1212) (fun _ h => h) dJ10_equals_41 hw (fun x5 hw => ?_)
  exact hw.elim
theorem kJ10_equalsb0 (C : xC G p l s m args meth c cJ10_equals 3 "java/lang/String") (hr : meth.sig.returnType = (Option.some Jvm.ClassFile.FieldType.boolean)) (hin : meth.name = "equals") (hT : ∀ x ∈ c.exceptionTable.toList, False) (hmc : mc = gL G - s.heap.size ∧ ms = gU G - hsum s.heap)   {v0 : Option Nat} {v1 : Option Nat} {z : hSt} (hw : wJ10_equalsb0 G P PX  v0 v1 z) : kt G p l e (rmJ10_equals mc ms) s m args below meth c 3 (vx_MQ below (cQ G (pI P)) (cX G PX) args s mc ms (gF G)) 0 [(0, va_rf v0), (1, va_rf v1)] [] z := by
  intro H locs ls hS hl
  refine r_aload_n C.1 C.2.1 dJ10_equals_0 rfl (lv_at hl 0 rfl) ?_
  refine r_aload_n C.1 C.2.1 dJ10_equals_1 rfl (lv_at hl 1 rfl) ?_
  refine lv_acmp_ne C.1 C.2.1 dJ10_equals_2 rfl (fun h => ?_) (fun h => ?_)
  · have hw := hw.1 h
    refine r_aload_n C.1 C.2.1 dJ10_equals_7 rfl (lv_at hl 1 rfl) ?_
    refine r_inst C hS q1417 ca_0 (fun _ h => absurd h List.not_mem_nil) dJ10_equals_8 hw (fun x1 hw => ?_)
    refine lv_if_eq C.1 C.2.1 dJ10_equals_11 rfl (fun h => ?_) (fun h => ?_)
    · have hw := hw.1 h
      exact kJ10_equalsb54 C hr hin hT hmc  hw H locs ls hS (lv_sub hl [] rfl)
    · have hw := hw.2 h
      refine r_aload_n C.1 C.2.1 dJ10_equals_14 rfl (lv_at hl 1 rfl) ?_
      refine r_cast0 C hS q1417 ca_0 dJ10_equals_15 hw.1 ?_
      have hw := hw.2
      refine r_astore_n C.1 C.2.1 dJ10_equals_18 rfl hl (Nat.le_of_ble_eq_true rfl) (ls_new (ls_old 0 rfl rfl (.inl rfl) ls_nil)) (fun ls hl => ?_)
      refine r_gets C hS (v := .int 1) (by simp [gSTA]) q944 dJ10_equals_19 ?_
      refine lv_if_eq C.1 C.2.1 dJ10_equals_22 rfl (fun h => ?_) (fun h => ?_)
      · have hw := hw.1 h
        exact kJ10_equalsb36 C hr hin hT hmc  hw H locs ls hS (lv_sub hl [1, 0] rfl)
      · have hw := hw.2 h
        refine r_aload_n C.1 C.2.1 dJ10_equals_25 rfl (lv_at hl 1 rfl) ?_
        refine r_getI C hS fo_17_1 (fl_d C q1213) (fun _ h => h) dJ10_equals_26 hw (fun x2 hw => ?_)
        refine r_aload_n C.1 C.2.1 dJ10_equals_29 rfl (lv_at hl 0 rfl) ?_
        refine r_getI C hS fo_17_1 (fl_d C q1213) (fun _ h => h) dJ10_equals_30 hw (fun x3 hw => ?_)
        refine lv_icmp_ne C.1 C.2.1 dJ10_equals_33 rfl (fun h => ?_) (fun h => ?_)
        · have hw := hw.1 h
          exact kJ10_equalsb54 C hr hin hT hmc  hw H locs ls hS (lv_sub hl [] rfl)
        · have hw := hw.2 h
          exact kJ10_equalsb36 C hr hin hT hmc  hw H locs ls hS (lv_sub hl [1, 0] rfl)
  · have hw := hw.2 h
    refine lv_iconst C.1 C.2.1 (v := 1) dJ10_equals_5 rfl ?_
    exact r_zret C hS hmc hr dJ10_equals_6 hw
end
theorem kJ10_equals {l : Launch} (hl : l.stackTraces = false) {G : gE} {P : Int32 → hSt → Prop} {PX : Nat → Nat → hSt → Prop} {v0 : Option Nat} {v1 : Option Nat} {z : hSt} : cM l G yJ10_equals (ws_ yJ10_equals cJ10_equals 3 (Option.some Jvm.ClassFile.FieldType.boolean)) 10 160 z [va_rf v0, va_rf v1] (wJ10_equals G P PX v0 v1 z) (pI P) PX := by
  refine m_of hl (plainFor_of_name (by decide)) (by rw [lg_sl1 (va_rf_cat _), lg_sl1 (va_rf_cat _)]; exact Nat.le_of_ble_eq_true rfl) ?_
  intro p e s m args below meth c C hr hin hT hmc hw
  rw [lv_args1 (va_rf_cat _), lv_args1 (va_rf_cat _)]
  intro H locs ls hS hl
  exact kJ10_equalsb0 C hr hin hT hmc hw H locs ls hS (lv_sub hl [0, 1] rfl)
theorem hdJ10_equals : yJ10_equals.cls ≠ "java/lang/invoke/MethodHandle" ∧ yJ10_equals.cls ≠ "java/lang/invoke/VarHandle" ∧ (parseMethodDescriptor yJ10_equals.desc).map (fun d => d.parameters.length) = some 1 := ⟨by decide +kernel, by decide +kernel, by decide +kernel⟩
abbrev rmJ10_isLatin1 (mc ms : Nat) : Room := { frames := 10, cells := mc, slots := ms, locals := 160 }
def wJ10_isLatin1b17 (G : gE) (P : Int32 → hSt → Prop) (PX : Nat → Nat → hSt → Prop)   (z : hSt) : Prop :=
  (okN .boolean 0 ∧ P 0 z)
def wJ10_isLatin1b0 (G : gE) (P : Int32 → hSt → Prop) (PX : Nat → Nat → hSt → Prop)  (v0 : Option Nat) (z : hSt) : Prop :=
  (((1 : Int32) = 0 → wJ10_isLatin1b17 G P PX   z) ∧ (¬ (1 : Int32) = 0 → gtI z v0 [17] 1 (fun x1 => ((¬ x1 = 0 → wJ10_isLatin1b17 G P PX   z) ∧ (x1 = 0 → (okN .boolean 1 ∧ P 1 z))))))
def wJ10_isLatin1 (G : gE) (P : Int32 → hSt → Prop) (PX : Nat → Nat → hSt → Prop) (v0 : Option Nat) (z : hSt) : Prop := wJ10_isLatin1b0 G P PX v0 z
section
variable {p : Program} {l : Launch} {e : Env} {s : State} {m : MethodId} {args : Array Value} {below : List Frame} {meth : Method} {c : Code} {G : gE} {mc ms : Nat} {P : Int32 → hSt → Prop} {PX : Nat → Nat → hSt → Prop}
theorem kJ10_isLatin1b17 (C : xC G p l s m args meth c cJ10_isLatin1 1 "java/lang/String") (hr : meth.sig.returnType = (Option.some Jvm.ClassFile.FieldType.boolean)) (hin : meth.name = "isLatin1") (hT : ∀ x ∈ c.exceptionTable.toList, False) (hmc : mc = gL G - s.heap.size ∧ ms = gU G - hsum s.heap)    {z : hSt} (hw : wJ10_isLatin1b17 G P PX   z) : kt G p l e (rmJ10_isLatin1 mc ms) s m args below meth c 1 (vx_MQ below (cQ G (pI P)) (cX G PX) args s mc ms (gF G)) 17 [] [] z := by
  intro H locs ls hS hl
  refine lv_iconst C.1 C.2.1 (v := 0) dJ10_isLatin1_17 rfl ?_
  exact r_zret C hS hmc hr dJ10_isLatin1_18 hw
theorem kJ10_isLatin1b0 (C : xC G p l s m args meth c cJ10_isLatin1 1 "java/lang/String") (hr : meth.sig.returnType = (Option.some Jvm.ClassFile.FieldType.boolean)) (hin : meth.name = "isLatin1") (hT : ∀ x ∈ c.exceptionTable.toList, False) (hmc : mc = gL G - s.heap.size ∧ ms = gU G - hsum s.heap)   {v0 : Option Nat} {z : hSt} (hw : wJ10_isLatin1b0 G P PX  v0 z) : kt G p l e (rmJ10_isLatin1 mc ms) s m args below meth c 1 (vx_MQ below (cQ G (pI P)) (cX G PX) args s mc ms (gF G)) 0 [(0, va_rf v0)] [] z := by
  intro H locs ls hS hl
  refine r_gets C hS (v := .int 1) (by simp [gSTA]) q944 dJ10_isLatin1_0 ?_
  refine lv_if_eq C.1 C.2.1 dJ10_isLatin1_3 rfl (fun h => ?_) (fun h => ?_)
  · have hw := hw.1 h
    exact kJ10_isLatin1b17 C hr hin hT hmc  hw H locs ls hS (lv_sub hl [] rfl)
  · have hw := hw.2 h
    refine r_aload_n C.1 C.2.1 dJ10_isLatin1_6 rfl (lv_at hl 0 rfl) ?_
    refine r_getI C hS fo_17_1 (fl_d C q1213) (fun _ h => h) dJ10_isLatin1_7 hw (fun x1 hw => ?_)
    refine lv_if_ne C.1 C.2.1 dJ10_isLatin1_10 rfl (fun h => ?_) (fun h => ?_)
    · have hw := hw.1 h
      exact kJ10_isLatin1b17 C hr hin hT hmc  hw H locs ls hS (lv_sub hl [] rfl)
    · have hw := hw.2 h
      refine lv_iconst C.1 C.2.1 (v := 1) dJ10_isLatin1_13 rfl ?_
      refine lv_goto C.1 C.2.1 dJ10_isLatin1_14 rfl ?_
      exact r_zret C hS hmc hr dJ10_isLatin1_18 hw
end
theorem kJ10_isLatin1 {l : Launch} (hl : l.stackTraces = false) {G : gE} {P : Int32 → hSt → Prop} {PX : Nat → Nat → hSt → Prop} {v0 : Option Nat} {z : hSt} : cM l G yJ10_isLatin1 (ws_ yJ10_isLatin1 cJ10_isLatin1 1 (Option.some Jvm.ClassFile.FieldType.boolean)) 10 160 z [va_rf v0] (wJ10_isLatin1 G P PX v0 z) (pI P) PX := by
  refine m_of hl (plainFor_of_name (by decide)) (by rw [lg_sl1 (va_rf_cat _)]; exact Nat.le_of_ble_eq_true rfl) ?_
  intro p e s m args below meth c C hr hin hT hmc hw
  rw [lv_args1 (va_rf_cat _)]
  intro H locs ls hS hl
  exact kJ10_isLatin1b0 C hr hin hT hmc hw H locs ls hS (lv_sub hl [0] rfl)
theorem hdJ10_isLatin1 : yJ10_isLatin1.cls ≠ "java/lang/invoke/MethodHandle" ∧ yJ10_isLatin1.cls ≠ "java/lang/invoke/VarHandle" ∧ (parseMethodDescriptor yJ10_isLatin1.desc).map (fun d => d.parameters.length) = some 0 := ⟨by decide +kernel, by decide +kernel, by decide +kernel⟩
abbrev rmJ10_hashCode (mc ms : Nat) : Room := { frames := 11, cells := mc, slots := ms, locals := 180 }
def wJ10_hashCodeb58 (G : gE) (P : Int32 → hSt → Prop) (PX : Nat → Nat → hSt → Prop)  (v1 : Int32) (z : hSt) : Prop :=
  P v1 z
def wJ10_hashCodeb0 (G : gE) (P : Int32 → hSt → Prop) (PX : Nat → Nat → hSt → Prop)  (v0 : Option Nat) (z : hSt) : Prop :=
  gtI z v0 [17] 2 (fun x1 => ((¬ x1 = 0 → wJ10_hashCodeb58 G P PX  x1 z) ∧ (x1 = 0 → gtI z v0 [17] 3 (fun x2 => ((¬ x2 = 0 → wJ10_hashCodeb58 G P PX  x1 z) ∧ (x2 = 0 → (rcv z v0 17 ∧ wJ10_isLatin1 G (fun x4 z3 => ((x4 = 0 → gtR z3 v0 [17] 0 (fun x5 => False)) ∧ (¬ x4 = 0 → gtR z3 v0 [17] 0 (fun x6 => False)))) PX v0  z)))))))
def wJ10_hashCode (G : gE) (P : Int32 → hSt → Prop) (PX : Nat → Nat → hSt → Prop) (v0 : Option Nat) (z : hSt) : Prop := wJ10_hashCodeb0 G P PX v0 z
section
variable {p : Program} {l : Launch} {e : Env} {s : State} {m : MethodId} {args : Array Value} {below : List Frame} {meth : Method} {c : Code} {G : gE} {mc ms : Nat} {P : Int32 → hSt → Prop} {PX : Nat → Nat → hSt → Prop}
theorem kJ10_hashCodeb58 (C : xC G p l s m args meth c cJ10_hashCode 2 "java/lang/String") (hr : meth.sig.returnType = (Option.some Jvm.ClassFile.FieldType.int)) (hin : meth.name = "hashCode") (hT : ∀ x ∈ c.exceptionTable.toList, False) (hmc : mc = gL G - s.heap.size ∧ ms = gU G - hsum s.heap)   {v1 : Int32} {z : hSt} (hw : wJ10_hashCodeb58 G P PX  v1 z) : kt G p l e (rmJ10_hashCode mc ms) s m args below meth c 2 (vx_MQ below (cQ G (pI P)) (cX G PX) args s mc ms (gF G)) 58 [(1, .int v1)] [] z := by
  intro H locs ls hS hl
  refine lv_iload_n C.1 C.2.1 dJ10_hashCode_58 rfl (lv_at hl 0 rfl) ?_
  exact r_iret C hS hmc hr dJ10_hashCode_59 hw
theorem kJ10_hashCodeb0 (C : xC G p l s m args meth c cJ10_hashCode 2 "java/lang/String") (hr : meth.sig.returnType = (Option.some Jvm.ClassFile.FieldType.int)) (hin : meth.name = "hashCode") (hT : ∀ x ∈ c.exceptionTable.toList, False) (hmc : mc = gL G - s.heap.size ∧ ms = gU G - hsum s.heap)   {v0 : Option Nat} {z : hSt} (hw : wJ10_hashCodeb0 G P PX  v0 z) : kt G p l e (rmJ10_hashCode mc ms) s m args below meth c 2 (vx_MQ below (cQ G (pI P)) (cX G PX) args s mc ms (gF G)) 0 [(0, va_rf v0)] [] z := by
  intro H locs ls hS hl
  refine r_aload_n C.1 C.2.1 dJ10_hashCode_0 rfl (lv_at hl 0 rfl) ?_
  refine r_getI C hS fo_17_2 (fl_d C q1214) (fun _ h => h) dJ10_hashCode_1 hw (fun x1 hw => ?_)
  refine r_istore_n C.1 C.2.1 dJ10_hashCode_4 rfl hl (Nat.le_of_ble_eq_true rfl) (ls_new (ls_old 0 rfl rfl (.inr (va_rf_cat _)) ls_nil)) (fun ls hl => ?_)
  refine lv_iload_n C.1 C.2.1 dJ10_hashCode_5 rfl (lv_at hl 0 rfl) ?_
  refine lv_if_ne C.1 C.2.1 dJ10_hashCode_6 rfl (fun h => ?_) (fun h => ?_)
  · have hw := hw.1 h
    exact kJ10_hashCodeb58 C hr hin hT hmc  hw H locs ls hS (lv_sub hl [0] rfl)
  · have hw := hw.2 h
    refine r_aload_n C.1 C.2.1 dJ10_hashCode_9 rfl (lv_at hl 1 rfl) ?_
    refine r_getI C hS fo_17_3 (fl_d C q1215) (fun _ h => h) dJ10_hashCode_10 hw (fun x2 hw => ?_)
    refine lv_if_ne C.1 C.2.1 dJ10_hashCode_13 rfl (fun h => ?_) (fun h => ?_)
    · have hw := hw.1 h
      exact kJ10_hashCodeb58 C hr hin hT hmc  hw H locs ls hS (lv_sub hl [0] rfl)
    · have hw := hw.2 h
      refine r_aload_n C.1 C.2.1 dJ10_hashCode_16 rfl (lv_at hl 1 rfl) ?_
      refine c_V C hS hmc hl.1 (ci := 17) rfl hw.1 (kJ10_isLatin1 C.2.2.2.2.2.2.1) hw.2 (lw_V q940 q941 q942 q81 q943) ⟨rfl, hdJ10_isLatin1⟩ ⟨Nat.le_of_ble_eq_true rfl, Nat.le_of_ble_eq_true rfl⟩ (rest := []) rfl rfl (Nat.le_of_ble_eq_true rfl) dJ10_hashCode_17 (fun ci q z H locs hx hS ht => r_out C hS hmc (fun x hx => (hT x hx).elim) ht hx) (fun v z3 H locs hv hS => ?_)
      obtain ⟨x4, rfl, hw⟩ := hv
      refine lv_if_eq C.1 C.2.1 dJ10_hashCode_20 rfl (fun h => ?_) (fun h => ?_)
      · have hw := hw.1 h
        refine r_aload_n C.1 C.2.1 dJ10_hashCode_33 rfl (lv_at hl 1 rfl) ?_
        refine r_getR C hS fo_17_0 (fl_d C q1212) (fun _ h => h) dJ10_hashCode_34 hw (fun x5 hw => ?_)
        exact hw.elim
      · have hw := hw.2 h
        refine r_aload_n C.1 C.2.1 dJ10_hashCode_23 rfl (lv_at hl 1 rfl) ?_
        refine r_getR C hS fo_17_0 (fl_d C q1212) (fun _ h => h) dJ10_hashCode_24 hw (fun x6 hw => ?_)
        exact hw.elim
end
theorem kJ10_hashCode {l : Launch} (hl : l.stackTraces = false) {G : gE} {P : Int32 → hSt → Prop} {PX : Nat → Nat → hSt → Prop} {v0 : Option Nat} {z : hSt} : cM l G yJ10_hashCode (ws_ yJ10_hashCode cJ10_hashCode 2 (Option.some Jvm.ClassFile.FieldType.int)) 11 180 z [va_rf v0] (wJ10_hashCode G P PX v0 z) (pI P) PX := by
  refine m_of hl (plainFor_of_name (by decide)) (by rw [lg_sl1 (va_rf_cat _)]; exact Nat.le_of_ble_eq_true rfl) ?_
  intro p e s m args below meth c C hr hin hT hmc hw
  rw [lv_args1 (va_rf_cat _)]
  intro H locs ls hS hl
  exact kJ10_hashCodeb0 C hr hin hT hmc hw H locs ls hS (lv_sub hl [0] rfl)
theorem hdJ10_hashCode : yJ10_hashCode.cls ≠ "java/lang/invoke/MethodHandle" ∧ yJ10_hashCode.cls ≠ "java/lang/invoke/VarHandle" ∧ (parseMethodDescriptor yJ10_hashCode.desc).map (fun d => d.parameters.length) = some 0 := ⟨by decide +kernel, by decide +kernel, by decide +kernel⟩
abbrev rmJ31_intValue (mc ms : Nat) : Room := { frames := 10, cells := mc, slots := ms, locals := 160 }
def wJ31_intValueb0 (G : gE) (P : Int32 → hSt → Prop) (PX : Nat → Nat → hSt → Prop)  (v0 : Option Nat) (z : hSt) : Prop :=
  gtI z v0 [25] 0 (fun x1 => P x1 z)
def wJ31_intValue (G : gE) (P : Int32 → hSt → Prop) (PX : Nat → Nat → hSt → Prop) (v0 : Option Nat) (z : hSt) : Prop := wJ31_intValueb0 G P PX v0 z
section
variable {p : Program} {l : Launch} {e : Env} {s : State} {m : MethodId} {args : Array Value} {below : List Frame} {meth : Method} {c : Code} {G : gE} {mc ms : Nat} {P : Int32 → hSt → Prop} {PX : Nat → Nat → hSt → Prop}
theorem kJ31_intValueb0 (C : xC G p l s m args meth c cJ31_intValue 1 "java/lang/Integer") (hr : meth.sig.returnType = (Option.some Jvm.ClassFile.FieldType.int)) (hin : meth.name = "intValue") (hT : ∀ x ∈ c.exceptionTable.toList, False) (hmc : mc = gL G - s.heap.size ∧ ms = gU G - hsum s.heap)   {v0 : Option Nat} {z : hSt} (hw : wJ31_intValueb0 G P PX  v0 z) : kt G p l e (rmJ31_intValue mc ms) s m args below meth c 1 (vx_MQ below (cQ G (pI P)) (cX G PX) args s mc ms (gF G)) 0 [(0, va_rf v0)] [] z := by
  intro H locs ls hS hl
  refine r_aload_n C.1 C.2.1 dJ31_intValue_0 rfl (lv_at hl 0 rfl) ?_
  refine r_getI C hS fo_25_0 (fl_d C q2148) (fun _ h => h) dJ31_intValue_1 hw (fun x1 hw => ?_)
  exact r_iret C hS hmc hr dJ31_intValue_4 hw
end
theorem kJ31_intValue {l : Launch} (hl : l.stackTraces = false) {G : gE} {P : Int32 → hSt → Prop} {PX : Nat → Nat → hSt → Prop} {v0 : Option Nat} {z : hSt} : cM l G yJ31_intValue (ws_ yJ31_intValue cJ31_intValue 1 (Option.some Jvm.ClassFile.FieldType.int)) 10 160 z [va_rf v0] (wJ31_intValue G P PX v0 z) (pI P) PX := by
  refine m_of hl (plainFor_of_name (by decide)) (by rw [lg_sl1 (va_rf_cat _)]; exact Nat.le_of_ble_eq_true rfl) ?_
  intro p e s m args below meth c C hr hin hT hmc hw
  rw [lv_args1 (va_rf_cat _)]
  intro H locs ls hS hl
  exact kJ31_intValueb0 C hr hin hT hmc hw H locs ls hS (lv_sub hl [0] rfl)
theorem hdJ31_intValue : yJ31_intValue.cls ≠ "java/lang/invoke/MethodHandle" ∧ yJ31_intValue.cls ≠ "java/lang/invoke/VarHandle" ∧ (parseMethodDescriptor yJ31_intValue.desc).map (fun d => d.parameters.length) = some 0 := ⟨by decide +kernel, by decide +kernel, by decide +kernel⟩
abbrev rmJ31_equals (mc ms : Nat) : Room := { frames := 11, cells := mc, slots := ms, locals := 180 }
def wJ31_equalsb0 (G : gE) (P : Int32 → hSt → Prop) (PX : Nat → Nat → hSt → Prop)  (v0 : Option Nat) (v1 : Option Nat) (z : hSt) : Prop :=
  ioO z v1 [25] [] (fun x1 => ((x1 = 0 → (okN .boolean 0 ∧ P 0 z)) ∧ (¬ x1 = 0 → gtI z v0 [25] 0 (fun x2 => (ckO z v1 [25] ∧ (rcv z v1 25 ∧ wJ31_intValue G (fun x4 z3 => ((¬ x2 = x4 → (okN .boolean 0 ∧ P 0 z3)) ∧ (x2 = x4 → (okN .boolean 1 ∧ P 1 z3)))) PX v1  z))))))
def wJ31_equals (G : gE) (P : Int32 → hSt → Prop) (PX : Nat → Nat → hSt → Prop) (v0 : Option Nat) (v1 : Option Nat) (z : hSt) : Prop := wJ31_equalsb0 G P PX v0 v1 z
section
variable {p : Program} {l : Launch} {e : Env} {s : State} {m : MethodId} {args : Array Value} {below : List Frame} {meth : Method} {c : Code} {G : gE} {mc ms : Nat} {P : Int32 → hSt → Prop} {PX : Nat → Nat → hSt → Prop}
theorem kJ31_equalsb0 (C : xC G p l s m args meth c cJ31_equals 2 "java/lang/Integer") (hr : meth.sig.returnType = (Option.some Jvm.ClassFile.FieldType.boolean)) (hin : meth.name = "equals") (hT : ∀ x ∈ c.exceptionTable.toList, False) (hmc : mc = gL G - s.heap.size ∧ ms = gU G - hsum s.heap)   {v0 : Option Nat} {v1 : Option Nat} {z : hSt} (hw : wJ31_equalsb0 G P PX  v0 v1 z) : kt G p l e (rmJ31_equals mc ms) s m args below meth c 2 (vx_MQ below (cQ G (pI P)) (cX G PX) args s mc ms (gF G)) 0 [(0, va_rf v0), (1, va_rf v1)] [] z := by
  intro H locs ls hS hl
  refine r_aload_n C.1 C.2.1 dJ31_equals_0 rfl (lv_at hl 1 rfl) ?_
  refine r_inst C hS q1403 ca_5 (fun _ h => absurd h List.not_mem_nil) dJ31_equals_1 hw (fun x1 hw => ?_)
  refine lv_if_eq C.1 C.2.1 dJ31_equals_4 rfl (fun h => ?_) (fun h => ?_)
  · have hw := hw.1 h
    refine lv_iconst C.1 C.2.1 (v := 0) dJ31_equals_27 rfl ?_
    exact r_zret C hS hmc hr dJ31_equals_28 hw
  · have hw := hw.2 h
    refine r_aload_n C.1 C.2.1 dJ31_equals_7 rfl (lv_at hl 0 rfl) ?_
    refine r_getI C hS fo_25_0 (fl_d C q2148) (fun _ h => h) dJ31_equals_8 hw (fun x2 hw => ?_)
    refine r_aload_n C.1 C.2.1 dJ31_equals_11 rfl (lv_at hl 1 rfl) ?_
    refine r_cast0 C hS q1403 ca_5 dJ31_equals_12 hw.1 ?_
    have hw := hw.2
    refine c_V C hS hmc hl.1 (ci := 25) rfl hw.1 (kJ31_intValue C.2.2.2.2.2.2.1) hw.2 (lw_V q1647 q1648 q1649 q106 q1650) ⟨rfl, hdJ31_intValue⟩ ⟨Nat.le_of_ble_eq_true rfl, Nat.le_of_ble_eq_true rfl⟩ (rest := [.int x2]) rfl rfl (Nat.le_of_ble_eq_true rfl) dJ31_equals_15 (fun ci q z H locs hx hS ht => r_out C hS hmc (fun x hx => (hT x hx).elim) ht hx) (fun v z3 H locs hv hS => ?_)
    obtain ⟨x4, rfl, hw⟩ := hv
    refine lv_icmp_ne C.1 C.2.1 dJ31_equals_18 rfl (fun h => ?_) (fun h => ?_)
    · have hw := hw.1 h
      refine lv_iconst C.1 C.2.1 (v := 0) dJ31_equals_25 rfl ?_
      exact r_zret C hS hmc hr dJ31_equals_26 hw
    · have hw := hw.2 h
      refine lv_iconst C.1 C.2.1 (v := 1) dJ31_equals_21 rfl ?_
      refine lv_goto C.1 C.2.1 dJ31_equals_22 rfl ?_
      exact r_zret C hS hmc hr dJ31_equals_26 hw
end
theorem kJ31_equals {l : Launch} (hl : l.stackTraces = false) {G : gE} {P : Int32 → hSt → Prop} {PX : Nat → Nat → hSt → Prop} {v0 : Option Nat} {v1 : Option Nat} {z : hSt} : cM l G yJ31_equals (ws_ yJ31_equals cJ31_equals 2 (Option.some Jvm.ClassFile.FieldType.boolean)) 11 180 z [va_rf v0, va_rf v1] (wJ31_equals G P PX v0 v1 z) (pI P) PX := by
  refine m_of hl (plainFor_of_name (by decide)) (by rw [lg_sl1 (va_rf_cat _), lg_sl1 (va_rf_cat _)]; exact Nat.le_of_ble_eq_true rfl) ?_
  intro p e s m args below meth c C hr hin hT hmc hw
  rw [lv_args1 (va_rf_cat _), lv_args1 (va_rf_cat _)]
  intro H locs ls hS hl
  exact kJ31_equalsb0 C hr hin hT hmc hw H locs ls hS (lv_sub hl [0, 1] rfl)
theorem hdJ31_equals : yJ31_equals.cls ≠ "java/lang/invoke/MethodHandle" ∧ yJ31_equals.cls ≠ "java/lang/invoke/VarHandle" ∧ (parseMethodDescriptor yJ31_equals.desc).map (fun d => d.parameters.length) = some 1 := ⟨by decide +kernel, by decide +kernel, by decide +kernel⟩
abbrev rmJ31_hashCode_2 (mc ms : Nat) : Room := { frames := 10, cells := mc, slots := ms, locals := 160 }
def wJ31_hashCode_2b0 (G : gE) (P : Int32 → hSt → Prop) (PX : Nat → Nat → hSt → Prop)  (v0 : Int32) (z : hSt) : Prop :=
  P v0 z
def wJ31_hashCode_2 (G : gE) (P : Int32 → hSt → Prop) (PX : Nat → Nat → hSt → Prop) (v0 : Int32) (z : hSt) : Prop := wJ31_hashCode_2b0 G P PX v0 z
section
variable {p : Program} {l : Launch} {e : Env} {s : State} {m : MethodId} {args : Array Value} {below : List Frame} {meth : Method} {c : Code} {G : gE} {mc ms : Nat} {P : Int32 → hSt → Prop} {PX : Nat → Nat → hSt → Prop}
theorem kJ31_hashCode_2b0 (C : xC G p l s m args meth c cJ31_hashCode_2 1 "java/lang/Integer") (hr : meth.sig.returnType = (Option.some Jvm.ClassFile.FieldType.int)) (hin : meth.name = "hashCode") (hT : ∀ x ∈ c.exceptionTable.toList, False) (hmc : mc = gL G - s.heap.size ∧ ms = gU G - hsum s.heap)   {v0 : Int32} {z : hSt} (hw : wJ31_hashCode_2b0 G P PX  v0 z) : kt G p l e (rmJ31_hashCode_2 mc ms) s m args below meth c 1 (vx_MQ below (cQ G (pI P)) (cX G PX) args s mc ms (gF G)) 0 [(0, .int v0)] [] z := by
  intro H locs ls hS hl
  refine lv_iload_n C.1 C.2.1 dJ31_hashCode_2_0 rfl (lv_at hl 0 rfl) ?_
  exact r_iret C hS hmc hr dJ31_hashCode_2_1 hw
end
theorem kJ31_hashCode_2 {l : Launch} (hl : l.stackTraces = false) {G : gE} {P : Int32 → hSt → Prop} {PX : Nat → Nat → hSt → Prop} {v0 : Int32} {z : hSt} : cM l G yJ31_hashCode_2 (ws_ yJ31_hashCode_2 cJ31_hashCode_2 1 (Option.some Jvm.ClassFile.FieldType.int)) 10 160 z [.int v0] (wJ31_hashCode_2 G P PX v0 z) (pI P) PX := by
  refine m_of hl (plainFor_of_name (by decide)) (by rw [lg_sl1 rfl]; exact Nat.le_of_ble_eq_true rfl) ?_
  intro p e s m args below meth c C hr hin hT hmc hw
  rw [lv_args1 rfl]
  intro H locs ls hS hl
  exact kJ31_hashCode_2b0 C hr hin hT hmc hw H locs ls hS (lv_sub hl [0] rfl)
theorem hdJ31_hashCode_2 : yJ31_hashCode_2.cls ≠ "java/lang/invoke/MethodHandle" ∧ yJ31_hashCode_2.cls ≠ "java/lang/invoke/VarHandle" ∧ (parseMethodDescriptor yJ31_hashCode_2.desc).map (fun d => d.parameters.length) = some 1 := ⟨by decide +kernel, by decide +kernel, by decide +kernel⟩
abbrev rmJ31_hashCode (mc ms : Nat) : Room := { frames := 11, cells := mc, slots := ms, locals := 180 }
def wJ31_hashCodeb0 (G : gE) (P : Int32 → hSt → Prop) (PX : Nat → Nat → hSt → Prop)  (v0 : Option Nat) (z : hSt) : Prop :=
  gtI z v0 [25] 0 (fun x1 => wJ31_hashCode_2 G (fun x3 z2 => P x3 z2) PX x1 z)
def wJ31_hashCode (G : gE) (P : Int32 → hSt → Prop) (PX : Nat → Nat → hSt → Prop) (v0 : Option Nat) (z : hSt) : Prop := wJ31_hashCodeb0 G P PX v0 z
section
variable {p : Program} {l : Launch} {e : Env} {s : State} {m : MethodId} {args : Array Value} {below : List Frame} {meth : Method} {c : Code} {G : gE} {mc ms : Nat} {P : Int32 → hSt → Prop} {PX : Nat → Nat → hSt → Prop}
theorem kJ31_hashCodeb0 (C : xC G p l s m args meth c cJ31_hashCode 1 "java/lang/Integer") (hr : meth.sig.returnType = (Option.some Jvm.ClassFile.FieldType.int)) (hin : meth.name = "hashCode") (hT : ∀ x ∈ c.exceptionTable.toList, False) (hmc : mc = gL G - s.heap.size ∧ ms = gU G - hsum s.heap)   {v0 : Option Nat} {z : hSt} (hw : wJ31_hashCodeb0 G P PX  v0 z) : kt G p l e (rmJ31_hashCode mc ms) s m args below meth c 1 (vx_MQ below (cQ G (pI P)) (cX G PX) args s mc ms (gF G)) 0 [(0, va_rf v0)] [] z := by
  intro H locs ls hS hl
  refine r_aload_n C.1 C.2.1 dJ31_hashCode_0 rfl (lv_at hl 0 rfl) ?_
  refine r_getI C hS fo_25_0 (fl_d C q2148) (fun _ h => h) dJ31_hashCode_1 hw (fun x1 hw => ?_)
  refine c_S C hS hmc hl.1 (kJ31_hashCode_2 C.2.2.2.2.2.2.1) hw (lw_S q934 q935 q106 q936) hdJ31_hashCode_2 ⟨Nat.le_of_ble_eq_true rfl, Nat.le_of_ble_eq_true rfl⟩ (rest := []) rfl rfl (Nat.le_of_ble_eq_true rfl) dJ31_hashCode_4 (fun ci q z H locs hx hS ht => r_out C hS hmc (fun x hx => (hT x hx).elim) ht hx) (fun v z2 H locs hv hS => ?_)
  obtain ⟨x3, rfl, hw⟩ := hv
  exact r_iret C hS hmc hr dJ31_hashCode_7 hw
end
theorem kJ31_hashCode {l : Launch} (hl : l.stackTraces = false) {G : gE} {P : Int32 → hSt → Prop} {PX : Nat → Nat → hSt → Prop} {v0 : Option Nat} {z : hSt} : cM l G yJ31_hashCode (ws_ yJ31_hashCode cJ31_hashCode 1 (Option.some Jvm.ClassFile.FieldType.int)) 11 180 z [va_rf v0] (wJ31_hashCode G P PX v0 z) (pI P) PX := by
  refine m_of hl (plainFor_of_name (by decide)) (by rw [lg_sl1 (va_rf_cat _)]; exact Nat.le_of_ble_eq_true rfl) ?_
  intro p e s m args below meth c C hr hin hT hmc hw
  rw [lv_args1 (va_rf_cat _)]
  intro H locs ls hS hl
  exact kJ31_hashCodeb0 C hr hin hT hmc hw H locs ls hS (lv_sub hl [0] rfl)
theorem hdJ31_hashCode : yJ31_hashCode.cls ≠ "java/lang/invoke/MethodHandle" ∧ yJ31_hashCode.cls ≠ "java/lang/invoke/VarHandle" ∧ (parseMethodDescriptor yJ31_hashCode.desc).map (fun d => d.parameters.length) = some 0 := ⟨by decide +kernel, by decide +kernel, by decide +kernel⟩
abbrev rmJ30_init (mc ms : Nat) : Room := { frames := 10, cells := mc, slots := ms, locals := 160 }
def wJ30_initb0 (G : gE) (P : hSt → Prop) (PX : Nat → Nat → hSt → Prop)  (v0 : Option Nat) (z : hSt) : Prop :=
  (nnl v0 ∧ P z)
def wJ30_init (G : gE) (P : hSt → Prop) (PX : Nat → Nat → hSt → Prop) (v0 : Option Nat) (z : hSt) : Prop := wJ30_initb0 G P PX v0 z
section
variable {p : Program} {l : Launch} {e : Env} {s : State} {m : MethodId} {args : Array Value} {below : List Frame} {meth : Method} {c : Code} {G : gE} {mc ms : Nat} {P : hSt → Prop} {PX : Nat → Nat → hSt → Prop}
theorem kJ30_initb0 (C : xC G p l s m args meth c cJ30_init 1 "java/lang/Number") (hr : meth.sig.returnType = (Option.none : Option Jvm.ClassFile.FieldType)) (hin : meth.name = "<init>") (hT : ∀ x ∈ c.exceptionTable.toList, False) (hmc : mc = gL G - s.heap.size ∧ ms = gU G - hsum s.heap)   {v0 : Option Nat} {z : hSt} (hw : wJ30_initb0 G P PX  v0 z) : kt G p l e (rmJ30_init mc ms) s m args below meth c 1 (vx_MQ below (cQ G (pV P)) (cX G PX) args s mc ms (gF G)) 0 [(0, va_rf v0)] [] z := by
  intro H locs ls hS hl
  refine r_aload_n C.1 C.2.1 dJ30_init_0 rfl (lv_at hl 0 rfl) ?_
  refine r_objInit C hl.1 hw.1 q2147 q140 q141 rfl dJ30_init_1 (Nat.le_of_ble_eq_true rfl) (Nat.le_of_ble_eq_true rfl) ?_
  have hw := hw.2
  exact r_vret C hS hmc hr dJ30_init_4 hw
end
theorem kJ30_init {l : Launch} (hl : l.stackTraces = false) {G : gE} {P : hSt → Prop} {PX : Nat → Nat → hSt → Prop} {v0 : Option Nat} {z : hSt} : cM l G yJ30_init (ws_ yJ30_init cJ30_init 1 (Option.none : Option Jvm.ClassFile.FieldType)) 10 160 z [va_rf v0] (wJ30_init G P PX v0 z) (pV P) PX := by
  refine m_of hl (plainFor_of_name (by decide)) (by rw [lg_sl1 (va_rf_cat _)]; exact Nat.le_of_ble_eq_true rfl) ?_
  intro p e s m args below meth c C hr hin hT hmc hw
  rw [lv_args1 (va_rf_cat _)]
  intro H locs ls hS hl
  exact kJ30_initb0 C hr hin hT hmc hw H locs ls hS (lv_sub hl [0] rfl)
theorem hdJ30_init : yJ30_init.cls ≠ "java/lang/invoke/MethodHandle" ∧ yJ30_init.cls ≠ "java/lang/invoke/VarHandle" ∧ (parseMethodDescriptor yJ30_init.desc).map (fun d => d.parameters.length) = some 0 := ⟨by decide +kernel, by decide +kernel, by decide +kernel⟩
abbrev rmJ31_init (mc ms : Nat) : Room := { frames := 11, cells := mc, slots := ms, locals := 180 }
def wJ31_initb0 (G : gE) (P : hSt → Prop) (PX : Nat → Nat → hSt → Prop)  (v0 : Option Nat) (v1 : Int32) (z : hSt) : Prop :=
  (nnl v0 ∧ wJ30_init G (fun z1 => ptV G z1 v0 [25] 0 (.int v1) (fun z2 => P z2)) PX v0  z)
def wJ31_init (G : gE) (P : hSt → Prop) (PX : Nat → Nat → hSt → Prop) (v0 : Option Nat) (v1 : Int32) (z : hSt) : Prop := wJ31_initb0 G P PX v0 v1 z
section
variable {p : Program} {l : Launch} {e : Env} {s : State} {m : MethodId} {args : Array Value} {below : List Frame} {meth : Method} {c : Code} {G : gE} {mc ms : Nat} {P : hSt → Prop} {PX : Nat → Nat → hSt → Prop}
theorem kJ31_initb0 (C : xC G p l s m args meth c cJ31_init 2 "java/lang/Integer") (hr : meth.sig.returnType = (Option.none : Option Jvm.ClassFile.FieldType)) (hin : meth.name = "<init>") (hT : ∀ x ∈ c.exceptionTable.toList, False) (hmc : mc = gL G - s.heap.size ∧ ms = gU G - hsum s.heap)   {v0 : Option Nat} {v1 : Int32} {z : hSt} (hw : wJ31_initb0 G P PX  v0 v1 z) : kt G p l e (rmJ31_init mc ms) s m args below meth c 2 (vx_MQ below (cQ G (pV P)) (cX G PX) args s mc ms (gF G)) 0 [(0, va_rf v0), (1, .int v1)] [] z := by
  intro H locs ls hS hl
  refine r_aload_n C.1 C.2.1 dJ31_init_0 rfl (lv_at hl 0 rfl) ?_
  refine c_I C hS hmc hl.1 hw.1 (kJ30_init C.2.2.2.2.2.2.1) hw.2 (lw_meth q2146) q105 q2144 q2145 rfl hdJ30_init ⟨Nat.le_of_ble_eq_true rfl, Nat.le_of_ble_eq_true rfl⟩ (rest := []) rfl rfl (Nat.le_of_ble_eq_true rfl) dJ31_init_1 (fun ci q z H locs hx hS ht => r_out C hS hmc (fun x hx => (hT x hx).elim) ht hx) (fun v z1 H locs hv hS => ?_)
  obtain ⟨rfl, hw⟩ := hv
  refine r_aload_n C.1 C.2.1 dJ31_init_4 rfl (lv_at hl 0 rfl) ?_
  refine lv_iload_n C.1 C.2.1 dJ31_init_5 rfl (lv_at hl 1 rfl) ?_
  refine r_putF C hS fo_25_0 (C.2.2.2.2.1 _ q2148) (fun _ h => h) hin rfl rfl rfl dJ31_init_6 hw (fun z2 H locs hw hS => ?_)
  exact r_vret C hS hmc hr dJ31_init_9 hw
end
theorem kJ31_init {l : Launch} (hl : l.stackTraces = false) {G : gE} {P : hSt → Prop} {PX : Nat → Nat → hSt → Prop} {v0 : Option Nat} {v1 : Int32} {z : hSt} : cM l G yJ31_init (ws_ yJ31_init cJ31_init 2 (Option.none : Option Jvm.ClassFile.FieldType)) 11 180 z [va_rf v0, .int v1] (wJ31_init G P PX v0 v1 z) (pV P) PX := by
  refine m_of hl (plainFor_of_name (by decide)) (by rw [lg_sl1 (va_rf_cat _), lg_sl1 rfl]; exact Nat.le_of_ble_eq_true rfl) ?_
  intro p e s m args below meth c C hr hin hT hmc hw
  rw [lv_args1 (va_rf_cat _), lv_args1 rfl]
  intro H locs ls hS hl
  exact kJ31_initb0 C hr hin hT hmc hw H locs ls hS (lv_sub hl [0, 1] rfl)
theorem hdJ31_init : yJ31_init.cls ≠ "java/lang/invoke/MethodHandle" ∧ yJ31_init.cls ≠ "java/lang/invoke/VarHandle" ∧ (parseMethodDescriptor yJ31_init.desc).map (fun d => d.parameters.length) = some 1 := ⟨by decide +kernel, by decide +kernel, by decide +kernel⟩
abbrev rmJ31_valueOf (mc ms : Nat) : Room := { frames := 12, cells := mc, slots := ms, locals := 201 }
def wJ31_valueOfb23 (G : gE) (P : Option Nat → hSt → Prop) (PX : Nat → Nat → hSt → Prop)  (v0 : Int32) (z : hSt) : Prop :=
  nwO G z 25 1 dfJ31 (fun x2 z3 => (nnl (some x2) ∧ wJ31_init G (fun z4 => P (some x2) z4) PX (some x2) v0 z3))
def wJ31_valueOfb0 (G : gE) (P : Option Nat → hSt → Prop) (PX : Nat → Nat → hSt → Prop)  (v0 : Int32) (z : hSt) : Prop :=
  ((v0 < (-128) → wJ31_valueOfb23 G P PX  v0 z) ∧ (¬ v0 < (-128) → ((127 < v0 → wJ31_valueOfb23 G P PX  v0 z) ∧ (¬ 127 < v0 → alR z (some (gA G 42)) arL (v0 + 128) (fun x1 => P x1 z)))))
def wJ31_valueOf (G : gE) (P : Option Nat → hSt → Prop) (PX : Nat → Nat → hSt → Prop) (v0 : Int32) (z : hSt) : Prop := wJ31_valueOfb0 G P PX v0 z
section
variable {p : Program} {l : Launch} {e : Env} {s : State} {m : MethodId} {args : Array Value} {below : List Frame} {meth : Method} {c : Code} {G : gE} {mc ms : Nat} {P : Option Nat → hSt → Prop} {PX : Nat → Nat → hSt → Prop}
theorem kJ31_valueOfb23 (C : xC G p l s m args meth c cJ31_valueOf 1 "java/lang/Integer") (hr : meth.sig.returnType = (Option.some (Jvm.ClassFile.FieldType.object "java/lang/Integer"))) (hin : meth.name = "valueOf") (hT : ∀ x ∈ c.exceptionTable.toList, False) (hmc : mc = gL G - s.heap.size ∧ ms = gU G - hsum s.heap)   {v0 : Int32} {z : hSt} (hw : wJ31_valueOfb23 G P PX  v0 z) : kt G p l e (rmJ31_valueOf mc ms) s m args below meth c 1 (vx_MQ below (cQ G (pR P)) (cX G PX) args s mc ms (gF G)) 23 [(0, .int v0)] [] z := by
  intro H locs ls hS hl
  refine r_new C hS (ci := 25) rfl in_J31 tyJ31_ok q1403 q2140 q106 rfl dfJ31_ok hmc dJ31_valueOf_23 hw (fun x2 z3 H locs hw hS => ?_)
  refine lv_dup C.1 C.2.1 dJ31_valueOf_26 (va_rf_cat _) ?_
  refine lv_iload_n C.1 C.2.1 dJ31_valueOf_27 rfl (lv_at hl 0 rfl) ?_
  refine c_I C hS hmc hl.1 hw.1 (kJ31_init C.2.2.2.2.2.2.1) hw.2 (lw_meth q2143) q106 q2141 q2142 rfl hdJ31_init ⟨Nat.le_of_ble_eq_true rfl, Nat.le_of_ble_eq_true rfl⟩ (rest := [va_rf (some x2)]) rfl rfl (Nat.le_of_ble_eq_true rfl) dJ31_valueOf_28 (fun ci q z H locs hx hS ht => r_out C hS hmc (fun x hx => (hT x hx).elim) ht hx) (fun v z4 H locs hv hS => ?_)
  obtain ⟨rfl, hw⟩ := hv
  exact r_aret C hS hmc hr (Or.inl ⟨_, rfl⟩) dJ31_valueOf_31 hw
theorem kJ31_valueOfb0 (C : xC G p l s m args meth c cJ31_valueOf 1 "java/lang/Integer") (hr : meth.sig.returnType = (Option.some (Jvm.ClassFile.FieldType.object "java/lang/Integer"))) (hin : meth.name = "valueOf") (hT : ∀ x ∈ c.exceptionTable.toList, False) (hmc : mc = gL G - s.heap.size ∧ ms = gU G - hsum s.heap)   {v0 : Int32} {z : hSt} (hw : wJ31_valueOfb0 G P PX  v0 z) : kt G p l e (rmJ31_valueOf mc ms) s m args below meth c 1 (vx_MQ below (cQ G (pR P)) (cX G PX) args s mc ms (gF G)) 0 [(0, .int v0)] [] z := by
  intro H locs ls hS hl
  refine lv_iload_n C.1 C.2.1 dJ31_valueOf_0 rfl (lv_at hl 0 rfl) ?_
  refine lv_bipush C.1 C.2.1 (v := (-128)) dJ31_valueOf_1 rfl ?_
  refine lv_icmp_lt C.1 C.2.1 dJ31_valueOf_3 rfl (fun h => ?_) (fun h => ?_)
  · have hw := hw.1 h
    exact kJ31_valueOfb23 C hr hin hT hmc  hw H locs ls hS (lv_sub hl [0] rfl)
  · have hw := hw.2 h
    refine lv_iload_n C.1 C.2.1 dJ31_valueOf_6 rfl (lv_at hl 0 rfl) ?_
    refine r_gets C hS (v := .int 127) (by simp [gSTA]) q2136 dJ31_valueOf_7 ?_
    refine lv_icmp_gt C.1 C.2.1 dJ31_valueOf_10 rfl (fun h => ?_) (fun h => ?_)
    · have hw := hw.1 h
      exact kJ31_valueOfb23 C hr hin hT hmc  hw H locs ls hS (lv_sub hl [0] rfl)
    · have hw := hw.2 h
      refine r_getsR C hS (k := 42) (by simp [gSTA]) q2138 dJ31_valueOf_13 ?_
      refine lv_iload_n C.1 C.2.1 dJ31_valueOf_16 rfl (lv_at hl 0 rfl) ?_
      refine lv_sipush C.1 C.2.1 (v := 128) dJ31_valueOf_17 rfl ?_
      refine lv_iadd C.1 C.2.1 dJ31_valueOf_20 ?_
      refine r_aald C hS arL_ok dJ31_valueOf_21 hw (fun x1 hw => ?_)
      exact r_aret C hS hmc hr (Or.inl ⟨_, rfl⟩) dJ31_valueOf_22 hw
end
theorem kJ31_valueOf {l : Launch} (hl : l.stackTraces = false) {G : gE} {P : Option Nat → hSt → Prop} {PX : Nat → Nat → hSt → Prop} {v0 : Int32} {z : hSt} : cM l G yJ31_valueOf (ws_ yJ31_valueOf cJ31_valueOf 1 (Option.some (Jvm.ClassFile.FieldType.object "java/lang/Integer"))) 12 201 z [.int v0] (wJ31_valueOf G P PX v0 z) (pR P) PX := by
  refine m_of hl (plainFor_of_name (by decide)) (by rw [lg_sl1 rfl]; exact Nat.le_of_ble_eq_true rfl) ?_
  intro p e s m args below meth c C hr hin hT hmc hw
  rw [lv_args1 rfl]
  intro H locs ls hS hl
  exact kJ31_valueOfb0 C hr hin hT hmc hw H locs ls hS (lv_sub hl [0] rfl)
theorem hdJ31_valueOf : yJ31_valueOf.cls ≠ "java/lang/invoke/MethodHandle" ∧ yJ31_valueOf.cls ≠ "java/lang/invoke/VarHandle" ∧ (parseMethodDescriptor yJ31_valueOf.desc).map (fun d => d.parameters.length) = some 1 := ⟨by decide +kernel, by decide +kernel, by decide +kernel⟩
abbrev rmJ31_numberOfLeadingZeros (mc ms : Nat) : Room := { frames := 10, cells := mc, slots := ms, locals := 160 }
def wJ31_numberOfLeadingZerosb73 (G : gE) (P : Int32 → hSt → Prop) (PX : Nat → Nat → hSt → Prop)  (v0 : Int32) (v1 : Int32) (z : hSt) : Prop :=
  P (v1 - (((v0 : Int32).toUInt32 >>> ((1 : Int32).toUInt32 &&& Int32.toUInt32 31)).toInt32)) z
def wJ31_numberOfLeadingZerosb61 (G : gE) (P : Int32 → hSt → Prop) (PX : Nat → Nat → hSt → Prop)  (v0 : Int32) (v1 : Int32) (z : hSt) : Prop :=
  ((v0 < 4 → wJ31_numberOfLeadingZerosb73 G P PX  v0 v1 z) ∧ (¬ v0 < 4 → wJ31_numberOfLeadingZerosb73 G P PX  (((v0 : Int32).toUInt32 >>> ((2 : Int32).toUInt32 &&& Int32.toUInt32 31)).toInt32) (v1 + (-2)) z))
def wJ31_numberOfLeadingZerosb48 (G : gE) (P : Int32 → hSt → Prop) (PX : Nat → Nat → hSt → Prop)  (v0 : Int32) (v1 : Int32) (z : hSt) : Prop :=
  ((v0 < 16 → wJ31_numberOfLeadingZerosb61 G P PX  v0 v1 z) ∧ (¬ v0 < 16 → wJ31_numberOfLeadingZerosb61 G P PX  (((v0 : Int32).toUInt32 >>> ((4 : Int32).toUInt32 &&& Int32.toUInt32 31)).toInt32) (v1 + (-4)) z))
def wJ31_numberOfLeadingZerosb33 (G : gE) (P : Int32 → hSt → Prop) (PX : Nat → Nat → hSt → Prop)  (v0 : Int32) (v1 : Int32) (z : hSt) : Prop :=
  ((v0 < 256 → wJ31_numberOfLeadingZerosb48 G P PX  v0 v1 z) ∧ (¬ v0 < 256 → wJ31_numberOfLeadingZerosb48 G P PX  (((v0 : Int32).toUInt32 >>> ((8 : Int32).toUInt32 &&& Int32.toUInt32 31)).toInt32) (v1 + (-8)) z))
def wJ31_numberOfLeadingZerosb0 (G : gE) (P : Int32 → hSt → Prop) (PX : Nat → Nat → hSt → Prop)  (v0 : Int32) (z : hSt) : Prop :=
  ((0 < v0 → ((v0 < (65536 : Int32) → wJ31_numberOfLeadingZerosb33 G P PX  v0 31 z) ∧ (¬ v0 < (65536 : Int32) → wJ31_numberOfLeadingZerosb33 G P PX  (((v0 : Int32).toUInt32 >>> ((16 : Int32).toUInt32 &&& Int32.toUInt32 31)).toInt32) (31 + (-16)) z))) ∧ (¬ 0 < v0 → ((¬ v0 = 0 → P 0 z) ∧ (v0 = 0 → P 32 z))))
def wJ31_numberOfLeadingZeros (G : gE) (P : Int32 → hSt → Prop) (PX : Nat → Nat → hSt → Prop) (v0 : Int32) (z : hSt) : Prop := wJ31_numberOfLeadingZerosb0 G P PX v0 z
section
variable {p : Program} {l : Launch} {e : Env} {s : State} {m : MethodId} {args : Array Value} {below : List Frame} {meth : Method} {c : Code} {G : gE} {mc ms : Nat} {P : Int32 → hSt → Prop} {PX : Nat → Nat → hSt → Prop}
theorem kJ31_numberOfLeadingZerosb73 (C : xC G p l s m args meth c cJ31_numberOfLeadingZeros 2 "java/lang/Integer") (hr : meth.sig.returnType = (Option.some Jvm.ClassFile.FieldType.int)) (hin : meth.name = "numberOfLeadingZeros") (hT : ∀ x ∈ c.exceptionTable.toList, False) (hmc : mc = gL G - s.heap.size ∧ ms = gU G - hsum s.heap)   {v0 : Int32} {v1 : Int32} {z : hSt} (hw : wJ31_numberOfLeadingZerosb73 G P PX  v0 v1 z) : kt G p l e (rmJ31_numberOfLeadingZeros mc ms) s m args below meth c 2 (vx_MQ below (cQ G (pI P)) (cX G PX) args s mc ms (gF G)) 73 [(0, .int v0), (1, .int v1)] [] z := by
  intro H locs ls hS hl
  refine lv_iload_n C.1 C.2.1 dJ31_numberOfLeadingZeros_73 rfl (lv_at hl 1 rfl) ?_
  refine lv_iload_n C.1 C.2.1 dJ31_numberOfLeadingZeros_74 rfl (lv_at hl 0 rfl) ?_
  refine lv_iconst C.1 C.2.1 (v := 1) dJ31_numberOfLeadingZeros_75 rfl ?_
  refine lv_iushr C.1 C.2.1 dJ31_numberOfLeadingZeros_76 rfl ?_
  refine lv_isub C.1 C.2.1 dJ31_numberOfLeadingZeros_77 ?_
  exact r_iret C hS hmc hr dJ31_numberOfLeadingZeros_78 hw
theorem kJ31_numberOfLeadingZerosb61 (C : xC G p l s m args meth c cJ31_numberOfLeadingZeros 2 "java/lang/Integer") (hr : meth.sig.returnType = (Option.some Jvm.ClassFile.FieldType.int)) (hin : meth.name = "numberOfLeadingZeros") (hT : ∀ x ∈ c.exceptionTable.toList, False) (hmc : mc = gL G - s.heap.size ∧ ms = gU G - hsum s.heap)   {v0 : Int32} {v1 : Int32} {z : hSt} (hw : wJ31_numberOfLeadingZerosb61 G P PX  v0 v1 z) : kt G p l e (rmJ31_numberOfLeadingZeros mc ms) s m args below meth c 2 (vx_MQ below (cQ G (pI P)) (cX G PX) args s mc ms (gF G)) 61 [(0, .int v0), (1, .int v1)] [] z := by
  intro H locs ls hS hl
  refine lv_iload_n C.1 C.2.1 dJ31_numberOfLeadingZeros_61 rfl (lv_at hl 0 rfl) ?_
  refine lv_iconst C.1 C.2.1 (v := 4) dJ31_numberOfLeadingZeros_62 rfl ?_
  refine lv_icmp_lt C.1 C.2.1 dJ31_numberOfLeadingZeros_63 rfl (fun h => ?_) (fun h => ?_)
  · have hw := hw.1 h
    exact kJ31_numberOfLeadingZerosb73 C hr hin hT hmc  hw H locs ls hS (lv_sub hl [0, 1] rfl)
  · have hw := hw.2 h
    refine r_iinc C.1 C.2.1 dJ31_numberOfLeadingZeros_66 hl (k := 1) rfl (v := (-2)) rfl (Nat.le_of_ble_eq_true rfl) (ls_new (ls_old 0 rfl rfl (.inr rfl) ls_nil)) (fun ls hl => ?_)
    refine lv_iload_n C.1 C.2.1 dJ31_numberOfLeadingZeros_69 rfl (lv_at hl 1 rfl) ?_
    refine lv_iconst C.1 C.2.1 (v := 2) dJ31_numberOfLeadingZeros_70 rfl ?_
    refine lv_iushr C.1 C.2.1 dJ31_numberOfLeadingZeros_71 rfl ?_
    refine r_istore_n C.1 C.2.1 dJ31_numberOfLeadingZeros_72 rfl hl (Nat.le_of_ble_eq_true rfl) (ls_new (ls_old 0 rfl rfl (.inl rfl) ls_nil)) (fun ls hl => ?_)
    exact kJ31_numberOfLeadingZerosb73 C hr hin hT hmc  hw H locs ls hS (lv_sub hl [0, 1] rfl)
theorem kJ31_numberOfLeadingZerosb48 (C : xC G p l s m args meth c cJ31_numberOfLeadingZeros 2 "java/lang/Integer") (hr : meth.sig.returnType = (Option.some Jvm.ClassFile.FieldType.int)) (hin : meth.name = "numberOfLeadingZeros") (hT : ∀ x ∈ c.exceptionTable.toList, False) (hmc : mc = gL G - s.heap.size ∧ ms = gU G - hsum s.heap)   {v0 : Int32} {v1 : Int32} {z : hSt} (hw : wJ31_numberOfLeadingZerosb48 G P PX  v0 v1 z) : kt G p l e (rmJ31_numberOfLeadingZeros mc ms) s m args below meth c 2 (vx_MQ below (cQ G (pI P)) (cX G PX) args s mc ms (gF G)) 48 [(0, .int v0), (1, .int v1)] [] z := by
  intro H locs ls hS hl
  refine lv_iload_n C.1 C.2.1 dJ31_numberOfLeadingZeros_48 rfl (lv_at hl 0 rfl) ?_
  refine lv_bipush C.1 C.2.1 (v := 16) dJ31_numberOfLeadingZeros_49 rfl ?_
  refine lv_icmp_lt C.1 C.2.1 dJ31_numberOfLeadingZeros_51 rfl (fun h => ?_) (fun h => ?_)
  · have hw := hw.1 h
    exact kJ31_numberOfLeadingZerosb61 C hr hin hT hmc  hw H locs ls hS (lv_sub hl [0, 1] rfl)
  · have hw := hw.2 h
    refine r_iinc C.1 C.2.1 dJ31_numberOfLeadingZeros_54 hl (k := 1) rfl (v := (-4)) rfl (Nat.le_of_ble_eq_true rfl) (ls_new (ls_old 0 rfl rfl (.inr rfl) ls_nil)) (fun ls hl => ?_)
    refine lv_iload_n C.1 C.2.1 dJ31_numberOfLeadingZeros_57 rfl (lv_at hl 1 rfl) ?_
    refine lv_iconst C.1 C.2.1 (v := 4) dJ31_numberOfLeadingZeros_58 rfl ?_
    refine lv_iushr C.1 C.2.1 dJ31_numberOfLeadingZeros_59 rfl ?_
    refine r_istore_n C.1 C.2.1 dJ31_numberOfLeadingZeros_60 rfl hl (Nat.le_of_ble_eq_true rfl) (ls_new (ls_old 0 rfl rfl (.inl rfl) ls_nil)) (fun ls hl => ?_)
    exact kJ31_numberOfLeadingZerosb61 C hr hin hT hmc  hw H locs ls hS (lv_sub hl [0, 1] rfl)
theorem kJ31_numberOfLeadingZerosb33 (C : xC G p l s m args meth c cJ31_numberOfLeadingZeros 2 "java/lang/Integer") (hr : meth.sig.returnType = (Option.some Jvm.ClassFile.FieldType.int)) (hin : meth.name = "numberOfLeadingZeros") (hT : ∀ x ∈ c.exceptionTable.toList, False) (hmc : mc = gL G - s.heap.size ∧ ms = gU G - hsum s.heap)   {v0 : Int32} {v1 : Int32} {z : hSt} (hw : wJ31_numberOfLeadingZerosb33 G P PX  v0 v1 z) : kt G p l e (rmJ31_numberOfLeadingZeros mc ms) s m args below meth c 2 (vx_MQ below (cQ G (pI P)) (cX G PX) args s mc ms (gF G)) 33 [(0, .int v0), (1, .int v1)] [] z := by
  intro H locs ls hS hl
  refine lv_iload_n C.1 C.2.1 dJ31_numberOfLeadingZeros_33 rfl (lv_at hl 0 rfl) ?_
  refine lv_sipush C.1 C.2.1 (v := 256) dJ31_numberOfLeadingZeros_34 rfl ?_
  refine lv_icmp_lt C.1 C.2.1 dJ31_numberOfLeadingZeros_37 rfl (fun h => ?_) (fun h => ?_)
  · have hw := hw.1 h
    exact kJ31_numberOfLeadingZerosb48 C hr hin hT hmc  hw H locs ls hS (lv_sub hl [0, 1] rfl)
  · have hw := hw.2 h
    refine r_iinc C.1 C.2.1 dJ31_numberOfLeadingZeros_40 hl (k := 1) rfl (v := (-8)) rfl (Nat.le_of_ble_eq_true rfl) (ls_new (ls_old 0 rfl rfl (.inr rfl) ls_nil)) (fun ls hl => ?_)
    refine lv_iload_n C.1 C.2.1 dJ31_numberOfLeadingZeros_43 rfl (lv_at hl 1 rfl) ?_
    refine lv_bipush C.1 C.2.1 (v := 8) dJ31_numberOfLeadingZeros_44 rfl ?_
    refine lv_iushr C.1 C.2.1 dJ31_numberOfLeadingZeros_46 rfl ?_
    refine r_istore_n C.1 C.2.1 dJ31_numberOfLeadingZeros_47 rfl hl (Nat.le_of_ble_eq_true rfl) (ls_new (ls_old 0 rfl rfl (.inl rfl) ls_nil)) (fun ls hl => ?_)
    exact kJ31_numberOfLeadingZerosb48 C hr hin hT hmc  hw H locs ls hS (lv_sub hl [0, 1] rfl)
theorem kJ31_numberOfLeadingZerosb0 (C : xC G p l s m args meth c cJ31_numberOfLeadingZeros 2 "java/lang/Integer") (hr : meth.sig.returnType = (Option.some Jvm.ClassFile.FieldType.int)) (hin : meth.name = "numberOfLeadingZeros") (hT : ∀ x ∈ c.exceptionTable.toList, False) (hmc : mc = gL G - s.heap.size ∧ ms = gU G - hsum s.heap)   {v0 : Int32} {z : hSt} (hw : wJ31_numberOfLeadingZerosb0 G P PX  v0 z) : kt G p l e (rmJ31_numberOfLeadingZeros mc ms) s m args below meth c 2 (vx_MQ below (cQ G (pI P)) (cX G PX) args s mc ms (gF G)) 0 [(0, .int v0)] [] z := by
  intro H locs ls hS hl
  refine lv_iload_n C.1 C.2.1 dJ31_numberOfLeadingZeros_0 rfl (lv_at hl 0 rfl) ?_
  refine lv_if_gt C.1 C.2.1 dJ31_numberOfLeadingZeros_1 rfl (fun h => ?_) (fun h => ?_)
  · have hw := hw.1 h
    refine lv_bipush C.1 C.2.1 (v := 31) dJ31_numberOfLeadingZeros_15 rfl ?_
    refine r_istore_n C.1 C.2.1 dJ31_numberOfLeadingZeros_17 rfl hl (Nat.le_of_ble_eq_true rfl) (ls_new (ls_old 0 rfl rfl (.inr rfl) ls_nil)) (fun ls hl => ?_)
    refine lv_iload_n C.1 C.2.1 dJ31_numberOfLeadingZeros_18 rfl (lv_at hl 1 rfl) ?_
    refine lv_ldcw C.1 C.2.1 C.2.2.2.1 (C.2.2.2.2.1 _ q1503) dJ31_numberOfLeadingZeros_19 ?_
    refine lv_icmp_lt C.1 C.2.1 dJ31_numberOfLeadingZeros_22 rfl (fun h => ?_) (fun h => ?_)
    · have hw := hw.1 h
      exact kJ31_numberOfLeadingZerosb33 C hr hin hT hmc  hw H locs ls hS (lv_sub hl [1, 0] rfl)
    · have hw := hw.2 h
      refine r_iinc C.1 C.2.1 dJ31_numberOfLeadingZeros_25 hl (k := 0) rfl (v := (-16)) rfl (Nat.le_of_ble_eq_true rfl) (ls_new (ls_old 1 rfl rfl (.inr rfl) ls_nil)) (fun ls hl => ?_)
      refine lv_iload_n C.1 C.2.1 dJ31_numberOfLeadingZeros_28 rfl (lv_at hl 1 rfl) ?_
      refine lv_bipush C.1 C.2.1 (v := 16) dJ31_numberOfLeadingZeros_29 rfl ?_
      refine lv_iushr C.1 C.2.1 dJ31_numberOfLeadingZeros_31 rfl ?_
      refine r_istore_n C.1 C.2.1 dJ31_numberOfLeadingZeros_32 rfl hl (Nat.le_of_ble_eq_true rfl) (ls_new (ls_old 0 rfl rfl (.inl rfl) ls_nil)) (fun ls hl => ?_)
      exact kJ31_numberOfLeadingZerosb33 C hr hin hT hmc  hw H locs ls hS (lv_sub hl [0, 1] rfl)
  · have hw := hw.2 h
    refine lv_iload_n C.1 C.2.1 dJ31_numberOfLeadingZeros_4 rfl (lv_at hl 0 rfl) ?_
    refine lv_if_ne C.1 C.2.1 dJ31_numberOfLeadingZeros_5 rfl (fun h => ?_) (fun h => ?_)
    · have hw := hw.1 h
      refine lv_iconst C.1 C.2.1 (v := 0) dJ31_numberOfLeadingZeros_13 rfl ?_
      exact r_iret C hS hmc hr dJ31_numberOfLeadingZeros_14 hw
    · have hw := hw.2 h
      refine lv_bipush C.1 C.2.1 (v := 32) dJ31_numberOfLeadingZeros_8 rfl ?_
      refine lv_goto C.1 C.2.1 dJ31_numberOfLeadingZeros_10 rfl ?_
      exact r_iret C hS hmc hr dJ31_numberOfLeadingZeros_14 hw
end
theorem kJ31_numberOfLeadingZeros {l : Launch} (hl : l.stackTraces = false) {G : gE} {P : Int32 → hSt → Prop} {PX : Nat → Nat → hSt → Prop} {v0 : Int32} {z : hSt} : cM l G yJ31_numberOfLeadingZeros (ws_ yJ31_numberOfLeadingZeros cJ31_numberOfLeadingZeros 2 (Option.some Jvm.ClassFile.FieldType.int)) 10 160 z [.int v0] (wJ31_numberOfLeadingZeros G P PX v0 z) (pI P) PX := by
  refine m_of hl (plainFor_of_name (by decide)) (by rw [lg_sl1 rfl]; exact Nat.le_of_ble_eq_true rfl) ?_
  intro p e s m args below meth c C hr hin hT hmc hw
  rw [lv_args1 rfl]
  intro H locs ls hS hl
  exact kJ31_numberOfLeadingZerosb0 C hr hin hT hmc hw H locs ls hS (lv_sub hl [0] rfl)
theorem hdJ31_numberOfLeadingZeros : yJ31_numberOfLeadingZeros.cls ≠ "java/lang/invoke/MethodHandle" ∧ yJ31_numberOfLeadingZeros.cls ≠ "java/lang/invoke/VarHandle" ∧ (parseMethodDescriptor yJ31_numberOfLeadingZeros.desc).map (fun d => d.parameters.length) = some 1 := ⟨by decide +kernel, by decide +kernel, by decide +kernel⟩
abbrev rmJ10_toString (mc ms : Nat) : Room := { frames := 10, cells := mc, slots := ms, locals := 160 }
def wJ10_toStringb0 (G : gE) (P : Option Nat → hSt → Prop) (PX : Nat → Nat → hSt → Prop)  (v0 : Option Nat) (z : hSt) : Prop :=
  P v0 z
def wJ10_toString (G : gE) (P : Option Nat → hSt → Prop) (PX : Nat → Nat → hSt → Prop) (v0 : Option Nat) (z : hSt) : Prop := wJ10_toStringb0 G P PX v0 z
section
variable {p : Program} {l : Launch} {e : Env} {s : State} {m : MethodId} {args : Array Value} {below : List Frame} {meth : Method} {c : Code} {G : gE} {mc ms : Nat} {P : Option Nat → hSt → Prop} {PX : Nat → Nat → hSt → Prop}
theorem kJ10_toStringb0 (C : xC G p l s m args meth c cJ10_toString 1 "java/lang/String") (hr : meth.sig.returnType = (Option.some (Jvm.ClassFile.FieldType.object "java/lang/String"))) (hin : meth.name = "toString") (hT : ∀ x ∈ c.exceptionTable.toList, False) (hmc : mc = gL G - s.heap.size ∧ ms = gU G - hsum s.heap)   {v0 : Option Nat} {z : hSt} (hw : wJ10_toStringb0 G P PX  v0 z) : kt G p l e (rmJ10_toString mc ms) s m args below meth c 1 (vx_MQ below (cQ G (pR P)) (cX G PX) args s mc ms (gF G)) 0 [(0, va_rf v0)] [] z := by
  intro H locs ls hS hl
  refine r_aload_n C.1 C.2.1 dJ10_toString_0 rfl (lv_at hl 0 rfl) ?_
  exact r_aret C hS hmc hr (Or.inl ⟨_, rfl⟩) dJ10_toString_1 hw
end
theorem kJ10_toString {l : Launch} (hl : l.stackTraces = false) {G : gE} {P : Option Nat → hSt → Prop} {PX : Nat → Nat → hSt → Prop} {v0 : Option Nat} {z : hSt} : cM l G yJ10_toString (ws_ yJ10_toString cJ10_toString 1 (Option.some (Jvm.ClassFile.FieldType.object "java/lang/String"))) 10 160 z [va_rf v0] (wJ10_toString G P PX v0 z) (pR P) PX := by
  refine m_of hl (plainFor_of_name (by decide)) (by rw [lg_sl1 (va_rf_cat _)]; exact Nat.le_of_ble_eq_true rfl) ?_
  intro p e s m args below meth c C hr hin hT hmc hw
  rw [lv_args1 (va_rf_cat _)]
  intro H locs ls hS hl
  exact kJ10_toStringb0 C hr hin hT hmc hw H locs ls hS (lv_sub hl [0] rfl)
theorem hdJ10_toString : yJ10_toString.cls ≠ "java/lang/invoke/MethodHandle" ∧ yJ10_toString.cls ≠ "java/lang/invoke/VarHandle" ∧ (parseMethodDescriptor yJ10_toString.desc).map (fun d => d.parameters.length) = some 0 := ⟨by decide +kernel, by decide +kernel, by decide +kernel⟩
abbrev rmJ35_checkLength (mc ms : Nat) : Room := { frames := 10, cells := mc, slots := ms, locals := 160 }
def wJ35_checkLengthb0 (G : gE) (P : hSt → Prop) (PX : Nat → Nat → hSt → Prop)  (v0 : Int32) (v1 : Int32) (z : hSt) : Prop :=
  ((v0 ≤ v1 → P z) ∧ (¬ v0 ≤ v1 → False))
def wJ35_checkLength (G : gE) (P : hSt → Prop) (PX : Nat → Nat → hSt → Prop) (v0 : Int32) (v1 : Int32) (z : hSt) : Prop := wJ35_checkLengthb0 G P PX v0 v1 z
section
variable {p : Program} {l : Launch} {e : Env} {s : State} {m : MethodId} {args : Array Value} {below : List Frame} {meth : Method} {c : Code} {G : gE} {mc ms : Nat} {P : hSt → Prop} {PX : Nat → Nat → hSt → Prop}
theorem kJ35_checkLengthb0 (C : xC G p l s m args meth c cJ35_checkLength 2 "java/util/Arrays") (hr : meth.sig.returnType = (Option.none : Option Jvm.ClassFile.FieldType)) (hin : meth.name = "checkLength") (hT : ∀ x ∈ c.exceptionTable.toList, False) (hmc : mc = gL G - s.heap.size ∧ ms = gU G - hsum s.heap)   {v0 : Int32} {v1 : Int32} {z : hSt} (hw : wJ35_checkLengthb0 G P PX  v0 v1 z) : kt G p l e (rmJ35_checkLength mc ms) s m args below meth c 2 (vx_MQ below (cQ G (pV P)) (cX G PX) args s mc ms (gF G)) 0 [(0, .int v0), (1, .int v1)] [] z := by
  intro H locs ls hS hl
  refine lv_iload_n C.1 C.2.1 dJ35_checkLength_0 rfl (lv_at hl 1 rfl) ?_
  refine lv_iload_n C.1 C.2.1 dJ35_checkLength_1 rfl (lv_at hl 0 rfl) ?_
  refine lv_icmp_ge C.1 C.2.1 dJ35_checkLength_2 rfl (fun h => ?_) (fun h => ?_)
  · have hw := hw.1 h
    exact r_vret C hS hmc hr dJ35_checkLength_37 hw
  · have hw := hw.2 h
    exact hw.elim
end
theorem kJ35_checkLength {l : Launch} (hl : l.stackTraces = false) {G : gE} {P : hSt → Prop} {PX : Nat → Nat → hSt → Prop} {v0 : Int32} {v1 : Int32} {z : hSt} : cM l G yJ35_checkLength (ws_ yJ35_checkLength cJ35_checkLength 2 (Option.none : Option Jvm.ClassFile.FieldType)) 10 160 z [.int v0, .int v1] (wJ35_checkLength G P PX v0 v1 z) (pV P) PX := by
  refine m_of hl (plainFor_of_name (by decide)) (by rw [lg_sl1 rfl, lg_sl1 rfl]; exact Nat.le_of_ble_eq_true rfl) ?_
  intro p e s m args below meth c C hr hin hT hmc hw
  rw [lv_args1 rfl, lv_args1 rfl]
  intro H locs ls hS hl
  exact kJ35_checkLengthb0 C hr hin hT hmc hw H locs ls hS (lv_sub hl [0, 1] rfl)
theorem hdJ35_checkLength : yJ35_checkLength.cls ≠ "java/lang/invoke/MethodHandle" ∧ yJ35_checkLength.cls ≠ "java/lang/invoke/VarHandle" ∧ (parseMethodDescriptor yJ35_checkLength.desc).map (fun d => d.parameters.length) = some 2 := ⟨by decide +kernel, by decide +kernel, by decide +kernel⟩
abbrev rmJ35_copyOfRangeByte (mc ms : Nat) : Room := { frames := 11, cells := mc, slots := ms, locals := 181 }
def wJ35_copyOfRangeByteb0 (G : gE) (P : Option Nat → hSt → Prop) (PX : Nat → Nat → hSt → Prop)  (v0 : Option Nat) (v1 : Int32) (v2 : Int32) (z : hSt) : Prop :=
  wJ35_checkLength G (fun z1 => nwA G z1 2 (.inl fun _ => 0) (v2 - v1) (fun x2 z3 => aln z3 v0 (fun x4 => acA G z3 v0 v1 (some x2) 0 (if (v2 - v1) < (x4 - v1) then (v2 - v1) else (x4 - v1)) (fun z5 => P (some x2) z5)))) PX v1 v2 z
def wJ35_copyOfRangeByte (G : gE) (P : Option Nat → hSt → Prop) (PX : Nat → Nat → hSt → Prop) (v0 : Option Nat) (v1 : Int32) (v2 : Int32) (z : hSt) : Prop := wJ35_copyOfRangeByteb0 G P PX v0 v1 v2 z
section
variable {p : Program} {l : Launch} {e : Env} {s : State} {m : MethodId} {args : Array Value} {below : List Frame} {meth : Method} {c : Code} {G : gE} {mc ms : Nat} {P : Option Nat → hSt → Prop} {PX : Nat → Nat → hSt → Prop}
theorem kJ35_copyOfRangeByteb0 (C : xC G p l s m args meth c cJ35_copyOfRangeByte 5 "java/util/Arrays") (hr : meth.sig.returnType = (Option.some (Jvm.ClassFile.FieldType.array Jvm.ClassFile.FieldType.byte))) (hin : meth.name = "copyOfRangeByte") (hT : ∀ x ∈ c.exceptionTable.toList, False) (hmc : mc = gL G - s.heap.size ∧ ms = gU G - hsum s.heap)   {v0 : Option Nat} {v1 : Int32} {v2 : Int32} {z : hSt} (hw : wJ35_copyOfRangeByteb0 G P PX  v0 v1 v2 z) : kt G p l e (rmJ35_copyOfRangeByte mc ms) s m args below meth c 5 (vx_MQ below (cQ G (pR P)) (cX G PX) args s mc ms (gF G)) 0 [(0, va_rf v0), (1, .int v1), (2, .int v2)] [] z := by
  intro H locs ls hS hl
  refine lv_iload_n C.1 C.2.1 dJ35_copyOfRangeByte_0 rfl (lv_at hl 1 rfl) ?_
  refine lv_iload_n C.1 C.2.1 dJ35_copyOfRangeByte_1 rfl (lv_at hl 2 rfl) ?_
  refine c_S C hS hmc hl.1 (kJ35_checkLength C.2.2.2.2.2.2.1) hw (lw_S q1177 q1178 q110 q1179) hdJ35_checkLength ⟨Nat.le_of_ble_eq_true rfl, Nat.le_of_ble_eq_true rfl⟩ (rest := []) rfl rfl (Nat.le_of_ble_eq_true rfl) dJ35_copyOfRangeByte_2 (fun ci q z H locs hx hS ht => r_out C hS hmc (fun x hx => (hT x hx).elim) ht hx) (fun v z1 H locs hv hS => ?_)
  obtain ⟨rfl, hw⟩ := hv
  refine lv_iload_n C.1 C.2.1 dJ35_copyOfRangeByte_5 rfl (lv_at hl 2 rfl) ?_
  refine lv_iload_n C.1 C.2.1 dJ35_copyOfRangeByte_6 rfl (lv_at hl 1 rfl) ?_
  refine lv_isub C.1 C.2.1 dJ35_copyOfRangeByte_7 ?_
  refine r_istore_n C.1 C.2.1 dJ35_copyOfRangeByte_8 rfl hl (Nat.le_of_ble_eq_true rfl) (ls_new (ls_old 0 rfl rfl (.inl rfl) (ls_old 1 rfl rfl (.inl rfl) ls_nil))) (fun ls hl => ?_)
  refine lv_iload_n C.1 C.2.1 dJ35_copyOfRangeByte_9 rfl (lv_at hl 0 rfl) ?_
  refine r_newb C hS hmc dJ35_copyOfRangeByte_10 hw (fun x2 z3 H locs hw hS => ?_)
  refine r_astore C.1 C.2.1 dJ35_copyOfRangeByte_12 hl (Nat.le_of_ble_eq_true rfl) (ls_new (ls_old 0 rfl rfl (.inr rfl) (ls_old 1 rfl rfl (.inl rfl) (ls_old 2 rfl rfl (.inl rfl) ls_nil)))) (fun ls hl => ?_)
  refine r_aload_n C.1 C.2.1 dJ35_copyOfRangeByte_14 rfl (lv_at hl 2 rfl) ?_
  refine lv_iload_n C.1 C.2.1 dJ35_copyOfRangeByte_15 rfl (lv_at hl 3 rfl) ?_
  refine r_aload C.1 C.2.1 dJ35_copyOfRangeByte_16 (lv_at hl 0 rfl) ?_
  refine lv_iconst C.1 C.2.1 (v := 0) dJ35_copyOfRangeByte_18 rfl ?_
  refine r_aload_n C.1 C.2.1 dJ35_copyOfRangeByte_19 rfl (lv_at hl 2 rfl) ?_
  refine r_alen C hS dJ35_copyOfRangeByte_20 hw (fun x4 hw => ?_)
  refine lv_iload_n C.1 C.2.1 dJ35_copyOfRangeByte_21 rfl (lv_at hl 3 rfl) ?_
  refine lv_isub C.1 C.2.1 dJ35_copyOfRangeByte_22 ?_
  refine lv_iload_n C.1 C.2.1 dJ35_copyOfRangeByte_23 rfl (lv_at hl 1 rfl) ?_
  refine r_mmin C hS hmc hl.1 q1049 q1050 q109 q1051 (Nat.le_of_ble_eq_true rfl) (Nat.le_of_ble_eq_true rfl) (Nat.le_of_ble_eq_true rfl) dJ35_copyOfRangeByte_24 ?_
  refine r_acA C hS hl.1 q1052 q1054 q1053 q111 acL_ok (Nat.le_of_ble_eq_true rfl) (Nat.le_of_ble_eq_true rfl) (Nat.le_of_ble_eq_true rfl) dJ35_copyOfRangeByte_27 hw (fun z5 H locs hw hS => ?_)
  refine r_aload C.1 C.2.1 dJ35_copyOfRangeByte_30 (lv_at hl 0 rfl) ?_
  exact r_aret C hS hmc hr (Or.inr ⟨_, rfl⟩) dJ35_copyOfRangeByte_32 hw
end
theorem kJ35_copyOfRangeByte {l : Launch} (hl : l.stackTraces = false) {G : gE} {P : Option Nat → hSt → Prop} {PX : Nat → Nat → hSt → Prop} {v0 : Option Nat} {v1 : Int32} {v2 : Int32} {z : hSt} : cM l G yJ35_copyOfRangeByte (ws_ yJ35_copyOfRangeByte cJ35_copyOfRangeByte 5 (Option.some (Jvm.ClassFile.FieldType.array Jvm.ClassFile.FieldType.byte))) 11 181 z [va_rf v0, .int v1, .int v2] (wJ35_copyOfRangeByte G P PX v0 v1 v2 z) (pR P) PX := by
  refine m_of hl (plainFor_of_name (by decide)) (by rw [lg_sl1 (va_rf_cat _), lg_sl1 rfl, lg_sl1 rfl]; exact Nat.le_of_ble_eq_true rfl) ?_
  intro p e s m args below meth c C hr hin hT hmc hw
  rw [lv_args1 (va_rf_cat _), lv_args1 rfl, lv_args1 rfl]
  intro H locs ls hS hl
  exact kJ35_copyOfRangeByteb0 C hr hin hT hmc hw H locs ls hS (lv_sub hl [0, 1, 2] rfl)
theorem hdJ35_copyOfRangeByte : yJ35_copyOfRangeByte.cls ≠ "java/lang/invoke/MethodHandle" ∧ yJ35_copyOfRangeByte.cls ≠ "java/lang/invoke/VarHandle" ∧ (parseMethodDescriptor yJ35_copyOfRangeByte.desc).map (fun d => d.parameters.length) = some 3 := ⟨by decide +kernel, by decide +kernel, by decide +kernel⟩
abbrev rmJ35_copyOfRange (mc ms : Nat) : Room := { frames := 12, cells := mc, slots := ms, locals := 205 }
def wJ35_copyOfRangeb10 (G : gE) (P : Option Nat → hSt → Prop) (PX : Nat → Nat → hSt → Prop)  (v0 : Option Nat) (v1 : Int32) (v2 : Int32) (z : hSt) : Prop :=
  wJ35_copyOfRangeByte G (fun x5 z4 => P x5 z4) PX v0 v1 v2 z
def wJ35_copyOfRangeb0 (G : gE) (P : Option Nat → hSt → Prop) (PX : Nat → Nat → hSt → Prop)  (v0 : Option Nat) (v1 : Int32) (v2 : Int32) (z : hSt) : Prop :=
  ((¬ v1 = 0 → wJ35_copyOfRangeb10 G P PX  v0 v1 v2 z) ∧ (v1 = 0 → aln z v0 (fun x1 => ((v2 = x1 → clB G z v0 (fun x2 z3 => (ckA z3 (some x2) [2] ∧ P (some x2) z3))) ∧ (¬ v2 = x1 → wJ35_copyOfRangeb10 G P PX  v0 v1 v2 z)))))
def wJ35_copyOfRange (G : gE) (P : Option Nat → hSt → Prop) (PX : Nat → Nat → hSt → Prop) (v0 : Option Nat) (v1 : Int32) (v2 : Int32) (z : hSt) : Prop := wJ35_copyOfRangeb0 G P PX v0 v1 v2 z
section
variable {p : Program} {l : Launch} {e : Env} {s : State} {m : MethodId} {args : Array Value} {below : List Frame} {meth : Method} {c : Code} {G : gE} {mc ms : Nat} {P : Option Nat → hSt → Prop} {PX : Nat → Nat → hSt → Prop}
theorem kJ35_copyOfRangeb10 (C : xC G p l s m args meth c cJ35_copyOfRange 3 "java/util/Arrays") (hr : meth.sig.returnType = (Option.some (Jvm.ClassFile.FieldType.array Jvm.ClassFile.FieldType.byte))) (hin : meth.name = "copyOfRange") (hT : ∀ x ∈ c.exceptionTable.toList, False) (hmc : mc = gL G - s.heap.size ∧ ms = gU G - hsum s.heap)   {v0 : Option Nat} {v1 : Int32} {v2 : Int32} {z : hSt} (hw : wJ35_copyOfRangeb10 G P PX  v0 v1 v2 z) : kt G p l e (rmJ35_copyOfRange mc ms) s m args below meth c 3 (vx_MQ below (cQ G (pR P)) (cX G PX) args s mc ms (gF G)) 10 [(0, va_rf v0), (1, .int v1), (2, .int v2)] [] z := by
  intro H locs ls hS hl
  refine r_aload_n C.1 C.2.1 dJ35_copyOfRange_10 rfl (lv_at hl 0 rfl) ?_
  refine lv_iload_n C.1 C.2.1 dJ35_copyOfRange_11 rfl (lv_at hl 1 rfl) ?_
  refine lv_iload_n C.1 C.2.1 dJ35_copyOfRange_12 rfl (lv_at hl 2 rfl) ?_
  refine c_S C hS hmc hl.1 (kJ35_copyOfRangeByte C.2.2.2.2.2.2.1) hw (lw_S q1174 q1175 q110 q1176) hdJ35_copyOfRangeByte ⟨Nat.le_of_ble_eq_true rfl, Nat.le_of_ble_eq_true rfl⟩ (rest := []) rfl rfl (Nat.le_of_ble_eq_true rfl) dJ35_copyOfRange_13 (fun ci q z H locs hx hS ht => r_out C hS hmc (fun x hx => (hT x hx).elim) ht hx) (fun v z4 H locs hv hS => ?_)
  obtain ⟨x5, rfl, hw⟩ := hv
  exact r_aret C hS hmc hr (Or.inr ⟨_, rfl⟩) dJ35_copyOfRange_16 hw
theorem kJ35_copyOfRangeb0 (C : xC G p l s m args meth c cJ35_copyOfRange 3 "java/util/Arrays") (hr : meth.sig.returnType = (Option.some (Jvm.ClassFile.FieldType.array Jvm.ClassFile.FieldType.byte))) (hin : meth.name = "copyOfRange") (hT : ∀ x ∈ c.exceptionTable.toList, False) (hmc : mc = gL G - s.heap.size ∧ ms = gU G - hsum s.heap)   {v0 : Option Nat} {v1 : Int32} {v2 : Int32} {z : hSt} (hw : wJ35_copyOfRangeb0 G P PX  v0 v1 v2 z) : kt G p l e (rmJ35_copyOfRange mc ms) s m args below meth c 3 (vx_MQ below (cQ G (pR P)) (cX G PX) args s mc ms (gF G)) 0 [(0, va_rf v0), (1, .int v1), (2, .int v2)] [] z := by
  intro H locs ls hS hl
  refine lv_iload_n C.1 C.2.1 dJ35_copyOfRange_0 rfl (lv_at hl 1 rfl) ?_
  refine lv_if_ne C.1 C.2.1 dJ35_copyOfRange_1 rfl (fun h => ?_) (fun h => ?_)
  · have hw := hw.1 h
    exact kJ35_copyOfRangeb10 C hr hin hT hmc  hw H locs ls hS (lv_sub hl [0, 1, 2] rfl)
  · have hw := hw.2 h
    refine lv_iload_n C.1 C.2.1 dJ35_copyOfRange_4 rfl (lv_at hl 2 rfl) ?_
    refine r_aload_n C.1 C.2.1 dJ35_copyOfRange_5 rfl (lv_at hl 0 rfl) ?_
    refine r_alen C hS dJ35_copyOfRange_6 hw (fun x1 hw => ?_)
    refine lv_icmp_eq C.1 C.2.1 dJ35_copyOfRange_7 rfl (fun h => ?_) (fun h => ?_)
    · have hw := hw.1 h
      refine r_aload_n C.1 C.2.1 dJ35_copyOfRange_17 rfl (lv_at hl 0 rfl) ?_
      refine r_clone C hS hl.1 q1042 q1043 q1044 q1045 q1046 q1047 hmc (Nat.le_of_ble_eq_true rfl) (Nat.le_of_ble_eq_true rfl) (Nat.le_of_ble_eq_true rfl) dJ35_copyOfRange_18 hw (fun x2 z3 H locs hw hS => ?_)
      refine r_castB C hS q1048 dJ35_copyOfRange_21 hw.1 ?_
      have hw := hw.2
      exact r_aret C hS hmc hr (Or.inr ⟨_, rfl⟩) dJ35_copyOfRange_24 hw
    · have hw := hw.2 h
      exact kJ35_copyOfRangeb10 C hr hin hT hmc  hw H locs ls hS (lv_sub hl [0, 1, 2] rfl)
end
theorem kJ35_copyOfRange {l : Launch} (hl : l.stackTraces = false) {G : gE} {P : Option Nat → hSt → Prop} {PX : Nat → Nat → hSt → Prop} {v0 : Option Nat} {v1 : Int32} {v2 : Int32} {z : hSt} : cM l G yJ35_copyOfRange (ws_ yJ35_copyOfRange cJ35_copyOfRange 3 (Option.some (Jvm.ClassFile.FieldType.array Jvm.ClassFile.FieldType.byte))) 12 205 z [va_rf v0, .int v1, .int v2] (wJ35_copyOfRange G P PX v0 v1 v2 z) (pR P) PX := by
  refine m_of hl (plainFor_of_name (by decide)) (by rw [lg_sl1 (va_rf_cat _), lg_sl1 rfl, lg_sl1 rfl]; exact Nat.le_of_ble_eq_true rfl) ?_
  intro p e s m args below meth c C hr hin hT hmc hw
  rw [lv_args1 (va_rf_cat _), lv_args1 rfl, lv_args1 rfl]
  intro H locs ls hS hl
  exact kJ35_copyOfRangeb0 C hr hin hT hmc hw H locs ls hS (lv_sub hl [0, 1, 2] rfl)
theorem hdJ35_copyOfRange : yJ35_copyOfRange.cls ≠ "java/lang/invoke/MethodHandle" ∧ yJ35_copyOfRange.cls ≠ "java/lang/invoke/VarHandle" ∧ (parseMethodDescriptor yJ35_copyOfRange.desc).map (fun d => d.parameters.length) = some 3 := ⟨by decide +kernel, by decide +kernel, by decide +kernel⟩
abbrev rmJ8_isLatin1 (mc ms : Nat) : Room := { frames := 10, cells := mc, slots := ms, locals := 160 }
def wJ8_isLatin1b17 (G : gE) (P : Int32 → hSt → Prop) (PX : Nat → Nat → hSt → Prop)   (z : hSt) : Prop :=
  (okN .boolean 0 ∧ P 0 z)
def wJ8_isLatin1b0 (G : gE) (P : Int32 → hSt → Prop) (PX : Nat → Nat → hSt → Prop)  (v0 : Option Nat) (z : hSt) : Prop :=
  (((1 : Int32) = 0 → wJ8_isLatin1b17 G P PX   z) ∧ (¬ (1 : Int32) = 0 → gtI z v0 [16] 1 (fun x1 => ((¬ x1 = 0 → wJ8_isLatin1b17 G P PX   z) ∧ (x1 = 0 → (okN .boolean 1 ∧ P 1 z))))))
def wJ8_isLatin1 (G : gE) (P : Int32 → hSt → Prop) (PX : Nat → Nat → hSt → Prop) (v0 : Option Nat) (z : hSt) : Prop := wJ8_isLatin1b0 G P PX v0 z
section
variable {p : Program} {l : Launch} {e : Env} {s : State} {m : MethodId} {args : Array Value} {below : List Frame} {meth : Method} {c : Code} {G : gE} {mc ms : Nat} {P : Int32 → hSt → Prop} {PX : Nat → Nat → hSt → Prop}
theorem kJ8_isLatin1b17 (C : xC G p l s m args meth c cJ8_isLatin1 1 "java/lang/AbstractStringBuilder") (hr : meth.sig.returnType = (Option.some Jvm.ClassFile.FieldType.boolean)) (hin : meth.name = "isLatin1") (hT : ∀ x ∈ c.exceptionTable.toList, False) (hmc : mc = gL G - s.heap.size ∧ ms = gU G - hsum s.heap)    {z : hSt} (hw : wJ8_isLatin1b17 G P PX   z) : kt G p l e (rmJ8_isLatin1 mc ms) s m args below meth c 1 (vx_MQ below (cQ G (pI P)) (cX G PX) args s mc ms (gF G)) 17 [] [] z := by
  intro H locs ls hS hl
  refine lv_iconst C.1 C.2.1 (v := 0) dJ8_isLatin1_17 rfl ?_
  exact r_zret C hS hmc hr dJ8_isLatin1_18 hw
theorem kJ8_isLatin1b0 (C : xC G p l s m args meth c cJ8_isLatin1 1 "java/lang/AbstractStringBuilder") (hr : meth.sig.returnType = (Option.some Jvm.ClassFile.FieldType.boolean)) (hin : meth.name = "isLatin1") (hT : ∀ x ∈ c.exceptionTable.toList, False) (hmc : mc = gL G - s.heap.size ∧ ms = gU G - hsum s.heap)   {v0 : Option Nat} {z : hSt} (hw : wJ8_isLatin1b0 G P PX  v0 z) : kt G p l e (rmJ8_isLatin1 mc ms) s m args below meth c 1 (vx_MQ below (cQ G (pI P)) (cX G PX) args s mc ms (gF G)) 0 [(0, va_rf v0)] [] z := by
  intro H locs ls hS hl
  refine r_gets C hS (v := .int 1) (by simp [gSTA]) q364 dJ8_isLatin1_0 ?_
  refine lv_if_eq C.1 C.2.1 dJ8_isLatin1_3 rfl (fun h => ?_) (fun h => ?_)
  · have hw := hw.1 h
    exact kJ8_isLatin1b17 C hr hin hT hmc  hw H locs ls hS (lv_sub hl [] rfl)
  · have hw := hw.2 h
    refine r_aload_n C.1 C.2.1 dJ8_isLatin1_6 rfl (lv_at hl 0 rfl) ?_
    refine r_getI C hS fo_16_1 (fl_d C q374) (fun _ h => h) dJ8_isLatin1_7 hw (fun x1 hw => ?_)
    refine lv_if_ne C.1 C.2.1 dJ8_isLatin1_10 rfl (fun h => ?_) (fun h => ?_)
    · have hw := hw.1 h
      exact kJ8_isLatin1b17 C hr hin hT hmc  hw H locs ls hS (lv_sub hl [] rfl)
    · have hw := hw.2 h
      refine lv_iconst C.1 C.2.1 (v := 1) dJ8_isLatin1_13 rfl ?_
      refine lv_goto C.1 C.2.1 dJ8_isLatin1_14 rfl ?_
      exact r_zret C hS hmc hr dJ8_isLatin1_18 hw
end
theorem kJ8_isLatin1 {l : Launch} (hl : l.stackTraces = false) {G : gE} {P : Int32 → hSt → Prop} {PX : Nat → Nat → hSt → Prop} {v0 : Option Nat} {z : hSt} : cM l G yJ8_isLatin1 (ws_ yJ8_isLatin1 cJ8_isLatin1 1 (Option.some Jvm.ClassFile.FieldType.boolean)) 10 160 z [va_rf v0] (wJ8_isLatin1 G P PX v0 z) (pI P) PX := by
  refine m_of hl (plainFor_of_name (by decide)) (by rw [lg_sl1 (va_rf_cat _)]; exact Nat.le_of_ble_eq_true rfl) ?_
  intro p e s m args below meth c C hr hin hT hmc hw
  rw [lv_args1 (va_rf_cat _)]
  intro H locs ls hS hl
  exact kJ8_isLatin1b0 C hr hin hT hmc hw H locs ls hS (lv_sub hl [0] rfl)
theorem hdJ8_isLatin1 : yJ8_isLatin1.cls ≠ "java/lang/invoke/MethodHandle" ∧ yJ8_isLatin1.cls ≠ "java/lang/invoke/VarHandle" ∧ (parseMethodDescriptor yJ8_isLatin1.desc).map (fun d => d.parameters.length) = some 0 := ⟨by decide +kernel, by decide +kernel, by decide +kernel⟩
abbrev rmJ8_length (mc ms : Nat) : Room := { frames := 10, cells := mc, slots := ms, locals := 160 }
def wJ8_lengthb0 (G : gE) (P : Int32 → hSt → Prop) (PX : Nat → Nat → hSt → Prop)  (v0 : Option Nat) (z : hSt) : Prop :=
  gtI z v0 [16] 3 (fun x1 => P x1 z)
def wJ8_length (G : gE) (P : Int32 → hSt → Prop) (PX : Nat → Nat → hSt → Prop) (v0 : Option Nat) (z : hSt) : Prop := wJ8_lengthb0 G P PX v0 z
section
variable {p : Program} {l : Launch} {e : Env} {s : State} {m : MethodId} {args : Array Value} {below : List Frame} {meth : Method} {c : Code} {G : gE} {mc ms : Nat} {P : Int32 → hSt → Prop} {PX : Nat → Nat → hSt → Prop}
theorem kJ8_lengthb0 (C : xC G p l s m args meth c cJ8_length 1 "java/lang/AbstractStringBuilder") (hr : meth.sig.returnType = (Option.some Jvm.ClassFile.FieldType.int)) (hin : meth.name = "length") (hT : ∀ x ∈ c.exceptionTable.toList, False) (hmc : mc = gL G - s.heap.size ∧ ms = gU G - hsum s.heap)   {v0 : Option Nat} {z : hSt} (hw : wJ8_lengthb0 G P PX  v0 z) : kt G p l e (rmJ8_length mc ms) s m args below meth c 1 (vx_MQ below (cQ G (pI P)) (cX G PX) args s mc ms (gF G)) 0 [(0, va_rf v0)] [] z := by
  intro H locs ls hS hl
  refine r_aload_n C.1 C.2.1 dJ8_length_0 rfl (lv_at hl 0 rfl) ?_
  refine r_getI C hS fo_16_3 (fl_d C q377) (fun _ h => h) dJ8_length_1 hw (fun x1 hw => ?_)
  exact r_iret C hS hmc hr dJ8_length_4 hw
end
theorem kJ8_length {l : Launch} (hl : l.stackTraces = false) {G : gE} {P : Int32 → hSt → Prop} {PX : Nat → Nat → hSt → Prop} {v0 : Option Nat} {z : hSt} : cM l G yJ8_length (ws_ yJ8_length cJ8_length 1 (Option.some Jvm.ClassFile.FieldType.int)) 10 160 z [va_rf v0] (wJ8_length G P PX v0 z) (pI P) PX := by
  refine m_of hl (plainFor_of_name (by decide)) (by rw [lg_sl1 (va_rf_cat _)]; exact Nat.le_of_ble_eq_true rfl) ?_
  intro p e s m args below meth c C hr hin hT hmc hw
  rw [lv_args1 (va_rf_cat _)]
  intro H locs ls hS hl
  exact kJ8_lengthb0 C hr hin hT hmc hw H locs ls hS (lv_sub hl [0] rfl)
theorem hdJ8_length : yJ8_length.cls ≠ "java/lang/invoke/MethodHandle" ∧ yJ8_length.cls ≠ "java/lang/invoke/VarHandle" ∧ (parseMethodDescriptor yJ8_length.desc).map (fun d => d.parameters.length) = some 0 := ⟨by decide +kernel, by decide +kernel, by decide +kernel⟩
abbrev rmJ9_length (mc ms : Nat) : Room := { frames := 11, cells := mc, slots := ms, locals := 180 }
def wJ9_lengthb0 (G : gE) (P : Int32 → hSt → Prop) (PX : Nat → Nat → hSt → Prop)  (v0 : Option Nat) (z : hSt) : Prop :=
  (rcv z v0 16 ∧ wJ8_length G (fun x2 z1 => P x2 z1) PX v0  z)
def wJ9_length (G : gE) (P : Int32 → hSt → Prop) (PX : Nat → Nat → hSt → Prop) (v0 : Option Nat) (z : hSt) : Prop := wJ9_lengthb0 G P PX v0 z
section
variable {p : Program} {l : Launch} {e : Env} {s : State} {m : MethodId} {args : Array Value} {below : List Frame} {meth : Method} {c : Code} {G : gE} {mc ms : Nat} {P : Int32 → hSt → Prop} {PX : Nat → Nat → hSt → Prop}
theorem kJ9_lengthb0 (C : xC G p l s m args meth c cJ9_length 1 "java/lang/StringBuilder") (hr : meth.sig.returnType = (Option.some Jvm.ClassFile.FieldType.int)) (hin : meth.name = "length") (hT : ∀ x ∈ c.exceptionTable.toList, False) (hmc : mc = gL G - s.heap.size ∧ ms = gU G - hsum s.heap)   {v0 : Option Nat} {z : hSt} (hw : wJ9_lengthb0 G P PX  v0 z) : kt G p l e (rmJ9_length mc ms) s m args below meth c 1 (vx_MQ below (cQ G (pI P)) (cX G PX) args s mc ms (gF G)) 0 [(0, va_rf v0)] [] z := by
  intro H locs ls hS hl
  refine r_aload_n C.1 C.2.1 dJ9_length_0 rfl (lv_at hl 0 rfl) ?_
  refine c_SU C hS hmc hl.1 (ci := 16) rfl hw.1 (kJ8_length C.2.2.2.2.2.2.1) hw.2 (lw_SU q1168 q1164 q386 q1163 q79 q1169) ⟨by decide, hdJ8_length.2.2⟩ ⟨Nat.le_of_ble_eq_true rfl, Nat.le_of_ble_eq_true rfl⟩ (rest := []) rfl rfl (Nat.le_of_ble_eq_true rfl) dJ9_length_1 (fun ci q z H locs hx hS ht => r_out C hS hmc (fun x hx => (hT x hx).elim) ht hx) (fun v z1 H locs hv hS => ?_)
  obtain ⟨x2, rfl, hw⟩ := hv
  exact r_iret C hS hmc hr dJ9_length_4 hw
end
theorem kJ9_length {l : Launch} (hl : l.stackTraces = false) {G : gE} {P : Int32 → hSt → Prop} {PX : Nat → Nat → hSt → Prop} {v0 : Option Nat} {z : hSt} : cM l G yJ9_length (ws_ yJ9_length cJ9_length 1 (Option.some Jvm.ClassFile.FieldType.int)) 11 180 z [va_rf v0] (wJ9_length G P PX v0 z) (pI P) PX := by
  refine m_of hl (plainFor_of_name (by decide)) (by rw [lg_sl1 (va_rf_cat _)]; exact Nat.le_of_ble_eq_true rfl) ?_
  intro p e s m args below meth c C hr hin hT hmc hw
  rw [lv_args1 (va_rf_cat _)]
  intro H locs ls hS hl
  exact kJ9_lengthb0 C hr hin hT hmc hw H locs ls hS (lv_sub hl [0] rfl)
theorem hdJ9_length : yJ9_length.cls ≠ "java/lang/invoke/MethodHandle" ∧ yJ9_length.cls ≠ "java/lang/invoke/VarHandle" ∧ (parseMethodDescriptor yJ9_length.desc).map (fun d => d.parameters.length) = some 0 := ⟨by decide +kernel, by decide +kernel, by decide +kernel⟩
abbrev rmJ8_getValue (mc ms : Nat) : Room := { frames := 10, cells := mc, slots := ms, locals := 160 }
def wJ8_getValueb0 (G : gE) (P : Option Nat → hSt → Prop) (PX : Nat → Nat → hSt → Prop)  (v0 : Option Nat) (z : hSt) : Prop :=
  gtR z v0 [16] 0 (fun x1 => P x1 z)
def wJ8_getValue (G : gE) (P : Option Nat → hSt → Prop) (PX : Nat → Nat → hSt → Prop) (v0 : Option Nat) (z : hSt) : Prop := wJ8_getValueb0 G P PX v0 z
section
variable {p : Program} {l : Launch} {e : Env} {s : State} {m : MethodId} {args : Array Value} {below : List Frame} {meth : Method} {c : Code} {G : gE} {mc ms : Nat} {P : Option Nat → hSt → Prop} {PX : Nat → Nat → hSt → Prop}
theorem kJ8_getValueb0 (C : xC G p l s m args meth c cJ8_getValue 1 "java/lang/AbstractStringBuilder") (hr : meth.sig.returnType = (Option.some (Jvm.ClassFile.FieldType.array Jvm.ClassFile.FieldType.byte))) (hin : meth.name = "getValue") (hT : ∀ x ∈ c.exceptionTable.toList, False) (hmc : mc = gL G - s.heap.size ∧ ms = gU G - hsum s.heap)   {v0 : Option Nat} {z : hSt} (hw : wJ8_getValueb0 G P PX  v0 z) : kt G p l e (rmJ8_getValue mc ms) s m args below meth c 1 (vx_MQ below (cQ G (pR P)) (cX G PX) args s mc ms (gF G)) 0 [(0, va_rf v0)] [] z := by
  intro H locs ls hS hl
  refine r_aload_n C.1 C.2.1 dJ8_getValue_0 rfl (lv_at hl 0 rfl) ?_
  refine r_getR C hS fo_16_0 (fl_d C q373) (fun _ h => h) dJ8_getValue_1 hw (fun x1 hw => ?_)
  exact r_aret C hS hmc hr (Or.inr ⟨_, rfl⟩) dJ8_getValue_4 hw
end
theorem kJ8_getValue {l : Launch} (hl : l.stackTraces = false) {G : gE} {P : Option Nat → hSt → Prop} {PX : Nat → Nat → hSt → Prop} {v0 : Option Nat} {z : hSt} : cM l G yJ8_getValue (ws_ yJ8_getValue cJ8_getValue 1 (Option.some (Jvm.ClassFile.FieldType.array Jvm.ClassFile.FieldType.byte))) 10 160 z [va_rf v0] (wJ8_getValue G P PX v0 z) (pR P) PX := by
  refine m_of hl (plainFor_of_name (by decide)) (by rw [lg_sl1 (va_rf_cat _)]; exact Nat.le_of_ble_eq_true rfl) ?_
  intro p e s m args below meth c C hr hin hT hmc hw
  rw [lv_args1 (va_rf_cat _)]
  intro H locs ls hS hl
  exact kJ8_getValueb0 C hr hin hT hmc hw H locs ls hS (lv_sub hl [0] rfl)
theorem hdJ8_getValue : yJ8_getValue.cls ≠ "java/lang/invoke/MethodHandle" ∧ yJ8_getValue.cls ≠ "java/lang/invoke/VarHandle" ∧ (parseMethodDescriptor yJ8_getValue.desc).map (fun d => d.parameters.length) = some 0 := ⟨by decide +kernel, by decide +kernel, by decide +kernel⟩
abbrev rmJ10_init_2 (mc ms : Nat) : Room := { frames := 13, cells := mc, slots := ms, locals := 227 }
def wJ10_init_2b79 (G : gE) (P : hSt → Prop) (PX : Nat → Nat → hSt → Prop)  (v0 : Option Nat) (v3 : Option Nat) (v4 : Int32) (z : hSt) : Prop :=
  (okN .byte 1 ∧ ptV G z v0 [17] 1 (.int 1) (fun z12 => wJ35_copyOfRange G (fun x14 z13 => ptV G z13 v0 [17] 0 (va_rf x14) (fun z15 => P z15)) PX v3 0 (v4 <<< (1 &&& 31)) z12))
def wJ10_init_2b0 (G : gE) (P : hSt → Prop) (PX : Nat → Nat → hSt → Prop)  (v0 : Option Nat) (v1 : Option Nat) (z : hSt) : Prop :=
  (nnl v0 ∧ (rcv z v1 16 ∧ wJ8_getValue G (fun x2 z1 => (rcv z1 v1 16 ∧ wJ9_length G (fun x4 z3 => (rcv z3 v1 16 ∧ wJ8_isLatin1 G (fun x6 z5 => ((x6 = 0 → (((1 : Int32) = 0 → wJ10_init_2b79 G P PX  v0 x2 x4 z5) ∧ (¬ (1 : Int32) = 0 → gtI z5 v1 [16] 2 (fun x7 => ((x7 = 0 → wJ10_init_2b79 G P PX  v0 x2 x4 z5) ∧ (¬ x7 = 0 → False)))))) ∧ (¬ x6 = 0 → (okN .byte 0 ∧ ptV G z5 v0 [17] 1 (.int 0) (fun z8 => wJ35_copyOfRange G (fun x10 z9 => ptV G z9 v0 [17] 0 (va_rf x10) (fun z11 => P z11)) PX x2 0 x4 z8))))) PX v1  z3)) PX v1  z1)) PX v1  z))
def wJ10_init_2 (G : gE) (P : hSt → Prop) (PX : Nat → Nat → hSt → Prop) (v0 : Option Nat) (v1 : Option Nat) (v2 : Option Nat) (z : hSt) : Prop := wJ10_init_2b0 G P PX v0 v1 z
section
variable {p : Program} {l : Launch} {e : Env} {s : State} {m : MethodId} {args : Array Value} {below : List Frame} {meth : Method} {c : Code} {G : gE} {mc ms : Nat} {P : hSt → Prop} {PX : Nat → Nat → hSt → Prop}
theorem kJ10_init_2b79 (C : xC G p l s m args meth c cJ10_init_2 5 "java/lang/String") (hr : meth.sig.returnType = (Option.none : Option Jvm.ClassFile.FieldType)) (hin : meth.name = "<init>") (hT : ∀ x ∈ c.exceptionTable.toList, False) (hmc : mc = gL G - s.heap.size ∧ ms = gU G - hsum s.heap)   {v0 : Option Nat} {v3 : Option Nat} {v4 : Int32} {z : hSt} (hw : wJ10_init_2b79 G P PX  v0 v3 v4 z) : kt G p l e (rmJ10_init_2 mc ms) s m args below meth c 5 (vx_MQ below (cQ G (pV P)) (cX G PX) args s mc ms (gF G)) 79 [(0, va_rf v0), (3, va_rf v3), (4, .int v4)] [] z := by
  intro H locs ls hS hl
  refine r_aload_n C.1 C.2.1 dJ10_init_2_79 rfl (lv_at hl 0 rfl) ?_
  refine lv_iconst C.1 C.2.1 (v := 1) dJ10_init_2_80 rfl ?_
  refine r_putF C hS fo_17_1 (C.2.2.2.2.1 _ q1213) (fun _ h => h) hin rfl hw.1.1 hw.1.2 dJ10_init_2_81 hw.2 (fun z12 H locs hw hS => ?_)
  refine r_aload_n C.1 C.2.1 dJ10_init_2_84 rfl (lv_at hl 0 rfl) ?_
  refine r_aload_n C.1 C.2.1 dJ10_init_2_85 rfl (lv_at hl 1 rfl) ?_
  refine lv_iconst C.1 C.2.1 (v := 0) dJ10_init_2_86 rfl ?_
  refine lv_iload C.1 C.2.1 dJ10_init_2_87 (lv_at hl 2 rfl) ?_
  refine lv_iconst C.1 C.2.1 (v := 1) dJ10_init_2_89 rfl ?_
  refine lv_ishl C.1 C.2.1 dJ10_init_2_90 ?_
  refine c_S C hS hmc hl.1 (kJ35_copyOfRange C.2.2.2.2.2.2.1) hw (lw_S q1171 q1172 q110 q1173) hdJ35_copyOfRange ⟨Nat.le_of_ble_eq_true rfl, Nat.le_of_ble_eq_true rfl⟩ (rest := [va_rf v0]) rfl rfl (Nat.le_of_ble_eq_true rfl) dJ10_init_2_91 (fun ci q z H locs hx hS ht => r_out C hS hmc (fun x hx => (hT x hx).elim) ht hx) (fun v z13 H locs hv hS => ?_)
  obtain ⟨x14, rfl, hw⟩ := hv
  refine r_putF C hS fo_17_0 (C.2.2.2.2.1 _ q1212) (fun _ h => h) hin rfl (narrow_rfA _ _) (fits_rfA _ _) dJ10_init_2_94 hw (fun z15 H locs hw hS => ?_)
  exact r_vret C hS hmc hr dJ10_init_2_97 hw
theorem kJ10_init_2b0 (C : xC G p l s m args meth c cJ10_init_2 5 "java/lang/String") (hr : meth.sig.returnType = (Option.none : Option Jvm.ClassFile.FieldType)) (hin : meth.name = "<init>") (hT : ∀ x ∈ c.exceptionTable.toList, False) (hmc : mc = gL G - s.heap.size ∧ ms = gU G - hsum s.heap)   {v0 : Option Nat} {v1 : Option Nat} {z : hSt} (hw : wJ10_init_2b0 G P PX  v0 v1 z) : kt G p l e (rmJ10_init_2 mc ms) s m args below meth c 5 (vx_MQ below (cQ G (pV P)) (cX G PX) args s mc ms (gF G)) 0 [(0, va_rf v0), (1, va_rf v1)] [] z := by
  intro H locs ls hS hl
  refine r_aload_n C.1 C.2.1 dJ10_init_2_0 rfl (lv_at hl 0 rfl) ?_
  refine r_objInit C hl.1 hw.1 q1156 q140 q141 rfl dJ10_init_2_1 (Nat.le_of_ble_eq_true rfl) (Nat.le_of_ble_eq_true rfl) ?_
  have hw := hw.2
  refine r_aload_n C.1 C.2.1 dJ10_init_2_4 rfl (lv_at hl 1 rfl) ?_
  refine c_U C hS hmc hl.1 (ci := 16) rfl hw.1 (kJ8_getValue C.2.2.2.2.2.2.1) hw.2 q1157 q1159 (decl_c C q1158 q1161) (C.2.2.2.2.1 _ q1160) q1158 q79 q1161 ⟨by decide, by decide⟩ hdJ8_getValue.2.2 ⟨Nat.le_of_ble_eq_true rfl, Nat.le_of_ble_eq_true rfl⟩ (rest := []) rfl rfl (Nat.le_of_ble_eq_true rfl) dJ10_init_2_5 (fun ci q z H locs hx hS ht => r_out C hS hmc (fun x hx => (hT x hx).elim) ht hx) (fun v z1 H locs hv hS => ?_)
  obtain ⟨x2, rfl, hw⟩ := hv
  refine r_astore_n C.1 C.2.1 dJ10_init_2_8 rfl hl (Nat.le_of_ble_eq_true rfl) (ls_new (ls_old 0 rfl rfl (.inl rfl) (ls_old 1 rfl rfl (.inl rfl) ls_nil))) (fun ls hl => ?_)
  refine r_aload_n C.1 C.2.1 dJ10_init_2_9 rfl (lv_at hl 2 rfl) ?_
  refine c_U C hS hmc hl.1 (ci := 16) rfl hw.1 (kJ9_length C.2.2.2.2.2.2.1) hw.2 q1162 q1164 (decl_c C q1163 q1169) (C.2.2.2.2.1 _ q1165) q1166 q80 q1167 ⟨by decide, by decide⟩ hdJ9_length.2.2 ⟨Nat.le_of_ble_eq_true rfl, Nat.le_of_ble_eq_true rfl⟩ (rest := []) rfl rfl (Nat.le_of_ble_eq_true rfl) dJ10_init_2_10 (fun ci q z H locs hx hS ht => r_out C hS hmc (fun x hx => (hT x hx).elim) ht hx) (fun v z3 H locs hv hS => ?_)
  obtain ⟨x4, rfl, hw⟩ := hv
  refine r_istore C.1 C.2.1 dJ10_init_2_13 hl (Nat.le_of_ble_eq_true rfl) (ls_new (ls_old 0 rfl rfl (.inr (va_rf_cat _)) (ls_old 1 rfl rfl (.inl rfl) (ls_old 2 rfl rfl (.inl rfl) ls_nil)))) (fun ls hl => ?_)
  refine r_aload_n C.1 C.2.1 dJ10_init_2_15 rfl (lv_at hl 3 rfl) ?_
  refine c_U C hS hmc hl.1 (ci := 16) rfl hw.1 (kJ8_isLatin1 C.2.2.2.2.2.2.1) hw.2 q1170 q1057 (decl_c C q1056 q1059) (C.2.2.2.2.1 _ q1058) q1056 q79 q1059 ⟨by decide, by decide⟩ hdJ8_isLatin1.2.2 ⟨Nat.le_of_ble_eq_true rfl, Nat.le_of_ble_eq_true rfl⟩ (rest := []) rfl rfl (Nat.le_of_ble_eq_true rfl) dJ10_init_2_16 (fun ci q z H locs hx hS ht => r_out C hS hmc (fun x hx => (hT x hx).elim) ht hx) (fun v z5 H locs hv hS => ?_)
  obtain ⟨x6, rfl, hw⟩ := hv
  refine lv_if_eq C.1 C.2.1 dJ10_init_2_19 rfl (fun h => ?_) (fun h => ?_)
  · have hw := hw.1 h
    refine r_gets C hS (v := .int 1) (by simp [gSTA]) q944 dJ10_init_2_41 ?_
    refine lv_if_eq C.1 C.2.1 dJ10_init_2_44 rfl (fun h => ?_) (fun h => ?_)
    · have hw := hw.1 h
      exact kJ10_init_2b79 C hr hin hT hmc  hw H locs ls hS (lv_sub hl [2, 1, 0] rfl)
    · have hw := hw.2 h
      refine r_aload_n C.1 C.2.1 dJ10_init_2_47 rfl (lv_at hl 3 rfl) ?_
      refine r_getI C hS fo_16_2 (fl_d C q376) (fun _ h => h) dJ10_init_2_48 hw (fun x7 hw => ?_)
      refine lv_if_eq C.1 C.2.1 dJ10_init_2_51 rfl (fun h => ?_) (fun h => ?_)
      · have hw := hw.1 h
        exact kJ10_init_2b79 C hr hin hT hmc  hw H locs ls hS (lv_sub hl [2, 1, 0] rfl)
      · have hw := hw.2 h
        refine r_aload_n C.1 C.2.1 dJ10_init_2_54 rfl (lv_at hl 2 rfl) ?_
        refine r_aload_n C.1 C.2.1 dJ10_init_2_55 rfl (lv_at hl 1 rfl) ?_
        refine lv_iconst C.1 C.2.1 (v := 0) dJ10_init_2_56 rfl ?_
        refine lv_iload C.1 C.2.1 dJ10_init_2_57 (lv_at hl 0 rfl) ?_
        exact hw.elim
  · have hw := hw.2 h
    refine r_aload_n C.1 C.2.1 dJ10_init_2_22 rfl (lv_at hl 2 rfl) ?_
    refine lv_iconst C.1 C.2.1 (v := 0) dJ10_init_2_23 rfl ?_
    refine r_putF C hS fo_17_1 (C.2.2.2.2.1 _ q1213) (fun _ h => h) hin rfl hw.1.1 hw.1.2 dJ10_init_2_24 hw.2 (fun z8 H locs hw hS => ?_)
    refine r_aload_n C.1 C.2.1 dJ10_init_2_27 rfl (lv_at hl 2 rfl) ?_
    refine r_aload_n C.1 C.2.1 dJ10_init_2_28 rfl (lv_at hl 1 rfl) ?_
    refine lv_iconst C.1 C.2.1 (v := 0) dJ10_init_2_29 rfl ?_
    refine lv_iload C.1 C.2.1 dJ10_init_2_30 (lv_at hl 0 rfl) ?_
    refine c_S C hS hmc hl.1 (kJ35_copyOfRange C.2.2.2.2.2.2.1) hw (lw_S q1171 q1172 q110 q1173) hdJ35_copyOfRange ⟨Nat.le_of_ble_eq_true rfl, Nat.le_of_ble_eq_true rfl⟩ (rest := [va_rf v0]) rfl rfl (Nat.le_of_ble_eq_true rfl) dJ10_init_2_32 (fun ci q z H locs hx hS ht => r_out C hS hmc (fun x hx => (hT x hx).elim) ht hx) (fun v z9 H locs hv hS => ?_)
    obtain ⟨x10, rfl, hw⟩ := hv
    refine r_putF C hS fo_17_0 (C.2.2.2.2.1 _ q1212) (fun _ h => h) hin rfl (narrow_rfA _ _) (fits_rfA _ _) dJ10_init_2_35 hw (fun z11 H locs hw hS => ?_)
    refine lv_goto C.1 C.2.1 dJ10_init_2_38 rfl ?_
    exact r_vret C hS hmc hr dJ10_init_2_97 hw
end
theorem kJ10_init_2 {l : Launch} (hl : l.stackTraces = false) {G : gE} {P : hSt → Prop} {PX : Nat → Nat → hSt → Prop} {v0 : Option Nat} {v1 : Option Nat} {v2 : Option Nat} {z : hSt} : cM l G yJ10_init_2 (ws_ yJ10_init_2 cJ10_init_2 5 (Option.none : Option Jvm.ClassFile.FieldType)) 13 227 z [va_rf v0, va_rf v1, va_rf v2] (wJ10_init_2 G P PX v0 v1 v2 z) (pV P) PX := by
  refine m_of hl (plainFor_of_name (by decide)) (by rw [lg_sl1 (va_rf_cat _), lg_sl1 (va_rf_cat _), lg_sl1 (va_rf_cat _)]; exact Nat.le_of_ble_eq_true rfl) ?_
  intro p e s m args below meth c C hr hin hT hmc hw
  rw [lv_args1 (va_rf_cat _), lv_args1 (va_rf_cat _), lv_args1 (va_rf_cat _)]
  intro H locs ls hS hl
  exact kJ10_init_2b0 C hr hin hT hmc hw H locs ls hS (lv_sub hl [0, 1] rfl)
theorem hdJ10_init_2 : yJ10_init_2.cls ≠ "java/lang/invoke/MethodHandle" ∧ yJ10_init_2.cls ≠ "java/lang/invoke/VarHandle" ∧ (parseMethodDescriptor yJ10_init_2.desc).map (fun d => d.parameters.length) = some 2 := ⟨by decide +kernel, by decide +kernel, by decide +kernel⟩
abbrev rmJ10_init (mc ms : Nat) : Room := { frames := 14, cells := mc, slots := ms, locals := 251 }
def wJ10_initb0 (G : gE) (P : hSt → Prop) (PX : Nat → Nat → hSt → Prop)  (v0 : Option Nat) (v1 : Option Nat) (z : hSt) : Prop :=
  (nnl v0 ∧ wJ10_init_2 G (fun z1 => P z1) PX v0 v1 none z)
def wJ10_init (G : gE) (P : hSt → Prop) (PX : Nat → Nat → hSt → Prop) (v0 : Option Nat) (v1 : Option Nat) (z : hSt) : Prop := wJ10_initb0 G P PX v0 v1 z
section
variable {p : Program} {l : Launch} {e : Env} {s : State} {m : MethodId} {args : Array Value} {below : List Frame} {meth : Method} {c : Code} {G : gE} {mc ms : Nat} {P : hSt → Prop} {PX : Nat → Nat → hSt → Prop}
theorem kJ10_initb0 (C : xC G p l s m args meth c cJ10_init 2 "java/lang/String") (hr : meth.sig.returnType = (Option.none : Option Jvm.ClassFile.FieldType)) (hin : meth.name = "<init>") (hT : ∀ x ∈ c.exceptionTable.toList, False) (hmc : mc = gL G - s.heap.size ∧ ms = gU G - hsum s.heap)   {v0 : Option Nat} {v1 : Option Nat} {z : hSt} (hw : wJ10_initb0 G P PX  v0 v1 z) : kt G p l e (rmJ10_init mc ms) s m args below meth c 2 (vx_MQ below (cQ G (pV P)) (cX G PX) args s mc ms (gF G)) 0 [(0, va_rf v0), (1, va_rf v1)] [] z := by
  intro H locs ls hS hl
  refine r_aload_n C.1 C.2.1 dJ10_init_0 rfl (lv_at hl 0 rfl) ?_
  refine r_aload_n C.1 C.2.1 dJ10_init_1 rfl (lv_at hl 1 rfl) ?_
  refine r_null C dJ10_init_2 ?_
  refine c_I C hS hmc hl.1 hw.1 (kJ10_init_2 C.2.2.2.2.2.2.1) hw.2 (lw_meth q1155) q81 q1153 q1154 rfl hdJ10_init_2 ⟨Nat.le_of_ble_eq_true rfl, Nat.le_of_ble_eq_true rfl⟩ (rest := []) rfl rfl (Nat.le_of_ble_eq_true rfl) dJ10_init_3 (fun ci q z H locs hx hS ht => r_out C hS hmc (fun x hx => (hT x hx).elim) ht hx) (fun v z1 H locs hv hS => ?_)
  obtain ⟨rfl, hw⟩ := hv
  exact r_vret C hS hmc hr dJ10_init_6 hw
end
theorem kJ10_init {l : Launch} (hl : l.stackTraces = false) {G : gE} {P : hSt → Prop} {PX : Nat → Nat → hSt → Prop} {v0 : Option Nat} {v1 : Option Nat} {z : hSt} : cM l G yJ10_init (ws_ yJ10_init cJ10_init 2 (Option.none : Option Jvm.ClassFile.FieldType)) 14 251 z [va_rf v0, va_rf v1] (wJ10_init G P PX v0 v1 z) (pV P) PX := by
  refine m_of hl (plainFor_of_name (by decide)) (by rw [lg_sl1 (va_rf_cat _), lg_sl1 (va_rf_cat _)]; exact Nat.le_of_ble_eq_true rfl) ?_
  intro p e s m args below meth c C hr hin hT hmc hw
  rw [lv_args1 (va_rf_cat _), lv_args1 (va_rf_cat _)]
  intro H locs ls hS hl
  exact kJ10_initb0 C hr hin hT hmc hw H locs ls hS (lv_sub hl [0, 1] rfl)
theorem hdJ10_init : yJ10_init.cls ≠ "java/lang/invoke/MethodHandle" ∧ yJ10_init.cls ≠ "java/lang/invoke/VarHandle" ∧ (parseMethodDescriptor yJ10_init.desc).map (fun d => d.parameters.length) = some 1 := ⟨by decide +kernel, by decide +kernel, by decide +kernel⟩
abbrev rmJ9_toString (mc ms : Nat) : Room := { frames := 15, cells := mc, slots := ms, locals := 272 }
def wJ9_toStringb0 (G : gE) (P : Option Nat → hSt → Prop) (PX : Nat → Nat → hSt → Prop)  (v0 : Option Nat) (z : hSt) : Prop :=
  nwO G z 17 4 dfJ10 (fun x1 z2 => (nnl (some x1) ∧ wJ10_init G (fun z3 => P (some x1) z3) PX (some x1) v0 z2))
def wJ9_toString (G : gE) (P : Option Nat → hSt → Prop) (PX : Nat → Nat → hSt → Prop) (v0 : Option Nat) (z : hSt) : Prop := wJ9_toStringb0 G P PX v0 z
section
variable {p : Program} {l : Launch} {e : Env} {s : State} {m : MethodId} {args : Array Value} {below : List Frame} {meth : Method} {c : Code} {G : gE} {mc ms : Nat} {P : Option Nat → hSt → Prop} {PX : Nat → Nat → hSt → Prop}
theorem kJ9_toStringb0 (C : xC G p l s m args meth c cJ9_toString 1 "java/lang/StringBuilder") (hr : meth.sig.returnType = (Option.some (Jvm.ClassFile.FieldType.object "java/lang/String"))) (hin : meth.name = "toString") (hT : ∀ x ∈ c.exceptionTable.toList, False) (hmc : mc = gL G - s.heap.size ∧ ms = gU G - hsum s.heap)   {v0 : Option Nat} {z : hSt} (hw : wJ9_toStringb0 G P PX  v0 z) : kt G p l e (rmJ9_toString mc ms) s m args below meth c 1 (vx_MQ below (cQ G (pR P)) (cX G PX) args s mc ms (gF G)) 0 [(0, va_rf v0)] [] z := by
  intro H locs ls hS hl
  refine r_new C hS (ci := 17) rfl in_J10 tyJ10_ok q1148 q1149 q81 rfl dfJ10_ok hmc dJ9_toString_0 hw (fun x1 z2 H locs hw hS => ?_)
  refine lv_dup C.1 C.2.1 dJ9_toString_3 (va_rf_cat _) ?_
  refine r_aload_n C.1 C.2.1 dJ9_toString_4 rfl (lv_at hl 0 rfl) ?_
  refine c_I C hS hmc hl.1 hw.1 (kJ10_init C.2.2.2.2.2.2.1) hw.2 (lw_meth q1152) q81 q1150 q1151 rfl hdJ10_init ⟨Nat.le_of_ble_eq_true rfl, Nat.le_of_ble_eq_true rfl⟩ (rest := [va_rf (some x1)]) rfl rfl (Nat.le_of_ble_eq_true rfl) dJ9_toString_5 (fun ci q z H locs hx hS ht => r_out C hS hmc (fun x hx => (hT x hx).elim) ht hx) (fun v z3 H locs hv hS => ?_)
  obtain ⟨rfl, hw⟩ := hv
  exact r_aret C hS hmc hr (Or.inl ⟨_, rfl⟩) dJ9_toString_8 hw
end
theorem kJ9_toString {l : Launch} (hl : l.stackTraces = false) {G : gE} {P : Option Nat → hSt → Prop} {PX : Nat → Nat → hSt → Prop} {v0 : Option Nat} {z : hSt} : cM l G yJ9_toString (ws_ yJ9_toString cJ9_toString 1 (Option.some (Jvm.ClassFile.FieldType.object "java/lang/String"))) 15 272 z [va_rf v0] (wJ9_toString G P PX v0 z) (pR P) PX := by
  refine m_of hl (plainFor_of_name (by decide)) (by rw [lg_sl1 (va_rf_cat _)]; exact Nat.le_of_ble_eq_true rfl) ?_
  intro p e s m args below meth c C hr hin hT hmc hw
  rw [lv_args1 (va_rf_cat _)]
  intro H locs ls hS hl
  exact kJ9_toStringb0 C hr hin hT hmc hw H locs ls hS (lv_sub hl [0] rfl)
theorem hdJ9_toString : yJ9_toString.cls ≠ "java/lang/invoke/MethodHandle" ∧ yJ9_toString.cls ≠ "java/lang/invoke/VarHandle" ∧ (parseMethodDescriptor yJ9_toString.desc).map (fun d => d.parameters.length) = some 0 := ⟨by decide +kernel, by decide +kernel, by decide +kernel⟩
abbrev rmJ10_coder (mc ms : Nat) : Room := { frames := 10, cells := mc, slots := ms, locals := 160 }
def wJ10_coderb0 (G : gE) (P : Int32 → hSt → Prop) (PX : Nat → Nat → hSt → Prop)  (v0 : Option Nat) (z : hSt) : Prop :=
  (((1 : Int32) = 0 → (okN .byte 1 ∧ P 1 z)) ∧ (¬ (1 : Int32) = 0 → gtI z v0 [17] 1 (fun x1 => (okN .byte x1 ∧ P x1 z))))
def wJ10_coder (G : gE) (P : Int32 → hSt → Prop) (PX : Nat → Nat → hSt → Prop) (v0 : Option Nat) (z : hSt) : Prop := wJ10_coderb0 G P PX v0 z
section
variable {p : Program} {l : Launch} {e : Env} {s : State} {m : MethodId} {args : Array Value} {below : List Frame} {meth : Method} {c : Code} {G : gE} {mc ms : Nat} {P : Int32 → hSt → Prop} {PX : Nat → Nat → hSt → Prop}
theorem kJ10_coderb0 (C : xC G p l s m args meth c cJ10_coder 1 "java/lang/String") (hr : meth.sig.returnType = (Option.some Jvm.ClassFile.FieldType.byte)) (hin : meth.name = "coder") (hT : ∀ x ∈ c.exceptionTable.toList, False) (hmc : mc = gL G - s.heap.size ∧ ms = gU G - hsum s.heap)   {v0 : Option Nat} {z : hSt} (hw : wJ10_coderb0 G P PX  v0 z) : kt G p l e (rmJ10_coder mc ms) s m args below meth c 1 (vx_MQ below (cQ G (pI P)) (cX G PX) args s mc ms (gF G)) 0 [(0, va_rf v0)] [] z := by
  intro H locs ls hS hl
  refine r_gets C hS (v := .int 1) (by simp [gSTA]) q944 dJ10_coder_0 ?_
  refine lv_if_eq C.1 C.2.1 dJ10_coder_3 rfl (fun h => ?_) (fun h => ?_)
  · have hw := hw.1 h
    refine lv_iconst C.1 C.2.1 (v := 1) dJ10_coder_13 rfl ?_
    exact r_zret C hS hmc hr dJ10_coder_14 hw
  · have hw := hw.2 h
    refine r_aload_n C.1 C.2.1 dJ10_coder_6 rfl (lv_at hl 0 rfl) ?_
    refine r_getI C hS fo_17_1 (fl_d C q1213) (fun _ h => h) dJ10_coder_7 hw (fun x1 hw => ?_)
    refine lv_goto C.1 C.2.1 dJ10_coder_10 rfl ?_
    exact r_zret C hS hmc hr dJ10_coder_14 hw
end
theorem kJ10_coder {l : Launch} (hl : l.stackTraces = false) {G : gE} {P : Int32 → hSt → Prop} {PX : Nat → Nat → hSt → Prop} {v0 : Option Nat} {z : hSt} : cM l G yJ10_coder (ws_ yJ10_coder cJ10_coder 1 (Option.some Jvm.ClassFile.FieldType.byte)) 10 160 z [va_rf v0] (wJ10_coder G P PX v0 z) (pI P) PX := by
  refine m_of hl (plainFor_of_name (by decide)) (by rw [lg_sl1 (va_rf_cat _)]; exact Nat.le_of_ble_eq_true rfl) ?_
  intro p e s m args below meth c C hr hin hT hmc hw
  rw [lv_args1 (va_rf_cat _)]
  intro H locs ls hS hl
  exact kJ10_coderb0 C hr hin hT hmc hw H locs ls hS (lv_sub hl [0] rfl)
theorem hdJ10_coder : yJ10_coder.cls ≠ "java/lang/invoke/MethodHandle" ∧ yJ10_coder.cls ≠ "java/lang/invoke/VarHandle" ∧ (parseMethodDescriptor yJ10_coder.desc).map (fun d => d.parameters.length) = some 0 := ⟨by decide +kernel, by decide +kernel, by decide +kernel⟩
abbrev rmJ10_length (mc ms : Nat) : Room := { frames := 11, cells := mc, slots := ms, locals := 180 }
def wJ10_lengthb0 (G : gE) (P : Int32 → hSt → Prop) (PX : Nat → Nat → hSt → Prop)  (v0 : Option Nat) (z : hSt) : Prop :=
  gtR z v0 [17] 0 (fun x1 => aln z x1 (fun x2 => (rcv z v0 17 ∧ wJ10_coder G (fun x4 z3 => P (x2 >>> (x4 &&& 31)) z3) PX v0  z)))
def wJ10_length (G : gE) (P : Int32 → hSt → Prop) (PX : Nat → Nat → hSt → Prop) (v0 : Option Nat) (z : hSt) : Prop := wJ10_lengthb0 G P PX v0 z
section
variable {p : Program} {l : Launch} {e : Env} {s : State} {m : MethodId} {args : Array Value} {below : List Frame} {meth : Method} {c : Code} {G : gE} {mc ms : Nat} {P : Int32 → hSt → Prop} {PX : Nat → Nat → hSt → Prop}
theorem kJ10_lengthb0 (C : xC G p l s m args meth c cJ10_length 1 "java/lang/String") (hr : meth.sig.returnType = (Option.some Jvm.ClassFile.FieldType.int)) (hin : meth.name = "length") (hT : ∀ x ∈ c.exceptionTable.toList, False) (hmc : mc = gL G - s.heap.size ∧ ms = gU G - hsum s.heap)   {v0 : Option Nat} {z : hSt} (hw : wJ10_lengthb0 G P PX  v0 z) : kt G p l e (rmJ10_length mc ms) s m args below meth c 1 (vx_MQ below (cQ G (pI P)) (cX G PX) args s mc ms (gF G)) 0 [(0, va_rf v0)] [] z := by
  intro H locs ls hS hl
  refine r_aload_n C.1 C.2.1 dJ10_length_0 rfl (lv_at hl 0 rfl) ?_
  refine r_getR C hS fo_17_0 (fl_d C q1212) (fun _ h => h) dJ10_length_1 hw (fun x1 hw => ?_)
  refine r_alen C hS dJ10_length_4 hw (fun x2 hw => ?_)
  refine r_aload_n C.1 C.2.1 dJ10_length_5 rfl (lv_at hl 0 rfl) ?_
  refine c_V C hS hmc hl.1 (ci := 17) rfl hw.1 (kJ10_coder C.2.2.2.2.2.2.1) hw.2 (lw_V q1081 q1082 q1083 q81 q1084) ⟨rfl, hdJ10_coder⟩ ⟨Nat.le_of_ble_eq_true rfl, Nat.le_of_ble_eq_true rfl⟩ (rest := [.int x2]) rfl rfl (Nat.le_of_ble_eq_true rfl) dJ10_length_6 (fun ci q z H locs hx hS ht => r_out C hS hmc (fun x hx => (hT x hx).elim) ht hx) (fun v z3 H locs hv hS => ?_)
  obtain ⟨x4, rfl, hw⟩ := hv
  refine lv_ishr C.1 C.2.1 dJ10_length_9 ?_
  exact r_iret C hS hmc hr dJ10_length_10 hw
end
theorem kJ10_length {l : Launch} (hl : l.stackTraces = false) {G : gE} {P : Int32 → hSt → Prop} {PX : Nat → Nat → hSt → Prop} {v0 : Option Nat} {z : hSt} : cM l G yJ10_length (ws_ yJ10_length cJ10_length 1 (Option.some Jvm.ClassFile.FieldType.int)) 11 180 z [va_rf v0] (wJ10_length G P PX v0 z) (pI P) PX := by
  refine m_of hl (plainFor_of_name (by decide)) (by rw [lg_sl1 (va_rf_cat _)]; exact Nat.le_of_ble_eq_true rfl) ?_
  intro p e s m args below meth c C hr hin hT hmc hw
  rw [lv_args1 (va_rf_cat _)]
  intro H locs ls hS hl
  exact kJ10_lengthb0 C hr hin hT hmc hw H locs ls hS (lv_sub hl [0] rfl)
theorem hdJ10_length : yJ10_length.cls ≠ "java/lang/invoke/MethodHandle" ∧ yJ10_length.cls ≠ "java/lang/invoke/VarHandle" ∧ (parseMethodDescriptor yJ10_length.desc).map (fun d => d.parameters.length) = some 0 := ⟨by decide +kernel, by decide +kernel, by decide +kernel⟩
abbrev rmJ31_getChars (mc ms : Nat) : Room := { frames := 10, cells := mc, slots := ms, locals := 160 }
def wJ31_getCharsb118 (G : gE) (P : Int32 → hSt → Prop) (PX : Nat → Nat → hSt → Prop)  (v5 : Int32) (z : hSt) : Prop :=
  P v5 z
def wJ31_getCharsb104 (G : gE) (P : Int32 → hSt → Prop) (PX : Nat → Nat → hSt → Prop)  (v2 : Option Nat) (v5 : Int32) (v6 : Int32) (z : hSt) : Prop :=
  ((v6 = 0 → wJ31_getCharsb118 G P PX  v5 z) ∧ (¬ v6 = 0 → asI G z v2 2 .byte (v5 + (-1)) 45 (fun z9 => wJ31_getCharsb118 G P PX  (v5 + (-1)) z9)))
def wJ31_getCharsb22 (G : gE) (P : Int32 → hSt → Prop) (PX : Nat → Nat → hSt → Prop) (K22 : (Int32 × Option Nat × Int32 × Int32 × hSt) → Prop) (v0 : Int32) (v2 : Option Nat) (v5 : Int32) (v6 : Int32) (z : hSt) : Prop :=
  (((-100) < v0 → alI z (some (gA G 43)) 2 (-v0) (fun x1 => asI G z v2 2 .byte (v5 + (-1)) x1 (fun z2 => (((-9) ≤ v0 → wJ31_getCharsb104 G P PX  v2 (v5 + (-1)) v6 z2) ∧ (¬ (-9) ≤ v0 → alI z2 (some (gA G 44)) 2 (-v0) (fun x3 => asI G z2 v2 2 .byte ((v5 + (-1)) + (-1)) x3 (fun z4 => wJ31_getCharsb104 G P PX  v2 ((v5 + (-1)) + (-1)) v6 z4))))))) ∧ (¬ (-100) < v0 → alI z (some (gA G 43)) 2 (((v0 / 100) * 100) - v0) (fun x5 => asI G z v2 2 .byte (v5 + (-1)) x5 (fun z6 => alI z6 (some (gA G 44)) 2 (((v0 / 100) * 100) - v0) (fun x7 => asI G z6 v2 2 .byte ((v5 + (-1)) + (-1)) x7 (fun z8 => K22 (v0 / 100, v2, (v5 + (-1)) + (-1), v6, z8)))))))
def wJ31_getCharsb12 (G : gE) (P : Int32 → hSt → Prop) (PX : Nat → Nat → hSt → Prop)  (v0 : Int32) (v2 : Option Nat) (v5 : Int32) (s0 : Int32) (z : hSt) : Prop :=
  ((¬ s0 = 0 → lpI (fun (K22 : (Int32 × Option Nat × Int32 × Int32 × hSt) → Prop) (y : (Int32 × Option Nat × Int32 × Int32 × hSt)) => wJ31_getCharsb22 G P PX  K22 (y.1) (y.2.1) (y.2.2.1) (y.2.2.2.1) (y.2.2.2.2)) (v0, v2, v5, s0, z)) ∧ (s0 = 0 → lpI (fun (K22 : (Int32 × Option Nat × Int32 × Int32 × hSt) → Prop) (y : (Int32 × Option Nat × Int32 × Int32 × hSt)) => wJ31_getCharsb22 G P PX  K22 (y.1) (y.2.1) (y.2.2.1) (y.2.2.2.1) (y.2.2.2.2)) (-v0, v2, v5, s0, z)))
def wJ31_getCharsb0 (G : gE) (P : Int32 → hSt → Prop) (PX : Nat → Nat → hSt → Prop)  (v0 : Int32) (v1 : Int32) (v2 : Option Nat) (z : hSt) : Prop :=
  ((0 ≤ v0 → wJ31_getCharsb12 G P PX  v0 v2 v1 0 z) ∧ (¬ 0 ≤ v0 → wJ31_getCharsb12 G P PX  v0 v2 v1 1 z))
def wJ31_getChars (G : gE) (P : Int32 → hSt → Prop) (PX : Nat → Nat → hSt → Prop) (v0 : Int32) (v1 : Int32) (v2 : Option Nat) (z : hSt) : Prop := wJ31_getCharsb0 G P PX v0 v1 v2 z
section
variable {p : Program} {l : Launch} {e : Env} {s : State} {m : MethodId} {args : Array Value} {below : List Frame} {meth : Method} {c : Code} {G : gE} {mc ms : Nat} {P : Int32 → hSt → Prop} {PX : Nat → Nat → hSt → Prop}
theorem kJ31_getCharsb118 (C : xC G p l s m args meth c cJ31_getChars 7 "java/lang/Integer") (hr : meth.sig.returnType = (Option.some Jvm.ClassFile.FieldType.int)) (hin : meth.name = "getChars") (hT : ∀ x ∈ c.exceptionTable.toList, False) (hmc : mc = gL G - s.heap.size ∧ ms = gU G - hsum s.heap)   {v5 : Int32} {z : hSt} (hw : wJ31_getCharsb118 G P PX  v5 z) : kt G p l e (rmJ31_getChars mc ms) s m args below meth c 7 (vx_MQ below (cQ G (pI P)) (cX G PX) args s mc ms (gF G)) 118 [(5, .int v5)] [] z := by
  intro H locs ls hS hl
  refine lv_iload C.1 C.2.1 dJ31_getChars_118 (lv_at hl 0 rfl) ?_
  exact r_iret C hS hmc hr dJ31_getChars_120 hw
theorem kJ31_getCharsb104 (C : xC G p l s m args meth c cJ31_getChars 7 "java/lang/Integer") (hr : meth.sig.returnType = (Option.some Jvm.ClassFile.FieldType.int)) (hin : meth.name = "getChars") (hT : ∀ x ∈ c.exceptionTable.toList, False) (hmc : mc = gL G - s.heap.size ∧ ms = gU G - hsum s.heap)   {v2 : Option Nat} {v5 : Int32} {v6 : Int32} {z : hSt} (hw : wJ31_getCharsb104 G P PX  v2 v5 v6 z) : kt G p l e (rmJ31_getChars mc ms) s m args below meth c 7 (vx_MQ below (cQ G (pI P)) (cX G PX) args s mc ms (gF G)) 104 [(2, va_rf v2), (5, .int v5), (6, .int v6)] [] z := by
  intro H locs ls hS hl
  refine lv_iload C.1 C.2.1 dJ31_getChars_104 (lv_at hl 2 rfl) ?_
  refine lv_if_eq C.1 C.2.1 dJ31_getChars_106 rfl (fun h => ?_) (fun h => ?_)
  · have hw := hw.1 h
    exact kJ31_getCharsb118 C hr hin hT hmc  hw H locs ls hS (lv_sub hl [1] rfl)
  · have hw := hw.2 h
    refine r_aload_n C.1 C.2.1 dJ31_getChars_109 rfl (lv_at hl 0 rfl) ?_
    refine r_iinc C.1 C.2.1 dJ31_getChars_110 hl (k := 1) rfl (v := (-1)) rfl (Nat.le_of_ble_eq_true rfl) (ls_new ls_nil) (fun ls hl => ?_)
    refine lv_iload C.1 C.2.1 dJ31_getChars_113 (lv_at hl 0 rfl) ?_
    refine lv_bipush C.1 C.2.1 (v := 45) dJ31_getChars_115 rfl ?_
    refine r_bast C hS dJ31_getChars_117 hw (fun z9 H locs hw hS => ?_)
    exact kJ31_getCharsb118 C hr hin hT hmc  hw H locs ls hS (lv_sub hl [0] rfl)
theorem kJ31_getCharsb22 (C : xC G p l s m args meth c cJ31_getChars 7 "java/lang/Integer") (hr : meth.sig.returnType = (Option.some Jvm.ClassFile.FieldType.int)) (hin : meth.name = "getChars") (hT : ∀ x ∈ c.exceptionTable.toList, False) (hmc : mc = gL G - s.heap.size ∧ ms = gU G - hsum s.heap) {K22 : (Int32 × Option Nat × Int32 × Int32 × hSt) → Prop} (hK22 : ∀ y : (Int32 × Option Nat × Int32 × Int32 × hSt), K22 y → kt G p l e (rmJ31_getChars mc ms) s m args below meth c 7 (vx_MQ below (cQ G (pI P)) (cX G PX) args s mc ms (gF G)) 22 [(0, .int (y.1)), (2, va_rf (y.2.1)), (5, .int (y.2.2.1)), (6, .int (y.2.2.2.1))] [] (y.2.2.2.2)) {v0 : Int32} {v2 : Option Nat} {v5 : Int32} {v6 : Int32} {z : hSt} (hw : wJ31_getCharsb22 G P PX K22 v0 v2 v5 v6 z) : kt G p l e (rmJ31_getChars mc ms) s m args below meth c 7 (vx_MQ below (cQ G (pI P)) (cX G PX) args s mc ms (gF G)) 22 [(0, .int v0), (2, va_rf v2), (5, .int v5), (6, .int v6)] [] z := by
  intro H locs ls hS hl
  refine lv_iload_n C.1 C.2.1 dJ31_getChars_22 rfl (lv_at hl 0 rfl) ?_
  refine lv_bipush C.1 C.2.1 (v := (-100)) dJ31_getChars_23 rfl ?_
  refine lv_icmp_gt C.1 C.2.1 dJ31_getChars_25 rfl (fun h => ?_) (fun h => ?_)
  · have hw := hw.1 h
    refine r_aload_n C.1 C.2.1 dJ31_getChars_72 rfl (lv_at hl 1 rfl) ?_
    refine r_iinc C.1 C.2.1 dJ31_getChars_73 hl (k := 2) rfl (v := (-1)) rfl (Nat.le_of_ble_eq_true rfl) (ls_new (ls_old 0 rfl rfl (.inl rfl) (ls_old 1 rfl rfl (.inl rfl) (ls_old 3 rfl rfl (.inl rfl) ls_nil)))) (fun ls hl => ?_)
    refine lv_iload C.1 C.2.1 dJ31_getChars_76 (lv_at hl 0 rfl) ?_
    refine r_getsR C hS (k := 43) (by simp [gSTA]) q1132 dJ31_getChars_78 ?_
    refine lv_iload_n C.1 C.2.1 dJ31_getChars_81 rfl (lv_at hl 1 rfl) ?_
    refine lv_ineg C.1 C.2.1 dJ31_getChars_82 ?_
    refine r_bald C hS dJ31_getChars_83 hw (fun x1 hw => ?_)
    refine r_bast C hS dJ31_getChars_84 hw (fun z2 H locs hw hS => ?_)
    refine lv_iload_n C.1 C.2.1 dJ31_getChars_85 rfl (lv_at hl 1 rfl) ?_
    refine lv_bipush C.1 C.2.1 (v := (-9)) dJ31_getChars_86 rfl ?_
    refine lv_icmp_ge C.1 C.2.1 dJ31_getChars_88 rfl (fun h => ?_) (fun h => ?_)
    · have hw := hw.1 h
      exact kJ31_getCharsb104 C hr hin hT hmc  hw H locs ls hS (lv_sub hl [2, 0, 3] rfl)
    · have hw := hw.2 h
      refine r_aload_n C.1 C.2.1 dJ31_getChars_91 rfl (lv_at hl 2 rfl) ?_
      refine r_iinc C.1 C.2.1 dJ31_getChars_92 hl (k := 0) rfl (v := (-1)) rfl (Nat.le_of_ble_eq_true rfl) (ls_new (ls_old 1 rfl rfl (.inl rfl) (ls_old 2 rfl rfl (.inl rfl) (ls_old 3 rfl rfl (.inl rfl) ls_nil)))) (fun ls hl => ?_)
      refine lv_iload C.1 C.2.1 dJ31_getChars_95 (lv_at hl 0 rfl) ?_
      refine r_getsR C hS (k := 44) (by simp [gSTA]) q1134 dJ31_getChars_97 ?_
      refine lv_iload_n C.1 C.2.1 dJ31_getChars_100 rfl (lv_at hl 1 rfl) ?_
      refine lv_ineg C.1 C.2.1 dJ31_getChars_101 ?_
      refine r_bald C hS dJ31_getChars_102 hw (fun x3 hw => ?_)
      refine r_bast C hS dJ31_getChars_103 hw (fun z4 H locs hw hS => ?_)
      exact kJ31_getCharsb104 C hr hin hT hmc  hw H locs ls hS (lv_sub hl [2, 0, 3] rfl)
  · have hw := hw.2 h
    refine lv_iload_n C.1 C.2.1 dJ31_getChars_28 rfl (lv_at hl 0 rfl) ?_
    refine lv_bipush C.1 C.2.1 (v := 100) dJ31_getChars_29 rfl ?_
    refine lv_idiv C.1 C.2.1 dJ31_getChars_31 (by decide) ?_
    refine r_istore_n C.1 C.2.1 dJ31_getChars_32 rfl hl (Nat.le_of_ble_eq_true rfl) (ls_new (ls_old 0 rfl rfl (.inl rfl) (ls_old 1 rfl rfl (.inr (va_rf_cat _)) (ls_old 2 rfl rfl (.inl rfl) (ls_old 3 rfl rfl (.inl rfl) ls_nil))))) (fun ls hl => ?_)
    refine lv_iload_n C.1 C.2.1 dJ31_getChars_33 rfl (lv_at hl 0 rfl) ?_
    refine lv_bipush C.1 C.2.1 (v := 100) dJ31_getChars_34 rfl ?_
    refine lv_imul C.1 C.2.1 dJ31_getChars_36 ?_
    refine lv_iload_n C.1 C.2.1 dJ31_getChars_37 rfl (lv_at hl 1 rfl) ?_
    refine lv_isub C.1 C.2.1 dJ31_getChars_38 ?_
    refine r_istore C.1 C.2.1 dJ31_getChars_39 hl (Nat.le_of_ble_eq_true rfl) (ls_new (ls_old 0 rfl rfl (.inr rfl) (ls_old 2 rfl rfl (.inl rfl) (ls_old 3 rfl rfl (.inl rfl) (ls_old 4 rfl rfl (.inl rfl) ls_nil))))) (fun ls hl => ?_)
    refine lv_iload_n C.1 C.2.1 dJ31_getChars_41 rfl (lv_at hl 1 rfl) ?_
    refine r_istore_n C.1 C.2.1 dJ31_getChars_42 rfl hl (Nat.le_of_ble_eq_true rfl) (ls_new (ls_old 0 rfl rfl (.inl rfl) (ls_old 2 rfl rfl (.inl rfl) (ls_old 3 rfl rfl (.inl rfl) (ls_old 4 rfl rfl (.inl rfl) ls_nil))))) (fun ls hl => ?_)
    refine r_aload_n C.1 C.2.1 dJ31_getChars_43 rfl (lv_at hl 2 rfl) ?_
    refine r_iinc C.1 C.2.1 dJ31_getChars_44 hl (k := 3) rfl (v := (-1)) rfl (Nat.le_of_ble_eq_true rfl) (ls_new (ls_old 0 rfl rfl (.inl rfl) (ls_old 1 rfl rfl (.inr rfl) (ls_old 2 rfl rfl (.inl rfl) (ls_old 4 rfl rfl (.inl rfl) ls_nil))))) (fun ls hl => ?_)
    refine lv_iload C.1 C.2.1 dJ31_getChars_47 (lv_at hl 0 rfl) ?_
    refine r_getsR C hS (k := 43) (by simp [gSTA]) q1132 dJ31_getChars_49 ?_
    refine lv_iload C.1 C.2.1 dJ31_getChars_52 (lv_at hl 2 rfl) ?_
    refine r_bald C hS dJ31_getChars_54 hw (fun x5 hw => ?_)
    refine r_bast C hS dJ31_getChars_55 hw (fun z6 H locs hw hS => ?_)
    refine r_aload_n C.1 C.2.1 dJ31_getChars_56 rfl (lv_at hl 3 rfl) ?_
    refine r_iinc C.1 C.2.1 dJ31_getChars_57 hl (k := 0) rfl (v := (-1)) rfl (Nat.le_of_ble_eq_true rfl) (ls_new (ls_old 1 rfl rfl (.inl rfl) (ls_old 2 rfl rfl (.inr rfl) (ls_old 3 rfl rfl (.inl rfl) (ls_old 4 rfl rfl (.inl rfl) ls_nil))))) (fun ls hl => ?_)
    refine lv_iload C.1 C.2.1 dJ31_getChars_60 (lv_at hl 0 rfl) ?_
    refine r_getsR C hS (k := 44) (by simp [gSTA]) q1134 dJ31_getChars_62 ?_
    refine lv_iload C.1 C.2.1 dJ31_getChars_65 (lv_at hl 2 rfl) ?_
    refine r_bald C hS dJ31_getChars_67 hw (fun x7 hw => ?_)
    refine r_bast C hS dJ31_getChars_68 hw (fun z8 H locs hw hS => ?_)
    refine lv_goto C.1 C.2.1 dJ31_getChars_69 rfl ?_
    exact hK22 _ hw H locs ls hS (lv_sub hl [1, 3, 0, 4] rfl)
theorem kJ31_getCharsb12 (C : xC G p l s m args meth c cJ31_getChars 7 "java/lang/Integer") (hr : meth.sig.returnType = (Option.some Jvm.ClassFile.FieldType.int)) (hin : meth.name = "getChars") (hT : ∀ x ∈ c.exceptionTable.toList, False) (hmc : mc = gL G - s.heap.size ∧ ms = gU G - hsum s.heap)   {v0 : Int32} {v2 : Option Nat} {v5 : Int32} {s0 : Int32} {z : hSt} (hw : wJ31_getCharsb12 G P PX  v0 v2 v5 s0 z) : kt G p l e (rmJ31_getChars mc ms) s m args below meth c 7 (vx_MQ below (cQ G (pI P)) (cX G PX) args s mc ms (gF G)) 12 [(0, .int v0), (2, va_rf v2), (5, .int v5)] [.int s0] z := by
  intro H locs ls hS hl
  refine r_istore C.1 C.2.1 dJ31_getChars_12 hl (Nat.le_of_ble_eq_true rfl) (ls_new (ls_old 0 rfl rfl (.inl rfl) (ls_old 1 rfl rfl (.inl rfl) (ls_old 2 rfl rfl (.inr rfl) ls_nil)))) (fun ls hl => ?_)
  refine lv_iload C.1 C.2.1 dJ31_getChars_14 (lv_at hl 0 rfl) ?_
  refine lv_if_ne C.1 C.2.1 dJ31_getChars_16 rfl (fun h => ?_) (fun h => ?_)
  · have hw := hw.1 h
    exact lpI_sound (Wt := fun (y : (Int32 × Option Nat × Int32 × Int32 × hSt)) => kt G p l e (rmJ31_getChars mc ms) s m args below meth c 7 (vx_MQ below (cQ G (pI P)) (cX G PX) args s mc ms (gF G)) 22 [(0, .int (y.1)), (2, va_rf (y.2.1)), (5, .int (y.2.2.1)), (6, .int (y.2.2.2.1))] [] (y.2.2.2.2)) (fun K y hK hF => kJ31_getCharsb22 C hr hin hT hmc  hK hF) hw H locs ls hS (lv_sub hl [1, 2, 3, 0] rfl)
  · have hw := hw.2 h
    refine lv_iload_n C.1 C.2.1 dJ31_getChars_19 rfl (lv_at hl 1 rfl) ?_
    refine lv_ineg C.1 C.2.1 dJ31_getChars_20 ?_
    refine r_istore_n C.1 C.2.1 dJ31_getChars_21 rfl hl (Nat.le_of_ble_eq_true rfl) (ls_new (ls_old 0 rfl rfl (.inl rfl) (ls_old 2 rfl rfl (.inl rfl) (ls_old 3 rfl rfl (.inl rfl) ls_nil)))) (fun ls hl => ?_)
    exact lpI_sound (Wt := fun (y : (Int32 × Option Nat × Int32 × Int32 × hSt)) => kt G p l e (rmJ31_getChars mc ms) s m args below meth c 7 (vx_MQ below (cQ G (pI P)) (cX G PX) args s mc ms (gF G)) 22 [(0, .int (y.1)), (2, va_rf (y.2.1)), (5, .int (y.2.2.1)), (6, .int (y.2.2.2.1))] [] (y.2.2.2.2)) (fun K y hK hF => kJ31_getCharsb22 C hr hin hT hmc  hK hF) hw H locs ls hS (lv_sub hl [0, 2, 3, 1] rfl)
theorem kJ31_getCharsb0 (C : xC G p l s m args meth c cJ31_getChars 7 "java/lang/Integer") (hr : meth.sig.returnType = (Option.some Jvm.ClassFile.FieldType.int)) (hin : meth.name = "getChars") (hT : ∀ x ∈ c.exceptionTable.toList, False) (hmc : mc = gL G - s.heap.size ∧ ms = gU G - hsum s.heap)   {v0 : Int32} {v1 : Int32} {v2 : Option Nat} {z : hSt} (hw : wJ31_getCharsb0 G P PX  v0 v1 v2 z) : kt G p l e (rmJ31_getChars mc ms) s m args below meth c 7 (vx_MQ below (cQ G (pI P)) (cX G PX) args s mc ms (gF G)) 0 [(0, .int v0), (1, .int v1), (2, va_rf v2)] [] z := by
  intro H locs ls hS hl
  refine lv_iload_n C.1 C.2.1 dJ31_getChars_0 rfl (lv_at hl 1 rfl) ?_
  refine r_istore C.1 C.2.1 dJ31_getChars_1 hl (Nat.le_of_ble_eq_true rfl) (ls_new (ls_old 0 rfl rfl (.inl rfl) (ls_old 2 rfl rfl (.inl rfl) ls_nil))) (fun ls hl => ?_)
  refine lv_iload_n C.1 C.2.1 dJ31_getChars_3 rfl (lv_at hl 1 rfl) ?_
  refine lv_if_ge C.1 C.2.1 dJ31_getChars_4 rfl (fun h => ?_) (fun h => ?_)
  · have hw := hw.1 h
    refine lv_iconst C.1 C.2.1 (v := 0) dJ31_getChars_11 rfl ?_
    exact kJ31_getCharsb12 C hr hin hT hmc  hw H locs ls hS (lv_sub hl [1, 2, 0] rfl)
  · have hw := hw.2 h
    refine lv_iconst C.1 C.2.1 (v := 1) dJ31_getChars_7 rfl ?_
    refine lv_goto C.1 C.2.1 dJ31_getChars_8 rfl ?_
    exact kJ31_getCharsb12 C hr hin hT hmc  hw H locs ls hS (lv_sub hl [1, 2, 0] rfl)
end
theorem kJ31_getChars {l : Launch} (hl : l.stackTraces = false) {G : gE} {P : Int32 → hSt → Prop} {PX : Nat → Nat → hSt → Prop} {v0 : Int32} {v1 : Int32} {v2 : Option Nat} {z : hSt} : cM l G yJ31_getChars (ws_ yJ31_getChars cJ31_getChars 7 (Option.some Jvm.ClassFile.FieldType.int)) 10 160 z [.int v0, .int v1, va_rf v2] (wJ31_getChars G P PX v0 v1 v2 z) (pI P) PX := by
  refine m_of hl (plainFor_of_name (by decide)) (by rw [lg_sl1 rfl, lg_sl1 rfl, lg_sl1 (va_rf_cat _)]; exact Nat.le_of_ble_eq_true rfl) ?_
  intro p e s m args below meth c C hr hin hT hmc hw
  rw [lv_args1 rfl, lv_args1 rfl, lv_args1 (va_rf_cat _)]
  intro H locs ls hS hl
  exact kJ31_getCharsb0 C hr hin hT hmc hw H locs ls hS (lv_sub hl [0, 1, 2] rfl)
theorem hdJ31_getChars : yJ31_getChars.cls ≠ "java/lang/invoke/MethodHandle" ∧ yJ31_getChars.cls ≠ "java/lang/invoke/VarHandle" ∧ (parseMethodDescriptor yJ31_getChars.desc).map (fun d => d.parameters.length) = some 3 := ⟨by decide +kernel, by decide +kernel, by decide +kernel⟩
abbrev rmJ35_copyOf (mc ms : Nat) : Room := { frames := 10, cells := mc, slots := ms, locals := 160 }
def wJ35_copyOfb0 (G : gE) (P : Option Nat → hSt → Prop) (PX : Nat → Nat → hSt → Prop)  (v0 : Option Nat) (v1 : Int32) (z : hSt) : Prop :=
  aln z v0 (fun x1 => ((¬ v1 = x1 → nwA G z 2 (.inl fun _ => 0) v1 (fun x2 z3 => aln z3 v0 (fun x4 => acA G z3 v0 0 (some x2) 0 (if v1 < x4 then v1 else x4) (fun z5 => P (some x2) z5)))) ∧ (v1 = x1 → clB G z v0 (fun x6 z7 => (ckA z7 (some x6) [2] ∧ P (some x6) z7)))))
def wJ35_copyOf (G : gE) (P : Option Nat → hSt → Prop) (PX : Nat → Nat → hSt → Prop) (v0 : Option Nat) (v1 : Int32) (z : hSt) : Prop := wJ35_copyOfb0 G P PX v0 v1 z
section
variable {p : Program} {l : Launch} {e : Env} {s : State} {m : MethodId} {args : Array Value} {below : List Frame} {meth : Method} {c : Code} {G : gE} {mc ms : Nat} {P : Option Nat → hSt → Prop} {PX : Nat → Nat → hSt → Prop}
theorem kJ35_copyOfb0 (C : xC G p l s m args meth c cJ35_copyOf 3 "java/util/Arrays") (hr : meth.sig.returnType = (Option.some (Jvm.ClassFile.FieldType.array Jvm.ClassFile.FieldType.byte))) (hin : meth.name = "copyOf") (hT : ∀ x ∈ c.exceptionTable.toList, False) (hmc : mc = gL G - s.heap.size ∧ ms = gU G - hsum s.heap)   {v0 : Option Nat} {v1 : Int32} {z : hSt} (hw : wJ35_copyOfb0 G P PX  v0 v1 z) : kt G p l e (rmJ35_copyOf mc ms) s m args below meth c 3 (vx_MQ below (cQ G (pR P)) (cX G PX) args s mc ms (gF G)) 0 [(0, va_rf v0), (1, .int v1)] [] z := by
  intro H locs ls hS hl
  refine lv_iload_n C.1 C.2.1 dJ35_copyOf_0 rfl (lv_at hl 1 rfl) ?_
  refine r_aload_n C.1 C.2.1 dJ35_copyOf_1 rfl (lv_at hl 0 rfl) ?_
  refine r_alen C hS dJ35_copyOf_2 hw (fun x1 hw => ?_)
  refine lv_icmp_ne C.1 C.2.1 dJ35_copyOf_3 rfl (fun h => ?_) (fun h => ?_)
  · have hw := hw.1 h
    refine lv_iload_n C.1 C.2.1 dJ35_copyOf_14 rfl (lv_at hl 1 rfl) ?_
    refine r_newb C hS hmc dJ35_copyOf_15 hw (fun x2 z3 H locs hw hS => ?_)
    refine r_astore_n C.1 C.2.1 dJ35_copyOf_17 rfl hl (Nat.le_of_ble_eq_true rfl) (ls_new (ls_old 0 rfl rfl (.inl rfl) (ls_old 1 rfl rfl (.inr rfl) ls_nil))) (fun ls hl => ?_)
    refine r_aload_n C.1 C.2.1 dJ35_copyOf_18 rfl (lv_at hl 1 rfl) ?_
    refine lv_iconst C.1 C.2.1 (v := 0) dJ35_copyOf_19 rfl ?_
    refine r_aload_n C.1 C.2.1 dJ35_copyOf_20 rfl (lv_at hl 0 rfl) ?_
    refine lv_iconst C.1 C.2.1 (v := 0) dJ35_copyOf_21 rfl ?_
    refine r_aload_n C.1 C.2.1 dJ35_copyOf_22 rfl (lv_at hl 1 rfl) ?_
    refine r_alen C hS dJ35_copyOf_23 hw (fun x4 hw => ?_)
    refine lv_iload_n C.1 C.2.1 dJ35_copyOf_24 rfl (lv_at hl 2 rfl) ?_
    refine r_mmin C hS hmc hl.1 q1049 q1050 q109 q1051 (Nat.le_of_ble_eq_true rfl) (Nat.le_of_ble_eq_true rfl) (Nat.le_of_ble_eq_true rfl) dJ35_copyOf_25 ?_
    refine r_acA C hS hl.1 q1052 q1054 q1053 q111 acL_ok (Nat.le_of_ble_eq_true rfl) (Nat.le_of_ble_eq_true rfl) (Nat.le_of_ble_eq_true rfl) dJ35_copyOf_28 hw (fun z5 H locs hw hS => ?_)
    refine r_aload_n C.1 C.2.1 dJ35_copyOf_31 rfl (lv_at hl 0 rfl) ?_
    exact r_aret C hS hmc hr (Or.inr ⟨_, rfl⟩) dJ35_copyOf_32 hw
  · have hw := hw.2 h
    refine r_aload_n C.1 C.2.1 dJ35_copyOf_6 rfl (lv_at hl 0 rfl) ?_
    refine r_clone C hS hl.1 q1042 q1043 q1044 q1045 q1046 q1047 hmc (Nat.le_of_ble_eq_true rfl) (Nat.le_of_ble_eq_true rfl) (Nat.le_of_ble_eq_true rfl) dJ35_copyOf_7 hw (fun x6 z7 H locs hw hS => ?_)
    refine r_castB C hS q1048 dJ35_copyOf_10 hw.1 ?_
    have hw := hw.2
    exact r_aret C hS hmc hr (Or.inr ⟨_, rfl⟩) dJ35_copyOf_13 hw
end
theorem kJ35_copyOf {l : Launch} (hl : l.stackTraces = false) {G : gE} {P : Option Nat → hSt → Prop} {PX : Nat → Nat → hSt → Prop} {v0 : Option Nat} {v1 : Int32} {z : hSt} : cM l G yJ35_copyOf (ws_ yJ35_copyOf cJ35_copyOf 3 (Option.some (Jvm.ClassFile.FieldType.array Jvm.ClassFile.FieldType.byte))) 10 160 z [va_rf v0, .int v1] (wJ35_copyOf G P PX v0 v1 z) (pR P) PX := by
  refine m_of hl (plainFor_of_name (by decide)) (by rw [lg_sl1 (va_rf_cat _), lg_sl1 rfl]; exact Nat.le_of_ble_eq_true rfl) ?_
  intro p e s m args below meth c C hr hin hT hmc hw
  rw [lv_args1 (va_rf_cat _), lv_args1 rfl]
  intro H locs ls hS hl
  exact kJ35_copyOfb0 C hr hin hT hmc hw H locs ls hS (lv_sub hl [0, 1] rfl)
theorem hdJ35_copyOf : yJ35_copyOf.cls ≠ "java/lang/invoke/MethodHandle" ∧ yJ35_copyOf.cls ≠ "java/lang/invoke/VarHandle" ∧ (parseMethodDescriptor yJ35_copyOf.desc).map (fun d => d.parameters.length) = some 2 := ⟨by decide +kernel, by decide +kernel, by decide +kernel⟩
abbrev rmJ8_newCapacity (mc ms : Nat) : Room := { frames := 11, cells := mc, slots := ms, locals := 183 }
def wJ8_newCapacityb0 (G : gE) (P : Int32 → hSt → Prop) (PX : Nat → Nat → hSt → Prop)  (v0 : Option Nat) (v1 : Int32) (z : hSt) : Prop :=
  gtR z v0 [16] 0 (fun x1 => aln z x1 (fun x2 => gtI z v0 [16] 1 (fun x3 => gtI z v0 [16] 1 (fun x4 => wJ33_newLength G (fun x6 z5 => ((¬ x6 = (2147483647 : Int32) → gtI z5 v0 [16] 1 (fun x7 => P (x6 >>> (x7 &&& 31)) z5)) ∧ (x6 = (2147483647 : Int32) → False))) PX x2 ((v1 <<< (x3 &&& 31)) - x2) (x2 + (2 <<< (x4 &&& 31))) z))))
def wJ8_newCapacity (G : gE) (P : Int32 → hSt → Prop) (PX : Nat → Nat → hSt → Prop) (v0 : Option Nat) (v1 : Int32) (z : hSt) : Prop := wJ8_newCapacityb0 G P PX v0 v1 z
section
variable {p : Program} {l : Launch} {e : Env} {s : State} {m : MethodId} {args : Array Value} {below : List Frame} {meth : Method} {c : Code} {G : gE} {mc ms : Nat} {P : Int32 → hSt → Prop} {PX : Nat → Nat → hSt → Prop}
theorem kJ8_newCapacityb0 (C : xC G p l s m args meth c cJ8_newCapacity 6 "java/lang/AbstractStringBuilder") (hr : meth.sig.returnType = (Option.some Jvm.ClassFile.FieldType.int)) (hin : meth.name = "newCapacity") (hT : ∀ x ∈ c.exceptionTable.toList, False) (hmc : mc = gL G - s.heap.size ∧ ms = gU G - hsum s.heap)   {v0 : Option Nat} {v1 : Int32} {z : hSt} (hw : wJ8_newCapacityb0 G P PX  v0 v1 z) : kt G p l e (rmJ8_newCapacity mc ms) s m args below meth c 6 (vx_MQ below (cQ G (pI P)) (cX G PX) args s mc ms (gF G)) 0 [(0, va_rf v0), (1, .int v1)] [] z := by
  intro H locs ls hS hl
  refine r_aload_n C.1 C.2.1 dJ8_newCapacity_0 rfl (lv_at hl 0 rfl) ?_
  refine r_getR C hS fo_16_0 (fl_d C q373) (fun _ h => h) dJ8_newCapacity_1 hw (fun x1 hw => ?_)
  refine r_alen C hS dJ8_newCapacity_4 hw (fun x2 hw => ?_)
  refine r_istore_n C.1 C.2.1 dJ8_newCapacity_5 rfl hl (Nat.le_of_ble_eq_true rfl) (ls_new (ls_old 0 rfl rfl (.inl rfl) (ls_old 1 rfl rfl (.inr rfl) ls_nil))) (fun ls hl => ?_)
  refine lv_iload_n C.1 C.2.1 dJ8_newCapacity_6 rfl (lv_at hl 2 rfl) ?_
  refine r_aload_n C.1 C.2.1 dJ8_newCapacity_7 rfl (lv_at hl 1 rfl) ?_
  refine r_getI C hS fo_16_1 (fl_d C q374) (fun _ h => h) dJ8_newCapacity_8 hw (fun x3 hw => ?_)
  refine lv_ishl C.1 C.2.1 dJ8_newCapacity_11 ?_
  refine r_istore_n C.1 C.2.1 dJ8_newCapacity_12 rfl hl (Nat.le_of_ble_eq_true rfl) (ls_new (ls_old 0 rfl rfl (.inr rfl) (ls_old 1 rfl rfl (.inl rfl) ls_nil))) (fun ls hl => ?_)
  refine lv_iload_n C.1 C.2.1 dJ8_newCapacity_13 rfl (lv_at hl 0 rfl) ?_
  refine lv_iload_n C.1 C.2.1 dJ8_newCapacity_14 rfl (lv_at hl 1 rfl) ?_
  refine lv_isub C.1 C.2.1 dJ8_newCapacity_15 ?_
  refine r_istore C.1 C.2.1 dJ8_newCapacity_16 hl (Nat.le_of_ble_eq_true rfl) (ls_new (ls_old 1 rfl rfl (.inl rfl) (ls_old 2 rfl rfl (.inl rfl) ls_nil))) (fun ls hl => ?_)
  refine lv_iload_n C.1 C.2.1 dJ8_newCapacity_18 rfl (lv_at hl 1 rfl) ?_
  refine lv_iload C.1 C.2.1 dJ8_newCapacity_19 (lv_at hl 0 rfl) ?_
  refine lv_iload_n C.1 C.2.1 dJ8_newCapacity_21 rfl (lv_at hl 1 rfl) ?_
  refine lv_iconst C.1 C.2.1 (v := 2) dJ8_newCapacity_22 rfl ?_
  refine r_aload_n C.1 C.2.1 dJ8_newCapacity_23 rfl (lv_at hl 2 rfl) ?_
  refine r_getI C hS fo_16_1 (fl_d C q374) (fun _ h => h) dJ8_newCapacity_24 hw (fun x4 hw => ?_)
  refine lv_ishl C.1 C.2.1 dJ8_newCapacity_27 ?_
  refine lv_iadd C.1 C.2.1 dJ8_newCapacity_28 ?_
  refine c_S C hS hmc hl.1 (kJ33_newLength C.2.2.2.2.2.2.1) hw (lw_S q1028 q1029 q108 q1030) hdJ33_newLength ⟨Nat.le_of_ble_eq_true rfl, Nat.le_of_ble_eq_true rfl⟩ (rest := []) rfl rfl (Nat.le_of_ble_eq_true rfl) dJ8_newCapacity_29 (fun ci q z H locs hx hS ht => r_out C hS hmc (fun x hx => (hT x hx).elim) ht hx) (fun v z5 H locs hv hS => ?_)
  obtain ⟨x6, rfl, hw⟩ := hv
  refine r_istore C.1 C.2.1 dJ8_newCapacity_32 hl (Nat.le_of_ble_eq_true rfl) (ls_new (ls_old 2 rfl rfl (.inl rfl) ls_nil)) (fun ls hl => ?_)
  refine lv_iload C.1 C.2.1 dJ8_newCapacity_34 (lv_at hl 0 rfl) ?_
  refine lv_ldc C.1 C.2.1 C.2.2.2.1 (C.2.2.2.2.1 _ q1038) dJ8_newCapacity_36 ?_
  refine lv_icmp_ne C.1 C.2.1 dJ8_newCapacity_38 rfl (fun h => ?_) (fun h => ?_)
  · have hw := hw.1 h
    refine lv_iload C.1 C.2.1 dJ8_newCapacity_51 (lv_at hl 0 rfl) ?_
    refine r_aload_n C.1 C.2.1 dJ8_newCapacity_53 rfl (lv_at hl 1 rfl) ?_
    refine r_getI C hS fo_16_1 (fl_d C q374) (fun _ h => h) dJ8_newCapacity_54 hw (fun x7 hw => ?_)
    refine lv_ishr C.1 C.2.1 dJ8_newCapacity_57 ?_
    exact r_iret C hS hmc hr dJ8_newCapacity_58 hw
  · have hw := hw.2 h
    exact hw.elim
end
theorem kJ8_newCapacity {l : Launch} (hl : l.stackTraces = false) {G : gE} {P : Int32 → hSt → Prop} {PX : Nat → Nat → hSt → Prop} {v0 : Option Nat} {v1 : Int32} {z : hSt} : cM l G yJ8_newCapacity (ws_ yJ8_newCapacity cJ8_newCapacity 6 (Option.some Jvm.ClassFile.FieldType.int)) 11 183 z [va_rf v0, .int v1] (wJ8_newCapacity G P PX v0 v1 z) (pI P) PX := by
  refine m_of hl (plainFor_of_name (by decide)) (by rw [lg_sl1 (va_rf_cat _), lg_sl1 rfl]; exact Nat.le_of_ble_eq_true rfl) ?_
  intro p e s m args below meth c C hr hin hT hmc hw
  rw [lv_args1 (va_rf_cat _), lv_args1 rfl]
  intro H locs ls hS hl
  exact kJ8_newCapacityb0 C hr hin hT hmc hw H locs ls hS (lv_sub hl [0, 1] rfl)
theorem hdJ8_newCapacity : yJ8_newCapacity.cls ≠ "java/lang/invoke/MethodHandle" ∧ yJ8_newCapacity.cls ≠ "java/lang/invoke/VarHandle" ∧ (parseMethodDescriptor yJ8_newCapacity.desc).map (fun d => d.parameters.length) = some 1 := ⟨by decide +kernel, by decide +kernel, by decide +kernel⟩
abbrev rmJ8_ensureCapacityInternal (mc ms : Nat) : Room := { frames := 12, cells := mc, slots := ms, locals := 208 }
def wJ8_ensureCapacityInternalb0 (G : gE) (P : hSt → Prop) (PX : Nat → Nat → hSt → Prop)  (v0 : Option Nat) (v1 : Int32) (z : hSt) : Prop :=
  gtR z v0 [16] 0 (fun x1 => aln z x1 (fun x2 => gtI z v0 [16] 1 (fun x3 => (((v1 - (x2 >>> (x3 &&& 31))) ≤ 0 → P z) ∧ (¬ (v1 - (x2 >>> (x3 &&& 31))) ≤ 0 → gtR z v0 [16] 0 (fun x4 => (rcv z v0 16 ∧ wJ8_newCapacity G (fun x6 z5 => gtI z5 v0 [16] 1 (fun x7 => wJ35_copyOf G (fun x9 z8 => ptV G z8 v0 [16] 0 (va_rf x9) (fun z10 => P z10)) PX x4 (x6 <<< (x7 &&& 31)) z5)) PX v0 v1 z)))))))
def wJ8_ensureCapacityInternal (G : gE) (P : hSt → Prop) (PX : Nat → Nat → hSt → Prop) (v0 : Option Nat) (v1 : Int32) (z : hSt) : Prop := wJ8_ensureCapacityInternalb0 G P PX v0 v1 z
section
variable {p : Program} {l : Launch} {e : Env} {s : State} {m : MethodId} {args : Array Value} {below : List Frame} {meth : Method} {c : Code} {G : gE} {mc ms : Nat} {P : hSt → Prop} {PX : Nat → Nat → hSt → Prop}
theorem kJ8_ensureCapacityInternalb0 (C : xC G p l s m args meth c cJ8_ensureCapacityInternal 3 "java/lang/AbstractStringBuilder") (hr : meth.sig.returnType = (Option.none : Option Jvm.ClassFile.FieldType)) (hin : meth.name = "ensureCapacityInternal") (hT : ∀ x ∈ c.exceptionTable.toList, False) (hmc : mc = gL G - s.heap.size ∧ ms = gU G - hsum s.heap)   {v0 : Option Nat} {v1 : Int32} {z : hSt} (hw : wJ8_ensureCapacityInternalb0 G P PX  v0 v1 z) : kt G p l e (rmJ8_ensureCapacityInternal mc ms) s m args below meth c 3 (vx_MQ below (cQ G (pV P)) (cX G PX) args s mc ms (gF G)) 0 [(0, va_rf v0), (1, .int v1)] [] z := by
  intro H locs ls hS hl
  refine r_aload_n C.1 C.2.1 dJ8_ensureCapacityInternal_0 rfl (lv_at hl 0 rfl) ?_
  refine r_getR C hS fo_16_0 (fl_d C q373) (fun _ h => h) dJ8_ensureCapacityInternal_1 hw (fun x1 hw => ?_)
  refine r_alen C hS dJ8_ensureCapacityInternal_4 hw (fun x2 hw => ?_)
  refine r_aload_n C.1 C.2.1 dJ8_ensureCapacityInternal_5 rfl (lv_at hl 0 rfl) ?_
  refine r_getI C hS fo_16_1 (fl_d C q374) (fun _ h => h) dJ8_ensureCapacityInternal_6 hw (fun x3 hw => ?_)
  refine lv_ishr C.1 C.2.1 dJ8_ensureCapacityInternal_9 ?_
  refine r_istore_n C.1 C.2.1 dJ8_ensureCapacityInternal_10 rfl hl (Nat.le_of_ble_eq_true rfl) (ls_new (ls_old 0 rfl rfl (.inl rfl) (ls_old 1 rfl rfl (.inr rfl) ls_nil))) (fun ls hl => ?_)
  refine lv_iload_n C.1 C.2.1 dJ8_ensureCapacityInternal_11 rfl (lv_at hl 2 rfl) ?_
  refine lv_iload_n C.1 C.2.1 dJ8_ensureCapacityInternal_12 rfl (lv_at hl 0 rfl) ?_
  refine lv_isub C.1 C.2.1 dJ8_ensureCapacityInternal_13 ?_
  refine lv_if_le C.1 C.2.1 dJ8_ensureCapacityInternal_14 rfl (fun h => ?_) (fun h => ?_)
  · have hw := hw.1 h
    exact r_vret C hS hmc hr dJ8_ensureCapacityInternal_38 hw
  · have hw := hw.2 h
    refine r_aload_n C.1 C.2.1 dJ8_ensureCapacityInternal_17 rfl (lv_at hl 1 rfl) ?_
    refine r_aload_n C.1 C.2.1 dJ8_ensureCapacityInternal_18 rfl (lv_at hl 1 rfl) ?_
    refine r_getR C hS fo_16_0 (fl_d C q373) (fun _ h => h) dJ8_ensureCapacityInternal_19 hw (fun x4 hw => ?_)
    refine r_aload_n C.1 C.2.1 dJ8_ensureCapacityInternal_22 rfl (lv_at hl 1 rfl) ?_
    refine lv_iload_n C.1 C.2.1 dJ8_ensureCapacityInternal_23 rfl (lv_at hl 2 rfl) ?_
    refine c_U C hS hmc hl.1 (ci := 16) rfl hw.1 (kJ8_newCapacity C.2.2.2.2.2.2.1) hw.2 q1024 q3523 (decl_c C q1026 q1027) (sel_p C q1025 q3523 q1026 q1058 rfl) q1026 q79 q1027 ⟨by decide, by decide⟩ hdJ8_newCapacity.2.2 ⟨Nat.le_of_ble_eq_true rfl, Nat.le_of_ble_eq_true rfl⟩ (rest := [va_rf x4, va_rf v0]) rfl rfl (Nat.le_of_ble_eq_true rfl) dJ8_ensureCapacityInternal_24 (fun ci q z H locs hx hS ht => r_out C hS hmc (fun x hx => (hT x hx).elim) ht hx) (fun v z5 H locs hv hS => ?_)
    obtain ⟨x6, rfl, hw⟩ := hv
    refine r_aload_n C.1 C.2.1 dJ8_ensureCapacityInternal_27 rfl (lv_at hl 1 rfl) ?_
    refine r_getI C hS fo_16_1 (fl_d C q374) (fun _ h => h) dJ8_ensureCapacityInternal_28 hw (fun x7 hw => ?_)
    refine lv_ishl C.1 C.2.1 dJ8_ensureCapacityInternal_31 ?_
    refine c_S C hS hmc hl.1 (kJ35_copyOf C.2.2.2.2.2.2.1) hw (lw_S q1039 q1040 q110 q1041) hdJ35_copyOf ⟨Nat.le_of_ble_eq_true rfl, Nat.le_of_ble_eq_true rfl⟩ (rest := [va_rf v0]) rfl rfl (Nat.le_of_ble_eq_true rfl) dJ8_ensureCapacityInternal_32 (fun ci q z H locs hx hS ht => r_out C hS hmc (fun x hx => (hT x hx).elim) ht hx) (fun v z8 H locs hv hS => ?_)
    obtain ⟨x9, rfl, hw⟩ := hv
    refine r_put C hS fo_16_0 (fl_d C q373) (fun _ h => h) (narrow_rfA _ _) (fits_rfA _ _) dJ8_ensureCapacityInternal_35 hw (fun z10 H locs hw hS => ?_)
    exact r_vret C hS hmc hr dJ8_ensureCapacityInternal_38 hw
end
theorem kJ8_ensureCapacityInternal {l : Launch} (hl : l.stackTraces = false) {G : gE} {P : hSt → Prop} {PX : Nat → Nat → hSt → Prop} {v0 : Option Nat} {v1 : Int32} {z : hSt} : cM l G yJ8_ensureCapacityInternal (ws_ yJ8_ensureCapacityInternal cJ8_ensureCapacityInternal 3 (Option.none : Option Jvm.ClassFile.FieldType)) 12 208 z [va_rf v0, .int v1] (wJ8_ensureCapacityInternal G P PX v0 v1 z) (pV P) PX := by
  refine m_of hl (plainFor_of_name (by decide)) (by rw [lg_sl1 (va_rf_cat _), lg_sl1 rfl]; exact Nat.le_of_ble_eq_true rfl) ?_
  intro p e s m args below meth c C hr hin hT hmc hw
  rw [lv_args1 (va_rf_cat _), lv_args1 rfl]
  intro H locs ls hS hl
  exact kJ8_ensureCapacityInternalb0 C hr hin hT hmc hw H locs ls hS (lv_sub hl [0, 1] rfl)
theorem hdJ8_ensureCapacityInternal : yJ8_ensureCapacityInternal.cls ≠ "java/lang/invoke/MethodHandle" ∧ yJ8_ensureCapacityInternal.cls ≠ "java/lang/invoke/VarHandle" ∧ (parseMethodDescriptor yJ8_ensureCapacityInternal.desc).map (fun d => d.parameters.length) = some 1 := ⟨by decide +kernel, by decide +kernel, by decide +kernel⟩
abbrev rmJ31_stringSize (mc ms : Nat) : Room := { frames := 10, cells := mc, slots := ms, locals := 160 }
def wJ31_stringSizeb16 (G : gE) (P : Int32 → hSt → Prop) (PX : Nat → Nat → hSt → Prop) (K16 : (Int32 × Int32 × Int32 × Int32 × hSt) → Prop) (v0 : Int32) (v1 : Int32) (v2 : Int32) (v3 : Int32) (z : hSt) : Prop :=
  ((10 ≤ v3 → P (10 + v1) z) ∧ (¬ 10 ≤ v3 → ((v0 ≤ v2 → K16 (v0, v1, 10 * v2, v3 + 1, z)) ∧ (¬ v0 ≤ v2 → P (v3 + v1) z))))
def wJ31_stringSizeb11 (G : gE) (P : Int32 → hSt → Prop) (PX : Nat → Nat → hSt → Prop)  (v0 : Int32) (v1 : Int32) (z : hSt) : Prop :=
  lpI (fun (K16 : (Int32 × Int32 × Int32 × Int32 × hSt) → Prop) (y : (Int32 × Int32 × Int32 × Int32 × hSt)) => wJ31_stringSizeb16 G P PX  K16 (y.1) (y.2.1) (y.2.2.1) (y.2.2.2.1) (y.2.2.2.2)) (v0, v1, (-10), 1, z)
def wJ31_stringSizeb0 (G : gE) (P : Int32 → hSt → Prop) (PX : Nat → Nat → hSt → Prop)  (v0 : Int32) (z : hSt) : Prop :=
  ((v0 < 0 → wJ31_stringSizeb11 G P PX  v0 1 z) ∧ (¬ v0 < 0 → wJ31_stringSizeb11 G P PX  (-v0) 0 z))
def wJ31_stringSize (G : gE) (P : Int32 → hSt → Prop) (PX : Nat → Nat → hSt → Prop) (v0 : Int32) (z : hSt) : Prop := wJ31_stringSizeb0 G P PX v0 z
section
variable {p : Program} {l : Launch} {e : Env} {s : State} {m : MethodId} {args : Array Value} {below : List Frame} {meth : Method} {c : Code} {G : gE} {mc ms : Nat} {P : Int32 → hSt → Prop} {PX : Nat → Nat → hSt → Prop}
theorem kJ31_stringSizeb16 (C : xC G p l s m args meth c cJ31_stringSize 4 "java/lang/Integer") (hr : meth.sig.returnType = (Option.some Jvm.ClassFile.FieldType.int)) (hin : meth.name = "stringSize") (hT : ∀ x ∈ c.exceptionTable.toList, False) (hmc : mc = gL G - s.heap.size ∧ ms = gU G - hsum s.heap) {K16 : (Int32 × Int32 × Int32 × Int32 × hSt) → Prop} (hK16 : ∀ y : (Int32 × Int32 × Int32 × Int32 × hSt), K16 y → kt G p l e (rmJ31_stringSize mc ms) s m args below meth c 4 (vx_MQ below (cQ G (pI P)) (cX G PX) args s mc ms (gF G)) 16 [(0, .int (y.1)), (1, .int (y.2.1)), (2, .int (y.2.2.1)), (3, .int (y.2.2.2.1))] [] (y.2.2.2.2)) {v0 : Int32} {v1 : Int32} {v2 : Int32} {v3 : Int32} {z : hSt} (hw : wJ31_stringSizeb16 G P PX K16 v0 v1 v2 v3 z) : kt G p l e (rmJ31_stringSize mc ms) s m args below meth c 4 (vx_MQ below (cQ G (pI P)) (cX G PX) args s mc ms (gF G)) 16 [(0, .int v0), (1, .int v1), (2, .int v2), (3, .int v3)] [] z := by
  intro H locs ls hS hl
  refine lv_iload_n C.1 C.2.1 dJ31_stringSize_16 rfl (lv_at hl 3 rfl) ?_
  refine lv_bipush C.1 C.2.1 (v := 10) dJ31_stringSize_17 rfl ?_
  refine lv_icmp_ge C.1 C.2.1 dJ31_stringSize_19 rfl (fun h => ?_) (fun h => ?_)
  · have hw := hw.1 h
    refine lv_bipush C.1 C.2.1 (v := 10) dJ31_stringSize_42 rfl ?_
    refine lv_iload_n C.1 C.2.1 dJ31_stringSize_44 rfl (lv_at hl 1 rfl) ?_
    refine lv_iadd C.1 C.2.1 dJ31_stringSize_45 ?_
    exact r_iret C hS hmc hr dJ31_stringSize_46 hw
  · have hw := hw.2 h
    refine lv_iload_n C.1 C.2.1 dJ31_stringSize_22 rfl (lv_at hl 0 rfl) ?_
    refine lv_iload_n C.1 C.2.1 dJ31_stringSize_23 rfl (lv_at hl 2 rfl) ?_
    refine lv_icmp_le C.1 C.2.1 dJ31_stringSize_24 rfl (fun h => ?_) (fun h => ?_)
    · have hw := hw.1 h
      refine lv_bipush C.1 C.2.1 (v := 10) dJ31_stringSize_31 rfl ?_
      refine lv_iload_n C.1 C.2.1 dJ31_stringSize_33 rfl (lv_at hl 2 rfl) ?_
      refine lv_imul C.1 C.2.1 dJ31_stringSize_34 ?_
      refine r_istore_n C.1 C.2.1 dJ31_stringSize_35 rfl hl (Nat.le_of_ble_eq_true rfl) (ls_new (ls_old 0 rfl rfl (.inl rfl) (ls_old 1 rfl rfl (.inr rfl) (ls_old 3 rfl rfl (.inl rfl) ls_nil)))) (fun ls hl => ?_)
      refine r_iinc C.1 C.2.1 dJ31_stringSize_36 hl (k := 3) rfl (v := 1) rfl (Nat.le_of_ble_eq_true rfl) (ls_new (ls_old 0 rfl rfl (.inr rfl) (ls_old 1 rfl rfl (.inl rfl) (ls_old 2 rfl rfl (.inl rfl) ls_nil)))) (fun ls hl => ?_)
      refine lv_goto C.1 C.2.1 dJ31_stringSize_39 rfl ?_
      exact hK16 _ hw H locs ls hS (lv_sub hl [2, 3, 1, 0] rfl)
    · have hw := hw.2 h
      refine lv_iload_n C.1 C.2.1 dJ31_stringSize_27 rfl (lv_at hl 3 rfl) ?_
      refine lv_iload_n C.1 C.2.1 dJ31_stringSize_28 rfl (lv_at hl 1 rfl) ?_
      refine lv_iadd C.1 C.2.1 dJ31_stringSize_29 ?_
      exact r_iret C hS hmc hr dJ31_stringSize_30 hw
theorem kJ31_stringSizeb11 (C : xC G p l s m args meth c cJ31_stringSize 4 "java/lang/Integer") (hr : meth.sig.returnType = (Option.some Jvm.ClassFile.FieldType.int)) (hin : meth.name = "stringSize") (hT : ∀ x ∈ c.exceptionTable.toList, False) (hmc : mc = gL G - s.heap.size ∧ ms = gU G - hsum s.heap)   {v0 : Int32} {v1 : Int32} {z : hSt} (hw : wJ31_stringSizeb11 G P PX  v0 v1 z) : kt G p l e (rmJ31_stringSize mc ms) s m args below meth c 4 (vx_MQ below (cQ G (pI P)) (cX G PX) args s mc ms (gF G)) 11 [(0, .int v0), (1, .int v1)] [] z := by
  intro H locs ls hS hl
  refine lv_bipush C.1 C.2.1 (v := (-10)) dJ31_stringSize_11 rfl ?_
  refine r_istore_n C.1 C.2.1 dJ31_stringSize_13 rfl hl (Nat.le_of_ble_eq_true rfl) (ls_new (ls_old 0 rfl rfl (.inl rfl) (ls_old 1 rfl rfl (.inr rfl) ls_nil))) (fun ls hl => ?_)
  refine lv_iconst C.1 C.2.1 (v := 1) dJ31_stringSize_14 rfl ?_
  refine r_istore_n C.1 C.2.1 dJ31_stringSize_15 rfl hl (Nat.le_of_ble_eq_true rfl) (ls_new (ls_old 0 rfl rfl (.inr rfl) (ls_old 1 rfl rfl (.inl rfl) (ls_old 2 rfl rfl (.inl rfl) ls_nil)))) (fun ls hl => ?_)
  exact lpI_sound (Wt := fun (y : (Int32 × Int32 × Int32 × Int32 × hSt)) => kt G p l e (rmJ31_stringSize mc ms) s m args below meth c 4 (vx_MQ below (cQ G (pI P)) (cX G PX) args s mc ms (gF G)) 16 [(0, .int (y.1)), (1, .int (y.2.1)), (2, .int (y.2.2.1)), (3, .int (y.2.2.2.1))] [] (y.2.2.2.2)) (fun K y hK hF => kJ31_stringSizeb16 C hr hin hT hmc  hK hF) hw H locs ls hS (lv_sub hl [2, 3, 1, 0] rfl)
theorem kJ31_stringSizeb0 (C : xC G p l s m args meth c cJ31_stringSize 4 "java/lang/Integer") (hr : meth.sig.returnType = (Option.some Jvm.ClassFile.FieldType.int)) (hin : meth.name = "stringSize") (hT : ∀ x ∈ c.exceptionTable.toList, False) (hmc : mc = gL G - s.heap.size ∧ ms = gU G - hsum s.heap)   {v0 : Int32} {z : hSt} (hw : wJ31_stringSizeb0 G P PX  v0 z) : kt G p l e (rmJ31_stringSize mc ms) s m args below meth c 4 (vx_MQ below (cQ G (pI P)) (cX G PX) args s mc ms (gF G)) 0 [(0, .int v0)] [] z := by
  intro H locs ls hS hl
  refine lv_iconst C.1 C.2.1 (v := 1) dJ31_stringSize_0 rfl ?_
  refine r_istore_n C.1 C.2.1 dJ31_stringSize_1 rfl hl (Nat.le_of_ble_eq_true rfl) (ls_new (ls_old 0 rfl rfl (.inr rfl) ls_nil)) (fun ls hl => ?_)
  refine lv_iload_n C.1 C.2.1 dJ31_stringSize_2 rfl (lv_at hl 1 rfl) ?_
  refine lv_if_lt C.1 C.2.1 dJ31_stringSize_3 rfl (fun h => ?_) (fun h => ?_)
  · have hw := hw.1 h
    exact kJ31_stringSizeb11 C hr hin hT hmc  hw H locs ls hS (lv_sub hl [1, 0] rfl)
  · have hw := hw.2 h
    refine lv_iconst C.1 C.2.1 (v := 0) dJ31_stringSize_6 rfl ?_
    refine r_istore_n C.1 C.2.1 dJ31_stringSize_7 rfl hl (Nat.le_of_ble_eq_true rfl) (ls_new (ls_old 1 rfl rfl (.inr rfl) ls_nil)) (fun ls hl => ?_)
    refine lv_iload_n C.1 C.2.1 dJ31_stringSize_8 rfl (lv_at hl 1 rfl) ?_
    refine lv_ineg C.1 C.2.1 dJ31_stringSize_9 ?_
    refine r_istore_n C.1 C.2.1 dJ31_stringSize_10 rfl hl (Nat.le_of_ble_eq_true rfl) (ls_new (ls_old 0 rfl rfl (.inl rfl) ls_nil)) (fun ls hl => ?_)
    exact kJ31_stringSizeb11 C hr hin hT hmc  hw H locs ls hS (lv_sub hl [0, 1] rfl)
end
theorem kJ31_stringSize {l : Launch} (hl : l.stackTraces = false) {G : gE} {P : Int32 → hSt → Prop} {PX : Nat → Nat → hSt → Prop} {v0 : Int32} {z : hSt} : cM l G yJ31_stringSize (ws_ yJ31_stringSize cJ31_stringSize 4 (Option.some Jvm.ClassFile.FieldType.int)) 10 160 z [.int v0] (wJ31_stringSize G P PX v0 z) (pI P) PX := by
  refine m_of hl (plainFor_of_name (by decide)) (by rw [lg_sl1 rfl]; exact Nat.le_of_ble_eq_true rfl) ?_
  intro p e s m args below meth c C hr hin hT hmc hw
  rw [lv_args1 rfl]
  intro H locs ls hS hl
  exact kJ31_stringSizeb0 C hr hin hT hmc hw H locs ls hS (lv_sub hl [0] rfl)
theorem hdJ31_stringSize : yJ31_stringSize.cls ≠ "java/lang/invoke/MethodHandle" ∧ yJ31_stringSize.cls ≠ "java/lang/invoke/VarHandle" ∧ (parseMethodDescriptor yJ31_stringSize.desc).map (fun d => d.parameters.length) = some 1 := ⟨by decide +kernel, by decide +kernel, by decide +kernel⟩
abbrev rmJ8_append_2 (mc ms : Nat) : Room := { frames := 13, cells := mc, slots := ms, locals := 230 }
def wJ8_append_2b0 (G : gE) (P : Option Nat → hSt → Prop) (PX : Nat → Nat → hSt → Prop)  (v0 : Option Nat) (v1 : Int32) (z : hSt) : Prop :=
  gtI z v0 [16] 3 (fun x1 => wJ31_stringSize G (fun x3 z2 => (rcv z2 v0 16 ∧ wJ8_ensureCapacityInternal G (fun z4 => (rcv z4 v0 16 ∧ wJ8_isLatin1 G (fun x6 z5 => ((x6 = 0 → gtR z5 v0 [16] 0 (fun x7 => False)) ∧ (¬ x6 = 0 → gtR z5 v0 [16] 0 (fun x8 => wJ31_getChars G (fun x10 z9 => ptV G z9 v0 [16] 3 (.int (x1 + x3)) (fun z11 => P v0 z11)) PX v1 (x1 + x3) x8 z5)))) PX v0  z4)) PX v0 (x1 + x3) z2)) PX v1 z)
def wJ8_append_2 (G : gE) (P : Option Nat → hSt → Prop) (PX : Nat → Nat → hSt → Prop) (v0 : Option Nat) (v1 : Int32) (z : hSt) : Prop := wJ8_append_2b0 G P PX v0 v1 z
section
variable {p : Program} {l : Launch} {e : Env} {s : State} {m : MethodId} {args : Array Value} {below : List Frame} {meth : Method} {c : Code} {G : gE} {mc ms : Nat} {P : Option Nat → hSt → Prop} {PX : Nat → Nat → hSt → Prop}
theorem kJ8_append_2b0 (C : xC G p l s m args meth c cJ8_append_2 4 "java/lang/AbstractStringBuilder") (hr : meth.sig.returnType = (Option.some (Jvm.ClassFile.FieldType.object "java/lang/AbstractStringBuilder"))) (hin : meth.name = "append") (hT : ∀ x ∈ c.exceptionTable.toList, False) (hmc : mc = gL G - s.heap.size ∧ ms = gU G - hsum s.heap)   {v0 : Option Nat} {v1 : Int32} {z : hSt} (hw : wJ8_append_2b0 G P PX  v0 v1 z) : kt G p l e (rmJ8_append_2 mc ms) s m args below meth c 4 (vx_MQ below (cQ G (pR P)) (cX G PX) args s mc ms (gF G)) 0 [(0, va_rf v0), (1, .int v1)] [] z := by
  intro H locs ls hS hl
  refine r_aload_n C.1 C.2.1 dJ8_append_2_0 rfl (lv_at hl 0 rfl) ?_
  refine r_getI C hS fo_16_3 (fl_d C q377) (fun _ h => h) dJ8_append_2_1 hw (fun x1 hw => ?_)
  refine r_istore_n C.1 C.2.1 dJ8_append_2_4 rfl hl (Nat.le_of_ble_eq_true rfl) (ls_new (ls_old 0 rfl rfl (.inl rfl) (ls_old 1 rfl rfl (.inr rfl) ls_nil))) (fun ls hl => ?_)
  refine lv_iload_n C.1 C.2.1 dJ8_append_2_5 rfl (lv_at hl 0 rfl) ?_
  refine lv_iload_n C.1 C.2.1 dJ8_append_2_6 rfl (lv_at hl 2 rfl) ?_
  refine c_S C hS hmc hl.1 (kJ31_stringSize C.2.2.2.2.2.2.1) hw (lw_S q1126 q1127 q106 q1128) hdJ31_stringSize ⟨Nat.le_of_ble_eq_true rfl, Nat.le_of_ble_eq_true rfl⟩ (rest := [.int x1]) rfl rfl (Nat.le_of_ble_eq_true rfl) dJ8_append_2_7 (fun ci q z H locs hx hS ht => r_out C hS hmc (fun x hx => (hT x hx).elim) ht hx) (fun v z2 H locs hv hS => ?_)
  obtain ⟨x3, rfl, hw⟩ := hv
  refine lv_iadd C.1 C.2.1 dJ8_append_2_10 ?_
  refine r_istore_n C.1 C.2.1 dJ8_append_2_11 rfl hl (Nat.le_of_ble_eq_true rfl) (ls_new (ls_old 0 rfl rfl (.inr rfl) (ls_old 1 rfl rfl (.inl rfl) (ls_old 2 rfl rfl (.inl rfl) ls_nil)))) (fun ls hl => ?_)
  refine r_aload_n C.1 C.2.1 dJ8_append_2_12 rfl (lv_at hl 2 rfl) ?_
  refine lv_iload_n C.1 C.2.1 dJ8_append_2_13 rfl (lv_at hl 0 rfl) ?_
  refine c_U C hS hmc hl.1 (ci := 16) rfl hw.1 (kJ8_ensureCapacityInternal C.2.2.2.2.2.2.1) hw.2 q1020 q3522 (decl_c C q1022 q1023) (sel_p C q1021 q3522 q1022 q1058 rfl) q1022 q79 q1023 ⟨by decide, by decide⟩ hdJ8_ensureCapacityInternal.2.2 ⟨Nat.le_of_ble_eq_true rfl, Nat.le_of_ble_eq_true rfl⟩ (rest := []) rfl rfl (Nat.le_of_ble_eq_true rfl) dJ8_append_2_14 (fun ci q z H locs hx hS ht => r_out C hS hmc (fun x hx => (hT x hx).elim) ht hx) (fun v z4 H locs hv hS => ?_)
  obtain ⟨rfl, hw⟩ := hv
  refine r_aload_n C.1 C.2.1 dJ8_append_2_17 rfl (lv_at hl 2 rfl) ?_
  refine c_U C hS hmc hl.1 (ci := 16) rfl hw.1 (kJ8_isLatin1 C.2.2.2.2.2.2.1) hw.2 q1055 q1057 (decl_c C q1056 q1059) (C.2.2.2.2.1 _ q1058) q1056 q79 q1059 ⟨by decide, by decide⟩ hdJ8_isLatin1.2.2 ⟨Nat.le_of_ble_eq_true rfl, Nat.le_of_ble_eq_true rfl⟩ (rest := []) rfl rfl (Nat.le_of_ble_eq_true rfl) dJ8_append_2_18 (fun ci q z H locs hx hS ht => r_out C hS hmc (fun x hx => (hT x hx).elim) ht hx) (fun v z5 H locs hv hS => ?_)
  obtain ⟨x6, rfl, hw⟩ := hv
  refine lv_if_eq C.1 C.2.1 dJ8_append_2_21 rfl (fun h => ?_) (fun h => ?_)
  · have hw := hw.1 h
    refine lv_iload_n C.1 C.2.1 dJ8_append_2_37 rfl (lv_at hl 3 rfl) ?_
    refine lv_iload_n C.1 C.2.1 dJ8_append_2_38 rfl (lv_at hl 1 rfl) ?_
    refine lv_iload_n C.1 C.2.1 dJ8_append_2_39 rfl (lv_at hl 0 rfl) ?_
    refine r_aload_n C.1 C.2.1 dJ8_append_2_40 rfl (lv_at hl 2 rfl) ?_
    refine r_getR C hS fo_16_0 (fl_d C q373) (fun _ h => h) dJ8_append_2_41 hw (fun x7 hw => ?_)
    exact hw.elim
  · have hw := hw.2 h
    refine lv_iload_n C.1 C.2.1 dJ8_append_2_24 rfl (lv_at hl 3 rfl) ?_
    refine lv_iload_n C.1 C.2.1 dJ8_append_2_25 rfl (lv_at hl 0 rfl) ?_
    refine r_aload_n C.1 C.2.1 dJ8_append_2_26 rfl (lv_at hl 2 rfl) ?_
    refine r_getR C hS fo_16_0 (fl_d C q373) (fun _ h => h) dJ8_append_2_27 hw (fun x8 hw => ?_)
    refine c_S C hS hmc hl.1 (kJ31_getChars C.2.2.2.2.2.2.1) hw (lw_S q1129 q1130 q106 q1131) hdJ31_getChars ⟨Nat.le_of_ble_eq_true rfl, Nat.le_of_ble_eq_true rfl⟩ (rest := []) rfl rfl (Nat.le_of_ble_eq_true rfl) dJ8_append_2_30 (fun ci q z H locs hx hS ht => r_out C hS hmc (fun x hx => (hT x hx).elim) ht hx) (fun v z9 H locs hv hS => ?_)
    obtain ⟨x10, rfl, hw⟩ := hv
    refine lv_pop C.1 C.2.1 dJ8_append_2_33 rfl ?_
    refine lv_goto C.1 C.2.1 dJ8_append_2_34 rfl ?_
    refine r_aload_n C.1 C.2.1 dJ8_append_2_48 rfl (lv_at hl 2 rfl) ?_
    refine lv_iload_n C.1 C.2.1 dJ8_append_2_49 rfl (lv_at hl 0 rfl) ?_
    refine r_put C hS fo_16_3 (fl_d C q377) (fun _ h => h) rfl rfl dJ8_append_2_50 hw (fun z11 H locs hw hS => ?_)
    refine r_aload_n C.1 C.2.1 dJ8_append_2_53 rfl (lv_at hl 2 rfl) ?_
    exact r_aret C hS hmc hr (Or.inl ⟨_, rfl⟩) dJ8_append_2_54 hw
end
theorem kJ8_append_2 {l : Launch} (hl : l.stackTraces = false) {G : gE} {P : Option Nat → hSt → Prop} {PX : Nat → Nat → hSt → Prop} {v0 : Option Nat} {v1 : Int32} {z : hSt} : cM l G yJ8_append_2 (ws_ yJ8_append_2 cJ8_append_2 4 (Option.some (Jvm.ClassFile.FieldType.object "java/lang/AbstractStringBuilder"))) 13 230 z [va_rf v0, .int v1] (wJ8_append_2 G P PX v0 v1 z) (pR P) PX := by
  refine m_of hl (plainFor_of_name (by decide)) (by rw [lg_sl1 (va_rf_cat _), lg_sl1 rfl]; exact Nat.le_of_ble_eq_true rfl) ?_
  intro p e s m args below meth c C hr hin hT hmc hw
  rw [lv_args1 (va_rf_cat _), lv_args1 rfl]
  intro H locs ls hS hl
  exact kJ8_append_2b0 C hr hin hT hmc hw H locs ls hS (lv_sub hl [0, 1] rfl)
theorem hdJ8_append_2 : yJ8_append_2.cls ≠ "java/lang/invoke/MethodHandle" ∧ yJ8_append_2.cls ≠ "java/lang/invoke/VarHandle" ∧ (parseMethodDescriptor yJ8_append_2.desc).map (fun d => d.parameters.length) = some 1 := ⟨by decide +kernel, by decide +kernel, by decide +kernel⟩
abbrev rmJ9_append_2 (mc ms : Nat) : Room := { frames := 14, cells := mc, slots := ms, locals := 253 }
def wJ9_append_2b0 (G : gE) (P : Option Nat → hSt → Prop) (PX : Nat → Nat → hSt → Prop)  (v0 : Option Nat) (v1 : Int32) (z : hSt) : Prop :=
  (rcv z v0 16 ∧ wJ8_append_2 G (fun x2 z1 => P v0 z1) PX v0 v1 z)
def wJ9_append_2 (G : gE) (P : Option Nat → hSt → Prop) (PX : Nat → Nat → hSt → Prop) (v0 : Option Nat) (v1 : Int32) (z : hSt) : Prop := wJ9_append_2b0 G P PX v0 v1 z
section
variable {p : Program} {l : Launch} {e : Env} {s : State} {m : MethodId} {args : Array Value} {below : List Frame} {meth : Method} {c : Code} {G : gE} {mc ms : Nat} {P : Option Nat → hSt → Prop} {PX : Nat → Nat → hSt → Prop}
theorem kJ9_append_2b0 (C : xC G p l s m args meth c cJ9_append_2 2 "java/lang/StringBuilder") (hr : meth.sig.returnType = (Option.some (Jvm.ClassFile.FieldType.object "java/lang/StringBuilder"))) (hin : meth.name = "append") (hT : ∀ x ∈ c.exceptionTable.toList, False) (hmc : mc = gL G - s.heap.size ∧ ms = gU G - hsum s.heap)   {v0 : Option Nat} {v1 : Int32} {z : hSt} (hw : wJ9_append_2b0 G P PX  v0 v1 z) : kt G p l e (rmJ9_append_2 mc ms) s m args below meth c 2 (vx_MQ below (cQ G (pR P)) (cX G PX) args s mc ms (gF G)) 0 [(0, va_rf v0), (1, .int v1)] [] z := by
  intro H locs ls hS hl
  refine r_aload_n C.1 C.2.1 dJ9_append_2_0 rfl (lv_at hl 0 rfl) ?_
  refine lv_iload_n C.1 C.2.1 dJ9_append_2_1 rfl (lv_at hl 1 rfl) ?_
  refine c_SU C hS hmc hl.1 (ci := 16) rfl hw.1 (kJ8_append_2 C.2.2.2.2.2.2.1) hw.2 (lw_SU q1123 q3527 q386 q1124 q79 q1125) ⟨by decide, hdJ8_append_2.2.2⟩ ⟨Nat.le_of_ble_eq_true rfl, Nat.le_of_ble_eq_true rfl⟩ (rest := []) rfl rfl (Nat.le_of_ble_eq_true rfl) dJ9_append_2_2 (fun ci q z H locs hx hS ht => r_out C hS hmc (fun x hx => (hT x hx).elim) ht hx) (fun v z1 H locs hv hS => ?_)
  obtain ⟨x2, rfl, hw⟩ := hv
  refine lv_pop C.1 C.2.1 dJ9_append_2_5 (va_rf_cat _) ?_
  refine r_aload_n C.1 C.2.1 dJ9_append_2_6 rfl (lv_at hl 0 rfl) ?_
  exact r_aret C hS hmc hr (Or.inl ⟨_, rfl⟩) dJ9_append_2_7 hw
end
theorem kJ9_append_2 {l : Launch} (hl : l.stackTraces = false) {G : gE} {P : Option Nat → hSt → Prop} {PX : Nat → Nat → hSt → Prop} {v0 : Option Nat} {v1 : Int32} {z : hSt} : cM l G yJ9_append_2 (ws_ yJ9_append_2 cJ9_append_2 2 (Option.some (Jvm.ClassFile.FieldType.object "java/lang/StringBuilder"))) 14 253 z [va_rf v0, .int v1] (wJ9_append_2 G P PX v0 v1 z) (pR P) PX := by
  refine m_of hl (plainFor_of_name (by decide)) (by rw [lg_sl1 (va_rf_cat _), lg_sl1 rfl]; exact Nat.le_of_ble_eq_true rfl) ?_
  intro p e s m args below meth c C hr hin hT hmc hw
  rw [lv_args1 (va_rf_cat _), lv_args1 rfl]
  intro H locs ls hS hl
  exact kJ9_append_2b0 C hr hin hT hmc hw H locs ls hS (lv_sub hl [0, 1] rfl)
theorem hdJ9_append_2 : yJ9_append_2.cls ≠ "java/lang/invoke/MethodHandle" ∧ yJ9_append_2.cls ≠ "java/lang/invoke/VarHandle" ∧ (parseMethodDescriptor yJ9_append_2.desc).map (fun d => d.parameters.length) = some 1 := ⟨by decide +kernel, by decide +kernel, by decide +kernel⟩
abbrev rmJ10_getBytes (mc ms : Nat) : Room := { frames := 11, cells := mc, slots := ms, locals := 180 }
def wJ10_getBytesb0 (G : gE) (P : hSt → Prop) (PX : Nat → Nat → hSt → Prop)  (v0 : Option Nat) (v1 : Option Nat) (v2 : Int32) (v3 : Int32) (z : hSt) : Prop :=
  (rcv z v0 17 ∧ wJ10_coder G (fun x2 z1 => ((¬ x2 = v3 → gtR z1 v0 [17] 0 (fun x3 => gtR z1 v0 [17] 0 (fun x4 => aln z1 x4 (fun x5 => False)))) ∧ (x2 = v3 → gtR z1 v0 [17] 0 (fun x6 => gtR z1 v0 [17] 0 (fun x7 => aln z1 x7 (fun x8 => acA G z1 x6 0 v1 (v2 <<< (v3 &&& 31)) x8 (fun z9 => P z9))))))) PX v0  z)
def wJ10_getBytes (G : gE) (P : hSt → Prop) (PX : Nat → Nat → hSt → Prop) (v0 : Option Nat) (v1 : Option Nat) (v2 : Int32) (v3 : Int32) (z : hSt) : Prop := wJ10_getBytesb0 G P PX v0 v1 v2 v3 z
section
variable {p : Program} {l : Launch} {e : Env} {s : State} {m : MethodId} {args : Array Value} {below : List Frame} {meth : Method} {c : Code} {G : gE} {mc ms : Nat} {P : hSt → Prop} {PX : Nat → Nat → hSt → Prop}
theorem kJ10_getBytesb0 (C : xC G p l s m args meth c cJ10_getBytes 4 "java/lang/String") (hr : meth.sig.returnType = (Option.none : Option Jvm.ClassFile.FieldType)) (hin : meth.name = "getBytes") (hT : ∀ x ∈ c.exceptionTable.toList, False) (hmc : mc = gL G - s.heap.size ∧ ms = gU G - hsum s.heap)   {v0 : Option Nat} {v1 : Option Nat} {v2 : Int32} {v3 : Int32} {z : hSt} (hw : wJ10_getBytesb0 G P PX  v0 v1 v2 v3 z) : kt G p l e (rmJ10_getBytes mc ms) s m args below meth c 4 (vx_MQ below (cQ G (pV P)) (cX G PX) args s mc ms (gF G)) 0 [(0, va_rf v0), (1, va_rf v1), (2, .int v2), (3, .int v3)] [] z := by
  intro H locs ls hS hl
  refine r_aload_n C.1 C.2.1 dJ10_getBytes_0 rfl (lv_at hl 0 rfl) ?_
  refine c_V C hS hmc hl.1 (ci := 17) rfl hw.1 (kJ10_coder C.2.2.2.2.2.2.1) hw.2 (lw_V q1081 q1082 q1083 q81 q1084) ⟨rfl, hdJ10_coder⟩ ⟨Nat.le_of_ble_eq_true rfl, Nat.le_of_ble_eq_true rfl⟩ (rest := []) rfl rfl (Nat.le_of_ble_eq_true rfl) dJ10_getBytes_1 (fun ci q z H locs hx hS ht => r_out C hS hmc (fun x hx => (hT x hx).elim) ht hx) (fun v z1 H locs hv hS => ?_)
  obtain ⟨x2, rfl, hw⟩ := hv
  refine lv_iload_n C.1 C.2.1 dJ10_getBytes_4 rfl (lv_at hl 3 rfl) ?_
  refine lv_icmp_ne C.1 C.2.1 dJ10_getBytes_5 rfl (fun h => ?_) (fun h => ?_)
  · have hw := hw.1 h
    refine r_aload_n C.1 C.2.1 dJ10_getBytes_28 rfl (lv_at hl 0 rfl) ?_
    refine r_getR C hS fo_17_0 (fl_d C q1212) (fun _ h => h) dJ10_getBytes_29 hw (fun x3 hw => ?_)
    refine lv_iconst C.1 C.2.1 (v := 0) dJ10_getBytes_32 rfl ?_
    refine r_aload_n C.1 C.2.1 dJ10_getBytes_33 rfl (lv_at hl 1 rfl) ?_
    refine lv_iload_n C.1 C.2.1 dJ10_getBytes_34 rfl (lv_at hl 2 rfl) ?_
    refine r_aload_n C.1 C.2.1 dJ10_getBytes_35 rfl (lv_at hl 0 rfl) ?_
    refine r_getR C hS fo_17_0 (fl_d C q1212) (fun _ h => h) dJ10_getBytes_36 hw (fun x4 hw => ?_)
    refine r_alen C hS dJ10_getBytes_39 hw (fun x5 hw => ?_)
    exact hw.elim
  · have hw := hw.2 h
    refine r_aload_n C.1 C.2.1 dJ10_getBytes_8 rfl (lv_at hl 0 rfl) ?_
    refine r_getR C hS fo_17_0 (fl_d C q1212) (fun _ h => h) dJ10_getBytes_9 hw (fun x6 hw => ?_)
    refine lv_iconst C.1 C.2.1 (v := 0) dJ10_getBytes_12 rfl ?_
    refine r_aload_n C.1 C.2.1 dJ10_getBytes_13 rfl (lv_at hl 1 rfl) ?_
    refine lv_iload_n C.1 C.2.1 dJ10_getBytes_14 rfl (lv_at hl 2 rfl) ?_
    refine lv_iload_n C.1 C.2.1 dJ10_getBytes_15 rfl (lv_at hl 3 rfl) ?_
    refine lv_ishl C.1 C.2.1 dJ10_getBytes_16 ?_
    refine r_aload_n C.1 C.2.1 dJ10_getBytes_17 rfl (lv_at hl 0 rfl) ?_
    refine r_getR C hS fo_17_0 (fl_d C q1212) (fun _ h => h) dJ10_getBytes_18 hw (fun x7 hw => ?_)
    refine r_alen C hS dJ10_getBytes_21 hw (fun x8 hw => ?_)
    refine r_acA C hS hl.1 q1117 q1054 q1053 q111 acL_ok (Nat.le_of_ble_eq_true rfl) (Nat.le_of_ble_eq_true rfl) (Nat.le_of_ble_eq_true rfl) dJ10_getBytes_22 hw (fun z9 H locs hw hS => ?_)
    refine lv_goto C.1 C.2.1 dJ10_getBytes_25 rfl ?_
    exact r_vret C hS hmc hr dJ10_getBytes_43 hw
end
theorem kJ10_getBytes {l : Launch} (hl : l.stackTraces = false) {G : gE} {P : hSt → Prop} {PX : Nat → Nat → hSt → Prop} {v0 : Option Nat} {v1 : Option Nat} {v2 : Int32} {v3 : Int32} {z : hSt} : cM l G yJ10_getBytes (ws_ yJ10_getBytes cJ10_getBytes 4 (Option.none : Option Jvm.ClassFile.FieldType)) 11 180 z [va_rf v0, va_rf v1, .int v2, .int v3] (wJ10_getBytes G P PX v0 v1 v2 v3 z) (pV P) PX := by
  refine m_of hl (plainFor_of_name (by decide)) (by rw [lg_sl1 (va_rf_cat _), lg_sl1 (va_rf_cat _), lg_sl1 rfl, lg_sl1 rfl]; exact Nat.le_of_ble_eq_true rfl) ?_
  intro p e s m args below meth c C hr hin hT hmc hw
  rw [lv_args1 (va_rf_cat _), lv_args1 (va_rf_cat _), lv_args1 rfl, lv_args1 rfl]
  intro H locs ls hS hl
  exact kJ10_getBytesb0 C hr hin hT hmc hw H locs ls hS (lv_sub hl [0, 1, 2, 3] rfl)
theorem hdJ10_getBytes : yJ10_getBytes.cls ≠ "java/lang/invoke/MethodHandle" ∧ yJ10_getBytes.cls ≠ "java/lang/invoke/VarHandle" ∧ (parseMethodDescriptor yJ10_getBytes.desc).map (fun d => d.parameters.length) = some 3 := ⟨by decide +kernel, by decide +kernel, by decide +kernel⟩
abbrev rmJ8_inflateIfNeededFor (mc ms : Nat) : Room := { frames := 11, cells := mc, slots := ms, locals := 180 }
def wJ8_inflateIfNeededForb0 (G : gE) (P : hSt → Prop) (PX : Nat → Nat → hSt → Prop)  (v0 : Option Nat) (v1 : Option Nat) (z : hSt) : Prop :=
  (((1 : Int32) = 0 → P z) ∧ (¬ (1 : Int32) = 0 → gtI z v0 [16] 1 (fun x1 => (rcv z v1 17 ∧ wJ10_coder G (fun x3 z2 => ((x1 = x3 → P z2) ∧ (¬ x1 = x3 → False))) PX v1  z))))
def wJ8_inflateIfNeededFor (G : gE) (P : hSt → Prop) (PX : Nat → Nat → hSt → Prop) (v0 : Option Nat) (v1 : Option Nat) (z : hSt) : Prop := wJ8_inflateIfNeededForb0 G P PX v0 v1 z
section
variable {p : Program} {l : Launch} {e : Env} {s : State} {m : MethodId} {args : Array Value} {below : List Frame} {meth : Method} {c : Code} {G : gE} {mc ms : Nat} {P : hSt → Prop} {PX : Nat → Nat → hSt → Prop}
theorem kJ8_inflateIfNeededForb0 (C : xC G p l s m args meth c cJ8_inflateIfNeededFor 2 "java/lang/AbstractStringBuilder") (hr : meth.sig.returnType = (Option.none : Option Jvm.ClassFile.FieldType)) (hin : meth.name = "inflateIfNeededFor") (hT : ∀ x ∈ c.exceptionTable.toList, False) (hmc : mc = gL G - s.heap.size ∧ ms = gU G - hsum s.heap)   {v0 : Option Nat} {v1 : Option Nat} {z : hSt} (hw : wJ8_inflateIfNeededForb0 G P PX  v0 v1 z) : kt G p l e (rmJ8_inflateIfNeededFor mc ms) s m args below meth c 2 (vx_MQ below (cQ G (pV P)) (cX G PX) args s mc ms (gF G)) 0 [(0, va_rf v0), (1, va_rf v1)] [] z := by
  intro H locs ls hS hl
  refine r_gets C hS (v := .int 1) (by simp [gSTA]) q364 dJ8_inflateIfNeededFor_0 ?_
  refine lv_if_eq C.1 C.2.1 dJ8_inflateIfNeededFor_3 rfl (fun h => ?_) (fun h => ?_)
  · have hw := hw.1 h
    exact r_vret C hS hmc hr dJ8_inflateIfNeededFor_21 hw
  · have hw := hw.2 h
    refine r_aload_n C.1 C.2.1 dJ8_inflateIfNeededFor_6 rfl (lv_at hl 0 rfl) ?_
    refine r_getI C hS fo_16_1 (fl_d C q374) (fun _ h => h) dJ8_inflateIfNeededFor_7 hw (fun x1 hw => ?_)
    refine r_aload_n C.1 C.2.1 dJ8_inflateIfNeededFor_10 rfl (lv_at hl 1 rfl) ?_
    refine c_V C hS hmc hl.1 (ci := 17) rfl hw.1 (kJ10_coder C.2.2.2.2.2.2.1) hw.2 (lw_V q1093 q1082 q1083 q81 q1084) ⟨rfl, hdJ10_coder⟩ ⟨Nat.le_of_ble_eq_true rfl, Nat.le_of_ble_eq_true rfl⟩ (rest := [.int x1]) rfl rfl (Nat.le_of_ble_eq_true rfl) dJ8_inflateIfNeededFor_11 (fun ci q z H locs hx hS ht => r_out C hS hmc (fun x hx => (hT x hx).elim) ht hx) (fun v z2 H locs hv hS => ?_)
    obtain ⟨x3, rfl, hw⟩ := hv
    refine lv_icmp_eq C.1 C.2.1 dJ8_inflateIfNeededFor_14 rfl (fun h => ?_) (fun h => ?_)
    · have hw := hw.1 h
      exact r_vret C hS hmc hr dJ8_inflateIfNeededFor_21 hw
    · have hw := hw.2 h
      refine r_aload_n C.1 C.2.1 dJ8_inflateIfNeededFor_17 rfl (lv_at hl 0 rfl) ?_
      exact hw.elim
end
theorem kJ8_inflateIfNeededFor {l : Launch} (hl : l.stackTraces = false) {G : gE} {P : hSt → Prop} {PX : Nat → Nat → hSt → Prop} {v0 : Option Nat} {v1 : Option Nat} {z : hSt} : cM l G yJ8_inflateIfNeededFor (ws_ yJ8_inflateIfNeededFor cJ8_inflateIfNeededFor 2 (Option.none : Option Jvm.ClassFile.FieldType)) 11 180 z [va_rf v0, va_rf v1] (wJ8_inflateIfNeededFor G P PX v0 v1 z) (pV P) PX := by
  refine m_of hl (plainFor_of_name (by decide)) (by rw [lg_sl1 (va_rf_cat _), lg_sl1 (va_rf_cat _)]; exact Nat.le_of_ble_eq_true rfl) ?_
  intro p e s m args below meth c C hr hin hT hmc hw
  rw [lv_args1 (va_rf_cat _), lv_args1 (va_rf_cat _)]
  intro H locs ls hS hl
  exact kJ8_inflateIfNeededForb0 C hr hin hT hmc hw H locs ls hS (lv_sub hl [0, 1] rfl)
theorem hdJ8_inflateIfNeededFor : yJ8_inflateIfNeededFor.cls ≠ "java/lang/invoke/MethodHandle" ∧ yJ8_inflateIfNeededFor.cls ≠ "java/lang/invoke/VarHandle" ∧ (parseMethodDescriptor yJ8_inflateIfNeededFor.desc).map (fun d => d.parameters.length) = some 1 := ⟨by decide +kernel, by decide +kernel, by decide +kernel⟩
abbrev rmJ8_putStringAt (mc ms : Nat) : Room := { frames := 12, cells := mc, slots := ms, locals := 203 }
def wJ8_putStringAtb0 (G : gE) (P : hSt → Prop) (PX : Nat → Nat → hSt → Prop)  (v0 : Option Nat) (v1 : Int32) (v2 : Option Nat) (z : hSt) : Prop :=
  (rcv z v0 16 ∧ wJ8_inflateIfNeededFor G (fun z1 => gtR z1 v0 [16] 0 (fun x2 => gtI z1 v0 [16] 1 (fun x3 => (rcv z1 v2 17 ∧ wJ10_getBytes G (fun z4 => P z4) PX v2 x2 v1 x3 z1)))) PX v0 v2 z)
def wJ8_putStringAt (G : gE) (P : hSt → Prop) (PX : Nat → Nat → hSt → Prop) (v0 : Option Nat) (v1 : Int32) (v2 : Option Nat) (z : hSt) : Prop := wJ8_putStringAtb0 G P PX v0 v1 v2 z
section
variable {p : Program} {l : Launch} {e : Env} {s : State} {m : MethodId} {args : Array Value} {below : List Frame} {meth : Method} {c : Code} {G : gE} {mc ms : Nat} {P : hSt → Prop} {PX : Nat → Nat → hSt → Prop}
theorem kJ8_putStringAtb0 (C : xC G p l s m args meth c cJ8_putStringAt 3 "java/lang/AbstractStringBuilder") (hr : meth.sig.returnType = (Option.none : Option Jvm.ClassFile.FieldType)) (hin : meth.name = "putStringAt") (hT : ∀ x ∈ c.exceptionTable.toList, False) (hmc : mc = gL G - s.heap.size ∧ ms = gU G - hsum s.heap)   {v0 : Option Nat} {v1 : Int32} {v2 : Option Nat} {z : hSt} (hw : wJ8_putStringAtb0 G P PX  v0 v1 v2 z) : kt G p l e (rmJ8_putStringAt mc ms) s m args below meth c 3 (vx_MQ below (cQ G (pV P)) (cX G PX) args s mc ms (gF G)) 0 [(0, va_rf v0), (1, .int v1), (2, va_rf v2)] [] z := by
  intro H locs ls hS hl
  refine r_aload_n C.1 C.2.1 dJ8_putStringAt_0 rfl (lv_at hl 0 rfl) ?_
  refine r_aload_n C.1 C.2.1 dJ8_putStringAt_1 rfl (lv_at hl 2 rfl) ?_
  refine c_U C hS hmc hl.1 (ci := 16) rfl hw.1 (kJ8_inflateIfNeededFor C.2.2.2.2.2.2.1) hw.2 q1089 q3525 (decl_c C q1091 q1092) (sel_p C q1090 q3525 q1091 q1058 rfl) q1091 q79 q1092 ⟨by decide, by decide⟩ hdJ8_inflateIfNeededFor.2.2 ⟨Nat.le_of_ble_eq_true rfl, Nat.le_of_ble_eq_true rfl⟩ (rest := []) rfl rfl (Nat.le_of_ble_eq_true rfl) dJ8_putStringAt_2 (fun ci q z H locs hx hS ht => r_out C hS hmc (fun x hx => (hT x hx).elim) ht hx) (fun v z1 H locs hv hS => ?_)
  obtain ⟨rfl, hw⟩ := hv
  refine r_aload_n C.1 C.2.1 dJ8_putStringAt_5 rfl (lv_at hl 2 rfl) ?_
  refine r_aload_n C.1 C.2.1 dJ8_putStringAt_6 rfl (lv_at hl 0 rfl) ?_
  refine r_getR C hS fo_16_0 (fl_d C q373) (fun _ h => h) dJ8_putStringAt_7 hw (fun x2 hw => ?_)
  refine lv_iload_n C.1 C.2.1 dJ8_putStringAt_10 rfl (lv_at hl 1 rfl) ?_
  refine r_aload_n C.1 C.2.1 dJ8_putStringAt_11 rfl (lv_at hl 0 rfl) ?_
  refine r_getI C hS fo_16_1 (fl_d C q374) (fun _ h => h) dJ8_putStringAt_12 hw (fun x3 hw => ?_)
  refine c_V C hS hmc hl.1 (ci := 17) rfl hw.1 (kJ10_getBytes C.2.2.2.2.2.2.1) hw.2 (lw_V q1113 q1114 q1115 q81 q1116) ⟨rfl, hdJ10_getBytes⟩ ⟨Nat.le_of_ble_eq_true rfl, Nat.le_of_ble_eq_true rfl⟩ (rest := []) rfl rfl (Nat.le_of_ble_eq_true rfl) dJ8_putStringAt_15 (fun ci q z H locs hx hS ht => r_out C hS hmc (fun x hx => (hT x hx).elim) ht hx) (fun v z4 H locs hv hS => ?_)
  obtain ⟨rfl, hw⟩ := hv
  exact r_vret C hS hmc hr dJ8_putStringAt_18 hw
end
theorem kJ8_putStringAt {l : Launch} (hl : l.stackTraces = false) {G : gE} {P : hSt → Prop} {PX : Nat → Nat → hSt → Prop} {v0 : Option Nat} {v1 : Int32} {v2 : Option Nat} {z : hSt} : cM l G yJ8_putStringAt (ws_ yJ8_putStringAt cJ8_putStringAt 3 (Option.none : Option Jvm.ClassFile.FieldType)) 12 203 z [va_rf v0, .int v1, va_rf v2] (wJ8_putStringAt G P PX v0 v1 v2 z) (pV P) PX := by
  refine m_of hl (plainFor_of_name (by decide)) (by rw [lg_sl1 (va_rf_cat _), lg_sl1 rfl, lg_sl1 (va_rf_cat _)]; exact Nat.le_of_ble_eq_true rfl) ?_
  intro p e s m args below meth c C hr hin hT hmc hw
  rw [lv_args1 (va_rf_cat _), lv_args1 rfl, lv_args1 (va_rf_cat _)]
  intro H locs ls hS hl
  exact kJ8_putStringAtb0 C hr hin hT hmc hw H locs ls hS (lv_sub hl [0, 1, 2] rfl)
theorem hdJ8_putStringAt : yJ8_putStringAt.cls ≠ "java/lang/invoke/MethodHandle" ∧ yJ8_putStringAt.cls ≠ "java/lang/invoke/VarHandle" ∧ (parseMethodDescriptor yJ8_putStringAt.desc).map (fun d => d.parameters.length) = some 2 := ⟨by decide +kernel, by decide +kernel, by decide +kernel⟩
abbrev rmJ8_append (mc ms : Nat) : Room := { frames := 13, cells := mc, slots := ms, locals := 230 }
def wJ8_appendb0 (G : gE) (P : Option Nat → hSt → Prop) (PX : Nat → Nat → hSt → Prop)  (v0 : Option Nat) (v1 : Option Nat) (z : hSt) : Prop :=
  ((¬ v1 = none → (rcv z v1 17 ∧ wJ10_length G (fun x2 z1 => gtI z1 v0 [16] 3 (fun x3 => (rcv z1 v0 16 ∧ wJ8_ensureCapacityInternal G (fun z4 => gtI z4 v0 [16] 3 (fun x5 => (rcv z4 v0 16 ∧ wJ8_putStringAt G (fun z6 => gtI z6 v0 [16] 3 (fun x7 => ptV G z6 v0 [16] 3 (.int (x7 + x2)) (fun z8 => P v0 z8))) PX v0 x5 v1 z4))) PX v0 (x3 + x2) z1))) PX v1  z)) ∧ (v1 = none → False))
def wJ8_append (G : gE) (P : Option Nat → hSt → Prop) (PX : Nat → Nat → hSt → Prop) (v0 : Option Nat) (v1 : Option Nat) (z : hSt) : Prop := wJ8_appendb0 G P PX v0 v1 z
section
variable {p : Program} {l : Launch} {e : Env} {s : State} {m : MethodId} {args : Array Value} {below : List Frame} {meth : Method} {c : Code} {G : gE} {mc ms : Nat} {P : Option Nat → hSt → Prop} {PX : Nat → Nat → hSt → Prop}
theorem kJ8_appendb0 (C : xC G p l s m args meth c cJ8_append 3 "java/lang/AbstractStringBuilder") (hr : meth.sig.returnType = (Option.some (Jvm.ClassFile.FieldType.object "java/lang/AbstractStringBuilder"))) (hin : meth.name = "append") (hT : ∀ x ∈ c.exceptionTable.toList, False) (hmc : mc = gL G - s.heap.size ∧ ms = gU G - hsum s.heap)   {v0 : Option Nat} {v1 : Option Nat} {z : hSt} (hw : wJ8_appendb0 G P PX  v0 v1 z) : kt G p l e (rmJ8_append mc ms) s m args below meth c 3 (vx_MQ below (cQ G (pR P)) (cX G PX) args s mc ms (gF G)) 0 [(0, va_rf v0), (1, va_rf v1)] [] z := by
  intro H locs ls hS hl
  refine r_aload_n C.1 C.2.1 dJ8_append_0 rfl (lv_at hl 1 rfl) ?_
  refine r_ifnonnull C.1 C.2.1 dJ8_append_1 rfl (fun h => ?_) (fun h => ?_)
  · have hw := hw.1 h
    refine r_aload_n C.1 C.2.1 dJ8_append_9 rfl (lv_at hl 1 rfl) ?_
    refine c_V C hS hmc hl.1 (ci := 17) rfl hw.1 (kJ10_length C.2.2.2.2.2.2.1) hw.2 (lw_V q1077 q1078 q1079 q81 q1080) ⟨rfl, hdJ10_length⟩ ⟨Nat.le_of_ble_eq_true rfl, Nat.le_of_ble_eq_true rfl⟩ (rest := []) rfl rfl (Nat.le_of_ble_eq_true rfl) dJ8_append_10 (fun ci q z H locs hx hS ht => r_out C hS hmc (fun x hx => (hT x hx).elim) ht hx) (fun v z1 H locs hv hS => ?_)
    obtain ⟨x2, rfl, hw⟩ := hv
    refine r_istore_n C.1 C.2.1 dJ8_append_13 rfl hl (Nat.le_of_ble_eq_true rfl) (ls_new (ls_old 0 rfl rfl (.inl rfl) (ls_old 1 rfl rfl (.inr (va_rf_cat _)) ls_nil))) (fun ls hl => ?_)
    refine r_aload_n C.1 C.2.1 dJ8_append_14 rfl (lv_at hl 1 rfl) ?_
    refine r_aload_n C.1 C.2.1 dJ8_append_15 rfl (lv_at hl 1 rfl) ?_
    refine r_getI C hS fo_16_3 (fl_d C q377) (fun _ h => h) dJ8_append_16 hw (fun x3 hw => ?_)
    refine lv_iload_n C.1 C.2.1 dJ8_append_19 rfl (lv_at hl 0 rfl) ?_
    refine lv_iadd C.1 C.2.1 dJ8_append_20 ?_
    refine c_U C hS hmc hl.1 (ci := 16) rfl hw.1 (kJ8_ensureCapacityInternal C.2.2.2.2.2.2.1) hw.2 q1020 q3522 (decl_c C q1022 q1023) (sel_p C q1021 q3522 q1022 q1058 rfl) q1022 q79 q1023 ⟨by decide, by decide⟩ hdJ8_ensureCapacityInternal.2.2 ⟨Nat.le_of_ble_eq_true rfl, Nat.le_of_ble_eq_true rfl⟩ (rest := []) rfl rfl (Nat.le_of_ble_eq_true rfl) dJ8_append_21 (fun ci q z H locs hx hS ht => r_out C hS hmc (fun x hx => (hT x hx).elim) ht hx) (fun v z4 H locs hv hS => ?_)
    obtain ⟨rfl, hw⟩ := hv
    refine r_aload_n C.1 C.2.1 dJ8_append_24 rfl (lv_at hl 1 rfl) ?_
    refine r_aload_n C.1 C.2.1 dJ8_append_25 rfl (lv_at hl 1 rfl) ?_
    refine r_getI C hS fo_16_3 (fl_d C q377) (fun _ h => h) dJ8_append_26 hw (fun x5 hw => ?_)
    refine r_aload_n C.1 C.2.1 dJ8_append_29 rfl (lv_at hl 2 rfl) ?_
    refine c_U C hS hmc hl.1 (ci := 16) rfl hw.1 (kJ8_putStringAt C.2.2.2.2.2.2.1) hw.2 q1085 q3524 (decl_c C q1087 q1088) (sel_p C q1086 q3524 q1087 q1058 rfl) q1087 q79 q1088 ⟨by decide, by decide⟩ hdJ8_putStringAt.2.2 ⟨Nat.le_of_ble_eq_true rfl, Nat.le_of_ble_eq_true rfl⟩ (rest := []) rfl rfl (Nat.le_of_ble_eq_true rfl) dJ8_append_30 (fun ci q z H locs hx hS ht => r_out C hS hmc (fun x hx => (hT x hx).elim) ht hx) (fun v z6 H locs hv hS => ?_)
    obtain ⟨rfl, hw⟩ := hv
    refine r_aload_n C.1 C.2.1 dJ8_append_33 rfl (lv_at hl 1 rfl) ?_
    refine lv_dup C.1 C.2.1 dJ8_append_34 (va_rf_cat _) ?_
    refine r_getI C hS fo_16_3 (fl_d C q377) (fun _ h => h) dJ8_append_35 hw (fun x7 hw => ?_)
    refine lv_iload_n C.1 C.2.1 dJ8_append_38 rfl (lv_at hl 0 rfl) ?_
    refine lv_iadd C.1 C.2.1 dJ8_append_39 ?_
    refine r_put C hS fo_16_3 (fl_d C q377) (fun _ h => h) rfl rfl dJ8_append_40 hw (fun z8 H locs hw hS => ?_)
    refine r_aload_n C.1 C.2.1 dJ8_append_43 rfl (lv_at hl 1 rfl) ?_
    exact r_aret C hS hmc hr (Or.inl ⟨_, rfl⟩) dJ8_append_44 hw
  · have hw := hw.2 h
    refine r_aload_n C.1 C.2.1 dJ8_append_4 rfl (lv_at hl 0 rfl) ?_
    exact hw.elim
end
theorem kJ8_append {l : Launch} (hl : l.stackTraces = false) {G : gE} {P : Option Nat → hSt → Prop} {PX : Nat → Nat → hSt → Prop} {v0 : Option Nat} {v1 : Option Nat} {z : hSt} : cM l G yJ8_append (ws_ yJ8_append cJ8_append 3 (Option.some (Jvm.ClassFile.FieldType.object "java/lang/AbstractStringBuilder"))) 13 230 z [va_rf v0, va_rf v1] (wJ8_append G P PX v0 v1 z) (pR P) PX := by
  refine m_of hl (plainFor_of_name (by decide)) (by rw [lg_sl1 (va_rf_cat _), lg_sl1 (va_rf_cat _)]; exact Nat.le_of_ble_eq_true rfl) ?_
  intro p e s m args below meth c C hr hin hT hmc hw
  rw [lv_args1 (va_rf_cat _), lv_args1 (va_rf_cat _)]
  intro H locs ls hS hl
  exact kJ8_appendb0 C hr hin hT hmc hw H locs ls hS (lv_sub hl [0, 1] rfl)
theorem hdJ8_append : yJ8_append.cls ≠ "java/lang/invoke/MethodHandle" ∧ yJ8_append.cls ≠ "java/lang/invoke/VarHandle" ∧ (parseMethodDescriptor yJ8_append.desc).map (fun d => d.parameters.length) = some 1 := ⟨by decide +kernel, by decide +kernel, by decide +kernel⟩
abbrev rmJ9_append (mc ms : Nat) : Room := { frames := 14, cells := mc, slots := ms, locals := 252 }
def wJ9_appendb0 (G : gE) (P : Option Nat → hSt → Prop) (PX : Nat → Nat → hSt → Prop)  (v0 : Option Nat) (v1 : Option Nat) (z : hSt) : Prop :=
  (rcv z v0 16 ∧ wJ8_append G (fun x2 z1 => P v0 z1) PX v0 v1 z)
def wJ9_append (G : gE) (P : Option Nat → hSt → Prop) (PX : Nat → Nat → hSt → Prop) (v0 : Option Nat) (v1 : Option Nat) (z : hSt) : Prop := wJ9_appendb0 G P PX v0 v1 z
section
variable {p : Program} {l : Launch} {e : Env} {s : State} {m : MethodId} {args : Array Value} {below : List Frame} {meth : Method} {c : Code} {G : gE} {mc ms : Nat} {P : Option Nat → hSt → Prop} {PX : Nat → Nat → hSt → Prop}
theorem kJ9_appendb0 (C : xC G p l s m args meth c cJ9_append 2 "java/lang/StringBuilder") (hr : meth.sig.returnType = (Option.some (Jvm.ClassFile.FieldType.object "java/lang/StringBuilder"))) (hin : meth.name = "append") (hT : ∀ x ∈ c.exceptionTable.toList, False) (hmc : mc = gL G - s.heap.size ∧ ms = gU G - hsum s.heap)   {v0 : Option Nat} {v1 : Option Nat} {z : hSt} (hw : wJ9_appendb0 G P PX  v0 v1 z) : kt G p l e (rmJ9_append mc ms) s m args below meth c 2 (vx_MQ below (cQ G (pR P)) (cX G PX) args s mc ms (gF G)) 0 [(0, va_rf v0), (1, va_rf v1)] [] z := by
  intro H locs ls hS hl
  refine r_aload_n C.1 C.2.1 dJ9_append_0 rfl (lv_at hl 0 rfl) ?_
  refine r_aload_n C.1 C.2.1 dJ9_append_1 rfl (lv_at hl 1 rfl) ?_
  refine c_SU C hS hmc hl.1 (ci := 16) rfl hw.1 (kJ8_append C.2.2.2.2.2.2.1) hw.2 (lw_SU q1013 q3520 q386 q1014 q79 q1015) ⟨by decide, hdJ8_append.2.2⟩ ⟨Nat.le_of_ble_eq_true rfl, Nat.le_of_ble_eq_true rfl⟩ (rest := []) rfl rfl (Nat.le_of_ble_eq_true rfl) dJ9_append_2 (fun ci q z H locs hx hS ht => r_out C hS hmc (fun x hx => (hT x hx).elim) ht hx) (fun v z1 H locs hv hS => ?_)
  obtain ⟨x2, rfl, hw⟩ := hv
  refine lv_pop C.1 C.2.1 dJ9_append_5 (va_rf_cat _) ?_
  refine r_aload_n C.1 C.2.1 dJ9_append_6 rfl (lv_at hl 0 rfl) ?_
  exact r_aret C hS hmc hr (Or.inl ⟨_, rfl⟩) dJ9_append_7 hw
end
theorem kJ9_append {l : Launch} (hl : l.stackTraces = false) {G : gE} {P : Option Nat → hSt → Prop} {PX : Nat → Nat → hSt → Prop} {v0 : Option Nat} {v1 : Option Nat} {z : hSt} : cM l G yJ9_append (ws_ yJ9_append cJ9_append 2 (Option.some (Jvm.ClassFile.FieldType.object "java/lang/StringBuilder"))) 14 252 z [va_rf v0, va_rf v1] (wJ9_append G P PX v0 v1 z) (pR P) PX := by
  refine m_of hl (plainFor_of_name (by decide)) (by rw [lg_sl1 (va_rf_cat _), lg_sl1 (va_rf_cat _)]; exact Nat.le_of_ble_eq_true rfl) ?_
  intro p e s m args below meth c C hr hin hT hmc hw
  rw [lv_args1 (va_rf_cat _), lv_args1 (va_rf_cat _)]
  intro H locs ls hS hl
  exact kJ9_appendb0 C hr hin hT hmc hw H locs ls hS (lv_sub hl [0, 1] rfl)
theorem hdJ9_append : yJ9_append.cls ≠ "java/lang/invoke/MethodHandle" ∧ yJ9_append.cls ≠ "java/lang/invoke/VarHandle" ∧ (parseMethodDescriptor yJ9_append.desc).map (fun d => d.parameters.length) = some 1 := ⟨by decide +kernel, by decide +kernel, by decide +kernel⟩
abbrev rmJ32_canEncode (mc ms : Nat) : Room := { frames := 10, cells := mc, slots := ms, locals := 160 }
def wJ32_canEncodeb0 (G : gE) (P : Int32 → hSt → Prop) (PX : Nat → Nat → hSt → Prop)  (v0 : Int32) (z : hSt) : Prop :=
  ((255 < v0 → (okN .boolean 0 ∧ P 0 z)) ∧ (¬ 255 < v0 → (okN .boolean 1 ∧ P 1 z)))
def wJ32_canEncode (G : gE) (P : Int32 → hSt → Prop) (PX : Nat → Nat → hSt → Prop) (v0 : Int32) (z : hSt) : Prop := wJ32_canEncodeb0 G P PX v0 z
section
variable {p : Program} {l : Launch} {e : Env} {s : State} {m : MethodId} {args : Array Value} {below : List Frame} {meth : Method} {c : Code} {G : gE} {mc ms : Nat} {P : Int32 → hSt → Prop} {PX : Nat → Nat → hSt → Prop}
theorem kJ32_canEncodeb0 (C : xC G p l s m args meth c cJ32_canEncode 1 "java/lang/StringLatin1") (hr : meth.sig.returnType = (Option.some Jvm.ClassFile.FieldType.boolean)) (hin : meth.name = "canEncode") (hT : ∀ x ∈ c.exceptionTable.toList, False) (hmc : mc = gL G - s.heap.size ∧ ms = gU G - hsum s.heap)   {v0 : Int32} {z : hSt} (hw : wJ32_canEncodeb0 G P PX  v0 z) : kt G p l e (rmJ32_canEncode mc ms) s m args below meth c 1 (vx_MQ below (cQ G (pI P)) (cX G PX) args s mc ms (gF G)) 0 [(0, .int v0)] [] z := by
  intro H locs ls hS hl
  refine lv_iload_n C.1 C.2.1 dJ32_canEncode_0 rfl (lv_at hl 0 rfl) ?_
  refine lv_sipush C.1 C.2.1 (v := 255) dJ32_canEncode_1 rfl ?_
  refine lv_icmp_gt C.1 C.2.1 dJ32_canEncode_4 rfl (fun h => ?_) (fun h => ?_)
  · have hw := hw.1 h
    refine lv_iconst C.1 C.2.1 (v := 0) dJ32_canEncode_11 rfl ?_
    exact r_zret C hS hmc hr dJ32_canEncode_12 hw
  · have hw := hw.2 h
    refine lv_iconst C.1 C.2.1 (v := 1) dJ32_canEncode_7 rfl ?_
    refine lv_goto C.1 C.2.1 dJ32_canEncode_8 rfl ?_
    exact r_zret C hS hmc hr dJ32_canEncode_12 hw
end
theorem kJ32_canEncode {l : Launch} (hl : l.stackTraces = false) {G : gE} {P : Int32 → hSt → Prop} {PX : Nat → Nat → hSt → Prop} {v0 : Int32} {z : hSt} : cM l G yJ32_canEncode (ws_ yJ32_canEncode cJ32_canEncode 1 (Option.some Jvm.ClassFile.FieldType.boolean)) 10 160 z [.int v0] (wJ32_canEncode G P PX v0 z) (pI P) PX := by
  refine m_of hl (plainFor_of_name (by decide)) (by rw [lg_sl1 rfl]; exact Nat.le_of_ble_eq_true rfl) ?_
  intro p e s m args below meth c C hr hin hT hmc hw
  rw [lv_args1 rfl]
  intro H locs ls hS hl
  exact kJ32_canEncodeb0 C hr hin hT hmc hw H locs ls hS (lv_sub hl [0] rfl)
theorem hdJ32_canEncode : yJ32_canEncode.cls ≠ "java/lang/invoke/MethodHandle" ∧ yJ32_canEncode.cls ≠ "java/lang/invoke/VarHandle" ∧ (parseMethodDescriptor yJ32_canEncode.desc).map (fun d => d.parameters.length) = some 1 := ⟨by decide +kernel, by decide +kernel, by decide +kernel⟩
abbrev rmJ8_append_3 (mc ms : Nat) : Room := { frames := 13, cells := mc, slots := ms, locals := 230 }
def wJ8_append_3b56 (G : gE) (P : Option Nat → hSt → Prop) (PX : Nat → Nat → hSt → Prop)  (v0 : Option Nat) (v1 : Int32) (z : hSt) : Prop :=
  gtR z v0 [16] 0 (fun x13 => gtI z v0 [16] 3 (fun x14 => ptV G z v0 [16] 3 (.int (x14 + 1)) (fun z15 => False)))
def wJ8_append_3b45 (G : gE) (P : Option Nat → hSt → Prop) (PX : Nat → Nat → hSt → Prop)  (v0 : Option Nat) (v1 : Int32) (z : hSt) : Prop :=
  (rcv z v0 16 ∧ wJ8_isLatin1 G (fun x12 z11 => ((x12 = 0 → wJ8_append_3b56 G P PX  v0 v1 z11) ∧ (¬ x12 = 0 → False))) PX v0  z)
def wJ8_append_3b75 (G : gE) (P : Option Nat → hSt → Prop) (PX : Nat → Nat → hSt → Prop)  (v0 : Option Nat) (z : hSt) : Prop :=
  P v0 z
def wJ8_append_3b0 (G : gE) (P : Option Nat → hSt → Prop) (PX : Nat → Nat → hSt → Prop)  (v0 : Option Nat) (v1 : Int32) (z : hSt) : Prop :=
  gtI z v0 [16] 3 (fun x1 => (rcv z v0 16 ∧ wJ8_ensureCapacityInternal G (fun z2 => (rcv z2 v0 16 ∧ wJ8_isLatin1 G (fun x4 z3 => ((x4 = 0 → wJ8_append_3b45 G P PX  v0 v1 z3) ∧ (¬ x4 = 0 → wJ32_canEncode G (fun x6 z5 => ((x6 = 0 → wJ8_append_3b45 G P PX  v0 v1 z5) ∧ (¬ x6 = 0 → gtR z5 v0 [16] 0 (fun x7 => gtI z5 v0 [16] 3 (fun x8 => ptV G z5 v0 [16] 3 (.int (x8 + 1)) (fun z9 => asI G z9 x7 2 .byte x8 ((v1 : Int32).toInt8.toInt32) (fun z10 => wJ8_append_3b75 G P PX  v0 z10))))))) PX v1 z3))) PX v0  z2)) PX v0 (x1 + 1) z))
def wJ8_append_3 (G : gE) (P : Option Nat → hSt → Prop) (PX : Nat → Nat → hSt → Prop) (v0 : Option Nat) (v1 : Int32) (z : hSt) : Prop := wJ8_append_3b0 G P PX v0 v1 z
section
variable {p : Program} {l : Launch} {e : Env} {s : State} {m : MethodId} {args : Array Value} {below : List Frame} {meth : Method} {c : Code} {G : gE} {mc ms : Nat} {P : Option Nat → hSt → Prop} {PX : Nat → Nat → hSt → Prop}
theorem kJ8_append_3b56 (C : xC G p l s m args meth c cJ8_append_3 2 "java/lang/AbstractStringBuilder") (hr : meth.sig.returnType = (Option.some (Jvm.ClassFile.FieldType.object "java/lang/AbstractStringBuilder"))) (hin : meth.name = "append") (hT : ∀ x ∈ c.exceptionTable.toList, False) (hmc : mc = gL G - s.heap.size ∧ ms = gU G - hsum s.heap)   {v0 : Option Nat} {v1 : Int32} {z : hSt} (hw : wJ8_append_3b56 G P PX  v0 v1 z) : kt G p l e (rmJ8_append_3 mc ms) s m args below meth c 2 (vx_MQ below (cQ G (pR P)) (cX G PX) args s mc ms (gF G)) 56 [(0, va_rf v0), (1, .int v1)] [] z := by
  intro H locs ls hS hl
  refine r_aload_n C.1 C.2.1 dJ8_append_3_56 rfl (lv_at hl 0 rfl) ?_
  refine r_getR C hS fo_16_0 (fl_d C q373) (fun _ h => h) dJ8_append_3_57 hw (fun x13 hw => ?_)
  refine r_aload_n C.1 C.2.1 dJ8_append_3_60 rfl (lv_at hl 0 rfl) ?_
  refine lv_dup C.1 C.2.1 dJ8_append_3_61 (va_rf_cat _) ?_
  refine r_getI C hS fo_16_3 (fl_d C q377) (fun _ h => h) dJ8_append_3_62 hw (fun x14 hw => ?_)
  refine lv_dup_x1 C.1 C.2.1 dJ8_append_3_65 rfl (va_rf_cat _) ?_
  refine lv_iconst C.1 C.2.1 (v := 1) dJ8_append_3_66 rfl ?_
  refine lv_iadd C.1 C.2.1 dJ8_append_3_67 ?_
  refine r_put C hS fo_16_3 (fl_d C q377) (fun _ h => h) rfl rfl dJ8_append_3_68 hw (fun z15 H locs hw hS => ?_)
  refine lv_iload_n C.1 C.2.1 dJ8_append_3_71 rfl (lv_at hl 1 rfl) ?_
  exact hw.elim
theorem kJ8_append_3b45 (C : xC G p l s m args meth c cJ8_append_3 2 "java/lang/AbstractStringBuilder") (hr : meth.sig.returnType = (Option.some (Jvm.ClassFile.FieldType.object "java/lang/AbstractStringBuilder"))) (hin : meth.name = "append") (hT : ∀ x ∈ c.exceptionTable.toList, False) (hmc : mc = gL G - s.heap.size ∧ ms = gU G - hsum s.heap)   {v0 : Option Nat} {v1 : Int32} {z : hSt} (hw : wJ8_append_3b45 G P PX  v0 v1 z) : kt G p l e (rmJ8_append_3 mc ms) s m args below meth c 2 (vx_MQ below (cQ G (pR P)) (cX G PX) args s mc ms (gF G)) 45 [(0, va_rf v0), (1, .int v1)] [] z := by
  intro H locs ls hS hl
  refine r_aload_n C.1 C.2.1 dJ8_append_3_45 rfl (lv_at hl 0 rfl) ?_
  refine c_U C hS hmc hl.1 (ci := 16) rfl hw.1 (kJ8_isLatin1 C.2.2.2.2.2.2.1) hw.2 q1055 q1057 (decl_c C q1056 q1059) (C.2.2.2.2.1 _ q1058) q1056 q79 q1059 ⟨by decide, by decide⟩ hdJ8_isLatin1.2.2 ⟨Nat.le_of_ble_eq_true rfl, Nat.le_of_ble_eq_true rfl⟩ (rest := []) rfl rfl (Nat.le_of_ble_eq_true rfl) dJ8_append_3_46 (fun ci q z H locs hx hS ht => r_out C hS hmc (fun x hx => (hT x hx).elim) ht hx) (fun v z11 H locs hv hS => ?_)
  obtain ⟨x12, rfl, hw⟩ := hv
  refine lv_if_eq C.1 C.2.1 dJ8_append_3_49 rfl (fun h => ?_) (fun h => ?_)
  · have hw := hw.1 h
    exact kJ8_append_3b56 C hr hin hT hmc  hw H locs ls hS (lv_sub hl [0, 1] rfl)
  · have hw := hw.2 h
    refine r_aload_n C.1 C.2.1 dJ8_append_3_52 rfl (lv_at hl 0 rfl) ?_
    exact hw.elim
theorem kJ8_append_3b75 (C : xC G p l s m args meth c cJ8_append_3 2 "java/lang/AbstractStringBuilder") (hr : meth.sig.returnType = (Option.some (Jvm.ClassFile.FieldType.object "java/lang/AbstractStringBuilder"))) (hin : meth.name = "append") (hT : ∀ x ∈ c.exceptionTable.toList, False) (hmc : mc = gL G - s.heap.size ∧ ms = gU G - hsum s.heap)   {v0 : Option Nat} {z : hSt} (hw : wJ8_append_3b75 G P PX  v0 z) : kt G p l e (rmJ8_append_3 mc ms) s m args below meth c 2 (vx_MQ below (cQ G (pR P)) (cX G PX) args s mc ms (gF G)) 75 [(0, va_rf v0)] [] z := by
  intro H locs ls hS hl
  refine r_aload_n C.1 C.2.1 dJ8_append_3_75 rfl (lv_at hl 0 rfl) ?_
  exact r_aret C hS hmc hr (Or.inl ⟨_, rfl⟩) dJ8_append_3_76 hw
theorem kJ8_append_3b0 (C : xC G p l s m args meth c cJ8_append_3 2 "java/lang/AbstractStringBuilder") (hr : meth.sig.returnType = (Option.some (Jvm.ClassFile.FieldType.object "java/lang/AbstractStringBuilder"))) (hin : meth.name = "append") (hT : ∀ x ∈ c.exceptionTable.toList, False) (hmc : mc = gL G - s.heap.size ∧ ms = gU G - hsum s.heap)   {v0 : Option Nat} {v1 : Int32} {z : hSt} (hw : wJ8_append_3b0 G P PX  v0 v1 z) : kt G p l e (rmJ8_append_3 mc ms) s m args below meth c 2 (vx_MQ below (cQ G (pR P)) (cX G PX) args s mc ms (gF G)) 0 [(0, va_rf v0), (1, .int v1)] [] z := by
  intro H locs ls hS hl
  refine r_aload_n C.1 C.2.1 dJ8_append_3_0 rfl (lv_at hl 0 rfl) ?_
  refine r_aload_n C.1 C.2.1 dJ8_append_3_1 rfl (lv_at hl 0 rfl) ?_
  refine r_getI C hS fo_16_3 (fl_d C q377) (fun _ h => h) dJ8_append_3_2 hw (fun x1 hw => ?_)
  refine lv_iconst C.1 C.2.1 (v := 1) dJ8_append_3_5 rfl ?_
  refine lv_iadd C.1 C.2.1 dJ8_append_3_6 ?_
  refine c_U C hS hmc hl.1 (ci := 16) rfl hw.1 (kJ8_ensureCapacityInternal C.2.2.2.2.2.2.1) hw.2 q1020 q3522 (decl_c C q1022 q1023) (sel_p C q1021 q3522 q1022 q1058 rfl) q1022 q79 q1023 ⟨by decide, by decide⟩ hdJ8_ensureCapacityInternal.2.2 ⟨Nat.le_of_ble_eq_true rfl, Nat.le_of_ble_eq_true rfl⟩ (rest := []) rfl rfl (Nat.le_of_ble_eq_true rfl) dJ8_append_3_7 (fun ci q z H locs hx hS ht => r_out C hS hmc (fun x hx => (hT x hx).elim) ht hx) (fun v z2 H locs hv hS => ?_)
  obtain ⟨rfl, hw⟩ := hv
  refine r_aload_n C.1 C.2.1 dJ8_append_3_10 rfl (lv_at hl 0 rfl) ?_
  refine c_U C hS hmc hl.1 (ci := 16) rfl hw.1 (kJ8_isLatin1 C.2.2.2.2.2.2.1) hw.2 q1055 q1057 (decl_c C q1056 q1059) (C.2.2.2.2.1 _ q1058) q1056 q79 q1059 ⟨by decide, by decide⟩ hdJ8_isLatin1.2.2 ⟨Nat.le_of_ble_eq_true rfl, Nat.le_of_ble_eq_true rfl⟩ (rest := []) rfl rfl (Nat.le_of_ble_eq_true rfl) dJ8_append_3_11 (fun ci q z H locs hx hS ht => r_out C hS hmc (fun x hx => (hT x hx).elim) ht hx) (fun v z3 H locs hv hS => ?_)
  obtain ⟨x4, rfl, hw⟩ := hv
  refine lv_if_eq C.1 C.2.1 dJ8_append_3_14 rfl (fun h => ?_) (fun h => ?_)
  · have hw := hw.1 h
    exact kJ8_append_3b45 C hr hin hT hmc  hw H locs ls hS (lv_sub hl [0, 1] rfl)
  · have hw := hw.2 h
    refine lv_iload_n C.1 C.2.1 dJ8_append_3_17 rfl (lv_at hl 1 rfl) ?_
    refine c_S C hS hmc hl.1 (kJ32_canEncode C.2.2.2.2.2.2.1) hw (lw_S q2721 q2722 q107 q2723) hdJ32_canEncode ⟨Nat.le_of_ble_eq_true rfl, Nat.le_of_ble_eq_true rfl⟩ (rest := []) rfl rfl (Nat.le_of_ble_eq_true rfl) dJ8_append_3_18 (fun ci q z H locs hx hS ht => r_out C hS hmc (fun x hx => (hT x hx).elim) ht hx) (fun v z5 H locs hv hS => ?_)
    obtain ⟨x6, rfl, hw⟩ := hv
    refine lv_if_eq C.1 C.2.1 dJ8_append_3_21 rfl (fun h => ?_) (fun h => ?_)
    · have hw := hw.1 h
      exact kJ8_append_3b45 C hr hin hT hmc  hw H locs ls hS (lv_sub hl [0, 1] rfl)
    · have hw := hw.2 h
      refine r_aload_n C.1 C.2.1 dJ8_append_3_24 rfl (lv_at hl 0 rfl) ?_
      refine r_getR C hS fo_16_0 (fl_d C q373) (fun _ h => h) dJ8_append_3_25 hw (fun x7 hw => ?_)
      refine r_aload_n C.1 C.2.1 dJ8_append_3_28 rfl (lv_at hl 0 rfl) ?_
      refine lv_dup C.1 C.2.1 dJ8_append_3_29 (va_rf_cat _) ?_
      refine r_getI C hS fo_16_3 (fl_d C q377) (fun _ h => h) dJ8_append_3_30 hw (fun x8 hw => ?_)
      refine lv_dup_x1 C.1 C.2.1 dJ8_append_3_33 rfl (va_rf_cat _) ?_
      refine lv_iconst C.1 C.2.1 (v := 1) dJ8_append_3_34 rfl ?_
      refine lv_iadd C.1 C.2.1 dJ8_append_3_35 ?_
      refine r_put C hS fo_16_3 (fl_d C q377) (fun _ h => h) rfl rfl dJ8_append_3_36 hw (fun z9 H locs hw hS => ?_)
      refine lv_iload_n C.1 C.2.1 dJ8_append_3_39 rfl (lv_at hl 1 rfl) ?_
      refine lv_i2b C.1 C.2.1 dJ8_append_3_40 rfl ?_
      refine r_bast C hS dJ8_append_3_41 hw (fun z10 H locs hw hS => ?_)
      refine lv_goto C.1 C.2.1 dJ8_append_3_42 rfl ?_
      exact kJ8_append_3b75 C hr hin hT hmc  hw H locs ls hS (lv_sub hl [0] rfl)
end
theorem kJ8_append_3 {l : Launch} (hl : l.stackTraces = false) {G : gE} {P : Option Nat → hSt → Prop} {PX : Nat → Nat → hSt → Prop} {v0 : Option Nat} {v1 : Int32} {z : hSt} : cM l G yJ8_append_3 (ws_ yJ8_append_3 cJ8_append_3 2 (Option.some (Jvm.ClassFile.FieldType.object "java/lang/AbstractStringBuilder"))) 13 230 z [va_rf v0, .int v1] (wJ8_append_3 G P PX v0 v1 z) (pR P) PX := by
  refine m_of hl (plainFor_of_name (by decide)) (by rw [lg_sl1 (va_rf_cat _), lg_sl1 rfl]; exact Nat.le_of_ble_eq_true rfl) ?_
  intro p e s m args below meth c C hr hin hT hmc hw
  rw [lv_args1 (va_rf_cat _), lv_args1 rfl]
  intro H locs ls hS hl
  exact kJ8_append_3b0 C hr hin hT hmc hw H locs ls hS (lv_sub hl [0, 1] rfl)
theorem hdJ8_append_3 : yJ8_append_3.cls ≠ "java/lang/invoke/MethodHandle" ∧ yJ8_append_3.cls ≠ "java/lang/invoke/VarHandle" ∧ (parseMethodDescriptor yJ8_append_3.desc).map (fun d => d.parameters.length) = some 1 := ⟨by decide +kernel, by decide +kernel, by decide +kernel⟩
abbrev rmJ9_append_3 (mc ms : Nat) : Room := { frames := 14, cells := mc, slots := ms, locals := 251 }
def wJ9_append_3b0 (G : gE) (P : Option Nat → hSt → Prop) (PX : Nat → Nat → hSt → Prop)  (v0 : Option Nat) (v1 : Int32) (z : hSt) : Prop :=
  (rcv z v0 16 ∧ wJ8_append_3 G (fun x2 z1 => P v0 z1) PX v0 v1 z)
def wJ9_append_3 (G : gE) (P : Option Nat → hSt → Prop) (PX : Nat → Nat → hSt → Prop) (v0 : Option Nat) (v1 : Int32) (z : hSt) : Prop := wJ9_append_3b0 G P PX v0 v1 z
section
variable {p : Program} {l : Launch} {e : Env} {s : State} {m : MethodId} {args : Array Value} {below : List Frame} {meth : Method} {c : Code} {G : gE} {mc ms : Nat} {P : Option Nat → hSt → Prop} {PX : Nat → Nat → hSt → Prop}
theorem kJ9_append_3b0 (C : xC G p l s m args meth c cJ9_append_3 2 "java/lang/StringBuilder") (hr : meth.sig.returnType = (Option.some (Jvm.ClassFile.FieldType.object "java/lang/StringBuilder"))) (hin : meth.name = "append") (hT : ∀ x ∈ c.exceptionTable.toList, False) (hmc : mc = gL G - s.heap.size ∧ ms = gU G - hsum s.heap)   {v0 : Option Nat} {v1 : Int32} {z : hSt} (hw : wJ9_append_3b0 G P PX  v0 v1 z) : kt G p l e (rmJ9_append_3 mc ms) s m args below meth c 2 (vx_MQ below (cQ G (pR P)) (cX G PX) args s mc ms (gF G)) 0 [(0, va_rf v0), (1, .int v1)] [] z := by
  intro H locs ls hS hl
  refine r_aload_n C.1 C.2.1 dJ9_append_3_0 rfl (lv_at hl 0 rfl) ?_
  refine lv_iload_n C.1 C.2.1 dJ9_append_3_1 rfl (lv_at hl 1 rfl) ?_
  refine c_SU C hS hmc hl.1 (ci := 16) rfl hw.1 (kJ8_append_3 C.2.2.2.2.2.2.1) hw.2 (lw_SU q2718 q3545 q386 q2719 q79 q2720) ⟨by decide, hdJ8_append_3.2.2⟩ ⟨Nat.le_of_ble_eq_true rfl, Nat.le_of_ble_eq_true rfl⟩ (rest := []) rfl rfl (Nat.le_of_ble_eq_true rfl) dJ9_append_3_2 (fun ci q z H locs hx hS ht => r_out C hS hmc (fun x hx => (hT x hx).elim) ht hx) (fun v z1 H locs hv hS => ?_)
  obtain ⟨x2, rfl, hw⟩ := hv
  refine lv_pop C.1 C.2.1 dJ9_append_3_5 (va_rf_cat _) ?_
  refine r_aload_n C.1 C.2.1 dJ9_append_3_6 rfl (lv_at hl 0 rfl) ?_
  exact r_aret C hS hmc hr (Or.inl ⟨_, rfl⟩) dJ9_append_3_7 hw
end
theorem kJ9_append_3 {l : Launch} (hl : l.stackTraces = false) {G : gE} {P : Option Nat → hSt → Prop} {PX : Nat → Nat → hSt → Prop} {v0 : Option Nat} {v1 : Int32} {z : hSt} : cM l G yJ9_append_3 (ws_ yJ9_append_3 cJ9_append_3 2 (Option.some (Jvm.ClassFile.FieldType.object "java/lang/StringBuilder"))) 14 251 z [va_rf v0, .int v1] (wJ9_append_3 G P PX v0 v1 z) (pR P) PX := by
  refine m_of hl (plainFor_of_name (by decide)) (by rw [lg_sl1 (va_rf_cat _), lg_sl1 rfl]; exact Nat.le_of_ble_eq_true rfl) ?_
  intro p e s m args below meth c C hr hin hT hmc hw
  rw [lv_args1 (va_rf_cat _), lv_args1 rfl]
  intro H locs ls hS hl
  exact kJ9_append_3b0 C hr hin hT hmc hw H locs ls hS (lv_sub hl [0, 1] rfl)
theorem hdJ9_append_3 : yJ9_append_3.cls ≠ "java/lang/invoke/MethodHandle" ∧ yJ9_append_3.cls ≠ "java/lang/invoke/VarHandle" ∧ (parseMethodDescriptor yJ9_append_3.desc).map (fun d => d.parameters.length) = some 1 := ⟨by decide +kernel, by decide +kernel, by decide +kernel⟩
abbrev rmJ10_checkIndex (mc ms : Nat) : Room := { frames := 11, cells := mc, slots := ms, locals := 182 }
def wJ10_checkIndexb0 (G : gE) (P : hSt → Prop) (PX : Nat → Nat → hSt → Prop)  (v0 : Int32) (v1 : Int32) (z : hSt) : Prop :=
  (∀ x1 : Option Nat, wJ36_checkIndex G (fun x3 z2 => P z2) PX v0 v1 x1 z)
def wJ10_checkIndex (G : gE) (P : hSt → Prop) (PX : Nat → Nat → hSt → Prop) (v0 : Int32) (v1 : Int32) (z : hSt) : Prop := wJ10_checkIndexb0 G P PX v0 v1 z
section
variable {p : Program} {l : Launch} {e : Env} {s : State} {m : MethodId} {args : Array Value} {below : List Frame} {meth : Method} {c : Code} {G : gE} {mc ms : Nat} {P : hSt → Prop} {PX : Nat → Nat → hSt → Prop}
theorem kJ10_checkIndexb0 (C : xC G p l s m args meth c cJ10_checkIndex 2 "java/lang/String") (hr : meth.sig.returnType = (Option.none : Option Jvm.ClassFile.FieldType)) (hin : meth.name = "checkIndex") (hT : ∀ x ∈ c.exceptionTable.toList, False) (hmc : mc = gL G - s.heap.size ∧ ms = gU G - hsum s.heap)   {v0 : Int32} {v1 : Int32} {z : hSt} (hw : wJ10_checkIndexb0 G P PX  v0 v1 z) : kt G p l e (rmJ10_checkIndex mc ms) s m args below meth c 2 (vx_MQ below (cQ G (pV P)) (cX G PX) args s mc ms (gF G)) 0 [(0, .int v0), (1, .int v1)] [] z := by
  intro H locs ls hS hl
  refine lv_iload_n C.1 C.2.1 dJ10_checkIndex_0 rfl (lv_at hl 0 rfl) ?_
  refine lv_iload_n C.1 C.2.1 dJ10_checkIndex_1 rfl (lv_at hl 1 rfl) ?_
  refine r_getsQ C hS C.2.2.2.2.2.2.2.2.2.2.2 q1069 dJ10_checkIndex_2 (fun x1 => ?_)
  have hw := hw x1
  refine c_S C hS hmc hl.1 (kJ36_checkIndex C.2.2.2.2.2.2.1) hw (lw_S q2706 q2248 q112 q2249) hdJ36_checkIndex ⟨Nat.le_of_ble_eq_true rfl, Nat.le_of_ble_eq_true rfl⟩ (rest := []) rfl rfl (Nat.le_of_ble_eq_true rfl) dJ10_checkIndex_5 (fun ci q z H locs hx hS ht => r_out C hS hmc (fun x hx => (hT x hx).elim) ht hx) (fun v z2 H locs hv hS => ?_)
  obtain ⟨x3, rfl, hw⟩ := hv
  refine lv_pop C.1 C.2.1 dJ10_checkIndex_8 rfl ?_
  exact r_vret C hS hmc hr dJ10_checkIndex_9 hw
end
theorem kJ10_checkIndex {l : Launch} (hl : l.stackTraces = false) {G : gE} {P : hSt → Prop} {PX : Nat → Nat → hSt → Prop} {v0 : Int32} {v1 : Int32} {z : hSt} : cM l G yJ10_checkIndex (ws_ yJ10_checkIndex cJ10_checkIndex 2 (Option.none : Option Jvm.ClassFile.FieldType)) 11 182 z [.int v0, .int v1] (wJ10_checkIndex G P PX v0 v1 z) (pV P) PX := by
  refine m_of hl (plainFor_of_name (by decide)) (by rw [lg_sl1 rfl, lg_sl1 rfl]; exact Nat.le_of_ble_eq_true rfl) ?_
  intro p e s m args below meth c C hr hin hT hmc hw
  rw [lv_args1 rfl, lv_args1 rfl]
  intro H locs ls hS hl
  exact kJ10_checkIndexb0 C hr hin hT hmc hw H locs ls hS (lv_sub hl [0, 1] rfl)
theorem hdJ10_checkIndex : yJ10_checkIndex.cls ≠ "java/lang/invoke/MethodHandle" ∧ yJ10_checkIndex.cls ≠ "java/lang/invoke/VarHandle" ∧ (parseMethodDescriptor yJ10_checkIndex.desc).map (fun d => d.parameters.length) = some 2 := ⟨by decide +kernel, by decide +kernel, by decide +kernel⟩
abbrev rmJ32_charAt (mc ms : Nat) : Room := { frames := 12, cells := mc, slots := ms, locals := 203 }
def wJ32_charAtb0 (G : gE) (P : Int32 → hSt → Prop) (PX : Nat → Nat → hSt → Prop)  (v0 : Option Nat) (v1 : Int32) (z : hSt) : Prop :=
  aln z v0 (fun x1 => wJ10_checkIndex G (fun z2 => alI z2 v0 2 v1 (fun x3 => (okN .char (((x3 &&& 255 : Int32).toUInt32 % 65536).toInt32) ∧ P (((x3 &&& 255 : Int32).toUInt32 % 65536).toInt32) z2))) PX v1 x1 z)
def wJ32_charAt (G : gE) (P : Int32 → hSt → Prop) (PX : Nat → Nat → hSt → Prop) (v0 : Option Nat) (v1 : Int32) (z : hSt) : Prop := wJ32_charAtb0 G P PX v0 v1 z
section
variable {p : Program} {l : Launch} {e : Env} {s : State} {m : MethodId} {args : Array Value} {below : List Frame} {meth : Method} {c : Code} {G : gE} {mc ms : Nat} {P : Int32 → hSt → Prop} {PX : Nat → Nat → hSt → Prop}
theorem kJ32_charAtb0 (C : xC G p l s m args meth c cJ32_charAt 2 "java/lang/StringLatin1") (hr : meth.sig.returnType = (Option.some Jvm.ClassFile.FieldType.char)) (hin : meth.name = "charAt") (hT : ∀ x ∈ c.exceptionTable.toList, False) (hmc : mc = gL G - s.heap.size ∧ ms = gU G - hsum s.heap)   {v0 : Option Nat} {v1 : Int32} {z : hSt} (hw : wJ32_charAtb0 G P PX  v0 v1 z) : kt G p l e (rmJ32_charAt mc ms) s m args below meth c 2 (vx_MQ below (cQ G (pI P)) (cX G PX) args s mc ms (gF G)) 0 [(0, va_rf v0), (1, .int v1)] [] z := by
  intro H locs ls hS hl
  refine lv_iload_n C.1 C.2.1 dJ32_charAt_0 rfl (lv_at hl 1 rfl) ?_
  refine r_aload_n C.1 C.2.1 dJ32_charAt_1 rfl (lv_at hl 0 rfl) ?_
  refine r_alen C hS dJ32_charAt_2 hw (fun x1 hw => ?_)
  refine c_S C hS hmc hl.1 (kJ10_checkIndex C.2.2.2.2.2.2.1) hw (lw_S q2703 q2704 q81 q2705) hdJ10_checkIndex ⟨Nat.le_of_ble_eq_true rfl, Nat.le_of_ble_eq_true rfl⟩ (rest := []) rfl rfl (Nat.le_of_ble_eq_true rfl) dJ32_charAt_3 (fun ci q z H locs hx hS ht => r_out C hS hmc (fun x hx => (hT x hx).elim) ht hx) (fun v z2 H locs hv hS => ?_)
  obtain ⟨rfl, hw⟩ := hv
  refine r_aload_n C.1 C.2.1 dJ32_charAt_6 rfl (lv_at hl 0 rfl) ?_
  refine lv_iload_n C.1 C.2.1 dJ32_charAt_7 rfl (lv_at hl 1 rfl) ?_
  refine r_bald C hS dJ32_charAt_8 hw (fun x3 hw => ?_)
  refine lv_sipush C.1 C.2.1 (v := 255) dJ32_charAt_9 rfl ?_
  refine lv_iand C.1 C.2.1 dJ32_charAt_12 ?_
  refine lv_i2c C.1 C.2.1 dJ32_charAt_13 rfl ?_
  exact r_zret C hS hmc hr dJ32_charAt_14 hw
end
theorem kJ32_charAt {l : Launch} (hl : l.stackTraces = false) {G : gE} {P : Int32 → hSt → Prop} {PX : Nat → Nat → hSt → Prop} {v0 : Option Nat} {v1 : Int32} {z : hSt} : cM l G yJ32_charAt (ws_ yJ32_charAt cJ32_charAt 2 (Option.some Jvm.ClassFile.FieldType.char)) 12 203 z [va_rf v0, .int v1] (wJ32_charAt G P PX v0 v1 z) (pI P) PX := by
  refine m_of hl (plainFor_of_name (by decide)) (by rw [lg_sl1 (va_rf_cat _), lg_sl1 rfl]; exact Nat.le_of_ble_eq_true rfl) ?_
  intro p e s m args below meth c C hr hin hT hmc hw
  rw [lv_args1 (va_rf_cat _), lv_args1 rfl]
  intro H locs ls hS hl
  exact kJ32_charAtb0 C hr hin hT hmc hw H locs ls hS (lv_sub hl [0, 1] rfl)
theorem hdJ32_charAt : yJ32_charAt.cls ≠ "java/lang/invoke/MethodHandle" ∧ yJ32_charAt.cls ≠ "java/lang/invoke/VarHandle" ∧ (parseMethodDescriptor yJ32_charAt.desc).map (fun d => d.parameters.length) = some 2 := ⟨by decide +kernel, by decide +kernel, by decide +kernel⟩
abbrev rmJ10_charAt (mc ms : Nat) : Room := { frames := 13, cells := mc, slots := ms, locals := 224 }
def wJ10_charAtb0 (G : gE) (P : Int32 → hSt → Prop) (PX : Nat → Nat → hSt → Prop)  (v0 : Option Nat) (v1 : Int32) (z : hSt) : Prop :=
  (rcv z v0 17 ∧ wJ10_isLatin1 G (fun x2 z1 => ((x2 = 0 → gtR z1 v0 [17] 0 (fun x3 => False)) ∧ (¬ x2 = 0 → gtR z1 v0 [17] 0 (fun x4 => wJ32_charAt G (fun x6 z5 => (okN .char x6 ∧ P x6 z5)) PX x4 v1 z1)))) PX v0  z)
def wJ10_charAt (G : gE) (P : Int32 → hSt → Prop) (PX : Nat → Nat → hSt → Prop) (v0 : Option Nat) (v1 : Int32) (z : hSt) : Prop := wJ10_charAtb0 G P PX v0 v1 z
section
variable {p : Program} {l : Launch} {e : Env} {s : State} {m : MethodId} {args : Array Value} {below : List Frame} {meth : Method} {c : Code} {G : gE} {mc ms : Nat} {P : Int32 → hSt → Prop} {PX : Nat → Nat → hSt → Prop}
theorem kJ10_charAtb0 (C : xC G p l s m args meth c cJ10_charAt 2 "java/lang/String") (hr : meth.sig.returnType = (Option.some Jvm.ClassFile.FieldType.char)) (hin : meth.name = "charAt") (hT : ∀ x ∈ c.exceptionTable.toList, False) (hmc : mc = gL G - s.heap.size ∧ ms = gU G - hsum s.heap)   {v0 : Option Nat} {v1 : Int32} {z : hSt} (hw : wJ10_charAtb0 G P PX  v0 v1 z) : kt G p l e (rmJ10_charAt mc ms) s m args below meth c 2 (vx_MQ below (cQ G (pI P)) (cX G PX) args s mc ms (gF G)) 0 [(0, va_rf v0), (1, .int v1)] [] z := by
  intro H locs ls hS hl
  refine r_aload_n C.1 C.2.1 dJ10_charAt_0 rfl (lv_at hl 0 rfl) ?_
  refine c_V C hS hmc hl.1 (ci := 17) rfl hw.1 (kJ10_isLatin1 C.2.2.2.2.2.2.1) hw.2 (lw_V q940 q941 q942 q81 q943) ⟨rfl, hdJ10_isLatin1⟩ ⟨Nat.le_of_ble_eq_true rfl, Nat.le_of_ble_eq_true rfl⟩ (rest := []) rfl rfl (Nat.le_of_ble_eq_true rfl) dJ10_charAt_1 (fun ci q z H locs hx hS ht => r_out C hS hmc (fun x hx => (hT x hx).elim) ht hx) (fun v z1 H locs hv hS => ?_)
  obtain ⟨x2, rfl, hw⟩ := hv
  refine lv_if_eq C.1 C.2.1 dJ10_charAt_4 rfl (fun h => ?_) (fun h => ?_)
  · have hw := hw.1 h
    refine r_aload_n C.1 C.2.1 dJ10_charAt_16 rfl (lv_at hl 0 rfl) ?_
    refine r_getR C hS fo_17_0 (fl_d C q1212) (fun _ h => h) dJ10_charAt_17 hw (fun x3 hw => ?_)
    refine lv_iload_n C.1 C.2.1 dJ10_charAt_20 rfl (lv_at hl 1 rfl) ?_
    exact hw.elim
  · have hw := hw.2 h
    refine r_aload_n C.1 C.2.1 dJ10_charAt_7 rfl (lv_at hl 0 rfl) ?_
    refine r_getR C hS fo_17_0 (fl_d C q1212) (fun _ h => h) dJ10_charAt_8 hw (fun x4 hw => ?_)
    refine lv_iload_n C.1 C.2.1 dJ10_charAt_11 rfl (lv_at hl 1 rfl) ?_
    refine c_S C hS hmc hl.1 (kJ32_charAt C.2.2.2.2.2.2.1) hw (lw_S q2700 q2701 q107 q2702) hdJ32_charAt ⟨Nat.le_of_ble_eq_true rfl, Nat.le_of_ble_eq_true rfl⟩ (rest := []) rfl rfl (Nat.le_of_ble_eq_true rfl) dJ10_charAt_12 (fun ci q z H locs hx hS ht => r_out C hS hmc (fun x hx => (hT x hx).elim) ht hx) (fun v z5 H locs hv hS => ?_)
    obtain ⟨x6, rfl, hw⟩ := hv
    exact r_zret C hS hmc hr dJ10_charAt_15 hw
end
theorem kJ10_charAt {l : Launch} (hl : l.stackTraces = false) {G : gE} {P : Int32 → hSt → Prop} {PX : Nat → Nat → hSt → Prop} {v0 : Option Nat} {v1 : Int32} {z : hSt} : cM l G yJ10_charAt (ws_ yJ10_charAt cJ10_charAt 2 (Option.some Jvm.ClassFile.FieldType.char)) 13 224 z [va_rf v0, .int v1] (wJ10_charAt G P PX v0 v1 z) (pI P) PX := by
  refine m_of hl (plainFor_of_name (by decide)) (by rw [lg_sl1 (va_rf_cat _), lg_sl1 rfl]; exact Nat.le_of_ble_eq_true rfl) ?_
  intro p e s m args below meth c C hr hin hT hmc hw
  rw [lv_args1 (va_rf_cat _), lv_args1 rfl]
  intro H locs ls hS hl
  exact kJ10_charAtb0 C hr hin hT hmc hw H locs ls hS (lv_sub hl [0, 1] rfl)
theorem hdJ10_charAt : yJ10_charAt.cls ≠ "java/lang/invoke/MethodHandle" ∧ yJ10_charAt.cls ≠ "java/lang/invoke/VarHandle" ∧ (parseMethodDescriptor yJ10_charAt.desc).map (fun d => d.parameters.length) = some 1 := ⟨by decide +kernel, by decide +kernel, by decide +kernel⟩
abbrev rmJ32_indexOfChar (mc ms : Nat) : Room := { frames := 10, cells := mc, slots := ms, locals := 160 }
def wJ32_indexOfCharb7 (G : gE) (P : Int32 → hSt → Prop) (PX : Nat → Nat → hSt → Prop) (K7 : (Option Nat × Int32 × Int32 × Int32 × hSt) → Prop) (v0 : Option Nat) (v3 : Int32) (v4 : Int32) (v5 : Int32) (z : hSt) : Prop :=
  ((v3 ≤ v5 → P (-1) z) ∧ (¬ v3 ≤ v5 → alI z v0 2 v5 (fun x1 => ((¬ x1 = v4 → K7 (v0, v3, v4, v5 + 1, z)) ∧ (x1 = v4 → P v5 z)))))
def wJ32_indexOfCharb0 (G : gE) (P : Int32 → hSt → Prop) (PX : Nat → Nat → hSt → Prop)  (v0 : Option Nat) (v1 : Int32) (v2 : Int32) (v3 : Int32) (z : hSt) : Prop :=
  lpI (fun (K7 : (Option Nat × Int32 × Int32 × Int32 × hSt) → Prop) (y : (Option Nat × Int32 × Int32 × Int32 × hSt)) => wJ32_indexOfCharb7 G P PX  K7 (y.1) (y.2.1) (y.2.2.1) (y.2.2.2.1) (y.2.2.2.2)) (v0, v3, (v1 : Int32).toInt8.toInt32, v2, z)
def wJ32_indexOfChar (G : gE) (P : Int32 → hSt → Prop) (PX : Nat → Nat → hSt → Prop) (v0 : Option Nat) (v1 : Int32) (v2 : Int32) (v3 : Int32) (z : hSt) : Prop := wJ32_indexOfCharb0 G P PX v0 v1 v2 v3 z
section
variable {p : Program} {l : Launch} {e : Env} {s : State} {m : MethodId} {args : Array Value} {below : List Frame} {meth : Method} {c : Code} {G : gE} {mc ms : Nat} {P : Int32 → hSt → Prop} {PX : Nat → Nat → hSt → Prop}
theorem kJ32_indexOfCharb7 (C : xC G p l s m args meth c cJ32_indexOfChar 6 "java/lang/StringLatin1") (hr : meth.sig.returnType = (Option.some Jvm.ClassFile.FieldType.int)) (hin : meth.name = "indexOfChar") (hT : ∀ x ∈ c.exceptionTable.toList, False) (hmc : mc = gL G - s.heap.size ∧ ms = gU G - hsum s.heap) {K7 : (Option Nat × Int32 × Int32 × Int32 × hSt) → Prop} (hK7 : ∀ y : (Option Nat × Int32 × Int32 × Int32 × hSt), K7 y → kt G p l e (rmJ32_indexOfChar mc ms) s m args below meth c 6 (vx_MQ below (cQ G (pI P)) (cX G PX) args s mc ms (gF G)) 7 [(0, va_rf (y.1)), (3, .int (y.2.1)), (4, .int (y.2.2.1)), (5, .int (y.2.2.2.1))] [] (y.2.2.2.2)) {v0 : Option Nat} {v3 : Int32} {v4 : Int32} {v5 : Int32} {z : hSt} (hw : wJ32_indexOfCharb7 G P PX K7 v0 v3 v4 v5 z) : kt G p l e (rmJ32_indexOfChar mc ms) s m args below meth c 6 (vx_MQ below (cQ G (pI P)) (cX G PX) args s mc ms (gF G)) 7 [(0, va_rf v0), (3, .int v3), (4, .int v4), (5, .int v5)] [] z := by
  intro H locs ls hS hl
  refine lv_iload C.1 C.2.1 dJ32_indexOfChar_7 (lv_at hl 3 rfl) ?_
  refine lv_iload_n C.1 C.2.1 dJ32_indexOfChar_9 rfl (lv_at hl 1 rfl) ?_
  refine lv_icmp_ge C.1 C.2.1 dJ32_indexOfChar_10 rfl (fun h => ?_) (fun h => ?_)
  · have hw := hw.1 h
    refine lv_iconst C.1 C.2.1 (v := (-1)) dJ32_indexOfChar_31 rfl ?_
    exact r_iret C hS hmc hr dJ32_indexOfChar_32 hw
  · have hw := hw.2 h
    refine r_aload_n C.1 C.2.1 dJ32_indexOfChar_13 rfl (lv_at hl 0 rfl) ?_
    refine lv_iload C.1 C.2.1 dJ32_indexOfChar_14 (lv_at hl 3 rfl) ?_
    refine r_bald C hS dJ32_indexOfChar_16 hw (fun x1 hw => ?_)
    refine lv_iload C.1 C.2.1 dJ32_indexOfChar_17 (lv_at hl 2 rfl) ?_
    refine lv_icmp_ne C.1 C.2.1 dJ32_indexOfChar_19 rfl (fun h => ?_) (fun h => ?_)
    · have hw := hw.1 h
      refine r_iinc C.1 C.2.1 dJ32_indexOfChar_25 hl (k := 3) rfl (v := 1) rfl (Nat.le_of_ble_eq_true rfl) (ls_new (ls_old 0 rfl rfl (.inl rfl) (ls_old 1 rfl rfl (.inl rfl) (ls_old 2 rfl rfl (.inr rfl) ls_nil)))) (fun ls hl => ?_)
      refine lv_goto C.1 C.2.1 dJ32_indexOfChar_28 rfl ?_
      exact hK7 _ hw H locs ls hS (lv_sub hl [1, 2, 3, 0] rfl)
    · have hw := hw.2 h
      refine lv_iload C.1 C.2.1 dJ32_indexOfChar_22 (lv_at hl 3 rfl) ?_
      exact r_iret C hS hmc hr dJ32_indexOfChar_24 hw
theorem kJ32_indexOfCharb0 (C : xC G p l s m args meth c cJ32_indexOfChar 6 "java/lang/StringLatin1") (hr : meth.sig.returnType = (Option.some Jvm.ClassFile.FieldType.int)) (hin : meth.name = "indexOfChar") (hT : ∀ x ∈ c.exceptionTable.toList, False) (hmc : mc = gL G - s.heap.size ∧ ms = gU G - hsum s.heap)   {v0 : Option Nat} {v1 : Int32} {v2 : Int32} {v3 : Int32} {z : hSt} (hw : wJ32_indexOfCharb0 G P PX  v0 v1 v2 v3 z) : kt G p l e (rmJ32_indexOfChar mc ms) s m args below meth c 6 (vx_MQ below (cQ G (pI P)) (cX G PX) args s mc ms (gF G)) 0 [(0, va_rf v0), (1, .int v1), (2, .int v2), (3, .int v3)] [] z := by
  intro H locs ls hS hl
  refine lv_iload_n C.1 C.2.1 dJ32_indexOfChar_0 rfl (lv_at hl 1 rfl) ?_
  refine lv_i2b C.1 C.2.1 dJ32_indexOfChar_1 rfl ?_
  refine r_istore C.1 C.2.1 dJ32_indexOfChar_2 hl (Nat.le_of_ble_eq_true rfl) (ls_new (ls_old 0 rfl rfl (.inl rfl) (ls_old 2 rfl rfl (.inl rfl) (ls_old 3 rfl rfl (.inr rfl) ls_nil)))) (fun ls hl => ?_)
  refine lv_iload_n C.1 C.2.1 dJ32_indexOfChar_4 rfl (lv_at hl 2 rfl) ?_
  refine r_istore C.1 C.2.1 dJ32_indexOfChar_5 hl (Nat.le_of_ble_eq_true rfl) (ls_new (ls_old 0 rfl rfl (.inr rfl) (ls_old 1 rfl rfl (.inl rfl) (ls_old 3 rfl rfl (.inl rfl) ls_nil)))) (fun ls hl => ?_)
  exact lpI_sound (Wt := fun (y : (Option Nat × Int32 × Int32 × Int32 × hSt)) => kt G p l e (rmJ32_indexOfChar mc ms) s m args below meth c 6 (vx_MQ below (cQ G (pI P)) (cX G PX) args s mc ms (gF G)) 7 [(0, va_rf (y.1)), (3, .int (y.2.1)), (4, .int (y.2.2.1)), (5, .int (y.2.2.2.1))] [] (y.2.2.2.2)) (fun K y hK hF => kJ32_indexOfCharb7 C hr hin hT hmc  hK hF) hw H locs ls hS (lv_sub hl [2, 3, 1, 0] rfl)
end
theorem kJ32_indexOfChar {l : Launch} (hl : l.stackTraces = false) {G : gE} {P : Int32 → hSt → Prop} {PX : Nat → Nat → hSt → Prop} {v0 : Option Nat} {v1 : Int32} {v2 : Int32} {v3 : Int32} {z : hSt} : cM l G yJ32_indexOfChar (ws_ yJ32_indexOfChar cJ32_indexOfChar 6 (Option.some Jvm.ClassFile.FieldType.int)) 10 160 z [va_rf v0, .int v1, .int v2, .int v3] (wJ32_indexOfChar G P PX v0 v1 v2 v3 z) (pI P) PX := by
  refine m_of hl (plainFor_of_name (by decide)) (by rw [lg_sl1 (va_rf_cat _), lg_sl1 rfl, lg_sl1 rfl, lg_sl1 rfl]; exact Nat.le_of_ble_eq_true rfl) ?_
  intro p e s m args below meth c C hr hin hT hmc hw
  rw [lv_args1 (va_rf_cat _), lv_args1 rfl, lv_args1 rfl, lv_args1 rfl]
  intro H locs ls hS hl
  exact kJ32_indexOfCharb0 C hr hin hT hmc hw H locs ls hS (lv_sub hl [0, 1, 2, 3] rfl)
theorem hdJ32_indexOfChar : yJ32_indexOfChar.cls ≠ "java/lang/invoke/MethodHandle" ∧ yJ32_indexOfChar.cls ≠ "java/lang/invoke/VarHandle" ∧ (parseMethodDescriptor yJ32_indexOfChar.desc).map (fun d => d.parameters.length) = some 4 := ⟨by decide +kernel, by decide +kernel, by decide +kernel⟩
abbrev rmJ32_canEncode_2 (mc ms : Nat) : Room := { frames := 10, cells := mc, slots := ms, locals := 160 }
def wJ32_canEncode_2b15 (G : gE) (P : Int32 → hSt → Prop) (PX : Nat → Nat → hSt → Prop)   (z : hSt) : Prop :=
  (okN .boolean 0 ∧ P 0 z)
def wJ32_canEncode_2b0 (G : gE) (P : Int32 → hSt → Prop) (PX : Nat → Nat → hSt → Prop)  (v0 : Int32) (z : hSt) : Prop :=
  ((v0 < 0 → wJ32_canEncode_2b15 G P PX   z) ∧ (¬ v0 < 0 → ((255 < v0 → wJ32_canEncode_2b15 G P PX   z) ∧ (¬ 255 < v0 → (okN .boolean 1 ∧ P 1 z)))))
def wJ32_canEncode_2 (G : gE) (P : Int32 → hSt → Prop) (PX : Nat → Nat → hSt → Prop) (v0 : Int32) (z : hSt) : Prop := wJ32_canEncode_2b0 G P PX v0 z
section
variable {p : Program} {l : Launch} {e : Env} {s : State} {m : MethodId} {args : Array Value} {below : List Frame} {meth : Method} {c : Code} {G : gE} {mc ms : Nat} {P : Int32 → hSt → Prop} {PX : Nat → Nat → hSt → Prop}
theorem kJ32_canEncode_2b15 (C : xC G p l s m args meth c cJ32_canEncode_2 1 "java/lang/StringLatin1") (hr : meth.sig.returnType = (Option.some Jvm.ClassFile.FieldType.boolean)) (hin : meth.name = "canEncode") (hT : ∀ x ∈ c.exceptionTable.toList, False) (hmc : mc = gL G - s.heap.size ∧ ms = gU G - hsum s.heap)    {z : hSt} (hw : wJ32_canEncode_2b15 G P PX   z) : kt G p l e (rmJ32_canEncode_2 mc ms) s m args below meth c 1 (vx_MQ below (cQ G (pI P)) (cX G PX) args s mc ms (gF G)) 15 [] [] z := by
  intro H locs ls hS hl
  refine lv_iconst C.1 C.2.1 (v := 0) dJ32_canEncode_2_15 rfl ?_
  exact r_zret C hS hmc hr dJ32_canEncode_2_16 hw
theorem kJ32_canEncode_2b0 (C : xC G p l s m args meth c cJ32_canEncode_2 1 "java/lang/StringLatin1") (hr : meth.sig.returnType = (Option.some Jvm.ClassFile.FieldType.boolean)) (hin : meth.name = "canEncode") (hT : ∀ x ∈ c.exceptionTable.toList, False) (hmc : mc = gL G - s.heap.size ∧ ms = gU G - hsum s.heap)   {v0 : Int32} {z : hSt} (hw : wJ32_canEncode_2b0 G P PX  v0 z) : kt G p l e (rmJ32_canEncode_2 mc ms) s m args below meth c 1 (vx_MQ below (cQ G (pI P)) (cX G PX) args s mc ms (gF G)) 0 [(0, .int v0)] [] z := by
  intro H locs ls hS hl
  refine lv_iload_n C.1 C.2.1 dJ32_canEncode_2_0 rfl (lv_at hl 0 rfl) ?_
  refine lv_if_lt C.1 C.2.1 dJ32_canEncode_2_1 rfl (fun h => ?_) (fun h => ?_)
  · have hw := hw.1 h
    exact kJ32_canEncode_2b15 C hr hin hT hmc  hw H locs ls hS (lv_sub hl [] rfl)
  · have hw := hw.2 h
    refine lv_iload_n C.1 C.2.1 dJ32_canEncode_2_4 rfl (lv_at hl 0 rfl) ?_
    refine lv_sipush C.1 C.2.1 (v := 255) dJ32_canEncode_2_5 rfl ?_
    refine lv_icmp_gt C.1 C.2.1 dJ32_canEncode_2_8 rfl (fun h => ?_) (fun h => ?_)
    · have hw := hw.1 h
      exact kJ32_canEncode_2b15 C hr hin hT hmc  hw H locs ls hS (lv_sub hl [] rfl)
    · have hw := hw.2 h
      refine lv_iconst C.1 C.2.1 (v := 1) dJ32_canEncode_2_11 rfl ?_
      refine lv_goto C.1 C.2.1 dJ32_canEncode_2_12 rfl ?_
      exact r_zret C hS hmc hr dJ32_canEncode_2_16 hw
end
theorem kJ32_canEncode_2 {l : Launch} (hl : l.stackTraces = false) {G : gE} {P : Int32 → hSt → Prop} {PX : Nat → Nat → hSt → Prop} {v0 : Int32} {z : hSt} : cM l G yJ32_canEncode_2 (ws_ yJ32_canEncode_2 cJ32_canEncode_2 1 (Option.some Jvm.ClassFile.FieldType.boolean)) 10 160 z [.int v0] (wJ32_canEncode_2 G P PX v0 z) (pI P) PX := by
  refine m_of hl (plainFor_of_name (by decide)) (by rw [lg_sl1 rfl]; exact Nat.le_of_ble_eq_true rfl) ?_
  intro p e s m args below meth c C hr hin hT hmc hw
  rw [lv_args1 rfl]
  intro H locs ls hS hl
  exact kJ32_canEncode_2b0 C hr hin hT hmc hw H locs ls hS (lv_sub hl [0] rfl)
theorem hdJ32_canEncode_2 : yJ32_canEncode_2.cls ≠ "java/lang/invoke/MethodHandle" ∧ yJ32_canEncode_2.cls ≠ "java/lang/invoke/VarHandle" ∧ (parseMethodDescriptor yJ32_canEncode_2.desc).map (fun d => d.parameters.length) = some 1 := ⟨by decide +kernel, by decide +kernel, by decide +kernel⟩
abbrev rmJ32_indexOf (mc ms : Nat) : Room := { frames := 11, cells := mc, slots := ms, locals := 185 }
def wJ32_indexOfb0 (G : gE) (P : Int32 → hSt → Prop) (PX : Nat → Nat → hSt → Prop)  (v0 : Option Nat) (v1 : Int32) (v2 : Int32) (v3 : Int32) (z : hSt) : Prop :=
  wJ32_canEncode_2 G (fun x2 z1 => ((¬ x2 = 0 → aln z1 v0 (fun x3 => (((if v2 < 0 then 0 else v2) < (if x3 < v3 then x3 else v3) → wJ32_indexOfChar G (fun x5 z4 => P x5 z4) PX v0 v1 (if v2 < 0 then 0 else v2) (if x3 < v3 then x3 else v3) z1) ∧ (¬ (if v2 < 0 then 0 else v2) < (if x3 < v3 then x3 else v3) → P (-1) z1)))) ∧ (x2 = 0 → P (-1) z1))) PX v1 z
def wJ32_indexOf (G : gE) (P : Int32 → hSt → Prop) (PX : Nat → Nat → hSt → Prop) (v0 : Option Nat) (v1 : Int32) (v2 : Int32) (v3 : Int32) (z : hSt) : Prop := wJ32_indexOfb0 G P PX v0 v1 v2 v3 z
section
variable {p : Program} {l : Launch} {e : Env} {s : State} {m : MethodId} {args : Array Value} {below : List Frame} {meth : Method} {c : Code} {G : gE} {mc ms : Nat} {P : Int32 → hSt → Prop} {PX : Nat → Nat → hSt → Prop}
theorem kJ32_indexOfb0 (C : xC G p l s m args meth c cJ32_indexOf 4 "java/lang/StringLatin1") (hr : meth.sig.returnType = (Option.some Jvm.ClassFile.FieldType.int)) (hin : meth.name = "indexOf") (hT : ∀ x ∈ c.exceptionTable.toList, False) (hmc : mc = gL G - s.heap.size ∧ ms = gU G - hsum s.heap)   {v0 : Option Nat} {v1 : Int32} {v2 : Int32} {v3 : Int32} {z : hSt} (hw : wJ32_indexOfb0 G P PX  v0 v1 v2 v3 z) : kt G p l e (rmJ32_indexOf mc ms) s m args below meth c 4 (vx_MQ below (cQ G (pI P)) (cX G PX) args s mc ms (gF G)) 0 [(0, va_rf v0), (1, .int v1), (2, .int v2), (3, .int v3)] [] z := by
  intro H locs ls hS hl
  refine lv_iload_n C.1 C.2.1 dJ32_indexOf_0 rfl (lv_at hl 1 rfl) ?_
  refine c_S C hS hmc hl.1 (kJ32_canEncode_2 C.2.2.2.2.2.2.1) hw (lw_S q2983 q2984 q107 q2985) hdJ32_canEncode_2 ⟨Nat.le_of_ble_eq_true rfl, Nat.le_of_ble_eq_true rfl⟩ (rest := []) rfl rfl (Nat.le_of_ble_eq_true rfl) dJ32_indexOf_1 (fun ci q z H locs hx hS ht => r_out C hS hmc (fun x hx => (hT x hx).elim) ht hx) (fun v z1 H locs hv hS => ?_)
  obtain ⟨x2, rfl, hw⟩ := hv
  refine lv_if_ne C.1 C.2.1 dJ32_indexOf_4 rfl (fun h => ?_) (fun h => ?_)
  · have hw := hw.1 h
    refine lv_iload_n C.1 C.2.1 dJ32_indexOf_9 rfl (lv_at hl 2 rfl) ?_
    refine lv_iconst C.1 C.2.1 (v := 0) dJ32_indexOf_10 rfl ?_
    refine r_mmax C hS hmc hl.1 q2986 q1032 q109 q1033 (Nat.le_of_ble_eq_true rfl) (Nat.le_of_ble_eq_true rfl) (Nat.le_of_ble_eq_true rfl) dJ32_indexOf_11 ?_
    refine r_istore_n C.1 C.2.1 dJ32_indexOf_14 rfl hl (Nat.le_of_ble_eq_true rfl) (ls_new (ls_old 0 rfl rfl (.inl rfl) (ls_old 1 rfl rfl (.inr rfl) (ls_old 3 rfl rfl (.inl rfl) ls_nil)))) (fun ls hl => ?_)
    refine lv_iload_n C.1 C.2.1 dJ32_indexOf_15 rfl (lv_at hl 3 rfl) ?_
    refine r_aload_n C.1 C.2.1 dJ32_indexOf_16 rfl (lv_at hl 1 rfl) ?_
    refine r_alen C hS dJ32_indexOf_17 hw (fun x3 hw => ?_)
    refine r_mmin C hS hmc hl.1 q1428 q1050 q109 q1051 (Nat.le_of_ble_eq_true rfl) (Nat.le_of_ble_eq_true rfl) (Nat.le_of_ble_eq_true rfl) dJ32_indexOf_18 ?_
    refine r_istore_n C.1 C.2.1 dJ32_indexOf_21 rfl hl (Nat.le_of_ble_eq_true rfl) (ls_new (ls_old 0 rfl rfl (.inr rfl) (ls_old 1 rfl rfl (.inl rfl) (ls_old 2 rfl rfl (.inl rfl) ls_nil)))) (fun ls hl => ?_)
    refine lv_iload_n C.1 C.2.1 dJ32_indexOf_22 rfl (lv_at hl 1 rfl) ?_
    refine lv_iload_n C.1 C.2.1 dJ32_indexOf_23 rfl (lv_at hl 0 rfl) ?_
    refine lv_icmp_lt C.1 C.2.1 dJ32_indexOf_24 rfl (fun h => ?_) (fun h => ?_)
    · have hw := hw.1 h
      refine r_aload_n C.1 C.2.1 dJ32_indexOf_29 rfl (lv_at hl 2 rfl) ?_
      refine lv_iload_n C.1 C.2.1 dJ32_indexOf_30 rfl (lv_at hl 3 rfl) ?_
      refine lv_iload_n C.1 C.2.1 dJ32_indexOf_31 rfl (lv_at hl 1 rfl) ?_
      refine lv_iload_n C.1 C.2.1 dJ32_indexOf_32 rfl (lv_at hl 0 rfl) ?_
      refine c_S C hS hmc hl.1 (kJ32_indexOfChar C.2.2.2.2.2.2.1) hw (lw_S q2987 q2988 q107 q2989) hdJ32_indexOfChar ⟨Nat.le_of_ble_eq_true rfl, Nat.le_of_ble_eq_true rfl⟩ (rest := []) rfl rfl (Nat.le_of_ble_eq_true rfl) dJ32_indexOf_33 (fun ci q z H locs hx hS ht => r_out C hS hmc (fun x hx => (hT x hx).elim) ht hx) (fun v z4 H locs hv hS => ?_)
      obtain ⟨x5, rfl, hw⟩ := hv
      exact r_iret C hS hmc hr dJ32_indexOf_36 hw
    · have hw := hw.2 h
      refine lv_iconst C.1 C.2.1 (v := (-1)) dJ32_indexOf_27 rfl ?_
      exact r_iret C hS hmc hr dJ32_indexOf_28 hw
  · have hw := hw.2 h
    refine lv_iconst C.1 C.2.1 (v := (-1)) dJ32_indexOf_7 rfl ?_
    exact r_iret C hS hmc hr dJ32_indexOf_8 hw
end
theorem kJ32_indexOf {l : Launch} (hl : l.stackTraces = false) {G : gE} {P : Int32 → hSt → Prop} {PX : Nat → Nat → hSt → Prop} {v0 : Option Nat} {v1 : Int32} {v2 : Int32} {v3 : Int32} {z : hSt} : cM l G yJ32_indexOf (ws_ yJ32_indexOf cJ32_indexOf 4 (Option.some Jvm.ClassFile.FieldType.int)) 11 185 z [va_rf v0, .int v1, .int v2, .int v3] (wJ32_indexOf G P PX v0 v1 v2 v3 z) (pI P) PX := by
  refine m_of hl (plainFor_of_name (by decide)) (by rw [lg_sl1 (va_rf_cat _), lg_sl1 rfl, lg_sl1 rfl, lg_sl1 rfl]; exact Nat.le_of_ble_eq_true rfl) ?_
  intro p e s m args below meth c C hr hin hT hmc hw
  rw [lv_args1 (va_rf_cat _), lv_args1 rfl, lv_args1 rfl, lv_args1 rfl]
  intro H locs ls hS hl
  exact kJ32_indexOfb0 C hr hin hT hmc hw H locs ls hS (lv_sub hl [0, 1, 2, 3] rfl)
theorem hdJ32_indexOf : yJ32_indexOf.cls ≠ "java/lang/invoke/MethodHandle" ∧ yJ32_indexOf.cls ≠ "java/lang/invoke/VarHandle" ∧ (parseMethodDescriptor yJ32_indexOf.desc).map (fun d => d.parameters.length) = some 4 := ⟨by decide +kernel, by decide +kernel, by decide +kernel⟩
abbrev rmJ10_indexOf_2 (mc ms : Nat) : Room := { frames := 12, cells := mc, slots := ms, locals := 208 }
def wJ10_indexOf_2b0 (G : gE) (P : Int32 → hSt → Prop) (PX : Nat → Nat → hSt → Prop)  (v0 : Option Nat) (v1 : Int32) (v2 : Int32) (z : hSt) : Prop :=
  (rcv z v0 17 ∧ wJ10_isLatin1 G (fun x2 z1 => ((x2 = 0 → gtR z1 v0 [17] 0 (fun x3 => (rcv z1 v0 17 ∧ wJ10_length G (fun x5 z4 => False) PX v0  z1))) ∧ (¬ x2 = 0 → gtR z1 v0 [17] 0 (fun x6 => (rcv z1 v0 17 ∧ wJ10_length G (fun x8 z7 => wJ32_indexOf G (fun x10 z9 => P x10 z9) PX x6 v1 v2 x8 z7) PX v0  z1))))) PX v0  z)
def wJ10_indexOf_2 (G : gE) (P : Int32 → hSt → Prop) (PX : Nat → Nat → hSt → Prop) (v0 : Option Nat) (v1 : Int32) (v2 : Int32) (z : hSt) : Prop := wJ10_indexOf_2b0 G P PX v0 v1 v2 z
section
variable {p : Program} {l : Launch} {e : Env} {s : State} {m : MethodId} {args : Array Value} {below : List Frame} {meth : Method} {c : Code} {G : gE} {mc ms : Nat} {P : Int32 → hSt → Prop} {PX : Nat → Nat → hSt → Prop}
theorem kJ10_indexOf_2b0 (C : xC G p l s m args meth c cJ10_indexOf_2 3 "java/lang/String") (hr : meth.sig.returnType = (Option.some Jvm.ClassFile.FieldType.int)) (hin : meth.name = "indexOf") (hT : ∀ x ∈ c.exceptionTable.toList, False) (hmc : mc = gL G - s.heap.size ∧ ms = gU G - hsum s.heap)   {v0 : Option Nat} {v1 : Int32} {v2 : Int32} {z : hSt} (hw : wJ10_indexOf_2b0 G P PX  v0 v1 v2 z) : kt G p l e (rmJ10_indexOf_2 mc ms) s m args below meth c 3 (vx_MQ below (cQ G (pI P)) (cX G PX) args s mc ms (gF G)) 0 [(0, va_rf v0), (1, .int v1), (2, .int v2)] [] z := by
  intro H locs ls hS hl
  refine r_aload_n C.1 C.2.1 dJ10_indexOf_2_0 rfl (lv_at hl 0 rfl) ?_
  refine c_V C hS hmc hl.1 (ci := 17) rfl hw.1 (kJ10_isLatin1 C.2.2.2.2.2.2.1) hw.2 (lw_V q940 q941 q942 q81 q943) ⟨rfl, hdJ10_isLatin1⟩ ⟨Nat.le_of_ble_eq_true rfl, Nat.le_of_ble_eq_true rfl⟩ (rest := []) rfl rfl (Nat.le_of_ble_eq_true rfl) dJ10_indexOf_2_1 (fun ci q z H locs hx hS ht => r_out C hS hmc (fun x hx => (hT x hx).elim) ht hx) (fun v z1 H locs hv hS => ?_)
  obtain ⟨x2, rfl, hw⟩ := hv
  refine lv_if_eq C.1 C.2.1 dJ10_indexOf_2_4 rfl (fun h => ?_) (fun h => ?_)
  · have hw := hw.1 h
    refine r_aload_n C.1 C.2.1 dJ10_indexOf_2_23 rfl (lv_at hl 0 rfl) ?_
    refine r_getR C hS fo_17_0 (fl_d C q1212) (fun _ h => h) dJ10_indexOf_2_24 hw (fun x3 hw => ?_)
    refine lv_iload_n C.1 C.2.1 dJ10_indexOf_2_27 rfl (lv_at hl 1 rfl) ?_
    refine lv_iload_n C.1 C.2.1 dJ10_indexOf_2_28 rfl (lv_at hl 2 rfl) ?_
    refine r_aload_n C.1 C.2.1 dJ10_indexOf_2_29 rfl (lv_at hl 0 rfl) ?_
    refine c_V C hS hmc hl.1 (ci := 17) rfl hw.1 (kJ10_length C.2.2.2.2.2.2.1) hw.2 (lw_V q2979 q1078 q1079 q81 q1080) ⟨rfl, hdJ10_length⟩ ⟨Nat.le_of_ble_eq_true rfl, Nat.le_of_ble_eq_true rfl⟩ (rest := [.int v2, .int v1, va_rf x3]) rfl rfl (Nat.le_of_ble_eq_true rfl) dJ10_indexOf_2_30 (fun ci q z H locs hx hS ht => r_out C hS hmc (fun x hx => (hT x hx).elim) ht hx) (fun v z4 H locs hv hS => ?_)
    obtain ⟨x5, rfl, hw⟩ := hv
    exact hw.elim
  · have hw := hw.2 h
    refine r_aload_n C.1 C.2.1 dJ10_indexOf_2_7 rfl (lv_at hl 0 rfl) ?_
    refine r_getR C hS fo_17_0 (fl_d C q1212) (fun _ h => h) dJ10_indexOf_2_8 hw (fun x6 hw => ?_)
    refine lv_iload_n C.1 C.2.1 dJ10_indexOf_2_11 rfl (lv_at hl 1 rfl) ?_
    refine lv_iload_n C.1 C.2.1 dJ10_indexOf_2_12 rfl (lv_at hl 2 rfl) ?_
    refine r_aload_n C.1 C.2.1 dJ10_indexOf_2_13 rfl (lv_at hl 0 rfl) ?_
    refine c_V C hS hmc hl.1 (ci := 17) rfl hw.1 (kJ10_length C.2.2.2.2.2.2.1) hw.2 (lw_V q2979 q1078 q1079 q81 q1080) ⟨rfl, hdJ10_length⟩ ⟨Nat.le_of_ble_eq_true rfl, Nat.le_of_ble_eq_true rfl⟩ (rest := [.int v2, .int v1, va_rf x6]) rfl rfl (Nat.le_of_ble_eq_true rfl) dJ10_indexOf_2_14 (fun ci q z H locs hx hS ht => r_out C hS hmc (fun x hx => (hT x hx).elim) ht hx) (fun v z7 H locs hv hS => ?_)
    obtain ⟨x8, rfl, hw⟩ := hv
    refine c_S C hS hmc hl.1 (kJ32_indexOf C.2.2.2.2.2.2.1) hw (lw_S q2980 q2981 q107 q2982) hdJ32_indexOf ⟨Nat.le_of_ble_eq_true rfl, Nat.le_of_ble_eq_true rfl⟩ (rest := []) rfl rfl (Nat.le_of_ble_eq_true rfl) dJ10_indexOf_2_17 (fun ci q z H locs hx hS ht => r_out C hS hmc (fun x hx => (hT x hx).elim) ht hx) (fun v z9 H locs hv hS => ?_)
    obtain ⟨x10, rfl, hw⟩ := hv
    refine lv_goto C.1 C.2.1 dJ10_indexOf_2_20 rfl ?_
    exact r_iret C hS hmc hr dJ10_indexOf_2_36 hw
end
theorem kJ10_indexOf_2 {l : Launch} (hl : l.stackTraces = false) {G : gE} {P : Int32 → hSt → Prop} {PX : Nat → Nat → hSt → Prop} {v0 : Option Nat} {v1 : Int32} {v2 : Int32} {z : hSt} : cM l G yJ10_indexOf_2 (ws_ yJ10_indexOf_2 cJ10_indexOf_2 3 (Option.some Jvm.ClassFile.FieldType.int)) 12 208 z [va_rf v0, .int v1, .int v2] (wJ10_indexOf_2 G P PX v0 v1 v2 z) (pI P) PX := by
  refine m_of hl (plainFor_of_name (by decide)) (by rw [lg_sl1 (va_rf_cat _), lg_sl1 rfl, lg_sl1 rfl]; exact Nat.le_of_ble_eq_true rfl) ?_
  intro p e s m args below meth c C hr hin hT hmc hw
  rw [lv_args1 (va_rf_cat _), lv_args1 rfl, lv_args1 rfl]
  intro H locs ls hS hl
  exact kJ10_indexOf_2b0 C hr hin hT hmc hw H locs ls hS (lv_sub hl [0, 1, 2] rfl)
theorem hdJ10_indexOf_2 : yJ10_indexOf_2.cls ≠ "java/lang/invoke/MethodHandle" ∧ yJ10_indexOf_2.cls ≠ "java/lang/invoke/VarHandle" ∧ (parseMethodDescriptor yJ10_indexOf_2.desc).map (fun d => d.parameters.length) = some 2 := ⟨by decide +kernel, by decide +kernel, by decide +kernel⟩
abbrev rmJ10_indexOf (mc ms : Nat) : Room := { frames := 13, cells := mc, slots := ms, locals := 230 }
def wJ10_indexOfb0 (G : gE) (P : Int32 → hSt → Prop) (PX : Nat → Nat → hSt → Prop)  (v0 : Option Nat) (v1 : Int32) (z : hSt) : Prop :=
  (rcv z v0 17 ∧ wJ10_indexOf_2 G (fun x2 z1 => P x2 z1) PX v0 v1 0 z)
def wJ10_indexOf (G : gE) (P : Int32 → hSt → Prop) (PX : Nat → Nat → hSt → Prop) (v0 : Option Nat) (v1 : Int32) (z : hSt) : Prop := wJ10_indexOfb0 G P PX v0 v1 z
section
variable {p : Program} {l : Launch} {e : Env} {s : State} {m : MethodId} {args : Array Value} {below : List Frame} {meth : Method} {c : Code} {G : gE} {mc ms : Nat} {P : Int32 → hSt → Prop} {PX : Nat → Nat → hSt → Prop}
theorem kJ10_indexOfb0 (C : xC G p l s m args meth c cJ10_indexOf 2 "java/lang/String") (hr : meth.sig.returnType = (Option.some Jvm.ClassFile.FieldType.int)) (hin : meth.name = "indexOf") (hT : ∀ x ∈ c.exceptionTable.toList, False) (hmc : mc = gL G - s.heap.size ∧ ms = gU G - hsum s.heap)   {v0 : Option Nat} {v1 : Int32} {z : hSt} (hw : wJ10_indexOfb0 G P PX  v0 v1 z) : kt G p l e (rmJ10_indexOf mc ms) s m args below meth c 2 (vx_MQ below (cQ G (pI P)) (cX G PX) args s mc ms (gF G)) 0 [(0, va_rf v0), (1, .int v1)] [] z := by
  intro H locs ls hS hl
  refine r_aload_n C.1 C.2.1 dJ10_indexOf_0 rfl (lv_at hl 0 rfl) ?_
  refine lv_iload_n C.1 C.2.1 dJ10_indexOf_1 rfl (lv_at hl 1 rfl) ?_
  refine lv_iconst C.1 C.2.1 (v := 0) dJ10_indexOf_2 rfl ?_
  refine c_V C hS hmc hl.1 (ci := 17) rfl hw.1 (kJ10_indexOf_2 C.2.2.2.2.2.2.1) hw.2 (lw_V q2975 q2976 q2977 q81 q2978) ⟨rfl, hdJ10_indexOf_2⟩ ⟨Nat.le_of_ble_eq_true rfl, Nat.le_of_ble_eq_true rfl⟩ (rest := []) rfl rfl (Nat.le_of_ble_eq_true rfl) dJ10_indexOf_3 (fun ci q z H locs hx hS ht => r_out C hS hmc (fun x hx => (hT x hx).elim) ht hx) (fun v z1 H locs hv hS => ?_)
  obtain ⟨x2, rfl, hw⟩ := hv
  exact r_iret C hS hmc hr dJ10_indexOf_6 hw
end
theorem kJ10_indexOf {l : Launch} (hl : l.stackTraces = false) {G : gE} {P : Int32 → hSt → Prop} {PX : Nat → Nat → hSt → Prop} {v0 : Option Nat} {v1 : Int32} {z : hSt} : cM l G yJ10_indexOf (ws_ yJ10_indexOf cJ10_indexOf 2 (Option.some Jvm.ClassFile.FieldType.int)) 13 230 z [va_rf v0, .int v1] (wJ10_indexOf G P PX v0 v1 z) (pI P) PX := by
  refine m_of hl (plainFor_of_name (by decide)) (by rw [lg_sl1 (va_rf_cat _), lg_sl1 rfl]; exact Nat.le_of_ble_eq_true rfl) ?_
  intro p e s m args below meth c C hr hin hT hmc hw
  rw [lv_args1 (va_rf_cat _), lv_args1 rfl]
  intro H locs ls hS hl
  exact kJ10_indexOfb0 C hr hin hT hmc hw H locs ls hS (lv_sub hl [0, 1] rfl)
theorem hdJ10_indexOf : yJ10_indexOf.cls ≠ "java/lang/invoke/MethodHandle" ∧ yJ10_indexOf.cls ≠ "java/lang/invoke/VarHandle" ∧ (parseMethodDescriptor yJ10_indexOf.desc).map (fun d => d.parameters.length) = some 1 := ⟨by decide +kernel, by decide +kernel, by decide +kernel⟩
abbrev rmJ35_fill (mc ms : Nat) : Room := { frames := 10, cells := mc, slots := ms, locals := 160 }
def wJ35_fillb0 (G : gE) (P : hSt → Prop) (PX : Nat → Nat → hSt → Prop)  (v0 : Option Nat) (v1 : Int32) (v2 : Int32) (z : hSt) : Prop :=
  aln z v0 (fun x1 => False)
def wJ35_fill (G : gE) (P : hSt → Prop) (PX : Nat → Nat → hSt → Prop) (v0 : Option Nat) (v1 : Int32) (v2 : Int32) (v3 : Int32) (z : hSt) : Prop := wJ35_fillb0 G P PX v0 v1 v2 z
section
variable {p : Program} {l : Launch} {e : Env} {s : State} {m : MethodId} {args : Array Value} {below : List Frame} {meth : Method} {c : Code} {G : gE} {mc ms : Nat} {P : hSt → Prop} {PX : Nat → Nat → hSt → Prop}
theorem kJ35_fillb0 (C : xC G p l s m args meth c cJ35_fill 5 "java/util/Arrays") (hr : meth.sig.returnType = (Option.none : Option Jvm.ClassFile.FieldType)) (hin : meth.name = "fill") (hT : ∀ x ∈ c.exceptionTable.toList, False) (hmc : mc = gL G - s.heap.size ∧ ms = gU G - hsum s.heap)   {v0 : Option Nat} {v1 : Int32} {v2 : Int32} {z : hSt} (hw : wJ35_fillb0 G P PX  v0 v1 v2 z) : kt G p l e (rmJ35_fill mc ms) s m args below meth c 5 (vx_MQ below (cQ G (pV P)) (cX G PX) args s mc ms (gF G)) 0 [(0, va_rf v0), (1, .int v1), (2, .int v2)] [] z := by
  intro H locs ls hS hl
  refine r_aload_n C.1 C.2.1 dJ35_fill_0 rfl (lv_at hl 0 rfl) ?_
  refine r_alen C hS dJ35_fill_1 hw (fun x1 hw => ?_)
  refine lv_iload_n C.1 C.2.1 dJ35_fill_2 rfl (lv_at hl 1 rfl) ?_
  refine lv_iload_n C.1 C.2.1 dJ35_fill_3 rfl (lv_at hl 2 rfl) ?_
  exact hw.elim
end
theorem kJ35_fill {l : Launch} (hl : l.stackTraces = false) {G : gE} {P : hSt → Prop} {PX : Nat → Nat → hSt → Prop} {v0 : Option Nat} {v1 : Int32} {v2 : Int32} {v3 : Int32} {z : hSt} : cM l G yJ35_fill (ws_ yJ35_fill cJ35_fill 5 (Option.none : Option Jvm.ClassFile.FieldType)) 10 160 z [va_rf v0, .int v1, .int v2, .int v3] (wJ35_fill G P PX v0 v1 v2 v3 z) (pV P) PX := by
  refine m_of hl (plainFor_of_name (by decide)) (by rw [lg_sl1 (va_rf_cat _), lg_sl1 rfl, lg_sl1 rfl, lg_sl1 rfl]; exact Nat.le_of_ble_eq_true rfl) ?_
  intro p e s m args below meth c C hr hin hT hmc hw
  rw [lv_args1 (va_rf_cat _), lv_args1 rfl, lv_args1 rfl, lv_args1 rfl]
  intro H locs ls hS hl
  exact kJ35_fillb0 C hr hin hT hmc hw H locs ls hS (lv_sub hl [0, 1, 2] rfl)
theorem hdJ35_fill : yJ35_fill.cls ≠ "java/lang/invoke/MethodHandle" ∧ yJ35_fill.cls ≠ "java/lang/invoke/VarHandle" ∧ (parseMethodDescriptor yJ35_fill.desc).map (fun d => d.parameters.length) = some 4 := ⟨by decide +kernel, by decide +kernel, by decide +kernel⟩
abbrev rmJ32_fillNull (mc ms : Nat) : Room := { frames := 11, cells := mc, slots := ms, locals := 184 }
def wJ32_fillNullb0 (G : gE) (P : hSt → Prop) (PX : Nat → Nat → hSt → Prop)  (v0 : Option Nat) (v1 : Int32) (v2 : Int32) (z : hSt) : Prop :=
  wJ35_fill G (fun z1 => P z1) PX v0 v1 v2 0 z
def wJ32_fillNull (G : gE) (P : hSt → Prop) (PX : Nat → Nat → hSt → Prop) (v0 : Option Nat) (v1 : Int32) (v2 : Int32) (z : hSt) : Prop := wJ32_fillNullb0 G P PX v0 v1 v2 z
section
variable {p : Program} {l : Launch} {e : Env} {s : State} {m : MethodId} {args : Array Value} {below : List Frame} {meth : Method} {c : Code} {G : gE} {mc ms : Nat} {P : hSt → Prop} {PX : Nat → Nat → hSt → Prop}
theorem kJ32_fillNullb0 (C : xC G p l s m args meth c cJ32_fillNull 3 "java/lang/StringLatin1") (hr : meth.sig.returnType = (Option.none : Option Jvm.ClassFile.FieldType)) (hin : meth.name = "fillNull") (hT : ∀ x ∈ c.exceptionTable.toList, False) (hmc : mc = gL G - s.heap.size ∧ ms = gU G - hsum s.heap)   {v0 : Option Nat} {v1 : Int32} {v2 : Int32} {z : hSt} (hw : wJ32_fillNullb0 G P PX  v0 v1 v2 z) : kt G p l e (rmJ32_fillNull mc ms) s m args below meth c 3 (vx_MQ below (cQ G (pV P)) (cX G PX) args s mc ms (gF G)) 0 [(0, va_rf v0), (1, .int v1), (2, .int v2)] [] z := by
  intro H locs ls hS hl
  refine r_aload_n C.1 C.2.1 dJ32_fillNull_0 rfl (lv_at hl 0 rfl) ?_
  refine lv_iload_n C.1 C.2.1 dJ32_fillNull_1 rfl (lv_at hl 1 rfl) ?_
  refine lv_iload_n C.1 C.2.1 dJ32_fillNull_2 rfl (lv_at hl 2 rfl) ?_
  refine lv_iconst C.1 C.2.1 (v := 0) dJ32_fillNull_3 rfl ?_
  refine c_S C hS hmc hl.1 (kJ35_fill C.2.2.2.2.2.2.1) hw (lw_S q2903 q2904 q110 q2905) hdJ35_fill ⟨Nat.le_of_ble_eq_true rfl, Nat.le_of_ble_eq_true rfl⟩ (rest := []) rfl rfl (Nat.le_of_ble_eq_true rfl) dJ32_fillNull_4 (fun ci q z H locs hx hS ht => r_out C hS hmc (fun x hx => (hT x hx).elim) ht hx) (fun v z1 H locs hv hS => ?_)
  obtain ⟨rfl, hw⟩ := hv
  exact r_vret C hS hmc hr dJ32_fillNull_7 hw
end
theorem kJ32_fillNull {l : Launch} (hl : l.stackTraces = false) {G : gE} {P : hSt → Prop} {PX : Nat → Nat → hSt → Prop} {v0 : Option Nat} {v1 : Int32} {v2 : Int32} {z : hSt} : cM l G yJ32_fillNull (ws_ yJ32_fillNull cJ32_fillNull 3 (Option.none : Option Jvm.ClassFile.FieldType)) 11 184 z [va_rf v0, .int v1, .int v2] (wJ32_fillNull G P PX v0 v1 v2 z) (pV P) PX := by
  refine m_of hl (plainFor_of_name (by decide)) (by rw [lg_sl1 (va_rf_cat _), lg_sl1 rfl, lg_sl1 rfl]; exact Nat.le_of_ble_eq_true rfl) ?_
  intro p e s m args below meth c C hr hin hT hmc hw
  rw [lv_args1 (va_rf_cat _), lv_args1 rfl, lv_args1 rfl]
  intro H locs ls hS hl
  exact kJ32_fillNullb0 C hr hin hT hmc hw H locs ls hS (lv_sub hl [0, 1, 2] rfl)
theorem hdJ32_fillNull : yJ32_fillNull.cls ≠ "java/lang/invoke/MethodHandle" ∧ yJ32_fillNull.cls ≠ "java/lang/invoke/VarHandle" ∧ (parseMethodDescriptor yJ32_fillNull.desc).map (fun d => d.parameters.length) = some 3 := ⟨by decide +kernel, by decide +kernel, by decide +kernel⟩
abbrev rmJ8_setLength (mc ms : Nat) : Room := { frames := 13, cells := mc, slots := ms, locals := 230 }
def wJ8_setLengthb76 (G : gE) (P : hSt → Prop) (PX : Nat → Nat → hSt → Prop)  (v0 : Option Nat) (v1 : Int32) (z : hSt) : Prop :=
  ptV G z v0 [16] 3 (.int v1) (fun z12 => P z12)
def wJ8_setLengthb0 (G : gE) (P : hSt → Prop) (PX : Nat → Nat → hSt → Prop)  (v0 : Option Nat) (v1 : Int32) (z : hSt) : Prop :=
  ((0 ≤ v1 → (rcv z v0 16 ∧ wJ8_ensureCapacityInternal G (fun z1 => gtI z1 v0 [16] 3 (fun x2 => ((v1 ≤ x2 → gtI z1 v0 [16] 3 (fun x3 => ((x3 ≤ v1 → wJ8_setLengthb76 G P PX  v0 v1 z1) ∧ (¬ x3 ≤ v1 → (okN .boolean 1 ∧ ptV G z1 v0 [16] 2 (.int 1) (fun z4 => wJ8_setLengthb76 G P PX  v0 v1 z4)))))) ∧ (¬ v1 ≤ x2 → (rcv z1 v0 16 ∧ wJ8_isLatin1 G (fun x6 z5 => ((x6 = 0 → gtR z5 v0 [16] 0 (fun x7 => gtI z5 v0 [16] 3 (fun x8 => False))) ∧ (¬ x6 = 0 → gtR z5 v0 [16] 0 (fun x9 => gtI z5 v0 [16] 3 (fun x10 => wJ32_fillNull G (fun z11 => wJ8_setLengthb76 G P PX  v0 v1 z11) PX x9 x10 v1 z5))))) PX v0  z1))))) PX v0 v1 z)) ∧ (¬ 0 ≤ v1 → False))
def wJ8_setLength (G : gE) (P : hSt → Prop) (PX : Nat → Nat → hSt → Prop) (v0 : Option Nat) (v1 : Int32) (z : hSt) : Prop := wJ8_setLengthb0 G P PX v0 v1 z
section
variable {p : Program} {l : Launch} {e : Env} {s : State} {m : MethodId} {args : Array Value} {below : List Frame} {meth : Method} {c : Code} {G : gE} {mc ms : Nat} {P : hSt → Prop} {PX : Nat → Nat → hSt → Prop}
theorem kJ8_setLengthb76 (C : xC G p l s m args meth c cJ8_setLength 2 "java/lang/AbstractStringBuilder") (hr : meth.sig.returnType = (Option.none : Option Jvm.ClassFile.FieldType)) (hin : meth.name = "setLength") (hT : ∀ x ∈ c.exceptionTable.toList, False) (hmc : mc = gL G - s.heap.size ∧ ms = gU G - hsum s.heap)   {v0 : Option Nat} {v1 : Int32} {z : hSt} (hw : wJ8_setLengthb76 G P PX  v0 v1 z) : kt G p l e (rmJ8_setLength mc ms) s m args below meth c 2 (vx_MQ below (cQ G (pV P)) (cX G PX) args s mc ms (gF G)) 76 [(0, va_rf v0), (1, .int v1)] [] z := by
  intro H locs ls hS hl
  refine r_aload_n C.1 C.2.1 dJ8_setLength_76 rfl (lv_at hl 0 rfl) ?_
  refine lv_iload_n C.1 C.2.1 dJ8_setLength_77 rfl (lv_at hl 1 rfl) ?_
  refine r_put C hS fo_16_3 (fl_d C q377) (fun _ h => h) rfl rfl dJ8_setLength_78 hw (fun z12 H locs hw hS => ?_)
  exact r_vret C hS hmc hr dJ8_setLength_81 hw
theorem kJ8_setLengthb0 (C : xC G p l s m args meth c cJ8_setLength 2 "java/lang/AbstractStringBuilder") (hr : meth.sig.returnType = (Option.none : Option Jvm.ClassFile.FieldType)) (hin : meth.name = "setLength") (hT : ∀ x ∈ c.exceptionTable.toList, False) (hmc : mc = gL G - s.heap.size ∧ ms = gU G - hsum s.heap)   {v0 : Option Nat} {v1 : Int32} {z : hSt} (hw : wJ8_setLengthb0 G P PX  v0 v1 z) : kt G p l e (rmJ8_setLength mc ms) s m args below meth c 2 (vx_MQ below (cQ G (pV P)) (cX G PX) args s mc ms (gF G)) 0 [(0, va_rf v0), (1, .int v1)] [] z := by
  intro H locs ls hS hl
  refine lv_iload_n C.1 C.2.1 dJ8_setLength_0 rfl (lv_at hl 1 rfl) ?_
  refine lv_if_ge C.1 C.2.1 dJ8_setLength_1 rfl (fun h => ?_) (fun h => ?_)
  · have hw := hw.1 h
    refine r_aload_n C.1 C.2.1 dJ8_setLength_13 rfl (lv_at hl 0 rfl) ?_
    refine lv_iload_n C.1 C.2.1 dJ8_setLength_14 rfl (lv_at hl 1 rfl) ?_
    refine c_U C hS hmc hl.1 (ci := 16) rfl hw.1 (kJ8_ensureCapacityInternal C.2.2.2.2.2.2.1) hw.2 q1020 q3522 (decl_c C q1022 q1023) (sel_p C q1021 q3522 q1022 q1058 rfl) q1022 q79 q1023 ⟨by decide, by decide⟩ hdJ8_ensureCapacityInternal.2.2 ⟨Nat.le_of_ble_eq_true rfl, Nat.le_of_ble_eq_true rfl⟩ (rest := []) rfl rfl (Nat.le_of_ble_eq_true rfl) dJ8_setLength_15 (fun ci q z H locs hx hS ht => r_out C hS hmc (fun x hx => (hT x hx).elim) ht hx) (fun v z1 H locs hv hS => ?_)
    obtain ⟨rfl, hw⟩ := hv
    refine r_aload_n C.1 C.2.1 dJ8_setLength_18 rfl (lv_at hl 0 rfl) ?_
    refine r_getI C hS fo_16_3 (fl_d C q377) (fun _ h => h) dJ8_setLength_19 hw (fun x2 hw => ?_)
    refine lv_iload_n C.1 C.2.1 dJ8_setLength_22 rfl (lv_at hl 1 rfl) ?_
    refine lv_icmp_ge C.1 C.2.1 dJ8_setLength_23 rfl (fun h => ?_) (fun h => ?_)
    · have hw := hw.1 h
      refine r_aload_n C.1 C.2.1 dJ8_setLength_63 rfl (lv_at hl 0 rfl) ?_
      refine r_getI C hS fo_16_3 (fl_d C q377) (fun _ h => h) dJ8_setLength_64 hw (fun x3 hw => ?_)
      refine lv_iload_n C.1 C.2.1 dJ8_setLength_67 rfl (lv_at hl 1 rfl) ?_
      refine lv_icmp_le C.1 C.2.1 dJ8_setLength_68 rfl (fun h => ?_) (fun h => ?_)
      · have hw := hw.1 h
        exact kJ8_setLengthb76 C hr hin hT hmc  hw H locs ls hS (lv_sub hl [0, 1] rfl)
      · have hw := hw.2 h
        refine r_aload_n C.1 C.2.1 dJ8_setLength_71 rfl (lv_at hl 0 rfl) ?_
        refine lv_iconst C.1 C.2.1 (v := 1) dJ8_setLength_72 rfl ?_
        refine r_put C hS fo_16_2 (fl_d C q375) (fun _ h => h) hw.1.1 hw.1.2 dJ8_setLength_73 hw.2 (fun z4 H locs hw hS => ?_)
        exact kJ8_setLengthb76 C hr hin hT hmc  hw H locs ls hS (lv_sub hl [0, 1] rfl)
    · have hw := hw.2 h
      refine r_aload_n C.1 C.2.1 dJ8_setLength_26 rfl (lv_at hl 0 rfl) ?_
      refine c_U C hS hmc hl.1 (ci := 16) rfl hw.1 (kJ8_isLatin1 C.2.2.2.2.2.2.1) hw.2 q1055 q1057 (decl_c C q1056 q1059) (C.2.2.2.2.1 _ q1058) q1056 q79 q1059 ⟨by decide, by decide⟩ hdJ8_isLatin1.2.2 ⟨Nat.le_of_ble_eq_true rfl, Nat.le_of_ble_eq_true rfl⟩ (rest := []) rfl rfl (Nat.le_of_ble_eq_true rfl) dJ8_setLength_27 (fun ci q z H locs hx hS ht => r_out C hS hmc (fun x hx => (hT x hx).elim) ht hx) (fun v z5 H locs hv hS => ?_)
      obtain ⟨x6, rfl, hw⟩ := hv
      refine lv_if_eq C.1 C.2.1 dJ8_setLength_30 rfl (fun h => ?_) (fun h => ?_)
      · have hw := hw.1 h
        refine r_aload_n C.1 C.2.1 dJ8_setLength_48 rfl (lv_at hl 0 rfl) ?_
        refine r_getR C hS fo_16_0 (fl_d C q373) (fun _ h => h) dJ8_setLength_49 hw (fun x7 hw => ?_)
        refine r_aload_n C.1 C.2.1 dJ8_setLength_52 rfl (lv_at hl 0 rfl) ?_
        refine r_getI C hS fo_16_3 (fl_d C q377) (fun _ h => h) dJ8_setLength_53 hw (fun x8 hw => ?_)
        refine lv_iload_n C.1 C.2.1 dJ8_setLength_56 rfl (lv_at hl 1 rfl) ?_
        exact hw.elim
      · have hw := hw.2 h
        refine r_aload_n C.1 C.2.1 dJ8_setLength_33 rfl (lv_at hl 0 rfl) ?_
        refine r_getR C hS fo_16_0 (fl_d C q373) (fun _ h => h) dJ8_setLength_34 hw (fun x9 hw => ?_)
        refine r_aload_n C.1 C.2.1 dJ8_setLength_37 rfl (lv_at hl 0 rfl) ?_
        refine r_getI C hS fo_16_3 (fl_d C q377) (fun _ h => h) dJ8_setLength_38 hw (fun x10 hw => ?_)
        refine lv_iload_n C.1 C.2.1 dJ8_setLength_41 rfl (lv_at hl 1 rfl) ?_
        refine c_S C hS hmc hl.1 (kJ32_fillNull C.2.2.2.2.2.2.1) hw (lw_S q2900 q2901 q107 q2902) hdJ32_fillNull ⟨Nat.le_of_ble_eq_true rfl, Nat.le_of_ble_eq_true rfl⟩ (rest := []) rfl rfl (Nat.le_of_ble_eq_true rfl) dJ8_setLength_42 (fun ci q z H locs hx hS ht => r_out C hS hmc (fun x hx => (hT x hx).elim) ht hx) (fun v z11 H locs hv hS => ?_)
        obtain ⟨rfl, hw⟩ := hv
        refine lv_goto C.1 C.2.1 dJ8_setLength_45 rfl ?_
        exact kJ8_setLengthb76 C hr hin hT hmc  hw H locs ls hS (lv_sub hl [0, 1] rfl)
  · have hw := hw.2 h
    exact hw.elim
end
theorem kJ8_setLength {l : Launch} (hl : l.stackTraces = false) {G : gE} {P : hSt → Prop} {PX : Nat → Nat → hSt → Prop} {v0 : Option Nat} {v1 : Int32} {z : hSt} : cM l G yJ8_setLength (ws_ yJ8_setLength cJ8_setLength 2 (Option.none : Option Jvm.ClassFile.FieldType)) 13 230 z [va_rf v0, .int v1] (wJ8_setLength G P PX v0 v1 z) (pV P) PX := by
  refine m_of hl (plainFor_of_name (by decide)) (by rw [lg_sl1 (va_rf_cat _), lg_sl1 rfl]; exact Nat.le_of_ble_eq_true rfl) ?_
  intro p e s m args below meth c C hr hin hT hmc hw
  rw [lv_args1 (va_rf_cat _), lv_args1 rfl]
  intro H locs ls hS hl
  exact kJ8_setLengthb0 C hr hin hT hmc hw H locs ls hS (lv_sub hl [0, 1] rfl)
theorem hdJ8_setLength : yJ8_setLength.cls ≠ "java/lang/invoke/MethodHandle" ∧ yJ8_setLength.cls ≠ "java/lang/invoke/VarHandle" ∧ (parseMethodDescriptor yJ8_setLength.desc).map (fun d => d.parameters.length) = some 1 := ⟨by decide +kernel, by decide +kernel, by decide +kernel⟩
abbrev rmJ9_setLength (mc ms : Nat) : Room := { frames := 14, cells := mc, slots := ms, locals := 251 }
def wJ9_setLengthb0 (G : gE) (P : hSt → Prop) (PX : Nat → Nat → hSt → Prop)  (v0 : Option Nat) (v1 : Int32) (z : hSt) : Prop :=
  (rcv z v0 16 ∧ wJ8_setLength G (fun z1 => P z1) PX v0 v1 z)
def wJ9_setLength (G : gE) (P : hSt → Prop) (PX : Nat → Nat → hSt → Prop) (v0 : Option Nat) (v1 : Int32) (z : hSt) : Prop := wJ9_setLengthb0 G P PX v0 v1 z
section
variable {p : Program} {l : Launch} {e : Env} {s : State} {m : MethodId} {args : Array Value} {below : List Frame} {meth : Method} {c : Code} {G : gE} {mc ms : Nat} {P : hSt → Prop} {PX : Nat → Nat → hSt → Prop}
theorem kJ9_setLengthb0 (C : xC G p l s m args meth c cJ9_setLength 2 "java/lang/StringBuilder") (hr : meth.sig.returnType = (Option.none : Option Jvm.ClassFile.FieldType)) (hin : meth.name = "setLength") (hT : ∀ x ∈ c.exceptionTable.toList, False) (hmc : mc = gL G - s.heap.size ∧ ms = gU G - hsum s.heap)   {v0 : Option Nat} {v1 : Int32} {z : hSt} (hw : wJ9_setLengthb0 G P PX  v0 v1 z) : kt G p l e (rmJ9_setLength mc ms) s m args below meth c 2 (vx_MQ below (cQ G (pV P)) (cX G PX) args s mc ms (gF G)) 0 [(0, va_rf v0), (1, .int v1)] [] z := by
  intro H locs ls hS hl
  refine r_aload_n C.1 C.2.1 dJ9_setLength_0 rfl (lv_at hl 0 rfl) ?_
  refine lv_iload_n C.1 C.2.1 dJ9_setLength_1 rfl (lv_at hl 1 rfl) ?_
  refine c_SU C hS hmc hl.1 (ci := 16) rfl hw.1 (kJ8_setLength C.2.2.2.2.2.2.1) hw.2 (lw_SU q2878 q3547 q386 q2879 q79 q2880) ⟨by decide, hdJ8_setLength.2.2⟩ ⟨Nat.le_of_ble_eq_true rfl, Nat.le_of_ble_eq_true rfl⟩ (rest := []) rfl rfl (Nat.le_of_ble_eq_true rfl) dJ9_setLength_2 (fun ci q z H locs hx hS ht => r_out C hS hmc (fun x hx => (hT x hx).elim) ht hx) (fun v z1 H locs hv hS => ?_)
  obtain ⟨rfl, hw⟩ := hv
  exact r_vret C hS hmc hr dJ9_setLength_5 hw
end
theorem kJ9_setLength {l : Launch} (hl : l.stackTraces = false) {G : gE} {P : hSt → Prop} {PX : Nat → Nat → hSt → Prop} {v0 : Option Nat} {v1 : Int32} {z : hSt} : cM l G yJ9_setLength (ws_ yJ9_setLength cJ9_setLength 2 (Option.none : Option Jvm.ClassFile.FieldType)) 14 251 z [va_rf v0, .int v1] (wJ9_setLength G P PX v0 v1 z) (pV P) PX := by
  refine m_of hl (plainFor_of_name (by decide)) (by rw [lg_sl1 (va_rf_cat _), lg_sl1 rfl]; exact Nat.le_of_ble_eq_true rfl) ?_
  intro p e s m args below meth c C hr hin hT hmc hw
  rw [lv_args1 (va_rf_cat _), lv_args1 rfl]
  intro H locs ls hS hl
  exact kJ9_setLengthb0 C hr hin hT hmc hw H locs ls hS (lv_sub hl [0, 1] rfl)
theorem hdJ9_setLength : yJ9_setLength.cls ≠ "java/lang/invoke/MethodHandle" ∧ yJ9_setLength.cls ≠ "java/lang/invoke/VarHandle" ∧ (parseMethodDescriptor yJ9_setLength.desc).map (fun d => d.parameters.length) = some 1 := ⟨by decide +kernel, by decide +kernel, by decide +kernel⟩
